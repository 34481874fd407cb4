/-! KZ: the component: the tokens, a text are laid on -/
set_option maxRecDepth 100000
section
variable {o : Nat} {h h' h2 : ix_H} {F A F' A' F2 A2 : Nat → Nat → Int32} {k c N : Nat}
/-- a word in its place -/
theorem v_wd {w j q : Nat} (tw : ix_tg h w = 114) (lw : ix_ln h w = 18) (tq : ix_tg h (ix_cs h q) = 531) (hj : j < 18) (f : ix_H → ix_O) : ((ix_at (hw h F A) 114 (some w) (nI j)).bind fun a3 => cond (ix_of (hw h F A) [531] (some (ix_cs (hw h F A) q))) (ix_bd (ix_waR (hw h F A) a3 (nI j).toNatClampNeg (some (ix_cs (hw h F A) q))) f) none) = f (hw (ix_waR h w j (some (ix_cs h q))) F A) := by
  have e : ix_of (hw h F A) [531] (some (ix_cs (hw h F A) q)) = true := by
    show ([531] : List Nat).any (fun t => Nat.beq (ix_tg h (ix_cs h q)) t) = true
    rw [tq]
    rfl
  rw [c_at tw lw, hw_in hj (by omega), cond_true, e, cond_true, hw_cl (by omega)]
  rfl
theorem v_aw (h : ix_H) (w j i : Nat) (v : Option Nat) : ix_aR (ix_waR h w j v) w i = if i = j then v else ix_aR h w i := by
  show (if w = w ∧ i = j then v else ix_aR h w i) = _
  by_cases e : i = j
  · rw [if_pos ⟨rfl, e⟩, if_pos e]
  · rw [if_neg (fun q => e q.2), if_neg e]
theorem gV.wa {s : Nat} (g : gV o h F A h' F' A' k c) (hs : ix_sz h ≤ s) (j : Nat) (v : Option Nat) : gV o h F A (ix_waR h' s j v) F' A' k c := by
  obtain ⟨a1, a2, a3, a4⟩ := g
  refine ⟨a1, a2, a3, fun b hb => ?_⟩
  obtain ⟨c1, c2, c3, c4, c5, c6, c7⟩ := a4 b hb
  refine ⟨c1, c2, c3, c4, ?_, c6, c7⟩
  rw [← c5]
  funext i
  exact s_aRa' _ _ _ _ (fun q => by omega)
/-- the eighteen words -/
def vW (h : ix_H) (w : Nat) : Nat → ix_H
  | 0 => h
  | n + 1 => ix_waR (vW h w n) w n (some (ix_cs h (k_kw n)))
theorem vW_tg (h : ix_H) (w : Nat) : ∀ n, ix_tg (vW h w n) = ix_tg h
  | 0 => rfl
  | n + 1 => vW_tg h w n
theorem vW_ln (h : ix_H) (w : Nat) : ∀ n, ix_ln (vW h w n) = ix_ln h
  | 0 => rfl
  | n + 1 => vW_ln h w n
theorem vW_cs (h : ix_H) (w : Nat) : ∀ n, ix_cs (vW h w n) = ix_cs h
  | 0 => rfl
  | n + 1 => vW_cs h w n
theorem vW_sz (h : ix_H) (w : Nat) : ∀ n, ix_sz (vW h w n) = ix_sz h
  | 0 => rfl
  | n + 1 => vW_sz h w n
theorem vW_aR (h : ix_H) (w : Nat) : ∀ n i, i < n → ix_aR (vW h w n) w i = some (ix_cs h (k_kw i))
  | 0, i, hi => absurd hi (Nat.not_lt_zero i)
  | n + 1, i, hi => by
    show ix_aR (ix_waR (vW h w n) w n (some (ix_cs h (k_kw n)))) w i = _
    rw [v_aw]
    by_cases e : i = n
    · rw [if_pos e, e]
    · rw [if_neg e, vW_aR h w n i (by omega)]
theorem vW_g {s : Nat} (g : gV o h F A h' F' A' k c) (hs : ix_sz h ≤ s) : ∀ n, gV o h F A (vW h' s n) F' A' k c
  | 0 => g
  | n + 1 => (vW_g g hs n).wa hs _ _
theorem v_wdS {w n q : Nat} (hq : q = k_kw n) (tw : ix_tg h w = 114) (lw : ix_ln h w = 18) (tq : ∀ i, i < 18 → ix_tg h (ix_cs h (k_kw i)) = 531) (hj : n < 18) (f : ix_H → ix_O) : ((ix_at (hw (vW h w n) F A) 114 (some w) (nI n)).bind fun a3 => cond (ix_of (hw (vW h w n) F A) [531] (some (ix_cs (hw (vW h w n) F A) q))) (ix_bd (ix_waR (hw (vW h w n) F A) a3 (nI n).toNatClampNeg (some (ix_cs (hw (vW h w n) F A) q))) f) none) = f (hw (vW h w (n + 1)) F A) := by
  subst hq
  rw [v_wd (by rw [vW_tg]; exact tw) (by rw [vW_ln]; exact lw) (by rw [vW_tg, vW_cs]; exact tq n hj) hj, vW_cs]
  rfl
/-- an array behind, in field j of the tokens -/
theorem v_tokI {s : Nat} (ht : ix_tg h s = 3) (hs : s < ix_sz h) (hl : ∀ i, i < 18 → ix_tg h (ix_cs h (k_kw i)) = 531 ∧ ix_cs h (k_kw i) < ix_sz h) (N d : Nat) :
    ∃ h' A', ix_run iy_P N (d + 1) 138 [ix_R (some s)] (hw h F A) = some (.inl none, hw h' F A') ∧ gV s h F A h' F A' 6 10022 ∧ (ix_fR h' s 0 = some (ix_sz h) ∧ ix_fR h' s 1 = some (ix_sz h + 1) ∧ ix_fR h' s 3 = some (ix_sz h + 2) ∧ ix_fR h' s 4 = some (ix_sz h + 3) ∧ ix_fR h' s 5 = some (ix_sz h + 4) ∧ ix_fR h' s 6 = some (ix_sz h + 5)) ∧ (ix_tg h' (ix_sz h) = 114 ∧ ix_ln h' (ix_sz h) = 18 ∧ ∀ i, i < 18 → ix_aR h' (ix_sz h) i = some (ix_cs h (k_kw i))) ∧ (ix_tg h' (ix_sz h + 1) = 102 ∧ ix_ln h' (ix_sz h + 1) = 2000) ∧ (ix_tg h' (ix_sz h + 2) = 102 ∧ ix_ln h' (ix_sz h + 2) = 2001) ∧ (ix_tg h' (ix_sz h + 3) = 103 ∧ ix_ln h' (ix_sz h + 3) = 2001) ∧ (ix_tg h' (ix_sz h + 4) = 103 ∧ ix_ln h' (ix_sz h + 4) = 2001) ∧ (ix_tg h' (ix_sz h + 5) = 103 ∧ ix_ln h' (ix_sz h + 5) = 2001) := by
  rw [rX2_init N d]
  unfold bX2_init
  rw [hw_in (by omega) (by omega), cond_true, hw_bA, hw_cl (by omega), hw_sz]
  have tw : ix_tg (ix_nwA h 114 18) (ix_sz h) = 114 := s_tgA h 114 18
  have lw : ix_ln (ix_nwA h 114 18) (ix_sz h) = 18 := s_lnA h 114 18
  have tq : ∀ i, i < 18 → ix_tg (ix_nwA h 114 18) (ix_cs (ix_nwA h 114 18) (k_kw i)) = 531 := fun i hi => (s_tgA' h 114 18 (Nat.ne_of_lt (hl i hi).2)).trans (hl i hi).1
  have g0 : gV s h F A (ix_nwA h 114 18) F (hw_R A (ix_sz h) (fun _ => 0)) 1 18 := by
    refine ⟨rfl, rfl, rfl, fun b hb => ?_⟩
    have ne : b ≠ ix_sz h := by omega
    refine ⟨if_neg ne, if_neg ne, rfl, ?_, ?_, hw_R_ne _ _ ne, fun _ => ⟨rfl, rfl⟩⟩
    · funext i
      exact if_neg ne
    · funext i
      exact if_neg ne
  have c0 : ix_cs (ix_nwA h 114 18) = ix_cs h := rfl
  generalize ix_nwA h 114 18 = h0 at tw lw tq g0 c0 ⊢
  rw [show hw h0 F (hw_R A (ix_sz h) fun _ => 0) = hw (vW h0 (ix_sz h) 0) F (hw_R A (ix_sz h) fun _ => 0) from rfl]
  rw [v_wdS (n := 0) (q := 4) (by decide) tw lw tq (by decide), v_wdS (n := 1) (q := 5) (by decide) tw lw tq (by decide), v_wdS (n := 2) (q := 6) (by decide) tw lw tq (by decide), v_wdS (n := 3) (q := 1) (by decide) tw lw tq (by decide), v_wdS (n := 4) (q := 2) (by decide) tw lw tq (by decide), v_wdS (n := 5) (q := 3) (by decide) tw lw tq (by decide), v_wdS (n := 6) (q := 7) (by decide) tw lw tq (by decide), v_wdS (n := 7) (q := 8) (by decide) tw lw tq (by decide), v_wdS (n := 8) (q := 9) (by decide) tw lw tq (by decide), v_wdS (n := 9) (q := 10) (by decide) tw lw tq (by decide), v_wdS (n := 10) (q := 11) (by decide) tw lw tq (by decide), v_wdS (n := 11) (q := 12) (by decide) tw lw tq (by decide), v_wdS (n := 12) (q := 13) (by decide) tw lw tq (by decide), v_wdS (n := 13) (q := 14) (by decide) tw lw tq (by decide), v_wdS (n := 14) (q := 15) (by decide) tw lw tq (by decide), v_wdS (n := 15) (q := 16) (by decide) tw lw tq (by decide), v_wdS (n := 16) (q := 17) (by decide) tw lw tq (by decide), v_wdS (n := 17) (q := 18) (by decide) tw lw tq (by decide)]
  have g1 := (vW_g g0 (Nat.le_refl (ix_sz h)) 18).wf 0 (some (ix_sz h))
  have tw1 : ix_tg (vW h0 (ix_sz h) 18) (ix_sz h) = 114 := by rw [vW_tg]; exact tw
  have lw1 : ix_ln (vW h0 (ix_sz h) 18) (ix_sz h) = 18 := by rw [vW_ln]; exact lw
  have aw1 : ∀ i, i < 18 → ix_aR (vW h0 (ix_sz h) 18) (ix_sz h) i = some (ix_cs h (k_kw i)) := fun i hi => by rw [vW_aR h0 (ix_sz h) 18 i hi, c0]
  have ts : ix_tg (vW h0 (ix_sz h) 18) s = 3 := by rw [vW_tg]; exact (g0.2.2.2 s hs).1.trans ht
  generalize vW h0 (ix_sz h) 18 = h1 at g1 tw1 lw1 aw1 ts ⊢
  rw [c_is ts, hw_bfR]
  have f1 : ix_fR (ix_wfR h1 s 0 (some (ix_sz h))) s 0 = some (ix_sz h) := s_fRf _ _ _ _
  have tw2 : ix_tg (ix_wfR h1 s 0 (some (ix_sz h))) (ix_sz h) = 114 := tw1
  have lw2 : ix_ln (ix_wfR h1 s 0 (some (ix_sz h))) (ix_sz h) = 18 := lw1
  have aw2 : ∀ i, i < 18 → ix_aR (ix_wfR h1 s 0 (some (ix_sz h))) (ix_sz h) i = some (ix_cs h (k_kw i)) := aw1
  have ts2 : ix_tg (ix_wfR h1 s 0 (some (ix_sz h))) s = 3 := ts
  generalize ix_wfR h1 s 0 (some (ix_sz h)) = h2 at g1 f1 tw2 lw2 aw2 ts2 ⊢
  generalize hw_R A (ix_sz h) (fun _ => 0) = A2 at g1 ⊢
  have s2 : ix_sz h2 = ix_sz h + 1 := g1.1
  have sl2 : s < ix_sz h2 := by rw [s2]; exact Nat.lt_succ_of_lt hs
  -- the tape
  rw [v_arrS ts2 sl2 (by omega)]
  obtain ⟨g3, f3, k3, t3, l3, -⟩ := v_arr (F := F) (A := A2) sl2 102 2000 1
  generalize vA h2 s 102 2000 1 = h3 at g3 f3 k3 t3 l3 ⊢
  generalize hw_R A2 (ix_sz h2) (fun _ => 0) = A3 at g3 ⊢
  have s3 : ix_sz h3 = ix_sz h2 + 1 := g3.1
  have sl3 : s < ix_sz h3 := by rw [s3]; exact Nat.lt_succ_of_lt sl2
  have ts3 : ix_tg h3 s = 3 := (g3.2.2.2 s sl2).1.trans ts2
  rw [v_arrS ts3 sl3 (by omega)]
  obtain ⟨g4, f4, k4, t4, l4, -⟩ := v_arr (F := F) (A := A3) sl3 102 2001 3
  generalize vA h3 s 102 2001 3 = h4 at g4 f4 k4 t4 l4 ⊢
  generalize hw_R A3 (ix_sz h3) (fun _ => 0) = A4 at g4 ⊢
  have s4 : ix_sz h4 = ix_sz h3 + 1 := g4.1
  have sl4 : s < ix_sz h4 := by rw [s4]; exact Nat.lt_succ_of_lt sl3
  have ts4 : ix_tg h4 s = 3 := (g4.2.2.2 s sl3).1.trans ts3
  rw [v_arrS ts4 sl4 (by omega)]
  obtain ⟨g5, f5, k5, t5, l5, -⟩ := v_arr (F := F) (A := A4) sl4 103 2001 4
  generalize vA h4 s 103 2001 4 = h5 at g5 f5 k5 t5 l5 ⊢
  generalize hw_R A4 (ix_sz h4) (fun _ => 0) = A5 at g5 ⊢
  have s5 : ix_sz h5 = ix_sz h4 + 1 := g5.1
  have sl5 : s < ix_sz h5 := by rw [s5]; exact Nat.lt_succ_of_lt sl4
  have ts5 : ix_tg h5 s = 3 := (g5.2.2.2 s sl4).1.trans ts4
  rw [v_arrS ts5 sl5 (by omega)]
  obtain ⟨g6, f6, k6, t6, l6, -⟩ := v_arr (F := F) (A := A5) sl5 103 2001 5
  generalize vA h5 s 103 2001 5 = h6 at g6 f6 k6 t6 l6 ⊢
  generalize hw_R A5 (ix_sz h5) (fun _ => 0) = A6 at g6 ⊢
  have s6 : ix_sz h6 = ix_sz h5 + 1 := g6.1
  have sl6 : s < ix_sz h6 := by rw [s6]; exact Nat.lt_succ_of_lt sl5
  have ts6 : ix_tg h6 s = 3 := (g6.2.2.2 s sl5).1.trans ts5
  rw [v_arrS ts6 sl6 (by omega)]
  obtain ⟨g7, f7, k7, t7, l7, -⟩ := v_arr (F := F) (A := A6) sl6 103 2001 6
  generalize vA h6 s 103 2001 6 = h7 at g7 f7 k7 t7 l7 ⊢
  generalize hw_R A6 (ix_sz h6) (fun _ => 0) = A7 at g7 ⊢
  have g67 := g7
  have g57 := g6.trans g67
  have g47 := g5.trans g57
  have g37 := g4.trans g47
  have g27 := g3.trans g37
  have y3 : ix_sz h3 = ix_sz h + 2 := by rw [s3, s2]
  have y4 : ix_sz h4 = ix_sz h + 3 := by rw [s4, y3]
  have y5 : ix_sz h5 = ix_sz h + 4 := by rw [s5, y4]
  have y6 : ix_sz h6 = ix_sz h + 5 := by rw [s6, y5]
  have b2 : ix_sz h < ix_sz h2 := by rw [s2]; exact Nat.lt_succ_self _
  have b3 : ix_sz h2 < ix_sz h3 := by rw [s3]; exact Nat.lt_succ_self _
  have b4 : ix_sz h3 < ix_sz h4 := by rw [s4]; exact Nat.lt_succ_self _
  have b5 : ix_sz h4 < ix_sz h5 := by rw [s5]; exact Nat.lt_succ_self _
  have b6 : ix_sz h5 < ix_sz h6 := by rw [s6]; exact Nat.lt_succ_self _
  obtain ⟨e1, e2, -, -, e5, -, -⟩ := g27.2.2.2 (ix_sz h) b2
  obtain ⟨i1, i2, -, -, -, -, -⟩ := g37.2.2.2 (ix_sz h2) b3
  obtain ⟨j1, j2, -, -, -, -, -⟩ := g47.2.2.2 (ix_sz h3) b4
  obtain ⟨m1, m2, -, -, -, -, -⟩ := g57.2.2.2 (ix_sz h4) b5
  obtain ⟨n1, n2, -, -, -, -, -⟩ := g67.2.2.2 (ix_sz h5) b6
  refine ⟨h7, A7, rfl, g1.trans g27, ⟨?_, ?_, ?_, ?_, ?_, ?_⟩, ⟨e1.trans tw2, e2.trans lw2, fun i hi => ?_⟩, ?_, ?_, ?_, ?_, ?_⟩
  · rw [k7 0 (by decide), k6 0 (by decide), k5 0 (by decide), k4 0 (by decide), k3 0 (by decide), f1]
  · rw [k7 1 (by decide), k6 1 (by decide), k5 1 (by decide), k4 1 (by decide), f3, s2]
  · rw [k7 3 (by decide), k6 3 (by decide), k5 3 (by decide), f4, y3]
  · rw [k7 4 (by decide), k6 4 (by decide), f5, y4]
  · rw [k7 5 (by decide), f6, y5]
  · rw [f7, y6]
  · rw [e5]
    exact aw2 i hi
  · rw [← s2]
    exact ⟨i1.trans t3, i2.trans l3⟩
  · rw [← y3]
    exact ⟨j1.trans t4, j2.trans l4⟩
  · rw [← y4]
    exact ⟨m1.trans t5, m2.trans l5⟩
  · rw [← y5]
    exact ⟨n1.trans t6, n2.trans l6⟩
  · rw [← y6]
    exact ⟨t7, l7⟩
end
