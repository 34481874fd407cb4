/-! KB: the component: terms whole; words switched over -/
set_option maxRecDepth 100000
theorem k_wh_v : ∀ k, k ≤ 37 → 20 ≤ k → (k < 32 → k_wh k < nI 12) ∧ (32 ≤ k → k_wh k = nI (k - 20) ∧ ¬ k_wh k < nI 12 ∧ k_wh k - nI 12 = nI (k - 32)) := by decide
section
variable {h : ix_H} {F A : Nat → Nat → Int32} {D cv : Nat → Nat} {tk : Nat → tK} {e t op wi N : Nat} {w : Option Nat}
theorem gT.val (T : gT h F A D cv tk e t op wi w) (hk : x_kd tk t = 2) : ∃ j, j < 10000 ∧ (tk t).2.2.2 = nI j := by
  obtain ⟨-, -, -, -, -, -, -, k8, -⟩ := T.2.2.1.2 t T.2.2.2.1.1 T.2.2.2.1.2.1 T.2.2.2.1.2.2
  obtain ⟨c, c4, hto, ev, j, hj, ej⟩ := k8 hk
  exact ⟨j, hj, ej⟩
theorem x_unit_in (k : Nat) (hk : x_kd tk t = 2) : x_unit tk k t = x_bd (x_pas t) fun _ t1 => .inr ([(0, (tk t).2.2.2)], t1) := by
  cases k <;> (unfold x_unit; rw [if_pos hk])
theorem x_unit_vr (k : Nat) (h2 : x_kd tk t ≠ 2) (hk : 32 ≤ x_kd tk t ∧ x_kd tk t ≤ 37) : x_unit tk k t = x_bd (x_pas t) fun _ t1 => .inr ([(1, nI (x_kd tk t - 32))], t1) := by
  cases k <;> (unfold x_unit; rw [if_neg h2, if_pos hk])
theorem x_unit_no (k : Nat) (h2 : x_kd tk t ≠ 2) (hk : ¬ (32 ≤ x_kd tk t ∧ x_kd tk t ≤ 37)) (h6 : x_kd tk t ≠ 6) : x_unit tk k t = .inl (1, t) := by
  cases k <;> (unfold x_unit; rw [if_neg h2, if_neg hk, if_neg h6])
theorem k_unit1 {n k : Nat} (hN : 1000 ≤ N) (hop : op + k = 6) (hS : ∀ k', k = k' + 1 → uWk D cv tk e wi w N 163 (x_sum tk (x_unit tk k')) (op + 1) (n + 8)) : uWk D cv tk e wi w N 165 (x_unit tk k) op (n + 9) := by
  intro h F A t T
  have hs := T.1
  obtain ⟨k1, k2, k3, k4, k5, k6, k7⟩ := T.row
  have T4 := T.2.2.2.1
  have so := k_so_5 _ k7
  rw [rX3_unit N (n + 8)]
  unfold bX3_unit
  rw [k_isr3 hs, k_sortE T N (n + 4)]
  by_cases c3 : x_kd tk t = 3
  · rw [if_pos c3, oF_xI, x_unit_no k (by omega) (by omega) (by omega)]
    exact oF.fl (gO.refl D h F A) (Nat.le_refl t) (by omega)
  · rw [if_neg c3, ok_xI]
    by_cases c2 : x_kd tk t = 2
    · rw [if_pos (so.2.1.mpr c2), x_unit_in k c2, k_isr3 hs, k_passE T N (n + 4)]
      unfold x_pas
      by_cases c4 : t = 400
      · rw [if_pos c4, if_pos c4, oF_xV]
        exact oF.fl (gO.refl D h F A) (Nat.le_refl t) (by omega)
      · rw [if_neg c4, if_neg c4, ok_xV]
        have T1 := T.pass (by omega) c3 (by omega)
        have g1 : gO D h F A h (kPs F D (t + 1)) A 0 := (gO.refl D h F A).fR (.inr (.inr rfl)) _
        generalize kPs F D (t + 1) = F1 at T1 g1 ⊢
        have gn : gN h F1 A (ix_nwO h 11 1) (hw_R F1 (ix_sz h) (fun _ => 0)) A 1 := (gO.refl _ h F1 A).nwO 11 (by omega)
        have T2 := T1.ofN gn
        have tg : ix_tg (ix_nwO h 11 1) (ix_sz h) = 11 := s_tgO h 11 1
        have en := k_number (h := ix_nwO h 11 1) (F := hw_R F1 (ix_sz h) (fun _ => 0)) (N := N) T2.1 T2.2.2.1 T4.1 T4.2.1 T4.2.2 c2 hN (n + 7)
        obtain ⟨L1, L2, L3⟩ := k_leafT T1 (c := 11) (tk t).2.2.2 (cd := [(0, (tk t).2.2.2)]) rfl (.inl ⟨rfl, rfl⟩)
        rw [hw_bO, k_is3 T2.1, k_is3 T2.1, hw_fI, T2.2.2.2.2.1, k_t3r T2.1, hw_sub (by omega), Nat.add_sub_cancel, hw_cI en]
        dsimp only
        rw [hw_sz, c_isr tg (by decide), hw_cV (k_given tg N (n + 6) _)]
        exact ⟨Nat.lt_succ_self t, _, _, _, ix_sz h, rfl, L1, (g1.trans (L2.o D)).mono (by show 0 + 1 ≤ 2 * (t + 1 - t); omega), L3⟩
    · rw [if_neg (fun q => c2 (so.2.1.mp q)), k_isr3 hs, k_sortE T N (n + 4), if_neg c3, ok_xI]
      by_cases c20 : 20 ≤ x_kd tk t
      · obtain ⟨w1, w2⟩ := k_wh_v _ k7 c20
        rw [if_pos (so.2.2.1.mpr c20), k_is3 hs, k_t3 hs, k_is3 hs, hw_fI, T.2.2.2.2.1, k_ar hs, hw_in (by omega) (by omega), cond_true, hw_aI, hw_cl (by omega), k4 c3]
        by_cases c32 : 32 ≤ x_kd tk t
        · obtain ⟨w3, w4, w5⟩ := w2 c32
          rw [if_neg w4, x_unit_vr k c2 ⟨c32, k7⟩, k_isr3 hs, k_passE T N (n + 4)]
          unfold x_pas
          by_cases c4 : t = 400
          · rw [if_pos c4, if_pos c4, oF_xV]
            exact oF.fl (gO.refl D h F A) (Nat.le_refl t) (by omega)
          · rw [if_neg c4, if_neg c4, ok_xV]
            have T1 := T.pass (by omega) c3 (by omega)
            have g1 : gO D h F A h (kPs F D (t + 1)) A 0 := (gO.refl D h F A).fR (.inr (.inr rfl)) _
            generalize kPs F D (t + 1) = F1 at T1 g1 ⊢
            have gn : gN h F1 A (ix_nwO h 12 1) (hw_R F1 (ix_sz h) (fun _ => 0)) A 1 := (gO.refl _ h F1 A).nwO 12 (by omega)
            have T2 := T1.ofN gn
            have tg : ix_tg (ix_nwO h 12 1) (ix_sz h) = 12 := s_tgO h 12 1
            obtain ⟨L1, L2, L3⟩ := k_leafT T1 (c := 12) (nI (x_kd tk t - 32)) (cd := [(1, nI (x_kd tk t - 32))]) rfl (.inr ⟨rfl, x_kd tk t - 32, by omega, rfl, rfl⟩)
            rw [hw_bO, k_is3 T2.1, k_t3 T2.1, k_is3 T2.1, hw_fI, T2.2.2.2.2.1, hw_sub (by omega), Nat.add_sub_cancel, k_ar T2.1, hw_in (by omega) (by omega), cond_true, hw_sz, c_isr tg (by decide), hw_aI, hw_cl (by omega), k4 c3, w5, hw_cV (k_var tg N (n + 6) _)]
            exact ⟨Nat.lt_succ_self t, _, _, _, ix_sz h, rfl, L1, (g1.trans (L2.o D)).mono (by show 0 + 1 ≤ 2 * (t + 1 - t); omega), L3⟩
        · rw [if_pos (w1 (by omega))]
          exact k_unit45 hop hS T c2 (fun q => c32 q.1) _
      · rw [if_neg (fun q => c20 (so.2.2.1.mp q))]
        exact k_unit45 hop hS T c2 (by omega) _
theorem k_unitW (hN : 1000 ≤ N) (d : Nat) : ∀ k op, op + k = 6 → uWk D cv tk e wi w N 165 (x_unit tk k) op (d + 3 * k + 9)
  | 0, op, ho => k_unit1 hN ho (fun k' hk => absurd hk (by omega))
  | k + 1, op, ho => by
    have hU : uWk D cv tk e wi w N 165 (x_unit tk k) (op + 1) (d + 3 * k + 1 + 8) := k_unitW hN d k (op + 1) (by omega)
    have hP : uWk D cv tk e wi w N 164 (x_part tk (x_unit tk k)) (op + 1) (d + 3 * k + 2 + 8) := k_partW hN hU
    have hS : uWk D cv tk e wi w N 163 (x_sum tk (x_unit tk k)) (op + 1) (d + 3 * k + 3 + 8) := k_sumW hN hP
    have := k_unit1 (n := d + 3 * k + 3) (k := k + 1) (op := op) (wi := wi) (w := w) (D := D) (cv := cv) (tk := tk) (e := e) hN ho (fun k' hk => by
      have : k' = k := by omega
      subst this
      exact hS)
    exact this
theorem k_termW (hN : 1000 ≤ N) (d : Nat) : uWk D cv tk e wi w N 163 (x_term tk) 0 (d + 29) := by
  have hU : uWk D cv tk e wi w N 165 (x_unit tk 6) 0 (d + 19 + 8) := k_unitW hN d 6 0 rfl
  have hP : uWk D cv tk e wi w N 164 (x_part tk (x_unit tk 6)) 0 (d + 20 + 8) := k_partW hN hU
  exact k_sumW hN hP
end
/-! words switched over -/
theorem k_hs_ok : ∀ j (hj : j < 18), ∀ k, k ≤ 37 → 20 ≤ k → (k_hs (k_w k) = k_hs (k_wds[j]'hj) ↔ k = k_kk j) := by decide +kernel
theorem k_hs_v : k_hs k_wds[3] = nI 111375 ∧ k_hs k_wds[4] = nI 98882 ∧ k_hs k_wds[5] = nI 102230 ∧ k_hs k_wds[6] = nI 93616297 ∧ k_hs k_wds[7] = nI 3540684 ∧ k_hs k_wds[8] = nI 94756344 ∧ k_hs k_wds[9] = nI 109850348 ∧ k_hs k_wds[10] = nI 3211 := by decide +kernel
def k_ai (k : Nat) : Int32 := if k = 30 then nI 1 else if k = 31 then nI 2 else if k = 24 then nI 3 else nI 0
def k_ti (k : Nat) : Int32 := if k = 30 then nI 0 else if k = 31 then nI 1 else if k = 23 then nI 2 else if k = 24 then nI 3 else if k = 25 then nI 4 else if k = 26 then nI 5 else if k = 27 then nI 6 else if k = 28 then nI 7 else -1
section
variable {h : ix_H} {F A : Nat → Nat → Int32} {D cv : Nat → Nat} {N s v kd : Nat}
/-- a case of a switch: the hash, then the text -/
theorem k_case (hc : kC h F A D cv) (t : kT h F A s v (k_w kd)) (h20 : 20 ≤ kd) (h37 : kd ≤ 37) {j : Nat} (hj : j < 18) {hv : Int32} (ehv : k_hs (k_wds[j]'hj) = hv) (hsn : ix_sz h ≤ s ∨ ∀ j, j < 18 → s ≠ ix_cs h (k_kw j)) (hN : 100 ≤ N) (d : Nat) (f : Int32 × ix_H → ix_O) (g : ix_O) : (if k_hs (k_w kd) = hv then (ix_isr (hw h F A) 19 (some s)).bind fun a => (ix_rI (ix_run iy_P N (d + 2) 55 [ix_R (some a), ix_R (some (ix_cs (hw h F A) (k_kw j)))] (hw h F A))).bind f else g) = if kd = k_kk j then f (nI 1, hw h F A) else g := by
  have ok := k_hs_ok j hj kd h37 h20
  have ow := k_kk_ok j hj kd h37 h20
  obtain ⟨ct, c1, c2, c5, c6, c7⟩ := hc.2.1 j hj
  have ne : s ≠ ix_cs h (k_kw j) := by
    rcases hsn with q | q
    · omega
    · exact q j hj
  have ee := t_equals (N := N) t ct ne c7 hN d
  rw [← ehv]
  by_cases c : kd = k_kk j
  · rw [if_pos (ok.mpr c), if_pos c, t_isr t, hw_cs, hw_cI ee, if_pos (ow.mpr c)]
  · rw [if_neg (fun q => c (ok.mp q)), if_neg c]
end
