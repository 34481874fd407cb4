/-! D4: the component: counts, the tape, slots -/
set_option maxRecDepth 100000
/-- what is free in any store of a state is out of use -/
def x_J (X : xS) : Prop := i_Z X.1 ∧ ∀ i T, xq X i = some T → i_Z T
section
variable {h : ix_H} {F A : Nat → Nat → Int32} {D : Nat → Nat} {L : Nat → Nat → Nat} {ns : Nat → Nat} {Z : Nat × Nat} {X : xS} {N : Nat}
theorem d_hld (g : dG h D L ns Z) (F A : Nat → Nat → Int32) (i : Int32) (f : Nat → ix_O) : (ix_atr (hw h F A) 105 (ix_fR (hw h F A) (D 0) 9) i).bind f = cond (ix_in i 3) (f (D 8)) none := by
  rw [hw_fR, g.1.2.1.2.2.2.2.2.2.2.1]
  exact c_atr g.1.1.2.2.2.2.2.2.1.1 (by decide) g.1.1.2.2.2.2.2.2.1.2 F A i f
theorem d_hldw (g : dG h D L ns Z) (F A : Nat → Nat → Int32) (i : Int32) (f : Nat → ix_O) : (ix_at (hw h F A) 105 (ix_fR (hw h F A) (D 0) 9) i).bind f = cond (ix_in i 3) (f (D 8)) none := by
  rw [hw_fR, g.1.2.1.2.2.2.2.2.2.2.1]
  exact c_at g.1.1.2.2.2.2.2.2.1.1 g.1.1.2.2.2.2.2.2.1.2 F A i f
theorem d_tok (g : dG h D L ns Z) (F A : Nat → Nat → Int32) (f : Nat → ix_O) : (ix_is (hw h F A) 3 (ix_fR (hw h F A) (D 0) 1)).bind f = f (D 2) := by
  rw [hw_fR, g.1.2.1.2.1]
  exact c_is g.1.1.2.2.1 F A f
theorem d_rr0 (g : dG h D L ns Z) (F A : Nat → Nat → Int32) {r : Nat} (hr : r < ns 0) (f : Nat → ix_O) : (ix_is (hw h F A) 6 (ix_aR (hw h F A) (L 0 1) r)).bind f = f (L 0 (18 + 3 * r)) := by
  have hs := g.2.1 0 (by omega)
  have h2 := hs.2.2.2.2.2.2.1
  have := st_rr hs F A hr f
  rw [hw_cl (show r < 2147483648 by omega)] at this
  exact this
theorem d_retired_l (g : dG h D L ns Z) (hI : x_I X) (hJ : x_J X) (hc : dC F A D L ns X) (cal : ix_C) {b : Int32} (hb : b = nI 0 ∨ b = nI 1) (p : Nat → Bool) (hp : ∀ r, r < zn X.1 → p r = if b = nI 0 then decide (nI 0 ≤ zr X.1 r 4) else decide (zr X.1 r 5 = nI 1)) : ∀ z i, i ≤ zn X.1 → zn X.1 - i < z →
    ix_lp cal stX0_retired z 4 [(0, ix_R (some (D 0))), (1, ix_I b), (2, ix_I (nI (((List.range i).filter p).length))), (3, ix_I (nI i))] [] (hw h F A) = some (.inl (some (ix_I (nI (((List.range (zn X.1)).filter p).length)))), hw h F A) := by
  have hsz := hI.1.sz
  have hn := hc.2.1.2
  have hs := g.2.1 0 (by omega)
  intro z
  induction z with
  | zero => intro i _ h; omega
  | succ z ih =>
    intro i hi hz
    rw [lX0_retired_4]
    unfold jX0_retired_4 jX0_retired_27 jX0_retired_30 jX0_retired_32
    rw [d_is g, d_stw g, hw_fI, hc.2.1.1.1.1.1]
    rcases Nat.lt_or_ge i (zn X.1) with w | w
    · obtain ⟨-, -, -, -, c4, c5, c5', -, -⟩ := hc.2.1.1.1.2.2.1 i w
      have hs2 := a_flt_succ p i
      rw [hp i w] at hs2
      have step : ∀ (c : Nat), ((List.range i).filter p).length + c = ((List.range (i + 1)).filter p).length → ix_lp cal stX0_retired z 4 [(0, ix_R (some (D 0))), (1, ix_I b), (2, ix_I (nI (((List.range i).filter p).length) + nI c)), (3, ix_I (nI i + nI 1))] [] (hw h F A) = some (.inl (some (ix_I (nI (((List.range (zn X.1)).filter p).length)))), hw h F A) := fun c e => by
        rw [nI_add, nI_add, e]
        exact ih (i + 1) w (by omega)
      rw [if_neg (by rw [hw_le (by omega) (by omega)]; omega)]
      simp only [d_is g, d_stw g, st_rec hs, hw_in (show i < 2000 by have := hs.2.2.2.2.2.2.1; omega) (by omega), cond_true, hw_cl (show i < 2147483648 by omega), d_rr0 g _ _ (show i < ns 0 by omega), hw_fI, c4]
      by_cases x : X.1.1.1 i 4 < nI 0
      · rw [if_pos x]
        refine step 0 ?_
        rw [hs2]
        have n4 : ¬ nI 0 ≤ zr X.1 i 4 := fun y => by
          have y : nI 0 ≤ X.1.1.1 i 4 := y
          rw [Int32.le_iff_toInt_le] at y
          rw [Int32.lt_iff_toInt_lt] at x
          omega
        rcases hb with e | e
        · rw [e, if_pos rfl, if_neg (by rw [decide_eq_true_iff]; exact n4)]
        · have n5 : ¬ (if nI 1 = nI 0 then decide (nI 0 ≤ zr X.1 i 4) else decide (zr X.1 i 5 = nI 1)) = true := by
            rw [if_neg (show ¬ nI 1 = nI 0 by decide), decide_eq_true_iff]
            exact fun y => n4 (hJ.1 i y)
          rw [e, if_neg n5]
      · have y4 : nI 0 ≤ zr X.1 i 4 := kv_nlt_le.mp x
        rw [if_neg x]
        rcases hb with e | e
        · rw [if_pos e]
          refine step 1 ?_
          rw [hs2, e, if_pos rfl, if_pos (by rw [decide_eq_true_iff]; exact y4)]
        · rw [if_neg (by rw [e]; decide)]
          rw [e, if_neg (show ¬ nI 1 = nI 0 by decide)] at hs2
          rcases c5' with e5 | e5
          · refine (if_pos (c5.trans e5)).trans ?_
            refine step 0 ?_
            have e5' : zr X.1 i 5 = nI 0 := e5
            rw [hs2, if_neg (by rw [decide_eq_true_iff, e5']; decide)]
          · refine (if_neg (show ¬ F (L 0 (18 + 3 * i)) 11 = nI 0 by rw [c5, e5]; decide)).trans ?_
            refine step 1 ?_
            have e5' : zr X.1 i 5 = nI 1 := e5
            rw [hs2, if_pos (by rw [decide_eq_true_iff]; exact e5')]
    · obtain rfl : i = zn X.1 := by omega
      rw [if_pos (show nI (zn X.1) ≤ nI (zn X.1) by rw [hw_le (by omega) (by omega)]; omega)]
theorem d_retired (g : dG h D L ns Z) (hI : x_I X) (hJ : x_J X) (hc : dC F A D L ns X) (hN : 3000 ≤ N) (d : Nat) {b : Int32} (hb : b = nI 0 ∨ b = nI 1) : ix_run iy_P N (d + 1) 115 [ix_R (some (D 0)), ix_I b] (hw h F A) = some (.inl (some (ix_I (if b = nI 0 then nI (a_ret X.1) else nI (a_fre X.1)))), hw h F A) := by
  have hsz := hI.1.sz
  obtain ⟨N, rfl⟩ : ∃ z, N = z + 1 := ⟨N - 1, by omega⟩
  rw [rX0_retired (N + 1) d]
  unfold bX0_retired
  rw [← lX0_retired_4]
  rcases hb with e | e
  · rw [if_pos e]
    exact d_retired_l g hI hJ hc _ (Or.inl e) (fun r => decide (nI 0 ≤ zr X.1 r 4)) (fun r _ => by rw [if_pos e]) (N + 1 + 1) 0 (Nat.zero_le _) (by omega)
  · have e1 : ¬ b = nI 0 := by rw [e]; decide
    rw [if_neg e1]
    exact d_retired_l g hI hJ hc _ (Or.inr e) (fun r => decide (zr X.1 r 5 = nI 1)) (fun r _ => by rw [if_neg e1]) (N + 1 + 1) 0 (Nat.zero_le _) (by omega)
theorem i32_or0 (a : Int32) : a ||| nI 0 = a := by rw [nI_0, Int32.or_zero]
theorem d_busy_l (g : dG h D L ns Z) (hc : dC F A D L ns X) (cal : ix_C) : ∀ j z a, j ≤ 4 → j < z →
    ix_lp cal stX0_busy z 4 [(0, ix_R (some (D 0))), (1, ix_I a), (2, ix_I (nI (4 - j)))] [] (hw h F A) = some (.inl (some (ix_I (a_busy X.1 j a))), hw h F A) := by
  have hs := g.2.1 0 (by omega)
  intro j
  induction j with
  | zero =>
    intro z a _ hz
    obtain ⟨z, rfl⟩ : ∃ q, z = q + 1 := ⟨z - 1, by omega⟩
    rw [lX0_busy_4]
    unfold jX0_busy_4
    rw [if_pos (by decide)]
    rfl
  | succ j ih =>
    intro z a hj hz
    obtain ⟨z, rfl⟩ : ∃ q, z = q + 1 := ⟨z - 1, by omega⟩
    have hk : 4 - (j + 1) < 4 := by omega
    have u1 := hc.2.1.1.2 (4 - (j + 1)) hk
    rw [lX0_busy_4]
    unfold jX0_busy_4 jX0_busy_21
    rw [if_neg (by rw [hw_le (by omega) (by omega)]; omega), d_is g, d_stw g, st_hnd hs, hw_in (by omega) (by omega), cond_true, d_hr g _ _ hk]
    unfold a_busy
    by_cases c : zh X.1 (4 - (j + 1)) 1 = nI 0
    · refine (if_pos (show F (L 0 (5 + (4 - (j + 1)))) 3 = nI 0 from u1.trans c)).trans ?_
      rw [if_pos c, i32_or0, nI_add, show 4 - (j + 1) + 1 = 4 - j by omega]
      exact ih z a (by omega) (by omega)
    · refine (if_neg (show ¬ F (L 0 (5 + (4 - (j + 1)))) 3 = nI 0 by rw [u1]; exact c)).trans ?_
      rw [if_neg c, nI_add, show 4 - (j + 1) + 1 = 4 - j by omega]
      exact ih z _ (by omega) (by omega)
theorem d_count (g : dG h D L ns Z) (hI : x_I X) (hJ : x_J X) (hc : dC F A D L ns X) (hN : 3000 ≤ N) (d : Nat) (w : Int32) : dAns h F A D L (a_count X w) (ix_run iy_P N (d + 7) 114 [ix_R (some (D 0)), ix_I w] (hw h F A)) := by
  have hs := g.2.1 0 (by omega)
  obtain ⟨N, rfl⟩ : ∃ z, N = z + 1 := ⟨N - 1, by omega⟩
  rw [rX0_count (N + 1) (d + 6)]
  unfold bX0_count a_count jX0_count_83
  have same : ∀ v, dAns h F A D L v (some (.inl (some (ix_I v)), hw h F A)) := fun v => ⟨F, A, rfl, dSc.refl _ _ _ _⟩
  obtain ⟨v3, v4, v5, v6, v7, v8⟩ := hc.2.1.1.1.1
  by_cases w0 : w = nI 0
  · obtain ⟨rc, hrc⟩ := hI.1.R
    obtain ⟨F', A', e, q, -⟩ := c_keys hs hI.1.W hrc hc.2.1.2 (N := N + 1) (by omega) d hc.2.1.1.1
    rw [if_pos w0, if_pos w0, d_is g, d_st g, hw_cI e]
    exact ⟨F', A', rfl, q.d⟩
  rw [if_neg w0, if_neg w0]
  by_cases w1 : w = nI 1
  · rw [if_pos w1, if_pos w1, d_is g, d_stw g, hw_fI, v3]
    exact same _
  rw [if_neg w1, if_neg w1]
  by_cases w2 : w = nI 2
  · rw [if_pos w2, if_pos w2, d_is g, d_stw g, hw_fI, v4]
    exact same _
  rw [if_neg w2, if_neg w2]
  by_cases w3 : w = nI 3
  · rw [if_pos w3, if_pos w3, d_is g, d_stw g, hw_fI, v5]
    exact same _
  rw [if_neg w3, if_neg w3]
  by_cases w4 : w = nI 4
  · rw [if_pos w4, if_pos w4, d_isr g, hw_cI (d_retired g hI hJ hc hN (d + 5) (Or.inl rfl)), if_pos rfl]
    exact same _
  rw [if_neg w4, if_neg w4]
  by_cases w5 : w = nI 5
  · rw [if_pos w5, if_pos w5, d_isr g, hw_cI (d_retired g hI hJ hc hN (d + 5) (Or.inr rfl)), if_neg (by decide)]
    exact same _
  rw [if_neg w5, if_neg w5]
  by_cases w6 : w = nI 6
  · have e : ix_run iy_P (N + 1) (d + 6) 116 [ix_R (some (D 0))] (hw h F A) = some (.inl (some (ix_I (a_busy X.1 4 (nI 0)))), hw h F A) := by
      rw [rX0_busy (N + 1) (d + 5)]
      unfold bX0_busy
      rw [← lX0_busy_4]
      exact d_busy_l g hc _ 4 (N + 1 + 1) (nI 0) (by omega) (by omega)
    rw [if_pos w6, if_pos w6, d_isr g, hw_cI e]
    exact same _
  rw [if_neg w6, if_neg w6]
  by_cases w7 : w = nI 7
  · rw [if_pos w7, if_pos w7, d_is g, d_st g, hw_cI (c_lostOfAll hs hc.2.1.1.1 (N := N + 1) (by omega) (d + 5))]
    exact same _
  rw [if_neg w7, if_neg w7]
  by_cases w8 : w = nI 8
  · rw [if_pos w8, if_pos w8, d_is g, d_tok g, hw_fI, hc.1.2.2.1]
    exact same _
  rw [if_neg w8, if_neg w8]
  by_cases w9 : w = nI 9
  · rw [if_pos w9, if_pos w9]
    unfold jX0_count_45 jX0_count_54 jX0_count_64 jX0_count_83
    simp only [d_is g, d_hld g, hw_in (show 0 < 3 by omega) (by omega), hw_in (show 1 < 3 by omega) (by omega), hw_in (show 2 < 3 by omega) (by omega), cond_true, hw_aI, hw_cl (show 0 < 2147483648 by omega), hw_cl (show 1 < 2147483648 by omega), hw_cl (show 2 < 2147483648 by omega), hc.1.2.2.2.2 0 (by omega), hc.1.2.2.2.2 1 (by omega), hc.1.2.2.2.2 2 (by omega)]
    unfold a_hl
    cases (xq X 0).isSome <;> cases (xq X 1).isSome <;> cases (xq X 2).isSome <;> exact same _
  rw [if_neg w9, if_neg w9]
  by_cases w10 : w = nI 10
  · rw [if_pos w10, if_pos w10, d_is g, d_stw g, hw_fI, v6]
    exact same _
  rw [if_neg w10, if_neg w10]
  by_cases w11 : w = nI 11
  · rw [if_pos w11, if_pos w11, d_is g, d_stw g, hw_fI, v7]
    exact same _
  rw [if_neg w11, if_neg w11]
  by_cases w12 : w = nI 12
  · rw [if_pos w12, if_pos w12, d_is g, d_stw g, hw_fI, v8]
    exact same _
  rw [if_neg w12, if_neg w12]
  by_cases w13 : w = nI 13
  · rw [if_pos w13, if_pos w13, d_is g, hw_fI, hc.1.2.1]
    exact same _
  rw [if_neg w13, if_neg w13]
  exact same _
/-! the tape -/
theorem d_tape (g : dG h D L ns Z) (F A : Nat → Nat → Int32) (i : Int32) (f : Nat → ix_O) : (ix_at (hw h F A) 102 (ix_fR (hw h F A) (D 2) 1) i).bind f = cond (ix_in i 2000) (f (D 14)) none := by
  rw [hw_fR, g.1.2.2.2.1.2.1]
  exact c_at g.1.1.2.2.2.2.2.2.2.2.2.1.1 g.1.1.2.2.2.2.2.2.2.2.2.1.2 F A i f
theorem d_typed_1 (g : dG h D L ns Z) (F A : Nat → Nat → Int32) (cal : ix_C) (z : Nat) {v s s' : Int32} (hs : ¬ s < nI 0) (hs' : s + (-8) = s') {n : Nat} (hn : n < 2000) (hF : F (D 2) 2 = nI n) : ix_lp cal stX0_typed (z + 1) 2 [(0, ix_R (some (D 0))), (1, ix_I v), (2, ix_I s)] [] (hw h F A) = ix_lp cal stX0_typed z 2 [(0, ix_R (some (D 0))), (1, ix_I v), (2, ix_I s')] [] (hw h (hw_R F (D 2) (hw_U (F (D 2)) 2 (nI (n + 1)))) (hw_R A (D 14) (hw_U (A (D 14)) n (a_byte v s)))) := by
  rw [lX0_typed_2]
  unfold jX0_typed_2
  rw [if_neg hs, d_is g, d_tok g, d_is g, d_tok g, d_tape g, hw_fI, hF, hw_in (by omega) (by omega), cond_true, hw_bdA, d_is g, d_tok g, d_tok g, hw_bdF, hw_fI, hF, nI_add, hw_cl (by omega), hs']
  rfl
/-- only the tape and how much of it -/
def dTp (D : Nat → Nat) (F A F' A' : Nat → Nat → Int32) : Prop := (∀ b, b ≠ D 2 → F' b = F b) ∧ ∀ b, b ≠ D 14 → A' b = A b
theorem dTp.trans {F1 A1 F2 A2 : Nat → Nat → Int32} (q1 : dTp D F A F1 A1) (q2 : dTp D F1 A1 F2 A2) : dTp D F A F2 A2 := ⟨fun b hb => (q2.1 b hb).trans (q1.1 b hb), fun b hb => (q2.2 b hb).trans (q1.2 b hb)⟩
theorem d_typed (g : dG h D L ns Z) (hN : 1000 ≤ N) (d : Nat) (v : Int32) {F A : Nat → Nat → Int32} {n : Nat} (hn : n + 4 ≤ 2000) (hF : F (D 2) 2 = nI n) : ∃ F' A', ix_run iy_P N (d + 1) 81 [ix_R (some (D 0)), ix_I v] (hw h F A) = some (.inl none, hw h F' A') ∧ dTp D F A F' A' ∧ F' (D 2) 2 = nI (n + 4) ∧ A' (D 14) = (a_typed (A (D 14), n) v).1 := by
  obtain ⟨N, rfl⟩ : ∃ z, N = z + 5 := ⟨N - 5, by omega⟩
  rw [rX0_typed (N + 5) d]
  unfold bX0_typed
  rw [← lX0_typed_2, d_typed_1 g _ _ _ (N + 5) (s := nI 24) (s' := nI 16) (by decide) (by decide) (by omega) hF, d_typed_1 g _ _ _ (N + 4) (s := nI 16) (s' := nI 8) (n := n + 1) (by decide) (by decide) (by omega) (by rw [hw_R_same, hw_U_same]), d_typed_1 g _ _ _ (N + 3) (s := nI 8) (s' := nI 0) (n := n + 2) (by decide) (by decide) (by omega) (by rw [hw_R_same, hw_U_same]), d_typed_1 g _ _ _ (N + 2) (s := nI 0) (s' := -8) (n := n + 3) (by decide) (by decide) (by omega) (by rw [hw_R_same, hw_U_same]), lX0_typed_2]
  unfold jX0_typed_2
  rw [if_pos (by decide)]
  refine ⟨_, _, rfl, ⟨fun b hb => ?_, fun b hb => ?_⟩, by rw [hw_R_same, hw_U_same], ?_⟩
  · rw [hw_R_ne _ _ hb, hw_R_ne _ _ hb, hw_R_ne _ _ hb, hw_R_ne _ _ hb]
  · rw [hw_R_ne _ _ hb, hw_R_ne _ _ hb, hw_R_ne _ _ hb, hw_R_ne _ _ hb]
  · simp only [hw_R_same]
    rfl
theorem dC.tp (g : dG h D L ns Z) (hc : dC F A D L ns X) {F' A' : Nat → Nat → Int32} (q : dTp D F A F' A') {n : Nat} {b : Nat → Int32} (e1 : F' (D 2) 2 = nI n) (e2 : ∀ k, k < n → A' (D 14) k = b k) : dC F' A' D L ns (X.1, X.2.1, b, n, X.2.2.2.2) := by
  obtain ⟨⟨v1, v2, v3, v4, v5⟩, ⟨c1, c2⟩, c3⟩ := hc
  have f0 := q.1 (D 0) (g.Dne (by omega) (by omega) (by omega))
  have a8 := q.2 (D 8) (g.Dne (by omega) (by omega) (by omega))
  exact ⟨⟨by rw [f0]; exact v1, by rw [f0]; exact v2, e1, e2, fun i hi => by rw [a8]; exact v5 i hi⟩, ⟨cV1.cells c2 (fun j _ _ _ _ => q.1 _ (g.own (by omega) (by omega) j).symm) (fun j _ _ => q.2 _ (g.own (by omega) (by omega) j).symm) c1, c2⟩, fun i T hi hT => ⟨cV1.cells (c3 i T hi hT).2 (fun j _ _ _ _ => q.1 _ (g.own (by omega) (by omega) j).symm) (fun j _ _ => q.2 _ (g.own (by omega) (by omega) j).symm) (c3 i T hi hT).1, (c3 i T hi hT).2⟩⟩
theorem dTp.fr (g : dG h D L ns Z) {F' A' : Nat → Nat → Int32} (q : dTp D F A F' A') : dFr h F A D L ns h F' A' L ns :=
  dFr.own g fun b hD _ => ⟨q.1 b (hD 2 (by omega)), q.2 b (hD 14 (by omega))⟩
theorem d_feed (g : dG h D L ns Z) (hI : x_I X) (hc : dC F A D L ns X) (hN : 1000 ≤ N) (d : Nat) (a b c d' e : Int32) : dDo h F A D L ns Z (a_feed X a b c d' e) (ix_run iy_P N (d + 2) 80 [ix_R (some (D 0)), ix_I a, ix_I b, ix_I c, ix_I d', ix_I e] (hw h F A)) := by
  have hn := hI.2.2.1
  rw [rX0_feed N (d + 1)]
  unfold bX0_feed a_feed
  have hF := hc.1.2.2.1
  rw [d_is g, d_tok g, hw_fI, hF, nI_add]
  by_cases w : xn X + 20 ≤ 2000
  · rw [if_pos (show nI (xn X + 20) ≤ nI 2000 by rw [hw_le (by omega) (by omega)]; exact w), if_pos w]
    obtain ⟨F1, A1, e1, q1, f1, t1⟩ := d_typed g hN d a (F := F) (A := A) (by omega) hF
    obtain ⟨F2, A2, e2, q2, f2, t2⟩ := d_typed g hN d b (F := F1) (A := A1) (by omega) f1
    obtain ⟨F3, A3, e3, q3, f3, t3⟩ := d_typed g hN d c (F := F2) (A := A2) (by omega) f2
    obtain ⟨F4, A4, e4, q4, f4, t4⟩ := d_typed g hN d d' (F := F3) (A := A3) (by omega) f3
    obtain ⟨F5, A5, e5, q5, f5, t5⟩ := d_typed g hN d e (F := F4) (A := A4) (by omega) f4
    rw [d_isr g, hw_cV e1, d_isr g, hw_cV e2, d_isr g, hw_cV e3, d_isr g, hw_cV e4, d_isr g, hw_cV e5, d_is g, d_tok g, hw_fI, f5]
    have q := (((q1.trans q2).trans q3).trans q4).trans q5
    have c1 : ∀ k, k < xn X + 4 → A1 (D 14) k = (a_typed (xb X, xn X) a).1 k := fun k hk => by rw [t1]; exact a_typed_cong hc.1.2.2.2.1 a k hk
    have c2 : ∀ k, k < xn X + 4 + 4 → A2 (D 14) k = (a_typed (a_typed (xb X, xn X) a) b).1 k := fun k hk => by rw [t2]; exact a_typed_cong c1 b k hk
    have c3 : ∀ k, k < xn X + 4 + 4 + 4 → A3 (D 14) k = (a_typed (a_typed (a_typed (xb X, xn X) a) b) c).1 k := fun k hk => by rw [t3]; exact a_typed_cong c2 c k hk
    have c4 : ∀ k, k < xn X + 4 + 4 + 4 + 4 → A4 (D 14) k = (a_typed (a_typed (a_typed (a_typed (xb X, xn X) a) b) c) d').1 k := fun k hk => by rw [t4]; exact a_typed_cong c3 d' k hk
    exact ⟨h, F5, A5, L, ns, rfl, g, hc.tp g q f5 (fun k hk => by rw [t5]; exact a_typed_cong c4 e k hk), q.fr g⟩
  · rw [if_neg (show ¬ nI (xn X + 20) ≤ nI 2000 by rw [hw_le (by omega) (by omega)]; exact w), if_neg w]
    exact dDo.same g hc _
theorem d_back (g : dG h D L ns Z) (hI : x_I X) (hc : dC F A D L ns X) (N d : Nat) (v : Int32) : dDo h F A D L ns Z (a_back X v) (ix_run iy_P N (d + 1) 82 [ix_R (some (D 0)), ix_I v] (hw h F A)) := by
  have hn := hI.2.2.1
  rw [rX0_back N d]
  unfold bX0_back jX0_back_7 a_back
  have hF := hc.1.2.2.1
  by_cases w0 : v < nI 0
  · rw [if_pos w0, if_neg (fun w => by have := w.1; rw [Int32.le_iff_toInt_le] at this; rw [Int32.lt_iff_toInt_lt] at w0; omega)]
    exact dDo.same g hc _
  · rw [if_neg w0, d_is g, d_tok g, hw_fI, hF]
    by_cases w1 : v ≤ nI (xn X)
    · obtain ⟨j, hj, rfl⟩ : ∃ j, j < 2147483648 ∧ v = nI j := nI_of (x := v) (by rw [← nI_0]; exact w0)
      rw [if_pos w1, if_pos ⟨kv_nlt_le.mp w0, w1⟩, d_is g, d_tok g, d_tok g, hw_bdF, hw_fI, hF, d_is g, d_tok g, hw_R_same, hw_U_same, hw_cl hj]
      rw [hw_le hj (by omega)] at w1
      rw [hw_sub w1]
      have q : dTp D F A (hw_R F (D 2) (hw_U (F (D 2)) 2 (nI (xn X - j)))) A := ⟨fun b hb => hw_R_ne _ _ hb, fun _ _ => rfl⟩
      exact ⟨h, _, _, L, ns, rfl, g, hc.tp g q (by rw [hw_R_same, hw_U_same]) (fun k hk => hc.1.2.2.2.1 k (by omega)), q.fr g⟩
    · rw [if_neg w1, if_neg (fun w => w1 w.2)]
      exact dDo.same g hc _
theorem d_place (g : dG h D L ns Z) (hc : dC F A D L ns X) (N d : Nat) : dDo h F A D L ns Z (xp X, X) (ix_run iy_P N (d + 1) 85 [ix_R (some (D 0))] (hw h F A)) := by
  rw [rX0_place N d]
  unfold bX0_place
  rw [d_is g, hw_fI, hc.1.1]
  exact dDo.same g hc _
/-! slots -/
theorem d_slot (g : dG h D L ns Z) (F A : Nat → Nat → Int32) (i : Int32) (f : Nat → ix_O) : (ix_atr (hw h F A) 113 (ix_fR (hw h F A) (D 0) 7) i).bind f = cond (ix_in i 3) (f (D 4)) none := by
  rw [hw_fR, g.1.2.1.2.2.2.2.2.1]
  exact c_atr g.1.1.2.2.2.2.1.1 (by decide) g.1.1.2.2.2.2.1.2 F A i f
theorem d_hold (g : dG h D L ns Z) (hI : x_I X) (hc : dC F A D L ns X) (hN : 3000 ≤ N) (d : Nat) (i : Int32) : dDo h F A D L ns Z (a_hold X i) (ix_run iy_P N (d + 4) 112 [ix_R (some (D 0)), ix_I i] (hw h F A)) := by
  rw [rX0_hold N (d + 3)]
  unfold bX0_hold a_hold
  rw [hw_cI (d_isIn _ N (d + 2) _ _ _)]
  dsimp only
  rw [a_if0]
  by_cases w : a_in i (nI 0) (nI 2)
  · have w' := w
    rw [show nI 2 = nI 3 - nI 1 by decide] at w'
    obtain ⟨s, hs, rfl⟩ := a_in_nat (by omega) w'
    have hsL := g.2.1 (2 + s) (by omega)
    have hsz := hI.1.sz
    have e1 : ix_aR (hw h F A) (D 4) (nI s).toNatClampNeg = some (L (2 + s) 0) := by
      rw [hw_aR, hw_cl (by omega)]
      exact g.1.2.2.1 s hs
    rw [if_pos w, if_pos w, d_is g, d_slot g, hw_in (by omega) (by omega), cond_true, d_is g, e1, st_isr hsL]
    have e2 : ix_fR (hw h F A) (D 0) 5 = some (L 0 0) := g.1.2.1.2.2.2.1
    have hz := g.2.2.2.2
    have po := c_becomes (S := X.1) hsL (g.2.1 0 (by omega)) (g.2.2.1 (2 + s) 0 (by omega) (by omega) (by omega)) (fun r hr => Nat.le_trans (hI.1.items r hr) (by omega)) hsz.2.2 hc.2.1.2 hc.2.1.1 (by omega) hN d
    obtain ⟨h', F', A', M, mr, e3, hs', hn', ex, hV⟩ := po
    obtain ⟨g', cD, co, fr⟩ := g.sto (i := 2 + s) (by omega) ex hs'
    rw [e2, hw_cV e3, d_is g', d_hldw g', hw_in (by omega) (by omega), cond_true, hw_bdA, hw_okn1_1, cond_true, hw_cl (by omega)]
    have n1 : ix_nar 1 (nI 1) = nI 1 := by decide
    rw [n1]
    obtain ⟨⟨v1, v2, v3, v4, v5⟩, ⟨c1, c2⟩, c3⟩ := hc
    refine ⟨h', F', _, _, _, rfl, g', ⟨⟨by rw [(cD 0 (by omega)).1]; exact v1, by rw [(cD 0 (by omega)).1]; exact v2, by rw [(cD 2 (by omega)).1]; exact v3, fun k hk => by rw [hw_R_ne _ _ (g.Dne (by omega) (by omega) (by omega)), (cD 14 (by omega)).2]; exact v4 k hk, fun j hj => ?_⟩, ?_, fun j T hj hT => ?_⟩, fr.trans (dFr.own g' fun b hD _ => ⟨rfl, hw_R_ne _ _ (hD 8 (by omega))⟩)⟩
    · rw [hw_R_same, hw_U_at, (cD 8 (by omega)).2]
      unfold a_hl
      by_cases e : j = s
      · rw [if_pos e, show xq (nI 1, X.1, ix_up X.2.1 s (some X.1), X.2.2).2 j = some X.1 from if_pos e]
        rfl
      · rw [if_neg e, show xq (nI 1, X.1, ix_up X.2.1 s (some X.1), X.2.2).2 j = xq X j from if_neg e]
        exact v5 j hj
    · have a := co 0 X.1 (by omega) (by omega) c2 c1
      have b : cV1 F' (hw_R A' (D 8) (hw_U (A' (D 8)) s (nI 1))) (L 0) X.1 := cV1.cells c2 (fun _ _ _ _ _ => rfl) (fun j _ _ => hw_R_ne _ _ (g.own (by omega) (by omega) j).symm) a
      rw [d_up_ne _ _ (show 0 ≠ 2 + s by omega), d_up_ne _ _ (show 0 ≠ 2 + s by omega)]
      exact ⟨b, c2⟩
    · have hT : ix_up X.2.1 s (some X.1) j = some T := hT
      unfold ix_up at hT
      by_cases e : j = s
      · rw [if_pos e] at hT
        obtain rfl := Option.some.inj hT
        rw [e, d_up_same, d_up_same]
        have own' := fun x => g'.own (i := 2 + s) (by omega) (show 8 < 19 by omega) x
        rw [d_up_same] at own'
        exact ⟨cV1.cells hn' (fun _ _ _ _ _ => rfl) (fun x _ _ => hw_R_ne _ _ (own' x).symm) hV, hn'⟩
      · rw [if_neg e] at hT
        rw [d_up_ne _ _ (show 2 + j ≠ 2 + s by omega), d_up_ne _ _ (show 2 + j ≠ 2 + s by omega)]
        have a := co (2 + j) T (by omega) (by omega) (c3 j T hj hT).2 (c3 j T hj hT).1
        exact ⟨cV1.cells (c3 j T hj hT).2 (fun _ _ _ _ _ => rfl) (fun x _ _ => hw_R_ne _ _ (g.own (by omega) (by omega) x).symm) a, (c3 j T hj hT).2⟩
  · rw [if_neg w, if_neg w, hw_okn1_0, cond_true]
    exact dDo.same g hc _
theorem d_restore (g : dG h D L ns Z) (hI : x_I X) (hc : dC F A D L ns X) (hN : 3000 ≤ N) (d : Nat) (i : Int32) : dDo h F A D L ns Z (a_restore X i) (ix_run iy_P N (d + 4) 113 [ix_R (some (D 0)), ix_I i] (hw h F A)) := by
  rw [rX0_restore N (d + 3)]
  unfold bX0_restore jX0_restore_10 a_restore
  have no : dDo h F A D L ns Z (nI 0, X) (cond (ix_okn 1 (nI 0)) (some (.inl (some (ix_I (nI 0))), hw h F A)) none) := by
    rw [hw_okn1_0, cond_true]
    exact dDo.same g hc _
  rw [hw_cI (d_isIn _ N (d + 2) _ _ _)]
  dsimp only
  rw [a_if0]
  by_cases w : a_in i (nI 0) (nI 2)
  · have w' := w
    rw [show nI 2 = nI 3 - nI 1 by decide] at w'
    obtain ⟨s, hs, rfl⟩ := a_in_nat (by omega) w'
    have hh := hc.1.2.2.2.2 s hs
    rw [if_pos w, if_pos w, d_is g, d_hld g, hw_in (by omega) (by omega), cond_true, hw_aI, hw_cl (by omega), hh]
    unfold a_hl
    cases e : xq X s with
    | none =>
      rw [if_pos (show (if (none : Option zS).isSome = true then nI 1 else nI 0) = nI 0 from rfl)]
      exact no
    | some T =>
      rw [if_neg (show ¬ (if (some T : Option zS).isSome = true then nI 1 else nI 0) = nI 0 from (by decide : ¬ nI 1 = nI 0))]
      have hs0 := g.2.1 0 (by omega)
      obtain ⟨hTI, hTy⟩ := hI.2.1 s T e
      obtain ⟨t1, t2⟩ := hc.2.2 s T hs e
      have hz := g.2.2.2.2
      have e1 : ix_aR (hw h F A) (D 4) s = some (L (2 + s) 0) := g.1.2.2.1 s hs
      have po := c_becomes (S := T) hs0 (g.2.1 (2 + s) (by omega)) (g.2.2.1 0 (2 + s) (by omega) (by omega) (by omega)) (fun r hr => Nat.le_trans (hTI.items r hr) (by omega)) hTI.sz.2.2 t2 t1 (by omega) hN d
      obtain ⟨h', F', A', M, mr, e3, hs', hn', ex, hV⟩ := po
      obtain ⟨g', cD, co, fr⟩ := g.sto (i := 0) (by omega) ex hs'
      rw [d_is g, d_is g, d_slot g, hw_in (by omega) (by omega), cond_true, d_st g, e1, hw_cV e3, hw_okn1_1, cond_true]
      obtain ⟨⟨v1, v2, v3, v4, v5⟩, ⟨c1, c2⟩, c3⟩ := hc
      refine ⟨h', F', A', _, _, rfl, g', ⟨⟨by rw [(cD 0 (by omega)).1]; exact v1, by rw [(cD 0 (by omega)).1, v2]; exact congrArg nI hTy.symm, by rw [(cD 2 (by omega)).1]; exact v3, fun k hk => by rw [(cD 14 (by omega)).2]; exact v4 k hk, fun j hj => by rw [(cD 8 (by omega)).2]; exact v5 j hj⟩, ⟨by rw [d_up_same]; exact hV, by rw [d_up_same]; exact hn'⟩, fun j T' hj hT => ?_⟩, fr⟩
      rw [d_up_ne _ _ (show 2 + j ≠ 0 by omega), d_up_ne _ _ (show 2 + j ≠ 0 by omega)]
      exact ⟨co (2 + j) T' (by omega) (by omega) (c3 j T' hj hT).2 (c3 j T' hj hT).1, (c3 j T' hj hT).2⟩
  · rw [if_neg w, if_neg w]
    exact no
end
