/-! TD: the reference: rounds end; the head of all tells -/
set_option maxRecDepth 100000
def pHR (cal : ix_C) (m z : Nat) (v1 v2 v3 : Int32) (H : ix_H) : ix_O := ix_lp cal stX9_read z 68 [(0, ix_R (some m)), (1, ix_I v1), (2, ix_I v2), (3, ix_I v3)] [] H
section
variable {h : ix_H} {m : Nat} {F A : Nat → Nat → Int32} {tk : Nat → tK} {e t n o N d i : Nat}
theorem p_endT (hP : mSp h m) (hT : pT F A m tk e t) {c : xC} (hc : pCd F A m t c) {w : Option Nat} (hW : pW F m tk t w) (h18 : F m 18 = nI i) (hi : i < 210) (h29 : x_kd tk t = 29) {ab : List Nat} {i0 : Nat} (h25 : F m 25 = nI (i0 :: ab).length) (hab : ab.length < 3) (hB : pB (A (m + 14)) (i0 :: ab)) (h0 : i0 < i) (N d : Nat) : ∃ F' A', ix_run iy_P N (d + 7) 257 [ix_R (some m)] (hw h F A) = some (.inl none, hw h F' A') ∧ pQ2 m F A F' A' ∧ (∀ k j, j ≠ i → j ≠ i0 ∨ k ≠ 13 → 8 ≤ k → k ≤ 13 → A' (m + k) j = A (m + k) j) ∧ match (x_bd (x_pas t) fun _ t1 => x_must tk 4 t1 : xR Unit) with
    | .inl a => pF F' m tk a.1 a.2
    | .inr a => pT F' A' m tk e a.2 ∧ t + 2 ≤ a.2 ∧ pCd F' A' m a.2 c ∧ pW F' m tk a.2 w ∧ F' m 18 = nI (i + 1) ∧ F' m 25 = nI ab.length ∧ pB (A' (m + 14)) ab ∧ A' (m + 8) i = nI 7 ∧ A' (m + 13) i = nI i0 ∧ A' (m + 13) i0 = nI i := by
  have te := hT.2.1
  have t4 := hT.2.2.1
  obtain ⟨k37, -, a3, -⟩ := hT.1.2.2 t te t4
  obtain ⟨b1, b2, b3⟩ := hB
  rw [rX9_tellOne N (d + 6)]
  unfold bX9_tellOne
  rw [mq_is hP, mq_is hP, hw_fI, h18, mp_wr20 hP, hw_in hi (by omega), cond_true, hw_bdA, hw_cl (by omega)]
  have q0 : mQ [] [9] m F A F (hw_R A (m + 9) (hw_U (A (m + 9)) i (-1))) := (mQ.refl _ _ _ _ _).aR (k := 9) rfl (by omega)
  have r0 : pRq m i A (hw_R A (m + 9) (hw_U (A (m + 9)) i (-1))) := pRq.up (A := A) (A1 := A) (k := 9) (fun _ _ _ _ _ => rfl)
  have T0 := hT.of q0 rfl rfl
  have C0 := hc.of q0 (Nat.le_refl t) rfl rfl
  have W0 := hW.of q0 (Nat.le_refl t) rfl
  generalize hw_R A (m + 9) (hw_U (A (m + 9)) i (-1)) = A0 at q0 r0 T0 C0 W0 ⊢
  have a3' : A0 (m + 3) t = nI (x_kd tk t) := by rw [q0.2.2.1 3 rfl]; exact a3
  have g25 : F m 25 = nI (ab.length + 1) := h25
  rw [mq_is hP, mq_is hP, mp_rd5 hP, hw_fI, T0.2.2.2.1, hw_in (by omega) (by omega), cond_true, hw_aI, hw_cl (by omega), a3', h29, if_neg (by decide), if_neg (by decide), if_neg (by decide), if_neg (by decide), if_neg (by decide), if_neg (by decide), if_pos rfl, mq_is hP, g25, if_neg (by rw [hw_eq (by omega) (by omega)]; omega)]
  unfold jX9_tellOne_117
  obtain ⟨F1, e1, q1, f1⟩ := p_goesOn hP T0 (by omega) N (d + 4)
  have g25' : F1 m 25 = nI (ab.length + 1) := by rw [q1.2.1 25 rfl]; exact g25
  rw [mq_is hP, hw_fI, if_pos (by rw [T0.2.2.2.2]; decide), mq_isr hP, hw_cV e1, mq_is hP, mp_wr19 hP, hw_in hi (by omega), cond_true, hw_bdA, mq_is hP, mq_is hP, hw_bdF, hw_cl (by omega), hw_fI, g25', hw_sub (by omega), Nat.add_sub_cancel]
  have q8 : mQ [25] [8] m F1 A0 (hw_R F1 m (hw_U (F1 m) 25 (nI ab.length))) (hw_R A0 (m + 8) (hw_U (A0 (m + 8)) i (nI 7))) := ((mQ.refl _ _ _ _ _).aR (k := 8) rfl (by omega)).fR rfl
  have v8 : hw_R A0 (m + 8) (hw_U (A0 (m + 8)) i (nI 7)) (m + 8) i = nI 7 := by rw [hw_R_same, hw_U_same]
  have v25 : hw_R F1 m (hw_U (F1 m) 25 (nI ab.length)) m 25 = nI ab.length := by rw [hw_R_same, hw_U_same]
  have r1 : pRq m i A (hw_R A0 (m + 8) (hw_U (A0 (m + 8)) i (nI 7))) := r0.up (k := 8)
  generalize hw_R A0 (m + 8) (hw_U (A0 (m + 8)) i (nI 7)) = A1 at q8 v8 r1 ⊢
  generalize hw_R F1 m (hw_U (F1 m) 25 (nI ab.length)) = F2 at q8 v25 ⊢
  have c14 : A1 (m + 14) = A (m + 14) := by rw [q8.2.2.1 14 rfl, q0.2.2.1 14 rfl]
  rw [mq_is hP, mq_is hP, mq_is hP, mp_rd26 hP, hw_fI, v25, hw_in (by omega) (by omega), cond_true, mp_wr24 hP, hw_in hi (by omega), cond_true, hw_bdA, mq_is hP, mq_is hP, mq_is hP, mp_rd26 hP, hw_fI, v25, hw_in (by omega) (by omega), cond_true, hw_aI, hw_cl (by omega), hw_aI, hw_R_ne _ _ (show m + 14 ≠ m + 13 by omega), c14, b1, mp_wr24 hP, hw_in b2 (by omega), cond_true, hw_bdA, hw_cl (by omega)]
  have q13 : mQ [] [13] m F2 A1 F2 (hw_R (hw_R A1 (m + 13) (hw_U (A1 (m + 13)) i (nI i0))) (m + 13) (hw_U (hw_R A1 (m + 13) (hw_U (A1 (m + 13)) i (nI i0)) (m + 13)) i0 (nI i))) := ((mQ.refl _ _ _ _ _).aR (k := 13) rfl (by omega)).aR (k := 13) rfl (by omega)
  have u1 : hw_R (hw_R A1 (m + 13) (hw_U (A1 (m + 13)) i (nI i0))) (m + 13) (hw_U (hw_R A1 (m + 13) (hw_U (A1 (m + 13)) i (nI i0)) (m + 13)) i0 (nI i)) (m + 13) i = nI i0 := by rw [hw_R_same, hw_U_ne _ _ (by omega), hw_R_same, hw_U_same]
  have u2 : hw_R (hw_R A1 (m + 13) (hw_U (A1 (m + 13)) i (nI i0))) (m + 13) (hw_U (hw_R A1 (m + 13) (hw_U (A1 (m + 13)) i (nI i0)) (m + 13)) i0 (nI i)) (m + 13) i0 = nI i := by rw [hw_R_same, hw_U_same]
  have u3 : ∀ k j, j ≠ i → j ≠ i0 ∨ k ≠ 13 → 8 ≤ k → k ≤ 13 → hw_R (hw_R A1 (m + 13) (hw_U (A1 (m + 13)) i (nI i0))) (m + 13) (hw_U (hw_R A1 (m + 13) (hw_U (A1 (m + 13)) i (nI i0)) (m + 13)) i0 (nI i)) (m + k) j = A (m + k) j := fun k j hj hk h8 h13 => by
    rw [← r1 k j hj h8 h13]
    by_cases wk : k = 13
    · subst wk
      rw [hw_R_same, hw_U_ne _ _ (by omega), hw_R_same, hw_U_ne _ _ hj]
    · rw [hw_R_ne _ _ (by omega), hw_R_ne _ _ (by omega)]
  generalize hw_R (hw_R A1 (m + 13) (hw_U (A1 (m + 13)) i (nI i0))) (m + 13) (hw_U (hw_R A1 (m + 13) (hw_U (A1 (m + 13)) i (nI i0)) (m + 13)) i0 (nI i)) = A2 at q13 u1 u2 u3 ⊢
  have q82 : mQ [25] [8, 13] m F1 A0 F2 A2 := (q8.mono rfl rfl).trans (q13.mono rfl rfl)
  have q02 : pQ2 m F A F2 A2 := ((q0.mono rfl rfl).trans (q1.mono rfl rfl)).trans (q82.mono rfl rfl)
  unfold x_pas at f1 ⊢
  by_cases w4 : t = 400
  · rw [if_pos w4] at f1 ⊢
    have hF : pF F1 m tk 2 t := f1
    obtain ⟨F4, e4, q4⟩ := p_157F (A := A2) hP (hF.of q82 rfl) N (d + 3) (ix_lp (ix_run iy_P N (d + 6)) stX9_tellOne N)
    exact ⟨F4, A2, e4, q02.trans (q4.mono rfl rfl), u3, (hF.of q82 rfl).of q4 rfl⟩
  · rw [if_neg w4] at f1 ⊢
    have T1 : pT F1 A0 m tk e (t + 1) := f1
    obtain ⟨F4, e4, q4, g18, f4⟩ := p_157 (A := A2) hP (T1.of q82 rfl rfl) (show F2 m 18 = nI i by rw [q82.2.1 18 rfl, q1.2.1 18 rfl]; exact h18) N (d + 3) (ix_lp (ix_run iy_P N (d + 6)) stX9_tellOne N)
    refine ⟨F4, A2, e4, q02.trans (q4.mono rfl rfl), u3, ?_⟩
    show match (x_must tk 4 (t + 1)) with
      | .inl a => pF F4 m tk a.1 a.2
      | .inr a => _
    have ht := @x_must_t tk (t + 1) 4
    generalize x_must tk 4 (t + 1) = r at f4 ht ⊢
    cases r with
    | inl b => exact f4
    | inr b =>
      obtain ⟨b0, t3⟩ := b
      obtain rfl : t3 = t + 1 + 1 := ht rfl
      refine ⟨f4, Nat.le_refl _, ((C0.of q1 (Nat.le_succ t) rfl rfl).of q82 (Nat.le_refl _) rfl rfl).of q4 (Nat.le_succ _) rfl rfl, ((W0.of q1 (Nat.le_succ t) rfl).of q82 (Nat.le_refl _) rfl).of q4 (Nat.le_succ _) rfl, g18, by rw [q4.2.1 25 rfl, q13.2.1 25 rfl]; exact v25, ?_, ?_, u1, u2⟩
      · rw [q13.2.2.1 14 rfl, c14]
        exact b3
      · rw [q13.2.2.1 8 rfl]
        exact v8
theorem p_89F (hP : mSp h m) (hF : pF F m tk n t) (cal : ix_C) (K : ix_K) (v1 v2 v3 : Int32) : ∃ F', jX9_read_89 cal K m v1 v2 v3 (hw h F A) = some (.inl (some (ix_I (nI n))), hw h F' A) ∧ mQ [17] [] m F A F' A ∧ F' m 17 = nI (tk t).2.1 := by
  unfold jX9_read_89 jX9_read_104
  rw [mq_is hP, hw_fI, hF.1, if_neg hF.nle, mq_is hP, mq_is hP, hw_bdF, mq_is hP, hw_fI, if_neg (by rw [hw_R_same, hw_U_ne _ _ (by omega), hF.1]; exact hF.nle), mq_is hP]
  exact ⟨_, by rw [hw_R_same, hw_U_ne _ _ (by omega), hF.1], (mQ.refl _ _ _ _ _).fR rfl, by rw [hw_R_same, hw_U_same]; exact hF.2.2.2⟩
theorem p_68F (hP : mSp h m) (hF : pF F m tk n t) (cal : ix_C) (z : Nat) (v1 v2 v3 : Int32) : ∃ F', pHR cal m (z + 1) v1 v2 v3 (hw h F A) = some (.inl (some (ix_I (nI n))), hw h F' A) ∧ mQ [17] [] m F A F' A ∧ F' m 17 = nI (tk t).2.1 := by
  unfold pHR
  rw [lX9_read_68]
  unfold jX9_read_68 jX9_read_79
  rw [mq_is hP, hw_fI, if_neg (by rw [hF.1]; exact hF.ne), mq_is hP, if_neg (by rw [hF.1]; exact hF.ne)]
  exact p_89F hP hF cal _ v1 v2 v3
theorem p_68E (hP : mSp h m) (hT : pT F A m tk e t) (h0 : x_kd tk t = 0) {k : Nat} (h25 : F m 25 = nI (k + 1)) (hk : k < 3) (N d z : Nat) (v1 v2 v3 : Int32) : ∃ F', pHR (ix_run iy_P N (d + 7)) m (z + 1) v1 v2 v3 (hw h F A) = some (.inl (some (ix_I (nI 1))), hw h F' A) ∧ mQ [13, 14, 17] [] m F A F' A ∧ F' m 17 = nI (tk t).2.1 := by
  unfold pHR
  rw [lX9_read_68]
  unfold jX9_read_68 jX9_read_79
  obtain ⟨F1, e1, q1, f1⟩ := p_fail hP hT N (d + 6) (k := 1) (by omega) (by omega)
  rw [mq_is hP, hw_fI, if_pos hT.2.2.2.2, mq_isr hP, hw_cI (p_is hP hT N (d + 6) (k := 0) (by omega))]
  dsimp only
  rw [if_pos h0, if_neg (by decide), mq_is hP, hw_fI, if_pos hT.2.2.2.2, mq_is hP, h25, if_neg (by rw [hw_le (by omega) (by omega)]; omega), mq_isr hP, hw_cV e1]
  obtain ⟨F2, e2, q2, f2⟩ := p_89F (A := A) hP f1 (ix_run iy_P N (d + 7)) (ix_lp (ix_run iy_P N (d + 7)) stX9_read z) v1 v2 v3
  exact ⟨F2, e2, (q1.mono rfl rfl).trans (q2.mono rfl rfl), f2⟩
theorem p_68S (hP : mSp h m) (hT : pT F A m tk e t) (h0 : x_kd tk t ≠ 0) {F1 A1 : Nat → Nat → Int32} (e1 : ix_run iy_P N (d + 7) 257 [ix_R (some m)] (hw h F A) = some (.inl none, hw h F1 A1)) (z : Nat) (v1 v2 v3 : Int32) : pHR (ix_run iy_P N (d + 7)) m (z + 1) v1 v2 v3 (hw h F A) = pHR (ix_run iy_P N (d + 7)) m z v1 v2 v3 (hw h F1 A1) := by
  unfold pHR
  rw [lX9_read_68]
  unfold jX9_read_68
  rw [mq_is hP, hw_fI, if_pos hT.2.2.2.2, mq_isr hP, hw_cI (p_is hP hT N (d + 6) (k := 0) (by omega))]
  dsimp only
  rw [if_neg h0, if_pos rfl, mq_isr hP, hw_cV e1]
end
