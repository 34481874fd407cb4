/-! TJ: the reference: an act whole -/
set_option maxRecDepth 100000
section
variable {h : ix_H} {m : Nat} {F A : Nat → Nat → Int32} {N d i : Nat}
theorem mp_wr32x (hS : mSp h m) (F A F0 A0 : Nat → Nat → Int32) (i : Int32) (f : Nat → ix_O) : (ix_at (hw h F A) 101 (ix_fR (hw h F0 A0) m 32) i).bind f = cond (ix_in i 6) (f (m + 18)) none := mp_wr32 hS F A i f
abbrev mY2 : List Nat := [18, 19, 21, 22, 23, 24, 25, 26, 27, 28]
theorem m_actDone (hS : mSh h m) (hP : mSp h m) (hN : 3000 ≤ N) (d : Nat) {S : zS} (hI : i_I S) (hR : mR (A (m + 21)) S) {last : Int32} {rd : List Int32} (h0 : A (m + 18) 0 = rd.getD 0 (nI 0)) (h1 : A (m + 18) 1 = rd.getD 1 (nI 0)) {l : xL} {c : xC} (ha : pAr A m i l c) (hi : i < 210) (hl : l.1 < 3) (hh : l.2.1 = -1 ∨ ∃ k, k < 4 ∧ l.2.1 = nI k) :
    ∃ F' A', ix_run iy_P N (d + 13) 266 [ix_R (some m), ix_I (nI i), ix_I last] (hw h F A) = some (.inl (some (ix_I (r_act l (S, last, rd)).1)), hw h F' A') ∧ mQ mX mY2 m F A F' A' ∧ mR (A' (m + 21)) (r_act l (S, last, rd)).2 := by
  obtain ⟨hC, hc4, ⟨k8, -, k9, k3⟩, ok1, ok2⟩ := ha
  obtain ⟨c1, c2, ec, r10, r11, r12⟩ := k3 hl
  obtain ⟨rc, hrc⟩ := hI.R
  obtain ⟨F1, A1, e1, q1, a1⟩ := m_fillsAll (F := F) hS hI.W hrc (N := N) (by omega) (d + 4) hR
  have e1' : ix_run iy_P N (d + 12) 267 [ix_R (some m)] (hw h F A) = some (.inl none, hw h F1 A1) := e1
  rw [rX9_actDone N (d + 12)]
  unfold bX9_actDone
  have hR1 : A1 (m + 21) = A (m + 21) := q1.2.2.1 21 rfl
  rw [mq_isr hP, hw_cV e1', mq_is hP, mq_is hP, mp_wr32 hP, hw_in (by omega) (by omega), cond_true, hw_bdA, mq_is hP, mp_wr32 hP, hw_in (by omega) (by omega), cond_true, hw_bdA, mq_is hP, mq_is hP, mp_rd35 hS, hw_in (by omega) (by omega), cond_true, mp_wr32 hP, hw_in (by omega) (by omega), cond_true, hw_bdA, mq_is hP, mq_is hP, mp_rd35 hS, hw_in (by omega) (by omega), cond_true, mp_wr32 hP, hw_in (by omega) (by omega), cond_true, hw_bdA, hw_cl (show 2 < 2147483648 by omega), hw_cl (show 3 < 2147483648 by omega), hw_cl (show 4 < 2147483648 by omega), hw_cl (show 5 < 2147483648 by omega), hw_cl (show 0 < 2147483648 by omega)]
  simp only [hw_aI, hw_fI, hw_R_same, hw_R_R, hw_R_ne _ _ (show m + 21 ≠ m + 18 by omega), hR1]
  have q2 : ∀ g, mQ mX mY2 m F A F1 (hw_R A1 (m + 18) g) := fun g => (q1.mono rfl rfl).aR (k := 18) rfl (by omega)
  have hv : ∀ j, j < 6 → hw_R A1 (m + 18) (hw_U (hw_U (hw_U (hw_U (A1 (m + 18)) 2 (F1 m 48)) 3 last) 4 (A (m + 21) 0)) 5 (A (m + 21) 3)) (m + 18) j = r_vr (S, last, rd) (nI j) := fun j hj => by
    rw [hw_R_same]
    unfold r_vr
    match j, hj with
    | 0, _ =>
      rw [hw_U_ne _ _ (by omega), hw_U_ne _ _ (by omega), hw_U_ne _ _ (by omega), hw_U_ne _ _ (by omega), q1.2.2.1 18 rfl, h0, if_pos rfl]
    | 1, _ =>
      rw [hw_U_ne _ _ (by omega), hw_U_ne _ _ (by omega), hw_U_ne _ _ (by omega), hw_U_ne _ _ (by omega), q1.2.2.1 18 rfl, h1, if_neg (by decide), if_pos rfl]
    | 2, _ =>
      rw [hw_U_ne _ _ (by omega), hw_U_ne _ _ (by omega), hw_U_ne _ _ (by omega), hw_U_same, a1.1, if_neg (by decide), if_neg (by decide), if_pos rfl]
    | 3, _ =>
      rw [hw_U_ne _ _ (by omega), hw_U_ne _ _ (by omega), hw_U_same, if_neg (by decide), if_neg (by decide), if_neg (by decide), if_pos rfl]
    | 4, _ =>
      rw [hw_U_ne _ _ (by omega), hw_U_same, hR.1.1, if_neg (by decide), if_neg (by decide), if_neg (by decide), if_neg (by decide), if_pos rfl]
    | 5, _ =>
      rw [hw_U_same, hR.1.2.2.2.1, if_neg (by decide), if_neg (by decide), if_neg (by decide), if_neg (by decide), if_neg (by decide), z_lost_eq]
  have q3 := q2 (hw_U (hw_U (hw_U (hw_U (A1 (m + 18)) 2 (F1 m 48)) 3 last) 4 (A (m + 21) 0)) 5 (A (m + 21) 3))
  have hR3 : mR (hw_R A1 (m + 18) (hw_U (hw_U (hw_U (hw_U (A1 (m + 18)) 2 (F1 m 48)) 3 last) 4 (A (m + 21) 0)) 5 (A (m + 21) 3)) (m + 21)) S := by
    rw [hw_R_ne _ _ (by omega), hR1]
    exact hR
  generalize hw_R A1 (m + 18) (hw_U (hw_U (hw_U (hw_U (A1 (m + 18)) 2 (F1 m 48)) 3 last) 4 (A (m + 21) 0)) 5 (A (m + 21) 3)) = A3 at hv q3 hR3 ⊢
  have rowc : ∀ {F4 A4}, mQ mX mY2 m F A F4 A4 → pC A4 m c ∧ A4 (m + 8) i = nI l.1 ∧ A4 (m + 9) i = l.2.1 ∧ A4 (m + 10) i = nI c1.length ∧ A4 (m + 11) i = nI (c1 ++ l.2.2.1).length ∧ A4 (m + 12) i = nI (c1 ++ l.2.2.1 ++ l.2.2.2).length := fun q => ⟨fun j hj => by rw [q.2.2.1 15 rfl, q.2.2.1 16 rfl]; exact hC j hj, by rw [q.2.2.1 8 rfl]; exact k8, by rw [q.2.2.1 9 rfl]; exact k9, by rw [q.2.2.1 10 rfl]; exact r10, by rw [q.2.2.1 11 rfl]; exact r11, by rw [q.2.2.1 12 rfl]; exact r12⟩
  obtain ⟨pc3, b8, b9, b10, b11, b12⟩ := rowc q3
  have ec1 : c = c1 ++ l.2.2.1 ++ (l.2.2.2 ++ c2) := by rw [ec, List.append_assoc (c1 ++ l.2.2.1)]
  obtain ⟨A4, e4, q4⟩ := m_termOf (F := F1) (A := A3) (c1 := c1) (c := l.2.2.1) (c2 := l.2.2.2 ++ c2) hP (show 1000 ≤ N by omega) (d + 11) (S, last, rd) hv (by rw [← ec1]; exact pc3) (by rw [← ec1]; exact hc4) ok1
  rw [mq_is hP, mp_rd21 hP, hw_in hi (by omega), cond_true, mq_is hP, mp_rd22 hP, hw_in hi (by omega), cond_true, mq_isr hP, hw_cl (by omega), b10, b11, hw_cI e4]
  dsimp only
  rw [hw_cI (m_keyOf _ N (d + 11) _)]
  dsimp only
  have q34 : mQ mX mY2 m F A F1 A4 := q3.trans (q4.mono rfl rfl)
  obtain ⟨pc4, g8, g9, g10, g11, g12⟩ := rowc q34
  rw [mq_is hP, mp_rd19 hP, hw_in hi (by omega), cond_true, hw_aI, g8]
  have kk := r_key_in (r_val (S, last, rd) l.2.2.1)
  unfold r_act
  dsimp only
  by_cases w0 : l.1 = 0
  · obtain ⟨A5, e5, q5⟩ := m_termOf (F := F1) (A := A4) (c1 := c1 ++ l.2.2.1) (c := l.2.2.2) (c2 := c2) hP (show 1000 ≤ N by omega) (d + 11) (S, last, rd) (fun j hj => by rw [q4.2.2.1 18 rfl]; exact hv j hj) (by rw [← ec]; exact pc4) (by rw [← ec]; exact hc4) (ok2 w0)
    rw [if_pos (by rw [w0]), mq_is hP, mp_rd22 hP, hw_in hi (by omega), cond_true, mq_is hP, mp_rd23 hP, hw_in hi (by omega), cond_true, mq_isr hP, g11, g12, hw_cI e5]
    dsimp only
    have q35 : mQ mX mY2 m F A F1 A5 := q34.trans (q5.mono rfl rfl)
    obtain ⟨F6, A6, e6, q6, r6⟩ := m_act60 (F := F1) (A := A5) hS hP hN d hI (by rw [q5.2.2.1 21 rfl, q4.2.2.1 21 rfl]; exact hR3) hi hl (rowc q35).2.2.1 hh kk.1 kk.2 (last := last) (r_val (S, last, rd) l.2.2.2) (ix_lp (ix_run iy_P N (d + 12)) stX9_actDone N)
    simp only [if_pos w0] at e6 r6 ⊢
    exact ⟨F6, A6, e6, q35.trans (q6.mono rfl rfl), r6⟩
  · rw [if_neg (by rw [hw_eq (by omega) (by omega)]; exact w0)]
    obtain ⟨F6, A6, e6, q6, r6⟩ := m_act60 (F := F1) (A := A4) hS hP hN d hI (by rw [q4.2.2.1 21 rfl]; exact hR3) hi hl g9 hh kk.1 kk.2 (last := last) (nI 0) (ix_lp (ix_run iy_P N (d + 12)) stX9_actDone N)
    simp only [if_neg w0] at e6 r6 ⊢
    exact ⟨F6, A6, e6, q34.trans (q6.mono rfl rfl), r6⟩
end
