/-! TI: the reference: an act is done -/
set_option maxRecDepth 100000
section
variable {h : ix_H} {m : Nat} {F A : Nat → Nat → Int32} {N d i : Nat}
theorem m_act60 (hS : mSh h m) (hP : mSp h m) (hN : 3000 ≤ N) (d : Nat) {S : zS} (hI : i_I S) (hR : mR (A (m + 21)) S) {l : xL} (hi : i < 210) (hl : l.1 < 3) (h9 : A (m + 9) i = l.2.1) (hh : l.2.1 = -1 ∨ ∃ k, k < 4 ∧ l.2.1 = nI k) {key last : Int32} (k0 : nI 0 ≤ key) (k1 : key < nI 1000) (v : Int32) (K : ix_K) :
    ∃ F' A', jX9_actDone_60 (ix_run iy_P N (d + 12)) K m (nI i) last key (nI l.1) v (hw h F A) = some (.inl (some (ix_I (if (z_take S (r_hd l.2.1) (nI (l.1 + 1)) key v).1 = true ∧ l.1 = 0 then key else last))), hw h F' A') ∧ mQ mX mY m F A F' A' ∧ mR (A' (m + 21)) (if (z_take S (r_hd l.2.1) (nI (l.1 + 1)) key v).1 = true ∧ l.2.1 < nI 0 then (z_close 200 (z_take S (r_hd l.2.1) (nI (l.1 + 1)) key v).2 0).2 else (z_take S (r_hd l.2.1) (nI (l.1 + 1)) key v).2) := by
  have hk4 : r_hd l.2.1 < 4 := by
    rcases hh with w | ⟨k, hk, w⟩
    · rw [w]
      decide
    · rw [w]
      unfold r_hd
      rw [if_neg (by rw [show nI 0 = nI 0 from rfl, hw_lt (by omega) (by omega)]; omega), hw_cl (by omega)]
      exact hk
  have sz := hI.sz
  have hact : nI (l.1 + 1) = nI 1 ∨ nI (l.1 + 1) = nI 2 ∨ nI (l.1 + 1) = nI 3 := by
    rcases (show l.1 = 0 ∨ l.1 = 1 ∨ l.1 = 2 by omega) with w | w | w
    · exact .inl (by rw [w])
    · exact .inr (.inl (by rw [w]))
    · exact .inr (.inr (by rw [w]))
  have hIt := hI.take hk4 v hact k0 k1
  obtain ⟨A1, e1, q1, r1⟩ := m_starts (F := F) (A := A) hS (S := S) (by omega) sz.2.2 hk4 (hI.stage hk4) N (d + 10) hR (nI (l.1 + 1)) key v
  have e9 : A1 (m + 9) i = l.2.1 := by rw [q1.2.2.1 9 rfl]; exact h9
  generalize hz : z_take S (r_hd l.2.1) (nI (l.1 + 1)) key v = Z at e1 r1 hIt ⊢
  -- behind the start
  have fin : ∀ (H : ix_H), jX9_actDone_95 (ix_run iy_P N (d + 12)) K last key (nI l.1) (if Z.1 = true then nI 1 else nI 0) H = some (.inl (some (ix_I (if Z.1 = true ∧ l.1 = 0 then key else last))), H) := fun H => by
    unfold jX9_actDone_95 jX9_actDone_102 jX9_actDone_104
    by_cases w : Z.1 = true
    · rw [if_pos w, if_neg (by decide)]
      by_cases w0 : l.1 = 0
      · rw [if_pos (by rw [w0]), if_pos ⟨w, w0⟩]
      · rw [if_neg (by rw [hw_eq (by omega) (by omega)]; exact w0), if_neg (fun x => w0 x.2)]
    · rw [if_neg w, if_pos rfl, if_neg (fun x => w x.1)]
  have e73 : ∃ F' A', jX9_actDone_73 (ix_run iy_P N (d + 12)) K m (nI i) last key (nI l.1) v (nI (r_hd l.2.1)) (hw h F A) = some (.inl (some (ix_I (if Z.1 = true ∧ l.1 = 0 then key else last))), hw h F' A') ∧ mQ mX mY m F A F' A' ∧ mR (A' (m + 21)) (if Z.1 = true ∧ l.2.1 < nI 0 then (z_close 200 Z.2 0).2 else Z.2) := by
    unfold jX9_actDone_73
    rw [nI_add, mq_isr hP, hw_cI e1]
    dsimp only
    rw [fin]
    by_cases w : Z.1 = true
    · simp only [if_pos w]
      rw [if_neg (by decide), mq_is hP, mp_rd20 hP, hw_in hi (by omega), cond_true, hw_aI, hw_cl (by omega), e9]
      by_cases wn : l.2.1 < nI 0
      · obtain ⟨F2, A2, e2, q2, r2⟩ := m_closes (F := F) (A := A1) hS (k := 0) (by omega) (i_zkp (by omega)) hN d hIt r1
        have e2' : ix_run iy_P N (d + 12) 281 [ix_R (some m), ix_I (nI 0)] (hw h F A1) = _ := e2
        rw [if_neg (fun x => absurd wn (by rw [kv_nlt_le]; exact x)), mq_isr hP, hw_cI e2']
        have fin' := fin (hw h F2 A2)
        rw [if_pos w] at fin'
        rw [show (if Z.1 = true ∧ l.2.1 < nI 0 then (z_close 200 Z.2 0).2 else Z.2) = (z_close 200 Z.2 0).2 from if_pos ⟨w, wn⟩]
        exact ⟨F2, A2, fin', q1.trans q2, r2⟩
      · have fin' := fin (hw h F A1)
        rw [if_pos w] at fin'
        rw [if_pos (kv_nlt_le.mp wn), show (if Z.1 = true ∧ l.2.1 < nI 0 then (z_close 200 Z.2 0).2 else Z.2) = Z.2 from if_neg fun x => wn x.2]
        exact ⟨F, A1, rfl, q1, r1⟩
    · simp only [if_neg w]
      rw [if_pos trivial, show (if Z.1 = true ∧ l.2.1 < nI 0 then (z_close 200 Z.2 0).2 else Z.2) = Z.2 from if_neg fun x => w x.1]
      exact ⟨F, A1, rfl, q1, r1⟩
  unfold jX9_actDone_60
  rw [mq_is hP, mp_rd20 hP, hw_in hi (by omega), cond_true, hw_aI, hw_cl (by omega), h9]
  rcases hh with w | ⟨k, hk, w⟩
  · rw [if_neg (by rw [w]; decide)]
    have : r_hd l.2.1 = 0 := by rw [w]; rfl
    rw [this] at e73
    exact e73
  · rw [if_pos (by rw [w, hw_le (by omega) (by omega)]; omega), mq_is hP, mp_rd20 hP, hw_in hi (by omega), cond_true, h9]
    have : nI (r_hd l.2.1) = l.2.1 := by
      rw [w]
      unfold r_hd
      rw [if_neg (by rw [hw_lt (by omega) (by omega)]; omega), hw_cl (by omega)]
    rw [this] at e73
    exact e73
end
