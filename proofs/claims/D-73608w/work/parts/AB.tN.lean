/-! TN: the reference: one tell runs, whole -/
set_option maxRecDepth 100000
section
variable {h : ix_H} {m : Nat} {F A : Nat → Nat → Int32} {N d i : Nat}
theorem m_run115 (hS : mSh h m) (hP : mSp h m) (hN : 3000 ≤ N) (d : Nat) {S : zS} (hI : i_I (z_ty S)) (hR : mR (A (m + 21)) (z_ty S)) {rd : List Int32} {last : Int32} {l : xL} {c : xC} (hi : i < 210) (hC : pC A m c) (hc4 : c.length ≤ 400) (hL : pLf A m i l c) (ok : xl_ok l) (h0 : A (m + 18) 0 = rd.getD 0 (nI 0)) (K : ix_K) :
    ∃ F' A', jX9_runs_115 (ix_run iy_P N (d + 13)) K m (nI i) (nI rd.length) last (nI l.1) (ix_fR (hw h F A) m 32) (nI 1) (rd.getD 1 (nI 0)) (hw h F A) = K 6 [(0, ix_R (some m)), (1, ix_I (nI (i + 1))), (2, ix_I (nI rd.length)), (3, ix_I (r_one l (S, last, rd)).2.1)] [] (hw h F' A') ∧ mQ mX mY2 m F A F' A' ∧ mR (A' (m + 21)) (r_one l (S, last, rd)).1 := by
  unfold jX9_runs_115
  rw [mp_wr32 hP, hw_in (by omega) (by omega), cond_true, hw_bdA, hw_cl (by omega)]
  have q1 : mQ mX mY2 m F A F (hw_R A (m + 18) (hw_U (A (m + 18)) 1 (rd.getD 1 (nI 0)))) := (mQ.refl _ _ _ _ _).aR (k := 18) rfl (by omega)
  have v0 : hw_R A (m + 18) (hw_U (A (m + 18)) 1 (rd.getD 1 (nI 0))) (m + 18) 0 = rd.getD 0 (nI 0) := by rw [hw_R_same, hw_U_ne _ _ (by omega)]; exact h0
  have v1 : hw_R A (m + 18) (hw_U (A (m + 18)) 1 (rd.getD 1 (nI 0))) (m + 18) 1 = rd.getD 1 (nI 0) := by rw [hw_R_same, hw_U_same]
  have v21 : hw_R A (m + 18) (hw_U (A (m + 18)) 1 (rd.getD 1 (nI 0))) (m + 21) = A (m + 21) := hw_R_ne _ _ (by omega)
  generalize hw_R A (m + 18) (hw_U (A (m + 18)) 1 (rd.getD 1 (nI 0))) = A1 at q1 v0 v1 v21 ⊢
  have hR1 : mR (A1 (m + 21)) (z_ty S) := by rw [v21]; exact hR
  have fr : pFr m i (i + 1) A A1 := fun k q h8 h13 _ _ => by rw [q1.2.2.1 k (by rw [List.contains_eq_any_beq]; simp; omega)]
  have hL1 : pLf A1 m i l c := by
    have := hL.of [] fr
    rw [List.append_nil] at this
    exact this
  have hC1 : pC A1 m c := fun j hj => by rw [q1.2.2.1 15 rfl, q1.2.2.1 16 rfl]; exact hC j hj
  have h5 := hL.2.1
  by_cases w3 : l.1 < 3
  · rw [if_neg (by rw [hw_le (by omega) (by omega)]; omega)]
    obtain ⟨F2, A2, e2, q2, r2⟩ := m_actDone (F := F) (A := A1) hS hP hN d hI hR1 (last := last) v0 v1 ⟨hC1, hc4, hL1, ok.1 w3, ok.2.1⟩ hi w3 (ok.2.2.imp (fun x => x.1) id)
    rw [mq_isr hP, hw_cI e2]
    dsimp only
    unfold jX9_runs_125 jX9_runs_135 jX9_runs_146 jX9_runs_153
    rw [if_neg (by rw [hw_eq (by omega) (by omega)]; omega), if_neg (by rw [hw_eq (by omega) (by omega)]; omega), if_neg (by rw [hw_eq (by omega) (by omega)]; omega), nI_add]
    have e1 : (r_one l (S, last, rd)).2.1 = (r_act l (z_ty S, last, rd)).1 := by
      unfold r_one r_act
      rw [if_pos w3]
    have e3 : (r_one l (S, last, rd)).1 = (r_act l (z_ty S, last, rd)).2 := by
      unfold r_one r_act
      rw [if_pos w3]
    rw [e1, e3]
    exact ⟨F2, A2, rfl, q1.trans q2, r2⟩
  · rw [if_pos (by rw [hw_le (by omega) (by omega)]; omega)]
    have hh : l.1 = 5 ∨ ∃ k, k < 4 ∧ l.2.1 = nI k := by
      rcases ok.2.2 with ⟨-, x⟩ | x
      · exact .inl (by omega)
      · exact .inr x
    obtain ⟨F2, A2, e2, q2, r2⟩ := m_run125 (F := F) (A := A1) hS hP hN d hI hR1 hi hL1.2.2.1 h5 (by omega) hh rd.length last K
    rw [e2]
    have e1 : (r_one l (S, last, rd)).2.1 = last := by
      unfold r_one
      rw [if_neg w3]
      split
      · rfl
      · split <;> rfl
    have e3 : (r_one l (S, last, rd)).1 = if l.1 = 3 then z_step (z_ty S) (r_hd l.2.1) else if l.1 = 4 then (z_close 200 (z_ty S) (r_hd l.2.1)).2 else (z_sweep (z_ty S)).2 := by
      unfold r_one
      rw [if_neg w3]
      split
      · rfl
      · split <;> rfl
    rw [e1, e3]
    exact ⟨F2, A2, rfl, q1.trans (q2.mono rfl rfl), r2⟩
end
