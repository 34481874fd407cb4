/-! TO: the reference: the runs' head at one tell -/
set_option maxRecDepth 100000
section
variable {h : ix_H} {m : Nat} {F A : Nat → Nat → Int32} {N d i : Nat}
theorem rd_get1 : ∀ (rd : List Int32), rd.length ≤ 1 → rd.getD 1 (nI 0) = nI 0
  | [], _ => rfl
  | [_], _ => rfl
theorem rd_get0 : ∀ (rd : List Int32), rd.length = 0 → rd.getD 0 (nI 0) = nI 0
  | [], _ => rfl
theorem m_runLeaf (hS : mSh h m) (hP : mSp h m) (hN : 3000 ≤ N) (d : Nat) {S : zS} (hI : i_I S) (hR : mR (A (m + 21)) S) (hy : zy S < 400) {tn : Nat} (hF : F m 18 = nI tn) (hi : i < tn) (htn : tn ≤ 210) {rd : List Int32} (hrd : yP (A (m + 20)) rd) (hrl : rd.length ≤ 3) {last : Int32} {l : xL} {c : xC} (hC : pC A m c) (hc4 : c.length ≤ 400) (hL : pLf A m i l c) (ok : xl_ok l) (z : Nat) :
    ∃ F' A', pHU (ix_run iy_P N (d + 13)) m (z + 1) i rd.length last (hw h F A) = pHU (ix_run iy_P N (d + 13)) m z (i + 1) rd.length (r_one l (S, last, rd)).2.1 (hw h F' A') ∧ mQ mX mY2 m F A F' A' ∧ mR (A' (m + 21)) (r_one l (S, last, rd)).1 := by
  have h5 := hL.2.1
  have e4 : A (m + 21) 4 = nI (zy S) := hR.1.2.2.2.2.2.2.2
  unfold pHU
  rw [lX9_runs_6]
  unfold jX9_runs_6
  rw [mq_is hP, hw_fI, hF, if_neg (by rw [hw_le (by omega) (by omega)]; omega), mq_is hP, mp_rd35 hS, hw_in (by omega) (by omega), cond_true, hw_aI, hw_cl (show 4 < 2147483648 by omega), e4, if_neg (by rw [hw_le (by omega) (by omega)]; omega), mq_is hP, mp_rd19 hP, hw_in (by omega) (by omega), cond_true, hw_cl (show i < 2147483648 by omega), hL.1, if_neg (by rw [hw_eq (by omega) (by omega)]; omega), if_neg (by rw [hw_eq (by omega) (by omega)]; omega), mq_is hP, mp_rd35 hS, hw_in (by omega) (by omega), cond_true, mp_wr35 hS, hw_in (by omega) (by omega), cond_true, hw_bdA, mq_is hP, e4, nI_add]
  have q1 : mQ mX mY2 m F A F (hw_R A (m + 21) (hw_U (A (m + 21)) 4 (nI (zy S + 1)))) := (mQ.refl _ _ _ _ _).aR (k := 21) rfl (by omega)
  have r1 : mR (hw_R A (m + 21) (hw_U (A (m + 21)) 4 (nI (zy S + 1))) (m + 21)) (z_ty S) := by rw [hw_R_same]; exact hR.ty
  generalize hw_R A (m + 21) (hw_U (A (m + 21)) 4 (nI (zy S + 1))) = A1 at q1 r1 ⊢
  have c20 : A1 (m + 20) = A (m + 20) := q1.2.2.1 20 rfl
  -- behind the first variable
  have go : ∃ F' A', jX9_runs_99 (ix_run iy_P N (d + 13)) (ix_lp (ix_run iy_P N (d + 13)) stX9_runs z) m (nI i) (nI rd.length) last (nI l.1) (ix_fR (hw h F A1) m 32) (nI 0) (rd.getD 0 (nI 0)) (hw h F A1) = ix_lp (ix_run iy_P N (d + 13)) stX9_runs z 6 [(0, ix_R (some m)), (1, ix_I (nI (i + 1))), (2, ix_I (nI rd.length)), (3, ix_I (r_one l (S, last, rd)).2.1)] [] (hw h F' A') ∧ mQ mX mY2 m F A F' A' ∧ mR (A' (m + 21)) (r_one l (S, last, rd)).1 := by
    unfold jX9_runs_99
    rw [mp_wr32 hP, hw_in (by omega) (by omega), cond_true, hw_bdA, mq_is hP, hw_cl (by omega)]
    have q2 : mQ mX mY2 m F A F (hw_R A1 (m + 18) (hw_U (A1 (m + 18)) 0 (rd.getD 0 (nI 0)))) := q1.aR (k := 18) rfl (by omega)
    have v0 : hw_R A1 (m + 18) (hw_U (A1 (m + 18)) 0 (rd.getD 0 (nI 0))) (m + 18) 0 = rd.getD 0 (nI 0) := by rw [hw_R_same, hw_U_same]
    have r2 : mR (hw_R A1 (m + 18) (hw_U (A1 (m + 18)) 0 (rd.getD 0 (nI 0))) (m + 21)) (z_ty S) := by rw [hw_R_ne _ _ (by omega)]; exact r1
    generalize hw_R A1 (m + 18) (hw_U (A1 (m + 18)) 0 (rd.getD 0 (nI 0))) = A2 at q2 v0 r2 ⊢
    have fr : pFr m i (i + 1) A A2 := fun k q h8 h13 _ _ => by rw [q2.2.2.1 k (by rw [List.contains_eq_any_beq]; simp; omega)]
    have hL2 : pLf A2 m i l c := by
      have := hL.of [] fr
      rw [List.append_nil] at this
      exact this
    obtain ⟨F3, A3, e3, q3, r3⟩ := m_run115 (F := F) (A := A2) hS hP hN d hI.ty r2 (last := last) (by omega) (fun j hj => by rw [q2.2.2.1 15 rfl, q2.2.2.1 16 rfl]; exact hC j hj) hc4 hL2 ok v0 (ix_lp (ix_run iy_P N (d + 13)) stX9_runs z)
    by_cases w : rd.length ≤ 1
    · have e0 : rd.getD 1 (nI 0) = nI 0 := rd_get1 rd w
      rw [if_pos (by rw [hw_le (by omega) (by omega)]; exact w)]
      rw [e0] at e3
      exact ⟨F3, A3, e3, q2.trans q3, r3⟩
    · have e0 : A2 (m + 20) (rd.length - 2) = rd.getD 1 (nI 0) := by rw [q2.2.2.1 20 rfl]; exact hrd.get1 (by omega)
      rw [if_neg (by rw [hw_le (by omega) (by omega)]; exact w), mq_is hP, hw_sub (by omega), mp_rd34 hP, hw_in (by omega) (by omega), cond_true, hw_aI, hw_cl (by omega), e0]
      exact ⟨F3, A3, e3, q2.trans q3, r3⟩
  by_cases w : rd.length = 0
  · have e0 : rd.getD 0 (nI 0) = nI 0 := rd_get0 rd w
    rw [if_pos (by rw [hw_le (by omega) (by omega)]; omega)]
    rw [e0] at go
    exact go
  · have e0 : A1 (m + 20) (rd.length - 1) = rd.getD 0 (nI 0) := by rw [c20]; exact hrd.get0 (by omega)
    rw [if_neg (by rw [hw_le (by omega) (by omega)]; omega), mq_is hP, hw_sub (by omega), mp_rd34 hP, hw_in (by omega) (by omega), cond_true, hw_aI, hw_cl (by omega), e0]
    exact go
end
