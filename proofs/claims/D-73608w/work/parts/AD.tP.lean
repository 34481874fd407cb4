/-! TP: the reference: the runs' head where nothing is left, at rounds' begin and end -/
set_option maxRecDepth 100000
section
variable {h : ix_H} {m : Nat} {F A : Nat → Nat → Int32} {N d i k z tn : Nat} {cal : ix_C} {last : Int32}
theorem m_runOver (hS : mSh h m) (hP : mSp h m) {S : zS} (hR : mR (A (m + 21)) S) (hy : 400 ≤ zy S) (hy2 : zy S < 100000) (hF : F m 18 = nI tn) (htn : tn ≤ 210) (hi : i ≤ tn) : pHU cal m (z + 1) i k last (hw h F A) = some (.inl none, hw h F A) := by
  have e4 : A (m + 21) 4 = nI (zy S) := hR.1.2.2.2.2.2.2.2
  unfold pHU
  rw [lX9_runs_6]
  unfold jX9_runs_6 jX9_runs_156
  rw [mq_is hP, hw_fI, hF]
  by_cases w : tn ≤ i
  · rw [if_pos (by rw [hw_le (by omega) (by omega)]; exact w)]
  · rw [if_neg (by rw [hw_le (by omega) (by omega)]; exact w), mq_is hP, mp_rd35 hS, hw_in (by omega) (by omega), cond_true, hw_aI, hw_cl (show 4 < 2147483648 by omega), e4, if_pos (by rw [hw_le (by omega) (by omega)]; exact hy)]
theorem m_runEnd (hP : mSp h m) (hF : F m 18 = nI tn) (htn : tn ≤ 210) : pHU cal m (z + 1) tn k last (hw h F A) = some (.inl none, hw h F A) := by
  unfold pHU
  rw [lX9_runs_6]
  unfold jX9_runs_6 jX9_runs_156
  rw [mq_is hP, hw_fI, hF, if_pos (by rw [hw_le (by omega) (by omega)]; omega)]
/-- rounds without a round -/
theorem m_runDo0 (hS : mSh h m) (hP : mSp h m) {S : zS} (hR : mR (A (m + 21)) S) (hy : zy S < 400) (hF : F m 18 = nI tn) (htn : tn ≤ 210) (hi : i < tn) (h6 : A (m + 8) i = nI 6) (h10 : A (m + 10) i = nI 0) {j : Nat} (h13 : A (m + 13) i = nI j) : pHU cal m (z + 1) i k last (hw h F A) = pHU cal m z (j + 1) k last (hw h F A) := by
  have e4 : A (m + 21) 4 = nI (zy S) := hR.1.2.2.2.2.2.2.2
  unfold pHU
  rw [lX9_runs_6]
  unfold jX9_runs_6
  rw [mq_is hP, hw_fI, hF, if_neg (by rw [hw_le (by omega) (by omega)]; omega), mq_is hP, mp_rd35 hS, hw_in (by omega) (by omega), cond_true, hw_aI, hw_cl (show 4 < 2147483648 by omega), e4, if_neg (by rw [hw_le (by omega) (by omega)]; omega), mq_is hP, mp_rd19 hP, hw_in (by omega) (by omega), cond_true, hw_cl (show i < 2147483648 by omega), h6, if_pos rfl, mq_is hP, mp_rd21 hP, hw_in (by omega) (by omega), cond_true, h10, if_pos rfl, mq_is hP, mp_rd24 hP, hw_in (by omega) (by omega), cond_true, h13]
  unfold jX9_runs_153
  rw [nI_add]
/-- rounds begin -/
theorem m_runDo (hS : mSh h m) (hP : mSp h m) {S : zS} (hR : mR (A (m + 21)) S) (hy : zy S < 400) (hF : F m 18 = nI tn) (htn : tn ≤ 210) (hi : i < tn) (h6 : A (m + 8) i = nI 6) {n : Nat} (h10 : A (m + 10) i = nI n) (hn : 0 < n) (hn2 : n ≤ 99) (hk : k < 3) : pHU cal m (z + 1) i k last (hw h F A) = pHU cal m z (i + 1) (k + 1) last (hw h F (hw_R A (m + 20) (hw_U (A (m + 20)) k (nI 0)))) := by
  have e4 : A (m + 21) 4 = nI (zy S) := hR.1.2.2.2.2.2.2.2
  unfold pHU
  rw [lX9_runs_6]
  unfold jX9_runs_6
  rw [mq_is hP, hw_fI, hF, if_neg (by rw [hw_le (by omega) (by omega)]; omega), mq_is hP, mp_rd35 hS, hw_in (by omega) (by omega), cond_true, hw_aI, hw_cl (show 4 < 2147483648 by omega), e4, if_neg (by rw [hw_le (by omega) (by omega)]; omega), mq_is hP, mp_rd19 hP, hw_in (by omega) (by omega), cond_true, hw_cl (show i < 2147483648 by omega), h6, if_pos rfl, mq_is hP, mp_rd21 hP, hw_in (by omega) (by omega), cond_true, h10, if_neg (by rw [hw_eq (by omega) (by omega)]; omega), mq_is hP, mp_wr34 hP, hw_in (by omega) (by omega), cond_true, hw_bdA, hw_cl (show k < 2147483648 by omega)]
  unfold jX9_runs_153
  rw [nI_add, nI_add]
/-- one more round -/
theorem m_runMore (hS : mSh h m) (hP : mSp h m) {S : zS} (hR : mR (A (m + 21)) S) (hy : zy S < 400) (hF : F m 18 = nI tn) (htn : tn ≤ 210) (hi : i < tn) (h7 : A (m + 8) i = nI 7) {j : Nat} (h13 : A (m + 13) i = nI j) (hj : j < tn) {n : Nat} (h10 : A (m + 10) j = nI n) (hn2 : n ≤ 99) (hk : k < 3) {v : Nat} (hv : A (m + 20) k = nI v) (hvn : v + 1 < n) : pHU cal m (z + 1) i (k + 1) last (hw h F A) = pHU cal m z (j + 1) (k + 1) last (hw h F (hw_R A (m + 20) (hw_U (A (m + 20)) k (nI (v + 1))))) := by
  have e4 : A (m + 21) 4 = nI (zy S) := hR.1.2.2.2.2.2.2.2
  unfold pHU
  rw [lX9_runs_6]
  unfold jX9_runs_6
  rw [mq_is hP, hw_fI, hF, if_neg (by rw [hw_le (by omega) (by omega)]; omega), mq_is hP, mp_rd35 hS, hw_in (by omega) (by omega), cond_true, hw_aI, hw_cl (show 4 < 2147483648 by omega), e4, if_neg (by rw [hw_le (by omega) (by omega)]; omega), mq_is hP, mp_rd19 hP, hw_in (by omega) (by omega), cond_true, hw_cl (show i < 2147483648 by omega), h7, if_neg (by decide), if_pos rfl, hw_sub (show 1 ≤ k + 1 by omega), Nat.add_sub_cancel, mq_is hP, mp_rd34 hP, hw_in (by omega) (by omega), cond_true, mp_wr34 hP, hw_in (by omega) (by omega), cond_true, hw_bdA, hw_cl (show k < 2147483648 by omega), hv, nI_add]
  have b20 : hw_R A (m + 20) (hw_U (A (m + 20)) k (nI (v + 1))) (m + 20) k = nI (v + 1) := by rw [hw_R_same, hw_U_same]
  have b13 : hw_R A (m + 20) (hw_U (A (m + 20)) k (nI (v + 1))) (m + 13) i = nI j := by rw [hw_R_ne _ _ (by omega)]; exact h13
  have b10 : hw_R A (m + 20) (hw_U (A (m + 20)) k (nI (v + 1))) (m + 10) j = nI n := by rw [hw_R_ne _ _ (by omega)]; exact h10
  generalize hw_R A (m + 20) (hw_U (A (m + 20)) k (nI (v + 1))) = A1 at b20 b13 b10 ⊢
  rw [mq_is hP, mp_rd34 hP, hw_in (by omega) (by omega), cond_true, mq_is hP, mq_is hP, mp_rd24 hP, hw_in (by omega) (by omega), cond_true, hw_aI, b13, mp_rd21 hP, hw_in (by omega) (by omega), cond_true, hw_cl (show j < 2147483648 by omega), b10, b20, if_neg (by rw [hw_le (by omega) (by omega)]; omega), mq_is hP, mp_rd24 hP, hw_in (by omega) (by omega), cond_true, b13]
  unfold jX9_runs_153
  rw [nI_add]
/-- the last round ends -/
theorem m_runOut (hS : mSh h m) (hP : mSp h m) {S : zS} (hR : mR (A (m + 21)) S) (hy : zy S < 400) (hF : F m 18 = nI tn) (htn : tn ≤ 210) (hi : i < tn) (h7 : A (m + 8) i = nI 7) {j : Nat} (h13 : A (m + 13) i = nI j) (hj : j < tn) {n : Nat} (h10 : A (m + 10) j = nI n) (hn2 : n ≤ 99) (hk : k < 3) {v : Nat} (hv : A (m + 20) k = nI v) (hvn : v + 1 = n) : pHU cal m (z + 1) i (k + 1) last (hw h F A) = pHU cal m z (i + 1) k last (hw h F (hw_R A (m + 20) (hw_U (A (m + 20)) k (nI (v + 1))))) := by
  have e4 : A (m + 21) 4 = nI (zy S) := hR.1.2.2.2.2.2.2.2
  unfold pHU
  rw [lX9_runs_6]
  unfold jX9_runs_6
  rw [mq_is hP, hw_fI, hF, if_neg (by rw [hw_le (by omega) (by omega)]; omega), mq_is hP, mp_rd35 hS, hw_in (by omega) (by omega), cond_true, hw_aI, hw_cl (show 4 < 2147483648 by omega), e4, if_neg (by rw [hw_le (by omega) (by omega)]; omega), mq_is hP, mp_rd19 hP, hw_in (by omega) (by omega), cond_true, hw_cl (show i < 2147483648 by omega), h7, if_neg (by decide), if_pos rfl, hw_sub (show 1 ≤ k + 1 by omega), Nat.add_sub_cancel, mq_is hP, mp_rd34 hP, hw_in (by omega) (by omega), cond_true, mp_wr34 hP, hw_in (by omega) (by omega), cond_true, hw_bdA, hw_cl (show k < 2147483648 by omega), hv, nI_add]
  have b20 : hw_R A (m + 20) (hw_U (A (m + 20)) k (nI (v + 1))) (m + 20) k = nI (v + 1) := by rw [hw_R_same, hw_U_same]
  have b13 : hw_R A (m + 20) (hw_U (A (m + 20)) k (nI (v + 1))) (m + 13) i = nI j := by rw [hw_R_ne _ _ (by omega)]; exact h13
  have b10 : hw_R A (m + 20) (hw_U (A (m + 20)) k (nI (v + 1))) (m + 10) j = nI n := by rw [hw_R_ne _ _ (by omega)]; exact h10
  generalize hw_R A (m + 20) (hw_U (A (m + 20)) k (nI (v + 1))) = A1 at b20 b13 b10 ⊢
  rw [mq_is hP, mp_rd34 hP, hw_in (by omega) (by omega), cond_true, mq_is hP, mq_is hP, mp_rd24 hP, hw_in (by omega) (by omega), cond_true, hw_aI, b13, mp_rd21 hP, hw_in (by omega) (by omega), cond_true, hw_cl (show j < 2147483648 by omega), b10, b20, if_pos (by rw [hw_le (by omega) (by omega)]; omega), hw_dec]
  unfold jX9_runs_153
  rw [nI_add]
end
