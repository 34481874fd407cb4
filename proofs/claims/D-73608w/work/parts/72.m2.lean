/-! M2: the reference: what a page has -/
set_option maxRecDepth 100000
theorem m_setsIn {h : ix_H} {m : Nat} (hS : mSh h m) {F A : Nat → Nat → Int32} {N : Nat} (hN : 1000 ≤ N) (d : Nat) {l : KV} (hL : mL F A m l) (hs : kv_so l) (hl : l.length ≤ 88) (key v : Int32) :
    ∃ F' A', ix_run iy_P N (d + 3) 274 [ix_R (some m), ix_I key, ix_I v] (hw h F A) = some (.inl none, hw h F' A') ∧ mQ [40] [23, 24] m F A F' A' ∧ mL F' A' m (kv_set key v l) := by
  have hle := kv_wh_le key l
  rw [rX9_setsIn N (d + 2)]
  unfold bX9_setsIn jX9_setsIn_43
  simp (disch := omega) only [↓reduceIte, ↓hw_bdF, ↓hw_bdA, ↓hw_cbd, Option.bind_some, hw_bd, cond_true, cond_false, hw_fR, hw_fI, hw_aI, hw_aR, hw_is, hw_isr, hw_at, hw_atr, hw_of, hw_hw, hw_sz, hw_wfR, hw_waR, hw_rI, hw_rV, hw_rR, nI_add, hw_in, hw_cl, hw_R_same, hw_R_R, hw_U_same, hw_U_ne, hw_okn1_0, hw_okn1_1, hS, m_whereOf hS hN (d + 1) hL (Nat.le_trans hl (by decide)) key, m_isThere hS hN d hL hs (Nat.le_trans hl (by decide)) key]
  cases hg : kv_get key l with
  | none =>
    simp only [if_true, hL.1]
    obtain ⟨N, rfl⟩ : ∃ z, N = z + 1 := ⟨N - 1, by omega⟩
    obtain ⟨F', A', e, q, p1, p2, p3⟩ := m_setsIn_l hS (ix_run iy_P (N + 1) (d + 2)) (A (m + 23)) (A (m + 24)) hl hle key v (N + 2) l.length F A hle (Nat.le_refl _) (by omega) (kv_up_n _ _).symm (kv_up_n _ _).symm hL.1
    rw [lX9_setsIn_11] at e
    refine ⟨F', A', e, q, ?_, ?_⟩
    · rw [p1, kv_set_no hs hg, List.length_append, List.length_cons, List.length_take, List.length_drop]
      congr 1
      omega
    · rw [p2, p3, kv_set_no hs hg]
      exact kv_in_ins hL.2 hle
  | some w =>
    obtain ⟨hlt, -⟩ := (kv_get_wh hs w).mp hg
    have h10 : ¬ nI 1 = nI 0 := by decide
    simp (disch := omega) only [↓reduceIte, ↓hw_bdF, ↓hw_bdA, ↓hw_cbd, Option.bind_some, hw_bd, cond_true, cond_false, hw_fR, hw_fI, hw_aI, hw_aR, hw_is, hw_isr, hw_at, hw_atr, hw_of, hw_hw, hw_sz, hw_wfR, hw_waR, hw_rI, hw_rV, hw_rR, nI_add, hw_in, hw_cl, hw_R_same, hw_R_R, hw_U_same, hw_U_ne, hw_okn1_0, hw_okn1_1, hS, h10, reduceCtorEq, if_false, hw_R_at, Nat.add_left_cancel_iff, Nat.reduceEqDiff]
    refine ⟨_, _, rfl, ((mQ.refl _ _ m F A).aR rfl (by omega)).aR rfl (by omega), ?_, ?_⟩
    · rw [kv_set_len_yes hs hg]
      exact hL.1
    · rw [hw_R_ne _ _ (by omega), hw_R_same, hw_R_same, kv_set_yes hs hg]
      exact kv_in_set hL.2
theorem kv_dn_n (f : Nat → Int32) (i : Nat) : kv_dn f i i = f := by
  funext j
  unfold kv_dn
  rw [if_neg (by omega)]
theorem kv_dn_step (f : Nat → Int32) {i k : Nat} (h : i ≤ k) : hw_U (kv_dn f i k) k (kv_dn f i k (k + 1)) = kv_dn f i (k + 1) := by
  funext j
  rw [hw_U_at]
  unfold kv_dn
  by_cases e : j = k
  · subst e
    rw [if_pos rfl, if_neg (by omega), if_pos (by omega)]
  · rw [if_neg e]
    by_cases e2 : i ≤ j ∧ j < k
    · rw [if_pos e2, if_pos (by omega)]
    · rw [if_neg e2, if_neg (by omega)]
theorem m_takesOut_l {h : ix_H} {m : Nat} (hS : mSh h m) (cal : ix_C) (f g : Nat → Int32) {i n : Nat} (hn : n + 1 ≤ 89) : ∀ z k F A, i ≤ k → k ≤ n → n - k < z → A (m + 23) = kv_dn f i k → A (m + 24) = kv_dn g i k → F m 40 = nI (n + 1) →
    ∃ F' A', ix_lp cal stX9_takesOut z 9 [(0, ix_R (some m)), (2, ix_I (nI k))] [] (hw h F A) = some (.inl none, hw h F' A') ∧ mQ [40] [23, 24] m F A F' A' ∧ F' m 40 = nI n ∧ A' (m + 23) = kv_dn f i n ∧ A' (m + 24) = kv_dn g i n := by
  intro z
  induction z with
  | zero => intro k F A _ _ h; omega
  | succ z ih =>
    intro k F A hik hkn hz h1 h2 h3
    rw [lX9_takesOut_9]
    unfold jX9_takesOut_9
    rcases Nat.lt_or_ge k n with hlt | hge
    · have hc : ¬ n + 1 ≤ k + 1 := by omega
      simp (disch := omega) only [↓reduceIte, ↓hw_bdF, ↓hw_bdA, ↓hw_cbd, Option.bind_some, hw_bd, cond_true, cond_false, hw_fR, hw_fI, hw_aI, hw_aR, hw_is, hw_isr, hw_at, hw_atr, hw_of, hw_hw, hw_sz, hw_wfR, hw_waR, hw_rI, hw_rV, hw_rR, nI_add, hw_in, hw_cl, hw_R_same, hw_R_R, hw_U_same, hw_U_ne, hw_okn1_0, hw_okn1_1, hS, h3, hw_le, hc, if_false, hw_R_at, Nat.add_left_cancel_iff, Nat.reduceEqDiff, h1, h2]
      obtain ⟨F', A', e, q, p1, p2, p3⟩ := ih (k + 1) F (hw_R (hw_R A (m + 23) (hw_U (kv_dn f i k) k (kv_dn f i k (k + 1)))) (m + 24) (hw_U (kv_dn g i k) k (kv_dn g i k (k + 1)))) (by omega) (by omega) (by omega) (by rw [hw_R_ne _ _ (by omega), hw_R_same, kv_dn_step f hik]) (by rw [hw_R_same, kv_dn_step g hik]) h3
      exact ⟨F', A', e, (((mQ.refl _ _ m F A).aR rfl (by omega)).aR rfl (by omega)).trans q, p1, p2, p3⟩
    · obtain rfl : k = n := by omega
      simp (disch := omega) only [↓reduceIte, ↓hw_bdF, ↓hw_bdA, ↓hw_cbd, Option.bind_some, hw_bd, cond_true, cond_false, hw_fR, hw_fI, hw_aI, hw_aR, hw_is, hw_isr, hw_at, hw_atr, hw_of, hw_hw, hw_sz, hw_wfR, hw_waR, hw_rI, hw_rV, hw_rR, nI_add, hw_in, hw_cl, hw_R_same, hw_R_R, hw_U_same, hw_U_ne, hw_okn1_0, hw_okn1_1, hS, h3, hw_le, Nat.le_refl, if_true, hw_sub, Nat.add_sub_cancel]
      refine ⟨_, _, rfl, (mQ.refl _ _ m F A).fR rfl, ?_, h1, h2⟩
      rw [hw_R_same, hw_U_at, if_pos rfl]
theorem m_takesOut {h : ix_H} {m : Nat} (hS : mSh h m) {F A : Nat → Nat → Int32} {N : Nat} (hN : 1000 ≤ N) (d : Nat) {l : KV} (hL : mL F A m l) (hs : kv_so l) (hl : l.length ≤ 88) (key : Int32) :
    ∃ F' A', ix_run iy_P N (d + 3) 277 [ix_R (some m), ix_I key] (hw h F A) = some (.inl none, hw h F' A') ∧ mQ [40] [23, 24] m F A F' A' ∧ mL F' A' m (kv_del key l) := by
  have hle := kv_wh_le key l
  rw [rX9_takesOut N (d + 2)]
  unfold bX9_takesOut
  simp (disch := omega) only [↓reduceIte, ↓hw_bdF, ↓hw_bdA, ↓hw_cbd, Option.bind_some, hw_bd, cond_true, cond_false, hw_fR, hw_fI, hw_aI, hw_aR, hw_is, hw_isr, hw_at, hw_atr, hw_of, hw_hw, hw_sz, hw_wfR, hw_waR, hw_rI, hw_rV, hw_rR, nI_add, hw_in, hw_cl, hw_R_same, hw_R_R, hw_U_same, hw_U_ne, hw_okn1_0, hw_okn1_1, hS, m_whereOf hS hN (d + 1) hL (Nat.le_trans hl (by decide)) key, m_isThere hS hN d hL hs (Nat.le_trans hl (by decide)) key]
  cases hg : kv_get key l with
  | none =>
    simp only [if_true]
    refine ⟨F, A, rfl, mQ.refl _ _ _ _ _, ?_⟩
    rw [kv_del_no hs hg]
    exact hL
  | some w =>
    obtain ⟨hlt, -⟩ := (kv_get_wh hs w).mp hg
    have h10 : ¬ nI 1 = nI 0 := by decide
    simp only [h10, reduceCtorEq, if_false]
    obtain ⟨N, rfl⟩ : ∃ z, N = z + 1 := ⟨N - 1, by omega⟩
    obtain ⟨n, hn⟩ : ∃ n, l.length = n + 1 := ⟨l.length - 1, by omega⟩
    obtain ⟨F', A', e, q, p1, p2, p3⟩ := m_takesOut_l hS (ix_run iy_P (N + 1) (d + 2)) (A (m + 23)) (A (m + 24)) (i := kv_wh key l) (n := n) (by omega) (N + 2) (kv_wh key l) F A (Nat.le_refl _) (by omega) (by omega) (kv_dn_n _ _).symm (kv_dn_n _ _).symm (hn ▸ hL.1)
    rw [lX9_takesOut_9] at e
    refine ⟨F', A', e, q, ?_, ?_⟩
    · rw [p1, kv_del_yes hs hg, List.length_eraseIdx, if_pos hlt, hn, Nat.add_sub_cancel]
    · rw [p2, p3, kv_del_yes hs hg]
      exact kv_in_era hL.2 (by omega)
theorem kv_set_ge {k v : Int32} : ∀ l : KV, l.length ≤ (kv_set k v l).length
  | [] => Nat.zero_le _
  | q :: r => by
    have ih := kv_set_ge (k := k) (v := v) r
    simp only [kv_set]
    split
    · simp only [List.length_cons]; omega
    · split <;> simp only [List.length_cons] <;> omega
theorem kv_join_ge : ∀ (b l : KV), l.length ≤ (kv_join l b).length
  | [], l => Nat.le_refl _
  | q :: r, l => Nat.le_trans (kv_set_ge (k := q.1) (v := q.2) l) (kv_join_ge r _)
/-- all of a base comes in, from a place on -/
theorem m_takesIn_l {h : ix_H} {m : Nat} (hS : mSh h m) {S : zS} (hn : zn S ≤ 1400) {b : Nat} (hb : b < zn S) (h6 : zr S b 6 = nI (zi S b).length) (hlen : (zi S b).length ≤ 43) {N : Nat} (hN : 1000 ≤ N) (d : Nat) {c : KV} (hc : c.length ≤ 43) : ∀ z i (l : KV) F A, i ≤ (zi S b).length → (zi S b).length - i < z → mR (A (m + 21)) S → mL F A m l → kv_so l → kv_join l ((zi S b).drop i) = c →
    ∃ F' A', ix_lp (ix_run iy_P N (d + 3)) stX9_takesIn z 2 [(0, ix_R (some m)), (1, ix_I (nI b)), (2, ix_I (nI i))] [] (hw h F A) = some (.inl none, hw h F' A') ∧ mQ [40, 41, 42] [23, 24] m F A F' A' ∧ mH F' A' m (c, zr S b 7, zr S b 8) := by
  intro z
  induction z with
  | zero => intro i l F A _ h; omega
  | succ z ih =>
    intro i l F A hi hz hR hL hs hj
    have hl : l.length ≤ 43 := Nat.le_trans (kv_join_ge _ l) (hj ▸ hc)
    rw [lX9_takesIn_2]
    unfold jX9_takesIn_2
    rcases Nat.lt_or_ge i (zi S b).length with h1 | h1
    · obtain ⟨w1, w2⟩ := hR.2.2.2.2 b hb i h1
      dsimp only at w1 w2
      obtain ⟨F1, A1, e1, q1, l1⟩ := m_setsIn hS hN d hL hs (by omega) ((zi S b)[i]).1 ((zi S b)[i]).2
      simp (disch := omega) only [↓reduceIte, ↓hw_bdF, ↓hw_bdA, ↓hw_cbd, Option.bind_some, hw_bd, cond_true, cond_false, hw_fR, hw_fI, hw_aI, hw_aR, hw_is, hw_isr, hw_at, hw_atr, hw_of, hw_hw, hw_sz, hw_wfR, hw_waR, hw_rI, hw_rV, hw_rR, nI_add, hw_in, hw_cl, hw_R_same, hw_R_R, hw_U_same, hw_U_ne, hw_okn1_0, hw_okn1_1, hS, m_ofRecord hS, hR.2.2.2.1 b _ hb, m_baseAt, h6, hw_le, Nat.not_le.mpr h1, if_false, w1, w2, e1]
      have hd : kv_join (kv_set ((zi S b)[i]).1 ((zi S b)[i]).2 l) ((zi S b).drop (i + 1)) = c := by
        rw [← hj, List.drop_eq_getElem_cons h1]
        rfl
      obtain ⟨F2, A2, e2, q2, l2⟩ := ih (i + 1) _ F1 A1 h1 (by omega) (by rw [q1.2.2.1 21 rfl]; exact hR) l1 (kv_set_so hs) hd
      exact ⟨F2, A2, e2, (q1.mono rfl rfl).trans q2, l2⟩
    · simp (disch := omega) only [↓reduceIte, ↓hw_bdF, ↓hw_bdA, ↓hw_cbd, Option.bind_some, hw_bd, cond_true, cond_false, hw_fR, hw_fI, hw_aI, hw_aR, hw_is, hw_isr, hw_at, hw_atr, hw_of, hw_hw, hw_sz, hw_wfR, hw_waR, hw_rI, hw_rV, hw_rR, nI_add, hw_in, hw_cl, hw_R_same, hw_R_R, hw_U_same, hw_U_ne, hw_okn1_0, hw_okn1_1, hS, m_ofRecord hS, hR.2.2.2.1 b _ hb, h6, hw_le, h1, if_true, hw_R_at, Nat.add_left_cancel_iff, Nat.reduceEqDiff, if_false]
      rw [List.drop_eq_nil_of_le h1] at hj
      refine ⟨_, _, rfl, ((mQ.refl _ _ m F A).fR rfl).fU rfl, ⟨?_, ?_⟩, ?_, ?_⟩
      · simp (disch := omega) only [hw_R_same, hw_R_ne, hw_U_same, hw_U_ne]
        rw [← hj]
        exact hL.1
      · rw [← hj]
        exact hL.2
      · simp (disch := omega) only [hw_R_same, hw_R_ne, hw_U_same, hw_U_ne]
      · simp (disch := omega) only [hw_R_same, hw_R_ne, hw_U_same, hw_U_ne]
theorem m_takesIn {h : ix_H} {m : Nat} (hS : mSh h m) {S : zS} (hn : zn S ≤ 1400) {b : Nat} (hb : b < zn S) (h6 : zr S b 6 = nI (zi S b).length) (hlen : (zi S b).length ≤ 43) {N : Nat} (hN : 1000 ≤ N) (d : Nat) {l : KV} {F A : Nat → Nat → Int32} (hR : mR (A (m + 21)) S) (hL : mL F A m l) (hs : kv_so l) (hc : (kv_join l (zi S b)).length ≤ 43) :
    ∃ F' A', ix_run iy_P N (d + 4) 272 [ix_R (some m), ix_I (nI b)] (hw h F A) = some (.inl none, hw h F' A') ∧ mQ [40, 41, 42] [23, 24] m F A F' A' ∧ mH F' A' m (kv_join l (zi S b), zr S b 7, zr S b 8) := by
  rw [rX9_takesIn N (d + 3)]
  unfold bX9_takesIn
  obtain ⟨N, rfl⟩ : ∃ z, N = z + 1 := ⟨N - 1, by omega⟩
  rw [← lX9_takesIn_2]
  exact m_takesIn_l hS hn hb h6 hlen hN d hc (N + 1 + 1) 0 l F A (Nat.zero_le _) (by omega) hR hL hs rfl
/-- one record more from beneath -/
theorem m_applies {h : ix_H} {m : Nat} (hS : mSh h m) {S : zS} (hW : z_B S.1 (zn S)) {r : Nat} (hr : r < zn S) {N : Nat} (hN : 1000 ≤ N) (d : Nat) {c : zG} {F A : Nat → Nat → Int32} (hR : mR (A (m + 21)) S) (hL : mL F A m c.1) (hL2 : zr S r 0 ≠ nI 0 → mH F A m c) (hs : kv_so c.1) (hc : c.1.length ≤ 43) (hb : zr S r 0 = nI 0 → c.1 = []) (ha : (z_ap S.1 r c).1.length ≤ 43) :
    ∃ F' A', ix_run iy_P N (d + 5) 271 [ix_R (some m), ix_I (nI r)] (hw h F A) = some (.inl none, hw h F' A') ∧ mQ [40, 41, 42] [23, 24] m F A F' A' ∧ mH F' A' m (z_ap S.1 r c) := by
  have hn := hW.1
  have hrr := hR.2.2.2.1 r
  have ho := hW.2 r hr
  rw [rX9_applies N (d + 4)]
  unfold bX9_applies jX9_applies_19 jX9_applies_25 jX9_applies_49
  simp (config := {maxSteps := 2000000}) (disch := omega) only [↓reduceIte, ↓hw_bdF, ↓hw_bdA, ↓hw_cbd, Option.bind_some, hw_bd, cond_true, cond_false, hw_fR, hw_fI, hw_aI, hw_aR, hw_is, hw_isr, hw_at, hw_atr, hw_of, hw_hw, hw_sz, hw_wfR, hw_waR, hw_rI, hw_rV, hw_rR, nI_add, hw_in, hw_cl, hw_R_same, hw_R_R, hw_U_same, hw_U_ne, hw_okn1_0, hw_okn1_1, hS, m_ofRecord hS, hrr _ hr]
  by_cases h0 : zr S r 0 = nI 0
  · have ec : c.1 = [] := hb h0
    have hso : kv_so (zi S r) ∧ (zi S r).length ≤ 43 := by
      have := ho.2.2.2
      rw [z_ct_0 h0] at this
      exact ⟨this.1, this.2.1⟩
    obtain ⟨F1, A1, e1, q1, l1⟩ := m_takesIn hS hn hr ho.2.1 hso.2 hN d hR hL hs (by rw [ec, kv_join_nil hso.1]; exact hso.2)
    simp only [↓reduceIte, ↓hw_bdF, ↓hw_bdA, ↓hw_cbd, Option.bind_some, hw_bd, cond_true, cond_false, hw_fR, hw_fI, hw_aI, hw_aR, hw_is, hw_isr, hw_at, hw_atr, hw_of, hw_hw, hw_sz, hw_wfR, hw_waR, hw_rI, hw_rV, hw_rR, nI_add, hw_in, hw_cl, hw_R_same, hw_R_R, hw_U_same, hw_U_ne, hw_okn1_0, hw_okn1_1, h0, if_true, e1]
    refine ⟨F1, A1, rfl, q1, ?_⟩
    rw [z_ap_base c h0]
    rw [ec, kv_join_nil hso.1] at l1
    exact l1
  have hH := hL2 h0
  simp only [h0, if_false]
  by_cases h16 : zr S r 0 = nI 1 ∨ zr S r 0 = nI 6
  · obtain ⟨F1, A1, e1, q1, l1⟩ := m_setsIn hS hN (d + 1) hL hs (by omega) (zr S r 1) (zr S r 2)
    refine ⟨F1, A1, ?_, q1.mono rfl rfl, ?_⟩
    · rcases h16 with h | h
      · simp only [↓reduceIte, ↓hw_bdF, ↓hw_bdA, ↓hw_cbd, Option.bind_some, hw_bd, cond_true, cond_false, hw_fR, hw_fI, hw_aI, hw_aR, hw_is, hw_isr, hw_at, hw_atr, hw_of, hw_hw, hw_sz, hw_wfR, hw_waR, hw_rI, hw_rV, hw_rR, nI_add, hw_in, hw_cl, hw_R_same, hw_R_R, hw_U_same, hw_U_ne, hw_okn1_0, hw_okn1_1, hS, h, if_true, e1]
      · simp only [↓reduceIte, ↓hw_bdF, ↓hw_bdA, ↓hw_cbd, Option.bind_some, hw_bd, cond_true, cond_false, hw_fR, hw_fI, hw_aI, hw_aR, hw_is, hw_isr, hw_at, hw_atr, hw_of, hw_hw, hw_sz, hw_wfR, hw_waR, hw_rI, hw_rV, hw_rR, nI_add, hw_in, hw_cl, hw_R_same, hw_R_R, hw_U_same, hw_U_ne, hw_okn1_0, hw_okn1_1, hS, h, if_true, e1, show ¬ nI 6 = nI 1 by decide, show ¬ nI 6 = nI 2 by decide, show ¬ nI 6 = nI 3 by decide, show ¬ nI 6 = nI 4 by decide, show ¬ nI 6 = nI 5 by decide, if_false]
    · rw [z_ap_set c h16]
      exact ⟨l1, (q1.2.1 41 rfl).trans hH.2.1, (q1.2.1 42 rfl).trans hH.2.2⟩
  have h1 : ¬ zr S r 0 = nI 1 := fun h => h16 (Or.inl h)
  have h6 : ¬ zr S r 0 = nI 6 := fun h => h16 (Or.inr h)
  simp only [h1, h6, if_false]
  by_cases h27 : zr S r 0 = nI 2 ∨ zr S r 0 = nI 7
  · obtain ⟨F1, A1, e1, q1, l1⟩ := m_takesOut hS hN (d + 1) hL hs (by omega) (zr S r 1)
    refine ⟨F1, A1, ?_, q1.mono rfl rfl, ?_⟩
    · rcases h27 with h | h
      · simp only [↓reduceIte, ↓hw_bdF, ↓hw_bdA, ↓hw_cbd, Option.bind_some, hw_bd, cond_true, cond_false, hw_fR, hw_fI, hw_aI, hw_aR, hw_is, hw_isr, hw_at, hw_atr, hw_of, hw_hw, hw_sz, hw_wfR, hw_waR, hw_rI, hw_rV, hw_rR, nI_add, hw_in, hw_cl, hw_R_same, hw_R_R, hw_U_same, hw_U_ne, hw_okn1_0, hw_okn1_1, hS, h, if_true, e1]
      · simp only [↓reduceIte, ↓hw_bdF, ↓hw_bdA, ↓hw_cbd, Option.bind_some, hw_bd, cond_true, cond_false, hw_fR, hw_fI, hw_aI, hw_aR, hw_is, hw_isr, hw_at, hw_atr, hw_of, hw_hw, hw_sz, hw_wfR, hw_waR, hw_rI, hw_rV, hw_rR, nI_add, hw_in, hw_cl, hw_R_same, hw_R_R, hw_U_same, hw_U_ne, hw_okn1_0, hw_okn1_1, hS, h, if_true, e1, show ¬ nI 7 = nI 2 by decide, show ¬ nI 7 = nI 3 by decide, show ¬ nI 7 = nI 4 by decide, show ¬ nI 7 = nI 5 by decide, if_false]
    · rw [z_ap_del c h27]
      exact ⟨l1, (q1.2.1 41 rfl).trans hH.2.1, (q1.2.1 42 rfl).trans hH.2.2⟩
  have h2 : ¬ zr S r 0 = nI 2 := fun h => h27 (Or.inl h)
  have h7 : ¬ zr S r 0 = nI 7 := fun h => h27 (Or.inr h)
  simp only [h2, h7, if_false]
  by_cases h3 : zr S r 0 = nI 3
  · simp (disch := omega) only [↓reduceIte, ↓hw_bdF, ↓hw_bdA, ↓hw_cbd, Option.bind_some, hw_bd, cond_true, cond_false, hw_fR, hw_fI, hw_aI, hw_aR, hw_is, hw_isr, hw_at, hw_atr, hw_of, hw_hw, hw_sz, hw_wfR, hw_waR, hw_rI, hw_rV, hw_rR, nI_add, hw_in, hw_cl, hw_R_same, hw_R_R, hw_U_same, hw_U_ne, hw_okn1_0, hw_okn1_1, hS, h3, if_true, m_whereOf hS hN (d + 3) hL (show c.1.length ≤ 89 by omega)]
    refine ⟨_, _, rfl, (((mQ.refl _ _ m F A).fR rfl).fU rfl).fU rfl, ?_⟩
    rw [z_ap_cut c h3]
    refine ⟨⟨?_, kv_in_take hL.2 _⟩, ?_, ?_⟩
    · rw [kv_cut_len]
      simp (disch := omega) only [hw_R_same, hw_R_ne, hw_U_same, hw_U_ne]
      rfl
    · simp (disch := omega) only [hw_R_same, hw_R_ne, hw_U_same, hw_U_ne]
      rfl
    · simp (disch := omega) only [hw_R_same, hw_R_ne, hw_U_same, hw_U_ne]
      rfl
  simp only [h3, if_false]
  by_cases h5 : zr S r 0 = nI 5
  · obtain ⟨b, hbr, h9, hb0⟩ := ho.2.2.1 h5
    have hob := hW.2 b (by omega)
    have hso : kv_so (zi S b) ∧ (zi S b).length ≤ 43 := by
      have := hob.2.2.2
      rw [z_ct_0 hb0] at this
      exact ⟨this.1, this.2.1⟩
    have e5 := z_ap_join c h5
    rw [h9, nI_clamp (by omega)] at e5
    rw [e5] at ha ⊢
    obtain ⟨F1, A1, e1, q1, l1⟩ := m_takesIn hS hn (b := b) (by omega) hob.2.1 hso.2 hN d hR hL hs ha
    have h9' : zr S r 9 = nI b := h9
    simp (disch := omega) only [↓reduceIte, ↓hw_bdF, ↓hw_bdA, ↓hw_cbd, Option.bind_some, hw_bd, cond_true, cond_false, hw_fR, hw_fI, hw_aI, hw_aR, hw_is, hw_isr, hw_at, hw_atr, hw_of, hw_hw, hw_sz, hw_wfR, hw_waR, hw_rI, hw_rV, hw_rR, nI_add, hw_in, hw_cl, hw_R_same, hw_R_R, hw_U_same, hw_U_ne, hw_okn1_0, hw_okn1_1, hS, h5, if_true, show ¬ nI 5 = nI 4 by decide, if_false, m_ofRecord hS, hrr _ hr, h9', e1]
    exact ⟨F1, A1, rfl, q1, l1⟩
  have e5 : z_ap S.1 r c = c := z_ap_no c h0 h1 h2 h3 h5 h6 h7
  rw [e5]
  refine ⟨F, A, ?_, mQ.refl _ _ _ _ _, hH⟩
  by_cases h4 : zr S r 0 = nI 4
  · simp only [↓reduceIte, ↓hw_bdF, ↓hw_bdA, ↓hw_cbd, Option.bind_some, hw_bd, cond_true, cond_false, hw_fR, hw_fI, hw_aI, hw_aR, hw_is, hw_isr, hw_at, hw_atr, hw_of, hw_hw, hw_sz, hw_wfR, hw_waR, hw_rI, hw_rV, hw_rR, nI_add, hw_in, hw_cl, hw_R_same, hw_R_R, hw_U_same, hw_U_ne, hw_okn1_0, hw_okn1_1, h4, if_true]
  · simp only [↓reduceIte, ↓hw_bdF, ↓hw_bdA, ↓hw_cbd, Option.bind_some, hw_bd, cond_true, cond_false, hw_fR, hw_fI, hw_aI, hw_aR, hw_is, hw_isr, hw_at, hw_atr, hw_of, hw_hw, hw_sz, hw_wfR, hw_waR, hw_rI, hw_rV, hw_rR, nI_add, hw_in, hw_cl, hw_R_same, hw_R_R, hw_U_same, hw_U_ne, hw_okn1_0, hw_okn1_1, h4, h5, if_false]
/-- the chain of a page -/
theorem m_fillsChain_l {h : ix_H} {m : Nat} (hS : mSh h m) {S : zS} (hn : zn S ≤ 1400) (N d : Nat) : ∀ (l c : List Nat) z F A x t, l = x :: t → z_lk S.1 l → (∀ y ∈ l, y < zn S) → mR (A (m + 21)) S → mC F A m c → c.length + l.length ≤ 840 → l.length + 1 < z →
    ∃ F' A', ix_lp (ix_run iy_P N (d + 1)) stX9_fillsChain z 7 [(0, ix_R (some m)), (2, ix_I (nI x))] [] (hw h F A) = some (.inl none, hw h F' A') ∧ mQ [37] [22] m F A F' A' ∧ mC F' A' m (c ++ l) := by
  intro l
  induction l with
  | nil => intro c z F A x t h; cases h
  | cons x l ih =>
    intro c z F A x' t he hk hm hR hC hlen hz
    cases he
    obtain ⟨z, rfl⟩ : ∃ w, z = w + 1 := ⟨z - 1, by omega⟩
    have hx := hm x List.mem_cons_self
    have hrr := hR.2.2.2.1 x 3 hx (by omega)
    have hneg : ¬ nI x < nI 0 := by rw [hw_lt (by omega) (by omega)]; omega
    simp only [List.length_cons] at hlen hz
    rw [lX9_fillsChain_7]
    unfold jX9_fillsChain_7
    have hA0 : (hw_R A (m + 22) (hw_U (A (m + 22)) c.length (nI x))) (m + 21) = A (m + 21) := hw_R_ne _ _ (by omega)
    have hC2 : mC (hw_R F m (hw_U (F m) 37 (nI (c.length + 1)))) (hw_R A (m + 22) (hw_U (A (m + 22)) c.length (nI x))) m (c ++ [x]) := by
      refine ⟨?_, fun i hi => ?_⟩
      · rw [hw_R_same, hw_U_at, if_pos rfl, List.length_append, List.length_singleton]
      · rw [hw_R_same, hw_U_at]
        by_cases e : i = c.length
        · subst e
          simp
        · have h1 : i < c.length := by
            rw [List.length_append, List.length_singleton] at hi
            omega
          rw [if_neg e, List.getElem_append_left h1]
          exact hC.2 i h1
    simp (disch := omega) only [↓reduceIte, ↓hw_bdF, ↓hw_bdA, ↓hw_cbd, Option.bind_some, hw_bd, cond_true, cond_false, hw_fR, hw_fI, hw_aI, hw_aR, hw_is, hw_isr, hw_at, hw_atr, hw_of, hw_hw, hw_sz, hw_wfR, hw_waR, hw_rI, hw_rV, hw_rR, nI_add, hw_in, hw_cl, hw_R_same, hw_R_R, hw_U_same, hw_U_ne, hw_okn1_0, hw_okn1_1, hS, hneg, if_false, hC.1, m_ofRecord hS, hA0, hrr]
    have q1 : mQ [37] [22] m F A (hw_R F m (hw_U (F m) 37 (nI (c.length + 1)))) (hw_R A (m + 22) (hw_U (A (m + 22)) c.length (nI x))) := ((mQ.refl _ _ m F A).aR rfl (by omega)).fR rfl
    cases l with
    | nil =>
      obtain ⟨-, h3⟩ := hk
      have h3' : zr S x 3 = -2 := h3
      obtain ⟨z, rfl⟩ : ∃ w, z = w + 1 := ⟨z - 1, by simp at hz; omega⟩
      rw [h3', lX9_fillsChain_7]
      unfold jX9_fillsChain_7
      rw [if_pos (by decide)]
      exact ⟨_, _, rfl, q1, hC2⟩
    | cons y l =>
      obtain ⟨-, h3, hk2⟩ := hk
      have h3' : zr S x 3 = nI y := h3
      rw [h3']
      obtain ⟨F2, A2, e2, q2, c2⟩ := ih (c ++ [x]) z _ _ y l rfl hk2 (fun w hw => hm w (List.mem_cons_of_mem _ hw)) (by rw [hA0]; exact hR) hC2 (by rw [List.length_append, List.length_singleton]; omega) (by omega)
      refine ⟨F2, A2, e2, q1.trans q2, ?_⟩
      rw [List.append_assoc] at c2
      exact c2
theorem m_fillsChain {h : ix_H} {m : Nat} (hS : mSh h m) {S : zS} (hW : z_W S) {N : Nat} (hN : 1000 ≤ N) (d : Nat) {p : Nat} (hp : p < zp S) {F A : Nat → Nat → Int32} (hR : mR (A (m + 21)) S) :
    ∃ F' A', ix_run iy_P N (d + 2) 269 [ix_R (some m), ix_I (nI p)] (hw h F A) = some (.inl none, hw h F' A') ∧ mQ [37] [22] m F A F' A' ∧ mC F' A' m (z_chain S.1 (zt S p)) := by
  have hp2 := hW.2.2.1
  have ht := hW.2.2.2 p hp
  have hlen := (hW.pg hp).2.2
  rw [rX9_fillsChain N (d + 1)]
  unfold bX9_fillsChain
  simp (disch := omega) only [↓reduceIte, ↓hw_bdF, ↓hw_bdA, ↓hw_cbd, Option.bind_some, hw_bd, cond_true, cond_false, hw_fR, hw_fI, hw_aI, hw_aR, hw_is, hw_isr, hw_at, hw_atr, hw_of, hw_hw, hw_sz, hw_wfR, hw_waR, hw_rI, hw_rV, hw_rR, nI_add, hw_in, hw_cl, hw_R_same, hw_R_R, hw_U_same, hw_U_ne, hw_okn1_0, hw_okn1_1, hS, m_topOf hS, hR.2.1 p hp]
  obtain ⟨t, he⟩ := z_chain_hd hW.1 ht
  have hk := z_chain_lk hW.1 _ ht
  have hm := z_chain_mem hW.1 _ ht
  obtain ⟨N, rfl⟩ : ∃ z, N = z + 1 := ⟨N - 1, by omega⟩
  rw [← lX9_fillsChain_7]
  obtain ⟨F', A', e, q, c⟩ := m_fillsChain_l hS hW.1.1 (N + 1) d (z_chain S.1 (zt S p)) [] (N + 1 + 1) (hw_R F m (hw_U (F m) 37 (nI 0))) A (zt S p) t he hk (fun y hy => Nat.lt_of_le_of_lt (hm y hy) ht) hR ⟨by rw [hw_R_same, hw_U_at, if_pos rfl]; rfl, fun i hi => absurd hi (Nat.not_lt_zero i)⟩ (by simp only [List.length_nil]; omega) (by omega)
  exact ⟨F', A', e, ((mQ.refl _ _ m F A).fR rfl).trans q, c⟩
theorem m_lengthOf {h : ix_H} {m : Nat} (hS : mSh h m) {S : zS} (hW : z_W S) {N : Nat} (hN : 1000 ≤ N) (d : Nat) {p : Nat} (hp : p < zp S) {F A : Nat → Nat → Int32} (hR : mR (A (m + 21)) S) :
    ∃ F' A', ix_run iy_P N (d + 3) 298 [ix_R (some m), ix_I (nI p)] (hw h F A) = some (.inl (some (ix_I (nI (z_len S p)))), hw h F' A') ∧ mQ [37] [22] m F A F' A' := by
  obtain ⟨F', A', e, q, c⟩ := m_fillsChain hS hW hN d hp (F := F) hR
  have := z_chain_pos hW.1 (hW.2.2.2 p hp)
  rw [rX9_lengthOf N (d + 2)]
  unfold bX9_lengthOf
  simp (disch := omega) only [↓reduceIte, ↓hw_bdF, ↓hw_bdA, ↓hw_cbd, Option.bind_some, hw_bd, cond_true, cond_false, hw_fR, hw_fI, hw_aI, hw_aR, hw_is, hw_isr, hw_at, hw_atr, hw_of, hw_hw, hw_sz, hw_wfR, hw_waR, hw_rI, hw_rV, hw_rR, nI_add, hw_in, hw_cl, hw_R_same, hw_R_R, hw_U_same, hw_U_ne, hw_okn1_0, hw_okn1_1, hS, e, c.1, hw_sub]
  exact ⟨F', A', rfl, q⟩
theorem m_isGone {h : ix_H} {m : Nat} (hS : mSh h m) {S : zS} (hW : z_W S) (N d : Nat) {p : Nat} (hp : p < zp S) {F A : Nat → Nat → Int32} (hR : mR (A (m + 21)) S) :
    ix_run iy_P N (d + 2) 287 [ix_R (some m), ix_I (nI p)] (hw h F A) = some (.inl (some (ix_I (if z_gone S p then nI 1 else nI 0))), hw h F A) := by
  have hp2 := hW.2.2.1
  have hn := hW.1.1
  have ht := hW.2.2.2 p hp
  rw [rX9_isGone N (d + 1)]
  unfold bX9_isGone jX9_isGone_11
  simp (disch := omega) only [↓reduceIte, ↓hw_bdF, ↓hw_bdA, ↓hw_cbd, Option.bind_some, hw_bd, cond_true, cond_false, hw_fR, hw_fI, hw_aI, hw_aR, hw_is, hw_isr, hw_at, hw_atr, hw_of, hw_hw, hw_sz, hw_wfR, hw_waR, hw_rI, hw_rV, hw_rR, nI_add, hw_in, hw_cl, hw_R_same, hw_R_R, hw_U_same, hw_U_ne, hw_okn1_0, hw_okn1_1, hS, m_topOf hS, hR.2.1 p hp, m_ofRecord hS, hR.2.2.2.1 _ 0 ht]
  unfold z_gone
  by_cases h4 : zr S (zt S p) 0 = nI 4
  · simp only [↓reduceIte, ↓hw_bdF, ↓hw_bdA, ↓hw_cbd, Option.bind_some, hw_bd, cond_true, cond_false, hw_fR, hw_fI, hw_aI, hw_aR, hw_is, hw_isr, hw_at, hw_atr, hw_of, hw_hw, hw_sz, hw_wfR, hw_waR, hw_rI, hw_rV, hw_rR, nI_add, hw_in, hw_cl, hw_R_same, hw_R_R, hw_U_same, hw_U_ne, hw_okn1_0, hw_okn1_1, h4, if_true]
  · simp only [↓reduceIte, ↓hw_bdF, ↓hw_bdA, ↓hw_cbd, Option.bind_some, hw_bd, cond_true, cond_false, hw_fR, hw_fI, hw_aI, hw_aR, hw_is, hw_isr, hw_at, hw_atr, hw_of, hw_hw, hw_sz, hw_wfR, hw_waR, hw_rI, hw_rV, hw_rR, nI_add, hw_in, hw_cl, hw_R_same, hw_R_R, hw_U_same, hw_U_ne, hw_okn1_0, hw_okn1_1, h4, if_false]
theorem m_baseOf {h : ix_H} {m : Nat} (hS : mSh h m) {S : zS} (hW : z_W S) {N : Nat} (hN : 1000 ≤ N) (d : Nat) {p : Nat} (hp : p < zp S) {F A : Nat → Nat → Int32} (hR : mR (A (m + 21)) S) :
    ∃ F' A', ix_run iy_P N (d + 3) 311 [ix_R (some m), ix_I (nI p)] (hw h F A) = some (.inl (some (ix_I (nI ((z_chain S.1 (zt S p)).getLastD 0)))), hw h F' A') ∧ mQ [37] [22] m F A F' A' := by
  obtain ⟨F1, A1, e1, q, c⟩ := m_fillsChain hS hW hN d hp (F := F) hR
  have h0 := z_chain_pos hW.1 (hW.2.2.2 p hp)
  have hlen := (hW.pg hp).2.2
  have hl := c.2 ((z_chain S.1 (zt S p)).length - 1) (by omega)
  have e2 : (z_chain S.1 (zt S p)).getLastD 0 = (z_chain S.1 (zt S p))[(z_chain S.1 (zt S p)).length - 1] := by
    rw [List.getLastD_eq_getLast?, List.getLast?_eq_getElem?, List.getElem?_eq_getElem (by omega)]
    rfl
  rw [rX9_baseOf N (d + 2)]
  unfold bX9_baseOf
  simp (disch := omega) only [↓reduceIte, ↓hw_bdF, ↓hw_bdA, ↓hw_cbd, Option.bind_some, hw_bd, cond_true, cond_false, hw_fR, hw_fI, hw_aI, hw_aR, hw_is, hw_isr, hw_at, hw_atr, hw_of, hw_hw, hw_sz, hw_wfR, hw_waR, hw_rI, hw_rV, hw_rR, nI_add, hw_in, hw_cl, hw_R_same, hw_R_R, hw_U_same, hw_U_ne, hw_okn1_0, hw_okn1_1, hS, e1, c.1, hw_sub, hl]
  exact ⟨F1, A1, by rw [e2], q⟩
