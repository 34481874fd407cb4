/-! M3: the reference: what pages have, bounds, all keys -/
set_option maxRecDepth 100000
theorem m_fillsHas_l {h : ix_H} {m : Nat} (hS : mSh h m) {S : zS} (hW : z_B S.1 (zn S)) {N : Nat} (hN : 1000 ≤ N) (d : Nat) {r : Nat} (hr : r < zn S) : ∀ k z F A, k ≤ (z_chain S.1 r).length → k < z → mR (A (m + 21)) S → mC F A m (z_chain S.1 r) → mL F A m (z_cf S.1 ((z_chain S.1 r).drop k)).1 → (k < (z_chain S.1 r).length → mH F A m (z_cf S.1 ((z_chain S.1 r).drop k))) →
    ∃ F' A', ix_lp (ix_run iy_P N (d + 5)) stX9_fillsHas z 11 [(0, ix_R (some m)), (2, ix_I (nI k - nI 1))] [] (hw h F A) = some (.inl none, hw h F' A') ∧ mQ [40, 41, 42] [23, 24] m F A F' A' ∧ (0 < k ∨ k < (z_chain S.1 r).length → mH F' A' m (z_ct S.1 r)) := by
  intro k
  induction k with
  | zero =>
    intro z F A hk hz hR hC hL hH
    obtain ⟨z, rfl⟩ : ∃ w, z = w + 1 := ⟨z - 1, by omega⟩
    rw [lX9_fillsHas_11]
    unfold jX9_fillsHas_11
    rw [if_pos hw_s0]
    refine ⟨F, A, rfl, mQ.refl _ _ _ _ _, fun hh => ?_⟩
    have := hH (by omega)
    exact this
  | succ i ih =>
    intro z F A hk hz hR hC hL hH
    obtain ⟨z, rfl⟩ : ∃ w, z = w + 1 := ⟨z - 1, by omega⟩
    have hi : i < (z_chain S.1 r).length := hk
    have hlen : (z_chain S.1 r).length ≤ 840 := (hW.2 r hr).2.2.2.2.2
    have hxr := z_chain_mem hW r hr _ (List.getElem_mem hi)
    have hn := hW.1
    have hlast := z_chain_last hW r hr i hi
    have hdr : (z_chain S.1 r).drop i = (z_chain S.1 r)[i] :: (z_chain S.1 r).drop (i + 1) := List.drop_eq_getElem_cons hi
    have hct : z_ap S.1 ((z_chain S.1 r)[i]) (z_cf S.1 ((z_chain S.1 r).drop (i + 1))) = z_ct S.1 ((z_chain S.1 r)[i]) := by
      rw [← z_cf_drop hW hr hi, hdr]
      rfl
    have hox := hW.2 _ (show (z_chain S.1 r)[i] < zn S by omega)
    have hcc : kv_so (z_cf S.1 ((z_chain S.1 r).drop (i + 1))).1 ∧ (z_cf S.1 ((z_chain S.1 r).drop (i + 1))).1.length ≤ 43 := by
      rcases Nat.lt_or_ge (i + 1) (z_chain S.1 r).length with h1 | h1
      · rw [z_cf_drop hW hr h1]
        have hxr2 := z_chain_mem hW r hr _ (List.getElem_mem h1)
        have := hW.2 _ (show (z_chain S.1 r)[i + 1] < zn S by omega)
        exact ⟨this.2.2.2.1, this.2.2.2.2.1⟩
      · rw [List.drop_eq_nil_of_le h1]
        exact ⟨kv_so_nil, Nat.zero_le _⟩
    obtain ⟨F1, A1, e1, q1, l1⟩ := m_applies hS hW (show (z_chain S.1 r)[i] < zn S by omega) hN d (c := z_cf S.1 ((z_chain S.1 r).drop (i + 1))) hR hL (fun h0 => hH (by
      have : ¬ i + 1 = (z_chain S.1 r).length := fun w => h0 (hlast.mpr w)
      omega)) hcc.1 hcc.2 (fun h0 => by
      have h1 := hlast.mp h0
      rw [List.drop_eq_nil_of_le (by omega)]
      rfl) (by rw [hct]; exact hox.2.2.2.2.1)
    rw [hct] at l1
    rw [hw_sub (by omega), Nat.add_sub_cancel, lX9_fillsHas_11]
    unfold jX9_fillsHas_11
    have hneg : ¬ nI i < nI 0 := by rw [hw_lt (by omega) (by omega)]; omega
    simp (disch := omega) only [↓reduceIte, ↓hw_bdF, ↓hw_bdA, ↓hw_cbd, Option.bind_some, hw_bd, cond_true, cond_false, hw_fR, hw_fI, hw_aI, hw_aR, hw_is, hw_isr, hw_at, hw_atr, hw_of, hw_hw, hw_sz, hw_wfR, hw_waR, hw_rI, hw_rV, hw_rR, nI_add, hw_in, hw_cl, hw_R_same, hw_R_R, hw_U_same, hw_U_ne, hw_okn1_0, hw_okn1_1, hS, hneg, if_false, hC.2 i hi, e1, hw_m1]
    have l1' : mH F1 A1 m (z_cf S.1 ((z_chain S.1 r).drop i)) := by
      rw [z_cf_drop hW hr hi]
      exact l1
    obtain ⟨F2, A2, e2, q2, l2⟩ := ih z F1 A1 (by omega) (by omega) (by rw [q1.2.2.1 21 rfl]; exact hR) ⟨(q1.2.1 37 rfl).trans hC.1, fun j hj => by rw [q1.2.2.1 22 rfl]; exact hC.2 j hj⟩ l1'.1 (fun _ => l1')
    exact ⟨F2, A2, e2, q1.trans q2, fun _ => l2 (Or.inr hi)⟩
theorem m_fillsHas {h : ix_H} {m : Nat} (hS : mSh h m) {S : zS} (hW : z_W S) {N : Nat} (hN : 1000 ≤ N) (d : Nat) {p : Nat} (hp : p < zp S) {F A : Nat → Nat → Int32} (hR : mR (A (m + 21)) S) :
    ∃ F' A', ix_run iy_P N (d + 6) 268 [ix_R (some m), ix_I (nI p)] (hw h F A) = some (.inl none, hw h F' A') ∧ mQ [37, 40, 41, 42] [22, 23, 24] m F A F' A' ∧ mH F' A' m (z_pg S p) ∧ mC F' A' m (z_chain S.1 (zt S p)) := by
  have ht := hW.2.2.2 p hp
  have hlen := (hW.pg hp).2.2
  have hpos := z_chain_pos hW.1 ht
  obtain ⟨F1, A1, e1, q1, c1⟩ := m_fillsChain hS hW hN (d + 3) hp (F := F) hR
  rw [rX9_fillsHas N (d + 5)]
  unfold bX9_fillsHas
  simp (disch := omega) only [↓reduceIte, ↓hw_bdF, ↓hw_bdA, ↓hw_cbd, Option.bind_some, hw_bd, cond_true, cond_false, hw_fR, hw_fI, hw_aI, hw_aR, hw_is, hw_isr, hw_at, hw_atr, hw_of, hw_hw, hw_sz, hw_wfR, hw_waR, hw_rI, hw_rV, hw_rR, nI_add, hw_in, hw_cl, hw_R_same, hw_R_R, hw_U_same, hw_U_ne, hw_okn1_0, hw_okn1_1, hS, e1, hw_U_at, Nat.reduceEqDiff, if_false, c1.1]
  obtain ⟨N, rfl⟩ : ∃ z, N = z + 1 := ⟨N - 1, by omega⟩
  rw [← lX9_fillsHas_11]
  have hdn : (z_chain S.1 (zt S p)).drop (z_chain S.1 (zt S p)).length = [] := List.drop_eq_nil_of_le (Nat.le_refl _)
  obtain ⟨F2, A2, e2, q2, l2⟩ := m_fillsHas_l hS hW.1 hN d ht (z_chain S.1 (zt S p)).length (N + 1 + 1) (hw_R F1 m (hw_U (F1 m) 40 (nI 0))) A1 (Nat.le_refl _) (by omega) (by rw [q1.2.2.1 21 rfl]; exact hR) ⟨by rw [hw_R_same, hw_U_ne _ _ (by decide)]; exact c1.1, c1.2⟩ (by rw [hdn]; exact ⟨by rw [hw_R_same, hw_U_same]; rfl, kv_in_nil _ _⟩) (fun hh => absurd hh (Nat.lt_irrefl _))
  refine ⟨F2, A2, e2, ((q1.mono rfl rfl).fR rfl).trans (q2.mono rfl rfl), l2 (Or.inl hpos), ?_⟩
  refine ⟨?_, fun i hi => ?_⟩
  · rw [q2.2.1 37 rfl, hw_R_same, hw_U_ne _ _ (by decide)]
    exact c1.1
  · rw [q2.2.2.1 22 rfl]
    exact c1.2 i hi
theorem m_fillsBounds_l {h : ix_H} {m : Nat} (hS : mSh h m) (cal : ix_C) {l : KV} (hl : l.length ≤ 89) : ∀ z i F A, i ≤ l.length → l.length - i < z → mL F A m l → kv_in (A (m + 25)) (A (m + 26)) (l.take i) →
    ∃ F' A', ix_lp cal stX9_fillsBounds z 9 [(0, ix_R (some m)), (1, ix_I (nI i))] [] (hw h F A) = some (.inl none, hw h F' A') ∧ mQ [] [25, 26] m F A F' A' ∧ kv_in (A' (m + 25)) (A' (m + 26)) l := by
  intro z
  induction z with
  | zero => intro i F A _ h; omega
  | succ z ih =>
    intro i F A hi hz hL hB
    rw [lX9_fillsBounds_9]
    unfold jX9_fillsBounds_9
    rcases Nat.lt_or_ge i l.length with h1 | h1
    · obtain ⟨w1, w2⟩ := hL.2 i h1
      simp (disch := omega) only [↓reduceIte, ↓hw_bdF, ↓hw_bdA, ↓hw_cbd, Option.bind_some, hw_bd, cond_true, cond_false, hw_fR, hw_fI, hw_aI, hw_aR, hw_is, hw_isr, hw_at, hw_atr, hw_of, hw_hw, hw_sz, hw_wfR, hw_waR, hw_rI, hw_rV, hw_rR, nI_add, hw_in, hw_cl, hw_R_same, hw_R_R, hw_U_same, hw_U_ne, hw_okn1_0, hw_okn1_1, hS, hL.1, hw_le, Nat.not_le.mpr h1, if_false, w1, w2, hw_R_at, Nat.add_left_cancel_iff, Nat.reduceEqDiff]
      have q1 : mQ [] [25, 26] m F A F (hw_R (hw_R A (m + 25) (hw_U (A (m + 25)) i ((l[i]).1))) (m + 26) (hw_U (A (m + 26)) i ((l[i]).2))) := ((mQ.refl _ _ m F A).aR rfl (by omega)).aR rfl (by omega)
      have htk : l.take (i + 1) = l.take i ++ [((l[i]).1, (l[i]).2)] := by
        rw [List.take_succ_eq_append_getElem h1]
      have hti : (l.take i).length = i := by rw [List.length_take]; omega
      obtain ⟨F2, A2, e2, q2, b2⟩ := ih (i + 1) F (hw_R (hw_R A (m + 25) (hw_U (A (m + 25)) i ((l[i]).1))) (m + 26) (hw_U (A (m + 26)) i ((l[i]).2))) h1 (by omega) ⟨hL.1, by rw [q1.2.2.1 23 rfl, q1.2.2.1 24 rfl]; exact hL.2⟩ (by
        rw [hw_R_ne _ _ (show m + 25 ≠ m + 26 by omega), hw_R_same, hw_R_same, htk]
        have := kv_in_app (k := (l[i]).1) (v := (l[i]).2) hB
        rw [hti] at this
        exact this)
      exact ⟨F2, A2, e2, q1.trans q2, b2⟩
    · simp (disch := omega) only [↓reduceIte, ↓hw_bdF, ↓hw_bdA, ↓hw_cbd, Option.bind_some, hw_bd, cond_true, cond_false, hw_fR, hw_fI, hw_aI, hw_aR, hw_is, hw_isr, hw_at, hw_atr, hw_of, hw_hw, hw_sz, hw_wfR, hw_waR, hw_rI, hw_rV, hw_rR, nI_add, hw_in, hw_cl, hw_R_same, hw_R_R, hw_U_same, hw_U_ne, hw_okn1_0, hw_okn1_1, hS, hL.1, hw_le, h1, if_true]
      rw [List.take_of_length_le h1] at hB
      exact ⟨F, A, rfl, mQ.refl _ _ _ _ _, hB⟩
theorem m_fillsBounds {h : ix_H} {m : Nat} (hS : mSh h m) {S : zS} (hW : z_W S) {N : Nat} (hN : 1000 ≤ N) (d : Nat) {F A : Nat → Nat → Int32} (hR : mR (A (m + 21)) S) :
    ∃ F' A', ix_run iy_P N (d + 7) 284 [ix_R (some m)] (hw h F A) = some (.inl none, hw h F' A') ∧ mQ [37, 40, 41, 42, 45] [22, 23, 24, 25, 26] m F A F' A' ∧ mB F' A' m (z_pg S 0).1 := by
  have h0 : 0 < zp S := by have := hW.2.1; omega
  have hpg := hW.pg h0
  obtain ⟨F1, A1, e1, q1, l1, -⟩ := m_fillsHas hS hW hN d h0 (F := F) hR
  rw [rX9_fillsBounds N (d + 6)]
  unfold bX9_fillsBounds
  simp (disch := omega) only [↓reduceIte, ↓hw_bdF, ↓hw_bdA, ↓hw_cbd, Option.bind_some, hw_bd, cond_true, cond_false, hw_fR, hw_fI, hw_aI, hw_aR, hw_is, hw_isr, hw_at, hw_atr, hw_of, hw_hw, hw_sz, hw_wfR, hw_waR, hw_rI, hw_rV, hw_rR, nI_add, hw_in, hw_cl, hw_R_same, hw_R_R, hw_U_same, hw_U_ne, hw_okn1_0, hw_okn1_1, hS, e1, l1.1.1]
  obtain ⟨N, rfl⟩ : ∃ z, N = z + 1 := ⟨N - 1, by omega⟩
  rw [← lX9_fillsBounds_9]
  obtain ⟨F2, A2, e2, q2, b2⟩ := m_fillsBounds_l hS (ix_run iy_P (N + 1) (d + 6)) (l := (z_pg S 0).1) (by omega) (N + 1 + 1) 0 (hw_R F1 m (hw_U (F1 m) 45 (nI (z_pg S 0).1.length))) A1 (Nat.zero_le _) (by omega) ⟨by rw [hw_R_same, hw_U_ne _ _ (by decide)]; exact l1.1.1, l1.1.2⟩ (kv_in_nil _ _)
  refine ⟨F2, A2, e2, ((q1.mono rfl rfl).fR rfl).trans (q2.mono rfl rfl), ?_, b2⟩
  rw [q2.2.1 45 rfl, hw_R_same, hw_U_same]
/-- a page's keys behind those that are there -/
theorem m_fillsAll_2 {h : ix_H} {m : Nat} (hS : mSh h m) (cal : ix_C) {l q : KV} (hl : l.length ≤ 43) (hq : q.length ≤ 43) (hlq : l.length + q.length ≤ 43) (rt : Int32) : ∀ z i F A, i ≤ q.length → q.length - i < z → mL F A m q → F m 42 = rt → mA F A m (l ++ q.take i) →
    ∃ F' A' z', ix_lp cal stX9_fillsAll z 13 [(0, ix_R (some m)), (2, ix_I (nI i))] [] (hw h F A) = ix_lp cal stX9_fillsAll z' 5 [(0, ix_R (some m)), (1, ix_I rt)] [] (hw h F' A') ∧ z ≤ z' + (q.length - i) + 1 ∧ mQ [48] [27, 28] m F A F' A' ∧ mA F' A' m (l ++ q) := by
  intro z
  induction z with
  | zero => intro i F A _ h; omega
  | succ z ih =>
    intro i F A hi hz hL hr hB
    rw [lX9_fillsAll_13]
    unfold jX9_fillsAll_13
    rcases Nat.lt_or_ge i q.length with h1 | h1
    · obtain ⟨w1, w2⟩ := hL.2 i h1
      have hti : (q.take i).length = i := by rw [List.length_take]; omega
      have hll : (l ++ q.take i).length = l.length + i := by rw [List.length_append, hti]
      have h48 : F m 48 = nI (l.length + i) := by rw [hB.1, hll]
      simp (disch := omega) only [↓reduceIte, ↓hw_bdF, ↓hw_bdA, ↓hw_cbd, Option.bind_some, hw_bd, cond_true, cond_false, hw_fR, hw_fI, hw_aI, hw_aR, hw_is, hw_isr, hw_at, hw_atr, hw_of, hw_hw, hw_sz, hw_wfR, hw_waR, hw_rI, hw_rV, hw_rR, nI_add, hw_in, hw_cl, hw_R_same, hw_R_R, hw_U_same, hw_U_ne, hw_okn1_0, hw_okn1_1, hS, hL.1, hw_le, Nat.not_le.mpr h1, if_false, w1, w2, hw_R_at, Nat.add_left_cancel_iff, Nat.reduceEqDiff, h48]
      have q1 : mQ [48] [27, 28] m F A (hw_R F m (hw_U (F m) 48 (nI (l.length + i + 1)))) (hw_R (hw_R A (m + 27) (hw_U (A (m + 27)) (l.length + i) ((q[i]).1))) (m + 28) (hw_U (A (m + 28)) (l.length + i) ((q[i]).2))) := (((mQ.refl _ _ m F A).aR rfl (by omega)).aR rfl (by omega)).fR rfl
      have htk : l ++ q.take (i + 1) = (l ++ q.take i) ++ [((q[i]).1, (q[i]).2)] := by
        rw [List.take_succ_eq_append_getElem h1, List.append_assoc]
      obtain ⟨F2, A2, z2, e2, hz2, q2, b2⟩ := ih (i + 1) (hw_R F m (hw_U (F m) 48 (nI (l.length + i + 1)))) (hw_R (hw_R A (m + 27) (hw_U (A (m + 27)) (l.length + i) ((q[i]).1))) (m + 28) (hw_U (A (m + 28)) (l.length + i) ((q[i]).2))) h1 (by omega) ⟨by rw [q1.2.1 40 rfl]; exact hL.1, by rw [q1.2.2.1 23 rfl, q1.2.2.1 24 rfl]; exact hL.2⟩ (by rw [q1.2.1 42 rfl]; exact hr) ⟨by
        rw [hw_R_same, hw_U_at, if_pos rfl, htk, List.length_append, hll]
        rfl, by
        rw [hw_R_ne _ _ (show m + 27 ≠ m + 28 by omega), hw_R_same, hw_R_same, htk]
        have := kv_in_app (k := (q[i]).1) (v := (q[i]).2) hB.2
        rw [hll] at this
        exact this⟩
      exact ⟨F2, A2, z2, e2, by omega, q1.trans q2, b2⟩
    · simp (disch := omega) only [↓reduceIte, ↓hw_bdF, ↓hw_bdA, ↓hw_cbd, Option.bind_some, hw_bd, cond_true, cond_false, hw_fR, hw_fI, hw_aI, hw_aR, hw_is, hw_isr, hw_at, hw_atr, hw_of, hw_hw, hw_sz, hw_wfR, hw_waR, hw_rI, hw_rV, hw_rR, nI_add, hw_in, hw_cl, hw_R_same, hw_R_R, hw_U_same, hw_U_ne, hw_okn1_0, hw_okn1_1, hS, hL.1, hw_le, h1, if_true, hr]
      rw [List.take_of_length_le h1] at hB
      exact ⟨F, A, z, rfl, by omega, mQ.refl _ _ _ _ _, hB⟩
theorem m_fillsAll_l {h : ix_H} {m : Nat} (hS : mSh h m) {S : zS} (hW : z_W S) {N : Nat} (hN : 1000 ≤ N) (d : Nat) : ∀ (rc : List Nat) (x : Nat) (t : List Nat) (l : KV) z F A, rc = x :: t → z_rk S rc → (∀ y ∈ rc, y < zp S) → (l ++ rc.flatMap fun p => (z_pg S p).1).length ≤ 43 → 50 * rc.length + 50 ≤ z → mR (A (m + 21)) S → mA F A m l →
    ∃ F' A', ix_lp (ix_run iy_P N (d + 7)) stX9_fillsAll z 5 [(0, ix_R (some m)), (1, ix_I (nI x))] [] (hw h F A) = some (.inl none, hw h F' A') ∧ mQ [37, 40, 41, 42, 48] [22, 23, 24, 27, 28] m F A F' A' ∧ mA F' A' m (l ++ rc.flatMap fun p => (z_pg S p).1) := by
  intro rc
  induction rc with
  | nil => intro x t l z F A h; cases h
  | cons x rc ih =>
    intro x' t l z F A he hk hm hlen hz hR hA
    cases he
    have hx := hm x List.mem_cons_self
    have h32 := hW.2.2.1
    have hpg := hW.pg hx
    obtain ⟨z, rfl⟩ : ∃ w, z = w + 1 := ⟨z - 1, by omega⟩
    simp only [List.length_cons] at hz
    simp only [List.flatMap_cons, List.length_append] at hlen
    obtain ⟨F1, A1, e1, q1, l1, -⟩ := m_fillsHas hS hW hN (d + 1) hx (F := F) hR
    rw [lX9_fillsAll_5]
    unfold jX9_fillsAll_5
    have hneg : ¬ nI x < nI 0 := by rw [hw_lt (by omega) (by omega)]; omega
    simp (disch := omega) only [↓reduceIte, ↓hw_bdF, ↓hw_bdA, ↓hw_cbd, Option.bind_some, hw_bd, cond_true, cond_false, hw_fR, hw_fI, hw_aI, hw_aR, hw_is, hw_isr, hw_at, hw_atr, hw_of, hw_hw, hw_sz, hw_wfR, hw_waR, hw_rI, hw_rV, hw_rR, nI_add, hw_in, hw_cl, hw_R_same, hw_R_R, hw_U_same, hw_U_ne, hw_okn1_0, hw_okn1_1, hS, hneg, if_false, e1]
    rw [← lX9_fillsAll_13]
    obtain ⟨F2, A2, z2, e2, hz2, q2, b2⟩ := m_fillsAll_2 hS (ix_run iy_P N (d + 7)) (l := l) (q := (z_pg S x).1) (by omega) hpg.2.1 (by omega) (z_pg S x).2.2 (z + 1) 0 F1 A1 (Nat.zero_le _) (by omega) l1.1 l1.2.2 (by
      rw [List.take_zero, List.append_nil]
      exact ⟨(q1.2.1 48 rfl).trans hA.1, by rw [q1.2.2.1 27 rfl, q1.2.2.1 28 rfl]; exact hA.2⟩)
    have q12 : mQ [37, 40, 41, 42, 48] [22, 23, 24, 27, 28] m F A F2 A2 := (q1.mono rfl rfl).trans (q2.mono rfl rfl)
    rw [e2]
    cases rc with
    | nil =>
      have h2 : (z_pg S x).2.2 = -2 := hk
      obtain ⟨z2, rfl⟩ : ∃ w, z2 = w + 1 := ⟨z2 - 1, by omega⟩
      rw [h2, lX9_fillsAll_5]
      unfold jX9_fillsAll_5
      rw [if_pos (by decide)]
      refine ⟨F2, A2, rfl, q12, ?_⟩
      simpa using b2
    | cons y rc =>
      obtain ⟨h2, hk2⟩ := hk
      rw [h2]
      obtain ⟨F3, A3, e3, q3, b3⟩ := ih y rc (l ++ (z_pg S x).1) z2 F2 A2 rfl hk2 (fun w hw => hm w (List.mem_cons_of_mem _ hw)) (by rw [List.append_assoc, List.length_append, List.length_append]; exact hlen) (by omega) (by rw [q12.2.2.1 21 rfl]; exact hR) b2
      refine ⟨F3, A3, e3, q12.trans q3, ?_⟩
      rw [List.append_assoc] at b3
      exact b3
theorem m_fillsAll {h : ix_H} {m : Nat} (hS : mSh h m) {S : zS} (hW : z_W S) {rc : List Nat} (hr : z_R S rc) {N : Nat} (hN : 2000 ≤ N) (d : Nat) {F A : Nat → Nat → Int32} (hR : mR (A (m + 21)) S) :
    ∃ F' A', ix_run iy_P N (d + 8) 267 [ix_R (some m)] (hw h F A) = some (.inl none, hw h F' A') ∧ mQ [37, 40, 41, 42, 48] [22, 23, 24, 27, 28] m F A F' A' ∧ mA F' A' m (z_all S) := by
  rw [hr.all hW.2.2.1]
  obtain ⟨⟨t, ht⟩, hk, hm, hl, h43⟩ := hr
  rw [rX9_fillsAll N (d + 7)]
  unfold bX9_fillsAll
  simp (disch := omega) only [↓reduceIte, ↓hw_bdF, ↓hw_bdA, ↓hw_cbd, Option.bind_some, hw_bd, cond_true, cond_false, hw_fR, hw_fI, hw_aI, hw_aR, hw_is, hw_isr, hw_at, hw_atr, hw_of, hw_hw, hw_sz, hw_wfR, hw_waR, hw_rI, hw_rV, hw_rR, nI_add, hw_in, hw_cl, hw_R_same, hw_R_R, hw_U_same, hw_U_ne, hw_okn1_0, hw_okn1_1, hS]
  obtain ⟨N, rfl⟩ : ∃ z, N = z + 1 := ⟨N - 1, by omega⟩
  rw [← lX9_fillsAll_5]
  obtain ⟨F', A', e, q, a⟩ := m_fillsAll_l hS hW (N := N + 1) (by omega) d rc 1 t [] (N + 1 + 1) (hw_R F m (hw_U (F m) 48 (nI 0))) A ht hk hm (by rw [List.nil_append]; exact h43) (by omega) hR ⟨by rw [hw_R_same, hw_U_same]; rfl, kv_in_nil _ _⟩
  exact ⟨F', A', e, ((mQ.refl _ _ m F A).fR rfl).trans q, a⟩
theorem m_pageBy_l {h : ix_H} {m : Nat} (hS : mSh h m) (F A : Nat → Nat → Int32) (cal : ix_C) {l : KV} (hB : mB F A m l) (hl : l.length ≤ 89) (key : Int32) : ∀ (q : KV) n i, q = l.drop i → i ≤ l.length → q.length < n → ix_lp cal stX9_pageBy n 2 [(0, ix_R (some m)), (1, ix_I key), (2, ix_I (nI i))] [] (hw h F A) = some (.inl (some (ix_I ((kv_get key q).getD (-1)))), hw h F A) := by
  intro q
  induction q with
  | nil =>
    intro n i hq hi hn
    obtain ⟨n, rfl⟩ : ∃ w, n = w + 1 := ⟨n - 1, by omega⟩
    have h1 : l.length ≤ i := by
      have := congrArg List.length hq
      rw [List.length_drop, List.length_nil] at this
      omega
    rw [lX9_pageBy_2]
    unfold jX9_pageBy_2
    simp (disch := omega) only [↓reduceIte, ↓hw_bdF, ↓hw_bdA, ↓hw_cbd, Option.bind_some, hw_bd, cond_true, cond_false, hw_fR, hw_fI, hw_aI, hw_aR, hw_is, hw_isr, hw_at, hw_atr, hw_of, hw_hw, hw_sz, hw_wfR, hw_waR, hw_rI, hw_rV, hw_rR, nI_add, hw_in, hw_cl, hw_R_same, hw_R_R, hw_U_same, hw_U_ne, hw_okn1_0, hw_okn1_1, hS, hB.1, hw_le, h1, if_true]
    rfl
  | cons z q ih =>
    intro n i hq hi hn
    obtain ⟨n, rfl⟩ : ∃ w, n = w + 1 := ⟨n - 1, by omega⟩
    have h1 : i < l.length := by
      have := congrArg List.length hq
      rw [List.length_drop, List.length_cons] at this
      omega
    rw [List.drop_eq_getElem_cons h1] at hq
    obtain ⟨e1, e2⟩ := List.cons.inj hq
    obtain ⟨w1, w2⟩ := hB.2 i h1
    rw [← e1] at w1 w2
    rw [lX9_pageBy_2]
    unfold jX9_pageBy_2
    simp (disch := omega) only [↓reduceIte, ↓hw_bdF, ↓hw_bdA, ↓hw_cbd, Option.bind_some, hw_bd, cond_true, cond_false, hw_fR, hw_fI, hw_aI, hw_aR, hw_is, hw_isr, hw_at, hw_atr, hw_of, hw_hw, hw_sz, hw_wfR, hw_waR, hw_rI, hw_rV, hw_rR, nI_add, hw_in, hw_cl, hw_R_same, hw_R_R, hw_U_same, hw_U_ne, hw_okn1_0, hw_okn1_1, hS, hB.1, hw_le, Nat.not_le.mpr h1, if_false, w1, w2, kv_get]
    by_cases hk : z.1 = key
    · simp only [hk, if_true, Option.getD_some]
    · simp only [hk, if_false]
      simp only [List.length_cons] at hn
      exact ih n (i + 1) e2 h1 (by omega)
theorem m_pageBy {h : ix_H} {m : Nat} (hS : mSh h m) {F A : Nat → Nat → Int32} {N : Nat} (hN : 1000 ≤ N) (d : Nat) {l : KV} (hB : mB F A m l) (hl : l.length ≤ 89) (key : Int32) : ix_run iy_P N (d + 1) 289 [ix_R (some m), ix_I key] (hw h F A) = some (.inl (some (ix_I ((kv_get key l).getD (-1)))), hw h F A) := by
  rw [rX9_pageBy N d]
  unfold bX9_pageBy
  obtain ⟨N, rfl⟩ : ∃ z, N = z + 1 := ⟨N - 1, by omega⟩
  rw [← lX9_pageBy_2]
  exact m_pageBy_l hS F A _ hB hl key l (N + 1 + 1) 0 rfl (Nat.zero_le _) (by omega)
theorem m_boundOf_l {h : ix_H} {m : Nat} (hS : mSh h m) (F A : Nat → Nat → Int32) (cal : ix_C) {l : KV} (hB : mB F A m l) (hl : l.length ≤ 89) (v : Int32) : ∀ (q : KV) n i, q = l.drop i → i ≤ l.length → q.length < n → ix_lp cal stX9_boundOf n 2 [(0, ix_R (some m)), (1, ix_I v), (2, ix_I (nI i))] [] (hw h F A) = some (.inl (some (ix_I (match kv_ix v q with | some j => nI (i + j) | none => -1))), hw h F A) := by
  intro q
  induction q with
  | nil =>
    intro n i hq hi hn
    obtain ⟨n, rfl⟩ : ∃ w, n = w + 1 := ⟨n - 1, by omega⟩
    have h1 : l.length ≤ i := by
      have := congrArg List.length hq
      rw [List.length_drop, List.length_nil] at this
      omega
    rw [lX9_boundOf_2]
    unfold jX9_boundOf_2
    simp (disch := omega) only [↓reduceIte, ↓hw_bdF, ↓hw_bdA, ↓hw_cbd, Option.bind_some, hw_bd, cond_true, cond_false, hw_fR, hw_fI, hw_aI, hw_aR, hw_is, hw_isr, hw_at, hw_atr, hw_of, hw_hw, hw_sz, hw_wfR, hw_waR, hw_rI, hw_rV, hw_rR, nI_add, hw_in, hw_cl, hw_R_same, hw_R_R, hw_U_same, hw_U_ne, hw_okn1_0, hw_okn1_1, hS, hB.1, hw_le, h1, if_true]
    rfl
  | cons z q ih =>
    intro n i hq hi hn
    obtain ⟨n, rfl⟩ : ∃ w, n = w + 1 := ⟨n - 1, by omega⟩
    have h1 : i < l.length := by
      have := congrArg List.length hq
      rw [List.length_drop, List.length_cons] at this
      omega
    rw [List.drop_eq_getElem_cons h1] at hq
    obtain ⟨e1, e2⟩ := List.cons.inj hq
    obtain ⟨w1, w2⟩ := hB.2 i h1
    rw [← e1] at w1 w2
    rw [lX9_boundOf_2]
    unfold jX9_boundOf_2
    simp (disch := omega) only [↓reduceIte, ↓hw_bdF, ↓hw_bdA, ↓hw_cbd, Option.bind_some, hw_bd, cond_true, cond_false, hw_fR, hw_fI, hw_aI, hw_aR, hw_is, hw_isr, hw_at, hw_atr, hw_of, hw_hw, hw_sz, hw_wfR, hw_waR, hw_rI, hw_rV, hw_rR, nI_add, hw_in, hw_cl, hw_R_same, hw_R_R, hw_U_same, hw_U_ne, hw_okn1_0, hw_okn1_1, hS, hB.1, hw_le, Nat.not_le.mpr h1, if_false, w1, w2, kv_ix]
    by_cases hk : z.2 = v
    · simp only [hk, if_true, Nat.add_zero]
    · simp only [hk, if_false]
      simp only [List.length_cons] at hn
      rw [ih n (i + 1) e2 h1 (by omega)]
      cases kv_ix v q with
      | none => rfl
      | some j => simp only [Option.map_some, Nat.add_assoc, Nat.add_comm 1 j]
theorem m_boundOf {h : ix_H} {m : Nat} (hS : mSh h m) {F A : Nat → Nat → Int32} {N : Nat} (hN : 1000 ≤ N) (d : Nat) {l : KV} (hB : mB F A m l) (hl : l.length ≤ 89) (v : Int32) : ix_run iy_P N (d + 1) 308 [ix_R (some m), ix_I v] (hw h F A) = some (.inl (some (ix_I (match kv_ix v l with | some j => nI j | none => -1))), hw h F A) := by
  rw [rX9_boundOf N d]
  unfold bX9_boundOf
  obtain ⟨N, rfl⟩ : ∃ z, N = z + 1 := ⟨N - 1, by omega⟩
  rw [← lX9_boundOf_2, m_boundOf_l hS F A _ hB hl v l (N + 1 + 1) 0 rfl (Nat.zero_le _) (by omega)]
  cases kv_ix v l with
  | none => rfl
  | some j => simp only [Nat.zero_add]
