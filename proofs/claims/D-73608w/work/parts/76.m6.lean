/-! M6: the reference: the stages, one by one -/
set_option maxRecDepth 100000
theorem kv_ui_le (k : Int32) : ∀ l : KV, kv_ui k l ≤ l.length
  | [] => Nat.le_refl _
  | q :: r => by
    simp only [kv_ui, List.length_cons]
    split
    · exact Nat.succ_le_succ (kv_ui_le k r)
    · exact Nat.zero_le _
theorem kv_ui_iff {k : Int32} : ∀ {l : KV} {i : Nat} (hi : i < l.length), kv_so l → ((l[i]).1 ≤ k ↔ i < kv_ui k l)
  | q :: r, i, hi, hs => by
    obtain ⟨h1, h2⟩ := kv_so_cons.mp hs
    simp only [kv_ui]
    by_cases hq : q.1 ≤ k
    · rw [if_pos hq]
      match i with
      | 0 => exact ⟨fun _ => Nat.succ_pos _, fun _ => hq⟩
      | i + 1 =>
        simp only [List.getElem_cons_succ]
        rw [kv_ui_iff (by simpa using hi) h2]
        omega
    · rw [if_neg hq]
      match i with
      | 0 => exact ⟨fun h => absurd h hq, fun h => absurd h (Nat.not_lt_zero _)⟩
      | i + 1 =>
        simp only [List.getElem_cons_succ]
        refine ⟨fun h => absurd ?_ hq, fun h => absurd h (Nat.not_lt_zero _)⟩
        have h3 := h1 _ (List.getElem_mem (show i < r.length by simpa using hi))
        rw [Int32.lt_iff_toInt_lt] at h3
        rw [Int32.le_iff_toInt_le] at h ⊢
        omega
theorem kv_nth_get {l : KV} {i : Nat} (h : i < l.length) : kv_nth l i = l[i] := by
  unfold kv_nth
  rw [List.getD_eq_getElem?_getD, List.getElem?_eq_getElem h]
  rfl
theorem m_finds_l {h : ix_H} {m : Nat} (hS : mSh h m) (F A : Nat → Nat → Int32) (N d : Nat) {k : Nat} (hk : k < 4) {l : KV} (hB : mB F A m l) (hs : kv_so l) (hl : l.length ≤ 89) {key : Int32} (hkey : A (m + 21) (42 + 14 * k + 6) = key) (hu : 0 < kv_ui key l) : ∀ i z, i < l.length → kv_ui key l ≤ i + 1 → i < z →
    ix_lp (ix_run iy_P N (d + 1)) stX9_finds z 7 [(0, ix_R (some m)), (1, ix_I (nI (42 + 14 * k))), (2, ix_I (nI i))] [] (hw h F A) = some (.inl none, hw h F (hw_R A (m + 21) (hw_U (hw_U (A (m + 21)) (42 + 14 * k + 2) (kv_nth l (kv_ui key l - 1)).2) (42 + 14 * k + 1) (nI 2)))) := by
  intro i
  induction i with
  | zero =>
    intro z hi hu2 hz
    obtain ⟨z, rfl⟩ : ∃ w, z = w + 1 := ⟨z - 1, by omega⟩
    have e1 : kv_ui key l = 0 + 1 := by omega
    obtain ⟨w1, w2⟩ := hB.2 0 hi
    have hle := (kv_ui_iff hi hs).mpr hu
    rw [lX9_finds_7]
    unfold jX9_finds_7
    simp (disch := omega) only [↓mp_is hS, ↓mp_isr hS, ↓mp_rd35 hS, ↓mp_wr35 hS, ↓mp_rd36 hS, ↓mp_wr36 hS, ↓mp_rd38 hS, ↓mp_wr38 hS, ↓mp_rd39 hS, ↓mp_wr39 hS, ↓mp_rd43 hS, ↓mp_wr43 hS, ↓mp_rd44 hS, ↓mp_wr44 hS, ↓mp_rd46 hS, ↓mp_wr46 hS, ↓mp_rd47 hS, ↓mp_wr47 hS, ↓reduceIte, ↓hw_bdF, ↓hw_bdA, ↓hw_cbd, Option.bind_some, hw_bd, cond_true, cond_false, hw_fI, hw_aI, hw_aR, hw_of, hw_hw, hw_sz, hw_wfR, hw_waR, hw_rI, hw_rV, hw_rR, nI_add, hw_in, hw_cl, hw_R_same, hw_R_R, hw_U_same, hw_U_ne, hw_okn1_0, hw_okn1_1, hkey, w1, w2, hle, if_true, m_stands hS, e1, Nat.add_sub_cancel, kv_nth_get hi]
  | succ i ih =>
    intro z hi hu2 hz
    obtain ⟨z, rfl⟩ : ∃ w, z = w + 1 := ⟨z - 1, by omega⟩
    obtain ⟨w1, w2⟩ := hB.2 (i + 1) hi
    have hiff := kv_ui_iff (k := key) hi hs
    rw [lX9_finds_7]
    unfold jX9_finds_7
    by_cases hc : i + 1 < kv_ui key l
    · have hle := hiff.mpr hc
      have e1 : kv_ui key l = i + 1 + 1 := by omega
      simp (disch := omega) only [↓mp_is hS, ↓mp_isr hS, ↓mp_rd35 hS, ↓mp_wr35 hS, ↓mp_rd36 hS, ↓mp_wr36 hS, ↓mp_rd38 hS, ↓mp_wr38 hS, ↓mp_rd39 hS, ↓mp_wr39 hS, ↓mp_rd43 hS, ↓mp_wr43 hS, ↓mp_rd44 hS, ↓mp_wr44 hS, ↓mp_rd46 hS, ↓mp_wr46 hS, ↓mp_rd47 hS, ↓mp_wr47 hS, ↓reduceIte, ↓hw_bdF, ↓hw_bdA, ↓hw_cbd, Option.bind_some, hw_bd, cond_true, cond_false, hw_fI, hw_aI, hw_aR, hw_of, hw_hw, hw_sz, hw_wfR, hw_waR, hw_rI, hw_rV, hw_rR, nI_add, hw_in, hw_cl, hw_R_same, hw_R_R, hw_U_same, hw_U_ne, hw_okn1_0, hw_okn1_1, hkey, w1, w2, hle, if_true, m_stands hS, e1, Nat.add_sub_cancel, kv_nth_get hi]
    · have hle : ¬ (l[i + 1]).1 ≤ key := fun w => hc (hiff.mp w)
      simp (disch := omega) only [↓mp_is hS, ↓mp_isr hS, ↓mp_rd35 hS, ↓mp_wr35 hS, ↓mp_rd36 hS, ↓mp_wr36 hS, ↓mp_rd38 hS, ↓mp_wr38 hS, ↓mp_rd39 hS, ↓mp_wr39 hS, ↓mp_rd43 hS, ↓mp_wr43 hS, ↓mp_rd44 hS, ↓mp_wr44 hS, ↓mp_rd46 hS, ↓mp_wr46 hS, ↓mp_rd47 hS, ↓mp_wr47 hS, ↓reduceIte, ↓hw_bdF, ↓hw_bdA, ↓hw_cbd, Option.bind_some, hw_bd, cond_true, cond_false, hw_fI, hw_aI, hw_aR, hw_of, hw_hw, hw_sz, hw_wfR, hw_waR, hw_rI, hw_rV, hw_rR, nI_add, hw_in, hw_cl, hw_R_same, hw_R_R, hw_U_same, hw_U_ne, hw_okn1_0, hw_okn1_1, hkey, w1, w2, hle, if_false, hw_dec]
      exact ih z (by omega) (by omega) (by omega)
theorem m_finds {h : ix_H} {m : Nat} (hS : mSh h m) {S : zS} (hW : z_W S) {N : Nat} (hN : 2000 ≤ N) (d : Nat) {k : Nat} (hk : k < 4) {F A : Nat → Nat → Int32} (hR : mR (A (m + 21)) S) (hu : 0 < kv_ui (zh S k 6) (z_pg S 0).1) :
    ∃ F' A', ix_run iy_P N (d + 10) 283 [ix_R (some m), ix_I (nI (42 + 14 * k))] (hw h F A) = some (.inl none, hw h F' A') ∧ mQ mX mY m F A F' A' ∧ mR (A' (m + 21)) (z_finds S k) := by
  have h0 : 0 < zp S := by have := hW.2.1; omega
  have hpg := hW.pg h0
  obtain ⟨F1, A1, e1, q1, b1⟩ := m_fillsBounds hS hW (show 1000 ≤ N by omega) (d + 2) (F := F) hR
  have hA1 : A1 (m + 21) = A (m + 21) := q1.2.2.1 21 rfl
  have hle := kv_ui_le (zh S k 6) (z_pg S 0).1
  rw [rX9_finds N (d + 9)]
  unfold bX9_finds
  simp (disch := omega) only [↓mp_is hS, ↓mp_isr hS, ↓mp_rd35 hS, ↓mp_wr35 hS, ↓mp_rd36 hS, ↓mp_wr36 hS, ↓mp_rd38 hS, ↓mp_wr38 hS, ↓mp_rd39 hS, ↓mp_wr39 hS, ↓mp_rd43 hS, ↓mp_wr43 hS, ↓mp_rd44 hS, ↓mp_wr44 hS, ↓mp_rd46 hS, ↓mp_wr46 hS, ↓mp_rd47 hS, ↓mp_wr47 hS, ↓reduceIte, ↓hw_bdF, ↓hw_bdA, ↓hw_cbd, Option.bind_some, hw_bd, cond_true, cond_false, hw_fI, hw_aI, hw_aR, hw_of, hw_hw, hw_sz, hw_wfR, hw_waR, hw_rI, hw_rV, hw_rR, nI_add, hw_in, hw_cl, hw_R_same, hw_R_R, hw_U_same, hw_U_ne, hw_okn1_0, hw_okn1_1, e1, b1.1, hw_sub]
  obtain ⟨N, rfl⟩ : ∃ z, N = z + 1 := ⟨N - 1, by omega⟩
  rw [← lX9_finds_7]
  have hkey : A1 (m + 21) (42 + 14 * k + 6) = zh S k 6 := by rw [hA1]; exact hR.2.2.1 k 6 hk (by omega)
  rw [m_finds_l hS F1 A1 (N + 1) (d + 8) hk b1 hpg.1 (by omega) hkey hu ((z_pg S 0).1.length - 1) (N + 1 + 1) (by omega) (by omega) (by omega)]
  refine ⟨_, _, rfl, (q1.mono rfl rfl).aR rfl (by omega), ?_⟩
  rw [hw_R_same, hA1]
  exact mR_sh (mR_sh hR hk (by omega) (by omega) hW.1.1 hW.2.2.1 _) hk (by omega) (by omega) hW.1.1 hW.2.2.1 _
theorem m_isFull {h : ix_H} {m : Nat} (hS : mSh h m) {S : zS} (hW : z_W S) {rc : List Nat} (hr : z_R S rc) {N : Nat} (hN : 2000 ≤ N) (d : Nat) {F A : Nat → Nat → Int32} (hR : mR (A (m + 21)) S) :
    ∃ F' A', ix_run iy_P N (d + 9) 292 [ix_R (some m)] (hw h F A) = some (.inl (some (ix_I (if 40 ≤ (z_all S).length then nI 1 else nI 0))), hw h F' A') ∧ mQ [37, 40, 41, 42, 48] [22, 23, 24, 27, 28] m F A F' A' := by
  obtain ⟨F1, A1, e1, q1, a1⟩ := m_fillsAll hS hW hr hN d (F := F) hR
  have h43 : (z_all S).length ≤ 43 := by rw [hr.all hW.2.2.1]; exact hr.2.2.2.2
  rw [rX9_isFull N (d + 8)]
  unfold bX9_isFull jX9_isFull_9
  simp (disch := omega) only [↓mp_is hS, ↓mp_isr hS, ↓mp_rd35 hS, ↓mp_wr35 hS, ↓mp_rd36 hS, ↓mp_wr36 hS, ↓mp_rd38 hS, ↓mp_wr38 hS, ↓mp_rd39 hS, ↓mp_wr39 hS, ↓mp_rd43 hS, ↓mp_wr43 hS, ↓mp_rd44 hS, ↓mp_wr44 hS, ↓mp_rd46 hS, ↓mp_wr46 hS, ↓mp_rd47 hS, ↓mp_wr47 hS, ↓reduceIte, ↓hw_bdF, ↓hw_bdA, ↓hw_cbd, Option.bind_some, hw_bd, cond_true, cond_false, hw_fI, hw_aI, hw_aR, hw_of, hw_hw, hw_sz, hw_wfR, hw_waR, hw_rI, hw_rV, hw_rR, nI_add, hw_in, hw_cl, hw_R_same, hw_R_R, hw_U_same, hw_U_ne, hw_okn1_0, hw_okn1_1, e1, a1.1, hw_lt]
  by_cases h40 : 40 ≤ (z_all S).length
  · simp only [↓reduceIte, ↓hw_bdF, ↓hw_bdA, ↓hw_cbd, Option.bind_some, hw_bd, cond_true, cond_false, hw_fR, hw_fI, hw_aI, hw_aR, hw_is, hw_isr, hw_at, hw_atr, hw_of, hw_hw, hw_sz, hw_wfR, hw_waR, hw_rI, hw_rV, hw_rR, nI_add, hw_in, hw_cl, hw_R_same, hw_R_R, hw_U_same, hw_U_ne, hw_okn1_0, hw_okn1_1, Nat.not_lt.mpr h40, h40, if_true, if_false]
    exact ⟨F1, A1, rfl, q1⟩
  · simp only [↓reduceIte, ↓hw_bdF, ↓hw_bdA, ↓hw_cbd, Option.bind_some, hw_bd, cond_true, cond_false, hw_fR, hw_fI, hw_aI, hw_aR, hw_is, hw_isr, hw_at, hw_atr, hw_of, hw_hw, hw_sz, hw_wfR, hw_waR, hw_rI, hw_rV, hw_rR, nI_add, hw_in, hw_cl, hw_R_same, hw_R_R, hw_U_same, hw_U_ne, hw_okn1_0, hw_okn1_1, Nat.lt_of_not_le h40, h40, if_true, if_false]
    exact ⟨F1, A1, rfl, q1⟩
theorem m_reads {h : ix_H} {m : Nat} (hS : mSh h m) {S : zS} (hW : z_W S) {rc : List Nat} (hrc : z_R S rc) {N : Nat} (hN : 2000 ≤ N) (d : Nat) {k : Nat} (hk : k < 4) {F A : Nat → Nat → Int32} (hR : mR (A (m + 21)) S) (hp : z_at S k < zp S) (hat : zh S k 2 = nI (z_at S k)) (hr1 : (z_pg S (z_at S k)).2.2 ≠ -1) :
    ∃ F' A', ix_run iy_P N (d + 10) 286 [ix_R (some m), ix_I (nI (42 + 14 * k))] (hw h F A) = some (.inl none, hw h F' A') ∧ mQ mX mY m F A F' A' ∧ mR (A' (m + 21)) (z_reads S k) := by
  have h32 := hW.2.2.1
  have hn := hW.1.1
  have hpg := hW.pg hp
  have hpg0 := hW.pg (show 0 < zp S by omega)
  have hz : ∀ f, f < 14 → A (m + 21) (42 + 14 * k + f) = zh S k f := fun f hf => hR.2.2.1 k f hk hf
  have h10 : ¬ nI 1 = nI 0 := by decide
  have sh : ∀ {nw T}, mR nw T → ∀ {f}, f < 14 → f ≠ 3 → zn T ≤ 1400 → zp T ≤ 32 → ∀ v, mR (hw_U nw (42 + 14 * k + f) v) (z_sh T k f v) := fun h _ h1 h2 h3 h4 v => mR_sh h hk h1 h2 h3 h4 v
  obtain ⟨F1, A1, e1, q1, b1⟩ := m_fillsBounds hS hW (show 1000 ≤ N by omega) (d + 2) (F := F) hR
  have hA1 : A1 (m + 21) = A (m + 21) := q1.2.2.1 21 rfl
  obtain ⟨F2, A2, e2, q2, l2, c2⟩ := m_fillsHas hS hW (show 1000 ≤ N by omega) (d + 3) hp (F := F1) (A := A1) (by rw [hA1]; exact hR)
  have hA2 : A2 (m + 21) = A (m + 21) := (q2.2.2.1 21 rfl).trans hA1
  have q12 : mQ mX mY m F A F2 A2 := (q1.mono rfl rfl).trans (q2.mono rfl rfl)
  have b2 : mB F2 A2 m (z_pg S 0).1 := ⟨(q2.2.1 45 rfl).trans b1.1, by rw [q2.2.2.1 25 rfl, q2.2.2.1 26 rfl]; exact b1.2⟩
  have hR2 : mR (A2 (m + 21)) S := by rw [hA2]; exact hR
  rw [rX9_reads N (d + 9)]
  unfold bX9_reads
  simp (disch := omega) only [↓mp_is hS, ↓mp_isr hS, ↓mp_rd35 hS, ↓mp_wr35 hS, ↓mp_rd36 hS, ↓mp_wr36 hS, ↓mp_rd38 hS, ↓mp_wr38 hS, ↓mp_rd39 hS, ↓mp_wr39 hS, ↓mp_rd43 hS, ↓mp_wr43 hS, ↓mp_rd44 hS, ↓mp_wr44 hS, ↓mp_rd46 hS, ↓mp_wr46 hS, ↓mp_rd47 hS, ↓mp_wr47 hS, ↓reduceIte, ↓hw_bdF, ↓hw_bdA, ↓hw_cbd, Option.bind_some, hw_bd, cond_true, cond_false, hw_fI, hw_aI, hw_aR, hw_of, hw_hw, hw_sz, hw_wfR, hw_waR, hw_rI, hw_rV, hw_rR, nI_add, hw_in, hw_cl, hw_R_same, hw_R_R, hw_U_same, hw_U_ne, hw_okn1_0, hw_okn1_1, hz, hat, m_isGone hS hW N (d + 7) hp hR]
  by_cases hg : z_gone S (z_at S k)
  · simp (disch := omega) only [if_pos hg, h10, if_false, ↓mp_is hS, ↓mp_isr hS, ↓mp_rd35 hS, ↓mp_wr35 hS, ↓mp_rd36 hS, ↓mp_wr36 hS, ↓mp_rd38 hS, ↓mp_wr38 hS, ↓mp_rd39 hS, ↓mp_wr39 hS, ↓mp_rd43 hS, ↓mp_wr43 hS, ↓mp_rd44 hS, ↓mp_wr44 hS, ↓mp_rd46 hS, ↓mp_wr46 hS, ↓mp_rd47 hS, ↓mp_wr47 hS, ↓reduceIte, ↓hw_bdF, ↓hw_bdA, ↓hw_cbd, Option.bind_some, hw_bd, cond_true, cond_false, hw_fI, hw_aI, hw_aR, hw_of, hw_hw, hw_sz, hw_wfR, hw_waR, hw_rI, hw_rV, hw_rR, nI_add, hw_in, hw_cl, hw_R_same, hw_R_R, hw_U_same, hw_U_ne, hw_okn1_0, hw_okn1_1, m_leaves hS]
    refine ⟨_, _, rfl, (mQ.refl mX mY m F A).aR (k := 21) rfl (by omega), ?_⟩
    rw [hw_R_same]
    unfold z_reads z_left
    rw [if_pos hg, hat]
    exact sh (sh hR (by omega) (by omega) hn h32 _) (by omega) (by omega) hn h32 _
  simp (disch := omega) only [hg, if_true, if_false, ↓mp_is hS, ↓mp_isr hS, ↓mp_rd35 hS, ↓mp_wr35 hS, ↓mp_rd36 hS, ↓mp_wr36 hS, ↓mp_rd38 hS, ↓mp_wr38 hS, ↓mp_rd39 hS, ↓mp_wr39 hS, ↓mp_rd43 hS, ↓mp_wr43 hS, ↓mp_rd44 hS, ↓mp_wr44 hS, ↓mp_rd46 hS, ↓mp_wr46 hS, ↓mp_rd47 hS, ↓mp_wr47 hS, ↓reduceIte, ↓hw_bdF, ↓hw_bdA, ↓hw_cbd, Option.bind_some, hw_bd, cond_true, cond_false, hw_fI, hw_aI, hw_aR, hw_of, hw_hw, hw_sz, hw_wfR, hw_waR, hw_rI, hw_rV, hw_rR, nI_add, hw_in, hw_cl, hw_R_same, hw_R_R, hw_U_same, hw_U_ne, hw_okn1_0, hw_okn1_1, e1, e2, l2.2.1, l2.2.2]
  unfold z_reads
  rw [if_neg hg]
  by_cases hh : (z_pg S (z_at S k)).2.1 ≤ zh S k 6
  · have hh2 : ¬ zh S k 6 < (z_pg S (z_at S k)).2.1 := fun w => by rw [Int32.lt_iff_toInt_lt] at w; rw [Int32.le_iff_toInt_le] at hh; omega
    have hgd : (kv_get (z_pg S (z_at S k)).2.1 (z_pg S 0).1).getD (-1) = (z_pg S (z_at S k)).2.2 ↔ kv_get (z_pg S (z_at S k)).2.1 (z_pg S 0).1 = some (z_pg S (z_at S k)).2.2 := by
      cases kv_get (z_pg S (z_at S k)).2.1 (z_pg S 0).1 with
      | none => exact ⟨fun w => absurd w.symm hr1, fun w => by cases w⟩
      | some v => exact ⟨fun w => by rw [← w]; rfl, fun w => by cases w; rfl⟩
    rw [if_pos hh]
    simp (disch := omega) only [hh2, if_false, ↓mp_is hS, ↓mp_isr hS, ↓mp_rd35 hS, ↓mp_wr35 hS, ↓mp_rd36 hS, ↓mp_wr36 hS, ↓mp_rd38 hS, ↓mp_wr38 hS, ↓mp_rd39 hS, ↓mp_wr39 hS, ↓mp_rd43 hS, ↓mp_wr43 hS, ↓mp_rd44 hS, ↓mp_wr44 hS, ↓mp_rd46 hS, ↓mp_wr46 hS, ↓mp_rd47 hS, ↓mp_wr47 hS, ↓reduceIte, ↓hw_bdF, ↓hw_bdA, ↓hw_cbd, Option.bind_some, hw_bd, cond_true, cond_false, hw_fI, hw_aI, hw_aR, hw_of, hw_hw, hw_sz, hw_wfR, hw_waR, hw_rI, hw_rV, hw_rR, nI_add, hw_in, hw_cl, hw_R_same, hw_R_R, hw_U_same, hw_U_ne, hw_okn1_0, hw_okn1_1, m_pageBy hS (show 1000 ≤ N by omega) (d + 8) b2 (show (z_pg S 0).1.length ≤ 89 by omega), l2.2.1, l2.2.2, hgd]
    unfold jX9_reads_59
    by_cases hc : kv_get (z_pg S (z_at S k)).2.1 (z_pg S 0).1 = some (z_pg S (z_at S k)).2.2
    · rw [if_pos hc]
      simp (disch := omega) only [hc, if_true, ↓mp_is hS, ↓mp_isr hS, ↓mp_rd35 hS, ↓mp_wr35 hS, ↓mp_rd36 hS, ↓mp_wr36 hS, ↓mp_rd38 hS, ↓mp_wr38 hS, ↓mp_rd39 hS, ↓mp_wr39 hS, ↓mp_rd43 hS, ↓mp_wr43 hS, ↓mp_rd44 hS, ↓mp_wr44 hS, ↓mp_rd46 hS, ↓mp_wr46 hS, ↓mp_rd47 hS, ↓mp_wr47 hS, ↓reduceIte, ↓hw_bdF, ↓hw_bdA, ↓hw_cbd, Option.bind_some, hw_bd, cond_true, cond_false, hw_fI, hw_aI, hw_aR, hw_of, hw_hw, hw_sz, hw_wfR, hw_waR, hw_rI, hw_rV, hw_rR, nI_add, hw_in, hw_cl, hw_R_same, hw_R_R, hw_U_same, hw_U_ne, hw_okn1_0, hw_okn1_1, m_stands hS, l2.2.2]
      refine ⟨_, _, rfl, q12.aR rfl (by omega), ?_⟩
      rw [hw_R_same]
      exact sh (sh hR2 (by omega) (by omega) hn h32 _) (by omega) (by omega) hn h32 _
    · rw [if_neg hc]
      simp (disch := omega) only [hc, if_false, ↓mp_is hS, ↓mp_isr hS, ↓mp_rd35 hS, ↓mp_wr35 hS, ↓mp_rd36 hS, ↓mp_wr36 hS, ↓mp_rd38 hS, ↓mp_wr38 hS, ↓mp_rd39 hS, ↓mp_wr39 hS, ↓mp_rd43 hS, ↓mp_wr43 hS, ↓mp_rd44 hS, ↓mp_wr44 hS, ↓mp_rd46 hS, ↓mp_wr46 hS, ↓mp_rd47 hS, ↓mp_wr47 hS, ↓reduceIte, ↓hw_bdF, ↓hw_bdA, ↓hw_cbd, Option.bind_some, hw_bd, cond_true, cond_false, hw_fI, hw_aI, hw_aR, hw_of, hw_hw, hw_sz, hw_wfR, hw_waR, hw_rI, hw_rV, hw_rR, nI_add, hw_in, hw_cl, hw_R_same, hw_R_R, hw_U_same, hw_U_ne, hw_okn1_0, hw_okn1_1, m_notes hS, l2.2.1, l2.2.2]
      refine ⟨_, _, rfl, q12.aR rfl (by omega), ?_⟩
      rw [hw_R_same]
      unfold z_note
      exact sh (sh (sh hR2 (by omega) (by omega) hn h32 _) (by omega) (by omega) hn h32 _) (by omega) (by omega) hn h32 _
  have hh2 : zh S k 6 < (z_pg S (z_at S k)).2.1 := Classical.byContradiction fun w => hh (kv_nlt_le.mp w)
  have hz2 : ∀ f, f < 14 → A2 (m + 21) (42 + 14 * k + f) = zh S k f := fun f hf => by rw [hA2]; exact hz f hf
  have rest : ∀ v, mR (hw_U (hw_U (hw_U (A2 (m + 21)) (42 + 14 * k + 8) v) (42 + 14 * k + 9) (nI 1)) (42 + 14 * k + 1) (nI 0)) (z_rest S k v) := fun v => by
    unfold z_rest
    exact sh (sh (sh hR2 (by omega) (by omega) hn h32 _) (by omega) (by omega) hn h32 _) (by omega) (by omega) hn h32 _
  rw [if_neg hh]
  simp (disch := omega) only [hh2, if_true, ↓mp_is hS, ↓mp_isr hS, ↓mp_rd35 hS, ↓mp_wr35 hS, ↓mp_rd36 hS, ↓mp_wr36 hS, ↓mp_rd38 hS, ↓mp_wr38 hS, ↓mp_rd39 hS, ↓mp_wr39 hS, ↓mp_rd43 hS, ↓mp_wr43 hS, ↓mp_rd44 hS, ↓mp_wr44 hS, ↓mp_rd46 hS, ↓mp_wr46 hS, ↓mp_rd47 hS, ↓mp_wr47 hS, ↓reduceIte, ↓hw_bdF, ↓hw_bdA, ↓hw_cbd, Option.bind_some, hw_bd, cond_true, cond_false, hw_fI, hw_aI, hw_aR, hw_of, hw_hw, hw_sz, hw_wfR, hw_waR, hw_rI, hw_rV, hw_rR, nI_add, hw_in, hw_cl, hw_R_same, hw_R_R, hw_U_same, hw_U_ne, hw_okn1_0, hw_okn1_1, m_isThere hS (show 1000 ≤ N by omega) (d + 7) l2.1 hpg.1 (show (z_pg S (z_at S k)).1.length ≤ 89 by omega), hz2]
  by_cases ha3 : zh S k 0 = nI 3
  · rw [if_pos ha3]
    simp only [ha3, if_true]
    unfold jX9_reads_87 jX9_reads_129
    cases hgk : kv_get (zh S k 6) (z_pg S (z_at S k)).1 with
    | none =>
      simp (disch := omega) only [if_true, ↓mp_is hS, ↓mp_isr hS, ↓mp_rd35 hS, ↓mp_wr35 hS, ↓mp_rd36 hS, ↓mp_wr36 hS, ↓mp_rd38 hS, ↓mp_wr38 hS, ↓mp_rd39 hS, ↓mp_wr39 hS, ↓mp_rd43 hS, ↓mp_wr43 hS, ↓mp_rd44 hS, ↓mp_wr44 hS, ↓mp_rd46 hS, ↓mp_wr46 hS, ↓mp_rd47 hS, ↓mp_wr47 hS, ↓reduceIte, ↓hw_bdF, ↓hw_bdA, ↓hw_cbd, Option.bind_some, hw_bd, cond_true, cond_false, hw_fI, hw_aI, hw_aR, hw_of, hw_hw, hw_sz, hw_wfR, hw_waR, hw_rI, hw_rV, hw_rR, nI_add, hw_in, hw_cl, hw_R_same, hw_R_R, hw_U_same, hw_U_ne, hw_okn1_0, hw_okn1_1, m_rests hS]
      refine ⟨_, _, rfl, q12.aR rfl (by omega), ?_⟩
      rw [hw_R_same]
      exact rest _
    | some v =>
      obtain ⟨hlt, ev⟩ := (kv_get_wh hpg.1 v).mp hgk
      have ev2 := (l2.1.2 _ hlt).2
      rw [ev] at ev2
      simp (disch := omega) only [h10, reduceCtorEq, if_false, ↓mp_is hS, ↓mp_isr hS, ↓mp_rd35 hS, ↓mp_wr35 hS, ↓mp_rd36 hS, ↓mp_wr36 hS, ↓mp_rd38 hS, ↓mp_wr38 hS, ↓mp_rd39 hS, ↓mp_wr39 hS, ↓mp_rd43 hS, ↓mp_wr43 hS, ↓mp_rd44 hS, ↓mp_wr44 hS, ↓mp_rd46 hS, ↓mp_wr46 hS, ↓mp_rd47 hS, ↓mp_wr47 hS, ↓reduceIte, ↓hw_bdF, ↓hw_bdA, ↓hw_cbd, Option.bind_some, hw_bd, cond_true, cond_false, hw_fI, hw_aI, hw_aR, hw_of, hw_hw, hw_sz, hw_wfR, hw_waR, hw_rI, hw_rV, hw_rR, nI_add, hw_in, hw_cl, hw_R_same, hw_R_R, hw_U_same, hw_U_ne, hw_okn1_0, hw_okn1_1, m_whereOf hS (show 1000 ≤ N by omega) (d + 8) l2.1 (show (z_pg S (z_at S k)).1.length ≤ 89 by omega), ev2, m_rests hS]
      refine ⟨_, _, rfl, q12.aR rfl (by omega), ?_⟩
      rw [hw_R_same]
      exact rest _
  rw [if_neg ha3]
  simp only [ha3, if_false]
  have hgn : (if kv_get (zh S k 6) (z_pg S (z_at S k)).1 = none then nI 0 else nI 1) = nI 0 ↔ kv_get (zh S k 6) (z_pg S (z_at S k)).1 = none := by
    by_cases w : kv_get (zh S k 6) (z_pg S (z_at S k)).1 = none
    · rw [if_pos w]; exact ⟨fun _ => w, fun _ => rfl⟩
    · rw [if_neg w]; exact ⟨fun z => absurd z h10, fun z => absurd z w⟩
  have hcl : ¬ (z_chain S.1 (zt S (z_at S k))).length ≤ 24 ↔ 24 ≤ z_len S (z_at S k) := by unfold z_len; omega
  have see : mR (hw_U (hw_U (A2 (m + 21)) (42 + 14 * k + 10) (A2 (m + 21) (10 + z_at S k))) (42 + 14 * k + 1) (nI 3)) (z_sees S k (z_at S k) (nI 3)) := by
    unfold z_sees
    rw [hR2.2.1 _ hp]
    exact sh (sh hR2 (by omega) (by omega) hn h32 _) (by omega) (by omega) hn h32 _
  -- the rest behind a cut of nothing
  have fin : ¬ (zh S k 0 = nI 2 ∧ kv_get (zh S k 6) (z_pg S (z_at S k)).1 = none) → ∀ K, ∃ F' A', jX9_reads_100 (ix_run iy_P N (d + 9)) K m (nI (42 + 14 * k)) (nI (z_at S k)) (if kv_get (zh S k 6) (z_pg S (z_at S k)).1 = none then nI 0 else nI 1) (zh S k 0) (hw h F2 A2) = some (.inl none, hw h F' A') ∧ mQ mX mY m F A F' A' ∧ mR (A' (m + 21)) (if 24 ≤ z_len S (z_at S k) then z_sh S k 1 (nI 4) else if zh S k 0 = nI 1 ∧ kv_get (zh S k 6) (z_pg S (z_at S k)).1 = none ∧ 40 ≤ (z_all S).length then z_rest S k (-3) else z_sees S k (z_at S k) (nI 3)) := by
    intro _ K
    unfold jX9_reads_100 jX9_reads_123 jX9_reads_129
    simp (disch := omega) only [↓mp_is hS, ↓mp_isr hS, ↓mp_rd35 hS, ↓mp_wr35 hS, ↓mp_rd36 hS, ↓mp_wr36 hS, ↓mp_rd38 hS, ↓mp_wr38 hS, ↓mp_rd39 hS, ↓mp_wr39 hS, ↓mp_rd43 hS, ↓mp_wr43 hS, ↓mp_rd44 hS, ↓mp_wr44 hS, ↓mp_rd46 hS, ↓mp_wr46 hS, ↓mp_rd47 hS, ↓mp_wr47 hS, ↓reduceIte, ↓hw_bdF, ↓hw_bdA, ↓hw_cbd, Option.bind_some, hw_bd, cond_true, cond_false, hw_fI, hw_aI, hw_aR, hw_of, hw_hw, hw_sz, hw_wfR, hw_waR, hw_rI, hw_rV, hw_rR, nI_add, hw_in, hw_cl, hw_R_same, hw_R_R, hw_U_same, hw_U_ne, hw_okn1_0, hw_okn1_1, c2.1, hw_le]
    by_cases h24 : 24 ≤ z_len S (z_at S k)
    · rw [if_pos h24]
      simp (disch := omega) only [hcl.mpr h24, if_false, ↓mp_is hS, ↓mp_isr hS, ↓mp_rd35 hS, ↓mp_wr35 hS, ↓mp_rd36 hS, ↓mp_wr36 hS, ↓mp_rd38 hS, ↓mp_wr38 hS, ↓mp_rd39 hS, ↓mp_wr39 hS, ↓mp_rd43 hS, ↓mp_wr43 hS, ↓mp_rd44 hS, ↓mp_wr44 hS, ↓mp_rd46 hS, ↓mp_wr46 hS, ↓mp_rd47 hS, ↓mp_wr47 hS, ↓reduceIte, ↓hw_bdF, ↓hw_bdA, ↓hw_cbd, Option.bind_some, hw_bd, cond_true, cond_false, hw_fI, hw_aI, hw_aR, hw_of, hw_hw, hw_sz, hw_wfR, hw_waR, hw_rI, hw_rV, hw_rR, nI_add, hw_in, hw_cl, hw_R_same, hw_R_R, hw_U_same, hw_U_ne, hw_okn1_0, hw_okn1_1, m_stands hS]
      refine ⟨_, _, rfl, q12.aR rfl (by omega), ?_⟩
      rw [hw_R_same]
      exact sh hR2 (by omega) (by omega) hn h32 _
    rw [if_neg h24]
    have hc24 : (z_chain S.1 (zt S (z_at S k))).length ≤ 24 := Classical.byContradiction fun w => h24 (hcl.mp w)
    simp only [hc24, if_true, hgn]
    by_cases ha1 : zh S k 0 = nI 1
    · simp only [ha1, if_true, true_and]
      by_cases hgk : kv_get (zh S k 6) (z_pg S (z_at S k)).1 = none
      · obtain ⟨F3, A3, e3, q3⟩ := m_isFull hS hW hrc hN d (F := F2) hR2
        have hA3 : A3 (m + 21) = A2 (m + 21) := q3.2.2.1 21 rfl
        have q13 : mQ mX mY m F A F3 A3 := q12.trans (q3.mono rfl rfl)
        simp only [hgk, if_true, true_and, ↓mp_is hS, ↓mp_isr hS, ↓mp_rd35 hS, ↓mp_wr35 hS, ↓mp_rd36 hS, ↓mp_wr36 hS, ↓mp_rd38 hS, ↓mp_wr38 hS, ↓mp_rd39 hS, ↓mp_wr39 hS, ↓mp_rd43 hS, ↓mp_wr43 hS, ↓mp_rd44 hS, ↓mp_wr44 hS, ↓mp_rd46 hS, ↓mp_wr46 hS, ↓mp_rd47 hS, ↓mp_wr47 hS, ↓reduceIte, ↓hw_bdF, ↓hw_bdA, ↓hw_cbd, Option.bind_some, hw_bd, cond_true, cond_false, hw_fI, hw_aI, hw_aR, hw_of, hw_hw, hw_sz, hw_wfR, hw_waR, hw_rI, hw_rV, hw_rR, nI_add, hw_in, hw_cl, hw_R_same, hw_R_R, hw_U_same, hw_U_ne, hw_okn1_0, hw_okn1_1, e3]
        by_cases h40 : 40 ≤ (z_all S).length
        · rw [if_pos h40]
          simp (disch := omega) only [h40, if_true, h10, if_false, ↓mp_is hS, ↓mp_isr hS, ↓mp_rd35 hS, ↓mp_wr35 hS, ↓mp_rd36 hS, ↓mp_wr36 hS, ↓mp_rd38 hS, ↓mp_wr38 hS, ↓mp_rd39 hS, ↓mp_wr39 hS, ↓mp_rd43 hS, ↓mp_wr43 hS, ↓mp_rd44 hS, ↓mp_wr44 hS, ↓mp_rd46 hS, ↓mp_wr46 hS, ↓mp_rd47 hS, ↓mp_wr47 hS, ↓reduceIte, ↓hw_bdF, ↓hw_bdA, ↓hw_cbd, Option.bind_some, hw_bd, cond_true, cond_false, hw_fI, hw_aI, hw_aR, hw_of, hw_hw, hw_sz, hw_wfR, hw_waR, hw_rI, hw_rV, hw_rR, nI_add, hw_in, hw_cl, hw_R_same, hw_R_R, hw_U_same, hw_U_ne, hw_okn1_0, hw_okn1_1, m_rests hS]
          refine ⟨_, _, rfl, q13.aR rfl (by omega), ?_⟩
          rw [hw_R_same, hA3]
          exact rest _
        · rw [if_neg h40]
          simp (disch := omega) only [h40, if_true, if_false, ↓mp_is hS, ↓mp_isr hS, ↓mp_rd35 hS, ↓mp_wr35 hS, ↓mp_rd36 hS, ↓mp_wr36 hS, ↓mp_rd38 hS, ↓mp_wr38 hS, ↓mp_rd39 hS, ↓mp_wr39 hS, ↓mp_rd43 hS, ↓mp_wr43 hS, ↓mp_rd44 hS, ↓mp_wr44 hS, ↓mp_rd46 hS, ↓mp_wr46 hS, ↓mp_rd47 hS, ↓mp_wr47 hS, ↓reduceIte, ↓hw_bdF, ↓hw_bdA, ↓hw_cbd, Option.bind_some, hw_bd, cond_true, cond_false, hw_fI, hw_aI, hw_aR, hw_of, hw_hw, hw_sz, hw_wfR, hw_waR, hw_rI, hw_rV, hw_rR, nI_add, hw_in, hw_cl, hw_R_same, hw_R_R, hw_U_same, hw_U_ne, hw_okn1_0, hw_okn1_1, m_sees hS]
          refine ⟨_, _, rfl, q13.aR rfl (by omega), ?_⟩
          rw [hw_R_same, hA3]
          exact see
      · simp (disch := omega) only [hgk, if_false, false_and, ↓mp_is hS, ↓mp_isr hS, ↓mp_rd35 hS, ↓mp_wr35 hS, ↓mp_rd36 hS, ↓mp_wr36 hS, ↓mp_rd38 hS, ↓mp_wr38 hS, ↓mp_rd39 hS, ↓mp_wr39 hS, ↓mp_rd43 hS, ↓mp_wr43 hS, ↓mp_rd44 hS, ↓mp_wr44 hS, ↓mp_rd46 hS, ↓mp_wr46 hS, ↓mp_rd47 hS, ↓mp_wr47 hS, ↓reduceIte, ↓hw_bdF, ↓hw_bdA, ↓hw_cbd, Option.bind_some, hw_bd, cond_true, cond_false, hw_fI, hw_aI, hw_aR, hw_of, hw_hw, hw_sz, hw_wfR, hw_waR, hw_rI, hw_rV, hw_rR, nI_add, hw_in, hw_cl, hw_R_same, hw_R_R, hw_U_same, hw_U_ne, hw_okn1_0, hw_okn1_1, m_sees hS]
        refine ⟨_, _, rfl, q12.aR rfl (by omega), ?_⟩
        rw [hw_R_same]
        exact see
    · simp (disch := omega) only [ha1, if_false, false_and, ↓mp_is hS, ↓mp_isr hS, ↓mp_rd35 hS, ↓mp_wr35 hS, ↓mp_rd36 hS, ↓mp_wr36 hS, ↓mp_rd38 hS, ↓mp_wr38 hS, ↓mp_rd39 hS, ↓mp_wr39 hS, ↓mp_rd43 hS, ↓mp_wr43 hS, ↓mp_rd44 hS, ↓mp_wr44 hS, ↓mp_rd46 hS, ↓mp_wr46 hS, ↓mp_rd47 hS, ↓mp_wr47 hS, ↓reduceIte, ↓hw_bdF, ↓hw_bdA, ↓hw_cbd, Option.bind_some, hw_bd, cond_true, cond_false, hw_fI, hw_aI, hw_aR, hw_of, hw_hw, hw_sz, hw_wfR, hw_waR, hw_rI, hw_rV, hw_rR, nI_add, hw_in, hw_cl, hw_R_same, hw_R_R, hw_U_same, hw_U_ne, hw_okn1_0, hw_okn1_1, m_sees hS]
      refine ⟨_, _, rfl, q12.aR rfl (by omega), ?_⟩
      rw [hw_R_same]
      exact see
  by_cases ha2 : zh S k 0 = nI 2
  · simp only [ha2, if_true, true_and, hgn]
    by_cases hgk : kv_get (zh S k 6) (z_pg S (z_at S k)).1 = none
    · rw [if_pos hgk]
      unfold jX9_reads_129
      simp (disch := omega) only [hgk, if_true, ↓mp_is hS, ↓mp_isr hS, ↓mp_rd35 hS, ↓mp_wr35 hS, ↓mp_rd36 hS, ↓mp_wr36 hS, ↓mp_rd38 hS, ↓mp_wr38 hS, ↓mp_rd39 hS, ↓mp_wr39 hS, ↓mp_rd43 hS, ↓mp_wr43 hS, ↓mp_rd44 hS, ↓mp_wr44 hS, ↓mp_rd46 hS, ↓mp_wr46 hS, ↓mp_rd47 hS, ↓mp_wr47 hS, ↓reduceIte, ↓hw_bdF, ↓hw_bdA, ↓hw_cbd, Option.bind_some, hw_bd, cond_true, cond_false, hw_fI, hw_aI, hw_aR, hw_of, hw_hw, hw_sz, hw_wfR, hw_waR, hw_rI, hw_rV, hw_rR, nI_add, hw_in, hw_cl, hw_R_same, hw_R_R, hw_U_same, hw_U_ne, hw_okn1_0, hw_okn1_1, m_rests hS]
      refine ⟨_, _, rfl, q12.aR rfl (by omega), ?_⟩
      rw [hw_R_same]
      exact rest _
    · rw [if_neg hgk]
      have := fin (fun w => hgk w.2)
      rw [ha2] at this
      simp only [hgk, if_false] at this ⊢
      exact this _
  · simp only [ha2, if_false, false_and]
    exact fin (fun w => ha2 w.1) _
