/-! M9: the reference: the last stages, a step, closing, starting -/
set_option maxRecDepth 100000
theorem m_bof {b : Nat} (h : b < 1000) : nI 0 ≤ nI b ∧ ¬ nI b < nI 0 := by
  rw [hw_le (by omega) (by omega), hw_lt (by omega) (by omega)]
  omega
theorem m_removes {h : ix_H} {m : Nat} (hS : mSh h m) {S : zS} (hW : z_W S) {N : Nat} (hN : 2000 ≤ N) (d : Nat) {k : Nat} (hk : k < 4) {F A : Nat → Nat → Int32} (hR : mR (A (m + 21)) S) (hp : z_at S k < zp S) (hat : zh S k 2 = nI (z_at S k)) (hn2 : nI (zt S (z_at S k)) = zh S k 10 → zn S < 1400) :
    ∃ F' A', ix_run iy_P N (d + 10) 307 [ix_R (some m), ix_I (nI (42 + 14 * k))] (hw h F A) = some (.inl none, hw h F' A') ∧ mQ mX mY m F A F' A' ∧ mR (A' (m + 21)) (z_remov S k) := by
  have h32 := hW.2.2.1
  have h2 := hW.2.1
  have hn := hW.1.1
  have hpg0 := hW.pg (show 0 < zp S by omega)
  have hz : ∀ f, f < 14 → A (m + 21) (42 + 14 * k + f) = zh S k f := fun f hf => hR.2.2.1 k f hk hf
  have h10 : ¬ nI 1 = nI 0 := by decide
  obtain ⟨F1, A1, e1, q1, b1⟩ := m_fillsBounds hS hW (show 1000 ≤ N by omega) (d + 2) (F := F) hR
  have hA1 : A1 (m + 21) = A (m + 21) := q1.2.2.1 21 rfl
  have hR1 : mR (A1 (m + 21)) S := by rw [hA1]; exact hR
  have hz1 : ∀ f, f < 14 → A1 (m + 21) (42 + 14 * k + f) = zh S k f := fun f hf => hR1.2.2.1 k f hk hf
  have q1' : mQ mX mY m F A F1 A1 := q1.mono rfl rfl
  rw [rX9_removes N (d + 9)]
  unfold bX9_removes
  simp (disch := omega) only [↓mp_is hS, ↓mp_isr hS, ↓mp_rd35 hS, ↓mp_wr35 hS, ↓mp_rd36 hS, ↓mp_wr36 hS, ↓mp_rd38 hS, ↓mp_wr38 hS, ↓mp_rd39 hS, ↓mp_wr39 hS, ↓mp_rd43 hS, ↓mp_wr43 hS, ↓mp_rd44 hS, ↓mp_wr44 hS, ↓mp_rd46 hS, ↓mp_wr46 hS, ↓mp_rd47 hS, ↓mp_wr47 hS, ↓reduceIte, ↓hw_bdF, ↓hw_bdA, ↓hw_cbd, Option.bind_some, hw_bd, cond_true, cond_false, hw_fI, hw_aI, hw_aR, hw_of, hw_hw, hw_sz, hw_wfR, hw_waR, hw_rI, hw_rV, hw_rR, nI_add, hw_in, hw_cl, hw_R_same, hw_R_R, hw_U_same, hw_U_ne, hw_okn1_0, hw_okn1_1, hz, hat, e1, m_boundOf hS (show 1000 ≤ N by omega) (d + 8) b1 (show (z_pg S 0).1.length ≤ 89 by omega), m_isSeen hS, hR1.2.1 _ hp, hz1]
  have no : z_remov S k = z_go S k → ∀ K, ∃ F' A', jX9_removes_25 (ix_run iy_P N (d + 9)) K m (nI (42 + 14 * k)) (hw h F1 A1) = some (.inl none, hw h F' A') ∧ mQ mX mY m F A F' A' ∧ mR (A' (m + 21)) (z_remov S k) := by
    intro ez K
    rw [ez]
    unfold jX9_removes_25
    simp (disch := omega) only [↓mp_is hS, ↓mp_isr hS, ↓mp_rd35 hS, ↓mp_wr35 hS, ↓mp_rd36 hS, ↓mp_wr36 hS, ↓mp_rd38 hS, ↓mp_wr38 hS, ↓mp_rd39 hS, ↓mp_wr39 hS, ↓mp_rd43 hS, ↓mp_wr43 hS, ↓mp_rd44 hS, ↓mp_wr44 hS, ↓mp_rd46 hS, ↓mp_wr46 hS, ↓mp_rd47 hS, ↓mp_wr47 hS, ↓reduceIte, ↓hw_bdF, ↓hw_bdA, ↓hw_cbd, Option.bind_some, hw_bd, cond_true, cond_false, hw_fI, hw_aI, hw_aR, hw_of, hw_hw, hw_sz, hw_wfR, hw_waR, hw_rI, hw_rV, hw_rR, nI_add, hw_in, hw_cl, hw_R_same, hw_R_R, hw_U_same, hw_U_ne, hw_okn1_0, hw_okn1_1, m_goOn hS]
    refine ⟨_, _, rfl, q1'.aR (k := 21) rfl (by omega), ?_⟩
    rw [hw_R_same]
    exact mR_go hR1 hk hn h32
  by_cases hs : nI (zt S (z_at S k)) = zh S k 10
  · have hn2 := hn2 hs
    simp only [if_pos hs, h10, if_false]
    cases hg : kv_ix (nI (z_at S k)) (z_pg S 0).1 with
    | none =>
      have ez : z_remov S k = z_go S k := by
        unfold z_remov
        rw [hat, hg]
      have hlt : (-1 : Int32) < nI 0 := by decide
      simp only [hlt, if_true]
      exact no ez _
    | some b =>
      have hb := kv_ix_lt hg
      obtain ⟨-, hlt⟩ := m_bof (b := b) (by omega)
      have hkb := (b1.2 b hb).1
      simp (disch := omega) only [hlt, if_false, ↓mp_is hS, ↓mp_isr hS, ↓mp_rd35 hS, ↓mp_wr35 hS, ↓mp_rd36 hS, ↓mp_wr36 hS, ↓mp_rd38 hS, ↓mp_wr38 hS, ↓mp_rd39 hS, ↓mp_wr39 hS, ↓mp_rd43 hS, ↓mp_wr43 hS, ↓mp_rd44 hS, ↓mp_wr44 hS, ↓mp_rd46 hS, ↓mp_wr46 hS, ↓mp_rd47 hS, ↓mp_wr47 hS, ↓reduceIte, ↓hw_bdF, ↓hw_bdA, ↓hw_cbd, Option.bind_some, hw_bd, cond_true, cond_false, hw_fI, hw_aI, hw_aR, hw_of, hw_hw, hw_sz, hw_wfR, hw_waR, hw_rI, hw_rV, hw_rR, nI_add, hw_in, hw_cl, hw_R_same, hw_R_R, hw_U_same, hw_U_ne, hw_okn1_0, hw_okn1_1, hkb]
      by_cases h0 : ((z_pg S 0).1[b]).1 = nI 0
      · have ez : z_remov S k = z_go S k := by
          unfold z_remov
          rw [hat, hg]
          dsimp only
          rw [kv_nth_get hb, if_neg (fun w => w.2 h0)]
        simp only [h0, if_true]
        exact no ez _
      · have ez : z_remov S k = z_left (z_st (z_nw S (z_leaf (nI 4) (-2) (-2) (zt S (z_at S k))) []) (z_at S k) (zn S)) k (nI (z_at S k)) := by
          unfold z_remov
          rw [hat, hg]
          dsimp only
          rw [kv_nth_get hb, if_pos ⟨hs, h0⟩]
        have h01 : A1 (m + 21) 0 = nI (zn S) := hR1.1.1
        rw [ez]
        simp (disch := omega) only [h0, if_false, ↓mp_is hS, ↓mp_isr hS, ↓mp_rd35 hS, ↓mp_wr35 hS, ↓mp_rd36 hS, ↓mp_wr36 hS, ↓mp_rd38 hS, ↓mp_wr38 hS, ↓mp_rd39 hS, ↓mp_wr39 hS, ↓mp_rd43 hS, ↓mp_wr43 hS, ↓mp_rd44 hS, ↓mp_wr44 hS, ↓mp_rd46 hS, ↓mp_wr46 hS, ↓mp_rd47 hS, ↓mp_wr47 hS, ↓reduceIte, ↓hw_bdF, ↓hw_bdA, ↓hw_cbd, Option.bind_some, hw_bd, cond_true, cond_false, hw_fI, hw_aI, hw_aR, hw_of, hw_hw, hw_sz, hw_wfR, hw_waR, hw_rI, hw_rV, hw_rR, nI_add, hw_in, hw_cl, hw_R_same, hw_R_R, hw_U_same, hw_U_ne, hw_okn1_0, hw_okn1_1, m_topOf hS, hR1.2.1 _ hp, m_newRecord hS F1 A1 N (d + 7) hn2 h01, m_laysTop hS, m_leaves hS]
        refine ⟨_, _, rfl, q1'.aR (k := 21) rfl (by omega), ?_⟩
        rw [hw_R_same]
        have r1 := mR_st (mR_nw hR1 (z_leaf (nI 4) (-2) (-2) (zt S (z_at S k))) [] hn2 h32 rfl) (p := z_at S k) (by omega) (show zn S + 1 ≤ 1400 by omega) h32 (zn S)
        unfold z_left
        exact mR_sh (mR_sh r1 hk (by omega) (by omega) (show zn S + 1 ≤ 1400 by omega) h32 _) hk (by omega) (by omega) (show zn S + 1 ≤ 1400 by omega) h32 _
  · have ez : z_remov S k = z_go S k := by
      unfold z_remov
      rw [hat]
      split
      · rw [if_neg (fun w => hs w.1)]
      · rfl
    simp only [if_neg hs, if_true]
    exact no ez _
theorem m_goesLeft {h : ix_H} {m : Nat} (hS : mSh h m) {S : zS} (hW : z_W S) {N : Nat} (hN : 2000 ≤ N) (d : Nat) {k : Nat} (hk : k < 4) {F A : Nat → Nat → Int32} (hR : mR (A (m + 21)) S) (hb : ∀ q ∈ (z_pg S 0).1, ∃ p, p < zp S ∧ q.2 = nI p) :
    ∃ F' A', ix_run iy_P N (d + 10) 309 [ix_R (some m), ix_I (nI (42 + 14 * k))] (hw h F A) = some (.inl none, hw h F' A') ∧ mQ mX mY m F A F' A' ∧ mR (A' (m + 21)) (z_lookl S k) := by
  have h32 := hW.2.2.1
  have h2 := hW.2.1
  have hn := hW.1.1
  have hpg0 := hW.pg (show 0 < zp S by omega)
  have hz : ∀ f, f < 14 → A (m + 21) (42 + 14 * k + f) = zh S k f := fun f hf => hR.2.2.1 k f hk hf
  have h10 : ¬ nI 1 = nI 0 := by decide
  obtain ⟨F1, A1, e1, q1, b1⟩ := m_fillsBounds hS hW (show 1000 ≤ N by omega) (d + 2) (F := F) hR
  have hA1 : A1 (m + 21) = A (m + 21) := q1.2.2.1 21 rfl
  have hR1 : mR (A1 (m + 21)) S := by rw [hA1]; exact hR
  have q1' : mQ mX mY m F A F1 A1 := q1.mono rfl rfl
  rw [rX9_goesLeft N (d + 9)]
  unfold bX9_goesLeft
  have hbo := m_boundOf hS (show 1000 ≤ N by omega) (d + 8) b1 (show (z_pg S 0).1.length ≤ 89 by omega) (zh S k 11)
  cases hg : kv_ix (zh S k 11) (z_pg S 0).1 with
  | none =>
    have ez : z_lookl S k = z_go S k := by
      unfold z_lookl
      rw [hg]
    have hlt : ¬ nI 1 ≤ (-1 : Int32) := by decide
    rw [ez]
    rw [hg] at hbo
    simp (config := {maxSteps := 1000000}) (disch := omega) only [hlt, if_false, ↓mp_is hS, ↓mp_isr hS, ↓mp_rd35 hS, ↓mp_wr35 hS, ↓mp_rd36 hS, ↓mp_wr36 hS, ↓mp_rd38 hS, ↓mp_wr38 hS, ↓mp_rd39 hS, ↓mp_wr39 hS, ↓mp_rd43 hS, ↓mp_wr43 hS, ↓mp_rd44 hS, ↓mp_wr44 hS, ↓mp_rd46 hS, ↓mp_wr46 hS, ↓mp_rd47 hS, ↓mp_wr47 hS, ↓reduceIte, ↓hw_bdF, ↓hw_bdA, ↓hw_cbd, Option.bind_some, hw_bd, cond_true, cond_false, hw_fI, hw_aI, hw_aR, hw_of, hw_hw, hw_sz, hw_wfR, hw_waR, hw_rI, hw_rV, hw_rR, nI_add, hw_in, hw_cl, hw_R_same, hw_R_R, hw_U_same, hw_U_ne, hw_okn1_0, hw_okn1_1, hz, e1, hbo, m_goOn hS]
    refine ⟨_, _, rfl, q1'.aR (k := 21) rfl (by omega), ?_⟩
    rw [hw_R_same]
    exact mR_go hR1 hk hn h32
  | some b =>
    have hbl := kv_ix_lt hg
    cases b with
    | zero =>
      have ez : z_lookl S k = z_go S k := by
        unfold z_lookl
        rw [hg]
      have hlt : ¬ nI 1 ≤ nI 0 := by decide
      rw [ez]
      rw [hg] at hbo
      simp (config := {maxSteps := 1000000}) (disch := omega) only [hlt, if_false, ↓mp_is hS, ↓mp_isr hS, ↓mp_rd35 hS, ↓mp_wr35 hS, ↓mp_rd36 hS, ↓mp_wr36 hS, ↓mp_rd38 hS, ↓mp_wr38 hS, ↓mp_rd39 hS, ↓mp_wr39 hS, ↓mp_rd43 hS, ↓mp_wr43 hS, ↓mp_rd44 hS, ↓mp_wr44 hS, ↓mp_rd46 hS, ↓mp_wr46 hS, ↓mp_rd47 hS, ↓mp_wr47 hS, ↓reduceIte, ↓hw_bdF, ↓hw_bdA, ↓hw_cbd, Option.bind_some, hw_bd, cond_true, cond_false, hw_fI, hw_aI, hw_aR, hw_of, hw_hw, hw_sz, hw_wfR, hw_waR, hw_rI, hw_rV, hw_rR, nI_add, hw_in, hw_cl, hw_R_same, hw_R_R, hw_U_same, hw_U_ne, hw_okn1_0, hw_okn1_1, hz, e1, hbo, m_goOn hS]
      refine ⟨_, _, rfl, q1'.aR (k := 21) rfl (by omega), ?_⟩
      rw [hw_R_same]
      exact mR_go hR1 hk hn h32
    | succ b =>
      have hb1 : b < (z_pg S 0).1.length := by omega
      have hlt : nI 1 ≤ nI (b + 1) := by rw [hw_le (by omega) (by omega)]; omega
      obtain ⟨L, hL, hLv⟩ := hb _ (List.getElem_mem hb1)
      obtain ⟨w1, w2⟩ := b1.2 b hb1
      obtain ⟨w3, w4⟩ := b1.2 (b + 1) hbl
      rw [hLv] at w2
      have hLc : (nI L).toNatClampNeg = L := nI_clamp (by omega)
      rw [hg] at hbo
      simp (config := {maxSteps := 1000000}) (disch := omega) only [hlt, if_true, ↓mp_is hS, ↓mp_isr hS, ↓mp_rd35 hS, ↓mp_wr35 hS, ↓mp_rd36 hS, ↓mp_wr36 hS, ↓mp_rd38 hS, ↓mp_wr38 hS, ↓mp_rd39 hS, ↓mp_wr39 hS, ↓mp_rd43 hS, ↓mp_wr43 hS, ↓mp_rd44 hS, ↓mp_wr44 hS, ↓mp_rd46 hS, ↓mp_wr46 hS, ↓mp_rd47 hS, ↓mp_wr47 hS, ↓reduceIte, ↓hw_bdF, ↓hw_bdA, ↓hw_cbd, Option.bind_some, hw_bd, cond_true, cond_false, hw_fI, hw_aI, hw_aR, hw_of, hw_hw, hw_sz, hw_wfR, hw_waR, hw_rI, hw_rV, hw_rR, nI_add, hw_in, hw_cl, hw_R_same, hw_R_R, hw_U_same, hw_U_ne, hw_okn1_0, hw_okn1_1, hz, e1, hbo, hw_sub, Nat.add_sub_cancel, w2, m_isGone hS hW N (d + 7) hL hR1]
      have ez : z_lookl S k = if z_gone S L then z_left S k (nI L) else if (z_pg S L).2.1 < ((z_pg S 0).1[b + 1]).1 then z_note S k (z_pg S L).2.1 (z_pg S L).2.2 else if (z_pg S L).2.1 = ((z_pg S 0).1[b + 1]).1 ∧ (z_pg S L).2.2 = zh S k 11 then z_sees (z_sh (z_sh S k 12 ((z_pg S 0).1[b + 1]).1) k 13 (nI L)) k L (nI 11) else z_sh S k 1 (nI 12) := by
        unfold z_lookl
        rw [hg]
        dsimp only
        rw [kv_nth_get hb1, kv_nth_get hbl, hLv, hLc]
      rw [ez]
      by_cases hgo : z_gone S L
      · simp (disch := omega) only [if_pos hgo, h10, if_false, ↓mp_is hS, ↓mp_isr hS, ↓mp_rd35 hS, ↓mp_wr35 hS, ↓mp_rd36 hS, ↓mp_wr36 hS, ↓mp_rd38 hS, ↓mp_wr38 hS, ↓mp_rd39 hS, ↓mp_wr39 hS, ↓mp_rd43 hS, ↓mp_wr43 hS, ↓mp_rd44 hS, ↓mp_wr44 hS, ↓mp_rd46 hS, ↓mp_wr46 hS, ↓mp_rd47 hS, ↓mp_wr47 hS, ↓reduceIte, ↓hw_bdF, ↓hw_bdA, ↓hw_cbd, Option.bind_some, hw_bd, cond_true, cond_false, hw_fI, hw_aI, hw_aR, hw_of, hw_hw, hw_sz, hw_wfR, hw_waR, hw_rI, hw_rV, hw_rR, nI_add, hw_in, hw_cl, hw_R_same, hw_R_R, hw_U_same, hw_U_ne, hw_okn1_0, hw_okn1_1, m_leaves hS]
        refine ⟨_, _, rfl, q1'.aR (k := 21) rfl (by omega), ?_⟩
        rw [hw_R_same]
        unfold z_left
        exact mR_sh (mR_sh hR1 hk (by omega) (by omega) hn h32 _) hk (by omega) (by omega) hn h32 _
      obtain ⟨F2, A2, e2, q2, l2, c2⟩ := m_fillsHas hS hW (show 1000 ≤ N by omega) (d + 3) hL (F := F1) hR1
      have hA2 : A2 (m + 21) = A1 (m + 21) := q2.2.2.1 21 rfl
      have hR2 : mR (A2 (m + 21)) S := by rw [hA2]; exact hR1
      have w3' : A2 (m + 25) (b + 1) = ((z_pg S 0).1[b + 1]).1 := by rw [q2.2.2.1 25 rfl]; exact w3
      have q2' : mQ mX mY m F A F2 A2 := q1'.trans (q2.mono rfl rfl)
      unfold jX9_goesLeft_88 jX9_goesLeft_93
      rw [if_neg hgo]
      simp (disch := omega) only [if_neg hgo, if_true, ↓mp_is hS, ↓mp_isr hS, ↓mp_rd35 hS, ↓mp_wr35 hS, ↓mp_rd36 hS, ↓mp_wr36 hS, ↓mp_rd38 hS, ↓mp_wr38 hS, ↓mp_rd39 hS, ↓mp_wr39 hS, ↓mp_rd43 hS, ↓mp_wr43 hS, ↓mp_rd44 hS, ↓mp_wr44 hS, ↓mp_rd46 hS, ↓mp_wr46 hS, ↓mp_rd47 hS, ↓mp_wr47 hS, ↓reduceIte, ↓hw_bdF, ↓hw_bdA, ↓hw_cbd, Option.bind_some, hw_bd, cond_true, cond_false, hw_fI, hw_aI, hw_aR, hw_of, hw_hw, hw_sz, hw_wfR, hw_waR, hw_rI, hw_rV, hw_rR, nI_add, hw_in, hw_cl, hw_R_same, hw_R_R, hw_U_same, hw_U_ne, hw_okn1_0, hw_okn1_1, e2, l2.2.1, l2.2.2, w3']
      by_cases hlt2 : (z_pg S L).2.1 < ((z_pg S 0).1[b + 1]).1
      · have hle2 : ¬ ((z_pg S 0).1[b + 1]).1 ≤ (z_pg S L).2.1 := fun w => by rw [Int32.lt_iff_toInt_lt] at hlt2; rw [Int32.le_iff_toInt_le] at w; omega
        rw [if_pos hlt2]
        simp (disch := omega) only [hle2, if_false, ↓mp_is hS, ↓mp_isr hS, ↓mp_rd35 hS, ↓mp_wr35 hS, ↓mp_rd36 hS, ↓mp_wr36 hS, ↓mp_rd38 hS, ↓mp_wr38 hS, ↓mp_rd39 hS, ↓mp_wr39 hS, ↓mp_rd43 hS, ↓mp_wr43 hS, ↓mp_rd44 hS, ↓mp_wr44 hS, ↓mp_rd46 hS, ↓mp_wr46 hS, ↓mp_rd47 hS, ↓mp_wr47 hS, ↓reduceIte, ↓hw_bdF, ↓hw_bdA, ↓hw_cbd, Option.bind_some, hw_bd, cond_true, cond_false, hw_fI, hw_aI, hw_aR, hw_of, hw_hw, hw_sz, hw_wfR, hw_waR, hw_rI, hw_rV, hw_rR, nI_add, hw_in, hw_cl, hw_R_same, hw_R_R, hw_U_same, hw_U_ne, hw_okn1_0, hw_okn1_1, m_notes hS, l2.2.1, l2.2.2]
        refine ⟨_, _, rfl, q2'.aR (k := 21) rfl (by omega), ?_⟩
        rw [hw_R_same]
        unfold z_note
        exact mR_sh (mR_sh (mR_sh hR2 hk (by omega) (by omega) hn h32 _) hk (by omega) (by omega) hn h32 _) hk (by omega) (by omega) hn h32 _
      have hle2 : ((z_pg S 0).1[b + 1]).1 ≤ (z_pg S L).2.1 := kv_nlt_le.mp hlt2
      rw [if_neg hlt2]
      simp only [hle2, if_true]
      by_cases hq : (z_pg S L).2.1 = ((z_pg S 0).1[b + 1]).1
      · by_cases hr : (z_pg S L).2.2 = zh S k 11
        · rw [if_pos (show (z_pg S L).2.1 = ((z_pg S 0).1[b + 1]).1 ∧ (z_pg S L).2.2 = zh S k 11 from ⟨hq, hr⟩)]
          simp (disch := omega) only [hq, hr, if_true, ↓mp_is hS, ↓mp_isr hS, ↓mp_rd35 hS, ↓mp_wr35 hS, ↓mp_rd36 hS, ↓mp_wr36 hS, ↓mp_rd38 hS, ↓mp_wr38 hS, ↓mp_rd39 hS, ↓mp_wr39 hS, ↓mp_rd43 hS, ↓mp_wr43 hS, ↓mp_rd44 hS, ↓mp_wr44 hS, ↓mp_rd46 hS, ↓mp_wr46 hS, ↓mp_rd47 hS, ↓mp_wr47 hS, ↓reduceIte, ↓hw_bdF, ↓hw_bdA, ↓hw_cbd, Option.bind_some, hw_bd, cond_true, cond_false, hw_fI, hw_aI, hw_aR, hw_of, hw_hw, hw_sz, hw_wfR, hw_waR, hw_rI, hw_rV, hw_rR, nI_add, hw_in, hw_cl, hw_R_same, hw_R_R, hw_U_same, hw_U_ne, hw_okn1_0, hw_okn1_1, w3', m_sees hS]
          refine ⟨_, _, rfl, q2'.aR (k := 21) rfl (by omega), ?_⟩
          rw [hw_R_same]
          unfold z_sees
          rw [hR2.2.1 L hL]
          exact mR_sh (mR_sh (mR_sh (mR_sh hR2 hk (by omega) (by omega) hn h32 _) hk (by omega) (by omega) hn h32 _) hk (by omega) (by omega) hn h32 _) hk (by omega) (by omega) hn h32 _
        · rw [if_neg (show ¬ ((z_pg S L).2.1 = ((z_pg S 0).1[b + 1]).1 ∧ (z_pg S L).2.2 = zh S k 11) from fun w => hr w.2)]
          simp (disch := omega) only [hq, hr, if_true, if_false, ↓mp_is hS, ↓mp_isr hS, ↓mp_rd35 hS, ↓mp_wr35 hS, ↓mp_rd36 hS, ↓mp_wr36 hS, ↓mp_rd38 hS, ↓mp_wr38 hS, ↓mp_rd39 hS, ↓mp_wr39 hS, ↓mp_rd43 hS, ↓mp_wr43 hS, ↓mp_rd44 hS, ↓mp_wr44 hS, ↓mp_rd46 hS, ↓mp_wr46 hS, ↓mp_rd47 hS, ↓mp_wr47 hS, ↓reduceIte, ↓hw_bdF, ↓hw_bdA, ↓hw_cbd, Option.bind_some, hw_bd, cond_true, cond_false, hw_fI, hw_aI, hw_aR, hw_of, hw_hw, hw_sz, hw_wfR, hw_waR, hw_rI, hw_rV, hw_rR, nI_add, hw_in, hw_cl, hw_R_same, hw_R_R, hw_U_same, hw_U_ne, hw_okn1_0, hw_okn1_1, m_stands hS]
          refine ⟨_, _, rfl, q2'.aR (k := 21) rfl (by omega), ?_⟩
          rw [hw_R_same]
          exact mR_sh hR2 hk (by omega) (by omega) hn h32 _
      · rw [if_neg (show ¬ ((z_pg S L).2.1 = ((z_pg S 0).1[b + 1]).1 ∧ (z_pg S L).2.2 = zh S k 11) from fun w => hq w.1)]
        simp (disch := omega) only [hq, if_false, ↓mp_is hS, ↓mp_isr hS, ↓mp_rd35 hS, ↓mp_wr35 hS, ↓mp_rd36 hS, ↓mp_wr36 hS, ↓mp_rd38 hS, ↓mp_wr38 hS, ↓mp_rd39 hS, ↓mp_wr39 hS, ↓mp_rd43 hS, ↓mp_wr43 hS, ↓mp_rd44 hS, ↓mp_wr44 hS, ↓mp_rd46 hS, ↓mp_wr46 hS, ↓mp_rd47 hS, ↓mp_wr47 hS, ↓reduceIte, ↓hw_bdF, ↓hw_bdA, ↓hw_cbd, Option.bind_some, hw_bd, cond_true, cond_false, hw_fI, hw_aI, hw_aR, hw_of, hw_hw, hw_sz, hw_wfR, hw_waR, hw_rI, hw_rV, hw_rR, nI_add, hw_in, hw_cl, hw_R_same, hw_R_R, hw_U_same, hw_U_ne, hw_okn1_0, hw_okn1_1, m_stands hS]
        refine ⟨_, _, rfl, q2'.aR (k := 21) rfl (by omega), ?_⟩
        rw [hw_R_same]
        exact mR_sh hR2 hk (by omega) (by omega) hn h32 _
theorem m_merges {h : ix_H} {m : Nat} (hS : mSh h m) {S : zS} (hW : z_W S) {N : Nat} (hN : 2000 ≤ N) (d : Nat) {k : Nat} (hk : k < 4) {F A : Nat → Nat → Int32} (hR : mR (A (m + 21)) S) (hp : z_ob S k < zp S) (hob : zh S k 13 = nI (z_ob S k)) (hv : z_vi S k < zp S) (hvi : zh S k 11 = nI (z_vi S k)) (hn2 : nI (zt S (z_ob S k)) = zh S k 10 → zn S < 1400) :
    ∃ F' A', ix_run iy_P N (d + 10) 310 [ix_R (some m), ix_I (nI (42 + 14 * k))] (hw h F A) = some (.inl none, hw h F' A') ∧ mQ mX mY m F A F' A' ∧ mR (A' (m + 21)) (z_join S k) := by
  have h32 := hW.2.2.1
  have hn := hW.1.1
  have hz : ∀ f, f < 14 → A (m + 21) (42 + 14 * k + f) = zh S k f := fun f hf => hR.2.2.1 k f hk hf
  have h10 : ¬ nI 1 = nI 0 := by decide
  rw [rX9_merges N (d + 9)]
  unfold bX9_merges
  simp (disch := omega) only [↓mp_is hS, ↓mp_isr hS, ↓mp_rd35 hS, ↓mp_wr35 hS, ↓mp_rd36 hS, ↓mp_wr36 hS, ↓mp_rd38 hS, ↓mp_wr38 hS, ↓mp_rd39 hS, ↓mp_wr39 hS, ↓mp_rd43 hS, ↓mp_wr43 hS, ↓mp_rd44 hS, ↓mp_wr44 hS, ↓mp_rd46 hS, ↓mp_wr46 hS, ↓mp_rd47 hS, ↓mp_wr47 hS, ↓reduceIte, ↓hw_bdF, ↓hw_bdA, ↓hw_cbd, Option.bind_some, hw_bd, cond_true, cond_false, hw_fI, hw_aI, hw_aR, hw_of, hw_hw, hw_sz, hw_wfR, hw_waR, hw_rI, hw_rV, hw_rR, nI_add, hw_in, hw_cl, hw_R_same, hw_R_R, hw_U_same, hw_U_ne, hw_okn1_0, hw_okn1_1, hz, hob, hvi, m_isSeen hS, hR.2.1 _ hp]
  by_cases hs : nI (zt S (z_ob S k)) = zh S k 10
  · have hn2 := hn2 hs
    obtain ⟨F1, A1, e1, q1⟩ := m_baseOf hS hW (show 1000 ≤ N by omega) (d + 6) hv (F := F) hR
    have hA1 : A1 (m + 21) = A (m + 21) := q1.2.2.1 21 rfl
    have hR1 : mR (A1 (m + 21)) S := by rw [hA1]; exact hR
    have hz1 : ∀ f, f < 14 → A1 (m + 21) (42 + 14 * k + f) = zh S k f := fun f hf => hR1.2.2.1 k f hk hf
    have h01 : A1 (m + 21) 0 = nI (zn S) := hR1.1.1
    have q1' : mQ mX mY m F A F1 A1 := q1.mono rfl rfl
    have ez : z_join S k = z_sh (z_st (z_nw S (z_f (nI 5) (zh S k 12) (nI (z_vi S k)) (nI (zt S (z_ob S k))) (nI 0) (nI 0) (-2) (nI ((z_chain S.1 (zt S (z_vi S k))).getLastD 0))) []) (z_ob S k) (zn S)) k 1 (nI 12) := by
      unfold z_join
      rw [if_pos hs, hvi]
    rw [ez]
    simp (disch := omega) only [if_pos hs, h10, if_false, ↓mp_is hS, ↓mp_isr hS, ↓mp_rd35 hS, ↓mp_wr35 hS, ↓mp_rd36 hS, ↓mp_wr36 hS, ↓mp_rd38 hS, ↓mp_wr38 hS, ↓mp_rd39 hS, ↓mp_wr39 hS, ↓mp_rd43 hS, ↓mp_wr43 hS, ↓mp_rd44 hS, ↓mp_wr44 hS, ↓mp_rd46 hS, ↓mp_wr46 hS, ↓mp_rd47 hS, ↓mp_wr47 hS, ↓reduceIte, ↓hw_bdF, ↓hw_bdA, ↓hw_cbd, Option.bind_some, hw_bd, cond_true, cond_false, hw_fI, hw_aI, hw_aR, hw_of, hw_hw, hw_sz, hw_wfR, hw_waR, hw_rI, hw_rV, hw_rR, nI_add, hw_in, hw_cl, hw_R_same, hw_R_R, hw_U_same, hw_U_ne, hw_okn1_0, hw_okn1_1, e1, hz1, m_topOf hS, hR1.2.1 _ hp, m_newRecord hS F1 A1 N (d + 7) hn2 h01, m_record0, m_laysTop hS, m_stands hS]
    refine ⟨_, _, rfl, q1'.aR (k := 21) rfl (by omega), ?_⟩
    rw [hw_R_same]
    have em : hw_U (m_rec (A1 (m + 21)) (zn S) (z_f (nI 5) (zh S k 12) (nI (z_vi S k)) (nI (zt S (z_ob S k))) (nI 0) (nI 0) (-2) (-2))) (100 + 10 * zn S + 9) (nI ((z_chain S.1 (zt S (z_vi S k))).getLastD 0)) = m_rec (A1 (m + 21)) (zn S) (z_f (nI 5) (zh S k 12) (nI (z_vi S k)) (nI (zt S (z_ob S k))) (nI 0) (nI 0) (-2) (nI ((z_chain S.1 (zt S (z_vi S k))).getLastD 0))) := by
      funext j
      rw [hw_U_at]
      by_cases hj : j = 100 + 10 * zn S + 9
      · subst hj
        rw [if_pos rfl]
        unfold m_rec
        rw [if_neg (by omega), if_pos (by omega), Nat.add_sub_cancel_left]
        rfl
      · rw [if_neg hj]
        unfold m_rec
        by_cases h0 : j = 0
        · rw [if_pos h0, if_pos h0]
        · rw [if_neg h0, if_neg h0]
          by_cases hr : 100 + 10 * zn S ≤ j ∧ j < 110 + 10 * zn S
          · rw [if_pos hr, if_pos hr]
            obtain ⟨t, ht, rfl⟩ : ∃ t, t < 9 ∧ j = 100 + 10 * zn S + t := ⟨j - (100 + 10 * zn S), by omega, by omega⟩
            rw [Nat.add_sub_cancel_left]
            match t, ht with
            | 0, _ => rfl
            | 1, _ => rfl
            | 2, _ => rfl
            | 3, _ => rfl
            | 4, _ => rfl
            | 5, _ => rfl
            | 6, _ => rfl
            | 7, _ => rfl
            | 8, _ => rfl
          · rw [if_neg hr, if_neg hr]
    rw [em]
    exact mR_sh (mR_st (mR_nw hR1 _ [] hn2 h32 rfl) (by omega) (show zn S + 1 ≤ 1400 by omega) h32 _) hk (by omega) (by omega) (show zn S + 1 ≤ 1400 by omega) h32 _
  · have ez : z_join S k = z_sh (z_lose S k) k 1 (nI 10) := by
      unfold z_join
      rw [if_neg hs]
    rw [ez]
    simp (disch := omega) only [if_neg hs, if_true, ↓mp_is hS, ↓mp_isr hS, ↓mp_rd35 hS, ↓mp_wr35 hS, ↓mp_rd36 hS, ↓mp_wr36 hS, ↓mp_rd38 hS, ↓mp_wr38 hS, ↓mp_rd39 hS, ↓mp_wr39 hS, ↓mp_rd43 hS, ↓mp_wr43 hS, ↓mp_rd44 hS, ↓mp_wr44 hS, ↓mp_rd46 hS, ↓mp_wr46 hS, ↓mp_rd47 hS, ↓mp_wr47 hS, ↓reduceIte, ↓hw_bdF, ↓hw_bdA, ↓hw_cbd, Option.bind_some, hw_bd, cond_true, cond_false, hw_fI, hw_aI, hw_aR, hw_of, hw_hw, hw_sz, hw_wfR, hw_waR, hw_rI, hw_rV, hw_rR, nI_add, hw_in, hw_cl, hw_R_same, hw_R_R, hw_U_same, hw_U_ne, hw_okn1_0, hw_okn1_1, m_loses hS, m_stands hS]
    refine ⟨_, _, rfl, (mQ.refl mX mY m F A).aR (k := 21) rfl (by omega), ?_⟩
    rw [hw_R_same, hz 3 (by omega)]
    exact mR_sh (mR_lose hR hk hn h32) hk (by omega) (by omega) hn h32 _
theorem m_strikes {h : ix_H} {m : Nat} (hS : mSh h m) {S : zS} (hW : z_W S) {N : Nat} (hN : 2000 ≤ N) (d : Nat) {k : Nat} (hk : k < 4) {F A : Nat → Nat → Int32} (hR : mR (A (m + 21)) S) (hv : z_vi S k < zp S) (hvi : zh S k 11 = nI (z_vi S k)) (hW2 : nI (zt S 0) = zh S k 10 → zn S < 1400 ∧ z_W (z_stri S k) ∧ ∃ b, kv_ix (zh S k 11) (z_pg S 0).1 = some b) (hc : zc S < 100) :
    ∃ F' A', ix_run iy_P N (d + 10) 313 [ix_R (some m), ix_I (nI (42 + 14 * k))] (hw h F A) = some (.inl none, hw h F' A') ∧ mQ mX mY m F A F' A' ∧ mR (A' (m + 21)) (z_stri S k) := by
  have h32 := hW.2.2.1
  have h2 := hW.2.1
  have hn := hW.1.1
  have hpg0 := hW.pg (show 0 < zp S by omega)
  have hz : ∀ f, f < 14 → A (m + 21) (42 + 14 * k + f) = zh S k f := fun f hf => hR.2.2.1 k f hk hf
  have h10 : ¬ nI 1 = nI 0 := by decide
  rw [rX9_strikes N (d + 9)]
  unfold bX9_strikes
  simp (disch := omega) only [↓mp_is hS, ↓mp_isr hS, ↓mp_rd35 hS, ↓mp_wr35 hS, ↓mp_rd36 hS, ↓mp_wr36 hS, ↓mp_rd38 hS, ↓mp_wr38 hS, ↓mp_rd39 hS, ↓mp_wr39 hS, ↓mp_rd43 hS, ↓mp_wr43 hS, ↓mp_rd44 hS, ↓mp_wr44 hS, ↓mp_rd46 hS, ↓mp_wr46 hS, ↓mp_rd47 hS, ↓mp_wr47 hS, ↓reduceIte, ↓hw_bdF, ↓hw_bdA, ↓hw_cbd, Option.bind_some, hw_bd, cond_true, cond_false, hw_fI, hw_aI, hw_aR, hw_of, hw_hw, hw_sz, hw_wfR, hw_waR, hw_rI, hw_rV, hw_rR, nI_add, hw_in, hw_cl, hw_R_same, hw_R_R, hw_U_same, hw_U_ne, hw_okn1_0, hw_okn1_1, hz, hvi, m_isSeen hS, hR.2.1 0 (by omega)]
  by_cases hs : nI (zt S 0) = zh S k 10
  · obtain ⟨hn2, hW2, b, hg⟩ := hW2 hs
    obtain ⟨F1, A1, e1, q1, b1⟩ := m_fillsBounds hS hW (show 1000 ≤ N by omega) (d + 2) (F := F) hR
    have hA1 : A1 (m + 21) = A (m + 21) := q1.2.2.1 21 rfl
    have hR1 : mR (A1 (m + 21)) S := by rw [hA1]; exact hR
    have q1' : mQ mX mY m F A F1 A1 := q1.mono rfl rfl
    have hb := kv_ix_lt hg
    have hkb := (b1.2 b hb).1
    have hg' := hg
    rw [hvi] at hg'
    have htv := hW.2.2.2 _ hv
    unfold jX9_strikes_38
    simp (disch := omega) only [if_pos hs, h10, if_false, ↓mp_is hS, ↓mp_isr hS, ↓mp_rd35 hS, ↓mp_wr35 hS, ↓mp_rd36 hS, ↓mp_wr36 hS, ↓mp_rd38 hS, ↓mp_wr38 hS, ↓mp_rd39 hS, ↓mp_wr39 hS, ↓mp_rd43 hS, ↓mp_wr43 hS, ↓mp_rd44 hS, ↓mp_wr44 hS, ↓mp_rd46 hS, ↓mp_wr46 hS, ↓mp_rd47 hS, ↓mp_wr47 hS, ↓reduceIte, ↓hw_bdF, ↓hw_bdA, ↓hw_cbd, Option.bind_some, hw_bd, cond_true, cond_false, hw_fI, hw_aI, hw_aR, hw_of, hw_hw, hw_sz, hw_wfR, hw_waR, hw_rI, hw_rV, hw_rR, nI_add, hw_in, hw_cl, hw_R_same, hw_R_R, hw_U_same, hw_U_ne, hw_okn1_0, hw_okn1_1, e1, m_boundOf hS (show 1000 ≤ N by omega) (d + 8) b1 (show (z_pg S 0).1.length ≤ 89 by omega), hg', hkb, m_isGone hS hW N (d + 7) hv hR1]
    have ez : z_stri S k = z_chg (if z_gone S (z_vi S k) then z_mk S [zt S (z_vi S k)] else S) k (nI 7) ((z_pg S 0).1[b]).1 (-2) := by
      unfold z_stri
      rw [if_pos hs, hg, Option.getD_some, kv_nth_get hb]
    rw [ez] at hW2 ⊢
    by_cases hgo : z_gone S (z_vi S k)
    · rw [if_pos hgo] at hW2 ⊢
      have hR2 := mR_mk hR1 (r := zt S (z_vi S k)) (by omega) hn h32
      rw [← hw_R_same A1 (m + 21) (hw_U _ _ _)] at hR2
      obtain ⟨F3, A3, e3, q3, r3⟩ := m_changes hS (S := z_mk S [zt S (z_vi S k)]) h32 h2 hn2 hN (d + 3) hk (F := F1) hR2 _ _ _ hW2 hc
      simp (disch := omega) only [if_pos hgo, h10, if_false, ↓mp_is hS, ↓mp_isr hS, ↓mp_rd35 hS, ↓mp_wr35 hS, ↓mp_rd36 hS, ↓mp_wr36 hS, ↓mp_rd38 hS, ↓mp_wr38 hS, ↓mp_rd39 hS, ↓mp_wr39 hS, ↓mp_rd43 hS, ↓mp_wr43 hS, ↓mp_rd44 hS, ↓mp_wr44 hS, ↓mp_rd46 hS, ↓mp_wr46 hS, ↓mp_rd47 hS, ↓mp_wr47 hS, ↓reduceIte, ↓hw_bdF, ↓hw_bdA, ↓hw_cbd, Option.bind_some, hw_bd, cond_true, cond_false, hw_fI, hw_aI, hw_aR, hw_of, hw_hw, hw_sz, hw_wfR, hw_waR, hw_rI, hw_rV, hw_rR, nI_add, hw_in, hw_cl, hw_R_same, hw_R_R, hw_U_same, hw_U_ne, hw_okn1_0, hw_okn1_1, m_topOf hS, hR1.2.1 _ hv, m_retires hS, e3]
      exact ⟨F3, A3, rfl, (q1'.aR (k := 21) rfl (by omega)).trans q3, r3⟩
    · rw [if_neg hgo] at hW2 ⊢
      obtain ⟨F3, A3, e3, q3, r3⟩ := m_changes hS h32 h2 hn2 hN (d + 3) hk (F := F1) hR1 _ _ _ hW2 hc
      simp (disch := omega) only [if_neg hgo, if_true, ↓mp_is hS, ↓mp_isr hS, ↓mp_rd35 hS, ↓mp_wr35 hS, ↓mp_rd36 hS, ↓mp_wr36 hS, ↓mp_rd38 hS, ↓mp_wr38 hS, ↓mp_rd39 hS, ↓mp_wr39 hS, ↓mp_rd43 hS, ↓mp_wr43 hS, ↓mp_rd44 hS, ↓mp_wr44 hS, ↓mp_rd46 hS, ↓mp_wr46 hS, ↓mp_rd47 hS, ↓mp_wr47 hS, ↓reduceIte, ↓hw_bdF, ↓hw_bdA, ↓hw_cbd, Option.bind_some, hw_bd, cond_true, cond_false, hw_fI, hw_aI, hw_aR, hw_of, hw_hw, hw_sz, hw_wfR, hw_waR, hw_rI, hw_rV, hw_rR, nI_add, hw_in, hw_cl, hw_R_same, hw_R_R, hw_U_same, hw_U_ne, hw_okn1_0, hw_okn1_1, e3]
      exact ⟨F3, A3, rfl, q1'.trans q3, r3⟩
  · have ez : z_stri S k = z_sh (z_lose S k) k 1 (nI 12) := by
      unfold z_stri
      rw [if_neg hs]
    rw [ez]
    simp (disch := omega) only [if_neg hs, if_true, ↓mp_is hS, ↓mp_isr hS, ↓mp_rd35 hS, ↓mp_wr35 hS, ↓mp_rd36 hS, ↓mp_wr36 hS, ↓mp_rd38 hS, ↓mp_wr38 hS, ↓mp_rd39 hS, ↓mp_wr39 hS, ↓mp_rd43 hS, ↓mp_wr43 hS, ↓mp_rd44 hS, ↓mp_wr44 hS, ↓mp_rd46 hS, ↓mp_wr46 hS, ↓mp_rd47 hS, ↓mp_wr47 hS, ↓reduceIte, ↓hw_bdF, ↓hw_bdA, ↓hw_cbd, Option.bind_some, hw_bd, cond_true, cond_false, hw_fI, hw_aI, hw_aR, hw_of, hw_hw, hw_sz, hw_wfR, hw_waR, hw_rI, hw_rV, hw_rR, nI_add, hw_in, hw_cl, hw_R_same, hw_R_R, hw_U_same, hw_U_ne, hw_okn1_0, hw_okn1_1, m_loses hS, m_stands hS]
    refine ⟨_, _, rfl, (mQ.refl mX mY m F A).aR (k := 21) rfl (by omega), ?_⟩
    rw [hw_R_same, hz 3 (by omega)]
    exact mR_sh (mR_lose hR hk hn h32) hk (by omega) (by omega) hn h32 _
