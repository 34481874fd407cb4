/-! M7: the reference: the stages that change pages -/
set_option maxRecDepth 100000
theorem mR_go {nw : Nat → Int32} {S : zS} (h : mR nw S) {k : Nat} (hk : k < 4) (hn : zn S ≤ 1400) (hp : zp S ≤ 32) : mR (hw_U nw (42 + 14 * k + 1) (if nw (42 + 14 * k + 9) = nI 1 then nI 0 else nI 1)) (z_go S k) := by
  unfold z_go
  rw [h.2.2.1 k 9 hk (by omega)]
  exact mR_sh h hk (by omega) (by omega) hn hp _
theorem m_prepends {h : ix_H} {m : Nat} (hS : mSh h m) {S : zS} (hW : z_W S) {N : Nat} (hN : 2000 ≤ N) (d : Nat) {k : Nat} (hk : k < 4) {F A : Nat → Nat → Int32} (hR : mR (A (m + 21)) S) (hp : z_at S k < zp S) (hat : zh S k 2 = nI (z_at S k)) (hW2 : nI (zt S (z_at S k)) = zh S k 10 → zn S < 1400 ∧ z_W (z_prep S k)) (hc : zc S < 100) :
    ∃ F' A', ix_run iy_P N (d + 10) 294 [ix_R (some m), ix_I (nI (42 + 14 * k))] (hw h F A) = some (.inl none, hw h F' A') ∧ mQ mX mY m F A F' A' ∧ mR (A' (m + 21)) (z_prep S k) := by
  have h32 := hW.2.2.1
  have hn := hW.1.1
  have hpg := hW.pg hp
  have hz : ∀ f, f < 14 → A (m + 21) (42 + 14 * k + f) = zh S k f := fun f hf => hR.2.2.1 k f hk hf
  have h10 : ¬ nI 1 = nI 0 := by decide
  have sh : ∀ {nw T}, mR nw T → ∀ {f}, f < 14 → f ≠ 3 → zn T ≤ 1400 → zp T ≤ 32 → ∀ v, mR (hw_U nw (42 + 14 * k + f) v) (z_sh T k f v) := fun h _ h1 h2 h3 h4 v => mR_sh h hk h1 h2 h3 h4 v
  rw [rX9_prepends N (d + 9)]
  unfold bX9_prepends
  simp (disch := omega) only [↓mp_is hS, ↓mp_isr hS, ↓mp_rd35 hS, ↓mp_wr35 hS, ↓mp_rd36 hS, ↓mp_wr36 hS, ↓mp_rd38 hS, ↓mp_wr38 hS, ↓mp_rd39 hS, ↓mp_wr39 hS, ↓mp_rd43 hS, ↓mp_wr43 hS, ↓mp_rd44 hS, ↓mp_wr44 hS, ↓mp_rd46 hS, ↓mp_wr46 hS, ↓mp_rd47 hS, ↓mp_wr47 hS, ↓reduceIte, ↓hw_bdF, ↓hw_bdA, ↓hw_cbd, Option.bind_some, hw_bd, cond_true, cond_false, hw_fI, hw_aI, hw_aR, hw_of, hw_hw, hw_sz, hw_wfR, hw_waR, hw_rI, hw_rV, hw_rR, nI_add, hw_in, hw_cl, hw_R_same, hw_R_R, hw_U_same, hw_U_ne, hw_okn1_0, hw_okn1_1, hz, hat, m_isSeen hS, hR.2.1 _ hp]
  by_cases hs : nI (zt S (z_at S k)) = zh S k 10
  · obtain ⟨hn2, hW2⟩ := hW2 hs
    obtain ⟨F2, A2, e2, q2, l2, c2⟩ := m_fillsHas hS hW (show 1000 ≤ N by omega) (d + 3) hp (F := F) hR
    have hA2 : A2 (m + 21) = A (m + 21) := q2.2.2.1 21 rfl
    have hz2 : ∀ f, f < 14 → A2 (m + 21) (42 + 14 * k + f) = zh S k f := fun f hf => by rw [hA2]; exact hz f hf
    have ht2 : A2 (m + 21) (10 + z_at S k) = nI (zt S (z_at S k)) := by rw [hA2]; exact hR.2.1 _ hp
    have h02 : A2 (m + 21) 0 = nI (zn S) := by rw [hA2]; exact hR.1.1
    unfold z_prep at hW2 ⊢
    rw [if_pos hs] at hW2 ⊢
    dsimp only at hW2 ⊢
    generalize hSR : z_rest S k (if kv_get (zh S k 6) (z_pg S (z_at S k)).1 = none then nI 0 else nI 1) = SR at hW2 ⊢
    have hRR : mR (hw_U (hw_U (hw_U (A2 (m + 21)) (42 + 14 * k + 8) (if kv_get (zh S k 6) (z_pg S (z_at S k)).1 = none then nI 0 else nI 1)) (42 + 14 * k + 9) (nI 1)) (42 + 14 * k + 1) (nI 0)) SR := by
      rw [← hSR, hA2]
      unfold z_rest
      exact sh (sh (sh hR (by omega) (by omega) hn h32 _) (by omega) (by omega) hn h32 _) (by omega) (by omega) hn h32 _
    have en : zn SR = zn S := by rw [← hSR]; rfl
    have ep : zp SR = zp S := by rw [← hSR]; rfl
    have hkey : ∀ (act v : Int32), ∃ S2, S2 = z_st (z_nw SR (z_leaf act (zh S k 6) v (zt S (z_at S k))) []) (z_at S k) (zn S) ∧ mR (hw_U (m_rec (hw_U (hw_U (hw_U (A2 (m + 21)) (42 + 14 * k + 8) (if kv_get (zh S k 6) (z_pg S (z_at S k)).1 = none then nI 0 else nI 1)) (42 + 14 * k + 9) (nI 1)) (42 + 14 * k + 1) (nI 0)) (zn S) (z_f act (zh S k 6) v (nI (zt S (z_at S k))) (nI 0) (nI 0) (-2) (-2))) (10 + z_at S k) (nI (zn S))) S2 := fun act v => by
      refine ⟨_, rfl, ?_⟩
      have h1 := mR_nw hRR (z_leaf act (zh S k 6) v (zt S (z_at S k))) [] (by omega) (by omega) rfl
      rw [en] at h1
      exact mR_st h1 (by omega) (by show zn SR + 1 ≤ 1400; omega) (by show zp SR ≤ 32; omega) _
    -- the last part, for an act and a value
    have fin : ∀ (act v : Int32) K (S2 : zS), S2 = z_st (z_nw SR (z_leaf act (zh S k 6) v (zt S (z_at S k))) []) (z_at S k) (zn S) → z_W S2 → ∃ F' A', jX9_prepends_74 (ix_run iy_P N (d + 9)) K m (nI (42 + 14 * k)) (nI (z_at S k)) (some m) (nI (z_at S k)) (some m) act (zh S k 6) v (hw h F2 (hw_R A2 (m + 21) (hw_U (hw_U (hw_U (A2 (m + 21)) (42 + 14 * k + 8) (if kv_get (zh S k 6) (z_pg S (z_at S k)).1 = none then nI 0 else nI 1)) (42 + 14 * k + 9) (nI 1)) (42 + 14 * k + 1) (nI 0)))) = some (.inl none, hw h F' A') ∧ mQ mX mY m F A F' A' ∧ mR (A' (m + 21)) (if zc S < z_len S2 (z_at S k) then z_sh S2 k 1 (nI 4) else S2) := by
      intro act v K S2 hS2 hWS2
      obtain ⟨_, rfl, hRS2⟩ := hkey act v
      rw [← hS2] at hRS2
      unfold jX9_prepends_74 jX9_prepends_92
      have h0' : (hw_R A2 (m + 21) (hw_U (hw_U (hw_U (A2 (m + 21)) (42 + 14 * k + 8) (if kv_get (zh S k 6) (z_pg S (z_at S k)).1 = none then nI 0 else nI 1)) (42 + 14 * k + 9) (nI 1)) (42 + 14 * k + 1) (nI 0))) (m + 21) 0 = nI (zn S) := by
        simp (disch := omega) only [hw_R_same, hw_R_ne, hw_U_same, hw_U_ne]
        exact h02
      simp (disch := omega) only [↓mp_is hS, ↓mp_isr hS, ↓mp_rd35 hS, ↓mp_wr35 hS, ↓mp_rd36 hS, ↓mp_wr36 hS, ↓mp_rd38 hS, ↓mp_wr38 hS, ↓mp_rd39 hS, ↓mp_wr39 hS, ↓mp_rd43 hS, ↓mp_wr43 hS, ↓mp_rd44 hS, ↓mp_wr44 hS, ↓mp_rd46 hS, ↓mp_wr46 hS, ↓mp_rd47 hS, ↓mp_wr47 hS, ↓reduceIte, ↓hw_bdF, ↓hw_bdA, ↓hw_cbd, Option.bind_some, hw_bd, cond_true, cond_false, hw_fI, hw_aI, hw_aR, hw_of, hw_hw, hw_sz, hw_wfR, hw_waR, hw_rI, hw_rV, hw_rR, nI_add, hw_in, hw_cl, hw_R_same, hw_R_R, hw_U_same, hw_U_ne, hw_okn1_0, hw_okn1_1, m_topOf hS, ht2, m_newRecord hS _ _ N (d + 7) hn2 h0', m_laysTop hS]
      have hR3 := hRS2
      rw [← hw_R_same A2 (m + 21) (hw_U (m_rec _ _ _) _ _)] at hR3
      obtain ⟨F3, A3, e3, q3⟩ := m_lengthOf hS hWS2 (show 1000 ≤ N by omega) (d + 6) (p := z_at S k) (by rw [hS2]; show z_at S k < zp SR; omega) (F := F2) hR3
      have hA3 := q3.2.2.1 21 rfl
      rw [hw_R_same] at hA3
      have hc5 : A3 (m + 21) 5 = nI (zc S) := by rw [hA3, hRS2.1.2.2.2.2.1, hS2, ← hSR]; rfl
      have hlen : z_len S2 (z_at S k) ≤ 840 := by
        have := (hWS2.pg (p := z_at S k) (by rw [hS2]; show z_at S k < zp SR; omega)).2.2
        unfold z_len
        omega
      have hzn2 : zn S2 ≤ 1400 := hWS2.1.1
      have q03 : mQ mX mY m F A F3 A3 := ((q2.mono rfl rfl).aR (k := 21) rfl (by omega)).trans (q3.mono rfl rfl)
      simp (disch := omega) only [↓mp_is hS, ↓mp_isr hS, ↓mp_rd35 hS, ↓mp_wr35 hS, ↓mp_rd36 hS, ↓mp_wr36 hS, ↓mp_rd38 hS, ↓mp_wr38 hS, ↓mp_rd39 hS, ↓mp_wr39 hS, ↓mp_rd43 hS, ↓mp_wr43 hS, ↓mp_rd44 hS, ↓mp_wr44 hS, ↓mp_rd46 hS, ↓mp_wr46 hS, ↓mp_rd47 hS, ↓mp_wr47 hS, ↓reduceIte, ↓hw_bdF, ↓hw_bdA, ↓hw_cbd, Option.bind_some, hw_bd, cond_true, cond_false, hw_fI, hw_aI, hw_aR, hw_of, hw_hw, hw_sz, hw_wfR, hw_waR, hw_rI, hw_rV, hw_rR, nI_add, hw_in, hw_cl, hw_R_same, hw_R_R, hw_U_same, hw_U_ne, hw_okn1_0, hw_okn1_1, e3, hc5, hw_le]
      by_cases hle : z_len S2 (z_at S k) ≤ zc S
      · rw [if_neg (Nat.not_lt.mpr hle)]
        simp only [hle, if_true]
        refine ⟨_, _, rfl, q03, ?_⟩
        rw [hA3]
        exact hRS2
      · rw [if_pos (Nat.lt_of_not_le hle)]
        simp (disch := omega) only [hle, if_false, ↓mp_is hS, ↓mp_isr hS, ↓mp_rd35 hS, ↓mp_wr35 hS, ↓mp_rd36 hS, ↓mp_wr36 hS, ↓mp_rd38 hS, ↓mp_wr38 hS, ↓mp_rd39 hS, ↓mp_wr39 hS, ↓mp_rd43 hS, ↓mp_wr43 hS, ↓mp_rd44 hS, ↓mp_wr44 hS, ↓mp_rd46 hS, ↓mp_wr46 hS, ↓mp_rd47 hS, ↓mp_wr47 hS, ↓reduceIte, ↓hw_bdF, ↓hw_bdA, ↓hw_cbd, Option.bind_some, hw_bd, cond_true, cond_false, hw_fI, hw_aI, hw_aR, hw_of, hw_hw, hw_sz, hw_wfR, hw_waR, hw_rI, hw_rV, hw_rR, nI_add, hw_in, hw_cl, hw_R_same, hw_R_R, hw_U_same, hw_U_ne, hw_okn1_0, hw_okn1_1, m_stands hS]
        refine ⟨_, _, rfl, q03.aR (k := 21) rfl (by omega), ?_⟩
        rw [hw_R_same, hA3]
        exact sh hRS2 (by omega) (by omega) hzn2 hWS2.2.2.1 _
    have hW3 : ∀ (act v : Int32), (z_leaf act (zh S k 6) v (zt S (z_at S k))) = (z_leaf (if zh S k 0 = nI 1 then nI 1 else nI 2) (zh S k 6) (if zh S k 0 = nI 1 then zh S k 7 else -2) (zt S (z_at S k))) → z_W (z_st (z_nw SR (z_leaf act (zh S k 6) v (zt S (z_at S k))) []) (z_at S k) (zn S)) := by
      intro act v he
      rw [he]
      exact z_W_if hW2 (fun w => w)
    have hth : (hw_R A2 (m + 21) (hw_U (hw_U (hw_U (A2 (m + 21)) (42 + 14 * k + 8) (if kv_get (zh S k 6) (z_pg S (z_at S k)).1 = none then nI 0 else nI 1)) (42 + 14 * k + 9) (nI 1)) (42 + 14 * k + 1) (nI 0))) (m + 21) (42 + 14 * k + 7) = zh S k 7 := by
      simp (disch := omega) only [hw_R_same, hw_R_ne, hw_U_same, hw_U_ne]
      exact hz2 7 (by omega)
    have main : ∀ (x : Int32), x = (if kv_get (zh S k 6) (z_pg S (z_at S k)).1 = none then nI 0 else nI 1) → ∀ K, ∃ F' A', jX9_prepends_39 (ix_run iy_P N (d + 9)) K m (nI (42 + 14 * k)) (nI (z_at S k)) (zh S k 6) (some m) (nI (42 + 14 * k)) x (hw h F2 A2) = some (.inl none, hw h F' A') ∧ mQ mX mY m F A F' A' ∧ mR (A' (m + 21)) (if zc S < z_len (z_st (z_nw SR (z_leaf (if zh S k 0 = nI 1 then nI 1 else nI 2) (zh S k 6) (if zh S k 0 = nI 1 then zh S k 7 else -2) (zt S (z_at S k))) []) (z_at S k) (zn S)) (z_at S k) then z_sh (z_st (z_nw SR (z_leaf (if zh S k 0 = nI 1 then nI 1 else nI 2) (zh S k 6) (if zh S k 0 = nI 1 then zh S k 7 else -2) (zt S (z_at S k))) []) (z_at S k) (zn S)) k 1 (nI 4) else (z_st (z_nw SR (z_leaf (if zh S k 0 = nI 1 then nI 1 else nI 2) (zh S k 6) (if zh S k 0 = nI 1 then zh S k 7 else -2) (zt S (z_at S k))) []) (z_at S k) (zn S))) := by
      intro x hx K
      unfold jX9_prepends_39 jX9_prepends_52 jX9_prepends_62
      rw [hx]
      simp (disch := omega) only [↓mp_is hS, ↓mp_isr hS, ↓mp_rd35 hS, ↓mp_wr35 hS, ↓mp_rd36 hS, ↓mp_wr36 hS, ↓mp_rd38 hS, ↓mp_wr38 hS, ↓mp_rd39 hS, ↓mp_wr39 hS, ↓mp_rd43 hS, ↓mp_wr43 hS, ↓mp_rd44 hS, ↓mp_wr44 hS, ↓mp_rd46 hS, ↓mp_wr46 hS, ↓mp_rd47 hS, ↓mp_wr47 hS, ↓reduceIte, ↓hw_bdF, ↓hw_bdA, ↓hw_cbd, Option.bind_some, hw_bd, cond_true, cond_false, hw_fI, hw_aI, hw_aR, hw_of, hw_hw, hw_sz, hw_wfR, hw_waR, hw_rI, hw_rV, hw_rR, nI_add, hw_in, hw_cl, hw_R_same, hw_R_R, hw_U_same, hw_U_ne, hw_okn1_0, hw_okn1_1, m_rests hS, hz2]
      by_cases h1 : zh S k 0 = nI 1
      · have := fin (nI 1) (zh S k 7) K _ rfl (hW3 _ _ (by rw [if_pos h1, if_pos h1]))
        rw [if_pos h1, if_pos h1]
        simp (disch := omega) only [h1, if_true, h10, if_false, ↓mp_is hS, ↓mp_isr hS, ↓mp_rd35 hS, ↓mp_wr35 hS, ↓mp_rd36 hS, ↓mp_wr36 hS, ↓mp_rd38 hS, ↓mp_wr38 hS, ↓mp_rd39 hS, ↓mp_wr39 hS, ↓mp_rd43 hS, ↓mp_wr43 hS, ↓mp_rd44 hS, ↓mp_wr44 hS, ↓mp_rd46 hS, ↓mp_wr46 hS, ↓mp_rd47 hS, ↓mp_wr47 hS, ↓reduceIte, ↓hw_bdF, ↓hw_bdA, ↓hw_cbd, Option.bind_some, hw_bd, cond_true, cond_false, hw_fI, hw_aI, hw_aR, hw_of, hw_hw, hw_sz, hw_wfR, hw_waR, hw_rI, hw_rV, hw_rR, nI_add, hw_in, hw_cl, hw_R_same, hw_R_R, hw_U_same, hw_U_ne, hw_okn1_0, hw_okn1_1, hz2]
        exact this
      · have := fin (nI 2) (-2) K _ rfl (hW3 _ _ (by rw [if_neg h1, if_neg h1]))
        rw [if_neg h1, if_neg h1]
        simp (disch := omega) only [h1, if_true, if_false, ↓mp_is hS, ↓mp_isr hS, ↓mp_rd35 hS, ↓mp_wr35 hS, ↓mp_rd36 hS, ↓mp_wr36 hS, ↓mp_rd38 hS, ↓mp_wr38 hS, ↓mp_rd39 hS, ↓mp_wr39 hS, ↓mp_rd43 hS, ↓mp_wr43 hS, ↓mp_rd44 hS, ↓mp_wr44 hS, ↓mp_rd46 hS, ↓mp_wr46 hS, ↓mp_rd47 hS, ↓mp_wr47 hS, ↓reduceIte, ↓hw_bdF, ↓hw_bdA, ↓hw_cbd, Option.bind_some, hw_bd, cond_true, cond_false, hw_fI, hw_aI, hw_aR, hw_of, hw_hw, hw_sz, hw_wfR, hw_waR, hw_rI, hw_rV, hw_rR, nI_add, hw_in, hw_cl, hw_R_same, hw_R_R, hw_U_same, hw_U_ne, hw_okn1_0, hw_okn1_1]
        exact this
    simp (disch := omega) only [if_pos hs, h10, if_false, ↓mp_is hS, ↓mp_isr hS, ↓mp_rd35 hS, ↓mp_wr35 hS, ↓mp_rd36 hS, ↓mp_wr36 hS, ↓mp_rd38 hS, ↓mp_wr38 hS, ↓mp_rd39 hS, ↓mp_wr39 hS, ↓mp_rd43 hS, ↓mp_wr43 hS, ↓mp_rd44 hS, ↓mp_wr44 hS, ↓mp_rd46 hS, ↓mp_wr46 hS, ↓mp_rd47 hS, ↓mp_wr47 hS, ↓reduceIte, ↓hw_bdF, ↓hw_bdA, ↓hw_cbd, Option.bind_some, hw_bd, cond_true, cond_false, hw_fI, hw_aI, hw_aR, hw_of, hw_hw, hw_sz, hw_wfR, hw_waR, hw_rI, hw_rV, hw_rR, nI_add, hw_in, hw_cl, hw_R_same, hw_R_R, hw_U_same, hw_U_ne, hw_okn1_0, hw_okn1_1, e2, m_isThere hS (show 1000 ≤ N by omega) (d + 7) l2.1 hpg.1 (show (z_pg S (z_at S k)).1.length ≤ 89 by omega)]
    by_cases hg : kv_get (zh S k 6) (z_pg S (z_at S k)).1 = none
    · simp only [hg, if_true]
      exact main (nI 0) (by rw [if_pos hg]) _
    · simp only [hg, if_false, h10]
      exact main (nI 1) (by rw [if_neg hg]) _
  · unfold z_prep
    rw [if_neg hs]
    simp (disch := omega) only [if_neg hs, if_true, ↓mp_is hS, ↓mp_isr hS, ↓mp_rd35 hS, ↓mp_wr35 hS, ↓mp_rd36 hS, ↓mp_wr36 hS, ↓mp_rd38 hS, ↓mp_wr38 hS, ↓mp_rd39 hS, ↓mp_wr39 hS, ↓mp_rd43 hS, ↓mp_wr43 hS, ↓mp_rd44 hS, ↓mp_wr44 hS, ↓mp_rd46 hS, ↓mp_wr46 hS, ↓mp_rd47 hS, ↓mp_wr47 hS, ↓reduceIte, ↓hw_bdF, ↓hw_bdA, ↓hw_cbd, Option.bind_some, hw_bd, cond_true, cond_false, hw_fI, hw_aI, hw_aR, hw_of, hw_hw, hw_sz, hw_wfR, hw_waR, hw_rI, hw_rV, hw_rR, nI_add, hw_in, hw_cl, hw_R_same, hw_R_R, hw_U_same, hw_U_ne, hw_okn1_0, hw_okn1_1, m_loses hS, m_stands hS]
    refine ⟨_, _, rfl, (mQ.refl mX mY m F A).aR (k := 21) rfl (by omega), ?_⟩
    rw [hw_R_same, hz 3 (by omega)]
    exact sh (mR_lose hR hk hn h32) (by omega) (by omega) hn h32 _
theorem m_gathers {h : ix_H} {m : Nat} (hS : mSh h m) {S : zS} (hW : z_W S) {N : Nat} (hN : 2000 ≤ N) (d : Nat) {k : Nat} (hk : k < 4) {F A : Nat → Nat → Int32} (hR : mR (A (m + 21)) S) (hp : z_at S k < zp S) (hat : zh S k 2 = nI (z_at S k)) :
    ∃ F' A', ix_run iy_P N (d + 10) 299 [ix_R (some m), ix_I (nI (42 + 14 * k))] (hw h F A) = some (.inl none, hw h F' A') ∧ mQ mX mY m F A F' A' ∧ mR (A' (m + 21)) (z_gath S k) := by
  have h32 := hW.2.2.1
  have hn := hW.1.1
  have hz : ∀ f, f < 14 → A (m + 21) (42 + 14 * k + f) = zh S k f := fun f hf => hR.2.2.1 k f hk hf
  have h10 : ¬ nI 1 = nI 0 := by decide
  have see : mR (hw_U (hw_U (A (m + 21)) (42 + 14 * k + 10) (A (m + 21) (10 + z_at S k))) (42 + 14 * k + 1) (nI 5)) (z_sees S k (z_at S k) (nI 5)) := by
    unfold z_sees
    rw [hR.2.1 _ hp]
    exact mR_sh (mR_sh hR hk (by omega) (by omega) hn h32 _) hk (by omega) (by omega) hn h32 _
  rw [rX9_gathers N (d + 9)]
  unfold bX9_gathers jX9_gathers_17 jX9_gathers_23
  simp (disch := omega) only [↓mp_is hS, ↓mp_isr hS, ↓mp_rd35 hS, ↓mp_wr35 hS, ↓mp_rd36 hS, ↓mp_wr36 hS, ↓mp_rd38 hS, ↓mp_wr38 hS, ↓mp_rd39 hS, ↓mp_wr39 hS, ↓mp_rd43 hS, ↓mp_wr43 hS, ↓mp_rd44 hS, ↓mp_wr44 hS, ↓mp_rd46 hS, ↓mp_wr46 hS, ↓mp_rd47 hS, ↓mp_wr47 hS, ↓reduceIte, ↓hw_bdF, ↓hw_bdA, ↓hw_cbd, Option.bind_some, hw_bd, cond_true, cond_false, hw_fI, hw_aI, hw_aR, hw_of, hw_hw, hw_sz, hw_wfR, hw_waR, hw_rI, hw_rV, hw_rR, nI_add, hw_in, hw_cl, hw_R_same, hw_R_R, hw_U_same, hw_U_ne, hw_okn1_0, hw_okn1_1, hz, hat, hw_le]
  by_cases h0 : z_at S k ≤ 0
  · have ez : z_gath S k = z_sees S k (z_at S k) (nI 5) := by
      unfold z_gath
      rw [if_neg (fun w => by omega)]
    rw [ez]
    simp (disch := omega) only [h0, if_true, ↓mp_is hS, ↓mp_isr hS, ↓mp_rd35 hS, ↓mp_wr35 hS, ↓mp_rd36 hS, ↓mp_wr36 hS, ↓mp_rd38 hS, ↓mp_wr38 hS, ↓mp_rd39 hS, ↓mp_wr39 hS, ↓mp_rd43 hS, ↓mp_wr43 hS, ↓mp_rd44 hS, ↓mp_wr44 hS, ↓mp_rd46 hS, ↓mp_wr46 hS, ↓mp_rd47 hS, ↓mp_wr47 hS, ↓reduceIte, ↓hw_bdF, ↓hw_bdA, ↓hw_cbd, Option.bind_some, hw_bd, cond_true, cond_false, hw_fI, hw_aI, hw_aR, hw_of, hw_hw, hw_sz, hw_wfR, hw_waR, hw_rI, hw_rV, hw_rR, nI_add, hw_in, hw_cl, hw_R_same, hw_R_R, hw_U_same, hw_U_ne, hw_okn1_0, hw_okn1_1, m_sees hS]
    refine ⟨_, _, rfl, (mQ.refl mX mY m F A).aR (k := 21) rfl (by omega), ?_⟩
    rw [hw_R_same]
    exact see
  · simp (disch := omega) only [h0, if_false, ↓mp_is hS, ↓mp_isr hS, ↓mp_rd35 hS, ↓mp_wr35 hS, ↓mp_rd36 hS, ↓mp_wr36 hS, ↓mp_rd38 hS, ↓mp_wr38 hS, ↓mp_rd39 hS, ↓mp_wr39 hS, ↓mp_rd43 hS, ↓mp_wr43 hS, ↓mp_rd44 hS, ↓mp_wr44 hS, ↓mp_rd46 hS, ↓mp_wr46 hS, ↓mp_rd47 hS, ↓mp_wr47 hS, ↓reduceIte, ↓hw_bdF, ↓hw_bdA, ↓hw_cbd, Option.bind_some, hw_bd, cond_true, cond_false, hw_fI, hw_aI, hw_aR, hw_of, hw_hw, hw_sz, hw_wfR, hw_waR, hw_rI, hw_rV, hw_rR, nI_add, hw_in, hw_cl, hw_R_same, hw_R_R, hw_U_same, hw_U_ne, hw_okn1_0, hw_okn1_1, m_isGone hS hW N (d + 7) hp hR]
    by_cases hg : z_gone S (z_at S k)
    · have ez : z_gath S k = z_go S k := by
        unfold z_gath
        rw [if_pos ⟨by omega, hg⟩]
      rw [ez]
      simp (disch := omega) only [if_pos hg, h10, if_false, ↓mp_is hS, ↓mp_isr hS, ↓mp_rd35 hS, ↓mp_wr35 hS, ↓mp_rd36 hS, ↓mp_wr36 hS, ↓mp_rd38 hS, ↓mp_wr38 hS, ↓mp_rd39 hS, ↓mp_wr39 hS, ↓mp_rd43 hS, ↓mp_wr43 hS, ↓mp_rd44 hS, ↓mp_wr44 hS, ↓mp_rd46 hS, ↓mp_wr46 hS, ↓mp_rd47 hS, ↓mp_wr47 hS, ↓reduceIte, ↓hw_bdF, ↓hw_bdA, ↓hw_cbd, Option.bind_some, hw_bd, cond_true, cond_false, hw_fI, hw_aI, hw_aR, hw_of, hw_hw, hw_sz, hw_wfR, hw_waR, hw_rI, hw_rV, hw_rR, nI_add, hw_in, hw_cl, hw_R_same, hw_R_R, hw_U_same, hw_U_ne, hw_okn1_0, hw_okn1_1, m_goOn hS]
      refine ⟨_, _, rfl, (mQ.refl mX mY m F A).aR (k := 21) rfl (by omega), ?_⟩
      rw [hw_R_same]
      exact mR_go hR hk hn h32
    · have ez : z_gath S k = z_sees S k (z_at S k) (nI 5) := by
        unfold z_gath
        rw [if_neg (fun w => hg w.2)]
      rw [ez]
      simp (disch := omega) only [if_neg hg, if_true, ↓mp_is hS, ↓mp_isr hS, ↓mp_rd35 hS, ↓mp_wr35 hS, ↓mp_rd36 hS, ↓mp_wr36 hS, ↓mp_rd38 hS, ↓mp_wr38 hS, ↓mp_rd39 hS, ↓mp_wr39 hS, ↓mp_rd43 hS, ↓mp_wr43 hS, ↓mp_rd44 hS, ↓mp_wr44 hS, ↓mp_rd46 hS, ↓mp_wr46 hS, ↓mp_rd47 hS, ↓mp_wr47 hS, ↓reduceIte, ↓hw_bdF, ↓hw_bdA, ↓hw_cbd, Option.bind_some, hw_bd, cond_true, cond_false, hw_fI, hw_aI, hw_aR, hw_of, hw_hw, hw_sz, hw_wfR, hw_waR, hw_rI, hw_rV, hw_rR, nI_add, hw_in, hw_cl, hw_R_same, hw_R_R, hw_U_same, hw_U_ne, hw_okn1_0, hw_okn1_1, m_sees hS]
      refine ⟨_, _, rfl, (mQ.refl mX mY m F A).aR (k := 21) rfl (by omega), ?_⟩
      rw [hw_R_same]
      exact see
theorem m_looksUp {h : ix_H} {m : Nat} (hS : mSh h m) {S : zS} (hW : z_W S) {N : Nat} (hN : 2000 ≤ N) (d : Nat) {k : Nat} (hk : k < 4) {F A : Nat → Nat → Int32} (hR : mR (A (m + 21)) S) (hb : ∀ q ∈ (z_pg S 0).1, ∃ p, p < 32 ∧ q.2 = nI p) (ho : zh S k 13 ≠ -1) :
    ∃ F' A', ix_run iy_P N (d + 10) 304 [ix_R (some m), ix_I (nI (42 + 14 * k))] (hw h F A) = some (.inl none, hw h F' A') ∧ mQ mX mY m F A F' A' ∧ mR (A' (m + 21)) (z_notes S k) := by
  have h32 := hW.2.2.1
  have h2 := hW.2.1
  have hn := hW.1.1
  have hpg0 := hW.pg (show 0 < zp S by omega)
  obtain ⟨F1, A1, e1, q1, b1⟩ := m_fillsBounds hS hW (show 1000 ≤ N by omega) (d + 2) (F := F) hR
  have hA1 : A1 (m + 21) = A (m + 21) := q1.2.2.1 21 rfl
  have hR1 : mR (A1 (m + 21)) S := by rw [hA1]; exact hR
  have hz : ∀ f, f < 14 → A1 (m + 21) (42 + 14 * k + f) = zh S k f := fun f hf => hR1.2.2.1 k f hk hf
  have q1' : mQ mX mY m F A F1 A1 := q1.mono rfl rfl
  rw [rX9_looksUp N (d + 9)]
  unfold bX9_looksUp jX9_looksUp_42
  simp (disch := omega) only [↓mp_is hS, ↓mp_isr hS, ↓mp_rd35 hS, ↓mp_wr35 hS, ↓mp_rd36 hS, ↓mp_wr36 hS, ↓mp_rd38 hS, ↓mp_wr38 hS, ↓mp_rd39 hS, ↓mp_wr39 hS, ↓mp_rd43 hS, ↓mp_wr43 hS, ↓mp_rd44 hS, ↓mp_wr44 hS, ↓mp_rd46 hS, ↓mp_wr46 hS, ↓mp_rd47 hS, ↓mp_wr47 hS, ↓reduceIte, ↓hw_bdF, ↓hw_bdA, ↓hw_cbd, Option.bind_some, hw_bd, cond_true, cond_false, hw_fI, hw_aI, hw_aR, hw_of, hw_hw, hw_sz, hw_wfR, hw_waR, hw_rI, hw_rV, hw_rR, nI_add, hw_in, hw_cl, hw_R_same, hw_R_R, hw_U_same, hw_U_ne, hw_okn1_0, hw_okn1_1, e1, hz, m_pageBy hS (show 1000 ≤ N by omega) (d + 8) b1 (show (z_pg S 0).1.length ≤ 89 by omega)]
  unfold z_notes
  cases hg : kv_get (zh S k 12) (z_pg S 0).1 with
  | none =>
    dsimp only
    have hne : ¬ (-1 : Int32) = zh S k 13 := fun w => ho w.symm
    have hlt : (-1 : Int32) < nI 0 := by decide
    simp (disch := omega) only [Option.getD_none, hne, if_false, hlt, if_true, ↓mp_is hS, ↓mp_isr hS, ↓mp_rd35 hS, ↓mp_wr35 hS, ↓mp_rd36 hS, ↓mp_wr36 hS, ↓mp_rd38 hS, ↓mp_wr38 hS, ↓mp_rd39 hS, ↓mp_wr39 hS, ↓mp_rd43 hS, ↓mp_wr43 hS, ↓mp_rd44 hS, ↓mp_wr44 hS, ↓mp_rd46 hS, ↓mp_wr46 hS, ↓mp_rd47 hS, ↓mp_wr47 hS, ↓reduceIte, ↓hw_bdF, ↓hw_bdA, ↓hw_cbd, Option.bind_some, hw_bd, cond_true, cond_false, hw_fI, hw_aI, hw_aR, hw_of, hw_hw, hw_sz, hw_wfR, hw_waR, hw_rI, hw_rV, hw_rR, nI_add, hw_in, hw_cl, hw_R_same, hw_R_R, hw_U_same, hw_U_ne, hw_okn1_0, hw_okn1_1, m_sees hS]
    refine ⟨_, _, rfl, q1'.aR (k := 21) rfl (by omega), ?_⟩
    rw [hw_R_same]
    unfold z_sees
    rw [hR1.2.1 0 (by omega)]
    exact mR_sh (mR_sh hR1 hk (by omega) (by omega) hn h32 _) hk (by omega) (by omega) hn h32 _
  | some v =>
    dsimp only
    obtain ⟨p, hp, hv⟩ := hb _ (kv_get_mem hg)
    dsimp only at hv
    have hlt : ¬ v < nI 0 := by rw [hv, hw_lt (by omega) (by omega)]; omega
    by_cases he : v = zh S k 13
    · rw [if_pos he]
      simp (disch := omega) only [Option.getD_some, he, if_true, ↓mp_is hS, ↓mp_isr hS, ↓mp_rd35 hS, ↓mp_wr35 hS, ↓mp_rd36 hS, ↓mp_wr36 hS, ↓mp_rd38 hS, ↓mp_wr38 hS, ↓mp_rd39 hS, ↓mp_wr39 hS, ↓mp_rd43 hS, ↓mp_wr43 hS, ↓mp_rd44 hS, ↓mp_wr44 hS, ↓mp_rd46 hS, ↓mp_wr46 hS, ↓mp_rd47 hS, ↓mp_wr47 hS, ↓reduceIte, ↓hw_bdF, ↓hw_bdA, ↓hw_cbd, Option.bind_some, hw_bd, cond_true, cond_false, hw_fI, hw_aI, hw_aR, hw_of, hw_hw, hw_sz, hw_wfR, hw_waR, hw_rI, hw_rV, hw_rR, nI_add, hw_in, hw_cl, hw_R_same, hw_R_R, hw_U_same, hw_U_ne, hw_okn1_0, hw_okn1_1, m_goOn hS]
      refine ⟨_, _, rfl, q1'.aR (k := 21) rfl (by omega), ?_⟩
      rw [hw_R_same]
      exact mR_go hR1 hk hn h32
    · rw [if_neg he]
      simp (disch := omega) only [Option.getD_some, he, hlt, if_false, ↓mp_is hS, ↓mp_isr hS, ↓mp_rd35 hS, ↓mp_wr35 hS, ↓mp_rd36 hS, ↓mp_wr36 hS, ↓mp_rd38 hS, ↓mp_wr38 hS, ↓mp_rd39 hS, ↓mp_wr39 hS, ↓mp_rd43 hS, ↓mp_wr43 hS, ↓mp_rd44 hS, ↓mp_wr44 hS, ↓mp_rd46 hS, ↓mp_wr46 hS, ↓mp_rd47 hS, ↓mp_wr47 hS, ↓reduceIte, ↓hw_bdF, ↓hw_bdA, ↓hw_cbd, Option.bind_some, hw_bd, cond_true, cond_false, hw_fI, hw_aI, hw_aR, hw_of, hw_hw, hw_sz, hw_wfR, hw_waR, hw_rI, hw_rV, hw_rR, nI_add, hw_in, hw_cl, hw_R_same, hw_R_R, hw_U_same, hw_U_ne, hw_okn1_0, hw_okn1_1, m_stands hS]
      refine ⟨_, _, rfl, q1'.aR (k := 21) rfl (by omega), ?_⟩
      rw [hw_R_same]
      exact mR_sh (mR_sh hR1 hk (by omega) (by omega) hn h32 _) hk (by omega) (by omega) hn h32 _
/-- a change to page 0, from any rows -/
theorem m_changes {h : ix_H} {m : Nat} (hS : mSh h m) {S : zS} (h32 : zp S ≤ 32) (h2 : 2 ≤ zp S) (hn : zn S < 1400) {N : Nat} (hN : 2000 ≤ N) (d : Nat) {k : Nat} (hk : k < 4) {F A : Nat → Nat → Int32} (hR : mR (A (m + 21)) S) (s a b : Int32) (hW2 : z_W (z_chg S k s a b)) (hc : zc S < 100) :
    ∃ F' A', ix_run iy_P N (d + 6) 306 [ix_R (some m), ix_I (nI (42 + 14 * k)), ix_I s, ix_I a, ix_I b] (hw h F A) = some (.inl none, hw h F' A') ∧ mQ mX mY m F A F' A' ∧ mR (A' (m + 21)) (z_chg S k s a b) := by
  rw [rX9_changes N (d + 5)]
  unfold bX9_changes jX9_changes_34
  have hRS2 : mR (hw_U (m_rec (A (m + 21)) (zn S) (z_leaf s a b (zt S 0))) (10 + 0) (nI (zn S))) (z_st (z_nw S (z_leaf s a b (zt S 0)) []) 0 (zn S)) := by
    refine mR_st (mR_nw hR _ _ hn h32 rfl) (by omega) ?_ ?_ _
    · show zn S + 1 ≤ 1400
      omega
    · exact h32
  unfold z_chg at hW2 ⊢
  dsimp only at hW2 ⊢
  have hc2 : ∀ f l r, zc (z_st (z_nw S f l) 0 r) = zc S := fun _ _ _ => rfl
  have hp2 : ∀ f l r, zp (z_st (z_nw S f l) 0 r) = zp S := fun _ _ _ => rfl
  generalize hS2 : z_st (z_nw S (z_leaf s a b (zt S 0)) []) 0 (zn S) = S2 at hW2 hRS2 ⊢
  have hcS : zc S2 = zc S := by rw [← hS2]; rfl
  have hpS : zp S2 = zp S := by rw [← hS2]; rfl
  have hWS2 : z_W S2 := z_W_if2 hW2 (fun w => w) (fun w => w)
  have h0 : A (m + 21) 0 = nI (zn S) := hR.1.1
  have ht : A (m + 21) (10 + 0) = nI (zt S 0) := hR.2.1 0 (by omega)
  have hR3 := hRS2
  rw [← hw_R_same A (m + 21) (hw_U (m_rec _ _ _) _ _)] at hR3
  obtain ⟨F3, A3, e3, q3⟩ := m_lengthOf hS hWS2 (show 1000 ≤ N by omega) (d + 2) (p := 0) (by omega) (F := F) hR3
  have hA3 := q3.2.2.1 21 rfl
  rw [hw_R_same] at hA3
  have hc5 : A3 (m + 21) 5 = nI (zc S) := by rw [hA3, hRS2.1.2.2.2.2.1, hcS]
  have hlen : z_len S2 0 ≤ 840 := by
    have := (hWS2.pg (p := 0) (by omega)).2.2
    unfold z_len
    omega
  have hzn2 : zn S2 ≤ 1400 := hWS2.1.1
  have q03 : mQ mX mY m F A F3 A3 := ((mQ.refl mX mY m F A).aR (k := 21) rfl (by omega)).trans (q3.mono rfl rfl)
  simp (disch := omega) only [↓mp_is hS, ↓mp_isr hS, ↓mp_rd35 hS, ↓mp_wr35 hS, ↓mp_rd36 hS, ↓mp_wr36 hS, ↓mp_rd38 hS, ↓mp_wr38 hS, ↓mp_rd39 hS, ↓mp_wr39 hS, ↓mp_rd43 hS, ↓mp_wr43 hS, ↓mp_rd44 hS, ↓mp_wr44 hS, ↓mp_rd46 hS, ↓mp_wr46 hS, ↓mp_rd47 hS, ↓mp_wr47 hS, ↓reduceIte, ↓hw_bdF, ↓hw_bdA, ↓hw_cbd, Option.bind_some, hw_bd, cond_true, cond_false, hw_fI, hw_aI, hw_aR, hw_of, hw_hw, hw_sz, hw_wfR, hw_waR, hw_rI, hw_rV, hw_rR, nI_add, hw_in, hw_cl, hw_R_same, hw_R_R, hw_U_same, hw_U_ne, hw_okn1_0, hw_okn1_1, m_topOf hS, ht, m_newRecord hS _ _ N (d + 3) hn h0, m_laysTop hS]
  unfold z_leaf at e3
  simp (disch := omega) only [↓mp_is hS, ↓mp_isr hS, ↓mp_rd35 hS, ↓mp_wr35 hS, ↓mp_rd36 hS, ↓mp_wr36 hS, ↓mp_rd38 hS, ↓mp_wr38 hS, ↓mp_rd39 hS, ↓mp_wr39 hS, ↓mp_rd43 hS, ↓mp_wr43 hS, ↓mp_rd44 hS, ↓mp_wr44 hS, ↓mp_rd46 hS, ↓mp_wr46 hS, ↓mp_rd47 hS, ↓mp_wr47 hS, ↓reduceIte, ↓hw_bdF, ↓hw_bdA, ↓hw_cbd, Option.bind_some, hw_bd, cond_true, cond_false, hw_fI, hw_aI, hw_aR, hw_of, hw_hw, hw_sz, hw_wfR, hw_waR, hw_rI, hw_rV, hw_rR, nI_add, hw_in, hw_cl, hw_R_same, hw_R_R, hw_U_same, hw_U_ne, hw_okn1_0, hw_okn1_1, e3, hc5, hw_le]
  by_cases hle : z_len S2 0 ≤ zc S
  · have ez : ¬ zc S < z_len S2 0 := by omega
    simp (disch := omega) only [hle, ez, if_true, if_false, ↓mp_is hS, ↓mp_isr hS, ↓mp_rd35 hS, ↓mp_wr35 hS, ↓mp_rd36 hS, ↓mp_wr36 hS, ↓mp_rd38 hS, ↓mp_wr38 hS, ↓mp_rd39 hS, ↓mp_wr39 hS, ↓mp_rd43 hS, ↓mp_wr43 hS, ↓mp_rd44 hS, ↓mp_wr44 hS, ↓mp_rd46 hS, ↓mp_wr46 hS, ↓mp_rd47 hS, ↓mp_wr47 hS, ↓reduceIte, ↓hw_bdF, ↓hw_bdA, ↓hw_cbd, Option.bind_some, hw_bd, cond_true, cond_false, hw_fI, hw_aI, hw_aR, hw_of, hw_hw, hw_sz, hw_wfR, hw_waR, hw_rI, hw_rV, hw_rR, nI_add, hw_in, hw_cl, hw_R_same, hw_R_R, hw_U_same, hw_U_ne, hw_okn1_0, hw_okn1_1, m_goOn hS]
    refine ⟨_, _, rfl, q03.aR (k := 21) rfl (by omega), ?_⟩
    rw [hw_R_same, hA3]
    exact mR_go hRS2 hk hzn2 hWS2.2.2.1
  · have ez : zc S < z_len S2 0 := by omega
    simp (disch := omega) only [hle, ez, if_true, if_false, ↓mp_is hS, ↓mp_isr hS, ↓mp_rd35 hS, ↓mp_wr35 hS, ↓mp_rd36 hS, ↓mp_wr36 hS, ↓mp_rd38 hS, ↓mp_wr38 hS, ↓mp_rd39 hS, ↓mp_wr39 hS, ↓mp_rd43 hS, ↓mp_wr43 hS, ↓mp_rd44 hS, ↓mp_wr44 hS, ↓mp_rd46 hS, ↓mp_wr46 hS, ↓mp_rd47 hS, ↓mp_wr47 hS, ↓reduceIte, ↓hw_bdF, ↓hw_bdA, ↓hw_cbd, Option.bind_some, hw_bd, cond_true, cond_false, hw_fI, hw_aI, hw_aR, hw_of, hw_hw, hw_sz, hw_wfR, hw_waR, hw_rI, hw_rV, hw_rR, nI_add, hw_in, hw_cl, hw_R_same, hw_R_R, hw_U_same, hw_U_ne, hw_okn1_0, hw_okn1_1, m_stands hS]
    refine ⟨_, _, rfl, q03.aR (k := 21) rfl (by omega), ?_⟩
    rw [hw_R_same, hA3]
    exact mR_sh (mR_sh hRS2 hk (by omega) (by omega) hzn2 hWS2.2.2.1 _) hk (by omega) (by omega) hzn2 hWS2.2.2.1 _
theorem m_enters {h : ix_H} {m : Nat} (hS : mSh h m) {S : zS} (hW : z_W S) {N : Nat} (hN : 2000 ≤ N) (d : Nat) {k : Nat} (hk : k < 4) {F A : Nat → Nat → Int32} (hR : mR (A (m + 21)) S) (hW2 : nI (zt S 0) = zh S k 10 → zn S < 1400 ∧ z_W (z_enter S k)) (hc : zc S < 100) :
    ∃ F' A', ix_run iy_P N (d + 10) 305 [ix_R (some m), ix_I (nI (42 + 14 * k))] (hw h F A) = some (.inl none, hw h F' A') ∧ mQ mX mY m F A F' A' ∧ mR (A' (m + 21)) (z_enter S k) := by
  have h32 := hW.2.2.1
  have h2 := hW.2.1
  have hn := hW.1.1
  have hz : ∀ f, f < 14 → A (m + 21) (42 + 14 * k + f) = zh S k f := fun f hf => hR.2.2.1 k f hk hf
  have h10 : ¬ nI 1 = nI 0 := by decide
  rw [rX9_enters N (d + 9)]
  unfold bX9_enters
  simp (disch := omega) only [↓mp_is hS, ↓mp_isr hS, ↓mp_rd35 hS, ↓mp_wr35 hS, ↓mp_rd36 hS, ↓mp_wr36 hS, ↓mp_rd38 hS, ↓mp_wr38 hS, ↓mp_rd39 hS, ↓mp_wr39 hS, ↓mp_rd43 hS, ↓mp_wr43 hS, ↓mp_rd44 hS, ↓mp_wr44 hS, ↓mp_rd46 hS, ↓mp_wr46 hS, ↓mp_rd47 hS, ↓mp_wr47 hS, ↓reduceIte, ↓hw_bdF, ↓hw_bdA, ↓hw_cbd, Option.bind_some, hw_bd, cond_true, cond_false, hw_fI, hw_aI, hw_aR, hw_of, hw_hw, hw_sz, hw_wfR, hw_waR, hw_rI, hw_rV, hw_rR, nI_add, hw_in, hw_cl, hw_R_same, hw_R_R, hw_U_same, hw_U_ne, hw_okn1_0, hw_okn1_1, m_isSeen hS, hR.2.1 0 (by omega), hz]
  by_cases hs : nI (zt S 0) = zh S k 10
  · obtain ⟨hn2, hW2⟩ := hW2 hs
    have ez : z_enter S k = z_chg S k (nI 6) (zh S k 12) (zh S k 13) := by
      unfold z_enter
      rw [if_pos hs]
    rw [ez] at hW2 ⊢
    obtain ⟨F1, A1, e1, q1, r1⟩ := m_changes hS h32 h2 hn2 hN (d + 3) hk (F := F) hR _ _ _ hW2 hc
    simp (disch := omega) only [if_pos hs, h10, if_false, ↓mp_is hS, ↓mp_isr hS, ↓mp_rd35 hS, ↓mp_wr35 hS, ↓mp_rd36 hS, ↓mp_wr36 hS, ↓mp_rd38 hS, ↓mp_wr38 hS, ↓mp_rd39 hS, ↓mp_wr39 hS, ↓mp_rd43 hS, ↓mp_wr43 hS, ↓mp_rd44 hS, ↓mp_wr44 hS, ↓mp_rd46 hS, ↓mp_wr46 hS, ↓mp_rd47 hS, ↓mp_wr47 hS, ↓reduceIte, ↓hw_bdF, ↓hw_bdA, ↓hw_cbd, Option.bind_some, hw_bd, cond_true, cond_false, hw_fI, hw_aI, hw_aR, hw_of, hw_hw, hw_sz, hw_wfR, hw_waR, hw_rI, hw_rV, hw_rR, nI_add, hw_in, hw_cl, hw_R_same, hw_R_R, hw_U_same, hw_U_ne, hw_okn1_0, hw_okn1_1, e1]
    exact ⟨F1, A1, rfl, q1, r1⟩
  · have ez : z_enter S k = z_sh (z_lose S k) k 1 (nI 7) := by
      unfold z_enter
      rw [if_neg hs]
    rw [ez]
    simp (disch := omega) only [if_neg hs, if_true, ↓mp_is hS, ↓mp_isr hS, ↓mp_rd35 hS, ↓mp_wr35 hS, ↓mp_rd36 hS, ↓mp_wr36 hS, ↓mp_rd38 hS, ↓mp_wr38 hS, ↓mp_rd39 hS, ↓mp_wr39 hS, ↓mp_rd43 hS, ↓mp_wr43 hS, ↓mp_rd44 hS, ↓mp_wr44 hS, ↓mp_rd46 hS, ↓mp_wr46 hS, ↓mp_rd47 hS, ↓mp_wr47 hS, ↓reduceIte, ↓hw_bdF, ↓hw_bdA, ↓hw_cbd, Option.bind_some, hw_bd, cond_true, cond_false, hw_fI, hw_aI, hw_aR, hw_of, hw_hw, hw_sz, hw_wfR, hw_waR, hw_rI, hw_rV, hw_rR, nI_add, hw_in, hw_cl, hw_R_same, hw_R_R, hw_U_same, hw_U_ne, hw_okn1_0, hw_okn1_1, m_loses hS, m_stands hS]
    refine ⟨_, _, rfl, (mQ.refl mX mY m F A).aR (k := 21) rfl (by omega), ?_⟩
    rw [hw_R_same, hz 3 (by omega)]
    exact mR_sh (mR_lose hR hk hn h32) hk (by omega) (by omega) hn h32 _
theorem m_looksOn {h : ix_H} {m : Nat} (hS : mSh h m) {S : zS} (hW : z_W S) {N : Nat} (hN : 2000 ≤ N) (d : Nat) {k : Nat} (hk : k < 4) {F A : Nat → Nat → Int32} (hR : mR (A (m + 21)) S) :
    ∃ F' A', ix_run iy_P N (d + 10) 312 [ix_R (some m), ix_I (nI (42 + 14 * k))] (hw h F A) = some (.inl none, hw h F' A') ∧ mQ mX mY m F A F' A' ∧ mR (A' (m + 21)) (z_look S k) := by
  have h32 := hW.2.2.1
  have h2 := hW.2.1
  have hn := hW.1.1
  have hpg0 := hW.pg (show 0 < zp S by omega)
  obtain ⟨F1, A1, e1, q1, b1⟩ := m_fillsBounds hS hW (show 1000 ≤ N by omega) (d + 2) (F := F) hR
  have hA1 : A1 (m + 21) = A (m + 21) := q1.2.2.1 21 rfl
  have hR1 : mR (A1 (m + 21)) S := by rw [hA1]; exact hR
  have hz : ∀ f, f < 14 → A1 (m + 21) (42 + 14 * k + f) = zh S k f := fun f hf => hR1.2.2.1 k f hk hf
  have q1' : mQ mX mY m F A F1 A1 := q1.mono rfl rfl
  rw [rX9_looksOn N (d + 9)]
  unfold bX9_looksOn jX9_looksOn_20
  simp (disch := omega) only [↓mp_is hS, ↓mp_isr hS, ↓mp_rd35 hS, ↓mp_wr35 hS, ↓mp_rd36 hS, ↓mp_wr36 hS, ↓mp_rd38 hS, ↓mp_wr38 hS, ↓mp_rd39 hS, ↓mp_wr39 hS, ↓mp_rd43 hS, ↓mp_wr43 hS, ↓mp_rd44 hS, ↓mp_wr44 hS, ↓mp_rd46 hS, ↓mp_wr46 hS, ↓mp_rd47 hS, ↓mp_wr47 hS, ↓reduceIte, ↓hw_bdF, ↓hw_bdA, ↓hw_cbd, Option.bind_some, hw_bd, cond_true, cond_false, hw_fI, hw_aI, hw_aR, hw_of, hw_hw, hw_sz, hw_wfR, hw_waR, hw_rI, hw_rV, hw_rR, nI_add, hw_in, hw_cl, hw_R_same, hw_R_R, hw_U_same, hw_U_ne, hw_okn1_0, hw_okn1_1, e1, hz, m_boundOf hS (show 1000 ≤ N by omega) (d + 8) b1 (show (z_pg S 0).1.length ≤ 89 by omega)]
  unfold z_look
  cases hg : kv_ix (zh S k 11) (z_pg S 0).1 with
  | none =>
    have hlt : ¬ nI 0 ≤ (-1 : Int32) := by decide
    simp (disch := omega) only [hlt, if_false, ↓mp_is hS, ↓mp_isr hS, ↓mp_rd35 hS, ↓mp_wr35 hS, ↓mp_rd36 hS, ↓mp_wr36 hS, ↓mp_rd38 hS, ↓mp_wr38 hS, ↓mp_rd39 hS, ↓mp_wr39 hS, ↓mp_rd43 hS, ↓mp_wr43 hS, ↓mp_rd44 hS, ↓mp_wr44 hS, ↓mp_rd46 hS, ↓mp_wr46 hS, ↓mp_rd47 hS, ↓mp_wr47 hS, ↓reduceIte, ↓hw_bdF, ↓hw_bdA, ↓hw_cbd, Option.bind_some, hw_bd, cond_true, cond_false, hw_fI, hw_aI, hw_aR, hw_of, hw_hw, hw_sz, hw_wfR, hw_waR, hw_rI, hw_rV, hw_rR, nI_add, hw_in, hw_cl, hw_R_same, hw_R_R, hw_U_same, hw_U_ne, hw_okn1_0, hw_okn1_1, m_goOn hS]
    refine ⟨_, _, rfl, q1'.aR (k := 21) rfl (by omega), ?_⟩
    rw [hw_R_same]
    exact mR_go hR1 hk hn h32
  | some b =>
    have hb : b < 1000 := by
      have : ∀ (l : KV) (v : Int32) b, kv_ix v l = some b → b < l.length := by
        intro l v
        induction l with
        | nil => intro b h; cases h
        | cons q r ih =>
          intro b h
          simp only [kv_ix] at h
          split at h
          · cases h; exact Nat.succ_pos _
          · cases hr : kv_ix v r with
            | none => rw [hr] at h; cases h
            | some c =>
              rw [hr] at h
              cases h
              have := ih c hr
              simp only [List.length_cons]
              omega
      have := this _ _ _ hg
      omega
    have hlt : nI 0 ≤ nI b := by rw [hw_le (by omega) (by omega)]; omega
    simp (disch := omega) only [hlt, if_true, ↓mp_is hS, ↓mp_isr hS, ↓mp_rd35 hS, ↓mp_wr35 hS, ↓mp_rd36 hS, ↓mp_wr36 hS, ↓mp_rd38 hS, ↓mp_wr38 hS, ↓mp_rd39 hS, ↓mp_wr39 hS, ↓mp_rd43 hS, ↓mp_wr43 hS, ↓mp_rd44 hS, ↓mp_wr44 hS, ↓mp_rd46 hS, ↓mp_wr46 hS, ↓mp_rd47 hS, ↓mp_wr47 hS, ↓reduceIte, ↓hw_bdF, ↓hw_bdA, ↓hw_cbd, Option.bind_some, hw_bd, cond_true, cond_false, hw_fI, hw_aI, hw_aR, hw_of, hw_hw, hw_sz, hw_wfR, hw_waR, hw_rI, hw_rV, hw_rR, nI_add, hw_in, hw_cl, hw_R_same, hw_R_R, hw_U_same, hw_U_ne, hw_okn1_0, hw_okn1_1, m_sees hS]
    refine ⟨_, _, rfl, q1'.aR (k := 21) rfl (by omega), ?_⟩
    rw [hw_R_same]
    unfold z_sees
    rw [hR1.2.1 0 (by omega)]
    exact mR_sh (mR_sh hR1 hk (by omega) (by omega) hn h32 _) hk (by omega) (by omega) hn h32 _
