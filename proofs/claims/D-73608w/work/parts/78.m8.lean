/-! M8: the reference: swaps, splits and the rest -/
set_option maxRecDepth 100000
theorem kv_ix_lt {v : Int32} : ∀ {l : KV} {b : Nat}, kv_ix v l = some b → b < l.length
  | q :: r, b, h => by
    simp only [kv_ix] at h
    split at h
    · cases h; exact Nat.succ_pos _
    · cases hr : kv_ix v r with
      | none => rw [hr] at h; cases h
      | some c =>
        rw [hr] at h
        cases h
        have := kv_ix_lt hr
        simp only [List.length_cons]
        omega
theorem m_swaps {h : ix_H} {m : Nat} (hS : mSh h m) {S : zS} (hW : z_W S) {N : Nat} (hN : 3000 ≤ N) (d : Nat) {k : Nat} (hk : k < 4) {F A : Nat → Nat → Int32} (hR : mR (A (m + 21)) S) (hp : z_at S k < zp S) (hat : zh S k 2 = nI (z_at S k)) (hn2 : nI (zt S (z_at S k)) = zh S k 10 → zn S < 1400) (hml : zm S < 100 ∧ zl S < 100) (hz44 : ∀ r, r < zn S → (zi S r).length ≤ 44) :
    ∃ F' A', ix_run iy_P N (d + 10) 301 [ix_R (some m), ix_I (nI (42 + 14 * k))] (hw h F A) = some (.inl none, hw h F' A') ∧ mQ mX mY m F A F' A' ∧ mR (A' (m + 21)) (z_swap S k) := by
  have h32 := hW.2.2.1
  have hn := hW.1.1
  have hpg := hW.pg hp
  have ht := hW.2.2.2 _ hp
  have hz : ∀ f, f < 14 → A (m + 21) (42 + 14 * k + f) = zh S k f := fun f hf => hR.2.2.1 k f hk hf
  have h10 : ¬ nI 1 = nI 0 := by decide
  rw [rX9_swaps N (d + 9)]
  unfold bX9_swaps
  simp (disch := omega) only [↓mp_is hS, ↓mp_isr hS, ↓mp_rd35 hS, ↓mp_wr35 hS, ↓mp_rd36 hS, ↓mp_wr36 hS, ↓mp_rd38 hS, ↓mp_wr38 hS, ↓mp_rd39 hS, ↓mp_wr39 hS, ↓mp_rd43 hS, ↓mp_wr43 hS, ↓mp_rd44 hS, ↓mp_wr44 hS, ↓mp_rd46 hS, ↓mp_wr46 hS, ↓mp_rd47 hS, ↓mp_wr47 hS, ↓reduceIte, ↓hw_bdF, ↓hw_bdA, ↓hw_cbd, Option.bind_some, hw_bd, cond_true, cond_false, hw_fI, hw_aI, hw_aR, hw_of, hw_hw, hw_sz, hw_wfR, hw_waR, hw_rI, hw_rV, hw_rR, nI_add, hw_in, hw_cl, hw_R_same, hw_R_R, hw_U_same, hw_U_ne, hw_okn1_0, hw_okn1_1, hz, hat, m_isSeen hS, hR.2.1 _ hp]
  by_cases hs : nI (zt S (z_at S k)) = zh S k 10
  · have hn2 := hn2 hs
    obtain ⟨F2, A2, e2, q2, l2, c2⟩ := m_fillsHas hS hW (show 1000 ≤ N by omega) (d + 3) hp (F := F) hR
    have hA2 : A2 (m + 21) = A (m + 21) := q2.2.2.1 21 rfl
    have hR2 : mR (A2 (m + 21)) S := by rw [hA2]; exact hR
    have h02 : A2 (m + 21) 0 = nI (zn S) := hR2.1.1
    simp (disch := omega) only [if_pos hs, h10, if_false, ↓mp_is hS, ↓mp_isr hS, ↓mp_rd35 hS, ↓mp_wr35 hS, ↓mp_rd36 hS, ↓mp_wr36 hS, ↓mp_rd38 hS, ↓mp_wr38 hS, ↓mp_rd39 hS, ↓mp_wr39 hS, ↓mp_rd43 hS, ↓mp_wr43 hS, ↓mp_rd44 hS, ↓mp_wr44 hS, ↓mp_rd46 hS, ↓mp_wr46 hS, ↓mp_rd47 hS, ↓mp_wr47 hS, ↓reduceIte, ↓hw_bdF, ↓hw_bdA, ↓hw_cbd, Option.bind_some, hw_bd, cond_true, cond_false, hw_fI, hw_aI, hw_aR, hw_of, hw_hw, hw_sz, hw_wfR, hw_waR, hw_rI, hw_rV, hw_rR, nI_add, hw_in, hw_cl, hw_R_same, hw_R_R, hw_U_same, hw_U_ne, hw_okn1_0, hw_okn1_1, e2, l2.2.1, l2.2.2, m_newBase hS F2 A2 N (d + 6) hn2 h02]
    obtain ⟨N, rfl⟩ : ∃ z, N = z + 1 := ⟨N - 1, by omega⟩
    rw [← lX9_swaps_31]
    have hRb : mR (hw_R A2 (m + 21) (m_rec (A2 (m + 21)) (zn S) (z_base ([], (z_pg S (z_at S k)).2.1, (z_pg S (z_at S k)).2.2))) (m + 21)) (z_nb S (z_pg S (z_at S k)).2.1 (z_pg S (z_at S k)).2.2 ((z_pg S (z_at S k)).1.take 0)) := by
      rw [hw_R_same]
      exact mR_nw hR2 _ _ hn2 h32 rfl
    obtain ⟨A3, z3, e3, hz3, q3, r3⟩ := m_swaps_a hS hn2 h32 hz44 (N + 1) (d + 7) (l := (z_pg S (z_at S k)).1) hpg.2.1 (nI (42 + 14 * k)) (nI (z_at S k)) (N + 1 + 1) 0 F2 _ (Nat.zero_le _) (by omega) ⟨l2.1.1, by rw [hw_R_ne _ _ (by omega), hw_R_ne _ _ (by omega)]; exact l2.1.2⟩ hRb
    rw [e3]
    have hmem := z_chain_mem hW.1 _ ht
    have q3' : mQ [] [21] m F2 A2 F2 A3 := ((mQ.refl [] [21] m F2 A2).aR (k := 21) rfl (by omega)).trans q3
    obtain ⟨A4, z4, e4, hz4, q4, r4⟩ := m_swaps_b hS (S := S) (S1 := z_nb S (z_pg S (z_at S k)).2.1 (z_pg S (z_at S k)).2.2 (z_pg S (z_at S k)).1) (show zn S + 1 ≤ 1400 by omega) h32 (N + 1) (d + 7) (c := z_chain S.1 (zt S (z_at S k))) hpg.2.2 (fun r hr => by
      have h1 := hmem r hr
      refine ⟨show r < zn S + 1 by omega, fun f => ?_, fun h5 => ?_⟩
      · show hw_R S.1.1 (zn S) _ r f = _
        rw [hw_R_ne _ _ (by omega)]
        rfl
      · obtain ⟨b, hb, h9, -⟩ := (hW.1.2 r (by omega)).2.2.1 h5
        exact ⟨b, show b < zn S + 1 by omega, h9⟩) (nI (42 + 14 * k)) (nI (z_at S k)) (nI (zn S)) z3 0 F2 A3 (Nat.zero_le _) (by omega) ⟨c2.1, fun i hi => by rw [q3'.2.2.1 22 rfl]; exact c2.2 i hi⟩ (by
      rw [List.take_zero]
      have ez : z_mk (z_nb S (z_pg S (z_at S k)).2.1 (z_pg S (z_at S k)).2.2 (z_pg S (z_at S k)).1) (z_rl S.1 []) = z_nb S (z_pg S (z_at S k)).2.1 (z_pg S (z_at S k)).2.2 (z_pg S (z_at S k)).1 := by
        unfold z_mk z_rl
        simp
      rw [ez]
      exact r3)
    rw [e4]
    have q24 : mQ mX mY m F A F2 A4 := (q2.mono rfl rfl).trans ((q3'.trans q4).mono rfl rfl)
    obtain ⟨z4, rfl⟩ : ∃ w, z4 = w + 1 := ⟨z4 - 1, by omega⟩
    rw [lX9_swaps_51]
    unfold jX9_swaps_51 jX9_swaps_108 jX9_swaps_123 jX9_swaps_127
    have hm6 : A4 (m + 21) 6 = nI (zm S) := r4.1.2.2.2.2.2.1
    have hm7 : A4 (m + 21) 7 = nI (zl S) := r4.1.2.2.2.2.2.2.1
    have rT : mR (hw_U (hw_U (A4 (m + 21)) (10 + z_at S k) (nI (zn S))) (42 + 14 * k + 10) (nI (zn S))) (z_sh (z_st (z_mk (z_nw S (z_base (z_pg S (z_at S k))) (z_pg S (z_at S k)).1) (z_rl S.1 (z_chain S.1 (zt S (z_at S k))))) (z_at S k) (zn S)) k 10 (nI (zn S))) :=
      mR_sh (mR_st r4 (by omega) (show zn S + 1 ≤ 1400 by omega) h32 _) hk (by omega) (by omega) (show zn S + 1 ≤ 1400 by omega) h32 _
    unfold z_swap
    rw [if_pos hs]
    dsimp only
    generalize hT : z_sh (z_st (z_mk (z_nw S (z_base (z_pg S (z_at S k))) (z_pg S (z_at S k)).1) (z_rl S.1 (z_chain S.1 (zt S (z_at S k))))) (z_at S k) (zn S)) k 10 (nI (zn S)) = T at rT ⊢
    have hnT : zn T ≤ 1400 := by rw [← hT]; show zn S + 1 ≤ 1400; omega
    have hpT : zp T ≤ 32 := by rw [← hT]; exact h32
    have go : ∀ v, mR (hw_U (hw_U (hw_U (A4 (m + 21)) (10 + z_at S k) (nI (zn S))) (42 + 14 * k + 10) (nI (zn S))) (42 + 14 * k + 1) v) (z_sh T k 1 v) := fun v => mR_sh rT hk (by omega) (by omega) hnT hpT _
    have h9 : A4 (m + 21) (42 + 14 * k + 9) = zh T k 9 := by
      rw [← rT.2.2.1 k 9 hk (by omega)]
      simp (disch := omega) only [hw_R_same, hw_R_ne, hw_U_same, hw_U_ne]
    simp (disch := omega) only [↓mp_is hS, ↓mp_isr hS, ↓mp_rd35 hS, ↓mp_wr35 hS, ↓mp_rd36 hS, ↓mp_wr36 hS, ↓mp_rd38 hS, ↓mp_wr38 hS, ↓mp_rd39 hS, ↓mp_wr39 hS, ↓mp_rd43 hS, ↓mp_wr43 hS, ↓mp_rd44 hS, ↓mp_wr44 hS, ↓mp_rd46 hS, ↓mp_wr46 hS, ↓mp_rd47 hS, ↓mp_wr47 hS, ↓reduceIte, ↓hw_bdF, ↓hw_bdA, ↓hw_cbd, Option.bind_some, hw_bd, cond_true, cond_false, hw_fI, hw_aI, hw_aR, hw_of, hw_hw, hw_sz, hw_wfR, hw_waR, hw_rI, hw_rV, hw_rR, nI_add, hw_in, hw_cl, hw_R_same, hw_R_R, hw_U_same, hw_U_ne, hw_okn1_0, hw_okn1_1, c2.1, hw_le, Nat.le_refl, if_true, m_laysTop hS, l2.1.1, hm6, hm7]
    by_cases h0 : z_at S k ≤ 0
    · have n1 : ¬ (0 < z_at S k ∧ zm S < (z_pg S (z_at S k)).1.length) := fun w => by omega
      have n2 : ¬ (0 < z_at S k ∧ (z_pg S (z_at S k)).1.length < zl S) := fun w => by omega
      simp (disch := omega) only [h0, if_true, n1, n2, if_false, ↓mp_is hS, ↓mp_isr hS, ↓mp_rd35 hS, ↓mp_wr35 hS, ↓mp_rd36 hS, ↓mp_wr36 hS, ↓mp_rd38 hS, ↓mp_wr38 hS, ↓mp_rd39 hS, ↓mp_wr39 hS, ↓mp_rd43 hS, ↓mp_wr43 hS, ↓mp_rd44 hS, ↓mp_wr44 hS, ↓mp_rd46 hS, ↓mp_wr46 hS, ↓mp_rd47 hS, ↓mp_wr47 hS, ↓reduceIte, ↓hw_bdF, ↓hw_bdA, ↓hw_cbd, Option.bind_some, hw_bd, cond_true, cond_false, hw_fI, hw_aI, hw_aR, hw_of, hw_hw, hw_sz, hw_wfR, hw_waR, hw_rI, hw_rV, hw_rR, nI_add, hw_in, hw_cl, hw_R_same, hw_R_R, hw_U_same, hw_U_ne, hw_okn1_0, hw_okn1_1, m_goOn hS]
      refine ⟨_, _, rfl, q24.aR (k := 21) rfl (by omega), ?_⟩
      rw [hw_R_same, h9]
      exact go _
    by_cases h1 : zm S < (z_pg S (z_at S k)).1.length
    · have n1 : 0 < z_at S k ∧ zm S < (z_pg S (z_at S k)).1.length := ⟨by omega, h1⟩
      have n3 : ¬ (z_pg S (z_at S k)).1.length ≤ zm S := by omega
      simp (disch := omega) only [h0, if_true, n1, n3, and_self, if_false, ↓mp_is hS, ↓mp_isr hS, ↓mp_rd35 hS, ↓mp_wr35 hS, ↓mp_rd36 hS, ↓mp_wr36 hS, ↓mp_rd38 hS, ↓mp_wr38 hS, ↓mp_rd39 hS, ↓mp_wr39 hS, ↓mp_rd43 hS, ↓mp_wr43 hS, ↓mp_rd44 hS, ↓mp_wr44 hS, ↓mp_rd46 hS, ↓mp_wr46 hS, ↓mp_rd47 hS, ↓mp_wr47 hS, ↓reduceIte, ↓hw_bdF, ↓hw_bdA, ↓hw_cbd, Option.bind_some, hw_bd, cond_true, cond_false, hw_fI, hw_aI, hw_aR, hw_of, hw_hw, hw_sz, hw_wfR, hw_waR, hw_rI, hw_rV, hw_rR, nI_add, hw_in, hw_cl, hw_R_same, hw_R_R, hw_U_same, hw_U_ne, hw_okn1_0, hw_okn1_1, m_stands hS]
      refine ⟨_, _, rfl, q24.aR (k := 21) rfl (by omega), ?_⟩
      rw [hw_R_same]
      exact go _
    have n1 : ¬ (0 < z_at S k ∧ zm S < (z_pg S (z_at S k)).1.length) := fun w => h1 w.2
    have n3 : (z_pg S (z_at S k)).1.length ≤ zm S := by omega
    by_cases h2 : (z_pg S (z_at S k)).1.length < zl S
    · have n2 : 0 < z_at S k ∧ (z_pg S (z_at S k)).1.length < zl S := ⟨by omega, h2⟩
      have n4 : ¬ zl S ≤ (z_pg S (z_at S k)).1.length := by omega
      simp (disch := omega) only [h0, n1, n3, n4, if_true, if_false, ↓mp_is hS, ↓mp_isr hS, ↓mp_rd35 hS, ↓mp_wr35 hS, ↓mp_rd36 hS, ↓mp_wr36 hS, ↓mp_rd38 hS, ↓mp_wr38 hS, ↓mp_rd39 hS, ↓mp_wr39 hS, ↓mp_rd43 hS, ↓mp_wr43 hS, ↓mp_rd44 hS, ↓mp_wr44 hS, ↓mp_rd46 hS, ↓mp_wr46 hS, ↓mp_rd47 hS, ↓mp_wr47 hS, ↓reduceIte, ↓hw_bdF, ↓hw_bdA, ↓hw_cbd, Option.bind_some, hw_bd, cond_true, cond_false, hw_fI, hw_aI, hw_aR, hw_of, hw_hw, hw_sz, hw_wfR, hw_waR, hw_rI, hw_rV, hw_rR, nI_add, hw_in, hw_cl, hw_R_same, hw_R_R, hw_U_same, hw_U_ne, hw_okn1_0, hw_okn1_1, m_stands hS]
      rw [if_pos n2]
      refine ⟨_, _, rfl, q24.aR (k := 21) rfl (by omega), ?_⟩
      rw [hw_R_same]
      exact go _
    · have n2 : ¬ (0 < z_at S k ∧ (z_pg S (z_at S k)).1.length < zl S) := fun w => h2 w.2
      have n4 : zl S ≤ (z_pg S (z_at S k)).1.length := by omega
      simp (disch := omega) only [h0, n1, n2, n3, n4, if_true, if_false, ↓mp_is hS, ↓mp_isr hS, ↓mp_rd35 hS, ↓mp_wr35 hS, ↓mp_rd36 hS, ↓mp_wr36 hS, ↓mp_rd38 hS, ↓mp_wr38 hS, ↓mp_rd39 hS, ↓mp_wr39 hS, ↓mp_rd43 hS, ↓mp_wr43 hS, ↓mp_rd44 hS, ↓mp_wr44 hS, ↓mp_rd46 hS, ↓mp_wr46 hS, ↓mp_rd47 hS, ↓mp_wr47 hS, ↓reduceIte, ↓hw_bdF, ↓hw_bdA, ↓hw_cbd, Option.bind_some, hw_bd, cond_true, cond_false, hw_fI, hw_aI, hw_aR, hw_of, hw_hw, hw_sz, hw_wfR, hw_waR, hw_rI, hw_rV, hw_rR, nI_add, hw_in, hw_cl, hw_R_same, hw_R_R, hw_U_same, hw_U_ne, hw_okn1_0, hw_okn1_1, m_goOn hS]
      refine ⟨_, _, rfl, q24.aR (k := 21) rfl (by omega), ?_⟩
      rw [hw_R_same, h9]
      exact go _
  · have ez : z_swap S k = z_go (z_lose S k) k := by
      unfold z_swap
      rw [if_neg hs]
    rw [ez]
    simp (disch := omega) only [if_neg hs, if_true, ↓mp_is hS, ↓mp_isr hS, ↓mp_rd35 hS, ↓mp_wr35 hS, ↓mp_rd36 hS, ↓mp_wr36 hS, ↓mp_rd38 hS, ↓mp_wr38 hS, ↓mp_rd39 hS, ↓mp_wr39 hS, ↓mp_rd43 hS, ↓mp_wr43 hS, ↓mp_rd44 hS, ↓mp_wr44 hS, ↓mp_rd46 hS, ↓mp_wr46 hS, ↓mp_rd47 hS, ↓mp_wr47 hS, ↓reduceIte, ↓hw_bdF, ↓hw_bdA, ↓hw_cbd, Option.bind_some, hw_bd, cond_true, cond_false, hw_fI, hw_aI, hw_aR, hw_of, hw_hw, hw_sz, hw_wfR, hw_waR, hw_rI, hw_rV, hw_rR, nI_add, hw_in, hw_cl, hw_R_same, hw_R_R, hw_U_same, hw_U_ne, hw_okn1_0, hw_okn1_1, m_loses hS, m_goOn hS]
    refine ⟨_, _, rfl, (mQ.refl mX mY m F A).aR (k := 21) rfl (by omega), ?_⟩
    rw [hw_R_same, hz 3 (by omega)]
    have := mR_go (mR_lose hR hk hn h32) hk hn h32
    simp (disch := omega) only [hw_U_ne] at this
    exact this
theorem hw_half : ∀ n, n < 44 → nI n / nI 2 = nI (n / 2) := by decide +kernel
theorem m_splits_a {h : ix_H} {m : Nat} (hS : mSh h m) {S : zS} (hn : zn S < 1400) (hp2 : zp S ≤ 32) (hz : ∀ r, r < zn S → (zi S r).length ≤ 44) (N d : Nat) {hi ri : Int32} {l : KV} (hl : l.length ≤ 43) {half : Nat} (a p q hf : Int32) : ∀ z i F A, half ≤ i → i ≤ l.length → l.length - i < z → mL F A m l → mR (A (m + 21)) (z_nb S hi ri ((l.drop half).take (i - half))) →
    ∃ A' z', ix_lp (ix_run iy_P N (d + 2)) stX9_splits z 45 [(0, ix_R (some m)), (1, ix_I a), (2, ix_I p), (3, ix_I hf), (4, ix_I q), (5, ix_I (nI (zn S))), (6, ix_I (nI i))] [] (hw h F A) = ix_lp (ix_run iy_P N (d + 2)) stX9_splits z' 45 [(0, ix_R (some m)), (1, ix_I a), (2, ix_I p), (3, ix_I hf), (4, ix_I q), (5, ix_I (nI (zn S))), (6, ix_I (nI l.length))] [] (hw h F A') ∧ z ≤ z' + (l.length - i) ∧ mQ [] [21] m F A F A' ∧ mR (A' (m + 21)) (z_nb S hi ri (l.drop half)) := by
  intro z
  induction z with
  | zero => intro i F A _ _ h; omega
  | succ z ih =>
    intro i F A hh hi' hz' hL hR
    rcases Nat.lt_or_ge i l.length with h1 | h1
    · rw [lX9_splits_45]
      unfold jX9_splits_45
      obtain ⟨w1, w2⟩ := hL.2 i h1
      have hti : ((l.drop half).take (i - half)).length = i - half := by rw [List.length_take, List.length_drop]; omega
      have h6 : A (m + 21) (100 + 10 * zn S + 6) = nI (i - half) := by
        rw [hR.2.2.2.1 (zn S) 6 (Nat.lt_succ_self _) (by omega)]
        show hw_R S.1.1 (zn S) _ (zn S) 6 = _
        rw [hw_R_same]
        show nI ((l.drop half).take (i - half)).length = _
        rw [hti]
      simp (disch := omega) only [↓mp_is hS, ↓mp_isr hS, ↓mp_rd35 hS, ↓mp_wr35 hS, ↓mp_rd36 hS, ↓mp_wr36 hS, ↓mp_rd38 hS, ↓mp_wr38 hS, ↓mp_rd39 hS, ↓mp_wr39 hS, ↓mp_rd43 hS, ↓mp_wr43 hS, ↓mp_rd44 hS, ↓mp_wr44 hS, ↓mp_rd46 hS, ↓mp_wr46 hS, ↓mp_rd47 hS, ↓mp_wr47 hS, ↓reduceIte, ↓hw_bdF, ↓hw_bdA, ↓hw_cbd, Option.bind_some, hw_bd, cond_true, cond_false, hw_fI, hw_aI, hw_aR, hw_of, hw_hw, hw_sz, hw_wfR, hw_waR, hw_rI, hw_rV, hw_rR, nI_add, hw_in, hw_cl, hw_R_same, hw_R_R, hw_U_same, hw_U_ne, hw_okn1_0, hw_okn1_1, hL.1, hw_le, Nat.not_le.mpr h1, if_false, w1, w2, m_adds hS F A N d hn (i := i - half) (by omega) h6]
      have hR2 := mR_nb (k := (l[i]).1) (v := (l[i]).2) hR hn hp2 (by omega) hz
      have h1' : i - half < (l.drop half).length := by rw [List.length_drop]; omega
      have e1 : (l.drop half)[i - half] = l[i] := by
        rw [List.getElem_drop]
        congr 1
        omega
      have e2 : (l.drop half).take (i - half) ++ [((l[i]).1, (l[i]).2)] = (l.drop half).take (i + 1 - half) := by
        rw [show i + 1 - half = i - half + 1 by omega, List.take_succ_eq_append_getElem h1', e1]
      rw [hti, e2] at hR2
      obtain ⟨A', z', e, hz2, q', r⟩ := ih (i + 1) F (hw_R A (m + 21) (hw_U (hw_U (hw_U (A (m + 21)) (14100 + 88 * zn S + 2 * (i - half)) (l[i]).1) (14100 + 88 * zn S + 2 * (i - half) + 1) (l[i]).2) (100 + 10 * zn S + 6) (nI (i - half + 1)))) (by omega) h1 (by omega) ⟨hL.1, by rw [hw_R_ne _ _ (by omega), hw_R_ne _ _ (by omega)]; exact hL.2⟩ (by rw [hw_R_same]; exact hR2)
      exact ⟨A', z', e, by omega, ((mQ.refl _ _ m F A).aR (k := 21) rfl (by omega)).trans q', r⟩
    · obtain rfl : i = l.length := by omega
      refine ⟨A, z + 1, rfl, by omega, mQ.refl _ _ _ _ _, ?_⟩
      rw [List.take_of_length_le (by rw [List.length_drop]; omega)] at hR
      exact hR
theorem m_splits {h : ix_H} {m : Nat} (hS : mSh h m) {S : zS} (hW : z_W S) {N : Nat} (hN : 3000 ≤ N) (d : Nat) {k : Nat} (hk : k < 4) {F A : Nat → Nat → Int32} (hR : mR (A (m + 21)) S) (hp : z_at S k < zp S) (hat : zh S k 2 = nI (z_at S k)) (hn2 : nI (zt S (z_at S k)) = zh S k 10 → zp S < 32 → zn S + 1 < 1400 ∧ 0 < (z_pg S (z_at S k)).1.length) (hz44 : ∀ r, r < zn S → (zi S r).length ≤ 44) :
    ∃ F' A', ix_run iy_P N (d + 10) 303 [ix_R (some m), ix_I (nI (42 + 14 * k))] (hw h F A) = some (.inl none, hw h F' A') ∧ mQ mX mY m F A F' A' ∧ mR (A' (m + 21)) (z_split S k) := by
  have h32 := hW.2.2.1
  have hn := hW.1.1
  have hpg := hW.pg hp
  have hz : ∀ f, f < 14 → A (m + 21) (42 + 14 * k + f) = zh S k f := fun f hf => hR.2.2.1 k f hk hf
  have h10 : ¬ nI 1 = nI 0 := by decide
  have h1p : A (m + 21) 1 = nI (zp S) := hR.1.2.1
  rw [rX9_splits N (d + 9)]
  unfold bX9_splits
  simp (disch := omega) only [↓mp_is hS, ↓mp_isr hS, ↓mp_rd35 hS, ↓mp_wr35 hS, ↓mp_rd36 hS, ↓mp_wr36 hS, ↓mp_rd38 hS, ↓mp_wr38 hS, ↓mp_rd39 hS, ↓mp_wr39 hS, ↓mp_rd43 hS, ↓mp_wr43 hS, ↓mp_rd44 hS, ↓mp_wr44 hS, ↓mp_rd46 hS, ↓mp_wr46 hS, ↓mp_rd47 hS, ↓mp_wr47 hS, ↓reduceIte, ↓hw_bdF, ↓hw_bdA, ↓hw_cbd, Option.bind_some, hw_bd, cond_true, cond_false, hw_fI, hw_aI, hw_aR, hw_of, hw_hw, hw_sz, hw_wfR, hw_waR, hw_rI, hw_rV, hw_rR, nI_add, hw_in, hw_cl, hw_R_same, hw_R_R, hw_U_same, hw_U_ne, hw_okn1_0, hw_okn1_1, hz, hat, m_isSeen hS, hR.2.1 _ hp, h1p, hw_lt]
  have no : ¬ (nI (zt S (z_at S k)) = zh S k 10 ∧ zp S < 32) → ∀ K, ∃ F' A', jX9_splits_18 (ix_run iy_P N (d + 9)) K m (nI (42 + 14 * k)) (hw h F A) = some (.inl none, hw h F' A') ∧ mQ mX mY m F A F' A' ∧ mR (A' (m + 21)) (z_split S k) := by
    intro hno K
    have ez : z_split S k = z_go S k := by
      unfold z_split
      rw [if_neg hno]
    rw [ez]
    unfold jX9_splits_18
    simp (disch := omega) only [↓mp_is hS, ↓mp_isr hS, ↓mp_rd35 hS, ↓mp_wr35 hS, ↓mp_rd36 hS, ↓mp_wr36 hS, ↓mp_rd38 hS, ↓mp_wr38 hS, ↓mp_rd39 hS, ↓mp_wr39 hS, ↓mp_rd43 hS, ↓mp_wr43 hS, ↓mp_rd44 hS, ↓mp_wr44 hS, ↓mp_rd46 hS, ↓mp_wr46 hS, ↓mp_rd47 hS, ↓mp_wr47 hS, ↓reduceIte, ↓hw_bdF, ↓hw_bdA, ↓hw_cbd, Option.bind_some, hw_bd, cond_true, cond_false, hw_fI, hw_aI, hw_aR, hw_of, hw_hw, hw_sz, hw_wfR, hw_waR, hw_rI, hw_rV, hw_rR, nI_add, hw_in, hw_cl, hw_R_same, hw_R_R, hw_U_same, hw_U_ne, hw_okn1_0, hw_okn1_1, m_goOn hS]
    refine ⟨_, _, rfl, (mQ.refl mX mY m F A).aR (k := 21) rfl (by omega), ?_⟩
    rw [hw_R_same]
    exact mR_go hR hk hn h32
  by_cases hs : nI (zt S (z_at S k)) = zh S k 10
  · by_cases hps : zp S < 32
    · obtain ⟨hn2, hl0⟩ := hn2 hs hps
      obtain ⟨F2, A2, e2, q2, l2, c2⟩ := m_fillsHas hS hW (show 1000 ≤ N by omega) (d + 3) hp (F := F) hR
      have hA2 : A2 (m + 21) = A (m + 21) := q2.2.2.1 21 rfl
      have hR2 : mR (A2 (m + 21)) S := by rw [hA2]; exact hR
      have h02 : A2 (m + 21) 0 = nI (zn S) := hR2.1.1
      have h12 : A2 (m + 21) 1 = nI (zp S) := hR2.1.2.1
      have h20 : ¬ nI 2 = nI 0 := by decide
      have hhf : z_half S (z_at S k) < (z_pg S (z_at S k)).1.length := by unfold z_half; omega
      have hhe : nI (z_pg S (z_at S k)).1.length / nI 2 = nI (z_half S (z_at S k)) := hw_half _ (by omega)
      simp (disch := omega) only [if_pos hs, hps, if_true, h10, h20, if_false, ↓mp_is hS, ↓mp_isr hS, ↓mp_rd35 hS, ↓mp_wr35 hS, ↓mp_rd36 hS, ↓mp_wr36 hS, ↓mp_rd38 hS, ↓mp_wr38 hS, ↓mp_rd39 hS, ↓mp_wr39 hS, ↓mp_rd43 hS, ↓mp_wr43 hS, ↓mp_rd44 hS, ↓mp_wr44 hS, ↓mp_rd46 hS, ↓mp_wr46 hS, ↓mp_rd47 hS, ↓mp_wr47 hS, ↓reduceIte, ↓hw_bdF, ↓hw_bdA, ↓hw_cbd, Option.bind_some, hw_bd, cond_true, cond_false, hw_fI, hw_aI, hw_aR, hw_of, hw_hw, hw_sz, hw_wfR, hw_waR, hw_rI, hw_rV, hw_rR, nI_add, hw_in, hw_cl, hw_R_same, hw_R_R, hw_U_same, hw_U_ne, hw_okn1_0, hw_okn1_1, e2, l2.2.1, l2.2.2, l2.1.1, h12, hhe, m_newBase hS F2 A2 N (d + 6) (show zn S < 1400 by omega) h02]
      obtain ⟨N, rfl⟩ : ∃ z, N = z + 1 := ⟨N - 1, by omega⟩
      rw [← lX9_splits_45]
      have hRb : mR (hw_R A2 (m + 21) (m_rec (A2 (m + 21)) (zn S) (z_base ([], (z_pg S (z_at S k)).2.1, (z_pg S (z_at S k)).2.2))) (m + 21)) (z_nb S (z_pg S (z_at S k)).2.1 (z_pg S (z_at S k)).2.2 (((z_pg S (z_at S k)).1.drop (z_half S (z_at S k))).take (z_half S (z_at S k) - z_half S (z_at S k)))) := by
        rw [hw_R_same, Nat.sub_self, List.take_zero]
        exact mR_nw hR2 _ _ (by omega) h32 rfl
      obtain ⟨A3, z3, e3, hz3, q3, r3⟩ := m_splits_a hS (show zn S < 1400 by omega) h32 hz44 (N + 1) (d + 7) (l := (z_pg S (z_at S k)).1) hpg.2.1 (half := z_half S (z_at S k)) (nI (42 + 14 * k)) (nI (z_at S k)) (nI (zp S)) (nI (z_half S (z_at S k))) (N + 1 + 1) (z_half S (z_at S k)) F2 _ (Nat.le_refl _) (by omega) (by omega) ⟨l2.1.1, by rw [hw_R_ne _ _ (by omega), hw_R_ne _ _ (by omega)]; exact l2.1.2⟩ hRb
      rw [e3]
      have q3' : mQ [] [21] m F2 A2 F2 A3 := ((mQ.refl [] [21] m F2 A2).aR (k := 21) rfl (by omega)).trans q3
      have q23 : mQ mX mY m F A F2 A3 := (q2.mono rfl rfl).trans (q3'.mono rfl rfl)
      obtain ⟨z3, rfl⟩ : ∃ w, z3 = w + 1 := ⟨z3 - 1, by omega⟩
      rw [lX9_splits_45]
      unfold jX9_splits_45
      have hA23 : A3 (m + 23) = A2 (m + 23) := q3'.2.2.1 23 rfl
      have hkh : A3 (m + 23) (z_half S (z_at S k)) = ((z_pg S (z_at S k)).1[z_half S (z_at S k)]).1 := by rw [hA23]; exact (l2.1.2 _ hhf).1
      have ek : (kv_nth ((z_pg S (z_at S k)).1.drop (z_half S (z_at S k))) 0).1 = ((z_pg S (z_at S k)).1[z_half S (z_at S k)]).1 := by
        rw [kv_nth_get (by rw [List.length_drop]; omega), List.getElem_drop]
        rfl
      have h13 : A3 (m + 21) 1 = nI (zp S) := r3.1.2.1
      have h03 : A3 (m + 21) 0 = nI (zn S + 1) := r3.1.1
      have ht3 : A3 (m + 21) (10 + z_at S k) = nI (zt S (z_at S k)) := r3.2.1 _ hp
      have ez : z_split S k = z_note (z_st (z_nw (z_pp (z_st (z_nb S (z_pg S (z_at S k)).2.1 (z_pg S (z_at S k)).2.2 ((z_pg S (z_at S k)).1.drop (z_half S (z_at S k)))) (zp S) (zn S))) (z_leaf (nI 3) ((z_pg S (z_at S k)).1[z_half S (z_at S k)]).1 (nI (zp S)) (zt S (z_at S k))) []) (z_at S k) (zn S + 1)) k ((z_pg S (z_at S k)).1[z_half S (z_at S k)]).1 (nI (zp S)) := by
        unfold z_split
        rw [if_pos ⟨hs, hps⟩, ← ek]
        rfl
      rw [ez]
      generalize hT : z_nb S (z_pg S (z_at S k)).2.1 (z_pg S (z_at S k)).2.2 ((z_pg S (z_at S k)).1.drop (z_half S (z_at S k))) = T at r3 ⊢
      have hnT : zn T = zn S + 1 := by rw [← hT]; rfl
      have hpT : zp T = zp S := by rw [← hT]; rfl
      have r4 := mR_st r3 (p := zp S) hps (by omega) (by omega) (zn S)
      have ezt : zt (z_st T (zp S) (zn S)) (zp (z_st T (zp S) (zn S))) = zn S := by
        show ix_up T.2.1 (zp S) (zn S) (zp T) = zn S
        rw [hpT]
        unfold ix_up
        rw [if_pos rfl]
      have r5 := mR_pp (r := zn S) r4 (show zn T ≤ 1400 by omega) (by rw [show zp (z_st T (zp S) (zn S)) = zp S from hpT, hw_U_same]) ezt
      rw [show zp (z_st T (zp S) (zn S)) = zp S from hpT] at r5
      generalize hT2 : z_pp (z_st T (zp S) (zn S)) = T2 at r5 ⊢
      have hnT2 : zn T2 = zn S + 1 := by rw [← hT2]; exact hnT
      have hpT2 : zp T2 = zp S + 1 := by rw [← hT2]; show zp T + 1 = _; rw [hpT]
      have r6 := mR_nw r5 (z_leaf (nI 3) ((z_pg S (z_at S k)).1[z_half S (z_at S k)]).1 (nI (zp S)) (zt S (z_at S k))) [] (by omega) (by omega) rfl
      rw [hnT2] at r6
      have r7 := mR_st r6 (p := z_at S k) (by omega) (show zn T2 + 1 ≤ 1400 by omega) (show zp T2 ≤ 32 by omega) (zn S + 1)
      generalize hT3 : z_st (z_nw T2 (z_leaf (nI 3) ((z_pg S (z_at S k)).1[z_half S (z_at S k)]).1 (nI (zp S)) (zt S (z_at S k))) []) (z_at S k) (zn S + 1) = T3 at r7 ⊢
      have hnT3 : zn T3 ≤ 1400 := by rw [← hT3]; show zn T2 + 1 ≤ 1400; omega
      have hpT3 : zp T3 ≤ 32 := by rw [← hT3]; show zp T2 ≤ 32; omega
      have hrec0 : (hw_R A3 (m + 21) (hw_U (hw_U (A3 (m + 21)) (10 + zp S) (nI (zn S))) 1 (nI (zp S + 1)))) (m + 21) 0 = nI (zn S + 1) := by
        simp (disch := omega) only [hw_R_same, hw_R_ne, hw_U_same, hw_U_ne]
        exact h03
      have htop : (hw_R A3 (m + 21) (hw_U (hw_U (A3 (m + 21)) (10 + zp S) (nI (zn S))) 1 (nI (zp S + 1)))) (m + 21) (10 + z_at S k) = nI (zt S (z_at S k)) := by
        simp (disch := omega) only [hw_R_same, hw_R_ne, hw_U_same, hw_U_ne]
        exact ht3
      simp (disch := omega) only [↓mp_is hS, ↓mp_isr hS, ↓mp_rd35 hS, ↓mp_wr35 hS, ↓mp_rd36 hS, ↓mp_wr36 hS, ↓mp_rd38 hS, ↓mp_wr38 hS, ↓mp_rd39 hS, ↓mp_wr39 hS, ↓mp_rd43 hS, ↓mp_wr43 hS, ↓mp_rd44 hS, ↓mp_wr44 hS, ↓mp_rd46 hS, ↓mp_wr46 hS, ↓mp_rd47 hS, ↓mp_wr47 hS, ↓reduceIte, ↓hw_bdF, ↓hw_bdA, ↓hw_cbd, Option.bind_some, hw_bd, cond_true, cond_false, hw_fI, hw_aI, hw_aR, hw_of, hw_hw, hw_sz, hw_wfR, hw_waR, hw_rI, hw_rV, hw_rR, nI_add, hw_in, hw_cl, hw_R_same, hw_R_R, hw_U_same, hw_U_ne, hw_okn1_0, hw_okn1_1, l2.1.1, hw_le, Nat.le_refl, if_true, m_laysTop hS, h13, hkh, hA23, m_topOf hS, ht3, m_newRecord hS _ _ (N + 1) (d + 7) hn2 hrec0, m_notes hS, hw_R_ne]
      refine ⟨_, _, rfl, q23.aR (k := 21) rfl (by omega), ?_⟩
      rw [hw_R_same]
      unfold z_note
      exact mR_sh (mR_sh (mR_sh r7 hk (by omega) (by omega) hnT3 hpT3 _) hk (by omega) (by omega) hnT3 hpT3 _) hk (by omega) (by omega) hnT3 hpT3 _
    · simp only [if_pos hs, h10, if_false, hps]
      exact no (fun w => hps w.2) _
  · simp only [if_neg hs, if_true]
    exact no (fun w => hs w.1) _
