/-! M5: the reference: the stages of a hand -/
set_option maxRecDepth 100000
abbrev mX : List Nat := [37, 40, 41, 42, 45, 48]
abbrev mY : List Nat := [21, 22, 23, 24, 25, 26, 27, 28]
theorem m_adds {h : ix_H} {m : Nat} (hS : mSh h m) (F A : Nat → Nat → Int32) (N d : Nat) {b i : Nat} (hb : b < 1400) (hi : i < 44) (h6 : A (m + 21) (100 + 10 * b + 6) = nI i) (k v : Int32) : ix_run iy_P N (d + 2) 238 [ix_R (some m), ix_I (nI b), ix_I k, ix_I v] (hw h F A) = some (.inl none, hw h F (hw_R A (m + 21) (hw_U (hw_U (hw_U (A (m + 21)) (14100 + 88 * b + 2 * i) k) (14100 + 88 * b + 2 * i + 1) v) (100 + 10 * b + 6) (nI (i + 1))))) := by
  rw [rX9_adds N (d + 1)]
  unfold bX9_adds
  simp (disch := omega) only [↓mp_is hS, ↓mp_isr hS, ↓mp_rd35 hS, ↓mp_wr35 hS, ↓mp_rd36 hS, ↓mp_wr36 hS, ↓mp_rd38 hS, ↓mp_wr38 hS, ↓mp_rd39 hS, ↓mp_wr39 hS, ↓mp_rd43 hS, ↓mp_wr43 hS, ↓mp_rd44 hS, ↓mp_wr44 hS, ↓mp_rd46 hS, ↓mp_wr46 hS, ↓mp_rd47 hS, ↓mp_wr47 hS, ↓reduceIte, ↓hw_bdF, ↓hw_bdA, ↓hw_cbd, Option.bind_some, hw_bd, cond_true, cond_false, hw_fI, hw_aI, hw_aR, hw_of, hw_hw, hw_sz, hw_wfR, hw_waR, hw_rI, hw_rV, hw_rR, nI_add, hw_in, hw_cl, hw_R_same, hw_R_R, hw_U_same, hw_U_ne, hw_okn1_0, hw_okn1_1, m_ofRecord hS, m_record0, h6, hw_mul, hw_R_R]
theorem m_swaps_a {h : ix_H} {m : Nat} (hS : mSh h m) {S : zS} (hn : zn S < 1400) (hp2 : zp S ≤ 32) (hz : ∀ r, r < zn S → (zi S r).length ≤ 44) (N d : Nat) {hi ri : Int32} {l : KV} (hl : l.length ≤ 43) (a p : Int32) : ∀ z i F A, i ≤ l.length → l.length - i < z → mL F A m l → mR (A (m + 21)) (z_nb S hi ri (l.take i)) →
    ∃ A' z', ix_lp (ix_run iy_P N (d + 2)) stX9_swaps z 31 [(0, ix_R (some m)), (1, ix_I a), (2, ix_I p), (3, ix_I (nI (zn S))), (4, ix_I (nI i))] [] (hw h F A) = ix_lp (ix_run iy_P N (d + 2)) stX9_swaps z' 51 [(0, ix_R (some m)), (1, ix_I a), (2, ix_I p), (3, ix_I (nI (zn S))), (4, ix_I (nI 0))] [] (hw h F A') ∧ z ≤ z' + (l.length - i) ∧ mQ [] [21] m F A F A' ∧ mR (A' (m + 21)) (z_nb S hi ri l) := by
  intro z
  induction z with
  | zero => intro i F A _ h; omega
  | succ z ih =>
    intro i F A hi' hz' hL hR
    rcases Nat.lt_or_ge i l.length with h1 | h1
    · rw [lX9_swaps_31]
      unfold jX9_swaps_31
      obtain ⟨w1, w2⟩ := hL.2 i h1
      have hti : (l.take i).length = i := by rw [List.length_take]; omega
      have h6 : A (m + 21) (100 + 10 * zn S + 6) = nI i := by
        rw [hR.2.2.2.1 (zn S) 6 (Nat.lt_succ_self _) (by omega)]
        show hw_R S.1.1 (zn S) _ (zn S) 6 = _
        rw [hw_R_same]
        show nI (l.take i).length = _
        rw [hti]
      simp (disch := omega) only [↓mp_is hS, ↓mp_isr hS, ↓mp_rd35 hS, ↓mp_wr35 hS, ↓mp_rd36 hS, ↓mp_wr36 hS, ↓mp_rd38 hS, ↓mp_wr38 hS, ↓mp_rd39 hS, ↓mp_wr39 hS, ↓mp_rd43 hS, ↓mp_wr43 hS, ↓mp_rd44 hS, ↓mp_wr44 hS, ↓mp_rd46 hS, ↓mp_wr46 hS, ↓mp_rd47 hS, ↓mp_wr47 hS, ↓reduceIte, ↓hw_bdF, ↓hw_bdA, ↓hw_cbd, Option.bind_some, hw_bd, cond_true, cond_false, hw_fI, hw_aI, hw_aR, hw_of, hw_hw, hw_sz, hw_wfR, hw_waR, hw_rI, hw_rV, hw_rR, nI_add, hw_in, hw_cl, hw_R_same, hw_R_R, hw_U_same, hw_U_ne, hw_okn1_0, hw_okn1_1, hL.1, hw_le, Nat.not_le.mpr h1, if_false, w1, w2, m_adds hS F A N d hn (i := i) (by omega) h6]
      have hR2 := mR_nb (k := (l[i]).1) (v := (l[i]).2) hR hn hp2 (by omega) hz
      rw [hti, ← List.take_succ_eq_append_getElem h1] at hR2
      obtain ⟨A', z', e, hz2, q, r⟩ := ih (i + 1) F (hw_R A (m + 21) (hw_U (hw_U (hw_U (A (m + 21)) (14100 + 88 * zn S + 2 * i) (l[i]).1) (14100 + 88 * zn S + 2 * i + 1) (l[i]).2) (100 + 10 * zn S + 6) (nI (i + 1)))) h1 (by omega) ⟨hL.1, by rw [hw_R_ne _ _ (by omega), hw_R_ne _ _ (by omega)]; exact hL.2⟩ (by rw [hw_R_same]; exact hR2)
      exact ⟨A', z', e, by omega, ((mQ.refl _ _ m F A).aR rfl (by omega)).trans q, r⟩
    · refine ⟨A, z + 1, ?_, by omega, mQ.refl _ _ _ _ _, ?_⟩
      · rw [lX9_swaps_31, lX9_swaps_51]
        unfold jX9_swaps_31
        simp (disch := omega) only [↓mp_is hS, ↓mp_isr hS, ↓mp_rd35 hS, ↓mp_wr35 hS, ↓mp_rd36 hS, ↓mp_wr36 hS, ↓mp_rd38 hS, ↓mp_wr38 hS, ↓mp_rd39 hS, ↓mp_wr39 hS, ↓mp_rd43 hS, ↓mp_wr43 hS, ↓mp_rd44 hS, ↓mp_wr44 hS, ↓mp_rd46 hS, ↓mp_wr46 hS, ↓mp_rd47 hS, ↓mp_wr47 hS, ↓reduceIte, ↓hw_bdF, ↓hw_bdA, ↓hw_cbd, Option.bind_some, hw_bd, cond_true, cond_false, hw_fI, hw_aI, hw_aR, hw_of, hw_hw, hw_sz, hw_wfR, hw_waR, hw_rI, hw_rV, hw_rR, nI_add, hw_in, hw_cl, hw_R_same, hw_R_R, hw_U_same, hw_U_ne, hw_okn1_0, hw_okn1_1, hL.1, hw_le, h1, if_true]
      · rw [List.take_of_length_le h1] at hR
        exact hR
theorem z_rl_snoc (B : zB) (l : List Nat) (r : Nat) : z_rl B (l ++ [r]) = z_rl B l ++ (if B.1 r 0 = nI 5 then [r, (B.1 r 9).toNatClampNeg] else [r]) := by
  unfold z_rl
  rw [List.flatMap_append]
  simp
theorem m_swaps_b {h : ix_H} {m : Nat} (hS : mSh h m) {S S1 : zS} (hn : zn S1 ≤ 1400) (hp2 : zp S1 ≤ 32) (N d : Nat) {c : List Nat} (hc : c.length ≤ 840) (hm : ∀ r ∈ c, r < zn S1 ∧ (∀ f, zr S1 r f = zr S r f) ∧ (zr S r 0 = nI 5 → ∃ b, b < zn S1 ∧ zr S r 9 = nI b)) (a p b0 : Int32) : ∀ z i F A, i ≤ c.length → c.length - i < z → mC F A m c → mR (A (m + 21)) (z_mk S1 (z_rl S.1 (c.take i))) →
    ∃ A' z', ix_lp (ix_run iy_P N (d + 2)) stX9_swaps z 51 [(0, ix_R (some m)), (1, ix_I a), (2, ix_I p), (3, ix_I b0), (4, ix_I (nI i))] [] (hw h F A) = ix_lp (ix_run iy_P N (d + 2)) stX9_swaps z' 51 [(0, ix_R (some m)), (1, ix_I a), (2, ix_I p), (3, ix_I b0), (4, ix_I (nI c.length))] [] (hw h F A') ∧ z ≤ z' + (c.length - i) ∧ mQ [] [21] m F A F A' ∧ mR (A' (m + 21)) (z_mk S1 (z_rl S.1 c)) := by
  intro z
  induction z with
  | zero => intro i F A _ h; omega
  | succ z ih =>
    intro i F A hi' hz' hC hR
    rcases Nat.lt_or_ge i c.length with h1 | h1
    · rw [lX9_swaps_51]
      unfold jX9_swaps_51 jX9_swaps_80
      have w1 := hC.2 i h1
      obtain ⟨hr1, hr2, hr3⟩ := hm (c[i]) (List.getElem_mem h1)
      have hR2 := mR_mk hR (r := c[i]) (by omega) hn hp2
      rw [z_mk_mk] at hR2
      have hs0 : A (m + 21) (100 + 10 * c[i] + 0) = zr S (c[i]) 0 := by
        rw [hR.2.2.2.1 (c[i]) 0 hr1 (by omega), ← hr2, z_mk_ne _ _ _ (by omega)]
      have hs9 : A (m + 21) (100 + 10 * c[i] + 9) = zr S (c[i]) 9 := by
        rw [hR.2.2.2.1 (c[i]) 9 hr1 (by omega), ← hr2, z_mk_ne _ _ _ (by omega)]
      have hA22 : hw_R A (m + 21) (hw_U (A (m + 21)) (100 + 10 * c[i] + 4) (A (m + 21) 2)) (m + 22) = A (m + 22) := hw_R_ne _ _ (by omega)
      have htk : c.take (i + 1) = c.take i ++ [c[i]] := List.take_succ_eq_append_getElem h1
      have hct : ∀ g, mC F (hw_R A (m + 21) g) m c := fun g => ⟨hC.1, fun j hj => by rw [hw_R_ne _ _ (by omega)]; exact hC.2 j hj⟩
      simp (disch := omega) only [↓mp_is hS, ↓mp_isr hS, ↓mp_rd35 hS, ↓mp_wr35 hS, ↓mp_rd36 hS, ↓mp_wr36 hS, ↓mp_rd38 hS, ↓mp_wr38 hS, ↓mp_rd39 hS, ↓mp_wr39 hS, ↓mp_rd43 hS, ↓mp_wr43 hS, ↓mp_rd44 hS, ↓mp_wr44 hS, ↓mp_rd46 hS, ↓mp_wr46 hS, ↓mp_rd47 hS, ↓mp_wr47 hS, ↓reduceIte, ↓hw_bdF, ↓hw_bdA, ↓hw_cbd, Option.bind_some, hw_bd, cond_true, cond_false, hw_fI, hw_aI, hw_aR, hw_of, hw_hw, hw_sz, hw_wfR, hw_waR, hw_rI, hw_rV, hw_rR, nI_add, hw_in, hw_cl, hw_R_same, hw_R_R, hw_U_same, hw_U_ne, hw_okn1_0, hw_okn1_1, hC.1, hw_le, Nat.not_le.mpr h1, if_false, w1, m_retires hS, hA22, m_ofRecord hS, hs0]
      by_cases h5 : zr S (c[i]) 0 = nI 5
      · obtain ⟨b, hb, hb9⟩ := hr3 h5
        simp (disch := omega) only [↓mp_is hS, ↓mp_isr hS, ↓mp_rd35 hS, ↓mp_wr35 hS, ↓mp_rd36 hS, ↓mp_wr36 hS, ↓mp_rd38 hS, ↓mp_wr38 hS, ↓mp_rd39 hS, ↓mp_wr39 hS, ↓mp_rd43 hS, ↓mp_wr43 hS, ↓mp_rd44 hS, ↓mp_wr44 hS, ↓mp_rd46 hS, ↓mp_wr46 hS, ↓mp_rd47 hS, ↓mp_wr47 hS, ↓reduceIte, ↓hw_bdF, ↓hw_bdA, ↓hw_cbd, Option.bind_some, hw_bd, cond_true, cond_false, hw_fI, hw_aI, hw_aR, hw_of, hw_hw, hw_sz, hw_wfR, hw_waR, hw_rI, hw_rV, hw_rR, nI_add, hw_in, hw_cl, hw_R_same, hw_R_R, hw_U_same, hw_U_ne, hw_okn1_0, hw_okn1_1, h5, if_true, hA22, w1, m_ofRecord hS, hs9, hb9, m_retires hS, hw_R_R]
        have hR3 := mR_mk hR2 (r := b) (by omega) hn hp2
        rw [z_mk_mk, List.append_assoc] at hR3
        have e2 : z_rl S.1 (c.take (i + 1)) = z_rl S.1 (c.take i) ++ ([c[i]] ++ [b]) := by
          have h5' : S.1.1 (c[i]) 0 = nI 5 := h5
          have h9' : S.1.1 (c[i]) 9 = nI b := hb9
          rw [htk, z_rl_snoc, if_pos h5', h9', nI_clamp (by omega)]
          rfl
        rw [← e2] at hR3
        obtain ⟨A', z', e, hz2, q, r⟩ := ih (i + 1) F _ h1 (by omega) (hct _) (by rw [hw_R_same]; exact hR3)
        refine ⟨A', z', e, by omega, ((mQ.refl _ _ m F A).aR rfl (by omega)).trans q, r⟩
      · simp (disch := omega) only [h5, if_false]
        have e2 : z_rl S.1 (c.take (i + 1)) = z_rl S.1 (c.take i) ++ [c[i]] := by
          have h5' : ¬ S.1.1 (c[i]) 0 = nI 5 := h5
          rw [htk, z_rl_snoc, if_neg h5']
        rw [← e2] at hR2
        obtain ⟨A', z', e, hz2, q, r⟩ := ih (i + 1) F _ h1 (by omega) (hct _) (by rw [hw_R_same]; exact hR2)
        exact ⟨A', z', e, by omega, ((mQ.refl _ _ m F A).aR rfl (by omega)).trans q, r⟩
    · obtain rfl : i = c.length := by omega
      refine ⟨A, z + 1, rfl, by omega, mQ.refl _ _ _ _ _, ?_⟩
      rw [List.take_length] at hR
      exact hR
