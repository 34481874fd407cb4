/-! TS: the reference: a store begins -/
set_option maxRecDepth 100000
section
variable {h : ix_H} {m : Nat} {F A : Nat → Nat → Int32} {N d : Nat} {v1 v2 v3 : Int32}
theorem m_begins_2 (hS : mSh h m) (cal : ix_C) : ∀ j z i A, i + j = 100 → j < z → (∀ t, t < i → A (m + 21) t = nI 0) → ∃ A' z', ix_lp cal stX9_begins z 2 [(0, ix_R (some m)), (1, ix_I v1), (2, ix_I v2), (3, ix_I v3), (4, ix_I (nI i))] [] (hw h F A) = ix_lp cal stX9_begins z' 30 [(0, ix_R (some m)), (4, ix_I (nI 0))] [] (hw h F A') ∧ z ≤ z' + j ∧ mQ [] [21] m F A F A' ∧ ∀ t, t < 100 → A' (m + 21) t = if t = 5 then v1 else if t = 6 then v2 else if t = 7 then v3 else nI 0
  | 0, z, i, A, hij, hz, h0 => by
    have e : i = 100 := by omega
    subst e
    obtain ⟨z, rfl⟩ : ∃ y, z = y + 1 := ⟨z - 1, by omega⟩
    refine ⟨hw_R A (m + 21) (hw_U (hw_U (hw_U (A (m + 21)) 5 v1) 6 v2) 7 v3), z + 1, ?_, by omega, (mQ.refl _ _ _ _ _).aR (k := 21) rfl (by omega), fun t ht => ?_⟩
    · rw [lX9_begins_2, lX9_begins_30]
      unfold jX9_begins_2
      rw [if_pos (by decide)]
      simp (disch := omega) only [↓mp_is hS, ↓mp_isr hS, ↓mp_rd35 hS, ↓mp_wr35 hS, ↓mp_rd36 hS, ↓mp_wr36 hS, ↓mp_rd38 hS, ↓mp_wr38 hS, ↓mp_rd39 hS, ↓mp_wr39 hS, ↓mp_rd43 hS, ↓mp_wr43 hS, ↓mp_rd44 hS, ↓mp_wr44 hS, ↓mp_rd46 hS, ↓mp_wr46 hS, ↓mp_rd47 hS, ↓mp_wr47 hS, ↓reduceIte, ↓hw_bdF, ↓hw_bdA, ↓hw_cbd, Option.bind_some, hw_bd, cond_true, cond_false, hw_fI, hw_aI, hw_aR, hw_of, hw_hw, hw_sz, hw_wfR, hw_waR, hw_rI, hw_rV, hw_rR, nI_add, hw_in, hw_cl, hw_R_same, hw_R_R, hw_U_same, hw_U_ne, hw_okn1_0, hw_okn1_1]
    · rw [hw_R_same]
      by_cases w7 : t = 7
      · rw [w7, hw_U_same]
        rfl
      · rw [hw_U_ne _ _ w7]
        by_cases w6 : t = 6
        · rw [w6, hw_U_same]
          rfl
        · rw [hw_U_ne _ _ w6]
          by_cases w5 : t = 5
          · rw [w5, hw_U_same]
            rfl
          · rw [hw_U_ne _ _ w5, if_neg w5, if_neg w6, if_neg w7]
            exact h0 t ht
  | j + 1, z, i, A, hij, hz, h0 => by
    obtain ⟨z, rfl⟩ : ∃ y, z = y + 1 := ⟨z - 1, by omega⟩
    obtain ⟨A', z', e, hz', q, r⟩ := m_begins_2 hS cal j z (i + 1) (hw_R A (m + 21) (hw_U (A (m + 21)) i (nI 0))) (by omega) (by omega) (fun t ht => by
      rw [hw_R_same]
      by_cases w : t = i
      · rw [w, hw_U_same]
      · rw [hw_U_ne _ _ w]
        exact h0 t (by omega))
    refine ⟨A', z', ?_, by omega, ((mQ.refl [] [21] m F A).aR (k := 21) rfl (by omega)).trans q, r⟩
    rw [lX9_begins_2]
    unfold jX9_begins_2
    rw [if_neg (by rw [hw_le (by omega) (by omega)]; omega)]
    simp (disch := omega) only [↓mp_is hS, ↓mp_isr hS, ↓mp_rd35 hS, ↓mp_wr35 hS, ↓mp_rd36 hS, ↓mp_wr36 hS, ↓mp_rd38 hS, ↓mp_wr38 hS, ↓mp_rd39 hS, ↓mp_wr39 hS, ↓mp_rd43 hS, ↓mp_wr43 hS, ↓mp_rd44 hS, ↓mp_wr44 hS, ↓mp_rd46 hS, ↓mp_wr46 hS, ↓mp_rd47 hS, ↓mp_wr47 hS, ↓reduceIte, ↓hw_bdF, ↓hw_bdA, ↓hw_cbd, Option.bind_some, hw_bd, cond_true, cond_false, hw_fI, hw_aI, hw_aR, hw_of, hw_hw, hw_sz, hw_wfR, hw_waR, hw_rI, hw_rV, hw_rR, nI_add, hw_in, hw_cl, hw_R_same, hw_R_R, hw_U_same, hw_U_ne, hw_okn1_0, hw_okn1_1]
    exact e
theorem m_begins_30 (hS : mSh h m) (N d z : Nat) {i : Nat} (hi : i < 4) : ix_lp (ix_run iy_P N (d + 1)) stX9_begins (z + 1) 30 [(0, ix_R (some m)), (4, ix_I (nI i))] [] (hw h F A) = ix_lp (ix_run iy_P N (d + 1)) stX9_begins z 30 [(0, ix_R (some m)), (4, ix_I (nI (i + 1)))] [] (hw h F (hw_R A (m + 21) (hw_U (hw_U (A (m + 21)) (42 + 14 * i + 2) (-2)) (42 + 14 * i + 6) (-2)))) := by
  rw [lX9_begins_30]
  unfold jX9_begins_30
  rw [if_neg (by rw [hw_le (by omega) (by omega)]; omega)]
  simp (disch := omega) only [↓mp_is hS, ↓mp_isr hS, ↓mp_rd35 hS, ↓mp_wr35 hS, ↓mp_rd36 hS, ↓mp_wr36 hS, ↓mp_rd38 hS, ↓mp_wr38 hS, ↓mp_rd39 hS, ↓mp_wr39 hS, ↓mp_rd43 hS, ↓mp_wr43 hS, ↓mp_rd44 hS, ↓mp_wr44 hS, ↓mp_rd46 hS, ↓mp_wr46 hS, ↓mp_rd47 hS, ↓mp_wr47 hS, ↓reduceIte, ↓hw_bdF, ↓hw_bdA, ↓hw_cbd, Option.bind_some, hw_bd, cond_true, cond_false, hw_fI, hw_aI, hw_aR, hw_of, hw_hw, hw_sz, hw_wfR, hw_waR, hw_rI, hw_rV, hw_rR, nI_add, hw_in, hw_cl, hw_R_same, hw_R_R, hw_U_same, hw_U_ne, hw_okn1_0, hw_okn1_1, m_hand0]
def z_beg0 (c q l : Nat) : zS := (((fun _ _ => nI 0), fun _ => []), (fun _ => 0), (fun _ f => if f = 2 ∨ f = 6 then -2 else nI 0), (0, 0, 0), (c, q, l, 0))
theorem z_beg_eq (c q l : Nat) : z_beg c q l = z_pp (z_pp (z_st (z_nb (z_st (z_nb (z_beg0 c q l) (nI 0) (-2) [(nI 0, nI 1)]) 0 0) (nI 1000) (-2) []) 1 1)) := rfl
theorem mR_beg0 {c q l : Nat} {g : Nat → Int32} (hg : ∀ t, t < 100 → g t = if t = 5 then nI c else if t = 6 then nI q else if t = 7 then nI l else nI 0) : mR (hw_U (hw_U (hw_U (hw_U (hw_U (hw_U (hw_U (hw_U g (42 + 14 * 0 + 2) (-2)) (42 + 14 * 0 + 6) (-2)) (42 + 14 * 1 + 2) (-2)) (42 + 14 * 1 + 6) (-2)) (42 + 14 * 2 + 2) (-2)) (42 + 14 * 2 + 6) (-2)) (42 + 14 * 3 + 2) (-2)) (42 + 14 * 3 + 6) (-2)) (z_beg0 c q l) := by
  have z0 : nI 0 + nI 0 + nI 0 + nI 0 = nI 0 := by decide
  refine ⟨⟨?_, ?_, ?_, ?_, ?_, ?_, ?_, ?_⟩, fun p hp => absurd hp (Nat.not_lt_zero p), fun k f hk hf => ?_, fun r f hr _ => absurd hr (Nat.not_lt_zero r), fun r hr => absurd hr (Nat.not_lt_zero r)⟩
  · simp (disch := omega) only [hw_U_ne]; rw [hg _ (by omega)]; rfl
  · simp (disch := omega) only [hw_U_ne]; rw [hg _ (by omega)]; rfl
  · simp (disch := omega) only [hw_U_ne]; rw [hg _ (by omega)]; rfl
  · simp (disch := omega) only [hw_U_ne]; rw [hg _ (by omega)]; exact z0.symm
  · simp (disch := omega) only [hw_U_ne]; rw [hg _ (by omega)]; rfl
  · simp (disch := omega) only [hw_U_ne]; rw [hg _ (by omega)]; rfl
  · simp (disch := omega) only [hw_U_ne]; rw [hg _ (by omega)]; rfl
  · simp (disch := omega) only [hw_U_ne]; rw [hg _ (by omega)]; rfl
  · show _ = if f = 2 ∨ f = 6 then -2 else nI 0
    rcases (show k = 0 ∨ k = 1 ∨ k = 2 ∨ k = 3 by omega) with e | e | e | e <;> subst e
    all_goals
      by_cases w2 : f = 2
      · subst w2
        rw [if_pos (.inl rfl)]
        simp (disch := omega) only [hw_U_same, hw_U_ne]
      · by_cases w6 : f = 6
        · subst w6
          rw [if_pos (.inr rfl)]
          simp (disch := omega) only [hw_U_same, hw_U_ne]
        · rw [if_neg (by omega)]
          simp (disch := omega) only [hw_U_ne]
          rw [hg _ (by omega), if_neg (by omega), if_neg (by omega), if_neg (by omega)]
theorem mp_wr35x (hS : mSh h m) (F A F0 A0 : Nat → Nat → Int32) (i : Int32) (f : Nat → ix_O) : (ix_at (hw h F A) 101 (ix_fR (hw h F0 A0) m 35) i).bind f = cond (ix_in i 137300) (f (m + 21)) none := mp_wr35 hS F A i f
theorem m_begins (hS : mSh h m) (hN : 1000 ≤ N) (d : Nat) (c q l : Nat) : ∃ A', ix_run iy_P N (d + 4) 233 [ix_R (some m), ix_I (nI c), ix_I (nI q), ix_I (nI l)] (hw h F A) = some (.inl none, hw h F A') ∧ mQ [] [21] m F A F A' ∧ mR (A' (m + 21)) (z_beg c q l) := by
  obtain ⟨A1, z1, e1, hz1, q1, r1⟩ := m_begins_2 (F := F) (v1 := nI c) (v2 := nI q) (v3 := nI l) hS (ix_run iy_P N (d + 3)) 100 (N + 1) 0 A (by omega) (by omega) (fun t ht => absurd ht (Nat.not_lt_zero t))
  have e0 : ix_run iy_P N (d + 4) 233 [ix_R (some m), ix_I (nI c), ix_I (nI q), ix_I (nI l)] (hw h F A) = ix_lp (ix_run iy_P N (d + 3)) stX9_begins (N + 1) 2 [(0, ix_R (some m)), (1, ix_I (nI c)), (2, ix_I (nI q)), (3, ix_I (nI l)), (4, ix_I (nI 0))] [] (hw h F A) := by
    rw [rX9_begins N (d + 3), lX9_begins_2]
    rfl
  obtain ⟨z, rfl⟩ : ∃ y, z1 = y + 5 := ⟨z1 - 5, by omega⟩
  have e2 : ix_lp (ix_run iy_P N (d + 3)) stX9_begins (z + 5) 30 [(0, ix_R (some m)), (4, ix_I (nI 0))] [] (hw h F A1) = ix_lp (ix_run iy_P N (d + 3)) stX9_begins (z + 1) 30 [(0, ix_R (some m)), (4, ix_I (nI 4))] [] (hw h F (hw_R A1 (m + 21) (hw_U (hw_U (hw_U (hw_U (hw_U (hw_U (hw_U (hw_U (A1 (m + 21)) (42 + 14 * 0 + 2) (-2)) (42 + 14 * 0 + 6) (-2)) (42 + 14 * 1 + 2) (-2)) (42 + 14 * 1 + 6) (-2)) (42 + 14 * 2 + 2) (-2)) (42 + 14 * 2 + 6) (-2)) (42 + 14 * 3 + 2) (-2)) (42 + 14 * 3 + 6) (-2)))) := by
    rw [m_begins_30 hS N (d + 2) (z + 4) (i := 0) (by omega), m_begins_30 hS N (d + 2) (z + 3) (i := 1) (by omega), m_begins_30 hS N (d + 2) (z + 2) (i := 2) (by omega), m_begins_30 hS N (d + 2) (z + 1) (i := 3) (by omega)]
    simp only [hw_R_R, hw_R_same]
  have r2 := mR_beg0 r1
  generalize hw_U (hw_U (hw_U (hw_U (hw_U (hw_U (hw_U (hw_U (A1 (m + 21)) (42 + 14 * 0 + 2) (-2)) (42 + 14 * 0 + 6) (-2)) (42 + 14 * 1 + 2) (-2)) (42 + 14 * 1 + 6) (-2)) (42 + 14 * 2 + 2) (-2)) (42 + 14 * 2 + 6) (-2)) (42 + 14 * 3 + 2) (-2)) (42 + 14 * 3 + 6) (-2) = g at e2 r2
  rw [e0, e1, e2, lX9_begins_30]
  unfold jX9_begins_30
  have q2 : mQ [] [21] m F A F (hw_R A1 (m + 21) g) := q1.aR (k := 21) rfl (by omega)
  have r2' : mR (hw_R A1 (m + 21) g (m + 21)) (z_beg0 c q l) := by rw [hw_R_same]; exact r2
  generalize hw_R A1 (m + 21) g = A2 at q2 r2' ⊢
  clear r2
  have nb1 : mR (m_rec (A2 (m + 21)) 0 (z_base ([], nI 0, -2))) (z_nb (z_beg0 c q l) (nI 0) (-2) []) := mR_nw r2' _ [] (Nat.zero_lt_succ _) (Nat.zero_le 32) rfl
  have nb2 := mR_nb (k := nI 0) (v := nI 1) nb1 (Nat.zero_lt_succ _) (Nat.zero_le 32) (by decide) (fun r hr => absurd hr (Nat.not_lt_zero r))
  have h106 : m_rec (A2 (m + 21)) 0 (z_base ([], nI 0, -2)) (100 + 10 * 0 + 6) = nI 0 := by
    unfold m_rec
    rw [if_neg (by omega), if_pos (by omega)]
    rfl
  rw [if_pos (by decide), mp_isr hS, hw_cI (m_newBase (F := F) (A := A2) hS N d (n := 0) (by omega) r2'.1.1 (nI 0) (-2))]
  dsimp only
  have nb2' : mR (hw_R A2 (m + 21) (m_rec (A2 (m + 21)) 0 (z_base ([], nI 0, -2))) (m + 21)) (z_nb (z_beg0 c q l) (nI 0) (-2) []) := by rw [hw_R_same]; exact nb1
  have h106' : hw_R A2 (m + 21) (m_rec (A2 (m + 21)) 0 (z_base ([], nI 0, -2))) (m + 21) (100 + 10 * 0 + 6) = nI 0 := by rw [hw_R_same]; exact h106
  have q3 : mQ [] [21] m F A F (hw_R A2 (m + 21) (m_rec (A2 (m + 21)) 0 (z_base ([], nI 0, -2)))) := q2.aR (k := 21) rfl (by omega)
  generalize hw_R A2 (m + 21) (m_rec (A2 (m + 21)) 0 (z_base ([], nI 0, -2))) = A3 at nb2' h106' q3 ⊢
  clear nb1 nb2 h106
  have nb4 := mR_st (mR_nb (k := nI 0) (v := nI 1) nb2' (Nat.zero_lt_succ _) (Nat.zero_le 32) (by decide) (fun r hr => absurd hr (Nat.not_lt_zero r))) (p := 0) (by decide) (show 0 + 1 ≤ 1400 by omega) (Nat.zero_le 32) 0
  rw [mp_isr hS, hw_cV (m_adds (F := F) (A := A3) hS N (d + 1) (b := 0) (i := 0) (by omega) (by omega) h106' (nI 0) (nI 1)), mp_is hS, mp_wr35 hS, hw_in (by omega) (by omega), cond_true, hw_bdA, hw_cl (by omega), hw_R_R, hw_R_same, mp_is hS, mp_isr hS]
  have q4 : mQ [] [21] m F A F (hw_R A3 (m + 21) (hw_U (hw_U (hw_U (hw_U (A3 (m + 21)) (14100 + 88 * 0 + 2 * 0) (nI 0)) (14100 + 88 * 0 + 2 * 0 + 1) (nI 1)) (100 + 10 * 0 + 6) (nI (0 + 1))) 10 (nI 0))) := q3.aR (k := 21) rfl (by omega)
  have nb4' : mR (hw_R A3 (m + 21) (hw_U (hw_U (hw_U (hw_U (A3 (m + 21)) (14100 + 88 * 0 + 2 * 0) (nI 0)) (14100 + 88 * 0 + 2 * 0 + 1) (nI 1)) (100 + 10 * 0 + 6) (nI (0 + 1))) 10 (nI 0)) (m + 21)) (z_st (z_nb (z_beg0 c q l) (nI 0) (-2) [(nI 0, nI 1)]) 0 0) := by rw [hw_R_same]; exact nb4
  have h10 : hw_R A3 (m + 21) (hw_U (hw_U (hw_U (hw_U (A3 (m + 21)) (14100 + 88 * 0 + 2 * 0) (nI 0)) (14100 + 88 * 0 + 2 * 0 + 1) (nI 1)) (100 + 10 * 0 + 6) (nI (0 + 1))) 10 (nI 0)) (m + 21) 10 = nI 0 := by rw [hw_R_same, hw_U_same]
  generalize hw_R A3 (m + 21) (hw_U (hw_U (hw_U (hw_U (A3 (m + 21)) (14100 + 88 * 0 + 2 * 0) (nI 0)) (14100 + 88 * 0 + 2 * 0 + 1) (nI 1)) (100 + 10 * 0 + 6) (nI (0 + 1))) 10 (nI 0)) = A4 at q4 nb4' h10 ⊢
  clear nb4
  have nb5 : mR (m_rec (A4 (m + 21)) 1 (z_base ([], nI 1000, -2))) (z_nb (z_st (z_nb (z_beg0 c q l) (nI 0) (-2) [(nI 0, nI 1)]) 0 0) (nI 1000) (-2) []) := mR_nw nb4' _ [] (by show 0 + 1 < 1400; omega) (Nat.zero_le 32) rfl
  have nb6 := mR_st nb5 (p := 1) (by decide) (by show 0 + 1 + 1 ≤ 1400; omega) (Nat.zero_le 32) 1
  have h01 : A4 (m + 21) 0 = nI 1 := nb4'.1.1
  have h10' : m_rec (A4 (m + 21)) 1 (z_base ([], nI 1000, -2)) 10 = nI 0 := by
    unfold m_rec
    rw [if_neg (by omega), if_neg (by omega)]
    exact h10
  have nb7 := mR_pp nb6 (by show 0 + 1 + 1 ≤ 1400; omega) (r := 0) (by
    show hw_U (m_rec (A4 (m + 21)) 1 (z_base ([], nI 1000, -2))) (10 + 1) (nI 1) 10 = nI 0
    rw [hw_U_ne _ _ (by omega)]
    exact h10') rfl
  have nb8 := mR_pp nb7 (by show 0 + 1 + 1 ≤ 1400; omega) (r := 1) (by
    show hw_U (hw_U (m_rec (A4 (m + 21)) 1 (z_base ([], nI 1000, -2))) (10 + 1) (nI 1)) 1 (nI (0 + 1)) 11 = nI 1
    rw [hw_U_ne _ _ (by omega), hw_U_same]) rfl
  rw [hw_cI (m_newBase (F := F) (A := A4) hS N d (n := 1) (by omega) h01 (nI 1000) (-2))]
  dsimp only
  rw [mp_wr35x hS, hw_in (by omega) (by omega), cond_true, hw_bdA, hw_cl (by omega), mp_is hS, mp_wr35 hS, hw_in (by omega) (by omega), cond_true, hw_bdA, hw_cl (by omega), hw_R_R, hw_R_R, hw_R_same, hw_R_same]
  refine ⟨_, rfl, q4.aR (k := 21) rfl (by omega), ?_⟩
  rw [hw_R_same]
  have e8 : hw_U (hw_U (hw_U (m_rec (A4 (m + 21)) 1 (z_base ([], nI 1000, -2))) 11 (nI 1)) 1 (nI (0 + 1))) 1 (nI 2) = hw_U (hw_U (m_rec (A4 (m + 21)) 1 (z_base ([], nI 1000, -2))) 11 (nI 1)) 1 (nI 2) := by
    funext t
    by_cases w : t = 1
    · rw [w, hw_U_same, hw_U_same]
    · rw [hw_U_ne _ _ w, hw_U_ne _ _ w, hw_U_ne _ _ w]
  rw [← e8]
  exact nb8
end
