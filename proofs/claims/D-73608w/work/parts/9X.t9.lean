/-! T9: the reference: acts -/
set_option maxRecDepth 100000
section
variable {h : ix_H} {m : Nat} {F A : Nat → Nat → Int32} {tk : Nat → tK} {e t n o N d i : Nat}
abbrev pQT (m : Nat) (F A F' A' : Nat → Nat → Int32) : Prop := mQ [11, 12, 13, 14, 15, 16, 18, 25, 27, 31] [8, 9, 10, 11, 12, 13, 14, 15, 16, 17] m F A F' A'
theorem pRo.refl (m n : Nat) (A : Nat → Nat → Int32) : pRo m n A A := fun _ _ _ _ _ => rfl
theorem pRo.trans {A A1 A2 : Nat → Nat → Int32} (h1 : pRo m n A A1) (h2 : pRo m n A1 A2) : pRo m n A A2 := fun k j hj h8 h12 => (h2 k j hj h8 h12).trans (h1 k j hj h8 h12)
theorem pRo.up {A A1 : Nat → Nat → Int32} {k : Nat} {v : Int32} (h1 : pRo m n A A1) : pRo m n A (hw_R A1 (m + k) (hw_U (A1 (m + k)) n v)) := fun k' j hj h8 h12 => by
  by_cases w : k' = k
  · rw [w, hw_R_same, hw_U_ne _ _ hj, ← w]
    exact h1 k' j hj h8 h12
  · rw [hw_R_ne _ _ (by omega)]
    exact h1 k' j hj h8 h12
theorem p_termsToldF (hP : mSp h m) (hF : pF F m tk n t) (hi : i < 210) (N d : Nat) (v : Int32) : ∃ A', ix_run iy_P N (d + 5) 260 [ix_R (some m), ix_I (nI i), ix_I v] (hw h F A) = some (.inl none, hw h F A') ∧ mQ [] [10, 11, 12] m F A F A' ∧ pRo m i A A' := by
  rw [rX9_termsTold N (d + 4)]
  unfold bX9_termsTold jX9_termsTold_11 jX9_termsTold_25
  rw [mq_is hP, mq_is hP, mp_wr21 hP, hw_in hi (by omega), cond_true, hw_bdA, mq_is hP, hw_fI, hw_fI, hw_cl (by omega), if_neg (by rw [hF.1]; exact hF.ne), mq_is hP, mq_is hP, mp_wr22 hP, hw_in hi (by omega), cond_true, hw_bdA, mq_is hP, hw_fI, if_neg (by rw [hF.1]; exact hF.ne), mq_is hP, mq_is hP, mp_wr23 hP, hw_in hi (by omega), cond_true, hw_bdA]
  exact ⟨_, rfl, (((mQ.refl _ _ _ _ _).aR (k := 10) rfl (by omega)).aR (k := 11) rfl (by omega)).aR (k := 12) rfl (by omega), (((pRo.refl m i A).up (k := 10)).up (k := 11)).up (k := 12)⟩
/-- what an act leaves in row i -/
def pAc (F A : Nat → Nat → Int32) (m : Nat) (tk : Nat → tK) (e t i : Nat) (c0 : xC) (r : xR xL) : Prop := match r with
  | .inl a => pF F m tk a.1 a.2
  | .inr a => pT F A m tk e a.2 ∧ t ≤ a.2 ∧ pCd F A m a.2 (c0 ++ a.1.2.2.1 ++ a.1.2.2.2) ∧ A (m + 8) i = nI a.1.1 ∧ a.1.1 ≤ 5 ∧ (a.1.1 < 3 → A (m + 10) i = nI c0.length ∧ A (m + 11) i = nI (c0 ++ a.1.2.2.1).length ∧ A (m + 12) i = nI (c0 ++ a.1.2.2.1 ++ a.1.2.2.2).length)
theorem p_actToldF (hP : mSp h m) (hF : pF F m tk n t) (N d : Nat) (v : Int32) : ix_run iy_P N (d + 6) 259 [ix_R (some m), ix_I v] (hw h F A) = some (.inl none, hw h F A) := by
  rw [rX9_actTold N (d + 5)]
  unfold bX9_actTold jX9_actTold_13
  rw [mq_isr hP, hw_cI (p_isF hP hF N (d + 4) _)]
  dsimp only
  rw [if_pos rfl, mq_isr hP, hw_cI (p_isF hP hF N (d + 4) _)]
  dsimp only
  rw [if_pos rfl, mq_isr hP, hw_cV (p_failF hP hF N (d + 4) _), mq_is hP, hw_fI, if_neg (by rw [hF.1]; exact hF.nle)]
theorem p_act28 (hP : mSp h m) (hN : 1000 ≤ N) (hT : pT F A m tk e t) {c0 : xC} (hc : pCd F A m t c0) (hi : i < 210) (two : Bool) (sort : Nat) (hd : Int32) (hs : sort = if two = true then 0 else 1) (d : Nat) (K : ix_K) : ∃ F' A', jX9_actTold_28 (ix_run iy_P N (d + 5)) K m (nI i) (if two = true then nI 1 else nI 0) (ix_fR (hw h F A) m 19) (nI i) (nI sort) (hw h F A) = some (.inl none, hw h F' A') ∧ mQ [11, 12, 13, 14, 27, 31] [8, 10, 11, 12, 15, 16, 17] m F A F' A' ∧ pRo m i A A' ∧ pAc F' A' m tk e t i c0 (x_bd (x_terms tk two t) fun a t' => .inr ((sort, hd, a.1, a.2), t')) := by
  unfold jX9_actTold_28
  have q0 : mQ [] [8] m F A F (hw_R A (m + 8) (hw_U (A (m + 8)) i (nI sort))) := (mQ.refl _ _ _ _ _).aR (k := 8) rfl (by omega)
  obtain ⟨F1, A1, e1, q1, r1, f1⟩ := p_termsTold hP hN (hT.of q0 rfl rfl) (hc.of q0 (Nat.le_refl t) rfl rfl) hi two d
  rw [mp_wr19 hP, hw_in hi (by omega), cond_true, hw_bdA, hw_cl (by omega), mq_isr hP, hw_cV e1]
  refine ⟨F1, A1, rfl, (q0.mono rfl rfl).trans (q1.mono rfl rfl), ((pRo.refl m i A).up (k := 8)).trans r1, ?_⟩
  have a8 : A1 (m + 8) i = nI sort := by rw [q1.2.2.1 8 rfl, hw_R_same, hw_U_same]
  generalize x_terms tk two t = r at f1 ⊢
  cases r with
  | inl a => exact f1
  | inr a =>
    obtain ⟨g1, g2, g3, g4, g5, g6⟩ := f1
    exact ⟨g1, g2, g3, a8, by show sort ≤ 5; rw [hs]; split <;> omega, fun _ => ⟨g4, g5, g6⟩⟩
theorem p_actTold (hP : mSp h m) (hN : 1000 ≤ N) (hT : pT F A m tk e t) {c0 : xC} (hc : pCd F A m t c0) (hi : i < 210) (hd : Int32) (d : Nat) : ∃ F' A', ix_run iy_P N (d + 6) 259 [ix_R (some m), ix_I (nI i)] (hw h F A) = some (.inl none, hw h F' A') ∧ mQ [11, 12, 13, 14, 27, 31] [8, 10, 11, 12, 15, 16, 17] m F A F' A' ∧ pRo m i A A' ∧ pAc F' A' m tk e (t + 1) i c0 (x_act tk hd t) := by
  have act : ∀ (two : Bool) (sort : Nat), sort = (if two = true then 0 else 1) → x_kd tk t ≠ 0 → ∃ F' A', jX9_actTold_13 (ix_run iy_P N (d + 5)) (ix_lp (ix_run iy_P N (d + 5)) stX9_actTold N) m (nI i) (if two = true then nI 1 else nI 0) (hw h F A) = some (.inl none, hw h F' A') ∧ mQ [11, 12, 13, 14, 27, 31] [8, 10, 11, 12, 15, 16, 17] m F A F' A' ∧ pRo m i A A' ∧ pAc F' A' m tk e (t + 1) i c0 (x_bd (x_pas t) fun _ t1 => x_bd (x_terms tk two t1) fun a t' => .inr ((sort, hd, a.1, a.2), t')) := fun two sort hs hk => by
    unfold jX9_actTold_13
    obtain ⟨F1, e1, q1, f1⟩ := p_goesOn hP hT hk N (d + 3)
    rw [mq_is hP, hw_fI, if_pos (by rw [hT.2.2.2.2]; decide), mq_isr hP, hw_cV e1, mq_is hP]
    unfold x_pas at f1 ⊢
    by_cases w4 : t = 400
    · rw [if_pos w4] at f1 ⊢
      have hF : pF F1 m tk 2 t := f1
      obtain ⟨A2, e2, q2, r2⟩ := p_termsToldF (A := hw_R A (m + 8) (hw_U (A (m + 8)) i (nI sort))) hP hF hi N d (if two = true then nI 1 else nI 0)
      have e28 : ∀ s', nI sort = s' → jX9_actTold_28 (ix_run iy_P N (d + 5)) (ix_lp (ix_run iy_P N (d + 5)) stX9_actTold N) m (nI i) (if two = true then nI 1 else nI 0) (ix_fR (hw h F1 A) m 19) (nI i) s' (hw h F1 A) = some (.inl none, hw h F1 A2) := fun s' hs' => by
        unfold jX9_actTold_28
        rw [mp_wr19 hP, hw_in hi (by omega), cond_true, hw_bdA, hw_cl (by omega), mq_isr hP, ← hs', hw_cV e2]
      refine ⟨F1, A2, ?_, (q1.mono rfl rfl).trans (((mQ.refl [11, 12, 13, 14, 27, 31] [8, 10, 11, 12, 15, 16, 17] m F1 A).aR (k := 8) rfl (by omega)).trans (q2.mono rfl rfl)), ((pRo.refl m i A).up (k := 8)).trans r2, f1⟩
      cases two with
      | true => exact (if_neg (by decide)).trans (e28 _ (by rw [hs]; rfl))
      | false => exact (if_pos rfl).trans (e28 _ (by rw [hs]; rfl))
    · rw [if_neg w4] at f1 ⊢
      obtain ⟨F2, A2, e2, q2, r2, f2⟩ := p_act28 (F := F1) (A := A) hP hN f1 (hc.of q1 (Nat.le_succ t) rfl rfl) hi two sort hd hs d (ix_lp (ix_run iy_P N (d + 5)) stX9_actTold N)
      refine ⟨F2, A2, ?_, (q1.mono rfl rfl).trans q2, r2, ?_⟩
      · rw [← e2, hs]
        cases two with
        | true => exact if_neg (by decide)
        | false => exact if_pos rfl
      · exact f2
  rw [rX9_actTold N (d + 5)]
  unfold bX9_actTold x_act
  rw [mq_isr hP, hw_cI (p_is hP hT N (d + 4) (k := 30) (by omega))]
  dsimp only
  by_cases w30 : x_kd tk t = 30
  · rw [if_pos w30, if_neg (by decide), if_pos w30]
    obtain ⟨F', A', e', q', r', f'⟩ := act true 0 rfl (by omega)
    refine ⟨F', A', e', q', r', ?_⟩
    generalize x_pas t = r at f' ⊢
    cases r with
    | inl a => exact f'
    | inr a =>
      have es : (x_bd (x_terms tk true a.2) fun a t' => .inr ((0, hd, a.1, a.2), t') : xR xL) = x_bd (x_term tk a.2) fun a t2 => x_bd (x_term tk t2) fun b t3 => .inr ((0, hd, a, b), t3) := by
        unfold x_terms
        cases x_term tk a.2 with
        | inl b => rfl
        | inr b =>
          show x_bd (x_bd (x_term tk b.2) fun b' t3 => .inr ((b.1, b'), t3)) _ = x_bd (x_term tk b.2) fun b' t3 => .inr ((0, hd, b.1, b'), t3)
          cases x_term tk b.2 <;> rfl
      have f2 : pAc F' A' m tk e (t + 1) i c0 (x_bd (x_terms tk true a.2) fun a t' => .inr ((0, hd, a.1, a.2), t')) := f'
      rw [es] at f2
      exact f2
  · rw [if_neg w30, if_pos rfl, if_neg w30, mq_isr hP, hw_cI (p_is hP hT N (d + 4) (k := 31) (by omega))]
    dsimp only
    by_cases w31 : x_kd tk t = 31
    · rw [if_pos w31, if_neg (by decide), if_pos w31]
      obtain ⟨F', A', e', q', r', f'⟩ := act false 1 rfl (by omega)
      refine ⟨F', A', e', q', r', ?_⟩
      generalize x_pas t = r at f' ⊢
      cases r with
      | inl a => exact f'
      | inr a =>
        have es : (x_bd (x_terms tk false a.2) fun a t' => .inr ((1, hd, a.1, a.2), t') : xR xL) = x_bd (x_term tk a.2) fun a t2 => .inr ((1, hd, a, []), t2) := by
          unfold x_terms
          cases x_term tk a.2 <;> rfl
        have f2 : pAc F' A' m tk e (t + 1) i c0 (x_bd (x_terms tk false a.2) fun a t' => .inr ((1, hd, a.1, a.2), t')) := f'
        rw [es] at f2
        exact f2
    · rw [if_neg w31, if_pos rfl, if_neg w31, mq_isr hP]
      obtain ⟨F', e', q, f⟩ := p_fail hP hT N (d + 4) (k := 1) (by omega) (by omega)
      rw [hw_cV e']
      unfold jX9_actTold_13
      rw [mq_is hP, hw_fI, if_neg (by rw [f.1]; exact f.nle)]
      exact ⟨F', A, rfl, q.mono rfl rfl, pRo.refl _ _ _, f⟩
end
