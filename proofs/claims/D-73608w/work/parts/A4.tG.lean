/-! TG: the reference: what a term comes to -/
set_option maxRecDepth 100000
def yP (a : Nat → Int32) : List Int32 → Prop
  | [] => True
  | x :: r => a r.length = x ∧ yP a r
theorem yP.up {a : Nat → Int32} {k : Nat} {v : Int32} : ∀ {V : List Int32}, yP a V → V.length ≤ k → yP (hw_U a k v) V
  | [], _, _ => trivial
  | x :: r, h, hk => ⟨by rw [hw_U_ne _ _ (by simp only [List.length_cons] at hk; omega)]; exact h.1, yP.up h.2 (by simp only [List.length_cons] at hk; omega)⟩
def r_vr (σ : xG) (v : Int32) : Int32 := if v = nI 0 then σ.2.2.getD 0 (nI 0) else if v = nI 1 then σ.2.2.getD 1 (nI 0) else if v = nI 2 then nI (z_all σ.1).length else if v = nI 3 then σ.2.1 else if v = nI 4 then nI (zn σ.1) else z_lost σ.1
theorem r_ev_len (σ : xG) : ∀ (c : xC) (s : List Int32) k, x_dp c s.length = some k → (r_ev σ c s).length = k
  | [], s, k, h => by cases h; rfl
  | (0, v) :: r, s, k, h => r_ev_len σ r (v :: s) k h
  | (1, v) :: r, s, k, h => r_ev_len σ r (r_vr σ v :: s) k h
  | (q + 2, v) :: r, s, k, h => by
    have h' : (if q + 2 < 2 then x_dp r (s.length + 1) else if 2 ≤ s.length then x_dp r (s.length - 1) else none) = some k := h
    rw [if_neg (by omega)] at h'
    split at h'
    · next w =>
      match s, w, h' with
      | b :: a :: s', _, h' => exact r_ev_len σ r (_ :: s') k h'
    · cases h'
section
variable {h : ix_H} {m : Nat} {F A : Nat → Nat → Int32} {N d : Nat}
theorem m_termOf_l (hP : mSp h m) (cal : ix_C) (σ : xG) {to : Nat} (ht : to ≤ 420) : ∀ (r : xC) (s : List Int32) z i (A : Nat → Nat → Int32) k, (∀ j, j < 6 → A (m + 18) j = r_vr σ (nI j)) → (∀ q (hq : q < r.length), A (m + 15) (i + q) = nI (r[q]).1 ∧ A (m + 16) (i + q) = (r[q]).2) → i + r.length = to → x_dp r s.length = some k → (∀ p ∈ r, p.1 ≤ 6 ∧ (p.1 = 1 → ∃ j, j < 6 ∧ p.2 = nI j)) → yP (A (m + 19)) s → s.length + r.length ≤ 400 → r.length < z →
    ∃ A', ix_lp cal stX9_termOf z 4 [(0, ix_R (some m)), (2, ix_I (nI to)), (3, ix_I (nI s.length)), (4, ix_I (nI i))] [] (hw h F A) = some (.inl (some (ix_I (A' (m + 19) 0))), hw h F A') ∧ mQ [] [19] m F A F A' ∧ yP (A' (m + 19)) (r_ev σ r s) := by
  intro r
  induction r with
  | nil =>
    intro s z i A k hv hc hi hd hk hp hl hz
    obtain ⟨z, rfl⟩ : ∃ y, z = y + 1 := ⟨z - 1, by simp only [List.length_nil] at hz; omega⟩
    rw [lX9_termOf_4]
    unfold jX9_termOf_4
    simp only [List.length_nil] at hi
    rw [if_pos (by rw [hw_le (by omega) (by omega)]; omega), mq_is hP, mp_rd33 hP, hw_in (by omega) (by omega), cond_true, hw_cl (by omega), hw_aI]
    exact ⟨A, rfl, mQ.refl _ _ _ _ _, hp⟩
  | cons p r ih =>
    intro s z i A k hv hc hi hd hk hp hl hz
    obtain ⟨kd, v⟩ := p
    obtain ⟨z, rfl⟩ : ∃ y, z = y + 1 := ⟨z - 1, by simp only [List.length_cons] at hz; omega⟩
    simp only [List.length_cons] at hi hl hz
    obtain ⟨c1, c2⟩ := hc 0 (Nat.succ_pos _)
    have c1' : A (m + 15) i = nI kd := c1
    have c2' : A (m + 16) i = v := c2
    obtain ⟨k6, kv⟩ := hk (kd, v) List.mem_cons_self
    dsimp only at k6 kv
    rw [lX9_termOf_4]
    unfold jX9_termOf_4
    rw [if_neg (by rw [hw_le (by omega) (by omega)]; omega), mq_is hP, mp_rd28 hP, hw_in (by omega) (by omega), cond_true, hw_aI, hw_cl (by omega), c1']
    -- what comes behind
    have next : ∀ (A1 : Nat → Nat → Int32) (s1 : List Int32), mQ [] [19] m F A F A1 → yP (A1 (m + 19)) s1 → s1.length ≤ s.length + 1 → x_dp r s1.length = some k → ∃ A', ix_lp cal stX9_termOf z 4 [(0, ix_R (some m)), (2, ix_I (nI to)), (3, ix_I (nI s1.length)), (4, ix_I (nI (i + 1)))] [] (hw h F A1) = some (.inl (some (ix_I (A' (m + 19) 0))), hw h F A') ∧ mQ [] [19] m F A F A' ∧ yP (A' (m + 19)) (r_ev σ r s1) := fun A1 s1 q1 p1 l1 d1 => by
      obtain ⟨A', e', q', p'⟩ := ih s1 z (i + 1) A1 k (fun j hj => by rw [q1.2.2.1 18 rfl]; exact hv j hj) (fun q hq => by
        rw [q1.2.2.1 15 rfl, q1.2.2.1 16 rfl, show i + 1 + q = i + (q + 1) by omega]
        exact hc (q + 1) (Nat.succ_lt_succ hq)) (by omega) d1 (fun p hp => hk p (List.mem_cons_of_mem _ hp)) p1 (by omega) (by omega)
      exact ⟨A', e', q1.trans q', p'⟩
    have qw : ∀ j v, mQ [] [19] m F A F (hw_R A (m + 19) (hw_U (A (m + 19)) j v)) := fun j v => (mQ.refl _ _ _ _ _).aR (k := 19) rfl (by omega)
    match kd, k6, kv, hd with
    | 0, _, _, hd =>
      rw [if_neg (by decide), mq_is hP, if_pos rfl, mq_is hP, mp_rd29 hP, hw_in (by omega) (by omega), cond_true, c2']
      unfold jX9_termOf_33 jX9_termOf_99
      rw [mp_wr33 hP, hw_in (by omega) (by omega), cond_true, hw_bdA, nI_add, nI_add, hw_cl (by omega)]
      exact next _ (v :: s) (qw _ _) ⟨by rw [hw_R_same, hw_U_same], by rw [hw_R_same]; exact hp.up (Nat.le_refl _)⟩ (Nat.le_refl _) hd
    | 1, _, kv, hd =>
      obtain ⟨j, hj, rfl⟩ := kv rfl
      rw [if_neg (by decide), mq_is hP, if_neg (by decide), mq_is hP, mq_is hP, mp_rd29 hP, hw_in (by omega) (by omega), cond_true, c2', mp_rd32 hP, hw_in hj (by omega), cond_true, hw_cl (by omega), hv j hj]
      unfold jX9_termOf_33 jX9_termOf_99
      rw [mp_wr33 hP, hw_in (by omega) (by omega), cond_true, hw_bdA, nI_add, nI_add, hw_cl (by omega)]
      exact next _ (r_vr σ (nI j) :: s) (qw _ _) ⟨by rw [hw_R_same, hw_U_same], by rw [hw_R_same]; exact hp.up (Nat.le_refl _)⟩ (Nat.le_refl _) hd
    | kd + 2, k6, _, hd =>
      have hd' : (if kd + 2 < 2 then x_dp r (s.length + 1) else if 2 ≤ s.length then x_dp r (s.length - 1) else none) = some k := hd
      rw [if_neg (by omega)] at hd'
      split at hd'
      · next w2 =>
        match s, w2, hd', hp, hl, next with
        | b :: a :: s', _, hd', hp, hl, next =>
          obtain ⟨p1, p2, p3⟩ : A (m + 19) (s'.length + 1) = b ∧ A (m + 19) s'.length = a ∧ yP (A (m + 19)) s' := hp
          simp only [List.length_cons] at hl hd' next ⊢
          rw [if_pos (by rw [hw_le (by omega) (by omega)]; omega), show nI (s'.length + 1 + 1) + (-1 : Int32) = nI (s'.length + 1) from hw_dec _, hw_sub (by omega), Nat.add_sub_cancel, mq_is hP, mp_rd33 hP, hw_in (by omega) (by omega), cond_true, mq_is hP, mp_rd33 hP, hw_in (by omega) (by omega), cond_true, hw_cl (show s'.length < 2147483648 by omega), hw_cl (show s'.length + 1 < 2147483648 by omega), p1, p2]
          have nx : ∀ v, ∃ A', ix_lp cal stX9_termOf z 4 [(0, ix_R (some m)), (2, ix_I (nI to)), (3, ix_I (nI (s'.length + 1))), (4, ix_I (nI (i + 1)))] [] (hw h F (hw_R A (m + 19) (hw_U (A (m + 19)) s'.length v))) = some (.inl (some (ix_I (A' (m + 19) 0))), hw h F A') ∧ mQ [] [19] m F A F A' ∧ yP (A' (m + 19)) (r_ev σ r (v :: s')) := fun v => next _ (v :: s') (qw _ _) ⟨by rw [hw_R_same, hw_U_same], by rw [hw_R_same]; exact p3.up (Nat.le_refl _)⟩ (by simp only [List.length_cons]; omega) hd'
          have ev : r_ev σ ((kd + 2, v) :: r) (b :: a :: s') = r_ev σ r ((if kd + 2 = 2 then a + b else if kd + 2 = 3 then a - b else if kd + 2 = 4 then a * b else if b = nI 0 then nI 0 else if kd + 2 = 5 then a / b else a % b) :: s') := rfl
          rw [ev]
          match kd, k6 with
          | 0, _ =>
            rw [if_pos (by decide), mq_is hP, if_pos rfl]
            unfold jX9_termOf_97 jX9_termOf_99
            rw [mp_wr33 hP, hw_in (by omega) (by omega), cond_true, hw_bdA, nI_add, hw_cl (show s'.length < 2147483648 by omega)]
            exact nx _
          | 1, _ =>
            rw [if_pos (by decide), mq_is hP, if_neg (by decide), if_pos rfl]
            unfold jX9_termOf_97 jX9_termOf_99
            rw [mp_wr33 hP, hw_in (by omega) (by omega), cond_true, hw_bdA, nI_add, hw_cl (show s'.length < 2147483648 by omega)]
            exact nx _
          | 2, _ =>
            rw [if_pos (by decide), mq_is hP, if_neg (by decide), if_neg (by decide)]
            unfold jX9_termOf_97 jX9_termOf_99
            rw [mp_wr33 hP, hw_in (by omega) (by omega), cond_true, hw_bdA, nI_add, hw_cl (show s'.length < 2147483648 by omega)]
            exact nx _
          | 3, _ =>
            rw [if_neg (by decide), mq_is hP]
            by_cases w0 : b = nI 0
            · rw [if_pos w0]
              unfold jX9_termOf_72 jX9_termOf_99
              rw [mp_wr33 hP, hw_in (by omega) (by omega), cond_true, hw_bdA, nI_add, hw_cl (show s'.length < 2147483648 by omega)]
              simp only [if_pos w0]
              exact nx _
            · rw [if_neg w0, if_pos rfl, if_neg w0]
              unfold jX9_termOf_72 jX9_termOf_99
              rw [mp_wr33 hP, hw_in (by omega) (by omega), cond_true, hw_bdA, nI_add, hw_cl (show s'.length < 2147483648 by omega)]
              simp only [if_neg w0]
              exact nx _
          | 4, _ =>
            rw [if_neg (by decide), mq_is hP]
            by_cases w0 : b = nI 0
            · rw [if_pos w0]
              unfold jX9_termOf_72 jX9_termOf_99
              rw [mp_wr33 hP, hw_in (by omega) (by omega), cond_true, hw_bdA, nI_add, hw_cl (show s'.length < 2147483648 by omega)]
              simp only [if_pos w0]
              exact nx _
            · rw [if_neg w0, if_neg (by decide), if_neg w0, r_rem]
              unfold jX9_termOf_72 jX9_termOf_99
              rw [mp_wr33 hP, hw_in (by omega) (by omega), cond_true, hw_bdA, nI_add, hw_cl (show s'.length < 2147483648 by omega)]
              simp only [if_neg w0]
              exact nx _
      · cases hd'
theorem m_termOf (hP : mSp h m) (hN : 1000 ≤ N) (d : Nat) (σ : xG) {c1 c c2 : xC} (hv : ∀ j, j < 6 → A (m + 18) j = r_vr σ (nI j)) (hC : pC A m (c1 ++ c ++ c2)) (hl : (c1 ++ c ++ c2).length ≤ 400) (hc : x_ok c) : ∃ A', ix_run iy_P N (d + 1) 278 [ix_R (some m), ix_I (nI c1.length), ix_I (nI (c1 ++ c).length)] (hw h F A) = some (.inl (some (ix_I (r_val σ c))), hw h F A') ∧ mQ [] [19] m F A F A' := by
  rw [rX9_termOf N d]
  unfold bX9_termOf
  rw [← lX9_termOf_4]
  rw [List.length_append] at hl
  have hl1 : (c1 ++ c).length = c1.length + c.length := List.length_append
  obtain ⟨A', e', q', p'⟩ := m_termOf_l (F := F) (to := (c1 ++ c).length) hP (ix_run iy_P N d) σ (by omega) c [] (N + 1) c1.length A 1 hv (fun q hq => by
    have := hC (c1.length + q) (by rw [List.length_append]; omega)
    have e : (c1 ++ c ++ c2)[c1.length + q]'(by rw [List.length_append]; omega) = c[q] := by
      rw [List.getElem_append_left (by omega), List.getElem_append_right (by omega)]
      simp only [Nat.add_sub_cancel_left]
    rw [e] at this
    exact this) hl1.symm (hc.1 0) hc.2 trivial (by simp only [List.length_nil]; omega) (by omega)
  have len := r_ev_len σ c [] 1 (hc.1 0)
  refine ⟨A', ?_, q'⟩
  rw [show (nI 0 : Int32) = nI ([] : List Int32).length from rfl, e']
  unfold r_val
  generalize r_ev σ c [] = l at len p' ⊢
  match l, len with
  | [x], _ =>
    rw [show A' (m + 19) 0 = x from p'.1]
    rfl
end
