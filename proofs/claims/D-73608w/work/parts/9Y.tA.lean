/-! TA: the reference: a tell that is no rounds -/
set_option maxRecDepth 100000
section
variable {h : ix_H} {m : Nat} {F A : Nat → Nat → Int32} {tk : Nat → tK} {e t n o N d i : Nat}
abbrev pQ1 (m : Nat) (F A F' A' : Nat → Nat → Int32) : Prop := mQ [11, 12, 13, 14, 15, 16, 18, 27, 31] [8, 9, 10, 11, 12, 15, 16, 17] m F A F' A'
theorem mp_wr20x (hS : mSp h m) (F A F0 A0 : Nat → Nat → Int32) (i : Int32) (f : Nat → ix_O) : (ix_at (hw h F A) 101 (ix_fR (hw h F0 A0) m 20) i).bind f = cond (ix_in i 210) (f (m + 9)) none := mp_wr20 hS F A i f
theorem p_157F (hP : mSp h m) (hF : pF F m tk n t) (N d : Nat) (K : ix_K) : ∃ F', jX9_tellOne_157 (ix_run iy_P N (d + 3)) K m (hw h F A) = some (.inl none, hw h F' A) ∧ mQ [18] [] m F A F' A := by
  unfold jX9_tellOne_157
  rw [mq_isr hP, hw_cV (p_mustF hP hF N d _), mq_is hP, mq_is hP, hw_bdF]
  exact ⟨_, rfl, (mQ.refl _ _ _ _ _).fR rfl⟩
theorem x_must_t {k : Nat} {a : Unit × Nat} (hx : x_must tk k t = .inr a) : a.2 = t + 1 := by
  unfold x_must x_pas at hx
  split at hx
  · split at hx
    · cases hx
    · cases hx
      rfl
  · cases hx
theorem p_157 (hP : mSp h m) (hT : pT F A m tk e t) (h18 : F m 18 = nI i) (N d : Nat) (K : ix_K) : ∃ F', jX9_tellOne_157 (ix_run iy_P N (d + 3)) K m (hw h F A) = some (.inl none, hw h F' A) ∧ mQ [11, 13, 14, 18] [] m F A F' A ∧ F' m 18 = nI (i + 1) ∧ pU F' A m tk e (x_must tk 4 t) := by
  unfold jX9_tellOne_157
  obtain ⟨F1, e1, q1, f1⟩ := p_must hP hT N d (k := 4) (by omega) (by omega)
  rw [mq_isr hP, hw_cV e1, mq_is hP, mq_is hP, hw_bdF, hw_fI, q1.2.1 18 rfl, h18, nI_add]
  have q2 : mQ [18] [] m F1 A (hw_R F1 m (hw_U (F1 m) 18 (nI (i + 1)))) A := (mQ.refl _ _ _ _ _).fR rfl
  refine ⟨_, rfl, (q1.mono rfl rfl).trans (q2.mono rfl rfl), by rw [hw_R_same, hw_U_same], ?_⟩
  generalize x_must tk 4 t = r at f1 ⊢
  cases r with
  | inl a => exact f1.of q2 rfl
  | inr a => exact pT.of f1 q2 rfl rfl
/-- what stands before a tell's semicolon -/
def pOne (F A : Nat → Nat → Int32) (m : Nat) (tk : Nat → tK) (e t i : Nat) (c : xC) (r : xR (xL × Option Nat)) : Prop := match r with
  | .inl a => pF F m tk a.1 a.2
  | .inr a => pT F A m tk e a.2 ∧ t ≤ a.2 ∧ pCd F A m a.2 (c ++ a.1.1.2.2.1 ++ a.1.1.2.2.2) ∧ pW F m tk a.2 a.1.2 ∧ A (m + 8) i = nI a.1.1.1 ∧ a.1.1.1 ≤ 5 ∧ A (m + 9) i = a.1.1.2.1 ∧ (a.1.1.1 < 3 → A (m + 10) i = nI c.length ∧ A (m + 11) i = nI (c ++ a.1.1.2.2.1).length ∧ A (m + 12) i = nI (c ++ a.1.1.2.2.1 ++ a.1.1.2.2.2).length)
theorem p_fin (hP : mSp h m) {F1 A1 : Nat → Nat → Int32} {c : xC} {r : xR (xL × Option Nat)} (q : pQ1 m F A F1 A1) (hr : pRo m i A A1) (h18 : F m 18 = nI i) (q18 : F1 m 18 = F m 18) (f : pOne F1 A1 m tk e (t + 1) i c r) (N d : Nat) (K : ix_K) : ∃ F' A', jX9_tellOne_157 (ix_run iy_P N (d + 3)) K m (hw h F1 A1) = some (.inl none, hw h F' A') ∧ pQ1 m F A F' A' ∧ pRo m i A A' ∧ match (x_bd r fun l t1 => x_bd (x_must tk 4 t1) fun _ t2 => .inr (l, t2) : xR (xL × Option Nat)) with
    | .inl a => pF F' m tk a.1 a.2
    | .inr a => F' m 18 = nI (i + 1) ∧ pOne F' A' m tk e (t + 2) i c (.inr a) := by
  cases r with
  | inl a =>
    obtain ⟨F2, e2, q2⟩ := p_157F (A := A1) hP f N d K
    exact ⟨F2, A1, e2, q.trans (q2.mono rfl rfl), hr, pF.of f q2 rfl⟩
  | inr a =>
    obtain ⟨⟨l, w⟩, t1⟩ := a
    obtain ⟨T1, tl, C1, W1, r1, r2, r3, r4⟩ := f
    obtain ⟨F2, e2, q2, g18, f2⟩ := p_157 hP T1 (by rw [q18, h18]) N d K
    refine ⟨F2, A1, e2, q.trans (q2.mono rfl rfl), hr, ?_⟩
    dsimp only at tl C1 W1 T1 f2
    show match (x_bd (x_must tk 4 t1) fun _ t2 => .inr ((l, w), t2) : xR (xL × Option Nat)) with
      | .inl a => pF F2 m tk a.1 a.2
      | .inr a => F2 m 18 = nI (i + 1) ∧ pOne F2 A1 m tk e (t + 2) i c (.inr a)
    have ht := @x_must_t tk t1 4
    generalize x_must tk 4 t1 = r at f2 ht ⊢
    cases r with
    | inl b => exact f2
    | inr b =>
      obtain ⟨b0, t2⟩ := b
      obtain rfl : t2 = t1 + 1 := ht rfl
      exact ⟨g18, f2, by show t + 2 ≤ t1 + 1; omega, C1.of q2 (Nat.le_succ _) rfl rfl, W1.of q2 (Nat.le_succ _) rfl, r1, r2, r3, r4⟩
theorem p_act_of {F1 A1 : Nat → Nat → Int32} {t1 : Nat} {c : xC} {w : Option Nat} {r : xR xL} {hd : Int32} {X Y : List Nat} (f : pAc F1 A1 m tk e t1 i c r) (hW : pW F m tk t1 w) (q : mQ X Y m F A F1 A1) (hx : (X.contains 15 || X.contains 16) = false) (h9 : ∀ a, r = .inr a → a.1.2.1 = hd) (r9 : A1 (m + 9) i = hd) : pOne F1 A1 m tk e t1 i c (x_bd r fun l t3 => .inr ((l, w), t3)) := by
  cases r with
  | inl a => exact f
  | inr a =>
    obtain ⟨g1, g2, g3, g4, g5, g6⟩ := f
    exact ⟨g1, g2, g3, hW.of q g2 hx, g4, g5, by rw [r9]; exact (h9 a rfl).symm, g6⟩
theorem x_act_hd {hd : Int32} (a : xL × Nat) (hx : x_act tk hd t = .inr a) : a.1.2.1 = hd := by
  unfold x_act at hx
  split at hx
  · generalize x_pas t = r at hx
    cases r with
    | inl b => cases hx
    | inr b =>
      change x_bd (x_term tk b.2) _ = _ at hx
      generalize x_term tk b.2 = r at hx
      cases r with
      | inl b => cases hx
      | inr b' =>
        change x_bd (x_term tk b'.2) _ = _ at hx
        generalize x_term tk b'.2 = r at hx
        cases r with
        | inl b => cases hx
        | inr b => cases hx; rfl
  · split at hx
    · generalize x_pas t = r at hx
      cases r with
      | inl b => cases hx
      | inr b =>
        change x_bd (x_term tk b.2) _ = _ at hx
        generalize x_term tk b.2 = r at hx
        cases r with
        | inl b => cases hx
        | inr b' => cases hx; rfl
    · cases hx
end
