/-! T4: the reference: the parser's small methods -/
set_option maxRecDepth 100000
/-- the tokens (e the last) lie in the arrays -/
def pK (A : Nat → Nat → Int32) (m : Nat) (tk : Nat → tK) (e : Nat) : Prop := x_kd tk e = 0 ∧ (∀ i j, i ≤ j → j ≤ e → (tk i).2.1 ≤ (tk j).2.1) ∧ ∀ i, i ≤ e → i ≤ 400 → x_kd tk i ≤ 37 ∧ (tk i).2.1 ≤ 2000 ∧ A (m + 3) i = nI (x_kd tk i) ∧ A (m + 4) i = nI (tk i).2.1 ∧ A (m + 5) i = (tk i).2.2.2
def pT (F A : Nat → Nat → Int32) (m : Nat) (tk : Nat → tK) (e t : Nat) : Prop := pK A m tk e ∧ t ≤ e ∧ t ≤ 400 ∧ F m 11 = nI t ∧ F m 13 = nI 0
def pF (F : Nat → Nat → Int32) (m : Nat) (tk : Nat → tK) (n t : Nat) : Prop := F m 13 = nI n ∧ 0 < n ∧ n < 10 ∧ F m 14 = nI (tk t).2.1
def pU (F A : Nat → Nat → Int32) (m : Nat) (tk : Nat → tK) (e : Nat) (r : xR Unit) : Prop := match r with
  | .inl a => pF F m tk a.1 a.2
  | .inr a => pT F A m tk e a.2
/-- the first number out of range -/
def pW (F : Nat → Nat → Int32) (m : Nat) (tk : Nat → tK) (t : Nat) (w : Option Nat) : Prop := match w with
  | none => F m 15 = nI 0
  | some x => x ≤ t ∧ F m 15 = nI 5 ∧ F m 16 = nI (tk x).2.1
theorem pK.of {A A' : Nat → Nat → Int32} {m e : Nat} {tk : Nat → tK} (h : pK A m tk e) (e3 : A' (m + 3) = A (m + 3)) (e4 : A' (m + 4) = A (m + 4)) (e5 : A' (m + 5) = A (m + 5)) : pK A' m tk e := ⟨h.1, h.2.1, fun i hi h4 => by rw [e3, e4, e5]; exact h.2.2 i hi h4⟩
theorem pT.of {F A F' A' : Nat → Nat → Int32} {m e t : Nat} {tk : Nat → tK} {X Y : List Nat} (h : pT F A m tk e t) (q : mQ X Y m F A F' A') (hx : (X.contains 11 || X.contains 13) = false) (hy : (Y.contains 3 || (Y.contains 4 || Y.contains 5)) = false) : pT F' A' m tk e t := by
  rw [Bool.or_eq_false_iff] at hx
  rw [Bool.or_eq_false_iff, Bool.or_eq_false_iff] at hy
  exact ⟨h.1.of (q.2.2.1 3 hy.1) (q.2.2.1 4 hy.2.1) (q.2.2.1 5 hy.2.2), h.2.1, h.2.2.1, by rw [q.2.1 11 hx.1]; exact h.2.2.2.1, by rw [q.2.1 13 hx.2]; exact h.2.2.2.2⟩
theorem pF.of {F A F' A' : Nat → Nat → Int32} {m n t : Nat} {tk : Nat → tK} {X Y : List Nat} (h : pF F m tk n t) (q : mQ X Y m F A F' A') (hx : (X.contains 13 || X.contains 14) = false) : pF F' m tk n t := by
  rw [Bool.or_eq_false_iff] at hx
  exact ⟨by rw [q.2.1 13 hx.1]; exact h.1, h.2.1, h.2.2.1, by rw [q.2.1 14 hx.2]; exact h.2.2.2⟩
theorem pW.of {F A F' A' : Nat → Nat → Int32} {m t t' : Nat} {tk : Nat → tK} {w : Option Nat} {X Y : List Nat} (h : pW F m tk t w) (q : mQ X Y m F A F' A') (ht : t ≤ t') (hx : (X.contains 15 || X.contains 16) = false) : pW F' m tk t' w := by
  rw [Bool.or_eq_false_iff] at hx
  cases w with
  | none => show F' m 15 = nI 0; rw [q.2.1 15 hx.1]; exact h
  | some x => exact ⟨Nat.le_trans h.1 ht, by rw [q.2.1 15 hx.1]; exact h.2.1, by rw [q.2.1 16 hx.2]; exact h.2.2⟩
section
variable {h : ix_H} {m : Nat} {F A : Nat → Nat → Int32} {tk : Nat → tK} {e t n : Nat}
theorem pT.lt (hT : pT F A m tk e t) (hk : x_kd tk t ≠ 0) : t < e := by
  rcases Nat.lt_or_ge t e with w | w
  · exact w
  · exact absurd hT.1.1 (by rw [show e = t from Nat.le_antisymm w hT.2.1]; exact hk)
theorem p_is (hP : mSp h m) (hT : pT F A m tk e t) (N d : Nat) {k : Nat} (hk : k < 100) : ix_run iy_P N (d + 1) 251 [ix_R (some m), ix_I (nI k)] (hw h F A) = some (.inl (some (ix_I (if x_kd tk t = k then nI 1 else nI 0))), hw h F A) := by
  obtain ⟨⟨-, -, hk'⟩, te, t4, f11, f13⟩ := hT
  obtain ⟨k37, -, a3, -⟩ := hk' t te t4
  rw [rX9_is N d]
  unfold bX9_is jX9_is_12 jX9_is_14
  rw [mq_is hP, hw_fI, f13, if_pos rfl, mq_is hP, mq_is hP, mp_rd5 hP, f11, hw_in (by omega) (by omega), cond_true, hw_aI, hw_cl (by omega), a3]
  by_cases w : x_kd tk t = k
  · rw [w, if_pos rfl, if_pos rfl, hw_okn1_1, cond_true]
  · rw [if_neg (by rw [hw_eq (by omega) (by omega)]; exact w), if_neg w, hw_okn1_0, cond_true]
theorem pF.ne (hF : pF F m tk n t) : nI n ≠ nI 0 := by
  obtain ⟨-, h0, h9, -⟩ := hF
  rw [Ne, hw_eq (by omega) (by omega)]
  omega
theorem pF.nle (hF : pF F m tk n t) : ¬ nI n ≤ nI 0 := by
  obtain ⟨-, h0, h9, -⟩ := hF
  rw [hw_le (by omega) (by omega)]
  omega
theorem pF.pos (hF : pF F m tk n t) : nI 0 < nI n := by
  obtain ⟨-, h0, h9, -⟩ := hF
  rw [hw_lt (by omega) (by omega)]
  exact h0
theorem p_isF (hP : mSp h m) (hF : pF F m tk n t) (N d : Nat) (k : Int32) : ix_run iy_P N (d + 1) 251 [ix_R (some m), ix_I k] (hw h F A) = some (.inl (some (ix_I (nI 0))), hw h F A) := by
  rw [rX9_is N d]
  unfold bX9_is jX9_is_12 jX9_is_14
  rw [mq_is hP, hw_fI, hF.1, if_neg hF.ne, hw_okn1_0, cond_true]
theorem p_fail (hP : mSp h m) (hT : pT F A m tk e t) (N d : Nat) {k : Nat} (h0 : 0 < k) (hk : k < 10) : ∃ F', ix_run iy_P N (d + 1) 253 [ix_R (some m), ix_I (nI k)] (hw h F A) = some (.inl none, hw h F' A) ∧ mQ [13, 14] [] m F A F' A ∧ pF F' m tk k t := by
  obtain ⟨⟨-, -, hk'⟩, te, t4, f11, f13⟩ := hT
  obtain ⟨-, -, -, a4, -⟩ := hk' t te t4
  rw [rX9_fail N d]
  unfold bX9_fail
  rw [mq_is hP, hw_fI, f13, if_pos (by decide), mq_is hP, hw_bdF, mq_is hP, mq_is hP, mp_rd6 hP, hw_fI, hw_R_same, hw_U_ne _ _ (by omega), f11, hw_in (by omega) (by omega), cond_true, mq_is hP, hw_aI, hw_cl (by omega), a4, hw_bdF]
  exact ⟨_, rfl, ((mQ.refl _ _ _ _ _).fR rfl).fR rfl, by rw [hw_R_same, hw_U_ne _ _ (by omega), hw_R_same, hw_U_same], h0, hk, by rw [hw_R_same, hw_U_same]⟩
theorem p_failF (hP : mSp h m) (hF : pF F m tk n t) (N d : Nat) (k : Int32) : ix_run iy_P N (d + 1) 253 [ix_R (some m), ix_I k] (hw h F A) = some (.inl none, hw h F A) := by
  rw [rX9_fail N d]
  unfold bX9_fail
  rw [mq_is hP, hw_fI, hF.1, if_neg hF.nle]
theorem p_goesOn (hP : mSp h m) (hT : pT F A m tk e t) (hk : x_kd tk t ≠ 0) (N d : Nat) : ∃ F', ix_run iy_P N (d + 2) 252 [ix_R (some m)] (hw h F A) = some (.inl none, hw h F' A) ∧ mQ [11, 13, 14] [] m F A F' A ∧ pU F' A m tk e (x_pas t) := by
  have hlt := hT.lt hk
  have hT' := hT
  obtain ⟨hK, te, t4, f11, f13⟩ := hT
  rw [rX9_goesOn N (d + 1)]
  unfold bX9_goesOn jX9_goesOn_14 x_pas
  rw [mq_is hP, hw_fI, f11]
  by_cases w : t = 400
  · rw [w, if_pos rfl, if_pos rfl, mq_isr hP]
    obtain ⟨F', e', q, f⟩ := p_fail hP hT' N d (k := 2) (by omega) (by omega)
    rw [hw_cV e']
    rw [w] at f
    exact ⟨F', rfl, q.mono rfl rfl, f⟩
  · rw [if_neg (by rw [hw_eq (by omega) (by omega)]; exact w), if_neg w, mq_is hP, mq_is hP, hw_bdF, f11, nI_add]
    exact ⟨_, rfl, (mQ.refl _ _ _ _ _).fR rfl, hK, hlt, by omega, by rw [hw_R_same, hw_U_same], by rw [hw_R_same, hw_U_ne _ _ (by omega), f13]⟩
theorem p_goesOnF (hP : mSp h m) (hF : pF F m tk n t) (N d : Nat) : ∃ F', ix_run iy_P N (d + 2) 252 [ix_R (some m)] (hw h F A) = some (.inl none, hw h F' A) ∧ mQ [11] [] m F A F' A := by
  rw [rX9_goesOn N (d + 1)]
  unfold bX9_goesOn jX9_goesOn_14
  rw [mq_is hP, hw_fI]
  by_cases w : F m 11 = nI 400
  · rw [if_pos w, mq_isr hP, hw_cV (p_failF hP hF N d _)]
    exact ⟨F, rfl, mQ.refl _ _ _ _ _⟩
  · rw [if_neg w, mq_is hP, mq_is hP, hw_bdF]
    exact ⟨_, rfl, (mQ.refl _ _ _ _ _).fR rfl⟩
theorem p_must (hP : mSp h m) (hT : pT F A m tk e t) (N d : Nat) {k : Nat} (h0 : k ≠ 0) (hk : k < 100) : ∃ F', ix_run iy_P N (d + 3) 256 [ix_R (some m), ix_I (nI k)] (hw h F A) = some (.inl none, hw h F' A) ∧ mQ [11, 13, 14] [] m F A F' A ∧ pU F' A m tk e (x_must tk k t) := by
  rw [rX9_must N (d + 2)]
  unfold bX9_must jX9_must_10 x_must
  rw [mq_isr hP, hw_cI (p_is hP hT N (d + 1) hk)]
  dsimp only
  by_cases w : x_kd tk t = k
  · rw [if_pos w, if_neg (by decide), mq_isr hP, if_pos w]
    obtain ⟨F', e', q, f⟩ := p_goesOn hP hT (by rw [w]; exact h0) N d
    rw [hw_cV e']
    exact ⟨F', rfl, q, f⟩
  · rw [if_neg w, if_pos rfl, mq_isr hP, if_neg w]
    obtain ⟨F', e', q, f⟩ := p_fail hP hT N (d + 1) (k := 1) (by omega) (by omega)
    rw [hw_cV e']
    exact ⟨F', rfl, q.mono rfl rfl, f⟩
theorem p_mustF (hP : mSp h m) (hF : pF F m tk n t) (N d : Nat) (k : Int32) : ix_run iy_P N (d + 3) 256 [ix_R (some m), ix_I k] (hw h F A) = some (.inl none, hw h F A) := by
  rw [rX9_must N (d + 2)]
  unfold bX9_must jX9_must_10
  rw [mq_isr hP, hw_cI (p_isF hP hF N (d + 1) k)]
  dsimp only
  rw [if_pos rfl, mq_isr hP, hw_cV (p_failF hP hF N (d + 1) _)]
def p_w1 (w : Option Nat) (t : Nat) : Option Nat := match w with
  | some x => some x
  | none => some t
/-- a number is kept as the first out of range -/
theorem p_wrong (hP : mSp h m) (hT : pT F A m tk e t) {w : Option Nat} (hw0 : pW F m tk t w) (N d : Nat) : ∃ F', ix_run iy_P N (d + 1) 255 [ix_R (some m), ix_I (nI 5), ix_I (nI t)] (hw h F A) = some (.inl none, hw h F' A) ∧ mQ [15, 16] [] m F A F' A ∧ pW F' m tk t (p_w1 w t) := by
  obtain ⟨⟨-, hm, hk'⟩, te, t4, f11, f13⟩ := hT
  obtain ⟨-, p2, -, a4, -⟩ := hk' t te t4
  rw [rX9_wrong N d]
  unfold bX9_wrong jX9_wrong_25 jX9_wrong_23
  rw [mq_is hP, mp_rd6 hP, hw_in (by omega) (by omega), cond_true, mq_is hP, hw_fI, f13, if_neg (by decide), mq_is hP, hw_aI, hw_cl (by omega), a4]
  cases w with
  | none =>
    have hw1 : F m 15 = nI 0 := hw0
    rw [hw1, if_pos rfl, mq_is hP, hw_bdF, mq_is hP, hw_bdF]
    exact ⟨_, rfl, ((mQ.refl _ _ _ _ _).fR rfl).fR rfl, Nat.le_refl _, by rw [hw_R_same, hw_U_ne _ _ (by omega), hw_R_same, hw_U_same], by rw [hw_R_same, hw_U_same]⟩
  | some x =>
    obtain ⟨x1, x2, x3⟩ := hw0
    have hle := hm x t x1 te
    rw [if_neg (show ¬ F m 15 = nI 0 by rw [x2]; decide), mq_is hP]
    by_cases wl : F m 16 < nI (tk t).2.1
    · rw [if_pos wl]
      exact ⟨F, rfl, mQ.refl _ _ _ _ _, x1, x2, x3⟩
    · rw [if_neg wl, mq_is hP]
      rw [x3, hw_lt (by omega) (by omega)] at wl
      rw [if_pos (by rw [x3, show (tk t).2.1 = (tk x).2.1 by omega]), mq_is hP, if_neg (by rw [x2]; decide)]
      exact ⟨F, rfl, mQ.refl _ _ _ _ _, x1, x2, x3⟩
/-- what a number's read leaves -/
def pN (F A : Nat → Nat → Int32) (m : Nat) (tk : Nat → tK) (e t : Nat) (v : Int32) (r : xR (Int32 × Option Nat)) : Prop := match r with
  | .inl a => pF F m tk a.1 a.2
  | .inr a => pT F A m tk e a.2 ∧ t ≤ a.2 ∧ a.1.1 = v ∧ pW F m tk a.2 a.1.2
theorem p_bounded (hP : mSp h m) (hT : pT F A m tk e t) {w : Option Nat} (hw0 : pW F m tk t w) (N d : Nat) (lo hi : Int32) : ∃ F' v, ix_run iy_P N (d + 3) 254 [ix_R (some m), ix_I lo, ix_I hi] (hw h F A) = some (.inl (some (ix_I v)), hw h F' A) ∧ mQ [11, 13, 14, 15, 16] [] m F A F' A ∧ pN F' A m tk e t v (x_num tk lo hi t w) := by
  have hT' := hT
  obtain ⟨⟨-, hm, hk'⟩, te, t4, f11, f13⟩ := hT
  obtain ⟨k37, p2, a3, a4, a5⟩ := hk' t te t4
  rw [rX9_bounded N (d + 2)]
  unfold bX9_bounded jX9_bounded_7 jX9_bounded_25 jX9_bounded_31 x_num
  rw [mq_is hP, hw_fI, f13, if_neg (by decide), mq_isr hP, hw_cI (p_is hP hT' N (d + 1) (k := 2) (by omega))]
  dsimp only
  by_cases wk : x_kd tk t = 2
  · rw [if_pos wk, if_neg (by decide), if_pos wk, mq_is hP, mq_is hP, mp_rd7 hP, hw_fI, f11, hw_in (by omega) (by omega), cond_true, hw_aI, hw_cl (by omega), a5]
    have tail : ∀ (F1 : Nat → Nat → Int32) (w1 : Option Nat), mQ [11, 13, 14, 15, 16] [] m F A F1 A → pT F1 A m tk e t → pW F1 m tk t w1 → ∃ F' v, ((ix_isr (hw h F1 A) 10 (some m)).bind fun a13 => (ix_rV (ix_run iy_P N (d + 2) 252 [ix_R (some a13)] (hw h F1 A))).bind fun r12 => (some (.inl (some (ix_I (tk t).2.2.2)), r12) : ix_O)) = some (.inl (some (ix_I v)), hw h F' A) ∧ mQ [11, 13, 14, 15, 16] [] m F A F' A ∧ pN F' A m tk e t v (x_bd (x_pas t) fun _ t1 => .inr (((tk t).2.2.2, w1), t1)) := fun F1 w1 q1 T1 W1 => by
      obtain ⟨F', e', q, f⟩ := p_goesOn hP T1 (by rw [wk]; decide) N d
      rw [mq_isr hP, hw_cV e']
      refine ⟨F', _, rfl, q1.trans (q.mono rfl rfl), ?_⟩
      unfold x_pas at f ⊢
      by_cases w4 : t = 400
      · rw [if_pos w4] at f ⊢
        exact f
      · rw [if_neg w4] at f ⊢
        exact ⟨f, by omega, rfl, W1.of q (Nat.le_succ t) rfl⟩
    have out : ∃ F' v, ((ix_is (hw h F A) 10 (some m)).bind fun a9 => (ix_isr (hw h F A) 10 (some m)).bind fun a11 => (ix_rV (ix_run iy_P N (d + 2) 255 [ix_R (some a11), ix_I (nI 5), ix_I (F a9 11)] (hw h F A))).bind fun r10 => (ix_isr r10 10 (some m)).bind fun a13 => (ix_rV (ix_run iy_P N (d + 2) 252 [ix_R (some a13)] r10)).bind fun r12 => (some (.inl (some (ix_I (tk t).2.2.2)), r12) : ix_O)) = some (.inl (some (ix_I v)), hw h F' A) ∧ mQ [11, 13, 14, 15, 16] [] m F A F' A ∧ pN F' A m tk e t v (x_bd (x_pas t) fun _ t1 => .inr (((tk t).2.2.2, (p_w1 w t)), t1)) := by
      obtain ⟨F1, e1, q1, w1⟩ := p_wrong hP hT' hw0 N (d + 1)
      rw [mq_is hP, mq_isr hP, f11, hw_cV e1]
      exact tail F1 _ (q1.mono rfl rfl) (hT'.of q1 rfl rfl) w1
    by_cases w1 : (tk t).2.2.2 < lo
    · rw [if_pos w1]
      simp only [if_pos (show (tk t).2.2.2 < lo ∨ hi < (tk t).2.2.2 from .inl w1)]
      exact out
    · rw [if_neg w1]
      by_cases w2 : (tk t).2.2.2 ≤ hi
      · rw [if_pos w2]
        simp only [if_neg (show ¬ ((tk t).2.2.2 < lo ∨ hi < (tk t).2.2.2) from fun x => x.elim w1 (fun y => (kv_nlt_le.mpr w2) y))]
        exact tail F w (mQ.refl _ _ _ _ _) hT' hw0
      · rw [if_neg w2]
        simp only [if_pos (show (tk t).2.2.2 < lo ∨ hi < (tk t).2.2.2 from .inr (Decidable.not_not.mp fun y => w2 (kv_nlt_le.mp y)))]
        exact out
  · rw [if_neg wk, if_pos rfl, if_neg wk, mq_isr hP]
    obtain ⟨F', e', q, f⟩ := p_fail hP hT' N (d + 1) (k := 1) (by omega) (by omega)
    rw [hw_cV e']
    exact ⟨F', _, rfl, q.mono rfl rfl, f⟩
theorem p_boundedF (hP : mSp h m) (hF : pF F m tk n t) (N d : Nat) (lo hi : Int32) : ix_run iy_P N (d + 3) 254 [ix_R (some m), ix_I lo, ix_I hi] (hw h F A) = some (.inl (some (ix_I lo)), hw h F A) := by
  rw [rX9_bounded N (d + 2)]
  unfold bX9_bounded jX9_bounded_7
  rw [mq_is hP, hw_fI, hF.1, if_pos hF.pos, mq_isr hP, hw_cV (p_failF hP hF N (d + 1) _)]
/-- a hand -/
theorem p_handTold (hP : mSp h m) (hT : pT F A m tk e t) (hk : x_kd tk t ≠ 0) {w : Option Nat} (hw0 : pW F m tk t w) (N d : Nat) : ∃ F' v, ix_run iy_P N (d + 4) 258 [ix_R (some m)] (hw h F A) = some (.inl (some (ix_I v)), hw h F' A) ∧ mQ [11, 13, 14, 15, 16] [] m F A F' A ∧ pN F' A m tk e (t + 1) v (x_bd (x_pas t) fun _ t1 => x_num tk (nI 0) (nI 3) t1 w) := by
  rw [rX9_handTold N (d + 3)]
  unfold bX9_handTold
  obtain ⟨F1, e1, q1, f1⟩ := p_goesOn hP hT hk N (d + 1)
  rw [mq_isr hP, hw_cV e1, mq_isr hP]
  unfold x_pas at f1 ⊢
  by_cases w4 : t = 400
  · rw [if_pos w4] at f1 ⊢
    rw [hw_cI (p_boundedF hP f1 N d _ _)]
    exact ⟨F1, _, rfl, q1.mono rfl rfl, f1⟩
  · rw [if_neg w4] at f1 ⊢
    obtain ⟨F', v, e', q, f⟩ := p_bounded hP f1 (hw0.of q1 (Nat.le_succ t) rfl) N d (nI 0) (nI 3)
    rw [hw_cI e']
    refine ⟨F', v, rfl, (q1.mono rfl rfl).trans q, ?_⟩
    exact f
theorem p_toldOr (hP : mSp h m) (hT : pT F A m tk e t) {w : Option Nat} (hw0 : pW F m tk t w) (N d : Nat) {k : Nat} (h0 : k ≠ 0) (hk : k < 100) (lo hi own : Int32) : ∃ F' v, ix_run iy_P N (d + 4) 250 [ix_R (some m), ix_I (nI k), ix_I lo, ix_I hi, ix_I own] (hw h F A) = some (.inl (some (ix_I v)), hw h F' A) ∧ mQ [11, 13, 14, 15, 16] [] m F A F' A ∧ pN F' A m tk e t v (x_set tk k lo hi own t w) := by
  rw [rX9_toldOr N (d + 3)]
  unfold bX9_toldOr x_set
  rw [mq_isr hP, hw_cI (p_is hP hT N (d + 2) hk)]
  dsimp only
  by_cases wk : x_kd tk t = k
  · rw [if_pos wk, if_neg (by decide), if_pos wk, mq_isr hP]
    obtain ⟨F1, e1, q1, f1⟩ := p_goesOn hP hT (by rw [wk]; exact h0) N (d + 1)
    rw [hw_cV e1, mq_isr hP]
    unfold x_pas at f1 ⊢
    by_cases w4 : t = 400
    · rw [if_pos w4] at f1 ⊢
      rw [hw_cI (p_boundedF hP f1 N d _ _)]
      dsimp only
      rw [mq_isr hP, hw_cV (p_mustF hP f1 N d _)]
      exact ⟨F1, _, rfl, q1.mono rfl rfl, f1⟩
    · rw [if_neg w4] at f1 ⊢
      obtain ⟨F2, v, e2, q2, f2⟩ := p_bounded hP f1 (hw0.of q1 (Nat.le_succ t) rfl) N d lo hi
      rw [hw_cI e2]
      dsimp only
      rw [mq_isr hP]
      have q12 := (q1.mono (X' := [11, 13, 14, 15, 16]) (Y' := []) rfl rfl).trans q2
      show ∃ F' v, _ ∧ _ ∧ pN F' A m tk e t v (x_bd (x_num tk lo hi (t + 1) w) fun v t2 => x_bd (x_must tk 4 t2) fun _ t3 => .inr (v, t3))
      generalize x_num tk lo hi (t + 1) w = r at f2 ⊢
      cases r with
      | inl a =>
        rw [hw_cV (p_mustF hP f2 N d _)]
        exact ⟨F2, _, rfl, q12, f2⟩
      | inr a =>
        obtain ⟨T2, tl, ev, W2⟩ := f2
        obtain ⟨F3, e3, q3, f3⟩ := p_must hP T2 N d (k := 4) (by omega) (by omega)
        rw [hw_cV e3]
        refine ⟨F3, v, rfl, q12.trans (q3.mono rfl rfl), ?_⟩
        obtain ⟨⟨a1, a2⟩, t2⟩ := a
        show pN F3 A m tk e t v (x_bd (x_must tk 4 t2) fun _ t3 => .inr ((a1, a2), t3))
        have hge : ∀ x, x_must tk 4 t2 = .inr x → t2 ≤ x.2 := fun x hx => by
          unfold x_must x_pas at hx
          split at hx
          · split at hx
            · cases hx
            · cases hx
              exact Nat.le_succ _
          · cases hx
        generalize x_must tk 4 t2 = r3 at f3 hge ⊢
        cases r3 with
        | inl b => exact f3
        | inr b =>
          have := hge b rfl
          refine ⟨f3, ?_, ev, W2.of q3 this rfl⟩
          exact Nat.le_trans (Nat.le_of_succ_le tl) this
  · rw [if_neg wk, if_pos rfl, if_neg wk]
    exact ⟨F, _, rfl, mQ.refl _ _ _ _ _, hT, Nat.le_refl _, rfl, hw0⟩
end
