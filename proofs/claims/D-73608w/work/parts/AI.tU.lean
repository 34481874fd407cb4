/-! TU: the reference: a text read, up to its tells -/
set_option maxRecDepth 100000
section
variable {h : ix_H} {m : Nat} {F A : Nat → Nat → Int32} {tk : Nat → tK} {e t n N d i : Nat}
theorem p_toldOrF (hP : mSp h m) (hF : pF F m tk n t) (N d : Nat) (k lo hi own : Int32) : ix_run iy_P N (d + 4) 250 [ix_R (some m), ix_I k, ix_I lo, ix_I hi, ix_I own] (hw h F A) = some (.inl (some (ix_I own)), hw h F A) := by
  rw [rX9_toldOr N (d + 3)]
  unfold bX9_toldOr
  rw [mq_isr hP, hw_cI (p_isF hP hF N (d + 2) k)]
  dsimp only
  rw [if_pos rfl]
/-- the text is copied -/
theorem m_read_6 (hP : mSp h m) (cal : ix_C) {b : Nat → Int32} {n : Nat} (hn : n ≤ 2000) (hb : ∀ k, -128 ≤ (b k).toInt ∧ (b k).toInt ≤ 127) (F : Nat → Nat → Int32) (h4 : F m 4 = nI n) : ∀ j z i A, i + j = n → j < z → (∀ k, k < n → A (m + 1) k = b k) → (∀ k, k < i → A (m + 2) k = b k) → ∃ A' z', ix_lp cal stX9_read z 6 [(0, ix_R (some m)), (1, ix_I (nI i))] [] (hw h F A) = jX9_read_6 cal (ix_lp cal stX9_read z') m (nI n) (hw h F A') ∧ z ≤ z' + j + 1 ∧ mQ [] [2] m F A F A' ∧ ∀ k, k < n → A' (m + 2) k = b k
  | 0, z, i, A, hij, hz, h1, h2 => by
    obtain ⟨z, rfl⟩ : ∃ y, z = y + 1 := ⟨z - 1, by omega⟩
    have e : i = n := by omega
    subst e
    exact ⟨A, z, by rw [lX9_read_6], by omega, mQ.refl _ _ _ _ _, h2⟩
  | j + 1, z, i, A, hij, hz, h1, h2 => by
    obtain ⟨z, rfl⟩ : ∃ y, z = y + 1 := ⟨z - 1, by omega⟩
    have hnar : ix_nar 2 (b i) = b i := by
      have := hb i
      show (b i).toInt8.toInt32 = b i
      apply Int32.toInt_inj.mp
      rw [Int8.toInt_toInt32, Int32.toInt_toInt8]
      exact Int.bmod_eq_of_le (by omega) (by omega)
    obtain ⟨A', z', e, hz', q, r⟩ := m_read_6 hP cal hn hb F h4 j z (i + 1) (hw_R A (m + 2) (hw_U (A (m + 2)) i (b i))) (by omega) (by omega) (fun k hk => by rw [hw_R_ne _ _ (by omega)]; exact h1 k hk) (fun k hk => by
      rw [hw_R_same]
      by_cases w : k = i
      · rw [w, hw_U_same]
      · rw [hw_U_ne _ _ w]
        exact h2 k (by omega))
    refine ⟨A', z', ?_, by omega, ((mQ.refl [] [2] m F A).aR (k := 2) rfl (by omega)).trans q, r⟩
    rw [lX9_read_6]
    unfold jX9_read_6
    rw [mq_is hP, hw_fI, h4, if_neg (by rw [hw_le (by omega) (by omega)]; omega), mq_is hP, mq_is hP, mp_rd1 hP, hw_in (by omega) (by omega), cond_true, mp_wr3 hP, hw_in (by omega) (by omega), cond_true, hw_bdA, hw_aI, hw_cl (by omega), h1 i (by omega), hnar, nI_add]
    exact e
/-- the settings, at a fault too -/
def pV (F A : Nat → Nat → Int32) (m : Nat) (tk : Nat → tK) (e : Nat) (v1 v2 v3 : Int32) (r : xR (Int32 × Int32 × Int32 × Option Nat)) : Prop := match r with
  | .inl a => pF F m tk a.1 a.2
  | .inr a => pT F A m tk e a.2 ∧ a.1.1 = v1 ∧ a.1.2.1 = v2 ∧ a.1.2.2.1 = v3 ∧ pW F m tk a.2 a.1.2.2.2
def x_sets (tk : Nat → tK) : xR (Int32 × Int32 × Int32 × Option Nat) := x_bd (x_set tk 20 (nI 1) (nI 8) (nI 3) 0 none) fun a t1 => x_bd (x_set tk 21 (nI 4) (nI 12) (nI 6) t1 a.2) fun b t2 => x_bd (x_set tk 22 (nI 0) (nI 3) (nI 2) t2 b.2) fun c t3 => .inr ((a.1, b.1, c.1, c.2), t3)
theorem p_sets (hP : mSp h m) (hT : pT F A m tk e 0) (hW : pW F m tk 0 none) (N d : Nat) (f : Int32 → Int32 → Int32 → ix_H → ix_O) : ∃ F' v1 v2 v3, (((ix_rI (ix_run iy_P N (d + 4) 250 [ix_R (some m), ix_I (nI 20), ix_I (nI 1), ix_I (nI 8), ix_I (nI 3)] (hw h F A))).bind fun r23 =>
    (ix_isr r23.2 10 (some m)).bind fun a26 =>
    (ix_rI (ix_run iy_P N (d + 4) 250 [ix_R (some a26), ix_I (nI 21), ix_I (nI 4), ix_I (nI 12), ix_I (nI 6)] r23.2)).bind fun r25 =>
    (ix_isr r25.2 10 (some m)).bind fun a28 =>
    (ix_rI (ix_run iy_P N (d + 4) 250 [ix_R (some a28), ix_I (nI 22), ix_I (nI 0), ix_I (nI 3), ix_I (nI 2)] r25.2)).bind fun r27 =>
    f r23.1 r25.1 r27.1 r27.2) : ix_O) = f v1 v2 v3 (hw h F' A) ∧ mQ [11, 13, 14, 15, 16] [] m F A F' A ∧ pV F' A m tk e v1 v2 v3 (x_sets tk) := by
  obtain ⟨F1, v1, e1, q1, f1⟩ := p_toldOr (F := F) (A := A) hP hT hW N d (k := 20) (by omega) (by omega) (nI 1) (nI 8) (nI 3)
  rw [hw_cI e1]
  dsimp only
  unfold x_sets
  generalize x_set tk 20 (nI 1) (nI 8) (nI 3) 0 none = r at f1 ⊢
  cases r with
  | inl a =>
    rw [mq_isr hP, hw_cI (p_toldOrF hP f1 N d _ _ _ _)]
    dsimp only
    rw [mq_isr hP, hw_cI (p_toldOrF hP f1 N d _ _ _ _)]
    exact ⟨F1, _, _, _, rfl, q1, f1⟩
  | inr a =>
    obtain ⟨⟨a1, w1⟩, t1⟩ := a
    obtain ⟨T1, -, ev1, W1⟩ := f1
    obtain ⟨F2, v2, e2, q2, f2⟩ := p_toldOr (F := F1) (A := A) hP T1 W1 N d (k := 21) (by omega) (by omega) (nI 4) (nI 12) (nI 6)
    rw [mq_isr hP, hw_cI e2]
    dsimp only
    show ∃ F' v1' v2' v3', _ ∧ _ ∧ pV F' A m tk e v1' v2' v3' (x_bd (x_set tk 21 (nI 4) (nI 12) (nI 6) t1 w1) fun b t2 => x_bd (x_set tk 22 (nI 0) (nI 3) (nI 2) t2 b.2) fun c t3 => .inr ((a1, b.1, c.1, c.2), t3))
    generalize x_set tk 21 (nI 4) (nI 12) (nI 6) t1 w1 = r at f2 ⊢
    cases r with
    | inl a =>
      rw [mq_isr hP, hw_cI (p_toldOrF hP f2 N d _ _ _ _)]
      exact ⟨F2, _, _, _, rfl, q1.trans q2, f2⟩
    | inr a =>
      obtain ⟨⟨a2, w2⟩, t2⟩ := a
      obtain ⟨T2, -, ev2, W2⟩ := f2
      obtain ⟨F3, v3, e3, q3, f3⟩ := p_toldOr (F := F2) (A := A) hP T2 W2 N d (k := 22) (by omega) (by omega) (nI 0) (nI 3) (nI 2)
      rw [mq_isr hP, hw_cI e3]
      dsimp only
      show ∃ F' v1' v2' v3', _ ∧ _ ∧ pV F' A m tk e v1' v2' v3' (x_bd (x_set tk 22 (nI 0) (nI 3) (nI 2) t2 w2) fun c t3 => .inr ((a1, a2, c.1, c.2), t3))
      generalize x_set tk 22 (nI 0) (nI 3) (nI 2) t2 w2 = r at f3 ⊢
      cases r with
      | inl a => exact ⟨F3, _, _, _, rfl, (q1.trans q2).trans q3, f3⟩
      | inr a =>
        obtain ⟨⟨a3, w3⟩, t3⟩ := a
        obtain ⟨T3, -, ev3, W3⟩ := f3
        exact ⟨F3, _, _, _, rfl, (q1.trans q2).trans q3, T3, ev1, ev2, ev3, W3⟩
theorem x_text_eq (tk : Nat → tK) : x_text tk = x_bd (x_sets tk) fun a t3 => x_bd (x_until tk (x_told tk 3) 0 (401 - t3) t3 a.2.2.2 []) fun l t4 => .inr ((a.1, a.2.1, a.2.2.1, l.1, l.2), t4) := by
  unfold x_text x_sets
  rw [x_bd_as]
  congr 1
  funext a t1
  rw [x_bd_as]
  congr 1
  funext b t2
  rw [x_bd_as]
  rfl
/-- numbers in range -/
theorem x_set_in {k : Nat} {lo hi own : Int32} {t t' : Nat} {w : Option Nat} {v : Int32} (hx : x_set tk k lo hi own t w = .inr ((v, none), t')) (h1 : lo ≤ own) (h2 : own ≤ hi) : w = none ∧ lo ≤ v ∧ v ≤ hi := by
  unfold x_set at hx
  split at hx
  · obtain ⟨a, t1, -, hx⟩ := x_bd_inr hx
    obtain ⟨⟨v', w'⟩, t2, h3, hx⟩ := x_bd_inr hx
    obtain ⟨b, t3, -, hx⟩ := x_bd_inr hx
    cases hx
    exact x_num_ok h3
  · cases hx
    exact ⟨rfl, h1, h2⟩
theorem x_sets_in {v1 v2 v3 : Int32} {t : Nat} (hx : x_sets tk = .inr ((v1, v2, v3, none), t)) : (nI 1 ≤ v1 ∧ v1 ≤ nI 8) ∧ (nI 4 ≤ v2 ∧ v2 ≤ nI 12) ∧ nI 0 ≤ v3 ∧ v3 ≤ nI 3 := by
  unfold x_sets at hx
  obtain ⟨⟨a1, w1⟩, t1, h1, hx⟩ := x_bd_inr hx
  obtain ⟨⟨a2, w2⟩, t2, h2, hx⟩ := x_bd_inr hx
  obtain ⟨⟨a3, w3⟩, t3, h3, hx⟩ := x_bd_inr hx
  cases hx
  obtain ⟨e2, i3⟩ := x_set_in h3 (by decide) (by decide)
  have e2 : w2 = none := e2
  subst e2
  obtain ⟨e1, i2⟩ := x_set_in h2 (by decide) (by decide)
  have e1 : w1 = none := e1
  subst e1
  obtain ⟨-, i1⟩ := x_set_in h1 (by decide) (by decide)
  exact ⟨i1, i2, i3⟩
end
