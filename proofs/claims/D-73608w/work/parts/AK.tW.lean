/-! TW: the reference: read -/
set_option maxRecDepth 100000
/-- what a read's text comes to -/
def pRd (A F' A' : Nat → Nat → Int32) (m : Nat) (tk : Nat → tK) (v : Int32) (r : xR (Int32 × Int32 × Int32 × List (xT 3) × Option Nat)) : Prop := match r with
  | .inl a => v = nI a.1 ∧ F' m 17 = nI (tk a.2).2.1 ∧ A' (m + 21) = A (m + 21) ∧ A' (m + 32) = A (m + 32)
  | .inr ((a, b, c, l, some t), _) => v = nI 5 ∧ F' m 17 = nI (tk t).2.1 ∧ A' (m + 21) = A (m + 21) ∧ A' (m + 32) = A (m + 32)
  | .inr ((a, b, c, l, none), _) => v = nI 0 ∧ F' m 17 = -1 ∧ mR (A' (m + 21)) (r_text a b c l) ∧ uJ (r_text a b c l) ∧ ∀ i, i < 3 → A' (m + 32) i = nI 0
section
variable {h : ix_H} {m : Nat} {F A : Nat → Nat → Int32} {tk : Nat → tK} {e t n N d i : Nat} {v1 v2 v3 : Int32}
theorem m_read68 (hS : mSh h m) (hP : mSp h m) (hN : 300000000 ≤ N) (d : Nat) (f : pV F A m tk e v1 v2 v3 (x_sets tk)) (h12 : F m 12 = nI 0) (h18 : F m 18 = nI 0) (h25 : F m 25 = nI 0) (h27 : F m 27 = nI 0) {z : Nat} (hz : 1000 ≤ z) : ∃ F' A' v, pHR (ix_run iy_P N (d + 14)) m z v1 v2 v3 (hw h F A) = some (.inl (some (ix_I v)), hw h F' A') ∧ mQ mT3 mU3 m F A F' A' ∧ pRd A F' A' m tk v (x_text tk) := by
  rw [x_text_eq]
  generalize hx : x_sets tk = r at f
  cases r with
  | inl a =>
    obtain ⟨z, rfl⟩ : ∃ y, z = y + 1 := ⟨z - 1, by omega⟩
    obtain ⟨F', e', q, u⟩ := p_68F (A := A) hP f (ix_run iy_P N (d + 14)) z v1 v2 v3
    exact ⟨F', A, _, e', q.mono rfl rfl, rfl, u, rfl, rfl⟩
  | inr a =>
    obtain ⟨⟨a1, a2, a3, w⟩, t⟩ := a
    obtain ⟨hT, ev1, ev2, ev3, hW⟩ := f
    have ev1 : a1 = v1 := ev1
    have ev2 : a2 = v2 := ev2
    have ev3 : a3 = v3 := ev3
    subst ev1 ev2 ev3
    have hT : pT F A m tk e t := hT
    have hW : pW F m tk t w := hW
    have t4 := hT.2.2.1
    have hY : yS F A m tk e t 0 [] w [] := ⟨hT, ⟨h12, h27, fun j hj => absurd hj (Nat.not_lt_zero j), Nat.zero_le _⟩, hW, h18, Nat.zero_le _, h25, trivial, fun x hx => absurd hx List.not_mem_nil⟩
    have o := y_until (d := d + 7) (y_told (h := h) (m := m) (tk := tk) (e := e) (v1 := a1) (v2 := a2) (v3 := a3) (d := d + 7) (N := N) hP (by omega) 3) (ab := []) rfl (e0 := 0) (fun x => absurd rfl x) (fun _ => rfl) (i0 := 0) (401 - t) t w [] 0 F A z [] (by omega) hY (by omega) rfl (Nat.le_refl _)
    have ex : (x_bd (Sum.inr ((a1, a2, a3, w), t) : xR (Int32 × Int32 × Int32 × Option Nat)) fun a t3 => x_bd (x_until tk (x_told tk 3) 0 (401 - t3) t3 a.2.2.2 []) fun l t4 => (.inr ((a.1, a.2.1, a.2.2.1, l.1, l.2), t4) : xR (Int32 × Int32 × Int32 × List (xT 3) × Option Nat))) = x_bd (x_until tk (x_told tk 3) 0 (401 - t) t w []) fun l t4 => .inr ((a1, a2, a3, l.1, l.2), t4) := rfl
    rw [ex]
    clear ex
    generalize hu : x_until tk (x_told tk 3) 0 (401 - t) t w [] = r2 at o
    cases r2 with
    | inl b =>
      obtain ⟨F', A', e', q, u⟩ := o
      exact ⟨F', A', _, e', q.mono rfl rfl, rfl, u, q.2.2.1 21 rfl, q.2.2.1 32 rfl⟩
    | inr b =>
      obtain ⟨⟨l, w2⟩, t2⟩ := b
      obtain ⟨z', F', A', c3, j, e', q, hS', ⟨hL, -, k0⟩, fr, tt, hz'⟩ := o
      have hS' : yS F' A' m tk e t2 j ([] ++ c3) w2 [] := hS'
      have k0 : x_kd tk t2 = 0 := k0
      have hz' : z + t ≤ z' + t2 := hz'
      obtain ⟨T2, ⟨c1, c2, c3', c4⟩, W2, g18, g2, g25, -, -⟩ := hS'
      have t24 := T2.2.2.1
      obtain ⟨z', rfl⟩ : ∃ y, z' = y + 4 := ⟨z' - 4, by omega⟩
      have e68 := p_68N (F := F') (A := A') hP T2 k0 g25 N (d + 7) (z' + 3) a1 a2 a3
      cases w2 with
      | some x =>
        obtain ⟨F2, e2, q2, u2⟩ := p_89W (A := A') hP T2.2.2.2.2 W2 (ix_run iy_P N (d + 14)) (ix_lp (ix_run iy_P N (d + 14)) stX9_read (z' + 3)) a1 a2 a3
        exact ⟨F2, A', _, e'.trans (e68.trans e2), (q.mono rfl rfl).trans (q2.mono rfl rfl), rfl, u2, q.2.2.1 21 rfl, q.2.2.1 32 rfl⟩
      | none =>
        obtain ⟨ew, ok⟩ := x_until_ok (P := xT_ok 3) (fun t w x t' => x_told_ok 3 t w x t') (401 - t) t w [] l t2 (fun x hx => absurd hx List.not_mem_nil) hu
        subst ew
        obtain ⟨⟨i1, i1'⟩, ⟨i2, i2'⟩, i3, i3'⟩ := x_sets_in hx
        obtain ⟨a, la, ea⟩ := nI_of_le (n := 8) (by omega) (Int32.le_trans (by decide) i1) i1'
        obtain ⟨b, lb, eb⟩ := nI_of_le (n := 12) (by omega) (Int32.le_trans (by decide) i2) i2'
        obtain ⟨c, lc, ec⟩ := nI_of_le (n := 3) (by omega) i3 i3'
        subst ea eb ec
        rw [hw_le (by omega) (by omega)] at i2
        have W2 : F' m 15 = nI 0 := W2
        obtain ⟨F2, A2, e2, q2, r2, J2, u32, u17⟩ := p_89N (F := F') (A := A') hS hP hN d T2.2.2.2.2 W2 hL ok ⟨g18, by omega, c3', by omega⟩ (a := a) (b := b) (q := c) (by omega) i2 (by omega) (by omega) z'
        exact ⟨F2, A2, _, e'.trans (e68.trans e2), (q.mono rfl rfl).trans q2, rfl, u17, r2, J2, u32⟩
end
section
variable {h : ix_H} {m : Nat} {G : Nat → Int64} {F A : Nat → Nat → Int32} {N : Nat} {X : xS}
abbrev mT2 : List Nat := [2, 4, 10, 11, 12, 13, 14, 15, 16, 17, 18, 25, 27, 31, 37, 40, 41, 42, 45, 48]
abbrev mU2 : List Nat := [2, 3, 4, 5, 8, 9, 10, 11, 12, 13, 14, 15, 16, 17, 18, 19, 20, 21, 22, 23, 24, 25, 26, 27, 28, 32]
/-- what a read leaves -/
def x_rd (X : xS) : Prop := (∃ p, (a_read X).2 = (X.1, X.2.1, X.2.2.1, 0, p)) ∨ ∃ S, uJ S ∧ (a_read X).2 = (S, fun _ => none, X.2.2.1, 0, -1)
def a_rdr (X : xS) (tk : Nat → tK) (r : xR (Int32 × Int32 × Int32 × List (xT 3) × Option Nat)) : Int32 × xS := match r with
  | .inl (n, t) => (nI n, X.1, X.2.1, X.2.2.1, 0, nI (tk t).2.1)
  | .inr ((a, b, c, l, w), _) => match w with
    | some t => (nI 5, X.1, X.2.1, X.2.2.1, 0, nI (tk t).2.1)
    | none => (nI 0, r_text a b c l, fun _ => none, X.2.2.1, 0, -1)
theorem a_read_eq (X : xS) : a_read X = a_rdr X (tk_row (xb X) (xn X)) (x_text (tk_row (xb X) (xn X))) := rfl
theorem m_read (hS : mSh h m) (hP : mSp h m) (hK : mKw h m) (hN : 300000000 ≤ N) (d : Nat) (hX : mX' F A m X) (hI : x_I X) : ∃ G' F' A', ix_run iy_P N (d + 15) 243 [ix_R (some m)] (hw (ml h m G) F A) = some (.inl (some (ix_I (a_read X).1)), hw (ml h m G') F' A') ∧ mQ mT2 mU2 m F A F' A' ∧ mX' F' A' m (a_read X).2 ∧ x_rd X := by
  obtain ⟨hI1, hI2, hn, hb⟩ := hI
  obtain ⟨x1, x2, x3, x4, x5, x6⟩ := hX
  have hPg := mSp_ml G hP
  rw [rX9_read N (d + 14)]
  unfold bX9_read
  rw [mq_is hPg, mq_is hPg, hw_bdF, hw_fI, x4, ← lX9_read_6]
  have q1 : mQ mT2 mU2 m F A (hw_R F m (hw_U (F m) 4 (nI (xn X)))) A := (mQ.refl _ _ _ _ _).fR rfl
  have e4 : hw_R F m (hw_U (F m) 4 (nI (xn X))) m 4 = nI (xn X) := by rw [hw_R_same, hw_U_same]
  generalize hw_R F m (hw_U (F m) 4 (nI (xn X))) = F1 at q1 e4 ⊢
  obtain ⟨A1, z1, e1, hz1, q2, t2⟩ := m_read_6 hPg (ix_run iy_P N (d + 14)) hn hb F1 e4 (xn X) (N + 1) 0 A (by omega) (by omega) x5 (fun k hk => absurd hk (Nat.not_lt_zero k))
  rw [e1]
  unfold jX9_read_6
  rw [mq_is hPg, hw_fI, e4, if_pos (Int32.le_refl _), mq_is hPg, hw_bdF, mq_isr hPg]
  have q3 : mQ mT2 mU2 m F A (hw_R F1 m (hw_U (F1 m) 2 (nI 0))) A1 := (q1.trans (q2.mono rfl rfl)).fR rfl
  have e4' : hw_R F1 m (hw_U (F1 m) 2 (nI 0)) m 4 = nI (xn X) := by rw [hw_R_same, hw_U_ne _ _ (by omega)]; exact e4
  have e2' : hw_R F1 m (hw_U (F1 m) 2 (nI 0)) m 2 = nI 0 := by rw [hw_R_same, hw_U_same]
  generalize hw_R F1 m (hw_U (F1 m) 2 (nI 0)) = F2 at q3 e4' e2' ⊢
  obtain ⟨F3, A3, G3, e3, q4, tk3⟩ := m_cutsUp (N := N) (F := F2) (A := A1) (G := G) hP hK (by omega) (d + 11) (b := xb X) (n := xn X) ⟨hn, e4', t2, hb⟩
  rw [hw_cV e3]
  have hP3 := mSp_ml G3 hP
  have hS3 := mSh_ml G3 hS
  rw [mq_is hP3, hw_bdF, mq_is hP3, hw_bdF, mq_is hP3, hw_bdF, mq_is hP3, hw_bdF, mq_is hP3, hw_bdF, mq_is hP3, hw_bdF, mq_is hP3, hw_bdF, mq_isr hP3]
  simp only [hw_R_R, hw_R_same]
  have q5 : mQ mT2 mU2 m F A (hw_R F3 m (hw_U (hw_U (hw_U (hw_U (hw_U (hw_U (hw_U (F3 m) 11 (nI 0)) 12 (nI 0)) 13 (nI 0)) 15 (nI 0)) 18 (nI 0)) 25 (nI 0)) 27 (nI 0))) A3 := (((((((q3.trans (q4.mono rfl rfl)).fR (j := 11) rfl).fU (j := 12) rfl).fU (j := 13) rfl).fU (j := 15) rfl).fU (j := 18) rfl).fU (j := 25) rfl).fU (j := 27) rfl
  have g2 : hw_R F3 m (hw_U (hw_U (hw_U (hw_U (hw_U (hw_U (hw_U (F3 m) 11 (nI 0)) 12 (nI 0)) 13 (nI 0)) 15 (nI 0)) 18 (nI 0)) 25 (nI 0)) 27 (nI 0)) m 2 = nI 0 := by
    simp (disch := omega) only [hw_R_same, hw_U_ne]
    rw [q4.2.1 2 rfl]
    exact e2'
  have g11 : hw_R F3 m (hw_U (hw_U (hw_U (hw_U (hw_U (hw_U (hw_U (F3 m) 11 (nI 0)) 12 (nI 0)) 13 (nI 0)) 15 (nI 0)) 18 (nI 0)) 25 (nI 0)) 27 (nI 0)) m 11 = nI 0 := by simp (disch := omega) only [hw_R_same, hw_U_ne, hw_U_same]
  have g12 : hw_R F3 m (hw_U (hw_U (hw_U (hw_U (hw_U (hw_U (hw_U (F3 m) 11 (nI 0)) 12 (nI 0)) 13 (nI 0)) 15 (nI 0)) 18 (nI 0)) 25 (nI 0)) 27 (nI 0)) m 12 = nI 0 := by simp (disch := omega) only [hw_R_same, hw_U_ne, hw_U_same]
  have g13 : hw_R F3 m (hw_U (hw_U (hw_U (hw_U (hw_U (hw_U (hw_U (F3 m) 11 (nI 0)) 12 (nI 0)) 13 (nI 0)) 15 (nI 0)) 18 (nI 0)) 25 (nI 0)) 27 (nI 0)) m 13 = nI 0 := by simp (disch := omega) only [hw_R_same, hw_U_ne, hw_U_same]
  have g15 : hw_R F3 m (hw_U (hw_U (hw_U (hw_U (hw_U (hw_U (hw_U (F3 m) 11 (nI 0)) 12 (nI 0)) 13 (nI 0)) 15 (nI 0)) 18 (nI 0)) 25 (nI 0)) 27 (nI 0)) m 15 = nI 0 := by simp (disch := omega) only [hw_R_same, hw_U_ne, hw_U_same]
  have g18 : hw_R F3 m (hw_U (hw_U (hw_U (hw_U (hw_U (hw_U (hw_U (F3 m) 11 (nI 0)) 12 (nI 0)) 13 (nI 0)) 15 (nI 0)) 18 (nI 0)) 25 (nI 0)) 27 (nI 0)) m 18 = nI 0 := by simp (disch := omega) only [hw_R_same, hw_U_ne, hw_U_same]
  have g25 : hw_R F3 m (hw_U (hw_U (hw_U (hw_U (hw_U (hw_U (hw_U (F3 m) 11 (nI 0)) 12 (nI 0)) 13 (nI 0)) 15 (nI 0)) 18 (nI 0)) 25 (nI 0)) 27 (nI 0)) m 25 = nI 0 := by simp (disch := omega) only [hw_R_same, hw_U_ne, hw_U_same]
  have g27 : hw_R F3 m (hw_U (hw_U (hw_U (hw_U (hw_U (hw_U (hw_U (F3 m) 11 (nI 0)) 12 (nI 0)) 13 (nI 0)) 15 (nI 0)) 18 (nI 0)) 25 (nI 0)) 27 (nI 0)) m 27 = nI 0 := by simp (disch := omega) only [hw_R_same, hw_U_ne, hw_U_same]
  generalize hw_R F3 m (hw_U (hw_U (hw_U (hw_U (hw_U (hw_U (hw_U (F3 m) 11 (nI 0)) 12 (nI 0)) 13 (nI 0)) 15 (nI 0)) 18 (nI 0)) 25 (nI 0)) 27 (nI 0)) = F4 at q5 g2 g11 g12 g13 g15 g18 g25 g27 ⊢
  have hT : pT F4 A3 m (tk_row (xb X) (xn X)) ((tk_at (tk_f (xb X) (xn X)) (xn X) 0).length - 1) 0 := ⟨pK_row hn tk3, Nat.zero_le _, Nat.zero_le _, g11, g13⟩
  obtain ⟨F5, v1, v2, v3, e5, q6, f5⟩ := p_sets (F := F4) (A := A3) hP3 hT g15 N (d + 10) (fun a b c H => jX9_read_68 (ix_run iy_P N (d + 14)) (ix_lp (ix_run iy_P N (d + 14)) stX9_read z1) m a b c H)
  obtain ⟨F6, A6, v, e6, q7, f6⟩ := m_read68 (F := F5) (A := A3) hS3 hP3 hN d f5 (by rw [q6.2.1 12 rfl]; exact g12) (by rw [q6.2.1 18 rfl]; exact g18) (by rw [q6.2.1 25 rfl]; exact g25) (by rw [q6.2.1 27 rfl]; exact g27) (z := z1 + 1) (by omega)
  have e6' : jX9_read_68 (ix_run iy_P N (d + 14)) (ix_lp (ix_run iy_P N (d + 14)) stX9_read z1) m v1 v2 v3 (hw (ml h m G3) F5 A3) = some (.inl (some (ix_I v)), hw (ml h m G3) F6 A6) := by
    rw [← e6]
    unfold pHR
    rw [lX9_read_68]
  have q8 : mQ mT2 mU2 m F A F6 A6 := (q5.trans (q6.mono rfl rfl)).trans (q7.mono rfl rfl)
  have h2 : F6 m 2 = nI 0 := by rw [q7.2.1 2 rfl, q6.2.1 2 rfl]; exact g2
  have a21 : A3 (m + 21) = A (m + 21) := by rw [q4.2.2.1 21 rfl, q2.2.2.1 21 rfl]
  have a32 : A3 (m + 32) = A (m + 32) := by rw [q4.2.2.1 32 rfl, q2.2.2.1 32 rfl]
  have a33 : A6 (m + 33) = A (m + 33) := q8.2.2.1 33 rfl
  have a1 : A6 (m + 1) = A (m + 1) := q8.2.2.1 1 rfl
  have key : v = (a_read X).1 ∧ mX' F6 A6 m (a_read X).2 ∧ x_rd X := by
    unfold x_rd
    rw [a_read_eq]
    generalize x_text (tk_row (xb X) (xn X)) = r at f6 ⊢
    have hold : ∀ p, A6 (m + 21) = A3 (m + 21) → A6 (m + 32) = A3 (m + 32) → F6 m 17 = p → mX' F6 A6 m (X.1, X.2.1, X.2.2.1, 0, p) := fun p u21 u32 u17 => ⟨by rw [u21, a21]; exact x1, by rw [u32, a32]; exact x2, by rw [a33]; exact x3, h2, fun k hk => absurd hk (Nat.not_lt_zero k), u17⟩
    match r, f6 with
    | .inl a, ⟨u1, u2, u3, u4⟩ => exact ⟨u1, hold _ u3 u4 u2, .inl ⟨_, rfl⟩⟩
    | .inr ((a, b, c, l, some t), _), ⟨u1, u2, u3, u4⟩ => exact ⟨u1, hold _ u3 u4 u2, .inl ⟨_, rfl⟩⟩
    | .inr ((a, b, c, l, none), _), ⟨u1, u2, u3, u4, u5⟩ => exact ⟨u1, ⟨u3, u5, fun i T _ hx => (by cases hx), h2, fun k hk => absurd hk (Nat.not_lt_zero k), u2⟩, .inr ⟨_, u4, rfl⟩⟩
  obtain ⟨k1, k2, k3⟩ := key
  rw [← k1]
  exact ⟨G3, F6, A6, e5.trans e6', q8, k2, k3⟩
end
