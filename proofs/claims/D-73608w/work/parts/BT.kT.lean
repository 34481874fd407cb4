/-! KT: the component while cells are added -/
set_option maxRecDepth 100000
/-- a store stays where its cells stay -/
theorem cS.grow {h h' : ix_H} {M : Nat → Nat} {mr : Nat} (hm : cS h M mr) (x7 : ∀ j, j < 18 + 3 * mr → ix_tg h' (M j) = ix_tg h (M j) ∧ ix_ln h' (M j) = ix_ln h (M j) ∧ ix_fR h' (M j) = ix_fR h (M j) ∧ ix_aR h' (M j) = ix_aR h (M j)) (x2 : ix_sz h ≤ ix_sz h') (hz : ix_sz h' + 6000 < 1099511627776) : cS h' M mr := by
  obtain ⟨⟨a1, a2, a3, a4, a5, a6, a7, a8⟩, ⟨b1, b2, b3, b4, b5, b6, b7, b8⟩, c, e, f, g, n, inj, lo, hi, z⟩ := hm
  have t : ∀ j, j < 18 + 3 * mr → ix_tg h' (M j) = ix_tg h (M j) := fun j hj => (x7 j hj).1
  have ln : ∀ j, j < 18 + 3 * mr → ix_ln h' (M j) = ix_ln h (M j) := fun j hj => (x7 j hj).2.1
  have fR : ∀ j, j < 18 + 3 * mr → ix_fR h' (M j) = ix_fR h (M j) := fun j hj => (x7 j hj).2.2.1
  have aR : ∀ j, j < 18 + 3 * mr → ix_aR h' (M j) = ix_aR h (M j) := fun j hj => (x7 j hj).2.2.2
  refine ⟨?_, ?_, fun k hk => ?_, fun q hq => ?_, fun r hr => ?_, fun r hr hr2 => ?_, n, inj, fun i hi' => ?_, hi, by omega⟩
  · rw [t 0 (by omega), fR 0 (by omega)]
    exact ⟨a1, a2, a3, a4, a5, a6, a7, a8⟩
  · rw [t 1 (by omega), t 2 (by omega), t 3 (by omega), t 4 (by omega), ln 1 (by omega), ln 2 (by omega), ln 3 (by omega), ln 4 (by omega)]
    exact ⟨b1, b2, b3, b4, b5, b6, b7, b8⟩
  · rw [aR 3 (by omega), t (5 + k) (by omega)]
    exact c k hk
  · obtain ⟨q1, q2, q3, q4, q5, q6, q7, q8⟩ := e q hq
    have h0 : 9 + 3 * q < 18 + 3 * mr := by omega
    have h1 : 10 + 3 * q < 18 + 3 * mr := by omega
    have h2 : 11 + 3 * q < 18 + 3 * mr := by omega
    exact ⟨by rw [t _ h0]; exact q1, by rw [fR _ h0]; exact q2, by rw [fR _ h0]; exact q3, by rw [t _ h1]; exact q4, by rw [t _ h2]; exact q5, by rw [ln _ h1]; exact q6, by rw [ln _ h2]; exact q7, q8⟩
  · rw [aR 1 (by omega)]
    exact f r hr
  · rw [aR 1 (by omega)]
    exact g r hr hr2
  · have := lo i hi'
    omega
section
variable {h h' h2 : ix_H} {F A F' A' F2 A2 : Nat → Nat → Int32} {D : Nat → Nat} {L L' L2 : Nat → Nat → Nat} {ns ns' n2 : Nat → Nat} {Z : Nat × Nat} {W : Nat → Prop} {R Q N k : Nat} {σ : xG}
/-- the parser's text -/
theorem dG.d3 (g : dG h D L ns Z) (r : Option Nat) : dG (ix_wfR h (D 3) 2 r) D L ns Z := by
  have g0 := g
  obtain ⟨⟨t, f0, f4, f2, f3, inj, lt⟩, gs, ga, gd, gz⟩ := g
  have o : ∀ b, b ≠ D 3 → ix_fR (ix_wfR h (D 3) 2 r) b = ix_fR h b := fun b hb => by
    funext j
    exact s_fRf' _ _ _ _ (fun q => hb q.1)
  have d3 : ∀ {i}, i < 19 → i ≠ 3 → D i ≠ D 3 := fun hi hne => g0.Dne hi (by omega) hne
  refine ⟨⟨?_, ?_, f4, ?_, ?_, inj, lt⟩, fun i hi => (gs i hi).grow (fun j hj => ⟨rfl, rfl, o _ (g0.own hi (by omega) j).symm, rfl⟩) (Nat.le_refl _) (by have := (gs i hi).2.2.2.2.2.2.2.2.2.2; have := gz.1; have := gz.2.2; show ix_sz h + 6000 < _; omega), ga, gd, gz⟩
  · obtain ⟨t0, t1, t2, t3, t4, t5, t6⟩ := t
    refine ⟨t0, t1, t2, t3, t4, ?_, t6⟩
    obtain ⟨r1, r2, r3, r4, r5, r6, r7, r8⟩ := t5
    exact ⟨r1, by rw [o _ (d3 (by omega) (by omega))]; exact r2, by rw [o _ (d3 (by omega) (by omega))]; exact r3, r4, r5, r6, r7, r8⟩
  · rw [o _ (d3 (by omega) (by omega))]
    exact f0
  · rw [o _ (d3 (by omega) (by omega))]
    exact f2
  · rw [s_fRf' _ _ _ _ (fun q => absurd q.2 (by decide)), s_fRf' _ _ _ _ (fun q => absurd q.2 (by decide))]
    exact f3
/-- new cells behind -/
theorem dG.gO (g : dG h D L ns Z) (e : gO D h F A h' F' A' k) (hz : Z.1 + k ≤ 1000000000) : dG h' D L ns (Z.1 + k, Z.2 + 20 * k) := by
  have g0 := g
  obtain ⟨⟨t, f0, f4, f2, f3, inj, lt⟩, gs, ga, gd, gz1, gz2, gz3⟩ := g
  obtain ⟨e1, e2, e3, e4, e5⟩ := e
  have cD : ∀ j, j < 19 → ix_tg h' (D j) = ix_tg h (D j) ∧ ix_ln h' (D j) = ix_ln h (D j) ∧ ix_fR h' (D j) = ix_fR h (D j) ∧ ix_aR h' (D j) = ix_aR h (D j) := fun j hj => by
    obtain ⟨a, b, c, _, _, d, _⟩ := e5 (D j) (lt j hj)
    exact ⟨a, b, c, d⟩
  refine ⟨⟨?_, ?_, fun j hj => ?_, ?_, ?_, inj, fun j hj => Nat.lt_of_lt_of_le (lt j hj) e1⟩, fun i hi => (gs i hi).grow (fun j hj => ?_) e1 (by omega), ga, gd, ?_, ?_, hz⟩
  · obtain ⟨t0, t1, t2, t3, t4, t5, t6, t7, t8, t9, t10, t11⟩ := t
    obtain ⟨r1, r2, r3, r4, r5, r6, r7, r8⟩ := t5
    refine ⟨by rw [(cD 0 (by omega)).1]; exact t0, by rw [(cD 1 (by omega)).1]; exact t1, by rw [(cD 2 (by omega)).1]; exact t2, by rw [(cD 3 (by omega)).1]; exact t3, by rw [(cD 4 (by omega)).1, (cD 4 (by omega)).2.1]; exact t4, ⟨by rw [(cD 5 (by omega)).1]; exact r1, by rw [(cD 5 (by omega)).2.2.1]; exact r2, by rw [(cD 5 (by omega)).2.2.1]; exact r3, by rw [(cD 6 (by omega)).1]; exact r4, by rw [(cD 7 (by omega)).1]; exact r5, by rw [(cD 6 (by omega)).2.1]; exact r6, by rw [(cD 7 (by omega)).2.1]; exact r7, r8⟩, by rw [(cD 8 (by omega)).1, (cD 8 (by omega)).2.1]; exact t6, fun j h1 h2 => by rw [(cD j (by omega)).1, (cD j (by omega)).2.1]; exact t7 j h1 h2, by rw [(cD 13 (by omega)).1, (cD 13 (by omega)).2.1]; exact t8, by rw [(cD 14 (by omega)).1, (cD 14 (by omega)).2.1]; exact t9, by rw [(cD 15 (by omega)).1, (cD 15 (by omega)).2.1]; exact t10, fun j h1 h2 => by rw [(cD j (by omega)).1, (cD j (by omega)).2.1]; exact t11 j h1 h2⟩
  · rw [(cD 0 (by omega)).2.2.1]
    exact f0
  · rw [(cD 4 (by omega)).2.2.2]
    exact f4 j hj
  · rw [(cD 2 (by omega)).2.2.1]
    exact f2
  · rw [(cD 3 (by omega)).2.2.1]
    exact f3
  · obtain ⟨a, b, c, _, _, d, _⟩ := e5 (L i j) ((gs i hi).2.2.2.2.2.2.2.2.1 j hj)
    exact ⟨a, b, c, d⟩
  · show ix_sz h' + _ ≤ Z.1 + k
    omega
  · show ix_sl h' + _ ≤ Z.2 + 20 * k
    omega
theorem dFr.gO (g : dG h D L ns Z) (e : gO D h F A h' F' A' k) : dFr h F A D L ns h' F' A' L ns := by
  have r := dFr.refl (F := F) (A := A) g
  obtain ⟨r1, r2, r3, r4, r5, -⟩ := r
  obtain ⟨e1, e2, e3, e4, e5⟩ := e
  refine ⟨e4, e1, r3, r4, r5, fun b hb hD hL => ?_⟩
  obtain ⟨c1, c2, c3, c4, c5, c6, c7, c8⟩ := e5 b hb
  exact ⟨c1, c2, c3, c4, c5, c6, c8 (hD 1 (by omega)) (hD 3 (by omega)), c7⟩
theorem rA.fr (e : dFr h F A D L ns h' F' A' L' ns') {b : Nat} (a : rA h D L ns b) : rA h' D L' ns' b := by
  obtain ⟨a1, a2, a3⟩ := a
  refine ⟨Nat.lt_of_lt_of_le a1 e.2.1, a2, fun i x hi hx q => ?_⟩
  rcases Nat.lt_or_ge x (18 + 3 * ns i) with w | w
  · rw [e.2.2.2.1 i x hi w] at q
    exact a3 i x hi w q
  · have := e.2.2.2.2.1 i x hi w
    omega
theorem dFr.tr (e : dFr h F A D L ns h' F' A' L' ns') (hW : ∀ b, W b → rA h D L ns b) (h40 : rA h D L ns (ix_cs h 40)) {d : Nat} {x : xT d} {a : Nat} (g : gTr h F W d x a) : gTr h' F' W d x a := by
  refine gTr.of (fun b hb => ?_) e.1 ?_ g
  · obtain ⟨k1, k2, k3⟩ := hW b hb
    obtain ⟨c1, c2, c3, c4, c5, c6, c7, c8⟩ := e.2.2.2.2.2 b k1 k2 k3
    exact ⟨hb, c1, c2, c3, c6, c7⟩
  · obtain ⟨k1, k2, k3⟩ := h40
    obtain ⟨c1, c2, c3, c4, c5, c6, c7, c8⟩ := e.2.2.2.2.2 _ k1 k2 k3
    exact ⟨c1, c2⟩
/-- a run's frame, seen from before its cells were made -/
theorem dFr.run (e : dFr h F A D L ns h' F' A' L' ns') (hR : ix_sz h ≤ R) (hQ : ix_sz h ≤ Q) (r : rF h' F' A' D L' ns' R Q h2 F2 A2 L2 n2) : dFr h F A D L ns h2 F2 A2 L2 n2 := by
  obtain ⟨a1, a2, a3, a4, a5, a6⟩ := e
  obtain ⟨b1, b2, b3, b4, b5, b7, b6⟩ := r
  refine ⟨b1.trans a1, Nat.le_trans a2 b2, fun i => Nat.le_trans (a3 i) (b3 i), fun i x hi hx => ?_, fun i x hi hx => ?_, fun b hb hD hL => ?_⟩
  · rw [b4 i x hi (by have := a3 i; omega), a4 i x hi hx]
  · rcases Nat.lt_or_ge x (18 + 3 * ns' i) with w | w
    · rw [b4 i x hi w]
      exact a5 i x hi hx
    · exact Nat.le_trans a2 (b5 i x hi w)
  · obtain ⟨c1, c2, c3, c4, c5, c6, c7, c8⟩ := a6 b hb hD hL
    obtain ⟨d1, d2, d3, d4, d5, d6, d7, d8⟩ := b6 b (by omega) hD (fun i x hi hx e => by
      rcases Nat.lt_or_ge x (18 + 3 * ns i) with w | w
      · rw [a4 i x hi w] at e
        exact hL i x hi w e
      · have := a5 i x hi w
        omega)
    exact ⟨d1.trans c1, d2.trans c2, d3.trans c3, d4.trans c4, d5.trans c5, d6.trans c6, (d7 (by omega)).trans c7, (d8 (by omega)).trans c8⟩
/-- the held stores are told no more -/
theorem d_unheld (g : dG h D L ns Z) (cal : ix_C) : ∀ j i z A, i + j = 3 → j < z → ∃ A', ix_lp cal stX0_goesThrough z 20 [(0, ix_R (some (D 0))), (3, ix_I (nI i))] [] (hw h F A) = some (.inl none, hw h F A') ∧ (∀ b, b ≠ D 8 → A' b = A b) ∧ (∀ q, q < i → A' (D 8) q = A (D 8) q) ∧ ∀ q, i ≤ q → q < 3 → A' (D 8) q = nI 0 := by
  intro j
  induction j with
  | zero =>
    intro i z A hi hz
    obtain ⟨z, rfl⟩ : ∃ y, z = y + 1 := ⟨z - 1, by omega⟩
    obtain rfl : i = 3 := by omega
    rw [lX0_goesThrough_20]
    unfold jX0_goesThrough_20
    rw [if_pos (by decide)]
    exact ⟨A, rfl, fun _ _ => rfl, fun _ _ => rfl, fun q h1 h2 => absurd h1 (by omega)⟩
  | succ j ih =>
    intro i z A hi hz
    obtain ⟨z, rfl⟩ : ∃ y, z = y + 1 := ⟨z - 1, by omega⟩
    rw [lX0_goesThrough_20]
    unfold jX0_goesThrough_20
    have f9 := g.1.2.1.2.2.2.2.2.2.2.1
    have t8 := g.1.1.2.2.2.2.2.2.1
    rw [if_neg (by rw [hw_le (by omega) (by omega)]; omega), d_is g, hw_fR, f9, c_at t8.1 t8.2, hw_in (by omega) (by omega), cond_true, show ix_nar 1 (nI 0) = nI 0 from rfl, hw_bdA, hw_cl (by omega), nI_add]
    obtain ⟨A', e, q1, q2, q3⟩ := ih (i + 1) z (hw_R A (D 8) (hw_U (A (D 8)) i (nI 0))) (by omega) (by omega)
    refine ⟨A', e, fun b hb => (q1 b hb).trans (hw_R_ne _ _ hb), fun q hq => ?_, fun q h1 h2 => ?_⟩
    · rw [q2 q (by omega), hw_R_same, hw_U_ne _ _ (by omega)]
    · by_cases c : q = i
      · subst c
        rw [q2 q (by omega), hw_R_same, hw_U_same]
      · exact q3 q (by omega) h2
end
