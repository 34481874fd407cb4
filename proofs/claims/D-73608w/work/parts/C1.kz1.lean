/-! KZ1: the component: three stores in an array -/
set_option maxRecDepth 100000
section
variable {o : Nat} {h h' h2 : ix_H} {F A F' A' F2 A2 : Nat → Nat → Int32} {k c N T : Nat}
/-- a store stays -/
theorem cS.gV {M : Nat → Nat} {mr : Nat} (s : cS h M mr) (g : gV o h F A h' F' A' k c) (ho : ∀ j, j < 18 + 3 * mr → M j ≠ o) (hz : ix_sz h' + 6000 < 1099511627776) : cS h' M mr := by
  obtain ⟨a1, a2, a3, a4⟩ := g
  refine s.grow (fun j hj => ?_) (by rw [a1]; exact Nat.le_add_right _ _) hz
  obtain ⟨c1, c2, c3, c4, c5, c6, c7⟩ := a4 (M j) (s.2.2.2.2.2.2.2.2.1 j hj)
  exact ⟨c1, c2, (c7 (ho j hj)).2, c5⟩
/-- a store stays where another array is written -/
theorem cS.wa {M : Nat → Nat} {mr q : Nat} (s : cS h M mr) (hq : ∀ j, j < 18 + 3 * mr → M j ≠ q) (hz : ix_sz h + 6000 < 1099511627776) (i : Nat) (v : Option Nat) : cS (ix_waR h q i v) M mr := by
  refine s.grow (fun j hj => ⟨rfl, rfl, rfl, ?_⟩) (Nat.le_refl _) hz
  funext r
  exact s_aRa' _ _ _ _ (fun x => hq j hj x.1)
/-- one store into the array q -/
theorem v_slot1 {q i : Nat} (tq : ix_tg h q = 113) (lq : ix_ln h q = 3) (hq : q < ix_sz h) (hi : i < 3) (hz : ix_sz h + 7000 < 1099511627776) (hN : 10 ≤ N) (d : Nat) : ∃ h' F' A', (∀ f : ix_H → ix_O, (ix_bd (ix_nwO (hw h F A) 5 13) fun h32 => (ix_isr h32 5 (some (ix_sz (hw h F A)))).bind fun a34 => (ix_rV (ix_run iy_P N (d + 2) 171 [ix_R (some a34)] h32)).bind fun r33 => (ix_at r33 113 (some q) (nI i)).bind fun a35 => cond (ix_of r33 [5] (some (ix_sz (hw h F A)))) (ix_bd (ix_waR r33 a35 (nI i).toNatClampNeg (some (ix_sz (hw h F A)))) f) none) = f (hw (ix_waR h' q i (some (ix_sz h))) F' A')) ∧ gV (ix_sz h) h F A h' F' A' 18 4413 ∧ cS h' (vL (ix_sz h) (ix_sz h + 1)) 0 := by
  obtain ⟨h', F', A', e, g, -, s⟩ := v_sto (F := F) (A := A) hz hN d
  refine ⟨h', F', A', fun f => ?_, g, s⟩
  obtain ⟨c1, c2, -⟩ := g.2.2.2 q hq
  have t5 : ix_tg h' (ix_sz h) = 5 := s.1.1
  have of5 : ix_of (hw h' F' A') [5] (some (ix_sz h)) = true := by
    show ([5] : List Nat).any (fun t => Nat.beq (ix_tg h' (ix_sz h)) t) = true
    rw [t5]
    rfl
  rw [e, c_at (c1.trans tq) (c2.trans lq), hw_in hi (by omega), cond_true, hw_sz, of5, cond_true, hw_cl (by omega)]
  rfl
theorem vL_lo {o s : Nat} (ho : o < s) (hs : s + 20 < 1099511627776) {j : Nat} (hj : j < 18 + 3 * 0) : o ≤ vL o s j ∧ vL o s j < s + 17 := by
  obtain ⟨L, hL, l0, la, lfour, lb, lc, linj, llo, lhi⟩ := vL_ex ho hs
  rw [← hL]
  refine ⟨?_, llo j hj⟩
  clear hL
  rcases (show j = 0 ∨ (0 < j ∧ j < 4) ∨ j = 4 ∨ (5 ≤ j ∧ j < 9) ∨ (9 ≤ j ∧ j < 18) by omega) with w | w | w | w | w
  · rw [w, l0]
    exact Nat.le_refl _
  · rw [la j w.1 w.2]
    omega
  · rw [w, lfour]
    omega
  · rw [lb j w.1 w.2]
    omega
  · rw [lc j w.1 w.2]
    omega
theorem v_slots {q : Nat} (tq : ix_tg h q = 113) (lq : ix_ln h q = 3) {S : Nat} (hS : ix_sz h = S) (hq : q < S) (hz : S + 8000 < 1099511627776) (hN : 10 ≤ N) (d : Nat) : ∃ h' F' A', (∀ f : ix_H → ix_O,
    (ix_bd (ix_nwO (hw h F A) 5 13) fun h32 =>
    (ix_isr h32 5 (some (ix_sz (hw h F A)))).bind fun a34 =>
    (ix_rV (ix_run iy_P N (d + 2) 171 [ix_R (some a34)] h32)).bind fun r33 =>
    (ix_at r33 113 (some q) (nI 0)).bind fun a35 =>
    cond (ix_of r33 [5] (some (ix_sz (hw h F A)))) (
    ix_bd (ix_waR r33 a35 (nI 0).toNatClampNeg (some (ix_sz (hw h F A)))) fun h36 =>
      ix_bd (ix_nwO h36 5 13) fun h37 =>
      (ix_isr h37 5 (some (ix_sz h36))).bind fun a39 =>
      (ix_rV (ix_run iy_P N (d + 2) 171 [ix_R (some a39)] h37)).bind fun r38 =>
      (ix_at r38 113 (some q) (nI 1)).bind fun a40 =>
      cond (ix_of r38 [5] (some (ix_sz h36))) (
      ix_bd (ix_waR r38 a40 (nI 1).toNatClampNeg (some (ix_sz h36))) fun h41 =>
        ix_bd (ix_nwO h41 5 13) fun h42 =>
        (ix_isr h42 5 (some (ix_sz h41))).bind fun a44 =>
        (ix_rV (ix_run iy_P N (d + 2) 171 [ix_R (some a44)] h42)).bind fun r43 =>
        (ix_at r43 113 (some q) (nI 2)).bind fun a45 =>
        cond (ix_of r43 [5] (some (ix_sz h41))) (
        ix_bd (ix_waR r43 a45 (nI 2).toNatClampNeg (some (ix_sz h41))) f) none) none) none) = f (hw h' F' A')) ∧
    (ix_sz h' = S + 54 ∧ ix_sl h' = ix_sl h + 13239 ∧ ix_cs h' = ix_cs h ∧ ∀ b, b < S → ix_tg h' b = ix_tg h b ∧ ix_ln h' b = ix_ln h b ∧ ix_fR h' b = ix_fR h b ∧ ix_fL h' b = ix_fL h b ∧ ix_aL h' b = ix_aL h b ∧ (b ≠ q → ix_aR h' b = ix_aR h b) ∧ F' b = F b ∧ A' b = A b) ∧
    (ix_aR h' q 0 = some S ∧ ix_aR h' q 1 = some (S + 18) ∧ ix_aR h' q 2 = some (S + 36)) ∧ cS h' (vL S (S + 1)) 0 ∧ cS h' (vL (S + 18) (S + 19)) 0 ∧ cS h' (vL (S + 36) (S + 37)) 0 := by
  subst hS
  have hz1 : ix_sz h + 7000 < 1099511627776 := by omega
  obtain ⟨h1, F1, A1, e1, g1, s1⟩ := v_slot1 (F := F) (A := A) (i := 0) tq lq hq (by omega) hz1 hN d
  have y1 : ix_sz (ix_waR h1 q 0 (some (ix_sz h))) = ix_sz h + 18 := g1.1
  have q1 := g1.2.2.2 q hq
  have s1' : cS (ix_waR h1 q 0 (some (ix_sz h))) (vL (ix_sz h) (ix_sz h + 1)) 0 := s1.wa (fun j hj => by have := (vL_lo (Nat.lt_add_one (ix_sz h)) (by omega) hj).1; omega) (by have := g1.1; omega) 0 _
  have tq1 : ix_tg (ix_waR h1 q 0 (some (ix_sz h))) q = 113 := q1.1.trans tq
  have lq1 : ix_ln (ix_waR h1 q 0 (some (ix_sz h))) q = 3 := q1.2.1.trans lq
  have aq1 : ix_aR (ix_waR h1 q 0 (some (ix_sz h))) q 0 = some (ix_sz h) := s_aRa _ _ _ _
  have r1 : ∀ b, b < ix_sz h → ix_tg (ix_waR h1 q 0 (some (ix_sz h))) b = ix_tg h b ∧ ix_ln (ix_waR h1 q 0 (some (ix_sz h))) b = ix_ln h b ∧ ix_fR (ix_waR h1 q 0 (some (ix_sz h))) b = ix_fR h b ∧ ix_fL (ix_waR h1 q 0 (some (ix_sz h))) b = ix_fL h b ∧ ix_aL (ix_waR h1 q 0 (some (ix_sz h))) b = ix_aL h b ∧ (b ≠ q → ix_aR (ix_waR h1 q 0 (some (ix_sz h))) b = ix_aR h b) ∧ F1 b = F b ∧ A1 b = A b := fun b hb => by
    obtain ⟨c1, c2, c3, c4, c5, c6, c7⟩ := g1.2.2.2 b hb
    have c7 := c7 (Nat.ne_of_lt hb)
    refine ⟨c1, c2, c7.2, c3, c4, fun w => ?_, c7.1, c6⟩
    rw [← c5]
    funext i
    exact s_aRa' _ _ _ _ (fun x => w x.1)
  have sl1 : ix_sl (ix_waR h1 q 0 (some (ix_sz h))) = ix_sl h + 4413 := g1.2.1
  have cs1 : ix_cs (ix_waR h1 q 0 (some (ix_sz h))) = ix_cs h := g1.2.2.1
  generalize ix_waR h1 q 0 (some (ix_sz h)) = k1 at e1 y1 s1' tq1 lq1 aq1 r1 sl1 cs1
  generalize ix_sz h = S at *
  have hq1 : q < ix_sz k1 := by omega
  obtain ⟨h2, F2, A2, e2, g2, s2⟩ := v_slot1 (h := k1) (F := F1) (A := A1) (i := 1) tq1 lq1 hq1 (by omega) (by omega) hN d
  have y2 : ix_sz (ix_waR h2 q 1 (some (ix_sz k1))) = ix_sz k1 + 18 := g2.1
  have q2 := g2.2.2.2 q hq1
  have z2 : ix_sz h2 + 6000 < 1099511627776 := by have := g2.1; omega
  have s2' : cS (ix_waR h2 q 1 (some (ix_sz k1))) (vL (ix_sz k1) (ix_sz k1 + 1)) 0 := s2.wa (fun j hj => by have := (vL_lo (Nat.lt_add_one (ix_sz k1)) (by omega) hj).1; omega) z2 1 _
  have s12 : cS (ix_waR h2 q 1 (some (ix_sz k1))) (vL S (S + 1)) 0 := (s1'.gV g2 (fun j hj => by have := (vL_lo (Nat.lt_add_one S) (by omega) hj).2; omega) z2).wa (fun j hj => by have := (vL_lo (Nat.lt_add_one S) (by omega) hj).1; omega) z2 1 _
  have tq2 : ix_tg (ix_waR h2 q 1 (some (ix_sz k1))) q = 113 := q2.1.trans tq1
  have lq2 : ix_ln (ix_waR h2 q 1 (some (ix_sz k1))) q = 3 := q2.2.1.trans lq1
  have aq2 : ix_aR (ix_waR h2 q 1 (some (ix_sz k1))) q 1 = some (ix_sz k1) := s_aRa _ _ _ _
  have aq20 : ix_aR (ix_waR h2 q 1 (some (ix_sz k1))) q 0 = some S := by
    rw [s_aRa' _ _ _ _ (fun x => absurd x.2 (by decide)), q2.2.2.2.2.1, aq1]
  have r2 : ∀ b, b < ix_sz k1 → ix_tg (ix_waR h2 q 1 (some (ix_sz k1))) b = ix_tg k1 b ∧ ix_ln (ix_waR h2 q 1 (some (ix_sz k1))) b = ix_ln k1 b ∧ ix_fR (ix_waR h2 q 1 (some (ix_sz k1))) b = ix_fR k1 b ∧ ix_fL (ix_waR h2 q 1 (some (ix_sz k1))) b = ix_fL k1 b ∧ ix_aL (ix_waR h2 q 1 (some (ix_sz k1))) b = ix_aL k1 b ∧ (b ≠ q → ix_aR (ix_waR h2 q 1 (some (ix_sz k1))) b = ix_aR k1 b) ∧ F2 b = F1 b ∧ A2 b = A1 b := fun b hb => by
    obtain ⟨c1, c2, c3, c4, c5, c6, c7⟩ := g2.2.2.2 b hb
    have c7 := c7 (Nat.ne_of_lt hb)
    refine ⟨c1, c2, c7.2, c3, c4, fun w => ?_, c7.1, c6⟩
    rw [← c5]
    funext i
    exact s_aRa' _ _ _ _ (fun x => w x.1)
  have sl2 : ix_sl (ix_waR h2 q 1 (some (ix_sz k1))) = ix_sl k1 + 4413 := g2.2.1
  have cs2 : ix_cs (ix_waR h2 q 1 (some (ix_sz k1))) = ix_cs k1 := g2.2.2.1
  generalize ix_waR h2 q 1 (some (ix_sz k1)) = k2 at e2 y2 s2' s12 tq2 lq2 aq2 aq20 r2 sl2 cs2
  have hq2 : q < ix_sz k2 := by omega
  obtain ⟨h3, F3, A3, e3, g3, s3⟩ := v_slot1 (h := k2) (F := F2) (A := A2) (i := 2) tq2 lq2 hq2 (by omega) (by omega) hN d
  have y3 : ix_sz (ix_waR h3 q 2 (some (ix_sz k2))) = ix_sz k2 + 18 := g3.1
  have q3 := g3.2.2.2 q hq2
  have z3 : ix_sz h3 + 6000 < 1099511627776 := by have := g3.1; omega
  rw [y1] at y2 aq2 s2'
  have y2' : ix_sz k2 = S + 36 := by omega
  rw [y2'] at s3 y3
  refine ⟨ix_waR h3 q 2 (some (ix_sz k2)), F3, A3, fun f => ?_, ⟨?_, ?_, ?_, fun b hb => ?_⟩, ⟨?_, ?_, ?_⟩, ?_, ?_, ?_⟩
  · rw [e1, e2, e3]
  · rw [y2', y3]
  · show ix_sl h3 = _
    have := g3.2.1
    omega
  · show ix_cs h3 = _
    rw [g3.2.2.1, cs2, cs1]
  · obtain ⟨a1, a2, a3, a4, a5, a6, a7, a8⟩ := r1 b hb
    obtain ⟨b1, b2, b3, b4, b5, b6, b7, b8⟩ := r2 b (by omega)
    have hb2 : b < ix_sz k2 := by omega
    obtain ⟨c1, c2, c3, c4, c5, c6, c7⟩ := g3.2.2.2 b hb2
    have c7 := c7 (Nat.ne_of_lt hb2)
    refine ⟨c1.trans (b1.trans a1), c2.trans (b2.trans a2), c7.2.trans (b3.trans a3), c3.trans (b4.trans a4), c4.trans (b5.trans a5), fun w => ?_, c7.1.trans (b7.trans a7), c6.trans (b8.trans a8)⟩
    rw [← a6 w, ← b6 w, ← c5]
    funext i
    exact s_aRa' _ _ _ _ (fun x => w x.1)
  · rw [s_aRa' _ _ _ _ (fun x => absurd x.2 (by decide)), q3.2.2.2.2.1, aq20]
  · rw [s_aRa' _ _ _ _ (fun x => absurd x.2 (by decide)), q3.2.2.2.2.1, aq2]
  · rw [s_aRa, y2']
  · exact (s12.gV g3 (fun j hj => by have := (vL_lo (Nat.lt_add_one S) (by omega) hj).2; omega) z3).wa (fun j hj => by have := (vL_lo (Nat.lt_add_one S) (by omega) hj).1; omega) z3 2 _
  · exact (s2'.gV g3 (fun j hj => by have := (vL_lo (Nat.lt_add_one (S + 18)) (by omega) hj).2; omega) z3).wa (fun j hj => by have := (vL_lo (Nat.lt_add_one (S + 18)) (by omega) hj).1; omega) z3 2 _
  · exact s3.wa (fun j hj => by have := (vL_lo (Nat.lt_add_one (S + 36)) (by omega) hj).1; omega) z3 2 _
end
