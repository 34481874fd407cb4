/-! D3: the component: pages, records, hands, counts -/
set_option maxRecDepth 100000
theorem cLy.d {D : Nat → Nat} {L : Nat → Nat} {F A F' A' : Nat → Nat → Int32} (h : cLy L (D 5) (D 6) (D 7) F A F' A') : dSc D L F A F' A' := ⟨fun b _ _ _ a4 => h.1 b a4, fun b a1 _ _ _ _ _ _ a8 a9 _ _ => h.2.2 b a8 a9 a1⟩
section
variable {h : ix_H} {F A : Nat → Nat → Int32} {D : Nat → Nat} {L : Nat → Nat → Nat} {ns : Nat → Nat} {Z : Nat × Nat} {X : xS} {N : Nat}
theorem d_laid (g : dG h D L ns Z) (F A : Nat → Nat → Int32) (f : Nat → ix_O) : (ix_is (hw h F A) 6 (ix_fR (hw h F A) (D 0) 8)).bind f = f (D 5) := by
  rw [hw_fR, g.1.2.1.2.2.2.2.2.2.1]
  exact c_is g.1.1.2.2.2.2.2.1.1 F A f
theorem d_page (g : dG h D L ns Z) (hI : x_I X) (hc : dC F A D L ns X) (hN : 3000 ≤ N) (d : Nat) (p w : Int32) : dAns h F A D L (a_page X.1 p w) (ix_run iy_P N (d + 6) 99 [ix_R (some (D 0)), ix_I p, ix_I w] (hw h F A)) := by
  have hs := g.2.1 0 (by omega)
  have hW := hI.1.W
  have h32 := hW.2.2.1
  have hV := hc.2.1.1.1
  have hn := hc.2.1.2
  rw [rX0_page N (d + 5)]
  unfold bX0_page jX0_page_15
  have e0 : ix_run iy_P N (d + 5) 100 [ix_R (some (D 0)), ix_I p] (hw h F A) = some (.inl (some (ix_I (if a_in p (nI 0) (nI (zp X.1) - nI 1) then nI 1 else nI 0))), hw h F A) := by
    rw [rX0_isPage N (d + 4)]
    unfold bX0_isPage
    rw [d_is g, d_stw g, hw_fI, hV.1.2.1, hw_cI (d_isIn _ N (d + 3) _ _ _)]
    dsimp only
    rw [a_okn, cond_true]
  rw [d_isr g, hw_cI e0]
  dsimp only
  rw [a_if0]
  unfold a_page
  by_cases wi : a_in p (nI 0) (nI (zp X.1) - nI 1)
  · obtain ⟨q, hq, rfl⟩ := a_in_nat (by omega) wi
    rw [if_pos wi, if_pos wi, d_is g, d_st g, hw_cI (c_isGone hs hW hn hV N (d + 4) hq)]
    dsimp only
    obtain ⟨F1, A1, e1, q1, g1⟩ := c_lays hs hW hn g.1.1.2.2.2.2.2.1 (fun r => ⟨g.own (by omega) (by omega) _, g.own (by omega) (by omega) _, g.own (by omega) (by omega) _, g.own (by omega) (by omega) _, g.own (by omega) (by omega) _⟩) ⟨g.own (by omega) (by omega) 4, g.own (by omega) (by omega) 4⟩ hV (N := N) (by omega) d hq
    have hV1 : cV F1 A1 (L 0) X.1 := (q1.d.c g hc).2.1.1.1
    simp only [hw_cl (show q < 2147483648 by omega)]
    refine ⟨F1, A1, ?_, q1.d⟩
    -- whatever plain is
    have key : ∀ s0 : Int32, (s0 = nI 0 ↔ ¬ (z_gone X.1 q ∨ nI q = nI 0)) → jX0_page_19 (ix_run iy_P N (d + 5)) (ix_lp (ix_run iy_P N (d + 5)) stX0_page N) (D 0) (nI q) w (if z_gone X.1 q then nI 1 else nI 0) s0 (hw h F A) = some (.inl (some (ix_I (if w = nI 0 then nI (zt X.1 q) else if w = nI 1 then nI (z_len X.1 q) else if w = nI 2 then (if z_gone X.1 q then nI 0 else nI (z_pg X.1 q).1.length) else if w = nI 3 then (if z_gone X.1 q ∨ nI q = nI 0 then nI 0 else (z_pg X.1 q).2.1) else if w = nI 4 then (if z_gone X.1 q ∨ nI q = nI 0 then -2 else (z_pg X.1 q).2.2) else if w = nI 5 then (if z_gone X.1 q then nI 1 else nI 0) else -1))), hw h F1 A1) := fun s0 hs0 => by
      unfold jX0_page_19 jX0_page_71
      rw [d_is g, d_is g, d_st g, hw_fR, g.1.2.1.2.2.2.2.2.2.1, hw_cV e1]
      by_cases w0 : w = nI 0
      · rw [if_pos w0, if_pos w0, d_is g, d_stw g, st_top hs, hw_in (by omega) (by omega), cond_true, hw_aI, hw_cl (by omega), hV1.2.1 q hq]
      rw [if_neg w0, if_neg w0]
      by_cases w1 : w = nI 1
      · rw [if_pos w1, if_pos w1, d_is g, d_st g, hw_cI (c_length hs hW hn hV1 (by omega) (d + 4) hq)]
      rw [if_neg w1, if_neg w1]
      by_cases w2 : w = nI 2
      · rw [if_pos w2, if_pos w2, a_if0]
        by_cases gg : z_gone X.1 q
        · rw [if_pos gg, if_pos gg]
        · rw [if_neg gg, if_neg gg, d_is g, d_laid g, hw_fI, g1.1.1]
      rw [if_neg w2, if_neg w2]
      by_cases w3 : w = nI 3
      · rw [if_pos w3, if_pos w3]
        by_cases gg : z_gone X.1 q ∨ nI q = nI 0
        · rw [if_neg (fun x => (hs0.mp x) gg), if_pos gg]
        · rw [if_pos (hs0.mpr gg), if_neg gg, d_is g, d_laid g, hw_fI, g1.2.1]
      rw [if_neg w3, if_neg w3]
      by_cases w4 : w = nI 4
      · rw [if_pos w4, if_pos w4]
        by_cases gg : z_gone X.1 q ∨ nI q = nI 0
        · rw [if_neg (fun x => (hs0.mp x) gg), if_pos gg]
        · rw [if_pos (hs0.mpr gg), if_neg gg, d_is g, d_laid g, hw_fI, g1.2.2]
      rw [if_neg w4, if_neg w4]
      by_cases w5 : w = nI 5
      · rw [if_pos w5, if_pos w5, a_if0]
        by_cases gg : z_gone X.1 q
        · rw [if_pos gg, if_pos gg]
        · rw [if_neg gg, if_neg gg]
      rw [if_neg w5, if_neg w5]
    by_cases z : nI q = nI 0
    · rw [if_pos z]
      exact key (nI 1) ⟨fun x => absurd x (by decide), fun x => absurd (Or.inr z) x⟩
    · rw [if_neg z, a_if0]
      by_cases gg : z_gone X.1 q
      · rw [if_pos gg]
        have := key (nI 1) ⟨fun x => absurd x (by decide), fun x => absurd (Or.inl gg) x⟩
        exact this
      · rw [if_neg gg]
        exact key (nI 0) ⟨fun _ x => x.elim gg z, fun _ => rfl⟩
  · rw [if_neg wi, if_neg wi]
    exact ⟨F, A, rfl, dSc.refl _ _ _ _⟩
theorem d_bound (g : dG h D L ns Z) (hI : x_I X) (hc : dC F A D L ns X) (hN : 3000 ≤ N) (d : Nat) (i w : Int32) : dAns h F A D L (a_bound X.1 i w) (ix_run iy_P N (d + 7) 101 [ix_R (some (D 0)), ix_I i, ix_I w] (hw h F A)) := by
  have hs := g.2.1 0 (by omega)
  have hW := hI.1.W
  rw [rX0_bound N (d + 6)]
  unfold bX0_bound jX0_bound_30
  obtain ⟨F1, A1, e1, q1, g1⟩ := c_bounds hs hW hc.2.1.2 hc.2.1.1.1 (N := N) (by omega) d
  have hl := (hW.pg (p := 0) (by have := hW.2.1; omega)).2.1
  rw [d_is g, d_st g, hw_cR e1]
  dsimp only
  rw [cp_is hs.bo, hw_fI, g1.1.1, hw_cI (d_isIn _ N (d + 5) _ _ _)]
  dsimp only
  rw [a_if0]
  unfold a_bound
  refine ⟨F1, A1, ?_, q1.s12.d⟩
  by_cases wi : a_in i (nI 0) (nI (z_pg X.1 0).1.length - nI 1)
  · obtain ⟨j, hj, rfl⟩ := a_in_nat (by omega) wi
    obtain ⟨w1, w2⟩ := g1.1.2 j hj
    rw [if_pos wi, if_pos wi]
    simp only [hw_cl (show j < 2147483648 by omega)]
    by_cases w0 : w = nI 0
    · rw [if_pos w0, if_pos w0, cp_is hs.bo, cp_rk hs.bo, hw_in (by omega) (by omega), cond_true, hw_aI, w1, kv_nth_at hj]
    rw [if_neg w0, if_neg w0]
    by_cases w01 : w = nI 1
    · rw [if_pos w01, if_pos w01, cp_is hs.bo, cp_rv hs.bo, hw_in (by omega) (by omega), cond_true, hw_aI, w2, kv_nth_at hj]
    rw [if_neg w01, if_neg w01]
  · rw [if_neg wi, if_neg wi]
theorem d_isRecord (g : dG h D L ns Z) (hc : dC F A D L ns X) (N d : Nat) (r : Int32) : ix_run iy_P N (d + 2) 103 [ix_R (some (D 0)), ix_I r] (hw h F A) = some (.inl (some (ix_I (if a_in r (nI 0) (nI (zn X.1) - nI 1) then nI 1 else nI 0))), hw h F A) := by
  rw [rX0_isRecord N (d + 1)]
  unfold bX0_isRecord
  rw [d_is g, d_stw g, hw_fI, hc.2.1.1.1.1.1, hw_cI (d_isIn _ N d _ _ _)]
  dsimp only
  rw [a_okn, cond_true]
theorem d_record (g : dG h D L ns Z) (hI : x_I X) (hc : dC F A D L ns X) (N d : Nat) (r w : Int32) : dAns h F A D L (a_record X.1 r w) (ix_run iy_P N (d + 3) 102 [ix_R (some (D 0)), ix_I r, ix_I w] (hw h F A)) := by
  have hs := g.2.1 0 (by omega)
  have hsz := hI.1.sz
  have hn := hc.2.1.2
  rw [rX0_record N (d + 2)]
  unfold bX0_record jX0_record_40 a_record
  rw [d_isr g, hw_cI (d_isRecord g hc N d r)]
  dsimp only
  rw [a_if0]
  refine ⟨F, A, ?_, dSc.refl _ _ _ _⟩
  by_cases wi : a_in r (nI 0) (nI (zn X.1) - nI 1)
  · obtain ⟨j, hj, rfl⟩ := a_in_nat (by omega) wi
    obtain ⟨c0, c1, c2, c3, c4, c5, c5', c9, c6⟩ := hc.2.1.1.1.2.2.1 j hj
    have h6 : X.1.1.1 j 6 = nI (X.1.1.2 j).length := (hI.1.W.1.2 j hj).2.1
    rw [if_pos wi, d_is g, d_stw g, st_rec hs, hw_in (by omega) (by omega), cond_true]
    simp only [st_rr hs _ _ (show j < ns 0 by omega), hw_fI]
    have ev : ∀ f, f < 7 → a_in (nI f) (nI 0) (nI 6) := fun f hf => ⟨nI_le (Nat.zero_le _) (by omega), nI_le (by omega) (by omega)⟩
    by_cases w0 : w = nI 0
    · rw [if_pos w0, w0, if_pos ⟨wi, ev 0 (by omega)⟩, hw_cl (by omega), hw_cl (by omega), c0]
      rfl
    rw [if_neg w0]
    by_cases w1 : w = nI 1
    · rw [if_pos w1, w1, if_pos ⟨wi, ev 1 (by omega)⟩, hw_cl (by omega), hw_cl (by omega), c1]
      rfl
    rw [if_neg w1]
    by_cases w2 : w = nI 2
    · rw [if_pos w2, w2, if_pos ⟨wi, ev 2 (by omega)⟩, hw_cl (by omega), hw_cl (by omega), c2]
      rfl
    rw [if_neg w2]
    by_cases w3 : w = nI 3
    · rw [if_pos w3, w3, if_pos ⟨wi, ev 3 (by omega)⟩, hw_cl (by omega), hw_cl (by omega), c3]
      rfl
    rw [if_neg w3]
    by_cases w4 : w = nI 4
    · rw [if_pos w4, w4, if_pos ⟨wi, ev 4 (by omega)⟩, hw_cl (by omega), hw_cl (by omega), c4]
      rfl
    rw [if_neg w4]
    by_cases w5 : w = nI 5
    · have hh : a_in (nI j) (nI 0) (nI (zn X.1) - nI 1) ∧ a_in (nI 5) (nI 0) (nI 6) := ⟨wi, ev 5 (by omega)⟩
      rcases c5' with e | e
      · have e5 : zr X.1 j 5 = nI 0 := e
        rw [if_pos w5]
        refine (if_pos (c5.trans e)).trans ?_
        rw [w5, if_pos hh, hw_cl (by omega), hw_cl (by omega), e5]
      · have e5 : zr X.1 j 5 = nI 1 := e
        rw [if_pos w5]
        refine (if_neg (show ¬ F (L 0 (18 + 3 * j)) 11 = nI 0 by rw [c5, e]; decide)).trans ?_
        rw [w5, if_pos hh, hw_cl (by omega), hw_cl (by omega), e5]
    rw [if_neg w5]
    by_cases w6 : w = nI 6
    · rw [if_pos w6, w6, if_pos ⟨wi, ev 6 (by omega)⟩, hw_cl (by omega), hw_cl (by omega), c6.1.1, ← h6]
      rfl
    rw [if_neg w6, if_neg (fun x => by
      have x2 := x.2
      rw [show nI 6 = nI 7 - nI 1 by decide] at x2
      obtain ⟨f, hf, rfl⟩ := a_in_nat (by omega) x2
      match f, hf with
      | 0, _ => exact w0 rfl
      | 1, _ => exact w1 rfl
      | 2, _ => exact w2 rfl
      | 3, _ => exact w3 rfl
      | 4, _ => exact w4 rfl
      | 5, _ => exact w5 rfl
      | 6, _ => exact w6 rfl)]
  · rw [if_neg wi, if_neg (fun x => wi x.1)]
theorem d_base (g : dG h D L ns Z) (hI : x_I X) (hc : dC F A D L ns X) (N d : Nat) (r i w : Int32) : dAns h F A D L (a_base X.1 r i w) (ix_run iy_P N (d + 3) 104 [ix_R (some (D 0)), ix_I r, ix_I i, ix_I w] (hw h F A)) := by
  have hs := g.2.1 0 (by omega)
  have hsz := hI.1.sz
  have hn := hc.2.1.2
  rw [rX0_base N (d + 2)]
  unfold bX0_base jX0_base_16 jX0_base_41 a_base
  rw [d_isr g, hw_cI (d_isRecord g hc N d r)]
  dsimp only
  rw [a_if0]
  refine ⟨F, A, ?_, dSc.refl _ _ _ _⟩
  by_cases wi : a_in r (nI 0) (nI (zn X.1) - nI 1)
  · obtain ⟨j, hj, rfl⟩ := a_in_nat (by omega) wi
    obtain ⟨-, -, -, -, -, -, -, -, c6⟩ := hc.2.1.1.1.2.2.1 j hj
    have hlen := hI.1.items j hj
    have hr := hs.rc (show j < ns 0 by omega)
    have e3 : F (L 0 (18 + 3 * j)) 3 = nI (zi X.1 j).length := c6.1.1
    rw [if_pos wi, if_pos wi, d_is g, d_stw g, st_rec hs, hw_in (by omega) (by omega), cond_true, st_rr hs _ _ (show j < ns 0 by omega), hw_fI, e3, hw_cI (d_isIn _ N (d + 1) _ _ _)]
    dsimp only
    rw [a_if0]
    simp only [hw_cl (show j < 2147483648 by omega)]
    by_cases wj : a_in i (nI 0) (nI (zi X.1 j).length - nI 1)
    · obtain ⟨x, hx, rfl⟩ := a_in_nat (by omega) wj
      obtain ⟨k1, k2⟩ := c6.1.2 x hx
      have k1 : A (L 0 (19 + 3 * j)) x = ((zi X.1 j)[x]).1 := k1
      have k2 : A (L 0 (20 + 3 * j)) x = ((zi X.1 j)[x]).2 := k2
      rw [if_pos wj, if_pos wj, d_is g, d_stw g, st_rec hs, hw_in (by omega) (by omega), cond_true]
      have st : ∀ f : Nat → ix_O, (ix_is (hw h F A) 6 (ix_aR (hw h F A) (L 0 1) j)).bind f = f (L 0 (18 + 3 * j)) := fun f => by
        have := st_rr hs F A (show j < ns 0 by omega) f
        rw [hw_cl (show j < 2147483648 by omega)] at this
        exact this
      simp only [st, hw_cl (show x < 2147483648 by omega)]
      by_cases w0 : w = nI 0
      · rw [if_pos w0, if_pos w0, cp_rk hr, hw_in (by omega) (by omega), cond_true, hw_aI, k1, kv_nth_at hx]
      rw [if_neg w0, if_neg w0]
      by_cases w1 : w = nI 1
      · rw [if_pos w1, if_pos w1, cp_rv hr, hw_in (by omega) (by omega), cond_true, hw_aI, k2, kv_nth_at hx]
      rw [if_neg w1, if_neg w1]
    · rw [if_neg wj, if_neg wj]
  · rw [if_neg wi, if_neg wi]
theorem d_hr (g : dG h D L ns Z) (F A : Nat → Nat → Int32) {k : Nat} (hk : k < 4) (f : Nat → ix_O) : (ix_is (hw h F A) 7 (ix_aR (hw h F A) (L 0 3) (nI k).toNatClampNeg)).bind f = f (L 0 (5 + k)) := by
  rw [hw_aR, hw_cl (by omega), ((g.2.1 0 (by omega)).2.2.1 k hk).1]
  exact h_is ((g.2.1 0 (by omega)).2.2.1 k hk).2 F A f
theorem d_hr0 (g : dG h D L ns Z) (F A : Nat → Nat → Int32) {k : Nat} (hk : k < 4) (f : Nat → ix_O) : (ix_is (hw h F A) 7 (ix_aR (hw h F A) (L 0 3) k)).bind f = f (L 0 (5 + k)) := by
  have := d_hr g F A hk f
  rw [hw_cl (show k < 2147483648 by omega)] at this
  exact this
theorem d_hand (g : dG h D L ns Z) (hc : dC F A D L ns X) (N d : Nat) (k w : Int32) : dAns h F A D L (a_hand X.1 k w) (ix_run iy_P N (d + 3) 105 [ix_R (some (D 0)), ix_I k, ix_I w] (hw h F A)) := by
  have hs := g.2.1 0 (by omega)
  rw [rX0_hand N (d + 2)]
  unfold bX0_hand jX0_hand_35 a_hand
  rw [hw_cI (d_isHand _ N d k)]
  dsimp only
  rw [a_if0]
  refine ⟨F, A, ?_, dSc.refl _ _ _ _⟩
  by_cases wk : a_hnd k
  · obtain ⟨j, hj, rfl⟩ := a_hnd_nat wk
    obtain ⟨u0, u6, -, u2, u3, u4, u5, -⟩ := hc.2.1.1.1.2.2.2 j hj
    have u1 := hc.2.1.1.2 j hj
    rw [if_pos wk, d_is g, d_stw g, st_hnd hs, hw_in (by omega) (by omega), cond_true]
    simp only [d_hr0 g _ _ hj, hw_fI, hw_cl (show j < 2147483648 by omega)]
    have ev : ∀ f, f < 7 → a_in (nI f) (nI 0) (nI 6) := fun f hf => ⟨nI_le (Nat.zero_le _) (by omega), nI_le (by omega) (by omega)⟩
    have ne5 : ∀ f, f < 7 → f ≠ 5 → ¬ (nI f = nI 5 ∧ zh X.1 j 1 = nI 0) := fun f hf hne x => hne ((nI_eq (a := f) (b := 5) (by omega) (by omega)).mp x.1)
    by_cases w0 : w = nI 0
    · rw [if_pos w0, w0, if_pos ⟨wk, ev 0 (by omega)⟩, if_neg (ne5 0 (by omega) (by omega)), hw_cl (by omega), u0]
    rw [if_neg w0]
    by_cases w1 : w = nI 1
    · rw [if_pos w1, w1, if_pos ⟨wk, ev 1 (by omega)⟩, if_neg (ne5 1 (by omega) (by omega)), hw_cl (by omega), u1]
    rw [if_neg w1]
    by_cases w2 : w = nI 2
    · rw [if_pos w2, w2, if_pos ⟨wk, ev 2 (by omega)⟩, if_neg (ne5 2 (by omega) (by omega)), hw_cl (by omega), u2]
    rw [if_neg w2]
    by_cases w3 : w = nI 3
    · rw [if_pos w3, w3, if_pos ⟨wk, ev 3 (by omega)⟩, if_neg (ne5 3 (by omega) (by omega)), hw_cl (by omega), u3]
    rw [if_neg w3]
    by_cases w4 : w = nI 4
    · rw [if_pos w4, w4, if_pos ⟨wk, ev 4 (by omega)⟩, if_neg (ne5 4 (by omega) (by omega)), hw_cl (by omega), u4]
    rw [if_neg w4]
    by_cases w5 : w = nI 5
    · rw [if_pos w5, w5, if_pos ⟨wk, ev 5 (by omega)⟩, hw_cl (by omega), u5]
      by_cases s0 : zh X.1 j 1 = nI 0
      · rw [if_pos s0, if_pos ⟨rfl, s0⟩]
      · rw [if_neg s0, if_neg (fun x => s0 x.2)]
    rw [if_neg w5]
    by_cases w6 : w = nI 6
    · rw [if_pos w6, w6, if_pos ⟨wk, ev 6 (by omega)⟩, if_neg (ne5 6 (by omega) (by omega)), hw_cl (by omega), u6]
    rw [if_neg w6, if_neg (fun x => by
      have x2 := x.2
      rw [show nI 6 = nI 7 - nI 1 by decide] at x2
      obtain ⟨f, hf, rfl⟩ := a_in_nat (by omega) x2
      match f, hf with
      | 0, _ => exact w0 rfl
      | 1, _ => exact w1 rfl
      | 2, _ => exact w2 rfl
      | 3, _ => exact w3 rfl
      | 4, _ => exact w4 rfl
      | 5, _ => exact w5 rfl
      | 6, _ => exact w6 rfl)]
  · rw [if_neg wk, if_neg (fun x => wk x.1)]
theorem d_result (g : dG h D L ns Z) (hc : dC F A D L ns X) (N d : Nat) (k : Int32) : dAns h F A D L (a_result X.1 k) (ix_run iy_P N (d + 3) 106 [ix_R (some (D 0)), ix_I k] (hw h F A)) := by
  have hs := g.2.1 0 (by omega)
  rw [rX0_result N (d + 2)]
  unfold bX0_result jX0_result_11 a_result
  rw [hw_cI (d_isHand _ N d k)]
  dsimp only
  rw [a_if0]
  refine ⟨F, A, ?_, dSc.refl _ _ _ _⟩
  by_cases wk : a_hnd k
  · obtain ⟨j, hj, rfl⟩ := a_hnd_nat wk
    obtain ⟨-, -, -, -, -, -, -, u8, -⟩ := hc.2.1.1.1.2.2.2 j hj
    rw [if_pos wk, if_pos wk, d_is g, d_stw g, st_hnd hs, hw_in (by omega) (by omega), cond_true, d_hr g _ _ hj, hw_fI, u8, hw_cl (by omega)]
  · rw [if_neg wk, if_neg wk]
theorem d_halves (g : dG h D L ns Z) (hI : x_I X) (hc : dC F A D L ns X) (hN : 3000 ≤ N) (d : Nat) (w : Int32) : dAns h F A D L (a_halves X.1 w) (ix_run iy_P N (d + 9) 107 [ix_R (some (D 0)), ix_I w] (hw h F A)) := by
  have hs := g.2.1 0 (by omega)
  have hW := hI.1.W
  rw [rX0_halves N (d + 8)]
  unfold bX0_halves jX0_halves_14 a_halves
  by_cases w0 : w = nI 0
  · obtain ⟨rc, hrc⟩ := hI.1.R
    obtain ⟨F', A', e, q⟩ := c_splitsLeft hs hW hrc hc.2.1.2 (N := N) (by omega) d hc.2.1.1.1
    rw [if_pos w0, if_pos w0, d_is g, d_st g, hw_cI e, hrc.rt hW.2.2.1]
    exact ⟨F', A', rfl, q.d⟩
  · rw [if_neg w0, if_neg w0]
    by_cases w1 : w = nI 1
    · obtain ⟨rc, lo, hi⟩ := hI.1
      obtain ⟨F', A', e, q⟩ := c_goneLeft hs hW hc.2.1.2 hc.2.1.1.1 (N := N) (by omega) (d + 1) (fun q hq => by
        obtain ⟨p, p1, p2, p3, p4⟩ := hi.P.b0 q hq
        exact ⟨p, p2, p3⟩)
      rw [if_pos w1, if_pos w1, d_is g, d_st g, hw_cI e]
      exact ⟨F', A', rfl, q.d⟩
    · rw [if_neg w1, if_neg w1]
      exact ⟨F, A, rfl, dSc.refl _ _ _ _⟩
end
