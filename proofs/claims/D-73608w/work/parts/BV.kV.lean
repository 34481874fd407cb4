/-! KV: the component: read -/
set_option maxRecDepth 100000
theorem x_text_in {tk : Nat → tK} {a b c : Int32} {l : List (xT 3)} {t : Nat} (h : x_text tk = .inr ((a, b, c, l, none), t)) : (∃ a' b' c', a = nI a' ∧ b = nI b' ∧ c = nI c' ∧ a' ≤ 8 ∧ 4 ≤ b' ∧ b' ≤ 12 ∧ c' ≤ 3) ∧ (∀ x ∈ l, xT_ok 3 x) ∧ l.length ≤ 400 ∧ ∀ x ∈ l, xT_le 3 x := by
  have hq := xq_text (tk := tk)
  rw [h] at hq
  refine ⟨?_, ?_, hq⟩
  · rw [x_text_eq] at h
    obtain ⟨⟨a1, b1, c1, w⟩, t3, h1, h2⟩ := x_bd_inr h
    obtain ⟨⟨l1, w1⟩, t4, h3, h4⟩ := x_bd_inr h2
    cases h4
    obtain ⟨ew, -⟩ := x_until_ok (P := xT_ok 3) (fun t w x t' => x_told_ok 3 t w x t') _ _ _ _ _ _ (fun x hx => absurd hx List.not_mem_nil) h3
    have ew : w = none := ew
    subst ew
    obtain ⟨⟨i1, i1'⟩, ⟨i2, i2'⟩, i3, i3'⟩ := x_sets_in h1
    obtain ⟨a, la, ea⟩ := nI_of_le (n := 8) (by omega) (Int32.le_trans (by decide) i1) i1'
    obtain ⟨b, lb, eb⟩ := nI_of_le (n := 12) (by omega) (Int32.le_trans (by decide) i2) i2'
    obtain ⟨c, lc, ec⟩ := nI_of_le (n := 3) (by omega) i3 i3'
    subst ea eb ec
    rw [hw_le (by omega) (by omega)] at i2
    exact ⟨a, b, c, rfl, rfl, rfl, la, i2, lb, lc⟩
  · rw [x_text_eq] at h
    obtain ⟨⟨a1, b1, c1, w⟩, t3, h1, h2⟩ := x_bd_inr h
    obtain ⟨⟨l1, w1⟩, t4, h3, h4⟩ := x_bd_inr h2
    cases h4
    exact (x_until_ok (P := xT_ok 3) (fun t w x t' => x_told_ok 3 t w x t') _ _ _ _ _ _ (fun x hx => absurd hx List.not_mem_nil) h3).2
section
variable {h h' h2 : ix_H} {F A F' A' F2 A2 : Nat → Nat → Int32} {D cv : Nat → Nat} {L L' L2 : Nat → Nat → Nat} {ns ns' n2 : Nat → Nat} {Z : Nat × Nat} {W : Nat → Prop} {R Q N k : Nat} {σ : xG} {X : xS}
theorem dFr.d3 (g : dG h D L ns Z) (r : Option Nat) (hf : ∀ b, (∀ j, j < 19 → b ≠ D j) → (∀ i x, i < 5 → x < 18 + 3 * ns i → b ≠ L i x) → F' b = F b ∧ A' b = A b) : dFr h F A D L ns (ix_wfR h (D 3) 2 r) F' A' L ns := by
  have q := dFr.refl (F := F) (A := A) g
  obtain ⟨r1, r2, r3, r4, r5, -⟩ := q
  refine ⟨r1, r2, r3, r4, r5, fun b _ hD hL => ⟨rfl, rfl, ?_, rfl, rfl, rfl, (hf b hD hL).1, (hf b hD hL).2⟩⟩
  funext j
  exact s_fRf' _ _ _ _ (fun q => hD 3 (by omega) q.1)
theorem ok_xRq (q : Nat → ix_H → ix_O) (v : Option Nat) (H : ix_H) (f : Option Nat → ix_H → ix_O) : ix_xR (some (.inl (some (ix_R v)), H)) q f = f v H := rfl
theorem dG.up (g : dG h D L ns Z) {z1 z2 : Nat} (h1 : Z.1 ≤ z1) (h2 : Z.2 ≤ z2) (h3 : z1 ≤ 1000000000) : dG h D L ns (z1, z2) := ⟨g.1, g.2.1, g.2.2.1, g.2.2.2.1, Nat.le_trans g.2.2.2.2.1 h1, Nat.le_trans g.2.2.2.2.2.1 h2, h3⟩
/-- behind a fault -/
theorem d_readF (g : dG h D L ns Z) {v p : Int32} (a4 : F (D 0) 4 = nI (zy X.1)) (a8 : ∀ i, i < 3 → A (D 8) i = a_hl X i) (aV : cV1 F A (L 0) X.1 ∧ zn X.1 ≤ ns 0) (aW : ∀ i T, i < 3 → xq X i = some T → cV1 F A (L (2 + i)) T ∧ zn T ≤ ns (2 + i)) (e6 : F (D 1) 6 = v) (e7 : F (D 1) 7 = p) (cal : ix_C) (K : ix_K) :
    ∃ F2, jX0_read_11 cal K (D 0) (some (D 1)) (hw h F A) = some (.inl (some (ix_I v)), hw h F2 A) ∧ dC F2 A D L ns (X.1, X.2.1, X.2.2.1, 0, p) ∧ dFr h F A D L ns h F2 A L ns := by
  have s' := g.1.k
  unfold jX0_read_11 jX0_read_20
  rw [k_is1 s', k_is1 s', d_is g, hw_bdF, d_is g, hw_fR, g.1.2.1.2.1, k_is2 s', hw_bdF]
  simp only [hw_fI, e6, e7]
  have fc : ∀ b, (∀ j, j < 19 → b ≠ D j) → hw_R (hw_R F (D 0) (hw_U (F (D 0)) 3 p)) (D 2) (hw_U (hw_R F (D 0) (hw_U (F (D 0)) 3 p) (D 2)) 2 (nI 0)) b = F b := fun b hb => (hw_R_ne _ _ (hb 2 (by omega))).trans (hw_R_ne _ _ (hb 0 (by omega)))
  have f3 : hw_R (hw_R F (D 0) (hw_U (F (D 0)) 3 p)) (D 2) (hw_U (hw_R F (D 0) (hw_U (F (D 0)) 3 p) (D 2)) 2 (nI 0)) (D 0) 3 = p := by rw [hw_R_ne _ _ (g.Dne (by omega) (by omega) (by omega)), hw_R_same, hw_U_same]
  have f4 : hw_R (hw_R F (D 0) (hw_U (F (D 0)) 3 p)) (D 2) (hw_U (hw_R F (D 0) (hw_U (F (D 0)) 3 p) (D 2)) 2 (nI 0)) (D 0) 4 = nI (zy X.1) := by
    rw [hw_R_ne _ _ (g.Dne (by omega) (by omega) (by omega)), hw_R_same, hw_U_ne _ _ (by omega)]
    exact a4
  have f2 : hw_R (hw_R F (D 0) (hw_U (F (D 0)) 3 p)) (D 2) (hw_U (hw_R F (D 0) (hw_U (F (D 0)) 3 p) (D 2)) 2 (nI 0)) (D 2) 2 = nI 0 := by rw [hw_R_same, hw_U_same]
  generalize hw_R (hw_R F (D 0) (hw_U (F (D 0)) 3 p)) (D 2) (hw_U (hw_R F (D 0) (hw_U (F (D 0)) 3 p) (D 2)) 2 (nI 0)) = G at fc f2 f3 f4 ⊢
  have cl : ∀ i, i < 5 → ∀ x, G (L i x) = F (L i x) := fun i hi x => fc _ fun j hj => (g.own hi hj x).symm
  exact ⟨G, rfl, ⟨⟨f3, f4, f2, fun q hq => absurd hq (Nat.not_lt_zero q), a8⟩, ⟨cV1.cells aV.2 (fun x _ _ _ _ => cl 0 (by omega) x) (fun _ _ _ => rfl) aV.1, aV.2⟩, fun i T hi hT => ⟨cV1.cells (aW i T hi hT).2 (fun x _ _ _ _ => cl (2 + i) (by omega) x) (fun _ _ _ => rfl) (aW i T hi hT).1, (aW i T hi hT).2⟩⟩, dFr.own g fun b hD _ => ⟨fc b hD, rfl⟩⟩
theorem d_read (g : dG h D L ns Z) (hI : x_I X) (hc : dC F A D L ns X) (hC : kC h F A D cv) (h40 : rA h D L ns (ix_cs h 40)) (hz : Z.1 + (80 * xn X + 200) ≤ 1000000000) (hN : 10000 ≤ N) (d : Nat) :
    ∃ h' F' A' L' ns', ix_run iy_P N (d + 418) 83 [ix_R (some (D 0))] (hw h F A) = some (.inl (some (ix_I (a_read X).1)), hw h' F' A') ∧ dG h' D L' ns' (Z.1 + (80 * xn X + 200), Z.2 + 20 * (80 * xn X + 200)) ∧ dC F' A' D L' ns' (a_read X).2 ∧ dFr h F A D L ns h' F' A' L' ns' ∧ x_rd X := by
  obtain ⟨⟨v1, v2, v3, v4, v5⟩, ⟨c1, c2⟩, c3⟩ := hc
  obtain ⟨hI1, hI2, hn, hb⟩ := hI
  have hs := g.1.k
  have eF : ∀ b, (∀ j, j < 19 → b ≠ D j) → hw_R F (D 0) (hw_U (F (D 0)) 3 (-1)) b = F b := fun b hb => hw_R_ne _ _ (hb 0 (by omega))
  have hC0 : kC h (hw_R F (D 0) (hw_U (F (D 0)) 3 (-1))) A D cv := hC.of fun b hb => ⟨eF b hb, rfl⟩
  have f3 : hw_R F (D 0) (hw_U (F (D 0)) 3 (-1)) (D 0) 3 = -1 := by rw [hw_R_same, hw_U_same]
  have f4 : hw_R F (D 0) (hw_U (F (D 0)) 3 (-1)) (D 0) 4 = nI (zy X.1) := by rw [hw_R_same, hw_U_ne _ _ (by omega)]; exact v2
  have eF2 : ∀ j, j < 19 → j ≠ 0 → hw_R F (D 0) (hw_U (F (D 0)) 3 (-1)) (D j) = F (D j) := fun j hj h0 => hw_R_ne _ _ (g.Dne hj (by omega) h0)
  have hT : kTx (hw_R F (D 0) (hw_U (F (D 0)) 3 (-1))) A D (xb X) (xn X) := ⟨hn, by rw [eF2 2 (by omega) (by omega)]; exact v3, v4, hb⟩
  rw [rX0_read N (d + 417)]
  unfold bX0_read
  rw [d_is g, hw_bdF, d_is g, hw_fR, g.1.2.1.2.2.1, k_isr3 hs]
  generalize hw_R F (D 0) (hw_U (F (D 0)) 3 (-1)) = F0 at eF eF2 hC0 f3 f4 hT ⊢
  obtain ⟨F1, A1, r1, G⟩ := k_parse (N := N) (d := d + 378) hN hs hC0 hT
  -- what the parser leaves
  have fr1 : dFr h F A D L ns (ix_wfR h (D 3) 2 (some (ix_sz h))) F1 A1 L ns := dFr.d3 g _ fun b hD _ => ⟨(r1.1 b (hD 2 (by omega))).trans (eF b hD), r1.2.2.1 b (hD 15 (by omega)) (hD 16 (by omega)) (hD 17 (by omega)) (hD 18 (by omega))⟩
  have g1 := g.d3 (some (ix_sz h))
  have tl : x_le ((tk_at (tk_f (xb X) (xn X)) (xn X) 0).length - 1) (x_text (tk_row (xb X) (xn X))) := x_le_text tk_row_out
  have el : (tk_at (tk_f (xb X) (xn X)) (xn X) 0).length ≤ xn X + 1 := tk_fl_len (xn X - 0) 0
  generalize (tk_at (tk_f (xb X) (xn X)) (xn X) 0).length = e at tl el
  have sz1 : ix_sz (ix_wfR h (D 3) 2 (some (ix_sz h))) = ix_sz h := rfl
  have lt := g.1.2.2.2.2.2.2
  have ll : ∀ i x, i < 5 → x < 18 + 3 * ns i → L i x < ix_sz h := fun i x hi hx => (g.2.1 i hi).2.2.2.2.2.2.2.2.1 x hx
  have all : ∀ {h' F' A'}, gO D (ix_wfR h (D 3) 2 (some (ix_sz h))) F1 A1 h' F' A' (80 * xn X + 180) → dG h' D L ns (Z.1 + (80 * xn X + 180), Z.2 + 20 * (80 * xn X + 180)) ∧ dFr h F A D L ns h' F' A' L ns ∧ F' (D 0) 3 = -1 ∧ F' (D 0) 4 = nI (zy X.1) ∧ (∀ i, i < 3 → A' (D 8) i = a_hl X i) ∧ (∀ i T, i < 5 → zn T ≤ ns i → cV1 F A (L i) T → cV1 F' A' (L i) T) := fun {h' F' A'} go => by
    have fr := fr1.trans (dFr.gO g1 go)
    have F0' : F' (D 0) = F0 (D 0) := ((go.2.2.2.2 (D 0) (lt 0 (by omega))).2.2.2.2.2.2.2 (g.Dne (by omega) (by omega) (by omega)) (g.Dne (by omega) (by omega) (by omega))).trans (r1.1 _ (g.Dne (by omega) (by omega) (by omega)))
    have A8 : A' (D 8) = A (D 8) := ((go.2.2.2.2 (D 8) (lt 8 (by omega))).2.2.2.2.2.2.1).trans (r1.2.2.1 _ (g.Dne (by omega) (by omega) (by omega)) (g.Dne (by omega) (by omega) (by omega)) (g.Dne (by omega) (by omega) (by omega)) (g.Dne (by omega) (by omega) (by omega)))
    refine ⟨g1.gO go (by omega), fr, by rw [F0']; exact f3, by rw [F0']; exact f4, fun i hi => by rw [A8]; exact v5 i hi, fun i T hi hT hV => ?_⟩
    have cl : ∀ x, x < 18 + 3 * ns i → F' (L i x) = F (L i x) ∧ A' (L i x) = A (L i x) := fun x hx => by
      have o := go.2.2.2.2 (L i x) (ll i x hi hx)
      have n : ∀ j, j < 19 → L i x ≠ D j := fun j hj => (g.own hi hj x).symm
      exact ⟨(o.2.2.2.2.2.2.2 (n 1 (by omega)) (n 3 (by omega))).trans ((r1.1 _ (n 2 (by omega))).trans (eF _ n)), o.2.2.2.2.2.2.1.trans (r1.2.2.1 _ (n 15 (by omega)) (n 16 (by omega)) (n 17 (by omega)) (n 18 (by omega)))⟩
    exact cV1.cells hT (fun x hx _ _ _ => (cl x hx).1) (fun x hx _ => (cl x hx).2) hV
  -- a fault
  have flt : ∀ {v p : Int32} {h' F' A'}, gO D (ix_wfR h (D 3) 2 (some (ix_sz h))) F1 A1 h' F' A' (80 * xn X + 180) → F' (D 1) 6 = v → F' (D 1) 7 = p → ∃ h2 F2 A2 L' ns', jX0_read_11 (ix_run iy_P N (d + 417)) (ix_lp (ix_run iy_P N (d + 417)) stX0_read N) (D 0) (some (D 1)) (hw h' F' A') = some (.inl (some (ix_I v)), hw h2 F2 A2) ∧ dG h2 D L' ns' (Z.1 + (80 * xn X + 200), Z.2 + 20 * (80 * xn X + 200)) ∧ dC F2 A2 D L' ns' (X.1, X.2.1, X.2.2.1, 0, p) ∧ dFr h F A D L ns h2 F2 A2 L' ns' := fun {v p h' F' A'} go e6 e7 => by
    obtain ⟨g', fr', a3, a4, a8, aV⟩ := all go
    obtain ⟨F2, e, c2', f2⟩ := d_readF g' a4 a8 ⟨aV 0 _ (by omega) c2 c1, c2⟩ (fun i T hi hT => ⟨aV (2 + i) _ (by omega) (c3 i T hi hT).2 (c3 i T hi hT).1, (c3 i T hi hT).2⟩) e6 e7 (ix_run iy_P N (d + 417)) (ix_lp (ix_run iy_P N (d + 417)) stX0_read N)
    exact ⟨h', F2, A', L, ns, e, g'.up (by omega) (by omega) hz, c2', fr'.trans f2⟩
  rw [show d + 378 + 39 = d + 417 from rfl] at G
  generalize ix_run iy_P N (d + 417) 149 [ix_R (some (D 3))] (hw h F0 A) = out at G ⊢
  unfold x_rd
  rw [a_read_eq]
  generalize hx : x_text (tk_row (xb X) (xn X)) = r at G tl ⊢
  rcases r with ⟨n, t⟩ | ⟨⟨a, b, c, l, _ | x⟩, t⟩
  · clear hx
    obtain ⟨-, h', F', A', e1, e6, e7, go⟩ := G
    have tl : t ≤ e - 1 + 1 := tl
    obtain ⟨h2, F2, A2, L', ns', e2, g2, c2', f2⟩ := flt (go.mono (by show 80 * (t - 0) + 100 ≤ _; omega)) e6 e7
    rw [e1]
    exact ⟨h2, F2, A2, L', ns', e2, g2, c2', f2, .inl ⟨_, rfl⟩⟩
  · obtain ⟨h', F', A', ro, e1, go, ⟨x1, x2, x3, x4, x5, x6, x7⟩, gt⟩ := G
    have tl : t ≤ e - 1 := tl
    obtain ⟨⟨a', b', c', rfl, rfl, rfl, la, lb, lb2, lc⟩, ok, le⟩ := x_text_in hx
    obtain ⟨g', fr', a3, a4, a8, aV⟩ := all (go.mono (by omega))
    have nw : ∀ b, ix_sz h ≤ b → b < ix_sz h' → rA h' D L ns b := fun b h1 h2 => ⟨h2, fun j hj q => by have := lt j hj; omega, fun i x hi hx q => by have := ll i x hi hx; omega⟩
    have h40' : rA h' D L ns (ix_cs h' 40) := by rw [fr'.1]; exact h40.fr fr'
    obtain ⟨h2, F2, A2, L2, n2, e2, g2, w1, w2, w3, w4, w5, w6, w7, f2, J⟩ := d_goes (N := N) (W := rg (ix_sz (ix_wfR h (D 3) 2 (some (ix_sz h)))) (ix_sz h')) g' (by dsimp only; omega) (by omega) (aV 0 X.1 (by omega) c2 c1) gt x3 x4 x5 x6 x7 (by omega) lb (by omega) (by omega) ok le (fun b hb => nw b hb.1 hb.2) (nw _ x1 x2) h40' d
    have s2 := g2.1.k
    rw [e1, ok_xRq, c_isr g'.1.1.1 (by decide), hw_cV e2]
    unfold jX0_read_20
    rw [d_is g2, hw_fR, g2.1.2.1.2.1, k_is2 s2, hw_bdF]
    refine ⟨h2, _, A2, L2, n2, rfl, g2.up (by omega) (by omega) hz, ⟨⟨?_, ?_, ?_, fun q hq => absurd hq (Nat.not_lt_zero q), fun i hi => (w4 i hi).trans rfl⟩, ⟨?_, w2⟩, fun i T hi hT => by cases hT⟩, (fr'.trans f2).trans (dFr.own g2 fun b hD _ => ⟨hw_R_ne _ _ (hD 2 (by omega)), rfl⟩), .inr ⟨_, J, rfl⟩⟩
    · rw [hw_R_ne _ _ (g.Dne (by omega) (by omega) (by omega)), w5]
      exact a3
    · rw [hw_R_ne _ _ (g.Dne (by omega) (by omega) (by omega))]
      exact w3
    · rw [hw_R_same, hw_U_same]
      rfl
    · exact cV1.cells w2 (fun x _ _ _ _ => hw_R_ne _ _ (g2.own (by omega) (by omega) x).symm) (fun _ _ _ => rfl) w1
  · clear hx
    obtain ⟨h', F', A', e1, e6, e7, go⟩ := G
    have tl : t ≤ e - 1 := tl
    obtain ⟨h2, F2, A2, L', ns', e2, g2, c2', f2⟩ := flt (go.mono (by omega)) e6 e7
    rw [e1]
    exact ⟨h2, F2, A2, L', ns', e2, g2, c2', f2, .inl ⟨_, rfl⟩⟩
end
