/-! KU: the component: a text is gone through -/
set_option maxRecDepth 100000
section
variable {h h' h2 : ix_H} {F A F' A' F2 A2 : Nat → Nat → Int32} {D : Nat → Nat} {L L' L2 : Nat → Nat → Nat} {ns ns' n2 : Nat → Nat} {Z : Nat × Nat} {W : Nat → Prop} {R Q N k : Nat} {σ : xG}
/-- a new run -/
theorem r_new (g : dG h D L ns Z) (hz : Z.1 + 2 ≤ 1000000000) (hW : ∀ b, W b → rA h D L ns b) (h40 : rA h D L ns (ix_cs h 40)) {S : zS} (hV : cV1 F A (L 0) S) (hn : zn S ≤ ns 0) (hy : zy S = 0) (N d : Nat) :
    ∃ h' F' A', ix_run iy_P N (d + 1) 135 [ix_R (some (ix_sz h)), ix_R (some (L 0 0))] (hw (ix_nwO h 17 5) (hw_R F (ix_sz h) (fun _ => 0)) A) = some (.inl none, hw h' F' A') ∧ gO D h F A h' F' A' 2 ∧ rK h' D L ns (Z.1 + 2, Z.2 + 20 * 2) W (ix_sz h) (ix_sz h + 1) ∧ rV F' A' L ns (ix_sz h) (ix_sz h + 1) (S, nI 0, []) ∧ ∀ b, b < ix_sz h → F' b = F b := by
  have n1 : ix_sz h ≠ ix_sz h + 1 := by omega
  have tR : ix_tg (ix_nwA (ix_nwO h 17 5) 101 4) (ix_sz h) = 17 := by
    rw [s_tgA' _ _ _ (show ix_sz h ≠ ix_sz (ix_nwO h 17 5) from n1)]
    exact s_tgO h 17 5
  have tR2 : ix_tg (ix_wfR (ix_nwA (ix_nwO h 17 5) 101 4) (ix_sz h) 1 (some (ix_sz h + 1))) (ix_sz h) = 17 := tR
  have gg : gO D h F A (ix_wfR (ix_wfR (ix_nwA (ix_nwO h 17 5) 101 4) (ix_sz h) 1 (some (ix_sz h + 1))) (ix_sz h) 0 (some (L 0 0))) (hw_R F (ix_sz h) (fun _ => 0)) (hw_R A (ix_sz h + 1) (fun _ => 0)) 2 := ((((gO.refl D h F A).nwO 17 (by omega)).nwA 101 1 (by omega) (by omega)).wfR (Nat.le_refl _) 1 _).wfR (Nat.le_refl _) 0 _
  have ls : ∀ i x, i < 5 → x < 18 + 3 * ns i → L i x < ix_sz h := fun i x hi hx => (g.2.1 i hi).2.2.2.2.2.2.2.2.1 x hx
  have szn : ix_sz (ix_wfR (ix_wfR (ix_nwA (ix_nwO h 17 5) 101 4) (ix_sz h) 1 (some (ix_sz h + 1))) (ix_sz h) 0 (some (L 0 0))) = ix_sz h + 2 := rfl
  have fr := dFr.gO g gg
  refine ⟨_, _, _, ?_, gg, ⟨g.gO gg hz, ⟨tR, s_fRf _ _ _ _, ?_, ?_, ?_⟩, ⟨⟨by omega, fun j hj q => ?_, fun i x hi hx q => ?_⟩, by omega, fun j hj q => ?_, fun i x hi hx q => ?_⟩, fun b hb => ⟨(hW b hb).fr fr, by have := (hW b hb).1; omega, by have := (hW b hb).1; omega⟩, h40.fr fr⟩, ⟨?_, hn, ?_, ?_, ?_, trivial, Nat.zero_le _⟩, fun b hb => hw_R_ne _ _ (by omega)⟩
  · rw [rX18_init N d]
    unfold bX18_init
    rw [hw_in (by omega) (by omega), cond_true, hw_bA, hw_cl (by omega), c_is tR, hw_sz, s_szO, hw_bfR, c_is tR2, hw_bfR]
  · rw [s_fRf' _ _ _ _ (fun q => absurd q.2 (by decide)), s_fRf]
  · show ix_tg (ix_nwA (ix_nwO h 17 5) 101 4) (ix_sz h + 1) = 101
    exact s_tgA _ _ _
  · show ix_ln (ix_nwA (ix_nwO h 17 5) 101 4) (ix_sz h + 1) = 4
    exact s_lnA _ _ _
  · have := g.1.2.2.2.2.2.2 j hj
    omega
  · have := ls i x hi hx
    omega
  · have := g.1.2.2.2.2.2.2 j hj
    omega
  · have := ls i x hi hx
    omega
  · exact cV1.cells hn (fun x hx _ _ _ => hw_R_ne _ _ (by have := ls 0 x (by omega) hx; omega)) (fun x hx _ => hw_R_ne _ _ (by have := ls 0 x (by omega) hx; omega)) hV
  · rw [hw_R_same]
    rfl
  · rw [hw_R_same]
    rfl
  · show hw_R F (ix_sz h) (fun _ => 0) (ix_sz h) 4 = nI (zy S)
    rw [hw_R_same, hy]
    rfl
theorem d_goes (g : dG h D L ns Z) (hz : Z.1 + 2 ≤ 1000000000) (hN : 3000 ≤ N) {S0 : zS} (hV : cV1 F A (L 0) S0) {l : List (xT 3)} {ro tx a b c : Nat} (hT : gTr h F W 4 (.inr (nI 1, l)) ro) (tt : ix_tg h tx = 8) (tf : ix_fR h tx 0 = some ro) (fa : F tx 1 = nI a) (fb : F tx 2 = nI b) (fc : F tx 3 = nI c) (ha : a < 100) (hb : 4 ≤ b) (hb2 : b < 100) (hc : c < 100) (ok : ∀ x ∈ l, xT_ok 3 x) (le : l.length ≤ 400 ∧ ∀ x ∈ l, xT_le 3 x) (hW : ∀ b, W b → rA h D L ns b) (hx : rA h D L ns tx) (h40 : rA h D L ns (ix_cs h 40)) (d : Nat) :
    ∃ h' F' A' L' ns', ix_run iy_P N (d + 417) 84 [ix_R (some (D 0)), ix_R (some tx)] (hw h F A) = some (.inl none, hw h' F' A') ∧ dG h' D L' ns' (Z.1 + 2, Z.2 + 40) ∧ cV1 F' A' (L' 0) (r_text (nI a) (nI b) (nI c) l) ∧ zn (r_text (nI a) (nI b) (nI c) l) ≤ ns' 0 ∧ F' (D 0) 4 = nI (zy (r_text (nI a) (nI b) (nI c) l)) ∧ (∀ q, q < 3 → A' (D 8) q = nI 0) ∧ F' (D 0) 3 = F (D 0) 3 ∧ (∀ j, j < 19 → j ≠ 0 → F' (D j) = F (D j)) ∧ (∀ j, j < 19 → j ≠ 8 → A' (D j) = A (D j)) ∧ dFr h F A D L ns h' F' A' L' ns' ∧ uJ (r_text (nI a) (nI b) (nI c) l) := by
  have po := c_begins2 (g.2.1 0 (by omega)) (p0 := zp S0) (t := zt S0) hV.1.1.2.1 hV.1.2.1 tt fa fb fc (N := N) (by omega) (d + 411)
  obtain ⟨h1, F1, A1, M, mr, e1, hs1, hn1, ex, hV1⟩ := po
  obtain ⟨g1, cD1, -, fr1⟩ := g.sto (i := 0) (by omega) ex hs1
  rw [rX0_goesThrough N (d + 416)]
  unfold bX0_goesThrough
  rw [d_is g, d_st g, hw_cV (show ix_run iy_P N (d + 416) 172 [ix_R (some (L 0 0)), ix_R (some tx)] (hw h F A) = _ from e1)]
  have hV1' : cV1 F1 A1 (d_up L 0 M 0) (z_beg a b c) := by rw [d_up_same]; exact hV1
  have hn1' : zn (z_beg a b c) ≤ d_up ns 0 mr 0 := by rw [d_up_same]; exact hn1
  obtain ⟨h2, F2, A2, e2, gg, K2, V2, oF2⟩ := r_new (W := W) g1 hz (fun b hb => (hW b hb).fr fr1) (by rw [fr1.1]; exact h40.fr fr1) hV1' hn1' rfl N (d + 415)
  have hT1 := fr1.tr hW h40 hT
  have fr12 := dFr.gO g1 gg
  have hT2 := fr12.tr (fun b hb => (hW b hb).fr fr1) (by rw [fr1.1]; exact h40.fr fr1) hT1
  have x1 := hx.fr fr1
  obtain ⟨u1, -, u3, -, -, -, -, -⟩ := fr1.2.2.2.2.2 tx hx.1 hx.2.1 hx.2.2
  obtain ⟨w1, -, w3, -, -, -, -, -⟩ := fr12.2.2.2.2.2 tx x1.1 x1.2.1 x1.2.2
  have L0 : d_up L 0 M 0 0 = L 0 0 := fr1.2.2.2.1 0 0 (by omega) (by omega)
  have e0 : ∀ (f : Nat → ix_O), (ix_is (hw (ix_nwO h1 17 5) (hw_R F1 (ix_sz h1) (fun _ => 0)) A1) 1 (some (D 0))).bind f = f (D 0) := fun f => c_is (by
    rw [s_tgO' _ _ _ (by have := g1.1.2.2.2.2.2.2 0 (by omega); omega)]
    exact g1.1.1.1) _ _ f
  have f5 : ix_fR (ix_nwO h1 17 5) (D 0) 5 = some (L 0 0) := by
    rw [s_fRO' _ _ _ _ (by have := g1.1.2.2.2.2.2.2 0 (by omega); omega), g1.1.2.1.2.2.2.1, L0]
  rw [L0] at e2
  rw [hw_bO, e0, hw_sz, c_isr (s_tgO h1 17 5) (by decide), hw_fR, f5, hw_cV e2, c_is (show ix_tg h2 tx = 8 by rw [w1, u1]; exact tt), hw_fR, w3, u3, tf, c_isr hT2.2.1 (by decide)]
  -- the tells
  have J0 : uJ (z_beg a b c) := uJ_beg ha hb hb2 hc
  obtain ⟨⟨h3, F3, A3, L3, n3, e3, K3, V3, f3⟩, J3, r3⟩ := r_allF (σ := (z_beg a b c, nI 0, [])) hN (r_tellW hN d 3) ok le K2 hT2 J0 V2 (by show 0 + 3 ≤ 3; omega)
  have er : (r_all (r_tell 3) l (z_beg a b c, nI 0, [])).1 = r_text (nI a) (nI b) (nI c) l := by
    unfold r_text
    rw [hw_cl (by omega), hw_cl (by omega), hw_cl (by omega)]
  obtain ⟨v1, v2, v3, v4, v5, v6, v7⟩ := V3
  rw [er] at v1 v2 v5 J3
  rw [hw_cV (show ix_run iy_P N (d + 416) 227 [ix_R (some ro), ix_R (some (ix_sz h1))] (hw h2 F2 A2) = _ from e3), c_is K3.2.1.1, c_is K3.1.1.1.1, hw_fI, v5, hw_bdF, ← lX0_goesThrough_20]
  obtain ⟨A4, e4, q1, -, q3⟩ := d_unheld (F := hw_R F3 (D 0) (hw_U (F3 (D 0)) 4 (nI (zy (r_text (nI a) (nI b) (nI c) l))))) K3.1 (ix_run iy_P N (d + 416)) 3 0 (N + 1) A3 (Nat.zero_add _) (by omega)
  have frA : dFr h F A D L ns h3 F3 A3 L3 n3 := fr1.trans (fr12.run (Nat.le_refl _) (by omega) f3)
  have frB : dFr h3 F3 A3 D L3 n3 h3 (hw_R F3 (D 0) (hw_U (F3 (D 0)) 4 (nI (zy (r_text (nI a) (nI b) (nI c) l))))) A4 L3 n3 := dFr.own K3.1 fun b hD _ => ⟨hw_R_ne _ _ (hD 0 (by omega)), q1 b (hD 8 (by omega))⟩
  have gD : ∀ j, j < 19 → F3 (D j) = F (D j) ∧ A3 (D j) = A (D j) := fun j hj => by
    obtain ⟨a1, a2⟩ := f3.2.2.2.2.2.1 j hj
    obtain ⟨b1, b2⟩ := cD1 j hj
    have dl := g1.1.2.2.2.2.2.2 j hj
    have c1 : F2 (D j) = F1 (D j) := oF2 _ dl
    have c2 : A2 (D j) = A1 (D j) := (gg.2.2.2.2 (D j) dl).2.2.2.2.2.2.1
    exact ⟨a1.trans (c1.trans b1), a2.trans (c2.trans b2)⟩
  refine ⟨h3, _, A4, L3, n3, e4, K3.1, ?_, v2, ?_, fun q hq => q3 q (Nat.zero_le _) hq, ?_, fun j hj h0 => ?_, fun j hj h8 => ?_, frA.trans frB, J3⟩
  · exact cV1.cells v2 (fun x _ _ _ _ => hw_R_ne _ _ (K3.1.own (by omega) (by omega) x).symm) (fun x _ _ => q1 _ (K3.1.own (by omega) (by omega) x).symm) v1
  · rw [hw_R_same, hw_U_same]
  · rw [hw_R_same, hw_U_ne _ _ (by omega), (gD 0 (by omega)).1]
  · rw [hw_R_ne _ _ (K3.1.Dne hj (by omega) h0), (gD j hj).1]
  · rw [q1 _ (K3.1.Dne hj (by omega) h8), (gD j hj).2]
end
