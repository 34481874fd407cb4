/-! D1: the component: what is done, what is asked (by keys) -/
set_option maxRecDepth 100000
def dDo (h : ix_H) (F A : Nat → Nat → Int32) (D : Nat → Nat) (L : Nat → Nat → Nat) (ns : Nat → Nat) (Z : Nat × Nat) (r : Int32 × xS) (o : ix_O) : Prop :=
  ∃ h' F' A' L' ns', o = some (.inl (some (ix_I r.1)), hw h' F' A') ∧ dG h' D L' ns' Z ∧ dC F' A' D L' ns' r.2 ∧ dFr h F A D L ns h' F' A' L' ns'
/-- what asking changes -/
def dSc (D : Nat → Nat) (L : Nat → Nat) (F A F' A' : Nat → Nat → Int32) : Prop :=
  (∀ b, b ≠ L 9 → b ≠ L 12 → b ≠ L 15 → b ≠ D 5 → F' b = F b) ∧ ∀ b, b ≠ L 4 → b ≠ L 10 → b ≠ L 11 → b ≠ L 13 → b ≠ L 14 → b ≠ L 16 → b ≠ L 17 → b ≠ D 6 → b ≠ D 7 → b ≠ D 9 → b ≠ D 10 → A' b = A b
theorem cSc.d {D : Nat → Nat} {L : Nat → Nat} {F A F' A' : Nat → Nat → Int32} (h : cSc L F A F' A') : dSc D L F A F' A' := ⟨fun b a1 a2 a3 _ => h.1 b a1 a2 a3, fun b a1 a2 a3 a4 a5 a6 a7 _ _ _ _ => h.2 b a1 a2 a3 a4 a5 a6 a7⟩
theorem cSk.d {D : Nat → Nat} {L : Nat → Nat} {F A F' A' : Nat → Nat → Int32} (h : cSk L (D 9) (D 10) F A F' A') : dSc D L F A F' A' := ⟨fun b _ _ a3 _ => h.1 b a3, fun b a1 _ _ _ _ a6 a7 _ _ a10 a11 => h.2 b a10 a11 a1 a6 a7⟩
section
variable {h : ix_H} {F A : Nat → Nat → Int32} {D : Nat → Nat} {L : Nat → Nat → Nat} {ns : Nat → Nat} {Z : Nat × Nat} {X : xS} {N : Nat}
theorem dFr.refl (g : dG h D L ns Z) : dFr h F A D L ns h F A L ns :=
  ⟨rfl, Nat.le_refl _, fun _ => Nat.le_refl _, fun _ _ _ _ => rfl, fun i x hi hx => by have := (g.2.1 i hi).2.2.2.2.2.2.2.2.2.1 x hx; have := g.2.2.2.2; omega, fun _ _ _ _ => ⟨rfl, rfl, rfl, rfl, rfl, rfl, rfl, rfl⟩⟩
theorem dFr.own (g : dG h D L ns Z) {F' A' : Nat → Nat → Int32} (hf : ∀ b, (∀ j, j < 19 → b ≠ D j) → (∀ i x, i < 5 → x < 18 + 3 * ns i → b ≠ L i x) → F' b = F b ∧ A' b = A b) : dFr h F A D L ns h F' A' L ns :=
  ⟨rfl, Nat.le_refl _, fun _ => Nat.le_refl _, fun _ _ _ _ => rfl, fun i x hi hx => by have := (g.2.1 i hi).2.2.2.2.2.2.2.2.2.1 x hx; have := g.2.2.2.2; omega, fun b _ hD hL => ⟨rfl, rfl, rfl, rfl, rfl, rfl, (hf b hD hL).1, (hf b hD hL).2⟩⟩
theorem dSc.fr (g : dG h D L ns Z) {F' A' : Nat → Nat → Int32} (q : dSc D (L 0) F A F' A') : dFr h F A D L ns h F' A' L ns :=
  dFr.own g fun b hD hL => ⟨q.1 b (hL 0 9 (by omega) (by omega)) (hL 0 12 (by omega) (by omega)) (hL 0 15 (by omega) (by omega)) (hD 5 (by omega)), q.2 b (hL 0 4 (by omega) (by omega)) (hL 0 10 (by omega) (by omega)) (hL 0 11 (by omega) (by omega)) (hL 0 13 (by omega) (by omega)) (hL 0 14 (by omega) (by omega)) (hL 0 16 (by omega) (by omega)) (hL 0 17 (by omega) (by omega)) (hD 6 (by omega)) (hD 7 (by omega)) (hD 9 (by omega)) (hD 10 (by omega))⟩
theorem dSc.c (g : dG h D L ns Z) (hc : dC F A D L ns X) {F' A' : Nat → Nat → Int32} (q : dSc D (L 0) F A F' A') : dC F' A' D L ns X := by
  obtain ⟨⟨v1, v2, v3, v4, v5⟩, ⟨c1, c2⟩, c3⟩ := hc
  have hs := g.2.1 0 (by omega)
  have fD : ∀ j, j < 19 → j ≠ 5 → F' (D j) = F (D j) := fun j hj h5 => q.1 _ (g.own (by omega) hj 9) (g.own (by omega) hj 12) (g.own (by omega) hj 15) (g.Dne hj (by omega) h5)
  have aD : ∀ j, j < 19 → j ≠ 6 → j ≠ 7 → j ≠ 9 → j ≠ 10 → A' (D j) = A (D j) := fun j hj h6 h7 h9 h10 => q.2 _ (g.own (by omega) hj 4) (g.own (by omega) hj 10) (g.own (by omega) hj 11) (g.own (by omega) hj 13) (g.own (by omega) hj 14) (g.own (by omega) hj 16) (g.own (by omega) hj 17) (g.Dne hj (by omega) h6) (g.Dne hj (by omega) h7) (g.Dne hj (by omega) h9) (g.Dne hj (by omega) h10)
  refine ⟨⟨by rw [fD 0 (by omega) (by omega)]; exact v1, by rw [fD 0 (by omega) (by omega)]; exact v2, by rw [fD 2 (by omega) (by omega)]; exact v3, fun k hk => by rw [aD 14 (by omega) (by omega) (by omega) (by omega) (by omega)]; exact v4 k hk, fun i hi => by rw [aD 8 (by omega) (by omega) (by omega) (by omega) (by omega)]; exact v5 i hi⟩, ⟨?_, c2⟩, fun i T hi hT => ⟨?_, (c3 i T hi hT).2⟩⟩
  · exact cV1.cells c2 (fun j _ n9 n12 n15 => q.1 _ (hs.ne n9) (hs.ne n12) (hs.ne n15) (g.own (by omega) (by omega) j).symm) (fun j _ hj => q.2 _ (hs.ne (by omega)) (hs.ne (by omega)) (hs.ne (by omega)) (hs.ne (by omega)) (hs.ne (by omega)) (hs.ne (by omega)) (hs.ne (by omega)) (g.own (by omega) (by omega) j).symm (g.own (by omega) (by omega) j).symm (g.own (by omega) (by omega) j).symm (g.own (by omega) (by omega) j).symm) c1
  · have ap := g.2.2.1 0 (2 + i) (by omega) (by omega) (by omega)
    exact cV1.cells (c3 i T hi hT).2 (fun j hj _ _ _ => q.1 _ (ap 9 j (by omega) hj) (ap 12 j (by omega) hj) (ap 15 j (by omega) hj) (g.own (by omega) (by omega) j).symm) (fun j hj _ => q.2 _ (ap 4 j (by omega) hj) (ap 10 j (by omega) hj) (ap 11 j (by omega) hj) (ap 13 j (by omega) hj) (ap 14 j (by omega) hj) (ap 16 j (by omega) hj) (ap 17 j (by omega) hj) (g.own (by omega) (by omega) j).symm (g.own (by omega) (by omega) j).symm (g.own (by omega) (by omega) j).symm (g.own (by omega) (by omega) j).symm) (c3 i T hi hT).1
theorem dDo.same (g : dG h D L ns Z) (hc : dC F A D L ns X) (v : Int32) : dDo h F A D L ns Z (v, X) (some (.inl (some (ix_I v)), hw h F A)) := ⟨h, F, A, L, ns, rfl, g, hc, dFr.refl g⟩
theorem dDo.scr (g : dG h D L ns Z) (hc : dC F A D L ns X) {F' A' : Nat → Nat → Int32} (q : dSc D (L 0) F A F' A') (v : Int32) : dDo h F A D L ns Z (v, X) (some (.inl (some (ix_I v)), hw h F' A')) := ⟨h, F', A', L, ns, rfl, g, q.c g hc, q.fr g⟩
/-- a method of the store did something -/
theorem dDo.sto (g : dG h D L ns Z) (hc : dC F A D L ns X) {S' : zS} {v : Int32} {o : ix_O} (po : cPo1 h F A (L 0) (ns 0) S' (some (ix_I v)) o) (hy : zy S' = zy X.1) : ∃ h' F' A', o = some (.inl (some (ix_I v)), hw h' F' A') ∧ dDo h F A D L ns Z (v, x_st X S') (some (.inl (some (ix_I v)), hw h' F' A')) := by
  obtain ⟨h', F', A', M, mr, e, hs, hn, ex, hV⟩ := po
  obtain ⟨g', cD, co, fr⟩ := g.sto (i := 0) (by omega) ex hs
  obtain ⟨⟨v1, v2, v3, v4, v5⟩, ⟨c1, c2⟩, c3⟩ := hc
  refine ⟨h', F', A', e, h', F', A', _, _, rfl, g', ⟨⟨by rw [(cD 0 (by omega)).1]; exact v1, by rw [(cD 0 (by omega)).1, v2]; exact congrArg nI hy.symm, by rw [(cD 2 (by omega)).1]; exact v3, fun k hk => by rw [(cD 14 (by omega)).2]; exact v4 k hk, fun i hi => by rw [(cD 8 (by omega)).2]; exact v5 i hi⟩, ⟨by rw [d_up_same]; exact hV, by rw [d_up_same]; exact hn⟩, fun i T hi hT => ?_⟩, fr⟩
  rw [d_up_ne _ _ (show 2 + i ≠ 0 by omega), d_up_ne _ _ (show 2 + i ≠ 0 by omega)]
  exact ⟨co (2 + i) T (by omega) (by omega) (c3 i T hi hT).2 (c3 i T hi hT).1, (c3 i T hi hT).2⟩
/-! reading the component's fields -/
theorem d_is (g : dG h D L ns Z) (F A : Nat → Nat → Int32) (f : Nat → ix_O) : (ix_is (hw h F A) 1 (some (D 0))).bind f = f (D 0) := c_is g.1.1.1 F A f
theorem d_isr (g : dG h D L ns Z) (F A : Nat → Nat → Int32) (f : Nat → ix_O) : (ix_isr (hw h F A) 1 (some (D 0))).bind f = f (D 0) := c_isr g.1.1.1 (by decide) F A f
theorem d_st (g : dG h D L ns Z) (F A : Nat → Nat → Int32) (f : Nat → ix_O) : (ix_isr (hw h F A) 5 (ix_fR (hw h F A) (D 0) 5)).bind f = f (L 0 0) := by
  rw [hw_fR, g.1.2.1.2.2.2.1]
  exact st_isr (g.2.1 0 (by omega)) F A f
theorem d_stw (g : dG h D L ns Z) (F A : Nat → Nat → Int32) (f : Nat → ix_O) : (ix_is (hw h F A) 5 (ix_fR (hw h F A) (D 0) 5)).bind f = f (L 0 0) := by
  rw [hw_fR, g.1.2.1.2.2.2.1]
  exact st_is (g.2.1 0 (by omega)) F A f
theorem d_key (g : dG h D L ns Z) (F A : Nat → Nat → Int32) (i : Int32) (f : Nat → ix_O) : (ix_atr (hw h F A) 101 (ix_fR (hw h F A) (D 0) 10) i).bind f = cond (ix_in i 1000) (f (D 9)) none := by
  rw [hw_fR, g.1.2.1.2.2.2.2.2.2.2.2.1]
  exact c_atr (g.1.1.2.2.2.2.2.2.2.1 9 (by omega) (by omega)).1 (by decide) (g.1.1.2.2.2.2.2.2.2.1 9 (by omega) (by omega)).2 F A i f
theorem d_wor (g : dG h D L ns Z) (F A : Nat → Nat → Int32) (i : Int32) (f : Nat → ix_O) : (ix_atr (hw h F A) 101 (ix_fR (hw h F A) (D 0) 11) i).bind f = cond (ix_in i 1000) (f (D 10)) none := by
  rw [hw_fR, g.1.2.1.2.2.2.2.2.2.2.2.2.1]
  exact c_atr (g.1.1.2.2.2.2.2.2.2.1 10 (by omega) (by omega)).1 (by decide) (g.1.1.2.2.2.2.2.2.2.1 10 (by omega) (by omega)).2 F A i f
theorem d_isIn (h : ix_H) (N d : Nat) (a b c : Int32) : ix_run iy_P N (d + 1) 88 [ix_I a, ix_I b, ix_I c] h = some (.inl (some (ix_I (if a_in a b c then nI 1 else nI 0))), h) := by
  rw [rX0_isIn N d]
  unfold bX0_isIn jX0_isIn_8 jX0_isIn_10
  by_cases w1 : a < b
  · rw [if_pos w1, if_neg (fun w : a_in a b c => by
      have := w.1
      rw [Int32.le_iff_toInt_le] at this
      rw [Int32.lt_iff_toInt_lt] at w1
      omega), hw_okn1_0, cond_true]
  · rw [if_neg w1]
    by_cases w2 : c < a
    · rw [if_pos w2, if_neg (fun w : a_in a b c => by
        have := w.2
        rw [Int32.le_iff_toInt_le] at this
        rw [Int32.lt_iff_toInt_lt] at w2
        omega), hw_okn1_0, cond_true]
    · rw [if_neg w2, if_pos (show a_in a b c from ⟨kv_nlt_le.mp w1, kv_nlt_le.mp w2⟩), hw_okn1_1, cond_true]
theorem d_isKey (h : ix_H) (N d : Nat) (a : Int32) : ix_run iy_P N (d + 2) 89 [ix_I a] h = some (.inl (some (ix_I (if a_key a then nI 1 else nI 0))), h) := by
  rw [rX0_isKey N (d + 1)]
  unfold bX0_isKey
  rw [hw_cI (d_isIn h N d a (nI 0) (nI 999))]
  dsimp only
  rw [a_okn, cond_true]
theorem d_isHand (h : ix_H) (N d : Nat) (a : Int32) : ix_run iy_P N (d + 2) 87 [ix_I a] h = some (.inl (some (ix_I (if a_hnd a then nI 1 else nI 0))), h) := by
  rw [rX0_isHand N (d + 1)]
  unfold bX0_isHand
  rw [hw_cI (d_isIn h N d a (nI 0) (nI 3))]
  dsimp only
  rw [a_okn, cond_true]
/-! what is done -/
theorem d_begin (g : dG h D L ns Z) (hI : x_I X) (hc : dC F A D L ns X) (N d : Nat) (k act key v : Int32) : dDo h F A D L ns Z ((a_begin X.1 k act key v).1, x_st X (a_begin X.1 k act key v).2) (ix_run iy_P N (d + 3) 86 [ix_R (some (D 0)), ix_I k, ix_I act, ix_I key, ix_I v] (hw h F A)) := by
  rw [rX0_begin N (d + 2)]
  unfold bX0_begin jX0_begin_21 jX0_begin_23 a_begin
  have no : dDo h F A D L ns Z (nI 0, X) (cond (ix_okn 1 (nI 0)) (some (.inl (some (ix_I (nI 0))), hw h F A)) none) := by
    rw [hw_okn1_0, cond_true]
    exact dDo.same g hc _
  rw [hw_cI (d_isHand _ N d k)]
  dsimp only
  rw [a_if0]
  by_cases wk : a_hnd k
  · rw [if_pos wk, hw_cI (d_isIn _ N (d + 1) _ _ _)]
    dsimp only
    rw [a_if0]
    by_cases wa : a_in act (nI 1) (nI 3)
    · rw [if_pos wa, hw_cI (d_isKey _ N d key)]
      dsimp only
      rw [a_if0]
      by_cases wy : a_key key
      · rw [if_pos wy, if_pos ⟨wk, wa, wy⟩, d_is g, d_st g]
        obtain ⟨j, hj, rfl⟩ := a_hnd_nat wk
        have po := c_takesUp (g.2.1 0 (by omega)) hc.2.1.2 hj hc.2.1.1 hI.1.sz.2.2 N (d + 1) act key v
        obtain ⟨h', F', A', e, r⟩ := dDo.sto g hc po (by unfold zy; rw [(z_gr_take X.1 j act key v).2.2.1])
        rw [hw_cI e, hw_cl (by omega)]
        dsimp only
        rw [a_if0]
        by_cases t : (z_take X.1 j act key v).1 = true
        · simp only [if_pos t]
          rw [hw_okn1_1, cond_true]
          rw [if_pos t] at r
          exact r
        · simp only [if_neg t]
          rw [hw_okn1_0, cond_true]
          rw [if_neg t] at r
          exact r
      · rw [if_neg wy, if_neg (fun x => wy x.2.2)]
        exact no
    · rw [if_neg wa, if_neg (fun x => wa x.2.1)]
      exact no
  · rw [if_neg wk, if_neg (fun x => wk x.1)]
    exact no
theorem d_step (g : dG h D L ns Z) (hI : x_I X) (hc : dC F A D L ns X) (hN : 3000 ≤ N) (d : Nat) (k : Int32) : dDo h F A D L ns Z ((a_step X.1 k).1, x_st X (a_step X.1 k).2) (ix_run iy_P N (d + 12) 90 [ix_R (some (D 0)), ix_I k] (hw h F A)) := by
  rw [rX0_step N (d + 11)]
  unfold bX0_step jX0_step_9 a_step
  rw [hw_cI (d_isHand _ N (d + 9) k)]
  dsimp only
  rw [a_if0]
  by_cases wk : a_hnd k
  · obtain ⟨j, hj, rfl⟩ := a_hnd_nat wk
    rw [if_pos wk, if_pos wk, d_is g, d_st g, hw_cl (by omega)]
    have po : cPo1 h F A (L 0) (ns 0) (z_step X.1 j) (some (ix_I (if zh X.1 j 1 = nI 0 then -1 else zh (z_step X.1 j) j 1))) (ix_run iy_P N (d + 11) 180 [ix_R (some (L 0 0)), ix_I (nI j)] (hw h F A)) := by
      by_cases w0 : zh X.1 j 1 = nI 0
      · exact c_steps (rc := []) (g.2.1 0 (by omega)) hc.2.1.2 hj hc.2.1.1 (fun x => absurd w0 x) (by omega) d
      · obtain ⟨rc, -, hcn⟩ := hI.1.can hj w0
        exact c_steps (rc := rc) (g.2.1 0 (by omega)) hc.2.1.2 hj hc.2.1.1 (fun _ => hcn) (by omega) d
    obtain ⟨h', F', A', e, r⟩ := dDo.sto g hc po (by unfold zy; rw [(z_gr_step X.1 j).2.2.1])
    rw [hw_cI e]
    exact r
  · rw [if_neg wk, if_neg wk]
    exact dDo.same g hc _
theorem d_close (g : dG h D L ns Z) (hI : x_I X) (hc : dC F A D L ns X) (hN : 3000 ≤ N) (d : Nat) (k : Int32) : dDo h F A D L ns Z ((a_close X.1 k).1, x_st X (a_close X.1 k).2) (ix_run iy_P N (d + 13) 91 [ix_R (some (D 0)), ix_I k] (hw h F A)) := by
  rw [rX0_close N (d + 12)]
  unfold bX0_close jX0_close_9 a_close
  rw [hw_cI (d_isHand _ N (d + 10) k)]
  dsimp only
  rw [a_if0]
  by_cases wk : a_hnd k
  · obtain ⟨j, hj, rfl⟩ := a_hnd_nat wk
    rw [if_pos wk, if_pos wk, d_is g, d_st g, hw_cl (by omega)]
    have po := c_closes hj (i_ckp hj) hN d hI.1 (g.2.1 0 (by omega)) hc.2.1.2 hc.2.1.1
    obtain ⟨h', F', A', e, r⟩ := dDo.sto g hc po (by unfold zy; rw [(z_gr_close j 200 X.1).2.2.1])
    rw [hw_cI e]
    exact r
  · rw [if_neg wk, if_neg wk]
    exact dDo.same g hc _
theorem d_sweep (g : dG h D L ns Z) (hc : dC F A D L ns X) (hN : 3000 ≤ N) (d : Nat) : dDo h F A D L ns Z ((a_sweep X.1).1, x_st X (a_sweep X.1).2) (ix_run iy_P N (d + 3) 92 [ix_R (some (D 0))] (hw h F A)) := by
  rw [rX0_sweep N (d + 2)]
  unfold bX0_sweep a_sweep
  have po := c_sweeps (g.2.1 0 (by omega)) hc.2.1.2 hc.2.1.1 hN d
  obtain ⟨h', F', A', e, r⟩ := dDo.sto g hc po rfl
  rw [d_is g, d_st g, hw_cI e]
  exact r
end
