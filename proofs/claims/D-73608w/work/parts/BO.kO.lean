/-! KO: the component: a run's state; what terms come to -/
set_option maxRecDepth 100000
theorem r_sgn (v : Int32) : nI 0 ≤ (v ^^^ nI 1000) ↔ nI 0 ≤ v := by
  have key : ∀ x : Int32, nI 0 ≤ x ↔ x.toBitVec.msb = false := fun x => by
    rw [Int32.le_iff_toInt_le, BitVec.msb_eq_toInt]
    show (0 : Int) ≤ x.toInt ↔ decide (x.toInt < 0) = false
    rw [decide_eq_false_iff_not]
    omega
  rw [key, key, Int32.toBitVec_xor, BitVec.msb_xor, show (nI 1000).toBitVec.msb = false from by decide, Bool.xor_false]
theorem j_floorMod (N d : Nat) (v : Int32) (h : ix_H) : ix_run iy_P N (d + 1) 26 [ix_I v, ix_I (nI 1000)] h = some (.inl (some (ix_I (r_key v))), h) := by
  rw [rJ13_floorMod N d]
  unfold bJ13_floorMod jJ13_floorMod_14
  rw [if_neg (by decide), r_rem]
  unfold r_key
  have em : (v % nI 1000).toInt = v.toInt.tmod 1000 := by
    rw [Int32.toInt_mod]
    rfl
  by_cases c : nI 0 ≤ v
  · rw [if_pos ((r_sgn v).mpr c)]
    have h0 : (0 : Int) ≤ v.toInt := by
      rw [Int32.le_iff_toInt_le] at c
      exact c
    rw [if_neg (show ¬ v % nI 1000 < nI 0 by
      rw [Int32.lt_iff_toInt_lt, em]
      have := Int.tmod_nonneg (1000 : Int) h0
      show ¬ _ < (0 : Int)
      omega)]
  · rw [if_neg (fun q => c ((r_sgn v).mp q))]
    have h0 : v.toInt < 0 := by
      rw [Int32.le_iff_toInt_le] at c
      have c : ¬ (0 : Int) ≤ v.toInt := c
      omega
    by_cases c0 : v % nI 1000 = nI 0
    · rw [if_pos c0, c0, if_neg (by decide)]
    · rw [if_neg c0, if_pos]
      rw [Int32.lt_iff_toInt_lt, em]
      show v.toInt.tmod 1000 < 0
      have h1 : v.toInt.tmod 1000 ≠ 0 := fun q => c0 (Int32.toInt_inj.mp (by rw [em, q]; rfl))
      have h2 : (-v.toInt).tmod 1000 ≥ 0 := Int.tmod_nonneg (1000 : Int) (by omega)
      rw [Int.neg_tmod] at h2
      omega
theorem hw_dsp {h : ix_H} {F A : Nat → Nat → Int32} {a : Nat} (t : List (Nat × Nat)) {q : Nat × Nat} (hq : t.find? (fun q => Nat.beq q.1 (ix_tg h a)) = some q) (as : List ix_V) (f : Nat → List ix_V → ix_O) : ix_dsp (hw h F A) (ix_R (some a) :: as) t f = f q.2 (ix_R (some a) :: as) := by
  show (match t.find? (fun q => Nat.beq q.1 (ix_tg h a)) with | some q => f q.2 (ix_R (some a) :: as) | none => none) = _
  rw [hq]
/-- rounds that run, the innermost first -/
def yQ (a : Nat → Int32) : List Int32 → Prop
  | [] => True
  | x :: r => a (r.length + 1) = x ∧ yQ a r
theorem yQ.up {a : Nat → Int32} {k : Nat} {v : Int32} : ∀ {V : List Int32}, yQ a V → V.length < k → yQ (hw_U a k v) V
  | [], _, _ => trivial
  | x :: r, h, hk => ⟨by rw [hw_U_ne _ _ (by simp only [List.length_cons] at hk; omega)]; exact h.1, yQ.up h.2 (by simp only [List.length_cons] at hk; omega)⟩
/-- cell b is none of the component's, none of a store's -/
def rA (h : ix_H) (D : Nat → Nat) (L : Nat → Nat → Nat) (ns : Nat → Nat) (b : Nat) : Prop := b < ix_sz h ∧ (∀ j, j < 19 → b ≠ D j) ∧ ∀ i x, i < 5 → x < 18 + 3 * ns i → b ≠ L i x
/-- the component while a run goes on: the run's cell R, its rounds Q, the tells' cells W -/
def rK (h : ix_H) (D : Nat → Nat) (L : Nat → Nat → Nat) (ns : Nat → Nat) (Z : Nat × Nat) (W : Nat → Prop) (R Q : Nat) : Prop :=
  dG h D L ns Z ∧ (ix_tg h R = 17 ∧ ix_fR h R 0 = some (L 0 0) ∧ ix_fR h R 1 = some Q ∧ ix_tg h Q = 101 ∧ ix_ln h Q = 4) ∧ (rA h D L ns R ∧ rA h D L ns Q) ∧ (∀ b, W b → rA h D L ns b ∧ b ≠ R ∧ b ≠ Q) ∧ rA h D L ns (ix_cs h 40)
/-- what its cells say -/
def rV (F A : Nat → Nat → Int32) (L : Nat → Nat → Nat) (ns : Nat → Nat) (R Q : Nat) (σ : xG) : Prop :=
  cV1 F A (L 0) σ.1 ∧ zn σ.1 ≤ ns 0 ∧ F R 2 = nI σ.2.2.length ∧ F R 3 = σ.2.1 ∧ F R 4 = nI (zy σ.1) ∧ yQ (A Q) σ.2.2 ∧ σ.2.2.length ≤ 3
/-- what a run may change -/
def rF (h : ix_H) (F A : Nat → Nat → Int32) (D : Nat → Nat) (L : Nat → Nat → Nat) (ns : Nat → Nat) (R Q : Nat) (h' : ix_H) (F' A' : Nat → Nat → Int32) (L' : Nat → Nat → Nat) (ns' : Nat → Nat) : Prop :=
  ix_cs h' = ix_cs h ∧ ix_sz h ≤ ix_sz h' ∧ (∀ i, ns i ≤ ns' i) ∧ (∀ i x, i < 5 → x < 18 + 3 * ns i → L' i x = L i x) ∧ (∀ i x, i < 5 → 18 + 3 * ns i ≤ x → ix_sz h ≤ L' i x) ∧ (∀ j, j < 19 → F' (D j) = F (D j) ∧ A' (D j) = A (D j)) ∧
  ∀ b, b < ix_sz h → (∀ j, j < 19 → b ≠ D j) → (∀ i x, i < 5 → x < 18 + 3 * ns i → b ≠ L i x) → ix_tg h' b = ix_tg h b ∧ ix_ln h' b = ix_ln h b ∧ ix_fR h' b = ix_fR h b ∧ ix_fL h' b = ix_fL h b ∧ ix_aL h' b = ix_aL h b ∧ ix_aR h' b = ix_aR h b ∧ (b ≠ R → F' b = F b) ∧ (b ≠ Q → A' b = A b)
/-- what a tell leaves -/
def rO (h : ix_H) (F A : Nat → Nat → Int32) (D : Nat → Nat) (L : Nat → Nat → Nat) (ns : Nat → Nat) (Z : Nat × Nat) (W : Nat → Prop) (R Q : Nat) (σ : xG) (out : ix_O) : Prop :=
  ∃ h' F' A' L' ns', out = some (.inl none, hw h' F' A') ∧ rK h' D L' ns' Z W R Q ∧ rV F' A' L' ns' R Q σ ∧ rF h F A D L ns R Q h' F' A' L' ns'
abbrev rTT : List (Nat × Nat) := [(11, 124), (12, 126), (13, 128)]
theorem r_rnd {a : Nat → Int32} {H : ix_H} {v : Int32} (n m k : Nat) (e : nI n - nI m = nI k) (hk : k < 4) (h0 : 0 < k) (hv : a k = v) : (if nI 0 < nI n - nI m then (bif ix_in (nI n - nI m) 4 then (some (.inl (some (ix_I (a (nI n - nI m).toNatClampNeg))), H) : ix_O) else none) else some (.inl (some (ix_I (nI 0))), H)) = some (.inl (some (ix_I v)), H) := by
  rw [e, if_pos (by rw [hw_lt (by omega) (by omega)]; exact h0), hw_in hk (by omega), cond_true, hw_cl (by omega), hv]
section
variable {h h' h2 : ix_H} {F A F' A' F2 A2 : Nat → Nat → Int32} {D : Nat → Nat} {L L' L2 : Nat → Nat → Nat} {ns ns' n2 : Nat → Nat} {Z : Nat × Nat} {W : Nat → Prop} {R Q N : Nat} {σ : xG}
theorem rF.trans (e1 : rF h F A D L ns R Q h' F' A' L' ns') (e2 : rF h' F' A' D L' ns' R Q h2 F2 A2 L2 n2) : rF h F A D L ns R Q h2 F2 A2 L2 n2 := by
  obtain ⟨a1, a2, a3, a4, a5, a7, a6⟩ := e1
  obtain ⟨b1, b2, b3, b4, b5, b7, b6⟩ := e2
  refine ⟨b1.trans a1, Nat.le_trans a2 b2, fun i => Nat.le_trans (a3 i) (b3 i), fun i x hi hx => ?_, fun i x hi hx => ?_, fun j hj => ⟨(b7 j hj).1.trans (a7 j hj).1, (b7 j hj).2.trans (a7 j hj).2⟩, fun b hb hD hL => ?_⟩
  · rw [b4 i x hi (by have := a3 i; omega), a4 i x hi hx]
  · rcases Nat.lt_or_ge x (18 + 3 * ns' i) with w | w
    · rw [b4 i x hi w]
      exact a5 i x hi hx
    · exact Nat.le_trans a2 (b5 i x hi w)
  · obtain ⟨c1, c2, c3, c4, c5, c6, c7, c8⟩ := a6 b hb hD hL
    obtain ⟨d1, d2, d3, d4, d5, d6, d7, d8⟩ := b6 b (by omega) hD (fun i x hi hx e => by
      rcases Nat.lt_or_ge x (18 + 3 * ns i) with w | w
      · rw [a4 i x hi w] at e
        exact hL i x hi w e
      · have := a5 i x hi w
        omega)
    exact ⟨d1.trans c1, d2.trans c2, d3.trans c3, d4.trans c4, d5.trans c5, d6.trans c6, fun w => (d7 w).trans (c7 w), fun w => (d8 w).trans (c8 w)⟩
theorem rA.of (e : rF h F A D L ns R Q h' F' A' L' ns') {b : Nat} (a : rA h D L ns b) : rA h' D L' ns' b := by
  obtain ⟨a1, a2, a3⟩ := a
  refine ⟨Nat.lt_of_lt_of_le a1 e.2.1, a2, fun i x hi hx q => ?_⟩
  rcases Nat.lt_or_ge x (18 + 3 * ns i) with w | w
  · rw [e.2.2.2.1 i x hi w] at q
    exact a3 i x hi w q
  · have := e.2.2.2.2.1 i x hi w
    omega
theorem rF.at (e : rF h F A D L ns R Q h' F' A' L' ns') {b : Nat} (a : rA h D L ns b) : ix_tg h' b = ix_tg h b ∧ ix_ln h' b = ix_ln h b ∧ ix_fR h' b = ix_fR h b ∧ ix_aR h' b = ix_aR h b ∧ (b ≠ R → F' b = F b) ∧ (b ≠ Q → A' b = A b) := by
  obtain ⟨c1, c2, c3, -, -, c6, c7, c8⟩ := e.2.2.2.2.2.2 b a.1 a.2.1 a.2.2
  exact ⟨c1, c2, c3, c6, c7, c8⟩
theorem rF.tr (K : rK h D L ns Z W R Q) (e : rF h F A D L ns R Q h' F' A' L' ns') {d : Nat} {x : xT d} {a : Nat} (g : gTr h F W d x a) : gTr h' F' W d x a := by
  refine gTr.of (fun b hb => ?_) e.1 ?_ g
  · obtain ⟨k1, k2, k3⟩ := K.2.2.2.1 b hb
    obtain ⟨c1, c2, c3, c4, c5, c6⟩ := e.at k1
    exact ⟨hb, c1, c2, c3, c4, c5 k2⟩
  · obtain ⟨c1, c2, -⟩ := e.at K.2.2.2.2
    exact ⟨c1, c2⟩
/-- only numbers change: those of the store, the run's, the rounds' -/
theorem rF.num (K : rK h D L ns Z W R Q) (hf : ∀ b, (∀ x, x < 18 + 3 * ns 0 → b ≠ L 0 x) → (b ≠ R → F' b = F b) ∧ (b ≠ Q → A' b = A b)) : rF h F A D L ns R Q h F' A' L ns := by
  have g := K.1
  have r := dFr.refl (F := F) (A := A) g
  obtain ⟨r1, r2, r3, r4, r5, -⟩ := r
  refine ⟨r1, r2, r3, r4, r5, fun j hj => ?_, fun b hb hD hL => ⟨rfl, rfl, rfl, rfl, rfl, rfl, hf b fun x hx => hL 0 x (by omega) hx⟩⟩
  obtain ⟨u, v⟩ := hf (D j) fun x _ => g.own (by omega) hj x
  exact ⟨u fun q => K.2.2.1.1.2.1 j hj q.symm, v fun q => K.2.2.1.2.2.1 j hj q.symm⟩
theorem rK.ne (K : rK h D L ns Z W R Q) {b : Nat} (hb : rA h D L ns b) (x : Nat) : b ≠ L 0 x := by
  rcases Nat.lt_or_ge x (18 + 3 * ns 0) with w | w
  · exact hb.2.2 0 x (by omega) w
  · have h1 := (K.1.2.1 0 (by omega)).2.2.2.2.2.2.2.2.2.1 x w
    have h3 := K.1.2.2.2.2
    have := hb.1
    omega
theorem rK.RQ (K : rK h D L ns Z W R Q) : R ≠ Q := fun q => by
  have h1 := K.2.1.1
  rw [q, K.2.1.2.2.2.1] at h1
  exact absurd h1 (by decide)
theorem rF.sc (K : rK h D L ns Z W R Q) (q : cSc (L 0) F A F' A') : rF h F A D L ns R Q h F' A' L ns :=
  rF.num K fun b hb => ⟨fun _ => q.1 b (hb 9 (by omega)) (hb 12 (by omega)) (hb 15 (by omega)), fun _ => q.2 b (hb 4 (by omega)) (hb 10 (by omega)) (hb 11 (by omega)) (hb 13 (by omega)) (hb 14 (by omega)) (hb 16 (by omega)) (hb 17 (by omega))⟩
theorem rV.sc (K : rK h D L ns Z W R Q) (V : rV F A L ns R Q σ) (q : cSc (L 0) F A F' A') : rV F' A' L ns R Q σ := by
  obtain ⟨v1, v2, v3, v4, v5, v6, v7⟩ := V
  have hs := K.1.2.1 0 (by omega)
  have eR : F' R = F R := q.1 R (K.ne K.2.2.1.1 _) (K.ne K.2.2.1.1 _) (K.ne K.2.2.1.1 _)
  have eQ : A' Q = A Q := q.2 Q (K.ne K.2.2.1.2 _) (K.ne K.2.2.1.2 _) (K.ne K.2.2.1.2 _) (K.ne K.2.2.1.2 _) (K.ne K.2.2.1.2 _) (K.ne K.2.2.1.2 _) (K.ne K.2.2.1.2 _)
  refine ⟨cV1.cells v2 (fun j _ n9 n12 n15 => q.1 _ (hs.ne n9) (hs.ne n12) (hs.ne n15)) (fun j _ hj => q.2 _ (hs.ne (by omega)) (hs.ne (by omega)) (hs.ne (by omega)) (hs.ne (by omega)) (hs.ne (by omega)) (hs.ne (by omega)) (hs.ne (by omega))) v1, v2, by rw [eR]; exact v3, by rw [eR]; exact v4, by rw [eR]; exact v5, by rw [eQ]; exact v6, v7⟩
theorem cSc.re (L : Nat → Nat) (F A : Nat → Nat → Int32) : cSc L F A F A := ⟨fun _ _ _ _ => rfl, fun _ _ _ _ _ _ _ _ => rfl⟩
theorem cSc.tr {L : Nat → Nat} (q1 : cSc L F A F' A') (q2 : cSc L F' A' F2 A2) : cSc L F A F2 A2 := ⟨fun b a1 a2 a3 => (q2.1 b a1 a2 a3).trans (q1.1 b a1 a2 a3), fun b a1 a2 a3 a4 a5 a6 a7 => (q2.2 b a1 a2 a3 a4 a5 a6 a7).trans (q1.2 b a1 a2 a3 a4 a5 a6 a7)⟩
theorem rK.gS (K : rK h D L ns Z W R Q) (q : cSc (L 0) F A F' A') {n a : Nat} {c : xC} (s : gS h F W n a c) : gS h F' W n a c :=
  s.of fun b hb => ⟨hb, rfl, rfl, ((rF.sc K q).at (K.2.2.2.1 b hb).1).2.2.2.2.1 (K.2.2.2.1 b hb).2.1⟩
/-- the round that runs: v 0 the innermost, v 1 the next -/
theorem r_round (K : rK h D L ns Z W R Q) (V : rV F A L ns R Q σ) (N d : Nat) {j : Nat} (hj : j < 2) : ix_run iy_P N (d + 1) 137 [ix_R (some R), ix_I (nI j)] (hw h F A) = some (.inl (some (ix_I (σ.2.2.getD j (nI 0)))), hw h F A) := by
  obtain ⟨-, -, v3, -, -, v6, v7⟩ := V
  obtain ⟨k1, k2, k3, k4, k5⟩ := K.2.1
  rw [rX18_round N d]
  unfold bX18_round jX18_round_14
  rw [c_is k1, c_is k1, c_is k1, hw_fR, k3, c_atr k4 (by decide) k5]
  simp only [hw_fI, hw_aI, v3]
  generalize A Q = a at v6
  generalize σ.2.2 = rd at v6 v7
  match rd, v6, v7 with
  | [], v6, _ =>
    have : j = 0 ∨ j = 1 := by omega
    rcases this with rfl | rfl
    · exact (if_neg (show ¬ nI 0 < nI 0 - nI 0 by decide)).trans rfl
    · exact (if_neg (show ¬ nI 0 < nI 0 - nI 1 by decide)).trans rfl
  | [x], v6, _ =>
    have : j = 0 ∨ j = 1 := by omega
    rcases this with rfl | rfl
    · have e : a 1 = x := v6.1
      exact r_rnd 1 0 1 (by decide) (by omega) (by omega) e
    · exact (if_neg (show ¬ nI 0 < nI 1 - nI 1 by decide)).trans rfl
  | [x, y], v6, _ =>
    have : j = 0 ∨ j = 1 := by omega
    rcases this with rfl | rfl
    · have e : a 2 = x := v6.1
      exact r_rnd 2 0 2 (by decide) (by omega) (by omega) e
    · have e : a 1 = y := v6.2.1
      exact r_rnd 2 1 1 (by decide) (by omega) (by omega) e
  | [x, y, z], v6, _ =>
    have : j = 0 ∨ j = 1 := by omega
    rcases this with rfl | rfl
    · have e : a 3 = x := v6.1
      exact r_rnd 3 0 3 (by decide) (by omega) (by omega) e
    · have e : a 2 = y := v6.2.1
      exact r_rnd 3 1 2 (by decide) (by omega) (by omega) e
  | _ :: _ :: _ :: _ :: _, _, v7 =>
    simp only [List.length_cons] at v7
    omega
/-- what a term comes to -/
theorem r_termW (K : rK h D L ns Z W R Q) (hI : i_I σ.1) (hN : 3000 ≤ N) (d : Nat) : ∀ n a c F A, gS h F W n a c → rV F A L ns R Q σ →
    ∃ y v F' A', (∀ f, ix_dsp (hw h F A) [ix_R (some a), ix_R (some R)] rTT f = f y [ix_R (some a), ix_R (some R)]) ∧ ix_run iy_P N (d + n + 7) y [ix_R (some a), ix_R (some R)] (hw h F A) = some (.inl (some (ix_I v)), hw h F' A') ∧ cSc (L 0) F A F' A' ∧ ∀ r s, r_ev σ (c ++ r) s = r_ev σ r (v :: s) := by
  have hs := K.1.2.1 0 (by omega)
  intro n
  induction n with
  | zero => intro a c F A g; exact g.elim
  | succ n ih =>
    intro a c F A g V
    obtain ⟨g1, ⟨g2, g3⟩ | ⟨g2, j, hj, g3, g4⟩ | ⟨g2, a1, a2, c1, c2, k, f1, f2, f3, f4, f5, f6, f7⟩⟩ := g
    · refine ⟨124, F a 0, F, A, hw_dsp rTT (q := (11, 124)) (by rw [g2]; rfl) _, ?_, cSc.re _ _ _, fun r s => by rw [g3]; rfl⟩
      rw [show d + (n + 1) + 7 = d + n + 7 + 1 by omega, rX12_of N (d + n + 7)]
      unfold bX12_of
      rw [c_is g2, hw_fI]
    · have ev : ∀ v, v = r_vr σ (nI j) → ∀ r s, r_ev σ (c ++ r) s = r_ev σ r (v :: s) := fun v hv r s => by rw [g4, hv]; rfl
      have dsp := hw_dsp (F := F) (A := A) rTT (q := (12, 126)) (by rw [g2]; rfl) [ix_R (some R)]
      have V0 := V
      obtain ⟨v1, v2, v3, v4, v5, v6, v7⟩ := V0
      obtain ⟨k1, k2, k3, k4, k5⟩ := K.2.1
      rw [show d + (n + 1) + 7 = d + n + 7 + 1 by omega]
      match j, hj with
      | 0, _ =>
        refine ⟨126, _, F, A, dsp, ?_, cSc.re _ _ _, ev _ rfl⟩
        rw [rX13_of N (d + n + 7)]
        unfold bX13_of jX13_of_25
        rw [c_is g2, hw_fI, g3, if_pos rfl, c_isr k1 (by decide), hw_cI (r_round K V N (d + n + 6) (j := 0) (by omega))]
        rfl
      | 1, _ =>
        refine ⟨126, _, F, A, dsp, ?_, cSc.re _ _ _, ev _ rfl⟩
        rw [rX13_of N (d + n + 7)]
        unfold bX13_of jX13_of_25
        rw [c_is g2, hw_fI, g3, if_neg (by decide), if_pos rfl, c_isr k1 (by decide), hw_cI (r_round K V N (d + n + 6) (j := 1) (by omega))]
        rfl
      | 2, _ =>
        obtain ⟨rc, hrc⟩ := hI.R
        obtain ⟨F', A', e, q, -⟩ := c_keys hs hI.W hrc v2 (N := N) (by omega) (d + n + 1) v1.1
        refine ⟨126, _, F', A', dsp, ?_, q, ev _ rfl⟩
        rw [rX13_of N (d + n + 7)]
        unfold bX13_of jX13_of_25
        rw [c_is g2, hw_fI, g3, if_neg (by decide), if_neg (by decide), if_pos rfl, c_is k1, hw_fR, k2, st_isr hs, hw_cI e]
        rfl
      | 3, _ =>
        refine ⟨126, _, F, A, dsp, ?_, cSc.re _ _ _, ev _ rfl⟩
        rw [rX13_of N (d + n + 7)]
        unfold bX13_of jX13_of_25
        rw [c_is g2, hw_fI, g3, if_neg (by decide), if_neg (by decide), if_neg (by decide), if_pos rfl, c_is k1]
        exact congrArg (fun z => (some (.inl (some (ix_I z)), hw h F A) : ix_O)) v4
      | 4, _ =>
        refine ⟨126, _, F, A, dsp, ?_, cSc.re _ _ _, ev _ rfl⟩
        rw [rX13_of N (d + n + 7)]
        unfold bX13_of jX13_of_25
        rw [c_is g2, hw_fI, g3, if_neg (by decide), if_neg (by decide), if_neg (by decide), if_neg (by decide), if_pos rfl, c_is k1, hw_fR, k2, st_is hs]
        exact congrArg (fun z => (some (.inl (some (ix_I z)), hw h F A) : ix_O)) v1.1.1.1
      | 5, _ =>
        refine ⟨126, _, F, A, dsp, ?_, cSc.re _ _ _, ev _ rfl⟩
        rw [rX13_of N (d + n + 7)]
        unfold bX13_of jX13_of_25
        rw [c_is g2, hw_fI, g3, if_neg (by decide), if_neg (by decide), if_neg (by decide), if_neg (by decide), if_neg (by decide), c_is k1, hw_fR, k2, st_isr hs, hw_cI (c_lostOfAll hs v1.1 (by omega) (d + n + 6))]
        rfl
    · obtain ⟨y1, x1, F1, A1, p1, e1, q1, r1⟩ := ih a1 c1 F A f6 V
      have V1 := V.sc K q1
      obtain ⟨y2, x2, F2, A2, p2, e2, q2, r2⟩ := ih a2 c2 F1 A1 (K.gS q1 f7) V1
      have q3 := q1.tr q2
      have fk : F2 a 0 = k_wh k := by
        rw [((rF.sc K q3).at (K.2.2.2.1 a g1).1).2.2.2.2.1 (K.2.2.2.1 a g1).2.1]
        exact f3
      refine ⟨128, if x_op k = 2 then x1 + x2 else if x_op k = 3 then x1 - x2 else if x_op k = 4 then x1 * x2 else if x2 = nI 0 then nI 0 else if x_op k = 5 then x1 / x2 else x1 % x2, F2, A2, hw_dsp rTT (q := (13, 128)) (by rw [g2]; rfl) _, ?_, q3, fun r s => ?_⟩
      · rw [show d + (n + 1) + 7 = d + n + 7 + 1 by omega, rX14_of N (d + n + 7)]
        unfold bX14_of jX14_of_33 jX14_of_41
        rw [c_is g2, hw_fR, f1, p1, hw_cI e1]
        dsimp only
        rw [c_is g2, hw_fR, f2, p2, hw_cI e2]
        dsimp only
        rw [c_is g2, hw_fI, fk]
        have f5' : k = 8 ∨ k = 9 ∨ k = 10 ∨ k = 15 ∨ k = 16 := by simpa using f4
        rcases f5' with rfl | rfl | rfl | rfl | rfl
        · rfl
        · rfl
        · rfl
        · rw [if_neg (by decide), if_neg (by decide), if_neg (by decide), if_neg (by decide), if_neg (by decide), if_pos (by decide), if_neg (show ¬ x_op 15 = 2 by decide), if_neg (show ¬ x_op 15 = 3 by decide), if_neg (show ¬ x_op 15 = 4 by decide), if_pos (show x_op 15 = 5 by decide)]
          by_cases c0 : x2 = nI 0
          · rw [if_pos c0, if_pos c0]
          · rw [if_neg c0, if_neg c0, if_neg c0]
        · rw [if_neg (by decide), if_neg (by decide), if_neg (by decide), if_neg (by decide), if_neg (by decide), if_neg (by decide), if_neg (show ¬ x_op 16 = 2 by decide), if_neg (show ¬ x_op 16 = 3 by decide), if_neg (show ¬ x_op 16 = 4 by decide), if_neg (show ¬ x_op 16 = 5 by decide)]
          by_cases c0 : x2 = nI 0
          · rw [if_pos c0, if_pos c0]
          · rw [if_neg c0, if_neg c0, if_neg c0, r_rem]
      · rw [f5, List.append_assoc, List.append_assoc, r1, r2]
        have hk := x_op_in k
        generalize x_op k = o at hk
        match o, hk with
        | o + 2, _ => rfl
end
