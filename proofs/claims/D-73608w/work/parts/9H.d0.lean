/-! D0: the component whole: 0 its object, 1 fault, 2 tokens, 3 parser, 4 slots, 5..7 the record laid, 8 held, 9 key, 10 worth, 11 firstKey, 12 firstWorth, 13 words, 14 tape, 15 sort, 16 from, 17 to, 18 what; stores 0, trial 1, slots 2..4 -/
set_option maxRecDepth 100000
def dS (h : ix_H) (D : Nat → Nat) (L : Nat → Nat → Nat) : Prop :=
  (ix_tg h (D 0) = 1 ∧ ix_tg h (D 1) = 2 ∧ ix_tg h (D 2) = 3 ∧ ix_tg h (D 3) = 4 ∧ (ix_tg h (D 4) = 113 ∧ ix_ln h (D 4) = 3) ∧ cR h (D 5) (D 6) (D 7) ∧ (ix_tg h (D 8) = 105 ∧ ix_ln h (D 8) = 3) ∧ (∀ j, 9 ≤ j → j < 13 → ix_tg h (D j) = 101 ∧ ix_ln h (D j) = 1000) ∧
    (ix_tg h (D 13) = 114 ∧ ix_ln h (D 13) = 18) ∧ (ix_tg h (D 14) = 102 ∧ ix_ln h (D 14) = 2000) ∧ (ix_tg h (D 15) = 102 ∧ ix_ln h (D 15) = 2001) ∧ ∀ j, 16 ≤ j → j < 19 → ix_tg h (D j) = 103 ∧ ix_ln h (D j) = 2001) ∧
  (ix_fR h (D 0) 0 = some (D 1) ∧ ix_fR h (D 0) 1 = some (D 2) ∧ ix_fR h (D 0) 2 = some (D 3) ∧ ix_fR h (D 0) 5 = some (L 0 0) ∧ ix_fR h (D 0) 6 = some (L 1 0) ∧ ix_fR h (D 0) 7 = some (D 4) ∧ ix_fR h (D 0) 8 = some (D 5) ∧ ix_fR h (D 0) 9 = some (D 8) ∧ ix_fR h (D 0) 10 = some (D 9) ∧ ix_fR h (D 0) 11 = some (D 10) ∧ ix_fR h (D 0) 12 = some (D 11) ∧ ix_fR h (D 0) 13 = some (D 12)) ∧
  (∀ i, i < 3 → ix_aR h (D 4) i = some (L (2 + i) 0)) ∧
  (ix_fR h (D 2) 0 = some (D 13) ∧ ix_fR h (D 2) 1 = some (D 14) ∧ ix_fR h (D 2) 3 = some (D 15) ∧ ix_fR h (D 2) 4 = some (D 16) ∧ ix_fR h (D 2) 5 = some (D 17) ∧ ix_fR h (D 2) 6 = some (D 18)) ∧
  (ix_fR h (D 3) 0 = some (D 2) ∧ ix_fR h (D 3) 1 = some (D 1)) ∧
  (∀ i j, i < 19 → j < 19 → D i = D j → i = j) ∧ ∀ i, i < 19 → D i < ix_sz h
/-- five stores apart, and the component's own cells apart from them; how much room they may take -/
def dG (h : ix_H) (D : Nat → Nat) (L : Nat → Nat → Nat) (ns : Nat → Nat) (Z : Nat × Nat) : Prop :=
  dS h D L ∧ (∀ i, i < 5 → cS h (L i) (ns i)) ∧ (∀ i j, i < 5 → j < 5 → i ≠ j → cAp (L i) (ns i) (L j) (ns j)) ∧ (∀ i j x, i < 5 → j < 19 → x < 18 + 3 * ns i → D j ≠ L i x) ∧
  (ix_sz h + 3 * ((2000 - ns 0) + (2000 - ns 1) + (2000 - ns 2) + (2000 - ns 3) + (2000 - ns 4)) ≤ Z.1 ∧ ix_sl h + 100 * ((2000 - ns 0) + (2000 - ns 1) + (2000 - ns 2) + (2000 - ns 3) + (2000 - ns 4)) ≤ Z.2 ∧ Z.1 ≤ 1000000000)
/-- the numbers of the component -/
def dV (F A : Nat → Nat → Int32) (D : Nat → Nat) (X : xS) : Prop :=
  F (D 0) 3 = xp X ∧ F (D 0) 4 = nI (zy X.1) ∧ F (D 2) 2 = nI (xn X) ∧ (∀ k, k < xn X → A (D 14) k = xb X k) ∧ ∀ i, i < 3 → A (D 8) i = a_hl X i
def dC (F A : Nat → Nat → Int32) (D : Nat → Nat) (L : Nat → Nat → Nat) (ns : Nat → Nat) (X : xS) : Prop :=
  dV F A D X ∧ (cV1 F A (L 0) X.1 ∧ zn X.1 ≤ ns 0) ∧ ∀ i T, i < 3 → xq X i = some T → cV1 F A (L (2 + i)) T ∧ zn T ≤ ns (2 + i)
/-- what a method of the component leaves of the rest -/
def dFr (h : ix_H) (F A : Nat → Nat → Int32) (D : Nat → Nat) (L : Nat → Nat → Nat) (ns : Nat → Nat) (h' : ix_H) (F' A' : Nat → Nat → Int32) (L' : Nat → Nat → Nat) (ns' : Nat → Nat) : Prop :=
  ix_cs h' = ix_cs h ∧ ix_sz h ≤ ix_sz h' ∧ (∀ i, ns i ≤ ns' i) ∧ (∀ i x, i < 5 → x < 18 + 3 * ns i → L' i x = L i x) ∧ (∀ i x, i < 5 → 18 + 3 * ns i ≤ x → ix_sz h ≤ L' i x) ∧
  ∀ b, b < ix_sz h → (∀ j, j < 19 → b ≠ D j) → (∀ i x, i < 5 → x < 18 + 3 * ns i → b ≠ L i x) → ix_tg h' b = ix_tg h b ∧ ix_ln h' b = ix_ln h b ∧ ix_fR h' b = ix_fR h b ∧ ix_fL h' b = ix_fL h b ∧ ix_aL h' b = ix_aL h b ∧ ix_aR h' b = ix_aR h b ∧ F' b = F b ∧ A' b = A b
section
variable {h h' h2 : ix_H} {F A F' A' F2 A2 : Nat → Nat → Int32} {D : Nat → Nat} {L L' L2 : Nat → Nat → Nat} {ns ns' n2 : Nat → Nat} {Z : Nat × Nat} {X : xS}
theorem dFr.trans (e1 : dFr h F A D L ns h' F' A' L' ns') (e2 : dFr h' F' A' D L' ns' h2 F2 A2 L2 n2) : dFr h F A D L ns h2 F2 A2 L2 n2 := by
  obtain ⟨a1, a2, a3, a4, a5, a6⟩ := e1
  obtain ⟨b1, b2, b3, b4, b5, b6⟩ := e2
  refine ⟨b1.trans a1, Nat.le_trans a2 b2, fun i => Nat.le_trans (a3 i) (b3 i), fun i x hi hx => ?_, fun i x hi hx => ?_, fun b hb hD hL => ?_⟩
  · rw [b4 i x hi (by have := a3 i; omega), a4 i x hi hx]
  · rcases Nat.lt_or_ge x (18 + 3 * ns' i) with w | w
    · rw [b4 i x hi w]
      exact a5 i x hi hx
    · exact Nat.le_trans a2 (b5 i x hi w)
  · obtain ⟨c1, c2, c3, c4, c5, c6, c7, c8⟩ := a6 b hb hD hL
    obtain ⟨d1, d2, d3, d4, d5, d6, d7, d8⟩ := b6 b (by omega) hD (fun i x hi hx e => by
      rcases Nat.lt_or_ge x (18 + 3 * ns i) with w | w
      · rw [a4 i x hi w] at e
        exact hL i x hi w e
      · have := a5 i x hi w
        omega)
    exact ⟨d1.trans c1, d2.trans c2, d3.trans c3, d4.trans c4, d5.trans c5, d6.trans c6, d7.trans c7, d8.trans c8⟩
theorem dG.own (g : dG h D L ns Z) {i j : Nat} (hi : i < 5) (hj : j < 19) (x : Nat) : D j ≠ L i x := by
  rcases Nat.lt_or_ge x (18 + 3 * ns i) with w | w
  · exact g.2.2.2.1 i j x hi hj w
  · have h1 := (g.2.1 i hi).2.2.2.2.2.2.2.2.2.1 x w
    have h2 := g.1.2.2.2.2.2.2 j hj
    have h3 := g.2.2.2.2
    omega
theorem dG.Dne (g : dG h D L ns Z) {i j : Nat} (hi : i < 19) (hj : j < 19) (hij : i ≠ j) : D i ≠ D j := fun e => hij (g.1.2.2.2.2.2.1 i j hi hj e)
theorem cAp.symm {L M : Nat → Nat} {nr mr : Nat} (h : cAp L nr M mr) : cAp M mr L nr := fun i j hi hj e => h j i hj hi e.symm
/-- cells of a store that stay say the same -/
theorem cV1.cells {M : Nat → Nat} {mr : Nat} {S : zS} (hn : zn S ≤ mr) (c : ∀ j, j < 18 + 3 * mr → j ≠ 9 → j ≠ 12 → j ≠ 15 → F' (M j) = F (M j)) (c2 : ∀ j, j < 18 + 3 * mr → (j = 2 ∨ 19 ≤ j) → A' (M j) = A (M j)) (hV : cV1 F A M S) : cV1 F' A' M S := by
  obtain ⟨⟨v1, v2, v3, v4⟩, v5⟩ := hV
  exact ⟨⟨by rw [c 0 (by omega) (by omega) (by omega) (by omega)]; exact v1, fun p hp => by rw [c2 2 (by omega) (by omega)]; exact v2 p hp, fun r hr => (v3 r hr).keep (c _ (by omega) (by omega) (by omega) (by omega)) (c2 _ (by omega) (by omega)) (c2 _ (by omega) (by omega)), fun k hk => (v4 k hk).keep (c _ (by omega) (by omega) (by omega) (by omega))⟩, fun k hk => by rw [c _ (by omega) (by omega) (by omega) (by omega)]; exact v5 k hk⟩
/-- the layouts with store i's told anew -/
def d_up {α : Type} (f : Nat → α) (i : Nat) (v : α) : Nat → α := fun j => if j = i then v else f j
theorem d_up_same {α : Type} (f : Nat → α) (i : Nat) (v : α) : d_up f i v i = v := if_pos rfl
theorem d_up_ne {α : Type} (f : Nat → α) {i j : Nat} (v : α) (h : j ≠ i) : d_up f i v j = f j := if_neg h
/-- a store has changed: the rest stays -/
theorem dG.sto (g : dG h D L ns Z) {i : Nat} (hi : i < 5) {M : Nat → Nat} {mr : Nat} (ex : cEx h F A (L i) (ns i) h' F' A' M mr) (hs : cS h' M mr) :
    dG h' D (d_up L i M) (d_up ns i mr) Z ∧ (∀ j, j < 19 → F' (D j) = F (D j) ∧ A' (D j) = A (D j)) ∧ (∀ j T, j < 5 → j ≠ i → zn T ≤ ns j → cV1 F A (L j) T → cV1 F' A' (L j) T) ∧ dFr h F A D L ns h' F' A' (d_up L i M) (d_up ns i mr) := by
  have g0 := g
  obtain ⟨⟨t, f0, f4, f2, f3, inj, lt⟩, gs, ga, gd, gz1, gz2, gz3⟩ := g
  have ex0 := ex
  obtain ⟨x1, x2, x3, x4, x5, x6, x7, x8⟩ := ex
  have hm2000 := hs.2.2.2.2.2.2.1
  have hM0 : M 0 = L i 0 := x5 0 (by omega)
  have hL0 : ∀ j, d_up L i M j 0 = L j 0 := fun j => by
    by_cases e : j = i
    · rw [e, d_up_same, hM0]
    · rw [d_up_ne _ _ e]
  have cD : ∀ j, j < 19 → ix_tg h' (D j) = ix_tg h (D j) ∧ ix_ln h' (D j) = ix_ln h (D j) ∧ ix_fR h' (D j) = ix_fR h (D j) ∧ ix_aR h' (D j) = ix_aR h (D j) := fun j hj => by
    obtain ⟨a, b, c, _, _, d⟩ := x7 (D j) (lt j hj)
    exact ⟨a, b, c, d (g0.own hi hj 1)⟩
  have cc : ∀ j, j < 19 → F' (D j) = F (D j) ∧ A' (D j) = A (D j) := fun j hj => x8 (D j) (lt j hj) (fun x hx => gd i j x hi hj hx)
  have hsz : ix_sz h' + 6000 < 1099511627776 := by
    have : ns 0 + 0 = ns 0 := rfl
    match i, hi with
    | 0, _ => omega
    | 1, _ => omega
    | 2, _ => omega
    | 3, _ => omega
    | 4, _ => omega
  have hz : ix_sz h' + 3 * ((2000 - d_up ns i mr 0) + (2000 - d_up ns i mr 1) + (2000 - d_up ns i mr 2) + (2000 - d_up ns i mr 3) + (2000 - d_up ns i mr 4)) ≤ Z.1 ∧ ix_sl h' + 100 * ((2000 - d_up ns i mr 0) + (2000 - d_up ns i mr 1) + (2000 - d_up ns i mr 2) + (2000 - d_up ns i mr 3) + (2000 - d_up ns i mr 4)) ≤ Z.2 := by
    unfold d_up
    match i, hi with
    | 0, _ => simp only [if_true, show (1 = 0) = False from by decide, show (2 = 0) = False from by decide, show (3 = 0) = False from by decide, show (4 = 0) = False from by decide, if_false]; omega
    | 1, _ => simp only [if_true, show (0 = 1) = False from by decide, show (2 = 1) = False from by decide, show (3 = 1) = False from by decide, show (4 = 1) = False from by decide, if_false]; omega
    | 2, _ => simp only [if_true, show (0 = 2) = False from by decide, show (1 = 2) = False from by decide, show (3 = 2) = False from by decide, show (4 = 2) = False from by decide, if_false]; omega
    | 3, _ => simp only [if_true, show (0 = 3) = False from by decide, show (1 = 3) = False from by decide, show (2 = 3) = False from by decide, show (4 = 3) = False from by decide, if_false]; omega
    | 4, _ => simp only [if_true, show (0 = 4) = False from by decide, show (1 = 4) = False from by decide, show (2 = 4) = False from by decide, show (3 = 4) = False from by decide, if_false]; omega
  refine ⟨⟨⟨?_, ?_, fun j hj => ?_, ?_, ?_, inj, fun j hj => by have := lt j hj; omega⟩, fun j hj => ?_, fun j k hj hk hjk => ?_, fun j k x hj hk hx => ?_, hz.1, hz.2, gz3⟩, cc, fun j T hj hji hT hV => ?_, x4, by omega, fun j => ?_, fun j x hj hx => ?_, fun j x hj hx => ?_, fun b hb hD hL => ?_⟩
  · obtain ⟨t0, t1, t2, t3, t4, t5, t6, t7, t8, t9, t10, t11⟩ := t
    obtain ⟨r1, r2, r3, r4, r5, r6, r7, r8⟩ := t5
    refine ⟨by rw [(cD 0 (by omega)).1]; exact t0, by rw [(cD 1 (by omega)).1]; exact t1, by rw [(cD 2 (by omega)).1]; exact t2, by rw [(cD 3 (by omega)).1]; exact t3, by rw [(cD 4 (by omega)).1, (cD 4 (by omega)).2.1]; exact t4, ⟨by rw [(cD 5 (by omega)).1]; exact r1, by rw [(cD 5 (by omega)).2.2.1]; exact r2, by rw [(cD 5 (by omega)).2.2.1]; exact r3, by rw [(cD 6 (by omega)).1]; exact r4, by rw [(cD 7 (by omega)).1]; exact r5, by rw [(cD 6 (by omega)).2.1]; exact r6, by rw [(cD 7 (by omega)).2.1]; exact r7, r8⟩, by rw [(cD 8 (by omega)).1, (cD 8 (by omega)).2.1]; exact t6, fun j h1 h2 => by rw [(cD j (by omega)).1, (cD j (by omega)).2.1]; exact t7 j h1 h2, by rw [(cD 13 (by omega)).1, (cD 13 (by omega)).2.1]; exact t8, by rw [(cD 14 (by omega)).1, (cD 14 (by omega)).2.1]; exact t9, by rw [(cD 15 (by omega)).1, (cD 15 (by omega)).2.1]; exact t10, fun j h1 h2 => by rw [(cD j (by omega)).1, (cD j (by omega)).2.1]; exact t11 j h1 h2⟩
  · rw [(cD 0 (by omega)).2.2.1, hL0, hL0]
    exact f0
  · rw [(cD 4 (by omega)).2.2.2, hL0]
    exact f4 j hj
  · rw [(cD 2 (by omega)).2.2.1]
    exact f2
  · rw [(cD 3 (by omega)).2.2.1]
    exact f3
  · by_cases e : j = i
    · rw [e, d_up_same, d_up_same]
      exact hs
    · rw [d_up_ne _ _ e, d_up_ne _ _ e]
      exact cEx.other (gs j hj) ex0 (ga i j hi hj (fun w => e w.symm)) hsz
  · by_cases e : j = i
    · rw [e, d_up_same, d_up_same, d_up_ne _ _ (fun w => hjk (e.trans w.symm)), d_up_ne _ _ (fun w => hjk (e.trans w.symm))]
      exact cEx.apart (gs k hk) ex0 (ga i k hi hk (fun w => hjk (e.trans w)))
    · rw [d_up_ne _ _ e, d_up_ne _ _ e]
      by_cases e2 : k = i
      · rw [e2, d_up_same, d_up_same]
        exact (cEx.apart (gs j hj) ex0 (ga i j hi hj (fun w => e w.symm))).symm
      · rw [d_up_ne _ _ e2, d_up_ne _ _ e2]
        exact ga j k hj hk hjk
  · by_cases e : j = i
    · rw [e, d_up_same] at hx ⊢
      rcases Nat.lt_or_ge x (18 + 3 * ns i) with w | w
      · rw [x5 x w]
        exact gd i k x hi hk w
      · have := x6 x w
        have := lt k hk
        omega
    · rw [d_up_ne _ _ e] at hx ⊢
      exact gd j k x hj hk hx
  · exact cEx.other1 (gs j hj) ex0 (ga i j hi hj (fun w => hji w.symm)) hT hV
  · by_cases e : j = i
    · rw [e, d_up_same]
      exact x1
    · rw [d_up_ne _ _ e]
      exact Nat.le_refl _
  · by_cases e : j = i
    · rw [e] at hx ⊢
      rw [d_up_same]
      exact x5 x hx
    · rw [d_up_ne _ _ e]
  · by_cases e : j = i
    · rw [e] at hx ⊢
      rw [d_up_same]
      exact x6 x hx
    · rw [d_up_ne _ _ e]
      have := (gs j hj).2.2.2.2.2.2.2.2.2.1 x hx
      omega
  · obtain ⟨a, b', c, d, e, f⟩ := x7 b hb
    obtain ⟨u, v⟩ := x8 b hb (fun x hx => hL i x hi hx)
    exact ⟨a, b', c, d, e, f (hL i 1 hi (by omega)), u, v⟩
end
