/-! KH: the component: rounds are read -/
set_option maxRecDepth 100000
/-- tells gathered in a list: ro the rounds' cell, ls its list -/
def gI (D cv : Nat → Nat) (tk : Nat → tK) (e wi : Nat) (h0 : ix_H) (F0 A0 : Nat → Nat → Int32) (d : Nat) (h : ix_H) (F A : Nat → Nat → Int32) (t : Nat) (w : Option Nat) (ro ls : Nat) (n : Int32) (l : List (xT d)) (k : Nat) : Prop :=
  gT h F A D cv tk e t 0 wi w ∧ gO D h0 F0 A0 h F A k ∧ l.length ≤ t ∧ (ix_sz h0 ≤ ro ∧ ro < ix_sz h ∧ ix_tg h ro = 9 ∧ ix_fR h ro 0 = some ls ∧ F ro 1 = n) ∧ (ix_sz h0 ≤ ls ∧ ls < ix_sz h) ∧
  ∃ ar xs, gA h F ls ar xs ∧ ar < ix_sz h ∧ (ix_tg h ar = 115 → ix_sz h0 ≤ ar) ∧ gFa (gTr h F (fun b => rg (ix_sz h0) (ix_sz h) b ∧ b ≠ ls ∧ b ≠ ar) d) l xs
section
variable {h : ix_H} {F A : Nat → Nat → Int32} {D cv : Nat → Nat} {tk : Nat → tK} {e t op wi N : Nat} {w : Option Nat}
/-- another tell is read -/
theorem gI.add {h0 h1 : ix_H} {F0 A0 F1 A1 : Nat → Nat → Int32} {d t1 k k1 ro ls x : Nat} {n : Int32} {w1 : Option Nat} {l : List (xT d)} {a : xT d} (I : gI D cv tk e wi h0 F0 A0 d h F A t w ro ls n l k) (hD : ∀ j, j < 19 → D j < ix_sz h0) (hM : kM (ix_cs h0) D cv (ix_sz h0)) (T1 : gT h1 F1 A1 D cv tk e t1 0 wi w1) (ht : t + 2 ≤ t1) (g1 : gO D h F A h1 F1 A1 k1) (gx : gTr h1 F1 (rg (ix_sz h) (ix_sz h1)) d a x) (N m : Nat) : ∃ h2 F2 A2, ix_run iy_P N (m + 7) 40 [ix_R (some ls), ix_R (some x)] (hw h1 F1 A1) = some (.inl (some (ix_I (nI 1))), hw h2 F2 A2) ∧ gI D cv tk e wi h0 F0 A0 d h2 F2 A2 t1 w1 ro ls n (l ++ [a]) (k + k1 + 41) ∧ ix_sz h ≤ ix_sz h2 ∧ ∀ b, b < ix_sz h → b ≠ ls → b ≠ D 1 → b ≠ D 3 → ix_tg h2 b = ix_tg h b ∧ ix_fR h2 b = ix_fR h b ∧ F2 b = F b := by
  obtain ⟨T, g, ll, ⟨r1, r2, r3, r4, r5⟩, ⟨q1, q2⟩, ar, xs, gA0, a1, a2, fa⟩ := I
  have d1 := hD 1 (by omega)
  have d3 := hD 3 (by omega)
  have z0 := g.1
  have z1 := g1.1
  have hcs : ix_cs h1 = ix_cs h := g1.2.2.2.1
  have hcs0 : ix_cs h = ix_cs h0 := g.2.2.2.1
  have same : ∀ b, b < ix_sz h → ix_tg h1 b = ix_tg h b ∧ ix_ln h1 b = ix_ln h b ∧ ix_fR h1 b = ix_fR h b ∧ ix_aR h1 b = ix_aR h b ∧ A1 b = A b ∧ (b ≠ D 1 → b ≠ D 3 → F1 b = F b) := fun b hb => by
    obtain ⟨c1, c2, c3, c4, c5, c6, c7, c8⟩ := g1.2.2.2.2 b hb
    exact ⟨c1, c2, c3, c6, c7, c8⟩
  have b40 : ix_cs h 40 < ix_sz h := T.2.1.2.2.2.2
  -- the list stays
  have gA1 : gA h1 F1 ls ar xs := by
    obtain ⟨b1, b2, b3, b4⟩ := gA0
    obtain ⟨s1, s2, s3, s4, s5, s6⟩ := same ls q2
    obtain ⟨u1, u2, u3, u4, u5, u6⟩ := same ar a1
    refine ⟨by rw [s1]; exact b1, by rw [s3]; exact b2, by rw [s6 (by omega) (by omega)]; exact b3, ?_⟩
    rcases b4 with ⟨v1, v2, v3, v4⟩ | ⟨v1, v2, v3, v4, v5⟩
    · exact .inl ⟨v1, by rw [hcs]; exact v2, by rw [u1]; exact v3, by rw [u2]; exact v4⟩
    · exact .inr ⟨by rw [u1]; exact v1, by rw [u2]; exact v2, by rw [u2]; exact v3, by rw [u2]; exact v4, fun i hi => by rw [u4]; exact v5 i hi⟩
  have fa1 : gFa (gTr h1 F1 (fun b => rg (ix_sz h0) (ix_sz h1) b ∧ b ≠ ls ∧ b ≠ ar) d) (l ++ [a]) (xs ++ [x]) := by
    refine gFa.snoc ?_ (fa.mono fun y z hz => hz.of (fun b hb => ?_) hcs ?_)
    · exact gx.of (fun b hb => ⟨⟨⟨by have := hb.1; omega, hb.2⟩, by have := hb.1; omega, by have := hb.1; omega⟩, rfl, rfl, rfl, rfl, rfl⟩) rfl ⟨rfl, rfl⟩
    · obtain ⟨⟨b1, b2⟩, b3⟩ := hb
      obtain ⟨s1, s2, s3, s4, s5, s6⟩ := same b b2
      exact ⟨⟨⟨b1, by omega⟩, b3⟩, s1, s2, s3, s4, s6 (by omega) (by omega)⟩
    · obtain ⟨s1, s2, -⟩ := same _ b40
      exact ⟨s1, s2⟩
  have hE : gE h1 x ∧ rg (ix_sz h) (ix_sz h1) x := gx.e
  have hxs : ∀ y ∈ xs, gE h1 y ∧ y < ix_sz h1 := fun y hy => by
    have : gE h y ∧ y < ix_sz h := gFa.all (Q := fun y => gE h y ∧ y < ix_sz h) (fun a' x' hx' => ⟨hx'.e.1, hx'.e.2.1.2⟩) fa y hy
    obtain ⟨s1, -⟩ := same y this.2
    refine ⟨?_, by omega⟩
    unfold gE at *
    rw [s1]
    exact this.1
  have lx := fa.len
  have t4 := T.2.2.2.1.2.1
  obtain ⟨h2, F2, A2, ar2, e2, gA2, f2, o2, s2⟩ := k_add_l (A := A1) gA1 (by omega) (by omega) hxs hE.1 hE.2.2 (by omega) N m
  obtain ⟨z2, z3, z4, z5, z6⟩ := f2
  have art : ix_tg h1 ar = 115 → ix_sz h0 ≤ ar := fun q => a2 (by rw [← (same ar a1).1]; exact q)
  have old : ∀ b, b < ix_sz h1 → b ≠ ls → b ≠ ar ∨ ix_tg h1 b ≠ 115 → ix_tg h2 b = ix_tg h1 b ∧ ix_ln h2 b = ix_ln h1 b ∧ ix_fR h2 b = ix_fR h1 b ∧ ix_aR h2 b = ix_aR h1 b ∧ F2 b = F1 b ∧ A2 b = A1 b := fun b hb x1 x2 => by
    obtain ⟨c1, c2, c3, c4, c5, c6, c7⟩ := z6 b hb
    exact ⟨c1, c2, (c6 x1).1, c7 x2, (c6 x1).2, c5⟩
  have lowb : ∀ b, b < ix_sz h0 → b ≠ ls ∧ (b ≠ ar ∨ ix_tg h1 b ≠ 115) := fun b hb => by
    refine ⟨by omega, ?_⟩
    by_cases q : b = ar
    · refine .inr fun y => ?_
      rw [q] at y
      have := art y
      omega
    · exact .inl q
  refine ⟨h2, F2, A2, e2, ⟨?_, ?_, ?_, ⟨r1, by omega, ?_, ?_, ?_⟩, ⟨q1, by omega⟩, ar2, xs ++ [x], gA2, s2, ?_, ?_⟩, by omega, fun b hb x1 y1 y2 => ?_⟩
  · refine T1.imp z2 z5 (m := ix_sz h0) (by rw [hcs, hcs0]; exact hM) fun b hb => ?_
    obtain ⟨x1, x2⟩ := lowb b hb
    exact old b (by omega) x1 x2
  · have gg := g.trans g1
    obtain ⟨y1, y2, y3, y4, y5⟩ := gg
    refine ⟨by omega, by omega, by omega, z5.trans y4, fun b hb => ?_⟩
    obtain ⟨c1, c2, c3, c4, c5, c6, c7, c8⟩ := y5 b hb
    obtain ⟨x1, x2⟩ := lowb b hb
    obtain ⟨e1, e2, e3, e4, e5, e6, e7⟩ := z6 b (by omega)
    exact ⟨e1.trans c1, e2.trans c2, (e6 x1).1.trans c3, e3.trans c4, e4.trans c5, (e7 x2).trans c6, e5.trans c7, fun p q => (e6 x1).2.trans (c8 p q)⟩
  · rw [List.length_append, List.length_singleton]
    omega
  · rw [(z6 ro (by omega)).1, (same ro r2).1]
    exact r3
  · have nrl : ro ≠ ls := fun q => by
      have := gA0.1
      rw [← q, r3] at this
      exact absurd this (by decide)
    rw [((z6 ro (by omega)).2.2.2.2.2.1 nrl).1, (same ro r2).2.2.1]
    exact r4
  · have nrl : ro ≠ ls := fun q => by
      have := gA0.1
      rw [← q, r3] at this
      exact absurd this (by decide)
    rw [((z6 ro (by omega)).2.2.2.2.2.1 nrl).2, (same ro r2).2.2.2.2.2 (by omega) (by omega)]
    exact r5
  · intro q
    rcases o2 with o2 | o2
    · rw [o2] at q ⊢
      exact art (by rw [← (z6 ar (by omega)).1]; exact q)
    · omega
  · refine fa1.mono fun y z hz => hz.of (fun b hb => ?_) z5 ?_
    · obtain ⟨⟨b1, b2⟩, b3, b4⟩ := hb
      obtain ⟨s1, s2', s3, s4, s5, s6⟩ := old b b2 b3 (.inl b4)
      refine ⟨⟨⟨b1, by omega⟩, b3, ?_⟩, s1, s2', s3, s4, s5⟩
      rcases o2 with o2 | o2
      · rw [o2]
        exact b4
      · omega
    · have := z6 (ix_cs h1 40) (by rw [hcs]; omega)
      exact ⟨this.1, this.2.1⟩
  · obtain ⟨s1, -, s3, -, -, s6⟩ := same b hb
    obtain ⟨e1, -, -, -, -, e6, -⟩ := z6 b (by omega)
    exact ⟨e1.trans s1, (e6 x1).1.trans s3, (e6 x1).2.trans (s6 y1 y2)⟩
/-- how deep rounds lie -/
theorem gT.wth (T : gT h F A D cv tk e t op wi w) (wi' : Nat) : gT h (hw_R F (D 3) (hw_U (F (D 3)) 5 (nI wi'))) A D cv tk e t op wi' w := by
  obtain ⟨u1, u2, u3, u4, u5, u6, u7, u8⟩ := T
  have g : gO D h F A h (hw_R F (D 3) (hw_U (F (D 3)) 5 (nI wi'))) A 0 := (gO.refl D h _ A).fR (.inr (.inr rfl)) _
  refine ⟨u1, u2.gO u1 g, u3, u4, ?_, ?_, ?_, ?_⟩
  · rw [hw_R_same, hw_U_ne _ _ (by omega)]
    exact u5
  · rw [hw_R_same, hw_U_ne _ _ (by omega)]
    exact u6
  · rw [hw_R_same, hw_U_same]
  · unfold gW at *
    cases w with
    | none =>
      show hw_R F (D 3) _ (D 3) 6 = nI 0
      rw [hw_R_same, hw_U_ne _ _ (by omega)]
      exact u8
    | some x =>
      obtain ⟨v1, v2, v3⟩ := u8
      refine ⟨v1, ?_, ?_⟩
      · rw [hw_R_same, hw_U_ne _ _ (by omega)]
        exact v2
      · rw [hw_R_same, hw_U_ne _ _ (by omega)]
        exact v3
/-- the loop's state stays where old cells stay -/
theorem gI.ofN {h0 h1 : ix_H} {F0 A0 F1 A1 : Nat → Nat → Int32} {d k k1 ro ls : Nat} {n : Int32} {l : List (xT d)} (I : gI D cv tk e wi h0 F0 A0 d h F A t w ro ls n l k) (g1 : gN h F A h1 F1 A1 k1) : gI D cv tk e wi h0 F0 A0 d h1 F1 A1 t w ro ls n l (k + k1) := by
  obtain ⟨T, g, ll, ⟨r1, r2, r3, r4, r5⟩, ⟨q1, q2⟩, ar, xs, gA0, a1, a2, fa⟩ := I
  have z1 := g1.1
  have hcs : ix_cs h1 = ix_cs h := g1.2.2.2.1
  have same : ∀ b, b < ix_sz h → ix_tg h1 b = ix_tg h b ∧ ix_ln h1 b = ix_ln h b ∧ ix_fR h1 b = ix_fR h b ∧ ix_aR h1 b = ix_aR h b ∧ F1 b = F b := fun b hb => by
    obtain ⟨c1, c2, c3, c4, c5, c6, c7, c8⟩ := g1.2.2.2.2 b hb
    exact ⟨c1, c2, c3, c6, gN.f g1 hb⟩
  have b40 : ix_cs h 40 < ix_sz h := T.2.1.2.2.2.2
  refine ⟨T.ofN g1, g.trans (g1.o D), ll, ⟨r1, by omega, by rw [(same ro r2).1]; exact r3, by rw [(same ro r2).2.2.1]; exact r4, by rw [(same ro r2).2.2.2.2]; exact r5⟩, ⟨q1, by omega⟩, ar, xs, ?_, by omega, fun q => a2 (by rw [← (same ar a1).1]; exact q), fa.mono fun y z hz => hz.of (fun b hb => ?_) hcs ⟨(same _ b40).1, (same _ b40).2.1⟩⟩
  · obtain ⟨b1, b2, b3, b4⟩ := gA0
    obtain ⟨s1, s2, s3, s4, s6⟩ := same ls q2
    obtain ⟨u1, u2, u3, u4, u6⟩ := same ar a1
    refine ⟨by rw [s1]; exact b1, by rw [s3]; exact b2, by rw [s6]; exact b3, ?_⟩
    rcases b4 with ⟨v1, v2, v3, v4⟩ | ⟨v1, v2, v3, v4, v5⟩
    · exact .inl ⟨v1, by rw [hcs]; exact v2, by rw [u1]; exact v3, by rw [u2]; exact v4⟩
    · exact .inr ⟨by rw [u1]; exact v1, by rw [u2]; exact v2, by rw [u2]; exact v3, by rw [u2]; exact v4, fun i hi => by rw [u4]; exact v5 i hi⟩
  · obtain ⟨⟨b1, b2⟩, b3⟩ := hb
    obtain ⟨s1, s2, s3, s4, s5⟩ := same b b2
    exact ⟨⟨⟨b1, by omega⟩, b3⟩, s1, s2, s3, s4, s5⟩
/-- the tree of what was gathered -/
theorem gI.tree {h0 : ix_H} {F0 A0 : Nat → Nat → Int32} {d k ro ls : Nat} {n : Int32} {l : List (xT d)} (I : gI D cv tk e wi h0 F0 A0 d h F A t w ro ls n l k) : gTr h F (rg (ix_sz h0) (ix_sz h)) (d + 1) (.inr (n, l)) ro := by
  obtain ⟨T, g, ll, ⟨r1, r2, r3, r4, r5⟩, ⟨q1, q2⟩, ar, xs, gA0, a1, a2, fa⟩ := I
  exact ⟨⟨r1, r2⟩, r3, r5, ls, ar, xs, r4, ⟨q1, q2⟩, fun q => ⟨a2 q, a1⟩, gA0, fa.mono fun y z hz => hz.of (fun b hb => ⟨hb.1, rfl, rfl, rfl, rfl, rfl⟩) rfl ⟨rfl, rfl⟩⟩
end
