/-! K4: the component: new cells; how little the parser changes -/
set_option maxRecDepth 100000
/-- old cells stay, but for the fault's and the parser's numbers; k: how much is new -/
def gO (D : Nat → Nat) (h0 : ix_H) (F0 A0 : Nat → Nat → Int32) (h : ix_H) (F A : Nat → Nat → Int32) (k : Nat) : Prop :=
  ix_sz h0 ≤ ix_sz h ∧ ix_sz h ≤ ix_sz h0 + k ∧ ix_sl h ≤ ix_sl h0 + 20 * k ∧ ix_cs h = ix_cs h0 ∧
  ∀ b, b < ix_sz h0 → ix_tg h b = ix_tg h0 b ∧ ix_ln h b = ix_ln h0 b ∧ ix_fR h b = ix_fR h0 b ∧ ix_fL h b = ix_fL h0 b ∧ ix_aL h b = ix_aL h0 b ∧ ix_aR h b = ix_aR h0 b ∧ A b = A0 b ∧ (b ≠ D 1 → b ≠ D 3 → F b = F0 b)
section
variable {D : Nat → Nat} {h0 h h' : ix_H} {F0 A0 F A F' A' : Nat → Nat → Int32} {k : Nat}
theorem gO.refl (D : Nat → Nat) (h : ix_H) (F A : Nat → Nat → Int32) : gO D h F A h F A 0 := ⟨Nat.le_refl _, Nat.le_refl _, Nat.le_refl _, rfl, fun _ _ => ⟨rfl, rfl, rfl, rfl, rfl, rfl, rfl, fun _ _ => rfl⟩⟩
theorem gO.trans {k' : Nat} (g : gO D h0 F0 A0 h F A k) (g' : gO D h F A h' F' A' k') : gO D h0 F0 A0 h' F' A' (k + k') := by
  obtain ⟨a1, a2, a3, a4, a5⟩ := g
  obtain ⟨b1, b2, b3, b4, b5⟩ := g'
  refine ⟨by omega, by omega, by omega, b4.trans a4, fun b hb => ?_⟩
  obtain ⟨c1, c2, c3, c4, c5, c6, c7, c8⟩ := a5 b hb
  obtain ⟨d1, d2, d3, d4, d5, d6, d7, d8⟩ := b5 b (by omega)
  exact ⟨d1.trans c1, d2.trans c2, d3.trans c3, d4.trans c4, d5.trans c5, d6.trans c6, d7.trans c7, fun x y => (d8 x y).trans (c8 x y)⟩
theorem gO.mono {k' : Nat} (g : gO D h0 F0 A0 h F A k) (hk : k ≤ k') : gO D h0 F0 A0 h F A k' := by
  obtain ⟨a1, a2, a3, a4, a5⟩ := g
  exact ⟨a1, by omega, by omega, a4, a5⟩
theorem gO.nwO (g : gO D h0 F0 A0 h F A k) (c : Nat) {n : Nat} (hn : n ≤ 20) : gO D h0 F0 A0 (ix_nwO h c n) (hw_R F (ix_sz h) (fun _ => 0)) A (k + 1) := by
  obtain ⟨a1, a2, a3, a4, a5⟩ := g
  have e1 : ix_sz (ix_nwO h c n) = ix_sz h + 1 := rfl
  have e2 : ix_sl (ix_nwO h c n) = ix_sl h + n := rfl
  refine ⟨by omega, by omega, by omega, a4, fun b hb => ?_⟩
  obtain ⟨c1, c2, c3, c4, c5, c6, c7, c8⟩ := a5 b hb
  have ne : b ≠ ix_sz h := by omega
  refine ⟨(if_neg ne).trans c1, c2, ?_, ?_, c5, c6, c7, fun x y => (hw_R_ne _ _ ne).trans (c8 x y)⟩
  · rw [← c3]
    funext j
    exact if_neg ne
  · rw [← c4]
    funext j
    exact if_neg ne
theorem gO.nwA (g : gO D h0 F0 A0 h F A k) (c : Nat) {n : Nat} (j : Nat) (hj : 1 ≤ j) (hn : n ≤ 20 * j) : gO D h0 F0 A0 (ix_nwA h c n) F (hw_R A (ix_sz h) (fun _ => 0)) (k + j) := by
  obtain ⟨a1, a2, a3, a4, a5⟩ := g
  have e1 : ix_sz (ix_nwA h c n) = ix_sz h + 1 := rfl
  have e2 : ix_sl (ix_nwA h c n) = ix_sl h + n := rfl
  refine ⟨by omega, by omega, by omega, a4, fun b hb => ?_⟩
  obtain ⟨c1, c2, c3, c4, c5, c6, c7, c8⟩ := a5 b hb
  have ne : b ≠ ix_sz h := by omega
  refine ⟨(if_neg ne).trans c1, (if_neg ne).trans c2, c3, c4, ?_, ?_, (hw_R_ne _ _ ne).trans c7, c8⟩
  · rw [← c5]
    funext j
    exact if_neg ne
  · rw [← c6]
    funext j
    exact if_neg ne
theorem gO.wfR (g : gO D h0 F0 A0 h F A k) {a : Nat} (ha : ix_sz h0 ≤ a) (j : Nat) (v : Option Nat) : gO D h0 F0 A0 (ix_wfR h a j v) F A k := by
  obtain ⟨a1, a2, a3, a4, a5⟩ := g
  refine ⟨a1, a2, a3, a4, fun b hb => ?_⟩
  obtain ⟨c1, c2, c3, c4, c5, c6, c7, c8⟩ := a5 b hb
  refine ⟨c1, c2, ?_, c4, c5, c6, c7, c8⟩
  rw [← c3]
  funext i
  exact if_neg (fun x => by omega)
theorem gO.waR (g : gO D h0 F0 A0 h F A k) {a : Nat} (ha : ix_sz h0 ≤ a) (j : Nat) (v : Option Nat) : gO D h0 F0 A0 (ix_waR h a j v) F A k := by
  obtain ⟨a1, a2, a3, a4, a5⟩ := g
  refine ⟨a1, a2, a3, a4, fun b hb => ?_⟩
  obtain ⟨c1, c2, c3, c4, c5, c6, c7, c8⟩ := a5 b hb
  refine ⟨c1, c2, c3, c4, c5, ?_, c7, c8⟩
  rw [← c6]
  funext i
  exact if_neg (fun x => by omega)
theorem gO.cpR (g : gO D h0 F0 A0 h F A k) {a : Nat} (ha : ix_sz h0 ≤ a) (s sp dp n : Nat) : gO D h0 F0 A0 (ix_cpR h s sp a dp n) F A k := by
  obtain ⟨a1, a2, a3, a4, a5⟩ := g
  refine ⟨a1, a2, a3, a4, fun b hb => ?_⟩
  obtain ⟨c1, c2, c3, c4, c5, c6, c7, c8⟩ := a5 b hb
  refine ⟨c1, c2, c3, c4, c5, ?_, c7, c8⟩
  rw [← c6]
  funext i
  exact if_neg (fun x => by omega)
theorem gO.fR (g : gO D h0 F0 A0 h F A k) {a : Nat} (ha : ix_sz h0 ≤ a ∨ a = D 1 ∨ a = D 3) (r : Nat → Int32) : gO D h0 F0 A0 h (hw_R F a r) A k := by
  obtain ⟨a1, a2, a3, a4, a5⟩ := g
  refine ⟨a1, a2, a3, a4, fun b hb => ?_⟩
  obtain ⟨c1, c2, c3, c4, c5, c6, c7, c8⟩ := a5 b hb
  refine ⟨c1, c2, c3, c4, c5, c6, c7, fun x y => ?_⟩
  rw [hw_R_ne _ _ (by
    rcases ha with w | w | w
    · omega
    · rw [w]
      exact x
    · rw [w]
      exact y)]
  exact c8 x y
theorem gO.aR (g : gO D h0 F0 A0 h F A k) {a : Nat} (ha : ix_sz h0 ≤ a) (r : Nat → Int32) : gO D h0 F0 A0 h F (hw_R A a r) k := by
  obtain ⟨a1, a2, a3, a4, a5⟩ := g
  refine ⟨a1, a2, a3, a4, fun b hb => ?_⟩
  obtain ⟨c1, c2, c3, c4, c5, c6, c7, c8⟩ := a5 b hb
  exact ⟨c1, c2, c3, c4, c5, c6, (hw_R_ne _ _ (by omega)).trans c7, c8⟩
theorem kS.gO {E : Nat → Nat} (hs : kS h0 D) (g : gO E h0 F0 A0 h F A k) : kS h D := by
  obtain ⟨⟨t1, t2, t3, t13, t14, t15, t16⟩, ⟨f0, f1, f3, f4, f5, f6⟩, ⟨g0, g1⟩, inj, lt⟩ := hs
  obtain ⟨a1, a2, a3, a4, a5⟩ := g
  have c : ∀ j, j < 19 → ix_tg h (D j) = ix_tg h0 (D j) ∧ ix_ln h (D j) = ix_ln h0 (D j) ∧ ix_fR h (D j) = ix_fR h0 (D j) := fun j hj => by
    obtain ⟨c1, c2, c3, -⟩ := a5 (D j) (lt j hj)
    exact ⟨c1, c2, c3⟩
  refine ⟨⟨by rw [(c 1 (by omega)).1]; exact t1, by rw [(c 2 (by omega)).1]; exact t2, by rw [(c 3 (by omega)).1]; exact t3, by rw [(c 13 (by omega)).1, (c 13 (by omega)).2.1]; exact t13, by rw [(c 14 (by omega)).1, (c 14 (by omega)).2.1]; exact t14, by rw [(c 15 (by omega)).1, (c 15 (by omega)).2.1]; exact t15, fun j h1 h2 => by rw [(c j h2).1, (c j h2).2.1]; exact t16 j h1 h2⟩, ?_, ?_, inj, fun i hi => by have := lt i hi; omega⟩
  · rw [(c 2 (by omega)).2.2]
    exact ⟨f0, f1, f3, f4, f5, f6⟩
  · rw [(c 3 (by omega)).2.2]
    exact ⟨g0, g1⟩
theorem kT.gO {s v : Nat} {w : List Int32} (t : kT h0 F0 A0 s v w) (g : gO D h0 F0 A0 h F A k) (hs : s < ix_sz h0) (hv : v < ix_sz h0) (n1 : s ≠ D 1) (n3 : s ≠ D 3) : kT h F A s v w := by
  obtain ⟨t1, t2, t3, t4, t5, t6, t7, t8⟩ := t
  obtain ⟨a1, a2, a3, a4, a5⟩ := g
  obtain ⟨c1, -, c3, -, -, -, -, c8⟩ := a5 s hs
  obtain ⟨d1, d2, -, -, -, -, d7, -⟩ := a5 v hv
  exact ⟨by rw [c1]; exact t1, by rw [d1]; exact t2, by rw [c3]; exact t3, by rw [c8 n1 n3]; exact t4, by rw [d2]; exact t5, t6, t7, fun i hi => by rw [d7]; exact t8 i hi⟩
theorem kC.gO {cv : Nat → Nat} (hs : kS h0 D) (hc : kC h0 F0 A0 D cv) (g : gO D h0 F0 A0 h F A k) : kC h F A D cv := by
  obtain ⟨c1, c2, c3, c4, c5⟩ := hc
  have g0 := g
  obtain ⟨a1, a2, a3, a4, a5⟩ := g
  refine ⟨fun w hw => ?_, fun w hw => ?_, ?_, ?_, ?_⟩
  · obtain ⟨-, -, -, -, -, e, -⟩ := a5 (D 13) (hs.2.2.2.2 13 (by omega))
    rw [e, a4]
    exact c1 w hw
  · obtain ⟨t, s1, s2, s3, s4, s5⟩ := c2 w hw
    rw [a4]
    exact ⟨t.gO g0 s1 s2 (fun x => s3 1 (by omega) x.symm) (fun x => s3 3 (by omega) x.symm), by omega, by omega, s3, s4, by rw [(a5 _ s1).1]; exact s5⟩
  · rw [a4, (a5 _ c5).1]
    exact c3
  · rw [a4, (a5 _ c5).2.1]
    exact c4
  · rw [a4]
    omega
end
/-- all old cells stay -/
abbrev gN (h0 : ix_H) (F0 A0 : Nat → Nat → Int32) (h : ix_H) (F A : Nat → Nat → Int32) (k : Nat) : Prop := gO (fun _ => ix_sz h0) h0 F0 A0 h F A k
theorem gN.f {h0 h : ix_H} {F0 A0 F A : Nat → Nat → Int32} {k b : Nat} (g : gN h0 F0 A0 h F A k) (hb : b < ix_sz h0) : F b = F0 b := (g.2.2.2.2 b hb).2.2.2.2.2.2.2 (Nat.ne_of_lt hb) (Nat.ne_of_lt hb)
theorem gN.o {h0 h : ix_H} {F0 A0 F A : Nat → Nat → Int32} {k : Nat} (g : gN h0 F0 A0 h F A k) (D : Nat → Nat) : gO D h0 F0 A0 h F A k := by
  have g0 := g
  obtain ⟨a1, a2, a3, a4, a5⟩ := g
  refine ⟨a1, a2, a3, a4, fun b hb => ?_⟩
  obtain ⟨c1, c2, c3, c4, c5, c6, c7, c8⟩ := a5 b hb
  exact ⟨c1, c2, c3, c4, c5, c6, c7, fun _ _ => gN.f g0 hb⟩
/-! what is new -/
theorem s_tgO (h : ix_H) (c n : Nat) : ix_tg (ix_nwO h c n) (ix_sz h) = c := if_pos rfl
theorem s_tgO' (h : ix_H) (c n : Nat) {b : Nat} (hb : b ≠ ix_sz h) : ix_tg (ix_nwO h c n) b = ix_tg h b := if_neg hb
theorem s_tgA (h : ix_H) (c n : Nat) : ix_tg (ix_nwA h c n) (ix_sz h) = c := if_pos rfl
theorem s_tgA' (h : ix_H) (c n : Nat) {b : Nat} (hb : b ≠ ix_sz h) : ix_tg (ix_nwA h c n) b = ix_tg h b := if_neg hb
theorem s_lnA (h : ix_H) (c n : Nat) : ix_ln (ix_nwA h c n) (ix_sz h) = n := if_pos rfl
theorem s_lnA' (h : ix_H) (c n : Nat) {b : Nat} (hb : b ≠ ix_sz h) : ix_ln (ix_nwA h c n) b = ix_ln h b := if_neg hb
theorem s_fRO (h : ix_H) (c n j : Nat) : ix_fR (ix_nwO h c n) (ix_sz h) j = none := if_pos rfl
theorem s_fRO' (h : ix_H) (c n j : Nat) {b : Nat} (hb : b ≠ ix_sz h) : ix_fR (ix_nwO h c n) b j = ix_fR h b j := if_neg hb
theorem s_fRA (h : ix_H) (c n : Nat) : ix_fR (ix_nwA h c n) = ix_fR h := rfl
theorem s_aRO (h : ix_H) (c n : Nat) : ix_aR (ix_nwO h c n) = ix_aR h := rfl
theorem s_aRA (h : ix_H) (c n j : Nat) : ix_aR (ix_nwA h c n) (ix_sz h) j = none := if_pos rfl
theorem s_aRA' (h : ix_H) (c n j : Nat) {b : Nat} (hb : b ≠ ix_sz h) : ix_aR (ix_nwA h c n) b j = ix_aR h b j := if_neg hb
theorem s_lnO (h : ix_H) (c n : Nat) : ix_ln (ix_nwO h c n) = ix_ln h := rfl
theorem s_szO (h : ix_H) (c n : Nat) : ix_sz (ix_nwO h c n) = ix_sz h + 1 := rfl
theorem s_szA (h : ix_H) (c n : Nat) : ix_sz (ix_nwA h c n) = ix_sz h + 1 := rfl
theorem s_szf (h : ix_H) (a j : Nat) (v : Option Nat) : ix_sz (ix_wfR h a j v) = ix_sz h := rfl
theorem s_sza (h : ix_H) (a j : Nat) (v : Option Nat) : ix_sz (ix_waR h a j v) = ix_sz h := rfl
theorem s_tgf (h : ix_H) (a j : Nat) (v : Option Nat) : ix_tg (ix_wfR h a j v) = ix_tg h := rfl
theorem s_lnf (h : ix_H) (a j : Nat) (v : Option Nat) : ix_ln (ix_wfR h a j v) = ix_ln h := rfl
theorem s_tga (h : ix_H) (a j : Nat) (v : Option Nat) : ix_tg (ix_waR h a j v) = ix_tg h := rfl
theorem s_lna (h : ix_H) (a j : Nat) (v : Option Nat) : ix_ln (ix_waR h a j v) = ix_ln h := rfl
theorem s_aRf (h : ix_H) (a j : Nat) (v : Option Nat) : ix_aR (ix_wfR h a j v) = ix_aR h := rfl
theorem s_fRa (h : ix_H) (a j : Nat) (v : Option Nat) : ix_fR (ix_waR h a j v) = ix_fR h := rfl
theorem s_fRf (h : ix_H) (a j : Nat) (v : Option Nat) : ix_fR (ix_wfR h a j v) a j = v := if_pos ⟨rfl, rfl⟩
theorem s_fRf' (h : ix_H) (a j : Nat) (v : Option Nat) {b i : Nat} (hb : ¬ (b = a ∧ i = j)) : ix_fR (ix_wfR h a j v) b i = ix_fR h b i := if_neg hb
theorem s_aRa (h : ix_H) (a j : Nat) (v : Option Nat) : ix_aR (ix_waR h a j v) a j = v := if_pos ⟨rfl, rfl⟩
theorem s_aRa' (h : ix_H) (a j : Nat) (v : Option Nat) {b i : Nat} (hb : ¬ (b = a ∧ i = j)) : ix_aR (ix_waR h a j v) b i = ix_aR h b i := if_neg hb
theorem hw_bO {β : Type} (h : ix_H) (F A : Nat → Nat → Int32) (c n : Nat) (f : ix_H → β) : ix_bd (ix_nwO (hw h F A) c n) f = f (hw (ix_nwO h c n) (hw_R F (ix_sz h) (fun _ => 0)) A) := by rw [hw_nwO]; rfl
theorem hw_bA {β : Type} (h : ix_H) (F A : Nat → Nat → Int32) (c n : Nat) (f : ix_H → β) : ix_bd (ix_nwA (hw h F A) c n) f = f (hw (ix_nwA h c n) F (hw_R A (ix_sz h) (fun _ => 0))) := by rw [hw_nwA]; rfl
theorem hw_bfR {β : Type} (h : ix_H) (F A : Nat → Nat → Int32) (a j : Nat) (v : Option Nat) (f : ix_H → β) : ix_bd (ix_wfR (hw h F A) a j v) f = f (hw (ix_wfR h a j v) F A) := rfl
theorem hw_baR {β : Type} (h : ix_H) (F A : Nat → Nat → Int32) (a j : Nat) (v : Option Nat) (f : ix_H → β) : ix_bd (ix_waR (hw h F A) a j v) f = f (hw (ix_waR h a j v) F A) := rfl
