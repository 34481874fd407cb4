/-! KX: the component: a new store, whole -/
set_option maxRecDepth 100000
theorem vL_ex {o s : Nat} (ho : o < s) (hs : s + 20 < 1099511627776) : ∃ L : Nat → Nat, L = vL o s ∧ L 0 = o ∧ (∀ i, 0 < i → i < 4 → L i = s + i - 1) ∧ L 4 = s + 12 ∧ (∀ i, 5 ≤ i → i < 9 → L i = s + 8 + i) ∧ (∀ i, 9 ≤ i → i < 18 → L i = s + i - 6) ∧ (∀ i j, L i = L j → i = j) ∧ (∀ i, i < 18 → L i < s + 17) ∧ ∀ i, 18 ≤ i → 1099511627776 ≤ L i := by
  have a0 : vL o s 0 = o := if_pos rfl
  have a1 : ∀ i, 0 < i → i < 4 → vL o s i = s + i - 1 := fun i h1 h2 => by
    unfold vL
    rw [if_neg (by omega), if_pos h2]
  have a4 : vL o s 4 = s + 12 := by
    unfold vL
    rw [if_neg (by omega), if_neg (by omega), if_pos rfl]
  have a5 : ∀ i, 5 ≤ i → i < 9 → vL o s i = s + 8 + i := fun i h1 h2 => by
    unfold vL
    rw [if_neg (by omega), if_neg (by omega), if_neg (by omega), if_pos h2]
  have a9 : ∀ i, 9 ≤ i → i < 18 → vL o s i = s + i - 6 := fun i h1 h2 => by
    unfold vL
    rw [if_neg (by omega), if_neg (by omega), if_neg (by omega), if_neg (by omega), if_pos h2]
  have a18 : ∀ i, 18 ≤ i → vL o s i = 1099511627776 + i := fun i h1 => by
    unfold vL
    rw [if_neg (by omega), if_neg (by omega), if_neg (by omega), if_neg (by omega), if_neg (by omega)]
  have inj := vL_inj ho hs
  generalize vL o s = L at *
  refine ⟨L, rfl, a0, a1, a4, a5, a9, inj, fun i hi => ?_, fun i hi => by rw [a18 i hi]; omega⟩
  rcases (show i = 0 ∨ (0 < i ∧ i < 4) ∨ i = 4 ∨ (5 ≤ i ∧ i < 9) ∨ (9 ≤ i ∧ i < 18) by omega) with w | w | w | w | w
  · rw [w, a0]
    omega
  · rw [a1 i w.1 w.2]
    omega
  · rw [w, a4]
    omega
  · rw [a5 i w.1 w.2]
    omega
  · rw [a9 i w.1 w.2]
    omega
/-- a store with no record, cells one behind another -/
theorem cS_mk {h : ix_H} {o s : Nat} (ho : o < s) (hz : s + 6100 < 1099511627776) (sz : ix_sz h = s + 17) (EO : ix_tg h o = 5 ∧ ix_fR h o 0 = some s ∧ ix_fR h o 1 = some (s + 1) ∧ ix_fR h o 2 = some (s + 2) ∧ ix_fR h o 9 = some (s + 3) ∧ ix_fR h o 10 = some (s + 6) ∧ ix_fR h o 11 = some (s + 9) ∧ ix_fR h o 12 = some (s + 12)) (E1 : ix_tg h s = 111 ∧ ix_ln h s = 2000 ∧ ix_tg h (s + 1) = 101 ∧ ix_ln h (s + 1) = 32 ∧ ix_tg h (s + 2) = 112 ∧ ix_ln h (s + 2) = 4 ∧ ix_tg h (s + 12) = 101 ∧ ix_ln h (s + 12) = 2000) (EH : ∀ k, k < 4 → ix_aR h (s + 2) k = some (s + 13 + k) ∧ ix_tg h (s + 13 + k) = 7) (C4 : cR h (s + 3) (s + 4) (s + 5)) (C5 : cR h (s + 6) (s + 7) (s + 8)) (C6 : cR h (s + 9) (s + 10) (s + 11)) (r1 : ∀ r, ix_aR h s r = none) : cS h (vL o s) 0 := by
  obtain ⟨L, hL, l0, la, lfour, lb, lc, linj, llo, lhi⟩ := vL_ex ho (s := s) (by omega)
  rw [← hL]
  clear hL
  have L1 : L 1 = s := la 1 (by omega) (by omega)
  have L2 : L 2 = s + 1 := la 2 (by omega) (by omega)
  have L3 : L 3 = s + 2 := la 3 (by omega) (by omega)
  refine ⟨?_, ?_, fun k hk => ?_, fun t ht3 => ?_, fun r hr => absurd hr (Nat.not_lt_zero r), fun r _ hr => ?_, Nat.zero_le _, linj, fun i hi => ?_, fun i hi => lhi i (by omega), by omega⟩
  · rw [L1, L2, L3, lc 9 (by omega) (by omega), lc 12 (by omega) (by omega), lc 15 (by omega) (by omega), lfour, l0]
    exact EO
  · rw [L1, L2, L3, lfour]
    exact E1
  · rw [L3, lb (5 + k) (by omega) (by omega), show s + 8 + (5 + k) = s + 13 + k by omega]
    exact EH k hk
  · match t, ht3 with
    | 0, _ =>
      show cR h (L 9) (L 10) (L 11)
      rw [lc 9 (by omega) (by omega), lc 10 (by omega) (by omega), lc 11 (by omega) (by omega)]
      exact C4
    | 1, _ =>
      show cR h (L 12) (L 13) (L 14)
      rw [lc 12 (by omega) (by omega), lc 13 (by omega) (by omega), lc 14 (by omega) (by omega)]
      exact C5
    | 2, _ =>
      show cR h (L 15) (L 16) (L 17)
      rw [lc 15 (by omega) (by omega), lc 16 (by omega) (by omega), lc 17 (by omega) (by omega)]
      exact C6
  · rw [L1]
    exact r1 r
  · have := llo i (by omega)
    omega
section
variable {o : Nat} {h h' h2 : ix_H} {F A F' A' F2 A2 : Nat → Nat → Int32} {N : Nat}

theorem c_newS (ht : ix_tg h o = 5) (ho : o < ix_sz h) (hz : ix_sz h + 6100 < 1099511627776) (hN : 10 ≤ N) (d : Nat) : ∃ h' F' A', ix_run iy_P N (d + 2) 171 [ix_R (some o)] (hw h F A) = some (.inl none, hw h' F' A') ∧ gV o h F A h' F' A' 17 4400 ∧ F' o = F o ∧ cS h' (vL o (ix_sz h)) 0 := by
  rw [rX4_init N (d + 1)]
  unfold bX4_init
  -- records
  rw [v_arrS ht ho (by omega)]
  obtain ⟨g1, f1, -, t1, l1, r1⟩ := v_arr (F := F) (A := A) ho 111 2000 0
  generalize vA h o 111 2000 0 = h1 at g1 f1 t1 l1 r1 ⊢
  generalize hw_R A (ix_sz h) (fun _ => 0) = A1 at g1 ⊢
  have s1 := g1.1
  have t1o : ix_tg h1 o = 5 := (g1.2.2.2 o ho).1.trans ht
  -- tops
  rw [v_arrS t1o (by omega) (by omega)]
  obtain ⟨g2, f2, k2, t2, l2, -⟩ := v_arr (o := o) (h := h1) (F := F) (A := A1) (by omega) 101 32 1
  generalize vA h1 o 101 32 1 = h2 at g2 f2 k2 t2 l2 ⊢
  generalize hw_R A1 (ix_sz h1) (fun _ => 0) = A2 at g2 ⊢
  have s2 := g2.1
  have t2o : ix_tg h2 o = 5 := (g2.2.2.2 o (by omega)).1.trans t1o
  -- hands
  rw [v_arrS t2o (by omega) (by omega)]
  obtain ⟨g3, f3, k3, t3, l3, -⟩ := v_arr (o := o) (h := h2) (F := F) (A := A2) (by omega) 112 4 2
  generalize vA h2 o 112 4 2 = h3 at g3 f3 k3 t3 l3 ⊢
  generalize hw_R A2 (ix_sz h2) (fun _ => 0) = A3 at g3 ⊢
  have s3 := g3.1
  have t3o : ix_tg h3 o = 5 := (g3.2.2.2 o (by omega)).1.trans t2o
  -- three records
  rw [v_recS t3o (by omega)]
  obtain ⟨g4, f4, k4, c4⟩ := v_rec (o := o) (h := h3) (F := F) (A := A3) (by omega) 9
  have o4 : hw_R F (ix_sz h3) (fun _ => 0) o = F o := hw_R_ne _ _ (by omega)
  generalize vR h3 o 9 = h4 at g4 f4 k4 c4 ⊢
  generalize hw_R F (ix_sz h3) (fun _ => 0) = F4 at g4 o4 ⊢
  generalize vRA h3 A3 = A4 at g4 ⊢
  have s4 := g4.1
  have t4o : ix_tg h4 o = 5 := (g4.2.2.2 o (by omega)).1.trans t3o
  rw [v_recS t4o (by omega)]
  obtain ⟨g5, f5, k5, c5⟩ := v_rec (o := o) (h := h4) (F := F4) (A := A4) (by omega) 10
  have o5 : hw_R F4 (ix_sz h4) (fun _ => 0) o = F o := (hw_R_ne _ _ (by omega)).trans o4
  generalize vR h4 o 10 = h5 at g5 f5 k5 c5 ⊢
  generalize hw_R F4 (ix_sz h4) (fun _ => 0) = F5 at g5 o5 ⊢
  generalize vRA h4 A4 = A5 at g5 ⊢
  have s5 := g5.1
  have t5o : ix_tg h5 o = 5 := (g5.2.2.2 o (by omega)).1.trans t4o
  rw [v_recS t5o (by omega)]
  obtain ⟨g6, f6, k6, c6⟩ := v_rec (o := o) (h := h5) (F := F5) (A := A5) (by omega) 11
  have o6 : hw_R F5 (ix_sz h5) (fun _ => 0) o = F o := (hw_R_ne _ _ (by omega)).trans o5
  generalize vR h5 o 11 = h6 at g6 f6 k6 c6 ⊢
  generalize hw_R F5 (ix_sz h5) (fun _ => 0) = F6 at g6 o6 ⊢
  generalize vRA h5 A5 = A6 at g6 ⊢
  have s6 := g6.1
  have t6o : ix_tg h6 o = 5 := (g6.2.2.2 o (by omega)).1.trans t5o
  -- what lies above
  rw [v_arrS t6o (by omega) (by omega)]
  obtain ⟨g7, f7, k7, t7, l7, -⟩ := v_arr (o := o) (h := h6) (F := F6) (A := A6) (by omega) 101 2000 12
  generalize vA h6 o 101 2000 12 = h7 at g7 f7 k7 t7 l7 ⊢
  generalize hw_R A6 (ix_sz h6) (fun _ => 0) = A7 at g7 ⊢
  have s7 := g7.1
  have t7o : ix_tg h7 o = 5 := (g7.2.2.2 o (by omega)).1.trans t6o
  -- from each stage to the last but one
  have g67 := g7
  have g57 := g6.trans g67
  have g47 := g5.trans g57
  have g37 := g4.trans g47
  have g27 := g3.trans g37
  have g17 := g2.trans g27
  have g07 := g1.trans g17
  have q3 : ix_tg h7 (ix_sz h2) = 112 ∧ ix_ln h7 (ix_sz h2) = 4 := ⟨((g37.2.2.2 _ (by omega)).1).trans t3, ((g37.2.2.2 _ (by omega)).2.1).trans l3⟩
  have f72 : ix_fR h7 o 2 = some (ix_sz h2) := by rw [k7 2 (by omega), k6 2 (by omega), k5 2 (by omega), k4 2 (by omega), f3]
  rw [← lX4_init_35]
  obtain ⟨h8, F8, e8, z8, z8s, z8c, z8b, -, z8h⟩ := v_hands (N := N) (s := ix_sz h) (h := h7) (q := ix_sz h2) ho (by omega) (by omega) (by omega) d 4 0 (N + 1) h7 F6 A7 (by omega) (by omega) (by omega) (by omega) t7o f72 q3.1 q3.2
  have eo : ∀ i, ix_fR h8 o i = ix_fR h7 o i := fun i => by rw [(z8b o (by omega)).2.2.2.2.2.1]
  -- a cell at the end
  have end_ : ∀ {ha : ix_H} {Fa Aa : Nat → Nat → Int32} {k c b : Nat}, gV o ha Fa Aa h7 F6 A7 k c → b < ix_sz ha → ix_tg h8 b = ix_tg ha b ∧ ix_ln h8 b = ix_ln ha b ∧ (b ≠ o → ix_fR h8 b = ix_fR ha b) ∧ (b ≠ ix_sz h2 → ix_aR h8 b = ix_aR ha b) := fun {ha Fa Aa k c b} g hb => by
    have hb7 : b < ix_sz h7 := by have := g.1; omega
    obtain ⟨y1, y2, -, -, y5, -, y7⟩ := g.2.2.2 b hb
    obtain ⟨w1, w2, -, -, -, w6, w7⟩ := z8b b hb7
    exact ⟨w1.trans y1, w2.trans y2, fun n => w6.trans (y7 n).2, fun n => (w7 n).trans y5⟩
  have crS : ∀ {ha : ix_H} {Fa Aa : Nat → Nat → Int32} {k c r ka va : Nat}, gV o ha Fa Aa h7 F6 A7 k c → r < ix_sz ha → ka < ix_sz ha → va < ix_sz ha → r ≠ o → cR ha r ka va → cR h8 r ka va := fun {ha Fa Aa k c r ka va} g hr hk hv n cr => by
    obtain ⟨c1, c2, c3, c4, c5, c6, c7, c8⟩ := cr
    obtain ⟨a1, -, a3, -⟩ := end_ g hr
    obtain ⟨b1, b2, -, -⟩ := end_ g hk
    obtain ⟨d1, d2, -, -⟩ := end_ g hv
    exact ⟨by rw [a1]; exact c1, by rw [a3 n]; exact c2, by rw [a3 n]; exact c3, by rw [b1]; exact c4, by rw [d1]; exact c5, by rw [b2]; exact c6, by rw [d2]; exact c7, c8⟩
  have b1 : ix_sz h < ix_sz h1 := by omega
  have b2 : ix_sz h1 < ix_sz h2 := by omega
  have b3 : ix_sz h2 < ix_sz h3 := by omega
  have b7 : ix_sz h6 < ix_sz h7 := by omega
  have bo : o < ix_sz h7 := by omega
  have n1 : ix_sz h ≠ ix_sz h2 := by omega
  have m4 : ix_sz h3 < ix_sz h4 ∧ ix_sz h3 + 1 < ix_sz h4 ∧ ix_sz h3 + 2 < ix_sz h4 ∧ ix_sz h3 ≠ o := by omega
  have m5 : ix_sz h4 < ix_sz h5 ∧ ix_sz h4 + 1 < ix_sz h5 ∧ ix_sz h4 + 2 < ix_sz h5 ∧ ix_sz h4 ≠ o := by omega
  have m6 : ix_sz h5 < ix_sz h6 ∧ ix_sz h5 + 1 < ix_sz h6 ∧ ix_sz h5 + 2 < ix_sz h6 ∧ ix_sz h5 ≠ o := by omega
  have C4 := crS g47 m4.1 m4.2.1 m4.2.2.1 m4.2.2.2 c4
  have C5 := crS g57 m5.1 m5.2.1 m5.2.2.1 m5.2.2.2 c5
  have C6 := crS g67 m6.1 m6.2.1 m6.2.2.1 m6.2.2.2 c6
  have E1 : ix_tg h8 (ix_sz h) = 111 ∧ ix_ln h8 (ix_sz h) = 2000 ∧ ix_tg h8 (ix_sz h1) = 101 ∧ ix_ln h8 (ix_sz h1) = 32 ∧ ix_tg h8 (ix_sz h2) = 112 ∧ ix_ln h8 (ix_sz h2) = 4 ∧ ix_tg h8 (ix_sz h6) = 101 ∧ ix_ln h8 (ix_sz h6) = 2000 :=
    ⟨(end_ g17 b1).1.trans t1, (end_ g17 b1).2.1.trans l1, (end_ g27 b2).1.trans t2, (end_ g27 b2).2.1.trans l2, (end_ g37 b3).1.trans t3, (end_ g37 b3).2.1.trans l3, (end_ (gV.refl o h7 F6 A7) b7).1.trans t7, (end_ (gV.refl o h7 F6 A7) b7).2.1.trans l7⟩
  have EO : ix_tg h8 o = 5 ∧ ix_fR h8 o 0 = some (ix_sz h) ∧ ix_fR h8 o 1 = some (ix_sz h1) ∧ ix_fR h8 o 2 = some (ix_sz h2) ∧ ix_fR h8 o 9 = some (ix_sz h3) ∧ ix_fR h8 o 10 = some (ix_sz h4) ∧ ix_fR h8 o 11 = some (ix_sz h5) ∧ ix_fR h8 o 12 = some (ix_sz h6) := by
    refine ⟨(z8b o bo).1.trans t7o, ?_, ?_, ?_, ?_, ?_, ?_, ?_⟩
    · rw [eo, k7 0 (by decide), k6 0 (by decide), k5 0 (by decide), k4 0 (by decide), k3 0 (by decide), k2 0 (by decide), f1]
    · rw [eo, k7 1 (by decide), k6 1 (by decide), k5 1 (by decide), k4 1 (by decide), k3 1 (by decide), f2]
    · rw [eo, f72]
    · rw [eo, k7 9 (by decide), k6 9 (by decide), k5 9 (by decide), f4]
    · rw [eo, k7 10 (by decide), k6 10 (by decide), f5]
    · rw [eo, k7 11 (by decide), f6]
    · rw [eo, f7]
  have r1' : ∀ r, ix_aR h8 (ix_sz h) r = none := fun r => by
    rw [(end_ g17 b1).2.2.2 n1]
    exact r1 r
  have EH : ∀ k, k < 4 → ix_aR h8 (ix_sz h2) k = some (ix_sz h7 + k) ∧ ix_tg h8 (ix_sz h7 + k) = 7 := fun k hk => by
    have := z8h k hk
    rw [Nat.zero_add] at this
    exact this
  have y1 : ix_sz h1 = ix_sz h + 1 := s1
  have y2 : ix_sz h2 = ix_sz h + 2 := by rw [s2, y1]
  have y3 : ix_sz h3 = ix_sz h + 3 := by rw [s3, y2]
  have y4 : ix_sz h4 = ix_sz h + 6 := by rw [s4, y3]
  have y5 : ix_sz h5 = ix_sz h + 9 := by rw [s5, y4]
  have y6 : ix_sz h6 = ix_sz h + 12 := by rw [s6, y5]
  have y7 : ix_sz h7 = ix_sz h + 13 := by rw [s7, y6]
  have y8 : ix_sz h8 = ix_sz h + 17 := by rw [z8, y7]
  have bb : ∀ b, b < ix_sz h → b < ix_sz h7 ∧ b ≠ ix_sz h2 := fun b hb => by omega
  rw [y1, y2, y3, y4, y5, y6] at EO
  rw [y1, y2, y6] at E1
  rw [y2, y7] at EH
  rw [y3] at C4
  rw [y4] at C5
  rw [y5] at C6
  refine ⟨h8, F8, A7, e8, ⟨y8, by rw [z8s, g07.2.1], by rw [z8c, g07.2.2.1], fun b hb => ?_⟩, ?_, cS_mk ho hz y8 EO E1 EH C4 C5 C6 r1'⟩
  · obtain ⟨y1, y2, y3, y4, y5, y6, y7⟩ := g07.2.2.2 b hb
    obtain ⟨w1, w2, w3, w4, w5, w6, w7⟩ := z8b b (bb b hb).1
    exact ⟨w1.trans y1, w2.trans y2, w3.trans y3, w4.trans y4, (w7 (bb b hb).2).trans y5, y6, fun n => ⟨w5.trans (y7 n).1, w6.trans (y7 n).2⟩⟩
  · rw [(z8b o bo).2.2.2.2.1, o6]
end
