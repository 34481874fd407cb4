/-! C6: the component: a new record -/
set_option maxRecDepth 100000
theorem hw_nwO (h : ix_H) (F A : Nat → Nat → Int32) (c n : Nat) : ix_nwO (hw h F A) c n = hw (ix_nwO h c n) (hw_R F (ix_sz h) (fun _ => 0)) A := by
  have : ix_row F (ix_sz h) (0 : Int32) = hw_R F (ix_sz h) (fun _ => 0) := by
    funext b j
    unfold ix_row hw_R
    by_cases e : b = ix_sz h
    · rw [if_pos e, if_pos e]
    · rw [if_neg e, if_neg e]
  rw [← this]
  rfl
theorem hw_nwA (h : ix_H) (F A : Nat → Nat → Int32) (c n : Nat) : ix_nwA (hw h F A) c n = hw (ix_nwA h c n) F (hw_R A (ix_sz h) (fun _ => 0)) := by
  have : ix_row A (ix_sz h) (0 : Int32) = hw_R A (ix_sz h) (fun _ => 0) := by
    funext b j
    unfold ix_row hw_R
    by_cases e : b = ix_sz h
    · rw [if_pos e, if_pos e]
    · rw [if_neg e, if_neg e]
  rw [← this]
  rfl
theorem hw_wfRR (h : ix_H) (F A : Nat → Nat → Int32) (a k : Nat) (v : Option Nat) : ix_wfR (hw h F A) a k v = hw (ix_wfR h a k v) F A := rfl
theorem hw_waRR (h : ix_H) (F A : Nat → Nat → Int32) (a k : Nat) (v : Option Nat) : ix_waR (hw h F A) a k v = hw (ix_waR h a k v) F A := rfl
/-- a record's arrays are laid on -/
def c_ini (h : ix_H) (a : Nat) : ix_H := ix_wfR (ix_nwA (ix_wfR (ix_nwA h 101 44) a 0 (some (ix_sz h))) 101 44) a 1 (some (ix_sz h + 1))
theorem c_init {h : ix_H} {a : Nat} (ht : ix_tg h a = 6) (ha : a < ix_sz h) (F A : Nat → Nat → Int32) (N d : Nat) : ix_run iy_P N (d + 1) 207 [ix_R (some a)] (hw h F A) = some (.inl none, hw (c_ini h a) F (hw_R (hw_R A (ix_sz h) (fun _ => 0)) (ix_sz h + 1) (fun _ => 0))) := by
  rw [rX5_init N d]
  unfold bX5_init
  have t1 : ix_tg (ix_nwA h 101 44) a = 6 := by
    show (if a = ix_sz h then 101 else ix_tg h a) = 6
    rw [if_neg (by omega)]
    exact ht
  have t2 : ix_tg (ix_nwA (ix_wfR (ix_nwA h 101 44) a 0 (some (ix_sz h))) 101 44) a = 6 := by
    show (if a = ix_sz h + 1 then 101 else ix_tg (ix_nwA h 101 44) a) = 6
    rw [if_neg (by omega)]
    exact t1
  rw [hw_in (by omega) (by omega), cond_true, hw_bd, hw_nwA, hw_cl (by omega), c_is t1, hw_bd, hw_wfRR, cond_true, hw_bd, hw_nwA, hw_sz, c_is t2, hw_bd, hw_wfRR]
  rfl
/-- how a store's heap grows: old cells outside it stay, new records come behind -/
def cEx (h : ix_H) (F A : Nat → Nat → Int32) (L : Nat → Nat) (nr : Nat) (h' : ix_H) (F' A' : Nat → Nat → Int32) (L' : Nat → Nat) (nr' : Nat) : Prop :=
  nr ≤ nr' ∧ ix_sz h' = ix_sz h + 3 * (nr' - nr) ∧ ix_sl h' = ix_sl h + 100 * (nr' - nr) ∧ ix_cs h' = ix_cs h ∧ (∀ i, i < 18 + 3 * nr → L' i = L i) ∧ (∀ i, 18 + 3 * nr ≤ i → ix_sz h ≤ L' i) ∧
  (∀ b, b < ix_sz h → ix_tg h' b = ix_tg h b ∧ ix_ln h' b = ix_ln h b ∧ ix_fR h' b = ix_fR h b ∧ ix_fL h' b = ix_fL h b ∧ ix_aL h' b = ix_aL h b ∧ (b ≠ L 1 → ix_aR h' b = ix_aR h b)) ∧
  ∀ b, b < ix_sz h → (∀ i, i < 18 + 3 * nr → b ≠ L i) → F' b = F b ∧ A' b = A b
theorem cEx.refl {h : ix_H} {L : Nat → Nat} {nr : Nat} (hs : cS h L nr) {F A F' A' : Nat → Nat → Int32} (hf : ∀ b, b < ix_sz h → (∀ i, i < 18 + 3 * nr → b ≠ L i) → F' b = F b ∧ A' b = A b) : cEx h F A L nr h F' A' L nr := by
  refine ⟨Nat.le_refl _, by omega, by omega, rfl, fun _ _ => rfl, fun i hi => ?_, fun b _ => ⟨rfl, rfl, rfl, rfl, rfl, fun _ => rfl⟩, hf⟩
  have := hs.2.2.2.2.2.2.2.2.2.1 i hi
  have := hs.2.2.2.2.2.2.2.2.2.2
  omega
theorem cEx.trans {h h1 h2 : ix_H} {L L1 L2 : Nat → Nat} {nr n1 n2 : Nat} {F A F1 A1 F2 A2 : Nat → Nat → Int32} (e1 : cEx h F A L nr h1 F1 A1 L1 n1) (e2 : cEx h1 F1 A1 L1 n1 h2 F2 A2 L2 n2) : cEx h F A L nr h2 F2 A2 L2 n2 := by
  obtain ⟨a1, a2, a3, a4, a5, a6, a7, a8⟩ := e1
  obtain ⟨b1, b2, b3, b4, b5, b6, b7, b8⟩ := e2
  refine ⟨by omega, by omega, by omega, by rw [b4, a4], fun i hi => by rw [b5 i (by omega), a5 i hi], fun i hi => ?_, fun b hb => ?_, fun b hb hn => ?_⟩
  · by_cases w : i < 18 + 3 * n1
    · rw [b5 i w]
      exact a6 i hi
    · have := b6 i (by omega)
      omega
  · obtain ⟨c1, c2, c3, c4, c5, c6⟩ := a7 b hb
    obtain ⟨d1, d2, d3, d4, d5, d6⟩ := b7 b (by omega)
    exact ⟨d1.trans c1, d2.trans c2, d3.trans c3, d4.trans c4, d5.trans c5, fun w => (d6 (by rw [a5 1 (by omega)]; exact w)).trans (c6 w)⟩
  · obtain ⟨c1, c2⟩ := a8 b hb hn
    obtain ⟨d1, d2⟩ := b8 b (by omega) (fun i hi w => by
      by_cases z : i < 18 + 3 * nr
      · rw [a5 i z] at w
        exact hn i z w
      · have := a6 i (by omega)
        omega)
    exact ⟨d1.trans c1, d2.trans c2⟩
/-- the layout with one record more -/
def c_L (L : Nat → Nat) (nr z : Nat) : Nat → Nat := fun i => if i = 18 + 3 * nr then z else if i = 19 + 3 * nr then z + 1 else if i = 20 + 3 * nr then z + 2 else L i
/-- the skeleton with one record more -/
def c_more (h : ix_H) (L : Nat → Nat) (nr : Nat) : ix_H := ix_waR (c_ini (ix_nwO h 6 12) (ix_sz h)) (L 1) nr (some (ix_sz h))
theorem c_more_cS {h : ix_H} {L : Nat → Nat} {nr : Nat} (hs : cS h L nr) (hn : nr < 2000) : cS (c_more h L nr) (c_L L nr (ix_sz h)) (nr + 1) := by
  obtain ⟨⟨a1, a2, a3, a4, a5, a6, a7, a8⟩, ⟨b1, b2, b3, b4, b5, b6, b7, b8⟩, c, e, f, g, n, inj, lo, hi, z⟩ := hs
  have tg : ∀ b, b < ix_sz h → ix_tg (c_more h L nr) b = ix_tg h b := fun b hb => by
    show (if b = ix_sz h + 1 + 1 then 101 else if b = ix_sz h + 1 then 101 else if b = ix_sz h then 6 else ix_tg h b) = _
    rw [if_neg (by omega), if_neg (by omega), if_neg (by omega)]
  have ln : ∀ b, b < ix_sz h → ix_ln (c_more h L nr) b = ix_ln h b := fun b hb => by
    show (if b = ix_sz h + 1 + 1 then 44 else if b = ix_sz h + 1 then 44 else ix_ln h b) = _
    rw [if_neg (by omega), if_neg (by omega)]
  have fR : ∀ b j, b < ix_sz h → ix_fR (c_more h L nr) b j = ix_fR h b j := fun b j hb => by
    show (if b = ix_sz h ∧ j = 1 then some (ix_sz h + 1 + 1) else if b = ix_sz h ∧ j = 0 then some (ix_sz h + 1) else if b = ix_sz h then none else ix_fR h b j) = _
    rw [if_neg (by omega), if_neg (by omega), if_neg (by omega)]
  have aR : ∀ b j, b < ix_sz h → ix_aR (c_more h L nr) b j = if b = L 1 ∧ j = nr then some (ix_sz h) else ix_aR h b j := fun b j hb => by
    show (if b = L 1 ∧ j = nr then some (ix_sz h) else if b = ix_sz h + 1 + 1 then none else if b = ix_sz h + 1 then none else ix_aR h b j) = _
    split
    · rfl
    · rw [if_neg (by omega), if_neg (by omega)]
  have sz : ix_sz (c_more h L nr) = ix_sz h + 3 := rfl
  have l : ∀ i, i < 18 + 3 * nr → c_L L nr (ix_sz h) i = L i := fun i hi => by
    unfold c_L
    rw [if_neg (by omega), if_neg (by omega), if_neg (by omega)]
  have l0 : c_L L nr (ix_sz h) (18 + 3 * nr) = ix_sz h := by unfold c_L; rw [if_pos rfl]
  have l1 : c_L L nr (ix_sz h) (19 + 3 * nr) = ix_sz h + 1 := by unfold c_L; rw [if_neg (by omega), if_pos rfl]
  have l2 : c_L L nr (ix_sz h) (20 + 3 * nr) = ix_sz h + 2 := by unfold c_L; rw [if_neg (by omega), if_neg (by omega), if_pos rfl]
  have cr : ∀ a ka va, a < ix_sz h → ka < ix_sz h → va < ix_sz h → cR h a ka va → cR (c_more h L nr) a ka va := fun a ka va ha hka hva hc => by
    obtain ⟨q1, q2, q3, q4, q5, q6, q7, q8⟩ := hc
    exact ⟨by rw [tg a ha]; exact q1, by rw [fR a 0 ha]; exact q2, by rw [fR a 1 ha]; exact q3, by rw [tg ka hka]; exact q4, by rw [tg va hva]; exact q5, by rw [ln ka hka]; exact q6, by rw [ln va hva]; exact q7, q8⟩
  have L0 := lo 0 (by omega)
  have L1 := lo 1 (by omega)
  have L2 := lo 2 (by omega)
  have L3 := lo 3 (by omega)
  have L4 := lo 4 (by omega)
  refine ⟨?_, ?_, fun k hk => ?_, fun t ht => ?_, fun r hr => ?_, fun r hr hr2 => ?_, by omega, fun i j hij => ?_, fun i hi' => ?_, fun i hi' => ?_, by rw [sz]; omega⟩
  · rw [l 0 (by omega), l 1 (by omega), l 2 (by omega), l 3 (by omega), l 4 (by omega), l 9 (by omega), l 12 (by omega), l 15 (by omega), tg _ L0, fR _ _ L0, fR _ _ L0, fR _ _ L0, fR _ _ L0, fR _ _ L0, fR _ _ L0, fR _ _ L0]
    exact ⟨a1, a2, a3, a4, a5, a6, a7, a8⟩
  · rw [l 1 (by omega), l 2 (by omega), l 3 (by omega), l 4 (by omega), tg _ L1, tg _ L2, tg _ L3, tg _ L4, ln _ L1, ln _ L2, ln _ L3, ln _ L4]
    exact ⟨b1, b2, b3, b4, b5, b6, b7, b8⟩
  · rw [l 3 (by omega), l (5 + k) (by omega), aR _ _ L3, tg _ (lo (5 + k) (by omega)), if_neg (fun w => absurd (inj _ _ w.1) (by omega))]
    exact c k hk
  · by_cases w : t < nr + 3
    · rw [l _ (by omega), l _ (by omega), l _ (by omega)]
      exact cr _ _ _ (lo _ (by omega)) (lo _ (by omega)) (lo _ (by omega)) (e t w)
    · obtain rfl : t = nr + 3 := by omega
      rw [show 9 + 3 * (nr + 3) = 18 + 3 * nr by omega, show 10 + 3 * (nr + 3) = 19 + 3 * nr by omega, show 11 + 3 * (nr + 3) = 20 + 3 * nr by omega, l0, l1, l2]
      refine ⟨?_, ?_, ?_, ?_, ?_, ?_, ?_, by omega⟩
      · show (if ix_sz h = ix_sz h + 1 + 1 then 101 else if ix_sz h = ix_sz h + 1 then 101 else if ix_sz h = ix_sz h then 6 else ix_tg h (ix_sz h)) = 6
        rw [if_neg (by omega), if_neg (by omega), if_pos rfl]
      · show (if ix_sz h = ix_sz h ∧ 0 = 1 then some (ix_sz h + 1 + 1) else if ix_sz h = ix_sz h ∧ 0 = 0 then some (ix_sz h + 1) else _) = _
        rw [if_neg (by omega), if_pos ⟨rfl, rfl⟩]
      · show (if ix_sz h = ix_sz h ∧ 1 = 1 then some (ix_sz h + 1 + 1) else _) = _
        rw [if_pos ⟨rfl, rfl⟩]
      · show (if ix_sz h + 1 = ix_sz h + 1 + 1 then 101 else if ix_sz h + 1 = ix_sz h + 1 then 101 else _) = 101
        rw [if_neg (by omega), if_pos rfl]
      · show (if ix_sz h + 2 = ix_sz h + 1 + 1 then 101 else _) = 101
        rw [if_pos rfl]
      · show (if ix_sz h + 1 = ix_sz h + 1 + 1 then 44 else if ix_sz h + 1 = ix_sz h + 1 then 44 else _) = 44
        rw [if_neg (by omega), if_pos rfl]
      · show (if ix_sz h + 2 = ix_sz h + 1 + 1 then 44 else _) = 44
        rw [if_pos rfl]
  · rw [l 1 (by omega), aR _ _ L1]
    by_cases w : r = nr
    · rw [w, if_pos ⟨rfl, rfl⟩, l0]
    · rw [if_neg (fun z => w z.2), l _ (by omega)]
      exact f r (by omega)
  · rw [l 1 (by omega), aR _ _ L1, if_neg (by omega)]
    exact g r (by omega) hr2
  · unfold c_L at hij
    have hiL : ∀ i, L i < ix_sz h ∨ 1099511627776 ≤ L i := fun i => by
      by_cases w : i < 18 + 3 * nr
      · exact Or.inl (lo i w)
      · exact Or.inr (hi i (by omega))
    have h1 := hiL i
    have h2 := hiL j
    by_cases i0 : i = 18 + 3 * nr
    · rw [if_pos i0] at hij
      by_cases j0 : j = 18 + 3 * nr
      · omega
      · rw [if_neg j0] at hij
        by_cases j1 : j = 19 + 3 * nr
        · rw [if_pos j1] at hij; omega
        · rw [if_neg j1] at hij
          by_cases j2 : j = 20 + 3 * nr
          · rw [if_pos j2] at hij; omega
          · rw [if_neg j2] at hij; omega
    · rw [if_neg i0] at hij
      by_cases i1 : i = 19 + 3 * nr
      · rw [if_pos i1] at hij
        by_cases j0 : j = 18 + 3 * nr
        · rw [if_pos j0] at hij; omega
        · rw [if_neg j0] at hij
          by_cases j1 : j = 19 + 3 * nr
          · omega
          · rw [if_neg j1] at hij
            by_cases j2 : j = 20 + 3 * nr
            · rw [if_pos j2] at hij; omega
            · rw [if_neg j2] at hij; omega
      · rw [if_neg i1] at hij
        by_cases i2 : i = 20 + 3 * nr
        · rw [if_pos i2] at hij
          by_cases j0 : j = 18 + 3 * nr
          · rw [if_pos j0] at hij; omega
          · rw [if_neg j0] at hij
            by_cases j1 : j = 19 + 3 * nr
            · rw [if_pos j1] at hij; omega
            · rw [if_neg j1] at hij
              by_cases j2 : j = 20 + 3 * nr
              · omega
              · rw [if_neg j2] at hij; omega
        · rw [if_neg i2] at hij
          by_cases j0 : j = 18 + 3 * nr
          · rw [if_pos j0] at hij; omega
          · rw [if_neg j0] at hij
            by_cases j1 : j = 19 + 3 * nr
            · rw [if_pos j1] at hij; omega
            · rw [if_neg j1] at hij
              by_cases j2 : j = 20 + 3 * nr
              · rw [if_pos j2] at hij; omega
              · rw [if_neg j2] at hij
                exact inj i j hij
  · rw [sz]
    by_cases w : i < 18 + 3 * nr
    · rw [l i w]
      have := lo i w
      omega
    · unfold c_L
      by_cases i0 : i = 18 + 3 * nr
      · rw [if_pos i0]; omega
      · rw [if_neg i0]
        by_cases i1 : i = 19 + 3 * nr
        · rw [if_pos i1]; omega
        · rw [if_neg i1, if_pos (by omega)]; omega
  · unfold c_L
    rw [if_neg (by omega), if_neg (by omega), if_neg (by omega)]
    exact hi i (by omega)
