/-! CK: the component: a store begins -/
set_option maxRecDepth 100000
/-- a hand that begins -/
def c_hb (g : Nat → Int32) : Nat → Int32 := hw_U (hw_U (hw_U (hw_U (hw_U (hw_U (hw_U (hw_U (hw_U g 0 (nI 0)) 3 (nI 0)) 4 (-2)) 1 (-2)) 11 (nI 0)) 12 (nI 0)) 13 (-2)) 14 (nI 0)) 15 (nI 0)
def z_h0 : Nat → Int32 := fun f => if f = 2 ∨ f = 6 then -2 else nI 0
theorem c_hb_hd (g : Nat → Int32) : cHd (c_hb g) z_h0 := by
  unfold c_hb
  simp (decide := true) only [cHd, z_h0, hw_U_at, if_true, if_false, implies_true, and_self, true_or, false_implies, ne_eq, not_true_eq_false, false_or, or_false, or_self, or_true]
theorem c_hb_3 (g : Nat → Int32) : c_hb g 3 = nI 0 := by
  unfold c_hb
  simp (disch := omega) only [hw_R_same, hw_R_ne, hw_U_same, hw_U_ne]
theorem c_hbegins {h : ix_H} {a : Nat} (ht : ix_tg h a = 7) (F A : Nat → Nat → Int32) (N d : Nat) : ix_run iy_P N (d + 1) 219 [ix_R (some a)] (hw h F A) = some (.inl none, hw h (hw_R F a (c_hb (F a))) A) := by
  rw [rX6_begins N d]
  unfold bX6_begins
  rw [h_is ht, hw_bdF, h_is ht, hw_bdF, h_is ht, hw_bdF, h_is ht, hw_bdF, h_is ht, hw_bdF, h_is ht, hw_bdF, h_is ht, hw_bdF, h_is ht, hw_bdF, h_is ht, show ix_okn 1 (nI 0) = true from rfl, cond_true, hw_bdF]
  simp only [hw_R_R, hw_R_same]
  rfl
theorem c_begins2 {h : ix_H} {L : Nat → Nat} {nr : Nat} {F A : Nat → Nat → Int32} (hs : cS h L nr) {p0 : Nat} {t : Nat → Nat} (hp0 : F (L 0) 4 = nI p0) (ht0 : ∀ p, p < p0 → A (L 2) p = nI (t p)) {cf : Nat} (hcf : ix_tg h cf = 8) {ch mo le : Nat} (f1 : F cf 1 = nI ch) (f2 : F cf 2 = nI mo) (f3 : F cf 3 = nI le) {N : Nat} (hN : 1010 ≤ N) (d : Nat) :
    cPo1 h F A L nr (z_beg ch mo le) none (ix_run iy_P N (d + 5) 172 [ix_R (some (L 0)), ix_R (some cf)] (hw h F A)) := by
  have h7 : ∀ k, k < 4 → ix_tg h (L (5 + k)) = 7 := fun k hk => (hs.2.2.1 k hk).2
  have hcn : cf ≠ L 0 := fun w => by rw [w, hs.1.1] at hcf; exact absurd hcf (by decide)
  rw [rX4_begins N (d + 4)]
  unfold bX4_begins
  rw [c_is hcf, st_is hs, hw_fI, f1, hw_bdF, c_is hcf, st_is hs, hw_fI, hw_R_ne _ _ hcn, f2, hw_bdF, c_is hcf, st_is hs, hw_fI, hw_R_R, hw_R_ne _ _ hcn, f3, hw_bdF, st_is hs, hw_bdF, st_is hs, hw_bdF]
  simp only [hw_R_R, hw_R_same]
  generalize hF1 : hw_R F (L 0) (hw_U (hw_U (hw_U (hw_U (hw_U (F (L 0)) 6 (nI ch)) 7 (nI mo)) 8 (nI le)) 3 (nI 0)) 5 (nI 0)) = F1
  obtain ⟨N, rfl⟩ : ∃ z, N = z + 4 := ⟨N - 4, by omega⟩
  have hand : ∀ (k : Nat) (hk : k < 4) (F : Nat → Nat → Int32) (f : ix_H → ix_O), ((ix_is (hw h F A) 5 (some (L 0))).bind fun a38 => (ix_atr (hw h F A) 112 (ix_fR (hw h F A) a38 2) (nI k)).bind fun a39 => (ix_isr (hw h F A) 7 (ix_aR (hw h F A) a39 (nI k).toNatClampNeg)).bind fun a41 => (ix_rV (ix_run iy_P (N + 4) (d + 4) 219 [ix_R (some a41)] (hw h F A))).bind f) = f (hw h (hw_R F (L (5 + k)) (c_hb (F (L (5 + k))))) A) := fun k hk F f => by
    rw [st_is hs, st_hnd hs, hw_in (by omega) (by omega), cond_true, hw_aR, hw_cl (by omega), st_hr hs hk, h_isr (h7 k hk), hw_cV (c_hbegins (h7 k hk) F A _ _)]
  unfold jX4_begins_20
  rw [if_neg (by decide), hand 0 (by omega), nI_add, lX4_begins_20]
  unfold jX4_begins_20
  rw [if_neg (by decide), hand 1 (by omega), nI_add, lX4_begins_20]
  unfold jX4_begins_20
  rw [if_neg (by decide), hand 2 (by omega), nI_add, lX4_begins_20]
  unfold jX4_begins_20
  rw [if_neg (by decide), hand 3 (by omega), nI_add, lX4_begins_20]
  unfold jX4_begins_20
  rw [if_pos (by decide)]
  generalize hF2 : hw_R (hw_R (hw_R (hw_R F1 (L (5 + 0)) (c_hb (F1 (L (5 + 0))))) (L (5 + 1)) (c_hb (hw_R F1 (L (5 + 0)) (c_hb (F1 (L (5 + 0)))) (L (5 + 1))))) (L (5 + 2)) (c_hb (hw_R (hw_R F1 (L (5 + 0)) (c_hb (F1 (L (5 + 0))))) (L (5 + 1)) (c_hb (hw_R F1 (L (5 + 0)) (c_hb (F1 (L (5 + 0)))) (L (5 + 1)))) (L (5 + 2))))) (L (5 + 3)) (c_hb (hw_R (hw_R (hw_R F1 (L (5 + 0)) (c_hb (F1 (L (5 + 0))))) (L (5 + 1)) (c_hb (hw_R F1 (L (5 + 0)) (c_hb (F1 (L (5 + 0)))) (L (5 + 1))))) (L (5 + 2)) (c_hb (hw_R (hw_R F1 (L (5 + 0)) (c_hb (F1 (L (5 + 0))))) (L (5 + 1)) (c_hb (hw_R F1 (L (5 + 0)) (c_hb (F1 (L (5 + 0)))) (L (5 + 1)))) (L (5 + 2)))) (L (5 + 3)))) = F2
  have g0 : ∀ c, (∀ k, k < 4 → c ≠ L (5 + k)) → F2 c = F1 c := fun c hc => by
    rw [← hF2, hw_R_ne _ _ (hc 3 (by omega)), hw_R_ne _ _ (hc 2 (by omega)), hw_R_ne _ _ (hc 1 (by omega)), hw_R_ne _ _ (hc 0 (by omega))]
  have g1 : ∀ k, k < 4 → ∃ g, F2 (L (5 + k)) = c_hb g := fun k hk => by
    rw [← hF2]
    by_cases w3 : k = 3
    · subst w3; exact ⟨_, hw_R_same _ _ _⟩
    rw [hw_R_ne _ _ (hs.ne (by omega))]
    by_cases w2 : k = 2
    · subst w2; exact ⟨_, hw_R_same _ _ _⟩
    rw [hw_R_ne _ _ (hs.ne (by omega))]
    by_cases w1 : k = 1
    · subst w1; exact ⟨_, hw_R_same _ _ _⟩
    rw [hw_R_ne _ _ (hs.ne (by omega))]
    obtain rfl : k = 0 := by omega
    exact ⟨_, hw_R_same _ _ _⟩
  have q0 : F2 (L 0) = hw_U (hw_U (hw_U (hw_U (hw_U (F (L 0)) 6 (nI ch)) 7 (nI mo)) 8 (nI le)) 3 (nI 0)) 5 (nI 0) := by
    rw [g0 _ (fun k hk => hs.ne (by omega)), ← hF1, hw_R_same]
  have ex0 : cEx h F A L nr h F2 A L nr := cEx.refl hs (fun b hb hn => ⟨by rw [g0 _ (fun k hk => hn _ (by omega)), ← hF1, hw_R_ne _ _ (hn _ (by omega))], rfl⟩)
  have b1 : cB h F2 A L nr h F2 A L nr ((((fun _ _ => nI 0), fun _ => []), t, (fun _ => z_h0), (0, p0, 0), (ch, mo, le, 0)) : zS) 0 := by
    refine ⟨hs, Nat.zero_le _, cEx.refl hs (fun _ _ _ => ⟨rfl, rfl⟩), ⟨?_, ht0, fun r hr => absurd hr (Nat.not_lt_zero _), fun j hj _ => ?_⟩, by omega, fun _ _ => rfl⟩
    · rw [q0]
      refine ⟨?_, ?_, ?_, ?_, ?_, ?_⟩
      · simp (disch := omega) only [hw_R_same, hw_R_ne, hw_U_same, hw_U_ne]
        rfl
      · simp (disch := omega) only [hw_R_same, hw_R_ne, hw_U_same, hw_U_ne]
        exact hp0
      · simp (disch := omega) only [hw_R_same, hw_R_ne, hw_U_same, hw_U_ne]
        rfl
      · simp (disch := omega) only [hw_R_same, hw_R_ne, hw_U_same, hw_U_ne]
        rfl
      · simp (disch := omega) only [hw_R_same, hw_R_ne, hw_U_same, hw_U_ne]
        rfl
      · simp (disch := omega) only [hw_R_same, hw_R_ne, hw_U_same, hw_U_ne]
        rfl
    · obtain ⟨g, hg⟩ := g1 j hj
      unfold cH0
      rw [hg]
      exact c_hb_hd g
  obtain ⟨h3, F3, A3, L3, n3, e3, hlt3, hold3, ⟨g3, hg3⟩, hl3, hs3, hB3⟩ := cB_new b1 (by show 0 < 2000; omega) (N + 4) (d + 2) (nI 0) (-2) (-2) (-2) (-2)
  have b3 := hB3 F3 (fun _ _ => rfl) (by rw [hg3]; exact c_rw_row g3 (-2) (by decide))
  have hk30 : L3 0 = L 0 := (hold3 0 (by omega)).1
  have b4 := cB_st b3 0 0
  have hr3 := hs3.rc (show 0 < n3 from hlt3)
  have hLn : cL F3 (hw_R A3 (L3 2) (hw_U (A3 (L3 2)) 0 (nI 0))) (L3 (18 + 3 * 0)) (L3 (19 + 3 * 0)) (L3 (20 + 3 * 0)) [] := ⟨by
    have : F3 (L3 (18 + 3 * 0)) = _ := hg3
    rw [this]; rfl, kv_in_nil _ _⟩
  obtain ⟨F4, A4, e4, q4, l4⟩ := c_sets hr3 (show 1000 ≤ N + 4 by omega) (d + 2) hLn kv_so_nil (nI 0) (nI 1) (by decide)
  have b5 : cB h F2 A L nr h3 F4 A4 L3 n3 (z_nw (z_st ((((fun _ _ => nI 0), fun _ => []), t, (fun _ => z_h0), (0, p0, 0), (ch, mo, le, 0)) : zS) 0 0) (z_base ([(nI 0, nI 1)], nI 0, -2)) [(nI 0, nI 1)]) 0 := by
    refine cB_fill (S1 := z_st ((((fun _ _ => nI 0), fun _ => []), t, (fun _ => z_h0), (0, p0, 0), (ch, mo, le, 0)) : zS) 0 0) b4 (q4.mono rfl) (c := ([(nI 0, nI 1)], nI 0, -2)) ⟨l4, ?_, ?_⟩
    · have : F3 (L3 (18 + 3 * 0)) = _ := hg3
      refine (q4.2.1 4 rfl).trans ?_
      rw [this]
      unfold c_row
      simp (disch := omega) only [hw_R_same, hw_R_ne, hw_U_same, hw_U_ne]
    · have : F3 (L3 (18 + 3 * 0)) = _ := hg3
      refine (q4.2.1 5 rfl).trans ?_
      rw [this]
      unfold c_row
      simp (disch := omega) only [hw_R_same, hw_R_ne, hw_U_same, hw_U_ne]
  obtain ⟨h6, F6, A6, L6, n6, e6, hlt6, hold6, ⟨g6, hg6⟩, hl6, hs6, hB6⟩ := cB_new b5 (by show 1 < 2000; omega) (N + 4) (d + 2) (nI 0) (-2) (-2) (-2) (-2)
  have b6 := hB6 F6 (fun _ _ => rfl) (by rw [hg6]; exact c_rw_row g6 (-2) (by decide))
  have hk60 : L6 0 = L3 0 := (hold6 0 (by omega)).1
  have b7 := cB_st b6 1 1
  have hk32 : L3 2 = L 2 := (hold3 2 (by omega)).1
  have hk62 : L6 2 = L3 2 := (hold6 2 (by omega)).1
  have hr6 := hs6.rc (show 1 < n6 from hlt6)
  have t6 : A6 (L6 2) = A4 (L3 2) := by rw [hk62]; exact (hold6 2 (by omega)).2.2
  have e3' : ix_run iy_P (N + 4) (d + 4) 173 [ix_R (some (L 0)), ix_I (nI 0), ix_I (-2), ix_I (-2), ix_I (-2)] (hw h F2 A) = some (.inl (some (ix_I (nI 0))), hw h3 F3 A3) := e3
  have e6' : ix_run iy_P (N + 4) (d + 4) 173 [ix_R (some (L3 0)), ix_I (nI 0), ix_I (-2), ix_I (-2), ix_I (-2)] (hw h3 F4 A4) = some (.inl (some (ix_I (nI 1))), hw h6 F6 A6) := e6
  have r30 : ix_aR h3 (L3 1) 0 = some (L3 (18 + 3 * 0)) := hs3.2.2.2.2.1 0 hlt3
  have r61 : ix_aR h6 (L6 1) 1 = some (L6 (18 + 3 * 1)) := hs6.2.2.2.2.1 1 hlt6
  rw [st_is hs, st_isr hs, hw_cI e3']
  dsimp only
  rw [hw_fR, hs.1.2.2.1, ← hk32, c_at hs3.2.1.2.2.1 hs3.2.1.2.2.2.1, hw_in (by omega) (by omega), cond_true, hw_bdA, hw_cl (by omega), ← hk30, st_is hs3, st_is hs3, st_top hs3, hw_in (by omega) (by omega), cond_true, hw_aI, hw_R_same, hw_U_same, st_rec hs3, hw_in (by omega) (by omega), cond_true, hw_aR, hw_cl (by omega), r30, cp_isr hr3, hw_cV e4, st_is hs3, st_isr hs3, hw_cI e6']
  dsimp only
  rw [hw_fR, hs3.1.2.2.1, ← hk62, c_at hs6.2.1.2.2.1 hs6.2.1.2.2.2.1, hw_in (by omega) (by omega), cond_true, hw_bdA, hw_cl (by omega), ← hk60, st_is hs6, st_is hs6, st_top hs6, hw_in (by omega) (by omega), cond_true, hw_aI, hw_R_same, hw_U_same, st_rec hs6, hw_in (by omega) (by omega), cond_true, hw_aR, hw_cl (by omega), r61, cp_is hr6, hw_bdF, st_is hs6, hw_bdF]
  have hn6 : 1 < n6 := hlt6
  have hn3 : 0 < n3 := hlt3
  have gg6 : F6 (L6 (18 + 3 * 1)) = c_row g6 (nI 0) (-2) (-2) (-2) := hg6
  have b8 : cB h F2 A L nr h6 (hw_R F6 (L6 (18 + 3 * 1)) (hw_U (F6 (L6 (18 + 3 * 1))) 4 (nI 1000))) (hw_R A6 (L6 2) (hw_U (A6 (L6 2)) 1 (nI 1))) L6 n6 (z_nw (z_st (z_nw (z_st ((((fun _ _ => nI 0), fun _ => []), t, (fun _ => z_h0), (0, p0, 0), (ch, mo, le, 0)) : zS) 0 0) (z_base ([(nI 0, nI 1)], nI 0, -2)) [(nI 0, nI 1)]) 1 1) (z_base ([], nI 1000, -2)) []) 0 := by
    refine cB_fill (S1 := z_st (z_nw (z_st ((((fun _ _ => nI 0), fun _ => []), t, (fun _ => z_h0), (0, p0, 0), (ch, mo, le, 0)) : zS) 0 0) (z_base ([(nI 0, nI 1)], nI 0, -2)) [(nI 0, nI 1)]) 1 1) b7 ((cQ.refl [3, 4, 5] (L6 (18 + 3 * 1)) (L6 (19 + 3 * 1)) (L6 (20 + 3 * 1)) _ _).fR rfl) (c := ([], nI 1000, -2)) ⟨⟨?_, kv_in_nil _ _⟩, ?_, ?_⟩
    · show hw_R F6 (L6 (18 + 3 * 1)) _ (L6 (18 + 3 * 1)) 3 = _
      rw [hw_R_same, hw_U_ne _ _ (by omega), gg6]
      rfl
    · show hw_R F6 (L6 (18 + 3 * 1)) _ (L6 (18 + 3 * 1)) 4 = _
      rw [hw_R_same, hw_U_same]
    · show hw_R F6 (L6 (18 + 3 * 1)) _ (L6 (18 + 3 * 1)) 5 = _
      rw [hw_R_same, hw_U_ne _ _ (by omega), gg6]
      unfold c_row
      simp (disch := omega) only [hw_R_same, hw_R_ne, hw_U_same, hw_U_ne]
  have hh : ∀ j, j < 4 → F6 (L6 (5 + j)) = F2 (L (5 + j)) := fun j hj => by
    have w3 : L3 (5 + j) = L (5 + j) := (hold3 (5 + j) (by omega)).1
    rw [(hold6 (5 + j) (by omega)).1, (hold6 (5 + j) (by omega)).2.1, if_neg (by omega), q4.1 _ (hs3.ne (by omega)), w3, (hold3 (5 + j) (by omega)).2.1, if_neg (by omega)]
  have t4 : A4 (L3 2) 0 = nI 0 := by
    rw [q4.2.2 _ (hs3.ne (by omega)) (hs3.ne (by omega)), hw_R_same, hw_U_same]
  obtain ⟨bs, bn, bx, ⟨v1, v2, v3, v4⟩, bk, b3h⟩ := b8
  refine ⟨h6, _, _, L6, n6, rfl, hs6, hn6, ex0.trans (bx.trans (cEx.refl hs6 (fun b hb hn => ⟨?_, rfl⟩))), ⟨⟨?_, fun p hp => ?_, fun r hr => ?_, fun j hj => ?_⟩, fun j hj => ?_⟩⟩
  · rw [hw_R_ne _ _ (hn 0 (by omega))]
  · rw [hw_R_same, hw_U_ne _ _ (by omega), hw_U_same, hw_U_ne _ _ (by omega), hw_U_ne _ _ (by omega), hw_U_ne _ _ (by omega), hw_U_ne _ _ (by omega)]
    exact ⟨v1.1, rfl, v1.2.2.1, v1.2.2.2.1, v1.2.2.2.2.1, v1.2.2.2.2.2⟩
  · have hp2 : p < 2 := hp
    by_cases w : p = 1
    · subst w
      rw [hw_R_same, hw_U_same]
      rfl
    · obtain rfl : p = 0 := by omega
      rw [hw_R_same, hw_U_ne _ _ (by omega), t6, t4]
      rfl
  · have hr2 : r < 2 := hr
    exact (v3 r hr).keep (hw_R_ne _ _ (hs6.ne (by omega))) rfl rfl
  · obtain ⟨g, hg⟩ := g1 j hj
    unfold cH0
    rw [hw_R_ne _ _ (hs6.ne (by omega)), hw_R_ne _ _ (hs6.ne (by omega)), hh j hj, hg]
    exact c_hb_hd g
  · obtain ⟨g, hg⟩ := g1 j hj
    rw [hw_R_ne _ _ (hs6.ne (by omega)), hw_R_ne _ _ (hs6.ne (by omega)), hh j hj, hg]
    exact c_hb_3 g
