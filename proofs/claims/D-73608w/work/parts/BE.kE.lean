/-! KE: the component: tells that are no rounds are read -/
set_option maxRecDepth 100000
section
variable {h : ix_H} {F A : Nat → Nat → Int32} {D cv : Nat → Nat} {tk : Nat → tK} {e t op wi N : Nat} {w : Option Nat}
theorem k_ai_v : ∀ k, k ≤ 37 → (k_ai k = nI 1 ↔ k = 30) ∧ (k_ai k = nI 2 ↔ k = 31) := by decide
theorem gLo.back {h0 h1 : ix_H} {F0 A0 F1 A1 : Nat → Nat → Int32} {t0 t1 k B B' : Nat} {out : ix_O} {r : xR (xL × Option Nat)} (g : gO D h0 F0 A0 h1 F1 A1 k) (ht : t0 ≤ t1) (hk : k + B' ≤ 2 * (t1 - t0) + B) (o : gLo D cv tk e wi h1 F1 A1 t1 out r B') : gLo D cv tk e wi h0 F0 A0 t0 out r B := by
  cases r with
  | inl a => exact gFl.back g ht (by omega) o
  | inr a =>
    obtain ⟨o1, h', F', A', x, o2, T, g', L⟩ := o
    refine ⟨by omega, h', F', A', x, o2, T, (g.trans g').mono (by omega), L.of fun b hb => ⟨⟨by have := hb.1; have := g.1; omega, hb.2⟩, rfl, rfl, rfl⟩⟩
theorem k_actW {n : Nat} (hN : 1000 ≤ N) (hU : ∀ w, uWk D cv tk e wi w N 163 (x_term tk) 0 (n + 8)) {hd hv cl : Int32} (T : gT h F A D cv tk e t 0 wi w) (hcl : ix_okn 1 cl = true) (hh : hv = if hd < nI 0 then nI 0 else hd) (hc : cl = if hd < nI 0 then nI 1 else nI 0) : gLo D cv tk e wi h F A t (ix_run iy_P N (n + 9) 162 [ix_R (some (D 3)), ix_I hv, ix_I cl] (hw h F A)) (x_bd (x_act tk hd t) fun l t' => .inr ((l, w), t')) 5 := by
  have hs := T.1
  obtain ⟨k1, k2, k3, k4, k5, k6, k7⟩ := T.row
  have T4 := T.2.2.2.1
  have so := k_so_5 _ k7
  have lt := hs.2.2.2.2
  have no : ¬ (x_kd tk t = 30 ∨ x_kd tk t = 31) → (x_bd (x_act tk hd t) fun l t' => (.inr ((l, w), t') : xR (xL × Option Nat))) = .inl (1, t) := fun q => by
    unfold x_act
    rw [if_neg (fun z => q (.inl z)), if_neg (fun z => q (.inr z))]
    rfl
  rw [rX3_act N (n + 8)]
  unfold bX3_act
  rw [k_isr3 hs, k_sortE T N (n + 4)]
  by_cases c3 : x_kd tk t = 3
  · rw [if_pos c3, oF_xI, no (by omega)]
    exact oF.fl (gO.refl D h F A) (Nat.le_refl t) (by omega)
  · rw [if_neg c3, ok_xI]
    by_cases c20 : 20 ≤ x_kd tk t
    · obtain ⟨h1, F1, A1, s, e1, gn, s1, s2, s3, s4, s5, s6, s7⟩ := k_text (F := F) (N := N) hs T.2.2.1 T4.1 T4.2.1 T4.2.2 c20 hN (n + 1)
      have T1 := T.ofN gn
      have hM := T.hM
      have ecs : ix_cs h1 = ix_cs h := gn.2.2.2.1
      have hn : ∀ j, j < 18 → s ≠ ix_cs h1 (k_kw j) := fun j hj => by
        rw [ecs]
        have := (hM.2.1 j hj).1
        omega
      obtain ⟨r, e2⟩ := k_act (N := N) T1.2.1 s5 s2 s3 s6 s7 c20 k7 hn (by omega) (n + 3)
      have g2 : gN h F A h1 (hw_R F1 s r) A1 4 := gn.fR (.inl s1) r
      have T2 := T.ofN g2
      rw [if_pos (so.2.2.1.mpr c20), k_is3 hs, k_is3 hs, hw_fI, T.2.2.2.2.1, k_t3r hs, hw_cR e1]
      dsimp only
      rw [hw_cI e2]
      dsimp only
      obtain ⟨a1, a2⟩ := k_ai_v _ k7
      unfold jX3_act_12
      by_cases c30 : x_kd tk t = 30
      · have e30 := a1.mpr c30
        rw [if_pos e30, e30]
        exact gLo.back (B' := 1) (g2.o D) (Nat.le_refl t) (by omega) (k_act24 hU T2 (gO.refl D h1 _ A1) (fun j hj => by have := lt j hj; omega) hcl hh hc (sort := 0) (.inl ⟨rfl, c30⟩) _)
      · rw [if_neg (fun q => c30 (a1.mp q))]
        by_cases c31 : x_kd tk t = 31
        · have e31 := a2.mpr c31
          rw [if_pos e31, e31]
          exact gLo.back (B' := 1) (g2.o D) (Nat.le_refl t) (by omega) (k_act24 hU T2 (gO.refl D h1 _ A1) (fun j hj => by have := lt j hj; omega) hcl hh hc (sort := 1) (.inr ⟨rfl, c31⟩) _)
        · rw [if_neg (fun q => c31 (a2.mp q)), no (by omega), k_isr3 T2.1, k_thrE T2 N (n + 5) 1]
          exact oF.fl (g2.o D) (Nat.le_refl t) (by omega)
    · rw [if_neg (fun q => c20 (so.2.2.1.mp q)), no (by omega)]
      unfold jX3_act_12
      rw [if_neg (by decide), if_neg (by decide), k_isr3 hs, k_thrE T N (n + 5) 1]
      exact oF.fl (gO.refl D h F A) (Nat.le_refl t) (by omega)
/-- a hand is told: pass, number -/
theorem x_hand (t : Nat) (w : Option Nat) {α : Type} (f : Int32 × Option Nat → Nat → xR α) : (x_bd (x_pas t) fun _ t1 => x_bd (x_num tk (nI 0) (nI 3) t1 w) f) = if t = 400 then .inl (2, t) else x_bd (x_num tk (nI 0) (nI 3) (t + 1) w) f := by
  unfold x_pas
  by_cases c : t = 400
  · rw [if_pos c, if_pos c]
    rfl
  · rw [if_neg c, if_neg c]
    rfl
theorem x_num_bd {α : Type} (lo hi : Int32) (t : Nat) (w : Option Nat) (f : Int32 × Option Nat → Nat → xR α) : x_bd (x_num tk lo hi t w) f = if x_kd tk t = 2 then (if t = 400 then .inl (2, t) else f ((tk t).2.2.2, x_w1 tk t w lo hi) (t + 1)) else .inl (1, t) := by
  rw [x_num_eq]
  by_cases c : x_kd tk t = 2
  · rw [if_pos c, if_pos c]
    by_cases c4 : t = 400
    · rw [if_pos c4, if_pos c4]
      rfl
    · rw [if_neg c4, if_neg c4]
      rfl
  · rw [if_neg c, if_neg c]
    rfl
theorem k_beginW {n : Nat} (hN : 1000 ≤ N) (hU : ∀ w, uWk D cv tk e wi w N 163 (x_term tk) 0 (n + 8)) (T : gT h F A D cv tk e t 0 wi w) (hk : x_kd tk t = 23) : gLo D cv tk e wi h F A t (ix_run iy_P N (n + 10) 166 [ix_R (some (D 3))] (hw h F A)) (x_one tk t w) 5 := by
  have hs := T.1
  have t4 := T.2.2.2.1.2.1
  have ex : x_one tk t w = x_bd (x_pas t) fun _ t1 => x_bd (x_num tk (nI 0) (nI 3) t1 w) fun h t2 => x_bd (x_act tk h.1 t2) fun l t3 => .inr ((l, h.2), t3) := by
    unfold x_one
    rw [if_pos hk]
  rw [ex, x_hand, rX3_begin N (n + 9)]
  unfold bX3_begin
  rw [k_isr3 hs, k_passE T N (n + 5)]
  by_cases c4 : t = 400
  · rw [if_pos c4, if_pos c4, oF_xV]
    exact oF.fl (gO.refl D h F A) (Nat.le_refl t) (by omega)
  · rw [if_neg c4, if_neg c4, ok_xV, x_num_bd]
    have T1 := T.pass (by omega) (by omega) (by omega)
    have g1 : gO D h F A h (kPs F D (t + 1)) A 0 := (gO.refl D h F A).fR (.inr (.inr rfl)) _
    generalize kPs F D (t + 1) = F1 at T1 g1 ⊢
    rw [k_isr3 T1.1, k_numE T1 hN (n + 3)]
    by_cases c2 : x_kd tk (t + 1) = 2
    · rw [if_pos c2, if_pos c2]
      by_cases c5 : t + 1 = 400
      · rw [if_pos c5, if_pos c5, oF_xI]
        exact oF.fl g1 (by omega) (by omega)
      · rw [if_neg c5, if_neg c5, ok_xI]
        have T2 := T1.num c2 (by have := T1.2.2.2.1.2.1; omega) (nI 0) (nI 3)
        have g2 := g1.nm tk (t + 1) w (nI 0) (nI 3)
        obtain ⟨j, hj, ej⟩ := T1.val c2
        rw [ej] at *
        have ng : ¬ nI j < nI 0 := by rw [hw_lt (by omega) (by omega)]; omega
        have o := k_actW (hd := nI j) (hv := nI j) (cl := nI 0) hN hU T2 hw_okn1_0 (by rw [if_neg ng]) (by rw [if_neg ng])
        rw [k_isr3 T2.1]
        show gLo D cv tk e wi h F A t _ (x_bd (x_act tk (nI j) (t + 1 + 1)) fun l t3 => .inr ((l, x_w1 tk (t + 1) w (nI 0) (nI 3)), t3)) 5
        have o2 := gLo.back (t0 := t) (B := 5) g2 (by omega) (by omega) o
        generalize (x_bd (x_act tk (nI j) (t + 1 + 1)) fun l t' => (.inr ((l, x_w1 tk (t + 1) w (nI 0) (nI 3)), t') : xR (xL × Option Nat))) = r at o2 ⊢
        cases r with
        | inl a =>
          obtain ⟨p1, h', F', A', p2, p3⟩ := o2
          exact ⟨p1, h', F', A', by rw [p2]; rfl, p3⟩
        | inr a =>
          obtain ⟨p1, h', F', A', x, p2, p3⟩ := o2
          exact ⟨p1, h', F', A', x, by rw [p2]; rfl, p3⟩
    · rw [if_neg c2, if_neg c2, oF_xI]
      exact oF.fl g1 (by omega) (by omega)
theorem k_getW {n : Nat} (hN : 1000 ≤ N) (hU : ∀ w, uWk D cv tk e wi w N 163 (x_term tk) 0 (n + 8)) (T : gT h F A D cv tk e t 0 wi w) (hk : x_kd tk t = 24) : gLo D cv tk e wi h F A t (ix_run iy_P N (n + 9) 167 [ix_R (some (D 3))] (hw h F A)) (x_one tk t w) 5 := by
  have hs := T.1
  have lt := hs.2.2.2.2
  have t4 := T.2.2.2.1.2.1
  have ex : x_one tk t w = x_bd (x_pas t) fun _ t1 => x_bd (x_num tk (nI 0) (nI 3) t1 w) fun h t2 => x_bd (x_term tk t2) fun a t3 => .inr (((2, h.1, a, []), h.2), t3) := by
    unfold x_one
    rw [if_neg (by omega), if_pos hk]
  rw [ex, x_hand, rX3_get N (n + 8)]
  unfold bX3_get
  rw [k_isr3 hs, k_passE T N (n + 4)]
  by_cases c4 : t = 400
  · rw [if_pos c4, if_pos c4, oF_xV]
    exact oF.fl (gO.refl D h F A) (Nat.le_refl t) (by omega)
  · rw [if_neg c4, if_neg c4, ok_xV, x_num_bd]
    have T1 := T.pass (by omega) (by omega) (by omega)
    have g1 : gO D h F A h (kPs F D (t + 1)) A 0 := (gO.refl D h F A).fR (.inr (.inr rfl)) _
    generalize kPs F D (t + 1) = F1 at T1 g1 ⊢
    rw [k_isr3 T1.1, k_numE T1 hN (n + 2)]
    by_cases c2 : x_kd tk (t + 1) = 2
    · rw [if_pos c2, if_pos c2]
      by_cases c5 : t + 1 = 400
      · rw [if_pos c5, if_pos c5, oF_xI]
        exact oF.fl g1 (by omega) (by omega)
      · rw [if_neg c5, if_neg c5, ok_xI]
        have T2 := T1.num c2 (by have := T1.2.2.2.1.2.1; omega) (nI 0) (nI 3)
        have g2 := g1.nm tk (t + 1) w (nI 0) (nI 3)
        obtain ⟨j, hj, ej⟩ := T1.val c2
        rw [ej]
        have ng : ¬ nI j < nI 0 := by rw [hw_lt (by omega) (by omega)]; omega
        generalize kNm F1 D tk (t + 1) w (nI 0) (nI 3) = F2 at T2 g2 ⊢
        generalize x_w1 tk (t + 1) w (nI 0) (nI 3) = w' at T2 ⊢
        have gn : gN h F2 A (ix_nwO h 14 5) (hw_R F2 (ix_sz h) (fun _ => 0)) A 1 := (gO.refl _ h F2 A).nwO 14 (by omega)
        have T3 := T2.ofN gn
        have g3 : gO D h F A (ix_nwO h 14 5) (hw_R F2 (ix_sz h) (fun _ => 0)) A (0 + 1) := g2.nwO 14 (by omega)
        have tg : ix_tg (ix_nwO h 14 5) (ix_sz h) = 14 := s_tgO h 14 5
        have szn : ix_sz (ix_nwO h 14 5) = ix_sz h + 1 := rfl
        have hM : kM (ix_cs (ix_nwO h 14 5)) D cv (ix_sz h) := T2.hM
        rw [hw_bO, hw_sz]
        generalize ix_nwO h 14 5 = h3 at T3 g3 tg szn hM ⊢
        generalize hw_R F2 (ix_sz h) (fun _ => 0) = F3 at T3 g3 ⊢
        have o := hU w' h3 F3 A (t + 1 + 1) T3
        rw [k_isr3 T3.1]
        show gLo D cv tk e wi h F A t _ (x_bd (x_term tk (t + 1 + 1)) fun a t3 => .inr (((2, nI j, a, []), w'), t3)) 5
        generalize x_term tk (t + 1 + 1) = r at o
        cases r with
        | inl a =>
          obtain ⟨p1, h', F', A', p2, p3, p4, p5⟩ := o
          refine ⟨by omega, h', F', A', ?_, p3, p4, (g3.trans p5).mono (by omega)⟩
          rw [p2]
          rfl
        | inr a =>
          obtain ⟨a, t3⟩ := a
          obtain ⟨p1, h4, F4, A4, x1, p2, T4, g4, s4⟩ := o
          have p1 : t + 1 + 1 < t3 := p1
          have T4 : gT h4 F4 A4 D cv tk e t3 0 wi w' := T4
          have sz4 := g4.1
          have tg4 : ix_tg h4 (ix_sz h) = 14 := by rw [(g4.2.2.2.2 _ (by omega)).1]; exact tg
          have s1'' : gSx h4 F4 (fun b => rg (ix_sz h) (ix_sz h4) b ∧ b ≠ ix_sz h) x1 a := s4.of fun b hb => ⟨⟨⟨by have := hb.1; omega, hb.2⟩, by have := hb.1; omega⟩, rfl, rfl, rfl⟩
          have hM4 : kM (ix_cs h4) D cv (ix_sz h) := by rw [g4.2.2.2.1]; exact hM
          obtain ⟨h5, F5, e5, T5, g5, z5, L5⟩ := k_actF (N := N) (hd := nI j) (hv := nI j) (cl := nI 0) (sort := 2) (b := []) (r2 := none) T4 (g3.trans g4) lt hM4 (Nat.le_refl _) (by omega) tg4 hw_okn1_0 (by rw [if_neg ng]) (by rw [if_neg ng]) (by omega) (fun _ _ _ => trivial) s1'' rfl (n + 7)
          rw [p2, ok_xR, c_isr tg4 (by decide), hw_cV (show ix_run iy_P N (n + 8) _ _ _ = _ from e5)]
          exact ⟨by show t < t3; omega, h5, F5, A4, ix_sz h, rfl, T5, g5.mono (by show _ ≤ 2 * (t3 - t) + 5; omega), L5⟩
    · rw [if_neg c2, if_neg c2, oF_xI]
      exact oF.fl g1 (by omega) (by omega)
theorem k_goI {a : Nat} (ht : ix_tg h a = 15) (N d : Nat) (v1 v2 : Int32) (h2 : ix_okn 1 v2 = true) : ix_run iy_P N (d + 1) 131 [ix_R (some a), ix_I v1, ix_I v2] (hw h F A) = some (.inl none, hw h (hw_R F a (hw_U (hw_U (F a) 0 v1) 1 v2)) A) := by
  rw [rX16_init N d]
  unfold bX16_init
  rw [c_is ht, hw_bdF, c_is ht, h2, cond_true, hw_bdF]
  simp only [hw_R_R, hw_R_same]
theorem k_goW {n : Nat} (hN : 1000 ≤ N) (T : gT h F A D cv tk e t 0 wi w) {b : Nat} (hk : x_kd tk t = 25 + b) (hb : b ≤ 1) : gLo D cv tk e wi h F A t (ix_run iy_P N (n + 9) 168 [ix_R (some (D 3)), ix_I (nI b)] (hw h F A)) (x_one tk t w) 5 := by
  have hs := T.1
  have lt := hs.2.2.2.2
  have t4 := T.2.2.2.1.2.1
  have ex : x_one tk t w = x_bd (x_pas t) fun _ t1 => x_bd (x_num tk (nI 0) (nI 3) t1 w) fun h t2 => .inr (((3 + b, h.1, [], []), h.2), t2) := by
    unfold x_one
    rw [if_neg (by omega), if_neg (by omega)]
    rcases (show b = 0 ∨ b = 1 by omega) with q | q
    · subst q
      rw [if_pos hk]
    · subst q
      rw [if_neg (by omega), if_pos hk]
  have okb : ix_okn 1 (nI b) = true := by
    rcases (show b = 0 ∨ b = 1 by omega) with q | q <;> subst q <;> decide
  rw [ex, x_hand, rX3_go N (n + 8)]
  unfold bX3_go
  rw [k_isr3 hs, k_passE T N (n + 4)]
  by_cases c4 : t = 400
  · rw [if_pos c4, if_pos c4, oF_xV]
    exact oF.fl (gO.refl D h F A) (Nat.le_refl t) (by omega)
  · rw [if_neg c4, if_neg c4, ok_xV, x_num_bd]
    have T1 := T.pass (by omega) (by omega) (by omega)
    have g1 : gO D h F A h (kPs F D (t + 1)) A 0 := (gO.refl D h F A).fR (.inr (.inr rfl)) _
    generalize kPs F D (t + 1) = F1 at T1 g1 ⊢
    have gn : gN h F1 A (ix_nwO h 15 2) (hw_R F1 (ix_sz h) (fun _ => 0)) A 1 := (gO.refl _ h F1 A).nwO 15 (by omega)
    have T2 := T1.ofN gn
    have g2 : gO D h F A (ix_nwO h 15 2) (hw_R F1 (ix_sz h) (fun _ => 0)) A (0 + 1) := g1.nwO 15 (by omega)
    have tg : ix_tg (ix_nwO h 15 2) (ix_sz h) = 15 := s_tgO h 15 2
    have szn : ix_sz (ix_nwO h 15 2) = ix_sz h + 1 := rfl
    have hM : kM (ix_cs (ix_nwO h 15 2)) D cv (ix_sz h) := T1.hM
    rw [hw_bO, hw_sz]
    generalize ix_nwO h 15 2 = h2 at T2 g2 tg szn hM ⊢
    generalize hw_R F1 (ix_sz h) (fun _ => 0) = F2 at T2 g2 ⊢
    rw [k_isr3 T2.1, k_numE T2 hN (n + 2)]
    by_cases c2 : x_kd tk (t + 1) = 2
    · rw [if_pos c2, if_pos c2]
      by_cases c5 : t + 1 = 400
      · rw [if_pos c5, if_pos c5, oF_xI]
        exact oF.fl g2 (by omega) (by omega)
      · rw [if_neg c5, if_neg c5, ok_xI]
        have T3 := T2.num c2 (by have := T2.2.2.2.1.2.1; omega) (nI 0) (nI 3)
        have g3 := g2.nm tk (t + 1) w (nI 0) (nI 3)
        generalize kNm F2 D tk (t + 1) w (nI 0) (nI 3) = F3 at T3 g3 ⊢
        generalize x_w1 tk (t + 1) w (nI 0) (nI 3) = w' at T3 ⊢
        rw [c_isr tg (by decide), hw_cV (k_goI (F := F3) (A := A) tg N (n + 7) (tk (t + 1)).2.2.2 (nI b) okb)]
        refine ⟨by show t < t + 1 + 1; omega, h2, _, A, ix_sz h, rfl, ?_, (g3.fR (.inl (Nat.le_refl _)) _).mono (by show 0 + 1 ≤ 2 * (t + 1 + 1 - t) + 5; omega), ⟨⟨Nat.le_refl _, by omega⟩, .inr (.inl ⟨?_, tg, ?_, ?_⟩)⟩⟩
        · exact T3.imp (Nat.le_refl _) rfl hM fun b hb => ⟨rfl, rfl, rfl, rfl, hw_R_ne _ _ (by omega), rfl⟩
        · show 3 + b = 3 ∨ 3 + b = 4
          omega
        · rw [hw_R_same, hw_U_ne _ _ (by omega), hw_U_same]
        · rw [hw_R_same, hw_U_same]
          show nI b = if 3 + b = 4 then nI 1 else nI 0
          rcases (show b = 0 ∨ b = 1 by omega) with q | q <;> subst q <;> rfl
    · rw [if_neg c2, if_neg c2, oF_xI]
      exact oF.fl g2 (by omega) (by omega)
theorem k_sweepW {n : Nat} (T : gT h F A D cv tk e t 0 wi w) (hk : x_kd tk t = 27) : gLo D cv tk e wi h F A t (ix_run iy_P N (n + 9) 169 [ix_R (some (D 3))] (hw h F A)) (x_one tk t w) 5 := by
  have hs := T.1
  have t4 := T.2.2.2.1.2.1
  have ex : x_one tk t w = x_bd (x_pas t) fun _ t1 => .inr (((5, -1, [], []), w), t1) := by
    unfold x_one
    rw [if_neg (by omega), if_neg (by omega), if_neg (by omega), if_neg (by omega), if_pos hk]
  rw [ex, rX3_sweep N (n + 8)]
  unfold bX3_sweep x_pas
  rw [k_isr3 hs, k_passE T N (n + 4)]
  by_cases c4 : t = 400
  · rw [if_pos c4, if_pos c4, oF_xV]
    exact oF.fl (gO.refl D h F A) (Nat.le_refl t) (by omega)
  · rw [if_neg c4, if_neg c4, ok_xV]
    have T1 := T.pass (by omega) (by omega) (by omega)
    have g1 : gO D h F A h (kPs F D (t + 1)) A 0 := (gO.refl D h F A).fR (.inr (.inr rfl)) _
    generalize kPs F D (t + 1) = F1 at T1 g1 ⊢
    have gn : gN h F1 A (ix_nwO h 16 0) (hw_R F1 (ix_sz h) (fun _ => 0)) A 1 := (gO.refl _ h F1 A).nwO 16 (by omega)
    have T2 := T1.ofN gn
    have g2 : gO D h F A (ix_nwO h 16 0) (hw_R F1 (ix_sz h) (fun _ => 0)) A (0 + 1) := g1.nwO 16 (by omega)
    have tg : ix_tg (ix_nwO h 16 0) (ix_sz h) = 16 := s_tgO h 16 0
    have ei : ix_run iy_P N (n + 8) 133 [ix_R (some (ix_sz h))] (hw (ix_nwO h 16 0) (hw_R F1 (ix_sz h) (fun _ => 0)) A) = some (.inl none, hw (ix_nwO h 16 0) (hw_R F1 (ix_sz h) (fun _ => 0)) A) := by
      rw [rX17_init N (n + 7)]
      rfl
    rw [hw_bO, hw_sz, c_isr tg (by decide), hw_cV ei]
    exact ⟨Nat.lt_succ_self t, _, _, A, ix_sz h, rfl, T2, g2.mono (by show 0 + 1 ≤ 2 * (t + 1 - t) + 5; omega), ⟨⟨Nat.le_refl _, Nat.lt_succ_self _⟩, .inr (.inr ⟨rfl, tg⟩)⟩⟩
end
