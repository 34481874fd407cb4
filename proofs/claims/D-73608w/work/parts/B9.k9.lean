/-! K9: the component: terms as trees; a sign between terms -/
set_option maxRecDepth 100000
/-- cell a is a term's tree: its code is c; all its cells are in W; n: how deep at most -/
def gS (h : ix_H) (F : Nat → Nat → Int32) (W : Nat → Prop) : Nat → Nat → xC → Prop
  | 0, _, _ => False
  | n + 1, a, c => W a ∧ ((ix_tg h a = 11 ∧ c = [(0, F a 0)]) ∨ (ix_tg h a = 12 ∧ ∃ j, j < 6 ∧ F a 0 = nI j ∧ c = [(1, nI j)]) ∨
    (ix_tg h a = 13 ∧ ∃ a1 a2 c1 c2 k, ix_fR h a 1 = some a1 ∧ ix_fR h a 2 = some a2 ∧ F a 0 = k_wh k ∧ k ∈ [8, 9, 10, 15, 16] ∧ c = c1 ++ c2 ++ [(x_op k, nI 0)] ∧ gS h F W n a1 c1 ∧ gS h F W n a2 c2))
abbrev gSx (h : ix_H) (F : Nat → Nat → Int32) (W : Nat → Prop) (a : Nat) (c : xC) : Prop := gS h F W c.length a c
def rg (lo hi : Nat) : Nat → Prop := fun b => lo ≤ b ∧ b < hi
theorem gS.deep {h : ix_H} {F : Nat → Nat → Int32} {W : Nat → Prop} : ∀ {n m a : Nat} {c : xC}, gS h F W n a c → n ≤ m → gS h F W m a c
  | 0, _, _, _, g, _ => g.elim
  | n + 1, 0, _, _, _, hm => absurd hm (Nat.not_succ_le_zero n)
  | n + 1, m + 1, a, c, g, hm => by
    obtain ⟨g1, g2 | g2 | ⟨g2, a1, a2, c1, c2, k, f1, f2, f3, f4, f5, f6, f7⟩⟩ := g
    · exact ⟨g1, .inl g2⟩
    · exact ⟨g1, .inr (.inl g2)⟩
    · exact ⟨g1, .inr (.inr ⟨g2, a1, a2, c1, c2, k, f1, f2, f3, f4, f5, f6.deep (Nat.le_of_succ_le_succ hm), f7.deep (Nat.le_of_succ_le_succ hm)⟩)⟩
theorem gS.of {h h' : ix_H} {F F' : Nat → Nat → Int32} {W W' : Nat → Prop} (hW : ∀ b, W b → W' b ∧ ix_tg h' b = ix_tg h b ∧ ix_fR h' b = ix_fR h b ∧ F' b = F b) : ∀ {n a : Nat} {c : xC}, gS h F W n a c → gS h' F' W' n a c
  | 0, _, _, g => g.elim
  | n + 1, a, c, g => by
    obtain ⟨g1, g2⟩ := g
    obtain ⟨w1, w2, w3, w4⟩ := hW a g1
    refine ⟨w1, ?_⟩
    rw [w2, w3, w4]
    rcases g2 with g2 | g2 | ⟨g2, a1, a2, c1, c2, k, f1, f2, f3, f4, f5, f6, f7⟩
    · exact .inl g2
    · exact .inr (.inl g2)
    · exact .inr (.inr ⟨g2, a1, a2, c1, c2, k, f1, f2, f3, f4, f5, gS.of hW f6, gS.of hW f7⟩)
/-- a tree of new cells stays where old cells stay -/
theorem gS.ofO {D : Nat → Nat} {h h' : ix_H} {F A F' A' : Nat → Nat → Int32} {k lo n a : Nat} {c : xC} (g : gO D h F A h' F' A' k) (hD : D 1 < lo ∧ D 3 < lo) (s : gS h F (rg lo (ix_sz h)) n a c) : gS h' F' (rg lo (ix_sz h')) n a c := by
  refine s.of fun b hb => ?_
  obtain ⟨a1, a2, a3, a4, a5⟩ := g
  obtain ⟨b1, b2⟩ := hb
  obtain ⟨c1, c2, c3, c4, c5, c6, c7, c8⟩ := a5 b b2
  exact ⟨⟨b1, by omega⟩, c1, c3, c8 (by omega) (by omega)⟩
theorem gS.lo {h : ix_H} {F : Nat → Nat → Int32} {lo lo' hi n a : Nat} {c : xC} (s : gS h F (rg lo hi) n a c) (hl : lo' ≤ lo) : gS h F (rg lo' hi) n a c := s.of fun b hb => ⟨⟨by have := hb.1; omega, hb.2⟩, rfl, rfl, rfl⟩
/-- the parser's cells lie below m -/
def kM (cs : Nat → Nat) (D cv : Nat → Nat) (m : Nat) : Prop := (∀ j, j < 19 → D j < m) ∧ (∀ w, w < 18 → cs (k_kw w) < m ∧ cv w < m) ∧ cs 40 < m
theorem gT.hM {h : ix_H} {F A : Nat → Nat → Int32} {D cv : Nat → Nat} {tk : Nat → tK} {e t op wi : Nat} {w : Option Nat} (T : gT h F A D cv tk e t op wi w) : kM (ix_cs h) D cv (ix_sz h) :=
  ⟨T.1.2.2.2.2, fun w hw => ⟨(T.2.1.2.1 w hw).2.1, (T.2.1.2.1 w hw).2.2.1⟩, T.2.1.2.2.2.2⟩
/-- the state stays where the parser's cells stay -/
theorem gT.imp {h h' : ix_H} {F A F' A' : Nat → Nat → Int32} {D cv : Nat → Nat} {tk : Nat → tK} {e t op wi m : Nat} {w : Option Nat} (T : gT h F A D cv tk e t op wi w) (hz : ix_sz h ≤ ix_sz h') (hc : ix_cs h' = ix_cs h) (hm : kM (ix_cs h) D cv m) (same : ∀ b, b < m → ix_tg h' b = ix_tg h b ∧ ix_ln h' b = ix_ln h b ∧ ix_fR h' b = ix_fR h b ∧ ix_aR h' b = ix_aR h b ∧ F' b = F b ∧ A' b = A b) : gT h' F' A' D cv tk e t op wi w := by
  obtain ⟨⟨⟨t1, t2, t3, t13, t14, t15, t16⟩, ⟨f0, f1, f3, f4, f5, f6⟩, ⟨g0, g1⟩, inj, lt⟩, ⟨c1, c2, c3, c4, c5⟩, T3, T4, T5, T6, T7, T8⟩ := T
  obtain ⟨m1, m2, m3⟩ := hm
  have c : ∀ j, j < 19 → ix_tg h' (D j) = ix_tg h (D j) ∧ ix_ln h' (D j) = ix_ln h (D j) ∧ ix_fR h' (D j) = ix_fR h (D j) ∧ ix_aR h' (D j) = ix_aR h (D j) ∧ F' (D j) = F (D j) ∧ A' (D j) = A (D j) := fun j hj => same (D j) (m1 j hj)
  refine ⟨⟨⟨by rw [(c 1 (by omega)).1]; exact t1, by rw [(c 2 (by omega)).1]; exact t2, by rw [(c 3 (by omega)).1]; exact t3, by rw [(c 13 (by omega)).1, (c 13 (by omega)).2.1]; exact t13, by rw [(c 14 (by omega)).1, (c 14 (by omega)).2.1]; exact t14, by rw [(c 15 (by omega)).1, (c 15 (by omega)).2.1]; exact t15, fun j h1 h2 => by rw [(c j h2).1, (c j h2).2.1]; exact t16 j h1 h2⟩, ?_, ?_, inj, fun i hi => by have := lt i hi; omega⟩, ⟨fun w hw => ?_, fun w hw => ?_, ?_, ?_, ?_⟩, ?_, T4, ?_, ?_, ?_, ?_⟩
  · rw [(c 2 (by omega)).2.2.1]
    exact ⟨f0, f1, f3, f4, f5, f6⟩
  · rw [(c 3 (by omega)).2.2.1]
    exact ⟨g0, g1⟩
  · rw [(c 13 (by omega)).2.2.2.1, hc]
    exact c1 w hw
  · obtain ⟨⟨u1, u2, u3, u4, u5, u6, u7, u8⟩, s1, s2, s3, s4, s5⟩ := c2 w hw
    obtain ⟨n1, n2⟩ := m2 w hw
    rw [hc]
    obtain ⟨x1, x2, x3, x4, x5, x6⟩ := same _ n1
    obtain ⟨y1, y2, y3, y4, y5, y6⟩ := same _ n2
    exact ⟨⟨by rw [x1]; exact u1, by rw [y1]; exact u2, by rw [x3]; exact u3, by rw [x5]; exact u4, by rw [y2]; exact u5, u6, u7, fun i hi => by rw [y6]; exact u8 i hi⟩, by omega, by omega, s3, s4, by rw [x1]; exact s5⟩
  · rw [hc, (same _ m3).1]
    exact c3
  · rw [hc, (same _ m3).2.1]
    exact c4
  · rw [hc]
    omega
  · unfold gK at *
    rw [(c 14 (by omega)).2.2.2.2.2, (c 15 (by omega)).2.2.2.2.2, (c 16 (by omega)).2.2.2.2.2, (c 17 (by omega)).2.2.2.2.2, (c 18 (by omega)).2.2.2.2.2]
    exact T3
  · rw [(c 3 (by omega)).2.2.2.2.1]
    exact T5
  · rw [(c 3 (by omega)).2.2.2.2.1]
    exact T6
  · rw [(c 3 (by omega)).2.2.2.2.1]
    exact T7
  · unfold gW at *
    rw [(c 3 (by omega)).2.2.2.2.1]
    exact T8
/-- what a term's reading leaves -/
def gTm (D cv : Nat → Nat) (tk : Nat → tK) (e op wi : Nat) (w : Option Nat) (h0 : ix_H) (F0 A0 : Nat → Nat → Int32) (t : Nat) (out : ix_O) (r : xR xC) : Prop := match r with
  | .inl a => gFl D h0 F0 A0 tk t a 0 out
  | .inr a => t < a.2 ∧ ∃ h' F' A' x, out = some (.inl (some (ix_R (some x))), hw h' F' A') ∧ gT h' F' A' D cv tk e a.2 op wi w ∧ gO D h0 F0 A0 h' F' A' (2 * (a.2 - t)) ∧ gSx h' F' (rg (ix_sz h0) (ix_sz h')) x a.1
def uWk (D cv : Nat → Nat) (tk : Nat → tK) (e wi : Nat) (w : Option Nat) (N : Nat) (y : Nat) (u : Nat → xR xC) (op n : Nat) : Prop := ∀ h F A t, gT h F A D cv tk e t op wi w → gTm D cv tk e op wi w h F A t (ix_run iy_P N n y [ix_R (some (D 3))] (hw h F A)) (u t)
/-- behind a sign: the next term, both joined -/
def kLb (y : Nat) (cal : ix_C) (K : ix_K) (v0 : Nat) (v1 : Option Nat) (h : ix_H) : ix_O :=
  (ix_is h 4 (some v0)).bind fun a6 =>
  (ix_is h 3 (ix_fR h a6 0)).bind fun a7 =>
  (ix_is h 4 (some v0)).bind fun a8 =>
  (ix_atr h 103 (ix_fR h a7 6) (ix_fI h a8 3)).bind fun a9 =>
  (ix_isr h 4 (some v0)).bind fun a11 =>
  ix_xV (cal 155 [ix_R (some a11)] h) ix_out fun h12 =>
  ix_bd (ix_nwO h12 13 3) fun h13 =>
  (ix_isr h13 4 (some v0)).bind fun a15 =>
  ix_xR (cal y [ix_R (some a15)] h13) ix_out fun r14 h16 =>
  (ix_isr h16 13 (some (ix_sz h12))).bind fun a18 =>
  (ix_rV (cal 127 [ix_R (some a18), ix_I (ix_aI h a9 (ix_fI h a8 3).toNatClampNeg), ix_R v1, ix_R r14] h16)).bind fun r17 =>
  K 3 [(0, ix_R (some v0)), (1, ix_R (some (ix_sz h12)))] [] r17
theorem kLb_sum (cal : ix_C) (K : ix_K) (v0 : Nat) (v1 : Option Nat) (h : ix_H) : jX3_sum_12 cal K v0 v1 h = kLb 164 cal K v0 v1 h := rfl
theorem kLb_part (cal : ix_C) (K : ix_K) (v0 : Nat) (v1 : Option Nat) (h : ix_H) : jX3_part_16 cal K v0 v1 h = kLb 165 cal K v0 v1 h := rfl
section
variable {h : ix_H} {F A : Nat → Nat → Int32} {D cv : Nat → Nat} {tk : Nat → tK} {e t op wi N : Nat} {w : Option Nat}
theorem k_joined {a : Nat} (ht : ix_tg h a = 13) (N d : Nat) (v : Int32) (r1 r2 : Option Nat) : ix_run iy_P N (d + 2) 127 [ix_R (some a), ix_I v, ix_R r1, ix_R r2] (hw h F A) = some (.inl none, hw (ix_wfR (ix_wfR h a 1 r1) a 2 r2) (hw_R F a (hw_U (F a) 0 v)) A) := by
  have e1 : ix_run iy_P N (d + 1) 122 [ix_R (some a)] (hw h F A) = some (.inl none, hw h F A) := by
    rw [rX11_init N d]
    rfl
  have ht2 : ix_tg (ix_wfR h a 1 r1) a = 13 := ht
  rw [rX14_init N (d + 1)]
  unfold bX14_init
  rw [c_isr ht (by decide), hw_cV e1, c_is ht, hw_bdF, c_is ht, hw_bfR, c_is ht2, hw_bfR]
theorem k_lb {y n : Nat} {u : Nat → xR xC} (hU : uWk D cv tk e wi w N y u op (n + 8)) {h0 : ix_H} {F0 A0 : Nat → Nat → Int32} {t0 x : Nat} {c : xC} (T : gT h F A D cv tk e t op wi w) (g : gO D h0 F0 A0 h F A (2 * (t - t0))) (ht : t0 < t) (hD : ∀ j, j < 19 → D j < ix_sz h0) (s : gSx h F (rg (ix_sz h0) (ix_sz h)) x c) (hk : x_kd tk t ∈ [8, 9, 10, 15, 16]) (K : ix_K) : match (x_bd (x_pas t) fun _ t1 => u t1) with
    | .inl a => gFl D h0 F0 A0 tk t0 a 0 (kLb y (ix_run iy_P N (n + 8)) K (D 3) (some x) (hw h F A))
    | .inr a => t < a.2 ∧ ∃ h' F' A' x', kLb y (ix_run iy_P N (n + 8)) K (D 3) (some x) (hw h F A) = K 3 [(0, ix_R (some (D 3))), (1, ix_R (some x'))] [] (hw h' F' A') ∧ gT h' F' A' D cv tk e a.2 op wi w ∧ gO D h0 F0 A0 h' F' A' (2 * (a.2 - t0)) ∧ gSx h' F' (rg (ix_sz h0) (ix_sz h')) x' (c ++ a.1 ++ [(x_op (x_kd tk t), nI 0)]) := by
  have hs := T.1
  obtain ⟨k1, k2, k3, k4, k5, k6, k7⟩ := T.row
  have t4 := T.2.2.2.1.2.1
  have hk0 : x_kd tk t ≠ 0 := fun q => by rw [q] at hk; exact absurd hk (by decide)
  have hk3 : x_kd tk t ≠ 3 := fun q => by rw [q] at hk; exact absurd hk (by decide)
  unfold kLb
  rw [k_is3 hs, k_t3 hs, k_is3 hs, hw_fI, T.2.2.2.2.1, k_ar hs, hw_in (by omega) (by omega), cond_true, k_isr3 hs, hw_aI, hw_cl (by omega), k4 hk3, k_passE T N (n + 4)]
  unfold x_pas
  by_cases c4 : t = 400
  · rw [if_pos c4, if_pos c4, oF_xV]
    exact oF.fl g (by omega) (by omega)
  · rw [if_neg c4, if_neg c4, ok_xV]
    have T1 := T.pass hk0 hk3 (by omega)
    have g1 : gO D h0 F0 A0 h (kPs F D (t + 1)) A (2 * (t - t0)) := g.fR (.inr (.inr rfl)) _
    have s1 : gS h (kPs F D (t + 1)) (rg (ix_sz h0) (ix_sz h)) c.length x c := s.ofO ((gO.refl D h F A).fR (.inr (.inr rfl)) _) ⟨hD 1 (by omega), hD 3 (by omega)⟩
    generalize kPs F D (t + 1) = F1 at T1 g1 s1 ⊢
    have gn : gN h F1 A (ix_nwO h 13 3) (hw_R F1 (ix_sz h) (fun _ => 0)) A 1 := (gO.refl _ h F1 A).nwO 13 (by omega)
    have T2 := T1.ofN gn
    have g2 : gO D h0 F0 A0 (ix_nwO h 13 3) (hw_R F1 (ix_sz h) (fun _ => 0)) A (2 * (t - t0) + 1) := g1.nwO 13 (by omega)
    have s2 := s1.ofO (gn.o D) ⟨hD 1 (by omega), hD 3 (by omega)⟩
    have tj : ix_tg (ix_nwO h 13 3) (ix_sz h) = 13 := s_tgO h 13 3
    have szj : ix_sz (ix_nwO h 13 3) = ix_sz h + 1 := rfl
    rw [hw_bO, hw_sz, k_isr3 T2.1]
    have sz0 := g.1
    have csj : ix_cs (ix_nwO h 13 3) = ix_cs h := rfl
    generalize hj2 : ix_nwO h 13 3 = h2 at T2 g2 s2 tj szj csj ⊢
    generalize hF2 : hw_R F1 (ix_sz h) (fun _ => 0) = F2 at T2 g2 s2 ⊢
    have o := hU h2 F2 A (t + 1) T2
    show match (u (t + 1)) with
      | .inl a => gFl D h0 F0 A0 tk t0 a 0 _
      | .inr a => _
    generalize u (t + 1) = r at o
    cases r with
    | inl a =>
      obtain ⟨o1, h3, F3, A3, o2, o3, o4, o5⟩ := o
      refine ⟨by omega, h3, F3, A3, ?_, o3, o4, (g2.trans o5).mono (by omega)⟩
      rw [o2]
      rfl
    | inr a =>
      obtain ⟨o1, h3, F3, A3, x2, o2, T3, o5, s3⟩ := o
      have tj3 : ix_tg h3 (ix_sz h) = 13 := by
        rw [(o5.2.2.2.2 (ix_sz h) (by omega)).1]
        exact tj
      rw [o2, ok_xR, c_isr tj3 (by decide), hw_cV (k_joined tj3 N (n + 6) _ _ _)]
      have s4 := s2.ofO o5 ⟨hD 1 (by omega), hD 3 (by omega)⟩
      have s3' : gS h3 F3 (rg (ix_sz h0) (ix_sz h3)) a.1.length x2 a.1 := s3.lo (by omega)
      have g3 := g2.trans o5
      have g4 := ((g3.wfR (a := ix_sz h) (by omega) 1 (some x)).wfR (a := ix_sz h) (by omega) 2 (some x2)).fR (a := ix_sz h) (.inl (by omega)) (hw_U (F3 (ix_sz h)) 0 (k_wh (x_kd tk t)))
      have sz3 := o5.1
      refine ⟨by omega, _, _, _, ix_sz h, rfl, ?_, g4.mono (by omega), ?_⟩
      · refine T3.imp (Nat.le_refl _) rfl (m := ix_sz h) ?_ fun b hb => ?_
        · have := T1.hM
          rw [← show ix_cs h3 = ix_cs h from by rw [o5.2.2.2.1, csj]] at this
          exact this
        · refine ⟨rfl, rfl, ?_, rfl, hw_R_ne _ _ (by omega), rfl⟩
          funext i
          show (if b = ix_sz h ∧ i = 2 then _ else if b = ix_sz h ∧ i = 1 then _ else ix_fR h3 b i) = _
          rw [if_neg (fun q => by omega), if_neg (fun q => by omega)]
      · have eL : (c ++ a.1 ++ [(x_op (x_kd tk t), nI 0)]).length = c.length + a.1.length + 1 := by
          rw [List.length_append, List.length_append]
          rfl
        have o5' : gO D (ix_nwO h 13 3) (hw_R F1 (ix_sz h) (fun _ => 0)) A h3 F3 A3 (2 * (a.2 - (t + 1))) := by
          rw [hj2, hF2]
          exact o5
        have gf := ((((gn.o D).trans o5').wfR (a := ix_sz h) (Nat.le_refl _) 1 (some x)).wfR (a := ix_sz h) (Nat.le_refl _) 2 (some x2)).fR (a := ix_sz h) (.inl (Nat.le_refl _)) (hw_U (F3 (ix_sz h)) 0 (k_wh (x_kd tk t)))
        have c1 := s1.ofO gf ⟨hD 1 (by omega), hD 3 (by omega)⟩
        have c2 : gS (ix_wfR (ix_wfR h3 (ix_sz h) 1 (some x)) (ix_sz h) 2 (some x2)) (hw_R F3 (ix_sz h) (hw_U (F3 (ix_sz h)) 0 (k_wh (x_kd tk t)))) (rg (ix_sz h0) (ix_sz h3)) a.1.length x2 a.1 := by
          refine s3.of fun b hb => ?_
          obtain ⟨b1, b2⟩ := hb
          refine ⟨⟨by omega, b2⟩, rfl, ?_, hw_R_ne _ _ (by omega)⟩
          funext i
          show (if b = ix_sz h ∧ i = 2 then _ else if b = ix_sz h ∧ i = 1 then _ else ix_fR h3 b i) = _
          rw [if_neg (fun q => by omega), if_neg (fun q => by omega)]
        show gS _ _ _ (c ++ a.1 ++ [(x_op (x_kd tk t), nI 0)]).length _ _
        rw [eL]
        refine ⟨⟨by omega, show ix_sz h < ix_sz h3 by omega⟩, .inr (.inr ⟨tj3, x, x2, c, a.1, x_kd tk t, ?_, ?_, ?_, hk, rfl, c1.deep (by omega), c2.deep (by omega)⟩)⟩
        · show (if ix_sz h = ix_sz h ∧ 1 = 2 then _ else if ix_sz h = ix_sz h ∧ 1 = 1 then some x else _) = some x
          rw [if_neg (fun q => absurd q.2 (by decide)), if_pos ⟨rfl, rfl⟩]
        · exact s_fRf _ _ _ _
        · rw [hw_R_same, hw_U_same]
end
