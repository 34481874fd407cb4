/-! KD: the component: acts are read -/
set_option maxRecDepth 100000
/-- cell a is a tell that is no rounds -/
def gL (h : ix_H) (F : Nat → Nat → Int32) (W : Nat → Prop) (l : xL) (a : Nat) : Prop := W a ∧
  ((l.1 < 3 ∧ ix_tg h a = 14 ∧ F a 0 = (if l.2.1 < nI 0 then nI 0 else l.2.1) ∧ F a 1 = nI (l.1 + 1) ∧ F a 2 = (if l.2.1 < nI 0 then nI 1 else nI 0) ∧ (∃ k, ix_fR h a 3 = some k ∧ gSx h F W k l.2.2.1) ∧ (if l.1 = 0 then ∃ v, ix_fR h a 4 = some v ∧ gSx h F W v l.2.2.2 else ix_fR h a 4 = none)) ∨
   ((l.1 = 3 ∨ l.1 = 4) ∧ ix_tg h a = 15 ∧ F a 0 = l.2.1 ∧ F a 1 = (if l.1 = 4 then nI 1 else nI 0)) ∨
   (l.1 = 5 ∧ ix_tg h a = 16))
theorem gL.of {h h' : ix_H} {F F' : Nat → Nat → Int32} {W W' : Nat → Prop} {l : xL} {a : Nat} (hW : ∀ b, W b → W' b ∧ ix_tg h' b = ix_tg h b ∧ ix_fR h' b = ix_fR h b ∧ F' b = F b) (g : gL h F W l a) : gL h' F' W' l a := by
  obtain ⟨g1, g2⟩ := g
  obtain ⟨w1, w2, w3, w4⟩ := hW a g1
  refine ⟨w1, ?_⟩
  rw [w2, w3, w4]
  rcases g2 with ⟨a1, a2, a3, a4, a5, ⟨k, a6, a7⟩, a8⟩ | g2 | g2
  · refine .inl ⟨a1, a2, a3, a4, a5, ⟨k, a6, a7.of hW⟩, ?_⟩
    by_cases c : l.1 = 0
    · rw [if_pos c] at a8 ⊢
      obtain ⟨v, b1, b2⟩ := a8
      exact ⟨v, b1, b2.of hW⟩
    · rw [if_neg c] at a8 ⊢
      exact a8
  · exact .inr (.inl g2)
  · exact .inr (.inr g2)
/-- what a tell's reading leaves -/
def gLo (D cv : Nat → Nat) (tk : Nat → tK) (e wi : Nat) (h0 : ix_H) (F0 A0 : Nat → Nat → Int32) (t : Nat) (out : ix_O) (r : xR (xL × Option Nat)) (B : Nat) : Prop := match r with
  | .inl a => gFl D h0 F0 A0 tk t a B out
  | .inr a => t < a.2 ∧ ∃ h' F' A' x, out = some (.inl (some (ix_R (some x))), hw h' F' A') ∧ gT h' F' A' D cv tk e a.2 0 wi a.1.2 ∧ gO D h0 F0 A0 h' F' A' (2 * (a.2 - t) + B) ∧ gL h' F' (rg (ix_sz h0) (ix_sz h')) a.1.1 x
section
variable {h : ix_H} {F A : Nat → Nat → Int32} {D cv : Nat → Nat} {tk : Nat → tK} {e t op wi N : Nat} {w : Option Nat}
theorem k_begI {a : Nat} (ht : ix_tg h a = 14) (N d : Nat) (v1 v2 v3 : Int32) (h3 : ix_okn 1 v3 = true) (r1 r2 : Option Nat) : ix_run iy_P N (d + 1) 129 [ix_R (some a), ix_I v1, ix_I v2, ix_I v3, ix_R r1, ix_R r2] (hw h F A) = some (.inl none, hw (ix_wfR (ix_wfR h a 3 r1) a 4 r2) (hw_R F a (hw_U (hw_U (hw_U (F a) 0 v1) 1 v2) 2 v3)) A) := by
  have ht2 : ix_tg (ix_wfR h a 3 r1) a = 14 := ht
  rw [rX15_init N d]
  unfold bX15_init
  rw [c_is ht, hw_bdF, c_is ht, hw_bdF, c_is ht, h3, cond_true, hw_bdF, c_is ht, hw_bfR, c_is ht2, hw_bfR]
  simp only [hw_R_R, hw_R_same]
/-- an act's end: its cell, its terms -/
theorem k_actF {h0 : ix_H} {F0 A0 : Nat → Nat → Int32} {k s sort : Nat} {a b : xC} {hd hv cl : Int32} {x1 : Nat} {r2 : Option Nat} (T : gT h F A D cv tk e t 0 wi w) (g : gO D h0 F0 A0 h F A k) (hD : ∀ j, j < 19 → D j < ix_sz h0) (hM : kM (ix_cs h) D cv s) (hs0 : ix_sz h0 ≤ s) (hs1 : s < ix_sz h) (ht : ix_tg h s = 14) (hcl : ix_okn 1 cl = true) (hh : hv = if hd < nI 0 then nI 0 else hd) (hc : cl = if hd < nI 0 then nI 1 else nI 0) (h3 : sort < 3)
    (W1 : ∀ b, rg (ix_sz h0) (ix_sz h) b → b ≠ s → True) (s1 : gSx h F (fun b => rg (ix_sz h0) (ix_sz h) b ∧ b ≠ s) x1 a) (s2 : if sort = 0 then ∃ v, r2 = some v ∧ gSx h F (fun b => rg (ix_sz h0) (ix_sz h) b ∧ b ≠ s) v b else r2 = none) (d : Nat) :
    ∃ h' F', ix_run iy_P N (d + 1) 129 [ix_R (some s), ix_I hv, ix_I (nI (sort + 1)), ix_I cl, ix_R (some x1), ix_R r2] (hw h F A) = some (.inl none, hw h' F' A) ∧ gT h' F' A D cv tk e t 0 wi w ∧ gO D h0 F0 A0 h' F' A k ∧ ix_sz h' = ix_sz h ∧ gL h' F' (rg (ix_sz h0) (ix_sz h')) (sort, hd, a, b) s := by
  refine ⟨_, _, k_begI ht N d hv (nI (sort + 1)) cl hcl (some x1) r2, ?_, ((g.wfR hs0 3 (some x1)).wfR hs0 4 r2).fR (.inl hs0) _, rfl, ?_⟩
  · refine T.imp (Nat.le_refl _) rfl hM fun b hb => ⟨rfl, rfl, ?_, rfl, hw_R_ne _ _ (by omega), rfl⟩
    funext i
    show (if b = s ∧ i = 4 then _ else if b = s ∧ i = 3 then _ else ix_fR h b i) = _
    rw [if_neg (fun q => by omega), if_neg (fun q => by omega)]
  · have oth : ∀ b', (rg (ix_sz h0) (ix_sz h) b' ∧ b' ≠ s) → rg (ix_sz h0) (ix_sz (ix_wfR (ix_wfR h s 3 (some x1)) s 4 r2)) b' ∧ ix_tg (ix_wfR (ix_wfR h s 3 (some x1)) s 4 r2) b' = ix_tg h b' ∧ ix_fR (ix_wfR (ix_wfR h s 3 (some x1)) s 4 r2) b' = ix_fR h b' ∧ hw_R F s (hw_U (hw_U (hw_U (F s) 0 hv) 1 (nI (sort + 1))) 2 cl) b' = F b' := fun b' hb => by
      refine ⟨hb.1, rfl, ?_, hw_R_ne _ _ hb.2⟩
      funext i
      show (if b' = s ∧ i = 4 then _ else if b' = s ∧ i = 3 then _ else ix_fR h b' i) = _
      rw [if_neg (fun q => hb.2 q.1), if_neg (fun q => hb.2 q.1)]
    refine ⟨⟨hs0, hs1⟩, .inl ⟨h3, ht, ?_, ?_, ?_, ⟨x1, ?_, s1.of oth⟩, ?_⟩⟩
    · rw [hw_R_same, hw_U_ne _ _ (by omega), hw_U_ne _ _ (by omega), hw_U_same]
      exact hh
    · rw [hw_R_same, hw_U_ne _ _ (by omega), hw_U_same]
    · rw [hw_R_same, hw_U_same]
      exact hc
    · rw [s_fRf' _ _ _ _ (fun q => absurd q.2 (by decide)), s_fRf]
    · show if sort = 0 then _ else _
      by_cases c : sort = 0
      · rw [if_pos c] at s2 ⊢
        obtain ⟨v, b1, b2⟩ := s2
        exact ⟨v, by rw [s_fRf]; exact b1, b2.of oth⟩
      · rw [if_neg c] at s2 ⊢
        rw [s_fRf]
        exact s2
theorem k_act24 {n : Nat} (hU : ∀ w, uWk D cv tk e wi w N 163 (x_term tk) 0 (n + 8)) {h0 : ix_H} {F0 A0 : Nat → Nat → Int32} {k : Nat} {hd hv cl : Int32} (T : gT h F A D cv tk e t 0 wi w) (g : gO D h0 F0 A0 h F A k) (hD : ∀ j, j < 19 → D j < ix_sz h0) (hcl : ix_okn 1 cl = true) (hh : hv = if hd < nI 0 then nI 0 else hd) (hc : cl = if hd < nI 0 then nI 1 else nI 0) {sort : Nat} (hs : sort = 0 ∧ x_kd tk t = 30 ∨ sort = 1 ∧ x_kd tk t = 31) (K : ix_K) : gLo D cv tk e wi h0 F0 A0 t (jX3_act_24 (ix_run iy_P N (n + 8)) K (D 3) hv cl (nI (sort + 1)) (hw h F A)) (x_bd (x_act tk hd t) fun l t' => .inr ((l, w), t')) (k + 1) := by
  have hS := T.1
  have t4 := T.2.2.2.1.2.1
  have ex : (x_bd (x_act tk hd t) fun l t' => (.inr ((l, w), t') : xR (xL × Option Nat))) = x_bd (x_pas t) fun _ t1 => x_bd (x_term tk t1) fun a t2 => if sort = 0 then x_bd (x_term tk t2) fun b t3 => .inr (((0, hd, a, b), w), t3) else .inr (((1, hd, a, []), w), t2) := by
    unfold x_act
    rcases hs with ⟨s0, k0⟩ | ⟨s0, k0⟩
    · rw [if_pos k0, x_bd_as]
      congr 1
      funext _ t1
      rw [x_bd_as]
      congr 1
      funext a t2
      rw [if_pos s0, x_bd_as]
      rfl
    · rw [if_neg (by omega), if_pos k0, x_bd_as]
      congr 1
      funext _ t1
      rw [x_bd_as]
      congr 1
      funext a t2
      rw [if_neg (by omega)]
      rfl
  rw [ex]
  unfold jX3_act_24 jX3_act_43
  rw [k_isr3 hS, k_passE T N (n + 4)]
  unfold x_pas
  by_cases c4 : t = 400
  · rw [if_pos c4, if_pos c4, oF_xV]
    exact oF.fl g (Nat.le_refl t) (by omega)
  · rw [if_neg c4, if_neg c4, ok_xV]
    have T1 := T.pass (by omega) (by omega) (by omega)
    have g1 : gO D h0 F0 A0 h (kPs F D (t + 1)) A k := g.fR (.inr (.inr rfl)) _
    generalize kPs F D (t + 1) = F1 at T1 g1 ⊢
    have o := hU w h F1 A (t + 1) T1
    rw [k_isr3 T1.1]
    show gLo D cv tk e wi h0 F0 A0 t _ (x_bd (x_term tk (t + 1)) fun a t2 => if sort = 0 then x_bd (x_term tk t2) fun b t3 => .inr (((0, hd, a, b), w), t3) else .inr (((1, hd, a, []), w), t2)) (k + 1)
    generalize x_term tk (t + 1) = r at o
    cases r with
    | inl a =>
      obtain ⟨o1, h', F', A', o2, o3, o4, o5⟩ := o
      refine ⟨by omega, h', F', A', ?_, o3, o4, (g1.trans o5).mono (by omega)⟩
      rw [o2]
      rfl
    | inr a =>
      obtain ⟨a, t2⟩ := a
      obtain ⟨o1, h2, F2, A2, x1, o2, T2, g2, s1⟩ := o
      have o1 : t + 1 < t2 := o1
      have T2 : gT h2 F2 A2 D cv tk e t2 0 wi w := T2
      have g2' := g1.trans g2
      have s1' : gS h2 F2 (rg (ix_sz h0) (ix_sz h2)) a.length x1 a := s1.lo g.1
      rw [o2, ok_xR, hw_bO]
      have gn : gN h2 F2 A2 (ix_nwO h2 14 5) (hw_R F2 (ix_sz h2) (fun _ => 0)) A2 1 := (gO.refl _ h2 F2 A2).nwO 14 (by omega)
      have T3 := T2.ofN gn
      have g3 : gO D h0 F0 A0 (ix_nwO h2 14 5) (hw_R F2 (ix_sz h2) (fun _ => 0)) A2 (k + 2 * (t2 - (t + 1)) + 1) := g2'.nwO 14 (by omega)
      have tg : ix_tg (ix_nwO h2 14 5) (ix_sz h2) = 14 := s_tgO h2 14 5
      have szn : ix_sz (ix_nwO h2 14 5) = ix_sz h2 + 1 := rfl
      have s3 : gS (ix_nwO h2 14 5) (hw_R F2 (ix_sz h2) (fun _ => 0)) (fun b => rg (ix_sz h0) (ix_sz h2 + 1) b ∧ b ≠ ix_sz h2) a.length x1 a := s1'.of fun b hb => by
        obtain ⟨b1, b2⟩ := hb
        obtain ⟨c1, -, c3, -, -, -, -, c8⟩ := gn.2.2.2.2 b b2
        exact ⟨⟨⟨b1, by omega⟩, by omega⟩, c1, c3, c8 (Nat.ne_of_lt b2) (Nat.ne_of_lt b2)⟩
      have hM : kM (ix_cs (ix_nwO h2 14 5)) D cv (ix_sz h2) := T2.hM
      have z0 := g2'.1
      rw [hw_sz]
      generalize ix_nwO h2 14 5 = h3 at T3 g3 tg szn s3 hM ⊢
      generalize hw_R F2 (ix_sz h2) (fun _ => 0) = F3 at T3 g3 s3 ⊢
      rcases hs with ⟨s0, k0⟩ | ⟨s0, k0⟩
      · subst s0
        have o' := hU w h3 F3 A2 t2 T3
        rw [if_pos (show nI (0 + 1) = nI 1 from rfl), k_isr3 T3.1]
        show gLo D cv tk e wi h0 F0 A0 t _ (x_bd (x_term tk t2) fun b t3 => .inr (((0, hd, a, b), w), t3)) (k + 1)
        generalize x_term tk t2 = r at o'
        cases r with
        | inl b =>
          obtain ⟨p1, h', F', A', p2, p3, p4, p5⟩ := o'
          refine ⟨by omega, h', F', A', ?_, p3, p4, (g3.trans p5).mono (by omega)⟩
          rw [p2]
          rfl
        | inr b =>
          obtain ⟨b, t3⟩ := b
          obtain ⟨p1, h4, F4, A4, x2, p2, T4, g4, s4⟩ := o'
          have p1 : t2 < t3 := p1
          have T4 : gT h4 F4 A4 D cv tk e t3 0 wi w := T4
          have sz4 := g4.1
          have tg4 : ix_tg h4 (ix_sz h2) = 14 := by rw [(g4.2.2.2.2 _ (by omega)).1]; exact tg
          have s1'' : gS h4 F4 (fun b => rg (ix_sz h0) (ix_sz h4) b ∧ b ≠ ix_sz h2) a.length x1 a := s3.of fun b hb => by
            obtain ⟨⟨b1, b2⟩, b3⟩ := hb
            obtain ⟨c1, -, c3, -, -, -, -, c8⟩ := g4.2.2.2.2 b (by omega)
            have d1 := hD 1 (by omega)
            have d3 := hD 3 (by omega)
            exact ⟨⟨⟨b1, by omega⟩, b3⟩, c1, c3, c8 (by omega) (by omega)⟩
          have s2'' : gSx h4 F4 (fun b => rg (ix_sz h0) (ix_sz h4) b ∧ b ≠ ix_sz h2) x2 b := s4.of fun b hb => ⟨⟨⟨by have := hb.1; omega, hb.2⟩, by have := hb.1; omega⟩, rfl, rfl, rfl⟩
          have hM4 : kM (ix_cs h4) D cv (ix_sz h2) := by rw [g4.2.2.2.1]; exact hM
          obtain ⟨h5, F5, e5, T5, g5, z5, L5⟩ := k_actF (N := N) (hd := hd) (hv := hv) (cl := cl) (sort := 0) (b := b) (r2 := some x2) T4 (g3.trans g4) hD hM4 z0 (by omega) tg4 hcl hh hc (by omega) (fun _ _ _ => trivial) s1'' ⟨x2, rfl, s2''⟩ (n + 7)
          rw [p2, ok_xR, c_isr tg4 (by decide), hw_cV e5]
          exact ⟨by show t < t3; omega, h5, F5, A4, ix_sz h2, rfl, T5, g5.mono (by show _ ≤ 2 * (t3 - t) + (k + 1); omega), L5⟩
      · subst s0
        have s1'' : gS h3 F3 (fun b => rg (ix_sz h0) (ix_sz h3) b ∧ b ≠ ix_sz h2) a.length x1 a := by rw [szn]; exact s3
        obtain ⟨h5, F5, e5, T5, g5, z5, L5⟩ := k_actF (N := N) (hd := hd) (hv := hv) (cl := cl) (sort := 1) (b := []) (r2 := none) T3 g3 hD hM z0 (by omega) tg hcl hh hc (by omega) (fun _ _ _ => trivial) s1'' rfl (n + 7)
        rw [if_neg (show ¬ nI (1 + 1) = nI 1 by decide), c_isr tg (by decide), hw_cV e5]
        exact ⟨by show t < t2; omega, h5, F5, A2, ix_sz h2, rfl, T5, g5.mono (by show _ ≤ 2 * (t2 - t) + (k + 1); omega), L5⟩
end
