/-! KL: the component: a text is read, its tells gathered -/
set_option maxRecDepth 100000
def gRd (D : Nat → Nat) (tk : Nat → tK) (h0 : ix_H) (F0 A0 : Nat → Nat → Int32) (tx : Nat) (out : ix_O) (r : xR (Int32 × Int32 × Int32 × List (xT 3) × Option Nat)) : Prop := match r with
  | .inl a => gFl D h0 F0 A0 tk 0 a 100 out
  | .inr ((a, b, c, l, some x), t) => ∃ h' F' A', out = some (.inr (D 1), hw h' F' A') ∧ F' (D 1) 6 = nI 5 ∧ F' (D 1) 7 = nI (tk x).2.1 ∧ gO D h0 F0 A0 h' F' A' (80 * t + 100)
  | .inr ((a, b, c, l, none), t) => ∃ h' F' A' ro, out = some (.inl (some (ix_R (some tx))), hw h' F' A') ∧ gO D h0 F0 A0 h' F' A' (80 * t + 100) ∧ (ix_sz h0 ≤ tx ∧ tx < ix_sz h' ∧ ix_tg h' tx = 8 ∧ ix_fR h' tx 0 = some ro ∧ F' tx 1 = a ∧ F' tx 2 = b ∧ F' tx 3 = c) ∧ gTr h' F' (rg (ix_sz h0) (ix_sz h')) 4 (.inr (nI 1, l)) ro
section
variable {h : ix_H} {F A : Nat → Nat → Int32} {D cv : Nat → Nat} {tk : Nat → tK} {e t op wi N : Nat} {w : Option Nat}
theorem k_readL {m : Nat} (hN : 1000 ≤ N) (hT : tWk D cv tk e 0 N (m + 8) 3) {h0 : ix_H} {F0 A0 : Nat → Nat → Int32} {tx ro ls : Nat} {a b c : Int32} (hD : ∀ j, j < 19 → D j < ix_sz h0) (hM : kM (ix_cs h0) D cv (ix_sz h0)) (hp : ix_fR h0 (D 3) 2 = some tx) (hx : ix_sz h0 ≤ tx) : ∀ z0 t h F A w (l : List (xT 3)) z k, 401 ≤ z0 + t → 402 ≤ z + t → gI D cv tk e 0 h0 F0 A0 3 h F A t w ro ls (nI 1) l k → (tx < ix_sz h ∧ ix_tg h tx = 8 ∧ ix_fR h tx 0 = some ro ∧ F tx 1 = a ∧ F tx 2 = b ∧ F tx 3 = c) → k ≤ 80 * t + 40 →
    gRd D tk h0 F0 A0 tx (ix_lp (ix_run iy_P N (m + 8)) stX3_read z 53 [(0, ix_R (some (D 3)))] [] (hw h F A)) (x_bd (x_until tk (x_told tk 3) 0 z0 t w l) fun l' t4 => .inr ((a, b, c, l'.1, l'.2), t4))
  | 0, t, h, F, A, w, l, z, k, h1, h2, I, tf, hk => by
    have := I.1.2.2.2.1.2.1
    omega
  | z0 + 1, t, h, F, A, w, l, z, k, h1, h2, I, tf, hk => by
    have T := I.1
    have hs := T.1
    have t4 := T.2.2.2.1.2.1
    obtain ⟨k1, k2, k3, k4, k5, k6, k7⟩ := T.row
    have so := k_so_5 _ k7
    obtain ⟨f1, f2, f3, f4, f5, f6⟩ := tf
    obtain ⟨z, rfl⟩ : ∃ y, z = y + 1 := ⟨z - 1, by omega⟩
    have eq1 : x_until tk (x_told tk 3) 0 (z0 + 1) t w l = if x_kd tk t = 0 then .inr ((l, w), t) else x_bd (x_told tk 3 t w) fun a t1 => x_until tk (x_told tk 3) 0 z0 t1 a.2 (l ++ [a.1]) := rfl
    have pD : ix_fR h (D 3) 2 = some tx := by
      rw [(I.2.1.2.2.2.2 (D 3) (hD 3 (by omega))).2.2.1]
      exact hp
    rw [lX3_read_53, eq1]
    unfold jX3_read_53
    rw [k_isr3 hs, k_sortE T N (m + 4)]
    by_cases c3 : x_kd tk t = 3
    · rw [if_pos c3, oF_xI, if_neg (by omega), x_told_bad 3 c3]
      exact oF.fl I.2.1 (Nat.zero_le t) (by omega)
    · rw [if_neg c3, ok_xI]
      by_cases c0 : x_kd tk t = 0
      · rw [if_pos c0, if_pos (so.2.2.2.mpr c0), k_is3 hs, hw_fI]
        have hW := T.2.2.2.2.2.2.2
        cases w with
        | none =>
          have hW : F (D 3) 6 = nI 0 := hW
          rw [hW, if_pos rfl, k_is3 hs, hw_fR, pD]
          exact ⟨h, F, A, ro, rfl, I.2.1.mono (by omega), ⟨hx, f1, f2, f3, f4, f5, f6⟩, I.tree⟩
        | some x =>
          obtain ⟨w1, w2, w3⟩ := hW
          have ew := k_wrongAt T N (m + 6) 5 w1
          rw [w2, if_neg (by decide), k_is3 hs, k_is3 hs, k_isr3 hs, w2, w3, hw_cR ew]
          dsimp only
          rw [k_is1 hs]
          refine ⟨h, kFl F D 5 (tk x).2.1, A, rfl, ?_, ?_, (I.2.1.fR (.inr (.inl rfl)) _).mono (by omega)⟩
          · unfold kFl
            rw [hw_R_same, hw_U_ne _ _ (by omega), hw_U_same]
          · unfold kFl
            rw [hw_R_same, hw_U_same]
      · have I0 := I
        obtain ⟨-, -, -, ⟨r1, r2, r3, r4, r5⟩, ⟨q1, q2⟩, ar, xs, gA0, -⟩ := I0
        rw [if_neg c0, if_neg (fun q => c0 (so.2.2.2.mp q)), k_is3 hs, hw_fR, pD, c_is f2, f3, c_is r3, k_isr3 hs]
        have o := hT h F A t w T
        rw [x_bd_as]
        generalize x_told tk 3 t w = r at o
        cases r with
        | inl a =>
          obtain ⟨o1, h', F', A', o2, o3, o4, o5⟩ := o
          refine ⟨Nat.zero_le _, h', F', A', ?_, o3, o4, (I.2.1.trans o5).mono (by omega)⟩
          rw [o2]
          rfl
        | inr a' =>
          obtain ⟨⟨x, w'⟩, t1⟩ := a'
          obtain ⟨o1, h2', F2, A2, xx, k2, o2, T2, k2b, g2, gx⟩ := o
          have o1 : t + 2 ≤ t1 := o1
          have T2 : gT h2' F2 A2 D cv tk e t1 0 0 w' := T2
          have k2b : k2 + 100 ≤ 80 * (t1 - t) := k2b
          obtain ⟨h3, F3, A3, e3, I3, zz, kp⟩ := gI.add I hD hM T2 o1 g2 gx N (m + 1)
          have tl2 : ix_tg h2' ls = 18 := by rw [(g2.2.2.2.2 ls q2).1]; exact gA0.1
          have ntl : tx ≠ ls := fun q => by
            have := gA0.1
            rw [← q, f2] at this
            exact absurd this (by decide)
          have d1 := hD 1 (by omega)
          have d3 := hD 3 (by omega)
          obtain ⟨p1, p2, p3⟩ := kp tx f1 ntl (by omega) (by omega)
          have z3 := I3.2.1.1
          have r2' := I3.2.2.2.1.2.1
          rw [o2, ok_xR, r4, c_isr tl2 (by decide), hw_cI e3]
          exact k_readL hN hT hD hM hp hx z0 t1 h3 F3 A3 w' _ z (k + k2 + 41) (by omega) (by omega) I3 ⟨by omega, by rw [p1]; exact f2, by rw [p2]; exact f3, by rw [p3]; exact f4, by rw [p3]; exact f5, by rw [p3]; exact f6⟩ (by omega)
theorem gO.pre {h0 h1 : ix_H} {F0 A0 F1 A1 : Nat → Nat → Int32} {k : Nat} (g : gO D h0 F0 A0 h1 F1 A1 k) (a j : Nat) (v : Option Nat) : gO D (ix_wfR h0 a j v) F0 A0 (ix_wfR h1 a j v) F1 A1 k := by
  obtain ⟨a1, a2, a3, a4, a5⟩ := g
  refine ⟨a1, a2, a3, a4, fun b hb => ?_⟩
  obtain ⟨c1, c2, c3, c4, c5, c6, c7, c8⟩ := a5 b hb
  refine ⟨c1, c2, ?_, c4, c5, c6, c7, c8⟩
  funext i
  show (if b = a ∧ i = j then v else ix_fR h1 b i) = if b = a ∧ i = j then v else ix_fR h0 b i
  rw [c3]
theorem kS.txt (hs : kS h D) (v : Option Nat) : kS (ix_wfR h (D 3) 2 v) D := by
  have n23 := hs.ne (i := 2) (j := 3) (by omega) (by omega) (by omega)
  obtain ⟨t, ⟨f0, f1, f3, f4, f5, f6⟩, ⟨g0, g1⟩, inj, lt⟩ := hs
  have c2 : ∀ i, ix_fR (ix_wfR h (D 3) 2 v) (D 2) i = ix_fR h (D 2) i := fun i => s_fRf' _ _ _ _ (fun q => n23 q.1)
  refine ⟨t, ?_, ?_, inj, lt⟩
  · rw [c2, c2, c2, c2, c2, c2]
    exact ⟨f0, f1, f3, f4, f5, f6⟩
  · rw [s_fRf' _ _ _ _ (fun q => absurd q.2 (by decide)), s_fRf' _ _ _ _ (fun q => absurd q.2 (by decide))]
    exact ⟨g0, g1⟩
theorem kC.txt (hc : kC h F A D cv) (v : Option Nat) : kC (ix_wfR h (D 3) 2 v) F A D cv := by
  obtain ⟨c1, c2, c3⟩ := hc
  refine ⟨c1, fun w hw => ?_, c3⟩
  obtain ⟨⟨t1, t2, t3, t4⟩, r⟩ := c2 w hw
  exact ⟨⟨t1, t2, by show ix_fR (ix_wfR h (D 3) 2 v) (ix_cs h (k_kw w)) 0 = _; rw [s_fRf' _ _ _ _ (fun q => r.2.2.1 3 (by omega) q.1.symm)]; exact t3, t4⟩, r⟩
/-- a text's cell is made -/
theorem k_txt (hs : kS h D) (hC : kC h F A D cv) (hK : gK A D tk e) (N d : Nat) : ∃ h1 F1, ix_run iy_P N (d + 5) 225 [ix_R (some (ix_sz h))] (hw (ix_nwO h 8 4) (hw_R F (ix_sz h) (fun _ => 0)) A) = some (.inl none, hw h1 F1 A) ∧ gX D cv tk e (ix_wfR h (D 3) 2 (some (ix_sz h))) F A (ix_wfR h1 (D 3) 2 (some (ix_sz h))) (hw_R F1 (D 3) (hw_U (hw_U (hw_U (hw_U (F1 (D 3)) 3 (nI 0)) 4 (nI 0)) 5 (nI 0)) 6 (nI 0))) A 0 none (ix_sz h) (ix_sz h + 1) (ix_sz h + 2) (nI 3) (nI 6) (nI 2) 3 := by
  have lt := hs.2.2.2.2
  have d3 := lt 3 (by omega)
  have ta : ix_tg (ix_nwO h 8 4) (ix_sz h) = 8 := s_tgO h 8 4
  have ga : gN h F A (ix_nwO h 8 4) (hw_R F (ix_sz h) (fun _ => 0)) A (0 + 1) := (gO.refl _ h F A).nwO 8 (by omega)
  have za : ix_sz (ix_nwO h 8 4) = ix_sz h + 1 := rfl
  have ca : ix_cs (ix_nwO h 8 4) = ix_cs h := rfl
  generalize ix_nwO h 8 4 = ha at ta ga za ca ⊢
  generalize hw_R F (ix_sz h) (fun _ => 0) = Fa at ga ⊢
  have tb : ix_tg (ix_nwO ha 9 2) (ix_sz h + 1) = 9 := by rw [← za]; exact s_tgO ha 9 2
  have tb2 : ix_tg (ix_nwO ha 9 2) (ix_sz h) = 8 := by rw [s_tgO' _ _ _ (by omega)]; exact ta
  have gb : gN h F A (ix_nwO ha 9 2) (hw_R Fa (ix_sz ha) (fun _ => 0)) A (0 + 1 + 1) := ga.nwO 9 (by omega)
  have zb : ix_sz (ix_nwO ha 9 2) = ix_sz h + 2 := by rw [s_szO, za]
  have cb : ix_cs (ix_nwO ha 9 2) = ix_cs h := ca
  rw [rX7_init N (d + 4)]
  unfold bX7_init
  rw [hw_bO, hw_sz, za, c_isr tb (by decide)]
  rw [za] at gb
  generalize ix_nwO ha 9 2 = hb at tb tb2 gb zb cb ⊢
  generalize hw_R Fa (ix_sz h + 1) (fun _ => 0) = Fb at gb ⊢
  obtain ⟨hc, Fc, ec, ehc, f1, f2, f3⟩ := k_rndI (F := Fb) (A := A) tb (by omega) N d (nI 1)
  rw [zb, cb] at ehc
  rw [zb] at f1 f3
  have gc : gN h F A hc Fc A (0 + 1 + 1 + 1) := by
    have := ((gb.nwO 18 (n := 3) (by omega)).wfR (a := ix_sz h + 2) (by omega) 1 (some (ix_cs h 40))).wfR (a := ix_sz h + 1) (by omega) 0 (some (ix_sz h + 2))
    rw [← ehc] at this
    obtain ⟨y1, y2, y3, y4, y5⟩ := this
    refine ⟨y1, y2, y3, y4, fun b hb => ?_⟩
    obtain ⟨c1, c2, c3, c4, c5, c6, c7, c8⟩ := y5 b hb
    refine ⟨c1, c2, c3, c4, c5, c6, c7, fun p q => ?_⟩
    rw [f1 b (by omega) (by omega)]
    exact gN.f gb hb
  have tc : ix_tg hc (ix_sz h) = 8 := by
    rw [ehc]
    show ix_tg (ix_nwO hb 18 3) (ix_sz h) = 8
    rw [s_tgO' _ _ _ (by omega)]
    exact tb2
  have tc1 : ix_tg hc (ix_sz h + 1) = 9 := by
    rw [ehc]
    show ix_tg (ix_nwO hb 18 3) (ix_sz h + 1) = 9
    rw [s_tgO' _ _ _ (by omega)]
    exact tb
  have tc2 : ix_tg hc (ix_sz h + 2) = 18 := by
    rw [ehc, ← zb]
    exact s_tgO hb 18 3
  have rc1 : ix_fR hc (ix_sz h + 1) 0 = some (ix_sz h + 2) := by
    rw [ehc]
    exact s_fRf _ _ _ _
  have rc2 : ix_fR hc (ix_sz h + 2) 1 = some (ix_cs h 40) := by
    rw [ehc, s_fRf' _ _ _ _ (fun q => absurd q.2 (by decide)), s_fRf]
  have zc : ix_sz hc = ix_sz h + 3 := by
    rw [ehc]
    show ix_sz hb + 1 = _
    omega
  have cc : ix_cs hc = ix_cs h := gc.2.2.2.1
  rw [hw_cV ec]
  clear ehc ec
  have td : ix_tg (ix_wfR hc (ix_sz h) 0 (some (ix_sz h + 1))) (ix_sz h) = 8 := tc
  rw [c_is tc, hw_bfR, c_is td, hw_bdF, c_is td, hw_bdF, c_is td, hw_bdF]
  simp only [hw_R_R, hw_R_same]
  refine ⟨_, _, rfl, ?_⟩
  have gd := (gc.wfR (a := ix_sz h) (Nat.le_refl _) 0 (some (ix_sz h + 1))).fR (a := ix_sz h) (.inl (Nat.le_refl _)) (hw_U (hw_U (hw_U (Fc (ix_sz h)) 1 (nI 3)) 2 (nI 6)) 3 (nI 2))
  have td1 : ix_tg (ix_wfR hc (ix_sz h) 0 (some (ix_sz h + 1))) (ix_sz h + 1) = 9 := tc1
  have td2 : ix_tg (ix_wfR hc (ix_sz h) 0 (some (ix_sz h + 1))) (ix_sz h + 2) = 18 := tc2
  have rd0 : ix_fR (ix_wfR hc (ix_sz h) 0 (some (ix_sz h + 1))) (ix_sz h) 0 = some (ix_sz h + 1) := s_fRf _ _ _ _
  have rd1 : ix_fR (ix_wfR hc (ix_sz h) 0 (some (ix_sz h + 1))) (ix_sz h + 1) 0 = some (ix_sz h + 2) := by rw [s_fRf' _ _ _ _ (fun q => by omega)]; exact rc1
  have rd2 : ix_fR (ix_wfR hc (ix_sz h) 0 (some (ix_sz h + 1))) (ix_sz h + 2) 1 = some (ix_cs h 40) := by rw [s_fRf' _ _ _ _ (fun q => by omega)]; exact rc2
  have zd : ix_sz (ix_wfR hc (ix_sz h) 0 (some (ix_sz h + 1))) = ix_sz h + 3 := zc
  have cd : ix_cs (ix_wfR hc (ix_sz h) 0 (some (ix_sz h + 1))) = ix_cs h := cc
  have e0 : ∀ i, hw_R Fc (ix_sz h) (hw_U (hw_U (hw_U (Fc (ix_sz h)) 1 (nI 3)) 2 (nI 6)) 3 (nI 2)) (ix_sz h) i = hw_U (hw_U (hw_U (Fc (ix_sz h)) 1 (nI 3)) 2 (nI 6)) 3 (nI 2) i := fun i => by rw [hw_R_same]
  have v1 : hw_R Fc (ix_sz h) (hw_U (hw_U (hw_U (Fc (ix_sz h)) 1 (nI 3)) 2 (nI 6)) 3 (nI 2)) (ix_sz h) 1 = nI 3 := by rw [e0, hw_U_ne _ _ (by omega), hw_U_ne _ _ (by omega), hw_U_same]
  have v2 : hw_R Fc (ix_sz h) (hw_U (hw_U (hw_U (Fc (ix_sz h)) 1 (nI 3)) 2 (nI 6)) 3 (nI 2)) (ix_sz h) 2 = nI 6 := by rw [e0, hw_U_ne _ _ (by omega), hw_U_same]
  have v3 : hw_R Fc (ix_sz h) (hw_U (hw_U (hw_U (Fc (ix_sz h)) 1 (nI 3)) 2 (nI 6)) 3 (nI 2)) (ix_sz h) 3 = nI 2 := by rw [e0, hw_U_same]
  have v4 : hw_R Fc (ix_sz h) (hw_U (hw_U (hw_U (Fc (ix_sz h)) 1 (nI 3)) 2 (nI 6)) 3 (nI 2)) (ix_sz h + 1) 1 = nI 1 := by rw [hw_R_ne _ _ (by omega)]; exact f2
  have v5 : hw_R Fc (ix_sz h) (hw_U (hw_U (hw_U (Fc (ix_sz h)) 1 (nI 3)) 2 (nI 6)) 3 (nI 2)) (ix_sz h + 2) 2 = nI 0 := by rw [hw_R_ne _ _ (by omega)]; exact f3
  generalize ix_wfR hc (ix_sz h) 0 (some (ix_sz h + 1)) = h1 at gd td td1 td2 rd0 rd1 rd2 zd cd ⊢
  generalize hw_R Fc (ix_sz h) (hw_U (hw_U (hw_U (Fc (ix_sz h)) 1 (nI 3)) 2 (nI 6)) 3 (nI 2)) = F1 at gd v1 v2 v3 v4 v5 ⊢
  have gd' : gN h F A h1 F1 A 3 := gd
  have fr : ∀ b i, ix_sz h ≤ b → ix_fR (ix_wfR h1 (D 3) 2 (some (ix_sz h))) b i = ix_fR h1 b i := fun b i hb => s_fRf' _ _ _ _ (fun q => by omega)
  have fF : ∀ b, ix_sz h ≤ b → hw_R F1 (D 3) (hw_U (hw_U (hw_U (hw_U (F1 (D 3)) 3 (nI 0)) 4 (nI 0)) 5 (nI 0)) 6 (nI 0)) b = F1 b := fun b hb => hw_R_ne _ _ (by omega)
  have hs1 := hs.gO gd'
  have hC1 := (hC.gO hs (gd'.o D)).txt (some (ix_sz h))
  refine ⟨⟨hs1.txt _, hC1.fR (fun j hj => hC1.2.1 j hj |>.2.2.2.1 3 (by omega)) _, hK, ⟨Nat.zero_le _, Nat.zero_le _, fun j hj => absurd hj (Nat.not_lt_zero j)⟩, ?_, ?_, ?_, ?_⟩, ((gd'.o D).pre (D 3) 2 (some (ix_sz h))).fR (.inr (.inr rfl)) _, ⟨Nat.le_refl _, by show _ < ix_sz h1; omega, Nat.le_succ _, by show _ < ix_sz h1; omega, by show ix_sz h ≤ _; omega, by show _ < ix_sz h1; omega⟩, ⟨td, by rw [fr _ _ (by omega)]; exact rd0, by rw [fF _ (by omega)]; exact v1, by rw [fF _ (by omega)]; exact v2, by rw [fF _ (by omega)]; exact v3⟩, ⟨td1, by rw [fr _ _ (by omega)]; exact rd1, by rw [fF _ (by omega)]; exact v4⟩, ⟨td2, by rw [fr _ _ (by omega)]; show ix_fR h1 _ 1 = some (ix_cs h1 40); rw [cd]; exact rd2, by rw [fF _ (by omega)]; exact v5⟩, s_fRf _ _ _ _⟩
  · rw [hw_R_same, hw_U_ne _ _ (by omega), hw_U_ne _ _ (by omega), hw_U_ne _ _ (by omega), hw_U_same]
  · rw [hw_R_same, hw_U_ne _ _ (by omega), hw_U_ne _ _ (by omega), hw_U_same]
  · rw [hw_R_same, hw_U_ne _ _ (by omega), hw_U_same]
  · show hw_R F1 (D 3) _ (D 3) 6 = nI 0
    rw [hw_R_same, hw_U_same]
end
