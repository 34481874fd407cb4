/-! KZ4: the component: its constructor, up to the store's beginning -/
set_option maxRecDepth 100000
section
variable {o : Nat} {h h' h2 : ix_H} {F A F' A' F2 A2 : Nat → Nat → Int32} {k c N T n : Nat}
/-- what the constructor lays on behind cell S, for object o -/
def vX (o S : Nat) (h : ix_H) (F : Nat → Nat → Int32) (cs : Nat → Nat) : Prop :=
  (ix_tg h o = 1 ∧ ix_fR h o 0 = some S ∧ ix_fR h o 1 = some (S + 1) ∧ ix_fR h o 2 = some (S + 8) ∧ ix_fR h o 5 = some (S + 9) ∧ ix_fR h o 6 = some (S + 27) ∧ ix_fR h o 7 = some (S + 45) ∧ ix_fR h o 8 = some (S + 100) ∧ ix_fR h o 9 = some (S + 103) ∧ ix_fR h o 10 = some (S + 104) ∧ ix_fR h o 11 = some (S + 105) ∧ ix_fR h o 12 = some (S + 106) ∧ ix_fR h o 13 = some (S + 107)) ∧
  ix_tg h S = 2 ∧
  (ix_tg h (S + 1) = 3 ∧ (ix_fR h (S + 1) 0 = some (S + 2) ∧ ix_fR h (S + 1) 1 = some (S + 3) ∧ ix_fR h (S + 1) 3 = some (S + 4) ∧ ix_fR h (S + 1) 4 = some (S + 5) ∧ ix_fR h (S + 1) 5 = some (S + 6) ∧ ix_fR h (S + 1) 6 = some (S + 7)) ∧ (ix_tg h (S + 2) = 114 ∧ ix_ln h (S + 2) = 18 ∧ ∀ i, i < 18 → ix_aR h (S + 2) i = some (cs (k_kw i))) ∧ (ix_tg h (S + 3) = 102 ∧ ix_ln h (S + 3) = 2000) ∧ (ix_tg h (S + 4) = 102 ∧ ix_ln h (S + 4) = 2001) ∧ (ix_tg h (S + 5) = 103 ∧ ix_ln h (S + 5) = 2001) ∧ (ix_tg h (S + 6) = 103 ∧ ix_ln h (S + 6) = 2001) ∧ (ix_tg h (S + 7) = 103 ∧ ix_ln h (S + 7) = 2001)) ∧
  (ix_tg h (S + 8) = 4 ∧ ix_fR h (S + 8) 0 = some (S + 1) ∧ ix_fR h (S + 8) 1 = some S) ∧
  (cS h (vL (S + 9) (S + 9 + 1)) 0 ∧ cS h (vL (S + 27) (S + 27 + 1)) 0 ∧ cS h (vL (S + 46) (S + 46 + 1)) 0 ∧ cS h (vL (S + 64) (S + 64 + 1)) 0 ∧ cS h (vL (S + 82) (S + 82 + 1)) 0) ∧
  (ix_tg h (S + 45) = 113 ∧ ix_ln h (S + 45) = 3 ∧ ix_aR h (S + 45) 0 = some (S + 46) ∧ ix_aR h (S + 45) 1 = some (S + 64) ∧ ix_aR h (S + 45) 2 = some (S + 82)) ∧
  cR h (S + 100) (S + 101) (S + 102) ∧ (ix_tg h (S + 103) = 105 ∧ ix_ln h (S + 103) = 3) ∧ (∀ j, j < 4 → ix_tg h (S + 104 + j) = 101 ∧ ix_ln h (S + 104 + j) = 1000) ∧
  (ix_tg h (S + 108) = 8 ∧ F (S + 108) 1 = nI 3 ∧ F (S + 108) 2 = nI 6 ∧ F (S + 108) 3 = nI 2) ∧ F (S + 9) = fun _ => 0
theorem v_nwS (hn : n < 1000001) (t : Nat) (f : ix_H → ix_O) : (cond (ix_in (nI n) 1000001) (ix_bd (ix_nwA (hw h F A) t (nI n).toNatClampNeg) f) none) = f (hw (ix_nwA h t n) F (hw_R A (ix_sz h) (fun _ => 0))) := by
  rw [hw_in hn (by omega), cond_true, hw_bA, hw_cl (by omega)]
theorem v_x0 (ht : ix_tg h o = 1) {S : Nat} (hS : ix_sz h = S) (ho : o < S) (hl : ∀ i, i < 18 → ix_tg h (ix_cs h (k_kw i)) = 531 ∧ ix_cs h (k_kw i) < S) (hz : S + 9000 < 1099511627776) (hN : 10 ≤ N) (hn : 5 ≤ n) (K : ix_K) : ∃ h' F' A', bX0_init (ix_run iy_P N n) K o (hw h F A) = ((ix_isr (hw h' F' A') 5 (some (S + 9))).bind fun a74 => (ix_rV (ix_run iy_P N n 172 [ix_R (some a74), ix_R (some (S + 108))] (hw h' F' A'))).bind fun r73 => some (.inl none, r73)) ∧ gV o h F A h' F' A' 111 36226 ∧ F' o = hw_U (F o) 3 (-1) ∧ vX o S h' F' (ix_cs h) := by
  have ho0 : o < ix_sz h := by rw [hS]; exact ho
  unfold bX0_init
  -- the fault
  obtain ⟨a1, F1, e1, g1, t1⟩ := v_fltN (h := h) (F := F) (A := A) (n := n) (by omega) N
  rw [e1, hw_sz]
  obtain ⟨g1o, f1, k1, m1, v1⟩ := g1.sub ho0 0 (some (ix_sz h))
  have o1 : ix_tg a1 o = 1 := (g1o.2.2.2 o ho0).1.trans ht
  rw [c_is o1, hw_bfR]
  have t1' : ix_tg (ix_wfR a1 o 0 (some (ix_sz h))) (ix_sz h) = 2 := t1
  have o1' : ix_tg (ix_wfR a1 o 0 (some (ix_sz h))) o = 1 := o1
  generalize ix_wfR a1 o 0 (some (ix_sz h)) = h1 at g1o f1 k1 v1 t1' o1' ⊢
  have y1 : ix_sz h1 = S + 1 := by rw [g1o.1, hS]
  have ho1 : o < ix_sz h1 := by rw [y1]; exact Nat.lt_succ_of_lt ho
  -- the tokens
  have to : ix_tg (ix_nwO h1 3 8) (ix_sz h1) = 3 := s_tgO h1 3 8
  have gt := gV.nw h1 F1 A 3 8
  have zt : ix_sz (ix_nwO h1 3 8) = ix_sz h1 + 1 := rfl
  have hlt : ∀ i, i < 18 → ix_tg (ix_nwO h1 3 8) (ix_cs (ix_nwO h1 3 8) (k_kw i)) = 531 ∧ ix_cs (ix_nwO h1 3 8) (k_kw i) < ix_sz (ix_nwO h1 3 8) := fun i hi => by
    obtain ⟨u1, u2⟩ := hl i hi
    have ec : ix_cs (ix_nwO h1 3 8) (k_kw i) = ix_cs h (k_kw i) := congrFun g1o.2.2.1 _
    have lt1 : ix_cs h (k_kw i) < ix_sz h1 := by rw [y1]; exact Nat.lt_succ_of_lt u2
    rw [ec]
    exact ⟨((gt.2.2.2 _ lt1).1.trans (g1o.2.2.2 _ (by rw [hS]; exact u2)).1).trans u1, by rw [zt]; exact Nat.lt_succ_of_lt lt1⟩
  rw [hw_bO, hw_sz, c_isr to (by decide)]
  obtain ⟨a2, A2, e2, g2, tf, tw, tt, ts, tr, tu, tv⟩ := v_tokIN (n := n) (by omega) (h := ix_nwO h1 3 8) (F := hw_R F1 (ix_sz h1) (fun _ => 0)) (A := A) to (by rw [zt]; exact Nat.lt_succ_self _) hlt N
  rw [hw_cV e2]
  obtain ⟨g2o, f2, k2, m2, v2⟩ := (gt.trans g2).sub ho1 1 (some (ix_sz h1))
  have o2 : ix_tg a2 o = 1 := (g2o.2.2.2 o ho1).1.trans o1'
  rw [c_is o2, hw_bfR]
  have o2' : ix_tg (ix_wfR a2 o 1 (some (ix_sz h1))) o = 1 := o2
  have eT2 : ix_tg (ix_wfR a2 o 1 (some (ix_sz h1))) = ix_tg a2 ∧ ix_ln (ix_wfR a2 o 1 (some (ix_sz h1))) = ix_ln a2 ∧ ix_aR (ix_wfR a2 o 1 (some (ix_sz h1))) = ix_aR a2 := ⟨rfl, rfl, rfl⟩
  have tk2 : ix_tg a2 (ix_sz h1) = 3 := (g2.2.2.2 _ (by rw [zt]; exact Nat.lt_succ_self _)).1.trans to
  generalize ix_wfR a2 o 1 (some (ix_sz h1)) = h2 at g2o f2 k2 v2 o2' eT2 ⊢
  generalize hw_R F1 (ix_sz h1) (fun _ => 0) = F2 at g2o m2 ⊢
  have y2 : ix_sz h2 = S + 8 := by rw [g2o.1, y1]
  have ho2 : o < ix_sz h2 := by rw [y2]; exact Nat.lt_of_lt_of_le ho (Nat.le_add_right _ _)
  -- the parser
  have tp : ix_tg (ix_nwO h2 4 8) (ix_sz h2) = 4 := s_tgO h2 4 8
  have op : ix_tg (ix_nwO h2 4 8) o = 1 := (s_tgO' _ _ _ (Nat.ne_of_lt ho2)).trans o2'
  have fp1 : ix_fR (ix_nwO h2 4 8) o 1 = some (ix_sz h1) := (s_fRO' _ _ _ _ (Nat.ne_of_lt ho2)).trans f2
  have fp0 : ix_fR (ix_nwO h2 4 8) o 0 = some (ix_sz h) := (s_fRO' _ _ _ _ (Nat.ne_of_lt ho2)).trans ((k2 0 (by decide)).trans f1)
  have tp2 : ∀ v, ix_tg (ix_wfR (ix_nwO h2 4 8) (ix_sz h2) 0 v) (ix_sz h2) = 4 := fun _ => tp
  have e3 : ix_run iy_P N n 148 [ix_R (some (ix_sz h2)), ix_R (some (ix_sz h1)), ix_R (some (ix_sz h))] (hw (ix_nwO h2 4 8) (hw_R F2 (ix_sz h2) (fun _ => 0)) A2) = some (.inl none, hw (ix_wfR (ix_wfR (ix_nwO h2 4 8) (ix_sz h2) 0 (some (ix_sz h1))) (ix_sz h2) 1 (some (ix_sz h))) (hw_R F2 (ix_sz h2) (fun _ => 0)) A2) := by
    obtain ⟨m, rfl⟩ : ∃ m, n = m + 1 := ⟨n - 1, by omega⟩
    rw [rX3_init N m]
    unfold bX3_init
    rw [c_is tp, hw_bfR, c_is (tp2 _), hw_bfR]
  rw [hw_bO, c_is op, c_is op, hw_sz, c_isr tp (by decide), hw_fR, fp1, fp0, hw_cV e3]
  have g3 : gV (ix_sz h2) h2 F2 A2 (ix_wfR (ix_wfR (ix_nwO h2 4 8) (ix_sz h2) 0 (some (ix_sz h1))) (ix_sz h2) 1 (some (ix_sz h))) (hw_R F2 (ix_sz h2) (fun _ => 0)) A2 1 8 := ((gV.nw h2 F2 A2 4 8).wf 0 _).wf 1 _
  have p0 : ix_fR (ix_wfR (ix_wfR (ix_nwO h2 4 8) (ix_sz h2) 0 (some (ix_sz h1))) (ix_sz h2) 1 (some (ix_sz h))) (ix_sz h2) 0 = some (ix_sz h1) := by rw [s_fRf' _ _ _ _ (fun q => absurd q.2 (by decide)), s_fRf]
  have p1 : ix_fR (ix_wfR (ix_wfR (ix_nwO h2 4 8) (ix_sz h2) 0 (some (ix_sz h1))) (ix_sz h2) 1 (some (ix_sz h))) (ix_sz h2) 1 = some (ix_sz h) := s_fRf _ _ _ _
  have pt : ix_tg (ix_wfR (ix_wfR (ix_nwO h2 4 8) (ix_sz h2) 0 (some (ix_sz h1))) (ix_sz h2) 1 (some (ix_sz h))) (ix_sz h2) = 4 := tp
  generalize ix_wfR (ix_wfR (ix_nwO h2 4 8) (ix_sz h2) 0 (some (ix_sz h1))) (ix_sz h2) 1 (some (ix_sz h)) = a3 at g3 p0 p1 pt ⊢
  obtain ⟨g3o, f3, k3, m3, v3⟩ := g3.sub ho2 2 (some (ix_sz h2))
  have o3 : ix_tg a3 o = 1 := (g3o.2.2.2 o ho2).1.trans o2'
  have o3' : ix_tg (ix_wfR a3 o 2 (some (ix_sz h2))) o = 1 := o3
  rw [c_is o3, hw_bfR, c_is o3', hw_bdF]
  have pt' : ix_tg (ix_wfR a3 o 2 (some (ix_sz h2))) (ix_sz h2) = 4 := pt
  generalize ix_wfR a3 o 2 (some (ix_sz h2)) = h3 at g3o f3 k3 v3 o3' pt' ⊢
  generalize hw_R F2 (ix_sz h2) (fun _ => 0) = G3 at g3o m3 ⊢
  have g3w : gV o h2 F2 A2 h3 (hw_R G3 o (hw_U (G3 o) 3 (-1))) A2 1 8 := by
    obtain ⟨b1, b2, b3, b4⟩ := g3o
    refine ⟨b1, b2, b3, fun b hb => ?_⟩
    obtain ⟨c1, c2, c3, c4, c5, c6, c7⟩ := b4 b hb
    exact ⟨c1, c2, c3, c4, c5, c6, fun w => ⟨(hw_R_ne _ _ w).trans (c7 w).1, (c7 w).2⟩⟩
  have y3 : ix_sz h3 = S + 9 := by rw [g3o.1, y2]
  have ho3 : o < ix_sz h3 := by rw [y3]; exact Nat.lt_of_lt_of_le ho (Nat.le_add_right _ _)
  have n3 : hw_R G3 o (hw_U (G3 o) 3 (-1)) o = hw_U (F o) 3 (-1) := by rw [hw_R_same, m3, m2, m1]
  generalize hw_R G3 o (hw_U (G3 o) 3 (-1)) = F3 at g3w n3 ⊢
  -- a store
  obtain ⟨a4, F4, A4, e4, g4, z4, s4⟩ := v_stoN (h := h3) (F := F3) (A := A2) (n := n) (by omega) (by rw [y3]; omega) hN
  rw [e4, hw_sz]
  obtain ⟨g4o, f4, k4, m4, v4⟩ := g4.sub ho3 5 (some (ix_sz h3))
  have o4 : ix_tg a4 o = 1 := (g4o.2.2.2 o ho3).1.trans o3'
  rw [c_is o4, hw_bfR]
  have o4' : ix_tg (ix_wfR a4 o 5 (some (ix_sz h3))) o = 1 := o4
  have s4' : cS (ix_wfR a4 o 5 (some (ix_sz h3))) (vL (ix_sz h3) (ix_sz h3 + 1)) 0 := s4.grow (fun q hq => ⟨rfl, rfl, v4 _ (Nat.ne_of_gt (Nat.lt_of_lt_of_le ho3 (vL_lo (Nat.lt_add_one (ix_sz h3)) (by rw [y3]; omega) hq).1)), rfl⟩) (Nat.le_refl _) (by show ix_sz a4 + 6000 < _; rw [g4.1, y3]; omega)
  generalize ix_wfR a4 o 5 (some (ix_sz h3)) = h4 at g4o f4 k4 v4 o4' s4' ⊢
  have y4 : ix_sz h4 = S + 27 := by rw [g4o.1, y3]
  have ho4 : o < ix_sz h4 := by rw [y4]; exact Nat.lt_of_lt_of_le ho (Nat.le_add_right _ _)
  -- a store
  obtain ⟨a5, F5, A5, e5, g5, z5, s5⟩ := v_stoN (h := h4) (F := F4) (A := A4) (n := n) (by omega) (by rw [y4]; omega) hN
  rw [e5, hw_sz]
  obtain ⟨g5o, f5, k5, m5, v5⟩ := g5.sub ho4 6 (some (ix_sz h4))
  have o5 : ix_tg a5 o = 1 := (g5o.2.2.2 o ho4).1.trans o4'
  rw [c_is o5, hw_bfR]
  have o5' : ix_tg (ix_wfR a5 o 6 (some (ix_sz h4))) o = 1 := o5
  have s5' : cS (ix_wfR a5 o 6 (some (ix_sz h4))) (vL (ix_sz h4) (ix_sz h4 + 1)) 0 := s5.grow (fun q hq => ⟨rfl, rfl, v5 _ (Nat.ne_of_gt (Nat.lt_of_lt_of_le ho4 (vL_lo (Nat.lt_add_one (ix_sz h4)) (by rw [y4]; omega) hq).1)), rfl⟩) (Nat.le_refl _) (by show ix_sz a5 + 6000 < _; rw [g5.1, y4]; omega)
  generalize ix_wfR a5 o 6 (some (ix_sz h4)) = h5 at g5o f5 k5 v5 o5' s5' ⊢
  have y5 : ix_sz h5 = S + 45 := by rw [g5o.1, y4]
  have ho5 : o < ix_sz h5 := by rw [y5]; exact Nat.lt_of_lt_of_le ho (Nat.le_add_right _ _)
  -- three stores in the slots' array
  have tq : ix_tg (ix_nwA h5 113 3) (ix_sz h5) = 113 := s_tgA h5 113 3
  have lq : ix_ln (ix_nwA h5 113 3) (ix_sz h5) = 3 := s_lnA h5 113 3
  have g6n : gV o h5 F5 A5 (ix_nwA h5 113 3) F5 (hw_R A5 (ix_sz h5) (fun _ => 0)) 1 3 := by
    refine ⟨rfl, rfl, rfl, fun b hb => ?_⟩
    have ne : b ≠ ix_sz h5 := Nat.ne_of_lt hb
    refine ⟨if_neg ne, if_neg ne, rfl, ?_, ?_, hw_R_ne _ _ ne, fun _ => ⟨rfl, rfl⟩⟩
    · funext i
      exact if_neg ne
    · funext i
      exact if_neg ne
  rw [v_nwS (by omega), hw_sz h5 F5 A5]
  obtain ⟨a6, F6, A6, e6, sl6, aq6, s60, s61, s62⟩ := v_slotsN (h := ix_nwA h5 113 3) (F := F5) (A := hw_R A5 (ix_sz h5) (fun _ => 0)) (n := n) (by omega) tq lq (S := S + 45 + 1) (by show ix_sz h5 + 1 = _; rw [y5]) (by rw [y5]; exact Nat.lt_succ_self _) (by omega) hN
  have g6 := v_slotsG (o := o) (q := ix_sz h5) (S := S + 45) y5 g6n y5 sl6
  have tq6 := (sl6.2.2.2 (ix_sz h5) (by rw [y5]; exact Nat.lt_succ_self _)).1.trans tq
  have lq6 := (sl6.2.2.2 (ix_sz h5) (by rw [y5]; exact Nat.lt_succ_self _)).2.1.trans lq
  have fo6 : ix_fR a6 o = ix_fR h5 o := (sl6.2.2.2 o (by rw [← y5]; exact Nat.lt_succ_of_lt ho5)).2.2.1
  have m6 : F6 o = F5 o := (sl6.2.2.2 o (by rw [← y5]; exact Nat.lt_succ_of_lt ho5)).2.2.2.2.2.2.1
  rw [e6]
  have o6 : ix_tg a6 o = 1 := (g6.2.2.2 o ho5).1.trans o5'
  rw [c_is o6, hw_bfR]
  have z6 := g6.1
  have g6o := g6.wf 7 (some (ix_sz h5))
  have f6 : ix_fR (ix_wfR a6 o 7 (some (ix_sz h5))) o 7 = some (ix_sz h5) := s_fRf _ _ _ _
  have k6 : ∀ i, i ≠ 7 → ix_fR (ix_wfR a6 o 7 (some (ix_sz h5))) o i = ix_fR h5 o i := fun i hi => by rw [s_fRf' _ _ _ _ (fun q => hi q.2), fo6]
  have v6 : ∀ b, b ≠ o → ix_fR (ix_wfR a6 o 7 (some (ix_sz h5))) b = ix_fR a6 b := fun b hb => by
    funext i
    exact s_fRf' _ _ _ _ (fun q => hb q.1)
  have st6 : ∀ x, o < x → x + 21 < 1099511627776 → cS a6 (vL x (x + 1)) 0 → cS (ix_wfR a6 o 7 (some (ix_sz h5))) (vL x (x + 1)) 0 := fun x hx hx2 st => st.grow (fun q hq => ⟨rfl, rfl, v6 _ (Nat.ne_of_gt (Nat.lt_of_lt_of_le hx (vL_lo (Nat.lt_add_one x) (by omega) hq).1)), rfl⟩) (Nat.le_refl _) (by show ix_sz a6 + 6000 < _; rw [z6, y5]; omega)
  have s60' := st6 _ (by omega) (by omega) s60
  have s61' := st6 _ (by omega) (by omega) s61
  have s62' := st6 _ (by omega) (by omega) s62
  have o6' : ix_tg (ix_wfR a6 o 7 (some (ix_sz h5))) o = 1 := o6
  have tq6' : ix_tg (ix_wfR a6 o 7 (some (ix_sz h5))) (ix_sz h5) = 113 := tq6
  have lq6' : ix_ln (ix_wfR a6 o 7 (some (ix_sz h5))) (ix_sz h5) = 3 := lq6
  have aq6' : ix_aR (ix_wfR a6 o 7 (some (ix_sz h5))) (ix_sz h5) 0 = some (S + 45 + 1) ∧ ix_aR (ix_wfR a6 o 7 (some (ix_sz h5))) (ix_sz h5) 1 = some (S + 45 + 1 + 18) ∧ ix_aR (ix_wfR a6 o 7 (some (ix_sz h5))) (ix_sz h5) 2 = some (S + 45 + 1 + 36) := aq6
  generalize ix_wfR a6 o 7 (some (ix_sz h5)) = h6 at g6o f6 k6 s60' s61' s62' o6' tq6' lq6' aq6' ⊢
  have y6 : ix_sz h6 = S + 100 := by rw [g6o.1, y5]
  have ho6 : o < ix_sz h6 := by rw [y6]; exact Nat.lt_of_lt_of_le ho (Nat.le_add_right _ _)
  -- the record
  rw [v_recSN (n := n) (by omega) o6' ho6]
  obtain ⟨g7o, f7, k7, c7⟩ := v_rec (h := h6) (F := F6) (A := A6) ho6 8
  have m7 : hw_R F6 (ix_sz h6) (fun _ => 0) o = F6 o := hw_R_ne _ _ (Nat.ne_of_lt ho6)
  have o7' : ix_tg (vR h6 o 8) o = 1 := (g7o.2.2.2 o ho6).1.trans o6'
  generalize vR h6 o 8 = h7 at g7o f7 k7 c7 o7' ⊢
  generalize hw_R F6 (ix_sz h6) (fun _ => 0) = F7 at g7o m7 ⊢
  generalize vRA h6 A6 = A7 at g7o ⊢
  have y7 : ix_sz h7 = S + 103 := by rw [g7o.1, y6]
  have ho7 : o < ix_sz h7 := by rw [y7]; exact Nat.lt_of_lt_of_le ho (Nat.le_add_right _ _)
  rw [v_arrS o7' ho7 (by omega)]
  obtain ⟨g8o, f8, k8, t8, l8, -⟩ := v_arr (h := h7) (F := F7) (A := A7) ho7 105 3 9
  have o8' : ix_tg (vA h7 o 105 3 9) o = 1 := (g8o.2.2.2 o ho7).1.trans o7'
  generalize vA h7 o 105 3 9 = h8 at g8o f8 k8 t8 l8 o8' ⊢
  generalize hw_R A7 (ix_sz h7) (fun _ => 0) = A8 at g8o ⊢
  have y8 : ix_sz h8 = S + 104 := by rw [g8o.1, y7]
  have ho8 : o < ix_sz h8 := by rw [y8]; exact Nat.lt_of_lt_of_le ho (Nat.le_add_right _ _)
  rw [v_arrS o8' ho8 (by omega)]
  obtain ⟨g9o, f9, k9, t9, l9, -⟩ := v_arr (h := h8) (F := F7) (A := A8) ho8 101 1000 10
  have o9' : ix_tg (vA h8 o 101 1000 10) o = 1 := (g9o.2.2.2 o ho8).1.trans o8'
  generalize vA h8 o 101 1000 10 = h9 at g9o f9 k9 t9 l9 o9' ⊢
  generalize hw_R A8 (ix_sz h8) (fun _ => 0) = A9 at g9o ⊢
  have y9 : ix_sz h9 = S + 105 := by rw [g9o.1, y8]
  have ho9 : o < ix_sz h9 := by rw [y9]; exact Nat.lt_of_lt_of_le ho (Nat.le_add_right _ _)
  rw [v_arrS o9' ho9 (by omega)]
  obtain ⟨g10o, f10, k10, t10, l10, -⟩ := v_arr (h := h9) (F := F7) (A := A9) ho9 101 1000 11
  have o10' : ix_tg (vA h9 o 101 1000 11) o = 1 := (g10o.2.2.2 o ho9).1.trans o9'
  generalize vA h9 o 101 1000 11 = h10 at g10o f10 k10 t10 l10 o10' ⊢
  generalize hw_R A9 (ix_sz h9) (fun _ => 0) = A10 at g10o ⊢
  have y10 : ix_sz h10 = S + 106 := by rw [g10o.1, y9]
  have ho10 : o < ix_sz h10 := by rw [y10]; exact Nat.lt_of_lt_of_le ho (Nat.le_add_right _ _)
  rw [v_arrS o10' ho10 (by omega)]
  obtain ⟨g11o, f11, k11, t11, l11, -⟩ := v_arr (h := h10) (F := F7) (A := A10) ho10 101 1000 12
  have o11' : ix_tg (vA h10 o 101 1000 12) o = 1 := (g11o.2.2.2 o ho10).1.trans o10'
  generalize vA h10 o 101 1000 12 = h11 at g11o f11 k11 t11 l11 o11' ⊢
  generalize hw_R A10 (ix_sz h10) (fun _ => 0) = A11 at g11o ⊢
  have y11 : ix_sz h11 = S + 107 := by rw [g11o.1, y10]
  have ho11 : o < ix_sz h11 := by rw [y11]; exact Nat.lt_of_lt_of_le ho (Nat.le_add_right _ _)
  rw [v_arrS o11' ho11 (by omega)]
  obtain ⟨g12o, f12, k12, t12, l12, -⟩ := v_arr (h := h11) (F := F7) (A := A11) ho11 101 1000 13
  have o12' : ix_tg (vA h11 o 101 1000 13) o = 1 := (g12o.2.2.2 o ho11).1.trans o11'
  generalize vA h11 o 101 1000 13 = h12 at g12o f12 k12 t12 l12 o12' ⊢
  generalize hw_R A11 (ix_sz h11) (fun _ => 0) = A12 at g12o ⊢
  have y12 : ix_sz h12 = S + 108 := by rw [g12o.1, y11]
  have ho12 : o < ix_sz h12 := by rw [y12]; exact Nat.lt_of_lt_of_le ho (Nat.le_add_right _ _)
  -- a text
  obtain ⟨h13, F13, e13, g13, t13, x1, x2, x3⟩ := v_txtN (h := h12) (F := F7) (A := A12) (n := n) (by omega) N
  have f5o : ix_fR h12 o 5 = some (S + 9) := by rw [k12 5 (by decide), k11 5 (by decide), k10 5 (by decide), k9 5 (by decide), k8 5 (by decide), k7 5 (by decide), k6 5 (by decide), k5 5 (by decide), f4, y3]
  rw [c_is o12', e13, hw_sz, hw_fR, f5o, y12]
  obtain ⟨w12, w12o⟩ := g13.old o
  have w12o := w12o ho12
  have w11 := g12o.trans w12
  have w10 := g11o.trans w11
  have w9 := g10o.trans w10
  have w8 := g9o.trans w9
  have w7 := g8o.trans w8
  have w6 := g7o.trans w7
  have w5 := g6o.trans w6
  have w4 := g5o.trans w5
  have w3 := g4o.trans w4
  have w2 := g3w.trans w3
  have w1 := g2o.trans w2
  have w0 := g1o.trans w1
  have nS : S ≠ o := Nat.ne_of_gt ho
  have nS' : ∀ j, S + j ≠ o := fun j => Nat.ne_of_gt (Nat.lt_of_lt_of_le ho (Nat.le_add_right _ _))
  have lt : ∀ {i j : Nat}, i < j → S + i < S + j := fun h => Nat.add_lt_add_left h S
  rw [hS] at t1' f1 p1
  have yt : ix_sz (ix_nwO h1 3 8) = S + 2 := by rw [zt, y1]
  have ct : ix_cs (ix_nwO h1 3 8) = ix_cs h := g1o.2.2.1
  rw [yt] at tf tw tt ts tr tu tv
  rw [ct] at tw
  rw [y1] at f2 p0 tf tk2
  rw [y2] at f3 p0 p1 pt'
  rw [y3] at f4 s4' z4
  rw [y4] at f5 s5'
  rw [y5] at f6 tq6' lq6' aq6'
  rw [y6] at f7 c7
  rw [y7] at f8 t8 l8
  rw [y8] at f9 t9 l9
  rw [y9] at f10 t10 l10
  rw [y10] at f11 t11 l11
  rw [y11] at f12 t12 l12
  rw [y12] at t13 x1 x2 x3
  have r2 : ∀ j, j < 8 → ix_tg h13 (S + j) = ix_tg a2 (S + j) ∧ ix_ln h13 (S + j) = ix_ln a2 (S + j) ∧ ix_fR h13 (S + j) = ix_fR a2 (S + j) ∧ ix_aR h13 (S + j) = ix_aR a2 (S + j) := fun j hj => by
    obtain ⟨c1, c2, c3, c4, -, -⟩ := w2.row (b := S + j) (by rw [y2]; exact lt hj) (nS' j)
    rw [c1, c2, c3, c4, eT2.1, eT2.2.1, eT2.2.2, v2 _ (nS' j)]
    exact ⟨rfl, rfl, rfl, rfl⟩
  refine ⟨h13, F13, A12, rfl, w0, ?_, ?_⟩
  · rw [w12o.2, m7, m6, m5, m4, n3]
  · have e5 : ∀ {M : Nat → Nat} {ha : ix_H} {Fa Aa : Nat → Nat → Int32} {k c : Nat}, cS ha M 0 → gV o ha Fa Aa h13 F13 A12 k c → (∀ j, j < 18 + 3 * 0 → M j ≠ o) → cS h13 M 0 := fun st g hm => st.gV g hm (by rw [w0.1, hS]; omega)
    have nv : ∀ x, o < x → x + 21 < 1099511627776 → ∀ j, j < 18 + 3 * 0 → vL x (x + 1) j ≠ o := fun x hx hx2 j hj => Nat.ne_of_gt (Nat.lt_of_lt_of_le hx (vL_lo (Nat.lt_add_one x) (by omega) hj).1)
    have ox : ∀ j, o < S + j := fun j => Nat.lt_of_lt_of_le ho (Nat.le_add_right _ _)
    have rw_ : ∀ {ha : ix_H} {Fa Aa : Nat → Nat → Int32} {k c i j : Nat}, gV o ha Fa Aa h13 F13 A12 k c → ix_sz ha = S + i → j < i → ix_tg h13 (S + j) = ix_tg ha (S + j) ∧ ix_ln h13 (S + j) = ix_ln ha (S + j) ∧ ix_fR h13 (S + j) = ix_fR ha (S + j) ∧ ix_aR h13 (S + j) = ix_aR ha (S + j) ∧ F13 (S + j) = Fa (S + j) := fun {ha Fa Aa k c i j} g y h => by
      obtain ⟨c1, c2, c3, c4, c5, -⟩ := g.row (b := S + j) (by rw [y]; exact lt h) (nS' j)
      exact ⟨c1, c2, c3, c4, c5⟩
    have q0 := rw_ w1 y1 (j := 0) (by decide)
    have q8 := rw_ w3 y3 (j := 8) (by decide)
    have q45 := rw_ w6 y6 (j := 45) (by decide)
    refine ⟨⟨(w12.2.2.2 o ho12).1.trans o12', ?_, ?_, ?_, ?_, ?_, ?_, ?_, ?_, ?_, ?_, ?_, ?_⟩, q0.1.trans t1', ?_, ?_, ?_, ?_, ?_, ?_, ?_, ?_, ?_⟩
    · rw [w12o.1, k12 0 (by decide), k11 0 (by decide), k10 0 (by decide), k9 0 (by decide), k8 0 (by decide), k7 0 (by decide), k6 0 (by decide), k5 0 (by decide), k4 0 (by decide), k3 0 (by decide), k2 0 (by decide), f1]
    · rw [w12o.1, k12 1 (by decide), k11 1 (by decide), k10 1 (by decide), k9 1 (by decide), k8 1 (by decide), k7 1 (by decide), k6 1 (by decide), k5 1 (by decide), k4 1 (by decide), k3 1 (by decide), f2]
    · rw [w12o.1, k12 2 (by decide), k11 2 (by decide), k10 2 (by decide), k9 2 (by decide), k8 2 (by decide), k7 2 (by decide), k6 2 (by decide), k5 2 (by decide), k4 2 (by decide), f3]
    · rw [w12o.1, k12 5 (by decide), k11 5 (by decide), k10 5 (by decide), k9 5 (by decide), k8 5 (by decide), k7 5 (by decide), k6 5 (by decide), k5 5 (by decide), f4]
    · rw [w12o.1, k12 6 (by decide), k11 6 (by decide), k10 6 (by decide), k9 6 (by decide), k8 6 (by decide), k7 6 (by decide), k6 6 (by decide), f5]
    · rw [w12o.1, k12 7 (by decide), k11 7 (by decide), k10 7 (by decide), k9 7 (by decide), k8 7 (by decide), k7 7 (by decide), f6]
    · rw [w12o.1, k12 8 (by decide), k11 8 (by decide), k10 8 (by decide), k9 8 (by decide), k8 8 (by decide), f7]
    · rw [w12o.1, k12 9 (by decide), k11 9 (by decide), k10 9 (by decide), k9 9 (by decide), f8]
    · rw [w12o.1, k12 10 (by decide), k11 10 (by decide), k10 10 (by decide), f9]
    · rw [w12o.1, k12 11 (by decide), k11 11 (by decide), f10]
    · rw [w12o.1, k12 12 (by decide), f11]
    · rw [w12o.1, f12]
    · have r := fun j (hj : j < 8) => r2 j hj
      refine ⟨(r 1 (by decide)).1.trans tk2, ?_, ?_, ?_, ?_, ?_, ?_, ?_⟩
      · rw [(r 1 (by decide)).2.2.1]
        exact tf
      · rw [(r 2 (by decide)).1, (r 2 (by decide)).2.1, (r 2 (by decide)).2.2.2]
        exact tw
      · rw [(r 3 (by decide)).1, (r 3 (by decide)).2.1]
        exact tt
      · rw [(r 4 (by decide)).1, (r 4 (by decide)).2.1]
        exact ts
      · rw [(r 5 (by decide)).1, (r 5 (by decide)).2.1]
        exact tr
      · rw [(r 6 (by decide)).1, (r 6 (by decide)).2.1]
        exact tu
      · rw [(r 7 (by decide)).1, (r 7 (by decide)).2.1]
        exact tv
    · rw [q8.1, q8.2.2.1, v3 _ (nS' 8)]
      exact ⟨pt', p0, p1⟩
    · exact ⟨e5 s4' w4 (nv _ (ox 9) (by omega)), e5 s5' w5 (nv _ (ox 27) (by omega)), e5 s60' w6 (nv _ (ox 46) (by omega)), e5 s61' w6 (nv _ (ox 64) (by omega)), e5 s62' w6 (nv _ (ox 82) (by omega))⟩
    · rw [q45.1, q45.2.1, q45.2.2.2.1]
      exact ⟨tq6', lq6', aq6'⟩
    · have a0 := rw_ w7 y7 (j := 100) (by decide)
      have a1 := rw_ w7 y7 (j := 101) (by decide)
      have a2 := rw_ w7 y7 (j := 102) (by decide)
      unfold cR
      rw [a0.1, a0.2.2.1, a1.1, a2.1, a1.2.1, a2.2.1]
      exact c7
    · have a0 := rw_ w8 y8 (j := 103) (by decide)
      exact ⟨a0.1.trans t8, a0.2.1.trans l8⟩
    · intro j hj
      match j, hj with
      | 0, _ => exact ⟨(rw_ w9 y9 (j := 104) (by decide)).1.trans t9, (rw_ w9 y9 (j := 104) (by decide)).2.1.trans l9⟩
      | 1, _ => exact ⟨(rw_ w10 y10 (j := 105) (by decide)).1.trans t10, (rw_ w10 y10 (j := 105) (by decide)).2.1.trans l10⟩
      | 2, _ => exact ⟨(rw_ w11 y11 (j := 106) (by decide)).1.trans t11, (rw_ w11 y11 (j := 106) (by decide)).2.1.trans l11⟩
      | 3, _ => exact ⟨(rw_ w12 y12 (j := 107) (by decide)).1.trans t12, (rw_ w12 y12 (j := 107) (by decide)).2.1.trans l12⟩
    · exact ⟨t13, x1, x2, x3⟩
    · rw [(rw_ w4 y4 (j := 9) (by decide)).2.2.2.2]
      exact z4
end
