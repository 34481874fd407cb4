/-! KI: the component: rounds, all tells -/
set_option maxRecDepth 100000
def gRo (D cv : Nat → Nat) (tk : Nat → tK) (e wi : Nat) (h0 : ix_H) (F0 A0 : Nat → Nat → Int32) (t : Nat) (out : ix_O) (d : Nat) (r : xR ((Int32 × List (xT d)) × Option Nat)) : Prop := match r with
  | .inl a => gFl D h0 F0 A0 tk t a 56 out
  | .inr a => t + 2 ≤ a.2 ∧ ∃ h' F' A' x k, out = some (.inl (some (ix_R (some x))), hw h' F' A') ∧ gT h' F' A' D cv tk e a.2 0 wi a.1.2 ∧ k + 100 ≤ 80 * (a.2 - t) ∧ gO D h0 F0 A0 h' F' A' k ∧ gTr h' F' (rg (ix_sz h0) (ix_sz h')) (d + 1) (.inr a.1.1) x
def tWk (D cv : Nat → Nat) (tk : Nat → tK) (e wi : Nat) (N n d : Nat) : Prop := ∀ h F A t w, gT h F A D cv tk e t 0 wi w → gTo D cv tk e wi h F A t (ix_run iy_P N n 161 [ix_R (some (D 3))] (hw h F A)) d (x_told tk d t w)
section
variable {h : ix_H} {F A : Nat → Nat → Int32} {D cv : Nat → Nat} {tk : Nat → tK} {e t op wi N : Nat} {w : Option Nat}
theorem k_roundsL {d m : Nat} (hN : 1000 ≤ N) (hT : tWk D cv tk e (wi + 1) N (m + 8) d) {h0 : ix_H} {F0 A0 : Nat → Nat → Int32} {t0 ro ls : Nat} {n : Int32} (hD : ∀ j, j < 19 → D j < ix_sz h0) (hM : kM (ix_cs h0) D cv (ix_sz h0)) : ∀ z0 t h F A w (l : List (xT d)) z k, 401 ≤ z0 + t → 402 ≤ z + t → t0 + 2 ≤ t → gI D cv tk e (wi + 1) h0 F0 A0 d h F A t w ro ls n l k → k + 200 ≤ 80 * (t - t0) →
    gRo D cv tk e wi h0 F0 A0 t0 (ix_lp (ix_run iy_P N (m + 8)) stX3_rounds z 27 [(0, ix_R (some (D 3))), (1, ix_R (some ro))] [] (hw h F A)) d (x_bd (x_until tk (x_told tk d) 29 z0 t w l) fun l' t4 => x_bd (x_pas t4) fun _ t5 => .inr (((n, l'.1), l'.2), t5))
  | 0, t, h, F, A, w, l, z, k, h1, h2, ht, I, hk => by
    have := I.1.2.2.2.1.2.1
    omega
  | z0 + 1, t, h, F, A, w, l, z, k, h1, h2, ht, I, hk => by
    have T := I.1
    have hs := T.1
    have t4 := T.2.2.2.1.2.1
    obtain ⟨z, rfl⟩ : ∃ y, z = y + 1 := ⟨z - 1, by omega⟩
    have eq1 : x_until tk (x_told tk d) 29 (z0 + 1) t w l = if x_kd tk t = 29 then .inr ((l, w), t) else x_bd (x_told tk d t w) fun a t1 => x_until tk (x_told tk d) 29 z0 t1 a.2 (l ++ [a.1]) := rfl
    rw [lX3_rounds_27, eq1]
    unfold jX3_rounds_27
    rw [k_isr3 hs, show ix_cs (hw h F A) 12 = ix_cs h (k_kw 11) from rfl]
    rcases k_isTold T hN m (j := 11) (by omega) with ⟨c3, e1⟩ | ⟨c3, h1', F1, A1, e1, gn⟩
    · have ex : x_told tk d t w = .inl (1, t) := by
        have : (x_bd (x_one tk t w) fun l t1 => x_bd (x_must tk 4 t1) fun _ t2 => (.inr ((x_lfT d l.1, l.2), t2) : xR (xT d × Option Nat))) = .inl (1, t) := by
          rw [x_one_act (by omega) (by omega) (by omega) (by omega) (by omega), x_act_no (by omega) (by omega)]
          rfl
        cases d with
        | zero =>
          unfold x_told
          rw [if_neg (by omega)]
          exact this
        | succ d =>
          unfold x_told
          rw [if_neg (by omega)]
          exact this
      rw [e1, oF_xI, if_neg (by omega), ex]
      exact oF.fl I.2.1 (by omega) (by omega)
    · have I1 := I.ofN gn
      have T1 := I1.1
      rw [e1, ok_xI, show k_kk 11 = 29 from rfl]
      by_cases c29 : x_kd tk t = 29
      · rw [if_pos c29, if_pos c29, if_neg (by decide), k_isr3 T1.1, k_passE T1 N (m + 4)]
        show gRo D cv tk e wi h0 F0 A0 t0 _ d (x_bd (x_pas t) fun _ t5 => .inr (((n, l), w), t5))
        unfold x_pas
        by_cases c4 : t = 400
        · rw [if_pos c4, if_pos c4, oF_xV]
          exact oF.fl I1.2.1 (by omega) (by omega)
        · rw [if_neg c4, if_neg c4, ok_xV]
          have T2 := T1.pass (by omega) (by omega) (by omega)
          have T3 := T2.wth wi
          rw [k_is3 T1.1, k_is3 T1.1, hw_fI, T2.2.2.2.2.2.2.1, hw_sub (by omega), Nat.add_sub_cancel, hw_bdF]
          have g3 := (I1.2.1.fR (.inr (.inr rfl)) (hw_U (F1 (D 3)) 3 (nI (t + 1)))).fR (.inr (.inr rfl)) (hw_U (kPs F1 D (t + 1) (D 3)) 5 (nI wi))
          refine ⟨by show t0 + 2 ≤ t + 1; omega, h1', _, A1, ro, k + 4, rfl, T3, by show k + 4 + 100 ≤ 80 * (t + 1 - t0); omega, g3, ?_⟩
          refine I1.tree.of (fun b hb => ⟨hb, rfl, rfl, rfl, rfl, ?_⟩) rfl ⟨rfl, rfl⟩
          have d3 := hD 3 (by omega)
          have b1 := hb.1
          unfold kPs
          rw [hw_R_ne _ _ (by omega), hw_R_ne _ _ (by omega)]
      · obtain ⟨-, -, -, ⟨r1, r2, r3, r4, r5⟩, ⟨q1, q2⟩, ar, xs, gA0, -⟩ := I1
        have I1 := I.ofN gn
        rw [if_neg c29, if_neg c29, if_pos rfl, c_is r3, k_isr3 T1.1]
        have o := hT h1' F1 A1 t w T1
        rw [x_bd_as]
        generalize x_told tk d t w = r at o
        cases r with
        | inl a =>
          obtain ⟨o1, h', F', A', o2, o3, o4, o5⟩ := o
          refine ⟨by omega, h', F', A', ?_, o3, o4, (I1.2.1.trans o5).mono (by omega)⟩
          rw [o2]
          rfl
        | inr a =>
          obtain ⟨⟨x, w'⟩, t1⟩ := a
          obtain ⟨o1, h2', F2, A2, xx, k2, o2, T2, k2b, g2, gx⟩ := o
          have o1 : t + 2 ≤ t1 := o1
          have T2 : gT h2' F2 A2 D cv tk e t1 0 (wi + 1) w' := T2
          have k2b : k2 + 100 ≤ 80 * (t1 - t) := k2b
          obtain ⟨h3, F3, A3, e3, I3, -⟩ := gI.add I1 hD hM T2 o1 g2 gx N (m + 1)
          have tl2 : ix_tg h2' ls = 18 := by rw [(g2.2.2.2.2 ls q2).1]; exact gA0.1
          rw [o2, ok_xR, hw_fR, r4, c_isr tl2 (by decide), hw_cI e3]
          exact k_roundsL hN hT hD hM z0 t1 h3 F3 A3 w' _ z (k + 4 + k2 + 41) (by omega) (by omega) (by omega) I3 (by omega)
/-- a list is made for rounds -/
theorem k_rndI {a : Nat} (ht : ix_tg h a = 9) (ha : a < ix_sz h) (N d : Nat) (v : Int32) : ∃ h' F', ix_run iy_P N (d + 4) 226 [ix_R (some a), ix_I v] (hw h F A) = some (.inl none, hw h' F' A) ∧ h' = ix_wfR (ix_wfR (ix_nwO h 18 3) (ix_sz h) 1 (some (ix_cs h 40))) a 0 (some (ix_sz h)) ∧ (∀ b, b ≠ a → b ≠ ix_sz h → F' b = F b) ∧ F' a 1 = v ∧ F' (ix_sz h) 2 = nI 0 := by
  have tl : ix_tg (ix_nwO h 18 3) (ix_sz h) = 18 := s_tgO h 18 3
  have ta : ix_tg (ix_wfR (ix_nwO h 18 3) (ix_sz h) 1 (some (ix_cs h 40))) a = 9 := by
    show ix_tg (ix_nwO h 18 3) a = 9
    rw [s_tgO' _ _ _ (Nat.ne_of_lt ha)]
    exact ht
  have e3 : ∀ F1 : Nat → Nat → Int32, ix_run iy_P N (d + 1) 37 [ix_R (some (ix_sz h))] (hw (ix_nwO h 18 3) F1 A) = some (.inl none, hw (ix_nwO h 18 3) F1 A) := fun F1 => by
    rw [rJ3_init N d]
    rfl
  have e2 : ∀ F1 : Nat → Nat → Int32, ix_run iy_P N (d + 2) 38 [ix_R (some (ix_sz h))] (hw (ix_nwO h 18 3) F1 A) = some (.inl none, hw (ix_nwO h 18 3) (hw_R F1 (ix_sz h) (hw_U (F1 (ix_sz h)) 0 (nI 0))) A) := fun F1 => by
    rw [rJ4_init N (d + 1)]
    unfold bJ4_init
    rw [c_isr tl (by decide), hw_cV (e3 F1), c_is tl, hw_bdF]
  have e1 : ∀ F1 : Nat → Nat → Int32, ix_run iy_P N (d + 3) 39 [ix_R (some (ix_sz h))] (hw (ix_nwO h 18 3) F1 A) = some (.inl none, hw (ix_wfR (ix_nwO h 18 3) (ix_sz h) 1 (some (ix_cs h 40))) (hw_R F1 (ix_sz h) (hw_U (F1 (ix_sz h)) 0 (nI 0))) A) := fun F1 => by
    rw [rJ5_init N (d + 2)]
    unfold bJ5_init
    rw [c_isr tl (by decide), hw_cV (e2 F1), c_is tl, hw_bfR]
    rfl
  have ne : ix_sz h ≠ a := Nat.ne_of_gt ha
  refine ⟨ix_wfR (ix_wfR (ix_nwO h 18 3) (ix_sz h) 1 (some (ix_cs h 40))) a 0 (some (ix_sz h)), hw_R (hw_R (hw_R F (ix_sz h) (fun _ => 0)) (ix_sz h) (hw_U (hw_R F (ix_sz h) (fun _ => 0) (ix_sz h)) 0 (nI 0))) a (hw_U (hw_R (hw_R F (ix_sz h) (fun _ => 0)) (ix_sz h) (hw_U (hw_R F (ix_sz h) (fun _ => 0) (ix_sz h)) 0 (nI 0)) a) 1 v), ?_, rfl, fun b h1 h2 => ?_, ?_, ?_⟩
  · rw [rX8_init N (d + 3)]
    unfold bX8_init
    rw [hw_bO, hw_sz, c_isr tl (by decide), hw_cV (e1 _), c_is ta, hw_bfR, c_is (show ix_tg (ix_wfR (ix_wfR (ix_nwO h 18 3) (ix_sz h) 1 (some (ix_cs h 40))) a 0 (some (ix_sz h))) a = 9 from ta), hw_bdF]
  · rw [hw_R_ne _ _ h1, hw_R_ne _ _ h2, hw_R_ne _ _ h2]
  · rw [hw_R_same, hw_U_same]
  · rw [hw_R_ne _ _ ne, hw_R_same, hw_U_ne _ _ (by omega), hw_R_same]
    decide
theorem k_roundsW {d m : Nat} (hN : 1000 ≤ N) (hwi : wi < 3) (hT : tWk D cv tk e (wi + 1) N (m + 8) d) (T : gT h F A D cv tk e t 0 wi w) (hk : x_kd tk t = 28) : gRo D cv tk e wi h F A t (ix_run iy_P N (m + 9) 170 [ix_R (some (D 3))] (hw h F A)) d (x_bd (x_pas t) fun _ t1 => x_bd (x_num tk (nI 0) (nI 99) t1 w) fun n t2 => x_bd (x_must tk 4 t2) fun _ t3 => x_bd (x_until tk (x_told tk d) 29 (401 - t3) t3 n.2 []) fun l t4 => x_bd (x_pas t4) fun _ t5 => .inr (((n.1, l.1), l.2), t5)) := by
  have hs := T.1
  have lt := hs.2.2.2.2
  have t4 := T.2.2.2.1.2.1
  rw [rX3_rounds N (m + 8)]
  unfold bX3_rounds
  rw [k_is3 hs, hw_fI, T.2.2.2.2.2.2.1, if_neg (by rw [hw_eq (by omega) (by omega)]; omega), k_is3 hs, k_is3 hs, T.2.2.2.2.2.2.1, nI_add, hw_bdF]
  have T1 := T.wth (wi + 1)
  have g1 : gO D h F A h (hw_R F (D 3) (hw_U (F (D 3)) 5 (nI (wi + 1)))) A 0 := (gO.refl D h F A).fR (.inr (.inr rfl)) _
  generalize hw_R F (D 3) (hw_U (F (D 3)) 5 (nI (wi + 1))) = F1 at T1 g1 ⊢
  rw [k_isr3 hs, k_passE T1 N (m + 4)]
  unfold x_pas
  by_cases c4 : t = 400
  · rw [if_pos c4, if_pos c4, oF_xV]
    exact oF.fl g1 (Nat.le_refl t) (by omega)
  · rw [if_neg c4, if_neg c4, ok_xV]
    have T2 := T1.pass (by omega) (by omega) (by omega)
    have g2 : gO D h F A h (kPs F1 D (t + 1)) A 0 := g1.fR (.inr (.inr rfl)) _
    generalize kPs F1 D (t + 1) = F2 at T2 g2 ⊢
    have gn : gN h F2 A (ix_nwO h 9 2) (hw_R F2 (ix_sz h) (fun _ => 0)) A 1 := (gO.refl _ h F2 A).nwO 9 (by omega)
    have T3 := T2.ofN gn
    have g3 : gO D h F A (ix_nwO h 9 2) (hw_R F2 (ix_sz h) (fun _ => 0)) A (0 + 1) := g2.nwO 9 (by omega)
    have tg : ix_tg (ix_nwO h 9 2) (ix_sz h) = 9 := s_tgO h 9 2
    have szn : ix_sz (ix_nwO h 9 2) = ix_sz h + 1 := rfl
    have hM : kM (ix_cs (ix_nwO h 9 2)) D cv (ix_sz h) := T.hM
    rw [hw_bO, hw_sz]
    generalize ix_nwO h 9 2 = h2 at T3 g3 tg szn hM ⊢
    generalize hw_R F2 (ix_sz h) (fun _ => 0) = F3 at T3 g3 ⊢
    show gRo D cv tk e wi h F A t _ d (x_bd (x_num tk (nI 0) (nI 99) (t + 1) w) fun n t2 => x_bd (x_must tk 4 t2) fun _ t3 => x_bd (x_until tk (x_told tk d) 29 (401 - t3) t3 n.2 []) fun l t4 => x_bd (x_pas t4) fun _ t5 => .inr (((n.1, l.1), l.2), t5))
    rw [x_num_bd, k_isr3 T3.1, k_numE T3 hN (m + 2)]
    by_cases c2 : x_kd tk (t + 1) = 2
    · rw [if_pos c2, if_pos c2]
      by_cases c5 : t + 1 = 400
      · rw [if_pos c5, if_pos c5, oF_xI]
        exact oF.fl g3 (by omega) (by omega)
      · rw [if_neg c5, if_neg c5, ok_xI]
        have T4 := T3.num c2 (by have := T3.2.2.2.1.2.1; omega) (nI 0) (nI 99)
        have g4 := g3.nm tk (t + 1) w (nI 0) (nI 99)
        generalize kNm F3 D tk (t + 1) w (nI 0) (nI 99) = F4 at T4 g4 ⊢
        generalize x_w1 tk (t + 1) w (nI 0) (nI 99) = w' at T4 ⊢
        generalize (tk (t + 1)).2.2.2 = v
        obtain ⟨h5, F5, e5, rfl, f1, f2, f3⟩ := k_rndI (F := F4) (A := A) tg (by omega) N (m + 4) v
        rw [c_isr tg (by decide), hw_cV e5]
        -- the cells made so far
        have g5 : gO D h F A (ix_wfR (ix_wfR (ix_nwO h2 18 3) (ix_sz h2) 1 (some (ix_cs h2 40))) (ix_sz h) 0 (some (ix_sz h2))) F5 A (0 + 1 + 1) := by
          have := ((g4.nwO 18 (n := 3) (by omega)).wfR (a := ix_sz h2) (by omega) 1 (some (ix_cs h2 40))).wfR (a := ix_sz h) (Nat.le_refl _) 0 (some (ix_sz h2))
          obtain ⟨y1, y2, y3, y4, y5⟩ := this
          refine ⟨y1, y2, y3, y4, fun b hb => ?_⟩
          obtain ⟨c1, c2, c3, c4, c5, c6, c7, c8⟩ := y5 b hb
          refine ⟨c1, c2, c3, c4, c5, c6, c7, fun p q => ?_⟩
          rw [f1 b (by omega) (by omega), ← c8 p q, hw_R_ne _ _ (by omega)]
        have cs5 : ix_cs h2 = ix_cs h := g3.2.2.2.1
        have T5 : gT (ix_wfR (ix_wfR (ix_nwO h2 18 3) (ix_sz h2) 1 (some (ix_cs h2 40))) (ix_sz h) 0 (some (ix_sz h2))) F5 A D cv tk e (t + 1 + 1) 0 (wi + 1) w' := by
          refine T4.imp (by show ix_sz h2 ≤ ix_sz h2 + 1; omega) rfl hM fun b hb => ⟨if_neg (show ¬ b = ix_sz h2 by omega), rfl, ?_, rfl, f1 b (by omega) (by omega), rfl⟩
          funext i
          show (if b = ix_sz h ∧ i = 0 then _ else if b = ix_sz h2 ∧ i = 1 then _ else if b = ix_sz h2 then none else ix_fR h2 b i) = _
          rw [if_neg (fun q => by omega), if_neg (fun q => by omega), if_neg (by omega)]
        have es := k_signE T5 N (m + 3) (k := 4) (by decide)
        rw [show k_wh 4 = nI 59 from rfl] at es
        rw [k_isr3 T5.1, es]
        show gRo D cv tk e wi h F A t _ d (x_bd (x_must tk 4 (t + 1 + 1)) fun _ t3 => x_bd (x_until tk (x_told tk d) 29 (401 - t3) t3 w' []) fun l t4 => x_bd (x_pas t4) fun _ t5 => .inr (((v, l.1), l.2), t5))
        unfold x_must x_pas
        by_cases c6 : x_kd tk (t + 1 + 1) = 4
        · rw [if_pos c6, if_pos c6]
          by_cases c7 : t + 1 + 1 = 400
          · rw [if_pos c7, if_pos c7, oF_xV]
            exact oF.fl g5 (by omega) (by omega)
          · rw [if_neg c7, if_neg c7, ok_xV]
            have T6 := T5.pass (by omega) (by omega) (by have := T5.2.2.2.1.2.1; omega)
            have g6 : gO D h F A (ix_wfR (ix_wfR (ix_nwO h2 18 3) (ix_sz h2) 1 (some (ix_cs h2 40))) (ix_sz h) 0 (some (ix_sz h2))) (kPs F5 D (t + 1 + 1 + 1)) A (0 + 1 + 1) := g5.fR (.inr (.inr rfl)) _
            have d3 := lt 3 (by omega)
            have k1 : kPs F5 D (t + 1 + 1 + 1) (ix_sz h) 1 = v := by
              unfold kPs
              rw [hw_R_ne _ _ (by omega)]
              exact f2
            have k2 : kPs F5 D (t + 1 + 1 + 1) (ix_sz h2) 2 = nI 0 := by
              unfold kPs
              rw [hw_R_ne _ _ (by omega)]
              exact f3
            have m40 : ix_cs h2 40 < ix_sz h := hM.2.2
            have tb : ∀ b, b < ix_sz h2 → ix_tg (ix_wfR (ix_wfR (ix_nwO h2 18 3) (ix_sz h2) 1 (some (ix_cs h2 40))) (ix_sz h) 0 (some (ix_sz h2))) b = ix_tg h2 b := fun b hb => if_neg (Nat.ne_of_lt hb)
            have I6 : gI D cv tk e (wi + 1) h F A d (ix_wfR (ix_wfR (ix_nwO h2 18 3) (ix_sz h2) 1 (some (ix_cs h2 40))) (ix_sz h) 0 (some (ix_sz h2))) (kPs F5 D (t + 1 + 1 + 1)) A (t + 1 + 1 + 1) w' (ix_sz h) (ix_sz h2) v [] (0 + 1 + 1) := by
              refine ⟨T6, g6, Nat.zero_le _, ⟨Nat.le_refl _, by show ix_sz h < ix_sz h2 + 1; omega, by rw [tb _ (by omega)]; exact tg, s_fRf _ _ _ _, k1⟩, ⟨by omega, Nat.lt_succ_self _⟩, ix_cs h2 40, [], ⟨s_tgO h2 18 3, ?_, k2, .inl ⟨rfl, rfl, ?_, ?_⟩⟩, by show _ < ix_sz h2 + 1; omega, fun q => ?_, trivial⟩
              · rw [s_fRf' _ _ _ _ (fun q => absurd q.2 (by decide)), s_fRf]
              · have := T4.2.1.2.2.1
                rw [tb _ (by omega)]
                exact this
              · exact T4.2.1.2.2.2.1
              · rw [tb _ (by omega), T4.2.1.2.2.1] at q
                exact absurd q (by decide)
            have ex : (x_bd (.inr ((), t + 1 + 1 + 1) : xR Unit) fun _ t3 => x_bd (x_until tk (x_told tk d) 29 (401 - t3) t3 w' []) fun l t4 => x_bd (x_pas t4) fun _ t5 => (.inr (((v, l.1), l.2), t5) : xR ((Int32 × List (xT d)) × Option Nat))) = x_bd (x_until tk (x_told tk d) 29 (401 - (t + 1 + 1 + 1)) (t + 1 + 1 + 1) w' []) fun l t4 => x_bd (x_pas t4) fun _ t5 => .inr (((v, l.1), l.2), t5) := rfl
            have t64 := T6.2.2.2.1.2.1
            rw [← lX3_rounds_27]
            exact k_roundsL hN hT lt T.hM (401 - (t + 1 + 1 + 1)) (t + 1 + 1 + 1) _ _ _ w' [] (N + 1) (0 + 1 + 1) (by omega) (by omega) (by omega) I6 (by omega)
        · rw [if_neg c6, if_neg c6, oF_xV]
          exact oF.fl g5 (by omega) (by omega)
    · rw [if_neg c2, if_neg c2, oF_xI]
      exact oF.fl g3 (by omega) (by omega)
/-- all tells, by how deep rounds may still lie -/
theorem k_toldW (hN : 1000 ≤ N) (d : Nat) : ∀ k wi, wi + k = 3 → tWk D cv tk e wi N (d + 2 * k + 32) k
  | 0, wi, ho => by
    intro h F A t w T
    by_cases c28 : x_kd tk t = 28
    · obtain ⟨k1, k2, k3, k4, k5, k6, k7⟩ := T.row
      have e0 : x_told tk 0 t w = .inl (2, t) := by
        unfold x_told
        rw [if_pos c28]
      have ew : wi = 3 := by omega
      subst ew
      obtain ⟨h1, F1, A1, e1, gn⟩ := k_toldS T (by omega) hN (d + 24) (ix_lp (ix_run iy_P N (d + 31)) stX3_told N)
      have T1 := T.ofN gn
      have e1 : bX3_told (ix_run iy_P N (d + 31)) (ix_lp (ix_run iy_P N (d + 31)) stX3_told N) (D 3) (hw h F A) = jX3_told_74 (ix_run iy_P N (d + 31)) (ix_lp (ix_run iy_P N (d + 31)) stX3_told N) (D 3) (k_ti (x_kd tk t)) (hw h1 F1 A1) := e1
      have er : ix_run iy_P N (d + 31) 170 [ix_R (some (D 3))] (hw h1 F1 A1) = oF h1 F1 A1 D tk 2 t := by
        rw [rX3_rounds N (d + 30)]
        unfold bX3_rounds
        rw [k_is3 T1.1, hw_fI, T1.2.2.2.2.2.2.1, if_pos rfl, k_isr3 T1.1]
        exact k_thrE T1 N (d + 27) 2
      show gTo D cv tk e 3 h F A t (ix_run iy_P N (d + 32) 161 [ix_R (some (D 3))] (hw h F A)) 0 _
      rw [e0, rX3_told N (d + 31), e1, c28]
      unfold jX3_told_74
      rw [if_neg (by decide), if_neg (by decide), if_neg (by decide), if_neg (by decide), if_neg (by decide), if_neg (by decide), if_neg (by decide), if_pos (by decide), k_isr3 T1.1, er, oF_xR]
      exact oF.fl (gn.o D) (Nat.le_refl t) (by omega)
    · have o := k_toldL (d := d) (k := 0) hN T c28
      have e0 : x_told tk 0 t w = x_bd (x_one tk t w) fun l t1 => x_bd (x_must tk 4 t1) fun _ t2 => .inr ((x_lfT 0 l.1, l.2), t2) := by
        unfold x_told
        rw [if_neg c28]
        rfl
      rw [e0]
      exact o
  | k + 1, wi, ho => by
    intro h F A t w T
    by_cases c28 : x_kd tk t = 28
    · obtain ⟨k1, k2, k3, k4, k5, k6, k7⟩ := T.row
      have hT : tWk D cv tk e (wi + 1) N (d + 2 * k + 24 + 8) k := k_toldW hN d k (wi + 1) (by omega)
      have e0 : x_told tk (k + 1) t w = x_bd (x_bd (x_pas t) fun _ t1 => x_bd (x_num tk (nI 0) (nI 99) t1 w) fun n t2 => x_bd (x_must tk 4 t2) fun _ t3 => x_bd (x_until tk (x_told tk k) 29 (401 - t3) t3 n.2 []) fun l t4 => x_bd (x_pas t4) fun _ t5 => (.inr (((n.1, l.1), l.2), t5) : xR ((Int32 × List (xT k)) × Option Nat))) fun a t5 => x_bd (x_must tk 4 t5) fun _ t6 => .inr ((.inr a.1, a.2), t6) := by
        unfold x_told
        rw [if_pos c28, x_bd_as]
        congr 1
        funext _ t1
        rw [x_bd_as]
        congr 1
        funext n t2
        rw [x_bd_as]
        congr 1
        funext _ t3
        rw [x_bd_as]
        congr 1
        funext l t4
        rw [x_bd_as]
        rfl
      obtain ⟨h1, F1, A1, e1, gn⟩ := k_toldS T (by omega) hN (d + 2 * k + 26) (ix_lp (ix_run iy_P N (d + 2 * k + 33)) stX3_told N)
      have T1 := T.ofN gn
      have g1 := gn.o D
      have e1 : bX3_told (ix_run iy_P N (d + 2 * k + 33)) (ix_lp (ix_run iy_P N (d + 2 * k + 33)) stX3_told N) (D 3) (hw h F A) = jX3_told_74 (ix_run iy_P N (d + 2 * k + 33)) (ix_lp (ix_run iy_P N (d + 2 * k + 33)) stX3_told N) (D 3) (k_ti (x_kd tk t)) (hw h1 F1 A1) := e1
      have o := k_roundsW (m := d + 2 * k + 24) hN (by omega) hT T1 c28
      show gTo D cv tk e wi h F A t (ix_run iy_P N (d + 2 * k + 34) 161 [ix_R (some (D 3))] (hw h F A)) (k + 1) _
      rw [e0, rX3_told N (d + 2 * k + 33), e1, c28]
      unfold jX3_told_74
      rw [if_neg (by decide), if_neg (by decide), if_neg (by decide), if_neg (by decide), if_neg (by decide), if_neg (by decide), if_neg (by decide), if_pos (by decide), k_isr3 T1.1]
      have o : gRo D cv tk e wi h1 F1 A1 t (ix_run iy_P N (d + 2 * k + 33) 170 [ix_R (some (D 3))] (hw h1 F1 A1)) k _ := o
      generalize (x_bd (x_pas t) fun _ t1 => x_bd (x_num tk (nI 0) (nI 99) t1 w) fun n t2 => x_bd (x_must tk 4 t2) fun _ t3 => x_bd (x_until tk (x_told tk k) 29 (401 - t3) t3 n.2 []) fun l t4 => x_bd (x_pas t4) fun _ t5 => (.inr (((n.1, l.1), l.2), t5) : xR ((Int32 × List (xT k)) × Option Nat))) = r at o ⊢
      cases r with
      | inl a =>
        have o2 := gFl.back (t := t) (B := 60) g1 (Nat.le_refl t) (by omega) o
        obtain ⟨o1, h', F', A', o2, o3, o4, o5⟩ := o2
        exact ⟨o1, h', F', A', by rw [o2]; rfl, o3, o4, o5⟩
      | inr a =>
        obtain ⟨⟨⟨n, l⟩, w'⟩, t5⟩ := a
        obtain ⟨o1, h2, F2, A2, x, kk, o2, T2, kb, g2, tr⟩ := o
        have o1 : t + 2 ≤ t5 := o1
        have T2 : gT h2 F2 A2 D cv tk e t5 0 wi w' := T2
        have kb : kk + 100 ≤ 80 * (t5 - t) := kb
        have t54 := T2.2.2.2.1.2.1
        have lt := T.1.2.2.2.2
        have es := k_signE T2 N (d + 2 * k + 28) (k := 4) (by decide)
        rw [show k_wh 4 = nI 59 from rfl] at es
        rw [o2, ok_xR]
        unfold jX3_told_107
        rw [k_isr3 T2.1, es]
        show gTo D cv tk e wi h F A t _ (k + 1) (x_bd (x_must tk 4 t5) fun _ t6 => .inr ((.inr (n, l), w'), t6))
        unfold x_must x_pas
        have gg := g1.trans g2
        by_cases c : x_kd tk t5 = 4
        · rw [if_pos c, if_pos c]
          by_cases c4 : t5 = 400
          · rw [if_pos c4, if_pos c4, oF_xV]
            exact oF.fl gg (by omega) (by omega)
          · rw [if_neg c4, if_neg c4, ok_xV]
            have T3 := T2.pass (by omega) (by omega) (by omega)
            refine ⟨by show t + 2 ≤ t5 + 1; omega, h2, _, A2, x, 4 + kk, rfl, T3, by show _ ≤ 80 * (t5 + 1 - t); omega, gg.fR (.inr (.inr rfl)) _, ?_⟩
            refine tr.of (fun b hb => ⟨⟨by have := hb.1; have := g1.1; omega, hb.2⟩, rfl, rfl, rfl, rfl, ?_⟩) rfl ⟨rfl, rfl⟩
            have := hb.1
            have d3 := lt 3 (by omega)
            have := g1.1
            exact hw_R_ne _ _ (by omega)
        · rw [if_neg c, if_neg c, oF_xV]
          exact oF.fl gg (by omega) (by omega)
    · have o := k_toldL (d := d + 2 * k + 2) (k := k + 1) hN T c28
      have e0 : x_told tk (k + 1) t w = x_bd (x_one tk t w) fun l t1 => x_bd (x_must tk 4 t1) fun _ t2 => .inr ((x_lfT (k + 1) l.1, l.2), t2) := by
        unfold x_told
        rw [if_neg c28]
        rfl
      rw [e0]
      exact o
end
