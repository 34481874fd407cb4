/-! KK: the component: settings, the text's cell -/
set_option maxRecDepth 100000
def gSt (D cv : Nat → Nat) (tk : Nat → tK) (e wi : Nat) (h0 : ix_H) (F0 A0 : Nat → Nat → Int32) (t : Nat) (out : ix_O) (r : xR (Int32 × Option Nat)) : Prop := match r with
  | .inl a => gFl D h0 F0 A0 tk t a 10 out
  | .inr a => t ≤ a.2 ∧ ∃ h' F' A', out = some (.inl (some (ix_I a.1.1)), hw h' F' A') ∧ gT h' F' A' D cv tk e a.2 0 wi a.1.2 ∧ gO D h0 F0 A0 h' F' A' 4
section
variable {h : ix_H} {F A : Nat → Nat → Int32} {D cv : Nat → Nat} {tk : Nat → tK} {e t op wi N : Nat} {w : Option Nat}
theorem k_setE {n j : Nat} (hN : 1000 ≤ N) (hj : j < 18) (T : gT h F A D cv tk e t 0 wi w) (lo hi own : Int32) : (x_kd tk t = 3 ∧ gFl D h F A tk t (1, t) 10 (ix_run iy_P N (n + 9) 150 [ix_R (some (D 3)), ix_R (some (ix_cs h (k_kw j))), ix_I lo, ix_I hi, ix_I own] (hw h F A))) ∨ gSt D cv tk e wi h F A t (ix_run iy_P N (n + 9) 150 [ix_R (some (D 3)), ix_R (some (ix_cs h (k_kw j))), ix_I lo, ix_I hi, ix_I own] (hw h F A)) (x_set tk (k_kk j) lo hi own t w) := by
  have hs := T.1
  have t4 := T.2.2.2.1.2.1
  have kk20 : 20 ≤ k_kk j := by
    unfold k_kk
    repeat' split
    all_goals omega
  rw [rX3_setting N (n + 8)]
  unfold bX3_setting x_set
  rw [k_isr3 hs]
  rcases k_isTold T hN n hj with ⟨c3, e1⟩ | ⟨c3, h1, F1, A1, e1, gn⟩
  · refine .inl ⟨c3, ?_⟩
    rw [e1, oF_xI]
    exact oF.fl (gO.refl D h F A) (Nat.le_refl t) (by omega)
  · refine .inr ?_
    have T1 := T.ofN gn
    have g1 := gn.o D
    rw [e1, ok_xI]
    by_cases c : x_kd tk t = k_kk j
    · rw [if_pos c, if_pos c, if_neg (by decide), k_isr3 T1.1, k_passE T1 N (n + 4)]
      unfold x_pas
      by_cases c4 : t = 400
      · rw [if_pos c4, if_pos c4, oF_xV]
        exact oF.fl g1 (Nat.le_refl t) (by omega)
      · rw [if_neg c4, if_neg c4, ok_xV]
        have T2 := T1.pass (by omega) (by omega) (by omega)
        have g2 : gO D h F A h1 (kPs F1 D (t + 1)) A1 4 := g1.fR (.inr (.inr rfl)) _
        generalize kPs F1 D (t + 1) = F2 at T2 g2 ⊢
        show gSt D cv tk e wi h F A t _ (x_bd (x_num tk lo hi (t + 1) w) fun v t2 => x_bd (x_must tk 4 t2) fun _ t3 => .inr (v, t3))
        rw [x_num_bd, k_isr3 T2.1, k_numE T2 hN (n + 2)]
        by_cases c2 : x_kd tk (t + 1) = 2
        · rw [if_pos c2, if_pos c2]
          by_cases c5 : t + 1 = 400
          · rw [if_pos c5, if_pos c5, oF_xI]
            exact oF.fl g2 (by omega) (by omega)
          · rw [if_neg c5, if_neg c5, ok_xI]
            have T3 := T2.num c2 (by have := T2.2.2.2.1.2.1; omega) lo hi
            have g3 := g2.nm tk (t + 1) w lo hi
            generalize kNm F2 D tk (t + 1) w lo hi = F3 at T3 g3 ⊢
            generalize x_w1 tk (t + 1) w lo hi = w' at T3 ⊢
            have es := k_signE T3 N (n + 3) (k := 4) (by decide)
            rw [show k_wh 4 = nI 59 from rfl] at es
            rw [k_isr3 T3.1, es]
            show gSt D cv tk e wi h F A t _ (x_bd (x_must tk 4 (t + 1 + 1)) fun _ t3 => .inr (((tk (t + 1)).2.2.2, w'), t3))
            unfold x_must x_pas
            by_cases c6 : x_kd tk (t + 1 + 1) = 4
            · rw [if_pos c6, if_pos c6]
              by_cases c7 : t + 1 + 1 = 400
              · rw [if_pos c7, if_pos c7, oF_xV]
                exact oF.fl g3 (by omega) (by omega)
              · rw [if_neg c7, if_neg c7, ok_xV]
                have T4 := T3.pass (by omega) (by omega) (by have := T3.2.2.2.1.2.1; omega)
                exact ⟨by show t ≤ t + 1 + 1 + 1; omega, h1, _, A1, rfl, T4, g3.fR (.inr (.inr rfl)) _⟩
            · rw [if_neg c6, if_neg c6, oF_xV]
              exact oF.fl g3 (by omega) (by omega)
        · rw [if_neg c2, if_neg c2, oF_xI]
          exact oF.fl g2 (by omega) (by omega)
    · rw [if_neg c, if_neg c, if_pos rfl]
      exact ⟨Nat.le_refl t, h1, F1, A1, rfl, T1, g1⟩
theorem x_told_bad (k : Nat) (h3 : x_kd tk t = 3) : x_told tk k t w = .inl (1, t) := by
  have : (x_bd (x_one tk t w) fun l t1 => x_bd (x_must tk 4 t1) fun _ t2 => (.inr ((x_lfT k l.1, l.2), t2) : xR (xT k × Option Nat))) = .inl (1, t) := by
    rw [x_one_act (by omega) (by omega) (by omega) (by omega) (by omega), x_act_no (by omega) (by omega)]
    rfl
  cases k with
  | zero =>
    unfold x_told
    rw [if_neg (by omega)]
    exact this
  | succ d =>
    unfold x_told
    rw [if_neg (by omega)]
    exact this
theorem x_until_bad {α : Type} (h3 : x_kd tk t = 3) (ht : t ≤ 400) (f : List (xT 3) × Option Nat → Nat → xR α) : x_bd (x_until tk (x_told tk 3) 0 (401 - t) t w []) f = .inl (1, t) := by
  obtain ⟨z, hz⟩ : ∃ z, 401 - t = z + 1 := ⟨400 - t, by omega⟩
  rw [hz]
  show x_bd (if x_kd tk t = 0 then _ else x_bd (x_told tk 3 t w) fun a t1 => _) f = _
  rw [if_neg (by omega), x_told_bad 3 h3]
  rfl
theorem x_set_bad {k : Nat} (hk : k ≠ 3) (h3 : x_kd tk t = 3) {lo hi own : Int32} : x_set tk k lo hi own t w = .inr ((own, w), t) := by
  unfold x_set
  rw [if_neg (by omega)]
/-- the text's cell tx, its rounds' cell ro, their list ls (still empty) -/
def gX (D cv : Nat → Nat) (tk : Nat → tK) (e : Nat) (h0 : ix_H) (F0 A0 : Nat → Nat → Int32) (h : ix_H) (F A : Nat → Nat → Int32) (t : Nat) (w : Option Nat) (tx ro ls : Nat) (a b c : Int32) (k : Nat) : Prop :=
  gT h F A D cv tk e t 0 0 w ∧ gO D h0 F0 A0 h F A k ∧ (ix_sz h0 ≤ tx ∧ tx < ix_sz h ∧ ix_sz h0 ≤ ro ∧ ro < ix_sz h ∧ ix_sz h0 ≤ ls ∧ ls < ix_sz h) ∧ (ix_tg h tx = 8 ∧ ix_fR h tx 0 = some ro ∧ F tx 1 = a ∧ F tx 2 = b ∧ F tx 3 = c) ∧ (ix_tg h ro = 9 ∧ ix_fR h ro 0 = some ls ∧ F ro 1 = nI 1) ∧ (ix_tg h ls = 18 ∧ ix_fR h ls 1 = some (ix_cs h 40) ∧ F ls 2 = nI 0) ∧ ix_fR h (D 3) 2 = some tx
theorem gX.ofO {h0 h1 : ix_H} {F0 A0 F1 A1 : Nat → Nat → Int32} {tx ro ls k k1 t1 : Nat} {a b c : Int32} {w1 : Option Nat} (X : gX D cv tk e h0 F0 A0 h F A t w tx ro ls a b c k) (hD : ∀ j, j < 19 → D j < ix_sz h0) (T1 : gT h1 F1 A1 D cv tk e t1 0 0 w1) (g : gO D h F A h1 F1 A1 k1) : gX D cv tk e h0 F0 A0 h1 F1 A1 t1 w1 tx ro ls a b c (k + k1) := by
  obtain ⟨T, g0, ⟨x1, x2, x3, x4, x5, x6⟩, ⟨y1, y2, y3, y4, y5⟩, ⟨z1, z2, z3⟩, ⟨v1, v2, v3⟩, p1⟩ := X
  have d1 := hD 1 (by omega)
  have d3 := hD 3 (by omega)
  have c1 := g.2.2.2.2 tx x2
  have c2 := g.2.2.2.2 ro x4
  have c3 := g.2.2.2.2 ls x6
  have c4 := g.2.2.2.2 (D 3) (T.1.2.2.2.2 3 (by omega))
  have s := g.1
  have f1 := c1.2.2.2.2.2.2.2 (by omega) (by omega)
  have f2 := c2.2.2.2.2.2.2.2 (by omega) (by omega)
  have f3 := c3.2.2.2.2.2.2.2 (by omega) (by omega)
  exact ⟨T1, g0.trans g, ⟨x1, by omega, x3, by omega, x5, by omega⟩, ⟨by rw [c1.1]; exact y1, by rw [c1.2.2.1]; exact y2, by rw [f1]; exact y3, by rw [f1]; exact y4, by rw [f1]; exact y5⟩, ⟨by rw [c2.1]; exact z1, by rw [c2.2.2.1]; exact z2, by rw [f2]; exact z3⟩, ⟨by rw [c3.1]; exact v1, by rw [c3.2.2.1, g.2.2.2.1]; exact v2, by rw [f3]; exact v3⟩, by rw [c4.2.2.1]; exact p1⟩
/-- a setting is kept -/
theorem gX.wr {h0 : ix_H} {F0 A0 : Nat → Nat → Int32} {tx ro ls k : Nat} {a b c : Int32} (X : gX D cv tk e h0 F0 A0 h F A t w tx ro ls a b c k) (hM : kM (ix_cs h0) D cv (ix_sz h0)) (i : Nat) (v : Int32) : gX D cv tk e h0 F0 A0 h (hw_R F tx (hw_U (F tx) i v)) A t w tx ro ls (if i = 1 then v else a) (if i = 2 then v else b) (if i = 3 then v else c) k := by
  obtain ⟨T, g0, ⟨x1, x2, x3, x4, x5, x6⟩, ⟨y1, y2, y3, y4, y5⟩, ⟨z1, z2, z3⟩, ⟨v1, v2, v3⟩, p1⟩ := X
  have n1 : ro ≠ tx := fun q => by rw [q, y1] at z1; exact absurd z1 (by decide)
  have n2 : ls ≠ tx := fun q => by rw [q, y1] at v1; exact absurd v1 (by decide)
  refine ⟨T.imp (Nat.le_refl _) rfl (m := ix_sz h0) (by rw [g0.2.2.2.1]; exact hM) fun b hb => ⟨rfl, rfl, rfl, rfl, hw_R_ne _ _ (by omega), rfl⟩, g0.fR (.inl x1) _, ⟨x1, x2, x3, x4, x5, x6⟩, ⟨y1, y2, ?_, ?_, ?_⟩, ⟨z1, z2, by rw [hw_R_ne _ _ n1]; exact z3⟩, ⟨v1, v2, by rw [hw_R_ne _ _ n2]; exact v3⟩, p1⟩
  · rw [hw_R_same, hw_U_at, y3]
    by_cases q : i = 1
    · rw [if_pos q.symm, if_pos q]
    · rw [if_neg (fun z => q z.symm), if_neg q]
  · rw [hw_R_same, hw_U_at, y4]
    by_cases q : i = 2
    · rw [if_pos q.symm, if_pos q]
    · rw [if_neg (fun z => q z.symm), if_neg q]
  · rw [hw_R_same, hw_U_at, y5]
    by_cases q : i = 3
    · rw [if_pos q.symm, if_pos q]
    · rw [if_neg (fun z => q z.symm), if_neg q]
theorem gX.i {h0 : ix_H} {F0 A0 : Nat → Nat → Int32} {tx ro ls k : Nat} {a b c : Int32} (X : gX D cv tk e h0 F0 A0 h F A t w tx ro ls a b c k) (hM : kM (ix_cs h0) D cv (ix_sz h0)) : gI D cv tk e 0 h0 F0 A0 3 h F A t w ro ls (nI 1) [] k := by
  obtain ⟨T, g0, ⟨x1, x2, x3, x4, x5, x6⟩, ⟨y1, y2, y3, y4, y5⟩, ⟨z1, z2, z3⟩, ⟨v1, v2, v3⟩, p1⟩ := X
  have c40 := T.2.1.2.2
  exact ⟨T, g0, Nat.zero_le _, ⟨x3, x4, z1, z2, z3⟩, ⟨x5, x6⟩, ix_cs h 40, [], ⟨v1, v2, v3, .inl ⟨rfl, rfl, c40.1, c40.2.1⟩⟩, c40.2.2, fun q => by rw [c40.1] at q; exact absurd q (by decide), trivial⟩
end
