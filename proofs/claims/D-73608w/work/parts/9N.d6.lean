/-! D6: the component: replay -/
set_option maxRecDepth 100000
section
variable {h : ix_H} {F A : Nat → Nat → Int32} {D : Nat → Nat} {L : Nat → Nat → Nat} {ns : Nat → Nat} {Z : Nat × Nat} {X : xS} {N : Nat} {S T : zS}
theorem a_lost2 {S T : zS} {a o : Nat} (ha : a < 4) (ho : o < 4) (hne : a ≠ o) (hk : ∀ j, j ≠ a → j ≠ o → zh T j = zh S j) : zh T a 3 + zh T o 3 - zh S a 3 - zh S o 3 = z_lost T - z_lost S := by
  rw [z_lost_eq, z_lost_eq]
  have k0 := hk 0
  have k1 := hk 1
  have k2 := hk 2
  have k3 := hk 3
  match a, o, ha, ho, hne with
  | 0, 1, _, _, _ => rw [k2 (by omega) (by omega), k3 (by omega) (by omega)]; grind
  | 0, 2, _, _, _ => rw [k1 (by omega) (by omega), k3 (by omega) (by omega)]; grind
  | 0, 3, _, _, _ => rw [k1 (by omega) (by omega), k2 (by omega) (by omega)]; grind
  | 1, 0, _, _, _ => rw [k2 (by omega) (by omega), k3 (by omega) (by omega)]; grind
  | 1, 2, _, _, _ => rw [k0 (by omega) (by omega), k3 (by omega) (by omega)]; grind
  | 1, 3, _, _, _ => rw [k0 (by omega) (by omega), k2 (by omega) (by omega)]; grind
  | 2, 0, _, _, _ => rw [k1 (by omega) (by omega), k3 (by omega) (by omega)]; grind
  | 2, 1, _, _, _ => rw [k0 (by omega) (by omega), k3 (by omega) (by omega)]; grind
  | 2, 3, _, _, _ => rw [k0 (by omega) (by omega), k1 (by omega) (by omega)]; grind
  | 3, 0, _, _, _ => rw [k1 (by omega) (by omega), k2 (by omega) (by omega)]; grind
  | 3, 1, _, _, _ => rw [k0 (by omega) (by omega), k2 (by omega) (by omega)]; grind
  | 3, 2, _, _, _ => rw [k0 (by omega) (by omega), k1 (by omega) (by omega)]; grind
  | 0, 0, _, _, h => exact absurd rfl h
  | 1, 1, _, _, h => exact absurd rfl h
  | 2, 2, _, _, h => exact absurd rfl h
  | 3, 3, _, _, h => exact absurd rfl h
theorem d_lostIn (t : dTr h F A D L ns Z X T) (N d : Nat) {a o : Nat} (ha : a < 4) (ho : o < 4) (hne : a ≠ o) (hk : ∀ j, j ≠ a → j ≠ o → zh T j = zh X.1 j) : ix_run iy_P N (d + 1) 111 [ix_R (some (D 0)), ix_I (nI a), ix_I (nI o)] (hw h F A) = some (.inl (some (ix_I (z_lost T - z_lost X.1))), hw h F A) := by
  obtain ⟨g, hc, hV, hn⟩ := t
  have hs0 := g.2.1 0 (by omega)
  have hs1 := g.2.1 1 (by omega)
  have r1 : ∀ k, k < 4 → ∀ f : Nat → ix_O, (ix_is (hw h F A) 7 (ix_aR (hw h F A) (L 1 3) (nI k).toNatClampNeg)).bind f = f (L 1 (5 + k)) := fun k hk f => by
    rw [hw_aR, hw_cl (by omega), (hs1.2.2.1 k hk).1]
    exact h_is (hs1.2.2.1 k hk).2 F A f
  rw [rX0_lostIn N d]
  unfold bX0_lostIn
  simp only [d_is g, d_triw g, d_stw g, st_hnd hs0, st_hnd hs1, hw_in (show a < 4 by omega) (by omega), hw_in (show o < 4 by omega) (by omega), cond_true, r1 a ha, r1 o ho, d_hr g _ _ ha, d_hr g _ _ ho, hw_fI]
  have ta : F (L 1 (5 + a)) 11 = zh T a 3 := (hV.1.2.2.2 a ha).2.2.2.2.1
  have to' : F (L 1 (5 + o)) 11 = zh T o 3 := (hV.1.2.2.2 o ho).2.2.2.2.1
  have sa : F (L 0 (5 + a)) 11 = zh X.1 a 3 := (hc.2.1.1.1.2.2.2 a ha).2.2.2.2.1
  have so : F (L 0 (5 + o)) 11 = zh X.1 o 3 := (hc.2.1.1.1.2.2.2 o ho).2.2.2.2.1
  rw [ta, to', sa, so, a_lost2 ha ho hne hk]
/-- the fewest, as the component begins it -/
def a_few (S : zS) (a o n w : Nat) : Int32 := if w = 0 then nI 2000 else (a_rp S a o n w).2.2.2
theorem d_replay_l (hI : i_I X.1) (hN : 3000 ≤ N) (d : Nat) {a o n : Nat} (ha : a < 4) (ho : o < 4) (hne : a ≠ o) (hn : n ≤ 8) (v4 : Int32) : ∀ z w h F A L ns fi, w ≤ 2 ^ n → 2 ^ n - w < z → dG h D L ns Z → dC F A D L ns X → (0 < w → fi = nI (z_all (a_row X.1 a o n (nI 0))).length ∧ kv_in (A (D 11)) (A (D 12)) (z_all (a_row X.1 a o n (nI 0)))) →
    ∃ h' F' A' L' ns', ix_lp (ix_run iy_P N (d + 13)) stX0_replay z 34 [(0, ix_R (some (D 0))), (1, ix_I (nI a)), (2, ix_I (nI o)), (3, ix_I (nI n)), (4, ix_I v4), (5, ix_I (a_rp X.1 a o n w).1), (6, ix_I (a_rp X.1 a o n w).2.1), (7, ix_I (a_rp X.1 a o n w).2.2.1), (8, ix_I (a_few X.1 a o n w)), (9, ix_I fi), (10, ix_I (nI w))] [] (hw h F A) = some (.inl (some (ix_I (if v4 = nI 0 then (a_rp X.1 a o n (2 ^ n)).1 else if v4 = nI 1 then (a_rp X.1 a o n (2 ^ n)).2.1 else if v4 = nI 2 then (a_rp X.1 a o n (2 ^ n)).2.2.1 else (a_rp X.1 a o n (2 ^ n)).2.2.2))), hw h' F' A') ∧ dG h' D L' ns' Z ∧ dC F' A' D L' ns' X ∧ dFr h F A D L ns h' F' A' L' ns' := by
  intro z
  induction z with
  | zero => intro w h F A L ns fi _ h; omega
  | succ z ih =>
    intro w h F A L ns fi hwn hz g hc hF
    obtain ⟨p1, p2⟩ := a_pow2 n (by omega)
    have pp : 0 < 2 ^ n := Nat.pow_pos (by omega)
    rw [lX0_replay_34]
    unfold jX0_replay_34 jX0_replay_110
    rw [p1]
    rcases Nat.lt_or_ge w (2 ^ n) with w1 | w1
    · rw [if_neg (show ¬ nI (2 ^ n) ≤ nI w by rw [hw_le (by omega) (by omega)]; omega)]
      obtain ⟨h1, F1, A1, L1, n1, e1, t1, o1, f1⟩ := d_replays (N := N) g hI hc hN d ha ho hn (nI w)
      rw [d_isr g, hw_cV e1]
      have hT := hI.row ha ho n (nI w)
      have hT0 := hI.row ha ho n (nI 0)
      have oth : ∀ j, j ≠ a → j ≠ o → zh (a_row X.1 a o n (nI w)) j = zh X.1 j := fun j j1 j2 => a_row_oth X.1 a o n (nI w) j1 j2
      have l0 : (z_all (a_row X.1 a o n (nI 0))).length ≤ 43 := by
        obtain ⟨rc0, hrc0⟩ := hT0.R
        rw [hrc0.all hT0.W.2.2.1]; exact hrc0.2.2.2.2
      have hsz := hI.sz
      have hszT := hT.sz
      have hgr := (z_gr_row X.1 a o n (nI w)).1
      have rest : ∀ F2 A2, dTr h1 F2 A2 D L1 n1 Z X (a_row X.1 a o n (nI w)) → dFr h1 F1 A1 D L1 n1 h1 F2 A2 L1 n1 → kv_in (A2 (D 11)) (A2 (D 12)) (z_all (a_row X.1 a o n (nI 0))) → ∃ h' F' A' L' ns', jX0_replay_56 (ix_run iy_P N (d + 13)) (ix_lp (ix_run iy_P N (d + 13)) stX0_replay z) (D 0) (nI a) (nI o) (nI n) v4 (a_rp X.1 a o n w).1 (a_rp X.1 a o n w).2.1 (a_rp X.1 a o n w).2.2.1 (a_few X.1 a o n w) (nI (z_all (a_row X.1 a o n (nI 0))).length) (nI w) (hw h1 F2 A2) = some (.inl (some (ix_I (if v4 = nI 0 then (a_rp X.1 a o n (2 ^ n)).1 else if v4 = nI 1 then (a_rp X.1 a o n (2 ^ n)).2.1 else if v4 = nI 2 then (a_rp X.1 a o n (2 ^ n)).2.2.1 else (a_rp X.1 a o n (2 ^ n)).2.2.2))), hw h' F' A') ∧ dG h' D L' ns' Z ∧ dC F' A' D L' ns' X ∧ dFr h F A D L ns h' F' A' L' ns' := fun F2 A2 t2 f2 k2 => by
        obtain ⟨F3, A3, e3, q3, k3⟩ := d_isAsFirst (N := N) t2 hT hN (d + 6) (show (z_all (a_row X.1 a o n (nI 0))).length ≤ 900 by omega) k2
        have t3 := q3.tr t2
        have fr3 := q3.fr t2.1
        obtain ⟨h', F', A', L', ns', e, g', c', fr'⟩ := ih (w + 1) h1 F3 A3 L1 n1 (nI (z_all (a_row X.1 a o n (nI 0))).length) w1 (by omega) t3.1 t3.2.1 (fun _ => ⟨rfl, k3⟩)
        refine ⟨h', F', A', L', ns', ?_, g', c', ((f1.trans f2).trans fr3).trans fr'⟩
        rw [← e]
        unfold jX0_replay_56 jX0_replay_65 jX0_replay_92
        have d1 : (a_rp X.1 a o n (w + 1)).1 = if z_all (a_row X.1 a o n (nI w)) = z_all (a_row X.1 a o n (nI 0)) then (a_rp X.1 a o n w).1 + nI 1 else (a_rp X.1 a o n w).1 := rfl
        have d2 : (a_rp X.1 a o n (w + 1)).2.1 = if z_lost (a_row X.1 a o n (nI w)) - z_lost X.1 ≤ (a_rp X.1 a o n w).2.1 then (a_rp X.1 a o n w).2.1 else z_lost (a_row X.1 a o n (nI w)) - z_lost X.1 := rfl
        have d3 : (a_rp X.1 a o n (w + 1)).2.2.1 = if z_lost (a_row X.1 a o n (nI w)) - z_lost X.1 ≤ (a_rp X.1 a o n w).2.1 then (a_rp X.1 a o n w).2.2.1 else nI w := rfl
        have d4 : a_few X.1 a o n (w + 1) = if nI (zn (a_row X.1 a o n (nI w))) - nI (zn X.1) < a_few X.1 a o n w then nI (zn (a_row X.1 a o n (nI w))) - nI (zn X.1) else a_few X.1 a o n w := by
          unfold a_few
          rw [if_neg (show ¬ w + 1 = 0 by omega)]
          have d4' : (a_rp X.1 a o n (w + 1)).2.2.2 = if (a_rp X.1 a o n w).2.2.2 ≤ nI (zn (a_row X.1 a o n (nI w))) - nI (zn X.1) then (a_rp X.1 a o n w).2.2.2 else nI (zn (a_row X.1 a o n (nI w))) - nI (zn X.1) := rfl
          rw [d4', hw_sub hgr]
          by_cases x : w = 0
          · subst x
            have e9 : (a_rp X.1 a o n 0).2.2.2 = nI 9999 := rfl
            rw [if_pos rfl, e9, if_neg (show ¬ nI 9999 ≤ nI (zn (a_row X.1 a o n (nI 0)) - zn X.1) by rw [hw_le (by omega) (by omega)]; omega), if_pos (show nI (zn (a_row X.1 a o n (nI 0)) - zn X.1) < nI 2000 by rw [hw_lt (by omega) (by omega)]; omega)]
          · rw [if_neg x]
            by_cases y : (a_rp X.1 a o n w).2.2.2 ≤ nI (zn (a_row X.1 a o n (nI w)) - zn X.1)
            · rw [if_pos y, if_neg (fun z => by rw [Int32.le_iff_toInt_le] at y; rw [Int32.lt_iff_toInt_lt] at z; omega)]
            · rw [if_neg y, if_pos (by rw [Int32.le_iff_toInt_le] at y; rw [Int32.lt_iff_toInt_lt]; omega)]
        have hs0 := t3.1.2.1 0 (by omega)
        have hs1 := t3.1.2.1 1 (by omega)
        have z1 : F3 (L1 1 0) 3 = nI (zn (a_row X.1 a o n (nI w))) := t3.2.2.1.1.1.1
        have z0 : F3 (L1 0 0) 3 = nI (zn X.1) := t3.2.1.2.1.1.1.1.1
        have lo : ix_run iy_P N (d + 13) 111 [ix_R (some (D 0)), ix_I (nI a), ix_I (nI o)] (hw h1 F3 A3) = some (.inl (some (ix_I (z_lost (a_row X.1 a o n (nI w)) - z_lost X.1))), hw h1 F3 A3) := d_lostIn t3 N (d + 12) ha ho hne oth
        have mi : ix_run iy_P N (d + 13) 25 [ix_I (a_few X.1 a o n w), ix_I (nI (zn (a_row X.1 a o n (nI w))) - nI (zn X.1))] (hw h1 F3 A3) = some (.inl (some (ix_I (a_few X.1 a o n (w + 1)))), hw h1 F3 A3) := by
          rw [d4]
          exact j_min N (d + 12) _ _ _
        rw [d1, d2, d3, d_isr t2.1, hw_cI e3]
        dsimp only
        rw [a_if0]
        by_cases x0 : z_all (a_row X.1 a o n (nI w)) = z_all (a_row X.1 a o n (nI 0))
        · simp only [if_pos x0]
          rw [d_is t3.1, d_triw t3.1, d_is t3.1, d_stw t3.1, hw_fI, z1, z0, hw_cI mi]
          dsimp only
          rw [d_isr t3.1, hw_cI lo]
          dsimp only
          by_cases x1 : z_lost (a_row X.1 a o n (nI w)) - z_lost X.1 ≤ (a_rp X.1 a o n w).2.1
          · simp only [if_pos x1]
            rw [if_neg (fun y => by rw [Int32.le_iff_toInt_le] at x1; rw [Int32.lt_iff_toInt_lt] at y; omega), nI_add]
          · simp only [if_neg x1]
            rw [if_pos (by rw [Int32.le_iff_toInt_le] at x1; rw [Int32.lt_iff_toInt_lt]; omega), d_isr t3.1, hw_cI lo]
            dsimp only
            rw [nI_add]
        · simp only [if_neg x0]
          rw [d_is t3.1, d_triw t3.1, d_is t3.1, d_stw t3.1, hw_fI, z1, z0, hw_cI mi]
          dsimp only
          rw [d_isr t3.1, hw_cI lo]
          dsimp only
          have a0 : (a_rp X.1 a o n w).1 + nI 0 = (a_rp X.1 a o n w).1 := by rw [nI_0, Int32.add_zero]
          rw [a0]
          by_cases x1 : z_lost (a_row X.1 a o n (nI w)) - z_lost X.1 ≤ (a_rp X.1 a o n w).2.1
          · simp only [if_pos x1]
            rw [if_neg (fun y => by rw [Int32.le_iff_toInt_le] at x1; rw [Int32.lt_iff_toInt_lt] at y; omega), nI_add]
          · simp only [if_neg x1]
            rw [if_pos (by rw [Int32.le_iff_toInt_le] at x1; rw [Int32.lt_iff_toInt_lt]; omega), d_isr t3.1, hw_cI lo]
            dsimp only
            rw [nI_add]
      by_cases w0 : nI w = nI 0
      · rw [if_pos w0]
        obtain ⟨F2, A2, e2, q2, k2, l2, -⟩ := d_allT (N := N) t1 hT hN (d + 7) (Or.inr rfl)
        rw [d_is t1.1, d_is t1.1, d_is t1.1, d_tri t1.1, hw_fR, t1.1.1.2.1.2.2.2.2.2.2.2.2.2.2.1, t1.1.1.2.1.2.2.2.2.2.2.2.2.2.2.2, hw_cI e2]
        dsimp only
        have := rest F2 A2 (q2.tr t1) (q2.fr t1.1) (by rw [← w0]; exact k2)
        rw [← w0] at this ⊢
        exact this
      · rw [if_neg w0]
        have hw0 : 0 < w := by
          rcases Nat.eq_zero_or_pos w with e | e
          · exact absurd (by rw [e]) w0
          · exact e
        obtain ⟨rfl, k⟩ := hF hw0
        exact rest F1 A1 t1 (dFr.refl t1.1) (by rw [(o1 11 (by omega)).2, (o1 12 (by omega)).2]; exact k)
    · obtain rfl : w = 2 ^ n := by omega
      rw [if_pos (show nI (2 ^ n) ≤ nI (2 ^ n) by rw [hw_le (by omega) (by omega)]; omega)]
      have ef : a_few X.1 a o n (2 ^ n) = (a_rp X.1 a o n (2 ^ n)).2.2.2 := if_neg (by omega)
      rw [ef]
      refine ⟨h, F, A, L, ns, ?_, g, hc, dFr.refl g⟩
      by_cases x0 : v4 = nI 0
      · rw [if_pos x0, if_pos x0]
      rw [if_neg x0, if_neg x0]
      by_cases x1 : v4 = nI 1
      · rw [if_pos x1, if_pos x1]
      rw [if_neg x1, if_neg x1]
      by_cases x2 : v4 = nI 2
      · rw [if_pos x2, if_pos x2]
      rw [if_neg x2, if_neg x2]
theorem d_replay (g : dG h D L ns Z) (hI : x_I X) (hc : dC F A D L ns X) (hN : 3000 ≤ N) (d : Nat) (a o n w : Int32) : dDo h F A D L ns Z (a_replay X.1 a o n w, X) (ix_run iy_P N (d + 14) 108 [ix_R (some (D 0)), ix_I a, ix_I o, ix_I n, ix_I w] (hw h F A)) := by
  obtain ⟨N, rfl⟩ : ∃ z, N = z + 1 := ⟨N - 1, by omega⟩
  rw [rX0_replay (N + 1) (d + 13)]
  unfold bX0_replay jX0_replay_19 a_replay
  have no : dDo h F A D L ns Z (-1, X) (some (.inl (some (ix_I (-1 : Int32))), hw h F A)) := dDo.same g hc _
  rw [hw_cI (d_isHand _ (N + 1) (d + 11) a)]
  dsimp only
  rw [a_if0]
  by_cases wa : a_hnd a
  · rw [if_pos wa, hw_cI (d_isHand _ (N + 1) (d + 11) o)]
    dsimp only
    rw [a_if0]
    by_cases wo : a_hnd o
    · rw [if_pos wo]
      by_cases ne : a = o
      · rw [if_pos ne, if_neg (fun x => x.2.2.1 ne)]
        exact no
      · rw [if_neg ne, hw_cI (d_isIn _ (N + 1) (d + 12) _ _ _)]
        dsimp only
        rw [a_if0]
        by_cases wn : a_in n (nI 0) (nI 8)
        · rw [if_pos wn, hw_cI (d_isIn _ (N + 1) (d + 12) _ _ _)]
          dsimp only
          rw [a_if0]
          by_cases ww : a_in w (nI 0) (nI 3)
          · rw [if_pos ww, if_pos ⟨wa, wo, ne, wn, ww⟩]
            obtain ⟨a, ha, rfl⟩ := a_hnd_nat wa
            obtain ⟨o, ho, rfl⟩ := a_hnd_nat wo
            have wn' := wn
            rw [show nI 8 = nI 9 - nI 1 by decide] at wn'
            obtain ⟨n, hn, rfl⟩ := a_in_nat (by omega) wn'
            rw [hw_cl (by omega), hw_cl (by omega), hw_cl (by omega), ← lX0_replay_34]
            obtain ⟨h', F', A', L', ns', e, g', c', fr⟩ := d_replay_l hI.1 hN d ha ho (fun e => ne (by rw [e])) (n := n) (by omega) w (N + 1 + 1) 0 h F A L ns (nI 0) (Nat.zero_le _) (by have := (a_pow2 n (by omega)).2; omega) g hc (fun x => absurd x (by omega))
            exact ⟨h', F', A', L', ns', e, g', c', fr⟩
          · rw [if_neg ww, if_neg (fun x => ww x.2.2.2.2)]
            exact no
        · rw [if_neg wn, if_neg (fun x => wn x.2.2.2.1)]
          exact no
    · rw [if_neg wo, if_neg (fun x => wo x.2.1)]
      exact no
  · rw [if_neg wa, if_neg (fun x => wa x.1)]
    exact no
end
