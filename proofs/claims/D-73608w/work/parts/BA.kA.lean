/-! KA: the component: terms are read -/
set_option maxRecDepth 100000
section
variable {h : ix_H} {F A : Nat → Nat → Int32} {D cv : Nat → Nat} {tk : Nat → tK} {e t op wi N : Nat} {w : Option Nat}
theorem k_tmLoop {y n : Nat} {u : Nat → xR xC} {p : Nat → Bool} {st : List ix_T} (hU : uWk D cv tk e wi w N y u op (n + 8)) (hp : ∀ k, p k = true → k ∈ [8, 9, 10, 15, 16])
    (hd : ∀ z h F A t x, gT h F A D cv tk e t op wi w → ix_lp (ix_run iy_P N (n + 8)) st (z + 1) 3 [(0, ix_R (some (D 3))), (1, ix_R (some x))] [] (hw h F A) = if p (x_kd tk t) = true then kLb y (ix_run iy_P N (n + 8)) (ix_lp (ix_run iy_P N (n + 8)) st z) (D 3) (some x) (hw h F A) else some (.inl (some (ix_R (some x))), hw h F A))
    {h0 : ix_H} {F0 A0 : Nat → Nat → Int32} {t0 : Nat} (hD : ∀ j, j < 19 → D j < ix_sz h0) : ∀ z0 t h F A x c z, 401 ≤ z0 + t → 402 ≤ z + t → gT h F A D cv tk e t op wi w → gO D h0 F0 A0 h F A (2 * (t - t0)) → t0 < t → gSx h F (rg (ix_sz h0) (ix_sz h)) x c → gTm D cv tk e op wi w h0 F0 A0 t0 (ix_lp (ix_run iy_P N (n + 8)) st z 3 [(0, ix_R (some (D 3))), (1, ix_R (some x))] [] (hw h F A)) (x_lp tk u p z0 t c)
  | 0, t, h, F, A, x, c, z, h1, h2, T, g, ht, s => by
    have := T.2.2.2.1.2.1
    omega
  | z0 + 1, t, h, F, A, x, c, z, h1, h2, T, g, ht, s => by
    have t4 := T.2.2.2.1.2.1
    obtain ⟨z, rfl⟩ : ∃ v, z = v + 1 := ⟨z - 1, by omega⟩
    rw [hd z h F A t x T]
    unfold x_lp
    by_cases c1 : p (x_kd tk t) = true
    · rw [if_pos c1, if_pos c1, ← x_bd_as]
      have o := k_lb hU T g ht hD s (hp _ c1) (ix_lp (ix_run iy_P N (n + 8)) st z)
      generalize x_bd (x_pas t) (fun _ t1 => u t1) = r at o
      cases r with
      | inl a => exact o
      | inr a =>
        obtain ⟨o1, h', F', A', x', o2, T', g', s'⟩ := o
        rw [o2]
        exact k_tmLoop hU hp hd hD z0 a.2 h' F' A' x' _ z (by omega) (by omega) T' g' (by omega) s'
    · rw [if_neg c1, if_neg c1]
      exact ⟨ht, h, F, A, x, rfl, T, g, s⟩
theorem k_partD {n : Nat} (z : Nat) (h : ix_H) (F A : Nat → Nat → Int32) (t x : Nat) (T : gT h F A D cv tk e t op wi w) : ix_lp (ix_run iy_P N (n + 8)) stX3_part (z + 1) 3 [(0, ix_R (some (D 3))), (1, ix_R (some x))] [] (hw h F A) = if x_isM (x_kd tk t) = true then kLb 165 (ix_run iy_P N (n + 8)) (ix_lp (ix_run iy_P N (n + 8)) stX3_part z) (D 3) (some x) (hw h F A) else some (.inl (some (ix_R (some x))), hw h F A) := by
  have hs := T.1
  have e1 := k_isSign T N (n + 7) (k := 10) (by decide)
  have e2 := k_isSign T N (n + 7) (k := 15) (by decide)
  have e3 := k_isSign T N (n + 7) (k := 16) (by decide)
  rw [show k_wh 10 = nI 42 from rfl] at e1
  rw [show k_wh 15 = nI 47 from rfl] at e2
  rw [show k_wh 16 = nI 37 from rfl] at e3
  rw [lX3_part_3]
  unfold jX3_part_3
  rw [k_isr3 hs, hw_cI e1]
  dsimp only
  by_cases c1 : x_kd tk t = 10
  · rw [if_pos c1, if_neg (by decide), if_pos (by unfold x_isM; rw [c1]; rfl), kLb_part]
  · rw [if_neg c1, if_pos rfl, k_isr3 hs, hw_cI e2]
    dsimp only
    by_cases c2 : x_kd tk t = 15
    · rw [if_pos c2, if_neg (by decide), if_pos (by unfold x_isM; rw [c2]; rfl), kLb_part]
    · rw [if_neg c2, if_pos rfl, k_isr3 hs, hw_cI e3]
      dsimp only
      by_cases c3 : x_kd tk t = 16
      · rw [if_pos c3, if_neg (by decide), if_pos (by unfold x_isM; rw [c3]; rfl), kLb_part]
      · rw [if_neg c3, if_pos rfl, if_neg (by
          unfold x_isM
          intro q
          rcases of_decide_eq_true q with q | q | q
          · exact c1 q
          · exact c2 q
          · exact c3 q)]
theorem k_sumD {n : Nat} (z : Nat) (h : ix_H) (F A : Nat → Nat → Int32) (t x : Nat) (T : gT h F A D cv tk e t op wi w) : ix_lp (ix_run iy_P N (n + 8)) stX3_sum (z + 1) 3 [(0, ix_R (some (D 3))), (1, ix_R (some x))] [] (hw h F A) = if x_isA (x_kd tk t) = true then kLb 164 (ix_run iy_P N (n + 8)) (ix_lp (ix_run iy_P N (n + 8)) stX3_sum z) (D 3) (some x) (hw h F A) else some (.inl (some (ix_R (some x))), hw h F A) := by
  have hs := T.1
  have e1 := k_isSign T N (n + 7) (k := 8) (by decide)
  have e2 := k_isSign T N (n + 7) (k := 9) (by decide)
  rw [show k_wh 8 = nI 43 from rfl] at e1
  rw [show k_wh 9 = nI 45 from rfl] at e2
  rw [lX3_sum_3]
  unfold jX3_sum_3
  rw [k_isr3 hs, hw_cI e1]
  dsimp only
  by_cases c1 : x_kd tk t = 8
  · rw [if_pos c1, if_neg (by decide), if_pos (by unfold x_isA; rw [c1]; rfl), kLb_sum]
  · rw [if_neg c1, if_pos rfl, k_isr3 hs, hw_cI e2]
    dsimp only
    by_cases c2 : x_kd tk t = 9
    · rw [if_pos c2, if_neg (by decide), if_pos (by unfold x_isA; rw [c2]; rfl), kLb_sum]
    · rw [if_neg c2, if_pos rfl, if_neg (by
        unfold x_isA
        intro q
        rcases of_decide_eq_true q with q | q
        · exact c1 q
        · exact c2 q)]
theorem k_partW {n : Nat} {u : Nat → xR xC} (hN : 1000 ≤ N) (hU : uWk D cv tk e wi w N 165 u op (n + 8)) : uWk D cv tk e wi w N 164 (x_part tk u) op (n + 9) := by
  intro h F A t T
  have hs := T.1
  have o := hU h F A t T
  rw [rX3_part N (n + 8)]
  unfold bX3_part x_part
  rw [k_isr3 hs]
  generalize u t = r at o
  cases r with
  | inl a =>
    obtain ⟨o1, h', F', A', o2, o3⟩ := o
    exact ⟨o1, h', F', A', by rw [o2]; rfl, o3⟩
  | inr a =>
    obtain ⟨o1, h', F', A', x, o2, T', g', s'⟩ := o
    rw [o2, ok_xR, ← lX3_part_3]
    exact k_tmLoop hU (fun k hk => by
      unfold x_isM at hk
      rcases of_decide_eq_true hk with q | q | q <;> rw [q] <;> decide) k_partD hs.2.2.2.2 (401 - a.2) a.2 h' F' A' x a.1 (N + 1) (by omega) (by omega) T' g' o1 s'
theorem k_sumW {n : Nat} {u : Nat → xR xC} (hN : 1000 ≤ N) (hU : uWk D cv tk e wi w N 164 (x_part tk u) op (n + 8)) : uWk D cv tk e wi w N 163 (x_sum tk u) op (n + 9) := by
  intro h F A t T
  have hs := T.1
  have o := hU h F A t T
  rw [rX3_sum N (n + 8)]
  unfold bX3_sum x_sum
  rw [k_isr3 hs]
  generalize x_part tk u t = r at o
  cases r with
  | inl a =>
    obtain ⟨o1, h', F', A', o2, o3⟩ := o
    exact ⟨o1, h', F', A', by rw [o2]; rfl, o3⟩
  | inr a =>
    obtain ⟨o1, h', F', A', x, o2, T', g', s'⟩ := o
    rw [o2, ok_xR, ← lX3_sum_3]
    exact k_tmLoop hU (fun k hk => by
      unfold x_isA at hk
      rcases of_decide_eq_true hk with q | q <;> rw [q] <;> decide) k_sumD hs.2.2.2.2 (401 - a.2) a.2 h' F' A' x a.1 (N + 1) (by omega) (by omega) T' g' o1 s'
/-- brackets -/
theorem gT.opn (T : gT h F A D cv tk e t op wi w) (op' : Nat) : gT h (hw_R F (D 3) (hw_U (F (D 3)) 4 (nI op'))) A D cv tk e t op' wi w := by
  obtain ⟨u1, u2, u3, u4, u5, u6, u7, u8⟩ := T
  have g : gO D h F A h (hw_R F (D 3) (hw_U (F (D 3)) 4 (nI op'))) A 0 := (gO.refl D h _ A).fR (.inr (.inr rfl)) _
  refine ⟨u1, u2.gO u1 g, u3, u4, ?_, ?_, ?_, ?_⟩
  · rw [hw_R_same, hw_U_ne _ _ (by omega)]
    exact u5
  · rw [hw_R_same, hw_U_same]
  · rw [hw_R_same, hw_U_ne _ _ (by omega)]
    exact u7
  · unfold gW at *
    cases w with
    | none =>
      show hw_R F (D 3) _ (D 3) 6 = nI 0
      rw [hw_R_same, hw_U_ne _ _ (by omega)]
      exact u8
    | some x =>
      obtain ⟨v1, v2, v3⟩ := u8
      refine ⟨v1, ?_, ?_⟩
      · rw [hw_R_same, hw_U_ne _ _ (by omega)]
        exact v2
      · rw [hw_R_same, hw_U_ne _ _ (by omega)]
        exact v3
/-- a term's leaf: a new cell of one number -/
theorem k_leafT (T : gT h F A D cv tk e t op wi w) {c : Nat} (v : Int32) {cd : xC} (h1 : cd.length = 1) (hc : (c = 11 ∧ cd = [(0, v)]) ∨ (c = 12 ∧ ∃ j, j < 6 ∧ v = nI j ∧ cd = [(1, nI j)])) : gT (ix_nwO h c 1) (hw_R (hw_R F (ix_sz h) (fun _ => 0)) (ix_sz h) (hw_U (hw_R F (ix_sz h) (fun _ => 0) (ix_sz h)) 0 v)) A D cv tk e t op wi w ∧ gN h F A (ix_nwO h c 1) (hw_R (hw_R F (ix_sz h) (fun _ => 0)) (ix_sz h) (hw_U (hw_R F (ix_sz h) (fun _ => 0) (ix_sz h)) 0 v)) A 1 ∧ gSx (ix_nwO h c 1) (hw_R (hw_R F (ix_sz h) (fun _ => 0)) (ix_sz h) (hw_U (hw_R F (ix_sz h) (fun _ => 0) (ix_sz h)) 0 v)) (rg (ix_sz h) (ix_sz (ix_nwO h c 1))) (ix_sz h) cd := by
  have g : gN h F A (ix_nwO h c 1) (hw_R (hw_R F (ix_sz h) (fun _ => 0)) (ix_sz h) (hw_U (hw_R F (ix_sz h) (fun _ => 0) (ix_sz h)) 0 v)) A 1 := ((gO.refl _ h F A).nwO c (by omega)).fR (.inl (Nat.le_refl _)) _
  refine ⟨T.ofN g, g, ?_⟩
  have tg : ix_tg (ix_nwO h c 1) (ix_sz h) = c := s_tgO h c 1
  have f0 : hw_R (hw_R F (ix_sz h) (fun _ => 0)) (ix_sz h) (hw_U (hw_R F (ix_sz h) (fun _ => 0) (ix_sz h)) 0 v) (ix_sz h) 0 = v := by rw [hw_R_same, hw_U_same]
  show gS _ _ _ cd.length _ _
  rw [h1]
  refine ⟨⟨Nat.le_refl _, Nat.lt_succ_self _⟩, ?_⟩
  rw [tg, f0]
  rcases hc with ⟨a, b⟩ | ⟨a, b⟩
  · exact .inl ⟨a, b⟩
  · exact .inr (.inl ⟨a, b⟩)
theorem k_given {a : Nat} (ht : ix_tg h a = 11) (N d : Nat) (v : Int32) : ix_run iy_P N (d + 2) 123 [ix_R (some a), ix_I v] (hw h F A) = some (.inl none, hw h (hw_R F a (hw_U (F a) 0 v)) A) := by
  have e1 : ix_run iy_P N (d + 1) 122 [ix_R (some a)] (hw h F A) = some (.inl none, hw h F A) := by
    rw [rX11_init N d]
    rfl
  rw [rX12_init N (d + 1)]
  unfold bX12_init
  rw [c_isr ht (by decide), hw_cV e1, c_is ht, hw_bdF]
theorem k_var {a : Nat} (ht : ix_tg h a = 12) (N d : Nat) (v : Int32) : ix_run iy_P N (d + 2) 125 [ix_R (some a), ix_I v] (hw h F A) = some (.inl none, hw h (hw_R F a (hw_U (F a) 0 v)) A) := by
  have e1 : ix_run iy_P N (d + 1) 122 [ix_R (some a)] (hw h F A) = some (.inl none, hw h F A) := by
    rw [rX11_init N d]
    rfl
  rw [rX13_init N (d + 1)]
  unfold bX13_init
  rw [c_isr ht (by decide), hw_cV e1, c_is ht, hw_bdF]
/-- what stands before a bracket is no int, no variable -/
theorem k_unit45 {n k : Nat} (hop : op + k = 6) (hS : ∀ k', k = k' + 1 → uWk D cv tk e wi w N 163 (x_sum tk (x_unit tk k')) (op + 1) (n + 8)) (T : gT h F A D cv tk e t op wi w) (h2 : x_kd tk t ≠ 2) (h32 : ¬ (32 ≤ x_kd tk t ∧ x_kd tk t ≤ 37)) (K : ix_K) : gTm D cv tk e op wi w h F A t (jX3_unit_45 (ix_run iy_P N (n + 8)) K (D 3) (hw h F A)) (x_unit tk k t) := by
  have hs := T.1
  have t4 := T.2.2.2.1.2.1
  have e1 := k_isSign T N (n + 7) (k := 6) (by decide)
  rw [show k_wh 6 = nI 40 from rfl] at e1
  unfold jX3_unit_45
  rw [k_isr3 hs, hw_cI e1]
  dsimp only
  by_cases c6 : x_kd tk t = 6
  · rw [if_pos c6, if_neg (by decide), k_is3 hs, hw_fI, T.2.2.2.2.2.1]
    cases k with
    | zero =>
      have eo : op = 6 := by omega
      subst eo
      unfold x_unit
      rw [if_neg h2, if_neg h32, if_pos c6, if_pos rfl, k_isr3 hs, k_thrE T N (n + 5) 2]
      exact oF.fl (gO.refl D h F A) (Nat.le_refl t) (by omega)
    | succ k =>
      unfold x_unit
      rw [if_neg h2, if_neg h32, if_pos c6, if_neg (by rw [hw_eq (by omega) (by omega)]; omega), k_is3 hs, k_is3 hs, T.2.2.2.2.2.1, nI_add, hw_bdF]
      have T1 := T.opn (op + 1)
      have g1 : gO D h F A h (hw_R F (D 3) (hw_U (F (D 3)) 4 (nI (op + 1)))) A 0 := (gO.refl D h F A).fR (.inr (.inr rfl)) _
      generalize hw_R F (D 3) (hw_U (F (D 3)) 4 (nI (op + 1))) = F1 at T1 g1 ⊢
      rw [k_isr3 hs, k_passE T1 N (n + 4)]
      unfold x_pas
      by_cases c4 : t = 400
      · rw [if_pos c4, if_pos c4, oF_xV]
        exact oF.fl g1 (Nat.le_refl t) (by omega)
      · rw [if_neg c4, if_neg c4, ok_xV, k_isr3 hs]
        have T2 := T1.pass (by omega) (by omega) (by omega)
        have g2 : gO D h F A h (kPs F1 D (t + 1)) A 0 := g1.fR (.inr (.inr rfl)) _
        generalize kPs F1 D (t + 1) = F2 at T2 g2 ⊢
        have o := hS k rfl h F2 A (t + 1) T2
        show gTm D cv tk e op wi w h F A t _ (x_bd (x_sum tk (x_unit tk k) (t + 1)) fun c t2 => x_bd (x_must tk 7 t2) fun _ t3 => .inr (c, t3))
        generalize x_sum tk (x_unit tk k) (t + 1) = r at o
        cases r with
        | inl a =>
          obtain ⟨o1, h', F', A', o2, o3, o4, o5⟩ := o
          refine ⟨by omega, h', F', A', ?_, o3, o4, (g2.trans o5).mono (by omega)⟩
          rw [o2]
          rfl
        | inr a =>
          obtain ⟨o1, h3, F3, A3, x, o2, T3, g3, s3⟩ := o
          rw [o2, ok_xR, k_isr3 T3.1]
          have es := k_signE T3 N (n + 3) (k := 7) (by decide)
          rw [show k_wh 7 = nI 41 from rfl] at es
          have gt := g2.trans g3
          rw [es]
          show gTm D cv tk e op wi w h F A t _ (x_bd (x_must tk 7 a.2) fun _ t3 => .inr (a.1, t3))
          unfold x_must x_pas
          have a4 := T3.2.2.2.1.2.1
          by_cases c7 : x_kd tk a.2 = 7
          · rw [if_pos c7, if_pos c7]
            by_cases c5 : a.2 = 400
            · rw [if_pos c5, if_pos c5, oF_xV]
              exact oF.fl gt (by omega) (by omega)
            · rw [if_neg c5, if_neg c5, ok_xV]
              have T4 := (T3.pass (by omega) (by omega) (by omega)).opn op
              have T3p := T3.pass (by omega) (by omega) (by omega)
              rw [k_is3 T3.1, k_is3 T3.1, hw_fI, T3p.2.2.2.2.2.1, hw_sub (by omega), Nat.add_sub_cancel, hw_bdF]
              refine ⟨by show t < a.2 + 1; omega, h3, _, A3, x, rfl, T4, ((gt.fR (.inr (.inr rfl)) _).fR (.inr (.inr rfl)) _).mono (by show _ ≤ 2 * (a.2 + 1 - t); omega), ?_⟩
              exact s3.ofO (((gO.refl D h3 F3 A3).fR (.inr (.inr rfl)) _).fR (.inr (.inr rfl)) _) ⟨hs.2.2.2.2 1 (by omega), hs.2.2.2.2 3 (by omega)⟩
          · rw [if_neg c7, if_neg c7, oF_xV]
            exact oF.fl gt (by omega) (by omega)
  · rw [if_neg c6, if_pos rfl, k_isr3 hs, k_thrE T N (n + 5) 1]
    have ex : x_unit tk k t = .inl (1, t) := by
      cases k with
      | zero =>
        unfold x_unit
        rw [if_neg h2, if_neg h32, if_neg c6]
      | succ k =>
        unfold x_unit
        rw [if_neg h2, if_neg h32, if_neg c6]
    rw [ex]
    exact oF.fl (gO.refl D h F A) (Nat.le_refl t) (by omega)
end
