/-! T7: the reference: terms whole -/
set_option maxRecDepth 100000
section
variable {h : ix_H} {m : Nat} {F A : Nat → Nat → Int32} {tk : Nat → tK} {e t n o N d : Nat} {cal : ix_C}
theorem x_fl_app (M M2 : List Nat) : x_fl (M ++ M2) = x_fl M ++ x_fl M2 := by
  unfold x_fl
  rw [List.map_append]
theorem pO.back {F1 A1 : Nat → Nat → Int32} {V : List Nat} {c0 : xC} {z t z1 t1 : Nat} {ok : List Nat → Nat → Prop} {out : ix_O} {r : xR xC} (q : pQX m F A F1 A1) (ht : t ≤ t1) (hz : z + t ≤ z1 + t1) (p : pO cal h m tk e F1 A1 o V c0 z1 t1 ok out r) : pO cal h m tk e F A o V c0 z t ok out r := by
  cases r with
  | inl a =>
    obtain ⟨F', A', e', q', f⟩ := p
    exact ⟨F', A', e', q.trans q', f⟩
  | inr a =>
    obtain ⟨z', F', A', M, c1, e', q', g, ec, k, p1, p2⟩ := p
    exact ⟨z', F', A', M, c1, e', q.trans q', g, ec, k, by omega, by omega⟩
/-- what a level leaves: the signs that still wait, the next token -/
def pOk (s : Nat) (R : Nat → Prop) (p : Nat → Bool) (tk : Nat → tK) (M : List Nat) (t : Nat) : Prop := M.length ≤ 2 - s ∧ (∀ x ∈ M, pQ s x) ∧ R (x_kd tk t) ∧ p (x_kd tk t) = false
theorem p_loop (hP : mSp h m) (hN : 1000 ≤ N) {s : Nat} (hs : s ≤ 1) {u : Nat → xR xC} {okU : List Nat → Nat → Prop} {stU : List Nat → Prop} {R : Nat → Prop} {p : Nat → Bool} (hU : pWk (ix_run iy_P N (d + 3)) h m tk e u o (s + 1) stU okU)
    (hp : ∀ k, p k = true → s = 1 ∧ x_isM k = true ∨ s = 0 ∧ x_isA k = true) (hst : ∀ k V, p k = true → stU (k :: V)) (hok : ∀ M t, okU M t → M.length ≤ 1 - s ∧ (∀ x ∈ M, pQ s x) ∧ R (x_kd tk t)) (ho : o ≤ 6) {V : List Nat} {c0 : xC} (hV : V.length ≤ 3 * o + s) (hZ : pZ s V) :
    ∀ z0 t c M c1 F A z, 401 ≤ z0 + t → pG F A m tk e t o (M ++ V) c1 → c1 ++ x_fl M = c0 ++ c → M.length ≤ 2 - s → (∀ x ∈ M, pQ s x) → R (x_kd tk t) → 402 ≤ z + t → pO (ix_run iy_P N (d + 3)) h m tk e F A o V c0 z t (pOk s R p tk) (pHd (ix_run iy_P N (d + 3)) m z 54 (hw h F A)) (x_lp tk u p z0 t c) := by
  intro z0
  induction z0 with
  | zero =>
    intro t c M c1 F A z hz0 hG
    have := hG.1.2.2.1
    omega
  | succ z0 ih =>
    intro t c M c1 F A z hz0 hG hc hM hq hR hz
    unfold x_lp
    by_cases w : p (x_kd tk t) = true
    · rw [if_pos w]
      have hpk := hp _ w
      have hop := p_op (d := d) hP hN hs hG hz hpk hq hZ (by rw [List.length_append]; omega)
      generalize x_pas t = r at hop ⊢
      cases r with
      | inl a => exact hop
      | inr a =>
        obtain ⟨a0, t1⟩ := a
        obtain ⟨ea, F1, A1, e1, q1, G1⟩ := hop
        obtain rfl : t1 = t + 1 := ea
        rw [e1]
        have t4 := hG.1.2.2.1
        have hu := hU (z - 1) F1 A1 (x_kd tk t :: V) (c1 ++ x_fl M) (t + 1) G1 (by omega) (by rw [List.length_cons]; omega) (hst _ _ w)
        refine pO.back (z1 := z - 1) (t1 := t + 1) q1 (by omega) (by omega) ?_
        show pO (ix_run iy_P N (d + 3)) h m tk e F1 A1 o V c0 (z - 1) (t + 1) (pOk s R p tk) (pHd (ix_run iy_P N (d + 3)) m (z - 1) 14 (hw h F1 A1)) (x_bd (u (t + 1)) fun c2 t2 => x_lp tk u p z0 t2 (c ++ c2 ++ [(x_op (x_kd tk t), nI 0)]))
        generalize u (t + 1) = r at hu ⊢
        cases r with
        | inl b => exact hu
        | inr b =>
          obtain ⟨z', F2, A2, M2, c2, e2, q2, G2, ec, k2, p1, p2⟩ := hu
          obtain ⟨l2, s2, r2⟩ := hok _ _ k2
          obtain ⟨b, t2⟩ := b
          rw [e2]
          have hsh : M2 ++ x_kd tk t :: V = (M2 ++ [x_kd tk t]) ++ V := by rw [List.append_assoc]; rfl
          rw [hsh] at G2
          refine pO.back q2 p1 p2 (ih t2 (c ++ b ++ [(x_op (x_kd tk t), nI 0)]) (M2 ++ [x_kd tk t]) c2 F2 A2 z' (by dsimp only at p1; omega) G2 ?_ ?_ ?_ r2 (by dsimp only at p2; omega))
          · rw [x_fl_app, ← List.append_assoc, ec, hc]
            show c0 ++ c ++ b ++ [(x_op (x_kd tk t), nI 0)] = _
            simp only [List.append_assoc]
          · rw [List.length_append, List.length_singleton]
            omega
          · intro x hx
            rcases List.mem_append.mp hx with hx | hx
            · exact s2 x hx
            · rw [List.mem_singleton.mp hx]
              unfold x_isM x_isA at hpk
              rw [decide_eq_true_iff, decide_eq_true_iff] at hpk
              exact ⟨by omega, fun _ => by omega⟩
    · rw [if_neg w]
      exact ⟨z, F, A, M, c1, rfl, mQ.refl _ _ _ _ _, hG, hc, ⟨hM, hq, hR, by simpa using w⟩, Nat.le_refl _, Nat.le_refl _⟩
theorem p_level (hP : mSp h m) (hN : 1000 ≤ N) {s : Nat} (hs : s ≤ 1) {u : Nat → xR xC} {okU : List Nat → Nat → Prop} {stU : List Nat → Prop} {R : Nat → Prop} {p : Nat → Bool} (hU : pWk (ix_run iy_P N (d + 3)) h m tk e u o (s + 1) stU okU)
    (hp : ∀ k, p k = true → s = 1 ∧ x_isM k = true ∨ s = 0 ∧ x_isA k = true) (hst : ∀ k V, p k = true → stU (k :: V)) (hst0 : ∀ V, pZ s V → stU V) (hok : ∀ M t, okU M t → M.length ≤ 1 - s ∧ (∀ x ∈ M, pQ s x) ∧ R (x_kd tk t)) (ho : o ≤ 6) :
    pWk (ix_run iy_P N (d + 3)) h m tk e (fun t => x_bd (u t) fun c t1 => x_lp tk u p (401 - t1) t1 c) o s (pZ s) (pOk s R p tk) := by
  intro z F A V c0 t hG hz hV hZ
  have hu := hU z F A V c0 t hG hz (by omega) (hst0 V hZ)
  dsimp only
  generalize u t = r at hu ⊢
  cases r with
  | inl b => exact hu
  | inr b =>
    obtain ⟨z', F2, A2, M2, c2, e2, q2, G2, ec, k2, p1, p2⟩ := hu
    obtain ⟨l2, s2, r2⟩ := hok _ _ k2
    rw [e2]
    exact pO.back q2 p1 p2 (p_loop (V := V) (c0 := c0) hP hN hs hU hp hst hok ho hV hZ (401 - b.2) b.2 b.1 M2 c2 F2 A2 z' (by omega) G2 ec (by omega) s2 r2 (by omega))
theorem p_81N (hP : mSp h m) (hT : pT F A m tk e t) (hM : x_isM (x_kd tk t) = false) (hA : x_isA (x_kd tk t) = false) (N d : Nat) (K : ix_K) : jX9_expression_81 (ix_run iy_P N (d + 3)) K m (nI 0) (hw h F A) = jX9_expression_106 (ix_run iy_P N (d + 3)) K m (nI 0) (nI 0) (hw h F A) := by
  unfold x_isM at hM
  unfold x_isA at hA
  rw [decide_eq_false_iff_not] at hM hA
  unfold jX9_expression_81
  rw [mq_isr hP, hw_cI (p_is hP hT N (d + 2) (k := 8) (by omega))]
  dsimp only
  rw [if_neg (show ¬ x_kd tk t = 8 by omega), if_pos rfl, mq_isr hP, hw_cI (p_is hP hT N (d + 2) (k := 9) (by omega))]
  dsimp only
  rw [if_neg (show ¬ x_kd tk t = 9 by omega), if_pos rfl, mq_isr hP, hw_cI (p_is hP hT N (d + 2) (k := 10) (by omega))]
  dsimp only
  rw [if_neg (show ¬ x_kd tk t = 10 by omega), if_pos rfl, mq_isr hP, hw_cI (p_is hP hT N (d + 2) (k := 15) (by omega))]
  dsimp only
  rw [if_neg (show ¬ x_kd tk t = 15 by omega), if_pos rfl, mq_isr hP, hw_cI (p_is hP hT N (d + 2) (k := 16) (by omega))]
  dsimp only
  rw [if_neg (show ¬ x_kd tk t = 16 by omega), if_pos rfl]
/-- a term's end: no sign, no bracket -/
theorem p_out (hP : mSp h m) (hN : 1000 ≤ N) {M V : List Nat} {c1 : xC} {z : Nat} (hG : pG F A m tk e t o (M ++ V) c1) (hl : (M ++ V).length ≤ 40) (ho : o ≤ 6) (hM : x_isM (x_kd tk t) = false) (hA : x_isA (x_kd tk t) = false) (h7 : x_kd tk t ≠ 7 ∨ o = 0) (hq : ∀ x ∈ M, pQ 0 x) (hZ : pZ 0 V) (hz : 0 < z) :
    ∃ F' A', pHd (ix_run iy_P N (d + 3)) m z 54 (hw h F A) = some (.inl none, hw h F' A') ∧ pQX m F A F' A' ∧ (o ≠ 0 → pF F' m tk 1 t) ∧ (o = 0 → pT F' A' m tk e t ∧ F' m 12 = nI 0 ∧ F' m 27 = nI (c1 ++ x_fl M).length ∧ pC A' m (c1 ++ x_fl M)) := by
  obtain ⟨hT, hb, h12, h31, hS, h27, hC⟩ := hG
  have t4 := hT.2.2.1
  rw [List.length_append] at hb
  obtain ⟨z, rfl⟩ : ∃ w, z = w + 1 := ⟨z - 1, by omega⟩
  have e54 : pHd (ix_run iy_P N (d + 3)) m (z + 1) 54 (hw h F A) = jX9_expression_106 (ix_run iy_P N (d + 3)) (ix_lp (ix_run iy_P N (d + 3)) stX9_expression z) m (nI 0) (nI 0) (hw h F A) := by
    unfold pHd
    rw [lX9_expression_54]
    unfold jX9_expression_54
    rw [mq_isr hP, hw_cI (p_is hP hT N (d + 2) (k := 7) (by omega))]
    dsimp only
    rw [p_81N hP hT hM hA N d]
    by_cases w7 : x_kd tk t = 7
    · rw [if_pos w7, if_neg (by decide), mq_is hP, hw_fI, h12, if_pos (by rw [hw_le (by omega) (by omega)]; rcases h7 with h7 | h7; exact absurd w7 h7; omega)]
    · rw [if_neg w7, if_pos rfl]
  rw [e54]
  unfold jX9_expression_106 jX9_expression_117
  rw [if_pos rfl, mq_is hP, hw_fI, h12]
  by_cases w0 : o = 0
  · rw [if_pos (by rw [hw_le (by omega) (by omega)]; omega), mq_isr hP]
    obtain ⟨F1, A1, e1, q1, g31, g27, gC⟩ := p_comesOut (F := F) (A := A) hP hN (d + 1) (Nat.zero_le 1) hZ hq (by omega) (by omega) h31 hS h27 hC
    rw [hw_cV e1]
    exact ⟨F1, A1, rfl, q1.mono rfl rfl, fun x => absurd w0 x, fun _ => ⟨hT.of q1 rfl rfl, by rw [q1.2.1 12 rfl, h12, w0], g27, gC⟩⟩
  · rw [if_neg (by rw [hw_le (by omega) (by omega)]; omega), mq_isr hP]
    obtain ⟨F0, e0, q0, f0⟩ := p_fail hP hT N (d + 2) (k := 1) (by omega) (by omega)
    obtain ⟨F1, A1, e1, q1, g31, g27, gC⟩ := p_comesOut (F := F0) (A := A) hP hN (d + 1) (Nat.zero_le 1) hZ hq (c := c1) (by omega) (by omega) (by rw [q0.2.1 31 rfl]; exact h31) hS (by rw [q0.2.1 27 rfl]; exact h27) hC
    rw [hw_cV e0, mq_isr hP, hw_cV e1]
    exact ⟨F1, A1, rfl, (q0.mono rfl rfl).trans (q1.mono rfl rfl), fun _ => f0.of q1 rfl, fun x => absurd x w0⟩
/-- a bracket closes -/
theorem p_close (hP : mSp h m) (hN : 1000 ≤ N) {M V : List Nat} {c1 : xC} {z : Nat} (hG : pG F A m tk e t (o + 1) (M ++ 6 :: V) c1) (hl : (M ++ 6 :: V).length ≤ 40) (ho : o < 6) (h7 : x_kd tk t = 7) (hq : ∀ x ∈ M, pQ 0 x) (hz : 402 ≤ z + t) :
    match x_pas t with
    | .inl a => ∃ F' A', pHd (ix_run iy_P N (d + 3)) m z 54 (hw h F A) = some (.inl none, hw h F' A') ∧ pQX m F A F' A' ∧ pF F' m tk a.1 a.2
    | .inr a => a.2 = t + 1 ∧ ∃ F' A', pHd (ix_run iy_P N (d + 3)) m z 54 (hw h F A) = pHd (ix_run iy_P N (d + 3)) m (z - 1) 54 (hw h F' A') ∧ pQX m F A F' A' ∧ pG F' A' m tk e (t + 1) o V (c1 ++ x_fl M) := by
  obtain ⟨hT, hb, h12, h31, hS, h27, hC⟩ := hG
  have t4 := hT.2.2.1
  rw [List.length_append, List.length_cons] at hb
  have hl' := hl
  rw [List.length_append, List.length_cons] at hl'
  obtain ⟨z, rfl⟩ : ∃ w, z = w + 2 := ⟨z - 2, by omega⟩
  obtain ⟨F1, A1, e1, q1, g31, g27, gC⟩ := p_comesOut (F := F) (A := A) hP hN (d + 1) (Nat.zero_le 1) (W := 6 :: V) (.inl rfl) hq (by omega) (by omega) h31 hS h27 hC
  rw [List.length_cons] at g31
  have q2 : mQ [12, 31] [] m F1 A1 (hw_R (hw_R F1 m (hw_U (F1 m) 31 (nI V.length))) m (hw_U (hw_U (F1 m) 31 (nI V.length)) 12 (nI o))) A1 := by
    have := ((mQ.refl [12, 31] [] m F1 A1).fR (j := 31) (v := nI V.length) rfl).fR (j := 12) (v := nI o) rfl
    rw [hw_R_same] at this
    exact this
  obtain ⟨F3, e3, q3, f3⟩ := p_goesOn hP ((hT.of q1 rfl rfl).of q2 rfl rfl) (show x_kd tk t ≠ 0 by omega) N (d + 1)
  have e54 : pHd (ix_run iy_P N (d + 3)) m (z + 2) 54 (hw h F A) = pHd (ix_run iy_P N (d + 3)) m (z + 1) 54 (hw h F3 A1) := by
    unfold pHd
    rw [lX9_expression_54 _ (z + 1)]
    unfold jX9_expression_54
    rw [mq_isr hP, hw_cI (p_is hP hT N (d + 2) (k := 7) (by omega))]
    dsimp only
    rw [if_pos h7, if_neg (by decide), mq_is hP, hw_fI, h12, if_neg (by rw [hw_le (by omega) (by omega)]; omega), mq_isr hP, hw_cV e1, mq_is hP, mq_is hP, hw_bdF, mq_is hP, mq_is hP, hw_bdF, hw_fI, hw_fI, hw_R_same, hw_U_ne _ _ (show 12 ≠ 31 by omega), q1.2.1 12 rfl, h12, g31, hw_sub (by omega), hw_sub (by omega), Nat.add_sub_cancel, Nat.add_sub_cancel, mq_isr hP, hw_cV e3]
  rw [e54, show z + 2 - 1 = z + 1 from rfl]
  have hq3 : pQX m F A F3 A1 := (q1.mono rfl rfl).trans ((q2.mono rfl rfl).trans (q3.mono rfl rfl))
  have sV : pS (A1 (m + 17)) V := by rw [q1.2.2.1 17 rfl]; exact (pS.drop M hS).2.2
  have r31 : F3 m 31 = nI V.length := by rw [q3.2.1 31 rfl, hw_R_same, hw_U_ne _ _ (by omega), hw_U_same]
  have r12 : F3 m 12 = nI o := by rw [q3.2.1 12 rfl, hw_R_same, hw_U_same]
  have r27 : F3 m 27 = nI (c1 ++ x_fl M).length := by rw [q3.2.1 27 rfl, q2.2.1 27 rfl]; exact g27
  have hlc : (c1 ++ x_fl M).length + V.length ≤ t := by
    rw [List.length_append]
    unfold x_fl
    rw [List.length_map]
    omega
  unfold x_pas at f3 ⊢
  by_cases w4 : t = 400
  · rw [if_pos w4] at f3 ⊢
    obtain ⟨F4, A4, e4, q4, f4⟩ := p_54F (F := F3) (A := A1) hP f3 hN (V := V) (by omega) (by omega) r31 sV r27 gC d z
    exact ⟨F4, A4, e4, hq3.trans q4, f4⟩
  · rw [if_neg w4] at f3 ⊢
    exact ⟨rfl, F3, A1, rfl, hq3, f3, by omega, r12, r31, sV, r27, gC⟩
/-- a bracket opens -/
theorem p_open (hP : mSp h m) (hN : 1000 ≤ N) {V : List Nat} {c0 : xC} {z : Nat} (hG : pG F A m tk e t o V c0) (hl : V.length ≤ 40) (ho : o ≤ 6) (h6 : x_kd tk t = 6) (hz : 402 ≤ z + t) :
    match (if o = 6 then .inl (2, t) else x_pas t : xR Unit) with
    | .inl a => ∃ F' A', pHd (ix_run iy_P N (d + 3)) m z 14 (hw h F A) = some (.inl none, hw h F' A') ∧ pQX m F A F' A' ∧ pF F' m tk a.1 a.2
    | .inr a => a.2 = t + 1 ∧ ∃ F' A', pHd (ix_run iy_P N (d + 3)) m z 14 (hw h F A) = pHd (ix_run iy_P N (d + 3)) m (z - 1) 14 (hw h F' A') ∧ pQX m F A F' A' ∧ pG F' A' m tk e (t + 1) (o + 1) (6 :: V) c0 := by
  obtain ⟨hT, hb, h12, h31, hS, h27, hC⟩ := hG
  have t4 := hT.2.2.1
  obtain ⟨z, rfl⟩ : ∃ w, z = w + 2 := ⟨z - 2, by omega⟩
  -- behind goesOn
  have tail : ∀ (F1 F3 : Nat → Nat → Int32), F1 m 12 = nI o → ix_run iy_P N (d + 3) 252 [ix_R (some m)] (hw h (hw_R F1 m (hw_U (F1 m) 12 (nI (o + 1)))) A) = some (.inl none, hw h F3 A) → F3 m 31 = nI V.length → jX9_expression_26 (ix_run iy_P N (d + 3)) (ix_lp (ix_run iy_P N (d + 3)) stX9_expression (z + 1)) m (nI 0) (hw h F1 A) = pHd (ix_run iy_P N (d + 3)) m (z + 1) 14 (hw h (hw_R F3 m (hw_U (F3 m) 31 (nI (V.length + 1)))) (hw_R A (m + 17) (hw_U (A (m + 17)) V.length (nI 6)))) := fun F1 F3 g12 e3 g31 => by
    unfold jX9_expression_26 pHd
    rw [mq_is hP, mq_is hP, hw_bdF, hw_fI, g12, nI_add, mq_isr hP, hw_cV e3, mq_is hP, mq_is hP, mp_wr30 hP, hw_fI, g31, hw_in (by omega) (by omega), cond_true, hw_bdA, mq_is hP, mq_is hP, hw_bdF, hw_cl (by omega), hw_fI, g31, nI_add]
  have qW : ∀ (F3 : Nat → Nat → Int32), mQ [31] [17] m F3 A (hw_R F3 m (hw_U (F3 m) 31 (nI (V.length + 1)))) (hw_R A (m + 17) (hw_U (A (m + 17)) V.length (nI 6))) := fun F3 => ((mQ.refl _ _ _ _ _).aR (k := 17) rfl (by omega)).fR rfl
  by_cases w6 : o = 6
  · rw [if_pos w6]
    obtain ⟨F0, e0, q0, f0⟩ := p_fail hP hT N (d + 2) (k := 2) (by omega) (by omega)
    have q1 : mQ [12] [] m F0 A (hw_R F0 m (hw_U (F0 m) 12 (nI (o + 1)))) A := (mQ.refl _ _ _ _ _).fR rfl
    obtain ⟨F3, e3, q3⟩ := p_goesOnF hP (f0.of q1 rfl) N (d + 1)
    have f3 : pF F3 m tk 2 t := (f0.of q1 rfl).of q3 rfl
    have e26 := tail F0 F3 (by rw [q0.2.1 12 rfl]; exact h12) e3 (by rw [q3.2.1 31 rfl, q1.2.1 31 rfl, q0.2.1 31 rfl]; exact h31)
    rw [p_14F hP (f3.of (qW F3) rfl) N d z] at e26
    refine ⟨_, _, ?_, (((q0.mono rfl rfl).trans (q1.mono rfl rfl)).trans (q3.mono rfl rfl)).trans ((qW F3).mono rfl rfl), f3.of (qW F3) rfl⟩
    rw [← e26]
    unfold pHd
    rw [lX9_expression_14]
    unfold jX9_expression_14
    rw [mq_isr hP, hw_cI (p_is hP hT N (d + 2) (k := 6) (by omega))]
    dsimp only
    rw [if_pos h6, if_neg (by decide), mq_is hP, hw_fI, if_pos (by rw [h12, w6]), mq_isr hP, hw_cV e0]
  · rw [if_neg w6]
    have q1 : mQ [12] [] m F A (hw_R F m (hw_U (F m) 12 (nI (o + 1)))) A := (mQ.refl _ _ _ _ _).fR rfl
    obtain ⟨F3, e3, q3, f3⟩ := p_goesOn hP (hT.of q1 rfl rfl) (show x_kd tk t ≠ 0 by omega) N (d + 1)
    have e26 := tail F F3 h12 e3 (by rw [q3.2.1 31 rfl, q1.2.1 31 rfl]; exact h31)
    have e14 : pHd (ix_run iy_P N (d + 3)) m (z + 2) 14 (hw h F A) = pHd (ix_run iy_P N (d + 3)) m (z + 1) 14 (hw h (hw_R F3 m (hw_U (F3 m) 31 (nI (V.length + 1)))) (hw_R A (m + 17) (hw_U (A (m + 17)) V.length (nI 6)))) := by
      rw [← e26]
      unfold pHd
      rw [lX9_expression_14]
      unfold jX9_expression_14
      rw [mq_isr hP, hw_cI (p_is hP hT N (d + 2) (k := 6) (by omega))]
      dsimp only
      rw [if_pos h6, if_neg (by decide), mq_is hP, hw_fI, if_neg (by rw [h12, hw_eq (by omega) (by omega)]; exact w6)]
    rw [e14, show z + 2 - 1 = z + 1 from rfl]
    have hq : pQX m F A (hw_R F3 m (hw_U (F3 m) 31 (nI (V.length + 1)))) (hw_R A (m + 17) (hw_U (A (m + 17)) V.length (nI 6))) := ((q1.mono rfl rfl).trans (q3.mono rfl rfl)).trans ((qW F3).mono rfl rfl)
    unfold x_pas at f3 ⊢
    by_cases w4 : t = 400
    · rw [if_pos w4] at f3 ⊢
      exact ⟨_, _, p_14F hP (f3.of (qW F3) rfl) N d z, hq, f3.of (qW F3) rfl⟩
    · rw [if_neg w4] at f3 ⊢
      refine ⟨rfl, _, _, rfl, hq, f3.of (qW F3) rfl rfl, by rw [List.length_cons]; omega, ?_, ?_, ?_, ?_, ?_⟩
      · rw [hw_R_same, hw_U_ne _ _ (by omega), q3.2.1 12 rfl, hw_R_same, hw_U_same]
      · rw [hw_R_same, hw_U_same, List.length_cons]
      · rw [hw_R_same]
        exact ⟨hw_U_same _ _ _, by omega, hS.up (Nat.le_refl _)⟩
      · rw [hw_R_same, hw_U_ne _ _ (by omega), q3.2.1 27 rfl, q1.2.1 27 rfl]
        exact h27
      · intro i hi
        rw [hw_R_ne _ _ (by omega), hw_R_ne _ _ (by omega)]
        exact hC i hi
end
