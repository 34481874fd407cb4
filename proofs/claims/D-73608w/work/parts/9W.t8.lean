/-! T8: the reference: a term, an act's terms -/
set_option maxRecDepth 100000
section
variable {h : ix_H} {m : Nat} {F A : Nat → Nat → Int32} {tk : Nat → tK} {e t n o N d : Nat}
theorem p_sumW (hP : mSp h m) (hN : 1000 ≤ N) {u : Nat → xR xC} (ho : o ≤ 6) (hU : pWk (ix_run iy_P N (d + 3)) h m tk e u o 2 (fun _ => True) (fun M _ => M = [])) : pWk (ix_run iy_P N (d + 3)) h m tk e (x_sum tk u) o 0 (pZ 0) (pOk 0 (fun k => x_isM k = false) x_isA tk) := by
  have h1 : pWk (ix_run iy_P N (d + 3)) h m tk e (x_part tk u) o 1 (pZ 1) (pOk 1 (fun _ => True) x_isM tk) :=
    p_level (s := 1) hP hN (Nat.le_refl 1) hU (fun k hk => .inl ⟨rfl, hk⟩) (fun _ _ _ => trivial) (fun _ _ => trivial) (fun M t hM => by
      rw [hM]
      exact ⟨Nat.zero_le _, fun _ hx => absurd hx List.not_mem_nil, trivial⟩) ho
  refine p_level (s := 0) (stU := pZ 1) (okU := pOk 1 (fun _ => True) x_isM tk) (R := fun k => x_isM k = false) hP hN (Nat.zero_le 1) h1 (fun k hk => .inr ⟨rfl, hk⟩) (fun k V hk => ?_) (fun V hV => ?_) (fun M t hM => ⟨hM.1, fun x hx => ⟨(hM.2.1 x hx).1, fun w => absurd w (by decide)⟩, hM.2.2.2⟩) ho
  · unfold x_isA at hk
    rw [decide_eq_true_iff] at hk
    exact .inr ⟨rfl, hk⟩
  · cases V with
    | nil => trivial
    | cons x r => exact hV.elim .inl (fun w => absurd w.1 (by decide))
theorem x_unit_leaf (k : Nat) (h6 : x_kd tk t ≠ 6) : x_unit tk k t = x_leaf tk t := by
  cases k with
  | zero => unfold x_unit x_leaf; rw [if_neg h6]
  | succ k => unfold x_unit x_leaf; rw [if_neg h6]
theorem p_xunit (hP : mSp h m) (hN : 1000 ≤ N) : ∀ k o, o + k = 6 → pWk (ix_run iy_P N (d + 3)) h m tk e (x_unit tk k) o 2 (fun _ => True) (fun M _ => M = []) := by
  intro k
  induction k with
  | zero =>
    intro o ho z F A V c0 t hG hz hV _
    by_cases h6 : x_kd tk t = 6
    · have := p_open (d := d) hP hN hG (by omega) (by omega) h6 hz
      rw [if_pos (show o = 6 by omega)] at this
      unfold x_unit
      rw [if_neg (show ¬ x_kd tk t = 2 by omega), if_neg (show ¬ (32 ≤ x_kd tk t ∧ x_kd tk t ≤ 37) by omega), if_pos h6]
      exact this
    · rw [x_unit_leaf 0 h6]
      exact p_leaf hP hG hz h6
  | succ k ih =>
    intro o ho z F A V c0 t hG hz hV _
    by_cases h6 : x_kd tk t = 6
    · have hop := p_open (d := d) hP hN hG (by omega) (by omega) h6 hz
      rw [if_neg (show ¬ o = 6 by omega)] at hop
      unfold x_unit
      rw [if_neg (show ¬ x_kd tk t = 2 by omega), if_neg (show ¬ (32 ≤ x_kd tk t ∧ x_kd tk t ≤ 37) by omega), if_pos h6]
      have t4 := hG.1.2.2.1
      generalize x_pas t = r at hop ⊢
      cases r with
      | inl a => exact hop
      | inr a =>
        obtain ⟨a0, t1⟩ := a
        obtain ⟨ea, F1, A1, e1, q1, G1⟩ := hop
        obtain rfl : t1 = t + 1 := ea
        rw [e1]
        refine pO.back (z1 := z - 1) (t1 := t + 1) q1 (by omega) (by omega) ?_
        have hs := p_sumW hP hN (show o + 1 ≤ 6 by omega) (ih (o + 1) (by omega)) (z - 1) F1 A1 (6 :: V) c0 (t + 1) G1 (by omega) (by rw [List.length_cons]; omega) (.inl rfl)
        show pO (ix_run iy_P N (d + 3)) h m tk e F1 A1 o V c0 (z - 1) (t + 1) (fun M _ => M = []) (pHd (ix_run iy_P N (d + 3)) m (z - 1) 14 (hw h F1 A1)) (x_bd (x_sum tk (x_unit tk k) (t + 1)) fun c t2 => x_bd (x_must tk 7 t2) fun _ t3 => .inr (c, t3))
        generalize x_sum tk (x_unit tk k) (t + 1) = r at hs ⊢
        cases r with
        | inl b => exact hs
        | inr b =>
          obtain ⟨z', F2, A2, M2, c2, e2, q2, G2, ec, k2, p1, p2⟩ := hs
          obtain ⟨l2, s2, r2, r3⟩ := k2
          obtain ⟨b, t2⟩ := b
          dsimp only at p1 p2
          have t24 : t2 ≤ 400 := G2.1.2.2.1
          rw [e2]
          refine pO.back q2 p1 p2 ?_
          have ll : (M2 ++ 6 :: V).length ≤ 40 := by rw [List.length_append, List.length_cons]; omega
          show pO (ix_run iy_P N (d + 3)) h m tk e F2 A2 o V c0 z' t2 (fun M _ => M = []) (pHd (ix_run iy_P N (d + 3)) m z' 54 (hw h F2 A2)) (x_bd (x_must tk 7 t2) fun _ t3 => .inr (b, t3))
          unfold x_must
          by_cases w7 : x_kd tk t2 = 7
          · rw [if_pos w7]
            have hc := p_close (d := d) (o := o) (z := z') hP hN G2 ll (by omega) w7 s2 (by dsimp only; omega)
            dsimp only at hc
            generalize x_pas t2 = r at hc ⊢
            cases r with
            | inl b => exact hc
            | inr b3 =>
              obtain ⟨b0, t3⟩ := b3
              obtain ⟨eb, F3, A3, e3, q3, G3⟩ := hc
              obtain rfl : t3 = t2 + 1 := eb
              rw [e3]
              exact ⟨z' - 1, F3, A3, [], c2 ++ x_fl M2, rfl, q3, G3, by rw [show x_fl [] = [] from rfl, List.append_nil]; exact ec, rfl, Nat.le_succ _, by dsimp only; omega⟩
          · rw [if_neg w7]
            obtain ⟨F3, A3, e3, q3, f3, -⟩ := p_out (d := d) (z := z') hP hN G2 ll (by omega) r2 r3 (.inl w7) s2 (.inl rfl) (by omega)
            exact ⟨F3, A3, e3, q3, f3 (by omega)⟩
    · rw [x_unit_leaf (k + 1) h6]
      exact p_leaf hP hG hz h6
/-- codes told, no bracket open -/
def pCd (F A : Nat → Nat → Int32) (m t : Nat) (c : xC) : Prop := F m 12 = nI 0 ∧ F m 27 = nI c.length ∧ pC A m c ∧ c.length ≤ t
theorem pCd.of {F' A' : Nat → Nat → Int32} {X Y : List Nat} {t' : Nat} {c : xC} (hc : pCd F A m t c) (q : mQ X Y m F A F' A') (ht : t ≤ t') (hx : (X.contains 12 || X.contains 27) = false) (hy : (Y.contains 15 || Y.contains 16) = false) : pCd F' A' m t' c := by
  rw [Bool.or_eq_false_iff] at hx hy
  exact ⟨by rw [q.2.1 12 hx.1]; exact hc.1, by rw [q.2.1 27 hx.2]; exact hc.2.1, fun i hi => by rw [q.2.2.1 15 hy.1, q.2.2.1 16 hy.2]; exact hc.2.2.1 i hi, Nat.le_trans hc.2.2.2 ht⟩
def pTm (F A : Nat → Nat → Int32) (m : Nat) (tk : Nat → tK) (e t : Nat) (c0 : xC) (r : xR xC) : Prop := match r with
  | .inl a => pF F m tk a.1 a.2
  | .inr a => pT F A m tk e a.2 ∧ t ≤ a.2 ∧ pCd F A m a.2 (c0 ++ a.1)
theorem p_expression (hP : mSp h m) (hN : 1000 ≤ N) (hT : pT F A m tk e t) {c0 : xC} (hc : pCd F A m t c0) (d : Nat) : ∃ F' A', ix_run iy_P N (d + 4) 261 [ix_R (some m)] (hw h F A) = some (.inl none, hw h F' A') ∧ pQX m F A F' A' ∧ pTm F' A' m tk e t c0 (x_term tk t) := by
  obtain ⟨h12, h27, hC, hb⟩ := hc
  have t4 := hT.2.2.1
  have q0 : mQ [31] [] m F A (hw_R F m (hw_U (F m) 31 (nI 0))) A := (mQ.refl _ _ _ _ _).fR rfl
  have er : ix_run iy_P N (d + 4) 261 [ix_R (some m)] (hw h F A) = pHd (ix_run iy_P N (d + 3)) m (N + 1) 14 (hw h (hw_R F m (hw_U (F m) 31 (nI 0))) A) := by
    rw [rX9_expression N (d + 3)]
    unfold bX9_expression jX9_expression_8 pHd
    rw [mq_is hP, hw_bdF, mq_is hP, if_neg (by decide), mq_is hP, hw_fI, if_pos (by rw [q0.2.1 13 rfl]; exact hT.2.2.2.2), q0.2.1 12 rfl, h12, lX9_expression_14]
  rw [er]
  have hG : pG (hw_R F m (hw_U (F m) 31 (nI 0))) A m tk e t 0 [] c0 := ⟨hT.of q0 rfl rfl, hb, by rw [q0.2.1 12 rfl]; exact h12, by rw [hw_R_same, hw_U_same]; rfl, trivial, by rw [q0.2.1 27 rfl]; exact h27, hC⟩
  have hs := p_sumW hP hN (Nat.zero_le 6) (p_xunit (d := d) (tk := tk) (e := e) hP hN 6 0 rfl) (N + 1) _ A [] c0 t hG (by omega) (Nat.zero_le _) trivial
  unfold x_term
  generalize x_sum tk (x_unit tk 6) t = r at hs ⊢
  cases r with
  | inl b =>
    obtain ⟨F', A', e', q', f⟩ := hs
    exact ⟨F', A', e', (q0.mono rfl rfl).trans q', f⟩
  | inr b =>
    obtain ⟨z', F2, A2, M2, c2, e2, q2, G2, ec, ⟨l2, s2, r2, r3⟩, p1, p2⟩ := hs
    have t24 := G2.1.2.2.1
    obtain ⟨F3, A3, e3, q3, -, f3⟩ := p_out (d := d) (z := z') hP hN G2 (by rw [List.length_append, List.length_nil]; omega) (Nat.zero_le 6) r2 r3 (.inr rfl) s2 trivial (show 0 < z' by omega)
    obtain ⟨g1, g2, g3, g4⟩ := f3 rfl
    rw [ec] at g3 g4
    refine ⟨F3, A3, by rw [e2, e3], ((q0.mono rfl rfl).trans q2).trans q3, g1, p1, g2, g3, g4, ?_⟩
    have := G2.2.1
    rw [← ec, List.length_append]
    unfold x_fl
    rw [List.length_map]
    rw [List.length_append] at this
    omega
/-- an act's terms: one or two -/
def x_terms (tk : Nat → tK) (two : Bool) (t : Nat) : xR (xC × xC) := x_bd (x_term tk t) fun a t2 => if two = true then x_bd (x_term tk t2) fun b t3 => .inr ((a, b), t3) else .inr ((a, []), t2)
def pTs (F A : Nat → Nat → Int32) (m : Nat) (tk : Nat → tK) (e t : Nat) (n : Nat) (c0 : xC) (r : xR (xC × xC)) : Prop := match r with
  | .inl a => pF F m tk a.1 a.2
  | .inr a => pT F A m tk e a.2 ∧ t ≤ a.2 ∧ pCd F A m a.2 (c0 ++ a.1.1 ++ a.1.2) ∧ A (m + 10) n = nI c0.length ∧ A (m + 11) n = nI (c0 ++ a.1.1).length ∧ A (m + 12) n = nI (c0 ++ a.1.1 ++ a.1.2).length
/-- rows of tells other than n's stay -/
def pRo (m n : Nat) (A A' : Nat → Nat → Int32) : Prop := ∀ k j, j ≠ n → 8 ≤ k → k ≤ 12 → A' (m + k) j = A (m + k) j
theorem p_termsTold (hP : mSp h m) (hN : 1000 ≤ N) (hT : pT F A m tk e t) {c0 : xC} (hc : pCd F A m t c0) (hn : n < 210) (two : Bool) (d : Nat) : ∃ F' A', ix_run iy_P N (d + 5) 260 [ix_R (some m), ix_I (nI n), ix_I (if two = true then nI 1 else nI 0)] (hw h F A) = some (.inl none, hw h F' A') ∧ mQ [11, 12, 13, 14, 27, 31] [10, 11, 12, 15, 16, 17] m F A F' A' ∧ pRo m n A A' ∧ pTs F' A' m tk e t n c0 (x_terms tk two t) := by
  rw [rX9_termsTold N (d + 4)]
  unfold bX9_termsTold jX9_termsTold_11 jX9_termsTold_25 x_terms
  have q0 : mQ [] [10] m F A F (hw_R A (m + 10) (hw_U (A (m + 10)) n (nI c0.length))) := (mQ.refl _ _ _ _ _).aR (k := 10) rfl (by omega)
  obtain ⟨F1, A1, e1, q1, f1⟩ := p_expression hP hN (hT.of q0 rfl rfl) (hc.of q0 (Nat.le_refl t) rfl rfl) d
  rw [mq_is hP, mq_is hP, mp_wr21 hP, hw_in hn (by omega), cond_true, hw_bdA, mq_is hP, hw_fI, hw_fI, hc.2.1, hw_cl (by omega), if_pos hT.2.2.2.2, mq_isr hP, hw_cV e1]
  have r0 : pRo m n A A1 := fun k j hj k8 k12 => by
    rw [q1.2.2.1 k (by rw [List.contains_eq_any_beq]; simp; omega)]
    by_cases w : k = 10
    · rw [w, hw_R_same, hw_U_ne _ _ hj]
    · rw [hw_R_ne _ _ (by omega)]
  have q01 : mQ [11, 12, 13, 14, 27, 31] [10, 11, 12, 15, 16, 17] m F A F1 A1 := (q0.mono rfl rfl).trans (q1.mono rfl rfl)
  have a10 : A1 (m + 10) n = nI c0.length := by rw [q1.2.2.1 10 rfl, hw_R_same, hw_U_same]
  have r2 : ∀ v, mQ [] [11] m F1 A1 F1 (hw_R A1 (m + 11) (hw_U (A1 (m + 11)) n v)) := fun v => (mQ.refl _ _ _ _ _).aR (k := 11) rfl (by omega)
  have r3 : ∀ (F2 A2 : Nat → Nat → Int32) v, mQ [] [12] m F2 A2 F2 (hw_R A2 (m + 12) (hw_U (A2 (m + 12)) n v)) := fun F2 A2 v => (mQ.refl _ _ _ _ _).aR (k := 12) rfl (by omega)
  have rr : ∀ (A2 : Nat → Nat → Int32) k v, pRo m n A A2 → pRo m n A (hw_R A2 (m + k) (hw_U (A2 (m + k)) n v)) := fun A2 k v hr k' j hj k8 k12 => by
    by_cases w : k' = k
    · rw [w, hw_R_same, hw_U_ne _ _ hj, ← w]
      exact hr k' j hj k8 k12
    · rw [hw_R_ne _ _ (by omega)]
      exact hr k' j hj k8 k12
  rw [mq_is hP, mq_is hP, mp_wr22 hP, hw_in hn (by omega), cond_true, hw_bdA, mq_is hP, hw_fI, hw_fI]
  generalize x_term tk t = r at f1 ⊢
  cases r with
  | inl a =>
    rw [if_neg (by rw [f1.1]; exact f1.ne), mq_is hP, mq_is hP, mp_wr23 hP, hw_in hn (by omega), cond_true, hw_bdA]
    exact ⟨F1, _, rfl, (q01.trans ((r2 _).mono rfl rfl)).trans ((r3 _ _ _).mono rfl rfl), rr _ 12 _ (rr _ 11 _ r0), f1⟩
  | inr a =>
    obtain ⟨T1, tl, C1⟩ := f1
    rw [if_pos T1.2.2.2.2, C1.2.1]
    have q2 := r2 (nI (c0 ++ a.1).length)
    cases two with
    | false =>
      rw [if_pos (show (if false = true then nI 1 else nI 0) = nI 0 from rfl), mq_is hP, mq_is hP, mp_wr23 hP, hw_in hn (by omega), cond_true, hw_bdA, C1.2.1]
      refine ⟨F1, _, rfl, (q01.trans (q2.mono rfl rfl)).trans ((r3 _ _ _).mono rfl rfl), rr _ 12 _ (rr _ 11 _ r0), (T1.of q2 rfl rfl).of (r3 _ _ _) rfl rfl, tl, ?_, ?_, ?_, ?_⟩
      · rw [List.append_nil]
        exact (C1.of q2 (Nat.le_refl _) rfl rfl).of (r3 _ _ _) (Nat.le_refl _) rfl rfl
      · rw [hw_R_ne _ _ (by omega), hw_R_ne _ _ (by omega)]
        exact a10
      · rw [hw_R_ne _ _ (by omega), hw_R_same, hw_U_same]
      · rw [hw_R_same, hw_U_same, List.append_nil]
    | true =>
      obtain ⟨F2, A2, e2, q3, f2⟩ := p_expression hP hN (T1.of q2 rfl rfl) (C1.of q2 (Nat.le_refl _) rfl rfl) d
      rw [if_pos rfl, if_neg (by decide), mq_isr hP, hw_cV e2, mq_is hP, mq_is hP, mp_wr23 hP, hw_in hn (by omega), cond_true, hw_bdA, hw_fI]
      have q012 : mQ [11, 12, 13, 14, 27, 31] [10, 11, 12, 15, 16, 17] m F A F2 A2 := (q01.trans (q2.mono rfl rfl)).trans (q3.mono rfl rfl)
      have r02 : pRo m n A A2 := fun k j hj k8 k12 => by
        rw [q3.2.2.1 k (by rw [List.contains_eq_any_beq]; simp; omega)]
        exact rr _ 11 _ r0 k j hj k8 k12
      show ∃ F' A', _ ∧ _ ∧ _ ∧ pTs F' A' m tk e t n c0 (x_bd (x_term tk a.2) fun b t3 => .inr ((a.1, b), t3))
      generalize x_term tk a.2 = r at f2 ⊢
      cases r with
      | inl b => exact ⟨F2, _, rfl, q012.trans ((r3 _ _ _).mono rfl rfl), rr _ 12 _ r02, f2⟩
      | inr b =>
        obtain ⟨T2, tl2, C2⟩ := f2
        rw [C2.2.1]
        refine ⟨F2, _, rfl, q012.trans ((r3 _ _ _).mono rfl rfl), rr _ 12 _ r02, T2.of (r3 _ _ _) rfl rfl, Nat.le_trans tl tl2, C2.of (r3 _ _ _) (Nat.le_refl _) rfl rfl, ?_, ?_, ?_⟩
        · rw [hw_R_ne _ _ (by omega), q3.2.2.1 10 rfl, hw_R_ne _ _ (by omega)]
          exact a10
        · rw [hw_R_ne _ _ (by omega), q3.2.2.1 11 rfl, hw_R_same, hw_U_same]
        · rw [hw_R_same, hw_U_same]
end
