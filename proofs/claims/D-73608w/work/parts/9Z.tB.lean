/-! TB: the reference: tellOne, a tell that is no rounds -/
set_option maxRecDepth 100000
theorem x_bd_as {α β γ : Type} (r : xR α) (f : α → Nat → xR β) (g : β → Nat → xR γ) : x_bd (x_bd r f) g = x_bd r fun a t => x_bd (f a t) g := by
  cases r <;> rfl
section
variable {h : ix_H} {m : Nat} {F A : Nat → Nat → Int32} {tk : Nat → tK} {e t n o N d i : Nat}
theorem pOne.mono {t' : Nat} {c : xC} {r : xR (xL × Option Nat)} (f : pOne F A m tk e t i c r) (ht : t' ≤ t) : pOne F A m tk e t' i c r := by
  cases r with
  | inl a => exact f
  | inr a => exact ⟨f.1, Nat.le_trans ht f.2.1, f.2.2⟩
theorem p_terms_of {F1 A1 : Nat → Nat → Int32} {t1 : Nat} {c : xC} {w : Option Nat} {hd : Int32} {X Y : List Nat} (f : pTs F1 A1 m tk e t1 i c (x_terms tk false t1)) (hW : pW F m tk t1 w) (q : mQ X Y m F A F1 A1) (hx : (X.contains 15 || X.contains 16) = false) (r8 : A1 (m + 8) i = nI 2) (r9 : A1 (m + 9) i = hd) : pOne F1 A1 m tk e t1 i c (x_bd (x_term tk t1) fun a t3 => .inr (((2, hd, a, []), w), t3)) := by
  unfold x_terms at f
  generalize x_term tk t1 = r at f ⊢
  cases r with
  | inl a => exact f
  | inr a =>
    obtain ⟨g1, g2, g3, g4, g5, g6⟩ := f
    exact ⟨g1, g2, g3, hW.of q g2 hx, r8, by show 2 ≤ 5; omega, r9, fun _ => ⟨g4, g5, g6⟩⟩
theorem p_tellOne (hP : mSp h m) (hN : 1000 ≤ N) (hT : pT F A m tk e t) {c : xC} (hc : pCd F A m t c) {w : Option Nat} (hW : pW F m tk t w) (h18 : F m 18 = nI i) (hi : i < 210) (h28 : x_kd tk t ≠ 28) (h29 : x_kd tk t = 29 → F m 25 = nI 0) (h0 : x_kd tk t ≠ 0) (d : Nat) : ∃ F' A', ix_run iy_P N (d + 7) 257 [ix_R (some m)] (hw h F A) = some (.inl none, hw h F' A') ∧ pQ1 m F A F' A' ∧ pRo m i A A' ∧ match (x_bd (x_one tk t w) fun l t1 => x_bd (x_must tk 4 t1) fun _ t2 => .inr (l, t2) : xR (xL × Option Nat)) with
    | .inl a => pF F' m tk a.1 a.2
    | .inr a => F' m 18 = nI (i + 1) ∧ pOne F' A' m tk e (t + 2) i c (.inr a) := by
  have te := hT.2.1
  have t4 := hT.2.2.1
  obtain ⟨k37, -, a3, -⟩ := hT.1.2.2 t te t4
  rw [rX9_tellOne N (d + 6)]
  unfold bX9_tellOne
  rw [mq_is hP, mq_is hP, hw_fI, h18, mp_wr20 hP, hw_in hi (by omega), cond_true, hw_bdA, hw_cl (by omega)]
  have q0 : mQ [] [9] m F A F (hw_R A (m + 9) (hw_U (A (m + 9)) i (-1))) := (mQ.refl _ _ _ _ _).aR (k := 9) rfl (by omega)
  have r0 : pRo m i A (hw_R A (m + 9) (hw_U (A (m + 9)) i (-1))) := (pRo.refl m i A).up (k := 9)
  have v9 : hw_R A (m + 9) (hw_U (A (m + 9)) i (-1)) (m + 9) i = -1 := by rw [hw_R_same, hw_U_same]
  have T0 := hT.of q0 rfl rfl
  have C0 := hc.of q0 (Nat.le_refl t) rfl rfl
  have W0 := hW.of q0 (Nat.le_refl t) rfl
  generalize hw_R A (m + 9) (hw_U (A (m + 9)) i (-1)) = A0 at q0 r0 v9 T0 C0 W0 ⊢
  have a3' : A0 (m + 3) t = nI (x_kd tk t) := by rw [q0.2.2.1 3 rfl]; exact a3
  rw [mq_is hP, mq_is hP, mp_rd5 hP, hw_fI, T0.2.2.2.1, hw_in (by omega) (by omega), cond_true, hw_aI, hw_cl (by omega), a3']
  -- the hand's row
  have r1 : ∀ (F1 : Nat → Nat → Int32) (A1 : Nat → Nat → Int32) (k : Nat) (v : Int32), mQ [] [k] m F1 A1 F1 (hw_R A1 (m + k) (hw_U (A1 (m + k)) i v)) ∨ 40 ≤ k := fun F1 A1 k v => by
    rcases Nat.lt_or_ge k 40 with wk | wk
    · exact .inl ((mQ.refl _ _ _ _ _).aR (k := k) (by simp) wk)
    · exact .inr wk
  have r19 : ∀ F1 A1 v, mQ [] [9] m F1 A1 F1 (hw_R A1 (m + 9) (hw_U (A1 (m + 9)) i v)) := fun F1 A1 v => (r1 F1 A1 9 v).resolve_right (by omega)
  have r18 : ∀ F1 A1 v, mQ [] [8] m F1 A1 F1 (hw_R A1 (m + 8) (hw_U (A1 (m + 8)) i v)) := fun F1 A1 v => (r1 F1 A1 8 v).resolve_right (by omega)
  unfold x_one
  by_cases w23 : x_kd tk t = 23
  · rw [if_pos (by rw [w23]), if_pos w23, mq_is hP, mq_isr hP]
    obtain ⟨F1, v, e1, q1, f1⟩ := p_handTold hP T0 h0 W0 N (d + 2)
    rw [hw_cI e1]
    dsimp only
    rw [mp_wr20x hP, hw_in hi (by omega), cond_true, hw_bdA, mq_isr hP, ← x_bd_as]
    have q01 : pQ1 m F A F1 (hw_R A0 (m + 9) (hw_U (A0 (m + 9)) i v)) := ((q0.mono rfl rfl).trans (q1.mono rfl rfl)).trans ((r19 _ _ _).mono rfl rfl)
    have ro1 : pRo m i A (hw_R A0 (m + 9) (hw_U (A0 (m + 9)) i v)) := r0.up (k := 9)
    generalize (x_bd (x_pas t) fun _ t1 => x_num tk (nI 0) (nI 3) t1 w) = r at f1 ⊢
    cases r with
    | inl a =>
      have hF : pF F1 m tk a.1 a.2 := f1
      rw [hw_cV (p_actToldF hP hF N d _)]
      exact p_fin (e := e) (t := t) (c := c) hP (r := .inl a) q01 ro1 h18 (by rw [q1.2.1 18 rfl]) f1 N (d + 3) _
    | inr a =>
      obtain ⟨⟨v', w'⟩, t1⟩ := a
      obtain ⟨T1, tl, ev, W1⟩ := f1
      obtain rfl : v' = v := ev
      dsimp only at T1 tl W1
      obtain ⟨F2, A2, e2, q2, ro2, f2⟩ := p_actTold hP hN (T1.of (r19 F1 A0 v') rfl rfl) ((C0.of q1 (Nat.le_of_succ_le tl) rfl rfl).of (r19 F1 A0 v') (Nat.le_refl _) rfl rfl) hi v' d
      rw [hw_cV e2]
      refine p_fin hP (r := x_bd (x_act tk v' t1) fun l t3 => .inr ((l, w'), t3)) (q01.trans (q2.mono rfl rfl)) (ro1.trans ro2) h18 (by rw [q2.2.1 18 rfl, q1.2.1 18 rfl]) ?_ N (d + 3) _
      exact (p_act_of f2 (W1.of (r19 F1 A0 v') (Nat.le_succ t1) rfl) q2 rfl (fun a ha => x_act_hd a ha) (by rw [q2.2.2.1 9 rfl, hw_R_same, hw_U_same])).mono (by omega)
  rw [if_neg (by rw [hw_eq (by omega) (by omega)]; exact w23), if_neg w23]
  by_cases w24 : x_kd tk t = 24
  · rw [if_pos (by rw [w24]), if_pos w24, mq_is hP, mq_isr hP]
    obtain ⟨F1, v, e1, q1, f1⟩ := p_handTold hP T0 h0 W0 N (d + 2)
    rw [hw_cI e1]
    dsimp only
    rw [mp_wr20x hP, hw_in hi (by omega), cond_true, hw_bdA, mq_is hP, mp_wr19 hP, hw_in hi (by omega), cond_true, hw_bdA, mq_isr hP, ← x_bd_as]
    have q09 := r19 F1 A0 v
    have q08 := r18 F1 (hw_R A0 (m + 9) (hw_U (A0 (m + 9)) i v)) (nI 2)
    have ro1 : pRo m i A (hw_R (hw_R A0 (m + 9) (hw_U (A0 (m + 9)) i v)) (m + 8) (hw_U (hw_R A0 (m + 9) (hw_U (A0 (m + 9)) i v) (m + 8)) i (nI 2))) := (r0.up (k := 9)).up (k := 8)
    have v9' : hw_R (hw_R A0 (m + 9) (hw_U (A0 (m + 9)) i v)) (m + 8) (hw_U (hw_R A0 (m + 9) (hw_U (A0 (m + 9)) i v) (m + 8)) i (nI 2)) (m + 9) i = v := by rw [hw_R_ne _ _ (by omega), hw_R_same, hw_U_same]
    have v8' : hw_R (hw_R A0 (m + 9) (hw_U (A0 (m + 9)) i v)) (m + 8) (hw_U (hw_R A0 (m + 9) (hw_U (A0 (m + 9)) i v) (m + 8)) i (nI 2)) (m + 8) i = nI 2 := by rw [hw_R_same, hw_U_same]
    generalize hw_R (hw_R A0 (m + 9) (hw_U (A0 (m + 9)) i v)) (m + 8) (hw_U (hw_R A0 (m + 9) (hw_U (A0 (m + 9)) i v) (m + 8)) i (nI 2)) = A1 at q08 ro1 v9' v8' ⊢
    have q98 : mQ [] [8, 9] m F1 A0 F1 A1 := (q09.mono rfl rfl).trans (q08.mono rfl rfl)
    have q01 : pQ1 m F A F1 A1 := ((q0.mono rfl rfl).trans (q1.mono rfl rfl)).trans (q98.mono rfl rfl)
    generalize (x_bd (x_pas t) fun _ t1 => x_num tk (nI 0) (nI 3) t1 w) = r at f1 ⊢
    cases r with
    | inl a =>
      have hF : pF F1 m tk a.1 a.2 := f1
      obtain ⟨A2, e2, q2, ro2⟩ := p_termsToldF (A := A1) hP hF hi N (d + 1) (nI 0)
      rw [hw_cV e2]
      exact p_fin (e := e) (t := t) (c := c) hP (r := .inl a) (q01.trans (q2.mono rfl rfl)) (ro1.trans ro2) h18 (by rw [q1.2.1 18 rfl]) f1 N (d + 3) _
    | inr a =>
      obtain ⟨⟨v', w'⟩, t1⟩ := a
      obtain ⟨T1, tl, ev, W1⟩ := f1
      obtain rfl : v' = v := ev
      dsimp only at T1 tl W1
      obtain ⟨F2, A2, e2, q2, ro2, f2⟩ := p_termsTold hP hN (T1.of q98 rfl rfl) ((C0.of q1 (Nat.le_of_succ_le tl) rfl rfl).of q98 (Nat.le_refl _) rfl rfl) hi false (d + 1)
      have e2' : ix_run iy_P N (d + 6) 260 [ix_R (some m), ix_I (nI i), ix_I (nI 0)] (hw h F1 A1) = some (.inl none, hw h F2 A2) := e2
      rw [hw_cV e2']
      refine p_fin hP (r := x_bd (x_term tk t1) fun a t3 => .inr (((2, v', a, []), w'), t3)) (q01.trans (q2.mono rfl rfl)) (ro1.trans ro2) h18 (by rw [q2.2.1 18 rfl, q1.2.1 18 rfl]) ?_ N (d + 3) _
      exact (p_terms_of f2 (W1.of q98 (Nat.le_refl t1) rfl) q2 rfl (by rw [q2.2.2.1 8 rfl]; exact v8') (by rw [q2.2.2.1 9 rfl]; exact v9')).mono (by omega)
  rw [if_neg (by rw [hw_eq (by omega) (by omega)]; exact w24), if_neg w24]
  -- a step, a close
  have st : ∀ (s : Nat) (K : ix_K), s ≤ 5 → 3 ≤ s → ∃ F' A', jX9_tellOne_54 (ix_run iy_P N (d + 6)) K m (nI i) (ix_fR (hw h F A0) m 19) (nI i) (nI s) (hw h F A0) = some (.inl none, hw h F' A') ∧ pQ1 m F A F' A' ∧ pRo m i A A' ∧ match (x_bd (x_bd (x_pas t) fun _ t1 => x_bd (x_num tk (nI 0) (nI 3) t1 w) fun h t2 => .inr (((s, h.1, [], []), h.2), t2)) fun l t1 => x_bd (x_must tk 4 t1) fun _ t2 => .inr (l, t2) : xR (xL × Option Nat)) with
    | .inl a => pF F' m tk a.1 a.2
    | .inr a => F' m 18 = nI (i + 1) ∧ pOne F' A' m tk e (t + 2) i c (.inr a) := fun s K h5 h3 => by
      unfold jX9_tellOne_54
      have q08 := r18 F A0 (nI s)
      rw [mp_wr19 hP, hw_in hi (by omega), cond_true, hw_bdA, hw_cl (by omega), mq_is hP, mq_isr hP]
      have v8 : hw_R A0 (m + 8) (hw_U (A0 (m + 8)) i (nI s)) (m + 8) i = nI s := by rw [hw_R_same, hw_U_same]
      have ro1 : pRo m i A (hw_R A0 (m + 8) (hw_U (A0 (m + 8)) i (nI s))) := r0.up (k := 8)
      generalize hw_R A0 (m + 8) (hw_U (A0 (m + 8)) i (nI s)) = A1 at q08 v8 ro1 ⊢
      obtain ⟨F1, v, e1, q1, f1⟩ := p_handTold hP (T0.of q08 rfl rfl) h0 (W0.of q08 (Nat.le_refl t) rfl) N (d + 2)
      rw [hw_cI e1]
      dsimp only
      rw [mp_wr20x hP, hw_in hi (by omega), cond_true, hw_bdA, ← x_bd_as]
      have q09 := r19 F1 A1 v
      have q01 : pQ1 m F A F1 (hw_R A1 (m + 9) (hw_U (A1 (m + 9)) i v)) := (((q0.mono rfl rfl).trans (q08.mono rfl rfl)).trans (q1.mono rfl rfl)).trans (q09.mono rfl rfl)
      generalize (x_bd (x_pas t) fun _ t1 => x_num tk (nI 0) (nI 3) t1 w) = r at f1 ⊢
      cases r with
      | inl a => exact p_fin (e := e) (t := t) (c := c) hP (r := .inl a) q01 (ro1.up (k := 9)) h18 (by rw [q1.2.1 18 rfl]) f1 N (d + 3) _
      | inr a =>
        obtain ⟨⟨v', w'⟩, t1⟩ := a
        obtain ⟨T1, tl, ev, W1⟩ := f1
        obtain rfl : v' = v := ev
        dsimp only at T1 tl W1
        refine p_fin hP (r := .inr (((s, v', [], []), w'), t1)) q01 (ro1.up (k := 9)) h18 (by rw [q1.2.1 18 rfl]) ?_ N (d + 3) _
        refine ⟨T1.of q09 rfl rfl, tl, ?_, W1.of q09 (Nat.le_refl _) rfl, ?_, h5, ?_, fun x => absurd x (by show ¬ s < 3; omega)⟩
        · dsimp only
          rw [List.append_nil, List.append_nil]
          exact ((C0.of q08 (Nat.le_refl t) rfl rfl).of q1 (Nat.le_of_succ_le tl) rfl rfl).of q09 (Nat.le_refl _) rfl rfl
        · rw [hw_R_ne _ _ (by omega)]
          exact v8
        · rw [hw_R_same, hw_U_same]
  have e40 : ∀ (s : Nat) (K : ix_K), (s = if x_kd tk t = 25 then 3 else 4) → jX9_tellOne_40 (ix_run iy_P N (d + 6)) K m (nI i) (hw h F A0) = jX9_tellOne_54 (ix_run iy_P N (d + 6)) K m (nI i) (ix_fR (hw h F A0) m 19) (nI i) (nI s) (hw h F A0) := fun s K hs => by
    unfold jX9_tellOne_40
    rw [mq_is hP, mq_is hP, mq_is hP, mp_rd5 hP, hw_fI, T0.2.2.2.1, hw_in (by omega) (by omega), cond_true, hw_aI, hw_cl (by omega), a3']
    by_cases w : x_kd tk t = 25
    · rw [if_pos (by rw [w]), hs, if_pos w]
    · rw [if_neg (by rw [hw_eq (by omega) (by omega)]; exact w), hs, if_neg w]
  by_cases w25 : x_kd tk t = 25
  · rw [if_pos (by rw [w25]), if_pos w25, e40 3 _ (by rw [if_pos w25])]
    exact st 3 _ (by omega) (by omega)
  rw [if_neg (by rw [hw_eq (by omega) (by omega)]; exact w25), if_neg w25]
  by_cases w26 : x_kd tk t = 26
  · rw [if_pos (by rw [w26]), if_pos w26, e40 4 _ (by rw [if_neg w25])]
    exact st 4 _ (by omega) (by omega)
  rw [if_neg (by rw [hw_eq (by omega) (by omega)]; exact w26), if_neg w26]
  by_cases w27 : x_kd tk t = 27
  · rw [if_pos (by rw [w27]), if_pos w27, mq_is hP, mp_wr19 hP, hw_in hi (by omega), cond_true, hw_bdA, mq_isr hP]
    have q08 := r18 F A0 (nI 5)
    have v8 : hw_R A0 (m + 8) (hw_U (A0 (m + 8)) i (nI 5)) (m + 8) i = nI 5 := by rw [hw_R_same, hw_U_same]
    have ro1 : pRo m i A (hw_R A0 (m + 8) (hw_U (A0 (m + 8)) i (nI 5))) := r0.up (k := 8)
    generalize hw_R A0 (m + 8) (hw_U (A0 (m + 8)) i (nI 5)) = A1 at q08 v8 ro1 ⊢
    obtain ⟨F1, e1, q1, f1⟩ := p_goesOn hP (T0.of q08 rfl rfl) h0 N (d + 4)
    rw [hw_cV e1]
    have q01 : pQ1 m F A F1 A1 := ((q0.mono rfl rfl).trans (q08.mono rfl rfl)).trans (q1.mono rfl rfl)
    refine p_fin hP (r := x_bd (x_pas t) fun _ t1 => .inr (((5, -1, [], []), w), t1)) q01 ro1 h18 (by rw [q1.2.1 18 rfl]) ?_ N (d + 3) _
    unfold x_pas at f1 ⊢
    by_cases w4 : t = 400
    · rw [if_pos w4] at f1 ⊢
      exact f1
    · rw [if_neg w4] at f1 ⊢
      refine ⟨f1, Nat.le_refl _, ?_, (W0.of q08 (Nat.le_refl t) rfl).of q1 (Nat.le_succ t) rfl, v8, by show 5 ≤ 5; omega, ?_, fun x => absurd x (by show ¬ 5 < 3; omega)⟩
      · dsimp only
        rw [List.append_nil, List.append_nil]
        exact (C0.of q08 (Nat.le_refl t) rfl rfl).of q1 (Nat.le_succ t) rfl rfl
      · rw [q08.2.2.1 9 rfl]
        exact v9
  rw [if_neg (by rw [hw_eq (by omega) (by omega)]; exact w27), if_neg w27, if_neg (by rw [hw_eq (by omega) (by omega)]; exact h28)]
  by_cases w29 : x_kd tk t = 29
  · rw [if_pos (by rw [w29]), mq_is hP, h29 w29, if_pos rfl, mq_isr hP]
    obtain ⟨F1, e1, q1, f1⟩ := p_fail hP T0 N (d + 5) (k := 1) (by omega) (by omega)
    rw [hw_cV e1]
    unfold jX9_tellOne_117 x_act
    rw [mq_is hP, hw_fI, if_neg (by rw [f1.1]; exact f1.nle), if_neg (show ¬ x_kd tk t = 30 by omega), if_neg (show ¬ x_kd tk t = 31 by omega)]
    exact ⟨F1, A0, rfl, (q0.mono rfl rfl).trans (q1.mono rfl rfl), r0, f1⟩
  rw [if_neg (by rw [hw_eq (by omega) (by omega)]; exact w29), mq_isr hP]
  obtain ⟨F2, A2, e2, q2, ro2, f2⟩ := p_actTold hP hN T0 C0 hi (-1) d
  rw [hw_cV e2]
  refine p_fin hP (r := x_bd (x_act tk (-1) t) fun l t3 => .inr ((l, w), t3)) ((q0.mono rfl rfl).trans (q2.mono rfl rfl)) (r0.trans ro2) h18 (by rw [q2.2.1 18 rfl]) ?_ N (d + 3) _
  refine p_act_of f2 (W0.of (mQ.refl [] [] m F A0) (Nat.le_succ t) rfl) q2 rfl (fun a ha => x_act_hd a ha) (by rw [q2.2.2.1 9 rfl]; exact v9)
end
