/-! TE: the reference: all tells -/
set_option maxRecDepth 100000
/-- between tells: i told, ab open (the innermost first) -/
def yS (F A : Nat → Nat → Int32) (m : Nat) (tk : Nat → tK) (e t i : Nat) (c : xC) (w : Option Nat) (ab : List Nat) : Prop := pT F A m tk e t ∧ pCd F A m t c ∧ pW F m tk t w ∧ F m 18 = nI i ∧ 2 * i ≤ t ∧ F m 25 = nI ab.length ∧ pB (A (m + 14)) ab ∧ ∀ x ∈ ab, x < i
def yO {α : Type} (cal : ix_C) (h : ix_H) (m : Nat) (tk : Nat → tK) (e : Nat) (v1 v2 v3 : Int32) (F A : Nat → Nat → Int32) (z t i0 : Nat) (c : xC) (ab : List Nat) (rel : (Nat → Nat → Int32) → xC → α → Nat → Nat → Prop) (out : ix_O) (r : xR (α × Option Nat)) : Prop := match r with
  | .inl a => ∃ F' A', out = some (.inl (some (ix_I (nI a.1))), hw h F' A') ∧ pQ2 m F A F' A' ∧ F' m 17 = nI (tk a.2).2.1
  | .inr a => ∃ z' F' A' c3 j, out = pHR cal m z' v1 v2 v3 (hw h F' A') ∧ pQ2 m F A F' A' ∧ yS F' A' m tk e a.2 j (c ++ c3) a.1.2 ab ∧ rel A' (c ++ c3) a.1.1 j a.2 ∧ pFr m 0 i0 A A' ∧ t ≤ a.2 ∧ z + t ≤ z' + a.2
def yW (cal : ix_C) (h : ix_H) (m : Nat) (tk : Nat → tK) (e : Nat) (v1 v2 v3 : Int32) (d : Nat) : Prop := ∀ z F A t i c w ab, d + ab.length = 3 → yS F A m tk e t i c w ab → 402 ≤ z + t → (ab ≠ [] → x_kd tk t ≠ 29) → (ab = [] → x_kd tk t ≠ 0) →
  yO cal h m tk e v1 v2 v3 F A z t i c ab (fun A' c' x j t' => yT A' m c' d x i j ∧ t < t') (pHR cal m z v1 v2 v3 (hw h F A)) (x_told tk d t w)
section
variable {h : ix_H} {m : Nat} {F A : Nat → Nat → Int32} {tk : Nat → tK} {e t n o N d i : Nat} {v1 v2 v3 : Int32}
theorem y_until {k : Nat} (hD : yW (ix_run iy_P N (d + 7)) h m tk e v1 v2 v3 k) {ab : List Nat} (hk : k + ab.length = 3) {e0 : Nat} (he : ab ≠ [] → e0 = 29) (he2 : ab = [] → e0 = 0) {i0 : Nat} : ∀ z0 t w (l : List (xT k)) i F A z c, 401 ≤ z0 + t → yS F A m tk e t i c w ab → 402 ≤ z + t → yL (yT A m c k) l i0 i → i0 ≤ i →
    yO (ix_run iy_P N (d + 7)) h m tk e v1 v2 v3 F A z t i0 c ab (fun A' c' l j t' => yL (yT A' m c' k) l i0 j ∧ i0 ≤ j ∧ x_kd tk t' = e0) (pHR (ix_run iy_P N (d + 7)) m z v1 v2 v3 (hw h F A)) (x_until tk (x_told tk k) e0 z0 t w l) := by
  intro z0
  induction z0 with
  | zero =>
    intro t w l i F A z c hz0 hS
    have := hS.1.2.2.1
    omega
  | succ z0 ih =>
    intro t w l i F A z c hz0 hS hz hl hi
    unfold x_until
    by_cases we : x_kd tk t = e0
    · rw [if_pos we]
      refine ⟨z, F, A, [], i, rfl, mQ.refl _ _ _ _ _, by rw [List.append_nil]; exact hS, ⟨by rw [List.append_nil]; exact hl, hi, we⟩, fun _ _ _ _ _ _ => rfl, Nat.le_refl _, Nat.le_refl _⟩
    · rw [if_neg we]
      have hd := hD z F A t i c w ab hk hS hz (fun x y => we (by rw [y, he x])) (fun x y => we (by rw [y, he2 x]))
      generalize x_told tk k t w = r at hd ⊢
      cases r with
      | inl a => exact hd
      | inr a =>
        obtain ⟨z', F1, A1, c3, j, e1, q1, S1, ⟨T1, lt1⟩, fr1, p1, p2⟩ := hd
        obtain ⟨⟨x, w1⟩, t1⟩ := a
        dsimp only at S1 T1 lt1 p1 p2
        rw [e1]
        have lij := yT.lt k x i j T1
        have hl1 : yL (yT A1 m (c ++ c3) k) (l ++ [x]) i0 j := yL.snoc T1 (yL.mono (fun x i j => yT.lt k x i j) (i0 := 0) (j0 := i) (fun x i' j' hi hj hx => yT.of c3 k x i' j' (fr1.sub hi hj) hx) (Nat.zero_le _) (Nat.le_refl _) hl)
        have hr := ih t1 w1 (l ++ [x]) j F1 A1 z' (c ++ c3) (by omega) S1 (by omega) hl1 (by omega)
        show yO (ix_run iy_P N (d + 7)) h m tk e v1 v2 v3 F A z t i0 c ab _ (pHR (ix_run iy_P N (d + 7)) m z' v1 v2 v3 (hw h F1 A1)) (x_until tk (x_told tk k) e0 z0 t1 w1 (l ++ [x]))
        generalize x_until tk (x_told tk k) e0 z0 t1 w1 (l ++ [x]) = r at hr ⊢
        cases r with
        | inl b =>
          obtain ⟨F2, A2, e2, q2, g⟩ := hr
          exact ⟨F2, A2, e2, q1.trans q2, g⟩
        | inr b =>
          obtain ⟨z2, F2, A2, c4, j2, e2, q2, S2, R2, fr2, p3, p4⟩ := hr
          rw [List.append_assoc] at S2 R2
          exact ⟨z2, F2, A2, c3 ++ c4, j2, e2, q1.trans q2, S2, R2, (fr1.sub (Nat.le_refl _) hi).trans fr2, by omega, by omega⟩
/-- a tell that is no rounds -/
theorem y_leaf (hP : mSp h m) (hN : 1000 ≤ N) {z : Nat} {c : xC} {w : Option Nat} {ab : List Nat} (hS : yS F A m tk e t i c w ab) (hz : 402 ≤ z + t) (h29 : ab ≠ [] → x_kd tk t ≠ 29) (h0 : ab = [] → x_kd tk t ≠ 0) (hab : ab.length ≤ 3) (h28 : x_kd tk t ≠ 28) (k : Nat) (G : xL → xT k) (hG : ∀ A c l i j, j = i + 1 → pLf A m i l c → yT A m c k (G l) i j) :
    yO (ix_run iy_P N (d + 7)) h m tk e v1 v2 v3 F A z t i c ab (fun A' c' x j t' => yT A' m c' k x i j ∧ t < t') (pHR (ix_run iy_P N (d + 7)) m z v1 v2 v3 (hw h F A)) (x_bd (x_one tk t w) fun l t1 => x_bd (x_must tk 4 t1) fun _ t2 => .inr ((G l.1, l.2), t2)) := by
  obtain ⟨hT, hC, hW, h18, hi2, h25, hB, hlt⟩ := hS
  have t4 := hT.2.2.1
  obtain ⟨z, rfl⟩ : ∃ y, z = y + 1 := ⟨z - 1, by omega⟩
  have es : (x_bd (x_one tk t w) fun l t1 => x_bd (x_must tk 4 t1) fun _ t2 => .inr ((G l.1, l.2), t2) : xR (xT k × Option Nat)) = x_bd (x_bd (x_one tk t w) fun l t1 => x_bd (x_must tk 4 t1) fun _ t2 => .inr (l, t2)) fun l t2 => .inr ((G l.1, l.2), t2) := by
    simp only [x_bd_as]
    rfl
  by_cases w0 : x_kd tk t = 0
  · have ho : (x_bd (x_one tk t w) fun l t1 => x_bd (x_must tk 4 t1) fun _ t2 => .inr ((G l.1, l.2), t2) : xR (xT k × Option Nat)) = .inl (1, t) := by
      unfold x_one x_act
      rw [w0]
      rfl
    rw [ho]
    cases ab with
    | nil => exact absurd w0 (h0 rfl)
    | cons x r =>
      obtain ⟨F1, e1, q1, g1⟩ := p_68E (A := A) hP hT w0 (k := r.length) h25 (by simp only [List.length_cons] at hab; omega) N d z v1 v2 v3
      exact ⟨F1, A, e1, q1.mono rfl rfl, g1⟩
  · rw [es]
    obtain ⟨F1, A1, e1, q1, r1, f1⟩ := p_tellOne hP hN hT hC hW h18 (show i < 210 by omega) h28 (fun x => by
      cases ab with
      | nil => exact h25
      | cons y r => exact absurd x (h29 (List.cons_ne_nil _ _))) w0 d
    rw [p_68S hP hT w0 e1 z v1 v2 v3]
    generalize (x_bd (x_one tk t w) fun l t1 => x_bd (x_must tk 4 t1) fun _ t2 => .inr (l, t2) : xR (xL × Option Nat)) = r at f1 ⊢
    cases r with
    | inl a =>
      obtain ⟨z, rfl⟩ : ∃ y, z = y + 1 := ⟨z - 1, by omega⟩
      obtain ⟨F2, e2, q2, g2⟩ := p_68F (A := A1) hP f1 (ix_run iy_P N (d + 7)) z v1 v2 v3
      exact ⟨F2, A1, e2, (q1.mono rfl rfl).trans (q2.mono rfl rfl), g2⟩
    | inr a =>
      obtain ⟨g18, T1, tl, C1, W1, k8, k5, k9, k3⟩ := f1
      obtain ⟨⟨l, w'⟩, t1⟩ := a
      dsimp only at T1 tl C1 W1 k8 k5 k9 k3
      rw [List.append_assoc] at C1
      refine ⟨z, F1, A1, l.2.2.1 ++ l.2.2.2, i + 1, rfl, q1.mono rfl rfl, ⟨T1, C1, W1, g18, by show 2 * (i + 1) ≤ t1; omega, by rw [q1.2.1 25 rfl]; exact h25, by rw [q1.2.2.1 14 rfl]; exact hB, fun x hx => Nat.lt_succ_of_lt (hlt x hx)⟩, ⟨hG _ _ _ _ _ rfl ⟨k8, k5, k9, fun h3 => ?_⟩, by show t < t1; omega⟩, fun k q h8 h13 _ hq => ?_, by show t ≤ t1; omega, by show z + 1 + t ≤ z + t1; omega⟩
      · obtain ⟨g1, g2, g3⟩ := k3 h3
        exact ⟨c, [], by rw [List.append_nil, List.append_assoc], g1, g2, g3⟩
      · by_cases wk : k = 13
        · rw [wk, q1.2.2.1 13 rfl]
        · exact r1 k q (by omega) h8 (by omega)
theorem y_told (hP : mSp h m) (hN : 1000 ≤ N) : ∀ k, yW (ix_run iy_P N (d + 7)) h m tk e v1 v2 v3 k := by
  intro k
  induction k with
  | zero =>
    intro z F A t i c w ab hk hS hz h29 h0
    by_cases w28 : x_kd tk t = 28
    · obtain ⟨hT, hC, hW, h18, hi2, h25, hB, hlt⟩ := hS
      have te := hT.2.1
      have t4 := hT.2.2.1
      have hi : i < 210 := by omega
      obtain ⟨k37, -, a3, -⟩ := hT.1.2.2 t te t4
      obtain ⟨z, rfl⟩ : ∃ y, z = y + 2 := ⟨z - 2, by omega⟩
      have e1 : ∃ F1 A1, ix_run iy_P N (d + 7) 257 [ix_R (some m)] (hw h F A) = some (.inl none, hw h F1 A1) ∧ pQ2 m F A F1 A1 ∧ pF F1 m tk 2 t := by
        rw [rX9_tellOne N (d + 6)]
        unfold bX9_tellOne
        rw [mq_is hP, mq_is hP, hw_fI, h18, mp_wr20 hP, hw_in hi (by omega), cond_true, hw_bdA, hw_cl (by omega)]
        have q0 : mQ [] [9] m F A F (hw_R A (m + 9) (hw_U (A (m + 9)) i (-1))) := (mQ.refl _ _ _ _ _).aR (k := 9) rfl (by omega)
        have T0 := hT.of q0 rfl rfl
        generalize hw_R A (m + 9) (hw_U (A (m + 9)) i (-1)) = A0 at q0 T0 ⊢
        have a3' : A0 (m + 3) t = nI (x_kd tk t) := by rw [q0.2.2.1 3 rfl]; exact a3
        obtain ⟨F1, e1, q1, f1⟩ := p_fail hP T0 N (d + 5) (k := 2) (by omega) (by omega)
        rw [mq_is hP, mq_is hP, mp_rd5 hP, hw_fI, T0.2.2.2.1, hw_in (by omega) (by omega), cond_true, hw_aI, hw_cl (by omega), a3', w28, if_neg (by decide), if_neg (by decide), if_neg (by decide), if_neg (by decide), if_neg (by decide), if_pos rfl, mq_is hP, h25, show ab.length = 3 by omega, if_pos rfl, mq_isr hP, hw_cV e1]
        unfold jX9_tellOne_78
        rw [mq_is hP, hw_fI, if_neg (by rw [f1.1]; exact f1.nle)]
        exact ⟨F1, A0, rfl, (q0.mono rfl rfl).trans (q1.mono rfl rfl), f1⟩
      obtain ⟨F1, A1, e1, q1, f1⟩ := e1
      rw [p_68S hP hT (by omega) e1 (z + 1) v1 v2 v3]
      obtain ⟨F2, e2, q2, g2⟩ := p_68F (A := A1) hP f1 (ix_run iy_P N (d + 7)) z v1 v2 v3
      unfold x_told
      rw [if_pos w28]
      exact ⟨F2, A1, e2, q1.trans (q2.mono rfl rfl), g2⟩
    · unfold x_told
      rw [if_neg w28]
      exact y_leaf hP hN hS hz h29 h0 (by omega) w28 0 (fun l => l) (fun A c l i j hj hl => ⟨hj, hl⟩)
  | succ k ih =>
    intro z F A t i c w ab hk hS hz h29 h0
    by_cases w28 : x_kd tk t = 28
    · have hS' := hS
      obtain ⟨hT, hC, hW, h18, hi2, h25, hB, hlt⟩ := hS
      have t4 := hT.2.2.1
      have hi : i < 210 := by omega
      obtain ⟨z, rfl⟩ : ∃ y, z = y + 2 := ⟨z - 2, by omega⟩
      have es : x_told tk (k + 1) t w = x_bd (x_bd (x_pas t) fun _ t1 => x_bd (x_num tk (nI 0) (nI 99) t1 w) fun n t2 => x_bd (x_must tk 4 t2) fun _ t3 => .inr (n, t3)) fun n t3 => x_bd (x_until tk (x_told tk k) 29 (401 - t3) t3 n.2 []) fun l t4 => x_bd (x_bd (x_pas t4) fun _ t5 => x_must tk 4 t5) fun _ t6 => .inr ((.inr (n.1, l.1), l.2), t6) := by
        rw [x_told, if_pos w28]
        simp only [x_bd_as]
        rfl
      rw [es]
      obtain ⟨F1, A1, e1, q1, r1, f1⟩ := p_do hP hT hC hW h18 hi w28 h25 (by omega) hB N d
      rw [p_68S hP hT (by omega) e1 (z + 1) v1 v2 v3]
      generalize (x_bd (x_pas t) fun _ t1 => x_bd (x_num tk (nI 0) (nI 99) t1 w) fun n t2 => x_bd (x_must tk 4 t2) fun _ t3 => .inr (n, t3) : xR (Int32 × Option Nat)) = r at f1 ⊢
      cases r with
      | inl a =>
        obtain ⟨F2, e2, q2, g2⟩ := p_68F (A := A1) hP f1 (ix_run iy_P N (d + 7)) z v1 v2 v3
        exact ⟨F2, A1, e2, q1.trans (q2.mono rfl rfl), g2⟩
      | inr a =>
        obtain ⟨⟨n, w1⟩, t1⟩ := a
        obtain ⟨T1, tl1, C1, W1, g18, g25, gB, g8, g10⟩ := f1
        dsimp only at T1 tl1 C1 W1 g10
        have S1 : yS F1 A1 m tk e t1 (i + 1) c w1 (i :: ab) := ⟨T1, C1, W1, g18, by omega, g25, gB, fun x hx => by
          rcases List.mem_cons.mp hx with rfl | hx
          · exact Nat.lt_succ_self _
          · exact Nat.lt_succ_of_lt (hlt x hx)⟩
        have hu := y_until (d := d) (i0 := i + 1) ih (ab := i :: ab) (by rw [List.length_cons]; omega) (e0 := 29) (fun _ => rfl) (fun x => absurd x (List.cons_ne_nil _ _)) (401 - t1) t1 w1 [] (i + 1) F1 A1 (z + 1) c (by omega) S1 (by omega) rfl (Nat.le_refl _)
        show yO (ix_run iy_P N (d + 7)) h m tk e v1 v2 v3 F A (z + 2) t i c ab _ (pHR (ix_run iy_P N (d + 7)) m (z + 1) v1 v2 v3 (hw h F1 A1)) (x_bd (x_until tk (x_told tk k) 29 (401 - t1) t1 w1 []) fun l t4 => x_bd (x_bd (x_pas t4) fun _ t5 => x_must tk 4 t5) fun _ t6 => (Sum.inr (((Sum.inr (n, l.1) : xT (k + 1)), l.2), t6) : xR (xT (k + 1) × Option Nat)))
        generalize x_until tk (x_told tk k) 29 (401 - t1) t1 w1 [] = r at hu ⊢
        cases r with
        | inl a =>
          obtain ⟨F2, A2, e2, q2, g2⟩ := hu
          exact ⟨F2, A2, e2, q1.trans q2, g2⟩
        | inr a =>
          obtain ⟨⟨l, w2⟩, t2⟩ := a
          obtain ⟨z2, F2, A2, c3, j, e2, q2, S2, ⟨Y2, lj, k29⟩, fr2, p3, p4⟩ := hu
          dsimp only at S2 Y2 k29 p3 p4
          obtain ⟨T2, C2, W2, b18, bi2, b25, bB, blt⟩ := S2
          have t24 := T2.2.2.1
          rw [e2]
          obtain ⟨z2, rfl⟩ : ∃ y, z2 = y + 2 := ⟨z2 - 2, by omega⟩
          obtain ⟨F3, A3, e3, q3, r3, f3⟩ := p_endT hP T2 C2 W2 b18 (by omega) k29 (ab := ab) (i0 := i) b25 (by omega) bB (by omega) N d
          rw [p_68S hP T2 (by omega) e3 (z2 + 1) v1 v2 v3]
          show yO (ix_run iy_P N (d + 7)) h m tk e v1 v2 v3 F A (z + 2) t i c ab _ (pHR (ix_run iy_P N (d + 7)) m (z2 + 1) v1 v2 v3 (hw h F3 A3)) (x_bd (x_bd (x_pas t2) fun _ t5 => x_must tk 4 t5) fun _ t6 => (Sum.inr (((Sum.inr (n, l) : xT (k + 1)), w2), t6) : xR (xT (k + 1) × Option Nat)))
          have q13 := (q1.trans q2).trans q3
          generalize (x_bd (x_pas t2) fun _ t5 => x_must tk 4 t5 : xR Unit) = r at f3 ⊢
          cases r with
          | inl a =>
            obtain ⟨F4, e4, q4, g4⟩ := p_68F (A := A3) hP f3 (ix_run iy_P N (d + 7)) z2 v1 v2 v3
            exact ⟨F4, A3, e4, q13.trans (q4.mono rfl rfl), g4⟩
          | inr a =>
            obtain ⟨a0, t3⟩ := a
            obtain ⟨T3, tl3, C3, W3, d18, d25, dB, d8, d13, d13'⟩ := f3
            dsimp only at T3 tl3 C3 W3
            refine ⟨z2 + 1, F3, A3, c3, j + 1, rfl, q13, ⟨T3, C3, W3, d18, by show 2 * (j + 1) ≤ t3; omega, d25, dB, fun x hx => by have := hlt x hx; omega⟩, ⟨⟨j, rfl, by omega, ?_, ?_, d13', d8, d13, ?_⟩, by show t < t3; omega⟩, ?_, by show t ≤ t3; omega, by show z + 2 + t ≤ z2 + 1 + t3; omega⟩
            · rw [r3 8 i (by omega) (.inr (by omega)) (by omega) (by omega), fr2 8 i (by omega) (by omega) (by omega) (by omega)]
              exact g8
            · rw [r3 10 i (by omega) (.inr (by omega)) (by omega) (by omega), fr2 10 i (by omega) (by omega) (by omega) (by omega)]
              exact g10
            · have := yL.mono (fun x i j => yT.lt k x i j) (Q := yT A3 m ((c ++ c3) ++ []) k) (i0 := i + 1) (j0 := j) (fun x i' j' hi hj hx => yT.of [] k x i' j' (fun k q h8 h13 h1 h2 => r3 k q (by omega) (.inl (by omega)) h8 h13) hx) (Nat.le_refl _) (Nat.le_refl _) Y2
              rw [List.append_nil] at this
              exact this
            · intro k q h8 h13 _ hq
              rw [r3 k q (by omega) (.inl (by omega)) h8 h13, fr2 k q h8 h13 (by omega) (by omega)]
              exact r1 k q (by omega) h8 h13
    · rw [x_told, if_neg w28]
      exact y_leaf hP hN hS hz h29 h0 (by omega) w28 (k + 1) (fun l => .inl l) (fun A c l i j hj hl => ⟨hj, hl⟩)
end
