/-! TR: the reference: runs over the trees -/
set_option maxRecDepth 100000
abbrev mY3 : List Nat := [18, 19, 20, 21, 22, 23, 24, 25, 26, 27, 28]
/-- what the rows of the tells say to the runs -/
def uA (F A : Nat → Nat → Int32) (m tn : Nat) (c : xC) : Prop := F m 18 = nI tn ∧ tn ≤ 210 ∧ pC A m c ∧ c.length ≤ 400
def uO (cal : ix_C) (h : ix_H) (m : Nat) (F A : Nat → Nat → Int32) (rd : List Int32) (z D j : Nat) (σ : xG) (out : ix_O) : Prop :=
  ∃ F' A', mQ mX mY3 m F A F' A' ∧ mR (A' (m + 21)) σ.1 ∧ uJ σ.1 ∧ σ.2.2 = rd ∧ ((r_ov σ ∧ out = some (.inl none, hw h F' A')) ∨ (¬ r_ov σ ∧ yP (A' (m + 20)) rd ∧ ∃ z', z ≤ z' + D ∧ out = pHU cal m z' j rd.length σ.2.1 (hw h F' A')))
def uW (cal : ix_C) (h : ix_H) (m tn : Nat) (c : xC) (d : Nat) : Prop := ∀ (x : xT d) i j z F A S last rd, yT A m c d x i j → xT_ok d x → uA F A m tn c → uJ S → mR (A (m + 21)) S → zy S < 400 → yP (A (m + 20)) rd → rd.length + d ≤ 3 → j ≤ tn → 100 ^ d * (j - i) < z → uO cal h m F A rd z (100 ^ d * (j - i)) j (r_tell d x (S, last, rd)) (pHU cal m z i rd.length last (hw h F A))
section
variable {h : ix_H} {m : Nat} {F A : Nat → Nat → Int32} {N d i tn : Nat} {cal : ix_C} {c : xC}
theorem uA.of {F' A' : Nat → Nat → Int32} (h : uA F A m tn c) (q : mQ mX mY3 m F A F' A') : uA F' A' m tn c :=
  ⟨by rw [q.2.1 18 rfl]; exact h.1, h.2.1, fun j hj => by rw [q.2.2.1 15 rfl, q.2.2.1 16 rfl]; exact h.2.2.1 j hj, h.2.2.2⟩
theorem uF.of {F' A' : Nat → Nat → Int32} (q : mQ mX mY3 m F A F' A') (i j : Nat) : pFr m i j A A' := fun k q' h8 h13 _ _ => by rw [q.2.2.1 k (by rw [List.contains_eq_any_beq]; simp; omega)]
theorem uT.of {F' A' : Nat → Nat → Int32} (q : mQ mX mY3 m F A F' A') {d : Nat} {x : xT d} {i j : Nat} (h : yT A m c d x i j) : yT A' m c d x i j := by
  have := yT.of [] d x i j (uF.of q i j) h
  rw [List.append_nil] at this
  exact this
theorem uL.of {F' A' : Nat → Nat → Int32} (q : mQ mX mY3 m F A F' A') {d : Nat} : ∀ {l : List (xT d)} {i j : Nat}, yL (yT A m c d) l i j → yL (yT A' m c d) l i j
  | [], _, _, h => h
  | _ :: _, _, _, ⟨k, h1, h2⟩ => ⟨k, uT.of q h1, uL.of q h2⟩
theorem uO.back {F1 A1 : Nat → Nat → Int32} {rd : List Int32} {z z1 D D1 j : Nat} {σ : xG} {out : ix_O} (q : mQ mX mY3 m F A F1 A1) (hz : z + D1 ≤ z1 + D) (o : uO cal h m F1 A1 rd z1 D1 j σ out) : uO cal h m F A rd z D j σ out := by
  obtain ⟨F2, A2, q2, r2, J2, e2, o2⟩ := o
  refine ⟨F2, A2, q.trans q2, r2, J2, e2, o2.imp id fun ⟨a, b, z', hz', e⟩ => ⟨a, b, z', by omega, e⟩⟩
theorem u_leaf (hS : mSh h m) (hP : mSp h m) (hN : 3000 ≤ N) {S : zS} {last : Int32} {rd : List Int32} {l : xL} {z D : Nat} (hL : pLf A m i l c) (ok : xl_ok l) (hA : uA F A m tn c) (hJ : uJ S) (hR : mR (A (m + 21)) S) (hy : zy S < 400) (hrd : yP (A (m + 20)) rd) (hrl : rd.length ≤ 3) (hi : i < tn) (hD : 1 ≤ D) (hz : 1 < z) : uO (ix_run iy_P N (d + 13)) h m F A rd z D (i + 1) (r_one l (S, last, rd)) (pHU (ix_run iy_P N (d + 13)) m z i rd.length last (hw h F A)) := by
  obtain ⟨a1, a2, a3, a4⟩ := hA
  obtain ⟨z, rfl⟩ : ∃ y, z = y + 1 := ⟨z - 1, by omega⟩
  obtain ⟨F1, A1, e1, q1, r1⟩ := m_runLeaf (F := F) (A := A) hS hP hN d hJ.1 hR hy a1 hi a2 hrd hrl (last := last) a3 a4 hL ok z
  obtain ⟨J1, y1, d1⟩ := r_one_J (last := last) (rd := rd) ok hJ hy
  have q3 : mQ mX mY3 m F A F1 A1 := q1.mono rfl rfl
  refine ⟨F1, A1, q3, r1, J1, d1, ?_⟩
  rw [e1]
  by_cases w : r_ov (r_one l (S, last, rd))
  · refine .inl ⟨w, ?_⟩
    obtain ⟨z, rfl⟩ : ∃ y, z = y + 1 := ⟨z - 1, by omega⟩
    exact m_runOver hS hP r1 w (by omega) (by rw [q3.2.1 18 rfl]; exact a1) a2 (by omega)
  · exact .inr ⟨w, by rw [q1.2.2.1 20 rfl]; exact hrd, z, by omega, rfl⟩
theorem u_all {d : Nat} (hW : uW cal h m tn c d) : ∀ (l : List (xT d)) i j z F A S last rd, yL (yT A m c d) l i j → (∀ x ∈ l, xT_ok d x) → uA F A m tn c → uJ S → mR (A (m + 21)) S → zy S < 400 → yP (A (m + 20)) rd → rd.length + d ≤ 3 → j ≤ tn → 100 ^ d * (j - i) < z → uO cal h m F A rd z (100 ^ d * (j - i)) j (r_all (r_tell d) l (S, last, rd)) (pHU cal m z i rd.length last (hw h F A))
  | [], i, j, z, F, A, S, last, rd, hL, _, hA, hJ, hR, hy, hrd, hrl, hj, hz => by
    have e : j = i := hL
    subst e
    exact ⟨F, A, mQ.refl _ _ _ _ _, hR, hJ, rfl, .inr ⟨Nat.not_le.mpr hy, hrd, z, by omega, rfl⟩⟩
  | x :: r, i, j, z, F, A, S, last, rd, hL, ok, hA, hJ, hR, hy, hrd, hrl, hj, hz => by
    obtain ⟨k, h1, h2⟩ := hL
    have l1 := yT.lt d x i k h1
    have l2 := yL.le (fun x i j => yT.lt d x i j) h2
    have eD : 100 ^ d * (j - i) = 100 ^ d * (k - i) + 100 ^ d * (j - k) := by
      rw [← Nat.mul_add]
      congr 1
      omega
    rw [eD] at hz ⊢
    have er : r_all (r_tell d) (x :: r) (S, last, rd) = r_all (r_tell d) r (r_tell d x (S, last, rd)) := by
      show (if r_ov (S, last, rd) then _ else _) = _
      rw [if_neg (Nat.not_le.mpr hy)]
    rw [er]
    obtain ⟨F1, A1, q1, r1, J1, d1, o1⟩ := hW x i k z F A S last rd h1 (ok x List.mem_cons_self) hA hJ hR hy hrd hrl (by omega) (by omega)
    rcases o1 with ⟨w, e1⟩ | ⟨w, p1, z', hz', e1⟩
    · rw [r_all_ov w]
      exact ⟨F1, A1, q1, r1, J1, d1, .inl ⟨w, e1⟩⟩
    · rw [e1]
      generalize hσ : r_tell d x (S, last, rd) = σ1 at *
      obtain ⟨S1, last1, rd1⟩ := σ1
      have d1 : rd1 = rd := d1
      subst d1
      exact uO.back q1 (by omega) (u_all hW r k j z' F1 A1 S1 last1 rd1 (uL.of q1 h2) (fun y hy => ok y (List.mem_cons_of_mem _ hy)) (hA.of q1) J1 r1 (Nat.not_le.mp w) p1 hrl hj (by omega))
theorem u_rds (hS : mSh h m) (hP : mSp h m) {d : Nat} (hW : uW cal h m tn c d) {b : List (xT d)} {i0 k n : Nat} {rd : List Int32} (ok : ∀ x ∈ b, xT_ok d x) (hk : k < tn) (hi : i0 < k) (hn : n ≤ 99) (hrl : rd.length + (d + 1) ≤ 3) : ∀ jj v z F A S last r0, v + jj = n → 0 < jj → yL (yT A m c d) b (i0 + 1) k → A (m + 10) i0 = nI n → A (m + 13) k = nI i0 → A (m + 8) k = nI 7 → uA F A m tn c → uJ S → mR (A (m + 21)) S → zy S < 400 → yP (A (m + 20)) (nI v :: rd) → jj * (1 + 100 ^ d * (k - (i0 + 1))) + 1 < z →
    uO cal h m F A rd z (jj * (1 + 100 ^ d * (k - (i0 + 1)))) (k + 1) ((r_rds (r_tell d) b jj v (S, last, r0 :: rd)).1, (r_rds (r_tell d) b jj v (S, last, r0 :: rd)).2.1, rd) (pHU cal m z (i0 + 1) (rd.length + 1) last (hw h F A))
  | 0, _, _, _, _, _, _, _, _, h0, _, _, _, _, _, _, _, _, _, _ => absurd h0 (Nat.lt_irrefl 0)
  | jj + 1, v, z, F, A, S, last, r0, hv, _, hL, h10, h13, h7, hA, hJ, hR, hy, hrd, hz => by
    have eD : (jj + 1) * (1 + 100 ^ d * (k - (i0 + 1))) = jj * (1 + 100 ^ d * (k - (i0 + 1))) + (1 + 100 ^ d * (k - (i0 + 1))) := Nat.succ_mul _ _
    rw [eD] at hz ⊢
    have er : r_rds (r_tell d) b (jj + 1) v (S, last, r0 :: rd) = r_rds (r_tell d) b jj (v + 1) (r_all (r_tell d) b (S, last, nI v :: rd)) := by
      show (if r_ov (S, last, r0 :: rd) then _ else _) = _
      rw [if_neg (Nat.not_le.mpr hy)]
      rfl
    rw [er]
    obtain ⟨F1, A1, q1, r1, J1, d1, o1⟩ := u_all hW b (i0 + 1) k z F A S last (nI v :: rd) hL ok hA hJ hR hy hrd (by simp only [List.length_cons]; omega) (by omega) (by omega)
    rcases o1 with ⟨w, e1⟩ | ⟨w, p1, z', hz', e1⟩
    · rw [r_rds_ov w]
      exact ⟨F1, A1, q1, r1, J1, rfl, .inl ⟨w, e1⟩⟩
    · have e1 : pHU cal m z (i0 + 1) (rd.length + 1) last (hw h F A) = pHU cal m z' k (rd.length + 1) (r_all (r_tell d) b (S, last, nI v :: rd)).2.1 (hw h F1 A1) := e1
      rw [e1]
      generalize hσ : r_all (r_tell d) b (S, last, nI v :: rd) = σ1 at *
      obtain ⟨S1, last1, rd1⟩ := σ1
      have d1 : rd1 = nI v :: rd := d1
      subst d1
      have J1 : uJ S1 := J1
      have r1 : mR (A1 (m + 21)) S1 := r1
      have y1 : zy S1 < 400 := Nat.not_le.mp w
      obtain ⟨a1, a2, a3, a4⟩ := hA.of q1
      have f := uF.of q1 0 tn
      have g7 : A1 (m + 8) k = nI 7 := by rw [f 8 k (by omega) (by omega) (by omega) hk]; exact h7
      have g13 : A1 (m + 13) k = nI i0 := by rw [f 13 k (by omega) (by omega) (by omega) hk]; exact h13
      have g10 : A1 (m + 10) i0 = nI n := by rw [f 10 i0 (by omega) (by omega) (by omega) (by omega)]; exact h10
      have gv : A1 (m + 20) rd.length = nI v := p1.1
      obtain ⟨z', rfl⟩ : ∃ y, z' = y + 1 := ⟨z' - 1, by omega⟩
      have q2 : mQ mX mY3 m F A F1 (hw_R A1 (m + 20) (hw_U (A1 (m + 20)) rd.length (nI (v + 1)))) := q1.aR (k := 20) rfl (by omega)
      have e21 : hw_R A1 (m + 20) (hw_U (A1 (m + 20)) rd.length (nI (v + 1))) (m + 21) = A1 (m + 21) := hw_R_ne _ _ (by omega)
      have pr : yP (hw_R A1 (m + 20) (hw_U (A1 (m + 20)) rd.length (nI (v + 1))) (m + 20)) (nI (v + 1) :: rd) := by
        rw [hw_R_same]
        exact ⟨hw_U_same _ _ _, yP.up p1.2 (Nat.le_refl _)⟩
      have q3 : mQ mX mY3 m F1 A1 F1 (hw_R A1 (m + 20) (hw_U (A1 (m + 20)) rd.length (nI (v + 1)))) := (mQ.refl _ _ _ _ _).aR (k := 20) rfl (by omega)
      cases jj with
      | zero =>
        rw [m_runOut hS hP r1 y1 a1 a2 hk g7 g13 (by omega) g10 hn (by omega) gv (by omega)]
        exact ⟨F1, _, q2, by rw [e21]; exact r1, J1, rfl, .inr ⟨w, pr.2, z', by omega, rfl⟩⟩
      | succ jj =>
        rw [m_runMore hS hP r1 y1 a1 a2 hk g7 g13 (by omega) g10 hn (by omega) gv (by omega)]
        have ih := u_rds hS hP hW ok hk hi hn hrl (jj + 1) (v + 1) z' F1 _ S1 last1 (nI v) (by omega) (Nat.succ_pos _) (uL.of q2 hL) (by rw [(uF.of q3 0 tn) 10 i0 (by omega) (by omega) (by omega) (by omega)]; exact g10) (by rw [(uF.of q3 0 tn) 13 k (by omega) (by omega) (by omega) hk]; exact g13) (by rw [(uF.of q3 0 tn) 8 k (by omega) (by omega) (by omega) hk]; exact g7) ((hA.of q1).of q3) J1 (by rw [e21]; exact r1) y1 pr (by omega)
        exact uO.back q2 (by omega) ih
theorem u_tell (hS : mSh h m) (hP : mSp h m) (hN : 3000 ≤ N) : ∀ k, uW (ix_run iy_P N (d + 13)) h m tn c k
  | 0 => by
    intro x i j z F A S last rd hT ok hA hJ hR hy hrd hrl hj hz
    obtain ⟨e, hL⟩ := hT
    subst e
    rw [Nat.add_sub_cancel_left] at hz ⊢
    exact u_leaf hS hP hN hL ok hA hJ hR hy hrd (by omega) (by omega) (by omega) (by omega)
  | k + 1 => by
    intro x i j z F A S last rd hT ok hA hJ hR hy hrd hrl hj hz
    have hp : 0 < 100 ^ k := Nat.pow_pos (by omega)
    have e100 : 100 ^ (k + 1) = 100 ^ k * 100 := Nat.pow_succ 100 k
    match x, hT, ok with
    | .inl l, ⟨e, hL⟩, ok =>
      subst e
      rw [Nat.add_sub_cancel_left] at hz ⊢
      exact u_leaf hS hP hN hL ok hA hJ hR hy hrd (by omega) (by omega) (by omega) (by omega)
    | .inr (n, b), ⟨q, hq, h1, h6, h10, h13, h7, h13', hL⟩, ⟨⟨n', hn', en⟩, ok⟩ =>
      have en : n = nI n' := en
      subst en hq
      have h10 : A (m + 10) i = nI n' := h10
      have hL : yL (yT A m c k) b (i + 1) q := hL
      have ok : ∀ x ∈ b, xT_ok k x := ok
      obtain ⟨a1, a2, a3, a4⟩ := hA
      obtain ⟨z, rfl⟩ : ∃ y, z = y + 1 := ⟨z - 1, by omega⟩
      generalize hP1 : 100 ^ k = P at *
      generalize hQ1 : q - (i + 1) = Q at *
      have eq1 : q + 1 - i = Q + 2 := by omega
      rw [e100, eq1, Nat.mul_assoc] at hz ⊢
      have hPQ : P * (100 * (Q + 2)) = 100 * (P * Q) + 200 * P := by
        rw [show 100 * (Q + 2) = 100 * Q + 200 by omega, Nat.mul_add, Nat.mul_left_comm, Nat.mul_comm P 200]
      rw [hPQ] at hz ⊢
      by_cases w : n' = 0
      · subst w
        have er : r_tell (k + 1) (.inr (nI 0, b)) (S, last, rd) = (S, last, rd) := rfl
        rw [er, m_runDo0 hS hP hR hy a1 a2 (by omega) h6 h10 h13]
        exact ⟨F, A, mQ.refl _ _ _ _ _, hR, hJ, rfl, .inr ⟨Nat.not_le.mpr hy, hrd, z, by omega, rfl⟩⟩
      · have er : r_tell (k + 1) (.inr (nI n', b)) (S, last, rd) = ((r_rds (r_tell k) b n' 0 (S, last, nI 0 :: rd)).1, (r_rds (r_tell k) b n' 0 (S, last, nI 0 :: rd)).2.1, rd) := by
          show ((r_rds (r_tell k) b (nI n').toNatClampNeg 0 (S, last, nI 0 :: rd)).1, (r_rds (r_tell k) b (nI n').toNatClampNeg 0 (S, last, nI 0 :: rd)).2.1, rd) = _
          rw [hw_cl (by omega)]
        rw [er, m_runDo hS hP hR hy a1 a2 (by omega) h6 h10 (by omega) hn' (by omega)]
        have q1 : mQ mX mY3 m F A F (hw_R A (m + 20) (hw_U (A (m + 20)) rd.length (nI 0))) := (mQ.refl _ _ _ _ _).aR (k := 20) rfl (by omega)
        have e21 : hw_R A (m + 20) (hw_U (A (m + 20)) rd.length (nI 0)) (m + 21) = A (m + 21) := hw_R_ne _ _ (by omega)
        have pr : yP (hw_R A (m + 20) (hw_U (A (m + 20)) rd.length (nI 0)) (m + 20)) (nI 0 :: rd) := by
          rw [hw_R_same]
          exact ⟨hw_U_same _ _ _, yP.up hrd (Nat.le_refl _)⟩
        have hm : n' * (1 + P * Q) ≤ 99 + 99 * (P * Q) := by
          have := Nat.mul_le_mul_right (1 + P * Q) hn'
          omega
        have ih := u_rds hS hP (u_tell hS hP hN k) (b := b) (i0 := i) (k := q) (n := n') (rd := rd) ok (by omega) h1 hn' (by omega) n' 0 z F _ S last (nI 0) (by omega) (by omega) (uL.of q1 hL) (by rw [(uF.of q1 0 tn) 10 i (by omega) (by omega) (by omega) (by omega)]; exact h10) (by rw [(uF.of q1 0 tn) 13 q (by omega) (by omega) (by omega) (by omega)]; exact h13') (by rw [(uF.of q1 0 tn) 8 q (by omega) (by omega) (by omega) (by omega)]; exact h7) (uA.of ⟨a1, a2, a3, a4⟩ q1) hJ (by rw [e21]; exact hR) hy pr (by rw [hP1, hQ1]; omega)
        rw [hP1, hQ1] at ih
        exact uO.back q1 (by omega) ih
theorem m_runs (hS : mSh h m) (hP : mSp h m) (hN : 300000000 ≤ N) (d : Nat) {S : zS} {l : List (xT 3)} (hL : yL (yT A m c 3) l 0 tn) (ok : ∀ x ∈ l, xT_ok 3 x) (hA : uA F A m tn c) (hJ : uJ S) (hR : mR (A (m + 21)) S) (hy : zy S < 400) : ∃ F' A', ix_run iy_P N (d + 14) 265 [ix_R (some m)] (hw h F A) = some (.inl none, hw h F' A') ∧ mQ mX mY3 m F A F' A' ∧ mR (A' (m + 21)) (r_all (r_tell 3) l (S, nI 0, [])).1 ∧ uJ (r_all (r_tell 3) l (S, nI 0, [])).1 := by
  have a2 := hA.2.1
  obtain ⟨F1, A1, q1, r1, J1, d1, o1⟩ := u_all (u_tell (d := d) (N := N) (c := c) (tn := tn) hS hP (by omega) 3) l 0 tn (N + 1) F A S (nI 0) [] hL ok hA hJ hR hy trivial (by decide) (Nat.le_refl _) (by
    have e : (100 : Nat) ^ 3 = 1000000 := rfl
    rw [e]
    omega)
  have e0 : ix_run iy_P N (d + 14) 265 [ix_R (some m)] (hw h F A) = pHU (ix_run iy_P N (d + 13)) m (N + 1) 0 0 (nI 0) (hw h F A) := by
    unfold pHU
    rw [rX9_runs N (d + 13), lX9_runs_6]
    rfl
  rw [e0]
  rcases o1 with ⟨w, e1⟩ | ⟨w, p1, z', hz', e1⟩
  · exact ⟨F1, A1, e1, q1, r1, J1⟩
  · have e1 : pHU (ix_run iy_P N (d + 13)) m (N + 1) 0 0 (nI 0) (hw h F A) = pHU (ix_run iy_P N (d + 13)) m z' tn 0 (r_all (r_tell 3) l (S, nI 0, [])).2.1 (hw h F1 A1) := e1
    have e100 : (100 : Nat) ^ 3 = 1000000 := rfl
    rw [e100] at hz'
    obtain ⟨z', rfl⟩ : ∃ y, z' = y + 1 := ⟨z' - 1, by omega⟩
    rw [e1, m_runEnd hP (hA.of q1).1 a2]
    exact ⟨F1, A1, rfl, q1, r1, J1⟩
end
