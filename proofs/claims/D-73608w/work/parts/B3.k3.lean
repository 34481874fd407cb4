/-! K3: the component: all tokens -/
set_option maxRecDepth 100000
/-- rows of tokens from q on hold l, up to the first bad one -/
def kTq (A' : Nat → Nat → Int32) (D : Nat → Nat) (q : Nat) (l : List tK) : Prop := ∀ i (hi : i < l.length), (∀ j (hj : j < i), (l[j]).1 ≠ 3) → A' (D 15) (q + i) = k_so (l[i]).1 ∧ A' (D 16) (q + i) = nI (l[i]).2.1 ∧ A' (D 17) (q + i) = nI (l[i]).2.2.1 ∧ ((l[i]).1 ≠ 3 → A' (D 18) (q + i) = k_wh (l[i]).1)
/-- what reading tokens changes, from row q on -/
def kRd (D : Nat → Nat) (q : Nat) (F A F' A' : Nat → Nat → Int32) : Prop := (∀ x, x ≠ D 2 → F' x = F x) ∧ (∀ j, j ≠ 7 → F' (D 2) j = F (D 2) j) ∧ (∀ x, x ≠ D 15 → x ≠ D 16 → x ≠ D 17 → x ≠ D 18 → A' x = A x) ∧ ∀ i, i < q → A' (D 15) i = A (D 15) i ∧ A' (D 16) i = A (D 16) i ∧ A' (D 17) i = A (D 17) i ∧ A' (D 18) i = A (D 18) i
theorem kRd.trans {D : Nat → Nat} {q q2 : Nat} {F A F1 A1 F2 A2 : Nat → Nat → Int32} (h : kRd D q F A F1 A1) (h2 : kRd D q2 F1 A1 F2 A2) (hq : q ≤ q2) : kRd D q F A F2 A2 :=
  ⟨fun x hx => (h2.1 x hx).trans (h.1 x hx), fun j hj => (h2.2.1 j hj).trans (h.2.1 j hj), fun x x1 x2 x3 x4 => (h2.2.2.1 x x1 x2 x3 x4).trans (h.2.2.1 x x1 x2 x3 x4), fun i hi => by
    obtain ⟨a1, a2, a3, a4⟩ := h.2.2.2 i hi
    obtain ⟨b1, b2, b3, b4⟩ := h2.2.2.2 i (by omega)
    exact ⟨b1.trans a1, b2.trans a2, b3.trans a3, b4.trans a4⟩⟩
theorem kAd.rd {D : Nat → Nat} {q : Nat} {s f t w : Int32} {F A F' A' : Nat → Nat → Int32} (h : kAd D q s f t w F A F' A') : kRd D q F A F' A' := by
  obtain ⟨rfl, h1, h2, h3, h4, h5⟩ := h
  exact ⟨fun x hx => hw_R_ne _ _ hx, fun j hj => by rw [hw_R_same, hw_U_ne _ _ hj], h5, fun i hi => by
    rw [h1, h2, h3, h4, hw_U_ne _ _ (by omega), hw_U_ne _ _ (by omega), hw_U_ne _ _ (by omega), hw_U_ne _ _ (by omega)]
    exact ⟨rfl, rfl, rfl, rfl⟩⟩
section
variable {h : ix_H} {F A : Nat → Nat → Int32} {D cv : Nat → Nat} {b : Nat → Int32} {n N : Nat}
theorem kTx.rd {F' A' : Nat → Nat → Int32} {q : Nat} (hs : kS h D) (ht : kTx F A D b n) (e : kRd D q F A F' A') : kTx F' A' D b n := by
  obtain ⟨t1, t2, t3, t4⟩ := ht
  exact ⟨t1, by rw [e.2.1 2 (by omega)]; exact t2, fun k hk => by rw [e.2.2.1 _ (hs.ne (by omega) (by omega) (by omega)) (hs.ne (by omega) (by omega) (by omega)) (hs.ne (by omega) (by omega) (by omega)) (hs.ne (by omega) (by omega) (by omega))]; exact t3 k hk, t4⟩
theorem kC.rd {F' A' : Nat → Nat → Int32} {q : Nat} (hc : kC h F A D cv) (e : kRd D q F A F' A') : kC h F' A' D cv := hc.of fun b hb => ⟨e.1 b (hb 2 (by omega)), e.2.2.1 b (hb 15 (by omega)) (hb 16 (by omega)) (hb 17 (by omega)) (hb 18 (by omega))⟩
/-- letters, digits -/
theorem k_rd44 (hs : kS h D) (ht : kTx F A D b n) (N d : Nat) (v1 : Int32) : ∀ j z e, e + j ≤ n → (∀ i, i < j → tk_isL (tk_f b n (e + i)) = true) → ix_lp (ix_run iy_P N (d + 2)) stX2_read (z + j) 44 [(0, ix_R (some (D 2))), (1, ix_I v1), (4, ix_I (nI e))] [] (hw h F A) = ix_lp (ix_run iy_P N (d + 2)) stX2_read z 44 [(0, ix_R (some (D 2))), (1, ix_I v1), (4, ix_I (nI (e + j)))] [] (hw h F A)
  | 0, z, e, _, _ => rfl
  | j + 1, z, e, he, hl => by
    have hn := ht.1
    have h0 := hl 0 (by omega)
    rw [show z + (j + 1) = z + j + 1 by omega, lX2_read_44]
    unfold jX2_read_44
    rw [k_isr2 hs, hw_cI (k_isLetter hs ht N d (by omega))]
    dsimp only
    rw [if_pos (show tk_isL (tk_f b n e) = true from h0), if_neg (by decide), nI_add, k_rd44 hs ht N d v1 j z (e + 1) (by omega) (fun i hi => by
      have := hl (i + 1) (by omega)
      rw [show e + 1 + i = e + (i + 1) by omega]
      exact this), show e + 1 + j = e + (j + 1) by omega]
theorem k_rd75 (hs : kS h D) (ht : kTx F A D b n) (N d : Nat) (v1 v6 : Int32) : ∀ j z e, e + j ≤ n → (∀ i, i < j → tk_isD (tk_f b n (e + i)) = true) → ix_lp (ix_run iy_P N (d + 2)) stX2_read (z + j) 75 [(0, ix_R (some (D 2))), (1, ix_I v1), (4, ix_I (nI e)), (6, ix_I v6)] [] (hw h F A) = ix_lp (ix_run iy_P N (d + 2)) stX2_read z 75 [(0, ix_R (some (D 2))), (1, ix_I v1), (4, ix_I (nI (e + j))), (6, ix_I v6)] [] (hw h F A)
  | 0, z, e, _, _ => rfl
  | j + 1, z, e, he, hl => by
    have hn := ht.1
    have h0 := hl 0 (by omega)
    rw [show z + (j + 1) = z + j + 1 by omega, lX2_read_75]
    unfold jX2_read_75
    rw [k_isr2 hs, hw_cI (k_isDigit hs ht N d (by omega))]
    dsimp only
    rw [if_pos (show tk_isD (tk_f b n e) = true from h0), if_neg (by decide), nI_add, k_rd75 hs ht N d v1 v6 j z (e + 1) (by omega) (fun i hi => by
      have := hl (i + 1) (by omega)
      rw [show e + 1 + i = e + (i + 1) by omega]
      exact this), show e + 1 + j = e + (j + 1) by omega]
/-- behind a bad token -/
theorem k_rd7b (hs : kS h D) (ht : kTx F A D b n) (cal : ix_C) (z : Nat) (v1 : Int32) : ix_lp cal stX2_read (z + 1) 7 [(0, ix_R (some (D 2))), (1, ix_I v1), (2, ix_I (nI 0))] [] (hw h F A) = some (.inl none, hw h F A) := by
  rw [lX2_read_7]
  unfold jX2_read_7 jX2_read_122 jX2_read_131
  rw [k_is2 hs]
  by_cases w : ix_fI (hw h F A) (D 2) 2 ≤ v1
  · rw [if_pos w, if_pos rfl]
  · rw [if_neg w, if_pos rfl, if_pos rfl]
/-- the outcome of reading from k on, rows from q on -/
def kOut (h : ix_H) (F A : Nat → Nat → Int32) (D : Nat → Nat) (q : Nat) (l : List tK) (o : ix_O) : Prop := ∃ F' A', o = some (.inl none, hw h F' A') ∧ kRd D q F A F' A' ∧ kTq A' D q l
/-- a token is added; the rest -/
theorem k_rd104 (hs : kS h D) (ht : kTx F A D b n) (N d z : Nat) {k e q s : Nat} {w : Int32} {kd : Nat} {v : Int32} {l : List tK} (hk : k ≤ 2000) (he : e ≤ 2000) (hq : q ≤ 2000) (h7 : F (D 2) 7 = nI q) (hs5 : s ≤ 5) (hso : nI s = k_so kd) (hs3 : s = 5 ↔ kd = 3) (hwh : kd ≠ 3 → w = k_wh kd) (hw' : ix_nar 3 (w.toInt16.toInt32) = w)
    (ih : kd ≠ 3 → ∀ F1 A1, kTx F1 A1 D b n → F1 (D 2) 7 = nI (q + 1) → kRd D q F A F1 A1 → kOut h F1 A1 D (q + 1) l (ix_lp (ix_run iy_P N (d + 1)) stX2_read z 7 [(0, ix_R (some (D 2))), (1, ix_I (nI e)), (2, ix_I (nI 1))] [] (hw h F1 A1))) (hz : 0 < z) :
    kOut h F A D q ((kd, k, e, v) :: l) (jX2_read_104 (ix_run iy_P N (d + 1)) (ix_lp (ix_run iy_P N (d + 1)) stX2_read z) (D 2) (nI k) (nI e) (nI s) w (hw h F A)) := by
  obtain ⟨F1, A1, e1, a1⟩ := k_add (F := F) (A := A) hs N d (q := q) (s := s) (f := k) (t := e) (w := w) (by omega) h7 (by omega) (by omega) (by omega) hw'
  have r1 := a1.rd
  have t1 := ht.rd hs r1
  have h71 : F1 (D 2) 7 = nI (q + 1) := by rw [a1.1, hw_R_same, hw_U_same]
  have row : A1 (D 15) q = k_so kd ∧ A1 (D 16) q = nI k ∧ A1 (D 17) q = nI e ∧ (kd ≠ 3 → A1 (D 18) q = k_wh kd) := by
    rw [a1.2.1, a1.2.2.1, a1.2.2.2.1, a1.2.2.2.2.1, hw_U_same, hw_U_same, hw_U_same, hw_U_same]
    exact ⟨hso, rfl, rfl, hwh⟩
  unfold jX2_read_104 jX2_read_117
  rw [k_isr2 hs, hw_cV e1]
  by_cases c : kd = 3
  · rw [if_pos (by rw [hs3.mpr c])]
    obtain ⟨z, rfl⟩ : ∃ y, z = y + 1 := ⟨z - 1, by omega⟩
    rw [k_rd7b hs t1]
    refine ⟨F1, A1, rfl, r1, fun i hi hj => ?_⟩
    cases i with
    | zero => exact row
    | succ i => exact absurd c (hj 0 (Nat.succ_pos i))
  · rw [if_neg (by
      rw [hw_eq (by omega) (by omega)]
      exact fun x => c (hs3.mp x))]
    obtain ⟨F2, A2, e2, r2, q2⟩ := ih c F1 A1 t1 h71 r1
    refine ⟨F2, A2, e2, r1.trans r2 (Nat.le_succ q), fun i hi hj => ?_⟩
    cases i with
    | zero =>
      obtain ⟨b1, b2, b3, b4⟩ := r2.2.2.2 q (Nat.lt_succ_self q)
      show A2 (D 15) q = _ ∧ A2 (D 16) q = _ ∧ A2 (D 17) q = _ ∧ (_ → A2 (D 18) q = _)
      rw [b1, b2, b3, b4]
      exact row
    | succ i =>
      have := q2 i (by simp only [List.length_cons] at hi; omega) (fun j hj' => hj (j + 1) (by omega))
      rw [show q + 1 + i = q + (i + 1) by omega] at this
      exact this
theorem k_read_l (hs : kS h D) (hN : 1000 ≤ N) (d : Nat) : ∀ r k q z F A, n - k = r → k ≤ n → q ≤ k → 3 * (n - k) + 3 ≤ z → F (D 2) 7 = nI q → kTx F A D b n → kC h F A D cv → kOut h F A D q (tk_at (tk_f b n) n k) (ix_lp (ix_run iy_P N (d + 5)) stX2_read z 7 [(0, ix_R (some (D 2))), (1, ix_I (nI k)), (2, ix_I (nI 1))] [] (hw h F A)) := by
  intro r
  induction r using Nat.strongRecOn with
  | ind r IH =>
    intro k q z F A hr hk hq hz h7 ht hc
    obtain ⟨z, rfl⟩ : ∃ y, z = y + 2 := ⟨z - 2, by omega⟩
    have hn := ht.1
    rw [lX2_read_7]
    unfold jX2_read_7
    rw [k_is2 hs, hw_fI, ht.2.1]
    by_cases hend : n ≤ k
    · have ek : k = n := by omega
      subst ek
      obtain ⟨F1, A1, e1, a1⟩ := k_add (F := F) (A := A) hs N (d + 4) (q := q) (s := 4) (f := k) (t := k) (w := nI 0) (by omega) h7 (by omega) (by omega) (by omega) (by decide)
      rw [if_pos (by rw [hw_le (by omega) (by omega)]; exact hend), tk_at_end hend]
      unfold jX2_read_122 jX2_read_131
      rw [if_neg (by decide), k_isr2 hs, hw_cV e1]
      refine ⟨F1, A1, rfl, a1.rd, fun i hi hj => ?_⟩
      obtain rfl : i = 0 := by simp only [List.length_singleton] at hi; omega
      show A1 (D 15) q = _ ∧ A1 (D 16) q = _ ∧ A1 (D 17) q = _ ∧ (_ → A1 (D 18) q = _)
      rw [a1.2.1, a1.2.2.1, a1.2.2.2.1, a1.2.2.2.2.1, hw_U_same, hw_U_same, hw_U_same, hw_U_same]
      exact ⟨rfl, rfl, rfl, fun _ => rfl⟩
    · have hkn : k < n := by omega
      have ef : tk_f b n k = b k := by unfold tk_f; rw [if_pos hkn]
      rw [if_neg (by rw [hw_le (by omega) (by omega)]; exact hend), if_neg (by decide), k_is2 hs, k_tr hs, hw_in (by omega) (by omega), cond_true, hw_aI, hw_cl (by omega), ht.2.2.1 k hkn]
      by_cases wW : tk_isW (tk_f b n k) = true
      · rw [tk_at_wh hkn wW]
        have go := IH (n - (k + 1)) (by omega) (k + 1) q (z + 1) F A rfl (by omega) (by omega) (by omega) h7 ht hc
        have wW := of_decide_eq_true wW
        rw [ef] at wW
        unfold jX2_read_35
        rw [nI_add]
        by_cases c1 : b k = nI 32
        · rw [if_pos c1]
          exact go
        · rw [if_neg c1]
          by_cases c2 : b k = nI 9
          · rw [if_pos c2]
            exact go
          · rw [if_neg c2]
            by_cases c3 : b k = nI 10
            · rw [if_pos c3]
              exact go
            · rw [if_neg c3, if_pos (by
                rcases wW with w | w | w | w
                · exact absurd w c2
                · exact absurd w c3
                · exact w
                · exact absurd w c1)]
              exact go
      · have nW : b k ≠ nI 32 ∧ b k ≠ nI 9 ∧ b k ≠ nI 10 ∧ b k ≠ nI 13 := by
          rw [← ef]
          exact ⟨fun x => wW (decide_eq_true (.inr (.inr (.inr x)))), fun x => wW (decide_eq_true (.inl x)), fun x => wW (decide_eq_true (.inr (.inl x))), fun x => wW (decide_eq_true (.inr (.inr (.inl x))))⟩
        obtain ⟨o1, o2, o3⟩ := tk_one_to (f := tk_f b n) hkn
        rw [if_neg nW.1, if_neg nW.2.1, if_neg nW.2.2.1, if_neg nW.2.2.2, tk_at_tok hkn wW, k_isr2 hs, hw_cI (k_isLetter hs ht N (d + 3) (by omega))]
        dsimp only
        have next : ∀ zz e, e = (tk_one (tk_f b n) n k).2.2.1 → 3 * (n - e) + 3 ≤ zz → ∀ F1 A1, kTx F1 A1 D b n → F1 (D 2) 7 = nI (q + 1) → kRd D q F A F1 A1 → kOut h F1 A1 D (q + 1) (tk_at (tk_f b n) n e) (ix_lp (ix_run iy_P N (d + 5)) stX2_read zz 7 [(0, ix_R (some (D 2))), (1, ix_I (nI e)), (2, ix_I (nI 1))] [] (hw h F1 A1)) := fun zz e ee hzz F1 A1 t1 h71 r1 => by
          subst ee
          exact IH (n - (tk_one (tk_f b n) n k).2.2.1) (by omega) _ (q + 1) zz F1 A1 rfl o2 (by omega) hzz h71 t1 (hc.rd r1)
        by_cases wL : tk_isL (tk_f b n k) = true
        · have e1 : tk_one (tk_f b n) n k = (if 8 < tk_len tk_isL (tk_f b n) n k then 3 else tk_kn (tk_ws (tk_f b n) k (tk_len tk_isL (tk_f b n) n k)), k, k + tk_len tk_isL (tk_f b n) n k, nI 0) := by unfold tk_one; rw [if_pos wL]
          have lp := tk_len_pos (p := tk_isL) (f := tk_f b n) hkn wL
          have ll := tk_len_le tk_isL (tk_f b n) (n := n) (k := k) (by omega)
          have lin : ∀ i, i < tk_len tk_isL (tk_f b n) n k → tk_isL (tk_f b n (k + i)) = true := fun i hi => tk_cnt_in tk_isL (tk_f b n) (n - k) k i hi
          have lend := tk_len_end (p := tk_isL) (f := tk_f b n) (n := n) (k := k) (by omega) (by unfold tk_f; rw [if_neg (Nat.lt_irrefl n)]; decide)
          rw [e1] at next ⊢
          generalize tk_len tk_isL (tk_f b n) n k = c at lp ll lin lend next ⊢
          rw [if_pos wL, if_neg (show ¬ nI 1 = nI 0 by decide), nI_add, ← lX2_read_44, show z + 2 = (z + 2 - (c - 1)) + (c - 1) by omega, k_rd44 hs ht N (d + 3) (nI k) (c - 1) (z + 2 - (c - 1)) (k + 1) (by omega) (fun i hi => by rw [show k + 1 + i = k + (i + 1) by omega]; exact lin (i + 1) (by omega))]
          obtain ⟨y, ey⟩ : ∃ y, z + 2 - (c - 1) = y + 1 := ⟨z + 1 - (c - 1), by omega⟩
          rw [ey, show k + 1 + (c - 1) = k + c by omega, lX2_read_44]
          unfold jX2_read_44 jX2_read_68
          rw [k_isr2 hs, hw_cI (k_isLetter hs ht N (d + 3) (by omega))]
          dsimp only
          have ew := k_word (N := N) hs hc ht hN d (a := k) (e := k + c) (by omega) (by omega)
          rw [Nat.add_sub_cancel_left] at ew
          rw [if_neg lend, if_pos rfl, k_isr2 hs, hw_cI ew, hw_sub (by omega), Nat.add_sub_cancel_left]
          dsimp only
          by_cases c8 : 8 < c
          · rw [if_pos c8] at next ⊢
            rw [k_wi_long (by rw [tk_ws_len]; exact c8), if_pos (show (-1 : Int32) < nI 0 by decide), if_neg (show ¬ nI c ≤ nI 8 by rw [hw_le (by omega) (by omega)]; omega)]
            exact k_rd104 hs ht N (d + 4) y (by omega) (by omega) (by omega) h7 (by omega) rfl (by decide) (fun x => absurd rfl x) (by decide) (fun x => absurd rfl x) (by omega)
          · rw [if_neg c8] at next ⊢
            have nx := next y (k + c) rfl (by omega)
            rcases k_wi_kn (tk_ws (tk_f b n) k c) with ⟨n1, n2⟩ | ⟨i, hi, n1, n2⟩
            · rw [n1, n2, if_pos (show (-1 : Int32) < nI 0 by decide), if_pos (show nI c ≤ nI 8 by rw [hw_le (by omega) (by omega)]; omega)]
              exact k_rd104 hs ht N (d + 4) y (by omega) (by omega) (by omega) h7 (by omega) rfl (by decide) (fun _ => rfl) (by decide) (fun _ => nx) (by omega)
            · have hp := (k_wds_pm i hi).1
              rw [n1, n2, if_neg (show ¬ nI (k_pm i) < nI 0 by rw [hw_lt (by omega) (by omega)]; omega)]
              refine k_rd104 hs ht N (d + 4) y (by omega) (by omega) (by omega) h7 (by omega) ?_ (by omega) (fun _ => ?_) (k_n16 (by omega)) (fun _ => nx) (by omega)
              · unfold k_so
                rw [if_neg (by omega), if_neg (by omega), if_neg (by omega), if_neg (by omega), if_neg (by omega)]
              · unfold k_wh
                rw [if_neg (by omega), if_neg (by omega), if_neg (by omega), if_neg (by omega), if_neg (by omega), if_neg (by omega), if_neg (by omega), if_neg (by omega), if_neg (by omega), if_neg (by omega), Nat.add_sub_cancel_left]
        · rw [if_neg wL, if_pos rfl, k_isr2 hs, hw_cI (k_isDigit hs ht N (d + 3) (by omega))]
          dsimp only
          by_cases wD : tk_isD (tk_f b n k) = true
          · have e1 : tk_one (tk_f b n) n k = (if 4 < tk_len tk_isD (tk_f b n) n k then 3 else 2, k, k + tk_len tk_isD (tk_f b n) n k, tk_val (tk_f b n) k (min (tk_len tk_isD (tk_f b n) n k) 4)) := by unfold tk_one; rw [if_neg wL, if_pos wD]
            have lp := tk_len_pos (p := tk_isD) (f := tk_f b n) hkn wD
            have ll := tk_len_le tk_isD (tk_f b n) (n := n) (k := k) (by omega)
            have lin : ∀ i, i < tk_len tk_isD (tk_f b n) n k → tk_isD (tk_f b n (k + i)) = true := fun i hi => tk_cnt_in tk_isD (tk_f b n) (n - k) k i hi
            have lend := tk_len_end (p := tk_isD) (f := tk_f b n) (n := n) (k := k) (by omega) (by unfold tk_f; rw [if_neg (Nat.lt_irrefl n)]; decide)
            rw [e1] at next ⊢
            generalize tk_len tk_isD (tk_f b n) n k = c at lp ll lin lend next ⊢
            rw [if_pos wD, if_neg (show ¬ nI 1 = nI 0 by decide), nI_add, ← lX2_read_75, show z + 2 = (z + 2 - (c - 1)) + (c - 1) by omega, k_rd75 hs ht N (d + 3) (nI k) (nI 0) (c - 1) (z + 2 - (c - 1)) (k + 1) (by omega) (fun i hi => by rw [show k + 1 + i = k + (i + 1) by omega]; exact lin (i + 1) (by omega))]
            obtain ⟨y, ey⟩ : ∃ y, z + 2 - (c - 1) = y + 1 := ⟨z + 1 - (c - 1), by omega⟩
            rw [ey, show k + 1 + (c - 1) = k + c by omega, lX2_read_75]
            unfold jX2_read_75 jX2_read_90
            rw [k_isr2 hs, hw_cI (k_isDigit hs ht N (d + 3) (by omega))]
            dsimp only
            rw [if_neg lend, if_pos rfl, hw_sub (by omega), Nat.add_sub_cancel_left]
            by_cases c4 : 4 < c
            · rw [if_pos c4] at next ⊢
              rw [if_neg (show ¬ nI c ≤ nI 4 by rw [hw_le (by omega) (by omega)]; omega)]
              exact k_rd104 hs ht N (d + 4) y (by omega) (by omega) (by omega) h7 (by omega) rfl (by decide) (fun x => absurd rfl x) (by decide) (fun x => absurd rfl x) (by omega)
            · rw [if_neg c4] at next ⊢
              rw [if_pos (show nI c ≤ nI 4 by rw [hw_le (by omega) (by omega)]; omega)]
              have nx := next y (k + c) rfl (by omega)
              exact k_rd104 hs ht N (d + 4) y (by omega) (by omega) (by omega) h7 (by omega) rfl (by decide) (fun _ => rfl) (by decide) (fun _ => nx) (by omega)
          · have e1 : tk_one (tk_f b n) n k = (tk_sg (tk_f b n k), k, k + 1, nI 0) := by unfold tk_one; rw [if_neg wL, if_neg wD]
            rw [e1] at next ⊢
            rw [if_neg wD, if_pos rfl, k_isr2 hs, hw_cI (k_sign hs ht N (d + 3) (by omega)), nI_add]
            dsimp only
            unfold jX2_read_102
            obtain ⟨s1, s2⟩ := k_sg_kd (tk_f b n k)
            by_cases w3 : tk_sg (tk_f b n k) = 3
            · rw [w3] at next ⊢
              rw [s1.mpr w3, if_pos rfl]
              exact k_rd104 hs ht N (d + 4) (z + 1) (by omega) (by omega) (by omega) h7 (by omega) rfl (by decide) (fun x => absurd rfl x) (by decide) (fun x => absurd rfl x) (by omega)
            · obtain ⟨s3, s4⟩ := s2 w3
              have nx := next (z + 1) (k + 1) rfl (by omega)
              rw [if_neg (fun x => w3 (s1.mp x))]
              refine k_rd104 hs ht N (d + 4) (z + 1) (by omega) (by omega) (by omega) h7 (by omega) s4.symm ⟨fun x => absurd x (by decide), fun x => absurd x w3⟩ (fun _ => s3.symm) ?_ (fun _ => nx) (by omega)
              unfold k_sg
              split
              · next w => rcases w with w | w | w | w | w | w | w | w <;> rw [w] <;> decide
              · decide
theorem k_read (hs : kS h D) (hN : 10000 ≤ N) (d : Nat) (ht : kTx F A D b n) (hc : kC h F A D cv) : kOut h F A D 0 (tk_at (tk_f b n) n 0) (ix_run iy_P N (d + 6) 139 [ix_R (some (D 2))] (hw h F A)) := by
  have hn := ht.1
  rw [rX2_read N (d + 5)]
  unfold bX2_read
  rw [k_is2 hs, hw_bdF, ← lX2_read_7]
  have r0 : kRd D 0 F A (hw_R F (D 2) (hw_U (F (D 2)) 7 (nI 0))) A := ⟨fun x hx => hw_R_ne _ _ hx, fun j hj => by rw [hw_R_same, hw_U_ne _ _ hj], fun _ _ _ _ _ => rfl, fun i hi => absurd hi (Nat.not_lt_zero i)⟩
  obtain ⟨F1, A1, e1, r1, q1⟩ := k_read_l (cv := cv) (b := b) (n := n) hs (N := N) (by omega) d n 0 0 (N + 1) (hw_R F (D 2) (hw_U (F (D 2)) 7 (nI 0))) A rfl (Nat.zero_le _) (Nat.le_refl _) (by omega) (by rw [hw_R_same, hw_U_same]) (ht.rd hs r0) (hc.rd r0)
  exact ⟨F1, A1, e1, r0.trans r1 (Nat.le_refl _), q1⟩
end
