/-! K6: the component: what tokens say; a word's text, a number -/
set_option maxRecDepth 100000
def k_w (kd : Nat) : List Int32 := tk_kwd.getD (kd - 20) []
/-- the tokens lie in the rows, up to the first bad one -/
def gK (A : Nat → Nat → Int32) (D : Nat → Nat) (tk : Nat → tK) (e : Nat) : Prop := x_kd tk e = 0 ∧ ∀ i, i ≤ e → i ≤ 400 → (∀ j, j < i → x_kd tk j ≠ 3) →
  A (D 15) i = k_so (x_kd tk i) ∧ A (D 16) i = nI (tk i).2.1 ∧ A (D 17) i = nI (tk i).2.2.1 ∧ (x_kd tk i ≠ 3 → A (D 18) i = k_wh (x_kd tk i)) ∧ (tk i).2.1 ≤ 2000 ∧ (tk i).2.2.1 ≤ 2000 ∧ x_kd tk i ≤ 37 ∧
  (x_kd tk i = 2 → ∃ c, c ≤ 4 ∧ (tk i).2.2.1 = (tk i).2.1 + c ∧ (tk i).2.2.2 = tk_val (A (D 14)) (tk i).2.1 c ∧ ∃ j, j < 10000 ∧ (tk i).2.2.2 = nI j) ∧
  (20 ≤ x_kd tk i → (tk i).2.2.1 = (tk i).2.1 + (k_w (x_kd tk i)).length ∧ ∀ y (hy : y < (k_w (x_kd tk i)).length), A (D 14) ((tk i).2.1 + y) = (k_w (x_kd tk i))[y])
theorem tk_fl_one {f : Nat → Int32} {n : Nat} : ∀ z k, ∀ x ∈ tk_fl f n z k, x = (0, n, n, nI 0) ∨ ∃ k', k' < n ∧ x = tk_one f n k'
  | 0, k, x, hx => .inl (List.mem_singleton.mp hx)
  | z + 1, k, x, hx => by
    unfold tk_fl at hx
    by_cases w : n ≤ k
    · rw [if_pos w] at hx
      exact .inl (List.mem_singleton.mp hx)
    · rw [if_neg w] at hx
      split at hx
      · exact tk_fl_one z _ x hx
      · rcases List.mem_cons.mp hx with e | hx
        · exact .inr ⟨k, by omega, e⟩
        · exact tk_fl_one z _ x hx
theorem tk_val_cong {f g : Nat → Int32} {k : Nat} : ∀ c, (∀ y, y < c → f (k + y) = g (k + y)) → tk_val f k c = tk_val g k c
  | 0, _ => rfl
  | c + 1, h => by
    rw [tk_val_succ, tk_val_succ, tk_val_cong c (fun y hy => h y (by omega)), h c (by omega)]
theorem tk_val_lt {f : Nat → Int32} {k : Nat} : ∀ c, (∀ y, y < c → tk_isD (f (k + y)) = true) → c ≤ 4 → ∃ j, j < 10 ^ c ∧ tk_val f k c = nI j
  | 0, _, _ => ⟨0, by omega, rfl⟩
  | c + 1, h, hc => by
    obtain ⟨j, h1, h2⟩ := tk_val_lt c (fun y hy => h y (by omega)) (by omega)
    have hd := of_decide_eq_true (h c (by omega))
    obtain ⟨d, d1, d2⟩ : ∃ d, d ≤ 9 ∧ f (k + c) = nI (48 + d) := by
      obtain ⟨x1, x2⟩ := hd
      rw [Int32.le_iff_toInt_le] at x1 x2
      have e48 : (nI 48).toInt = 48 := by decide
      have e57 : (nI 57).toInt = 57 := by decide
      refine ⟨(f (k + c)).toInt.toNat - 48, by omega, ?_⟩
      apply Int32.toInt_inj.mp
      rw [nI_toInt (by omega)]
      omega
    refine ⟨10 * j + d, by rw [Nat.pow_succ]; omega, ?_⟩
    rw [tk_val_succ, h2, d2, hw_mul, nI_add, hw_sub (by omega)]
    congr 1
    omega
theorem gK_row {F A A0 : Nat → Nat → Int32} {D : Nat → Nat} {b : Nat → Int32} {n : Nat} (ht : kTx F A0 D b n) (e14 : A (D 14) = A0 (D 14)) (q : kTq A D 0 (tk_at (tk_f b n) n 0)) : gK A D (tk_row b n) ((tk_at (tk_f b n) n 0).length - 1) := by
  obtain ⟨hn, t2, t3, t4⟩ := ht
  obtain ⟨p, r, l, e⟩ := tk_fl_ok (f := tk_f b n) (n := n) (n - 0) 0 (Nat.zero_le _)
  have e' : tk_at (tk_f b n) n 0 = l ++ [(0, n, n, nI 0)] := e
  have hl : (tk_at (tk_f b n) n 0).length = l.length + 1 := by
    rw [e', List.length_append]
    rfl
  refine ⟨?_, fun i hi h4 hj => ?_⟩
  · unfold x_kd
    rw [tk_row_at (by omega)]
    have : ∀ (L : List tK) (hL : L = l ++ [(0, n, n, nI 0)]) (hi : L.length - 1 < L.length), L[L.length - 1] = (0, n, n, nI 0) := fun L hL hi => by
      subst hL
      have e1 : (l ++ [((0, n, n, nI 0) : tK)]).length - 1 = l.length := by
        rw [List.length_append]
        rfl
      simp only [e1]
      exact List.getElem_concat_length rfl _
    rw [this _ e' (by omega)]
  · have hil : i < (tk_at (tk_f b n) n 0).length := by omega
    have hm := List.getElem_mem hil
    obtain ⟨m1, m2, m3⟩ := r _ hm
    obtain ⟨q1, q2, q3, q4⟩ := q i hil (fun j hji => by
      have := hj j hji
      unfold x_kd at this
      rw [tk_row_at (by omega)] at this
      exact this)
    rw [Nat.zero_add] at q1 q2 q3 q4
    have one := tk_fl_one (n - 0) 0 _ hm
    unfold x_kd
    rw [tk_row_at hil]
    generalize (tk_at (tk_f b n) n 0)[i] = x at *
    have fb : ∀ y, y < n → tk_f b n y = A (D 14) y := fun y hy => by
      unfold tk_f
      rw [if_pos hy, e14, t3 y hy]
    rcases one with rfl | ⟨k, hk, rfl⟩
    · exact ⟨q1, q2, q3, q4, by omega, hn, m1, fun w => absurd (show 0 = 2 from w) (by decide), fun w => absurd (show 20 ≤ 0 from w) (by decide)⟩
    · obtain ⟨o1, o2, o3⟩ := tk_one_to (f := tk_f b n) hk
      refine ⟨q1, q2, q3, q4, by omega, by omega, m1, fun w => ?_, fun w => ?_⟩
      · clear q1 q2 q3 q4 q t2
        unfold tk_one at w o2 ⊢
        by_cases wL : tk_isL (tk_f b n k) = true
        · rw [if_pos wL] at w
          have w : (if 8 < tk_len tk_isL (tk_f b n) n k then 3 else tk_kn (tk_ws (tk_f b n) k (tk_len tk_isL (tk_f b n) n k))) = 2 := w
          split at w
          · omega
          · rcases k_wi_kn (tk_ws (tk_f b n) k (tk_len tk_isL (tk_f b n) n k)) with ⟨a, -⟩ | ⟨j, -, a, -⟩ <;> omega
        · rw [if_neg wL] at w o2 ⊢
          by_cases wD : tk_isD (tk_f b n k) = true
          · rw [if_pos wD] at w o2 ⊢
            have w : (if 4 < tk_len tk_isD (tk_f b n) n k then 3 else 2) = 2 := w
            have o2 : k + tk_len tk_isD (tk_f b n) n k ≤ n := o2
            split at w
            · omega
            · have lin : ∀ i, i < tk_len tk_isD (tk_f b n) n k → tk_isD (tk_f b n (k + i)) = true := fun i hi => tk_cnt_in tk_isD (tk_f b n) (n - k) k i hi
              obtain ⟨j, j1, j2⟩ := tk_val_lt (f := tk_f b n) (k := k) (tk_len tk_isD (tk_f b n) n k) lin (by omega)
              have e4 : tk_val (tk_f b n) k (min (tk_len tk_isD (tk_f b n) n k) 4) = tk_val (tk_f b n) k (tk_len tk_isD (tk_f b n) n k) := by rw [Nat.min_eq_left (by omega)]
              refine ⟨tk_len tk_isD (tk_f b n) n k, by omega, rfl, ?_, j, ?_, ?_⟩
              · show tk_val (tk_f b n) k (min (tk_len tk_isD (tk_f b n) n k) 4) = _
                rw [e4]
                exact tk_val_cong _ (fun y hy => fb _ (by omega))
              · have := Nat.pow_le_pow_right (n := 10) (by omega) (show tk_len tk_isD (tk_f b n) n k ≤ 4 by omega)
                omega
              · show tk_val (tk_f b n) k (min (tk_len tk_isD (tk_f b n) n k) 4) = _
                rw [e4]
                exact j2
          · rw [if_neg wD] at w
            have w : tk_sg (tk_f b n k) = 2 := w
            exfalso
            revert w
            unfold tk_sg
            repeat' split
            all_goals omega
      · clear q1 q2 q3 q4 q t2
        unfold tk_one at w o2 ⊢
        by_cases wL : tk_isL (tk_f b n k) = true
        · rw [if_pos wL] at w o2 ⊢
          have w : 20 ≤ (if 8 < tk_len tk_isL (tk_f b n) n k then 3 else tk_kn (tk_ws (tk_f b n) k (tk_len tk_isL (tk_f b n) n k))) := w
          have o2 : k + tk_len tk_isL (tk_f b n) n k ≤ n := o2
          by_cases c8 : 8 < tk_len tk_isL (tk_f b n) n k
          · rw [if_pos c8] at w
            omega
          · rw [if_neg c8] at w ⊢
            have ew : k_w (tk_kn (tk_ws (tk_f b n) k (tk_len tk_isL (tk_f b n) n k))) = tk_ws (tk_f b n) k (tk_len tk_isL (tk_f b n) n k) := by
              unfold k_w tk_kn at *
              cases e2 : tk_ki (tk_ws (tk_f b n) k (tk_len tk_isL (tk_f b n) n k)) tk_kwd 0 with
              | none =>
                rw [e2] at w
                exact absurd w (by decide)
              | some j =>
                obtain ⟨-, h2, a⟩ := tk_ki_at _ _ _ e2
                show tk_kwd.getD (20 + j - 20) [] = _
                rw [Nat.add_sub_cancel_left, List.getD_eq_getElem?_getD, List.getElem?_eq_getElem (by simpa using h2)]
                simpa using a
            show k + tk_len tk_isL (tk_f b n) n k = k + (k_w (tk_kn (tk_ws (tk_f b n) k (tk_len tk_isL (tk_f b n) n k)))).length ∧ ∀ y (hy : y < (k_w (tk_kn (tk_ws (tk_f b n) k (tk_len tk_isL (tk_f b n) n k)))).length), A (D 14) (k + y) = (k_w (tk_kn (tk_ws (tk_f b n) k (tk_len tk_isL (tk_f b n) n k))))[y]
            refine ⟨by rw [ew, tk_ws_len], fun y hy => ?_⟩
            have hy2 : y < tk_len tk_isL (tk_f b n) n k := by
              rw [ew, tk_ws_len] at hy
              exact hy
            rw [← fb _ (by omega)]
            have : ∀ (W : List Int32) (hW : W = tk_ws (tk_f b n) k (tk_len tk_isL (tk_f b n) n k)) (hy : y < W.length), tk_f b n (k + y) = W[y] := fun W hW hy => by
              subst hW
              rw [tk_ws_at]
            exact this _ ew hy
        · rw [if_neg wL] at w
          by_cases wD : tk_isD (tk_f b n k) = true
          · rw [if_pos wD] at w
            have w : 20 ≤ (if 4 < tk_len tk_isD (tk_f b n) n k then 3 else 2) := w
            split at w <;> omega
          · rw [if_neg wD] at w
            have w : 20 ≤ tk_sg (tk_f b n k) := w
            have := tk_sg_le (tk_f b n k)
            omega
/-- where the parser stands -/
def gW (F : Nat → Nat → Int32) (D : Nat → Nat) (t : Nat) (w : Option Nat) : Prop := match w with
  | none => F (D 3) 6 = nI 0
  | some x => x ≤ t ∧ F (D 3) 6 = nI 5 ∧ F (D 3) 7 = nI x
def gT (h : ix_H) (F A : Nat → Nat → Int32) (D cv : Nat → Nat) (tk : Nat → tK) (e t op wi : Nat) (w : Option Nat) : Prop :=
  kS h D ∧ kC h F A D cv ∧ gK A D tk e ∧ (t ≤ e ∧ t ≤ 400 ∧ ∀ j, j < t → x_kd tk j ≠ 3) ∧ F (D 3) 3 = nI t ∧ F (D 3) 4 = nI op ∧ F (D 3) 5 = nI wi ∧ gW F D t w
theorem k_kwd_len : ∀ w ∈ tk_kwd, 0 < w.length ∧ w.length ≤ 7 := by decide
theorem k_w_ok {kd : Nat} (h : 20 ≤ kd) (h2 : kd ≤ 37) : 0 < (k_w kd).length ∧ (k_w kd).length ≤ 7 ∧ ∀ c ∈ k_w kd, tk_isL c = true := by
  have e : k_w kd = tk_kwd[kd - 20]'(by rw [tk_kwd_len]; omega) := by
    unfold k_w
    rw [List.getD_eq_getElem?_getD, List.getElem?_eq_getElem (by rw [tk_kwd_len]; omega)]
    rfl
  have hm : k_w kd ∈ tk_kwd := by
    rw [e]
    exact List.getElem_mem _
  exact ⟨(k_kwd_len _ hm).1, (k_kwd_len _ hm).2, (tk_kwd_ok _ hm).2⟩
theorem t_ch2 {c : Int32} (h : tk_isL c = true) : (c.toUInt32 % 65536).toInt32 = c := by
  have : ∀ j, j < 123 → 97 ≤ j → ((nI j).toUInt32 % 65536).toInt32 = nI j := by decide
  have hc := tk_isL_at h
  have e : c = nI c.toInt.toNat := by
    apply Int32.toInt_inj.mp
    rw [nI_toInt (by omega)]
    omega
  rw [e]
  exact this _ (by omega) (by omega)
section
variable {h : ix_H} {F A : Nat → Nat → Int32} {D cv : Nat → Nat} {tk : Nat → tK} {e t op wi N : Nat} {w : Option Nat}
theorem gK.gO {E : Nat → Nat} {h0 : ix_H} {F0 A0 : Nat → Nat → Int32} {k : Nat} (hs : kS h0 D) (hk : gK A0 D tk e) (g : gO E h0 F0 A0 h F A k) : gK A D tk e := by
  have c : ∀ j, j < 19 → A (D j) = A0 (D j) := fun j hj => (g.2.2.2.2 (D j) (hs.2.2.2.2 j hj)).2.2.2.2.2.2.1
  unfold gK
  rw [c 14 (by omega), c 15 (by omega), c 16 (by omega), c 17 (by omega), c 18 (by omega)]
  exact hk
theorem k_text_l {E : Nat → Nat} (hs : kS h D) (ht : t ≤ e) (h4 : t ≤ 400) (hn3 : ∀ j, j < t → x_kd tk j ≠ 3) (hk : 20 ≤ x_kd tk t) {h0 : ix_H} {F0 A0 : Nat → Nat → Int32} {sb v : Nat} (s1 : ix_sz h0 ≤ sb) (s2 : ix_sz h0 ≤ v) (s3 : sb < ix_sz h) (s4 : v < ix_sz h) (N d : Nat) : ∀ j z i F A, i + j = (k_w (x_kd tk t)).length → j < z → kB h F A sb v ((k_w (x_kd tk t)).take i) → gK A D tk e → gO E h0 F0 A0 h F A 2 → (∀ j, j < 19 → D j < ix_sz h0) →
    ∃ h' F' A', ix_lp (ix_run iy_P N (d + 6)) stX2_text z 9 [(0, ix_R (some (D 2))), (1, ix_I (nI t)), (2, ix_R (some sb)), (3, ix_I (nI ((tk t).2.1 + i)))] [] (hw h F A) = some (.inl (some (ix_R (some (ix_sz h)))), hw h' F' A') ∧ gO E h0 F0 A0 h' F' A' 4 ∧ ix_tg h' (ix_sz h) = 19 ∧ ix_tg h' (ix_sz h + 1) = 102 ∧ ix_sz h' = ix_sz h + 2 ∧ kT h' F' A' (ix_sz h) (ix_sz h + 1) (k_w (x_kd tk t)) ∧ F' (ix_sz h) 2 = nI 0 ∧ F' (ix_sz h) 3 = nI 0
  | 0, z, i, F, A, hij, hz, hB, hK, g, hD2 => by
    obtain ⟨z, rfl⟩ : ∃ y, z = y + 1 := ⟨z - 1, by omega⟩
    obtain ⟨k1, k2, k3, k4, k5, k6, k7, k8, k9⟩ := hK.2 t ht h4 hn3
    obtain ⟨o1, o2, o3⟩ := k_w_ok hk k7
    have ei : i = (k_w (x_kd tk t)).length := by omega
    subst ei
    rw [List.take_length] at hB
    obtain ⟨h', F', A', e1, g1, r1, r2, r3, r4, r5, r6⟩ := b_toString hB N d (by omega) o3 s3 s4 E
    refine ⟨h', F', A', ?_, g.trans g1, r1, r2, r3, r4, r5, r6⟩
    rw [lX2_text_9]
    unfold jX2_text_9
    rw [k_is2 hs, k_or hs, hw_in (by omega) (by omega), cond_true, hw_aI, hw_cl (by omega), k3, if_pos (by rw [(k9 hk).1]; exact Int32.le_refl _), c_isr hB.1 (by decide), hw_cR e1]
  | j + 1, z, i, F, A, hij, hz, hB, hK, g, hD2 => by
    obtain ⟨z, rfl⟩ : ∃ y, z = y + 1 := ⟨z - 1, by omega⟩
    obtain ⟨k1, k2, k3, k4, k5, k6, k7, k8, k9⟩ := hK.2 t ht h4 hn3
    obtain ⟨o1, o2, o3⟩ := k_w_ok hk k7
    have hi : i < (k_w (x_kd tk t)).length := by omega
    have hL := o3 _ (List.getElem_mem hi)
    have el : ((k_w (x_kd tk t)).take i).length = i := by rw [List.length_take]; omega
    have ea := b_append hB N (d + 3) (by omega) hL
    have hB2 := hB.app (k_w (x_kd tk t))[i]
    rw [← List.take_succ_eq_append_getElem hi] at hB2
    rw [el] at ea hB2
    have g2 := (g.fR (a := sb) (.inl s1) (hw_U (F sb) 3 (nI (i + 1)))).aR (a := v) s2 (hw_U (A v) i (k_w (x_kd tk t))[i])
    have hK2 : gK (hw_R A v (hw_U (A v) i (k_w (x_kd tk t))[i])) D tk e := by
      have c : ∀ j, j < 19 → hw_R A v (hw_U (A v) i (k_w (x_kd tk t))[i]) (D j) = A (D j) := fun j hj => hw_R_ne _ _ (by have := hD2 j hj; omega)
      unfold gK
      rw [c 14 (by omega), c 15 (by omega), c 16 (by omega), c 17 (by omega), c 18 (by omega)]
      exact hK
    obtain ⟨h', F', A', e1, r⟩ := k_text_l hs ht h4 hn3 hk s1 s2 s3 s4 N d j z (i + 1) _ _ (by omega) (by omega) hB2 hK2 g2 hD2
    refine ⟨h', F', A', ?_, r⟩
    rw [lX2_text_9]
    unfold jX2_text_9
    rw [k_is2 hs, k_or hs, hw_in (by omega) (by omega), cond_true, hw_aI, hw_cl (show t < 2147483648 by omega), k3, if_neg (by rw [(k9 hk).1, hw_le (by omega) (by omega)]; omega), k_is2 hs, k_tr hs, hw_in (by omega) (by omega), cond_true, hw_cl (by omega), (k9 hk).2 i hi, t_ch2 hL, c_isr hB.1 (by decide), hw_cR ea]
    dsimp only
    rw [nI_add, Nat.add_assoc]
    exact e1
theorem b_new (h : ix_H) (F A : Nat → Nat → Int32) (N d : Nat) : ix_run iy_P N (d + 2) 11 [ix_R (some (ix_sz h))] (hw (ix_nwO h 20 4) (hw_R F (ix_sz h) (fun _ => 0)) A) = some (.inl none, hw (ix_wfR (ix_nwA (ix_nwO h 20 4) 102 16) (ix_sz h) 0 (some (ix_sz h + 1))) (hw_R (hw_R F (ix_sz h) (fun _ => 0)) (ix_sz h) (hw_U (hw_R F (ix_sz h) (fun _ => 0) (ix_sz h)) 1 (nI 0))) (hw_R A (ix_sz h + 1) (fun _ => 0))) := by
  have t1 : ix_tg (ix_nwO h 20 4) (ix_sz h) = 20 := s_tgO h 20 4
  have t2 : ix_tg (ix_nwA (ix_nwO h 20 4) 102 16) (ix_sz h) = 20 := by
    rw [s_tgA' _ _ _ (by rw [s_szO]; omega)]
    exact t1
  have t3 : ix_tg (ix_wfR (ix_nwA (ix_nwO h 20 4) 102 16) (ix_sz h) 0 (some (ix_sz h + 1))) (ix_sz h) = 20 := t2
  have e3 : ix_run iy_P N (d + 1) 3 [ix_R (some (ix_sz h)), ix_I (nI 16)] (hw (ix_nwO h 20 4) (hw_R F (ix_sz h) (fun _ => 0)) A) = some (.inl none, hw (ix_wfR (ix_nwA (ix_nwO h 20 4) 102 16) (ix_sz h) 0 (some (ix_sz h + 1))) (hw_R (hw_R F (ix_sz h) (fun _ => 0)) (ix_sz h) (hw_U (hw_R F (ix_sz h) (fun _ => 0) (ix_sz h)) 1 (nI 0))) (hw_R A (ix_sz h + 1) (fun _ => 0))) := by
    rw [rJ10_init N d]
    unfold bJ10_init jJ10_init_19
    rw [if_neg (by decide), hw_in (by omega) (by omega), cond_true, hw_cl (by omega), hw_bA, c_is t2, hw_sz, s_szO, hw_bfR, c_is t3, show ix_okn 2 (nI 0) = true by decide, cond_true, hw_bdF]
  rw [rJ11_init N (d + 1)]
  unfold bJ11_init
  rw [c_isr t1 (by decide), hw_cV e3]
/-- a word's text -/
theorem k_text (hs : kS h D) (hK : gK A D tk e) (ht : t ≤ e) (h4 : t ≤ 400) (hn3 : ∀ j, j < t → x_kd tk j ≠ 3) (hk : 20 ≤ x_kd tk t) (hN : 1000 ≤ N) (d : Nat) : ∃ h' F' A' s, ix_run iy_P N (d + 7) 146 [ix_R (some (D 2)), ix_I (nI t)] (hw h F A) = some (.inl (some (ix_R (some s))), hw h' F' A') ∧ gN h F A h' F' A' 4 ∧ ix_sz h ≤ s ∧ ix_tg h' s = 19 ∧ ix_tg h' (s + 1) = 102 ∧ ix_sz h' = s + 2 ∧ kT h' F' A' s (s + 1) (k_w (x_kd tk t)) ∧ F' s 2 = nI 0 ∧ F' s 3 = nI 0 := by
  obtain ⟨k1, k2, k3, k4, k5, k6, k7, k8, k9⟩ := hK.2 t ht h4 hn3
  have lt := hs.2.2.2.2
  have z0 : (fun _ => 0 : Nat → Int32) 3 = nI 0 := by decide
  have g1 := ((((gO.refl (fun _ => ix_sz h) h F A).nwO 20 (n := 4) (by omega)).nwA 102 (n := 16) 1 (Nat.le_refl _) (by omega)).wfR (a := ix_sz h) (Nat.le_refl _) 0 (some (ix_sz h + 1))).fR (a := ix_sz h) (.inl (Nat.le_refl _)) (hw_U (hw_R F (ix_sz h) (fun _ => 0) (ix_sz h)) 1 (nI 0))
  have t1 : ix_tg (ix_nwO h 20 4) (ix_sz h) = 20 := s_tgO h 20 4
  have t2 : ix_tg (ix_nwA (ix_nwO h 20 4) 102 16) (ix_sz h) = 20 := by
    rw [s_tgA' _ _ _ (by rw [s_szO]; omega)]
    exact t1
  have hB : kB (ix_wfR (ix_nwA (ix_nwO h 20 4) 102 16) (ix_sz h) 0 (some (ix_sz h + 1))) (hw_R (hw_R F (ix_sz h) (fun _ => 0)) (ix_sz h) (hw_U (hw_R F (ix_sz h) (fun _ => 0) (ix_sz h)) 1 (nI 0))) (hw_R A (ix_sz h + 1) (fun _ => 0)) (ix_sz h) (ix_sz h + 1) ((k_w (x_kd tk t)).take 0) := by
    refine ⟨t2, s_tgA _ _ _, s_fRf _ _ _ _, by rw [hw_R_same, hw_U_same], ?_, s_lnA _ _ _, fun i hi => absurd hi (by simp)⟩
    rw [hw_R_same, hw_U_ne _ _ (by omega), hw_R_same]
    exact z0
  rw [show ix_sz (ix_nwO h 20 4) = ix_sz h + 1 from rfl] at g1
  have hs1 := hs.gO g1
  have hK1 := hK.gO hs g1
  obtain ⟨h', F', A', r1, r2, r3, r4, r5, r6, r7, r8⟩ := k_text_l (D := D) (tk := tk) (e := e) (t := t) hs1 ht h4 hn3 hk (h0 := h) (F0 := F) (A0 := A) (sb := ix_sz h) (v := ix_sz h + 1) (Nat.le_refl _) (by omega) (by show ix_sz h < ix_sz h + 1 + 1; omega) (by show ix_sz h + 1 < ix_sz h + 1 + 1; omega) N d (k_w (x_kd tk t)).length (N + 1) 0 _ _ (Nat.zero_add _) (by have := (k_w_ok hk k7).2.1; omega) hB hK1 g1 lt
  refine ⟨h', F', A', ix_sz h + 2, ?_, r2, by omega, r3, r4, r5, r6, r7, r8⟩
  rw [rX2_text N (d + 6)]
  unfold bX2_text
  rw [hw_bO, hw_sz, c_isr t1 (by decide), hw_cV (b_new h F A N (d + 4)), k_is2 hs1, k_fr hs1, hw_in (by omega) (by omega), cond_true, hw_aI, hw_cl (by omega), (hK1.2 t ht h4 hn3).2.1, ← lX2_text_9]
  exact r1
/-- a number -/
theorem k_number_l (hs : kS h D) (hK : gK A D tk e) (ht : t ≤ e) (h4 : t ≤ 400) (hn3 : ∀ j, j < t → x_kd tk j ≠ 3) {c : Nat} (hc : c ≤ 4) (hto : (tk t).2.2.1 = (tk t).2.1 + c) (h14 : (tk t).2.2.1 ≤ 2000) (cal : ix_C) : ∀ j z i, i + j = c → j < z → ix_lp cal stX2_number z 7 [(0, ix_R (some (D 2))), (1, ix_I (nI t)), (2, ix_I (tk_val (A (D 14)) (tk t).2.1 i)), (3, ix_I (nI ((tk t).2.1 + i)))] [] (hw h F A) = some (.inl (some (ix_I (tk_val (A (D 14)) (tk t).2.1 c))), hw h F A)
  | 0, z, i, hij, hz => by
    obtain ⟨z, rfl⟩ : ∃ y, z = y + 1 := ⟨z - 1, by omega⟩
    obtain ⟨k1, k2, k3, k4, k5, k6, k7, k8, k9⟩ := hK.2 t ht h4 hn3
    obtain rfl : i = c := by omega
    rw [lX2_number_7]
    unfold jX2_number_7
    rw [k_is2 hs, k_or hs, hw_in (by omega) (by omega), cond_true, hw_aI, hw_cl (by omega), k3, if_pos (by rw [hto]; exact Int32.le_refl _)]
  | j + 1, z, i, hij, hz => by
    obtain ⟨z, rfl⟩ : ∃ y, z = y + 1 := ⟨z - 1, by omega⟩
    obtain ⟨k1, k2, k3, k4, k5, k6, k7, k8, k9⟩ := hK.2 t ht h4 hn3
    rw [lX2_number_7]
    unfold jX2_number_7
    rw [k_is2 hs, k_or hs, hw_in (by omega) (by omega), cond_true, hw_aI, hw_cl (show t < 2147483648 by omega), k3, if_neg (by rw [hto, hw_le (by omega) (by omega)]; omega), k_is2 hs, k_tr hs, hw_in (by omega) (by omega), cond_true, hw_cl (by omega), nI_add, Nat.add_assoc, ← tk_val_succ]
    exact k_number_l hs hK ht h4 hn3 hc hto h14 cal j z (i + 1) (by omega) (by omega)
theorem k_number (hs : kS h D) (hK : gK A D tk e) (ht : t ≤ e) (h4 : t ≤ 400) (hn3 : ∀ j, j < t → x_kd tk j ≠ 3) (hk : x_kd tk t = 2) (hN : 1000 ≤ N) (d : Nat) : ix_run iy_P N (d + 1) 147 [ix_R (some (D 2)), ix_I (nI t)] (hw h F A) = some (.inl (some (ix_I (tk t).2.2.2)), hw h F A) := by
  obtain ⟨k1, k2, k3, k4, k5, k6, k7, k8, k9⟩ := hK.2 t ht h4 hn3
  obtain ⟨c, c4, hto, ev, -⟩ := k8 hk
  rw [rX2_number N d]
  unfold bX2_number
  rw [k_is2 hs, k_fr hs, hw_in (by omega) (by omega), cond_true, hw_aI, hw_cl (by omega), k2, ← lX2_number_7, ev]
  exact k_number_l hs hK ht h4 hn3 c4 hto k6 _ c (N + 1) 0 (Nat.zero_add _) (by omega)
end
