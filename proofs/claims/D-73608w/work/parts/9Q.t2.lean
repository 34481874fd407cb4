/-! T2: the reference: all tokens -/
set_option maxRecDepth 100000
theorem tk_val_succ (f : Nat → Int32) (k c : Nat) : tk_val f k (c + 1) = nI 10 * tk_val f k c + f (k + c) - nI 48 := by
  unfold tk_val
  rw [tk_ws_succ, List.foldl_append]
  rfl
section
variable {h : ix_H} {m : Nat} {X : xS} {F A : Nat → Nat → Int32} {N : Nat} {G : Nat → Int64} {b : Nat → Int32} {n : Nat}
theorem m_cut120 (hP : mSp h m) (ht : mTx F A m b n) (N d : Nat) {k : Nat} (hk : k < n) : ∀ j z v3, v3 + j = tk_len tk_isD (tk_f b n) n k → ix_lp (ix_run iy_P N (d + 1)) stX9_cutsUp (z + j + 1) 120 [(0, ix_R (some m)), (1, ix_I (nI k)), (3, ix_I (nI v3)), (4, ix_I (tk_val (tk_f b n) k (min v3 4)))] [] (hw (ml h m G) F A) = jX9_cutsUp_153 (ix_run iy_P N (d + 1)) (ix_lp (ix_run iy_P N (d + 1)) stX9_cutsUp z) m (nI k) (nI (tk_len tk_isD (tk_f b n) n k)) (tk_val (tk_f b n) k (min (tk_len tk_isD (tk_f b n) n k) 4)) (some m) (if tk_len tk_isD (tk_f b n) n k ≤ 4 then nI 2 else nI 3) (hw (ml h m G) F A) := by
  have hn := ht.1
  have hle := tk_len_le tk_isD (tk_f b n) (Nat.le_of_lt hk)
  have hend := tk_len_end (p := tk_isD) (f := tk_f b n) (Nat.le_of_lt hk) (by unfold tk_f; rw [if_neg (by omega)]; decide)
  have hin := tk_cnt_in tk_isD (tk_f b n) (n - k) k
  have hS := mSp_ml G hP
  intro j
  induction j with
  | zero =>
    intro z v3 hv
    obtain rfl : v3 = tk_len tk_isD (tk_f b n) n k := by omega
    rw [lX9_cutsUp_120]
    unfold jX9_cutsUp_120
    rw [mq_isr hS, nI_add, hw_cI (m_byteAt hP ht N d (by omega))]
    dsimp only
    rw [hw_cI (m_isDigit _ N d _)]
    dsimp only
    rw [(tk_by (tk_f_by ht.2.2.2 _)).2.1, if_neg hend, if_pos rfl]
    by_cases w : tk_len tk_isD (tk_f b n) n k ≤ 4
    · rw [if_pos (show nI (tk_len tk_isD (tk_f b n) n k) ≤ nI 4 by rw [hw_le (by omega) (by omega)]; exact w), if_pos w]
    · rw [if_neg (show ¬ nI (tk_len tk_isD (tk_f b n) n k) ≤ nI 4 by rw [hw_le (by omega) (by omega)]; exact w), if_neg w]
  | succ j ih =>
    intro z v3 hv
    have hl := hin v3 (by unfold tk_len at hv; omega)
    obtain ⟨b1, b2, b3, b4, b5⟩ := tk_by (tk_f_by (n := n) ht.2.2.2 (k + v3))
    rw [show z + (j + 1) + 1 = (z + j + 1) + 1 by omega, lX9_cutsUp_120]
    unfold jX9_cutsUp_120 jX9_cutsUp_143
    rw [mq_isr hS, nI_add, hw_cI (m_byteAt hP ht N d (by omega))]
    dsimp only
    rw [hw_cI (m_isDigit _ N d _)]
    dsimp only
    rw [b2, if_pos hl, if_neg (by decide), nI_add]
    by_cases w : 4 ≤ v3
    · rw [if_pos (show nI 4 ≤ nI v3 by rw [hw_le (by omega) (by omega)]; exact w)]
      have := ih z (v3 + 1) (by omega)
      rw [show min (v3 + 1) 4 = min v3 4 by omega] at this
      exact this
    · rw [if_neg (show ¬ nI 4 ≤ nI v3 by rw [hw_le (by omega) (by omega)]; exact w), mq_isr hS, hw_cI (m_byteAt hP ht N d (by omega))]
      dsimp only
      rw [b5 hl]
      have := ih z (v3 + 1) (by omega)
      rw [show min (v3 + 1) 4 = v3 + 1 by omega, tk_val_succ] at this
      rw [show min v3 4 = v3 by omega]
      exact this
theorem m_sign_47 (cal : ix_C) (K : ix_K) (v1 v2 v3 : Int32) (H : ix_H) : bX9_sign cal K m v1 v2 v3 H = jX9_sign_47 cal K m v1 (nI (tk_sg v2)) H := by
  by_cases w1 : v2 = nI 59
  · subst w1
    simp (decide := true) only [bX9_sign, jX9_sign_16, jX9_sign_23, jX9_sign_29, jX9_sign_35, jX9_sign_41, tk_sg, if_true, if_false]
  by_cases w2 : v2 = nI 40
  · subst w2
    simp (decide := true) only [bX9_sign, jX9_sign_16, jX9_sign_23, jX9_sign_29, jX9_sign_35, jX9_sign_41, tk_sg, if_true, if_false]
  by_cases w3 : v2 = nI 41
  · subst w3
    simp (decide := true) only [bX9_sign, jX9_sign_16, jX9_sign_23, jX9_sign_29, jX9_sign_35, jX9_sign_41, tk_sg, if_true, if_false]
  by_cases w4 : v2 = nI 43
  · subst w4
    simp (decide := true) only [bX9_sign, jX9_sign_16, jX9_sign_23, jX9_sign_29, jX9_sign_35, jX9_sign_41, tk_sg, if_true, if_false]
  by_cases w5 : v2 = nI 45
  · subst w5
    simp (decide := true) only [bX9_sign, jX9_sign_16, jX9_sign_23, jX9_sign_29, jX9_sign_35, jX9_sign_41, tk_sg, if_true, if_false]
  by_cases w6 : v2 = nI 42
  · subst w6
    simp (decide := true) only [bX9_sign, jX9_sign_16, jX9_sign_23, jX9_sign_29, jX9_sign_35, jX9_sign_41, tk_sg, if_true, if_false]
  by_cases w7 : v2 = nI 47
  · subst w7
    simp (decide := true) only [bX9_sign, jX9_sign_16, jX9_sign_23, jX9_sign_29, jX9_sign_35, jX9_sign_41, tk_sg, if_true, if_false]
  by_cases w8 : v2 = nI 37
  · subst w8
    simp (decide := true) only [bX9_sign, jX9_sign_16, jX9_sign_23, jX9_sign_29, jX9_sign_35, jX9_sign_41, tk_sg, if_true, if_false]
  simp only [bX9_sign, jX9_sign_16, jX9_sign_23, jX9_sign_29, jX9_sign_35, jX9_sign_41, tk_sg, w1, w2, w3, w4, w5, w6, w7, w8, if_false]
theorem tk_sg_by {c : Int32} (h : -128 ≤ c.toInt ∧ c.toInt ≤ 127) : tk_sg (c &&& nI 255) = tk_sg c := by
  have e := (tk_by h).2.2.1
  unfold tk_sg
  simp only [e 59 (by omega), e 40 (by omega), e 41 (by omega), e 43 (by omega), e 45 (by omega), e 42 (by omega), e 47 (by omega), e 37 (by omega)]
/-- rows of tokens from q on hold l -/
def mTq (A' : Nat → Nat → Int32) (m q : Nat) (l : List tK) : Prop := ∀ i (h : i < l.length), q + i < 401 → A' (m + 3) (q + i) = nI (l[i]).1 ∧ A' (m + 4) (q + i) = nI (l[i]).2.1 ∧ A' (m + 5) (q + i) = (l[i]).2.2.2
theorem m_cutsUp_l (hP : mSp h m) (hK : mKw h m) (N d : Nat) : ∀ r k q z F A G, n - k = r → k ≤ n → q ≤ 401 → 30 * (n - k) + 30 ≤ z → F m 10 = nI q → mTx F A m b n →
    ∃ F' A' G', ix_lp (ix_run iy_P N (d + 2)) stX9_cutsUp z 5 [(0, ix_R (some m)), (1, ix_I (nI k))] [] (hw (ml h m G) F A) = some (.inl none, hw (ml h m G') F' A') ∧ mQ [10] [3, 4, 5] m F A F' A' ∧ (∀ i, i < q → A' (m + 3) i = A (m + 3) i ∧ A' (m + 4) i = A (m + 4) i ∧ A' (m + 5) i = A (m + 5) i) ∧ mTq A' m q (tk_at (tk_f b n) n k) := by
  intro r
  induction r using Nat.strongRecOn with
  | ind r ih =>
    intro k q z F A G hr hk hq hz hF ht
    have hn := ht.1
    have hS := mSp_ml G hP
    obtain ⟨z, rfl⟩ : ∃ w, z = w + 1 := ⟨z - 1, by omega⟩
    rw [lX9_cutsUp_5]
    unfold jX9_cutsUp_5
    rw [mq_is hS, hw_fI, hF]
    rcases Nat.lt_or_ge 400 q with hq4 | hq4
    · rw [if_pos (show nI 400 < nI q by rw [hw_lt (by omega) (by omega)]; exact hq4)]
      exact ⟨F, A, G, rfl, mQ.refl _ _ _ _ _, fun _ _ => ⟨rfl, rfl, rfl⟩, fun i _ hi => by omega⟩
    rw [if_neg (show ¬ nI 400 < nI q by rw [hw_lt (by omega) (by omega)]; omega), mq_isr hS, hw_cI (m_byteAt hP ht N (d + 1) (by omega))]
    dsimp only
    rw [mq_is hS, hw_fI, ht.2.1]
    -- a token, and what comes behind it
    have tok : ∀ (kd to : Nat) (vl v2 : Int32) (nm : Int64) (z' : Nat) (L : List tK), k < to → to ≤ n → 30 * (n - to) + 30 ≤ z' → tk_at (tk_f b n) n k = (kd, k, to, vl) :: tk_at (tk_f b n) n to → ∃ F' A' G', ((ix_rV (ix_run iy_P N (d + 2) 246 [ix_R (some m), ix_I (nI kd), ix_I (nI k), ix_I vl, ix_L nm] (hw (ml h m G) F A))).bind fun r => ix_lp (ix_run iy_P N (d + 2)) stX9_cutsUp z' 5 [(0, ix_R (some m)), (1, ix_I (nI to))] [] r) = some (.inl none, hw (ml h m G') F' A') ∧ mQ [10] [3, 4, 5] m F A F' A' ∧ (∀ i, i < q → A' (m + 3) i = A (m + 3) i ∧ A' (m + 4) i = A (m + 4) i ∧ A' (m + 5) i = A (m + 5) i) ∧ mTq A' m q (tk_at (tk_f b n) n k) := fun kd to vl v2 nm z' L h1 h2 h3 h4 => by
      obtain ⟨G1, A1, e1, q1, a3, a4, a5⟩ := m_token (G := G) (A := A) hP N (d + 1) (show q < 403 by omega) hF (nI kd) (nI k) vl nm
      have q1' : mQ [10] [3, 4, 5] m F A (hw_R F m (hw_U (F m) 10 (nI (q + 1)))) A1 := (q1.mono rfl rfl).fR rfl
      have ht1 : mTx (hw_R F m (hw_U (F m) 10 (nI (q + 1)))) A1 m b n := ⟨ht.1, by rw [q1'.2.1 4 rfl]; exact ht.2.1, fun k hk => by rw [q1'.2.2.1 2 rfl]; exact ht.2.2.1 k hk, ht.2.2.2⟩
      obtain ⟨F', A', G', e, qq, s, u⟩ := ih (n - to) (by omega) to (q + 1) z' (hw_R F m (hw_U (F m) 10 (nI (q + 1)))) A1 G1 rfl h2 (by omega) h3 (by rw [hw_R_same, hw_U_same]) ht1
      rw [hw_cV e1]
      refine ⟨F', A', G', e, q1'.trans qq, fun i hi => ?_, fun i hi hi2 => ?_⟩
      · obtain ⟨s1, s2, s3⟩ := s i (by omega)
        rw [s1, s2, s3, a3, a4, a5, hw_U_ne _ _ (by omega), hw_U_ne _ _ (by omega), hw_U_ne _ _ (by omega)]
        exact ⟨rfl, rfl, rfl⟩
      · have e' : ∀ (l : List tK), l = (kd, k, to, vl) :: tk_at (tk_f b n) n to → ∀ (hi : i < l.length), A' (m + 3) (q + i) = nI (l[i]).1 ∧ A' (m + 4) (q + i) = nI (l[i]).2.1 ∧ A' (m + 5) (q + i) = (l[i]).2.2.2 := fun l hl hi => by
          subst hl
          cases i with
          | zero =>
            obtain ⟨s1, s2, s3⟩ := s q (by omega)
            show A' (m + 3) q = nI kd ∧ A' (m + 4) q = nI k ∧ A' (m + 5) q = vl
            rw [s1, s2, s3, a3, a4, a5, hw_U_same, hw_U_same, hw_U_same]
            exact ⟨rfl, rfl, rfl⟩
          | succ i =>
            have := u i (by simp only [List.length_cons] at hi; omega) (by omega)
            rw [show q + (i + 1) = q + 1 + i by omega]
            exact this
        exact e' _ h4 hi
    rcases Nat.lt_or_ge k n with hkn | hkn
    · rw [if_pos (show nI k < nI n by rw [hw_lt (by omega) (by omega)]; exact hkn)]
      obtain ⟨b1, b2, b3, b4, b5⟩ := tk_by (tk_f_by (n := n) ht.2.2.2 k)
      have white : tk_isW (tk_f b n k) = true → ∃ F' A' G', jX9_cutsUp_38 (ix_run iy_P N (d + 2)) (ix_lp (ix_run iy_P N (d + 2)) stX9_cutsUp z) m (nI k) (hw (ml h m G) F A) = some (.inl none, hw (ml h m G') F' A') ∧ mQ [10] [3, 4, 5] m F A F' A' ∧ (∀ i, i < q → A' (m + 3) i = A (m + 3) i ∧ A' (m + 4) i = A (m + 4) i ∧ A' (m + 5) i = A (m + 5) i) ∧ mTq A' m q (tk_at (tk_f b n) n k) := fun hwh => by
        unfold jX9_cutsUp_38 jX9_cutsUp_175
        rw [nI_add, tk_at_wh hkn hwh]
        exact ih (n - (k + 1)) (by omega) (k + 1) q z F A G rfl (by omega) hq (by omega) hF ht
      by_cases w9 : tk_f b n k = nI 9
      · rw [if_pos ((b3 9 (by omega)).mpr w9)]
        exact white (by unfold tk_isW; rw [decide_eq_true_iff]; exact Or.inl w9)
      rw [if_neg (fun x => w9 ((b3 9 (by omega)).mp x))]
      by_cases w10 : tk_f b n k = nI 10
      · rw [if_pos ((b3 10 (by omega)).mpr w10)]
        exact white (by unfold tk_isW; rw [decide_eq_true_iff]; exact Or.inr (Or.inl w10))
      rw [if_neg (fun x => w10 ((b3 10 (by omega)).mp x))]
      by_cases w13 : tk_f b n k = nI 13
      · rw [if_pos ((b3 13 (by omega)).mpr w13)]
        exact white (by unfold tk_isW; rw [decide_eq_true_iff]; exact Or.inr (Or.inr (Or.inl w13)))
      rw [if_neg (fun x => w13 ((b3 13 (by omega)).mp x))]
      by_cases w32 : tk_f b n k = nI 32
      · rw [if_pos ((b3 32 (by omega)).mpr w32)]
        exact white (by unfold tk_isW; rw [decide_eq_true_iff]; exact Or.inr (Or.inr (Or.inr w32)))
      rw [if_neg (fun x => w32 ((b3 32 (by omega)).mp x))]
      have nw : tk_isW (tk_f b n k) ≠ true := by
        unfold tk_isW
        rw [Ne, decide_eq_true_iff]
        exact fun x => by
          rcases x with x | x | x | x
          · exact w9 x
          · exact w10 x
          · exact w13 x
          · exact w32 x
      have htok := tk_at_tok hkn nw
      rw [hw_cI (m_isLetter _ N (d + 1) _)]
      dsimp only
      rw [b1]
      by_cases wl : tk_isL (tk_f b n k) = true
      · have hpos := tk_len_pos (p := tk_isL) hkn wl
        have hle := tk_len_le tk_isL (tk_f b n) (Nat.le_of_lt hkn)
        have eone : tk_one (tk_f b n) n k = (if 8 < tk_len tk_isL (tk_f b n) n k then 3 else tk_kn (tk_ws (tk_f b n) k (tk_len tk_isL (tk_f b n) n k)), k, k + tk_len tk_isL (tk_f b n) n k, nI 0) := by
          unfold tk_one
          rw [if_pos wl]
        rw [eone] at htok
        rw [if_pos wl, if_neg (by decide), ← lX9_cutsUp_48]
        obtain ⟨z1, rfl⟩ : ∃ z1, z = z1 + tk_len tk_isL (tk_f b n) n k := ⟨z - tk_len tk_isL (tk_f b n) n k, by omega⟩
        have h48 := m_cut48 (G := G) hP ht N (d + 1) hkn (tk_len tk_isL (tk_f b n) n k) z1 0 (by omega)
        rw [Nat.zero_min] at h48
        have e0 : tk_nm (tk_ws (tk_f b n) k 0) = (0 : Int64) := rfl
        rw [e0] at h48
        rw [h48]
        unfold jX9_cutsUp_76
        have hin := tk_cnt_in tk_isL (tk_f b n) (n - k) k
        by_cases w8 : 8 < tk_len tk_isL (tk_f b n) n k
        · rw [if_pos (show nI 8 < nI (tk_len tk_isL (tk_f b n) n k) by rw [hw_lt (by omega) (by omega)]; exact w8), if_neg (show ¬ tk_len tk_isL (tk_f b n) n k ≤ 8 by omega)]
          rw [if_pos w8] at htok
          unfold jX9_cutsUp_101 jX9_cutsUp_175
          rw [mq_isr hS, nI_add]
          exact tok 3 _ (nI 0) (nI 0) _ z1 [] (by omega) (by omega) (by omega) htok
        · rw [if_neg (show ¬ nI 8 < nI (tk_len tk_isL (tk_f b n) n k) by rw [hw_lt (by omega) (by omega)]; exact w8), if_pos (show tk_len tk_isL (tk_f b n) n k ≤ 8 by omega), ← lX9_cutsUp_83]
          rw [if_neg w8] at htok
          obtain ⟨z2, rfl⟩ : ∃ z2, z1 = z2 + 18 := ⟨z1 - 18, by omega⟩
          rw [m_cut83 (G := G) hP hK _ F A (nI k) _ _ 18 z2 0 (nI 1) (by omega), List.drop_zero, show min (tk_len tk_isL (tk_f b n) n k) 8 = tk_len tk_isL (tk_f b n) n k by omega, tk_kf_kn (by rw [tk_ws_len]; omega) (fun c hc => by
            unfold tk_ws at hc
            obtain ⟨i, hi, rfl⟩ := List.mem_map.mp hc
            exact hin i (List.mem_range.mp hi))]
          unfold jX9_cutsUp_101 jX9_cutsUp_175
          rw [mq_isr hS, nI_add]
          exact tok _ _ (nI 0) (nI 0) _ z2 [] (by omega) (by omega) (by omega) htok
      · rw [if_neg wl, if_pos rfl, hw_cI (m_isDigit _ N (d + 1) _)]
        dsimp only
        rw [b2]
        by_cases wd : tk_isD (tk_f b n k) = true
        · have hpos := tk_len_pos (p := tk_isD) hkn wd
          have hle := tk_len_le tk_isD (tk_f b n) (Nat.le_of_lt hkn)
          have eone : tk_one (tk_f b n) n k = (if 4 < tk_len tk_isD (tk_f b n) n k then 3 else 2, k, k + tk_len tk_isD (tk_f b n) n k, tk_val (tk_f b n) k (min (tk_len tk_isD (tk_f b n) n k) 4)) := by
            unfold tk_one
            rw [if_neg wl, if_pos wd]
          rw [eone] at htok
          rw [if_pos wd, if_neg (by decide), ← lX9_cutsUp_120]
          obtain ⟨z1, rfl⟩ : ∃ z1, z = z1 + tk_len tk_isD (tk_f b n) n k := ⟨z - tk_len tk_isD (tk_f b n) n k, by omega⟩
          have h120 := m_cut120 (G := G) hP ht N (d + 1) hkn (tk_len tk_isD (tk_f b n) n k) z1 0 (by omega)
          rw [Nat.zero_min] at h120
          have e0 : tk_val (tk_f b n) k 0 = nI 0 := rfl
          rw [e0] at h120
          rw [h120]
          unfold jX9_cutsUp_153 jX9_cutsUp_175
          rw [mq_isr hS, nI_add]
          by_cases w4 : 4 < tk_len tk_isD (tk_f b n) n k
          · rw [if_neg (show ¬ tk_len tk_isD (tk_f b n) n k ≤ 4 by omega)]
            rw [if_pos w4] at htok
            exact tok 3 _ _ (nI 0) _ z1 [] (by omega) (by omega) (by omega) htok
          · rw [if_pos (show tk_len tk_isD (tk_f b n) n k ≤ 4 by omega)]
            rw [if_neg w4] at htok
            exact tok 2 _ _ (nI 0) _ z1 [] (by omega) (by omega) (by omega) htok
        · have eone : tk_one (tk_f b n) n k = (tk_sg (tk_f b n k), k, k + 1, nI 0) := by
            unfold tk_one
            rw [if_neg wl, if_neg wd]
          rw [eone] at htok
          rw [if_neg wd, if_pos rfl, mq_isr hS, nI_add, hw_cI (m_byteAt hP ht N (d + 1) (by omega))]
          dsimp only
          obtain ⟨F', A', G', e, rest⟩ := tok (tk_sg (tk_f b n k)) (k + 1) (nI 0) (nI 0) 0 z [] (by omega) (by omega) (by omega) htok
          refine ⟨F', A', G', ?_, rest⟩
          rw [← e]
          obtain ⟨G1, A1, e1, -⟩ := m_token (G := G) (A := A) hP N d (show q < 403 by omega) hF (nI (tk_sg (tk_f b n k))) (nI k) (nI 0) 0
          have es : ix_run iy_P N (d + 2) 249 [ix_R (some m), ix_I (nI k), ix_I (tk_f b n k &&& nI 255), ix_I (tk_f b n (k + 1) &&& nI 255)] (hw (ml h m G) F A) = some (.inl (some (ix_I (nI 1))), hw (ml h m G1) (hw_R F m (hw_U (F m) 10 (nI (q + 1)))) A1) := by
            rw [rX9_sign N (d + 1), m_sign_47, tk_sg_by (tk_f_by ht.2.2.2 k)]
            unfold jX9_sign_47
            rw [mq_isr hS, hw_cV e1]
          have e1' : ix_run iy_P N (d + 2) 246 [ix_R (some m), ix_I (nI (tk_sg (tk_f b n k))), ix_I (nI k), ix_I (nI 0), ix_L 0] (hw (ml h m G) F A) = some (.inl none, hw (ml h m G1) (hw_R F m (hw_U (F m) 10 (nI (q + 1)))) A1) := by
            rw [rX9_token N (d + 1)]
            rw [rX9_token N d] at e1
            exact e1
          rw [mq_isr hS, hw_cI es, hw_cV e1']
          dsimp only
          unfold jX9_cutsUp_175
          rw [nI_add]
    · obtain rfl : k = n := by omega
      rw [if_neg (show ¬ nI k < nI k by rw [hw_lt (by omega) (by omega)]; omega), mq_is hS, mq_isr hS, ht.2.1]
      obtain ⟨G1, A1, e1, q1, a3, a4, a5⟩ := m_token (G := G) (A := A) hP N (d + 1) (show q < 403 by omega) hF (nI 0) (nI k) (nI 0) 0
      rw [hw_cV e1]
      refine ⟨_, A1, G1, rfl, (q1.mono rfl rfl).fR rfl, fun i hi => ?_, fun i hi hi2 => ?_⟩
      · rw [a3, a4, a5, hw_U_ne _ _ (by omega), hw_U_ne _ _ (by omega), hw_U_ne _ _ (by omega)]
        exact ⟨rfl, rfl, rfl⟩
      · have e' : ∀ (l : List tK), l = [(0, k, k, nI 0)] → ∀ (hi : i < l.length), A1 (m + 3) (q + i) = nI (l[i]).1 ∧ A1 (m + 4) (q + i) = nI (l[i]).2.1 ∧ A1 (m + 5) (q + i) = (l[i]).2.2.2 := fun l hl hi => by
          subst hl
          obtain rfl : i = 0 := by simp only [List.length_singleton] at hi; omega
          show A1 (m + 3) q = nI 0 ∧ A1 (m + 4) q = nI k ∧ A1 (m + 5) q = nI 0
          rw [a3, a4, a5, hw_U_same, hw_U_same, hw_U_same]
          exact ⟨rfl, rfl, rfl⟩
        exact e' _ (tk_at_end (Nat.le_refl _)) hi
theorem m_cutsUp (hP : mSp h m) (hK : mKw h m) (hN : 100000 ≤ N) (d : Nat) (ht : mTx F A m b n) : ∃ F' A' G', ix_run iy_P N (d + 3) 244 [ix_R (some m)] (hw (ml h m G) F A) = some (.inl none, hw (ml h m G') F' A') ∧ mQ [10] [3, 4, 5] m F A F' A' ∧ mTk A' m (tk_at (tk_f b n) n 0) := by
  obtain ⟨N, rfl⟩ : ∃ z, N = z + 1 := ⟨N - 1, by omega⟩
  have hS := mSp_ml G hP
  have hn := ht.1
  rw [rX9_cutsUp (N + 1) (d + 2)]
  unfold bX9_cutsUp
  rw [mq_is hS, hw_bdF, ← lX9_cutsUp_5]
  have q0 : mQ [10] [3, 4, 5] m F A (hw_R F m (hw_U (F m) 10 (nI 0))) A := (mQ.refl _ _ _ _ _).fR rfl
  obtain ⟨F', A', G', e, q, -, u⟩ := m_cutsUp_l (b := b) (n := n) hP hK (N + 1) d n 0 0 (N + 1 + 1) (hw_R F m (hw_U (F m) 10 (nI 0))) A G rfl (Nat.zero_le _) (by omega) (by omega) (by rw [hw_R_same, hw_U_same]) ⟨ht.1, by rw [q0.2.1 4 rfl]; exact ht.2.1, ht.2.2⟩
  refine ⟨F', A', G', e, q0.trans q, fun i hi h4 => ?_⟩
  have := u i hi (by omega)
  rw [Nat.zero_add] at this
  exact this
end
