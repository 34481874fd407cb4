/-! C2: the component: what a record's methods do -/
set_option maxRecDepth 100000
theorem c_sets_l {h : ix_H} {a ka va : Nat} (hr : cR h a ka va) (cal : ix_C) {l : KV} (hs : kv_so l) (hl : l.length ≤ 43) {key : Int32} (hg : kv_get key l = none) (v : Int32) {f g : Nat → Int32} (hfg : kv_in f g l) : ∀ k n F A, kv_wh key l ≤ k → k ≤ l.length → k < n → A ka = kv_up f k l.length → A va = kv_up g k l.length → F a 3 = nI (l.length + 1) →
    ∃ A', ix_lp cal stX5_sets n 21 [(0, ix_R (some a)), (1, ix_I key), (2, ix_I v), (3, ix_I (nI k))] [] (hw h F A) = some (.inl none, hw h F A') ∧ cQ [] a ka va F A F A' ∧ A' ka = hw_U (kv_up f (kv_wh key l) l.length) (kv_wh key l) key ∧ A' va = hw_U (kv_up g (kv_wh key l) l.length) (kv_wh key l) v := by
  have hne : ka ≠ va := hr.2.2.2.2.2.2.2
  have hfin : ∀ K F A, A ka = kv_up f (kv_wh key l) l.length → A va = kv_up g (kv_wh key l) l.length → ∃ A', jX5_sets_54 cal K a key v (nI (kv_wh key l)) (hw h F A) = some (.inl none, hw h F A') ∧ cQ [] a ka va F A F A' ∧ A' ka = hw_U (kv_up f (kv_wh key l) l.length) (kv_wh key l) key ∧ A' va = hw_U (kv_up g (kv_wh key l) l.length) (kv_wh key l) v := by
    intro K F A h1 h2
    have hle := kv_wh_le key l
    unfold jX5_sets_54
    rw [cp_is hr, cp_wk hr, hw_in (by omega) (by omega), cond_true, hw_bdA, cp_is hr, cp_wv hr, hw_in (by omega) (by omega), cond_true, hw_bdA, hw_cl (by omega)]
    refine ⟨_, rfl, ((cQ.refl [] a ka va F A).kR).vR, ?_, ?_⟩
    · rw [hw_R_ne _ _ hne, hw_R_same, h1]
    · rw [hw_R_same, hw_R_ne _ _ hne.symm, h2]
  intro k
  induction k with
  | zero =>
    intro n F A hk hkl hn h1 h2 h3
    obtain ⟨n, rfl⟩ : ∃ w, n = w + 1 := ⟨n - 1, by omega⟩
    have e0 : kv_wh key l = 0 := by omega
    rw [lX5_sets_21]
    unfold jX5_sets_21
    rw [if_pos (show nI 0 ≤ nI 0 by decide)]
    have := hfin (ix_lp cal stX5_sets n) F A (by rw [e0]; exact h1) (by rw [e0]; exact h2)
    rw [e0] at this ⊢
    exact this
  | succ k ih =>
    intro n F A hk hkl hn h1 h2 h3
    obtain ⟨n, rfl⟩ : ∃ w, n = w + 1 := ⟨n - 1, by omega⟩
    obtain ⟨w1, w2⟩ := hfg k (by omega)
    have hiff := kv_wh_iff (k := key) (show k < l.length by omega) hs
    have hkn : ¬ (l[k]).1 = key := fun w => by
      have := (kv_at_wh hs (show k < l.length by omega)).mp w
      exact this.1 hg
    have eup : kv_up f (k + 1) l.length k = (l[k]).1 := by
      unfold kv_up
      rw [if_neg (by omega)]
      exact w1
    rw [lX5_sets_21]
    unfold jX5_sets_21
    rw [if_neg (show ¬ nI (k + 1) ≤ nI 0 by rw [hw_le (by omega) (by omega)]; omega), hw_sub (by omega), Nat.add_sub_cancel, cp_is hr, cp_rk hr, hw_in (by omega) (by omega), cond_true, hw_aI, hw_cl (by omega), h1, eup]
    by_cases hc : k < kv_wh key l
    · have e1 : kv_wh key l = k + 1 := by omega
      have hlt := hiff.mpr hc
      rw [if_pos (show (l[k]).1 ≤ key by rw [Int32.lt_iff_toInt_lt] at hlt; rw [Int32.le_iff_toInt_le]; omega)]
      have := hfin (ix_lp cal stX5_sets n) F A (by rw [e1]; exact h1) (by rw [e1]; exact h2)
      rw [e1] at this ⊢
      exact this
    · have hnlt : ¬ (l[k]).1 ≤ key := fun w => hc (hiff.mp (kv_le_lt w hkn))
      have s1 := kv_up_step f (k := k + 1) (n := l.length) (by omega) hkl
      have s2 := kv_up_step g (k := k + 1) (n := l.length) (by omega) hkl
      simp only [Nat.add_sub_cancel] at s1 s2
      rw [if_neg hnlt, cp_is hr, cp_is hr, cp_rk hr, hw_in (by omega) (by omega), cond_true, cp_wk hr, hw_in (by omega) (by omega), cond_true, hw_bdA, hw_aI, hw_cl (by omega), cp_is hr, cp_is hr, cp_rv hr, hw_in (by omega) (by omega), cond_true, cp_wv hr, hw_in (by omega) (by omega), cond_true, hw_bdA, hw_R_ne _ _ hne.symm, h1, h2, hw_dec]
      obtain ⟨A', e, q, p1, p2⟩ := ih n F (hw_R (hw_R A ka (hw_U (kv_up f (k + 1) l.length) (k + 1) (kv_up f (k + 1) l.length k))) va (hw_U (kv_up g (k + 1) l.length) (k + 1) (kv_up g (k + 1) l.length k))) (by omega) (by omega) (by omega) (by rw [hw_R_ne _ _ hne, hw_R_same, s1]) (by rw [hw_R_same, s2]) h3
      exact ⟨A', e, (((cQ.refl [] a ka va F A).kR).vR).trans q, p1, p2⟩
theorem c_sets {h : ix_H} {a ka va : Nat} (hr : cR h a ka va) {F A : Nat → Nat → Int32} {N : Nat} (hN : 1000 ≤ N) (d : Nat) {l : KV} (hL : cL F A a ka va l) (hs : kv_so l) (key v : Int32) (hl : l.length ≤ 43) :
    ∃ F' A', ix_run iy_P N (d + 2) 209 [ix_R (some a), ix_I key, ix_I v] (hw h F A) = some (.inl none, hw h F' A') ∧ cQ [3] a ka va F A F' A' ∧ cL F' A' a ka va (kv_set key v l) := by
  have hle := kv_wh_le key l
  have hne : ka ≠ va := hr.2.2.2.2.2.2.2
  rw [rX5_sets N (d + 1)]
  unfold bX5_sets
  rw [cp_isr hr, hw_cI (c_at1 hr hN d hL hs (by omega) key)]
  dsimp only
  cases hg : kv_get key l with
  | none =>
    rw [if_pos rfl, if_pos (show (-1 : Int32) < nI 0 by decide), cp_is hr, cp_is hr, cp_is hr, hw_bdF, hw_fI, hL.1, nI_add]
    obtain ⟨N, rfl⟩ : ∃ z, N = z + 1 := ⟨N - 1, by omega⟩
    rw [← lX5_sets_21]
    obtain ⟨A', e, q, p1, p2⟩ := c_sets_l hr (ix_run iy_P (N + 1) (d + 1)) hs hl hg v hL.2 l.length (N + 1 + 1) (hw_R F a (hw_U (F a) 3 (nI (l.length + 1)))) A hle (Nat.le_refl _) (by omega) (kv_up_n _ _).symm (kv_up_n _ _).symm (by rw [hw_R_same, hw_U_same])
    refine ⟨_, A', e, ((cQ.refl [3] a ka va F A).fR rfl).trans (q.mono rfl), ?_, ?_⟩
    · rw [hw_R_same, hw_U_same, kv_set_no hs hg, List.length_append, List.length_cons, List.length_take, List.length_drop]
      congr 1
      omega
    · rw [p1, p2, kv_set_no hs hg]
      exact kv_in_ins hL.2 hle
  | some w =>
    obtain ⟨hlt, -⟩ := (kv_get_wh hs w).mp hg
    rw [if_neg (show ¬ (some w = (none : Option Int32)) from fun w => nomatch w), if_neg (show ¬ nI (kv_wh key l) < nI 0 by rw [hw_lt (by omega) (by omega)]; omega), cp_is hr, cp_wv hr, hw_in (by omega) (by omega), cond_true, hw_bdA, hw_cl (by omega)]
    refine ⟨F, _, rfl, (cQ.refl [3] a ka va F A).vR, ?_, ?_⟩
    · rw [kv_set_len_yes hs hg]
      exact hL.1
    · rw [hw_R_ne _ _ hne, hw_R_same, kv_set_yes hs hg]
      have h1 := kv_in_set (k := key) (v := v) (i := kv_wh key l) hL.2
      have e1 : hw_U (A ka) (kv_wh key l) key = A ka := by
        funext j
        rw [hw_U_at]
        by_cases e : j = kv_wh key l
        · rw [if_pos e, e, (hL.2 _ hlt).1]
          exact ((kv_at_wh hs hlt).mpr ⟨(by rw [hg]; exact fun w => nomatch w), rfl⟩).symm
        · rw [if_neg e]
      rw [e1] at h1
      exact h1
theorem c_drops_l {h : ix_H} {a ka va : Nat} (hr : cR h a ka va) (cal : ix_C) (f g : Nat → Int32) {i n : Nat} (hn : n ≤ 43) : ∀ z k F A, i ≤ k → k ≤ n → n - k < z → A ka = kv_dn f i k → A va = kv_dn g i k → F a 3 = nI n →
    ∃ A', ix_lp cal stX5_drops z 15 [(0, ix_R (some a)), (3, ix_I (nI k))] [] (hw h F A) = some (.inl none, hw h F A') ∧ cQ [] a ka va F A F A' ∧ A' ka = kv_dn f i n ∧ A' va = kv_dn g i n := by
  have hne : ka ≠ va := hr.2.2.2.2.2.2.2
  intro z
  induction z with
  | zero => intro k F A _ _ h; omega
  | succ z ih =>
    intro k F A hik hkn hz h1 h2 h3
    rw [lX5_drops_15]
    unfold jX5_drops_15
    rw [cp_is hr, hw_fI, h3]
    rcases Nat.lt_or_ge k n with hlt | hge
    · rw [if_neg (show ¬ nI n ≤ nI k by rw [hw_le (by omega) (by omega)]; omega), nI_add, cp_is hr, cp_is hr, cp_rk hr, hw_in (by omega) (by omega), cond_true, cp_wk hr, hw_in (by omega) (by omega), cond_true, hw_bdA, hw_aI, hw_cl (by omega), hw_cl (by omega), cp_is hr, cp_is hr, cp_rv hr, hw_in (by omega) (by omega), cond_true, cp_wv hr, hw_in (by omega) (by omega), cond_true, hw_bdA, hw_aI, hw_R_ne _ _ hne.symm, h1, h2]
      obtain ⟨A', e, q, p1, p2⟩ := ih (k + 1) F (hw_R (hw_R A ka (hw_U (kv_dn f i k) k (kv_dn f i k (k + 1)))) va (hw_U (kv_dn g i k) k (kv_dn g i k (k + 1)))) (by omega) (by omega) (by omega) (by rw [hw_R_ne _ _ hne, hw_R_same, kv_dn_step f hik]) (by rw [hw_R_same, kv_dn_step g hik]) h3
      exact ⟨A', e, (((cQ.refl [] a ka va F A).kR).vR).trans q, p1, p2⟩
    · obtain rfl : k = n := by omega
      rw [if_pos (show nI k ≤ nI k by rw [hw_le (by omega) (by omega)]; omega)]
      exact ⟨A, rfl, cQ.refl _ _ _ _ _ _, h1, h2⟩
theorem c_drops {h : ix_H} {a ka va : Nat} (hr : cR h a ka va) {F A : Nat → Nat → Int32} {N : Nat} (hN : 1000 ≤ N) (d : Nat) {l : KV} (hL : cL F A a ka va l) (hs : kv_so l) (hl : l.length ≤ 43) (key : Int32) :
    ∃ F' A', ix_run iy_P N (d + 2) 213 [ix_R (some a), ix_I key] (hw h F A) = some (.inl none, hw h F' A') ∧ cQ [3] a ka va F A F' A' ∧ cL F' A' a ka va (kv_del key l) := by
  have hle := kv_wh_le key l
  rw [rX5_drops N (d + 1)]
  unfold bX5_drops
  rw [cp_isr hr, hw_cI (c_at1 hr hN d hL hs (by omega) key)]
  dsimp only
  cases hg : kv_get key l with
  | none =>
    rw [if_pos rfl, if_neg (show ¬ nI 0 ≤ (-1 : Int32) by decide)]
    refine ⟨F, A, rfl, cQ.refl _ _ _ _ _ _, ?_⟩
    rw [kv_del_no hs hg]
    exact hL
  | some w =>
    obtain ⟨hlt, -⟩ := (kv_get_wh hs w).mp hg
    obtain ⟨n, hn⟩ : ∃ n, l.length = n + 1 := ⟨l.length - 1, by omega⟩
    rw [if_neg (show ¬ (some w = (none : Option Int32)) from fun w => nomatch w), if_pos (show nI 0 ≤ nI (kv_wh key l) by rw [hw_le (by omega) (by omega)]; omega), cp_is hr, cp_is hr, hw_bdF, hw_fI, hL.1, hw_sub (by omega), hn, Nat.add_sub_cancel]
    obtain ⟨N, rfl⟩ : ∃ z, N = z + 1 := ⟨N - 1, by omega⟩
    rw [← lX5_drops_15]
    obtain ⟨A', e, q, p2, p3⟩ := c_drops_l hr (ix_run iy_P (N + 1) (d + 1)) (A ka) (A va) (i := kv_wh key l) (n := n) (by omega) (N + 1 + 1) (kv_wh key l) (hw_R F a (hw_U (F a) 3 (nI n))) A (Nat.le_refl _) (by omega) (by omega) (kv_dn_n _ _).symm (kv_dn_n _ _).symm (by rw [hw_R_same, hw_U_same])
    refine ⟨_, A', e, ((cQ.refl [3] a ka va F A).fR rfl).trans (q.mono rfl), ?_, ?_⟩
    · rw [hw_R_same, hw_U_same, kv_del_yes hs hg, List.length_eraseIdx, if_pos hlt, hn, Nat.add_sub_cancel]
    · rw [p2, p3, kv_del_yes hs hg]
      exact kv_in_era hL.2 (by omega)
theorem c_ends_l {h : ix_H} {a ka va : Nat} (hr : cR h a ka va) (cal : ix_C) {l : KV} (hs : kv_so l) (hl : l.length ≤ 43) (key rt : Int32) : ∀ n z F A, kv_wh key l ≤ n → n ≤ l.length → n < z → kv_in (A ka) (A va) l → F a 3 = nI n →
    ∃ F', ix_lp cal stX5_ends z 0 [(0, ix_R (some a)), (1, ix_I key), (2, ix_I rt)] [] (hw h F A) = some (.inl none, hw h F' A) ∧ cQ [3, 4, 5] a ka va F A F' A ∧ cG F' A a ka va (kv_cut key l, key, rt) := by
  intro n
  induction n with
  | zero =>
    intro z F A hw0 hnl hz hk h3
    obtain ⟨z, rfl⟩ : ∃ w, z = w + 1 := ⟨z - 1, by omega⟩
    rw [lX5_ends_0]
    unfold jX5_ends_0 jX5_ends_20
    rw [cp_is hr, hw_fI, h3, if_pos (show nI 0 ≤ nI 0 by decide), cp_is hr, hw_bdF, cp_is hr, hw_bdF, hw_R_R, hw_R_same]
    refine ⟨_, rfl, ((cQ.refl [3, 4, 5] a ka va F A).fR rfl).fU rfl, ⟨?_, kv_in_take hk _⟩, ?_, ?_⟩
    · simp (disch := omega) only [hw_R_same, hw_R_ne, hw_U_same, hw_U_ne]
      rw [kv_cut_len, h3, show kv_wh key l = 0 by omega]
    · simp (disch := omega) only [hw_R_same, hw_R_ne, hw_U_same, hw_U_ne]
    · simp (disch := omega) only [hw_R_same, hw_R_ne, hw_U_same, hw_U_ne]
  | succ n ih =>
    intro z F A hw0 hnl hz hk h3
    obtain ⟨z, rfl⟩ : ∃ w, z = w + 1 := ⟨z - 1, by omega⟩
    have hiff := kv_wh_iff (k := key) (show n < l.length by omega) hs
    rw [lX5_ends_0]
    unfold jX5_ends_0 jX5_ends_20
    rw [cp_is hr, hw_fI, h3, if_neg (show ¬ nI (n + 1) ≤ nI 0 by rw [hw_le (by omega) (by omega)]; omega), cp_is hr, cp_is hr, h3, hw_sub (by omega), Nat.add_sub_cancel, cp_rk hr, hw_in (by omega) (by omega), cond_true, hw_aI, hw_cl (by omega), (hk n (by omega)).1]
    by_cases hc : n < kv_wh key l
    · rw [if_pos (hiff.mpr hc), cp_is hr, hw_bdF, cp_is hr, hw_bdF, hw_R_R, hw_R_same]
      refine ⟨_, rfl, ((cQ.refl [3, 4, 5] a ka va F A).fR rfl).fU rfl, ⟨?_, kv_in_take hk _⟩, ?_, ?_⟩
      · simp (disch := omega) only [hw_R_same, hw_R_ne, hw_U_same, hw_U_ne]
        rw [kv_cut_len, h3, show kv_wh key l = n + 1 by omega]
      · simp (disch := omega) only [hw_R_same, hw_R_ne, hw_U_same, hw_U_ne]
      · simp (disch := omega) only [hw_R_same, hw_R_ne, hw_U_same, hw_U_ne]
    · rw [if_neg (fun w => hc (hiff.mp w)), cp_is hr, cp_is hr, hw_bdF, h3, hw_sub (by omega), Nat.add_sub_cancel]
      obtain ⟨F', e, q, g⟩ := ih z (hw_R F a (hw_U (F a) 3 (nI n))) A (by omega) (by omega) (by omega) hk (by rw [hw_R_same, hw_U_same])
      exact ⟨F', e, ((cQ.refl [3, 4, 5] a ka va F A).fR rfl).trans q, g⟩
theorem c_ends {h : ix_H} {a ka va : Nat} (hr : cR h a ka va) {F A : Nat → Nat → Int32} {N : Nat} (hN : 1000 ≤ N) (d : Nat) {l : KV} (hL : cL F A a ka va l) (hs : kv_so l) (hl : l.length ≤ 43) (key rt : Int32) :
    ∃ F' A', ix_run iy_P N (d + 1) 214 [ix_R (some a), ix_I key, ix_I rt] (hw h F A) = some (.inl none, hw h F' A') ∧ cQ [3, 4, 5] a ka va F A F' A' ∧ cG F' A' a ka va (kv_cut key l, key, rt) := by
  rw [rX5_ends N d]
  unfold bX5_ends
  obtain ⟨N, rfl⟩ : ∃ z, N = z + 1 := ⟨N - 1, by omega⟩
  rw [← lX5_ends_0]
  obtain ⟨F', e, q, g⟩ := c_ends_l hr (ix_run iy_P (N + 1) d) hs hl key rt l.length (N + 1 + 1) F A (kv_wh_le _ _) (Nat.le_refl _) (by omega) hL.2 hL.1
  exact ⟨F', A, e, q, g⟩
/-- two records apart -/
def cD (a ka va b kb vb : Nat) : Prop := a ≠ b ∧ ka ≠ kb ∧ ka ≠ vb ∧ va ≠ kb ∧ va ≠ vb
theorem c_takes_l {h : ix_H} {a ka va b kb vb : Nat} (hr : cR h a ka va) (hb : cR h b kb vb) (hd : cD a ka va b kb vb) (cal : ix_C) {l : KV} (hl : l.length ≤ 44) : ∀ z i F A, i ≤ l.length → l.length - i < z → F a 3 = nI l.length → kv_in (A kb) (A vb) l → kv_in (A ka) (A va) (l.take i) →
    ∃ A', ix_lp cal stX5_takes z 14 [(0, ix_R (some a)), (1, ix_R (some b)), (2, ix_I (nI i))] [] (hw h F A) = some (.inl none, hw h F A') ∧ cQ [] a ka va F A F A' ∧ kv_in (A' ka) (A' va) l := by
  have hne : ka ≠ va := hr.2.2.2.2.2.2.2
  obtain ⟨d0, d1, d2, d3, d4⟩ := hd
  intro z
  induction z with
  | zero => intro i F A _ h; omega
  | succ z ih =>
    intro i F A hi hz h3 hB hA
    rw [lX5_takes_14]
    unfold jX5_takes_14
    rw [cp_is hr, hw_fI, h3]
    rcases Nat.lt_or_ge i l.length with h1 | h1
    · obtain ⟨w1, w2⟩ := hB i h1
      have hti : (l.take i).length = i := by rw [List.length_take]; omega
      have htk : l.take (i + 1) = l.take i ++ [((l[i]).1, (l[i]).2)] := by
        rw [List.take_succ_eq_append_getElem h1]
      rw [if_neg (show ¬ nI l.length ≤ nI i by rw [hw_le (by omega) (by omega)]; omega)]
      simp (disch := omega) only [↓cp_is hr, ↓cp_isr hr, ↓cp_rk hr, ↓cp_rv hr, ↓cp_wk hr, ↓cp_wv hr, ↓cp_is hb, ↓cp_isr hb, ↓cp_rk hb, ↓cp_rv hb, ↓cp_wk hb, ↓cp_wv hb, ↓reduceIte, ↓hw_bdF, ↓hw_bdA, ↓hw_cbd, Option.bind_some, hw_bd, cond_true, cond_false, hw_fI, hw_aI, hw_aR, hw_of, hw_hw, hw_sz, hw_wfR, hw_waR, hw_rI, hw_rV, hw_rR, nI_add, hw_in, hw_cl, hw_R_same, hw_R_R, hw_U_same, hw_U_ne, hw_okn1_0, hw_okn1_1, w1, w2, hw_R_ne _ _ d1.symm, hw_R_ne _ _ d2.symm, hw_R_ne _ _ hne.symm]
      obtain ⟨A', e, q, p⟩ := ih (i + 1) F (hw_R (hw_R A ka (hw_U (A ka) i (l[i]).1)) va (hw_U (A va) i (l[i]).2)) h1 (by omega) h3 (by rw [hw_R_ne _ _ d3.symm, hw_R_ne _ _ d1.symm, hw_R_ne _ _ d4.symm, hw_R_ne _ _ d2.symm]; exact hB) (by
        rw [hw_R_ne _ _ hne, hw_R_same, hw_R_same, htk]
        have := kv_in_app (k := (l[i]).1) (v := (l[i]).2) hA
        rw [hti] at this
        exact this)
      exact ⟨A', e, (((cQ.refl [] a ka va F A).kR).vR).trans q, p⟩
    · rw [if_pos (show nI l.length ≤ nI i by rw [hw_le (by omega) (by omega)]; omega)]
      rw [List.take_of_length_le h1] at hA
      exact ⟨A, rfl, cQ.refl _ _ _ _ _ _, hA⟩
theorem c_takes {h : ix_H} {a ka va b kb vb : Nat} (hr : cR h a ka va) (hb : cR h b kb vb) (hd : cD a ka va b kb vb) {F A : Nat → Nat → Int32} {N : Nat} (hN : 1000 ≤ N) (d : Nat) {c : zG} (hG : cG F A b kb vb c) (hl : c.1.length ≤ 44) :
    ∃ F' A', ix_run iy_P N (d + 1) 211 [ix_R (some a), ix_R (some b)] (hw h F A) = some (.inl none, hw h F' A') ∧ cQ [3, 4, 5] a ka va F A F' A' ∧ cG F' A' a ka va c := by
  obtain ⟨d0, d1, d2, d3, d4⟩ := hd
  rw [rX5_takes N d]
  unfold bX5_takes
  simp (disch := omega) only [↓cp_is hr, ↓cp_isr hr, ↓cp_rk hr, ↓cp_rv hr, ↓cp_wk hr, ↓cp_wv hr, ↓cp_is hb, ↓cp_isr hb, ↓cp_rk hb, ↓cp_rv hb, ↓cp_wk hb, ↓cp_wv hb, ↓reduceIte, ↓hw_bdF, ↓hw_bdA, ↓hw_cbd, Option.bind_some, hw_bd, cond_true, cond_false, hw_fI, hw_aI, hw_aR, hw_of, hw_hw, hw_sz, hw_wfR, hw_waR, hw_rI, hw_rV, hw_rR, nI_add, hw_in, hw_cl, hw_R_same, hw_R_R, hw_U_same, hw_U_ne, hw_okn1_0, hw_okn1_1, hw_R_ne _ _ (show b ≠ a from fun w => d0 w.symm), hG.1.1, hG.2.1, hG.2.2]
  obtain ⟨N, rfl⟩ : ∃ z, N = z + 1 := ⟨N - 1, by omega⟩
  rw [← lX5_takes_14]
  obtain ⟨A', e, q, p⟩ := c_takes_l hr hb ⟨d0, d1, d2, d3, d4⟩ (ix_run iy_P (N + 1) d) hl (N + 1 + 1) 0 (hw_R F a (hw_U (hw_U (hw_U (F a) 3 (nI c.1.length)) 4 c.2.1) 5 c.2.2)) A (Nat.zero_le _) (by omega) (by simp (disch := omega) only [hw_R_same, hw_R_ne, hw_U_same, hw_U_ne]) hG.1.2 (kv_in_nil _ _)
  refine ⟨_, A', e, ((((cQ.refl [3, 4, 5] a ka va F A).fR rfl).fU rfl).fU rfl).trans (q.mono rfl), ⟨by simp (disch := omega) only [hw_R_same, hw_R_ne, hw_U_same, hw_U_ne], p⟩, by simp (disch := omega) only [hw_R_same, hw_R_ne, hw_U_same, hw_U_ne], by simp (disch := omega) only [hw_R_same, hw_R_ne, hw_U_same, hw_U_ne]⟩
theorem c_joins_l {h : ix_H} {a ka va b kb vb : Nat} (hr : cR h a ka va) (hb : cR h b kb vb) (hd : cD a ka va b kb vb) {N : Nat} (hN : 1000 ≤ N) (d : Nat) {l : KV} {hi ri : Int32} (hl : l.length ≤ 43) {c : KV} (hc : c.length ≤ 43) : ∀ z i (q : KV) F A, i ≤ l.length → l.length - i < z → cG F A b kb vb (l, hi, ri) → cL F A a ka va q → kv_so q → kv_join q (l.drop i) = c →
    ∃ F' A', ix_lp (ix_run iy_P N (d + 2)) stX5_joins z 2 [(0, ix_R (some a)), (1, ix_R (some b)), (2, ix_I (nI i))] [] (hw h F A) = some (.inl none, hw h F' A') ∧ cQ [3, 4, 5] a ka va F A F' A' ∧ cG F' A' a ka va (c, hi, ri) := by
  have hd' := hd
  obtain ⟨d0, d1, d2, d3, d4⟩ := hd
  intro z
  induction z with
  | zero => intro i q F A _ h; omega
  | succ z ih =>
    intro i q F A hi' hz hG hL hs hj
    have hq : q.length ≤ 43 := Nat.le_trans (kv_join_ge _ q) (hj ▸ hc)
    rw [lX5_joins_2]
    unfold jX5_joins_2
    rw [cp_is hb, hw_fI, hG.1.1]
    dsimp only
    rcases Nat.lt_or_ge i l.length with h1 | h1
    · obtain ⟨w1, w2⟩ := hG.1.2 i h1
      obtain ⟨F1, A1, e1, q1, l1⟩ := c_sets hr hN d hL hs (l[i]).1 (l[i]).2 hq
      dsimp only at w1 w2
      rw [if_neg (show ¬ nI l.length ≤ nI i by rw [hw_le (by omega) (by omega)]; omega)]
      simp (disch := omega) only [↓cp_is hr, ↓cp_isr hr, ↓cp_rk hr, ↓cp_rv hr, ↓cp_wk hr, ↓cp_wv hr, ↓cp_is hb, ↓cp_isr hb, ↓cp_rk hb, ↓cp_rv hb, ↓cp_wk hb, ↓cp_wv hb, ↓reduceIte, ↓hw_bdF, ↓hw_bdA, ↓hw_cbd, Option.bind_some, hw_bd, cond_true, cond_false, hw_fI, hw_aI, hw_aR, hw_of, hw_hw, hw_sz, hw_wfR, hw_waR, hw_rI, hw_rV, hw_rR, nI_add, hw_in, hw_cl, hw_R_same, hw_R_R, hw_U_same, hw_U_ne, hw_okn1_0, hw_okn1_1, w1, w2, e1]
      have hd2 : kv_join (kv_set (l[i]).1 (l[i]).2 q) (l.drop (i + 1)) = c := by
        rw [← hj, List.drop_eq_getElem_cons h1]
        rfl
      obtain ⟨F2, A2, e2, q2, l2⟩ := ih (i + 1) _ F1 A1 h1 (by omega) ⟨⟨by rw [q1.1 b (fun w => d0 w.symm)]; exact hG.1.1, by rw [q1.2.2 kb d1.symm d3.symm, q1.2.2 vb d2.symm d4.symm]; exact hG.1.2⟩, by rw [q1.1 b (fun w => d0 w.symm)]; exact hG.2.1, by rw [q1.1 b (fun w => d0 w.symm)]; exact hG.2.2⟩ l1 (kv_set_so hs) hd2
      exact ⟨F2, A2, e2, (q1.mono rfl).trans q2, l2⟩
    · rw [if_pos (show nI l.length ≤ nI i by rw [hw_le (by omega) (by omega)]; omega)]
      rw [List.drop_eq_nil_of_le h1] at hj
      simp (disch := omega) only [↓cp_is hr, ↓cp_isr hr, ↓cp_rk hr, ↓cp_rv hr, ↓cp_wk hr, ↓cp_wv hr, ↓cp_is hb, ↓cp_isr hb, ↓cp_rk hb, ↓cp_rv hb, ↓cp_wk hb, ↓cp_wv hb, ↓reduceIte, ↓hw_bdF, ↓hw_bdA, ↓hw_cbd, Option.bind_some, hw_bd, cond_true, cond_false, hw_fI, hw_aI, hw_aR, hw_of, hw_hw, hw_sz, hw_wfR, hw_waR, hw_rI, hw_rV, hw_rR, nI_add, hw_in, hw_cl, hw_R_same, hw_R_R, hw_U_same, hw_U_ne, hw_okn1_0, hw_okn1_1, hw_R_ne _ _ (show b ≠ a from fun w => d0 w.symm), hG.2.1, hG.2.2]
      refine ⟨_, _, rfl, ((cQ.refl [3, 4, 5] a ka va F A).fR rfl).fU rfl, ⟨?_, ?_⟩, by simp (disch := omega) only [hw_R_same, hw_R_ne, hw_U_same, hw_U_ne], by simp (disch := omega) only [hw_R_same, hw_R_ne, hw_U_same, hw_U_ne]⟩
      · simp (disch := omega) only [hw_R_same, hw_R_ne, hw_U_same, hw_U_ne]
        rw [← hj]
        exact hL.1
      · rw [← hj]
        exact hL.2
theorem c_joins {h : ix_H} {a ka va b kb vb : Nat} (hr : cR h a ka va) (hb : cR h b kb vb) (hd : cD a ka va b kb vb) {F A : Nat → Nat → Int32} {N : Nat} (hN : 1000 ≤ N) (d : Nat) {c : zG} {l : KV} (hG : cG F A b kb vb c) (hl : c.1.length ≤ 43) (hL : cL F A a ka va l) (hs : kv_so l) (hc : (kv_join l c.1).length ≤ 43) :
    ∃ F' A', ix_run iy_P N (d + 3) 215 [ix_R (some a), ix_R (some b)] (hw h F A) = some (.inl none, hw h F' A') ∧ cQ [3, 4, 5] a ka va F A F' A' ∧ cG F' A' a ka va (kv_join l c.1, c.2) := by
  rw [rX5_joins N (d + 2)]
  unfold bX5_joins
  obtain ⟨N, rfl⟩ : ∃ z, N = z + 1 := ⟨N - 1, by omega⟩
  rw [← lX5_joins_2]
  exact c_joins_l hr hb hd hN d hl hc (N + 1 + 1) 0 l F A (Nat.zero_le _) (by omega) hG hL hs rfl
theorem c_begins {h : ix_H} {a ka va : Nat} (hr : cR h a ka va) (F A : Nat → Nat → Int32) (N d : Nat) (s k p n : Int32) :
    ix_run iy_P N (d + 1) 208 [ix_R (some a), ix_I s, ix_I k, ix_I p, ix_I n] (hw h F A) = some (.inl none, hw h (hw_R F a (hw_U (hw_U (hw_U (hw_U (hw_U (hw_U (hw_U (hw_U (hw_U (hw_U (F a) 2 s) 3 (nI 0)) 4 (nI 0)) 5 (-2)) 6 k) 7 p) 8 n) 9 (-1)) 10 (-2)) 11 (nI 0))) A) := by
  rw [rX5_begins N d]
  unfold bX5_begins
  simp (disch := omega) only [↓cp_is hr, ↓cp_isr hr, ↓cp_rk hr, ↓cp_rv hr, ↓cp_wk hr, ↓cp_wv hr, ↓reduceIte, ↓hw_bdF, ↓hw_bdA, ↓hw_cbd, Option.bind_some, hw_bd, cond_true, cond_false, hw_fI, hw_aI, hw_aR, hw_of, hw_hw, hw_sz, hw_wfR, hw_waR, hw_rI, hw_rV, hw_rR, nI_add, hw_in, hw_cl, hw_R_same, hw_R_R, hw_U_same, hw_U_ne, hw_okn1_0, hw_okn1_1]
