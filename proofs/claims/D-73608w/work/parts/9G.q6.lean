/-! Q6: the reference: counts -/
set_option maxRecDepth 100000
section
variable {h : ix_H} {m : Nat} {X : xS} {S : zS} {F A : Nat → Nat → Int32} {N : Nat}
theorem a_flt_le (p : Nat → Bool) (n : Nat) : ((List.range n).filter p).length ≤ n := by
  have := List.length_filter_le p (List.range n)
  rw [List.length_range] at this
  exact this
theorem a_flt_succ (p : Nat → Bool) (n : Nat) : ((List.range (n + 1)).filter p).length = ((List.range n).filter p).length + (if p n = true then 1 else 0) := by
  rw [List.range_succ, List.filter_append, List.length_append]
  congr 1
  by_cases w : p n = true
  · rw [if_pos w, List.filter_cons_of_pos w]
    rfl
  · rw [if_neg w, List.filter_cons_of_neg w]
    rfl
theorem m_sumOf_4 (hS : mSh h m) (hn : zn S ≤ 1399) (hR : mR (A (m + 21)) S) (N d : Nat) : ∀ z i, i ≤ zn S → zn S - i < z →
    ix_lp (ix_run iy_P N (d + 1)) stX9_sumOf z 4 [(0, ix_R (some m)), (1, ix_I (nI 4)), (2, ix_I (nI (((List.range i).filter fun r => decide (nI 0 ≤ zr S r 4)).length))), (3, ix_I (nI i))] [] (hw h F A) = some (.inl (some (ix_I (nI (a_ret S)))), hw h F A) := by
  intro z
  induction z with
  | zero => intro i _ h; omega
  | succ z ih =>
    intro i hi hz
    rw [lX9_sumOf_4]
    unfold jX9_sumOf_4 jX9_sumOf_26 jX9_sumOf_28
    rw [mp_is hS, mp_rd35 hS, hw_in (by omega) (by omega), cond_true, hw_aI, hw_cl (by omega), hR.1.1]
    rcases Nat.lt_or_ge i (zn S) with w | w
    · rw [if_neg (by rw [hw_le (by omega) (by omega)]; omega), if_pos rfl, mp_isr hS, hw_cI (m_ofRecord hS F A N d (by omega) (by omega))]
      dsimp only
      rw [hR.2.2.2.1 i 4 w (by omega)]
      have hs := a_flt_succ (fun r => decide (nI 0 ≤ zr S r 4)) i
      by_cases c : zr S i 4 < nI 0
      · rw [if_neg (by rw [decide_eq_true_iff]; exact fun x => by rw [Int32.le_iff_toInt_le] at x; rw [Int32.lt_iff_toInt_lt] at c; omega)] at hs
        have hs' : ((List.range (i + 1)).filter fun r => decide (nI 0 ≤ zr S r 4)).length = ((List.range i).filter fun r => decide (nI 0 ≤ zr S r 4)).length := hs
        rw [if_pos c, nI_add, ← hs']
        exact ih (i + 1) w (by omega)
      · rw [if_pos (by rw [decide_eq_true_iff]; exact kv_nlt_le.mp c)] at hs
        rw [if_neg c, nI_add, nI_add, ← hs]
        exact ih (i + 1) w (by omega)
    · obtain rfl : i = zn S := by omega
      rw [if_pos (show nI (zn S) ≤ nI (zn S) by rw [hw_le (by omega) (by omega)]; omega)]
      rfl
theorem m_sumOf_5 (hS : mSh h m) (hn : zn S ≤ 1399) (hR : mR (A (m + 21)) S) (N d : Nat) : ∀ z i, i ≤ zn S → zn S - i < z →
    ix_lp (ix_run iy_P N (d + 1)) stX9_sumOf z 4 [(0, ix_R (some m)), (1, ix_I (nI 5)), (2, ix_I (nI (((List.range i).filter fun r => decide (zr S r 5 = nI 1)).length))), (3, ix_I (nI i))] [] (hw h F A) = some (.inl (some (ix_I (nI (a_fre S)))), hw h F A) := by
  intro z
  induction z with
  | zero => intro i _ h; omega
  | succ z ih =>
    intro i hi hz
    rw [lX9_sumOf_4]
    unfold jX9_sumOf_4 jX9_sumOf_26 jX9_sumOf_28
    rw [mp_is hS, mp_rd35 hS, hw_in (by omega) (by omega), cond_true, hw_aI, hw_cl (by omega), hR.1.1]
    rcases Nat.lt_or_ge i (zn S) with w | w
    · rw [if_neg (by rw [hw_le (by omega) (by omega)]; omega), if_neg (by decide), mp_isr hS, hw_cI (m_ofRecord hS F A N d (by omega) (by omega))]
      dsimp only
      rw [hR.2.2.2.1 i 5 w (by omega)]
      have hs := a_flt_succ (fun r => decide (zr S r 5 = nI 1)) i
      by_cases c : zr S i 5 = nI 1
      · rw [if_pos (by rw [decide_eq_true_iff]; exact c)] at hs
        rw [if_pos c, nI_add, nI_add, ← hs]
        exact ih (i + 1) w (by omega)
      · rw [if_neg (by rw [decide_eq_true_iff]; exact c)] at hs
        have hs' : ((List.range (i + 1)).filter fun r => decide (zr S r 5 = nI 1)).length = ((List.range i).filter fun r => decide (zr S r 5 = nI 1)).length := hs
        rw [if_neg c, nI_add, ← hs']
        exact ih (i + 1) w (by omega)
    · obtain rfl : i = zn S := by omega
      rw [if_pos (show nI (zn S) ≤ nI (zn S) by rw [hw_le (by omega) (by omega)]; omega)]
      rfl
theorem m_busy_l (hS : mSh h m) (hI : i_I S) (hR : mR (A (m + 21)) S) (N d : Nat) : ∀ j z a, j ≤ 4 → j < z →
    ix_lp (ix_run iy_P N (d + 1)) stX9_count z 34 [(0, ix_R (some m)), (2, ix_I a), (3, ix_I (nI (4 - j)))] [] (hw h F A) = some (.inl (some (ix_I (a_busy S j a))), hw h F A) := by
  intro j
  induction j with
  | zero =>
    intro z a _ hz
    obtain ⟨z, rfl⟩ : ∃ q, z = q + 1 := ⟨z - 1, by omega⟩
    rw [lX9_count_34]
    unfold jX9_count_34
    rw [if_pos (by decide)]
    rfl
  | succ j ih =>
    intro z a hj hz
    obtain ⟨z, rfl⟩ : ∃ q, z = q + 1 := ⟨z - 1, by omega⟩
    rw [lX9_count_34]
    unfold jX9_count_34 jX9_count_52
    have hk : 4 - (j + 1) < 4 := by omega
    obtain ⟨s, s1, s2⟩ := hI.stage hk
    rw [if_neg (by rw [hw_le (by omega) (by omega)]; omega), mp_is hS, hw_cI (m_hand0 _ N d _)]
    dsimp only
    rw [nI_add, mp_rd35 hS, hw_in (by omega) (by omega), cond_true, hw_aI, hw_cl (by omega), hR.2.2.1 _ 1 hk (by omega), nI_add, show 4 - (j + 1) + 1 = 4 - j by omega]
    unfold a_busy
    by_cases c : zh S (4 - (j + 1)) 1 = nI 0
    · rw [if_pos (by rw [c]; decide), if_pos c]
      exact ih z a (by omega) (by omega)
    · rw [if_neg (fun x => c (by
        rw [s2] at x ⊢
        rw [hw_le (by omega) (by omega)] at x
        rw [show s = 0 by omega])), if_neg c]
      exact ih z _ (by omega) (by omega)
theorem m_count (hS : mSh h m) (hP : mSp h m) (hN : 20000 ≤ N) (d : Nat) (hI : x_I X) (hX : mX' F A m X) (w : Int32) : mDoX h m F A (a_count X w, X) (ix_run iy_P N (d + 9) 347 [ix_R (some m), ix_I w] (hw h F A)) := by
  obtain ⟨N, rfl⟩ : ∃ z, N = z + 1 := ⟨N - 1, by omega⟩
  rw [rX9_count (N + 1) (d + 8)]
  unfold bX9_count a_count
  have same : ∀ v, mDoX h m F A (v, X) (some (.inl (some (ix_I v)), hw h F A)) := fun v => ⟨F, A, rfl, mQ.refl _ _ _ _ _, hX⟩
  have hsz := hI.1.sz
  have hR := hX.1
  by_cases w0 : w = nI 0
  · rw [if_pos w0, if_pos w0, mp_isr hS]
    obtain ⟨rc, hrc⟩ := hI.1.R
    obtain ⟨F1, A1, e1, q1, a1, l1⟩ := m_all hS hI.1.W hrc (N := N + 1) (by omega) d (F := F) hR
    rw [hw_cV e1, mp_is hS, hw_fI, a1.1]
    exact ⟨F1, A1, rfl, q1.mono rfl rfl, hX.ans q1⟩
  rw [if_neg w0, if_neg w0]
  by_cases w1 : w = nI 1
  · rw [if_pos w1, if_pos w1, mp_is hS, mp_rd35 hS, hw_in (by omega) (by omega), cond_true, hw_aI, hw_cl (by omega), hR.1.1]
    exact same _
  rw [if_neg w1, if_neg w1]
  by_cases w2 : w = nI 2
  · rw [if_pos w2, if_pos w2, mp_is hS, mp_rd35 hS, hw_in (by omega) (by omega), cond_true, hw_aI, hw_cl (by omega), hR.1.2.1]
    exact same _
  rw [if_neg w2, if_neg w2]
  by_cases w3 : w = nI 3
  · rw [if_pos w3, if_pos w3, mp_is hS, mp_rd35 hS, hw_in (by omega) (by omega), cond_true, hw_aI, hw_cl (by omega), hR.1.2.2.1]
    exact same _
  rw [if_neg w3, if_neg w3]
  by_cases w4 : w = nI 4
  · rw [if_pos w4, if_pos w4, mp_isr hS]
    have e : ix_run iy_P (N + 1) (d + 8) 348 [ix_R (some m), ix_I (nI 4)] (hw h F A) = some (.inl (some (ix_I (nI (a_ret X.1)))), hw h F A) := by
      rw [rX9_sumOf (N + 1) (d + 7)]
      unfold bX9_sumOf
      rw [← lX9_sumOf_4]
      exact m_sumOf_4 hS (by omega) hR (N + 1) (d + 6) (N + 1 + 1) 0 (Nat.zero_le _) (by omega)
    rw [hw_cI e]
    exact same _
  rw [if_neg w4, if_neg w4]
  by_cases w5 : w = nI 5
  · rw [if_pos w5, if_pos w5, mp_isr hS]
    have e : ix_run iy_P (N + 1) (d + 8) 348 [ix_R (some m), ix_I (nI 5)] (hw h F A) = some (.inl (some (ix_I (nI (a_fre X.1)))), hw h F A) := by
      rw [rX9_sumOf (N + 1) (d + 7)]
      unfold bX9_sumOf
      rw [← lX9_sumOf_4]
      exact m_sumOf_5 hS (by omega) hR (N + 1) (d + 6) (N + 1 + 1) 0 (Nat.zero_le _) (by omega)
    rw [hw_cI e]
    exact same _
  rw [if_neg w5, if_neg w5]
  by_cases w6 : w = nI 6
  · rw [if_pos w6, if_pos w6, ← lX9_count_34]
    rw [m_busy_l hS hI.1 hR (N + 1) (d + 7) 4 (N + 1 + 1) (nI 0) (by omega) (by omega)]
    exact same _
  rw [if_neg w6, if_neg w6]
  by_cases w7 : w = nI 7
  · rw [if_pos w7, if_pos w7, mp_is hS, mp_rd35 hS, hw_in (by omega) (by omega), cond_true, hw_aI, hw_cl (by omega), hR.1.2.2.2.1, ← z_lost_eq]
    exact same _
  rw [if_neg w7, if_neg w7]
  by_cases w8 : w = nI 8
  · rw [if_pos w8, if_pos w8, mp_is hS, hw_fI, hX.2.2.2.1]
    exact same _
  rw [if_neg w8, if_neg w8]
  by_cases w9 : w = nI 9
  · rw [if_pos w9, if_pos w9]
    unfold jX9_count_73 jX9_count_82 jX9_count_92
    simp only [mp_is hS, mp_rd53 hS, hw_in (show 0 < 3 by omega) (by omega), hw_in (show 1 < 3 by omega) (by omega), hw_in (show 2 < 3 by omega) (by omega), cond_true, hw_aI, hw_cl (show 0 < 2147483648 by omega), hw_cl (show 1 < 2147483648 by omega), hw_cl (show 2 < 2147483648 by omega), hX.2.1 0 (by omega), hX.2.1 1 (by omega), hX.2.1 2 (by omega)]
    unfold a_hl
    cases (xq X 0).isSome <;> cases (xq X 1).isSome <;> cases (xq X 2).isSome <;> exact same _
  rw [if_neg w9, if_neg w9]
  by_cases w10 : w = nI 10
  · rw [if_pos w10, if_pos w10, mp_is hS, mp_rd35 hS, hw_in (by omega) (by omega), cond_true, hw_aI, hw_cl (by omega), hR.1.2.2.2.2.1]
    exact same _
  rw [if_neg w10, if_neg w10]
  by_cases w11 : w = nI 11
  · rw [if_pos w11, if_pos w11, mp_is hS, mp_rd35 hS, hw_in (by omega) (by omega), cond_true, hw_aI, hw_cl (by omega), hR.1.2.2.2.2.2.1]
    exact same _
  rw [if_neg w11, if_neg w11]
  by_cases w12 : w = nI 12
  · rw [if_pos w12, if_pos w12, mp_is hS, mp_rd35 hS, hw_in (by omega) (by omega), cond_true, hw_aI, hw_cl (by omega), hR.1.2.2.2.2.2.2.1]
    exact same _
  rw [if_neg w12, if_neg w12]
  by_cases w13 : w = nI 13
  · rw [if_pos w13, if_pos w13, mp_is hS, mp_rd35 hS, hw_in (by omega) (by omega), cond_true, hw_aI, hw_cl (by omega), hR.1.2.2.2.2.2.2.2]
    exact same _
  rw [if_neg w13, if_neg w13]
  exact same _
end
