/-! K2: the component: words -/
set_option maxRecDepth 100000
theorem tk_ki_at {w : List Int32} : ∀ (l : List (List Int32)) i j, tk_ki w l i = some j → i ≤ j ∧ ∃ h : j - i < l.length, l[j - i] = w
  | [], _, _, h => by cases h
  | x :: r, i, j, h => by
    unfold tk_ki at h
    split at h
    · next e =>
      cases h
      refine ⟨Nat.le_refl _, ?_⟩
      simp only [Nat.sub_self]
      exact ⟨Nat.succ_pos _, e⟩
    · obtain ⟨a, b, c⟩ := tk_ki_at r (i + 1) j h
      refine ⟨by omega, ?_⟩
      have e : j - i = (j - (i + 1)) + 1 := by omega
      simp only [e]
      exact ⟨by simp only [List.length_cons]; omega, c⟩
theorem tk_ki_no {w : List Int32} : ∀ (l : List (List Int32)) i, tk_ki w l i = none → w ∉ l
  | [], _, _ => List.not_mem_nil
  | x :: r, i, h => by
    unfold tk_ki at h
    split at h
    · cases h
    · next e =>
      intro hm
      rcases List.mem_cons.mp hm with q | q
      · exact e q.symm
      · exact tk_ki_no r (i + 1) h q
theorem tk_ki_of {w : List Int32} : ∀ (l : List (List Int32)) i j (h : j < l.length), l.Pairwise (fun a b => a ≠ b) → l[j] = w → tk_ki w l i = some (i + j)
  | x :: r, i, 0, h, hp, e => by
    unfold tk_ki
    have e : x = w := e
    rw [if_pos e]
    rfl
  | x :: r, i, j + 1, h, hp, e => by
    have e : r[j]'(by simp only [List.length_cons] at h; omega) = w := e
    obtain ⟨p1, p2⟩ := List.pairwise_cons.mp hp
    unfold tk_ki
    rw [if_neg (fun q => p1 w (by rw [← e]; exact List.getElem_mem _) q), tk_ki_of r (i + 1) j (by simp only [List.length_cons] at h; omega) p2 e]
    congr 1
    omega
theorem k_wds_len : k_wds.length = 18 := rfl
theorem k_wds_pw : k_wds.Pairwise (fun a b => a ≠ b) := by decide
theorem k_wds_pm : ∀ i (h : i < 18), k_pm i < 18 ∧ k_wds[k_pm i]? = tk_kwd[i]? := by decide
theorem k_wds_kwd : ∀ w ∈ k_wds, w ∈ tk_kwd := by decide
def k_wi (w : List Int32) : Int32 := match tk_ki w k_wds 0 with
  | some j => nI j
  | none => -1
/-- a word's number, by its kind -/
theorem k_wi_kn (w : List Int32) : (tk_kn w = 1 ∧ k_wi w = -1) ∨ ∃ i, i < 18 ∧ tk_kn w = 20 + i ∧ k_wi w = nI (k_pm i) := by
  unfold tk_kn k_wi
  cases e : tk_ki w tk_kwd 0 with
  | none =>
    refine .inl ⟨rfl, ?_⟩
    cases e2 : tk_ki w k_wds 0 with
    | none => rfl
    | some j =>
      obtain ⟨-, h, a⟩ := tk_ki_at _ _ _ e2
      exact absurd (k_wds_kwd w (by rw [← a]; exact List.getElem_mem _)) (tk_ki_no _ _ e)
  | some i =>
    obtain ⟨-, h, a⟩ := tk_ki_at _ _ _ e
    simp only [Nat.sub_zero] at h a
    rw [tk_kwd_len] at h
    obtain ⟨p1, p2⟩ := k_wds_pm i h
    refine .inr ⟨i, h, rfl, ?_⟩
    have e3 : k_wds[k_pm i]'p1 = w := by
      have : k_wds[k_pm i]? = some w := by rw [p2, List.getElem?_eq_getElem (by rw [tk_kwd_len]; exact h), a]
      rw [List.getElem?_eq_getElem p1] at this
      exact Option.some.inj this
    rw [tk_ki_of k_wds 0 (k_pm i) p1 k_wds_pw e3, Nat.zero_add]
theorem k_wi_long {w : List Int32} (h : 8 < w.length) : k_wi w = -1 := by
  unfold k_wi
  cases e2 : tk_ki w k_wds 0 with
  | none => rfl
  | some j =>
    obtain ⟨-, h2, a⟩ := tk_ki_at _ _ _ e2
    have := (tk_kwd_ok w (k_wds_kwd w (by rw [← a]; exact List.getElem_mem _))).1
    omega
theorem tk_ws_at {f : Nat → Int32} {k c i : Nat} (h : i < (tk_ws f k c).length) : (tk_ws f k c)[i] = f (k + i) := by
  simp [tk_ws]
theorem k_cm1 : Int32.ofNat 18 = nI 18 := rfl
theorem kC.of {h : ix_H} {F A F' A' : Nat → Nat → Int32} {D cv : Nat → Nat} (hc : kC h F A D cv) (e : ∀ b, (∀ j, j < 19 → b ≠ D j) → F' b = F b ∧ A' b = A b) : kC h F' A' D cv := by
  obtain ⟨c1, c2, c3⟩ := hc
  refine ⟨c1, fun w hw => ?_, c3⟩
  obtain ⟨⟨t1, t2, t3, t4, t5, t6, t7, t8⟩, s1, s2, s3, s4, s5⟩ := c2 w hw
  exact ⟨⟨t1, t2, t3, by rw [(e _ (fun j hj x => s3 j hj x.symm)).1]; exact t4, t5, t6, t7, fun i hi => by rw [(e _ (fun j hj x => s4 j hj x.symm)).2]; exact t8 i hi⟩, s1, s2, s3, s4, s5⟩
section
variable {h : ix_H} {F A : Nat → Nat → Int32} {D cv : Nat → Nat} {b : Nat → Int32} {n N : Nat}
/-- a word's letters are compared -/
theorem k_word_24 (hs : kS h D) (hc : kC h F A D cv) (ht : kTx F A D b n) (N d : Nat) {w : Nat} (hw' : w < 18) {a e : Nat} (hae : a < e) (hen : e ≤ n) (hlen : (k_wds[w]'hw').length = e - a) : ∀ j z i, i + j = e - a → j < z → (∀ y (h1 : y < (k_wds[w]'hw').length), y < i → (k_wds[w]'hw')[y] = tk_f b n (a + y)) → ∃ z', ix_lp (ix_run iy_P N (d + 4)) stX2_word z 24 [(0, ix_R (some (D 2))), (1, ix_I (nI a)), (2, ix_I (nI e)), (3, ix_I (nI w)), (4, ix_I (nI 1)), (5, ix_I (nI (a + i)))] [] (hw h F A) = jX2_word_50 (ix_run iy_P N (d + 4)) (ix_lp (ix_run iy_P N (d + 4)) stX2_word z') (D 2) (nI a) (nI e) (nI w) (if (k_wds[w]'hw') = tk_ws (tk_f b n) a (e - a) then nI 1 else nI 0) (hw h F A) ∧ z ≤ z' + j + 1
  | 0, z, i, hij, hz, hm => by
    obtain ⟨z, rfl⟩ : ∃ y, z = y + 1 := ⟨z - 1, by omega⟩
    have hn := ht.1
    have e1 : (k_wds[w]'hw') = tk_ws (tk_f b n) a (e - a) := by
      apply List.ext_getElem
      · rw [hlen, tk_ws_len]
      · intro y h1 h2
        rw [hm y h1 (by omega), tk_ws_at]
    refine ⟨z, ?_, by omega⟩
    rw [lX2_word_24, if_pos e1]
    unfold jX2_word_24
    rw [if_pos (by rw [hw_le (by omega) (by omega)]; omega)]
  | j + 1, z, i, hij, hz, hm => by
    obtain ⟨z, rfl⟩ : ∃ y, z = y + 2 := ⟨z - 2, by omega⟩
    have hn := ht.1
    have t := hc.at hw'
    have hi : i < (k_wds[w]'hw').length := by omega
    have ei : nI (a + i) - nI a = nI i := by rw [hw_sub (by omega), Nat.add_sub_cancel_left]
    rw [lX2_word_24]
    unfold jX2_word_24 jX2_word_46
    rw [if_neg (by rw [hw_le (by omega) (by omega)]; omega), if_neg (by decide), k_is2 hs, k_wr hs, hw_in (by omega) (by omega), cond_true, hw_aR, hw_cl (by omega), hc.1 w hw', t_isr t, ei, hw_cI (t_charAt t N d hi)]
    dsimp only
    rw [k_is2 hs, k_tr hs, hw_in (by omega) (by omega), cond_true, hw_aI, hw_cl (by omega), ht.2.2.1 (a + i) (by omega)]
    have ef : tk_f b n (a + i) = b (a + i) := by unfold tk_f; rw [if_pos (by omega)]
    by_cases q : (k_wds[w]'hw')[i] = b (a + i)
    · rw [if_pos q, nI_add]
      obtain ⟨z', e1, hz'⟩ := k_word_24 hs hc ht N d hw' hae hen hlen j (z + 1) (i + 1) (by omega) (by omega) (fun y h1 hy => by
        by_cases g : y < i
        · exact hm y h1 g
        · have : y = i := by omega
          subst this
          rw [ef]
          exact q)
      exact ⟨z', e1, by omega⟩
    · rw [if_neg q, nI_add, lX2_word_24]
      have ne : (k_wds[w]'hw') ≠ tk_ws (tk_f b n) a (e - a) := fun x => by
        apply q
        have : (k_wds[w]'hw')[i] = (tk_ws (tk_f b n) a (e - a))[i]'(by rw [tk_ws_len]; omega) := by simp only [x]
        rw [this, tk_ws_at]
        exact ef
      rw [if_neg ne]
      unfold jX2_word_24
      refine ⟨z, ?_, by omega⟩
      by_cases g : nI e ≤ nI (a + (i + 1))
      · rw [show nI (a + i + 1) = nI (a + (i + 1)) from rfl, if_pos g]
      · rw [show nI (a + i + 1) = nI (a + (i + 1)) from rfl, if_neg g, if_pos rfl]
theorem k_word_2 (hs : kS h D) (hc : kC h F A D cv) (ht : kTx F A D b n) (N d : Nat) {a e : Nat} (hae : a < e) (hen : e ≤ n) : ∀ j z w, w + j = 18 → 20 * j + 1 < z → ix_lp (ix_run iy_P N (d + 4)) stX2_word z 2 [(0, ix_R (some (D 2))), (1, ix_I (nI a)), (2, ix_I (nI e)), (3, ix_I (nI w))] [] (hw h F A) = some (.inl (some (ix_I (match tk_ki (tk_ws (tk_f b n) a (e - a)) (k_wds.drop w) w with | some j => nI j | none => -1))), hw h F A)
  | 0, z, w, hw', hz => by
    obtain ⟨z, rfl⟩ : ∃ y, z = y + 1 := ⟨z - 1, by omega⟩
    obtain rfl : w = 18 := by omega
    rw [lX2_word_2]
    unfold jX2_word_2
    rw [k_is2 hs, k_wl hs, hw_ln, hs.1.2.2.2.1.2, if_pos (by decide)]
    rfl
  | j + 1, z, w, hw', hz => by
    obtain ⟨z, rfl⟩ : ∃ y, z = y + 1 := ⟨z - 1, by omega⟩
    have hn := ht.1
    have h18 : w < 18 := by omega
    have t := hc.at h18
    have ed : k_wds.drop w = (k_wds[w]'h18) :: k_wds.drop (w + 1) := List.drop_eq_getElem_cons h18
    have ei : nI e - nI a = nI (e - a) := hw_sub (by omega)
    have h16 := t.2.2.2.2.2.1
    rw [lX2_word_2]
    unfold jX2_word_2 jX2_word_20
    rw [k_is2 hs, k_wl hs, hw_ln, hs.1.2.2.2.1.2, if_neg (by
      rw [k_cm1, hw_le (by omega) (by omega)]
      omega), k_is2 hs, k_wr hs, hw_in (by omega) (by omega), cond_true, hw_aR, hw_cl (by omega), hc.1 w h18, t_isr t, hw_cI (t_length t N (d + 2))]
    dsimp only
    rw [ei, ed]
    have key : ∃ z' , (if nI (k_wds[w]'h18).length = nI (e - a) then
          jX2_word_24 (ix_run iy_P N (d + 4)) (ix_lp (ix_run iy_P N (d + 4)) stX2_word z) (D 2) (nI a) (nI e) (nI w) (nI 1) (nI a) (hw h F A)
        else
          jX2_word_24 (ix_run iy_P N (d + 4)) (ix_lp (ix_run iy_P N (d + 4)) stX2_word z) (D 2) (nI a) (nI e) (nI w) (nI 0) (nI a) (hw h F A)) = jX2_word_50 (ix_run iy_P N (d + 4)) (ix_lp (ix_run iy_P N (d + 4)) stX2_word z') (D 2) (nI a) (nI e) (nI w) (if (k_wds[w]'h18) = tk_ws (tk_f b n) a (e - a) then nI 1 else nI 0) (hw h F A) ∧ z ≤ z' + 18 := by
      by_cases g : (k_wds[w]'h18).length = e - a
      · rw [if_pos (by rw [g])]
        obtain ⟨z', e1, hz'⟩ := k_word_24 hs hc ht N d h18 hae hen g (e - a) (z + 1) 0 (by omega) (by omega) (fun y _ hy => absurd hy (Nat.not_lt_zero y))
        rw [lX2_word_24] at e1
        exact ⟨z', e1, by omega⟩
      · rw [if_neg (by
          rw [hw_eq (by omega) (by omega)]
          exact g), if_neg (fun x => g (by rw [x, tk_ws_len]))]
        refine ⟨z, ?_, by omega⟩
        unfold jX2_word_24
        rw [if_neg (by rw [hw_le (by omega) (by omega)]; omega), if_pos rfl]
    obtain ⟨z', e1, hz'⟩ := key
    rw [e1]
    unfold jX2_word_50 tk_ki
    by_cases g : (k_wds[w]'h18) = tk_ws (tk_f b n) a (e - a)
    · rw [if_pos g, if_neg (by decide), if_pos g]
    · rw [if_neg g, if_pos rfl, if_neg g, nI_add]
      exact k_word_2 hs hc ht N d hae hen j z' (w + 1) (by omega) (by omega)
theorem k_word (hs : kS h D) (hc : kC h F A D cv) (ht : kTx F A D b n) (hN : 1000 ≤ N) (d : Nat) {a e : Nat} (hae : a < e) (hen : e ≤ n) : ix_run iy_P N (d + 5) 142 [ix_R (some (D 2)), ix_I (nI a), ix_I (nI e)] (hw h F A) = some (.inl (some (ix_I (k_wi (tk_ws (tk_f b n) a (e - a))))), hw h F A) := by
  rw [rX2_word N (d + 4)]
  have := k_word_2 hs hc ht N d hae hen 18 (N + 1) 0 rfl (by omega)
  rw [lX2_word_2] at this
  exact this
end
