/-! K1: the component: tokens: the small methods -/
set_option maxRecDepth 100000
/-- a sign that is told, else nought -/
def k_sg (c : Int32) : Int32 := if c = nI 37 ∨ c = nI 40 ∨ c = nI 41 ∨ c = nI 42 ∨ c = nI 43 ∨ c = nI 45 ∨ c = nI 47 ∨ c = nI 59 then c else nI 0
/-- of a kind the sort, the word or the sign -/
def k_so (k : Nat) : Int32 := if k = 0 then nI 4 else if k = 1 then nI 0 else if k = 2 then nI 1 else if k = 3 then nI 5 else if k < 20 then nI 2 else nI 3
def k_pm (i : Nat) : Nat := if i < 3 then i else if i = 3 then 6 else if i = 4 then 5 else if i < 10 then i + 2 else if i < 12 then i - 7 else i
def k_wh (k : Nat) : Int32 := if k = 1 then -1 else if k = 4 then nI 59 else if k = 6 then nI 40 else if k = 7 then nI 41 else if k = 8 then nI 43 else if k = 9 then nI 45 else if k = 10 then nI 42 else if k = 15 then nI 47 else if k = 16 then nI 37 else if k < 20 then nI 0 else nI (k_pm (k - 20))
theorem k_sg_kd (c : Int32) : (k_sg c = nI 0 ↔ tk_sg c = 3) ∧ (tk_sg c ≠ 3 → k_wh (tk_sg c) = k_sg c ∧ k_so (tk_sg c) = nI 2) := by
  unfold k_sg tk_sg
  by_cases e59 : c = nI 59
  · subst e59
    decide
  by_cases e40 : c = nI 40
  · subst e40
    decide
  by_cases e41 : c = nI 41
  · subst e41
    decide
  by_cases e43 : c = nI 43
  · subst e43
    decide
  by_cases e45 : c = nI 45
  · subst e45
    decide
  by_cases e42 : c = nI 42
  · subst e42
    decide
  by_cases e47 : c = nI 47
  · subst e47
    decide
  by_cases e37 : c = nI 37
  · subst e37
    decide
  rw [if_neg e59, if_neg e40, if_neg e41, if_neg e43, if_neg e45, if_neg e42, if_neg e47, if_neg e37, if_neg (by
    rintro (x | x | x | x | x | x | x | x)
    · exact e37 x
    · exact e40 x
    · exact e41 x
    · exact e42 x
    · exact e43 x
    · exact e45 x
    · exact e47 x
    · exact e59 x)]
  exact ⟨⟨fun _ => rfl, fun _ => rfl⟩, fun x => absurd rfl x⟩
/-- the tape -/
def kTx (F A : Nat → Nat → Int32) (D : Nat → Nat) (b : Nat → Int32) (n : Nat) : Prop := n ≤ 2000 ∧ F (D 2) 2 = nI n ∧ (∀ k, k < n → A (D 14) k = b k) ∧ ∀ k, -128 ≤ (b k).toInt ∧ (b k).toInt ≤ 127
section
variable {h : ix_H} {F A : Nat → Nat → Int32} {D cv : Nat → Nat} {b : Nat → Int32} {n N : Nat}
theorem k_at (hs : kS h D) (ht : kTx F A D b n) (N d : Nat) {i : Nat} (hi : i < 100000) : ix_run iy_P N (d + 1) 141 [ix_R (some (D 2)), ix_I (nI i)] (hw h F A) = some (.inl (some (ix_I (tk_f b n i))), hw h F A) := by
  obtain ⟨t1, t2, t3, t4⟩ := ht
  rw [rX2_at N d]
  unfold bX2_at jX2_at_10
  rw [k_is2 hs, hw_fI, t2]
  unfold tk_f
  by_cases w : i < n
  · rw [if_neg (by rw [hw_le (by omega) (by omega)]; omega), if_pos w, k_is2 hs, k_tr hs, hw_in (by omega) (by omega), cond_true, hw_aI, hw_cl (by omega), t3 i w]
  · rw [if_pos (by rw [hw_le (by omega) (by omega)]; omega), if_neg w]
theorem k_isLetter (hs : kS h D) (ht : kTx F A D b n) (N d : Nat) {i : Nat} (hi : i < 100000) : ix_run iy_P N (d + 2) 140 [ix_R (some (D 2)), ix_I (nI i)] (hw h F A) = some (.inl (some (ix_I (if tk_isL (tk_f b n i) = true then nI 1 else nI 0))), hw h F A) := by
  rw [rX2_isLetter N (d + 1)]
  unfold bX2_isLetter jX2_isLetter_12 jX2_isLetter_14
  rw [k_isr2 hs, hw_cI (k_at hs ht N d hi)]
  dsimp only
  unfold tk_isL
  by_cases w1 : tk_f b n i < nI 97
  · rw [if_pos w1, if_neg (by
      intro x
      have := (of_decide_eq_true x).1
      exact absurd w1 (Int32.not_lt.mpr this)), hw_okn1_0, cond_true]
  · rw [if_neg w1, k_isr2 hs, hw_cI (k_at hs ht N d hi)]
    dsimp only
    by_cases w2 : nI 122 < tk_f b n i
    · rw [if_pos w2, if_neg (by
        intro x
        have := (of_decide_eq_true x).2
        exact absurd w2 (Int32.not_lt.mpr this)), hw_okn1_0, cond_true]
    · rw [if_neg w2, if_pos (decide_eq_true ⟨Int32.not_lt.mp w1, Int32.not_lt.mp w2⟩), hw_okn1_1, cond_true]
theorem k_isDigit (hs : kS h D) (ht : kTx F A D b n) (N d : Nat) {i : Nat} (hi : i < 100000) : ix_run iy_P N (d + 2) 143 [ix_R (some (D 2)), ix_I (nI i)] (hw h F A) = some (.inl (some (ix_I (if tk_isD (tk_f b n i) = true then nI 1 else nI 0))), hw h F A) := by
  rw [rX2_isDigit N (d + 1)]
  unfold bX2_isDigit jX2_isDigit_12 jX2_isDigit_14
  rw [k_isr2 hs, hw_cI (k_at hs ht N d hi)]
  dsimp only
  unfold tk_isD
  by_cases w1 : tk_f b n i < nI 48
  · rw [if_pos w1, if_neg (by
      intro x
      have := (of_decide_eq_true x).1
      exact absurd w1 (Int32.not_lt.mpr this)), hw_okn1_0, cond_true]
  · rw [if_neg w1, k_isr2 hs, hw_cI (k_at hs ht N d hi)]
    dsimp only
    by_cases w2 : nI 57 < tk_f b n i
    · rw [if_pos w2, if_neg (by
        intro x
        have := (of_decide_eq_true x).2
        exact absurd w2 (Int32.not_lt.mpr this)), hw_okn1_0, cond_true]
    · rw [if_neg w2, if_pos (decide_eq_true ⟨Int32.not_lt.mp w1, Int32.not_lt.mp w2⟩), hw_okn1_1, cond_true]
theorem k_sign_c (cal : ix_C) (K : ix_K) (c : Int32) (H : ix_H) (P : ix_O → Prop) (h1 : P (jX2_sign_6 cal K (k_sg c) H)) (h0 : k_sg c = nI 0 → P (jX2_sign_9 cal K H)) : P (if c = nI 37 then
    jX2_sign_6 cal K c H
  else
  if c = nI 38 then
    jX2_sign_9 cal K H
  else
  if c = nI 39 then
    jX2_sign_9 cal K H
  else
  if c = nI 40 then
    jX2_sign_6 cal K c H
  else
  if c = nI 41 then
    jX2_sign_6 cal K c H
  else
  if c = nI 42 then
    jX2_sign_6 cal K c H
  else
  if c = nI 43 then
    jX2_sign_6 cal K c H
  else
  if c = nI 44 then
    jX2_sign_9 cal K H
  else
  if c = nI 45 then
    jX2_sign_6 cal K c H
  else
  if c = nI 46 then
    jX2_sign_9 cal K H
  else
  if c = nI 47 then
    jX2_sign_6 cal K c H
  else
  if c = nI 48 then
    jX2_sign_9 cal K H
  else
  if c = nI 49 then
    jX2_sign_9 cal K H
  else
  if c = nI 50 then
    jX2_sign_9 cal K H
  else
  if c = nI 51 then
    jX2_sign_9 cal K H
  else
  if c = nI 52 then
    jX2_sign_9 cal K H
  else
  if c = nI 53 then
    jX2_sign_9 cal K H
  else
  if c = nI 54 then
    jX2_sign_9 cal K H
  else
  if c = nI 55 then
    jX2_sign_9 cal K H
  else
  if c = nI 56 then
    jX2_sign_9 cal K H
  else
  if c = nI 57 then
    jX2_sign_9 cal K H
  else
  if c = nI 58 then
    jX2_sign_9 cal K H
  else
  if c = nI 59 then
    jX2_sign_6 cal K c H
  else
    jX2_sign_9 cal K H) := by
  by_cases w : c = nI 37 ∨ c = nI 40 ∨ c = nI 41 ∨ c = nI 42 ∨ c = nI 43 ∨ c = nI 45 ∨ c = nI 47 ∨ c = nI 59
  · have e : k_sg c = c := by unfold k_sg; rw [if_pos w]
    rw [e] at h1
    rcases w with w | w | w | w | w | w | w | w <;> subst w <;> exact h1
  · have e : k_sg c = nI 0 := by unfold k_sg; rw [if_neg w]
    have h0 := h0 e
    rw [if_neg (show ¬ c = nI 37 from fun x => w (.inl x))]
    by_cases e38 : c = nI 38
    · rw [if_pos e38]
      exact h0
    rw [if_neg e38]
    by_cases e39 : c = nI 39
    · rw [if_pos e39]
      exact h0
    rw [if_neg e39]
    rw [if_neg (show ¬ c = nI 40 from fun x => w (.inr (.inl x)))]
    rw [if_neg (show ¬ c = nI 41 from fun x => w (.inr (.inr (.inl x))))]
    rw [if_neg (show ¬ c = nI 42 from fun x => w (.inr (.inr (.inr (.inl x)))))]
    rw [if_neg (show ¬ c = nI 43 from fun x => w (.inr (.inr (.inr (.inr (.inl x))))))]
    by_cases e44 : c = nI 44
    · rw [if_pos e44]
      exact h0
    rw [if_neg e44]
    rw [if_neg (show ¬ c = nI 45 from fun x => w (.inr (.inr (.inr (.inr (.inr (.inl x)))))))]
    by_cases e46 : c = nI 46
    · rw [if_pos e46]
      exact h0
    rw [if_neg e46]
    rw [if_neg (show ¬ c = nI 47 from fun x => w (.inr (.inr (.inr (.inr (.inr (.inr (.inl x))))))))]
    by_cases e48 : c = nI 48
    · rw [if_pos e48]
      exact h0
    rw [if_neg e48]
    by_cases e49 : c = nI 49
    · rw [if_pos e49]
      exact h0
    rw [if_neg e49]
    by_cases e50 : c = nI 50
    · rw [if_pos e50]
      exact h0
    rw [if_neg e50]
    by_cases e51 : c = nI 51
    · rw [if_pos e51]
      exact h0
    rw [if_neg e51]
    by_cases e52 : c = nI 52
    · rw [if_pos e52]
      exact h0
    rw [if_neg e52]
    by_cases e53 : c = nI 53
    · rw [if_pos e53]
      exact h0
    rw [if_neg e53]
    by_cases e54 : c = nI 54
    · rw [if_pos e54]
      exact h0
    rw [if_neg e54]
    by_cases e55 : c = nI 55
    · rw [if_pos e55]
      exact h0
    rw [if_neg e55]
    by_cases e56 : c = nI 56
    · rw [if_pos e56]
      exact h0
    rw [if_neg e56]
    by_cases e57 : c = nI 57
    · rw [if_pos e57]
      exact h0
    rw [if_neg e57]
    by_cases e58 : c = nI 58
    · rw [if_pos e58]
      exact h0
    rw [if_neg e58]
    rw [if_neg (show ¬ c = nI 59 from fun x => w (.inr (.inr (.inr (.inr (.inr (.inr (.inr x))))))))]
    exact h0
theorem k_sign (hs : kS h D) (ht : kTx F A D b n) (N d : Nat) {i : Nat} (hi : i < 100000) : ix_run iy_P N (d + 2) 144 [ix_R (some (D 2)), ix_I (nI i)] (hw h F A) = some (.inl (some (ix_I (k_sg (tk_f b n i)))), hw h F A) := by
  rw [rX2_sign N (d + 1)]
  unfold bX2_sign
  rw [k_isr2 hs, hw_cI (k_at hs ht N d hi)]
  exact k_sign_c _ _ _ _ (fun o => o = some (.inl (some (ix_I (k_sg (tk_f b n i)))), hw h F A)) rfl (fun e => by rw [e]; rfl)
/-- narrow numbers stay -/
theorem k_n16 {i : Nat} (hi : i < 32768) : ix_nar 3 ((nI i).toInt16.toInt32) = nI i := by
  have e : (nI i).toInt16.toInt32 = nI i := by
    apply Int32.toInt_inj.mp
    rw [Int16.toInt_toInt32, Int32.toInt_toInt16, nI_toInt (by omega)]
    exact Int.bmod_eq_of_le (by omega) (by omega)
  rw [e]
  show (nI i).toInt16.toInt32 = nI i
  exact e
theorem k_n16m : ix_nar 3 ((-1 : Int32).toInt16.toInt32) = -1 := by decide
theorem k_n8 {i : Nat} (hi : i < 128) : ix_nar 2 ((nI i).toInt8.toInt32) = nI i := by
  have e : (nI i).toInt8.toInt32 = nI i := by
    apply Int32.toInt_inj.mp
    rw [Int8.toInt_toInt32, Int32.toInt_toInt8, nI_toInt (by omega)]
    exact Int.bmod_eq_of_le (by omega) (by omega)
  rw [e]
  show (nI i).toInt8.toInt32 = nI i
  exact e
/-- one more token -/
def kAd (D : Nat → Nat) (q : Nat) (s f t w : Int32) (F A : Nat → Nat → Int32) (F' A' : Nat → Nat → Int32) : Prop :=
  F' = hw_R F (D 2) (hw_U (F (D 2)) 7 (nI (q + 1))) ∧ A' (D 15) = hw_U (A (D 15)) q s ∧ A' (D 16) = hw_U (A (D 16)) q f ∧ A' (D 17) = hw_U (A (D 17)) q t ∧ A' (D 18) = hw_U (A (D 18)) q w ∧ ∀ x, x ≠ D 15 → x ≠ D 16 → x ≠ D 17 → x ≠ D 18 → A' x = A x
theorem k_add (hs : kS h D) (N d : Nat) {q s f t : Nat} {w : Int32} (hq : q < 2001) (h7 : F (D 2) 7 = nI q) (hs' : s < 128) (hf : f < 32768) (ht : t < 32768) (hw' : ix_nar 3 (w.toInt16.toInt32) = w) : ∃ F' A', ix_run iy_P N (d + 1) 145 [ix_R (some (D 2)), ix_I (nI s), ix_I (nI f), ix_I (nI t), ix_I w] (hw h F A) = some (.inl none, hw h F' A') ∧ kAd D q (nI s) (nI f) (nI t) w F A F' A' := by
  have n1 := hs.ne (i := 15) (j := 16) (by omega) (by omega) (by omega)
  have n2 := hs.ne (i := 15) (j := 17) (by omega) (by omega) (by omega)
  have n3 := hs.ne (i := 15) (j := 18) (by omega) (by omega) (by omega)
  have n4 := hs.ne (i := 16) (j := 17) (by omega) (by omega) (by omega)
  have n5 := hs.ne (i := 16) (j := 18) (by omega) (by omega) (by omega)
  have n6 := hs.ne (i := 17) (j := 18) (by omega) (by omega) (by omega)
  rw [rX2_add N d]
  unfold bX2_add
  rw [k_is2 hs, k_is2 hs, hw_fI, h7, k_sw hs, hw_in (by omega) (by omega), cond_true, hw_bdA, hw_cl (by omega), k_n8 hs', k_is2 hs, k_is2 hs, hw_fI, h7, k_fw hs, hw_in (by omega) (by omega), cond_true, hw_bdA, hw_cl (by omega), k_n16 hf, k_is2 hs, k_is2 hs, hw_fI, h7, k_ow hs, hw_in (by omega) (by omega), cond_true, hw_bdA, hw_cl (by omega), k_n16 ht, k_is2 hs, k_is2 hs, hw_fI, h7, k_aw hs, hw_in (by omega) (by omega), cond_true, hw_bdA, hw_cl (by omega), hw', k_is2 hs, k_is2 hs, hw_fI, h7, nI_add, hw_bdF]
  refine ⟨_, _, rfl, rfl, ?_, ?_, ?_, ?_, fun x x1 x2 x3 x4 => ?_⟩
  · rw [hw_R_ne _ _ n3, hw_R_ne _ _ n2, hw_R_ne _ _ n1, hw_R_same]
  · rw [hw_R_ne _ _ n5, hw_R_ne _ _ n4, hw_R_same, hw_R_ne _ _ n1.symm]
  · rw [hw_R_ne _ _ n6, hw_R_same, hw_R_ne _ _ n4.symm, hw_R_ne _ _ n2.symm]
  · rw [hw_R_same, hw_R_ne _ _ n6.symm, hw_R_ne _ _ n5.symm, hw_R_ne _ _ n3.symm]
  · rw [hw_R_ne _ _ x4, hw_R_ne _ _ x3, hw_R_ne _ _ x2, hw_R_ne _ _ x1]
end
