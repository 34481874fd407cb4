/-! CO: the component: a place for a record -/
set_option maxRecDepth 100000
theorem c_slot {h : ix_H} {L : Nat → Nat} {nr : Nat} (hs : cS h L nr) {n : Nat} (hn : n ≤ nr) (hn2 : n < 2000) (F A : Nat → Nat → Int32) (N d : Nat) :
    ∃ h' F' A' L' nr', (∀ g : ix_H → ix_O, (if ix_aR h (L 1) n = none then
      (ix_is (hw h F A) 5 (some (L 0))).bind fun a40 =>
      ix_bd (ix_nwO (hw h F A) 6 12) fun h41 =>
      (ix_isr h41 6 (some (ix_sz (hw h F A)))).bind fun a43 =>
      (ix_rV (ix_run iy_P N (d + 1) 207 [ix_R (some a43)] h41)).bind fun r42 =>
      (ix_at r42 111 (ix_fR (hw h F A) a40 0) (nI n)).bind fun a44 =>
      cond (ix_of r42 [6] (some (ix_sz (hw h F A)))) (
      ix_bd (ix_waR r42 a44 (nI n).toNatClampNeg (some (ix_sz (hw h F A)))) g) none
    else g (hw h F A)) = g (hw h' F' A')) ∧ cS h' L' nr' ∧ cEx h F A L nr h' F' A' L' nr' ∧ n < nr' ∧ ∀ b, b < ix_sz h → F' b = F b ∧ A' b = A b := by
  have h2000 := hs.2.2.2.2.2.2.1
  have lo := hs.2.2.2.2.2.2.2.2.1
  rcases Nat.lt_or_ge n nr with h1 | h1
  · refine ⟨h, F, A, L, nr, fun g => ?_, hs, cEx.refl hs (fun _ _ _ => ⟨rfl, rfl⟩), h1, fun _ _ => ⟨rfl, rfl⟩⟩
    rw [hs.2.2.2.2.1 n h1, if_neg (fun w => nomatch w)]
  · obtain rfl : n = nr := by omega
    have hs' := c_more_cS hs (by omega)
    have hsz := hs.2.2.2.2.2.2.2.2.2.2
    have ht6 : ix_tg (ix_nwO h 6 12) (ix_sz h) = 6 := by
      show (if ix_sz h = ix_sz h then 6 else _) = 6
      rw [if_pos rfl]
    have e5 : ix_tg (ix_nwO h 6 12) (L 0) = 5 := by
      show (if L 0 = ix_sz h then 6 else ix_tg h (L 0)) = 5
      rw [if_neg (by have := lo 0 (by omega); omega)]
      exact hs.1.1
    have ei := c_init ht6 (show ix_sz h < ix_sz (ix_nwO h 6 12) from Nat.lt_succ_self _) (hw_R F (ix_sz h) (fun _ => 0)) A N d
    have l0 : c_L L n (ix_sz h) 0 = L 0 := by unfold c_L; rw [if_neg (by omega), if_neg (by omega), if_neg (by omega)]
    have l1 : c_L L n (ix_sz h) 1 = L 1 := by unfold c_L; rw [if_neg (by omega), if_neg (by omega), if_neg (by omega)]
    have ln : c_L L n (ix_sz h) (18 + 3 * n) = ix_sz h := by unfold c_L; rw [if_pos rfl]
    have L0 := lo 0 (by omega)
    have L1 := lo 1 (by omega)
    have at1 : ∀ (F A : Nat → Nat → Int32) (i : Int32) (f : Nat → ix_O), (ix_at (hw (c_ini (ix_nwO h 6 12) (ix_sz h)) F A) 111 (some (L 1)) i).bind f = cond (ix_in i 2000) (f (L 1)) none := fun F A i f => by
      refine c_at ?_ ?_ F A i f
      · show (if L 1 = ix_sz h + 1 + 1 then 101 else if L 1 = ix_sz h + 1 then 101 else if L 1 = ix_sz h then 6 else ix_tg h (L 1)) = 111
        rw [if_neg (by omega), if_neg (by omega), if_neg (by omega)]
        exact hs.2.1.1
      · show (if L 1 = ix_sz h + 1 + 1 then 44 else if L 1 = ix_sz h + 1 then 44 else ix_ln h (L 1)) = 2000
        rw [if_neg (by omega), if_neg (by omega)]
        exact hs.2.1.2.1
    have eof : ∀ (F A : Nat → Nat → Int32), ix_of (hw (c_ini (ix_nwO h 6 12) (ix_sz h)) F A) [6] (some (ix_sz h)) = true := fun F A => by
      have : ix_tg (hw (c_ini (ix_nwO h 6 12) (ix_sz h)) F A) (ix_sz h) = 6 := by
        show (if ix_sz h = ix_sz h + 1 + 1 then 101 else if ix_sz h = ix_sz h + 1 then 101 else if ix_sz h = ix_sz h then 6 else _) = 6
        rw [if_neg (by omega), if_neg (by omega), if_pos rfl]
      show ([6].any fun t => (ix_tg (hw (c_ini (ix_nwO h 6 12) (ix_sz h)) F A) (ix_sz h)).beq t) = true
      rw [this]
      rfl
    have hisr : ∀ (F A : Nat → Nat → Int32) (f : Nat → ix_O), (ix_isr (hw (ix_nwO h 6 12) F A) 6 (some (ix_sz h))).bind f = f (ix_sz h) := fun F A f => c_isr ht6 (by decide) F A f
    refine ⟨c_more h L n, hw_R F (ix_sz h) (fun _ => 0), hw_R (hw_R A (ix_sz (ix_nwO h 6 12)) (fun _ => 0)) (ix_sz (ix_nwO h 6 12) + 1) (fun _ => 0), c_L L n (ix_sz h), n + 1, fun g => ?_, hs', ⟨by omega, ?_, ?_, rfl, fun i hi => ?_, fun i hi => ?_, fun b hb' => ⟨?_, ?_, ?_, ?_, ?_, fun w => ?_⟩, fun b hb' hn' => ⟨?_, ?_⟩⟩, Nat.lt_succ_self _, fun b hb' => ⟨?_, ?_⟩⟩
    · rw [hs.2.2.2.2.2.1 n (Nat.le_refl _) hn2, if_pos rfl, st_is hs, hw_bd, hw_nwO, hw_sz, hisr, hw_cV ei, hw_fR, hs.1.2.1, at1, hw_in (by omega) (by omega), cond_true, eof, cond_true, hw_bd, hw_waRR, hw_cl (by omega)]
      rfl
    · show ix_sz h + 1 + 1 + 1 = _
      omega
    · show ix_sl h + 12 + 44 + 44 = _
      omega
    · unfold c_L
      rw [if_neg (by omega), if_neg (by omega), if_neg (by omega)]
    · unfold c_L
      by_cases i0 : i = 18 + 3 * n
      · rw [if_pos i0]; omega
      · rw [if_neg i0]
        by_cases i1 : i = 19 + 3 * n
        · rw [if_pos i1]; omega
        · rw [if_neg i1]
          by_cases i2 : i = 20 + 3 * n
          · rw [if_pos i2]; omega
          · rw [if_neg i2]
            have := hs.2.2.2.2.2.2.2.2.2.1 i hi
            omega
    · show (if b = ix_sz h + 1 + 1 then 101 else if b = ix_sz h + 1 then 101 else if b = ix_sz h then 6 else ix_tg h b) = _
      rw [if_neg (by omega), if_neg (by omega), if_neg (by omega)]
    · show (if b = ix_sz h + 1 + 1 then 44 else if b = ix_sz h + 1 then 44 else ix_ln h b) = _
      rw [if_neg (by omega), if_neg (by omega)]
    · funext j
      show (if b = ix_sz h ∧ j = 1 then some (ix_sz h + 1 + 1) else if b = ix_sz h ∧ j = 0 then some (ix_sz h + 1) else if b = ix_sz h then none else ix_fR h b j) = _
      rw [if_neg (by omega), if_neg (by omega), if_neg (by omega)]
    · funext j
      show (if b = ix_sz h then 0 else ix_fL h b j) = _
      rw [if_neg (by omega)]
    · funext j
      show (if b = ix_sz h + 1 + 1 then 0 else if b = ix_sz h + 1 then 0 else ix_aL h b j) = _
      rw [if_neg (by omega), if_neg (by omega)]
    · funext j
      show (if b = L 1 ∧ j = n then some (ix_sz h) else if b = ix_sz h + 1 + 1 then none else if b = ix_sz h + 1 then none else ix_aR h b j) = _
      rw [if_neg (fun z => w z.1), if_neg (by omega), if_neg (by omega)]
    · rw [hw_R_ne _ _ (by omega)]
    · rw [hw_R_ne _ _ (show b ≠ ix_sz (ix_nwO h 6 12) + 1 by show b ≠ ix_sz h + 1 + 1; omega), hw_R_ne _ _ (show b ≠ ix_sz (ix_nwO h 6 12) by show b ≠ ix_sz h + 1; omega)]
    · rw [hw_R_ne _ _ (by omega)]
    · rw [hw_R_ne _ _ (show b ≠ ix_sz (ix_nwO h 6 12) + 1 by show b ≠ ix_sz h + 1 + 1; omega), hw_R_ne _ _ (show b ≠ ix_sz (ix_nwO h 6 12) by show b ≠ ix_sz h + 1; omega)]
