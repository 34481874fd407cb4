/-! C7: the component: making a record -/
set_option maxRecDepth 100000
def c_row (g : Nat → Int32) (s k p x : Int32) : Nat → Int32 := hw_U (hw_U (hw_U (hw_U (hw_U (hw_U (hw_U (hw_U (hw_U (hw_U g 2 s) 3 (nI 0)) 4 (nI 0)) 5 (-2)) 6 k) 7 p) 8 x) 9 (-1)) 10 (-2)) 11 (nI 0)
theorem c_makes_b {h : ix_H} {L : Nat → Nat} {nr : Nat} (hs : cS h L nr) {n : Nat} (hn : n < nr) {F A : Nat → Nat → Int32} (h3 : F (L 0) 3 = nI n) (N d : Nat) (K : ix_K) (s k p x : Int32) : jX4_makes_14 (ix_run iy_P N (d + 1)) K (L 0) s k p x (hw h F A) = some (.inl (some (ix_I (nI n))), hw h (hw_R (hw_R F (L (18 + 3 * n)) (c_row (F (L (18 + 3 * n))) s k p x)) (L 0) (hw_U (F (L 0)) 3 (nI (n + 1)))) A) := by
  have h2000 := hs.2.2.2.2.2.2.1
  have hb := c_begins (hs.rc hn) F A N d s k p x
  unfold jX4_makes_14
  rw [st_is hs, st_is hs, st_rec hs, hw_fI, h3, hw_in (by omega) (by omega), cond_true, st_rrR hs F A hn, hw_cV hb, st_is hs, st_is hs, hw_bdF, hw_fI, hw_R_ne _ _ (hs.ne (by omega)), h3, nI_add, st_is hs, hw_fI, hw_R_same, hw_U_same, hw_sub (by omega), Nat.add_sub_cancel]
  rfl
theorem c_makes {h : ix_H} {L : Nat → Nat} {nr : Nat} (hs : cS h L nr) {n : Nat} (hn : n ≤ nr) (hn2 : n < 2000) {F A : Nat → Nat → Int32} (h3 : F (L 0) 3 = nI n) (N d : Nat) (s k p x : Int32) :
    ∃ h' F' A' L' nr', ix_run iy_P N (d + 2) 173 [ix_R (some (L 0)), ix_I s, ix_I k, ix_I p, ix_I x] (hw h F A) = some (.inl (some (ix_I (nI n))), hw h' F' A') ∧ cS h' L' nr' ∧ cEx h F A L nr h' F' A' L' nr' ∧ n < nr' ∧
      (∀ b, b < ix_sz h → b ≠ L 0 → b ≠ L' (18 + 3 * n) → F' b = F b) ∧ F' (L 0) = hw_U (F (L 0)) 3 (nI (n + 1)) ∧ (∃ g, F' (L' (18 + 3 * n)) = c_row g s k p x) ∧ ∀ b, b < ix_sz h → A' b = A b := by
  have h2000 := hs.2.2.2.2.2.2.1
  have lo := hs.2.2.2.2.2.2.2.2.1
  rw [rX4_makes N (d + 1)]
  unfold bX4_makes
  rw [st_is hs, st_is hs, st_rec hs, hw_fI, h3, hw_in (by omega) (by omega), cond_true, hw_aR, hw_cl (by omega)]
  rcases Nat.lt_or_ge n nr with h1 | h1
  · rw [hs.2.2.2.2.1 n h1, if_neg (fun w => nomatch w), c_makes_b hs h1 h3 N d]
    refine ⟨h, _, A, L, nr, rfl, hs, cEx.refl hs (fun b hb hn => ⟨?_, rfl⟩), h1, fun b hb b0 b1 => ?_, ?_, ⟨F (L (18 + 3 * n)), ?_⟩, fun _ _ => rfl⟩
    · rw [hw_R_ne _ _ (hn 0 (by omega)), hw_R_ne _ _ (hn (18 + 3 * n) (by omega))]
    · rw [hw_R_ne _ _ b0, hw_R_ne _ _ b1]
    · rw [hw_R_same]
    · rw [hw_R_ne _ _ (hs.ne (by omega)), hw_R_same]
  · obtain rfl : n = nr := by omega
    have hs' := c_more_cS hs (by omega)
    have hsz := hs.2.2.2.2.2.2.2.2.2.2
    have ht6 : ix_tg (ix_nwO h 6 12) (ix_sz h) = 6 := by
      show (if ix_sz h = ix_sz h then 6 else _) = 6
      rw [if_pos rfl]
    have e5 : ix_tg (ix_nwO h 6 12) (L 0) = 5 := by
      show (if L 0 = ix_sz h then 6 else ix_tg h (L 0)) = 5
      rw [if_neg (by have := lo 0 (by omega); omega)]
      exact hs.1.1
    have ei := c_init ht6 (show ix_sz h < ix_sz (ix_nwO h 6 12) from Nat.lt_succ_self _) (hw_R F (ix_sz h) (fun _ => 0)) A N d
    have l0 : c_L L n (ix_sz h) 0 = L 0 := by unfold c_L; rw [if_neg (by omega), if_neg (by omega), if_neg (by omega)]
    have l1 : c_L L n (ix_sz h) 1 = L 1 := by unfold c_L; rw [if_neg (by omega), if_neg (by omega), if_neg (by omega)]
    have ln : c_L L n (ix_sz h) (18 + 3 * n) = ix_sz h := by unfold c_L; rw [if_pos rfl]
    have L0 := lo 0 (by omega)
    have L1 := lo 1 (by omega)
    have at1 : ∀ (F A : Nat → Nat → Int32) (i : Int32) (f : Nat → ix_O), (ix_at (hw (c_ini (ix_nwO h 6 12) (ix_sz h)) F A) 111 (some (L 1)) i).bind f = cond (ix_in i 2000) (f (L 1)) none := fun F A i f => by
      refine c_at ?_ ?_ F A i f
      · show (if L 1 = ix_sz h + 1 + 1 then 101 else if L 1 = ix_sz h + 1 then 101 else if L 1 = ix_sz h then 6 else ix_tg h (L 1)) = 111
        rw [if_neg (by omega), if_neg (by omega), if_neg (by omega)]
        exact hs.2.1.1
      · show (if L 1 = ix_sz h + 1 + 1 then 44 else if L 1 = ix_sz h + 1 then 44 else ix_ln h (L 1)) = 2000
        rw [if_neg (by omega), if_neg (by omega)]
        exact hs.2.1.2.1
    have eof : ∀ (F A : Nat → Nat → Int32), ix_of (hw (c_ini (ix_nwO h 6 12) (ix_sz h)) F A) [6] (some (ix_sz h)) = true := fun F A => by
      have : ix_tg (hw (c_ini (ix_nwO h 6 12) (ix_sz h)) F A) (ix_sz h) = 6 := by
        show (if ix_sz h = ix_sz h + 1 + 1 then 101 else if ix_sz h = ix_sz h + 1 then 101 else if ix_sz h = ix_sz h then 6 else _) = 6
        rw [if_neg (by omega), if_neg (by omega), if_pos rfl]
      show ([6].any fun t => (ix_tg (hw (c_ini (ix_nwO h 6 12) (ix_sz h)) F A) (ix_sz h)).beq t) = true
      rw [this]
      rfl
    have hisr : ∀ (F A : Nat → Nat → Int32) (f : Nat → ix_O), (ix_isr (hw (ix_nwO h 6 12) F A) 6 (some (ix_sz h))).bind f = f (ix_sz h) := fun F A f => c_isr ht6 (by decide) F A f
    have hb := c_makes_b hs' (n := n) (Nat.lt_succ_self _) (F := hw_R F (ix_sz h) (fun _ => 0)) (A := hw_R (hw_R A (ix_sz (ix_nwO h 6 12)) (fun _ => 0)) (ix_sz (ix_nwO h 6 12) + 1) (fun _ => 0)) (by rw [l0, hw_R_ne _ _ (by omega)]; exact h3) N d (ix_lp (ix_run iy_P N (d + 1)) stX4_makes N) s k p x
    rw [l0, ln] at hb
    rw [hs.2.2.2.2.2.1 n (Nat.le_refl _) hn2, if_pos rfl, st_is hs, st_is hs, hw_bd, hw_nwO, hw_sz, hisr, hw_cV ei, hw_fR, hs.1.2.1, h3, at1, hw_in (by omega) (by omega), cond_true, eof, cond_true, hw_bd, hw_waRR, hw_cl (by omega)]
    refine ⟨c_more h L n, _, _, c_L L n (ix_sz h), n + 1, hb, hs', ⟨by omega, ?_, ?_, rfl, fun i hi => ?_, fun i hi => ?_, fun b hb' => ⟨?_, ?_, ?_, ?_, ?_, fun w => ?_⟩, fun b hb' hn' => ⟨?_, ?_⟩⟩, Nat.lt_succ_self _, fun b hb' b0 b1 => ?_, ?_, ⟨hw_R F (ix_sz h) (fun _ => 0) (ix_sz h), ?_⟩, fun b hb' => ?_⟩
    · show ix_sz h + 1 + 1 + 1 = _
      omega
    · show ix_sl h + 12 + 44 + 44 = _
      omega
    · unfold c_L
      rw [if_neg (by omega), if_neg (by omega), if_neg (by omega)]
    · unfold c_L
      by_cases i0 : i = 18 + 3 * n
      · rw [if_pos i0]; omega
      · rw [if_neg i0]
        by_cases i1 : i = 19 + 3 * n
        · rw [if_pos i1]; omega
        · rw [if_neg i1]
          by_cases i2 : i = 20 + 3 * n
          · rw [if_pos i2]; omega
          · rw [if_neg i2]
            have := hs.2.2.2.2.2.2.2.2.2.1 i hi
            omega
    · show (if b = ix_sz h + 1 + 1 then 101 else if b = ix_sz h + 1 then 101 else if b = ix_sz h then 6 else ix_tg h b) = _
      rw [if_neg (by omega), if_neg (by omega), if_neg (by omega)]
    · show (if b = ix_sz h + 1 + 1 then 44 else if b = ix_sz h + 1 then 44 else ix_ln h b) = _
      rw [if_neg (by omega), if_neg (by omega)]
    · funext j
      show (if b = ix_sz h ∧ j = 1 then some (ix_sz h + 1 + 1) else if b = ix_sz h ∧ j = 0 then some (ix_sz h + 1) else if b = ix_sz h then none else ix_fR h b j) = _
      rw [if_neg (by omega), if_neg (by omega), if_neg (by omega)]
    · funext j
      show (if b = ix_sz h then 0 else ix_fL h b j) = _
      rw [if_neg (by omega)]
    · funext j
      show (if b = ix_sz h + 1 + 1 then 0 else if b = ix_sz h + 1 then 0 else ix_aL h b j) = _
      rw [if_neg (by omega), if_neg (by omega)]
    · funext j
      show (if b = L 1 ∧ j = n then some (ix_sz h) else if b = ix_sz h + 1 + 1 then none else if b = ix_sz h + 1 then none else ix_aR h b j) = _
      rw [if_neg (fun z => w z.1), if_neg (by omega), if_neg (by omega)]
    · rw [hw_R_ne _ _ (hn' 0 (by omega)), hw_R_ne _ _ (by omega), hw_R_ne _ _ (by omega)]
    · rw [hw_R_ne _ _ (show b ≠ ix_sz (ix_nwO h 6 12) + 1 by show b ≠ ix_sz h + 1 + 1; omega), hw_R_ne _ _ (show b ≠ ix_sz (ix_nwO h 6 12) by show b ≠ ix_sz h + 1; omega)]
    · rw [hw_R_ne _ _ b0, hw_R_ne _ _ (by omega), hw_R_ne _ _ (by omega)]
    · rw [hw_R_same, hw_R_ne _ _ (by omega)]
    · rw [ln, hw_R_ne _ _ (by omega), hw_R_same]
    · rw [hw_R_ne _ _ (show b ≠ ix_sz (ix_nwO h 6 12) + 1 by show b ≠ ix_sz h + 1 + 1; omega), hw_R_ne _ _ (show b ≠ ix_sz (ix_nwO h 6 12) by show b ≠ ix_sz h + 1; omega)]
