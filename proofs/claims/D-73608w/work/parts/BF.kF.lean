/-! KF: the component: a list grows -/
set_option maxRecDepth 100000
theorem k_shr1 : ∀ n, n < 900 → Int32.ofNat n >>> (nI 1 &&& 31) = nI (n / 2) := by decide +kernel
theorem hw_cpR (h : ix_H) (F A : Nat → Nat → Int32) (s sp d dp n : Nat) : ix_cpR (hw h F A) s sp d dp n = hw (ix_cpR h s sp d dp n) F A := rfl
/-- a list: its cell ls, its array ar -/
def gA (h : ix_H) (F : Nat → Nat → Int32) (ls ar : Nat) (xs : List Nat) : Prop := ix_tg h ls = 18 ∧ ix_fR h ls 1 = some ar ∧ F ls 2 = nI xs.length ∧
  ((xs = [] ∧ ar = ix_cs h 40 ∧ ix_tg h ar = 627 ∧ ix_ln h ar = 0) ∨ (ix_tg h ar = 115 ∧ xs.length ≤ ix_ln h ar ∧ 0 < ix_ln h ar ∧ ix_ln h ar ≤ 2 * xs.length + 10 ∧ ∀ i (hi : i < xs.length), ix_aR h ar i = some xs[i]))
/-- what may lie in a list -/
def gE (h : ix_H) (x : Nat) : Prop := ix_tg h x = 14 ∨ ix_tg h x = 15 ∨ ix_tg h x = 16 ∨ ix_tg h x = 9
theorem gE.of {h : ix_H} {x : Nat} (g : gE h x) (F A : Nat → Nat → Int32) : ix_of (hw h F A) [14, 15, 16, 9] (some x) = true := by
  show ([14, 15, 16, 9] : List Nat).any (fun t => Nat.beq (ix_tg h x) t) = true
  rcases g with g | g | g | g <;> rw [g] <;> rfl
/-- all but a list's cells stays -/
def gAf (h : ix_H) (F A : Nat → Nat → Int32) (h' : ix_H) (F' A' : Nat → Nat → Int32) (ls ar : Nat) : Prop :=
  ix_sz h ≤ ix_sz h' ∧ ix_sz h' ≤ ix_sz h + 1 ∧ ix_sl h' ≤ ix_sl h + 820 ∧ ix_cs h' = ix_cs h ∧
  ∀ b, b < ix_sz h → ix_tg h' b = ix_tg h b ∧ ix_ln h' b = ix_ln h b ∧ ix_fL h' b = ix_fL h b ∧ ix_aL h' b = ix_aL h b ∧ A' b = A b ∧ (b ≠ ls → ix_fR h' b = ix_fR h b ∧ F' b = F b) ∧ (b ≠ ar ∨ ix_tg h b ≠ 115 → ix_aR h' b = ix_aR h b)
section
variable {h : ix_H} {F A : Nat → Nat → Int32} {ls ar N : Nat} {xs : List Nat}
/-- a new array in the list's place -/
theorem k_grow (g : gA h F ls ar xs) (hls : ls < ix_sz h) (har : ar < ix_sz h) (hx : ∀ x ∈ xs, gE h x ∧ x < ix_sz h) (hl : xs.length ≤ 400) (full : xs.length = ix_ln h ar) (N d : Nat) : ∃ h' A', ix_run iy_P N (d + 5) 42 [ix_R (some ls)] (hw h F A) = some (.inl (some (ix_R (some (ix_sz h)))), hw h' F A') ∧ gA h' F ls (ix_sz h) xs ∧ xs.length < ix_ln h' (ix_sz h) ∧ gAf h F A h' F A' ls ar ∧ ix_sz h' = ix_sz h + 1 := by
  obtain ⟨g1, g2, g3, g4⟩ := g
  have eg : ∀ (H : ix_H) (R : Option Nat) (H2 : ix_H), ix_run iy_P N (d + 4) 43 [ix_R (some ls), ix_I (nI (xs.length + 1))] (hw h F A) = some (.inl (some (ix_R R)), H2) → ix_run iy_P N (d + 5) 42 [ix_R (some ls)] (hw h F A) = some (.inl (some (ix_R R)), H2) := fun H R H2 e => by
    rw [rJ5_grow N (d + 4)]
    unfold bJ5_grow
    rw [c_is g1, c_isr g1 (by decide), hw_fI, g3, nI_add, hw_cR e]
  have ia : ∀ (f : Nat → ix_O), (ix_isr (hw h F A) 115 (some ar)).bind f = f ar := fun f => by
    have : ix_isr (hw h F A) 115 (some ar) = some ar := by
      show cond (Nat.beq (ix_tg h ar % 512) 115) (some ar) none = some ar
      rcases g4 with ⟨-, -, b, -⟩ | ⟨b, -⟩ <;> rw [b] <;> rfl
    rw [this]
    rfl
  rcases g4 with ⟨x0, a0, t0, l0⟩ | ⟨t0, l1, l2, l3, l4⟩
  · -- the first array
    subst x0
    have tl : ix_tg (ix_nwA h 115 10) ls = 18 := by rw [s_tgA' _ _ _ (by omega)]; exact g1
    have em : ix_run iy_P N (d + 3) 24 [ix_I (nI 10), ix_I (nI (([] : List Nat).length + 1))] (hw h F A) = some (.inl (some (ix_I (nI 10))), hw h F A) := by
      rw [rJ13_max N (d + 2)]
      unfold bJ13_max jJ13_max_6
      rw [if_neg (by decide)]
    refine ⟨ix_wfR (ix_nwA h 115 10) ls 1 (some (ix_sz h)), hw_R A (ix_sz h) (fun _ => 0), eg (hw h F A) _ _ ?_, ⟨tl, s_fRf _ _ _ _, g3, .inr ⟨s_tgA _ _ _, Nat.zero_le _, ?_, ?_, fun i hi => absurd hi (Nat.not_lt_zero i)⟩⟩, ?_, ⟨Nat.le_succ _, Nat.le_refl _, by show ix_sl h + 10 ≤ _; omega, rfl, fun b hb => ⟨if_neg (Nat.ne_of_lt hb), if_neg (Nat.ne_of_lt hb), rfl, ?_, hw_R_ne _ _ (Nat.ne_of_lt hb), fun hb2 => ⟨?_, rfl⟩, fun _ => ?_⟩⟩, rfl⟩
    · rw [rJ5_grow_2 N (d + 3)]
      unfold bJ5_grow_2
      rw [c_is g1, hw_fR, g2, ia, hw_ln, l0, if_neg (by decide), c_is g1, g2, hw_cs, if_pos (by rw [a0]), hw_cI em]
      dsimp only
      rw [hw_in (by omega) (by omega), cond_true, hw_bA, hw_cl (by omega), c_is tl, hw_sz, hw_bfR]
    · show 0 < ix_ln (ix_nwA h 115 10) (ix_sz h)
      rw [s_lnA]
      omega
    · show ix_ln (ix_nwA h 115 10) (ix_sz h) ≤ _
      rw [s_lnA]
      omega
    · show 0 < ix_ln (ix_nwA h 115 10) (ix_sz h)
      rw [s_lnA]
      omega
    · funext j
      exact if_neg (Nat.ne_of_lt hb)
    · funext j
      show (if b = ls ∧ j = 1 then _ else ix_fR h b j) = _
      rw [if_neg (fun q => hb2 q.1)]
    · funext j
      exact if_neg (Nat.ne_of_lt hb)
  · -- a larger one
    obtain ⟨n, hn⟩ : ∃ n, xs.length = n := ⟨_, rfl⟩
    have g3' := g3
    rw [hn] at g3 hl full l1 l3 eg
    have fl : ix_ln h ar = n := full.symm
    have eM : n + max 1 (n / 2) < 1000 := by omega
    obtain ⟨m, hm⟩ : ∃ m, n + max 1 (n / 2) = m := ⟨_, rfl⟩
    rw [hm] at eM
    have em : ix_run iy_P N (d + 2) 24 [ix_I (nI 1), ix_I (nI (n / 2))] (hw h F A) = some (.inl (some (ix_I (nI (max 1 (n / 2))))), hw h F A) := by
      rw [rJ13_max N (d + 1)]
      unfold bJ13_max jJ13_max_6
      by_cases c : 1 < n / 2
      · rw [if_pos (by rw [hw_lt (by omega) (by omega)]; exact c), Nat.max_eq_right (by omega)]
      · rw [if_neg (by rw [hw_lt (by omega) (by omega)]; exact c), Nat.max_eq_left (by omega)]
    have el : ix_run iy_P N (d + 3) 15 [ix_I (nI n), ix_I (nI (n + 1) - nI n), ix_I (nI (n / 2))] (hw h F A) = some (.inl (some (ix_I (nI m))), hw h F A) := by
      rw [rJ12_newLength N (d + 2)]
      unfold bJ12_newLength
      rw [hw_sub (by omega), Nat.add_sub_cancel_left, hw_cI em]
      dsimp only
      rw [nI_add, hm, if_neg (by rw [hw_le (by omega) (by omega)]; omega), if_neg (by rw [hw_lt (by omega) (by omega)]; omega)]
    have hx' : ∀ i, i < n → ∃ x, ix_aR h ar i = some x ∧ gE h x ∧ x < ix_sz h := fun i hi => ⟨xs[i]'(by omega), l4 i (by omega), hx _ (List.getElem_mem _)⟩
    have ta : ix_tg (ix_nwA h 115 m) ar = 115 := by rw [s_tgA' _ _ _ (by omega)]; exact t0
    have tn : ix_tg (ix_nwA h 115 m) (ix_sz h) = 115 := s_tgA _ _ _
    have la : ix_ln (ix_nwA h 115 m) ar = n := by rw [s_lnA' _ _ _ (by omega)]; exact fl
    have lnn : ix_ln (ix_nwA h 115 m) (ix_sz h) = m := s_lnA _ _ _
    have ei : ∀ H, ix_run iy_P N (d + 1) 25 [ix_I (nI n), ix_I (nI m)] H = some (.inl (some (ix_I (nI n))), H) := fun H => by
      rw [rJ13_min N d]
      unfold bJ13_min jJ13_min_6
      rw [if_neg (by rw [hw_lt (by omega) (by omega)]; omega)]
    have ec3 : ix_run iy_P N (d + 2) 32 [ix_R (some ar), ix_I (nI m), ix_R (some (ix_cs h 43))] (hw h F A) = some (.inl (some (ix_R (some (ix_sz h)))), hw (ix_cpR (ix_nwA h 115 m) ar 0 (ix_sz h) 0 n) F (hw_R A (ix_sz h) (fun _ => 0))) := by
      rw [rJ14_copyOf_3 N (d + 1)]
      unfold bJ14_copyOf_3 jJ14_copyOf_3_11
      rw [hw_cs, if_pos rfl, hw_in (show m < 1000001 by omega) (by omega), cond_true, hw_bA, hw_cl (by omega), hw_sz, c_isr ta (by decide), hw_ln, la, show Int32.ofNat n = nI n from rfl, hw_cI (ei _)]
      dsimp only
      have en0 : ¬ nI n < 0 := by
        rw [show (0 : Int32) = nI 0 by decide, hw_lt (by omega) (by omega)]
        omega
      rw [c_is ta, c_is tn, hw_ln, la, lnn, hw_cl (show n < 2147483648 by omega), hw_cl (show 0 < 2147483648 by omega), if_pos ⟨en0, by decide, by decide, by omega, by omega, by omega, fun i hi => by
        obtain ⟨x, x1, x2, x3⟩ := hx' i hi
        have ex : ix_aR (hw (ix_nwA h 115 m) F (hw_R A (ix_sz h) (fun _ => 0))) ar (0 + i) = some x := by
          rw [hw_aR, s_aRA' _ _ _ _ (by omega), Nat.zero_add]
          exact x1
        rw [ex]
        show ([14, 15, 16, 9] : List Nat).any (fun t => Nat.beq (ix_tg (ix_nwA h 115 m) x) t) = true
        rw [s_tgA' _ _ _ (Nat.ne_of_lt x3)]
        exact x2.of F A⟩, hw_bd, hw_cpR]
    have ec2 : ix_run iy_P N (d + 3) 31 [ix_R (some ar), ix_I (nI m)] (hw h F A) = some (.inl (some (ix_R (some (ix_sz h)))), hw (ix_cpR (ix_nwA h 115 m) ar 0 (ix_sz h) 0 n) F (hw_R A (ix_sz h) (fun _ => 0))) := by
      rw [rJ14_copyOf_2 N (d + 2)]
      unfold bJ14_copyOf_2
      rw [c_is t0, hw_cs, hw_cR ec3]
    have tl : ix_tg (ix_cpR (ix_nwA h 115 m) ar 0 (ix_sz h) 0 n) ls = 18 := by
      show ix_tg (ix_nwA h 115 m) ls = 18
      rw [s_tgA' _ _ _ (by omega)]
      exact g1
    refine ⟨ix_wfR (ix_cpR (ix_nwA h 115 m) ar 0 (ix_sz h) 0 n) ls 1 (some (ix_sz h)), hw_R A (ix_sz h) (fun _ => 0), eg (hw h F A) _ _ ?_, ⟨tl, s_fRf _ _ _ _, g3', .inr ⟨tn, ?_, ?_, ?_, fun i hi => ?_⟩⟩, ?_, ⟨Nat.le_succ _, Nat.le_refl _, by show ix_sl h + m ≤ _; omega, rfl, fun b hb => ⟨if_neg (Nat.ne_of_lt hb), if_neg (Nat.ne_of_lt hb), rfl, ?_, hw_R_ne _ _ (Nat.ne_of_lt hb), fun hb2 => ⟨?_, rfl⟩, fun _ => ?_⟩⟩, rfl⟩
    · rw [rJ5_grow_2 N (d + 3)]
      unfold bJ5_grow_2 jJ5_grow_2_10
      rw [c_is g1, hw_fR, g2, ia, hw_ln, fl, if_pos (show nI 0 < Int32.ofNat n by show nI 0 < nI n; rw [hw_lt (by omega) (by omega)]; omega), k_shr1 n (by omega), show Int32.ofNat n = nI n from rfl, hw_cI el]
      dsimp only
      rw [c_is g1, hw_fR, g2, hw_cR ec2]
      dsimp only
      rw [c_is tl, hw_bfR]
    · show xs.length ≤ ix_ln (ix_nwA h 115 m) (ix_sz h)
      rw [lnn]
      omega
    · show 0 < ix_ln (ix_nwA h 115 m) (ix_sz h)
      rw [lnn]
      omega
    · show ix_ln (ix_nwA h 115 m) (ix_sz h) ≤ _
      rw [lnn]
      omega
    · show (if ix_sz h = ix_sz h ∧ 0 ≤ i ∧ i < 0 + n then ix_aR (ix_nwA h 115 m) ar (0 + (i - 0)) else _) = _
      rw [if_pos ⟨rfl, Nat.zero_le _, by omega⟩, s_aRA' _ _ _ _ (by omega), Nat.zero_add, Nat.sub_zero]
      exact l4 i (by omega)
    · show xs.length < ix_ln (ix_nwA h 115 m) (ix_sz h)
      rw [lnn]
      omega
    · funext j
      exact if_neg (Nat.ne_of_lt hb)
    · funext j
      show (if b = ls ∧ j = 1 then _ else ix_fR h b j) = _
      rw [if_neg (fun q => hb2 q.1)]
    · funext j
      show (if b = ix_sz h ∧ 0 ≤ j ∧ j < 0 + n then _ else (if b = ix_sz h then none else ix_aR h b j)) = _
      rw [if_neg (fun q => by omega), if_neg (by omega)]
/-- a cell more in a list -/
theorem k_add_l {x : Nat} (g : gA h F ls ar xs) (hls : ls < ix_sz h) (har : ar < ix_sz h) (hx : ∀ y ∈ xs, gE h y ∧ y < ix_sz h) (hE : gE h x) (hxs : x < ix_sz h) (hl : xs.length ≤ 400) (N d : Nat) : ∃ h' F' A' ar', ix_run iy_P N (d + 7) 40 [ix_R (some ls), ix_R (some x)] (hw h F A) = some (.inl (some (ix_I (nI 1))), hw h' F' A') ∧ gA h' F' ls ar' (xs ++ [x]) ∧ gAf h F A h' F' A' ls ar ∧ (ar' = ar ∨ ar' = ix_sz h) ∧ ar' < ix_sz h' := by
  have g1 := g.1
  have Lx : (xs ++ [x]).length = xs.length + 1 := by rw [List.length_append]; rfl
  -- the counter of changes
  have gm : gA h (hw_R F ls (hw_U (F ls) 0 (F ls 0 + nI 1))) ls ar xs := by
    obtain ⟨a1, a2, a3, a4⟩ := g
    exact ⟨a1, a2, by rw [hw_R_same, hw_U_ne _ _ (by omega)]; exact a3, a4⟩
  have fm : gAf h F A h (hw_R F ls (hw_U (F ls) 0 (F ls 0 + nI 1))) A ls ar := ⟨Nat.le_refl _, Nat.le_succ _, Nat.le_add_right _ _, rfl, fun b _ => ⟨rfl, rfl, rfl, rfl, rfl, fun hb => ⟨rfl, hw_R_ne _ _ hb⟩, fun _ => rfl⟩⟩
  rw [rJ5_add N (d + 6)]
  unfold bJ5_add
  rw [c_is g1, c_is g1, hw_bdF, c_is g1, c_is g1, c_isr g1 (by decide), hw_fI]
  generalize hw_R F ls (hw_U (F ls) 0 (F ls 0 + nI 1)) = F1 at gm fm ⊢
  rw [hw_fR, gm.2.1, hw_fI, gm.2.2.1]
  -- behind the array's choice
  have put : ∀ (h2 : ix_H) (A2 : Nat → Nat → Int32) (ar2 : Nat), gA h2 F1 ls ar2 xs → xs.length < ix_ln h2 ar2 → ar2 < ix_sz h2 → gAf h F A h2 F1 A2 ls ar → (ar2 = ar ∨ ar2 = ix_sz h) → ∃ h' F' A' ar', jJ5_add_2_7 (ix_run iy_P N (d + 5)) (ix_lp (ix_run iy_P N (d + 5)) stJ5_add_2 N) ls (some x) (some ar2) (nI xs.length) (hw h2 F1 A2) = some (.inl none, hw h' F' A') ∧ gA h' F' ls ar' (xs ++ [x]) ∧ gAf h F A h' F' A' ls ar ∧ (ar' = ar ∨ ar' = ix_sz h) ∧ ar' < ix_sz h' := fun h2 A2 ar2 g2 l2 s2 f2 o2 => by
    obtain ⟨b1, b2, b3, b4⟩ := g2
    obtain ⟨z1, z2, z3, z4, z5⟩ := f2
    rcases b4 with ⟨-, -, -, q⟩ | ⟨t2, u1, u2, u3, u4⟩
    · omega
    · have hE2 : gE h2 x := by
        unfold gE at *
        rw [(z5 x hxs).1]
        exact hE
      have t1' : ix_tg (ix_waR h2 ar2 xs.length (some x)) ls = 18 := b1
      unfold jJ5_add_2_7
      rw [c_at t2 rfl, hw_in l2 (by omega), cond_true, hE2.of, cond_true, hw_baR, hw_cl (by omega), c_is t1', hw_bdF, nI_add]
      refine ⟨_, _, _, ar2, rfl, ⟨b1, b2, ?_, .inr ⟨t2, ?_, u2, ?_, fun i hi => ?_⟩⟩, ⟨z1, z2, z3, z4, fun b hb => ?_⟩, o2, s2⟩
      · rw [hw_R_same, hw_U_same, Lx]
      · show (xs ++ [x]).length ≤ ix_ln h2 ar2
        omega
      · show ix_ln h2 ar2 ≤ 2 * (xs ++ [x]).length + 10
        omega
      · by_cases e : i = xs.length
        · subst e
          rw [s_aRa, List.getElem_concat_length rfl]
        · rw [s_aRa' _ _ _ _ (fun q => e q.2), List.getElem_append_left (by omega)]
          exact u4 i (by omega)
      · obtain ⟨c1, c2, c3, c4, c5, c6, c7⟩ := z5 b hb
        refine ⟨c1, c2, c3, c4, c5, fun hb2 => ⟨(c6 hb2).1, (hw_R_ne _ _ hb2).trans (c6 hb2).2⟩, fun hb3 => ?_⟩
        rw [← c7 hb3]
        funext j
        refine if_neg fun q => ?_
        rcases hb3 with hb3 | hb3
        · rcases o2 with o2 | o2
          · exact hb3 (q.1.trans o2)
          · omega
        · rw [← c1, q.1] at hb3
          exact hb3 t2
  have ia : ∀ (f : Nat → ix_O), (ix_isr (hw h F1 A) 115 (some ar)).bind f = f ar := fun f => by
    have : ix_isr (hw h F1 A) 115 (some ar) = some ar := by
      show cond (Nat.beq (ix_tg h ar % 512) 115) (some ar) none = some ar
      rcases gm.2.2.2 with ⟨-, -, b, -⟩ | ⟨b, -⟩ <;> rw [b] <;> rfl
    rw [this]
    rfl
  have key : ∃ h' F' A' ar', ix_run iy_P N (d + 6) 41 [ix_R (some ls), ix_R (some x), ix_R (some ar), ix_I (nI xs.length)] (hw h F1 A) = some (.inl none, hw h' F' A') ∧ gA h' F' ls ar' (xs ++ [x]) ∧ gAf h F A h' F' A' ls ar ∧ (ar' = ar ∨ ar' = ix_sz h) ∧ ar' < ix_sz h' := by
    have lnb : ix_ln h ar ≤ 1000 := by
      rcases gm.2.2.2 with ⟨-, -, -, b⟩ | ⟨-, -, -, b, -⟩ <;> omega
    rw [rJ5_add_2 N (d + 5)]
    unfold bJ5_add_2
    rw [ia, hw_ln]
    by_cases full : xs.length = ix_ln h ar
    · obtain ⟨h2, A2, e2, g2, l2, f2, z2⟩ := k_grow (A := A) gm hls har hx hl full N d
      rw [if_pos (by rw [← full]; rfl), c_isr g1 (by decide), hw_cR e2]
      exact put h2 A2 (ix_sz h) g2 l2 (by omega) ⟨f2.1, f2.2.1, f2.2.2.1, f2.2.2.2.1, fun b hb => by
        obtain ⟨c1, c2, c3, c4, c5, c6, c7⟩ := f2.2.2.2.2 b hb
        obtain ⟨d1, d2, d3, d4, d5, d6, d7⟩ := fm.2.2.2.2 b hb
        exact ⟨c1, c2, c3, c4, c5.trans d5, fun q => ⟨(c6 q).1, (c6 q).2.trans (d6 q).2⟩, c7⟩⟩ (.inr rfl)
    · have lt : xs.length < ix_ln h ar := by
        rcases gm.2.2.2 with ⟨a, -, -, b⟩ | ⟨-, b, -⟩
        · rw [a, b] at full
          exact absurd rfl full
        · omega
      rw [if_neg (by
        show ¬ nI xs.length = nI (ix_ln h ar)
        rw [hw_eq (by omega) (by omega)]
        exact full)]
      exact put h A ar gm lt har fm (.inl rfl)
  obtain ⟨h', F', A', ar', e, r⟩ := key
  refine ⟨h', F', A', ar', ?_, r⟩
  rw [hw_cV e, hw_okn1_1, cond_true]
end
