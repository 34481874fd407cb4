/-! CQ: the component: a store becomes another -/
set_option maxRecDepth 100000
theorem c_becomes_26 {M : Nat → Nat} {mr : Nat} {S : zS} (hl : ∀ r, r < zn S → (S.1.2 r).length ≤ 44) (hn : zn S ≤ mr) {N : Nat} (hN : 1000 ≤ N) (d : Nat) : ∀ z i h L nr F A, i ≤ zn S → zn S - i < z → i ≤ nr → cS h L nr → cS h M mr → cAp L nr M mr → cV1 F A M S → F (L 0) 3 = nI (zn S) → (∀ r, r < i → cE F A (L (18 + 3 * r)) (L (19 + 3 * r)) (L (20 + 3 * r)) S.1 r) → ix_sz h + 3 * (2000 - nr) + 6000 < 1099511627776 →
    ∃ h' F' A' L' nr' z', ix_lp (ix_run iy_P N (d + 2)) stX4_becomes z 26 [(0, ix_R (some (L 0))), (1, ix_R (some (M 0))), (2, ix_I (nI i))] [] (hw h F A) = ix_lp (ix_run iy_P N (d + 2)) stX4_becomes (z' + 1) 26 [(0, ix_R (some (L 0))), (1, ix_R (some (M 0))), (2, ix_I (nI (zn S)))] [] (hw h' F' A') ∧ z ≤ z' + 1 + (zn S - i) ∧ cS h' L' nr' ∧ cEx h F A L nr h' F' A' L' nr' ∧ zn S ≤ nr' ∧ (∀ r, r < zn S → cE F' A' (L' (18 + 3 * r)) (L' (19 + 3 * r)) (L' (20 + 3 * r)) S.1 r) ∧ ix_sz h' + 3 * (2000 - nr') = ix_sz h + 3 * (2000 - nr) ∧ (∀ j, j < 18 → F' (L j) = F (L j) ∧ A' (L j) = A (L j)) := by
  intro z
  induction z with
  | zero => intro i h L nr F A _ h; omega
  | succ z ih =>
    intro i h L nr F A hi hz hin hs hm ap hV h3 hE hsz
    have h2000 := hm.2.2.2.2.2.2.1
    have hlo := hs.2.2.2.2.2.2.2.2.1
    rcases Nat.lt_or_ge i (zn S) with h1 | h1
    · obtain ⟨h1', F1, A1, L1, n1, e, hs1, ex1, hlt, hb⟩ := c_slot hs hin (by omega) F A N (d + 1)
      have e2 := e (jX4_becomes_43 (ix_run iy_P N (d + 2)) (ix_lp (ix_run iy_P N (d + 2)) stX4_becomes z) (L 0) (some (M 0)) (nI i))
      rw [hw_cl (by omega)] at e2
      have n2000 := hs1.2.2.2.2.2.2.1
      have sz1 : ix_sz h1' + 3 * (2000 - n1) = ix_sz h + 3 * (2000 - nr) := by
        have := ex1.2.1
        have := ex1.1
        omega
      have hm1 : cS h1' M mr := ex1.other hm ap (by omega)
      have ap1 : cAp L1 n1 M mr := ex1.apart hm ap
      have hV1 : cV1 F1 A1 M S := ex1.other1 hm ap hn hV
      have l0 : L1 0 = L 0 := ex1.2.2.2.2.1 0 (by omega)
      have lo1 : ∀ j, j < 18 + 3 * nr → F1 (L j) = F (L j) ∧ A1 (L j) = A (L j) := fun j hj => hb _ (hlo j hj)
      have hr1 := hs1.rc hlt
      have hrM := hm1.rc (show i < mr by omega)
      have hd : cD (L1 (18 + 3 * i)) (L1 (19 + 3 * i)) (L1 (20 + 3 * i)) (M (18 + 3 * i)) (M (19 + 3 * i)) (M (20 + 3 * i)) := ⟨(ap1 _ _ (by omega) (by omega)).symm, (ap1 _ _ (by omega) (by omega)).symm, (ap1 _ _ (by omega) (by omega)).symm, (ap1 _ _ (by omega) (by omega)).symm, (ap1 _ _ (by omega) (by omega)).symm⟩
      obtain ⟨F3, A3, e3, q1, q2, hE3⟩ := c_rbecomes hr1 hrM hd (hV1.1.2.2.1 i h1) (hl i h1) hN d
      have ex3 : cEx h1' F1 A1 L1 n1 h1' F3 A3 L1 n1 := cEx.refl hs1 (fun b _ hn => ⟨q1 b (hn _ (by omega)), q2 b (hn _ (by omega)) (hn _ (by omega))⟩)
      have r1 : ix_aR h1' (L1 1) i = some (L1 (18 + 3 * i)) := hs1.2.2.2.2.1 i hlt
      have rM : ix_aR h1' (M 1) i = some (M (18 + 3 * i)) := hm1.2.2.2.2.1 i (by omega)
      have w3 : F3 (L1 0) 3 = nI (zn S) := by rw [q1 _ (hs1.ne (by omega)), l0, (lo1 0 (by omega)).1, h3]
      have hE1 : ∀ r, r < i + 1 → cE F3 A3 (L1 (18 + 3 * r)) (L1 (19 + 3 * r)) (L1 (20 + 3 * r)) S.1 r := fun r hr => by
        by_cases w : r = i
        · subst w
          exact hE3
        · have hr' : r < i := by omega
          have j0 : L1 (18 + 3 * r) = L (18 + 3 * r) := ex1.2.2.2.2.1 _ (by omega)
          have j1 : L1 (19 + 3 * r) = L (19 + 3 * r) := ex1.2.2.2.2.1 _ (by omega)
          have j2 : L1 (20 + 3 * r) = L (20 + 3 * r) := ex1.2.2.2.2.1 _ (by omega)
          have c0 := q1 (L1 (18 + 3 * r)) (hs1.ne (by omega))
          have c1 := q2 (L1 (19 + 3 * r)) (hs1.ne (by omega)) (hs1.ne (by omega))
          have c2 := q2 (L1 (20 + 3 * r)) (hs1.ne (by omega)) (hs1.ne (by omega))
          rw [j0] at c0
          rw [j1] at c1
          rw [j2] at c2
          rw [j0, j1, j2]
          exact (hE r hr').keep (c0.trans (lo1 _ (by omega)).1) (c1.trans (lo1 _ (by omega)).2) (c2.trans (lo1 _ (by omega)).2)
      obtain ⟨h', F', A', L', nr', z', e4, hz', hs', ex', hn', hE', sz', lo'⟩ := ih (i + 1) h1' L1 n1 F3 A3 h1 (by omega) hlt hs1 hm1 ap1 (ex3.other1 hm1 ap1 hn hV1) w3 hE1 (by omega)
      refine ⟨h', F', A', L', nr', z', ?_, by omega, hs', (ex1.trans ex3).trans ex', hn', hE', by omega, fun j hj => ?_⟩
      · rw [lX4_becomes_26]
        unfold jX4_becomes_26
        rw [st_is hs, hw_fI, h3, if_neg (show ¬ nI (zn S) ≤ nI i by rw [hw_le (by omega) (by omega)]; omega), st_is hs, st_rec hs, hw_in (by omega) (by omega), cond_true, hw_aR, hw_cl (by omega), e2]
        unfold jX4_becomes_43
        rw [← l0, st_is hs1, st_rec hs1, hw_in (by omega) (by omega), cond_true, st_is hm1, st_rec hm1, hw_in (by omega) (by omega), cond_true, hw_aR, hw_cl (by omega), r1, cp_isr hr1, rM, hw_cV e3, nI_add]
        exact e4
      · have k := lo' j hj
        have lj : L1 j = L j := ex1.2.2.2.2.1 _ (by omega)
        rw [lj] at k
        have c0 := q1 (L1 j) (hs1.ne (by omega))
        have c1 := q2 (L1 j) (hs1.ne (by omega)) (hs1.ne (by omega))
        rw [lj] at c0 c1
        exact ⟨k.1.trans (c0.trans (lo1 j (by omega)).1), k.2.trans (c1.trans (lo1 j (by omega)).2)⟩
    · obtain rfl : i = zn S := by omega
      exact ⟨h, F, A, L, nr, z, rfl, by omega, hs, cEx.refl hs (fun _ _ _ => ⟨rfl, rfl⟩), hin, hE, rfl, fun _ _ => ⟨rfl, rfl⟩⟩
