/-! CS: the component: a store becomes another, whole -/
set_option maxRecDepth 100000
theorem c_becomes {h : ix_H} {L M : Nat → Nat} {nr mr : Nat} {S : zS} {F A : Nat → Nat → Int32} (hs : cS h L nr) (hm : cS h M mr) (ap : cAp L nr M mr) (hl : ∀ r, r < zn S → (S.1.2 r).length ≤ 44) (h32 : zp S ≤ 32) (hn : zn S ≤ mr) (hV : cV1 F A M S) (hsz : ix_sz h + 3 * (2000 - nr) + 6000 < 1099511627776) {N : Nat} (hN : 3000 ≤ N) (d : Nat) :
    cPo1 h F A L nr S none (ix_run iy_P N (d + 3) 206 [ix_R (some (L 0)), ix_R (some (M 0))] (hw h F A)) := by
  have h2000 := hm.2.2.2.2.2.2.1
  have hne : M 0 ≠ L 0 := ap 0 0 (by omega) (by omega)
  obtain ⟨m3, m4, m5, m6, m7, m8⟩ := hV.1.1
  rw [rX4_becomes N (d + 2)]
  unfold bX4_becomes
  rw [st_is hm, st_is hs, hw_fI, m6, hw_bdF, st_is hm, st_is hs, hw_fI, hw_R_ne _ _ hne, m7, hw_bdF, hw_R_R, hw_R_same, st_is hm, st_is hs, hw_fI, hw_R_ne _ _ hne, m8, hw_bdF, hw_R_R, hw_R_same, st_is hm, st_is hs, hw_fI, hw_R_ne _ _ hne, m3, hw_bdF, hw_R_R, hw_R_same, st_is hm, st_is hs, hw_fI, hw_R_ne _ _ hne, m4, hw_bdF, hw_R_R, hw_R_same, st_is hm, st_is hs, hw_fI, hw_R_ne _ _ hne, m5, hw_bdF, hw_R_R, hw_R_same, ← lX4_becomes_26]
  generalize hF1 : hw_R F (L 0) (hw_U (hw_U (hw_U (hw_U (hw_U (hw_U (F (L 0)) 6 (nI (zc S))) 7 (nI (zm S))) 8 (nI (zl S))) 3 (nI (zn S))) 4 (nI (zp S))) 5 (nI (ze S))) = F1
  have g0 : F1 (L 0) = hw_U (hw_U (hw_U (hw_U (hw_U (hw_U (F (L 0)) 6 (nI (zc S))) 7 (nI (zm S))) 8 (nI (zl S))) 3 (nI (zn S))) 4 (nI (zp S))) 5 (nI (ze S)) := by rw [← hF1, hw_R_same]
  have ex0 : cEx h F A L nr h F1 A L nr := cEx.refl hs (fun b _ hb => ⟨by rw [← hF1, hw_R_ne _ _ (hb 0 (by omega))], rfl⟩)
  have hV1 := ex0.other1 hm ap hn hV
  obtain ⟨h2, F2, A2, L2, n2, z2, e2, hz2, hs2, ex2, hn2, hE2, sz2, lo2⟩ := c_becomes_26 hl hn (show 1000 ≤ N by omega) d (N + 1) 0 h L nr F1 A (Nat.zero_le _) (by omega) (Nat.zero_le _) hs hm ap hV1 (by rw [g0]; simp (disch := omega) only [hw_R_same, hw_R_ne, hw_U_same, hw_U_ne]) (fun r hr => absurd hr (Nat.not_lt_zero _)) hsz
  have l2 : ∀ j, j < 18 → L2 j = L j := fun j hj => ex2.2.2.2.2.1 j (by omega)
  have hm2 : cS h2 M mr := ex2.other hm ap (by omega)
  have ap2 := ex2.apart hm ap
  have hV2 := ex2.other1 hm ap hn hV1
  have k0 : F2 (L2 0) = F1 (L 0) := by rw [l2 0 (by omega)]; exact (lo2 0 (by omega)).1
  have f3 : F2 (L2 0) 3 = nI (zn S) := by rw [k0, g0]; simp (disch := omega) only [hw_R_same, hw_R_ne, hw_U_same, hw_U_ne]
  have f4 : F2 (L2 0) 4 = nI (zp S) := by rw [k0, g0]; simp (disch := omega) only [hw_R_same, hw_R_ne, hw_U_same, hw_U_ne]
  rw [e2, lX4_becomes_26]
  unfold jX4_becomes_26
  rw [← l2 0 (by omega), st_is hs2, hw_fI, f3, if_pos (show nI (zn S) ≤ nI (zn S) by rw [hw_le (by omega) (by omega)]; omega), st_is hm2, st_is hs2, st_is hs2, hw_fR, hm2.1.2.2.1, hs2.1.2.2.1, c_is hm2.2.1.2.2.1, c_is hs2.2.1.2.2.1, f4, hw_ln, hm2.2.1.2.2.2.1, hs2.2.1.2.2.2.1, hw_cl (show 0 < 2147483648 by omega), hw_cl (show zp S < 2147483648 by omega)]
  have c0 : ∀ n, n < 2147483648 → ¬ nI n < (0 : Int32) := fun n hn => by
    show ¬ nI n < nI 0
    rw [hw_lt hn (by omega)]
    omega
  rw [if_pos ⟨c0 _ (by omega), c0 _ (by omega), c0 _ (by omega), by omega, by omega, by omega⟩, hw_cpI]
  show cPo1 h F A L nr S none (jX4_becomes_66 _ _ _ _ _ _)
  rw [← lX4_becomes_66]
  obtain ⟨F3, e3, q3, r3⟩ := c_becomes_66 hs2 hm2 ap2 N (d + 1) (hw_R A2 (L2 2) (fun j => if 0 ≤ j ∧ j < 0 + zp S then A2 (M 2) (0 + (j - 0)) else A2 (L2 2) j)) 4 0 (z2 + 1) F2 (by omega) (by omega) (fun k hk => by
    have w := (hV2.1.2.2.2 k hk)
    rw [w.2.2.2.2.2.2.2.2.1]
    exact w.2.2.2.2.2.2.2.2.2.1)
  rw [e3]
  have t3 : F3 (L2 0) = F2 (L2 0) := q3 _ (fun k hk => hs2.ne (by omega))
  refine ⟨h2, F3, _, L2, n2, rfl, hs2, hn2, (ex0.trans ex2).trans (cEx.refl hs2 (fun b _ hb => ⟨q3 b (fun k hk => hb _ (by omega)), hw_R_ne _ _ (hb 2 (by omega))⟩)), ⟨⟨?_, fun p hp => ?_, fun r hr => ?_, fun k hk => ?_⟩, fun k hk => ?_⟩⟩
  · rw [t3, k0, g0]
    refine ⟨?_, ?_, ?_, ?_, ?_, ?_⟩ <;> simp (disch := omega) only [hw_R_same, hw_R_ne, hw_U_same, hw_U_ne]
  · rw [hw_R_same, if_pos ⟨Nat.zero_le _, by omega⟩, Nat.zero_add, Nat.sub_zero]
    exact hV2.1.2.1 p hp
  · exact (hE2 r hr).keep (q3 _ (fun k hk => hs2.ne (by omega))) (hw_R_ne _ _ (hs2.ne (by omega))) (hw_R_ne _ _ (hs2.ne (by omega)))
  · have := r3 k hk
    rw [if_pos (Nat.zero_le _)] at this
    obtain ⟨g, hg⟩ := this
    unfold cH0
    rw [hg]
    exact c_hc_hd (hV2.1.2.2.2 k hk)
  · have := r3 k hk
    rw [if_pos (Nat.zero_le _)] at this
    obtain ⟨g, hg⟩ := this
    rw [hg, c_hc_at _ _ 3 (by omega)]
    exact hV2.2 k hk
