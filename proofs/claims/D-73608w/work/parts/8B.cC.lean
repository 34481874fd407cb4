/-! CC: the component: prepends, enters, removes, noted -/
set_option maxRecDepth 100000
theorem cB_go {h h1 : ix_H} {F A F1 A1 : Nat → Nat → Int32} {L L1 : Nat → Nat} {nr n1 : Nat} {S1 : zS} {k : Nat} (b : cB h F A L nr h1 F1 A1 L1 n1 S1 k) (hh : cHd (F1 (L1 (5 + k))) (zh S1 k)) (h0 : zh S1 k 1 ≠ nI 0) (N d : Nat) : cPo h F A L nr (z_go S1 k) k (ix_run iy_P N (d + 2) 223 [ix_R (some (L1 (5 + k)))] (hw h1 F1 A1)) := by
  have h15 : F1 (L1 (5 + k)) 15 = zh S1 k 9 := hh.2.2.2.2.2.2.2.2.1
  have h9 := hh.2.2.2.2.2.2.2.2.2.1
  rw [c_goesOn b.tg F1 A1 N d (by rw [h15]; exact h9), h15]
  unfold z_go
  rcases h9 with w | w
  · have e1 : ¬ zh S1 k 9 = nI 1 := by rw [w]; decide
    rw [if_neg e1, if_neg e1]
    have b2 := cB_hand b (S2 := z_sh S1 k 1 (nI 1)) (g := F1 (L1 (5 + k))) rfl rfl rfl rfl (fun j hj => zh_sh_ne _ _ _ hj)
    rw [hw_R_self] at b2
    exact cB_end b2 (by rw [zh_sh]; exact cHd_go0 hh h0 w) (by rw [zh_sh, hw_U_same])
  · rw [if_pos w, if_pos w]
    have b2 := cB_hand b (S2 := z_sh S1 k 1 (nI 0)) (g := hw_U (F1 (L1 (5 + k))) 13 (-2)) (by rw [hw_U_ne _ _ (by omega)]) rfl rfl rfl (fun j hj => zh_sh_ne _ _ _ hj)
    exact cB_end b2 (by rw [hw_R_same, zh_sh]; exact cHd_go1 hh h0 w) (by rw [zh_sh, hw_U_same])
/-- the same, over another state of hand k -/
theorem c_prepends {h : ix_H} {L : Nat → Nat} {nr : Nat} {S : zS} {k : Nat} {F A : Nat → Nat → Int32} (p : cPre h L nr S k F A) (h3 : zh S k 1 = nI 3) {N : Nat} (hN : 2000 ≤ N) (d : Nat) (hp : z_at S k < zp S) (hat : zh S k 2 = nI (z_at S k)) (hact : zh S k 0 = nI 1 ∨ zh S k 0 = nI 2) (hW2 : nI (zt S (z_at S k)) = zh S k 10 → zn S < 1400 ∧ z_W (z_prep S k)) (hc : zc S < 100) :
    cPo h F A L nr (z_prep S k) k (ix_run iy_P N (d + 10) 188 [ix_R (some (L 0)), ix_R (some (L (5 + k)))] (hw h F A)) := by
  have pp := p
  obtain ⟨hs, hW, hn, hk, hV⟩ := p
  have hh := pp.hd
  have ht := pp.tg
  have h0 : zh S k 1 ≠ nI 0 := by rw [h3]; decide
  have h32 := hW.2.2.1
  have hpg := hW.pg hp
  have f0 : F (L (5 + k)) 0 = zh S k 0 := hh.1
  have f1 : F (L (5 + k)) 1 = zh S k 6 := hh.2.1
  have f2 : F (L (5 + k)) 2 = zh S k 7 := hh.2.2.1 h0
  have f4 : F (L (5 + k)) 4 = nI (z_at S k) := hh.2.2.2.1.trans hat
  have f5 : F (L (5 + k)) 5 = zh S k 10 := hh.2.2.2.2.2.2.2.2.2.2.1 (Or.inl h3)
  rw [rX4_prepends N (d + 9)]
  unfold bX4_prepends
  rw [st_is hs, h_is ht, hw_fI, f4, st_top hs, hw_in (by omega) (by omega), cond_true, h_is ht, hw_aI, hw_cl (by omega), hV.2.1 _ hp, f5]
  by_cases hsn : nI (zt S (z_at S k)) = zh S k 10
  · obtain ⟨hn2, hW2⟩ := hW2 hsn
    obtain ⟨F1, A1, e1, q1, g1⟩ := c_lays hs hW hn hs.he hs.x9 ⟨hs.ne (by omega), hs.ne (by omega)⟩ hV hN (d + 4) hp
    have hF1 : F1 (L (5 + k)) = F (L (5 + k)) := q1.1 _ (hs.ne (by omega))
    have ea := c_at1 hs.he (show 1000 ≤ N by omega) (d + 8) g1.1 hpg.1 (by omega) (zh S k 6)
    rw [if_pos hsn, h_is ht, st_is hs, st_isr hs, f4, hw_fR, hs.1.2.2.2.2.1, hw_cV e1, st_is hs, h_is ht, st_heR hs, hw_fI, hF1, f1, hw_cI ea]
    dsimp only
    unfold z_prep at hW2 ⊢
    rw [if_pos hsn] at hW2 ⊢
    dsimp only at hW2 ⊢
    have b1 := cB_start pp q1.s9
    -- what follows, for what was there
    have main : ∀ (x : Int32) (K : ix_K) (SR : zS), SR = z_rest S k x → z_W (z_st (z_nw SR (z_leaf (if zh S k 0 = nI 1 then nI 1 else nI 2) (zh S k 6) (if zh S k 0 = nI 1 then zh S k 7 else -2) (zt S (z_at S k))) []) (z_at S k) (zn S)) → cPo h F A L nr (if zc S < z_len (z_st (z_nw SR (z_leaf (if zh S k 0 = nI 1 then nI 1 else nI 2) (zh S k 6) (if zh S k 0 = nI 1 then zh S k 7 else -2) (zt S (z_at S k))) []) (z_at S k) (zn S)) (z_at S k) then z_sh (z_st (z_nw SR (z_leaf (if zh S k 0 = nI 1 then nI 1 else nI 2) (zh S k 6) (if zh S k 0 = nI 1 then zh S k 7 else -2) (zt S (z_at S k))) []) (z_at S k) (zn S)) k 1 (nI 4) else (z_st (z_nw SR (z_leaf (if zh S k 0 = nI 1 then nI 1 else nI 2) (zh S k 6) (if zh S k 0 = nI 1 then zh S k 7 else -2) (zt S (z_at S k))) []) (z_at S k) (zn S))) k (jX4_prepends_28 (ix_run iy_P N (d + 9)) K (L 0) (some (L (5 + k))) (some (L (5 + k))) x (hw h F1 A1)) := by
      intro x K SR hSR hWS
      generalize hact2 : (if zh S k 0 = nI 1 then nI 1 else nI 2) = act at hWS ⊢
      generalize hval : (if zh S k 0 = nI 1 then zh S k 7 else (-2 : Int32)) = val at hWS ⊢
      have hA : zh S k 0 = act := by
        rw [← hact2]
        rcases hact with w | w
        · rw [if_pos w, w]
        · rw [if_neg (by rw [w]; decide), w]
      have ha5 : act ≠ nI 5 := by
        rw [← hA]
        rcases hact with w | w <;> rw [w] <;> decide
      have hzr : zh SR k = hw_U (hw_U (hw_U (zh S k) 8 x) 9 (nI 1)) 1 (nI 0) := by
        rw [hSR]
        unfold z_rest
        rw [zh_sh, zh_sh, zh_sh]
      have b2 := cB_hand b1 (S2 := SR) (g := hw_U (hw_U (F (L (5 + k))) 14 x) 15 (nI 1)) (by rw [hw_U_ne _ _ (by omega), hw_U_ne _ _ (by omega), hF1]) (by rw [hSR]; rfl) (by rw [hSR]; rfl) (by rw [hSR]; rfl) (fun j hj => by rw [hSR]; unfold z_rest; rw [zh_sh_ne _ _ _ hj, zh_sh_ne _ _ _ hj, zh_sh_ne _ _ _ hj])
      have hnR : zn SR = zn S := by rw [hSR]; rfl
      have hpR : zp SR = zp S := by rw [hSR]; rfl
      have hcR : zc SR = zc S := by rw [hSR]; rfl
      obtain ⟨h2, F2, A2, L2, n2, e2, hlt2, hold, hg2, hl2, hs2, hB2⟩ := cB_new b2 (by omega) N (d + 7) act (zh S k 6) val (zh S k 10) (-2)
      have b3 := hB2 F2 (fun _ _ => rfl) (by obtain ⟨g, hg⟩ := hg2; rw [hg]; exact c_rw_row g (-2) ha5)
      rw [hnR] at e2
      have ez : z_nw SR (z_f act (zh S k 6) val (zh S k 10) (nI 0) (nI 0) (-2) (-2)) [] = z_nw SR (z_leaf act (zh S k 6) val (zt S (z_at S k))) [] := by
        unfold z_leaf
        rw [← hsn]
      rw [ez] at b3
      have b4 := cB_st b3 (z_at S k) (zn S)
      have hS4 : zn (z_st (z_nw SR (z_leaf act (zh S k 6) val (zt S (z_at S k))) []) (z_at S k) (zn S)) = zn SR + 1 := rfl
      have hk5 : L2 (5 + k) = L (5 + k) := (hold (5 + k) (by omega)).1
      have hk0 : L2 0 = L 0 := (hold 0 (by omega)).1
      have hk2 : L2 2 = L 2 := (hold 2 (by omega)).1
      have hrow : F2 (L2 (5 + k)) = hw_U (hw_U (F (L (5 + k))) 14 x) 15 (nI 1) := by
        rw [hk5, (hold (5 + k) (by omega)).2.1, if_neg (by omega), hw_R_same]
      have hz4 : zh (z_st (z_nw SR (z_leaf act (zh S k 6) val (zt S (z_at S k))) []) (z_at S k) (zn S)) k = hw_U (hw_U (hw_U (zh S k) 8 x) 9 (nI 1)) 1 (nI 0) := hzr
      have el := cB_len b4 hWS (by rw [hrow, hw_U_same]; exact Or.inr rfl) (N := N) (by omega) (d + 8) (p := z_at S k) (by show z_at S k < zp SR; omega)
      have htg2 : ix_tg h2 (L2 (5 + k)) = 7 := b4.tg
      have hlen : z_len (z_st (z_nw SR (z_leaf act (zh S k 6) val (zt S (z_at S k))) []) (z_at S k) (zn S)) (z_at S k) ≤ 840 := by
        have := (hWS.pg (p := z_at S k) (by show z_at S k < zp SR; omega)).2.2
        unfold z_len
        omega
      generalize hS4e : z_st (z_nw SR (z_leaf act (zh S k 6) val (zt S (z_at S k))) []) (z_at S k) (zn S) = S4 at b4 el hlen hz4 hWS ⊢
      have hc6 : F2 (L2 0) 6 = nI (zc S) := by
        have := b4.2.2.2.1.1.2.2.2.1
        rw [this, ← hS4e]
        show nI (zc SR) = _
        rw [hcR]
      rw [hk2] at b4 el
      have step50 : ∀ (y : Int32) K, y = val → cPo h F A L nr (if zc S < z_len S4 (z_at S k) then z_sh S4 k 1 (nI 4) else S4) k (jX4_prepends_50 (ix_run iy_P N (d + 9)) K (L 0) (some (L (5 + k))) (some (L 2)) (nI (z_at S k)) (some (L 0)) act (zh S k 6) y (hw h (hw_R F1 (L (5 + k)) (hw_U (hw_U (F (L (5 + k))) 14 x) 15 (nI 1))) A1)) := by
        intro y K hy
        subst hy
        unfold jX4_prepends_50 jX4_prepends_66
        have hat2 : ∀ (F A : Nat → Nat → Int32) (i : Int32) (f : Nat → ix_O), (ix_at (hw h2 F A) 101 (some (L 2)) i).bind f = cond (ix_in i 32) (f (L 2)) none := fun F A i f => by
          rw [← hk2]
          exact c_at hs2.2.1.2.2.1 hs2.2.1.2.2.2.1 F A i f
        rw [h_is ht, st_isr hs, hw_fI, hw_R_same, hw_U_ne _ _ (show 5 ≠ 15 by omega), hw_U_ne _ _ (show 5 ≠ 14 by omega), f5, hw_cI e2]
        dsimp only
        rw [hat2, hw_in (by omega) (by omega), cond_true, hw_bdA, hw_cl (by omega), ← hk5, h_is htg2, ← hk0, st_isr hs2, hw_fI, hrow, hw_U_ne _ _ (show 4 ≠ 15 by omega), hw_U_ne _ _ (show 4 ≠ 14 by omega), f4, hw_cI el]
        dsimp only
        rw [st_is hs2, hw_fI, hc6]
        by_cases hle : z_len S4 (z_at S k) ≤ zc S
        · rw [if_pos (show nI (z_len S4 (z_at S k)) ≤ nI (zc S) by rw [hw_le (by omega) (by omega)]; exact hle), if_neg (Nat.not_lt.mpr hle), h_isr htg2, hw_cI (c_rests htg2 _ _ N (d + 8))]
          dsimp only
          rw [hrow]
          have b5 := cB_hand b4 (S2 := S4) (g := hw_U (hw_U (hw_U (F (L (5 + k))) 14 x) 15 (nI 1)) 13 (-2)) (by rw [hw_U_ne _ _ (by omega), hrow]) rfl rfl rfl (fun _ _ => rfl)
          exact cB_end b5 (by rw [hw_R_same, hz4]; exact cHd_tell hh h0 x) (by rw [hz4, hw_U_same])
        · rw [if_neg (show ¬ nI (z_len S4 (z_at S k)) ≤ nI (zc S) by rw [hw_le (by omega) (by omega)]; exact hle), if_pos (Nat.lt_of_not_le hle)]
          have b5 := cB_hand b4 (S2 := z_sh S4 k 1 (nI 4)) (g := F2 (L2 (5 + k))) rfl rfl rfl rfl (fun j hj => zh_sh_ne _ _ _ hj)
          rw [hw_R_self] at b5
          exact cB_end b5 (by rw [hrow, zh_sh, hz4]; exact cHd_prep hh h0 x) (by rw [zh_sh, hw_U_same])
      unfold jX4_prepends_28
      rw [h_is ht, hw_bdF, h_is ht, hw_okn1_1, cond_true, hw_bdF, hw_R_R, hw_R_same, hF1, st_is hs, h_is ht, h_is ht, h_is ht, h_is ht, hw_fI, hw_R_same]
      simp (disch := omega) only [hw_U_ne]
      rw [f0, f1, f4, hw_fR, hs.1.2.2.1]
      by_cases ha1 : zh S k 0 = nI 1
      · rw [if_pos ha1, h_is ht, hw_R_same, hw_U_ne _ _ (show 2 ≠ 15 by omega), hw_U_ne _ _ (show 2 ≠ 14 by omega), f2, hA]
        exact step50 _ _ (by rw [← hval, if_pos ha1])
      · rw [if_neg ha1, hA]
        exact step50 _ _ (by rw [← hval, if_neg ha1])
    have hnn := kv_wh_le (zh S k 6) (z_pg S (z_at S k)).1
    by_cases hg : kv_get (zh S k 6) (z_pg S (z_at S k)).1 = none
    · rw [if_pos hg] at hW2 ⊢
      rw [if_pos hg, if_pos (show (-1 : Int32) < nI 0 by decide)]
      exact main (nI 0) _ _ rfl (z_W_if hW2 (fun w => w))
    · rw [if_neg hg] at hW2 ⊢
      rw [if_neg hg, if_neg (show ¬ nI (kv_wh (zh S k 6) (z_pg S (z_at S k)).1) < nI 0 by rw [hw_lt (by omega) (by omega)]; omega)]
      exact main (nI 1) _ _ rfl (z_W_if hW2 (fun w => w))
  · have ez : z_prep S k = z_sh (z_lose S k) k 1 (nI 2) := by
      unfold z_prep
      rw [if_neg hsn]
    rw [ez, if_neg hsn, h_isr ht]
    refine c_goR ?_
    rw [c_lost ht F A N (d + 8)]
    refine cPo_h pp (cSc.refl L F A) (S' := z_sh (z_lose S k) k 1 (nI 2)) rfl rfl rfl (fun j hj => ?_) ?_ ?_ (by rw [hw_U_ne _ _ (by omega)])
    · unfold z_lose
      rw [zh_sh_ne _ _ _ hj, zh_sh_ne _ _ _ hj]
    · rw [zh_sh, hw_U_same]
    · unfold z_lose
      rw [zh_sh, zh_sh]
      exact cHd_lose2 hh h0
