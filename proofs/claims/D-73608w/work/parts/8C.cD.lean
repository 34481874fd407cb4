/-! CD: the component: enters, removes, joins, strikes -/
set_option maxRecDepth 100000
theorem cB_noted {h h1 : ix_H} {F A F1 A1 : Nat → Nat → Int32} {L L1 : Nat → Nat} {nr n1 : Nat} {S2 : zS} {k : Nat} (b : cB h F A L nr h1 F1 A1 L1 n1 S2 k) (hh : cHd (F1 (L1 (5 + k))) (zh S2 k)) (h0 : zh S2 k 1 ≠ nI 0) (hW : z_W S2) {N : Nat} (hN : 2000 ≤ N) (d : Nat) (hc : zc S2 < 100) :
    cPo h F A L nr (if zc S2 < z_len S2 0 then z_sh (z_sh S2 k 2 (nI 0)) k 1 (nI 4) else z_go S2 k) k (ix_run iy_P N (d + 3) 195 [ix_R (some (L1 0)), ix_R (some (L1 (5 + k)))] (hw h1 F1 A1)) := by
  have hs := b.1
  have h15 : F1 (L1 (5 + k)) 15 = zh S2 k 9 := hh.2.2.2.2.2.2.2.2.1
  have h9 := hh.2.2.2.2.2.2.2.2.2.1
  have hp : 0 < zp S2 := by have := hW.2.1; omega
  have el := cB_len b hW (by rw [h15]; exact h9) (N := N) (by omega) (d + 1) (p := 0) hp
  have hlen : z_len S2 0 ≤ 840 := by
    have := (hW.pg (p := 0) hp).2.2
    unfold z_len
    omega
  have hc6 : F1 (L1 0) 6 = nI (zc S2) := b.2.2.2.1.1.2.2.2.1
  rw [rX4_noted N (d + 2)]
  unfold bX4_noted
  rw [st_isr hs, hw_cI el]
  dsimp only
  rw [st_is hs, hw_fI, hc6]
  by_cases hlt : zc S2 < z_len S2 0
  · rw [if_pos hlt, if_pos (show nI (zc S2) < nI (z_len S2 0) by rw [hw_lt (by omega) (by omega)]; exact hlt), h_is b.tg, hw_bdF]
    have b2 := cB_hand b (S2 := z_sh (z_sh S2 k 2 (nI 0)) k 1 (nI 4)) (g := hw_U (F1 (L1 (5 + k))) 4 (nI 0)) (by rw [hw_U_ne _ _ (by omega)]) rfl rfl rfl (fun j hj => by rw [zh_sh_ne _ _ _ hj, zh_sh_ne _ _ _ hj])
    exact cB_end b2 (by rw [hw_R_same, zh_sh, zh_sh]; exact cHd_pg0 hh h0) (by rw [zh_sh, hw_U_same])
  · rw [if_neg hlt, if_neg (show ¬ nI (zc S2) < nI (z_len S2 0) by rw [hw_lt (by omega) (by omega)]; exact hlt), h_isr b.tg]
    exact c_goR (cB_go b hh h0 N d)
theorem c_enters {h : ix_H} {L : Nat → Nat} {nr : Nat} {S : zS} {k : Nat} {F A : Nat → Nat → Int32} (p : cPre h L nr S k F A) (h8 : zh S k 1 = nI 8) {N : Nat} (hN : 2000 ≤ N) (d : Nat) (hW2 : nI (zt S 0) = zh S k 10 → zn S < 1400 ∧ z_W (z_enter S k)) (hc : zc S < 100) :
    cPo h F A L nr (z_enter S k) k (ix_run iy_P N (d + 10) 194 [ix_R (some (L 0)), ix_R (some (L (5 + k)))] (hw h F A)) := by
  have pp := p
  obtain ⟨hs, hW, hn, hk, hV⟩ := p
  have hh := pp.hd
  have ht := pp.tg
  have h0 : zh S k 1 ≠ nI 0 := by rw [h8]; decide
  have h2 := hW.2.1
  have f5 : F (L (5 + k)) 5 = zh S k 10 := hh.2.2.2.2.2.2.2.2.2.2.1 (Or.inr (Or.inr (Or.inl h8)))
  obtain ⟨f7, f8⟩ := hh.2.2.2.2.2.2.2.2.2.2.2.2.1 (Or.inr h8)
  rw [rX4_enters N (d + 9)]
  unfold bX4_enters
  rw [st_is hs, st_top hs, hw_in (by omega) (by omega), cond_true, h_is ht, hw_aI, hw_cl (by omega), hV.2.1 0 (by omega), hw_fI, f5]
  by_cases hsn : nI (zt S 0) = zh S k 10
  · obtain ⟨hn2, hW2⟩ := hW2 hsn
    have ez : z_enter S k = z_chg S k (nI 6) (zh S k 12) (zh S k 13) := by
      unfold z_enter
      rw [if_pos hsn]
    rw [ez] at hW2 ⊢
    unfold z_chg at hW2 ⊢
    dsimp only at hW2 ⊢
    have b1 := cB_start pp (cSc.refl L F A)
    obtain ⟨h2', F2, A2, L2, n2, e2, hlt2, hold, hg2, hl2, hs2, hB2⟩ := cB_new b1 (by omega) N (d + 7) (nI 6) (zh S k 12) (zh S k 13) (zh S k 10) (-2)
    have b3 := hB2 F2 (fun _ _ => rfl) (by obtain ⟨g, hg⟩ := hg2; rw [hg]; exact c_rw_row g (-2) (by decide))
    have ezl : z_nw S (z_f (nI 6) (zh S k 12) (zh S k 13) (zh S k 10) (nI 0) (nI 0) (-2) (-2)) [] = z_nw S (z_leaf (nI 6) (zh S k 12) (zh S k 13) (zt S 0)) [] := by
      unfold z_leaf
      rw [← hsn]
    rw [ezl] at b3
    have b4 := cB_st b3 0 (zn S)
    have hk5 : L2 (5 + k) = L (5 + k) := (hold (5 + k) (by omega)).1
    have hk0 : L2 0 = L 0 := (hold 0 (by omega)).1
    have hk2 : L2 2 = L 2 := (hold 2 (by omega)).1
    have hrow : F2 (L2 (5 + k)) = F (L (5 + k)) := by rw [hk5, (hold (5 + k) (by omega)).2.1, if_neg (by omega)]
    have hat2 : ∀ (F A : Nat → Nat → Int32) (i : Int32) (f : Nat → ix_O), (ix_at (hw h2' F A) 101 (some (L 2)) i).bind f = cond (ix_in i 32) (f (L 2)) none := fun F A i f => by
      rw [← hk2]
      exact c_at hs2.2.1.2.2.1 hs2.2.1.2.2.2.1 F A i f
    have hWS := z_W_if2 (T := z_st (z_nw S (z_leaf (nI 6) (zh S k 12) (zh S k 13) (zt S 0)) []) 0 (zn S)) hW2 (fun w => w) (fun w => w)
    rw [if_pos hsn, st_is hs, h_is ht, h_is ht, h_is ht, st_isr hs, f7, f8, f5, hw_fR, hs.1.2.2.1, hw_cI e2]
    dsimp only
    rw [hat2, hw_in (by omega) (by omega), cond_true, hw_bdA, ← hk2, ← hk0, st_isr hs2, ← hk5]
    exact c_goR (cB_noted b4 (by rw [hrow]; exact hh) h0 hWS hN (d + 6) hc)
  · have ez : z_enter S k = z_sh (z_lose S k) k 1 (nI 7) := by
      unfold z_enter
      rw [if_neg hsn]
    rw [ez, if_neg hsn, h_isr ht]
    refine c_goR ?_
    rw [c_lost ht F A N (d + 8)]
    refine cPo_h pp (cSc.refl L F A) (S' := z_sh (z_lose S k) k 1 (nI 7)) rfl rfl rfl (fun j hj => ?_) ?_ ?_ (by rw [hw_U_ne _ _ (by omega)])
    · unfold z_lose
      rw [zh_sh_ne _ _ _ hj, zh_sh_ne _ _ _ hj]
    · rw [zh_sh, hw_U_same]
    · unfold z_lose
      rw [zh_sh, zh_sh]
      exact cHd_lose7 hh h0 h8
theorem c_removes {h : ix_H} {L : Nat → Nat} {nr : Nat} {S : zS} {k : Nat} {F A : Nat → Nat → Int32} (p : cPre h L nr S k F A) (h9 : zh S k 1 = nI 9) {N : Nat} (hN : 2000 ≤ N) (d : Nat) (hp : z_at S k < zp S) (hat : zh S k 2 = nI (z_at S k)) (hn2 : nI (zt S (z_at S k)) = zh S k 10 → zn S < 1400) (hl : ∀ q ∈ (z_pg S 0).1, nI 0 ≤ q.1) :
    cPo h F A L nr (z_remov S k) k (ix_run iy_P N (d + 10) 196 [ix_R (some (L 0)), ix_R (some (L (5 + k)))] (hw h F A)) := by
  have pp := p
  obtain ⟨hs, hW, hn, hk, hV⟩ := p
  have hh := pp.hd
  have ht := pp.tg
  have h0 : zh S k 1 ≠ nI 0 := by rw [h9]; decide
  have h32 := hW.2.2.1
  have f4 : F (L (5 + k)) 4 = nI (z_at S k) := hh.2.2.2.1.trans hat
  have f6 : F (L (5 + k)) 6 = zh S k 10 := hh.2.2.2.2.2.2.2.2.2.2.2.1 (Or.inr h9)
  rw [rX4_removes N (d + 9)]
  unfold bX4_removes jX4_removes_13
  rw [st_is hs, h_is ht, hw_fI, f4, st_top hs, hw_in (by omega) (by omega), cond_true, h_is ht, hw_aI, hw_cl (by omega), hV.2.1 _ hp, f6]
  by_cases hsn : nI (zt S (z_at S k)) = zh S k 10
  · have hn2 := hn2 hsn
    obtain ⟨F1, A1, e1, q1, g1⟩ := c_boundOf hs hW hn hV hN (d + 2) (nI (z_at S k))
    have hF1 : F1 (L (5 + k)) = F (L (5 + k)) := q1.1 _ (hs.ne (by omega))
    rw [if_pos hsn, h_is ht, st_isr hs, f4, hw_cI e1]
    dsimp only
    have no : z_remov S k = z_go S k → cPo h F A L nr (z_remov S k) k ((ix_isr (hw h F1 A1) 7 (some (L (5 + k)))).bind fun a6 => (ix_rI (ix_run iy_P N (d + 9) 223 [ix_R (some a6)] (hw h F1 A1))).bind fun r5 => some (Sum.inl (some (ix_I r5.1)), r5.2)) := fun ez => by
      rw [ez, h_isr ht]
      exact c_goR (c_go pp h0 q1.s12 N (d + 7))
    cases hg : kv_ix (nI (z_at S k)) (z_pg S 0).1 with
    | none =>
      have ez : z_remov S k = z_go S k := by
        unfold z_remov
        rw [hat, hg]
      dsimp only
      rw [if_neg (show ¬ nI 0 < (-1 : Int32) by decide)]
      exact no ez
    | some b =>
      have hb := kv_ix_lt hg
      dsimp only
      have hge := c_bnd hl hb
      by_cases hz : (kv_nth (z_pg S 0).1 b).1 = nI 0
      · have ez : z_remov S k = z_go S k := by
          unfold z_remov
          rw [hat, hg]
          dsimp only
          rw [if_neg (fun w => w.2 hz)]
        rw [if_neg (show ¬ nI 0 < (kv_nth (z_pg S 0).1 b).1 from fun w => kv_lt_ne w hz.symm)]
        exact no ez
      · have ez : z_remov S k = z_left (z_st (z_nw S (z_leaf (nI 4) (-2) (-2) (zt S (z_at S k))) []) (z_at S k) (zn S)) k (nI (z_at S k)) := by
          unfold z_remov
          rw [hat, hg]
          dsimp only
          rw [if_pos ⟨hsn, hz⟩]
        rw [ez, if_pos (show nI 0 < (kv_nth (z_pg S 0).1 b).1 from kv_le_lt hge (fun w => hz w.symm))]
        have b1 := cB_start pp q1.s12
        obtain ⟨h2', F2, A2, L2, n2, e2, hlt2, hold, hg2, hl2, hs2, hB2⟩ := cB_new b1 (by omega) N (d + 7) (nI 4) (-2) (-2) (zh S k 10) (-2)
        have b3 := hB2 F2 (fun _ _ => rfl) (by obtain ⟨g, hg⟩ := hg2; rw [hg]; exact c_rw_row g (-2) (by decide))
        have ezl : z_nw S (z_f (nI 4) (-2) (-2) (zh S k 10) (nI 0) (nI 0) (-2) (-2)) [] = z_nw S (z_leaf (nI 4) (-2) (-2) (zt S (z_at S k))) [] := by
          unfold z_leaf
          rw [← hsn]
        rw [ezl] at b3
        have b4 := cB_st b3 (z_at S k) (zn S)
        have hk5 : L2 (5 + k) = L (5 + k) := (hold (5 + k) (by omega)).1
        have hk2 : L2 2 = L 2 := (hold 2 (by omega)).1
        have hrow : F2 (L2 (5 + k)) = F (L (5 + k)) := by rw [hk5, (hold (5 + k) (by omega)).2.1, if_neg (by omega), hF1]
        have hat2 : ∀ (F A : Nat → Nat → Int32) (i : Int32) (f : Nat → ix_O), (ix_at (hw h2' F A) 101 (some (L 2)) i).bind f = cond (ix_in i 32) (f (L 2)) none := fun F A i f => by
          rw [← hk2]
          exact c_at hs2.2.1.2.2.1 hs2.2.1.2.2.2.1 F A i f
        rw [st_is hs, h_is ht, h_is ht, st_isr hs, hw_fI, hF1, f6, f4, hw_fR, hs.1.2.2.1, hw_cI e2]
        dsimp only
        rw [hat2, hw_in (by omega) (by omega), cond_true, hw_bdA, hw_cl (by omega), ← hk5, h_is b4.tg, h_is b4.tg, hw_bdF, hw_fI, hrow, f4, ← hk2]
        have b5 := cB_hand b4 (S2 := z_left (z_st (z_nw S (z_leaf (nI 4) (-2) (-2) (zt S (z_at S k))) []) (z_at S k) (zn S)) k (nI (z_at S k))) (g := hw_U (F (L (5 + k))) 9 (nI (z_at S k))) (by rw [hw_U_ne _ _ (by omega), hrow]) rfl rfl rfl (fun j hj => by unfold z_left; rw [zh_sh_ne _ _ _ hj, zh_sh_ne _ _ _ hj])
        refine cB_end b5 ?_ ?_
        · rw [hw_R_same]
          unfold z_left
          rw [zh_sh, zh_sh]
          exact cHd_left hh h0 _
        · unfold z_left
          rw [zh_sh, hw_U_same]
  · have ez : z_remov S k = z_go S k := by
      unfold z_remov
      rw [hat]
      split
      · rw [if_neg (fun w => hsn w.1)]
      · rfl
    rw [ez, if_neg hsn, h_isr ht]
    exact c_goR (c_go pp h0 (cSc.refl L F A) N (d + 7))
