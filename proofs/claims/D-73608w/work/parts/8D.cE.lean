/-! CE: the component: joins, strikes -/
set_option maxRecDepth 100000
theorem z_mk_nw (S : zS) {r : Nat} (hr : r < zn S) (f : Nat → Int32) (hf : f 4 = f 4) : z_mk (z_nw S f []) [r] = z_nw (z_mk S [r]) f [] := by
  have e1 : zn (z_mk S [r]) = zn S := rfl
  unfold z_mk z_nw
  rw [show zn ((fun a g => if g = 4 ∧ a ∈ [r] then nI (ze S) else S.1.1 a g, S.1.2), S.2) = zn S from rfl]
  congr 2
  funext q g
  dsimp only
  show (if g = 4 ∧ q ∈ [r] then nI (ze S) else hw_R S.1.1 (zn S) f q g) = hw_R _ (zn S) f q g
  by_cases w : q = zn S
  · rw [w, hw_R_same, hw_R_same, if_neg (fun z => by have := List.mem_singleton.mp z.2; omega)]
  · rw [hw_R_ne _ _ w, hw_R_ne _ _ w]
theorem c_joins2 {h : ix_H} {L : Nat → Nat} {nr : Nat} {S : zS} {k : Nat} {F A : Nat → Nat → Int32} (p : cPre h L nr S k F A) (h11 : zh S k 1 = nI 11) (N d : Nat) (hp : z_ob S k < zp S) (hob : zh S k 13 = nI (z_ob S k)) (hv : z_vi S k < zp S) (hvi : zh S k 11 = nI (z_vi S k)) (hn2 : nI (zt S (z_ob S k)) = zh S k 10 → zn S < 1400 ∧ zr S (zt S (z_vi S k)) 3 = nI ((z_chain S.1 (zt S (z_vi S k))).getLastD 0)) :
    cPo h F A L nr (z_join S k) k (ix_run iy_P N (d + 10) 199 [ix_R (some (L 0)), ix_R (some (L (5 + k)))] (hw h F A)) := by
  have pp := p
  obtain ⟨hs, hW, hn, hk, hV⟩ := p
  have hh := pp.hd
  have ht := pp.tg
  have h0 : zh S k 1 ≠ nI 0 := by rw [h11]; decide
  have h32 := hW.2.2.1
  have htv := hW.2.2.2 _ hv
  have h2000 := hs.2.2.2.2.2.2.1
  have f5 : F (L (5 + k)) 5 = zh S k 10 := hh.2.2.2.2.2.2.2.2.2.2.1 (Or.inr (Or.inr (Or.inr (Or.inl h11))))
  obtain ⟨f7, f10⟩ := hh.2.2.2.2.2.2.2.2.2.2.2.2.2.1 h11
  have f9 := hh.2.2.2.2.2.2.2.2.2.2.2.2.2.2 (Or.inr (Or.inl h11))
  rw [hob] at f10
  rw [hvi] at f9
  rw [rX4_joins N (d + 9)]
  unfold bX4_joins
  rw [st_is hs, h_is ht, hw_fI, f10, st_top hs, hw_in (by omega) (by omega), cond_true, h_is ht, hw_aI, hw_cl (by omega), hV.2.1 _ hp, f5]
  by_cases hsn : nI (zt S (z_ob S k)) = zh S k 10
  · obtain ⟨hn2, hnx⟩ := hn2 hsn
    have ez : z_join S k = z_sh (z_st (z_nw S (z_f (nI 5) (zh S k 12) (nI (z_vi S k)) (nI (zt S (z_ob S k))) (nI 0) (nI 0) (-2) (nI ((z_chain S.1 (zt S (z_vi S k))).getLastD 0))) []) (z_ob S k) (zn S)) k 1 (nI 12) := by
      unfold z_join
      rw [if_pos hsn, hvi]
    rw [ez]
    have b1 := cB_start pp (cSc.refl L F A)
    obtain ⟨h2', F2, A2, L2, n2, e2, hlt2, hold, hg2, hl2, hs2, hB2⟩ := cB_new b1 (by omega) N (d + 7) (nI 5) (zh S k 12) (nI (z_vi S k)) (zh S k 10) (nI ((z_chain S.1 (zt S (z_vi S k))).getLastD 0))
    have hk5 : L2 (5 + k) = L (5 + k) := (hold (5 + k) (by omega)).1
    have hk0 : L2 0 = L 0 := (hold 0 (by omega)).1
    have hk2 : L2 2 = L 2 := (hold 2 (by omega)).1
    have hrow : F2 (L2 (5 + k)) = F (L (5 + k)) := by rw [hk5, (hold (5 + k) (by omega)).2.1, if_neg (by omega)]
    have hA2 : A2 (L2 2) = A (L 2) := by rw [hk2]; exact (hold 2 (by omega)).2.2
    obtain ⟨g, hg⟩ := hg2
    have b3 := hB2 (hw_R F2 (L2 (18 + 3 * zn S)) (hw_U (F2 (L2 (18 + 3 * zn S))) 9 (nI ((z_chain S.1 (zt S (z_vi S k))).getLastD 0)))) (fun c hc => hw_R_ne _ _ hc) (by
      rw [hw_R_same, hg]
      exact ⟨rfl, rfl, rfl, rfl, rfl, rfl, rfl, rfl, rfl, fun _ => hw_U_same _ _ _⟩)
    have h8 : F2 (L2 (18 + 3 * zt S (z_vi S k))) 8 = nI ((z_chain S.1 (zt S (z_vi S k))).getLastD 0) := by
      have := (b3.2.2.2.1.2.2.1 (zt S (z_vi S k)) (show zt S (z_vi S k) < zn S + 1 by omega)).2.2.2.1
      rw [hw_R_ne _ _ (hs2.ne (by omega))] at this
      rw [this, ← hnx]
      show hw_R S.1.1 (zn S) _ (zt S (z_vi S k)) 3 = _
      rw [hw_R_ne _ _ (by omega)]
      rfl
    have ezl : z_nw S (z_f (nI 5) (zh S k 12) (nI (z_vi S k)) (zh S k 10) (nI 0) (nI 0) (-2) (nI ((z_chain S.1 (zt S (z_vi S k))).getLastD 0))) [] = z_nw S (z_f (nI 5) (zh S k 12) (nI (z_vi S k)) (nI (zt S (z_ob S k))) (nI 0) (nI 0) (-2) (nI ((z_chain S.1 (zt S (z_vi S k))).getLastD 0))) [] := by
      rw [← hsn]
    rw [ezl] at b3
    have b4 := cB_st b3 (z_ob S k) (zn S)
    rw [if_pos hsn, h_is ht, h_is ht, h_is ht, st_isr hs, f7, f9, f5, hw_cI e2]
    dsimp only
    have hn22 := hs2.2.2.2.2.2.2.1
    rw [← hk0, st_is hs2, st_rec hs2, hw_in (by omega) (by omega), cond_true, st_is hs2, st_is hs2, ← hk5, h_is b4.tg, hw_fI, hrow, f9, st_top hs2, hw_in (by omega) (by omega), cond_true, hw_aI, hw_cl (by omega), hA2, hV.2.1 _ hv, st_rec hs2, hw_in (by omega) (by omega), cond_true, st_rr hs2 F2 A2 (by omega), st_rr hs2 F2 A2 hlt2, hw_bdF, h8, st_is hs2, h_is b4.tg, hw_fI, hw_R_ne _ _ (hs2.ne (by omega)), hrow, f10, st_topw hs2, hw_in (by omega) (by omega), cond_true, hw_bdA, hw_cl (by omega)]
    have b5 := cB_hand b4 (S2 := z_sh (z_st (z_nw S (z_f (nI 5) (zh S k 12) (nI (z_vi S k)) (nI (zt S (z_ob S k))) (nI 0) (nI 0) (-2) (nI ((z_chain S.1 (zt S (z_vi S k))).getLastD 0))) []) (z_ob S k) (zn S)) k 1 (nI 12)) (g := F (L (5 + k))) (by rw [hw_R_ne _ _ (hs2.ne (by omega)), hrow]) rfl rfl rfl (fun j hj => zh_sh_ne _ _ _ hj)
    have ef : hw_R (hw_R F2 (L2 (18 + 3 * zn S)) (hw_U (F2 (L2 (18 + 3 * zn S))) 9 (nI ((z_chain S.1 (zt S (z_vi S k))).getLastD 0)))) (L2 (5 + k)) (F (L (5 + k))) = hw_R F2 (L2 (18 + 3 * zn S)) (hw_U (F2 (L2 (18 + 3 * zn S))) 9 (nI ((z_chain S.1 (zt S (z_vi S k))).getLastD 0))) := by
      have := hw_R_self (hw_R F2 (L2 (18 + 3 * zn S)) (hw_U (F2 (L2 (18 + 3 * zn S))) 9 (nI ((z_chain S.1 (zt S (z_vi S k))).getLastD 0)))) (L2 (5 + k))
      rw [hw_R_ne _ _ (hs2.ne (by omega)), hrow] at this
      exact this
    rw [ef] at b5
    refine cB_end b5 ?_ (by rw [zh_sh, hw_U_same])
    rw [hw_R_ne _ _ (hs2.ne (by omega)), hrow, zh_sh]
    exact cHd_to12 hh h0 (Or.inr h11)
  · have ez : z_join S k = z_sh (z_lose S k) k 1 (nI 10) := by
      unfold z_join
      rw [if_neg hsn]
    rw [ez, if_neg hsn, h_isr ht]
    refine c_goR ?_
    rw [c_lost ht F A N (d + 8)]
    refine cPo_h pp (cSc.refl L F A) (S' := z_sh (z_lose S k) k 1 (nI 10)) rfl rfl rfl (fun j hj => ?_) ?_ ?_ (by rw [hw_U_ne _ _ (by omega)])
    · unfold z_lose
      rw [zh_sh_ne _ _ _ hj, zh_sh_ne _ _ _ hj]
    · rw [zh_sh, hw_U_same]
    · unfold z_lose
      rw [zh_sh, zh_sh]
      exact cHd_lose10 hh h0 h11
/-- whether a page is gone, on the way -/
theorem cB_gone {h h1 : ix_H} {F A F1 A1 : Nat → Nat → Int32} {L L1 : Nat → Nat} {nr n1 : Nat} {S1 : zS} {k : Nat} (b : cB h F A L nr h1 F1 A1 L1 n1 S1 k) (hW : z_W S1) (h15 : F1 (L1 (5 + k)) 15 = nI 0 ∨ F1 (L1 (5 + k)) 15 = nI 1) (N d : Nat) {p : Nat} (hp : p < zp S1) : ix_run iy_P N (d + 1) 184 [ix_R (some (L1 0)), ix_I (nI p)] (hw h1 F1 A1) = some (.inl (some (ix_I (if z_gone S1 p then nI 1 else nI 0))), hw h1 F1 A1) := by
  obtain ⟨S'', e1, e2, e3, hV⟩ := b.2.2.2.1.some h15
  have hz : zn S'' = zn S1 := by unfold zn; rw [e3]
  have := c_isGone b.1 (z_W_same e1 e2 e3 hW) (by rw [hz]; exact b.2.1) hV N d (p := p) (by unfold zp at hp ⊢; rw [e3]; exact hp)
  rw [this]
  have eg : z_gone S'' p = z_gone S1 p := by
    unfold z_gone zr zt
    rw [e1, e2]
  by_cases w : z_gone S1 p
  · rw [if_pos w, if_pos (by rw [eg]; exact w)]
  · rw [if_neg w, if_neg (by rw [eg]; exact w)]
theorem c_strikes {h : ix_H} {L : Nat → Nat} {nr : Nat} {S : zS} {k : Nat} {F A : Nat → Nat → Int32} (p : cPre h L nr S k F A) (h13 : zh S k 1 = nI 13) {N : Nat} (hN : 2000 ≤ N) (d : Nat) (hv : z_vi S k < zp S) (hvi : zh S k 11 = nI (z_vi S k)) (hv0 : z_vi S k ≠ 0) (hW2 : nI (zt S 0) = zh S k 10 → zn S < 1400 ∧ z_W (z_stri S k) ∧ ∃ b, kv_ix (zh S k 11) (z_pg S 0).1 = some b) (hc : zc S < 100) :
    cPo h F A L nr (z_stri S k) k (ix_run iy_P N (d + 10) 201 [ix_R (some (L 0)), ix_R (some (L (5 + k)))] (hw h F A)) := by
  have pp := p
  obtain ⟨hs, hW, hn, hk, hV⟩ := p
  have hh := pp.hd
  have ht := pp.tg
  have h0 : zh S k 1 ≠ nI 0 := by rw [h13]; decide
  have h10 : ¬ nI 1 = nI 0 := by decide
  have h32 := hW.2.2.1
  have h2 := hW.2.1
  have htv := hW.2.2.2 _ hv
  have h15 : F (L (5 + k)) 15 = nI 0 ∨ F (L (5 + k)) 15 = nI 1 := by
    rw [hh.2.2.2.2.2.2.2.2.1]
    exact hh.2.2.2.2.2.2.2.2.2.1
  have f5 : F (L (5 + k)) 5 = zh S k 10 := hh.2.2.2.2.2.2.2.2.2.2.1 (Or.inr (Or.inr (Or.inr (Or.inr h13))))
  have f9 := hh.2.2.2.2.2.2.2.2.2.2.2.2.2.2 (Or.inr (Or.inr (Or.inr h13)))
  rw [hvi] at f9
  rw [rX4_strikes N (d + 9)]
  unfold bX4_strikes
  rw [st_is hs, st_top hs, hw_in (by omega) (by omega), cond_true, h_is ht, hw_aI, hw_cl (by omega), hV.2.1 0 (by omega), hw_fI, f5]
  by_cases hsn : nI (zt S 0) = zh S k 10
  · obtain ⟨hn2, hW2, b, hgx⟩ := hW2 hsn
    obtain ⟨F1, A1, e1, q1, g1⟩ := c_boundOf hs hW hn hV hN (d + 2) (nI (z_vi S k))
    have hF1 : F1 (L (5 + k)) = F (L (5 + k)) := q1.1 _ (hs.ne (by omega))
    have ez : z_stri S k = z_chg (if z_gone S (z_vi S k) then z_mk S [zt S (z_vi S k)] else S) k (nI 7) (kv_nth (z_pg S 0).1 b).1 (-2) := by
      unfold z_stri
      rw [if_pos hsn, hgx, Option.getD_some]
    have hgx' := hgx
    rw [hvi] at hgx'
    rw [hgx'] at e1
    dsimp only at e1
    rw [ez] at hW2 ⊢
    have b1 := cB_start pp q1.s12
    obtain ⟨h2', F2, A2, L2, n2, e2, hlt2, hold, hg2, hl2, hs2, hB2⟩ := cB_new b1 (by omega) N (d + 7) (nI 7) (kv_nth (z_pg S 0).1 b).1 (-2) (zh S k 10) (-2)
    have b3 := hB2 F2 (fun _ _ => rfl) (by obtain ⟨g, hg⟩ := hg2; rw [hg]; exact c_rw_row g (-2) (by decide))
    have ezl : z_nw S (z_f (nI 7) (kv_nth (z_pg S 0).1 b).1 (-2) (zh S k 10) (nI 0) (nI 0) (-2) (-2)) [] = z_nw S (z_leaf (nI 7) (kv_nth (z_pg S 0).1 b).1 (-2) (zt S 0)) [] := by
      unfold z_leaf
      rw [← hsn]
    rw [ezl] at b3
    have b4 := cB_st b3 0 (zn S)
    have hk5 : L2 (5 + k) = L (5 + k) := (hold (5 + k) (by omega)).1
    have hk0 : L2 0 = L 0 := (hold 0 (by omega)).1
    have hk2 : L2 2 = L 2 := (hold 2 (by omega)).1
    have hrow : F2 (L2 (5 + k)) = F (L (5 + k)) := by rw [hk5, (hold (5 + k) (by omega)).2.1, if_neg (by omega), hF1]
    have hA2 : A2 (L2 2) = A (L 2) := by rw [hk2, (hold 2 (by omega)).2.2]; exact q1.s12.A hs (by omega)
    have hat2 : ∀ (F A : Nat → Nat → Int32) (i : Int32) (f : Nat → ix_O), (ix_at (hw h2' F A) 101 (some (L 2)) i).bind f = cond (ix_in i 32) (f (L 2)) none := fun F A i f => by
      rw [← hk2]
      exact c_at hs2.2.1.2.2.1 hs2.2.1.2.2.2.1 F A i f
    have hn22 := hs2.2.2.2.2.2.2.1
    have hF5 : F2 (L2 0) 5 = nI (ze S) := b4.2.2.2.1.1.2.2.1
    -- the store behind
    have hmk : z_mk (z_st (z_nw S (z_leaf (nI 7) (kv_nth (z_pg S 0).1 b).1 (-2) (zt S 0)) []) 0 (zn S)) [zt S (z_vi S k)] = z_st (z_nw (z_mk S [zt S (z_vi S k)]) (z_leaf (nI 7) (kv_nth (z_pg S 0).1 b).1 (-2) (zt S 0)) []) 0 (zn S) := by
      have := z_mk_nw S htv (z_leaf (nI 7) (kv_nth (z_pg S 0).1 b).1 (-2) (zt S 0)) rfl
      have e2 := congrArg (fun T => z_st T 0 (zn S)) this
      exact e2
    have hWb : z_W (z_st (z_nw S (z_leaf (nI 7) (kv_nth (z_pg S 0).1 b).1 (-2) (zt S 0)) []) 0 (zn S)) := by
      by_cases w : z_gone S (z_vi S k)
      · rw [if_pos w] at hW2
        unfold z_chg at hW2
        dsimp only at hW2
        have := z_W_if2 (T := z_st (z_nw (z_mk S [zt S (z_vi S k)]) (z_leaf (nI 7) (kv_nth (z_pg S 0).1 b).1 (-2) (zt S 0)) []) 0 (zn S)) hW2 (fun w => w) (fun w => w)
        rw [← hmk] at this
        exact (z_like_mk _ _).symm.W rfl rfl rfl this
      · rw [if_neg w] at hW2
        unfold z_chg at hW2
        dsimp only at hW2
        exact z_W_if2 hW2 (fun w => w) (fun w => w)
    have eg := cB_gone b4 hWb (by rw [hrow]; exact h15) N (d + 8) (p := z_vi S k) hv
    have hzt : zt (z_st (z_nw S (z_leaf (nI 7) (kv_nth (z_pg S 0).1 b).1 (-2) (zt S 0)) []) 0 (zn S)) (z_vi S k) = zt S (z_vi S k) := by
      show ix_up S.2.1 0 (zn S) (z_vi S k) = _
      unfold ix_up
      rw [if_neg hv0]
      rfl
    have hzg : z_gone (z_st (z_nw S (z_leaf (nI 7) (kv_nth (z_pg S 0).1 b).1 (-2) (zt S 0)) []) 0 (zn S)) (z_vi S k) ↔ z_gone S (z_vi S k) := by
      unfold z_gone
      rw [hzt]
      show hw_R S.1.1 (zn S) _ (zt S (z_vi S k)) 0 = nI 4 ↔ _
      rw [hw_R_ne _ _ (by omega)]
      exact Iff.rfl
    rw [if_pos hsn, st_is hs, h_is ht, st_isr hs, f9, hw_cI e1]
    dsimp only
    rw [h_is ht, st_isr hs, hw_fI, hF1, f5, hw_cI e2]
    dsimp only
    rw [hw_fR, hs.1.2.2.1, hat2, hw_in (by omega) (by omega), cond_true, hw_bdA, ← hk5, h_is b4.tg, ← hk0, st_isr hs2, hw_fI, hrow, f9, ← hk2, hw_cI eg]
    dsimp only
    unfold jX4_strikes_41
    have fin : ∀ (S5 : zS) (F3 : Nat → Nat → Int32), cB h F A L nr h2' F3 (hw_R A2 (L2 2) (hw_U (A2 (L2 2)) 0 (nI (zn S)))) L2 n2 S5 k → z_W S5 → zh S5 k = zh S k → F3 (L2 (5 + k)) = F (L (5 + k)) → zc S5 < 100 → cPo h F A L nr (if zc S5 < z_len S5 0 then z_sh (z_sh S5 k 2 (nI 0)) k 1 (nI 4) else z_go S5 k) k ((ix_isr (hw h2' F3 (hw_R A2 (L2 2) (hw_U (A2 (L2 2)) 0 (nI (zn S))))) 5 (some (L2 0))).bind fun a17 => (ix_rI (ix_run iy_P N (d + 9) 195 [ix_R (some a17), ix_R (some (L2 (5 + k)))] (hw h2' F3 (hw_R A2 (L2 2) (hw_U (A2 (L2 2)) 0 (nI (zn S))))))).bind fun r16 => some (Sum.inl (some (ix_I r16.1)), r16.2)) := by
      intro S5 F3 b5 hW5 hz5 hr5 hc5
      rw [st_isr hs2]
      exact c_goR (cB_noted b5 (by rw [hr5, hz5]; exact hh) (by rw [hz5]; exact h0) hW5 hN (d + 6) hc5)
    by_cases w : z_gone S (z_vi S k)
    · rw [if_pos w] at hW2 ⊢
      have b5 := cB_mk b4 (r := zt S (z_vi S k)) (show zt S (z_vi S k) < zn S + 1 by omega)
      rw [hmk] at b5
      rw [if_pos (hzg.mpr w), if_neg h10, st_is hs2, st_is hs2, h_is b4.tg, hw_fI, hrow, f9, st_top hs2, hw_in (by omega) (by omega), cond_true, hw_aI, hw_R_same, hw_cl (by omega), hw_U_ne _ _ hv0, hA2, hV.2.1 _ hv, st_rec hs2, hw_in (by omega) (by omega), cond_true, st_is hs2, st_rr hs2 F2 _ (show zt S (z_vi S k) < n2 by omega), hw_bdF, hF5]
      have := fin _ _ b5 (by rw [← hmk]; exact (z_like_mk _ _).W rfl rfl rfl hWb) rfl (by rw [hw_R_ne _ _ (hs2.ne (by omega)), hrow]) hc
      rw [hA2] at this
      exact this
    · rw [if_neg w] at hW2 ⊢
      rw [if_neg (fun z => w (hzg.mp z)), if_pos rfl]
      exact fin _ _ b4 hWb rfl hrow hc
  · have ez : z_stri S k = z_sh (z_lose S k) k 1 (nI 12) := by
      unfold z_stri
      rw [if_neg hsn]
    rw [ez, if_neg hsn, h_isr ht]
    refine c_goR ?_
    rw [c_lost ht F A N (d + 8)]
    refine cPo_h pp (cSc.refl L F A) (S' := z_sh (z_lose S k) k 1 (nI 12)) rfl rfl rfl (fun j hj => ?_) ?_ ?_ (by rw [hw_U_ne _ _ (by omega)])
    · unfold z_lose
      rw [zh_sh_ne _ _ _ hj, zh_sh_ne _ _ _ hj]
    · rw [zh_sh, hw_U_same]
    · unfold z_lose
      rw [zh_sh, zh_sh]
      exact cHd_lose12 hh h0 h13
