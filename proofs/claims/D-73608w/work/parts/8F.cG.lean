/-! CG: the component: splits -/
set_option maxRecDepth 100000
/-- a page more -/
theorem cB_pp {h h1 : ix_H} {F A F1 A1 : Nat → Nat → Int32} {L L1 : Nat → Nat} {nr n1 : Nat} {S1 : zS} {k : Nat} (b : cB h F A L nr h1 F1 A1 L1 n1 S1 k) (r : Nat) : cB h F A L nr h1 (hw_R F1 (L1 0) (hw_U (F1 (L1 0)) 4 (nI (zp S1 + 1)))) (hw_R A1 (L1 2) (hw_U (A1 (L1 2)) (zp S1) (nI r))) L1 n1 (z_pp (z_st S1 (zp S1) r)) k := by
  have hs := b.1
  obtain ⟨v1, v2, v3, v4⟩ := b.2.2.2.1
  refine cB_row b (fun c hc => ⟨hw_R_ne _ _ (hc _ (by omega)), hw_R_ne _ _ (hc _ (by omega))⟩) b.2.1 ⟨?_, fun q hq => ?_, fun r hr => (v3 r hr).keep (hw_R_ne _ _ (hs.ne (by omega))) (hw_R_ne _ _ (hs.ne (by omega))) (hw_R_ne _ _ (hs.ne (by omega))), fun j hj hjk => ?_⟩ (fun j hj => by rw [hw_R_ne _ _ (hs.ne (by omega))])
  · rw [hw_R_same]
    simp (disch := omega) only [hw_U_ne, hw_U_same]
    exact ⟨v1.1, rfl, v1.2.2⟩
  · have hq2 : q < zp S1 + 1 := hq
    show hw_R A1 (L1 2) _ (L1 2) q = nI (ix_up S1.2.1 (zp S1) r q)
    rw [hw_R_same, hw_U_at]
    unfold ix_up
    by_cases w : q = zp S1
    · rw [if_pos w, if_pos w]
    · rw [if_neg w, if_neg w]
      exact v2 q (by omega)
  · unfold cH0
    rw [hw_R_ne _ _ (hs.ne (by omega))]
    exact v4 j hj hjk
theorem c_splits_l {h : ix_H} {L : Nat → Nat} {nr : Nat} (hs : cS h L nr) {n r : Nat} (hn : n < nr) (hr : r < nr) (hnr : r ≠ n) {hd : Nat} (v4 : Int32) {N : Nat} (hN : 1000 ≤ N) (d : Nat) {l c : KV} {hi ri : Int32} (hl : l.length ≤ 43) (hc : c.length ≤ 43) : ∀ z i (q : KV) F A, i ≤ l.length → l.length - i < z → cG F A (L (18 + 3 * r)) (L (19 + 3 * r)) (L (20 + 3 * r)) (l, hi, ri) → cL F A (L (18 + 3 * n)) (L (19 + 3 * n)) (L (20 + 3 * n)) q → kv_so q → kv_join q (l.drop i) = c →
    ∃ F' A' z', ix_lp (ix_run iy_P N (d + 2)) stX4_splits z 41 [(0, ix_R (some (L 0))), (1, ix_R (some hd)), (2, ix_R (some (L (18 + 3 * r)))), (4, ix_I v4), (5, ix_R (some (L (18 + 3 * n)))), (6, ix_I (nI i))] [] (hw h F A) = ix_lp (ix_run iy_P N (d + 2)) stX4_splits (z' + 1) 41 [(0, ix_R (some (L 0))), (1, ix_R (some hd)), (2, ix_R (some (L (18 + 3 * r)))), (4, ix_I v4), (5, ix_R (some (L (18 + 3 * n)))), (6, ix_I (nI l.length))] [] (hw h F' A') ∧ cQ [3] (L (18 + 3 * n)) (L (19 + 3 * n)) (L (20 + 3 * n)) F A F' A' ∧ cL F' A' (L (18 + 3 * n)) (L (19 + 3 * n)) (L (20 + 3 * n)) c := by
  have hrn := hs.rc hn
  have hrr := hs.rc hr
  intro z
  induction z with
  | zero => intro i q F A _ h; omega
  | succ z ih =>
    intro i q F A hi' hz hG hL hso hj
    have hq : q.length ≤ 43 := Nat.le_trans (kv_join_ge _ q) (hj ▸ hc)
    rcases Nat.lt_or_ge i l.length with h1 | h1
    · obtain ⟨w1, w2⟩ := hG.1.2 i h1
      obtain ⟨F1, A1, e1, q1, l1⟩ := c_sets hrn hN d hL hso (l[i]).1 (l[i]).2 hq
      dsimp only at w1 w2
      have hlen := hG.1.1
      dsimp only at hlen
      rw [lX4_splits_41]
      unfold jX4_splits_41
      rw [cp_is hrr, hw_fI, hlen, if_neg (show ¬ nI l.length ≤ nI i by rw [hw_le (by omega) (by omega)]; omega), cp_is hrr, cp_rk hrr, hw_in (by omega) (by omega), cond_true, cp_is hrr, cp_rv hrr, hw_in (by omega) (by omega), cond_true, cp_isr hrn, hw_aI, hw_cl (by omega), w1, w2, hw_cV e1, nI_add]
      have hd2 : kv_join (kv_set (l[i]).1 (l[i]).2 q) (l.drop (i + 1)) = c := by
        rw [← hj, List.drop_eq_getElem_cons h1]
        rfl
      obtain ⟨F2, A2, z', e2, q2, l2⟩ := ih (i + 1) _ F1 A1 h1 (by omega) (hG.keep (q1.1 _ (hs.ne (by omega))) (q1.2.2 _ (hs.ne (by omega)) (hs.ne (by omega))) (q1.2.2 _ (hs.ne (by omega)) (hs.ne (by omega)))) l1 (kv_set_so hso) hd2
      exact ⟨F2, A2, z', e2, q1.trans q2, l2⟩
    · obtain rfl : i = l.length := by omega
      rw [List.drop_eq_nil_of_le (Nat.le_refl _)] at hj
      refine ⟨F, A, z, rfl, cQ.refl _ _ _ _ _ _, ?_⟩
      rw [← hj]
      exact hL
theorem c_splits {h : ix_H} {L : Nat → Nat} {nr : Nat} {S : zS} {k : Nat} {F A : Nat → Nat → Int32} (p : cPre h L nr S k F A) (h6 : zh S k 1 = nI 6) {N : Nat} (hN : 2000 ≤ N) (d : Nat) (hp : z_at S k < zp S) (hat : zh S k 2 = nI (z_at S k)) (hn2 : nI (zt S (z_at S k)) = zh S k 10 → zp S < 32 → zn S + 1 < 1400 ∧ 0 < (z_pg S (z_at S k)).1.length ∧ zr S (zt S (z_at S k)) 0 = nI 0) :
    cPo h F A L nr (z_split S k) k (ix_run iy_P N (d + 10) 192 [ix_R (some (L 0)), ix_R (some (L (5 + k)))] (hw h F A)) := by
  have pp := p
  obtain ⟨hs, hW, hn, hk, hV⟩ := p
  have hh := pp.hd
  have ht := pp.tg
  have h0 : zh S k 1 ≠ nI 0 := by rw [h6]; decide
  have h32 := hW.2.2.1
  have hpg := hW.pg hp
  have htp := hW.2.2.2 _ hp
  have h2000 := hs.2.2.2.2.2.2.1
  have f4 : F (L (5 + k)) 4 = nI (z_at S k) := hh.2.2.2.1.trans hat
  have f6 : F (L (5 + k)) 6 = zh S k 10 := hh.2.2.2.2.2.2.2.2.2.2.2.1 (Or.inl h6)
  have fp : F (L 0) 4 = nI (zp S) := hV.1.2.1
  rw [rX4_splits N (d + 9)]
  unfold bX4_splits
  rw [st_is hs, h_is ht, hw_fI, f4, st_top hs, hw_in (by omega) (by omega), cond_true, h_is ht, hw_aI, hw_cl (by omega), hV.2.1 _ hp, f6]
  have no : ¬ (nI (zt S (z_at S k)) = zh S k 10 ∧ zp S < 32) → ∀ K, cPo h F A L nr (z_split S k) k (jX4_splits_12 (ix_run iy_P N (d + 9)) K (some (L (5 + k))) (hw h F A)) := fun hno K => by
    have ez : z_split S k = z_go S k := by
      unfold z_split
      rw [if_neg hno]
    rw [ez]
    unfold jX4_splits_12
    rw [h_isr ht]
    exact c_goR (c_go pp h0 (cSc.refl L F A) N (d + 7))
  by_cases hsn : nI (zt S (z_at S k)) = zh S k 10
  · rw [if_pos hsn, st_is hs, fp]
    by_cases hps : zp S < 32
    · obtain ⟨hn2, hl0, hb0⟩ := hn2 hsn hps
      have ept : z_pg S (z_at S k) = (zi S (zt S (z_at S k)), zr S (zt S (z_at S k)) 7, zr S (zt S (z_at S k)) 8) := z_ct_0 hb0
      have hE := hV.2.2.1 _ htp
      have hGb : cG F A (L (18 + 3 * zt S (z_at S k))) (L (19 + 3 * zt S (z_at S k))) (L (20 + 3 * zt S (z_at S k))) ((z_pg S (z_at S k)).1, (z_pg S (z_at S k)).2.1, (z_pg S (z_at S k)).2.2) := by
        have := hE.2.2.2.2.2.2.2.2
        rw [ept]
        exact this
      have b1 := cB_start pp (cSc.refl L F A)
      obtain ⟨h2, F2, A2, L2, n2, e2, hlt2, hold, hg2, hl2, hs2, hB2⟩ := cB_new b1 (by omega) N (d + 7) (nI 0) (-2) (-2) (-2) (-2)
      obtain ⟨g, hg⟩ := hg2
      have b3 := hB2 F2 (fun _ _ => rfl) (by rw [hg]; exact c_rw_row g (-2) (by decide))
      have hk5 : L2 (5 + k) = L (5 + k) := (hold (5 + k) (by omega)).1
      have hk0 : L2 0 = L 0 := (hold 0 (by omega)).1
      have hk2 : L2 2 = L 2 := (hold 2 (by omega)).1
      have hold2 : L2 (18 + 3 * zt S (z_at S k)) = L (18 + 3 * zt S (z_at S k)) := b3.2.2.1.2.2.2.2.1 _ (by omega)
      have n2000 := hs2.2.2.2.2.2.2.1
      have hrow : F2 (L2 (5 + k)) = F (L (5 + k)) := by rw [hk5, (hold (5 + k) (by omega)).2.1, if_neg (by omega)]
      -- the old base in the new heap
      have hG2 : cG F2 A2 (L2 (18 + 3 * zt S (z_at S k))) (L2 (19 + 3 * zt S (z_at S k))) (L2 (20 + 3 * zt S (z_at S k))) ((z_pg S (z_at S k)).1, (z_pg S (z_at S k)).2.1, (z_pg S (z_at S k)).2.2) := by
        have h1 := (b3.2.2.2.1.2.2.1 (zt S (z_at S k)) (show zt S (z_at S k) < zn S + 1 by omega)).2.2.2.2.2.2.2.2
        have e1 : (z_nw S (z_f (nI 0) (-2) (-2) (-2) (nI 0) (nI 0) (-2) (-2)) []).1.1 (zt S (z_at S k)) = S.1.1 (zt S (z_at S k)) := hw_R_ne _ _ (by omega)
        have e2 : (z_nw S (z_f (nI 0) (-2) (-2) (-2) (nI 0) (nI 0) (-2) (-2)) []).1.2 (zt S (z_at S k)) = S.1.2 (zt S (z_at S k)) := by
          show ix_up S.1.2 (zn S) [] (zt S (z_at S k)) = _
          unfold ix_up
          rw [if_neg (by omega)]
        rw [e1, e2] at h1
        rw [ept]
        exact h1
      have hLn : cL F2 A2 (L2 (18 + 3 * zn S)) (L2 (19 + 3 * zn S)) (L2 (20 + 3 * zn S)) [] := ⟨by rw [hg]; rfl, kv_in_nil _ _⟩
      have hhf : z_half S (z_at S k) < (z_pg S (z_at S k)).1.length := by unfold z_half; omega
      have hhe : nI (z_pg S (z_at S k)).1.length / nI 2 = nI (z_half S (z_at S k)) := hw_half _ (by omega)
      have hcl : ((z_pg S (z_at S k)).1.drop (z_half S (z_at S k))).length ≤ 43 := by rw [List.length_drop]; omega
      have hso : kv_so ((z_pg S (z_at S k)).1.drop (z_half S (z_at S k))) := List.Pairwise.drop hpg.1
      obtain ⟨F3, A3, z3, e3, q3, l3⟩ := c_splits_l hs2 hlt2 (show zt S (z_at S k) < n2 by omega) (by omega) (hd := L2 (5 + k)) (nI (zn S)) (show 1000 ≤ N by omega) (d + 7) (hi := (z_pg S (z_at S k)).2.1) (ri := (z_pg S (z_at S k)).2.2) hpg.2.1 hcl (N + 1) (z_half S (z_at S k)) [] F2 A2 (by omega) (by omega) hG2 hLn kv_so_nil (kv_join_nil hso)
      have hrr := hs2.rc (show zt S (z_at S k) < n2 by omega)
      have hrn := hs2.rc hlt2
      have g3 : cG F3 A3 (L2 (18 + 3 * zt S (z_at S k))) (L2 (19 + 3 * zt S (z_at S k))) (L2 (20 + 3 * zt S (z_at S k))) ((z_pg S (z_at S k)).1, (z_pg S (z_at S k)).2.1, (z_pg S (z_at S k)).2.2) := hG2.keep (q3.1 _ (hs2.ne (by omega))) (q3.2.2 _ (hs2.ne (by omega)) (hs2.ne (by omega))) (q3.2.2 _ (hs2.ne (by omega)) (hs2.ne (by omega)))
      have q4 : cQ [3, 4, 5] (L2 (18 + 3 * zn S)) (L2 (19 + 3 * zn S)) (L2 (20 + 3 * zn S)) F2 A2 (hw_R F3 (L2 (18 + 3 * zn S)) (hw_U (hw_U (F3 (L2 (18 + 3 * zn S))) 4 (z_pg S (z_at S k)).2.1) 5 (z_pg S (z_at S k)).2.2)) A3 := ((q3.mono rfl).fR rfl).fU rfl
      have b4 := cB_fill b3 q4 (c := ((z_pg S (z_at S k)).1.drop (z_half S (z_at S k)), (z_pg S (z_at S k)).2.1, (z_pg S (z_at S k)).2.2)) ⟨⟨by simp (disch := omega) only [hw_R_same, hw_R_ne, hw_U_same, hw_U_ne]; exact l3.1, l3.2⟩, by simp (disch := omega) only [hw_R_same, hw_R_ne, hw_U_same, hw_U_ne], by simp (disch := omega) only [hw_R_same, hw_R_ne, hw_U_same, hw_U_ne]⟩
      have b5 := cB_pp b4 (zn S)
      rw [show zp (z_nw S (z_base ((z_pg S (z_at S k)).1.drop (z_half S (z_at S k)), (z_pg S (z_at S k)).2.1, (z_pg S (z_at S k)).2.2)) ((z_pg S (z_at S k)).1.drop (z_half S (z_at S k)))) = zp S from rfl] at b5
      have hx0 : 0 < ((z_pg S (z_at S k)).1.drop (z_half S (z_at S k))).length := by rw [List.length_drop]; omega
      have hkey : A3 (L2 (19 + 3 * zn S)) 0 = (kv_nth ((z_pg S (z_at S k)).1.drop (z_half S (z_at S k))) 0).1 := by
        rw [kv_nth_get hx0]
        exact (l3.2 0 hx0).1
      have hrow3 : F3 (L2 (5 + k)) = F (L (5 + k)) := by rw [q3.1 _ (hs2.ne (by omega)), hrow]
      obtain ⟨h6', F6, A6, L6, n6, e6, hlt6, hold6, hg6, hl6, hs6, hB6⟩ := cB_new b5 (show zn S + 1 < 2000 by omega) N (d + 7) (nI 3) (kv_nth ((z_pg S (z_at S k)).1.drop (z_half S (z_at S k))) 0).1 (nI (zp S)) (zh S k 10) (-2)
      obtain ⟨g6, hg6⟩ := hg6
      have b6 := hB6 F6 (fun _ _ => rfl) (by rw [hg6]; exact c_rw_row g6 (-2) (by decide))
      have ht2 : ix_tg h2 (L2 (5 + k)) = 7 := b5.tg
      have hk56 : L6 (5 + k) = L2 (5 + k) := (hold6 (5 + k) (by omega)).1
      have hk06 : L6 0 = L2 0 := (hold6 0 (by omega)).1
      have hk26 : L6 2 = L2 2 := (hold6 2 (by omega)).1
      have hn186 : L6 (18 + 3 * zn S) = L2 (18 + 3 * zn S) := (hl6 (18 + 3 * zn S) (by omega)).1
      have hn196 : L6 (19 + 3 * zn S) = L2 (19 + 3 * zn S) := (hl6 (19 + 3 * zn S) (by omega)).1
      have n6000 := hs6.2.2.2.2.2.2.1
      have hrow6 : F6 (L6 (5 + k)) = F (L (5 + k)) := by rw [hk56, (hold6 (5 + k) (by omega)).2.1, if_neg (by omega), hw_R_ne _ _ (hs2.ne (by omega)), hw_R_ne _ _ (hs2.ne (by omega)), hrow3]
      have hkey6 : A6 (L6 (19 + 3 * zn S)) 0 = (kv_nth ((z_pg S (z_at S k)).1.drop (z_half S (z_at S k))) 0).1 := by rw [hn196, (hl6 (19 + 3 * zn S) (by omega)).2, hw_R_ne _ _ (hs2.ne (by omega)), hkey]
      have hfp6 : F6 (L6 0) 4 = nI (zp S + 1) := b6.2.2.2.1.1.2.1
      have b7 := cB_st b6 (z_at S k) (zn S + 1)
      have b8 := cB_hand b7 (S2 := z_split S k) (g := hw_U (hw_U (F (L (5 + k))) 7 (kv_nth ((z_pg S (z_at S k)).1.drop (z_half S (z_at S k))) 0).1) 8 (nI (zp S))) (by rw [hw_U_ne _ _ (by omega), hw_U_ne _ _ (by omega), hrow6]) (by unfold z_split; rw [if_pos ⟨hsn, hps⟩, ← hsn]; rfl) (by unfold z_split; rw [if_pos ⟨hsn, hps⟩]; rfl) (by unfold z_split; rw [if_pos ⟨hsn, hps⟩]; rfl) (fun j hj => by
        unfold z_split
        rw [if_pos ⟨hsn, hps⟩]
        dsimp only
        unfold z_note
        rw [zh_sh_ne _ _ _ hj, zh_sh_ne _ _ _ hj, zh_sh_ne _ _ _ hj]
        rfl)
      have ezh : zh (z_split S k) k = hw_U (hw_U (hw_U (zh S k) 12 (kv_nth ((z_pg S (z_at S k)).1.drop (z_half S (z_at S k))) 0).1) 13 (nI (zp S))) 1 (nI 7) := by
        unfold z_split
        rw [if_pos ⟨hsn, hps⟩]
        dsimp only
        unfold z_note
        rw [zh_sh, zh_sh, zh_sh]
        rfl
      have fin := cB_end b8 (by rw [hw_R_same, ezh]; exact cHd_note hh h0 _ _) (st := nI 7) (by rw [ezh, hw_U_same])
      have en := c_noting hs6 (show ix_tg h6' (L6 (5 + k)) = 7 from b6.tg) F6 (hw_R A6 (L6 2) (hw_U (A6 (L6 2)) (z_at S k) (nI (zn S + 1)))) N (d + 8) (kv_nth ((z_pg S (z_at S k)).1.drop (z_half S (z_at S k))) 0).1 (nI (zp S))
      rw [hrow6] at en
      have hat6 : ∀ (F A : Nat → Nat → Int32) (i : Int32) (f : Nat → ix_O), (ix_at (hw h6' F A) 101 (some (L2 2)) i).bind f = cond (ix_in i 32) (f (L2 2)) none := fun F A i f => by
        rw [← hk26]
        exact c_at hs6.2.1.2.2.1 hs6.2.1.2.2.2.1 F A i f
      have hrn6 := hs6.rc (show zn S < n6 by have : zn S + 1 < n6 := hlt6; omega)
      rw [if_neg (show ¬ nI (zp S) = nI 32 by rw [hw_eq (by omega) (by omega)]; omega), st_is hs, h_is ht, f6, ← hsn, st_rec hs, hw_in (by omega) (by omega), cond_true, st_rr hs F A (by omega), if_neg (show ¬ nI 2 = nI 0 by decide), st_isr hs, hw_cI e2]
      dsimp only
      have hmo : F (L (18 + 3 * zt S (z_at S k))) 3 = nI (z_pg S (z_at S k)).1.length := hGb.1.1
      rw [hmo, hhe, hw_aR, hw_cl (by omega), hs.2.2.2.2.1 _ (show zt S (z_at S k) < nr by omega), ← hk0, st_is hs2, st_rec hs2, hw_in (by omega) (by omega), cond_true, hw_aR, hw_cl (by omega), hs2.2.2.2.2.1 _ hlt2, ← hk5, ← hold2]
      rw [← lX4_splits_41, e3, lX4_splits_41]
      unfold jX4_splits_41
      have w1 : F3 (L2 (18 + 3 * zt S (z_at S k))) 4 = (z_pg S (z_at S k)).2.1 := g3.2.1
      have w2 : F3 (L2 (18 + 3 * zt S (z_at S k))) 5 = (z_pg S (z_at S k)).2.2 := g3.2.2
      have hne1 : L2 (18 + 3 * zt S (z_at S k)) ≠ L2 (18 + 3 * zn S) := hs2.ne (by omega)
      have hne0 : L2 0 ≠ L2 (18 + 3 * zn S) := hs2.ne (by omega)
      have hneh : L2 (5 + k) ≠ L2 (18 + 3 * zn S) := hs2.ne (by omega)
      have hnek : L2 (5 + k) ≠ L2 0 := hs2.ne (by omega)
      have hnt : L2 (19 + 3 * zn S) ≠ L2 2 := hs2.ne (by omega)
      have w0 : F3 (L2 0) 4 = nI (zp S) := by rw [q3.1 _ hne0]; exact b3.2.2.2.1.1.2.1
      rw [cp_is hrr, hw_fI, g3.1.1, if_pos (show nI (z_pg S (z_at S k)).1.length ≤ nI (z_pg S (z_at S k)).1.length by rw [hw_le (by omega) (by omega)]; omega), cp_is hrr, cp_is hrn, hw_bdF, w1, cp_is hrr, cp_is hrn, hw_bdF, hw_R_R, hw_fI, hw_R_ne _ _ hne1, w2, hw_R_same]
      rw [st_is hs2, st_is hs2, hw_fI, hw_R_ne _ _ hne0, w0, st_topw hs2, hw_in (by omega) (by omega), cond_true, hw_bdA, hw_cl (by omega), st_is hs2, st_is hs2, hw_bdF, hw_fI, hw_R_ne _ _ hne0, w0, nI_add]
      rw [hw_R_ne _ _ hne0] at e6
      rw [st_is hs2, h_is ht2, cp_is hrn, cp_rk hrn, hw_in (by omega) (by omega), cond_true, st_is hs2, h_is ht2, st_isr hs2, hw_fI, hw_R_same, hw_U_same, hw_R_ne _ _ hnek, hw_R_ne _ _ hneh, hrow3, f4, f6, hw_aI, hw_cl (by omega), hw_R_ne _ _ hnt, hkey, hw_sub (by omega), Nat.add_sub_cancel, hw_cI e6]
      dsimp only
      rw [hw_fR, hs2.1.2.2.1, hat6, hw_in (by omega) (by omega), cond_true, hw_bdA, hw_cl (by omega), ← hn186, ← hk26, ← hk06, ← hk56, cp_is hrn6, cp_rk hrn6, hw_in (by omega) (by omega), cond_true, st_is hs6, st_isr hs6, hw_aI, hw_R_ne _ _ (show L6 (19 + 3 * zn S) ≠ L6 2 from hs6.ne (by omega)), hkey6, hw_fI, hfp6, hw_sub (by omega), Nat.add_sub_cancel]
      rw [show zn (z_pp (z_st (z_nw S (z_base ((z_pg S (z_at S k)).1.drop (z_half S (z_at S k)), (z_pg S (z_at S k)).2.1, (z_pg S (z_at S k)).2.2)) ((z_pg S (z_at S k)).1.drop (z_half S (z_at S k)))) (zp S) (zn S))) = zn S + 1 from rfl, hw_cI en]
      exact fin
    · rw [if_pos (show nI (zp S) = nI 32 by rw [show zp S = 32 by omega])]
      exact no (fun w => hps w.2) _
  · rw [if_neg hsn]
    exact no (fun w => hsn w.1) _
