/-! CA: the component: more stages that change but the hand -/
set_option maxRecDepth 100000
/-- goesOn, whatever has changed before in what is laid into -/
theorem c_go {h : ix_H} {L : Nat → Nat} {nr : Nat} {S : zS} {k : Nat} {F A : Nat → Nat → Int32} (p : cPre h L nr S k F A) (h0 : zh S k 1 ≠ nI 0) {F1 A1 : Nat → Nat → Int32} (q : cSc L F A F1 A1) (N d : Nat) :
    cPo h F A L nr (z_go S k) k (ix_run iy_P N (d + 2) 223 [ix_R (some (L (5 + k)))] (hw h F1 A1)) := by
  have hh := p.hd
  have hF1 : F1 (L (5 + k)) = F (L (5 + k)) := q.F p.1 (by have := p.2.2.2.1; omega)
  have h15 : F1 (L (5 + k)) 15 = zh S k 9 := by rw [hF1]; exact hh.2.2.2.2.2.2.2.2.1
  have h9 := hh.2.2.2.2.2.2.2.2.2.1
  rw [c_goesOn p.tg F1 A1 N d (by rw [h15]; exact h9), h15]
  unfold z_go
  rcases h9 with w | w
  · have e1 : ¬ zh S k 9 = nI 1 := by rw [w]; decide
    rw [if_neg e1, if_neg e1]
    have := cPo_h p q (S' := z_sh S k 1 (nI 1)) (st := nI 1) (g := F (L (5 + k))) rfl rfl rfl (fun j hj => zh_sh_ne _ _ _ hj) (by rw [zh_sh, hw_U_same]) (by rw [zh_sh]; exact cHd_go0 hh h0 w) rfl
    rw [← hF1, hw_R_self] at this
    exact this
  · rw [if_pos w, if_pos w, hF1]
    exact cPo_h p q (S' := z_sh S k 1 (nI 0)) (st := nI 0) rfl rfl rfl (fun j hj => zh_sh_ne _ _ _ hj) (by rw [zh_sh, hw_U_same]) (by rw [zh_sh]; exact cHd_go1 hh h0 w) (by rw [hw_U_ne _ _ (by omega)])
/-- a call of goesOn that is handed on -/
theorem c_goR {o : ix_O} {h : ix_H} {F A : Nat → Nat → Int32} {L : Nat → Nat} {nr : Nat} {S' : zS} {k : Nat} (hp : cPo h F A L nr S' k o) : cPo h F A L nr S' k ((ix_rI o).bind fun r => some (.inl (some (ix_I r.1)), r.2)) := by
  obtain ⟨h', F', A', L', nr', e, r⟩ := hp
  refine ⟨h', F', A', L', nr', ?_, r⟩
  rw [e]
  rfl
theorem c_gathers {h : ix_H} {L : Nat → Nat} {nr : Nat} {S : zS} {k : Nat} {F A : Nat → Nat → Int32} (p : cPre h L nr S k F A) (h0 : zh S k 1 ≠ nI 0) (N d : Nat) (hp : z_at S k < zp S) (hat : zh S k 2 = nI (z_at S k)) :
    cPo h F A L nr (z_gath S k) k (ix_run iy_P N (d + 10) 189 [ix_R (some (L 0)), ix_R (some (L (5 + k)))] (hw h F A)) := by
  have pp := p
  obtain ⟨hs, hW, hn, hk, hV⟩ := p
  have hh := pp.hd
  have ht := pp.tg
  have h32 := hW.2.2.1
  have h10 : ¬ nI 1 = nI 0 := by decide
  have f4 : F (L (5 + k)) 4 = nI (z_at S k) := hh.2.2.2.1.trans hat
  have see : ∀ K, cPo h F A L nr (z_sees S k (z_at S k) (nI 5)) k (jX4_gathers_11 (ix_run iy_P N (d + 9)) K (L 0) (some (L (5 + k))) (hw h F A)) := fun K => by
    unfold jX4_gathers_11
    rw [st_is hs, h_is ht, hw_fI, f4, st_top hs, hw_in (by omega) (by omega), cond_true, h_is ht, hw_bdF, hw_aI, hw_cl (by omega), hV.2.1 _ hp]
    refine cPo_h pp (cSc.refl L F A) (S' := z_sees S k (z_at S k) (nI 5)) rfl rfl rfl (fun j hj => ?_) ?_ ?_ (by rw [hw_U_ne _ _ (by omega)])
    · unfold z_sees
      rw [zh_sh_ne _ _ _ hj, zh_sh_ne _ _ _ hj]
    · unfold z_sees
      rw [zh_sh, hw_U_same]
    · unfold z_sees
      rw [zh_sh, zh_sh]
      exact cHd_see5 hh h0 _
  rw [rX4_gathers N (d + 9)]
  unfold bX4_gathers
  rw [h_is ht, hw_fI, f4]
  by_cases hz : z_at S k ≤ 0
  · have ez : z_gath S k = z_sees S k (z_at S k) (nI 5) := by
      unfold z_gath
      rw [if_neg (fun w => by omega)]
    rw [ez, if_pos (show nI (z_at S k) ≤ nI 0 by rw [hw_le (by omega) (by omega)]; exact hz)]
    exact see _
  · rw [if_neg (show ¬ nI (z_at S k) ≤ nI 0 by rw [hw_le (by omega) (by omega)]; exact hz), h_is ht, st_isr hs, f4, hw_cI (c_isGone hs hW hn hV N (d + 8) hp)]
    dsimp only
    by_cases hg : z_gone S (z_at S k)
    · have ez : z_gath S k = z_go S k := by
        unfold z_gath
        rw [if_pos ⟨by omega, hg⟩]
      rw [ez, if_pos hg, if_neg h10, h_isr ht]
      exact c_goR (c_go pp h0 (cSc.refl L F A) N (d + 7))
    · have ez : z_gath S k = z_sees S k (z_at S k) (nI 5) := by
        unfold z_gath
        rw [if_neg (fun w => hg w.2)]
      rw [ez, if_neg hg, if_pos rfl]
      exact see _
theorem c_notes {h : ix_H} {L : Nat → Nat} {nr : Nat} {S : zS} {k : Nat} {F A : Nat → Nat → Int32} (p : cPre h L nr S k F A) (h7 : zh S k 1 = nI 7) {N : Nat} (hN : 2000 ≤ N) (d : Nat) :
    cPo h F A L nr (z_notes S k) k (ix_run iy_P N (d + 10) 193 [ix_R (some (L 0)), ix_R (some (L (5 + k)))] (hw h F A)) := by
  have pp := p
  obtain ⟨hs, hW, hn, hk, hV⟩ := p
  have hh := pp.hd
  have ht := pp.tg
  have h0 : zh S k 1 ≠ nI 0 := by rw [h7]; decide
  have hpg := hW.pg (show 0 < zp S by have := hW.2.1; omega)
  obtain ⟨f7, f8⟩ := hh.2.2.2.2.2.2.2.2.2.2.2.2.1 (Or.inl h7)
  obtain ⟨F1, A1, e1, q1, g1⟩ := c_bounds hs hW hn hV hN (d + 3)
  have hF1 : F1 (L (5 + k)) = F (L (5 + k)) := q1.1 _ (hs.ne (by omega))
  have ea := c_at1 hs.bo (show 1000 ≤ N by omega) (d + 8) g1.1 hpg.1 (by omega) (zh S k 12)
  rw [rX4_notes N (d + 9)]
  unfold bX4_notes
  rw [st_isr hs, hw_cR e1]
  dsimp only
  rw [h_is ht, cp_isr hs.bo, hw_fI, hF1, f7, hw_cI ea]
  dsimp only
  unfold z_notes
  cases hg : kv_get (zh S k 12) (z_pg S 0).1 with
  | none =>
    dsimp only
    rw [if_pos rfl, if_pos (show (-1 : Int32) < nI 0 by decide)]
    unfold jX4_notes_19
    rw [if_pos (show (-1 : Int32) < nI 0 by decide), st_is hs, st_top hs, hw_in (by omega) (by omega), cond_true, h_is ht, hw_bdF, hw_aI, hw_cl (by omega), (hV.sc hs q1.s12).2.1 0 (by have := hW.2.1; omega), hF1]
    refine cPo_h pp q1.s12 (S' := z_sees S k 0 (nI 8)) rfl rfl rfl (fun j hj => ?_) ?_ ?_ (by rw [hw_U_ne _ _ (by omega)])
    · unfold z_sees
      rw [zh_sh_ne _ _ _ hj, zh_sh_ne _ _ _ hj]
    · unfold z_sees
      rw [zh_sh, hw_U_same]
    · unfold z_sees
      rw [zh_sh, zh_sh]
      exact cHd_see8 hh h0 h7 _
  | some v =>
    dsimp only
    obtain ⟨hlt2, ev⟩ := (kv_get_wh hpg.1 v).mp hg
    have ev2 := (g1.1.2 _ hlt2).2
    rw [ev] at ev2
    dsimp only at ev2
    have hns : ¬ (some v = (none : Option Int32)) := fun w => nomatch w
    have hnn : ¬ nI (kv_wh (zh S k 12) (z_pg S 0).1) < nI 0 := by rw [hw_lt (by omega) (by omega)]; omega
    rw [if_neg hns, if_neg hnn, st_is hs, st_bo hs, cp_rv hs.bo, hw_in (by omega) (by omega), cond_true, h_is ht, hw_aI, hw_cl (by omega), ev2, hw_fI, hF1, f8]
    by_cases hv : v = zh S k 13
    · rw [if_pos hv, if_pos hv, h_isr ht]
      exact c_goR (c_go pp h0 q1.s12 N (d + 7))
    · rw [if_neg hv, if_neg hv]
      unfold jX4_notes_19
      rw [if_neg hnn, st_is hs, st_bo hs, cp_rv hs.bo, hw_in (by omega) (by omega), cond_true, h_is ht, hw_bdF, hw_aI, hw_cl (by omega), ev2, hF1]
      refine cPo_h pp q1.s12 (S' := z_sh (z_sh S k 11 v) k 1 (nI 12)) rfl rfl rfl (fun j hj => ?_) ?_ ?_ (by rw [hw_U_ne _ _ (by omega)])
      · rw [zh_sh_ne _ _ _ hj, zh_sh_ne _ _ _ hj]
      · rw [zh_sh, hw_U_same]
      · rw [zh_sh, zh_sh]
        exact cHd_vic hh h0 _
/-- what boundOf answers is a bound, never below nought, if there is one -/
theorem c_bnd {l : KV} {b : Nat} (hl : ∀ q ∈ l, nI 0 ≤ q.1) (hb : b < l.length) : nI 0 ≤ (kv_nth l b).1 := by
  rw [kv_nth_get hb]
  exact hl _ (List.getElem_mem hb)
theorem c_looks {h : ix_H} {L : Nat → Nat} {nr : Nat} {S : zS} {k : Nat} {F A : Nat → Nat → Int32} (p : cPre h L nr S k F A) (h12 : zh S k 1 = nI 12) {N : Nat} (hN : 2000 ≤ N) (d : Nat) (hl : ∀ q ∈ (z_pg S 0).1, nI 0 ≤ q.1) :
    cPo h F A L nr (z_look S k) k (ix_run iy_P N (d + 10) 200 [ix_R (some (L 0)), ix_R (some (L (5 + k)))] (hw h F A)) := by
  have pp := p
  obtain ⟨hs, hW, hn, hk, hV⟩ := p
  have hh := pp.hd
  have ht := pp.tg
  have h0 : zh S k 1 ≠ nI 0 := by rw [h12]; decide
  have f9 := hh.2.2.2.2.2.2.2.2.2.2.2.2.2.2 (Or.inr (Or.inr (Or.inl h12)))
  obtain ⟨F1, A1, e1, q1, g1⟩ := c_boundOf hs hW hn hV hN (d + 2) (zh S k 11)
  have hF1 : F1 (L (5 + k)) = F (L (5 + k)) := q1.1 _ (hs.ne (by omega))
  rw [rX4_looks N (d + 9)]
  unfold bX4_looks
  rw [h_is ht, st_isr hs, hw_fI, f9, hw_cI e1]
  dsimp only
  unfold z_look
  cases hg : kv_ix (zh S k 11) (z_pg S 0).1 with
  | none =>
    dsimp only
    rw [if_neg (show ¬ nI 0 ≤ (-1 : Int32) by decide), h_isr ht]
    exact c_goR (c_go pp h0 q1.s12 N (d + 7))
  | some b =>
    dsimp only
    rw [if_pos (c_bnd hl (kv_ix_lt hg)), st_is hs, st_top hs, hw_in (by omega) (by omega), cond_true, h_is ht, hw_bdF, hw_aI, hw_cl (by omega), (hV.sc hs q1.s12).2.1 0 (by have := hW.2.1; omega), hF1]
    refine cPo_h pp q1.s12 (S' := z_sees S k 0 (nI 13)) rfl rfl rfl (fun j hj => ?_) ?_ ?_ (by rw [hw_U_ne _ _ (by omega)])
    · unfold z_sees
      rw [zh_sh_ne _ _ _ hj, zh_sh_ne _ _ _ hj]
    · unfold z_sees
      rw [zh_sh, hw_U_same]
    · unfold z_sees
      rw [zh_sh, zh_sh]
      exact cHd_see13 hh h0 h12 _
theorem c_looksLeft {h : ix_H} {L : Nat → Nat} {nr : Nat} {S : zS} {k : Nat} {F A : Nat → Nat → Int32} (p : cPre h L nr S k F A) (h1 : zh S k 1 = nI 10) {N : Nat} (hN : 2000 ≤ N) (d : Nat) (hl : ∀ q ∈ (z_pg S 0).1, nI 0 ≤ q.1) (hb : ∀ q ∈ (z_pg S 0).1, ∃ p, p < zp S ∧ q.2 = nI p) (hz : kv_ix (zh S k 11) (z_pg S 0).1 ≠ some 0) :
    cPo h F A L nr (z_lookl S k) k (ix_run iy_P N (d + 10) 198 [ix_R (some (L 0)), ix_R (some (L (5 + k)))] (hw h F A)) := by
  have pp := p
  obtain ⟨hs, hW, hn, hk, hV⟩ := p
  have hh := pp.hd
  have ht := pp.tg
  have h0 : zh S k 1 ≠ nI 0 := by rw [h1]; decide
  have h10 : ¬ nI 1 = nI 0 := by decide
  have h32 := hW.2.2.1
  have f9 := hh.2.2.2.2.2.2.2.2.2.2.2.2.2.2 (Or.inl h1)
  have hpg0 := hW.pg (show 0 < zp S by have := hW.2.1; omega)
  obtain ⟨F1, A1, e1, q1, g1⟩ := c_boundOf hs hW hn hV hN (d + 2) (zh S k 11)
  have hF1 : F1 (L (5 + k)) = F (L (5 + k)) := q1.1 _ (hs.ne (by omega))
  rw [rX4_looksLeft N (d + 9)]
  unfold bX4_looksLeft
  rw [h_is ht, st_isr hs, hw_fI, f9, hw_cI e1]
  dsimp only
  cases hg : kv_ix (zh S k 11) (z_pg S 0).1 with
  | none =>
    have ez : z_lookl S k = z_go S k := by
      unfold z_lookl
      rw [hg]
    rw [ez]
    dsimp only
    rw [if_neg (show ¬ nI 0 ≤ (-1 : Int32) by decide), h_isr ht]
    exact c_goR (c_go pp h0 q1.s12 N (d + 7))
  | some b =>
    have hbl := kv_ix_lt hg
    cases b with
    | zero => exact absurd hg hz
    | succ b =>
      have hb1 : b < (z_pg S 0).1.length := by omega
      obtain ⟨M, hM, hMv⟩ := hb _ (List.getElem_mem hb1)
      have hMc : (nI M).toNatClampNeg = M := nI_clamp (by omega)
      have ekn : (kv_nth (z_pg S 0).1 (b + 1)).1 = ((z_pg S 0).1[b + 1]).1 := by rw [kv_nth_get hbl]
      have ea := c_at1 hs.bo (show 1000 ≤ N by omega) (d + 8) g1.1 hpg0.1 (by omega) ((z_pg S 0).1[b + 1]).1
      have hgw : kv_get ((z_pg S 0).1[b + 1]).1 (z_pg S 0).1 ≠ none ∧ b + 1 = kv_wh ((z_pg S 0).1[b + 1]).1 (z_pg S 0).1 := (kv_at_wh hpg0.1 hbl).mp rfl
      rw [if_neg hgw.1, ← hgw.2] at ea
      have w2 := (g1.1.2 b hb1).2
      rw [hMv] at w2
      have ez : z_lookl S k = if z_gone S M then z_left S k (nI M) else if (z_pg S M).2.1 < ((z_pg S 0).1[b + 1]).1 then z_note S k (z_pg S M).2.1 (z_pg S M).2.2 else if (z_pg S M).2.1 = ((z_pg S 0).1[b + 1]).1 ∧ (z_pg S M).2.2 = zh S k 11 then z_sees (z_sh (z_sh S k 12 ((z_pg S 0).1[b + 1]).1) k 13 (nI M)) k M (nI 11) else z_sh S k 1 (nI 12) := by
        unfold z_lookl
        rw [hg]
        dsimp only
        rw [kv_nth_get hb1, kv_nth_get hbl, hMv, hMc]
      rw [ez]
      dsimp only
      -- the hand with what is beside told
      have hV1 := hV.sc hs q1.s12
      have hhb := cHd_bes hh h0 h1 (nI M)
      have hV1b : cV (hw_R F1 (L (5 + k)) (hw_U (F (L (5 + k))) 10 (nI M))) A1 L S := by
        obtain ⟨v1, v2, v3, v4⟩ := hV1
        refine ⟨by rw [hw_R_ne _ _ (hs.ne (by omega))]; exact v1, v2, fun r hr => (v3 r hr).keep (hw_R_ne _ _ (hs.ne (by omega))) rfl rfl, fun j hj => ?_⟩
        unfold cH0
        by_cases w : j = k
        · subst w
          rw [hw_R_same]
          exact hhb
        · rw [hw_R_ne _ _ (hs.ne (by omega))]
          exact v4 j hj
      have eg := c_isGone hs hW hn hV1b N (d + 8) hM
      rw [if_pos (c_bnd hl hbl), st_is hs, st_bo hs, st_is hs, st_boR hs, ekn, hw_cI ea]
      dsimp only
      rw [hw_sub (by omega), Nat.add_sub_cancel, cp_rv hs.bo, hw_in (by omega) (by omega), cond_true, h_is ht, hw_aI, hw_cl (by omega), w2, hw_bdF, hF1, h_is ht, st_isr hs, hw_fI, hw_R_same, hw_U_same, hw_cI eg]
      dsimp only
      by_cases hgo : z_gone S M
      · rw [if_pos hgo, if_pos hgo, if_neg h10, h_is ht, h_is ht, hw_bdF, hw_fI, hw_R_same, hw_U_same, hw_R_R]
        refine cPo_h pp q1.s12 (S' := z_left S k (nI M)) rfl rfl rfl (fun j hj => ?_) ?_ ?_ (by rw [hw_U_ne _ _ (by omega), hw_U_ne _ _ (by omega)])
        · unfold z_left
          rw [zh_sh_ne _ _ _ hj, zh_sh_ne _ _ _ hj]
        · unfold z_left
          rw [zh_sh, hw_U_same]
        · unfold z_left
          rw [zh_sh, zh_sh]
          exact cHd_left hhb h0 _
      rw [if_neg hgo, if_neg hgo, if_pos rfl]
      obtain ⟨F2, A2, e2, q2, g2⟩ := c_lays hs hW hn hs.he hs.x9 ⟨hs.ne (by omega), hs.ne (by omega)⟩ hV1b hN (d + 4) hM
      have hF2 : F2 (L (5 + k)) = hw_U (F (L (5 + k))) 10 (nI M) := by rw [q2.1 _ (hs.ne (by omega)), hw_R_same]
      have f29 : F2 (L (5 + k)) 9 = zh S k 11 := by rw [hF2, hw_U_ne _ _ (by omega)]; exact f9
      have f210 : F2 (L (5 + k)) 10 = nI M := by rw [hF2, hw_U_same]
      -- F2 is what is laid into, over the hand's change
      have hq3 : ∀ g, cSc L F A (fun b => if b = L (5 + k) then F (L (5 + k)) else F2 b) A2 ∧ hw_R F2 (L (5 + k)) g = hw_R (fun b => if b = L (5 + k) then F (L (5 + k)) else F2 b) (L (5 + k)) g := fun g => by
        refine ⟨⟨fun b b1 b2 b3 => ?_, fun b b1 b2 b3 b4 b5 b6 b7 => (q2.s9.2 b b1 b2 b3 b4 b5 b6 b7).trans (q1.s12.2 b b1 b2 b3 b4 b5 b6 b7)⟩, ?_⟩
        · dsimp only
          by_cases w : b = L (5 + k)
          · rw [if_pos w, w]
          · rw [if_neg w, q2.s9.1 b b1 b2 b3, hw_R_ne _ _ w, q1.s12.1 b b1 b2 b3]
        · funext b
          unfold hw_R
          by_cases w : b = L (5 + k)
          · rw [if_pos w, if_pos w]
          · rw [if_neg w, if_neg w]
            dsimp only
            rw [if_neg w]
      rw [h_is ht, st_is hs, st_isr hs, hw_fI, hw_R_same, hw_U_same, hw_fR, hs.1.2.2.2.2.1, hw_cV e2, st_is hs, st_he hs, hw_fI, g2.2.1]
      by_cases hlt2 : (z_pg S M).2.1 < ((z_pg S 0).1[b + 1]).1
      · rw [if_pos hlt2, if_neg (show ¬ ((z_pg S 0).1[b + 1]).1 ≤ (z_pg S M).2.1 from fun w => by rw [Int32.lt_iff_toInt_lt] at hlt2; rw [Int32.le_iff_toInt_le] at w; omega), st_is hs, st_he hs, st_is hs, st_he hs, st_isr hs, g2.2.1, g2.2.2, hw_cI (c_noting hs ht F2 A2 N (d + 8) _ _), hF2]
        dsimp only
        rw [(hq3 _).2]
        refine cPo_h pp (hq3 (fun _ => 0)).1 (S' := z_note S k (z_pg S M).2.1 (z_pg S M).2.2) rfl rfl rfl (fun j hj => ?_) ?_ ?_ (by rw [hw_U_ne _ _ (by omega), hw_U_ne _ _ (by omega), hw_U_ne _ _ (by omega)])
        · unfold z_note
          rw [zh_sh_ne _ _ _ hj, zh_sh_ne _ _ _ hj, zh_sh_ne _ _ _ hj]
        · unfold z_note
          rw [zh_sh, hw_U_same]
        · unfold z_note
          rw [zh_sh, zh_sh, zh_sh]
          exact cHd_note hhb h0 _ _
      rw [if_neg hlt2, if_pos (kv_nlt_le.mp hlt2), st_is hs, st_he hs, g2.2.1]
      have look : cPo h F A L nr (z_sh S k 1 (nI 12)) k (some (.inl (some (ix_I (nI 12))), hw h F2 A2)) := by
        have := cPo_h pp (hq3 (fun _ => 0)).1 (S' := z_sh S k 1 (nI 12)) (st := nI 12) (g := F2 (L (5 + k))) rfl rfl rfl (fun j hj => zh_sh_ne _ _ _ hj) (by rw [zh_sh, hw_U_same]) (by rw [zh_sh, hF2]; exact cHd_to12 hhb h0 (Or.inl h1)) (by rw [hF2, hw_U_ne _ _ (by omega)])
        rw [← (hq3 _).2, hw_R_self] at this
        exact this
      unfold jX4_looksLeft_65
      by_cases hq : (z_pg S M).2.1 = ((z_pg S 0).1[b + 1]).1
      · rw [if_neg (show ¬ ((z_pg S 0).1[b + 1]).1 < (z_pg S M).2.1 from fun w => by rw [hq] at w; exact kv_lt_irrefl w), st_is hs, st_he hs, h_is ht, g2.2.2, f29]
        by_cases hr : (z_pg S M).2.2 = zh S k 11
        · rw [if_pos hr, if_pos ⟨hq, hr⟩, h_is ht, hw_bdF, st_is hs, h_is ht, hw_fI, hw_R_same, hw_U_ne _ _ (show 10 ≠ 7 by omega), f210, st_top hs, hw_in (by omega) (by omega), cond_true, h_is ht, hw_bdF, hw_aI, hw_cl (by omega), (hV1b.sc hs q2.s9).2.1 M hM, hw_R_R, hw_R_same, hF2, (hq3 _).2]
          refine cPo_h pp (hq3 (fun _ => 0)).1 (S' := z_sees (z_sh (z_sh S k 12 ((z_pg S 0).1[b + 1]).1) k 13 (nI M)) k M (nI 11)) rfl rfl rfl (fun j hj => ?_) ?_ ?_ (by rw [hw_U_ne _ _ (by omega), hw_U_ne _ _ (by omega), hw_U_ne _ _ (by omega)])
          · unfold z_sees
            rw [zh_sh_ne _ _ _ hj, zh_sh_ne _ _ _ hj, zh_sh_ne _ _ _ hj, zh_sh_ne _ _ _ hj]
          · unfold z_sees
            rw [zh_sh, hw_U_same]
          · unfold z_sees
            rw [zh_sh, zh_sh, zh_sh, zh_sh]
            exact cHd_join hh h0 h1 _ _ _
        · rw [if_neg hr, if_neg (fun w => hr w.2)]
          exact look
      · rw [if_pos (show ((z_pg S 0).1[b + 1]).1 < (z_pg S M).2.1 from kv_le_lt (kv_nlt_le.mp hlt2) (fun w => hq w.symm)), if_neg (fun w => hq w.1)]
        exact look
