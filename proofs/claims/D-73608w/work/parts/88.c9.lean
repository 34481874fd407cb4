/-! C9: the component: the stages of a hand that change but the hand -/
set_option maxRecDepth 100000
/-- what every stage stands on -/
def cPre (h : ix_H) (L : Nat → Nat) (nr : Nat) (S : zS) (k : Nat) (F A : Nat → Nat → Int32) : Prop := cS h L nr ∧ z_W S ∧ zn S ≤ nr ∧ k < 4 ∧ cV F A L S
theorem cPre.tg {h : ix_H} {L : Nat → Nat} {nr : Nat} {S : zS} {k : Nat} {F A : Nat → Nat → Int32} (p : cPre h L nr S k F A) : ix_tg h (L (5 + k)) = 7 := (p.1.2.2.1 k p.2.2.2.1).2
theorem cPre.hd {h : ix_H} {L : Nat → Nat} {nr : Nat} {S : zS} {k : Nat} {F A : Nat → Nat → Int32} (p : cPre h L nr S k F A) : cHd (F (L (5 + k))) (zh S k) := p.2.2.2.2.2.2.2 k p.2.2.2.1
/-- a hand's change, told by its cell -/
theorem cPo_h {h : ix_H} {L : Nat → Nat} {nr : Nat} {S : zS} {k : Nat} {F A : Nat → Nat → Int32} (p : cPre h L nr S k F A) {F1 A1 : Nat → Nat → Int32} (q : cSc L F A F1 A1) {S' : zS} {st : Int32} {g : Nat → Int32} (e1 : S'.1 = S.1) (e2 : S'.2.1 = S.2.1) (e3 : S'.2.2.2 = S.2.2.2) (ej : ∀ j, j ≠ k → zh S' j = zh S j) (hst : zh S' k 1 = st) (hg : cHd g (zh S' k)) (h3 : g 3 = F (L (5 + k)) 3) :
    cPo h F A L nr S' k (some (.inl (some (ix_I st)), hw h (hw_R F1 (L (5 + k)) g) A1)) := by
  have := cPo_hand p.1 p.2.2.2.1 p.2.2.1 p.2.2.2.2 q e1 e2 e3 ej hg h3
  rw [hst] at this
  exact this
theorem c_finds {h : ix_H} {L : Nat → Nat} {nr : Nat} {S : zS} {k : Nat} {F A : Nat → Nat → Int32} (p : cPre h L nr S k F A) (h0 : zh S k 1 ≠ nI 0) {N : Nat} (hN : 2000 ≤ N) (d : Nat) (hu : 0 < kv_ui (zh S k 6) (z_pg S 0).1) :
    cPo h F A L nr (z_finds S k) k (ix_run iy_P N (d + 10) 181 [ix_R (some (L 0)), ix_R (some (L (5 + k)))] (hw h F A)) := by
  have pp := p
  obtain ⟨hs, hW, hn, hk, hV⟩ := p
  have hh := pp.hd
  have ht := pp.tg
  have hpg := hW.pg (show 0 < zp S by have := hW.2.1; omega)
  obtain ⟨F1, A1, e1, q1, g1⟩ := c_bounds hs hW hn hV hN (d + 3)
  have hF1 : F1 (L (5 + k)) = F (L (5 + k)) := q1.1 _ (hs.ne (by omega))
  have eu := c_upTo hs.bo (show 1000 ≤ N by omega) (d + 8) g1.1 hpg.1 (by omega) (zh S k 6)
  have hle := kv_ui_le (zh S k 6) (z_pg S 0).1
  have hv := (g1.1.2 (kv_ui (zh S k 6) (z_pg S 0).1 - 1) (by omega)).2
  rw [rX4_finds N (d + 9)]
  unfold bX4_finds
  rw [st_isr hs, hw_cR e1]
  dsimp only
  rw [cp_is hs.bo, h_is ht, cp_isr hs.bo, hw_fI, hF1, hh.2.1, hw_cI eu]
  dsimp only
  rw [hw_sub (by omega), cp_rv hs.bo, hw_in (by omega) (by omega), cond_true, h_is ht, hw_aI, hw_cl (by omega), hv, hw_bdF, hF1, ← kv_nth_get (show kv_ui (zh S k 6) (z_pg S 0).1 - 1 < (z_pg S 0).1.length by omega)]
  refine cPo_h pp q1.s12 (S' := z_finds S k) rfl rfl rfl (fun j hj => ?_) ?_ ?_ (by rw [hw_U_ne _ _ (by omega)])
  · unfold z_finds
    rw [zh_sh_ne _ _ _ hj, zh_sh_ne _ _ _ hj]
  · unfold z_finds
    rw [zh_sh, hw_U_same]
  · unfold z_finds
    rw [zh_sh, zh_sh]
    exact cHd_at hh h0 _
theorem c_reads {h : ix_H} {L : Nat → Nat} {nr : Nat} {S : zS} {k : Nat} {F A : Nat → Nat → Int32} (p : cPre h L nr S k F A) {rc : List Nat} (hrc : z_R S rc) (h0 : zh S k 1 ≠ nI 0) {N : Nat} (hN : 2000 ≤ N) (d : Nat) (hp : z_at S k < zp S) (hat : zh S k 2 = nI (z_at S k)) :
    cPo h F A L nr (z_reads S k) k (ix_run iy_P N (d + 10) 183 [ix_R (some (L 0)), ix_R (some (L (5 + k)))] (hw h F A)) := by
  have pp := p
  obtain ⟨hs, hW, hn, hk, hV⟩ := p
  have hh := pp.hd
  have ht := pp.tg
  have h32 := hW.2.2.1
  have hpg := hW.pg hp
  have h10 : ¬ nI 1 = nI 0 := by decide
  have f0 : F (L (5 + k)) 0 = zh S k 0 := hh.1
  have f1 : F (L (5 + k)) 1 = zh S k 6 := hh.2.1
  have f4 : F (L (5 + k)) 4 = nI (z_at S k) := hh.2.2.2.1.trans hat
  have eg := c_isGone hs hW hn hV N (d + 8) hp
  rw [rX4_reads N (d + 9)]
  unfold bX4_reads
  rw [h_is ht, st_isr hs, hw_fI, f4, hw_cI eg]
  dsimp only
  unfold z_reads
  by_cases hg : z_gone S (z_at S k)
  · rw [if_pos hg, if_pos hg, if_neg h10, h_is ht, h_is ht, hw_bdF, hw_fI, f4]
    refine cPo_h pp (cSc.refl L F A) (S' := z_left S k (zh S k 2)) rfl rfl rfl (fun j hj => ?_) ?_ ?_ (by rw [hw_U_ne _ _ (by omega)])
    · unfold z_left
      rw [zh_sh_ne _ _ _ hj, zh_sh_ne _ _ _ hj]
    · unfold z_left
      rw [zh_sh, hw_U_same]
    · unfold z_left
      rw [zh_sh, zh_sh, hat]
      exact cHd_left hh h0 _
  rw [if_neg hg, if_neg hg, if_pos rfl]
  obtain ⟨F1, A1, e1, q1, g1⟩ := c_lays hs hW hn hs.he hs.x9 ⟨hs.ne (by omega), hs.ne (by omega)⟩ hV hN (d + 4) hp
  have hF1 : F1 (L (5 + k)) = F (L (5 + k)) := q1.1 _ (hs.ne (by omega))
  have hV1 := hV.sc hs q1.s9
  rw [h_is ht, st_is hs, st_isr hs, hw_fI, hw_fR, f4, hs.1.2.2.2.2.1, hw_cV e1, h_is ht, st_is hs, st_he hs, hw_fI, hF1, f1, g1.2.1]
  by_cases hh2 : (z_pg S (z_at S k)).2.1 ≤ zh S k 6
  · have hlt : ¬ zh S k 6 < (z_pg S (z_at S k)).2.1 := fun w => by rw [Int32.lt_iff_toInt_lt] at w; rw [Int32.le_iff_toInt_le] at hh2; omega
    rw [if_pos hh2, if_neg hlt]
    obtain ⟨F2, A2, e2, q2⟩ := c_isNoted hs hW hn hV1 hN (d + 2) (z_pg S (z_at S k)).2.1 (z_pg S (z_at S k)).2.2
    have q12 := q1.s9.trans q2.s12
    have hF2 : F2 (L (5 + k)) = F (L (5 + k)) := (q2.1 _ (hs.ne (by omega))).trans hF1
    have hF29 : F2 (L 9) = F1 (L 9) := q2.1 _ (hs.ne (by omega))
    rw [st_is hs, st_he hs, st_is hs, st_he hs, st_isr hs, g1.2.1, g1.2.2, hw_cI e2]
    dsimp only
    by_cases hc : kv_get (z_pg S (z_at S k)).2.1 (z_pg S 0).1 = some (z_pg S (z_at S k)).2.2
    · rw [if_pos hc, if_pos hc, if_neg h10, st_is hs, st_he hs, h_is ht, hw_bdF, hw_fI, hF29, g1.2.2, hF2]
      refine cPo_h pp q12 (S' := z_sh (z_sh S k 2 (z_pg S (z_at S k)).2.2) k 1 (nI 2)) rfl rfl rfl (fun j hj => ?_) ?_ ?_ (by rw [hw_U_ne _ _ (by omega)])
      · rw [zh_sh_ne _ _ _ hj, zh_sh_ne _ _ _ hj]
      · rw [zh_sh, hw_U_same]
      · rw [zh_sh, zh_sh]
        exact cHd_at hh h0 _
    · rw [if_neg hc, if_neg hc, if_pos rfl, st_is hs, st_he hs, st_is hs, st_he hs, st_isr hs, hw_fI, hF29, g1.2.1, g1.2.2, hw_cI (c_noting hs ht F2 A2 N (d + 8) _ _), hF2]
      dsimp only
      refine cPo_h pp q12 (S' := z_note S k (z_pg S (z_at S k)).2.1 (z_pg S (z_at S k)).2.2) rfl rfl rfl (fun j hj => ?_) ?_ ?_ (by rw [hw_U_ne _ _ (by omega), hw_U_ne _ _ (by omega)])
      · unfold z_note
        rw [zh_sh_ne _ _ _ hj, zh_sh_ne _ _ _ hj, zh_sh_ne _ _ _ hj]
      · unfold z_note
        rw [zh_sh, hw_U_same]
      · unfold z_note
        rw [zh_sh, zh_sh, zh_sh]
        exact cHd_note hh h0 _ _
  have hlt : zh S k 6 < (z_pg S (z_at S k)).2.1 := Classical.byContradiction fun w => hh2 (kv_nlt_le.mp w)
  have ea := c_at1 hs.he (show 1000 ≤ N by omega) (d + 8) g1.1 hpg.1 (by omega) (zh S k 6)
  rw [if_neg hh2, if_pos hlt, st_is hs, h_is ht, st_heR hs, hF1, f1, hw_cI ea]
  dsimp only
  rw [h_is ht, hw_fI, hF1, f0]
  have hsg : ∀ {α : Type} (a b : α), (if nI 0 ≤ (if kv_get (zh S k 6) (z_pg S (z_at S k)).1 = none then (-1 : Int32) else nI (kv_wh (zh S k 6) (z_pg S (z_at S k)).1)) then a else b) = if kv_get (zh S k 6) (z_pg S (z_at S k)).1 = none then b else a := fun a b => by
    have := kv_wh_le (zh S k 6) (z_pg S (z_at S k)).1
    by_cases w : kv_get (zh S k 6) (z_pg S (z_at S k)).1 = none
    · rw [if_pos w, if_pos w, if_neg (by decide)]
    · rw [if_neg w, if_neg w, if_pos (by rw [hw_le (by omega) (by omega)]; omega)]
  have tel : ∀ (v : Int32) (F2 A2 : Nat → Nat → Int32), cSc L F A F2 A2 → F2 (L (5 + k)) = F (L (5 + k)) → cPo h F A L nr (z_rest S k v) k (some (.inl (some (ix_I (nI 0))), hw h (hw_R F2 (L (5 + k)) (hw_U (hw_U (hw_U (F2 (L (5 + k))) 14 v) 15 (nI 1)) 13 (-2))) A2)) := fun v F2 A2 q2 hF2 => by
    rw [hF2]
    refine cPo_h pp q2 (S' := z_rest S k v) rfl rfl rfl (fun j hj => ?_) ?_ ?_ (by rw [hw_U_ne _ _ (by omega), hw_U_ne _ _ (by omega), hw_U_ne _ _ (by omega)])
    · unfold z_rest
      rw [zh_sh_ne _ _ _ hj, zh_sh_ne _ _ _ hj, zh_sh_ne _ _ _ hj]
    · unfold z_rest
      rw [zh_sh, hw_U_same]
    · unfold z_rest
      rw [zh_sh, zh_sh, zh_sh]
      exact cHd_tell hh h0 _
  by_cases ha3 : zh S k 0 = nI 3
  · rw [if_pos ha3, if_pos ha3]
    unfold jX4_reads_69
    rw [hsg]
    cases hgk : kv_get (zh S k 6) (z_pg S (z_at S k)).1 with
    | none =>
      rw [if_pos rfl, h_isr ht, hw_cI (c_tells ht F1 A1 N (d + 7) _)]
      dsimp only
      exact tel _ F1 A1 q1.s9 hF1
    | some v =>
      obtain ⟨hlt2, ev⟩ := (kv_get_wh hpg.1 v).mp hgk
      have ev2 := (g1.1.2 _ hlt2).2
      rw [ev] at ev2
      dsimp only at ev2
      have hns : ¬ (some v = (none : Option Int32)) := fun w => nomatch w
      rw [if_neg hns, if_neg hns, st_is hs, st_he hs, cp_rv hs.he, hw_in (by omega) (by omega), cond_true, hw_aI, hw_cl (by omega), ev2, h_isr ht, hw_cI (c_tells ht F1 A1 N (d + 7) _)]
      dsimp only
      exact tel _ F1 A1 q1.s9 hF1
  rw [if_neg ha3, if_neg ha3, h_is ht, hF1, f0]
  have see : ∀ (F2 A2 : Nat → Nat → Int32) K, cSc L F A F2 A2 → F2 (L (5 + k)) = F (L (5 + k)) → cPo h F A L nr (z_sees S k (z_at S k) (nI 3)) k (jX4_reads_105 (ix_run iy_P N (d + 9)) K (L 0) (some (L (5 + k))) (hw h F2 A2)) := fun F2 A2 K q2 hF2 => by
    unfold jX4_reads_105
    rw [st_is hs, h_is ht, hw_fI, hF2, f4, st_top hs, hw_in (by omega) (by omega), cond_true, h_is ht, hw_bdF, hw_aI, hw_cl (by omega), (hV.sc hs q2).2.1 _ hp, hF2]
    refine cPo_h pp q2 (S' := z_sees S k (z_at S k) (nI 3)) rfl rfl rfl (fun j hj => ?_) ?_ ?_ (by rw [hw_U_ne _ _ (by omega)])
    · unfold z_sees
      rw [zh_sh_ne _ _ _ hj, zh_sh_ne _ _ _ hj]
    · unfold z_sees
      rw [zh_sh, hw_U_same]
    · unfold z_sees
      rw [zh_sh, zh_sh]
      exact cHd_see3 hh h0 _
  have fin : ∀ K, ¬ (zh S k 0 = nI 2 ∧ kv_get (zh S k 6) (z_pg S (z_at S k)).1 = none) → cPo h F A L nr (if 24 ≤ z_len S (z_at S k) then z_sh S k 1 (nI 4) else if zh S k 0 = nI 1 ∧ kv_get (zh S k 6) (z_pg S (z_at S k)).1 = none ∧ 40 ≤ (z_all S).length then z_rest S k (-3) else z_sees S k (z_at S k) (nI 3)) k (jX4_reads_82 (ix_run iy_P N (d + 9)) K (L 0) (some (L (5 + k))) (if kv_get (zh S k 6) (z_pg S (z_at S k)).1 = none then (-1 : Int32) else nI (kv_wh (zh S k 6) (z_pg S (z_at S k)).1)) (hw h F1 A1)) := fun K _ => by
    have el := c_length hs hW hn hV1 (show 1000 ≤ N by omega) (d + 8) hp
    have hlen : z_len S (z_at S k) ≤ 840 := by
      have := hpg.2.2
      unfold z_len
      omega
    unfold jX4_reads_82
    rw [h_is ht, st_isr hs, hw_fI, hF1, f4, hw_cI el]
    dsimp only
    by_cases h24 : 24 ≤ z_len S (z_at S k)
    · rw [if_pos h24, if_neg (show ¬ nI (z_len S (z_at S k)) < nI 24 by rw [hw_lt (by omega) (by omega)]; omega)]
      have := cPo_h pp q1.s9 (S' := z_sh S k 1 (nI 4)) (st := nI 4) (g := F (L (5 + k))) rfl rfl rfl (fun j hj => zh_sh_ne _ _ _ hj) (by rw [zh_sh, hw_U_same]) (by rw [zh_sh]; exact cHd_to4 hh h0) rfl
      rw [← hF1, hw_R_self] at this
      exact this
    rw [if_neg h24, if_pos (show nI (z_len S (z_at S k)) < nI 24 by rw [hw_lt (by omega) (by omega)]; omega), h_is ht, hw_fI, hF1, f0]
    by_cases ha1 : zh S k 0 = nI 1
    · rw [if_pos ha1, hsg]
      by_cases hgk : kv_get (zh S k 6) (z_pg S (z_at S k)).1 = none
      · rw [if_pos hgk]
        obtain ⟨F2, A2, e2, q2, q3⟩ := c_keys hs hW hrc hn hN (d + 3) hV1
        have hF2 : F2 (L (5 + k)) = F (L (5 + k)) := (q3 _ (hs.ne (by omega))).trans hF1
        have h43 : (z_all S).length ≤ 43 := by rw [hrc.all hW.2.2.1]; exact hrc.2.2.2.2
        rw [st_isr hs, hw_cI e2]
        dsimp only
        by_cases h40 : 40 ≤ (z_all S).length
        · rw [if_pos ⟨ha1, hgk, h40⟩, if_neg (show ¬ nI (z_all S).length < nI 40 by rw [hw_lt (by omega) (by omega)]; omega), h_isr ht, hw_cI (c_tells ht F2 A2 N (d + 7) _)]
          dsimp only
          exact tel _ F2 A2 (q1.s9.trans q2) hF2
        · rw [if_neg (fun w => h40 w.2.2), if_pos (show nI (z_all S).length < nI 40 by rw [hw_lt (by omega) (by omega)]; omega)]
          exact see F2 A2 _ (q1.s9.trans q2) hF2
      · rw [if_neg hgk, if_neg (fun w => hgk w.2.1)]
        exact see F1 A1 _ q1.s9 hF1
    · rw [if_neg ha1, if_neg (fun w => ha1 w.1)]
      exact see F1 A1 _ q1.s9 hF1
  by_cases ha2 : zh S k 0 = nI 2
  · rw [if_pos ha2, hsg]
    by_cases hgk : kv_get (zh S k 6) (z_pg S (z_at S k)).1 = none
    · rw [if_pos ⟨ha2, hgk⟩, if_pos hgk, h_isr ht, hw_cI (c_tells ht F1 A1 N (d + 7) _)]
      dsimp only
      exact tel _ F1 A1 q1.s9 hF1
    · rw [if_neg (fun w => hgk w.2), if_neg hgk]
      exact fin _ (fun w => hgk w.2)
  · rw [if_neg ha2, if_neg (fun w => ha2 w.1)]
    exact fin _ (fun w => ha2 w.1)
