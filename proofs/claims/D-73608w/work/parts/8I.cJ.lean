/-! CJ: the component: sweeping -/
set_option maxRecDepth 100000
theorem z_swp_same {S : zS} {low : Int32} {i : Nat} (hno : ¬ z_fr S low i) : z_swp S low (i + 1) = z_swp S low i := by
  unfold z_swp
  congr 2
  funext r f
  by_cases hc : f = 5 ∧ r < i ∧ z_fr S low r
  · rw [if_pos hc, if_pos ⟨hc.1, by omega, hc.2.2⟩]
  · rw [if_neg hc, if_neg]
    rintro ⟨a, b, c⟩
    by_cases e : r = i
    · rw [e] at c; exact hno c
    · exact hc ⟨a, by omega, c⟩
theorem z_swp_zero (S : zS) (l1 l2 : Int32) : z_swp S l1 0 = z_swp S l2 0 := by
  unfold z_swp
  congr 2
  funext r f
  rw [if_neg (fun w => absurd w.2.1 (Nat.not_lt_zero _)), if_neg (fun w => absurd w.2.1 (Nat.not_lt_zero _))]
theorem z_swp_ne {S : zS} {low : Int32} {i r : Nat} (h : r ≠ i) : (z_swp S low (i + 1)).1.1 r = (z_swp S low i).1.1 r := by
  funext f
  show (if f = 5 ∧ r < i + 1 ∧ z_fr S low r then nI 1 else S.1.1 r f) = (if f = 5 ∧ r < i ∧ z_fr S low r then nI 1 else S.1.1 r f)
  by_cases hc : f = 5 ∧ r < i ∧ z_fr S low r
  · rw [if_pos hc, if_pos ⟨hc.1, by omega, hc.2.2⟩]
  · rw [if_neg hc, if_neg (fun w => hc ⟨w.1, by omega, w.2.2⟩)]
theorem z_swp_at {S : zS} {low : Int32} {i : Nat} (h : z_fr S low i) : (z_swp S low (i + 1)).1.1 i = hw_U ((z_swp S low i).1.1 i) 5 (nI 1) := by
  funext f
  show (if f = 5 ∧ i < i + 1 ∧ z_fr S low i then nI 1 else S.1.1 i f) = hw_U (fun f => if f = 5 ∧ i < i ∧ z_fr S low i then nI 1 else S.1.1 i f) 5 (nI 1) f
  rw [hw_U_at]
  by_cases hf : f = 5
  · rw [if_pos hf, if_pos ⟨hf, by omega, h⟩]
  · rw [if_neg hf, if_neg (fun w => hf w.1), if_neg (fun w => hf w.1)]
theorem cE.row {F A F' A' : Nat → Nat → Int32} {a ka va : Nat} {B B' : zB} {r : Nat} (h : cE F A a ka va B r) (h1 : F' a = F a) (h2 : A' ka = A ka) (h3 : A' va = A va) (hb : B'.1 r = B.1 r) (hb2 : B'.2 r = B.2 r) : cE F' A' a ka va B' r := by
  unfold cE cG cL at *
  rw [h1, h2, h3, hb, hb2]
  exact h
theorem c_sweeps_2 {h : ix_H} {L : Nat → Nat} {nr : Nat} (hs : cS h L nr) {S : zS} (hn : zn S ≤ nr) (low : Int32) (cal : ix_C) : ∀ z i F A, i ≤ zn S → zn S - i < z → cV1 F A L (z_swp S low i) →
    ∃ F', ix_lp cal stX4_sweeps z 38 [(0, ix_R (some (L 0))), (1, ix_I (nI (((List.range i).filter fun r => decide (z_fr S low r)).length))), (2, ix_I low), (3, ix_I (nI i))] [] (hw h F A) = some (.inl (some (ix_I (nI (((List.range (zn S)).filter fun r => decide (z_fr S low r)).length)))), hw h F' A) ∧ (∀ c, (∀ j, j < 18 + 3 * nr → c ≠ L j) → F' c = F c) ∧ cV1 F' A L (z_swp S low (zn S)) := by
  have h2000 := hs.2.2.2.2.2.2.1
  intro z
  induction z with
  | zero => intro i F A _ h; omega
  | succ z ih =>
    intro i F A hi hz hV
    have ha0 : F (L 0) 3 = nI (zn S) := hV.1.1.1
    rw [lX4_sweeps_38]
    unfold jX4_sweeps_38 jX4_sweeps_63
    rw [st_is hs, hw_fI, ha0]
    rcases Nat.lt_or_ge i (zn S) with h1 | h1
    · have hrr := hs.rc (show i < nr by omega)
      have hE := hV.1.2.2.1 i h1
      have n5 : ∀ f, (z_swp S low i).1.1 i f = zr S i f := fun f => by
        show (if f = 5 ∧ i < i ∧ z_fr S low i then nI 1 else S.1.1 i f) = _
        rw [if_neg (fun w => by omega)]
        rfl
      have f10 : F (L (18 + 3 * i)) 10 = zr S i 4 := hE.2.2.2.2.1.trans (n5 4)
      have f11 : F (L (18 + 3 * i)) 11 = zr S i 5 := hE.2.2.2.2.2.1.trans (n5 5)
      have f01 : zr S i 5 = nI 0 ∨ zr S i 5 = nI 1 := by rw [← n5 5]; exact hE.2.2.2.2.2.2.1
      have no : ¬ z_fr S low i → ∃ F', ix_lp cal stX4_sweeps z 38 [(0, ix_R (some (L 0))), (1, ix_I (nI (((List.range i).filter fun r => decide (z_fr S low r)).length))), (2, ix_I low), (3, ix_I (nI (i + 1)))] [] (hw h F A) = some (.inl (some (ix_I (nI (((List.range (zn S)).filter fun r => decide (z_fr S low r)).length)))), hw h F' A) ∧ (∀ c, (∀ j, j < 18 + 3 * nr → c ≠ L j) → F' c = F c) ∧ cV1 F' A L (z_swp S low (zn S)) := fun hno => by
        have := ih (i + 1) F A h1 (by omega) (by rw [z_swp_same hno]; exact hV)
        have cy : ((List.range (i + 1)).filter fun r => decide (z_fr S low r)).length = ((List.range i).filter fun r => decide (z_fr S low r)).length := by
          rw [List.range_succ, List.filter_append, List.length_append, List.filter_cons_of_neg (by rw [decide_eq_false hno]; decide)]
          rfl
        rw [cy] at this
        exact this
      rw [if_neg (show ¬ nI (zn S) ≤ nI i by rw [hw_le (by omega) (by omega)]; omega), st_is hs, st_rec hs, hw_in (by omega) (by omega), cond_true, st_rr hs F A (show i < nr by omega), f11]
      by_cases c3 : zr S i 5 = nI 0
      · rw [if_pos c3, st_rr hs F A (show i < nr by omega), f10]
        by_cases c1 : zr S i 4 < nI 0
        · rw [if_pos c1, nI_add]
          exact no (fun w => w (Or.inl c1))
        rw [if_neg c1, st_rr hs F A (show i < nr by omega), f10]
        by_cases c2 : zr S i 4 < low
        · have yes : z_fr S low i := fun w => w.elim c1 (fun w => w.elim (fun w => kv_nlt_le.mpr w c2) (fun w => by rw [c3] at w; exact absurd w (by decide)))
          rw [if_pos c2, st_rr hs F A (show i < nr by omega), show ix_okn 1 (nI 1) = true from rfl, cond_true, hw_bdF, nI_add]
          have hV2 : cV1 (hw_R F (L (18 + 3 * i)) (hw_U (F (L (18 + 3 * i))) 11 (nI 1))) A L (z_swp S low (i + 1)) := by
            obtain ⟨⟨v1, v2, v3, v4⟩, v5⟩ := hV
            refine ⟨⟨?_, v2, fun r hr => ?_, fun j hj => ?_⟩, fun j hj => ?_⟩
            · rw [hw_R_ne _ _ (hs.ne (by omega))]
              exact v1
            · by_cases w : r = i
              · subst w
                obtain ⟨a0, a1, a2, a3, a4, a5, a6, a7, a8⟩ := v3 r hr
                unfold cE cG cL
                rw [z_swp_at yes]
                refine ⟨?_, ?_, ?_, ?_, ?_, ?_, ?_, ?_, ?_⟩
                · rw [hw_R_same, hw_U_ne _ _ (by omega), hw_U_ne _ _ (by omega)]; exact a0
                · rw [hw_R_same, hw_U_ne _ _ (by omega), hw_U_ne _ _ (by omega)]; exact a1
                · rw [hw_R_same, hw_U_ne _ _ (by omega), hw_U_ne _ _ (by omega)]; exact a2
                · rw [hw_R_same, hw_U_ne _ _ (by omega), hw_U_ne _ _ (by omega)]; exact a3
                · rw [hw_R_same, hw_U_ne _ _ (by omega), hw_U_ne _ _ (by omega)]; exact a4
                · rw [hw_R_same, hw_U_same, hw_U_same]
                · rw [hw_U_same]; exact Or.inr rfl
                · rw [hw_R_same, hw_U_ne _ _ (by omega), hw_U_ne _ _ (by omega), hw_U_ne _ _ (by omega)]; exact a7
                · rw [hw_R_same, hw_U_ne _ _ (by omega), hw_U_ne _ _ (by omega), hw_U_ne _ _ (by omega), hw_U_ne _ _ (by omega), hw_U_ne _ _ (by omega)]; exact a8
              · exact (v3 r hr).row (hw_R_ne _ _ (hs.ne (by omega))) rfl rfl (z_swp_ne w) rfl
            · unfold cH0
              rw [hw_R_ne _ _ (hs.ne (by omega))]
              exact v4 j hj
            · rw [hw_R_ne _ _ (hs.ne (by omega))]
              exact v5 j hj
          obtain ⟨F', e1, q1, r1⟩ := ih (i + 1) (hw_R F (L (18 + 3 * i)) (hw_U (F (L (18 + 3 * i))) 11 (nI 1))) A h1 (by omega) hV2
          have cy : ((List.range (i + 1)).filter fun r => decide (z_fr S low r)).length = ((List.range i).filter fun r => decide (z_fr S low r)).length + 1 := by
            rw [List.range_succ, List.filter_append, List.length_append, List.filter_cons_of_pos (p := fun r => decide (z_fr S low r)) (decide_eq_true yes)]
            rfl
          rw [cy] at e1
          rw [nI_add]
          exact ⟨F', e1, fun c hc => (q1 c hc).trans (hw_R_ne _ _ (hc _ (by omega))), r1⟩
        · rw [if_neg c2, nI_add]
          exact no (fun w => w (Or.inr (Or.inl (kv_nlt_le.mp c2))))
      · rw [if_neg c3, nI_add]
        exact no (fun w => w (Or.inr (Or.inr (f01.resolve_left c3))))
    · obtain rfl : i = zn S := by omega
      rw [if_pos (show nI (zn S) ≤ nI (zn S) by rw [hw_le (by omega) (by omega)]; omega)]
      exact ⟨F, rfl, fun _ _ => rfl, hV⟩
theorem j_min (N d : Nat) (a b : Int32) (h : ix_H) : ix_run iy_P N (d + 1) 25 [ix_I a, ix_I b] h = some (.inl (some (ix_I (if b < a then b else a))), h) := by
  rw [rJ13_min N d]
  unfold bJ13_min jJ13_min_6
  split <;> rfl
theorem c_sweeps_1 {h : ix_H} {L : Nat → Nat} {nr : Nat} (hs : cS h L nr) {S : zS} (N d : Nat) : ∀ j i z low F A, i + j = 4 → j < z → (∀ k, k < 4 → cH0 F (L (5 + k)) S k ∧ F (L (5 + k)) 3 = zh S k 1) →
    ∃ z', ix_lp (ix_run iy_P N (d + 1)) stX4_sweeps z 15 [(0, ix_R (some (L 0))), (1, ix_I (nI 0)), (2, ix_I low), (3, ix_I (nI i))] [] (hw h F A) = ix_lp (ix_run iy_P N (d + 1)) stX4_sweeps z' 38 [(0, ix_R (some (L 0))), (1, ix_I (nI 0)), (2, ix_I ((List.range' i j).foldl (fun a k => if zh S k 1 ≠ nI 0 ∧ zh S k 5 < a then zh S k 5 else a) low)), (3, ix_I (nI 0))] [] (hw h F A) ∧ z ≤ z' + j := by
  intro j
  induction j with
  | zero =>
    intro i z low F A hi hz hR
    obtain ⟨z, rfl⟩ : ∃ w, z = w + 1 := ⟨z - 1, by omega⟩
    obtain rfl : i = 4 := by omega
    rw [lX4_sweeps_15]
    unfold jX4_sweeps_15
    rw [if_pos (show nI 4 ≤ nI 4 by decide), ← lX4_sweeps_38]
    exact ⟨z + 1, rfl, by omega⟩
  | succ j ih =>
    intro i z low F A hi hz hR
    obtain ⟨z, rfl⟩ : ∃ w, z = w + 1 := ⟨z - 1, by omega⟩
    have hk : i < 4 := by omega
    obtain ⟨hg, f3⟩ := hR i hk
    have ht : ix_tg h (L (5 + i)) = 7 := (hs.2.2.1 i hk).2
    rw [lX4_sweeps_15]
    unfold jX4_sweeps_15 jX4_sweeps_33
    rw [if_neg (show ¬ nI 4 ≤ nI i by rw [hw_le (by omega) (by omega)]; omega), st_is hs, st_hnd hs, hw_in (by omega) (by omega), cond_true, hw_aR, hw_cl (by omega), st_hr hs hk, h_is ht, hw_fI, f3, List.range'_succ, List.foldl_cons, nI_add]
    by_cases h0 : zh S i 1 = nI 0
    · rw [if_pos h0, if_neg (fun w => w.1 h0)]
      obtain ⟨z', e, hz'⟩ := ih (i + 1) z low F A (by omega) (by omega) hR
      exact ⟨z', e, by omega⟩
    · have f13 : F (L (5 + i)) 13 = zh S i 5 := by
        rw [hg.2.2.2.2.2.2.1, if_neg h0]
      rw [if_neg h0, st_is hs, st_hnd hs, hw_in (by omega) (by omega), cond_true, st_hr hs hk, h_is ht, f13, hw_cI (j_min N d _ _ _)]
      dsimp only
      obtain ⟨z', e, hz'⟩ := ih (i + 1) z (if zh S i 5 < low then zh S i 5 else low) F A (by omega) (by omega) hR
      refine ⟨z', ?_, by omega⟩
      rw [e, show (if zh S i 1 ≠ nI 0 ∧ zh S i 5 < low then zh S i 5 else low) = (if zh S i 5 < low then zh S i 5 else low) by by_cases w : zh S i 5 < low; rw [if_pos ⟨h0, w⟩, if_pos w]; rw [if_neg (fun x => w x.2), if_neg w]]
theorem c_sweeps {h : ix_H} {L : Nat → Nat} {nr : Nat} {S : zS} {F A : Nat → Nat → Int32} (hs : cS h L nr) (hn : zn S ≤ nr) (hV : cV1 F A L S) {N : Nat} (hN : 3000 ≤ N) (d : Nat) :
    cPo1 h F A L nr (z_sweep S).2 (some (ix_I (nI (z_sweep S).1))) (ix_run iy_P N (d + 2) 202 [ix_R (some (L 0))] (hw h F A)) := by
  have h2000 := hs.2.2.2.2.2.2.1
  have e5 : F (L 0) 5 = nI (ze S) := hV.1.1.2.2.1
  rw [rX4_sweeps N (d + 1)]
  unfold bX4_sweeps
  rw [st_is hs, st_is hs, st_is hs, hw_fI, e5, hw_bdF, nI_add]
  have hV0 : ∀ l, cV1 (hw_R F (L 0) (hw_U (F (L 0)) 5 (nI (ze S + 1)))) A L (z_swp S l 0) := fun l => by
    obtain ⟨⟨v1, v2, v3, v4⟩, v5⟩ := hV
    refine ⟨⟨?_, v2, fun r hr => ?_, fun j hj => ?_⟩, fun j hj => ?_⟩
    · rw [hw_R_same, hw_U_ne _ _ (by omega), hw_U_ne _ _ (by omega), hw_U_same, hw_U_ne _ _ (by omega), hw_U_ne _ _ (by omega), hw_U_ne _ _ (by omega)]
      exact ⟨v1.1, v1.2.1, rfl, v1.2.2.2.1, v1.2.2.2.2.1, v1.2.2.2.2.2⟩
    · refine (v3 r hr).row (hw_R_ne _ _ (hs.ne (by omega))) rfl rfl ?_ rfl
      funext f
      show (if f = 5 ∧ r < 0 ∧ z_fr S l r then nI 1 else S.1.1 r f) = S.1.1 r f
      rw [if_neg (fun w => absurd w.2.1 (Nat.not_lt_zero _))]
    · unfold cH0
      rw [hw_R_ne _ _ (hs.ne (by omega))]
      exact v4 j hj
    · rw [hw_R_ne _ _ (hs.ne (by omega))]
      exact v5 j hj
  rw [← lX4_sweeps_15]
  obtain ⟨z', e, hz'⟩ := c_sweeps_1 hs (S := S) N d 4 0 (N + 1) (nI (ze S + 1)) (hw_R F (L 0) (hw_U (F (L 0)) 5 (nI (ze S + 1)))) A (by omega) (by omega) (fun k hk => ⟨(hV0 (nI 0)).1.2.2.2 k hk, (hV0 (nI 0)).2 k hk⟩)
  rw [e]
  have el : (List.range' 0 4).foldl (fun a k => if zh S k 1 ≠ nI 0 ∧ zh S k 5 < a then zh S k 5 else a) (nI (ze S + 1)) = z_low S := rfl
  rw [el]
  obtain ⟨F', e2, q, r⟩ := c_sweeps_2 hs hn (z_low S) (ix_run iy_P N (d + 1)) z' 0 _ A (Nat.zero_le _) (by omega) (hV0 _)
  rw [show nI 0 = nI (((List.range 0).filter fun r => decide (z_fr S (z_low S) r)).length) from rfl] at *
  exact ⟨h, F', A, L, nr, e2, hs, hn, cEx.refl hs (fun b hb hn => ⟨(q b hn).trans (hw_R_ne _ _ (hn _ (by omega))), rfl⟩), r⟩
theorem c_lost_l {h : ix_H} {L : Nat → Nat} {nr : Nat} (hs : cS h L nr) {S : zS} {F A : Nat → Nat → Int32} (hV : cV F A L S) (cal : ix_C) : ∀ j i z a, i + j = 4 → j < z →
    ix_lp cal stX4_lostOfAll z 4 [(0, ix_R (some (L 0))), (1, ix_I a), (2, ix_I (nI i))] [] (hw h F A) = some (.inl (some (ix_I ((List.range' i j).foldl (fun a k => a + zh S k 3) a))), hw h F A) := by
  intro j
  induction j with
  | zero =>
    intro i z a hi hz
    obtain ⟨z, rfl⟩ : ∃ w, z = w + 1 := ⟨z - 1, by omega⟩
    obtain rfl : i = 4 := by omega
    rw [lX4_lostOfAll_4]
    unfold jX4_lostOfAll_4
    rw [if_pos (show nI 4 ≤ nI 4 by decide)]
    rfl
  | succ j ih =>
    intro i z a hi hz
    obtain ⟨z, rfl⟩ : ∃ w, z = w + 1 := ⟨z - 1, by omega⟩
    have hk : i < 4 := by omega
    have ht : ix_tg h (L (5 + i)) = 7 := (hs.2.2.1 i hk).2
    have f11 : F (L (5 + i)) 11 = zh S i 3 := (hV.2.2.2 i hk).2.2.2.2.1
    rw [lX4_lostOfAll_4]
    unfold jX4_lostOfAll_4
    rw [if_neg (show ¬ nI 4 ≤ nI i by rw [hw_le (by omega) (by omega)]; omega), st_is hs, st_hnd hs, hw_in (by omega) (by omega), cond_true, hw_aR, hw_cl (by omega), st_hr hs hk, h_is ht, hw_fI, f11, nI_add, List.range'_succ, List.foldl_cons]
    exact ih (i + 1) z _ (by omega) (by omega)
/-- how many swaps are lost -/
def z_lost (S : zS) : Int32 := (List.range 4).foldl (fun a k => a + zh S k 3) (nI 0)
theorem c_lostOfAll {h : ix_H} {L : Nat → Nat} {nr : Nat} (hs : cS h L nr) {S : zS} {F A : Nat → Nat → Int32} (hV : cV F A L S) {N : Nat} (hN : 10 ≤ N) (d : Nat) : ix_run iy_P N (d + 1) 177 [ix_R (some (L 0))] (hw h F A) = some (.inl (some (ix_I (z_lost S))), hw h F A) := by
  rw [rX4_lostOfAll N d]
  unfold bX4_lostOfAll
  rw [← lX4_lostOfAll_4, c_lost_l hs hV _ 4 0 (N + 1) (nI 0) (by omega) (by omega)]
  rfl
