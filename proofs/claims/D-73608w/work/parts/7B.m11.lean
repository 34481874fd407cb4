/-! MB: the reference: closing, sweeping, taking up -/
set_option maxRecDepth 100000
/-- what a walk of many steps needs: a property that steps keep -/
def z_kp (I : zS → Prop) (k : Nat) : Prop := ∀ T, I T → zn T ≤ 1400 ∧ zp T ≤ 32 ∧ (∃ s, s < 14 ∧ zh T k 1 = nI s) ∧ (zh T k 1 ≠ nI 0 → ∃ rc, z_can (z_sh T k 4 (zh T k 4 + nI 1)) rc k) ∧ I (z_step T k)
theorem m_closes_l {h : ix_H} {m : Nat} (hS : mSh h m) {I : zS → Prop} {k : Nat} (hk : k < 4) (hI : z_kp I k) {N : Nat} (hN : 3000 ≤ N) (d : Nat) : ∀ z i T F A, I T → i ≤ 200 → 200 - i < z → mR (A (m + 21)) T →
    ∃ F' A', ix_lp (ix_run iy_P N (d + 11)) stX9_closes z 2 [(0, ix_R (some m)), (1, ix_I (nI k)), (2, ix_I (nI i))] [] (hw h F A) = some (.inl (some (ix_I (nI (i + (z_close (200 - i) T k).1)))), hw h F' A') ∧ mQ mX mY m F A F' A' ∧ mR (A' (m + 21)) (z_close (200 - i) T k).2 := by
  intro z
  induction z with
  | zero => intro i T F A _ _ h; omega
  | succ z ih =>
    intro i T F A hT hi hz hR
    obtain ⟨hn, h32, ⟨s, hs, hs1⟩, hcan, hstep⟩ := hI T hT
    have hz1 : A (m + 21) (42 + 14 * k + 1) = zh T k 1 := hR.2.2.1 k 1 hk (by omega)
    rw [lX9_closes_2]
    unfold jX9_closes_2 jX9_closes_19
    rcases Nat.lt_or_ge i 200 with h1 | h1
    · rw [if_neg (show ¬ nI 200 ≤ nI i by rw [hw_le (by omega) (by omega)]; omega), mp_is hS, hw_cI (m_hand0 (hw h F A) N (d + 10) k)]
      simp only [nI_add]
      rw [mp_rd35 hS, hw_in (by omega) (by omega), cond_true, hw_aI, hw_cl (by omega), hz1]
      obtain ⟨n, hn⟩ : ∃ n, 200 - i = n + 1 := ⟨200 - i - 1, by omega⟩
      rw [hn]
      unfold z_close
      by_cases h0 : zh T k 1 = nI 0
      · rw [if_pos h0, if_pos (show zh T k 1 ≤ nI 0 by rw [h0]; decide)]
        exact ⟨F, A, rfl, mQ.refl _ _ _ _ _, hR⟩
      · have hs0 : s ≠ 0 := fun w => h0 (by rw [hs1, w])
        rw [if_neg h0, if_neg (show ¬ zh T k 1 ≤ nI 0 by rw [hs1, hw_le (by omega) (by omega)]; omega)]
        obtain ⟨rc, hc⟩ := hcan h0
        obtain ⟨F1, A1, e1, q1, r1⟩ := m_steps hS (rc := rc) (N := N) (by omega) h32 hN d hk (F := F) hR (fun _ => hc)
        rw [mp_isr hS, hw_cV e1]
        obtain ⟨F2, A2, e2, q2, r2⟩ := ih (i + 1) (z_step T k) F1 A1 hstep (by omega) (by omega) r1
        have e3 : 200 - (i + 1) = n := by omega
        rw [e3] at e2 r2
        refine ⟨F2, A2, ?_, q1.trans q2, r2⟩
        rw [e2]
        dsimp only
        rw [show i + 1 + (z_close n (z_step T k) k).1 = i + ((z_close n (z_step T k) k).1 + 1) by omega]
    · obtain rfl : i = 200 := by omega
      rw [if_pos (show nI 200 ≤ nI 200 by decide)]
      exact ⟨F, A, rfl, mQ.refl _ _ _ _ _, hR⟩
theorem m_closes {h : ix_H} {m : Nat} (hS : mSh h m) {I : zS → Prop} {k : Nat} (hk : k < 4) (hI : z_kp I k) {N : Nat} (hN : 3000 ≤ N) (d : Nat) {T : zS} {F A : Nat → Nat → Int32} (hT : I T) (hR : mR (A (m + 21)) T) :
    ∃ F' A', ix_run iy_P N (d + 12) 281 [ix_R (some m), ix_I (nI k)] (hw h F A) = some (.inl (some (ix_I (nI (z_close 200 T k).1))), hw h F' A') ∧ mQ mX mY m F A F' A' ∧ mR (A' (m + 21)) (z_close 200 T k).2 := by
  rw [rX9_closes N (d + 11)]
  unfold bX9_closes
  obtain ⟨N, rfl⟩ : ∃ z, N = z + 1 := ⟨N - 1, by omega⟩
  rw [← lX9_closes_2]
  obtain ⟨F1, A1, e1, q1, r1⟩ := m_closes_l hS hk hI (N := N + 1) (by omega) d (N + 1 + 1) 0 T F A hT (by omega) (by omega) hR
  rw [Nat.zero_add] at e1
  exact ⟨F1, A1, e1, q1, r1⟩
theorem m_starts {h : ix_H} {m : Nat} (hS : mSh h m) {S : zS} (hn : zn S ≤ 1400) (h32 : zp S ≤ 32) {k : Nat} (hk : k < 4) (hs : ∃ s, s < 14 ∧ zh S k 1 = nI s) (N d : Nat) {F A : Nat → Nat → Int32} (hR : mR (A (m + 21)) S) (act key v : Int32) :
    ∃ A', ix_run iy_P N (d + 2) 280 [ix_R (some m), ix_I (nI k), ix_I act, ix_I key, ix_I v] (hw h F A) = some (.inl (some (ix_I (if (z_take S k act key v).1 then nI 1 else nI 0))), hw h F A') ∧ mQ mX mY m F A F A' ∧ mR (A' (m + 21)) (z_take S k act key v).2 := by
  obtain ⟨s, hs, hs1⟩ := hs
  have hz1 : A (m + 21) (42 + 14 * k + 1) = zh S k 1 := hR.2.2.1 k 1 hk (by omega)
  have ha0 : A (m + 21) 0 = nI (zn S) := hR.1.1
  have ha1 : A (m + 21) 1 = nI (zp S) := hR.1.2.1
  have ha2 : A (m + 21) 2 = nI (ze S) := hR.1.2.2.1
  have sh : ∀ {nw T}, mR nw T → ∀ {f}, f < 14 → f ≠ 3 → zn T ≤ 1400 → zp T ≤ 32 → ∀ v, mR (hw_U nw (42 + 14 * k + f) v) (z_sh T k f v) := fun h _ h1 h2 h3 h4 v => mR_sh h hk h1 h2 h3 h4 v
  rw [rX9_starts N (d + 1)]
  unfold bX9_starts jX9_starts_22
  rw [hw_cI (m_hand0 (hw h F A) N d k)]
  simp only [nI_add]
  rw [mp_is hS, mp_rd35 hS, hw_in (by omega) (by omega), cond_true, hw_aI, hw_cl (by omega), hz1]
  have tno : (zh S k 1 ≠ nI 0 ∨ 640 ≤ zn S ∨ 28 ≤ zp S) → z_take S k act key v = (false, S) := fun w => by
    unfold z_take
    rw [if_pos w]
  by_cases h0 : zh S k 1 = nI 0
  · rw [if_neg (show ¬ nI 0 < zh S k 1 by rw [h0]; decide), mp_is hS, mp_rd35 hS, hw_in (by omega) (by omega), cond_true, hw_cl (by omega), ha0]
    by_cases h1 : 640 ≤ zn S
    · rw [if_pos (show nI 640 ≤ nI (zn S) by rw [hw_le (by omega) (by omega)]; exact h1), tno (Or.inr (Or.inl h1))]
      exact ⟨A, rfl, mQ.refl _ _ _ _ _, hR⟩
    · rw [if_neg (show ¬ nI 640 ≤ nI (zn S) by rw [hw_le (by omega) (by omega)]; exact h1), mp_is hS, mp_rd35 hS, hw_in (by omega) (by omega), cond_true, hw_cl (by omega), ha1]
      by_cases h2 : 28 ≤ zp S
      · rw [if_neg (show ¬ nI (zp S) < nI 28 by rw [hw_lt (by omega) (by omega)]; omega), tno (Or.inr (Or.inr h2))]
        exact ⟨A, rfl, mQ.refl _ _ _ _ _, hR⟩
      · have ty : z_take S k act key v = (true, z_sh (z_sh (z_sh (z_sh (z_sh (z_sh (z_sh S k 0 act) k 1 (nI 1)) k 5 (nI (ze S))) k 6 key) k 7 v) k 8 (nI 0)) k 9 (nI 0)) := by
          unfold z_take
          rw [if_neg (fun w => w.elim (fun w => w h0) (fun w => w.elim h1 h2))]
        rw [if_pos (show nI (zp S) < nI 28 by rw [hw_lt (by omega) (by omega)]; omega), ty]
        simp (disch := omega) only [↓mp_is hS, ↓mp_isr hS, ↓mp_rd35 hS, ↓mp_wr35 hS, ↓mp_rd36 hS, ↓mp_wr36 hS, ↓mp_rd38 hS, ↓mp_wr38 hS, ↓mp_rd39 hS, ↓mp_wr39 hS, ↓mp_rd43 hS, ↓mp_wr43 hS, ↓mp_rd44 hS, ↓mp_wr44 hS, ↓mp_rd46 hS, ↓mp_wr46 hS, ↓mp_rd47 hS, ↓mp_wr47 hS, ↓reduceIte, ↓hw_bdF, ↓hw_bdA, ↓hw_cbd, Option.bind_some, hw_bd, cond_true, cond_false, hw_fI, hw_aI, hw_aR, hw_of, hw_hw, hw_sz, hw_wfR, hw_waR, hw_rI, hw_rV, hw_rR, nI_add, hw_in, hw_cl, hw_R_same, hw_R_R, hw_U_same, hw_U_ne, hw_okn1_0, hw_okn1_1, ha2]
        refine ⟨_, rfl, (mQ.refl mX mY m F A).aR (k := 21) rfl (by omega), ?_⟩
        rw [hw_R_same]
        exact sh (sh (sh (sh (sh (sh (sh hR (by omega) (by omega) hn h32 _) (by omega) (by omega) hn h32 _) (by omega) (by omega) hn h32 _) (by omega) (by omega) hn h32 _) (by omega) (by omega) hn h32 _) (by omega) (by omega) hn h32 _) (by omega) (by omega) hn h32 _
  · have hs0 : s ≠ 0 := fun w => h0 (by rw [hs1, w])
    rw [if_pos (show nI 0 < zh S k 1 by rw [hs1, hw_lt (by omega) (by omega)]; omega), tno (Or.inl h0)]
    exact ⟨A, rfl, mQ.refl _ _ _ _ _, hR⟩
/-- records as a sweep has them, those below i done -/
def z_swp (S : zS) (low : Int32) (i : Nat) : zS := (((fun r f => if f = 5 ∧ r < i ∧ z_fr S low r then nI 1 else S.1.1 r f), S.1.2), S.2.1, S.2.2.1, (zn S, zp S, ze S + 1), S.2.2.2.2)
theorem m_sweeps_2 {h : ix_H} {m : Nat} (hS : mSh h m) {S : zS} (hn : zn S ≤ 1400) (h32 : zp S ≤ 32) (low : Int32) (N d : Nat) : ∀ z i F A, i ≤ zn S → zn S - i < z → mR (A (m + 21)) (z_swp S low i) →
    ∃ A', ix_lp (ix_run iy_P N (d + 1)) stX9_sweeps z 51 [(0, ix_R (some m)), (1, ix_I low), (2, ix_I (nI (((List.range i).filter fun r => decide (z_fr S low r)).length))), (3, ix_I (nI i))] [] (hw h F A) = some (.inl (some (ix_I (nI (((List.range (zn S)).filter fun r => decide (z_fr S low r)).length)))), hw h F A') ∧ mQ [] [21] m F A F A' ∧ mR (A' (m + 21)) (z_swp S low (zn S)) := by
  intro z
  induction z with
  | zero => intro i F A _ h; omega
  | succ z ih =>
    intro i F A hi hz hR
    have ha0 : A (m + 21) 0 = nI (zn S) := hR.1.1
    rw [lX9_sweeps_51]
    unfold jX9_sweeps_51 jX9_sweeps_93
    rw [mp_is hS, mp_rd35 hS, hw_in (by omega) (by omega), cond_true, hw_aI, hw_cl (by omega), ha0]
    rcases Nat.lt_or_ge i (zn S) with h1 | h1
    · have hf : ∀ f, f < 10 → A (m + 21) (100 + 10 * i + f) = zr S i f := fun f hf => by
        rw [hR.2.2.2.1 i f h1 hf]
        show (if f = 5 ∧ i < i ∧ z_fr S low i then nI 1 else S.1.1 i f) = _
        rw [if_neg (fun w => by omega)]
        rfl
      have same : ¬ z_fr S low i → z_swp S low (i + 1) = z_swp S low i := fun hno => by
        unfold z_swp
        congr 2
        funext r f
        by_cases hc : f = 5 ∧ r < i ∧ z_fr S low r
        · rw [if_pos hc, if_pos ⟨hc.1, by omega, hc.2.2⟩]
        · rw [if_neg hc, if_neg]
          rintro ⟨a, b, c⟩
          by_cases e : r = i
          · rw [e] at c; exact hno c
          · exact hc ⟨a, by omega, c⟩
      have no : ¬ z_fr S low i → ∃ A', ix_lp (ix_run iy_P N (d + 1)) stX9_sweeps z 51 [(0, ix_R (some m)), (1, ix_I low), (2, ix_I (nI (((List.range i).filter fun r => decide (z_fr S low r)).length))), (3, ix_I (nI (i + 1)))] [] (hw h F A) = some (.inl (some (ix_I (nI (((List.range (zn S)).filter fun r => decide (z_fr S low r)).length)))), hw h F A') ∧ mQ [] [21] m F A F A' ∧ mR (A' (m + 21)) (z_swp S low (zn S)) := fun hno => by
        have := ih (i + 1) F A h1 (by omega) (by rw [same hno]; exact hR)
        have cy : ((List.range (i + 1)).filter fun r => decide (z_fr S low r)).length = ((List.range i).filter fun r => decide (z_fr S low r)).length := by
          rw [List.range_succ, List.filter_append, List.length_append, List.filter_cons_of_neg (by rw [decide_eq_false hno]; decide)]
          rfl
        rw [cy] at this
        exact this
      rw [if_neg (show ¬ nI (zn S) ≤ nI i by rw [hw_le (by omega) (by omega)]; omega), hw_cI (m_record0 (hw h F A) N d i), mp_is hS]
      simp only [nI_add]
      rw [mp_rd35 hS, hw_in (by omega) (by omega), cond_true, hw_aI, hw_cl (by omega), hf 4 (by omega)]
      by_cases c1 : zr S i 4 < nI 0
      · rw [if_pos c1]
        exact no (fun w => w (Or.inl c1))
      rw [if_neg c1, mp_is hS, mp_rd35 hS, hw_in (by omega) (by omega), cond_true, hf 4 (by omega)]
      by_cases c2 : low ≤ zr S i 4
      · rw [if_pos c2]
        exact no (fun w => w (Or.inr (Or.inl c2)))
      rw [if_neg c2, mp_is hS, mp_rd35 hS, hw_in (by omega) (by omega), cond_true, hw_cl (by omega), hf 5 (by omega)]
      by_cases c3 : zr S i 5 = nI 1
      · rw [if_pos c3]
        exact no (fun w => w (Or.inr (Or.inr c3)))
      have yes : z_fr S low i := fun w => w.elim c1 (fun w => w.elim c2 c3)
      rw [if_neg c3, mp_is hS, mp_wr35 hS, hw_in (by omega) (by omega), cond_true, hw_bdA]
      have hR2 : mR (hw_U (A (m + 21)) (100 + 10 * i + 5) (nI 1)) (z_swp S low (i + 1)) := by
        obtain ⟨⟨a0, a1, a2, a3, a5, a6, a7, a8⟩, b, c, e, g⟩ := hR
        have n0 : ∀ j, j < 100 → hw_U (A (m + 21)) (100 + 10 * i + 5) (nI 1) j = A (m + 21) j := fun j hj => by rw [hw_U_at, if_neg (by omega)]
        have n1 : ∀ j, 14100 ≤ j → hw_U (A (m + 21)) (100 + 10 * i + 5) (nI 1) j = A (m + 21) j := fun j hj => by rw [hw_U_at, if_neg (by omega)]
        refine ⟨⟨by rw [n0 _ (by omega)]; exact a0, by rw [n0 _ (by omega)]; exact a1, by rw [n0 _ (by omega)]; exact a2, by rw [n0 _ (by omega)]; exact a3, by rw [n0 _ (by omega)]; exact a5, by rw [n0 _ (by omega)]; exact a6, by rw [n0 _ (by omega)]; exact a7, by rw [n0 _ (by omega)]; exact a8⟩, fun q hq => ?_, fun q i hq hi => ?_, fun q f hq hff => ?_, fun q hq => ?_⟩
        · have hq2 : q < zp S := hq
          rw [n0 _ (by omega)]; exact b q hq
        · rw [n0 _ (by omega)]; exact c q i hq hi
        · have h2 := e q f hq hff
          change A (m + 21) (100 + 10 * q + f) = (if f = 5 ∧ q < i ∧ z_fr S low q then nI 1 else S.1.1 q f) at h2
          show _ = (if f = 5 ∧ q < i + 1 ∧ z_fr S low q then nI 1 else S.1.1 q f)
          rw [hw_U_at]
          by_cases w : q = i ∧ f = 5
          · rw [if_pos (by omega), if_pos ⟨w.2, by omega, by rw [w.1]; exact yes⟩]
          · rw [if_neg (by omega), h2]
            by_cases w2 : f = 5 ∧ q < i ∧ z_fr S low q
            · rw [if_pos w2, if_pos ⟨w2.1, by omega, w2.2.2⟩]
            · rw [if_neg w2, if_neg]
              rintro ⟨x1, x2, x3⟩
              exact w2 ⟨x1, by omega, x3⟩
        · refine kv_in_cong (g q hq) (fun j _ => ?_) (fun j _ => ?_)
          · rw [n1 _ (by omega)]
          · rw [n1 _ (by omega)]
      obtain ⟨A', e1, q1, r1⟩ := ih (i + 1) F (hw_R A (m + 21) (hw_U (A (m + 21)) (100 + 10 * i + 5) (nI 1))) h1 (by omega) (by rw [hw_R_same]; exact hR2)
      have cy : ((List.range (i + 1)).filter fun r => decide (z_fr S low r)).length = ((List.range i).filter fun r => decide (z_fr S low r)).length + 1 := by
        rw [List.range_succ, List.filter_append, List.length_append, List.filter_cons_of_pos (p := fun r => decide (z_fr S low r)) (decide_eq_true yes)]
        rfl
      rw [cy] at e1
      exact ⟨A', e1, ((mQ.refl [] [21] m F A).aR (k := 21) rfl (by omega)).trans q1, r1⟩
    · obtain rfl : i = zn S := by omega
      rw [if_pos (show nI (zn S) ≤ nI (zn S) by rw [hw_le (by omega) (by omega)]; omega)]
      exact ⟨A, rfl, mQ.refl _ _ _ _ _, hR⟩
theorem m_sweeps_1 {h : ix_H} {m : Nat} (hS : mSh h m) {S : zS} (hn : zn S ≤ 1400) (h32 : zp S ≤ 32) (N d : Nat) : ∀ j i z low F A, i + j = 4 → j < z → (∀ k, k < 4 → ∃ s, s < 14 ∧ zh S k 1 = nI s) → (∀ k f, k < 4 → f < 14 → A (m + 21) (42 + 14 * k + f) = zh S k f) →
    ∃ z', ix_lp (ix_run iy_P N (d + 1)) stX9_sweeps z 15 [(0, ix_R (some m)), (1, ix_I low), (2, ix_I (nI i))] [] (hw h F A) = ix_lp (ix_run iy_P N (d + 1)) stX9_sweeps z' 51 [(0, ix_R (some m)), (1, ix_I ((List.range' i j).foldl (fun a k => if zh S k 1 ≠ nI 0 ∧ zh S k 5 < a then zh S k 5 else a) low)), (2, ix_I (nI 0)), (3, ix_I (nI 0))] [] (hw h F A) ∧ z ≤ z' + j := by
  intro j
  induction j with
  | zero =>
    intro i z low F A hi hz hs hR
    obtain ⟨z, rfl⟩ : ∃ w, z = w + 1 := ⟨z - 1, by omega⟩
    obtain rfl : i = 4 := by omega
    rw [lX9_sweeps_15]
    unfold jX9_sweeps_15
    rw [if_pos (show nI 4 ≤ nI 4 by decide), ← lX9_sweeps_51]
    exact ⟨z + 1, rfl, by omega⟩
  | succ j ih =>
    intro i z low F A hi hz hs hR
    obtain ⟨z, rfl⟩ : ∃ w, z = w + 1 := ⟨z - 1, by omega⟩
    obtain ⟨s, hs1, hs2⟩ := hs i (by omega)
    have hf : ∀ f, f < 14 → A (m + 21) (42 + 14 * i + f) = zh S i f := fun f hf => hR i f (by omega) hf
    rw [lX9_sweeps_15]
    unfold jX9_sweeps_15 jX9_sweeps_44
    rw [if_neg (show ¬ nI 4 ≤ nI i by rw [hw_le (by omega) (by omega)]; omega), mp_is hS, hw_cI (m_hand0 (hw h F A) N d i)]
    simp only [nI_add]
    rw [mp_rd35 hS, hw_in (by omega) (by omega), cond_true, hw_aI, hw_cl (by omega), hf 1 (by omega), List.range'_succ, List.foldl_cons]
    by_cases h0 : zh S i 1 = nI 0
    · rw [if_pos (show zh S i 1 ≤ nI 0 by rw [h0]; decide), if_neg (fun w => w.1 h0)]
      obtain ⟨z', e, hz'⟩ := ih (i + 1) z low F A (by omega) (by omega) hs hR
      exact ⟨z', e, by omega⟩
    · have hs0 : s ≠ 0 := fun w => h0 (by rw [hs2, w])
      rw [if_neg (show ¬ zh S i 1 ≤ nI 0 by rw [hs2, hw_le (by omega) (by omega)]; omega), mp_is hS, hw_cI (m_hand0 (hw h F A) N d i)]
      simp only [nI_add]
      rw [mp_rd35 hS, hw_in (by omega) (by omega), cond_true, hw_aI, hw_cl (by omega), hf 5 (by omega)]
      by_cases h5 : zh S i 5 < low
      · rw [if_neg (show ¬ low ≤ zh S i 5 from fun w => by rw [Int32.lt_iff_toInt_lt] at h5; rw [Int32.le_iff_toInt_le] at w; omega), if_pos ⟨h0, h5⟩, mp_is hS, hw_cI (m_hand0 (hw h F A) N d i)]
        simp only [nI_add]
        rw [mp_rd35 hS, hw_in (by omega) (by omega), cond_true, hw_aI, hw_cl (by omega), hf 5 (by omega)]
        obtain ⟨z', e, hz'⟩ := ih (i + 1) z (zh S i 5) F A (by omega) (by omega) hs hR
        exact ⟨z', e, by omega⟩
      · rw [if_pos (kv_nlt_le.mp h5), if_neg (fun w => h5 w.2)]
        obtain ⟨z', e, hz'⟩ := ih (i + 1) z low F A (by omega) (by omega) hs hR
        exact ⟨z', e, by omega⟩
theorem m_sweeps {h : ix_H} {m : Nat} (hS : mSh h m) {S : zS} (hn : zn S ≤ 1400) (h32 : zp S ≤ 32) {N : Nat} (hN : 3000 ≤ N) (d : Nat) {F A : Nat → Nat → Int32} (hs : ∀ k, k < 4 → ∃ s, s < 14 ∧ zh S k 1 = nI s) (hR : mR (A (m + 21)) S) :
    ∃ A', ix_run iy_P N (d + 2) 314 [ix_R (some m)] (hw h F A) = some (.inl (some (ix_I (nI (z_sweep S).1))), hw h F A') ∧ mQ [] [21] m F A F A' ∧ mR (A' (m + 21)) (z_sweep S).2 := by
  have ha2 : A (m + 21) 2 = nI (ze S) := hR.1.2.2.1
  rw [rX9_sweeps N (d + 1)]
  unfold bX9_sweeps
  rw [mp_is hS, mp_rd35 hS, hw_in (by omega) (by omega), cond_true, mp_wr35 hS, hw_in (by omega) (by omega), cond_true, hw_bdA, hw_aI, hw_cl (by omega), ha2, nI_add, mp_is hS, mp_rd35 hS, hw_in (by omega) (by omega), cond_true, hw_aI, hw_R_same, hw_U_same]
  have hR0 : mR (hw_U (A (m + 21)) 2 (nI (ze S + 1))) (z_swp S (nI (ze S + 1)) 0) := by
    obtain ⟨⟨a0, a1, a2, a3, a5, a6, a7, a8⟩, b, c, e, g⟩ := hR
    have n0 : ∀ j, j ≠ 2 → hw_U (A (m + 21)) 2 (nI (ze S + 1)) j = A (m + 21) j := fun j hj => by rw [hw_U_at, if_neg hj]
    refine ⟨⟨by rw [n0 _ (by omega)]; exact a0, by rw [n0 _ (by omega)]; exact a1, by rw [hw_U_same]; rfl, by rw [n0 _ (by omega)]; exact a3, by rw [n0 _ (by omega)]; exact a5, by rw [n0 _ (by omega)]; exact a6, by rw [n0 _ (by omega)]; exact a7, by rw [n0 _ (by omega)]; exact a8⟩, fun q hq => ?_, fun q i hq hi => ?_, fun q f hq hff => ?_, fun q hq => ?_⟩
    · rw [n0 _ (by omega)]; exact b q hq
    · rw [n0 _ (by omega)]; exact c q i hq hi
    · rw [n0 _ (by omega)]
      show _ = (if f = 5 ∧ q < 0 ∧ z_fr S _ q then nI 1 else S.1.1 q f)
      rw [if_neg (fun w => absurd w.2.1 (Nat.not_lt_zero _))]
      exact e q f hq hff
    · refine kv_in_cong (g q hq) (fun j _ => ?_) (fun j _ => ?_)
      · rw [n0 _ (by omega)]
      · rw [n0 _ (by omega)]
  obtain ⟨N, rfl⟩ : ∃ z, N = z + 1 := ⟨N - 1, by omega⟩
  rw [← lX9_sweeps_15]
  obtain ⟨z', e, hz'⟩ := m_sweeps_1 hS hn h32 (N + 1) d 4 0 (N + 1 + 1) (nI (ze S + 1)) F (hw_R A (m + 21) (hw_U (A (m + 21)) 2 (nI (ze S + 1)))) (by omega) (by omega) hs (by rw [hw_R_same]; exact hR0.2.2.1)
  rw [e]
  have el : (List.range' 0 4).foldl (fun a k => if zh S k 1 ≠ nI 0 ∧ zh S k 5 < a then zh S k 5 else a) (nI (ze S + 1)) = z_low S := rfl
  rw [el]
  have hR1 : mR (hw_U (A (m + 21)) 2 (nI (ze S + 1))) (z_swp S (z_low S) 0) := by
    have e0 : z_swp S (z_low S) 0 = z_swp S (nI (ze S + 1)) 0 := by
      unfold z_swp
      congr 2
      funext r f
      rw [if_neg (fun w => absurd w.2.1 (Nat.not_lt_zero _)), if_neg (fun w => absurd w.2.1 (Nat.not_lt_zero _))]
    rw [e0]
    exact hR0
  obtain ⟨A', e2, q, r⟩ := m_sweeps_2 hS hn h32 (z_low S) (N + 1) d z' 0 F (hw_R A (m + 21) (hw_U (A (m + 21)) 2 (nI (ze S + 1)))) (Nat.zero_le _) (by omega) (by rw [hw_R_same]; exact hR1)
  exact ⟨A', e2, ((mQ.refl [] [21] m F A).aR (k := 21) rfl (by omega)).trans q, r⟩
