/-! CI: the component: closing, sweeping, taking up -/
set_option maxRecDepth 100000
theorem cPo1.of {h : ix_H} {F A : Nat → Nat → Int32} {L : Nat → Nat} {nr : Nat} {S : zS} (hs : cS h L nr) (hn : zn S ≤ nr) (hV : cV1 F A L S) (r : Option ix_V) : cPo1 h F A L nr S r (some (.inl r, hw h F A)) := ⟨h, F, A, L, nr, rfl, hs, hn, cEx.refl hs (fun _ _ _ => ⟨rfl, rfl⟩), hV⟩
/-- what a walk of many steps needs -/
def c_kp (I : zS → Prop) (k : Nat) : Prop := ∀ T, I T → (zh T k 1 ≠ nI 0 → ∃ rc, c_can (z_sh T k 4 (zh T k 4 + nI 1)) rc k) ∧ I (z_step T k)
theorem c_closes_l {I : zS → Prop} {k : Nat} (hk : k < 4) (hI : c_kp I k) {N : Nat} (hN : 3000 ≤ N) (d : Nat) : ∀ z i T h L nr F A, I T → i ≤ 200 → 200 - i < z → cS h L nr → zn T ≤ nr → cV1 F A L T →
    cPo1 h F A L nr (z_close (200 - i) T k).2 (some (ix_I (nI (i + (z_close (200 - i) T k).1)))) (ix_lp (ix_run iy_P N (d + 11)) stX4_closes z 2 [(0, ix_R (some (L 0))), (1, ix_I (nI k)), (2, ix_I (nI i))] [] (hw h F A)) := by
  intro z
  induction z with
  | zero => intro i T h L nr F A _ _ h; omega
  | succ z ih =>
    intro i T h L nr F A hT hi hz hs hn hV
    obtain ⟨hcan, hstep⟩ := hI T hT
    have ht : ix_tg h (L (5 + k)) = 7 := (hs.2.2.1 k hk).2
    rw [lX4_closes_2]
    unfold jX4_closes_2 jX4_closes_18
    rw [st_is hs, st_hnd hs, hw_in (by omega) (by omega), cond_true, hw_aR, hw_cl (by omega), st_hr hs hk, h_is ht, hw_fI, hV.2 k hk]
    rcases Nat.lt_or_ge i 200 with h1 | h1
    · obtain ⟨n, hn'⟩ : ∃ n, 200 - i = n + 1 := ⟨200 - i - 1, by omega⟩
      rw [hn']
      unfold z_close
      by_cases h0 : zh T k 1 = nI 0
      · rw [if_pos h0, if_pos h0]
        exact cPo1.of hs hn hV _
      · rw [if_neg h0, if_neg h0, if_neg (show ¬ nI 200 ≤ nI i by rw [hw_le (by omega) (by omega)]; omega)]
        obtain ⟨rc, hc⟩ := hcan h0
        obtain ⟨h1, F1, A1, L1, n1, e1, hs1, hn1, ex1, hV1⟩ := c_steps hs hn hk hV (rc := rc) (fun _ => hc) (N := N) (by omega) d
        rw [st_isr hs, hw_cI e1, nI_add]
        obtain ⟨h2, F2, A2, L2, n2, e2, hs2, hn2, ex2, hV2⟩ := ih (i + 1) (z_step T k) h1 L1 n1 F1 A1 hstep (by omega) (by omega) hs1 hn1 hV1
        have e3 : 200 - (i + 1) = n := by omega
        have e4 : L1 0 = L 0 := ex1.2.2.2.2.1 0 (by omega)
        rw [e3] at e2 hn2 hV2
        rw [e4] at e2
        refine ⟨h2, F2, A2, L2, n2, ?_, hs2, hn2, ex1.trans ex2, hV2⟩
        dsimp only
        rw [e2, show i + 1 + (z_close n (z_step T k) k).1 = i + ((z_close n (z_step T k) k).1 + 1) by omega]
    · obtain rfl : i = 200 := by omega
      rw [if_pos (show nI 200 ≤ nI 200 by decide), show 200 - 200 = 0 from rfl]
      have : (if zh T k 1 = nI 0 then (some (.inl (some (ix_I (nI 200))), hw h F A) : ix_O) else some (.inl (some (ix_I (nI 200))), hw h F A)) = some (.inl (some (ix_I (nI 200))), hw h F A) := by split <;> rfl
      rw [this]
      exact cPo1.of hs hn hV _
theorem c_closes {I : zS → Prop} {k : Nat} (hk : k < 4) (hI : c_kp I k) {N : Nat} (hN : 3000 ≤ N) (d : Nat) {T : zS} {h : ix_H} {L : Nat → Nat} {nr : Nat} {F A : Nat → Nat → Int32} (hT : I T) (hs : cS h L nr) (hn : zn T ≤ nr) (hV : cV1 F A L T) :
    cPo1 h F A L nr (z_close 200 T k).2 (some (ix_I (nI (z_close 200 T k).1))) (ix_run iy_P N (d + 12) 179 [ix_R (some (L 0)), ix_I (nI k)] (hw h F A)) := by
  rw [rX4_closes N (d + 11)]
  unfold bX4_closes
  rw [← lX4_closes_2]
  have := c_closes_l hk hI hN d (N + 1) 0 T h L nr F A hT (by omega) (by omega) hs hn hV
  rw [Nat.zero_add] at this
  exact this
theorem cHd_take {g u : Nat → Int32} (h : cHd g u) (act key v e : Int32) : cHd (hw_U (hw_U (hw_U (hw_U (hw_U (hw_U (hw_U g 0 act) 1 key) 2 v) 3 (nI 1)) 14 (nI 0)) 15 (nI 0)) 13 e) (hw_U (hw_U (hw_U (hw_U (hw_U (hw_U (hw_U u 0 act) 1 (nI 1)) 5 e) 6 key) 7 v) 8 (nI 0)) 9 (nI 0)) := by
  obtain ⟨a0, a1, a2, a3, a4, a5, a6, a7, a8, a9, b1, b2, b3, b4, b5⟩ := h
  have b0 := a0
  simp (decide := true) only [cHd, hw_U_at, if_true, if_false, a0, a1, b0, a3, a4, a5, a6, a7, a8, a9, implies_true, and_self, false_or, or_false, true_or, or_true, false_implies]
theorem c_takesUp {h : ix_H} {L : Nat → Nat} {nr : Nat} {S : zS} {k : Nat} {F A : Nat → Nat → Int32} (hs : cS h L nr) (hn : zn S ≤ nr) (hk : k < 4) (hV : cV1 F A L S) (h32 : zp S ≤ 32) (N d : Nat) (act key v : Int32) :
    cPo1 h F A L nr (z_take S k act key v).2 (some (ix_I (if (z_take S k act key v).1 then nI 1 else nI 0))) (ix_run iy_P N (d + 1) 178 [ix_R (some (L 0)), ix_I (nI k), ix_I act, ix_I key, ix_I v] (hw h F A)) := by
  have ht : ix_tg h (L (5 + k)) = 7 := (hs.2.2.1 k hk).2
  have h2000 := hs.2.2.2.2.2.2.1
  have f3 := hV.2 k hk
  have e3 : F (L 0) 3 = nI (zn S) := hV.1.1.1
  have e4 : F (L 0) 4 = nI (zp S) := hV.1.1.2.1
  have e5 : F (L 0) 5 = nI (ze S) := hV.1.1.2.2.1
  rw [rX4_takesUp N d]
  unfold bX4_takesUp jX4_takesUp_16
  rw [st_is hs, st_hnd hs, hw_in (by omega) (by omega), cond_true, hw_aR, hw_cl (by omega), st_hr hs hk, h_is ht, hw_fI, f3]
  have no : (zh S k 1 ≠ nI 0 ∨ 640 ≤ zn S ∨ 28 ≤ zp S) → cPo1 h F A L nr (z_take S k act key v).2 (some (ix_I (if (z_take S k act key v).1 then nI 1 else nI 0))) (cond (ix_okn 1 (nI 0)) (some (.inl (some (ix_I (nI 0))), hw h F A)) none) := fun w => by
    have ez : z_take S k act key v = (false, S) := by
      unfold z_take
      rw [if_pos w]
    rw [ez]
    exact cPo1.of hs hn hV _
  by_cases h0 : zh S k 1 = nI 0
  · rw [if_pos h0, st_is hs, e3]
    by_cases hn6 : 640 ≤ zn S
    · rw [if_pos (show nI 640 ≤ nI (zn S) by rw [hw_le (by omega) (by omega)]; omega)]
      exact no (Or.inr (Or.inl hn6))
    rw [if_neg (show ¬ nI 640 ≤ nI (zn S) by rw [hw_le (by omega) (by omega)]; omega), st_is hs, e4]
    by_cases hp2 : 28 ≤ zp S
    · rw [if_neg (show ¬ nI (zp S) < nI 28 by rw [hw_lt (by omega) (by omega)]; omega)]
      exact no (Or.inr (Or.inr hp2))
    have ez : z_take S k act key v = (true, z_sh (z_sh (z_sh (z_sh (z_sh (z_sh (z_sh S k 0 act) k 1 (nI 1)) k 5 (nI (ze S))) k 6 key) k 7 v) k 8 (nI 0)) k 9 (nI 0)) := by
      unfold z_take
      rw [if_neg (fun w => by rcases w with w | w | w; exact w h0; exact hn6 w; exact hp2 w)]
    rw [ez, if_pos (show nI (zp S) < nI 28 by rw [hw_lt (by omega) (by omega)]; omega)]
    rw [h_is ht, hw_bdF, h_is ht, hw_bdF, h_is ht, hw_bdF, h_is ht, hw_bdF, h_is ht, hw_bdF, h_is ht, show ix_okn 1 (nI 0) = true from rfl, cond_true, hw_bdF, st_is hs, h_is ht, hw_fI, hw_R_R, hw_R_R, hw_R_R, hw_R_R, hw_R_R, hw_R_same, hw_R_same, hw_R_same, hw_R_same, hw_R_same, hw_R_ne _ _ (hs.ne (show 0 ≠ 5 + k by omega)), e5, hw_bdF, hw_R_R, hw_R_same]
    refine ⟨h, _, A, L, nr, rfl, hs, hn, cEx.refl hs (fun b hb hn => ⟨hw_R_ne _ _ (hn _ (by omega)), rfl⟩), hV.1.hand hs hk rfl rfl rfl (((((((z_oth.refl _ _).sh _ _).sh _ _).sh _ _).sh _ _).sh _ _).sh _ _ |>.sh _ _) ?_, fun j hj => ?_⟩
    · rw [zh_sh, zh_sh, zh_sh, zh_sh, zh_sh, zh_sh, zh_sh]
      exact cHd_take (hV.1.2.2.2 k hk) _ _ _ _
    · by_cases w : j = k
      · subst w
        rw [hw_R_same, zh_sh, zh_sh, zh_sh, zh_sh, zh_sh, zh_sh, zh_sh]
        simp (disch := omega) only [hw_R_same, hw_R_ne, hw_U_same, hw_U_ne]
      · rw [hw_R_ne _ _ (hs.ne (by omega)), hV.2 j hj, zh_sh_ne _ _ _ w, zh_sh_ne _ _ _ w, zh_sh_ne _ _ _ w, zh_sh_ne _ _ _ w, zh_sh_ne _ _ _ w, zh_sh_ne _ _ _ w, zh_sh_ne _ _ _ w]
  · rw [if_neg h0]
    exact no (Or.inl h0)
