/-! Q2: what is done, as functions of the store; the reference -/
set_option maxRecDepth 100000
def a_begin (S : zS) (k act key v : Int32) : Int32 × zS :=
  if a_hnd k ∧ a_in act (nI 1) (nI 3) ∧ a_key key then (if (z_take S k.toNatClampNeg act key v).1 then nI 1 else nI 0, (z_take S k.toNatClampNeg act key v).2) else (nI 0, S)
def a_step (S : zS) (k : Int32) : Int32 × zS :=
  if a_hnd k then (if zh S k.toNatClampNeg 1 = nI 0 then -1 else zh (z_step S k.toNatClampNeg) k.toNatClampNeg 1, z_step S k.toNatClampNeg) else (-1, S)
def a_close (S : zS) (k : Int32) : Int32 × zS :=
  if a_hnd k then (nI (z_close 200 S k.toNatClampNeg).1, (z_close 200 S k.toNatClampNeg).2) else (-1, S)
def a_sweep (S : zS) : Int32 × zS := (nI (z_sweep S).1, (z_sweep S).2)
theorem a_in13 {a : Int32} (h : a_in a (nI 1) (nI 3)) : a = nI 1 ∨ a = nI 2 ∨ a = nI 3 := by
  have e : nI 3 = nI 4 - nI 1 := by decide
  obtain ⟨h1, h2⟩ := h
  rw [e] at h2
  have h0 : nI 0 ≤ a := by
    rw [Int32.le_iff_toInt_le] at *
    have e0 : (nI 0).toInt = 0 := by decide
    have e1 : (nI 1).toInt = 1 := by decide
    omega
  obtain ⟨i, hi, rfl⟩ := a_in_nat (v := a) (n := 4) (by omega) ⟨h0, h2⟩
  match i, hi with
  | 0, _ => exact absurd h1 (by decide)
  | 1, _ => exact Or.inl rfl
  | 2, _ => exact Or.inr (Or.inl rfl)
  | 3, _ => exact Or.inr (Or.inr rfl)
theorem a_key_lt {k : Int32} (h : a_key k) : nI 0 ≤ k ∧ k < nI 1000 := by
  refine ⟨h.1, ?_⟩
  have h2 := h.2
  rw [Int32.le_iff_toInt_le] at h2
  rw [Int32.lt_iff_toInt_lt]
  have : (nI 999).toInt = 999 := by decide
  have : (nI 1000).toInt = 1000 := by decide
  omega
theorem i_I.abegin {S : zS} (h : i_I S) (k act key v : Int32) : i_I (a_begin S k act key v).2 := by
  unfold a_begin
  by_cases w : a_hnd k ∧ a_in act (nI 1) (nI 3) ∧ a_key key
  · rw [if_pos w]
    obtain ⟨j, hj, rfl⟩ := a_hnd_nat w.1
    dsimp only
    rw [hw_cl (by omega)]
    exact h.take hj v (a_in13 w.2.1) (a_key_lt w.2.2).1 (a_key_lt w.2.2).2
  · rw [if_neg w]
    exact h
theorem i_I.astep {S : zS} (h : i_I S) (k : Int32) : i_I (a_step S k).2 := by
  unfold a_step
  by_cases w : a_hnd k
  · rw [if_pos w]
    obtain ⟨j, hj, rfl⟩ := a_hnd_nat w
    dsimp only
    rw [hw_cl (by omega)]
    exact h.step hj
  · rw [if_neg w]
    exact h
theorem i_I.aclose {S : zS} (h : i_I S) (k : Int32) : i_I (a_close S k).2 := by
  unfold a_close
  by_cases w : a_hnd k
  · rw [if_pos w]
    obtain ⟨j, hj, rfl⟩ := a_hnd_nat w
    dsimp only
    rw [hw_cl (by omega)]
    exact i_I.close hj 200 h
  · rw [if_neg w]
    exact h
/-- what a method of the reference that does something leaves -/
def mDo (h : ix_H) (m : Nat) (F A : Nat → Nat → Int32) (r : Int32 × zS) (o : ix_O) : Prop := ∃ F' A', o = some (.inl (some (ix_I r.1)), hw h F' A') ∧ mQ mX mY m F A F' A' ∧ mR (A' (m + 21)) r.2
section
variable {h : ix_H} {m : Nat} {S : zS} {F A : Nat → Nat → Int32} {N : Nat}
theorem m_begin (hS : mSh h m) (hI : i_I S) (N d : Nat) (hR : mR (A (m + 21)) S) (k act key v : Int32) : mDo h m F A (a_begin S k act key v) (ix_run iy_P N (d + 3) 316 [ix_R (some m), ix_I k, ix_I act, ix_I key, ix_I v] (hw h F A)) := by
  rw [rX9_begin N (d + 2)]
  unfold bX9_begin jX9_begin_20 jX9_begin_22 a_begin
  have no : mDo h m F A (nI 0, S) (cond (ix_okn 1 (nI 0)) (some (.inl (some (ix_I (nI 0))), hw h F A)) none) := ⟨F, A, by rw [hw_okn1_0, cond_true], mQ.refl _ _ _ _ _, hR⟩
  rw [hw_cI (m_isHand _ N d k)]
  dsimp only
  rw [a_if0]
  by_cases wk : a_hnd k
  · rw [if_pos wk, hw_cI (m_in _ N (d + 1) _ _ _)]
    dsimp only
    rw [a_if0]
    by_cases wa : a_in act (nI 1) (nI 3)
    · rw [if_pos wa, hw_cI (m_isKey _ N d key)]
      dsimp only
      rw [a_if0]
      by_cases wy : a_key key
      · rw [if_pos wy, if_pos ⟨wk, wa, wy⟩, mp_isr hS]
        obtain ⟨j, hj, rfl⟩ := a_hnd_nat wk
        obtain ⟨A1, e1, q1, r1⟩ := m_starts hS (by have := hI.sz; omega) hI.sz.2.2 hj (hI.stage hj) N d (F := F) hR act key v
        rw [hw_cI e1, hw_cl (by omega)]
        dsimp only
        rw [a_if0]
        refine ⟨F, A1, ?_, q1, r1⟩
        by_cases t : (z_take S j act key v).1 = true
        · rw [if_pos t, if_pos t, hw_okn1_1, cond_true]
        · rw [if_neg t, if_neg t, hw_okn1_0, cond_true]
      · rw [if_neg wy, if_neg (fun x => wy x.2.2)]
        exact no
    · rw [if_neg wa, if_neg (fun x => wa x.2.1)]
      exact no
  · rw [if_neg wk, if_neg (fun x => wk x.1)]
    exact no
theorem m_step (hS : mSh h m) (hI : i_I S) (hN : 3000 ≤ N) (d : Nat) (hR : mR (A (m + 21)) S) (k : Int32) : mDo h m F A (a_step S k) (ix_run iy_P N (d + 12) 320 [ix_R (some m), ix_I k] (hw h F A)) := by
  rw [rX9_step N (d + 11)]
  unfold bX9_step jX9_step_11 a_step
  rw [hw_cI (m_isHand _ N (d + 9) k)]
  dsimp only
  rw [a_if0]
  by_cases wk : a_hnd k
  · obtain ⟨j, hj, rfl⟩ := a_hnd_nat wk
    rw [if_pos wk, if_pos wk, mp_is hS, hw_cI (m_hand0 _ N (d + 10) j)]
    dsimp only
    rw [nI_add, mp_rd35 hS, hw_in (by omega) (by omega), cond_true, hw_aI, hw_cl (by omega), hw_cl (by omega), hR.2.2.1 j 1 hj (by omega)]
    by_cases w0 : zh S j 1 = nI 0
    · rw [if_pos w0, if_pos w0]
      refine ⟨F, A, rfl, mQ.refl _ _ _ _ _, ?_⟩
      show mR _ (z_step S j)
      unfold z_step
      rw [if_pos w0]
      exact hR
    · rw [if_neg w0, if_neg w0, mp_isr hS]
      obtain ⟨rc, hc, -⟩ := hI.can hj w0
      obtain ⟨F1, A1, e1, q1, r1⟩ := m_steps hS (by have := hI.sz; omega) hI.sz.2.2 hN d hj hR (rc := rc) (fun _ => hc)
      rw [hw_cV e1, mp_is hS, hw_cI (m_hand0 _ N (d + 10) j)]
      dsimp only
      rw [nI_add, mp_rd35 hS, hw_in (by omega) (by omega), cond_true, hw_aI, hw_cl (by omega), r1.2.2.1 j 1 hj (by omega)]
      exact ⟨F1, A1, rfl, q1, r1⟩
  · rw [if_neg wk, if_neg wk]
    exact ⟨F, A, rfl, mQ.refl _ _ _ _ _, hR⟩
theorem m_close (hS : mSh h m) (hI : i_I S) (hN : 3000 ≤ N) (d : Nat) (hR : mR (A (m + 21)) S) (k : Int32) : mDo h m F A (a_close S k) (ix_run iy_P N (d + 13) 321 [ix_R (some m), ix_I k] (hw h F A)) := by
  rw [rX9_close N (d + 12)]
  unfold bX9_close jX9_close_8 a_close
  rw [hw_cI (m_isHand _ N (d + 10) k)]
  dsimp only
  rw [a_if0]
  by_cases wk : a_hnd k
  · obtain ⟨j, hj, rfl⟩ := a_hnd_nat wk
    obtain ⟨F1, A1, e1, q1, r1⟩ := m_closes hS hj (i_zkp hj) hN d (F := F) hI hR
    rw [if_pos wk, if_pos wk, mp_isr hS, hw_cI e1, hw_cl (by omega)]
    exact ⟨F1, A1, rfl, q1, r1⟩
  · rw [if_neg wk, if_neg wk]
    exact ⟨F, A, rfl, mQ.refl _ _ _ _ _, hR⟩
theorem m_sweep (hS : mSh h m) (hI : i_I S) (hN : 3000 ≤ N) (d : Nat) (hR : mR (A (m + 21)) S) : mDo h m F A (a_sweep S) (ix_run iy_P N (d + 3) 322 [ix_R (some m)] (hw h F A)) := by
  rw [rX9_sweep N (d + 2)]
  unfold bX9_sweep a_sweep
  obtain ⟨A1, e1, q1, r1⟩ := m_sweeps hS (by have := hI.sz; omega) hI.sz.2.2 hN d (F := F) (fun k hk => hI.stage hk) hR
  rw [mp_isr hS, hw_cI e1]
  exact ⟨F, A1, rfl, q1.mono rfl rfl, r1⟩
end
