/-! MA: the reference: a step. Written by gen_steps.py -/
set_option maxRecDepth 100000
/-- what a stage needs -/
def z_cn (T : zS) (k s : Nat) : Prop := match s with
  | 1 => 0 < kv_ui (zh T k 6) (z_pg T 0).1
  | 2 => z_at T k < zp T ∧ zh T k 2 = nI (z_at T k) ∧ (z_pg T (z_at T k)).2.2 ≠ -1
  | 3 => z_at T k < zp T ∧ zh T k 2 = nI (z_at T k) ∧ (nI (zt T (z_at T k)) = zh T k 10 → zn T < 1400 ∧ z_W (z_prep T k))
  | 4 => z_at T k < zp T ∧ zh T k 2 = nI (z_at T k)
  | 5 => z_at T k < zp T ∧ zh T k 2 = nI (z_at T k) ∧ (nI (zt T (z_at T k)) = zh T k 10 → zn T < 1400)
  | 6 => z_at T k < zp T ∧ zh T k 2 = nI (z_at T k) ∧ (nI (zt T (z_at T k)) = zh T k 10 → zp T < 32 → zn T + 1 < 1400 ∧ 0 < (z_pg T (z_at T k)).1.length)
  | 7 => zh T k 13 ≠ -1
  | 8 => nI (zt T 0) = zh T k 10 → zn T < 1400 ∧ z_W (z_enter T k)
  | 9 => z_at T k < zp T ∧ zh T k 2 = nI (z_at T k) ∧ (nI (zt T (z_at T k)) = zh T k 10 → zn T < 1400)
  | 10 => True
  | 11 => z_ob T k < zp T ∧ zh T k 13 = nI (z_ob T k) ∧ z_vi T k < zp T ∧ zh T k 11 = nI (z_vi T k) ∧ (nI (zt T (z_ob T k)) = zh T k 10 → zn T < 1400)
  | 12 => True
  | 13 => z_vi T k < zp T ∧ zh T k 11 = nI (z_vi T k) ∧ (nI (zt T 0) = zh T k 10 → zn T < 1400 ∧ z_W (z_stri T k) ∧ ∃ b, kv_ix (zh T k 11) (z_pg T 0).1 = some b)
  | _ => False
def z_can (T : zS) (rc : List Nat) (k : Nat) : Prop := z_W T ∧ z_R T rc ∧ (zc T < 100 ∧ zm T < 100 ∧ zl T < 100) ∧ (∀ r, r < zn T → (zi T r).length ≤ 44) ∧ (∀ q ∈ (z_pg T 0).1, ∃ p, p < zp T ∧ q.2 = nI p) ∧ ∃ s, zh T k 1 = nI s ∧ z_cn T k s
def z_sel (T : zS) (k s : Nat) : zS := match s with
  | 1 => z_finds T k
  | 2 => z_reads T k
  | 3 => z_prep T k
  | 4 => z_gath T k
  | 5 => z_swap T k
  | 6 => z_split T k
  | 7 => z_notes T k
  | 8 => z_enter T k
  | 9 => z_remov T k
  | 10 => z_lookl T k
  | 11 => z_join T k
  | 12 => z_look T k
  | 13 => z_stri T k
  | _ => z_step1 T k
theorem z_step_eq (T : zS) (k s : Nat) (h : zh T k 1 = nI s) : z_step1 T k = z_sel T k s := by
  match s, h with
  | 1, h =>
    unfold z_step1
    rw [h, if_pos rfl]
    rfl
  | 2, h =>
    unfold z_step1
    rw [h, if_neg (by decide), if_pos rfl]
    rfl
  | 3, h =>
    unfold z_step1
    rw [h, if_neg (by decide), if_neg (by decide), if_pos rfl]
    rfl
  | 4, h =>
    unfold z_step1
    rw [h, if_neg (by decide), if_neg (by decide), if_neg (by decide), if_pos rfl]
    rfl
  | 5, h =>
    unfold z_step1
    rw [h, if_neg (by decide), if_neg (by decide), if_neg (by decide), if_neg (by decide), if_pos rfl]
    rfl
  | 6, h =>
    unfold z_step1
    rw [h, if_neg (by decide), if_neg (by decide), if_neg (by decide), if_neg (by decide), if_neg (by decide), if_pos rfl]
    rfl
  | 7, h =>
    unfold z_step1
    rw [h, if_neg (by decide), if_neg (by decide), if_neg (by decide), if_neg (by decide), if_neg (by decide), if_neg (by decide), if_pos rfl]
    rfl
  | 8, h =>
    unfold z_step1
    rw [h, if_neg (by decide), if_neg (by decide), if_neg (by decide), if_neg (by decide), if_neg (by decide), if_neg (by decide), if_neg (by decide), if_pos rfl]
    rfl
  | 9, h =>
    unfold z_step1
    rw [h, if_neg (by decide), if_neg (by decide), if_neg (by decide), if_neg (by decide), if_neg (by decide), if_neg (by decide), if_neg (by decide), if_neg (by decide), if_pos rfl]
    rfl
  | 10, h =>
    unfold z_step1
    rw [h, if_neg (by decide), if_neg (by decide), if_neg (by decide), if_neg (by decide), if_neg (by decide), if_neg (by decide), if_neg (by decide), if_neg (by decide), if_neg (by decide), if_pos rfl]
    rfl
  | 11, h =>
    unfold z_step1
    rw [h, if_neg (by decide), if_neg (by decide), if_neg (by decide), if_neg (by decide), if_neg (by decide), if_neg (by decide), if_neg (by decide), if_neg (by decide), if_neg (by decide), if_neg (by decide), if_pos rfl]
    rfl
  | 12, h =>
    unfold z_step1
    rw [h, if_neg (by decide), if_neg (by decide), if_neg (by decide), if_neg (by decide), if_neg (by decide), if_neg (by decide), if_neg (by decide), if_neg (by decide), if_neg (by decide), if_neg (by decide), if_neg (by decide), if_pos rfl]
    rfl
  | 13, h =>
    unfold z_step1
    rw [h, if_neg (by decide), if_neg (by decide), if_neg (by decide), if_neg (by decide), if_neg (by decide), if_neg (by decide), if_neg (by decide), if_neg (by decide), if_neg (by decide), if_neg (by decide), if_neg (by decide), if_neg (by decide)]
    rfl
  | 0, h => rfl
  | n + 14, h => rfl
theorem m_steps {h : ix_H} {m : Nat} (hS : mSh h m) {S : zS} {rc : List Nat} (hn : zn S ≤ 1400) (h32 : zp S ≤ 32) {N : Nat} (hN : 3000 ≤ N) (d : Nat) {k : Nat} (hk : k < 4) {F A : Nat → Nat → Int32} (hR : mR (A (m + 21)) S) (hc : zh S k 1 ≠ nI 0 → z_can (z_sh S k 4 (zh S k 4 + nI 1)) rc k) :
    ∃ F' A', ix_run iy_P N (d + 11) 282 [ix_R (some m), ix_I (nI k)] (hw h F A) = some (.inl none, hw h F' A') ∧ mQ mX mY m F A F' A' ∧ mR (A' (m + 21)) (z_step S k) := by
  have hz : ∀ f, f < 14 → A (m + 21) (42 + 14 * k + f) = zh S k f := fun f hf => hR.2.2.1 k f hk hf
  rw [rX9_steps N (d + 10)]
  unfold bX9_steps
  rw [hw_cI (m_hand0 (hw h F A) N (d + 9) k)]
  simp only [nI_add]
  rw [mp_is hS, mp_rd35 hS, hw_in (by omega) (by omega), cond_true, hw_aI, hw_cl (by omega), hz 1 (by omega)]
  by_cases h0 : zh S k 1 = nI 0
  · have ez : z_step S k = S := by
      unfold z_step
      rw [if_pos h0]
    rw [ez]
    rw [if_pos h0]
    exact ⟨F, A, rfl, mQ.refl _ _ _ _ _, hR⟩
  · obtain ⟨hW, hrc, hcml, hz44, hb, s, hs, c⟩ := hc h0
    have ez : z_step S k = z_step1 (z_sh S k 4 (zh S k 4 + nI 1)) k := by
      unfold z_step
      rw [if_neg h0]
    rw [ez]
    have hT1 : zh S k 1 = nI s := by
      rw [← hs]
      show _ = ix_up2 S.2.2.1 k 4 _ k 1
      rw [hw_up, if_neg (by omega)]
      rfl
    have q1 : mQ mX mY m F A F (hw_R A (m + 21) (hw_U (A (m + 21)) (42 + 14 * k + 4) (zh S k 4 + nI 1))) := (mQ.refl mX mY m F A).aR (k := 21) rfl (by omega)
    have r1 : mR ((hw_R A (m + 21) (hw_U (A (m + 21)) (42 + 14 * k + 4) (zh S k 4 + nI 1))) (m + 21)) (z_sh S k 4 (zh S k 4 + nI 1)) := by
      rw [hw_R_same]
      exact mR_sh hR hk (by omega) (by omega) hn h32 _
    rw [z_step_eq _ _ _ hs]
    rw [if_neg h0, mp_is hS, mp_rd35 hS, hw_in (by omega) (by omega), cond_true, mp_wr35 hS, hw_in (by omega) (by omega), cond_true, hw_bdA, hw_aI, hw_cl (by omega), hz 4 (by omega), mp_is hS, mp_rd35 hS, hw_in (by omega) (by omega), cond_true, hw_R_same, hw_U_ne _ _ (by omega), hz 1 (by omega), hT1]
    generalize z_sh S k 4 (zh S k 4 + nI 1) = T at hW hrc hcml hz44 hb c r1 ⊢
    match s, c with
    | 1, c =>
      obtain ⟨F1, A1, e1, q2, r2⟩ := m_finds (N := N) hS hW (by omega) d hk (F := F) r1 c
      rw [if_pos rfl, mp_isr hS, e1]
      exact ⟨F1, A1, rfl, q1.trans q2, r2⟩
    | 2, c =>
      obtain ⟨F1, A1, e1, q2, r2⟩ := m_reads (N := N) hS hW hrc (by omega) d hk (F := F) r1 c.1 c.2.1 c.2.2
      rw [if_neg (by decide), if_pos rfl, mp_isr hS, e1]
      exact ⟨F1, A1, rfl, q1.trans q2, r2⟩
    | 3, c =>
      obtain ⟨F1, A1, e1, q2, r2⟩ := m_prepends (N := N) hS hW (by omega) d hk (F := F) r1 c.1 c.2.1 c.2.2 hcml.1
      rw [if_neg (by decide), if_neg (by decide), if_pos rfl, mp_isr hS, e1]
      exact ⟨F1, A1, rfl, q1.trans q2, r2⟩
    | 4, c =>
      obtain ⟨F1, A1, e1, q2, r2⟩ := m_gathers (N := N) hS hW (by omega) d hk (F := F) r1 c.1 c.2
      rw [if_neg (by decide), if_neg (by decide), if_neg (by decide), if_pos rfl, mp_isr hS, e1]
      exact ⟨F1, A1, rfl, q1.trans q2, r2⟩
    | 5, c =>
      obtain ⟨F1, A1, e1, q2, r2⟩ := m_swaps (N := N) hS hW hN d hk (F := F) r1 c.1 c.2.1 c.2.2 hcml.2 hz44
      rw [if_neg (by decide), if_neg (by decide), if_neg (by decide), if_neg (by decide), if_pos rfl, mp_isr hS, e1]
      exact ⟨F1, A1, rfl, q1.trans q2, r2⟩
    | 6, c =>
      obtain ⟨F1, A1, e1, q2, r2⟩ := m_splits (N := N) hS hW hN d hk (F := F) r1 c.1 c.2.1 c.2.2 hz44
      rw [if_neg (by decide), if_neg (by decide), if_neg (by decide), if_neg (by decide), if_neg (by decide), if_pos rfl, mp_isr hS, e1]
      exact ⟨F1, A1, rfl, q1.trans q2, r2⟩
    | 7, c =>
      obtain ⟨F1, A1, e1, q2, r2⟩ := m_looksUp (N := N) hS hW (by omega) d hk (F := F) r1 (fun q hq => by obtain ⟨p, hp, e⟩ := hb q hq; exact ⟨p, by have := hW.2.2.1; omega, e⟩) c
      rw [if_neg (by decide), if_neg (by decide), if_neg (by decide), if_neg (by decide), if_neg (by decide), if_neg (by decide), if_pos rfl, mp_isr hS, e1]
      exact ⟨F1, A1, rfl, q1.trans q2, r2⟩
    | 8, c =>
      obtain ⟨F1, A1, e1, q2, r2⟩ := m_enters (N := N) hS hW (by omega) d hk (F := F) r1 c hcml.1
      rw [if_neg (by decide), if_neg (by decide), if_neg (by decide), if_neg (by decide), if_neg (by decide), if_neg (by decide), if_neg (by decide), if_pos rfl, mp_isr hS, e1]
      exact ⟨F1, A1, rfl, q1.trans q2, r2⟩
    | 9, c =>
      obtain ⟨F1, A1, e1, q2, r2⟩ := m_removes (N := N) hS hW (by omega) d hk (F := F) r1 c.1 c.2.1 c.2.2
      rw [if_neg (by decide), if_neg (by decide), if_neg (by decide), if_neg (by decide), if_neg (by decide), if_neg (by decide), if_neg (by decide), if_neg (by decide), if_pos rfl, mp_isr hS, e1]
      exact ⟨F1, A1, rfl, q1.trans q2, r2⟩
    | 10, c =>
      obtain ⟨F1, A1, e1, q2, r2⟩ := m_goesLeft (N := N) hS hW (by omega) d hk (F := F) r1 hb
      rw [if_neg (by decide), if_neg (by decide), if_neg (by decide), if_neg (by decide), if_neg (by decide), if_neg (by decide), if_neg (by decide), if_neg (by decide), if_neg (by decide), if_pos rfl, mp_isr hS, e1]
      exact ⟨F1, A1, rfl, q1.trans q2, r2⟩
    | 11, c =>
      obtain ⟨F1, A1, e1, q2, r2⟩ := m_merges (N := N) hS hW (by omega) d hk (F := F) r1 c.1 c.2.1 c.2.2.1 c.2.2.2.1 c.2.2.2.2
      rw [if_neg (by decide), if_neg (by decide), if_neg (by decide), if_neg (by decide), if_neg (by decide), if_neg (by decide), if_neg (by decide), if_neg (by decide), if_neg (by decide), if_neg (by decide), if_pos rfl, mp_isr hS, e1]
      exact ⟨F1, A1, rfl, q1.trans q2, r2⟩
    | 12, c =>
      obtain ⟨F1, A1, e1, q2, r2⟩ := m_looksOn (N := N) hS hW (by omega) d hk (F := F) r1
      rw [if_neg (by decide), if_neg (by decide), if_neg (by decide), if_neg (by decide), if_neg (by decide), if_neg (by decide), if_neg (by decide), if_neg (by decide), if_neg (by decide), if_neg (by decide), if_neg (by decide), if_pos rfl, mp_isr hS, e1]
      exact ⟨F1, A1, rfl, q1.trans q2, r2⟩
    | 13, c =>
      obtain ⟨F1, A1, e1, q2, r2⟩ := m_strikes (N := N) hS hW (by omega) d hk (F := F) r1 c.1 c.2.1 c.2.2 hcml.1
      rw [if_neg (by decide), if_neg (by decide), if_neg (by decide), if_neg (by decide), if_neg (by decide), if_neg (by decide), if_neg (by decide), if_neg (by decide), if_neg (by decide), if_neg (by decide), if_neg (by decide), if_neg (by decide), mp_isr hS, e1]
      exact ⟨F1, A1, rfl, q1.trans q2, r2⟩
