/-! Q1: the reference: what it is asked, what it is told to do -/
set_option maxRecDepth 100000
section
variable {h : ix_H} {m : Nat} {S : zS} {F A : Nat → Nat → Int32} {N : Nat}
theorem m_page (hS : mSh h m) (hI : i_I S) (hN : 3000 ≤ N) (d : Nat) (hR : mR (A (m + 21)) S) (p w : Int32) : mAns h m S F A (a_page S p w) (ix_run iy_P N (d + 9) 329 [ix_R (some m), ix_I p, ix_I w] (hw h F A)) := by
  obtain ⟨rc, lo, hI⟩ := hI
  have hW := hI.P.W
  have h32 := hW.2.2.1
  rw [rX9_page N (d + 8)]
  unfold bX9_page
  rw [mp_is hS, mp_rd35 hS, hw_in (by omega) (by omega), cond_true, hw_aI, hw_cl (by omega), hR.1.2.1, hw_cI (m_in _ N (d + 7) _ _ _)]
  dsimp only
  rw [a_if0]
  unfold a_page
  by_cases wi : a_in p (nI 0) (nI (zp S) - nI 1)
  · obtain ⟨q, hq, rfl⟩ := a_in_nat (by omega) wi
    have eq0 : (nI q = nI 0) = (q = 0) := hw_eq (by omega) (by omega)
    rw [if_pos wi, if_pos wi, mp_isr hS]
    obtain ⟨F1, A1, e1, q1, a1, c1⟩ := m_fillsHas hS hW (N := N) (by omega) (d + 2) hq hR
    have hR1 : mR (A1 (m + 21)) S := by rw [q1.2.2.1 21 rfl]; exact hR
    have q1' : mQ mX mZ m F A F1 A1 := q1.mono rfl rfl
    have hlen := z_chain_pos hW.1 (hW.2.2.2 q hq)
    rw [hw_cV e1, mp_isr hS, hw_cI (m_isGone hS hW N (d + 6) hq hR1)]
    dsimp only
    unfold jX9_page_36 jX9_page_42 jX9_page_47 jX9_page_53 jX9_page_58 jX9_page_65
    simp only [hw_cl (show q < 2147483648 by omega)]
    refine ⟨F1, A1, ?_, q1'⟩
    by_cases w0 : w = nI 0
    · rw [if_pos w0, if_pos w0, mp_isr hS, hw_cI (m_topOf hS F1 A1 N (d + 7) (by omega)), hR1.2.1 q hq]
    rw [if_neg w0, if_neg w0]
    by_cases w1 : w = nI 1
    · rw [if_pos w1, if_pos w1, mp_is hS, hw_fI, c1.1, hw_sub (by omega)]
      rfl
    rw [if_neg w1, if_neg w1]
    by_cases w2 : w = nI 2
    · rw [if_pos w2, if_pos w2, a_if0]
      by_cases g : z_gone S q
      · rw [if_pos g, if_pos g]
      · rw [if_neg g, if_neg g, mp_is hS, hw_fI, a1.1.1]
    rw [if_neg w2, if_neg w2]
    by_cases w3 : w = nI 3
    · rw [if_pos w3, if_pos w3, a_if0]
      by_cases g : z_gone S q
      · rw [if_pos g, if_pos (Or.inl g)]
      · rw [if_neg g]
        by_cases z : nI q = nI 0
        · rw [if_pos z, if_pos (Or.inr z)]
        · rw [if_neg z, if_neg (fun x => x.elim g z), mp_is hS, hw_fI, a1.2.1]
    rw [if_neg w3, if_neg w3]
    by_cases w4 : w = nI 4
    · rw [if_pos w4, if_pos w4, a_if0]
      by_cases g : z_gone S q
      · rw [if_pos g, if_pos (Or.inl g)]
      · rw [if_neg g]
        by_cases z : nI q = nI 0
        · rw [if_pos z, if_pos (Or.inr z)]
        · rw [if_neg z, if_neg (fun x => x.elim g z), mp_is hS, hw_fI, a1.2.2]
    rw [if_neg w4, if_neg w4]
    by_cases w5 : w = nI 5
    · rw [if_pos w5, if_pos w5, a_if0]
      by_cases g : z_gone S q
      · rw [if_pos g, if_pos g]
      · rw [if_neg g, if_neg g]
    rw [if_neg w5, if_neg w5]
  · rw [if_neg wi, if_neg wi]
    exact ⟨F, A, rfl, mQ.refl _ _ _ _ _⟩
theorem a_in01 {w : Int32} : a_in w (nI 0) (nI 1) ↔ w = nI 0 ∨ w = nI 1 := by
  refine ⟨fun h => ?_, fun h => by rcases h with e | e <;> rw [e] <;> decide⟩
  have e : nI 1 = nI 2 - nI 1 := by decide
  rw [e] at h
  obtain ⟨i, hi, rfl⟩ := a_in_nat (by omega) h
  match i, hi with
  | 0, _ => exact Or.inl rfl
  | 1, _ => exact Or.inr rfl
theorem m_bound (hS : mSh h m) (hI : i_I S) (hN : 3000 ≤ N) (d : Nat) (hR : mR (A (m + 21)) S) (i w : Int32) : mAns h m S F A (a_bound S i w) (ix_run iy_P N (d + 9) 330 [ix_R (some m), ix_I i, ix_I w] (hw h F A)) := by
  obtain ⟨rc, lo, hI⟩ := hI
  have hW := hI.P.W
  rw [rX9_bound N (d + 8)]
  unfold bX9_bound jX9_bound_15 jX9_bound_29
  obtain ⟨F1, A1, e1, q1, b1⟩ := m_fillsBounds hS hW (N := N) (by omega) (d + 1) hR
  have hl := (hW.pg (p := 0) (by have := hW.2.1; omega)).2.1
  have q1' : mQ mX mZ m F A F1 A1 := q1.mono rfl rfl
  rw [mp_isr hS, hw_cV e1, mp_is hS, hw_fI, b1.1, hw_cI (m_in _ N (d + 7) _ _ _)]
  dsimp only
  rw [a_if0]
  unfold a_bound
  refine ⟨F1, A1, ?_, q1'⟩
  by_cases wi : a_in i (nI 0) (nI (z_pg S 0).1.length - nI 1)
  · obtain ⟨j, hj, rfl⟩ := a_in_nat (by omega) wi
    obtain ⟨w1, w2⟩ := b1.2 j hj
    rw [if_pos wi, if_pos wi, hw_cI (m_in _ N (d + 7) _ _ _)]
    dsimp only
    rw [a_if0]
    simp only [hw_cl (show j < 2147483648 by omega)]
    by_cases w01 : a_in w (nI 0) (nI 1)
    · rw [if_pos w01]
      by_cases w0 : w = nI 0
      · rw [if_pos w0, if_pos w0, mp_is hS, mp_rd43 hS, hw_in (by omega) (by omega), cond_true, hw_aI, w1, kv_nth_at hj]
      · rw [if_neg w0, if_neg w0, if_pos ((a_in01.mp w01).resolve_left w0), mp_is hS, mp_rd44 hS, hw_in (by omega) (by omega), cond_true, hw_aI, w2, kv_nth_at hj]
    · rw [if_neg w01, if_neg (fun e => w01 (a_in01.mpr (Or.inl e))), if_neg (fun e => w01 (a_in01.mpr (Or.inr e)))]
  · rw [if_neg wi, if_neg wi]
theorem m_isRecord (hS : mSh h m) (N d : Nat) (hR : mR (A (m + 21)) S) (r : Int32) : ix_run iy_P N (d + 2) 332 [ix_R (some m), ix_I r] (hw h F A) = some (.inl (some (ix_I (if a_in r (nI 0) (nI (zn S) - nI 1) then nI 1 else nI 0))), hw h F A) := by
  rw [rX9_isRecord N (d + 1)]
  unfold bX9_isRecord
  rw [mp_is hS, mp_rd35 hS, hw_in (by omega) (by omega), cond_true, hw_aI, hw_cl (by omega), hR.1.1, hw_cI (m_in _ N d _ _ _)]
  dsimp only
  rw [a_okn, cond_true]
theorem m_record (hS : mSh h m) (hn : zn S ≤ 1399) (N d : Nat) (hR : mR (A (m + 21)) S) (r w : Int32) : mAns h m S F A (a_record S r w) (ix_run iy_P N (d + 3) 331 [ix_R (some m), ix_I r, ix_I w] (hw h F A)) := by
  rw [rX9_record N (d + 2)]
  unfold bX9_record jX9_record_14 jX9_record_16 a_record
  refine ⟨F, A, ?_, mQ.refl _ _ _ _ _⟩
  rw [mp_isr hS, hw_cI (m_isRecord hS N d hR r)]
  dsimp only
  rw [a_if0]
  by_cases wi : a_in r (nI 0) (nI (zn S) - nI 1)
  · obtain ⟨j, hj, rfl⟩ := a_in_nat (by omega) wi
    rw [if_pos wi, hw_cI (m_in _ N (d + 1) _ _ _)]
    dsimp only
    rw [a_if0]
    by_cases ww : a_in w (nI 0) (nI 6)
    · have e6 : nI 6 = nI 7 - nI 1 := by decide
      have ww' := ww
      rw [e6] at ww'
      obtain ⟨f, hf, rfl⟩ := a_in_nat (by omega) ww'
      rw [if_pos ww, if_pos ⟨wi, ww⟩, mp_isr hS, hw_cI (m_ofRecord hS F A N (d + 1) (by omega) (by omega)), hw_cl (by omega), hw_cl (by omega)]
      dsimp only
      rw [hR.2.2.2.1 j f hj (by omega)]
    · rw [if_neg ww, if_neg (fun x => ww x.2)]
  · rw [if_neg wi, if_neg (fun x => wi x.1)]
theorem m_base (hS : mSh h m) (hI : i_I S) (N d : Nat) (hR : mR (A (m + 21)) S) (r i w : Int32) : mAns h m S F A (a_base S r i w) (ix_run iy_P N (d + 3) 333 [ix_R (some m), ix_I r, ix_I i, ix_I w] (hw h F A)) := by
  obtain ⟨rc, lo, hI⟩ := hI
  have hn := hI.n
  rw [rX9_base N (d + 2)]
  unfold bX9_base jX9_base_28 jX9_base_30 a_base
  refine ⟨F, A, ?_, mQ.refl _ _ _ _ _⟩
  rw [mp_isr hS, hw_cI (m_isRecord hS N d hR r)]
  dsimp only
  rw [a_if0]
  by_cases wi : a_in r (nI 0) (nI (zn S) - nI 1)
  · obtain ⟨j, hj, rfl⟩ := a_in_nat (by omega) wi
    have h6 : zr S j 6 = nI (zi S j).length := (hI.P.W.1.2 j hj).2.1
    have hlen := hI.P.it j hj
    rw [if_pos wi, if_pos wi, mp_isr hS, hw_cI (m_ofRecord hS F A N (d + 1) (by omega) (by omega))]
    dsimp only
    rw [hR.2.2.2.1 j 6 hj (by omega), h6, hw_cI (m_in _ N (d + 1) _ _ _)]
    dsimp only
    rw [a_if0]
    simp only [hw_cl (show j < 2147483648 by omega)]
    by_cases wj : a_in i (nI 0) (nI (zi S j).length - nI 1)
    · obtain ⟨x, hx, rfl⟩ := a_in_nat (by omega) wj
      obtain ⟨k1, k2⟩ := hR.2.2.2.2 j hj x hx
      dsimp only at k1 k2
      rw [if_pos wj, if_pos wj, hw_cI (m_in _ N (d + 1) _ _ _)]
      dsimp only
      rw [a_if0]
      simp only [hw_cl (show x < 2147483648 by omega)]
      by_cases w01 : a_in w (nI 0) (nI 1)
      · rw [if_pos w01, mp_is hS, hw_cI (m_baseAt _ N (d + 1) j x)]
        dsimp only
        by_cases w0 : w = nI 0
        · rw [w0, if_pos rfl, nI_add, mp_rd35 hS, hw_in (by omega) (by omega), cond_true, hw_aI, hw_cl (by omega), show A (m + 21) (14100 + 88 * j + 2 * x + 0) = _ from k1, kv_nth_at hx]
        · have w1 := (a_in01.mp w01).resolve_left w0
          rw [if_neg w0, if_pos w1, w1, nI_add, mp_rd35 hS, hw_in (by omega) (by omega), cond_true, hw_aI, hw_cl (by omega), k2, kv_nth_at hx]
      · rw [if_neg w01, if_neg (fun e => w01 (a_in01.mpr (Or.inl e))), if_neg (fun e => w01 (a_in01.mpr (Or.inr e)))]
    · rw [if_neg wj, if_neg wj]
  · rw [if_neg wi, if_neg wi]
theorem m_hand (hS : mSh h m) (N d : Nat) (hR : mR (A (m + 21)) S) (k w : Int32) : mAns h m S F A (a_hand S k w) (ix_run iy_P N (d + 3) 334 [ix_R (some m), ix_I k, ix_I w] (hw h F A)) := by
  rw [rX9_hand N (d + 2)]
  unfold bX9_hand jX9_hand_8 jX9_hand_24 jX9_hand_32 a_hand
  refine ⟨F, A, ?_, mQ.refl _ _ _ _ _⟩
  rw [hw_cI (m_isHand _ N d k)]
  dsimp only
  rw [a_if0]
  by_cases wk : a_hnd k
  · obtain ⟨j, hj, rfl⟩ := a_hnd_nat wk
    rw [if_pos wk, hw_cI (m_in _ N (d + 1) _ _ _)]
    dsimp only
    rw [a_if0]
    by_cases ww : a_in w (nI 0) (nI 6)
    · have e6 : nI 6 = nI 7 - nI 1 := by decide
      have ww' := ww
      rw [e6] at ww'
      obtain ⟨f, hf, rfl⟩ := a_in_nat (by omega) ww'
      rw [if_pos ww, if_pos (show a_hnd (nI j) ∧ a_in (nI f) (nI 0) (nI 6) from ⟨wk, ww⟩)]
      simp only [mp_is hS, hw_cI (m_hand0 _ N (d + 1) j), nI_add, mp_rd35 hS, hw_in (show 42 + 14 * j + f < 137300 by omega) (by omega), hw_in (show 42 + 14 * j + 1 < 137300 by omega) (by omega), cond_true, hw_aI, hw_cl (show 42 + 14 * j + f < 2147483648 by omega), hw_cl (show 42 + 14 * j + 1 < 2147483648 by omega), hw_cl (show j < 2147483648 by omega), hw_cl (show f < 2147483648 by omega), hR.2.2.1 j f hj (by omega), hR.2.2.1 j 1 hj (by omega)]
      by_cases w5 : nI f = nI 5
      · rw [if_pos w5]
        by_cases w1 : zh S j 1 = nI 0
        · rw [if_pos w1, if_pos ⟨w5, w1⟩]
        · rw [if_neg w1, if_neg (fun x => w1 x.2)]
      · rw [if_neg w5, if_neg (fun x => w5 x.1)]
    · rw [if_neg ww, if_neg (fun x => ww x.2)]
  · rw [if_neg wk, if_neg (fun x => wk x.1)]
theorem i_I.j {S : zS} (hI : i_I S) {k : Nat} (hk : k < 4) : (zh S k 9 = nI 0 ∧ zh S k 8 = nI 0) ∨ zh S k 9 = nI 1 := by
  obtain ⟨rc, lo, hI⟩ := hI
  exact (hI.H k hk).1
theorem m_result (hS : mSh h m) (hI : i_I S) (N d : Nat) (hR : mR (A (m + 21)) S) (k : Int32) : mAns h m S F A (a_result S k) (ix_run iy_P N (d + 3) 335 [ix_R (some m), ix_I k] (hw h F A)) := by
  rw [rX9_result N (d + 2)]
  unfold bX9_result jX9_result_20 jX9_result_22 a_result
  refine ⟨F, A, ?_, mQ.refl _ _ _ _ _⟩
  rw [hw_cI (m_isHand _ N d k)]
  dsimp only
  rw [a_if0]
  by_cases wk : a_hnd k
  · obtain ⟨j, hj, rfl⟩ := a_hnd_nat wk
    rw [if_pos wk, if_pos wk]
    simp only [mp_is hS, hw_cI (m_hand0 _ N (d + 1) j), nI_add, mp_rd35 hS, hw_in (show 42 + 14 * j + 9 < 137300 by omega) (by omega), hw_in (show 42 + 14 * j + 8 < 137300 by omega) (by omega), cond_true, hw_aI, hw_cl (show 42 + 14 * j + 9 < 2147483648 by omega), hw_cl (show 42 + 14 * j + 8 < 2147483648 by omega), hw_cl (show j < 2147483648 by omega), hR.2.2.1 j 9 hj (by omega), hR.2.2.1 j 8 hj (by omega)]
    rcases hI.j hj with ⟨e, e8⟩ | e
    · rw [e, e8, if_neg (by decide)]
    · rw [e, if_pos rfl]
  · rw [if_neg wk, if_neg wk]
theorem m_halfSplits_l (hS : mSh h m) (hW : z_W S) (hR : mR (A (m + 21)) S) (hN : 3000 ≤ N) (d : Nat) : ∀ (rc : List Nat) (x : Nat) (t : List Nat) (i z : Nat) F' A', rc = x :: t → z_rk S rc → (∀ y ∈ rc, y < zp S) → rc.length < z → mQ mX mZ m F A F' A' → mB F' A' m (z_pg S 0).1 →
    ∃ F2 A2, ix_lp (ix_run iy_P N (d + 7)) stX9_halfSplits z 6 [(0, ix_R (some m)), (1, ix_I (nI i)), (2, ix_I (nI x))] [] (hw h F' A') = some (.inl (some (ix_I (nI (i + z_slc S rc)))), hw h F2 A2) ∧ mQ mX mZ m F A F2 A2 := by
  have hl := (hW.pg (p := 0) (by have := hW.2.1; omega)).2.1
  have h32 := hW.2.2.1
  intro rc
  induction rc with
  | nil => intro x t i z F' A' he; cases he
  | cons x rc ih =>
    intro x' t i z F' A' he hk hm hz q hB
    cases he
    obtain ⟨z, rfl⟩ : ∃ w, z = w + 1 := ⟨z - 1, by omega⟩
    have hx := hm x List.mem_cons_self
    rw [lX9_halfSplits_6]
    unfold jX9_halfSplits_6
    rw [if_neg (show ¬ nI x < nI 0 by rw [hw_lt (by omega) (by omega)]; omega)]
    obtain ⟨F1, A1, e1, q1, a1, c1⟩ := m_fillsHas hS hW (N := N) (by omega) (d + 1) hx (mAns.R hR q)
    have q1' : mQ mX mZ m F A F1 A1 := q.trans (q1.mono rfl rfl)
    have hR1 := mAns.R hR q1'
    have hB1 : mB F1 A1 m (z_pg S 0).1 := ⟨by rw [q1.2.1 45 rfl]; exact hB.1, by rw [q1.2.2.1 25 rfl, q1.2.2.1 26 rfl]; exact hB.2⟩
    have key : ∀ n, ∃ F2 A2, jX9_halfSplits_27 (ix_run iy_P N (d + 7)) (ix_lp (ix_run iy_P N (d + 7)) stX9_halfSplits z) m (nI n) (hw h F1 A1) = some (.inl (some (ix_I (nI (n + z_slc S rc)))), hw h F2 A2) ∧ mQ mX mZ m F A F2 A2 := fun n => by
      unfold jX9_halfSplits_27
      rw [mp_is hS, hw_fI, a1.2.2]
      cases rc with
      | nil =>
        have hr : (z_pg S x).2.2 = -2 := hk
        obtain ⟨z, rfl⟩ : ∃ w, z = w + 1 := ⟨z - 1, by simp only [List.length_cons, List.length_nil] at hz; omega⟩
        rw [hr, lX9_halfSplits_6]
        unfold jX9_halfSplits_6
        rw [if_pos (by decide)]
        exact ⟨F1, A1, rfl, q1'⟩
      | cons y t =>
        have hr : (z_pg S x).2.2 = nI y := hk.1
        rw [hr]
        exact ih y t n z F1 A1 rfl hk.2 (fun w hw => hm w (List.mem_cons_of_mem _ hw)) (by simp only [List.length_cons] at hz ⊢; omega) q1' hB1
    rw [mp_isr hS, hw_cV e1, mp_is hS, hw_fI, a1.2.2, z_slc_cons, ← Nat.add_assoc]
    by_cases w1 : (z_pg S x).2.2 < nI 0
    · rw [if_pos w1, if_neg (fun w => by have := w.1; rw [Int32.le_iff_toInt_le] at this; rw [Int32.lt_iff_toInt_lt] at w1; omega)]
      exact key i
    · rw [if_neg w1, mp_isr hS, hw_cI (m_isGone hS hW N (d + 5) hx hR1)]
      dsimp only
      rw [a_if0]
      by_cases g : z_gone S x
      · rw [if_pos g, if_neg (fun w => w.2.1 g)]
        exact key i
      · rw [if_neg g, mp_is hS, mp_isr hS, hw_fI, a1.2.1, hw_cI (m_pageBy hS (by omega) (d + 6) hB1 (by omega) _)]
        dsimp only
        rw [mp_is hS, hw_fI, a1.2.2]
        have ev : ((kv_get (z_pg S x).2.1 (z_pg S 0).1).getD (-1) = (z_pg S x).2.2) ↔ kv_get (z_pg S x).2.1 (z_pg S 0).1 = some (z_pg S x).2.2 := by
          cases e : kv_get (z_pg S x).2.1 (z_pg S 0).1 with
          | none =>
            refine ⟨fun w => ?_, fun w => by cases w⟩
            have w : (-1 : Int32) = (z_pg S x).2.2 := w
            rw [← w] at w1
            exact absurd (by decide) w1
          | some v => exact ⟨fun w => by rw [← w]; rfl, fun w => Option.some.inj w⟩
        by_cases w2 : kv_get (z_pg S x).2.1 (z_pg S 0).1 = some (z_pg S x).2.2
        · rw [if_pos (ev.mpr w2), if_neg (fun w => w.2.2 w2)]
          exact key i
        · rw [if_neg (fun w => w2 (ev.mp w)), if_pos ⟨kv_nlt_le.mp w1, g, w2⟩, nI_add]
          exact key (i + 1)
theorem m_halfGone_l (hS : mSh h m) (hW : z_W S) (hR : mR (A (m + 21)) S) (hB : mB F A m (z_pg S 0).1) (hN : 3000 ≤ N) (d : Nat) : ∀ z i n, i ≤ zp S → zp S - i < z → 
    ix_lp (ix_run iy_P N (d + 7)) stX9_halfGone z 6 [(0, ix_R (some m)), (1, ix_I (nI n)), (2, ix_I (nI i))] [] (hw h F A) = some (.inl (some (ix_I (nI (n + (i_sm (fun p => if z_gone S p ∧ kv_ix (nI p) (z_pg S 0).1 ≠ none then 1 else 0) (zp S) - i_sm (fun p => if z_gone S p ∧ kv_ix (nI p) (z_pg S 0).1 ≠ none then 1 else 0) i))))), hw h F A) := by
  have hl := (hW.pg (p := 0) (by have := hW.2.1; omega)).2.1
  have h32 := hW.2.2.1
  have mono : ∀ b a, a ≤ b → i_sm (fun p => if z_gone S p ∧ kv_ix (nI p) (z_pg S 0).1 ≠ none then 1 else 0) a ≤ i_sm (fun p => if z_gone S p ∧ kv_ix (nI p) (z_pg S 0).1 ≠ none then 1 else 0) b := fun b => by
    induction b with
    | zero => intro a ha; obtain rfl : a = 0 := by omega
              exact Nat.le_refl _
    | succ b ih =>
      intro a ha
      rcases Nat.lt_or_ge a (b + 1) with w | w
      · exact Nat.le_trans (ih a (by omega)) (Nat.le_add_right _ _)
      · obtain rfl : a = b + 1 := by omega
        exact Nat.le_refl _
  intro z
  induction z with
  | zero => intro i n _ h; omega
  | succ z ih =>
    intro i n hi hz
    rw [lX9_halfGone_6]
    unfold jX9_halfGone_6 jX9_halfGone_22
    rw [mp_is hS, mp_rd35 hS, hw_in (by omega) (by omega), cond_true, hw_aI, hw_cl (by omega), hR.1.2.1]
    rcases Nat.lt_or_ge i (zp S) with h1 | h1
    · rw [if_neg (show ¬ nI (zp S) ≤ nI i by rw [hw_le (by omega) (by omega)]; omega), mp_isr hS, hw_cI (m_isGone hS hW N (d + 5) h1 hR)]
      dsimp only
      rw [a_if0]
      have hs : i_sm (fun p => if z_gone S p ∧ kv_ix (nI p) (z_pg S 0).1 ≠ none then 1 else 0) (i + 1) = i_sm (fun p => if z_gone S p ∧ kv_ix (nI p) (z_pg S 0).1 ≠ none then 1 else 0) i + (if z_gone S i ∧ kv_ix (nI i) (z_pg S 0).1 ≠ none then 1 else 0) := rfl
      have hm := mono (zp S) (i + 1) h1
      by_cases g : z_gone S i
      · rw [if_pos g, mp_isr hS, hw_cI (m_boundOf hS (by omega) (d + 6) hB (by omega) (nI i))]
        dsimp only
        cases e : kv_ix (nI i) (z_pg S 0).1 with
        | none =>
          dsimp only
          rw [if_neg (fun w => w.2 e), Nat.add_zero] at hs
          rw [if_pos (by decide), nI_add, ih (i + 1) n h1 (by omega), hs]
          rfl
        | some j =>
          dsimp only
          rw [if_pos ⟨g, by rw [e]; exact fun w => by cases w⟩] at hs
          obtain ⟨hj1, -⟩ := kv_ix_at e
          rw [if_neg (by rw [hw_lt (by omega) (by omega)]; omega), nI_add, nI_add, ih (i + 1) (n + 1) h1 (by omega), hs]
          rw [show n + 1 + (i_sm (fun p => if z_gone S p ∧ kv_ix (nI p) (z_pg S 0).1 ≠ none then 1 else 0) (zp S) - (i_sm (fun p => if z_gone S p ∧ kv_ix (nI p) (z_pg S 0).1 ≠ none then 1 else 0) i + 1)) = n + (i_sm (fun p => if z_gone S p ∧ kv_ix (nI p) (z_pg S 0).1 ≠ none then 1 else 0) (zp S) - i_sm (fun p => if z_gone S p ∧ kv_ix (nI p) (z_pg S 0).1 ≠ none then 1 else 0) i) by omega]
      · rw [if_neg (fun w => g w.1), Nat.add_zero] at hs
        rw [if_neg g, nI_add, ih (i + 1) n h1 (by omega), hs]
        rfl
    · obtain rfl : i = zp S := by omega
      rw [if_pos (show nI (zp S) ≤ nI (zp S) by rw [hw_le (by omega) (by omega)]; omega), Nat.sub_self]
      rfl
/-- gone pages that are noted, counted by pages, and by notes -/
theorem z_glc_sm (S : zS) {n : Nat} (hn : n ≤ 1000) : ∀ l : KV, (∀ q ∈ l, ∃ p, p < n ∧ q.2 = nI p) → l.Pairwise (fun a b => a.2 ≠ b.2) → i_sm (fun p => if z_gone S p ∧ kv_ix (nI p) l ≠ none then 1 else 0) n = z_glc S l
  | [], _, _ => by
    have := i_sm_le (f := fun p => if z_gone S p ∧ kv_ix (nI p) ([] : KV) ≠ none then 1 else 0) (g := fun _ => 0) n (fun p _ => by rw [if_neg (fun w => w.2 rfl)]; exact Nat.le_refl _)
    rw [i_sm_c] at this
    have e : z_glc S [] = 0 := rfl
    rw [e]
    omega
  | z :: t, hb, hp => by
    obtain ⟨p0, h0, e0⟩ := hb z List.mem_cons_self
    obtain ⟨p1, p2⟩ := List.pairwise_cons.mp hp
    have ih := z_glc_sm S hn t (fun q hq => hb q (List.mem_cons_of_mem _ hq)) p2
    rw [z_glc_cons, ← ih]
    have ez : z.2.toNatClampNeg = p0 := by rw [e0, nI_clamp (n := p0) (by omega)]
    have no : kv_ix (nI p0) t = none := by
      cases e : kv_ix (nI p0) t with
      | none => rfl
      | some b =>
        obtain ⟨b1, b2⟩ := kv_ix_at e
        exact absurd (e0.trans b2.symm) (p1 _ (List.getElem_mem b1))
    have same : ∀ p, p < n → p ≠ p0 → ((z_gone S p ∧ kv_ix (nI p) (z :: t) ≠ none) ↔ (z_gone S p ∧ kv_ix (nI p) t ≠ none)) := fun p hp ne => by
      have : kv_ix (nI p) (z :: t) = (kv_ix (nI p) t).map (· + 1) := by
        show (if z.2 = nI p then some 0 else (kv_ix (nI p) t).map (· + 1)) = _
        rw [if_neg (fun e => ne ((nI_eq (a := p) (b := p0) (by omega) (by omega)).mp (e.symm.trans e0)))]
      rw [this]
      cases kv_ix (nI p) t with
      | none => exact Iff.rfl
      | some b => exact ⟨fun w => ⟨w.1, fun x => by cases x⟩, fun w => ⟨w.1, fun x => by cases x⟩⟩
    have u1 := i_sm_up (f := fun p => if z_gone S p ∧ kv_ix (nI p) (z :: t) ≠ none then 1 else 0) (g := fun p => if z_gone S p ∧ kv_ix (nI p) t ≠ none then 1 else 0) (k := p0) n h0 (fun p hp ne => by
      by_cases w : z_gone S p ∧ kv_ix (nI p) t ≠ none
      · rw [if_pos w, if_pos ((same p hp ne).mpr w)]
        exact Nat.le_refl _
      · rw [if_neg w, if_neg (fun x => w ((same p hp ne).mp x))]
        exact Nat.le_refl _)
    have u2 := i_sm_up (f := fun p => if z_gone S p ∧ kv_ix (nI p) t ≠ none then 1 else 0) (g := fun p => if z_gone S p ∧ kv_ix (nI p) (z :: t) ≠ none then 1 else 0) (k := p0) n h0 (fun p hp ne => by
      by_cases w : z_gone S p ∧ kv_ix (nI p) t ≠ none
      · rw [if_pos w, if_pos ((same p hp ne).mpr w)]
        exact Nat.le_refl _
      · rw [if_neg w, if_neg (fun x => w ((same p hp ne).mp x))]
        exact Nat.le_refl _)
    have e1 : (if z_gone S p0 ∧ kv_ix (nI p0) t ≠ none then 1 else 0) = 0 := if_neg (fun w => w.2 no)
    have e2 : kv_ix (nI p0) (z :: t) = some 0 := by
      show (if z.2 = nI p0 then some 0 else _) = _
      rw [if_pos e0]
    have e3 : (if z_gone S p0 ∧ kv_ix (nI p0) (z :: t) ≠ none then 1 else 0) = (if z_gone S p0 then 1 else 0) := by
      by_cases g : z_gone S p0
      · rw [if_pos g, if_pos ⟨g, by rw [e2]; exact fun x => by cases x⟩]
      · rw [if_neg g, if_neg (fun w => g w.1)]
    simp only [e1, e3] at u1 u2
    rw [ez]
    omega
theorem i_P.pw {S : zS} {rc : List Nat} {lo : Nat → Int32} (h : i_P S rc lo) : (z_pg S 0).1.Pairwise (fun a b => a.2 ≠ b.2) := by
  refine List.Pairwise.imp_of_mem ?_ h.b0so
  intro a b ha hb hab e
  obtain ⟨p, p1, p2, p3, p4⟩ := h.b0 a ha
  have := h.b0p hb p2 (e.symm.trans p3)
  rw [p4, this] at hab
  exact kv_lt_irrefl hab
theorem m_halves (hS : mSh h m) (hI : i_I S) (hN : 3000 ≤ N) (d : Nat) (hR : mR (A (m + 21)) S) (w : Int32) : mAns h m S F A (a_halves S w) (ix_run iy_P N (d + 9) 336 [ix_R (some m), ix_I w] (hw h F A)) := by
  obtain ⟨rc, lo, hI⟩ := hI
  have hW := hI.P.W
  have h32 := hW.2.2.1
  rw [rX9_halves N (d + 8)]
  unfold bX9_halves jX9_halves_12 a_halves
  obtain ⟨N, rfl⟩ : ∃ z, N = z + 1 := ⟨N - 1, by omega⟩
  obtain ⟨F1, A1, e1, q1, b1⟩ := m_fillsBounds hS hW (N := N + 1) (by omega) d hR
  have q1' : mQ mX mZ m F A F1 A1 := q1.mono rfl rfl
  by_cases w0 : w = nI 0
  · rw [if_pos w0, if_pos w0, mp_isr hS]
    obtain ⟨⟨t, ht⟩, hk, hm, hl, -⟩ := hI.R
    have er : z_rt S = rc := hI.R.rt h32
    obtain ⟨F2, A2, e2, q2⟩ := m_halfSplits_l (F := F) (A := A) hS hW hR (N := N + 1) (by omega) d rc 1 t 0 (N + 1 + 1) F1 A1 ht hk hm (by omega) q1' b1
    refine ⟨F2, A2, ?_, q2⟩
    have : ix_run iy_P (N + 1) (d + 8) 337 [ix_R (some m)] (hw h F A) = some (.inl (some (ix_I (nI (z_slc S rc)))), hw h F2 A2) := by
      rw [rX9_halfSplits (N + 1) (d + 7)]
      unfold bX9_halfSplits
      rw [mp_isr hS, hw_cV e1, ← lX9_halfSplits_6, e2, Nat.zero_add]
    rw [hw_cI this, er]
  · rw [if_neg w0, if_neg w0]
    by_cases w1 : w = nI 1
    · rw [if_pos w1, if_pos w1, mp_isr hS]
      refine ⟨F1, A1, ?_, q1'⟩
      have e2 := m_halfGone_l hS hW (mAns.R hR q1') b1 (N := N + 1) (by omega) d (N + 1 + 1) 0 0 (Nat.zero_le _) (by omega)
      have e3 := z_glc_sm S (n := zp S) (by omega) (z_pg S 0).1 (fun q hq => by
        obtain ⟨p, p1, p2, p3, p4⟩ := hI.P.b0 q hq
        exact ⟨p, p2, p3⟩) hI.P.pw
      have : ix_run iy_P (N + 1) (d + 8) 338 [ix_R (some m)] (hw h F A) = some (.inl (some (ix_I (nI (z_glc S (z_pg S 0).1)))), hw h F1 A1) := by
        rw [rX9_halfGone (N + 1) (d + 7)]
        unfold bX9_halfGone
        rw [mp_isr hS, hw_cV e1, ← lX9_halfGone_6, e2, e3, Nat.zero_add]
        rfl
      rw [hw_cI this]
    · rw [if_neg w1, if_neg w1]
      exact ⟨F, A, rfl, mQ.refl _ _ _ _ _⟩
end
