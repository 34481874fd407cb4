/-! M4: the reference: what is written, and what it means -/
set_option maxRecDepth 100000
theorem mR_sh {nw : Nat → Int32} {S : zS} (h : mR nw S) {k f : Nat} (hk : k < 4) (hf : f < 14) (h3 : f ≠ 3) (hn : zn S ≤ 1400) (hp : zp S ≤ 32) (v : Int32) : mR (hw_U nw (42 + 14 * k + f) v) (z_sh S k f v) := by
  obtain ⟨⟨a0, a1, a2, a3, a5, a6, a7, a8⟩, b, c, e, g⟩ := h
  have n0 : ∀ j, j < 42 → hw_U nw (42 + 14 * k + f) v j = nw j := fun j hj => by rw [hw_U_at, if_neg (by omega)]
  have n1 : ∀ j, 98 ≤ j → hw_U nw (42 + 14 * k + f) v j = nw j := fun j hj => by rw [hw_U_at, if_neg (by omega)]
  have z3 : ∀ q, zh (z_sh S k f v) q 3 = zh S q 3 := fun q => by
    show ix_up2 S.2.2.1 k f v q 3 = _
    rw [hw_up, if_neg (by omega)]
    rfl
  refine ⟨⟨by rw [n0 _ (by omega)]; exact a0, by rw [n0 _ (by omega)]; exact a1, by rw [n0 _ (by omega)]; exact a2, by rw [n0 _ (by omega), z3, z3, z3, z3]; exact a3, by rw [n0 _ (by omega)]; exact a5, by rw [n0 _ (by omega)]; exact a6, by rw [n0 _ (by omega)]; exact a7, by rw [n0 _ (by omega)]; exact a8⟩, fun p hp' => ?_, fun q i hq hi => ?_, fun r i hr hi => ?_, fun r hr => ?_⟩
  · have hp2 : p < zp S := hp'
    rw [n0 _ (by omega)]; exact b p hp'
  · show _ = ix_up2 S.2.2.1 k f v q i
    rw [hw_U_at, hw_up]
    by_cases w : q = k ∧ i = f
    · rw [if_pos w, if_pos (by omega)]
    · rw [if_neg w, if_neg (by omega)]
      exact c q i hq hi
  · rw [n1 _ (by omega)]; exact e r i hr hi
  · refine kv_in_cong (g r hr) (fun i _ => ?_) (fun i _ => ?_)
    · rw [n1 _ (by omega)]
    · rw [n1 _ (by omega)]
theorem mR_lose {nw : Nat → Int32} {S : zS} (h : mR nw S) {k : Nat} (hk : k < 4) (hn : zn S ≤ 1400) (hp : zp S ≤ 32) : mR (hw_U (hw_U nw (42 + 14 * k + 3) (zh S k 3 + nI 1)) 3 (nw 3 + nI 1)) (z_lose S k) := by
  obtain ⟨⟨a0, a1, a2, a3, a5, a6, a7, a8⟩, b, c, e, g⟩ := h
  have n0 : ∀ j, j < 42 → j ≠ 3 → hw_U (hw_U nw (42 + 14 * k + 3) (zh S k 3 + nI 1)) 3 (nw 3 + nI 1) j = nw j := fun j hj h3 => by rw [hw_U_at, if_neg h3, hw_U_at, if_neg (by omega)]
  have n1 : ∀ j, 98 ≤ j → hw_U (hw_U nw (42 + 14 * k + 3) (zh S k 3 + nI 1)) 3 (nw 3 + nI 1) j = nw j := fun j hj => by rw [hw_U_at, if_neg (by omega), hw_U_at, if_neg (by omega)]
  refine ⟨⟨by rw [n0 _ (by omega) (by omega)]; exact a0, by rw [n0 _ (by omega) (by omega)]; exact a1, by rw [n0 _ (by omega) (by omega)]; exact a2, ?_, by rw [n0 _ (by omega) (by omega)]; exact a5, by rw [n0 _ (by omega) (by omega)]; exact a6, by rw [n0 _ (by omega) (by omega)]; exact a7, by rw [n0 _ (by omega) (by omega)]; exact a8⟩, fun p hp' => ?_, fun q i hq hi => ?_, fun r i hr hi => ?_, fun r hr => ?_⟩
  · rw [hw_U_at, if_pos rfl, a3]
    show _ = ix_up2 S.2.2.1 k 3 (zh S k 3 + nI 1) 0 3 + ix_up2 S.2.2.1 k 3 (zh S k 3 + nI 1) 1 3 + ix_up2 S.2.2.1 k 3 (zh S k 3 + nI 1) 2 3 + ix_up2 S.2.2.1 k 3 (zh S k 3 + nI 1) 3 3
    have hz : ∀ q, S.2.2.1 q 3 = zh S q 3 := fun _ => rfl
    simp only [hw_up, hz]
    match k, hk with
    | 0, _ => simp; ac_rfl
    | 1, _ => simp; ac_rfl
    | 2, _ => simp; ac_rfl
    | 3, _ => simp; ac_rfl
  · have hp2 : p < zp S := hp'
    rw [n0 _ (by omega) (by omega)]; exact b p hp'
  · show _ = ix_up2 S.2.2.1 k 3 _ q i
    rw [hw_U_at, if_neg (by omega), hw_U_at, hw_up]
    by_cases w : q = k ∧ i = 3
    · rw [if_pos w, if_pos (by omega)]
    · rw [if_neg w, if_neg (by omega)]
      exact c q i hq hi
  · rw [n1 _ (by omega)]; exact e r i hr hi
  · refine kv_in_cong (g r hr) (fun i _ => ?_) (fun i _ => ?_)
    · rw [n1 _ (by omega)]
    · rw [n1 _ (by omega)]
theorem mR_st {nw : Nat → Int32} {S : zS} (h : mR nw S) {p : Nat} (hp : p < 32) (hn : zn S ≤ 1400) (hp2 : zp S ≤ 32) (r : Nat) : mR (hw_U nw (10 + p) (nI r)) (z_st S p r) := by
  obtain ⟨⟨a0, a1, a2, a3, a5, a6, a7, a8⟩, b, c, e, g⟩ := h
  have n0 : ∀ j, j < 10 → hw_U nw (10 + p) (nI r) j = nw j := fun j hj => by rw [hw_U_at, if_neg (by omega)]
  have n1 : ∀ j, 42 ≤ j → hw_U nw (10 + p) (nI r) j = nw j := fun j hj => by rw [hw_U_at, if_neg (by omega)]
  refine ⟨⟨by rw [n0 _ (by omega)]; exact a0, by rw [n0 _ (by omega)]; exact a1, by rw [n0 _ (by omega)]; exact a2, by rw [n0 _ (by omega)]; exact a3, by rw [n0 _ (by omega)]; exact a5, by rw [n0 _ (by omega)]; exact a6, by rw [n0 _ (by omega)]; exact a7, by rw [n0 _ (by omega)]; exact a8⟩, fun q hq => ?_, fun q i hq hi => ?_, fun r i hr hi => ?_, fun r hr => ?_⟩
  · show _ = nI (ix_up S.2.1 p r q)
    unfold ix_up
    rw [hw_U_at]
    by_cases w : q = p
    · rw [if_pos w, if_pos (by omega)]
    · rw [if_neg w, if_neg (by omega)]
      exact b q hq
  · rw [n1 _ (by omega)]; exact c q i hq hi
  · rw [n1 _ (by omega)]; exact e r i hr hi
  · refine kv_in_cong (g r hr) (fun i _ => ?_) (fun i _ => ?_)
    · rw [n1 _ (by omega)]
    · rw [n1 _ (by omega)]
theorem mR_pp {nw : Nat → Int32} {S : zS} (h : mR nw S) (hn : zn S ≤ 1400) {r : Nat} (ht : nw (10 + zp S) = nI r) (ht2 : zt S (zp S) = r) : mR (hw_U nw 1 (nI (zp S + 1))) (z_pp S) := by
  obtain ⟨⟨a0, a1, a2, a3, a5, a6, a7, a8⟩, b, c, e, g⟩ := h
  have n0 : ∀ j, j ≠ 1 → hw_U nw 1 (nI (zp S + 1)) j = nw j := fun j hj => by rw [hw_U_at, if_neg hj]
  refine ⟨⟨by rw [n0 _ (by omega)]; exact a0, by rw [hw_U_at, if_pos rfl]; rfl, by rw [n0 _ (by omega)]; exact a2, by rw [n0 _ (by omega)]; exact a3, by rw [n0 _ (by omega)]; exact a5, by rw [n0 _ (by omega)]; exact a6, by rw [n0 _ (by omega)]; exact a7, by rw [n0 _ (by omega)]; exact a8⟩, fun q hq => ?_, fun q i hq hi => ?_, fun r i hr hi => ?_, fun r hr => ?_⟩
  · have hq2 : q < zp S + 1 := hq
    rw [n0 _ (by omega)]
    show _ = nI (zt S q)
    by_cases w : q = zp S
    · rw [w, ht, ht2]
    · exact b q (by omega)
  · rw [n0 _ (by omega)]; exact c q i hq hi
  · rw [n0 _ (by omega)]; exact e r i hr hi
  · refine kv_in_cong (g r hr) (fun i _ => ?_) (fun i _ => ?_)
    · rw [n0 _ (by omega)]
    · rw [n0 _ (by omega)]
/-- a record goes out of use -/
theorem mR_mk {nw : Nat → Int32} {S : zS} (h : mR nw S) {r : Nat} (hr : r < 1400) (hn : zn S ≤ 1400) (hp2 : zp S ≤ 32) : mR (hw_U nw (100 + 10 * r + 4) (nw 2)) (z_mk S [r]) := by
  obtain ⟨⟨a0, a1, a2, a3, a5, a6, a7, a8⟩, b, c, e, g⟩ := h
  have n0 : ∀ j, j < 100 → hw_U nw (100 + 10 * r + 4) (nw 2) j = nw j := fun j hj => by rw [hw_U_at, if_neg (by omega)]
  have n1 : ∀ j, 14100 ≤ j → hw_U nw (100 + 10 * r + 4) (nw 2) j = nw j := fun j hj => by rw [hw_U_at, if_neg (by omega)]
  refine ⟨⟨by rw [n0 _ (by omega)]; exact a0, by rw [n0 _ (by omega)]; exact a1, by rw [n0 _ (by omega)]; exact a2, by rw [n0 _ (by omega)]; exact a3, by rw [n0 _ (by omega)]; exact a5, by rw [n0 _ (by omega)]; exact a6, by rw [n0 _ (by omega)]; exact a7, by rw [n0 _ (by omega)]; exact a8⟩, fun q hq => ?_, fun q i hq hi => ?_, fun q i hr hi => ?_, fun r hr => ?_⟩
  · have hq2 : q < zp S := hq
    rw [n0 _ (by omega)]; exact b q hq
  · rw [n0 _ (by omega)]; exact c q i hq hi
  · show _ = if i = 4 ∧ q ∈ [r] then nI (ze S) else S.1.1 q i
    rw [hw_U_at]
    by_cases w : i = 4 ∧ q ∈ [r]
    · rw [if_pos w, if_pos (by have := List.mem_singleton.mp w.2; omega)]
      exact a2
    · rw [if_neg w, if_neg (by
        intro w2
        have h1 : i = 4 := by omega
        have h2 : q = r := by omega
        exact w ⟨h1, by rw [h2]; exact List.mem_singleton.mpr rfl⟩)]
      exact e q i hr hi
  · refine kv_in_cong (g r hr) (fun i _ => ?_) (fun i _ => ?_)
    · rw [n1 _ (by omega)]
    · rw [n1 _ (by omega)]
theorem z_mk_mk (S : zS) (a b : List Nat) : z_mk (z_mk S a) b = z_mk S (a ++ b) := by
  unfold z_mk
  congr 2
  funext r f
  dsimp only
  have : ze (z_mk S a) = ze S := rfl
  unfold z_mk at this
  rw [this]
  by_cases h1 : f = 4 ∧ r ∈ b
  · rw [if_pos h1, if_pos ⟨h1.1, List.mem_append_right _ h1.2⟩]
  · rw [if_neg h1]
    by_cases h2 : f = 4 ∧ r ∈ a
    · rw [if_pos h2, if_pos ⟨h2.1, List.mem_append_left _ h2.2⟩]
    · rw [if_neg h2, if_neg (fun w => (List.mem_append.mp w.2).elim (fun x => h2 ⟨w.1, x⟩) (fun x => h1 ⟨w.1, x⟩))]
/-- a new record's ten fields, and their number -/
def m_rec (nw : Nat → Int32) (n : Nat) (f : Nat → Int32) : Nat → Int32 := fun j => if j = 0 then nI (n + 1) else if 100 + 10 * n ≤ j ∧ j < 110 + 10 * n then f (j - (100 + 10 * n)) else nw j
theorem mR_nw {nw : Nat → Int32} {S : zS} (h : mR nw S) (f : Nat → Int32) (l : KV) (hn : zn S < 1400) (hp2 : zp S ≤ 32) (hl : l = []) : mR (m_rec nw (zn S) f) (z_nw S f l) := by
  obtain ⟨⟨a0, a1, a2, a3, a5, a6, a7, a8⟩, b, c, e, g⟩ := h
  subst hl
  have n0 : ∀ j, 0 < j → ¬ (100 + 10 * zn S ≤ j ∧ j < 110 + 10 * zn S) → m_rec nw (zn S) f j = nw j := fun j hj h => by unfold m_rec; rw [if_neg (by omega), if_neg h]
  refine ⟨⟨by unfold m_rec; rw [if_pos rfl]; rfl, by rw [n0 _ (by omega) (by omega)]; exact a1, by rw [n0 _ (by omega) (by omega)]; exact a2, by rw [n0 _ (by omega) (by omega)]; exact a3, by rw [n0 _ (by omega) (by omega)]; exact a5, by rw [n0 _ (by omega) (by omega)]; exact a6, by rw [n0 _ (by omega) (by omega)]; exact a7, by rw [n0 _ (by omega) (by omega)]; exact a8⟩, fun q hq => ?_, fun q i hq hi => ?_, fun q i hr hi => ?_, fun r hr => ?_⟩
  · have hq2 : q < zp S := hq
    rw [n0 _ (by omega) (by omega)]; exact b q hq
  · rw [n0 _ (by omega) (by omega)]; exact c q i hq hi
  · have hr2 : q < zn S + 1 := hr
    show _ = hw_R S.1.1 (zn S) f q i
    by_cases w : q = zn S
    · rw [w, hw_R_same]
      unfold m_rec
      rw [if_neg (by omega), if_pos (by omega)]
      congr 1
      omega
    · rw [hw_R_ne _ _ w, n0 _ (by omega) (by omega)]
      exact e q i (by omega) hi
  · have hr2 : r < zn S + 1 := hr
    show kv_in _ _ (ix_up S.1.2 (zn S) [] r)
    unfold ix_up
    by_cases w : r = zn S
    · rw [if_pos w]
      exact kv_in_nil _ _
    · rw [if_neg w]
      refine kv_in_cong (g r (by omega)) (fun i _ => ?_) (fun i _ => ?_)
      · rw [n0 _ (by omega) (by omega)]
      · rw [n0 _ (by omega) (by omega)]
/-- a new base with some of its items -/
def z_nb (S : zS) (hi ri : Int32) (l : KV) : zS := z_nw S (z_base (l, hi, ri)) l
theorem mR_nb {nw : Nat → Int32} {S : zS} {hi ri k v : Int32} {l : KV} (h : mR nw (z_nb S hi ri l)) (hn : zn S < 1400) (hp2 : zp S ≤ 32) (hl : l.length < 44) (hz : ∀ r, r < zn S → (zi S r).length ≤ 44) :
    mR (hw_U (hw_U (hw_U nw (14100 + 88 * zn S + 2 * l.length) k) (14100 + 88 * zn S + 2 * l.length + 1) v) (100 + 10 * zn S + 6) (nI (l.length + 1))) (z_nb S hi ri (l ++ [(k, v)])) := by
  obtain ⟨⟨a0, a1, a2, a3, a5, a6, a7, a8⟩, b, c, e, g⟩ := h
  have n0 : ∀ j, j < 14100 → j ≠ 100 + 10 * zn S + 6 → hw_U (hw_U (hw_U nw (14100 + 88 * zn S + 2 * l.length) k) (14100 + 88 * zn S + 2 * l.length + 1) v) (100 + 10 * zn S + 6) (nI (l.length + 1)) j = nw j := fun j hj h => by rw [hw_U_at, if_neg h, hw_U_at, if_neg (by omega), hw_U_at, if_neg (by omega)]
  refine ⟨⟨by rw [n0 _ (by omega) (by omega)]; exact a0, by rw [n0 _ (by omega) (by omega)]; exact a1, by rw [n0 _ (by omega) (by omega)]; exact a2, by rw [n0 _ (by omega) (by omega)]; exact a3, by rw [n0 _ (by omega) (by omega)]; exact a5, by rw [n0 _ (by omega) (by omega)]; exact a6, by rw [n0 _ (by omega) (by omega)]; exact a7, by rw [n0 _ (by omega) (by omega)]; exact a8⟩, fun q hq => ?_, fun q i hq hi => ?_, fun q i hr hi' => ?_, fun r hr => ?_⟩
  · have hq2 : q < zp S := hq
    rw [n0 _ (by omega) (by omega)]; exact b q hq
  · rw [n0 _ (by omega) (by omega)]; exact c q i hq hi
  · have hr2 : q < zn S + 1 := hr
    have h1 := e q i hr hi'
    change nw (100 + 10 * q + i) = hw_R S.1.1 (zn S) _ q i at h1
    show _ = hw_R S.1.1 (zn S) _ q i
    by_cases w : q = zn S
    · rw [w, hw_R_same] at h1 ⊢
      by_cases w6 : i = 6
      · subst w6
        rw [hw_U_at, if_pos rfl]
        show _ = nI (l ++ [(k, v)]).length
        rw [List.length_append, List.length_singleton]
      · rw [n0 _ (by omega) (by omega), h1]
        match i, hi', w6 with
        | 0, _, _ => rfl
        | 1, _, _ => rfl
        | 2, _, _ => rfl
        | 3, _, _ => rfl
        | 4, _, _ => rfl
        | 5, _, _ => rfl
        | 7, _, _ => rfl
        | 8, _, _ => rfl
        | 9, _, _ => rfl
    · rw [hw_R_ne _ _ w] at h1 ⊢
      rw [n0 _ (by omega) (by omega)]
      exact h1
  · have hr2 : r < zn S + 1 := hr
    have h1 := g r hr
    change kv_in _ _ (ix_up S.1.2 (zn S) l r) at h1
    show kv_in _ _ (ix_up S.1.2 (zn S) (l ++ [(k, v)]) r)
    unfold ix_up at h1 ⊢
    by_cases w : r = zn S
    · rw [if_pos w] at h1 ⊢
      subst w
      intro i hi
      rw [List.length_append, List.length_singleton] at hi
      dsimp only
      have m1 : ∀ j, 14100 ≤ j → j ≠ 14100 + 88 * zn S + 2 * l.length → j ≠ 14100 + 88 * zn S + 2 * l.length + 1 → hw_U (hw_U (hw_U nw (14100 + 88 * zn S + 2 * l.length) k) (14100 + 88 * zn S + 2 * l.length + 1) v) (100 + 10 * zn S + 6) (nI (l.length + 1)) j = nw j := fun j hj h1 h2 => by rw [hw_U_at, if_neg (by omega), hw_U_at, if_neg h2, hw_U_at, if_neg h1]
      by_cases w2 : i = l.length
      · subst w2
        rw [hw_U_at, if_neg (by omega), hw_U_at, if_neg (by omega), hw_U_at, if_pos rfl, hw_U_at, if_neg (by omega), hw_U_at, if_pos rfl]
        simp
      · have hlt : i < l.length := by omega
        rw [m1 _ (by omega) (by omega) (by omega), m1 _ (by omega) (by omega) (by omega), List.getElem_append_left hlt]
        exact h1 i hlt
    · rw [if_neg w] at h1 ⊢
      intro i hi
      have m1 : ∀ j, 14100 ≤ j → j ≠ 14100 + 88 * zn S + 2 * l.length → j ≠ 14100 + 88 * zn S + 2 * l.length + 1 → hw_U (hw_U (hw_U nw (14100 + 88 * zn S + 2 * l.length) k) (14100 + 88 * zn S + 2 * l.length + 1) v) (100 + 10 * zn S + 6) (nI (l.length + 1)) j = nw j := fun j hj h1 h2 => by rw [hw_U_at, if_neg (by omega), hw_U_at, if_neg h2, hw_U_at, if_neg h1]
      have hlr : (S.1.2 r).length ≤ 44 := hz r (by omega)
      dsimp only
      rw [m1 _ (by omega) (by omega) (by omega), m1 _ (by omega) (by omega) (by omega)]
      exact h1 i hi
/-! the small methods, exactly -/
theorem m_stands {h : ix_H} {m : Nat} (hS : mSh h m) (F A : Nat → Nat → Int32) (N d : Nat) {a : Nat} (ha : a < 98) (v : Int32) : ix_run iy_P N (d + 1) 285 [ix_R (some m), ix_I (nI a), ix_I v] (hw h F A) = some (.inl none, hw h F (hw_R A (m + 21) (hw_U (A (m + 21)) (a + 1) v))) := by
  rw [rX9_stands N d]
  unfold bX9_stands
  simp (disch := omega) only [↓reduceIte, ↓hw_bdF, ↓hw_bdA, ↓hw_cbd, Option.bind_some, hw_bd, cond_true, cond_false, hw_fR, hw_fI, hw_aI, hw_aR, hw_is, hw_isr, hw_at, hw_atr, hw_of, hw_hw, hw_sz, hw_wfR, hw_waR, hw_rI, hw_rV, hw_rR, nI_add, hw_in, hw_cl, hw_R_same, hw_R_R, hw_U_same, hw_U_ne, hw_okn1_0, hw_okn1_1, hS]
theorem m_goOn {h : ix_H} {m : Nat} (hS : mSh h m) (F A : Nat → Nat → Int32) (N d : Nat) {a : Nat} (ha : a < 98) : ix_run iy_P N (d + 1) 300 [ix_R (some m), ix_I (nI a)] (hw h F A) = some (.inl none, hw h F (hw_R A (m + 21) (hw_U (A (m + 21)) (a + 1) (if A (m + 21) (a + 9) = nI 1 then nI 0 else nI 1)))) := by
  rw [rX9_goOn N d]
  unfold bX9_goOn jX9_goOn_16
  simp (disch := omega) only [↓reduceIte, ↓hw_bdF, ↓hw_bdA, ↓hw_cbd, Option.bind_some, hw_bd, cond_true, cond_false, hw_fR, hw_fI, hw_aI, hw_aR, hw_is, hw_isr, hw_at, hw_atr, hw_of, hw_hw, hw_sz, hw_wfR, hw_waR, hw_rI, hw_rV, hw_rR, nI_add, hw_in, hw_cl, hw_R_same, hw_R_R, hw_U_same, hw_U_ne, hw_okn1_0, hw_okn1_1, hS]
  split <;> simp (disch := omega) only [↓reduceIte, ↓hw_bdF, ↓hw_bdA, ↓hw_cbd, Option.bind_some, hw_bd, cond_true, cond_false, hw_fR, hw_fI, hw_aI, hw_aR, hw_is, hw_isr, hw_at, hw_atr, hw_of, hw_hw, hw_sz, hw_wfR, hw_waR, hw_rI, hw_rV, hw_rR, nI_add, hw_in, hw_cl, hw_R_same, hw_R_R, hw_U_same, hw_U_ne, hw_okn1_0, hw_okn1_1, hS]
theorem m_rests {h : ix_H} {m : Nat} (hS : mSh h m) (F A : Nat → Nat → Int32) (N d : Nat) {a : Nat} (ha : a < 98) (v : Int32) : ix_run iy_P N (d + 1) 291 [ix_R (some m), ix_I (nI a), ix_I v] (hw h F A) = some (.inl none, hw h F (hw_R A (m + 21) (hw_U (hw_U (hw_U (A (m + 21)) (a + 8) v) (a + 9) (nI 1)) (a + 1) (nI 0)))) := by
  rw [rX9_rests N d]
  unfold bX9_rests
  simp (disch := omega) only [↓reduceIte, ↓hw_bdF, ↓hw_bdA, ↓hw_cbd, Option.bind_some, hw_bd, cond_true, cond_false, hw_fR, hw_fI, hw_aI, hw_aR, hw_is, hw_isr, hw_at, hw_atr, hw_of, hw_hw, hw_sz, hw_wfR, hw_waR, hw_rI, hw_rV, hw_rR, nI_add, hw_in, hw_cl, hw_R_same, hw_R_R, hw_U_same, hw_U_ne, hw_okn1_0, hw_okn1_1, hS, hw_R_R]
theorem m_laysTop {h : ix_H} {m : Nat} (hS : mSh h m) (F A : Nat → Nat → Int32) (N d : Nat) {p : Nat} (hp : p < 32) (v : Int32) : ix_run iy_P N (d + 1) 297 [ix_R (some m), ix_I (nI p), ix_I v] (hw h F A) = some (.inl none, hw h F (hw_R A (m + 21) (hw_U (A (m + 21)) (10 + p) v))) := by
  rw [rX9_laysTop N d]
  unfold bX9_laysTop
  simp (disch := omega) only [↓reduceIte, ↓hw_bdF, ↓hw_bdA, ↓hw_cbd, Option.bind_some, hw_bd, cond_true, cond_false, hw_fR, hw_fI, hw_aI, hw_aR, hw_is, hw_isr, hw_at, hw_atr, hw_of, hw_hw, hw_sz, hw_wfR, hw_waR, hw_rI, hw_rV, hw_rR, nI_add, hw_in, hw_cl, hw_R_same, hw_R_R, hw_U_same, hw_U_ne, hw_okn1_0, hw_okn1_1, hS]
theorem m_notes {h : ix_H} {m : Nat} (hS : mSh h m) (F A : Nat → Nat → Int32) (N d : Nat) {a : Nat} (ha : a < 98) (v w : Int32) : ix_run iy_P N (d + 2) 290 [ix_R (some m), ix_I (nI a), ix_I v, ix_I w] (hw h F A) = some (.inl none, hw h F (hw_R A (m + 21) (hw_U (hw_U (hw_U (A (m + 21)) (a + 12) v) (a + 13) w) (a + 1) (nI 7)))) := by
  rw [rX9_notes N (d + 1)]
  unfold bX9_notes
  simp (disch := omega) only [↓reduceIte, ↓hw_bdF, ↓hw_bdA, ↓hw_cbd, Option.bind_some, hw_bd, cond_true, cond_false, hw_fR, hw_fI, hw_aI, hw_aR, hw_is, hw_isr, hw_at, hw_atr, hw_of, hw_hw, hw_sz, hw_wfR, hw_waR, hw_rI, hw_rV, hw_rR, nI_add, hw_in, hw_cl, hw_R_same, hw_R_R, hw_U_same, hw_U_ne, hw_okn1_0, hw_okn1_1, hS, hw_R_R, m_stands hS]
theorem m_leaves {h : ix_H} {m : Nat} (hS : mSh h m) (F A : Nat → Nat → Int32) (N d : Nat) {a : Nat} (ha : a < 98) (v : Int32) : ix_run iy_P N (d + 2) 288 [ix_R (some m), ix_I (nI a), ix_I v] (hw h F A) = some (.inl none, hw h F (hw_R A (m + 21) (hw_U (hw_U (A (m + 21)) (a + 11) v) (a + 1) (nI 10)))) := by
  rw [rX9_leaves N (d + 1)]
  unfold bX9_leaves
  simp (disch := omega) only [↓reduceIte, ↓hw_bdF, ↓hw_bdA, ↓hw_cbd, Option.bind_some, hw_bd, cond_true, cond_false, hw_fR, hw_fI, hw_aI, hw_aR, hw_is, hw_isr, hw_at, hw_atr, hw_of, hw_hw, hw_sz, hw_wfR, hw_waR, hw_rI, hw_rV, hw_rR, nI_add, hw_in, hw_cl, hw_R_same, hw_R_R, hw_U_same, hw_U_ne, hw_okn1_0, hw_okn1_1, hS, hw_R_R, m_stands hS]
theorem m_loses {h : ix_H} {m : Nat} (hS : mSh h m) (F A : Nat → Nat → Int32) (N d : Nat) {a : Nat} (ha : 42 ≤ a) (ha2 : a < 98) : ix_run iy_P N (d + 1) 296 [ix_R (some m), ix_I (nI a)] (hw h F A) = some (.inl none, hw h F (hw_R A (m + 21) (hw_U (hw_U (A (m + 21)) (a + 3) (A (m + 21) (a + 3) + nI 1)) 3 (A (m + 21) 3 + nI 1)))) := by
  rw [rX9_loses N d]
  unfold bX9_loses
  simp (disch := omega) only [↓reduceIte, ↓hw_bdF, ↓hw_bdA, ↓hw_cbd, Option.bind_some, hw_bd, cond_true, cond_false, hw_fR, hw_fI, hw_aI, hw_aR, hw_is, hw_isr, hw_at, hw_atr, hw_of, hw_hw, hw_sz, hw_wfR, hw_waR, hw_rI, hw_rV, hw_rR, nI_add, hw_in, hw_cl, hw_R_same, hw_R_R, hw_U_same, hw_U_ne, hw_okn1_0, hw_okn1_1, hS]
theorem m_sees {h : ix_H} {m : Nat} (hS : mSh h m) (F A : Nat → Nat → Int32) (N d : Nat) {a p : Nat} (ha : a < 98) (hp : p < 32) (v : Int32) : ix_run iy_P N (d + 2) 293 [ix_R (some m), ix_I (nI a), ix_I (nI p), ix_I v] (hw h F A) = some (.inl none, hw h F (hw_R A (m + 21) (hw_U (hw_U (A (m + 21)) (a + 10) (A (m + 21) (10 + p))) (a + 1) v))) := by
  rw [rX9_sees N (d + 1)]
  unfold bX9_sees
  simp (disch := omega) only [↓reduceIte, ↓hw_bdF, ↓hw_bdA, ↓hw_cbd, Option.bind_some, hw_bd, cond_true, cond_false, hw_fR, hw_fI, hw_aI, hw_aR, hw_is, hw_isr, hw_at, hw_atr, hw_of, hw_hw, hw_sz, hw_wfR, hw_waR, hw_rI, hw_rV, hw_rR, nI_add, hw_in, hw_cl, hw_R_same, hw_R_R, hw_U_same, hw_U_ne, hw_okn1_0, hw_okn1_1, hS, hw_R_R, m_stands hS, m_topOf hS]
theorem m_isSeen {h : ix_H} {m : Nat} (hS : mSh h m) (F A : Nat → Nat → Int32) (N d : Nat) {a p : Nat} (ha : a < 98) (hp : p < 32) : ix_run iy_P N (d + 2) 295 [ix_R (some m), ix_I (nI a), ix_I (nI p)] (hw h F A) = some (.inl (some (ix_I (if A (m + 21) (10 + p) = A (m + 21) (a + 10) then nI 1 else nI 0))), hw h F A) := by
  rw [rX9_isSeen N (d + 1)]
  unfold bX9_isSeen jX9_isSeen_13
  simp (disch := omega) only [↓reduceIte, ↓hw_bdF, ↓hw_bdA, ↓hw_cbd, Option.bind_some, hw_bd, cond_true, cond_false, hw_fR, hw_fI, hw_aI, hw_aR, hw_is, hw_isr, hw_at, hw_atr, hw_of, hw_hw, hw_sz, hw_wfR, hw_waR, hw_rI, hw_rV, hw_rR, nI_add, hw_in, hw_cl, hw_R_same, hw_R_R, hw_U_same, hw_U_ne, hw_okn1_0, hw_okn1_1, hS, m_topOf hS]
  by_cases hc : A (m + 21) (10 + p) = A (m + 21) (a + 10)
  · simp only [↓reduceIte, ↓hw_bdF, ↓hw_bdA, ↓hw_cbd, Option.bind_some, hw_bd, cond_true, cond_false, hw_fR, hw_fI, hw_aI, hw_aR, hw_is, hw_isr, hw_at, hw_atr, hw_of, hw_hw, hw_sz, hw_wfR, hw_waR, hw_rI, hw_rV, hw_rR, nI_add, hw_in, hw_cl, hw_R_same, hw_R_R, hw_U_same, hw_U_ne, hw_okn1_0, hw_okn1_1, hc, if_true]
  · simp only [↓reduceIte, ↓hw_bdF, ↓hw_bdA, ↓hw_cbd, Option.bind_some, hw_bd, cond_true, cond_false, hw_fR, hw_fI, hw_aI, hw_aR, hw_is, hw_isr, hw_at, hw_atr, hw_of, hw_hw, hw_sz, hw_wfR, hw_waR, hw_rI, hw_rV, hw_rR, nI_add, hw_in, hw_cl, hw_R_same, hw_R_R, hw_U_same, hw_U_ne, hw_okn1_0, hw_okn1_1, hc, if_false]
theorem m_record0 (h : ix_H) (N d r : Nat) : ix_run iy_P N (d + 1) 237 [ix_I (nI r)] h = some (.inl (some (ix_I (nI (100 + 10 * r)))), h) := by
  rw [rX9_record0 N d]
  unfold bX9_record0
  simp (disch := omega) only [↓reduceIte, ↓hw_bdF, ↓hw_bdA, ↓hw_cbd, Option.bind_some, hw_bd, cond_true, cond_false, hw_fR, hw_fI, hw_aI, hw_aR, hw_is, hw_isr, hw_at, hw_atr, hw_of, hw_hw, hw_sz, hw_wfR, hw_waR, hw_rI, hw_rV, hw_rR, nI_add, hw_in, hw_cl, hw_R_same, hw_R_R, hw_U_same, hw_U_ne, hw_okn1_0, hw_okn1_1, hw_mul]
theorem m_hand0 (h : ix_H) (N d r : Nat) : ix_run iy_P N (d + 1) 234 [ix_I (nI r)] h = some (.inl (some (ix_I (nI (42 + 14 * r)))), h) := by
  rw [rX9_hand0 N d]
  unfold bX9_hand0
  simp (disch := omega) only [↓reduceIte, ↓hw_bdF, ↓hw_bdA, ↓hw_cbd, Option.bind_some, hw_bd, cond_true, cond_false, hw_fR, hw_fI, hw_aI, hw_aR, hw_is, hw_isr, hw_at, hw_atr, hw_of, hw_hw, hw_sz, hw_wfR, hw_waR, hw_rI, hw_rV, hw_rR, nI_add, hw_in, hw_cl, hw_R_same, hw_R_R, hw_U_same, hw_U_ne, hw_okn1_0, hw_okn1_1, hw_mul]
theorem m_retires {h : ix_H} {m : Nat} (hS : mSh h m) (F A : Nat → Nat → Int32) (N d : Nat) {r : Nat} (hr : r < 1400) : ix_run iy_P N (d + 2) 302 [ix_R (some m), ix_I (nI r)] (hw h F A) = some (.inl none, hw h F (hw_R A (m + 21) (hw_U (A (m + 21)) (100 + 10 * r + 4) (A (m + 21) 2)))) := by
  rw [rX9_retires N (d + 1)]
  unfold bX9_retires
  simp (disch := omega) only [↓reduceIte, ↓hw_bdF, ↓hw_bdA, ↓hw_cbd, Option.bind_some, hw_bd, cond_true, cond_false, hw_fR, hw_fI, hw_aI, hw_aR, hw_is, hw_isr, hw_at, hw_atr, hw_of, hw_hw, hw_sz, hw_wfR, hw_waR, hw_rI, hw_rV, hw_rR, nI_add, hw_in, hw_cl, hw_R_same, hw_R_R, hw_U_same, hw_U_ne, hw_okn1_0, hw_okn1_1, hS, m_record0]
theorem m_newRecord {h : ix_H} {m : Nat} (hS : mSh h m) (F A : Nat → Nat → Int32) (N d : Nat) {n : Nat} (hn : n < 1400) (h0 : A (m + 21) 0 = nI n) (a b c e : Int32) : ix_run iy_P N (d + 2) 236 [ix_R (some m), ix_I a, ix_I b, ix_I c, ix_I e] (hw h F A) = some (.inl (some (ix_I (nI n))), hw h F (hw_R A (m + 21) (m_rec (A (m + 21)) n (z_f a b c e (nI 0) (nI 0) (-2) (-2))))) := by
  rw [rX9_newRecord N (d + 1)]
  unfold bX9_newRecord
  simp (disch := omega) only [↓mp_is hS, ↓mp_isr hS, ↓mp_rd35 hS, ↓mp_wr35 hS, ↓mp_rd36 hS, ↓mp_wr36 hS, ↓mp_rd38 hS, ↓mp_wr38 hS, ↓mp_rd39 hS, ↓mp_wr39 hS, ↓mp_rd43 hS, ↓mp_wr43 hS, ↓mp_rd44 hS, ↓mp_wr44 hS, ↓mp_rd46 hS, ↓mp_wr46 hS, ↓mp_rd47 hS, ↓mp_wr47 hS, ↓reduceIte, ↓hw_bdF, ↓hw_bdA, ↓hw_cbd, Option.bind_some, hw_bd, cond_true, cond_false, hw_fI, hw_aI, hw_aR, hw_of, hw_hw, hw_sz, hw_wfR, hw_waR, hw_rI, hw_rV, hw_rR, nI_add, hw_in, hw_cl, hw_R_same, hw_R_R, hw_U_same, hw_U_ne, hw_okn1_0, hw_okn1_1, m_record0, h0]
  congr 4
  funext j
  by_cases hj : 100 + 10 * n ≤ j ∧ j < 110 + 10 * n
  · obtain ⟨t, ht, rfl⟩ : ∃ t, t < 10 ∧ j = 100 + 10 * n + t := ⟨j - (100 + 10 * n), by omega, by omega⟩
    unfold m_rec
    rw [if_neg (by omega), if_pos hj, Nat.add_sub_cancel_left]
    match t, ht with
    | 0, _ => simp (disch := omega) only [hw_U_same, hw_U_ne]; rfl
    | 1, _ => simp (disch := omega) only [hw_U_same, hw_U_ne]; rfl
    | 2, _ => simp (disch := omega) only [hw_U_same, hw_U_ne]; rfl
    | 3, _ => simp (disch := omega) only [hw_U_same, hw_U_ne]; rfl
    | 4, _ => simp (disch := omega) only [hw_U_same, hw_U_ne]; rfl
    | 5, _ => simp (disch := omega) only [hw_U_same, hw_U_ne]; rfl
    | 6, _ => simp (disch := omega) only [hw_U_same, hw_U_ne]; rfl
    | 7, _ => simp (disch := omega) only [hw_U_same, hw_U_ne]; rfl
    | 8, _ => simp (disch := omega) only [hw_U_same, hw_U_ne]; rfl
    | 9, _ => simp (disch := omega) only [hw_U_same, hw_U_ne]; rfl
  · unfold m_rec
    rw [if_neg hj]
    by_cases h00 : j = 0
    · subst h00
      rw [if_pos rfl]
      simp (disch := omega) only [hw_U_same, hw_U_ne, h0, nI_add]
    · rw [if_neg h00]
      simp (disch := omega) only [hw_U_ne]
theorem m_newBase {h : ix_H} {m : Nat} (hS : mSh h m) (F A : Nat → Nat → Int32) (N d : Nat) {n : Nat} (hn : n < 1400) (h0 : A (m + 21) 0 = nI n) (a b : Int32) : ix_run iy_P N (d + 3) 235 [ix_R (some m), ix_I a, ix_I b] (hw h F A) = some (.inl (some (ix_I (nI n))), hw h F (hw_R A (m + 21) (m_rec (A (m + 21)) n (z_base ([], a, b))))) := by
  rw [rX9_newBase N (d + 2)]
  unfold bX9_newBase
  simp (disch := omega) only [↓mp_is hS, ↓mp_isr hS, ↓mp_rd35 hS, ↓mp_wr35 hS, ↓mp_rd36 hS, ↓mp_wr36 hS, ↓mp_rd38 hS, ↓mp_wr38 hS, ↓mp_rd39 hS, ↓mp_wr39 hS, ↓mp_rd43 hS, ↓mp_wr43 hS, ↓mp_rd44 hS, ↓mp_wr44 hS, ↓mp_rd46 hS, ↓mp_wr46 hS, ↓mp_rd47 hS, ↓mp_wr47 hS, ↓reduceIte, ↓hw_bdF, ↓hw_bdA, ↓hw_cbd, Option.bind_some, hw_bd, cond_true, cond_false, hw_fI, hw_aI, hw_aR, hw_of, hw_hw, hw_sz, hw_wfR, hw_waR, hw_rI, hw_rV, hw_rR, nI_add, hw_in, hw_cl, hw_R_same, hw_R_R, hw_U_same, hw_U_ne, hw_okn1_0, hw_okn1_1, m_record0, h0, m_newRecord hS F A N d hn h0]
  congr 4
  funext j
  by_cases hj : 100 + 10 * n ≤ j ∧ j < 110 + 10 * n
  · obtain ⟨t, ht, rfl⟩ : ∃ t, t < 10 ∧ j = 100 + 10 * n + t := ⟨j - (100 + 10 * n), by omega, by omega⟩
    have em : ∀ f, m_rec (A (m + 21)) n f (100 + 10 * n + t) = f t := fun f => by
      unfold m_rec
      rw [if_neg (by omega), if_pos hj, Nat.add_sub_cancel_left]
    match t, ht with
    | 0, _ => simp (disch := omega) only [hw_U_same, hw_U_ne, em]; rfl
    | 1, _ => simp (disch := omega) only [hw_U_same, hw_U_ne, em]; rfl
    | 2, _ => simp (disch := omega) only [hw_U_same, hw_U_ne, em]; rfl
    | 3, _ => simp (disch := omega) only [hw_U_same, hw_U_ne, em]; rfl
    | 4, _ => simp (disch := omega) only [hw_U_same, hw_U_ne, em]; rfl
    | 5, _ => simp (disch := omega) only [hw_U_same, hw_U_ne, em]; rfl
    | 6, _ => simp (disch := omega) only [hw_U_same, hw_U_ne, em]; rfl
    | 7, _ => simp (disch := omega) only [hw_U_same, hw_U_ne, em]; rfl
    | 8, _ => simp (disch := omega) only [hw_U_same, hw_U_ne, em]; rfl
    | 9, _ => simp (disch := omega) only [hw_U_same, hw_U_ne, em]; rfl
  · have em : ∀ f, m_rec (A (m + 21)) n f j = if j = 0 then nI (n + 1) else A (m + 21) j := fun f => by
      unfold m_rec
      rw [if_neg hj]
    simp (disch := omega) only [hw_U_ne, em]
