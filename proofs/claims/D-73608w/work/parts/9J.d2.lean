/-! D2: the component: what is asked -/
set_option maxRecDepth 100000
theorem i_I.keys {S : zS} (h : i_I S) : ∀ q ∈ z_all S, a_key q.1 := by
  obtain ⟨rc, lo, h⟩ := h
  intro q hq
  rw [h.R.all h.P.W.2.2.1] at hq
  obtain ⟨p, hp, hq⟩ := List.mem_flatMap.mp hq
  obtain ⟨m1, m2, m3⟩ := h.P.mem p hp
  obtain ⟨k1, k2⟩ := m3 q hq
  have lz := (h.P.lge m1 m2).1
  have hh : (z_pg S p).2.1 ≤ nI 1000 := by
    rcases i_row_nx h.P.row hp with ⟨x, -⟩ | ⟨y, y1, y2, -⟩
    · rw [x]
      exact Int32.le_refl _
    · rw [y2]
      have := (h.P.lge (h.P.mem y y1).1 (h.P.mem y y1).2.1).2
      rw [Int32.le_iff_toInt_le]
      rw [Int32.lt_iff_toInt_lt] at this
      omega
  have e0 : (nI 0).toInt = 0 := by decide
  have e9 : (nI 999).toInt = 999 := by decide
  have e10 : (nI 1000).toInt = 1000 := by decide
  unfold a_key a_in
  rw [Int32.le_iff_toInt_le] at *
  rw [Int32.lt_iff_toInt_lt] at k2
  refine ⟨by omega, ?_⟩
  rw [Int32.le_iff_toInt_le]
  omega
theorem kv_get_nokey {k : Int32} {l : KV} (h : ∀ q ∈ l, a_key q.1) (hk : ¬ a_key k) : kv_get k l = none := by
  cases e : kv_get k l with
  | none => rfl
  | some v => exact absurd (h _ (kv_get_mem e)) hk
section
variable {h : ix_H} {F A : Nat → Nat → Int32} {D : Nat → Nat} {L : Nat → Nat → Nat} {ns : Nat → Nat} {Z : Nat × Nat} {X : xS} {N : Nat}
/-- what an asking method of the component leaves -/
def dAns (h : ix_H) (F A : Nat → Nat → Int32) (D : Nat → Nat) (L : Nat → Nat → Nat) (v : Int32) (o : ix_O) : Prop := ∃ F' A', o = some (.inl (some (ix_I v)), hw h F' A') ∧ dSc D (L 0) F A F' A'
theorem dAns.doo (g : dG h D L ns Z) (hc : dC F A D L ns X) {v : Int32} {o : ix_O} (a : dAns h F A D L v o) : dDo h F A D L ns Z (v, X) o := by
  obtain ⟨F', A', rfl, q⟩ := a
  exact dDo.scr g hc q v
theorem dSc.refl (D : Nat → Nat) (L : Nat → Nat) (F A : Nat → Nat → Int32) : dSc D L F A F A := ⟨fun _ _ _ _ _ => rfl, fun _ _ _ _ _ _ _ _ _ _ _ _ => rfl⟩
theorem dSc.trans {D : Nat → Nat} {L : Nat → Nat} {F A F1 A1 F2 A2 : Nat → Nat → Int32} (q1 : dSc D L F A F1 A1) (q2 : dSc D L F1 A1 F2 A2) : dSc D L F A F2 A2 :=
  ⟨fun b a1 a2 a3 a4 => (q2.1 b a1 a2 a3 a4).trans (q1.1 b a1 a2 a3 a4), fun b a1 a2 a3 a4 a5 a6 a7 a8 a9 a10 a11 => (q2.2 b a1 a2 a3 a4 a5 a6 a7 a8 a9 a10 a11).trans (q1.2 b a1 a2 a3 a4 a5 a6 a7 a8 a9 a10 a11)⟩
theorem d_all (g : dG h D L ns Z) (hI : x_I X) (hc : dC F A D L ns X) (hN : 3000 ≤ N) (d : Nat) (f : Int32 × ix_H → ix_O) : ∃ F' A', (((ix_is (hw h F A) 1 (some (D 0))).bind fun a1 => (ix_is (hw h F A) 1 (some (D 0))).bind fun a2 => (ix_is (hw h F A) 1 (some (D 0))).bind fun a3 => (ix_isr (hw h F A) 5 (ix_fR (hw h F A) a1 5)).bind fun a5 => (ix_rI (ix_run iy_P N (d + 6) 203 [ix_R (some a5), ix_R (ix_fR (hw h F A) a2 10), ix_R (ix_fR (hw h F A) a3 11)] (hw h F A))).bind f) = f (nI (z_all X.1).length, hw h F' A')) ∧ dSc D (L 0) F A F' A' ∧ kv_in (A' (D 9)) (A' (D 10)) (z_all X.1) ∧ (z_all X.1).length ≤ 43 := by
  obtain ⟨rc, hrc⟩ := hI.1.R
  have t9 := g.1.1.2.2.2.2.2.2.2.1 9 (by omega) (by omega)
  have t10 := g.1.1.2.2.2.2.2.2.2.1 10 (by omega) (by omega)
  obtain ⟨F', A', e, q, k⟩ := c_all (g.2.1 0 (by omega)) hI.1.W hrc hc.2.1.2 (g.own (by omega) (show 9 < 19 by omega)) (g.own (by omega) (show 10 < 19 by omega)) (g.Dne (by omega) (by omega) (by omega)) t9 t10 (N := N) (by omega) d hc.2.1.1.1
  refine ⟨F', A', ?_, q.d, k, by rw [hrc.all hI.1.W.2.2.1]; exact hrc.2.2.2.2⟩
  rw [d_is g, d_is g, d_is g, d_st g, hw_fR, g.1.2.1.2.2.2.2.2.2.2.2.1, g.1.2.1.2.2.2.2.2.2.2.2.2.1, hw_cI e]
theorem d_placeOf_l (g : dG h D L ns Z) (F A : Nat → Nat → Int32) (cal : ix_C) {l : KV} (hA : kv_in (A (D 9)) (A (D 10)) l) (hl : l.length ≤ 900) (key : Int32) : ∀ (q : KV) n i, q = l.drop i → i ≤ l.length → q.length < n → ix_lp cal stX0_placeOf n 10 [(0, ix_R (some (D 0))), (1, ix_I key), (2, ix_I (nI l.length)), (3, ix_I (nI i))] [] (hw h F A) = some (.inl (some (ix_I (match kv_kx key q with | some j => nI (i + j) | none => -1))), hw h F A) := by
  intro q
  induction q with
  | nil =>
    intro n i hq hi hn
    obtain ⟨n, rfl⟩ : ∃ w, n = w + 1 := ⟨n - 1, by omega⟩
    have h1 : l.length ≤ i := by
      have := congrArg List.length hq
      rw [List.length_drop, List.length_nil] at this
      omega
    rw [lX0_placeOf_10]
    unfold jX0_placeOf_10
    rw [if_pos (by rw [hw_le (by omega) (by omega)]; exact h1)]
    rfl
  | cons z q ih =>
    intro n i hq hi hn
    obtain ⟨n, rfl⟩ : ∃ w, n = w + 1 := ⟨n - 1, by omega⟩
    have h1 : i < l.length := by
      have := congrArg List.length hq
      rw [List.length_drop, List.length_cons] at this
      omega
    rw [List.drop_eq_getElem_cons h1] at hq
    obtain ⟨e1, e2⟩ := List.cons.inj hq
    obtain ⟨w1, w2⟩ := hA i h1
    rw [← e1] at w1 w2
    rw [lX0_placeOf_10]
    unfold jX0_placeOf_10
    rw [if_neg (by rw [hw_le (by omega) (by omega)]; omega), d_is g, d_key g, hw_in (by omega) (by omega), cond_true, hw_aI, hw_cl (by omega), w1]
    unfold kv_kx
    by_cases hk : z.1 = key
    · simp only [hk, if_true, Nat.add_zero]
    · simp only [hk, if_false]
      simp only [List.length_cons] at hn
      rw [nI_add, ih n (i + 1) e2 h1 (by omega)]
      cases kv_kx key q with
      | none => rfl
      | some j =>
        simp only [Option.map_some]
        rw [show i + 1 + j = i + (j + 1) by omega]
theorem d_placeOf (g : dG h D L ns Z) (hI : x_I X) (hc : dC F A D L ns X) (hN : 3000 ≤ N) (d : Nat) (k : Int32) : ∃ F' A', ix_run iy_P N (d + 7) 94 [ix_R (some (D 0)), ix_I k] (hw h F A) = some (.inl (some (ix_I (match kv_kx k (z_all X.1) with | some j => nI j | none => -1))), hw h F' A') ∧ dSc D (L 0) F A F' A' ∧ kv_in (A' (D 9)) (A' (D 10)) (z_all X.1) ∧ (z_all X.1).length ≤ 43 := by
  obtain ⟨N, rfl⟩ : ∃ z, N = z + 1 := ⟨N - 1, by omega⟩
  obtain ⟨F', A', e, q, k1, l1⟩ := d_all (N := N + 1) g hI hc hN d (fun r4 => jX0_placeOf_10 (ix_run iy_P (N + 1) (d + 6)) (ix_lp (ix_run iy_P (N + 1) (d + 6)) stX0_placeOf (N + 1)) (D 0) k r4.1 (nI 0) r4.2)
  refine ⟨F', A', ?_, q, k1, l1⟩
  rw [rX0_placeOf (N + 1) (d + 6)]
  unfold bX0_placeOf
  rw [e, ← lX0_placeOf_10, d_placeOf_l g F' A' _ k1 (by omega) k _ (N + 1 + 1) 0 rfl (Nat.zero_le _) (by rw [List.drop_zero]; omega), List.drop_zero]
  cases kv_kx k (z_all X.1) with
  | none => rfl
  | some j => simp only [Nat.zero_add]
theorem d_has (g : dG h D L ns Z) (hI : x_I X) (hc : dC F A D L ns X) (hN : 3000 ≤ N) (d : Nat) (k : Int32) : dAns h F A D L (a_has X.1 k) (ix_run iy_P N (d + 8) 93 [ix_R (some (D 0)), ix_I k] (hw h F A)) := by
  rw [rX0_has N (d + 7)]
  unfold bX0_has jX0_has_12 a_has
  rw [hw_cI (d_isKey _ N (d + 5) k)]
  dsimp only
  rw [a_if0]
  by_cases w : a_key k
  · rw [if_pos w, if_pos w, d_isr g]
    obtain ⟨F1, A1, e1, q1, a1, l1⟩ := d_placeOf g hI hc hN d k
    rw [hw_cI e1]
    dsimp only
    refine ⟨F1, A1, ?_, q1⟩
    cases e : kv_kx k (z_all X.1) with
    | none => rw [kv_kx_none e, if_pos rfl, if_neg (by decide)]
    | some j =>
      obtain ⟨j1, j2⟩ := kv_kx_get e
      dsimp only
      rw [if_pos (nI_le (by omega) (by omega)), j2, if_neg (fun x => by cases x)]
  · rw [if_neg w, if_neg w]
    exact ⟨F, A, rfl, dSc.refl _ _ _ _⟩
theorem d_value (g : dG h D L ns Z) (hI : x_I X) (hc : dC F A D L ns X) (hN : 3000 ≤ N) (d : Nat) (k : Int32) : dAns h F A D L (a_value X.1 k) (ix_run iy_P N (d + 8) 95 [ix_R (some (D 0)), ix_I k] (hw h F A)) := by
  rw [rX0_value N (d + 7)]
  unfold bX0_value jX0_value_12 a_value
  rw [d_isr g]
  obtain ⟨F1, A1, e1, q1, a1, l1⟩ := d_placeOf g hI hc hN d k
  rw [hw_cI e1]
  dsimp only
  refine ⟨F1, A1, ?_, q1⟩
  cases e : kv_kx k (z_all X.1) with
  | none =>
    rw [kv_kx_none e, if_neg (by decide)]
    split <;> rfl
  | some j =>
    obtain ⟨j1, j2⟩ := kv_kx_get e
    have hk : a_key k := Classical.byContradiction fun w => by
      rw [kv_get_nokey hI.1.keys w] at j2
      cases j2
    dsimp only
    rw [if_pos (nI_le (by omega) (by omega)), d_is g, d_wor g, hw_in (by omega) (by omega), cond_true, hw_aI, hw_cl (by omega), (a1 j j1).2, j2, if_pos hk]
    rfl
theorem d_many_l (g : dG h D L ns Z) (F A : Nat → Nat → Int32) (N d : Nat) {l : KV} (hA : kv_in (A (D 9)) (A (D 10)) l) (hl : l.length ≤ 900) (lo hi : Int32) : ∀ (q : KV) n i c, q = l.drop i → i ≤ l.length → q.length < n → ix_lp (ix_run iy_P N (d + 1)) stX0_many n 21 [(0, ix_R (some (D 0))), (1, ix_I lo), (2, ix_I hi), (3, ix_I (nI l.length)), (4, ix_I (nI c)), (5, ix_I (nI i))] [] (hw h F A) = some (.inl (some (ix_I (nI (c + a_cnt lo hi q)))), hw h F A) := by
  intro q
  induction q with
  | nil =>
    intro n i c hq hil hn
    obtain ⟨n, rfl⟩ : ∃ w, n = w + 1 := ⟨n - 1, by omega⟩
    have h1 : l.length ≤ i := by
      have := congrArg List.length hq
      rw [List.length_drop, List.length_nil] at this
      omega
    rw [lX0_many_21]
    unfold jX0_many_21
    rw [if_pos (by rw [hw_le (by omega) (by omega)]; exact h1)]
    rfl
  | cons z q ih =>
    intro n i c hq hil hn
    obtain ⟨n, rfl⟩ : ∃ w, n = w + 1 := ⟨n - 1, by omega⟩
    have h1 : i < l.length := by
      have := congrArg List.length hq
      rw [List.length_drop, List.length_cons] at this
      omega
    rw [List.drop_eq_getElem_cons h1] at hq
    obtain ⟨e1, e2⟩ := List.cons.inj hq
    obtain ⟨w1, w2⟩ := hA i h1
    rw [← e1] at w1 w2
    rw [lX0_many_21]
    unfold jX0_many_21 jX0_many_37
    simp only [List.length_cons] at hn
    rw [if_neg (by rw [hw_le (by omega) (by omega)]; omega), d_is g, d_key g, hw_in (by omega) (by omega), cond_true, hw_aI, hw_cl (by omega), w1, hw_cI (d_isIn _ N d _ _ _)]
    dsimp only
    rw [a_if0]
    unfold a_cnt
    by_cases w : a_in z.1 lo hi
    · rw [if_pos w, if_pos w, nI_add, nI_add, ih n (i + 1) (c + 1) e2 h1 (by omega), Nat.add_assoc]
    · rw [if_neg w, if_neg w, nI_add, nI_add, ih n (i + 1) (c + 0) e2 h1 (by omega), Nat.add_assoc]
theorem d_sum_l (g : dG h D L ns Z) (F A : Nat → Nat → Int32) (N d : Nat) {l : KV} (hA : kv_in (A (D 9)) (A (D 10)) l) (hl : l.length ≤ 900) (lo hi : Int32) : ∀ (q : KV) n i c, q = l.drop i → i ≤ l.length → q.length < n → ix_lp (ix_run iy_P N (d + 1)) stX0_sum n 21 [(0, ix_R (some (D 0))), (1, ix_I lo), (2, ix_I hi), (3, ix_I (nI l.length)), (4, ix_I c), (5, ix_I (nI i))] [] (hw h F A) = some (.inl (some (ix_I (a_add lo hi c q))), hw h F A) := by
  intro q
  induction q with
  | nil =>
    intro n i c hq hil hn
    obtain ⟨n, rfl⟩ : ∃ w, n = w + 1 := ⟨n - 1, by omega⟩
    have h1 : l.length ≤ i := by
      have := congrArg List.length hq
      rw [List.length_drop, List.length_nil] at this
      omega
    rw [lX0_sum_21]
    unfold jX0_sum_21
    rw [if_pos (by rw [hw_le (by omega) (by omega)]; exact h1)]
    rfl
  | cons z q ih =>
    intro n i c hq hil hn
    obtain ⟨n, rfl⟩ : ∃ w, n = w + 1 := ⟨n - 1, by omega⟩
    have h1 : i < l.length := by
      have := congrArg List.length hq
      rw [List.length_drop, List.length_cons] at this
      omega
    rw [List.drop_eq_getElem_cons h1] at hq
    obtain ⟨e1, e2⟩ := List.cons.inj hq
    obtain ⟨w1, w2⟩ := hA i h1
    rw [← e1] at w1 w2
    rw [lX0_sum_21]
    unfold jX0_sum_21 jX0_sum_40
    simp only [List.length_cons] at hn
    rw [if_neg (by rw [hw_le (by omega) (by omega)]; omega), d_is g, d_key g, hw_in (by omega) (by omega), cond_true, hw_aI, hw_cl (by omega), w1, hw_cI (d_isIn _ N d _ _ _)]
    dsimp only
    rw [a_if0]
    unfold a_add
    by_cases w : a_in z.1 lo hi
    · rw [if_pos w, if_pos w, d_is g, d_wor g, hw_in (by omega) (by omega), cond_true, hw_aI, w2, nI_add, ih n (i + 1) _ e2 h1 (by omega)]
    · rw [if_neg w, if_neg w, nI_add, nI_0, Int32.add_zero, ih n (i + 1) c e2 h1 (by omega)]
theorem d_many (g : dG h D L ns Z) (hI : x_I X) (hc : dC F A D L ns X) (hN : 3000 ≤ N) (d : Nat) (lo hi : Int32) : dAns h F A D L (a_many X.1 lo hi) (ix_run iy_P N (d + 7) 96 [ix_R (some (D 0)), ix_I lo, ix_I hi] (hw h F A)) := by
  obtain ⟨N, rfl⟩ : ∃ z, N = z + 1 := ⟨N - 1, by omega⟩
  rw [rX0_many (N + 1) (d + 6)]
  unfold bX0_many jX0_many_6
  rw [hw_cI (d_isKey _ (N + 1) (d + 4) lo)]
  dsimp only
  rw [a_if0]
  unfold a_many
  by_cases w : a_key lo
  · rw [if_pos w, hw_cI (d_isKey _ (N + 1) (d + 4) hi)]
    dsimp only
    rw [a_if0]
    by_cases w2 : a_key hi
    · rw [if_pos w2, if_pos ⟨w, w2⟩]
      obtain ⟨F', A', e, q, k1, l1⟩ := d_all (N := N + 1) g hI hc hN d (fun r6 => jX0_many_21 (ix_run iy_P (N + 1) (d + 6)) (ix_lp (ix_run iy_P (N + 1) (d + 6)) stX0_many (N + 1)) (D 0) lo hi r6.1 (nI 0) (nI 0) r6.2)
      rw [e, ← lX0_many_21, d_many_l g F' A' (N + 1) (d + 5) k1 (by omega) lo hi _ (N + 1 + 1) 0 0 rfl (Nat.zero_le _) (by rw [List.drop_zero]; omega), Nat.zero_add, List.drop_zero]
      exact ⟨F', A', rfl, q⟩
    · rw [if_neg w2, if_neg (fun x => w2 x.2)]
      exact ⟨F, A, rfl, dSc.refl _ _ _ _⟩
  · rw [if_neg w, if_neg (fun x => w x.1)]
    exact ⟨F, A, rfl, dSc.refl _ _ _ _⟩
theorem d_sum (g : dG h D L ns Z) (hI : x_I X) (hc : dC F A D L ns X) (hN : 3000 ≤ N) (d : Nat) (lo hi : Int32) : dAns h F A D L (a_sum X.1 lo hi) (ix_run iy_P N (d + 7) 97 [ix_R (some (D 0)), ix_I lo, ix_I hi] (hw h F A)) := by
  obtain ⟨N, rfl⟩ : ∃ z, N = z + 1 := ⟨N - 1, by omega⟩
  rw [rX0_sum (N + 1) (d + 6)]
  unfold bX0_sum jX0_sum_6
  rw [hw_cI (d_isKey _ (N + 1) (d + 4) lo)]
  dsimp only
  rw [a_if0]
  unfold a_sum
  by_cases w : a_key lo
  · rw [if_pos w, hw_cI (d_isKey _ (N + 1) (d + 4) hi)]
    dsimp only
    rw [a_if0]
    by_cases w2 : a_key hi
    · rw [if_pos w2, if_pos ⟨w, w2⟩]
      obtain ⟨F', A', e, q, k1, l1⟩ := d_all (N := N + 1) g hI hc hN d (fun r6 => jX0_sum_21 (ix_run iy_P (N + 1) (d + 6)) (ix_lp (ix_run iy_P (N + 1) (d + 6)) stX0_sum (N + 1)) (D 0) lo hi r6.1 (nI 0) (nI 0) r6.2)
      rw [e, ← lX0_sum_21, d_sum_l g F' A' (N + 1) (d + 5) k1 (by omega) lo hi _ (N + 1 + 1) 0 _ rfl (Nat.zero_le _) (by rw [List.drop_zero]; omega), List.drop_zero]
      exact ⟨F', A', rfl, q⟩
    · rw [if_neg w2, if_neg (fun x => w2 x.2)]
      exact ⟨F, A, rfl, dSc.refl _ _ _ _⟩
  · rw [if_neg w, if_neg (fun x => w x.1)]
    exact ⟨F, A, rfl, dSc.refl _ _ _ _⟩
theorem d_nth (g : dG h D L ns Z) (hI : x_I X) (hc : dC F A D L ns X) (hN : 3000 ≤ N) (d : Nat) (i : Int32) : dAns h F A D L (a_nth X.1 i) (ix_run iy_P N (d + 7) 98 [ix_R (some (D 0)), ix_I i] (hw h F A)) := by
  rw [rX0_nth N (d + 6)]
  unfold bX0_nth jX0_nth_21 a_nth
  by_cases w : nI 0 ≤ i
  · rw [if_pos w, if_pos w]
    obtain ⟨F', A', e, q, k1, l1⟩ := d_all (N := N) g hI hc hN d (fun r4 => if r4.1 ≤ i then some (.inl (some (ix_I (-2 : Int32))), r4.2) else (ix_is r4.2 1 (some (D 0))).bind fun a6 => (ix_atr r4.2 101 (ix_fR r4.2 a6 10) i).bind fun a7 => some (.inl (some (ix_I (ix_aI r4.2 a7 i.toNatClampNeg))), r4.2))
    rw [e]
    dsimp only
    refine ⟨F', A', ?_, q⟩
    by_cases w2 : nI (z_all X.1).length ≤ i
    · rw [if_pos w2, if_pos w2]
    · obtain ⟨j, hj, rfl⟩ : ∃ j, j < 2147483648 ∧ i = nI j := nI_of (x := i) (by rw [← nI_0]; intro e; rw [Int32.le_iff_toInt_le] at w; rw [Int32.lt_iff_toInt_lt] at e; omega)
      rw [hw_le (by omega) hj] at w2
      rw [if_neg (by rw [hw_le (by omega) hj]; exact w2), if_neg (by rw [hw_le (by omega) hj]; exact w2), d_is g, d_key g, hw_in (by omega) (by omega), cond_true, hw_aI, hw_cl (by omega), (k1 j (by omega)).1, kv_nth_at (by omega)]
  · rw [if_neg w, if_neg w]
    exact ⟨F, A, rfl, dSc.refl _ _ _ _⟩
end
