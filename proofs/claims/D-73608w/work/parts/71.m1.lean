/-! M1: the reference: what its leaves do -/
set_option maxRecDepth 100000
/-- of the reference's fields only those of X, of its arrays only those of Y have changed -/
def mQ (X Y : List Nat) (m : Nat) (F A F' A' : Nat → Nat → Int32) : Prop := (∀ b, b ≠ m → F' b = F b) ∧ (∀ j, X.contains j = false → F' m j = F m j) ∧ (∀ k, Y.contains k = false → A' (m + k) = A (m + k)) ∧ ∀ b, b < m ∨ m + 40 ≤ b → A' b = A b
theorem mQ.refl (X Y : List Nat) (m : Nat) (F A : Nat → Nat → Int32) : mQ X Y m F A F A := ⟨fun _ _ => rfl, fun _ _ => rfl, fun _ _ => rfl, fun _ _ => rfl⟩
theorem mQ.trans {X Y : List Nat} {m : Nat} {F A F1 A1 F2 A2 : Nat → Nat → Int32} (h : mQ X Y m F A F1 A1) (h2 : mQ X Y m F1 A1 F2 A2) : mQ X Y m F A F2 A2 :=
  ⟨fun b hb => (h2.1 b hb).trans (h.1 b hb), fun j hj => (h2.2.1 j hj).trans (h.2.1 j hj), fun k hk => (h2.2.2.1 k hk).trans (h.2.2.1 k hk), fun b hb => (h2.2.2.2 b hb).trans (h.2.2.2 b hb)⟩
theorem mQ_sub {X X' : List Nat} (h : X.all (fun j => X'.contains j) = true) {j : Nat} (hj : X'.contains j = false) : X.contains j = false := by
  cases hx : X.contains j with
  | false => rfl
  | true =>
    have h1 : j ∈ X := by simpa using hx
    have h2 := List.all_eq_true.mp h j h1
    rw [hj] at h2
    cases h2
theorem mQ.mono {X Y X' Y' : List Nat} {m : Nat} {F A F1 A1 : Nat → Nat → Int32} (h : mQ X Y m F A F1 A1) (hx : X.all (fun j => X'.contains j) = true) (hy : Y.all (fun j => Y'.contains j) = true) : mQ X' Y' m F A F1 A1 :=
  ⟨h.1, fun j hj => h.2.1 j (mQ_sub hx hj), fun k hk => h.2.2.1 k (mQ_sub hy hk), h.2.2.2⟩
theorem mQ.fR {X Y : List Nat} {m j : Nat} {v : Int32} {F A F1 A1 : Nat → Nat → Int32} (h : mQ X Y m F A F1 A1) (hj : X.contains j = true) : mQ X Y m F A (hw_R F1 m (hw_U (F1 m) j v)) A1 := by
  refine ⟨fun b hb => ?_, fun i hi => ?_, h.2.2.1, h.2.2.2⟩
  · rw [hw_R_ne _ _ hb]
    exact h.1 b hb
  · rw [hw_R_same, hw_U_at, if_neg (fun e => by rw [e, hj] at hi; cases hi)]
    exact h.2.1 i hi
theorem mQ.fU {X Y : List Nat} {m j : Nat} {v : Int32} {g : Nat → Int32} {F A F1 A1 : Nat → Nat → Int32} (h : mQ X Y m F A (hw_R F1 m g) A1) (hj : X.contains j = true) : mQ X Y m F A (hw_R F1 m (hw_U g j v)) A1 := by
  have := h.fR (v := v) hj
  rw [hw_R_R, hw_R_same] at this
  exact this
theorem mQ.aR {X Y : List Nat} {m k : Nat} {g : Nat → Int32} {F A F1 A1 : Nat → Nat → Int32} (h : mQ X Y m F A F1 A1) (hk : Y.contains k = true) (h40 : k < 40) : mQ X Y m F A F1 (hw_R A1 (m + k) g) := by
  refine ⟨h.1, h.2.1, fun i hi => ?_, fun b hb => ?_⟩
  · rw [hw_R_ne _ _ (fun e => by rw [show i = k by omega, hk] at hi; cases hi)]
    exact h.2.2.1 i hi
  · rw [hw_R_ne _ _ (by omega)]
    exact h.2.2.2 b hb
def mR (nw : Nat → Int32) (S : zS) : Prop :=
  (nw 0 = nI (zn S) ∧ nw 1 = nI (zp S) ∧ nw 2 = nI (ze S) ∧ nw 3 = zh S 0 3 + zh S 1 3 + zh S 2 3 + zh S 3 3 ∧ nw 5 = nI (zc S) ∧ nw 6 = nI (zm S) ∧ nw 7 = nI (zl S) ∧ nw 4 = nI (zy S)) ∧
  (∀ p, p < zp S → nw (10 + p) = nI (zt S p)) ∧ (∀ k f, k < 4 → f < 14 → nw (42 + 14 * k + f) = zh S k f) ∧
  (∀ r f, r < zn S → f < 10 → nw (100 + 10 * r + f) = zr S r f) ∧
  ∀ r, r < zn S → kv_in (fun i => nw (14100 + 88 * r + 2 * i)) (fun i => nw (14100 + 88 * r + 2 * i + 1)) (zi S r)
def mC (F A : Nat → Nat → Int32) (m : Nat) (l : List Nat) : Prop := F m 37 = nI l.length ∧ ∀ i (h : i < l.length), A (m + 22) i = nI (l[i])
def mL (F A : Nat → Nat → Int32) (m : Nat) (l : KV) : Prop := F m 40 = nI l.length ∧ kv_in (A (m + 23)) (A (m + 24)) l
def mH (F A : Nat → Nat → Int32) (m : Nat) (c : zG) : Prop := mL F A m c.1 ∧ F m 41 = c.2.1 ∧ F m 42 = c.2.2
def mB (F A : Nat → Nat → Int32) (m : Nat) (l : KV) : Prop := F m 45 = nI l.length ∧ kv_in (A (m + 25)) (A (m + 26)) l
def mA (F A : Nat → Nat → Int32) (m : Nat) (l : KV) : Prop := F m 48 = nI l.length ∧ kv_in (A (m + 27)) (A (m + 28)) l
theorem m_ofRecord {h : ix_H} {m : Nat} (hS : mSh h m) (F A : Nat → Nat → Int32) (N d : Nat) {r f : Nat} (hr : r < 1400) (hf : f < 10) : ix_run iy_P N (d + 1) 239 [ix_R (some m), ix_I (nI r), ix_I (nI f)] (hw h F A) = some (.inl (some (ix_I (A (m + 21) (100 + 10 * r + f)))), hw h F A) := by
  rw [rX9_ofRecord N d]
  unfold bX9_ofRecord
  simp (disch := omega) only [↓reduceIte, ↓hw_bdF, ↓hw_bdA, ↓hw_cbd, Option.bind_some, hw_bd, cond_true, cond_false, hw_fR, hw_fI, hw_aI, hw_aR, hw_is, hw_isr, hw_at, hw_atr, hw_of, hw_hw, hw_sz, hw_wfR, hw_waR, hw_rI, hw_rV, hw_rR, nI_add, hw_in, hw_cl, hw_R_same, hw_R_R, hw_U_same, hw_U_ne, hw_okn1_0, hw_okn1_1, hw_mul, hS]
theorem m_topOf {h : ix_H} {m : Nat} (hS : mSh h m) (F A : Nat → Nat → Int32) (N d : Nat) {p : Nat} (hp : p < 32) : ix_run iy_P N (d + 1) 270 [ix_R (some m), ix_I (nI p)] (hw h F A) = some (.inl (some (ix_I (A (m + 21) (10 + p)))), hw h F A) := by
  rw [rX9_topOf N d]
  unfold bX9_topOf
  simp (disch := omega) only [↓reduceIte, ↓hw_bdF, ↓hw_bdA, ↓hw_cbd, Option.bind_some, hw_bd, cond_true, cond_false, hw_fR, hw_fI, hw_aI, hw_aR, hw_is, hw_isr, hw_at, hw_atr, hw_of, hw_hw, hw_sz, hw_wfR, hw_waR, hw_rI, hw_rV, hw_rR, nI_add, hw_in, hw_cl, hw_R_same, hw_R_R, hw_U_same, hw_U_ne, hw_okn1_0, hw_okn1_1, hS]
theorem m_baseAt (h : ix_H) (N d r i : Nat) : ix_run iy_P N (d + 1) 273 [ix_I (nI r), ix_I (nI i)] h = some (.inl (some (ix_I (nI (14100 + 88 * r + 2 * i)))), h) := by
  rw [rX9_baseAt N d]
  unfold bX9_baseAt
  simp (disch := omega) only [↓reduceIte, ↓hw_bdF, ↓hw_bdA, ↓hw_cbd, Option.bind_some, hw_bd, cond_true, cond_false, hw_fR, hw_fI, hw_aI, hw_aR, hw_is, hw_isr, hw_at, hw_atr, hw_of, hw_hw, hw_sz, hw_wfR, hw_waR, hw_rI, hw_rV, hw_rR, nI_add, hw_in, hw_cl, hw_R_same, hw_R_R, hw_U_same, hw_U_ne, hw_okn1_0, hw_okn1_1, hw_mul]
theorem m_whereOf_l {h : ix_H} {m : Nat} (hS : mSh h m) (F A : Nat → Nat → Int32) (cal : ix_C) {l : KV} (hL : mL F A m l) (hl : l.length ≤ 89) (key : Int32) : ∀ n i, i ≤ kv_wh key l → l.length - i < n → ix_lp cal stX9_whereOf n 2 [(0, ix_R (some m)), (1, ix_I key), (2, ix_I (nI i))] [] (hw h F A) = some (.inl (some (ix_I (nI (kv_wh key l)))), hw h F A) := by
  have hle := kv_wh_le key l
  intro n
  induction n with
  | zero => intro i _ h; omega
  | succ n ih =>
    intro i hi hn
    rw [lX9_whereOf_2]
    unfold jX9_whereOf_2 jX9_whereOf_15
    rcases Nat.lt_or_ge i l.length with h1 | h1
    · obtain ⟨e1, -⟩ := hL.2 i h1
      simp (disch := omega) only [↓reduceIte, ↓hw_bdF, ↓hw_bdA, ↓hw_cbd, Option.bind_some, hw_bd, cond_true, cond_false, hw_fR, hw_fI, hw_aI, hw_aR, hw_is, hw_isr, hw_at, hw_atr, hw_of, hw_hw, hw_sz, hw_wfR, hw_waR, hw_rI, hw_rV, hw_rR, nI_add, hw_in, hw_cl, hw_R_same, hw_R_R, hw_U_same, hw_U_ne, hw_okn1_0, hw_okn1_1, hS, hL.1, hw_le, e1, Nat.not_le.mpr h1, if_false]
      rcases Nat.lt_or_eq_of_le hi with h2 | h2
      · rw [if_neg (fun hc => by have := kv_wh_lt h1 h2; rw [Int32.lt_iff_toInt_lt] at this; rw [Int32.le_iff_toInt_le] at hc; omega)]
        exact ih (i + 1) h2 (by omega)
      · subst h2
        rw [if_pos (kv_nlt_le.mp (kv_wh_at h1))]
    · obtain rfl : i = kv_wh key l := by omega
      simp (disch := omega) only [↓reduceIte, ↓hw_bdF, ↓hw_bdA, ↓hw_cbd, Option.bind_some, hw_bd, cond_true, cond_false, hw_fR, hw_fI, hw_aI, hw_aR, hw_is, hw_isr, hw_at, hw_atr, hw_of, hw_hw, hw_sz, hw_wfR, hw_waR, hw_rI, hw_rV, hw_rR, nI_add, hw_in, hw_cl, hw_R_same, hw_R_R, hw_U_same, hw_U_ne, hw_okn1_0, hw_okn1_1, hS, hL.1, hw_le, h1, if_true]
theorem m_whereOf {h : ix_H} {m : Nat} (hS : mSh h m) {F A : Nat → Nat → Int32} {N : Nat} (hN : 1000 ≤ N) (d : Nat) {l : KV} (hL : mL F A m l) (hl : l.length ≤ 89) (key : Int32) : ix_run iy_P N (d + 1) 275 [ix_R (some m), ix_I key] (hw h F A) = some (.inl (some (ix_I (nI (kv_wh key l)))), hw h F A) := by
  rw [rX9_whereOf N d]
  unfold bX9_whereOf
  obtain ⟨N, rfl⟩ : ∃ z, N = z + 1 := ⟨N - 1, by omega⟩
  rw [← m_whereOf_l hS F A (ix_run iy_P (N + 1) d) hL hl key (N + 2) 0 (Nat.zero_le _) (by omega), lX9_whereOf_2]
theorem m_isThere {h : ix_H} {m : Nat} (hS : mSh h m) {F A : Nat → Nat → Int32} {N : Nat} (hN : 1000 ≤ N) (d : Nat) {l : KV} (hL : mL F A m l) (hs : kv_so l) (hl : l.length ≤ 89) (key : Int32) : ix_run iy_P N (d + 2) 276 [ix_R (some m), ix_I key] (hw h F A) = some (.inl (some (ix_I (if kv_get key l = none then nI 0 else nI 1))), hw h F A) := by
  rw [rX9_isThere N (d + 1)]
  unfold bX9_isThere jX9_isThere_18 jX9_isThere_16 jX9_isThere_18
  have hle := kv_wh_le key l
  simp (disch := omega) only [↓reduceIte, ↓hw_bdF, ↓hw_bdA, ↓hw_cbd, Option.bind_some, hw_bd, cond_true, cond_false, hw_fR, hw_fI, hw_aI, hw_aR, hw_is, hw_isr, hw_at, hw_atr, hw_of, hw_hw, hw_sz, hw_wfR, hw_waR, hw_rI, hw_rV, hw_rR, nI_add, hw_in, hw_cl, hw_R_same, hw_R_R, hw_U_same, hw_U_ne, hw_okn1_0, hw_okn1_1, hS, m_whereOf hS hN d hL hl key, hL.1, hw_le]
  rcases Nat.lt_or_ge (kv_wh key l) l.length with h1 | h1
  · obtain ⟨e1, -⟩ := hL.2 _ h1
    simp (disch := omega) only [↓reduceIte, ↓hw_bdF, ↓hw_bdA, ↓hw_cbd, Option.bind_some, hw_bd, cond_true, cond_false, hw_fR, hw_fI, hw_aI, hw_aR, hw_is, hw_isr, hw_at, hw_atr, hw_of, hw_hw, hw_sz, hw_wfR, hw_waR, hw_rI, hw_rV, hw_rR, nI_add, hw_in, hw_cl, hw_R_same, hw_R_R, hw_U_same, hw_U_ne, hw_okn1_0, hw_okn1_1, hS, Nat.not_le.mpr h1, if_false, e1]
    by_cases h2 : (l[kv_wh key l]).1 = key
    · have h3 : kv_get key l ≠ none := fun e => (kv_get_none hs).mp e ⟨h1, h2⟩
      simp only [h2, h3, if_true, if_false]
    · have h3 : kv_get key l = none := (kv_get_none hs).mpr fun ⟨_, e⟩ => h2 e
      simp only [h2, h3, if_true, if_false]
  · have h3 : kv_get key l = none := (kv_get_none hs).mpr fun ⟨w, _⟩ => by omega
    simp only [h1, h3, if_true]
theorem kv_up_n (f : Nat → Int32) (n : Nat) : kv_up f n n = f := by
  funext j
  unfold kv_up
  rw [if_neg (by omega)]
theorem kv_up_step (f : Nat → Int32) {k n : Nat} (h0 : 0 < k) (hk : k ≤ n) : hw_U (kv_up f k n) k (kv_up f k n (k - 1)) = kv_up f (k - 1) n := by
  funext j
  rw [hw_U_at]
  unfold kv_up
  by_cases e : j = k
  · subst e
    rw [if_pos rfl, if_neg (by omega), if_pos (by omega)]
  · rw [if_neg e]
    by_cases e2 : k < j ∧ j ≤ n
    · rw [if_pos e2, if_pos (by omega)]
    · rw [if_neg e2, if_neg (by omega)]
theorem m_setsIn_l {h : ix_H} {m : Nat} (hS : mSh h m) (cal : ix_C) (f g : Nat → Int32) {i n : Nat} (hn : n ≤ 88) (hi : i ≤ n) (key v : Int32) : ∀ z k F A, i ≤ k → k ≤ n → k - i < z → A (m + 23) = kv_up f k n → A (m + 24) = kv_up g k n → F m 40 = nI n →
    ∃ F' A', ix_lp cal stX9_setsIn z 11 [(0, ix_R (some m)), (1, ix_I key), (2, ix_I v), (3, ix_I (nI i)), (4, ix_I (nI k))] [] (hw h F A) = some (.inl none, hw h F' A') ∧ mQ [40] [23, 24] m F A F' A' ∧ F' m 40 = nI (n + 1) ∧ A' (m + 23) = hw_U (kv_up f i n) i key ∧ A' (m + 24) = hw_U (kv_up g i n) i v := by
  intro z
  induction z with
  | zero => intro k F A _ _ h; omega
  | succ z ih =>
    intro k F A hik hkn hz h1 h2 h3
    rw [lX9_setsIn_11]
    unfold jX9_setsIn_11 jX9_setsIn_43
    rcases Nat.lt_or_ge i k with hlt | hge
    · simp (disch := omega) only [↓reduceIte, ↓hw_bdF, ↓hw_bdA, ↓hw_cbd, Option.bind_some, hw_bd, cond_true, cond_false, hw_fR, hw_fI, hw_aI, hw_aR, hw_is, hw_isr, hw_at, hw_atr, hw_of, hw_hw, hw_sz, hw_wfR, hw_waR, hw_rI, hw_rV, hw_rR, nI_add, hw_in, hw_cl, hw_R_same, hw_R_R, hw_U_same, hw_U_ne, hw_okn1_0, hw_okn1_1, hS, h3, hw_le, hw_sub, hw_dec, Nat.not_le.mpr hlt, if_false, hw_R_at, Nat.add_left_cancel_iff, Nat.reduceEqDiff, h1, h2]
      obtain ⟨k, rfl⟩ : ∃ w, k = w + 1 := ⟨k - 1, by omega⟩
      simp only [Nat.add_sub_cancel, hw_dec]
      have s1 := kv_up_step f (k := k + 1) (n := n) (by omega) hkn
      have s2 := kv_up_step g (k := k + 1) (n := n) (by omega) hkn
      simp only [Nat.add_sub_cancel] at s1 s2
      obtain ⟨F', A', e, q, p1, p2, p3⟩ := ih k F (hw_R (hw_R A (m + 23) (hw_U (kv_up f (k + 1) n) (k + 1) (kv_up f (k + 1) n k))) (m + 24) (hw_U (kv_up g (k + 1) n) (k + 1) (kv_up g (k + 1) n k))) (by omega) (by omega) (by omega) (by rw [hw_R_ne _ _ (by omega), hw_R_same, s1]) (by rw [hw_R_same, s2]) h3
      exact ⟨F', A', e, (((mQ.refl _ _ m F A).aR rfl (by omega)).aR rfl (by omega)).trans q, p1, p2, p3⟩
    · obtain rfl : k = i := by omega
      simp (disch := omega) only [↓reduceIte, ↓hw_bdF, ↓hw_bdA, ↓hw_cbd, Option.bind_some, hw_bd, cond_true, cond_false, hw_fR, hw_fI, hw_aI, hw_aR, hw_is, hw_isr, hw_at, hw_atr, hw_of, hw_hw, hw_sz, hw_wfR, hw_waR, hw_rI, hw_rV, hw_rR, nI_add, hw_in, hw_cl, hw_R_same, hw_R_R, hw_U_same, hw_U_ne, hw_okn1_0, hw_okn1_1, hS, h3, hw_le, Nat.le_refl, if_true, h1, h2, hw_R_at, Nat.add_left_cancel_iff, Nat.reduceEqDiff, if_false]
      refine ⟨_, _, rfl, (((mQ.refl _ _ m F A).fR rfl).aR rfl (by omega)).aR rfl (by omega), ?_, ?_, ?_⟩
      · rw [hw_R_same, hw_U_at, if_pos rfl]
      · rw [hw_R_ne _ _ (by omega), hw_R_same]
      · rw [hw_R_same]
