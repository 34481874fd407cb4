/-! Q0: what is asked, as functions of the store -/
set_option maxRecDepth 100000
abbrev a_in (v lo hi : Int32) : Prop := lo ≤ v ∧ v ≤ hi
/-- the first place of a key -/
def kv_kx (k : Int32) : KV → Option Nat
  | [] => none
  | q :: r => if q.1 = k then some 0 else (kv_kx k r).map (· + 1)
theorem kv_kx_get {k : Int32} : ∀ {l : KV} {b : Nat}, kv_kx k l = some b → ∃ h : b < l.length, kv_get k l = some (l[b]).2
  | [], _, h => by cases h
  | q :: r, b, h => by
    unfold kv_kx at h
    unfold kv_get
    by_cases w : q.1 = k
    · rw [if_pos w] at h ⊢
      cases h
      exact ⟨Nat.succ_pos _, rfl⟩
    · rw [if_neg w] at h ⊢
      cases e : kv_kx k r with
      | none =>
        rw [e] at h
        cases h
      | some c =>
        rw [e] at h
        cases h
        obtain ⟨h1, h2⟩ := kv_kx_get e
        exact ⟨Nat.succ_lt_succ h1, h2⟩
theorem kv_kx_none {k : Int32} : ∀ {l : KV}, kv_kx k l = none → kv_get k l = none
  | [], _ => rfl
  | q :: r, h => by
    unfold kv_kx at h
    unfold kv_get
    by_cases w : q.1 = k
    · rw [if_pos w] at h
      cases h
    · rw [if_neg w] at h ⊢
      refine kv_kx_none ?_
      cases c : kv_kx k r with
      | none => rfl
      | some _ =>
        rw [c] at h
        cases h
def a_cnt (lo hi : Int32) : KV → Nat
  | [] => 0
  | q :: r => (if a_in q.1 lo hi then 1 else 0) + a_cnt lo hi r
theorem a_cnt_le (lo hi : Int32) : ∀ l, a_cnt lo hi l ≤ l.length
  | [] => Nat.le_refl _
  | q :: r => by
    have := a_cnt_le lo hi r
    unfold a_cnt
    rw [List.length_cons]
    split <;> omega
def a_add (lo hi : Int32) : Int32 → KV → Int32
  | s, [] => s
  | s, q :: r => a_add lo hi (if a_in q.1 lo hi then s + q.2 else s) r
abbrev a_key (k : Int32) : Prop := a_in k (nI 0) (nI 999)
abbrev a_hnd (k : Int32) : Prop := a_in k (nI 0) (nI 3)
def a_has (S : zS) (k : Int32) : Int32 := if a_key k then (if kv_get k (z_all S) = none then nI 0 else nI 1) else -1
def a_value (S : zS) (k : Int32) : Int32 := if a_key k then (kv_get k (z_all S)).getD (nI 0) else nI 0
def a_many (S : zS) (lo hi : Int32) : Int32 := if a_key lo ∧ a_key hi then nI (a_cnt lo hi (z_all S)) else -1
def a_sum (S : zS) (lo hi : Int32) : Int32 := if a_key lo ∧ a_key hi then a_add lo hi (nI 0) (z_all S) else nI 0
def a_nth (S : zS) (i : Int32) : Int32 := if nI 0 ≤ i then (if nI (z_all S).length ≤ i then -2 else (kv_nth (z_all S) i.toNatClampNeg).1) else -1
def a_page (S : zS) (p w : Int32) : Int32 :=
  if a_in p (nI 0) (nI (zp S) - nI 1) then
    if w = nI 0 then nI (zt S p.toNatClampNeg)
    else if w = nI 1 then nI (z_len S p.toNatClampNeg)
    else if w = nI 2 then (if z_gone S p.toNatClampNeg then nI 0 else nI (z_pg S p.toNatClampNeg).1.length)
    else if w = nI 3 then (if z_gone S p.toNatClampNeg ∨ p = nI 0 then nI 0 else (z_pg S p.toNatClampNeg).2.1)
    else if w = nI 4 then (if z_gone S p.toNatClampNeg ∨ p = nI 0 then -2 else (z_pg S p.toNatClampNeg).2.2)
    else if w = nI 5 then (if z_gone S p.toNatClampNeg then nI 1 else nI 0)
    else -1
  else -1
def a_bound (S : zS) (i w : Int32) : Int32 :=
  if a_in i (nI 0) (nI (z_pg S 0).1.length - nI 1) then
    if w = nI 0 then (kv_nth (z_pg S 0).1 i.toNatClampNeg).1 else if w = nI 1 then (kv_nth (z_pg S 0).1 i.toNatClampNeg).2 else -1
  else -1
def a_record (S : zS) (r w : Int32) : Int32 :=
  if a_in r (nI 0) (nI (zn S) - nI 1) ∧ a_in w (nI 0) (nI 6) then zr S r.toNatClampNeg w.toNatClampNeg else -1000
def a_base (S : zS) (r i w : Int32) : Int32 :=
  if a_in r (nI 0) (nI (zn S) - nI 1) then
    if a_in i (nI 0) (nI (zi S r.toNatClampNeg).length - nI 1) then
      if w = nI 0 then (kv_nth (zi S r.toNatClampNeg) i.toNatClampNeg).1 else if w = nI 1 then (kv_nth (zi S r.toNatClampNeg) i.toNatClampNeg).2 else -1000
    else -1000
  else -1000
def a_hand (S : zS) (k w : Int32) : Int32 :=
  if a_hnd k ∧ a_in w (nI 0) (nI 6) then (if w = nI 5 ∧ zh S k.toNatClampNeg 1 = nI 0 then -2 else zh S k.toNatClampNeg w.toNatClampNeg) else -1
def a_result (S : zS) (k : Int32) : Int32 := if a_hnd k then zh S k.toNatClampNeg 8 else nI 0
def a_halves (S : zS) (w : Int32) : Int32 := if w = nI 0 then nI (z_slc S (z_rt S)) else if w = nI 1 then nI (z_glc S (z_pg S 0).1) else -1
/-- a value in a range from nought on is a number -/
theorem a_in_nat {v : Int32} {n : Nat} (hn : n < 2147483648) (h : a_in v (nI 0) (nI n - nI 1)) : ∃ i, i < n ∧ v = nI i := by
  obtain ⟨h1, h2⟩ := h
  have h0 : ¬ v < 0 := by
    rw [← nI_0]
    intro e
    rw [Int32.le_iff_toInt_le] at h1
    rw [Int32.lt_iff_toInt_lt] at e
    omega
  obtain ⟨i, hi, rfl⟩ := nI_of h0
  refine ⟨i, ?_, rfl⟩
  rcases Nat.lt_or_ge i n with w | w
  · exact w
  · cases n with
    | zero =>
      have : nI 0 - nI 1 < nI i := by
        have a : nI 0 - nI 1 < nI 0 := by decide
        have b : nI 0 ≤ nI i := h1
        rw [Int32.lt_iff_toInt_lt] at *
        rw [Int32.le_iff_toInt_le] at b
        omega
      rw [Int32.lt_iff_toInt_lt] at this
      rw [Int32.le_iff_toInt_le] at h2
      omega
    | succ n =>
      rw [hw_sub (by omega), Nat.add_sub_cancel] at h2
      rw [nI_leI (by omega) (by omega)] at h2
      omega
theorem a_in_of {i n : Nat} (hn : n < 2147483648) (h : i < n) : a_in (nI i) (nI 0) (nI n - nI 1) := by
  obtain ⟨n, rfl⟩ : ∃ z, n = z + 1 := ⟨n - 1, by omega⟩
  rw [hw_sub (by omega), Nat.add_sub_cancel]
  exact ⟨nI_le (by omega) (by omega), nI_le (by omega) (by omega)⟩
theorem a_hnd_nat {v : Int32} (h : a_hnd v) : ∃ k, k < 4 ∧ v = nI k := by
  have e : nI 3 = nI 4 - nI 1 := by decide
  unfold a_hnd at h
  rw [e] at h
  exact a_in_nat (by omega) h
/-! the reference -/
theorem m_in (h : ix_H) (N d : Nat) (a b c : Int32) : ix_run iy_P N (d + 1) 318 [ix_I a, ix_I b, ix_I c] h = some (.inl (some (ix_I (if a_in a b c then nI 1 else nI 0))), h) := by
  rw [rX9_in N d]
  unfold bX9_in jX9_in_8 jX9_in_10
  by_cases w1 : a < b
  · rw [if_pos w1, if_neg (fun w : a_in a b c => by
      have := w.1
      rw [Int32.le_iff_toInt_le] at this
      rw [Int32.lt_iff_toInt_lt] at w1
      omega), hw_okn1_0, cond_true]
  · rw [if_neg w1]
    by_cases w2 : c < a
    · rw [if_pos w2, if_neg (fun w : a_in a b c => by
        have := w.2
        rw [Int32.le_iff_toInt_le] at this
        rw [Int32.lt_iff_toInt_lt] at w2
        omega), hw_okn1_0, cond_true]
    · rw [if_neg w2, if_pos (show a_in a b c from ⟨kv_nlt_le.mp w1, kv_nlt_le.mp w2⟩), hw_okn1_1, cond_true]
theorem a_okn (p : Prop) [Decidable p] : ix_okn 1 (if p then nI 1 else nI 0) = true := by split <;> decide
theorem m_isKey (h : ix_H) (N d : Nat) (a : Int32) : ix_run iy_P N (d + 2) 319 [ix_I a] h = some (.inl (some (ix_I (if a_key a then nI 1 else nI 0))), h) := by
  rw [rX9_isKey N (d + 1)]
  unfold bX9_isKey
  rw [hw_cI (m_in h N d a (nI 0) (nI 999))]
  dsimp only
  rw [a_okn, cond_true]
theorem m_isHand (h : ix_H) (N d : Nat) (a : Int32) : ix_run iy_P N (d + 2) 317 [ix_I a] h = some (.inl (some (ix_I (if a_hnd a then nI 1 else nI 0))), h) := by
  rw [rX9_isHand N (d + 1)]
  unfold bX9_isHand
  rw [hw_cI (m_in h N d a (nI 0) (nI 3))]
  dsimp only
  rw [a_okn, cond_true]
theorem a_if0 {p : Prop} [Decidable p] {α : Type} (x y : α) : (if (if p then nI 1 else nI 0) = nI 0 then x else y) = if p then y else x := by
  by_cases w : p
  · rw [if_pos w, if_pos w, if_neg (by decide)]
  · rw [if_neg w, if_neg w, if_pos rfl]
abbrev mZ : List Nat := [22, 23, 24, 25, 26, 27, 28]
/-- what an asking method of the reference leaves -/
def mAns (h : ix_H) (m : Nat) (S : zS) (F A : Nat → Nat → Int32) (v : Int32) (o : ix_O) : Prop := ∃ F' A', o = some (.inl (some (ix_I v)), hw h F' A') ∧ mQ mX mZ m F A F' A'
theorem mAns.R {m : Nat} {S : zS} {F A F' A' : Nat → Nat → Int32} (hR : mR (A (m + 21)) S) (q : mQ mX mZ m F A F' A') : mR (A' (m + 21)) S := by
  rw [q.2.2.1 21 rfl]
  exact hR
theorem mA.keep {m : Nat} {F A : Nat → Nat → Int32} {l : KV} (h : mA F A m l) : F m 48 = nI l.length := h.1
theorem m_allAt_l {h : ix_H} {m : Nat} (hS : mSh h m) (F A : Nat → Nat → Int32) (cal : ix_C) {l : KV} (hA : mA F A m l) (hl : l.length ≤ 199) (key : Int32) : ∀ (q : KV) n i, q = l.drop i → i ≤ l.length → q.length < n → ix_lp cal stX9_allAt n 2 [(0, ix_R (some m)), (1, ix_I key), (2, ix_I (nI i))] [] (hw h F A) = some (.inl (some (ix_I (match kv_kx key q with | some j => nI (i + j) | none => -1))), hw h F A) := by
  intro q
  induction q with
  | nil =>
    intro n i hq hi hn
    obtain ⟨n, rfl⟩ : ∃ w, n = w + 1 := ⟨n - 1, by omega⟩
    have h1 : l.length ≤ i := by
      have := congrArg List.length hq
      rw [List.length_drop, List.length_nil] at this
      omega
    rw [lX9_allAt_2]
    unfold jX9_allAt_2
    simp (disch := omega) only [↓reduceIte, ↓hw_bdF, ↓hw_bdA, ↓hw_cbd, Option.bind_some, hw_bd, cond_true, cond_false, hw_fR, hw_fI, hw_aI, hw_aR, hw_is, hw_isr, hw_at, hw_atr, hw_of, hw_hw, hw_sz, hw_wfR, hw_waR, hw_rI, hw_rV, hw_rR, nI_add, hw_in, hw_cl, hw_R_same, hw_R_R, hw_U_same, hw_U_ne, hw_okn1_0, hw_okn1_1, hS, hA.1, hw_le, h1, if_true]
    rfl
  | cons z q ih =>
    intro n i hq hi hn
    obtain ⟨n, rfl⟩ : ∃ w, n = w + 1 := ⟨n - 1, by omega⟩
    have h1 : i < l.length := by
      have := congrArg List.length hq
      rw [List.length_drop, List.length_cons] at this
      omega
    rw [List.drop_eq_getElem_cons h1] at hq
    obtain ⟨e1, e2⟩ := List.cons.inj hq
    obtain ⟨w1, w2⟩ := hA.2 i h1
    rw [← e1] at w1 w2
    rw [lX9_allAt_2]
    unfold jX9_allAt_2
    simp (disch := omega) only [↓reduceIte, ↓hw_bdF, ↓hw_bdA, ↓hw_cbd, Option.bind_some, hw_bd, cond_true, cond_false, hw_fR, hw_fI, hw_aI, hw_aR, hw_is, hw_isr, hw_at, hw_atr, hw_of, hw_hw, hw_sz, hw_wfR, hw_waR, hw_rI, hw_rV, hw_rR, nI_add, hw_in, hw_cl, hw_R_same, hw_R_R, hw_U_same, hw_U_ne, hw_okn1_0, hw_okn1_1, hS, hA.1, hw_le, Nat.not_le.mpr h1, if_false, w1, kv_kx]
    by_cases hk : z.1 = key
    · simp only [hk, if_true, Nat.add_zero]
    · simp only [hk, if_false]
      simp only [List.length_cons] at hn
      rw [ih n (i + 1) e2 h1 (by omega)]
      cases kv_kx key q with
      | none => rfl
      | some j =>
        simp only [Option.map_some]
        rw [show i + 1 + j = i + (j + 1) by omega]
theorem m_allAt {h : ix_H} {m : Nat} (hS : mSh h m) {F A : Nat → Nat → Int32} {N : Nat} (hN : 1000 ≤ N) (d : Nat) {l : KV} (hA : mA F A m l) (hl : l.length ≤ 199) (key : Int32) : ix_run iy_P N (d + 1) 324 [ix_R (some m), ix_I key] (hw h F A) = some (.inl (some (ix_I (match kv_kx key l with | some j => nI j | none => -1))), hw h F A) := by
  rw [rX9_allAt N d]
  unfold bX9_allAt
  obtain ⟨N, rfl⟩ : ∃ z, N = z + 1 := ⟨N - 1, by omega⟩
  rw [← lX9_allAt_2, m_allAt_l hS F A _ hA hl key l (N + 1 + 1) 0 rfl (Nat.zero_le _) (by omega)]
  cases kv_kx key l with
  | none => rfl
  | some j => simp only [Nat.zero_add]
section
variable {h : ix_H} {m : Nat} {S : zS} {F A : Nat → Nat → Int32} {N : Nat}
theorem m_all {rc : List Nat} (hS : mSh h m) (hW : z_W S) (hr : z_R S rc) (hN : 3000 ≤ N) (d : Nat) (hR : mR (A (m + 21)) S) : ∃ F' A', ix_run iy_P N (d + 8) 267 [ix_R (some m)] (hw h F A) = some (.inl none, hw h F' A') ∧ mQ mX mZ m F A F' A' ∧ mA F' A' m (z_all S) ∧ (z_all S).length ≤ 43 := by
  obtain ⟨F', A', e, q, a⟩ := m_fillsAll hS hW hr (N := N) (by omega) d hR
  exact ⟨F', A', e, q.mono rfl rfl, a, by rw [hr.all hW.2.2.1]; exact hr.2.2.2.2⟩
theorem m_has {rc : List Nat} (hS : mSh h m) (hW : z_W S) (hr : z_R S rc) (hN : 3000 ≤ N) (d : Nat) (hR : mR (A (m + 21)) S) (k : Int32) : mAns h m S F A (a_has S k) (ix_run iy_P N (d + 9) 323 [ix_R (some m), ix_I k] (hw h F A)) := by
  rw [rX9_has N (d + 8)]
  unfold bX9_has
  rw [hw_cI (m_isKey _ N (d + 6) k)]
  dsimp only
  rw [a_if0]
  unfold a_has
  by_cases w : a_key k
  · rw [if_pos w, if_pos w, mp_isr hS]
    obtain ⟨F1, A1, e1, q1, a1, l1⟩ := m_all hS hW hr hN d hR
    rw [hw_cV e1, mp_isr hS, hw_cI (m_allAt hS (by omega) (d + 7) a1 (by omega) k)]
    dsimp only
    unfold jX9_has_14
    refine ⟨F1, A1, ?_, q1⟩
    cases e : kv_kx k (z_all S) with
    | none =>
      rw [kv_kx_none e, if_pos rfl, if_neg (by decide)]
    | some j =>
      obtain ⟨j1, j2⟩ := kv_kx_get e
      dsimp only
      rw [if_pos (nI_le (by omega) (by omega)), j2, if_neg (fun x => by cases x)]
  · rw [if_neg w, if_neg w]
    exact ⟨F, A, rfl, mQ.refl _ _ _ _ _⟩
theorem m_value {rc : List Nat} (hS : mSh h m) (hW : z_W S) (hr : z_R S rc) (hN : 3000 ≤ N) (d : Nat) (hR : mR (A (m + 21)) S) (k : Int32) : mAns h m S F A (a_value S k) (ix_run iy_P N (d + 9) 325 [ix_R (some m), ix_I k] (hw h F A)) := by
  rw [rX9_value N (d + 8)]
  unfold bX9_value
  rw [hw_cI (m_isKey _ N (d + 6) k)]
  dsimp only
  rw [a_if0]
  unfold a_value
  by_cases w : a_key k
  · rw [if_pos w, if_pos w, mp_isr hS]
    obtain ⟨F1, A1, e1, q1, a1, l1⟩ := m_all hS hW hr hN d hR
    rw [hw_cV e1, mp_isr hS, hw_cI (m_allAt hS (by omega) (d + 7) a1 (by omega) k)]
    dsimp only
    unfold jX9_value_19
    refine ⟨F1, A1, ?_, q1⟩
    cases e : kv_kx k (z_all S) with
    | none =>
      rw [kv_kx_none e, if_neg (by decide)]
      rfl
    | some j =>
      obtain ⟨j1, j2⟩ := kv_kx_get e
      obtain ⟨w1, w2⟩ := a1.2 j j1
      dsimp only
      rw [j2, if_pos (nI_le (by omega) (by omega)), mp_is hS, mp_isr hS, hw_cI (m_allAt hS (by omega) (d + 7) a1 (by omega) k), e]
      dsimp only
      rw [mp_rd47 hS, hw_in (by omega) (by omega), cond_true, hw_aI, hw_cl (by omega), w2]
      rfl
  · rw [if_neg w, if_neg w]
    exact ⟨F, A, rfl, mQ.refl _ _ _ _ _⟩
theorem m_many_l (hS : mSh h m) (N d : Nat) {l : KV} (hA : mA F A m l) (hl : l.length ≤ 199) (lo hi : Int32) : ∀ (q : KV) n i c, q = l.drop i → i ≤ l.length → q.length < n → ix_lp (ix_run iy_P N (d + 1)) stX9_many n 15 [(0, ix_R (some m)), (1, ix_I lo), (2, ix_I hi), (3, ix_I (nI c)), (4, ix_I (nI i))] [] (hw h F A) = some (.inl (some (ix_I (nI (c + a_cnt lo hi q)))), hw h F A) := by
  intro q
  induction q with
  | nil =>
    intro n i c hq hil hn
    obtain ⟨n, rfl⟩ : ∃ w, n = w + 1 := ⟨n - 1, by omega⟩
    have h1 : l.length ≤ i := by
      have := congrArg List.length hq
      rw [List.length_drop, List.length_nil] at this
      omega
    rw [lX9_many_15]
    unfold jX9_many_15
    simp (disch := omega) only [↓reduceIte, ↓hw_bdF, ↓hw_bdA, ↓hw_cbd, Option.bind_some, hw_bd, cond_true, cond_false, hw_fR, hw_fI, hw_aI, hw_aR, hw_is, hw_isr, hw_at, hw_atr, hw_of, hw_hw, hw_sz, hw_wfR, hw_waR, hw_rI, hw_rV, hw_rR, nI_add, hw_in, hw_cl, hw_R_same, hw_R_R, hw_U_same, hw_U_ne, hw_okn1_0, hw_okn1_1, hS, hA.1, hw_le, h1, if_true]
    rfl
  | cons z q ih =>
    intro n i c hq hil hn
    obtain ⟨n, rfl⟩ : ∃ w, n = w + 1 := ⟨n - 1, by omega⟩
    have h1 : i < l.length := by
      have := congrArg List.length hq
      rw [List.length_drop, List.length_cons] at this
      omega
    rw [List.drop_eq_getElem_cons h1] at hq
    obtain ⟨e1, e2⟩ := List.cons.inj hq
    obtain ⟨w1, w2⟩ := hA.2 i h1
    rw [← e1] at w1 w2
    rw [lX9_many_15]
    unfold jX9_many_15 jX9_many_29
    simp only [List.length_cons] at hn
    rw [mp_is hS, hw_fI, hA.1, if_neg (by rw [hw_le (by omega) (by omega)]; omega), mp_is hS, mp_rd46 hS, hw_in (by omega) (by omega), cond_true, hw_aI, hw_cl (by omega), w1, hw_cI (m_in _ N d _ _ _)]
    dsimp only
    rw [a_if0]
    unfold a_cnt
    by_cases w : a_in z.1 lo hi
    · rw [if_pos w, if_pos w, nI_add, nI_add, ih n (i + 1) (c + 1) e2 h1 (by omega), Nat.add_assoc]
    · rw [if_neg w, if_neg w, nI_add, ih n (i + 1) c e2 h1 (by omega), Nat.zero_add]
theorem m_sum_l (hS : mSh h m) (N d : Nat) {l : KV} (hA : mA F A m l) (hl : l.length ≤ 199) (lo hi : Int32) : ∀ (q : KV) n i c, q = l.drop i → i ≤ l.length → q.length < n → ix_lp (ix_run iy_P N (d + 1)) stX9_sum n 15 [(0, ix_R (some m)), (1, ix_I lo), (2, ix_I hi), (3, ix_I c), (4, ix_I (nI i))] [] (hw h F A) = some (.inl (some (ix_I (a_add lo hi c q))), hw h F A) := by
  intro q
  induction q with
  | nil =>
    intro n i c hq hil hn
    obtain ⟨n, rfl⟩ : ∃ w, n = w + 1 := ⟨n - 1, by omega⟩
    have h1 : l.length ≤ i := by
      have := congrArg List.length hq
      rw [List.length_drop, List.length_nil] at this
      omega
    rw [lX9_sum_15]
    unfold jX9_sum_15
    simp (disch := omega) only [↓reduceIte, ↓hw_bdF, ↓hw_bdA, ↓hw_cbd, Option.bind_some, hw_bd, cond_true, cond_false, hw_fR, hw_fI, hw_aI, hw_aR, hw_is, hw_isr, hw_at, hw_atr, hw_of, hw_hw, hw_sz, hw_wfR, hw_waR, hw_rI, hw_rV, hw_rR, nI_add, hw_in, hw_cl, hw_R_same, hw_R_R, hw_U_same, hw_U_ne, hw_okn1_0, hw_okn1_1, hS, hA.1, hw_le, h1, if_true]
    rfl
  | cons z q ih =>
    intro n i c hq hil hn
    obtain ⟨n, rfl⟩ : ∃ w, n = w + 1 := ⟨n - 1, by omega⟩
    have h1 : i < l.length := by
      have := congrArg List.length hq
      rw [List.length_drop, List.length_cons] at this
      omega
    rw [List.drop_eq_getElem_cons h1] at hq
    obtain ⟨e1, e2⟩ := List.cons.inj hq
    obtain ⟨w1, w2⟩ := hA.2 i h1
    rw [← e1] at w1 w2
    rw [lX9_sum_15]
    unfold jX9_sum_15 jX9_sum_35
    simp only [List.length_cons] at hn
    rw [mp_is hS, hw_fI, hA.1, if_neg (by rw [hw_le (by omega) (by omega)]; omega), mp_is hS, mp_rd46 hS, hw_in (by omega) (by omega), cond_true, hw_aI, hw_cl (by omega), w1, hw_cI (m_in _ N d _ _ _)]
    dsimp only
    rw [a_if0]
    unfold a_add
    by_cases w : a_in z.1 lo hi
    · rw [if_pos w, if_pos w, mp_is hS, mp_rd47 hS, hw_in (by omega) (by omega), cond_true, hw_aI, w2, nI_add, ih n (i + 1) _ e2 h1 (by omega)]
    · rw [if_neg w, if_neg w, nI_add, ih n (i + 1) c e2 h1 (by omega)]
theorem m_many {rc : List Nat} (hS : mSh h m) (hW : z_W S) (hr : z_R S rc) (hN : 3000 ≤ N) (d : Nat) (hR : mR (A (m + 21)) S) (lo hi : Int32) : mAns h m S F A (a_many S lo hi) (ix_run iy_P N (d + 9) 326 [ix_R (some m), ix_I lo, ix_I hi] (hw h F A)) := by
  obtain ⟨N, rfl⟩ : ∃ z, N = z + 1 := ⟨N - 1, by omega⟩
  rw [rX9_many (N + 1) (d + 8)]
  unfold bX9_many jX9_many_6
  rw [hw_cI (m_isKey _ (N + 1) (d + 6) lo)]
  dsimp only
  rw [a_if0]
  unfold a_many
  by_cases w : a_key lo
  · rw [if_pos w, hw_cI (m_isKey _ (N + 1) (d + 6) hi)]
    dsimp only
    rw [a_if0]
    by_cases w2 : a_key hi
    · rw [if_pos w2, if_pos ⟨w, w2⟩, mp_isr hS]
      obtain ⟨F1, A1, e1, q1, a1, l1⟩ := m_all hS hW hr hN d hR
      rw [hw_cV e1, ← lX9_many_15, m_many_l hS (N + 1) (d + 7) a1 (by omega) lo hi _ (N + 1 + 1) 0 0 rfl (Nat.zero_le _) (by rw [List.drop_zero]; omega), Nat.zero_add, List.drop_zero]
      exact ⟨F1, A1, rfl, q1⟩
    · rw [if_neg w2, if_neg (fun x => w2 x.2)]
      exact ⟨F, A, rfl, mQ.refl _ _ _ _ _⟩
  · rw [if_neg w, if_neg (fun x => w x.1)]
    exact ⟨F, A, rfl, mQ.refl _ _ _ _ _⟩
theorem m_sum {rc : List Nat} (hS : mSh h m) (hW : z_W S) (hr : z_R S rc) (hN : 3000 ≤ N) (d : Nat) (hR : mR (A (m + 21)) S) (lo hi : Int32) : mAns h m S F A (a_sum S lo hi) (ix_run iy_P N (d + 9) 327 [ix_R (some m), ix_I lo, ix_I hi] (hw h F A)) := by
  obtain ⟨N, rfl⟩ : ∃ z, N = z + 1 := ⟨N - 1, by omega⟩
  rw [rX9_sum (N + 1) (d + 8)]
  unfold bX9_sum jX9_sum_6
  rw [hw_cI (m_isKey _ (N + 1) (d + 6) lo)]
  dsimp only
  rw [a_if0]
  unfold a_sum
  by_cases w : a_key lo
  · rw [if_pos w, hw_cI (m_isKey _ (N + 1) (d + 6) hi)]
    dsimp only
    rw [a_if0]
    by_cases w2 : a_key hi
    · rw [if_pos w2, if_pos ⟨w, w2⟩, mp_isr hS]
      obtain ⟨F1, A1, e1, q1, a1, l1⟩ := m_all hS hW hr hN d hR
      rw [hw_cV e1, ← lX9_sum_15, m_sum_l hS (N + 1) (d + 7) a1 (by omega) lo hi _ (N + 1 + 1) 0 _ rfl (Nat.zero_le _) (by rw [List.drop_zero]; omega), List.drop_zero]
      exact ⟨F1, A1, rfl, q1⟩
    · rw [if_neg w2, if_neg (fun x => w2 x.2)]
      exact ⟨F, A, rfl, mQ.refl _ _ _ _ _⟩
  · rw [if_neg w, if_neg (fun x => w x.1)]
    exact ⟨F, A, rfl, mQ.refl _ _ _ _ _⟩
theorem m_nth {rc : List Nat} (hS : mSh h m) (hW : z_W S) (hr : z_R S rc) (hN : 3000 ≤ N) (d : Nat) (hR : mR (A (m + 21)) S) (i : Int32) : mAns h m S F A (a_nth S i) (ix_run iy_P N (d + 9) 328 [ix_R (some m), ix_I i] (hw h F A)) := by
  rw [rX9_nth N (d + 8)]
  unfold bX9_nth jX9_nth_16 a_nth
  by_cases w : nI 0 ≤ i
  · rw [if_pos w, if_pos w, mp_isr hS]
    obtain ⟨F1, A1, e1, q1, a1, l1⟩ := m_all hS hW hr hN d hR
    rw [hw_cV e1, mp_is hS, hw_fI, a1.1]
    refine ⟨F1, A1, ?_, q1⟩
    by_cases w2 : nI (z_all S).length ≤ i
    · rw [if_pos w2, if_pos w2]
    · obtain ⟨j, hj, rfl⟩ : ∃ j, j < 2147483648 ∧ i = nI j := nI_of (x := i) (by rw [← nI_0]; intro e; rw [Int32.le_iff_toInt_le] at w; rw [Int32.lt_iff_toInt_lt] at e; omega)
      rw [hw_le (by omega) hj] at w2
      rw [if_neg (by rw [hw_le (by omega) hj]; exact w2), if_neg (by rw [hw_le (by omega) hj]; exact w2), mp_is hS, mp_rd46 hS, hw_in (by omega) (by omega), cond_true, hw_aI, hw_cl (by omega), (a1.2 j (by omega)).1, kv_nth_at (by omega)]
  · rw [if_neg w, if_neg w]
    exact ⟨F, A, rfl, mQ.refl _ _ _ _ _⟩
end
