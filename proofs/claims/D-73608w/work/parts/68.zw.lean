/-! ZW: chains and what they come to -/
def z_ok (B : zB) (r : Nat) : Prop :=
  ((B.1 r 0 = nI 0 ∧ B.1 r 3 = -2) ∨ (B.1 r 0 ≠ nI 0 ∧ ∃ q, q < r ∧ B.1 r 3 = nI q)) ∧ B.1 r 6 = nI (B.2 r).length ∧
  (B.1 r 0 = nI 5 → ∃ b, b < r ∧ B.1 r 9 = nI b ∧ B.1 b 0 = nI 0) ∧
  kv_so (z_ct B r).1 ∧ (z_ct B r).1.length ≤ 43 ∧ (z_chain B r).length ≤ 840
def z_B (B : zB) (n : Nat) : Prop := n ≤ 1400 ∧ ∀ r, r < n → z_ok B r
/-- a chain: each leads to the next, the last is a base -/
def z_lk (B : zB) : List Nat → Prop
  | [] => False
  | [x] => B.1 x 0 = nI 0 ∧ B.1 x 3 = -2
  | x :: y :: t => B.1 x 0 ≠ nI 0 ∧ B.1 x 3 = nI y ∧ z_lk B (y :: t)
theorem z_ch_fuel {B : zB} {m : Nat} (hB : ∀ r, r < m → z_ok B r) (hm : m ≤ 1400) : ∀ (n r : Nat), r < m → r ≤ n → z_ch B n r = z_ch B r r := by
  intro n
  induction n using Nat.strongRecOn with
  | ind n ih =>
    intro r hr hn
    rcases Nat.eq_or_lt_of_le hn with e | e
    · rw [e]
    · obtain ⟨n, rfl⟩ : ∃ z, n = z + 1 := ⟨n - 1, by omega⟩
      rcases (hB r hr).1 with ⟨h0, -⟩ | ⟨h0, q, hq, h3⟩
      · cases r with
        | zero => simp only [z_ch, h0, if_true]
        | succ r => simp only [z_ch, h0, if_true]
      · obtain ⟨s, rfl⟩ : ∃ z, r = z + 1 := ⟨r - 1, by omega⟩
        simp only [z_ch, h0, if_false, h3, nI_clamp (n := q) (by omega)]
        rw [ih n (by omega) q (by omega) (by omega), ih s (by omega) q (by omega) (by omega)]
theorem z_chain_0 {B : zB} {r : Nat} (h : B.1 r 0 = nI 0) : z_chain B r = [r] := by
  unfold z_chain
  cases r with
  | zero => rfl
  | succ r => simp only [z_ch, h, if_true]
theorem z_chain_1 {B : zB} {n r q : Nat} (hB : z_B B n) (hr : r < n) (h : B.1 r 0 ≠ nI 0) (hq : q < r) (h3 : B.1 r 3 = nI q) : z_chain B r = r :: z_chain B q := by
  unfold z_chain
  obtain ⟨s, rfl⟩ : ∃ z, r = z + 1 := ⟨r - 1, by omega⟩
  have := hB.1
  simp only [z_ch, h, if_false, h3, nI_clamp (n := q) (by omega)]
  rw [z_ch_fuel (m := s + 1) (fun r h => hB.2 r (by omega)) (by omega) s q hq (by omega)]
theorem z_ct_0 {B : zB} {r : Nat} (h : B.1 r 0 = nI 0) : z_ct B r = (B.2 r, B.1 r 7, B.1 r 8) := by
  unfold z_ct
  rw [z_chain_0 h]
  simp only [z_cf, z_ap, h, if_true]
theorem z_ct_1 {B : zB} {n r q : Nat} (hB : z_B B n) (hr : r < n) (h : B.1 r 0 ≠ nI 0) (hq : q < r) (h3 : B.1 r 3 = nI q) : z_ct B r = z_ap B r (z_ct B q) := by
  unfold z_ct
  rw [z_chain_1 hB hr h hq h3]
  rfl
theorem z_chain_hd {B : zB} {n r : Nat} (hB : z_B B n) (hr : r < n) : ∃ t, z_chain B r = r :: t := by
  rcases (hB.2 r hr).1 with ⟨h0, -⟩ | ⟨h0, q, hq, h3⟩
  · exact ⟨[], z_chain_0 h0⟩
  · exact ⟨_, z_chain_1 hB hr h0 hq h3⟩
theorem z_chain_lk {B : zB} {n : Nat} (hB : z_B B n) : ∀ r, r < n → z_lk B (z_chain B r) := by
  intro r
  induction r using Nat.strongRecOn with
  | ind r ih =>
    intro hr
    rcases (hB.2 r hr).1 with ⟨h0, h3⟩ | ⟨h0, q, hq, h3⟩
    · rw [z_chain_0 h0]
      exact ⟨h0, h3⟩
    · rw [z_chain_1 hB hr h0 hq h3]
      have hi := ih q hq (by omega)
      obtain ⟨t, ht⟩ := z_chain_hd hB (r := q) (by omega)
      rw [ht] at hi ⊢
      exact ⟨h0, h3, hi⟩
theorem z_chain_mem {B : zB} {n : Nat} (hB : z_B B n) : ∀ r, r < n → ∀ x ∈ z_chain B r, x ≤ r := by
  intro r
  induction r using Nat.strongRecOn with
  | ind r ih =>
    intro hr x hx
    rcases (hB.2 r hr).1 with ⟨h0, h3⟩ | ⟨h0, q, hq, h3⟩
    · rw [z_chain_0 h0] at hx
      rw [List.mem_singleton.mp hx]
      exact Nat.le_refl _
    · rw [z_chain_1 hB hr h0 hq h3] at hx
      rcases List.mem_cons.mp hx with e | e
      · omega
      · have := ih q hq (by omega) x e
        omega
/-- every rest of a chain is a chain -/
theorem z_chain_drop {B : zB} {n : Nat} (hB : z_B B n) : ∀ r, r < n → ∀ i (hi : i < (z_chain B r).length), (z_chain B r).drop i = z_chain B ((z_chain B r)[i]) := by
  intro r
  induction r using Nat.strongRecOn with
  | ind r ih =>
    intro hr i hi
    rcases (hB.2 r hr).1 with ⟨h0, h3⟩ | ⟨h0, q, hq, h3⟩
    · have e := z_chain_0 h0
      simp only [e, List.length_singleton] at hi
      obtain rfl : i = 0 := by omega
      simp only [e, List.drop_zero, List.getElem_cons_zero]
    · have e := z_chain_1 hB hr h0 hq h3
      cases i with
      | zero => simp only [e, List.drop_zero, List.getElem_cons_zero]
      | succ i =>
        simp only [e, List.length_cons] at hi
        simp only [e, List.drop_succ_cons, List.getElem_cons_succ]
        exact ih q hq (by omega) i (by omega)
theorem z_cf_drop {B : zB} {n r i : Nat} (hB : z_B B n) (hr : r < n) (hi : i < (z_chain B r).length) : z_cf B ((z_chain B r).drop i) = z_ct B ((z_chain B r)[i]) := by
  rw [z_chain_drop hB r hr i hi]
  rfl
theorem z_chain_pos {B : zB} {n r : Nat} (hB : z_B B n) (hr : r < n) : 0 < (z_chain B r).length := by
  obtain ⟨t, ht⟩ := z_chain_hd hB hr
  rw [ht]
  exact Nat.succ_pos _
/-- the last of a chain is a base, the others are none -/
theorem z_chain_last {B : zB} {n : Nat} (hB : z_B B n) : ∀ r, r < n → ∀ i (hi : i < (z_chain B r).length), B.1 ((z_chain B r)[i]) 0 = nI 0 ↔ i + 1 = (z_chain B r).length := by
  intro r
  induction r using Nat.strongRecOn with
  | ind r ih =>
    intro hr i hi
    rcases (hB.2 r hr).1 with ⟨h0, h3⟩ | ⟨h0, q, hq, h3⟩
    · have e := z_chain_0 h0
      simp only [e, List.length_singleton] at hi
      obtain rfl : i = 0 := by omega
      simp only [e, List.getElem_cons_zero, h0, List.length_singleton]
    · have e := z_chain_1 hB hr h0 hq h3
      have hp := z_chain_pos hB (r := q) (by omega)
      cases i with
      | zero =>
        simp only [e, List.getElem_cons_zero, h0, List.length_cons, false_iff]
        omega
      | succ i =>
        simp only [e, List.length_cons] at hi
        simp only [e, List.getElem_cons_succ, List.length_cons]
        rw [ih q hq (by omega) i (by omega)]
        omega
/-- what is told of a store for every walk -/
def z_W (S : zS) : Prop := z_B S.1 (zn S) ∧ 2 ≤ zp S ∧ zp S ≤ 32 ∧ ∀ p, p < zp S → zt S p < zn S
theorem z_W.pg {S : zS} (h : z_W S) {p : Nat} (hp : p < zp S) : kv_so (z_pg S p).1 ∧ (z_pg S p).1.length ≤ 43 ∧ (z_chain S.1 (zt S p)).length ≤ 840 :=
  (h.1.2 _ (h.2.2.2 p hp)).2.2.2
theorem z_ap_base {B : zB} {r : Nat} (c : zG) (h : B.1 r 0 = nI 0) : z_ap B r c = (B.2 r, B.1 r 7, B.1 r 8) := by
  unfold z_ap
  rw [if_pos h]
theorem z_ap_set {B : zB} {r : Nat} (c : zG) (h : B.1 r 0 = nI 1 ∨ B.1 r 0 = nI 6) : z_ap B r c = (kv_set (B.1 r 1) (B.1 r 2) c.1, c.2) := by
  unfold z_ap
  rw [if_neg (by rcases h with h | h <;> rw [h] <;> decide), if_pos h]
theorem z_ap_del {B : zB} {r : Nat} (c : zG) (h : B.1 r 0 = nI 2 ∨ B.1 r 0 = nI 7) : z_ap B r c = (kv_del (B.1 r 1) c.1, c.2) := by
  unfold z_ap
  rw [if_neg (by rcases h with h | h <;> rw [h] <;> decide), if_neg (by rcases h with h | h <;> rw [h] <;> decide), if_pos h]
theorem z_ap_cut {B : zB} {r : Nat} (c : zG) (h : B.1 r 0 = nI 3) : z_ap B r c = (kv_cut (B.1 r 1) c.1, B.1 r 1, B.1 r 2) := by
  unfold z_ap
  rw [if_neg (by rw [h]; decide), if_neg (by rw [h]; decide), if_neg (by rw [h]; decide), if_pos h]
theorem z_ap_join {B : zB} {r : Nat} (c : zG) (h : B.1 r 0 = nI 5) : z_ap B r c = (kv_join c.1 (B.2 (B.1 r 9).toNatClampNeg), B.1 (B.1 r 9).toNatClampNeg 7, B.1 (B.1 r 9).toNatClampNeg 8) := by
  unfold z_ap
  rw [if_neg (by rw [h]; decide), if_neg (by rw [h]; decide), if_neg (by rw [h]; decide), if_neg (by rw [h]; decide), if_pos h]
theorem z_ap_no {B : zB} {r : Nat} (c : zG) (h0 : B.1 r 0 ≠ nI 0) (h1 : B.1 r 0 ≠ nI 1) (h2 : B.1 r 0 ≠ nI 2) (h3 : B.1 r 0 ≠ nI 3) (h5 : B.1 r 0 ≠ nI 5) (h6 : B.1 r 0 ≠ nI 6) (h7 : B.1 r 0 ≠ nI 7) : z_ap B r c = c := by
  unfold z_ap
  rw [if_neg h0, if_neg (fun h => h.elim h1 h6), if_neg (fun h => h.elim h2 h7), if_neg h3, if_neg h5]
/-- pages, each leads to the next at its right, the last to none -/
def z_rk (S : zS) : List Nat → Prop
  | [] => False
  | [x] => (z_pg S x).2.2 = -2
  | x :: y :: t => (z_pg S x).2.2 = nI y ∧ z_rk S (y :: t)
theorem z_rw_eq {S : zS} : ∀ (l : List Nat) (x : Nat) (t : List Nat) (n : Nat), l = x :: t → z_rk S l → (∀ y ∈ l, y < 1000) → l.length ≤ n → z_rw S n x = l := by
  intro l
  induction l with
  | nil => intro x t n h; cases h
  | cons x l ih =>
    intro x' t n he hk hm hn
    cases he
    obtain ⟨n, rfl⟩ : ∃ w, n = w + 1 := ⟨n - 1, by simp only [List.length_cons] at hn; omega⟩
    simp only [List.length_cons] at hn
    cases l with
    | nil =>
      have h2 : (z_pg S x).2.2 = -2 := hk
      simp only [z_rw, h2]
      rw [if_pos (by decide)]
    | cons y l =>
      obtain ⟨h2, hk2⟩ := hk
      have hy := hm y (List.mem_cons_of_mem _ List.mem_cons_self)
      have hneg : ¬ nI y < nI 0 := by rw [hw_lt (by omega) (by omega)]; omega
      simp only [z_rw, h2, hneg, if_false, hw_cl (show y < 2147483648 by omega)]
      rw [ih y l n rfl hk2 (fun z hz => hm z (List.mem_cons_of_mem _ hz)) (by omega)]
/-- the row of pages from 1 to the right -/
def z_R (S : zS) (rc : List Nat) : Prop := (∃ t, rc = 1 :: t) ∧ z_rk S rc ∧ (∀ y ∈ rc, y < zp S) ∧ rc.length ≤ 32 ∧ (rc.flatMap fun p => (z_pg S p).1).length ≤ 43
theorem z_R.rt {S : zS} {rc : List Nat} (h : z_R S rc) (h32 : zp S ≤ 32) : z_rt S = rc := by
  obtain ⟨⟨t, ht⟩, hk, hm, hl, -⟩ := h
  unfold z_rt
  exact z_rw_eq rc 1 t 33 ht hk (fun y hy => by have := hm y hy; omega) (by omega)
theorem z_R.all {S : zS} {rc : List Nat} (h : z_R S rc) (h32 : zp S ≤ 32) : z_all S = rc.flatMap fun p => (z_pg S p).1 := by
  unfold z_all
  rw [h.rt h32]
theorem z_mk_ne (S : zS) (l : List Nat) (r : Nat) {f : Nat} (h : f ≠ 4) : zr (z_mk S l) r f = zr S r f := if_neg fun w => h w.1
theorem z_W_if {c : Prop} [Decidable c] {T T' : zS} (h : z_W (if c then T' else T)) (h2 : z_W T' → z_W T) : z_W T := by
  by_cases hc : c
  · rw [if_pos hc] at h
    exact h2 h
  · rw [if_neg hc] at h
    exact h
theorem z_W_if2 {c : Prop} [Decidable c] {T T' T'' : zS} (h : z_W (if c then T' else T'')) (h1 : z_W T' → z_W T) (h2 : z_W T'' → z_W T) : z_W T := by
  by_cases hc : c
  · rw [if_pos hc] at h
    exact h1 h
  · rw [if_neg hc] at h
    exact h2 h
/-- alike but for what is out of use, what is free -/
def z_like (B B' : zB) : Prop := (∀ r f, f ≠ 4 → f ≠ 5 → B'.1 r f = B.1 r f) ∧ B'.2 = B.2
theorem z_like.ch {B B' : zB} (h : z_like B B') : ∀ n r, z_ch B' n r = z_ch B n r := by
  intro n
  induction n with
  | zero => intro r; rfl
  | succ n ih =>
    intro r
    simp only [z_ch]
    rw [h.1 r 0 (by omega) (by omega), h.1 r 3 (by omega) (by omega), ih]
theorem z_like.chain {B B' : zB} (h : z_like B B') (r : Nat) : z_chain B' r = z_chain B r := h.ch r r
theorem z_like.ap {B B' : zB} (h : z_like B B') (r : Nat) (c : zG) : z_ap B' r c = z_ap B r c := by
  unfold z_ap
  rw [h.2, h.1 r 0 (by omega) (by omega), h.1 r 1 (by omega) (by omega), h.1 r 2 (by omega) (by omega), h.1 r 7 (by omega) (by omega), h.1 r 8 (by omega) (by omega), h.1 r 9 (by omega) (by omega), h.1 _ 7 (by omega) (by omega), h.1 _ 8 (by omega) (by omega)]
theorem z_like.cf {B B' : zB} (h : z_like B B') : ∀ l, z_cf B' l = z_cf B l
  | [] => rfl
  | r :: t => by
    simp only [z_cf]
    rw [h.ap, h.cf t]
theorem z_like.ct {B B' : zB} (h : z_like B B') (r : Nat) : z_ct B' r = z_ct B r := by
  unfold z_ct
  rw [h.chain, h.cf]
theorem z_like.ok {B B' : zB} (h : z_like B B') {r : Nat} (ho : z_ok B r) : z_ok B' r := by
  unfold z_ok at *
  rw [h.ct, h.chain, h.1 r 0 (by omega) (by omega), h.1 r 3 (by omega) (by omega), h.1 r 6 (by omega) (by omega), h.1 r 9 (by omega) (by omega), h.2]
  refine ⟨ho.1, ho.2.1, fun w => ?_, ho.2.2.2⟩
  obtain ⟨b, b1, b2, b3⟩ := ho.2.2.1 w
  exact ⟨b, b1, b2, by rw [h.1 b 0 (by omega) (by omega)]; exact b3⟩
theorem z_like.symm {B B' : zB} (h : z_like B B') : z_like B' B := ⟨fun r f h4 h5 => (h.1 r f h4 h5).symm, h.2.symm⟩
theorem z_like.W {S S' : zS} (h : z_like S.1 S'.1) (e2 : S'.2.1 = S.2.1) (e3 : zn S' = zn S) (e4 : zp S' = zp S) (hW : z_W S) : z_W S' := by
  unfold z_W zt at *
  rw [e2, e3, e4]
  exact ⟨⟨hW.1.1, fun r hr => h.ok (hW.1.2 r hr)⟩, hW.2⟩
theorem z_like_mk (S : zS) (l : List Nat) : z_like S.1 (z_mk S l).1 := ⟨fun r f h4 _ => if_neg fun w => h4 w.1, rfl⟩
theorem z_mk_ne' (S : zS) (l : List Nat) (r : Nat) {f : Nat} (h : f ≠ 4) : (z_mk S l).1.1 r f = S.1.1 r f := if_neg fun w => h w.1
