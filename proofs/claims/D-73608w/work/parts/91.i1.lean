/-! I1: what always holds of a store -/
set_option maxRecDepth 100000
/-- a page's keys lie between its ends -/
def i_in (S : zS) (lo : Nat → Int32) (p : Nat) : Prop := ∀ q ∈ (z_pg S p).1, lo p ≤ q.1 ∧ q.1 < (z_pg S p).2.1
def i_lk (S : zS) (lo : Nat → Int32) (x y : Nat) : Prop := (z_pg S x).2.1 = lo y ∧ (z_pg S x).2.2 = nI y ∧ lo x < lo y
def i_row (S : zS) (lo : Nat → Int32) : List Nat → Prop
  | [] => False
  | [x] => (z_pg S x).2.1 = nI 1000 ∧ (z_pg S x).2.2 = -2
  | x :: y :: t => i_lk S lo x y ∧ i_row S lo (y :: t)
/-- how many keys -/
def i_K (S : zS) : List Nat → Nat
  | [] => 0
  | x :: t => (z_pg S x).1.length + i_K S t
/-- what is gone lies on its base -/
def i_gb (S : zS) (r : Nat) : Prop := ∃ b, b < r ∧ zr S r 3 = nI b ∧ zr S b 0 = nI 0
def i_P (S : zS) (rc : List Nat) (lo : Nat → Int32) : Prop :=
  z_W S ∧ (∃ t, rc = 1 :: t) ∧ i_row S lo rc ∧ (∀ p ∈ rc, 1 ≤ p ∧ p < zp S ∧ i_in S lo p) ∧
  (∀ p, 1 ≤ p → p < zp S → p ∉ rc → z_gone S p) ∧
  (lo 1 = nI 0 ∧ ∀ p, 2 ≤ p → p < zp S → nI 0 < lo p ∧ lo p < nI 1000) ∧
  (∀ p, p < zp S → z_gone S p → 2 ≤ p ∧ i_gb S (zt S p)) ∧
  ((∀ q ∈ (z_pg S 0).1, ∃ p, 1 ≤ p ∧ p < zp S ∧ q.2 = nI p ∧ q.1 = lo p) ∧ (nI 0, nI 1) ∈ (z_pg S 0).1) ∧
  (∀ p, p < zp S → (z_pg S p).2.2 ≠ -1) ∧
  (∀ r, r < zn S → (zi S r).length ≤ 43) ∧ rc.length + 1 ≤ zp S ∧ ∀ p, 1 ≤ p → p < zp S → z_len S p + rc.length + 1 ≤ 24 + zp S
section
variable {S : zS} {rc : List Nat} {lo : Nat → Int32}
theorem i_P.W (h : i_P S rc lo) : z_W S := h.1
theorem i_P.hd (h : i_P S rc lo) : ∃ t, rc = 1 :: t := h.2.1
theorem i_P.row (h : i_P S rc lo) : i_row S lo rc := h.2.2.1
theorem i_P.mem (h : i_P S rc lo) : ∀ p ∈ rc, 1 ≤ p ∧ p < zp S ∧ i_in S lo p := h.2.2.2.1
theorem i_P.out (h : i_P S rc lo) : ∀ p, 1 ≤ p → p < zp S → p ∉ rc → z_gone S p := h.2.2.2.2.1
theorem i_P.lo1 (h : i_P S rc lo) : lo 1 = nI 0 := h.2.2.2.2.2.1.1
theorem i_P.lo2 (h : i_P S rc lo) : ∀ p, 2 ≤ p → p < zp S → nI 0 < lo p ∧ lo p < nI 1000 := h.2.2.2.2.2.1.2
theorem i_P.gn (h : i_P S rc lo) : ∀ p, p < zp S → z_gone S p → 2 ≤ p ∧ i_gb S (zt S p) := h.2.2.2.2.2.2.1
theorem i_P.b0 (h : i_P S rc lo) : ∀ q ∈ (z_pg S 0).1, ∃ p, 1 ≤ p ∧ p < zp S ∧ q.2 = nI p ∧ q.1 = lo p := h.2.2.2.2.2.2.2.1.1
theorem i_P.b1 (h : i_P S rc lo) : (nI 0, nI 1) ∈ (z_pg S 0).1 := h.2.2.2.2.2.2.2.1.2
theorem i_P.rt (h : i_P S rc lo) : ∀ p, p < zp S → (z_pg S p).2.2 ≠ -1 := h.2.2.2.2.2.2.2.2.1
theorem i_P.it (h : i_P S rc lo) : ∀ r, r < zn S → (zi S r).length ≤ 43 := h.2.2.2.2.2.2.2.2.2.1
theorem i_P.rl (h : i_P S rc lo) : rc.length + 1 ≤ zp S := h.2.2.2.2.2.2.2.2.2.2.1
theorem i_P.ll (h : i_P S rc lo) : ∀ p, 1 ≤ p → p < zp S → z_len S p + rc.length + 1 ≤ 24 + zp S := h.2.2.2.2.2.2.2.2.2.2.2
theorem i_P.lge (h : i_P S rc lo) {p : Nat} (h1 : 1 ≤ p) (h2 : p < zp S) : nI 0 ≤ lo p ∧ lo p < nI 1000 := by
  rcases Nat.lt_or_ge 1 p with w | w
  · have := h.lo2 p w h2
    exact ⟨by rw [Int32.le_iff_toInt_le]; have := this.1; rw [Int32.lt_iff_toInt_lt] at this; omega, this.2⟩
  · obtain rfl : p = 1 := by omega
    rw [h.lo1]
    decide
theorem i_P.live (h : i_P S rc lo) {p : Nat} (h1 : 1 ≤ p) (h2 : p < zp S) (hg : ¬ z_gone S p) : p ∈ rc := Classical.byContradiction fun w => hg (h.out p h1 h2 w)
end
/-! rows -/
theorem i_row_app {S : zS} {lo : Nat → Int32} : ∀ (A : List Nat) (x : Nat) (B : List Nat), i_row S lo (A ++ x :: B) → i_row S lo (x :: B)
  | [], _, _, h => h
  | [_], _, _, h => h.2
  | _ :: b :: A, x, B, h => i_row_app (b :: A) x B h.2
/-- the part ahead of x may be told over another store, with another rest behind x -/
theorem i_row_cong {S S' : zS} {lo lo' : Nat → Int32} : ∀ (A : List Nat) (x : Nat) (B B' : List Nat), i_row S lo (A ++ x :: B) → (∀ y ∈ A, (z_pg S' y).2 = (z_pg S y).2) → (∀ y ∈ A ++ [x], lo' y = lo y) → i_row S' lo' (x :: B') → i_row S' lo' (A ++ x :: B')
  | [], _, _, _, _, _, _, h' => h'
  | [a], x, B, B', h, hp, hl, h' => by
    have e := hp a List.mem_cons_self
    refine ⟨⟨?_, ?_, ?_⟩, h'⟩
    · rw [e, hl x (by simp)]
      exact h.1.1
    · rw [e]
      exact h.1.2.1
    · rw [hl a (by simp), hl x (by simp)]
      exact h.1.2.2
  | a :: b :: A, x, B, B', h, hp, hl, h' => by
    have e := hp a List.mem_cons_self
    refine ⟨⟨?_, ?_, ?_⟩, i_row_cong (b :: A) x B B' h.2 (fun y hy => hp y (List.mem_cons_of_mem _ hy)) (fun y hy => hl y (List.mem_cons_of_mem _ hy)) h'⟩
    · rw [e, hl b (by simp)]
      exact h.1.1
    · rw [e]
      exact h.1.2.1
    · rw [hl a (by simp), hl b (by simp)]
      exact h.1.2.2
theorem i_row_all {S S' : zS} {lo lo' : Nat → Int32} : ∀ l : List Nat, i_row S lo l → (∀ y ∈ l, (z_pg S' y).2 = (z_pg S y).2) → (∀ y ∈ l, lo' y = lo y) → i_row S' lo' l
  | [], h, _, _ => h
  | [x], h, hp, _ => by
    unfold i_row at *
    rw [hp x List.mem_cons_self]
    exact h
  | x :: y :: t, h, hp, hl => by
    refine ⟨?_, i_row_all (y :: t) h.2 (fun z hz => hp z (List.mem_cons_of_mem _ hz)) (fun z hz => hl z (List.mem_cons_of_mem _ hz))⟩
    have h1 := h.1
    unfold i_lk at *
    rw [hp x List.mem_cons_self, hl x List.mem_cons_self, hl y (List.mem_cons_of_mem _ List.mem_cons_self)]
    exact h1
/-- lower ends rise -/
theorem i_row_pw {S : zS} {lo : Nat → Int32} : ∀ l : List Nat, i_row S lo l → l.Pairwise (fun a b => lo a < lo b)
  | [], _ => List.Pairwise.nil
  | [x], _ => List.pairwise_singleton _ _
  | x :: y :: t, h => by
    have ih := i_row_pw (y :: t) h.2
    refine List.pairwise_cons.mpr ⟨fun z hz => ?_, ih⟩
    rcases List.mem_cons.mp hz with e | e
    · rw [e]
      exact h.1.2.2
    · exact kv_lt_trans h.1.2.2 ((List.pairwise_cons.mp ih).1 z e)
theorem i_row_at {S : zS} {lo : Nat → Int32} {l : List Nat} (h : i_row S lo l) {x : Nat} (hx : x ∈ l) : ∃ A B, l = A ++ x :: B ∧ i_row S lo (x :: B) ∧ x ∉ A ∧ x ∉ B ∧ (∀ y ∈ A, lo y < lo x) ∧ (∀ y ∈ B, lo x < lo y) := by
  obtain ⟨A, B, rfl⟩ := List.append_of_mem hx
  have hp := i_row_pw _ h
  obtain ⟨p1, p2, p3⟩ := List.pairwise_append.mp hp
  have p4 := (List.pairwise_cons.mp p2).1
  have p5 : ∀ y ∈ A, lo y < lo x := fun y hy => p3 y hy x List.mem_cons_self
  exact ⟨A, B, rfl, i_row_app A x B h, fun w => kv_lt_irrefl (p5 x w), fun w => kv_lt_irrefl (p4 x w), p5, p4⟩
/-- the neighbour at the right -/
theorem i_row_nx {S : zS} {lo : Nat → Int32} {l : List Nat} (h : i_row S lo l) {x : Nat} (hx : x ∈ l) : ((z_pg S x).2.1 = nI 1000 ∧ (z_pg S x).2.2 = -2) ∨ ∃ y ∈ l, i_lk S lo x y := by
  obtain ⟨A, B, rfl, h2, -⟩ := i_row_at h hx
  cases B with
  | nil => exact Or.inl h2
  | cons y t => exact Or.inr ⟨y, by simp, h2.1⟩
theorem i_row_hi {S : zS} {lo : Nat → Int32} {l : List Nat} (h : i_row S lo l) {x y : Nat} (hx : x ∈ l) (hy : y ∈ l) (hxy : lo x < lo y) : (z_pg S x).2.1 ≤ lo y := by
  obtain ⟨A, B, rfl, h2, -, -, p5, p4⟩ := i_row_at h hx
  rcases List.mem_append.mp hy with w | w
  · exact absurd (kv_lt_trans hxy (p5 y w)) (fun e => kv_lt_irrefl e)
  · rcases List.mem_cons.mp w with e | e
    · subst e
      exact absurd hxy (fun e => kv_lt_irrefl e)
    · cases B with
      | nil => cases e
      | cons z t =>
        rw [h2.1.1]
        rcases List.mem_cons.mp e with e2 | e2
        · rw [e2]
          exact Int32.le_refl _
        · have := (List.pairwise_cons.mp (i_row_pw _ h2.2)).1 y e2
          rw [Int32.le_iff_toInt_le]
          rw [Int32.lt_iff_toInt_lt] at this
          omega
theorem i_row_inj {S : zS} {lo : Nat → Int32} {l : List Nat} (h : i_row S lo l) {x y : Nat} (hx : x ∈ l) (hy : y ∈ l) (hxy : lo x = lo y) : x = y := by
  obtain ⟨A, B, rfl, h2, -, -, p5, p4⟩ := i_row_at h hx
  rcases List.mem_append.mp hy with w | w
  · have := p5 y w
    rw [hxy] at this
    exact absurd this (fun e => kv_lt_irrefl e)
  · rcases List.mem_cons.mp w with e | e
    · exact e.symm
    · have := p4 y e
      rw [hxy] at this
      exact absurd this (fun e => kv_lt_irrefl e)
theorem i_K_eq (S : zS) : ∀ l, i_K S l = (l.flatMap fun p => (z_pg S p).1).length
  | [] => rfl
  | x :: t => by
    rw [List.flatMap_cons, List.length_append, ← i_K_eq S t]
    rfl
theorem i_K_app (S : zS) : ∀ A B, i_K S (A ++ B) = i_K S A + i_K S B
  | [], B => (Nat.zero_add _).symm
  | a :: A, B => by
    show (z_pg S a).1.length + i_K S (A ++ B) = (z_pg S a).1.length + i_K S A + i_K S B
    rw [i_K_app S A B, Nat.add_assoc]
theorem i_K_cong {S S' : zS} : ∀ l : List Nat, (∀ y ∈ l, (z_pg S' y).1 = (z_pg S y).1) → i_K S' l = i_K S l
  | [], _ => rfl
  | a :: A, h => by
    show (z_pg S' a).1.length + i_K S' A = (z_pg S a).1.length + i_K S A
    rw [h a List.mem_cons_self, i_K_cong A (fun y hy => h y (List.mem_cons_of_mem _ hy))]
theorem i_K_mem (S : zS) {l : List Nat} {x : Nat} (h : x ∈ l) : (z_pg S x).1.length ≤ i_K S l := by
  obtain ⟨A, B, rfl⟩ := List.append_of_mem h
  rw [i_K_app]
  show _ ≤ i_K S A + ((z_pg S x).1.length + i_K S B)
  omega
theorem i_row_rk {S : zS} {lo : Nat → Int32} : ∀ l : List Nat, i_row S lo l → z_rk S l
  | [], h => h
  | [x], h => h.2
  | x :: y :: t, h => ⟨h.1.2.1, i_row_rk (y :: t) h.2⟩
theorem i_P.R {S : zS} {rc : List Nat} {lo : Nat → Int32} (h : i_P S rc lo) (hK : i_K S rc ≤ 43) : z_R S rc :=
  ⟨h.hd, i_row_rk _ h.row, fun y hy => (h.mem y hy).2.1, by have := h.rl; have := h.W.2.2.1; omega, by rw [← i_K_eq]; exact hK⟩
/-! hands -/
/-- a hand knows a page, and a record as its top -/
def i_sw (S : zS) (u : Nat → Int32) (f : Nat → Prop) : Prop := ∃ r, r < zn S ∧ u 10 = nI r ∧ f r
def i_st (S : zS) (lo : Nat → Int32) (u : Nat → Int32) (s : Nat) : Prop := match s with
  | 0 => True
  | 1 => u 9 = nI 0
  | 2 => u 9 = nI 0 ∧ ∃ p, 1 ≤ p ∧ p < zp S ∧ u 2 = nI p ∧ lo p ≤ u 6
  | 3 => u 9 = nI 0 ∧ (u 0 = nI 1 ∨ u 0 = nI 2) ∧ (∃ p, 1 ≤ p ∧ p < zp S ∧ u 2 = nI p ∧ lo p ≤ u 6) ∧ i_sw S u fun r => zr S r 0 ≠ nI 4 ∧ u 6 < (z_ct S.1 r).2.1 ∧ (z_chain S.1 r).length ≤ 24
  | 4 => ∃ p, p < zp S ∧ u 2 = nI p
  | 5 => (∃ p, p < zp S ∧ u 2 = nI p) ∧ i_sw S u fun r => u 2 ≠ nI 0 → zr S r 0 ≠ nI 4
  | 6 => (∃ p, 1 ≤ p ∧ p < zp S ∧ u 2 = nI p) ∧ i_sw S u fun r => zr S r 0 = nI 0 ∧ zm S < (zi S r).length
  | 7 => ∃ q, 2 ≤ q ∧ q < zp S ∧ u 13 = nI q ∧ u 12 = lo q
  | 8 => (∃ q, 2 ≤ q ∧ q < zp S ∧ u 13 = nI q ∧ u 12 = lo q) ∧ i_sw S u fun r => kv_get (u 12) (z_ct S.1 r).1 = none
  | 9 => (∃ p, 1 ≤ p ∧ p < zp S ∧ u 2 = nI p) ∧ i_sw S u fun r => zr S r 0 = nI 0
  | 10 => ∃ v, 2 ≤ v ∧ v < zp S ∧ u 11 = nI v ∧ z_gone S v
  | 11 => (∃ v, 2 ≤ v ∧ v < zp S ∧ u 11 = nI v ∧ z_gone S v ∧ u 12 = lo v) ∧ (∃ p, 1 ≤ p ∧ p < zp S ∧ u 13 = nI p) ∧ i_sw S u fun r => zr S r 0 ≠ nI 4 ∧ (z_ct S.1 r).2.1 = u 12 ∧ (z_ct S.1 r).2.2 = u 11
  | 12 => ∃ v, 2 ≤ v ∧ v < zp S ∧ u 11 = nI v
  | 13 => (∃ v, 2 ≤ v ∧ v < zp S ∧ u 11 = nI v) ∧ i_sw S u fun r => kv_ix (u 11) (z_ct S.1 r).1 ≠ none
  | _ => False
/-- what a hand that doesn't rest is about -/
def i_ab (u : Nat → Int32) : Prop := nI 0 ≤ u 6 ∧ u 6 < nI 1000 ∧ (u 0 = nI 1 ∨ u 0 = nI 2 ∨ u 0 = nI 3)
/-- told, or without an answer -/
abbrev i_h9 (u : Nat → Int32) : Prop := (u 9 = nI 0 ∧ u 8 = nI 0) ∨ u 9 = nI 1
def i_hu (S : zS) (lo : Nat → Int32) (u : Nat → Int32) : Prop := i_h9 u ∧ ∃ s, s < 14 ∧ u 1 = nI s ∧ i_st S lo u s ∧ (s ≠ 0 → i_ab u)
theorem i_hu.at {S : zS} {lo : Nat → Int32} {u : Nat → Int32} (h : i_hu S lo u) {s : Nat} (hs : s < 14) (h1 : u 1 = nI s) : i_st S lo u s ∧ (s ≠ 0 → i_ab u) := by
  obtain ⟨-, t, t1, t2, t3, t4⟩ := h
  have : t = s := (nI_eq (a := t) (b := s) (by omega) (by omega)).mp (t2.symm.trans h1)
  subst this
  exact ⟨t3, t4⟩
/-- S' has all that S has -/
def i_ge (S S' : zS) (lo lo' : Nat → Int32) : Prop := zn S ≤ zn S' ∧ zp S ≤ zp S' ∧ zm S' = zm S ∧ z_sub S.1 S'.1 (zn S) ∧ (∀ p, p < zp S → lo' p = lo p) ∧ ∀ p, p < zp S → z_gone S p → z_gone S' p
theorem i_sw.ge {S S' : zS} {lo lo' : Nat → Int32} {u : Nat → Int32} {f f' : Nat → Prop} (h : i_sw S u f) (g : i_ge S S' lo lo') (hf : ∀ r, r < zn S → f r → f' r) : i_sw S' u f' := by
  obtain ⟨r, h1, h2, h3⟩ := h
  exact ⟨r, Nat.lt_of_lt_of_le h1 g.1, h2, hf r h1 h3⟩
theorem i_hu.ge {S S' : zS} {lo lo' : Nat → Int32} {u : Nat → Int32} (hB : z_B S.1 (zn S)) (h : i_hu S lo u) (g : i_ge S S' lo lo') : i_hu S' lo' u := by
  obtain ⟨h9, s, s1, s2, s3, s4⟩ := h
  refine ⟨h9, s, s1, s2, ?_, s4⟩
  have ct : ∀ r, r < zn S → z_ct S'.1 r = z_ct S.1 r := fun r hr => g.2.2.2.1.ct hB hr
  have ch : ∀ r, r < zn S → z_chain S'.1 r = z_chain S.1 r := fun r hr => g.2.2.2.1.chain hB hr
  have so : ∀ r, r < zn S → zr S' r 0 = zr S r 0 := fun r hr => (g.2.2.2.1 r hr).1 0 (by omega) (by omega)
  have it : ∀ r, r < zn S → zi S' r = zi S r := fun r hr => (g.2.2.2.1 r hr).2
  have lt : ∀ {p}, p < zp S → p < zp S' := fun h => Nat.lt_of_lt_of_le h g.2.1
  match s, s3 with
  | 0, _ => trivial
  | 1, w => exact w
  | 2, ⟨w, p, a, b, c, e⟩ => exact ⟨w, p, a, lt b, c, by rw [g.2.2.2.2.1 p b]; exact e⟩
  | 3, ⟨w, w2, ⟨p, a, b, c, e⟩, x⟩ => exact ⟨w, w2, ⟨p, a, lt b, c, by rw [g.2.2.2.2.1 p b]; exact e⟩, x.ge g fun r hr y => by rw [so r hr, ct r hr, ch r hr]; exact y⟩
  | 4, ⟨p, a, b⟩ => exact ⟨p, lt a, b⟩
  | 5, ⟨⟨p, a, b⟩, x⟩ => exact ⟨⟨p, lt a, b⟩, x.ge g fun r hr y => by rw [so r hr]; exact y⟩
  | 6, ⟨⟨p, a, b, c⟩, x⟩ => exact ⟨⟨p, a, lt b, c⟩, x.ge g fun r hr y => by rw [so r hr, it r hr, g.2.2.1]; exact y⟩
  | 7, ⟨q, a, b, c, e⟩ => exact ⟨q, a, lt b, c, by rw [g.2.2.2.2.1 q b]; exact e⟩
  | 8, ⟨⟨q, a, b, c, e⟩, x⟩ => exact ⟨⟨q, a, lt b, c, by rw [g.2.2.2.2.1 q b]; exact e⟩, x.ge g fun r hr y => by rw [ct r hr]; exact y⟩
  | 9, ⟨⟨p, a, b, c⟩, x⟩ => exact ⟨⟨p, a, lt b, c⟩, x.ge g fun r hr y => by rw [so r hr]; exact y⟩
  | 10, ⟨v, a, b, c, e⟩ => exact ⟨v, a, lt b, c, g.2.2.2.2.2 v b e⟩
  | 11, ⟨⟨v, a, b, c, e, i⟩, ⟨p, j, k, l⟩, x⟩ => exact ⟨⟨v, a, lt b, c, g.2.2.2.2.2 v b e, by rw [g.2.2.2.2.1 v b]; exact i⟩, ⟨p, j, lt k, l⟩, x.ge g fun r hr y => by rw [so r hr, ct r hr]; exact y⟩
  | 12, ⟨v, a, b, c⟩ => exact ⟨v, a, lt b, c⟩
  | 13, ⟨⟨v, a, b, c⟩, x⟩ => exact ⟨⟨v, a, lt b, c⟩, x.ge g fun r hr y => by rw [ct r hr]; exact y⟩
/-! weights -/
abbrev i_nt (S : zS) (lo : Nat → Int32) (p : Nat) : Prop := kv_get (lo p) (z_pg S 0).1 = some (nI p)
def i_f (S : zS) (rc : List Nat) (lo : Nat → Int32) (p : Nat) : Nat := if p < 2 then 0 else if zp S ≤ p then 8 else if p ∈ rc then (if i_nt S lo p then 7 else 8) else (if i_nt S lo p then 1 else 0)
def i_s (rc : List Nat) (u : Nat → Int32) : Nat := if u 1 = nI 7 ∨ u 1 = nI 8 then (if (u 13).toNatClampNeg ∈ rc then 0 else 2) else if u 1 = nI 12 ∨ u 1 = nI 13 then (if (u 11).toNatClampNeg ∈ rc then 2 else 0) else 0
def i_r (S : zS) (rc : List Nat) (p : Nat) : Nat := if p = 0 then 0 else if zp S ≤ p then 27 else (if p ∈ rc then (if z_gone S p then 7 else 14) else 0) + z_len S p
def i_e (S : zS) (u : Nat → Int32) : Nat := if u 1 = nI 0 then 0 else (if u 9 = nI 1 then 0 else 13) + (if (u 1 = nI 4 ∨ u 1 = nI 5) ∧ (u 9 = nI 1 ∨ u 2 = nI 0 ∨ z_len S (u 2).toNatClampNeg < 24) then 6 else 0)
def i_t (S : zS) (u : Nat → Int32) : Nat := if u 1 = nI 3 ∧ u 0 = nI 1 ∧ kv_get (u 6) (z_ct S.1 (u 10).toNatClampNeg).1 = none then 1 else 0
def i_F (S : zS) (rc : List Nat) (lo : Nat → Int32) : Nat := i_sm (i_f S rc lo) 32 + i_sm (fun k => i_s rc (zh S k)) 4
def i_U (S : zS) (rc : List Nat) (lo : Nat → Int32) : Nat := 6 * zn S + 12 * i_F S rc lo + i_sm (i_r S rc) 32 + i_sm (fun k => i_e S (zh S k)) 4
def i_all (S : zS) (rc : List Nat) (lo : Nat → Int32) : Prop :=
  i_P S rc lo ∧ (∀ k, k < 4 → i_hu S lo (zh S k)) ∧ i_K S rc + i_sm (fun k => i_t S (zh S k)) 4 ≤ 43 ∧ i_F S rc lo + z_len S 0 ≤ 240 ∧ i_U S rc lo ≤ 8000 ∧ zc S < 100 ∧ 4 ≤ zm S ∧ zm S < 100 ∧ zl S < 100
section
variable {S : zS} {rc : List Nat} {lo : Nat → Int32}
theorem i_all.P (h : i_all S rc lo) : i_P S rc lo := h.1
theorem i_all.H (h : i_all S rc lo) : ∀ k, k < 4 → i_hu S lo (zh S k) := h.2.1
theorem i_all.N (h : i_all S rc lo) : i_K S rc + i_sm (fun k => i_t S (zh S k)) 4 ≤ 43 := h.2.2.1
theorem i_all.F (h : i_all S rc lo) : i_F S rc lo + z_len S 0 ≤ 240 := h.2.2.2.1
theorem i_all.U (h : i_all S rc lo) : i_U S rc lo ≤ 8000 := h.2.2.2.2.1
theorem i_all.c (h : i_all S rc lo) : zc S < 100 ∧ 4 ≤ zm S ∧ zm S < 100 ∧ zl S < 100 := h.2.2.2.2.2
theorem i_all.n (h : i_all S rc lo) : zn S ≤ 1333 := by
  have := h.U
  unfold i_U at this
  omega
theorem i_all.R (h : i_all S rc lo) : z_R S rc := h.P.R (by have := h.N; omega)
end
theorem i_t_le (S : zS) (u : Nat → Int32) : i_t S u ≤ 1 := by
  unfold i_t
  split <;> omega
theorem i_t_n3 {S : zS} {u : Nat → Int32} (h : u 1 ≠ nI 3) : i_t S u = 0 := if_neg fun w => h w.1
theorem i_t_ge {S S' : zS} {lo lo' : Nat → Int32} {u : Nat → Int32} (hB : z_B S.1 (zn S)) (h : i_hu S lo u) (g : i_ge S S' lo lo') : i_t S' u = i_t S u := by
  unfold i_t
  by_cases w : u 1 = nI 3
  · obtain ⟨-, -, -, r, hr, e, -⟩ := (h.at (s := 3) (by omega) w).1
    have := hB.1
    rw [e, nI_clamp (n := r) (by omega), g.2.2.2.1.ct hB hr]
  · simp only [w, false_and, if_false]
/-- the hand k goes on; what holds of the others holds still -/
theorem i_T {S S' : zS} {rc rc' : List Nat} {lo lo' : Nat → Int32} {k : Nat} (h : i_all S rc lo) (hk : k < 4) (hP : i_P S' rc' lo') (g : i_ge S S' lo lo') (ec : S'.2.2.2.2 = S.2.2.2.2) (ej : z_oth S S' k) (hu : i_hu S' lo' (zh S' k))
    (hK : i_K S' rc' + i_t S' (zh S' k) ≤ i_K S rc + i_t S (zh S k) ∨ i_K S' rc' ≤ 39) (hF : i_F S' rc' lo' + z_len S' 0 ≤ i_F S rc lo + z_len S 0) (hU : i_U S' rc' lo' ≤ i_U S rc lo) : i_all S' rc' lo' := by
  refine ⟨hP, fun j hj => ?_, ?_, Nat.le_trans hF h.F, Nat.le_trans hU h.U, ?_⟩
  · by_cases w : j = k
    · rw [w]
      exact hu
    · rw [ej j w]
      exact (h.H j hj).ge h.P.W.1 g
  · rcases hK with w | w
    · have := i_sm_up (f := fun k => i_t S' (zh S' k)) (g := fun k => i_t S (zh S k)) 4 hk (fun j hj ne => by
        show i_t S' (zh S' j) ≤ i_t S (zh S j)
        rw [ej j ne, i_t_ge h.P.W.1 (h.H j hj) g]
        exact Nat.le_refl _)
      have := h.N
      omega
    · have := i_sm_le (f := fun k => i_t S' (zh S' k)) (g := fun _ => 1) 4 (fun j _ => i_t_le _ _)
      rw [i_sm_c] at this
      omega
  · have := h.c
    unfold zc zm zl at *
    rw [ec]
    exact this
theorem i_P_hands {B : zB} {t : Nat → Nat} {H H' : Nat → Nat → Int32} {n : (Nat × Nat × Nat) × (Nat × Nat × Nat × Nat)} {rc : List Nat} {lo : Nat → Int32} (h : i_P (B, t, H, n) rc lo) : i_P (B, t, H', n) rc lo := ⟨h.1, h.2.1, i_row_all rc h.row (fun _ _ => rfl) (fun _ _ => rfl), h.2.2.2⟩
/-- only the hand k has changed -/
theorem i_T0 {S S' : zS} {rc : List Nat} {lo : Nat → Int32} {k : Nat} (h : i_all S rc lo) (hk : k < 4) (e1 : S'.1 = S.1) (e2 : S'.2.1 = S.2.1) (e3 : S'.2.2.2 = S.2.2.2) (ej : z_oth S S' k) (hu : i_hu S lo (zh S' k))
    (hK : i_t S (zh S' k) ≤ i_t S (zh S k) ∨ i_K S rc ≤ 39) (hs : i_s rc (zh S' k) ≤ i_s rc (zh S k)) (he : i_e S (zh S' k) ≤ i_e S (zh S k)) : i_all S' rc lo := by
  obtain ⟨B, t, H, n⟩ := S
  obtain ⟨B', t', H', n'⟩ := S'
  simp only at e1 e2 e3
  subst e1 e2 e3
  have g : i_ge (B', t', H, n') (B', t', H', n') lo lo := ⟨Nat.le_refl _, Nat.le_refl _, rfl, z_sub.refl _ _, fun _ _ => rfl, fun _ _ h => h⟩
  have s1 := i_sm_up (f := fun k => i_s rc (zh (B', t', H', n') k)) (g := fun k => i_s rc (zh (B', t', H, n') k)) 4 hk (fun j _ ne => by
    show i_s rc _ ≤ i_s rc _
    rw [ej j ne]
    exact Nat.le_refl _)
  have s2 := i_sm_up (f := fun k => i_e (B', t', H', n') (zh (B', t', H', n') k)) (g := fun k => i_e (B', t', H, n') (zh (B', t', H, n') k)) 4 hk (fun j _ ne => by
    show i_e _ _ ≤ i_e _ _
    rw [ej j ne]
    exact Nat.le_refl _)
  have he' : i_e (B', t', H', n') (zh (B', t', H', n') k) ≤ i_e (B', t', H, n') (zh (B', t', H, n') k) := he
  have hF : i_F (B', t', H', n') rc lo ≤ i_F (B', t', H, n') rc lo := by
    unfold i_F
    have : i_sm (i_f (B', t', H', n') rc lo) 32 = i_sm (i_f (B', t', H, n') rc lo) 32 := rfl
    omega
  have eK : i_K (B', t', H', n') rc = i_K (B', t', H, n') rc := i_K_cong rc (fun _ _ => rfl)
  have hK' : i_t (B', t', H', n') (zh (B', t', H', n') k) ≤ i_t (B', t', H, n') (zh (B', t', H, n') k) ∨ i_K (B', t', H, n') rc ≤ 39 := hK
  refine i_T h hk (i_P_hands h.P) g rfl ej hu (by rw [eK]; exact hK'.imp (fun w => Nat.add_le_add_left w _) id) (Nat.add_le_add_right hF _) ?_
  unfold i_U
  have e3 : i_sm (i_r (B', t', H', n') rc) 32 = i_sm (i_r (B', t', H, n') rc) 32 := rfl
  have e4 : zn (B', t', H', n') = zn (B', t', H, n') := rfl
  omega
