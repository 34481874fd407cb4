/-! KN: how long terms' codes are at most -/
set_option maxRecDepth 100000
def xq_ {α : Type} (P : α → Nat → Prop) (r : xR α) : Prop := match r with
  | .inl _ => True
  | .inr a => P a.1 a.2
theorem xq_.bd {α β : Type} {P : α → Nat → Prop} {Q : β → Nat → Prop} {r : xR α} {f : α → Nat → xR β} (h : xq_ P r) (hf : ∀ a t, P a t → xq_ Q (f a t)) : xq_ Q (x_bd r f) := by
  cases r with
  | inl a => trivial
  | inr a => exact hf a.1 a.2 h
def xl_le (l : xL) : Prop := l.2.2.1.length ≤ 400 ∧ l.2.2.2.length ≤ 400
def xT_le : (d : Nat) → xT d → Prop
  | 0, l => xl_le l
  | _ + 1, .inl l => xl_le l
  | d + 1, .inr b => b.2.length ≤ 400 ∧ ∀ x ∈ b.2, xT_le d x
section
variable {tk : Nat → tK}
theorem xq_pas {t : Nat} (ht : t ≤ 400) : xq_ (fun _ t' => t' = t + 1 ∧ t' ≤ 400) (x_pas t) := by
  unfold x_pas
  split
  · trivial
  · exact ⟨rfl, by show t + 1 ≤ 400; omega⟩
theorem xq_must {k t : Nat} (ht : t ≤ 400) : xq_ (fun _ t' => t' = t + 1 ∧ t' ≤ 400) (x_must tk k t) := by
  unfold x_must
  split
  · exact xq_pas ht
  · trivial
abbrev xqU (u : Nat → xR xC) : Prop := ∀ t, t ≤ 400 → xq_ (fun c t' => t + c.length ≤ t' ∧ t' ≤ 400) (u t)
theorem xq_lp {u : Nat → xR xC} {p : Nat → Bool} (hu : xqU u) (t0 : Nat) : ∀ z t c, t0 + c.length ≤ t → t ≤ 400 → xq_ (fun c t' => t0 + c.length ≤ t' ∧ t' ≤ 400) (x_lp tk u p z t c)
  | 0, t, c, h, ht => ⟨h, ht⟩
  | z + 1, t, c, h, ht => by
    unfold x_lp
    split
    · refine (xq_pas ht).bd fun _ t1 h1 => (hu t1 h1.2).bd fun c2 t2 h2 => xq_lp hu t0 z t2 _ ?_ h2.2
      simp only [List.length_append, List.length_cons, List.length_nil]
      omega
    · exact ⟨h, ht⟩
theorem xq_part {u : Nat → xR xC} (hu : xqU u) : xqU (x_part tk u) := fun t ht => (hu t ht).bd fun c t1 h1 => xq_lp hu t _ t1 c h1.1 h1.2
theorem xq_sum {u : Nat → xR xC} (hu : xqU u) : xqU (x_sum tk u) := fun t ht => (xq_part hu t ht).bd fun c t1 h1 => xq_lp (xq_part hu) t _ t1 c h1.1 h1.2
theorem xq_unit : ∀ d, xqU (x_unit tk d)
  | 0, t, ht => by
    unfold x_unit
    split
    · exact (xq_pas ht).bd fun _ t1 h1 => ⟨by show t + 1 ≤ t1; omega, h1.2⟩
    · split
      · exact (xq_pas ht).bd fun _ t1 h1 => ⟨by show t + 1 ≤ t1; omega, h1.2⟩
      · split <;> trivial
  | d + 1, t, ht => by
    unfold x_unit
    split
    · exact (xq_pas ht).bd fun _ t1 h1 => ⟨by show t + 1 ≤ t1; omega, h1.2⟩
    · split
      · exact (xq_pas ht).bd fun _ t1 h1 => ⟨by show t + 1 ≤ t1; omega, h1.2⟩
      · split
        · exact (xq_pas ht).bd fun _ t1 h1 => (xq_sum (xq_unit d) t1 h1.2).bd fun c t2 h2 => (xq_must h2.2).bd fun _ t3 h3 => ⟨by show t + c.length ≤ t3; omega, h3.2⟩
        · trivial
theorem xq_term : xqU (x_term tk) := xq_sum (xq_unit 6)
theorem xq_num {lo hi : Int32} {t : Nat} {w : Option Nat} (ht : t ≤ 400) : xq_ (fun _ t' => t ≤ t' ∧ t' ≤ 400) (x_num tk lo hi t w) := by
  unfold x_num
  split
  · exact (xq_pas ht).bd fun _ t1 h => ⟨by show t ≤ t1; omega, h.2⟩
  · trivial
theorem xq_act {hd : Int32} {t : Nat} (ht : t ≤ 400) : xq_ (fun l t' => xl_le l ∧ t ≤ t' ∧ t' ≤ 400) (x_act tk hd t) := by
  unfold x_act
  split
  · exact (xq_pas ht).bd fun _ t1 h1 => (xq_term t1 h1.2).bd fun a t2 h2 => (xq_term t2 h2.2).bd fun b t3 h3 => ⟨⟨by show a.length ≤ 400; omega, by show b.length ≤ 400; omega⟩, by show t ≤ t3; omega, h3.2⟩
  · split
    · exact (xq_pas ht).bd fun _ t1 h1 => (xq_term t1 h1.2).bd fun a t2 h2 => ⟨⟨by show a.length ≤ 400; omega, Nat.zero_le _⟩, by show t ≤ t2; omega, h2.2⟩
    · trivial
theorem xq_one {t : Nat} {w : Option Nat} (ht : t ≤ 400) : xq_ (fun l t' => xl_le l.1 ∧ t ≤ t' ∧ t' ≤ 400) (x_one tk t w) := by
  unfold x_one
  split
  · exact (xq_pas ht).bd fun _ t1 h1 => (xq_num h1.2).bd fun a t2 h2 => (xq_act h2.2).bd fun _ t3 h => ⟨h.1, by show t ≤ t3; omega, h.2.2⟩
  · split
    · exact (xq_pas ht).bd fun _ t1 h1 => (xq_num h1.2).bd fun a t2 h2 => (xq_term t2 h2.2).bd fun c t3 h => ⟨⟨by show c.length ≤ 400; omega, Nat.zero_le _⟩, by show t ≤ t3; omega, h.2⟩
    · split
      · exact (xq_pas ht).bd fun _ t1 h1 => (xq_num h1.2).bd fun a t2 h2 => ⟨⟨Nat.zero_le _, Nat.zero_le _⟩, by show t ≤ t2; omega, h2.2⟩
      · split
        · exact (xq_pas ht).bd fun _ t1 h1 => (xq_num h1.2).bd fun a t2 h2 => ⟨⟨Nat.zero_le _, Nat.zero_le _⟩, by show t ≤ t2; omega, h2.2⟩
        · split
          · exact (xq_pas ht).bd fun _ t1 h1 => ⟨⟨Nat.zero_le _, Nat.zero_le _⟩, by show t ≤ t1; omega, h1.2⟩
          · exact (xq_act ht).bd fun _ _ h => h
theorem xq_until {α : Type} {P : α → Prop} {f : Nat → Option Nat → xR (α × Option Nat)} {k : Nat} (hf : ∀ t w, t ≤ 400 → xq_ (fun x t' => P x.1 ∧ t < t' ∧ t' ≤ 400) (f t w)) : ∀ z t w l, (∀ x ∈ l, P x) → l.length ≤ t → t ≤ 400 → xq_ (fun l t' => (∀ x ∈ l.1, P x) ∧ (t ≤ t' ∧ l.1.length ≤ t') ∧ t' ≤ 400) (x_until tk f k z t w l)
  | 0, t, w, l, hl, h0, ht => ⟨hl, ⟨Nat.le_refl _, h0⟩, ht⟩
  | z + 1, t, w, l, hl, h0, ht => by
    unfold x_until
    split
    · exact ⟨hl, ⟨Nat.le_refl _, h0⟩, ht⟩
    · refine (hf t w ht).bd fun a t1 h1 => ?_
      have r := xq_until (k := k) hf z t1 a.2 (l ++ [a.1]) (fun x hx => by
        rcases List.mem_append.mp hx with hx | hx
        · exact hl x hx
        · rw [List.mem_singleton.mp hx]
          exact h1.1) (by rw [List.length_append, List.length_singleton]; omega) h1.2.2
      generalize x_until tk f k z t1 a.2 (l ++ [a.1]) = q at r
      cases q with
      | inl _ => trivial
      | inr q => exact ⟨r.1, ⟨by have := r.2.1.1; omega, r.2.1.2⟩, r.2.2⟩
theorem xq_told : ∀ d t w, t ≤ 400 → xq_ (fun x t' => xT_le d x.1 ∧ t < t' ∧ t' ≤ 400) (x_told tk d t w)
  | 0, t, w, ht => by
    unfold x_told
    split
    · trivial
    · exact (xq_one ht).bd fun l t1 h1 => (xq_must h1.2.2).bd fun _ t2 h => ⟨h1.1, by show t < t2; omega, h.2⟩
  | d + 1, t, w, ht => by
    have ih := xq_told d
    unfold x_told
    split
    · exact (xq_pas ht).bd fun _ t1 h1 => (xq_num h1.2).bd fun n t2 h2 => (xq_must h2.2).bd fun _ t3 h3 => (xq_until (P := xT_le d) ih (401 - t3) t3 n.2 [] (fun _ hx => absurd hx List.not_mem_nil) (Nat.zero_le _) h3.2).bd fun l t4 h4 => (xq_pas h4.2.2).bd fun _ t5 h5 => (xq_must h5.2).bd fun _ t6 h6 => ⟨⟨by show l.1.length ≤ 400; omega, h4.1⟩, by show t < t6; omega, h6.2⟩
    · exact (xq_one ht).bd fun l t1 h1 => (xq_must h1.2.2).bd fun _ t2 h => ⟨h1.1, by show t < t2; omega, h.2⟩
theorem xq_set {k : Nat} {lo hi own : Int32} {t : Nat} {w : Option Nat} (ht : t ≤ 400) : xq_ (fun _ t' => t' ≤ 400) (x_set tk k lo hi own t w) := by
  unfold x_set
  split
  · exact (xq_pas ht).bd fun _ t1 h1 => (xq_num h1.2).bd fun v t2 h2 => (xq_must h2.2).bd fun _ t3 h3 => h3.2
  · exact ht
theorem xq_text : xq_ (fun r _ => r.2.2.2.1.length ≤ 400 ∧ ∀ x ∈ r.2.2.2.1, xT_le 3 x) (x_text tk) := by
  unfold x_text
  exact (xq_set (Nat.zero_le _)).bd fun a t1 h1 => (xq_set h1).bd fun b t2 h2 => (xq_set h2).bd fun c t3 h3 => (xq_until (P := xT_le 3) (xq_told 3) (401 - t3) t3 c.2 [] (fun _ hx => absurd hx List.not_mem_nil) (Nat.zero_le _) h3).bd fun l t4 h4 => ⟨by show l.1.length ≤ 400; omega, h4.1⟩
end
