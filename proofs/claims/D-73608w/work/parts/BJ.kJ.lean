/-! KJ: no reading goes beyond the last token; settings -/
set_option maxRecDepth 100000
def x_le {α : Type} (e : Nat) (r : xR α) : Prop := match r with
  | .inl a => a.2 ≤ e + 1
  | .inr a => a.2 ≤ e
theorem x_le.bd {α β : Type} {e : Nat} {r : xR α} {f : α → Nat → xR β} (h : x_le e r) (hf : ∀ a t, t ≤ e → x_le e (f a t)) : x_le e (x_bd r f) := by
  cases r with
  | inl a => exact h
  | inr a => exact hf a.1 a.2 h
section
variable {tk : Nat → tK} {e : Nat}
theorem x_le_pas {t : Nat} (h0 : ∀ j, e ≤ j → x_kd tk j = 0) (ht : t ≤ e) (hk : x_kd tk t ≠ 0) : x_le e (x_pas t) := by
  have : t ≠ e := fun q => hk (h0 t (by omega))
  unfold x_pas
  split
  · exact Nat.le_succ_of_le ht
  · show t + 1 ≤ e
    omega
theorem x_le_must {k t : Nat} (h0 : ∀ j, e ≤ j → x_kd tk j = 0) (ht : t ≤ e) (hk : k ≠ 0) : x_le e (x_must tk k t) := by
  unfold x_must
  split
  · next q => exact x_le_pas h0 ht (by rw [q]; exact hk)
  · exact Nat.le_succ_of_le ht
theorem x_le_lp {u : Nat → xR xC} {p : Nat → Bool} (h0 : ∀ j, e ≤ j → x_kd tk j = 0) (hp : p 0 = false) (hu : ∀ t, t ≤ e → x_le e (u t)) : ∀ z t c, t ≤ e → x_le e (x_lp tk u p z t c)
  | 0, t, c, ht => ht
  | z + 1, t, c, ht => by
    unfold x_lp
    split
    · next q => exact (x_le_pas h0 ht (fun y => by rw [y, hp] at q; cases q)).bd fun _ t1 h1 => (hu t1 h1).bd fun c2 t2 h2 => x_le_lp h0 hp hu z t2 _ h2
    · exact ht
theorem x_le_part {u : Nat → xR xC} (h0 : ∀ j, e ≤ j → x_kd tk j = 0) (hu : ∀ t, t ≤ e → x_le e (u t)) (t : Nat) (ht : t ≤ e) : x_le e (x_part tk u t) := (hu t ht).bd fun c t1 h1 => x_le_lp h0 rfl hu _ t1 c h1
theorem x_le_sum {u : Nat → xR xC} (h0 : ∀ j, e ≤ j → x_kd tk j = 0) (hu : ∀ t, t ≤ e → x_le e (u t)) (t : Nat) (ht : t ≤ e) : x_le e (x_sum tk u t) := (x_le_part h0 hu t ht).bd fun c t1 h1 => x_le_lp h0 rfl (x_le_part h0 hu) _ t1 c h1
theorem x_le_unit (h0 : ∀ j, e ≤ j → x_kd tk j = 0) : ∀ d t, t ≤ e → x_le e (x_unit tk d t)
  | 0, t, ht => by
    unfold x_unit
    split
    · next q => exact (x_le_pas h0 ht (by omega)).bd fun _ _ h => h
    · split
      · next q => exact (x_le_pas h0 ht (by omega)).bd fun _ _ h => h
      · split <;> exact Nat.le_succ_of_le ht
  | d + 1, t, ht => by
    unfold x_unit
    split
    · next q => exact (x_le_pas h0 ht (by omega)).bd fun _ _ h => h
    · split
      · next q => exact (x_le_pas h0 ht (by omega)).bd fun _ _ h => h
      · split
        · next q => exact (x_le_pas h0 ht (by omega)).bd fun _ t1 h1 => (x_le_sum h0 (x_le_unit h0 d) t1 h1).bd fun c t2 h2 => (x_le_must h0 h2 (by omega)).bd fun _ _ h => h
        · exact Nat.le_succ_of_le ht
theorem x_le_term (h0 : ∀ j, e ≤ j → x_kd tk j = 0) {t : Nat} (ht : t ≤ e) : x_le e (x_term tk t) := x_le_sum h0 (x_le_unit h0 6) t ht
theorem x_le_num (h0 : ∀ j, e ≤ j → x_kd tk j = 0) {lo hi : Int32} {t : Nat} {w : Option Nat} (ht : t ≤ e) : x_le e (x_num tk lo hi t w) := by
  unfold x_num
  split
  · next q => exact (x_le_pas h0 ht (by omega)).bd fun _ _ h => h
  · exact Nat.le_succ_of_le ht
theorem x_le_act (h0 : ∀ j, e ≤ j → x_kd tk j = 0) {hd : Int32} {t : Nat} (ht : t ≤ e) : x_le e (x_act tk hd t) := by
  unfold x_act
  split
  · next q => exact (x_le_pas h0 ht (by omega)).bd fun _ t1 h1 => (x_le_term h0 h1).bd fun a t2 h2 => (x_le_term h0 h2).bd fun _ _ h => h
  · split
    · next q => exact (x_le_pas h0 ht (by omega)).bd fun _ t1 h1 => (x_le_term h0 h1).bd fun _ _ h => h
    · exact Nat.le_succ_of_le ht
theorem x_le_one (h0 : ∀ j, e ≤ j → x_kd tk j = 0) {t : Nat} {w : Option Nat} (ht : t ≤ e) : x_le e (x_one tk t w) := by
  unfold x_one
  split
  · next q => exact (x_le_pas h0 ht (by omega)).bd fun _ t1 h1 => (x_le_num h0 h1).bd fun a t2 h2 => (x_le_act h0 h2).bd fun _ _ h => h
  · split
    · next q => exact (x_le_pas h0 ht (by omega)).bd fun _ t1 h1 => (x_le_num h0 h1).bd fun a t2 h2 => (x_le_term h0 h2).bd fun _ _ h => h
    · split
      · next q => exact (x_le_pas h0 ht (by omega)).bd fun _ t1 h1 => (x_le_num h0 h1).bd fun _ _ h => h
      · split
        · next q => exact (x_le_pas h0 ht (by omega)).bd fun _ t1 h1 => (x_le_num h0 h1).bd fun _ _ h => h
        · split
          · next q => exact (x_le_pas h0 ht (by omega)).bd fun _ _ h => h
          · exact (x_le_act h0 ht).bd fun _ _ h => h
theorem x_le_until {α : Type} {f : Nat → Option Nat → xR (α × Option Nat)} {k : Nat} (hf : ∀ t w, t ≤ e → x_le e (f t w)) : ∀ z t w l, t ≤ e → x_le e (x_until tk f k z t w l)
  | 0, t, w, l, ht => ht
  | z + 1, t, w, l, ht => by
    unfold x_until
    split
    · exact ht
    · exact (hf t w ht).bd fun a t1 h1 => x_le_until hf z t1 a.2 _ h1
theorem x_le_told (h0 : ∀ j, e ≤ j → x_kd tk j = 0) : ∀ d t w, t ≤ e → x_le e (x_told tk d t w)
  | 0, t, w, ht => by
    unfold x_told
    split
    · exact Nat.le_succ_of_le ht
    · exact (x_le_one h0 ht).bd fun l t1 h1 => (x_le_must h0 h1 (by omega)).bd fun _ _ h => h
  | d + 1, t, w, ht => by
    have ih := x_le_told h0 d
    unfold x_told
    split
    · next q =>
      refine (x_le_pas h0 ht (by omega)).bd fun _ t1 h1 => (x_le_num h0 h1).bd fun n t2 h2 => (x_le_must h0 h2 (by omega)).bd fun _ t3 h3 => (x_le_until ih (401 - t3) t3 n.2 [] h3).bd fun l t4 h4 => ?_
      by_cases q4 : x_kd tk t4 = 0
      · unfold x_pas
        split
        · exact Nat.le_succ_of_le h4
        · show x_le e (x_bd (x_must tk 4 (t4 + 1)) fun _ t6 => _)
          by_cases q5 : x_kd tk (t4 + 1) = 4
          · have lt : t4 + 1 < e := by
              rcases Nat.lt_or_ge (t4 + 1) e with y | y
              · exact y
              · rw [h0 _ y] at q5
                exact absurd q5 (by decide)
            exact (x_le_must h0 (by omega) (by omega)).bd fun _ _ h => h
          · unfold x_must
            rw [if_neg q5]
            show t4 + 1 ≤ e + 1
            omega
      · exact (x_le_pas h0 h4 q4).bd fun _ t5 h5 => (x_le_must h0 h5 (by omega)).bd fun _ _ h => h
    · exact (x_le_one h0 ht).bd fun l t1 h1 => (x_le_must h0 h1 (by omega)).bd fun _ _ h => h
theorem x_le_set (h0 : ∀ j, e ≤ j → x_kd tk j = 0) {k : Nat} (hk : k ≠ 0) {lo hi own : Int32} {t : Nat} {w : Option Nat} (ht : t ≤ e) : x_le e (x_set tk k lo hi own t w) := by
  unfold x_set
  split
  · next q => exact (x_le_pas h0 ht (by omega)).bd fun _ t1 h1 => (x_le_num h0 h1).bd fun v t2 h2 => (x_le_must h0 h2 (by omega)).bd fun _ _ h => h
  · exact ht
theorem x_le_sets (h0 : ∀ j, e ≤ j → x_kd tk j = 0) : x_le e (x_sets tk) := (x_le_set h0 (by omega) (Nat.zero_le e)).bd fun a t1 h1 => (x_le_set h0 (by omega) h1).bd fun b t2 h2 => (x_le_set h0 (by omega) h2).bd fun _ _ h => h
theorem x_le_text (h0 : ∀ j, e ≤ j → x_kd tk j = 0) : x_le e (x_text tk) := by
  rw [x_text_eq]
  exact (x_le_sets h0).bd fun a t3 h3 => (x_le_until (x_le_told h0 3) _ t3 _ [] h3).bd fun _ _ h => h
end
theorem tk_row_out {b : Nat → Int32} {n : Nat} : ∀ j, (tk_at (tk_f b n) n 0).length - 1 ≤ j → x_kd (tk_row b n) j = 0 := by
  intro j hj
  obtain ⟨p, q, l, e⟩ := tk_fl_ok (f := tk_f b n) (n := n) (n - 0) 0 (Nat.zero_le _)
  have e' : tk_at (tk_f b n) n 0 = l ++ [(0, n, n, nI 0)] := e
  unfold x_kd tk_row
  rw [e'] at hj ⊢
  have hl : (l ++ [((0, n, n, nI 0) : tK)]).length = l.length + 1 := by rw [List.length_append]; rfl
  rw [List.getD_eq_getElem?_getD]
  by_cases c : j = l.length
  · subst c
    rw [List.getElem?_concat_length]
    rfl
  · rw [List.getElem?_eq_none (by omega)]
    rfl
theorem tk_fl_len {f : Nat → Int32} {n : Nat} : ∀ z k, (tk_fl f n z k).length ≤ z + 1
  | 0, _ => Nat.le_refl _
  | z + 1, k => by
    unfold tk_fl
    split
    · exact Nat.succ_le_succ (Nat.zero_le _)
    · split
      · exact Nat.le_succ_of_le (tk_fl_len z _)
      · exact Nat.succ_le_succ (tk_fl_len z _)
