/-! TF: terms' codes are whole; remainders -/
set_option maxRecDepth 100000
def x_dp : xC → Nat → Option Nat
  | [], n => some n
  | (k, _) :: r, n => if k < 2 then x_dp r (n + 1) else if 2 ≤ n then x_dp r (n - 1) else none
theorem x_dp_app : ∀ (a b : xC) n k, x_dp a n = some k → x_dp (a ++ b) n = x_dp b k
  | [], b, n, k, h => by cases h; rfl
  | (q, v) :: r, b, n, k, h => by
    unfold x_dp at h
    show (if q < 2 then x_dp (r ++ b) (n + 1) else if 2 ≤ n then x_dp (r ++ b) (n - 1) else none) = x_dp b k
    split
    · next w =>
      rw [if_pos w] at h
      exact x_dp_app r b _ _ h
    · next w =>
      rw [if_neg w] at h
      split
      · next w2 =>
        rw [if_pos w2] at h
        exact x_dp_app r b _ _ h
      · next w2 =>
        rw [if_neg w2] at h
        cases h
def x_ok (c : xC) : Prop := (∀ n, x_dp c n = some (n + 1)) ∧ ∀ p ∈ c, p.1 ≤ 6 ∧ (p.1 = 1 → ∃ j, j < 6 ∧ p.2 = nI j)
theorem x_op_in (k : Nat) : 2 ≤ x_op k ∧ x_op k ≤ 6 := by
  unfold x_op
  split
  · omega
  · split
    · omega
    · split
      · omega
      · split <;> omega
theorem x_ok_op {c c2 : xC} (h : x_ok c) (h2 : x_ok c2) (k : Nat) (v : Int32) : x_ok (c ++ c2 ++ [(x_op k, v)]) := by
  have hk := x_op_in k
  refine ⟨fun n => ?_, fun p hp => ?_⟩
  · rw [List.append_assoc, x_dp_app _ _ _ _ (h.1 n), x_dp_app _ _ _ _ (h2.1 (n + 1))]
    unfold x_dp
    rw [if_neg (by omega), if_pos (by omega)]
    rfl
  · rcases List.mem_append.mp hp with hp | hp
    · rcases List.mem_append.mp hp with hp | hp
      · exact h.2 p hp
      · exact h2.2 p hp
    · rw [List.mem_singleton.mp hp]
      exact ⟨hk.2, fun w => absurd w (by show x_op k ≠ 1; omega)⟩
theorem x_bd_inr {α β : Type} {r : xR α} {f : α → Nat → xR β} {b : β × Nat} (h : x_bd r f = .inr b) : ∃ a t, r = .inr (a, t) ∧ f a t = .inr b := by
  cases r with
  | inl a => cases h
  | inr a => exact ⟨a.1, a.2, rfl, h⟩
section
variable {tk : Nat → tK}
theorem x_lp_ok {u : Nat → xR xC} {p : Nat → Bool} (hu : ∀ t c t', u t = .inr (c, t') → x_ok c) : ∀ z t c c' t', x_ok c → x_lp tk u p z t c = .inr (c', t') → x_ok c'
  | 0, t, c, c', t', hc, h => by cases h; exact hc
  | z + 1, t, c, c', t', hc, h => by
    unfold x_lp at h
    split at h
    · obtain ⟨a, t1, -, h1⟩ := x_bd_inr h
      obtain ⟨c2, t2, h2, h3⟩ := x_bd_inr h1
      exact x_lp_ok hu z t2 _ c' t' (x_ok_op hc (hu _ _ _ h2) _ _) h3
    · cases h
      exact hc
theorem x_part_ok {u : Nat → xR xC} (hu : ∀ t c t', u t = .inr (c, t') → x_ok c) (t : Nat) (c : xC) (t' : Nat) (h : x_part tk u t = .inr (c, t')) : x_ok c := by
  obtain ⟨c1, t1, h1, h2⟩ := x_bd_inr h
  exact x_lp_ok hu _ _ _ _ _ (hu _ _ _ h1) h2
theorem x_sum_ok {u : Nat → xR xC} (hu : ∀ t c t', u t = .inr (c, t') → x_ok c) (t : Nat) (c : xC) (t' : Nat) (h : x_sum tk u t = .inr (c, t')) : x_ok c := by
  obtain ⟨c1, t1, h1, h2⟩ := x_bd_inr h
  exact x_lp_ok (x_part_ok hu) _ _ _ _ _ (x_part_ok hu _ _ _ h1) h2
theorem x_ok_int (v : Int32) : x_ok [(0, v)] := ⟨fun _ => rfl, fun p hp => by rw [List.mem_singleton.mp hp]; exact ⟨Nat.zero_le _, fun w => absurd w (show ¬ (0 = 1) by decide)⟩⟩
theorem x_ok_var {j : Nat} (hj : j < 6) : x_ok [(1, nI j)] := ⟨fun _ => rfl, fun p hp => by rw [List.mem_singleton.mp hp]; exact ⟨by omega, fun _ => ⟨j, hj, rfl⟩⟩⟩
theorem x_unit_ok : ∀ d t c t', x_unit tk d t = .inr (c, t') → x_ok c
  | 0, t, c, t', h => by
    unfold x_unit at h
    split at h
    · obtain ⟨a, t1, -, h1⟩ := x_bd_inr h
      cases h1
      exact x_ok_int _
    · split at h
      · next w =>
        obtain ⟨a, t1, -, h1⟩ := x_bd_inr h
        cases h1
        exact x_ok_var (by omega)
      · split at h <;> cases h
  | d + 1, t, c, t', h => by
    unfold x_unit at h
    split at h
    · obtain ⟨a, t1, -, h1⟩ := x_bd_inr h
      cases h1
      exact x_ok_int _
    · split at h
      · next w =>
        obtain ⟨a, t1, -, h1⟩ := x_bd_inr h
        cases h1
        exact x_ok_var (by omega)
      · split at h
        · obtain ⟨a, t1, -, h1⟩ := x_bd_inr h
          obtain ⟨c2, t2, h2, h3⟩ := x_bd_inr h1
          obtain ⟨a3, t3, -, h4⟩ := x_bd_inr h3
          cases h4
          exact x_sum_ok (x_unit_ok d) _ _ _ h2
        · cases h
theorem x_term_ok {t : Nat} {c : xC} {t' : Nat} (h : x_term tk t = .inr (c, t')) : x_ok c := x_sum_ok (x_unit_ok 6) _ _ _ h
end
theorem r_rem (a b : Int32) : a - a / b * b = a % b := by
  apply Int32.toInt_inj.mp
  have h1 := Int32.le_toInt (a % b)
  have h2 := Int32.toInt_lt (a % b)
  rw [Int32.toInt_sub, Int32.toInt_mul, Int32.toInt_div, Int.sub_bmod_bmod, Int32.toInt_mod]
  rw [Int32.toInt_mod] at h1 h2
  have e : Int.bmod (a.toInt - Int.bmod (a.toInt.tdiv b.toInt) (2 ^ 32) * b.toInt) (2 ^ 32) = Int.bmod (a.toInt - a.toInt.tdiv b.toInt * b.toInt) (2 ^ 32) := by
    rw [← Int.sub_bmod_bmod, Int.bmod_mul_bmod, Int.sub_bmod_bmod]
  rw [e, show a.toInt - a.toInt.tdiv b.toInt * b.toInt = a.toInt.tmod b.toInt by rw [Int.tmod_def, Int.mul_comm]]
  exact Int.bmod_eq_of_le (by simpa using h1) (by simpa using h2)
