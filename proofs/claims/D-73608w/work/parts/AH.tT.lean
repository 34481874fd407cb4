/-! TT: all tokens: in order, the end last -/
set_option maxRecDepth 100000
theorem tk_ki_lt {w : List Int32} : ∀ (l : List (List Int32)) i j, tk_ki w l i = some j → j < i + l.length
  | [], _, _, h => by cases h
  | x :: r, i, j, h => by
    unfold tk_ki at h
    simp only [List.length_cons]
    split at h
    · cases h
      omega
    · have := tk_ki_lt r (i + 1) j h
      omega
theorem tk_kn_le (w : List Int32) : tk_kn w ≤ 37 := by
  unfold tk_kn
  split
  · next i e =>
    have := tk_ki_lt _ _ _ e
    rw [tk_kwd_len] at this
    omega
  · omega
theorem tk_sg_le (c : Int32) : tk_sg c ≤ 16 := by
  unfold tk_sg
  repeat' split
  all_goals omega
theorem tk_one_kd (f : Nat → Int32) (n k : Nat) : (tk_one f n k).1 ≤ 37 := by
  unfold tk_one
  split
  · show (if _ then 3 else tk_kn _) ≤ 37
    split
    · omega
    · exact tk_kn_le _
  · split
    · show (if _ then 3 else 2) ≤ 37
      split <;> omega
    · exact Nat.le_trans (tk_sg_le _) (by omega)
theorem tk_fl_ok {f : Nat → Int32} {n : Nat} : ∀ z k, k ≤ n → (tk_fl f n z k).Pairwise (fun a b => a.2.1 ≤ b.2.1) ∧ (∀ x ∈ tk_fl f n z k, x.1 ≤ 37 ∧ k ≤ x.2.1 ∧ x.2.1 ≤ n) ∧ ∃ l, tk_fl f n z k = l ++ [(0, n, n, nI 0)]
  | 0, k, hk => ⟨List.pairwise_singleton _ _, fun x hx => by
      have e : x = (0, n, n, nI 0) := List.mem_singleton.mp hx
      rw [e]
      exact ⟨Nat.zero_le _, hk, Nat.le_refl _⟩, [], rfl⟩
  | z + 1, k, hk => by
    unfold tk_fl
    by_cases w : n ≤ k
    · rw [if_pos w]
      exact ⟨List.pairwise_singleton _ _, fun x hx => by
        have e : x = (0, n, n, nI 0) := List.mem_singleton.mp hx
        rw [e]
        exact ⟨Nat.zero_le _, hk, Nat.le_refl _⟩, [], rfl⟩
    · rw [if_neg w]
      split
      · obtain ⟨a, b, c⟩ := tk_fl_ok (f := f) (n := n) z (k + 1) (by omega)
        exact ⟨a, fun x hx => ⟨(b x hx).1, by have := (b x hx).2.1; omega, (b x hx).2.2⟩, c⟩
      · obtain ⟨t1, t2, t3⟩ := tk_one_to (f := f) (n := n) (k := k) (by omega)
        obtain ⟨a, b, l, c⟩ := tk_fl_ok (f := f) (n := n) z (tk_one f n k).2.2.1 t2
        refine ⟨List.pairwise_cons.mpr ⟨fun x hx => by rw [t3]; have := (b x hx).2.1; omega, a⟩, fun x hx => ?_, tk_one f n k :: l, by rw [c]; rfl⟩
        rcases List.mem_cons.mp hx with e | hx
        · rw [e]
          exact ⟨tk_one_kd f n k, by omega, by omega⟩
        · exact ⟨(b x hx).1, by have := (b x hx).2.1; omega, (b x hx).2.2⟩
/-- the tokens as a row -/
def tk_row (b : Nat → Int32) (n : Nat) : Nat → tK := fun i => (tk_at (tk_f b n) n 0).getD i (0, 0, 0, nI 0)
theorem tk_row_at {b : Nat → Int32} {n i : Nat} (h : i < (tk_at (tk_f b n) n 0).length) : tk_row b n i = (tk_at (tk_f b n) n 0)[i] := by
  unfold tk_row
  rw [List.getD_eq_getElem?_getD, List.getElem?_eq_getElem h]
  rfl
theorem pK_row {A : Nat → Nat → Int32} {m n : Nat} {b : Nat → Int32} (hn : n ≤ 2000) (h : mTk A m (tk_at (tk_f b n) n 0)) : pK A m (tk_row b n) ((tk_at (tk_f b n) n 0).length - 1) := by
  obtain ⟨p, q, l, e⟩ := tk_fl_ok (f := tk_f b n) (n := n) (n - 0) 0 (Nat.zero_le _)
  have e' : tk_at (tk_f b n) n 0 = l ++ [(0, n, n, nI 0)] := e
  have hl : (tk_at (tk_f b n) n 0).length = l.length + 1 := by
    rw [e', List.length_append]
    rfl
  have pw : ∀ i j (hi : i < (tk_at (tk_f b n) n 0).length) (hj : j < (tk_at (tk_f b n) n 0).length), i < j → ((tk_at (tk_f b n) n 0)[i]).2.1 ≤ ((tk_at (tk_f b n) n 0)[j]).2.1 := List.pairwise_iff_getElem.mp p
  refine ⟨?_, fun i j hij hj => ?_, fun i hi hi4 => ?_⟩
  · unfold x_kd
    rw [tk_row_at (by omega)]
    have : (tk_at (tk_f b n) n 0)[(tk_at (tk_f b n) n 0).length - 1]'(by omega) = (0, n, n, nI 0) := by
      have : ∀ (L : List tK) (hL : L = l ++ [(0, n, n, nI 0)]) (hi : L.length - 1 < L.length), L[L.length - 1] = (0, n, n, nI 0) := fun L hL hi => by
        subst hL
        have e1 : (l ++ [((0, n, n, nI 0) : tK)]).length - 1 = l.length := by
          rw [List.length_append]
          rfl
        simp only [e1]
        exact List.getElem_concat_length rfl _
      exact this _ e' _
    rw [this]
  · rw [tk_row_at (by omega), tk_row_at (by omega)]
    rcases Nat.lt_or_ge i j with w | w
    · exact pw i j _ _ w
    · obtain rfl : i = j := by omega
      exact Nat.le_refl _
  · have hb := q _ (List.getElem_mem (show i < (tk_at (tk_f b n) n 0).length by omega))
    have := h i (by omega) (by omega)
    unfold x_kd
    rw [tk_row_at (by omega)]
    exact ⟨hb.1, Nat.le_trans hb.2.2 hn, this⟩
