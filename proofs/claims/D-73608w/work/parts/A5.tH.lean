/-! TH: the reference: the key that a number means; an act is done -/
set_option maxRecDepth 100000
theorem r_key_in (v : Int32) : nI 0 ≤ r_key v ∧ r_key v < nI 1000 := by
  have e0 : (nI 0).toInt = 0 := by decide
  have e1 : (nI 1000).toInt = 1000 := by decide
  have hm : (v % nI 1000).toInt = v.toInt.tmod 1000 := by rw [Int32.toInt_mod, e1]
  have h1 : v.toInt.tmod 1000 < 1000 := Int.tmod_lt_of_pos _ (by decide)
  have h2 : -1000 < v.toInt.tmod 1000 := Int.lt_tmod_of_pos _ (by decide)
  unfold r_key
  split
  · next w =>
    rw [Int32.lt_iff_toInt_lt, e0, hm] at w
    have hs : (v % nI 1000 + nI 1000).toInt = v.toInt.tmod 1000 + 1000 := by
      rw [Int32.toInt_add, hm, e1]
      exact Int.bmod_eq_of_le (by omega) (by omega)
    rw [Int32.le_iff_toInt_le, Int32.lt_iff_toInt_lt, hs, e0, e1]
    omega
  · next w =>
    rw [Int32.lt_iff_toInt_lt, e0, hm] at w
    rw [Int32.le_iff_toInt_le, Int32.lt_iff_toInt_lt, hm, e0, e1]
    omega
section
variable {h : ix_H} {m : Nat} {F A : Nat → Nat → Int32} {N d : Nat}
theorem m_keyOf (h : ix_H) (N d : Nat) (v : Int32) : ix_run iy_P N (d + 1) 279 [ix_I v] h = some (.inl (some (ix_I (r_key v))), h) := by
  rw [rX9_keyOf N d]
  unfold bX9_keyOf jX9_keyOf_11 r_key
  rw [if_neg (by decide), r_rem]
  by_cases w : nI 0 ≤ v % nI 1000
  · rw [if_pos w, if_neg (fun x => absurd x (by rw [kv_nlt_le]; exact w))]
  · rw [if_neg w, if_pos (Decidable.not_not.mp fun x => w (kv_nlt_le.mp x))]
/-- an act's row, its code -/
def pAr (A : Nat → Nat → Int32) (m i : Nat) (l : xL) (c : xC) : Prop := pC A m c ∧ c.length ≤ 400 ∧ pLf A m i l c ∧ x_ok l.2.2.1 ∧ (l.1 = 0 → x_ok l.2.2.2)
/-- acts: what r_one does with the store and the last key -/
def r_act (l : xL) (σ1 : xG) : Int32 × zS :=
  let k := r_key (r_val σ1 l.2.2.1)
  let r := z_take σ1.1 (r_hd l.2.1) (nI (l.1 + 1)) k (if l.1 = 0 then r_val σ1 l.2.2.2 else nI 0)
  (if r.1 = true ∧ l.1 = 0 then k else σ1.2.1, if r.1 = true ∧ l.2.1 < nI 0 then (z_close 200 r.2 0).2 else r.2)
end
