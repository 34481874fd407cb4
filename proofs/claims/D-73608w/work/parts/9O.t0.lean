/-! T0: tokens -/
set_option maxRecDepth 100000
def tk_isL (c : Int32) : Bool := decide (nI 97 ≤ c ∧ c ≤ nI 122)
def tk_isD (c : Int32) : Bool := decide (nI 48 ≤ c ∧ c ≤ nI 57)
def tk_isW (c : Int32) : Bool := decide (c = nI 9 ∨ c = nI 10 ∨ c = nI 13 ∨ c = nI 32)
/-- the bytes, nought behind them -/
def tk_f (b : Nat → Int32) (n k : Nat) : Int32 := if k < n then b k else nI 0
def tk_cnt (p : Int32 → Bool) (f : Nat → Int32) : Nat → Nat → Nat
  | 0, _ => 0
  | z + 1, k => if p (f k) = true then tk_cnt p f z (k + 1) + 1 else 0
def tk_len (p : Int32 → Bool) (f : Nat → Int32) (n k : Nat) : Nat := tk_cnt p f (n - k) k
theorem tk_cnt_le (p : Int32 → Bool) (f : Nat → Int32) : ∀ z k, tk_cnt p f z k ≤ z
  | 0, _ => Nat.le_refl _
  | z + 1, k => by
    unfold tk_cnt
    have := tk_cnt_le p f z (k + 1)
    split <;> omega
theorem tk_cnt_in (p : Int32 → Bool) (f : Nat → Int32) : ∀ z k i, i < tk_cnt p f z k → p (f (k + i)) = true
  | 0, _, i, h => absurd h (Nat.not_lt_zero i)
  | z + 1, k, i, h => by
    unfold tk_cnt at h
    by_cases w : p (f k) = true
    · rw [if_pos w] at h
      cases i with
      | zero => exact w
      | succ i =>
        have := tk_cnt_in p f z (k + 1) i (by omega)
        rw [show k + (i + 1) = k + 1 + i by omega]
        exact this
    · rw [if_neg w] at h
      exact absurd h (Nat.not_lt_zero i)
theorem tk_cnt_end (p : Int32 → Bool) (f : Nat → Int32) : ∀ z k, p (f (k + z)) ≠ true → p (f (k + tk_cnt p f z k)) ≠ true
  | 0, _, h => h
  | z + 1, k, h => by
    unfold tk_cnt
    by_cases w : p (f k) = true
    · rw [if_pos w, show k + (tk_cnt p f z (k + 1) + 1) = k + 1 + tk_cnt p f z (k + 1) by omega]
      exact tk_cnt_end p f z (k + 1) (by rw [show k + 1 + z = k + (z + 1) by omega]; exact h)
    · rw [if_neg w]
      exact w
theorem tk_len_le (p : Int32 → Bool) (f : Nat → Int32) {n k : Nat} (h : k ≤ n) : k + tk_len p f n k ≤ n := by
  have := tk_cnt_le p f (n - k) k
  unfold tk_len
  omega
theorem tk_len_end {p : Int32 → Bool} {f : Nat → Int32} {n k : Nat} (h : k ≤ n) (h0 : p (f n) ≠ true) : p (f (k + tk_len p f n k)) ≠ true := by
  unfold tk_len
  exact tk_cnt_end p f (n - k) k (by rw [show k + (n - k) = n by omega]; exact h0)
theorem tk_len_pos {p : Int32 → Bool} {f : Nat → Int32} {n k : Nat} (h : k < n) (h0 : p (f k) = true) : 0 < tk_len p f n k := by
  unfold tk_len
  obtain ⟨z, hz⟩ : ∃ z, n - k = z + 1 := ⟨n - k - 1, by omega⟩
  rw [hz]
  unfold tk_cnt
  rw [if_pos h0]
  exact Nat.succ_pos _
/-! words -/
def tk_ws (f : Nat → Int32) (k c : Nat) : List Int32 := (List.range c).map fun i => f (k + i)
theorem tk_ws_len (f : Nat → Int32) (k c : Nat) : (tk_ws f k c).length = c := by unfold tk_ws; rw [List.length_map, List.length_range]
theorem tk_ws_succ (f : Nat → Int32) (k c : Nat) : tk_ws f k (c + 1) = tk_ws f k c ++ [f (k + c)] := by
  unfold tk_ws
  rw [List.range_succ, List.map_append]
  rfl
/-- the words in the reference's order -/
def tk_kwd : List (List Int32) := [[nI 99, nI 104, nI 97, nI 105, nI 110], [nI 109, nI 111, nI 115, nI 116], [nI 108, nI 101, nI 97, nI 115, nI 116], [nI 98, nI 101, nI 103, nI 105, nI 110], [nI 103, nI 101, nI 116], [nI 115, nI 116, nI 101, nI 112], [nI 99, nI 108, nI 111, nI 115, nI 101], [nI 115, nI 119, nI 101, nI 101, nI 112], [nI 100, nI 111], [nI 101, nI 110, nI 100], [nI 112, nI 117, nI 116], [nI 99, nI 117, nI 116], [nI 105], [nI 106], [nI 107, nI 101, nI 121, nI 115], [nI 108, nI 97, nI 115, nI 116], [nI 114, nI 101, nI 99, nI 111, nI 114, nI 100, nI 115], [nI 108, nI 111, nI 115, nI 116]]
def tk_ki (w : List Int32) : List (List Int32) → Nat → Option Nat
  | [], _ => none
  | x :: r, i => if x = w then some i else tk_ki w r (i + 1)
def tk_val (f : Nat → Int32) (k c : Nat) : Int32 := (tk_ws f k c).foldl (fun v x => nI 10 * v + x - nI 48) (nI 0)
def tk_sg (c : Int32) : Nat := if c = nI 59 then 4 else if c = nI 40 then 6 else if c = nI 41 then 7 else if c = nI 43 then 8 else if c = nI 45 then 9 else if c = nI 42 then 10 else if c = nI 47 then 15 else if c = nI 37 then 16 else 3
/-- kind, from, to, value; kinds as the reference has them: 0 the end, 1 a name, 2 an int, 3 bad, 4 ; 6 ( 7 ) 8 + 9 - 10 * 15 / 16 %, words from 20 on -/
abbrev tK : Type := Nat × Nat × Nat × Int32
def tk_kn (w : List Int32) : Nat := match tk_ki w tk_kwd 0 with
  | some i => 20 + i
  | none => 1
def tk_one (f : Nat → Int32) (n k : Nat) : tK :=
  if tk_isL (f k) = true then (if 8 < tk_len tk_isL f n k then 3 else tk_kn (tk_ws f k (tk_len tk_isL f n k)), k, k + tk_len tk_isL f n k, nI 0)
  else if tk_isD (f k) = true then (if 4 < tk_len tk_isD f n k then 3 else 2, k, k + tk_len tk_isD f n k, tk_val f k (min (tk_len tk_isD f n k) 4))
  else (tk_sg (f k), k, k + 1, nI 0)
/-- all tokens, the last is the end -/
def tk_fl (f : Nat → Int32) (n : Nat) : Nat → Nat → List tK
  | 0, _ => [(0, n, n, nI 0)]
  | z + 1, k => if n ≤ k then [(0, n, n, nI 0)] else if tk_isW (f k) = true then tk_fl f n z (k + 1) else tk_one f n k :: tk_fl f n z (tk_one f n k).2.2.1
theorem tk_one_to {f : Nat → Int32} {n k : Nat} (hk : k < n) : k < (tk_one f n k).2.2.1 ∧ (tk_one f n k).2.2.1 ≤ n ∧ (tk_one f n k).2.1 = k := by
  unfold tk_one
  by_cases w1 : tk_isL (f k) = true
  · rw [if_pos w1]
    have := tk_len_pos (p := tk_isL) hk w1
    have := tk_len_le tk_isL f (Nat.le_of_lt hk)
    exact ⟨by show k < k + _; omega, by show k + _ ≤ n; omega, rfl⟩
  · rw [if_neg w1]
    by_cases w2 : tk_isD (f k) = true
    · rw [if_pos w2]
      have := tk_len_pos (p := tk_isD) hk w2
      have := tk_len_le tk_isD f (Nat.le_of_lt hk)
      exact ⟨by show k < k + _; omega, by show k + _ ≤ n; omega, rfl⟩
    · rw [if_neg w2]
      exact ⟨by show k < k + 1; omega, by show k + 1 ≤ n; omega, rfl⟩
/-- fuel doesn't matter -/
theorem tk_fl_fuel {f : Nat → Int32} {n : Nat} : ∀ z z' k, n ≤ k + z → n ≤ k + z' → tk_fl f n z k = tk_fl f n z' k
  | 0, 0, _, _, _ => rfl
  | 0, z' + 1, k, h, _ => by
    show _ = if n ≤ k then _ else _
    rw [if_pos (by omega)]
    rfl
  | z + 1, 0, k, _, h => by
    show (if n ≤ k then _ else _) = _
    rw [if_pos (by omega)]
    rfl
  | z + 1, z' + 1, k, h, h' => by
    show (if n ≤ k then _ else _) = if n ≤ k then _ else _
    by_cases w : n ≤ k
    · rw [if_pos w, if_pos w]
    · rw [if_neg w, if_neg w]
      have := tk_one_to (f := f) (show k < n by omega)
      rw [tk_fl_fuel z z' (k + 1) (by omega) (by omega), tk_fl_fuel z z' (tk_one f n k).2.2.1 (by omega) (by omega)]
/-- the tokens from a place on -/
def tk_at (f : Nat → Int32) (n k : Nat) : List tK := tk_fl f n (n - k) k
theorem tk_at_end {f : Nat → Int32} {n k : Nat} (h : n ≤ k) : tk_at f n k = [(0, n, n, nI 0)] := by
  unfold tk_at
  rw [show n - k = 0 by omega]
  rfl
theorem tk_at_wh {f : Nat → Int32} {n k : Nat} (h : k < n) (hw : tk_isW (f k) = true) : tk_at f n k = tk_at f n (k + 1) := by
  unfold tk_at
  obtain ⟨z, hz⟩ : ∃ z, n - k = z + 1 := ⟨n - k - 1, by omega⟩
  rw [hz]
  show (if n ≤ k then _ else _) = _
  rw [if_neg (by omega), if_pos hw]
  exact tk_fl_fuel _ _ _ (by omega) (by omega)
theorem tk_at_tok {f : Nat → Int32} {n k : Nat} (h : k < n) (hw : tk_isW (f k) ≠ true) : tk_at f n k = tk_one f n k :: tk_at f n (tk_one f n k).2.2.1 := by
  have := tk_one_to (f := f) h
  unfold tk_at
  obtain ⟨z, hz⟩ : ∃ z, n - k = z + 1 := ⟨n - k - 1, by omega⟩
  rw [hz]
  show (if n ≤ k then _ else _) = _
  rw [if_neg (by omega), if_neg hw]
  congr 1
  exact tk_fl_fuel _ _ _ (by omega) (by omega)
/-! names by numbers -/
def tk_nm (w : List Int32) : Int64 := w.foldl (fun v c => (27 : Int64) * v + ((c - nI 97) + nI 1).toInt64) 0
def tk_nv : List Nat → Nat
  | [] => 0
  | d :: r => 27 * tk_nv r + d
theorem tk_nv_inj : ∀ l l' : List Nat, (∀ d ∈ l, 1 ≤ d ∧ d ≤ 26) → (∀ d ∈ l', 1 ≤ d ∧ d ≤ 26) → tk_nv l = tk_nv l' → l = l'
  | [], [], _, _, _ => rfl
  | [], d :: r, _, h', e => by
    have := h' d List.mem_cons_self
    unfold tk_nv at e
    omega
  | d :: r, [], h, _, e => by
    have := h d List.mem_cons_self
    unfold tk_nv at e
    omega
  | d :: r, d' :: r', h, h', e => by
    have a := h d List.mem_cons_self
    have b := h' d' List.mem_cons_self
    have e : 27 * tk_nv r + d = 27 * tk_nv r' + d' := e
    have e1 : d = d' := by omega
    rw [e1, tk_nv_inj r r' (fun x hx => h x (List.mem_cons_of_mem _ hx)) (fun x hx => h' x (List.mem_cons_of_mem _ hx)) (by omega)]
theorem tk_nv_lt : ∀ l : List Nat, (∀ d ∈ l, d ≤ 26) → tk_nv l < 27 ^ l.length
  | [], _ => by decide
  | d :: r, h => by
    have a := h d List.mem_cons_self
    have b := tk_nv_lt r (fun x hx => h x (List.mem_cons_of_mem _ hx))
    show 27 * tk_nv r + d < 27 ^ (r.length + 1)
    rw [Nat.pow_succ]
    omega
/-- a letter's number -/
def tk_dg (c : Int32) : Nat := (c.toInt - 96).toNat
theorem tk_isL_at {c : Int32} (h : tk_isL c = true) : 97 ≤ c.toInt ∧ c.toInt ≤ 122 := by
  have h := of_decide_eq_true h
  have e1 : (nI 97).toInt = 97 := by decide
  have e2 : (nI 122).toInt = 122 := by decide
  rw [Int32.le_iff_toInt_le, Int32.le_iff_toInt_le] at h
  omega
theorem tk_dg_ok {c : Int32} (h : tk_isL c = true) : 1 ≤ tk_dg c ∧ tk_dg c ≤ 26 ∧ (tk_dg c : Int) = c.toInt - 96 := by
  have := tk_isL_at h
  unfold tk_dg
  omega
theorem tk_dg_inj {c c' : Int32} (h : tk_isL c = true) (h' : tk_isL c' = true) (e : tk_dg c = tk_dg c') : c = c' := by
  have a := tk_dg_ok h
  have b := tk_dg_ok h'
  exact Int32.toInt_inj.mp (by omega)
theorem tk_dg_64 {c : Int32} (h : tk_isL c = true) : (((c - nI 97) + nI 1).toInt64).toInt = (tk_dg c : Int) := by
  have a := tk_isL_at h
  have b := tk_dg_ok h
  rw [Int32.toInt_toInt64, Int32.toInt_add, Int32.toInt_sub]
  have e1 : (nI 97).toInt = 97 := by decide
  have e2 : (nI 1).toInt = 1 := by decide
  rw [e1, e2]
  simp only [Int.bmod_def]
  omega
theorem tk_bm (V g : Nat) (h : V < 10460353203) (hg : g ≤ 26) : ((27 * (V : Int)).bmod (2 ^ 64) + (g : Int)).bmod (2 ^ 64) = ((27 * V + g : Nat) : Int) := by
  have e1 : (27 * (V : Int)).bmod (2 ^ 64) = 27 * V := Int.bmod_eq_of_le (by omega) (by omega)
  rw [e1, Int.bmod_eq_of_le (by omega) (by omega)]
  omega
/-- a name's number as a number -/
theorem tk_nm_nv : ∀ w : List Int32, w.length ≤ 8 → (∀ c ∈ w, tk_isL c = true) → (tk_nm w).toInt = (tk_nv (w.reverse.map tk_dg) : Int) := by
  intro w
  induction hw : w.length using Nat.strongRecOn generalizing w with
  | ind n ih =>
    intro hn hl
    rcases List.eq_nil_or_concat w with e | ⟨v, c, e⟩
    · rw [e]
      rfl
    · rw [List.concat_eq_append] at e
      subst e
      rw [List.length_append, List.length_singleton] at hw
      have hl1 : ∀ x ∈ v, tk_isL x = true := fun x hx => hl x (List.mem_append_left _ hx)
      have hc : tk_isL c = true := hl c (List.mem_append_right _ (List.mem_singleton.mpr rfl))
      have i1 := ih v.length (by omega) v rfl (by omega) hl1
      have b1 := tk_nv_lt (v.reverse.map tk_dg) (fun d hd => by
        obtain ⟨x, hx, rfl⟩ := List.mem_map.mp hd
        exact (tk_dg_ok (hl1 x (List.mem_reverse.mp hx))).2.1)
      rw [List.length_map, List.length_reverse] at b1
      have b2 : 27 ^ v.length ≤ 27 ^ 7 := Nat.pow_le_pow_right (by omega) (by omega)
      have b3 := tk_dg_ok hc
      have e2 : tk_nm (v ++ [c]) = (27 : Int64) * tk_nm v + ((c - nI 97) + nI 1).toInt64 := by
        unfold tk_nm
        rw [List.foldl_append]
        rfl
      rw [e2, Int64.toInt_add, Int64.toInt_mul, tk_dg_64 hc, i1, List.reverse_append, List.reverse_singleton, List.singleton_append, List.map_cons]
      show _ = ((27 * tk_nv (v.reverse.map tk_dg) + tk_dg c : Nat) : Int)
      have e27 : (27 : Int64).toInt = 27 := by decide
      rw [e27]
      have b4 : (27 : Nat) ^ 7 = 10460353203 := by decide
      have b5 : tk_nv (v.reverse.map tk_dg) < 10460353203 := by rw [b4] at b2; exact Nat.lt_of_lt_of_le b1 b2
      exact tk_bm (tk_nv (v.reverse.map tk_dg)) (tk_dg c) b5 b3.2.1
theorem tk_nm_inj {w w' : List Int32} (h : w.length ≤ 8) (h' : w'.length ≤ 8) (hl : ∀ c ∈ w, tk_isL c = true) (hl' : ∀ c ∈ w', tk_isL c = true) (e : tk_nm w = tk_nm w') : w = w' := by
  have a := tk_nm_nv w h hl
  have b := tk_nm_nv w' h' hl'
  rw [e, b] at a
  have c := tk_nv_inj _ _ (fun d hd => by
    obtain ⟨x, hx, rfl⟩ := List.mem_map.mp hd
    exact ⟨(tk_dg_ok (hl' x (List.mem_reverse.mp hx))).1, (tk_dg_ok (hl' x (List.mem_reverse.mp hx))).2.1⟩) (fun d hd => by
    obtain ⟨x, hx, rfl⟩ := List.mem_map.mp hd
    exact ⟨(tk_dg_ok (hl x (List.mem_reverse.mp hx))).1, (tk_dg_ok (hl x (List.mem_reverse.mp hx))).2.1⟩) (Int.ofNat_inj.mp a)
  have key : ∀ l l' : List Int32, (∀ c ∈ l, tk_isL c = true) → (∀ c ∈ l', tk_isL c = true) → l.map tk_dg = l'.map tk_dg → l = l' := by
    intro l
    induction l with
    | nil =>
      intro l' _ _ e
      cases l' with
      | nil => rfl
      | cons x r => cases e
    | cons x r ih =>
      intro l' h1 h2 e
      cases l' with
      | nil => cases e
      | cons y s =>
        rw [List.map_cons, List.map_cons] at e
        obtain ⟨e1, e2⟩ := List.cons.inj e
        rw [tk_dg_inj (h1 x List.mem_cons_self) (h2 y List.mem_cons_self) e1, ih s (fun c hc => h1 c (List.mem_cons_of_mem _ hc)) (fun c hc => h2 c (List.mem_cons_of_mem _ hc)) e2]
  have := key _ _ (fun x hx => hl' x (List.mem_reverse.mp hx)) (fun x hx => hl x (List.mem_reverse.mp hx)) c
  exact (List.reverse_inj.mp this).symm
theorem tk_kwd_ok : ∀ w ∈ tk_kwd, w.length ≤ 7 ∧ ∀ c ∈ w, tk_isL c = true := by decide +kernel
theorem tk_kwd_len : tk_kwd.length = 18 := rfl
/-- bytes, with and without a sign -/
theorem tk_by_pos : ∀ j, j < 128 → tk_isL (nI j &&& nI 255) = tk_isL (nI j) ∧ tk_isD (nI j &&& nI 255) = tk_isD (nI j) ∧ nI j &&& nI 255 = nI j := by decide +kernel
theorem tk_by_neg : ∀ j, j < 128 → tk_isL ((nI j - nI 128) &&& nI 255) = false ∧ tk_isD ((nI j - nI 128) &&& nI 255) = false ∧ tk_isL (nI j - nI 128) = false ∧ tk_isD (nI j - nI 128) = false ∧ nI 128 ≤ ((nI j - nI 128) &&& nI 255) ∧ nI j - nI 128 < nI 0 := by decide +kernel
theorem tk_by {c : Int32} (h : -128 ≤ c.toInt ∧ c.toInt ≤ 127) : tk_isL (c &&& nI 255) = tk_isL c ∧ tk_isD (c &&& nI 255) = tk_isD c ∧ (∀ x, x < 128 → (c &&& nI 255 = nI x ↔ c = nI x)) ∧ (tk_isL c = true → c &&& nI 255 = c) ∧ (tk_isD c = true → c &&& nI 255 = c) := by
  by_cases w : 0 ≤ c.toInt
  · obtain ⟨j, hj⟩ : ∃ j : Nat, c.toInt = j := ⟨c.toInt.toNat, by omega⟩
    have e : c = nI j := Int32.toInt_inj.mp (by rw [nI_toInt (n := j) (by omega), hj])
    obtain ⟨a, b, d⟩ := tk_by_pos j (by omega)
    rw [e, d]
    exact ⟨rfl, rfl, fun _ _ => Iff.rfl, fun _ => rfl, fun _ => rfl⟩
  · obtain ⟨j, hj⟩ : ∃ j : Nat, c.toInt = (j : Int) - 128 := ⟨(c.toInt + 128).toNat, by omega⟩
    have e : c = nI j - nI 128 := Int32.toInt_inj.mp (by
      rw [Int32.toInt_sub, nI_toInt (n := j) (by omega), nI_toInt (n := 128) (by omega), hj]
      simp only [Int.bmod_def]
      omega)
    obtain ⟨a, b, d, f, g1, g2⟩ := tk_by_neg j (by omega)
    rw [e, a, b, d, f]
    refine ⟨rfl, rfl, fun x hx => ⟨fun y => ?_, fun y => ?_⟩, fun y => (by cases y), fun y => (by cases y)⟩
    · rw [y, hw_le (by omega) (by omega)] at g1
      omega
    · rw [y, hw_lt (by omega) (by omega)] at g2
      omega
