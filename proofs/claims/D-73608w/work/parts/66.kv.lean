/-! KV: rows of keys with values, as lists -/
abbrev KV : Type := List (Int32 × Int32)
/-- two rows hold a list at their beginning -/
def kv_in (f g : Nat → Int32) (l : KV) : Prop := ∀ i (h : i < l.length), f i = (l[i]).1 ∧ g i = (l[i]).2
def kv_wh (k : Int32) : KV → Nat
  | [] => 0
  | q :: r => if q.1 < k then kv_wh k r + 1 else 0
def kv_get (k : Int32) : KV → Option Int32
  | [] => none
  | q :: r => if q.1 = k then some q.2 else kv_get k r
def kv_set (k v : Int32) : KV → KV
  | [] => [(k, v)]
  | q :: r => if q.1 < k then q :: kv_set k v r else if q.1 = k then (k, v) :: r else (k, v) :: q :: r
def kv_del (k : Int32) : KV → KV
  | [] => []
  | q :: r => if q.1 < k then q :: kv_del k r else if q.1 = k then r else q :: r
def kv_cut (k : Int32) (l : KV) : KV := l.take (kv_wh k l)
def kv_join : KV → KV → KV
  | l, [] => l
  | l, q :: r => kv_join (kv_set q.1 q.2 l) r
def kv_so (l : KV) : Prop := l.Pairwise (fun a b => a.1 < b.1)
theorem kv_lt_trans {a b c : Int32} (h : a < b) (h2 : b < c) : a < c := by
  rw [Int32.lt_iff_toInt_lt] at *
  omega
theorem kv_lt_irrefl {a : Int32} (h : a < a) : False := by
  rw [Int32.lt_iff_toInt_lt] at h
  omega
theorem kv_lt_ne {a b : Int32} (h : a < b) : a ≠ b := fun e => kv_lt_irrefl (e ▸ h)
theorem kv_nlt_le {a b : Int32} : ¬ a < b ↔ b ≤ a := by
  rw [Int32.lt_iff_toInt_lt, Int32.le_iff_toInt_le]
  omega
theorem kv_le_lt {a b : Int32} (h : a ≤ b) (h2 : a ≠ b) : a < b := by
  rw [Int32.lt_iff_toInt_lt]
  rw [Int32.le_iff_toInt_le] at h
  have : a.toInt ≠ b.toInt := fun e => h2 (Int32.toInt_inj.mp e)
  omega
theorem kv_gt {a b : Int32} (h : ¬ a < b) (h2 : a ≠ b) : b < a := kv_le_lt (kv_nlt_le.mp h) (fun e => h2 e.symm)
theorem kv_so_cons {q : Int32 × Int32} {l : KV} : kv_so (q :: l) ↔ (∀ z ∈ l, q.1 < z.1) ∧ kv_so l := List.pairwise_cons
theorem kv_so_nil : kv_so [] := List.Pairwise.nil
theorem kv_wh_le (k : Int32) : ∀ l : KV, kv_wh k l ≤ l.length
  | [] => Nat.le_refl _
  | q :: r => by
    simp only [kv_wh, List.length_cons]
    split
    · exact Nat.succ_le_succ (kv_wh_le k r)
    · exact Nat.zero_le _
theorem kv_wh_lt {k : Int32} : ∀ {l : KV} {i : Nat} (h : i < l.length), i < kv_wh k l → (l[i]).1 < k
  | q :: r, i, h, hi => by
    simp only [kv_wh] at hi
    split at hi
    · rename_i hq
      match i with
      | 0 => exact hq
      | i + 1 =>
        simp only [List.getElem_cons_succ]
        exact kv_wh_lt (by simpa using h) (by omega)
    · exact absurd hi (Nat.not_lt_zero _)
theorem kv_wh_at {k : Int32} : ∀ {l : KV} (h : kv_wh k l < l.length), ¬ (l[kv_wh k l]).1 < k
  | q :: r, h => by
    simp only [kv_wh] at h ⊢
    split
    · rename_i hq
      simp only [hq, if_true] at h
      simp only [List.getElem_cons_succ]
      exact kv_wh_at (by simpa using h)
    · rename_i hq
      simpa using hq
/-- the first place that is not less, in any sorted list -/
theorem kv_wh_iff {k : Int32} {l : KV} {i : Nat} (hi : i < l.length) (hs : kv_so l) : (l[i]).1 < k ↔ i < kv_wh k l := by
  constructor
  · intro h
    refine Nat.lt_of_not_le fun hle => ?_
    rcases Nat.lt_or_ge (kv_wh k l) l.length with hw | hw
    · have h1 := kv_wh_at hw
      rcases Nat.lt_or_eq_of_le hle with h2 | h2
      · exact h1 (kv_lt_trans (List.pairwise_iff_getElem.mp hs _ _ hw hi h2) h)
      · exact h1 (by simpa [h2] using h)
    · omega
  · exact kv_wh_lt hi
/-- found -/
def kv_is (k : Int32) (l : KV) : Prop := ∃ h : kv_wh k l < l.length, (l[kv_wh k l]).1 = k
theorem kv_get_wh {k : Int32} : ∀ {l : KV}, kv_so l → ∀ v, kv_get k l = some v ↔ ∃ h : kv_wh k l < l.length, l[kv_wh k l] = (k, v)
  | [], _, v => by simp [kv_get, kv_wh]
  | q :: r, hs, v => by
    obtain ⟨h1, h2⟩ := kv_so_cons.mp hs
    have ih := kv_get_wh (k := k) h2 v
    simp only [kv_get, kv_wh]
    by_cases hq : q.1 < k
    · have hne : q.1 ≠ k := kv_lt_ne hq
      simp only [hq, if_true, hne, if_false, ih, List.length_cons, List.getElem_cons_succ]
      constructor
      · rintro ⟨h, e⟩; exact ⟨by omega, e⟩
      · rintro ⟨h, e⟩; exact ⟨by omega, e⟩
    · simp only [hq, if_false, List.length_cons, List.getElem_cons_zero]
      by_cases he : q.1 = k
      · simp only [he, if_true, Option.some.injEq]
        constructor
        · intro h; exact ⟨by omega, by rw [← he, ← h]⟩
        · rintro ⟨_, h⟩; rw [h]
      · simp only [he, if_false]
        have hk : k < q.1 := kv_gt hq he
        constructor
        · intro h
          exfalso
          obtain ⟨hlt, e⟩ := ih.mp h
          have := h1 _ (List.getElem_mem hlt)
          rw [e] at this
          exact kv_lt_irrefl (kv_lt_trans hk this)
        · rintro ⟨_, h⟩
          rw [h] at he
          exact absurd rfl he
theorem kv_get_none {k : Int32} {l : KV} (hs : kv_so l) : kv_get k l = none ↔ ¬ ∃ h : kv_wh k l < l.length, (l[kv_wh k l]).1 = k := by
  constructor
  · rintro h ⟨hlt, e⟩
    have : kv_get k l = some (l[kv_wh k l]).2 := (kv_get_wh hs _).mpr ⟨hlt, Prod.ext e rfl⟩
    rw [h] at this
    cases this
  · intro h
    cases hg : kv_get k l with
    | none => rfl
    | some v =>
      obtain ⟨hlt, e⟩ := (kv_get_wh hs v).mp hg
      exact absurd ⟨hlt, by rw [e]⟩ h
theorem kv_get_mem {k v : Int32} : ∀ {l : KV}, kv_get k l = some v → (k, v) ∈ l
  | q :: r, h => by
    simp only [kv_get] at h
    split at h
    · rename_i e
      cases h
      rw [← e]
      exact List.mem_cons_self
    · exact List.mem_cons_of_mem _ (kv_get_mem h)
theorem kv_mem_get {k v : Int32} : ∀ {l : KV}, kv_so l → (k, v) ∈ l → kv_get k l = some v
  | q :: r, hs, h => by
    obtain ⟨h1, h2⟩ := kv_so_cons.mp hs
    simp only [kv_get]
    rcases List.mem_cons.mp h with e | e
    · rw [← e]; simp
    · have := kv_lt_ne (h1 _ e)
      simp only [this, if_false]
      exact kv_mem_get h2 e
theorem kv_get_none_mem {k : Int32} : ∀ {l : KV}, kv_get k l = none → ∀ q ∈ l, q.1 ≠ k
  | q :: r, h, z, hz => by
    simp only [kv_get] at h
    split at h
    · cases h
    · rename_i e
      rcases List.mem_cons.mp hz with e2 | e2
      · rw [e2]; exact e
      · exact kv_get_none_mem h z e2
/-- setting, by places -/
theorem kv_set_no {k v : Int32} : ∀ {l : KV}, kv_so l → kv_get k l = none → kv_set k v l = l.take (kv_wh k l) ++ (k, v) :: l.drop (kv_wh k l)
  | [], _, _ => rfl
  | q :: r, hs, h => by
    obtain ⟨h1, h2⟩ := kv_so_cons.mp hs
    simp only [kv_get] at h
    split at h
    · cases h
    · rename_i he
      simp only [kv_set, kv_wh]
      by_cases hq : q.1 < k
      · simp only [hq, if_true, List.take_succ_cons, List.drop_succ_cons, List.cons_append]
        rw [kv_set_no h2 h]
      · simp only [hq, if_false, he, List.take_zero, List.drop_zero, List.nil_append]
theorem kv_set_yes {k v w : Int32} : ∀ {l : KV}, kv_so l → kv_get k l = some w → kv_set k v l = l.set (kv_wh k l) (k, v)
  | q :: r, hs, h => by
    obtain ⟨h1, h2⟩ := kv_so_cons.mp hs
    simp only [kv_get] at h
    simp only [kv_set, kv_wh]
    split at h
    · rename_i he
      have hq : ¬ q.1 < k := fun hq => kv_lt_ne hq he
      rw [if_neg hq, if_pos he, if_neg hq]
      rfl
    · rename_i he
      have hq : q.1 < k := by
        refine Classical.byContradiction fun hq => ?_
        have hk := kv_gt hq he
        exact kv_lt_irrefl (kv_lt_trans hk (h1 _ (kv_get_mem h)))
      simp only [hq, if_true, List.set_cons_succ]
      rw [kv_set_yes h2 h]
theorem kv_set_mem {k v : Int32} {z : Int32 × Int32} : ∀ {l : KV}, z ∈ kv_set k v l → z = (k, v) ∨ z ∈ l
  | [], h => Or.inl (by simpa [kv_set] using h)
  | q :: r, h => by
    simp only [kv_set] at h
    split at h
    · rcases List.mem_cons.mp h with e | e
      · exact Or.inr (by rw [e]; exact List.mem_cons_self)
      · rcases kv_set_mem e with e | e
        · exact Or.inl e
        · exact Or.inr (List.mem_cons_of_mem _ e)
    · split at h
      · rcases List.mem_cons.mp h with e | e
        · exact Or.inl e
        · exact Or.inr (List.mem_cons_of_mem _ e)
      · rcases List.mem_cons.mp h with e | e
        · exact Or.inl e
        · exact Or.inr e
theorem kv_set_so {k v : Int32} : ∀ {l : KV}, kv_so l → kv_so (kv_set k v l)
  | [], _ => kv_so_cons.mpr ⟨fun z hz => (by cases hz), kv_so_nil⟩
  | q :: r, hs => by
    obtain ⟨h1, h2⟩ := kv_so_cons.mp hs
    simp only [kv_set]
    split
    · rename_i hq
      refine kv_so_cons.mpr ⟨fun z hz => ?_, kv_set_so h2⟩
      rcases kv_set_mem hz with e | e
      · rw [e]; exact hq
      · exact h1 z e
    · rename_i hq
      split
      · rename_i he
        exact kv_so_cons.mpr ⟨fun z hz => he ▸ h1 z hz, h2⟩
      · rename_i he
        have hk := kv_gt hq he
        refine kv_so_cons.mpr ⟨fun z hz => ?_, hs⟩
        rcases List.mem_cons.mp hz with e | e
        · rw [e]; exact hk
        · exact kv_lt_trans hk (h1 z e)
theorem kv_set_len {k v : Int32} : ∀ l : KV, (kv_set k v l).length ≤ l.length + 1
  | [] => by simp [kv_set]
  | q :: r => by
    have ih := kv_set_len (k := k) (v := v) r
    simp only [kv_set]
    split
    · simp only [List.length_cons]; omega
    · split <;> simp only [List.length_cons] <;> omega
theorem kv_set_len_yes {k v w : Int32} {l : KV} (hs : kv_so l) (h : kv_get k l = some w) : (kv_set k v l).length = l.length := by
  rw [kv_set_yes hs h, List.length_set]
theorem kv_del_mem {k : Int32} {z : Int32 × Int32} : ∀ {l : KV}, z ∈ kv_del k l → z ∈ l
  | q :: r, h => by
    simp only [kv_del] at h
    split at h
    · rcases List.mem_cons.mp h with e | e
      · rw [e]; exact List.mem_cons_self
      · exact List.mem_cons_of_mem _ (kv_del_mem e)
    · split at h
      · exact List.mem_cons_of_mem _ h
      · exact h
theorem kv_del_so {k : Int32} : ∀ {l : KV}, kv_so l → kv_so (kv_del k l)
  | [], h => h
  | q :: r, hs => by
    obtain ⟨h1, h2⟩ := kv_so_cons.mp hs
    simp only [kv_del]
    split
    · exact kv_so_cons.mpr ⟨fun z hz => h1 z (kv_del_mem hz), kv_del_so h2⟩
    · split
      · exact h2
      · exact hs
theorem kv_del_len {k : Int32} : ∀ l : KV, (kv_del k l).length ≤ l.length
  | [] => Nat.le_refl _
  | q :: r => by
    have ih := kv_del_len (k := k) r
    simp only [kv_del]
    split
    · simp only [List.length_cons]; omega
    · split <;> simp only [List.length_cons] <;> omega
theorem kv_del_no {k : Int32} : ∀ {l : KV}, kv_so l → kv_get k l = none → kv_del k l = l
  | [], _, _ => rfl
  | q :: r, hs, h => by
    obtain ⟨h1, h2⟩ := kv_so_cons.mp hs
    simp only [kv_get] at h
    split at h
    · cases h
    · rename_i he
      simp only [kv_del]
      split
      · rw [kv_del_no h2 h]
      · rfl
theorem kv_del_yes {k w : Int32} : ∀ {l : KV}, kv_so l → kv_get k l = some w → kv_del k l = l.eraseIdx (kv_wh k l)
  | q :: r, hs, h => by
    obtain ⟨h1, h2⟩ := kv_so_cons.mp hs
    simp only [kv_get] at h
    simp only [kv_del, kv_wh]
    split at h
    · rename_i he
      have hq : ¬ q.1 < k := fun hq => kv_lt_ne hq he
      rw [if_neg hq, if_pos he, if_neg hq]
      rfl
    · rename_i he
      have hq : q.1 < k := by
        refine Classical.byContradiction fun hq => ?_
        have hk := kv_gt hq he
        exact kv_lt_irrefl (kv_lt_trans hk (h1 _ (kv_get_mem h)))
      simp only [hq, if_true, List.eraseIdx_cons_succ]
      rw [kv_del_yes h2 h]
theorem kv_cut_mem {k : Int32} {l : KV} {z : Int32 × Int32} (h : z ∈ kv_cut k l) : z ∈ l := List.mem_of_mem_take h
theorem kv_cut_so {k : Int32} {l : KV} (h : kv_so l) : kv_so (kv_cut k l) := List.Pairwise.take h
theorem kv_cut_len {k : Int32} (l : KV) : (kv_cut k l).length = kv_wh k l := by
  rw [kv_cut, List.length_take]
  exact Nat.min_eq_left (kv_wh_le k l)
theorem kv_join_so : ∀ {b l : KV}, kv_so l → kv_so (kv_join l b)
  | [], l, h => h
  | q :: r, l, h => kv_join_so (b := r) (kv_set_so h)
theorem kv_join_len : ∀ (b l : KV), (kv_join l b).length ≤ l.length + b.length
  | [], l => Nat.le_refl _
  | q :: r, l => by
    have h1 := kv_join_len r (kv_set q.1 q.2 l)
    have h2 := kv_set_len (k := q.1) (v := q.2) l
    simp only [kv_join, List.length_cons]
    omega
theorem kv_join_mem : ∀ {b l : KV} {z : Int32 × Int32}, z ∈ kv_join l b → z ∈ l ∨ z ∈ b
  | [], l, z, h => Or.inl h
  | q :: r, l, z, h => by
    rcases kv_join_mem (b := r) h with e | e
    · rcases kv_set_mem e with e | e
      · exact Or.inr (by rw [e]; exact List.mem_cons_self)
      · exact Or.inl e
    · exact Or.inr (List.mem_cons_of_mem _ e)
/-- what is set behind all -/
theorem kv_set_end {k v : Int32} : ∀ {l : KV}, (∀ z ∈ l, z.1 < k) → kv_set k v l = l ++ [(k, v)]
  | [], _ => rfl
  | q :: r, h => by
    simp only [kv_set, h q List.mem_cons_self, if_true, List.cons_append]
    rw [kv_set_end fun z hz => h z (List.mem_cons_of_mem _ hz)]
theorem kv_join_end : ∀ {b l : KV}, kv_so (l ++ b) → kv_join l b = l ++ b
  | [], l, _ => by simp [kv_join]
  | q :: r, l, h => by
    have h1 : ∀ z ∈ l, z.1 < q.1 := fun z hz => (List.pairwise_append.mp h).2.2 z hz q List.mem_cons_self
    simp only [kv_join]
    rw [kv_set_end h1, kv_join_end (by simpa [List.append_assoc] using h)]
    simp
theorem kv_join_nil {b : KV} (h : kv_so b) : kv_join [] b = b := by
  rw [kv_join_end (by simpa using h)]
  rfl
/-- rows -/
theorem kv_in_nil (f g : Nat → Int32) : kv_in f g [] := fun i h => absurd h (Nat.not_lt_zero i)
theorem kv_in_cong {f g f' g' : Nat → Int32} {l : KV} (h : kv_in f g l) (h1 : ∀ i, i < l.length → f' i = f i) (h2 : ∀ i, i < l.length → g' i = g i) : kv_in f' g' l := fun i hi => by
  rw [h1 i hi, h2 i hi]
  exact h i hi
theorem kv_in_take {f g : Nat → Int32} {l : KV} (h : kv_in f g l) (n : Nat) : kv_in f g (l.take n) := fun i hi => by
  have h1 : i < l.length := Nat.lt_of_lt_of_le hi (List.length_take_le' n l)
  rw [List.getElem_take]
  exact h i h1
theorem kv_in_app {f g : Nat → Int32} {l : KV} {k v : Int32} (h : kv_in f g l) : kv_in (hw_U f l.length k) (hw_U g l.length v) (l ++ [(k, v)]) := fun i hi => by
  rw [hw_U_at, hw_U_at]
  by_cases e : i = l.length
  · subst e
    simp
  · have h1 : i < l.length := by
      rw [List.length_append, List.length_singleton] at hi
      omega
    rw [if_neg e, if_neg e, List.getElem_append_left h1]
    exact h i h1
theorem kv_in_set {f g : Nat → Int32} {l : KV} {k v : Int32} {i : Nat} (h : kv_in f g l) : kv_in (hw_U f i k) (hw_U g i v) (l.set i (k, v)) := fun j hj => by
  rw [hw_U_at, hw_U_at, List.getElem_set]
  by_cases e : i = j
  · subst e; simp
  · have e' : j ≠ i := fun w => e w.symm
    simp only [if_neg e, if_neg e']
    exact h j (by simpa using hj)
/-- rows shifted up from a place on, up to n -/
def kv_up (f : Nat → Int32) (i n : Nat) : Nat → Int32 := fun j => if i < j ∧ j ≤ n then f (j - 1) else f j
def kv_dn (f : Nat → Int32) (i n : Nat) : Nat → Int32 := fun j => if i ≤ j ∧ j < n then f (j + 1) else f j
theorem kv_in_ins {f g : Nat → Int32} {l : KV} {k v : Int32} {i : Nat} (h : kv_in f g l) (hi : i ≤ l.length) : kv_in (hw_U (kv_up f i l.length) i k) (hw_U (kv_up g i l.length) i v) (l.take i ++ (k, v) :: l.drop i) := fun j hj => by
  have hlen : (l.take i).length = i := by rw [List.length_take]; omega
  have hj' : j < l.length + 1 := by
    rw [List.length_append, List.length_cons, List.length_drop, hlen] at hj
    omega
  rw [hw_U_at, hw_U_at]
  rcases Nat.lt_trichotomy j i with e | e | e
  · have h1 : j ≠ i := by omega
    rw [if_neg h1, if_neg h1, List.getElem_append_left (by rw [hlen]; exact e), List.getElem_take]
    unfold kv_up
    rw [if_neg (by omega), if_neg (by omega)]
    exact h j (by omega)
  · subst e
    rw [if_pos rfl, if_pos rfl, List.getElem_append_right (by rw [hlen]; exact Nat.le_refl _)]
    simp [hlen]
  · have h1 : j ≠ i := by omega
    rw [if_neg h1, if_neg h1, List.getElem_append_right (by rw [hlen]; omega)]
    unfold kv_up
    rw [if_pos (by omega), if_pos (by omega)]
    have e2 : j - (l.take i).length = (j - 1 - i) + 1 := by rw [hlen]; omega
    simp only [e2, List.getElem_cons_succ, List.getElem_drop]
    have e3 : i + (j - 1 - i) = j - 1 := by omega
    simp only [e3]
    exact h (j - 1) (by omega)
theorem kv_in_era {f g : Nat → Int32} {l : KV} {i n : Nat} (h : kv_in f g l) (hn : l.length ≤ n + 1) : kv_in (kv_dn f i n) (kv_dn g i n) (l.eraseIdx i) := fun j hj => by
  rw [List.getElem_eraseIdx]
  have hj2 : j < l.length := Nat.lt_of_lt_of_le hj (List.length_eraseIdx_le l i)
  unfold kv_dn
  by_cases e : j < i
  · simp only [e, dif_pos]
    rw [if_neg (by omega), if_neg (by omega)]
    exact h j hj2
  · simp only [e, dif_neg, not_false_eq_true]
    have hj3 : j + 1 < l.length := by
      rw [List.length_eraseIdx] at hj
      split at hj <;> omega
    rw [if_pos (by omega), if_pos (by omega)]
    exact h (j + 1) hj3
