/-! C8: the component: a hand -/
set_option maxRecDepth 100000
theorem zh_sh (S : zS) (k f : Nat) (v : Int32) : zh (z_sh S k f v) k = hw_U (zh S k) f v := by
  funext j
  show ix_up2 S.2.2.1 k f v k j = _
  rw [hw_up, hw_U_at]
  by_cases e : j = f
  · rw [if_pos ⟨rfl, e⟩, if_pos e]
  · rw [if_neg (fun w => e w.2), if_neg e]
    rfl
theorem zh_sh_ne (S : zS) {k j : Nat} (f : Nat) (v : Int32) (h : j ≠ k) : zh (z_sh S k f v) j = zh S j := by
  funext i
  show ix_up2 S.2.2.1 k f v j i = _
  rw [hw_up, if_neg (fun w => h w.1)]
  rfl
theorem cHd_at {g u : Nat → Int32} (h : cHd g u) (h0 : u 1 ≠ nI 0) (v : Int32) : cHd (hw_U g 4 v) (hw_U (hw_U u 2 v) 1 (nI 2)) := by
  obtain ⟨a0, a1, a2, a3, a4, a5, a6, a7, a8, a9, b1, b2, b3, b4, b5⟩ := h
  have b0 := a2 h0
  rw [if_neg h0] at a6
  simp (decide := true) only [cHd, hw_U_at, if_true, if_false, a0, a1, b0, a3, a4, a5, a6, a7, a8, a9, implies_true, and_self, false_or, or_false, true_or, or_true, false_implies]
theorem cHd_left {g u : Nat → Int32} (h : cHd g u) (h0 : u 1 ≠ nI 0) (v : Int32) : cHd (hw_U g 9 v) (hw_U (hw_U u 11 v) 1 (nI 10)) := by
  obtain ⟨a0, a1, a2, a3, a4, a5, a6, a7, a8, a9, b1, b2, b3, b4, b5⟩ := h
  have b0 := a2 h0
  rw [if_neg h0] at a6
  simp (decide := true) only [cHd, hw_U_at, if_true, if_false, a0, a1, b0, a3, a4, a5, a6, a7, a8, a9, implies_true, and_self, false_or, or_false, true_or, or_true, false_implies]
theorem cHd_note {g u : Nat → Int32} (h : cHd g u) (h0 : u 1 ≠ nI 0) (a b : Int32) : cHd (hw_U (hw_U g 7 a) 8 b) (hw_U (hw_U (hw_U u 12 a) 13 b) 1 (nI 7)) := by
  obtain ⟨a0, a1, a2, a3, a4, a5, a6, a7, a8, a9, b1, b2, b3, b4, b5⟩ := h
  have b0 := a2 h0
  rw [if_neg h0] at a6
  simp (decide := true) only [cHd, hw_U_at, if_true, if_false, a0, a1, b0, a3, a4, a5, a6, a7, a8, a9, implies_true, and_self, false_or, or_false, true_or, or_true, false_implies]
theorem cHd_tell {g u : Nat → Int32} (h : cHd g u) (h0 : u 1 ≠ nI 0) (v : Int32) : cHd (hw_U (hw_U (hw_U g 14 v) 15 (nI 1)) 13 (-2)) (hw_U (hw_U (hw_U u 8 v) 9 (nI 1)) 1 (nI 0)) := by
  obtain ⟨a0, a1, a2, a3, a4, a5, a6, a7, a8, a9, b1, b2, b3, b4, b5⟩ := h
  have b0 := a2 h0
  rw [if_neg h0] at a6
  simp (decide := true) only [cHd, hw_U_at, if_true, if_false, a0, a1, b0, a3, a4, a5, a6, a7, a8, a9, implies_true, and_self, false_or, or_false, true_or, or_true, false_implies]
theorem cHd_to4 {g u : Nat → Int32} (h : cHd g u) (h0 : u 1 ≠ nI 0) : cHd (g) (hw_U u 1 (nI 4)) := by
  obtain ⟨a0, a1, a2, a3, a4, a5, a6, a7, a8, a9, b1, b2, b3, b4, b5⟩ := h
  have b0 := a2 h0
  rw [if_neg h0] at a6
  simp (decide := true) only [cHd, hw_U_at, if_true, if_false, a0, a1, b0, a3, a4, a5, a6, a7, a8, a9, implies_true, and_self, false_or, or_false, true_or, or_true, false_implies]
theorem cHd_see3 {g u : Nat → Int32} (h : cHd g u) (h0 : u 1 ≠ nI 0) (t : Int32) : cHd (hw_U g 5 t) (hw_U (hw_U u 10 t) 1 (nI 3)) := by
  obtain ⟨a0, a1, a2, a3, a4, a5, a6, a7, a8, a9, b1, b2, b3, b4, b5⟩ := h
  have b0 := a2 h0
  rw [if_neg h0] at a6
  simp (decide := true) only [cHd, hw_U_at, if_true, if_false, a0, a1, b0, a3, a4, a5, a6, a7, a8, a9, implies_true, and_self, false_or, or_false, true_or, or_true, false_implies]
theorem cHd_see5 {g u : Nat → Int32} (h : cHd g u) (h0 : u 1 ≠ nI 0) (t : Int32) : cHd (hw_U g 5 t) (hw_U (hw_U u 10 t) 1 (nI 5)) := by
  obtain ⟨a0, a1, a2, a3, a4, a5, a6, a7, a8, a9, b1, b2, b3, b4, b5⟩ := h
  have b0 := a2 h0
  rw [if_neg h0] at a6
  simp (decide := true) only [cHd, hw_U_at, if_true, if_false, a0, a1, b0, a3, a4, a5, a6, a7, a8, a9, implies_true, and_self, false_or, or_false, true_or, or_true, false_implies]
theorem cHd_see8 {g u : Nat → Int32} (h : cHd g u) (h0 : u 1 ≠ nI 0) (h1 : u 1 = nI 7) (t : Int32) : cHd (hw_U g 5 t) (hw_U (hw_U u 10 t) 1 (nI 8)) := by
  obtain ⟨a0, a1, a2, a3, a4, a5, a6, a7, a8, a9, b1, b2, b3, b4, b5⟩ := h
  have b0 := a2 h0
  rw [if_neg h0] at a6
  obtain ⟨c1, c2⟩ := b3 (Or.inl h1)
  simp (decide := true) only [cHd, hw_U_at, if_true, if_false, a0, a1, b0, a3, a4, a5, a6, a7, a8, a9, implies_true, and_self, false_or, or_false, true_or, or_true, false_implies, c1, c2]
theorem cHd_see13 {g u : Nat → Int32} (h : cHd g u) (h0 : u 1 ≠ nI 0) (h1 : u 1 = nI 12) (t : Int32) : cHd (hw_U g 5 t) (hw_U (hw_U u 10 t) 1 (nI 13)) := by
  obtain ⟨a0, a1, a2, a3, a4, a5, a6, a7, a8, a9, b1, b2, b3, b4, b5⟩ := h
  have b0 := a2 h0
  rw [if_neg h0] at a6
  have c1 := b5 (Or.inr (Or.inr (Or.inl h1)))
  simp (decide := true) only [cHd, hw_U_at, if_true, if_false, a0, a1, b0, a3, a4, a5, a6, a7, a8, a9, implies_true, and_self, false_or, or_false, true_or, or_true, false_implies, c1]
theorem cHd_join {g u : Nat → Int32} (h : cHd g u) (h0 : u 1 ≠ nI 0) (h1 : u 1 = nI 10) (L a t : Int32) : cHd (hw_U (hw_U (hw_U g 10 L) 7 a) 5 t) (hw_U (hw_U (hw_U (hw_U u 12 a) 13 L) 10 t) 1 (nI 11)) := by
  obtain ⟨a0, a1, a2, a3, a4, a5, a6, a7, a8, a9, b1, b2, b3, b4, b5⟩ := h
  have b0 := a2 h0
  rw [if_neg h0] at a6
  have c1 := b5 (Or.inl h1)
  simp (decide := true) only [cHd, hw_U_at, if_true, if_false, a0, a1, b0, a3, a4, a5, a6, a7, a8, a9, implies_true, and_self, false_or, or_false, true_or, or_true, false_implies, c1]
theorem cHd_prep {g u : Nat → Int32} (h : cHd g u) (h0 : u 1 ≠ nI 0) (r : Int32) : cHd (hw_U (hw_U g 14 r) 15 (nI 1)) (hw_U (hw_U (hw_U (hw_U u 8 r) 9 (nI 1)) 1 (nI 0)) 1 (nI 4)) := by
  obtain ⟨a0, a1, a2, a3, a4, a5, a6, a7, a8, a9, b1, b2, b3, b4, b5⟩ := h
  have b0 := a2 h0
  rw [if_neg h0] at a6
  simp (decide := true) only [cHd, hw_U_at, if_true, if_false, a0, a1, b0, a3, a4, a5, a6, a7, a8, a9, implies_true, and_self, false_or, or_false, true_or, or_true, false_implies]
theorem cHd_lose2 {g u : Nat → Int32} (h : cHd g u) (h0 : u 1 ≠ nI 0) : cHd (hw_U g 11 (g 11 + nI 1)) (hw_U (hw_U u 3 (u 3 + nI 1)) 1 (nI 2)) := by
  obtain ⟨a0, a1, a2, a3, a4, a5, a6, a7, a8, a9, b1, b2, b3, b4, b5⟩ := h
  have b0 := a2 h0
  rw [if_neg h0] at a6
  simp (decide := true) only [cHd, hw_U_at, if_true, if_false, a0, a1, b0, a3, a4, a5, a6, a7, a8, a9, implies_true, and_self, false_or, or_false, true_or, or_true, false_implies]
theorem cHd_lose7 {g u : Nat → Int32} (h : cHd g u) (h0 : u 1 ≠ nI 0) (h1 : u 1 = nI 8) : cHd (hw_U g 11 (g 11 + nI 1)) (hw_U (hw_U u 3 (u 3 + nI 1)) 1 (nI 7)) := by
  obtain ⟨a0, a1, a2, a3, a4, a5, a6, a7, a8, a9, b1, b2, b3, b4, b5⟩ := h
  have b0 := a2 h0
  rw [if_neg h0] at a6
  obtain ⟨c1, c2⟩ := b3 (Or.inr h1)
  simp (decide := true) only [cHd, hw_U_at, if_true, if_false, a0, a1, b0, a3, a4, a5, a6, a7, a8, a9, implies_true, and_self, false_or, or_false, true_or, or_true, false_implies, c1, c2]
theorem cHd_lose10 {g u : Nat → Int32} (h : cHd g u) (h0 : u 1 ≠ nI 0) (h1 : u 1 = nI 11) : cHd (hw_U g 11 (g 11 + nI 1)) (hw_U (hw_U u 3 (u 3 + nI 1)) 1 (nI 10)) := by
  obtain ⟨a0, a1, a2, a3, a4, a5, a6, a7, a8, a9, b1, b2, b3, b4, b5⟩ := h
  have b0 := a2 h0
  rw [if_neg h0] at a6
  have c1 := b5 (Or.inr (Or.inl h1))
  simp (decide := true) only [cHd, hw_U_at, if_true, if_false, a0, a1, b0, a3, a4, a5, a6, a7, a8, a9, implies_true, and_self, false_or, or_false, true_or, or_true, false_implies, c1]
theorem cHd_lose12 {g u : Nat → Int32} (h : cHd g u) (h0 : u 1 ≠ nI 0) (h1 : u 1 = nI 13) : cHd (hw_U g 11 (g 11 + nI 1)) (hw_U (hw_U u 3 (u 3 + nI 1)) 1 (nI 12)) := by
  obtain ⟨a0, a1, a2, a3, a4, a5, a6, a7, a8, a9, b1, b2, b3, b4, b5⟩ := h
  have b0 := a2 h0
  rw [if_neg h0] at a6
  have c1 := b5 (Or.inr (Or.inr (Or.inr h1)))
  simp (decide := true) only [cHd, hw_U_at, if_true, if_false, a0, a1, b0, a3, a4, a5, a6, a7, a8, a9, implies_true, and_self, false_or, or_false, true_or, or_true, false_implies, c1]
theorem cHd_go1 {g u : Nat → Int32} (h : cHd g u) (h0 : u 1 ≠ nI 0) (h9 : u 9 = nI 1) : cHd (hw_U g 13 (-2)) (hw_U u 1 (nI 0)) := by
  obtain ⟨a0, a1, a2, a3, a4, a5, a6, a7, a8, a9, b1, b2, b3, b4, b5⟩ := h
  have b0 := a2 h0
  rw [if_neg h0] at a6
  simp (decide := true) only [cHd, hw_U_at, if_true, if_false, a0, a1, b0, a3, a4, a5, a6, a7, a8, a9, implies_true, and_self, false_or, or_false, true_or, or_true, false_implies, h9]
theorem cHd_go0 {g u : Nat → Int32} (h : cHd g u) (h0 : u 1 ≠ nI 0) (h9 : u 9 = nI 0) : cHd (g) (hw_U u 1 (nI 1)) := by
  obtain ⟨a0, a1, a2, a3, a4, a5, a6, a7, a8, a9, b1, b2, b3, b4, b5⟩ := h
  have b0 := a2 h0
  rw [if_neg h0] at a6
  simp (decide := true) only [cHd, hw_U_at, if_true, if_false, a0, a1, b0, a3, a4, a5, a6, a7, a8, a9, implies_true, and_self, false_or, or_false, true_or, or_true, false_implies, h9]
theorem cHd_lgo1 {g u : Nat → Int32} (h : cHd g u) (h0 : u 1 ≠ nI 0) (h9 : u 9 = nI 1) : cHd (hw_U (hw_U g 13 (-2)) 11 (g 11 + nI 1)) (hw_U (hw_U u 3 (u 3 + nI 1)) 1 (nI 0)) := by
  obtain ⟨a0, a1, a2, a3, a4, a5, a6, a7, a8, a9, b1, b2, b3, b4, b5⟩ := h
  have b0 := a2 h0
  rw [if_neg h0] at a6
  simp (decide := true) only [cHd, hw_U_at, if_true, if_false, a0, a1, b0, a3, a4, a5, a6, a7, a8, a9, implies_true, and_self, false_or, or_false, true_or, or_true, false_implies, h9]
theorem cHd_lgo0 {g u : Nat → Int32} (h : cHd g u) (h0 : u 1 ≠ nI 0) (h9 : u 9 = nI 0) : cHd (hw_U g 11 (g 11 + nI 1)) (hw_U (hw_U u 3 (u 3 + nI 1)) 1 (nI 1)) := by
  obtain ⟨a0, a1, a2, a3, a4, a5, a6, a7, a8, a9, b1, b2, b3, b4, b5⟩ := h
  have b0 := a2 h0
  rw [if_neg h0] at a6
  simp (decide := true) only [cHd, hw_U_at, if_true, if_false, a0, a1, b0, a3, a4, a5, a6, a7, a8, a9, implies_true, and_self, false_or, or_false, true_or, or_true, false_implies, h9]
theorem cHd_swap6 {g u : Nat → Int32} (h : cHd g u) (h0 : u 1 ≠ nI 0) (n : Int32) : cHd (hw_U g 6 n) (hw_U (hw_U u 10 n) 1 (nI 6)) := by
  obtain ⟨a0, a1, a2, a3, a4, a5, a6, a7, a8, a9, b1, b2, b3, b4, b5⟩ := h
  have b0 := a2 h0
  rw [if_neg h0] at a6
  simp (decide := true) only [cHd, hw_U_at, if_true, if_false, a0, a1, b0, a3, a4, a5, a6, a7, a8, a9, implies_true, and_self, false_or, or_false, true_or, or_true, false_implies]
theorem cHd_swap9 {g u : Nat → Int32} (h : cHd g u) (h0 : u 1 ≠ nI 0) (n : Int32) : cHd (hw_U g 6 n) (hw_U (hw_U u 10 n) 1 (nI 9)) := by
  obtain ⟨a0, a1, a2, a3, a4, a5, a6, a7, a8, a9, b1, b2, b3, b4, b5⟩ := h
  have b0 := a2 h0
  rw [if_neg h0] at a6
  simp (decide := true) only [cHd, hw_U_at, if_true, if_false, a0, a1, b0, a3, a4, a5, a6, a7, a8, a9, implies_true, and_self, false_or, or_false, true_or, or_true, false_implies]
theorem cHd_sgo1 {g u : Nat → Int32} (h : cHd g u) (h0 : u 1 ≠ nI 0) (h9 : u 9 = nI 1) (n : Int32) : cHd (hw_U (hw_U g 6 n) 13 (-2)) (hw_U (hw_U u 10 n) 1 (nI 0)) := by
  obtain ⟨a0, a1, a2, a3, a4, a5, a6, a7, a8, a9, b1, b2, b3, b4, b5⟩ := h
  have b0 := a2 h0
  rw [if_neg h0] at a6
  simp (decide := true) only [cHd, hw_U_at, if_true, if_false, a0, a1, b0, a3, a4, a5, a6, a7, a8, a9, implies_true, and_self, false_or, or_false, true_or, or_true, false_implies, h9]
theorem cHd_sgo0 {g u : Nat → Int32} (h : cHd g u) (h0 : u 1 ≠ nI 0) (h9 : u 9 = nI 0) (n : Int32) : cHd (hw_U g 6 n) (hw_U (hw_U u 10 n) 1 (nI 1)) := by
  obtain ⟨a0, a1, a2, a3, a4, a5, a6, a7, a8, a9, b1, b2, b3, b4, b5⟩ := h
  have b0 := a2 h0
  rw [if_neg h0] at a6
  simp (decide := true) only [cHd, hw_U_at, if_true, if_false, a0, a1, b0, a3, a4, a5, a6, a7, a8, a9, implies_true, and_self, false_or, or_false, true_or, or_true, false_implies, h9]
theorem cHd_vic {g u : Nat → Int32} (h : cHd g u) (h0 : u 1 ≠ nI 0) (p : Int32) : cHd (hw_U g 9 p) (hw_U (hw_U u 11 p) 1 (nI 12)) := by
  obtain ⟨a0, a1, a2, a3, a4, a5, a6, a7, a8, a9, b1, b2, b3, b4, b5⟩ := h
  have b0 := a2 h0
  rw [if_neg h0] at a6
  simp (decide := true) only [cHd, hw_U_at, if_true, if_false, a0, a1, b0, a3, a4, a5, a6, a7, a8, a9, implies_true, and_self, false_or, or_false, true_or, or_true, false_implies]
theorem cHd_pg0 {g u : Nat → Int32} (h : cHd g u) (h0 : u 1 ≠ nI 0) : cHd (hw_U g 4 (nI 0)) (hw_U (hw_U u 2 (nI 0)) 1 (nI 4)) := by
  obtain ⟨a0, a1, a2, a3, a4, a5, a6, a7, a8, a9, b1, b2, b3, b4, b5⟩ := h
  have b0 := a2 h0
  rw [if_neg h0] at a6
  simp (decide := true) only [cHd, hw_U_at, if_true, if_false, a0, a1, b0, a3, a4, a5, a6, a7, a8, a9, implies_true, and_self, false_or, or_false, true_or, or_true, false_implies]
theorem cHd_to12 {g u : Nat → Int32} (h : cHd g u) (h0 : u 1 ≠ nI 0) (h1 : u 1 = nI 10 ∨ u 1 = nI 11) : cHd (g) (hw_U u 1 (nI 12)) := by
  obtain ⟨a0, a1, a2, a3, a4, a5, a6, a7, a8, a9, b1, b2, b3, b4, b5⟩ := h
  have b0 := a2 h0
  rw [if_neg h0] at a6
  have c1 := b5 (h1.elim Or.inl (fun w => Or.inr (Or.inl w)))
  simp (decide := true) only [cHd, hw_U_at, if_true, if_false, a0, a1, b0, a3, a4, a5, a6, a7, a8, a9, implies_true, and_self, false_or, or_false, true_or, or_true, false_implies, c1]
theorem cHd_bes {g u : Nat → Int32} (h : cHd g u) (h0 : u 1 ≠ nI 0) (h1 : u 1 = nI 10) (L : Int32) : cHd (hw_U g 10 L) (u) := by
  obtain ⟨a0, a1, a2, a3, a4, a5, a6, a7, a8, a9, b1, b2, b3, b4, b5⟩ := h
  have b0 := a2 h0
  rw [if_neg h0] at a6
  simp (decide := true) only [cHd, hw_U_at, if_true, if_false, a0, a1, b0, a3, a4, a5, a6, a7, a8, a9, implies_true, and_self, false_or, or_false, true_or, or_true, false_implies, h0, h1, b1, b2, b3, b5]
theorem cHd_steps {g u : Nat → Int32} (h : cHd g u) (h0 : u 1 ≠ nI 0) : cHd (hw_U g 12 (g 12 + nI 1)) (hw_U u 4 (u 4 + nI 1)) := by
  obtain ⟨a0, a1, a2, a3, a4, a5, a6, a7, a8, a9, b1, b2, b3, b4, b5⟩ := h
  have b0 := a2 h0
  rw [if_neg h0] at a6
  simp (decide := true) only [cHd, hw_U_at, if_true, if_false, a0, a1, b0, a3, a4, a5, a6, a7, a8, a9, implies_true, and_self, false_or, or_false, true_or, or_true, false_implies, h0]
  exact ⟨trivial, trivial, trivial, trivial, trivial, trivial, trivial, trivial, trivial, trivial, b1, b2, b3, b4, b5⟩
theorem h_is {h : ix_H} {a : Nat} (ht : ix_tg h a = 7) (F A : Nat → Nat → Int32) (f : Nat → ix_O) : (ix_is (hw h F A) 7 (some a)).bind f = f a := c_is ht F A f
theorem h_isr {h : ix_H} {a : Nat} (ht : ix_tg h a = 7) (F A : Nat → Nat → Int32) (f : Nat → ix_O) : (ix_isr (hw h F A) 7 (some a)).bind f = f a := c_isr ht (by decide) F A f
theorem c_rests {h : ix_H} {a : Nat} (ht : ix_tg h a = 7) (F A : Nat → Nat → Int32) (N d : Nat) : ix_run iy_P N (d + 1) 221 [ix_R (some a)] (hw h F A) = some (.inl (some (ix_I (nI 0))), hw h (hw_R F a (hw_U (F a) 13 (-2))) A) := by
  rw [rX6_rests N d]
  unfold bX6_rests
  rw [h_is ht, hw_bdF]
theorem c_tells {h : ix_H} {a : Nat} (ht : ix_tg h a = 7) (F A : Nat → Nat → Int32) (N d : Nat) (v : Int32) : ix_run iy_P N (d + 2) 220 [ix_R (some a), ix_I v] (hw h F A) = some (.inl (some (ix_I (nI 0))), hw h (hw_R F a (hw_U (hw_U (hw_U (F a) 14 v) 15 (nI 1)) 13 (-2))) A) := by
  rw [rX6_tells N (d + 1)]
  unfold bX6_tells
  rw [h_is ht, hw_bdF, h_is ht, hw_okn1_1, cond_true, hw_bdF, h_isr ht, hw_cI (c_rests ht _ _ N d)]
  dsimp only
  rw [hw_R_R, hw_R_R, hw_R_same, hw_R_same]
theorem c_goesOn {h : ix_H} {a : Nat} (ht : ix_tg h a = 7) (F A : Nat → Nat → Int32) (N d : Nat) (hb : F a 15 = nI 0 ∨ F a 15 = nI 1) : ix_run iy_P N (d + 2) 223 [ix_R (some a)] (hw h F A) = some (.inl (some (ix_I (if F a 15 = nI 1 then nI 0 else nI 1))), hw h (if F a 15 = nI 1 then hw_R F a (hw_U (F a) 13 (-2)) else F) A) := by
  rw [rX6_goesOn N (d + 1)]
  unfold bX6_goesOn jX6_goesOn_7
  rw [h_is ht, hw_fI]
  rcases hb with w | w
  · rw [if_pos w, if_neg (show ¬ F a 15 = nI 1 by rw [w]; decide), if_neg (show ¬ F a 15 = nI 1 by rw [w]; decide)]
  · rw [if_neg (show ¬ F a 15 = nI 0 by rw [w]; decide), h_isr ht, hw_cI (c_rests ht F A N d), if_pos w, if_pos w]
theorem c_lost {h : ix_H} {a : Nat} (ht : ix_tg h a = 7) (F A : Nat → Nat → Int32) (N d : Nat) (v : Int32) : ix_run iy_P N (d + 1) 222 [ix_R (some a), ix_I v] (hw h F A) = some (.inl (some (ix_I v)), hw h (hw_R F a (hw_U (F a) 11 (F a 11 + nI 1))) A) := by
  rw [rX6_lost N d]
  unfold bX6_lost
  rw [h_is ht, h_is ht, hw_bdF]
  rfl
theorem c_noting {h : ix_H} {L : Nat → Nat} {nr : Nat} (hs : cS h L nr) {a : Nat} (ht : ix_tg h a = 7) (F A : Nat → Nat → Int32) (N d : Nat) (v w : Int32) : ix_run iy_P N (d + 1) 186 [ix_R (some (L 0)), ix_R (some a), ix_I v, ix_I w] (hw h F A) = some (.inl (some (ix_I (nI 7))), hw h (hw_R F a (hw_U (hw_U (F a) 7 v) 8 w)) A) := by
  rw [rX4_noting N d]
  unfold bX4_noting
  rw [h_is ht, hw_bdF, h_is ht, hw_bdF, hw_R_R, hw_R_same]
/-- what comes of a stage -/
def cPo (h : ix_H) (F A : Nat → Nat → Int32) (L : Nat → Nat) (nr : Nat) (S' : zS) (k : Nat) (o : ix_O) : Prop :=
  ∃ h' F' A' L' nr', o = some (.inl (some (ix_I (zh S' k 1))), hw h' F' A') ∧ cS h' L' nr' ∧ zn S' ≤ nr' ∧ cEx h F A L nr h' F' A' L' nr' ∧ cV F' A' L' S' ∧ ∀ j, j < 4 → F' (L (5 + j)) 3 = F (L (5 + j)) 3
/-- only a hand has changed, and what is laid into -/
theorem cPo_hand {h : ix_H} {L : Nat → Nat} {nr : Nat} (hs : cS h L nr) {S S' : zS} {k : Nat} (hk : k < 4) (hn : zn S ≤ nr) {F A F1 A1 : Nat → Nat → Int32} (hV : cV F A L S) (q : cSc L F A F1 A1) {g : Nat → Int32} (e1 : S'.1 = S.1) (e2 : S'.2.1 = S.2.1) (e3 : S'.2.2.2 = S.2.2.2) (ej : ∀ j, j ≠ k → zh S' j = zh S j) (hg : cHd g (zh S' k)) (h3 : g 3 = F (L (5 + k)) 3) :
    cPo h F A L nr S' k (some (.inl (some (ix_I (zh S' k 1))), hw h (hw_R F1 (L (5 + k)) g) A1)) := by
  have hV1 := hV.sc hs q
  obtain ⟨v1, v2, v3, v4⟩ := hV1
  have ez : zn S' = zn S := by unfold zn; rw [e3]
  have ep : zp S' = zp S := by unfold zp; rw [e3]
  have et : zt S' = zt S := by unfold zt; rw [e2]
  refine ⟨h, _, A1, L, nr, rfl, hs, by rw [ez]; exact hn, cEx.refl hs (fun b hb hn => ⟨?_, ?_⟩), ⟨?_, fun p hp => ?_, fun r hr => ?_, fun j hj => ?_⟩, fun j hj => ?_⟩
  · rw [hw_R_ne _ _ (hn _ (by omega))]
    exact q.1 b (hn _ (by omega)) (hn _ (by omega)) (hn _ (by omega))
  · exact q.2 b (hn _ (by omega)) (hn _ (by omega)) (hn _ (by omega)) (hn _ (by omega)) (hn _ (by omega)) (hn _ (by omega)) (hn _ (by omega))
  · rw [hw_R_ne _ _ (hs.ne (by omega))]
    unfold zn zp ze zc zm zl at v1 ⊢
    rw [e3]
    exact v1
  · rw [et]
    exact v2 p (by omega)
  · rw [e1]
    exact (v3 r (by omega)).keep (hw_R_ne _ _ (hs.ne (by omega))) rfl rfl
  · unfold cH0
    by_cases w : j = k
    · subst w
      rw [hw_R_same]
      exact hg
    · rw [hw_R_ne _ _ (hs.ne (by omega)), ej j w]
      exact v4 j hj
  · by_cases w : j = k
    · subst w
      rw [hw_R_same]
      exact h3
    · rw [hw_R_ne _ _ (hs.ne (by omega)), q.F hs (by omega)]
