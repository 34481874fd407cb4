/-! HW: a heap as a skeleton with its int contents apart -/
def hw (h : ix_H) (F A : Nat → Nat → Int32) : ix_H := (h.1, h.2.1, (F, h.2.2.1.2.1, h.2.2.1.2.2), (A, h.2.2.2.2.1, h.2.2.2.2.2))
theorem hw_self (h : ix_H) : hw h (ix_fI h) (ix_aI h) = h := rfl
theorem hw_tg (h : ix_H) (F A : Nat → Nat → Int32) : ix_tg (hw h F A) = ix_tg h := rfl
theorem hw_ln (h : ix_H) (F A : Nat → Nat → Int32) : ix_ln (hw h F A) = ix_ln h := rfl
theorem hw_sz (h : ix_H) (F A : Nat → Nat → Int32) : ix_sz (hw h F A) = ix_sz h := rfl
theorem hw_sl (h : ix_H) (F A : Nat → Nat → Int32) : ix_sl (hw h F A) = ix_sl h := rfl
theorem hw_cs (h : ix_H) (F A : Nat → Nat → Int32) : ix_cs (hw h F A) = ix_cs h := rfl
theorem hw_fR (h : ix_H) (F A : Nat → Nat → Int32) : ix_fR (hw h F A) = ix_fR h := rfl
theorem hw_aR (h : ix_H) (F A : Nat → Nat → Int32) : ix_aR (hw h F A) = ix_aR h := rfl
theorem hw_fL (h : ix_H) (F A : Nat → Nat → Int32) : ix_fL (hw h F A) = ix_fL h := rfl
theorem hw_aL (h : ix_H) (F A : Nat → Nat → Int32) : ix_aL (hw h F A) = ix_aL h := rfl
theorem hw_fI (h : ix_H) (F A : Nat → Nat → Int32) : ix_fI (hw h F A) = F := rfl
theorem hw_aI (h : ix_H) (F A : Nat → Nat → Int32) : ix_aI (hw h F A) = A := rfl
theorem hw_hw (h : ix_H) (F A F' A' : Nat → Nat → Int32) : hw (hw h F A) F' A' = hw h F' A' := rfl
theorem hw_wfI (h : ix_H) (F A : Nat → Nat → Int32) (a k : Nat) (v : Int32) : ix_wfI (hw h F A) a k v = hw h (ix_up2 F a k v) A := rfl
theorem hw_waI (h : ix_H) (F A : Nat → Nat → Int32) (a k : Nat) (v : Int32) : ix_waI (hw h F A) a k v = hw h F (ix_up2 A a k v) := rfl
theorem hw_is (h : ix_H) (F A : Nat → Nat → Int32) (c : Nat) (r : Option Nat) : ix_is (hw h F A) c r = ix_is h c r := by cases r <;> rfl
theorem hw_isr (h : ix_H) (F A : Nat → Nat → Int32) (c : Nat) (r : Option Nat) : ix_isr (hw h F A) c r = ix_isr h c r := by cases r <;> rfl
theorem hw_at (h : ix_H) (F A : Nat → Nat → Int32) (c : Nat) (r : Option Nat) (i : Int32) : ix_at (hw h F A) c r i = ix_at h c r i := by cases r <;> rfl
theorem hw_atr (h : ix_H) (F A : Nat → Nat → Int32) (c : Nat) (r : Option Nat) (i : Int32) : ix_atr (hw h F A) c r i = ix_atr h c r i := by cases r <;> rfl
theorem hw_of (h : ix_H) (F A : Nat → Nat → Int32) (ts : List Nat) (r : Option Nat) : ix_of (hw h F A) ts r = ix_of h ts r := by cases r <;> rfl
theorem hw_bd {α β : Type} (x : α) (f : α → β) : ix_bd x f = f x := rfl
theorem hw_rI (x : Int32) (h : ix_H) : ix_rI (some (.inl (some (ix_I x)), h)) = some (x, h) := rfl
theorem hw_rL (x : Int64) (h : ix_H) : ix_rL (some (.inl (some (ix_L x)), h)) = some (x, h) := rfl
theorem hw_rR (x : Option Nat) (h : ix_H) : ix_rR (some (.inl (some (ix_R x)), h)) = some (x, h) := rfl
theorem hw_rV (h : ix_H) : ix_rV (some (.inl none, h)) = some h := rfl
theorem hw_up {α : Type} (f : Nat → Nat → α) (a k : Nat) (v : α) (b j : Nat) : ix_up2 f a k v b j = if b = a ∧ j = k then v else f b j := rfl
theorem hw_row {α : Type} (f : Nat → Nat → α) (a : Nat) (g : Nat → α) (b j : Nat) : (fun b j => if b = a then g j else f b j) b j = if b = a then g j else f b j := rfl
/-- a row put in place of another -/
def hw_R (f : Nat → Nat → Int32) (a : Nat) (g : Nat → Int32) : Nat → Nat → Int32 := fun b => if b = a then g else f b
theorem hw_R_at (f : Nat → Nat → Int32) (a : Nat) (g : Nat → Int32) (b : Nat) : hw_R f a g b = if b = a then g else f b := rfl
theorem hw_R_same (f : Nat → Nat → Int32) (a : Nat) (g : Nat → Int32) : hw_R f a g a = g := if_pos rfl
theorem hw_R_ne (f : Nat → Nat → Int32) {a b : Nat} (g : Nat → Int32) (h : b ≠ a) : hw_R f a g b = f b := if_neg h
theorem hw_R_self (f : Nat → Nat → Int32) (a : Nat) : hw_R f a (f a) = f := by
  funext b; by_cases h : b = a
  · rw [h, hw_R_same]
  · rw [hw_R_ne _ _ h]
theorem hw_R_R (f : Nat → Nat → Int32) (a : Nat) (g g' : Nat → Int32) : hw_R (hw_R f a g) a g' = hw_R f a g' := by
  funext b; by_cases h : b = a
  · rw [h, hw_R_same, hw_R_same]
  · rw [hw_R_ne _ _ h, hw_R_ne _ _ h, hw_R_ne _ _ h]
/-- a place of a row -/
def hw_U (g : Nat → Int32) (k : Nat) (v : Int32) : Nat → Int32 := fun j => if j = k then v else g j
theorem hw_U_at (g : Nat → Int32) (k : Nat) (v : Int32) (j : Nat) : hw_U g k v j = if j = k then v else g j := rfl
theorem hw_U_same (g : Nat → Int32) (k : Nat) (v : Int32) : hw_U g k v k = v := if_pos rfl
theorem hw_U_ne (g : Nat → Int32) {k j : Nat} (v : Int32) (h : j ≠ k) : hw_U g k v j = g j := if_neg h
theorem hw_up_R (f : Nat → Nat → Int32) (a k : Nat) (v : Int32) : ix_up2 f a k v = hw_R f a (hw_U (f a) k v) := by
  funext b j; by_cases h : b = a
  · subst h
    rw [hw_R_same, hw_U_at, hw_up]
    simp
  · rw [hw_R_ne _ _ h, hw_up]
    simp [h]
theorem hw_wfR (h : ix_H) (F A : Nat → Nat → Int32) (a k : Nat) (v : Int32) : ix_wfI (hw h F A) a k v = hw h (hw_R F a (hw_U (F a) k v)) A := by rw [hw_wfI, hw_up_R]
theorem hw_waR (h : ix_H) (F A : Nat → Nat → Int32) (a k : Nat) (v : Int32) : ix_waI (hw h F A) a k v = hw h F (hw_R A a (hw_U (A a) k v)) := by rw [hw_waI, hw_up_R]
theorem hw_in {i n : Nat} (h : i < n) (hn : n < 2147483648) : ix_in (nI i) n = true := by
  unfold ix_in
  exact decide_eq_true (nI_in h hn)
theorem hw_cl {n : Nat} (h : n < 2147483648) : (nI n).toNatClampNeg = n := nI_clamp h
theorem hw_le {a b : Nat} (ha : a < 2147483648) (hb : b < 2147483648) : (nI a ≤ nI b) = (a ≤ b) := propext (nI_leI ha hb)
theorem hw_lt {a b : Nat} (ha : a < 2147483648) (hb : b < 2147483648) : (nI a < nI b) = (a < b) := propext (nI_ltI ha hb)
theorem hw_eq {a b : Nat} (ha : a < 2147483648) (hb : b < 2147483648) : (nI a = nI b) = (a = b) := propext (nI_eq ha hb)
theorem hw_dec (n : Nat) : nI (n + 1) + (-1 : Int32) = nI n := by
  have h : nI (n + 1) = nI n + 1 := nI_succ n
  rw [h, Int32.add_assoc]
  have : (1 : Int32) + (-1) = 0 := by decide
  rw [this, Int32.add_zero]
theorem hw_sub {a b : Nat} (h : b ≤ a) : nI a - nI b = nI (a - b) := by
  have e : nI a = nI (a - b) + nI b := by rw [nI_add, Nat.sub_add_cancel h]
  rw [e, Int32.add_sub_cancel]
theorem hw_m1 (n : Nat) : nI n + (-1 : Int32) = nI n - nI 1 := by
  rw [Int32.sub_eq_add_neg]
  rfl
theorem hw_s0 : nI 0 - nI 1 < nI 0 := by decide
theorem hw_mul (a b : Nat) : nI a * nI b = nI (a * b) := by
  unfold nI
  exact (Int32.ofNat_mul a b).symm
theorem hw_okn1_0 : ix_okn 1 (nI 0) = true := by decide
theorem hw_okn1_1 : ix_okn 1 (nI 1) = true := by decide
/-- which rows a step may change -/
def hw_Fr (P Q : Nat → Prop) (F A F' A' : Nat → Nat → Int32) : Prop := (∀ b, ¬ P b → F' b = F b) ∧ ∀ b, ¬ Q b → A' b = A b
theorem hw_bdF {β : Type} (h : ix_H) (F A : Nat → Nat → Int32) (a k : Nat) (v : Int32) (f : ix_H → β) : ix_bd (ix_wfI (hw h F A) a k v) f = f (hw h (hw_R F a (hw_U (F a) k v)) A) := by rw [hw_wfR]; rfl
theorem hw_bdA {β : Type} (h : ix_H) (F A : Nat → Nat → Int32) (a k : Nat) (v : Int32) (f : ix_H → β) : ix_bd (ix_waI (hw h F A) a k v) f = f (hw h F (hw_R A a (hw_U (A a) k v))) := by rw [hw_waR]; rfl
theorem hw_cbd (x y : ix_O) : cond true x y = x := rfl
theorem hw_cI {o : ix_O} {x : Int32} {H : ix_H} (e : o = some (.inl (some (ix_I x)), H)) (f : Int32 × ix_H → ix_O) : (ix_rI o).bind f = f (x, H) := by rw [e]; rfl
theorem hw_cR {o : ix_O} {x : Option Nat} {H : ix_H} (e : o = some (.inl (some (ix_R x)), H)) (f : Option Nat × ix_H → ix_O) : (ix_rR o).bind f = f (x, H) := by rw [e]; rfl
theorem hw_cV {o : ix_O} {H : ix_H} (e : o = some (.inl none, H)) (f : ix_H → ix_O) : (ix_rV o).bind f = f H := by rw [e]; rfl
