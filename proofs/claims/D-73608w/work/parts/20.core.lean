/-! CORE: a small interpreter over an abstract heap. Values: int, long, reference or null. -/
abbrev ix_V : Type := Int32 ⊕ (Int64 ⊕ Option Nat)
abbrev ix_I (x : Int32) : ix_V := Sum.inl x
abbrev ix_L (x : Int64) : ix_V := Sum.inr (Sum.inl x)
abbrev ix_R (r : Option Nat) : ix_V := Sum.inr (Sum.inr r)
/-- (size, slots used, constants), (tags, lengths), fields by address and place, array elements by address and index -/
abbrev ix_H : Type := (Nat × Nat × (Nat → Nat)) × ((Nat → Nat) × (Nat → Nat)) × ((Nat → Nat → Int32) × (Nat → Nat → Int64) × (Nat → Nat → Option Nat)) × ((Nat → Nat → Int32) × (Nat → Nat → Int64) × (Nat → Nat → Option Nat))
def ix_sz (h : ix_H) : Nat := h.1.1
def ix_sl (h : ix_H) : Nat := h.1.2.1
def ix_cs (h : ix_H) : Nat → Nat := h.1.2.2
def ix_tg (h : ix_H) : Nat → Nat := h.2.1.1
def ix_ln (h : ix_H) : Nat → Nat := h.2.1.2
def ix_fI (h : ix_H) : Nat → Nat → Int32 := h.2.2.1.1
def ix_fL (h : ix_H) : Nat → Nat → Int64 := h.2.2.1.2.1
def ix_fR (h : ix_H) : Nat → Nat → Option Nat := h.2.2.1.2.2
def ix_aI (h : ix_H) : Nat → Nat → Int32 := h.2.2.2.1
def ix_aL (h : ix_H) : Nat → Nat → Int64 := h.2.2.2.2.1
def ix_aR (h : ix_H) : Nat → Nat → Option Nat := h.2.2.2.2.2
def ix_up {α : Type} (f : Nat → α) (a : Nat) (v : α) : Nat → α := fun b => if b = a then v else f b
def ix_up2 {α : Type} (f : Nat → Nat → α) (a k : Nat) (v : α) : Nat → Nat → α := fun b j => if b = a ∧ j = k then v else f b j
def ix_row {α : Type} (f : Nat → Nat → α) (a : Nat) (v : α) : Nat → Nat → α := fun b j => if b = a then v else f b j
def ix_cpy {α : Type} (f : Nat → Nat → α) (s sp d dp n : Nat) : Nat → Nat → α := fun b j => if b = d ∧ dp ≤ j ∧ j < dp + n then f s (sp + (j - dp)) else f b j
def ix_wfI (h : ix_H) (a k : Nat) (v : Int32) : ix_H := (h.1, h.2.1, (ix_up2 h.2.2.1.1 a k v, h.2.2.1.2.1, h.2.2.1.2.2), h.2.2.2)
def ix_wfL (h : ix_H) (a k : Nat) (v : Int64) : ix_H := (h.1, h.2.1, (h.2.2.1.1, ix_up2 h.2.2.1.2.1 a k v, h.2.2.1.2.2), h.2.2.2)
def ix_wfR (h : ix_H) (a k : Nat) (v : Option Nat) : ix_H := (h.1, h.2.1, (h.2.2.1.1, h.2.2.1.2.1, ix_up2 h.2.2.1.2.2 a k v), h.2.2.2)
def ix_waI (h : ix_H) (a k : Nat) (v : Int32) : ix_H := (h.1, h.2.1, h.2.2.1, (ix_up2 h.2.2.2.1 a k v, h.2.2.2.2.1, h.2.2.2.2.2))
def ix_waL (h : ix_H) (a k : Nat) (v : Int64) : ix_H := (h.1, h.2.1, h.2.2.1, (h.2.2.2.1, ix_up2 h.2.2.2.2.1 a k v, h.2.2.2.2.2))
def ix_waR (h : ix_H) (a k : Nat) (v : Option Nat) : ix_H := (h.1, h.2.1, h.2.2.1, (h.2.2.2.1, h.2.2.2.2.1, ix_up2 h.2.2.2.2.2 a k v))
/-- a new object of tag c with n slots -/
def ix_nwO (h : ix_H) (c n : Nat) : ix_H := ((h.1.1 + 1, h.1.2.1 + n, h.1.2.2), (ix_up h.2.1.1 h.1.1 c, h.2.1.2), (ix_row h.2.2.1.1 h.1.1 0, ix_row h.2.2.1.2.1 h.1.1 0, ix_row h.2.2.1.2.2 h.1.1 none), h.2.2.2)
/-- a new array of tag c with n places -/
def ix_nwA (h : ix_H) (c n : Nat) : ix_H := ((h.1.1 + 1, h.1.2.1 + n, h.1.2.2), (ix_up h.2.1.1 h.1.1 c, ix_up h.2.1.2 h.1.1 n), h.2.2.1, (ix_row h.2.2.2.1 h.1.1 0, ix_row h.2.2.2.2.1 h.1.1 0, ix_row h.2.2.2.2.2 h.1.1 none))
def ix_cpI (h : ix_H) (s sp d dp n : Nat) : ix_H := (h.1, h.2.1, h.2.2.1, (ix_cpy h.2.2.2.1 s sp d dp n, h.2.2.2.2.1, h.2.2.2.2.2))
def ix_cpR (h : ix_H) (s sp d dp n : Nat) : ix_H := (h.1, h.2.1, h.2.2.1, (h.2.2.2.1, h.2.2.2.2.1, ix_cpy h.2.2.2.2.2 s sp d dp n))
def ix_in (i : Int32) (n : Nat) : Bool := decide (¬ (i < 0 ∨ n ≤ i.toNatClampNeg))
/-- what a place of a small kind keeps: 1 boolean, 2 byte, 3 short, 4 char, else int -/
def ix_nar (t : Nat) (x : Int32) : Int32 := match t with
  | 1 => x &&& 1
  | 2 => x.toInt8.toInt32
  | 3 => x.toInt16.toInt32
  | 4 => x.toUInt32.toUInt16.toUInt32.toInt32
  | _ => x
def ix_okn (t : Nat) (x : Int32) : Bool := match t with
  | 0 => true
  | 1 => x == 0 || x == 1
  | t + 2 => ix_nar (t + 2) x == x
/-! readings and writings that may fail -/
def ix_is (h : ix_H) (c : Nat) : Option Nat → Option Nat
  | none => none
  | some a => cond (Nat.beq (ix_tg h a) c) (some a) none
/-- a cell of tag c, or one that is only read (tag c + 512) -/
def ix_isr (h : ix_H) (c : Nat) : Option Nat → Option Nat
  | none => none
  | some a => cond (Nat.beq (ix_tg h a % 512) c) (some a) none
def ix_at (h : ix_H) (c : Nat) (r : Option Nat) (i : Int32) : Option Nat := (ix_is h c r).bind fun a => cond (ix_in i (ix_ln h a)) (some a) none
def ix_atr (h : ix_H) (c : Nat) (r : Option Nat) (i : Int32) : Option Nat := (ix_isr h c r).bind fun a => cond (ix_in i (ix_ln h a)) (some a) none
abbrev ix_O : Type := Option ((Option ix_V ⊕ Nat) × ix_H)
abbrev ix_C : Type := Nat → List ix_V → ix_H → ix_O
abbrev ix_S : Type := List (Nat × ix_V)
abbrev ix_K : Type := Nat → ix_S → List ix_V → ix_H → ix_O
abbrev ix_T : Type := ix_C → ix_K → ix_K → ix_S → List ix_V → ix_H → ix_O
/-! locals: a list by rising place -/
def ix_lk : ix_S → Nat → Option ix_V
  | [], _ => none
  | (j, v) :: r, i => cond (Nat.beq j i) (some v) (ix_lk r i)
def ix_two : ix_V → Bool
  | .inr (.inl _) => true
  | _ => false
def ix_del (i : Nat) : ix_S → ix_S
  | [] => []
  | (j, w) :: r => cond (Nat.beq j i || (Nat.beq (j + 1) i && ix_two w)) (ix_del i r) ((j, w) :: ix_del i r)
def ix_ins (i : Nat) (v : ix_V) : ix_S → ix_S
  | [] => [(i, v)]
  | (j, w) :: r => cond (Nat.ble (i + 1) j) ((i, v) :: (j, w) :: r) ((j, w) :: ix_ins i v r)
def ix_set (i : Nat) (v : ix_V) (l : ix_S) : ix_S := ix_ins i v (ix_del i l)
def ix_set2 (i : Nat) (v : ix_V) (l : ix_S) : ix_S := ix_ins i v (ix_del (i + 1) (ix_del i l))
def ix_keep : List Nat → ix_S → Option ix_S
  | [], _ => some []
  | i :: r, l => (ix_lk l i).bind fun v => (ix_keep r l).bind fun m => some ((i, v) :: m)
def ix_cat : List ix_V → Nat
  | [] => 0
  | v :: r => cond (ix_two v) 2 1 + ix_cat r
def ix_ent : Nat → List ix_V → ix_S
  | _, [] => []
  | i, v :: r => (i, v) :: ix_ent (cond (ix_two v) (i + 2) (i + 1)) r
/-! running -/
def ix_fwd (cal : ix_C) (bk : ix_K) : List ix_T → ix_K
  | [], _, _, _, _ => none
  | c :: cs, 0, l, k, h => c cal (ix_fwd cal bk cs) bk l k h
  | _ :: cs, s + 1, l, k, h => ix_fwd cal bk cs s l k h
def ix_lp (cal : ix_C) (code : List ix_T) : Nat → ix_K
  | 0, _, _, _, _ => none
  | n + 1, i, l, k, h => ix_fwd cal (ix_lp cal code n) (code.drop i) 0 l k h
/-- P: the methods by number: places for locals, steps; N: how often a method may jump back; d: how deep calls may go -/
def ix_run (P : Nat → Nat × List ix_T) (N : Nat) : Nat → ix_C
  | 0, _, _, _ => none
  | d + 1, y, as, h => cond (Nat.ble (ix_cat as) (P y).1) (ix_fwd (ix_run P N d) (ix_lp (ix_run P N d) (P y).2 N) (P y).2 0 (ix_ent 0 as) [] h) none
/-! what a call gives -/
def ix_rI (o : ix_O) : Option (Int32 × ix_H) := o.bind fun r => match r.1 with
  | .inl (some (.inl x)) => some (x, r.2)
  | _ => none
def ix_rL (o : ix_O) : Option (Int64 × ix_H) := o.bind fun r => match r.1 with
  | .inl (some (.inr (.inl x))) => some (x, r.2)
  | _ => none
def ix_rR (o : ix_O) : Option (Option Nat × ix_H) := o.bind fun r => match r.1 with
  | .inl (some (.inr (.inr x))) => some (x, r.2)
  | _ => none
def ix_rV (o : ix_O) : Option ix_H := o.bind fun r => match r.1 with
  | .inl none => some r.2
  | _ => none
def ix_xI (o : ix_O) (f : Nat → ix_H → ix_O) (g : Int32 → ix_H → ix_O) : ix_O := o.bind fun r => match r.1 with
  | .inl (some (.inl x)) => g x r.2
  | .inr q => f q r.2
  | _ => none
def ix_xR (o : ix_O) (f : Nat → ix_H → ix_O) (g : Option Nat → ix_H → ix_O) : ix_O := o.bind fun r => match r.1 with
  | .inl (some (.inr (.inr x))) => g x r.2
  | .inr q => f q r.2
  | _ => none
def ix_xV (o : ix_O) (f : Nat → ix_H → ix_O) (g : ix_H → ix_O) : ix_O := o.bind fun r => match r.1 with
  | .inl none => g r.2
  | .inr q => f q r.2
  | _ => none
/-! the steps -/
def sx_no : ix_T := fun _ _ _ _ _ _ => none
def sx_keep (is : List Nat) : ix_T := fun _ nx _ l k h => (ix_keep is l).bind fun m => nx 0 m k h
def sx_push (v : ix_V) : ix_T := fun _ nx _ l k h => nx 0 l (v :: k) h
def sx_cst (i : Nat) : ix_T := fun _ nx _ l k h => nx 0 l (ix_R (some (ix_cs h i)) :: k) h
def sx_ild (i : Nat) : ix_T := fun _ nx _ l k h => match ix_lk l i with
  | some (.inl x) => nx 0 l (ix_I x :: k) h
  | _ => none
def sx_lld (i : Nat) : ix_T := fun _ nx _ l k h => match ix_lk l i with
  | some (.inr (.inl x)) => nx 0 l (ix_L x :: k) h
  | _ => none
def sx_ald (i : Nat) : ix_T := fun _ nx _ l k h => match ix_lk l i with
  | some (.inr (.inr x)) => nx 0 l (ix_R x :: k) h
  | _ => none
def sx_ist (i : Nat) : ix_T := fun _ nx _ l k h => match k with
  | .inl x :: k => nx 0 (ix_set i (ix_I x) l) k h
  | _ => none
def sx_lst (i : Nat) : ix_T := fun _ nx _ l k h => match k with
  | .inr (.inl x) :: k => nx 0 (ix_set2 i (ix_L x) l) k h
  | _ => none
def sx_ast (i : Nat) : ix_T := fun _ nx _ l k h => match k with
  | .inr (.inr x) :: k => nx 0 (ix_set i (ix_R x) l) k h
  | _ => none
def sx_inc (i : Nat) (c : Int32) : ix_T := fun _ nx _ l k h => match ix_lk l i with
  | some (.inl x) => nx 0 (ix_set i (ix_I (x + c)) l) k h
  | _ => none
def sx_bin (f : Int32 → Int32 → Int32) : ix_T := fun _ nx _ l k h => match k with
  | .inl y :: .inl x :: k => nx 0 l (ix_I (f x y) :: k) h
  | _ => none
def sx_div (f : Int32 → Int32 → Int32) : ix_T := fun _ nx _ l k h => match k with
  | .inl y :: .inl x :: k => if y = 0 then none else nx 0 l (ix_I (f x y) :: k) h
  | _ => none
def sx_un (f : Int32 → Int32) : ix_T := fun _ nx _ l k h => match k with
  | .inl x :: k => nx 0 l (ix_I (f x) :: k) h
  | _ => none
def sx_lbin (f : Int64 → Int64 → Int64) : ix_T := fun _ nx _ l k h => match k with
  | .inr (.inl y) :: .inr (.inl x) :: k => nx 0 l (ix_L (f x y) :: k) h
  | _ => none
def sx_i2l : ix_T := fun _ nx _ l k h => match k with
  | .inl x :: k => nx 0 l (ix_L x.toInt64 :: k) h
  | _ => none
def sx_lcmp : ix_T := fun _ nx _ l k h => match k with
  | .inr (.inl y) :: .inr (.inl x) :: k => nx 0 l (ix_I (lg_cmp x y) :: k) h
  | _ => none
def sx_pop : ix_T := fun _ nx _ l k h => match k with
  | v :: k => cond (ix_two v) none (nx 0 l k h)
  | _ => none
def sx_dup : ix_T := fun _ nx _ l k h => match k with
  | v :: k => cond (ix_two v) none (nx 0 l (v :: v :: k) h)
  | _ => none
def sx_dupx1 : ix_T := fun _ nx _ l k h => match k with
  | v :: w :: k => cond (ix_two v || ix_two w) none (nx 0 l (v :: w :: v :: k) h)
  | _ => none
def sx_dup2 : ix_T := fun _ nx _ l k h => match k with
  | v :: w :: k => cond (ix_two v || ix_two w) none (nx 0 l (v :: w :: v :: w :: k) h)
  | _ => none
def sx_goto (s : Nat) : ix_T := fun _ nx _ l k h => nx s l k h
def sx_back (i : Nat) (is : List Nat) : ix_T := fun _ _ bk l k h => (ix_keep is l).bind fun m => bk i m k h
def sx_ieq (s : Nat) : ix_T := fun _ nx _ l k h => match k with
  | .inl x :: k => if x = 0 then nx s l k h else nx 0 l k h
  | _ => none
def sx_ine (s : Nat) : ix_T := fun _ nx _ l k h => match k with
  | .inl x :: k => if x = 0 then nx 0 l k h else nx s l k h
  | _ => none
def sx_ilt (s : Nat) : ix_T := fun _ nx _ l k h => match k with
  | .inl x :: k => if x < 0 then nx s l k h else nx 0 l k h
  | _ => none
def sx_ige (s : Nat) : ix_T := fun _ nx _ l k h => match k with
  | .inl x :: k => if 0 ≤ x then nx s l k h else nx 0 l k h
  | _ => none
def sx_igt (s : Nat) : ix_T := fun _ nx _ l k h => match k with
  | .inl x :: k => if 0 < x then nx s l k h else nx 0 l k h
  | _ => none
def sx_ile (s : Nat) : ix_T := fun _ nx _ l k h => match k with
  | .inl x :: k => if x ≤ 0 then nx s l k h else nx 0 l k h
  | _ => none
def sx_ceq (s : Nat) : ix_T := fun _ nx _ l k h => match k with
  | .inl y :: .inl x :: k => if x = y then nx s l k h else nx 0 l k h
  | _ => none
def sx_cne (s : Nat) : ix_T := fun _ nx _ l k h => match k with
  | .inl y :: .inl x :: k => if x = y then nx 0 l k h else nx s l k h
  | _ => none
def sx_clt (s : Nat) : ix_T := fun _ nx _ l k h => match k with
  | .inl y :: .inl x :: k => if x < y then nx s l k h else nx 0 l k h
  | _ => none
def sx_cge (s : Nat) : ix_T := fun _ nx _ l k h => match k with
  | .inl y :: .inl x :: k => if y ≤ x then nx s l k h else nx 0 l k h
  | _ => none
def sx_cgt (s : Nat) : ix_T := fun _ nx _ l k h => match k with
  | .inl y :: .inl x :: k => if y < x then nx s l k h else nx 0 l k h
  | _ => none
def sx_cle (s : Nat) : ix_T := fun _ nx _ l k h => match k with
  | .inl y :: .inl x :: k => if x ≤ y then nx s l k h else nx 0 l k h
  | _ => none
def sx_aeq (s : Nat) : ix_T := fun _ nx _ l k h => match k with
  | .inr (.inr y) :: .inr (.inr x) :: k => if x = y then nx s l k h else nx 0 l k h
  | _ => none
def sx_ane (s : Nat) : ix_T := fun _ nx _ l k h => match k with
  | .inr (.inr y) :: .inr (.inr x) :: k => if x = y then nx 0 l k h else nx s l k h
  | _ => none
def sx_nul (s : Nat) : ix_T := fun _ nx _ l k h => match k with
  | .inr (.inr x) :: k => if x = none then nx s l k h else nx 0 l k h
  | _ => none
def sx_nnul (s : Nat) : ix_T := fun _ nx _ l k h => match k with
  | .inr (.inr x) :: k => if x = none then nx 0 l k h else nx s l k h
  | _ => none
/-- a switch: (key, skip) .., else; the targets all lie ahead -/
def ix_sw (nx : Nat → ix_O) (x : Int32) (d : Nat) : List (Int32 × Nat) → ix_O
  | [] => nx d
  | (v, s) :: r => if x = v then nx s else ix_sw nx x d r
def sx_sw (t : List (Int32 × Nat)) (d : Nat) : ix_T := fun _ nx _ l k h => match k with
  | .inl x :: k => ix_sw (fun s => nx s l k h) x d t
  | _ => none
/-! fields: tag c, place j; 'r' of cells that are only read too -/
def sx_gI (c j : Nat) : ix_T := fun _ nx _ l k h => match k with
  | .inr (.inr r) :: k => (ix_is h c r).bind fun a => nx 0 l (ix_I (ix_fI h a j) :: k) h
  | _ => none
def sx_gL (c j : Nat) : ix_T := fun _ nx _ l k h => match k with
  | .inr (.inr r) :: k => (ix_is h c r).bind fun a => nx 0 l (ix_L (ix_fL h a j) :: k) h
  | _ => none
def sx_gR (c j : Nat) : ix_T := fun _ nx _ l k h => match k with
  | .inr (.inr r) :: k => (ix_is h c r).bind fun a => nx 0 l (ix_R (ix_fR h a j) :: k) h
  | _ => none
def sx_gIr (c j : Nat) : ix_T := fun _ nx _ l k h => match k with
  | .inr (.inr r) :: k => (ix_isr h c r).bind fun a => nx 0 l (ix_I (ix_fI h a j) :: k) h
  | _ => none
def sx_gRr (c j : Nat) : ix_T := fun _ nx _ l k h => match k with
  | .inr (.inr r) :: k => (ix_isr h c r).bind fun a => nx 0 l (ix_R (ix_fR h a j) :: k) h
  | _ => none
def sx_pI (c j t : Nat) : ix_T := fun _ nx _ l k h => match k with
  | .inl x :: .inr (.inr r) :: k => (ix_is h c r).bind fun a => cond (ix_okn t x) (nx 0 l k (ix_wfI h a j x)) none
  | _ => none
def sx_pL (c j : Nat) : ix_T := fun _ nx _ l k h => match k with
  | .inr (.inl x) :: .inr (.inr r) :: k => (ix_is h c r).bind fun a => nx 0 l k (ix_wfL h a j x)
  | _ => none
def sx_pR (c j : Nat) : ix_T := fun _ nx _ l k h => match k with
  | .inr (.inr x) :: .inr (.inr r) :: k => (ix_is h c r).bind fun a => nx 0 l k (ix_wfR h a j x)
  | _ => none
/-! arrays of tag c -/
def sx_alI (c : Nat) : ix_T := fun _ nx _ l k h => match k with
  | .inl i :: .inr (.inr r) :: k => (ix_atr h c r i).bind fun a => nx 0 l (ix_I (ix_aI h a i.toNatClampNeg) :: k) h
  | _ => none
def sx_alL (c : Nat) : ix_T := fun _ nx _ l k h => match k with
  | .inl i :: .inr (.inr r) :: k => (ix_atr h c r i).bind fun a => nx 0 l (ix_L (ix_aL h a i.toNatClampNeg) :: k) h
  | _ => none
def sx_alR (c : Nat) : ix_T := fun _ nx _ l k h => match k with
  | .inl i :: .inr (.inr r) :: k => (ix_atr h c r i).bind fun a => nx 0 l (ix_R (ix_aR h a i.toNatClampNeg) :: k) h
  | _ => none
def sx_asI (c t : Nat) : ix_T := fun _ nx _ l k h => match k with
  | .inl x :: .inl i :: .inr (.inr r) :: k => (ix_at h c r i).bind fun a => nx 0 l k (ix_waI h a i.toNatClampNeg (ix_nar t x))
  | _ => none
def sx_asL (c : Nat) : ix_T := fun _ nx _ l k h => match k with
  | .inr (.inl x) :: .inl i :: .inr (.inr r) :: k => (ix_at h c r i).bind fun a => nx 0 l k (ix_waL h a i.toNatClampNeg x)
  | _ => none
/-- null, or a cell of a tag in ts -/
def ix_of (h : ix_H) (ts : List Nat) : Option Nat → Bool
  | none => true
  | some a => ts.any (fun t => Nat.beq (ix_tg h a) t)
def sx_asR (c : Nat) (ts : List Nat) : ix_T := fun _ nx _ l k h => match k with
  | .inr (.inr x) :: .inl i :: .inr (.inr r) :: k => (ix_at h c r i).bind fun a => cond (ix_of h ts x) (nx 0 l k (ix_waR h a i.toNatClampNeg x)) none
  | _ => none
def sx_len (c : Nat) : ix_T := fun _ nx _ l k h => match k with
  | .inr (.inr r) :: k => (ix_isr h c r).bind fun a => nx 0 l (ix_I (Int32.ofNat (ix_ln h a)) :: k) h
  | _ => none
def sx_new (c n : Nat) : ix_T := fun _ nx _ l k h => nx 0 l (ix_R (some (ix_sz h)) :: k) (ix_nwO h c n)
def sx_newA (c : Nat) : ix_T := fun _ nx _ l k h => match k with
  | .inl n :: k => cond (ix_in n 1000001) (nx 0 l (ix_R (some (ix_sz h)) :: k) (ix_nwA h c n.toNatClampNeg)) none
  | _ => none
/-- a cast to what the tags ts may be cast to -/
def sx_cast (ts : List Nat) : ix_T := fun _ nx _ l k h => match k with
  | .inr (.inr x) :: k => cond (ix_of h ts x) (nx 0 l (ix_R x :: k) h) none
  | _ => none
/-- instanceof, of tags that are -/
def sx_inst (ts : List Nat) : ix_T := fun _ nx _ l k h => match k with
  | .inr (.inr (some a)) :: k => cond (ts.any (fun t => Nat.beq (ix_tg h a % 512) t)) (nx 0 l (ix_I 1 :: k) h) none
  | _ => none
/-! calls: y the method's number, n how many words it takes (its object among them). 'v' of an object of tag c (it is told apart by it), 's' static -/
def ix_cut (k : List ix_V) (n : Nat) (f : List ix_V → List ix_V → ix_O) : ix_O := cond (Nat.ble (ix_cat (k.drop n)) 8 && Nat.ble n k.length) (f (k.take n).reverse (k.drop n)) none
/-- the object that a call is on has tag c (or is only read) -/
def ix_obj (h : ix_H) (c : Nat) (as : List ix_V) (f : List ix_V → ix_O) : ix_O := match as with
  | .inr (.inr r) :: as => (ix_isr h c r).bind fun a => f (ix_R (some a) :: as)
  | _ => none
def sx_csI (y n : Nat) : ix_T := fun cal nx _ l k h => ix_cut k n fun as k => (ix_rI (cal y as h)).bind fun r => nx 0 l (ix_I r.1 :: k) r.2
def sx_csL (y n : Nat) : ix_T := fun cal nx _ l k h => ix_cut k n fun as k => (ix_rL (cal y as h)).bind fun r => nx 0 l (ix_L r.1 :: k) r.2
def sx_csR (y n : Nat) : ix_T := fun cal nx _ l k h => ix_cut k n fun as k => (ix_rR (cal y as h)).bind fun r => nx 0 l (ix_R r.1 :: k) r.2
def sx_csV (y n : Nat) : ix_T := fun cal nx _ l k h => ix_cut k n fun as k => (ix_rV (cal y as h)).bind fun r => nx 0 l k r
def sx_cvI (y n c : Nat) : ix_T := fun cal nx _ l k h => ix_cut k n fun as k => ix_obj h c as fun as => (ix_rI (cal y as h)).bind fun r => nx 0 l (ix_I r.1 :: k) r.2
def sx_cvL (y n c : Nat) : ix_T := fun cal nx _ l k h => ix_cut k n fun as k => ix_obj h c as fun as => (ix_rL (cal y as h)).bind fun r => nx 0 l (ix_L r.1 :: k) r.2
def sx_cvR (y n c : Nat) : ix_T := fun cal nx _ l k h => ix_cut k n fun as k => ix_obj h c as fun as => (ix_rR (cal y as h)).bind fun r => nx 0 l (ix_R r.1 :: k) r.2
def sx_cvV (y n c : Nat) : ix_T := fun cal nx _ l k h => ix_cut k n fun as k => ix_obj h c as fun as => (ix_rV (cal y as h)).bind fun r => nx 0 l k r
/-- by the object's tag: (tag, method) .. -/
def ix_dsp (h : ix_H) (as : List ix_V) : List (Nat × Nat) → (Nat → List ix_V → ix_O) → ix_O := fun t f => match as with
  | .inr (.inr (some a)) :: as => match t.find? (fun q => Nat.beq q.1 (ix_tg h a)) with
    | some q => f q.2 (ix_R (some a) :: as)
    | none => none
  | _ => none
def sx_cdI (t : List (Nat × Nat)) (n : Nat) : ix_T := fun cal nx _ l k h => ix_cut k n fun as k => ix_dsp h as t fun y as => (ix_rI (cal y as h)).bind fun r => nx 0 l (ix_I r.1 :: k) r.2
def sx_cdV (t : List (Nat × Nat)) (n : Nat) : ix_T := fun cal nx _ l k h => ix_cut k n fun as k => ix_dsp h as t fun y as => (ix_rV (cal y as h)).bind fun r => nx 0 l k r
/-! calls that may throw: what is thrown leaves the method -/
def ix_out (q : Nat) (h : ix_H) : ix_O := some (.inr q, h)
def sx_cxI (y n c : Nat) : ix_T := fun cal nx _ l k h => ix_cut k n fun as k => ix_obj h c as fun as => ix_xI (cal y as h) ix_out fun x h => nx 0 l (ix_I x :: k) h
def sx_cxR (y n c : Nat) : ix_T := fun cal nx _ l k h => ix_cut k n fun as k => ix_obj h c as fun as => ix_xR (cal y as h) ix_out fun x h => nx 0 l (ix_R x :: k) h
def sx_cxV (y n c : Nat) : ix_T := fun cal nx _ l k h => ix_cut k n fun as k => ix_obj h c as fun as => ix_xV (cal y as h) ix_out fun h => nx 0 l k h
/-- .. or is caught s steps ahead -/
def sx_chR (y n c s : Nat) : ix_T := fun cal nx _ l k h => ix_cut k n fun as k => ix_obj h c as fun as => ix_xR (cal y as h) (fun q h => nx s l [ix_R (some q)] h) fun x h => nx 0 l (ix_R x :: k) h
def sx_thr (c : Nat) : ix_T := fun _ _ _ _ k h => match k with
  | .inr (.inr r) :: _ => (ix_is h c r).bind fun a => ix_out a h
  | _ => none
/-! ends -/
def sx_ret : ix_T := fun _ _ _ _ k h => match k with
  | [] => some (.inl none, h)
  | _ => none
def sx_iret (t : Nat) : ix_T := fun _ _ _ _ k h => match k with
  | [.inl x] => cond (ix_okn t x) (some (.inl (some (ix_I x)), h)) none
  | _ => none
def sx_lret : ix_T := fun _ _ _ _ k h => match k with
  | [.inr (.inl x)] => some (.inl (some (ix_L x)), h)
  | _ => none
def sx_aret : ix_T := fun _ _ _ _ k h => match k with
  | [.inr (.inr x)] => some (.inl (some (ix_R x)), h)
  | _ => none
/-- Object.<init> -/
def sx_oin : ix_T := fun _ nx _ l k h => match k with
  | .inr (.inr (some _)) :: k => cond (Nat.ble (ix_cat k) 8) (nx 0 l k h) none
  | _ => none
/-- the class of an array of tag c -/
def sx_gcl (c i : Nat) : ix_T := fun _ nx _ l k h => match k with
  | .inr (.inr r) :: k => (ix_is h c r).bind fun _ => cond (Nat.ble (ix_cat k) 8) (nx 0 l (ix_R (some (ix_cs h i)) :: k) h) none
  | _ => none
/-! System.arraycopy between arrays of tag c -/
def sx_cpyI (c : Nat) : ix_T := fun _ nx _ l k h => match k with
  | .inl n :: .inl dp :: .inr (.inr d) :: .inl sp :: .inr (.inr s) :: k => (ix_is h c s).bind fun a => (ix_is h c d).bind fun b =>
    if ¬ n < 0 ∧ ¬ dp < 0 ∧ ¬ sp < 0 ∧ sp.toNatClampNeg + n.toNatClampNeg ≤ ix_ln h a ∧ dp.toNatClampNeg + n.toNatClampNeg ≤ ix_ln h b ∧ ix_cat k ≤ 8 then nx 0 l k (ix_cpI h a sp.toNatClampNeg b dp.toNatClampNeg n.toNatClampNeg) else none
  | _ => none
def sx_cpyR (c : Nat) (ts : List Nat) : ix_T := fun _ nx _ l k h => match k with
  | .inl n :: .inl dp :: .inr (.inr d) :: .inl sp :: .inr (.inr s) :: k => (ix_is h c s).bind fun a => (ix_is h c d).bind fun b =>
    if ¬ n < 0 ∧ ¬ dp < 0 ∧ ¬ sp < 0 ∧ sp.toNatClampNeg + n.toNatClampNeg ≤ ix_ln h a ∧ dp.toNatClampNeg + n.toNatClampNeg ≤ ix_ln h b ∧ ix_cat k ≤ 8 ∧ ∀ i, i < n.toNatClampNeg → ix_of h ts (ix_aR h a (sp.toNatClampNeg + i)) = true then nx 0 l k (ix_cpR h a sp.toNatClampNeg b dp.toNatClampNeg n.toNatClampNeg) else none
  | _ => none
