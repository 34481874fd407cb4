/-! T3: what a text says: terms as code (0 an int, 1 a variable, 2 plus, 3 minus, 4 times, 5 over, 6 the rest), tells as trees -/
set_option maxRecDepth 100000
/-- a fault's number and its token, or a value and the next token -/
abbrev xR (α : Type) : Type := (Nat × Nat) ⊕ (α × Nat)
def x_bd {α β : Type} (r : xR α) (f : α → Nat → xR β) : xR β := match r with
  | .inl e => .inl e
  | .inr (a, t) => f a t
abbrev xC : Type := List (Nat × Int32)
/-- put 0, cut 1, get 2, step 3, close 4, sweep 5; the hand (-1: a put, a cut alone); two terms -/
abbrev xL : Type := Nat × Int32 × xC × xC
/-- a tell: one, or rounds -/
def xT : Nat → Type
  | 0 => xL
  | d + 1 => xL ⊕ (Int32 × List (xT d))
def x_lf : (d : Nat) → xL → xT d
  | 0, l => l
  | _ + 1, l => .inl l
section
variable (tk : Nat → tK)
def x_kd (t : Nat) : Nat := (tk t).1
def x_pas (t : Nat) : xR Unit := if t = 400 then .inl (2, t) else .inr ((), t + 1)
def x_must (k t : Nat) : xR Unit := if x_kd tk t = k then x_pas t else .inl (1, t)
def x_op (k : Nat) : Nat := if k = 8 then 2 else if k = 9 then 3 else if k = 10 then 4 else if k = 15 then 5 else 6
def x_isM (k : Nat) : Bool := decide (k = 10 ∨ k = 15 ∨ k = 16)
def x_isA (k : Nat) : Bool := decide (k = 8 ∨ k = 9)
def x_lp (u : Nat → xR xC) (p : Nat → Bool) : Nat → Nat → xC → xR xC
  | 0, t, c => .inr (c, t)
  | z + 1, t, c => if p (x_kd tk t) = true then x_bd (x_pas t) fun _ t1 => x_bd (u t1) fun c2 t2 => x_lp u p z t2 (c ++ c2 ++ [(x_op (x_kd tk t), nI 0)]) else .inr (c, t)
def x_part (u : Nat → xR xC) (t : Nat) : xR xC := x_bd (u t) fun c t1 => x_lp tk u x_isM (401 - t1) t1 c
def x_sum (u : Nat → xR xC) (t : Nat) : xR xC := x_bd (x_part tk u t) fun c t1 => x_lp tk (x_part tk u) x_isA (401 - t1) t1 c
/-- a term's unit; d: how many more may open -/
def x_unit : Nat → Nat → xR xC
  | 0, t =>
    if x_kd tk t = 2 then x_bd (x_pas t) fun _ t1 => .inr ([(0, (tk t).2.2.2)], t1)
    else if 32 ≤ x_kd tk t ∧ x_kd tk t ≤ 37 then x_bd (x_pas t) fun _ t1 => .inr ([(1, nI (x_kd tk t - 32))], t1)
    else if x_kd tk t = 6 then .inl (2, t) else .inl (1, t)
  | d + 1, t =>
    if x_kd tk t = 2 then x_bd (x_pas t) fun _ t1 => .inr ([(0, (tk t).2.2.2)], t1)
    else if 32 ≤ x_kd tk t ∧ x_kd tk t ≤ 37 then x_bd (x_pas t) fun _ t1 => .inr ([(1, nI (x_kd tk t - 32))], t1)
    else if x_kd tk t = 6 then x_bd (x_pas t) fun _ t1 => x_bd (x_sum tk (x_unit d) t1) fun c t2 => x_bd (x_must tk 7 t2) fun _ t3 => .inr (c, t3) else .inl (1, t)
/-- a term -/
def x_term (t : Nat) : xR xC := x_sum tk (x_unit tk 6) t
/-- an int in a range; the first that is out of it is kept -/
def x_num (lo hi : Int32) (t : Nat) (w : Option Nat) : xR (Int32 × Option Nat) :=
  if x_kd tk t = 2 then x_bd (x_pas t) fun _ t1 => .inr (((tk t).2.2.2, if (tk t).2.2.2 < lo ∨ hi < (tk t).2.2.2 then (match w with | some x => some x | none => some t) else w), t1) else .inl (1, t)
def x_act (hd : Int32) (t : Nat) : xR xL :=
  if x_kd tk t = 30 then x_bd (x_pas t) fun _ t1 => x_bd (x_term tk t1) fun a t2 => x_bd (x_term tk t2) fun b t3 => .inr ((0, hd, a, b), t3)
  else if x_kd tk t = 31 then x_bd (x_pas t) fun _ t1 => x_bd (x_term tk t1) fun a t2 => .inr ((1, hd, a, []), t2)
  else .inl (1, t)
/-- a tell that is no rounds -/
def x_one (t : Nat) (w : Option Nat) : xR (xL × Option Nat) :=
  if x_kd tk t = 23 then x_bd (x_pas t) fun _ t1 => x_bd (x_num tk (nI 0) (nI 3) t1 w) fun h t2 => x_bd (x_act tk h.1 t2) fun l t3 => .inr ((l, h.2), t3)
  else if x_kd tk t = 24 then x_bd (x_pas t) fun _ t1 => x_bd (x_num tk (nI 0) (nI 3) t1 w) fun h t2 => x_bd (x_term tk t2) fun a t3 => .inr (((2, h.1, a, []), h.2), t3)
  else if x_kd tk t = 25 then x_bd (x_pas t) fun _ t1 => x_bd (x_num tk (nI 0) (nI 3) t1 w) fun h t2 => .inr (((3, h.1, [], []), h.2), t2)
  else if x_kd tk t = 26 then x_bd (x_pas t) fun _ t1 => x_bd (x_num tk (nI 0) (nI 3) t1 w) fun h t2 => .inr (((4, h.1, [], []), h.2), t2)
  else if x_kd tk t = 27 then x_bd (x_pas t) fun _ t1 => .inr (((5, -1, [], []), w), t1)
  else x_bd (x_act tk (-1) t) fun l t1 => .inr ((l, w), t1)
/-- tells up to a token of kind e -/
def x_until {α : Type} (f : Nat → Option Nat → xR (α × Option Nat)) (e : Nat) : Nat → Nat → Option Nat → List α → xR (List α × Option Nat)
  | 0, t, w, l => .inr ((l, w), t)
  | z + 1, t, w, l => if x_kd tk t = e then .inr ((l, w), t) else x_bd (f t w) fun a t1 => x_until f e z t1 a.2 (l ++ [a.1])
def x_told : (d : Nat) → Nat → Option Nat → xR (xT d × Option Nat)
  | 0, t, w => if x_kd tk t = 28 then .inl (2, t) else x_bd (x_one tk t w) fun l t1 => x_bd (x_must tk 4 t1) fun _ t2 => .inr ((l.1, l.2), t2)
  | d + 1, t, w => if x_kd tk t = 28 then x_bd (x_pas t) fun _ t1 => x_bd (x_num tk (nI 0) (nI 99) t1 w) fun n t2 => x_bd (x_must tk 4 t2) fun _ t3 => x_bd (x_until tk (x_told d) 29 (401 - t3) t3 n.2 []) fun l t4 => x_bd (x_pas t4) fun _ t5 => x_bd (x_must tk 4 t5) fun _ t6 => .inr ((.inr (n.1, l.1), l.2), t6)
    else x_bd (x_one tk t w) fun l t1 => x_bd (x_must tk 4 t1) fun _ t2 => .inr ((.inl l.1, l.2), t2)
def x_set (k : Nat) (lo hi own : Int32) (t : Nat) (w : Option Nat) : xR (Int32 × Option Nat) :=
  if x_kd tk t = k then x_bd (x_pas t) fun _ t1 => x_bd (x_num tk lo hi t1 w) fun v t2 => x_bd (x_must tk 4 t2) fun _ t3 => .inr (v, t3) else .inr ((own, w), t)
/-- a whole text: chain, most, least, its tells, the first number out of range -/
def x_text : xR (Int32 × Int32 × Int32 × List (xT 3) × Option Nat) :=
  x_bd (x_set tk 20 (nI 1) (nI 8) (nI 3) 0 none) fun a t1 => x_bd (x_set tk 21 (nI 4) (nI 12) (nI 6) t1 a.2) fun b t2 => x_bd (x_set tk 22 (nI 0) (nI 3) (nI 2) t2 b.2) fun c t3 =>
    x_bd (x_until tk (x_told tk 3) 0 (401 - t3) t3 c.2 []) fun l t4 => .inr ((a.1, b.1, c.1, l.1, l.2), t4)
end
/-! runs: the store, the last key, rounds (0 the innermost) -/
abbrev xG : Type := zS × Int32 × List Int32
/-- what a term comes to -/
def r_ev (σ : xG) : xC → List Int32 → List Int32
  | [], s => s
  | (0, v) :: r, s => r_ev σ r (v :: s)
  | (1, v) :: r, s => r_ev σ r ((if v = nI 0 then σ.2.2.getD 0 (nI 0) else if v = nI 1 then σ.2.2.getD 1 (nI 0) else if v = nI 2 then nI (z_all σ.1).length else if v = nI 3 then σ.2.1 else if v = nI 4 then nI (zn σ.1) else z_lost σ.1) :: s)
  | (k, _) :: r, s => match s with
    | b :: a :: s' => r_ev σ r ((if k = 2 then a + b else if k = 3 then a - b else if k = 4 then a * b else if b = nI 0 then nI 0 else if k = 5 then a / b else a % b) :: s')
    | _ => r_ev σ r s
def r_val (σ : xG) (c : xC) : Int32 := (r_ev σ c []).headD (nI 0)
/-- the key that a number means -/
def r_key (v : Int32) : Int32 := if v % nI 1000 < nI 0 then v % nI 1000 + nI 1000 else v % nI 1000
def r_hd (h : Int32) : Nat := if h < nI 0 then 0 else h.toNatClampNeg
/-- one tell; it is counted -/
def r_one (l : xL) (σ : xG) : xG :=
  let S := z_ty σ.1
  let σ1 : xG := (S, σ.2)
  if l.1 < 3 then
    let k := r_key (r_val σ1 l.2.2.1)
    let v := if l.1 = 0 then r_val σ1 l.2.2.2 else nI 0
    let r := z_take S (r_hd l.2.1) (nI (l.1 + 1)) k v
    (if r.1 = true ∧ l.2.1 < nI 0 then (z_close 200 r.2 0).2 else r.2, if r.1 = true ∧ l.1 = 0 then k else σ.2.1, σ.2.2)
  else if l.1 = 3 then (z_step S (r_hd l.2.1), σ.2)
  else if l.1 = 4 then ((z_close 200 S (r_hd l.2.1)).2, σ.2)
  else ((z_sweep S).2, σ.2)
abbrev r_ov (σ : xG) : Prop := 400 ≤ zy σ.1
def r_all {α : Type} (f : α → xG → xG) : List α → xG → xG
  | [], σ => σ
  | t :: r, σ => if r_ov σ then σ else r_all f r (f t σ)
/-- rounds from i on, j of them left -/
def r_rds {α : Type} (f : α → xG → xG) (b : List α) : Nat → Nat → xG → xG
  | 0, _, σ => σ
  | j + 1, i, σ => if r_ov σ then σ else r_rds f b j (i + 1) (r_all f b (σ.1, σ.2.1, nI i :: σ.2.2.tail))
def r_tell : (d : Nat) → xT d → xG → xG
  | 0, l, σ => r_one l σ
  | _ + 1, .inl l, σ => r_one l σ
  | d + 1, .inr (n, b), σ => let σ' := r_rds (r_tell d) b n.toNatClampNeg 0 (σ.1, σ.2.1, nI 0 :: σ.2.2); (σ'.1, σ'.2.1, σ.2.2)
/-- a text that is told anew -/
def r_text (a b c : Int32) (l : List (xT 3)) : zS := (r_all (r_tell 3) l (z_beg a.toNatClampNeg b.toNatClampNeg c.toNatClampNeg, nI 0, [])).1
/-- reading: what it answers, the state then -/
def a_read (X : xS) : Int32 × xS :=
  let tk := fun i => (tk_at (tk_f (xb X) (xn X)) (xn X) 0).getD i (0, 0, 0, nI 0)
  match x_text tk with
  | .inl (n, t) => (nI n, X.1, X.2.1, X.2.2.1, 0, nI (tk t).2.1)
  | .inr ((a, b, c, l, w), _) => match w with
    | some t => (nI 5, X.1, X.2.1, X.2.2.1, 0, nI (tk t).2.1)
    | none => (nI 0, r_text a b c l, fun _ => none, X.2.2.1, 0, -1)
