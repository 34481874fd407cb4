/-! ZS: a store as numbers: records (0 sort 1 own 2 page 3 next 4 retired 5 free 6 many 7 high 8 right 9 beneath), tops of pages, hands (0 act 1 stage 2 page 3 lost 4 steps 5 since 6 key 7 value 8 result 9 told 10 saw 11 victim 12 noted 13 other) -/
abbrev zB : Type := (Nat → Nat → Int32) × (Nat → KV)
abbrev zS : Type := zB × (Nat → Nat) × (Nat → Nat → Int32) × (Nat × Nat × Nat) × (Nat × Nat × Nat × Nat)
def zr (S : zS) : Nat → Nat → Int32 := S.1.1
def zi (S : zS) : Nat → KV := S.1.2
def zt (S : zS) : Nat → Nat := S.2.1
def zh (S : zS) : Nat → Nat → Int32 := S.2.2.1
def zn (S : zS) : Nat := S.2.2.2.1.1
def zp (S : zS) : Nat := S.2.2.2.1.2.1
def ze (S : zS) : Nat := S.2.2.2.1.2.2
def zc (S : zS) : Nat := S.2.2.2.2.1
def zm (S : zS) : Nat := S.2.2.2.2.2.1
def zl (S : zS) : Nat := S.2.2.2.2.2.2.1
/-- how much was told -/
def zy (S : zS) : Nat := S.2.2.2.2.2.2.2
def z_ty (S : zS) : zS := (S.1, S.2.1, S.2.2.1, S.2.2.2.1, (zc S, zm S, zl S, zy S + 1))
/-- items, high, right -/
abbrev zG : Type := KV × Int32 × Int32
def z_ch (B : zB) : Nat → Nat → List Nat
  | 0, r => [r]
  | n + 1, r => if B.1 r 0 = nI 0 then [r] else r :: z_ch B n (B.1 r 3).toNatClampNeg
def z_ap (B : zB) (r : Nat) (c : zG) : zG :=
  if B.1 r 0 = nI 0 then (B.2 r, B.1 r 7, B.1 r 8)
  else if B.1 r 0 = nI 1 ∨ B.1 r 0 = nI 6 then (kv_set (B.1 r 1) (B.1 r 2) c.1, c.2)
  else if B.1 r 0 = nI 2 ∨ B.1 r 0 = nI 7 then (kv_del (B.1 r 1) c.1, c.2)
  else if B.1 r 0 = nI 3 then (kv_cut (B.1 r 1) c.1, B.1 r 1, B.1 r 2)
  else if B.1 r 0 = nI 5 then (kv_join c.1 (B.2 (B.1 r 9).toNatClampNeg), B.1 (B.1 r 9).toNatClampNeg 7, B.1 (B.1 r 9).toNatClampNeg 8)
  else c
def z_cf (B : zB) : List Nat → zG
  | [] => ([], nI 0, -2)
  | r :: t => z_ap B r (z_cf B t)
def z_chain (B : zB) (r : Nat) : List Nat := z_ch B r r
def z_ct (B : zB) (r : Nat) : zG := z_cf B (z_chain B r)
def z_pg (S : zS) (p : Nat) : zG := z_ct S.1 (zt S p)
abbrev z_gone (S : zS) (p : Nat) : Prop := zr S (zt S p) 0 = nI 4
def z_len (S : zS) (p : Nat) : Nat := (z_chain S.1 (zt S p)).length - 1
/-- the pages from one on to the right -/
def z_rw (S : zS) : Nat → Nat → List Nat
  | 0, _ => []
  | n + 1, p => p :: (if (z_pg S p).2.2 < nI 0 then [] else z_rw S n (z_pg S p).2.2.toNatClampNeg)
def z_rt (S : zS) : List Nat := z_rw S 33 1
def z_all (S : zS) : KV := (z_rt S).flatMap fun p => (z_pg S p).1
/-! changes -/
def z_sh (S : zS) (k f : Nat) (v : Int32) : zS := (S.1, S.2.1, ix_up2 S.2.2.1 k f v, S.2.2.2)
def z_st (S : zS) (p r : Nat) : zS := (S.1, ix_up S.2.1 p r, S.2.2)
def z_f (a0 a1 a2 a3 a6 a7 a8 a9 : Int32) : Nat → Int32 := fun f => match f with
  | 0 => a0
  | 1 => a1
  | 2 => a2
  | 3 => a3
  | 4 => -2
  | 5 => nI 0
  | 6 => a6
  | 7 => a7
  | 8 => a8
  | 9 => a9
  | _ => nI 0
def z_nw (S : zS) (f : Nat → Int32) (l : KV) : zS := ((hw_R S.1.1 (zn S) f, ix_up S.1.2 (zn S) l), S.2.1, S.2.2.1, (zn S + 1, S.2.2.2.1.2), S.2.2.2.2)
def z_pp (S : zS) : zS := (S.1, S.2.1, S.2.2.1, (zn S, zp S + 1, ze S), S.2.2.2.2)
/-- these go out of use -/
def z_mk (S : zS) (l : List Nat) : zS := (((fun r f => if f = 4 ∧ r ∈ l then nI (ze S) else S.1.1 r f), S.1.2), S.2)
/-- the records of a chain, with those that it took from beneath -/
def z_rl (B : zB) (l : List Nat) : List Nat := l.flatMap fun r => if B.1 r 0 = nI 5 then [r, (B.1 r 9).toNatClampNeg] else [r]
def z_leaf (s a b : Int32) (nx : Nat) : Nat → Int32 := z_f s a b (nI nx) (nI 0) (nI 0) (-2) (-2)
def z_base (c : zG) : Nat → Int32 := z_f (nI 0) (-2) (-2) (-2) (nI c.1.length) c.2.1 c.2.2 (-2)
/-! the stages of a hand -/
def z_go (S : zS) (k : Nat) : zS := z_sh S k 1 (if zh S k 9 = nI 1 then nI 0 else nI 1)
def z_note (S : zS) (k : Nat) (a b : Int32) : zS := z_sh (z_sh (z_sh S k 12 a) k 13 b) k 1 (nI 7)
def z_left (S : zS) (k : Nat) (v : Int32) : zS := z_sh (z_sh S k 11 v) k 1 (nI 10)
def z_sees (S : zS) (k p : Nat) (s : Int32) : zS := z_sh (z_sh S k 10 (nI (zt S p))) k 1 s
def z_rest (S : zS) (k : Nat) (v : Int32) : zS := z_sh (z_sh (z_sh S k 8 v) k 9 (nI 1)) k 1 (nI 0)
def z_lose (S : zS) (k : Nat) : zS := z_sh S k 3 (zh S k 3 + nI 1)
/-- how many are not above -/
def kv_ui (k : Int32) : KV → Nat
  | [] => 0
  | q :: r => if q.1 ≤ k then kv_ui k r + 1 else 0
/-- the place of the first with a value -/
def kv_ix (v : Int32) : KV → Option Nat
  | [] => none
  | q :: r => if q.2 = v then some 0 else (kv_ix v r).map (· + 1)
def kv_nth (l : KV) (i : Nat) : Int32 × Int32 := l.getD i (nI 0, nI 0)
def z_at (S : zS) (k : Nat) : Nat := (zh S k 2).toNatClampNeg
def z_finds (S : zS) (k : Nat) : zS := z_sh (z_sh S k 2 (kv_nth (z_pg S 0).1 (kv_ui (zh S k 6) (z_pg S 0).1 - 1)).2) k 1 (nI 2)
def z_reads (S : zS) (k : Nat) : zS :=
  if z_gone S (z_at S k) then z_left S k (zh S k 2)
  else if (z_pg S (z_at S k)).2.1 ≤ zh S k 6 then
    if kv_get (z_pg S (z_at S k)).2.1 (z_pg S 0).1 = some (z_pg S (z_at S k)).2.2 then z_sh (z_sh S k 2 (z_pg S (z_at S k)).2.2) k 1 (nI 2)
    else z_note S k (z_pg S (z_at S k)).2.1 (z_pg S (z_at S k)).2.2
  else if zh S k 0 = nI 3 then z_rest S k ((kv_get (zh S k 6) (z_pg S (z_at S k)).1).getD (nI 0))
  else if zh S k 0 = nI 2 ∧ kv_get (zh S k 6) (z_pg S (z_at S k)).1 = none then z_rest S k (nI 0)
  else if 24 ≤ z_len S (z_at S k) then z_sh S k 1 (nI 4)
  else if zh S k 0 = nI 1 ∧ kv_get (zh S k 6) (z_pg S (z_at S k)).1 = none ∧ 40 ≤ (z_all S).length then z_rest S k (-3)
  else z_sees S k (z_at S k) (nI 3)
def z_prep (S : zS) (k : Nat) : zS :=
  if nI (zt S (z_at S k)) = zh S k 10 then
    let S2 := z_st (z_nw (z_rest S k (if kv_get (zh S k 6) (z_pg S (z_at S k)).1 = none then nI 0 else nI 1)) (z_leaf (if zh S k 0 = nI 1 then nI 1 else nI 2) (zh S k 6) (if zh S k 0 = nI 1 then zh S k 7 else -2) (zt S (z_at S k))) []) (z_at S k) (zn S)
    if zc S < z_len S2 (z_at S k) then z_sh S2 k 1 (nI 4) else S2
  else z_sh (z_lose S k) k 1 (nI 2)
def z_gath (S : zS) (k : Nat) : zS := if 0 < z_at S k ∧ z_gone S (z_at S k) then z_go S k else z_sees S k (z_at S k) (nI 5)
def z_swap (S : zS) (k : Nat) : zS :=
  if nI (zt S (z_at S k)) = zh S k 10 then
    let S2 := z_sh (z_st (z_mk (z_nw S (z_base (z_pg S (z_at S k))) (z_pg S (z_at S k)).1) (z_rl S.1 (z_chain S.1 (zt S (z_at S k))))) (z_at S k) (zn S)) k 10 (nI (zn S))
    if 0 < z_at S k ∧ zm S < (z_pg S (z_at S k)).1.length then z_sh S2 k 1 (nI 6)
    else if 0 < z_at S k ∧ (z_pg S (z_at S k)).1.length < zl S then z_sh S2 k 1 (nI 9)
    else z_go S2 k
  else z_go (z_lose S k) k
def z_half (S : zS) (p : Nat) : Nat := (z_pg S p).1.length / 2
def z_split (S : zS) (k : Nat) : zS :=
  if nI (zt S (z_at S k)) = zh S k 10 ∧ zp S < 32 then
    let l := (z_pg S (z_at S k)).1.drop (z_half S (z_at S k))
    let S2 := z_st (z_nw (z_pp (z_st (z_nw S (z_base (l, (z_pg S (z_at S k)).2)) l) (zp S) (zn S))) (z_leaf (nI 3) (kv_nth l 0).1 (nI (zp S)) (zt S (z_at S k))) []) (z_at S k) (zn S + 1)
    z_note S2 k (kv_nth l 0).1 (nI (zp S))
  else z_go S k
def z_notes (S : zS) (k : Nat) : zS :=
  match kv_get (zh S k 12) (z_pg S 0).1 with
  | some p => if p = zh S k 13 then z_go S k else z_sh (z_sh S k 11 p) k 1 (nI 12)
  | none => z_sees S k 0 (nI 8)
/-- a change to page 0 -/
def z_chg (S : zS) (k : Nat) (s a b : Int32) : zS :=
  let S2 := z_st (z_nw S (z_leaf s a b (zt S 0)) []) 0 (zn S)
  if zc S < z_len S2 0 then z_sh (z_sh S2 k 2 (nI 0)) k 1 (nI 4) else z_go S2 k
def z_enter (S : zS) (k : Nat) : zS :=
  if nI (zt S 0) = zh S k 10 then z_chg S k (nI 6) (zh S k 12) (zh S k 13) else z_sh (z_lose S k) k 1 (nI 7)
def z_remov (S : zS) (k : Nat) : zS :=
  match kv_ix (zh S k 2) (z_pg S 0).1 with
  | some b => if nI (zt S (z_at S k)) = zh S k 10 ∧ (kv_nth (z_pg S 0).1 b).1 ≠ nI 0 then z_left (z_st (z_nw S (z_leaf (nI 4) (-2) (-2) (zt S (z_at S k))) []) (z_at S k) (zn S)) k (zh S k 2) else z_go S k
  | none => z_go S k
def z_lookl (S : zS) (k : Nat) : zS :=
  match kv_ix (zh S k 11) (z_pg S 0).1 with
  | some (b + 1) =>
    let L := (kv_nth (z_pg S 0).1 b).2
    let a := (kv_nth (z_pg S 0).1 (b + 1)).1
    if z_gone S L.toNatClampNeg then z_left S k L
    else if (z_pg S L.toNatClampNeg).2.1 < a then z_note S k (z_pg S L.toNatClampNeg).2.1 (z_pg S L.toNatClampNeg).2.2
    else if (z_pg S L.toNatClampNeg).2.1 = a ∧ (z_pg S L.toNatClampNeg).2.2 = zh S k 11 then z_sees (z_sh (z_sh S k 12 a) k 13 L) k L.toNatClampNeg (nI 11)
    else z_sh S k 1 (nI 12)
  | _ => z_go S k
def z_ob (S : zS) (k : Nat) : Nat := (zh S k 13).toNatClampNeg
def z_vi (S : zS) (k : Nat) : Nat := (zh S k 11).toNatClampNeg
def z_join (S : zS) (k : Nat) : zS :=
  if nI (zt S (z_ob S k)) = zh S k 10 then
    z_sh (z_st (z_nw S (z_f (nI 5) (zh S k 12) (zh S k 11) (nI (zt S (z_ob S k))) (nI 0) (nI 0) (-2) (nI ((z_chain S.1 (zt S (z_vi S k))).getLastD 0))) []) (z_ob S k) (zn S)) k 1 (nI 12)
  else z_sh (z_lose S k) k 1 (nI 10)
def z_look (S : zS) (k : Nat) : zS :=
  match kv_ix (zh S k 11) (z_pg S 0).1 with
  | some _ => z_sees S k 0 (nI 13)
  | none => z_go S k
def z_stri (S : zS) (k : Nat) : zS :=
  if nI (zt S 0) = zh S k 10 then
    z_chg (if z_gone S (z_vi S k) then z_mk S [zt S (z_vi S k)] else S) k (nI 7) (kv_nth (z_pg S 0).1 ((kv_ix (zh S k 11) (z_pg S 0).1).getD 0)).1 (-2)
  else z_sh (z_lose S k) k 1 (nI 12)
def z_step1 (S : zS) (k : Nat) : zS :=
  if zh S k 1 = nI 1 then z_finds S k else if zh S k 1 = nI 2 then z_reads S k else if zh S k 1 = nI 3 then z_prep S k
  else if zh S k 1 = nI 4 then z_gath S k else if zh S k 1 = nI 5 then z_swap S k else if zh S k 1 = nI 6 then z_split S k
  else if zh S k 1 = nI 7 then z_notes S k else if zh S k 1 = nI 8 then z_enter S k else if zh S k 1 = nI 9 then z_remov S k
  else if zh S k 1 = nI 10 then z_lookl S k else if zh S k 1 = nI 11 then z_join S k else if zh S k 1 = nI 12 then z_look S k else z_stri S k
def z_step (S : zS) (k : Nat) : zS := if zh S k 1 = nI 0 then S else z_step1 (z_sh S k 4 (zh S k 4 + nI 1)) k
/-- (how many steps, the store) -/
def z_close : Nat → zS → Nat → Nat × zS
  | 0, S, _ => (0, S)
  | n + 1, S, k => if zh S k 1 = nI 0 then (0, S) else ((z_close n (z_step S k) k).1 + 1, (z_close n (z_step S k) k).2)
def z_take (S : zS) (k : Nat) (act key v : Int32) : Bool × zS :=
  if zh S k 1 ≠ nI 0 ∨ 640 ≤ zn S ∨ 28 ≤ zp S then (false, S)
  else (true, z_sh (z_sh (z_sh (z_sh (z_sh (z_sh (z_sh S k 0 act) k 1 (nI 1)) k 5 (nI (ze S))) k 6 key) k 7 v) k 8 (nI 0)) k 9 (nI 0))
def z_low (S : zS) : Int32 := (List.range 4).foldl (fun a k => if zh S k 1 ≠ nI 0 ∧ zh S k 5 < a then zh S k 5 else a) (nI (ze S + 1))
/-- what a sweep frees -/
abbrev z_fr (S : zS) (low : Int32) (r : Nat) : Prop := ¬ (zr S r 4 < nI 0 ∨ low ≤ zr S r 4 ∨ zr S r 5 = nI 1)
def z_sweep (S : zS) : Nat × zS :=
  (((List.range (zn S)).filter fun r => decide (z_fr S (z_low S) r)).length, (((fun r f => if f = 5 ∧ r < zn S ∧ z_fr S (z_low S) r then nI 1 else S.1.1 r f), S.1.2), S.2.1, S.2.2.1, (zn S, zp S, ze S + 1), S.2.2.2.2))
def z_beg (c m l : Nat) : zS :=
  z_pp (z_pp (z_st (z_st (z_nw (z_nw (((fun _ _ => nI 0), fun _ => []), (fun _ => 0), (fun _ f => if f = 2 ∨ f = 6 then -2 else nI 0), (0, 0, 0), (c, m, l, 0)) (z_f (nI 0) (-2) (-2) (-2) (nI 1) (nI 0) (-2) (-2)) [(nI 0, nI 1)]) (z_f (nI 0) (-2) (-2) (-2) (nI 0) (nI 1000) (-2) (-2)) []) 0 0) 1 1))
