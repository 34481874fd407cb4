/-! Q3: what steps leave: records grow, what is free is out of use -/
set_option maxRecDepth 100000
/-- what is free is out of use -/
def i_Z (S : zS) : Prop := ∀ r, S.1.1 r 5 = nI 1 → nI 0 ≤ S.1.1 r 4
def z_gr (S S' : zS) (_k : Nat) : Prop := zn S ≤ zn S' ∧ (∀ r, r < zn S → S'.1.2 r = S.1.2 r) ∧ S'.2.2.2.2 = S.2.2.2.2 ∧ ze S' = ze S ∧ (ze S < 2147483648 → i_Z S → i_Z S')
theorem z_gr.refl (S : zS) (k : Nat) : z_gr S S k := ⟨Nat.le_refl _, fun _ _ => rfl, rfl, rfl, fun _ h => h⟩
theorem z_gr.trans {S S' S'' : zS} {k j i : Nat} (h : z_gr S S' k) (h2 : z_gr S' S'' j) : z_gr S S'' i := ⟨Nat.le_trans h.1 h2.1, fun r hr => (h2.2.1 r (Nat.lt_of_lt_of_le hr h.1)).trans (h.2.1 r hr), h2.2.2.1.trans h.2.2.1, h2.2.2.2.1.trans h.2.2.2.1, fun a b => h2.2.2.2.2 (by rw [h.2.2.2.1]; exact a) (h.2.2.2.2 a b)⟩
theorem z_gr.sh {S S' : zS} {k : Nat} (h : z_gr S S' k) (f : Nat) (v : Int32) : z_gr S (z_sh S' k f v) k := h
theorem z_gr.st {S S' : zS} {k : Nat} (h : z_gr S S' k) (p r : Nat) : z_gr S (z_st S' p r) k := h
theorem z_gr.pp {S S' : zS} {k : Nat} (h : z_gr S S' k) : z_gr S (z_pp S') k := h
theorem z_gr.nw {S S' : zS} {k : Nat} {f : Nat → Int32} {l : KV} (h : z_gr S S' k) (hf : f 5 = nI 0) : z_gr S (z_nw S' f l) k := by
  refine ⟨Nat.le_succ_of_le h.1, fun r hr => ?_, h.2.2.1, h.2.2.2.1, fun a b r hr => ?_⟩
  · show (if r = zn S' then l else S'.1.2 r) = _
    rw [if_neg (by have := h.1; omega)]
    exact h.2.1 r hr
  · have hr : hw_R S'.1.1 (zn S') f r 5 = nI 1 := hr
    show nI 0 ≤ hw_R S'.1.1 (zn S') f r 4
    by_cases w : r = zn S'
    · rw [w, hw_R_same, hf] at hr
      exact absurd hr (by decide)
    · rw [hw_R_ne _ _ w] at hr ⊢
      exact h.2.2.2.2 a b r hr
theorem z_gr.mk {S S' : zS} {k : Nat} (h : z_gr S S' k) (l : List Nat) : z_gr S (z_mk S' l) k := by
  refine ⟨h.1, h.2.1, h.2.2.1, h.2.2.2.1, fun a b r hr => ?_⟩
  have hr : (if 5 = 4 ∧ r ∈ l then nI (ze S') else S'.1.1 r 5) = nI 1 := hr
  show nI 0 ≤ if 4 = 4 ∧ r ∈ l then nI (ze S') else S'.1.1 r 4
  rw [if_neg (fun w => absurd w.1 (by decide))] at hr
  by_cases w : 4 = 4 ∧ r ∈ l
  · rw [if_pos w, h.2.2.2.1]
    exact nI_le (Nat.zero_le _) a
  · rw [if_neg w]
    exact h.2.2.2.2 a b r hr
theorem z_gr.go {S S' : zS} {k : Nat} (h : z_gr S S' k) : z_gr S (z_go S' k) k := h.sh _ _
theorem z_gr.note {S S' : zS} {k : Nat} (h : z_gr S S' k) (a b : Int32) : z_gr S (z_note S' k a b) k := ((h.sh _ _).sh _ _).sh _ _
theorem z_gr.left {S S' : zS} {k : Nat} (h : z_gr S S' k) (v : Int32) : z_gr S (z_left S' k v) k := (h.sh _ _).sh _ _
theorem z_gr.sees {S S' : zS} {k : Nat} (h : z_gr S S' k) (p : Nat) (s : Int32) : z_gr S (z_sees S' k p s) k := (h.sh _ _).sh _ _
theorem z_gr.rest {S S' : zS} {k : Nat} (h : z_gr S S' k) (v : Int32) : z_gr S (z_rest S' k v) k := ((h.sh _ _).sh _ _).sh _ _
theorem z_gr.lose {S S' : zS} {k : Nat} (h : z_gr S S' k) : z_gr S (z_lose S' k) k := h.sh _ _
theorem z_gr.ite {S A B : zS} {k : Nat} {c : Prop} [Decidable c] (h : z_gr S A k) (h' : z_gr S B k) : z_gr S (if c then A else B) k := by
  split
  · exact h
  · exact h'
theorem z_gr.chg {S S' : zS} {k : Nat} (h : z_gr S S' k) (s a b : Int32) : z_gr S (z_chg S' k s a b) k := by
  unfold z_chg
  exact z_gr.ite (((h.nw rfl).st _ _).sh _ _ |>.sh _ _) ((h.nw rfl).st _ _).go
theorem z_gr_finds (S : zS) (k : Nat) : z_gr S (z_finds S k) k := ((z_gr.refl S k).sh _ _).sh _ _
theorem z_gr_reads (S : zS) (k : Nat) : z_gr S (z_reads S k) k := by
  have r := z_gr.refl S k
  unfold z_reads
  exact .ite (r.left _) (.ite (.ite ((r.sh _ _).sh _ _) (r.note _ _)) (.ite (r.rest _) (.ite (r.rest _) (.ite (r.sh _ _) (.ite (r.rest _) (r.sees _ _))))))
theorem z_gr_prep (S : zS) (k : Nat) : z_gr S (z_prep S k) k := by
  have r := z_gr.refl S k
  unfold z_prep
  exact .ite (.ite ((((r.rest _).nw rfl).st _ _).sh _ _) (((r.rest _).nw rfl).st _ _)) (r.lose.sh _ _)
theorem z_gr_gath (S : zS) (k : Nat) : z_gr S (z_gath S k) k := by
  have r := z_gr.refl S k
  unfold z_gath
  exact .ite r.go (r.sees _ _)
theorem z_gr_swap (S : zS) (k : Nat) : z_gr S (z_swap S k) k := by
  have r := z_gr.refl S k
  have r2 := fun (f : Nat → Int32) (l : KV) (hf : f 5 = nI 0) m p n v => ((((r.nw (l := l) hf).mk m).st p n).sh 10 v)
  unfold z_swap
  exact .ite (.ite ((r2 _ _ rfl _ _ _ _).sh _ _) (.ite ((r2 _ _ rfl _ _ _ _).sh _ _) (r2 _ _ rfl _ _ _ _).go)) r.lose.go
theorem z_gr_split (S : zS) (k : Nat) : z_gr S (z_split S k) k := by
  have r := z_gr.refl S k
  unfold z_split
  exact .ite (((((r.nw rfl).st _ _).pp.nw rfl).st _ _).note _ _) r.go
theorem z_gr_notes (S : zS) (k : Nat) : z_gr S (z_notes S k) k := by
  have r := z_gr.refl S k
  unfold z_notes
  split
  · exact .ite r.go ((r.sh _ _).sh _ _)
  · exact r.sees _ _
theorem z_gr_enter (S : zS) (k : Nat) : z_gr S (z_enter S k) k := by
  have r := z_gr.refl S k
  unfold z_enter
  exact .ite (r.chg _ _ _) (r.lose.sh _ _)
theorem z_gr_remov (S : zS) (k : Nat) : z_gr S (z_remov S k) k := by
  have r := z_gr.refl S k
  unfold z_remov
  split
  · exact .ite (((r.nw rfl).st _ _).left _) r.go
  · exact r.go
theorem z_gr_lookl (S : zS) (k : Nat) : z_gr S (z_lookl S k) k := by
  have r := z_gr.refl S k
  unfold z_lookl
  split
  · exact .ite (r.left _) (.ite (r.note _ _) (.ite (((r.sh _ _).sh _ _).sees _ _) (r.sh _ _)))
  · exact r.go
theorem z_gr_join (S : zS) (k : Nat) : z_gr S (z_join S k) k := by
  have r := z_gr.refl S k
  unfold z_join
  exact .ite (((r.nw rfl).st _ _).sh _ _) (r.lose.sh _ _)
theorem z_gr_look (S : zS) (k : Nat) : z_gr S (z_look S k) k := by
  have r := z_gr.refl S k
  unfold z_look
  split
  · exact r.sees _ _
  · exact r.go
theorem z_gr_stri (S : zS) (k : Nat) : z_gr S (z_stri S k) k := by
  have r := z_gr.refl S k
  unfold z_stri
  exact .ite ((z_gr.ite (r.mk _) r).chg _ _ _) (r.lose.sh _ _)
theorem z_gr_step1 (S : zS) (k : Nat) : z_gr S (z_step1 S k) k := by
  unfold z_step1
  exact .ite (z_gr_finds S k) (.ite (z_gr_reads S k) (.ite (z_gr_prep S k) (.ite (z_gr_gath S k) (.ite (z_gr_swap S k) (.ite (z_gr_split S k) (.ite (z_gr_notes S k) (.ite (z_gr_enter S k) (.ite (z_gr_remov S k) (.ite (z_gr_lookl S k) (.ite (z_gr_join S k) (.ite (z_gr_look S k) (z_gr_stri S k))))))))))))
theorem z_gr_step (S : zS) (k : Nat) : z_gr S (z_step S k) k := by
  unfold z_step
  exact .ite (.refl S k) (((z_gr.refl S k).sh 4 _).trans (z_gr_step1 _ k))
theorem z_gr_close (k : Nat) : ∀ (n : Nat) (S : zS), z_gr S (z_close n S k).2 k
  | 0, S => .refl S k
  | n + 1, S => by
    unfold z_close
    by_cases w : zh S k 1 = nI 0
    · rw [if_pos w]
      exact .refl S k
    · rw [if_neg w]
      exact (z_gr_step S k).trans (z_gr_close k n (z_step S k))
theorem z_oth_step (S : zS) (k : Nat) : z_oth S (z_step S k) k := by
  unfold z_step
  refine .ite (.refl S k) ?_
  exact fun j hj => (z_oth_step1 (z_sh S k 4 (zh S k 4 + nI 1)) k j hj).trans (zh_sh_ne S 4 _ hj)
theorem z_oth_close (k : Nat) : ∀ (n : Nat) (S : zS), z_oth S (z_close n S k).2 k
  | 0, S => .refl S k
  | n + 1, S => by
    unfold z_close
    by_cases w : zh S k 1 = nI 0
    · rw [if_pos w]
      exact .refl S k
    · rw [if_neg w]
      exact fun j hj => (z_oth_close k n (z_step S k) j hj).trans (z_oth_step S k j hj)
theorem z_gr_take (S : zS) (k : Nat) (act key v : Int32) : z_gr S (z_take S k act key v).2 k := by
  unfold z_take
  by_cases w : zh S k 1 ≠ nI 0 ∨ 640 ≤ zn S ∨ 28 ≤ zp S
  · rw [if_pos w]
    exact .refl S k
  · rw [if_neg w]
    exact .refl S k
/-- a row of steps of two hands -/
def z_bits (S : zS) (a o : Nat) (w : Int32) : Nat → zS
  | 0 => S
  | k + 1 => z_step (z_bits S a o w k) (if (w >>> (nI k &&& 31)) &&& nI 1 = nI 0 then a else o)
def a_row (S : zS) (a o n : Nat) (w : Int32) : zS := (z_close 200 (z_close 200 (z_bits S a o w n) a).2 o).2
theorem z_gr_bits (S : zS) (a o : Nat) (w : Int32) : ∀ n, z_gr S (z_bits S a o w n) 0
  | 0 => .refl S 0
  | n + 1 => (z_gr_bits S a o w n).trans (z_gr_step _ _)
theorem z_gr_row (S : zS) (a o n : Nat) (w : Int32) : z_gr S (a_row S a o n w) 0 := ((z_gr_bits S a o w n).trans (z_gr_close a 200 _) (i := 0)).trans (z_gr_close o 200 _)
theorem i_I.bits {S : zS} (h : i_I S) {a o : Nat} (ha : a < 4) (ho : o < 4) (w : Int32) : ∀ n, i_I (z_bits S a o w n)
  | 0 => h
  | n + 1 => by
    unfold z_bits
    split
    · exact (h.bits ha ho w n).step ha
    · exact (h.bits ha ho w n).step ho
theorem i_I.row {S : zS} (h : i_I S) {a o : Nat} (ha : a < 4) (ho : o < 4) (n : Nat) (w : Int32) : i_I (a_row S a o n w) := i_I.close ho 200 (i_I.close ha 200 (h.bits ha ho w n))
/-- hands that are none of two stay -/
theorem a_row_oth (S : zS) (a o n : Nat) (w : Int32) {j : Nat} (h1 : j ≠ a) (h2 : j ≠ o) : zh (a_row S a o n w) j = zh S j := by
  have hb : ∀ n, zh (z_bits S a o w n) j = zh S j := fun n => by
    induction n with
    | zero => rfl
    | succ n ih =>
      unfold z_bits
      split
      · rw [z_oth_step _ _ j h1, ih]
      · rw [z_oth_step _ _ j h2, ih]
  unfold a_row
  rw [z_oth_close o 200 _ j h2, z_oth_close a 200 _ j h1, hb]
/-- alike, most, its row, fewest -/
def a_rp (S : zS) (a o n : Nat) : Nat → Int32 × Int32 × Int32 × Int32
  | 0 => (nI 0, -1, nI 0, nI 9999)
  | w + 1 =>
    (if z_all (a_row S a o n (nI w)) = z_all (a_row S a o n (nI 0)) then (a_rp S a o n w).1 + nI 1 else (a_rp S a o n w).1,
     if z_lost (a_row S a o n (nI w)) - z_lost S ≤ (a_rp S a o n w).2.1 then (a_rp S a o n w).2.1 else z_lost (a_row S a o n (nI w)) - z_lost S,
     if z_lost (a_row S a o n (nI w)) - z_lost S ≤ (a_rp S a o n w).2.1 then (a_rp S a o n w).2.2.1 else nI w,
     if (a_rp S a o n w).2.2.2 ≤ nI (zn (a_row S a o n (nI w))) - nI (zn S) then (a_rp S a o n w).2.2.2 else nI (zn (a_row S a o n (nI w))) - nI (zn S))
def a_replay (S : zS) (a o n w : Int32) : Int32 :=
  if a_hnd a ∧ a_hnd o ∧ a ≠ o ∧ a_in n (nI 0) (nI 8) ∧ a_in w (nI 0) (nI 3) then
    if w = nI 0 then (a_rp S a.toNatClampNeg o.toNatClampNeg n.toNatClampNeg (2 ^ n.toNatClampNeg)).1
    else if w = nI 1 then (a_rp S a.toNatClampNeg o.toNatClampNeg n.toNatClampNeg (2 ^ n.toNatClampNeg)).2.1
    else if w = nI 2 then (a_rp S a.toNatClampNeg o.toNatClampNeg n.toNatClampNeg (2 ^ n.toNatClampNeg)).2.2.1
    else (a_rp S a.toNatClampNeg o.toNatClampNeg n.toNatClampNeg (2 ^ n.toNatClampNeg)).2.2.2
  else -1
