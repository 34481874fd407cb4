/-! I0: records behind those that are there; sums; rows of pages -/
set_option maxRecDepth 100000
/-- the records below n stay, but for what is out of use, what is free -/
def z_sub (B B' : zB) (n : Nat) : Prop := ∀ r, r < n → (∀ f, f ≠ 4 → f ≠ 5 → B'.1 r f = B.1 r f) ∧ B'.2 r = B.2 r
theorem z_sub.refl (B : zB) (n : Nat) : z_sub B B n := fun _ _ => ⟨fun _ _ _ => rfl, rfl⟩
theorem z_sub.trans {B B' B'' : zB} {n m : Nat} (h : z_sub B B' n) (h2 : z_sub B' B'' m) (hm : n ≤ m) : z_sub B B'' n := fun r hr =>
  ⟨fun f a b => ((h2 r (by omega)).1 f a b).trans ((h r hr).1 f a b), (h2 r (by omega)).2.trans (h r hr).2⟩
theorem z_sub.ch {B B' : zB} {n : Nat} (hB : z_B B n) (h : z_sub B B' n) : ∀ m r, r < n → z_ch B' m r = z_ch B m r := by
  intro m
  induction m with
  | zero => intro r _; rfl
  | succ m ih =>
    intro r hr
    simp only [z_ch]
    rw [(h r hr).1 0 (by omega) (by omega), (h r hr).1 3 (by omega) (by omega)]
    rcases (hB.2 r hr).1 with ⟨h0, -⟩ | ⟨h0, q, hq, h3⟩
    · rw [if_pos h0, if_pos h0]
    · have := hB.1
      rw [if_neg h0, if_neg h0, h3, nI_clamp (n := q) (by omega), ih q (by omega)]
theorem z_sub.chain {B B' : zB} {n : Nat} (hB : z_B B n) (h : z_sub B B' n) {r : Nat} (hr : r < n) : z_chain B' r = z_chain B r := h.ch hB r r hr
theorem z_sub.ap {B B' : zB} {n : Nat} (hB : z_B B n) (h : z_sub B B' n) {r : Nat} (hr : r < n) (c : zG) : z_ap B' r c = z_ap B r c := by
  unfold z_ap
  have e := h r hr
  have := hB.1
  rw [e.2, e.1 0 (by omega) (by omega), e.1 1 (by omega) (by omega), e.1 2 (by omega) (by omega), e.1 7 (by omega) (by omega), e.1 8 (by omega) (by omega), e.1 9 (by omega) (by omega)]
  by_cases w : B.1 r 0 = nI 5
  · obtain ⟨b, b1, b2, b3⟩ := (hB.2 r hr).2.2.1 w
    rw [b2, nI_clamp (n := b) (by omega), (h b (by omega)).2, (h b (by omega)).1 7 (by omega) (by omega), (h b (by omega)).1 8 (by omega) (by omega)]
  · simp only [w, if_false]
theorem z_sub.cf {B B' : zB} {n : Nat} (hB : z_B B n) (h : z_sub B B' n) : ∀ l : List Nat, (∀ r ∈ l, r < n) → z_cf B' l = z_cf B l
  | [], _ => rfl
  | r :: t, hl => by
    simp only [z_cf]
    rw [h.ap hB (hl r List.mem_cons_self), h.cf hB t (fun x hx => hl x (List.mem_cons_of_mem _ hx))]
theorem z_sub.ct {B B' : zB} {n : Nat} (hB : z_B B n) (h : z_sub B B' n) {r : Nat} (hr : r < n) : z_ct B' r = z_ct B r := by
  unfold z_ct
  rw [h.chain hB hr]
  exact h.cf hB _ (fun x hx => by have := z_chain_mem hB r hr x hx; omega)
theorem z_sub.ok {B B' : zB} {n : Nat} (hB : z_B B n) (h : z_sub B B' n) {r : Nat} (hr : r < n) : z_ok B' r := by
  have ho := hB.2 r hr
  have e := h r hr
  unfold z_ok at *
  rw [h.ct hB hr, h.chain hB hr, e.2, e.1 0 (by omega) (by omega), e.1 3 (by omega) (by omega), e.1 6 (by omega) (by omega), e.1 9 (by omega) (by omega)]
  refine ⟨ho.1, ho.2.1, fun w => ?_, ho.2.2.2⟩
  obtain ⟨b, b1, b2, b3⟩ := ho.2.2.1 w
  exact ⟨b, b1, b2, by rw [(h b (by omega)).1 0 (by omega) (by omega)]; exact b3⟩
/-- the chain of a new record -/
theorem z_chain_nw {B : zB} {n : Nat} (hB : ∀ r, r < n → z_ok B r) (hn : n ≤ 1400) {q : Nat} (h0 : B.1 n 0 ≠ nI 0) (h3 : B.1 n 3 = nI q) (hq : q < n) : z_chain B n = n :: z_chain B q := by
  unfold z_chain
  obtain ⟨s, rfl⟩ : ∃ z, n = z + 1 := ⟨n - 1, by omega⟩
  simp only [z_ch, h0, if_false, h3, nI_clamp (n := q) (by omega)]
  rw [z_ch_fuel (m := s + 1) hB hn s q hq (by omega)]
theorem z_sub_nw (S : zS) (f : Nat → Int32) (l : KV) (p q : Nat) : z_sub S.1 (z_st (z_nw S f l) p q).1 (zn S) := fun r hr =>
  ⟨fun g _ _ => congrFun (hw_R_ne S.1.1 f (show r ≠ zn S by omega)) g, if_neg (show r ≠ zn S by omega)⟩
theorem z_nw_f (S : zS) (f : Nat → Int32) (l : KV) (p q : Nat) : (z_st (z_nw S f l) p q).1.1 (zn S) = f := hw_R_same _ _ _
theorem z_nw_l (S : zS) (f : Nat → Int32) (l : KV) (p q : Nat) : (z_st (z_nw S f l) p q).1.2 (zn S) = l := if_pos rfl
theorem z_ap_nw_set {S : zS} {f : Nat → Int32} {p : Nat} {c : zG} (h : f 0 = nI 1 ∨ f 0 = nI 6) : z_ap (z_st (z_nw S f []) p (zn S)).1 (zn S) c = (kv_set (f 1) (f 2) c.1, c.2) := by
  have e := z_nw_f S f [] p (zn S)
  rw [z_ap_set _ (by rw [e]; exact h), e]
theorem z_ap_nw_del {S : zS} {f : Nat → Int32} {p : Nat} {c : zG} (h : f 0 = nI 2 ∨ f 0 = nI 7) : z_ap (z_st (z_nw S f []) p (zn S)).1 (zn S) c = (kv_del (f 1) c.1, c.2) := by
  have e := z_nw_f S f [] p (zn S)
  rw [z_ap_del _ (by rw [e]; exact h), e]
/-- T is S with a record more, at the top of page p: what it has is c, how long the page is then n, what sort it is s -/
def z_vw (S T : zS) (p : Nat) (c : zG) (n : Nat) (s : Int32) : Prop :=
  z_W T ∧ zn T = zn S + 1 ∧ zp T = zp S ∧ T.2.2.2.2 = S.2.2.2.2 ∧ zt T p = zn S ∧ (∀ q, q ≠ p → zt T q = zt S q) ∧ z_sub S.1 T.1 (zn S) ∧ z_ct T.1 (zn S) = c ∧ (z_chain T.1 (zn S)).length = n + 1 ∧ zr T (zn S) 0 = s
theorem z_vw_leaf {S : zS} (hW : z_W S) (hn : zn S < 1400) {p : Nat} (hp : p < zp S) {f : Nat → Int32} (h0 : f 0 ≠ nI 0) (h3 : f 3 = nI (zt S p)) (h6 : f 6 = nI 0) (h5 : f 0 = nI 5 → ∃ b, b < zn S ∧ f 9 = nI b ∧ zr S b 0 = nI 0)
    {c : zG} (hc : z_ap (z_st (z_nw S f []) p (zn S)).1 (zn S) (z_pg S p) = c) (hs : kv_so c.1) (hl : c.1.length ≤ 43) (hlen : z_len S p + 2 ≤ 840) :
    z_vw S (z_st (z_nw S f []) p (zn S)) p c (z_len S p + 1) (f 0) := by
  have hsub := z_sub_nw S f [] p (zn S)
  have hf := z_nw_f S f [] p (zn S)
  have hll := z_nw_l S f [] p (zn S)
  have ht := hW.2.2.2 p hp
  have hok : ∀ r, r < zn S → z_ok (z_st (z_nw S f []) p (zn S)).1 r := fun r hr => hsub.ok hW.1 hr
  have e1 := z_chain_nw (B := (z_st (z_nw S f []) p (zn S)).1) hok (by omega) (q := zt S p) (by rw [hf]; exact h0) (by rw [hf]; exact h3) ht
  rw [hsub.chain hW.1 ht] at e1
  have hpos := z_chain_pos hW.1 ht
  have e2 : z_ct (z_st (z_nw S f []) p (zn S)).1 (zn S) = c := by
    unfold z_ct
    rw [e1]
    show z_ap _ _ (z_cf _ _) = c
    rw [hsub.cf hW.1 _ (fun x hx => by have := z_chain_mem hW.1 _ ht x hx; omega)]
    exact hc
  have e3 : (z_chain (z_st (z_nw S f []) p (zn S)).1 (zn S)).length = z_len S p + 1 + 1 := by
    rw [e1, List.length_cons]
    unfold z_len
    omega
  refine ⟨⟨⟨?_, fun r hr => ?_⟩, hW.2.1, hW.2.2.1, fun q hq => ?_⟩, rfl, rfl, rfl, if_pos rfl, fun q hq => if_neg hq, hsub, e2, e3, by unfold zr; rw [hf]⟩
  · show zn S + 1 ≤ 1400
    omega
  · rcases Nat.lt_or_ge r (zn S) with w | w
    · exact hok r w
    · obtain rfl : r = zn S := by
        have : r < zn S + 1 := hr
        omega
      refine ⟨Or.inr ⟨by rw [hf]; exact h0, zt S p, ht, by rw [hf]; exact h3⟩, by rw [hf, hll]; exact h6, fun w5 => ?_, by rw [e2]; exact hs, by rw [e2]; exact hl, by rw [e3]; omega⟩
      rw [hf] at w5 ⊢
      obtain ⟨b, b1, b2, b3⟩ := h5 w5
      exact ⟨b, b1, b2, by rw [(hsub b b1).1 0 (by omega) (by omega)]; exact b3⟩
  · show zt (z_st (z_nw S f []) p (zn S)) q < zn S + 1
    by_cases w : q = p
    · rw [show zt (z_st (z_nw S f []) p (zn S)) q = zn S from if_pos w]
      omega
    · rw [show zt (z_st (z_nw S f []) p (zn S)) q = zt S q from if_neg w]
      have := hW.2.2.2 q hq
      omega
theorem z_vw_base {S : zS} (hW : z_W S) (hn : zn S < 1400) (p : Nat) {c : zG} (hs : kv_so c.1) (hl : c.1.length ≤ 43) :
    z_vw S (z_st (z_nw S (z_base c) c.1) p (zn S)) p c 0 (nI 0) := by
  have hsub := z_sub_nw S (z_base c) c.1 p (zn S)
  have hf := z_nw_f S (z_base c) c.1 p (zn S)
  have hll := z_nw_l S (z_base c) c.1 p (zn S)
  have hok : ∀ r, r < zn S → z_ok (z_st (z_nw S (z_base c) c.1) p (zn S)).1 r := fun r hr => hsub.ok hW.1 hr
  have h0 : (z_st (z_nw S (z_base c) c.1) p (zn S)).1.1 (zn S) 0 = nI 0 := by rw [hf]; rfl
  have e1 := z_chain_0 h0
  have e2 : z_ct (z_st (z_nw S (z_base c) c.1) p (zn S)).1 (zn S) = c := by
    rw [z_ct_0 h0, hf, hll]
    rfl
  refine ⟨⟨⟨?_, fun r hr => ?_⟩, hW.2.1, hW.2.2.1, fun q hq => ?_⟩, rfl, rfl, rfl, if_pos rfl, fun q hq => if_neg hq, hsub, e2, by rw [e1]; rfl, h0⟩
  · show zn S + 1 ≤ 1400
    omega
  · rcases Nat.lt_or_ge r (zn S) with w | w
    · exact hok r w
    · obtain rfl : r = zn S := by
        have : r < zn S + 1 := hr
        omega
      refine ⟨Or.inl ⟨h0, by rw [hf]; rfl⟩, by rw [hf, hll]; rfl, fun w5 => ?_, by rw [e2]; exact hs, by rw [e2]; exact hl, by rw [e1]; exact (by decide : 1 ≤ 840)⟩
      rw [h0] at w5
      exact absurd w5 (by decide)
  · show zt (z_st (z_nw S (z_base c) c.1) p (zn S)) q < zn S + 1
    by_cases w : q = p
    · rw [show zt (z_st (z_nw S (z_base c) c.1) p (zn S)) q = zn S from if_pos w]
      omega
    · rw [show zt (z_st (z_nw S (z_base c) c.1) p (zn S)) q = zt S q from if_neg w]
      have := hW.2.2.2 q hq
      omega
/-! what a change of a page leaves -/
section
variable {S T : zS} {p : Nat} {c : zG} {n : Nat} {s : Int32}
theorem z_vw.pg (v : z_vw S T p c n s) : z_pg T p = c := by unfold z_pg; rw [v.2.2.2.2.1]; exact v.2.2.2.2.2.2.2.1
theorem z_vw.len (v : z_vw S T p c n s) : z_len T p = n := by unfold z_len; rw [v.2.2.2.2.1, v.2.2.2.2.2.2.2.2.1]; rfl
theorem z_vw.gone (v : z_vw S T p c n s) : z_gone T p ↔ s = nI 4 := by unfold z_gone; rw [v.2.2.2.2.1, v.2.2.2.2.2.2.2.2.2]
theorem z_vw.top (v : z_vw S T p c n s) {q : Nat} (hq : q ≠ p) : zt T q = zt S q := v.2.2.2.2.2.1 q hq
theorem z_vw.pgo (v : z_vw S T p c n s) (hW : z_W S) {q : Nat} (hq : q ≠ p) (h : q < zp S) : z_pg T q = z_pg S q := by
  unfold z_pg
  rw [v.top hq]
  exact v.2.2.2.2.2.2.1.ct hW.1 (hW.2.2.2 q h)
theorem z_vw.leno (v : z_vw S T p c n s) (hW : z_W S) {q : Nat} (hq : q ≠ p) (h : q < zp S) : z_len T q = z_len S q := by
  unfold z_len
  rw [v.top hq, v.2.2.2.2.2.2.1.chain hW.1 (hW.2.2.2 q h)]
theorem z_vw.goneo (v : z_vw S T p c n s) (hW : z_W S) {q : Nat} (hq : q ≠ p) (h : q < zp S) : z_gone T q ↔ z_gone S q := by
  unfold z_gone
  rw [v.top hq]
  unfold zr
  rw [(v.2.2.2.2.2.2.1 _ (hW.2.2.2 q h)).1 0 (by omega) (by omega)]
end
theorem z_vw.mk {S T : zS} {p : Nat} {c : zG} {n : Nat} {s : Int32} (v : z_vw S T p c n s) (l : List Nat) : z_vw S (z_mk T l) p c n s := by
  have hl := z_like_mk T l
  refine ⟨hl.W rfl rfl rfl v.1, v.2.1, v.2.2.1, v.2.2.2.1, v.2.2.2.2.1, v.2.2.2.2.2.1, fun r hr => ⟨fun f a b => ?_, ?_⟩, ?_, ?_, ?_⟩
  · rw [hl.1 r f a b]
    exact (v.2.2.2.2.2.2.1 r hr).1 f a b
  · rw [hl.2]
    exact (v.2.2.2.2.2.2.1 r hr).2
  · rw [hl.ct]
    exact v.2.2.2.2.2.2.2.1
  · rw [hl.chain]
    exact v.2.2.2.2.2.2.2.2.1
  · rw [z_mk_ne _ _ _ (by omega)]
    exact v.2.2.2.2.2.2.2.2.2
/-! sums -/
def i_sm (f : Nat → Nat) : Nat → Nat
  | 0 => 0
  | n + 1 => i_sm f n + f n
theorem i_sm_le {f g : Nat → Nat} : ∀ n, (∀ i, i < n → f i ≤ g i) → i_sm f n ≤ i_sm g n
  | 0, _ => Nat.le_refl _
  | n + 1, h => Nat.add_le_add (i_sm_le n fun i hi => h i (by omega)) (h n (by omega))
theorem i_sm_c (c : Nat) : ∀ n, i_sm (fun _ => c) n = n * c
  | 0 => (Nat.zero_mul _).symm
  | n + 1 => by
    show i_sm (fun _ => c) n + c = (n + 1) * c
    rw [i_sm_c c n, Nat.succ_mul]
theorem i_sm_add (f g : Nat → Nat) : ∀ n, i_sm (fun i => f i + g i) n = i_sm f n + i_sm g n
  | 0 => rfl
  | n + 1 => by
    show i_sm (fun i => f i + g i) n + (f n + g n) = (i_sm f n + f n) + (i_sm g n + g n)
    rw [i_sm_add f g n]
    omega
theorem i_sm_lec {f g : Nat → Nat} (c : Nat) : ∀ n, (∀ i, i < n → f i ≤ g i + c) → i_sm f n ≤ i_sm g n + n * c
  | 0, _ => Nat.zero_le _
  | n + 1, h => by
    have h1 := i_sm_lec c n (fun i hi => h i (by omega))
    have h2 := h n (by omega)
    show i_sm f n + f n ≤ i_sm g n + g n + (n + 1) * c
    rw [Nat.succ_mul]
    omega
/-- only at k something may rise by more than c -/
theorem i_sm_upc {f g : Nat → Nat} {k : Nat} (c : Nat) : ∀ n, k < n → (∀ i, i < n → i ≠ k → f i ≤ g i + c) → i_sm f n + g k ≤ i_sm g n + f k + (n - 1) * c
  | 0, h, _ => absurd h (by omega)
  | n + 1, hk, h => by
    show i_sm f n + f n + g k ≤ i_sm g n + g n + f k + (n + 1 - 1) * c
    rcases Nat.lt_or_ge k n with w | w
    · have h1 := i_sm_upc c n w (fun i hi ne => h i (by omega) ne)
      have h2 := h n (by omega) (by omega)
      obtain ⟨m, rfl⟩ : ∃ m, n = m + 1 := ⟨n - 1, by omega⟩
      simp only [Nat.add_sub_cancel] at h1 ⊢
      rw [Nat.succ_mul]
      omega
    · obtain rfl : k = n := by omega
      have h1 := i_sm_lec c k (fun i hi => h i (by omega) (by omega))
      simp only [Nat.add_sub_cancel]
      omega
theorem i_sm_up {f g : Nat → Nat} {k : Nat} (n : Nat) (hk : k < n) (h : ∀ i, i < n → i ≠ k → f i ≤ g i) : i_sm f n + g k ≤ i_sm g n + f k := by
  have := i_sm_upc (f := f) (g := g) 0 n hk (fun i hi ne => h i hi ne)
  omega
theorem i_sm_up2 {f g : Nat → Nat} {k j : Nat} (n : Nat) (hk : k < n) (hj : j < n) (hkj : k ≠ j) (h : ∀ i, i < n → i ≠ k → i ≠ j → f i ≤ g i) : i_sm f n + g k + g j ≤ i_sm g n + f k + f j := by
  have h1 := i_sm_up (f := f) (g := fun i => if i = j then f j else g i) n hk (fun i hi ne => by
    by_cases w : i = j
    · subst w
      rw [if_pos rfl]
      exact Nat.le_refl _
    · rw [if_neg w]
      exact h i hi ne w)
  have h2 := i_sm_up (f := fun i => if i = j then f j else g i) (g := g) (k := j) n hj (fun i hi ne => by
    rw [if_neg ne]
    exact Nat.le_refl _)
  simp only [if_true, if_neg hkj] at h1 h2
  omega
theorem i_sm_mem (c : Nat) (l : List Nat) (n : Nat) : i_sm (fun i => if i ∈ l then c else 0) n ≤ l.length * c := by
  induction l with
  | nil =>
    have : i_sm (fun i => if i ∈ ([] : List Nat) then c else 0) n ≤ i_sm (fun _ => 0) n := i_sm_le n (fun i _ => by simp)
    rw [i_sm_c] at this
    omega
  | cons x t ih =>
    have h1 : i_sm (fun i => if i ∈ x :: t then c else 0) n ≤ i_sm (fun i => (if i ∈ t then c else 0) + (if i = x then c else 0)) n := i_sm_le n (fun i _ => by
      by_cases w : i = x
      · rw [if_pos w]
        split <;> omega
      · by_cases w2 : i ∈ t
        · rw [if_pos w2]
          split <;> omega
        · rw [if_neg (fun h => (List.mem_cons.mp h).elim w w2)]
          omega)
    have h2 : i_sm (fun i => if i = x then c else 0) n ≤ c := by
      rcases Nat.lt_or_ge x n with w | w
      · have := i_sm_up (f := fun i => if i = x then c else 0) (g := fun _ => 0) (k := x) n w (fun i _ ne => by rw [if_neg ne]; exact Nat.le_refl _)
        rw [i_sm_c] at this
        simp only [if_true] at this
        omega
      · have := i_sm_le (f := fun i => if i = x then c else 0) (g := fun _ => 0) n (fun i hi => by rw [if_neg (by omega)]; exact Nat.le_refl _)
        rw [i_sm_c] at this
        omega
    rw [i_sm_add] at h1
    rw [List.length_cons, Nat.succ_mul]
    omega
