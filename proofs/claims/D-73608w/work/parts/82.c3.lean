/-! C3: the component: a store: 0 its object, 1 records, 2 tops, 3 hands, 4 above, 5..8 the hands; 9 here, 12 bounds, 15 near, 18 + 3 r record r (its object, its keys, its values) -/
set_option maxRecDepth 100000
def cS (h : ix_H) (L : Nat → Nat) (nr : Nat) : Prop :=
  (ix_tg h (L 0) = 5 ∧ ix_fR h (L 0) 0 = some (L 1) ∧ ix_fR h (L 0) 1 = some (L 2) ∧ ix_fR h (L 0) 2 = some (L 3) ∧ ix_fR h (L 0) 9 = some (L 9) ∧ ix_fR h (L 0) 10 = some (L 12) ∧ ix_fR h (L 0) 11 = some (L 15) ∧ ix_fR h (L 0) 12 = some (L 4)) ∧
  (ix_tg h (L 1) = 111 ∧ ix_ln h (L 1) = 2000 ∧ ix_tg h (L 2) = 101 ∧ ix_ln h (L 2) = 32 ∧ ix_tg h (L 3) = 112 ∧ ix_ln h (L 3) = 4 ∧ ix_tg h (L 4) = 101 ∧ ix_ln h (L 4) = 2000) ∧
  (∀ k, k < 4 → ix_aR h (L 3) k = some (L (5 + k)) ∧ ix_tg h (L (5 + k)) = 7) ∧
  (∀ t, t < nr + 3 → cR h (L (9 + 3 * t)) (L (10 + 3 * t)) (L (11 + 3 * t))) ∧
  (∀ r, r < nr → ix_aR h (L 1) r = some (L (18 + 3 * r))) ∧ (∀ r, nr ≤ r → r < 2000 → ix_aR h (L 1) r = none) ∧ nr ≤ 2000 ∧
  (∀ i j, L i = L j → i = j) ∧ (∀ i, i < 18 + 3 * nr → L i < ix_sz h) ∧ (∀ i, 18 + 3 * nr ≤ i → 1099511627776 ≤ L i) ∧ ix_sz h + 3 * (2000 - nr) < 1099511627776
theorem cS_hw {h : ix_H} {L : Nat → Nat} {nr : Nat} (F A : Nat → Nat → Int32) (hs : cS h L nr) : cS (hw h F A) L nr := hs
theorem cS.inj {h : ix_H} {L : Nat → Nat} {nr : Nat} (hs : cS h L nr) : ∀ i j, L i = L j → i = j := hs.2.2.2.2.2.2.2.1
theorem cS.ne {h : ix_H} {L : Nat → Nat} {nr : Nat} (hs : cS h L nr) {i j : Nat} (h : i ≠ j) : L i ≠ L j := fun e => h (hs.inj _ _ e)
theorem cS.he {h : ix_H} {L : Nat → Nat} {nr : Nat} (hs : cS h L nr) : cR h (L 9) (L 10) (L 11) := hs.2.2.2.1 0 (by omega)
theorem cS.bo {h : ix_H} {L : Nat → Nat} {nr : Nat} (hs : cS h L nr) : cR h (L 12) (L 13) (L 14) := hs.2.2.2.1 1 (by omega)
theorem cS.ne' {h : ix_H} {L : Nat → Nat} {nr : Nat} (hs : cS h L nr) : cR h (L 15) (L 16) (L 17) := hs.2.2.2.1 2 (by omega)
theorem cS.rc {h : ix_H} {L : Nat → Nat} {nr : Nat} (hs : cS h L nr) {r : Nat} (hr : r < nr) : cR h (L (18 + 3 * r)) (L (19 + 3 * r)) (L (20 + 3 * r)) := by
  have := hs.2.2.2.1 (r + 3) (by omega)
  rw [show 9 + 3 * (r + 3) = 18 + 3 * r by omega, show 10 + 3 * (r + 3) = 19 + 3 * r by omega, show 11 + 3 * (r + 3) = 20 + 3 * r by omega] at this
  exact this
theorem hw_RL {h : ix_H} {L : Nat → Nat} {nr : Nat} (hs : cS h L nr) (f : Nat → Nat → Int32) {i j : Nat} (g : Nat → Int32) (hij : j ≠ i) : hw_R f (L i) g (L j) = f (L j) := hw_R_ne _ _ (hs.ne hij)
theorem st_is {h : ix_H} {L : Nat → Nat} {nr : Nat} (hs : cS h L nr) (F A : Nat → Nat → Int32) (f : Nat → ix_O) : (ix_is (hw h F A) 5 (some (L 0))).bind f = f (L 0) := c_is hs.1.1 F A f
theorem st_isr {h : ix_H} {L : Nat → Nat} {nr : Nat} (hs : cS h L nr) (F A : Nat → Nat → Int32) (f : Nat → ix_O) : (ix_isr (hw h F A) 5 (some (L 0))).bind f = f (L 0) := c_isr hs.1.1 (by decide) F A f
theorem st_rec {h : ix_H} {L : Nat → Nat} {nr : Nat} (hs : cS h L nr) (F A : Nat → Nat → Int32) (i : Int32) (f : Nat → ix_O) : (ix_atr (hw h F A) 111 (ix_fR (hw h F A) (L 0) 0) i).bind f = cond (ix_in i 2000) (f (L 1)) none := by
  rw [hw_fR, hs.1.2.1]
  exact c_atr hs.2.1.1 (by decide) hs.2.1.2.1 F A i f
theorem st_recw {h : ix_H} {L : Nat → Nat} {nr : Nat} (hs : cS h L nr) (F A : Nat → Nat → Int32) (i : Int32) (f : Nat → ix_O) : (ix_at (hw h F A) 111 (ix_fR (hw h F A) (L 0) 0) i).bind f = cond (ix_in i 2000) (f (L 1)) none := by
  rw [hw_fR, hs.1.2.1]
  exact c_at hs.2.1.1 hs.2.1.2.1 F A i f
theorem st_top {h : ix_H} {L : Nat → Nat} {nr : Nat} (hs : cS h L nr) (F A : Nat → Nat → Int32) (i : Int32) (f : Nat → ix_O) : (ix_atr (hw h F A) 101 (ix_fR (hw h F A) (L 0) 1) i).bind f = cond (ix_in i 32) (f (L 2)) none := by
  rw [hw_fR, hs.1.2.2.1]
  exact c_atr hs.2.1.2.2.1 (by decide) hs.2.1.2.2.2.1 F A i f
theorem st_topw {h : ix_H} {L : Nat → Nat} {nr : Nat} (hs : cS h L nr) (F A : Nat → Nat → Int32) (i : Int32) (f : Nat → ix_O) : (ix_at (hw h F A) 101 (ix_fR (hw h F A) (L 0) 1) i).bind f = cond (ix_in i 32) (f (L 2)) none := by
  rw [hw_fR, hs.1.2.2.1]
  exact c_at hs.2.1.2.2.1 hs.2.1.2.2.2.1 F A i f
theorem st_hnd {h : ix_H} {L : Nat → Nat} {nr : Nat} (hs : cS h L nr) (F A : Nat → Nat → Int32) (i : Int32) (f : Nat → ix_O) : (ix_atr (hw h F A) 112 (ix_fR (hw h F A) (L 0) 2) i).bind f = cond (ix_in i 4) (f (L 3)) none := by
  rw [hw_fR, hs.1.2.2.2.1]
  exact c_atr hs.2.1.2.2.2.2.1 (by decide) hs.2.1.2.2.2.2.2.1 F A i f
theorem st_ab {h : ix_H} {L : Nat → Nat} {nr : Nat} (hs : cS h L nr) (F A : Nat → Nat → Int32) (i : Int32) (f : Nat → ix_O) : (ix_atr (hw h F A) 101 (ix_fR (hw h F A) (L 0) 12) i).bind f = cond (ix_in i 2000) (f (L 4)) none := by
  rw [hw_fR, hs.1.2.2.2.2.2.2.2]
  exact c_atr hs.2.1.2.2.2.2.2.2.1 (by decide) hs.2.1.2.2.2.2.2.2.2 F A i f
theorem st_abw {h : ix_H} {L : Nat → Nat} {nr : Nat} (hs : cS h L nr) (F A : Nat → Nat → Int32) (i : Int32) (f : Nat → ix_O) : (ix_at (hw h F A) 101 (ix_fR (hw h F A) (L 0) 12) i).bind f = cond (ix_in i 2000) (f (L 4)) none := by
  rw [hw_fR, hs.1.2.2.2.2.2.2.2]
  exact c_at hs.2.1.2.2.2.2.2.2.1 hs.2.1.2.2.2.2.2.2.2 F A i f
theorem st_he {h : ix_H} {L : Nat → Nat} {nr : Nat} (hs : cS h L nr) (F A : Nat → Nat → Int32) (f : Nat → ix_O) : (ix_is (hw h F A) 6 (ix_fR (hw h F A) (L 0) 9)).bind f = f (L 9) := by
  rw [hw_fR, hs.1.2.2.2.2.1]
  exact cp_is hs.he F A f
theorem st_heR {h : ix_H} {L : Nat → Nat} {nr : Nat} (hs : cS h L nr) (F A : Nat → Nat → Int32) (f : Nat → ix_O) : (ix_isr (hw h F A) 6 (ix_fR (hw h F A) (L 0) 9)).bind f = f (L 9) := by
  rw [hw_fR, hs.1.2.2.2.2.1]
  exact cp_isr hs.he F A f
theorem st_bo {h : ix_H} {L : Nat → Nat} {nr : Nat} (hs : cS h L nr) (F A : Nat → Nat → Int32) (f : Nat → ix_O) : (ix_is (hw h F A) 6 (ix_fR (hw h F A) (L 0) 10)).bind f = f (L 12) := by
  rw [hw_fR, hs.1.2.2.2.2.2.1]
  exact cp_is hs.bo F A f
theorem st_boR {h : ix_H} {L : Nat → Nat} {nr : Nat} (hs : cS h L nr) (F A : Nat → Nat → Int32) (f : Nat → ix_O) : (ix_isr (hw h F A) 6 (ix_fR (hw h F A) (L 0) 10)).bind f = f (L 12) := by
  rw [hw_fR, hs.1.2.2.2.2.2.1]
  exact cp_isr hs.bo F A f
theorem st_ne {h : ix_H} {L : Nat → Nat} {nr : Nat} (hs : cS h L nr) (F A : Nat → Nat → Int32) (f : Nat → ix_O) : (ix_is (hw h F A) 6 (ix_fR (hw h F A) (L 0) 11)).bind f = f (L 15) := by
  rw [hw_fR, hs.1.2.2.2.2.2.2.1]
  exact cp_is hs.ne' F A f
theorem st_neR {h : ix_H} {L : Nat → Nat} {nr : Nat} (hs : cS h L nr) (F A : Nat → Nat → Int32) (f : Nat → ix_O) : (ix_isr (hw h F A) 6 (ix_fR (hw h F A) (L 0) 11)).bind f = f (L 15) := by
  rw [hw_fR, hs.1.2.2.2.2.2.2.1]
  exact cp_isr hs.ne' F A f
theorem st_rr {h : ix_H} {L : Nat → Nat} {nr : Nat} (hs : cS h L nr) (F A : Nat → Nat → Int32) {r : Nat} (hr : r < nr) (f : Nat → ix_O) : (ix_is (hw h F A) 6 (ix_aR (hw h F A) (L 1) (nI r).toNatClampNeg)).bind f = f (L (18 + 3 * r)) := by
  have := hs.2.2.2.2.2.2.1
  rw [hw_aR, nI_clamp (by omega), hs.2.2.2.2.1 r hr]
  exact cp_is (hs.rc hr) F A f
theorem st_rrR {h : ix_H} {L : Nat → Nat} {nr : Nat} (hs : cS h L nr) (F A : Nat → Nat → Int32) {r : Nat} (hr : r < nr) (f : Nat → ix_O) : (ix_isr (hw h F A) 6 (ix_aR (hw h F A) (L 1) (nI r).toNatClampNeg)).bind f = f (L (18 + 3 * r)) := by
  have := hs.2.2.2.2.2.2.1
  rw [hw_aR, nI_clamp (by omega), hs.2.2.2.2.1 r hr]
  exact cp_isr (hs.rc hr) F A f
/-- a hand's cell g, but for its stage, by its numbers u -/
def cHd (g u : Nat → Int32) : Prop :=
  g 0 = u 0 ∧ g 1 = u 6 ∧ (u 1 ≠ nI 0 → g 2 = u 7) ∧ g 4 = u 2 ∧ g 11 = u 3 ∧ g 12 = u 4 ∧ g 13 = (if u 1 = nI 0 then -2 else u 5) ∧ g 14 = u 8 ∧ g 15 = u 9 ∧ (u 9 = nI 0 ∨ u 9 = nI 1) ∧
  (u 1 = nI 3 ∨ u 1 = nI 5 ∨ u 1 = nI 8 ∨ u 1 = nI 11 ∨ u 1 = nI 13 → g 5 = u 10) ∧
  (u 1 = nI 6 ∨ u 1 = nI 9 → g 6 = u 10) ∧
  (u 1 = nI 7 ∨ u 1 = nI 8 → g 7 = u 12 ∧ g 8 = u 13) ∧
  (u 1 = nI 11 → g 7 = u 12 ∧ g 10 = u 13) ∧
  (u 1 = nI 10 ∨ u 1 = nI 11 ∨ u 1 = nI 12 ∨ u 1 = nI 13 → g 9 = u 11)
def cH0 (F : Nat → Nat → Int32) (a : Nat) (S : zS) (k : Nat) : Prop := cHd (F a) (zh S k)
/-- a record's cells -/
def cE (F A : Nat → Nat → Int32) (a ka va : Nat) (B : zB) (r : Nat) : Prop :=
  F a 2 = B.1 r 0 ∧ F a 6 = B.1 r 1 ∧ F a 7 = B.1 r 2 ∧ F a 8 = B.1 r 3 ∧ F a 10 = B.1 r 4 ∧ F a 11 = B.1 r 5 ∧ (B.1 r 5 = nI 0 ∨ B.1 r 5 = nI 1) ∧ (B.1 r 0 = nI 5 → F a 9 = B.1 r 9) ∧ cG F A a ka va (B.2 r, B.1 r 7, B.1 r 8)
/-- the records -/
def cE' (F A : Nat → Nat → Int32) (L : Nat → Nat) (B : zB) (n : Nat) : Prop := ∀ r, r < n → cE F A (L (18 + 3 * r)) (L (19 + 3 * r)) (L (20 + 3 * r)) B r
/-- a store's cells, but for the stage of hand k -/
def cV (F A : Nat → Nat → Int32) (L : Nat → Nat) (S : zS) : Prop :=
  (F (L 0) 3 = nI (zn S) ∧ F (L 0) 4 = nI (zp S) ∧ F (L 0) 5 = nI (ze S) ∧ F (L 0) 6 = nI (zc S) ∧ F (L 0) 7 = nI (zm S) ∧ F (L 0) 8 = nI (zl S)) ∧
  (∀ p, p < zp S → A (L 2) p = nI (zt S p)) ∧ cE' F A L S.1 (zn S) ∧ (∀ k, k < 4 → cH0 F (L (5 + k)) S k)
/-- the stages of the hands are told too -/
def cV1 (F A : Nat → Nat → Int32) (L : Nat → Nat) (S : zS) : Prop := cV F A L S ∧ ∀ k, k < 4 → F (L (5 + k)) 3 = zh S k 1
/-- how long a chain is -/
theorem c_length_l {h : ix_H} {L : Nat → Nat} {nr : Nat} (hs : cS h L nr) {B : zB} {n : Nat} (hn : n ≤ nr) (cal : ix_C) {F A : Nat → Nat → Int32} (hE : cE' F A L B n) : ∀ (l : List Nat) (x : Nat) (t : List Nat) (i z : Nat), l = x :: t → z_lk B l → (∀ y ∈ l, y < n) → l.length < z → ix_lp cal stX4_length z 7 [(0, ix_R (some (L 0))), (2, ix_I (nI i)), (3, ix_I (nI x))] [] (hw h F A) = some (.inl (some (ix_I (nI (i + t.length)))), hw h F A) := by
  have h2000 := hs.2.2.2.2.2.2.1
  intro l
  induction l with
  | nil => intro x t i z he; cases he
  | cons x l ih =>
    intro x' t i z he hk hm hz
    cases he
    obtain ⟨z, rfl⟩ : ∃ w, z = w + 1 := ⟨z - 1, by omega⟩
    have hx := hm x List.mem_cons_self
    have hex := hE x hx
    rw [lX4_length_7]
    unfold jX4_length_7
    rw [st_is hs, st_rec hs, hw_in (by omega) (by omega), cond_true, st_rr hs F A (by omega), hw_fI, hex.1]
    cases l with
    | nil =>
      rw [if_pos hk.1]
      rfl
    | cons y l =>
      obtain ⟨h0, h3, hk2⟩ := hk
      rw [if_neg h0, st_is hs, st_rec hs, hw_in (by omega) (by omega), cond_true, st_rr hs F A (by omega), hex.2.2.2.1, h3, nI_add]
      simp only [List.length_cons] at hz
      rw [ih y l (i + 1) z rfl hk2 (fun w hw => hm w (List.mem_cons_of_mem _ hw)) (by simp only [List.length_cons]; omega)]
      simp only [List.length_cons]
      rw [show i + 1 + l.length = i + (l.length + 1) by omega]
theorem c_length {h : ix_H} {L : Nat → Nat} {nr : Nat} (hs : cS h L nr) {S : zS} (hW : z_W S) (hn : zn S ≤ nr) {F A : Nat → Nat → Int32} (hV : cV F A L S) {N : Nat} (hN : 1000 ≤ N) (d : Nat) {p : Nat} (hp : p < zp S) : ix_run iy_P N (d + 1) 187 [ix_R (some (L 0)), ix_I (nI p)] (hw h F A) = some (.inl (some (ix_I (nI (z_len S p)))), hw h F A) := by
  have h32 := hW.2.2.1
  have ht := hW.2.2.2 p hp
  have hlen := (hW.pg hp).2.2
  obtain ⟨t, he⟩ := z_chain_hd hW.1 ht
  have hk := z_chain_lk hW.1 _ ht
  have hm := z_chain_mem hW.1 _ ht
  rw [rX4_length N d]
  unfold bX4_length
  rw [st_is hs, st_top hs, hw_in (by omega) (by omega), cond_true, hw_aI, hw_cl (by omega), hV.2.1 p hp]
  obtain ⟨N, rfl⟩ : ∃ z, N = z + 1 := ⟨N - 1, by omega⟩
  rw [← lX4_length_7]
  rw [c_length_l hs hn (ix_run iy_P (N + 1) d) hV.2.2.1 (z_chain S.1 (zt S p)) (zt S p) t 0 (N + 1 + 1) he hk (fun y hy => by have := hm y hy; omega) (by omega)]
  have : z_len S p = 0 + t.length := by
    unfold z_len
    rw [he, List.length_cons]
    omega
  rw [this]
theorem c_isGone {h : ix_H} {L : Nat → Nat} {nr : Nat} (hs : cS h L nr) {S : zS} (hW : z_W S) (hn : zn S ≤ nr) {F A : Nat → Nat → Int32} (hV : cV F A L S) (N d : Nat) {p : Nat} (hp : p < zp S) : ix_run iy_P N (d + 1) 184 [ix_R (some (L 0)), ix_I (nI p)] (hw h F A) = some (.inl (some (ix_I (if z_gone S p then nI 1 else nI 0))), hw h F A) := by
  have h32 := hW.2.2.1
  have ht := hW.2.2.2 p hp
  have h2000 := hs.2.2.2.2.2.2.1
  have he := (hV.2.2.1 _ ht).1
  rw [rX4_isGone N d]
  unfold bX4_isGone jX4_isGone_13
  rw [st_is hs, st_is hs, st_top hs, hw_in (by omega) (by omega), cond_true, hw_aI, hw_cl (by omega), hV.2.1 p hp, st_rec hs, hw_in (by omega) (by omega), cond_true, st_rr hs F A (by omega), hw_fI, he]
  by_cases hg : z_gone S p
  · rw [if_pos hg, if_pos (show S.1.1 (zt S p) 0 = nI 4 from hg), hw_okn1_1]
    rfl
  · rw [if_neg hg, if_neg (show ¬ S.1.1 (zt S p) 0 = nI 4 from hg), hw_okn1_0]
    rfl
