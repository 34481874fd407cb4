/-! K0: the component: tokens, the parser, constant texts: 1 the fault, 2 tokens, 3 the parser, 13 words, 14 tape, 15 sort, 16 from, 17 to, 18 what -/
set_option maxRecDepth 100000
def kS (h : ix_H) (D : Nat → Nat) : Prop :=
  (ix_tg h (D 1) = 2 ∧ ix_tg h (D 2) = 3 ∧ ix_tg h (D 3) = 4 ∧ (ix_tg h (D 13) = 114 ∧ ix_ln h (D 13) = 18) ∧ (ix_tg h (D 14) = 102 ∧ ix_ln h (D 14) = 2000) ∧ (ix_tg h (D 15) = 102 ∧ ix_ln h (D 15) = 2001) ∧ ∀ j, 16 ≤ j → j < 19 → ix_tg h (D j) = 103 ∧ ix_ln h (D j) = 2001) ∧
  (ix_fR h (D 2) 0 = some (D 13) ∧ ix_fR h (D 2) 1 = some (D 14) ∧ ix_fR h (D 2) 3 = some (D 15) ∧ ix_fR h (D 2) 4 = some (D 16) ∧ ix_fR h (D 2) 5 = some (D 17) ∧ ix_fR h (D 2) 6 = some (D 18)) ∧
  (ix_fR h (D 3) 0 = some (D 2) ∧ ix_fR h (D 3) 1 = some (D 1)) ∧ (∀ i j, i < 19 → j < 19 → D i = D j → i = j) ∧ ∀ i, i < 19 → D i < ix_sz h
theorem dS.k {h : ix_H} {D : Nat → Nat} {L : Nat → Nat → Nat} (hs : dS h D L) : kS h D := by
  obtain ⟨⟨t0, t1, t2, t3, t4, t5, t6, t7, t8, t9, t10, t11⟩, f0, f4, f2, f3, inj, lt⟩ := hs
  exact ⟨⟨t1, t2, t3, t8, t9, t10, t11⟩, f2, f3, inj, lt⟩
section
variable {h : ix_H} {D : Nat → Nat}
theorem kS.ne (hs : kS h D) {i j : Nat} (hi : i < 19) (hj : j < 19) (hij : i ≠ j) : D i ≠ D j := fun e => hij (hs.2.2.2.1 i j hi hj e)
theorem k_is2 (hs : kS h D) (F A : Nat → Nat → Int32) (f : Nat → ix_O) : (ix_is (hw h F A) 3 (some (D 2))).bind f = f (D 2) := c_is hs.1.2.1 F A f
theorem k_isr2 (hs : kS h D) (F A : Nat → Nat → Int32) (f : Nat → ix_O) : (ix_isr (hw h F A) 3 (some (D 2))).bind f = f (D 2) := c_isr hs.1.2.1 (by decide) F A f
theorem k_is3 (hs : kS h D) (F A : Nat → Nat → Int32) (f : Nat → ix_O) : (ix_is (hw h F A) 4 (some (D 3))).bind f = f (D 3) := c_is hs.1.2.2.1 F A f
theorem k_isr3 (hs : kS h D) (F A : Nat → Nat → Int32) (f : Nat → ix_O) : (ix_isr (hw h F A) 4 (some (D 3))).bind f = f (D 3) := c_isr hs.1.2.2.1 (by decide) F A f
theorem k_is1 (hs : kS h D) (F A : Nat → Nat → Int32) (f : Nat → ix_O) : (ix_is (hw h F A) 2 (some (D 1))).bind f = f (D 1) := c_is hs.1.1 F A f
theorem k_isr1 (hs : kS h D) (F A : Nat → Nat → Int32) (f : Nat → ix_O) : (ix_isr (hw h F A) 2 (some (D 1))).bind f = f (D 1) := c_isr hs.1.1 (by decide) F A f
theorem k_t3 (hs : kS h D) (F A : Nat → Nat → Int32) (f : Nat → ix_O) : (ix_is (hw h F A) 3 (ix_fR (hw h F A) (D 3) 0)).bind f = f (D 2) := by
  rw [hw_fR, hs.2.2.1.1]
  exact k_is2 hs F A f
theorem k_t3r (hs : kS h D) (F A : Nat → Nat → Int32) (f : Nat → ix_O) : (ix_isr (hw h F A) 3 (ix_fR (hw h F A) (D 3) 0)).bind f = f (D 2) := by
  rw [hw_fR, hs.2.2.1.1]
  exact k_isr2 hs F A f
theorem k_f3r (hs : kS h D) (F A : Nat → Nat → Int32) (f : Nat → ix_O) : (ix_isr (hw h F A) 2 (ix_fR (hw h F A) (D 3) 1)).bind f = f (D 1) := by
  rw [hw_fR, hs.2.2.1.2]
  exact k_isr1 hs F A f
theorem k_wl (hs : kS h D) (F A : Nat → Nat → Int32) (f : Nat → ix_O) : (ix_isr (hw h F A) 114 (ix_fR (hw h F A) (D 2) 0)).bind f = f (D 13) := by
  rw [hw_fR, hs.2.1.1]
  exact c_isr hs.1.2.2.2.1.1 (by decide) F A f
theorem k_wr (hs : kS h D) (F A : Nat → Nat → Int32) (i : Int32) (f : Nat → ix_O) : (ix_atr (hw h F A) 114 (ix_fR (hw h F A) (D 2) 0) i).bind f = cond (ix_in i 18) (f (D 13)) none := by
  rw [hw_fR, hs.2.1.1]
  exact c_atr hs.1.2.2.2.1.1 (by decide) hs.1.2.2.2.1.2 F A i f
theorem k_tr (hs : kS h D) (F A : Nat → Nat → Int32) (i : Int32) (f : Nat → ix_O) : (ix_atr (hw h F A) 102 (ix_fR (hw h F A) (D 2) 1) i).bind f = cond (ix_in i 2000) (f (D 14)) none := by
  rw [hw_fR, hs.2.1.2.1]
  exact c_atr hs.1.2.2.2.2.1.1 (by decide) hs.1.2.2.2.2.1.2 F A i f
theorem k_sr (hs : kS h D) (F A : Nat → Nat → Int32) (i : Int32) (f : Nat → ix_O) : (ix_atr (hw h F A) 102 (ix_fR (hw h F A) (D 2) 3) i).bind f = cond (ix_in i 2001) (f (D 15)) none := by
  rw [hw_fR, hs.2.1.2.2.1]
  exact c_atr hs.1.2.2.2.2.2.1.1 (by decide) hs.1.2.2.2.2.2.1.2 F A i f
theorem k_sw (hs : kS h D) (F A : Nat → Nat → Int32) (i : Int32) (f : Nat → ix_O) : (ix_at (hw h F A) 102 (ix_fR (hw h F A) (D 2) 3) i).bind f = cond (ix_in i 2001) (f (D 15)) none := by
  rw [hw_fR, hs.2.1.2.2.1]
  exact c_at hs.1.2.2.2.2.2.1.1 hs.1.2.2.2.2.2.1.2 F A i f
theorem k_fr (hs : kS h D) (F A : Nat → Nat → Int32) (i : Int32) (f : Nat → ix_O) : (ix_atr (hw h F A) 103 (ix_fR (hw h F A) (D 2) 4) i).bind f = cond (ix_in i 2001) (f (D 16)) none := by
  rw [hw_fR, hs.2.1.2.2.2.1]
  exact c_atr (hs.1.2.2.2.2.2.2 16 (by omega) (by omega)).1 (by decide) (hs.1.2.2.2.2.2.2 16 (by omega) (by omega)).2 F A i f
theorem k_fw (hs : kS h D) (F A : Nat → Nat → Int32) (i : Int32) (f : Nat → ix_O) : (ix_at (hw h F A) 103 (ix_fR (hw h F A) (D 2) 4) i).bind f = cond (ix_in i 2001) (f (D 16)) none := by
  rw [hw_fR, hs.2.1.2.2.2.1]
  exact c_at (hs.1.2.2.2.2.2.2 16 (by omega) (by omega)).1 (hs.1.2.2.2.2.2.2 16 (by omega) (by omega)).2 F A i f
theorem k_or (hs : kS h D) (F A : Nat → Nat → Int32) (i : Int32) (f : Nat → ix_O) : (ix_atr (hw h F A) 103 (ix_fR (hw h F A) (D 2) 5) i).bind f = cond (ix_in i 2001) (f (D 17)) none := by
  rw [hw_fR, hs.2.1.2.2.2.2.1]
  exact c_atr (hs.1.2.2.2.2.2.2 17 (by omega) (by omega)).1 (by decide) (hs.1.2.2.2.2.2.2 17 (by omega) (by omega)).2 F A i f
theorem k_ow (hs : kS h D) (F A : Nat → Nat → Int32) (i : Int32) (f : Nat → ix_O) : (ix_at (hw h F A) 103 (ix_fR (hw h F A) (D 2) 5) i).bind f = cond (ix_in i 2001) (f (D 17)) none := by
  rw [hw_fR, hs.2.1.2.2.2.2.1]
  exact c_at (hs.1.2.2.2.2.2.2 17 (by omega) (by omega)).1 (hs.1.2.2.2.2.2.2 17 (by omega) (by omega)).2 F A i f
theorem k_ar (hs : kS h D) (F A : Nat → Nat → Int32) (i : Int32) (f : Nat → ix_O) : (ix_atr (hw h F A) 103 (ix_fR (hw h F A) (D 2) 6) i).bind f = cond (ix_in i 2001) (f (D 18)) none := by
  rw [hw_fR, hs.2.1.2.2.2.2.2]
  exact c_atr (hs.1.2.2.2.2.2.2 18 (by omega) (by omega)).1 (by decide) (hs.1.2.2.2.2.2.2 18 (by omega) (by omega)).2 F A i f
theorem k_aw (hs : kS h D) (F A : Nat → Nat → Int32) (i : Int32) (f : Nat → ix_O) : (ix_at (hw h F A) 103 (ix_fR (hw h F A) (D 2) 6) i).bind f = cond (ix_in i 2001) (f (D 18)) none := by
  rw [hw_fR, hs.2.1.2.2.2.2.2]
  exact c_at (hs.1.2.2.2.2.2.2 18 (by omega) (by omega)).1 (hs.1.2.2.2.2.2.2 18 (by omega) (by omega)).2 F A i f
end
/-! constant texts -/
/-- the words in the component's order -/
def k_wds : List (List Int32) := [[nI 99, nI 104, nI 97, nI 105, nI 110], [nI 109, nI 111, nI 115, nI 116], [nI 108, nI 101, nI 97, nI 115, nI 116], [nI 112, nI 117, nI 116], [nI 99, nI 117, nI 116], [nI 103, nI 101, nI 116], [nI 98, nI 101, nI 103, nI 105, nI 110], [nI 115, nI 116, nI 101, nI 112], [nI 99, nI 108, nI 111, nI 115, nI 101], [nI 115, nI 119, nI 101, nI 101, nI 112], [nI 100, nI 111], [nI 101, nI 110, nI 100], [nI 105], [nI 106], [nI 107, nI 101, nI 121, nI 115], [nI 108, nI 97, nI 115, nI 116], [nI 114, nI 101, nI 99, nI 111, nI 114, nI 100, nI 115], [nI 108, nI 111, nI 115, nI 116]]
/-- a word's constant -/
def k_kw (w : Nat) : Nat := if w < 3 then w + 4 else if w < 6 then w - 2 else w + 1
/-- a text: its cell s, its bytes at v -/
def kT (h : ix_H) (F A : Nat → Nat → Int32) (s v : Nat) (w : List Int32) : Prop := ix_tg h s % 512 = 19 ∧ ix_tg h v % 512 = 102 ∧ ix_fR h s 0 = some v ∧ F s 1 = nI 0 ∧ ix_ln h v = w.length ∧ w.length ≤ 16 ∧ (∀ c ∈ w, tk_isL c = true) ∧ ∀ i (hi : i < w.length), A v i = w[i]
def kC (h : ix_H) (F A : Nat → Nat → Int32) (D cv : Nat → Nat) : Prop :=
  (∀ w, w < 18 → ix_aR h (D 13) w = some (ix_cs h (k_kw w))) ∧
  (∀ w (hw : w < 18), kT h F A (ix_cs h (k_kw w)) (cv w) (k_wds[w]'hw) ∧ ix_cs h (k_kw w) < ix_sz h ∧ cv w < ix_sz h ∧ (∀ j, j < 19 → D j ≠ ix_cs h (k_kw w)) ∧ (∀ j, j < 19 → D j ≠ cv w) ∧ ix_tg h (ix_cs h (k_kw w)) = 531) ∧
  ix_tg h (ix_cs h 40) = 627 ∧ ix_ln h (ix_cs h 40) = 0 ∧ ix_cs h 40 < ix_sz h
theorem kC.at {h : ix_H} {F A : Nat → Nat → Int32} {D cv : Nat → Nat} (hc : kC h F A D cv) {w : Nat} (hw : w < 18) : kT h F A (ix_cs h (k_kw w)) (cv w) (k_wds[w]'hw) := (hc.2.1 w hw).1
section
variable {h : ix_H} {F A : Nat → Nat → Int32} {s v : Nat} {w : List Int32} {N : Nat}
theorem t_isr (t : kT h F A s v w) (F' A' : Nat → Nat → Int32) (f : Nat → ix_O) : (ix_isr (hw h F' A') 19 (some s)).bind f = f s := by
  have : ix_isr (hw h F' A') 19 (some s) = some s := by
    show cond (Nat.beq (ix_tg h s % 512) 19) (some s) none = some s
    rw [t.1]
    rfl
  rw [this]
  rfl
theorem t_bsr (t : kT h F A s v w) (F' A' : Nat → Nat → Int32) (f : Nat → ix_O) : (ix_isr (hw h F' A') 102 (some v)).bind f = f v := by
  have : ix_isr (hw h F' A') 102 (some v) = some v := by
    show cond (Nat.beq (ix_tg h v % 512) 102) (some v) none = some v
    rw [t.2.1]
    rfl
  rw [this]
  rfl
theorem t_bat (t : kT h F A s v w) (F' A' : Nat → Nat → Int32) (i : Int32) (f : Nat → ix_O) : (ix_atr (hw h F' A') 102 (some v) i).bind f = cond (ix_in i w.length) (f v) none := by
  have : ix_atr (hw h F' A') 102 (some v) i = cond (ix_in i w.length) (some v) none := by
    show (cond (Nat.beq (ix_tg h v % 512) 102) (some v) none).bind (fun a => cond (ix_in i (ix_ln h a)) (some a) none) = _
    rw [t.2.1]
    show cond (ix_in i (ix_ln h v)) (some v) none = _
    rw [t.2.2.2.2.1]
  rw [this]
  cases ix_in i w.length <;> rfl
theorem t_coder (t : kT h F A s v w) (N d : Nat) : ix_run iy_P N (d + 1) 48 [ix_R (some s)] (hw h F A) = some (.inl (some (ix_I (nI 0))), hw h F A) := by
  rw [rJ6_coder N d]
  unfold bJ6_coder jJ6_coder_6
  rw [if_neg (by decide), t_isr t, hw_fI, t.2.2.2.1, show ix_okn 2 (nI 0) = true by decide, cond_true]
theorem t_length (t : kT h F A s v w) (N d : Nat) : ix_run iy_P N (d + 2) 47 [ix_R (some s)] (hw h F A) = some (.inl (some (ix_I (nI w.length))), hw h F A) := by
  rw [rJ6_length N (d + 1)]
  unfold bJ6_length
  rw [t_isr t, hw_fR, t.2.2.1, t_bsr t, t_isr t, hw_cI (t_coder t N d)]
  dsimp only
  rw [hw_ln, t.2.2.2.2.1]
  have : ∀ n, n ≤ 16 → Int32.ofNat n >>> (nI 0 &&& 31) = nI n := by decide
  rw [this _ t.2.2.2.2.2.1]
theorem t_isLatin1 (t : kT h F A s v w) (N d : Nat) : ix_run iy_P N (d + 1) 50 [ix_R (some s)] (hw h F A) = some (.inl (some (ix_I (nI 1))), hw h F A) := by
  rw [rJ6_isLatin1 N d]
  unfold bJ6_isLatin1 jJ6_isLatin1_9
  rw [if_neg (by decide), t_isr t, hw_fI, t.2.2.2.1, if_pos rfl, hw_okn1_1, cond_true]
theorem t_checkIndex (h : ix_H) (N d : Nat) {i n : Nat} (hi : i < n) (hn : n < 2147483648) : ix_run iy_P N (d + 2) 51 [ix_I (nI i), ix_I (nI n)] h = some (.inl none, h) := by
  rw [rJ6_checkIndex N (d + 1)]
  unfold bJ6_checkIndex
  have e : ix_run iy_P N (d + 1) 62 [ix_I (nI i), ix_I (nI n), ix_R (some (ix_cs h 44))] h = some (.inl (some (ix_I (nI i))), h) := by
    rw [rJ8_checkIndex N d]
    unfold bJ8_checkIndex
    rw [if_neg (by rw [hw_lt (by omega) (by omega)]; omega), if_pos (by rw [hw_lt (by omega) (by omega)]; exact hi)]
  rw [hw_cI e]
theorem t_chr : ∀ {c : Int32}, tk_isL c = true → (((c &&& (nI 255)).toUInt32 % 65536).toInt32) = c := by
  have : ∀ j, j < 123 → 97 ≤ j → (((nI j &&& (nI 255)).toUInt32 % 65536).toInt32) = nI j := by decide
  intro c h
  have hc := tk_isL_at h
  have e : c = nI c.toInt.toNat := by
    apply Int32.toInt_inj.mp
    rw [nI_toInt (by omega)]
    omega
  rw [e]
  exact this _ (by omega) (by omega)
theorem t_okc {c : Int32} (h : tk_isL c = true) : ix_okn 4 c = true := by
  have : ∀ j, j < 123 → 97 ≤ j → ix_okn 4 (nI j) = true := by decide
  have hc := tk_isL_at h
  have e : c = nI c.toInt.toNat := by
    apply Int32.toInt_inj.mp
    rw [nI_toInt (by omega)]
    omega
  rw [e]
  exact this _ (by omega) (by omega)
theorem t_charAt (t : kT h F A s v w) (N d : Nat) {i : Nat} (hi : i < w.length) : ix_run iy_P N (d + 4) 49 [ix_R (some s), ix_I (nI i)] (hw h F A) = some (.inl (some (ix_I (w[i]))), hw h F A) := by
  have h16 := t.2.2.2.2.2.1
  have hL := t.2.2.2.2.2.2.1 _ (List.getElem_mem hi)
  have e1 : ix_run iy_P N (d + 3) 57 [ix_R (some v), ix_I (nI i)] (hw h F A) = some (.inl (some (ix_I (w[i]))), hw h F A) := by
    rw [rJ7_charAt N (d + 2)]
    unfold bJ7_charAt
    rw [t_bsr t, hw_ln, t.2.2.2.2.1, show Int32.ofNat w.length = nI w.length from rfl, hw_cV (t_checkIndex (hw h F A) N d hi (by omega)), t_bat t, hw_in hi (by omega), cond_true, hw_aI, hw_cl (by omega), t.2.2.2.2.2.2.2 i hi, t_chr hL, t_okc hL, cond_true]
  rw [rJ6_charAt N (d + 3)]
  unfold bJ6_charAt
  rw [t_isr t, hw_cI (t_isLatin1 t N (d + 2))]
  dsimp only
  rw [if_neg (by decide), t_isr t, hw_fR, t.2.2.1, hw_cI e1]
  dsimp only
  rw [t_okc hL, cond_true]
end
