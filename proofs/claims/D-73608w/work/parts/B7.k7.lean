/-! K7: the component: the parser's small methods -/
set_option maxRecDepth 100000
/-- a fault is thrown -/
def gFl (D : Nat → Nat) (h0 : ix_H) (F0 A0 : Nat → Nat → Int32) (tk : Nat → tK) (t : Nat) (a : Nat × Nat) (B : Nat) (out : ix_O) : Prop := t ≤ a.2 ∧ ∃ h' F' A', out = some (.inr (D 1), hw h' F' A') ∧ F' (D 1) 6 = nI a.1 ∧ F' (D 1) 7 = nI (tk a.2).2.1 ∧ gO D h0 F0 A0 h' F' A' (80 * (a.2 - t) + B)
theorem gFl.back {D : Nat → Nat} {h0 h1 : ix_H} {F0 A0 F1 A1 : Nat → Nat → Int32} {tk : Nat → tK} {t t1 k B B' : Nat} {a : Nat × Nat} {out : ix_O} (g : gO D h0 F0 A0 h1 F1 A1 k) (ht : t ≤ t1) (hk : k + B' ≤ 80 * (t1 - t) + B) (f : gFl D h1 F1 A1 tk t1 a B' out) : gFl D h0 F0 A0 tk t a B out := by
  obtain ⟨f1, h', F', A', e, f2, f3, f4⟩ := f
  exact ⟨by omega, h', F', A', e, f2, f3, (g.trans f4).mono (by omega)⟩
/-- a fault, else P -/
def gU {α : Type} (D : Nat → Nat) (h0 : ix_H) (F0 A0 : Nat → Nat → Int32) (tk : Nat → tK) (t B : Nat) (out : ix_O) (r : xR α) (P : α → Nat → Prop) : Prop := match r with
  | .inl a => gFl D h0 F0 A0 tk t a B out
  | .inr a => P a.1 a.2
def kFl (F : Nat → Nat → Int32) (D : Nat → Nat) (n p : Nat) : Nat → Nat → Int32 := hw_R F (D 1) (hw_U (hw_U (F (D 1)) 6 (nI n)) 7 (nI p))
section
variable {h : ix_H} {F A : Nat → Nat → Int32} {D cv : Nat → Nat} {tk : Nat → tK} {e t op wi N : Nat} {w : Option Nat}
theorem gT.row (T : gT h F A D cv tk e t op wi w) : A (D 15) t = k_so (x_kd tk t) ∧ A (D 16) t = nI (tk t).2.1 ∧ A (D 17) t = nI (tk t).2.2.1 ∧ (x_kd tk t ≠ 3 → A (D 18) t = k_wh (x_kd tk t)) ∧ (tk t).2.1 ≤ 2000 ∧ (tk t).2.2.1 ≤ 2000 ∧ x_kd tk t ≤ 37 := by
  obtain ⟨k1, k2, k3, k4, k5, k6, k7, -⟩ := T.2.2.1.2 t T.2.2.2.1.1 T.2.2.2.1.2.1 T.2.2.2.1.2.2
  exact ⟨k1, k2, k3, k4, k5, k6, k7⟩
theorem gT.lt (T : gT h F A D cv tk e t op wi w) (hk : x_kd tk t ≠ 0) : t < e := by
  rcases Nat.lt_or_ge t e with x | x
  · exact x
  · have : t = e := Nat.le_antisymm T.2.2.2.1.1 x
    exact absurd (by rw [this]; exact T.2.2.1.1) hk
/-- the state stays where the parser's numbers stay -/
theorem gT.ofO (T : gT h F A D cv tk e t op wi w) {h' : ix_H} {F' A' : Nat → Nat → Int32} {k : Nat} (g : gO D h F A h' F' A' k) (e3 : F' (D 3) = F (D 3)) : gT h' F' A' D cv tk e t op wi w := by
  obtain ⟨T1, T2, T3, T4, T5, T6, T7, T8⟩ := T
  refine ⟨T1.gO g, T2.gO T1 g, T3.gO T1 g, T4, by rw [e3]; exact T5, by rw [e3]; exact T6, by rw [e3]; exact T7, ?_⟩
  unfold gW at *
  rw [e3]
  exact T8
theorem gT.ofN (T : gT h F A D cv tk e t op wi w) {h' : ix_H} {F' A' : Nat → Nat → Int32} {k : Nat} (g : gN h F A h' F' A' k) : gT h' F' A' D cv tk e t op wi w := T.ofO (g.o D) (gN.f g (T.1.2.2.2.2 3 (by omega)))
theorem k_wrongAt (T : gT h F A D cv tk e t op wi w) (N d : Nat) (n : Nat) {x : Nat} (hx : x ≤ t) : ix_run iy_P N (d + 2) 154 [ix_R (some (D 3)), ix_I (nI n), ix_I (nI x)] (hw h F A) = some (.inl (some (ix_R (some (D 1)))), hw h (kFl F D n (tk x).2.1) A) := by
  obtain ⟨hs, -, hK, ⟨t1, t2, t3⟩, -⟩ := T
  obtain ⟨k1, k2, k3, -⟩ := hK.2 x (by omega) (by omega) (fun j hj => t3 j (by omega))
  have e1 : ix_run iy_P N (d + 1) 118 [ix_R (some (D 1)), ix_I (nI n), ix_I (nI (tk x).2.1)] (hw h F A) = some (.inl (some (ix_R (some (D 1)))), hw h (kFl F D n (tk x).2.1) A) := by
    rw [rX1_of N d]
    unfold bX1_of kFl
    rw [k_is1 hs, hw_bdF, k_is1 hs, hw_bdF, hw_R_R, hw_R_same]
  rw [rX3_wrongAt N (d + 1)]
  unfold bX3_wrongAt
  rw [k_is3 hs, k_is3 hs, k_t3 hs, k_fr hs, hw_in (by omega) (by omega), cond_true, k_f3r hs, hw_aI, hw_cl (by omega), k2, hw_cR e1]
theorem k_wrong (T : gT h F A D cv tk e t op wi w) (N d n : Nat) : ix_run iy_P N (d + 3) 153 [ix_R (some (D 3)), ix_I (nI n)] (hw h F A) = some (.inl (some (ix_R (some (D 1)))), hw h (kFl F D n (tk t).2.1) A) := by
  have hs := T.1
  rw [rX3_wrong N (d + 2)]
  unfold bX3_wrong
  rw [k_is3 hs, k_isr3 hs, hw_fI, T.2.2.2.2.1, hw_cR (k_wrongAt T N d n (Nat.le_refl t))]
/-- thrown -/
theorem k_thr (T : gT h F A D cv tk e t op wi w) (N d n : Nat) {h0 : ix_H} {F0 A0 : Nat → Nat → Int32} {t0 k B : Nat} (g : gO D h0 F0 A0 h F A k) (ht : t0 ≤ t) (hk : k ≤ 80 * (t - t0) + B) : gFl D h0 F0 A0 tk t0 (n, t) B ((ix_rR (ix_run iy_P N (d + 3) 153 [ix_R (some (D 3)), ix_I (nI n)] (hw h F A))).bind fun r9 => (ix_is r9.2 2 r9.1).bind fun a11 => ix_out a11 r9.2) := by
  have hs := T.1
  refine ⟨ht, h, kFl F D n (tk t).2.1, A, ?_, ?_, ?_, ?_⟩
  · rw [hw_cR (k_wrong T N d n)]
    dsimp only
    rw [k_is1 hs]
    rfl
  · unfold kFl
    rw [hw_R_same, hw_U_ne _ _ (by omega), hw_U_same]
  · unfold kFl
    rw [hw_R_same, hw_U_same]
  · exact (g.fR (.inr (.inl rfl)) _).mono hk
theorem k_so_5 : ∀ k, k ≤ 37 → (k_so k = nI 5 ↔ k = 3) ∧ (k_so k = nI 1 ↔ k = 2) ∧ (k_so k = nI 3 ↔ 20 ≤ k) ∧ (k_so k = nI 4 ↔ k = 0) := by decide
/-- the sort, thrown at a bad one -/
theorem k_sort (T : gT h F A D cv tk e t op wi w) (N d : Nat) (f : Int32 → ix_H → ix_O) {h0 : ix_H} {F0 A0 : Nat → Nat → Int32} {t0 k B : Nat} (g : gO D h0 F0 A0 h F A k) (ht : t0 ≤ t) (hk : k ≤ 80 * (t - t0) + B) : if x_kd tk t = 3 then gFl D h0 F0 A0 tk t0 (1, t) B (ix_xI (ix_run iy_P N (d + 4) 152 [ix_R (some (D 3))] (hw h F A)) ix_out f) else ix_xI (ix_run iy_P N (d + 4) 152 [ix_R (some (D 3))] (hw h F A)) ix_out f = f (k_so (x_kd tk t)) (hw h F A) := by
  have hs := T.1
  obtain ⟨k1, k2, k3, k4, k5, k6, k7⟩ := T.row
  have t4 := T.2.2.2.1.2.1
  have e1 : ix_run iy_P N (d + 4) 152 [ix_R (some (D 3))] (hw h F A) = if k_so (x_kd tk t) = nI 5 then ((ix_rR (ix_run iy_P N (d + 3) 153 [ix_R (some (D 3)), ix_I (nI 1)] (hw h F A))).bind fun r9 => (ix_is r9.2 2 r9.1).bind fun a11 => ix_out a11 r9.2) else some (.inl (some (ix_I (k_so (x_kd tk t)))), hw h F A) := by
    rw [rX3_sort N (d + 3)]
    unfold bX3_sort
    rw [k_is3 hs, k_t3 hs, k_is3 hs, hw_fI, T.2.2.2.2.1, k_sr hs, hw_in (by omega) (by omega), cond_true, hw_aI, hw_cl (by omega), k1]
    by_cases c : k_so (x_kd tk t) = nI 5
    · rw [if_pos c, if_pos c, k_isr3 hs]
    · rw [if_neg c, if_neg c, k_is3 hs, k_t3 hs, k_is3 hs, T.2.2.2.2.1, k_sr hs, hw_in (by omega) (by omega), cond_true, hw_cl (by omega), k1]
  rw [e1]
  have c5 := (k_so_5 _ k7).1
  by_cases c : x_kd tk t = 3
  · rw [if_pos c, if_pos (c5.mpr c)]
    obtain ⟨f1, h', F', A', f2, f3, f4, f5⟩ := k_thr T N d 1 g ht hk
    refine ⟨f1, h', F', A', ?_, f3, f4, f5⟩
    rw [f2]
    rfl
  · rw [if_neg c, if_neg (fun x => c (c5.mp x))]
    rfl
/-- one token further -/
def kPs (F : Nat → Nat → Int32) (D : Nat → Nat) (t : Nat) : Nat → Nat → Int32 := hw_R F (D 3) (hw_U (F (D 3)) 3 (nI t))
theorem gT.pass (T : gT h F A D cv tk e t op wi w) (h0 : x_kd tk t ≠ 0) (h3 : x_kd tk t ≠ 3) (h4 : t < 400) : gT h (kPs F D (t + 1)) A D cv tk e (t + 1) op wi w := by
  have lt := T.lt h0
  obtain ⟨T1, T2, T3, T4, T5, T6, T7, T8⟩ := T
  have g : gO D h F A h (kPs F D (t + 1)) A 0 := (gO.refl D h F A).fR (.inr (.inr rfl)) _
  refine ⟨T1, T2.gO T1 g, T3, ⟨lt, h4, fun j hj => ?_⟩, ?_, ?_, ?_, ?_⟩
  · by_cases x : j = t
    · rw [x]
      exact h3
    · exact T4.2.2 j (by omega)
  · unfold kPs
    rw [hw_R_same, hw_U_same]
  · unfold kPs
    rw [hw_R_same, hw_U_ne _ _ (by omega)]
    exact T6
  · unfold kPs
    rw [hw_R_same, hw_U_ne _ _ (by omega)]
    exact T7
  · unfold gW kPs at *
    cases w with
    | none =>
      show hw_R F (D 3) _ (D 3) 6 = nI 0
      rw [hw_R_same, hw_U_ne _ _ (by omega)]
      exact T8
    | some x =>
      obtain ⟨u1, u2, u3⟩ := T8
      refine ⟨by omega, ?_, ?_⟩
      · rw [hw_R_same, hw_U_ne _ _ (by omega)]
        exact u2
      · rw [hw_R_same, hw_U_ne _ _ (by omega)]
        exact u3
theorem k_pass (T : gT h F A D cv tk e t op wi w) (N d : Nat) : ix_run iy_P N (d + 4) 155 [ix_R (some (D 3))] (hw h F A) = if t = 400 then ((ix_rR (ix_run iy_P N (d + 3) 153 [ix_R (some (D 3)), ix_I (nI 2)] (hw h F A))).bind fun r9 => (ix_is r9.2 2 r9.1).bind fun a11 => ix_out a11 r9.2) else some (.inl none, hw h (kPs F D (t + 1)) A) := by
  have hs := T.1
  have t4 := T.2.2.2.1.2.1
  rw [rX3_pass N (d + 3)]
  unfold bX3_pass kPs
  rw [k_is3 hs, hw_fI, T.2.2.2.2.1]
  by_cases c : t = 400
  · rw [if_pos c, if_neg (by rw [hw_lt (by omega) (by omega)]; omega), k_isr3 hs]
  · rw [if_neg c, if_pos (by rw [hw_lt (by omega) (by omega)]; omega), k_is3 hs, k_is3 hs, T.2.2.2.2.1, nI_add, hw_bdF]
/-- pass in a chain -/
theorem k_passX (T : gT h F A D cv tk e t op wi w) (N d : Nat) (f : ix_H → ix_O) {h0 : ix_H} {F0 A0 : Nat → Nat → Int32} {t0 k B : Nat} (g : gO D h0 F0 A0 h F A k) (ht : t0 ≤ t) (hk : k ≤ 80 * (t - t0) + B) : gU D h0 F0 A0 tk t0 B (ix_xV (ix_run iy_P N (d + 4) 155 [ix_R (some (D 3))] (hw h F A)) ix_out f) (x_pas t) (fun _ t1 => t1 = t + 1 ∧ t < 400 ∧ ix_xV (ix_run iy_P N (d + 4) 155 [ix_R (some (D 3))] (hw h F A)) ix_out f = f (hw h (kPs F D (t + 1)) A)) := by
  have t4 := T.2.2.2.1.2.1
  rw [k_pass T N d]
  unfold x_pas
  by_cases c : t = 400
  · rw [if_pos c, if_pos c]
    obtain ⟨f1, h', F', A', f2, f3, f4, f5⟩ := k_thr T N d 2 g ht hk
    refine ⟨f1, h', F', A', ?_, f3, f4, f5⟩
    rw [f2]
    rfl
  · rw [if_neg c, if_neg c]
    exact ⟨rfl, by omega, rfl⟩
theorem k_sg_ok : ∀ k ∈ [4, 6, 7, 8, 9, 10, 15, 16], ∀ j, j ≤ 37 → (k_so j = nI 2 ∧ k_wh j = k_wh k ↔ j = k) ∧ (j = k → j ≠ 3) := by decide
theorem k_so_3 : k_so 3 ≠ nI 2 := by decide
theorem k_isSign (T : gT h F A D cv tk e t op wi w) (N d : Nat) {k : Nat} (hk : k ∈ [4, 6, 7, 8, 9, 10, 15, 16]) : ix_run iy_P N (d + 1) 160 [ix_R (some (D 3)), ix_I (k_wh k)] (hw h F A) = some (.inl (some (ix_I (if x_kd tk t = k then nI 1 else nI 0))), hw h F A) := by
  have hs := T.1
  obtain ⟨k1, k2, k3, k4, k5, k6, k7⟩ := T.row
  have t4 := T.2.2.2.1.2.1
  obtain ⟨s1, s2⟩ := k_sg_ok k hk _ k7
  rw [rX3_isSign N d]
  unfold bX3_isSign jX3_isSign_18 jX3_isSign_20
  rw [k_is3 hs, k_t3 hs, k_is3 hs, hw_fI, T.2.2.2.2.1, k_sr hs, hw_in (by omega) (by omega), cond_true, hw_aI, hw_cl (by omega), k1]
  by_cases c : k_so (x_kd tk t) = nI 2
  · have c3 : x_kd tk t ≠ 3 := fun x => k_so_3 (by rw [← x]; exact c)
    rw [if_pos c, k_is3 hs, k_t3 hs, k_is3 hs, T.2.2.2.2.1, k_ar hs, hw_in (by omega) (by omega), cond_true, hw_cl (by omega), k4 c3]
    by_cases c2 : k_wh (x_kd tk t) = k_wh k
    · rw [if_pos c2, if_pos (s1.mp ⟨c, c2⟩), hw_okn1_1, cond_true]
    · rw [if_neg c2, if_neg (fun x => c2 (s1.mpr x).2), hw_okn1_0, cond_true]
  · rw [if_neg c, if_neg (fun x => c (s1.mpr x).1), hw_okn1_0, cond_true]
/-- a sign that must stand here -/
theorem k_signX (T : gT h F A D cv tk e t op wi w) (N d : Nat) {k : Nat} (hk : k ∈ [4, 6, 7, 8, 9, 10, 15, 16]) (f : ix_H → ix_O) {h0 : ix_H} {F0 A0 : Nat → Nat → Int32} {t0 kk B : Nat} (g : gO D h0 F0 A0 h F A kk) (ht : t0 ≤ t) (hkk : kk ≤ 80 * (t - t0) + B) : gU D h0 F0 A0 tk t0 B (ix_xV (ix_run iy_P N (d + 5) 159 [ix_R (some (D 3)), ix_I (k_wh k)] (hw h F A)) ix_out f) (x_must tk k t) (fun _ t1 => t1 = t + 1 ∧ t < 400 ∧ x_kd tk t = k ∧ ix_xV (ix_run iy_P N (d + 5) 159 [ix_R (some (D 3)), ix_I (k_wh k)] (hw h F A)) ix_out f = f (hw h (kPs F D (t + 1)) A)) := by
  have hs := T.1
  have e1 : ix_run iy_P N (d + 5) 159 [ix_R (some (D 3)), ix_I (k_wh k)] (hw h F A) = if x_kd tk t = k then ix_xV (ix_run iy_P N (d + 4) 155 [ix_R (some (D 3))] (hw h F A)) ix_out (fun h5 => some (.inl none, h5)) else ((ix_rR (ix_run iy_P N (d + 4) 153 [ix_R (some (D 3)), ix_I (nI 1)] (hw h F A))).bind fun r9 => (ix_is r9.2 2 r9.1).bind fun a11 => ix_out a11 r9.2) := by
    rw [rX3_sign N (d + 4)]
    unfold bX3_sign
    rw [k_isr3 hs, hw_cI (k_isSign T N (d + 3) hk)]
    dsimp only
    by_cases c : x_kd tk t = k
    · rw [if_pos c, if_pos c, if_neg (by decide), k_isr3 hs]
    · rw [if_neg c, if_neg c, if_pos rfl, k_isr3 hs]
  rw [e1]
  unfold x_must
  by_cases c : x_kd tk t = k
  · rw [if_pos c, if_pos c]
    have := k_passX T N d (fun h5 => some (.inl none, h5)) g ht hkk
    generalize x_pas t = r at this
    cases r with
    | inl a =>
      obtain ⟨f1, h', F', A', f2, f3, f4, f5⟩ := this
      refine ⟨f1, h', F', A', ?_, f3, f4, f5⟩
      rw [f2]
      rfl
    | inr a =>
      obtain ⟨u1, u2, u3⟩ := this
      refine ⟨u1, u2, c, ?_⟩
      rw [u3]
      rfl
  · rw [if_neg c, if_neg c]
    obtain ⟨f1, h', F', A', f2, f3, f4, f5⟩ := k_thr T N (d + 1) 1 g ht hkk
    refine ⟨f1, h', F', A', ?_, f3, f4, f5⟩
    rw [f2]
    rfl
end
