/-! K8: the component: the parser: numbers, words -/
set_option maxRecDepth 100000
/-- a fault thrown here -/
def oF (h : ix_H) (F A : Nat → Nat → Int32) (D : Nat → Nat) (tk : Nat → tK) (n t : Nat) : ix_O := some (.inr (D 1), hw h (kFl F D n (tk t).2.1) A)
section
variable {h : ix_H} {F A : Nat → Nat → Int32} {D cv : Nat → Nat} {tk : Nat → tK} {e t op wi N : Nat} {w : Option Nat}
theorem oF.fl {n : Nat} {h0 : ix_H} {F0 A0 : Nat → Nat → Int32} {t0 k B : Nat} (g : gO D h0 F0 A0 h F A k) (ht : t0 ≤ t) (hk : k ≤ 80 * (t - t0) + B) : gFl D h0 F0 A0 tk t0 (n, t) B (oF h F A D tk n t) := by
  refine ⟨ht, h, kFl F D n (tk t).2.1, A, rfl, ?_, ?_, (g.fR (.inr (.inl rfl)) _).mono hk⟩
  · unfold kFl
    rw [hw_R_same, hw_U_ne _ _ (by omega), hw_U_same]
  · unfold kFl
    rw [hw_R_same, hw_U_same]
theorem oF_xI (h : ix_H) (F A : Nat → Nat → Int32) (D : Nat → Nat) (tk : Nat → tK) (n t : Nat) (f : Int32 → ix_H → ix_O) : ix_xI (oF h F A D tk n t) ix_out f = oF h F A D tk n t := rfl
theorem oF_xR (h : ix_H) (F A : Nat → Nat → Int32) (D : Nat → Nat) (tk : Nat → tK) (n t : Nat) (f : Option Nat → ix_H → ix_O) : ix_xR (oF h F A D tk n t) ix_out f = oF h F A D tk n t := rfl
theorem oF_xV (h : ix_H) (F A : Nat → Nat → Int32) (D : Nat → Nat) (tk : Nat → tK) (n t : Nat) (f : ix_H → ix_O) : ix_xV (oF h F A D tk n t) ix_out f = oF h F A D tk n t := rfl
theorem ok_xI (v : Int32) (H : ix_H) (f : Int32 → ix_H → ix_O) : ix_xI (some (.inl (some (ix_I v)), H)) ix_out f = f v H := rfl
theorem ok_xR (v : Option Nat) (H : ix_H) (f : Option Nat → ix_H → ix_O) : ix_xR (some (.inl (some (ix_R v)), H)) ix_out f = f v H := rfl
theorem ok_xV (H : ix_H) (f : ix_H → ix_O) : ix_xV (some (.inl none, H)) ix_out f = f H := rfl
theorem k_thrE (T : gT h F A D cv tk e t op wi w) (N d n : Nat) : ((ix_rR (ix_run iy_P N (d + 3) 153 [ix_R (some (D 3)), ix_I (nI n)] (hw h F A))).bind fun r9 => (ix_is r9.2 2 r9.1).bind fun a11 => ix_out a11 r9.2) = oF h F A D tk n t := by
  rw [hw_cR (k_wrong T N d n)]
  dsimp only
  rw [k_is1 T.1]
  rfl
theorem k_sortE (T : gT h F A D cv tk e t op wi w) (N d : Nat) : ix_run iy_P N (d + 4) 152 [ix_R (some (D 3))] (hw h F A) = if x_kd tk t = 3 then oF h F A D tk 1 t else some (.inl (some (ix_I (k_so (x_kd tk t)))), hw h F A) := by
  have hs := T.1
  obtain ⟨k1, k2, k3, k4, k5, k6, k7⟩ := T.row
  have t4 := T.2.2.2.1.2.1
  have c5 := (k_so_5 _ k7).1
  rw [rX3_sort N (d + 3)]
  unfold bX3_sort
  rw [k_is3 hs, k_t3 hs, k_is3 hs, hw_fI, T.2.2.2.2.1, k_sr hs, hw_in (by omega) (by omega), cond_true, hw_aI, hw_cl (by omega), k1]
  by_cases c : x_kd tk t = 3
  · rw [if_pos c, if_pos (c5.mpr c), k_isr3 hs]
    exact k_thrE T N d 1
  · rw [if_neg c, if_neg (fun x => c (c5.mp x)), k_is3 hs, k_t3 hs, k_is3 hs, T.2.2.2.2.1, k_sr hs, hw_in (by omega) (by omega), cond_true, hw_cl (by omega), k1]
theorem k_passE (T : gT h F A D cv tk e t op wi w) (N d : Nat) : ix_run iy_P N (d + 4) 155 [ix_R (some (D 3))] (hw h F A) = if t = 400 then oF h F A D tk 2 t else some (.inl none, hw h (kPs F D (t + 1)) A) := by
  rw [k_pass T N d, k_thrE T N d 2]
theorem k_signE (T : gT h F A D cv tk e t op wi w) (N d : Nat) {k : Nat} (hk : k ∈ [4, 6, 7, 8, 9, 10, 15, 16]) : ix_run iy_P N (d + 5) 159 [ix_R (some (D 3)), ix_I (k_wh k)] (hw h F A) = if x_kd tk t = k then (if t = 400 then oF h F A D tk 2 t else some (.inl none, hw h (kPs F D (t + 1)) A)) else oF h F A D tk 1 t := by
  have hs := T.1
  rw [rX3_sign N (d + 4)]
  unfold bX3_sign
  rw [k_isr3 hs, hw_cI (k_isSign T N (d + 3) hk)]
  dsimp only
  by_cases c : x_kd tk t = k
  · rw [if_pos c, if_pos c, if_neg (by decide), k_isr3 hs, k_passE T N d]
    by_cases c4 : t = 400
    · rw [if_pos c4]
      rfl
    · rw [if_neg c4]
      rfl
  · rw [if_neg c, if_neg c, if_pos rfl, k_isr3 hs]
    exact k_thrE T N (d + 1) 1
theorem k_takeE (T : gT h F A D cv tk e t op wi w) (N d : Nat) : ix_run iy_P N (d + 5) 157 [ix_R (some (D 3)), ix_I (nI 1)] (hw h F A) = if x_kd tk t = 2 then (if t = 400 then oF h F A D tk 2 t else some (.inl (some (ix_I (nI t))), hw h (kPs F D (t + 1)) A)) else oF h F A D tk 1 t := by
  have hs := T.1
  obtain ⟨k1, k2, k3, k4, k5, k6, k7⟩ := T.row
  have t4 := T.2.2.2.1.2.1
  have c2 := (k_so_5 _ k7).2.1
  rw [rX3_take N (d + 4)]
  unfold bX3_take
  rw [k_isr3 hs, k_sortE T N d]
  by_cases c3 : x_kd tk t = 3
  · rw [if_pos c3, oF_xI, if_neg (by omega)]
  · rw [if_neg c3, ok_xI]
    by_cases c : x_kd tk t = 2
    · rw [if_pos (c2.mpr c), if_pos c, k_isr3 hs, k_passE T N d]
      by_cases c4 : t = 400
      · rw [if_pos c4, if_pos c4]
        rfl
      · rw [if_neg c4, if_neg c4, ok_xV, k_is3 hs, hw_fI]
        unfold kPs
        rw [hw_R_same, hw_U_same, hw_sub (by omega), Nat.add_sub_cancel]
    · rw [if_neg (fun x => c (c2.mp x)), if_neg c, k_isr3 hs]
      exact k_thrE T N (d + 1) 1
/-- the first number out of range is kept -/
def kTl (F : Nat → Nat → Int32) (D : Nat → Nat) (x : Nat) (w : Option Nat) : Nat → Nat → Int32 := match w with
  | some _ => F
  | none => hw_R F (D 3) (hw_U (hw_U (F (D 3)) 6 (nI 5)) 7 (nI x))
theorem k_tell (hs : kS h D) {x : Nat} (hx : x ≤ 400) (hw' : gW F D x w) (N d : Nat) : ix_run iy_P N (d + 1) 158 [ix_R (some (D 3)), ix_I (nI 5), ix_I (nI x)] (hw h F A) = some (.inl none, hw h (kTl F D x w) A) := by
  rw [rX3_tell N d]
  unfold bX3_tell jX3_tell_17 jX3_tell_15
  cases w with
  | none =>
    have hw' : F (D 3) 6 = nI 0 := hw'
    rw [k_is3 hs, hw_fI, hw', if_pos rfl, k_is3 hs, hw_bdF, k_is3 hs, hw_bdF, hw_R_R, hw_R_same]
    rfl
  | some y =>
    obtain ⟨w1, w2, w3⟩ := hw'
    rw [k_is3 hs, hw_fI, w2, if_neg (by decide), k_is3 hs, w3]
    by_cases c : y < x
    · rw [if_pos (by rw [hw_lt (by omega) (by omega)]; exact c)]
      rfl
    · have : y = x := by omega
      subst this
      rw [if_neg (by rw [hw_lt (by omega) (by omega)]; omega), k_is3 hs, w3, if_pos rfl, k_is3 hs, w2, if_neg (by decide)]
      rfl
def kNm (F : Nat → Nat → Int32) (D : Nat → Nat) (tk : Nat → tK) (t : Nat) (w : Option Nat) (lo hi : Int32) : Nat → Nat → Int32 := if (tk t).2.2.2 < lo ∨ hi < (tk t).2.2.2 then kTl (kPs F D (t + 1)) D t w else kPs F D (t + 1)
def x_w1 (tk : Nat → tK) (t : Nat) (w : Option Nat) (lo hi : Int32) : Option Nat := if (tk t).2.2.2 < lo ∨ hi < (tk t).2.2.2 then (match w with | some x => some x | none => some t) else w
theorem k_numE (T : gT h F A D cv tk e t op wi w) (hN : 1000 ≤ N) (d : Nat) (lo hi : Int32) : ix_run iy_P N (d + 6) 156 [ix_R (some (D 3)), ix_I lo, ix_I hi] (hw h F A) = if x_kd tk t = 2 then (if t = 400 then oF h F A D tk 2 t else some (.inl (some (ix_I (tk t).2.2.2)), hw h (kNm F D tk t w lo hi) A)) else oF h F A D tk 1 t := by
  have hs := T.1
  have T4 := T.2.2.2.1
  rw [rX3_number N (d + 5)]
  unfold bX3_number
  rw [k_isr3 hs, k_takeE T N d]
  by_cases c : x_kd tk t = 2
  · rw [if_pos c, if_pos c]
    by_cases c4 : t = 400
    · rw [if_pos c4, if_pos c4]
      rfl
    · have wx : gW (kPs F D (t + 1)) D t w := by
        have := T.2.2.2.2.2.2.2
        unfold gW kPs at *
        cases w with
        | none =>
          show hw_R F (D 3) _ (D 3) 6 = nI 0
          rw [hw_R_same, hw_U_ne _ _ (by omega)]
          exact this
        | some x =>
          obtain ⟨u1, u2, u3⟩ := this
          refine ⟨u1, ?_, ?_⟩
          · rw [hw_R_same, hw_U_ne _ _ (by omega)]
            exact u2
          · rw [hw_R_same, hw_U_ne _ _ (by omega)]
            exact u3
      have en := k_number (h := h) (F := kPs F D (t + 1)) (N := N) hs T.2.2.1 T4.1 T4.2.1 T4.2.2 c hN (d + 4)
      have et := k_tell (A := A) (w := w) hs T4.2.1 wx N (d + 4)
      rw [if_neg c4, if_neg c4, ok_xI, k_is3 hs, k_t3r hs, hw_cI en]
      dsimp only
      unfold jX3_number_15 jX3_number_20 kNm
      by_cases g1 : (tk t).2.2.2 < lo
      · rw [if_pos g1, k_isr3 hs, hw_cV et, if_pos (.inl g1)]
      · by_cases g2 : (tk t).2.2.2 ≤ hi
        · rw [if_neg g1, if_pos g2, if_neg (by
            rintro (x | x)
            · exact g1 x
            · exact absurd g2 (Int32.not_le.mpr x))]
        · rw [if_neg g1, if_neg g2, k_isr3 hs, hw_cV et, if_pos (.inr (Int32.not_le.mp g2))]
  · rw [if_neg c, if_neg c]
    rfl
theorem gT.num (T : gT h F A D cv tk e t op wi w) (h2 : x_kd tk t = 2) (h4 : t < 400) (lo hi : Int32) : gT h (kNm F D tk t w lo hi) A D cv tk e (t + 1) op wi (x_w1 tk t w lo hi) := by
  have T1 := T.pass (by omega) (by omega) h4
  unfold kNm x_w1
  by_cases c : (tk t).2.2.2 < lo ∨ hi < (tk t).2.2.2
  · rw [if_pos c, if_pos c]
    cases w with
    | some x => exact T1
    | none =>
      obtain ⟨u1, u2, u3, u4, u5, u6, u7, u8⟩ := T1
      show gT h (hw_R (kPs F D (t + 1)) (D 3) (hw_U (hw_U (kPs F D (t + 1) (D 3)) 6 (nI 5)) 7 (nI t))) A D cv tk e (t + 1) op wi (some t)
      have g : gO D h (kPs F D (t + 1)) A h (hw_R (kPs F D (t + 1)) (D 3) (hw_U (hw_U (kPs F D (t + 1) (D 3)) 6 (nI 5)) 7 (nI t))) A 0 := (gO.refl D h _ A).fR (.inr (.inr rfl)) _
      refine ⟨u1, u2.gO u1 g, u3, u4, ?_, ?_, ?_, Nat.le_succ t, ?_, ?_⟩
      · rw [hw_R_same, hw_U_ne _ _ (by omega), hw_U_ne _ _ (by omega)]
        exact u5
      · rw [hw_R_same, hw_U_ne _ _ (by omega), hw_U_ne _ _ (by omega)]
        exact u6
      · rw [hw_R_same, hw_U_ne _ _ (by omega), hw_U_ne _ _ (by omega)]
        exact u7
      · rw [hw_R_same, hw_U_ne _ _ (by omega), hw_U_same]
      · rw [hw_R_same, hw_U_same]
  · rw [if_neg c, if_neg c]
    exact T1
theorem gO.ps (g : gO D h F A h F A 0) (x : Nat) : gO D h F A h (kPs F D x) A 0 := g.fR (.inr (.inr rfl)) _
theorem gO.nm {h0 : ix_H} {F0 A0 : Nat → Nat → Int32} {k : Nat} (g : gO D h0 F0 A0 h F A k) (tk : Nat → tK) (t : Nat) (w : Option Nat) (lo hi : Int32) : gO D h0 F0 A0 h (kNm F D tk t w lo hi) A k := by
  unfold kNm kTl kPs
  split
  · cases w with
    | some x => exact g.fR (.inr (.inr rfl)) _
    | none => exact (g.fR (.inr (.inr rfl)) _).fR (.inr (.inr rfl)) _
  · exact g.fR (.inr (.inr rfl)) _
theorem x_num_eq (tk : Nat → tK) (lo hi : Int32) (t : Nat) (w : Option Nat) : x_num tk lo hi t w = if x_kd tk t = 2 then (if t = 400 then .inl (2, t) else .inr (((tk t).2.2.2, x_w1 tk t w lo hi), t + 1)) else .inl (1, t) := by
  unfold x_num x_pas x_w1
  by_cases c : x_kd tk t = 2
  · rw [if_pos c, if_pos c]
    by_cases c4 : t = 400
    · rw [if_pos c4, if_pos c4]
      rfl
    · rw [if_neg c4, if_neg c4]
      rfl
  · rw [if_neg c, if_neg c]
/-- which kind a word tells -/
def k_kk (j : Nat) : Nat := if j < 3 then j + 20 else if j = 3 then 30 else if j = 4 then 31 else if j = 5 then 24 else if j = 6 then 23 else if j < 12 then j + 18 else j + 20
theorem k_kk_ok : ∀ j (hj : j < 18), ∀ k, k ≤ 37 → 20 ≤ k → ((k_w k = k_wds[j]'hj) ↔ k = k_kk j) := by decide
theorem k_isTold (T : gT h F A D cv tk e t op wi w) (hN : 1000 ≤ N) (d : Nat) {j : Nat} (hj : j < 18) : (x_kd tk t = 3 ∧ ix_run iy_P N (d + 8) 151 [ix_R (some (D 3)), ix_R (some (ix_cs h (k_kw j)))] (hw h F A) = oF h F A D tk 1 t) ∨ (x_kd tk t ≠ 3 ∧ ∃ h' F' A', ix_run iy_P N (d + 8) 151 [ix_R (some (D 3)), ix_R (some (ix_cs h (k_kw j)))] (hw h F A) = some (.inl (some (ix_I (if x_kd tk t = k_kk j then nI 1 else nI 0))), hw h' F' A') ∧ gN h F A h' F' A' 4) := by
  have hs := T.1
  obtain ⟨k1, k2, k3, k4, k5, k6, k7⟩ := T.row
  have T4 := T.2.2.2.1
  have c3 := (k_so_5 _ k7).2.2.1
  have kk20 : 20 ≤ k_kk j := by
    unfold k_kk
    repeat' split
    all_goals omega
  rw [rX3_isTold N (d + 7)]
  unfold bX3_isTold jX3_isTold_14 jX3_isTold_16
  rw [k_isr3 hs, k_sortE T N (d + 3)]
  by_cases g3 : x_kd tk t = 3
  · exact .inl ⟨g3, by rw [if_pos g3, oF_xI]⟩
  · refine .inr ⟨g3, ?_⟩
    rw [if_neg g3, ok_xI]
    by_cases g : 20 ≤ x_kd tk t
    · obtain ⟨h', F', A', s, e1, gn, s1, s2, s3, s4, s5, s6, s7⟩ := k_text (F := F) (N := N) hs T.2.2.1 T4.1 T4.2.1 T4.2.2 g hN d
      have T' := T.ofN gn
      obtain ⟨ct, c1, c2, c5, c6, c7⟩ := T'.2.1.2.1 j hj
      have ecs : ix_cs h' = ix_cs h := gn.2.2.2.1
      have lt : ix_cs h (k_kw j) < ix_sz h := (T.2.1.2.1 j hj).2.1
      rw [ecs] at ct c7
      have ee := t_equals (N := N) s5 ct (by omega) c7 (by omega) (d + 5)
      rw [if_pos (c3.mpr g), k_is3 hs, k_is3 hs, hw_fI, T.2.2.2.2.1, k_t3r hs, hw_cR e1]
      dsimp only
      rw [t_isr s5, hw_cI ee]
      dsimp only
      refine ⟨h', F', A', ?_, gn⟩
      have kk := k_kk_ok j hj _ k7 g
      by_cases x : x_kd tk t = k_kk j
      · rw [if_pos (kk.mpr x), if_neg (by decide), if_pos x, hw_okn1_1, cond_true]
      · rw [if_neg (fun y => x (kk.mp y)), if_pos rfl, if_neg x, hw_okn1_0, cond_true]
    · rw [if_neg (fun x => g (c3.mp x)), if_neg (by omega), hw_okn1_0, cond_true]
      exact ⟨h, F, A, rfl, (gO.refl _ h F A).mono (by omega)⟩
end
