/-! K5: the component: texts: built, hashed, compared -/
set_option maxRecDepth 100000
theorem s_is {h : ix_H} {a c : Nat} (ht : ix_tg h a = c) (F A : Nat → Nat → Int32) : ix_is (hw h F A) c (some a) = some a := by
  show cond (Nat.beq (ix_tg h a) c) (some a) none = some a
  rw [ht, Nat.beq_refl c]
  rfl
section
variable {h : ix_H} {F A : Nat → Nat → Int32} {s v sb : Nat} {w : List Int32} {N : Nat}
/-- a text in the making: its cell sb, its bytes at v -/
def kB (h : ix_H) (F A : Nat → Nat → Int32) (sb v : Nat) (w : List Int32) : Prop := ix_tg h sb = 20 ∧ ix_tg h v = 102 ∧ ix_fR h sb 0 = some v ∧ F sb 1 = nI 0 ∧ F sb 3 = nI w.length ∧ ix_ln h v = 16 ∧ ∀ i (hi : i < w.length), A v i = w[i]
theorem b_isLatin1 (t : kB h F A sb v w) (N d : Nat) : ix_run iy_P N (d + 1) 7 [ix_R (some sb)] (hw h F A) = some (.inl (some (ix_I (nI 1))), hw h F A) := by
  rw [rJ10_isLatin1 N d]
  unfold bJ10_isLatin1 jJ10_isLatin1_9
  rw [if_neg (by decide), c_is t.1, hw_fI, t.2.2.2.1, if_pos rfl, hw_okn1_1, cond_true]
theorem t_n8 {c : Int32} (h : tk_isL c = true) : ix_nar 2 (c.toInt8.toInt32) = c := by
  have hc := tk_isL_at h
  have e : c = nI c.toInt.toNat := by
    apply Int32.toInt_inj.mp
    rw [nI_toInt (by omega)]
    omega
  rw [e]
  exact k_n8 (by omega)
theorem t_canEncode (h : ix_H) (N d : Nat) {c : Int32} (hc : tk_isL c = true) : ix_run iy_P N (d + 1) 58 [ix_I c] h = some (.inl (some (ix_I (nI 1))), h) := by
  have hc := tk_isL_at hc
  rw [rJ7_canEncode N d]
  unfold bJ7_canEncode jJ7_canEncode_6
  rw [if_neg (by
    rw [Int32.lt_iff_toInt_lt, nI_toInt (by omega)]
    omega), hw_okn1_1, cond_true]
theorem b_append10 (t : kB h F A sb v w) (N d : Nat) (hl : w.length < 16) {c : Int32} (hc : tk_isL c = true) : ix_run iy_P N (d + 2) 4 [ix_R (some sb), ix_I c] (hw h F A) = some (.inl (some (ix_R (some sb))), hw h (hw_R F sb (hw_U (F sb) 3 (nI (w.length + 1)))) (hw_R A v (hw_U (A v) w.length c))) := by
  have e1 : ix_run iy_P N (d + 1) 5 [ix_R (some sb), ix_I (nI (w.length + 1))] (hw h F A) = some (.inl none, hw h F A) := by
    rw [rJ10_ensureCapacityInternal N d]
    unfold bJ10_ensureCapacityInternal jJ10_ensureCapacityInternal_22
    have e16 : Int32.ofNat 16 >>> (nI 0 &&& 31) = nI 16 := by decide
    have le : nI (w.length + 1) - nI 16 ≤ nI 0 := by
      have : ∀ j, j < 16 → nI (j + 1) - nI 16 ≤ nI 0 := by decide
      exact this _ hl
    rw [c_is t.1, hw_fR, t.2.2.1, c_isr t.2.1 (by decide), c_is t.1, hw_ln, t.2.2.2.2.2.1, hw_fI, t.2.2.2.1, e16, if_pos le]
  rw [rJ10_append N (d + 1)]
  unfold bJ10_append jJ10_append_43
  rw [c_is t.1, c_isr t.1 (by decide), hw_fI, t.2.2.2.2.1, nI_add, hw_cV e1, c_isr t.1 (by decide), hw_cI (b_isLatin1 t N d)]
  dsimp only
  rw [if_neg (by decide), hw_cI (t_canEncode (hw h F A) N d hc)]
  dsimp only
  rw [if_neg (by decide), c_is t.1, c_is t.1, c_is t.1, hw_bdF, hw_fR, t.2.2.1, hw_fI, t.2.2.2.2.1, c_at t.2.1 t.2.2.2.2.2.1, hw_in (by omega) (by omega), cond_true, hw_bdA, hw_cl (by omega), nI_add, t_n8 hc]
theorem b_append (t : kB h F A sb v w) (N d : Nat) (hl : w.length < 16) {c : Int32} (hc : tk_isL c = true) : ix_run iy_P N (d + 3) 12 [ix_R (some sb), ix_I c] (hw h F A) = some (.inl (some (ix_R (some sb))), hw h (hw_R F sb (hw_U (F sb) 3 (nI (w.length + 1)))) (hw_R A v (hw_U (A v) w.length c))) := by
  rw [rJ11_append N (d + 2)]
  unfold bJ11_append
  rw [c_isr t.1 (by decide), hw_cR (b_append10 t N d hl hc)]
theorem kB.app (t : kB h F A sb v w) (c : Int32) : kB h (hw_R F sb (hw_U (F sb) 3 (nI (w.length + 1)))) (hw_R A v (hw_U (A v) w.length c)) sb v (w ++ [c]) := by
  obtain ⟨t1, t2, t3, t4, t5, t6, t7⟩ := t
  refine ⟨t1, t2, t3, by rw [hw_R_same, hw_U_ne _ _ (by omega)]; exact t4, by rw [hw_R_same, hw_U_same, List.length_append]; rfl, t6, fun i hi => ?_⟩
  rw [hw_R_same]
  rw [List.length_append, List.length_singleton] at hi
  by_cases e : i = w.length
  · subst e
    rw [hw_U_same, List.getElem_concat_length rfl]
  · rw [hw_U_ne _ _ e, List.getElem_append_left (by omega)]
    exact t7 i (by omega)
theorem b_getValue (t : kB h F A sb v w) (N d : Nat) : ix_run iy_P N (d + 1) 9 [ix_R (some sb)] (hw h F A) = some (.inl (some (ix_R (some v))), hw h F A) := by
  rw [rJ10_getValue N d]
  unfold bJ10_getValue
  rw [c_is t.1, hw_fR, t.2.2.1]
theorem b_length (t : kB h F A sb v w) (N d : Nat) : ix_run iy_P N (d + 2) 14 [ix_R (some sb)] (hw h F A) = some (.inl (some (ix_I (nI w.length))), hw h F A) := by
  have e : ix_run iy_P N (d + 1) 10 [ix_R (some sb)] (hw h F A) = some (.inl (some (ix_I (nI w.length))), hw h F A) := by
    rw [rJ10_length N d]
    unfold bJ10_length
    rw [c_is t.1, hw_fI, t.2.2.2.2.1]
  rw [rJ11_length N (d + 1)]
  unfold bJ11_length
  rw [c_isr t.1 (by decide), hw_cI e]
/-- a text is made: its cell is next, its bytes behind it -/
theorem b_toString (t : kB h F A sb v w) (N d : Nat) (hl : w.length < 16) (hw' : ∀ c ∈ w, tk_isL c = true) (hsb : sb < ix_sz h) (hv : v < ix_sz h) (D : Nat → Nat) : ∃ h' F' A', ix_run iy_P N (d + 6) 13 [ix_R (some sb)] (hw h F A) = some (.inl (some (ix_R (some (ix_sz h)))), hw h' F' A') ∧ gO D h F A h' F' A' 2 ∧ ix_tg h' (ix_sz h) = 19 ∧ ix_tg h' (ix_sz h + 1) = 102 ∧ ix_sz h' = ix_sz h + 2 ∧ kT h' F' A' (ix_sz h) (ix_sz h + 1) w ∧ F' (ix_sz h) 2 = nI 0 ∧ F' (ix_sz h) 3 = nI 0 := by
  obtain ⟨t1, t2, t3, t4, t5, t6, t7⟩ := t
  have z0 : (fun _ => 0 : Nat → Int32) = fun _ => nI 0 := by
    funext j
    decide
  -- the text's cell
  have g1 := (gO.refl D h F A).nwO 19 (n := 4) (by omega)
  have nsb : sb ≠ ix_sz h := by omega
  have nv : v ≠ ix_sz h := by omega
  have b1 : kB (ix_nwO h 19 4) (hw_R F (ix_sz h) (fun _ => 0)) A sb v w := ⟨by rw [s_tgO' _ _ _ nsb]; exact t1, by rw [s_tgO' _ _ _ nv]; exact t2, by rw [s_fRO' _ _ _ _ nsb]; exact t3, by rw [hw_R_ne _ _ nsb]; exact t4, by rw [hw_R_ne _ _ nsb]; exact t5, t6, t7⟩
  have tg1 : ix_tg (ix_nwO h 19 4) (ix_sz h) = 19 := s_tgO h 19 4
  have f2 : hw_R F (ix_sz h) (fun _ => 0) (ix_sz h) 2 = nI 0 := by rw [hw_R_same]; decide
  have f3 : hw_R F (ix_sz h) (fun _ => 0) (ix_sz h) 3 = nI 0 := by rw [hw_R_same]; decide
  have sz1 : ix_sz (ix_nwO h 19 4) = ix_sz h + 1 := rfl
  generalize hh1 : ix_nwO h 19 4 = h1 at g1 b1 tg1 sz1
  generalize hF1 : hw_R F (ix_sz h) (fun _ => 0) = F1 at g1 b1 f2 f3
  -- the coder
  have g2 := g1.fR (a := ix_sz h) (.inl (Nat.le_refl _)) (hw_U (F1 (ix_sz h)) 1 (nI 0))
  have b2 : kB h1 (hw_R F1 (ix_sz h) (hw_U (F1 (ix_sz h)) 1 (nI 0))) A sb v w := by
    obtain ⟨u1, u2, u3, u4, u5, u6, u7⟩ := b1
    exact ⟨u1, u2, u3, by rw [hw_R_ne _ _ nsb]; exact u4, by rw [hw_R_ne _ _ nsb]; exact u5, u6, u7⟩
  have f1' : hw_R F1 (ix_sz h) (hw_U (F1 (ix_sz h)) 1 (nI 0)) (ix_sz h) 1 = nI 0 := by rw [hw_R_same, hw_U_same]
  have f2' : hw_R F1 (ix_sz h) (hw_U (F1 (ix_sz h)) 1 (nI 0)) (ix_sz h) 2 = nI 0 := by rw [hw_R_same, hw_U_ne _ _ (by omega)]; exact f2
  have f3' : hw_R F1 (ix_sz h) (hw_U (F1 (ix_sz h)) 1 (nI 0)) (ix_sz h) 3 = nI 0 := by rw [hw_R_same, hw_U_ne _ _ (by omega)]; exact f3
  -- the bytes
  have eC : ∀ F2 : Nat → Nat → Int32, ix_run iy_P N (d + 3) 28 [ix_R (some v), ix_I (nI 0), ix_I (nI w.length)] (hw h1 F2 A) = some (.inl (some (ix_R (some (ix_sz h + 1)))), hw (ix_nwA h1 102 w.length) F2 (hw_R (hw_R A (ix_sz h + 1) (fun _ => 0)) (ix_sz h + 1) (fun j => if 0 ≤ j ∧ j < 0 + w.length then hw_R A (ix_sz h + 1) (fun _ => 0) v (0 + (j - 0)) else hw_R A (ix_sz h + 1) (fun _ => 0) (ix_sz h + 1) j))) := fun F2 => by
    rw [rJ14_copyOfRange N (d + 2)]
    unfold bJ14_copyOfRange jJ14_copyOfRange_6
    have en : nI w.length ≠ Int32.ofNat 16 := by
      show nI w.length ≠ nI 16
      rw [Ne, hw_eq (by omega) (by omega)]
      omega
    have eb : ix_run iy_P N (d + 2) 29 [ix_R (some v), ix_I (nI 0), ix_I (nI w.length)] (hw h1 F2 A) = some (.inl (some (ix_R (some (ix_sz h + 1)))), hw (ix_nwA h1 102 w.length) F2 (hw_R (hw_R A (ix_sz h + 1) (fun _ => 0)) (ix_sz h + 1) (fun j => if 0 ≤ j ∧ j < 0 + w.length then hw_R A (ix_sz h + 1) (fun _ => 0) v (0 + (j - 0)) else hw_R A (ix_sz h + 1) (fun _ => 0) (ix_sz h + 1) j))) := by
      have ec : ix_run iy_P N (d + 1) 30 [ix_I (nI 0), ix_I (nI w.length)] (hw h1 F2 A) = some (.inl none, hw h1 F2 A) := by
        rw [rJ14_checkLength N d]
        unfold bJ14_checkLength
        rw [if_pos (by rw [hw_le (by omega) (by omega)]; omega)]
      have em : ∀ H, ix_run iy_P N (d + 1) 25 [ix_I (nI 16), ix_I (nI w.length)] H = some (.inl (some (ix_I (nI w.length))), H) := fun H => by
        rw [rJ13_min N d]
        unfold bJ13_min jJ13_min_6
        rw [if_pos (by rw [hw_lt (by omega) (by omega)]; omega)]
      have nv1 : v ≠ ix_sz h1 := by omega
      have tv : ix_tg (ix_nwA h1 102 w.length) v = 102 := by rw [s_tgA' _ _ _ nv1]; exact b1.2.1
      have lv : ix_ln (ix_nwA h1 102 w.length) v = 16 := by rw [s_lnA' _ _ _ nv1]; exact b1.2.2.2.2.2.1
      have tn : ix_tg (ix_nwA h1 102 w.length) (ix_sz h1) = 102 := s_tgA _ _ _
      have lnn : ix_ln (ix_nwA h1 102 w.length) (ix_sz h1) = w.length := s_lnA _ _ _
      have e16 : Int32.ofNat 16 - nI 0 = nI 16 := by decide
      rw [rJ14_copyOfRangeByte N (d + 1)]
      unfold bJ14_copyOfRangeByte
      rw [hw_cV ec, hw_sub (Nat.zero_le _), Nat.sub_zero, hw_in (by omega) (by omega), cond_true, hw_bA, hw_cl (by omega), hw_sz, c_isr tv (by decide), hw_ln, lv, e16, hw_cI (em _)]
      dsimp only
      rw [c_is tv, c_is tn, hw_ln, lv, lnn, hw_cl (show w.length < 2147483648 by omega), hw_cl (show 0 < 2147483648 by omega), if_pos ⟨by
        rw [show (0 : Int32) = nI 0 by decide, hw_lt (by omega) (by omega)]
        omega, by decide, by decide, by omega, by omega, by omega⟩, hw_bd, hw_cpI, sz1]
    rw [if_pos rfl, c_isr b1.2.1 (by decide), hw_ln, b1.2.2.2.2.2.1, if_neg en, hw_cR eb]
  have g3 := (g2.nwA 102 (n := w.length) 1 (Nat.le_refl _) (by omega)).aR (a := ix_sz h + 1) (by omega) (fun j => if 0 ≤ j ∧ j < 0 + w.length then hw_R A (ix_sz h1) (fun _ => 0) v (0 + (j - 0)) else hw_R A (ix_sz h1) (fun _ => 0) (ix_sz h1) j)
  have g4 := g3.wfR (a := ix_sz h) (Nat.le_refl _) 0 (some (ix_sz h + 1))
  rw [sz1] at g4
  have tgs : ix_tg (ix_nwA h1 102 w.length) (ix_sz h) = 19 := by rw [s_tgA' _ _ _ (by omega)]; exact tg1
  refine ⟨_, _, _, ?_, g4, ?_, ?_, ?_, ⟨?_, ?_, ?_, ?_, ?_, by omega, hw', fun i hi => ?_⟩, f2', f3'⟩
  · rw [rJ11_toString N (d + 5)]
    unfold bJ11_toString
    have eI3 : ix_run iy_P N (d + 4) 54 [ix_R (some (ix_sz h)), ix_R (some sb), ix_R none] (hw h1 F1 A) = some (.inl none, hw (ix_wfR (ix_nwA h1 102 w.length) (ix_sz h) 0 (some (ix_sz h + 1))) (hw_R F1 (ix_sz h) (hw_U (F1 (ix_sz h)) 1 (nI 0))) (hw_R (hw_R A (ix_sz h + 1) (fun _ => 0)) (ix_sz h + 1) (fun j => if 0 ≤ j ∧ j < 0 + w.length then hw_R A (ix_sz h + 1) (fun _ => 0) v (0 + (j - 0)) else hw_R A (ix_sz h + 1) (fun _ => 0) (ix_sz h + 1) j))) := by
      rw [rJ6_init_2 N (d + 3)]
      unfold bJ6_init_2 jJ6_init_2_51
      rw [c_isr b1.1 (by decide), hw_cR (b_getValue b1 N (d + 2))]
      dsimp only
      rw [c_isr b1.1 (by decide), hw_cI (b_length b1 N (d + 1))]
      dsimp only
      rw [c_isr b1.1 (by decide), hw_cI (b_isLatin1 b1 N (d + 2))]
      dsimp only
      rw [if_neg (by decide), c_is tg1, show ix_okn 2 (nI 0) = true by decide, cond_true, hw_bdF, hw_cR (eC _)]
      dsimp only
      rw [c_is tgs, hw_bfR]
    have eI2 : ix_run iy_P N (d + 5) 53 [ix_R (some (ix_sz h)), ix_R (some sb)] (hw h1 F1 A) = some (.inl none, hw (ix_wfR (ix_nwA h1 102 w.length) (ix_sz h) 0 (some (ix_sz h + 1))) (hw_R F1 (ix_sz h) (hw_U (F1 (ix_sz h)) 1 (nI 0))) (hw_R (hw_R A (ix_sz h + 1) (fun _ => 0)) (ix_sz h + 1) (fun j => if 0 ≤ j ∧ j < 0 + w.length then hw_R A (ix_sz h + 1) (fun _ => 0) v (0 + (j - 0)) else hw_R A (ix_sz h + 1) (fun _ => 0) (ix_sz h + 1) j))) := by
      rw [rJ6_init N (d + 4)]
      unfold bJ6_init
      rw [c_isr tg1 (by decide), hw_cV eI3]
    rw [hw_bO, hh1, hF1, hw_sz, c_isr tg1 (by decide), hw_cV eI2]
  · exact tgs
  · show ix_tg (ix_nwA h1 102 w.length) (ix_sz h + 1) = 102
    rw [← sz1]
    exact s_tgA _ _ _
  · show ix_sz h1 + 1 = ix_sz h + 2
    omega
  · show ix_tg (ix_nwA h1 102 w.length) (ix_sz h) % 512 = 19
    rw [tgs]
  · show ix_tg (ix_nwA h1 102 w.length) (ix_sz h + 1) % 512 = 102
    rw [← sz1, s_tgA]
  · exact s_fRf _ _ _ _
  · exact f1'
  · show ix_ln (ix_nwA h1 102 w.length) (ix_sz h + 1) = w.length
    rw [← sz1]
    exact s_lnA _ _ _
  · rw [hw_R_same, if_pos ⟨Nat.zero_le _, by omega⟩, hw_R_ne _ _ (by omega), Nat.sub_zero, Nat.zero_add]
    exact t7 i hi
/-! hashed, compared -/
def k_hs (w : List Int32) : Int32 := w.foldl (fun v c => nI 31 * v + c) (nI 0)
theorem t_and {c : Int32} (h : tk_isL c = true) : c &&& nI 255 = c := by
  have : ∀ j, j < 123 → 97 ≤ j → nI j &&& nI 255 = nI j := by decide
  have hc := tk_isL_at h
  have e : c = nI c.toInt.toNat := by
    apply Int32.toInt_inj.mp
    rw [nI_toInt (by omega)]
    omega
  rw [e]
  exact this _ (by omega) (by omega)
theorem t_hash_l (t : kT h F A s v w) (cal : ix_C) : ∀ j z i, i + j = w.length → j < z → ix_lp cal stJ12_signedHashCode z 6 [(0, ix_I ((w.take i).foldl (fun v c => nI 31 * v + c) (nI 0))), (1, ix_R (some v)), (4, ix_I (nI w.length)), (5, ix_I (nI i))] [] (hw h F A) = some (.inl (some (ix_I (k_hs w))), hw h F A)
  | 0, z, i, hij, hz => by
    obtain ⟨z, rfl⟩ : ∃ y, z = y + 1 := ⟨z - 1, by omega⟩
    have h16 := t.2.2.2.2.2.1
    rw [lJ12_signedHashCode_6]
    unfold jJ12_signedHashCode_6
    rw [if_pos (by rw [hw_le (by omega) (by omega)]; omega), List.take_of_length_le (by omega)]
    rfl
  | j + 1, z, i, hij, hz => by
    obtain ⟨z, rfl⟩ : ∃ y, z = y + 1 := ⟨z - 1, by omega⟩
    have h16 := t.2.2.2.2.2.1
    have hi : i < w.length := by omega
    have ih := t_hash_l t cal j z (i + 1) (by omega) (by omega)
    rw [List.take_succ_eq_append_getElem hi, List.foldl_append] at ih
    rw [lJ12_signedHashCode_6]
    unfold jJ12_signedHashCode_6
    rw [if_neg (by rw [hw_le (by omega) (by omega)]; omega), t_bat t, hw_in hi (by omega), cond_true, hw_aI, hw_cl (by omega), t.2.2.2.2.2.2.2 i hi, t_and (t.2.2.2.2.2.2.1 _ (List.getElem_mem hi)), nI_add]
    exact ih
/-- a text's hash; the text is told by it -/
theorem t_hashCode (t : kT h F A s v w) (hs19 : ix_tg h s = 19) (hv : ix_tg h v = 102) (h2 : F s 2 = nI 0) (h3 : F s 3 = nI 0) (hN : 100 ≤ N) (d : Nat) (h0 : 0 < w.length) : ∃ r, ix_run iy_P N (d + 4) 56 [ix_R (some s)] (hw h F A) = some (.inl (some (ix_I (k_hs w))), hw h (hw_R F s r) A) ∧ r 1 = F s 1 := by
  have h16 := t.2.2.2.2.2.1
  have e3 : ix_run iy_P N (d + 1) 18 [ix_I (nI 0), ix_R (some v), ix_I (nI 0), ix_I (nI w.length)] (hw h F A) = some (.inl (some (ix_I (k_hs w))), hw h F A) := by
    rw [rJ12_signedHashCode N d]
    unfold bJ12_signedHashCode
    rw [← lJ12_signedHashCode_6, nI_add, Nat.zero_add]
    exact t_hash_l t _ w.length (N + 1) 0 (Nat.zero_add _) (by omega)
  have e2 : ix_run iy_P N (d + 2) 17 [ix_R (some v), ix_I (nI 0), ix_I (nI w.length), ix_I (nI 0), ix_I (nI 4)] (hw h F A) = some (.inl (some (ix_I (k_hs w))), hw h F A) := by
    rw [rJ12_vectorizedHashCode N (d + 1)]
    unfold bJ12_vectorizedHashCode jJ12_vectorizedHashCode_60
    have eo : ix_of (hw h F A) [102] (some v) = true := by
      show ([102] : List Nat).any (fun t => Nat.beq (ix_tg h v) t) = true
      rw [hv]
      rfl
    rw [if_pos rfl, eo, cond_true, hw_cI e3]
  have e1 : ix_run iy_P N (d + 3) 61 [ix_R (some v)] (hw h F A) = some (.inl (some (ix_I (k_hs w))), hw h F A) := by
    rw [rJ7_hashCode N (d + 2)]
    unfold bJ7_hashCode jJ7_hashCode_18
    have en : ∀ k, k < w.length → nI w.length ≠ nI k := fun k hk => by
      rw [Ne, hw_eq (by omega) (by omega)]
      omega
    have e5 : ∀ (W : List Int32) (hW : W.length = 1) (h0 : 0 < W.length), k_hs W = W[0] := fun W hW h0 => by
      match W, hW, h0 with
      | [c], _, _ =>
        show nI 31 * nI 0 + c = c
        rw [show nI 31 * nI 0 = (0 : Int32) by decide, Int32.zero_add]
    rw [t_bsr t, hw_ln, t.2.2.2.2.1, show Int32.ofNat w.length = nI w.length from rfl, if_neg (en 0 h0)]
    by_cases c1 : w.length = 1
    · rw [if_pos (by rw [c1]), t_bat t, hw_in h0 (by omega), cond_true, hw_aI, hw_cl (by omega), t.2.2.2.2.2.2.2 0 h0, t_and (t.2.2.2.2.2.2.1 _ (List.getElem_mem h0)), e5 w c1 h0]
    · rw [if_neg (en 1 (by omega)), t_bsr t, t.2.2.2.2.1, show Int32.ofNat w.length = nI w.length from rfl, hw_cI e2]
  rw [rJ6_hashCode N (d + 3)]
  unfold bJ6_hashCode jJ6_hashCode_18 jJ6_hashCode_29
  rw [c_is hs19, hw_fI, h2, if_pos rfl, c_is hs19, h3, if_pos rfl, t_isr t, hw_cI (t_isLatin1 t N (d + 2))]
  dsimp only
  rw [if_neg (by decide), t_isr t, hw_fR, t.2.2.1, hw_cI e1]
  dsimp only
  by_cases c : k_hs w = nI 0
  · rw [if_pos c, c_is hs19, hw_okn1_1, cond_true, hw_bdF]
    exact ⟨_, rfl, hw_U_ne _ _ (by omega)⟩
  · rw [if_neg c, c_is hs19, hw_bdF]
    exact ⟨_, rfl, hw_U_ne _ _ (by omega)⟩
theorem t_equals_l {s' v' : Nat} {w' : List Int32} (t : kT h F A s v w) (t' : kT h F A s' v' w') (e : w.length = w'.length) (cal : ix_C) : ∀ j z i, i + j = w.length → j < z → (∀ y (hy : y < i) (h1 : y < w.length) (h2 : y < w'.length), w[y] = w'[y]) → ix_lp cal stJ7_equals z 7 [(0, ix_R (some v)), (1, ix_R (some v')), (2, ix_I (nI i))] [] (hw h F A) = some (.inl (some (ix_I (if w = w' then nI 1 else nI 0))), hw h F A)
  | 0, z, i, hij, hz, hm => by
    obtain ⟨z, rfl⟩ : ∃ y, z = y + 1 := ⟨z - 1, by omega⟩
    have h16 := t.2.2.2.2.2.1
    have ew : w = w' := List.ext_getElem e (fun y h1 h2 => hm y (by omega) h1 h2)
    rw [lJ7_equals_7]
    unfold jJ7_equals_7
    rw [t_bsr t, hw_ln, t.2.2.2.2.1, if_pos (by
      show nI w.length ≤ nI i
      rw [hw_le (by omega) (by omega)]
      omega), hw_okn1_1, cond_true, if_pos ew]
  | j + 1, z, i, hij, hz, hm => by
    obtain ⟨z, rfl⟩ : ∃ y, z = y + 1 := ⟨z - 1, by omega⟩
    have h16 := t.2.2.2.2.2.1
    have hi : i < w.length := by omega
    have hi' : i < w'.length := by omega
    rw [lJ7_equals_7]
    unfold jJ7_equals_7
    rw [t_bsr t, hw_ln, t.2.2.2.2.1, if_neg (by
      show ¬ nI w.length ≤ nI i
      rw [hw_le (by omega) (by omega)]
      omega), t_bat t, hw_in hi (by omega), cond_true, t_bat t', hw_in hi' (by omega), cond_true, hw_aI, hw_cl (by omega), t.2.2.2.2.2.2.2 i hi, t'.2.2.2.2.2.2.2 i hi']
    by_cases c : w[i] = w'[i]
    · rw [if_pos c, nI_add]
      exact t_equals_l t t' e cal j z (i + 1) (by omega) (by omega) (fun y hy h1 h2 => by
        by_cases g : y = i
        · subst g
          exact c
        · exact hm y (by omega) h1 h2)
    · rw [if_neg c, hw_okn1_0, cond_true, if_neg (fun x => c (by simp only [x]))]
theorem t_equals {s' v' : Nat} {w' : List Int32} (t : kT h F A s v w) (t' : kT h F A s' v' w') (ne : s ≠ s') (h531 : ix_tg h s' = 531) (hN : 100 ≤ N) (d : Nat) : ix_run iy_P N (d + 2) 55 [ix_R (some s), ix_R (some s')] (hw h F A) = some (.inl (some (ix_I (if w = w' then nI 1 else nI 0))), hw h F A) := by
  have h16 := t.2.2.2.2.2.1
  have h16' := t'.2.2.2.2.2.1
  have e1 : ix_run iy_P N (d + 1) 60 [ix_R (some v), ix_R (some v')] (hw h F A) = some (.inl (some (ix_I (if w = w' then nI 1 else nI 0))), hw h F A) := by
    rw [rJ7_equals N d]
    unfold bJ7_equals
    rw [t_bsr t, t_bsr t', hw_ln, t.2.2.2.2.1, t'.2.2.2.2.1]
    by_cases e : w.length = w'.length
    · rw [if_pos (by rw [e]), ← lJ7_equals_7]
      exact t_equals_l t t' e _ w.length (N + 1) 0 (Nat.zero_add _) (by omega) (fun y hy => absurd hy (Nat.not_lt_zero y))
    · rw [if_neg (by
        show nI w.length ≠ nI w'.length
        rw [Ne, hw_eq (by omega) (by omega)]
        exact e), hw_okn1_0, cond_true, if_neg (fun x => e (by rw [x]))]
  have ea : ([19] : List Nat).any (fun t => Nat.beq (ix_tg (hw h F A) s' % 512) t) = true := by
    rw [hw_tg, h531]
    rfl
  have eo : ix_of (hw h F A) [19, 531] (some s') = true := by
    show ([19, 531] : List Nat).any (fun t => Nat.beq (ix_tg h s') t) = true
    rw [h531]
    rfl
  rw [rJ6_equals N (d + 1)]
  unfold bJ6_equals jJ6_equals_18 jJ6_equals_27 jJ6_equals_29
  rw [if_neg (fun x => ne (Option.some.inj x)), Option.bind_some, ea, cond_true, if_neg (by decide), eo, cond_true, if_neg (by decide), t_isr t, t_isr t', hw_fI, t.2.2.2.1, t'.2.2.2.1, if_pos rfl, t_isr t, t_isr t', hw_fR, t.2.2.1, t'.2.2.1, hw_cI e1]
  dsimp only
  by_cases c : w = w'
  · rw [if_pos c, if_neg (by decide), hw_okn1_1, cond_true]
  · rw [if_neg c, if_pos rfl, hw_okn1_0, cond_true]
end
