/-! TV: the reference: a text read whole -/
set_option maxRecDepth 100000
section
variable {h : ix_H} {m : Nat} {F A : Nat → Nat → Int32} {tk : Nat → tK} {e t n N d i : Nat} {v1 v2 v3 : Int32}
theorem p_68N (hP : mSp h m) (hT : pT F A m tk e t) (h0 : x_kd tk t = 0) (h25 : F m 25 = nI 0) (N d z : Nat) (v1 v2 v3 : Int32) : pHR (ix_run iy_P N (d + 7)) m (z + 1) v1 v2 v3 (hw h F A) = jX9_read_89 (ix_run iy_P N (d + 7)) (ix_lp (ix_run iy_P N (d + 7)) stX9_read z) m v1 v2 v3 (hw h F A) := by
  have h13 : F m 13 = nI 0 := hT.2.2.2.2
  unfold pHR
  rw [lX9_read_68]
  unfold jX9_read_68 jX9_read_79
  rw [mq_is hP, hw_fI, h13, if_pos rfl, mq_isr hP, hw_cI (p_is hP hT N (d + 6) (k := 0) (by omega)), if_pos h0]
  dsimp only
  rw [if_neg (by decide), mq_is hP, hw_fI, h13, if_pos rfl, mq_is hP, h25, if_pos (by decide)]
theorem p_89W (hP : mSp h m) (h13 : F m 13 = nI 0) {x : Nat} (hW : pW F m tk t (some x)) (cal : ix_C) (K : ix_K) (v1 v2 v3 : Int32) : ∃ F', jX9_read_89 cal K m v1 v2 v3 (hw h F A) = some (.inl (some (ix_I (nI 5))), hw h F' A) ∧ mQ [17] [] m F A F' A ∧ F' m 17 = nI (tk x).2.1 := by
  obtain ⟨-, w15, w16⟩ := hW
  unfold jX9_read_89 jX9_read_104
  rw [mq_is hP, hw_fI, h13, if_pos (by decide), mq_is hP, w15, if_neg (by decide), mq_is hP, w16, mq_is hP, hw_bdF, mq_is hP]
  have e13 : hw_R F m (hw_U (F m) 17 (nI (tk x).2.1)) m 13 = nI 0 := by rw [hw_R_same, hw_U_ne _ _ (by omega)]; exact h13
  have e15 : hw_R F m (hw_U (F m) 17 (nI (tk x).2.1)) m 15 = nI 5 := by rw [hw_R_same, hw_U_ne _ _ (by omega)]; exact w15
  rw [hw_fI, e13, if_pos (by decide), mq_is hP, e15, if_neg (by decide), mq_is hP, e15]
  exact ⟨_, rfl, (mQ.refl _ _ _ _ _).fR rfl, by rw [hw_R_same, hw_U_same]⟩
theorem m_read_125 (hS : mSh h m) (cal : ix_C) (z : Nat) {i : Nat} (hi : i < 3) : ix_lp cal stX9_read (z + 1) 125 [(0, ix_R (some m)), (4, ix_I (nI i))] [] (hw h F A) = ix_lp cal stX9_read z 125 [(0, ix_R (some m)), (4, ix_I (nI (i + 1)))] [] (hw h F (hw_R A (m + 32) (hw_U (A (m + 32)) i (nI 0)))) := by
  rw [lX9_read_125]
  unfold jX9_read_125
  rw [if_neg (by rw [hw_le (by omega) (by omega)]; omega), mp_is hS, mp_wr53 hS, hw_in (by omega) (by omega), cond_true, hw_bdA, hw_cl (by omega), nI_add, show ix_nar 1 (nI 0) = nI 0 by decide]
theorem uJ_beg {c q l : Nat} (hc : c < 100) (hm : 4 ≤ q) (hm2 : q < 100) (hl : l < 100) : uJ (z_beg c q l) := ⟨i_I.begin hc hm hm2 hl, i_Z_beg c q l, Nat.le_refl _, Nat.zero_le _⟩
abbrev mT3 : List Nat := [11, 12, 13, 14, 15, 16, 17, 18, 25, 27, 31, 37, 40, 41, 42, 45, 48]
abbrev mU3 : List Nat := [8, 9, 10, 11, 12, 13, 14, 15, 16, 17, 18, 19, 20, 21, 22, 23, 24, 25, 26, 27, 28, 32]
/-- a text is told anew -/
theorem p_89N (hS : mSh h m) (hP : mSp h m) (hN : 300000000 ≤ N) (d : Nat) {c : xC} {tn : Nat} {l : List (xT 3)} (h13 : F m 13 = nI 0) (h15 : F m 15 = nI 0) (hL : yL (yT A m c 3) l 0 tn) (ok : ∀ x ∈ l, xT_ok 3 x) (hA : uA F A m tn c) {a b q : Nat} (ha : a < 100) (hb : 4 ≤ b) (hb2 : b < 100) (hq : q < 100) (z : Nat) : ∃ F' A', jX9_read_89 (ix_run iy_P N (d + 14)) (ix_lp (ix_run iy_P N (d + 14)) stX9_read (z + 3)) m (nI a) (nI b) (nI q) (hw h F A) = some (.inl (some (ix_I (nI 0))), hw h F' A') ∧ mQ mT3 mU3 m F A F' A' ∧ mR (A' (m + 21)) (r_text (nI a) (nI b) (nI q) l) ∧ uJ (r_text (nI a) (nI b) (nI q) l) ∧ (∀ i, i < 3 → A' (m + 32) i = nI 0) ∧ F' m 17 = -1 := by
  unfold jX9_read_89 jX9_read_104
  rw [mq_is hP, hw_fI, h13, if_pos (by decide), mq_is hP, h15, if_pos (by decide), mq_is hP, hw_bdF, mq_is hP]
  have e13 : hw_R F m (hw_U (F m) 17 (-1)) m 13 = nI 0 := by rw [hw_R_same, hw_U_ne _ _ (by omega)]; exact h13
  have e15 : hw_R F m (hw_U (F m) 17 (-1)) m 15 = nI 0 := by rw [hw_R_same, hw_U_ne _ _ (by omega)]; exact h15
  have e17 : hw_R F m (hw_U (F m) 17 (-1)) m 17 = -1 := by rw [hw_R_same, hw_U_same]
  have q1 : mQ mT3 mU3 m F A (hw_R F m (hw_U (F m) 17 (-1))) A := (mQ.refl _ _ _ _ _).fR rfl
  have a18 : hw_R F m (hw_U (F m) 17 (-1)) m 18 = F m 18 := by rw [hw_R_same, hw_U_ne _ _ (by omega)]
  generalize hw_R F m (hw_U (F m) 17 (-1)) = F1 at e13 e15 e17 q1 a18 ⊢
  obtain ⟨A2, e2, q2, r2⟩ := m_begins (N := N) (F := F1) (A := A) hS (by omega) (d + 10) a b q
  rw [hw_fI, e13, if_pos (by decide), mq_is hP, e15, if_pos (by decide), mq_isr hP, hw_cV e2, ← lX9_read_125, m_read_125 hS _ _ (i := 0) (by omega), m_read_125 hS _ _ (i := 1) (by omega), m_read_125 hS _ _ (i := 2) (by omega), lX9_read_125]
  simp only [hw_R_R, hw_R_same]
  have q3 : mQ mT3 mU3 m F A F1 (hw_R A2 (m + 32) (hw_U (hw_U (hw_U (A2 (m + 32)) 0 (nI 0)) (0 + 1) (nI 0)) (1 + 1) (nI 0))) := (q1.trans (q2.mono rfl rfl)).aR (k := 32) rfl (by omega)
  have r3 : hw_R A2 (m + 32) (hw_U (hw_U (hw_U (A2 (m + 32)) 0 (nI 0)) (0 + 1) (nI 0)) (1 + 1) (nI 0)) (m + 21) = A2 (m + 21) := hw_R_ne _ _ (by omega)
  have h32 : ∀ i, i < 3 → hw_R A2 (m + 32) (hw_U (hw_U (hw_U (A2 (m + 32)) 0 (nI 0)) (0 + 1) (nI 0)) (1 + 1) (nI 0)) (m + 32) i = nI 0 := fun i hi => by
    rw [hw_R_same]
    rcases (show i = 0 ∨ i = 1 ∨ i = 2 by omega) with e | e | e <;> subst e <;> rfl
  have fr : ∀ k, k ≤ 17 → hw_R A2 (m + 32) (hw_U (hw_U (hw_U (A2 (m + 32)) 0 (nI 0)) (0 + 1) (nI 0)) (1 + 1) (nI 0)) (m + k) = A (m + k) := fun k hk => by rw [hw_R_ne _ _ (by omega), q2.2.2.1 k (by rw [List.contains_eq_any_beq]; simp; omega)]
  generalize hw_R A2 (m + 32) (hw_U (hw_U (hw_U (A2 (m + 32)) 0 (nI 0)) (0 + 1) (nI 0)) (1 + 1) (nI 0)) = A3 at q3 r3 h32 fr ⊢
  have hL3 : yL (yT A3 m c 3) l 0 tn := yL.mono (fun x i j => yT.lt 3 x i j) (i0 := 0) (j0 := tn) (fun x i j _ _ hx => by
    have := yT.of [] 3 x i j (A' := A3) (fun k q' _ h13' _ _ => by rw [fr k (by omega)]) hx
    rw [List.append_nil] at this
    exact this) (Nat.le_refl _) (Nat.le_refl _) hL
  obtain ⟨g1, g2, g3, g4⟩ := hA
  obtain ⟨F4, A4, e4, q4, r4, J4⟩ := m_runs (F := F1) (A := A3) hS hP hN d hL3 ok ⟨by rw [a18]; exact g1, g2, fun j hj => by rw [fr 15 (by omega), fr 16 (by omega)]; exact g3 j hj, g4⟩ (uJ_beg ha hb hb2 hq) (by rw [r3]; exact r2) (by show 0 < 400; omega)
  unfold jX9_read_125
  rw [if_pos (by decide), mq_isr hP, hw_cV e4]
  have et : r_text (nI a) (nI b) (nI q) l = (r_all (r_tell 3) l (z_beg a b q, nI 0, [])).1 := by
    unfold r_text
    rw [hw_cl (by omega), hw_cl (by omega), hw_cl (by omega)]
  rw [et]
  exact ⟨F4, A4, rfl, q3.trans (q4.mono rfl rfl), r4, J4, fun i hi => by rw [q4.2.2.1 32 rfl]; exact h32 i hi, by rw [q4.2.1 17 rfl]; exact e17⟩
end
