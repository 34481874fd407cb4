/-! KR: the component: tells, one behind another, and rounds of them -/
set_option maxRecDepth 100000
theorem gFa.get {α : Type} {P : α → Nat → Prop} : ∀ {l : List α} {xs : List Nat}, gFa P l xs → ∀ i (hi : i < l.length), ∃ hx : i < xs.length, P l[i] xs[i]
  | [], _, _, i, hi => absurd hi (Nat.not_lt_zero i)
  | _ :: _, [], h, _, _ => h.elim
  | a :: l, x :: xs, h, 0, _ => ⟨Nat.succ_pos _, h.1⟩
  | a :: l, x :: xs, h, i + 1, hi => by
    obtain ⟨hx, p⟩ := gFa.get h.2 i (Nat.lt_of_succ_lt_succ hi)
    exact ⟨Nat.succ_lt_succ hx, p⟩
abbrev rTC : List (Nat × Nat) := [(14, 120), (15, 120), (16, 120), (9, 228)]
section
variable {h h' h2 : ix_H} {F A F' A' F2 A2 : Nat → Nat → Int32} {D : Nat → Nat} {L L' L2 : Nat → Nat → Nat} {ns ns' n2 : Nat → Nat} {Z : Nat × Nat} {W : Nat → Prop} {R Q N : Nat} {σ : xG}
/-! reading a list -/
theorem k_size {ls ar : Nat} {xs : List Nat} (g : gA h F ls ar xs) (N d : Nat) : ix_run iy_P N (d + 1) 44 [ix_R (some ls)] (hw h F A) = some (.inl (some (ix_I (nI xs.length))), hw h F A) := by
  rw [rJ5_size N d]
  unfold bJ5_size
  rw [c_is g.1, hw_fI, g.2.2.1]
theorem k_elem {ls ar i : Nat} {xs : List Nat} (g : gA h F ls ar xs) (hi : i < xs.length) (hx : xs.length ≤ 400) (N d : Nat) : ix_run iy_P N (d + 4) 45 [ix_R (some ls), ix_I (nI i)] (hw h F A) = some (.inl (some (ix_R (some xs[i]))), hw h F A) := by
  obtain ⟨g1, g2, g3, ⟨x0, -⟩ | ⟨t0, l1, -, l3, l4⟩⟩ := g
  · subst x0
    exact absurd hi (Nat.not_lt_zero i)
  · have ec : ix_run iy_P N (d + 3) 33 [ix_I (nI i), ix_I (nI xs.length)] (hw h F A) = some (.inl (some (ix_I (nI i))), hw h F A) := by
      rw [rJ15_checkIndex N (d + 2)]
      unfold bJ15_checkIndex
      have e : ix_run iy_P N (d + 2) 62 [ix_I (nI i), ix_I (nI xs.length), ix_R none] (hw h F A) = some (.inl (some (ix_I (nI i))), hw h F A) := by
        rw [rJ8_checkIndex N (d + 1)]
        unfold bJ8_checkIndex
        rw [if_neg (by rw [hw_lt (by omega) (by omega)]; omega), if_pos (by rw [hw_lt (by omega) (by omega)]; omega)]
      rw [hw_cI e]
    have ee : ix_run iy_P N (d + 3) 46 [ix_R (some ls), ix_I (nI i)] (hw h F A) = some (.inl (some (ix_R (some xs[i]))), hw h F A) := by
      rw [rJ5_elementData N (d + 2)]
      unfold bJ5_elementData
      rw [c_is g1, hw_fR, g2, c_atr t0 (by decide) rfl, hw_in (by omega) (by omega), cond_true, hw_aR, hw_cl (by omega), l4 i hi]
    rw [rJ5_get N (d + 3)]
    unfold bJ5_get
    rw [c_is g1, hw_fI, g3, hw_cI ec]
    dsimp only
    rw [c_isr g1 (by decide), hw_cR ee]
/-- is it over -/
theorem r_isOver (K : rK h D L ns Z W R Q) {n : Nat} (f4 : F R 4 = nI n) (hn : n ≤ 400) (N d : Nat) : ix_run iy_P N (d + 1) 136 [ix_R (some R)] (hw h F A) = some (.inl (some (ix_I (if 400 ≤ n then nI 1 else nI 0))), hw h F A) := by
  rw [rX18_isOver N d]
  unfold bX18_isOver jX18_isOver_7
  rw [c_is K.2.1.1, hw_fI, f4]
  by_cases c : 400 ≤ n
  · rw [if_pos c, if_pos (by rw [hw_eq (by omega) (by omega)]; omega), hw_okn1_1, cond_true]
  · rw [if_neg c, if_neg (by rw [hw_eq (by omega) (by omega)]; omega), hw_okn1_0, cond_true]
/-- what a tell's run leaves, with what holds of it -/
def rOJ (h : ix_H) (F A : Nat → Nat → Int32) (D : Nat → Nat) (L : Nat → Nat → Nat) (ns : Nat → Nat) (Z : Nat × Nat) (W : Nat → Prop) (R Q : Nat) (rd : List Int32) (σ : xG) (out : ix_O) : Prop := rO h F A D L ns Z W R Q σ out ∧ uJ σ.1 ∧ σ.2.2 = rd
/-- a tell's tree of depth k runs -/
def rW (D : Nat → Nat) (Z : Nat × Nat) (W : Nat → Prop) (R Q N k d : Nat) : Prop := ∀ (x : xT k) (a : Nat) (h : ix_H) (F A : Nat → Nat → Int32) (L : Nat → Nat → Nat) (ns : Nat → Nat) (σ : xG), rK h D L ns Z W R Q → gTr h F W k x a → xT_ok k x → xT_le k x → uJ σ.1 → zy σ.1 < 400 → rV F A L ns R Q σ → σ.2.2.length + k ≤ 3 →
  ∃ y1 y2 c, (∀ f, ix_dsp (hw h F A) [ix_R (some a)] rTC f = f y1 [ix_R (some a)]) ∧ ix_run iy_P N d y1 [ix_R (some a)] (hw h F A) = some (.inl (some (ix_I (nI c))), hw h F A) ∧
    (∀ f, ix_dsp (hw h (hw_R F R (hw_U (F R) 4 (F R 4 + nI c))) A) [ix_R (some a), ix_R (some R)] rTD f = f y2 [ix_R (some a), ix_R (some R)]) ∧
    rOJ h F A D L ns Z W R Q σ.2.2 (r_tell k x σ) (ix_run iy_P N d y2 [ix_R (some a), ix_R (some R)] (hw h (hw_R F R (hw_U (F R) 4 (F R 4 + nI c))) A))
theorem rF.r (K : rK h D L ns Z W R Q) (g : Nat → Int32) : rF h F A D L ns R Q h (hw_R F R g) A L ns := rF.num K fun _ _ => ⟨fun q => hw_R_ne _ _ q, fun _ => rfl⟩
theorem cV1.r (K : rK h D L ns Z W R Q) {S : zS} (hn : zn S ≤ ns 0) (g : Nat → Int32) (V : cV1 F A (L 0) S) : cV1 (hw_R F R g) A (L 0) S := cV1.cells hn (fun x _ _ _ _ => hw_R_ne _ _ (K.ne K.2.2.1.1 x).symm) (fun _ _ _ => rfl) V
/-- a leaf, counted and done -/
theorem r_leafW (hN : 3000 ≤ N) {l : xL} {a : Nat} (K : rK h D L ns Z W R Q) (g : gL h F W l a) (ok : xl_ok l) (le : xl_le l) (hJ : uJ σ.1) (hy : zy σ.1 < 400) (V : rV F A L ns R Q σ) (d : Nat) :
    ∃ y1 y2 c, (∀ f, ix_dsp (hw h F A) [ix_R (some a)] rTC f = f y1 [ix_R (some a)]) ∧ ix_run iy_P N (d + 409) y1 [ix_R (some a)] (hw h F A) = some (.inl (some (ix_I (nI c))), hw h F A) ∧
    (∀ f, ix_dsp (hw h (hw_R F R (hw_U (F R) 4 (F R 4 + nI c))) A) [ix_R (some a), ix_R (some R)] rTD f = f y2 [ix_R (some a), ix_R (some R)]) ∧
    rOJ h F A D L ns Z W R Q σ.2.2 (r_one l σ) (ix_run iy_P N (d + 409) y2 [ix_R (some a), ix_R (some R)] (hw h (hw_R F R (hw_U (F R) 4 (F R 4 + nI c))) A)) := by
  obtain ⟨S, last, rd⟩ := σ
  obtain ⟨v1, v2, v3, v4, v5, v6, v7⟩ := V
  have wa := g.1
  have aR := (K.2.2.2.1 a wa).2.1
  have V1 : rV (hw_R F R (hw_U (F R) 4 (F R 4 + nI 1))) A L ns R Q (z_ty S, last, rd) := by
    refine ⟨cV1.r K v2 _ v1, v2, ?_, ?_, ?_, v6, v7⟩
    · rw [hw_R_same, hw_U_ne _ _ (by omega)]
      exact v3
    · rw [hw_R_same, hw_U_ne _ _ (by omega)]
      exact v4
    · rw [hw_R_same, hw_U_same, v5, nI_add]
      rfl
  have g1 : gL h (hw_R F R (hw_U (F R) 4 (F R 4 + nI 1))) W l a := g.of fun b hb => ⟨hb, rfl, rfl, hw_R_ne _ _ (K.2.2.2.1 b hb).2.1⟩
  obtain ⟨y2, e2, o⟩ := r_leaf K hJ.1 ok le g1 V1 hN d
  have J := r_one_J (last := last) (rd := rd) ok hJ hy
  have e1 : ∃ q : Nat × Nat, rTC.find? (fun q => Nat.beq q.1 (ix_tg h a)) = some q ∧ q.2 = 120 := by
    rcases g.2 with ⟨-, t, -⟩ | ⟨-, t, -⟩ | ⟨-, t⟩ <;> rw [t]
    · exact ⟨(14, 120), rfl, rfl⟩
    · exact ⟨(15, 120), rfl, rfl⟩
    · exact ⟨(16, 120), rfl, rfl⟩
  obtain ⟨q, hq, hq2⟩ := e1
  refine ⟨120, y2, 1, fun f => by rw [hw_dsp rTC hq, hq2], ?_, e2, o.back (rF.r K _), J.1, J.2.2⟩
  rw [rX10_counts N (d + 408)]
  rfl
/-- tells, one behind another, from the i-th on -/
theorem r_allW {k d : Nat} (hN : 3000 ≤ N) (hW : rW D Z W R Q N k (d + 5)) {n : Int32} {b : List (xT k)} {a : Nat} (ok : ∀ x ∈ b, xT_ok k x) (le : b.length ≤ 400 ∧ ∀ x ∈ b, xT_le k x) : ∀ j i z h F A L ns σ, i + j = b.length → j < z → rK h D L ns Z W R Q → gTr h F W (k + 1) (.inr (n, b)) a → uJ σ.1 → rV F A L ns R Q σ → σ.2.2.length + k ≤ 3 →
    rOJ h F A D L ns Z W R Q σ.2.2 (r_all (r_tell k) (b.drop i) σ) (ix_lp (ix_run iy_P N (d + 5)) stX8_all z 2 [(0, ix_R (some a)), (1, ix_R (some R)), (2, ix_I (nI i))] [] (hw h F A)) := by
  intro j
  induction j with
  | zero =>
    intro i z h F A L ns σ hi hz K g hJ V hr
    obtain ⟨z, rfl⟩ : ∃ y, z = y + 1 := ⟨z - 1, by omega⟩
    obtain ⟨wa, ta, -, ls, ar, xs, f0, -, -, gl, gf⟩ := g
    have el := gf.len
    have el : xs.length = b.length := el
    rw [lX8_all_2]
    unfold jX8_all_2 jX8_all_29
    rw [c_is ta, hw_fR, f0, c_isr gl.1 (by decide), hw_cI (k_size gl N (d + 4))]
    dsimp only
    rw [if_pos (by rw [hw_le (by omega) (by omega)]; omega), List.drop_eq_nil_of_le (by omega)]
    exact ⟨⟨h, F, A, L, ns, rfl, K, V, rF.refl K⟩, hJ, rfl⟩
  | succ j ih =>
    intro i z h F A L ns σ hi hz K g hJ V hr
    obtain ⟨z, rfl⟩ : ∃ y, z = y + 1 := ⟨z - 1, by omega⟩
    have g0 := g
    obtain ⟨wa, ta, -, ls, ar, xs, f0, -, -, gl, gf⟩ := g
    have el := gf.len
    have el : xs.length = b.length := el
    have hb : i < b.length := by omega
    rw [lX8_all_2]
    unfold jX8_all_2 jX8_all_29
    rw [c_is ta, hw_fR, f0, c_isr gl.1 (by decide), hw_cI (k_size gl N (d + 4))]
    dsimp only
    rw [if_neg (by rw [hw_le (by omega) (by omega)]; omega), c_isr K.2.1.1 (by decide), hw_cI (r_isOver K V.2.2.2.2.1 hJ.2.2.2 N (d + 4))]
    dsimp only
    rw [List.drop_eq_getElem_cons hb]
    by_cases ov : r_ov σ
    · have ov' : 400 ≤ zy σ.1 := ov
      rw [if_pos ov', if_neg (by decide), r_all_ov ov]
      exact ⟨⟨h, F, A, L, ns, rfl, K, V, rF.refl K⟩, hJ, rfl⟩
    · have ov' : ¬ 400 ≤ zy σ.1 := ov
      have er : r_all (r_tell k) (b[i] :: b.drop (i + 1)) σ = r_all (r_tell k) (b.drop (i + 1)) (r_tell k b[i] σ) := by
        show (if r_ov σ then σ else _) = _
        rw [if_neg ov]
      obtain ⟨hx, gx⟩ := gf.get i hb
      obtain ⟨y1, y2, c, e1, e2, e3, ⟨h1, F1, A1, L1, n1, e4, K1, V1, f1⟩, J1, r1⟩ := hW b[i] xs[i] h F A L ns σ K gx (ok _ (List.getElem_mem hb)) (le.2 _ (List.getElem_mem hb)) hJ (by omega) V hr
      have gx' : gE h xs[i] := gx.e.1
      rw [if_neg ov', if_pos rfl, er, c_is ta, hw_fR, f0, c_isr gl.1 (by decide), hw_cR (k_elem gl hx (by omega) N (d + 1))]
      dsimp only
      rw [gx'.of, cond_true, c_is K.2.1.1, e1, hw_cI e2]
      dsimp only
      rw [c_is K.2.1.1, hw_fI, hw_bdF, e3, hw_cV e4, nI_add]
      obtain ⟨o2, J2, r2⟩ := ih (i + 1) z h1 F1 A1 L1 n1 (r_tell k b[i] σ) (by omega) (by omega) K1 (f1.tr K g0) J1 V1 (by rw [r1]; exact hr)
      exact ⟨o2.back f1, J2, r2.trans r1⟩
end
