/-! TQ: what tells leave of the invariant -/
set_option maxRecDepth 100000
theorem z_gr.yy {S S' : zS} {k : Nat} (h : z_gr S S' k) : zy S' = zy S := by
  unfold zy
  rw [h.2.2.1]
theorem i_Z_sweep {S : zS} (h : i_Z S) : i_Z (z_sweep S).2 := by
  intro r h5
  have h5' : (if 5 = 5 ∧ r < zn S ∧ z_fr S (z_low S) r then nI 1 else S.1.1 r 5) = nI 1 := h5
  show nI 0 ≤ (if 4 = 5 ∧ r < zn S ∧ z_fr S (z_low S) r then nI 1 else S.1.1 r 4)
  rw [if_neg (fun x => absurd x.1 (by decide))]
  by_cases w : r < zn S ∧ z_fr S (z_low S) r
  · have w2 : ¬ (zr S r 4 < nI 0 ∨ z_low S ≤ zr S r 4 ∨ zr S r 5 = nI 1) := w.2
    have w3 : ¬ zr S r 4 < nI 0 := fun x => w2 (.inl x)
    exact Int32.not_lt.mp w3
  · rw [if_neg (fun x => w x.2)] at h5'
    exact h r h5'
theorem i_Z_beg (c m l : Nat) : i_Z (z_beg c m l) := by
  intro r h5
  exfalso
  have h5' : (hw_R (hw_R (fun _ _ => nI 0) 0 (z_f (nI 0) (-2) (-2) (-2) (nI 1) (nI 0) (-2) (-2))) 1 (z_f (nI 0) (-2) (-2) (-2) (nI 0) (nI 1000) (-2) (-2))) r 5 = nI 1 := h5
  by_cases w1 : r = 1
  · rw [w1, hw_R_same] at h5'
    exact absurd h5' (by decide)
  · rw [hw_R_ne _ _ w1] at h5'
    by_cases w0 : r = 0
    · rw [w0, hw_R_same] at h5'
      exact absurd h5' (by decide)
    · rw [hw_R_ne _ _ w0] at h5'
      exact absurd h5' (by decide)
/-- what holds of a store while a text runs -/
def uJ (S : zS) : Prop := i_I S ∧ i_Z S ∧ ze S ≤ zy S ∧ zy S ≤ 400
theorem uJ.gr {S S' : zS} {k : Nat} (h : uJ S) (hI : i_I S') (g : z_gr S S' k) : uJ S' := by
  obtain ⟨h1, h2, h3, h4⟩ := h
  refine ⟨hI, g.2.2.2.2 (by omega) h2, ?_, ?_⟩
  · rw [g.2.2.2.1, g.yy]
    exact h3
  · rw [g.yy]
    exact h4
theorem r_hd_lt {l : xL} (ok : xl_ok l) : r_hd l.2.1 < 4 := by
  rcases ok.2.2 with ⟨e, -⟩ | ⟨k, hk, e⟩
  · rw [e]
    decide
  · rw [e]
    unfold r_hd
    rw [if_neg (by rw [hw_lt (by omega) (by omega)]; omega), hw_cl (by omega)]
    exact hk
theorem r_one_J {l : xL} {S : zS} {last : Int32} {rd : List Int32} (ok : xl_ok l) (h : uJ S) (hy : zy S < 400) : uJ (r_one l (S, last, rd)).1 ∧ zy (r_one l (S, last, rd)).1 = zy S + 1 ∧ (r_one l (S, last, rd)).2.2 = rd := by
  have hT : uJ (z_ty S) := by
    obtain ⟨h1, h2, h3, h4⟩ := h
    exact ⟨h1.ty, h2, Nat.le_succ_of_le h3, hy⟩
  have e0 : zy (z_ty S) = zy S + 1 := rfl
  have hd := r_hd_lt ok
  by_cases w3 : l.1 < 3
  · have e1 : (r_one l (S, last, rd)).1 = (r_act l (z_ty S, last, rd)).2 := by
      unfold r_one r_act
      rw [if_pos w3]
    have e2 : (r_one l (S, last, rd)).2.2 = rd := by
      unfold r_one
      rw [if_pos w3]
    rw [e1]
    refine ⟨?_, ?_, e2⟩
    · unfold r_act
      dsimp only
      have k2 := r_key_in (r_val (z_ty S, last, rd) l.2.2.1)
      have ha : nI (l.1 + 1) = nI 1 ∨ nI (l.1 + 1) = nI 2 ∨ nI (l.1 + 1) = nI 3 := by
        rcases (show l.1 = 0 ∨ l.1 = 1 ∨ l.1 = 2 by omega) with w | w | w
        · exact .inl (by rw [w])
        · exact .inr (.inl (by rw [w]))
        · exact .inr (.inr (by rw [w]))
      generalize (if l.1 = 0 then r_val (z_ty S, last, rd) l.2.2.2 else nI 0) = vv
      have hk := hT.gr (i_I.take hT.1 hd vv ha k2.1 k2.2) (z_gr_take _ _ _ _ _)
      split
      · exact hk.gr (i_I.close (by omega) 200 hk.1) (z_gr_close 0 200 _)
      · exact hk
    · rw [← e0]
      unfold r_act
      dsimp only
      generalize (if l.1 = 0 then r_val (z_ty S, last, rd) l.2.2.2 else nI 0) = vv
      split
      · rw [(z_gr_close 0 200 _).yy, (z_gr_take _ _ _ _ _).yy]
      · rw [(z_gr_take _ _ _ _ _).yy]
  · by_cases w : l.1 = 3
    · have e1 : r_one l (S, last, rd) = (z_step (z_ty S) (r_hd l.2.1), last, rd) := by
        unfold r_one
        rw [if_neg w3, if_pos w]
      rw [e1]
      exact ⟨hT.gr (hT.1.step hd) (z_gr_step _ _), (z_gr_step _ _).yy, rfl⟩
    · by_cases w4 : l.1 = 4
      · have e1 : r_one l (S, last, rd) = ((z_close 200 (z_ty S) (r_hd l.2.1)).2, last, rd) := by
          unfold r_one
          rw [if_neg w3, if_neg w, if_pos w4]
        rw [e1]
        exact ⟨hT.gr (i_I.close hd 200 hT.1) (z_gr_close _ 200 _), (z_gr_close _ 200 _).yy, rfl⟩
      · have e1 : r_one l (S, last, rd) = ((z_sweep (z_ty S)).2, last, rd) := by
          unfold r_one
          rw [if_neg w3, if_neg w, if_neg w4]
        rw [e1]
        refine ⟨⟨hT.1.sweep, i_Z_sweep hT.2.1, ?_, hT.2.2.2⟩, rfl, rfl⟩
        have : ze S ≤ zy S := h.2.2.1
        show ze S + 1 ≤ zy S + 1
        omega
theorem r_all_ov {α : Type} {f : α → xG → xG} {σ : xG} (h : r_ov σ) : ∀ l, r_all f l σ = σ
  | [] => rfl
  | t :: r => by
    show (if r_ov σ then σ else _) = σ
    rw [if_pos h]
theorem r_rds_ov {α : Type} {f : α → xG → xG} {b : List α} {σ : xG} (h : r_ov σ) : ∀ j i, r_rds f b j i σ = σ
  | 0, _ => rfl
  | j + 1, i => by
    show (if r_ov σ then σ else _) = σ
    rw [if_pos h]
