/-! KQ: the component: a tell that is no rounds is done, whole -/
set_option maxRecDepth 100000
section
variable {h h' h2 : ix_H} {F A F' A' F2 A2 : Nat → Nat → Int32} {D : Nat → Nat} {L L' L2 : Nat → Nat → Nat} {ns ns' n2 : Nat → Nat} {Z : Nat × Nat} {W : Nat → Prop} {R Q N : Nat} {σ : xG}
theorem r_hdI {l : xL} (ok : xl_ok l) : (if l.2.1 < nI 0 then nI 0 else l.2.1) = nI (r_hd l.2.1) := by
  rcases ok.2.2 with ⟨e, -⟩ | ⟨k, hk, e⟩
  · rw [e]
    decide
  · rw [e]
    unfold r_hd
    rw [if_neg (by rw [hw_lt (by omega) (by omega)]; omega), if_neg (by rw [hw_lt (by omega) (by omega)]; omega), hw_cl (by omega)]
theorem r_hdN {l : xL} (ok : xl_ok l) (h2 : ¬ l.1 < 2) (h5 : l.1 ≠ 5) : l.2.1 = nI (r_hd l.2.1) := by
  rcases ok.2.2 with ⟨e, w⟩ | ⟨k, hk, e⟩
  · omega
  · rw [e]
    unfold r_hd
    rw [if_neg (by rw [hw_lt (by omega) (by omega)]; omega), hw_cl (by omega)]
theorem r_one_t {l : xL} (l3 : l.1 < 3) (S : zS) (last : Int32) (rd : List Int32) {key v : Int32} (hk : key = r_key (r_val (z_ty S, last, rd) l.2.2.1)) (hv : v = if l.1 = 0 then r_val (z_ty S, last, rd) l.2.2.2 else nI 0) : r_one l (S, last, rd) = (if (z_take (z_ty S) (r_hd l.2.1) (nI (l.1 + 1)) key v).1 = true ∧ (if l.2.1 < nI 0 then nI 1 else nI 0) ≠ nI 0 then (z_close 200 (z_take (z_ty S) (r_hd l.2.1) (nI (l.1 + 1)) key v).2 (r_hd l.2.1)).2 else (z_take (z_ty S) (r_hd l.2.1) (nI (l.1 + 1)) key v).2, if (z_take (z_ty S) (r_hd l.2.1) (nI (l.1 + 1)) key v).1 = true ∧ l.1 = 0 then key else last, rd) := by
  unfold r_one
  rw [if_pos l3]
  dsimp only
  rw [← hk, ← hv]
  by_cases c : l.2.1 < nI 0
  · have e0 : r_hd l.2.1 = 0 := by
      unfold r_hd
      rw [if_pos c]
    rw [if_pos c, e0]
    generalize z_take (z_ty S) 0 (nI (l.1 + 1)) key v = t
    obtain ⟨b, T⟩ := t
    cases b with
    | false => rw [if_neg (fun q => Bool.noConfusion q.1), if_neg (fun q => Bool.noConfusion q.1), if_neg (show ¬ ((false, T).1 = true ∧ nI 1 ≠ nI 0) from fun q => Bool.noConfusion q.1)]
    | true => rw [if_pos ⟨rfl, c⟩, if_pos (show true = true ∧ nI 1 ≠ nI 0 from ⟨rfl, by decide⟩)]
  · rw [if_neg c]
    generalize z_take (z_ty S) (r_hd l.2.1) (nI (l.1 + 1)) key v = t
    rw [if_neg (fun q => c q.2), if_neg (show ¬ (t.1 = true ∧ nI 0 ≠ nI 0) from fun q => q.2 rfl)]
theorem r_leaf (K : rK h D L ns Z W R Q) {S : zS} {last : Int32} {rd : List Int32} (hS : i_I S) {l : xL} (ok : xl_ok l) (le : xl_le l) {a : Nat} (g : gL h F W l a) (V : rV F A L ns R Q (z_ty S, last, rd)) (hN : 3000 ≤ N) (d : Nat) :
    ∃ y, (∀ f, ix_dsp (hw h F A) [ix_R (some a), ix_R (some R)] rTD f = f y [ix_R (some a), ix_R (some R)]) ∧ rO h F A D L ns Z W R Q (r_one l (S, last, rd)) (ix_run iy_P N (d + 409) y [ix_R (some a), ix_R (some R)] (hw h F A)) := by
  have hI : i_I (z_ty S) := hS.ty
  obtain ⟨wa, ⟨l3, ta, f0, f1, f2, ⟨xk, fk, gk⟩, fv⟩ | ⟨l34, ta, f0, f1⟩ | ⟨l5, ta⟩⟩ := g
  · refine ⟨130, hw_dsp rTD (q := (14, 130)) (by rw [ta]; rfl) _, ?_⟩
    rw [rX15_does N (d + 408)]
    unfold bX15_does
    obtain ⟨F1, A1, e1, q1⟩ := r_keyOf K hI hN d gk le.1 V
    have hk := r_hd_lt ok
    have k2 := r_key_in (r_val (z_ty S, last, rd) l.2.2.1)
    have V1 := V.sc K q1
    have fa : ∀ {F' A'}, cSc (L 0) F A F' A' → F' a = F a := fun q => ((rF.sc K q).at (K.2.2.2.1 a wa).1).2.2.2.2.1 (K.2.2.2.1 a wa).2.1
    rw [c_is ta, hw_fR, fk, hw_cI e1]
    dsimp only
    rw [c_is ta, hw_fR]
    have f0' := f0.trans (r_hdI ok)
    by_cases c0 : l.1 = 0
    · rw [if_pos c0] at fv
      obtain ⟨xv, fv1, gv⟩ := fv
      obtain ⟨y, F2, A2, e2, e3, q2⟩ := r_term K hI hN (d + 1) (K.gS q1 gv) le.2 V1
      have q3 := q1.tr q2
      rw [r_one_t l3 S last rd rfl (if_pos c0).symm]
      rw [fv1, if_neg (show ¬ some xv = none by simp), c_is ta, fv1, e2, hw_cI e3]
      have o := r_does14 (N := N) (v := r_val (z_ty S, last, rd) l.2.2.2) (cl := if l.2.1 < nI 0 then nI 1 else nI 0) K hk l3 ta wa (by rw [fa q3]; exact f0') (by rw [fa q3]; exact f1) (by rw [fa q3]; exact f2) k2 (V1.sc K q2) hI hN (d + 396) (ix_lp (ix_run iy_P N (d + 408)) stX15_does N)
      exact o.back (rF.sc K q3)
    · rw [if_neg c0] at fv
      rw [r_one_t l3 S last rd rfl (if_neg c0).symm, fv, if_pos rfl]
      have o := r_does14 (N := N) (v := nI 0) (cl := if l.2.1 < nI 0 then nI 1 else nI 0) K hk l3 ta wa (by rw [fa q1]; exact f0') (by rw [fa q1]; exact f1) (by rw [fa q1]; exact f2) k2 V1 hI hN (d + 396) (ix_lp (ix_run iy_P N (d + 408)) stX15_does N)
      exact o.back (rF.sc K q1)
  · refine ⟨132, hw_dsp rTD (q := (15, 132)) (by rw [ta]; rfl) _, ?_⟩
    have hk := r_hd_lt ok
    have eh := r_hdN ok (by omega) (by omega)
    have hs := K.1.2.1 0 (by omega)
    rw [rX16_does N (d + 408)]
    unfold bX16_does jX16_does_16
    rw [c_is ta, hw_fI, f1]
    by_cases c3 : l.1 = 3
    · have er : r_one l (S, last, rd) = (z_step (z_ty S) (r_hd l.2.1), last, rd) := by
        unfold r_one
        rw [if_neg (show ¬ l.1 < 3 by omega), if_pos c3]
      rw [er, if_neg (show ¬ l.1 = 4 by omega), if_pos rfl, c_is K.2.1.1, c_is ta, r_st K]
      simp only [hw_fI, f0]
      rw [eh]
      have po : cPo1 h F A (L 0) (ns 0) (z_step (z_ty S) (r_hd l.2.1)) (some (ix_I (if zh (z_ty S) (r_hd l.2.1) 1 = nI 0 then -1 else zh (z_step (z_ty S) (r_hd l.2.1)) (r_hd l.2.1) 1))) (ix_run iy_P N (d + 397 + 11) 180 [ix_R (some (L 0 0)), ix_I (nI (r_hd l.2.1))] (hw h F A)) := by
        by_cases w0 : zh (z_ty S) (r_hd l.2.1) 1 = nI 0
        · exact c_steps (rc := []) hs V.2.1 hk V.1 (fun x => absurd w0 x) (by omega) (d + 397)
        · obtain ⟨rc, -, hcn⟩ := hI.can hk w0
          exact c_steps (rc := rc) hs V.2.1 hk V.1 (fun _ => hcn) (by omega) (d + 397)
      obtain ⟨h', F', A', L', ns', e, k', v', f'⟩ := K.sto V po (z_gr_step _ _).yy
      rw [← eh] at e ⊢
      rw [hw_cI e]
      exact ⟨h', F', A', L', ns', rfl, k', v', f'⟩
    · have er : r_one l (S, last, rd) = ((z_close 200 (z_ty S) (r_hd l.2.1)).2, last, rd) := by
        unfold r_one
        rw [if_neg (show ¬ l.1 < 3 by omega), if_neg c3, if_pos (show l.1 = 4 by omega)]
      rw [er, if_pos (show l.1 = 4 by omega), if_neg (show ¬ nI 1 = nI 0 by decide), c_is K.2.1.1, c_is ta, r_st K]
      simp only [hw_fI, f0]
      obtain ⟨h', F', A', L', ns', e, k', v', f'⟩ := K.sto V (c_closes hk (i_ckp hk) hN (d + 396) hI hs V.2.1 V.1) (z_gr_close _ 200 _).yy
      rw [← eh] at e
      rw [hw_cI e]
      exact ⟨h', F', A', L', ns', rfl, k', v', f'⟩
  · refine ⟨134, hw_dsp rTD (q := (16, 134)) (by rw [ta]; rfl) _, ?_⟩
    have er : r_one l (S, last, rd) = ((z_sweep (z_ty S)).2, last, rd) := by
      unfold r_one
      rw [if_neg (show ¬ l.1 < 3 by omega), if_neg (show ¬ l.1 = 3 by omega), if_neg (show ¬ l.1 = 4 by omega)]
    rw [er, rX17_does N (d + 408)]
    unfold bX17_does
    obtain ⟨h', F', A', L', ns', e, k', v', f'⟩ := K.sto V (c_sweeps (K.1.2.1 0 (by omega)) V.2.1 V.1 hN (d + 406)) rfl
    rw [c_is K.2.1.1, r_st K, hw_cI e]
    exact ⟨h', F', A', L', ns', rfl, k', v', f'⟩
end
