/-! TL: the reference: a tell is counted -/
set_option maxRecDepth 100000
/-- as i_all.like, TELLS may differ -/
theorem i_all.like2 {S T : zS} {rc : List Nat} {lo : Nat → Int32} (h : i_all S rc lo) (hl : z_like S.1 T.1) (e2 : T.2.1 = S.2.1) (eh : T.2.2.1 = S.2.2.1) (en : zn T = zn S) (ez : zp T = zp S) (ec : zc T = zc S ∧ zm T = zm S ∧ zl T = zl S) : i_all T rc lo := by
  have hsub : z_sub S.1 T.1 (zn S) := fun r _ => ⟨fun f a b => hl.1 r f a b, by rw [hl.2]⟩
  have et : ∀ p, zt T p = zt S p := fun p => congrFun e2 p
  have eh' : ∀ j, zh T j = zh S j := fun j => congrFun eh j
  have epg : ∀ p, z_pg T p = z_pg S p := fun p => by
    unfold z_pg
    rw [et, hl.ct]
  have elen : ∀ p, z_len T p = z_len S p := fun p => by
    unfold z_len
    rw [et, hl.chain]
  have ego : ∀ p, z_gone T p ↔ z_gone S p := fun p => by
    unfold z_gone zr
    rw [et, hl.1 _ 0 (by omega) (by omega)]
  have g : i_ge S T lo lo := ⟨Nat.le_of_eq en.symm, Nat.le_of_eq ez.symm, by rw [ec.2.1], hsub, fun _ _ => rfl, fun p _ w => (ego p).mpr w⟩
  have hP : i_P T rc lo := by
    refine ⟨hl.W e2 en ez h.P.W, h.P.hd, i_row_all rc h.P.row (fun y _ => by rw [epg]) (fun _ _ => rfl), fun p hp => ?_, fun p p1 p2 p3 => (ego p).mpr (h.P.out p p1 (by omega) p3), ⟨h.P.lo1, fun p p1 p2 => h.P.lo2 p p1 (by omega)⟩, fun p p1 p2 => ?_, ?_, fun p p1 => by rw [epg]; exact h.P.rt p (by omega), fun r hr => ?_, by rw [ez]; exact h.P.rl, fun p p1 p2 => by rw [elen, ez]; exact h.P.ll p p1 (by omega)⟩
    · obtain ⟨a, b, c⟩ := h.P.mem p hp
      refine ⟨a, by omega, ?_⟩
      unfold i_in at *
      rw [epg]
      exact c
    · obtain ⟨a, b⟩ := h.P.gn p (by omega) ((ego p).mp p2)
      refine ⟨a, ?_⟩
      rw [et]
      exact i_gb_sub hsub (h.P.W.2.2.2 p (by omega)) b
    · rw [epg, ez]
      exact ⟨h.P.b0, h.P.b1⟩
    · unfold zi
      rw [hl.2]
      exact h.P.it r (by omega)
  have eF : i_f T rc lo = i_f S rc lo := by
    funext p
    unfold i_f i_nt
    rw [ez, epg]
  have eR : i_r T rc = i_r S rc := by
    funext p
    unfold i_r
    rw [ez, elen]
    by_cases w : z_gone S p
    · rw [if_pos w, if_pos ((ego p).mpr w)]
    · rw [if_neg w, if_neg (fun x => w ((ego p).mp x))]
  have eE : ∀ u, i_e T u = i_e S u := fun u => by
    unfold i_e
    rw [elen]
  have eT : ∀ u, i_t T u = i_t S u := fun u => by
    unfold i_t
    rw [hl.ct]
  have eF2 : i_F T rc lo = i_F S rc lo := by
    unfold i_F
    rw [eF]
    simp only [eh']
  refine ⟨hP, fun k hk => ?_, ?_, ?_, ?_, ?_⟩
  · rw [eh']
    exact (h.H k hk).ge h.P.W.1 g
  · have e1 : i_K T rc = i_K S rc := i_K_cong rc (fun y _ => by rw [epg])
    have e2 : (fun k => i_t T (zh T k)) = fun k => i_t S (zh S k) := funext fun k => by rw [eh', eT]
    rw [e1, e2]
    exact h.N
  · rw [eF2, elen]
    exact h.F
  · have e2 : (fun k => i_e T (zh T k)) = fun k => i_e S (zh S k) := funext fun k => by rw [eh', eE]
    have := h.U
    unfold i_U at *
    rw [eF2, eR, e2, en]
    exact this
  · have := h.c
    rw [ec.1, ec.2.1, ec.2.2]
    exact this
theorem i_I.ty {S : zS} (h : i_I S) : i_I (z_ty S) := by
  obtain ⟨rc, lo, h⟩ := h
  exact ⟨rc, lo, h.like2 (T := z_ty S) ⟨fun _ _ _ _ => rfl, rfl⟩ rfl rfl rfl rfl ⟨rfl, rfl, rfl⟩⟩
theorem mR.ty {nw : Nat → Int32} {S : zS} (h : mR nw S) : mR (hw_U nw 4 (nI (zy S + 1))) (z_ty S) := by
  obtain ⟨⟨h0, h1, h2, h3, h5, h6, h7, h4⟩, a, b, c, e⟩ := h
  refine ⟨⟨by rw [hw_U_ne _ _ (by omega)]; exact h0, by rw [hw_U_ne _ _ (by omega)]; exact h1, by rw [hw_U_ne _ _ (by omega)]; exact h2, by rw [hw_U_ne _ _ (by omega)]; exact h3, by rw [hw_U_ne _ _ (by omega)]; exact h5, by rw [hw_U_ne _ _ (by omega)]; exact h6, by rw [hw_U_ne _ _ (by omega)]; exact h7, hw_U_same _ _ _⟩, fun p hp => ?_, fun k f hk hf => ?_, fun r f hr hf => ?_, fun r hr => ?_⟩
  · rw [hw_U_ne _ _ (by omega)]
    exact a p hp
  · rw [hw_U_ne _ _ (by omega)]
    exact b k f hk hf
  · rw [hw_U_ne _ _ (by omega)]
    exact c r f hr hf
  · have e1 : (fun i => hw_U nw 4 (nI (zy S + 1)) (14100 + 88 * r + 2 * i)) = fun i => nw (14100 + 88 * r + 2 * i) := by
      funext i
      rw [hw_U_ne _ _ (by omega)]
    have e2 : (fun i => hw_U nw 4 (nI (zy S + 1)) (14100 + 88 * r + 2 * i + 1)) = fun i => nw (14100 + 88 * r + 2 * i + 1) := by
      funext i
      rw [hw_U_ne _ _ (by omega)]
    rw [e1, e2]
    exact e r hr
