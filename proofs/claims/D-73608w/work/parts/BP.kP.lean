/-! KP: the component: a tell that is no rounds is done -/
set_option maxRecDepth 100000
abbrev rTD : List (Nat × Nat) := [(14, 130), (15, 132), (16, 134), (9, 229)]
section
variable {h h' h2 : ix_H} {F A F' A' F2 A2 : Nat → Nat → Int32} {D : Nat → Nat} {L L' L2 : Nat → Nat → Nat} {ns ns' n2 : Nat → Nat} {Z : Nat × Nat} {W : Nat → Prop} {R Q N : Nat} {σ : xG}
theorem rF.refl (K : rK h D L ns Z W R Q) : rF h F A D L ns R Q h F A L ns := rF.sc K (cSc.re _ _ _)
theorem rO.back (e : rF h F A D L ns R Q h' F' A' L' ns') {out : ix_O} (o : rO h' F' A' D L' ns' Z W R Q σ out) : rO h F A D L ns Z W R Q σ out := by
  obtain ⟨h2, F2, A2, L2, n2, e2, k2, v2, f2⟩ := o
  exact ⟨h2, F2, A2, L2, n2, e2, k2, v2, e.trans f2⟩
/-- a method of the store did something -/
theorem rK.sto (K : rK h D L ns Z W R Q) (V : rV F A L ns R Q σ) {S' : zS} {r : Option ix_V} {o : ix_O} (po : cPo1 h F A (L 0) (ns 0) S' r o) (hy : zy S' = zy σ.1) :
    ∃ h' F' A' L' ns', o = some (.inl r, hw h' F' A') ∧ rK h' D L' ns' Z W R Q ∧ rV F' A' L' ns' R Q (S', σ.2) ∧ rF h F A D L ns R Q h' F' A' L' ns' := by
  obtain ⟨h', F', A', M, mr, e, hs', hn, ex, hV⟩ := po
  obtain ⟨g', cD, -, fr⟩ := K.1.sto (i := 0) (by omega) ex hs'
  have rf : rF h F A D L ns R Q h' F' A' (d_up L 0 M) (d_up ns 0 mr) := by
    obtain ⟨a1, a2, a3, a4, a5, a6⟩ := fr
    refine ⟨a1, a2, a3, a4, a5, cD, fun b hb h1 h2 => ?_⟩
    obtain ⟨c1, c2, c3, c4, c5, c6, c7, c8⟩ := a6 b hb h1 h2
    exact ⟨c1, c2, c3, c4, c5, c6, fun _ => c7, fun _ => c8⟩
  have eL : d_up L 0 M 0 0 = L 0 0 := fr.2.2.2.1 0 0 (by omega) (by omega)
  obtain ⟨k1, k2, k3, k4, k5⟩ := K.2.1
  obtain ⟨aR, aQ⟩ := K.2.2.1
  obtain ⟨r1, r2, r3, r4, -, -⟩ := rf.at aR
  obtain ⟨q1, q2, q3, q4, -, -⟩ := rf.at aQ
  have fR : F' R = F R := ex.2.2.2.2.2.2.2 R aR.1 (fun x hx => aR.2.2 0 x (by omega) hx) |>.1
  have fQ : A' Q = A Q := ex.2.2.2.2.2.2.2 Q aQ.1 (fun x hx => aQ.2.2 0 x (by omega) hx) |>.2
  obtain ⟨v1, v2, v3, v4, v5, v6, v7⟩ := V
  refine ⟨h', F', A', _, _, e, ⟨g', ⟨by rw [r1]; exact k1, by rw [r3, eL]; exact k2, by rw [r3]; exact k3, by rw [q1]; exact k4, by rw [q2]; exact k5⟩, ⟨aR.of rf, aQ.of rf⟩, fun b hb => ⟨(K.2.2.2.1 b hb).1.of rf, (K.2.2.2.1 b hb).2⟩, ?_⟩, ⟨by rw [d_up_same]; exact hV, by rw [d_up_same]; exact hn, by rw [fR]; exact v3, by rw [fR]; exact v4, by rw [fR, v5]; exact congrArg nI hy.symm, by rw [fQ]; exact v6, v7⟩, rf⟩
  rw [rf.1]
  exact K.2.2.2.2.of rf
/-- a term's value, by its cell -/
theorem r_term (K : rK h D L ns Z W R Q) (hI : i_I σ.1) (hN : 3000 ≤ N) (d : Nat) {a : Nat} {c : xC} (g : gSx h F W a c) (hc : c.length ≤ 400) (V : rV F A L ns R Q σ) :
    ∃ y F' A', (∀ f, ix_dsp (hw h F A) [ix_R (some a), ix_R (some R)] rTT f = f y [ix_R (some a), ix_R (some R)]) ∧ ix_run iy_P N (d + 407) y [ix_R (some a), ix_R (some R)] (hw h F A) = some (.inl (some (ix_I (r_val σ c))), hw h F' A') ∧ cSc (L 0) F A F' A' := by
  obtain ⟨y, v, F', A', e1, e2, q, r⟩ := r_termW K hI hN d 400 a c F A (g.deep hc) V
  have ev : r_val σ c = v := by
    have := r [] []
    rw [List.append_nil] at this
    unfold r_val
    rw [this]
    rfl
  rw [ev]
  exact ⟨y, F', A', e1, e2, q⟩
theorem r_keyOf (K : rK h D L ns Z W R Q) (hI : i_I σ.1) (hN : 3000 ≤ N) (d : Nat) {a : Nat} {c : xC} (g : gSx h F W a c) (hc : c.length ≤ 400) (V : rV F A L ns R Q σ) :
    ∃ F' A', ix_run iy_P N (d + 408) 121 [ix_R (some a), ix_R (some R)] (hw h F A) = some (.inl (some (ix_I (r_key (r_val σ c)))), hw h F' A') ∧ cSc (L 0) F A F' A' := by
  obtain ⟨y, F', A', e1, e2, q⟩ := r_term K hI hN d g hc V
  refine ⟨F', A', ?_, q⟩
  rw [rX10_keyOf N (d + 407)]
  unfold bX10_keyOf
  rw [e1, hw_cI e2]
  dsimp only
  rw [hw_cI (j_floorMod N (d + 406) _ _)]
theorem r_st (K : rK h D L ns Z W R Q) (F A : Nat → Nat → Int32) (f : Nat → ix_O) : (ix_isr (hw h F A) 5 (ix_fR (hw h F A) R 0)).bind f = f (L 0 0) := by
  rw [hw_fR, K.2.1.2.1]
  exact st_isr (K.1.2.1 0 (by omega)) F A f
/-- behind the hand that is taken up -/
theorem r_does35 (K : rK h D L ns Z W R Q) {a k : Nat} {cl : Int32} (hk : k < 4) (ta : ix_tg h a = 14) (f0 : F a 0 = nI k) (f2 : F a 2 = cl) (V : rV F A L ns R Q σ) (hI : i_I σ.1) (hN : 3000 ≤ N) (d : Nat) (KK : ix_K) (b : Bool) :
    rO h F A D L ns Z W R Q (if b = true ∧ cl ≠ nI 0 then (z_close 200 σ.1 k).2 else σ.1, σ.2) (jX15_does_35 (ix_run iy_P N (d + 12)) KK a (some R) (if b then nI 1 else nI 0) (hw h F A)) := by
  have no : rO h F A D L ns Z W R Q (σ.1, σ.2) (some (.inl none, hw h F A)) := ⟨h, F, A, L, ns, rfl, K, V, rF.refl K⟩
  unfold jX15_does_35 jX15_does_47
  cases b with
  | false =>
    rw [if_neg (fun q => absurd q.1 (by decide))]
    exact no
  | true =>
    rw [if_neg (show ¬ (if true = true then nI 1 else nI 0) = nI 0 by decide), c_is ta, hw_fI, f2]
    by_cases c : cl = nI 0
    · rw [if_pos c, if_neg (fun q => q.2 c)]
      exact no
    · rw [if_neg c, if_pos ⟨rfl, c⟩, c_is K.2.1.1, c_is ta, r_st K, f0]
      obtain ⟨h', F', A', L', ns', e, k', v', f'⟩ := K.sto V (c_closes hk (i_ckp hk) hN d hI (K.1.2.1 0 (by omega)) V.2.1 V.1) (by rw [(z_gr_close k 200 σ.1).yy])
      rw [hw_cI e]
      exact ⟨h', F', A', L', ns', rfl, k', v', f'⟩
/-- the hand is taken up -/
theorem r_does14 (K : rK h D L ns Z W R Q) {a k j : Nat} {cl key v : Int32} (hk : k < 4) (hj : j < 3) (ta : ix_tg h a = 14) (wa : W a) (f0 : F a 0 = nI k) (f1 : F a 1 = nI (j + 1)) (f2 : F a 2 = cl) (hkey : nI 0 ≤ key ∧ key < nI 1000) (V : rV F A L ns R Q σ) (hI : i_I σ.1) (hN : 3000 ≤ N) (d : Nat) (KK : ix_K) :
    rO h F A D L ns Z W R Q (if (z_take σ.1 k (nI (j + 1)) key v).1 = true ∧ cl ≠ nI 0 then (z_close 200 (z_take σ.1 k (nI (j + 1)) key v).2 k).2 else (z_take σ.1 k (nI (j + 1)) key v).2, if (z_take σ.1 k (nI (j + 1)) key v).1 = true ∧ j = 0 then key else σ.2.1, σ.2.2) (jX15_does_14 (ix_run iy_P N (d + 12)) KK a (some R) key v (hw h F A)) := by
  unfold jX15_does_14
  have ha : nI (j + 1) = nI 1 ∨ nI (j + 1) = nI 2 ∨ nI (j + 1) = nI 3 := by
    rcases (show j = 0 ∨ j = 1 ∨ j = 2 by omega) with w | w | w
    · exact .inl (by rw [w])
    · exact .inr (.inl (by rw [w]))
    · exact .inr (.inr (by rw [w]))
  have hT := i_I.take hI hk v ha hkey.1 hkey.2
  rw [c_is K.2.1.1, c_is ta, c_is ta, r_st K]
  simp only [hw_fI, f0, f1]
  obtain ⟨h', F', A', L', ns', e, k', v', f'⟩ := K.sto V (c_takesUp (K.1.2.1 0 (by omega)) V.2.1 hk V.1 hI.sz.2.2 N (d + 11) (nI (j + 1)) key v) (by rw [(z_gr_take _ _ _ _ _).yy])
  rw [hw_cI e]
  dsimp only
  obtain ⟨wk1, wk2, wk3⟩ := K.2.2.2.1 a wa
  obtain ⟨c1, -, -, -, c5, -⟩ := f'.at wk1
  have ta' : ix_tg h' a = 14 := by rw [c1]; exact ta
  have f0' : F' a 0 = nI k := by rw [c5 wk2]; exact f0
  have f1' : F' a 1 = nI (j + 1) := by rw [c5 wk2]; exact f1
  have f2' : F' a 2 = cl := by rw [c5 wk2]; exact f2
  generalize z_take σ.1 k (nI (j + 1)) key v = r at hT v' ⊢
  obtain ⟨b, S'⟩ := r
  dsimp only at hT v' ⊢
  cases b with
  | false =>
    rw [if_pos (show (if false = true then nI 1 else nI 0) = nI 0 by decide)]
    have o := r_does35 k' hk ta' f0' f2' v' hT hN d KK false
    rw [if_neg (fun q => absurd q.1 (by decide))] at o
    rw [if_neg (fun q => absurd q.1 (by decide)), if_neg (fun q => absurd q.1 (by decide))]
    exact o.back f'
  | true =>
    rw [if_neg (show ¬ (if true = true then nI 1 else nI 0) = nI 0 by decide), c_is ta', hw_fI, f1']
    by_cases c0 : j = 0
    · subst c0
      rw [if_pos rfl, c_is k'.2.1.1, hw_bdF]
      obtain ⟨u1, u2, u3, u4, u5, u6, u7⟩ := v'
      have hs := k'.1.2.1 0 (by omega)
      have aR := k'.2.2.1.1
      have V2 : rV (hw_R F' R (hw_U (F' R) 3 key)) A' L' ns' R Q (S', key, σ.2.2) := by
        refine ⟨cV1.cells u2 (fun x _ _ _ _ => hw_R_ne _ _ (k'.ne aR x).symm) (fun _ _ _ => rfl) u1, u2, ?_, ?_, ?_, u6, u7⟩
        · rw [hw_R_same, hw_U_ne _ _ (by omega)]
          exact u3
        · rw [hw_R_same, hw_U_same]
        · rw [hw_R_same, hw_U_ne _ _ (by omega)]
          exact u5
      have aR' : ∀ x, hw_R F' R (hw_U (F' R) 3 key) a x = F' a x := fun x => by rw [hw_R_ne _ _ wk2]
      have fr : rF h' F' A' D L' ns' R Q h' (hw_R F' R (hw_U (F' R) 3 key)) A' L' ns' := rF.num k' fun b _ => ⟨fun q => hw_R_ne _ _ q, fun _ => rfl⟩
      have o := r_does35 (cl := cl) (F := hw_R F' R (hw_U (F' R) 3 key)) k' hk ta' ((aR' 0).trans f0') ((aR' 2).trans f2') V2 hT hN d KK true
      rw [if_pos (show true = true ∧ 0 = 0 from ⟨rfl, rfl⟩)]
      exact (o.back fr).back f'
    · rw [if_neg (show ¬ nI (j + 1) = nI 1 by rw [hw_eq (by omega) (by omega)]; omega)]
      have o := r_does35 k' hk ta' f0' f2' v' hT hN d KK true
      rw [if_neg (show ¬ (true = true ∧ j = 0) from fun q => c0 q.2)]
      exact o.back f'
end
