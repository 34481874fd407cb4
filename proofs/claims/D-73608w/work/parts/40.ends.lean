/-! ENDS: returns and throws -/
section
variable {own nm : String} {cc : ByteArray} {nL : Nat} {ret : iy_T} {pc : Nat} {tg bt : Nat → Nat} {iy_cal : iy_E → Nat → ix_C → Prop}
theorem iy_end {d : Nat} {E : iy_E} {fin : iy_F} {v : Option ix_V} {h : ix_H} {l : ix_S} (hc : iy_cx own nm cc nL ret d E fin) (e : some (Sum.inl v, h) = some fin) (hr : iy_ro2 ret.1 v) (hd : decode cc pc = .ok (iy_ri v, 1)) : iy_sim E nL fin pc l v.toList h := by
  cases e
  exact ⟨⟨Nat.le_refl _, Nat.le_refl _⟩, fun H locs ls cells slots ho hl => hc.2.2.2.2.1 v rfl hr H locs ls cells slots pc ho hd⟩
theorem ok_ret (hr : ret.1 = none) (hd : decode cc pc = .ok (.return_, 1)) : iy_ok iy_cal own nm cc nL ret pc tg bt sx_ret := by
  intro d E fin hc cal nx bk hcal hn hbk l k h hs
  unfold sx_ret at hs
  split at hs
  · exact iy_end hc hs (by rw [hr]; trivial) hd
  · cases hs
theorem ok_iret {t : Nat} {ty : FieldType} (hr : ret.1 = some ty) (hty : iy_tn ty = some t) (hd : decode cc pc = .ok (.ireturn, 1)) : iy_ok iy_cal own nm cc nL ret pc tg bt (sx_iret t) := by
  intro d E fin hc cal nx bk hcal hn hbk l k h hs
  unfold sx_iret at hs
  split at hs
  · rename_i x
    cases hx : ix_okn t x with
    | false => rw [hx] at hs; cases hs
    | true =>
    rw [hx] at hs
    have h1 := (iy_okn hty hx).1
    exact iy_end hc hs (by rw [hr]; cases ty <;> exact h1) hd
  · cases hs
theorem ok_lret (hr : ret.1 = some .long) (hd : decode cc pc = .ok (.lreturn, 1)) : iy_ok iy_cal own nm cc nL ret pc tg bt sx_lret := by
  intro d E fin hc cal nx bk hcal hn hbk l k h hs
  unfold sx_lret at hs
  split at hs
  · exact iy_end hc hs (by rw [hr]; trivial) hd
  · cases hs
theorem ok_aret {ty : FieldType} (hr : ret.1 = some ty) (hty : iy_kR ty = true) (hd : decode cc pc = .ok (.areturn, 1)) : iy_ok iy_cal own nm cc nL ret pc tg bt sx_aret := by
  intro d E fin hc cal nx bk hcal hn hbk l k h hs
  unfold sx_aret at hs
  split at hs
  · refine iy_end hc hs ?_ hd
    rw [hr]
    cases ty <;> first | trivial | cases hty
  · cases hs
/-- no handler covers the place -/
def iy_nocov (ret : iy_T) (pc : Nat) : Prop := ∀ x ∈ tableOf ret.2, covers x pc = false
theorem ok_thr (hv : iy_nocov ret pc) (hd : decode cc pc = .ok (.athrow, 1)) : iy_ok iy_cal own nm cc nL ret pc tg bt (sx_thr 2) := by
  intro d E fin hc cal nx bk hcal hn hbk l k h hs
  unfold sx_thr at hs
  split at hs
  · obtain ⟨a, ha, h2⟩ := Option.bind_eq_some_iff.mp hs
    obtain ⟨rfl, htg⟩ := ix_is_spec ha
    cases h2
    exact ⟨⟨Nat.le_refl _, Nat.le_refl _⟩, fun H locs ls cells slots ho hl => vx_athrow hc.1.1 hc.1.2.1 hd (hc.2.2.2.2.2.1 a rfl htg H locs ls cells slots pc _ ho (by rw [hc.2.2.2.2.2.2]; exact hv))⟩
  · cases hs
variable {d : Nat} {E : iy_E} {fin : iy_F} {mi : iy_M} {cal : ix_C} {y idx n ci a L q : Nat} {Y : MethodName} {b : ByteArray} {r : Option FieldType} {rr : vw_C} {l : ix_S} {k as2 : List ix_V} {h h2 : ix_H}
/-- a call that throws q; goes on with q over the frame -/
theorem iy_callX (hc : iy_cx own nm cc nL ret d E fin) (hcal : iy_calls mi E d cal) (hm : mi y = (Y, ws_ Y b L r)) (hlk : iy_lk1 own idx Y b L r n) (hin : Cond.instanceMethod Y ∈ lw_all) (hsel : Cond.selects Y.cls Y Y ∈ lw_all) (hcl : iy_cl[ci]? = some rr) (hci : ci < 100) (hrc : rr.1 = Y.cls) (hro : iy_ro ci ≤ iy_n ci) (hd : decode cc pc = .ok (.invokevirtual idx, 3))
    (hlen : n + 1 ≤ k.length) (hcat : ix_cat (k.drop (n + 1)) ≤ 8) (has : (k.take (n + 1)).reverse = ix_R (some a) :: as2) (htg : ix_tg h a % 512 = ci + 1) (hr : cal y (ix_R (some a) :: as2) h = some (.inr q, h2)) (hM2 : ix_sz h2 ≤ ix_sz fin.2 ∧ ix_sl h2 ≤ ix_sl fin.2)
    (kk : ∀ (H1 : Heap) (locs1 : List Loc) (ls : Array Slot) (cells1 slots1 : Nat), iy_on E h2 H1 locs1 cells1 slots1 → lv_has ls nL (iy_ls l) → ix_tg h2 q = 2 →
      vx_W E.1.1 E.1.2.1 E.1.2.2.1 E.1.2.2.2 E.2.1.1 E.2.1.2.1 E.2.1.2.2.1 E.2.1.2.2.2 E.2.2.1.1 E.2.2.1.2 H1 locs1 cells1 slots1 E.2.2.2.2 (F0 E.2.1.2.1 pc ls ((k.drop (n + 1)).map iy_v)) q) : iy_sim E nL fin pc l k h := by
  have hM := hcal y _ h _ h2 hr
  rw [hm] at hM
  obtain ⟨e1, e2⟩ := iy_take hlen has
  obtain ⟨x1, x2, x3, x4, x5⟩ := hc.2.2.2.1
  obtain ⟨htq, hX⟩ := hM.2.2 q rfl
  have hmm := hM.1
  have hm1 := hM2.1
  have hm2 := hM2.2
  refine ⟨⟨by omega, by omega⟩, fun H locs ls cells slots ho hl => ?_⟩
  have ho1 := ho.2.2
  intro T hT X
  have hrun := vx_runV (own := own) (C := Y.cls) (b := a) (As := as2.map iy_v) (rest := (k.drop (n + 1)).map iy_v) (n := n) (Ts := lw_all) (nL := nL) (cc := cc) (cells := cells) (slots := slots) (locs := locs) (H := H) (g := F0 E.2.1.2.1 pc ls (k.map iy_v)) hc.1 hX (cwV n hc.1.2.2.2.2 (lw_V hlk.1 hin hsel hlk.2.1 hlk.2.2.1) rfl rfl rfl ⟨rfl, hlk.2.2.2.1⟩ ⟨by show d + 1 ≤ _; exact x4, by have := hlk.2.2.2.2; show 8 + (L + 11) + 64 * d ≤ _; omega⟩)
    ⟨iy_pc_blind, (by rw [← hrc]; exact iy_recv ho hc.2.2.1 hcl hci hro htg), iy_pc_at ho hc.2.2.1⟩ rfl e2 hl.1 e1 (lv_room (by rw [iy_cats]; exact hcat)) hd ⟨by omega, by omega⟩ T hT X
  rcases hrun with ⟨v, st₀, t, T', L2, h0, X', hL, e3, e4, hf, st⟩ | ⟨q2, st₀, t, T', L2, Ex, ce, h0, X', hL, e3, e4, ⟨rfl, rfl, hR, hF⟩, g1, g2, g3, st⟩
  · exact hf.elim
  · have hR2 : iy_Rep E.2.2.2.1.1 E.2.2.2.1.2.1 h2 E.2.1.1 T'.heap := by
      rw [e3]
      refine hR.moved ?_
      rw [← e4]
      exact X'.warmed.alike.symm
    have hS2 := (vx_keep (A0 := fun q => E.2.2.2.1.2.1 ≤ q) (A1 := fun q => E.2.2.2.1.2.1 ≤ q) (free := fun q => E.2.2.2.1.2.1 ≤ q) h0 e3 ho.2.1 (fun q _ z => z) (fun q z => z) hL hF).2.2
    obtain ⟨t2, a1, b1⟩ := kk T'.heap (locs ++ L2) ls _ _ ⟨hR2, hS2, by omega, by omega⟩ hl htq T' rfl X'
    exact ⟨t2, st.trans a1, b1⟩
end
section
variable {own nm : String} {cc : ByteArray} {nL : Nat} {ret : iy_T} {pc : Nat} {tg bt : Nat → Nat} {mi : iy_M} {y idx n ci ct L : Nat} {Y : MethodName} {b : ByteArray} {r : Option FieldType} {rr : vw_C}
theorem ok_cxI (hm : mi y = (Y, ws_ Y b L r)) (hlk : iy_lk1 own idx Y b L r n) (hin : Cond.instanceMethod Y ∈ lw_all) (hsel : Cond.selects Y.cls Y Y ∈ lw_all) (hcl : iy_cl[ci]? = some rr) (hci : ci < 100) (hro : iy_ro ci ≤ iy_n ci) (hct : ct = ci + 1) (hrc : rr.1 = Y.cls) (hd : decode cc pc = .ok (.invokevirtual idx, 3)) (ht : tg 0 = pc + 3) (hv : iy_nocov ret pc) : iy_ok (iy_calls mi) own nm cc nL ret pc tg bt (sx_cxI y (n + 1) ct) := by
  intro d E fin hc cal nx bk hcal hn hbk l k h hs
  obtain ⟨⟨hcat, hlen⟩, h1⟩ := ix_cut_spec hs
  obtain ⟨a, as2, has, htg, h2⟩ := ix_obj_spec h1
  rcases ix_xI_spec h2 with ⟨x, h3, h4, h5⟩ | ⟨q, h3, h4, h5⟩
  · have h6 := hn 0 _ _ _ h5
    rw [ht] at h6
    exact iy_callV (v := some (ix_I x)) hc hcal hm hlk hin hsel hcl hci hrc hro hd hlen hcat has (by rw [htg, hct]) h4 h6
  · cases h5
    exact iy_callX hc hcal hm hlk hin hsel hcl hci hrc hro hd hlen hcat has (by rw [htg, hct]) h4 ⟨Nat.le_refl _, Nat.le_refl _⟩ fun H1 locs1 ls c1 s1 ho hl htq => hc.2.2.2.2.2.1 q rfl htq H1 locs1 ls c1 s1 pc _ ho (by rw [hc.2.2.2.2.2.2]; exact hv)
theorem ok_cxR (hm : mi y = (Y, ws_ Y b L r)) (hlk : iy_lk1 own idx Y b L r n) (hin : Cond.instanceMethod Y ∈ lw_all) (hsel : Cond.selects Y.cls Y Y ∈ lw_all) (hcl : iy_cl[ci]? = some rr) (hci : ci < 100) (hro : iy_ro ci ≤ iy_n ci) (hct : ct = ci + 1) (hrc : rr.1 = Y.cls) (hd : decode cc pc = .ok (.invokevirtual idx, 3)) (ht : tg 0 = pc + 3) (hv : iy_nocov ret pc) : iy_ok (iy_calls mi) own nm cc nL ret pc tg bt (sx_cxR y (n + 1) ct) := by
  intro d E fin hc cal nx bk hcal hn hbk l k h hs
  obtain ⟨⟨hcat, hlen⟩, h1⟩ := ix_cut_spec hs
  obtain ⟨a, as2, has, htg, h2⟩ := ix_obj_spec h1
  rcases ix_xR_spec h2 with ⟨x, h3, h4, h5⟩ | ⟨q, h3, h4, h5⟩
  · have h6 := hn 0 _ _ _ h5
    rw [ht] at h6
    exact iy_callV (v := some (ix_R x)) hc hcal hm hlk hin hsel hcl hci hrc hro hd hlen hcat has (by rw [htg, hct]) h4 h6
  · cases h5
    exact iy_callX hc hcal hm hlk hin hsel hcl hci hrc hro hd hlen hcat has (by rw [htg, hct]) h4 ⟨Nat.le_refl _, Nat.le_refl _⟩ fun H1 locs1 ls c1 s1 ho hl htq => hc.2.2.2.2.2.1 q rfl htq H1 locs1 ls c1 s1 pc _ ho (by rw [hc.2.2.2.2.2.2]; exact hv)
theorem ok_cxV (hm : mi y = (Y, ws_ Y b L r)) (hlk : iy_lk1 own idx Y b L r n) (hin : Cond.instanceMethod Y ∈ lw_all) (hsel : Cond.selects Y.cls Y Y ∈ lw_all) (hcl : iy_cl[ci]? = some rr) (hci : ci < 100) (hro : iy_ro ci ≤ iy_n ci) (hct : ct = ci + 1) (hrc : rr.1 = Y.cls) (hd : decode cc pc = .ok (.invokevirtual idx, 3)) (ht : tg 0 = pc + 3) (hv : iy_nocov ret pc) : iy_ok (iy_calls mi) own nm cc nL ret pc tg bt (sx_cxV y (n + 1) ct) := by
  intro d E fin hc cal nx bk hcal hn hbk l k h hs
  obtain ⟨⟨hcat, hlen⟩, h1⟩ := ix_cut_spec hs
  obtain ⟨a, as2, has, htg, h2⟩ := ix_obj_spec h1
  rcases ix_xV_spec h2 with ⟨h3, h4, h5⟩ | ⟨q, h3, h4, h5⟩
  · have h6 := hn 0 _ _ _ h5
    rw [ht] at h6
    exact iy_callV (v := none) hc hcal hm hlk hin hsel hcl hci hrc hro hd hlen hcat has (by rw [htg, hct]) h4 h6
  · cases h5
    exact iy_callX hc hcal hm hlk hin hsel hcl hci hrc hro hd hlen hcat has (by rw [htg, hct]) h4 ⟨Nat.le_refl _, Nat.le_refl _⟩ fun H1 locs1 ls c1 s1 ho hl htq => hc.2.2.2.2.2.1 q rfl htq H1 locs1 ls c1 s1 pc _ ho (by rw [hc.2.2.2.2.2.2]; exact hv)
/-- caught by the method's one handler -/
theorem ok_chR {s : Nat} {x : ExceptionTableEntry} (hm : mi y = (Y, ws_ Y b L r)) (hlk : iy_lk1 own idx Y b L r n) (hin : Cond.instanceMethod Y ∈ lw_all) (hsel : Cond.selects Y.cls Y Y ∈ lw_all) (hcl : iy_cl[ci]? = some rr) (hci : ci < 100) (hro : iy_ro ci ≤ iy_n ci) (hct : ct = ci + 1) (hrc : rr.1 = Y.cls) (hd : decode cc pc = .ok (.invokevirtual idx, 3)) (ht : tg 0 = pc + 3) (htb : tableOf ret.2 = [x]) (hx : covers x pc = true) (hx0 : x.catchType ≠ 0) (hlink : Cond.classLink own x.catchType RX1 ∈ lw_all) (hcast : Cond.castable RX1 RX1 ∈ lw_tbl) (hh : tg s = x.handlerPc) : iy_ok (iy_calls mi) own nm cc nL ret pc tg bt (sx_chR y (n + 1) ct s) := by
  intro d E fin hc cal nx bk hcal hn hbk l k h hs
  obtain ⟨⟨hcat, hlen⟩, h1⟩ := ix_cut_spec hs
  obtain ⟨a, as2, has, htg, h2⟩ := ix_obj_spec h1
  rcases ix_xR_spec h2 with ⟨x9, h3, h4, h5⟩ | ⟨q, h3, h4, h5⟩
  · have h6 := hn 0 _ _ _ h5
    rw [ht] at h6
    exact iy_callV (v := some (ix_R x9)) hc hcal hm hlk hin hsel hcl hci hrc hro hd hlen hcat has (by rw [htg, hct]) h4 h6
  · have h6 := hn s _ _ _ h5
    rw [hh] at h6
    refine iy_callX hc hcal hm hlk hin hsel hcl hci hrc hro hd hlen hcat has (by rw [htg, hct]) h4 h6.1 fun H1 locs1 ls c1 s1 ho hl htq => ?_
    obtain ⟨cell, z1, z2, z3, z4, z5, z6⟩ := iy_ob_W ho.1 (c := 1) (by decide) htq
    have hcls : E.2.1.1.vm.findClass RX1 = some cell.cls := by
      rw [z2]
      exact (hc.2.2.1.1.1 1 _ rfl).2.1
    exact vx_catch hc.1.2.2.2.1 [] x [] (by rw [hc.2.2.2.2.2.2, htb]; rfl) (fun z hz => by cases hz) hx hx0 (hc.1.2.2.2.2 _ hlink) (va_Nw.use rfl (hc.2.2.1.2.2.1 _ hcast rfl)) z1 (z5 rfl) hcls (h6.2 H1 locs1 ls c1 s1 ho hl)
end
