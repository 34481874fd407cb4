/-! calls of methods that a superclass has; the private ones; the abstract ones -/
theorem iy_selP {s : State} {args : Array Value} {C : String} {Y Z : MethodName} (hZ : (Cond.selects C Z Z).before args s = true) (hcls : Z.cls = Y.cls) (hy : Y.cls ≠ "java/lang/invoke/MethodHandle" ∧ Y.cls ≠ "java/lang/invoke/VarHandle") (hpriv : (Cond.privateMethod Y).before args s = true) (hinst : (Cond.instanceMethod Y).before args s = true) : (Cond.selects C Y Y).before args s = true := by
  obtain ⟨c2, r2, m2, q1, q2, q3, q4, kP, hkP, hkPi⟩ := Cond.selects_spec hZ
  obtain ⟨mk, methM, hnamed, hmethM, -, -⟩ := Cond.instanceMethod_spec hinst
  have hfound : s.methodFound? Y.cls Y.name Y.desc = some mk := State.methodFound?_of_named hnamed hy
  have h1 := findClass_of_methodNamed hnamed
  have h2 := findClass_of_methodNamed q3
  rw [hcls] at h2
  have hcc : m2.cls = mk.cls := Option.some.inj (h2.symm.trans h1)
  rw [hcc] at hkP
  have hsel : selectMethod {} s.vm c2 mk = .method mk := selectMethod_private hmethM (Cond.privateMethod_at hpriv mk methM hnamed hmethM)
  simp only [Cond.before, Cond.holds, Cond.value, q1, hfound, hnamed, hsel, hkP]
  simp
  exact hkPi
section
variable {own nm : String} {cc : ByteArray} {nL : Nat} {ret : iy_T} {pc d : Nat} {E : iy_E} {fin : iy_F} {mi : iy_M} {cal : ix_C} {y idx n ci a L : Nat} {Y : MethodName} {b : ByteArray} {r : Option FieldType} {rr : vw_C} {l : ix_S} {k as2 : List ix_V} {h h2 : ix_H} {v : Option ix_V}
theorem iy_callU {X : MethodName} (hc : iy_cx own nm cc nL ret d E fin) (hcal : iy_calls mi E d cal) (hm : mi y = (Y, ws_ Y b L r)) (hml : Cond.methodLink own idx X ∈ lw_all) (hini : Cond.initialized Y.cls ∈ lw_all) (hcd : Cond.code Y b L r ∈ lw_all) (hnc : X.cls ≠ "java/lang/invoke/MethodHandle" ∧ X.cls ≠ "java/lang/invoke/VarHandle" ∧ (parseMethodDescriptor X.desc).map (fun d => d.parameters.length) = some n) (hL : L ≤ 45) (hin : Cond.instanceMethod Y ∈ lw_all)
    (hsm : Cond.sameMethod X.cls X.cls X.name X.desc ∈ lw_all) (hde : va_Decl E.2.1.1 X) (hsel : (Cond.selects rr.1 X Y).before E.2.1.2.2.1 E.2.1.1 = true) (hcl : iy_cl[ci]? = some rr) (hci : ci < 100) (hro : iy_ro ci ≤ iy_n ci) (hd : decode cc pc = .ok (.invokevirtual idx, 3))
    (hlen : n + 1 ≤ k.length) (hcat : ix_cat (k.drop (n + 1)) ≤ 8) (has : (k.take (n + 1)).reverse = ix_R (some a) :: as2) (htg : ix_tg h a % 512 = ci + 1) (hr : cal y (ix_R (some a) :: as2) h = some (.inl v, h2)) (hs : iy_sim E nL fin (pc + 3) l (v.toList ++ k.drop (n + 1)) h2) : iy_sim E nL fin pc l k h := by
  have hM := hcal y _ h _ h2 hr
  rw [hm] at hM
  obtain ⟨e1, e2⟩ := iy_take hlen has
  obtain ⟨x1, x2, x3, x4, x5⟩ := hc.2.2.2.1
  refine iy_back (len := 3) hM.1 hs fun H locs ls cells slots ho hl hcc hss => ⟨#[], fun T hT Z => ?_⟩
  have hts := hc.1.2.2.2.2
  refine va_runU (own := own) (owner := X.cls) (x := X) (C := rr.1) (b := a) (As := as2.map iy_v) (rest := (k.drop (n + 1)).map iy_v) (n := n) (Ts := lw_all) (nL := nL) (cc := cc) hc.1 (hM.2.1 v rfl)
    ⟨⟨rfl, rfl, by show d + 1 ≤ _; exact x4, by show 8 + (L + 11) + 64 * d ≤ _; omega, pay_in hts (lw_meth hcd), List.mem_cons_self⟩, hts _ hcd, hts _ hini, ⟨hnc.1, hnc.2.1⟩, fun sig hsig => ?_, hts _ hml, hts _ hsm, hde, hsel, hts _ hin⟩
    ⟨iy_pc_blind, iy_recv ho hc.2.2.1 hcl hci hro htg, iy_pc_at ho hc.2.2.1⟩ rfl e2 hl.1 e1 (lv_room (by rw [iy_cats]; exact hcat)) hd ⟨by omega, by omega⟩ T hT Z
  have h9 := hnc.2.2
  rw [hsig] at h9
  exact (Option.some.inj h9).symm
end
/-! THE CALL STEPS -/
section
variable {own nm : String} {cc : ByteArray} {nL : Nat} {ret : iy_T} {pc : Nat} {tg bt : Nat → Nat} {mi : iy_M} {y idx n ci ct L : Nat} {Y X : MethodName} {b : ByteArray} {r : Option FieldType} {rr : vw_C}
theorem ok_cvI (hm : mi y = (Y, ws_ Y b L r)) (hlk : iy_lk1 own idx Y b L r n) (hin : Cond.instanceMethod Y ∈ lw_all) (hsel : Cond.selects Y.cls Y Y ∈ lw_all) (hcl : iy_cl[ci]? = some rr) (hci : ci < 100) (hro : iy_ro ci ≤ iy_n ci) (hct : ct = ci + 1) (hrc : rr.1 = Y.cls) (hd : decode cc pc = .ok (.invokevirtual idx, 3)) (ht : tg 0 = pc + 3) : iy_ok (iy_calls mi) own nm cc nL ret pc tg bt (sx_cvI y (n + 1) ct) := by
  intro d E fin hc cal nx bk hcal hn hbk l k h hs
  obtain ⟨⟨hcat, hlen⟩, h1⟩ := ix_cut_spec hs
  obtain ⟨a, as2, has, htg, h2⟩ := ix_obj_spec h1
  obtain ⟨rr2, h3, h4⟩ := Option.bind_eq_some_iff.mp h2
  have h5 := hn 0 _ _ _ h4
  rw [ht] at h5
  exact iy_callV (v := some (ix_I rr2.1)) hc hcal hm hlk hin hsel hcl hci hrc hro hd hlen hcat has (by rw [htg, hct]) (ix_rI_spec h3) h5
theorem ok_cvL (hm : mi y = (Y, ws_ Y b L r)) (hlk : iy_lk1 own idx Y b L r n) (hin : Cond.instanceMethod Y ∈ lw_all) (hsel : Cond.selects Y.cls Y Y ∈ lw_all) (hcl : iy_cl[ci]? = some rr) (hci : ci < 100) (hro : iy_ro ci ≤ iy_n ci) (hct : ct = ci + 1) (hrc : rr.1 = Y.cls) (hd : decode cc pc = .ok (.invokevirtual idx, 3)) (ht : tg 0 = pc + 3) : iy_ok (iy_calls mi) own nm cc nL ret pc tg bt (sx_cvL y (n + 1) ct) := by
  intro d E fin hc cal nx bk hcal hn hbk l k h hs
  obtain ⟨⟨hcat, hlen⟩, h1⟩ := ix_cut_spec hs
  obtain ⟨a, as2, has, htg, h2⟩ := ix_obj_spec h1
  obtain ⟨rr2, h3, h4⟩ := Option.bind_eq_some_iff.mp h2
  have h5 := hn 0 _ _ _ h4
  rw [ht] at h5
  exact iy_callV (v := some (ix_L rr2.1)) hc hcal hm hlk hin hsel hcl hci hrc hro hd hlen hcat has (by rw [htg, hct]) (ix_rL_spec h3) h5
theorem ok_cvR (hm : mi y = (Y, ws_ Y b L r)) (hlk : iy_lk1 own idx Y b L r n) (hin : Cond.instanceMethod Y ∈ lw_all) (hsel : Cond.selects Y.cls Y Y ∈ lw_all) (hcl : iy_cl[ci]? = some rr) (hci : ci < 100) (hro : iy_ro ci ≤ iy_n ci) (hct : ct = ci + 1) (hrc : rr.1 = Y.cls) (hd : decode cc pc = .ok (.invokevirtual idx, 3)) (ht : tg 0 = pc + 3) : iy_ok (iy_calls mi) own nm cc nL ret pc tg bt (sx_cvR y (n + 1) ct) := by
  intro d E fin hc cal nx bk hcal hn hbk l k h hs
  obtain ⟨⟨hcat, hlen⟩, h1⟩ := ix_cut_spec hs
  obtain ⟨a, as2, has, htg, h2⟩ := ix_obj_spec h1
  obtain ⟨rr2, h3, h4⟩ := Option.bind_eq_some_iff.mp h2
  have h5 := hn 0 _ _ _ h4
  rw [ht] at h5
  exact iy_callV (v := some (ix_R rr2.1)) hc hcal hm hlk hin hsel hcl hci hrc hro hd hlen hcat has (by rw [htg, hct]) (ix_rR_spec h3) h5
theorem ok_cvV (hm : mi y = (Y, ws_ Y b L r)) (hlk : iy_lk1 own idx Y b L r n) (hin : Cond.instanceMethod Y ∈ lw_all) (hsel : Cond.selects Y.cls Y Y ∈ lw_all) (hcl : iy_cl[ci]? = some rr) (hci : ci < 100) (hro : iy_ro ci ≤ iy_n ci) (hct : ct = ci + 1) (hrc : rr.1 = Y.cls) (hd : decode cc pc = .ok (.invokevirtual idx, 3)) (ht : tg 0 = pc + 3) : iy_ok (iy_calls mi) own nm cc nL ret pc tg bt (sx_cvV y (n + 1) ct) := by
  intro d E fin hc cal nx bk hcal hn hbk l k h hs
  obtain ⟨⟨hcat, hlen⟩, h1⟩ := ix_cut_spec hs
  obtain ⟨a, as2, has, htg, h2⟩ := ix_obj_spec h1
  obtain ⟨rr2, h3, h4⟩ := Option.bind_eq_some_iff.mp h2
  have h5 := hn 0 _ _ _ h4
  rw [ht] at h5
  exact iy_callV (v := none) hc hcal hm hlk hin hsel hcl hci hrc hro hd hlen hcat has (by rw [htg, hct]) (ix_rV_spec h3) h5
theorem ok_csI (hm : mi y = (Y, ws_ Y b L r)) (hlk : iy_lk1 own idx Y b L r n) (hst : Cond.static Y ∈ lw_all) (hd : decode cc pc = .ok (.invokestatic idx, 3)) (ht : tg 0 = pc + 3) : iy_ok (iy_calls mi) own nm cc nL ret pc tg bt (sx_csI y n) := by
  intro d E fin hc cal nx bk hcal hn hbk l k h hs
  obtain ⟨⟨hcat, hlen⟩, h1⟩ := ix_cut_spec hs
  have h2 := h1
  obtain ⟨rr2, h3, h4⟩ := Option.bind_eq_some_iff.mp h2
  have h5 := hn 0 _ _ _ h4
  rw [ht] at h5
  exact iy_callS (v := some (ix_I rr2.1)) hc hcal hm hlk hst hd hlen hcat (ix_rI_spec h3) h5
theorem ok_csL (hm : mi y = (Y, ws_ Y b L r)) (hlk : iy_lk1 own idx Y b L r n) (hst : Cond.static Y ∈ lw_all) (hd : decode cc pc = .ok (.invokestatic idx, 3)) (ht : tg 0 = pc + 3) : iy_ok (iy_calls mi) own nm cc nL ret pc tg bt (sx_csL y n) := by
  intro d E fin hc cal nx bk hcal hn hbk l k h hs
  obtain ⟨⟨hcat, hlen⟩, h1⟩ := ix_cut_spec hs
  have h2 := h1
  obtain ⟨rr2, h3, h4⟩ := Option.bind_eq_some_iff.mp h2
  have h5 := hn 0 _ _ _ h4
  rw [ht] at h5
  exact iy_callS (v := some (ix_L rr2.1)) hc hcal hm hlk hst hd hlen hcat (ix_rL_spec h3) h5
theorem ok_csR (hm : mi y = (Y, ws_ Y b L r)) (hlk : iy_lk1 own idx Y b L r n) (hst : Cond.static Y ∈ lw_all) (hd : decode cc pc = .ok (.invokestatic idx, 3)) (ht : tg 0 = pc + 3) : iy_ok (iy_calls mi) own nm cc nL ret pc tg bt (sx_csR y n) := by
  intro d E fin hc cal nx bk hcal hn hbk l k h hs
  obtain ⟨⟨hcat, hlen⟩, h1⟩ := ix_cut_spec hs
  have h2 := h1
  obtain ⟨rr2, h3, h4⟩ := Option.bind_eq_some_iff.mp h2
  have h5 := hn 0 _ _ _ h4
  rw [ht] at h5
  exact iy_callS (v := some (ix_R rr2.1)) hc hcal hm hlk hst hd hlen hcat (ix_rR_spec h3) h5
theorem ok_csV (hm : mi y = (Y, ws_ Y b L r)) (hlk : iy_lk1 own idx Y b L r n) (hst : Cond.static Y ∈ lw_all) (hd : decode cc pc = .ok (.invokestatic idx, 3)) (ht : tg 0 = pc + 3) : iy_ok (iy_calls mi) own nm cc nL ret pc tg bt (sx_csV y n) := by
  intro d E fin hc cal nx bk hcal hn hbk l k h hs
  obtain ⟨⟨hcat, hlen⟩, h1⟩ := ix_cut_spec hs
  have h2 := h1
  obtain ⟨rr2, h3, h4⟩ := Option.bind_eq_some_iff.mp h2
  have h5 := hn 0 _ _ _ h4
  rw [ht] at h5
  exact iy_callS (v := none) hc hcal hm hlk hst hd hlen hcat (ix_rV_spec h3) h5
theorem ok_cpI (hm : mi y = (Y, ws_ Y b L r)) (hlk : iy_lk1 own idx Y b L r n) (hin : Cond.instanceMethod Y ∈ lw_all) (hsm : Cond.sameMethod Y.cls Y.cls Y.name Y.desc ∈ lw_all) (hsp : Cond.superclass own Y.cls ∈ lw_all) (hyn : Y.name ≠ "<init>") (hcl : iy_cl[ci]? = some rr) (hci : ci < 100) (hro : iy_ro ci ≤ iy_n ci) (hct : ct = ci + 1) (hd : decode cc pc = .ok (.invokespecial idx, 3)) (ht : tg 0 = pc + 3) : iy_ok (iy_calls mi) own nm cc nL ret pc tg bt (sx_cvI y (n + 1) ct) := by
  intro d E fin hc cal nx bk hcal hn hbk l k h hs
  obtain ⟨⟨hcat, hlen⟩, h1⟩ := ix_cut_spec hs
  obtain ⟨a, as2, has, htg, h2⟩ := ix_obj_spec h1
  obtain ⟨rr2, h3, h4⟩ := Option.bind_eq_some_iff.mp h2
  have h5 := hn 0 _ _ _ h4
  rw [ht] at h5
  exact iy_callSU (v := some (ix_I rr2.1)) hc hcal hm hlk hin hsm hsp hyn hcl hci hro hd hlen hcat has (by rw [htg, hct]) (ix_rI_spec h3) h5
theorem ok_cpL (hm : mi y = (Y, ws_ Y b L r)) (hlk : iy_lk1 own idx Y b L r n) (hin : Cond.instanceMethod Y ∈ lw_all) (hsm : Cond.sameMethod Y.cls Y.cls Y.name Y.desc ∈ lw_all) (hsp : Cond.superclass own Y.cls ∈ lw_all) (hyn : Y.name ≠ "<init>") (hcl : iy_cl[ci]? = some rr) (hci : ci < 100) (hro : iy_ro ci ≤ iy_n ci) (hct : ct = ci + 1) (hd : decode cc pc = .ok (.invokespecial idx, 3)) (ht : tg 0 = pc + 3) : iy_ok (iy_calls mi) own nm cc nL ret pc tg bt (sx_cvL y (n + 1) ct) := by
  intro d E fin hc cal nx bk hcal hn hbk l k h hs
  obtain ⟨⟨hcat, hlen⟩, h1⟩ := ix_cut_spec hs
  obtain ⟨a, as2, has, htg, h2⟩ := ix_obj_spec h1
  obtain ⟨rr2, h3, h4⟩ := Option.bind_eq_some_iff.mp h2
  have h5 := hn 0 _ _ _ h4
  rw [ht] at h5
  exact iy_callSU (v := some (ix_L rr2.1)) hc hcal hm hlk hin hsm hsp hyn hcl hci hro hd hlen hcat has (by rw [htg, hct]) (ix_rL_spec h3) h5
theorem ok_cpR (hm : mi y = (Y, ws_ Y b L r)) (hlk : iy_lk1 own idx Y b L r n) (hin : Cond.instanceMethod Y ∈ lw_all) (hsm : Cond.sameMethod Y.cls Y.cls Y.name Y.desc ∈ lw_all) (hsp : Cond.superclass own Y.cls ∈ lw_all) (hyn : Y.name ≠ "<init>") (hcl : iy_cl[ci]? = some rr) (hci : ci < 100) (hro : iy_ro ci ≤ iy_n ci) (hct : ct = ci + 1) (hd : decode cc pc = .ok (.invokespecial idx, 3)) (ht : tg 0 = pc + 3) : iy_ok (iy_calls mi) own nm cc nL ret pc tg bt (sx_cvR y (n + 1) ct) := by
  intro d E fin hc cal nx bk hcal hn hbk l k h hs
  obtain ⟨⟨hcat, hlen⟩, h1⟩ := ix_cut_spec hs
  obtain ⟨a, as2, has, htg, h2⟩ := ix_obj_spec h1
  obtain ⟨rr2, h3, h4⟩ := Option.bind_eq_some_iff.mp h2
  have h5 := hn 0 _ _ _ h4
  rw [ht] at h5
  exact iy_callSU (v := some (ix_R rr2.1)) hc hcal hm hlk hin hsm hsp hyn hcl hci hro hd hlen hcat has (by rw [htg, hct]) (ix_rR_spec h3) h5
theorem ok_cpV (hm : mi y = (Y, ws_ Y b L r)) (hlk : iy_lk1 own idx Y b L r n) (hin : Cond.instanceMethod Y ∈ lw_all) (hsm : Cond.sameMethod Y.cls Y.cls Y.name Y.desc ∈ lw_all) (hsp : Cond.superclass own Y.cls ∈ lw_all) (hyn : Y.name ≠ "<init>") (hcl : iy_cl[ci]? = some rr) (hci : ci < 100) (hro : iy_ro ci ≤ iy_n ci) (hct : ct = ci + 1) (hd : decode cc pc = .ok (.invokespecial idx, 3)) (ht : tg 0 = pc + 3) : iy_ok (iy_calls mi) own nm cc nL ret pc tg bt (sx_cvV y (n + 1) ct) := by
  intro d E fin hc cal nx bk hcal hn hbk l k h hs
  obtain ⟨⟨hcat, hlen⟩, h1⟩ := ix_cut_spec hs
  obtain ⟨a, as2, has, htg, h2⟩ := ix_obj_spec h1
  obtain ⟨rr2, h3, h4⟩ := Option.bind_eq_some_iff.mp h2
  have h5 := hn 0 _ _ _ h4
  rw [ht] at h5
  exact iy_callSU (v := none) hc hcal hm hlk hin hsm hsp hyn hcl hci hro hd hlen hcat has (by rw [htg, hct]) (ix_rV_spec h3) h5
theorem ok_cuI (hm : mi y = (Y, ws_ Y b L r)) (hml : Cond.methodLink own idx X ∈ lw_all) (hini : Cond.initialized Y.cls ∈ lw_all) (hcd : Cond.code Y b L r ∈ lw_all) (hnc : X.cls ≠ "java/lang/invoke/MethodHandle" ∧ X.cls ≠ "java/lang/invoke/VarHandle" ∧ (parseMethodDescriptor X.desc).map (fun d => d.parameters.length) = some n) (hL : L ≤ 45) (hin : Cond.instanceMethod Y ∈ lw_all) (hsm : Cond.sameMethod X.cls X.cls X.name X.desc ∈ lw_all) (hXY : X = Y) (hsel : Cond.selects rr.1 X Y ∈ lw_all) (hcl : iy_cl[ci]? = some rr) (hci : ci < 100) (hro : iy_ro ci ≤ iy_n ci) (hct : ct = ci + 1) (hd : decode cc pc = .ok (.invokevirtual idx, 3)) (ht : tg 0 = pc + 3) : iy_ok (iy_calls mi) own nm cc nL ret pc tg bt (sx_cvI y (n + 1) ct) := by
  intro d E fin hc cal nx bk hcal hn hbk l k h hs
  obtain ⟨⟨hcat, hlen⟩, h1⟩ := ix_cut_spec hs
  obtain ⟨a, as2, has, htg, h2⟩ := ix_obj_spec h1
  obtain ⟨rr2, h3, h4⟩ := Option.bind_eq_some_iff.mp h2
  have h5 := hn 0 _ _ _ h4
  rw [ht] at h5
  exact iy_callU (v := some (ix_I rr2.1)) hc hcal hm hml hini hcd hnc hL hin hsm (by subst hXY; exact va_Decl.of (hc.1.2.2.2.2 _ hin) (hc.1.2.2.2.2 _ hcd)) (hc.1.2.2.2.2 _ hsel) hcl hci hro hd hlen hcat has (by rw [htg, hct]) (ix_rI_spec h3) h5
theorem ok_ctI (hm : mi y = (Y, ws_ Y b L r)) (hml : Cond.methodLink own idx X ∈ lw_all) (hini : Cond.initialized Y.cls ∈ lw_all) (hcd : Cond.code Y b L r ∈ lw_all) (hnc : X.cls ≠ "java/lang/invoke/MethodHandle" ∧ X.cls ≠ "java/lang/invoke/VarHandle" ∧ (parseMethodDescriptor X.desc).map (fun d => d.parameters.length) = some n) (hL : L ≤ 45) (hin : Cond.instanceMethod Y ∈ lw_all) (hsm : Cond.sameMethod X.cls X.cls X.name X.desc ∈ lw_all) (hinX : Cond.instanceMethod X ∈ lw_all) {bX : ByteArray} {LX : Nat} {rX : Option FieldType} (hcdX : Cond.code X bX LX rX ∈ lw_all) (hsel : Cond.selects rr.1 X Y ∈ lw_all) (hcl : iy_cl[ci]? = some rr) (hci : ci < 100) (hro : iy_ro ci ≤ iy_n ci) (hct : ct = ci + 1) (hd : decode cc pc = .ok (.invokevirtual idx, 3)) (ht : tg 0 = pc + 3) : iy_ok (iy_calls mi) own nm cc nL ret pc tg bt (sx_cvI y (n + 1) ct) := by
  intro d E fin hc cal nx bk hcal hn hbk l k h hs
  obtain ⟨⟨hcat, hlen⟩, h1⟩ := ix_cut_spec hs
  obtain ⟨a, as2, has, htg, h2⟩ := ix_obj_spec h1
  obtain ⟨rr2, h3, h4⟩ := Option.bind_eq_some_iff.mp h2
  have h5 := hn 0 _ _ _ h4
  rw [ht] at h5
  exact iy_callU (v := some (ix_I rr2.1)) hc hcal hm hml hini hcd hnc hL hin hsm (va_Decl.of (hc.1.2.2.2.2 _ hinX) (hc.1.2.2.2.2 _ hcdX)) (hc.1.2.2.2.2 _ hsel) hcl hci hro hd hlen hcat has (by rw [htg, hct]) (ix_rI_spec h3) h5
theorem ok_cuL (hm : mi y = (Y, ws_ Y b L r)) (hml : Cond.methodLink own idx X ∈ lw_all) (hini : Cond.initialized Y.cls ∈ lw_all) (hcd : Cond.code Y b L r ∈ lw_all) (hnc : X.cls ≠ "java/lang/invoke/MethodHandle" ∧ X.cls ≠ "java/lang/invoke/VarHandle" ∧ (parseMethodDescriptor X.desc).map (fun d => d.parameters.length) = some n) (hL : L ≤ 45) (hin : Cond.instanceMethod Y ∈ lw_all) (hsm : Cond.sameMethod X.cls X.cls X.name X.desc ∈ lw_all) (hXY : X = Y) (hsel : Cond.selects rr.1 X Y ∈ lw_all) (hcl : iy_cl[ci]? = some rr) (hci : ci < 100) (hro : iy_ro ci ≤ iy_n ci) (hct : ct = ci + 1) (hd : decode cc pc = .ok (.invokevirtual idx, 3)) (ht : tg 0 = pc + 3) : iy_ok (iy_calls mi) own nm cc nL ret pc tg bt (sx_cvL y (n + 1) ct) := by
  intro d E fin hc cal nx bk hcal hn hbk l k h hs
  obtain ⟨⟨hcat, hlen⟩, h1⟩ := ix_cut_spec hs
  obtain ⟨a, as2, has, htg, h2⟩ := ix_obj_spec h1
  obtain ⟨rr2, h3, h4⟩ := Option.bind_eq_some_iff.mp h2
  have h5 := hn 0 _ _ _ h4
  rw [ht] at h5
  exact iy_callU (v := some (ix_L rr2.1)) hc hcal hm hml hini hcd hnc hL hin hsm (by subst hXY; exact va_Decl.of (hc.1.2.2.2.2 _ hin) (hc.1.2.2.2.2 _ hcd)) (hc.1.2.2.2.2 _ hsel) hcl hci hro hd hlen hcat has (by rw [htg, hct]) (ix_rL_spec h3) h5
theorem ok_cuR (hm : mi y = (Y, ws_ Y b L r)) (hml : Cond.methodLink own idx X ∈ lw_all) (hini : Cond.initialized Y.cls ∈ lw_all) (hcd : Cond.code Y b L r ∈ lw_all) (hnc : X.cls ≠ "java/lang/invoke/MethodHandle" ∧ X.cls ≠ "java/lang/invoke/VarHandle" ∧ (parseMethodDescriptor X.desc).map (fun d => d.parameters.length) = some n) (hL : L ≤ 45) (hin : Cond.instanceMethod Y ∈ lw_all) (hsm : Cond.sameMethod X.cls X.cls X.name X.desc ∈ lw_all) (hXY : X = Y) (hsel : Cond.selects rr.1 X Y ∈ lw_all) (hcl : iy_cl[ci]? = some rr) (hci : ci < 100) (hro : iy_ro ci ≤ iy_n ci) (hct : ct = ci + 1) (hd : decode cc pc = .ok (.invokevirtual idx, 3)) (ht : tg 0 = pc + 3) : iy_ok (iy_calls mi) own nm cc nL ret pc tg bt (sx_cvR y (n + 1) ct) := by
  intro d E fin hc cal nx bk hcal hn hbk l k h hs
  obtain ⟨⟨hcat, hlen⟩, h1⟩ := ix_cut_spec hs
  obtain ⟨a, as2, has, htg, h2⟩ := ix_obj_spec h1
  obtain ⟨rr2, h3, h4⟩ := Option.bind_eq_some_iff.mp h2
  have h5 := hn 0 _ _ _ h4
  rw [ht] at h5
  exact iy_callU (v := some (ix_R rr2.1)) hc hcal hm hml hini hcd hnc hL hin hsm (by subst hXY; exact va_Decl.of (hc.1.2.2.2.2 _ hin) (hc.1.2.2.2.2 _ hcd)) (hc.1.2.2.2.2 _ hsel) hcl hci hro hd hlen hcat has (by rw [htg, hct]) (ix_rR_spec h3) h5
theorem ok_cuV (hm : mi y = (Y, ws_ Y b L r)) (hml : Cond.methodLink own idx X ∈ lw_all) (hini : Cond.initialized Y.cls ∈ lw_all) (hcd : Cond.code Y b L r ∈ lw_all) (hnc : X.cls ≠ "java/lang/invoke/MethodHandle" ∧ X.cls ≠ "java/lang/invoke/VarHandle" ∧ (parseMethodDescriptor X.desc).map (fun d => d.parameters.length) = some n) (hL : L ≤ 45) (hin : Cond.instanceMethod Y ∈ lw_all) (hsm : Cond.sameMethod X.cls X.cls X.name X.desc ∈ lw_all) (hXY : X = Y) (hsel : Cond.selects rr.1 X Y ∈ lw_all) (hcl : iy_cl[ci]? = some rr) (hci : ci < 100) (hro : iy_ro ci ≤ iy_n ci) (hct : ct = ci + 1) (hd : decode cc pc = .ok (.invokevirtual idx, 3)) (ht : tg 0 = pc + 3) : iy_ok (iy_calls mi) own nm cc nL ret pc tg bt (sx_cvV y (n + 1) ct) := by
  intro d E fin hc cal nx bk hcal hn hbk l k h hs
  obtain ⟨⟨hcat, hlen⟩, h1⟩ := ix_cut_spec hs
  obtain ⟨a, as2, has, htg, h2⟩ := ix_obj_spec h1
  obtain ⟨rr2, h3, h4⟩ := Option.bind_eq_some_iff.mp h2
  have h5 := hn 0 _ _ _ h4
  rw [ht] at h5
  exact iy_callU (v := none) hc hcal hm hml hini hcd hnc hL hin hsm (by subst hXY; exact va_Decl.of (hc.1.2.2.2.2 _ hin) (hc.1.2.2.2.2 _ hcd)) (hc.1.2.2.2.2 _ hsel) hcl hci hro hd hlen hcat has (by rw [htg, hct]) (ix_rV_spec h3) h5
theorem ok_ctV (hm : mi y = (Y, ws_ Y b L r)) (hml : Cond.methodLink own idx X ∈ lw_all) (hini : Cond.initialized Y.cls ∈ lw_all) (hcd : Cond.code Y b L r ∈ lw_all) (hnc : X.cls ≠ "java/lang/invoke/MethodHandle" ∧ X.cls ≠ "java/lang/invoke/VarHandle" ∧ (parseMethodDescriptor X.desc).map (fun d => d.parameters.length) = some n) (hL : L ≤ 45) (hin : Cond.instanceMethod Y ∈ lw_all) (hsm : Cond.sameMethod X.cls X.cls X.name X.desc ∈ lw_all) (hinX : Cond.instanceMethod X ∈ lw_all) {bX : ByteArray} {LX : Nat} {rX : Option FieldType} (hcdX : Cond.code X bX LX rX ∈ lw_all) (hsel : Cond.selects rr.1 X Y ∈ lw_all) (hcl : iy_cl[ci]? = some rr) (hci : ci < 100) (hro : iy_ro ci ≤ iy_n ci) (hct : ct = ci + 1) (hd : decode cc pc = .ok (.invokevirtual idx, 3)) (ht : tg 0 = pc + 3) : iy_ok (iy_calls mi) own nm cc nL ret pc tg bt (sx_cvV y (n + 1) ct) := by
  intro d E fin hc cal nx bk hcal hn hbk l k h hs
  obtain ⟨⟨hcat, hlen⟩, h1⟩ := ix_cut_spec hs
  obtain ⟨a, as2, has, htg, h2⟩ := ix_obj_spec h1
  obtain ⟨rr2, h3, h4⟩ := Option.bind_eq_some_iff.mp h2
  have h5 := hn 0 _ _ _ h4
  rw [ht] at h5
  exact iy_callU (v := none) hc hcal hm hml hini hcd hnc hL hin hsm (va_Decl.of (hc.1.2.2.2.2 _ hinX) (hc.1.2.2.2.2 _ hcdX)) (hc.1.2.2.2.2 _ hsel) hcl hci hro hd hlen hcat has (by rw [htg, hct]) (ix_rV_spec h3) h5
theorem ok_cqI (hm : mi y = (Y, ws_ Y b L r)) (hml : Cond.methodLink own idx Y ∈ lw_all) (hini : Cond.initialized Y.cls ∈ lw_all) (hcd : Cond.code Y b L r ∈ lw_all) (hnc : Y.cls ≠ "java/lang/invoke/MethodHandle" ∧ Y.cls ≠ "java/lang/invoke/VarHandle" ∧ (parseMethodDescriptor Y.desc).map (fun d => d.parameters.length) = some n) (hL : L ≤ 45) (hin : Cond.instanceMethod Y ∈ lw_all) (hsm : Cond.sameMethod Y.cls Y.cls Y.name Y.desc ∈ lw_all) {Z : MethodName} (hselZ : Cond.selects rr.1 Z Z ∈ lw_all) (hZ : Z.cls = Y.cls) (hpr : Cond.privateMethod Y ∈ lw_tbl) (hcl : iy_cl[ci]? = some rr) (hci : ci < 100) (hro : iy_ro ci ≤ iy_n ci) (hct : ct = ci + 1) (hd : decode cc pc = .ok (.invokevirtual idx, 3)) (ht : tg 0 = pc + 3) : iy_ok (iy_calls mi) own nm cc nL ret pc tg bt (sx_cvI y (n + 1) ct) := by
  intro d E fin hc cal nx bk hcal hn hbk l k h hs
  obtain ⟨⟨hcat, hlen⟩, h1⟩ := ix_cut_spec hs
  obtain ⟨a, as2, has, htg, h2⟩ := ix_obj_spec h1
  obtain ⟨rr2, h3, h4⟩ := Option.bind_eq_some_iff.mp h2
  have h5 := hn 0 _ _ _ h4
  rw [ht] at h5
  exact iy_callU (v := some (ix_I rr2.1)) (X := Y) hc hcal hm hml hini hcd hnc hL hin hsm (va_Decl.of (hc.1.2.2.2.2 _ hin) (hc.1.2.2.2.2 _ hcd)) (iy_selP (hc.1.2.2.2.2 _ hselZ) hZ ⟨hnc.1, hnc.2.1⟩ (va_Nw.use rfl (hc.2.2.1.2.2.1 _ hpr rfl)) (hc.1.2.2.2.2 _ hin)) hcl hci hro hd hlen hcat has (by rw [htg, hct]) (ix_rI_spec h3) h5
theorem ok_cqL (hm : mi y = (Y, ws_ Y b L r)) (hml : Cond.methodLink own idx Y ∈ lw_all) (hini : Cond.initialized Y.cls ∈ lw_all) (hcd : Cond.code Y b L r ∈ lw_all) (hnc : Y.cls ≠ "java/lang/invoke/MethodHandle" ∧ Y.cls ≠ "java/lang/invoke/VarHandle" ∧ (parseMethodDescriptor Y.desc).map (fun d => d.parameters.length) = some n) (hL : L ≤ 45) (hin : Cond.instanceMethod Y ∈ lw_all) (hsm : Cond.sameMethod Y.cls Y.cls Y.name Y.desc ∈ lw_all) {Z : MethodName} (hselZ : Cond.selects rr.1 Z Z ∈ lw_all) (hZ : Z.cls = Y.cls) (hpr : Cond.privateMethod Y ∈ lw_tbl) (hcl : iy_cl[ci]? = some rr) (hci : ci < 100) (hro : iy_ro ci ≤ iy_n ci) (hct : ct = ci + 1) (hd : decode cc pc = .ok (.invokevirtual idx, 3)) (ht : tg 0 = pc + 3) : iy_ok (iy_calls mi) own nm cc nL ret pc tg bt (sx_cvL y (n + 1) ct) := by
  intro d E fin hc cal nx bk hcal hn hbk l k h hs
  obtain ⟨⟨hcat, hlen⟩, h1⟩ := ix_cut_spec hs
  obtain ⟨a, as2, has, htg, h2⟩ := ix_obj_spec h1
  obtain ⟨rr2, h3, h4⟩ := Option.bind_eq_some_iff.mp h2
  have h5 := hn 0 _ _ _ h4
  rw [ht] at h5
  exact iy_callU (v := some (ix_L rr2.1)) (X := Y) hc hcal hm hml hini hcd hnc hL hin hsm (va_Decl.of (hc.1.2.2.2.2 _ hin) (hc.1.2.2.2.2 _ hcd)) (iy_selP (hc.1.2.2.2.2 _ hselZ) hZ ⟨hnc.1, hnc.2.1⟩ (va_Nw.use rfl (hc.2.2.1.2.2.1 _ hpr rfl)) (hc.1.2.2.2.2 _ hin)) hcl hci hro hd hlen hcat has (by rw [htg, hct]) (ix_rL_spec h3) h5
theorem ok_cqR (hm : mi y = (Y, ws_ Y b L r)) (hml : Cond.methodLink own idx Y ∈ lw_all) (hini : Cond.initialized Y.cls ∈ lw_all) (hcd : Cond.code Y b L r ∈ lw_all) (hnc : Y.cls ≠ "java/lang/invoke/MethodHandle" ∧ Y.cls ≠ "java/lang/invoke/VarHandle" ∧ (parseMethodDescriptor Y.desc).map (fun d => d.parameters.length) = some n) (hL : L ≤ 45) (hin : Cond.instanceMethod Y ∈ lw_all) (hsm : Cond.sameMethod Y.cls Y.cls Y.name Y.desc ∈ lw_all) {Z : MethodName} (hselZ : Cond.selects rr.1 Z Z ∈ lw_all) (hZ : Z.cls = Y.cls) (hpr : Cond.privateMethod Y ∈ lw_tbl) (hcl : iy_cl[ci]? = some rr) (hci : ci < 100) (hro : iy_ro ci ≤ iy_n ci) (hct : ct = ci + 1) (hd : decode cc pc = .ok (.invokevirtual idx, 3)) (ht : tg 0 = pc + 3) : iy_ok (iy_calls mi) own nm cc nL ret pc tg bt (sx_cvR y (n + 1) ct) := by
  intro d E fin hc cal nx bk hcal hn hbk l k h hs
  obtain ⟨⟨hcat, hlen⟩, h1⟩ := ix_cut_spec hs
  obtain ⟨a, as2, has, htg, h2⟩ := ix_obj_spec h1
  obtain ⟨rr2, h3, h4⟩ := Option.bind_eq_some_iff.mp h2
  have h5 := hn 0 _ _ _ h4
  rw [ht] at h5
  exact iy_callU (v := some (ix_R rr2.1)) (X := Y) hc hcal hm hml hini hcd hnc hL hin hsm (va_Decl.of (hc.1.2.2.2.2 _ hin) (hc.1.2.2.2.2 _ hcd)) (iy_selP (hc.1.2.2.2.2 _ hselZ) hZ ⟨hnc.1, hnc.2.1⟩ (va_Nw.use rfl (hc.2.2.1.2.2.1 _ hpr rfl)) (hc.1.2.2.2.2 _ hin)) hcl hci hro hd hlen hcat has (by rw [htg, hct]) (ix_rR_spec h3) h5
theorem ok_cqV (hm : mi y = (Y, ws_ Y b L r)) (hml : Cond.methodLink own idx Y ∈ lw_all) (hini : Cond.initialized Y.cls ∈ lw_all) (hcd : Cond.code Y b L r ∈ lw_all) (hnc : Y.cls ≠ "java/lang/invoke/MethodHandle" ∧ Y.cls ≠ "java/lang/invoke/VarHandle" ∧ (parseMethodDescriptor Y.desc).map (fun d => d.parameters.length) = some n) (hL : L ≤ 45) (hin : Cond.instanceMethod Y ∈ lw_all) (hsm : Cond.sameMethod Y.cls Y.cls Y.name Y.desc ∈ lw_all) {Z : MethodName} (hselZ : Cond.selects rr.1 Z Z ∈ lw_all) (hZ : Z.cls = Y.cls) (hpr : Cond.privateMethod Y ∈ lw_tbl) (hcl : iy_cl[ci]? = some rr) (hci : ci < 100) (hro : iy_ro ci ≤ iy_n ci) (hct : ct = ci + 1) (hd : decode cc pc = .ok (.invokevirtual idx, 3)) (ht : tg 0 = pc + 3) : iy_ok (iy_calls mi) own nm cc nL ret pc tg bt (sx_cvV y (n + 1) ct) := by
  intro d E fin hc cal nx bk hcal hn hbk l k h hs
  obtain ⟨⟨hcat, hlen⟩, h1⟩ := ix_cut_spec hs
  obtain ⟨a, as2, has, htg, h2⟩ := ix_obj_spec h1
  obtain ⟨rr2, h3, h4⟩ := Option.bind_eq_some_iff.mp h2
  have h5 := hn 0 _ _ _ h4
  rw [ht] at h5
  exact iy_callU (v := none) (X := Y) hc hcal hm hml hini hcd hnc hL hin hsm (va_Decl.of (hc.1.2.2.2.2 _ hin) (hc.1.2.2.2.2 _ hcd)) (iy_selP (hc.1.2.2.2.2 _ hselZ) hZ ⟨hnc.1, hnc.2.1⟩ (va_Nw.use rfl (hc.2.2.1.2.2.1 _ hpr rfl)) (hc.1.2.2.2.2 _ hin)) hcl hci hro hd hlen hcat has (by rw [htg, hct]) (ix_rV_spec h3) h5
/-- a method with a table of its own -/
theorem ok_cwI {hh : List (Nat × Nat × Nat × Nat)} (hm : mi y = (Y, wsW_ Y b L r hh)) (hml : Cond.methodLink own idx Y ∈ lw_all) (hini : Cond.initialized Y.cls ∈ lw_all) (hcd : Cond.codeWith Y b L r hh ∈ lw_all) (hnc : Y.cls ≠ "java/lang/invoke/MethodHandle" ∧ Y.cls ≠ "java/lang/invoke/VarHandle" ∧ (parseMethodDescriptor Y.desc).map (fun d => d.parameters.length) = some n) (hL : L ≤ 45) (hin : Cond.instanceMethod Y ∈ lw_all) (hsel : Cond.selects Y.cls Y Y ∈ lw_all) (hcl : iy_cl[ci]? = some rr) (hci : ci < 100) (hro : iy_ro ci ≤ iy_n ci) (hct : ct = ci + 1) (hrc : rr.1 = Y.cls) (hd : decode cc pc = .ok (.invokevirtual idx, 3)) (ht : tg 0 = pc + 3) : iy_ok (iy_calls mi) own nm cc nL ret pc tg bt (sx_cvI y (n + 1) ct) := by
  intro d E fin hc cal nx bk hcal hn hbk l k h hs
  obtain ⟨⟨hcat, hlen⟩, h1⟩ := ix_cut_spec hs
  obtain ⟨a, as2, has, htg, h2⟩ := ix_obj_spec h1
  obtain ⟨rr2, h3, h4⟩ := Option.bind_eq_some_iff.mp h2
  have h5 := hn 0 _ _ _ h4
  rw [ht] at h5
  have hM := hcal y _ h _ _ (ix_rI_spec h3)
  rw [hm] at hM
  obtain ⟨e1, e2⟩ := iy_take hlen has
  obtain ⟨x1, x2, x3, x4, x5⟩ := hc.2.2.2.1
  refine iy_back (len := 3) (v := some (ix_I rr2.1)) (k := k.drop (n + 1)) hM.1 h5 fun H locs ls cells slots ho hl hcc hss => ⟨#[], fun T hT X => ?_⟩
  refine vx_runVW (own := own) (C := Y.cls) (b := a) (As := as2.map iy_v) (rest := (k.drop (n + 1)).map iy_v) (n := n) (Ts := lw_all) (nL := nL) (cc := cc) hc.1 (hM.2.1 _ rfl) (vx_cwVW n hc.1.2.2.2.2 (lw_app ?_ (lw_methW hcd)) rfl rfl rfl ⟨rfl, hnc⟩ ⟨by show d + 1 ≤ _; exact x4, by show 8 + (L + 11) + 64 * d ≤ _; omega⟩)
    ⟨iy_pc_blind, (by rw [← hrc]; exact iy_recv ho hc.2.2.1 hcl hci hro (by rw [htg, hct])), iy_pc_at ho hc.2.2.1⟩ rfl e2 hl.1 e1 (lv_room (by rw [iy_cats]; exact hcat)) hd ⟨by omega, by omega⟩ T hT X
  intro w hw
  simp only [List.mem_cons, List.not_mem_nil, or_false] at hw
  rcases hw with e | e | e | e
  · rw [e]; exact hml
  · rw [e]; exact hin
  · rw [e]; exact hsel
  · rw [e]; exact hini
theorem ok_ci (hm : mi y = (Y, ws_ Y b L none)) (hlk : iy_lk1 own idx Y b L none n) (hin : Cond.instanceMethod Y ∈ lw_all) (hyn : Y.name = "<init>") (hd : decode cc pc = .ok (.invokespecial idx, 3)) (ht : tg 0 = pc + 3) : iy_ok (iy_calls mi) own nm cc nL ret pc tg bt (sx_cvV y (n + 1) ct) := by
  intro d E fin hc cal nx bk hcal hn hbk l k h hs
  obtain ⟨⟨hcat, hlen⟩, h1⟩ := ix_cut_spec hs
  obtain ⟨a, as2, has, htg, h2⟩ := ix_obj_spec h1
  obtain ⟨rr2, h3, h4⟩ := Option.bind_eq_some_iff.mp h2
  have h5 := hn 0 _ _ _ h4
  rw [ht] at h5
  exact iy_callI (v := none) hc hcal hm hlk hin hyn hd hlen hcat has (ix_rV_spec h3) h5
theorem ok_cn {host : String} (hm : mi y = (Y, ws_ Y b L none)) (hnl : Cond.methodLinkNest own idx Y host ∈ lw_tbl) (hini : Cond.initialized Y.cls ∈ lw_all) (hcd : Cond.code Y b L none ∈ lw_all) (hnc : Y.cls ≠ "java/lang/invoke/MethodHandle" ∧ Y.cls ≠ "java/lang/invoke/VarHandle" ∧ (parseMethodDescriptor Y.desc).map (fun d => d.parameters.length) = some n) (hL : L ≤ 45) (hin : Cond.instanceMethod Y ∈ lw_all) (hyn : Y.name = "<init>") (hd : decode cc pc = .ok (.invokespecial idx, 3)) (ht : tg 0 = pc + 3) : iy_ok (iy_calls mi) own nm cc nL ret pc tg bt (sx_cvV y (n + 1) ct) := by
  intro d E fin hc cal nx bk hcal hn hbk l k h hs
  obtain ⟨⟨hcat, hlen⟩, h1⟩ := ix_cut_spec hs
  obtain ⟨a, as2, has, htg, h2⟩ := ix_obj_spec h1
  obtain ⟨rr2, h3, h4⟩ := Option.bind_eq_some_iff.mp h2
  have h5 := hn 0 _ _ _ h4
  rw [ht] at h5
  exact iy_callN (v := none) hc hcal hm hnl hini hcd hnc hL hin hyn hd hlen hcat has (ix_rV_spec h3) h5
theorem ix_dsp_spec {h : ix_H} {as : List ix_V} {t : List (Nat × Nat)} {f : Nat → List ix_V → ix_O} {fin : iy_F} (e : ix_dsp h as t f = some fin) : ∃ a as2 q, as = ix_R (some a) :: as2 ∧ q ∈ t ∧ ix_tg h a = q.1 ∧ f q.2 (ix_R (some a) :: as2) = some fin := by
  unfold ix_dsp at e
  split at e
  · rename_i a as2
    split at e
    · rename_i q hq
      have h1 := List.find?_some hq
      exact ⟨a, as2, q, rfl, List.mem_of_find?_eq_some hq, (Nat.eq_of_beq_eq_true h1).symm, e⟩
    · cases e
  · cases e
/-- one row of a dispatch over an abstract method X: its tag, its method -/
def iy_absrow (mi : iy_M) (X : MethodName) (q : Nat × Nat) : Prop := ∃ (ci L : Nat) (rr : vw_C) (Y : MethodName) (b : ByteArray) (r : Option FieldType), q.1 = ci + 1 ∧ iy_cl[ci]? = some rr ∧ ci < 100 ∧ iy_ro ci ≤ iy_n ci ∧ mi q.2 = (Y, ws_ Y b L r) ∧ Cond.initialized Y.cls ∈ lw_all ∧ Cond.code Y b L r ∈ lw_all ∧ L ≤ 45 ∧ Cond.instanceMethod Y ∈ lw_all ∧ Cond.selects rr.1 X Y ∈ lw_all
theorem ok_cdI {t : List (Nat × Nat)} (hml : Cond.methodLink own idx X ∈ lw_all) (hnc : X.cls ≠ "java/lang/invoke/MethodHandle" ∧ X.cls ≠ "java/lang/invoke/VarHandle" ∧ (parseMethodDescriptor X.desc).map (fun d => d.parameters.length) = some n) (hsm : Cond.sameMethod X.cls X.cls X.name X.desc ∈ lw_all) (hde : Cond.declares X ∈ lw_tbl) (hrow : ∀ q ∈ t, iy_absrow mi X q) (hd : decode cc pc = .ok (.invokevirtual idx, 3)) (ht : tg 0 = pc + 3) : iy_ok (iy_calls mi) own nm cc nL ret pc tg bt (sx_cdI t (n + 1)) := by
  intro d E fin hc cal nx bk hcal hn hbk l k h hs
  obtain ⟨⟨hcat, hlen⟩, h1⟩ := ix_cut_spec hs
  obtain ⟨a, as2, q, has, hq, htg, h2⟩ := ix_dsp_spec h1
  obtain ⟨rr2, h3, h4⟩ := Option.bind_eq_some_iff.mp h2
  have h5 := hn 0 _ _ _ h4
  rw [ht] at h5
  obtain ⟨ci, L, rr, Y, b, r, z1, z2, z3, z4, z5, z6, z7, z8, z9, z10⟩ := hrow q hq
  exact iy_callU (v := some (ix_I rr2.1)) hc hcal z5 hml z6 z7 hnc z8 z9 hsm (va_Decl.abs (hc.2.2.1.2.2.1 _ hde rfl)) (hc.1.2.2.2.2 _ z10) z2 z3 z4 hd hlen hcat has (by rw [htg, z1]; omega) (ix_rI_spec h3) h5
/-- .. over an interface's method -/
def iy_facerow (mi : iy_M) (X : MethodName) (q : Nat × Nat) : Prop := ∃ (ci L : Nat) (rr : vw_C) (Y : MethodName) (b : ByteArray) (r : Option FieldType), q.1 = ci + 1 ∧ iy_cl[ci]? = some rr ∧ ci < 100 ∧ iy_ro ci ≤ iy_n ci ∧ mi q.2 = (Y, ws_ Y b L r) ∧ Cond.initialized Y.cls ∈ lw_all ∧ Cond.code Y b L r ∈ lw_all ∧ L ≤ 45 ∧ Cond.instanceMethod Y ∈ lw_all ∧ Cond.selects rr.1 X Y ∈ lw_all ∧
  Cond.publicMethod Y ∈ lw_tbl ∧ Cond.unhidden rr.1 X.name X.desc ∈ lw_tbl ∧ Cond.castable rr.1 X.cls ∈ lw_tbl
def iy_dfrow (mi : iy_M) (X : MethodName) (q : Nat × Nat) : Prop := ∃ (ci L : Nat) (rr : vw_C) (Y : MethodName) (b : ByteArray) (r : Option FieldType), q.1 = ci + 1 ∧ iy_cl[ci]? = some rr ∧ ci < 100 ∧ iy_ro ci ≤ iy_n ci ∧ mi q.2 = (Y, ws_ Y b L r) ∧ Cond.initialized Y.cls ∈ lw_all ∧ Cond.code Y b L r ∈ lw_all ∧ L ≤ 45 ∧ Cond.instanceMethod Y ∈ lw_all ∧ Cond.landsInDefault rr.1 X Y ∈ iy_dfw ∧
  Cond.publicMethod Y ∈ lw_tbl ∧ Cond.castable rr.1 X.cls ∈ lw_tbl
abbrev iy_frow (mi : iy_M) (X : MethodName) (q : Nat × Nat) : Prop := iy_facerow mi X q ∨ iy_dfrow mi X q
theorem ok_cfI {t : List (Nat × Nat)} {count : Nat} (hml : Cond.methodLink own idx X ∈ lw_all) (hnc : X.cls ≠ "java/lang/invoke/MethodHandle" ∧ X.cls ≠ "java/lang/invoke/VarHandle" ∧ (parseMethodDescriptor X.desc).map (fun d => d.parameters.length) = some n) (hde : Cond.declares X ∈ lw_tbl) (him : Cond.interfaceMethod X.cls X.cls X.name X.desc ∈ lw_tbl) (hrow : ∀ q ∈ t, iy_frow mi X q) (hd : decode cc pc = .ok (.invokeinterface idx count, 5)) (ht : tg 0 = pc + 5) : iy_ok (iy_calls mi) own nm cc nL ret pc tg bt (sx_cdI t (n + 1)) := by
  intro d E fin hc cal nx bk hcal hn hbk l k h hs
  obtain ⟨⟨hcat, hlen⟩, h1⟩ := ix_cut_spec hs
  obtain ⟨a, as2, q, has, hq, htg, h2⟩ := ix_dsp_spec h1
  obtain ⟨rr2, h3, h4⟩ := Option.bind_eq_some_iff.mp h2
  have h5 := hn 0 _ _ _ h4
  rw [ht] at h5
  rcases hrow q hq with ⟨ci, L, rr, Y, b, r, z1, z2, z3, z4, z5, z6, z7, z8, z9, z10, z11, z12, z13⟩ | ⟨ci, L, rr, Y, b, r, z1, z2, z3, z4, z5, z6, z7, z8, z9, z10, z11, z12⟩
  · exact iy_callF (v := some (ix_I rr2.1)) hc hcal z5 hml z6 z7 hnc z8 z9 z10 hde him z11 z12 z13 z2 z3 z4 hd hlen hcat has (by rw [htg, z1]; omega) (ix_rI_spec h3) h5
  · exact iy_callFD (v := some (ix_I rr2.1)) hc hcal z5 hml z6 z7 hnc z8 z9 z10 hde him z11 z12 z2 z3 z4 hd hlen hcat has (by rw [htg, z1]; omega) (ix_rI_spec h3) h5
theorem ok_cfV {t : List (Nat × Nat)} {count : Nat} (hml : Cond.methodLink own idx X ∈ lw_all) (hnc : X.cls ≠ "java/lang/invoke/MethodHandle" ∧ X.cls ≠ "java/lang/invoke/VarHandle" ∧ (parseMethodDescriptor X.desc).map (fun d => d.parameters.length) = some n) (hde : Cond.declares X ∈ lw_tbl) (him : Cond.interfaceMethod X.cls X.cls X.name X.desc ∈ lw_tbl) (hrow : ∀ q ∈ t, iy_frow mi X q) (hd : decode cc pc = .ok (.invokeinterface idx count, 5)) (ht : tg 0 = pc + 5) : iy_ok (iy_calls mi) own nm cc nL ret pc tg bt (sx_cdV t (n + 1)) := by
  intro d E fin hc cal nx bk hcal hn hbk l k h hs
  obtain ⟨⟨hcat, hlen⟩, h1⟩ := ix_cut_spec hs
  obtain ⟨a, as2, q, has, hq, htg, h2⟩ := ix_dsp_spec h1
  obtain ⟨rr2, h3, h4⟩ := Option.bind_eq_some_iff.mp h2
  have h5 := hn 0 _ _ _ h4
  rw [ht] at h5
  rcases hrow q hq with ⟨ci, L, rr, Y, b, r, z1, z2, z3, z4, z5, z6, z7, z8, z9, z10, z11, z12, z13⟩ | ⟨ci, L, rr, Y, b, r, z1, z2, z3, z4, z5, z6, z7, z8, z9, z10, z11, z12⟩
  · exact iy_callF (v := none) hc hcal z5 hml z6 z7 hnc z8 z9 z10 hde him z11 z12 z13 z2 z3 z4 hd hlen hcat has (by rw [htg, z1]; omega) (ix_rV_spec h3) h5
  · exact iy_callFD (v := none) hc hcal z5 hml z6 z7 hnc z8 z9 z10 hde him z11 z12 z2 z3 z4 hd hlen hcat has (by rw [htg, z1]; omega) (ix_rV_spec h3) h5
end
