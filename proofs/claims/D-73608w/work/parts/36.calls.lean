/-! CONTRACTS and calls -/
def iy_pc (G : iy_G) (B0 : Nat) (h : ix_H) (as : List ix_V) : Array Value → State → Prop := va_Pc (as.map iy_v) (fun U => iy_Rep G B0 h U U.heap ∧ iy_K G U)
def iy_qc (G : iy_G) (B0 : Nat) (h : ix_H) (v : Option ix_V) : Array Value → State → Outcome → State → Prop := fun _ st oc t => oc = .returned (v.map iy_v) ∧ iy_Rep G B0 h t t.heap ∧ va_F (fun q => B0 ≤ q) st t
def iy_xc (G : iy_G) (B0 : Nat) (h : ix_H) (q : Nat) : Addr → String → State → State → Prop := fun q2 E st t => q2 = q ∧ E = RX1 ∧ iy_Rep G B0 h t t.heap ∧ va_F (fun q => B0 ≤ q) st t
abbrev iy_rm (d : Nat) (h h2 : ix_H) : Room := { frames := d, cells := ix_sz h2 - ix_sz h, slots := ix_sl h2 - ix_sl h, locals := 64 * d }
/-- what the method y does, called with as over h: it comes to res and h2 -/
def iy_met (l : Launch) (G : iy_G) (B0 d : Nat) (y : MethodName) (ws : List Cond) (as : List ix_V) (h : ix_H) (res : Option ix_V ⊕ Nat) (h2 : ix_H) : Prop :=
  (ix_sz h ≤ ix_sz h2 ∧ ix_sl h ≤ ix_sl h2) ∧ (∀ v, res = .inl v → Met l y ws (iy_rm d h h2) (iy_pc G B0 h as) (iy_qc G B0 h2 v) (ix_sz h2 - ix_sz h) (ix_sl h2 - ix_sl h) (fun q => B0 ≤ q)) ∧
  ∀ q, res = .inr q → ix_tg h2 q = 2 ∧ vx_Met l y ws (iy_rm d h h2) (iy_pc G B0 h as) (fun _ _ _ _ => False) (iy_xc G B0 h2 q) (ix_sz h2 - ix_sz h) (ix_sl h2 - ix_sl h) (fun q => B0 ≤ q)
/-- the methods by number: name, words -/
abbrev iy_M : Type := Nat → MethodName × List Cond
def iy_calls (mi : iy_M) (E : iy_E) (d : Nat) (cal : ix_C) : Prop := ∀ y as h res h2, cal y as h = some (res, h2) → iy_met E.1.2.1 E.2.2.2.1.1 E.2.2.2.1.2.1 d (mi y).1 (mi y).2 as h res h2
theorem iy_pc_blind {G : iy_G} {B0 : Nat} {h : ix_H} {as : List ix_V} : FrameBlind (iy_pc G B0 h as) := by
  intro a U g mk hp
  exact ⟨hp.1, iy_Rep.moved (u := U) (U := U.calling g mk a) (Vm.Alike.refl U.vm) hp.2.1, iy_K.same (s := U) (U := U.calling g mk a) rfl hp.2.2⟩
theorem iy_pc_at {E : iy_E} {h : ix_H} {as : List ix_V} {H : Heap} {locs : List Loc} {cells slots : Nat} (ho : iy_on E h H locs cells slots) (hK : iy_K E.2.2.2.1.1 E.2.1.1) : ∀ U : State, U.heap = H → E.2.1.1.WarmedH U.vm → iy_pc E.2.2.2.1.1 E.2.2.2.1.2.1 h as (as.map iy_v).toArray U := by
  intro U hU hW
  refine ⟨rfl, ?_, hK.warm hW⟩
  rw [hU]
  exact ho.1.moved hW.alike
/-- behind a call that returns -/
theorem iy_back {E : iy_E} {nL : Nat} {fin : iy_F} {pc len : Nat} {l : ix_S} {st k : List ix_V} {h h2 : ix_H} {v : Option ix_V} (hz : ix_sz h ≤ ix_sz h2 ∧ ix_sl h ≤ ix_sl h2) (hk : iy_sim E nL fin (pc + len) l (v.toList ++ k) h2)
    (run : ∀ (H : Heap) (locs : List Loc) (ls : Array Slot) (cells slots : Nat), iy_on E h H locs cells slots → lv_has ls nL (iy_ls l) → cells + (ix_sz h2 - ix_sz h) + E.2.2.2.1.2.2.1.size ≤ ix_sz fin.2 → slots + (ix_sl h2 - ix_sl h) + E.2.2.2.1.2.2.2 ≤ ix_sl fin.2 →
      ∃ aa : Array Value, ∀ T : State, T.heap = H → Stand E.1.1 E.1.2.1 E.1.2.2.1 E.1.2.2.2 E.2.1.1 E.2.1.2.1 E.2.1.2.2.1 E.2.1.2.2.2 E.2.2.1.1 E.2.2.1.2 T locs cells slots → ∃ (w : Option Value) (st₀ t T' : State) (L : List Loc), st₀.heap = H ∧ Stand E.1.1 E.1.2.1 E.1.2.2.1 E.1.2.2.2 E.2.1.1 E.2.1.2.1 E.2.1.2.2.1 E.2.1.2.2.2 E.2.2.1.1 E.2.2.1.2 T' (locs ++ L) (cells + (ix_sz h2 - ix_sz h)) (slots + (ix_sl h2 - ix_sl h)) ∧ (∀ q ∈ L, E.2.2.2.1.2.1 ≤ q.base) ∧ T'.heap = t.heap ∧ T'.vm = t.vm ∧ iy_qc E.2.2.2.1.1 E.2.2.2.1.2.1 h2 v aa st₀ (.returned w) t ∧
        Goes E.1.1 E.1.2.2.1 E.2.1.2.2.2 T (F0 E.2.1.2.1 pc ls (st.map iy_v)) T' (F0 E.2.1.2.1 (pc + len) ls (w.toList ++ k.map iy_v))) : iy_sim E nL fin pc l st h := by
  refine ⟨⟨Nat.le_trans hz.1 hk.1.1, Nat.le_trans hz.2 hk.1.2⟩, fun H locs ls cells slots ho hl => ?_⟩
  have hk1 := hk.1
  have ho1 := ho.2.2
  obtain ⟨aa, hr⟩ := run H locs ls cells slots ho hl (by omega) (by omega)
  intro T hT X
  obtain ⟨w, st₀, t, T', L, h0, X', hL, e1, e2, ⟨hv, hR, hF⟩, go⟩ := hr T hT X
  have hw : w = v.map iy_v := by cases hv; rfl
  subst hw
  have hR2 : iy_Rep E.2.2.2.1.1 E.2.2.2.1.2.1 h2 E.2.1.1 T'.heap := by
    rw [e1]
    refine hR.moved ?_
    rw [← e2]
    exact X'.warmed.alike.symm
  have hS2 := (vx_keep (A0 := fun q => E.2.2.2.1.2.1 ≤ q) (A1 := fun q => E.2.2.2.1.2.1 ≤ q) (free := fun q => E.2.2.2.1.2.1 ≤ q) h0 e1 ho.2.1 (fun q _ z => z) (fun q z => z) hL hF).2.2
  have W1 := hk.2 T'.heap (locs ++ L) ls (cells + (ix_sz h2 - ix_sz h)) (slots + (ix_sl h2 - ix_sl h)) ⟨hR2, hS2, by omega, by omega⟩ hl
  obtain ⟨t2, a1, b1⟩ := W1 T' rfl X'
  refine ⟨t2, go _ ?_, b1⟩
  have e3 : (v.map iy_v).toList ++ k.map iy_v = (v.toList ++ k).map iy_v := by cases v <;> rfl
  rw [e3]
  exact a1
theorem ix_cut_spec {k : List ix_V} {n : Nat} {f : List ix_V → List ix_V → ix_O} {fin : iy_F} (h : ix_cut k n f = some fin) : (ix_cat (k.drop n) ≤ 8 ∧ n ≤ k.length) ∧ f (k.take n).reverse (k.drop n) = some fin := by
  unfold ix_cut at h
  cases hb : (Nat.ble (ix_cat (k.drop n)) 8 && Nat.ble n k.length) with
  | true =>
    rw [hb] at h
    rw [Bool.and_eq_true] at hb
    exact ⟨⟨Nat.le_of_ble_eq_true hb.1, Nat.le_of_ble_eq_true hb.2⟩, h⟩
  | false => rw [hb] at h; cases h
theorem ix_obj_spec {h : ix_H} {c : Nat} {as : List ix_V} {f : List ix_V → ix_O} {fin : iy_F} (e : ix_obj h c as f = some fin) : ∃ a as2, as = ix_R (some a) :: as2 ∧ ix_tg h a % 512 = c ∧ f (ix_R (some a) :: as2) = some fin := by
  unfold ix_obj at e
  split at e
  · rename_i r as2
    obtain ⟨a, h1, h2⟩ := Option.bind_eq_some_iff.mp e
    obtain ⟨rfl, h3⟩ := ix_isr_spec h1
    exact ⟨a, as2, rfl, h3, h2⟩
  · cases e
/-- results by kind -/
theorem ix_rI_spec {o : ix_O} {r : Int32 × ix_H} (e : ix_rI o = some r) : o = some (.inl (some (ix_I r.1)), r.2) := by
  obtain ⟨q, h1, h2⟩ := Option.bind_eq_some_iff.mp e
  obtain ⟨q1, q2⟩ := q
  dsimp only at h2
  split at h2
  · cases h2; exact h1
  · cases h2
theorem ix_rL_spec {o : ix_O} {r : Int64 × ix_H} (e : ix_rL o = some r) : o = some (.inl (some (ix_L r.1)), r.2) := by
  obtain ⟨q, h1, h2⟩ := Option.bind_eq_some_iff.mp e
  obtain ⟨q1, q2⟩ := q
  dsimp only at h2
  split at h2
  · cases h2; exact h1
  · cases h2
theorem ix_rR_spec {o : ix_O} {r : Option Nat × ix_H} (e : ix_rR o = some r) : o = some (.inl (some (ix_R r.1)), r.2) := by
  obtain ⟨q, h1, h2⟩ := Option.bind_eq_some_iff.mp e
  obtain ⟨q1, q2⟩ := q
  dsimp only at h2
  split at h2
  · cases h2; exact h1
  · cases h2
theorem ix_rV_spec {o : ix_O} {r : ix_H} (e : ix_rV o = some r) : o = some (.inl none, r) := by
  obtain ⟨q, h1, h2⟩ := Option.bind_eq_some_iff.mp e
  obtain ⟨q1, q2⟩ := q
  dsimp only at h2
  split at h2
  · cases h2; exact h1
  · cases h2
/-- what a call's rows of the tables say -/
def iy_lk1 (own : String) (idx : Nat) (y : MethodName) (b : ByteArray) (L : Nat) (r : Option FieldType) (n : Nat) : Prop :=
  Cond.methodLink own idx y ∈ lw_all ∧ Cond.initialized y.cls ∈ lw_all ∧ Cond.code y b L r ∈ lw_all ∧ (y.cls ≠ "java/lang/invoke/MethodHandle" ∧ y.cls ≠ "java/lang/invoke/VarHandle" ∧ (parseMethodDescriptor y.desc).map (fun d => d.parameters.length) = some n) ∧ L ≤ 45
theorem iy_revmap {k : List ix_V} {n : Nat} : k.map iy_v = ((k.take n).reverse.map iy_v).reverse ++ (k.drop n).map iy_v := by
  rw [List.map_reverse, List.reverse_reverse, ← List.map_append, List.take_append_drop]
theorem iy_lenmap {k : List ix_V} {n : Nat} (h : n ≤ k.length) : ((k.take n).reverse.map iy_v).length = n := by simp [h]
theorem iy_take {k as2 : List ix_V} {n a : Nat} (hl : n + 1 ≤ k.length) (h : (k.take (n + 1)).reverse = ix_R (some a) :: as2) : k.map iy_v = (as2.map iy_v).reverse ++ Value.ref a :: (k.drop (n + 1)).map iy_v ∧ (as2.map iy_v).length = n := by
  have h1 : k.take (n + 1) = as2.reverse ++ [ix_R (some a)] := by
    have := congrArg List.reverse h
    rw [List.reverse_reverse, List.reverse_cons] at this
    exact this
  refine ⟨?_, ?_⟩
  · conv => lhs; rw [← List.take_append_drop (n + 1) k]
    rw [List.map_append, h1, List.map_append, List.map_reverse, List.append_assoc]
    rfl
  · have := congrArg List.length h
    simp at this
    simp
    omega
/-- the object a call is on -/
theorem iy_recv {E : iy_E} {h : ix_H} {H : Heap} {locs : List Loc} {cells slots a ci : Nat} {rr : vw_C} (ho : iy_on E h H locs cells slots) (hK : iy_K E.2.2.2.1.1 E.2.1.1) (hcl : iy_cl[ci]? = some rr) (hci : ci < 100) (hro : iy_ro ci ≤ iy_n ci) (htg : ix_tg h a % 512 = ci + 1) : ∃ cell : Cell, H[a]? = some cell ∧ cell.vm.isStatics = false ∧ E.2.1.1.vm.findClass rr.1 = some cell.cls := by
  obtain ⟨w, cell, c1, c2, c3, c4, c5, c6⟩ := iy_ob_R ho.1 hci htg hro
  exact ⟨cell, c1, c4, by rw [c2]; exact (hK.1.1 ci rr hcl).2.1⟩
section
variable {own nm : String} {cc : ByteArray} {nL : Nat} {ret : iy_T} {pc d : Nat} {E : iy_E} {fin : iy_F} {mi : iy_M} {cal : ix_C} {y idx n ci a L : Nat} {Y : MethodName} {b : ByteArray} {r : Option FieldType} {rr : vw_C} {l : ix_S} {k as2 : List ix_V} {h h2 : ix_H} {v : Option ix_V}
theorem iy_callV (hc : iy_cx own nm cc nL ret d E fin) (hcal : iy_calls mi E d cal) (hm : mi y = (Y, ws_ Y b L r)) (hlk : iy_lk1 own idx Y b L r n) (hin : Cond.instanceMethod Y ∈ lw_all) (hsel : Cond.selects Y.cls Y Y ∈ lw_all) (hcl : iy_cl[ci]? = some rr) (hci : ci < 100) (hrc : rr.1 = Y.cls) (hro : iy_ro ci ≤ iy_n ci) (hd : decode cc pc = .ok (.invokevirtual idx, 3))
    (hlen : n + 1 ≤ k.length) (hcat : ix_cat (k.drop (n + 1)) ≤ 8) (has : (k.take (n + 1)).reverse = ix_R (some a) :: as2) (htg : ix_tg h a % 512 = ci + 1) (hr : cal y (ix_R (some a) :: as2) h = some (.inl v, h2)) (hs : iy_sim E nL fin (pc + 3) l (v.toList ++ k.drop (n + 1)) h2) : iy_sim E nL fin pc l k h := by
  have hM := hcal y _ h _ h2 hr
  rw [hm] at hM
  obtain ⟨e1, e2⟩ := iy_take hlen has
  obtain ⟨x1, x2, x3, x4, x5⟩ := hc.2.2.2.1
  refine iy_back (len := 3) hM.1 hs fun H locs ls cells slots ho hl hcc hss => ⟨#[], fun T hT X => ?_⟩
  exact va_runV (own := own) (C := Y.cls) (b := a) (As := as2.map iy_v) (rest := (k.drop (n + 1)).map iy_v) (n := n) (Ts := lw_all) (nL := nL) (cc := cc) hc.1 (hM.2.1 v rfl) (cwV n hc.1.2.2.2.2 (lw_V hlk.1 hin hsel hlk.2.1 hlk.2.2.1) rfl rfl rfl ⟨rfl, hlk.2.2.2.1⟩ ⟨by show d + 1 ≤ _; exact x4, by have := hlk.2.2.2.2; show 8 + (L + 11) + 64 * d ≤ _; omega⟩)
    ⟨iy_pc_blind, (by rw [← hrc]; exact iy_recv ho hc.2.2.1 hcl hci hro htg), iy_pc_at ho hc.2.2.1⟩ rfl e2 hl.1 e1 (lv_room (by rw [iy_cats]; exact hcat)) hd ⟨by omega, by omega⟩ T hT X
theorem iy_callS (hc : iy_cx own nm cc nL ret d E fin) (hcal : iy_calls mi E d cal) (hm : mi y = (Y, ws_ Y b L r)) (hlk : iy_lk1 own idx Y b L r n) (hst : Cond.static Y ∈ lw_all) (hd : decode cc pc = .ok (.invokestatic idx, 3))
    (hlen : n ≤ k.length) (hcat : ix_cat (k.drop n) ≤ 8) (hr : cal y (k.take n).reverse h = some (.inl v, h2)) (hs : iy_sim E nL fin (pc + 3) l (v.toList ++ k.drop n) h2) : iy_sim E nL fin pc l k h := by
  have hM := hcal y _ h _ h2 hr
  rw [hm] at hM
  obtain ⟨x1, x2, x3, x4, x5⟩ := hc.2.2.2.1
  refine iy_back (len := 3) hM.1 hs fun H locs ls cells slots ho hl hcc hss => ⟨#[], fun T hT X => ?_⟩
  exact va_runS (own := own) (As := (k.take n).reverse.map iy_v) (rest := (k.drop n).map iy_v) (n := n) (Ts := lw_all) (nL := nL) (cc := cc) hc.1 (hM.2.1 v rfl) (va_cwS n hc.1.2.2.2.2 (lw_S hlk.1 hst hlk.2.1 hlk.2.2.1) rfl rfl rfl hlk.2.2.2.1 ⟨by show d + 1 ≤ _; exact x4, by have := hlk.2.2.2.2; show 8 + (L + 11) + 64 * d ≤ _; omega⟩)
    ⟨iy_pc_blind, iy_pc_at ho hc.2.2.1⟩ rfl (iy_lenmap hlen) hl.1 iy_revmap (lv_room (by rw [iy_cats]; exact hcat)) hd ⟨by omega, by omega⟩ T hT X
theorem iy_callI (hc : iy_cx own nm cc nL ret d E fin) (hcal : iy_calls mi E d cal) (hm : mi y = (Y, ws_ Y b L none)) (hlk : iy_lk1 own idx Y b L none n) (hin : Cond.instanceMethod Y ∈ lw_all) (hyn : Y.name = "<init>") (hd : decode cc pc = .ok (.invokespecial idx, 3))
    (hlen : n + 1 ≤ k.length) (hcat : ix_cat (k.drop (n + 1)) ≤ 8) (has : (k.take (n + 1)).reverse = ix_R (some a) :: as2) (hr : cal y (ix_R (some a) :: as2) h = some (.inl v, h2)) (hs : iy_sim E nL fin (pc + 3) l (v.toList ++ k.drop (n + 1)) h2) : iy_sim E nL fin pc l k h := by
  have hM := hcal y _ h _ h2 hr
  rw [hm] at hM
  obtain ⟨e1, e2⟩ := iy_take hlen has
  obtain ⟨x1, x2, x3, x4, x5⟩ := hc.2.2.2.1
  refine iy_back (len := 3) hM.1 hs fun H locs ls cells slots ho hl hcc hss => ⟨#[], fun T hT X => ?_⟩
  have hts := hc.1.2.2.2.2
  exact va_runI (own := own) (b := a) (As := as2.map iy_v) (rest := (k.drop (n + 1)).map iy_v) (n := n) (Ts := lw_all) (nL := nL) (cc := cc) hc.1 (hM.2.1 v rfl) (cwI n hts (lw_meth hlk.2.2.1) rfl rfl rfl (hts _ hlk.2.1) (hts _ hlk.1) (hts _ hin) hyn hlk.2.2.2.1 ⟨by show d + 1 ≤ _; exact x4, by have := hlk.2.2.2.2; show 8 + (L + 11) + 64 * d ≤ _; omega⟩)
    ⟨iy_pc_blind, iy_pc_at ho hc.2.2.1⟩ rfl e2 hl.1 e1 (lv_room (by rw [iy_cats]; exact hcat)) hd ⟨by omega, by omega⟩ T hT X
/-- a nest mate's constructor -/
theorem iy_callN {host : String} (hc : iy_cx own nm cc nL ret d E fin) (hcal : iy_calls mi E d cal) (hm : mi y = (Y, ws_ Y b L none)) (hnl : Cond.methodLinkNest own idx Y host ∈ lw_tbl) (hini : Cond.initialized Y.cls ∈ lw_all) (hcd : Cond.code Y b L none ∈ lw_all) (hnc : Y.cls ≠ "java/lang/invoke/MethodHandle" ∧ Y.cls ≠ "java/lang/invoke/VarHandle" ∧ (parseMethodDescriptor Y.desc).map (fun d => d.parameters.length) = some n) (hL : L ≤ 45) (hin : Cond.instanceMethod Y ∈ lw_all) (hyn : Y.name = "<init>") (hd : decode cc pc = .ok (.invokespecial idx, 3))
    (hlen : n + 1 ≤ k.length) (hcat : ix_cat (k.drop (n + 1)) ≤ 8) (has : (k.take (n + 1)).reverse = ix_R (some a) :: as2) (hr : cal y (ix_R (some a) :: as2) h = some (.inl v, h2)) (hs : iy_sim E nL fin (pc + 3) l (v.toList ++ k.drop (n + 1)) h2) : iy_sim E nL fin pc l k h := by
  have hM := hcal y _ h _ h2 hr
  rw [hm] at hM
  obtain ⟨e1, e2⟩ := iy_take hlen has
  obtain ⟨x1, x2, x3, x4, x5⟩ := hc.2.2.2.1
  refine iy_back (len := 3) hM.1 hs fun H locs ls cells slots ho hl hcc hss => ⟨#[], fun T hT X => ?_⟩
  have hts := hc.1.2.2.2.2
  exact va_runIN (own := own) (host := host) (b := a) (As := as2.map iy_v) (rest := (k.drop (n + 1)).map iy_v) (n := n) (Ts := lw_all) (nL := nL) (cc := cc) hc.1 (hM.2.1 v rfl) ⟨va_cnB n hts (lw_meth hcd) rfl rfl rfl (hc.2.2.1.2.2.1 _ hnl rfl) (hts _ hini) hnc ⟨by show d + 1 ≤ _; exact x4, by show 8 + (L + 11) + 64 * d ≤ _; omega⟩, hyn, hts _ hin⟩
    ⟨iy_pc_blind, iy_pc_at ho hc.2.2.1⟩ rfl e2 hl.1 e1 (lv_room (by rw [iy_cats]; exact hcat)) hd ⟨by omega, by omega⟩ T hT X
/-- super.m(..) -/
theorem iy_callSU (hc : iy_cx own nm cc nL ret d E fin) (hcal : iy_calls mi E d cal) (hm : mi y = (Y, ws_ Y b L r)) (hlk : iy_lk1 own idx Y b L r n) (hin : Cond.instanceMethod Y ∈ lw_all) (hsm : Cond.sameMethod Y.cls Y.cls Y.name Y.desc ∈ lw_all) (hsp : Cond.superclass own Y.cls ∈ lw_all) (hyn : Y.name ≠ "<init>") (hcl : iy_cl[ci]? = some rr) (hci : ci < 100) (hro : iy_ro ci ≤ iy_n ci) (hd : decode cc pc = .ok (.invokespecial idx, 3))
    (hlen : n + 1 ≤ k.length) (hcat : ix_cat (k.drop (n + 1)) ≤ 8) (has : (k.take (n + 1)).reverse = ix_R (some a) :: as2) (htg : ix_tg h a % 512 = ci + 1) (hr : cal y (ix_R (some a) :: as2) h = some (.inl v, h2)) (hs : iy_sim E nL fin (pc + 3) l (v.toList ++ k.drop (n + 1)) h2) : iy_sim E nL fin pc l k h := by
  have hM := hcal y _ h _ h2 hr
  rw [hm] at hM
  obtain ⟨e1, e2⟩ := iy_take hlen has
  obtain ⟨x1, x2, x3, x4, x5⟩ := hc.2.2.2.1
  refine iy_back (len := 3) hM.1 hs fun H locs ls cells slots ho hl hcc hss => ⟨#[], fun T hT X => ?_⟩
  refine va_runSU (own := own) (C := rr.1) (b := a) (As := as2.map iy_v) (rest := (k.drop (n + 1)).map iy_v) (n := n) (Ts := lw_all) (nL := nL) (cc := cc) (hc.2.2.1.1.1 ci rr hcl).2 hc.1 (hM.2.1 v rfl) (va_cwSU n hc.1.2.2.2.2 (lw_app ?_ (lw_meth hlk.2.2.1)) rfl rfl rfl ⟨hyn, hlk.2.2.2.1.2.2⟩ ⟨by show d + 1 ≤ _; exact x4, by have := hlk.2.2.2.2; show 8 + (L + 11) + 64 * d ≤ _; omega⟩)
    ⟨iy_pc_blind, iy_recv ho hc.2.2.1 hcl hci hro htg, iy_pc_at ho hc.2.2.1⟩ rfl e2 hl.1 e1 (lv_room (by rw [iy_cats]; exact hcat)) hd ⟨by omega, by omega⟩ T hT X
  intro w hw
  simp only [List.mem_cons, List.not_mem_nil, or_false] at hw
  rcases hw with e | e | e | e | e
  · rw [e]; exact hlk.1
  · rw [e]; exact hsm
  · rw [e]; exact hsp
  · rw [e]; exact hin
  · rw [e]; exact hlk.2.1
/-- an interface's method x, which the object's class answers by Y -/
theorem iy_callF {count : Nat} {Z : MethodName} (hc : iy_cx own nm cc nL ret d E fin) (hcal : iy_calls mi E d cal) (hm : mi y = (Y, ws_ Y b L r)) (hml : Cond.methodLink own idx Z ∈ lw_all) (hini : Cond.initialized Y.cls ∈ lw_all) (hcd : Cond.code Y b L r ∈ lw_all) (hnc : Z.cls ≠ "java/lang/invoke/MethodHandle" ∧ Z.cls ≠ "java/lang/invoke/VarHandle" ∧ (parseMethodDescriptor Z.desc).map (fun d => d.parameters.length) = some n) (hL : L ≤ 45) (hin : Cond.instanceMethod Y ∈ lw_all) (hsel : Cond.selects rr.1 Z Y ∈ lw_all)
    (hw1 : Cond.declares Z ∈ lw_tbl) (hw2 : Cond.interfaceMethod Z.cls Z.cls Z.name Z.desc ∈ lw_tbl) (hw3 : Cond.publicMethod Y ∈ lw_tbl) (hw4 : Cond.unhidden rr.1 Z.name Z.desc ∈ lw_tbl) (hw5 : Cond.castable rr.1 Z.cls ∈ lw_tbl) (hcl : iy_cl[ci]? = some rr) (hci : ci < 100) (hro : iy_ro ci ≤ iy_n ci) (hd : decode cc pc = .ok (.invokeinterface idx count, 5))
    (hlen : n + 1 ≤ k.length) (hcat : ix_cat (k.drop (n + 1)) ≤ 8) (has : (k.take (n + 1)).reverse = ix_R (some a) :: as2) (htg : ix_tg h a % 512 = ci + 1) (hr : cal y (ix_R (some a) :: as2) h = some (.inl v, h2)) (hs : iy_sim E nL fin (pc + 5) l (v.toList ++ k.drop (n + 1)) h2) : iy_sim E nL fin pc l k h := by
  have hM := hcal y _ h _ h2 hr
  rw [hm] at hM
  obtain ⟨e1, e2⟩ := iy_take hlen has
  obtain ⟨x1, x2, x3, x4, x5⟩ := hc.2.2.2.1
  refine iy_back (len := 5) hM.1 hs fun H locs ls cells slots ho hl hcc hss => ⟨#[], fun T hT X => ?_⟩
  have kw := hc.2.2.1.2.2.1
  have hFw : va_Fw rr.1 Z Y E.2.1.1 := va_Fw.of (A := #[]) (kw _ hw1 rfl) (kw _ hw2 (by simp [iy_kw, Cond.onTables, Cond.faceAtom, hnc.1, hnc.2.1])) (kw _ hw3 rfl) (kw _ hw4 rfl) (kw _ hw5 rfl)
  refine va_runF (own := own) (C := rr.1) (b := a) (As := as2.map iy_v) (rest := (k.drop (n + 1)).map iy_v) (n := n) (Ts := lw_all) (nL := nL) (cc := cc) (hc.2.2.1.1.1 ci rr hcl).2 hc.1 (hM.2.1 v rfl) (va_cwF n hc.1.2.2.2.2 (lw_app ?_ (lw_meth hcd)) rfl rfl rfl hFw hnc ⟨by show d + 1 ≤ _; exact x4, by show 8 + (L + 11) + 64 * d ≤ _; omega⟩)
    ⟨iy_pc_blind, iy_recv ho hc.2.2.1 hcl hci hro htg, iy_pc_at ho hc.2.2.1⟩ rfl e2 hl.1 e1 (lv_room (by rw [iy_cats]; exact hcat)) hd ⟨by omega, by omega⟩ T hT X
  intro w hw
  simp only [List.mem_cons, List.not_mem_nil, or_false] at hw
  rcases hw with e | e | e | e
  · rw [e]; exact hml
  · rw [e]; exact hsel
  · rw [e]; exact hin
  · rw [e]; exact hini
/-- .. a default method -/
theorem iy_dfw_any {C : String} {x y : MethodName} {A A' : Array Value} {U : State} (h : (Cond.landsInDefault C x y).before A U = true) : (Cond.landsInDefault C x y).before A' U = true := h
theorem iy_callFD {count : Nat} {Z : MethodName} (hc : iy_cx own nm cc nL ret d E fin) (hcal : iy_calls mi E d cal) (hm : mi y = (Y, ws_ Y b L r)) (hml : Cond.methodLink own idx Z ∈ lw_all) (hini : Cond.initialized Y.cls ∈ lw_all) (hcd : Cond.code Y b L r ∈ lw_all) (hnc : Z.cls ≠ "java/lang/invoke/MethodHandle" ∧ Z.cls ≠ "java/lang/invoke/VarHandle" ∧ (parseMethodDescriptor Z.desc).map (fun d => d.parameters.length) = some n) (hL : L ≤ 45) (hin : Cond.instanceMethod Y ∈ lw_all) (hsel : Cond.landsInDefault rr.1 Z Y ∈ iy_dfw)
    (hw1 : Cond.declares Z ∈ lw_tbl) (hw2 : Cond.interfaceMethod Z.cls Z.cls Z.name Z.desc ∈ lw_tbl) (hw3 : Cond.publicMethod Y ∈ lw_tbl) (hw5 : Cond.castable rr.1 Z.cls ∈ lw_tbl) (hcl : iy_cl[ci]? = some rr) (hci : ci < 100) (hro : iy_ro ci ≤ iy_n ci) (hd : decode cc pc = .ok (.invokeinterface idx count, 5))
    (hlen : n + 1 ≤ k.length) (hcat : ix_cat (k.drop (n + 1)) ≤ 8) (has : (k.take (n + 1)).reverse = ix_R (some a) :: as2) (htg : ix_tg h a % 512 = ci + 1) (hr : cal y (ix_R (some a) :: as2) h = some (.inl v, h2)) (hs : iy_sim E nL fin (pc + 5) l (v.toList ++ k.drop (n + 1)) h2) : iy_sim E nL fin pc l k h := by
  have hM := hcal y _ h _ h2 hr
  rw [hm] at hM
  obtain ⟨e1, e2⟩ := iy_take hlen has
  obtain ⟨x1, x2, x3, x4, x5⟩ := hc.2.2.2.1
  refine iy_back (len := 5) hM.1 hs fun H locs ls cells slots ho hl hcc hss => ⟨#[], fun T hT X => ?_⟩
  have kw := hc.2.2.1.2.2.1
  have hat := (hc.2.2.1.1.1 ci rr hcl).2
  have ts := hc.1.2.2.2.2
  obtain ⟨hx, hb, hml0, ho0, -⟩ := hc.1
  have hK : Back E.1.2.1 E.1.2.2.2 E.1.1 E.1.2.2.1 E.2.1.2.2.2 E.2.1.1 E.2.1.2.2.1 Y 5 8 (PreOf E.1.2.2.2 _ _ (iy_pc E.2.2.2.1.1 E.2.2.2.1.2.1 h (ix_R (some a) :: as2))) (PostOf (iy_qc E.2.2.2.1.1 E.2.2.2.1.2.1 h2 v) _ _ (fun q => E.2.2.2.1.2.1 ≤ q)) :=
    back_of (bytes := b) (maxL := L) (ret := r) (hM.2.1 v rfl) iy_pc_blind rfl rfl (by show d + 1 ≤ _; exact x4) (by show 8 + (L + 11) + 64 * d ≤ _; omega) (pay_in ts (lw_meth hcd)) List.mem_cons_self (fun a' U hW => word_at hW (Or.inl (by first | rfl | simp [Cond.onTables, Cond.keeps, Cond.steady])) (ts _ hini))
  obtain ⟨cell, c1, c2, c3⟩ := iy_recv ho hc.2.2.1 hcl hci hro htg
  obtain ⟨hfc, kB, hkB, -⟩ := hat
  have hcc2 := Option.some.inj (c3.symm.trans hfc)
  have hPc := iy_pc_at (as := ix_R (some a) :: as2) ho hc.2.2.1
  obtain ⟨vv, vm₁, ⟨U', l2, c2', s2⟩, hW₁, X', ⟨g', mk, t, L', f1, f2, hq, h1, hL', h2', h3⟩, st⟩ := X.interfaceBackD hx (C := rr.1) (y := Y) ho0 (ts _ hml) (va_any rfl (kw _ hw1 rfl)) (va_any rfl (kw _ hw2 (by simp [iy_kw, Cond.onTables, Cond.faceAtom, hnc.1, hnc.2.1]))) (iy_dfw_any (hc.2.2.1.2.2.2.2.2 _ hsel)) (ts _ hin) (va_any rfl (kw _ hw3 rfl)) (va_any rfl (kw _ hw5 rfl)) ⟨hnc.1, hnc.2.1⟩ hK (b := a) hfc hkB ⟨cell, by rw [hT]; exact c1, hcc2, c2⟩
    (g := F0 E.2.1.2.1 pc ls (k.map iy_v)) rfl (hl.1.trans hml0.symm) (Steps.refl _) (argsL := as2.map iy_v) (rest := (k.drop (n + 1)).map iy_v) (fun sig hsig => e2.trans (by have q := hnc.2.2; rw [hsig] at q; exact (Option.some.inj q).symm)) e1 (lv_room (by rw [iy_cats]; exact hcat)) (by rw [hb]; exact hd)
    (fun vm₁ hW₁ => ⟨by show cells + _ ≤ _; omega, by show slots + _ ≤ _; omega, hPc (T.setVm vm₁) hT hW₁⟩)
  dsimp only [Pt.U, Pt.locs, Pt.cells, Pt.slots] at X' f1 f2 h1 h2' h3 st
  subst h1; subst h2'; subst h3
  exact ⟨vv, (T.setVm vm₁).calling g' mk _, t, U', L', hT, X', hL', f1, f2, hq, fun t3 h3 => st.trans h3⟩
end
