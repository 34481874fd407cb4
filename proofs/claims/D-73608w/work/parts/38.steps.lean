/-! THE OTHER STEPS: new things, references stored, casts, copies, ends -/
section
variable {own nm : String} {cc : ByteArray} {nL : Nat} {ret : iy_T} {pc : Nat} {tg bt : Nat → Nat} {iy_cal : iy_E → Nat → ix_C → Prop}
/-- a class may be made: no field of a kind that we leave out -/
def iy_plain (c : Nat) : Bool := (List.range (iy_n c)).all fun k => match iy_ty c k with
  | .float | .double => false
  | _ => true
theorem iy_new_on {E : iy_E} {h h1 : ix_H} {H H1 : Heap} {locs : List Loc} {cells slots n : Nat} (ho : iy_on E h H locs cells slots) (hz : H1.size = H.size + 1) (hq : ∀ q, q < H.size → H1[q]? = H[q]?) (e0 : ix_sl h1 = ix_sl h + n) (e1 : ix_sz h1 = ix_sz h + 1) (e2 : ix_cs h1 = ix_cs h) (hs : ∀ b, b ≠ H.size → iy_same h h1 b) (ht : ix_tg h1 H.size < 512) (ha : iy_at E.2.2.2.1.1 h1 E.2.1.1 H1 H.size) : iy_on E h1 H1 locs (cells + 1) (slots + n) := by
  obtain ⟨hR, hS, c1, c2⟩ := ho
  exact ⟨hR.new hz hq e1 e2 hs ht ha, ⟨Nat.le_trans hS.1 (by omega), fun x h1 h2 => (hq x (Nat.lt_of_lt_of_le h1 hS.1)).trans (hS.2.1 x h1 h2), hS.2.2⟩, by omega, by omega⟩
theorem ok_new {ct ci idx n : Nat} {r : vw_C} (hct : ct = ci + 1) (hcl : iy_cl[ci]? = some r) (hci : ci < 100) (hn1 : n = r.2.2) (hpl : iy_plain ci = true) (q1 : Cond.classLink own idx r.1 ∈ lw_all) (q2 : Cond.instantiable r.1 n ∈ lw_all) (q3 : Cond.initialized r.1 ∈ lw_all) (hd : decode cc pc = .ok (.new idx, 3)) (ht : tg 0 = pc + 3) : iy_ok iy_cal own nm cc nL ret pc tg bt (sx_new ct n) := by
  intro d E fin hc cal nx bk hcal hn hbk l k h hs
  have h1 := hn 0 _ _ _ hs
  rw [ht] at h1
  obtain ⟨x1, x2, x3, x4, x5⟩ := hc.2.2.2.1
  have z1 : ix_sz h + 1 ≤ ix_sz fin.2 := h1.1.1
  have z2 : ix_sl h + n ≤ ix_sl fin.2 := h1.1.2
  refine ⟨⟨by omega, by omega⟩, fun H locs ls cells slots ho hl => ?_⟩
  have hts := hc.1.2.2.2.2
  have hKn := hc.2.2.1.1.1 ci r hcl
  have c1 := ho.2.2
  have hHz : H.size = ix_sz h := ho.1.1
  refine W.newcK hc.1.1 hc.1.2.1 hc.1.2.2.2.1 (hts _ q1) (hts _ q2) (hts _ q3) rfl hd (by omega) (by omega) hKn.2.1 rfl fun H1 kC hkC e1 w1 o1 => ?_
  have hb := u_born (iy_ty ci) hts (iy_in ci r hcl) hKn hkC e1 (iy_ty_ok ci r hcl)
  obtain ⟨cell, b1, b2, b3, b4⟩ := hb
  have hrow := fun (b : Nat) (hb : b ≠ H.size) => (show iy_same h (ix_nwO h ct n) b by
    rw [hHz] at hb
    exact ⟨if_neg hb, rfl, funext fun q => if_neg hb, funext fun q => if_neg hb, funext fun q => if_neg hb, rfl, rfl, rfl⟩)
  have htag : ix_tg (ix_nwO h ct n) H.size = ct := by rw [hHz]; exact if_pos rfl
  have hon : iy_on E (ix_nwO h ct n) H1 locs (cells + 1) (slots + n) := by
    refine iy_new_on ho w1 o1 rfl rfl rfl hrow (by rw [htag]; omega) (iy_at_O hci (by rw [htag, hct]) (iy_lt_of hcl) ⟨cell, b1, b2, by rw [b3]; exact fun q => (by cases q), by rw [b3]; rfl, fun _ => b3, fun q hq => ?_⟩)
    rw [b4 q (by rw [iy_cl_n ci r hcl]; exact hq)]
    have hp := List.all_eq_true.mp hpl q (List.mem_range.mpr hq)
    have e1 : ix_fI (ix_nwO h ct n) H.size q = 0 := by rw [hHz]; exact if_pos rfl
    have e2 : ix_fL (ix_nwO h ct n) H.size q = 0 := by rw [hHz]; exact if_pos rfl
    have e3 : ix_fR (ix_nwO h ct n) H.size q = none := by rw [hHz]; exact if_pos rfl
    show some (defaultValue (iy_ty ci q)) = some _
    unfold iy_fv
    rw [e1, e2, e3]
    revert hp
    cases iy_ty ci q <;> intro hp <;> first | rfl | cases hp
  have h2 := h1.2 H1 locs ls (cells + 1) (slots + n) hon hl
  rw [← hHz] at h2
  exact h2
theorem ix_in_spec {n : Int32} (h : ix_in n 1000001 = true) : ¬ n < 0 ∧ n.toNatClampNeg ≤ 1000000 := by
  have h1 : ¬ (n < 0 ∨ 1000001 ≤ n.toNatClampNeg) := of_decide_eq_true h
  exact ⟨fun q => h1 (Or.inl q), by have := fun q => h1 (Or.inr q); omega⟩
theorem iy_newA_av {h : ix_H} {c n : Nat} {ty : FieldType} (hp : iy_kI ty = true ∨ iy_kL ty = true ∨ iy_kR ty = true) (j : Nat) : iy_av ty (ix_nwA h c n) (ix_sz h) j = defaultValue ty := by
  have e1 : ix_aI (ix_nwA h c n) (ix_sz h) j = 0 := if_pos rfl
  have e2 : ix_aL (ix_nwA h c n) (ix_sz h) j = 0 := if_pos rfl
  have e3 : ix_aR (ix_nwA h c n) (ix_sz h) j = none := if_pos rfl
  unfold iy_av
  rw [e1, e2, e3]
  rcases hp with hp | hp | hp <;> revert hp <;> cases ty <;> intro hp <;> first | rfl | cases hp
theorem iy_newA_on {E : iy_E} {h : ix_H} {H H1 : Heap} {locs : List Loc} {cells slots n ct : Nat} {et : FieldType} (hel : iy_el ct = some et) (hp : iy_kI et = true ∨ iy_kL et = true ∨ iy_kR et = true) (hfit : fits et (defaultValue et) = true) (ho : iy_on E h H locs cells slots) (hz : H1.size = H.size + 1) (hq : ∀ q, q < H.size → H1[q]? = H[q]?) (hcell : H1[H.size]? = some (arrV (E.2.2.2.1.1.2.2.1 ct) n (fun _ => defaultValue et))) : iy_on E (ix_nwA h ct n) H1 locs (cells + 1) (slots + n) := by
  have hHz : H.size = ix_sz h := ho.1.1
  have hg := iy_el_ge hel
  have htag : ix_tg (ix_nwA h ct n) H.size = ct := by rw [hHz]; exact if_pos rfl
  have hln : ix_ln (ix_nwA h ct n) H.size = n := by rw [hHz]; exact if_pos rfl
  have hav : ∀ j, iy_av et (ix_nwA h ct n) H.size j = defaultValue et := fun j => by rw [hHz]; exact iy_newA_av hp j
  refine iy_new_on ho hz hq rfl rfl rfl (fun b hb => ?_) (by rw [htag]; omega) (iy_at_A hel htag ⟨?_, fun j hj => by rw [hav]; exact hfit⟩)
  · rw [hHz] at hb
    exact ⟨if_neg hb, if_neg hb, rfl, rfl, rfl, funext fun q => if_neg hb, funext fun q => if_neg hb, funext fun q => if_neg hb⟩
  · rw [hcell, hln, show (fun j => iy_av et (ix_nwA h ct n) H.size j) = (fun _ => defaultValue et) from funext hav]
theorem ok_newA {ct : Nat} {atype : ArrayType} {et : FieldType} (hel : iy_el ct = some et) (hty : newarray.typeOf atype = et) (q1 : Cond.arrayClass et ∈ lw_all) (hd : decode cc pc = .ok (.newarray atype, 2)) (ht : tg 0 = pc + 2) (hk : (iy_kI et || iy_kL et) = true) : iy_ok iy_cal own nm cc nL ret pc tg bt (sx_newA ct) := by
  intro d E fin hc cal nx bk hcal hn hbk l k h hs
  unfold sx_newA at hs
  split at hs
  · rename_i n k2
    cases hin : ix_in n 1000001 with
    | false => rw [hin] at hs; cases hs
    | true =>
    rw [hin] at hs
    replace hs : nx 0 l (ix_R (some (ix_sz h)) :: k2) (ix_nwA h ct n.toNatClampNeg) = some fin := hs
    obtain ⟨hn0, hn1⟩ := ix_in_spec hin
    have h1 := hn 0 _ _ _ hs
    rw [ht] at h1
    obtain ⟨x1, x2, x3, x4, x5⟩ := hc.2.2.2.1
    have z1 : ix_sz h + 1 ≤ ix_sz fin.2 := h1.1.1
    have z2 : ix_sl h + n.toNatClampNeg ≤ ix_sl fin.2 := h1.1.2
    refine ⟨⟨by omega, by omega⟩, fun H locs ls cells slots ho hl => ?_⟩
    have c1 := ho.2.2
    have hHz : H.size = ix_sz h := ho.1.1
    have hcb : componentBytes et ≤ 8 := by rw [← hty]; cases atype <;> decide
    subst hty
    refine va_newaK hc.1.1 hc.1.2.1 (hc.1.2.2.2.2 _ q1) rfl hd rfl hn0 rfl ?_ (by omega) (by omega) rfl fun H1 cA e1 w1 o1 hAr hNm => ?_
    · have := Nat.mul_le_mul hn1 hcb
      omega
    have hcA : cA = E.2.2.2.1.1.2.2.1 ct := by
      have hRA := (hc.2.2.1.2.1 ct _ hel).2
      have : E.2.1.1.vm.findClass ("[" ++ (newarray.typeOf atype).toString) = some (E.2.2.2.1.1.2.2.1 ct) := by
        revert hRA
        cases atype <;> exact id
      exact Option.some.inj (hNm.symm.trans this)
    rw [hcA] at e1
    have hkk : iy_kI (newarray.typeOf atype) = true ∨ iy_kL (newarray.typeOf atype) = true ∨ iy_kR (newarray.typeOf atype) = true := by
      rcases Bool.or_eq_true _ _ |>.mp hk with h | h
      · exact Or.inl h
      · exact Or.inr (Or.inl h)
    have hon := iy_newA_on hel hkk (by cases atype <;> rfl) ho w1 o1 e1
    have h2 := h1.2 H1 locs ls (cells + 1) (slots + n.toNatClampNeg) hon hl
    rw [← hHz] at h2
    exact h2
  · cases hs
theorem ok_newR {ct idx : Nat} {C : String} (hel : iy_el ct = some (.object C)) (q1 : Cond.classLink own idx C ∈ lw_all) (q2 : Cond.arrayOver (.object C) ∈ lw_tbl) (hd : decode cc pc = .ok (.anewarray idx, 3)) (ht : tg 0 = pc + 3) : iy_ok iy_cal own nm cc nL ret pc tg bt (sx_newA ct) := by
  intro d E fin hc cal nx bk hcal hn hbk l k h hs
  unfold sx_newA at hs
  split at hs
  · rename_i n k2
    cases hin : ix_in n 1000001 with
    | false => rw [hin] at hs; cases hs
    | true =>
    rw [hin] at hs
    replace hs : nx 0 l (ix_R (some (ix_sz h)) :: k2) (ix_nwA h ct n.toNatClampNeg) = some fin := hs
    obtain ⟨hn0, hn1⟩ := ix_in_spec hin
    have h1 := hn 0 _ _ _ hs
    rw [ht] at h1
    obtain ⟨x1, x2, x3, x4, x5⟩ := hc.2.2.2.1
    have z1 : ix_sz h + 1 ≤ ix_sz fin.2 := h1.1.1
    have z2 : ix_sl h + n.toNatClampNeg ≤ ix_sl fin.2 := h1.1.2
    refine ⟨⟨by omega, by omega⟩, fun H locs ls cells slots ho hl => ?_⟩
    have c1 := ho.2.2
    have hHz : H.size = ix_sz h := ho.1.1
    refine W.anew hc.1.1 hc.1.2.1 hc.1.2.2.2.1 (hc.1.2.2.2.2 _ q1) (va_AO.use (hc.2.2.1.2.2.2.1.1 C q2)) rfl hd rfl hn0 (by omega) (by omega) (by omega) fun cA kA comp f1 f2 f3 f4 => ?_
    generalize hH1 : H.push ({ cls := cA, slots := Array.replicate n.toNatClampNeg .null, vm := .none } : Cell) = H1
    have w1 : H1.size = H.size + 1 := by rw [← hH1, Array.size_push]
    have e1 : H1[H.size]? = some (arrV cA n.toNatClampNeg (fun _ => .null)) := by rw [← hH1, Array.getElem?_push_size, ← arrV_new]
    have o1 : ∀ q : Nat, q < H.size → H1[q]? = H[q]? := fun q hq => by rw [← hH1, Array.getElem?_push, if_neg (Nat.ne_of_lt hq)]
    have hcA : cA = E.2.2.2.1.1.2.2.1 ct := by
      obtain ⟨-, -, -, -, -, h4⟩ := (hc.2.2.1.2.1 ct _ hel).2
      exact Option.some.inj (f1.symm.trans h4)
    rw [hcA] at e1
    have hon := iy_newA_on hel (Or.inr (Or.inr rfl)) rfl ho w1 o1 e1
    have h2 := h1.2 H1 locs ls (cells + 1) (slots + n.toNatClampNeg) hon hl
    rw [← hHz] at h2
    exact h2
  · cases hs
/-- the tag τ is of a class (ours or only read) that may be cast to C -/
def iy_can (C : String) (τ : Nat) : Prop := ∃ (ci : Nat) (r : vw_C), (τ = ci + 1 ∨ τ = ci + 513) ∧ ci < 100 ∧ iy_cl[ci]? = some r ∧ iy_ro ci ≤ iy_n ci ∧ (r.1 = C ∨ Cond.castable r.1 C ∈ lw_tbl)
theorem ix_of_spec {h : ix_H} {ts : List Nat} {a : Nat} (e : ix_of h ts (some a) = true) : ix_tg h a ∈ ts := by
  simp only [ix_of, List.any_eq_true] at e
  obtain ⟨t, h1, h2⟩ := e
  rw [Nat.eq_of_beq_eq_true h2]
  exact h1
theorem iy_can_at {E : iy_E} {h : ix_H} {H : Heap} {locs : List Loc} {cells slots a : Nat} {C : String} (ho : iy_on E h H locs cells slots) (hK : iy_K E.2.2.2.1.1 E.2.1.1) (hcan : iy_can C (ix_tg h a)) : ∃ (cell : Cell) (r : vw_C) (ci : Nat), iy_cl[ci]? = some r ∧ H[a]? = some cell ∧ cell.vm.isStatics = false ∧ E.2.1.1.vm.findClass r.1 = some cell.cls ∧ (r.1 = C ∨ Cond.castable r.1 C ∈ lw_tbl) := by
  obtain ⟨ci, r, h1, h2, h3, h4, h5⟩ := hcan
  obtain ⟨cell, c1, c2, c3⟩ := iy_recv ho hK h3 h2 h4 (a := a) (by omega)
  exact ⟨cell, r, ci, h3, c1, c2, c3, h5⟩
theorem iy_assign {E : iy_E} {C : String} {cell : Cell} {r : vw_C} {ci : Nat} {comp : ClassId} (hK : iy_K E.2.2.2.1.1 E.2.1.1) (hcl : iy_cl[ci]? = some r) (h1 : E.2.1.1.vm.findClass r.1 = some cell.cls) (h2 : r.1 = C ∨ Cond.castable r.1 C ∈ lw_tbl) (hcomp : E.2.1.1.vm.findClass C = some comp) : E.2.1.1.vm.assignable cell.cls comp = true := by
  rcases h2 with e | e
  · subst e
    cases h1.symm.trans hcomp
    have := (hK.1.1 ci r hcl).2
    have h3 : E.2.2.2.1.1.1 ci = cell.cls := Option.some.inj (this.1.symm.trans h1)
    exact va_assign (by rw [← h3]; exact this)
  · obtain ⟨c0, t0, f1, f2, f3⟩ := Cond.castable_spec (va_Nw.use (A := #[]) rfl (hK.2.2.1 _ e rfl))
    cases h1.symm.trans f1
    cases hcomp.symm.trans f2
    exact f3
theorem ok_asR {ct : Nat} {C : String} {ts : List Nat} (hel : iy_el ct = some (.object C)) (hts : ∀ τ ∈ ts, iy_can C τ) (hd : decode cc pc = .ok (.aastore, 1)) (ht : tg 0 = pc + 1) : iy_ok iy_cal own nm cc nL ret pc tg bt (sx_asR ct ts) := by
  intro d E fin hc cal nx bk hcal hn hbk l k h hs
  unfold sx_asR at hs
  split at hs
  · rename_i x i r0 k2
    obtain ⟨a, ha, h2⟩ := Option.bind_eq_some_iff.mp hs
    obtain ⟨⟨rfl, htg⟩, hin⟩ := ix_at_spec ha
    cases hx : ix_of h ts x with
    | false => rw [hx] at h2; cases h2
    | true =>
    rw [hx] at h2
    replace h2 : nx 0 l k2 (ix_waR h a i.toNatClampNeg x) = some fin := h2
    have h1 := hn 0 _ _ _ h2
    rw [ht] at h1
    have hg := iy_el_ge hel
    have hlt : i.toNatClampNeg < ix_ln h a := Nat.not_le.mp fun q => hin (Or.inr q)
    have hr : ix_aR (ix_waR h a i.toNatClampNeg x) a i.toNatClampNeg = x := if_pos ⟨rfl, rfl⟩
    have hr2 : ∀ q, q ≠ i.toNatClampNeg → ix_aR (ix_waR h a i.toNatClampNeg x) a q = ix_aR h a q := fun q z => if_neg fun y => z y.2
    refine iy_put (h1 := ix_waR h a i.toNatClampNeg x) rfl rfl h1 fun H locs ls cells slots ho hl kk => ?_
    have hA := iy_aw_of ho.1 hel htg
    have key : ∀ (H' : Heap), H'[a]? = some ((arrV (E.2.2.2.1.1.2.2.1 ct) (ix_ln h a) (fun j => iy_av (.object C) h a j)).setSlot i.toNatClampNeg (va_rf x)) → H'.size = H.size → (∀ q, q ≠ a → H'[q]? = H[q]?) → iy_W E H' (locs ++ [⟨a, i.toNatClampNeg⟩]) cells slots (F0 E.2.1.2.1 (pc + 1) ls (k2.map iy_v)) := by
      intro H' z1 z2 z3
      refine kk H' _ (ho.put (by rw [htg]; omega) (by rw [htg]; omega) z2 z3 rfl rfl rfl rfl (fun b hb => ⟨rfl, rfl, rfl, rfl, rfl, rfl, rfl, funext fun q => if_neg fun z => hb z.1⟩) (iy_at_A hel htg ⟨?_, fun j hj => ?_⟩))
      · rw [z1, arrV_store]
        show some (arrV _ (ix_ln h a) _) = some (arrV _ (ix_ln h a) _)
        congr 2
        funext q
        show updV _ _ _ q = va_rf (ix_aR (ix_waR h a i.toNatClampNeg x) a q)
        unfold updV
        by_cases hq : q = i.toNatClampNeg
        · subst hq
          rw [hr]
          exact if_pos rfl
        · rw [if_neg hq, hr2 q hq]
          rfl
      · show fits (.object C) (va_rf _) = true
        cases ix_aR (ix_waR h a i.toNatClampNeg x) a j <;> rfl
    cases x with
    | none => exact va_WaastN hc.1.1 hc.1.2.1 hA.1 ((hc.2.2.1.2.1 ct _ hel).1 _ _) (fun q => by cases q) (by rw [arrV_size]; exact hin) rfl rfl hd key
    | some v =>
      obtain ⟨cv, r, ci, y1, y2, y3, y4, y5⟩ := iy_can_at ho hc.2.2.1 (hts _ (ix_of_spec hx))
      obtain ⟨kA, comp, k1, k2, k3, -⟩ := (hc.2.2.1.2.1 ct _ hel).2
      obtain ⟨kv, hkv, -⟩ := Vm.findClass_spec y4
      obtain ⟨kc, hkc, -⟩ := Vm.findClass_spec k3
      refine W.aast hc.1.1 hc.1.2.1 hA.1 (fun q h => by cases h) (fun h => by cases h) k1 k2 rfl hkc ⟨fun q => hin (Or.inl q), by rw [arrV_size]; exact hlt⟩ y2 (fun q h => by rw [h] at y3; cases y3) hkv (iy_assign hc.2.2.1 y1 y4 y5 k3) rfl rfl hd key
  · cases hs
theorem ok_cast {idx : Nat} {C : String} {ts : List Nat} (hts : ∀ τ ∈ ts, iy_can C τ) (q1 : Cond.classLink own idx C ∈ lw_all) (hd : decode cc pc = .ok (.checkcast idx, 3)) (ht : tg 0 = pc + 3) : iy_ok iy_cal own nm cc nL ret pc tg bt (sx_cast ts) := by
  intro d E fin hc cal nx bk hcal hn hbk l k h hs
  unfold sx_cast at hs
  split at hs
  · rename_i x k2
    cases hx : ix_of h ts x with
    | false => rw [hx] at hs; cases hs
    | true =>
    rw [hx] at hs
    replace hs : nx 0 l (ix_R x :: k2) h = some fin := hs
    have h1 := hn 0 _ _ _ hs
    rw [ht] at h1
    refine iy_step h1 fun H locs ls cells slots ho hl kk => ?_
    cases x with
    | none => exact lv_castN hc.1.1 hc.1.2.1 hd (kk ls hl)
    | some v =>
      obtain ⟨cv, r, ci, y1, y2, y3, y4, y5⟩ := iy_can_at ho hc.2.2.1 (hts _ (ix_of_spec hx))
      rcases y5 with e | e
      · subst e
        exact va_castS hc.1.1 hc.1.2.1 hc.1.2.2.2.1 (hc.1.2.2.2.2 _ q1) (hc.2.2.1.1.1 ci r y1).2 ⟨cv, y2, y3, y4⟩ hd (kk ls hl)
      · exact va_castY hc.1.1 hc.1.2.1 hc.1.2.2.2.1 (hc.1.2.2.2.2 _ q1) (hc.2.2.1.2.2.1 _ e rfl) ⟨cv, y2, y3, y4⟩ hd (kk ls hl)
  · cases hs
theorem ok_inst {idx : Nat} {C : String} {ts : List Nat} (hts : ∀ τ ∈ ts, iy_can C τ) (q1 : Cond.classLink own idx C ∈ lw_all) (hd : decode cc pc = .ok (.instanceof idx, 3)) (ht : tg 0 = pc + 3) : iy_ok iy_cal own nm cc nL ret pc tg bt (sx_inst ts) := by
  intro d E fin hc cal nx bk hcal hn hbk l k h hs
  unfold sx_inst at hs
  split at hs
  · rename_i a k2
    cases hx : ts.any (fun t => Nat.beq (ix_tg h a % 512) t) with
    | false => rw [hx] at hs; cases hs
    | true =>
    rw [hx] at hs
    replace hs : nx 0 l (ix_I 1 :: k2) h = some fin := hs
    have h1 := hn 0 _ _ _ hs
    rw [ht] at h1
    refine iy_step h1 fun H locs ls cells slots ho hl kk => ?_
    simp only [List.any_eq_true] at hx
    obtain ⟨t, w1, w2⟩ := hx
    obtain ⟨ci, r, z1, z2, z3, z4, z5⟩ := hts _ w1
    have w3 := Nat.eq_of_beq_eq_true w2
    obtain ⟨cv, y2, y3, y4⟩ := iy_recv ho hc.2.2.1 z3 z2 z4 (a := a) (by omega)
    rcases z5 with e | e
    · subst e
      exact va_instS hc.1.1 hc.1.2.1 hc.1.2.2.2.1 (hc.1.2.2.2.2 _ q1) (hc.2.2.1.1.1 ci r z3).2 ⟨cv, y2, y3, y4⟩ hd (kk ls hl)
    · exact va_instY hc.1.1 hc.1.2.1 hc.1.2.2.2.1 (hc.1.2.2.2.2 _ q1) (hc.2.2.1.2.2.1 _ e rfl) ⟨cv, y2, y3, y4⟩ hd (kk ls hl)
  · cases hs
/-- a cast of an array of the tag ct to its own class -/
theorem ok_castA {ct idx : Nat} {C nm2 : String} (hel : iy_el ct = some (.object C)) (hnm2 : "[" ++ (FieldType.object C).toString = nm2) (q1 : Cond.classLink own idx nm2 ∈ lw_all) (hd : decode cc pc = .ok (.checkcast idx, 3)) (ht : tg 0 = pc + 3) : iy_ok iy_cal own nm cc nL ret pc tg bt (sx_cast [ct]) := by
  intro d E fin hc cal nx bk hcal hn hbk l k h hs
  unfold sx_cast at hs
  split at hs
  · rename_i x k2
    cases hx : ix_of h [ct] x with
    | false => rw [hx] at hs; cases hs
    | true =>
    rw [hx] at hs
    replace hs : nx 0 l (ix_R x :: k2) h = some fin := hs
    have h1 := hn 0 _ _ _ hs
    rw [ht] at h1
    refine iy_step h1 fun H locs ls cells slots ho hl kk => ?_
    cases x with
    | none => exact lv_castN hc.1.1 hc.1.2.1 hd (kk ls hl)
    | some v =>
      have htg : ix_tg h v = ct := by simpa using ix_of_spec hx
      have hA := iy_aw_of ho.1 hel htg
      have hA2 := (hc.2.2.1.2.1 ct _ hel)
      exact va_castA hc.1.1 hc.1.2.1 hc.1.2.2.2.1 (hc.1.2.2.2.2 _ q1) (D := iy_D E.2.2.2.1.1) (cl := iy_cl) (ws := [(v, .inl (E.2.2.2.1.1.2.2.1 ct, ix_ln h v, .inr (.inr (.inr (.inr (fun j => ix_aR h v j))))))]) (by
        intro k q hq
        have hk : k < 1 := (List.getElem?_eq_some_iff.mp hq).1
        rw [show k = 0 by omega] at hq
        cases hq
        exact hA.1) 0 rfl (va_nmO hA2.2 hnm2) hd (kk ls hl)
  · cases hs
/-- a cast of a row of bytes -/
theorem ok_castB {idx : Nat} (q1 : Cond.classLink own idx "[B" ∈ lw_all) (hd : decode cc pc = .ok (.checkcast idx, 3)) (ht : tg 0 = pc + 3) : iy_ok iy_cal own nm cc nL ret pc tg bt (sx_cast [102]) := by
  intro d E fin hc cal nx bk hcal hn hbk l k h hs
  unfold sx_cast at hs
  split at hs
  · rename_i x k2
    cases hx : ix_of h [102] x with
    | false => rw [hx] at hs; cases hs
    | true =>
    rw [hx] at hs
    replace hs : nx 0 l (ix_R x :: k2) h = some fin := hs
    have h1 := hn 0 _ _ _ hs
    rw [ht] at h1
    refine iy_step h1 fun H locs ls cells slots ho hl kk => ?_
    cases x with
    | none => exact lv_castN hc.1.1 hc.1.2.1 hd (kk ls hl)
    | some v =>
      have htg : ix_tg h v = 102 := by simpa using ix_of_spec hx
      have hA := iy_aw_of ho.1 (et := .byte) rfl htg
      have hA2 := (hc.2.2.1.2.1 102 .byte rfl)
      exact va_castA hc.1.1 hc.1.2.1 hc.1.2.2.2.1 (hc.1.2.2.2.2 _ q1) (D := iy_D E.2.2.2.1.1) (cl := iy_cl) (ws := [(v, .inl (E.2.2.2.1.1.2.2.1 102, ix_ln h v, .inl (fun j => ix_aI h v j)))]) (by
        intro k q hq
        have hk : k < 1 := (List.getElem?_eq_some_iff.mp hq).1
        rw [show k = 0 by omega] at hq
        cases hq
        exact hA.1) 0 rfl (va_nm_byte hA2.2) hd (kk ls hl)
  · cases hs
theorem ok_oin {idx : Nat} (q1 : Cond.methodLink own idx Lib.objectInit ∈ lw_all) (q2 : Cond.instanceMethod Lib.objectInit ∈ lw_all) (q3 : Cond.code Lib.objectInit ⟨#[0xb1]⟩ 1 none ∈ lw_all) (hd : decode cc pc = .ok (.invokespecial idx, 3)) (ht : tg 0 = pc + 3) : iy_ok iy_cal own nm cc nL ret pc tg bt sx_oin := by
  intro d E fin hc cal nx bk hcal hn hbk l k h hs
  unfold sx_oin at hs
  split at hs
  · rename_i a k2
    cases hb : Nat.ble (ix_cat k2) 8 with
    | false => rw [hb] at hs; cases hs
    | true =>
    rw [hb] at hs
    replace hs : nx 0 l k2 h = some fin := hs
    have h1 := hn 0 _ _ _ hs
    rw [ht] at h1
    obtain ⟨x1, x2, x3, x4, x5⟩ := hc.2.2.2.1
    have hts := hc.1.2.2.2.2
    refine iy_step h1 fun H locs ls cells slots ho hl kk => W.objInit hc.1.1 hc.1.2.1 hc.1.2.2.2.1 (hts _ q1) (hts _ q2) (hts _ q3) rfl (by rw [hc.1.2.2.1]; exact hl.1) rfl hd (by omega) ?_ (kk ls hl)
    have h8 := lv_room (m := E.2.1.2.1) (pc := pc) (ls := ls) (rest := Value.ref a :: k2.map iy_v) (st := k2.map iy_v) (by rw [iy_cats]; exact Nat.le_of_ble_eq_true hb)
    have h9 : 2 * (F0 E.2.1.2.1 pc ls (Value.ref a :: k2.map iy_v)).monitorRoom + ((k2.map iy_v).map fun v => v.category).sum ≤ 8 := h8
    exact Nat.le_trans (Nat.add_le_add_right h9 12) (by omega)
  · cases hs
end
