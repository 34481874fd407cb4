/-! System.arraycopy, getClass, class constants -/
theorem iy_nn {z : Int32} (hz : ¬ z < 0) : z.toInt = (z.toNatClampNeg : Int) := by
  have hz0 : (0 : Int) ≤ z.toInt := by
    have := Int32.not_lt.mp hz
    simpa using Int32.le_iff_toInt_le.mp this
  show z.toInt = ((z.toInt.toNat : Nat) : Int)
  omega
section
variable {own nm : String} {cc : ByteArray} {nL : Nat} {ret : iy_T} {pc : Nat} {tg bt : Nat → Nat} {iy_cal : iy_E → Nat → ix_C → Prop}
/-- what the copy's rows of the tables say -/
def iy_cpw (own : String) (idx : Nat) : Prop := Cond.methodLink own idx arraycopyName ∈ lw_all ∧ Cond.native arraycopyName ∈ lw_all ∧ Cond.static arraycopyName ∈ lw_all ∧ Cond.initialized "java/lang/System" ∈ lw_all
theorem ok_cpyI {ct idx : Nat} {et : FieldType} (hel : iy_el ct = some et) (hk : iy_kI et = true) (hw : iy_cpw own idx) (hd : decode cc pc = .ok (.invokestatic idx, 3)) (ht : tg 0 = pc + 3) : iy_ok iy_cal own nm cc nL ret pc tg bt (sx_cpyI ct) := by
  intro d E fin hc cal nx bk hcal hn hbk l k h hs
  unfold sx_cpyI at hs
  split at hs
  · rename_i n dp r1 sp r0 k2
    obtain ⟨a, ha, hs2⟩ := Option.bind_eq_some_iff.mp hs
    obtain ⟨b, hb, hs3⟩ := Option.bind_eq_some_iff.mp hs2
    obtain ⟨rfl, hta⟩ := ix_is_spec ha
    obtain ⟨rfl, htb⟩ := ix_is_spec hb
    clear hs hs2
    split at hs3
    · rename_i hcnd
      obtain ⟨h3, h2, h1, h4, h5, h6⟩ := hcnd
      have hg := iy_el_ge hel
      have z1 := hn 0 _ _ _ hs3
      rw [ht] at z1
      obtain ⟨x1, x2, x3, x4, x5⟩ := hc.2.2.2.1
      refine iy_put (h1 := ix_cpI h a sp.toNatClampNeg b dp.toNatClampNeg n.toNatClampNeg) rfl rfl z1 fun H locs ls cells slots ho hl kk => ?_
      have hB := iy_aw_of ho.1 hel htb
      obtain ⟨cs, c1, ⟨c2, k0, hk0, cm0, hkk0⟩, c3, c4, c5, c6⟩ := iy_ar_of ho.1 hc.2.2.1 hel (show ix_tg h a % 512 = ct by omega)
      obtain ⟨-, k1, hk1, cm1, hkk1⟩ := (hc.2.2.1.2.1 ct _ hel).1 (ix_ln h b) (fun j => iy_av et h b j)
      have hts := hc.1.2.2.2.2
      intro T hT X
      have hprim : refKind et = false := by revert hk; cases et <;> intro hk <;> first | rfl | cases hk
      have hfit : ∀ j, j < ix_ln h a → fits et (iy_av et h a j) = true := (iy_aw_of ho.1 hel hta).2
      obtain ⟨vm', X', step⟩ := X.arraycopy hc.1.1 hc.1.2.2.2.1 (hts _ hw.1) (hts _ hw.2.1) (hts _ hw.2.2.1) (hts _ hw.2.2.2) (src := a) (dst := b) (cs := cs) (cd := arrV (E.2.2.2.1.1.2.2.1 ct) (ix_ln h b) (fun j => iy_av et h b j)) (srcPos := sp) (destPos := dp) (n := n) (by rw [hT]; exact c1) (by rw [hT]; exact hB.1)
        c2 (fun _ h => by cases h) c3 (fun h => by cases h) hk0 hk1 hkk0 hkk1 (by simp [hprim]) h1 h2 h3
        (by rw [iy_nn h1, iy_nn h3]; omega)
        (by rw [iy_nn h2, iy_nn h3, arrV_size]; omega)
        (fun vm₁ _ i hi => by
          have e : cs.slots.getD (sp.toNatClampNeg + i) .null = iy_av et h a (sp.toNatClampNeg + i) := by
            rw [Array.getD_eq_getD_getElem?, c6 _ (by omega)]
            rfl
          refine ⟨?_, ?_⟩
          · rw [e]
            exact hfit _ (by omega)
          · rw [e, iy_avI hk]
            exact trivial)
        (g := F0 E.2.1.2.1 pc ls (.int n :: .int dp :: .ref b :: .int sp :: .ref a :: k2.map iy_v)) rfl (by rw [hc.1.2.2.1]; exact hl.1) (rest := k2.map iy_v) rfl (by rw [hc.1.2.1]; exact hd) (by omega) (by
          have h9 := iy_cats k2
          have h10 : nativeFrameWords "java/lang/System" "arraycopy" 5 ≤ 20 := by decide
          show 2 * 0 + _ + _ ≤ _
          rw [h9]
          omega)
      have e0 : ∀ (w : Nat), iy_av et (ix_cpI h a sp.toNatClampNeg b dp.toNatClampNeg n.toNatClampNeg) b w = va_cpy (fun j => iy_av et h a j) (fun j => iy_av et h b j) sp.toNatClampNeg dp.toNatClampNeg n.toNatClampNeg w := by
        intro w
        rw [iy_avI hk]
        unfold va_cpy
        by_cases hq : dp.toNatClampNeg ≤ w ∧ w < dp.toNatClampNeg + n.toNatClampNeg
        · rw [if_pos hq]
          show _ = iy_av et h a _
          rw [iy_avI hk]
          exact congrArg Value.int (if_pos ⟨rfl, hq.1, hq.2⟩)
        · rw [if_neg hq]
          show _ = iy_av et h b w
          rw [iy_avI hk]
          exact congrArg Value.int (if_neg fun y => hq ⟨y.2.1, y.2.2⟩)
      have e1 : copied cs (arrV (E.2.2.2.1.1.2.2.1 ct) (ix_ln h b) (fun j => iy_av et h b j)) sp dp n = arrV (E.2.2.2.1.1.2.2.1 ct) (ix_ln h b) (fun j => iy_av et (ix_cpI h a sp.toNatClampNeg b dp.toNatClampNeg n.toNatClampNeg) b j) := by
        rw [show (fun j => iy_av et (ix_cpI h a sp.toNatClampNeg b dp.toNatClampNeg n.toNatClampNeg) b j) = _ from funext e0]
        exact va_copiedX (fun z => z) cs _ (fun j => iy_av et h a j) (fun j => iy_av et h b j) c6 h4
      rw [e1] at X' step
      generalize hnew : arrV (E.2.2.2.1.1.2.2.1 ct) (ix_ln h b) (fun j => iy_av et (ix_cpI h a sp.toNatClampNeg b dp.toNatClampNeg n.toNatClampNeg) b j) = cn at X' step
      have hlb : b < H.size := (Array.getElem?_eq_some_iff.mp hB.1).1
      have hheap : ((T.setVm vm').setCell b cn).heap = H.setIfInBounds b cn := by rw [← hT]; rfl
      have oq : ∀ q : Nat, q ≠ b → (H.setIfInBounds b cn)[q]? = H[q]? := fun q hq => by simp [Array.getElem?_setIfInBounds, Ne.symm hq]
      obtain ⟨hR, hS, hcc, hss⟩ := ho
      have hbB := (hR.2.2.2.1 b (by omega)).2.2.1 (by omega)
      have hR1 : iy_Rep E.2.2.2.1.1 E.2.2.2.1.2.1 (ix_cpI h a sp.toNatClampNeg b dp.toNatClampNeg n.toNatClampNeg) E.2.1.1 (H.setIfInBounds b cn) := by
        refine hR.put (a := b) (by omega) (by omega) (by simp) oq rfl rfl rfl (fun q hq => ⟨rfl, rfl, rfl, rfl, rfl, funext fun w => if_neg fun z => hq z.1, rfl, rfl⟩) (iy_at_A hel htb ⟨?_, fun j hj => ?_⟩)
        · refine Eq.trans ?_ (congrArg some hnew.symm)
          simp [Array.getElem?_setIfInBounds, hlb]
        · rw [e0]
          unfold va_cpy
          split
          · exact hfit _ (by omega)
          · exact hB.2 j hj
      obtain ⟨t, a1, b1⟩ := kk (H.setIfInBounds b cn) _ ⟨hR1, ⟨by simp; exact hS.1, fun q g1 g2 => by
          rw [oq q (fun e => g2 (by rw [e]; exact hbB))]
          exact hS.2.1 q g1 g2, fun q hq => by
          rcases List.mem_append.mp hq with h | h
          · exact hS.2.2 q h
          · obtain ⟨z, -, hz⟩ := List.mem_map.mp h
            rw [← hz]
            exact hbB⟩, hcc, hss⟩ _ hheap X'
      exact ⟨t, step t a1, b1⟩
    · cases hs3
  · cases hs
theorem ok_cpyR {ct idx : Nat} {C : String} {ts : List Nat} (hel : iy_el ct = some (.object C)) (hcan : ∀ τ ∈ ts, iy_can C τ) (hw : iy_cpw own idx) (hd : decode cc pc = .ok (.invokestatic idx, 3)) (ht : tg 0 = pc + 3) : iy_ok iy_cal own nm cc nL ret pc tg bt (sx_cpyR ct ts) := by
  intro d E fin hc cal nx bk hcal hn hbk l k h hs
  unfold sx_cpyR at hs
  split at hs
  · rename_i n dp r1 sp r0 k2
    obtain ⟨a, ha, hs2⟩ := Option.bind_eq_some_iff.mp hs
    obtain ⟨b, hb, hs3⟩ := Option.bind_eq_some_iff.mp hs2
    obtain ⟨rfl, hta⟩ := ix_is_spec ha
    obtain ⟨rfl, htb⟩ := ix_is_spec hb
    clear hs hs2
    split at hs3
    · rename_i hcnd
      obtain ⟨h3, h2, h1, h4, h5, h6, h7⟩ := hcnd
      have hg := iy_el_ge hel
      have z1 := hn 0 _ _ _ hs3
      rw [ht] at z1
      obtain ⟨x1, x2, x3, x4, x5⟩ := hc.2.2.2.1
      refine iy_put (h1 := ix_cpR h a sp.toNatClampNeg b dp.toNatClampNeg n.toNatClampNeg) rfl rfl z1 fun H locs ls cells slots ho hl kk => ?_
      have hB := iy_aw_of ho.1 hel htb
      obtain ⟨cs, c1, ⟨c2, k0, hk0, cm0, hkk0⟩, c3, c4, c5, c6⟩ := iy_ar_of ho.1 hc.2.2.1 hel (show ix_tg h a % 512 = ct by omega)
      obtain ⟨-, k1, hk1, cm1, hkk1⟩ := (hc.2.2.1.2.1 ct _ hel).1 (ix_ln h b) (fun j => iy_av (.object C) h b j)
      have hts := hc.1.2.2.2.2
      intro T hT X
      have hfit : ∀ j, j < ix_ln h a → fits (.object C) (iy_av (.object C) h a j) = true := (iy_aw_of ho.1 hel hta).2
      obtain ⟨vm', X', step⟩ := X.arraycopy hc.1.1 hc.1.2.2.2.1 (hts _ hw.1) (hts _ hw.2.1) (hts _ hw.2.2.1) (hts _ hw.2.2.2) (src := a) (dst := b) (cs := cs) (cd := arrV (E.2.2.2.1.1.2.2.1 ct) (ix_ln h b) (fun j => iy_av (.object C) h b j)) (srcPos := sp) (destPos := dp) (n := n) (by rw [hT]; exact c1) (by rw [hT]; exact hB.1)
        c2 (fun _ h => by cases h) c3 (fun h => by cases h) hk0 hk1 hkk0 hkk1 rfl h1 h2 h3
        (by rw [iy_nn h1, iy_nn h3]; omega)
        (by rw [iy_nn h2, iy_nn h3, arrV_size]; omega)
        (fun vm₁ hal i hi => by
          have e : cs.slots.getD (sp.toNatClampNeg + i) .null = iy_av (.object C) h a (sp.toNatClampNeg + i) := by
            rw [Array.getD_eq_getD_getElem?, c6 _ (by omega)]
            rfl
          rw [e]
          show fits (.object C) (va_rf (ix_aR h a (sp.toNatClampNeg + i))) = true ∧ _
          have h8 := h7 i hi
          have e9 : iy_av (.object C) h a (sp.toNatClampNeg + i) = va_rf (ix_aR h a (sp.toNatClampNeg + i)) := rfl
          rw [e9]
          cases hy : ix_aR h a (sp.toNatClampNeg + i) with
          | none => exact ⟨rfl, trivial⟩
          | some y =>
            rw [hy] at h8
            obtain ⟨cv, r, ci, y1, y2, y3, y4, y5⟩ := iy_can_at ho hc.2.2.1 (hcan _ (ix_of_spec h8))
            obtain ⟨kA, comp, w1, w2, w3, -⟩ := (hc.2.2.1.2.1 ct _ hel).2
            have hal : E.2.1.1.vm.Alike vm₁ := hal
            cases hk1.symm.trans w1
            cases hkk1.symm.trans w2
            obtain ⟨kC, hkC, -⟩ := Vm.findClass_spec y4
            obtain ⟨kE, hkE, -⟩ := Vm.findClass_spec w3
            obtain ⟨kC', hkC', -⟩ := hal.2.2 _ _ hkC
            obtain ⟨kE', hkE', -⟩ := hal.2.2 _ _ hkE
            refine ⟨rfl, cv, (show T.heap[y]? = some cv by rw [hT]; exact y2), (fun q h => by rw [h] at y3; cases y3), ⟨kC', hkC'⟩, ⟨kE', hkE'⟩, ?_⟩
            show vm₁.assignable _ _ = true
            rw [hal.assignable]
            exact iy_assign hc.2.2.1 y1 y4 y5 w3)
        (g := F0 E.2.1.2.1 pc ls (.int n :: .int dp :: .ref b :: .int sp :: .ref a :: k2.map iy_v)) rfl (by rw [hc.1.2.2.1]; exact hl.1) (rest := k2.map iy_v) rfl (by rw [hc.1.2.1]; exact hd) (by omega) (by
          have h9 := iy_cats k2
          have h10 : nativeFrameWords "java/lang/System" "arraycopy" 5 ≤ 20 := by decide
          show 2 * 0 + _ + _ ≤ _
          rw [h9]
          omega)
      have e0 : ∀ (w : Nat), iy_av (.object C) (ix_cpR h a sp.toNatClampNeg b dp.toNatClampNeg n.toNatClampNeg) b w = va_cpy (fun j => iy_av (.object C) h a j) (fun j => iy_av (.object C) h b j) sp.toNatClampNeg dp.toNatClampNeg n.toNatClampNeg w := by
        intro w
        show va_rf _ = _
        unfold va_cpy
        by_cases hq : dp.toNatClampNeg ≤ w ∧ w < dp.toNatClampNeg + n.toNatClampNeg
        · rw [if_pos hq]
          exact congrArg va_rf (if_pos ⟨rfl, hq.1, hq.2⟩)
        · rw [if_neg hq]
          exact congrArg va_rf (if_neg fun y => hq ⟨y.2.1, y.2.2⟩)
      have e1 : copied cs (arrV (E.2.2.2.1.1.2.2.1 ct) (ix_ln h b) (fun j => iy_av (.object C) h b j)) sp dp n = arrV (E.2.2.2.1.1.2.2.1 ct) (ix_ln h b) (fun j => iy_av (.object C) (ix_cpR h a sp.toNatClampNeg b dp.toNatClampNeg n.toNatClampNeg) b j) := by
        rw [show (fun j => iy_av (.object C) (ix_cpR h a sp.toNatClampNeg b dp.toNatClampNeg n.toNatClampNeg) b j) = _ from funext e0]
        exact va_copiedX (fun z => z) cs _ (fun j => iy_av (.object C) h a j) (fun j => iy_av (.object C) h b j) c6 h4
      rw [e1] at X' step
      generalize hnew : arrV (E.2.2.2.1.1.2.2.1 ct) (ix_ln h b) (fun j => iy_av (.object C) (ix_cpR h a sp.toNatClampNeg b dp.toNatClampNeg n.toNatClampNeg) b j) = cn at X' step
      have hlb : b < H.size := (Array.getElem?_eq_some_iff.mp hB.1).1
      have hheap : ((T.setVm vm').setCell b cn).heap = H.setIfInBounds b cn := by rw [← hT]; rfl
      have oq : ∀ q : Nat, q ≠ b → (H.setIfInBounds b cn)[q]? = H[q]? := fun q hq => by simp [Array.getElem?_setIfInBounds, Ne.symm hq]
      obtain ⟨hR, hS, hcc, hss⟩ := ho
      have hbB := (hR.2.2.2.1 b (by omega)).2.2.1 (by omega)
      have hR1 : iy_Rep E.2.2.2.1.1 E.2.2.2.1.2.1 (ix_cpR h a sp.toNatClampNeg b dp.toNatClampNeg n.toNatClampNeg) E.2.1.1 (H.setIfInBounds b cn) := by
        refine hR.put (a := b) (by omega) (by omega) (by simp) oq rfl rfl rfl (fun q hq => ⟨rfl, rfl, rfl, rfl, rfl, rfl, rfl, funext fun w => if_neg fun z => hq z.1⟩) (iy_at_A hel htb ⟨?_, fun j hj => ?_⟩)
        · refine Eq.trans ?_ (congrArg some hnew.symm)
          simp [Array.getElem?_setIfInBounds, hlb]
        · rw [e0]
          unfold va_cpy
          split
          · exact hfit _ (by omega)
          · exact hB.2 j hj
      obtain ⟨t, a1, b1⟩ := kk (H.setIfInBounds b cn) _ ⟨hR1, ⟨by simp; exact hS.1, fun q g1 g2 => by
          rw [oq q (fun e => g2 (by rw [e]; exact hbB))]
          exact hS.2.1 q g1 g2, fun q hq => by
          rcases List.mem_append.mp hq with h | h
          · exact hS.2.2 q h
          · obtain ⟨z, -, hz⟩ := List.mem_map.mp h
            rw [← hz]
            exact hbB⟩, hcc, hss⟩ _ hheap X'
      exact ⟨t, step t a1, b1⟩
    · cases hs3
  · cases hs
/-- the class constant of an array of objects -/
theorem ok_ldcM {idx : Nat} (q1 : Cond.classLink own idx "[Ljava/lang/Object;" ∈ lw_all) (hd : decode cc pc = .ok (.ldc idx, 2)) (ht : tg 0 = pc + 2) : iy_ok iy_cal own nm cc nL ret pc tg bt (sx_cst 43) := by
  intro d E fin hc cal nx bk hcal hn hbk l k h hs
  have h1 := hn 0 _ _ _ hs
  rw [ht] at h1
  refine iy_step h1 fun H locs ls cells slots ho hl kk => ?_
  have := kk ls hl
  rw [ho.1.2.2.1] at this
  exact va_ldcM hc.1.1 hc.1.2.1 hc.1.2.2.2.1 (hc.1.2.2.2.2 _ q1) hc.2.2.1.2.2.2.1.2 hd this
theorem ok_gcl {ct idx : Nat} (hct : ct = 115) (q1 : Cond.methodLink own idx ⟨"java/lang/Object", "getClass", "()Ljava/lang/Class;"⟩ ∈ lw_all) (q2 : Cond.declares ⟨"java/lang/Object", "getClass", "()Ljava/lang/Class;"⟩ ∈ lw_tbl) (q3 : Cond.selects "[Ljava/lang/Object;" ⟨"java/lang/Object", "getClass", "()Ljava/lang/Class;"⟩ ⟨"java/lang/Object", "getClass", "()Ljava/lang/Class;"⟩ ∈ lw_all) (q4 : Cond.instanceMethod ⟨"java/lang/Object", "getClass", "()Ljava/lang/Class;"⟩ ∈ lw_all) (q5 : Cond.native ⟨"java/lang/Object", "getClass", "()Ljava/lang/Class;"⟩ ∈ lw_all) (hd : decode cc pc = .ok (.invokevirtual idx, 3)) (ht : tg 0 = pc + 3) : iy_ok iy_cal own nm cc nL ret pc tg bt (sx_gcl ct 43) := by
  subst hct
  intro d E fin hc cal nx bk hcal hn hbk l k h hs
  unfold sx_gcl at hs
  split at hs
  · rename_i r0 k2
    obtain ⟨a, ha, hs2⟩ := Option.bind_eq_some_iff.mp hs
    obtain ⟨rfl, hta⟩ := ix_is_spec ha
    cases hb : Nat.ble (ix_cat k2) 8 with
    | false => rw [hb] at hs2; cases hs2
    | true =>
    have h8 := Nat.le_of_ble_eq_true hb
    have h1 := hn 0 _ _ _ (ix_cnd hs2)
    rw [ht] at h1
    obtain ⟨x1, x2, x3, x4, x5⟩ := hc.2.2.2.1
    refine iy_step h1 fun H locs ls cells slots ho hl kk => ?_
    have := kk ls hl
    rw [ho.1.2.2.1] at this
    have hel : iy_el 115 = some (.object "java/lang/Object") := rfl
    have hts := hc.1.2.2.2.2
    have hA := iy_aw_of ho.1 hel hta
    have hM := hc.2.2.1.2.2.2.1.2
    exact va_getC hc.1.1 hc.1.2.1 (by rw [hc.1.2.2.1]; exact hl.1.symm) hc.1.2.2.2.1 (hts _ q1) (va_Nw.use rfl (hc.2.2.1.2.2.1 _ q2 rfl)) (hts _ q3) (hts _ q4) (hts _ q5) hM ⟨_, hA.1, rfl, va_nmO (hc.2.2.1.2.1 115 _ hel).2 rfl⟩ (by omega) (by rw [iy_cats]; omega) hd this
  · cases hs
theorem ok_lcmp (hd : decode cc pc = .ok (.lcmp, 1)) (ht : tg 0 = pc + 1) : iy_ok iy_cal own nm cc nL ret pc tg bt sx_lcmp := by
  intro d E fin hc cal nx bk hcal hn hbk l k h hs
  unfold sx_lcmp at hs
  split at hs
  · have h1 := hn 0 _ _ _ hs
    rw [ht] at h1
    exact iy_step h1 fun H locs ls cells slots ho hl kk => W.lcmp hc.1.1 hc.1.2.1 hd (kk ls hl)
  · cases hs
end
theorem iy_ro_le (c : Nat) : iy_ro c ≤ iy_n c := by
  unfold iy_ro
  split
  · rename_i h; rw [h]; decide
  · exact Nat.zero_le _
theorem iy_nc {r : Option FieldType} {pc : Nat} : iy_nocov (r, []) pc := fun x hx => by cases hx
