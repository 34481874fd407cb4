/-! SOUNDNESS of the steps on fields and arrays. Written by gen_sound3.py -/
theorem iy_on.put {E : iy_E} {h h1 : ix_H} {H H1 : Heap} {locs : List Loc} {cells slots a k : Nat} (ho : iy_on E h H locs cells slots) (ht : ix_tg h a ≠ 0) (hw : ix_tg h a < 512) (hz : H1.size = H.size) (hq : ∀ q, q ≠ a → H1[q]? = H[q]?) (e0 : ix_sl h1 = ix_sl h) (e1 : ix_sz h1 = ix_sz h) (e2 : ix_cs h1 = ix_cs h) (e3 : ix_tg h1 = ix_tg h) (hs : ∀ b, b ≠ a → iy_same h h1 b) (ha : iy_at E.2.2.2.1.1 h1 E.2.1.1 H1 a) : iy_on E h1 H1 (locs ++ [⟨a, k⟩]) cells slots := by
  obtain ⟨hR, hS, c1, c2⟩ := ho
  exact ⟨hR.put ht hw hz hq e1 e2 e3 hs ha, hS.put hz hq ((hR.2.2.2.1 a ht).2.2.1 hw), by rw [e1]; exact c1, by rw [e0]; exact c2⟩
/-- the goal behind a write -/
theorem iy_put {E : iy_E} {nL : Nat} {fin : iy_F} {pc pc2 : Nat} {l : ix_S} {k k2 : List ix_V} {h h1 : ix_H} (e1 : ix_sz h1 = ix_sz h) (e0 : ix_sl h1 = ix_sl h) (hs : iy_sim E nL fin pc2 l k2 h1)
    (row : ∀ (H : Heap) (locs : List Loc) (ls : Array Slot) (cells slots : Nat), iy_on E h H locs cells slots → lv_has ls nL (iy_ls l) → (∀ (H1 : Heap) (locs1 : List Loc), iy_on E h1 H1 locs1 cells slots → iy_W E H1 locs1 cells slots (F0 E.2.1.2.1 pc2 ls (k2.map iy_v))) → iy_W E H locs cells slots (F0 E.2.1.2.1 pc ls (k.map iy_v))) : iy_sim E nL fin pc l k h :=
  ⟨⟨by rw [← e1]; exact hs.1.1, by rw [← e0]; exact hs.1.2⟩, fun H locs ls cells slots ho hl => row H locs ls cells slots ho hl fun H1 locs1 ho1 => hs.2 H1 locs1 ls cells slots ho1 hl⟩
/-- what a small kind's check asks -/
def iy_tn : FieldType → Option Nat
  | .int => some 0
  | .boolean => some 1
  | .byte => some 2
  | .short => some 3
  | .char => some 4
  | _ => none
theorem iy_tnI {ty : FieldType} {t : Nat} (h : iy_tn ty = some t) : iy_kI ty = true := by cases ty <;> first | rfl | cases h
theorem iy_okn {ty : FieldType} {t : Nat} (h : iy_tn ty = some t) {x : Int32} (hx : ix_okn t x = true) : narrow ty (.int x) = .int x ∧ fits ty (.int x) = true := by
  cases ty with
  | int => exact ⟨rfl, rfl⟩
  | boolean =>
    cases h
    have h1 : x = 0 ∨ x = 1 := by simpa [ix_okn] using hx
    rcases h1 with rfl | rfl <;> exact ⟨rfl, rfl⟩
  | byte =>
    cases h
    have h1 : x.toInt8.toInt32 = x := by simpa [ix_okn, ix_nar] using hx
    have h2 : narrow .byte (.int x) = .int x := by show Value.int _ = _; rw [h1]
    exact ⟨h2, by rw [← h2]; exact fits_narrow_byte x⟩
  | short =>
    cases h
    have h1 : x.toInt16.toInt32 = x := by simpa [ix_okn, ix_nar] using hx
    have h2 : narrow .short (.int x) = .int x := by show Value.int _ = _; rw [h1]
    exact ⟨h2, by rw [← h2]; exact fits_narrow_short x⟩
  | char =>
    cases h
    have h1 : x.toUInt32.toUInt16.toUInt32.toInt32 = x := by simpa [ix_okn, ix_nar] using hx
    have h2 : narrow .char (.int x) = .int x := by show Value.int _ = _; rw [h1]
    exact ⟨h2, by rw [← h2]; exact fits_narrow_char x⟩
  | _ => cases h
theorem iy_nar {ty : FieldType} {t : Nat} (h : iy_tn ty = some t) (x : Int32) : narrow ty (.int x) = .int (ix_nar t x) ∧ fits ty (.int (ix_nar t x)) = true := by
  cases ty with
  | int => cases h; exact ⟨rfl, rfl⟩
  | boolean => cases h; exact ⟨rfl, fits_narrow_boolean x⟩
  | byte => cases h; exact ⟨rfl, fits_narrow_byte x⟩
  | short => cases h; exact ⟨rfl, fits_narrow_short x⟩
  | char => cases h; exact ⟨rfl, fits_narrow_char x⟩
  | _ => cases h
/-- a class as the tables name it, its field j, as the pool names it -/
def iy_fd (own : String) (idx ci j : Nat) (r : vw_C) (ref : String) : Prop := iy_cl[ci]? = some r ∧ ci < 100 ∧ j < r.2.2 ∧ Cond.fieldLink own idx ref (r.2.1 j).2.1 (r.2.1 j).2.2.1 ∈ lw_all ∧
  ((r.2.1 j).1 = ref ∨ Cond.sameField ref (r.2.1 j).1 (r.2.1 j).2.1 (r.2.1 j).2.2.1 ∈ lw_all)
theorem iy_fd_same {own ref : String} {idx ci j : Nat} {r : vw_C} {args : Array Value} {s : State} (h : iy_fd own idx ci j r ref) (hts : ∀ w ∈ lw_all, w.before args s = true) : ∀ x, s.fieldFound? (r.2.1 j).1 (r.2.1 j).2.1 (r.2.1 j).2.2.1 = some x → s.fieldFound? ref (r.2.1 j).2.1 (r.2.1 j).2.2.1 = some x := by
  rcases h.2.2.2.2 with e | e
  · intro x hx
    rw [← e]; exact hx
  · exact u_same (hts _ e)
section
variable {own nm : String} {cc : ByteArray} {nL : Nat} {ret : iy_T} {pc : Nat} {tg bt : Nat → Nat} {iy_cal : iy_E → Nat → ix_C → Prop}
theorem ok_gI {ct ci j idx : Nat} {r : vw_C} {ref : String} (hct : ct = ci + 1) (hf : iy_fd own idx ci j r ref) (hk : iy_kI (iy_ty ci j) = true) (hd : decode cc pc = .ok (.getfield idx, 3)) (ht : tg 0 = pc + 3) : iy_ok iy_cal own nm cc nL ret pc tg bt (sx_gI ct j) := by
  intro d E fin hc cal nx bk hcal hn hbk l k h hs
  unfold sx_gI at hs
  split at hs
  · obtain ⟨a, ha, h2⟩ := Option.bind_eq_some_iff.mp hs
    obtain ⟨rfl, htg⟩ := ix_is_spec ha
    have h1 := hn 0 _ _ _ h2
    rw [ht] at h1
    refine iy_step h1 fun H locs ls cells slots ho hl kk => ?_
    obtain ⟨cell, c1, c2, c3, c4, c5, c6⟩ := iy_ob_W ho.1 hf.2.1 (by rw [htg, hct])
    exact iy_Wget hc.1 hc.2.2.1 hf.1 hf.2.2.1 hf.2.2.2.1 (iy_fd_same hf hc.1.2.2.2.2) c1 c3 ((c6 j (by rw [← iy_cl_n ci r hf.1]; exact hf.2.2.1)).trans (by rw [iy_fvI hk]; rfl)) hd (kk ls hl)
  · cases hs
theorem ok_gL {ct ci j idx : Nat} {r : vw_C} {ref : String} (hct : ct = ci + 1) (hf : iy_fd own idx ci j r ref) (hk : iy_kL (iy_ty ci j) = true) (hd : decode cc pc = .ok (.getfield idx, 3)) (ht : tg 0 = pc + 3) : iy_ok iy_cal own nm cc nL ret pc tg bt (sx_gL ct j) := by
  intro d E fin hc cal nx bk hcal hn hbk l k h hs
  unfold sx_gL at hs
  split at hs
  · obtain ⟨a, ha, h2⟩ := Option.bind_eq_some_iff.mp hs
    obtain ⟨rfl, htg⟩ := ix_is_spec ha
    have h1 := hn 0 _ _ _ h2
    rw [ht] at h1
    refine iy_step h1 fun H locs ls cells slots ho hl kk => ?_
    obtain ⟨cell, c1, c2, c3, c4, c5, c6⟩ := iy_ob_W ho.1 hf.2.1 (by rw [htg, hct])
    exact iy_Wget hc.1 hc.2.2.1 hf.1 hf.2.2.1 hf.2.2.2.1 (iy_fd_same hf hc.1.2.2.2.2) c1 c3 ((c6 j (by rw [← iy_cl_n ci r hf.1]; exact hf.2.2.1)).trans (by rw [iy_fvL hk]; rfl)) hd (kk ls hl)
  · cases hs
theorem ok_gR {ct ci j idx : Nat} {r : vw_C} {ref : String} (hct : ct = ci + 1) (hf : iy_fd own idx ci j r ref) (hk : iy_kR (iy_ty ci j) = true) (hd : decode cc pc = .ok (.getfield idx, 3)) (ht : tg 0 = pc + 3) : iy_ok iy_cal own nm cc nL ret pc tg bt (sx_gR ct j) := by
  intro d E fin hc cal nx bk hcal hn hbk l k h hs
  unfold sx_gR at hs
  split at hs
  · obtain ⟨a, ha, h2⟩ := Option.bind_eq_some_iff.mp hs
    obtain ⟨rfl, htg⟩ := ix_is_spec ha
    have h1 := hn 0 _ _ _ h2
    rw [ht] at h1
    refine iy_step h1 fun H locs ls cells slots ho hl kk => ?_
    obtain ⟨cell, c1, c2, c3, c4, c5, c6⟩ := iy_ob_W ho.1 hf.2.1 (by rw [htg, hct])
    exact iy_Wget hc.1 hc.2.2.1 hf.1 hf.2.2.1 hf.2.2.2.1 (iy_fd_same hf hc.1.2.2.2.2) c1 c3 ((c6 j (by rw [← iy_cl_n ci r hf.1]; exact hf.2.2.1)).trans (by rw [iy_fvR hk]; rfl)) hd (kk ls hl)
  · cases hs
theorem ok_gIr {ct ci j idx : Nat} {r : vw_C} {ref : String} (hct : ct = ci + 1) (hf : iy_fd own idx ci j r ref) (hk : iy_kI (iy_ty ci j) = true) (hro : j < iy_ro ci) (hrn : iy_ro ci ≤ iy_n ci) (hd : decode cc pc = .ok (.getfield idx, 3)) (ht : tg 0 = pc + 3) : iy_ok iy_cal own nm cc nL ret pc tg bt (sx_gIr ct j) := by
  intro d E fin hc cal nx bk hcal hn hbk l k h hs
  unfold sx_gIr at hs
  split at hs
  · obtain ⟨a, ha, h2⟩ := Option.bind_eq_some_iff.mp hs
    obtain ⟨rfl, htg⟩ := ix_isr_spec ha
    have h1 := hn 0 _ _ _ h2
    rw [ht] at h1
    refine iy_step h1 fun H locs ls cells slots ho hl kk => ?_
    obtain ⟨w, cell, c1, c2, c3, c4, c5, c6⟩ := iy_ob_R ho.1 hf.2.1 (by rw [htg, hct]) hrn
    exact iy_Wget hc.1 hc.2.2.1 hf.1 hf.2.2.1 hf.2.2.2.1 (iy_fd_same hf hc.1.2.2.2.2) c1 c3 ((c6 j hro).trans (by rw [iy_fvI hk]; rfl)) hd (kk ls hl)
  · cases hs
theorem ok_gRr {ct ci j idx : Nat} {r : vw_C} {ref : String} (hct : ct = ci + 1) (hf : iy_fd own idx ci j r ref) (hk : iy_kR (iy_ty ci j) = true) (hro : j < iy_ro ci) (hrn : iy_ro ci ≤ iy_n ci) (hd : decode cc pc = .ok (.getfield idx, 3)) (ht : tg 0 = pc + 3) : iy_ok iy_cal own nm cc nL ret pc tg bt (sx_gRr ct j) := by
  intro d E fin hc cal nx bk hcal hn hbk l k h hs
  unfold sx_gRr at hs
  split at hs
  · obtain ⟨a, ha, h2⟩ := Option.bind_eq_some_iff.mp hs
    obtain ⟨rfl, htg⟩ := ix_isr_spec ha
    have h1 := hn 0 _ _ _ h2
    rw [ht] at h1
    refine iy_step h1 fun H locs ls cells slots ho hl kk => ?_
    obtain ⟨w, cell, c1, c2, c3, c4, c5, c6⟩ := iy_ob_R ho.1 hf.2.1 (by rw [htg, hct]) hrn
    exact iy_Wget hc.1 hc.2.2.1 hf.1 hf.2.2.1 hf.2.2.2.1 (iy_fd_same hf hc.1.2.2.2.2) c1 c3 ((c6 j hro).trans (by rw [iy_fvR hk]; rfl)) hd (kk ls hl)
  · cases hs
theorem ok_pI {ct ci j idx t : Nat} {r : vw_C} {ref : String} (hct : ct = ci + 1) (hf : iy_fd own idx ci j r ref) (htn : iy_tn (iy_ty ci j) = some t) (hfin : (r.2.1 j).2.2.2 = false ∨ ((r.2.1 j).2.2.2 = true ∧ nm = "<init>" ∧ (r.2.1 j).1 = own)) (hd : decode cc pc = .ok (.putfield idx, 3)) (ht : tg 0 = pc + 3) : iy_ok iy_cal own nm cc nL ret pc tg bt (sx_pI ct j t) := by
  intro d E fin hc cal nx bk hcal hn hbk l k h hs
  unfold sx_pI at hs
  split at hs
  · rename_i x r0 k2
    obtain ⟨a, ha, h2⟩ := Option.bind_eq_some_iff.mp hs
    obtain ⟨rfl, htg⟩ := ix_is_spec ha
    have hk := iy_tnI htn
    cases hx : ix_okn t x with
    | false => rw [hx] at h2; cases h2
    | true =>
    rw [hx] at h2
    replace h2 : nx 0 l k2 (ix_wfI h a j x) = some fin := h2
    have hnf := iy_okn htn hx
    have h1 := hn 0 _ _ _ h2
    rw [ht] at h1
    have hjn : j < iy_n ci := by rw [← iy_cl_n ci r hf.1]; exact hf.2.2.1
    have hci := hf.2.1
    refine iy_put (h1 := ix_wfI h a j x) rfl rfl h1 fun H locs ls cells slots ho hl kk => ?_
    obtain ⟨cell, c1, c2, c3, c4, c5, c6⟩ := iy_ob_W ho.1 hci (by rw [htg, hct])
    refine iy_Wput hc.1 hc.2.1.2 hc.2.2.1 hf.1 hf.2.2.1 hf.2.2.2.1 (iy_fd_same hf hc.1.2.2.2.2) hfin (v := .int x) hnf.1 hnf.2 c1 (c5 rfl) c2 (c6 j hjn) hd fun H' z1 z2 z3 => ?_
    refine kk H' _ (ho.put (by rw [htg, hct]; omega) (by rw [htg, hct]; omega) z2 z3 rfl rfl rfl rfl (fun b hb => ⟨rfl, rfl, funext fun q => if_neg fun z => hb z.1, rfl, rfl, rfl, rfl, rfl⟩) (iy_at_O hci (by show ix_tg h a = _; rw [htg, hct]) (iy_lt_of hf.1) ?_))
    refine ⟨_, z1, c2, c3, c4, c5, fun q hq => ?_⟩
    rw [t_set c6 (iy_apart hc.1.2.2.2.2 hc.2.2.1 hf.1) hjn _ q hq]
    unfold updV
    by_cases hqj : q = j
    · subst hqj
      rw [if_pos rfl, iy_fvI hk]
      show _ = some (Value.int (ix_fI (ix_wfI h a q x) a q))
      rw [show ix_fI (ix_wfI h a q x) a q = x from if_pos ⟨rfl, rfl⟩]
    · rw [if_neg hqj]
      unfold iy_fv
      rw [show ix_fI (ix_wfI h a j x) a q = ix_fI h a q from if_neg fun z => hqj z.2]
      rfl
  · cases hs
theorem ok_pL {ct ci j idx : Nat} {r : vw_C} {ref : String} (hct : ct = ci + 1) (hf : iy_fd own idx ci j r ref) (hk : iy_kL (iy_ty ci j) = true) (hfin : (r.2.1 j).2.2.2 = false ∨ ((r.2.1 j).2.2.2 = true ∧ nm = "<init>" ∧ (r.2.1 j).1 = own)) (hd : decode cc pc = .ok (.putfield idx, 3)) (ht : tg 0 = pc + 3) : iy_ok iy_cal own nm cc nL ret pc tg bt (sx_pL ct j) := by
  intro d E fin hc cal nx bk hcal hn hbk l k h hs
  unfold sx_pL at hs
  split at hs
  · rename_i x r0 k2
    obtain ⟨a, ha, h2⟩ := Option.bind_eq_some_iff.mp hs
    obtain ⟨rfl, htg⟩ := ix_is_spec ha
    have hnf : narrow (iy_ty ci j) (.long x) = .long x ∧ fits (iy_ty ci j) (.long x) = true := by
      revert hk
      cases iy_ty ci j <;> intro hk <;> first | exact ⟨rfl, rfl⟩ | cases hk
    have h1 := hn 0 _ _ _ h2
    rw [ht] at h1
    have hjn : j < iy_n ci := by rw [← iy_cl_n ci r hf.1]; exact hf.2.2.1
    have hci := hf.2.1
    refine iy_put (h1 := ix_wfL h a j x) rfl rfl h1 fun H locs ls cells slots ho hl kk => ?_
    obtain ⟨cell, c1, c2, c3, c4, c5, c6⟩ := iy_ob_W ho.1 hci (by rw [htg, hct])
    refine iy_Wput hc.1 hc.2.1.2 hc.2.2.1 hf.1 hf.2.2.1 hf.2.2.2.1 (iy_fd_same hf hc.1.2.2.2.2) hfin (v := .long x) hnf.1 hnf.2 c1 (c5 rfl) c2 (c6 j hjn) hd fun H' z1 z2 z3 => ?_
    refine kk H' _ (ho.put (by rw [htg, hct]; omega) (by rw [htg, hct]; omega) z2 z3 rfl rfl rfl rfl (fun b hb => ⟨rfl, rfl, rfl, funext fun q => if_neg fun z => hb z.1, rfl, rfl, rfl, rfl⟩) (iy_at_O hci (by show ix_tg h a = _; rw [htg, hct]) (iy_lt_of hf.1) ?_))
    refine ⟨_, z1, c2, c3, c4, c5, fun q hq => ?_⟩
    rw [t_set c6 (iy_apart hc.1.2.2.2.2 hc.2.2.1 hf.1) hjn _ q hq]
    unfold updV
    by_cases hqj : q = j
    · subst hqj
      rw [if_pos rfl, iy_fvL hk]
      show _ = some (Value.long (ix_fL (ix_wfL h a q x) a q))
      rw [show ix_fL (ix_wfL h a q x) a q = x from if_pos ⟨rfl, rfl⟩]
    · rw [if_neg hqj]
      unfold iy_fv
      rw [show ix_fL (ix_wfL h a j x) a q = ix_fL h a q from if_neg fun z => hqj z.2]
      rfl
  · cases hs
theorem ok_pR {ct ci j idx : Nat} {r : vw_C} {ref : String} (hct : ct = ci + 1) (hf : iy_fd own idx ci j r ref) (hk : iy_kR (iy_ty ci j) = true) (hfin : (r.2.1 j).2.2.2 = false ∨ ((r.2.1 j).2.2.2 = true ∧ nm = "<init>" ∧ (r.2.1 j).1 = own)) (hd : decode cc pc = .ok (.putfield idx, 3)) (ht : tg 0 = pc + 3) : iy_ok iy_cal own nm cc nL ret pc tg bt (sx_pR ct j) := by
  intro d E fin hc cal nx bk hcal hn hbk l k h hs
  unfold sx_pR at hs
  split at hs
  · rename_i x r0 k2
    obtain ⟨a, ha, h2⟩ := Option.bind_eq_some_iff.mp hs
    obtain ⟨rfl, htg⟩ := ix_is_spec ha
    have hnf : narrow (iy_ty ci j) (va_rf x) = va_rf x ∧ fits (iy_ty ci j) (va_rf x) = true := by
      revert hk
      cases iy_ty ci j <;> intro hk <;> first | (cases x <;> exact ⟨rfl, rfl⟩) | cases hk
    have h1 := hn 0 _ _ _ h2
    rw [ht] at h1
    have hjn : j < iy_n ci := by rw [← iy_cl_n ci r hf.1]; exact hf.2.2.1
    have hci := hf.2.1
    refine iy_put (h1 := ix_wfR h a j x) rfl rfl h1 fun H locs ls cells slots ho hl kk => ?_
    obtain ⟨cell, c1, c2, c3, c4, c5, c6⟩ := iy_ob_W ho.1 hci (by rw [htg, hct])
    refine iy_Wput hc.1 hc.2.1.2 hc.2.2.1 hf.1 hf.2.2.1 hf.2.2.2.1 (iy_fd_same hf hc.1.2.2.2.2) hfin (v := va_rf x) hnf.1 hnf.2 c1 (c5 rfl) c2 (c6 j hjn) hd fun H' z1 z2 z3 => ?_
    refine kk H' _ (ho.put (by rw [htg, hct]; omega) (by rw [htg, hct]; omega) z2 z3 rfl rfl rfl rfl (fun b hb => ⟨rfl, rfl, rfl, rfl, funext fun q => if_neg fun z => hb z.1, rfl, rfl, rfl⟩) (iy_at_O hci (by show ix_tg h a = _; rw [htg, hct]) (iy_lt_of hf.1) ?_))
    refine ⟨_, z1, c2, c3, c4, c5, fun q hq => ?_⟩
    rw [t_set c6 (iy_apart hc.1.2.2.2.2 hc.2.2.1 hf.1) hjn _ q hq]
    unfold updV
    by_cases hqj : q = j
    · subst hqj
      rw [if_pos rfl, iy_fvR hk]
      show _ = some (va_rf (ix_fR (ix_wfR h a q x) a q))
      rw [show ix_fR (ix_wfR h a q x) a q = x from if_pos ⟨rfl, rfl⟩]
    · rw [if_neg hqj]
      unfold iy_fv
      rw [show ix_fR (ix_wfR h a j x) a q = ix_fR h a q from if_neg fun z => hqj z.2]
      rfl
  · cases hs
end
