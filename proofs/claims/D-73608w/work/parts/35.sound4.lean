/-! SOUNDNESS of the steps on arrays, of new, of switches and casts. Written by gen_sound4.py -/
section
variable {own nm : String} {cc : ByteArray} {nL : Nat} {ret : iy_T} {pc : Nat} {tg bt : Nat → Nat} {iy_cal : iy_E → Nat → ix_C → Prop}
theorem ok_iald  (hd : decode cc pc = .ok (.iaload, 1)) (ht : tg 0 = pc + 1) : iy_ok iy_cal own nm cc nL ret pc tg bt (sx_alI 101) := by
  intro d E fin hc cal nx bk hcal hn hbk l k h hs
  unfold sx_alI at hs
  split at hs
  · rename_i i r0 k2
    obtain ⟨a, ha, h2⟩ := Option.bind_eq_some_iff.mp hs
    obtain ⟨⟨rfl, htg⟩, hin⟩ := ix_atr_spec ha
    have h1 := hn 0 _ _ _ h2
    rw [ht] at h1
    have hlt : i.toNatClampNeg < ix_ln h a := Nat.not_le.mp fun q => hin (Or.inr q)
    refine iy_step h1 fun H locs ls cells slots ho hl kk => ?_
    obtain ⟨cell, c1, c2, c3, c4, c5, c6⟩ := iy_ar_of ho.1 hc.2.2.1 (t := 101) (et := .int) rfl htg
    exact W.iald hc.1.1 hc.1.2.1 c1 c2 c3 (fun q => hin (q.imp id fun z => Nat.le_trans c4 z)) ((c6 _ hlt).trans (by rw [iy_avI rfl]; rfl)) rfl rfl hd (kk ls hl)
  · cases hs
theorem ok_bald  (hd : decode cc pc = .ok (.baload, 1)) (ht : tg 0 = pc + 1) : iy_ok iy_cal own nm cc nL ret pc tg bt (sx_alI 102) := by
  intro d E fin hc cal nx bk hcal hn hbk l k h hs
  unfold sx_alI at hs
  split at hs
  · rename_i i r0 k2
    obtain ⟨a, ha, h2⟩ := Option.bind_eq_some_iff.mp hs
    obtain ⟨⟨rfl, htg⟩, hin⟩ := ix_atr_spec ha
    have h1 := hn 0 _ _ _ h2
    rw [ht] at h1
    have hlt : i.toNatClampNeg < ix_ln h a := Nat.not_le.mp fun q => hin (Or.inr q)
    refine iy_step h1 fun H locs ls cells slots ho hl kk => ?_
    obtain ⟨cell, c1, c2, c3, c4, c5, c6⟩ := iy_ar_of ho.1 hc.2.2.1 (t := 102) (et := .byte) rfl htg
    exact W.bald hc.1.1 hc.1.2.1 c1 c2 c3 (fun q => hin (q.imp id fun z => Nat.le_trans c4 z)) ((c6 _ hlt).trans (by rw [iy_avI rfl]; rfl)) rfl rfl hd (kk ls hl)
  · cases hs
theorem ok_zald  (hd : decode cc pc = .ok (.baload, 1)) (ht : tg 0 = pc + 1) : iy_ok iy_cal own nm cc nL ret pc tg bt (sx_alI 105) := by
  intro d E fin hc cal nx bk hcal hn hbk l k h hs
  unfold sx_alI at hs
  split at hs
  · rename_i i r0 k2
    obtain ⟨a, ha, h2⟩ := Option.bind_eq_some_iff.mp hs
    obtain ⟨⟨rfl, htg⟩, hin⟩ := ix_atr_spec ha
    have h1 := hn 0 _ _ _ h2
    rw [ht] at h1
    have hlt : i.toNatClampNeg < ix_ln h a := Nat.not_le.mp fun q => hin (Or.inr q)
    refine iy_step h1 fun H locs ls cells slots ho hl kk => ?_
    obtain ⟨cell, c1, c2, c3, c4, c5, c6⟩ := iy_ar_of ho.1 hc.2.2.1 (t := 105) (et := .boolean) rfl htg
    exact W.zald hc.1.1 hc.1.2.1 c1 c2 c3 (fun q => hin (q.imp id fun z => Nat.le_trans c4 z)) ((c6 _ hlt).trans (by rw [iy_avI rfl]; rfl)) rfl rfl hd (kk ls hl)
  · cases hs
theorem ok_sald  (hd : decode cc pc = .ok (.saload, 1)) (ht : tg 0 = pc + 1) : iy_ok iy_cal own nm cc nL ret pc tg bt (sx_alI 103) := by
  intro d E fin hc cal nx bk hcal hn hbk l k h hs
  unfold sx_alI at hs
  split at hs
  · rename_i i r0 k2
    obtain ⟨a, ha, h2⟩ := Option.bind_eq_some_iff.mp hs
    obtain ⟨⟨rfl, htg⟩, hin⟩ := ix_atr_spec ha
    have h1 := hn 0 _ _ _ h2
    rw [ht] at h1
    have hlt : i.toNatClampNeg < ix_ln h a := Nat.not_le.mp fun q => hin (Or.inr q)
    refine iy_step h1 fun H locs ls cells slots ho hl kk => ?_
    obtain ⟨cell, c1, c2, c3, c4, c5, c6⟩ := iy_ar_of ho.1 hc.2.2.1 (t := 103) (et := .short) rfl htg
    exact W.sald hc.1.1 hc.1.2.1 c1 c2 c3 (fun q => hin (q.imp id fun z => Nat.le_trans c4 z)) ((c6 _ hlt).trans (by rw [iy_avI rfl]; rfl)) rfl rfl hd (kk ls hl)
  · cases hs
theorem ok_cald  (hd : decode cc pc = .ok (.caload, 1)) (ht : tg 0 = pc + 1) : iy_ok iy_cal own nm cc nL ret pc tg bt (sx_alI 104) := by
  intro d E fin hc cal nx bk hcal hn hbk l k h hs
  unfold sx_alI at hs
  split at hs
  · rename_i i r0 k2
    obtain ⟨a, ha, h2⟩ := Option.bind_eq_some_iff.mp hs
    obtain ⟨⟨rfl, htg⟩, hin⟩ := ix_atr_spec ha
    have h1 := hn 0 _ _ _ h2
    rw [ht] at h1
    have hlt : i.toNatClampNeg < ix_ln h a := Nat.not_le.mp fun q => hin (Or.inr q)
    refine iy_step h1 fun H locs ls cells slots ho hl kk => ?_
    obtain ⟨cell, c1, c2, c3, c4, c5, c6⟩ := iy_ar_of ho.1 hc.2.2.1 (t := 104) (et := .char) rfl htg
    exact W.cald hc.1.1 hc.1.2.1 c1 c2 c3 (fun q => hin (q.imp id fun z => Nat.le_trans c4 z)) ((c6 _ hlt).trans (by rw [iy_avI rfl]; rfl)) rfl rfl hd (kk ls hl)
  · cases hs
theorem ok_lald  (hd : decode cc pc = .ok (.laload, 1)) (ht : tg 0 = pc + 1) : iy_ok iy_cal own nm cc nL ret pc tg bt (sx_alL 106) := by
  intro d E fin hc cal nx bk hcal hn hbk l k h hs
  unfold sx_alL at hs
  split at hs
  · rename_i i r0 k2
    obtain ⟨a, ha, h2⟩ := Option.bind_eq_some_iff.mp hs
    obtain ⟨⟨rfl, htg⟩, hin⟩ := ix_atr_spec ha
    have h1 := hn 0 _ _ _ h2
    rw [ht] at h1
    have hlt : i.toNatClampNeg < ix_ln h a := Nat.not_le.mp fun q => hin (Or.inr q)
    refine iy_step h1 fun H locs ls cells slots ho hl kk => ?_
    obtain ⟨cell, c1, c2, c3, c4, c5, c6⟩ := iy_ar_of ho.1 hc.2.2.1 (t := 106) (et := .long) rfl htg
    exact W.lald hc.1.1 hc.1.2.1 c1 c2 c3 (fun q => hin (q.imp id fun z => Nat.le_trans c4 z)) ((c6 _ hlt).trans (by rw [iy_avL rfl]; rfl)) rfl rfl hd (kk ls hl)
  · cases hs
theorem ok_aald {ct : Nat} {C : String} (hel : iy_el ct = some (.object C)) (hd : decode cc pc = .ok (.aaload, 1)) (ht : tg 0 = pc + 1) : iy_ok iy_cal own nm cc nL ret pc tg bt (sx_alR ct) := by
  intro d E fin hc cal nx bk hcal hn hbk l k h hs
  unfold sx_alR at hs
  split at hs
  · rename_i i r0 k2
    obtain ⟨a, ha, h2⟩ := Option.bind_eq_some_iff.mp hs
    obtain ⟨⟨rfl, htg⟩, hin⟩ := ix_atr_spec ha
    have h1 := hn 0 _ _ _ h2
    rw [ht] at h1
    have hlt : i.toNatClampNeg < ix_ln h a := Nat.not_le.mp fun q => hin (Or.inr q)
    refine iy_step h1 fun H locs ls cells slots ho hl kk => ?_
    obtain ⟨cell, c1, c2, c3, c4, c5, c6⟩ := iy_ar_of ho.1 hc.2.2.1 (t := ct) (et := (.object C)) hel htg
    exact W.aald hc.1.1 hc.1.2.1 c1 c2 rfl c3 (fun q => hin (q.imp id fun z => Nat.le_trans c4 z)) ((c6 _ hlt).trans (by rw [iy_avR rfl]; rfl)) rfl rfl hd (kk ls hl)
  · cases hs
theorem ok_iast (hd : decode cc pc = .ok (.iastore, 1)) (ht : tg 0 = pc + 1) : iy_ok iy_cal own nm cc nL ret pc tg bt (sx_asI 101 0) := by
  intro d E fin hc cal nx bk hcal hn hbk l k h hs
  unfold sx_asI at hs
  split at hs
  · rename_i x i r0 k2
    obtain ⟨a, ha, h2⟩ := Option.bind_eq_some_iff.mp hs
    obtain ⟨⟨rfl, htg⟩, hin⟩ := ix_at_spec ha
    have h1 := hn 0 _ _ _ h2
    rw [ht] at h1
    have hlt : i.toNatClampNeg < ix_ln h a := Nat.not_le.mp fun q => hin (Or.inr q)
    have hr : ix_aI (ix_waI h a i.toNatClampNeg (ix_nar 0 x)) a i.toNatClampNeg = ix_nar 0 x := if_pos ⟨rfl, rfl⟩
    have hr2 : ∀ q, q ≠ i.toNatClampNeg → ix_aI (ix_waI h a i.toNatClampNeg (ix_nar 0 x)) a q = ix_aI h a q := fun q z => if_neg fun y => z y.2
    have hv : Value.int x = Value.int (ix_nar 0 x) := rfl
    refine iy_put (h1 := ix_waI h a i.toNatClampNeg (ix_nar 0 x)) rfl rfl h1 fun H locs ls cells slots ho hl kk => ?_
    have hA := iy_aw_of ho.1 (t := 101) (et := .int) rfl htg
    refine W.iast hc.1.1 hc.1.2.1 hA.1 ((hc.2.2.1.2.1 101 .int rfl).1 _ _) (fun q => by cases q) (by rw [arrV_size]; exact hin) rfl rfl hd fun H' z1 z2 z3 => ?_
    refine kk H' _ (ho.put (by rw [htg]; decide) (by rw [htg]; decide) z2 z3 rfl rfl rfl rfl (fun b hb => ⟨rfl, rfl, rfl, rfl, rfl, funext fun q => if_neg fun z => hb z.1, rfl, rfl⟩) (iy_at_A (t := 101) (et := .int) rfl htg ⟨?_, fun j hj => ?_⟩))
    · rw [z1, arrV_store]
      show some (arrV _ (ix_ln h a) _) = some (arrV _ (ix_ln h a) _)
      congr 2
      funext q
      show updV _ _ _ q = iy_av .int (ix_waI h a i.toNatClampNeg (ix_nar 0 x)) a q
      rw [iy_avI (ty := .int) rfl]
      unfold updV
      by_cases hq : q = i.toNatClampNeg
      · subst hq
        rw [hr]
        exact (if_pos rfl).trans hv
      · rw [if_neg hq, hr2 q hq]
        exact iy_avI (ty := .int) rfl h a q
    · rw [iy_avI (ty := .int) rfl]
      by_cases hq : j = i.toNatClampNeg
      · subst hq
        rw [hr]
        exact (iy_nar (ty := .int) rfl x).2
      · rw [hr2 j hq]
        have := hA.2 j hj
        rw [iy_avI (ty := .int) rfl] at this
        exact this
  · cases hs
theorem ok_bast (hd : decode cc pc = .ok (.bastore, 1)) (ht : tg 0 = pc + 1) : iy_ok iy_cal own nm cc nL ret pc tg bt (sx_asI 102 2) := by
  intro d E fin hc cal nx bk hcal hn hbk l k h hs
  unfold sx_asI at hs
  split at hs
  · rename_i x i r0 k2
    obtain ⟨a, ha, h2⟩ := Option.bind_eq_some_iff.mp hs
    obtain ⟨⟨rfl, htg⟩, hin⟩ := ix_at_spec ha
    have h1 := hn 0 _ _ _ h2
    rw [ht] at h1
    have hlt : i.toNatClampNeg < ix_ln h a := Nat.not_le.mp fun q => hin (Or.inr q)
    have hr : ix_aI (ix_waI h a i.toNatClampNeg (ix_nar 2 x)) a i.toNatClampNeg = ix_nar 2 x := if_pos ⟨rfl, rfl⟩
    have hr2 : ∀ q, q ≠ i.toNatClampNeg → ix_aI (ix_waI h a i.toNatClampNeg (ix_nar 2 x)) a q = ix_aI h a q := fun q z => if_neg fun y => z y.2
    have hv : narrow .byte (.int x) = Value.int (ix_nar 2 x) := (iy_nar (ty := .byte) rfl x).1
    refine iy_put (h1 := ix_waI h a i.toNatClampNeg (ix_nar 2 x)) rfl rfl h1 fun H locs ls cells slots ho hl kk => ?_
    have hA := iy_aw_of ho.1 (t := 102) (et := .byte) rfl htg
    refine W.bast hc.1.1 hc.1.2.1 hA.1 ((hc.2.2.1.2.1 102 .byte rfl).1 _ _) (fun q => by cases q) (by rw [arrV_size]; exact hin) rfl rfl hd fun H' z1 z2 z3 => ?_
    refine kk H' _ (ho.put (by rw [htg]; decide) (by rw [htg]; decide) z2 z3 rfl rfl rfl rfl (fun b hb => ⟨rfl, rfl, rfl, rfl, rfl, funext fun q => if_neg fun z => hb z.1, rfl, rfl⟩) (iy_at_A (t := 102) (et := .byte) rfl htg ⟨?_, fun j hj => ?_⟩))
    · rw [z1, arrV_store]
      show some (arrV _ (ix_ln h a) _) = some (arrV _ (ix_ln h a) _)
      congr 2
      funext q
      show updV _ _ _ q = iy_av .byte (ix_waI h a i.toNatClampNeg (ix_nar 2 x)) a q
      rw [iy_avI (ty := .byte) rfl]
      unfold updV
      by_cases hq : q = i.toNatClampNeg
      · subst hq
        rw [hr]
        exact (if_pos rfl).trans hv
      · rw [if_neg hq, hr2 q hq]
        exact iy_avI (ty := .byte) rfl h a q
    · rw [iy_avI (ty := .byte) rfl]
      by_cases hq : j = i.toNatClampNeg
      · subst hq
        rw [hr]
        exact (iy_nar (ty := .byte) rfl x).2
      · rw [hr2 j hq]
        have := hA.2 j hj
        rw [iy_avI (ty := .byte) rfl] at this
        exact this
  · cases hs
theorem ok_zast (hd : decode cc pc = .ok (.bastore, 1)) (ht : tg 0 = pc + 1) : iy_ok iy_cal own nm cc nL ret pc tg bt (sx_asI 105 1) := by
  intro d E fin hc cal nx bk hcal hn hbk l k h hs
  unfold sx_asI at hs
  split at hs
  · rename_i x i r0 k2
    obtain ⟨a, ha, h2⟩ := Option.bind_eq_some_iff.mp hs
    obtain ⟨⟨rfl, htg⟩, hin⟩ := ix_at_spec ha
    have h1 := hn 0 _ _ _ h2
    rw [ht] at h1
    have hlt : i.toNatClampNeg < ix_ln h a := Nat.not_le.mp fun q => hin (Or.inr q)
    have hr : ix_aI (ix_waI h a i.toNatClampNeg (ix_nar 1 x)) a i.toNatClampNeg = ix_nar 1 x := if_pos ⟨rfl, rfl⟩
    have hr2 : ∀ q, q ≠ i.toNatClampNeg → ix_aI (ix_waI h a i.toNatClampNeg (ix_nar 1 x)) a q = ix_aI h a q := fun q z => if_neg fun y => z y.2
    have hv : narrow .boolean (.int x) = Value.int (ix_nar 1 x) := (iy_nar (ty := .boolean) rfl x).1
    refine iy_put (h1 := ix_waI h a i.toNatClampNeg (ix_nar 1 x)) rfl rfl h1 fun H locs ls cells slots ho hl kk => ?_
    have hA := iy_aw_of ho.1 (t := 105) (et := .boolean) rfl htg
    refine W.zast hc.1.1 hc.1.2.1 hA.1 ((hc.2.2.1.2.1 105 .boolean rfl).1 _ _) (fun q => by cases q) (by rw [arrV_size]; exact hin) rfl rfl hd fun H' z1 z2 z3 => ?_
    refine kk H' _ (ho.put (by rw [htg]; decide) (by rw [htg]; decide) z2 z3 rfl rfl rfl rfl (fun b hb => ⟨rfl, rfl, rfl, rfl, rfl, funext fun q => if_neg fun z => hb z.1, rfl, rfl⟩) (iy_at_A (t := 105) (et := .boolean) rfl htg ⟨?_, fun j hj => ?_⟩))
    · rw [z1, arrV_store]
      show some (arrV _ (ix_ln h a) _) = some (arrV _ (ix_ln h a) _)
      congr 2
      funext q
      show updV _ _ _ q = iy_av .boolean (ix_waI h a i.toNatClampNeg (ix_nar 1 x)) a q
      rw [iy_avI (ty := .boolean) rfl]
      unfold updV
      by_cases hq : q = i.toNatClampNeg
      · subst hq
        rw [hr]
        exact (if_pos rfl).trans hv
      · rw [if_neg hq, hr2 q hq]
        exact iy_avI (ty := .boolean) rfl h a q
    · rw [iy_avI (ty := .boolean) rfl]
      by_cases hq : j = i.toNatClampNeg
      · subst hq
        rw [hr]
        exact (iy_nar (ty := .boolean) rfl x).2
      · rw [hr2 j hq]
        have := hA.2 j hj
        rw [iy_avI (ty := .boolean) rfl] at this
        exact this
  · cases hs
theorem ok_sast (hd : decode cc pc = .ok (.sastore, 1)) (ht : tg 0 = pc + 1) : iy_ok iy_cal own nm cc nL ret pc tg bt (sx_asI 103 3) := by
  intro d E fin hc cal nx bk hcal hn hbk l k h hs
  unfold sx_asI at hs
  split at hs
  · rename_i x i r0 k2
    obtain ⟨a, ha, h2⟩ := Option.bind_eq_some_iff.mp hs
    obtain ⟨⟨rfl, htg⟩, hin⟩ := ix_at_spec ha
    have h1 := hn 0 _ _ _ h2
    rw [ht] at h1
    have hlt : i.toNatClampNeg < ix_ln h a := Nat.not_le.mp fun q => hin (Or.inr q)
    have hr : ix_aI (ix_waI h a i.toNatClampNeg (ix_nar 3 x)) a i.toNatClampNeg = ix_nar 3 x := if_pos ⟨rfl, rfl⟩
    have hr2 : ∀ q, q ≠ i.toNatClampNeg → ix_aI (ix_waI h a i.toNatClampNeg (ix_nar 3 x)) a q = ix_aI h a q := fun q z => if_neg fun y => z y.2
    have hv : narrow .short (.int x) = Value.int (ix_nar 3 x) := (iy_nar (ty := .short) rfl x).1
    refine iy_put (h1 := ix_waI h a i.toNatClampNeg (ix_nar 3 x)) rfl rfl h1 fun H locs ls cells slots ho hl kk => ?_
    have hA := iy_aw_of ho.1 (t := 103) (et := .short) rfl htg
    refine W.sast hc.1.1 hc.1.2.1 hA.1 ((hc.2.2.1.2.1 103 .short rfl).1 _ _) (fun q => by cases q) (by rw [arrV_size]; exact hin) rfl rfl hd fun H' z1 z2 z3 => ?_
    refine kk H' _ (ho.put (by rw [htg]; decide) (by rw [htg]; decide) z2 z3 rfl rfl rfl rfl (fun b hb => ⟨rfl, rfl, rfl, rfl, rfl, funext fun q => if_neg fun z => hb z.1, rfl, rfl⟩) (iy_at_A (t := 103) (et := .short) rfl htg ⟨?_, fun j hj => ?_⟩))
    · rw [z1, arrV_store]
      show some (arrV _ (ix_ln h a) _) = some (arrV _ (ix_ln h a) _)
      congr 2
      funext q
      show updV _ _ _ q = iy_av .short (ix_waI h a i.toNatClampNeg (ix_nar 3 x)) a q
      rw [iy_avI (ty := .short) rfl]
      unfold updV
      by_cases hq : q = i.toNatClampNeg
      · subst hq
        rw [hr]
        exact (if_pos rfl).trans hv
      · rw [if_neg hq, hr2 q hq]
        exact iy_avI (ty := .short) rfl h a q
    · rw [iy_avI (ty := .short) rfl]
      by_cases hq : j = i.toNatClampNeg
      · subst hq
        rw [hr]
        exact (iy_nar (ty := .short) rfl x).2
      · rw [hr2 j hq]
        have := hA.2 j hj
        rw [iy_avI (ty := .short) rfl] at this
        exact this
  · cases hs
theorem ok_last (hd : decode cc pc = .ok (.lastore, 1)) (ht : tg 0 = pc + 1) : iy_ok iy_cal own nm cc nL ret pc tg bt (sx_asL 106) := by
  intro d E fin hc cal nx bk hcal hn hbk l k h hs
  unfold sx_asL at hs
  split at hs
  · rename_i x i r0 k2
    obtain ⟨a, ha, h2⟩ := Option.bind_eq_some_iff.mp hs
    obtain ⟨⟨rfl, htg⟩, hin⟩ := ix_at_spec ha
    have h1 := hn 0 _ _ _ h2
    rw [ht] at h1
    have hlt : i.toNatClampNeg < ix_ln h a := Nat.not_le.mp fun q => hin (Or.inr q)
    have hr : ix_aL (ix_waL h a i.toNatClampNeg (x)) a i.toNatClampNeg = x := if_pos ⟨rfl, rfl⟩
    have hr2 : ∀ q, q ≠ i.toNatClampNeg → ix_aL (ix_waL h a i.toNatClampNeg (x)) a q = ix_aL h a q := fun q z => if_neg fun y => z y.2
    have hv : Value.long x = Value.long (x) := rfl
    refine iy_put (h1 := ix_waL h a i.toNatClampNeg (x)) rfl rfl h1 fun H locs ls cells slots ho hl kk => ?_
    have hA := iy_aw_of ho.1 (t := 106) (et := .long) rfl htg
    refine W.last hc.1.1 hc.1.2.1 hA.1 ((hc.2.2.1.2.1 106 .long rfl).1 _ _) (fun q => by cases q) (by rw [arrV_size]; exact hin) rfl rfl hd fun H' z1 z2 z3 => ?_
    refine kk H' _ (ho.put (by rw [htg]; decide) (by rw [htg]; decide) z2 z3 rfl rfl rfl rfl (fun b hb => ⟨rfl, rfl, rfl, rfl, rfl, rfl, funext fun q => if_neg fun z => hb z.1, rfl⟩) (iy_at_A (t := 106) (et := .long) rfl htg ⟨?_, fun j hj => ?_⟩))
    · rw [z1, arrV_store]
      show some (arrV _ (ix_ln h a) _) = some (arrV _ (ix_ln h a) _)
      congr 2
      funext q
      show updV _ _ _ q = iy_av .long (ix_waL h a i.toNatClampNeg (x)) a q
      rw [iy_avL (ty := .long) rfl]
      unfold updV
      by_cases hq : q = i.toNatClampNeg
      · subst hq
        rw [hr]
        exact (if_pos rfl).trans hv
      · rw [if_neg hq, hr2 q hq]
        exact iy_avL (ty := .long) rfl h a q
    · rw [iy_avL (ty := .long) rfl]
      by_cases hq : j = i.toNatClampNeg
      · subst hq
        rw [hr]
        exact rfl
      · rw [hr2 j hq]
        have := hA.2 j hj
        rw [iy_avL (ty := .long) rfl] at this
        exact this
  · cases hs
theorem ok_len {ct : Nat} {et : FieldType} (hel : iy_el ct = some et) (hd : decode cc pc = .ok (.arraylength, 1)) (ht : tg 0 = pc + 1) : iy_ok iy_cal own nm cc nL ret pc tg bt (sx_len ct) := by
  intro d E fin hc cal nx bk hcal hn hbk l k h hs
  unfold sx_len at hs
  split at hs
  · obtain ⟨a, ha, h2⟩ := Option.bind_eq_some_iff.mp hs
    obtain ⟨rfl, htg⟩ := ix_isr_spec ha
    have h1 := hn 0 _ _ _ h2
    rw [ht] at h1
    refine iy_step h1 fun H locs ls cells slots ho hl kk => ?_
    obtain ⟨cell, c1, c2, c3, c4, c5, c6⟩ := iy_ar_of ho.1 hc.2.2.1 hel htg
    exact W.alen hc.1.1 hc.1.2.1 c1 c2 c5 rfl rfl hd (kk ls hl)
  · cases hs
theorem ok_aeq {s : Nat} {off : Int} (hd : decode cc pc = .ok (.if_acmp .eq off, 3)) (ht : (pc : Int) + off = (tg s : Int)) (h0 : tg 0 = pc + 3) : iy_ok iy_cal own nm cc nL ret pc tg bt (sx_aeq s) := by
  intro d E fin hc cal nx bk hcal hn hbk l k h hs
  unfold sx_aeq at hs
  split at hs
  · rename_i y x k2
    refine iy_if (pa := tg s) (pb := tg 0) (c := x = y) (fun hcc => ?_) (fun hcc => ?_) fun H locs ls cells slots ka kb => lv_acmp_eq hc.1.1 hc.1.2.1 hd ht ka (by rw [← h0]; exact kb)
    · rw [if_pos hcc] at hs
      exact hn _ _ _ _ hs
    · rw [if_neg hcc] at hs
      exact hn _ _ _ _ hs
  · cases hs
theorem ok_ane {s : Nat} {off : Int} (hd : decode cc pc = .ok (.if_acmp .ne off, 3)) (ht : (pc : Int) + off = (tg s : Int)) (h0 : tg 0 = pc + 3) : iy_ok iy_cal own nm cc nL ret pc tg bt (sx_ane s) := by
  intro d E fin hc cal nx bk hcal hn hbk l k h hs
  unfold sx_ane at hs
  split at hs
  · rename_i y x k2
    refine iy_if (pa := tg 0) (pb := tg s) (c := x = y) (fun hcc => ?_) (fun hcc => ?_) fun H locs ls cells slots ka kb => lv_acmp_ne hc.1.1 hc.1.2.1 hd ht kb (by rw [← h0]; exact ka)
    · rw [if_pos hcc] at hs
      exact hn _ _ _ _ hs
    · rw [if_neg hcc] at hs
      exact hn _ _ _ _ hs
  · cases hs
theorem ok_nul {s : Nat} {off : Int} (hd : decode cc pc = .ok (.ifnull off, 3)) (ht : (pc : Int) + off = (tg s : Int)) (h0 : tg 0 = pc + 3) : iy_ok iy_cal own nm cc nL ret pc tg bt (sx_nul s) := by
  intro d E fin hc cal nx bk hcal hn hbk l k h hs
  unfold sx_nul at hs
  split at hs
  · rename_i x k2
    cases x with
    | none => exact iy_step (hn s _ _ _ hs) fun H locs ls cells slots ho hl kk => lv_ifnullN hc.1.1 hc.1.2.1 hd ht (kk ls hl)
    | some a =>
      have h1 := hn 0 _ _ _ hs
      rw [h0] at h1
      exact iy_step h1 fun H locs ls cells slots ho hl kk => lv_ifnull hc.1.1 hc.1.2.1 hd (kk ls hl)
  · cases hs
theorem ok_nnul {s : Nat} {off : Int} (hd : decode cc pc = .ok (.ifnonnull off, 3)) (ht : (pc : Int) + off = (tg s : Int)) (h0 : tg 0 = pc + 3) : iy_ok iy_cal own nm cc nL ret pc tg bt (sx_nnul s) := by
  intro d E fin hc cal nx bk hcal hn hbk l k h hs
  unfold sx_nnul at hs
  split at hs
  · rename_i x k2
    cases x with
    | none =>
      have h1 := hn 0 _ _ _ hs
      rw [h0] at h1
      exact iy_step h1 fun H locs ls cells slots ho hl kk => lv_ifnonnullN hc.1.1 hc.1.2.1 hd (kk ls hl)
    | some a => exact iy_step (hn s _ _ _ hs) fun H locs ls cells slots ho hl kk => lv_ifnonnull hc.1.1 hc.1.2.1 hd ht (kk ls hl)
  · cases hs
theorem ix_sw_spec {nx : Nat → ix_O} {x : Int32} {d : Nat} {t : List (Int32 × Nat)} {fin : iy_F} (h : ix_sw nx x d t = some fin) : (∃ (i : Nat) (q : Int32 × Nat), t[i]? = some q ∧ x = q.1 ∧ nx q.2 = some fin) ∨ ((∀ q ∈ t, x ≠ q.1) ∧ nx d = some fin) := by
  induction t with
  | nil => exact Or.inr ⟨(fun q hq => by cases hq), h⟩
  | cons z r ih =>
    obtain ⟨v, s⟩ := z
    unfold ix_sw at h
    by_cases hx : x = v
    · rw [if_pos hx] at h
      exact Or.inl ⟨0, _, rfl, hx, h⟩
    · rw [if_neg hx] at h
      rcases ih h with ⟨i, q, h1, h2⟩ | ⟨h1, h2⟩
      · exact Or.inl ⟨i + 1, q, h1, h2⟩
      · refine Or.inr ⟨fun q hq => ?_, h2⟩
        rcases List.mem_cons.mp hq with e | e
        · rw [e]; exact hx
        · exact h1 q e
/-- a table's rows are the step's -/
def iy_tsw (pc : Nat) (tg : Nat → Nat) (t : List (Int32 × Nat)) (lo : Int) (offs : Array Int) : Bool :=
  decide (t.length = offs.size) && (List.range t.length).all fun i => match t[i]?, offs[i]? with
    | some q, some o => decide (q.1.toInt = lo + (i : Int)) && decide ((pc : Int) + o = (tg q.2 : Int))
    | _, _ => false
theorem ok_tsw {t : List (Int32 × Nat)} {s len : Nat} {dflt lo hi : Int} {offs : Array Int} (hd : decode cc pc = .ok (.tableswitch dflt lo hi offs, len)) (hdf : (pc : Int) + dflt = (tg s : Int)) (hhi : hi = lo + (t.length : Int) - 1) (hck : iy_tsw pc tg t lo offs = true) : iy_ok iy_cal own nm cc nL ret pc tg bt (sx_sw t s) := by
  intro d E fin hc cal nx bk hcal hn hbk l k h hs
  unfold sx_sw at hs
  split at hs
  · rename_i x k2
    simp only [iy_tsw, Bool.and_eq_true, decide_eq_true_eq, List.all_eq_true, List.mem_range] at hck
    obtain ⟨hlen, hall⟩ := hck
    have row : ∀ i, i < t.length → ∃ q o, t[i]? = some q ∧ offs[i]? = some o ∧ q.1.toInt = lo + (i : Int) ∧ (pc : Int) + o = (tg q.2 : Int) := by
      intro i hi
      have h1 := hall i hi
      have e1 : t[i]? = some t[i] := List.getElem?_eq_getElem hi
      have e2 : offs[i]? = some offs[i] := Array.getElem?_eq_getElem (by omega)
      rw [e1, e2] at h1
      simp only [Bool.and_eq_true, decide_eq_true_eq] at h1
      exact ⟨_, _, e1, e2, h1.1, h1.2⟩
    rcases ix_sw_spec hs with ⟨i, q, g1, g2, g3⟩ | ⟨g1, g2⟩
    · have hi : i < t.length := (List.getElem?_eq_some_iff.mp g1).1
      obtain ⟨q', o, e1, e2, e3, e4⟩ := row i hi
      cases e1.symm.trans g1
      refine iy_step (hn _ _ _ _ g3) fun H locs ls cells slots ho hl kk => lv_tableIn hc.1.1 hc.1.2.1 hd (x := x) (by rw [g2]; omega) (by rw [g2]; omega) (off := o) ?_ e4 (kk ls hl)
      rw [g2, e3, show (lo + (i : Int) - lo).toNat = i by omega]
      exact e2
    · refine iy_step (hn _ _ _ _ g2) fun H locs ls cells slots ho hl kk => lv_tableOut hc.1.1 hc.1.2.1 hd (x := x) ?_ hdf (kk ls hl)
      apply Classical.byContradiction
      intro hcon
      have h1 : lo ≤ x.toInt ∧ x.toInt ≤ hi := by omega
      obtain ⟨q', o, e1, e2, e3, e4⟩ := row (x.toInt - lo).toNat (by omega)
      refine g1 q' (List.mem_of_getElem? e1) (Int32.toInt_inj.mp ?_)
      rw [e3]
      omega
  · cases hs
def iy_lsw (pc : Nat) (tg : Nat → Nat) (t : List (Int32 × Nat)) (ps : List (Int × Int)) : Bool :=
  decide (t.length = ps.length) && (t.zip ps).all fun z => decide (z.1.1.toInt = z.2.1) && decide ((pc : Int) + z.2.2 = (tg z.1.2 : Int))
theorem iy_lsw_spec {pc : Nat} {tg : Nat → Nat} {x : Int32} {nx : Nat → ix_O} {d : Nat} {dflt : Int} {fin : iy_F} (hdf : (pc : Int) + dflt = (tg d : Int)) : ∀ (t : List (Int32 × Nat)) (ps : List (Int × Int)), iy_lsw pc tg t ps = true → ix_sw nx x d t = some fin → ∃ s, nx s = some fin ∧ (pc : Int) + Op.lookupswitch.offset ps dflt x.toInt = (tg s : Int) := by
  intro t
  induction t with
  | nil =>
    intro ps h1 h2
    cases ps with
    | nil => exact ⟨d, h2, hdf⟩
    | cons _ _ => simp [iy_lsw] at h1
  | cons z r ih =>
    obtain ⟨v, s⟩ := z
    intro ps h1 h2
    cases ps with
    | nil => simp [iy_lsw] at h1
    | cons w ps =>
      obtain ⟨a, o⟩ := w
      simp only [iy_lsw, List.zip_cons_cons, List.all_cons, List.length_cons, Bool.and_eq_true, decide_eq_true_eq] at h1
      obtain ⟨hl, ⟨hv, ho⟩, hr⟩ := h1
      unfold ix_sw at h2
      rw [Op.lookupswitch.offset_cons]
      by_cases hx : x = v
      · rw [if_pos hx] at h2
        rw [if_pos (by rw [hx]; exact hv.symm)]
        exact ⟨s, h2, ho⟩
      · rw [if_neg hx] at h2
        rw [if_neg (fun e => hx (Int32.toInt_inj.mp (by rw [hv]; exact e.symm)))]
        exact ih ps (by simp only [iy_lsw, Bool.and_eq_true, decide_eq_true_eq]; exact ⟨by omega, hr⟩) h2
theorem ok_lsw {t : List (Int32 × Nat)} {s len : Nat} {dflt : Int} {ps : Array (Int × Int)} (hd : decode cc pc = .ok (.lookupswitch dflt ps, len)) (hdf : (pc : Int) + dflt = (tg s : Int)) (hp : (ps.toList.zip (ps.toList.drop 1)).all (fun (a, next) => a.1 < next.1) = true) (hck : iy_lsw pc tg t ps.toList = true) : iy_ok iy_cal own nm cc nL ret pc tg bt (sx_sw t s) := by
  intro d E fin hc cal nx bk hcal hn hbk l k h hs
  unfold sx_sw at hs
  split at hs
  · rename_i x k2
    obtain ⟨s2, g1, g2⟩ := iy_lsw_spec hdf t ps.toList hck hs
    exact iy_step (hn _ _ _ _ g1) fun H locs ls cells slots ho hl kk => lv_lookup hc.1.1 hc.1.2.1 hd (x := x) hp rfl g2 (kk ls hl)
  · cases hs
/-- a constant text -/
theorem ok_str {i idx : Nat} {tx : String} (hm : (own, idx, tx, i) ∈ iy_strs) (hd : decode cc pc = .ok (.ldc idx, 2)) (ht : tg 0 = pc + 2) : iy_ok iy_cal own nm cc nL ret pc tg bt (sx_cst i) := by
  intro d E fin hc cal nx bk hcal hn hbk l k h hs
  have h1 := hn 0 _ _ _ hs
  rw [ht] at h1
  refine iy_step h1 fun H locs ls cells slots ho hl kk => ?_
  refine va_ldcS hc.1.1 hc.1.2.1 hc.1.2.2.2.1 (hc.2.2.1.2.2.2.2.1 _ hm) hd ?_
  have := kk ls hl
  rw [ho.1.2.2.1] at this
  exact this
/-- a static that holds a constant -/
theorem ok_gsR {i idx : Nat} {C n de ref : String} (hm : (C, n, de, some i) ∈ iy_sts) (hq : Cond.fieldLink own idx ref n de ∈ lw_all) (hsm : C = ref) (hd : decode cc pc = .ok (.getstatic idx, 3)) (ht : tg 0 = pc + 3) : iy_ok iy_cal own nm cc nL ret pc tg bt (sx_cst i) := by
  intro d E fin hc cal nx bk hcal hn hbk l k h hs
  have h1 := hn 0 _ _ _ hs
  rw [ht] at h1
  refine iy_step h1 fun H locs ls cells slots ho hl kk => ?_
  have hZ := ho.1.2.2.2.2 _ hm
  obtain ⟨cf, kf, fi, f, a, cell, h1, h2, h3, h4, h5, h6, h7, h8⟩ := hZ
  subst hsm
  refine W.gets hc.1.1 hc.1.2.1 hc.1.2.2.2.1 (hc.1.2.2.2.2 _ hq) h1 h2 h3 h4 h5 (fun e => by rw [e] at h6; cases h6) h7 rfl hd ?_
  have := kk ls hl
  rw [ho.1.2.2.1] at this
  exact this
theorem ok_gsI {idx : Nat} {C n de ref : String} (hm : (C, n, de, none) ∈ iy_sts) (hq : Cond.fieldLink own idx ref n de ∈ lw_all) (hsm : C = ref) (hd : decode cc pc = .ok (.getstatic idx, 3)) (ht : tg 0 = pc + 3) : iy_ok iy_cal own nm cc nL ret pc tg bt (sx_push (ix_I 1)) := by
  intro d E fin hc cal nx bk hcal hn hbk l k h hs
  have h1 := hn 0 _ _ _ hs
  rw [ht] at h1
  refine iy_step h1 fun H locs ls cells slots ho hl kk => ?_
  have hZ := ho.1.2.2.2.2 _ hm
  obtain ⟨cf, kf, fi, f, a, cell, h1, h2, h3, h4, h5, h6, h7, h8⟩ := hZ
  subst hsm
  exact W.gets hc.1.1 hc.1.2.1 hc.1.2.2.2.1 (hc.1.2.2.2.2 _ hq) h1 h2 h3 h4 h5 (fun e => by rw [e] at h6; cases h6) h7 rfl hd (kk ls hl)
end
