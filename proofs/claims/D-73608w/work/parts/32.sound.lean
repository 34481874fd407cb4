/-! SOUNDNESS of the plain steps. Written by gen_sound1.py -/
abbrev iy_E : Type := (Program × Launch × Env × Room) × (State × MethodId × Array Value × List Frame) × (Method × Code) × (iy_G × Nat × Heap × Nat) × (State → Prop)
def iy_W (E : iy_E) (H : Heap) (locs : List Loc) (cells slots : Nat) (g : JFrame) : Prop := W E.1.1 E.1.2.1 E.1.2.2.1 E.1.2.2.2 E.2.1.1 E.2.1.2.1 E.2.1.2.2.1 E.2.1.2.2.2 E.2.2.1.1 E.2.2.1.2 H locs cells slots E.2.2.2.2 g
/-- the heap h lies at H; cells and slots are what was made since the method's start -/
def iy_on (E : iy_E) (h : ix_H) (H : Heap) (locs : List Loc) (cells slots : Nat) : Prop :=
  iy_Rep E.2.2.2.1.1 E.2.2.2.1.2.1 h E.2.1.1 H ∧ va_S (fun q => E.2.2.2.1.2.1 ≤ q) E.2.2.2.1.2.2.1 H locs ∧ cells + E.2.2.2.1.2.2.1.size = ix_sz h ∧ slots + E.2.2.2.1.2.2.2 = ix_sl h
abbrev iy_F : Type := (Option ix_V ⊕ Nat) × ix_H
/-- from here the method comes to its end -/
def iy_sim (E : iy_E) (nL : Nat) (fin : iy_F) (pc : Nat) (l : ix_S) (k : List ix_V) (h : ix_H) : Prop :=
  (ix_sz h ≤ ix_sz fin.2 ∧ ix_sl h ≤ ix_sl fin.2) ∧ ∀ (H : Heap) (locs : List Loc) (ls : Array Slot) (cells slots : Nat), iy_on E h H locs cells slots → lv_has ls nL (iy_ls l) → iy_W E H locs cells slots (F0 E.2.1.2.1 pc ls (k.map iy_v))
def iy_ri : Option ix_V → Instr
  | none => .return_
  | some (.inl _) => .ireturn
  | some (.inr (.inl _)) => .lreturn
  | some (.inr (.inr _)) => .areturn
def iy_ro2 : Option FieldType → Option ix_V → Prop
  | none, none => True
  | some ty, some (.inl x) => narrow ty (.int x) = .int x
  | some .long, some (.inr (.inl _)) => True
  | some (.object _), some (.inr (.inr _)) => True
  | some (.array _), some (.inr (.inr _)) => True
  | _, _ => False
/-- the method's end: it may return what fin says -/
def iy_rt (cc : ByteArray) (ret : Option FieldType) (E : iy_E) (fin : iy_F) : Prop :=
  ∀ (v : Option ix_V), fin.1 = .inl v → iy_ro2 ret v → ∀ (H : Heap) (locs : List Loc) (ls : Array Slot) (cells slots pc : Nat), iy_on E fin.2 H locs cells slots → decode cc pc = .ok (iy_ri v, 1) → iy_W E H locs cells slots (F0 E.2.1.2.1 pc ls (v.toList.map iy_v))
/-- .. or throw it, where no handler covers the place -/
def iy_tx (E : iy_E) (fin : iy_F) : Prop :=
  ∀ (q : Nat), fin.1 = .inr q → ix_tg fin.2 q = 2 → ∀ (H : Heap) (locs : List Loc) (ls : Array Slot) (cells slots pc : Nat) (st : List Value), iy_on E fin.2 H locs cells slots → (∀ x ∈ E.2.2.1.2.exceptionTable.toList, covers x pc = false) →
    vx_W E.1.1 E.1.2.1 E.1.2.2.1 E.1.2.2.2 E.2.1.1 E.2.1.2.1 E.2.1.2.2.1 E.2.1.2.2.2 E.2.2.1.1 E.2.2.1.2 H locs cells slots E.2.2.2.2 (F0 E.2.1.2.1 pc ls st) q
/-- the answer's type, the handlers -/
abbrev iy_T : Type := Option FieldType × List (Nat × Nat × Nat × Nat)
def iy_cx (own nm : String) (cc : ByteArray) (nL : Nat) (ret : iy_T) (d : Nat) (E : iy_E) (fin : iy_F) : Prop :=
  CallFix E.1.1 E.2.1.2.1 E.2.2.1.2 cc nL E.2.1.1 E.2.1.2.2.1 lw_all own ∧ (E.2.2.1.1.locks = false ∧ E.2.2.1.1.name = nm) ∧ iy_K E.2.2.2.1.1 E.2.1.1 ∧
  (E.2.2.2.1.2.1 ≤ E.2.2.2.1.2.2.1.size ∧ ix_sz fin.2 ≤ E.2.2.2.1.2.2.1.size + E.1.2.2.2.cells ∧ ix_sl fin.2 ≤ E.2.2.2.1.2.2.2 + E.1.2.2.2.slots ∧ d + 1 ≤ E.1.2.2.2.frames ∧ 64 * d + 64 ≤ E.1.2.2.2.locals) ∧ iy_rt cc ret.1 E fin ∧ iy_tx E fin ∧ E.2.2.1.2.exceptionTable.toList = tableOf ret.2
theorem iy_step {E : iy_E} {nL : Nat} {fin : iy_F} {pc pc2 : Nat} {l l2 : ix_S} {k k2 : List ix_V} {h : ix_H} (hs : iy_sim E nL fin pc2 l2 k2 h)
    (row : ∀ (H : Heap) (locs : List Loc) (ls : Array Slot) (cells slots : Nat), iy_on E h H locs cells slots → lv_has ls nL (iy_ls l) → (∀ ls2 : Array Slot, lv_has ls2 nL (iy_ls l2) → iy_W E H locs cells slots (F0 E.2.1.2.1 pc2 ls2 (k2.map iy_v))) → iy_W E H locs cells slots (F0 E.2.1.2.1 pc ls (k.map iy_v))) : iy_sim E nL fin pc l k h :=
  ⟨hs.1, fun H locs ls cells slots ho hl => row H locs ls cells slots ho hl fun ls2 hl2 => hs.2 H locs ls2 cells slots ho hl2⟩
/-- the same, where two ways go on -/
theorem iy_if {E : iy_E} {nL : Nat} {fin : iy_F} {pc pa pb : Nat} {l : ix_S} {k k2 : List ix_V} {h : ix_H} {c : Prop} [Decidable c] (ha : c → iy_sim E nL fin pa l k2 h) (hb : ¬ c → iy_sim E nL fin pb l k2 h)
    (row : ∀ (H : Heap) (locs : List Loc) (ls : Array Slot) (cells slots : Nat), (c → iy_W E H locs cells slots (F0 E.2.1.2.1 pa ls (k2.map iy_v))) → (¬ c → iy_W E H locs cells slots (F0 E.2.1.2.1 pb ls (k2.map iy_v))) → iy_W E H locs cells slots (F0 E.2.1.2.1 pc ls (k.map iy_v))) : iy_sim E nL fin pc l k h := by
  refine ⟨?_, fun H locs ls cells slots ho hl => row H locs ls cells slots (fun c => (ha c).2 H locs ls cells slots ho hl) (fun c => (hb c).2 H locs ls cells slots ho hl)⟩
  by_cases hc : c
  · exact (ha hc).1
  · exact (hb hc).1

section
variable {own nm : String} {cc : ByteArray} {nL : Nat} {ret : iy_T} {pc : Nat} {tg bt : Nat → Nat} {iy_cal : iy_E → Nat → ix_C → Prop}
def iy_ok (iy_cal : iy_E → Nat → ix_C → Prop) (own nm : String) (cc : ByteArray) (nL : Nat) (ret : iy_T) (pc : Nat) (tg bt : Nat → Nat) (st : ix_T) : Prop :=
  ∀ (d : Nat) (E : iy_E) (fin : iy_F), iy_cx own nm cc nL ret d E fin → ∀ (cal : ix_C) (nx bk : ix_K), iy_cal E d cal →
    (∀ (s : Nat) (l : ix_S) (k : List ix_V) (h : ix_H), nx s l k h = some fin → iy_sim E nL fin (tg s) l k h) → (∀ (j : Nat) (l : ix_S) (k : List ix_V) (h : ix_H), bk j l k h = some fin → iy_sim E nL fin (bt j) l k h) →
    ∀ (l : ix_S) (k : List ix_V) (h : ix_H), st cal nx bk l k h = some fin → iy_sim E nL fin pc l k h
theorem ok_no : iy_ok iy_cal own nm cc nL ret pc tg bt sx_no := by
  intro d E fin hc cal nx bk hcal hn hb l k h hs
  cases hs
theorem ok_keep {is : List Nat} (ht : tg 0 = pc) : iy_ok iy_cal own nm cc nL ret pc tg bt (sx_keep is) := by
  intro d E fin hc cal nx bk hcal hn hb l k h hs
  obtain ⟨m, h1, h2⟩ := Option.bind_eq_some_iff.mp hs
  have h3 := hn 0 _ _ _ h2
  rw [ht] at h3
  exact iy_step h3 fun H locs ls cells slots ho hl kk => kk ls (iy_sub hl (iy_ls_sub (iy_keep h1)))
theorem ok_iconst {n : Int} {v : Int32} (hd : decode cc pc = .ok (.iconst n, 1)) (hv : Int32.ofInt n = v) (ht : tg 0 = pc + 1) : iy_ok iy_cal own nm cc nL ret pc tg bt (sx_push (ix_I v)) := by
  intro d E fin hc cal nx bk hcal hn hb l k h hs
  have h1 := hn 0 _ _ _ hs
  rw [ht] at h1
  exact iy_step h1 fun H locs ls cells slots ho hl kk => lv_iconst hc.1.1 hc.1.2.1 hd hv (kk ls hl)
theorem ok_bipush {n : Int} {v : Int32} (hd : decode cc pc = .ok (.bipush n, 2)) (hv : (Int8.ofInt n).toInt32 = v) (ht : tg 0 = pc + 2) : iy_ok iy_cal own nm cc nL ret pc tg bt (sx_push (ix_I v)) := by
  intro d E fin hc cal nx bk hcal hn hb l k h hs
  have h1 := hn 0 _ _ _ hs
  rw [ht] at h1
  exact iy_step h1 fun H locs ls cells slots ho hl kk => lv_bipush hc.1.1 hc.1.2.1 hd hv (kk ls hl)
theorem ok_sipush {n : Int} {v : Int32} (hd : decode cc pc = .ok (.sipush n, 3)) (hv : (Int16.ofInt n).toInt32 = v) (ht : tg 0 = pc + 3) : iy_ok iy_cal own nm cc nL ret pc tg bt (sx_push (ix_I v)) := by
  intro d E fin hc cal nx bk hcal hn hb l k h hs
  have h1 := hn 0 _ _ _ hs
  rw [ht] at h1
  exact iy_step h1 fun H locs ls cells slots ho hl kk => lv_sipush hc.1.1 hc.1.2.1 hd hv (kk ls hl)
theorem ok_lconst {n : Fin 2} {v : Int64} (hd : decode cc pc = .ok (.lconst n, 1)) (hv : Int64.ofNat (n : Nat) = v) (ht : tg 0 = pc + 1) : iy_ok iy_cal own nm cc nL ret pc tg bt (sx_push (ix_L v)) := by
  intro d E fin hc cal nx bk hcal hn hb l k h hs
  have h1 := hn 0 _ _ _ hs
  rw [ht] at h1
  exact iy_step h1 fun H locs ls cells slots ho hl kk => lv_lconst hc.1.1 hc.1.2.1 hd hv (kk ls hl)
theorem ok_null (hd : decode cc pc = .ok (.aconst_null, 1)) (ht : tg 0 = pc + 1) : iy_ok iy_cal own nm cc nL ret pc tg bt (sx_push (ix_R none)) := by
  intro d E fin hc cal nx bk hcal hn hb l k h hs
  have h1 := hn 0 _ _ _ hs
  rw [ht] at h1
  exact iy_step h1 fun H locs ls cells slots ho hl kk => lv_null hc.1.1 hc.1.2.1 hd (kk ls hl)
theorem ok_ldc {idx : Nat} {v : Int32} (hd : decode cc pc = .ok (.ldc idx, 2)) (hw : Jvm.Cond.constant own idx v ∈ lw_all) (ht : tg 0 = pc + 2) : iy_ok iy_cal own nm cc nL ret pc tg bt (sx_push (ix_I v)) := by
  intro d E fin hc cal nx bk hcal hn hb l k h hs
  have h1 := hn 0 _ _ _ hs
  rw [ht] at h1
  exact iy_step h1 fun H locs ls cells slots ho hl kk => lv_ldc hc.1.1 hc.1.2.1 hc.1.2.2.2.1 (hc.1.2.2.2.2 _ hw) hd (kk ls hl)
theorem ok_ldcw {idx : Nat} {v : Int32} (hd : decode cc pc = .ok (.ldc_w idx, 3)) (hw : Jvm.Cond.constant own idx v ∈ lw_all) (ht : tg 0 = pc + 3) : iy_ok iy_cal own nm cc nL ret pc tg bt (sx_push (ix_I v)) := by
  intro d E fin hc cal nx bk hcal hn hb l k h hs
  have h1 := hn 0 _ _ _ hs
  rw [ht] at h1
  exact iy_step h1 fun H locs ls cells slots ho hl kk => lv_ldcw hc.1.1 hc.1.2.1 hc.1.2.2.2.1 (hc.1.2.2.2.2 _ hw) hd (kk ls hl)
theorem ok_ldc2 {idx : Nat} {v : Int64} (hd : decode cc pc = .ok (.ldc2_w idx, 3)) (hw : Jvm.Cond.constantLong own idx v ∈ lw_all) (ht : tg 0 = pc + 3) : iy_ok iy_cal own nm cc nL ret pc tg bt (sx_push (ix_L v)) := by
  intro d E fin hc cal nx bk hcal hn hb l k h hs
  have h1 := hn 0 _ _ _ hs
  rw [ht] at h1
  exact iy_step h1 fun H locs ls cells slots ho hl kk => lv_ldc2 hc.1.1 hc.1.2.1 hc.1.2.2.2.1 (hc.1.2.2.2.2 _ hw) hd (kk ls hl)
theorem ok_ildn {i : Nat} {k : Fin 4} (hd : decode cc pc = .ok (.iload_n k, 1)) (hi : (k : Nat) = i) (ht : tg 0 = pc + 1) : iy_ok iy_cal own nm cc nL ret pc tg bt (sx_ild i) := by
  intro d E fin hc cal nx bk hcal hn hb l k h hs
  unfold sx_ild at hs
  split at hs
  · rename_i x hx
    have h1 := hn 0 _ _ _ hs
    rw [ht] at h1
    exact iy_step h1 fun H locs ls cells slots ho hl kk => lv_iload_n hc.1.1 hc.1.2.1 hd hi (iy_lk hl hx) (kk ls hl)
  · cases hs
theorem ok_ild {i : Nat} (hd : decode cc pc = .ok (.iload i, 2)) (ht : tg 0 = pc + 2) : iy_ok iy_cal own nm cc nL ret pc tg bt (sx_ild i) := by
  intro d E fin hc cal nx bk hcal hn hb l k h hs
  unfold sx_ild at hs
  split at hs
  · rename_i x hx
    have h1 := hn 0 _ _ _ hs
    rw [ht] at h1
    exact iy_step h1 fun H locs ls cells slots ho hl kk => lv_iload hc.1.1 hc.1.2.1 hd (iy_lk hl hx) (kk ls hl)
  · cases hs
theorem ok_lldn {i : Nat} {k : Fin 4} (hd : decode cc pc = .ok (.lload_n k, 1)) (hi : (k : Nat) = i) (ht : tg 0 = pc + 1) : iy_ok iy_cal own nm cc nL ret pc tg bt (sx_lld i) := by
  intro d E fin hc cal nx bk hcal hn hb l k h hs
  unfold sx_lld at hs
  split at hs
  · rename_i x hx
    have h1 := hn 0 _ _ _ hs
    rw [ht] at h1
    exact iy_step h1 fun H locs ls cells slots ho hl kk => lv_lload_n hc.1.1 hc.1.2.1 hd hi (iy_lk hl hx) (kk ls hl)
  · cases hs
theorem ok_lld {i : Nat} (hd : decode cc pc = .ok (.lload i, 2)) (ht : tg 0 = pc + 2) : iy_ok iy_cal own nm cc nL ret pc tg bt (sx_lld i) := by
  intro d E fin hc cal nx bk hcal hn hb l k h hs
  unfold sx_lld at hs
  split at hs
  · rename_i x hx
    have h1 := hn 0 _ _ _ hs
    rw [ht] at h1
    exact iy_step h1 fun H locs ls cells slots ho hl kk => lv_lload hc.1.1 hc.1.2.1 hd (iy_lk hl hx) (kk ls hl)
  · cases hs
theorem ok_aldn {i : Nat} {k : Fin 4} (hd : decode cc pc = .ok (.aload_n k, 1)) (hi : (k : Nat) = i) (ht : tg 0 = pc + 1) : iy_ok iy_cal own nm cc nL ret pc tg bt (sx_ald i) := by
  intro d E fin hc cal nx bk hcal hn hb l k h hs
  unfold sx_ald at hs
  split at hs
  · rename_i x hx
    have h1 := hn 0 _ _ _ hs
    rw [ht] at h1
    cases x with
    | none => exact iy_step h1 fun H locs ls cells slots ho hl kk => lv_aload_nN hc.1.1 hc.1.2.1 hd hi (iy_lk hl hx) (kk ls hl)
    | some a => exact iy_step h1 fun H locs ls cells slots ho hl kk => lv_aload_n hc.1.1 hc.1.2.1 hd hi (iy_lk hl hx) (kk ls hl)
  · cases hs
theorem ok_ald {i : Nat} (hd : decode cc pc = .ok (.aload i, 2)) (ht : tg 0 = pc + 2) : iy_ok iy_cal own nm cc nL ret pc tg bt (sx_ald i) := by
  intro d E fin hc cal nx bk hcal hn hb l k h hs
  unfold sx_ald at hs
  split at hs
  · rename_i x hx
    have h1 := hn 0 _ _ _ hs
    rw [ht] at h1
    cases x with
    | none => exact iy_step h1 fun H locs ls cells slots ho hl kk => lv_aloadN hc.1.1 hc.1.2.1 hd (iy_lk hl hx) (kk ls hl)
    | some a => exact iy_step h1 fun H locs ls cells slots ho hl kk => lv_aload hc.1.1 hc.1.2.1 hd (iy_lk hl hx) (kk ls hl)
  · cases hs
theorem ok_istn {i : Nat} {k : Fin 4} (hd : decode cc pc = .ok (.istore_n k, 1)) (hi : (k : Nat) = i) (hb : i < nL) (ht : tg 0 = pc + 1) : iy_ok iy_cal own nm cc nL ret pc tg bt (sx_ist i) := by
  intro d E fin hc cal nx bk hcal hn hbk l k h hs
  unfold sx_ist at hs
  split at hs
  · rename_i x k2
    have h1 := hn 0 _ _ _ hs
    rw [ht] at h1
    exact iy_step h1 fun H locs ls cells slots ho hl kk => lv_istore_n hc.1.1 hc.1.2.1 hd hi hl hb rfl (fun ls2 hl2 => kk ls2 (iy_set hl2))
  · cases hs
theorem ok_ist {i : Nat} (hd : decode cc pc = .ok (.istore i, 2)) (hb : i < nL) (ht : tg 0 = pc + 2) : iy_ok iy_cal own nm cc nL ret pc tg bt (sx_ist i) := by
  intro d E fin hc cal nx bk hcal hn hbk l k h hs
  unfold sx_ist at hs
  split at hs
  · rename_i x k2
    have h1 := hn 0 _ _ _ hs
    rw [ht] at h1
    exact iy_step h1 fun H locs ls cells slots ho hl kk => lv_istore hc.1.1 hc.1.2.1 hd hl hb rfl (fun ls2 hl2 => kk ls2 (iy_set hl2))
  · cases hs
theorem ok_lstn {i : Nat} {k : Fin 4} (hd : decode cc pc = .ok (.lstore_n k, 1)) (hi : (k : Nat) = i) (hb : i + 1 < nL) (ht : tg 0 = pc + 1) : iy_ok iy_cal own nm cc nL ret pc tg bt (sx_lst i) := by
  intro d E fin hc cal nx bk hcal hn hbk l k h hs
  unfold sx_lst at hs
  split at hs
  · rename_i x k2
    have h1 := hn 0 _ _ _ hs
    rw [ht] at h1
    exact iy_step h1 fun H locs ls cells slots ho hl kk => lv_lstore_n hc.1.1 hc.1.2.1 hd hi hl hb rfl (fun ls2 hl2 => kk ls2 (iy_set2 hl2))
  · cases hs
theorem ok_lst {i : Nat} (hd : decode cc pc = .ok (.lstore i, 2)) (hb : i + 1 < nL) (ht : tg 0 = pc + 2) : iy_ok iy_cal own nm cc nL ret pc tg bt (sx_lst i) := by
  intro d E fin hc cal nx bk hcal hn hbk l k h hs
  unfold sx_lst at hs
  split at hs
  · rename_i x k2
    have h1 := hn 0 _ _ _ hs
    rw [ht] at h1
    exact iy_step h1 fun H locs ls cells slots ho hl kk => lv_lstore hc.1.1 hc.1.2.1 hd hl hb rfl (fun ls2 hl2 => kk ls2 (iy_set2 hl2))
  · cases hs
theorem ok_astn {i : Nat} {k : Fin 4} (hd : decode cc pc = .ok (.astore_n k, 1)) (hi : (k : Nat) = i) (hb : i < nL) (ht : tg 0 = pc + 1) : iy_ok iy_cal own nm cc nL ret pc tg bt (sx_ast i) := by
  intro d E fin hc cal nx bk hcal hn hbk l k h hs
  unfold sx_ast at hs
  split at hs
  · rename_i x k2
    have h1 := hn 0 _ _ _ hs
    rw [ht] at h1
    cases x with
    | none => exact iy_step h1 fun H locs ls cells slots ho hl kk => lv_astore_nN hc.1.1 hc.1.2.1 hd hi hl hb rfl (fun ls2 hl2 => kk ls2 (iy_set hl2))
    | some a => exact iy_step h1 fun H locs ls cells slots ho hl kk => lv_astore_n hc.1.1 hc.1.2.1 hd hi hl hb rfl (fun ls2 hl2 => kk ls2 (iy_set hl2))
  · cases hs
theorem ok_ast {i : Nat} (hd : decode cc pc = .ok (.astore i, 2)) (hb : i < nL) (ht : tg 0 = pc + 2) : iy_ok iy_cal own nm cc nL ret pc tg bt (sx_ast i) := by
  intro d E fin hc cal nx bk hcal hn hbk l k h hs
  unfold sx_ast at hs
  split at hs
  · rename_i x k2
    have h1 := hn 0 _ _ _ hs
    rw [ht] at h1
    cases x with
    | none => exact iy_step h1 fun H locs ls cells slots ho hl kk => lv_astoreN hc.1.1 hc.1.2.1 hd hl hb rfl (fun ls2 hl2 => kk ls2 (iy_set hl2))
    | some a => exact iy_step h1 fun H locs ls cells slots ho hl kk => lv_astore hc.1.1 hc.1.2.1 hd hl hb rfl (fun ls2 hl2 => kk ls2 (iy_set hl2))
  · cases hs
theorem ok_inc {i : Nat} {n : Int} {v : Int32} (hd : decode cc pc = .ok (.iinc i n, 3)) (hv : Int32.ofInt n = v) (hb : i < nL) (ht : tg 0 = pc + 3) : iy_ok iy_cal own nm cc nL ret pc tg bt (sx_inc i v) := by
  intro d E fin hc cal nx bk hcal hn hbk l k h hs
  unfold sx_inc at hs
  split at hs
  · rename_i x hx
    have h1 := hn 0 _ _ _ hs
    rw [ht] at h1
    refine iy_step h1 fun H locs ls cells slots ho hl kk => ?_
    obtain ⟨j, hj⟩ := List.getElem?_of_mem (show (i, iy_v (ix_I x)) ∈ iy_ls l from List.mem_map.mpr ⟨_, ix_lk_mem hx, rfl⟩)
    exact lv_iinc hc.1.1 hc.1.2.1 hd hl hj (by rw [hv]) hb rfl (fun ls2 hl2 => kk ls2 (iy_set hl2))
  · cases hs
theorem ok_incw {i : Nat} {n : Int} {v : Int32} (hd : decode cc pc = .ok (.iinc i n, 6)) (hv : Int32.ofInt n = v) (hb : i < nL) (ht : tg 0 = pc + 6) : iy_ok iy_cal own nm cc nL ret pc tg bt (sx_inc i v) := by
  intro d E fin hc cal nx bk hcal hn hbk l k h hs
  unfold sx_inc at hs
  split at hs
  · rename_i x hx
    have h1 := hn 0 _ _ _ hs
    rw [ht] at h1
    refine iy_step h1 fun H locs ls cells slots ho hl kk => ?_
    obtain ⟨j, hj⟩ := List.getElem?_of_mem (show (i, iy_v (ix_I x)) ∈ iy_ls l from List.mem_map.mpr ⟨_, ix_lk_mem hx, rfl⟩)
    exact lv_iincW hc.1.1 hc.1.2.1 hd hl hj (by rw [hv]) hb rfl (fun ls2 hl2 => kk ls2 (iy_set hl2))
  · cases hs
theorem ok_iadd (hd : decode cc pc = .ok (.iadd, 1)) (ht : tg 0 = pc + 1) : iy_ok iy_cal own nm cc nL ret pc tg bt (sx_bin (fun x y => x + y)) := by
  intro d E fin hc cal nx bk hcal hn hb l k h hs
  unfold sx_bin at hs
  split at hs
  · have h1 := hn 0 _ _ _ hs
    rw [ht] at h1
    exact iy_step h1 fun H locs ls cells slots ho hl kk => lv_iadd hc.1.1 hc.1.2.1 hd (kk ls hl)
  · cases hs
theorem ok_isub (hd : decode cc pc = .ok (.isub, 1)) (ht : tg 0 = pc + 1) : iy_ok iy_cal own nm cc nL ret pc tg bt (sx_bin (fun x y => x - y)) := by
  intro d E fin hc cal nx bk hcal hn hb l k h hs
  unfold sx_bin at hs
  split at hs
  · have h1 := hn 0 _ _ _ hs
    rw [ht] at h1
    exact iy_step h1 fun H locs ls cells slots ho hl kk => lv_isub hc.1.1 hc.1.2.1 hd (kk ls hl)
  · cases hs
theorem ok_imul (hd : decode cc pc = .ok (.imul, 1)) (ht : tg 0 = pc + 1) : iy_ok iy_cal own nm cc nL ret pc tg bt (sx_bin (fun x y => x * y)) := by
  intro d E fin hc cal nx bk hcal hn hb l k h hs
  unfold sx_bin at hs
  split at hs
  · have h1 := hn 0 _ _ _ hs
    rw [ht] at h1
    exact iy_step h1 fun H locs ls cells slots ho hl kk => lv_imul hc.1.1 hc.1.2.1 hd (kk ls hl)
  · cases hs
theorem ok_iand (hd : decode cc pc = .ok (.iand, 1)) (ht : tg 0 = pc + 1) : iy_ok iy_cal own nm cc nL ret pc tg bt (sx_bin (fun x y => x &&& y)) := by
  intro d E fin hc cal nx bk hcal hn hb l k h hs
  unfold sx_bin at hs
  split at hs
  · have h1 := hn 0 _ _ _ hs
    rw [ht] at h1
    exact iy_step h1 fun H locs ls cells slots ho hl kk => lv_iand hc.1.1 hc.1.2.1 hd (kk ls hl)
  · cases hs
theorem ok_ior (hd : decode cc pc = .ok (.ior, 1)) (ht : tg 0 = pc + 1) : iy_ok iy_cal own nm cc nL ret pc tg bt (sx_bin (fun x y => x ||| y)) := by
  intro d E fin hc cal nx bk hcal hn hb l k h hs
  unfold sx_bin at hs
  split at hs
  · have h1 := hn 0 _ _ _ hs
    rw [ht] at h1
    exact iy_step h1 fun H locs ls cells slots ho hl kk => lv_ior hc.1.1 hc.1.2.1 hd (kk ls hl)
  · cases hs
theorem ok_ixor (hd : decode cc pc = .ok (.ixor, 1)) (ht : tg 0 = pc + 1) : iy_ok iy_cal own nm cc nL ret pc tg bt (sx_bin (fun x y => x ^^^ y)) := by
  intro d E fin hc cal nx bk hcal hn hb l k h hs
  unfold sx_bin at hs
  split at hs
  · have h1 := hn 0 _ _ _ hs
    rw [ht] at h1
    exact iy_step h1 fun H locs ls cells slots ho hl kk => lv_ixor hc.1.1 hc.1.2.1 hd (kk ls hl)
  · cases hs
theorem ok_ishl (hd : decode cc pc = .ok (.ishl, 1)) (ht : tg 0 = pc + 1) : iy_ok iy_cal own nm cc nL ret pc tg bt (sx_bin (fun x y => x <<< (y &&& 31))) := by
  intro d E fin hc cal nx bk hcal hn hb l k h hs
  unfold sx_bin at hs
  split at hs
  · have h1 := hn 0 _ _ _ hs
    rw [ht] at h1
    exact iy_step h1 fun H locs ls cells slots ho hl kk => lv_ishl hc.1.1 hc.1.2.1 hd (kk ls hl)
  · cases hs
theorem ok_ishr (hd : decode cc pc = .ok (.ishr, 1)) (ht : tg 0 = pc + 1) : iy_ok iy_cal own nm cc nL ret pc tg bt (sx_bin (fun x y => x >>> (y &&& 31))) := by
  intro d E fin hc cal nx bk hcal hn hb l k h hs
  unfold sx_bin at hs
  split at hs
  · have h1 := hn 0 _ _ _ hs
    rw [ht] at h1
    exact iy_step h1 fun H locs ls cells slots ho hl kk => lv_ishr hc.1.1 hc.1.2.1 hd (kk ls hl)
  · cases hs
theorem ok_iushr (hd : decode cc pc = .ok (.iushr, 1)) (ht : tg 0 = pc + 1) : iy_ok iy_cal own nm cc nL ret pc tg bt (sx_bin (fun x y => (x.toUInt32 >>> (y.toUInt32 &&& Int32.toUInt32 31)).toInt32)) := by
  intro d E fin hc cal nx bk hcal hn hb l k h hs
  unfold sx_bin at hs
  split at hs
  · have h1 := hn 0 _ _ _ hs
    rw [ht] at h1
    exact iy_step h1 fun H locs ls cells slots ho hl kk => lv_iushr hc.1.1 hc.1.2.1 hd rfl (kk ls hl)
  · cases hs
theorem ok_ineg (hd : decode cc pc = .ok (.ineg, 1)) (ht : tg 0 = pc + 1) : iy_ok iy_cal own nm cc nL ret pc tg bt (sx_un (fun x => -x)) := by
  intro d E fin hc cal nx bk hcal hn hb l k h hs
  unfold sx_un at hs
  split at hs
  · have h1 := hn 0 _ _ _ hs
    rw [ht] at h1
    exact iy_step h1 fun H locs ls cells slots ho hl kk => lv_ineg hc.1.1 hc.1.2.1 hd (kk ls hl)
  · cases hs
theorem ok_i2b (hd : decode cc pc = .ok (.i2b, 1)) (ht : tg 0 = pc + 1) : iy_ok iy_cal own nm cc nL ret pc tg bt (sx_un (fun x => x.toInt8.toInt32)) := by
  intro d E fin hc cal nx bk hcal hn hb l k h hs
  unfold sx_un at hs
  split at hs
  · have h1 := hn 0 _ _ _ hs
    rw [ht] at h1
    exact iy_step h1 fun H locs ls cells slots ho hl kk => lv_i2b hc.1.1 hc.1.2.1 hd rfl (kk ls hl)
  · cases hs
theorem ok_i2s (hd : decode cc pc = .ok (.i2s, 1)) (ht : tg 0 = pc + 1) : iy_ok iy_cal own nm cc nL ret pc tg bt (sx_un (fun x => x.toInt16.toInt32)) := by
  intro d E fin hc cal nx bk hcal hn hb l k h hs
  unfold sx_un at hs
  split at hs
  · have h1 := hn 0 _ _ _ hs
    rw [ht] at h1
    exact iy_step h1 fun H locs ls cells slots ho hl kk => lv_i2s hc.1.1 hc.1.2.1 hd rfl (kk ls hl)
  · cases hs
theorem ok_i2c (hd : decode cc pc = .ok (.i2c, 1)) (ht : tg 0 = pc + 1) : iy_ok iy_cal own nm cc nL ret pc tg bt (sx_un (fun x => (x.toUInt32 % 65536).toInt32)) := by
  intro d E fin hc cal nx bk hcal hn hb l k h hs
  unfold sx_un at hs
  split at hs
  · have h1 := hn 0 _ _ _ hs
    rw [ht] at h1
    exact iy_step h1 fun H locs ls cells slots ho hl kk => lv_i2c hc.1.1 hc.1.2.1 hd rfl (kk ls hl)
  · cases hs
theorem ok_ladd (hd : decode cc pc = .ok (.ladd, 1)) (ht : tg 0 = pc + 1) : iy_ok iy_cal own nm cc nL ret pc tg bt (sx_lbin (fun x y => x + y)) := by
  intro d E fin hc cal nx bk hcal hn hb l k h hs
  unfold sx_lbin at hs
  split at hs
  · have h1 := hn 0 _ _ _ hs
    rw [ht] at h1
    exact iy_step h1 fun H locs ls cells slots ho hl kk => lv_ladd hc.1.1 hc.1.2.1 hd (kk ls hl)
  · cases hs
theorem ok_lmul (hd : decode cc pc = .ok (.lmul, 1)) (ht : tg 0 = pc + 1) : iy_ok iy_cal own nm cc nL ret pc tg bt (sx_lbin (fun x y => x * y)) := by
  intro d E fin hc cal nx bk hcal hn hb l k h hs
  unfold sx_lbin at hs
  split at hs
  · have h1 := hn 0 _ _ _ hs
    rw [ht] at h1
    exact iy_step h1 fun H locs ls cells slots ho hl kk => lv_lmul hc.1.1 hc.1.2.1 hd (kk ls hl)
  · cases hs
theorem ok_i2l (hd : decode cc pc = .ok (.i2l, 1)) (ht : tg 0 = pc + 1) : iy_ok iy_cal own nm cc nL ret pc tg bt (sx_i2l) := by
  intro d E fin hc cal nx bk hcal hn hb l k h hs
  unfold sx_i2l at hs
  split at hs
  · have h1 := hn 0 _ _ _ hs
    rw [ht] at h1
    exact iy_step h1 fun H locs ls cells slots ho hl kk => lv_i2l hc.1.1 hc.1.2.1 hd rfl (kk ls hl)
  · cases hs
theorem ok_idiv (hd : decode cc pc = .ok (.idiv, 1)) (ht : tg 0 = pc + 1) : iy_ok iy_cal own nm cc nL ret pc tg bt (sx_div (fun x y => x / y)) := by
  intro d E fin hc cal nx bk hcal hn hb l k h hs
  unfold sx_div at hs
  split at hs
  · split at hs
    · cases hs
    · rename_i hne
      have h1 := hn 0 _ _ _ hs
      rw [ht] at h1
      exact iy_step h1 fun H locs ls cells slots ho hl kk => lv_idiv hc.1.1 hc.1.2.1 hd hne (kk ls hl)
  · cases hs
theorem ok_irem (hd : decode cc pc = .ok (.irem, 1)) (ht : tg 0 = pc + 1) : iy_ok iy_cal own nm cc nL ret pc tg bt (sx_div (fun x y => x - x / y * y)) := by
  intro d E fin hc cal nx bk hcal hn hb l k h hs
  unfold sx_div at hs
  split at hs
  · split at hs
    · cases hs
    · rename_i hne
      have h1 := hn 0 _ _ _ hs
      rw [ht] at h1
      exact iy_step h1 fun H locs ls cells slots ho hl kk => lv_irem hc.1.1 hc.1.2.1 hd hne (kk ls hl)
  · cases hs
theorem ok_pop (hd : decode cc pc = .ok (.pop, 1)) (ht : tg 0 = pc + 1) : iy_ok iy_cal own nm cc nL ret pc tg bt sx_pop := by
  intro d E fin hc cal nx bk hcal hn hb l k h hs
  unfold sx_pop at hs
  split at hs
  · rename_i v k2
    cases hv : ix_two v with
    | true => rw [hv] at hs; cases hs
    | false =>
      rw [hv] at hs
      have h1 := hn 0 _ _ _ hs
      rw [ht] at h1
      exact iy_step h1 fun H locs ls cells slots ho hl kk => lv_pop hc.1.1 hc.1.2.1 hd (by rw [iy_cat, hv]; rfl) (kk ls hl)
  · cases hs
theorem ok_dup (hd : decode cc pc = .ok (.dup, 1)) (ht : tg 0 = pc + 1) : iy_ok iy_cal own nm cc nL ret pc tg bt sx_dup := by
  intro d E fin hc cal nx bk hcal hn hb l k h hs
  unfold sx_dup at hs
  split at hs
  · rename_i v k2
    cases hv : ix_two v with
    | true => rw [hv] at hs; cases hs
    | false =>
      rw [hv] at hs
      have h1 := hn 0 _ _ _ hs
      rw [ht] at h1
      exact iy_step h1 fun H locs ls cells slots ho hl kk => lv_dup hc.1.1 hc.1.2.1 hd (by rw [iy_cat, hv]; rfl) (kk ls hl)
  · cases hs
theorem ok_dupx1 (hd : decode cc pc = .ok (.dup_x1, 1)) (ht : tg 0 = pc + 1) : iy_ok iy_cal own nm cc nL ret pc tg bt sx_dupx1 := by
  intro d E fin hc cal nx bk hcal hn hb l k h hs
  unfold sx_dupx1 at hs
  split at hs
  · rename_i v w k2
    cases hv : (ix_two v || ix_two w) with
    | true => rw [hv] at hs; cases hs
    | false =>
      rw [hv] at hs
      have h1 := hn 0 _ _ _ hs
      rw [ht] at h1
      exact iy_step h1 fun H locs ls cells slots ho hl kk => lv_dup_x1 hc.1.1 hc.1.2.1 hd (by rw [iy_cat, (Bool.or_eq_false_iff.mp hv).1]; rfl) (by rw [iy_cat, (Bool.or_eq_false_iff.mp hv).2]; rfl) (kk ls hl)
  · cases hs
theorem ok_dup2 (hd : decode cc pc = .ok (.dup2, 1)) (ht : tg 0 = pc + 1) : iy_ok iy_cal own nm cc nL ret pc tg bt sx_dup2 := by
  intro d E fin hc cal nx bk hcal hn hb l k h hs
  unfold sx_dup2 at hs
  split at hs
  · rename_i v w k2
    cases hv : (ix_two v || ix_two w) with
    | true => rw [hv] at hs; cases hs
    | false =>
      rw [hv] at hs
      have h1 := hn 0 _ _ _ hs
      rw [ht] at h1
      exact iy_step h1 fun H locs ls cells slots ho hl kk => lv_dup2_11 hc.1.1 hc.1.2.1 hd (by rw [iy_cat, (Bool.or_eq_false_iff.mp hv).1]; rfl) (by rw [iy_cat, (Bool.or_eq_false_iff.mp hv).2]; rfl) (kk ls hl)
  · cases hs
theorem ok_goto {s : Nat} {off : Int} (hd : decode cc pc = .ok (.goto off, 3)) (ht : (pc : Int) + off = (tg s : Int)) : iy_ok iy_cal own nm cc nL ret pc tg bt (sx_goto s) := by
  intro d E fin hc cal nx bk hcal hn hb l k h hs
  exact iy_step (hn s _ _ _ hs) fun H locs ls cells slots ho hl kk => lv_goto hc.1.1 hc.1.2.1 hd ht (kk ls hl)
theorem ok_back {j : Nat} {is : List Nat} {off : Int} (hd : decode cc pc = .ok (.goto off, 3)) (ht : (pc : Int) + off = (bt j : Int)) : iy_ok iy_cal own nm cc nL ret pc tg bt (sx_back j is) := by
  intro d E fin hc cal nx bk hcal hn hb l k h hs
  obtain ⟨m, h1, h2⟩ := Option.bind_eq_some_iff.mp hs
  exact iy_step (hb j _ _ _ h2) fun H locs ls cells slots ho hl kk => lv_goto hc.1.1 hc.1.2.1 hd ht (kk ls (iy_sub hl (iy_ls_sub (iy_keep h1))))
theorem ok_ieq {s : Nat} {off : Int} (hd : decode cc pc = .ok (.ifCond .eq off, 3)) (ht : (pc : Int) + off = (tg s : Int)) (h0 : tg 0 = pc + 3) : iy_ok iy_cal own nm cc nL ret pc tg bt (sx_ieq s) := by
  intro d E fin hc cal nx bk hcal hn hb l k h hs
  unfold sx_ieq at hs
  split at hs
  · rename_i x k2
    refine iy_if (pa := tg s) (pb := tg 0) (c := x = 0) (fun hcc => ?_) (fun hcc => ?_) fun H locs ls cells slots ka kb => lv_if_eq hc.1.1 hc.1.2.1 hd ht ka (by rw [← h0]; exact kb)
    · rw [if_pos hcc] at hs
      exact hn _ _ _ _ hs
    · rw [if_neg hcc] at hs
      exact hn _ _ _ _ hs
  · cases hs
theorem ok_ine {s : Nat} {off : Int} (hd : decode cc pc = .ok (.ifCond .ne off, 3)) (ht : (pc : Int) + off = (tg s : Int)) (h0 : tg 0 = pc + 3) : iy_ok iy_cal own nm cc nL ret pc tg bt (sx_ine s) := by
  intro d E fin hc cal nx bk hcal hn hb l k h hs
  unfold sx_ine at hs
  split at hs
  · rename_i x k2
    refine iy_if (pa := tg 0) (pb := tg s) (c := x = 0) (fun hcc => ?_) (fun hcc => ?_) fun H locs ls cells slots ka kb => lv_if_ne hc.1.1 hc.1.2.1 hd ht kb (by rw [← h0]; exact ka)
    · rw [if_pos hcc] at hs
      exact hn _ _ _ _ hs
    · rw [if_neg hcc] at hs
      exact hn _ _ _ _ hs
  · cases hs
theorem ok_ilt {s : Nat} {off : Int} (hd : decode cc pc = .ok (.ifCond .lt off, 3)) (ht : (pc : Int) + off = (tg s : Int)) (h0 : tg 0 = pc + 3) : iy_ok iy_cal own nm cc nL ret pc tg bt (sx_ilt s) := by
  intro d E fin hc cal nx bk hcal hn hb l k h hs
  unfold sx_ilt at hs
  split at hs
  · rename_i x k2
    refine iy_if (pa := tg s) (pb := tg 0) (c := x < 0) (fun hcc => ?_) (fun hcc => ?_) fun H locs ls cells slots ka kb => lv_if_lt hc.1.1 hc.1.2.1 hd ht ka (by rw [← h0]; exact kb)
    · rw [if_pos hcc] at hs
      exact hn _ _ _ _ hs
    · rw [if_neg hcc] at hs
      exact hn _ _ _ _ hs
  · cases hs
theorem ok_ige {s : Nat} {off : Int} (hd : decode cc pc = .ok (.ifCond .ge off, 3)) (ht : (pc : Int) + off = (tg s : Int)) (h0 : tg 0 = pc + 3) : iy_ok iy_cal own nm cc nL ret pc tg bt (sx_ige s) := by
  intro d E fin hc cal nx bk hcal hn hb l k h hs
  unfold sx_ige at hs
  split at hs
  · rename_i x k2
    refine iy_if (pa := tg s) (pb := tg 0) (c := 0 ≤ x) (fun hcc => ?_) (fun hcc => ?_) fun H locs ls cells slots ka kb => lv_if_ge hc.1.1 hc.1.2.1 hd ht ka (by rw [← h0]; exact kb)
    · rw [if_pos hcc] at hs
      exact hn _ _ _ _ hs
    · rw [if_neg hcc] at hs
      exact hn _ _ _ _ hs
  · cases hs
theorem ok_igt {s : Nat} {off : Int} (hd : decode cc pc = .ok (.ifCond .gt off, 3)) (ht : (pc : Int) + off = (tg s : Int)) (h0 : tg 0 = pc + 3) : iy_ok iy_cal own nm cc nL ret pc tg bt (sx_igt s) := by
  intro d E fin hc cal nx bk hcal hn hb l k h hs
  unfold sx_igt at hs
  split at hs
  · rename_i x k2
    refine iy_if (pa := tg s) (pb := tg 0) (c := 0 < x) (fun hcc => ?_) (fun hcc => ?_) fun H locs ls cells slots ka kb => lv_if_gt hc.1.1 hc.1.2.1 hd ht ka (by rw [← h0]; exact kb)
    · rw [if_pos hcc] at hs
      exact hn _ _ _ _ hs
    · rw [if_neg hcc] at hs
      exact hn _ _ _ _ hs
  · cases hs
theorem ok_ile {s : Nat} {off : Int} (hd : decode cc pc = .ok (.ifCond .le off, 3)) (ht : (pc : Int) + off = (tg s : Int)) (h0 : tg 0 = pc + 3) : iy_ok iy_cal own nm cc nL ret pc tg bt (sx_ile s) := by
  intro d E fin hc cal nx bk hcal hn hb l k h hs
  unfold sx_ile at hs
  split at hs
  · rename_i x k2
    refine iy_if (pa := tg s) (pb := tg 0) (c := x ≤ 0) (fun hcc => ?_) (fun hcc => ?_) fun H locs ls cells slots ka kb => lv_if_le hc.1.1 hc.1.2.1 hd ht ka (by rw [← h0]; exact kb)
    · rw [if_pos hcc] at hs
      exact hn _ _ _ _ hs
    · rw [if_neg hcc] at hs
      exact hn _ _ _ _ hs
  · cases hs
theorem ok_ceq {s : Nat} {off : Int} (hd : decode cc pc = .ok (.if_icmp .eq off, 3)) (ht : (pc : Int) + off = (tg s : Int)) (h0 : tg 0 = pc + 3) : iy_ok iy_cal own nm cc nL ret pc tg bt (sx_ceq s) := by
  intro d E fin hc cal nx bk hcal hn hb l k h hs
  unfold sx_ceq at hs
  split at hs
  · rename_i y x k2
    refine iy_if (pa := tg s) (pb := tg 0) (c := x = y) (fun hcc => ?_) (fun hcc => ?_) fun H locs ls cells slots ka kb => lv_icmp_eq hc.1.1 hc.1.2.1 hd ht ka (by rw [← h0]; exact kb)
    · rw [if_pos hcc] at hs
      exact hn _ _ _ _ hs
    · rw [if_neg hcc] at hs
      exact hn _ _ _ _ hs
  · cases hs
theorem ok_cne {s : Nat} {off : Int} (hd : decode cc pc = .ok (.if_icmp .ne off, 3)) (ht : (pc : Int) + off = (tg s : Int)) (h0 : tg 0 = pc + 3) : iy_ok iy_cal own nm cc nL ret pc tg bt (sx_cne s) := by
  intro d E fin hc cal nx bk hcal hn hb l k h hs
  unfold sx_cne at hs
  split at hs
  · rename_i y x k2
    refine iy_if (pa := tg 0) (pb := tg s) (c := x = y) (fun hcc => ?_) (fun hcc => ?_) fun H locs ls cells slots ka kb => lv_icmp_ne hc.1.1 hc.1.2.1 hd ht kb (by rw [← h0]; exact ka)
    · rw [if_pos hcc] at hs
      exact hn _ _ _ _ hs
    · rw [if_neg hcc] at hs
      exact hn _ _ _ _ hs
  · cases hs
theorem ok_clt {s : Nat} {off : Int} (hd : decode cc pc = .ok (.if_icmp .lt off, 3)) (ht : (pc : Int) + off = (tg s : Int)) (h0 : tg 0 = pc + 3) : iy_ok iy_cal own nm cc nL ret pc tg bt (sx_clt s) := by
  intro d E fin hc cal nx bk hcal hn hb l k h hs
  unfold sx_clt at hs
  split at hs
  · rename_i y x k2
    refine iy_if (pa := tg s) (pb := tg 0) (c := x < y) (fun hcc => ?_) (fun hcc => ?_) fun H locs ls cells slots ka kb => lv_icmp_lt hc.1.1 hc.1.2.1 hd ht ka (by rw [← h0]; exact kb)
    · rw [if_pos hcc] at hs
      exact hn _ _ _ _ hs
    · rw [if_neg hcc] at hs
      exact hn _ _ _ _ hs
  · cases hs
theorem ok_cge {s : Nat} {off : Int} (hd : decode cc pc = .ok (.if_icmp .ge off, 3)) (ht : (pc : Int) + off = (tg s : Int)) (h0 : tg 0 = pc + 3) : iy_ok iy_cal own nm cc nL ret pc tg bt (sx_cge s) := by
  intro d E fin hc cal nx bk hcal hn hb l k h hs
  unfold sx_cge at hs
  split at hs
  · rename_i y x k2
    refine iy_if (pa := tg s) (pb := tg 0) (c := y ≤ x) (fun hcc => ?_) (fun hcc => ?_) fun H locs ls cells slots ka kb => lv_icmp_ge hc.1.1 hc.1.2.1 hd ht ka (by rw [← h0]; exact kb)
    · rw [if_pos hcc] at hs
      exact hn _ _ _ _ hs
    · rw [if_neg hcc] at hs
      exact hn _ _ _ _ hs
  · cases hs
theorem ok_cgt {s : Nat} {off : Int} (hd : decode cc pc = .ok (.if_icmp .gt off, 3)) (ht : (pc : Int) + off = (tg s : Int)) (h0 : tg 0 = pc + 3) : iy_ok iy_cal own nm cc nL ret pc tg bt (sx_cgt s) := by
  intro d E fin hc cal nx bk hcal hn hb l k h hs
  unfold sx_cgt at hs
  split at hs
  · rename_i y x k2
    refine iy_if (pa := tg s) (pb := tg 0) (c := y < x) (fun hcc => ?_) (fun hcc => ?_) fun H locs ls cells slots ka kb => lv_icmp_gt hc.1.1 hc.1.2.1 hd ht ka (by rw [← h0]; exact kb)
    · rw [if_pos hcc] at hs
      exact hn _ _ _ _ hs
    · rw [if_neg hcc] at hs
      exact hn _ _ _ _ hs
  · cases hs
theorem ok_cle {s : Nat} {off : Int} (hd : decode cc pc = .ok (.if_icmp .le off, 3)) (ht : (pc : Int) + off = (tg s : Int)) (h0 : tg 0 = pc + 3) : iy_ok iy_cal own nm cc nL ret pc tg bt (sx_cle s) := by
  intro d E fin hc cal nx bk hcal hn hb l k h hs
  unfold sx_cle at hs
  split at hs
  · rename_i y x k2
    refine iy_if (pa := tg s) (pb := tg 0) (c := x ≤ y) (fun hcc => ?_) (fun hcc => ?_) fun H locs ls cells slots ka kb => lv_icmp_le hc.1.1 hc.1.2.1 hd ht ka (by rw [← h0]; exact kb)
    · rw [if_pos hcc] at hs
      exact hn _ _ _ _ hs
    · rw [if_neg hcc] at hs
      exact hn _ _ _ _ hs
  · cases hs
end
