/-! SOUNDNESS of the steps on fields and arrays -/
theorem ix_is_spec {h : ix_H} {c : Nat} {r : Option Nat} {a : Nat} (e : ix_is h c r = some a) : r = some a ∧ ix_tg h a = c := by
  cases r with
  | none => cases e
  | some b =>
    simp only [ix_is] at e
    cases hb : Nat.beq (ix_tg h b) c with
    | true => rw [hb] at e; cases e; exact ⟨rfl, Nat.eq_of_beq_eq_true hb⟩
    | false => rw [hb] at e; cases e
theorem ix_isr_spec {h : ix_H} {c : Nat} {r : Option Nat} {a : Nat} (e : ix_isr h c r = some a) : r = some a ∧ ix_tg h a % 512 = c := by
  cases r with
  | none => cases e
  | some b =>
    simp only [ix_isr] at e
    cases hb : Nat.beq (ix_tg h b % 512) c with
    | true => rw [hb] at e; cases e; exact ⟨rfl, Nat.eq_of_beq_eq_true hb⟩
    | false => rw [hb] at e; cases e
theorem ix_at_spec {h : ix_H} {c : Nat} {r : Option Nat} {i : Int32} {a : Nat} (e : ix_at h c r i = some a) : (r = some a ∧ ix_tg h a = c) ∧ ¬ (i < 0 ∨ ix_ln h a ≤ i.toNatClampNeg) := by
  obtain ⟨b, h1, h2⟩ := Option.bind_eq_some_iff.mp e
  cases hb : ix_in i (ix_ln h b) with
  | true => rw [hb] at h2; cases h2; exact ⟨ix_is_spec h1, of_decide_eq_true hb⟩
  | false => rw [hb] at h2; cases h2
theorem ix_atr_spec {h : ix_H} {c : Nat} {r : Option Nat} {i : Int32} {a : Nat} (e : ix_atr h c r i = some a) : (r = some a ∧ ix_tg h a % 512 = c) ∧ ¬ (i < 0 ∨ ix_ln h a ≤ i.toNatClampNeg) := by
  obtain ⟨b, h1, h2⟩ := Option.bind_eq_some_iff.mp e
  cases hb : ix_in i (ix_ln h b) with
  | true => rw [hb] at h2; cases h2; exact ⟨ix_isr_spec h1, of_decide_eq_true hb⟩
  | false => rw [hb] at h2; cases h2
theorem iy_ob_W {G : iy_G} {B0 : Nat} {h : ix_H} {U : State} {H : Heap} {a c : Nat} (hR : iy_Rep G B0 h U H) (hc : c < 100) (ht : ix_tg h a = c + 1) : iy_ob G h H a c (iy_n c) true :=
  ((hR.2.2.2.1 a (by omega)).2.2.2.2.1 c hc ht).2
/-- an object, ours or only read: its first n fields -/
theorem iy_ob_R {G : iy_G} {B0 : Nat} {h : ix_H} {U : State} {H : Heap} {a c : Nat} (hR : iy_Rep G B0 h U H) (hc : c < 100) (ht : ix_tg h a % 512 = c + 1) (hn : iy_ro c ≤ iy_n c) : ∃ w, iy_ob G h H a c (iy_ro c) w := by
  have h1 := hR.2.2.2.1 a (fun e => by rw [e] at ht; simp at ht)
  by_cases h2 : ix_tg h a < 512
  · obtain ⟨cell, q1, q2, q3, q4, q5, q6⟩ := iy_ob_W hR hc (show ix_tg h a = c + 1 by omega)
    exact ⟨true, cell, q1, q2, q3, q4, q5, fun k hk => q6 k (by omega)⟩
  · exact ⟨false, (h1.2.2.2.2.2.1 c hc (by omega)).2⟩
theorem iy_aw_of {G : iy_G} {B0 : Nat} {h : ix_H} {U : State} {H : Heap} {a t : Nat} {et : FieldType} (hR : iy_Rep G B0 h U H) (he : iy_el t = some et) (ht : ix_tg h a = t) : iy_aw G h H a t et :=
  (hR.2.2.2.1 a (by have := (iy_el_ge he).1; omega)).2.2.2.2.2.2.1 t et he ht
theorem iy_ar_of {G : iy_G} {B0 : Nat} {h : ix_H} {U : State} {H : Heap} {a t : Nat} {et : FieldType} (hR : iy_Rep G B0 h U H) (hK : iy_K G U) (he : iy_el t = some et) (ht : ix_tg h a % 512 = t) : iy_ar h U H a et := by
  have hg := iy_el_ge he
  have h1 := hR.2.2.2.1 a (fun e => by rw [e] at ht; simp at ht; omega)
  by_cases h2 : ix_tg h a < 512
  · have h3 := iy_aw_of hR he (show ix_tg h a = t by omega)
    exact ⟨_, h3.1, (hK.2.1 t et he).1 _ _, (fun q => by cases q), (by rw [arrV_size]; exact Nat.le_refl _), (by rw [arrV_size]), fun j hj => arrV_read _ _ hj⟩
  · exact h1.2.2.2.2.2.2.2 t et he (by omega)
theorem iy_at_O {G : iy_G} {h : ix_H} {U : State} {H : Heap} {a c : Nat} (hc : c < 100) (ht : ix_tg h a = c + 1) (hl : c < iy_cl.length) (ho : iy_ob G h H a c (iy_n c) true) : iy_at G h U H a := by
  refine ⟨fun c2 h2 e => ?_, fun c2 h2 e => by omega, fun t et he e => by have := iy_el_ge he; omega, fun t et he e => by omega⟩
  have : c2 = c := by omega
  rw [this]
  exact ⟨hl, ho⟩
theorem iy_at_A {G : iy_G} {h : ix_H} {U : State} {H : Heap} {a t : Nat} {et : FieldType} (he : iy_el t = some et) (ht : ix_tg h a = t) (ho : iy_aw G h H a t et) : iy_at G h U H a := by
  have hg := iy_el_ge he
  refine ⟨fun c2 h2 e => by omega, fun c2 h2 e => by omega, fun t2 et2 he2 e => ?_, fun t et he e => by omega⟩
  have h1 : t2 = t := by omega
  subst h1
  have h2 : et2 = et := Option.some.inj (he2.symm.trans he)
  rw [h2]
  exact ho
/-- a field holds an int, a long, a reference -/
def iy_kI (ty : FieldType) : Bool := match ty with
  | .boolean | .byte | .char | .short | .int => true
  | _ => false
def iy_kL (ty : FieldType) : Bool := match ty with
  | .long => true
  | _ => false
def iy_kR (ty : FieldType) : Bool := match ty with
  | .object _ | .array _ => true
  | _ => false
theorem iy_fvI {ty : FieldType} (hk : iy_kI ty = true) (h : ix_H) (a k : Nat) : iy_fv ty h a k = .int (ix_fI h a k) := by cases ty <;> first | rfl | cases hk
theorem iy_fvL {ty : FieldType} (hk : iy_kL ty = true) (h : ix_H) (a k : Nat) : iy_fv ty h a k = .long (ix_fL h a k) := by cases ty <;> first | rfl | cases hk
theorem iy_fvR {ty : FieldType} (hk : iy_kR ty = true) (h : ix_H) (a k : Nat) : iy_fv ty h a k = va_rf (ix_fR h a k) := by cases ty <;> first | rfl | cases hk
theorem iy_avI {ty : FieldType} (hk : iy_kI ty = true) (h : ix_H) (a k : Nat) : iy_av ty h a k = .int (ix_aI h a k) := by cases ty <;> first | rfl | cases hk
theorem iy_avL {ty : FieldType} (hk : iy_kL ty = true) (h : ix_H) (a k : Nat) : iy_av ty h a k = .long (ix_aL h a k) := by cases ty <;> first | rfl | cases hk
theorem iy_avR {ty : FieldType} (hk : iy_kR ty = true) (h : ix_H) (a k : Nat) : iy_av ty h a k = va_rf (ix_aR h a k) := by cases ty <;> first | rfl | cases hk
section
variable {p : Program} {l : Launch} {e : Env} {R : Room} {s : State} {m : MethodId} {args : Array Value} {below : List Frame} {meth : Method} {c : Code} {H : Heap} {locs : List Loc} {cells slots : Nat} {Q : State → Prop}
variable {cc : ByteArray} {nL pc : Nat} {own nm : String} {ls : Array Slot} {rest : List Value} {G : iy_G}
theorem iy_Wget (S : CallFix p m c cc nL s args lw_all own) (hK : iy_K G s) {ci j a idx : Nat} {r : vw_C} {cell : Cell} {v : Value} {ref : String} (hcl : iy_cl[ci]? = some r) (hj : j < r.2.2) (hq : Cond.fieldLink own idx ref (r.2.1 j).2.1 (r.2.1 j).2.2.1 ∈ lw_all) (hsame : ∀ x, s.fieldFound? (r.2.1 j).1 (r.2.1 j).2.1 (r.2.1 j).2.2.1 = some x → s.fieldFound? ref (r.2.1 j).2.1 (r.2.1 j).2.2.1 = some x)
    (h1 : H[a]? = some cell) (h2 : cell.vm ≠ .unknown) (h3 : cell.slots[G.2.1 ci j]? = some v) (hd : decode cc pc = .ok (.getfield idx, 3)) (kk : W p l e R s m args below meth c H locs cells slots Q (F0 m (pc + 3) ls (v :: rest))) : W p l e R s m args below meth c H locs cells slots Q (F0 m pc ls (.ref a :: rest)) := by
  obtain ⟨hS, hfc, kC, hkC, hkind⟩ := hK.1.1 ci _ hcl
  obtain ⟨cf, kf, fi, f, hi, hsl⟩ := hS j hj
  exact W.getf S.1 S.2.1 S.2.2.2.1 (S.2.2.2.2 _ hq) (hsame _ hi) (u_facts hfc hkC (u_lays S.2.2.2.2 (iy_in ci r hcl) hj) hi).1 h1 h2 (by rw [hsl]; exact h3) rfl rfl hd kk
theorem iy_Wput (S : CallFix p m c cc nL s args lw_all own) (hnm : meth.name = nm) (hK : iy_K G s) {ci j a idx : Nat} {r : vw_C} {cell : Cell} {v w : Value} {ref : String} (hcl : iy_cl[ci]? = some r) (hj : j < r.2.2) (hq : Cond.fieldLink own idx ref (r.2.1 j).2.1 (r.2.1 j).2.2.1 ∈ lw_all) (hsame : ∀ x, s.fieldFound? (r.2.1 j).1 (r.2.1 j).2.1 (r.2.1 j).2.2.1 = some x → s.fieldFound? ref (r.2.1 j).2.1 (r.2.1 j).2.2.1 = some x)
    (hfin : (r.2.1 j).2.2.2 = false ∨ ((r.2.1 j).2.2.2 = true ∧ nm = "<init>" ∧ (r.2.1 j).1 = own)) (hn : narrow (iy_ty ci j) v = v) (hf : fits (iy_ty ci j) v = true)
    (h1 : H[a]? = some cell) (h2 : cell.vm = .none) (h4 : cell.cls = G.1 ci) (h3 : cell.slots[G.2.1 ci j]? = some w) (hd : decode cc pc = .ok (.putfield idx, 3))
    (kk : ∀ H' : Heap, H'[a]? = some (cell.setSlot (G.2.1 ci j) v) → H'.size = H.size → (∀ q, q ≠ a → H'[q]? = H[q]?) → W p l e R s m args below meth c H' (locs ++ [⟨a, G.2.1 ci j⟩]) cells slots Q (F0 m (pc + 3) ls rest)) : W p l e R s m args below meth c H locs cells slots Q (F0 m pc ls (v :: .ref a :: rest)) := by
  obtain ⟨hS, hfc, kC, hkC, hkind⟩ := hK.1.1 ci _ hcl
  obtain ⟨cf, kf, fi, f, hi, hsl⟩ := hS j hj
  have hty := iy_ty_ok ci r hcl j hj
  have hst := (u_facts hfc hkC (u_lays S.2.2.2.2 (iy_in ci r hcl) hj) hi).1
  have hlay := S.2.2.2.2 _ (iy_in ci r hcl _ (u_in_lay hj))
  unfold u_lay at hlay
  rcases hfin with hfin | ⟨hfin, hin2, hdecl⟩
  · rw [if_neg (by rw [hfin]; decide)] at hlay
    have h6 := u_store hfc hkC hkind hlay hi hty hn hf
    refine W.putK S.1 S.2.1 (f := f) ⟨S.2.2.2.1, S.2.2.2.2 _ hq, ⟨_, _, _, hsame _ hi⟩, hst⟩ (by rw [h4]; exact h6) h1 h2 (by rw [hsl]; exact k2_hasslot h3) rfl rfl hd fun H' e1 e2 e3 => ?_
    rw [hsl] at e1 ⊢
    exact kk H' e1 e2 e3
  · rw [if_pos hfin] at hlay
    have hcf : m.cls = cf := by
      obtain ⟨_, _, c', _, _, _, -, -, hf', -, -, -, hown2, -⟩ := Cond.laysFinal_spec hlay
      have e1 : c' = cf := by have := hi.symm.trans hf'; simp at this; exact this.1.symm
      rw [hdecl] at hown2
      rw [← e1]; exact Option.some.inj (S.2.2.2.1.symm.trans hown2)
    have h6 := u_fits hfc hkC hkind (Or.inr hlay) hi hty hn hf
    refine W.putFinK S.1 S.2.1 S.2.2.2.1 (S.2.2.2.2 _ hq) (hsame _ hi) hst hcf (hnm.trans hin2) (by rw [h4]; exact h6) h1 h2 (by rw [hsl]; exact k2_hasslot h3) rfl rfl hd fun H' e1 e2 e3 => ?_
    rw [hsl] at e1 ⊢
    exact kk H' e1 e2 e3
end
/-- the slots of a class lie apart -/
theorem iy_apart {G : iy_G} {s : State} {args : Array Value} (hts : ∀ w ∈ lw_all, w.before args s = true) (hK : iy_K G s) {ci : Nat} {r : vw_C} (hcl : iy_cl[ci]? = some r) : ∀ x y, x < iy_n ci → y < iy_n ci → x ≠ y → G.2.1 ci x ≠ G.2.1 ci y := by
  have h := va_apart (own := r.1) hts (iy_in ci r hcl) (iy_ty ci) (iy_ty_ok ci r hcl) (iy_nm ci r hcl) hK.1 hcl
  rw [iy_cl_n ci r hcl] at h
  exact h
theorem iy_lt_of {ci : Nat} {r : vw_C} (hcl : iy_cl[ci]? = some r) : ci < iy_cl.length := (List.getElem?_eq_some_iff.mp hcl).1
