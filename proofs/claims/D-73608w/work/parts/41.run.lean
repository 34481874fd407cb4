/-! THE INTERPRETER IS SOUND -/
/-- every step of a method's code is sound, and takes no memory back; full: the places of all steps, ps: from here on -/
def iy_all (cal : iy_E → Nat → ix_C → Prop) (own nm : String) (cc : ByteArray) (nL : Nat) (ret : iy_T) (full : List Nat) : List Nat → List ix_T → Prop
  | _, [] => True
  | [], _ :: _ => False
  | pc :: ps, st :: r => (ix_mono st ∧ iy_ok cal own nm cc nL ret pc (fun s => ps.getD s 0) (fun j => full.getD j 0) st) ∧ iy_all cal own nm cc nL ret full ps r
theorem iy_all_drop {cal : iy_E → Nat → ix_C → Prop} {own nm : String} {cc : ByteArray} {nL : Nat} {ret : iy_T} {full : List Nat} : ∀ (j : Nat) (ps : List Nat) (cs : List ix_T), iy_all cal own nm cc nL ret full ps cs → iy_all cal own nm cc nL ret full (ps.drop j) (cs.drop j) := by
  intro j
  induction j with
  | zero => intro ps cs h; exact h
  | succ j ih =>
    intro ps cs h
    cases cs with
    | nil => rw [List.drop_nil]; cases (ps.drop (j + 1)) <;> exact trivial
    | cons c cs =>
      cases ps with
      | nil => exact h.elim
      | cons pc ps => exact ih ps cs h.2
theorem iy_fwd {cal0 : iy_E → Nat → ix_C → Prop} {own nm : String} {cc : ByteArray} {nL d : Nat} {ret : iy_T} {full : List Nat} {E : iy_E} {fin : iy_F} {cal : ix_C} {bk : ix_K} (hc : iy_cx own nm cc nL ret d E fin) (hcal : cal0 E d cal) (hbk : ∀ j l k h, bk j l k h = some fin → iy_sim E nL fin (full.getD j 0) l k h) :
    ∀ (cs : List ix_T) (ps : List Nat), iy_all cal0 own nm cc nL ret full ps cs → ∀ s l k h, ix_fwd cal bk cs s l k h = some fin → iy_sim E nL fin (ps.getD s 0) l k h := by
  intro cs
  induction cs with
  | nil => intro ps _ s l k h hs; cases hs
  | cons c cs ih =>
    intro ps hall s l k h hs
    cases ps with
    | nil => exact hall.elim
    | cons pc ps =>
      cases s with
      | zero => exact hall.1.2 d E fin hc cal (ix_fwd cal bk cs) bk hcal (fun s l k h hs => ih ps hall.2 s l k h hs) hbk l k h hs
      | succ s => exact ih ps hall.2 s l k h hs
theorem iy_drop_getD {full : List Nat} {j : Nat} : (full.drop j).getD 0 0 = full.getD j 0 := by
  simp [List.getD_eq_getElem?_getD, List.getElem?_drop]
theorem iy_lp {cal0 : iy_E → Nat → ix_C → Prop} {own nm : String} {cc : ByteArray} {nL d : Nat} {ret : iy_T} {full : List Nat} {E : iy_E} {fin : iy_F} {cal : ix_C} {code : List ix_T} (hc : iy_cx own nm cc nL ret d E fin) (hcal : cal0 E d cal) (hall : iy_all cal0 own nm cc nL ret full full code) :
    ∀ (n j : Nat) (l : ix_S) (k : List ix_V) (h : ix_H), ix_lp cal code n j l k h = some fin → iy_sim E nL fin (full.getD j 0) l k h := by
  intro n
  induction n with
  | zero => intro j l k h hs; cases hs
  | succ n ih =>
    intro j l k h hs
    have h2 := iy_fwd hc hcal ih (code.drop j) (full.drop j) (iy_all_drop j full code hall) 0 l k h hs
    rw [iy_drop_getD] at h2
    exact h2
theorem ix_fwd_M {cal0 : iy_E → Nat → ix_C → Prop} {own nm : String} {cc : ByteArray} {nL : Nat} {ret : iy_T} {full : List Nat} {fin : iy_F} {cal : ix_C} {bk : ix_K} (hcal : ∀ y as h r, cal y as h = some r → ix_M h r) (hbk : ∀ j l k h, bk j l k h = some fin → ix_M h fin) :
    ∀ (cs : List ix_T) (ps : List Nat), iy_all cal0 own nm cc nL ret full ps cs → ∀ s l k h, ix_fwd cal bk cs s l k h = some fin → ix_M h fin := by
  intro cs
  induction cs with
  | nil => intro ps _ s l k h hs; cases hs
  | cons c cs ih =>
    intro ps hall s l k h hs
    cases ps with
    | nil => exact hall.elim
    | cons pc ps =>
      cases s with
      | zero => exact hall.1.1 cal (ix_fwd cal bk cs) bk fin hcal (fun s l k h hs => ih ps hall.2 s l k h hs) hbk l k h hs
      | succ s => exact ih ps hall.2 s l k h hs
theorem ix_lp_M {cal0 : iy_E → Nat → ix_C → Prop} {own nm : String} {cc : ByteArray} {nL : Nat} {ret : iy_T} {full : List Nat} {fin : iy_F} {cal : ix_C} {code : List ix_T} (hcal : ∀ y as h r, cal y as h = some r → ix_M h r) (hall : iy_all cal0 own nm cc nL ret full full code) :
    ∀ (n j : Nat) (l : ix_S) (k : List ix_V) (h : ix_H), ix_lp cal code n j l k h = some fin → ix_M h fin := by
  intro n
  induction n with
  | zero => intro j l k h hs; cases hs
  | succ n ih =>
    intro j l k h hs
    exact ix_fwd_M hcal ih (code.drop j) (full.drop j) (iy_all_drop j full code hall) 0 l k h hs
/-- what is known of a method's code -/
def iy_mok (mi : iy_M) (y : Nat) (pr : Nat × List ix_T) : Prop := pr.2 = [] ∨ ∃ (own nm desc : String) (cc : ByteArray) (ret : iy_T) (pcs : List Nat), plainFor ⟨own, nm, desc⟩ = true ∧ (mi y).1 = ⟨own, nm, desc⟩ ∧
  ((ret.2 = [] ∧ (mi y).2 = ws_ ⟨own, nm, desc⟩ cc pr.1 ret.1) ∨ (mi y).2 = wsW_ ⟨own, nm, desc⟩ cc pr.1 ret.1 ret.2) ∧ pcs.getD 0 0 = 0 ∧ iy_all (iy_calls mi) own nm cc pr.1 ret pcs pcs pr.2
theorem iy_toMet {l : Launch} {y : MethodName} {ws : List Cond} {rm : Room} {Pc : Array Value → State → Prop} {Qc : Array Value → State → Outcome → State → Prop} {mc ms : Nat} {free : Addr → Prop} (h : vx_Met l y ws rm Pc Qc (fun _ _ _ _ => False) mc ms free) : Met l y ws rm Pc Qc mc ms free := by
  intro p e ha hc hk s m args below hf happ hP hK
  obtain ⟨n, o, h1, h2, h3, h4⟩ := h p e ha hc hk s m args below hf happ hP hK
  refine ⟨n, o, h1, h2, h3, ?_⟩
  rcases h4 with h4 | ⟨q, -, E, ce, L, hx, -⟩
  · exact h4
  · exact hx.elim
theorem iy_lgsl (as : List ix_V) : (lg_sl (as.map iy_v)).length = ix_cat as := by
  induction as with
  | nil => rfl
  | cons v r ih =>
    show (lg_sl (iy_v v :: r.map iy_v)).length = cond (ix_two v) 2 1 + ix_cat r
    have e : lg_sl (iy_v v :: r.map iy_v) = (if (iy_v v).category = 2 then [Slot.val (iy_v v), .second] else [.val (iy_v v)]) ++ lg_sl (r.map iy_v) := rfl
    rw [e, List.length_append, ih, iy_cat]
    cases ix_two v <;> rfl
/-- the end of a method that is called -/
theorem iy_rt_of {E : iy_E} {fin : iy_F} {cc : ByteArray} {ret : Option FieldType} {aa : Array Value} {mc ms : Nat} {v0 : Option ix_V} {XC : Addr → String → State → State → Prop} (hx : E.1.1.tables.exec = Jvm.exec) (hb : E.2.2.1.2.code = cc) (hr : E.2.2.1.1.sig.returnType = ret) (hlk : E.2.2.1.1.locks = false) (hH0 : E.2.2.2.1.2.2.1 = E.2.1.1.heap) (hfin : fin.1 = .inl v0)
    (hmc : mc + E.2.2.2.1.2.2.1.size = ix_sz fin.2) (hms : ms + E.2.2.2.1.2.2.2 = ix_sl fin.2) (hQ : E.2.2.2.2 = vx_MQ E.2.1.2.2.2 (iy_qc E.2.2.2.1.1 E.2.2.2.1.2.1 fin.2 v0) XC E.2.1.2.2.1 E.2.1.1 mc ms (fun q => E.2.2.2.1.2.1 ≤ q)) : iy_rt cc ret E fin := by
  intro v hv hro H locs ls cells slots pc ho hd
  have hvv : v = v0 := by rw [hv] at hfin; cases hfin; rfl
  subst hvv
  obtain ⟨hR, hS, hc1, hs1⟩ := ho
  have e1 : cells = mc := by omega
  have e2 : slots = ms := by omega
  subst e1; subst e2
  unfold iy_W
  rw [hQ]
  have hq : ∀ t : State, t.heap = H → E.2.1.1.WarmedH t.vm → iy_qc E.2.2.2.1.1 E.2.2.2.1.2.1 fin.2 v E.2.1.2.2.1 E.2.1.1 (.returned (v.map iy_v)) t := by
    intro t ht hW
    refine ⟨rfl, ?_, ?_⟩
    · rw [ht]; exact hR.moved hW.alike
    · rw [hH0] at hS; exact hS.F ht
  refine vx_ret ?_
  rcases v with _ | x | x | x
  · cases ret with
    | none => exact W.vret hx hb hr hq hS.2.2 hd hlk
    | some ty => cases hro
  · cases ret with
    | none => cases hro
    | some ty =>
      have hn : narrow ty (.int x) = .int x := by
        revert hro
        cases ty <;> exact id
      exact W.zret hx hb hr hn hq hS.2.2 hd hlk
  · cases ret with
    | none => cases hro
    | some ty =>
      cases ty <;> first | exact W.lret hx hb hr hq hS.2.2 hd hlk | cases hro
  · cases ret with
    | none => cases hro
    | some ty =>
      have hty : (∃ n, ty = .object n) ∨ ∃ t, ty = .array t := by
        revert hro
        cases ty <;> intro hro <;> first | exact Or.inl ⟨_, rfl⟩ | exact Or.inr ⟨_, rfl⟩ | cases hro
      exact W.aret hx hb hr hty (v := va_rf x) (by cases x with
        | none => exact Or.inl rfl
        | some a => exact Or.inr ⟨a, rfl⟩) hq hS.2.2 hd hlk
theorem iy_tx_of {E : iy_E} {fin : iy_F} {aa : Array Value} {mc ms : Nat} {q0 : Nat} {Qc : Array Value → State → Outcome → State → Prop} (hK : iy_K E.2.2.2.1.1 E.2.1.1) (hlk : E.2.2.1.1.locks = false) (hH0 : E.2.2.2.1.2.2.1 = E.2.1.1.heap) (hfin : fin.1 = .inr q0)
    (hmc : mc + E.2.2.2.1.2.2.1.size = ix_sz fin.2) (hms : ms + E.2.2.2.1.2.2.2 = ix_sl fin.2) (hQ : E.2.2.2.2 = vx_MQ E.2.1.2.2.2 Qc (iy_xc E.2.2.2.1.1 E.2.2.2.1.2.1 fin.2 q0) E.2.1.2.2.1 E.2.1.1 mc ms (fun q => E.2.2.2.1.2.1 ≤ q)) : iy_tx E fin := by
  intro q hq htq H locs ls cells slots pc st ho hcov
  have hqq : q = q0 := by rw [hq] at hfin; cases hfin; rfl
  subst hqq
  obtain ⟨hR, hS, hc1, hs1⟩ := ho
  have e1 : cells = mc := by omega
  have e2 : slots = ms := by omega
  subst e1; subst e2
  rw [hQ]
  obtain ⟨cell, z1, z2, z3, z4, z5, z6⟩ := iy_ob_W hR (c := 1) (by decide) htq
  have hcls : E.2.1.1.vm.findClass RX1 = some cell.cls := by
    rw [z2]
    exact (hK.1.1 1 _ rfl).2.1
  refine vx_out hcov hlk z1 (z5 rfl) hcls (fun t ht hal => ⟨rfl, rfl, ?_, ?_⟩) hS.2.2 (Nat.le_refl _) (Nat.le_refl _)
  · rw [ht]; exact hR.moved hal
  · rw [hH0] at hS; exact hS.F ht
theorem iy_run {mi : iy_M} {P : Nat → Nat × List ix_T} {N : Nat} (hP : ∀ y, iy_mok mi y (P y)) : ∀ (d : Nat), (∀ y as h r, ix_run P N d y as h = some r → ix_M h r) ∧ ∀ (l : Launch) (G : iy_G) (B0 : Nat) y as h res h2, ix_run P N d y as h = some (res, h2) → iy_met l G B0 d (mi y).1 (mi y).2 as h res h2 := by
  intro d
  induction d with
  | zero => exact ⟨(fun y as h r hs => by cases hs), fun l G B0 y as h res h2 hs => by cases hs⟩
  | succ d ih =>
    have hmono : ∀ y as h r, ix_run P N (d + 1) y as h = some r → ix_M h r := by
      intro y as h r hs
      have hs1 := ix_cnd hs
      rcases hP y with he | ⟨own, nm, desc, cc, ret, pcs, g1, g2, g3, g4, g5⟩
      · rw [he] at hs1; cases hs1
      · exact ix_fwd_M ih.1 (ix_lp_M ih.1 g5 N) _ _ g5 0 _ _ _ hs1
    refine ⟨hmono, fun l G B0 y as h res h2 hs => ?_⟩
    have hM := hmono y as h _ hs
    have hs2 := hs
    cases hcat : Nat.ble (ix_cat as) (P y).1 with
    | false => unfold ix_run at hs2; rw [hcat] at hs2; cases hs2
    | true =>
    have hs1 := ix_cnd hs
    rcases hP y with he | ⟨own, nm, desc, cc, ret, pcs, g1, g2, g3, g4, g5⟩
    · rw [he] at hs1; cases hs1
    · -- the body, whatever the end is
      have body : ∀ (Qc : Array Value → State → Outcome → State → Prop) (XC : Addr → String → State → State → Prop) (ws : List Cond), (∀ v, res = .inl v → Qc = iy_qc G B0 h2 v) → (∀ q, res = .inr q → XC = iy_xc G B0 h2 q) → (∃ c0, ws = c0 :: lw_all) →
          ∀ p e s m args below meth c s₁, BodyLoose p l ⟨own, nm, desc⟩ (headSpec ws (iy_rm (d + 1) h h2)) cc (P y).1 ret.1 e s m args below meth c s₁ → c.maxLocals = (P y).1 → c.exceptionTable.toList = tableOf ret.2 → iy_pc G B0 h as args s →
          W p l e (headSpec ws (iy_rm (d + 1) h h2)).room s m args below meth c s.heap [] 0 0 (vx_MQ below Qc XC args s (ix_sz h2 - ix_sz h) (ix_sl h2 - ix_sl h) (fun q => B0 ≤ q)) (entryFrame m args (P y).1) := by
        intro Qc XC ws hQc hXC hws p e s m args below meth c s₁ B hml htb hpre
        obtain ⟨hargs, hR, hK⟩ := hpre
        obtain ⟨c0, rfl⟩ := hws
        have hts : ∀ w ∈ lw_all, w.before args s = true := fun w hw => atoms_spec (ws := c0 :: lw_all) B.pre w (List.mem_cons_of_mem _ hw)
        have hz : s.heap.size = ix_sz h := hR.1
        have hM1 := hM.1
        have hM2 := hM.2.1
        dsimp only at hM1 hM2
        have hcx : iy_cx own nm cc (P y).1 ret d ((p, l, e, (headSpec (c0 :: lw_all) (iy_rm (d + 1) h h2)).room), (s, m, args, below), (meth, c), (G, B0, s.heap, ix_sl h), vx_MQ below Qc XC args s (ix_sz h2 - ix_sz h) (ix_sl h2 - ix_sl h) (fun q => B0 ≤ q)) (res, h2) := by
          refine ⟨⟨B.exec, B.bytes, hml, findClass_of_methodNamed B.named, hts⟩, ⟨B.notSynchronized, (name_of_methodNamed B.named B.method).1⟩, hK, ⟨hR.2.1, ?_, ?_, Nat.le_refl _, ?_⟩, ?_, ?_, htb⟩
          · show ix_sz h2 ≤ s.heap.size + (ix_sz h2 - ix_sz h); omega
          · show ix_sl h2 ≤ ix_sl h + (ix_sl h2 - ix_sl h); omega
          · show 64 * d + 64 ≤ 64 * (d + 1); omega
          · cases hres : res with
            | inl v => exact iy_rt_of (aa := args) B.exec B.bytes B.returns B.notSynchronized rfl rfl (show ix_sz h2 - ix_sz h + s.heap.size = ix_sz h2 by omega) (show ix_sl h2 - ix_sl h + ix_sl h = ix_sl h2 by omega) (by rw [hQc v hres])
            | inr q => exact fun v hv => by cases hv
          · cases hres : res with
            | inl v => exact fun v hv => by cases hv
            | inr q => exact iy_tx_of (aa := args) hK B.notSynchronized rfl rfl (show ix_sz h2 - ix_sz h + s.heap.size = ix_sz h2 by omega) (show ix_sl h2 - ix_sl h + ix_sl h = ix_sl h2 by omega) (by rw [hXC q hres])
        have hsim := iy_fwd (cal0 := iy_calls mi) hcx (fun y as h res h2 hs => ih.2 _ _ _ y as h res h2 hs) (iy_lp (cal0 := iy_calls mi) hcx (fun y as h res h2 hs => ih.2 _ _ _ y as h res h2 hs) g5 N) _ _ g5 0 _ _ _ hs1
        rw [g4] at hsim
        have hl := lv_entry (as.map iy_v) (n := (P y).1) (by rw [iy_lgsl]; exact Nat.le_of_ble_eq_true hcat)
        rw [iy_ent] at hl
        rw [hargs, lg_entry_eq]
        subst hargs
        exact hsim.2 s.heap [] _ 0 0 ⟨hR, va_S.rf, by show 0 + s.heap.size = _; omega, by show 0 + ix_sl h = _; omega⟩ hl
      -- by the words
      have met : ∀ (Qc : Array Value → State → Outcome → State → Prop) (XC : Addr → String → State → State → Prop), (∀ v, res = .inl v → Qc = iy_qc G B0 h2 v) → (∀ q, res = .inr q → XC = iy_xc G B0 h2 q) → vx_Met l (mi y).1 (mi y).2 (iy_rm (d + 1) h h2) (iy_pc G B0 h as) Qc XC (ix_sz h2 - ix_sz h) (ix_sl h2 - ix_sl h) (fun q => B0 ≤ q) := by
        intro Qc XC hQc hXC
        rw [g2]
        rcases g3 with ⟨g3, g6⟩ | g6
        · rw [g6]
          refine vx_ofW (cc := cc) (maxL := (P y).1) (ret := ret.1) g1 rfl fun p e s m args below meth c s₁ B hml htb hpre => body Qc XC _ hQc hXC ⟨_, rfl⟩ p e s m args below meth c s₁ B hml ?_ hpre
          rw [g3]
          cases ht : c.exceptionTable.toList with
          | nil => rfl
          | cons x r => exact (htb x (by rw [ht]; exact List.mem_cons_self)).elim
        · rw [g6]
          refine vx_ofWH (cc := cc) (maxL := (P y).1) (ret := ret.1) (hh := ret.2) g1 rfl fun p e s m args below meth c s₁ B hml hpre => body Qc XC _ hQc hXC ⟨_, rfl⟩ p e s m args below meth c s₁ B hml ?_ hpre
          exact vx_table (x := ⟨own, nm, desc⟩) B (atoms_spec (ws := wsW_ ⟨own, nm, desc⟩ cc (P y).1 ret.1 ret.2) B.pre _ List.mem_cons_self)
      refine ⟨⟨hM.1, hM.2.1⟩, fun v hv => iy_toMet (met _ _ (fun v' hv' => ?_) (fun q hq => ?_)), fun q hq => ⟨?_, met _ _ (fun v' hv' => ?_) (fun q' hq' => ?_)⟩⟩
      · rw [hv] at hv'; cases hv'; rfl
      · rw [hv] at hq; cases hq
      · exact hM.2.2 q hq
      · rw [hq] at hv'; cases hv'
      · rw [hq] at hq'; cases hq'; rfl
