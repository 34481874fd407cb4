/-! T5: the reference: codes and signs that wait -/
set_option maxRecDepth 100000
/-- the code so far -/
def pC (A : Nat → Nat → Int32) (m : Nat) (c : xC) : Prop := ∀ i (hi : i < c.length), A (m + 15) i = nI (c[i]).1 ∧ A (m + 16) i = (c[i]).2
/-- signs that wait, the last first -/
def pS (a : Nat → Int32) : List Nat → Prop
  | [] => True
  | x :: r => a r.length = nI x ∧ x ≤ 37 ∧ pS a r
theorem pS.up {a : Nat → Int32} {k : Nat} {v : Int32} : ∀ {V : List Nat}, pS a V → V.length ≤ k → pS (hw_U a k v) V
  | [], _, _ => trivial
  | x :: r, h, hk => ⟨by rw [hw_U_ne _ _ (by simp only [List.length_cons] at hk; omega)]; exact h.1, h.2.1, pS.up h.2.2 (by simp only [List.length_cons] at hk; omega)⟩
theorem pS.drop {a : Nat → Int32} : ∀ (M : List Nat) {V : List Nat}, pS a (M ++ V) → pS a V
  | [], _, h => h
  | _ :: M, _, h => pS.drop M h.2.2
def x_fl (M : List Nat) : xC := M.map fun k => (x_op k, nI 0)
def pQ (s x : Nat) : Prop := x ≠ 6 ∧ (s = 1 → x ≠ 8 ∧ x ≠ 9)
def pZ (s : Nat) (W : List Nat) : Prop := match W with
  | [] => True
  | x :: _ => x = 6 ∨ s = 1 ∧ (x = 8 ∨ x = 9)
theorem pQ_split (s : Nat) : ∀ V : List Nat, ∃ M W, V = M ++ W ∧ (∀ x ∈ M, pQ s x) ∧ pZ s W
  | [] => ⟨[], [], rfl, fun _ h => absurd h List.not_mem_nil, trivial⟩
  | x :: r => by
    by_cases w : x = 6 ∨ s = 1 ∧ (x = 8 ∨ x = 9)
    · exact ⟨[], x :: r, rfl, fun _ h => absurd h List.not_mem_nil, w⟩
    · obtain ⟨M, W, e, q, z⟩ := pQ_split s r
      refine ⟨x :: M, W, by rw [e]; rfl, fun y hy => ?_, z⟩
      rcases List.mem_cons.mp hy with rfl | hy
      · exact ⟨fun e => w (.inl e), fun e => ⟨fun e2 => w (.inr ⟨e, .inl e2⟩), fun e2 => w (.inr ⟨e, .inr e2⟩)⟩⟩
      · exact q y hy
section
variable {h : ix_H} {m : Nat} {F A : Nat → Nat → Int32} {tk : Nat → tK} {e t n : Nat}
theorem p_emit (hP : mSp h m) {c : xC} (hF : F m 27 = nI c.length) (hC : pC A m c) (hl : c.length < 420) (N d k : Nat) (v : Int32) : ∃ F' A', ix_run iy_P N (d + 1) 263 [ix_R (some m), ix_I (nI k), ix_I v] (hw h F A) = some (.inl none, hw h F' A') ∧ mQ [27] [15, 16] m F A F' A' ∧ F' m 27 = nI (c ++ [(k, v)]).length ∧ pC A' m (c ++ [(k, v)]) := by
  rw [rX9_emit N d]
  unfold bX9_emit
  rw [mq_is hP, mq_is hP, mp_wr28 hP, hw_fI, hF, hw_in hl (by omega), cond_true, hw_bdA, mq_is hP, mq_is hP, mp_wr29 hP, hw_fI, hF, hw_in hl (by omega), cond_true, hw_bdA, mq_is hP, mq_is hP, hw_bdF, hw_cl (by omega), hw_fI, hF, nI_add]
  refine ⟨_, _, rfl, (((mQ.refl [27] [15, 16] m F A).aR (k := 15) rfl (by omega)).aR (k := 16) rfl (by omega)).fR rfl, ?_, fun i hi => ?_⟩
  · rw [hw_R_same, hw_U_same, List.length_append]
    rfl
  · rw [hw_R_ne _ _ (by omega), hw_R_same, hw_R_same, hw_R_ne _ _ (by omega)]
    by_cases w : i = c.length
    · subst w
      rw [hw_U_same, hw_U_same]
      simp only [List.getElem_append_right (Nat.le_refl _), Nat.sub_self, List.getElem_cons_zero]
      exact ⟨trivial, trivial⟩
    · have hi' : i < c.length := by rw [List.length_append] at hi; simp only [List.length_singleton] at hi; omega
      rw [hw_U_ne _ _ w, hw_U_ne _ _ w, List.getElem_append_left hi']
      exact hC i hi'
theorem p_comesOut_l (hP : mSp h m) (N d : Nat) {s : Nat} (hs : s ≤ 1) {W : List Nat} (hst : pZ s W) : ∀ (M : List Nat) (z : Nat) (c : xC) (F A : Nat → Nat → Int32), M.length < z → (∀ x ∈ M, pQ s x) → (M ++ W).length ≤ 60 → c.length + M.length ≤ 419 → F m 31 = nI (M ++ W).length → pS (A (m + 17)) (M ++ W) → F m 27 = nI c.length → pC A m c →
    ∃ F' A', ix_lp (ix_run iy_P N (d + 1)) stX9_comesOut z 0 [(0, ix_R (some m)), (1, ix_I (nI s))] [] (hw h F A) = some (.inl none, hw h F' A') ∧ mQ [27, 31] [15, 16] m F A F' A' ∧ F' m 31 = nI W.length ∧ F' m 27 = nI (c ++ x_fl M).length ∧ pC A' m (c ++ x_fl M) := by
  intro M
  induction M with
  | nil =>
    intro z c F A hz hq hl hc h31 hS h27 hC
    obtain ⟨z, rfl⟩ : ∃ w, z = w + 1 := ⟨z - 1, by simp only [List.length_nil] at hz; omega⟩
    rw [lX9_comesOut_0]
    unfold jX9_comesOut_0 jX9_comesOut_23
    rw [List.nil_append] at h31 hS hl
    have fin : ∃ F' A', some (.inl none, hw h F A) = (some (.inl none, hw h F' A') : ix_O) ∧ mQ [27, 31] [15, 16] m F A F' A' ∧ F' m 31 = nI W.length ∧ F' m 27 = nI (c ++ x_fl []).length ∧ pC A' m (c ++ x_fl []) := by
      refine ⟨F, A, rfl, mQ.refl _ _ _ _ _, h31, ?_, ?_⟩
      · rw [show x_fl [] = [] from rfl, List.append_nil]
        exact h27
      · rw [show x_fl [] = [] from rfl, List.append_nil]
        exact hC
    rw [mq_is hP, hw_fI, h31]
    cases W with
    | nil =>
      rw [if_pos (by decide)]
      exact fin
    | cons x r =>
      obtain ⟨s1, s2, -⟩ := hS
      simp only [List.length_cons] at hl
      rw [List.length_cons, if_neg (by rw [hw_le (by omega) (by omega)]; omega), mq_is hP, mq_is hP, mp_rd30 hP, show F m 31 = nI (r.length + 1) from h31, hw_sub (by omega), Nat.add_sub_cancel, hw_in (by omega) (by omega), cond_true, hw_aI, hw_cl (by omega), s1]
      rcases hst with w | ⟨w, w2⟩
      · rw [w, if_pos rfl]
        exact fin
      · by_cases w6 : nI x = nI 6
        · rw [if_pos w6]
          exact fin
        · rw [if_neg w6, w, if_neg (by decide)]
          rcases w2 with w2 | w2
          · rw [w2, if_pos rfl]
            exact fin
          · rw [w2, if_neg (by decide), if_pos rfl]
            exact fin
  | cons x M ih =>
    intro z c F A hz hq hl hc h31 hS h27 hC
    obtain ⟨z, rfl⟩ : ∃ w, z = w + 1 := ⟨z - 1, by simp only [List.length_cons] at hz; omega⟩
    obtain ⟨s1, s2, s3⟩ : A (m + 17) (M ++ W).length = nI x ∧ x ≤ 37 ∧ pS (A (m + 17)) (M ++ W) := hS
    obtain ⟨q6, q89⟩ := hq x List.mem_cons_self
    simp only [List.cons_append, List.length_cons] at hl hc hz h31
    rw [lX9_comesOut_0]
    unfold jX9_comesOut_0
    rw [mq_is hP, hw_fI, h31, if_neg (by rw [hw_le (by omega) (by omega)]; omega), mq_is hP, mq_is hP, mp_rd30 hP, h31, hw_sub (by omega), Nat.add_sub_cancel, hw_in (by omega) (by omega), cond_true, hw_aI, hw_cl (by omega), s1, if_neg (by rw [hw_eq (by omega) (by omega)]; exact q6)]
    have go : ∃ F' A', jX9_comesOut_25 (ix_run iy_P N (d + 1)) (ix_lp (ix_run iy_P N (d + 1)) stX9_comesOut z) m (nI s) (nI x) (hw h F A) = some (.inl none, hw h F' A') ∧ mQ [27, 31] [15, 16] m F A F' A' ∧ F' m 31 = nI W.length ∧ F' m 27 = nI (c ++ x_fl (x :: M)).length ∧ pC A' m (c ++ x_fl (x :: M)) := by
      have ec : c ++ x_fl (x :: M) = (c ++ [(x_op x, nI 0)]) ++ x_fl M := by
        rw [List.append_assoc]
        rfl
      rw [ec]
      have q0 : mQ [27, 31] [15, 16] m F A (hw_R F m (hw_U (F m) 31 (nI (M ++ W).length))) A := (mQ.refl _ _ _ _ _).fR rfl
      obtain ⟨F1, A1, e1, q1, g27, gC⟩ := p_emit (F := hw_R F m (hw_U (F m) 31 (nI (M ++ W).length))) hP (c := c) (by rw [hw_R_same, hw_U_ne _ _ (by omega)]; exact h27) hC (by omega) N d (x_op x) (nI 0)
      obtain ⟨F2, A2, e2, q2, r1, r2, r3⟩ := ih z (c ++ [(x_op x, nI 0)]) F1 A1 (by omega) (fun y hy => hq y (List.mem_cons_of_mem _ hy)) (by omega) (by rw [List.length_append, List.length_singleton]; omega) (by rw [q1.2.1 31 rfl, hw_R_same, hw_U_same]) (by rw [q1.2.2.1 17 rfl]; exact s3) g27 gC
      refine ⟨F2, A2, ?_, q0.trans ((q1.mono rfl rfl).trans q2), r1, r2, r3⟩
      have j54 : jX9_comesOut_54 (ix_run iy_P N (d + 1)) (ix_lp (ix_run iy_P N (d + 1)) stX9_comesOut z) m (nI s) (some m) (nI (x_op x)) (hw h (hw_R F m (hw_U (F m) 31 (nI (M ++ W).length))) A) = some (.inl none, hw h F2 A2) := by
        unfold jX9_comesOut_54
        rw [mq_isr hP, hw_cV e1]
        exact e2
      unfold jX9_comesOut_25
      rw [mq_is hP, mq_is hP, hw_bdF, hw_fI, h31, hw_sub (by omega), Nat.add_sub_cancel]
      unfold x_op at j54
      simp only [hw_eq (show x < 2147483648 by omega) (show 8 < 2147483648 by omega), hw_eq (show x < 2147483648 by omega) (show 9 < 2147483648 by omega), hw_eq (show x < 2147483648 by omega) (show 10 < 2147483648 by omega), hw_eq (show x < 2147483648 by omega) (show 15 < 2147483648 by omega)]
      by_cases w8 : x = 8
      · rw [if_pos w8] at j54 ⊢
        exact j54
      rw [if_neg w8] at j54 ⊢
      by_cases w9 : x = 9
      · rw [if_pos w9] at j54 ⊢
        exact j54
      rw [if_neg w9] at j54 ⊢
      by_cases w10 : x = 10
      · rw [if_pos w10] at j54 ⊢
        exact j54
      rw [if_neg w10] at j54 ⊢
      by_cases w15 : x = 15
      · rw [if_pos w15] at j54 ⊢
        exact j54
      rw [if_neg w15] at j54 ⊢
      exact j54
    rcases Nat.lt_or_ge s 1 with w | w
    · obtain rfl : s = 0 := by omega
      rw [if_pos rfl]
      exact go
    · obtain rfl : s = 1 := by omega
      rw [if_neg (by decide), if_neg (by rw [hw_eq (by omega) (by omega)]; exact (q89 rfl).1), if_neg (by rw [hw_eq (by omega) (by omega)]; exact (q89 rfl).2)]
      exact go
theorem p_comesOut (hP : mSp h m) {N : Nat} (hN : 1000 ≤ N) (d : Nat) {s : Nat} (hs : s ≤ 1) {W M : List Nat} (hst : pZ s W) {c : xC} (hq : ∀ x ∈ M, pQ s x) (hl : (M ++ W).length ≤ 60) (hc : c.length + M.length ≤ 419) (h31 : F m 31 = nI (M ++ W).length) (hS : pS (A (m + 17)) (M ++ W)) (h27 : F m 27 = nI c.length) (hC : pC A m c) :
    ∃ F' A', ix_run iy_P N (d + 2) 264 [ix_R (some m), ix_I (nI s)] (hw h F A) = some (.inl none, hw h F' A') ∧ mQ [27, 31] [15, 16] m F A F' A' ∧ F' m 31 = nI W.length ∧ F' m 27 = nI (c ++ x_fl M).length ∧ pC A' m (c ++ x_fl M) := by
  have := p_comesOut_l (F := F) (A := A) hP N d hs hst M (N + 1) c
  rw [rX9_comesOut N (d + 1)]
  unfold bX9_comesOut
  rw [← lX9_comesOut_0]
  rw [List.length_append] at hl
  exact this (by omega) hq (by rw [List.length_append]; exact hl) hc h31 hS h27 hC
/-- a unit that is no term in brackets -/
def x_leaf (tk : Nat → tK) (t : Nat) : xR xC :=
  if x_kd tk t = 2 then x_bd (x_pas t) fun _ t1 => .inr ([(0, (tk t).2.2.2)], t1)
  else if 32 ≤ x_kd tk t ∧ x_kd tk t ≤ 37 then x_bd (x_pas t) fun _ t1 => .inr ([(1, nI (x_kd tk t - 32))], t1)
  else .inl (1, t)
theorem p_unitm (hP : mSp h m) (hT : pT F A m tk e t) {c : xC} (h27 : F m 27 = nI c.length) (hC : pC A m c) (hl : c.length < 420) (N d : Nat) : ∃ F' A', ix_run iy_P N (d + 3) 262 [ix_R (some m)] (hw h F A) = some (.inl none, hw h F' A') ∧ mQ [11, 13, 14, 27] [15, 16] m F A F' A' ∧ match x_leaf tk t with
    | .inl a => pF F' m tk a.1 a.2
    | .inr a => pT F' A' m tk e a.2 ∧ a.2 = t + 1 ∧ a.1.length = 1 ∧ F' m 27 = nI (c ++ a.1).length ∧ pC A' m (c ++ a.1) := by
  have hT' := hT
  obtain ⟨⟨-, hm, hk'⟩, te, t4, f11, f13⟩ := hT
  obtain ⟨k37, p2, a3, a4, a5⟩ := hk' t te t4
  rw [rX9_unit N (d + 2)]
  unfold bX9_unit jX9_unit_45 jX9_unit_49 x_leaf
  have em : ∀ (k : Nat) (v : Int32), x_kd tk t ≠ 0 → ∃ F' A', ((ix_isr (hw h F A) 10 (some m)).bind fun a16 => (ix_rV (ix_run iy_P N (d + 2) 263 [ix_R (some a16), ix_I (nI k), ix_I v] (hw h F A))).bind fun r15 => (ix_isr r15 10 (some m)).bind fun a18 => (ix_rV (ix_run iy_P N (d + 2) 252 [ix_R (some a18)] r15)).bind fun r17 => (some (.inl none, r17) : ix_O)) = some (.inl none, hw h F' A') ∧ mQ [11, 13, 14, 27] [15, 16] m F A F' A' ∧ match (x_bd (x_pas t) fun _ t1 => .inr ([(k, v)], t1) : xR xC) with
    | .inl a => pF F' m tk a.1 a.2
    | .inr a => pT F' A' m tk e a.2 ∧ a.2 = t + 1 ∧ a.1.length = 1 ∧ F' m 27 = nI (c ++ a.1).length ∧ pC A' m (c ++ a.1) := fun k v hk => by
      obtain ⟨F1, A1, e1, q1, g27, gC⟩ := p_emit hP h27 hC hl N (d + 1) k v
      obtain ⟨F2, e2, q2, f2⟩ := p_goesOn hP (hT'.of q1 rfl rfl) hk N d
      rw [mq_isr hP, hw_cV e1, mq_isr hP, hw_cV e2]
      refine ⟨F2, A1, rfl, (q1.mono rfl rfl).trans (q2.mono rfl rfl), ?_⟩
      unfold x_pas at f2 ⊢
      by_cases w4 : t = 400
      · rw [if_pos w4] at f2 ⊢
        exact f2
      · rw [if_neg w4] at f2 ⊢
        exact ⟨f2, rfl, rfl, by rw [q2.2.1 27 rfl]; exact g27, gC⟩
  have fl : ∃ F' A', ((ix_isr (hw h F A) 10 (some m)).bind fun a5 => (ix_rV (ix_run iy_P N (d + 2) 253 [ix_R (some a5), ix_I (nI 1)] (hw h F A))).bind fun r4 => (some (.inl none, r4) : ix_O)) = some (.inl none, hw h F' A') ∧ mQ [11, 13, 14, 27] [15, 16] m F A F' A' ∧ pF F' m tk 1 t := by
    obtain ⟨F', e', q, f⟩ := p_fail hP hT' N (d + 1) (k := 1) (by omega) (by omega)
    rw [mq_isr hP, hw_cV e']
    exact ⟨F', A, rfl, q.mono rfl rfl, f⟩
  rw [mq_isr hP, hw_cI (p_is hP hT' N (d + 1) (k := 2) (by omega))]
  dsimp only
  by_cases w2 : x_kd tk t = 2
  · rw [if_pos w2, if_neg (by decide), mq_is hP, mq_is hP, mp_rd7 hP, hw_fI, f11, hw_in (by omega) (by omega), cond_true, hw_aI, hw_cl (by omega), a5, if_pos w2]
    exact em 0 _ (by omega)
  · rw [if_neg w2, if_pos rfl, mq_is hP, hw_fI, if_pos f13, mq_is hP, mq_is hP, mp_rd5 hP, f11, hw_in (by omega) (by omega), cond_true, hw_aI, hw_cl (by omega), a3, if_neg w2]
    by_cases w3 : x_kd tk t < 32
    · rw [if_pos (by rw [hw_lt (by omega) (by omega)]; exact w3), if_neg (by omega)]
      exact fl
    · rw [if_neg (by rw [hw_lt (by omega) (by omega)]; exact w3), mq_is hP, mq_is hP, mp_rd5 hP, f11, hw_in (by omega) (by omega), cond_true, hw_cl (by omega), a3, if_neg (by rw [hw_lt (by omega) (by omega)]; omega), mq_is hP, mq_is hP, mp_rd5 hP, f11, hw_in (by omega) (by omega), cond_true, hw_cl (by omega), a3, if_pos (by omega), hw_sub (by omega)]
      exact em 1 _ (by omega)
theorem p_unitF (hP : mSp h m) (hF : pF F m tk n t) (N d : Nat) : ix_run iy_P N (d + 3) 262 [ix_R (some m)] (hw h F A) = some (.inl none, hw h F A) := by
  rw [rX9_unit N (d + 2)]
  unfold bX9_unit jX9_unit_45 jX9_unit_49
  rw [mq_isr hP, hw_cI (p_isF hP hF N (d + 1) _)]
  dsimp only
  rw [if_pos rfl, mq_is hP, hw_fI, hF.1, if_neg hF.ne, mq_isr hP, hw_cV (p_failF hP hF N (d + 1) _)]
end
