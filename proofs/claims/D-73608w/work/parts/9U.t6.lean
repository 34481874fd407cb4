/-! T6: the reference: a term -/
set_option maxRecDepth 100000
/-- where a term's walk stands: V waits, c told -/
def pG (F A : Nat → Nat → Int32) (m : Nat) (tk : Nat → tK) (e t o : Nat) (V : List Nat) (c : xC) : Prop := pT F A m tk e t ∧ c.length + V.length ≤ t ∧ F m 12 = nI o ∧ F m 31 = nI V.length ∧ pS (A (m + 17)) V ∧ F m 27 = nI c.length ∧ pC A m c
/-- a head of the term's loops -/
def pHd (cal : ix_C) (m z p : Nat) (H : ix_H) : ix_O := ix_lp cal stX9_expression z p [(0, ix_R (some m)), (1, ix_I (nI 0))] [] H
abbrev pQX (m : Nat) (F A F' A' : Nat → Nat → Int32) : Prop := mQ [11, 12, 13, 14, 27, 31] [15, 16, 17] m F A F' A'
/-- what a part's walk leaves: at a fault the term's end, else the head 54 -/
def pO (cal : ix_C) (h : ix_H) (m : Nat) (tk : Nat → tK) (e : Nat) (F A : Nat → Nat → Int32) (o : Nat) (V : List Nat) (c0 : xC) (z t : Nat) (ok : List Nat → Nat → Prop) (out : ix_O) (r : xR xC) : Prop := match r with
  | .inl a => ∃ F' A', out = some (.inl none, hw h F' A') ∧ pQX m F A F' A' ∧ pF F' m tk a.1 a.2
  | .inr a => ∃ z' F' A' M c1, out = pHd cal m z' 54 (hw h F' A') ∧ pQX m F A F' A' ∧ pG F' A' m tk e a.2 o (M ++ V) c1 ∧ c1 ++ x_fl M = c0 ++ a.1 ∧ ok M a.2 ∧ t ≤ a.2 ∧ z + t ≤ z' + a.2
def pWk (cal : ix_C) (h : ix_H) (m : Nat) (tk : Nat → tK) (e : Nat) (u : Nat → xR xC) (o lim : Nat) (st : List Nat → Prop) (ok : List Nat → Nat → Prop) : Prop := ∀ z F A V c0 t, pG F A m tk e t o V c0 → 402 ≤ z + t → V.length ≤ 3 * o + lim → st V → pO cal h m tk e F A o V c0 z t ok (pHd cal m z 14 (hw h F A)) (u t)
section
variable {h : ix_H} {m : Nat} {F A : Nat → Nat → Int32} {tk : Nat → tK} {e t n o N d : Nat}
theorem p_14F (hP : mSp h m) (hF : pF F m tk n t) (N d z : Nat) : pHd (ix_run iy_P N (d + 3)) m (z + 1) 14 (hw h F A) = some (.inl none, hw h F A) := by
  unfold pHd
  rw [lX9_expression_14]
  unfold jX9_expression_14
  rw [mq_isr hP, hw_cI (p_isF hP hF N (d + 2) _)]
  dsimp only
  rw [if_pos rfl, mq_isr hP, hw_cV (p_unitF hP hF N d), mq_is hP, hw_fI, hF.1, if_neg hF.nle]
theorem p_81F (hP : mSp h m) (hF : pF F m tk n t) (hN : 1000 ≤ N) {V : List Nat} {c : xC} (hl : V.length ≤ 60) (hc : c.length + V.length ≤ 419) (h31 : F m 31 = nI V.length) (hS : pS (A (m + 17)) V) (h27 : F m 27 = nI c.length) (hC : pC A m c) (d : Nat) (K : ix_K) : ∃ F' A', jX9_expression_81 (ix_run iy_P N (d + 3)) K m (nI 0) (hw h F A) = some (.inl none, hw h F' A') ∧ pQX m F A F' A' ∧ pF F' m tk n t := by
  unfold jX9_expression_81 jX9_expression_106 jX9_expression_117
  rw [mq_isr hP, hw_cI (p_isF hP hF N (d + 2) _)]
  dsimp only
  rw [if_pos rfl, mq_isr hP, hw_cI (p_isF hP hF N (d + 2) _)]
  dsimp only
  rw [if_pos rfl, mq_isr hP, hw_cI (p_isF hP hF N (d + 2) _)]
  dsimp only
  rw [if_pos rfl, mq_isr hP, hw_cI (p_isF hP hF N (d + 2) _)]
  dsimp only
  rw [if_pos rfl, mq_isr hP, hw_cI (p_isF hP hF N (d + 2) _)]
  dsimp only
  rw [if_pos rfl, if_pos rfl, mq_is hP, mq_isr hP, mq_isr hP, hw_cV (p_failF hP hF N (d + 2) _), mq_isr hP]
  obtain ⟨M, W, rfl, q, zW⟩ := pQ_split 0 V
  obtain ⟨F', A', e', q', -⟩ := p_comesOut (F := F) (A := A) hP hN (d + 1) (Nat.zero_le 1) zW q hl (by rw [List.length_append] at hc; omega) h31 hS h27 hC
  rw [hw_cV e', ite_self]
  exact ⟨F', A', rfl, q'.mono rfl rfl, hF.of q' rfl⟩
theorem p_54F (hP : mSp h m) (hF : pF F m tk n t) (hN : 1000 ≤ N) {V : List Nat} {c : xC} (hl : V.length ≤ 60) (hc : c.length + V.length ≤ 419) (h31 : F m 31 = nI V.length) (hS : pS (A (m + 17)) V) (h27 : F m 27 = nI c.length) (hC : pC A m c) (d z : Nat) : ∃ F' A', pHd (ix_run iy_P N (d + 3)) m (z + 1) 54 (hw h F A) = some (.inl none, hw h F' A') ∧ pQX m F A F' A' ∧ pF F' m tk n t := by
  unfold pHd
  rw [lX9_expression_54]
  unfold jX9_expression_54
  rw [mq_isr hP, hw_cI (p_isF hP hF N (d + 2) _)]
  dsimp only
  rw [if_pos rfl]
  exact p_81F hP hF hN hl hc h31 hS h27 hC d _
/-- an int or a variable -/
theorem p_leaf (hP : mSp h m) {V : List Nat} {c0 : xC} {z : Nat} (hG : pG F A m tk e t o V c0) (hz : 402 ≤ z + t) (h6 : x_kd tk t ≠ 6) : pO (ix_run iy_P N (d + 3)) h m tk e F A o V c0 z t (fun M _ => M = []) (pHd (ix_run iy_P N (d + 3)) m z 14 (hw h F A)) (x_leaf tk t) := by
  obtain ⟨hT, hb, h12, h31, hS, h27, hC⟩ := hG
  have t4 := hT.2.2.1
  obtain ⟨z, rfl⟩ : ∃ w, z = w + 1 := ⟨z - 1, by omega⟩
  obtain ⟨F', A', e', q, f⟩ := p_unitm hP hT h27 hC (by omega) N d
  have e1 : pHd (ix_run iy_P N (d + 3)) m (z + 1) 14 (hw h F A) = if F' m 13 ≤ nI 0 then pHd (ix_run iy_P N (d + 3)) m (z + 1) 54 (hw h F' A') else some (.inl none, hw h F' A') := by
    unfold pHd
    rw [lX9_expression_14, lX9_expression_54]
    unfold jX9_expression_14
    rw [mq_isr hP, hw_cI (p_is hP hT N (d + 2) (k := 6) (by omega))]
    dsimp only
    rw [if_neg h6, if_pos rfl, mq_isr hP, hw_cV e', mq_is hP, hw_fI]
  rw [e1]
  generalize x_leaf tk t = r at f ⊢
  cases r with
  | inl a =>
    rw [if_neg (by rw [f.1]; exact f.nle)]
    exact ⟨F', A', rfl, q.mono rfl rfl, f⟩
  | inr a =>
    obtain ⟨T1, at1, al, g27, gC⟩ := f
    rw [if_pos (by rw [T1.2.2.2.2]; decide)]
    refine ⟨z + 1, F', A', [], c0 ++ a.1, rfl, q.mono rfl rfl, ⟨T1, ?_, by rw [q.2.1 12 rfl]; exact h12, by rw [q.2.1 31 rfl]; exact h31, by rw [q.2.2.1 17 rfl]; exact hS, g27, gC⟩, ?_, rfl, by omega, by omega⟩
    · rw [List.length_append, List.nil_append]
      omega
    · rw [show x_fl [] = [] from rfl, List.append_nil]
/-- a sign between units -/
theorem p_op (hP : mSp h m) (hN : 1000 ≤ N) {s : Nat} (hs : s ≤ 1) {V M : List Nat} {c : xC} {z : Nat} (hG : pG F A m tk e t o (M ++ V) c) (hz : 402 ≤ z + t) (hk : s = 1 ∧ x_isM (x_kd tk t) = true ∨ s = 0 ∧ x_isA (x_kd tk t) = true) (hq : ∀ x ∈ M, pQ s x) (hst : pZ s V) (hl : (M ++ V).length ≤ 40) : match x_pas t with
    | .inl a => ∃ F' A', pHd (ix_run iy_P N (d + 3)) m z 54 (hw h F A) = some (.inl none, hw h F' A') ∧ pQX m F A F' A' ∧ pF F' m tk a.1 a.2
    | .inr a => a.2 = t + 1 ∧ ∃ F' A', pHd (ix_run iy_P N (d + 3)) m z 54 (hw h F A) = pHd (ix_run iy_P N (d + 3)) m (z - 1) 14 (hw h F' A') ∧ pQX m F A F' A' ∧ pG F' A' m tk e (t + 1) o (x_kd tk t :: V) (c ++ x_fl M) := by
  obtain ⟨hT, hb, h12, h31, hS, h27, hC⟩ := hG
  have hT' := hT
  have t4 := hT.2.2.1
  obtain ⟨⟨-, hm, hk'⟩, te, -, f11, f13⟩ := hT
  obtain ⟨k37, p2, a3, a4, a5⟩ := hk' t te t4
  rw [List.length_append] at hb
  have hlV : (M ++ V).length ≤ 40 := hl
  rw [List.length_append] at hlV
  obtain ⟨z, rfl⟩ : ∃ w, z = w + 2 := ⟨z - 2, by omega⟩
  have hkk : x_kd tk t = 8 ∨ x_kd tk t = 9 ∨ x_kd tk t = 10 ∨ x_kd tk t = 15 ∨ x_kd tk t = 16 := by
    unfold x_isM x_isA at hk
    rw [decide_eq_true_iff, decide_eq_true_iff] at hk
    omega
  have h7 : x_kd tk t ≠ 7 := by omega
  -- behind the sign's push
  obtain ⟨F1, A1, e1, q1, g31, g27, gC⟩ := p_comesOut (F := F) (A := A) hP hN (d + 1) hs hst hq (by omega) (by omega) h31 hS h27 hC
  have T1 : pT F1 A1 m tk e t := hT'.of q1 rfl rfl
  have T2 : pT (hw_R F1 m (hw_U (F1 m) 31 (nI (V.length + 1)))) (hw_R A1 (m + 17) (hw_U (A1 (m + 17)) V.length (nI (x_kd tk t)))) m tk e t := by
    have qq : mQ [31] [17] m F1 A1 (hw_R F1 m (hw_U (F1 m) 31 (nI (V.length + 1)))) (hw_R A1 (m + 17) (hw_U (A1 (m + 17)) V.length (nI (x_kd tk t)))) := ((mQ.refl _ _ _ _ _).aR (k := 17) rfl (by omega)).fR rfl
    exact T1.of qq rfl rfl
  have q2 : pQX m F A (hw_R F1 m (hw_U (F1 m) 31 (nI (V.length + 1)))) (hw_R A1 (m + 17) (hw_U (A1 (m + 17)) V.length (nI (x_kd tk t)))) := ((q1.mono (X' := [11, 12, 13, 14, 27, 31]) (Y' := [15, 16, 17]) rfl rfl).aR (k := 17) rfl (by omega)).fR rfl
  obtain ⟨F3, e3, q3, f3⟩ := p_goesOn hP T2 (show x_kd tk t ≠ 0 by omega) N (d + 1)
  have e139 : jX9_expression_139 (ix_run iy_P N (d + 3)) (ix_lp (ix_run iy_P N (d + 3)) stX9_expression (z + 1)) m (nI 0) (nI 1) (some m) (nI s) (hw h F A) = ix_lp (ix_run iy_P N (d + 3)) stX9_expression (z + 1) 8 [(0, ix_R (some m)), (1, ix_I (nI 0)), (2, ix_I (nI 1))] [] (hw h F3 (hw_R A1 (m + 17) (hw_U (A1 (m + 17)) V.length (nI (x_kd tk t))))) := by
    unfold jX9_expression_139
    obtain ⟨k37, p2, a3, a4, a5⟩ := T1.1.2.2 t te t4
    rw [mq_isr hP, hw_cV e1, mq_is hP, mq_is hP, mq_is hP, mq_is hP, mp_rd5 hP, hw_fI, T1.2.2.2.1, hw_in (by omega) (by omega), cond_true, mp_wr30 hP, g31, hw_in (by omega) (by omega), cond_true, hw_bdA, mq_is hP, mq_is hP, hw_bdF, mq_isr hP, hw_cl (by omega), hw_cl (by omega), hw_aI, a3, hw_fI, g31, nI_add, hw_cV e3]
  have e8 : ix_lp (ix_run iy_P N (d + 3)) stX9_expression (z + 1) 8 [(0, ix_R (some m)), (1, ix_I (nI 0)), (2, ix_I (nI 1))] [] (hw h F3 (hw_R A1 (m + 17) (hw_U (A1 (m + 17)) V.length (nI (x_kd tk t))))) = if F3 m 13 = nI 0 then pHd (ix_run iy_P N (d + 3)) m (z + 1) 14 (hw h F3 (hw_R A1 (m + 17) (hw_U (A1 (m + 17)) V.length (nI (x_kd tk t))))) else some (.inl none, hw h F3 (hw_R A1 (m + 17) (hw_U (A1 (m + 17)) V.length (nI (x_kd tk t))))) := by
    unfold pHd
    rw [lX9_expression_8, lX9_expression_14]
    unfold jX9_expression_8 jX9_expression_160
    rw [if_neg (by decide), mq_is hP, hw_fI]
  have e106 : jX9_expression_102 (ix_run iy_P N (d + 3)) (ix_lp (ix_run iy_P N (d + 3)) stX9_expression (z + 1)) m (nI 0) (hw h F A) = jX9_expression_139 (ix_run iy_P N (d + 3)) (ix_lp (ix_run iy_P N (d + 3)) stX9_expression (z + 1)) m (nI 0) (nI 1) (some m) (nI s) (hw h F A) := by
    unfold jX9_expression_102 jX9_expression_106 jX9_expression_135
    rw [if_neg (by decide), mq_isr hP, hw_cI (p_is hP hT' N (d + 2) (k := 10) (by omega))]
    dsimp only
    rcases hk with ⟨rfl, hk⟩ | ⟨rfl, hk⟩
    · unfold x_isM at hk
      rw [decide_eq_true_iff] at hk
      by_cases w10 : x_kd tk t = 10
      · rw [if_pos w10, if_neg (by decide)]
      · rw [if_neg w10, if_pos rfl, mq_isr hP, hw_cI (p_is hP hT' N (d + 2) (k := 15) (by omega))]
        dsimp only
        by_cases w15 : x_kd tk t = 15
        · rw [if_pos w15, if_neg (by decide)]
        · rw [if_neg w15, if_pos rfl, mq_isr hP, hw_cI (p_is hP hT' N (d + 2) (k := 16) (by omega))]
          dsimp only
          rw [if_pos (show x_kd tk t = 16 by omega), if_neg (by decide)]
    · unfold x_isA at hk
      rw [decide_eq_true_iff] at hk
      rw [if_neg (show ¬ x_kd tk t = 10 by omega), if_pos rfl, mq_isr hP, hw_cI (p_is hP hT' N (d + 2) (k := 15) (by omega))]
      dsimp only
      rw [if_neg (show ¬ x_kd tk t = 15 by omega), if_pos rfl, mq_isr hP, hw_cI (p_is hP hT' N (d + 2) (k := 16) (by omega))]
      dsimp only
      rw [if_neg (show ¬ x_kd tk t = 16 by omega), if_pos rfl]
  have e54 : pHd (ix_run iy_P N (d + 3)) m (z + 2) 54 (hw h F A) = jX9_expression_102 (ix_run iy_P N (d + 3)) (ix_lp (ix_run iy_P N (d + 3)) stX9_expression (z + 1)) m (nI 0) (hw h F A) := by
    unfold pHd
    rw [lX9_expression_54]
    unfold jX9_expression_54 jX9_expression_81
    rw [mq_isr hP, hw_cI (p_is hP hT' N (d + 2) (k := 7) (by omega))]
    dsimp only
    rw [if_neg h7, if_pos rfl, mq_isr hP, hw_cI (p_is hP hT' N (d + 2) (k := 8) (by omega))]
    dsimp only
    by_cases w8 : x_kd tk t = 8
    · rw [if_pos w8, if_neg (by decide)]
    rw [if_neg w8, if_pos rfl, mq_isr hP, hw_cI (p_is hP hT' N (d + 2) (k := 9) (by omega))]
    dsimp only
    by_cases w9 : x_kd tk t = 9
    · rw [if_pos w9, if_neg (by decide)]
    rw [if_neg w9, if_pos rfl, mq_isr hP, hw_cI (p_is hP hT' N (d + 2) (k := 10) (by omega))]
    dsimp only
    by_cases w10 : x_kd tk t = 10
    · rw [if_pos w10, if_neg (by decide)]
    rw [if_neg w10, if_pos rfl, mq_isr hP, hw_cI (p_is hP hT' N (d + 2) (k := 15) (by omega))]
    dsimp only
    by_cases w15 : x_kd tk t = 15
    · rw [if_pos w15, if_neg (by decide)]
    rw [if_neg w15, if_pos rfl, mq_isr hP, hw_cI (p_is hP hT' N (d + 2) (k := 16) (by omega))]
    dsimp only
    rw [if_pos (show x_kd tk t = 16 by omega), if_neg (by decide)]
  rw [e54, e106, e139, e8, show z + 2 - 1 = z + 1 from rfl]
  have q3' : pQX m F A F3 (hw_R A1 (m + 17) (hw_U (A1 (m + 17)) V.length (nI (x_kd tk t)))) := q2.trans (q3.mono rfl rfl)
  unfold x_pas at f3 ⊢
  by_cases w4 : t = 400
  · rw [if_pos w4] at f3 ⊢
    rw [if_neg (by rw [f3.1]; exact f3.ne)]
    exact ⟨F3, _, rfl, q3', f3⟩
  · rw [if_neg w4] at f3 ⊢
    rw [if_pos f3.2.2.2.2]
    refine ⟨rfl, F3, _, rfl, q3', f3, ?_, ?_, ?_, ?_, ?_, ?_⟩
    · rw [List.length_append, List.length_cons]
      unfold x_fl
      rw [List.length_map]
      omega
    · rw [q3.2.1 12 rfl, hw_R_same, hw_U_ne _ _ (by omega), q1.2.1 12 rfl]
      exact h12
    · rw [q3.2.1 31 rfl, hw_R_same, hw_U_same, List.length_cons]
    · rw [hw_R_same]
      have sv : pS (A1 (m + 17)) V := by rw [q1.2.2.1 17 rfl]; exact pS.drop M hS
      exact ⟨hw_U_same _ _ _, k37, sv.up (Nat.le_refl _)⟩
    · rw [q3.2.1 27 rfl, hw_R_same, hw_U_ne _ _ (by omega)]
      exact g27
    · intro i hi
      rw [hw_R_ne _ _ (by omega), hw_R_ne _ _ (by omega)]
      exact gC i hi
end
