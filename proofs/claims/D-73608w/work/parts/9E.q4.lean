/-! Q4: the whole state; the reference: the tape, slots, rows replayed, counts -/
set_option maxRecDepth 100000
/-- the store, what is held, the tape, how much of it, the place of a fault -/
abbrev xS : Type := zS × (Nat → Option zS) × (Nat → Int32) × Nat × Int32
def xs (X : xS) : zS := X.1
def xq (X : xS) : Nat → Option zS := X.2.1
def xb (X : xS) : Nat → Int32 := X.2.2.1
def xn (X : xS) : Nat := X.2.2.2.1
def xp (X : xS) : Int32 := X.2.2.2.2
/-- a store in place of the store -/
def x_st (X : xS) (S : zS) : xS := (S, X.2)
def a_byte (v : Int32) (s : Int32) : Int32 := ix_nar 2 ((v >>> (s &&& 31)).toInt8.toInt32)
def a_typed (b : (Nat → Int32) × Nat) (v : Int32) : (Nat → Int32) × Nat :=
  (hw_U (hw_U (hw_U (hw_U b.1 b.2 (a_byte v (nI 24))) (b.2 + 1) (a_byte v (nI 16))) (b.2 + 2) (a_byte v (nI 8))) (b.2 + 3) (a_byte v (nI 0)), b.2 + 4)
def a_feed (X : xS) (a b c d e : Int32) : Int32 × xS :=
  if xn X + 20 ≤ 2000 then
    let t := a_typed (a_typed (a_typed (a_typed (a_typed (xb X, xn X) a) b) c) d) e
    (nI t.2, X.1, X.2.1, t.1, t.2, X.2.2.2.2)
  else (-1, X)
def a_back (X : xS) (v : Int32) : Int32 × xS :=
  if nI 0 ≤ v ∧ v ≤ nI (xn X) then (nI (xn X - v.toNatClampNeg), X.1, X.2.1, X.2.2.1, xn X - v.toNatClampNeg, X.2.2.2.2) else (-1, X)
def a_hold (X : xS) (i : Int32) : Int32 × xS :=
  if a_in i (nI 0) (nI 2) then (nI 1, X.1, ix_up X.2.1 i.toNatClampNeg (some X.1), X.2.2) else (nI 0, X)
def a_restore (X : xS) (i : Int32) : Int32 × xS :=
  if a_in i (nI 0) (nI 2) then
    match xq X i.toNatClampNeg with
    | some T => (nI 1, T, X.2)
    | none => (nI 0, X)
  else (nI 0, X)
def a_hl (X : xS) (i : Nat) : Int32 := if (xq X i).isSome then nI 1 else nI 0
/-- which hands are busy -/
def a_busy (S : zS) : Nat → Int32 → Int32
  | 0, a => a
  | j + 1, a => a_busy S j (if zh S (4 - (j + 1)) 1 = nI 0 then a else a ||| ((nI 1) <<< (nI (4 - (j + 1)) &&& 31)))
/-- how many records are out of use; how many are free -/
def a_ret (S : zS) : Nat := ((List.range (zn S)).filter fun r => decide (nI 0 ≤ zr S r 4)).length
def a_fre (S : zS) : Nat := ((List.range (zn S)).filter fun r => decide (zr S r 5 = nI 1)).length
def a_count (X : xS) (w : Int32) : Int32 :=
  if w = nI 0 then nI (z_all X.1).length
  else if w = nI 1 then nI (zn X.1)
  else if w = nI 2 then nI (zp X.1)
  else if w = nI 3 then nI (ze X.1)
  else if w = nI 4 then nI (a_ret X.1)
  else if w = nI 5 then nI (a_fre X.1)
  else if w = nI 6 then a_busy X.1 4 (nI 0)
  else if w = nI 7 then z_lost X.1
  else if w = nI 8 then nI (xn X)
  else if w = nI 9 then a_hl X 0 + a_hl X 1 + a_hl X 2
  else if w = nI 10 then nI (zc X.1)
  else if w = nI 11 then nI (zm X.1)
  else if w = nI 12 then nI (zl X.1)
  else if w = nI 13 then nI (zy X.1)
  else -1
/-- what holds of every state -/
def x_I (X : xS) : Prop := i_I X.1 ∧ (∀ i T, xq X i = some T → i_I T ∧ zy T = zy X.1) ∧ xn X ≤ 2000 ∧ ∀ k, -128 ≤ (xb X k).toInt ∧ (xb X k).toInt ≤ 127
/-- the reference's cells say X -/
def mX' (F A : Nat → Nat → Int32) (m : Nat) (X : xS) : Prop :=
  mR (A (m + 21)) X.1 ∧ (∀ i, i < 3 → A (m + 32) i = a_hl X i) ∧ (∀ i T, i < 3 → xq X i = some T → mR (fun j => A (m + 33) (137300 * i + j)) T) ∧ F m 2 = nI (xn X) ∧ (∀ k, k < xn X → A (m + 1) k = xb X k) ∧ F m 17 = xp X
abbrev mT : List Nat := [2, 17, 37, 40, 41, 42, 45, 48, 52]
abbrev mU : List Nat := [1, 21, 22, 23, 24, 25, 26, 27, 28, 29, 30, 31, 32, 33]
def mDoX (h : ix_H) (m : Nat) (F A : Nat → Nat → Int32) (r : Int32 × xS) (o : ix_O) : Prop := ∃ F' A', o = some (.inl (some (ix_I r.1)), hw h F' A') ∧ mQ mT mU m F A F' A' ∧ mX' F' A' m r.2
theorem mR_cong {nw nw' : Nat → Int32} {S : zS} (h : mR nw S) (hn : zn S ≤ 1400) (h32 : zp S ≤ 32) (hi : ∀ r, r < zn S → (zi S r).length ≤ 43) (e : ∀ j, j < 137300 → nw' j = nw j) : mR nw' S := by
  obtain ⟨⟨a0, a1, a2, a3, a5, a6, a7, a8⟩, b, c, d, g⟩ := h
  refine ⟨⟨by rw [e _ (by omega)]; exact a0, by rw [e _ (by omega)]; exact a1, by rw [e _ (by omega)]; exact a2, by rw [e _ (by omega)]; exact a3, by rw [e _ (by omega)]; exact a5, by rw [e _ (by omega)]; exact a6, by rw [e _ (by omega)]; exact a7, by rw [e _ (by omega)]; exact a8⟩, fun p hp => by rw [e _ (by omega)]; exact b p hp, fun k f hk hf => by rw [e _ (by omega)]; exact c k f hk hf, fun r f hr hf => by rw [e _ (by omega)]; exact d r f hr hf, fun r hr => ?_⟩
  have := hi r hr
  exact kv_in_cong (g r hr) (fun i hi => e _ (by omega)) (fun i hi => e _ (by omega))
theorem i_I.items {S : zS} (h : i_I S) : ∀ r, r < zn S → (zi S r).length ≤ 43 := by
  obtain ⟨rc, lo, h⟩ := h
  exact h.P.it
theorem i_I.W {S : zS} (h : i_I S) : z_W S := by
  obtain ⟨rc, lo, h⟩ := h
  exact h.P.W
theorem i_I.R {S : zS} (h : i_I S) : ∃ rc, z_R S rc := by
  obtain ⟨rc, lo, h⟩ := h
  exact ⟨rc, h.R⟩
/-- what leaves the store's arrays leaves the state -/
theorem mX'.ans {F A F' A' : Nat → Nat → Int32} {m : Nat} {X : xS} (h : mX' F A m X) (q : mQ mX mZ m F A F' A') : mX' F' A' m X := by
  obtain ⟨a, b, c, d, e, f⟩ := h
  refine ⟨mAns.R a q, fun i hi => ?_, fun i T hi hT => ?_, ?_, fun k hk => ?_, ?_⟩
  · rw [q.2.2.1 32 rfl]; exact b i hi
  · rw [q.2.2.1 33 rfl]; exact c i T hi hT
  · rw [q.2.1 2 rfl]; exact d
  · rw [q.2.2.1 1 rfl]; exact e k hk
  · rw [q.2.1 17 rfl]; exact f
theorem mX'.st {F A F' A' : Nat → Nat → Int32} {m : Nat} {X : xS} {S : zS} (h : mX' F A m X) (q : mQ mX mY m F A F' A') (r : mR (A' (m + 21)) S) : mX' F' A' m (x_st X S) := by
  obtain ⟨a, b, c, d, e, f⟩ := h
  refine ⟨r, fun i hi => ?_, fun i T hi hT => ?_, ?_, fun k hk => ?_, ?_⟩
  · rw [q.2.2.1 32 rfl]; exact b i hi
  · rw [q.2.2.1 33 rfl]; exact c i T hi hT
  · rw [q.2.1 2 rfl]; exact d
  · rw [q.2.2.1 1 rfl]; exact e k hk
  · rw [q.2.1 17 rfl]; exact f
section
variable {h : ix_H} {m : Nat} {X : xS} {F A : Nat → Nat → Int32} {N : Nat}
/-! the tape -/
theorem m_lays_1 (hP : mSp h m) (cal : ix_C) (z : Nat) {v s s' : Int32} (hs : ¬ s < nI 0) (hs' : s + (-8) = s') {n : Nat} (hn : n < 2000) (hF : F m 2 = nI n) : ix_lp cal stX9_lays (z + 1) 2 [(0, ix_R (some m)), (1, ix_I v), (2, ix_I s)] [] (hw h F A) = ix_lp cal stX9_lays z 2 [(0, ix_R (some m)), (1, ix_I v), (2, ix_I s')] [] (hw h (hw_R F m (hw_U (F m) 2 (nI (n + 1)))) (hw_R A (m + 1) (hw_U (A (m + 1)) n (a_byte v s)))) := by
  rw [lX9_lays_2]
  unfold jX9_lays_2
  rw [if_neg hs, mq_is hP, mq_is hP, mp_wr1 hP, hw_fI, hF, hw_in (by omega) (by omega), cond_true, hw_bdA, mq_is hP, mq_is hP, hw_bdF, hw_fI, hF, nI_add, hw_cl (by omega), hs']
  rfl
theorem m_lays (hP : mSp h m) (hN : 1000 ≤ N) (d : Nat) (v : Int32) {n : Nat} (hn : n + 4 ≤ 2000) (hF : F m 2 = nI n) : ∃ F' A', ix_run iy_P N (d + 1) 241 [ix_R (some m), ix_I v] (hw h F A) = some (.inl none, hw h F' A') ∧ mQ [2] [1] m F A F' A' ∧ F' m 2 = nI (n + 4) ∧ A' (m + 1) = (a_typed (A (m + 1), n) v).1 := by
  obtain ⟨N, rfl⟩ : ∃ z, N = z + 5 := ⟨N - 5, by omega⟩
  rw [rX9_lays (N + 5) d]
  unfold bX9_lays
  rw [← lX9_lays_2, m_lays_1 hP _ (N + 5) (s := nI 24) (s' := nI 16) (by decide) (by decide) (by omega) hF, m_lays_1 hP _ (N + 4) (s := nI 16) (s' := nI 8) (n := n + 1) (by decide) (by decide) (by omega) (by rw [hw_R_same, hw_U_same]), m_lays_1 hP _ (N + 3) (s := nI 8) (s' := nI 0) (n := n + 2) (by decide) (by decide) (by omega) (by rw [hw_R_same, hw_U_same]), m_lays_1 hP _ (N + 2) (s := nI 0) (s' := -8) (n := n + 3) (by decide) (by decide) (by omega) (by rw [hw_R_same, hw_U_same]), lX9_lays_2]
  unfold jX9_lays_2
  rw [if_pos (by decide)]
  refine ⟨_, _, rfl, ((((((((mQ.refl [2] [1] m F A).aR (k := 1) rfl (by omega)).fR rfl).aR (k := 1) rfl (by omega)).fR rfl).aR (k := 1) rfl (by omega)).fR rfl).aR (k := 1) rfl (by omega)).fR rfl, by rw [hw_R_same, hw_U_same], ?_⟩
  simp only [hw_R_same]
  rfl
theorem mX'.tp {F A F' A' : Nat → Nat → Int32} {m n : Nat} {X : xS} {b : Nat → Int32} (h : mX' F A m X) (q : mQ [2] [1] m F A F' A') (e1 : F' m 2 = nI n) (e2 : ∀ k, k < n → A' (m + 1) k = b k) : mX' F' A' m (X.1, X.2.1, b, n, X.2.2.2.2) := by
  obtain ⟨a, b, c, d, e, f⟩ := h
  refine ⟨?_, fun i hi => ?_, fun i T hi hT => ?_, e1, e2, ?_⟩
  · rw [q.2.2.1 21 rfl]; exact a
  · rw [q.2.2.1 32 rfl]; exact b i hi
  · rw [q.2.2.1 33 rfl]; exact c i T hi hT
  · rw [q.2.1 17 rfl]; exact f
theorem a_typed_cong {b b' : Nat → Int32} {n : Nat} (e : ∀ k, k < n → b' k = b k) (v : Int32) : ∀ k, k < n + 4 → (a_typed (b', n) v).1 k = (a_typed (b, n) v).1 k := fun k hk => by
  unfold a_typed
  dsimp only
  simp only [hw_U_at]
  by_cases w3 : k = n + 3
  · rw [if_pos w3, if_pos w3]
  rw [if_neg w3, if_neg w3]
  by_cases w2 : k = n + 2
  · rw [if_pos w2, if_pos w2]
  rw [if_neg w2, if_neg w2]
  by_cases w1 : k = n + 1
  · rw [if_pos w1, if_pos w1]
  rw [if_neg w1, if_neg w1]
  by_cases w0 : k = n
  · rw [if_pos w0, if_pos w0]
  rw [if_neg w0, if_neg w0]
  exact e k (by omega)
theorem m_feed (hP : mSp h m) (hN : 1000 ≤ N) (d : Nat) (hX : mX' F A m X) (hn : xn X ≤ 2000) (a b c d' e : Int32) : mDoX h m F A (a_feed X a b c d' e) (ix_run iy_P N (d + 2) 240 [ix_R (some m), ix_I a, ix_I b, ix_I c, ix_I d', ix_I e] (hw h F A)) := by
  rw [rX9_feed N (d + 1)]
  unfold bX9_feed a_feed
  have hF := hX.2.2.2.1
  rw [mq_is hP, hw_fI, hF, nI_add]
  by_cases w : xn X + 20 ≤ 2000
  · rw [if_pos (show nI (xn X + 20) ≤ nI 2000 by rw [hw_le (by omega) (by omega)]; exact w), if_pos w]
    obtain ⟨F1, A1, e1, q1, f1, t1⟩ := m_lays (F := F) (A := A) hP hN d a (by omega) hF
    obtain ⟨F2, A2, e2, q2, f2, t2⟩ := m_lays (F := F1) (A := A1) hP hN d b (by omega) f1
    obtain ⟨F3, A3, e3, q3, f3, t3⟩ := m_lays (F := F2) (A := A2) hP hN d c (by omega) f2
    obtain ⟨F4, A4, e4, q4, f4, t4⟩ := m_lays (F := F3) (A := A3) hP hN d d' (by omega) f3
    obtain ⟨F5, A5, e5, q5, f5, t5⟩ := m_lays (F := F4) (A := A4) hP hN d e (by omega) f4
    rw [mq_isr hP, hw_cV e1, mq_isr hP, hw_cV e2, mq_isr hP, hw_cV e3, mq_isr hP, hw_cV e4, mq_isr hP, hw_cV e5, mq_is hP, hw_fI, f5]
    have q := (((q1.trans q2).trans q3).trans q4).trans q5
    refine ⟨F5, A5, rfl, q.mono rfl rfl, hX.tp q f5 ?_⟩
    have c1 : ∀ k, k < xn X + 4 → A1 (m + 1) k = (a_typed (xb X, xn X) a).1 k := fun k hk => by rw [t1]; exact a_typed_cong hX.2.2.2.2.1 a k hk
    have c2 : ∀ k, k < xn X + 4 + 4 → A2 (m + 1) k = (a_typed (a_typed (xb X, xn X) a) b).1 k := fun k hk => by rw [t2]; exact a_typed_cong c1 b k hk
    have c3 : ∀ k, k < xn X + 4 + 4 + 4 → A3 (m + 1) k = (a_typed (a_typed (a_typed (xb X, xn X) a) b) c).1 k := fun k hk => by rw [t3]; exact a_typed_cong c2 c k hk
    have c4 : ∀ k, k < xn X + 4 + 4 + 4 + 4 → A4 (m + 1) k = (a_typed (a_typed (a_typed (a_typed (xb X, xn X) a) b) c) d').1 k := fun k hk => by rw [t4]; exact a_typed_cong c3 d' k hk
    exact fun k hk => by rw [t5]; exact a_typed_cong c4 e k hk
  · rw [if_neg (show ¬ nI (xn X + 20) ≤ nI 2000 by rw [hw_le (by omega) (by omega)]; exact w), if_neg w]
    exact ⟨F, A, rfl, mQ.refl _ _ _ _ _, hX⟩
theorem m_back (hP : mSp h m) (N d : Nat) (hX : mX' F A m X) (hn : xn X ≤ 2000) (v : Int32) : mDoX h m F A (a_back X v) (ix_run iy_P N (d + 1) 242 [ix_R (some m), ix_I v] (hw h F A)) := by
  rw [rX9_back N d]
  unfold bX9_back jX9_back_6 a_back
  have hF := hX.2.2.2.1
  have no : mDoX h m F A (-1, X) (some (.inl (some (ix_I (-1 : Int32))), hw h F A)) := ⟨F, A, rfl, mQ.refl _ _ _ _ _, hX⟩
  by_cases w0 : v < nI 0
  · rw [if_pos w0, if_neg (fun w => by have := w.1; rw [Int32.le_iff_toInt_le] at this; rw [Int32.lt_iff_toInt_lt] at w0; omega)]
    exact no
  · rw [if_neg w0, mq_is hP, hw_fI, hF]
    by_cases w1 : v ≤ nI (xn X)
    · obtain ⟨j, hj, rfl⟩ : ∃ j, j < 2147483648 ∧ v = nI j := nI_of (x := v) (by rw [← nI_0]; exact w0)
      rw [if_pos w1, if_pos ⟨kv_nlt_le.mp w0, w1⟩, mq_is hP, mq_is hP, hw_bdF, hw_fI, hF, mq_is hP, hw_R_same, hw_U_same, hw_cl hj]
      rw [hw_le hj (by omega)] at w1
      rw [hw_sub w1]
      have q : mQ [2] [1] m F A (hw_R F m (hw_U (F m) 2 (nI (xn X - j)))) A := (mQ.refl [2] [1] m F A).fR rfl
      exact ⟨_, _, rfl, q.mono rfl rfl, hX.tp q (by rw [hw_R_same, hw_U_same]) (fun k hk => hX.2.2.2.2.1 k (by omega))⟩
    · rw [if_neg w1, if_neg (fun w => w1 w.2)]
      exact no
theorem m_place (hP : mSp h m) (N d : Nat) (hX : mX' F A m X) : mDoX h m F A (xp X, X) (ix_run iy_P N (d + 1) 315 [ix_R (some m)] (hw h F A)) := by
  rw [rX9_place N d]
  unfold bX9_place
  rw [mq_is hP, hw_fI, hX.2.2.2.2.2]
  exact ⟨F, A, rfl, mQ.refl _ _ _ _ _, hX⟩
/-! slots -/
theorem m_hold_l (hS : mSh h m) (cal : ix_C) (F : Nat → Nat → Int32) {s : Nat} (hs : s < 3) : ∀ z i A, i ≤ 137300 → 137300 - i < z → ∃ A', ix_lp cal stX9_hold z 14 [(0, ix_R (some m)), (1, ix_I (nI s)), (2, ix_I (nI i))] [] (hw h F A) = some (.inl (some (ix_I (nI 1))), hw h F A') ∧ mQ [] [33] m F A F A' ∧ (∀ j, i ≤ j → j < 137300 → A' (m + 33) (137300 * s + j) = A (m + 21) j) ∧ ∀ j, j < 137300 * s + i ∨ 137300 * s + 137300 ≤ j → A' (m + 33) j = A (m + 33) j := by
  intro z
  induction z with
  | zero => intro i A _ h; omega
  | succ z ih =>
    intro i A hi hz
    rw [lX9_hold_14]
    unfold jX9_hold_14
    rcases Nat.lt_or_ge i 137300 with w | w
    · rw [if_neg (by rw [hw_le (by omega) (by omega)]; omega), mp_is hS, mp_is hS, mp_rd35 hS, hw_in (by omega) (by omega), cond_true, hw_mul, nI_add, mp_wr54 hS, hw_in (by omega) (by omega), cond_true, hw_bdA, hw_aI, hw_cl (by omega), hw_cl (by omega), nI_add]
      obtain ⟨A', e, q, a, b⟩ := ih (i + 1) (hw_R A (m + 33) (hw_U (A (m + 33)) (137300 * s + i) (A (m + 21) i))) w (by omega)
      refine ⟨A', e, ((mQ.refl [] [33] m F A).aR (k := 33) rfl (by omega)).trans q, fun j h1 h2 => ?_, fun j hj => ?_⟩
      · rcases Nat.eq_or_lt_of_le h1 with e1 | e1
        · rw [← e1, b _ (by omega), hw_R_same, hw_U_same]
        · rw [a j e1 h2, hw_R_ne _ _ (by omega)]
      · rw [b j (by omega), hw_R_same, hw_U_ne _ _ (by omega)]
    · obtain rfl : i = 137300 := by omega
      rw [if_pos (by decide), hw_okn1_1, cond_true]
      exact ⟨A, rfl, mQ.refl _ _ _ _ _, fun j h1 h2 => by omega, fun j _ => rfl⟩
theorem m_hold (hS : mSh h m) (hN : 300000 ≤ N) (d : Nat) (hI : x_I X) (hX : mX' F A m X) (i : Int32) : mDoX h m F A (a_hold X i) (ix_run iy_P N (d + 2) 345 [ix_R (some m), ix_I i] (hw h F A)) := by
  obtain ⟨N, rfl⟩ : ∃ z, N = z + 1 := ⟨N - 1, by omega⟩
  rw [rX9_hold (N + 1) (d + 1)]
  unfold bX9_hold a_hold
  rw [hw_cI (m_in _ (N + 1) d _ _ _)]
  dsimp only
  rw [a_if0]
  by_cases w : a_in i (nI 0) (nI 2)
  · have w' := w
    rw [show nI 2 = nI 3 - nI 1 by decide] at w'
    obtain ⟨s, hs, rfl⟩ := a_in_nat (by omega) w'
    rw [if_pos w, if_pos w, mp_is hS, mp_wr53 hS, hw_in (by omega) (by omega), cond_true, hw_bdA, hw_cl (by omega), ← lX9_hold_14]
    obtain ⟨A', e, q, a, b⟩ := m_hold_l hS (ix_run iy_P (N + 1) (d + 1)) F hs (N + 1 + 1) 0 (hw_R A (m + 32) (hw_U (A (m + 32)) s (ix_nar 1 (nI 1)))) (Nat.zero_le _) (by omega)
    rw [e]
    have n1 : ix_nar 1 (nI 1) = nI 1 := by decide
    rw [n1] at a b q
    have q' : mQ [] [32, 33] m F A F A' := ((mQ.refl [] [32, 33] m F A).aR (k := 32) rfl (by omega)).trans (q.mono rfl rfl)
    obtain ⟨x1, x2, x3, x4, x5, x6⟩ := hX
    have hsz := hI.1.sz
    refine ⟨F, A', rfl, q'.mono rfl rfl, ⟨by rw [q'.2.2.1 21 rfl]; exact x1, fun j hj => ?_, fun j T hj hT => ?_, x4, fun k hk => by rw [q'.2.2.1 1 rfl]; exact x5 k hk, x6⟩⟩
    · rw [q.2.2.1 32 rfl, hw_R_same, hw_U_at]
      unfold a_hl
      by_cases e : j = s
      · rw [if_pos e, show xq (nI 1, X.1, ix_up X.2.1 s (some X.1), X.2.2).2 j = some X.1 from if_pos e]
        rfl
      · rw [if_neg e, show xq (nI 1, X.1, ix_up X.2.1 s (some X.1), X.2.2).2 j = xq X j from if_neg e]
        exact x2 j hj
    · have hT : ix_up X.2.1 s (some X.1) j = some T := hT
      unfold ix_up at hT
      by_cases e : j = s
      · rw [if_pos e] at hT
        obtain rfl := Option.some.inj hT
        refine mR_cong x1 (by omega) hsz.2.2 hI.1.items (fun i hi => ?_)
        rw [e, a i (Nat.zero_le _) hi, hw_R_ne _ _ (by omega)]
      · rw [if_neg e] at hT
        have hTI := (hI.2.1 j T hT).1
        refine mR_cong (x3 j T hj hT) (by have := hTI.sz; omega) hTI.sz.2.2 hTI.items (fun i hi => ?_)
        rw [b _ (by omega), hw_R_ne _ _ (by omega)]
  · rw [if_neg w, if_neg w, hw_okn1_0, cond_true]
    exact ⟨F, A, rfl, mQ.refl _ _ _ _ _, hX⟩
theorem m_restore_l (hS : mSh h m) (cal : ix_C) (F : Nat → Nat → Int32) {s : Nat} (hs : s < 3) : ∀ z i A, i ≤ 137300 → 137300 - i < z → ∃ A', ix_lp cal stX9_restore z 15 [(0, ix_R (some m)), (1, ix_I (nI s)), (2, ix_I (nI i))] [] (hw h F A) = some (.inl (some (ix_I (nI 1))), hw h F A') ∧ mQ [] [21] m F A F A' ∧ (∀ j, i ≤ j → j < 137300 → A' (m + 21) j = A (m + 33) (137300 * s + j)) ∧ ∀ j, j < i → A' (m + 21) j = A (m + 21) j := by
  intro z
  induction z with
  | zero => intro i A _ h; omega
  | succ z ih =>
    intro i A hi hz
    rw [lX9_restore_15]
    unfold jX9_restore_15
    rcases Nat.lt_or_ge i 137300 with w | w
    · rw [if_neg (by rw [hw_le (by omega) (by omega)]; omega), mp_is hS, mp_is hS, hw_mul, nI_add, mp_rd54 hS, hw_in (by omega) (by omega), cond_true, mp_wr35 hS, hw_in (by omega) (by omega), cond_true, hw_bdA, hw_aI, hw_cl (by omega), hw_cl (by omega), nI_add]
      obtain ⟨A', e, q, a, b⟩ := ih (i + 1) (hw_R A (m + 21) (hw_U (A (m + 21)) i (A (m + 33) (137300 * s + i)))) w (by omega)
      refine ⟨A', e, ((mQ.refl [] [21] m F A).aR (k := 21) rfl (by omega)).trans q, fun j h1 h2 => ?_, fun j hj => ?_⟩
      · rcases Nat.eq_or_lt_of_le h1 with e1 | e1
        · rw [← e1, b _ (by omega), hw_R_same, hw_U_same]
        · rw [a j e1 h2, hw_R_ne _ _ (by omega)]
      · rw [b j (by omega), hw_R_same, hw_U_ne _ _ (by omega)]
    · obtain rfl : i = 137300 := by omega
      rw [if_pos (by decide), hw_okn1_1, cond_true]
      exact ⟨A, rfl, mQ.refl _ _ _ _ _, fun j h1 h2 => by omega, fun j _ => rfl⟩
theorem m_restore (hS : mSh h m) (hN : 300000 ≤ N) (d : Nat) (hI : x_I X) (hX : mX' F A m X) (i : Int32) : mDoX h m F A (a_restore X i) (ix_run iy_P N (d + 2) 346 [ix_R (some m), ix_I i] (hw h F A)) := by
  obtain ⟨N, rfl⟩ : ∃ z, N = z + 1 := ⟨N - 1, by omega⟩
  rw [rX9_restore (N + 1) (d + 1)]
  unfold bX9_restore jX9_restore_10 a_restore
  have no : mDoX h m F A (nI 0, X) (cond (ix_okn 1 (nI 0)) (some (.inl (some (ix_I (nI 0))), hw h F A)) none) := ⟨F, A, by rw [hw_okn1_0, cond_true], mQ.refl _ _ _ _ _, hX⟩
  rw [hw_cI (m_in _ (N + 1) d _ _ _)]
  dsimp only
  rw [a_if0]
  by_cases w : a_in i (nI 0) (nI 2)
  · have w' := w
    rw [show nI 2 = nI 3 - nI 1 by decide] at w'
    obtain ⟨s, hs, rfl⟩ := a_in_nat (by omega) w'
    have hh := hX.2.1 s hs
    rw [if_pos w, if_pos w, mp_is hS, mp_rd53 hS, hw_in (by omega) (by omega), cond_true, hw_aI, hw_cl (by omega), hh]
    unfold a_hl
    cases e : xq X s with
    | none =>
      rw [if_pos (show (if (none : Option zS).isSome = true then nI 1 else nI 0) = nI 0 from rfl)]
      exact no
    | some T =>
      rw [if_neg (show ¬ (if (some T : Option zS).isSome = true then nI 1 else nI 0) = nI 0 from (by decide : ¬ nI 1 = nI 0)), ← lX9_restore_15]
      obtain ⟨A', e2, q, a, b⟩ := m_restore_l hS (ix_run iy_P (N + 1) (d + 1)) F hs (N + 1 + 1) 0 A (Nat.zero_le _) (by omega)
      rw [e2]
      obtain ⟨x1, x2, x3, x4, x5, x6⟩ := hX
      have hTI := (hI.2.1 s T e).1
      refine ⟨F, A', rfl, q.mono rfl rfl, ⟨?_, fun j hj => by rw [q.2.2.1 32 rfl]; exact x2 j hj, fun j T hj hT => by rw [q.2.2.1 33 rfl]; exact x3 j T hj hT, x4, fun k hk => by rw [q.2.2.1 1 rfl]; exact x5 k hk, x6⟩⟩
      exact mR_cong (S := T) (x3 s T hs e) (show zn T ≤ 1400 by have := hTI.sz; omega) hTI.sz.2.2 hTI.items (fun j hj => a j (Nat.zero_le _) hj)
  · rw [if_neg w, if_neg w]
    exact no
end
