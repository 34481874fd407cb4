/-! TC: the reference: rounds, the tells' rows as trees -/
set_option maxRecDepth 100000
/-- row i is a tell that is no rounds -/
def pLf (A : Nat → Nat → Int32) (m i : Nat) (l : xL) (c : xC) : Prop := A (m + 8) i = nI l.1 ∧ l.1 ≤ 5 ∧ A (m + 9) i = l.2.1 ∧ (l.1 < 3 → ∃ c1 c2, c = c1 ++ l.2.2.1 ++ l.2.2.2 ++ c2 ∧ A (m + 10) i = nI c1.length ∧ A (m + 11) i = nI (c1 ++ l.2.2.1).length ∧ A (m + 12) i = nI (c1 ++ l.2.2.1 ++ l.2.2.2).length)
def yL {α : Type} (P : α → Nat → Nat → Prop) : List α → Nat → Nat → Prop
  | [], i, j => j = i
  | x :: r, i, j => ∃ k, P x i k ∧ yL P r k j
def yT (A : Nat → Nat → Int32) (m : Nat) (c : xC) : (d : Nat) → xT d → Nat → Nat → Prop
  | 0, l, i, j => j = i + 1 ∧ pLf A m i l c
  | _ + 1, .inl l, i, j => j = i + 1 ∧ pLf A m i l c
  | d + 1, .inr b, i, j => ∃ k, j = k + 1 ∧ i < k ∧ A (m + 8) i = nI 6 ∧ A (m + 10) i = b.1 ∧ A (m + 13) i = nI k ∧ A (m + 8) k = nI 7 ∧ A (m + 13) k = nI i ∧ yL (yT A m c d) b.2 (i + 1) k
def pB (a : Nat → Int32) : List Nat → Prop
  | [] => True
  | x :: r => a r.length = nI x ∧ x < 210 ∧ pB a r
theorem pB.up {a : Nat → Int32} {k : Nat} {v : Int32} : ∀ {V : List Nat}, pB a V → V.length ≤ k → pB (hw_U a k v) V
  | [], _, _ => trivial
  | x :: r, h, hk => ⟨by rw [hw_U_ne _ _ (by simp only [List.length_cons] at hk; omega)]; exact h.1, h.2.1, pB.up h.2.2 (by simp only [List.length_cons] at hk; omega)⟩
theorem yL.snoc {α : Type} {P : α → Nat → Nat → Prop} {x : α} {j k : Nat} (hx : P x j k) : ∀ {l : List α} {i : Nat}, yL P l i j → yL P (l ++ [x]) i k
  | [], i, h => by
    have hj : j = i := h
    subst hj
    exact ⟨k, hx, rfl⟩
  | y :: r, i, h => by
    obtain ⟨q, h1, h2⟩ := h
    exact ⟨q, h1, yL.snoc hx h2⟩
theorem yL.le {α : Type} {P : α → Nat → Nat → Prop} (hP : ∀ x i j, P x i j → i < j) : ∀ {l : List α} {i j : Nat}, yL P l i j → i ≤ j
  | [], i, j, h => Nat.le_of_eq (show j = i from h).symm
  | y :: r, i, j, h => by
    obtain ⟨q, h1, h2⟩ := h
    exact Nat.le_trans (Nat.le_of_lt (hP _ _ _ h1)) (yL.le hP h2)
theorem yL.mono {α : Type} {P Q : α → Nat → Nat → Prop} (hP : ∀ x i j, P x i j → i < j) {i0 j0 : Nat} (hPQ : ∀ x i j, i0 ≤ i → j ≤ j0 → P x i j → Q x i j) : ∀ {l : List α} {i j : Nat}, i0 ≤ i → j ≤ j0 → yL P l i j → yL Q l i j
  | [], _, _, _, _, h => h
  | y :: r, i, j, hi, hj, h => by
    obtain ⟨q, h1, h2⟩ := h
    have l1 := hP _ _ _ h1
    have l2 := yL.le hP h2
    exact ⟨q, hPQ _ _ _ hi (by omega) h1, yL.mono hP hPQ (by omega) hj h2⟩
theorem yT.lt {A : Nat → Nat → Int32} {m : Nat} {c : xC} : ∀ d (x : xT d) i j, yT A m c d x i j → i < j
  | 0, _, _, _, h => by have := h.1; omega
  | _ + 1, .inl _, _, _, h => by have := h.1; omega
  | _ + 1, .inr _, _, _, h => by obtain ⟨k, h1, h2, -⟩ := h; omega
/-- rows i .. j of the tells stay -/
def pFr (m i j : Nat) (A A' : Nat → Nat → Int32) : Prop := ∀ k q, 8 ≤ k → k ≤ 13 → i ≤ q → q < j → A' (m + k) q = A (m + k) q
theorem pLf.of {A A' : Nat → Nat → Int32} {m i : Nat} {l : xL} {c : xC} (h : pLf A m i l c) (c3 : xC) (hf : pFr m i (i + 1) A A') : pLf A' m i l (c ++ c3) := by
  obtain ⟨h1, h2, h3, h4⟩ := h
  have e := fun k h8 h13 => hf k i h8 h13 (Nat.le_refl i) (Nat.lt_succ_self i)
  refine ⟨by rw [e 8 (by omega) (by omega)]; exact h1, h2, by rw [e 9 (by omega) (by omega)]; exact h3, fun hl => ?_⟩
  obtain ⟨c1, c2, g1, g2, g3, g4⟩ := h4 hl
  exact ⟨c1, c2 ++ c3, by rw [g1]; simp only [List.append_assoc], by rw [e 10 (by omega) (by omega)]; exact g2, by rw [e 11 (by omega) (by omega)]; exact g3, by rw [e 12 (by omega) (by omega)]; exact g4⟩
theorem pFr.sub {m i j i' j' : Nat} {A A' : Nat → Nat → Int32} (h : pFr m i j A A') (hi : i ≤ i') (hj : j' ≤ j) : pFr m i' j' A A' := fun k q h8 h13 h1 h2 => h k q h8 h13 (by omega) (by omega)
theorem pFr.trans {m i j : Nat} {A A1 A2 : Nat → Nat → Int32} (h : pFr m i j A A1) (h2 : pFr m i j A1 A2) : pFr m i j A A2 := fun k q h8 h13 h1 h3 => (h2 k q h8 h13 h1 h3).trans (h k q h8 h13 h1 h3)
theorem yT.of {A A' : Nat → Nat → Int32} {m : Nat} {c : xC} (c3 : xC) : ∀ d (x : xT d) i j, pFr m i j A A' → yT A m c d x i j → yT A' m (c ++ c3) d x i j
  | 0, _, i, j, hf, h => ⟨h.1, h.2.of c3 (by rw [← h.1]; exact hf)⟩
  | _ + 1, .inl _, i, j, hf, h => ⟨h.1, h.2.of c3 (by rw [← h.1]; exact hf)⟩
  | d + 1, .inr b, i, j, hf, h => by
    obtain ⟨k, h1, h2, h3, h4, h5, h6, h7, h8⟩ := h
    refine ⟨k, h1, h2, ?_, ?_, ?_, ?_, ?_, ?_⟩
    · rw [hf 8 i (by omega) (by omega) (by omega) (by omega)]; exact h3
    · rw [hf 10 i (by omega) (by omega) (by omega) (by omega)]; exact h4
    · rw [hf 13 i (by omega) (by omega) (by omega) (by omega)]; exact h5
    · rw [hf 8 k (by omega) (by omega) (by omega) (by omega)]; exact h6
    · rw [hf 13 k (by omega) (by omega) (by omega) (by omega)]; exact h7
    · exact yL.mono (fun x i j => yT.lt d x i j) (i0 := i + 1) (j0 := k) (fun x i' j' hi hj hx => yT.of c3 d x i' j' (hf.sub (by omega) (by omega)) hx) (Nat.le_refl _) (Nat.le_refl _) h8
section
variable {h : ix_H} {m : Nat} {F A : Nat → Nat → Int32} {tk : Nat → tK} {e t n o N d i : Nat}
theorem mp_wr19x (hS : mSp h m) (F A F0 A0 : Nat → Nat → Int32) (i : Int32) (f : Nat → ix_O) : (ix_at (hw h F A) 101 (ix_fR (hw h F0 A0) m 19) i).bind f = cond (ix_in i 210) (f (m + 8)) none := mp_wr19 hS F A i f
theorem mp_wr21x (hS : mSp h m) (F A F0 A0 : Nat → Nat → Int32) (i : Int32) (f : Nat → ix_O) : (ix_at (hw h F A) 101 (ix_fR (hw h F0 A0) m 21) i).bind f = cond (ix_in i 210) (f (m + 10)) none := mp_wr21 hS F A i f
abbrev pQ2 (m : Nat) (F A F' A' : Nat → Nat → Int32) : Prop := mQ [11, 12, 13, 14, 15, 16, 17, 18, 25, 27, 31] [8, 9, 10, 11, 12, 13, 14, 15, 16, 17] m F A F' A'
/-- rows of tells other than i stay, mates too -/
def pRq (m n : Nat) (A A' : Nat → Nat → Int32) : Prop := ∀ k j, j ≠ n → 8 ≤ k → k ≤ 13 → A' (m + k) j = A (m + k) j
theorem pRq.up {A A1 : Nat → Nat → Int32} {k : Nat} {v : Int32} (h1 : pRq m n A A1) : pRq m n A (hw_R A1 (m + k) (hw_U (A1 (m + k)) n v)) := fun k' j hj h8 h12 => by
  by_cases w : k' = k
  · rw [w, hw_R_same, hw_U_ne _ _ hj, ← w]
    exact h1 k' j hj h8 h12
  · rw [hw_R_ne _ _ (by omega)]
    exact h1 k' j hj h8 h12
theorem pRq.up14 {A A1 : Nat → Nat → Int32} {k : Nat} {g : Nat → Int32} (h1 : pRq m n A A1) (hk : 13 < k) : pRq m n A (hw_R A1 (m + k) g) := fun k' j hj h8 h12 => by
  rw [hw_R_ne _ _ (by omega)]
  exact h1 k' j hj h8 h12
theorem pRq.trans {A A1 A2 : Nat → Nat → Int32} (h1 : pRq m n A A1) (h2 : pRq m n A1 A2) : pRq m n A A2 := fun k j hj h8 h12 => (h2 k j hj h8 h12).trans (h1 k j hj h8 h12)
theorem p_do (hP : mSp h m) (hT : pT F A m tk e t) {c : xC} (hc : pCd F A m t c) {w : Option Nat} (hW : pW F m tk t w) (h18 : F m 18 = nI i) (hi : i < 210) (h28 : x_kd tk t = 28) {ab : List Nat} (h25 : F m 25 = nI ab.length) (hab : ab.length < 3) (hB : pB (A (m + 14)) ab) (N d : Nat) : ∃ F' A', ix_run iy_P N (d + 7) 257 [ix_R (some m)] (hw h F A) = some (.inl none, hw h F' A') ∧ pQ2 m F A F' A' ∧ pRq m i A A' ∧ match (x_bd (x_pas t) fun _ t1 => x_bd (x_num tk (nI 0) (nI 99) t1 w) fun n t2 => x_bd (x_must tk 4 t2) fun _ t3 => .inr (n, t3) : xR (Int32 × Option Nat)) with
    | .inl a => pF F' m tk a.1 a.2
    | .inr a => pT F' A' m tk e a.2 ∧ t + 2 ≤ a.2 ∧ pCd F' A' m a.2 c ∧ pW F' m tk a.2 a.1.2 ∧ F' m 18 = nI (i + 1) ∧ F' m 25 = nI (ab.length + 1) ∧ pB (A' (m + 14)) (i :: ab) ∧ A' (m + 8) i = nI 6 ∧ A' (m + 10) i = a.1.1 := by
  have te := hT.2.1
  have t4 := hT.2.2.1
  obtain ⟨k37, -, a3, -⟩ := hT.1.2.2 t te t4
  rw [rX9_tellOne N (d + 6)]
  unfold bX9_tellOne
  rw [mq_is hP, mq_is hP, hw_fI, h18, mp_wr20 hP, hw_in hi (by omega), cond_true, hw_bdA, hw_cl (by omega)]
  have q0 : mQ [] [9] m F A F (hw_R A (m + 9) (hw_U (A (m + 9)) i (-1))) := (mQ.refl _ _ _ _ _).aR (k := 9) rfl (by omega)
  have r0 : pRq m i A (hw_R A (m + 9) (hw_U (A (m + 9)) i (-1))) := pRq.up (A := A) (A1 := A) (k := 9) (fun _ _ _ _ _ => rfl)
  have T0 := hT.of q0 rfl rfl
  have C0 := hc.of q0 (Nat.le_refl t) rfl rfl
  have W0 := hW.of q0 (Nat.le_refl t) rfl
  generalize hw_R A (m + 9) (hw_U (A (m + 9)) i (-1)) = A0 at q0 r0 T0 C0 W0 ⊢
  have a3' : A0 (m + 3) t = nI (x_kd tk t) := by rw [q0.2.2.1 3 rfl]; exact a3
  rw [mq_is hP, mq_is hP, mp_rd5 hP, hw_fI, T0.2.2.2.1, hw_in (by omega) (by omega), cond_true, hw_aI, hw_cl (by omega), a3', h28, if_neg (by decide), if_neg (by decide), if_neg (by decide), if_neg (by decide), if_neg (by decide), if_pos rfl, mq_is hP, h25, if_neg (by rw [hw_eq (by omega) (by omega)]; omega)]
  unfold jX9_tellOne_78
  obtain ⟨F1, e1, q1, f1⟩ := p_goesOn hP T0 (by omega) N (d + 4)
  rw [mq_is hP, hw_fI, if_pos (by rw [T0.2.2.2.2]; decide), mq_isr hP, hw_cV e1, mq_is hP, mp_wr19 hP, hw_in hi (by omega), cond_true, hw_bdA, mq_is hP, mq_isr hP, hw_cl (by omega)]
  have q8 : mQ [] [8] m F1 A0 F1 (hw_R A0 (m + 8) (hw_U (A0 (m + 8)) i (nI 6))) := (mQ.refl _ _ _ _ _).aR (k := 8) rfl (by omega)
  have v8 : hw_R A0 (m + 8) (hw_U (A0 (m + 8)) i (nI 6)) (m + 8) i = nI 6 := by rw [hw_R_same, hw_U_same]
  have r1 : pRq m i A (hw_R A0 (m + 8) (hw_U (A0 (m + 8)) i (nI 6))) := r0.up (k := 8)
  generalize hw_R A0 (m + 8) (hw_U (A0 (m + 8)) i (nI 6)) = A1 at q8 v8 r1 ⊢
  -- behind the number
  have tail : ∀ (F2 : Nat → Nat → Int32) (v : Int32) (K : ix_K), mQ [11, 13, 14, 15, 16] [] m F1 A1 F2 A1 → ∃ F3 A3, ((ix_at (hw h F2 A1) 101 (ix_fR (hw h F1 A1) m 21) (nI i)).bind fun a56 => ix_bd (ix_waI (hw h F2 A1) a56 i v) fun h57 => (ix_is h57 10 (some m)).bind fun a58 => (ix_is h57 10 (some m)).bind fun a59 => (ix_at h57 101 (ix_fR h57 a58 26) (ix_fI h57 a59 25)).bind fun a60 => ix_bd (ix_waI h57 a60 (ix_fI h57 a59 25).toNatClampNeg (nI i)) fun h61 => (ix_is h61 10 (some m)).bind fun a62 => (ix_is h61 10 (some m)).bind fun a63 => ix_bd (ix_wfI h61 a63 25 ((ix_fI h61 a62 25) + (nI 1))) fun h64 => jX9_tellOne_157 (ix_run iy_P N (d + 6)) K m h64) = jX9_tellOne_157 (ix_run iy_P N (d + 6)) K m (hw h F3 A3) ∧ mQ [25] [10, 14] m F2 A1 F3 A3 ∧ pRq m i A1 A3 ∧ F3 m 25 = nI (ab.length + 1) ∧ pB (A3 (m + 14)) (i :: ab) ∧ A3 (m + 10) i = v := fun F2 v K q2 => by
    have g25 : F2 m 25 = nI ab.length := by rw [q2.2.1 25 rfl, q1.2.1 25 rfl]; exact h25
    rw [mp_wr21x hP, hw_in hi (by omega), cond_true, hw_bdA, mq_is hP, mq_is hP, mp_wr26 hP, hw_fI, g25, hw_in (by omega) (by omega), cond_true, hw_bdA, mq_is hP, mq_is hP, hw_bdF, hw_fI, g25, nI_add, hw_cl (by omega)]
    refine ⟨_, _, rfl, (((mQ.refl [25] [10, 14] m F2 A1).aR (k := 10) rfl (by omega)).aR (k := 14) rfl (by omega)).fR rfl, (pRq.up (A := A1) (A1 := A1) (k := 10) (fun _ _ _ _ _ => rfl)).up14 (by omega), by rw [hw_R_same, hw_U_same], ?_, ?_⟩
    · rw [hw_R_same]
      refine ⟨hw_U_same _ _ _, hi, pB.up ?_ (Nat.le_refl _)⟩
      rw [hw_R_ne _ _ (by omega), q8.2.2.1 14 rfl, q0.2.2.1 14 rfl]
      exact hB
    · rw [hw_R_ne _ _ (by omega), hw_R_same, hw_U_same]
  unfold x_pas at f1 ⊢
  by_cases w4 : t = 400
  · rw [if_pos w4] at f1 ⊢
    have hF : pF F1 m tk 2 t := f1
    rw [hw_cI (p_boundedF hP hF N (d + 3) _ _)]
    obtain ⟨F3, A3, e3, q3, r3, -⟩ := tail F1 (nI 0) (ix_lp (ix_run iy_P N (d + 6)) stX9_tellOne N) (mQ.refl _ _ _ _ _)
    obtain ⟨F4, e4, q4⟩ := p_157F (A := A3) hP (hF.of q3 rfl) N (d + 3) (ix_lp (ix_run iy_P N (d + 6)) stX9_tellOne N)
    exact ⟨F4, A3, e3.trans e4, ((((q0.mono rfl rfl).trans (q1.mono rfl rfl)).trans (q8.mono rfl rfl)).trans (q3.mono rfl rfl)).trans (q4.mono rfl rfl), r1.trans r3, (hF.of q3 rfl).of q4 rfl⟩
  · rw [if_neg w4] at f1 ⊢
    have T1 : pT F1 A0 m tk e (t + 1) := f1
    obtain ⟨F2, v, e2, q2, f2⟩ := p_bounded hP (T1.of q8 rfl rfl) ((W0.of q1 (Nat.le_succ t) rfl).of q8 (Nat.le_refl _) rfl) N (d + 3) (nI 0) (nI 99)
    rw [hw_cI e2]
    obtain ⟨F3, A3, e3, q3, r3, g25, gB, g10⟩ := tail F2 v (ix_lp (ix_run iy_P N (d + 6)) stX9_tellOne N) q2
    have q03 : pQ2 m F A F3 A3 := ((((q0.mono rfl rfl).trans (q1.mono rfl rfl)).trans (q8.mono rfl rfl)).trans (q2.mono rfl rfl)).trans (q3.mono rfl rfl)
    show ∃ F' A', _ ∧ _ ∧ _ ∧ match (x_bd (x_num tk (nI 0) (nI 99) (t + 1) w) fun n t2 => x_bd (x_must tk 4 t2) fun _ t3 => .inr (n, t3) : xR (Int32 × Option Nat)) with
      | .inl a => pF F' m tk a.1 a.2
      | .inr a => _
    generalize x_num tk (nI 0) (nI 99) (t + 1) w = r at f2 ⊢
    cases r with
    | inl a =>
      have hF : pF F2 m tk a.1 a.2 := f2
      obtain ⟨F4, e4, q4⟩ := p_157F (A := A3) hP (hF.of q3 rfl) N (d + 3) (ix_lp (ix_run iy_P N (d + 6)) stX9_tellOne N)
      exact ⟨F4, A3, e3.trans e4, q03.trans (q4.mono rfl rfl), r1.trans r3, (hF.of q3 rfl).of q4 rfl⟩
    | inr a =>
      obtain ⟨⟨v', w'⟩, t2⟩ := a
      obtain ⟨T2, tl, ev, W2⟩ := f2
      obtain rfl : v' = v := ev
      dsimp only at T2 tl W2
      obtain ⟨F4, e4, q4, g18, f4⟩ := p_157 (A := A3) hP (T2.of q3 rfl rfl) (show F3 m 18 = nI i by rw [q3.2.1 18 rfl, q2.2.1 18 rfl, q1.2.1 18 rfl]; exact h18) N (d + 3) (ix_lp (ix_run iy_P N (d + 6)) stX9_tellOne N)
      refine ⟨F4, A3, e3.trans e4, q03.trans (q4.mono rfl rfl), r1.trans r3, ?_⟩
      show match (x_bd (x_must tk 4 t2) fun _ t3 => .inr ((v', w'), t3) : xR (Int32 × Option Nat)) with
        | .inl a => pF F4 m tk a.1 a.2
        | .inr a => _
      have ht := @x_must_t tk t2 4
      generalize x_must tk 4 t2 = r at f4 ht ⊢
      cases r with
      | inl b => exact f4
      | inr b =>
        obtain ⟨b0, t3⟩ := b
        obtain rfl : t3 = t2 + 1 := ht rfl
        refine ⟨f4, by show t + 2 ≤ t2 + 1; omega, ?_, (W2.of q3 (Nat.le_refl _) rfl).of q4 (Nat.le_succ _) rfl, g18, by rw [q4.2.1 25 rfl]; exact g25, gB, ?_, g10⟩
        · exact ((((C0.of q1 (Nat.le_succ t) rfl rfl).of q8 (Nat.le_refl _) rfl rfl).of q2 tl rfl rfl).of q3 (Nat.le_refl _) rfl rfl).of q4 (Nat.le_succ _) rfl rfl
        · rw [q3.2.2.1 8 rfl]
          exact v8
end
