/-! Q5: the reference: rows replayed, counts -/
set_option maxRecDepth 100000
def mF (F A : Nat → Nat → Int32) (m : Nat) (l : KV) : Prop := F m 52 = nI l.length ∧ kv_in (A (m + 30)) (A (m + 31)) l
theorem z_lost_eq (S : zS) : z_lost S = zh S 0 3 + zh S 1 3 + zh S 2 3 + zh S 3 3 := by
  show nI 0 + zh S 0 3 + zh S 1 3 + zh S 2 3 + zh S 3 3 = _
  rw [nI_0, Int32.zero_add]
theorem mR_back {nw nwT nw' : Nat → Int32} {S T : zS} {k : Nat} (h : mR nw S) (hT : mR nwT T) (g : z_gr S T k) (hn : zn S ≤ 1400) (h32 : zp S ≤ 32) (e1 : ∀ j, j < 14100 → nw' j = nw j) (e2 : ∀ j, 14100 ≤ j → nw' j = nwT j) : mR nw' S := by
  obtain ⟨⟨a0, a1, a2, a3, a5, a6, a7, a8⟩, b, c, d, -⟩ := h
  refine ⟨⟨by rw [e1 _ (by omega)]; exact a0, by rw [e1 _ (by omega)]; exact a1, by rw [e1 _ (by omega)]; exact a2, by rw [e1 _ (by omega)]; exact a3, by rw [e1 _ (by omega)]; exact a5, by rw [e1 _ (by omega)]; exact a6, by rw [e1 _ (by omega)]; exact a7, by rw [e1 _ (by omega)]; exact a8⟩, fun p hp => by rw [e1 _ (by omega)]; exact b p hp, fun k f hk hf => by rw [e1 _ (by omega)]; exact c k f hk hf, fun r f hr hf => by rw [e1 _ (by omega)]; exact d r f hr hf, fun r hr => ?_⟩
  have := hT.2.2.2.2 r (Nat.lt_of_lt_of_le hr g.1)
  have e : zi T r = zi S r := g.2.1 r hr
  rw [e] at this
  exact kv_in_cong this (fun i _ => e2 _ (by omega)) (fun i _ => e2 _ (by omega))
theorem kv_in_eq {f g f' g' : Nat → Int32} {l l' : KV} (h : kv_in f g l) (h' : kv_in f' g' l') (e : l.length = l'.length) : l = l' ↔ ∀ i, i < l.length → f i = f' i ∧ g i = g' i := by
  refine ⟨fun w i hi => ?_, fun w => List.ext_getElem e fun i h1 h2 => ?_⟩
  · subst w
    obtain ⟨a, b⟩ := h i hi
    obtain ⟨c, d⟩ := h' i hi
    exact ⟨a.trans c.symm, b.trans d.symm⟩
  · obtain ⟨a, b⟩ := h i h1
    obtain ⟨c, d⟩ := h' i h2
    obtain ⟨x, y⟩ := w i h1
    exact Prod.ext (a.symm.trans (x.trans c)) (b.symm.trans (y.trans d))
section
variable {h : ix_H} {m : Nat} {X : xS} {F A : Nat → Nat → Int32} {N : Nat}
theorem m_keeps_l (hS : mSh h m) (cal : ix_C) (F : Nat → Nat → Int32) : ∀ z i A, i ≤ 14100 → 14100 - i < z → ∃ A', ix_lp cal stX9_keeps z 2 [(0, ix_R (some m)), (1, ix_I (nI i))] [] (hw h F A) = some (.inl none, hw h F A') ∧ mQ [] [29] m F A F A' ∧ (∀ j, i ≤ j → j < 14100 → A' (m + 29) j = A (m + 21) j) ∧ ∀ j, j < i → A' (m + 29) j = A (m + 29) j := by
  intro z
  induction z with
  | zero => intro i A _ h; omega
  | succ z ih =>
    intro i A hi hz
    rw [lX9_keeps_2]
    unfold jX9_keeps_2
    rcases Nat.lt_or_ge i 14100 with w | w
    · rw [if_neg (by rw [hw_le (by omega) (by omega)]; omega), mp_is hS, mp_is hS, mp_rd35 hS, hw_in (by omega) (by omega), cond_true, mp_wr49 hS, hw_in (by omega) (by omega), cond_true, hw_bdA, hw_aI, hw_cl (by omega), nI_add]
      obtain ⟨A', e, q, a, b⟩ := ih (i + 1) (hw_R A (m + 29) (hw_U (A (m + 29)) i (A (m + 21) i))) w (by omega)
      refine ⟨A', e, ((mQ.refl [] [29] m F A).aR (k := 29) rfl (by omega)).trans q, fun j h1 h2 => ?_, fun j hj => ?_⟩
      · rcases Nat.eq_or_lt_of_le h1 with e1 | e1
        · rw [← e1, b _ (by omega), hw_R_same, hw_U_same]
        · rw [a j e1 h2, hw_R_ne _ _ (by omega)]
      · rw [b j (by omega), hw_R_same, hw_U_ne _ _ (by omega)]
    · obtain rfl : i = 14100 := by omega
      rw [if_pos (by decide)]
      exact ⟨A, rfl, mQ.refl _ _ _ _ _, fun j h1 h2 => by omega, fun j _ => rfl⟩
theorem m_keeps (hS : mSh h m) (hN : 20000 ≤ N) (d : Nat) : ∃ A', ix_run iy_P N (d + 1) 340 [ix_R (some m)] (hw h F A) = some (.inl none, hw h F A') ∧ mQ [] [29] m F A F A' ∧ ∀ j, j < 14100 → A' (m + 29) j = A (m + 21) j := by
  obtain ⟨N, rfl⟩ : ∃ z, N = z + 1 := ⟨N - 1, by omega⟩
  rw [rX9_keeps (N + 1) d]
  unfold bX9_keeps
  rw [← lX9_keeps_2]
  obtain ⟨A', e, q, a, -⟩ := m_keeps_l hS (ix_run iy_P (N + 1) d) F (N + 1 + 1) 0 A (Nat.zero_le _) (by omega)
  exact ⟨A', e, q, fun j hj => a j (Nat.zero_le _) hj⟩
theorem m_givesBack_l (hS : mSh h m) (cal : ix_C) (F : Nat → Nat → Int32) : ∀ z i A, i ≤ 14100 → 14100 - i < z → ∃ A', ix_lp cal stX9_givesBack z 2 [(0, ix_R (some m)), (1, ix_I (nI i))] [] (hw h F A) = some (.inl none, hw h F A') ∧ mQ [] [21] m F A F A' ∧ (∀ j, i ≤ j → j < 14100 → A' (m + 21) j = A (m + 29) j) ∧ ∀ j, j < i ∨ 14100 ≤ j → A' (m + 21) j = A (m + 21) j := by
  intro z
  induction z with
  | zero => intro i A _ h; omega
  | succ z ih =>
    intro i A hi hz
    rw [lX9_givesBack_2]
    unfold jX9_givesBack_2
    rcases Nat.lt_or_ge i 14100 with w | w
    · rw [if_neg (by rw [hw_le (by omega) (by omega)]; omega), mp_is hS, mp_is hS, mp_rd49 hS, hw_in (by omega) (by omega), cond_true, mp_wr35 hS, hw_in (by omega) (by omega), cond_true, hw_bdA, hw_aI, hw_cl (by omega), nI_add]
      obtain ⟨A', e, q, a, b⟩ := ih (i + 1) (hw_R A (m + 21) (hw_U (A (m + 21)) i (A (m + 29) i))) w (by omega)
      refine ⟨A', e, ((mQ.refl [] [21] m F A).aR (k := 21) rfl (by omega)).trans q, fun j h1 h2 => ?_, fun j hj => ?_⟩
      · rcases Nat.eq_or_lt_of_le h1 with e1 | e1
        · rw [← e1, b _ (by omega), hw_R_same, hw_U_same]
        · rw [a j e1 h2, hw_R_ne _ _ (by omega)]
      · rw [b j (by omega), hw_R_same, hw_U_ne _ _ (by omega)]
    · obtain rfl : i = 14100 := by omega
      rw [if_pos (by decide)]
      exact ⟨A, rfl, mQ.refl _ _ _ _ _, fun j h1 h2 => by omega, fun j _ => rfl⟩
theorem m_givesBack (hS : mSh h m) (hN : 20000 ≤ N) (d : Nat) : ∃ A', ix_run iy_P N (d + 1) 344 [ix_R (some m)] (hw h F A) = some (.inl none, hw h F A') ∧ mQ [] [21] m F A F A' ∧ (∀ j, j < 14100 → A' (m + 21) j = A (m + 29) j) ∧ ∀ j, 14100 ≤ j → A' (m + 21) j = A (m + 21) j := by
  obtain ⟨N, rfl⟩ : ∃ z, N = z + 1 := ⟨N - 1, by omega⟩
  rw [rX9_givesBack (N + 1) d]
  unfold bX9_givesBack
  rw [← lX9_givesBack_2]
  obtain ⟨A', e, q, a, b⟩ := m_givesBack_l hS (ix_run iy_P (N + 1) d) F (N + 1 + 1) 0 A (Nat.zero_le _) (by omega)
  exact ⟨A', e, q, fun j hj => a j (Nat.zero_le _) hj, fun j hj => b j (Or.inr hj)⟩
theorem m_rowDone_l (hS : mSh h m) {S : zS} (hI : i_I S) (hN : 3000 ≤ N) (d : Nat) {a o n : Nat} (ha : a < 4) (ho : o < 4) (hn : n ≤ 8) (w : Int32) : ∀ j z k F A, k + j = n → j + 1 < z → mR (A (m + 21)) (z_bits S a o w k) →
    ∃ F' A', ix_lp (ix_run iy_P N (d + 12)) stX9_rowDone z 2 [(0, ix_R (some m)), (1, ix_I (nI a)), (2, ix_I (nI o)), (3, ix_I (nI n)), (4, ix_I w), (5, ix_I (nI k))] [] (hw h F A) = some (.inl none, hw h F' A') ∧ mQ mX mY m F A F' A' ∧ mR (A' (m + 21)) (a_row S a o n w) ∧ mA F' A' m (z_all (a_row S a o n w)) := by
  intro j
  induction j with
  | zero =>
    intro z k F A hk hz hR
    obtain rfl : k = n := by omega
    obtain ⟨z, rfl⟩ : ∃ q, z = q + 1 := ⟨z - 1, by omega⟩
    rw [lX9_rowDone_2]
    unfold jX9_rowDone_2
    have hB := hI.bits ha ho w k
    obtain ⟨F1, A1, e1, q1, r1⟩ := m_closes hS ha (i_zkp ha) hN d (F := F) hB hR
    obtain ⟨F2, A2, e2, q2, r2⟩ := m_closes hS ho (i_zkp ho) hN d (F := F1) (i_I.close ha 200 hB) r1
    have hT := hI.row ha ho k w
    obtain ⟨rc, hrc⟩ := hT.R
    obtain ⟨F3, A3, e3, q3, a3, l3⟩ := m_all hS hT.W hrc hN (d + 4) (F := F2) r2
    rw [if_pos (show nI k ≤ nI k by rw [hw_le (by omega) (by omega)]; omega), mp_isr hS, hw_cI e1]
    dsimp only
    rw [mp_isr hS, hw_cI e2]
    dsimp only
    rw [mp_isr hS, hw_cV e3]
    exact ⟨F3, A3, rfl, (q1.trans q2).trans (q3.mono rfl rfl), mAns.R r2 q3, a3⟩
  | succ j ih =>
    intro z k F A hk hz hR
    obtain ⟨z, rfl⟩ : ∃ q, z = q + 1 := ⟨z - 1, by omega⟩
    rw [lX9_rowDone_2]
    unfold jX9_rowDone_2 jX9_rowDone_16
    have hB := hI.bits ha ho w k
    have stp : ∀ c, c < 4 → (z_bits S a o w (k + 1) = z_step (z_bits S a o w k) c) → ∃ F' A', ((ix_isr (hw h F A) 10 (some m)).bind fun a8 => (ix_rV (ix_run iy_P N (d + 12) 282 [ix_R (some a8), ix_I (nI c)] (hw h F A))).bind fun r7 => ix_lp (ix_run iy_P N (d + 12)) stX9_rowDone z 2 [(0, ix_R (some m)), (1, ix_I (nI a)), (2, ix_I (nI o)), (3, ix_I (nI n)), (4, ix_I w), (5, ix_I (nI k + nI 1))] [] r7) = some (.inl none, hw h F' A') ∧ mQ mX mY m F A F' A' ∧ mR (A' (m + 21)) (a_row S a o n w) ∧ mA F' A' m (z_all (a_row S a o n w)) := fun c hc e => by
      have key : ∃ F1 A1, ix_run iy_P N (d + 12) 282 [ix_R (some m), ix_I (nI c)] (hw h F A) = some (.inl none, hw h F1 A1) ∧ mQ mX mY m F A F1 A1 ∧ mR (A1 (m + 21)) (z_step (z_bits S a o w k) c) := by
        by_cases w0 : zh (z_bits S a o w k) c 1 = nI 0
        · exact m_steps hS (rc := []) (by have := hB.sz; omega) hB.sz.2.2 hN (d + 1) hc hR (fun x => absurd w0 x)
        · obtain ⟨rc, hcn, -⟩ := hB.can hc w0
          exact m_steps hS (rc := rc) (by have := hB.sz; omega) hB.sz.2.2 hN (d + 1) hc hR (fun _ => hcn)
      obtain ⟨F1, A1, e1, q1, r1⟩ := key
      rw [mp_isr hS, hw_cV e1, nI_add]
      obtain ⟨F2, A2, e2, q2, r2, a2⟩ := ih z (k + 1) F1 A1 (by omega) (by omega) (by rw [e]; exact r1)
      exact ⟨F2, A2, e2, q1.trans q2, r2, a2⟩
    rw [if_neg (show ¬ nI n ≤ nI k by rw [hw_le (by omega) (by omega)]; omega)]
    by_cases wc : (w >>> (nI k &&& 31)) &&& nI 1 = nI 0
    · rw [if_pos wc]
      exact stp a ha (by show z_step _ (if _ then _ else _) = _; rw [if_pos wc])
    · rw [if_neg wc]
      exact stp o ho (by show z_step _ (if _ then _ else _) = _; rw [if_neg wc])
theorem m_rowDone (hS : mSh h m) {S : zS} (hI : i_I S) (hN : 3000 ≤ N) (d : Nat) {a o n : Nat} (ha : a < 4) (ho : o < 4) (hn : n ≤ 8) (w : Int32) (hR : mR (A (m + 21)) S) :
    ∃ F' A', ix_run iy_P N (d + 13) 341 [ix_R (some m), ix_I (nI a), ix_I (nI o), ix_I (nI n), ix_I w] (hw h F A) = some (.inl none, hw h F' A') ∧ mQ mX mY m F A F' A' ∧ mR (A' (m + 21)) (a_row S a o n w) ∧ mA F' A' m (z_all (a_row S a o n w)) := by
  obtain ⟨N, rfl⟩ : ∃ z, N = z + 1 := ⟨N - 1, by omega⟩
  rw [rX9_rowDone (N + 1) (d + 12)]
  unfold bX9_rowDone
  rw [← lX9_rowDone_2]
  exact m_rowDone_l hS hI (by omega) d ha ho hn w n (N + 1 + 1) 0 F A (by omega) (by omega) hR
theorem m_keepsFirst_l (hS : mSh h m) (cal : ix_C) (F : Nat → Nat → Int32) {l : KV} (hl : l.length ≤ 199) (h48 : F m 48 = nI l.length) : ∀ z i A, i ≤ l.length → l.length - i < z → kv_in (A (m + 27)) (A (m + 28)) l → kv_in (A (m + 30)) (A (m + 31)) (l.take i) →
    ∃ A', ix_lp cal stX9_keepsFirst z 6 [(0, ix_R (some m)), (1, ix_I (nI i))] [] (hw h F A) = some (.inl none, hw h F A') ∧ mQ [] [30, 31] m F A F A' ∧ kv_in (A' (m + 30)) (A' (m + 31)) l := by
  intro z
  induction z with
  | zero => intro i A _ h; omega
  | succ z ih =>
    intro i A hi hz ha hb
    rw [lX9_keepsFirst_6]
    unfold jX9_keepsFirst_6
    rw [mp_is hS, hw_fI, h48]
    rcases Nat.lt_or_ge i l.length with w | w
    · obtain ⟨w1, w2⟩ := ha i w
      rw [if_neg (by rw [hw_le (by omega) (by omega)]; omega), mp_is hS, mp_is hS, mp_rd46 hS, hw_in (by omega) (by omega), cond_true, mp_wr50 hS, hw_in (by omega) (by omega), cond_true, hw_bdA, mp_is hS, mp_is hS, mp_rd47 hS, hw_in (by omega) (by omega), cond_true, mp_wr51 hS, hw_in (by omega) (by omega), cond_true, hw_bdA, hw_aI, hw_aI, hw_cl (by omega), hw_R_ne _ _ (show m + 28 ≠ m + 30 by omega), w1, w2, nI_add]
      have e1 : hw_R (hw_R A (m + 30) (hw_U (A (m + 30)) i (l[i]).1)) (m + 31) (hw_U (hw_R A (m + 30) (hw_U (A (m + 30)) i (l[i]).1) (m + 31)) i (l[i]).2) (m + 30) = hw_U (A (m + 30)) i (l[i]).1 := by rw [hw_R_ne _ _ (by omega), hw_R_same]
      have e2 : hw_R (hw_R A (m + 30) (hw_U (A (m + 30)) i (l[i]).1)) (m + 31) (hw_U (hw_R A (m + 30) (hw_U (A (m + 30)) i (l[i]).1) (m + 31)) i (l[i]).2) (m + 31) = hw_U (A (m + 31)) i (l[i]).2 := by rw [hw_R_same, hw_R_ne _ _ (by omega)]
      obtain ⟨A', e, q, b⟩ := ih (i + 1) _ w (by omega) (show kv_in (hw_R (hw_R A (m + 30) (hw_U (A (m + 30)) i (l[i]).1)) (m + 31) (hw_U (hw_R A (m + 30) (hw_U (A (m + 30)) i (l[i]).1) (m + 31)) i (l[i]).2) (m + 27)) (hw_R (hw_R A (m + 30) (hw_U (A (m + 30)) i (l[i]).1)) (m + 31) (hw_U (hw_R A (m + 30) (hw_U (A (m + 30)) i (l[i]).1) (m + 31)) i (l[i]).2) (m + 28)) l by
        rw [hw_R_ne _ _ (by omega), hw_R_ne _ _ (by omega), hw_R_ne _ _ (by omega), hw_R_ne _ _ (by omega)]
        exact ha) (by
        rw [e1, e2, List.take_succ_eq_append_getElem w]
        have := kv_in_app (k := (l[i]).1) (v := (l[i]).2) hb
        rw [List.length_take, Nat.min_eq_left (by omega)] at this
        exact this)
      exact ⟨A', e, (((mQ.refl [] [30, 31] m F A).aR (k := 30) rfl (by omega)).aR (k := 31) rfl (by omega)).trans q, b⟩
    · obtain rfl : i = l.length := by omega
      rw [if_pos (show nI l.length ≤ nI l.length by rw [hw_le (by omega) (by omega)]; omega)]
      rw [List.take_length] at hb
      exact ⟨A, rfl, mQ.refl _ _ _ _ _, hb⟩
theorem m_keepsFirst (hS : mSh h m) (hN : 3000 ≤ N) (d : Nat) {l : KV} (hl : l.length ≤ 199) (hA : mA F A m l) : ∃ F' A', ix_run iy_P N (d + 1) 342 [ix_R (some m)] (hw h F A) = some (.inl none, hw h F' A') ∧ mQ [52] [30, 31] m F A F' A' ∧ mF F' A' m l := by
  obtain ⟨N, rfl⟩ : ∃ z, N = z + 1 := ⟨N - 1, by omega⟩
  rw [rX9_keepsFirst (N + 1) d]
  unfold bX9_keepsFirst
  rw [mp_is hS, mp_is hS, hw_bdF, hw_fI, hA.1, ← lX9_keepsFirst_6]
  obtain ⟨A', e, q, b⟩ := m_keepsFirst_l hS (ix_run iy_P (N + 1) d) (hw_R F m (hw_U (F m) 52 (nI l.length))) hl (by rw [hw_R_same, hw_U_ne _ _ (by omega)]; exact hA.1) (N + 1 + 1) 0 A (Nat.zero_le _) (by omega) hA.2 (by rw [List.take_zero]; exact kv_in_nil _ _)
  exact ⟨_, A', e, ((mQ.refl [52] [30, 31] m F A).fR rfl).trans (q.mono rfl rfl), by rw [hw_R_same, hw_U_same], b⟩
theorem m_isAsFirst_l (hS : mSh h m) (F A : Nat → Nat → Int32) (cal : ix_C) {l l' : KV} (hl : l.length ≤ 199) (e : l.length = l'.length) (hA : mA F A m l) (hF : mF F A m l') : ∀ z i, i ≤ l.length → l.length - i < z → (∀ k, k < i → A (m + 27) k = A (m + 30) k ∧ A (m + 28) k = A (m + 31) k) →
    ix_lp cal stX9_isAsFirst z 9 [(0, ix_R (some m)), (1, ix_I (nI i))] [] (hw h F A) = some (.inl (some (ix_I (if l = l' then nI 1 else nI 0))), hw h F A) := by
  intro z
  induction z with
  | zero => intro i _ h; omega
  | succ z ih =>
    intro i hi hz hp
    have hq := kv_in_eq hA.2 hF.2 e
    rw [lX9_isAsFirst_9]
    unfold jX9_isAsFirst_9 jX9_isAsFirst_32
    rw [mp_is hS, hw_fI, hA.1]
    rcases Nat.lt_or_ge i l.length with w | w
    · rw [if_neg (by rw [hw_le (by omega) (by omega)]; omega), mp_is hS, mp_rd46 hS, hw_in (by omega) (by omega), cond_true, mp_is hS, mp_rd50 hS, hw_in (by omega) (by omega), cond_true, hw_aI, hw_cl (by omega)]
      by_cases w1 : A (m + 27) i = A (m + 30) i
      · rw [if_pos w1, mp_is hS, mp_rd47 hS, hw_in (by omega) (by omega), cond_true, mp_is hS, mp_rd51 hS, hw_in (by omega) (by omega), cond_true]
        by_cases w2 : A (m + 28) i = A (m + 31) i
        · rw [if_pos w2, nI_add]
          refine ih (i + 1) w (by omega) (fun k hk => ?_)
          rcases Nat.lt_or_ge k i with x | x
          · exact hp k x
          · obtain rfl : k = i := by omega
            exact ⟨w1, w2⟩
        · rw [if_neg w2, if_neg (fun x => w2 (hq.mp x i w).2), hw_okn1_0, cond_true]
      · rw [if_neg w1, if_neg (fun x => w1 (hq.mp x i w).1), hw_okn1_0, cond_true]
    · obtain rfl : i = l.length := by omega
      rw [if_pos (show nI l.length ≤ nI l.length by rw [hw_le (by omega) (by omega)]; omega), if_pos (hq.mpr hp), hw_okn1_1, cond_true]
theorem m_isAsFirst (hS : mSh h m) (hN : 3000 ≤ N) (d : Nat) {l l' : KV} (hl : l.length ≤ 199) (hl' : l'.length ≤ 199) (hA : mA F A m l) (hF : mF F A m l') : ix_run iy_P N (d + 1) 343 [ix_R (some m)] (hw h F A) = some (.inl (some (ix_I (if l = l' then nI 1 else nI 0))), hw h F A) := by
  obtain ⟨N, rfl⟩ : ∃ z, N = z + 1 := ⟨N - 1, by omega⟩
  rw [rX9_isAsFirst (N + 1) d]
  unfold bX9_isAsFirst
  rw [mp_is hS, mp_is hS, hw_fI, hA.1, hF.1]
  by_cases e : l.length = l'.length
  · rw [if_pos (by rw [e]), ← lX9_isAsFirst_9]
    exact m_isAsFirst_l hS F A _ hl e hA hF (N + 1 + 1) 0 (Nat.zero_le _) (by omega) (fun k hk => by omega)
  · rw [if_neg (fun x => e ((nI_eq (a := l.length) (b := l'.length) (by omega) (by omega)).mp x)), if_neg (fun x => e (by rw [x])), hw_okn1_0, cond_true]
theorem a_pow2 : ∀ n, n < 9 → ((nI 1) <<< (nI n &&& 31)) = nI (2 ^ n) ∧ 2 ^ n ≤ 256 := by decide +kernel
theorem m_replay_l (hS : mSh h m) {S : zS} (hI : i_I S) (hN : 20000 ≤ N) (d : Nat) {a o n : Nat} (ha : a < 4) (ho : o < 4) (hn : n ≤ 8) (v4 : Int32) {nw : Nat → Int32} (h0 : mR nw S) : ∀ z w F A, w ≤ 2 ^ n → 2 ^ n - w < z → mR (A (m + 21)) S → (∀ j, j < 14100 → A (m + 29) j = nw j) → (0 < w → mF F A m (z_all (a_row S a o n (nI 0)))) →
    ∃ F' A', ix_lp (ix_run iy_P N (d + 13)) stX9_replay z 34 [(0, ix_R (some m)), (1, ix_I (nI a)), (2, ix_I (nI o)), (3, ix_I (nI n)), (4, ix_I v4), (5, ix_I (a_rp S a o n w).1), (6, ix_I (a_rp S a o n w).2.1), (7, ix_I (a_rp S a o n w).2.2.1), (8, ix_I (a_rp S a o n w).2.2.2), (9, ix_I (nI w))] [] (hw h F A) = some (.inl (some (ix_I (if v4 = nI 0 then (a_rp S a o n (2 ^ n)).1 else if v4 = nI 1 then (a_rp S a o n (2 ^ n)).2.1 else if v4 = nI 2 then (a_rp S a o n (2 ^ n)).2.2.1 else (a_rp S a o n (2 ^ n)).2.2.2))), hw h F' A') ∧ mQ mT mU m F A F' A' ∧ mQ (52 :: mX) [21, 22, 23, 24, 25, 26, 27, 28, 29, 30, 31] m F A F' A' ∧ mR (A' (m + 21)) S := by
  intro z
  induction z with
  | zero => intro w F A _ h; omega
  | succ z ih =>
    intro w F A hwn hz hR hK hF
    obtain ⟨p1, p2⟩ := a_pow2 n (by omega)
    rw [lX9_replay_34]
    unfold jX9_replay_34 jX9_replay_109 jX9_replay_50 jX9_replay_55 jX9_replay_83 jX9_replay_89
    rw [p1]
    rcases Nat.lt_or_ge w (2 ^ n) with w1 | w1
    · rw [if_neg (show ¬ nI (2 ^ n) ≤ nI w by rw [hw_le (by omega) (by omega)]; omega)]
      obtain ⟨F1, A1, e1, q1, r1, a1⟩ := m_rowDone (N := N) hS hI (by omega) d ha ho hn (nI w) (F := F) hR
      rw [mp_isr hS, hw_cV e1]
      have hT := hI.row ha ho n (nI w)
      have hT0 := hI.row ha ho n (nI 0)
      obtain ⟨rc, hrc⟩ := hT.R
      obtain ⟨rc0, hrc0⟩ := hT0.R
      have l1 : (z_all (a_row S a o n (nI w))).length ≤ 43 := by rw [hrc.all hT.W.2.2.1]; exact hrc.2.2.2.2
      have l0 : (z_all (a_row S a o n (nI 0))).length ≤ 43 := by rw [hrc0.all hT0.W.2.2.1]; exact hrc0.2.2.2.2
      -- from the row's end on
      have rest : ∀ F2 A2, mQ [52] [30, 31] m F1 A1 F2 A2 → mF F2 A2 m (z_all (a_row S a o n (nI 0))) → mA F2 A2 m (z_all (a_row S a o n (nI w))) → ∃ F' A', jX9_replay_50 (ix_run iy_P N (d + 13)) (ix_lp (ix_run iy_P N (d + 13)) stX9_replay z) m (nI a) (nI o) (nI n) v4 (a_rp S a o n w).1 (a_rp S a o n w).2.1 (a_rp S a o n w).2.2.1 (a_rp S a o n w).2.2.2 (nI w) (hw h F2 A2) = some (.inl (some (ix_I (if v4 = nI 0 then (a_rp S a o n (2 ^ n)).1 else if v4 = nI 1 then (a_rp S a o n (2 ^ n)).2.1 else if v4 = nI 2 then (a_rp S a o n (2 ^ n)).2.2.1 else (a_rp S a o n (2 ^ n)).2.2.2))), hw h F' A') ∧ mQ mT mU m F A F' A' ∧ mQ (52 :: mX) [21, 22, 23, 24, 25, 26, 27, 28, 29, 30, 31] m F A F' A' ∧ mR (A' (m + 21)) S := fun F2 A2 q2 f2 a2 => by
        have r2 : mR (A2 (m + 21)) (a_row S a o n (nI w)) := by rw [q2.2.2.1 21 rfl]; exact r1
        have q12 : mQ (52 :: mX) [21, 22, 23, 24, 25, 26, 27, 28, 29, 30, 31] m F A F2 A2 := (q1.mono rfl rfl).trans (q2.mono rfl rfl)
        have K2 : ∀ j, j < 14100 → A2 (m + 29) j = nw j := fun j hj => by rw [q2.2.2.1 29 rfl, q1.2.2.1 29 rfl]; exact hK j hj
        obtain ⟨A3, e3, q3, b3, c3⟩ := m_givesBack (F := F2) (A := A2) hS hN (d + 12)
        have r3 : mR (A3 (m + 21)) S := mR_back h0 r2 (z_gr_row S a o n (nI w)) (by have := hI.sz; omega) hI.sz.2.2 (fun j hj => by rw [b3 j hj, K2 j hj]) (fun j hj => c3 j hj)
        have K3 : ∀ j, j < 14100 → A3 (m + 29) j = nw j := fun j hj => by rw [q3.2.2.1 29 rfl]; exact K2 j hj
        have f3 : mF F2 A3 m (z_all (a_row S a o n (nI 0))) := ⟨f2.1, by rw [q3.2.2.1 30 rfl, q3.2.2.1 31 rfl]; exact f2.2⟩
        obtain ⟨F', A', e, q, q', r⟩ := ih (w + 1) F2 A3 w1 (by omega) r3 K3 (fun _ => f3)
        refine ⟨F', A', ?_, ((q12.mono rfl rfl).trans (q3.mono rfl rfl)).trans q, (q12.trans (q3.mono rfl rfl)).trans q', r⟩
        rw [← e]
        unfold jX9_replay_50 jX9_replay_55 jX9_replay_83 jX9_replay_89
        have z3 : A2 (m + 21) 3 = z_lost (a_row S a o n (nI w)) := by rw [z_lost_eq]; exact r2.1.2.2.2.1
        have z3' : A2 (m + 29) 3 = z_lost S := by rw [K2 3 (by omega), z_lost_eq]; exact h0.1.2.2.2.1
        have z0 : A2 (m + 21) 0 = nI (zn (a_row S a o n (nI w))) := r2.1.1
        have z0' : A2 (m + 29) 0 = nI (zn S) := by rw [K2 0 (by omega)]; exact h0.1.1
        have d1 : (a_rp S a o n (w + 1)).1 = if z_all (a_row S a o n (nI w)) = z_all (a_row S a o n (nI 0)) then (a_rp S a o n w).1 + nI 1 else (a_rp S a o n w).1 := rfl
        have d2 : (a_rp S a o n (w + 1)).2.1 = if z_lost (a_row S a o n (nI w)) - z_lost S ≤ (a_rp S a o n w).2.1 then (a_rp S a o n w).2.1 else z_lost (a_row S a o n (nI w)) - z_lost S := rfl
        have d3 : (a_rp S a o n (w + 1)).2.2.1 = if z_lost (a_row S a o n (nI w)) - z_lost S ≤ (a_rp S a o n w).2.1 then (a_rp S a o n w).2.2.1 else nI w := rfl
        have d4 : (a_rp S a o n (w + 1)).2.2.2 = if (a_rp S a o n w).2.2.2 ≤ nI (zn (a_row S a o n (nI w))) - nI (zn S) then (a_rp S a o n w).2.2.2 else nI (zn (a_row S a o n (nI w))) - nI (zn S) := rfl
        rw [d1, d2, d3, d4, mp_isr hS, hw_cI (m_isAsFirst hS (by omega) (d + 12) (by omega) (by omega) a2 f2)]
        dsimp only
        rw [a_if0]
        by_cases x0 : z_all (a_row S a o n (nI w)) = z_all (a_row S a o n (nI 0))
        · simp only [if_pos x0]
          simp only [mp_is hS, mp_isr hS, mp_rd35 hS, mp_rd49 hS, hw_in (show 3 < 137300 by omega) (by omega), hw_in (show 0 < 137300 by omega) (by omega), hw_in (show 3 < 14100 by omega) (by omega), hw_in (show 0 < 14100 by omega) (by omega), cond_true, hw_aI, hw_cl (show 3 < 2147483648 by omega), hw_cl (show 0 < 2147483648 by omega), z3, z3', z0, z0', hw_cV e3, nI_add]
          by_cases x1 : z_lost (a_row S a o n (nI w)) - z_lost S ≤ (a_rp S a o n w).2.1
          · rw [if_pos x1, if_pos x1, if_pos x1]
            by_cases x2 : (a_rp S a o n w).2.2.2 ≤ nI (zn (a_row S a o n (nI w))) - nI (zn S)
            · rw [if_pos x2, if_pos x2]
            · rw [if_neg x2, if_neg x2]
          · rw [if_neg x1, if_neg x1, if_neg x1]
            by_cases x2 : (a_rp S a o n w).2.2.2 ≤ nI (zn (a_row S a o n (nI w))) - nI (zn S)
            · rw [if_pos x2, if_pos x2]
            · rw [if_neg x2, if_neg x2]
        · simp only [if_neg x0]
          simp only [mp_is hS, mp_isr hS, mp_rd35 hS, mp_rd49 hS, hw_in (show 3 < 137300 by omega) (by omega), hw_in (show 0 < 137300 by omega) (by omega), hw_in (show 3 < 14100 by omega) (by omega), hw_in (show 0 < 14100 by omega) (by omega), cond_true, hw_aI, hw_cl (show 3 < 2147483648 by omega), hw_cl (show 0 < 2147483648 by omega), z3, z3', z0, z0', hw_cV e3, nI_add]
          by_cases x1 : z_lost (a_row S a o n (nI w)) - z_lost S ≤ (a_rp S a o n w).2.1
          · rw [if_pos x1, if_pos x1, if_pos x1]
            by_cases x2 : (a_rp S a o n w).2.2.2 ≤ nI (zn (a_row S a o n (nI w))) - nI (zn S)
            · rw [if_pos x2, if_pos x2]
            · rw [if_neg x2, if_neg x2]
          · rw [if_neg x1, if_neg x1, if_neg x1]
            by_cases x2 : (a_rp S a o n w).2.2.2 ≤ nI (zn (a_row S a o n (nI w))) - nI (zn S)
            · rw [if_pos x2, if_pos x2]
            · rw [if_neg x2, if_neg x2]
      by_cases w0 : nI w = nI 0
      · have ew : w = 0 := (nI_eq (a := w) (b := 0) (by omega) (by omega)).mp w0
        rw [if_pos w0]
        obtain ⟨F2, A2, e2, q2, f2⟩ := m_keepsFirst (N := N) hS (by omega) (d + 12) (by omega) a1
        rw [mp_isr hS, hw_cV e2]
        have a2 : mA F2 A2 m (z_all (a_row S a o n (nI w))) := ⟨by rw [q2.2.1 48 rfl]; exact a1.1, by rw [q2.2.2.1 27 rfl, q2.2.2.1 28 rfl]; exact a1.2⟩
        exact rest F2 A2 q2 (by rw [← w0]; exact f2) a2
      · rw [if_neg w0]
        have hw0 : 0 < w := by
          rcases Nat.eq_zero_or_pos w with e | e
          · exact absurd (by rw [e]) w0
          · exact e
        have f1 := hF hw0
        exact rest F1 A1 (mQ.refl _ _ _ _ _) ⟨by rw [q1.2.1 52 rfl]; exact f1.1, by rw [q1.2.2.1 30 rfl, q1.2.2.1 31 rfl]; exact f1.2⟩ a1
    · obtain rfl : w = 2 ^ n := by omega
      rw [if_pos (show nI (2 ^ n) ≤ nI (2 ^ n) by rw [hw_le (by omega) (by omega)]; omega)]
      refine ⟨F, A, ?_, mQ.refl _ _ _ _ _, mQ.refl _ _ _ _ _, hR⟩
      by_cases x0 : v4 = nI 0
      · rw [if_pos x0, if_pos x0]
      rw [if_neg x0, if_neg x0]
      by_cases x1 : v4 = nI 1
      · rw [if_pos x1, if_pos x1]
      rw [if_neg x1, if_neg x1]
      by_cases x2 : v4 = nI 2
      · rw [if_pos x2, if_pos x2]
      rw [if_neg x2, if_neg x2]
theorem m_replay (hS : mSh h m) (hN : 20000 ≤ N) (d : Nat) (hI : x_I X) (hX : mX' F A m X) (a o n w : Int32) : mDoX h m F A (a_replay X.1 a o n w, X) (ix_run iy_P N (d + 14) 339 [ix_R (some m), ix_I a, ix_I o, ix_I n, ix_I w] (hw h F A)) := by
  obtain ⟨N, rfl⟩ : ∃ z, N = z + 1 := ⟨N - 1, by omega⟩
  rw [rX9_replay (N + 1) (d + 13)]
  unfold bX9_replay jX9_replay_19 a_replay
  have no : mDoX h m F A (-1, X) (some (.inl (some (ix_I (-1 : Int32))), hw h F A)) := ⟨F, A, rfl, mQ.refl _ _ _ _ _, hX⟩
  rw [hw_cI (m_isHand _ (N + 1) (d + 11) a)]
  dsimp only
  rw [a_if0]
  by_cases wa : a_hnd a
  · rw [if_pos wa, hw_cI (m_isHand _ (N + 1) (d + 11) o)]
    dsimp only
    rw [a_if0]
    by_cases wo : a_hnd o
    · rw [if_pos wo]
      by_cases ne : a = o
      · rw [if_pos ne, if_neg (fun x => x.2.2.1 ne)]
        exact no
      · rw [if_neg ne, hw_cI (m_in _ (N + 1) (d + 12) _ _ _)]
        dsimp only
        rw [a_if0]
        by_cases wn : a_in n (nI 0) (nI 8)
        · rw [if_pos wn, hw_cI (m_in _ (N + 1) (d + 12) _ _ _)]
          dsimp only
          rw [a_if0]
          by_cases ww : a_in w (nI 0) (nI 3)
          · rw [if_pos ww, if_pos ⟨wa, wo, ne, wn, ww⟩, mp_isr hS]
            obtain ⟨a, ha, rfl⟩ := a_hnd_nat wa
            obtain ⟨o, ho, rfl⟩ := a_hnd_nat wo
            have wn' := wn
            rw [show nI 8 = nI 9 - nI 1 by decide] at wn'
            obtain ⟨n, hn, rfl⟩ := a_in_nat (by omega) wn'
            obtain ⟨A1, e1, q1, k1⟩ := m_keeps (F := F) (A := A) hS hN (d + 12)
            rw [hw_cV e1, hw_cl (by omega), hw_cl (by omega), hw_cl (by omega), ← lX9_replay_34]
            obtain ⟨F', A', e, q, q', r⟩ := m_replay_l hS hI.1 hN d ha ho (n := n) (by omega) w hX.1 (N + 1 + 1) 0 F A1 (Nat.zero_le _) (by have := (a_pow2 n (by omega)).2; omega) (by rw [q1.2.2.1 21 rfl]; exact hX.1) k1 (fun x => absurd x (by omega))
            refine ⟨F', A', e, (q1.mono rfl rfl).trans q, ?_⟩
            have q2 := (q1.mono (X' := 52 :: mX) (Y' := [21, 22, 23, 24, 25, 26, 27, 28, 29, 30, 31]) rfl rfl).trans q'
            obtain ⟨x1, x2, x3, x4, x5, x6⟩ := hX
            exact ⟨r, fun i hi => by rw [q2.2.2.1 32 rfl]; exact x2 i hi, fun i T hi hT => by rw [q2.2.2.1 33 rfl]; exact x3 i T hi hT, by rw [q2.2.1 2 rfl]; exact x4, fun k hk => by rw [q2.2.2.1 1 rfl]; exact x5 k hk, by rw [q2.2.1 17 rfl]; exact x6⟩
          · rw [if_neg ww, if_neg (fun x => ww x.2.2.2.2)]
            exact no
        · rw [if_neg wn, if_neg (fun x => wn x.2.2.2.1)]
          exact no
    · rw [if_neg wo, if_neg (fun x => wo x.2.1)]
      exact no
  · rw [if_neg wa, if_neg (fun x => wa x.1)]
    exact no
end
