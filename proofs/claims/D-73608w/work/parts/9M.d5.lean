/-! D5: the component: rows replayed -/
set_option maxRecDepth 100000
/-- the state, and T in the trial store -/
def dTr (h : ix_H) (F A : Nat → Nat → Int32) (D : Nat → Nat) (L : Nat → Nat → Nat) (ns : Nat → Nat) (Z : Nat × Nat) (X : xS) (T : zS) : Prop := dG h D L ns Z ∧ dC F A D L ns X ∧ cV1 F A (L 1) T ∧ zn T ≤ ns 1
/-- own cells stay -/
def dOw (D : Nat → Nat) (F A F' A' : Nat → Nat → Int32) : Prop := ∀ j, j < 19 → F' (D j) = F (D j) ∧ A' (D j) = A (D j)
theorem dOw.trans {D : Nat → Nat} {F A F1 A1 F2 A2 : Nat → Nat → Int32} (q1 : dOw D F A F1 A1) (q2 : dOw D F1 A1 F2 A2) : dOw D F A F2 A2 := fun j hj => ⟨(q2 j hj).1.trans (q1 j hj).1, (q2 j hj).2.trans (q1 j hj).2⟩
section
variable {h : ix_H} {F A : Nat → Nat → Int32} {D : Nat → Nat} {L : Nat → Nat → Nat} {ns : Nat → Nat} {Z : Nat × Nat} {X : xS} {N : Nat} {S T : zS}
theorem dG.tri (g : dG h D L ns Z) (hc : dC F A D L ns X) {T' : zS} {r : Option ix_V} {o : ix_O} (po : cPo1 h F A (L 1) (ns 1) T' r o) : ∃ h' F' A' L' ns', o = some (.inl r, hw h' F' A') ∧ dTr h' F' A' D L' ns' Z X T' ∧ dOw D F A F' A' ∧ dFr h F A D L ns h' F' A' L' ns' := by
  obtain ⟨h', F', A', M, mr, e, hs, hn, ex, hV⟩ := po
  obtain ⟨g', cD, co, fr⟩ := g.sto (i := 1) (by omega) ex hs
  obtain ⟨⟨v1, v2, v3, v4, v5⟩, ⟨c1, c2⟩, c3⟩ := hc
  refine ⟨h', F', A', _, _, e, ⟨g', ⟨⟨by rw [(cD 0 (by omega)).1]; exact v1, by rw [(cD 0 (by omega)).1]; exact v2, by rw [(cD 2 (by omega)).1]; exact v3, fun k hk => by rw [(cD 14 (by omega)).2]; exact v4 k hk, fun i hi => by rw [(cD 8 (by omega)).2]; exact v5 i hi⟩, ?_, fun i T2 hi hT => ?_⟩, by rw [d_up_same]; exact hV, by rw [d_up_same]; exact hn⟩, cD, fr⟩
  · rw [d_up_ne _ _ (show 0 ≠ 1 by omega), d_up_ne _ _ (show 0 ≠ 1 by omega)]
    exact ⟨co 0 X.1 (by omega) (by omega) c2 c1, c2⟩
  · rw [d_up_ne _ _ (show 2 + i ≠ 1 by omega), d_up_ne _ _ (show 2 + i ≠ 1 by omega)]
    exact ⟨co (2 + i) T2 (by omega) (by omega) (c3 i T2 hi hT).2 (c3 i T2 hi hT).1, (c3 i T2 hi hT).2⟩
theorem d_tri (g : dG h D L ns Z) (F A : Nat → Nat → Int32) (f : Nat → ix_O) : (ix_isr (hw h F A) 5 (ix_fR (hw h F A) (D 0) 6)).bind f = f (L 1 0) := by
  rw [hw_fR, g.1.2.1.2.2.2.2.1]
  exact st_isr (g.2.1 1 (by omega)) F A f
theorem d_triw (g : dG h D L ns Z) (F A : Nat → Nat → Int32) (f : Nat → ix_O) : (ix_is (hw h F A) 5 (ix_fR (hw h F A) (D 0) 6)).bind f = f (L 1 0) := by
  rw [hw_fR, g.1.2.1.2.2.2.2.1]
  exact st_is (g.2.1 1 (by omega)) F A f
theorem d_replays_l (hI : i_I S) (hN : 3000 ≤ N) (d : Nat) {a o n : Nat} (ha : a < 4) (ho : o < 4) (hn : n ≤ 8) (w : Int32) : ∀ j z k h F A L ns, k + j = n → j + 1 < z → dTr h F A D L ns Z X (z_bits S a o w k) →
    ∃ h' F' A' L' ns', ix_lp (ix_run iy_P N (d + 12)) stX0_replays z 7 [(0, ix_R (some (D 0))), (1, ix_I (nI a)), (2, ix_I (nI o)), (3, ix_I (nI n)), (4, ix_I w), (5, ix_I (nI k))] [] (hw h F A) = some (.inl none, hw h' F' A') ∧ dTr h' F' A' D L' ns' Z X (a_row S a o n w) ∧ dOw D F A F' A' ∧ dFr h F A D L ns h' F' A' L' ns' := by
  intro j
  induction j with
  | zero =>
    intro z k h F A L ns hk hz ht
    obtain rfl : k = n := by omega
    obtain ⟨z, rfl⟩ : ∃ q, z = q + 1 := ⟨z - 1, by omega⟩
    obtain ⟨g, hc, hV, hn'⟩ := ht
    rw [lX0_replays_7]
    unfold jX0_replays_7
    have hB := hI.bits ha ho w k
    obtain ⟨h1, F1, A1, L1, n1, e1, t1, o1, f1⟩ := g.tri hc (c_closes ha (i_ckp ha) hN d hB (g.2.1 1 (by omega)) hn' hV)
    obtain ⟨h2, F2, A2, L2, n2, e2, t2, o2, f2⟩ := t1.1.tri t1.2.1 (c_closes ho (i_ckp ho) hN d (i_I.close ha 200 hB) (t1.1.2.1 1 (by omega)) t1.2.2.2 t1.2.2.1)
    rw [if_pos (show nI k ≤ nI k by rw [hw_le (by omega) (by omega)]; omega), d_is g, d_tri g, hw_cI e1]
    dsimp only
    rw [d_is t1.1, d_tri t1.1, hw_cI e2]
    exact ⟨h2, F2, A2, L2, n2, rfl, t2, o1.trans o2, f1.trans f2⟩
  | succ j ih =>
    intro z k h F A L ns hk hz ht
    obtain ⟨z, rfl⟩ : ∃ q, z = q + 1 := ⟨z - 1, by omega⟩
    obtain ⟨g, hc, hV, hn'⟩ := ht
    rw [lX0_replays_7]
    unfold jX0_replays_7 jX0_replays_22
    have hB := hI.bits ha ho w k
    have stp : ∀ c, c < 4 → (z_bits S a o w (k + 1) = z_step (z_bits S a o w k) c) → ∃ h' F' A' L' ns', ((ix_isr (hw h F A) 5 (ix_fR (hw h F A) (D 0) 6)).bind fun a13 => (ix_rI (ix_run iy_P N (d + 12) 180 [ix_R (some a13), ix_I (nI c)] (hw h F A))).bind fun r12 => ix_lp (ix_run iy_P N (d + 12)) stX0_replays z 7 [(0, ix_R (some (D 0))), (1, ix_I (nI a)), (2, ix_I (nI o)), (3, ix_I (nI n)), (4, ix_I w), (5, ix_I (nI k + nI 1))] [] r12.2) = some (.inl none, hw h' F' A') ∧ dTr h' F' A' D L' ns' Z X (a_row S a o n w) ∧ dOw D F A F' A' ∧ dFr h F A D L ns h' F' A' L' ns' := fun c hc' e => by
      have po : cPo1 h F A (L 1) (ns 1) (z_step (z_bits S a o w k) c) (some (ix_I (if zh (z_bits S a o w k) c 1 = nI 0 then -1 else zh (z_step (z_bits S a o w k) c) c 1))) (ix_run iy_P N (d + 12) 180 [ix_R (some (L 1 0)), ix_I (nI c)] (hw h F A)) := by
        by_cases w0 : zh (z_bits S a o w k) c 1 = nI 0
        · exact c_steps (rc := []) (g.2.1 1 (by omega)) hn' hc' hV (fun x => absurd w0 x) (by omega) (d + 1)
        · obtain ⟨rc, -, hcn⟩ := hB.can hc' w0
          exact c_steps (rc := rc) (g.2.1 1 (by omega)) hn' hc' hV (fun _ => hcn) (by omega) (d + 1)
      obtain ⟨h1, F1, A1, L1, n1, e1, t1, o1, f1⟩ := g.tri hc po
      rw [d_tri g, hw_cI e1]
      dsimp only
      rw [nI_add]
      obtain ⟨h2, F2, A2, L2, n2, e2, t2, o2, f2⟩ := ih z (k + 1) h1 F1 A1 L1 n1 (by omega) (by omega) (by rw [e]; exact t1)
      exact ⟨h2, F2, A2, L2, n2, e2, t2, o1.trans o2, f1.trans f2⟩
    rw [if_neg (show ¬ nI n ≤ nI k by rw [hw_le (by omega) (by omega)]; omega), d_is g]
    by_cases wc : (w >>> (nI k &&& 31)) &&& nI 1 = nI 0
    · rw [if_pos wc]
      exact stp a ha (by show z_step _ (if _ then _ else _) = _; rw [if_pos wc])
    · rw [if_neg wc]
      exact stp o ho (by show z_step _ (if _ then _ else _) = _; rw [if_neg wc])
theorem d_replays (g : dG h D L ns Z) (hI : i_I X.1) (hc : dC F A D L ns X) (hN : 3000 ≤ N) (d : Nat) {a o n : Nat} (ha : a < 4) (ho : o < 4) (hn : n ≤ 8) (w : Int32) :
    ∃ h' F' A' L' ns', ix_run iy_P N (d + 13) 109 [ix_R (some (D 0)), ix_I (nI a), ix_I (nI o), ix_I (nI n), ix_I w] (hw h F A) = some (.inl none, hw h' F' A') ∧ dTr h' F' A' D L' ns' Z X (a_row X.1 a o n w) ∧ dOw D F A F' A' ∧ dFr h F A D L ns h' F' A' L' ns' := by
  obtain ⟨N, rfl⟩ : ∃ z, N = z + 1 := ⟨N - 1, by omega⟩
  have hsz := hI.sz
  have hz := g.2.2.2.2
  rw [rX0_replays (N + 1) (d + 12)]
  unfold bX0_replays
  have po := c_becomes (S := X.1) (g.2.1 1 (by omega)) (g.2.1 0 (by omega)) (g.2.2.1 1 0 (by omega) (by omega) (by omega)) (fun r hr => Nat.le_trans (hI.items r hr) (by omega)) hsz.2.2 hc.2.1.2 hc.2.1.1 (by omega) hN (d + 9)
  obtain ⟨h1, F1, A1, L1, n1, e1, t1, o1, f1⟩ := g.tri hc po
  have e2 : ix_fR (hw h F A) (D 0) 5 = some (L 0 0) := g.1.2.1.2.2.2.1
  rw [d_is g, d_is g, d_tri g, e2, hw_cV e1, ← lX0_replays_7]
  obtain ⟨h2, F2, A2, L2, n2, e3, t2, o2, f2⟩ := d_replays_l hI hN d ha ho hn w n (N + 1 + 1) 0 h1 F1 A1 L1 n1 (by omega) (by omega) t1
  exact ⟨h2, F2, A2, L2, n2, e3, t2, o1.trans o2, f1.trans f2⟩
/-- what laying out the trial store's keys changes -/
def dSt (D : Nat → Nat) (L : Nat → Nat) (F A F' A' : Nat → Nat → Int32) : Prop :=
  (∀ b, b ≠ L 15 → F' b = F b) ∧ ∀ b, b ≠ L 4 → b ≠ L 16 → b ≠ L 17 → b ≠ D 9 → b ≠ D 10 → b ≠ D 11 → b ≠ D 12 → A' b = A b
theorem dSt.tr (t : dTr h F A D L ns Z X T) {F' A' : Nat → Nat → Int32} (q : dSt D (L 1) F A F' A') : dTr h F' A' D L ns Z X T := by
  obtain ⟨g, ⟨⟨v1, v2, v3, v4, v5⟩, ⟨c1, c2⟩, c3⟩, hV, hn⟩ := t
  have hs := g.2.1 1 (by omega)
  have fD : ∀ j, j < 19 → F' (D j) = F (D j) := fun j hj => q.1 _ (g.own (by omega) hj 15)
  have aD : ∀ j, j < 19 → j ≠ 9 → j ≠ 10 → j ≠ 11 → j ≠ 12 → A' (D j) = A (D j) := fun j hj a b c d => q.2 _ (g.own (by omega) hj 4) (g.own (by omega) hj 16) (g.own (by omega) hj 17) (g.Dne hj (by omega) a) (g.Dne hj (by omega) b) (g.Dne hj (by omega) c) (g.Dne hj (by omega) d)
  have oth : ∀ i T2, i < 5 → i ≠ 1 → zn T2 ≤ ns i → cV1 F A (L i) T2 → cV1 F' A' (L i) T2 := fun i T2 hi hi1 hn2 hv => by
    have ap := g.2.2.1 1 i (by omega) hi (fun e => hi1 e.symm)
    exact cV1.cells hn2 (fun j hj _ _ _ => q.1 _ (ap 15 j (by omega) hj)) (fun j hj _ => q.2 _ (ap 4 j (by omega) hj) (ap 16 j (by omega) hj) (ap 17 j (by omega) hj) (g.own hi (by omega) j).symm (g.own hi (by omega) j).symm (g.own hi (by omega) j).symm (g.own hi (by omega) j).symm) hv
  refine ⟨g, ⟨⟨by rw [fD 0 (by omega)]; exact v1, by rw [fD 0 (by omega)]; exact v2, by rw [fD 2 (by omega)]; exact v3, fun k hk => by rw [aD 14 (by omega) (by omega) (by omega) (by omega) (by omega)]; exact v4 k hk, fun i hi => by rw [aD 8 (by omega) (by omega) (by omega) (by omega) (by omega)]; exact v5 i hi⟩, ⟨oth 0 X.1 (by omega) (by omega) c2 c1, c2⟩, fun i T2 hi hT => ⟨oth (2 + i) T2 (by omega) (by omega) (c3 i T2 hi hT).2 (c3 i T2 hi hT).1, (c3 i T2 hi hT).2⟩⟩, ?_, hn⟩
  exact cV1.cells hn (fun j _ _ _ n15 => q.1 _ (hs.ne n15)) (fun j _ hj => q.2 _ (hs.ne (by omega)) (hs.ne (by omega)) (hs.ne (by omega)) (g.own (by omega) (by omega) j).symm (g.own (by omega) (by omega) j).symm (g.own (by omega) (by omega) j).symm (g.own (by omega) (by omega) j).symm) hV
theorem dSt.fr (g : dG h D L ns Z) {F' A' : Nat → Nat → Int32} (q : dSt D (L 1) F A F' A') : dFr h F A D L ns h F' A' L ns :=
  dFr.own g fun b hD hL => ⟨q.1 b (hL 1 15 (by omega) (by omega)), q.2 b (hL 1 4 (by omega) (by omega)) (hL 1 16 (by omega) (by omega)) (hL 1 17 (by omega) (by omega)) (hD 9 (by omega)) (hD 10 (by omega)) (hD 11 (by omega)) (hD 12 (by omega))⟩
theorem d_fk (g : dG h D L ns Z) (F A : Nat → Nat → Int32) (i : Int32) (f : Nat → ix_O) : (ix_atr (hw h F A) 101 (ix_fR (hw h F A) (D 0) 12) i).bind f = cond (ix_in i 1000) (f (D 11)) none := by
  rw [hw_fR, g.1.2.1.2.2.2.2.2.2.2.2.2.2.1]
  exact c_atr (g.1.1.2.2.2.2.2.2.2.1 11 (by omega) (by omega)).1 (by decide) (g.1.1.2.2.2.2.2.2.2.1 11 (by omega) (by omega)).2 F A i f
theorem d_fw (g : dG h D L ns Z) (F A : Nat → Nat → Int32) (i : Int32) (f : Nat → ix_O) : (ix_atr (hw h F A) 101 (ix_fR (hw h F A) (D 0) 13) i).bind f = cond (ix_in i 1000) (f (D 12)) none := by
  rw [hw_fR, g.1.2.1.2.2.2.2.2.2.2.2.2.2.2]
  exact c_atr (g.1.1.2.2.2.2.2.2.2.1 12 (by omega) (by omega)).1 (by decide) (g.1.1.2.2.2.2.2.2.2.1 12 (by omega) (by omega)).2 F A i f
/-- the trial store's keys laid into two of the component's rows -/
theorem d_allT (t : dTr h F A D L ns Z X T) (hI : i_I T) (hN : 3000 ≤ N) (d : Nat) {j : Nat} (hj : j = 9 ∨ j = 11) : ∃ F' A', ix_run iy_P N (d + 6) 203 [ix_R (some (L 1 0)), ix_R (some (D j)), ix_R (some (D (j + 1)))] (hw h F A) = some (.inl (some (ix_I (nI (z_all T).length))), hw h F' A') ∧ dSt D (L 1) F A F' A' ∧ kv_in (A' (D j)) (A' (D (j + 1))) (z_all T) ∧ (z_all T).length ≤ 43 ∧ ∀ i, i < 19 → i ≠ j → i ≠ j + 1 → A' (D i) = A (D i) := by
  obtain ⟨g, hc, hV, hn⟩ := t
  obtain ⟨rc, hrc⟩ := hI.R
  have t1 := g.1.1.2.2.2.2.2.2.2.1 j (by omega) (by omega)
  have t2 := g.1.1.2.2.2.2.2.2.2.1 (j + 1) (by omega) (by omega)
  obtain ⟨F', A', e, q, k⟩ := c_all (g.2.1 1 (by omega)) hI.W hrc hn (g.own (by omega) (show j < 19 by omega)) (g.own (by omega) (show j + 1 < 19 by omega)) (g.Dne (by omega) (by omega) (by omega)) t1 t2 (N := N) (by omega) d hV.1
  refine ⟨F', A', e, ⟨fun b hb => q.1 b hb, fun b b4 b16 b17 b9 b10 b11 b12 => q.2 b ?_ ?_ b4 b16 b17⟩, k, by rw [hrc.all hI.W.2.2.1]; exact hrc.2.2.2.2, fun i hi h1 h2 => q.2 _ (g.Dne hi (by omega) h1) (g.Dne hi (by omega) h2) (g.own (by omega) hi 4) (g.own (by omega) hi 16) (g.own (by omega) hi 17)⟩
  · rcases hj with e | e <;> rw [e]
    · exact b9
    · exact b11
  · rcases hj with e | e <;> rw [e]
    · exact b10
    · exact b12
theorem d_isAs_l (g : dG h D L ns Z) (F A : Nat → Nat → Int32) (cal : ix_C) {l l' : KV} (hl : l.length ≤ 900) (e : l.length = l'.length) (hA : kv_in (A (D 9)) (A (D 10)) l) (hF : kv_in (A (D 11)) (A (D 12)) l') : ∀ z i, i ≤ l.length → l.length - i + 1 < z → (∀ k, k < i → A (D 9) k = A (D 11) k ∧ A (D 10) k = A (D 12) k) →
    ix_lp cal stX0_isAsFirst z 18 [(0, ix_R (some (D 0))), (2, ix_I (nI l.length)), (3, ix_I (nI 1)), (4, ix_I (nI i))] [] (hw h F A) = some (.inl (some (ix_I (if l = l' then nI 1 else nI 0))), hw h F A) := by
  intro z
  induction z with
  | zero => intro i _ h; omega
  | succ z ih =>
    intro i hi hz hp
    have hq := kv_in_eq hA hF e
    obtain ⟨z', rfl⟩ : ∃ w, z = w + 1 := ⟨z - 1, by omega⟩
    rw [lX0_isAsFirst_18]
    unfold jX0_isAsFirst_18 jX0_isAsFirst_44 jX0_isAsFirst_46 jX0_isAsFirst_50
    have no : l ≠ l' → ix_lp cal stX0_isAsFirst (z' + 1) 18 [(0, ix_R (some (D 0))), (2, ix_I (nI l.length)), (3, ix_I (nI 0)), (4, ix_I (nI i + nI 1))] [] (hw h F A) = some (.inl (some (ix_I (if l = l' then nI 1 else nI 0))), hw h F A) := fun ne => by
      rw [if_neg ne, lX0_isAsFirst_18]
      unfold jX0_isAsFirst_18 jX0_isAsFirst_50
      split
      · rw [hw_okn1_0, cond_true]
      · rw [if_pos rfl, hw_okn1_0, cond_true]
    rcases Nat.lt_or_ge i l.length with w | w
    · rw [if_neg (show ¬ nI l.length ≤ nI i by rw [hw_le (by omega) (by omega)]; omega), if_neg (by decide), d_is g, d_key g, hw_in (by omega) (by omega), cond_true, d_is g, d_fk g, hw_in (by omega) (by omega), cond_true, hw_aI, hw_cl (by omega)]
      by_cases w1 : A (D 9) i = A (D 11) i
      · rw [if_pos w1, d_is g, d_wor g, hw_in (by omega) (by omega), cond_true, d_is g, d_fw g, hw_in (by omega) (by omega), cond_true]
        by_cases w2 : A (D 10) i = A (D 12) i
        · rw [if_pos w2, nI_add]
          refine ih (i + 1) w (by omega) (fun k hk => ?_)
          rcases Nat.lt_or_ge k i with x | x
          · exact hp k x
          · obtain rfl : k = i := by omega
            exact ⟨w1, w2⟩
        · rw [if_neg w2]
          exact no (fun x => w2 (hq.mp x i w).2)
      · rw [if_neg w1]
        exact no (fun x => w1 (hq.mp x i w).1)
    · obtain rfl : i = l.length := by omega
      rw [if_pos (show nI l.length ≤ nI l.length by rw [hw_le (by omega) (by omega)]; omega), hw_okn1_1, cond_true, if_pos (hq.mpr hp)]
theorem d_isAsFirst (t : dTr h F A D L ns Z X T) (hI : i_I T) (hN : 3000 ≤ N) (d : Nat) {l' : KV} (hl' : l'.length ≤ 900) (hF : kv_in (A (D 11)) (A (D 12)) l') : ∃ F' A', ix_run iy_P N (d + 7) 110 [ix_R (some (D 0)), ix_I (nI l'.length)] (hw h F A) = some (.inl (some (ix_I (if z_all T = l' then nI 1 else nI 0))), hw h F' A') ∧ dSt D (L 1) F A F' A' ∧ kv_in (A' (D 11)) (A' (D 12)) l' := by
  obtain ⟨N, rfl⟩ : ∃ z, N = z + 1 := ⟨N - 1, by omega⟩
  have g := t.1
  obtain ⟨F1, A1, e1, q1, k1, l1, u1⟩ := d_allT t hI hN d (Or.inl rfl)
  have f1 : kv_in (A1 (D 11)) (A1 (D 12)) l' := by rw [u1 11 (by omega) (by omega) (by omega), u1 12 (by omega) (by omega) (by omega)]; exact hF
  refine ⟨F1, A1, ?_, q1, f1⟩
  rw [rX0_isAsFirst (N + 1) (d + 6)]
  unfold bX0_isAsFirst jX0_isAsFirst_14
  rw [d_is g, d_is g, d_is g, d_tri g, hw_fR, g.1.2.1.2.2.2.2.2.2.2.2.1, g.1.2.1.2.2.2.2.2.2.2.2.2.1, hw_cI e1]
  dsimp only
  by_cases e : (z_all T).length = l'.length
  · rw [if_pos (by rw [e]), ← lX0_isAsFirst_18]
    exact d_isAs_l g F1 A1 _ (by omega) e k1 f1 (N + 1 + 1) 0 (Nat.zero_le _) (by omega) (fun k hk => by omega)
  · rw [if_neg (fun x => e ((nI_eq (a := (z_all T).length) (b := l'.length) (by omega) (by omega)).mp x)), if_neg (fun x => e (by rw [x]))]
    unfold jX0_isAsFirst_18 jX0_isAsFirst_50
    split
    · rw [hw_okn1_0, cond_true]
    · rw [if_pos rfl, hw_okn1_0, cond_true]
theorem i32_lost (t0 t1 t2 t3 s0 s1 : Int32) : (t0 + t1 - s0 - s1 = t0 + t1 + t2 + t3 - (s0 + s1 + t2 + t3)) ∧ (t0 + t1 - s0 - s1 = t1 + t0 - s1 - s0) ∧ (t0 + t1 - s0 - s1 = t0 + t2 + t1 + t3 - (s0 + t2 + s1 + t3)) ∧ (t0 + t1 - s0 - s1 = t0 + t2 + t3 + t1 - (s0 + t2 + t3 + s1)) ∧ (t0 + t1 - s0 - s1 = t2 + t0 + t1 + t3 - (t2 + s0 + s1 + t3)) ∧ (t0 + t1 - s0 - s1 = t2 + t0 + t3 + t1 - (t2 + s0 + t3 + s1)) ∧ (t0 + t1 - s0 - s1 = t2 + t3 + t0 + t1 - (t2 + t3 + s0 + s1)) := by
  refine ⟨?_, ?_, ?_, ?_, ?_, ?_, ?_⟩ <;> grind
end
