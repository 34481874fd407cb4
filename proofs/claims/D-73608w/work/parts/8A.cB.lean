/-! CB: the component: stages that make records: what is kept on the way -/
set_option maxRecDepth 100000
/-- a store's cells, but for hand k -/
def cVx (F A : Nat → Nat → Int32) (L : Nat → Nat) (S : zS) (k : Nat) : Prop :=
  (F (L 0) 3 = nI (zn S) ∧ F (L 0) 4 = nI (zp S) ∧ F (L 0) 5 = nI (ze S) ∧ F (L 0) 6 = nI (zc S) ∧ F (L 0) 7 = nI (zm S) ∧ F (L 0) 8 = nI (zl S)) ∧
  (∀ p, p < zp S → A (L 2) p = nI (zt S p)) ∧ cE' F A L S.1 (zn S) ∧ (∀ j, j < 4 → j ≠ k → cH0 F (L (5 + j)) S j)
theorem cV.x {F A : Nat → Nat → Int32} {L : Nat → Nat} {S : zS} (h : cV F A L S) (k : Nat) : cVx F A L S k := ⟨h.1, h.2.1, h.2.2.1, fun j hj _ => h.2.2.2 j hj⟩
theorem cVx.v {F A : Nat → Nat → Int32} {L : Nat → Nat} {S : zS} {k : Nat} (h : cVx F A L S k) (hk : cHd (F (L (5 + k))) (zh S k)) : cV F A L S := ⟨h.1, h.2.1, h.2.2.1, fun j hj => by
  by_cases w : j = k
  · rw [w]; exact hk
  · exact h.2.2.2 j hj w⟩
/-- numbers for any cell of a hand -/
theorem cHd_any (g : Nat → Int32) (h : g 15 = nI 0 ∨ g 15 = nI 1) : cHd g (fun f => match f with | 0 => g 0 | 1 => nI 4 | 2 => g 4 | 3 => g 11 | 4 => g 12 | 5 => g 13 | 6 => g 1 | 7 => g 2 | 8 => g 14 | 9 => g 15 | _ => nI 0) := by
  simp (decide := true) only [cHd, if_false, implies_true, and_self, h, false_implies]
theorem cVx.some {F A : Nat → Nat → Int32} {L : Nat → Nat} {S : zS} {k : Nat} (h : cVx F A L S k) (h15 : F (L (5 + k)) 15 = nI 0 ∨ F (L (5 + k)) 15 = nI 1) : ∃ S'' : zS, S''.1 = S.1 ∧ S''.2.1 = S.2.1 ∧ S''.2.2.2 = S.2.2.2 ∧ cV F A L S'' := by
  refine ⟨(S.1, S.2.1, hw_R S.2.2.1 k (fun f => match f with | 0 => F (L (5 + k)) 0 | 1 => nI 4 | 2 => F (L (5 + k)) 4 | 3 => F (L (5 + k)) 11 | 4 => F (L (5 + k)) 12 | 5 => F (L (5 + k)) 13 | 6 => F (L (5 + k)) 1 | 7 => F (L (5 + k)) 2 | 8 => F (L (5 + k)) 14 | 9 => F (L (5 + k)) 15 | _ => nI 0), S.2.2.2), rfl, rfl, rfl, ⟨h.1, h.2.1, h.2.2.1, fun j hj => ?_⟩⟩
  by_cases w : j = k
  · subst w
    show cHd _ (hw_R S.2.2.1 j _ j)
    rw [hw_R_same]
    exact cHd_any _ h15
  · show cHd _ (hw_R S.2.2.1 k _ j)
    rw [hw_R_ne _ _ w]
    exact h.2.2.2 j hj w
theorem z_W_same {S S' : zS} (e1 : S'.1 = S.1) (e2 : S'.2.1 = S.2.1) (e3 : S'.2.2.2 = S.2.2.2) (h : z_W S) : z_W S' := by
  unfold z_W zn zp zt at *
  rw [e1, e2, e3]
  exact h
/-- from a start (h F A L nr) the stage of hand k has come to (h1 F1 A1 L1 n1), which says S1 but for hand k -/
def cB (h : ix_H) (F A : Nat → Nat → Int32) (L : Nat → Nat) (nr : Nat) (h1 : ix_H) (F1 A1 : Nat → Nat → Int32) (L1 : Nat → Nat) (n1 : Nat) (S1 : zS) (k : Nat) : Prop :=
  cS h1 L1 n1 ∧ zn S1 ≤ n1 ∧ cEx h F A L nr h1 F1 A1 L1 n1 ∧ cVx F1 A1 L1 S1 k ∧ k < 4 ∧ ∀ j, j < 4 → F1 (L1 (5 + j)) 3 = F (L (5 + j)) 3
theorem cB_start {h : ix_H} {L : Nat → Nat} {nr : Nat} {S : zS} {k : Nat} {F A : Nat → Nat → Int32} (p : cPre h L nr S k F A) {F1 A1 : Nat → Nat → Int32} (q : cSc L F A F1 A1) : cB h F A L nr h F1 A1 L nr S k := by
  obtain ⟨hs, hW, hn, hk, hV⟩ := p
  refine ⟨hs, hn, cEx.refl hs (fun b hb hn => ⟨?_, ?_⟩), (hV.sc hs q).x k, hk, fun j hj => by rw [q.F hs (by omega)]⟩
  · exact q.1 b (hn _ (by omega)) (hn _ (by omega)) (hn _ (by omega))
  · exact q.2 b (hn _ (by omega)) (hn _ (by omega)) (hn _ (by omega)) (hn _ (by omega)) (hn _ (by omega)) (hn _ (by omega)) (hn _ (by omega))
theorem cB.tg {h h1 : ix_H} {F A F1 A1 : Nat → Nat → Int32} {L L1 : Nat → Nat} {nr n1 : Nat} {S1 : zS} {k : Nat} (b : cB h F A L nr h1 F1 A1 L1 n1 S1 k) : ix_tg h1 (L1 (5 + k)) = 7 := (b.1.2.2.1 k b.2.2.2.2.1).2
theorem cB.l {h h1 : ix_H} {F A F1 A1 : Nat → Nat → Int32} {L L1 : Nat → Nat} {nr n1 : Nat} {S1 : zS} {k : Nat} (b : cB h F A L nr h1 F1 A1 L1 n1 S1 k) {i : Nat} (hi : i < 18) : L1 i = L i := b.2.2.1.2.2.2.2.1 i (by omega)
/-- rows of the layout may change, if the picture stays -/
theorem cB_row {h h1 : ix_H} {F A F1 A1 : Nat → Nat → Int32} {L L1 : Nat → Nat} {nr n1 : Nat} {S1 S2 : zS} {k : Nat} (b : cB h F A L nr h1 F1 A1 L1 n1 S1 k) {F2 A2 : Nat → Nat → Int32} (hf : ∀ b, (∀ i, i < 18 + 3 * n1 → b ≠ L1 i) → F2 b = F1 b ∧ A2 b = A1 b) (hn : zn S2 ≤ n1) (hV : cVx F2 A2 L1 S2 k) (h3 : ∀ j, j < 4 → F2 (L1 (5 + j)) 3 = F1 (L1 (5 + j)) 3) : cB h F A L nr h1 F2 A2 L1 n1 S2 k :=
  ⟨b.1, hn, b.2.2.1.trans (cEx.refl b.1 (fun c _ hc => hf c hc)), hV, b.2.2.2.2.1, fun j hj => (h3 j hj).trans (b.2.2.2.2.2 j hj)⟩
/-- the hand's own cell -/
theorem cB_hand {h h1 : ix_H} {F A F1 A1 : Nat → Nat → Int32} {L L1 : Nat → Nat} {nr n1 : Nat} {S1 S2 : zS} {k : Nat} (b : cB h F A L nr h1 F1 A1 L1 n1 S1 k) {g : Nat → Int32} (h3 : g 3 = F1 (L1 (5 + k)) 3) (e1 : S2.1 = S1.1) (e2 : S2.2.1 = S1.2.1) (e3 : S2.2.2.2 = S1.2.2.2) (ej : ∀ j, j ≠ k → zh S2 j = zh S1 j) : cB h F A L nr h1 (hw_R F1 (L1 (5 + k)) g) A1 L1 n1 S2 k := by
  have hs := b.1
  have hk := b.2.2.2.2.1
  obtain ⟨v1, v2, v3, v4⟩ := b.2.2.2.1
  refine cB_row b (fun c hc => ⟨hw_R_ne _ _ (hc _ (by omega)), rfl⟩) (by unfold zn; rw [e3]; exact b.2.1) ⟨?_, fun p hp => ?_, ?_, fun j hj hjk => ?_⟩ (fun j hj => ?_)
  · rw [hw_R_ne _ _ (hs.ne (by omega))]
    unfold zn zp ze zc zm zl at v1 ⊢
    rw [e3]
    exact v1
  · have : zt S2 = zt S1 := by unfold zt; rw [e2]
    rw [this]
    exact v2 p (by unfold zp at hp ⊢; rw [e3] at hp; exact hp)
  · rw [e1]
    have : zn S2 = zn S1 := by unfold zn; rw [e3]
    rw [this]
    exact fun r hr => (v3 r hr).keep (hw_R_ne _ _ (hs.ne (by omega))) rfl rfl
  · unfold cH0
    rw [hw_R_ne _ _ (hs.ne (by omega)), ej j hjk]
    exact v4 j hj hjk
  · by_cases w : j = k
    · rw [w, hw_R_same]
      exact h3
    · rw [hw_R_ne _ _ (hs.ne (by omega))]
/-- a top -/
theorem cB_st {h h1 : ix_H} {F A F1 A1 : Nat → Nat → Int32} {L L1 : Nat → Nat} {nr n1 : Nat} {S1 : zS} {k : Nat} (b : cB h F A L nr h1 F1 A1 L1 n1 S1 k) (p r : Nat) : cB h F A L nr h1 F1 (hw_R A1 (L1 2) (hw_U (A1 (L1 2)) p (nI r))) L1 n1 (z_st S1 p r) k := by
  have hs := b.1
  obtain ⟨v1, v2, v3, v4⟩ := b.2.2.2.1
  refine cB_row b (fun c hc => ⟨rfl, hw_R_ne _ _ (hc _ (by omega))⟩) b.2.1 ⟨v1, fun q hq => ?_, fun r hr => (v3 r hr).keep rfl (hw_R_ne _ _ (hs.ne (by omega))) (hw_R_ne _ _ (hs.ne (by omega))), v4⟩ (fun _ _ => rfl)
  show hw_R A1 (L1 2) _ (L1 2) q = nI (ix_up S1.2.1 p r q)
  rw [hw_R_same, hw_U_at]
  unfold ix_up
  by_cases w : q = p
  · rw [if_pos w, if_pos w]
  · rw [if_neg w, if_neg w]
    exact v2 q hq
/-- a record goes out of use -/
theorem cB_mk {h h1 : ix_H} {F A F1 A1 : Nat → Nat → Int32} {L L1 : Nat → Nat} {nr n1 : Nat} {S1 : zS} {k : Nat} (b : cB h F A L nr h1 F1 A1 L1 n1 S1 k) {r : Nat} (hr : r < zn S1) : cB h F A L nr h1 (hw_R F1 (L1 (18 + 3 * r)) (hw_U (F1 (L1 (18 + 3 * r))) 10 (nI (ze S1)))) A1 L1 n1 (z_mk S1 [r]) k := by
  have hs := b.1
  have hn1 := b.2.1
  obtain ⟨v1, v2, v3, v4⟩ := b.2.2.2.1
  refine cB_row b (fun c hc => ⟨hw_R_ne _ _ (hc _ (by omega)), rfl⟩) b.2.1 ⟨by rw [hw_R_ne _ _ (hs.ne (by omega))]; exact v1, v2, fun q hq => ?_, fun j hj hjk => ?_⟩ (fun j hj => by rw [hw_R_ne _ _ (hs.ne (by omega))])
  · have hq' : q < zn S1 := hq
    obtain ⟨f2, f6, f7, f8, f10, f11, f11b, f9, ⟨⟨g3, gk⟩, g4, g5⟩⟩ := v3 q hq
    have em : ∀ f, f ≠ 4 → (z_mk S1 [r]).1.1 q f = S1.1.1 q f := fun f hf => z_mk_ne S1 [r] q hf
    have e4 : (z_mk S1 [r]).1.1 q 4 = if q = r then nI (ze S1) else S1.1.1 q 4 := by
      show (if 4 = 4 ∧ q ∈ [r] then nI (ze S1) else S1.1.1 q 4) = _
      by_cases w : q = r
      · rw [if_pos w, if_pos ⟨rfl, List.mem_singleton.mpr w⟩]
      · rw [if_neg w, if_neg (fun z => w (List.mem_singleton.mp z.2))]
    unfold cE cG cL
    rw [em 0 (by omega), em 1 (by omega), em 2 (by omega), em 3 (by omega), em 5 (by omega), em 7 (by omega), em 8 (by omega), em 9 (by omega), e4]
    by_cases w : q = r
    · subst w
      rw [hw_R_same, if_pos rfl]
      simp (disch := omega) only [hw_U_ne, hw_U_same]
      exact ⟨f2, f6, f7, f8, trivial, f11, f11b, f9, ⟨g3, gk⟩, g4, g5⟩
    · rw [hw_R_ne _ _ (hs.ne (by omega)), if_neg w]
      exact ⟨f2, f6, f7, f8, f10, f11, f11b, f9, ⟨g3, gk⟩, g4, g5⟩
  · unfold cH0
    rw [hw_R_ne _ _ (hs.ne (by omega))]
    exact v4 j hj hjk
/-- what a new record's cell has -/
def c_rw (g : Nat → Int32) (s k p x e : Int32) : Prop := g 2 = s ∧ g 3 = nI 0 ∧ g 4 = nI 0 ∧ g 5 = -2 ∧ g 6 = k ∧ g 7 = p ∧ g 8 = x ∧ g 10 = -2 ∧ g 11 = nI 0 ∧ (s = nI 5 → g 9 = e)
theorem c_rw_row (g : Nat → Int32) {s k p x : Int32} (e : Int32) (hs : s ≠ nI 5) : c_rw (c_row g s k p x) s k p x e := by
  refine ⟨rfl, rfl, rfl, rfl, rfl, rfl, rfl, rfl, rfl, fun w => absurd w hs⟩
/-- a record is made -/
theorem cB_new {h h1 : ix_H} {F A F1 A1 : Nat → Nat → Int32} {L L1 : Nat → Nat} {nr n1 : Nat} {S1 : zS} {k : Nat} (b : cB h F A L nr h1 F1 A1 L1 n1 S1 k) (hn2 : zn S1 < 2000) (N d : Nat) (s kk p x e : Int32) :
    ∃ h2 F2 A2 L2 n2, ix_run iy_P N (d + 2) 173 [ix_R (some (L1 0)), ix_I s, ix_I kk, ix_I p, ix_I x] (hw h1 F1 A1) = some (.inl (some (ix_I (nI (zn S1)))), hw h2 F2 A2) ∧ zn S1 < n2 ∧ (∀ i, i < 18 → L2 i = L1 i ∧ F2 (L1 i) = (if i = 0 then hw_U (F1 (L1 0)) 3 (nI (zn S1 + 1)) else F1 (L1 i)) ∧ A2 (L1 i) = A1 (L1 i)) ∧
      (∃ g, F2 (L2 (18 + 3 * zn S1)) = c_row g s kk p x) ∧ (∀ i, i < 18 + 3 * n1 → L2 i = L1 i ∧ A2 (L1 i) = A1 (L1 i)) ∧ cS h2 L2 n2 ∧
      ∀ F3, (∀ c, c ≠ L2 (18 + 3 * zn S1) → F3 c = F2 c) → c_rw (F3 (L2 (18 + 3 * zn S1))) s kk p x e → cB h F A L nr h2 F3 A2 L2 n2 (z_nw S1 (z_f s kk p x (nI 0) (nI 0) (-2) e) []) k := by
  obtain ⟨hs, hn, ex, ⟨v1, v2, v3, v4⟩, hk, h3⟩ := b
  have lo := hs.2.2.2.2.2.2.2.2.1
  obtain ⟨h2, F2, A2, L2, n2, e2, hs2, ex2, hlt, hF, hF0, hg, hA⟩ := c_makes hs hn hn2 v1.1 N d s kk p x
  have hl : ∀ i, i < 18 + 3 * n1 → L2 i = L1 i := ex2.2.2.2.2.1
  have hFi : ∀ i, i ≠ 0 → i < 18 + 3 * n1 → i ≠ 18 + 3 * zn S1 → F2 (L1 i) = F1 (L1 i) := fun i h0 hi hi2 => hF _ (lo i hi) (hs.ne h0) (by rw [← hl i hi]; exact hs2.ne hi2)
  refine ⟨h2, F2, A2, L2, n2, e2, hlt, fun i hi => ⟨hl i (by omega), ?_, hA _ (lo i (by omega))⟩, hg, fun i hi => ⟨hl i hi, hA _ (lo i hi)⟩, hs2, fun F3 h3F hrw => ?_⟩
  · by_cases w : i = 0
    · subst w
      rw [if_pos rfl]
      exact hF0
    · rw [if_neg w]
      exact hFi i w (by omega) (by omega)
  · have hF3 : ∀ i, i ≠ 18 + 3 * zn S1 → F3 (L2 i) = F2 (L2 i) := fun i hi => h3F _ (hs2.ne hi)
    have hz : zn (z_nw S1 (z_f s kk p x (nI 0) (nI 0) (-2) e) []) = zn S1 + 1 := rfl
    refine ⟨hs2, by rw [hz]; exact hlt, (ex.trans ex2).trans (cEx.refl hs2 (fun c _ hc => ⟨h3F _ (hc _ (by omega)), rfl⟩)), ⟨?_, fun q hq => ?_, fun r hr => ?_, fun j hj hjk => ?_⟩, hk, fun j hj => ?_⟩
    · rw [hF3 0 (by omega), hl 0 (by omega), hF0]
      simp (disch := omega) only [hw_U_ne, hw_U_same]
      exact ⟨rfl, v1.2⟩
    · rw [hl 2 (by omega), hA _ (lo 2 (by omega))]
      exact v2 q hq
    · rw [hz] at hr
      by_cases w : r = zn S1
      · subst w
        obtain ⟨r2, r3, r4, r5, r6, r7, r8, r10, r11, r9⟩ := hrw
        have e1 : (z_nw S1 (z_f s kk p x (nI 0) (nI 0) (-2) e) []).1.1 (zn S1) = z_f s kk p x (nI 0) (nI 0) (-2) e := hw_R_same _ _ _
        have e2 : (z_nw S1 (z_f s kk p x (nI 0) (nI 0) (-2) e) []).1.2 (zn S1) = [] := by
          show ix_up S1.1.2 (zn S1) [] (zn S1) = []
          unfold ix_up
          rw [if_pos rfl]
        unfold cE cG cL
        rw [e1, e2]
        exact ⟨r2, r6, r7, r8, r10, r11, Or.inl rfl, r9, ⟨r3, kv_in_nil _ _⟩, r4, r5⟩
      · have hr2 : r < zn S1 := by omega
        have e1 : (z_nw S1 (z_f s kk p x (nI 0) (nI 0) (-2) e) []).1.1 r = S1.1.1 r := hw_R_ne _ _ w
        have e2 : (z_nw S1 (z_f s kk p x (nI 0) (nI 0) (-2) e) []).1.2 r = S1.1.2 r := by
          show ix_up S1.1.2 (zn S1) [] r = _
          unfold ix_up
          rw [if_neg w]
        have := v3 r hr2
        unfold cE cG cL at this ⊢
        rw [e1, e2, hF3 _ (by omega), hl _ (by omega), hl _ (by omega), hl _ (by omega), hFi _ (by omega) (by omega) (by omega), hA _ (lo _ (by omega)), hA _ (lo _ (by omega))]
        exact this
    · unfold cH0
      rw [hF3 _ (by omega), hl _ (by omega), hFi _ (by omega) (by omega) (by omega)]
      exact v4 j hj hjk
    · rw [hF3 _ (by omega), hl _ (by omega), hFi _ (by omega) (by omega) (by omega)]
      exact h3 j hj
/-- the end of a stage -/
theorem cB_end {h h1 : ix_H} {F A F1 A1 : Nat → Nat → Int32} {L L1 : Nat → Nat} {nr n1 : Nat} {S1 : zS} {k : Nat} (b : cB h F A L nr h1 F1 A1 L1 n1 S1 k) (hg : cHd (F1 (L1 (5 + k))) (zh S1 k)) {st : Int32} (hst : zh S1 k 1 = st) : cPo h F A L nr S1 k (some (.inl (some (ix_I st)), hw h1 F1 A1)) := by
  refine ⟨h1, F1, A1, L1, n1, by rw [hst], b.1, b.2.1, b.2.2.1, b.2.2.2.1.v hg, fun j hj => ?_⟩
  have := b.2.2.2.2.2 j hj
  rw [b.l (show 5 + j < 18 by omega)] at this
  exact this
/-- how long a page is, on the way -/
theorem cB_len {h h1 : ix_H} {F A F1 A1 : Nat → Nat → Int32} {L L1 : Nat → Nat} {nr n1 : Nat} {S1 : zS} {k : Nat} (b : cB h F A L nr h1 F1 A1 L1 n1 S1 k) (hW : z_W S1) (h15 : F1 (L1 (5 + k)) 15 = nI 0 ∨ F1 (L1 (5 + k)) 15 = nI 1) {N : Nat} (hN : 1000 ≤ N) (d : Nat) {p : Nat} (hp : p < zp S1) : ix_run iy_P N (d + 1) 187 [ix_R (some (L1 0)), ix_I (nI p)] (hw h1 F1 A1) = some (.inl (some (ix_I (nI (z_len S1 p)))), hw h1 F1 A1) := by
  obtain ⟨S'', e1, e2, e3, hV⟩ := b.2.2.2.1.some h15
  have hz : zn S'' = zn S1 := by unfold zn; rw [e3]
  have := c_length b.1 (z_W_same e1 e2 e3 hW) (by rw [hz]; exact b.2.1) hV hN d (p := p) (by unfold zp at hp ⊢; rw [e3]; exact hp)
  rw [this]
  unfold z_len zt
  rw [e1, e2]
