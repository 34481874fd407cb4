/-! C5: the component: bounds, keys -/
set_option maxRecDepth 100000
theorem cS.x9 {h : ix_H} {L : Nat → Nat} {nr : Nat} (hs : cS h L nr) : cX L (L 9) (L 10) (L 11) := fun r => ⟨hs.ne (by omega), hs.ne (by omega), hs.ne (by omega), hs.ne (by omega), hs.ne (by omega)⟩
theorem cS.x12 {h : ix_H} {L : Nat → Nat} {nr : Nat} (hs : cS h L nr) : cX L (L 12) (L 13) (L 14) := fun r => ⟨hs.ne (by omega), hs.ne (by omega), hs.ne (by omega), hs.ne (by omega), hs.ne (by omega)⟩
theorem cS.x15 {h : ix_H} {L : Nat → Nat} {nr : Nat} (hs : cS h L nr) : cX L (L 15) (L 16) (L 17) := fun r => ⟨hs.ne (by omega), hs.ne (by omega), hs.ne (by omega), hs.ne (by omega), hs.ne (by omega)⟩
/-- only what is laid into changes -/
def cSc (L : Nat → Nat) (F A F' A' : Nat → Nat → Int32) : Prop := (∀ b, b ≠ L 9 → b ≠ L 12 → b ≠ L 15 → F' b = F b) ∧ ∀ b, b ≠ L 4 → b ≠ L 10 → b ≠ L 11 → b ≠ L 13 → b ≠ L 14 → b ≠ L 16 → b ≠ L 17 → A' b = A b
theorem cSc.refl (L : Nat → Nat) (F A : Nat → Nat → Int32) : cSc L F A F A := ⟨fun _ _ _ _ => rfl, fun _ _ _ _ _ _ _ _ => rfl⟩
theorem cSc.trans {L : Nat → Nat} {F A F1 A1 F2 A2 : Nat → Nat → Int32} (h : cSc L F A F1 A1) (h2 : cSc L F1 A1 F2 A2) : cSc L F A F2 A2 := ⟨fun b a1 a2 a3 => (h2.1 b a1 a2 a3).trans (h.1 b a1 a2 a3), fun b a1 a2 a3 a4 a5 a6 a7 => (h2.2 b a1 a2 a3 a4 a5 a6 a7).trans (h.2 b a1 a2 a3 a4 a5 a6 a7)⟩
theorem cLy.s9 {L : Nat → Nat} {F A F' A' : Nat → Nat → Int32} (h : cLy L (L 9) (L 10) (L 11) F A F' A') : cSc L F A F' A' := ⟨fun b a1 _ _ => h.1 b a1, fun b a1 a2 a3 _ _ _ _ => h.2.2 b a2 a3 a1⟩
theorem cLy.s12 {L : Nat → Nat} {F A F' A' : Nat → Nat → Int32} (h : cLy L (L 12) (L 13) (L 14) F A F' A') : cSc L F A F' A' := ⟨fun b _ a1 _ => h.1 b a1, fun b a1 _ _ a2 a3 _ _ => h.2.2 b a2 a3 a1⟩
theorem cLy.s15 {L : Nat → Nat} {F A F' A' : Nat → Nat → Int32} (h : cLy L (L 15) (L 16) (L 17) F A F' A') : cSc L F A F' A' := ⟨fun b _ _ a1 => h.1 b a1, fun b a1 _ _ _ _ a2 a3 => h.2.2 b a2 a3 a1⟩
theorem cSc.F {h : ix_H} {L : Nat → Nat} {nr : Nat} (hs : cS h L nr) {F A F' A' : Nat → Nat → Int32} (q : cSc L F A F' A') {i : Nat} (hi : i ≠ 9 ∧ i ≠ 12 ∧ i ≠ 15) : F' (L i) = F (L i) := q.1 _ (hs.ne hi.1) (hs.ne hi.2.1) (hs.ne hi.2.2)
theorem cSc.A {h : ix_H} {L : Nat → Nat} {nr : Nat} (hs : cS h L nr) {F A F' A' : Nat → Nat → Int32} (q : cSc L F A F' A') {i : Nat} (hi : i ≠ 4 ∧ i ≠ 10 ∧ i ≠ 11 ∧ i ≠ 13 ∧ i ≠ 14 ∧ i ≠ 16 ∧ i ≠ 17) : A' (L i) = A (L i) := q.2 _ (hs.ne hi.1) (hs.ne hi.2.1) (hs.ne hi.2.2.1) (hs.ne hi.2.2.2.1) (hs.ne hi.2.2.2.2.1) (hs.ne hi.2.2.2.2.2.1) (hs.ne hi.2.2.2.2.2.2)
theorem cH0.keep {F F' : Nat → Nat → Int32} {a : Nat} {S : zS} {k : Nat} (h : cH0 F a S k) (e : F' a = F a) : cH0 F' a S k := by
  unfold cH0 at *
  rw [e]
  exact h
/-- rows that a store's picture does not look at may change -/
theorem cV.keep' {h : ix_H} {L : Nat → Nat} {nr : Nat} (hs : cS h L nr) {F A F' A' : Nat → Nat → Int32} {S : zS} (hV : cV F A L S) (hF : ∀ i, i ≠ 9 → i ≠ 12 → i ≠ 15 → F' (L i) = F (L i)) (hA : ∀ i, i = 2 ∨ 19 ≤ i → A' (L i) = A (L i)) : cV F' A' L S := by
  obtain ⟨v1, v2, v3, v4⟩ := hV
  have e0 := hF 0 (by omega) (by omega) (by omega)
  refine ⟨by rw [e0]; exact v1, fun p hp => by rw [hA 2 (Or.inl rfl)]; exact v2 p hp, fun r hr => (v3 r hr).keep (hF _ (by omega) (by omega) (by omega)) (hA _ (by omega)) (hA _ (by omega)), fun k hk => (v4 k hk).keep (hF _ (by omega) (by omega) (by omega))⟩
theorem cV.sc {h : ix_H} {L : Nat → Nat} {nr : Nat} (hs : cS h L nr) {F A F' A' : Nat → Nat → Int32} {S : zS} (hV : cV F A L S) (q : cSc L F A F' A') : cV F' A' L S :=
  hV.keep' hs (fun _ h1 h2 h3 => q.F hs ⟨h1, h2, h3⟩) (fun _ h => q.A hs (by omega))
theorem c_bounds {h : ix_H} {L : Nat → Nat} {nr : Nat} (hs : cS h L nr) {S : zS} (hW : z_W S) (hn : zn S ≤ nr) {F A : Nat → Nat → Int32} (hV : cV F A L S) {N : Nat} (hN : 2000 ≤ N) (d : Nat) :
    ∃ F' A', ix_run iy_P N (d + 6) 182 [ix_R (some (L 0))] (hw h F A) = some (.inl (some (ix_R (some (L 12)))), hw h F' A') ∧ cLy L (L 12) (L 13) (L 14) F A F' A' ∧ cG F' A' (L 12) (L 13) (L 14) (z_pg S 0) := by
  obtain ⟨F1, A1, e1, q1, g1⟩ := c_lays hs hW hn hs.bo hs.x12 ⟨hs.ne (by omega), hs.ne (by omega)⟩ hV hN d (p := 0) (by have := hW.2.1; omega)
  rw [rX4_bounds N (d + 5)]
  unfold bX4_bounds
  rw [st_is hs, st_isr hs, hw_fR, hs.1.2.2.2.2.2.1, hw_cV e1, st_is hs, hw_fR, hs.1.2.2.2.2.2.1]
  exact ⟨F1, A1, rfl, q1, g1⟩
theorem c_isNoted {h : ix_H} {L : Nat → Nat} {nr : Nat} (hs : cS h L nr) {S : zS} (hW : z_W S) (hn : zn S ≤ nr) {F A : Nat → Nat → Int32} (hV : cV F A L S) {N : Nat} (hN : 2000 ≤ N) (d : Nat) (key pg : Int32) :
    ∃ F' A', ix_run iy_P N (d + 7) 185 [ix_R (some (L 0)), ix_I key, ix_I pg] (hw h F A) = some (.inl (some (ix_I (if kv_get key (z_pg S 0).1 = some pg then nI 1 else nI 0))), hw h F' A') ∧ cLy L (L 12) (L 13) (L 14) F A F' A' := by
  obtain ⟨F1, A1, e1, q1, g1⟩ := c_bounds hs hW hn hV hN d
  have hpg := hW.pg (show 0 < zp S by have := hW.2.1; omega)
  have ea := c_at1 hs.bo (show 1000 ≤ N by omega) (d + 5) g1.1 hpg.1 (by omega) key
  rw [rX4_isNoted N (d + 6)]
  unfold bX4_isNoted jX4_isNoted_16 jX4_isNoted_18
  rw [st_isr hs, hw_cR e1]
  dsimp only
  rw [cp_isr hs.bo, hw_cI ea]
  dsimp only
  refine ⟨F1, A1, ?_, q1⟩
  cases hg : kv_get key (z_pg S 0).1 with
  | none =>
    rw [if_pos rfl, if_pos (show (-1 : Int32) < nI 0 by decide), if_neg (show ¬ ((none : Option Int32) = some pg) from fun w => nomatch w), hw_okn1_0]
    rfl
  | some v =>
    obtain ⟨hlt, ev⟩ := (kv_get_wh hpg.1 v).mp hg
    have ev2 := (g1.1.2 _ hlt).2
    rw [ev] at ev2
    dsimp only at ev2
    rw [if_neg (show ¬ (some v = (none : Option Int32)) from fun w => nomatch w), if_neg (show ¬ nI (kv_wh key (z_pg S 0).1) < nI 0 by rw [hw_lt (by omega) (by omega)]; omega), st_is hs, st_bo hs, cp_rv hs.bo, hw_in (by omega) (by omega), cond_true, hw_aI, hw_cl (by omega), ev2]
    by_cases hv : v = pg
    · rw [if_pos hv, if_pos (by rw [hv]), hw_okn1_1]
      rfl
    · rw [if_neg hv, if_neg (fun w => hv (by injection w)), hw_okn1_0]
      rfl
theorem c_boundOf_l {h : ix_H} {L : Nat → Nat} {nr : Nat} (hs : cS h L nr) (F A : Nat → Nat → Int32) (cal : ix_C) {l : KV} (hL : cL F A (L 12) (L 13) (L 14) l) (hl : l.length ≤ 43) (v : Int32) : ∀ (q : KV) n i, q = l.drop i → i ≤ l.length → q.length < n → ix_lp cal stX4_boundOf n 5 [(1, ix_I v), (2, ix_R (some (L 12))), (3, ix_I (nI i))] [] (hw h F A) = some (.inl (some (ix_I (match kv_ix v q with | some j => (kv_nth q j).1 | none => -1))), hw h F A) := by
  intro q
  induction q with
  | nil =>
    intro n i hq hi hn
    obtain ⟨n, rfl⟩ : ∃ w, n = w + 1 := ⟨n - 1, by omega⟩
    have h1 : l.length ≤ i := by
      have := congrArg List.length hq
      rw [List.length_drop, List.length_nil] at this
      omega
    rw [lX4_boundOf_5]
    unfold jX4_boundOf_5
    rw [cp_is hs.bo, hw_fI, hL.1, if_pos (show nI l.length ≤ nI i by rw [hw_le (by omega) (by omega)]; omega)]
    rfl
  | cons z q ih =>
    intro n i hq hi hn
    obtain ⟨n, rfl⟩ : ∃ w, n = w + 1 := ⟨n - 1, by omega⟩
    have h1 : i < l.length := by
      have := congrArg List.length hq
      rw [List.length_drop, List.length_cons] at this
      omega
    rw [List.drop_eq_getElem_cons h1] at hq
    obtain ⟨e1, e2⟩ := List.cons.inj hq
    obtain ⟨w1, w2⟩ := hL.2 i h1
    rw [← e1] at w1 w2
    rw [lX4_boundOf_5]
    unfold jX4_boundOf_5
    rw [cp_is hs.bo, hw_fI, hL.1, if_neg (show ¬ nI l.length ≤ nI i by rw [hw_le (by omega) (by omega)]; omega), cp_is hs.bo, cp_rv hs.bo, hw_in (by omega) (by omega), cond_true, hw_aI, hw_cl (by omega), w2]
    simp only [kv_ix]
    by_cases hk : z.2 = v
    · rw [if_pos hk, if_pos hk, cp_is hs.bo, cp_rk hs.bo, hw_in (by omega) (by omega), cond_true, w1]
      rfl
    · rw [if_neg hk, if_neg hk, nI_add]
      simp only [List.length_cons] at hn
      rw [ih n (i + 1) e2 h1 (by omega)]
      cases kv_ix v q with
      | none => rfl
      | some j => rfl
theorem c_boundOf {h : ix_H} {L : Nat → Nat} {nr : Nat} (hs : cS h L nr) {S : zS} (hW : z_W S) (hn : zn S ≤ nr) {F A : Nat → Nat → Int32} (hV : cV F A L S) {N : Nat} (hN : 2000 ≤ N) (d : Nat) (v : Int32) :
    ∃ F' A', ix_run iy_P N (d + 7) 197 [ix_R (some (L 0)), ix_I v] (hw h F A) = some (.inl (some (ix_I (match kv_ix v (z_pg S 0).1 with | some j => (kv_nth (z_pg S 0).1 j).1 | none => -1))), hw h F' A') ∧ cLy L (L 12) (L 13) (L 14) F A F' A' ∧ cG F' A' (L 12) (L 13) (L 14) (z_pg S 0) := by
  obtain ⟨F1, A1, e1, q1, g1⟩ := c_bounds hs hW hn hV hN d
  have hpg := hW.pg (show 0 < zp S by have := hW.2.1; omega)
  rw [rX4_boundOf N (d + 6)]
  unfold bX4_boundOf
  rw [st_isr hs, hw_cR e1]
  dsimp only
  obtain ⟨N, rfl⟩ : ∃ z, N = z + 1 := ⟨N - 1, by omega⟩
  rw [← lX4_boundOf_5, c_boundOf_l hs F1 A1 (ix_run iy_P (N + 1) (d + 6)) g1.1 (by omega) v (z_pg S 0).1 (N + 1 + 1) 0 rfl (Nat.zero_le _) (by omega)]
  exact ⟨F1, A1, rfl, q1, g1⟩
theorem c_keys_l {h : ix_H} {L : Nat → Nat} {nr : Nat} (hs : cS h L nr) {S : zS} (hW : z_W S) (hn : zn S ≤ nr) {N : Nat} (hN : 2000 ≤ N) (d : Nat) : ∀ (rc : List Nat) (x : Nat) (t : List Nat) (i z : Nat) F A, rc = x :: t → z_rk S rc → (∀ y ∈ rc, y < zp S) → rc.length < z → cV F A L S →
    ∃ F' A', ix_lp (ix_run iy_P N (d + 5)) stX4_keys z 4 [(0, ix_R (some (L 0))), (1, ix_I (nI i)), (2, ix_I (nI x))] [] (hw h F A) = some (.inl (some (ix_I (nI (i + (rc.flatMap fun p => (z_pg S p).1).length)))), hw h F' A') ∧ cSc L F A F' A' ∧ ∀ b, b ≠ L 15 → F' b = F b := by
  intro rc
  induction rc with
  | nil => intro x t i z F A he; cases he
  | cons x rc ih =>
    intro x' t i z F A he hk hm hz hV
    cases he
    obtain ⟨z, rfl⟩ : ∃ w, z = w + 1 := ⟨z - 1, by omega⟩
    have h32 := hW.2.2.1
    have hx := hm x List.mem_cons_self
    obtain ⟨F1, A1, e1, q1, g1⟩ := c_lays hs hW hn hs.ne' hs.x15 ⟨hs.ne (by omega), hs.ne (by omega)⟩ hV hN d hx
    rw [lX4_keys_4]
    unfold jX4_keys_4
    rw [if_neg (show ¬ nI x < nI 0 by rw [hw_lt (by omega) (by omega)]; omega), st_is hs, st_isr hs, hw_fR, hs.1.2.2.2.2.2.2.1, hw_cV e1, st_is hs, st_ne hs, st_is hs, st_ne hs, hw_fI, g1.1.1, g1.2.2, nI_add]
    simp only [List.length_cons] at hz
    cases rc with
    | nil =>
      have h2 : (z_pg S x).2.2 = -2 := hk
      obtain ⟨z, rfl⟩ : ∃ w, z = w + 1 := ⟨z - 1, by omega⟩
      rw [h2, lX4_keys_4]
      unfold jX4_keys_4
      rw [if_pos (show (-2 : Int32) < nI 0 by decide)]
      refine ⟨F1, A1, ?_, q1.s15, q1.1⟩
      simp
    | cons y rc =>
      obtain ⟨h2, hk2⟩ := hk
      rw [h2]
      obtain ⟨F2, A2, e2, q2, q3⟩ := ih y rc (i + (z_pg S x).1.length) z F1 A1 rfl hk2 (fun w hw => hm w (List.mem_cons_of_mem _ hw)) (by omega) (hV.sc hs q1.s15)
      refine ⟨F2, A2, ?_, q1.s15.trans q2, fun b hb => (q3 b hb).trans (q1.1 b hb)⟩
      rw [e2]
      simp only [List.flatMap_cons, List.length_append, Nat.add_assoc]
theorem c_keys {h : ix_H} {L : Nat → Nat} {nr : Nat} (hs : cS h L nr) {S : zS} (hW : z_W S) {rc : List Nat} (hrc : z_R S rc) (hn : zn S ≤ nr) {N : Nat} (hN : 2000 ≤ N) (d : Nat) {F A : Nat → Nat → Int32} (hV : cV F A L S) :
    ∃ F' A', ix_run iy_P N (d + 6) 174 [ix_R (some (L 0))] (hw h F A) = some (.inl (some (ix_I (nI (z_all S).length))), hw h F' A') ∧ cSc L F A F' A' ∧ ∀ b, b ≠ L 15 → F' b = F b := by
  rw [hrc.all hW.2.2.1]
  obtain ⟨⟨t, ht⟩, hk, hm, hl, h43⟩ := hrc
  rw [rX4_keys N (d + 5)]
  unfold bX4_keys
  obtain ⟨N, rfl⟩ : ∃ z, N = z + 1 := ⟨N - 1, by omega⟩
  rw [← lX4_keys_4]
  obtain ⟨F1, A1, e1, q1, q2⟩ := c_keys_l hs hW hn (N := N + 1) hN d rc 1 t 0 (N + 1 + 1) F A ht hk hm (by omega) hV
  rw [Nat.zero_add] at e1
  exact ⟨F1, A1, e1, q1, q2⟩
