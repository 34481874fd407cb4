/-! CM: the component: all keys and values -/
set_option maxRecDepth 100000
/-- what laying out all may change -/
def cSk (L : Nat → Nat) (ka va : Nat) (F A F' A' : Nat → Nat → Int32) : Prop := (∀ b, b ≠ L 15 → F' b = F b) ∧ ∀ b, b ≠ ka → b ≠ va → b ≠ L 4 → b ≠ L 16 → b ≠ L 17 → A' b = A b
theorem cSk.refl (L : Nat → Nat) (ka va : Nat) (F A : Nat → Nat → Int32) : cSk L ka va F A F A := ⟨fun _ _ => rfl, fun _ _ _ _ _ _ => rfl⟩
theorem cSk.trans {L : Nat → Nat} {ka va : Nat} {F A F1 A1 F2 A2 : Nat → Nat → Int32} (h : cSk L ka va F A F1 A1) (h2 : cSk L ka va F1 A1 F2 A2) : cSk L ka va F A F2 A2 := ⟨fun b a1 => (h2.1 b a1).trans (h.1 b a1), fun b a1 a2 a3 a4 a5 => (h2.2 b a1 a2 a3 a4 a5).trans (h.2 b a1 a2 a3 a4 a5)⟩
theorem cV.sk {h : ix_H} {L : Nat → Nat} {nr : Nat} (hs : cS h L nr) {ka va : Nat} (hk : ∀ i, ka ≠ L i) (hv : ∀ i, va ≠ L i) {F A F' A' : Nat → Nat → Int32} {S : zS} (hV : cV F A L S) (q : cSk L ka va F A F' A') : cV F' A' L S :=
  hV.keep' hs (fun i h1 h2 h3 => q.1 _ (hs.ne h3)) (fun i h => q.2 _ (hk i).symm (hv i).symm (hs.ne (by omega)) (hs.ne (by omega)) (hs.ne (by omega)))
theorem c_all_14 {h : ix_H} {L : Nat → Nat} {nr : Nat} (hs : cS h L nr) {ka va : Nat} (hk : ∀ i, ka ≠ L i) (hv : ∀ i, va ≠ L i) (hkv : ka ≠ va) (tk : ix_tg h ka = 101 ∧ ix_ln h ka = 1000) (tv : ix_tg h va = 101 ∧ ix_ln h va = 1000) (cal : ix_C) {F : Nat → Nat → Int32} {l : KV} {hi : Int32} {ri : Int32} (hl : l.length ≤ 44) : ∀ z i acc A, i ≤ l.length → l.length - i < z → cG F A (L 15) (L 16) (L 17) (l, hi, ri) → kv_in (A ka) (A va) acc → acc.length + (l.length - i) ≤ 1000 →
    ∃ A' z', ix_lp cal stX4_all z 14 [(0, ix_R (some (L 0))), (1, ix_R (some ka)), (2, ix_R (some va)), (3, ix_I (nI acc.length)), (5, ix_I (nI i))] [] (hw h F A) = ix_lp cal stX4_all z' 4 [(0, ix_R (some (L 0))), (1, ix_R (some ka)), (2, ix_R (some va)), (3, ix_I (nI (acc ++ l.drop i).length)), (4, ix_I ri)] [] (hw h F A') ∧ (∀ b, b ≠ ka → b ≠ va → A' b = A b) ∧ kv_in (A' ka) (A' va) (acc ++ l.drop i) ∧ z = z' + (l.length - i) + 1 := by
  intro z
  induction z with
  | zero => intro i acc A _ h; omega
  | succ z ih =>
    intro i acc A hi' hz hG hin hlen
    rw [lX4_all_14]
    unfold jX4_all_14
    have g1 : F (L 15) 3 = nI l.length := hG.1.1
    have g2 : F (L 15) 5 = ri := hG.2.2
    rw [st_is hs, st_ne hs, hw_fI, g1]
    rcases Nat.lt_or_ge i l.length with h1 | h1
    · obtain ⟨w1, w2⟩ := hG.1.2 i h1
      dsimp only at w1 w2
      have w3 : hw_R A ka (hw_U (A ka) acc.length (l[i]).1) (L 17) i = (l[i]).2 := by rw [hw_R_ne _ _ (hv 0 |> fun _ => (hk 17).symm)]; exact w2
      rw [if_neg (show ¬ nI l.length ≤ nI i by rw [hw_le (by omega) (by omega)]; omega), st_is hs, st_ne hs, cp_rk hs.ne', hw_in (by omega) (by omega), cond_true, c_at tk.1 tk.2, hw_in (by omega) (by omega), cond_true, hw_aI, hw_cl (by omega), hw_cl (by omega), w1, hw_bdA, st_is hs, st_ne hs, cp_rv hs.ne', hw_in (by omega) (by omega), cond_true, c_at tv.1 tv.2, hw_in (by omega) (by omega), cond_true, hw_aI, w3, hw_bdA, nI_add, nI_add, hw_R_ne _ _ hkv.symm]
      obtain ⟨A', z', e, q, k2, hz'⟩ := ih (i + 1) (acc ++ [((l[i]).1, (l[i]).2)]) (hw_R (hw_R A ka (hw_U (A ka) acc.length (l[i]).1)) va (hw_U (A va) acc.length (l[i]).2)) h1 (by omega)
        (hG.keep rfl (by rw [hw_R_ne _ _ (hv 16).symm, hw_R_ne _ _ (hk 16).symm]) (by rw [hw_R_ne _ _ (hv 17).symm, hw_R_ne _ _ (hk 17).symm]))
        (by rw [hw_R_ne _ _ hkv, hw_R_same, hw_R_same]; exact kv_in_app hin) (by rw [List.length_append, List.length_singleton]; omega)
      have ed : acc ++ [((l[i]).1, (l[i]).2)] ++ l.drop (i + 1) = acc ++ l.drop i := by
        rw [List.drop_eq_getElem_cons h1, List.append_assoc]
        rfl
      rw [ed] at e k2
      rw [List.length_append, List.length_singleton] at e
      refine ⟨A', z', e, fun b b1 b2 => ?_, k2, by omega⟩
      rw [q b b1 b2, hw_R_ne _ _ b2, hw_R_ne _ _ b1]
    · obtain rfl : i = l.length := by omega
      rw [if_pos (show nI l.length ≤ nI l.length by rw [hw_le (by omega) (by omega)]; omega), st_is hs, st_ne hs, g2, List.drop_eq_nil_of_le (Nat.le_refl _), List.append_nil]
      exact ⟨A, z, rfl, fun _ _ _ => rfl, hin, by omega⟩
theorem c_all_l {h : ix_H} {L : Nat → Nat} {nr : Nat} (hs : cS h L nr) {S : zS} (hW : z_W S) (hn : zn S ≤ nr) {ka va : Nat} (hk : ∀ i, ka ≠ L i) (hv : ∀ i, va ≠ L i) (hkv : ka ≠ va) (tk : ix_tg h ka = 101 ∧ ix_ln h ka = 1000) (tv : ix_tg h va = 101 ∧ ix_ln h va = 1000) {N : Nat} (hN : 2000 ≤ N) (d : Nat) : ∀ (rc : List Nat) (x : Nat) (t : List Nat) (acc : KV) (z : Nat) F A, rc = x :: t → z_rk S rc → (∀ y ∈ rc, y < zp S) → (rc.flatMap fun p => (z_pg S p).1).length + 2 * rc.length < z → acc.length + (rc.flatMap fun p => (z_pg S p).1).length ≤ 1000 → cV F A L S → kv_in (A ka) (A va) acc →
    ∃ F' A', ix_lp (ix_run iy_P N (d + 5)) stX4_all z 4 [(0, ix_R (some (L 0))), (1, ix_R (some ka)), (2, ix_R (some va)), (3, ix_I (nI acc.length)), (4, ix_I (nI x))] [] (hw h F A) = some (.inl (some (ix_I (nI (acc ++ rc.flatMap fun p => (z_pg S p).1).length))), hw h F' A') ∧ cSk L ka va F A F' A' ∧ kv_in (A' ka) (A' va) (acc ++ rc.flatMap fun p => (z_pg S p).1) := by
  intro rc
  induction rc with
  | nil => intro x t acc z F A he; cases he
  | cons x rc ih =>
    intro x' t acc z F A he hrk hm hz hac hV hin
    cases he
    obtain ⟨z, rfl⟩ : ∃ w, z = w + 1 := ⟨z - 1, by omega⟩
    have h32 := hW.2.2.1
    have hx := hm x List.mem_cons_self
    have hpx := hW.pg hx
    obtain ⟨F1, A1, e1, q1, g1⟩ := c_lays hs hW hn hs.ne' hs.x15 ⟨hs.ne (by omega), hs.ne (by omega)⟩ hV hN d hx
    have hV1 := hV.sc hs q1.s15
    have k1 : A1 ka = A ka := q1.2.2 _ (hk _) (hk _) (hk _)
    have k2 : A1 va = A va := q1.2.2 _ (hv _) (hv _) (hv _)
    rw [List.flatMap_cons, List.length_append, List.length_cons] at hz
    rw [List.flatMap_cons, List.length_append] at hac
    rw [lX4_all_4]
    unfold jX4_all_4
    rw [if_neg (show ¬ nI x < nI 0 by rw [hw_lt (by omega) (by omega)]; omega), st_is hs, st_isr hs, hw_fR, hs.1.2.2.2.2.2.2.1, hw_cV e1, ← lX4_all_14]
    obtain ⟨A2, z2, e2, q2, in2, hz2⟩ := c_all_14 hs hk hv hkv tk tv (ix_run iy_P N (d + 5)) (F := F1) (l := (z_pg S x).1) (hi := (z_pg S x).2.1) (ri := (z_pg S x).2.2) (by omega) (z + 1) 0 acc A1 (by omega) (by omega) g1 (by rw [k1, k2]; exact hin) (by omega)
    have q12 : cSk L ka va F A F1 A2 := ⟨q1.1, fun b b1 b2 b3 b4 b5 => (q2 b b1 b2).trans (q1.2.2 b b4 b5 b3)⟩
    rw [List.drop_zero] at e2 in2
    rw [e2]
    cases rc with
    | nil =>
      have h2 : (z_pg S x).2.2 = -2 := hrk
      obtain ⟨z2, rfl⟩ : ∃ w, z2 = w + 1 := ⟨z2 - 1, by omega⟩
      rw [h2, lX4_all_4]
      unfold jX4_all_4
      rw [if_pos (show (-2 : Int32) < nI 0 by decide)]
      have ee : acc ++ ([x].flatMap fun p => (z_pg S p).1) = acc ++ (z_pg S x).1 := by simp
      rw [ee]
      exact ⟨F1, A2, rfl, q12, in2⟩
    | cons y rc =>
      obtain ⟨h2, hk2⟩ := hrk
      rw [h2]
      obtain ⟨F3, A3, e3, q3, in3⟩ := ih y rc (acc ++ (z_pg S x).1) z2 F1 A2 rfl hk2 (fun w hw => hm w (List.mem_cons_of_mem _ hw)) (by omega) (by rw [List.length_append]; omega) (hV.sk hs hk hv q12) in2
      have ee : acc ++ ((x :: y :: rc).flatMap fun p => (z_pg S p).1) = acc ++ (z_pg S x).1 ++ ((y :: rc).flatMap fun p => (z_pg S p).1) := by rw [List.flatMap_cons, List.append_assoc]
      rw [ee]
      exact ⟨F3, A3, e3, q12.trans q3, in3⟩
theorem c_all {h : ix_H} {L : Nat → Nat} {nr : Nat} (hs : cS h L nr) {S : zS} (hW : z_W S) {rc : List Nat} (hrc : z_R S rc) (hn : zn S ≤ nr) {ka va : Nat} (hk : ∀ i, ka ≠ L i) (hv : ∀ i, va ≠ L i) (hkv : ka ≠ va) (tk : ix_tg h ka = 101 ∧ ix_ln h ka = 1000) (tv : ix_tg h va = 101 ∧ ix_ln h va = 1000) {N : Nat} (hN : 2000 ≤ N) (d : Nat) {F A : Nat → Nat → Int32} (hV : cV F A L S) :
    ∃ F' A', ix_run iy_P N (d + 6) 203 [ix_R (some (L 0)), ix_R (some ka), ix_R (some va)] (hw h F A) = some (.inl (some (ix_I (nI (z_all S).length))), hw h F' A') ∧ cSk L ka va F A F' A' ∧ kv_in (A' ka) (A' va) (z_all S) := by
  rw [hrc.all hW.2.2.1]
  obtain ⟨⟨t, ht⟩, hrk, hm, hl, h43⟩ := hrc
  rw [rX4_all N (d + 5)]
  unfold bX4_all
  obtain ⟨N, rfl⟩ : ∃ z, N = z + 1 := ⟨N - 1, by omega⟩
  rw [← lX4_all_4]
  have := c_all_l hs hW hn hk hv hkv tk tv (N := N + 1) hN d rc 1 t [] (N + 1 + 1) F A ht hrk hm (by omega) (by rw [List.length_nil]; omega) hV (kv_in_nil _ _)
  rw [List.nil_append] at this
  exact this
