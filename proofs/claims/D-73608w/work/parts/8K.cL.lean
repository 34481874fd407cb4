/-! CL: the component: what is left to do -/
set_option maxRecDepth 100000
/-- bounds of gone pages -/
def z_glc (S : zS) (l : KV) : Nat := (l.filter fun q => decide (z_gone S q.2.toNatClampNeg)).length
/-- pages whose right neighbour isn't noted -/
def z_slc (S : zS) (l : List Nat) : Nat := (l.filter fun p => decide (nI 0 ≤ (z_pg S p).2.2 ∧ ¬ z_gone S p ∧ kv_get (z_pg S p).2.1 (z_pg S 0).1 ≠ some (z_pg S p).2.2)).length
theorem z_glc_cons (S : zS) (q : Int32 × Int32) (l : KV) : z_glc S (q :: l) = (if z_gone S q.2.toNatClampNeg then 1 else 0) + z_glc S l := by
  unfold z_glc
  by_cases w : z_gone S q.2.toNatClampNeg
  · rw [List.filter_cons_of_pos (by exact decide_eq_true w), List.length_cons, if_pos w, Nat.add_comm]
  · rw [List.filter_cons_of_neg (by rw [decide_eq_false w]; decide), if_neg w, Nat.zero_add]
theorem c_goneLeft_l {h : ix_H} {L : Nat → Nat} {nr : Nat} (hs : cS h L nr) {S : zS} (hW : z_W S) (hn : zn S ≤ nr) {F A : Nat → Nat → Int32} (hV : cV F A L S) (N d : Nat) {c : zG} (hG : cG F A (L 12) (L 13) (L 14) c) (hl : c.1.length ≤ 44) (hb : ∀ q ∈ c.1, ∃ p, p < zp S ∧ q.2 = nI p) : ∀ z i n, i ≤ c.1.length → c.1.length - i < z →
    ix_lp (ix_run iy_P N (d + 1)) stX4_goneLeft z 7 [(0, ix_R (some (L 0))), (1, ix_I (nI n)), (2, ix_R (some (L 12))), (3, ix_I (nI i))] [] (hw h F A) = some (.inl (some (ix_I (nI (n + z_glc S (c.1.drop i))))), hw h F A) := by
  have h32 := hW.2.2.1
  intro z
  induction z with
  | zero => intro i n _ h; omega
  | succ z ih =>
    intro i n hi hz
    rw [lX4_goneLeft_7]
    unfold jX4_goneLeft_7 jX4_goneLeft_23
    rw [cp_is hs.bo, hw_fI, hG.1.1]
    rcases Nat.lt_or_ge i c.1.length with h1 | h1
    · obtain ⟨w1, w2⟩ := hG.1.2 i h1
      obtain ⟨p, hp, e⟩ := hb _ (List.getElem_mem h1)
      rw [e] at w2
      have ep : (c.1[i]).2.toNatClampNeg = p := by rw [e, hw_cl (by omega)]
      rw [if_neg (show ¬ nI c.1.length ≤ nI i by rw [hw_le (by omega) (by omega)]; omega), cp_is hs.bo, cp_rv hs.bo, hw_in (by omega) (by omega), cond_true, st_isr hs, hw_aI, hw_cl (by omega), w2, hw_cI (c_isGone hs hW hn hV N d hp)]
      dsimp only
      rw [List.drop_eq_getElem_cons h1, z_glc_cons, ep]
      by_cases g : z_gone S p
      · rw [if_pos g, if_pos g, if_neg (show ¬ nI 1 = nI 0 by decide), nI_add, nI_add, ih (i + 1) (n + 1) h1 (by omega), Nat.add_assoc]
      · rw [if_neg g, if_neg g, if_pos rfl, nI_add, nI_add, ih (i + 1) (n + 0) h1 (by omega), Nat.zero_add, Nat.add_zero]
    · obtain rfl : i = c.1.length := by omega
      rw [if_pos (show nI c.1.length ≤ nI c.1.length by rw [hw_le (by omega) (by omega)]; omega), List.drop_eq_nil_of_le (Nat.le_refl _)]
      rfl
theorem c_goneLeft {h : ix_H} {L : Nat → Nat} {nr : Nat} (hs : cS h L nr) {S : zS} (hW : z_W S) (hn : zn S ≤ nr) {F A : Nat → Nat → Int32} (hV : cV F A L S) {N : Nat} (hN : 2000 ≤ N) (d : Nat) (hb : ∀ q ∈ (z_pg S 0).1, ∃ p, p < zp S ∧ q.2 = nI p) :
    ∃ F' A', ix_run iy_P N (d + 7) 205 [ix_R (some (L 0))] (hw h F A) = some (.inl (some (ix_I (nI (z_glc S (z_pg S 0).1)))), hw h F' A') ∧ cSc L F A F' A' := by
  obtain ⟨F1, A1, e1, q1, g1⟩ := c_bounds hs hW hn hV hN d
  have hpg := hW.pg (show 0 < zp S by have := hW.2.1; omega)
  rw [rX4_goneLeft N (d + 6)]
  unfold bX4_goneLeft
  obtain ⟨N, rfl⟩ : ∃ z, N = z + 1 := ⟨N - 1, by omega⟩
  rw [st_isr hs, hw_cR e1]
  dsimp only
  rw [← lX4_goneLeft_7, c_goneLeft_l hs hW hn (hV.sc hs q1.s12) (N + 1) (d + 5) g1 (by omega) hb (N + 1 + 1) 0 0 (by omega) (by omega), Nat.zero_add]
  exact ⟨F1, A1, rfl, q1.s12⟩
theorem z_slc_cons (S : zS) (p : Nat) (l : List Nat) : z_slc S (p :: l) = (if nI 0 ≤ (z_pg S p).2.2 ∧ ¬ z_gone S p ∧ kv_get (z_pg S p).2.1 (z_pg S 0).1 ≠ some (z_pg S p).2.2 then 1 else 0) + z_slc S l := by
  unfold z_slc
  by_cases w : nI 0 ≤ (z_pg S p).2.2 ∧ ¬ z_gone S p ∧ kv_get (z_pg S p).2.1 (z_pg S 0).1 ≠ some (z_pg S p).2.2
  · rw [List.filter_cons_of_pos (by exact decide_eq_true w), List.length_cons, if_pos w, Nat.add_comm]
  · rw [List.filter_cons_of_neg (by rw [decide_eq_false w]; decide), if_neg w, Nat.zero_add]
theorem c_splitsLeft_l {h : ix_H} {L : Nat → Nat} {nr : Nat} (hs : cS h L nr) {S : zS} (hW : z_W S) (hn : zn S ≤ nr) {N : Nat} (hN : 2000 ≤ N) (d : Nat) : ∀ (rc : List Nat) (x : Nat) (t : List Nat) (i z : Nat) F A, rc = x :: t → z_rk S rc → (∀ y ∈ rc, y < zp S) → rc.length < z → cV F A L S →
    ∃ F' A', ix_lp (ix_run iy_P N (d + 7)) stX4_splitsLeft z 4 [(0, ix_R (some (L 0))), (1, ix_I (nI i)), (2, ix_I (nI x))] [] (hw h F A) = some (.inl (some (ix_I (nI (i + z_slc S rc)))), hw h F' A') ∧ cSc L F A F' A' := by
  intro rc
  induction rc with
  | nil => intro x t i z F A he; cases he
  | cons x rc ih =>
    intro x' t i z F A he hk hm hz hV
    cases he
    obtain ⟨z, rfl⟩ : ∃ w, z = w + 1 := ⟨z - 1, by omega⟩
    have h32 := hW.2.2.1
    have hx := hm x List.mem_cons_self
    obtain ⟨F1, A1, e1, q1, g1⟩ := c_lays hs hW hn hs.ne' hs.x15 ⟨hs.ne (by omega), hs.ne (by omega)⟩ hV hN (d + 2) hx
    have hV1 := hV.sc hs q1.s15
    rw [lX4_splitsLeft_4]
    unfold jX4_splitsLeft_4
    rw [if_neg (show ¬ nI x < nI 0 by rw [hw_lt (by omega) (by omega)]; omega), st_is hs, st_isr hs, hw_fR, hs.1.2.2.2.2.2.2.1, hw_cV e1, st_is hs, st_ne hs, hw_fI, g1.2.2]
    simp only [List.length_cons] at hz
    cases rc with
    | nil =>
      have h2 : (z_pg S x).2.2 = -2 := hk
      obtain ⟨z, rfl⟩ : ∃ w, z = w + 1 := ⟨z - 1, by omega⟩
      unfold jX4_splitsLeft_30
      rw [h2, if_pos (show (-2 : Int32) < nI 0 by decide), st_is hs, st_ne hs, hw_fI, g1.2.2, h2, lX4_splitsLeft_4]
      unfold jX4_splitsLeft_4
      rw [if_pos (show (-2 : Int32) < nI 0 by decide), z_slc_cons, if_neg (fun w => by rw [h2] at w; exact absurd w.1 (by decide))]
      exact ⟨F1, A1, rfl, q1.s15⟩
    | cons y rc =>
      obtain ⟨h2, hk2⟩ := hk
      have hy := hm y (List.mem_cons_of_mem _ List.mem_cons_self)
      have y0 : nI 0 ≤ nI y := by rw [hw_le (by omega) (by omega)]; omega
      have fin : ∀ (n : Nat) F2 A2, cSc L F A F2 A2 → F2 (L 15) 5 = nI y → n = (if nI 0 ≤ (z_pg S x).2.2 ∧ ¬ z_gone S x ∧ kv_get (z_pg S x).2.1 (z_pg S 0).1 ≠ some (z_pg S x).2.2 then 1 else 0) → ∃ F' A', jX4_splitsLeft_30 (ix_run iy_P N (d + 7)) (ix_lp (ix_run iy_P N (d + 7)) stX4_splitsLeft z) (L 0) (nI (i + n)) (hw h F2 A2) = some (.inl (some (ix_I (nI (i + z_slc S (x :: y :: rc))))), hw h F' A') ∧ cSc L F A F' A' := fun n F2 A2 q2 w5 hn2 => by
        unfold jX4_splitsLeft_30
        rw [st_is hs, st_ne hs, hw_fI, w5]
        obtain ⟨F3, A3, e3, q3⟩ := ih y rc (i + n) z F2 A2 rfl hk2 (fun w hw => hm w (List.mem_cons_of_mem _ hw)) (by simp only [List.length_cons] at hz ⊢; omega) (hV.sc hs q2)
        refine ⟨F3, A3, ?_, q2.trans q3⟩
        rw [e3, z_slc_cons S x, ← hn2, Nat.add_assoc]
      rw [h2, if_neg (show ¬ nI y < nI 0 by rw [hw_lt (by omega) (by omega)]; omega), st_isr hs, hw_cI (c_isGone hs hW hn hV1 N (d + 6) hx)]
      dsimp only
      by_cases g : z_gone S x
      · rw [if_pos g, if_neg (show ¬ nI 1 = nI 0 by decide)]
        exact fin 0 F1 A1 q1.s15 (g1.2.2.trans h2) (by rw [if_neg (fun w => w.2.1 g)])
      rw [if_neg g, if_pos rfl, st_is hs, st_ne hs, st_is hs, st_ne hs, st_isr hs, hw_fI, g1.2.1, g1.2.2, h2]
      obtain ⟨F2, A2, e2, q2⟩ := c_isNoted hs hW hn hV1 hN d (z_pg S x).2.1 (nI y)
      have w5 : F2 (L 15) 5 = nI y := by rw [q2.1 _ (hs.ne (by omega)), g1.2.2, h2]
      rw [hw_cI e2]
      dsimp only
      by_cases n : kv_get (z_pg S x).2.1 (z_pg S 0).1 = some (nI y)
      · rw [if_pos n, if_neg (show ¬ nI 1 = nI 0 by decide)]
        exact fin 0 F2 A2 (q1.s15.trans q2.s12) w5 (by rw [if_neg (fun w => w.2.2 (by rw [h2]; exact n))])
      · rw [if_neg n, if_pos rfl, nI_add]
        exact fin 1 F2 A2 (q1.s15.trans q2.s12) w5 (by rw [if_pos ⟨by rw [h2]; exact y0, g, by rw [h2]; exact n⟩])
theorem c_splitsLeft {h : ix_H} {L : Nat → Nat} {nr : Nat} (hs : cS h L nr) {S : zS} (hW : z_W S) {rc : List Nat} (hrc : z_R S rc) (hn : zn S ≤ nr) {N : Nat} (hN : 2000 ≤ N) (d : Nat) {F A : Nat → Nat → Int32} (hV : cV F A L S) :
    ∃ F' A', ix_run iy_P N (d + 8) 204 [ix_R (some (L 0))] (hw h F A) = some (.inl (some (ix_I (nI (z_slc S (z_rt S))))), hw h F' A') ∧ cSc L F A F' A' := by
  rw [hrc.rt hW.2.2.1]
  obtain ⟨⟨t, ht⟩, hk, hm, hl, h43⟩ := hrc
  rw [rX4_splitsLeft N (d + 7)]
  unfold bX4_splitsLeft
  obtain ⟨N, rfl⟩ : ∃ z, N = z + 1 := ⟨N - 1, by omega⟩
  rw [← lX4_splitsLeft_4]
  obtain ⟨F1, A1, e1, q1⟩ := c_splitsLeft_l hs hW hn (N := N + 1) hN d rc 1 t 0 (N + 1 + 1) F A ht hk hm (by omega) hV
  rw [Nat.zero_add] at e1
  exact ⟨F1, A1, e1, q1⟩
