/-! C4: the component: what a page has -/
set_option maxRecDepth 100000
theorem st_rec2 {h : ix_H} {L : Nat → Nat} {nr : Nat} (hs : cS h L nr) (F A : Nat → Nat → Int32) (i : Int32) (f : Nat → ix_O) : (ix_atr (hw h F A) 111 (some (L 1)) i).bind f = cond (ix_in i 2000) (f (L 1)) none := c_atr hs.2.1.1 (by decide) hs.2.1.2.1 F A i f
theorem cG.keep {F A F' A' : Nat → Nat → Int32} {a ka va : Nat} {c : zG} (h : cG F A a ka va c) (h1 : F' a = F a) (h2 : A' ka = A ka) (h3 : A' va = A va) : cG F' A' a ka va c := by
  unfold cG cL at *
  rw [h1, h2, h3]
  exact h
theorem cE.keep {F A F' A' : Nat → Nat → Int32} {a ka va : Nat} {B : zB} {r : Nat} (h : cE F A a ka va B r) (h1 : F' a = F a) (h2 : A' ka = A ka) (h3 : A' va = A va) : cE F' A' a ka va B r := by
  unfold cE cG cL at *
  rw [h1, h2, h3]
  exact h
/-- a record apart from those of a store -/
def cX (L : Nat → Nat) (a ka va : Nat) : Prop := ∀ r, cD a ka va (L (18 + 3 * r)) (L (19 + 3 * r)) (L (20 + 3 * r))
theorem cE'.keep {F A F' A' : Nat → Nat → Int32} {L : Nat → Nat} {B : zB} {n a ka va : Nat} {X : List Nat} (h : cE' F A L B n) (hx : cX L a ka va) (q : cQ X a ka va F A F' A') : cE' F' A' L B n := fun r hr => by
  obtain ⟨d0, d1, d2, d3, d4⟩ := hx r
  exact (h r hr).keep (q.1 _ (fun w => d0 w.symm)) (q.2.2 _ (fun w => d1 w.symm) (fun w => d3 w.symm)) (q.2.2 _ (fun w => d2 w.symm) (fun w => d4 w.symm))
theorem c_baseOf_l {h : ix_H} {L : Nat → Nat} {nr : Nat} (hs : cS h L nr) {B : zB} {n : Nat} (hn : n ≤ nr) (cal : ix_C) {F A : Nat → Nat → Int32} (hE : cE' F A L B n) : ∀ (l : List Nat) (x : Nat) (t : List Nat) (z : Nat), l = x :: t → z_lk B l → (∀ y ∈ l, y < n) → l.length < z → ix_lp cal stX4_baseOf z 5 [(0, ix_R (some (L 0))), (2, ix_I (nI x))] [] (hw h F A) = some (.inl (some (ix_R (some (L (18 + 3 * l.getLastD 0))))), hw h F A) := by
  have h2000 := hs.2.2.2.2.2.2.1
  intro l
  induction l with
  | nil => intro x t z he; cases he
  | cons x l ih =>
    intro x' t z he hk hm hz
    cases he
    obtain ⟨z, rfl⟩ : ∃ w, z = w + 1 := ⟨z - 1, by omega⟩
    have hx := hm x List.mem_cons_self
    have hex := hE x hx
    rw [lX4_baseOf_5]
    unfold jX4_baseOf_5
    rw [st_is hs, st_rec hs, hw_in (by omega) (by omega), cond_true, st_rr hs F A (by omega), hw_fI, hex.1]
    cases l with
    | nil =>
      rw [if_pos hk.1, st_is hs, st_rec hs, hw_in (by omega) (by omega), cond_true, hw_aR, hw_cl (by omega), hs.2.2.2.2.1 x (by omega)]
      rfl
    | cons y l =>
      obtain ⟨h0, h3, hk2⟩ := hk
      rw [if_neg h0, st_is hs, st_rec hs, hw_in (by omega) (by omega), cond_true, st_rr hs F A (by omega), hex.2.2.2.1, h3]
      simp only [List.length_cons] at hz
      rw [ih y l z rfl hk2 (fun w hw => hm w (List.mem_cons_of_mem _ hw)) (by simp only [List.length_cons]; omega)]
      rfl
theorem c_baseOf {h : ix_H} {L : Nat → Nat} {nr : Nat} (hs : cS h L nr) {S : zS} (hW : z_W S) (hn : zn S ≤ nr) {F A : Nat → Nat → Int32} (hE : cE' F A L S.1 (zn S)) {N : Nat} (hN : 1000 ≤ N) (d : Nat) {p : Nat} (hp : p < zp S) (ht : A (L 2) p = nI (zt S p)) : ix_run iy_P N (d + 1) 176 [ix_R (some (L 0)), ix_I (nI p)] (hw h F A) = some (.inl (some (ix_R (some (L (18 + 3 * (z_chain S.1 (zt S p)).getLastD 0))))), hw h F A) := by
  have h32 := hW.2.2.1
  have htp := hW.2.2.2 p hp
  have hlen := (hW.pg hp).2.2
  obtain ⟨t, he⟩ := z_chain_hd hW.1 htp
  have hk := z_chain_lk hW.1 _ htp
  have hm := z_chain_mem hW.1 _ htp
  rw [rX4_baseOf N d]
  unfold bX4_baseOf
  rw [st_is hs, st_top hs, hw_in (by omega) (by omega), cond_true, hw_aI, hw_cl (by omega), ht]
  obtain ⟨N, rfl⟩ : ∃ z, N = z + 1 := ⟨N - 1, by omega⟩
  rw [← lX4_baseOf_5]
  exact c_baseOf_l hs hn (ix_run iy_P (N + 1) d) hE (z_chain S.1 (zt S p)) (zt S p) t (N + 1 + 1) he hk (fun y hy => by have := hm y hy; omega) (by omega)
/-- one record more from beneath -/
theorem c_changes {h : ix_H} {L : Nat → Nat} {nr : Nat} (hs : cS h L nr) {B : zB} {n : Nat} (hB : z_B B n) (hn : n ≤ nr) {a ka va : Nat} (hr : cR h a ka va) (hx : cX L a ka va) {r : Nat} (hrn : r < n) (h0 : B.1 r 0 ≠ nI 0) {N : Nat} (hN : 1000 ≤ N) (d : Nat) {c : zG} {F A : Nat → Nat → Int32} (hE : cE' F A L B n) (hG : cG F A a ka va c) (hso : kv_so c.1) (hc : c.1.length ≤ 43) (ha : (z_ap B r c).1.length ≤ 43) :
    ∃ F' A', ix_run iy_P N (d + 4) 212 [ix_R (some a), ix_R (some (L (18 + 3 * r))), ix_R (some (L 1))] (hw h F A) = some (.inl none, hw h F' A') ∧ cQ [3, 4, 5] a ka va F A F' A' ∧ cG F' A' a ka va (z_ap B r c) := by
  have h2000 := hs.2.2.2.2.2.2.1
  have hb := hs.rc (show r < nr by omega)
  obtain ⟨f2, f6, f7, f8, f10, f11, f11b, f9, fG⟩ := hE r hrn
  rw [rX5_changes N (d + 3)]
  unfold bX5_changes
  rw [cp_is hb, hw_fI, f2]
  by_cases h16 : B.1 r 0 = nI 1 ∨ B.1 r 0 = nI 6
  · obtain ⟨F1, A1, e1, q1, l1⟩ := c_sets hr hN (d + 1) hG.1 hso (B.1 r 1) (B.1 r 2) hc
    refine ⟨F1, A1, ?_, q1.mono rfl, ?_⟩
    · have ej : ∀ K, jX5_changes_3 (ix_run iy_P N (d + 3)) K a (some (L (18 + 3 * r))) (hw h F A) = some (.inl none, hw h F1 A1) := fun K => by
        unfold jX5_changes_3 jX5_changes_31
        rw [cp_is hb, cp_is hb, cp_isr hr, hw_fI, f6, f7, hw_cV e1]
      rcases h16 with w | w
      · rw [if_pos w]
        exact ej _
      · rw [w, if_neg (by decide), if_neg (by decide), if_neg (by decide), if_neg (by decide), if_neg (by decide), if_pos rfl]
        exact ej _
    · rw [z_ap_set c h16]
      exact ⟨l1, (q1.2.1 4 rfl).trans hG.2.1, (q1.2.1 5 rfl).trans hG.2.2⟩
  by_cases h27 : B.1 r 0 = nI 2 ∨ B.1 r 0 = nI 7
  · obtain ⟨F1, A1, e1, q1, l1⟩ := c_drops hr hN (d + 1) hG.1 hso hc (B.1 r 1)
    refine ⟨F1, A1, ?_, q1.mono rfl, ?_⟩
    · have ej : ∀ K, jX5_changes_11 (ix_run iy_P N (d + 3)) K a (some (L (18 + 3 * r))) (hw h F A) = some (.inl none, hw h F1 A1) := fun K => by
        unfold jX5_changes_11 jX5_changes_31
        rw [cp_is hb, cp_isr hr, hw_fI, f6, hw_cV e1]
      rcases h27 with w | w
      · rw [w, if_neg (by decide), if_pos rfl]
        exact ej _
      · rw [w, if_neg (by decide), if_neg (by decide), if_neg (by decide), if_neg (by decide), if_neg (by decide), if_neg (by decide), if_pos rfl]
        exact ej _
    · rw [z_ap_del c h27]
      exact ⟨l1, (q1.2.1 4 rfl).trans hG.2.1, (q1.2.1 5 rfl).trans hG.2.2⟩
  by_cases h3 : B.1 r 0 = nI 3
  · obtain ⟨F1, A1, e1, q1, l1⟩ := c_ends hr hN (d + 2) hG.1 hso hc (B.1 r 1) (B.1 r 2)
    refine ⟨F1, A1, ?_, q1, ?_⟩
    · unfold jX5_changes_31
      rw [h3, if_neg (by decide), if_neg (by decide), if_pos rfl, cp_is hb, cp_is hb, cp_isr hr, f6, f7, hw_cV e1]
    · rw [z_ap_cut c h3]
      exact l1
  by_cases h5 : B.1 r 0 = nI 5
  · obtain ⟨b, hbr, h9, hb0⟩ := (hB.2 r hrn).2.2.1 h5
    have hob := hB.2 b (by omega)
    have hso2 : kv_so (B.2 b) ∧ (B.2 b).length ≤ 43 := by
      have := hob.2.2.2
      rw [z_ct_0 hb0] at this
      exact ⟨this.1, this.2.1⟩
    have e5 := z_ap_join c h5
    rw [h9, nI_clamp (by omega)] at e5
    rw [e5] at ha ⊢
    have hEb := hE b (by omega)
    obtain ⟨F1, A1, e1, q1, l1⟩ := c_joins hr (hs.rc (show b < nr by omega)) (hx b) hN d hEb.2.2.2.2.2.2.2.2 hso2.2 hG.1 hso ha
    refine ⟨F1, A1, ?_, q1, l1⟩
    unfold jX5_changes_31
    rw [h5, if_neg (by decide), if_neg (by decide), if_neg (by decide), if_neg (by decide), if_pos rfl, cp_is hb, f9 h5, h9, st_rec2 hs, hw_in (by omega) (by omega), cond_true, cp_isr hr, hw_aR, hw_cl (by omega), hs.2.2.2.2.1 b (by omega), hw_cV e1]
  have h1 : B.1 r 0 ≠ nI 1 := fun w => h16 (Or.inl w)
  have h6 : B.1 r 0 ≠ nI 6 := fun w => h16 (Or.inr w)
  have h2 : B.1 r 0 ≠ nI 2 := fun w => h27 (Or.inl w)
  have h7 : B.1 r 0 ≠ nI 7 := fun w => h27 (Or.inr w)
  rw [z_ap_no c h0 h1 h2 h3 h5 h6 h7]
  refine ⟨F, A, ?_, cQ.refl _ _ _ _ _ _, hG⟩
  unfold jX5_changes_31
  rw [if_neg h1, if_neg h2, if_neg h3]
  by_cases h4 : B.1 r 0 = nI 4
  · rw [if_pos h4]
  · rw [if_neg h4, if_neg h5, if_neg h6, if_neg h7]
/-- the records above the base are laid by -/
theorem c_lays_a {h : ix_H} {L : Nat → Nat} {nr : Nat} (hs : cS h L nr) {B : zB} {n : Nat} (hn : n ≤ nr) (cal : ix_C) (F : Nat → Nat → Int32) (v1 : Int32) (v2 : Option Nat) : ∀ (l : List Nat) (x : Nat) (t : List Nat) (pre : List Nat) (z : Nat) (A : Nat → Nat → Int32), l = x :: t → z_lk B l → (∀ y ∈ l, y < n) → (pre ++ l).length ≤ 840 → l.length ≤ z → cE' F A L B n → (∀ j (hj : j < pre.length), A (L 4) j = nI (pre[j])) →
    ∃ A' z' w, ix_lp cal stX4_lays z 7 [(0, ix_R (some (L 0))), (1, ix_I v1), (2, ix_R v2), (3, ix_I (nI pre.length)), (4, ix_I (nI x))] [] (hw h F A) = ix_lp cal stX4_lays z' 7 [(0, ix_R (some (L 0))), (1, ix_I v1), (2, ix_R v2), (3, ix_I (nI ((pre ++ l).length - 1))), (4, ix_I (nI w))] [] (hw h F A') ∧ w < n ∧ B.1 w 0 = nI 0 ∧ z + 1 ≤ z' + l.length ∧ (∀ b, b ≠ L 4 → A' b = A b) ∧ ∀ j (hj : j < (pre ++ l).length), j + 1 < (pre ++ l).length → A' (L 4) j = nI ((pre ++ l)[j]) := by
  have h2000 := hs.2.2.2.2.2.2.1
  intro l
  induction l with
  | nil => intro x t pre z A he; cases he
  | cons x l ih =>
    intro x' t pre z A he hk hm h840 hz hE hA
    cases he
    have hx := hm x List.mem_cons_self
    have hex := hE x hx
    cases l with
    | nil =>
      refine ⟨A, z, x, ?_, hx, hk.1, by simp, fun _ _ => rfl, fun j hj hj2 => ?_⟩
      · rw [List.length_append, List.length_singleton, Nat.add_sub_cancel]
      · rw [List.length_append, List.length_singleton] at hj2
        rw [List.getElem_append_left (show j < pre.length by omega)]
        exact hA j (by omega)
    | cons y l =>
      obtain ⟨h0, h3, hk2⟩ := hk
      obtain ⟨z, rfl⟩ : ∃ w, z = w + 1 := ⟨z - 1, by simp only [List.length_cons] at hz; omega⟩
      rw [List.length_append, List.length_cons] at h840
      rw [lX4_lays_7]
      unfold jX4_lays_7
      rw [st_is hs, st_rec hs, hw_in (by omega) (by omega), cond_true, st_rr hs F A (by omega), hw_fI, hex.1, if_neg h0, st_is hs, st_abw hs, hw_in (by omega) (by omega), cond_true, hw_bdA, hw_cl (by omega), st_is hs, st_rec hs, hw_in (by omega) (by omega), cond_true]
      have hrr := st_rr hs F (hw_R A (L 4) (hw_U (A (L 4)) pre.length (nI x))) (show x < nr by omega)
      have h8 := hex.2.2.2.1
      rw [hrr, hw_fI, h8, h3, nI_add]
      have hlen : (pre ++ [x]).length = pre.length + 1 := by rw [List.length_append, List.length_singleton]
      obtain ⟨A', z', w, e, hw1, hw2, hz2, fr, hj⟩ := ih y l (pre ++ [x]) z (hw_R A (L 4) (hw_U (A (L 4)) pre.length (nI x))) rfl hk2 (fun w hw => hm w (List.mem_cons_of_mem _ hw)) (by rw [List.length_append, hlen]; omega) (by simp only [List.length_cons] at hz ⊢; omega) (fun r hr => (hE r hr).keep rfl (hw_RL hs A _ (by omega)) (hw_RL hs A _ (by omega))) (fun j hj => by
        rw [hw_R_same, hw_U_at]
        by_cases ej : j = pre.length
        · subst ej
          simp
        · rw [if_neg ej, List.getElem_append_left (by rw [hlen] at hj; omega)]
          exact hA j (by rw [hlen] at hj; omega))
      rw [hlen] at e
      have eapp : pre ++ [x] ++ y :: l = pre ++ x :: y :: l := by rw [List.append_assoc]; rfl
      rw [eapp] at e
      refine ⟨A', z', w, e, hw1, hw2, by simp only [List.length_cons] at hz2 ⊢; omega, fun b hb => (fr b hb).trans (hw_R_ne _ _ hb), fun j hj1 hj2 => ?_⟩
      have := hj j (by rw [eapp]; exact hj1) (by rw [eapp]; exact hj2)
      rw [this]
      congr 1
      simp only [eapp]
theorem c_lays_b {h : ix_H} {L : Nat → Nat} {nr : Nat} (hs : cS h L nr) {B : zB} {n : Nat} (hB : z_B B n) (hn : n ≤ nr) {a ka va : Nat} (hr : cR h a ka va) (hx : cX L a ka va) (h4 : ka ≠ L 4 ∧ va ≠ L 4) {r : Nat} (hrn : r < n) {N : Nat} (hN : 1000 ≤ N) (d : Nat) : ∀ k z F A, k < (z_chain B r).length → k < z → cE' F A L B n → (∀ j (hj : j < (z_chain B r).length), j + 1 < (z_chain B r).length → A (L 4) j = nI ((z_chain B r)[j])) → cG F A a ka va (z_cf B ((z_chain B r).drop k)) →
    ∃ F' A', ix_lp (ix_run iy_P N (d + 4)) stX4_lays z 36 [(0, ix_R (some (L 0))), (2, ix_R (some a)), (4, ix_I (nI k - nI 1))] [] (hw h F A) = some (.inl none, hw h F' A') ∧ cQ [3, 4, 5] a ka va F A F' A' ∧ cG F' A' a ka va (z_ct B r) := by
  have h2000 := hs.2.2.2.2.2.2.1
  intro k
  induction k with
  | zero =>
    intro z F A hk hz hE hA hG
    obtain ⟨z, rfl⟩ : ∃ w, z = w + 1 := ⟨z - 1, by omega⟩
    rw [lX4_lays_36]
    unfold jX4_lays_36
    rw [if_pos hw_s0]
    exact ⟨F, A, rfl, cQ.refl _ _ _ _ _ _, hG⟩
  | succ i ih =>
    intro z F A hk hz hE hA hG
    obtain ⟨z, rfl⟩ : ∃ w, z = w + 1 := ⟨z - 1, by omega⟩
    have hi : i < (z_chain B r).length := by omega
    have hxr := z_chain_mem hB r hrn _ (List.getElem_mem hi)
    have hlast := z_chain_last hB r hrn i hi
    have h840 : (z_chain B r).length ≤ 840 := (hB.2 r hrn).2.2.2.2.2
    have h0 : B.1 ((z_chain B r)[i]) 0 ≠ nI 0 := fun w => by have := hlast.mp w; omega
    have hdr : (z_chain B r).drop i = (z_chain B r)[i] :: (z_chain B r).drop (i + 1) := List.drop_eq_getElem_cons hi
    have hct : z_ap B ((z_chain B r)[i]) (z_cf B ((z_chain B r).drop (i + 1))) = z_ct B ((z_chain B r)[i]) := by
      rw [← z_cf_drop hB hrn hi, hdr]
      rfl
    have hox := hB.2 _ (show (z_chain B r)[i] < n by omega)
    have hcc : kv_so (z_cf B ((z_chain B r).drop (i + 1))).1 ∧ (z_cf B ((z_chain B r).drop (i + 1))).1.length ≤ 43 := by
      rw [z_cf_drop hB hrn hk]
      have hxr2 := z_chain_mem hB r hrn _ (List.getElem_mem hk)
      have := hB.2 _ (show (z_chain B r)[i + 1] < n by omega)
      exact ⟨this.2.2.2.1, this.2.2.2.2.1⟩
    obtain ⟨F1, A1, e1, q1, l1⟩ := c_changes hs hB hn hr hx (show (z_chain B r)[i] < n by omega) h0 hN d hE hG hcc.1 hcc.2 (by rw [hct]; exact hox.2.2.2.2.1)
    rw [hct, ← z_cf_drop hB hrn hi] at l1
    rw [hw_sub (by omega), Nat.add_sub_cancel, lX4_lays_36]
    unfold jX4_lays_36
    rw [if_neg (show ¬ nI i < nI 0 by rw [hw_lt (by omega) (by omega)]; omega), st_is hs, st_is hs, st_ab hs, hw_in (by omega) (by omega), cond_true, hw_aI, hw_cl (by omega), hA i hi (by omega), st_rec hs, hw_in (by omega) (by omega), cond_true, st_is hs, cp_isr hr, hw_aR, hw_cl (by omega), hs.2.2.2.2.1 _ (show (z_chain B r)[i] < nr by omega), hw_fR, hs.1.2.1, hw_cV e1, hw_m1]
    obtain ⟨F2, A2, e2, q2, l2⟩ := ih z F1 A1 hi (by omega) (hE.keep hx q1) (fun j hj hj2 => by rw [q1.2.2 _ h4.1.symm h4.2.symm]; exact hA j hj hj2) l1
    exact ⟨F2, A2, e2, q1.trans q2, l2⟩
/-- what lays may change: the record that it lays into, and above -/
def cLy (L : Nat → Nat) (a ka va : Nat) (F A F' A' : Nat → Nat → Int32) : Prop := (∀ b, b ≠ a → F' b = F b) ∧ (∀ j, [3, 4, 5].contains j = false → F' a j = F a j) ∧ ∀ b, b ≠ ka → b ≠ va → b ≠ L 4 → A' b = A b
theorem c_lays {h : ix_H} {L : Nat → Nat} {nr : Nat} (hs : cS h L nr) {S : zS} (hW : z_W S) (hn : zn S ≤ nr) {a ka va : Nat} (hr : cR h a ka va) (hx : cX L a ka va) (h4 : ka ≠ L 4 ∧ va ≠ L 4) {F A : Nat → Nat → Int32} (hV : cV F A L S) {N : Nat} (hN : 2000 ≤ N) (d : Nat) {p : Nat} (hp : p < zp S) :
    ∃ F' A', ix_run iy_P N (d + 5) 175 [ix_R (some (L 0)), ix_I (nI p), ix_R (some a)] (hw h F A) = some (.inl none, hw h F' A') ∧ cLy L a ka va F A F' A' ∧ cG F' A' a ka va (z_pg S p) := by
  have h32 := hW.2.2.1
  have h2000 := hs.2.2.2.2.2.2.1
  have htp := hW.2.2.2 p hp
  have hlen := (hW.pg hp).2.2
  obtain ⟨t, he⟩ := z_chain_hd hW.1 htp
  have hk := z_chain_lk hW.1 _ htp
  have hm := z_chain_mem hW.1 _ htp
  have hpos := z_chain_pos hW.1 htp
  rw [rX4_lays N (d + 4)]
  unfold bX4_lays
  rw [st_is hs, st_top hs, hw_in (by omega) (by omega), cond_true, hw_aI, hw_cl (by omega), hV.2.1 p hp]
  obtain ⟨N, rfl⟩ : ∃ z, N = z + 1 := ⟨N - 1, by omega⟩
  rw [← lX4_lays_7]
  obtain ⟨A1, z1, w, e1, hw1, hw0, hz1, fr, hj⟩ := c_lays_a hs hn (ix_run iy_P (N + 1) (d + 4)) F (nI p) (some a) (z_chain S.1 (zt S p)) (zt S p) t [] (N + 1 + 1) A he hk (fun y hy => by have := hm y hy; omega) (by simpa using hlen) (by omega) hV.2.2.1 (fun j hj => absurd hj (Nat.not_lt_zero _))
  rw [List.length_nil] at e1
  rw [e1]
  simp only [List.nil_append] at hj ⊢
  have hE1 : cE' F A1 L S.1 (zn S) := fun r hr => (hV.2.2.1 r hr).keep rfl (fr _ (hs.ne (by omega))) (fr _ (hs.ne (by omega)))
  obtain ⟨z1, rfl⟩ : ∃ w, z1 = w + 1 := ⟨z1 - 1, by omega⟩
  rw [lX4_lays_7]
  unfold jX4_lays_7
  have hlst : (z_chain S.1 (zt S p)).getLastD 0 < zn S ∧ S.1.1 ((z_chain S.1 (zt S p)).getLastD 0) 0 = nI 0 ∧ (z_chain S.1 (zt S p)).drop ((z_chain S.1 (zt S p)).length - 1) = [(z_chain S.1 (zt S p)).getLastD 0] := by
    have e2 : (z_chain S.1 (zt S p)).getLastD 0 = (z_chain S.1 (zt S p))[(z_chain S.1 (zt S p)).length - 1] := by
      rw [List.getLastD_eq_getLast?, List.getLast?_eq_getElem?, List.getElem?_eq_getElem (by omega)]
      rfl
    rw [e2]
    have h3 := hm _ (List.getElem_mem (show (z_chain S.1 (zt S p)).length - 1 < (z_chain S.1 (zt S p)).length by omega))
    refine ⟨by omega, (z_chain_last hW.1 _ htp _ _).mpr (by omega), ?_⟩
    rw [List.drop_eq_getElem_cons (by omega), List.drop_eq_nil_of_le (by omega)]
  obtain ⟨hl1, hl2, hl3⟩ := hlst
  have hb := c_baseOf hs hW hn hE1 (N := N + 1) (by omega) (d + 3) hp (by rw [fr _ (hs.ne (by omega))]; exact hV.2.1 p hp)
  obtain ⟨F2, A2, e2, q2, l2⟩ := c_takes hr (hs.rc (show (z_chain S.1 (zt S p)).getLastD 0 < nr by omega)) (hx _) (F := F) (A := A1) (N := N + 1) (by omega) (d + 3) (c := (S.1.2 ((z_chain S.1 (zt S p)).getLastD 0), S.1.1 ((z_chain S.1 (zt S p)).getLastD 0) 7, S.1.1 ((z_chain S.1 (zt S p)).getLastD 0) 8)) (hE1 _ hl1).2.2.2.2.2.2.2.2 (by
    have := (hW.1.2 _ hl1).2.2.2
    rw [z_ct_0 hl2] at this
    have := this.2.1
    dsimp only at this ⊢
    omega)
  rw [st_is hs, st_rec hs, hw_in (by omega) (by omega), cond_true, st_rr hs F A1 (by omega), hw_fI, (hE1 w hw1).1, if_pos hw0, st_isr hs, hw_cR hb, cp_isr hr]
  dsimp only
  rw [hw_cV e2, ← lX4_lays_36]
  have l2' : cG F2 A2 a ka va (z_cf S.1 ((z_chain S.1 (zt S p)).drop ((z_chain S.1 (zt S p)).length - 1))) := by
    rw [hl3]
    show cG F2 A2 a ka va (z_ap S.1 _ _)
    rw [z_ap_base _ hl2]
    exact l2
  obtain ⟨F3, A3, e3, q3, l3⟩ := c_lays_b hs hW.1 hn hr hx h4 htp (N := N + 1) (by omega) d ((z_chain S.1 (zt S p)).length - 1) (z1 + 1) F2 A2 (by omega) (by omega) (hE1.keep hx q2) (fun j hj1 hj2 => by rw [q2.2.2 _ h4.1.symm h4.2.symm]; exact hj j hj1 hj2) l2'
  have q23 := q2.trans q3
  exact ⟨F3, A3, e3, ⟨q23.1, q23.2.1, fun b b1 b2 b3 => (q23.2.2 b b1 b2).trans (fr b b3)⟩, l3⟩
