/-! C1: the component: a record: its object at a, its keys at ka, its values at va -/
set_option maxRecDepth 100000
def cR (h : ix_H) (a ka va : Nat) : Prop := ix_tg h a = 6 ∧ ix_fR h a 0 = some ka ∧ ix_fR h a 1 = some va ∧ ix_tg h ka = 101 ∧ ix_tg h va = 101 ∧ ix_ln h ka = 44 ∧ ix_ln h va = 44 ∧ ka ≠ va
theorem cR_hw {h : ix_H} {a ka va : Nat} (F A : Nat → Nat → Int32) (hr : cR h a ka va) : cR (hw h F A) a ka va := hr
theorem c_is {h : ix_H} {a c : Nat} (ht : ix_tg h a = c) (F A : Nat → Nat → Int32) (f : Nat → ix_O) : (ix_is (hw h F A) c (some a)).bind f = f a := by
  have : ix_is (hw h F A) c (some a) = some a := by
    show cond (Nat.beq (ix_tg h a) c) (some a) none = some a
    rw [ht, show Nat.beq c c = true from Nat.beq_refl c]
    rfl
  rw [this]
  rfl
theorem c_isr {h : ix_H} {a c : Nat} (ht : ix_tg h a = c) (hc : c < 512) (F A : Nat → Nat → Int32) (f : Nat → ix_O) : (ix_isr (hw h F A) c (some a)).bind f = f a := by
  have : ix_isr (hw h F A) c (some a) = some a := by
    show cond (Nat.beq (ix_tg h a % 512) c) (some a) none = some a
    rw [ht, Nat.mod_eq_of_lt hc, show Nat.beq c c = true from Nat.beq_refl c]
    rfl
  rw [this]
  rfl
theorem c_atr {h : ix_H} {a c n : Nat} (ht : ix_tg h a = c) (hc : c < 512) (hn : ix_ln h a = n) (F A : Nat → Nat → Int32) (i : Int32) (f : Nat → ix_O) : (ix_atr (hw h F A) c (some a) i).bind f = cond (ix_in i n) (f a) none := by
  have : ix_atr (hw h F A) c (some a) i = cond (ix_in i n) (some a) none := by
    show (cond (Nat.beq (ix_tg h a % 512) c) (some a) none).bind (fun a => cond (ix_in i (ix_ln h a)) (some a) none) = _
    rw [ht, Nat.mod_eq_of_lt hc, show Nat.beq c c = true from Nat.beq_refl c]
    show cond (ix_in i (ix_ln h a)) (some a) none = _
    rw [hn]
  rw [this]
  cases ix_in i n <;> rfl
theorem c_at {h : ix_H} {a c n : Nat} (ht : ix_tg h a = c) (hn : ix_ln h a = n) (F A : Nat → Nat → Int32) (i : Int32) (f : Nat → ix_O) : (ix_at (hw h F A) c (some a) i).bind f = cond (ix_in i n) (f a) none := by
  have : ix_at (hw h F A) c (some a) i = cond (ix_in i n) (some a) none := by
    show (cond (Nat.beq (ix_tg h a) c) (some a) none).bind (fun a => cond (ix_in i (ix_ln h a)) (some a) none) = _
    rw [ht, show Nat.beq c c = true from Nat.beq_refl c]
    show cond (ix_in i (ix_ln h a)) (some a) none = _
    rw [hn]
  rw [this]
  cases ix_in i n <;> rfl
theorem cp_is {h : ix_H} {a ka va : Nat} (hr : cR h a ka va) (F A : Nat → Nat → Int32) (f : Nat → ix_O) : (ix_is (hw h F A) 6 (some a)).bind f = f a := c_is hr.1 F A f
theorem cp_isr {h : ix_H} {a ka va : Nat} (hr : cR h a ka va) (F A : Nat → Nat → Int32) (f : Nat → ix_O) : (ix_isr (hw h F A) 6 (some a)).bind f = f a := c_isr hr.1 (by decide) F A f
theorem cp_rk {h : ix_H} {a ka va : Nat} (hr : cR h a ka va) (F A : Nat → Nat → Int32) (i : Int32) (f : Nat → ix_O) : (ix_atr (hw h F A) 101 (ix_fR (hw h F A) a 0) i).bind f = cond (ix_in i 44) (f ka) none := by
  rw [hw_fR, hr.2.1]
  exact c_atr hr.2.2.2.1 (by decide) hr.2.2.2.2.2.1 F A i f
theorem cp_rv {h : ix_H} {a ka va : Nat} (hr : cR h a ka va) (F A : Nat → Nat → Int32) (i : Int32) (f : Nat → ix_O) : (ix_atr (hw h F A) 101 (ix_fR (hw h F A) a 1) i).bind f = cond (ix_in i 44) (f va) none := by
  rw [hw_fR, hr.2.2.1]
  exact c_atr hr.2.2.2.2.1 (by decide) hr.2.2.2.2.2.2.1 F A i f
theorem cp_wk {h : ix_H} {a ka va : Nat} (hr : cR h a ka va) (F A : Nat → Nat → Int32) (i : Int32) (f : Nat → ix_O) : (ix_at (hw h F A) 101 (ix_fR (hw h F A) a 0) i).bind f = cond (ix_in i 44) (f ka) none := by
  rw [hw_fR, hr.2.1]
  exact c_at hr.2.2.2.1 hr.2.2.2.2.2.1 F A i f
theorem cp_wv {h : ix_H} {a ka va : Nat} (hr : cR h a ka va) (F A : Nat → Nat → Int32) (i : Int32) (f : Nat → ix_O) : (ix_at (hw h F A) 101 (ix_fR (hw h F A) a 1) i).bind f = cond (ix_in i 44) (f va) none := by
  rw [hw_fR, hr.2.2.1]
  exact c_at hr.2.2.2.2.1 hr.2.2.2.2.2.2.1 F A i f
/-- what a record holds -/
def cL (F A : Nat → Nat → Int32) (a ka va : Nat) (l : KV) : Prop := F a 3 = nI l.length ∧ kv_in (A ka) (A va) l
def cG (F A : Nat → Nat → Int32) (a ka va : Nat) (c : zG) : Prop := cL F A a ka va c.1 ∧ F a 4 = c.2.1 ∧ F a 5 = c.2.2
/-- of a record only the fields X, the keys and the values have changed -/
def cQ (X : List Nat) (a ka va : Nat) (F A F' A' : Nat → Nat → Int32) : Prop := (∀ b, b ≠ a → F' b = F b) ∧ (∀ j, X.contains j = false → F' a j = F a j) ∧ ∀ b, b ≠ ka → b ≠ va → A' b = A b
theorem cQ.refl (X : List Nat) (a ka va : Nat) (F A : Nat → Nat → Int32) : cQ X a ka va F A F A := ⟨fun _ _ => rfl, fun _ _ => rfl, fun _ _ _ => rfl⟩
theorem cQ.trans {X : List Nat} {a ka va : Nat} {F A F1 A1 F2 A2 : Nat → Nat → Int32} (h : cQ X a ka va F A F1 A1) (h2 : cQ X a ka va F1 A1 F2 A2) : cQ X a ka va F A F2 A2 :=
  ⟨fun b hb => (h2.1 b hb).trans (h.1 b hb), fun j hj => (h2.2.1 j hj).trans (h.2.1 j hj), fun b hb hb2 => (h2.2.2 b hb hb2).trans (h.2.2 b hb hb2)⟩
theorem cQ.mono {X X' : List Nat} {a ka va : Nat} {F A F1 A1 : Nat → Nat → Int32} (h : cQ X a ka va F A F1 A1) (hx : X.all (fun j => X'.contains j) = true) : cQ X' a ka va F A F1 A1 :=
  ⟨h.1, fun j hj => h.2.1 j (mQ_sub hx hj), h.2.2⟩
theorem cQ.fR {X : List Nat} {a ka va j : Nat} {v : Int32} {F A F1 A1 : Nat → Nat → Int32} (h : cQ X a ka va F A F1 A1) (hj : X.contains j = true) : cQ X a ka va F A (hw_R F1 a (hw_U (F1 a) j v)) A1 := by
  refine ⟨fun b hb => ?_, fun i hi => ?_, h.2.2⟩
  · rw [hw_R_ne _ _ hb]
    exact h.1 b hb
  · rw [hw_R_same, hw_U_at, if_neg (fun e => by rw [e, hj] at hi; cases hi)]
    exact h.2.1 i hi
theorem cQ.fU {X : List Nat} {a ka va j : Nat} {v : Int32} {g : Nat → Int32} {F A F1 A1 : Nat → Nat → Int32} (h : cQ X a ka va F A (hw_R F1 a g) A1) (hj : X.contains j = true) : cQ X a ka va F A (hw_R F1 a (hw_U g j v)) A1 := by
  have := h.fR (v := v) hj
  rw [hw_R_R, hw_R_same] at this
  exact this
theorem cQ.kR {X : List Nat} {a ka va : Nat} {g : Nat → Int32} {F A F1 A1 : Nat → Nat → Int32} (h : cQ X a ka va F A F1 A1) : cQ X a ka va F A F1 (hw_R A1 ka g) := by
  refine ⟨h.1, h.2.1, fun b hb hb2 => ?_⟩
  rw [hw_R_ne _ _ hb]
  exact h.2.2 b hb hb2
theorem cQ.vR {X : List Nat} {a ka va : Nat} {g : Nat → Int32} {F A F1 A1 : Nat → Nat → Int32} (h : cQ X a ka va F A F1 A1) : cQ X a ka va F A F1 (hw_R A1 va g) := by
  refine ⟨h.1, h.2.1, fun b hb hb2 => ?_⟩
  rw [hw_R_ne _ _ hb2]
  exact h.2.2 b hb hb2
/-- the first place of a key, in a sorted list -/
theorem kv_at_wh {k : Int32} {l : KV} (hs : kv_so l) {i : Nat} (hi : i < l.length) : (l[i]).1 = k ↔ kv_get k l ≠ none ∧ i = kv_wh k l := by
  constructor
  · intro h
    have h1 : ¬ i < kv_wh k l := fun w => kv_lt_ne (kv_wh_lt hi w) h
    have h2 : kv_get k l = some (l[i]).2 := kv_mem_get hs (by rw [← h]; exact List.getElem_mem hi)
    obtain ⟨hw, e⟩ := (kv_get_wh hs _).mp h2
    refine ⟨(by rw [h2]; exact fun w => nomatch w), ?_⟩
    rcases Nat.lt_or_eq_of_le (Nat.le_of_not_lt h1) with h3 | h3
    · have h4 := List.pairwise_iff_getElem.mp hs _ _ hw hi h3
      rw [e, h] at h4
      exact absurd h4 kv_lt_irrefl
    · exact h3.symm
  · rintro ⟨h1, h2⟩
    subst h2
    cases hg : kv_get k l with
    | none => exact absurd hg h1
    | some v =>
      obtain ⟨hw, e⟩ := (kv_get_wh hs v).mp hg
      rw [e]
theorem c_at_l {h : ix_H} {a ka va : Nat} (hr : cR h a ka va) (F A : Nat → Nat → Int32) (cal : ix_C) {l : KV} (hL : cL F A a ka va l) (hs : kv_so l) (hl : l.length ≤ 44) (key : Int32) : ∀ n i, i ≤ l.length → (kv_get key l = none ∨ i ≤ kv_wh key l) → l.length - i < n → ix_lp cal stX5_at n 2 [(0, ix_R (some a)), (1, ix_I key), (2, ix_I (nI i))] [] (hw h F A) = some (.inl (some (ix_I (if kv_get key l = none then -1 else nI (kv_wh key l)))), hw h F A) := by
  intro n
  induction n with
  | zero => intro i _ _ h; omega
  | succ n ih =>
    intro i hi hg hn
    rw [lX5_at_2]
    unfold jX5_at_2
    rw [cp_is hr, hw_fI, hL.1]
    rcases Nat.lt_or_ge i l.length with h1 | h1
    · obtain ⟨e1, -⟩ := hL.2 i h1
      rw [if_neg (show ¬ nI l.length ≤ nI i by rw [hw_le (by omega) (by omega)]; omega), cp_is hr, cp_rk hr, hw_in (by omega) (by omega), cond_true, hw_aI, hw_cl (by omega), e1]
      by_cases hk : (l[i]).1 = key
      · obtain ⟨w1, w2⟩ := (kv_at_wh hs h1).mp hk
        rw [if_pos hk, if_neg w1, w2]
      · rw [if_neg hk, nI_add]
        refine ih (i + 1) h1 ?_ (by omega)
        rcases hg with hg | hg
        · exact Or.inl hg
        · by_cases w : kv_get key l = none
          · exact Or.inl w
          · refine Or.inr (Nat.lt_of_le_of_ne hg fun e => hk ((kv_at_wh hs h1).mpr ⟨w, e⟩))
    · rw [if_pos (show nI l.length ≤ nI i by rw [hw_le (by omega) (by omega)]; omega)]
      have : kv_get key l = none := by
        refine hg.elim id fun w => ?_
        refine (kv_get_none hs).mpr fun ⟨w2, _⟩ => by omega
      rw [if_pos this]
theorem c_at1 {h : ix_H} {a ka va : Nat} (hr : cR h a ka va) {F A : Nat → Nat → Int32} {N : Nat} (hN : 1000 ≤ N) (d : Nat) {l : KV} (hL : cL F A a ka va l) (hs : kv_so l) (hl : l.length ≤ 44) (key : Int32) : ix_run iy_P N (d + 1) 210 [ix_R (some a), ix_I key] (hw h F A) = some (.inl (some (ix_I (if kv_get key l = none then -1 else nI (kv_wh key l)))), hw h F A) := by
  rw [rX5_at N d]
  unfold bX5_at
  obtain ⟨N, rfl⟩ : ∃ z, N = z + 1 := ⟨N - 1, by omega⟩
  rw [← lX5_at_2]
  exact c_at_l hr F A _ hL hs hl key (N + 1 + 1) 0 (Nat.zero_le _) (Or.inr (Nat.zero_le _)) (by omega)
theorem c_upTo_l {h : ix_H} {a ka va : Nat} (hr : cR h a ka va) (F A : Nat → Nat → Int32) (cal : ix_C) {l : KV} (hL : cL F A a ka va l) (hs : kv_so l) (hl : l.length ≤ 44) (key : Int32) : ∀ i n, i ≤ l.length → kv_ui key l ≤ i → i < n → ix_lp cal stX5_upTo n 5 [(0, ix_R (some a)), (1, ix_I key), (2, ix_I (nI i - nI 1))] [] (hw h F A) = some (.inl (some (ix_I (nI (kv_ui key l) - nI 1))), hw h F A) := by
  intro i
  induction i with
  | zero =>
    intro n _ hu hn
    obtain ⟨n, rfl⟩ : ∃ w, n = w + 1 := ⟨n - 1, by omega⟩
    rw [lX5_upTo_5]
    unfold jX5_upTo_5 jX5_upTo_16
    rw [if_pos hw_s0, show kv_ui key l = 0 by omega]
  | succ i ih =>
    intro n hi hu hn
    obtain ⟨n, rfl⟩ : ∃ w, n = w + 1 := ⟨n - 1, by omega⟩
    obtain ⟨e1, -⟩ := hL.2 i hi
    have hiff := kv_ui_iff (k := key) hi hs
    rw [lX5_upTo_5]
    unfold jX5_upTo_5 jX5_upTo_16
    rw [hw_sub (by omega), Nat.add_sub_cancel, if_neg (show ¬ nI i < nI 0 by rw [hw_lt (by omega) (by omega)]; omega), cp_is hr, cp_rk hr, hw_in (by omega) (by omega), cond_true, hw_aI, hw_cl (by omega), e1]
    by_cases hc : i < kv_ui key l
    · rw [if_pos (hiff.mpr hc), show kv_ui key l = i + 1 by omega, hw_sub (by omega), Nat.add_sub_cancel]
    · rw [if_neg (fun w => hc (hiff.mp w)), hw_m1]
      exact ih n (by omega) (by omega) (by omega)
theorem c_upTo {h : ix_H} {a ka va : Nat} (hr : cR h a ka va) {F A : Nat → Nat → Int32} {N : Nat} (hN : 1000 ≤ N) (d : Nat) {l : KV} (hL : cL F A a ka va l) (hs : kv_so l) (hl : l.length ≤ 44) (key : Int32) : ix_run iy_P N (d + 1) 216 [ix_R (some a), ix_I key] (hw h F A) = some (.inl (some (ix_I (nI (kv_ui key l) - nI 1))), hw h F A) := by
  rw [rX5_upTo N d]
  unfold bX5_upTo
  rw [cp_is hr, hw_fI, hL.1]
  obtain ⟨N, rfl⟩ : ∃ z, N = z + 1 := ⟨N - 1, by omega⟩
  rw [← lX5_upTo_5]
  exact c_upTo_l hr F A _ hL hs hl key l.length (N + 1 + 1) (Nat.le_refl _) (kv_ui_le _ _) (by omega)
