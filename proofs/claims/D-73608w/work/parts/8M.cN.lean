/-! CN: the component: a store becomes another -/
set_option maxRecDepth 100000
/-- a hand that becomes another -/
def c_hc (g g' : Nat → Int32) : Nat → Int32 := hw_U (hw_U (hw_U (hw_U (hw_U (hw_U (hw_U (hw_U (hw_U (hw_U (hw_U (hw_U (hw_U (hw_U (hw_U (hw_U g 0 (g' 0)) 1 (g' 1)) 2 (g' 2)) 3 (g' 3)) 4 (g' 4)) 5 (g' 5)) 6 (g' 6)) 7 (g' 7)) 8 (g' 8)) 9 (g' 9)) 10 (g' 10)) 11 (g' 11)) 12 (g' 12)) 13 (g' 13)) 14 (g' 14)) 15 (g' 15)
theorem c_hc_at (g g' : Nat → Int32) (i : Nat) (h : i < 16) : c_hc g g' i = g' i := by
  unfold c_hc
  match i, h with
  | 0, _ => simp (disch := omega) only [hw_R_same, hw_R_ne, hw_U_same, hw_U_ne]
  | 1, _ => simp (disch := omega) only [hw_R_same, hw_R_ne, hw_U_same, hw_U_ne]
  | 2, _ => simp (disch := omega) only [hw_R_same, hw_R_ne, hw_U_same, hw_U_ne]
  | 3, _ => simp (disch := omega) only [hw_R_same, hw_R_ne, hw_U_same, hw_U_ne]
  | 4, _ => simp (disch := omega) only [hw_R_same, hw_R_ne, hw_U_same, hw_U_ne]
  | 5, _ => simp (disch := omega) only [hw_R_same, hw_R_ne, hw_U_same, hw_U_ne]
  | 6, _ => simp (disch := omega) only [hw_R_same, hw_R_ne, hw_U_same, hw_U_ne]
  | 7, _ => simp (disch := omega) only [hw_R_same, hw_R_ne, hw_U_same, hw_U_ne]
  | 8, _ => simp (disch := omega) only [hw_R_same, hw_R_ne, hw_U_same, hw_U_ne]
  | 9, _ => simp (disch := omega) only [hw_R_same, hw_R_ne, hw_U_same, hw_U_ne]
  | 10, _ => simp (disch := omega) only [hw_R_same, hw_R_ne, hw_U_same, hw_U_ne]
  | 11, _ => simp (disch := omega) only [hw_R_same, hw_R_ne, hw_U_same, hw_U_ne]
  | 12, _ => simp (disch := omega) only [hw_R_same, hw_R_ne, hw_U_same, hw_U_ne]
  | 13, _ => simp (disch := omega) only [hw_R_same, hw_R_ne, hw_U_same, hw_U_ne]
  | 14, _ => simp (disch := omega) only [hw_R_same, hw_R_ne, hw_U_same, hw_U_ne]
  | 15, _ => simp (disch := omega) only [hw_R_same, hw_R_ne, hw_U_same, hw_U_ne]
  | n + 16, h => omega
theorem c_hc_hd {g g' u : Nat → Int32} (h : cHd g' u) : cHd (c_hc g g') u := by
  unfold cHd at *
  rw [c_hc_at _ _ 0 (by omega), c_hc_at _ _ 1 (by omega), c_hc_at _ _ 2 (by omega), c_hc_at _ _ 4 (by omega), c_hc_at _ _ 5 (by omega), c_hc_at _ _ 6 (by omega), c_hc_at _ _ 7 (by omega), c_hc_at _ _ 8 (by omega), c_hc_at _ _ 9 (by omega), c_hc_at _ _ 10 (by omega), c_hc_at _ _ 11 (by omega), c_hc_at _ _ 12 (by omega), c_hc_at _ _ 13 (by omega), c_hc_at _ _ 14 (by omega), c_hc_at _ _ 15 (by omega)]
  exact h
theorem c_hbecomes {h : ix_H} {a b : Nat} (ha : ix_tg h a = 7) (hb : ix_tg h b = 7) (hne : b ≠ a) {F A : Nat → Nat → Int32} (h15 : F b 15 = nI 0 ∨ F b 15 = nI 1) (N d : Nat) : ix_run iy_P N (d + 1) 224 [ix_R (some a), ix_R (some b)] (hw h F A) = some (.inl none, hw h (hw_R F a (c_hc (F a) (F b))) A) := by
  have ok : ix_okn 1 (F b 15) = true := by rcases h15 with w | w <;> rw [w] <;> rfl
  rw [rX6_becomes N d]
  unfold bX6_becomes
  rw [h_is hb, h_is ha, hw_fI, hw_bdF]
  rw [h_is hb, h_is ha, hw_fI, hw_R_ne _ _ hne, hw_bdF, hw_R_R, hw_R_same]
  rw [h_is hb, h_is ha, hw_fI, hw_R_ne _ _ hne, hw_bdF, hw_R_R, hw_R_same]
  rw [h_is hb, h_is ha, hw_fI, hw_R_ne _ _ hne, hw_bdF, hw_R_R, hw_R_same]
  rw [h_is hb, h_is ha, hw_fI, hw_R_ne _ _ hne, hw_bdF, hw_R_R, hw_R_same]
  rw [h_is hb, h_is ha, hw_fI, hw_R_ne _ _ hne, hw_bdF, hw_R_R, hw_R_same]
  rw [h_is hb, h_is ha, hw_fI, hw_R_ne _ _ hne, hw_bdF, hw_R_R, hw_R_same]
  rw [h_is hb, h_is ha, hw_fI, hw_R_ne _ _ hne, hw_bdF, hw_R_R, hw_R_same]
  rw [h_is hb, h_is ha, hw_fI, hw_R_ne _ _ hne, hw_bdF, hw_R_R, hw_R_same]
  rw [h_is hb, h_is ha, hw_fI, hw_R_ne _ _ hne, hw_bdF, hw_R_R, hw_R_same]
  rw [h_is hb, h_is ha, hw_fI, hw_R_ne _ _ hne, hw_bdF, hw_R_R, hw_R_same]
  rw [h_is hb, h_is ha, hw_fI, hw_R_ne _ _ hne, hw_bdF, hw_R_R, hw_R_same]
  rw [h_is hb, h_is ha, hw_fI, hw_R_ne _ _ hne, hw_bdF, hw_R_R, hw_R_same]
  rw [h_is hb, h_is ha, hw_fI, hw_R_ne _ _ hne, hw_bdF, hw_R_R, hw_R_same]
  rw [h_is hb, h_is ha, hw_fI, hw_R_ne _ _ hne, hw_bdF, hw_R_R, hw_R_same]
  rw [h_is hb, h_is ha, hw_fI, hw_R_ne _ _ hne, ok, cond_true, hw_bdF, hw_R_R, hw_R_same]
  rfl
theorem c_rbecomes {h : ix_H} {a ka va b kb vb : Nat} (hr : cR h a ka va) (hb : cR h b kb vb) (hd : cD a ka va b kb vb) {F A : Nat → Nat → Int32} {B : zB} {r : Nat} (hE : cE F A b kb vb B r) (hl : (B.2 r).length ≤ 44) {N : Nat} (hN : 1000 ≤ N) (d : Nat) :
    ∃ F' A', ix_run iy_P N (d + 2) 217 [ix_R (some a), ix_R (some b)] (hw h F A) = some (.inl none, hw h F' A') ∧ (∀ c, c ≠ a → F' c = F c) ∧ (∀ c, c ≠ ka → c ≠ va → A' c = A c) ∧ cE F' A' a ka va B r := by
  have hne : b ≠ a := fun w => hd.1 w.symm
  obtain ⟨a0, a1, a2, a3, a4, a5, a6, a7, a8⟩ := hE
  have eb := c_begins hr F A N d (F b 2) (F b 6) (F b 7) (F b 8)
  generalize hF1 : hw_R F a (hw_U (hw_U (hw_U (hw_U (hw_U (hw_U (hw_U (hw_U (hw_U (hw_U (F a) 2 (F b 2)) 3 (nI 0)) 4 (nI 0)) 5 (-2)) 6 (F b 6)) 7 (F b 7)) 8 (F b 8)) 9 (-1)) 10 (-2)) 11 (nI 0)) = F1 at eb
  have f1b : F1 b = F b := by rw [← hF1, hw_R_ne _ _ hne]
  obtain ⟨F2, A2, e2, q2, g2⟩ := c_takes hr hb hd hN d (F := F1) (a8.keep f1b rfl rfl) hl
  have f2b : F2 b = F b := (q2.1 b hne).trans f1b
  have ok : ix_okn 1 (F b 11) = true := by rw [a5]; rcases a6 with w | w <;> rw [w] <;> rfl
  rw [rX5_becomes N (d + 1)]
  unfold bX5_becomes
  rw [cp_is hb, cp_is hb, cp_is hb, cp_is hb, cp_isr hr, hw_fI, hw_cV eb, cp_isr hr, hw_cV e2, cp_is hb, cp_is hr, hw_bdF, hw_fI, f2b, cp_is hb, cp_is hr, hw_fI, hw_R_ne _ _ hne, f2b, hw_bdF, hw_R_R, hw_R_same, cp_is hb, cp_is hr, hw_fI, hw_R_ne _ _ hne, f2b, ok, cond_true, hw_bdF, hw_R_R, hw_R_same]
  have k : ∀ j, [3, 4, 5].contains j = false → F2 a j = F1 a j := q2.2.1
  refine ⟨_, A2, rfl, fun c hc => ?_, fun c h1 h2 => q2.2.2 c h1 h2, ?_⟩
  · rw [hw_R_ne _ _ hc, q2.1 c hc, ← hF1, hw_R_ne _ _ hc]
  · have f1a : F1 a = hw_U (hw_U (hw_U (hw_U (hw_U (hw_U (hw_U (hw_U (hw_U (hw_U (F a) 2 (F b 2)) 3 (nI 0)) 4 (nI 0)) 5 (-2)) 6 (F b 6)) 7 (F b 7)) 8 (F b 8)) 9 (-1)) 10 (-2)) 11 (nI 0) := by rw [← hF1, hw_R_same]
    have k2 : F2 a 2 = F b 2 := by rw [k 2 rfl, f1a]; simp (disch := omega) only [hw_R_same, hw_R_ne, hw_U_same, hw_U_ne]
    have k6 : F2 a 6 = F b 6 := by rw [k 6 rfl, f1a]; simp (disch := omega) only [hw_R_same, hw_R_ne, hw_U_same, hw_U_ne]
    have k7 : F2 a 7 = F b 7 := by rw [k 7 rfl, f1a]; simp (disch := omega) only [hw_R_same, hw_R_ne, hw_U_same, hw_U_ne]
    have k8 : F2 a 8 = F b 8 := by rw [k 8 rfl, f1a]; simp (disch := omega) only [hw_R_same, hw_R_ne, hw_U_same, hw_U_ne]
    refine ⟨?_, ?_, ?_, ?_, ?_, ?_, a6, fun w => ?_, ⟨⟨?_, g2.1.2⟩, ?_, ?_⟩⟩
    · rw [hw_R_same, hw_U_ne _ _ (by omega), hw_U_ne _ _ (by omega), hw_U_ne _ _ (by omega), k2]; exact a0
    · rw [hw_R_same, hw_U_ne _ _ (by omega), hw_U_ne _ _ (by omega), hw_U_ne _ _ (by omega), k6]; exact a1
    · rw [hw_R_same, hw_U_ne _ _ (by omega), hw_U_ne _ _ (by omega), hw_U_ne _ _ (by omega), k7]; exact a2
    · rw [hw_R_same, hw_U_ne _ _ (by omega), hw_U_ne _ _ (by omega), hw_U_ne _ _ (by omega), k8]; exact a3
    · rw [hw_R_same, hw_U_ne _ _ (by omega), hw_U_same]; exact a4
    · rw [hw_R_same, hw_U_same]; exact a5
    · rw [hw_R_same, hw_U_ne _ _ (by omega), hw_U_ne _ _ (by omega), hw_U_same]; exact a7 w
    · rw [hw_R_same, hw_U_ne _ _ (by omega), hw_U_ne _ _ (by omega), hw_U_ne _ _ (by omega)]; exact g2.1.1
    · rw [hw_R_same, hw_U_ne _ _ (by omega), hw_U_ne _ _ (by omega), hw_U_ne _ _ (by omega)]; exact g2.2.1
    · rw [hw_R_same, hw_U_ne _ _ (by omega), hw_U_ne _ _ (by omega), hw_U_ne _ _ (by omega)]; exact g2.2.2
