/-! KZ2: the component: its constructor, up to the store's beginning -/
set_option maxRecDepth 100000
section
variable {o : Nat} {h h' h2 : ix_H} {F A F' A' F2 A2 : Nat → Nat → Int32} {k c N T : Nat}
/-- what was laid on behind is told in field j -/
theorem gV.sub (g : gV (ix_sz h) h F A h' F' A' k c) (ho : o < ix_sz h) (j : Nat) (v : Option Nat) : gV o h F A (ix_wfR h' o j v) F' A' k c ∧ ix_fR (ix_wfR h' o j v) o j = v ∧ (∀ i, i ≠ j → ix_fR (ix_wfR h' o j v) o i = ix_fR h o i) ∧ F' o = F o ∧ ∀ b, b ≠ o → ix_fR (ix_wfR h' o j v) b = ix_fR h' b := by
  obtain ⟨g1, g2⟩ := g.old o
  obtain ⟨g3, g4⟩ := g2 ho
  refine ⟨g1.wf j v, s_fRf _ _ _ _, fun i hi => ?_, g4, fun b hb => ?_⟩
  · rw [s_fRf' _ _ _ _ (fun q => hi q.2), g3]
  · funext i
    exact s_fRf' _ _ _ _ (fun q => hb q.1)
/-- a cell's row at the end -/
theorem gV.row (g : gV o h F A h' F' A' k c) {b : Nat} (hb : b < ix_sz h) (ho : b ≠ o) : ix_tg h' b = ix_tg h b ∧ ix_ln h' b = ix_ln h b ∧ ix_fR h' b = ix_fR h b ∧ ix_aR h' b = ix_aR h b ∧ F' b = F b ∧ A' b = A b := by
  obtain ⟨c1, c2, c3, c4, c5, c6, c7⟩ := g.2.2.2 b hb
  exact ⟨c1, c2, (c7 ho).2, c5, (c7 ho).1, c6⟩
/-- the slots' array and its stores, from before -/
theorem v_slotsG {q S : Nat} (hq : q = S) (g0 : gV o h F A (ix_nwA h 113 3) F (hw_R A (ix_sz h) (fun _ => 0)) 1 3) (hS : ix_sz h = S) (sl : ix_sz h' = S + 1 + 54 ∧ ix_sl h' = ix_sl (ix_nwA h 113 3) + 13239 ∧ ix_cs h' = ix_cs (ix_nwA h 113 3) ∧ ∀ b, b < S + 1 → ix_tg h' b = ix_tg (ix_nwA h 113 3) b ∧ ix_ln h' b = ix_ln (ix_nwA h 113 3) b ∧ ix_fR h' b = ix_fR (ix_nwA h 113 3) b ∧ ix_fL h' b = ix_fL (ix_nwA h 113 3) b ∧ ix_aL h' b = ix_aL (ix_nwA h 113 3) b ∧ (b ≠ q → ix_aR h' b = ix_aR (ix_nwA h 113 3) b) ∧ F' b = F b ∧ A' b = hw_R A (ix_sz h) (fun _ => 0) b) : gV o h F A h' F' A' 55 13242 := by
  obtain ⟨a1, a2, a3, a4⟩ := g0
  obtain ⟨b1, b2, b3, b4⟩ := sl
  refine ⟨by rw [b1, hS], by rw [b2, a2], b3.trans a3, fun b hb => ?_⟩
  rw [hS] at hb
  obtain ⟨c1, c2, c3, c4, c5, c6, c7⟩ := a4 b (by rw [hS]; exact hb)
  obtain ⟨d1, d2, d3, d4, d5, d6, d7, d8⟩ := b4 b (Nat.lt_succ_of_lt hb)
  exact ⟨d1.trans c1, d2.trans c2, d4.trans c3, d5.trans c4, (d6 (by rw [hq]; exact Nat.ne_of_lt hb)).trans c5, d8.trans c6, fun w => ⟨d7.trans (c7 w).1, d3.trans (c7 w).2⟩⟩
end
