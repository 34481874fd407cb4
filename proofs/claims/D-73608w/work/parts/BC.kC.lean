/-! KC: the component: which act, which tell a word is -/
set_option maxRecDepth 100000
theorem k_aiL (g o : Int32 → ix_H → ix_O) (H : ix_H) (kd : Nat) (e0 : g (nI 0) H = o (nI 1) H) (e1 : g (nI 1) H = o (nI 2) H) (e2 : g (nI 2) H = o (nI 3) H) (e3 : g (-1) H = o (nI 0) H) : (if kd = 31 then (if nI 1 = nI 0 then g (-1) H else g (nI 1) H) else if kd = 24 then (if nI 1 = nI 0 then g (-1) H else g (nI 2) H) else if kd = 30 then (if nI 1 = nI 0 then g (-1) H else g (nI 0) H) else g (-1) H) = o (k_ai kd) H := by
  unfold k_ai
  rw [e0, e1, e2, e3]
  by_cases c1 : kd = 31
  · subst c1
    rfl
  rw [if_neg c1]
  by_cases c2 : kd = 24
  · subst c2
    rfl
  rw [if_neg c2]
  by_cases c3 : kd = 30
  · subst c3
    rfl
  rw [if_neg c3, if_neg c3, if_neg c1, if_neg c2]
theorem k_tiL (g : Int32 → ix_H → ix_O) (H : ix_H) (kd : Nat) : (if kd = 28 then (if nI 1 = nI 0 then g (-1) H else g (nI 7) H) else if kd = 31 then (if nI 1 = nI 0 then g (-1) H else g (nI 1) H) else if kd = 24 then (if nI 1 = nI 0 then g (-1) H else g (nI 3) H) else if kd = 30 then (if nI 1 = nI 0 then g (-1) H else g (nI 0) H) else if kd = 25 then (if nI 1 = nI 0 then g (-1) H else g (nI 4) H) else if kd = 23 then (if nI 1 = nI 0 then g (-1) H else g (nI 2) H) else if kd = 26 then (if nI 1 = nI 0 then g (-1) H else g (nI 5) H) else if kd = 27 then (if nI 1 = nI 0 then g (-1) H else g (nI 6) H) else g (-1) H) = g (k_ti kd) H := by
  unfold k_ti
  by_cases c1 : kd = 28
  · subst c1
    rfl
  rw [if_neg c1]
  by_cases c2 : kd = 31
  · subst c2
    rfl
  rw [if_neg c2]
  by_cases c3 : kd = 24
  · subst c3
    rfl
  rw [if_neg c3]
  by_cases c4 : kd = 30
  · subst c4
    rfl
  rw [if_neg c4]
  by_cases c5 : kd = 25
  · subst c5
    rfl
  rw [if_neg c5]
  by_cases c6 : kd = 23
  · subst c6
    rfl
  rw [if_neg c6]
  by_cases c7 : kd = 26
  · subst c7
    rfl
  rw [if_neg c7]
  by_cases c8 : kd = 27
  · subst c8
    rfl
  rw [if_neg c8, if_neg c4, if_neg c2, if_neg c6, if_neg c3, if_neg c5, if_neg c7, if_neg c8, if_neg c1]
section
variable {h : ix_H} {F A : Nat → Nat → Int32} {D cv : Nat → Nat} {tk : Nat → tK} {e t op wi N s v kd : Nat} {w : Option Nat}
theorem kC.fR (hc : kC h F A D cv) (hn : ∀ j, j < 18 → s ≠ ix_cs h (k_kw j)) (r : Nat → Int32) : kC h (hw_R F s r) A D cv := by
  obtain ⟨c1, c2, c3⟩ := hc
  refine ⟨c1, fun w hw => ?_, c3⟩
  obtain ⟨⟨t1, t2, t3, t4, t5, t6, t7, t8⟩, r1⟩ := c2 w hw
  exact ⟨⟨t1, t2, t3, by rw [hw_R_ne _ _ (fun q => hn w hw q.symm)]; exact t4, t5, t6, t7, t8⟩, r1⟩
theorem kT.fR {s v : Nat} {w : List Int32} (t : kT h F A s v w) {r : Nat → Int32} (hr : r 1 = F s 1) : kT h (hw_R F s r) A s v w := by
  obtain ⟨t1, t2, t3, t4, t5, t6, t7, t8⟩ := t
  exact ⟨t1, t2, t3, by rw [hw_R_same, hr]; exact t4, t5, t6, t7, t8⟩
theorem k_act (hc : kC h F A D cv) (t : kT h F A s v (k_w kd)) (hs19 : ix_tg h s = 19) (hv : ix_tg h v = 102) (h2 : F s 2 = nI 0) (h3 : F s 3 = nI 0) (h20 : 20 ≤ kd) (h37 : kd ≤ 37) (hn : ∀ j, j < 18 → s ≠ ix_cs h (k_kw j)) (hN : 100 ≤ N) (d : Nat) : ∃ r, ix_run iy_P N (d + 5) 119 [ix_R (some s)] (hw h F A) = some (.inl (some (ix_I (k_ai kd))), hw h (hw_R F s r) A) := by
  obtain ⟨r, e1, r1⟩ := t_hashCode t hs19 hv h2 h3 hN d (k_w_ok h20 h37).1
  obtain ⟨v3, v4, v5, -⟩ := k_hs_v
  have hc' := hc.fR hn r
  have t' := t.fR r1
  refine ⟨r, ?_⟩
  rw [rX10_act N (d + 4)]
  unfold bX10_act
  rw [t_isr t, hw_cI e1]
  dsimp only
  rw [show ix_cs (hw h (hw_R F s r) A) 2 = ix_cs (hw h (hw_R F s r) A) (k_kw 4) from rfl, k_case hc' t' h20 h37 (j := 4) (by omega) v4 (.inr hn) hN (d + 2), show ix_cs (hw h (hw_R F s r) A) 3 = ix_cs (hw h (hw_R F s r) A) (k_kw 5) from rfl, k_case hc' t' h20 h37 (j := 5) (by omega) v5 (.inr hn) hN (d + 2), show ix_cs (hw h (hw_R F s r) A) 1 = ix_cs (hw h (hw_R F s r) A) (k_kw 3) from rfl, k_case hc' t' h20 h37 (j := 3) (by omega) v3 (.inr hn) hN (d + 2)]
  rw [show k_kk 4 = 31 from rfl, show k_kk 5 = 24 from rfl, show k_kk 3 = 30 from rfl]
  dsimp only
  exact k_aiL (fun v H => jX10_act_27 _ _ v H) (fun v H => some (.inl (some (ix_I v)), H)) (hw h (hw_R F s r) A) kd rfl rfl rfl rfl
/-- behind a tell's first word -/
theorem k_toldS (T : gT h F A D cv tk e t op wi w) (h20 : 20 ≤ x_kd tk t) (hN : 1000 ≤ N) (d : Nat) (K : ix_K) : ∃ h' F' A', bX3_told (ix_run iy_P N (d + 7)) K (D 3) (hw h F A) = jX3_told_74 (ix_run iy_P N (d + 7)) K (D 3) (k_ti (x_kd tk t)) (hw h' F' A') ∧ gN h F A h' F' A' 4 := by
  have hs := T.1
  obtain ⟨k1, k2, k3, k4, k5, k6, k7⟩ := T.row
  have T4 := T.2.2.2.1
  have so := k_so_5 _ k7
  obtain ⟨h', F', A', s, e1, gn, s1, s2, s3, s4, s5, s6, s7⟩ := k_text (F := F) (N := N) hs T.2.2.1 T4.1 T4.2.1 T4.2.2 h20 hN d
  have T' := T.ofN gn
  have hM := T.hM
  have ecs : ix_cs h' = ix_cs h := gn.2.2.2.1
  have hn : ∀ j, j < 18 → s ≠ ix_cs h' (k_kw j) := fun j hj => by
    rw [ecs]
    have := (hM.2.1 j hj).1
    omega
  obtain ⟨r, e2, r1⟩ := t_hashCode (N := N) s5 s2 s3 s6 s7 (by omega) (d + 3) (k_w_ok h20 k7).1
  obtain ⟨v3, v4, v5, v6, v7, v8, v9, v10⟩ := k_hs_v
  have hc' := T'.2.1.fR hn r
  have t' := s5.fR r1
  have g2 : gN h F A h' (hw_R F' s r) A' 4 := gn.fR (.inl s1) r
  refine ⟨h', hw_R F' s r, A', ?_, g2⟩
  unfold bX3_told
  rw [k_isr3 hs, k_sortE T N (d + 3), if_neg (by omega), ok_xI, if_pos (so.2.2.1.mpr h20), k_is3 hs, k_is3 hs, hw_fI, T.2.2.2.2.1, k_t3r hs, hw_cR e1]
  dsimp only
  rw [t_isr s5, hw_cI e2]
  dsimp only
  generalize hw_R F' s r = F2 at hc' t' ⊢
  rw [show ix_cs (hw h' F2 A') 11 = ix_cs (hw h' F2 A') (k_kw 10) from rfl, k_case hc' t' h20 k7 (j := 10) (by omega) v10 (.inr hn) (by omega) (d + 5),
    show ix_cs (hw h' F2 A') 2 = ix_cs (hw h' F2 A') (k_kw 4) from rfl, k_case hc' t' h20 k7 (j := 4) (by omega) v4 (.inr hn) (by omega) (d + 5),
    show ix_cs (hw h' F2 A') 3 = ix_cs (hw h' F2 A') (k_kw 5) from rfl, k_case hc' t' h20 k7 (j := 5) (by omega) v5 (.inr hn) (by omega) (d + 5),
    show ix_cs (hw h' F2 A') 1 = ix_cs (hw h' F2 A') (k_kw 3) from rfl, k_case hc' t' h20 k7 (j := 3) (by omega) v3 (.inr hn) (by omega) (d + 5),
    show ix_cs (hw h' F2 A') 8 = ix_cs (hw h' F2 A') (k_kw 7) from rfl, k_case hc' t' h20 k7 (j := 7) (by omega) v7 (.inr hn) (by omega) (d + 5),
    show ix_cs (hw h' F2 A') 7 = ix_cs (hw h' F2 A') (k_kw 6) from rfl, k_case hc' t' h20 k7 (j := 6) (by omega) v6 (.inr hn) (by omega) (d + 5),
    show ix_cs (hw h' F2 A') 9 = ix_cs (hw h' F2 A') (k_kw 8) from rfl, k_case hc' t' h20 k7 (j := 8) (by omega) v8 (.inr hn) (by omega) (d + 5),
    show ix_cs (hw h' F2 A') 10 = ix_cs (hw h' F2 A') (k_kw 9) from rfl, k_case hc' t' h20 k7 (j := 9) (by omega) v9 (.inr hn) (by omega) (d + 5)]
  rw [show k_kk 10 = 28 from rfl, show k_kk 4 = 31 from rfl, show k_kk 5 = 24 from rfl, show k_kk 3 = 30 from rfl, show k_kk 7 = 25 from rfl, show k_kk 6 = 23 from rfl, show k_kk 8 = 26 from rfl, show k_kk 9 = 27 from rfl]
  dsimp only
  exact k_tiL (fun v H => jX3_told_74 (ix_run iy_P N (d + 7)) K (D 3) v H) (hw h' F2 A') (x_kd tk t)
end
