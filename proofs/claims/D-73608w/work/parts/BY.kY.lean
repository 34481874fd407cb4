/-! KY: the component: its parts are laid on: the fault, a store, the tokens -/
set_option maxRecDepth 100000
section
variable {o : Nat} {h h' h2 : ix_H} {F A F' A' F2 A2 : Nat → Nat → Int32} {k c N : Nat}
theorem gV.wf (g : gV o h F A h' F' A' k c) (j : Nat) (v : Option Nat) : gV o h F A (ix_wfR h' o j v) F' A' k c := by
  obtain ⟨a1, a2, a3, a4⟩ := g
  refine ⟨a1, a2, a3, fun b hb => ?_⟩
  obtain ⟨c1, c2, c3, c4, c5, c6, c7⟩ := a4 b hb
  refine ⟨c1, c2, c3, c4, c5, c6, fun w => ⟨(c7 w).1, ?_⟩⟩
  rw [← (c7 w).2]
  funext i
  exact s_fRf' _ _ _ _ (fun q => w q.1)
theorem gV.nw (h : ix_H) (F A : Nat → Nat → Int32) (t n : Nat) : gV (ix_sz h) h F A (ix_nwO h t n) (hw_R F (ix_sz h) (fun _ => 0)) A 1 n := by
  refine ⟨rfl, rfl, rfl, fun b hb => ?_⟩
  have ne : b ≠ ix_sz h := by omega
  refine ⟨if_neg ne, rfl, ?_, rfl, rfl, rfl, fun _ => ⟨hw_R_ne _ _ ne, ?_⟩⟩
  · funext i
    exact if_neg ne
  · funext i
    exact if_neg ne
/-- what lies ahead stays -/
theorem gV.old (g : gV (ix_sz h) h F A h' F' A' k c) (o : Nat) : gV o h F A h' F' A' k c ∧ (o < ix_sz h → ix_fR h' o = ix_fR h o ∧ F' o = F o) := by
  obtain ⟨a1, a2, a3, a4⟩ := g
  refine ⟨⟨a1, a2, a3, fun b hb => ?_⟩, fun ho => ?_⟩
  · obtain ⟨c1, c2, c3, c4, c5, c6, c7⟩ := a4 b hb
    exact ⟨c1, c2, c3, c4, c5, c6, fun _ => c7 (by omega)⟩
  · obtain ⟨c1, c2, c3, c4, c5, c6, c7⟩ := a4 o ho
    have := c7 (by omega)
    exact ⟨this.2, this.1⟩
/-- behind a new object at s: what its constructor adds -/
theorem gV.ob {s : Nat} (hs : s = ix_sz h) (g : gV s h F A h' F' A' k c) {h3 : ix_H} {F3 A3 : Nat → Nat → Int32} {k3 c3 : Nat} (g3 : gV s h' F' A' h3 F3 A3 k3 c3) : gV s h F A h3 F3 A3 (k + k3) (c + c3) := g.trans g3
/-- the fault's cell, laid on -/
def vF (h : ix_H) (s : Nat) : ix_H := (ix_wfR (ix_wfR (ix_wfR (ix_wfR (ix_wfR (ix_wfR (ix_wfR h s 0 (some s)) s 1 (some (ix_cs h 41))) s 2 (some (ix_cs h 42))) s 1 none) s 3 (some (ix_cs h 0))) s 0 none) s 2 none)
theorem v_fltI {s : Nat} (ht : ix_tg h s = 2) (N d : Nat) : ix_run iy_P N (d + 4) 117 [ix_R (some s)] (hw h F A) = some (.inl none, hw (vF h s) F A) := by
  have e4 : ix_run iy_P N (d + 1) 1 [ix_R (some s), ix_R (some (ix_cs (hw h F A) 0)), ix_R none, ix_I (nI 0), ix_I (nI 0)] (hw h F A) = some (.inl none, hw (vF h s) F A) := by
    rw [rJ0_init_2 N d]
    unfold bJ0_init_2 jJ0_init_2_20 jJ0_init_2_32
    rw [c_is ht, hw_bfR, c_is (by exact ht), hw_bfR, c_is (by exact ht), hw_bfR, if_pos rfl, c_is (by exact ht), hw_bfR, c_is (by exact ht), hw_bfR, c_is (by exact ht), hw_bfR, if_pos rfl, c_is (by exact ht), hw_bfR]
    rfl
  rw [rX1_init N (d + 3)]
  unfold bX1_init
  rw [c_isr ht (by decide), rJ2_init N (d + 2)]
  unfold bJ2_init
  rw [c_isr ht (by decide), rJ1_init N (d + 1)]
  unfold bJ1_init
  rw [c_isr ht (by decide), hw_cV e4]
  rfl
/-- the fault -/
theorem v_flt (N d : Nat) : ∃ h' F', (∀ f : ix_H → ix_O, (ix_bd (ix_nwO (hw h F A) 2 8) fun h2 => (ix_isr h2 2 (some (ix_sz (hw h F A)))).bind fun a4 => (ix_rV (ix_run iy_P N (d + 4) 117 [ix_R (some a4)] h2)).bind f) = f (hw h' F' A)) ∧ gV (ix_sz h) h F A h' F' A 1 8 ∧ ix_tg h' (ix_sz h) = 2 := by
  have t1 : ix_tg (ix_nwO h 2 8) (ix_sz h) = 2 := s_tgO h 2 8
  refine ⟨vF (ix_nwO h 2 8) (ix_sz h), hw_R F (ix_sz h) (fun _ => 0), fun f => ?_, ((((((((gV.nw h F A 2 8).wf 0 _).wf 1 _).wf 2 _).wf 1 _).wf 3 _).wf 0 _).wf 2 _), t1⟩
  rw [hw_bO, hw_sz, c_isr t1 (by decide), hw_cV (v_fltI t1 N d)]
/-- a store -/
theorem v_sto (hz : ix_sz h + 7000 < 1099511627776) (hN : 10 ≤ N) (d : Nat) : ∃ h' F' A', (∀ f : ix_H → ix_O, (ix_bd (ix_nwO (hw h F A) 5 13) fun h21 => (ix_isr h21 5 (some (ix_sz (hw h F A)))).bind fun a23 => (ix_rV (ix_run iy_P N (d + 2) 171 [ix_R (some a23)] h21)).bind f) = f (hw h' F' A')) ∧ gV (ix_sz h) h F A h' F' A' 18 4413 ∧ F' (ix_sz h) = (fun _ => 0) ∧ cS h' (vL (ix_sz h) (ix_sz h + 1)) 0 := by
  have t1 : ix_tg (ix_nwO h 5 13) (ix_sz h) = 5 := s_tgO h 5 13
  have z1 : ix_sz (ix_nwO h 5 13) = ix_sz h + 1 := rfl
  obtain ⟨h', F', A', e, g, o, s⟩ := c_newS (h := ix_nwO h 5 13) (F := hw_R F (ix_sz h) (fun _ => 0)) (A := A) t1 (by rw [z1]; omega) (by rw [z1]; omega) hN d
  refine ⟨h', F', A', fun f => ?_, (gV.nw h F A 5 13).trans g, ?_, ?_⟩
  · rw [hw_bO, hw_sz, c_isr t1 (by decide), hw_cV e]
  · rw [o, hw_R_same]
  · rw [← z1]
    exact s
end
