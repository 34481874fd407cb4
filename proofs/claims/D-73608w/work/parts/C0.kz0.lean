/-! KZ0: the component: a text of its own; single cells -/
set_option maxRecDepth 100000
section
variable {o : Nat} {h h' h2 : ix_H} {F A F' A' F2 A2 : Nat → Nat → Int32} {k c N T : Nat}
/-- a text with no tells -/
theorem v_txt (N d : Nat) : ∃ h' F', (∀ f : ix_H → ix_O, (ix_bd (ix_nwO (hw h F A) 8 4) fun h70 => (ix_isr h70 8 (some (ix_sz (hw h F A)))).bind fun a72 => (ix_rV (ix_run iy_P N (d + 5) 225 [ix_R (some a72)] h70)).bind f) = f (hw h' F' A)) ∧ gV (ix_sz h) h F A h' F' A 3 9 ∧ ix_tg h' (ix_sz h) = 8 ∧ F' (ix_sz h) 1 = nI 3 ∧ F' (ix_sz h) 2 = nI 6 ∧ F' (ix_sz h) 3 = nI 2 := by
  have t1 : ix_tg (ix_nwO h 8 4) (ix_sz h) = 8 := s_tgO h 8 4
  have g1 := gV.nw h F A 8 4
  have z1 : ix_sz (ix_nwO h 8 4) = ix_sz h + 1 := rfl
  suffices H : ∃ h' F', ix_run iy_P N (d + 5) 225 [ix_R (some (ix_sz h))] (hw (ix_nwO h 8 4) (hw_R F (ix_sz h) (fun _ => 0)) A) = some (.inl none, hw h' F' A) ∧ gV (ix_sz h) (ix_nwO h 8 4) (hw_R F (ix_sz h) (fun _ => 0)) A h' F' A 2 5 ∧ ix_tg h' (ix_sz h) = 8 ∧ F' (ix_sz h) 1 = nI 3 ∧ F' (ix_sz h) 2 = nI 6 ∧ F' (ix_sz h) 3 = nI 2 by
    obtain ⟨h', F', e, g, r⟩ := H
    exact ⟨h', F', fun f => by rw [hw_bO, hw_sz, c_isr t1 (by decide), hw_cV e], g1.trans g, r⟩
  generalize ix_nwO h 8 4 = ha at t1 z1 ⊢
  generalize hw_R F (ix_sz h) (fun _ => 0) = Fa
  generalize ix_sz h = s at t1 z1 ⊢
  have sa : s < ix_sz ha := by rw [z1]; exact Nat.lt_succ_self s
  have tb : ix_tg (ix_nwO ha 9 2) (ix_sz ha) = 9 := s_tgO ha 9 2
  have tb2 : ix_tg (ix_nwO ha 9 2) s = 8 := (s_tgO' _ _ _ (Nat.ne_of_lt sa)).trans t1
  have zb : ix_sz (ix_nwO ha 9 2) = ix_sz ha + 1 := rfl
  have gb := ((gV.nw ha Fa A 9 2).old s).1
  have gbs := ((gV.nw ha Fa A 9 2).old s).2 sa
  rw [rX7_init N (d + 4)]
  unfold bX7_init
  rw [hw_bO, hw_sz, c_isr tb (by decide)]
  generalize ix_nwO ha 9 2 = hb at tb tb2 zb gb gbs ⊢
  generalize hw_R Fa (ix_sz ha) (fun _ => 0) = Fb at gb gbs ⊢
  obtain ⟨hc, Fc, ec, ehc, f1, f2, f3⟩ := k_rndI (F := Fb) (A := A) tb (by rw [zb]; exact Nat.lt_succ_self _) N d (nI 1)
  have ne1 : s ≠ ix_sz ha := Nat.ne_of_lt sa
  have ne2 : s ≠ ix_sz hb := by
    rw [zb]
    exact Nat.ne_of_lt (Nat.lt_succ_of_lt sa)
  have gac : gV s ha Fa A hc Fc A 2 5 := by
    obtain ⟨a1, a2, a3, a4⟩ := gb
    rw [ehc]
    refine ⟨by show ix_sz hb + 1 = _; rw [a1], by show ix_sl hb + 3 = _; rw [a2], a3, fun b hb' => ?_⟩
    obtain ⟨c1, c2, c3, c4, c5, c6, c7⟩ := a4 b hb'
    have n1 : b ≠ ix_sz ha := Nat.ne_of_lt hb'
    have n2 : b ≠ ix_sz hb := by
      rw [zb]
      exact Nat.ne_of_lt (Nat.lt_succ_of_lt hb')
    refine ⟨(if_neg n2).trans c1, c2, ?_, c4, c5, c6, fun w => ⟨(f1 b n1 n2).trans (c7 w).1, ?_⟩⟩
    · rw [← c3]
      funext i
      exact if_neg n2
    · rw [← (c7 w).2]
      funext i
      rw [s_fRf' _ _ _ _ (fun q => n1 q.1), s_fRf' _ _ _ _ (fun q => n2 q.1), s_fRO' _ _ _ _ n2]
  have tc : ix_tg hc s = 8 := by
    rw [ehc]
    show ix_tg (ix_nwO hb 18 3) s = 8
    rw [s_tgO' _ _ _ ne2]
    exact tb2
  have tc2 : ix_tg (ix_wfR hc s 0 (some (ix_sz ha))) s = 8 := tc
  have gd := gac.wf 0 (some (ix_sz ha))
  rw [hw_cV ec, c_is tc, hw_bfR, c_is tc2, hw_bdF, c_is tc2, hw_bdF, c_is tc2, hw_bdF]
  simp only [hw_R_R, hw_R_same]
  refine ⟨_, _, rfl, ?_, tc2, ?_, ?_, ?_⟩
  · obtain ⟨a1, a2, a3, a4⟩ := gd
    refine ⟨a1, a2, a3, fun b hb' => ?_⟩
    obtain ⟨c1, c2, c3, c4, c5, c6, c7⟩ := a4 b hb'
    exact ⟨c1, c2, c3, c4, c5, c6, fun w => ⟨(hw_R_ne _ _ w).trans (c7 w).1, (c7 w).2⟩⟩
  · rw [hw_R_same, hw_U_ne _ _ (by decide), hw_U_ne _ _ (by decide), hw_U_same]
  · rw [hw_R_same, hw_U_ne _ _ (by decide), hw_U_same]
  · rw [hw_R_same, hw_U_same]
end
