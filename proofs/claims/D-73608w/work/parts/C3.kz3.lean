/-! KZ3: the component: parts of its constructor, at any depth -/
set_option maxRecDepth 100000
section
variable {o : Nat} {h h' h2 : ix_H} {F A F' A' F2 A2 : Nat → Nat → Int32} {k c N T n : Nat}
theorem v_fltN (hn : 4 ≤ n) (N : Nat) : ∃ h' F', (∀ f : ix_H → ix_O, (ix_bd (ix_nwO (hw h F A) 2 8) fun h2 => (ix_isr h2 2 (some (ix_sz (hw h F A)))).bind fun a4 => (ix_rV (ix_run iy_P N n 117 [ix_R (some a4)] h2)).bind f) = f (hw h' F' A)) ∧ gV (ix_sz h) h F A h' F' A 1 8 ∧ ix_tg h' (ix_sz h) = 2 := by
  obtain ⟨m, rfl⟩ : ∃ m, n = m + 4 := ⟨n - 4, by omega⟩
  exact v_flt N m
theorem v_stoN (hn : 2 ≤ n) (hz : ix_sz h + 7000 < 1099511627776) (hN : 10 ≤ N) : ∃ h' F' A', (∀ f : ix_H → ix_O, (ix_bd (ix_nwO (hw h F A) 5 13) fun h21 => (ix_isr h21 5 (some (ix_sz (hw h F A)))).bind fun a23 => (ix_rV (ix_run iy_P N n 171 [ix_R (some a23)] h21)).bind f) = f (hw h' F' A')) ∧ gV (ix_sz h) h F A h' F' A' 18 4413 ∧ F' (ix_sz h) = (fun _ => 0) ∧ cS h' (vL (ix_sz h) (ix_sz h + 1)) 0 := by
  obtain ⟨m, rfl⟩ : ∃ m, n = m + 2 := ⟨n - 2, by omega⟩
  exact v_sto hz hN m
theorem v_tokIN (hn : 1 ≤ n) {s : Nat} (ht : ix_tg h s = 3) (hs : s < ix_sz h) (hl : ∀ i, i < 18 → ix_tg h (ix_cs h (k_kw i)) = 531 ∧ ix_cs h (k_kw i) < ix_sz h) (N : Nat) :
    ∃ h' A', ix_run iy_P N n 138 [ix_R (some s)] (hw h F A) = some (.inl none, hw h' F A') ∧ gV s h F A h' F A' 6 10022 ∧ (ix_fR h' s 0 = some (ix_sz h) ∧ ix_fR h' s 1 = some (ix_sz h + 1) ∧ ix_fR h' s 3 = some (ix_sz h + 2) ∧ ix_fR h' s 4 = some (ix_sz h + 3) ∧ ix_fR h' s 5 = some (ix_sz h + 4) ∧ ix_fR h' s 6 = some (ix_sz h + 5)) ∧ (ix_tg h' (ix_sz h) = 114 ∧ ix_ln h' (ix_sz h) = 18 ∧ ∀ i, i < 18 → ix_aR h' (ix_sz h) i = some (ix_cs h (k_kw i))) ∧ (ix_tg h' (ix_sz h + 1) = 102 ∧ ix_ln h' (ix_sz h + 1) = 2000) ∧ (ix_tg h' (ix_sz h + 2) = 102 ∧ ix_ln h' (ix_sz h + 2) = 2001) ∧ (ix_tg h' (ix_sz h + 3) = 103 ∧ ix_ln h' (ix_sz h + 3) = 2001) ∧ (ix_tg h' (ix_sz h + 4) = 103 ∧ ix_ln h' (ix_sz h + 4) = 2001) ∧ (ix_tg h' (ix_sz h + 5) = 103 ∧ ix_ln h' (ix_sz h + 5) = 2001) := by
  obtain ⟨m, rfl⟩ : ∃ m, n = m + 1 := ⟨n - 1, by omega⟩
  exact v_tokI ht hs hl N m
theorem v_recSN (hn : 1 ≤ n) (ht : ix_tg h o = T) (ho : o < ix_sz h) (N j : Nat) (f : ix_H → ix_O) : (ix_bd (ix_nwO (hw h F A) 6 12) fun h11 => (ix_isr h11 6 (some (ix_sz (hw h F A)))).bind fun a13 => (ix_rV (ix_run iy_P N n 207 [ix_R (some a13)] h11)).bind fun r12 => (ix_is r12 T (some o)).bind fun a14 => ix_bd (ix_wfR r12 a14 j (some (ix_sz (hw h F A)))) f) = f (hw (vR h o j) (hw_R F (ix_sz h) (fun _ => 0)) (vRA h A)) := by
  obtain ⟨m, rfl⟩ : ∃ m, n = m + 1 := ⟨n - 1, by omega⟩
  exact v_recS ht ho N m j f
theorem v_txtN (hn : 5 ≤ n) (N : Nat) : ∃ h' F', (∀ f : ix_H → ix_O, (ix_bd (ix_nwO (hw h F A) 8 4) fun h70 => (ix_isr h70 8 (some (ix_sz (hw h F A)))).bind fun a72 => (ix_rV (ix_run iy_P N n 225 [ix_R (some a72)] h70)).bind f) = f (hw h' F' A)) ∧ gV (ix_sz h) h F A h' F' A 3 9 ∧ ix_tg h' (ix_sz h) = 8 ∧ F' (ix_sz h) 1 = nI 3 ∧ F' (ix_sz h) 2 = nI 6 ∧ F' (ix_sz h) 3 = nI 2 := by
  obtain ⟨m, rfl⟩ : ∃ m, n = m + 5 := ⟨n - 5, by omega⟩
  exact v_txt N m
theorem v_slotsN (hn : 2 ≤ n) {q : Nat} (tq : ix_tg h q = 113) (lq : ix_ln h q = 3) {S : Nat} (hS : ix_sz h = S) (hq : q < S) (hz : S + 8000 < 1099511627776) (hN : 10 ≤ N) : ∃ h' F' A', (∀ f : ix_H → ix_O,
    (ix_bd (ix_nwO (hw h F A) 5 13) fun h32 =>
    (ix_isr h32 5 (some (ix_sz (hw h F A)))).bind fun a34 =>
    (ix_rV (ix_run iy_P N n 171 [ix_R (some a34)] h32)).bind fun r33 =>
    (ix_at r33 113 (some q) (nI 0)).bind fun a35 =>
    cond (ix_of r33 [5] (some (ix_sz (hw h F A)))) (
    ix_bd (ix_waR r33 a35 (nI 0).toNatClampNeg (some (ix_sz (hw h F A)))) fun h36 =>
      ix_bd (ix_nwO h36 5 13) fun h37 =>
      (ix_isr h37 5 (some (ix_sz h36))).bind fun a39 =>
      (ix_rV (ix_run iy_P N n 171 [ix_R (some a39)] h37)).bind fun r38 =>
      (ix_at r38 113 (some q) (nI 1)).bind fun a40 =>
      cond (ix_of r38 [5] (some (ix_sz h36))) (
      ix_bd (ix_waR r38 a40 (nI 1).toNatClampNeg (some (ix_sz h36))) fun h41 =>
        ix_bd (ix_nwO h41 5 13) fun h42 =>
        (ix_isr h42 5 (some (ix_sz h41))).bind fun a44 =>
        (ix_rV (ix_run iy_P N n 171 [ix_R (some a44)] h42)).bind fun r43 =>
        (ix_at r43 113 (some q) (nI 2)).bind fun a45 =>
        cond (ix_of r43 [5] (some (ix_sz h41))) (
        ix_bd (ix_waR r43 a45 (nI 2).toNatClampNeg (some (ix_sz h41))) f) none) none) none) = f (hw h' F' A')) ∧
    (ix_sz h' = S + 54 ∧ ix_sl h' = ix_sl h + 13239 ∧ ix_cs h' = ix_cs h ∧ ∀ b, b < S → ix_tg h' b = ix_tg h b ∧ ix_ln h' b = ix_ln h b ∧ ix_fR h' b = ix_fR h b ∧ ix_fL h' b = ix_fL h b ∧ ix_aL h' b = ix_aL h b ∧ (b ≠ q → ix_aR h' b = ix_aR h b) ∧ F' b = F b ∧ A' b = A b) ∧
    (ix_aR h' q 0 = some S ∧ ix_aR h' q 1 = some (S + 18) ∧ ix_aR h' q 2 = some (S + 36)) ∧ cS h' (vL S (S + 1)) 0 ∧ cS h' (vL (S + 18) (S + 19)) 0 ∧ cS h' (vL (S + 36) (S + 37)) 0 := by
  obtain ⟨m, rfl⟩ : ∃ m, n = m + 2 := ⟨n - 2, by omega⟩
  exact v_slots tq lq hS hq hz hN m
end
