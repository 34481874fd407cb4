/-! CR: the component: a store becomes another: tops and hands -/
set_option maxRecDepth 100000
theorem hw_cpI (h : ix_H) (F A : Nat → Nat → Int32) (s sp d dp n : Nat) : ix_cpI (hw h F A) s sp d dp n = hw h F (hw_R A d (fun j => if dp ≤ j ∧ j < dp + n then A s (sp + (j - dp)) else A d j)) := by
  have : ix_cpy A s sp d dp n = hw_R A d (fun j => if dp ≤ j ∧ j < dp + n then A s (sp + (j - dp)) else A d j) := by
    funext b j
    unfold ix_cpy hw_R
    by_cases w : b = d
    · subst w
      rw [if_pos rfl]
      by_cases w2 : dp ≤ j ∧ j < dp + n
      · rw [if_pos ⟨rfl, w2⟩, if_pos w2]
      · rw [if_neg (fun x => w2 x.2), if_neg w2]
    · rw [if_neg (fun x => w x.1), if_neg w]
  unfold ix_cpI
  show hw h F (ix_cpy A s sp d dp n) = _
  rw [this]
theorem c_becomes_66 {h : ix_H} {L M : Nat → Nat} {nr mr : Nat} (hs : cS h L nr) (hm : cS h M mr) (ap : cAp L nr M mr) (N d : Nat) (A : Nat → Nat → Int32) : ∀ j i z F, i + j = 4 → j < z → (∀ k, k < 4 → F (M (5 + k)) 15 = nI 0 ∨ F (M (5 + k)) 15 = nI 1) →
    ∃ F', ix_lp (ix_run iy_P N (d + 1)) stX4_becomes z 66 [(0, ix_R (some (L 0))), (1, ix_R (some (M 0))), (2, ix_I (nI i))] [] (hw h F A) = some (.inl none, hw h F' A) ∧ (∀ c, (∀ k, k < 4 → c ≠ L (5 + k)) → F' c = F c) ∧ ∀ k, k < 4 → (if i ≤ k then ∃ g, F' (L (5 + k)) = c_hc g (F (M (5 + k))) else F' (L (5 + k)) = F (L (5 + k))) := by
  intro j
  induction j with
  | zero =>
    intro i z F hi hz h15
    obtain ⟨z, rfl⟩ : ∃ w, z = w + 1 := ⟨z - 1, by omega⟩
    obtain rfl : i = 4 := by omega
    rw [lX4_becomes_66]
    unfold jX4_becomes_66
    rw [if_pos (show nI 4 ≤ nI 4 by decide)]
    exact ⟨F, rfl, fun _ _ => rfl, fun k hk => by rw [if_neg (by omega)]⟩
  | succ j ih =>
    intro i z F hi hz h15
    obtain ⟨z, rfl⟩ : ∃ w, z = w + 1 := ⟨z - 1, by omega⟩
    have hk : i < 4 := by omega
    have ha : ix_tg h (L (5 + i)) = 7 := (hs.2.2.1 i hk).2
    have hb : ix_tg h (M (5 + i)) = 7 := (hm.2.2.1 i hk).2
    have mne : ∀ k, k < 4 → M (5 + k) ≠ L (5 + i) := fun k hk => ap _ _ (by omega) (by omega)
    obtain ⟨F', e, q, r⟩ := ih (i + 1) z (hw_R F (L (5 + i)) (c_hc (F (L (5 + i))) (F (M (5 + i))))) (by omega) (by omega) (fun k hk => by rw [hw_R_ne _ _ (mne k hk)]; exact h15 k hk)
    refine ⟨F', ?_, fun c hc => (q c hc).trans (hw_R_ne _ _ (hc i hk)), fun k hk4 => ?_⟩
    · rw [lX4_becomes_66]
      unfold jX4_becomes_66
      rw [if_neg (show ¬ nI 4 ≤ nI i by rw [hw_le (by omega) (by omega)]; omega), st_is hs, st_hnd hs, hw_in (by omega) (by omega), cond_true, st_is hm, st_hnd hm, hw_in (by omega) (by omega), cond_true, hw_aR, hw_cl (by omega), st_hr hs hk, h_isr ha, st_hr hm hk, hw_cV (c_hbecomes ha hb (mne i hk) (h15 i hk) N d), nI_add]
      exact e
    · have := r k hk4
      by_cases w : i + 1 ≤ k
      · rw [if_pos w, hw_R_ne _ _ (mne k hk4)] at this
        rw [if_pos (by omega)]
        exact this
      · rw [if_neg w] at this
        by_cases w2 : k = i
        · subst w2
          rw [if_pos (Nat.le_refl _)]
          exact ⟨_, this.trans (hw_R_same _ _ _)⟩
        · rw [if_neg (by omega), this, hw_R_ne _ _ (hs.ne (by omega))]
