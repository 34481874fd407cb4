/-! TK: told without a number out of range: hands and rounds are in range -/
set_option maxRecDepth 100000
def xl_ok (l : xL) : Prop := (l.1 < 3 → x_ok l.2.2.1) ∧ (l.1 = 0 → x_ok l.2.2.2) ∧ (l.2.1 = -1 ∧ (l.1 < 2 ∨ l.1 = 5) ∨ ∃ k, k < 4 ∧ l.2.1 = nI k)
def xT_ok : (d : Nat) → xT d → Prop
  | 0, l => xl_ok l
  | _ + 1, .inl l => xl_ok l
  | d + 1, .inr b => (∃ n, n ≤ 99 ∧ b.1 = nI n) ∧ ∀ x ∈ b.2, xT_ok d x
theorem nI_of_le {v : Int32} {n : Nat} (hn : n < 1000) (h0 : nI 0 ≤ v) (h1 : v ≤ nI n) : ∃ k, k ≤ n ∧ v = nI k := by
  obtain ⟨k, hk, rfl⟩ : ∃ j, j < 2147483648 ∧ v = nI j := nI_of (x := v) (by
    rw [← nI_0]
    exact fun e => absurd e (by rw [kv_nlt_le]; exact h0))
  rw [nI_leI hk (by omega)] at h1
  exact ⟨k, h1, rfl⟩
section
variable {tk : Nat → tK}
theorem x_num_ok {lo hi : Int32} {t t' : Nat} {w : Option Nat} {v : Int32} (h : x_num tk lo hi t w = .inr ((v, none), t')) : w = none ∧ lo ≤ v ∧ v ≤ hi := by
  unfold x_num at h
  split at h
  · obtain ⟨a, t1, -, h1⟩ := x_bd_inr h
    have h2 := Sum.inr.inj h1
    have h3 := congrArg (fun p => p.1.2) h2
    have h4 := congrArg (fun p => p.1.1) h2
    dsimp only at h3 h4
    split at h3
    · cases w <;> cases h3
    · next wn =>
      refine ⟨h3, ?_, ?_⟩
      · rw [← h4]
        exact kv_nlt_le.mp fun x => wn (.inl x)
      · rw [← h4]
        exact kv_nlt_le.mp fun x => wn (.inr x)
  · cases h
theorem x_act_ok {hd : Int32} {t t' : Nat} {l : xL} (h : x_act tk hd t = .inr (l, t')) (hh : hd = -1 ∨ ∃ k, k < 4 ∧ hd = nI k) : xl_ok l := by
  unfold x_act at h
  split at h
  · obtain ⟨a, t1, -, h1⟩ := x_bd_inr h
    obtain ⟨b, t2, hb, h2⟩ := x_bd_inr h1
    obtain ⟨c, t3, hc, h3⟩ := x_bd_inr h2
    cases h3
    exact ⟨fun _ => x_term_ok hb, fun _ => x_term_ok hc, hh.imp (fun x => ⟨x, .inl (by show 0 < 2; omega)⟩) id⟩
  · split at h
    · obtain ⟨a, t1, -, h1⟩ := x_bd_inr h
      obtain ⟨b, t2, hb, h2⟩ := x_bd_inr h1
      cases h2
      exact ⟨fun _ => x_term_ok hb, fun x => absurd x (show ¬ (1 = 0) by omega), hh.imp (fun x => ⟨x, .inl (by show 1 < 2; omega)⟩) id⟩
    · cases h
theorem x_one_ok {t t' : Nat} {w : Option Nat} {l : xL} (h : x_one tk t w = .inr ((l, none), t')) : w = none ∧ xl_ok l := by
  have hnd : ∀ {v : Int32}, nI 0 ≤ v ∧ v ≤ nI 3 → ∃ k, k < 4 ∧ v = nI k := fun hv => by
    obtain ⟨k, hk, e⟩ := nI_of_le (by omega) hv.1 hv.2
    exact ⟨k, by omega, e⟩
  unfold x_one at h
  split at h
  · obtain ⟨a, t1, -, h1⟩ := x_bd_inr h
    obtain ⟨b, t2, hb, h2⟩ := x_bd_inr h1
    obtain ⟨c, t3, hc, h3⟩ := x_bd_inr h2
    obtain ⟨v, w'⟩ := b
    cases h3
    have hn := x_num_ok hb
    exact ⟨hn.1, x_act_ok hc (.inr (hnd hn.2))⟩
  split at h
  · obtain ⟨a, t1, -, h1⟩ := x_bd_inr h
    obtain ⟨b, t2, hb, h2⟩ := x_bd_inr h1
    obtain ⟨c, t3, hc, h3⟩ := x_bd_inr h2
    obtain ⟨v, w'⟩ := b
    cases h3
    have hn := x_num_ok hb
    exact ⟨hn.1, fun _ => x_term_ok hc, fun x => absurd x (show ¬ (2 = 0) by omega), .inr (hnd hn.2)⟩
  split at h
  · obtain ⟨a, t1, -, h1⟩ := x_bd_inr h
    obtain ⟨b, t2, hb, h2⟩ := x_bd_inr h1
    obtain ⟨v, w'⟩ := b
    cases h2
    have hn := x_num_ok hb
    exact ⟨hn.1, fun x => absurd x (show ¬ (3 < 3) by omega), fun x => absurd x (show ¬ (3 = 0) by omega), .inr (hnd hn.2)⟩
  split at h
  · obtain ⟨a, t1, -, h1⟩ := x_bd_inr h
    obtain ⟨b, t2, hb, h2⟩ := x_bd_inr h1
    obtain ⟨v, w'⟩ := b
    cases h2
    have hn := x_num_ok hb
    exact ⟨hn.1, fun x => absurd x (show ¬ (4 < 3) by omega), fun x => absurd x (show ¬ (4 = 0) by omega), .inr (hnd hn.2)⟩
  split at h
  · obtain ⟨a, t1, -, h1⟩ := x_bd_inr h
    cases h1
    exact ⟨rfl, fun x => absurd x (show ¬ (5 < 3) by omega), fun x => absurd x (show ¬ (5 = 0) by omega), .inl ⟨rfl, .inr rfl⟩⟩
  · obtain ⟨a, t1, ha, h1⟩ := x_bd_inr h
    cases h1
    exact ⟨rfl, x_act_ok ha (.inl rfl)⟩
theorem x_until_ok {α : Type} {P : α → Prop} {f : Nat → Option Nat → xR (α × Option Nat)} (hf : ∀ t w x t', f t w = .inr ((x, none), t') → w = none ∧ P x) {e : Nat} : ∀ z t w l l' t', (∀ x ∈ l, P x) → x_until tk f e z t w l = .inr ((l', none), t') → w = none ∧ ∀ x ∈ l', P x
  | 0, t, w, l, l', t', hl, h => by
    unfold x_until at h
    cases h
    exact ⟨rfl, hl⟩
  | z + 1, t, w, l, l', t', hl, h => by
    unfold x_until at h
    split at h
    · cases h
      exact ⟨rfl, hl⟩
    · obtain ⟨⟨x, w1⟩, t1, h1, h2⟩ := x_bd_inr h
      by_cases w0 : w1 = none
      · subst w0
        obtain ⟨e1, p1⟩ := hf _ _ _ _ h1
        obtain ⟨-, p2⟩ := x_until_ok hf z t1 none (l ++ [x]) l' t' (fun y hy => by
          rcases List.mem_append.mp hy with hy | hy
          · exact hl y hy
          · rw [List.mem_singleton.mp hy]
            exact p1) h2
        exact ⟨e1, p2⟩
      · exact absurd (x_until_w z t1 w1 _ _ _ h2) w0
where
  x_until_w : ∀ z t w l l' t', x_until tk f e z t w l = .inr ((l', none), t') → w = none
  | 0, t, w, l, l', t', h => by
    unfold x_until at h
    cases h
    rfl
  | z + 1, t, w, l, l', t', h => by
    unfold x_until at h
    split at h
    · cases h
      rfl
    · obtain ⟨⟨x, w1⟩, t1, h1, h2⟩ := x_bd_inr h
      have := x_until_w z t1 w1 _ _ _ h2
      subst this
      exact (hf _ _ _ _ h1).1
theorem x_told_ok : ∀ d t w x t', x_told tk d t w = .inr ((x, none), t') → w = none ∧ xT_ok d x
  | 0, t, w, x, t', h => by
    unfold x_told at h
    split at h
    · cases h
    · obtain ⟨⟨l, w1⟩, t1, h1, h2⟩ := x_bd_inr h
      obtain ⟨a, t2, -, h3⟩ := x_bd_inr h2
      cases h3
      exact x_one_ok h1
  | d + 1, t, w, x, t', h => by
    unfold x_told at h
    split at h
    · obtain ⟨a, t1, -, h1⟩ := x_bd_inr h
      obtain ⟨⟨n, w1⟩, t2, hn, h2⟩ := x_bd_inr h1
      obtain ⟨b, t3, -, h3⟩ := x_bd_inr h2
      obtain ⟨⟨l, w2⟩, t4, hu, h4⟩ := x_bd_inr h3
      obtain ⟨b5, t5, -, h5⟩ := x_bd_inr h4
      obtain ⟨b6, t6, -, h6⟩ := x_bd_inr h5
      cases h6
      obtain ⟨e1, p1⟩ := x_until_ok (P := xT_ok d) (fun t w x t' => x_told_ok d t w x t') _ _ _ _ _ _ (fun _ hx => absurd hx List.not_mem_nil) hu
      dsimp only at e1
      subst e1
      obtain ⟨e2, p2⟩ := x_num_ok hn
      exact ⟨e2, nI_of_le (by omega) p2.1 p2.2, p1⟩
    · obtain ⟨⟨l, w1⟩, t1, h1, h2⟩ := x_bd_inr h
      obtain ⟨a, t2, -, h3⟩ := x_bd_inr h2
      cases h3
      exact x_one_ok h1
end
