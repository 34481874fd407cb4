/-! CP: the component: another store stays -/
set_option maxRecDepth 100000
/-- two stores lie apart -/
def cAp (L : Nat → Nat) (nr : Nat) (M : Nat → Nat) (mr : Nat) : Prop := ∀ i j, i < 18 + 3 * nr → j < 18 + 3 * mr → M j ≠ L i
theorem cEx.other {h h' : ix_H} {F A F' A' : Nat → Nat → Int32} {L L' M : Nat → Nat} {nr nr' mr : Nat} (hm : cS h M mr) (ex : cEx h F A L nr h' F' A' L' nr') (ap : cAp L nr M mr) (hz : ix_sz h' + 6000 < 1099511627776) : cS h' M mr := by
  obtain ⟨⟨a1, a2, a3, a4, a5, a6, a7, a8⟩, ⟨b1, b2, b3, b4, b5, b6, b7, b8⟩, c, e, f, g, n, inj, lo, hi, z⟩ := hm
  obtain ⟨x1, x2, x3, x4, x5, x6, x7, x8⟩ := ex
  have t : ∀ j, j < 18 + 3 * mr → ix_tg h' (M j) = ix_tg h (M j) := fun j hj => (x7 _ (lo j hj)).1
  have ln : ∀ j, j < 18 + 3 * mr → ix_ln h' (M j) = ix_ln h (M j) := fun j hj => (x7 _ (lo j hj)).2.1
  have fR : ∀ j, j < 18 + 3 * mr → ix_fR h' (M j) = ix_fR h (M j) := fun j hj => (x7 _ (lo j hj)).2.2.1
  have aR : ∀ j, j < 18 + 3 * mr → ix_aR h' (M j) = ix_aR h (M j) := fun j hj => (x7 _ (lo j hj)).2.2.2.2.2 (ap 1 j (by omega) hj)
  refine ⟨?_, ?_, fun k hk => ?_, fun q hq => ?_, fun r hr => ?_, fun r hr hr2 => ?_, n, inj, fun i hi' => ?_, hi, by omega⟩
  · rw [t 0 (by omega), fR 0 (by omega)]
    exact ⟨a1, a2, a3, a4, a5, a6, a7, a8⟩
  · rw [t 1 (by omega), t 2 (by omega), t 3 (by omega), t 4 (by omega), ln 1 (by omega), ln 2 (by omega), ln 3 (by omega), ln 4 (by omega)]
    exact ⟨b1, b2, b3, b4, b5, b6, b7, b8⟩
  · rw [aR 3 (by omega), t (5 + k) (by omega)]
    exact c k hk
  · obtain ⟨q1, q2, q3, q4, q5, q6, q7, q8⟩ := e q hq
    have h0 : 9 + 3 * q < 18 + 3 * mr := by omega
    have h1 : 10 + 3 * q < 18 + 3 * mr := by omega
    have h2 : 11 + 3 * q < 18 + 3 * mr := by omega
    exact ⟨by rw [t _ h0]; exact q1, by rw [fR _ h0]; exact q2, by rw [fR _ h0]; exact q3, by rw [t _ h1]; exact q4, by rw [t _ h2]; exact q5, by rw [ln _ h1]; exact q6, by rw [ln _ h2]; exact q7, q8⟩
  · rw [aR 1 (by omega)]
    exact f r hr
  · rw [aR 1 (by omega)]
    exact g r hr hr2
  · have := lo i hi'
    omega
/-- still apart -/
theorem cEx.apart {h h' : ix_H} {F A F' A' : Nat → Nat → Int32} {L L' M : Nat → Nat} {nr nr' mr : Nat} (hm : cS h M mr) (ex : cEx h F A L nr h' F' A' L' nr') (ap : cAp L nr M mr) : cAp L' nr' M mr := fun i j hi hj => by
  have lo := hm.2.2.2.2.2.2.2.2.1 j hj
  by_cases w : i < 18 + 3 * nr
  · rw [ex.2.2.2.2.1 i w]
    exact ap i j w hj
  · have := ex.2.2.2.2.2.1 i (by omega)
    omega
/-- and its cells -/
theorem cEx.cells {h h' : ix_H} {F A F' A' : Nat → Nat → Int32} {L L' M : Nat → Nat} {nr nr' mr : Nat} (hm : cS h M mr) (ex : cEx h F A L nr h' F' A' L' nr') (ap : cAp L nr M mr) {j : Nat} (hj : j < 18 + 3 * mr) : F' (M j) = F (M j) ∧ A' (M j) = A (M j) :=
  ex.2.2.2.2.2.2.2 _ (hm.2.2.2.2.2.2.2.2.1 j hj) (fun i hi => ap i j hi hj)
theorem cEx.other1 {h h' : ix_H} {F A F' A' : Nat → Nat → Int32} {L L' M : Nat → Nat} {nr nr' mr : Nat} (hm : cS h M mr) (ex : cEx h F A L nr h' F' A' L' nr') (ap : cAp L nr M mr) {S : zS} (hn : zn S ≤ mr) (hV : cV1 F A M S) : cV1 F' A' M S := by
  obtain ⟨⟨v1, v2, v3, v4⟩, v5⟩ := hV
  have c := fun (j : Nat) (hj : j < 18 + 3 * mr) => ex.cells hm ap hj
  refine ⟨⟨by rw [(c 0 (by omega)).1]; exact v1, fun p hp => by rw [(c 2 (by omega)).2]; exact v2 p hp, fun r hr => (v3 r hr).keep (c _ (by omega)).1 (c _ (by omega)).2 (c _ (by omega)).2, fun k hk => (v4 k hk).keep (c _ (by omega)).1⟩, fun k hk => by rw [(c _ (by omega)).1]; exact v5 k hk⟩
