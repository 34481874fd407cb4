/-! TM: the reference: one tell runs -/
set_option maxRecDepth 100000
def pHU (cal : ix_C) (m z i k : Nat) (last : Int32) (H : ix_H) : ix_O := ix_lp cal stX9_runs z 6 [(0, ix_R (some m)), (1, ix_I (nI i)), (2, ix_I (nI k)), (3, ix_I last)] [] H
section
variable {h : ix_H} {m : Nat} {F A : Nat → Nat → Int32} {N d i : Nat}
theorem yP.get0 {a : Nat → Int32} {rd : List Int32} (h : yP a rd) (h0 : 0 < rd.length) : a (rd.length - 1) = rd.getD 0 (nI 0) := by
  cases rd with
  | nil => exact absurd h0 (Nat.lt_irrefl 0)
  | cons x r => exact h.1
theorem yP.get1 {a : Nat → Int32} {rd : List Int32} (h : yP a rd) (h0 : 1 < rd.length) : a (rd.length - 2) = rd.getD 1 (nI 0) := by
  match rd, h, h0 with
  | x :: y :: r, h, _ => exact h.2.1
/-- behind the variables: what a tell does -/
theorem m_run125 (hS : mSh h m) (hP : mSp h m) (hN : 3000 ≤ N) (d : Nat) {S : zS} (hI : i_I S) (hR : mR (A (m + 21)) S) {l : xL} (hi : i < 210) (h9 : A (m + 9) i = l.2.1) (h5 : l.1 ≤ 5) (h3 : 3 ≤ l.1) (hh : l.1 = 5 ∨ ∃ k, k < 4 ∧ l.2.1 = nI k) (k : Nat) (last : Int32) (K : ix_K) :
    ∃ F' A', jX9_runs_125 (ix_run iy_P N (d + 13)) K m (nI i) (nI k) last (nI l.1) (hw h F A) = K 6 [(0, ix_R (some m)), (1, ix_I (nI (i + 1))), (2, ix_I (nI k)), (3, ix_I last)] [] (hw h F' A') ∧ mQ mX mY m F A F' A' ∧ mR (A' (m + 21)) (if l.1 = 3 then z_step S (r_hd l.2.1) else if l.1 = 4 then (z_close 200 S (r_hd l.2.1)).2 else (z_sweep S).2) := by
  have sz := hI.sz
  unfold jX9_runs_125 jX9_runs_135 jX9_runs_146 jX9_runs_153
  rcases (show l.1 = 3 ∨ l.1 = 4 ∨ l.1 = 5 by omega) with w | w | w
  · obtain ⟨j, hj, ej⟩ := hh.resolve_left (by omega)
    have er : r_hd l.2.1 = j := by rw [ej]; unfold r_hd; rw [if_neg (by rw [hw_lt (by omega) (by omega)]; omega), hw_cl (by omega)]
    rw [er]
    have hc : zh S j 1 ≠ nI 0 → ∃ rc, z_can (z_sh S j 4 (zh S j 4 + nI 1)) rc j := fun h0 => by
      obtain ⟨rc, h1, -⟩ := hI.can hj h0
      exact ⟨rc, h1⟩
    have hst : ∃ F' A', ix_run iy_P N (d + 13) 282 [ix_R (some m), ix_I (nI j)] (hw h F A) = some (.inl none, hw h F' A') ∧ mQ mX mY m F A F' A' ∧ mR (A' (m + 21)) (z_step S j) := by
      by_cases h0 : zh S j 1 ≠ nI 0
      · obtain ⟨rc, h1⟩ := hc h0
        exact m_steps (F := F) (A := A) hS (rc := rc) (by omega) sz.2.2 hN (d + 2) hj hR (fun _ => h1)
      · exact m_steps (F := F) (A := A) hS (rc := []) (by omega) sz.2.2 hN (d + 2) hj hR (fun x => absurd x h0)
    obtain ⟨F1, A1, e1, q1, r1⟩ := hst
    rw [w, if_pos rfl, mq_is hP, mp_rd20 hP, hw_in hi (by omega), cond_true, mq_isr hP, hw_aI, hw_cl (by omega), h9, ej, hw_cV e1, if_neg (by decide), if_neg (by decide), nI_add, if_pos rfl]
    exact ⟨F1, A1, rfl, q1, r1⟩
  · obtain ⟨j, hj, ej⟩ := hh.resolve_left (by omega)
    have er : r_hd l.2.1 = j := by rw [ej]; unfold r_hd; rw [if_neg (by rw [hw_lt (by omega) (by omega)]; omega), hw_cl (by omega)]
    rw [er]
    obtain ⟨F1, A1, e1, q1, r1⟩ := m_closes (F := F) (A := A) hS hj (i_zkp hj) hN (d + 1) hI hR
    have e1' : ix_run iy_P N (d + 13) 281 [ix_R (some m), ix_I (nI j)] (hw h F A) = _ := e1
    rw [w, if_neg (by decide), if_pos rfl, mq_is hP, mp_rd20 hP, hw_in hi (by omega), cond_true, mq_isr hP, hw_aI, hw_cl (by omega), h9, ej, hw_cI e1']
    dsimp only
    rw [if_neg (by decide), nI_add, if_neg (by decide), if_pos rfl]
    exact ⟨F1, A1, rfl, q1, r1⟩
  · obtain ⟨A1, e1, q1, r1⟩ := m_sweeps (F := F) (A := A) hS (S := S) (by omega) sz.2.2 hN (d + 11) (fun k hk => hI.stage hk) hR
    have e1' : ix_run iy_P N (d + 13) 314 [ix_R (some m)] (hw h F A) = _ := e1
    rw [w, if_neg (by decide), if_neg (by decide), if_pos rfl, mq_isr hP, hw_cI e1']
    dsimp only
    rw [nI_add, if_neg (by decide), if_neg (by decide)]
    exact ⟨F, A1, rfl, q1.mono rfl rfl, r1⟩
end
