/-! I4: swaps, pages that go -/
set_option maxRecDepth 100000
/-- page 0 gets a record that says the same -/
theorem i_T00 {S T : zS} {rc : List Nat} {lo : Nat → Int32} {k : Nat} {n : Nat} {s : Int32} (h : i_all S rc lo) (hk : k < 4) (v : z_vw S T 0 (z_pg S 0) n s) (hs4 : s ≠ nI 4) (hit : (zi T (zn S)).length ≤ 43) (hn0 : n ≤ z_len S 0) (ej : z_oth S T k) (nx : i_nx T rc lo (zh T k) (i_s rc (zh S k)) (i_w (zh S k))) (he : i_w (zh S k) + 6 ≤ i_e S (zh S k)) : i_all T rc lo := by
  have h2 := h.P.W.2.1
  have h32 := h.P.W.2.2.1
  have hng : ¬ z_gone S 0 := fun g => by have := (h.P.gn 0 (by omega) g).1; omega
  have hP := i_P_vw h.P v (by omega) rfl hng (fun e => absurd rfl e) (fun _ => ⟨h.P.b0, h.P.b1⟩) (fun e => absurd e hs4) hit (fun e => absurd rfl e)
  have s1 := i_Fs (rc := rc) (rc' := rc) (d := 0) hk ej (fun j _ _ => Nat.le_refl _)
  have hF : i_F T rc lo ≤ i_F S rc lo := by
    unfold i_F
    rw [i_f_vw h.P v (by rw [v.pg])]
    have := nx.2.1
    omega
  have rr : i_r T rc = i_r S rc := funext fun q => by
    by_cases w : q = 0
    · rw [w, i_r_0, i_r_0]
    · exact i_r_vw h.P.W v w
  have s2 := i_Es (d := 0) hk ej (fun j hj _ => by
    have := i_e_mono (T := T) h32 (h.H j hj) (fun q q0 q1 q2 => by
      rw [v.leno h.P.W (by omega) q1] at q2
      exact q2)
    omega)
  refine i_T h hk hP (i_ge_vw h.P v hng) v.2.2.2.1 ej nx.1 (Or.inl ?_) ?_ ?_
  · rw [nx.2.2.2]
    have := i_K_cong (S := S) (S' := T) rc (fun y hy => by rw [v.pgo h.P.W (by have := (h.P.mem y hy).1; omega) (h.P.mem y hy).2.1])
    omega
  · rw [v.len]
    omega
  · unfold i_U
    rw [v.2.1, rr]
    have := nx.2.2.1
    omega
section
variable {S : zS} {rc : List Nat} {lo : Nat → Int32} {k : Nat}
theorem i_swap (h : i_all S rc lo) (hk : k < 4) (h1 : zh S k 1 = nI 5) : z_cn S k 5 ∧ c_cn S k 5 ∧ i_all (z_swap S k) rc lo := by
  obtain ⟨⟨⟨p, p2, p3⟩, r, r1, r2, r3⟩, hab⟩ := (h.H k hk).at (s := 5) (by omega) h1
  have ab := hab (by omega)
  have h9 := (h.H k hk).1
  have h32 := h.P.W.2.2.1
  have hn := h.n
  have hc := h.c
  have hat : z_at S k = p := by unfold z_at; rw [p3, nI_clamp (n := p) (by omega)]
  have hww : i_w (zh S k) ≤ i_e S (zh S k) := i_e_ge (by rw [h1]; decide)
  refine ⟨⟨by rw [hat]; exact p2, by rw [hat]; exact p3, fun _ => by omega⟩, ⟨by rw [hat]; exact p2, by rw [hat]; exact p3, fun _ => by omega⟩, ?_⟩
  unfold z_swap
  rw [hat]
  by_cases hs : nI (zt S p) = zh S k 10
  · rw [if_pos hs]
    have hpg := h.P.W.pg p2
    have htr : zt S p = r := (nI_eq (a := zt S p) (b := r) (by have := h.P.W.2.2.2 p p2; omega) (by omega)).mp (hs.trans r2)
    have v0 : z_vw S (z_sh (z_st (z_mk (z_nw S (z_base (z_pg S p)) (z_pg S p).1) (z_rl S.1 (z_chain S.1 (zt S p)))) p (zn S)) k 10 (nI (zn S))) p (z_pg S p) 0 (nI 0) := (z_vw_base h.P.W (by omega) p hpg.1 hpg.2.1).mk _
    have hit0 : zi (z_sh (z_st (z_mk (z_nw S (z_base (z_pg S p)) (z_pg S p).1) (z_rl S.1 (z_chain S.1 (zt S p)))) p (zn S)) k 10 (nI (zn S))) (zn S) = (z_pg S p).1 := z_nw_l S (z_base (z_pg S p)) (z_pg S p).1 p (zn S)
    have hzT : zh (z_sh (z_st (z_mk (z_nw S (z_base (z_pg S p)) (z_pg S p).1) (z_rl S.1 (z_chain S.1 (zt S p)))) p (zn S)) k 10 (nI (zn S))) k = hw_U (zh S k) 10 (nI (zn S)) := zh_sh _ _ _ _
    have ho : z_oth S (z_sh (z_st (z_mk (z_nw S (z_base (z_pg S p)) (z_pg S p).1) (z_rl S.1 (z_chain S.1 (zt S p)))) p (zn S)) k 10 (nI (zn S))) k := ((((z_oth.refl S k).nw _ _).mk _).st _ _).sh _ _
    dsimp only
    generalize z_sh (z_st (z_mk (z_nw S (z_base (z_pg S p)) (z_pg S p).1) (z_rl S.1 (z_chain S.1 (zt S p)))) p (zn S)) k 10 (nI (zn S)) = T at v0 hit0 hzT ho ⊢
    have zpT : zp T = zp S := v0.2.2.1
    have znT : zn T = zn S + 1 := v0.2.1
    have zmT : zm T = zm S := by unfold zm; rw [v0.2.2.2.1]
    have h9T : zh T k 9 = zh S k 9 := by rw [hzT]; rfl
    have zgo : zh (z_go T k) k = hw_U (hw_U (zh S k) 10 (nI (zn S))) 1 (if zh S k 9 = nI 1 then nI 0 else nI 1) := by rw [zh_go, hzT]; rfl
    have nxg : i_nx (z_go T k) rc lo (zh (z_go T k) k) 0 (i_w (zh S k)) := by
      rw [zgo]
      exact i_nx_go (u := hw_U (zh S k) 10 (nI (zn S))) h9 ab
    rcases Nat.eq_zero_or_pos p with e | e
    · subst e
      rw [if_neg (fun w => by omega), if_neg (fun w => by omega)]
      have he : i_w (zh S k) + 6 ≤ i_e S (zh S k) := by
        unfold i_e
        rw [if_neg (by rw [h1]; decide), if_pos (show (zh S k 1 = nI 4 ∨ zh S k 1 = nI 5) ∧ _ from ⟨Or.inr h1, Or.inr (Or.inl p3)⟩)]
        exact Nat.le_refl _
      have vg : z_vw S (z_go T k) 0 (z_pg S 0) 0 (nI 0) := v0
      exact i_T00 h hk vg (by decide) (show (zi T (zn S)).length ≤ 43 by rw [hit0]; exact hpg.2.1) (Nat.zero_le _) ho.go (nxg.le (Nat.zero_le _) (Nat.le_refl _)) he
    · have hp0 : zh S k 2 ≠ nI 0 := fun w => by
        have := (nI_eq (a := p) (b := 0) (by omega) (by omega)).mp (p3.symm.trans w)
        omega
      have hng : ¬ z_gone S p := by
        unfold z_gone
        rw [htr]
        exact r3 hp0
      have hrc := h.P.live e p2 hng
      obtain ⟨m1, m2, m3⟩ := h.P.mem p hrc
      have hll := h.P.rl
      -- whatever it goes on to
      have fin : ∀ T' : zS, T'.1 = T.1 → T'.2.1 = T.2.1 → T'.2.2.2 = T.2.2.2 → z_oth S T' k → i_nx T rc lo (zh T' k) 0 (i_w (zh S k)) → i_all T' rc lo := fun T' e1 e2 e3 eo nx => by
        obtain ⟨B, t, H, m⟩ := T
        obtain ⟨B', t', H', m'⟩ := T'
        simp only at e1 e2 e3
        subst e1 e2 e3
        have v' : z_vw S (B', t', H', m') p (z_pg S p) 0 (nI 0) := v0
        have nx' : i_nx (B', t', H', m') rc lo (zh (B', t', H', m') k) 0 (i_w (zh S k)) := nx
        have hit' : (zi (B', t', H', m') (zn S)).length ≤ 43 := by
          have : zi (B', t', H', m') (zn S) = (z_pg S p).1 := hit0
          rw [this]
          exact hpg.2.1
        have h40 : ¬ nI 0 = nI 4 := by decide
        rcases Nat.lt_or_ge (z_len S p) 24 with w | w
        · have he : i_w (zh S k) + 6 ≤ i_e S (zh S k) := by
            unfold i_e
            rw [if_neg (by rw [h1]; decide), if_pos (show (zh S k 1 = nI 4 ∨ zh S k 1 = nI 5) ∧ _ from ⟨Or.inr h1, Or.inr (Or.inr (by rw [p3, nI_clamp (n := p) (by omega)]; exact w))⟩)]
            exact Nat.le_refl _
          refine i_Tp (d := 0) h hk v' e p2 rfl hng m3 (fun x => absurd x h40) hit' (by omega) eo nx'.1 nx'.2.2.2 (Nat.le_add_right _ _) (Nat.le_trans nx'.2.1 (Nat.zero_le _)) (fun j hj _ => ?_) ?_
          · refine Nat.le_trans (i_e_mono h32 (h.H j hj) fun q q0 q1 q2 => ?_) (Nat.le_add_right _ _)
            by_cases x : q = p
            · rw [x]
              exact w
            · rw [v'.leno h.P.W x q1] at q2
              exact q2
          · rw [if_neg h40]
            have := nx'.2.2.1
            omega
        · refine i_Tp (d := 6) h hk v' e p2 rfl hng m3 (fun x => absurd x h40) hit' (by omega) eo nx'.1 nx'.2.2.2 (Nat.le_add_right _ _) (Nat.le_trans nx'.2.1 (Nat.zero_le _)) (fun j hj _ => i_e_6 _ _ _) ?_
          rw [if_neg h40]
          have := nx'.2.2.1
          omega
      by_cases w1 : 0 < p ∧ zm S < (z_pg S p).1.length
      · rw [if_pos w1]
        refine fin _ rfl rfl rfl (ho.sh _ _) ?_
        rw [zh_sh, hzT]
        exact i_nx_of (s := 6) (by omega) rfl h9 ab ⟨⟨p, e, by rw [zpT]; exact p2, p3⟩, zn S, by rw [znT]; omega, rfl, v0.2.2.2.2.2.2.2.2.2, by rw [zmT, hit0]; exact w1.2⟩
      rw [if_neg w1]
      by_cases w2 : 0 < p ∧ (z_pg S p).1.length < zl S
      · rw [if_pos w2]
        refine fin _ rfl rfl rfl (ho.sh _ _) ?_
        rw [zh_sh, hzT]
        exact i_nx_of (s := 9) (by omega) rfl h9 ab ⟨⟨p, e, by rw [zpT]; exact p2, p3⟩, zn S, by rw [znT]; omega, rfl, v0.2.2.2.2.2.2.2.2.2⟩
      rw [if_neg w2]
      exact fin _ rfl rfl rfl ho.go nxg
  · rw [if_neg hs]
    refine i_T0x h hk rfl rfl rfl ((z_oth.refl S k).lose.go) ?_
    rw [zh_go, zh_lose]
    exact (i_nx_go (u := hw_U (zh S k) 3 (zh S k 3 + nI 1)) h9 ab).le (Nat.zero_le _) hww
theorem z_len_base {r p : Nat} (ht : zt S p = r) (h0 : zr S r 0 = nI 0) : z_len S p = 0 := by
  unfold z_len
  rw [ht, z_chain_0 h0]
  rfl
theorem i_remov (h : i_all S rc lo) (hk : k < 4) (h1 : zh S k 1 = nI 9) : z_cn S k 9 ∧ c_cn S k 9 ∧ i_all (z_remov S k) rc lo := by
  obtain ⟨⟨⟨p, p1, p2, p3⟩, r, r1, r2, r3⟩, hab⟩ := (h.H k hk).at (s := 9) (by omega) h1
  have ab := hab (by omega)
  have h9 := (h.H k hk).1
  have h32 := h.P.W.2.2.1
  have hn := h.n
  have hat : z_at S k = p := by unfold z_at; rw [p3, nI_clamp (n := p) (by omega)]
  have hww : i_w (zh S k) ≤ i_e S (zh S k) := i_e_ge (by rw [h1]; decide)
  refine ⟨⟨by rw [hat]; exact p2, by rw [hat]; exact p3, fun _ => by omega⟩, ⟨by rw [hat]; exact p2, by rw [hat]; exact p3, fun _ => by omega⟩, ?_⟩
  have go : i_all (z_go S k) rc lo := by
    refine i_T0x h hk rfl rfl rfl ((z_oth.refl S k).go) ?_
    rw [zh_go]
    exact (i_nx_go h9 ab).le (Nat.zero_le _) hww
  unfold z_remov
  rw [hat]
  cases e : kv_ix (zh S k 2) (z_pg S 0).1 with
  | none => exact go
  | some b =>
    dsimp only
    by_cases hs : nI (zt S p) = zh S k 10 ∧ (kv_nth (z_pg S 0).1 b).1 ≠ nI 0
    · rw [if_pos hs]
      have htr : zt S p = r := (nI_eq (a := zt S p) (b := r) (by have := h.P.W.2.2.2 p p2; omega) (by omega)).mp (hs.1.trans r2)
      have hng : ¬ z_gone S p := by
        unfold z_gone
        rw [htr, r3]
        decide
      have hrc := h.P.live p1 p2 hng
      obtain ⟨m1, m2, m3⟩ := h.P.mem p hrc
      have hll := h.P.rl
      have hl0 := z_len_base htr r3
      have hpg := h.P.W.pg p2
      have hp2 : 2 ≤ p := by
        obtain ⟨hb, e2⟩ := kv_ix_at e
        rcases Nat.lt_or_ge 1 p with w | w
        · exact w
        · obtain rfl : p = 1 := by omega
          have := h.P.b0p (List.getElem_mem hb) p2 (e2.trans p3)
          rw [kv_nth_at hb, this, h.P.lo1] at hs
          exact absurd rfl hs.2
      have v : z_vw S (z_left (z_st (z_nw S (z_leaf (nI 4) (-2) (-2) (zt S p)) []) p (zn S)) k (zh S k 2)) p (z_pg S p) (z_len S p + 1) (nI 4) := by
        refine z_vw_leaf h.P.W (by omega) p2 (f := z_leaf (nI 4) (-2) (-2) (zt S p)) (show nI 4 ≠ nI 0 by decide) rfl rfl (fun e => absurd e (show nI 4 ≠ nI 5 by decide)) ?_ hpg.1 hpg.2.1 (by omega)
        have f0 : (z_st (z_nw S (z_leaf (nI 4) (-2) (-2) (zt S p)) []) p (zn S)).1.1 (zn S) 0 = nI 4 := by rw [z_nw_f]; rfl
        exact z_ap_no _ (by rw [f0]; decide) (by rw [f0]; decide) (by rw [f0]; decide) (by rw [f0]; decide) (by rw [f0]; decide) (by rw [f0]; decide) (by rw [f0]; decide)
      have hzT : zh (z_left (z_st (z_nw S (z_leaf (nI 4) (-2) (-2) (zt S p)) []) p (zn S)) k (zh S k 2)) k = hw_U (hw_U (zh S k) 11 (nI p)) 1 (nI 10) := by
        rw [zh_left, p3]
        rfl
      have nx : i_nx (z_left (z_st (z_nw S (z_leaf (nI 4) (-2) (-2) (zt S p)) []) p (zn S)) k (zh S k 2)) rc lo (zh (z_left (z_st (z_nw S (z_leaf (nI 4) (-2) (-2) (zt S p)) []) p (zn S)) k (zh S k 2)) k) 0 (i_w (zh S k)) := by
        rw [hzT]
        exact i_nx_left h9 ab hp2 (by rw [v.2.2.1]; exact p2) (v.gone.mpr rfl)
      refine i_Tp (d := 0) h hk v p1 p2 rfl hng m3 (fun _ => ⟨hp2, zt S p, h.P.W.2.2.2 p p2, ?_, ?_⟩) ?_ (by omega) ((((z_oth.refl S k).nw _ _).st _ _).left _) nx.1 nx.2.2.2 (Nat.le_add_right _ _) (Nat.le_trans nx.2.1 (Nat.zero_le _)) (fun j hj _ => ?_) ?_
      · show (z_st (z_nw S (z_leaf (nI 4) (-2) (-2) (zt S p)) []) p (zn S)).1.1 (zn S) 3 = _
        rw [z_nw_f]
        rfl
      · unfold zr
        rw [(v.2.2.2.2.2.2.1 _ (h.P.W.2.2.2 p p2)).1 0 (by omega) (by omega), htr]
        exact r3
      · have : zi (z_left (z_st (z_nw S (z_leaf (nI 4) (-2) (-2) (zt S p)) []) p (zn S)) k (zh S k 2)) (zn S) = [] := z_nw_l S (z_leaf (nI 4) (-2) (-2) (zt S p)) [] p (zn S)
        rw [this]
        exact Nat.zero_le _
      · refine Nat.le_trans (i_e_mono h32 (h.H j hj) fun q q0 q1 q2 => ?_) (Nat.le_add_right _ _)
        by_cases x : q = p
        · rw [x, hl0]
          omega
        · rw [v.leno h.P.W x q1] at q2
          exact q2
      · rw [if_pos rfl]
        have := nx.2.2.1
        omega
    · rw [if_neg hs]
      exact go
end
