/-! I6: pages join, pages split -/
set_option maxRecDepth 100000
theorem z_ap_nw_join {S : zS} {f : Nat → Int32} {p : Nat} {c : zG} {b : Nat} (h : f 0 = nI 5) (h9 : f 9 = nI b) (hb : b < zn S) (hn : zn S < 2147483648) : z_ap (z_st (z_nw S f []) p (zn S)).1 (zn S) c = (kv_join c.1 (zi S b), zr S b 7, zr S b 8) := by
  have e := z_nw_f S f [] p (zn S)
  have eb := z_sub_nw S f [] p (zn S) b hb
  rw [z_ap_join _ (by rw [e]; exact h), e, h9, nI_clamp (n := b) (by omega), eb.2, eb.1 7 (by omega) (by omega), eb.1 8 (by omega) (by omega)]
  rfl
theorem i_s_2 (rc : List Nat) (u : Nat → Int32) : i_s rc u ≤ 2 := by
  unfold i_s
  repeat (first | omega | split)
section
variable {S : zS} {rc : List Nat} {lo : Nat → Int32} {k : Nat}
/-- a page that is gone: its base -/
theorem i_P.gone (h : i_P S rc lo) {v : Nat} (hv : v < zp S) (hg : z_gone S v) : ∃ b, b < zn S ∧ zr S b 0 = nI 0 ∧ zr S (zt S v) 3 = nI b ∧ (z_chain S.1 (zt S v)) = [zt S v, b] ∧ z_pg S v = (zi S b, zr S b 7, zr S b 8) := by
  obtain ⟨-, b, b1, b2, b3⟩ := h.gn v hv hg
  have ht := h.W.2.2.2 v hv
  have h4 : S.1.1 (zt S v) 0 = nI 4 := hg
  have h0 : S.1.1 (zt S v) 0 ≠ nI 0 := by rw [h4]; decide
  refine ⟨b, by omega, b3, b2, ?_, ?_⟩
  · rw [z_chain_1 h.W.1 ht h0 b1 b2, z_chain_0 b3]
  · unfold z_pg
    rw [z_ct_1 h.W.1 ht h0 b1 b2, z_ap_no _ h0 (by rw [h4]; decide) (by rw [h4]; decide) (by rw [h4]; decide) (by rw [h4]; decide) (by rw [h4]; decide) (by rw [h4]; decide), z_ct_0 b3]
    rfl
theorem i_P.goneLen (h : i_P S rc lo) {v : Nat} (hv : v < zp S) (hg : z_gone S v) : z_len S v = 1 := by
  obtain ⟨b, -, -, -, e, -⟩ := h.gone hv hg
  unfold z_len
  rw [e]
  rfl
theorem i_join (h : i_all S rc lo) (hk : k < 4) (h1 : zh S k 1 = nI 11) : z_cn S k 11 ∧ c_cn S k 11 ∧ ∃ rc', i_all (z_join S k) rc' lo := by
  obtain ⟨⟨⟨v, v2, v3, v4, v5, v6⟩, ⟨p, p1, p2, p3⟩, r, r1, r2, r3, r4, r5⟩, hab⟩ := (h.H k hk).at (s := 11) (by omega) h1
  have ab := hab (by omega)
  have h9 := (h.H k hk).1
  have h32 := h.P.W.2.2.1
  have h2 := h.P.W.2.1
  have hn := h.n
  have hob : z_ob S k = p := by unfold z_ob; rw [p3, nI_clamp (n := p) (by omega)]
  have hvi : z_vi S k = v := by unfold z_vi; rw [v4, nI_clamp (n := v) (by omega)]
  have hww : i_w (zh S k) ≤ i_e S (zh S k) := i_e_ge (by rw [h1]; decide)
  obtain ⟨b, b1, b2, b3, b4, b5⟩ := h.P.gone v3 v5
  have hlast : (z_chain S.1 (zt S v)).getLastD 0 = b := by rw [b4]; rfl
  refine ⟨⟨by rw [hob]; exact p2, by rw [hob]; exact p3, by rw [hvi]; exact v3, by rw [hvi]; exact v4, fun _ => by omega⟩, ⟨by rw [hob]; exact p2, by rw [hob]; exact p3, by rw [hvi]; exact v3, by rw [hvi]; exact v4, fun _ => ⟨by omega, by rw [hvi, hlast]; exact b3⟩⟩, ?_⟩
  unfold z_join
  rw [hob, hvi, hlast]
  by_cases w : nI (zt S p) = zh S k 10
  · rw [if_pos w]
    have htr : zt S p = r := (nI_eq (a := zt S p) (b := r) (by have := h.P.W.2.2.2 p p2; omega) (by omega)).mp (w.trans r2)
    have hng : ¬ z_gone S p := by
      unfold z_gone
      rw [htr]
      exact r3
    have hpv : p ≠ v := fun e => hng (e ▸ v5)
    have hrc := h.P.live p1 p2 hng
    have hct : z_ct S.1 r = z_pg S p := by unfold z_pg; rw [htr]
    rw [hct] at r4 r5
    rw [v6] at r4
    rw [v4] at r5
    obtain ⟨A, B0, e0, row, a1, a2, a3, a4⟩ := i_row_at h.P.row hrc
    obtain ⟨B, rfl⟩ : ∃ B, B0 = v :: B := by
      cases B0 with
      | nil =>
        have : (z_pg S p).2.2 = -2 := row.2
        rw [r5] at this
        have := congrArg Int32.toInt this
        rw [nI_toInt (n := v) (by omega)] at this
        have e2 : (-2 : Int32).toInt = -2 := by decide
        omega
      | cons y t =>
        have : (z_pg S p).2.2 = nI y := row.1.2.1
        rw [r5] at this
        have hy : y < zp S := (h.P.mem y (by rw [e0]; simp)).2.1
        exact ⟨t, by rw [(nI_eq (a := v) (b := y) (by omega) (by omega)).mp this]⟩
    subst e0
    have rowv : i_row S lo (v :: B) := row.2
    have hlt : lo p < lo v := row.1.2.2
    have hpw := i_row_pw _ h.P.row
    obtain ⟨q1, q2, q3⟩ := List.pairwise_append.mp hpw
    have q4 := List.pairwise_cons.mp (List.pairwise_cons.mp q2).2
    have hvn : v ∉ A ++ p :: B := fun m => by
      rcases List.mem_append.mp m with x | x
      · exact kv_lt_irrefl (q3 v x v (by simp))
      · rcases List.mem_cons.mp x with y | y
        · exact hpv y.symm
        · exact kv_lt_irrefl (q4.1 v y)
    obtain ⟨-, -, ip⟩ := h.P.mem p hrc
    obtain ⟨-, -, iv⟩ := h.P.mem v (by simp)
    have hpgp := h.P.W.pg p2
    have hpgv := h.P.W.pg v3
    have hhv : lo v < (z_pg S v).2.1 := by
      rcases i_row_nx h.P.row (show v ∈ A ++ p :: v :: B by simp) with ⟨x, -⟩ | ⟨y, -, y2, -, y4⟩
      · rw [x]
        exact (h.P.lge (by omega) v3).2
      · rw [y2]
        exact y4
    have hso : kv_so ((z_pg S p).1 ++ (z_pg S v).1) := List.pairwise_append.mpr ⟨hpgp.1, hpgv.1, fun x hx y hy => by
      have x1 := (ip x hx).2
      have y1 := (iv y hy).1
      rw [r4] at x1
      rw [Int32.lt_iff_toInt_lt] at *
      rw [Int32.le_iff_toInt_le] at y1
      omega⟩
    have hj : kv_join (z_pg S p).1 (z_pg S v).1 = (z_pg S p).1 ++ (z_pg S v).1 := kv_join_end hso
    have hN := h.N
    have hKe : i_K S (A ++ p :: v :: B) = i_K S A + ((z_pg S p).1.length + ((z_pg S v).1.length + i_K S B)) := i_K_app S A (p :: v :: B)
    have hl43 : ((z_pg S p).1 ++ (z_pg S v).1).length ≤ 43 := by
      rw [List.length_append]
      omega
    have hll := h.P.ll p p1 p2
    have hrl := h.P.rl
    have elen : (A ++ p :: v :: B).length = (A ++ p :: B).length + 1 := by
      simp only [List.length_append, List.length_cons]
      omega
    have vw0 : z_vw S (z_st (z_nw S (z_f (nI 5) (zh S k 12) (zh S k 11) (nI (zt S p)) (nI 0) (nI 0) (-2) (nI b)) []) p (zn S)) p ((z_pg S p).1 ++ (z_pg S v).1, (z_pg S v).2) (z_len S p + 1) (nI 5) := by
      refine z_vw_leaf h.P.W (by omega) p2 (f := z_f (nI 5) (zh S k 12) (zh S k 11) (nI (zt S p)) (nI 0) (nI 0) (-2) (nI b)) (show nI 5 ≠ nI 0 by decide) rfl rfl (fun _ => ⟨b, b1, rfl, b2⟩) ?_ hso hl43 (by omega)
      have e := z_ap_nw_join (S := S) (f := z_f (nI 5) (zh S k 12) (zh S k 11) (nI (zt S p)) (nI 0) (nI 0) (-2) (nI b)) (p := p) (c := z_pg S p) (b := b) rfl rfl b1 (by omega)
      rw [e, ← hj, b5]
    have vw : z_vw S (z_sh (z_st (z_nw S (z_f (nI 5) (zh S k 12) (zh S k 11) (nI (zt S p)) (nI 0) (nI 0) (-2) (nI b)) []) p (zn S)) k 1 (nI 12)) p ((z_pg S p).1 ++ (z_pg S v).1, (z_pg S v).2) (z_len S p + 1) (nI 5) := vw0
    have hzi : zi (z_sh (z_st (z_nw S (z_f (nI 5) (zh S k 12) (zh S k 11) (nI (zt S p)) (nI 0) (nI 0) (-2) (nI b)) []) p (zn S)) k 1 (nI 12)) (zn S) = [] := z_nw_l S (z_f (nI 5) (zh S k 12) (zh S k 11) (nI (zt S p)) (nI 0) (nI 0) (-2) (nI b)) [] p (zn S)
    have ho : z_oth S (z_sh (z_st (z_nw S (z_f (nI 5) (zh S k 12) (zh S k 11) (nI (zt S p)) (nI 0) (nI 0) (-2) (nI b)) []) p (zn S)) k 1 (nI 12)) k := (((z_oth.refl S k).nw _ _).st _ _).sh _ _
    have hzT : zh (z_sh (z_st (z_nw S (z_f (nI 5) (zh S k 12) (zh S k 11) (nI (zt S p)) (nI 0) (nI 0) (-2) (nI b)) []) p (zn S)) k 1 (nI 12)) k = hw_U (zh S k) 1 (nI 12) := zh_sh _ _ _ _
    refine ⟨A ++ p :: B, ?_⟩
    clear vw0
    generalize z_sh (z_st (z_nw S (z_f (nI 5) (zh S k 12) (zh S k 11) (nI (zt S p)) (nI 0) (nI 0) (-2) (nI b)) []) p (zn S)) k 1 (nI 12) = T at vw hzi ho hzT ⊢
    have hz : zp T = zp S := vw.2.2.1
    have sub : ∀ x, x ∈ A ++ p :: B → x ∈ A ++ p :: v :: B := fun x hx => by
      rcases List.mem_append.mp hx with y | y
      · exact List.mem_append_left _ y
      · refine List.mem_append_right _ ?_
        rcases List.mem_cons.mp y with y | y
        · rw [y]
          exact List.mem_cons_self
        · exact List.mem_cons_of_mem _ (List.mem_cons_of_mem _ y)
    have sub2 : ∀ x, x ∈ A ++ p :: v :: B → x ≠ v → x ∈ A ++ p :: B := fun x hx ne => by
      rcases List.mem_append.mp hx with y | y
      · exact List.mem_append_left _ y
      · refine List.mem_append_right _ ?_
        rcases List.mem_cons.mp y with y | y
        · rw [y]
          exact List.mem_cons_self
        · rcases List.mem_cons.mp y with y | y
          · exact absurd y ne
          · exact List.mem_cons_of_mem _ y
    have p0 : z_pg T 0 = z_pg S 0 := vw.pgo h.P.W (by omega) (by omega)
    have hP : i_P T (A ++ p :: B) lo := by
      refine ⟨vw.1, ?_, ?_, fun q hq => ?_, fun q q1 q2 q3 => ?_, ⟨h.P.lo1, fun q q1 q2 => h.P.lo2 q q1 (hz ▸ q2)⟩, fun q q1 q2 => ?_, ?_, fun q q1 => ?_, fun r hr => ?_, by rw [hz]; omega, fun q q1 q2 => ?_⟩
      · obtain ⟨t, ht⟩ := h.P.hd
        cases A with
        | nil => exact ⟨B, by rw [List.nil_append] at ht ⊢; rw [(List.cons.inj ht).1]⟩
        | cons a A => exact ⟨A ++ p :: B, by rw [List.cons_append] at ht ⊢; rw [(List.cons.inj ht).1]⟩
      · refine i_row_cong A p (v :: B) B h.P.row (fun y hy => by rw [vw.pgo h.P.W (fun e => a1 (e ▸ hy)) (h.P.mem y (by simp [hy])).2.1]) (fun _ _ => rfl) ?_
        cases B with
        | nil =>
          show (z_pg T p).2.1 = _ ∧ (z_pg T p).2.2 = _
          rw [vw.pg]
          exact rowv
        | cons y t =>
          refine ⟨⟨?_, ?_, kv_lt_trans hlt rowv.1.2.2⟩, i_row_all (y :: t) rowv.2 (fun z hz => by rw [vw.pgo h.P.W (fun e => a2 (by rw [← e]; simp [hz])) (h.P.mem z (by simp [hz])).2.1]) (fun _ _ => rfl)⟩
          · rw [vw.pg]
            exact rowv.1.1
          · rw [vw.pg]
            exact rowv.1.2.1
      · obtain ⟨m1, m2, m3⟩ := h.P.mem q (sub q hq)
        refine ⟨m1, by rw [hz]; exact m2, ?_⟩
        unfold i_in at *
        by_cases e : q = p
        · rw [e, vw.pg]
          intro x hx
          rcases List.mem_append.mp hx with y | y
          · obtain ⟨i1, i2⟩ := ip x y
            rw [r4] at i2
            exact ⟨i1, kv_lt_trans i2 hhv⟩
          · obtain ⟨i1, i2⟩ := iv x y
            refine ⟨?_, i2⟩
            rw [Int32.le_iff_toInt_le] at *
            rw [Int32.lt_iff_toInt_lt] at hlt
            omega
        · rw [vw.pgo h.P.W e m2]
          exact m3
      · rw [hz] at q2
        have hgo : z_gone S q := by
          by_cases e : q = v
          · rw [e]
            exact v5
          · exact h.P.out q q1 q2 (fun m => q3 (sub2 q m e))
        exact (vw.goneo h.P.W (fun e => hng (e ▸ hgo)) q2).mpr hgo
      · rw [hz] at q1
        by_cases e : q = p
        · rw [e] at q2
          exact absurd (vw.gone.mp q2) (by decide)
        · obtain ⟨a, b⟩ := h.P.gn q q1 ((vw.goneo h.P.W e q1).mp q2)
          refine ⟨a, ?_⟩
          rw [vw.top e]
          exact i_gb_sub vw.2.2.2.2.2.2.1 (h.P.W.2.2.2 q q1) b
      · rw [p0, hz]
        exact ⟨h.P.b0, h.P.b1⟩
      · rw [hz] at q1
        by_cases e : q = p
        · rw [e, vw.pg]
          exact h.P.rt v v3
        · rw [vw.pgo h.P.W e q1]
          exact h.P.rt q q1
      · rw [vw.2.1] at hr
        rcases Nat.lt_or_ge r (zn S) with x | x
        · unfold zi
          rw [(vw.2.2.2.2.2.2.1 r x).2]
          exact h.P.it r x
        · obtain rfl : r = zn S := by omega
          rw [hzi]
          exact Nat.zero_le _
      · rw [hz] at q2
        rw [hz]
        by_cases e : q = p
        · rw [e, vw.len]
          omega
        · rw [vw.leno h.P.W e q2]
          have := h.P.ll q q1 q2
          omega
    have nx : i_nx T (A ++ p :: B) lo (zh T k) 0 (i_w (zh S k)) := by
      rw [hzT]
      have := i_nx_s12 (S := T) (rc := A ++ p :: B) (lo := lo) (u := hw_U (zh S k) 1 (nI 12)) (v := v) h9 ab rfl v2 (by rw [hz]; exact v3) (by rw [hz]; exact h32) v4
      rw [if_neg hvn] at this
      exact this
    have s1 := i_Fs (T := T) (rc := A ++ p :: v :: B) (rc' := A ++ p :: B) (d := 2) hk ho (fun j _ _ => by
      have := i_s_2 (A ++ p :: B) (zh S j)
      omega)
    have hfx : ∀ x, x ≠ v → i_f T (A ++ p :: B) lo x = i_f S (A ++ p :: v :: B) lo x := fun x ne => by
      unfold i_f i_nt
      rw [hz, p0]
      by_cases e : x ∈ A ++ p :: B
      · rw [if_pos e, if_pos (sub x e)]
      · rw [if_neg e, if_neg (fun m => e (sub2 x m ne))]
    have f1 := i_sm_up (f := i_f T (A ++ p :: B) lo) (g := i_f S (A ++ p :: v :: B) lo) (k := v) 32 (by omega) (fun x _ ne => Nat.le_of_eq (hfx x ne))
    rw [i_f_at (S := T) v2 (by omega), i_f_at (S := S) v2 v3, if_neg hvn, if_pos (show v ∈ A ++ p :: v :: B by simp)] at f1
    have f2 : i_sm (i_f T (A ++ p :: B) lo) 32 + 6 ≤ i_sm (i_f S (A ++ p :: v :: B) lo) 32 := by
      by_cases e : i_nt S lo v
      · have e' : i_nt T lo v := by unfold i_nt at *; rw [p0]; exact e
        rw [if_pos e, if_pos e'] at f1
        omega
      · have e' : ¬ i_nt T lo v := by unfold i_nt at *; rw [p0]; exact e
        rw [if_neg e, if_neg e'] at f1
        omega
    have hF : i_F T (A ++ p :: B) lo ≤ i_F S (A ++ p :: v :: B) lo := by
      unfold i_F
      have := nx.2.1
      omega
    have rx : ∀ x, x ≠ p → x ≠ v → i_r T (A ++ p :: B) x = i_r S (A ++ p :: v :: B) x := fun x n1 n2 => by
      rw [i_r_vw (rc := A ++ p :: B) h.P.W vw n1]
      unfold i_r
      by_cases e : x ∈ A ++ p :: B
      · rw [if_pos e, if_pos (sub x e)]
      · rw [if_neg e, if_neg (fun m => e (sub2 x m n2))]
    have g1 := i_sm_up2 (f := i_r T (A ++ p :: B)) (g := i_r S (A ++ p :: v :: B)) (k := p) (j := v) 32 (by omega) (by omega) hpv (fun x _ n1 n2 => Nat.le_of_eq (rx x n1 n2))
    rw [i_r_at (S := S) p1 p2, i_r_at (S := S) (p := v) (by omega) v3, i_r_at (S := T) p1 (by omega), i_r_at (S := T) (p := v) (by omega) (by omega), if_pos hrc, if_pos (show v ∈ A ++ p :: v :: B by simp), if_neg hng, if_pos v5, if_pos (show p ∈ A ++ p :: B by simp), if_neg hvn, vw.len, vw.leno h.P.W (fun e => hpv e.symm) v3, if_neg (fun g => absurd (vw.gone.mp g) (by decide))] at g1
    have s2 := i_Es (T := T) (d := 0) hk ho (fun j hj _ => by
      refine Nat.le_trans (i_e_mono h32 (h.H j hj) fun q q0 q1 q2 => ?_) (Nat.le_add_right _ _)
      by_cases x : q = p
      · rw [x, vw.len] at q2
        rw [x]
        omega
      · rw [vw.leno h.P.W x q1] at q2
        exact q2)
    have hKT : i_K T (A ++ p :: B) = i_K S (A ++ p :: v :: B) := by
      rw [hKe, i_K_app]
      have x1 := i_K_cong (S := S) (S' := T) A (fun y hy => by rw [vw.pgo h.P.W (fun e => a1 (e ▸ hy)) (h.P.mem y (by simp [hy])).2.1])
      have x2 := i_K_cong (S := S) (S' := T) B (fun y hy => by rw [vw.pgo h.P.W (fun e => a2 (by rw [← e]; simp [hy])) (h.P.mem y (by simp [hy])).2.1])
      show i_K T A + ((z_pg T p).1.length + i_K T B) = _
      rw [vw.pg]
      show i_K T A + (((z_pg S p).1 ++ (z_pg S v).1).length + i_K T B) = _
      rw [List.length_append]
      omega
    refine i_T h hk hP (i_ge_vw h.P vw hng) vw.2.2.2.1 ho nx.1 (Or.inl (by rw [nx.2.2.2, hKT]; omega)) ?_ ?_
    · rw [vw.leno h.P.W (by omega) (by omega)]
      omega
    · unfold i_U
      rw [vw.2.1]
      have := nx.2.2.1
      omega
  · rw [if_neg w]
    refine ⟨rc, i_T0x h hk rfl rfl rfl ((z_oth.refl S k).lose.sh _ _) ?_⟩
    rw [zh_sh, zh_lose]
    exact i_nx.le (s := 0) (e := i_w (zh S k)) (i_nx_of (s := 10) (by omega) rfl h9 ab ⟨v, v2, v3, v4, v5⟩) (Nat.zero_le _) hww
end
