/-! I3: a page changes -/
set_option maxRecDepth 100000
theorem i_gb_sub {S T : zS} (h : z_sub S.1 T.1 (zn S)) {r : Nat} (hr : r < zn S) (g : i_gb S r) : i_gb T r := by
  obtain ⟨b, b1, b2, b3⟩ := g
  refine ⟨b, b1, ?_, ?_⟩
  · unfold zr at *
    rw [(h r hr).1 3 (by omega) (by omega)]
    exact b2
  · unfold zr at *
    rw [(h b (by omega)).1 0 (by omega) (by omega)]
    exact b3
section
variable {S T : zS} {rc : List Nat} {lo : Nat → Int32} {p : Nat} {c : zG} {n : Nat} {s : Int32}
theorem i_P_vw (h : i_P S rc lo) (v : z_vw S T p c n s) (hp : p < zp S) (e2 : c.2 = (z_pg S p).2) (hng : ¬ z_gone S p) (hin : p ≠ 0 → ∀ q ∈ c.1, lo p ≤ q.1 ∧ q.1 < c.2.1) (h0 : p = 0 → (∀ q ∈ c.1, ∃ p, 1 ≤ p ∧ p < zp S ∧ q.2 = nI p ∧ q.1 = lo p) ∧ (nI 0, nI 1) ∈ c.1)
    (hg : s = nI 4 → 2 ≤ p ∧ i_gb T (zn S)) (hit : (zi T (zn S)).length ≤ 43) (hlen : p ≠ 0 → n + rc.length + 1 ≤ 24 + zp S) : i_P T rc lo := by
  have hz : zp T = zp S := v.2.2.1
  have pg2 : ∀ q, q < zp S → (z_pg T q).2 = (z_pg S q).2 := fun q hq => by
    by_cases w : q = p
    · rw [w, v.pg, e2]
    · rw [v.pgo h.W w hq]
  refine ⟨v.1, h.hd, i_row_all rc h.row (fun y hy => pg2 y (h.mem y hy).2.1) (fun _ _ => rfl), fun q hq => ?_, fun q q1 q2 q3 => ?_, ⟨h.lo1, fun q q1 q2 => h.lo2 q q1 (hz ▸ q2)⟩, fun q q1 q2 => ?_, ?_, fun q q1 => ?_, fun r hr => ?_, by rw [hz]; exact h.rl, fun q q1 q2 => ?_⟩
  · obtain ⟨m1, m2, m3⟩ := h.mem q hq
    refine ⟨m1, by rw [hz]; exact m2, ?_⟩
    unfold i_in at *
    by_cases w : q = p
    · rw [w, v.pg]
      exact hin (by omega)
    · rw [v.pgo h.W w m2]
      exact m3
  · rw [hz] at q2
    have hgo := h.out q q1 q2 q3
    have w : q ≠ p := fun e => hng (e ▸ hgo)
    exact (v.goneo h.W w q2).mpr hgo
  · rw [hz] at q1
    by_cases w : q = p
    · subst w
      obtain ⟨a, b⟩ := hg (v.gone.mp q2)
      refine ⟨a, ?_⟩
      rw [v.2.2.2.2.1]
      exact b
    · obtain ⟨a, b⟩ := h.gn q q1 ((v.goneo h.W w q1).mp q2)
      refine ⟨a, ?_⟩
      rw [v.top w]
      exact i_gb_sub v.2.2.2.2.2.2.1 (h.W.2.2.2 q q1) b
  · have h2 := h.W.2.1
    by_cases w : p = 0
    · have := h0 w
      have e0 : z_pg T 0 = c := by
        have := v.pg
        rw [w] at this
        exact this
      rw [e0, hz]
      exact this
    · rw [v.pgo h.W (fun e => w e.symm) (by omega), hz]
      exact ⟨h.b0, h.b1⟩
  · rw [hz] at q1
    have := congrArg Prod.snd (pg2 q q1)
    rw [this]
    exact h.rt q q1
  · rw [v.2.1] at hr
    rcases Nat.lt_or_ge r (zn S) with w | w
    · unfold zi
      rw [(v.2.2.2.2.2.2.1 r w).2]
      exact h.it r w
    · obtain rfl : r = zn S := by omega
      exact hit
  · rw [hz] at q2
    rw [hz]
    by_cases w : q = p
    · subst w
      rw [v.len]
      exact hlen (by omega)
    · rw [v.leno h.W w q2]
      exact h.ll q q1 q2
theorem i_ge_vw (h : i_P S rc lo) (v : z_vw S T p c n s) (hng : ¬ z_gone S p) : i_ge S T lo lo :=
  ⟨by rw [v.2.1]; omega, Nat.le_of_eq v.2.2.1.symm, by unfold zm; rw [v.2.2.2.1], v.2.2.2.2.2.2.1, fun _ _ => rfl, fun q q1 q2 => (v.goneo h.W (fun e => hng (e ▸ q2)) q1).mpr q2⟩
theorem i_f_vw (h : i_P S rc lo) (v : z_vw S T p c n s) (e0 : (z_pg T 0).1 = (z_pg S 0).1) : i_f T rc lo = i_f S rc lo := by
  funext q
  unfold i_f i_nt
  rw [v.2.2.1, e0]
theorem i_r_vw (hW : z_W S) (v : z_vw S T p c n s) {q : Nat} (hq : q ≠ p) : i_r T rc q = i_r S rc q := by
  unfold i_r
  rw [v.2.2.1]
  by_cases w : q = 0
  · rw [if_pos w, if_pos w]
  · rw [if_neg w, if_neg w]
    by_cases w2 : zp S ≤ q
    · rw [if_pos w2, if_pos w2]
    · rw [if_neg w2, if_neg w2, v.leno hW hq (by omega)]
      have e := v.goneo hW hq (show q < zp S by omega)
      by_cases g : z_gone S q
      · rw [if_pos g, if_pos (e.mpr g)]
      · rw [if_neg g, if_neg (fun x => g (e.mp x))]
theorem i_r_0 (S : zS) (rc : List Nat) : i_r S rc 0 = 0 := if_pos rfl
/-- the weight of the page that changes -/
theorem i_r_at (hp : 1 ≤ p) (h2 : p < zp S) : i_r S rc p = (if p ∈ rc then (if z_gone S p then 7 else 14) else 0) + z_len S p := by
  unfold i_r
  rw [if_neg (by omega), if_neg (by omega)]
theorem i_e_mono {u : Nat → Int32} (h32 : zp S ≤ 32) (hu : i_hu S lo u) (hl : ∀ q, 1 ≤ q → q < zp S → z_len T q < 24 → z_len S q < 24) : i_e T u ≤ i_e S u := by
  unfold i_e
  by_cases w : u 1 = nI 0
  · rw [if_pos w, if_pos w]
    exact Nat.le_refl _
  · rw [if_neg w, if_neg w]
    refine Nat.add_le_add_left ?_ _
    by_cases w2 : (u 1 = nI 4 ∨ u 1 = nI 5) ∧ (u 9 = nI 1 ∨ u 2 = nI 0 ∨ z_len T (u 2).toNatClampNeg < 24)
    · rw [if_pos w2, if_pos ?_]
      · exact Nat.le_refl _
      · refine ⟨w2.1, ?_⟩
        rcases w2.2 with y | y | y
        · exact Or.inl y
        · exact Or.inr (Or.inl y)
        right
        have : ∃ q, q < zp S ∧ u 2 = nI q := by
          rcases w2.1 with e | e
          · exact (hu.at (s := 4) (by omega) e).1
          · exact (hu.at (s := 5) (by omega) e).1.1
        obtain ⟨q, q1, q2⟩ := this
        rcases Nat.eq_zero_or_pos q with e | e
        · left
          rw [q2, e]
        · right
          rw [q2, nI_clamp (n := q) (by omega)] at y ⊢
          exact hl q e q1 y
    · rw [if_neg w2]
      exact Nat.zero_le _
theorem i_e_t4 {S : zS} {u : Nat → Int32} (h9 : u 9 = nI 1) (h4 : u 1 = nI 4) : i_e S u ≤ 6 := by
  rw [i_e_w (Or.inl h4)]
  have : i_w u = 0 := if_pos h9
  rw [this]
  split <;> omega
theorem i_e_6 (T S : zS) (u : Nat → Int32) : i_e T u ≤ i_e S u + 6 := by
  unfold i_e
  repeat (first | omega | split)
/-- the sums, a page p from one on has changed: what it weighs, what the hand weighs -/
theorem i_Fs {k : Nat} (hk : k < 4) (ej : z_oth S T k) {rc' : List Nat} {d : Nat} (hs : ∀ j, j < 4 → j ≠ k → i_s rc' (zh S j) ≤ i_s rc (zh S j) + d) : i_sm (fun k => i_s rc' (zh T k)) 4 + i_s rc (zh S k) ≤ i_sm (fun k => i_s rc (zh S k)) 4 + i_s rc' (zh T k) + 3 * d :=
  i_sm_upc (f := fun k => i_s rc' (zh T k)) (g := fun k => i_s rc (zh S k)) d 4 hk fun j hj ne => by
    show i_s rc' (zh T j) ≤ _
    rw [ej j ne]
    exact hs j hj ne
theorem i_Es {k : Nat} (hk : k < 4) (ej : z_oth S T k) {d : Nat} (he : ∀ j, j < 4 → j ≠ k → i_e T (zh S j) ≤ i_e S (zh S j) + d) : i_sm (fun k => i_e T (zh T k)) 4 + i_e S (zh S k) ≤ i_sm (fun k => i_e S (zh S k)) 4 + i_e T (zh T k) + 3 * d :=
  i_sm_upc (f := fun k => i_e T (zh T k)) (g := fun k => i_e S (zh S k)) d 4 hk fun j hj ne => by
    show i_e T (zh T j) ≤ _
    rw [ej j ne]
    exact he j hj ne
theorem i_K_up (h : i_P S rc lo) (hp : p ∈ rc) (ho : ∀ q ∈ rc, q ≠ p → (z_pg T q).1 = (z_pg S q).1) : i_K T rc + (z_pg S p).1.length = i_K S rc + (z_pg T p).1.length := by
  obtain ⟨A, B, rfl, -, a1, a2, -⟩ := i_row_at h.row hp
  rw [i_K_app, i_K_app]
  have e1 := i_K_cong (S := S) (S' := T) A (fun y hy => ho y (by simp [hy]) (fun e => a1 (e ▸ hy)))
  have e2 := i_K_cong (S := S) (S' := T) B (fun y hy => ho y (by simp [hy]) (fun e => a2 (e ▸ hy)))
  show i_K T A + ((z_pg T p).1.length + i_K T B) + _ = i_K S A + ((z_pg S p).1.length + i_K S B) + _
  omega
end
/-- a page from 1 on gets a record, rc stays -/
theorem i_Tp {S T : zS} {rc : List Nat} {lo : Nat → Int32} {p k : Nat} {c : zG} {n : Nat} {s : Int32} (h : i_all S rc lo) (hk : k < 4) (v : z_vw S T p c n s) (p1 : 1 ≤ p) (hp : p < zp S) (e2 : c.2 = (z_pg S p).2) (hng : ¬ z_gone S p) (hin : ∀ q ∈ c.1, lo p ≤ q.1 ∧ q.1 < c.2.1)
    (hg : s = nI 4 → 2 ≤ p ∧ i_gb T (zn S)) (hit : (zi T (zn S)).length ≤ 43) (hlen : n + rc.length + 1 ≤ 24 + zp S) (ej : z_oth S T k) (hu : i_hu T lo (zh T k)) (hut : i_t T (zh T k) = 0) (hK : c.1.length ≤ (z_pg S p).1.length + i_t S (zh S k)) (hs : i_s rc (zh T k) ≤ i_s rc (zh S k))
    {d : Nat} (he : ∀ j, j < 4 → j ≠ k → i_e T (zh S j) ≤ i_e S (zh S j) + d) (hw : 6 + (if s = nI 4 then 7 else 14) + n + i_e T (zh T k) + 3 * d ≤ 14 + z_len S p + i_e S (zh S k)) : i_all T rc lo := by
  have hrc := h.P.live p1 hp hng
  have h2 := h.P.W.2.1
  have p0 : z_pg T 0 = z_pg S 0 := v.pgo h.P.W (by omega) (by omega)
  have l0 : z_len T 0 = z_len S 0 := v.leno h.P.W (by omega) (by omega)
  have hP := i_P_vw h.P v hp e2 hng (fun _ => hin) (fun e => by omega) hg hit (fun _ => hlen)
  have hKK := i_K_up (T := T) h.P hrc (fun q hq ne => by rw [v.pgo h.P.W ne (h.P.mem q hq).2.1])
  rw [v.pg] at hKK
  have s1 := i_Fs (rc := rc) (rc' := rc) (d := 0) hk ej (fun j _ _ => Nat.le_refl _)
  have hF : i_F T rc lo ≤ i_F S rc lo := by
    unfold i_F
    rw [i_f_vw h.P v (by rw [p0])]
    omega
  have s2 := i_Es hk ej he
  have s3 := i_sm_up (f := i_r T rc) (g := i_r S rc) (k := p) 32 (by have := h.P.W.2.2.1; omega) (fun q _ ne => Nat.le_of_eq (i_r_vw h.P.W v ne))
  have r1 := i_r_at (S := S) (rc := rc) p1 hp
  have r2 := i_r_at (S := T) (rc := rc) p1 (show p < zp T by rw [v.2.2.1]; exact hp)
  rw [if_pos hrc, if_neg hng] at r1
  rw [if_pos hrc, v.len] at r2
  have r3 : (if z_gone T p then 7 else 14) = (if s = nI 4 then 7 else 14) := by
    by_cases w : s = nI 4
    · rw [if_pos w, if_pos (v.gone.mpr w)]
    · rw [if_neg w, if_neg (fun x => w (v.gone.mp x))]
  rw [r3] at r2
  refine i_T h hk hP (i_ge_vw h.P v hng) v.2.2.2.1 ej hu (Or.inl (by rw [hut]; omega)) (by rw [l0]; exact Nat.add_le_add_right hF _) ?_
  unfold i_U
  rw [v.2.1]
  omega
section
variable {S : zS} {rc : List Nat} {lo : Nat → Int32} {k : Nat}
theorem i_prep (h : i_all S rc lo) (hk : k < 4) (h1 : zh S k 1 = nI 3) : z_cn S k 3 ∧ c_cn S k 3 ∧ i_all (z_prep S k) rc lo := by
  obtain ⟨⟨h9, hact, ⟨p, p1, p2, p3, p4⟩, r, r1, r2, r3, r4, r5⟩, hab⟩ := (h.H k hk).at (s := 3) (by omega) h1
  have ab := hab (by omega)
  have h32 := h.P.W.2.2.1
  have hn := h.n
  have hat : z_at S k = p := by unfold z_at; rw [p3, nI_clamp (n := p) (by omega)]
  have hww : i_w (zh S k) ≤ i_e S (zh S k) := i_e_ge (by rw [h1]; decide)
  have hw13 : i_w (zh S k) = 13 := if_neg (by rw [h9]; decide)
  have main : i_all (z_prep S k) rc lo := by
    unfold z_prep
    rw [hat]
    by_cases hs : nI (zt S p) = zh S k 10
    · rw [if_pos hs]
      have htr : zt S p = r := (nI_eq (a := zt S p) (b := r) (by have := h.P.W.2.2.2 p p2; omega) (by omega)).mp (hs.trans r2)
      have hng : ¬ z_gone S p := by
        unfold z_gone
        rw [htr]
        exact r3
      have hrc := h.P.live p1 p2 hng
      have hc : z_ct S.1 r = z_pg S p := by unfold z_pg; rw [htr]
      rw [hc] at r4
      have hl24 : z_len S p + 1 ≤ 24 := by
        have := z_chain_pos h.P.W.1 r1
        unfold z_len
        rw [htr]
        omega
      obtain ⟨m1, m2, m3⟩ := h.P.mem p hrc
      have hpg := h.P.W.pg p2
      have hkm := i_K_mem S hrc
      have hN := h.N
      have ht := i_sm_up (f := fun _ => 0) (g := fun k => i_t S (zh S k)) 4 hk (fun _ _ _ => Nat.zero_le _)
      rw [i_sm_c] at ht
      -- what the page has then
      have key : ∃ c : zG, z_vw S (z_st (z_nw (z_rest S k (if kv_get (zh S k 6) (z_pg S p).1 = none then nI 0 else nI 1)) (z_leaf (if zh S k 0 = nI 1 then nI 1 else nI 2) (zh S k 6) (if zh S k 0 = nI 1 then zh S k 7 else -2) (zt S p)) []) p (zn S)) p c (z_len S p + 1) (if zh S k 0 = nI 1 then nI 1 else nI 2) ∧ c.2 = (z_pg S p).2 ∧ (∀ q ∈ c.1, lo p ≤ q.1 ∧ q.1 < c.2.1) ∧ c.1.length ≤ (z_pg S p).1.length + i_t S (zh S k) := by
        have hit : ∀ {x : Int32}, kv_get (zh S k 6) (z_pg S p).1 = none → zh S k 0 = nI 1 → i_t S (zh S k) = 1 := fun {x} e e0 => by
          unfold i_t
          rw [if_pos ⟨h1, e0, by rw [r2, nI_clamp (n := r) (by omega), hc]; exact e⟩]
        by_cases ha : zh S k 0 = nI 1
        · simp only [if_pos ha]
          have hlen : (kv_set (zh S k 6) (zh S k 7) (z_pg S p).1).length ≤ (z_pg S p).1.length + i_t S (zh S k) := by
            cases e : kv_get (zh S k 6) (z_pg S p).1 with
            | none =>
              rw [hit (x := nI 0) e ha]
              exact kv_set_len _
            | some w =>
              rw [kv_set_len_yes hpg.1 e]
              exact Nat.le_add_right _ _
          refine ⟨(kv_set (zh S k 6) (zh S k 7) (z_pg S p).1, (z_pg S p).2), z_vw_leaf (S := z_rest S k _) h.P.W (show zn S < 1400 by omega) p2 (show nI 1 ≠ nI 0 by decide) rfl rfl (fun e => absurd e (show nI 1 ≠ nI 5 by decide)) ?_ (kv_set_so hpg.1) ?_ (show z_len S p + 2 ≤ 840 by omega), rfl, fun q hq => ?_, hlen⟩
          · exact z_ap_nw_set (Or.inl rfl)
          · show (kv_set (zh S k 6) (zh S k 7) (z_pg S p).1).length ≤ 43
            omega
          · rcases kv_set_mem hq with e | e
            · rw [e]
              exact ⟨p4, r4⟩
            · exact m3 q e
        · simp only [if_neg ha]
          have hlen : (kv_del (zh S k 6) (z_pg S p).1).length ≤ (z_pg S p).1.length := kv_del_len _
          refine ⟨(kv_del (zh S k 6) (z_pg S p).1, (z_pg S p).2), z_vw_leaf (S := z_rest S k _) h.P.W (show zn S < 1400 by omega) p2 (show nI 2 ≠ nI 0 by decide) rfl rfl (fun e => absurd e (show nI 2 ≠ nI 5 by decide)) ?_ (kv_del_so hpg.1) ?_ (show z_len S p + 2 ≤ 840 by omega), rfl, fun q hq => ?_, by show (kv_del (zh S k 6) (z_pg S p).1).length ≤ _; omega⟩
          · exact z_ap_nw_del (Or.inl rfl)
          · show (kv_del (zh S k 6) (z_pg S p).1).length ≤ 43
            omega
          · exact m3 q (kv_del_mem hq)
      obtain ⟨c, v, c1, c2, c3⟩ := key
      have s4 : (if zh S k 0 = nI 1 then nI 1 else nI 2) ≠ nI 4 := by split <;> decide
      have hzi : ∀ X : zS, (zi (z_st (z_nw X (z_leaf (if zh S k 0 = nI 1 then nI 1 else nI 2) (zh S k 6) (if zh S k 0 = nI 1 then zh S k 7 else -2) (zt S p)) []) p (zn X)) (zn X)).length ≤ 43 := fun X => by
        unfold zi
        rw [z_nw_l]
        exact Nat.zero_le _
      have hll := h.P.rl
      dsimp only
      generalize hT : z_st (z_nw (z_rest S k (if kv_get (zh S k 6) (z_pg S p).1 = none then nI 0 else nI 1)) (z_leaf (if zh S k 0 = nI 1 then nI 1 else nI 2) (zh S k 6) (if zh S k 0 = nI 1 then zh S k 7 else -2) (zt S p)) []) p (zn S) = T at v ⊢
      have hzT : zh T k = hw_U (hw_U (hw_U (zh S k) 8 (if kv_get (zh S k 6) (z_pg S p).1 = none then nI 0 else nI 1)) 9 (nI 1)) 1 (nI 0) := by
        rw [← hT]
        exact zh_rest _ _ _
      have ho : z_oth S T k := by
        rw [← hT]
        exact (((z_oth.refl S k).rest _).nw _ _).st _ _
      have hziT : (zi T (zn S)).length ≤ 43 := by
        rw [← hT]
        exact hzi (z_rest S k (if kv_get (zh S k 6) (z_pg S p).1 = none then nI 0 else nI 1))
      have lens : ∀ (T' : zS), T'.1 = T.1 → T'.2.1 = T.2.1 → ∀ q, 1 ≤ q → q < zp S → z_len T' q < 24 → z_len S q < 24 := fun T' e1 e2 q _ hq w => by
        have : z_len T' q = z_len T q := by unfold z_len zt; rw [e1, e2]
        rw [this] at w
        by_cases e : q = p
        · rw [e, v.len] at w
          rw [e]
          omega
        · rw [v.leno h.P.W e hq] at w
          exact w
      by_cases hz : zc S < z_len T p
      · rw [if_pos hz]
        have v' : z_vw S (z_sh T k 1 (nI 4)) p c (z_len S p + 1) (if zh S k 0 = nI 1 then nI 1 else nI 2) := v
        have hzT' : zh (z_sh T k 1 (nI 4)) k = hw_U (hw_U (hw_U (hw_U (zh S k) 8 (if kv_get (zh S k 6) (z_pg S p).1 = none then nI 0 else nI 1)) 9 (nI 1)) 1 (nI 0)) 1 (nI 4) := by rw [zh_sh, hzT]
        refine i_Tp (d := 0) h hk v' p1 p2 c1 hng c2 (fun e => absurd e s4) hziT (by omega) (ho.sh _ _) ?_ ?_ c3 ?_ (fun j hj ne => by
          have := i_e_mono (T := z_sh T k 1 (nI 4)) h32 (h.H j hj) (lens _ rfl rfl)
          omega) ?_
        · rw [hzT']
          exact ⟨Or.inr rfl, 4, by omega, rfl, ⟨p, by rw [v'.2.2.1]; exact p2, p3⟩, fun _ => ab⟩
        · rw [hzT']
          exact i_t_n3 (show nI 4 ≠ nI 3 by decide)
        · rw [hzT', i_s_no (show nI 4 ≠ nI 7 by decide) (show nI 4 ≠ nI 8 by decide) (show nI 4 ≠ nI 12 by decide) (show nI 4 ≠ nI 13 by decide)]
          exact Nat.zero_le _
        · rw [if_neg s4]
          have : i_e (z_sh T k 1 (nI 4)) (zh (z_sh T k 1 (nI 4)) k) ≤ 6 := by
            rw [hzT']
            exact i_e_t4 rfl rfl
          omega
      · rw [if_neg hz]
        refine i_Tp (d := 0) h hk v p1 p2 c1 hng c2 (fun e => absurd e s4) hziT (by omega) ho ?_ ?_ c3 ?_ (fun j hj ne => by
          have := i_e_mono (T := T) h32 (h.H j hj) (lens _ rfl rfl)
          omega) ?_
        · rw [hzT]
          exact ⟨Or.inr rfl, 0, by omega, rfl, trivial, fun e => absurd rfl e⟩
        · rw [hzT]
          exact i_t_n3 (show nI 0 ≠ nI 3 by decide)
        · rw [hzT, i_s_no (show nI 0 ≠ nI 7 by decide) (show nI 0 ≠ nI 8 by decide) (show nI 0 ≠ nI 12 by decide) (show nI 0 ≠ nI 13 by decide)]
          exact Nat.zero_le _
        · rw [if_neg s4]
          have : i_e T (zh T k) = 0 := by
            rw [hzT]
            exact if_pos rfl
          omega
    · rw [if_neg hs]
      refine i_T0x h hk rfl rfl rfl (((z_oth.refl S k).lose).sh _ _) ?_
      rw [zh_sh, zh_lose]
      exact i_nx.le (s := 0) (e := i_w (zh S k)) (i_nx_of (s := 2) (by omega) rfl (h.H k hk).1 ab ⟨h9, p, p1, p2, p3, p4⟩) (Nat.zero_le _) hww
  exact ⟨⟨by rw [hat]; exact p2, by rw [hat]; exact p3, fun _ => ⟨by omega, main.P.W⟩⟩, ⟨by rw [hat]; exact p2, by rw [hat]; exact p3, hact, fun _ => ⟨by omega, main.P.W⟩⟩, main⟩
end
