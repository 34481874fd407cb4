/-! I7: pages split -/
set_option maxRecDepth 100000
theorem kv_wh_self {l : KV} (hs : kv_so l) {i : Nat} (hi : i < l.length) : kv_wh (l[i]).1 l = i := by
  have h1 := (kv_wh_iff (k := (l[i]).1) hi hs)
  rcases Nat.lt_trichotomy (kv_wh (l[i]).1 l) i with w | w | w
  · have hw : kv_wh (l[i]).1 l < l.length := by omega
    have h2 := (kv_wh_iff (k := (l[i]).1) hw hs).mp (List.pairwise_iff_getElem.mp hs _ _ hw hi w)
    omega
  · exact w
  · exact absurd (h1.mpr w) (fun e => kv_lt_irrefl e)
section
variable {S : zS} {rc : List Nat} {lo : Nat → Int32} {k : Nat}
theorem i_split (h : i_all S rc lo) (hk : k < 4) (h1 : zh S k 1 = nI 6) : z_cn S k 6 ∧ c_cn S k 6 ∧ ∃ rc' lo', i_all (z_split S k) rc' lo' := by
  obtain ⟨⟨⟨p, p1, p2, p3⟩, r, r1, r2, r3, r4⟩, hab⟩ := (h.H k hk).at (s := 6) (by omega) h1
  have ab := hab (by omega)
  have h9 := (h.H k hk).1
  have h32 := h.P.W.2.2.1
  have h2 := h.P.W.2.1
  have hn := h.n
  have hzm := h.c.2.1
  have hat : z_at S k = p := by unfold z_at; rw [p3, nI_clamp (n := p) (by omega)]
  have hww : i_w (zh S k) ≤ i_e S (zh S k) := i_e_ge (by rw [h1]; decide)
  have htop : nI (zt S p) = zh S k 10 → zt S p = r := fun w => (nI_eq (a := zt S p) (b := r) (by have := h.P.W.2.2.2 p p2; omega) (by omega)).mp (w.trans r2)
  have hpgr : zt S p = r → z_pg S p = (zi S r, zr S r 7, zr S r 8) := fun e => by
    unfold z_pg
    rw [e, z_ct_0 r3]
    rfl
  refine ⟨⟨by rw [hat]; exact p2, by rw [hat]; exact p3, fun w _ => ⟨by omega, ?_⟩⟩, ⟨by rw [hat]; exact p2, by rw [hat]; exact p3, fun w _ => ⟨by omega, ?_, ?_⟩⟩, ?_⟩
  · rw [hat] at w ⊢
    rw [hpgr (htop w)]
    show 0 < (zi S r).length
    omega
  · rw [hat] at w ⊢
    rw [hpgr (htop w)]
    show 0 < (zi S r).length
    omega
  · rw [hat] at w ⊢
    rw [htop w]
    exact r3
  unfold z_split
  rw [hat]
  by_cases hs : nI (zt S p) = zh S k 10 ∧ zp S < 32
  · rw [if_pos hs]
    have htr := htop hs.1
    have hpr := hpgr htr
    have hlen : 4 < (z_pg S p).1.length := by
      rw [hpr]
      show 4 < (zi S r).length
      omega
    have hng : ¬ z_gone S p := by
      unfold z_gone
      rw [htr, r3]
      decide
    have hrc := h.P.live p1 p2 hng
    obtain ⟨-, -, ip⟩ := h.P.mem p hrc
    have hpg := h.P.W.pg p2
    have hl0 : z_len S p = 0 := z_len_base htr r3
    have ehalf : z_half S p = (z_pg S p).1.length / 2 := rfl
    generalize hmid : z_half S p = mid at ehalf ⊢
    have hmid1 : 1 ≤ mid := by omega
    have hmid2 : mid < (z_pg S p).1.length := by omega
    have edrop : (z_pg S p).1.drop mid = (z_pg S p).1[mid] :: (z_pg S p).1.drop (mid + 1) := List.drop_eq_getElem_cons hmid2
    have ekey : (kv_nth ((z_pg S p).1.drop mid) 0).1 = ((z_pg S p).1[mid]).1 := by
      rw [edrop]
      rfl
    have hspl := hpg.1
    rw [← List.take_append_drop mid (z_pg S p).1] at hspl
    obtain ⟨so1, so2, so3⟩ := List.pairwise_append.mp hspl
    have hkin : (z_pg S p).1[mid] ∈ (z_pg S p).1.drop mid := by rw [edrop]; exact List.mem_cons_self
    have hkp := ip _ (List.getElem_mem hmid2)
    have hk0 : lo p < ((z_pg S p).1[mid]).1 := by
      have x1 := (ip _ (List.getElem_mem (show 0 < (z_pg S p).1.length by omega))).1
      have x2 := List.pairwise_iff_getElem.mp hpg.1 0 mid (by omega) hmid2 (by omega)
      rw [Int32.le_iff_toInt_le] at x1
      rw [Int32.lt_iff_toInt_lt] at *
      omega
    have hcut : kv_cut ((z_pg S p).1[mid]).1 (z_pg S p).1 = (z_pg S p).1.take mid := by
      unfold kv_cut
      rw [kv_wh_self hpg.1 hmid2]
    have htk : ∀ x ∈ (z_pg S p).1.take mid, x.1 < ((z_pg S p).1[mid]).1 := fun x hx => so3 x hx _ hkin
    have hdr : ∀ x ∈ (z_pg S p).1.drop mid, ((z_pg S p).1[mid]).1 ≤ x.1 := fun x hx => by
      rw [edrop] at hx so2
      exact kv_hd_le so2 hx
    dsimp only
    rw [ekey]
    have lz := h.P.lge p1 p2
    have hhigh : (z_pg S p).2.1 ≤ nI 1000 := by
      rcases i_row_nx h.P.row hrc with ⟨x, -⟩ | ⟨y, y1, y2, -⟩
      · rw [x]
        exact Int32.le_refl _
      · rw [y2]
        have := (h.P.lge (h.P.mem y y1).1 (h.P.mem y y1).2.1).2
        rw [Int32.le_iff_toInt_le]
        rw [Int32.lt_iff_toInt_lt] at this
        omega
    generalize hkey : ((z_pg S p).1[mid]).1 = key at *
    have hll : ((z_pg S p).1.drop mid).length = (z_pg S p).1.length - mid := List.length_drop ..
    have hlt : ((z_pg S p).1.take mid).length = mid := by rw [List.length_take]; omega
    -- the new page
    have v1 : z_vw S (z_st (z_nw S (z_base ((z_pg S p).1.drop mid, (z_pg S p).2)) ((z_pg S p).1.drop mid)) (zp S) (zn S)) (zp S) ((z_pg S p).1.drop mid, (z_pg S p).2) 0 (nI 0) := z_vw_base (c := ((z_pg S p).1.drop mid, (z_pg S p).2)) h.P.W (by omega) (zp S) so2 (by show ((z_pg S p).1.drop mid).length ≤ 43; omega)
    have i1 : zi (z_st (z_nw S (z_base ((z_pg S p).1.drop mid, (z_pg S p).2)) ((z_pg S p).1.drop mid)) (zp S) (zn S)) (zn S) = (z_pg S p).1.drop mid := z_nw_l S (z_base ((z_pg S p).1.drop mid, (z_pg S p).2)) ((z_pg S p).1.drop mid) (zp S) (zn S)
    have hh1 : (z_st (z_nw S (z_base ((z_pg S p).1.drop mid, (z_pg S p).2)) ((z_pg S p).1.drop mid)) (zp S) (zn S)).2.2.1 = S.2.2.1 := rfl
    generalize z_st (z_nw S (z_base ((z_pg S p).1.drop mid, (z_pg S p).2)) ((z_pg S p).1.drop mid)) (zp S) (zn S) = T1 at v1 i1 hh1 ⊢
    have hW1 : z_W (z_pp T1) := by
      refine ⟨v1.1.1, ?_, ?_, fun x hx => ?_⟩
      · show 2 ≤ zp T1 + 1
        rw [v1.2.2.1]
        omega
      · show zp T1 + 1 ≤ 32
        rw [v1.2.2.1]
        omega
      · have hx : x < zp T1 + 1 := hx
        rw [v1.2.2.1] at hx
        show zt T1 x < zn T1
        by_cases e : x = zp S
        · rw [e, v1.2.2.2.2.1, v1.2.1]
          omega
        · exact v1.1.2.2.2 x (by rw [v1.2.2.1]; omega)
    have hpq : p ≠ zp S := by omega
    have ezt : zt T1 p = zt S p := v1.top hpq
    have epg1 : z_pg (z_pp T1) p = z_pg S p := v1.pgo h.P.W hpq p2
    have elen1 : z_len (z_pp T1) p = 0 := (v1.leno h.P.W hpq p2).trans hl0
    have v2 : z_vw (z_pp T1) (z_st (z_nw (z_pp T1) (z_leaf (nI 3) key (nI (zp S)) (zt S p)) []) p (zn S + 1)) p ((z_pg S p).1.take mid, key, nI (zp S)) 1 (nI 3) := by
      have en : zn S + 1 = zn (z_pp T1) := v1.2.1.symm
      rw [en]
      have := z_vw_leaf (S := z_pp T1) (p := p) (f := z_leaf (nI 3) key (nI (zp S)) (zt S p)) (c := ((z_pg S p).1.take mid, key, nI (zp S))) hW1 (by rw [← en]; omega) (show p < zp T1 + 1 by rw [v1.2.2.1]; omega) (show nI 3 ≠ nI 0 by decide) (by show nI (zt S p) = nI (zt T1 p); rw [ezt]) rfl (fun e => absurd e (show nI 3 ≠ nI 5 by decide)) ?_ so1 (by show ((z_pg S p).1.take mid).length ≤ 43; omega) (by rw [elen1]; omega)
      · rw [elen1] at this
        exact this
      · have f := z_nw_f (z_pp T1) (z_leaf (nI 3) key (nI (zp S)) (zt S p)) [] p (zn (z_pp T1))
        have f0 : (z_st (z_nw (z_pp T1) (z_leaf (nI 3) key (nI (zp S)) (zt S p)) []) p (zn (z_pp T1))).1.1 (zn (z_pp T1)) 0 = nI 3 := by rw [f]; rfl
        rw [z_ap_cut _ f0, f, epg1]
        show (kv_cut key (z_pg S p).1, key, nI (zp S)) = _
        rw [hcut]
    have i2 : zi (z_st (z_nw (z_pp T1) (z_leaf (nI 3) key (nI (zp S)) (zt S p)) []) p (zn S + 1)) (zn S + 1) = [] := by
      have := z_nw_l (z_pp T1) (z_leaf (nI 3) key (nI (zp S)) (zt S p)) [] p (zn S + 1)
      have en : zn (z_pp T1) = zn S + 1 := v1.2.1
      rw [en] at this
      exact this
    have hh2 : (z_st (z_nw (z_pp T1) (z_leaf (nI 3) key (nI (zp S)) (zt S p)) []) p (zn S + 1)).2.2.1 = S.2.2.1 := hh1
    generalize z_st (z_nw (z_pp T1) (z_leaf (nI 3) key (nI (zp S)) (zt S p)) []) p (zn S + 1) = T2 at v2 i2 hh2 ⊢
    have zh2 : ∀ j, zh T2 j = zh S j := fun j => congrFun hh2 j
    -- what is seen of T2
    have nT : zn T2 = zn S + 2 := by rw [v2.2.1]; show zn T1 + 1 = _; rw [v1.2.1]
    have pT : zp T2 = zp S + 1 := by rw [v2.2.2.1]; show zp T1 + 1 = _; rw [v1.2.2.1]
    have cT : T2.2.2.2.2 = S.2.2.2.2 := by rw [v2.2.2.2.1]; exact v1.2.2.2.1
    have sT : z_sub S.1 T2.1 (zn S) := v1.2.2.2.2.2.2.1.trans v2.2.2.2.2.2.2.1 (show zn S ≤ zn T1 by rw [v1.2.1]; omega)
    have pgp : z_pg T2 p = ((z_pg S p).1.take mid, key, nI (zp S)) := v2.pg
    have hq1 : zp S < zp (z_pp T1) := by show zp S < zp T1 + 1; rw [v1.2.2.1]; omega
    have pgq : z_pg T2 (zp S) = ((z_pg S p).1.drop mid, (z_pg S p).2) := (v2.pgo hW1 hpq.symm hq1).trans v1.pg
    have lt1 : ∀ x, x < zp S → x < zp (z_pp T1) := fun x hx => by omega
    have pgo : ∀ x, x < zp S → x ≠ p → z_pg T2 x = z_pg S x := fun x hx ne => (v2.pgo hW1 ne (lt1 x hx)).trans (v1.pgo h.P.W (by omega) hx)
    have leno : ∀ x, x < zp S → x ≠ p → z_len T2 x = z_len S x := fun x hx ne => (v2.leno hW1 ne (lt1 x hx)).trans (v1.leno h.P.W (by omega) hx)
    have lenp : z_len T2 p = 1 := v2.len
    have lenq : z_len T2 (zp S) = 0 := (v2.leno hW1 hpq.symm hq1).trans v1.len
    have gono : ∀ x, x < zp S → x ≠ p → (z_gone T2 x ↔ z_gone S x) := fun x hx ne => (v2.goneo hW1 ne (lt1 x hx)).trans (v1.goneo h.P.W (by omega) hx)
    have gonp : ¬ z_gone T2 p := fun g => absurd (v2.gone.mp g) (by decide)
    have gonq : ¬ z_gone T2 (zp S) := fun g => absurd (v1.gone.mp ((v2.goneo hW1 hpq.symm hq1).mp g)) (by decide)
    have topo : ∀ x, x < zp S → x ≠ p → zt T2 x = zt S x := fun x hx ne => (v2.top ne).trans (v1.top (by omega))
    have itT : ∀ r, r < zn T2 → (zi T2 r).length ≤ 43 := fun r hr => by
      rw [nT] at hr
      rcases Nat.lt_or_ge r (zn S) with x | x
      · unfold zi
        rw [(sT r x).2]
        exact h.P.it r x
      · rcases Nat.lt_or_ge (zn S) r with y | y
        · obtain rfl : r = zn S + 1 := by omega
          rw [i2]
          exact Nat.zero_le _
        · obtain rfl : r = zn S := by omega
          have := (v2.2.2.2.2.2.2.1 (zn S) (show zn S < zn T1 by rw [v1.2.1]; omega)).2
          unfold zi at *
          rw [this]
          show (T1.1.2 (zn S)).length ≤ 43
          rw [i1]
          omega
    obtain ⟨A, B, e0, row, a1, a2, a3, a4⟩ := i_row_at h.P.row hrc
    subst e0
    have memlt : ∀ x, x ∈ A ++ p :: B → x < zp S := fun x hx => (h.P.mem x hx).2.1
    have hqn : zp S ∉ A ++ p :: B := fun m => by have := memlt _ m; omega
    have hlo : ∀ x, x < zp S → (fun x => if x = zp S then key else lo x) x = lo x := fun x hx => if_neg (by omega)
    have hloq : (fun x => if x = zp S then key else lo x) (zp S) = key := if_pos rfl
    generalize (fun x => if x = zp S then key else lo x) = lo' at hlo hloq
    refine ⟨A ++ p :: zp S :: B, lo', ?_⟩
    have sub : ∀ x, x ∈ A ++ p :: B → x ∈ A ++ p :: zp S :: B := fun x hx => by
      rcases List.mem_append.mp hx with y | y
      · exact List.mem_append_left _ y
      · refine List.mem_append_right _ ?_
        rcases List.mem_cons.mp y with y | y
        · rw [y]
          exact List.mem_cons_self
        · exact List.mem_cons_of_mem _ (List.mem_cons_of_mem _ y)
    have sub2 : ∀ x, x ∈ A ++ p :: zp S :: B → x ≠ zp S → x ∈ A ++ p :: B := fun x hx ne => by
      rcases List.mem_append.mp hx with y | y
      · exact List.mem_append_left _ y
      · refine List.mem_append_right _ ?_
        rcases List.mem_cons.mp y with y | y
        · rw [y]
          exact List.mem_cons_self
        · rcases List.mem_cons.mp y with y | y
          · exact absurd y ne
          · exact List.mem_cons_of_mem _ y
    have elen : (A ++ p :: zp S :: B).length = (A ++ p :: B).length + 1 := by
      simp only [List.length_append, List.length_cons]
      omega
    have hrl := h.P.rl
    have p0 : z_pg T2 0 = z_pg S 0 := pgo 0 (by omega) (by omega)
    have hP : i_P T2 (A ++ p :: zp S :: B) lo' := by
      refine ⟨v2.1, ?_, ?_, fun x hx => ?_, fun x x1 x2 x3 => ?_, ⟨by rw [hlo 1 (by omega)]; exact h.P.lo1, fun x x1 x2 => ?_⟩, fun x x1 x2 => ?_, ?_, fun x x1 => ?_, itT, by rw [pT]; omega, fun x x1 x2 => ?_⟩
      · obtain ⟨t, ht⟩ := h.P.hd
        cases A with
        | nil => exact ⟨zp S :: B, by rw [List.nil_append] at ht ⊢; rw [(List.cons.inj ht).1]⟩
        | cons a A => exact ⟨A ++ p :: zp S :: B, by rw [List.cons_append] at ht ⊢; rw [(List.cons.inj ht).1]⟩
      · refine i_row_cong A p B (zp S :: B) h.P.row (fun y hy => by rw [pgo y (memlt y (by simp [hy])) (fun e => a1 (e ▸ hy))]) (fun y hy => hlo y (memlt y (by
          rcases List.mem_append.mp hy with z | z
          · simp [z]
          · simp [List.mem_singleton.mp z]))) ?_
        refine ⟨⟨by rw [pgp, hloq], by rw [pgp], by rw [hloq, hlo p p2]; exact hk0⟩, ?_⟩
        cases B with
        | nil =>
          show (z_pg T2 (zp S)).2.1 = _ ∧ (z_pg T2 (zp S)).2.2 = _
          rw [pgq]
          exact row
        | cons y t =>
          have hy := memlt y (by simp)
          refine ⟨⟨?_, ?_, ?_⟩, i_row_all (y :: t) row.2 (fun z hz => by rw [pgo z (memlt z (by simp [hz])) (fun e => a2 (e ▸ hz))]) (fun z hz => hlo z (memlt z (by simp [hz])))⟩
          · rw [pgq, hlo y hy]
            exact row.1.1
          · rw [pgq]
            exact row.1.2.1
          · rw [hloq, hlo y hy, ← row.1.1]
            exact hkp.2
      · rw [pT]
        unfold i_in
        by_cases e : x = zp S
        · rw [e, pgq, hloq]
          refine ⟨by omega, by omega, fun z hz => ⟨hdr z hz, (ip z (List.mem_of_mem_drop hz)).2⟩⟩
        · have hx' := sub2 x hx e
          obtain ⟨m1, m2, m3⟩ := h.P.mem x hx'
          refine ⟨m1, by omega, ?_⟩
          rw [hlo x m2]
          by_cases e2 : x = p
          · rw [e2, pgp]
            exact fun z hz => ⟨(ip z (List.mem_of_mem_take hz)).1, htk z hz⟩
          · rw [pgo x m2 e2]
            exact m3
      · rw [pT] at x2
        have ne : x ≠ zp S := fun e => x3 (by rw [e]; simp)
        have hgo := h.P.out x x1 (by omega) (fun m => x3 (sub x m))
        exact (gono x (by omega) (fun e => hng (e ▸ hgo))).mpr hgo
      · rw [pT] at x2
        by_cases e : x = zp S
        · rw [e, hloq]
          have := hkp.2
          refine ⟨?_, ?_⟩
          · have := lz.1
            rw [Int32.le_iff_toInt_le] at this
            rw [Int32.lt_iff_toInt_lt] at *
            omega
          · rw [Int32.le_iff_toInt_le] at hhigh
            rw [Int32.lt_iff_toInt_lt] at *
            omega
        · rw [hlo x (by omega)]
          exact h.P.lo2 x x1 (by omega)
      · rw [pT] at x1
        by_cases e : x = zp S
        · rw [e] at x2
          exact absurd x2 gonq
        · by_cases e2 : x = p
          · rw [e2] at x2
            exact absurd x2 gonp
          · obtain ⟨a, b⟩ := h.P.gn x (by omega) ((gono x (by omega) e2).mp x2)
            refine ⟨a, ?_⟩
            rw [topo x (by omega) e2]
            exact i_gb_sub sT (h.P.W.2.2.2 x (by omega)) b
      · rw [p0, pT]
        refine ⟨fun z hz => ?_, h.P.b1⟩
        obtain ⟨y, y1, y2, y3, y4⟩ := h.P.b0 z hz
        exact ⟨y, y1, by omega, y3, by rw [hlo y y2]; exact y4⟩
      · rw [pT] at x1
        by_cases e : x = zp S
        · rw [e, pgq]
          exact h.P.rt p p2
        · by_cases e2 : x = p
          · rw [e2, pgp]
            intro w
            have w : nI (zp S) = -1 := w
            have := congrArg Int32.toInt w
            rw [nI_toInt (n := zp S) (by omega)] at this
            have e2 : (-1 : Int32).toInt = -1 := by decide
            omega
          · rw [pgo x (by omega) e2]
            exact h.P.rt x (by omega)
      · rw [pT] at x2
        rw [pT]
        by_cases e : x = zp S
        · rw [e, lenq]
          omega
        · by_cases e2 : x = p
          · rw [e2, lenp]
            omega
          · rw [leno x (by omega) e2]
            have := h.P.ll x x1 (by omega)
            omega
    have hge : i_ge S T2 lo lo' := ⟨by omega, by omega, by unfold zm; rw [cT], sT, hlo, fun x x1 x2 => (gono x x1 (fun e => hng (e ▸ x2))).mpr x2⟩
    -- the hand
    have vN : ∀ T' : zS, T'.1 = T2.1 → T'.2.1 = T2.2.1 → T'.2.2.2 = T2.2.2.2 → zh T' k = hw_U (hw_U (hw_U (zh S k) 12 key) 13 (nI (zp S))) 1 (nI 7) → z_oth S T' k → i_all T' (A ++ p :: zp S :: B) lo' := fun T' e1 e2 e3 ez ho => by
      obtain ⟨B2, t2, H2, m2⟩ := T2
      obtain ⟨B', t', H', m'⟩ := T'
      simp only at e1 e2 e3
      subst e1 e2 e3
      have hP' : i_P (B', t', H', m') (A ++ p :: zp S :: B) lo' := i_P_hands hP
      have hge' : i_ge S (B', t', H', m') lo lo' := hge
      have nx : i_nx (B', t', H', m') (A ++ p :: zp S :: B) lo' (zh (B', t', H', m') k) 0 (i_w (zh S k)) := by
        rw [ez]
        have := i_nx_note (S := (B', t', H', m')) (rc := A ++ p :: zp S :: B) (lo := lo') (u := zh S k) (q := zp S) h9 ab h2 (show zp S < zp (B', t', H', m') by have : zp (B', t', H', m') = zp S + 1 := pT; omega) (show zp (B', t', H', m') ≤ 32 by have : zp (B', t', H', m') = zp S + 1 := pT; omega) (by simp)
        rw [hloq] at this
        exact this
      have s1 := i_Fs (T := (B', t', H', m')) (rc := A ++ p :: B) (rc' := A ++ p :: zp S :: B) (d := 0) hk ho (fun j hj _ => by
        have hu := h.H j hj
        have c1 : ∀ y, y < zp S → (y ∈ A ++ p :: zp S :: B ↔ y ∈ A ++ p :: B) := fun y hy => ⟨fun m => sub2 y m (by omega), sub y⟩
        unfold i_s
        by_cases w1 : zh S j 1 = nI 7 ∨ zh S j 1 = nI 8
        · rw [if_pos w1, if_pos w1]
          have : ∃ y, y < zp S ∧ zh S j 13 = nI y := by
            rcases w1 with w | w
            · obtain ⟨y, -, y2, y3, -⟩ := (hu.at (s := 7) (by omega) w).1
              exact ⟨y, y2, y3⟩
            · obtain ⟨⟨y, -, y2, y3, -⟩, -⟩ := (hu.at (s := 8) (by omega) w).1
              exact ⟨y, y2, y3⟩
          obtain ⟨y, y2, y3⟩ := this
          rw [y3, nI_clamp (n := y) (by omega)]
          by_cases m : y ∈ A ++ p :: B
          · rw [if_pos m, if_pos ((c1 y y2).mpr m)]
            omega
          · rw [if_neg m, if_neg (fun x => m ((c1 y y2).mp x))]
            omega
        · rw [if_neg w1, if_neg w1]
          by_cases w2 : zh S j 1 = nI 12 ∨ zh S j 1 = nI 13
          · rw [if_pos w2, if_pos w2]
            have : ∃ y, y < zp S ∧ zh S j 11 = nI y := by
              rcases w2 with w | w
              · obtain ⟨y, -, y2, y3⟩ := (hu.at (s := 12) (by omega) w).1
                exact ⟨y, y2, y3⟩
              · obtain ⟨⟨y, -, y2, y3⟩, -⟩ := (hu.at (s := 13) (by omega) w).1
                exact ⟨y, y2, y3⟩
            obtain ⟨y, y2, y3⟩ := this
            rw [y3, nI_clamp (n := y) (by omega)]
            by_cases m : y ∈ A ++ p :: B
            · rw [if_pos m, if_pos ((c1 y y2).mpr m)]
              omega
            · rw [if_neg m, if_neg (fun x => m ((c1 y y2).mp x))]
              omega
          · rw [if_neg w2, if_neg w2]
            omega)
      have p0' : z_pg (B', t', H', m') 0 = z_pg S 0 := p0
      have pT' : zp (B', t', H', m') = zp S + 1 := pT
      have f1 := i_sm_le (f := i_f (B', t', H', m') (A ++ p :: zp S :: B) lo') (g := i_f S (A ++ p :: B) lo) 32 (fun x _ => by
        unfold i_f i_nt
        rw [pT', p0']
        by_cases x0 : x < 2
        · rw [if_pos x0, if_pos x0]
          omega
        · rw [if_neg x0, if_neg x0]
          by_cases x1 : x < zp S
          · rw [if_neg (show ¬ zp S + 1 ≤ x by omega), if_neg (show ¬ zp S ≤ x by omega), hlo x x1]
            by_cases m : x ∈ A ++ p :: B
            · rw [if_pos m, if_pos (sub x m)]
              exact Nat.le_refl _
            · rw [if_neg m, if_neg (fun y => m (sub2 x y (by omega)))]
              exact Nat.le_refl _
          · rw [if_pos (show zp S ≤ x by omega)]
            repeat (first | omega | split))
      have hF : i_F (B', t', H', m') (A ++ p :: zp S :: B) lo' ≤ i_F S (A ++ p :: B) lo := by
        unfold i_F
        have := nx.2.1
        omega
      have pgp' : z_pg (B', t', H', m') p = ((z_pg S p).1.take mid, key, nI (zp S)) := pgp
      have pgq' : z_pg (B', t', H', m') (zp S) = ((z_pg S p).1.drop mid, (z_pg S p).2) := pgq
      have lenp' : z_len (B', t', H', m') p = 1 := lenp
      have lenq' : z_len (B', t', H', m') (zp S) = 0 := lenq
      have gonp' : ¬ z_gone (B', t', H', m') p := gonp
      have gonq' : ¬ z_gone (B', t', H', m') (zp S) := gonq
      have leno' : ∀ x, x < zp S → x ≠ p → z_len (B', t', H', m') x = z_len S x := leno
      have gono' : ∀ x, x < zp S → x ≠ p → (z_gone (B', t', H', m') x ↔ z_gone S x) := gono
      have pgo' : ∀ x, x < zp S → x ≠ p → z_pg (B', t', H', m') x = z_pg S x := pgo
      have nT' : zn (B', t', H', m') = zn S + 2 := nT
      have g1 := i_sm_up2 (f := i_r (B', t', H', m') (A ++ p :: zp S :: B)) (g := i_r S (A ++ p :: B)) (k := p) (j := zp S) 32 (by omega) (by omega) hpq (fun x _ n1 n2 => by
        unfold i_r
        rw [pT']
        by_cases x0 : x = 0
        · rw [if_pos x0, if_pos x0]
          omega
        · rw [if_neg x0, if_neg x0]
          by_cases x1 : x < zp S
          · rw [if_neg (show ¬ zp S + 1 ≤ x by omega), if_neg (show ¬ zp S ≤ x by omega), leno' x x1 n1]
            refine Nat.add_le_add_right ?_ _
            by_cases m : x ∈ A ++ p :: B
            · rw [if_pos m, if_pos (sub x m)]
              by_cases g : z_gone S x
              · rw [if_pos g, if_pos ((gono' x x1 n1).mpr g)]
                exact Nat.le_refl _
              · rw [if_neg g, if_neg (fun y => g ((gono' x x1 n1).mp y))]
                exact Nat.le_refl _
            · rw [if_neg m, if_neg (fun y => m (sub2 x y n2))]
              exact Nat.le_refl _
          · rw [if_pos (show zp S ≤ x by omega), if_pos (show zp S + 1 ≤ x by omega)]
            exact Nat.le_refl _)
      have rq : i_r S (A ++ p :: B) (zp S) = 27 := by
        unfold i_r
        rw [if_neg (by omega), if_pos (Nat.le_refl _)]
      rw [rq, i_r_at (S := S) p1 p2, i_r_at (S := (B', t', H', m')) p1 (by omega), i_r_at (S := (B', t', H', m')) (p := zp S) (by omega) (by omega), if_pos hrc, if_neg hng, if_pos (sub p hrc), if_neg gonp', if_pos (show zp S ∈ A ++ p :: zp S :: B by simp), if_neg gonq', lenp', lenq', hl0] at g1
      have s2 := i_Es (T := (B', t', H', m')) (d := 0) hk ho (fun j hj _ => by
        refine Nat.le_trans (i_e_mono h32 (h.H j hj) fun x x0 x1 x2 => ?_) (Nat.le_add_right _ _)
        by_cases e : x = p
        · rw [e, hl0]
          omega
        · rw [leno' x x1 e] at x2
          exact x2)
      have hKT : i_K (B', t', H', m') (A ++ p :: zp S :: B) = i_K S (A ++ p :: B) := by
        rw [i_K_app, i_K_app]
        have x1 := i_K_cong (S := S) (S' := (B', t', H', m')) A (fun y hy => by rw [pgo' y (memlt y (by simp [hy])) (fun e => a1 (e ▸ hy))])
        have x2 := i_K_cong (S := S) (S' := (B', t', H', m')) B (fun y hy => by rw [pgo' y (memlt y (by simp [hy])) (fun e => a2 (e ▸ hy))])
        show i_K _ A + ((z_pg (B', t', H', m') p).1.length + ((z_pg (B', t', H', m') (zp S)).1.length + i_K _ B)) = i_K S A + ((z_pg S p).1.length + i_K S B)
        rw [pgp', pgq']
        show i_K _ A + (((z_pg S p).1.take mid).length + (((z_pg S p).1.drop mid).length + i_K _ B)) = _
        omega
      refine i_T h hk hP' hge' cT ho nx.1 (Or.inl (by rw [nx.2.2.2, hKT]; omega)) ?_ ?_
      · rw [leno' 0 (by omega) (by omega)]
        omega
      · unfold i_U
        rw [nT']
        have := nx.2.2.1
        omega
    refine vN _ rfl rfl rfl ?_ ?_
    · rw [zh_note, zh2]
    · have : z_oth S T2 k := fun j _ => zh2 j
      exact this.note _ _
  · rw [if_neg hs]
    refine ⟨rc, lo, i_T0x h hk rfl rfl rfl ((z_oth.refl S k).go) ?_⟩
    rw [zh_go]
    exact (i_nx_go h9 ab).le (Nat.zero_le _) hww
end
