/-! I5: changes of page 0 -/
set_option maxRecDepth 100000
theorem kv_get_set (j k v : Int32) : ∀ l : KV, kv_get j (kv_set k v l) = if j = k then some v else kv_get j l
  | [] => by
    unfold kv_set kv_get
    by_cases w : j = k
    · rw [if_pos w, if_pos w.symm]
    · rw [if_neg w, if_neg (fun e => w e.symm)]
      rfl
  | q :: r => by
    unfold kv_set
    by_cases w1 : q.1 < k
    · rw [if_pos w1]
      show (if q.1 = j then some q.2 else kv_get j (kv_set k v r)) = _
      rw [kv_get_set j k v r]
      show _ = if j = k then some v else if q.1 = j then some q.2 else kv_get j r
      by_cases w : j = k
      · rw [if_pos w, if_pos w, if_neg (fun e => kv_lt_ne w1 (e.trans w))]
      · rw [if_neg w, if_neg w]
    · rw [if_neg w1]
      by_cases w2 : q.1 = k
      · rw [if_pos w2]
        show (if k = j then some v else kv_get j r) = if j = k then some v else if q.1 = j then some q.2 else kv_get j r
        by_cases w : j = k
        · rw [if_pos w, if_pos w.symm]
        · rw [if_neg w, if_neg (fun e => w e.symm), if_neg (fun e => w (e.symm.trans w2))]
      · rw [if_neg w2]
        show (if k = j then some v else kv_get j (q :: r)) = _
        by_cases w : j = k
        · rw [if_pos w, if_pos w.symm]
        · rw [if_neg w, if_neg (fun e => w e.symm)]
theorem kv_get_big {j : Int32} : ∀ {l : KV}, (∀ q ∈ l, j < q.1) → kv_get j l = none
  | [], _ => rfl
  | q :: r, h => by
    unfold kv_get
    rw [if_neg (fun e => kv_lt_ne (h q List.mem_cons_self) e.symm)]
    exact kv_get_big fun z hz => h z (List.mem_cons_of_mem _ hz)
theorem kv_get_del (j k : Int32) : ∀ l : KV, kv_so l → kv_get j (kv_del k l) = if j = k then none else kv_get j l
  | [], _ => by
    unfold kv_del kv_get
    split <;> rfl
  | q :: r, hs => by
    obtain ⟨h1, h2⟩ := kv_so_cons.mp hs
    unfold kv_del
    by_cases w1 : q.1 < k
    · rw [if_pos w1]
      show (if q.1 = j then some q.2 else kv_get j (kv_del k r)) = _
      rw [kv_get_del j k r h2]
      show _ = if j = k then none else if q.1 = j then some q.2 else kv_get j r
      by_cases w : j = k
      · rw [if_pos w, if_pos w, if_neg (fun e => kv_lt_ne w1 (e.trans w))]
      · rw [if_neg w, if_neg w]
    · rw [if_neg w1]
      by_cases w2 : q.1 = k
      · rw [if_pos w2]
        show kv_get j r = if j = k then none else if q.1 = j then some q.2 else kv_get j r
        by_cases w : j = k
        · rw [if_pos w, kv_get_big fun z hz => by rw [w, ← w2]; exact h1 z hz]
        · rw [if_neg w, if_neg (fun e => w (e.symm.trans w2))]
      · rw [if_neg w2]
        by_cases w : j = k
        · rw [if_pos w]
          have hk : k < q.1 := kv_gt w1 w2
          refine kv_get_big fun z hz => ?_
          rw [w]
          rcases List.mem_cons.mp hz with e | e
          · rw [e]
            exact hk
          · exact kv_lt_trans hk (h1 z e)
        · rw [if_neg w]
/-- as many bounds as pages, at most -/
theorem kv_len_pages (lo : Nat → Int32) : ∀ (n : Nat) (l : KV), n ≤ 1000 → kv_so l → (∀ q ∈ l, ∃ p, p < n ∧ q.2 = nI p ∧ q.1 = lo p) → l.length ≤ n
  | 0, [], _, _, _ => Nat.le_refl _
  | 0, q :: r, _, _, h => by
    obtain ⟨p, p1, -⟩ := h q List.mem_cons_self
    omega
  | n + 1, l, hn, hs, h => by
    by_cases w : ∃ q ∈ l, q.2 = nI n ∧ q.1 = lo n
    · obtain ⟨q, q1, q2, q3⟩ := w
      obtain ⟨A, B, rfl⟩ := List.append_of_mem q1
      obtain ⟨s1, s2, s3⟩ := List.pairwise_append.mp hs
      obtain ⟨s4, s5⟩ := List.pairwise_cons.mp s2
      have := kv_len_pages lo n (A ++ B) (by omega) (List.pairwise_append.mpr ⟨s1, s5, fun a ha b hb => s3 a ha b (List.mem_cons_of_mem _ hb)⟩) (fun z hz => by
        obtain ⟨p, p1, p2, p3⟩ := h z (by
          rcases List.mem_append.mp hz with e | e
          · exact List.mem_append_left _ e
          · exact List.mem_append_right _ (List.mem_cons_of_mem _ e))
        refine ⟨p, ?_, p2, p3⟩
        rcases Nat.lt_or_ge p n with x | x
        · exact x
        · obtain rfl : p = n := by omega
          rcases List.mem_append.mp hz with e | e
          · exact absurd (p3.trans q3.symm) (kv_lt_ne (s3 z e q List.mem_cons_self))
          · exact absurd (q3.trans p3.symm) (kv_lt_ne (s4 z e)))
      rw [List.length_append, List.length_cons]
      rw [List.length_append] at this
      omega
    · have := kv_len_pages lo n l (by omega) hs (fun z hz => by
        obtain ⟨p, p1, p2, p3⟩ := h z hz
        refine ⟨p, ?_, p2, p3⟩
        rcases Nat.lt_or_ge p n with x | x
        · exact x
        · obtain rfl : p = n := by omega
          exact absurd ⟨z, hz, p2, p3⟩ w)
      omega
theorem z_vw.unmk {S T : zS} {p : Nat} {c : zG} {n : Nat} {s : Int32} {l : List Nat} (v : z_vw (z_mk S l) T p c n s) : z_vw S T p c n s :=
  ⟨v.1, v.2.1, v.2.2.1, v.2.2.2.1, v.2.2.2.2.1, v.2.2.2.2.2.1, fun r hr => ⟨fun f a b => by
    rw [(v.2.2.2.2.2.2.1 r hr).1 f a b]
    exact z_mk_ne' S l r a, (v.2.2.2.2.2.2.1 r hr).2⟩, v.2.2.2.2.2.2.2⟩
section
variable {S : zS} {rc : List Nat} {lo : Nat → Int32} {k : Nat}
theorem i_chg (h : i_all S rc lo) (hk : k < 4) (h1 : zh S k 1 = nI 8 ∨ zh S k 1 = nI 13) (l : List Nat) {s a b : Int32} {c1 : KV} (hs : s = nI 6 ∧ c1 = kv_set a b (z_pg S 0).1 ∨ s = nI 7 ∧ c1 = kv_del a (z_pg S 0).1)
    (hb0 : ∀ q ∈ c1, ∃ p, 1 ≤ p ∧ p < zp S ∧ q.2 = nI p ∧ q.1 = lo p) (hb1 : (nI 0, nI 1) ∈ c1)
    (hf : ∀ T : zS, zp T = zp S → (z_pg T 0).1 = c1 → i_sm (i_f T rc lo) 32 + 1 ≤ i_sm (i_f S rc lo) 32 + i_s rc (zh S k)) : i_all (z_chg (z_mk S l) k s a b) rc lo := by
  have h1e : zh S k 1 ≠ nI 0 := by rcases h1 with e | e <;> rw [e] <;> decide
  have hww : i_w (zh S k) ≤ i_e S (zh S k) := i_e_ge h1e
  have h9 := (h.H k hk).1
  have ab : i_ab (zh S k) := by
    rcases h1 with e | e
    · exact ((h.H k hk).at (s := 8) (by omega) e).2 (by omega)
    · exact ((h.H k hk).at (s := 13) (by omega) e).2 (by omega)
  have h2 := h.P.W.2.1
  have h32 := h.P.W.2.2.1
  have hn := h.n
  have hF := h.F
  have hlk := z_like_mk S l
  have hso : kv_so c1 := by
    rcases hs with ⟨-, e⟩ | ⟨-, e⟩ <;> rw [e]
    · exact kv_set_so h.P.b0so
    · exact kv_del_so h.P.b0so
  have hl : c1.length ≤ 43 := by
    have := kv_len_pages lo (zp S) c1 (by omega) hso (fun q hq => by
      obtain ⟨p, p1, p2, p3⟩ := hb0 q hq
      exact ⟨p, p2, p3⟩)
    omega
  have hng : ¬ z_gone S 0 := fun g => by have := (h.P.gn 0 (by omega) g).1; omega
  have hs4 : s ≠ nI 4 := by rcases hs with ⟨e, -⟩ | ⟨e, -⟩ <;> rw [e] <;> decide
  have epg : z_pg (z_mk S l) 0 = z_pg S 0 := hlk.ct _
  have elen : z_len (z_mk S l) 0 = z_len S 0 := by
    unfold z_len
    rw [hlk.chain]
    rfl
  have v : z_vw S (z_st (z_nw (z_mk S l) (z_leaf s a b (zt (z_mk S l) 0)) []) 0 (zn (z_mk S l))) 0 (c1, (z_pg S 0).2) (z_len S 0 + 1) s := by
    refine z_vw.unmk (l := l) ?_
    rw [← elen]
    refine z_vw_leaf (S := z_mk S l) (f := z_leaf s a b (zt (z_mk S l) 0)) (hlk.W rfl rfl rfl h.P.W) (show zn S < 1400 by omega) (show 0 < zp S by omega) ?_ rfl rfl (fun e => ?_) ?_ hso hl (by rw [elen]; omega)
    · show s ≠ nI 0
      rcases hs with ⟨e, -⟩ | ⟨e, -⟩ <;> rw [e] <;> decide
    · have e : s = nI 5 := e
      rcases hs with ⟨e', -⟩ | ⟨e', -⟩ <;> rw [e'] at e <;> exact absurd e (by decide)
    · have f := z_nw_f (z_mk S l) (z_leaf s a b (zt (z_mk S l) 0)) [] 0 (zn (z_mk S l))
      have f0 : (z_st (z_nw (z_mk S l) (z_leaf s a b (zt (z_mk S l) 0)) []) 0 (zn (z_mk S l))).1.1 (zn (z_mk S l)) 0 = s := by rw [f]; rfl
      rcases hs with ⟨e, e2⟩ | ⟨e, e2⟩
      · rw [z_ap_set _ (Or.inr (f0.trans e)), f, epg, e2]
        rfl
      · rw [z_ap_del _ (Or.inr (f0.trans e)), f, epg, e2]
        rfl
  have hzi : zi (z_st (z_nw (z_mk S l) (z_leaf s a b (zt (z_mk S l) 0)) []) 0 (zn (z_mk S l))) (zn S) = [] := z_nw_l (z_mk S l) _ _ _ _
  unfold z_chg
  dsimp only
  have ho : z_oth S (z_st (z_nw (z_mk S l) (z_leaf s a b (zt (z_mk S l) 0)) []) 0 (zn (z_mk S l))) k := (((z_oth.refl S k).mk _).nw _ _).st _ _
  have hzT : zh (z_st (z_nw (z_mk S l) (z_leaf s a b (zt (z_mk S l) 0)) []) 0 (zn (z_mk S l))) k = zh S k := rfl
  generalize z_st (z_nw (z_mk S l) (z_leaf s a b (zt (z_mk S l) 0)) []) 0 (zn (z_mk S l)) = T at v hzi ho hzT ⊢
  have fin : ∀ T' : zS, T'.1 = T.1 → T'.2.1 = T.2.1 → T'.2.2.2 = T.2.2.2 → z_oth S T' k → i_hu T lo (zh T' k) → i_s rc (zh T' k) = 0 → i_t T (zh T' k) = 0 → i_e T (zh T' k) ≤ i_w (zh S k) + 6 → i_all T' rc lo := fun T' e1 e2 e3 eo nx1 nx2 nx3 nx4 => by
    obtain ⟨B, t, H, m⟩ := T
    obtain ⟨B', t', H', m'⟩ := T'
    simp only at e1 e2 e3
    subst e1 e2 e3
    have v' : z_vw S (B', t', H', m') 0 (c1, (z_pg S 0).2) (z_len S 0 + 1) s := v
    have nx1' : i_hu (B', t', H', m') lo (zh (B', t', H', m') k) := nx1
    have nx3' : i_t (B', t', H', m') (zh (B', t', H', m') k) = 0 := nx3
    have nx4' : i_e (B', t', H', m') (zh (B', t', H', m') k) ≤ i_w (zh S k) + 6 := nx4
    have hP := i_P_vw h.P v' (by omega) rfl hng (fun e => absurd rfl e) (fun _ => ⟨hb0, hb1⟩) (fun e => absurd e hs4) (by
      have : zi (B', t', H', m') (zn S) = [] := hzi
      rw [this]
      exact Nat.zero_le _) (fun e => absurd rfl e)
    have s1 := i_Fs (T := (B', t', H', m')) (rc := rc) (rc' := rc) (d := 0) hk eo (fun j _ _ => Nat.le_refl _)
    have hf' := hf (B', t', H', m') v'.2.2.1 (by rw [v'.pg])
    have hF' : i_F (B', t', H', m') rc lo + 1 ≤ i_F S rc lo := by
      unfold i_F
      omega
    have rr : i_r (B', t', H', m') rc = i_r S rc := funext fun q => by
      by_cases w : q = 0
      · rw [w, i_r_0, i_r_0]
      · exact i_r_vw h.P.W v' w
    have s2 := i_Es (T := (B', t', H', m')) (d := 0) hk eo (fun j hj _ => by
      have := i_e_mono (T := (B', t', H', m')) h32 (h.H j hj) (fun q q0 q1 q2 => by
        rw [v'.leno h.P.W (by omega) q1] at q2
        exact q2)
      omega)
    refine i_T h hk hP (i_ge_vw h.P v' hng) v'.2.2.2.1 eo nx1' (Or.inl ?_) ?_ ?_
    · rw [nx3']
      have := i_K_cong (S := S) (S' := (B', t', H', m')) rc (fun y hy => by rw [v'.pgo h.P.W (by have := (h.P.mem y hy).1; omega) (h.P.mem y hy).2.1])
      omega
    · rw [v'.len]
      omega
    · unfold i_U
      rw [v'.2.1, rr]
      omega
  split
  · refine fin _ rfl rfl rfl ((ho.sh _ _).sh _ _) ?_ ?_ ?_ ?_
    · rw [zh_sh, zh_sh, hzT]
      exact ⟨h9, 4, by omega, rfl, ⟨0, by rw [v.2.2.1]; omega, rfl⟩, fun _ => ab⟩
    · rw [zh_sh, zh_sh]
      exact i_s_no (show nI 4 ≠ nI 7 by decide) (show nI 4 ≠ nI 8 by decide) (show nI 4 ≠ nI 12 by decide) (show nI 4 ≠ nI 13 by decide)
    · rw [zh_sh, zh_sh]
      exact i_t_n3 (show nI 4 ≠ nI 3 by decide)
    · rw [zh_sh, zh_sh, hzT, i_e_w (Or.inl rfl)]
      refine Nat.add_le_add_left ?_ (i_w (zh S k))
      split <;> omega
  · have nx : i_nx T rc lo (zh (z_go T k) k) 0 (i_w (zh S k)) := by
      rw [zh_go, hzT]
      exact i_nx_go h9 ab
    refine fin _ rfl rfl rfl ho.go nx.1 (Nat.le_antisymm nx.2.1 (Nat.zero_le _)) nx.2.2.2 ?_
    have := nx.2.2.1
    omega
/-- the weight of a page, by whether it is noted -/
theorem i_f_at {q : Nat} (q2 : 2 ≤ q) (hq : q < zp S) : i_f S rc lo q = if q ∈ rc then (if i_nt S lo q then 7 else 8) else (if i_nt S lo q then 1 else 0) := by
  unfold i_f
  rw [if_neg (by omega), if_neg (by omega)]
theorem i_f_le {T : zS} (hz : zp T = zp S) {x : Nat} (hx : i_nt T lo x ↔ i_nt S lo x) : i_f T rc lo x ≤ i_f S rc lo x := by
  unfold i_f
  rw [hz]
  by_cases w : i_nt S lo x
  · rw [if_pos w, if_pos (hx.mpr w), if_pos w, if_pos (hx.mpr w)]
    exact Nat.le_refl _
  · rw [if_neg w, if_neg (fun e => w (hx.mp e)), if_neg w, if_neg (fun e => w (hx.mp e))]
    exact Nat.le_refl _
theorem i_enter (h : i_all S rc lo) (hk : k < 4) (h1 : zh S k 1 = nI 8) : z_cn S k 8 ∧ c_cn S k 8 ∧ i_all (z_enter S k) rc lo := by
  obtain ⟨⟨⟨q, q2, q3, q4, q5⟩, r, r1, r2, r3⟩, hab⟩ := (h.H k hk).at (s := 8) (by omega) h1
  have ab := hab (by omega)
  have h9 := (h.H k hk).1
  have h32 := h.P.W.2.2.1
  have h2 := h.P.W.2.1
  have hn := h.n
  have hww : i_w (zh S k) ≤ i_e S (zh S k) := i_e_ge (by rw [h1]; decide)
  have hs : i_s rc (zh S k) = if q ∈ rc then 0 else 2 := by rw [i_s_r (Or.inr h1), q4, nI_clamp (n := q) (by omega)]
  have main : i_all (z_enter S k) rc lo := by
    unfold z_enter
    by_cases w : nI (zt S 0) = zh S k 10
    · rw [if_pos w]
      have htr : zt S 0 = r := (nI_eq (a := zt S 0) (b := r) (by have := h.P.W.2.2.2 0 (by omega); omega) (by omega)).mp (w.trans r2)
      have hno : kv_get (lo q) (z_pg S 0).1 = none := by
        rw [← q5]
        unfold z_pg
        rw [htr]
        exact r3
      have := i_chg (S := S) h hk (Or.inl h1) [] (s := nI 6) (a := zh S k 12) (b := zh S k 13) (c1 := kv_set (zh S k 12) (zh S k 13) (z_pg S 0).1) (Or.inl ⟨rfl, rfl⟩) (fun z hz => ?_) ?_ (fun T hz hT => ?_)
      · rw [z_mk_nil] at this
        exact this
      · rcases kv_set_mem hz with e | e
        · rw [e]
          exact ⟨q, by omega, q3, q4, q5⟩
        · exact h.P.b0 z e
      · refine kv_get_mem ?_
        rw [kv_get_set, if_neg ?_]
        · exact kv_mem_get h.P.b0so h.P.b1
        · rw [q5]
          exact kv_lt_ne (h.P.lo2 q q2 q3).1
      · have hx : ∀ x, x < zp S → x ≠ q → (i_nt T lo x ↔ i_nt S lo x) := fun x x1 x2 => by
          unfold i_nt
          rw [hT, kv_get_set, q5, q4]
          by_cases e : lo x = lo q
          · rw [if_pos e, e, hno]
            refine ⟨fun y => ?_, fun y => by cases y⟩
            have := (nI_eq (a := q) (b := x) (by omega) (by omega)).mp (Option.some.inj y)
            omega
          · rw [if_neg e]
        have := i_sm_up (f := i_f T rc lo) (g := i_f S rc lo) (k := q) 32 (by omega) (fun x _ ne => by
          by_cases x1 : x < zp S
          · exact i_f_le hz (hx x x1 ne)
          · unfold i_f
            rw [hz, if_pos (show zp S ≤ x by omega), if_pos (show zp S ≤ x by omega)]
            exact Nat.le_refl _)
        rw [i_f_at (S := T) q2 (by omega), i_f_at (S := S) q2 q3] at this
        have n1 : i_nt T lo q := by
          unfold i_nt
          rw [hT, kv_get_set, q5, q4, if_pos rfl]
        have n2 : ¬ i_nt S lo q := by
          unfold i_nt
          rw [hno]
          exact fun y => by cases y
        rw [if_pos n1, if_pos n1, if_neg n2, if_neg n2] at this
        rw [hs]
        by_cases e : q ∈ rc
        · simp only [if_pos e] at this ⊢
          omega
        · simp only [if_neg e] at this ⊢
          omega
    · rw [if_neg w]
      refine i_T0x h hk rfl rfl rfl ((z_oth.refl S k).lose.sh _ _) ?_
      rw [zh_sh, zh_lose]
      refine ⟨⟨h9, 7, by omega, rfl, ⟨q, q2, q3, q4, q5⟩, fun _ => ab⟩, ?_, ?_, i_t_n3 (show nI 7 ≠ nI 3 by decide)⟩
      · rw [i_s_r (Or.inl rfl), i_s_r (Or.inr h1)]
        exact Nat.le_refl _
      · exact Nat.le_trans (i_e_pl (show nI 7 ≠ nI 4 by decide) (show nI 7 ≠ nI 5 by decide)) hww
  exact ⟨fun _ => ⟨by omega, main.P.W⟩, fun _ => ⟨by omega, main.P.W⟩, main⟩
theorem i_stri (h : i_all S rc lo) (hk : k < 4) (h1 : zh S k 1 = nI 13) : z_cn S k 13 ∧ c_cn S k 13 ∧ i_all (z_stri S k) rc lo := by
  obtain ⟨⟨⟨v, v2, v3, v4⟩, r, r1, r2, r3⟩, hab⟩ := (h.H k hk).at (s := 13) (by omega) h1
  have ab := hab (by omega)
  have h9 := (h.H k hk).1
  have h32 := h.P.W.2.2.1
  have h2 := h.P.W.2.1
  have hn := h.n
  have hvi : z_vi S k = v := by unfold z_vi; rw [v4, nI_clamp (n := v) (by omega)]
  have hww : i_w (zh S k) ≤ i_e S (zh S k) := i_e_ge (by rw [h1]; decide)
  have hs : i_s rc (zh S k) = if v ∈ rc then 2 else 0 := by rw [i_s_v (Or.inr h1), v4, nI_clamp (n := v) (by omega)]
  have hix : nI (zt S 0) = zh S k 10 → ∃ b, kv_ix (zh S k 11) (z_pg S 0).1 = some b := fun w => by
    have htr : zt S 0 = r := (nI_eq (a := zt S 0) (b := r) (by have := h.P.W.2.2.2 0 (by omega); omega) (by omega)).mp (w.trans r2)
    have : kv_ix (zh S k 11) (z_pg S 0).1 ≠ none := by
      unfold z_pg
      rw [htr]
      exact r3
    cases e : kv_ix (zh S k 11) (z_pg S 0).1 with
    | none => exact absurd e this
    | some b => exact ⟨b, rfl⟩
  have main : i_all (z_stri S k) rc lo := by
    unfold z_stri
    by_cases w : nI (zt S 0) = zh S k 10
    · rw [if_pos w]
      obtain ⟨b, hb⟩ := hix w
      obtain ⟨b1, b2⟩ := kv_ix_at hb
      have ek : (kv_nth (z_pg S 0).1 b).1 = lo v := by
        rw [kv_nth_at b1]
        exact h.P.b0p (List.getElem_mem b1) v3 (b2.trans v4)
      have hyes : kv_get (lo v) (z_pg S 0).1 = some (nI v) := by
        refine kv_mem_get h.P.b0so ?_
        have : (z_pg S 0).1[b] = (lo v, nI v) := Prod.ext (by rw [← kv_nth_at b1]; exact ek) (b2.trans v4)
        rw [← this]
        exact List.getElem_mem b1
      rw [hb, hvi]
      show i_all (z_chg (if z_gone S v then z_mk S [zt S v] else S) k (nI 7) (kv_nth (z_pg S 0).1 b).1 (-2)) rc lo
      rw [ek]
      have key : ∀ l, i_all (z_chg (z_mk S l) k (nI 7) (lo v) (-2)) rc lo := fun l => by
        refine i_chg (S := S) h hk (Or.inr h1) l (s := nI 7) (a := lo v) (b := -2) (c1 := kv_del (lo v) (z_pg S 0).1) (Or.inr ⟨rfl, rfl⟩) (fun z hz => h.P.b0 z (kv_del_mem hz)) ?_ (fun T hz hT => ?_)
        · refine kv_get_mem ?_
          rw [kv_get_del _ _ _ h.P.b0so, if_neg (kv_lt_ne (h.P.lo2 v v2 v3).1)]
          exact kv_mem_get h.P.b0so h.P.b1
        · have hx : ∀ x, x < zp S → x ≠ v → (i_nt T lo x ↔ i_nt S lo x) := fun x x1 x2 => by
            unfold i_nt
            rw [hT, kv_get_del _ _ _ h.P.b0so]
            by_cases e : lo x = lo v
            · rw [if_pos e, e, hyes]
              refine ⟨fun y => (by cases y), fun y => ?_⟩
              have := (nI_eq (a := v) (b := x) (by omega) (by omega)).mp (Option.some.inj y)
              omega
            · rw [if_neg e]
          have := i_sm_up (f := i_f T rc lo) (g := i_f S rc lo) (k := v) 32 (by omega) (fun x _ ne => by
            by_cases x1 : x < zp S
            · exact i_f_le hz (hx x x1 ne)
            · unfold i_f
              rw [hz, if_pos (show zp S ≤ x by omega), if_pos (show zp S ≤ x by omega)]
              exact Nat.le_refl _)
          rw [i_f_at (S := T) v2 (by omega), i_f_at (S := S) v2 v3] at this
          have n1 : ¬ i_nt T lo v := by
            unfold i_nt
            rw [hT, kv_get_del _ _ _ h.P.b0so, if_pos rfl]
            exact fun y => by cases y
          rw [if_neg n1, if_neg n1, if_pos (show i_nt S lo v from hyes), if_pos (show i_nt S lo v from hyes)] at this
          rw [hs]
          by_cases e : v ∈ rc
          · simp only [if_pos e] at this ⊢
            omega
          · simp only [if_neg e] at this ⊢
            omega
      by_cases g : z_gone S v
      · rw [if_pos g]
        exact key _
      · rw [if_neg g]
        have := key []
        rw [z_mk_nil] at this
        exact this
    · rw [if_neg w]
      refine i_T0x h hk rfl rfl rfl ((z_oth.refl S k).lose.sh _ _) ?_
      rw [zh_sh, zh_lose]
      refine ⟨⟨h9, 12, by omega, rfl, ⟨v, v2, v3, v4⟩, fun _ => ab⟩, ?_, ?_, i_t_n3 (show nI 12 ≠ nI 3 by decide)⟩
      · rw [i_s_v (Or.inl rfl), i_s_v (Or.inr h1)]
        exact Nat.le_refl _
      · exact Nat.le_trans (i_e_pl (show nI 12 ≠ nI 4 by decide) (show nI 12 ≠ nI 5 by decide)) hww
  exact ⟨⟨by rw [hvi]; exact v3, by rw [hvi]; exact v4, fun w => ⟨by omega, main.P.W, hix w⟩⟩, ⟨by rw [hvi]; exact v3, by rw [hvi]; exact v4, by rw [hvi]; omega, fun w => ⟨by omega, main.P.W, hix w⟩⟩, main⟩
end
