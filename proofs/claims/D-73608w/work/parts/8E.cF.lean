/-! CF: the component: retires, swaps -/
set_option maxRecDepth 100000
theorem z_mk_nwL (S : zS) {l : List Nat} (hl : ∀ r ∈ l, r < zn S) (f : Nat → Int32) (q : KV) : z_mk (z_nw S f q) l = z_nw (z_mk S l) f q := by
  unfold z_mk z_nw
  rw [show zn ((fun a g => if g = 4 ∧ a ∈ l then nI (ze S) else S.1.1 a g, S.1.2), S.2) = zn S from rfl]
  congr 2
  funext r g
  dsimp only
  show (if g = 4 ∧ r ∈ l then nI (ze S) else hw_R S.1.1 (zn S) f r g) = hw_R _ (zn S) f r g
  by_cases w : r = zn S
  · rw [w, hw_R_same, hw_R_same, if_neg (fun z => by have := hl _ z.2; omega)]
  · rw [hw_R_ne _ _ w, hw_R_ne _ _ w]
theorem z_mk_nil (S : zS) : z_mk S [] = S := by
  unfold z_mk
  simp
theorem z_rl_lt {B : zB} {n : Nat} (hB : z_B B n) {l : List Nat} (hl : ∀ r ∈ l, r < n) : ∀ r ∈ z_rl B l, r < n := by
  intro r hr
  unfold z_rl at hr
  obtain ⟨q, hq, hr⟩ := List.mem_flatMap.mp hr
  have hqn := hl q hq
  by_cases h5 : B.1 q 0 = nI 5
  · rw [if_pos h5] at hr
    obtain ⟨b, hb, h9, -⟩ := (hB.2 q hqn).2.2.1 h5
    have := hB.1
    rw [h9, nI_clamp (by omega)] at hr
    rcases List.mem_cons.mp hr with e | e
    · omega
    · rw [List.mem_singleton.mp e]; omega
  · rw [if_neg h5] at hr
    rw [List.mem_singleton.mp hr]
    exact hqn
theorem c_retires_l {h h1 : ix_H} {F A A1 : Nat → Nat → Int32} {L L1 : Nat → Nat} {nr n1 : Nat} {S : zS} {k : Nat} (hB : z_B S.1 (zn S)) (cal : ix_C) : ∀ (l : List Nat) (x : Nat) (t pre : List Nat) (z : Nat) (F1 : Nat → Nat → Int32), l = x :: t → z_lk S.1 l → (∀ y ∈ l, y < zn S) → l.length < z → cB h F A L nr h1 F1 A1 L1 n1 (z_mk S (z_rl S.1 pre)) k →
    ∃ F2, ix_lp cal stX4_retires z 2 [(0, ix_R (some (L1 0))), (2, ix_I (nI x))] [] (hw h1 F1 A1) = some (.inl none, hw h1 F2 A1) ∧ cB h F A L nr h1 F2 A1 L1 n1 (z_mk S (z_rl S.1 (pre ++ l))) k ∧ ∀ i, i < 18 → F2 (L1 i) = F1 (L1 i) := by
  intro l
  induction l with
  | nil => intro x t pre z F1 he; cases he
  | cons x l ih =>
    intro x' t pre z F1 he hk hm hz b
    cases he
    have hs := b.1
    have hn1 : zn S ≤ n1 := b.2.1
    have h2000 := hs.2.2.2.2.2.2.1
    have hx := hm x List.mem_cons_self
    obtain ⟨z, rfl⟩ : ∃ w, z = w + 1 := ⟨z - 1, by omega⟩
    have hep : F1 (L1 0) 5 = nI (ze S) := b.2.2.2.1.1.2.2.1
    have b2 := cB_mk b (r := x) hx
    rw [show ze (z_mk S (z_rl S.1 pre)) = ze S from rfl, z_mk_mk] at b2
    have hE2 := b2.2.2.2.1.2.2.1 x hx
    have hs0 : (hw_R F1 (L1 (18 + 3 * x)) (hw_U (F1 (L1 (18 + 3 * x))) 10 (nI (ze S)))) (L1 (18 + 3 * x)) 2 = S.1.1 x 0 := hE2.1.trans (z_mk_ne S _ x (by omega))
    have hs3 : (hw_R F1 (L1 (18 + 3 * x)) (hw_U (F1 (L1 (18 + 3 * x))) 10 (nI (ze S)))) (L1 (18 + 3 * x)) 8 = S.1.1 x 3 := hE2.2.2.2.1.trans (z_mk_ne S _ x (by omega))
    -- what follows the record
    have next : ∀ (F2 : Nat → Nat → Int32) (K : ix_K), K = ix_lp cal stX4_retires z → cB h F A L nr h1 F2 A1 L1 n1 (z_mk S (z_rl S.1 (pre ++ [x]))) k → F2 (L1 (18 + 3 * x)) 8 = S.1.1 x 3 → (∀ i, i < 18 → F2 (L1 i) = F1 (L1 i)) → ∃ F3, jX4_retires_30 cal K (L1 0) (nI x) (hw h1 F2 A1) = some (.inl none, hw h1 F3 A1) ∧ cB h F A L nr h1 F3 A1 L1 n1 (z_mk S (z_rl S.1 (pre ++ x :: l))) k ∧ ∀ i, i < 18 → F3 (L1 i) = F1 (L1 i) := by
      intro F2 K hK b3 h8 hr
      subst hK
      unfold jX4_retires_30
      rw [st_is hs, st_rec hs, hw_in (by omega) (by omega), cond_true, st_rr hs F2 A1 (by omega), hw_fI, h8]
      cases l with
      | nil =>
        rw [hk.2]
        obtain ⟨z, rfl⟩ : ∃ w, z = w + 1 := ⟨z - 1, by simp only [List.length_cons] at hz; omega⟩
        rw [lX4_retires_2]
        unfold jX4_retires_2
        rw [if_pos (show (-2 : Int32) < nI 0 by decide)]
        exact ⟨F2, rfl, b3, hr⟩
      | cons y l =>
        obtain ⟨-, h3, hk2⟩ := hk
        rw [h3]
        obtain ⟨F3, e3, b4, hr2⟩ := ih y l (pre ++ [x]) z F2 rfl hk2 (fun w hw => hm w (List.mem_cons_of_mem _ hw)) (by simp only [List.length_cons] at hz ⊢; omega) b3
        rw [List.append_assoc] at b4
        exact ⟨F3, e3, b4, fun i hi => (hr2 i hi).trans (hr i hi)⟩
    rw [lX4_retires_2]
    unfold jX4_retires_2
    rw [if_neg (show ¬ nI x < nI 0 by rw [hw_lt (by omega) (by omega)]; omega), st_is hs, st_rec hs, hw_in (by omega) (by omega), cond_true, st_is hs, st_rr hs F1 A1 (by omega), hw_bdF, hw_fI, hep, st_is hs, st_rec hs, hw_in (by omega) (by omega), cond_true, st_rr hs _ A1 (by omega), hw_fI, hs0]
    by_cases h5 : S.1.1 x 0 = nI 5
    · obtain ⟨c, hc, h9, -⟩ := (hB.2 x hx).2.2.1 h5
      have hs9 : (hw_R F1 (L1 (18 + 3 * x)) (hw_U (F1 (L1 (18 + 3 * x))) 10 (nI (ze S)))) (L1 (18 + 3 * x)) 9 = nI c := by
        have := hE2.2.2.2.2.2.2.2.1
        rw [z_mk_ne' S _ x (show 0 ≠ 4 by omega), z_mk_ne' S _ x (show 9 ≠ 4 by omega)] at this
        rw [this h5, h9]
      have b3 := cB_mk b2 (r := c) (show c < zn S by omega)
      rw [show ze (z_mk S (z_rl S.1 pre ++ [x])) = ze S from rfl, z_mk_mk, List.append_assoc] at b3
      have erl : z_rl S.1 (pre ++ [x]) = z_rl S.1 pre ++ ([x] ++ [c]) := by
        rw [z_rl_snoc, if_pos h5, h9, nI_clamp (by have := hB.1; omega)]
        rfl
      rw [← erl] at b3
      have hep2 : (hw_R F1 (L1 (18 + 3 * x)) (hw_U (F1 (L1 (18 + 3 * x))) 10 (nI (ze S)))) (L1 0) 5 = nI (ze S) := by
        rw [hw_R_ne _ _ (hs.ne (by omega))]
        exact hep
      rw [if_pos h5, st_is hs, st_is hs, st_rec hs, hw_in (by omega) (by omega), cond_true, st_rr hs _ A1 (by omega), hs9, st_rec hs, hw_in (by omega) (by omega), cond_true, st_is hs, st_rr hs _ A1 (by omega), hw_bdF, hep2]
      refine next _ _ rfl b3 ?_ (fun i hi => ?_)
      · rw [hw_R_ne _ _ (hs.ne (by omega)), hs3]
      · rw [hw_R_ne _ _ (hs.ne (by omega)), hw_R_ne _ _ (hs.ne (by omega))]
    · have erl : z_rl S.1 (pre ++ [x]) = z_rl S.1 pre ++ [x] := by rw [z_rl_snoc, if_neg h5]
      rw [← erl] at b2
      rw [if_neg h5]
      exact next _ _ rfl b2 hs3 (fun i hi => by rw [hw_R_ne _ _ (hs.ne (by omega))])
theorem c_retires {h h1 : ix_H} {F A F1 A1 : Nat → Nat → Int32} {L L1 : Nat → Nat} {nr n1 : Nat} {S : zS} {k : Nat} (hW : z_W S) (b : cB h F A L nr h1 F1 A1 L1 n1 S k) {N : Nat} (hN : 1000 ≤ N) (d : Nat) {p : Nat} (hp : p < zp S) :
    ∃ F2, ix_run iy_P N (d + 1) 191 [ix_R (some (L1 0)), ix_I (nI (zt S p))] (hw h1 F1 A1) = some (.inl none, hw h1 F2 A1) ∧ cB h F A L nr h1 F2 A1 L1 n1 (z_mk S (z_rl S.1 (z_chain S.1 (zt S p)))) k ∧ ∀ i, i < 18 → F2 (L1 i) = F1 (L1 i) := by
  have ht := hW.2.2.2 p hp
  have hlen := (hW.pg hp).2.2
  obtain ⟨t, he⟩ := z_chain_hd hW.1 ht
  have hk := z_chain_lk hW.1 _ ht
  have hm := z_chain_mem hW.1 _ ht
  rw [rX4_retires N d]
  unfold bX4_retires
  obtain ⟨N, rfl⟩ : ∃ z, N = z + 1 := ⟨N - 1, by omega⟩
  rw [← lX4_retires_2]
  exact c_retires_l hW.1 (ix_run iy_P (N + 1) d) (z_chain S.1 (zt S p)) (zt S p) t [] (N + 1 + 1) F1 he hk (fun y hy => by have := hm y hy; omega) (by omega) (by
    have : z_rl S.1 [] = [] := rfl
    rw [this, z_mk_nil]
    exact b)
/-- a new base is filled -/
theorem cB_fill {h h2 : ix_H} {F A F2 A2 : Nat → Nat → Int32} {L L2 : Nat → Nat} {nr n2 : Nat} {S1 : zS} {k : Nat} (b : cB h F A L nr h2 F2 A2 L2 n2 (z_nw S1 (z_f (nI 0) (-2) (-2) (-2) (nI 0) (nI 0) (-2) (-2)) []) k) {F3 A3 : Nat → Nat → Int32} (q : cQ [3, 4, 5] (L2 (18 + 3 * zn S1)) (L2 (19 + 3 * zn S1)) (L2 (20 + 3 * zn S1)) F2 A2 F3 A3) {c : zG} (hG : cG F3 A3 (L2 (18 + 3 * zn S1)) (L2 (19 + 3 * zn S1)) (L2 (20 + 3 * zn S1)) c) : cB h F A L nr h2 F3 A3 L2 n2 (z_nw S1 (z_base c) c.1) k := by
  have hs := b.1
  have hn : zn S1 + 1 ≤ n2 := b.2.1
  obtain ⟨v1, v2, v3, v4⟩ := b.2.2.2.1
  refine cB_row b (fun x hx => ⟨q.1 x (hx _ (by omega)), q.2.2 x (hx _ (by omega)) (hx _ (by omega))⟩) hn ⟨?_, fun p hp => ?_, fun r hr => ?_, fun j hj hjk => ?_⟩ (fun j hj => by rw [q.1 _ (hs.ne (by omega))])
  · rw [q.1 _ (hs.ne (by omega))]
    exact v1
  · rw [q.2.2 _ (hs.ne (by omega)) (hs.ne (by omega))]
    exact v2 p hp
  · have hr' : r < zn S1 + 1 := hr
    have hv := v3 r hr
    by_cases w : r = zn S1
    · subst w
      obtain ⟨f2, f6, f7, f8, f10, f11, f11b, f9, -⟩ := hv
      have e0 : (z_nw S1 (z_f (nI 0) (-2) (-2) (-2) (nI 0) (nI 0) (-2) (-2)) []).1.1 (zn S1) = z_f (nI 0) (-2) (-2) (-2) (nI 0) (nI 0) (-2) (-2) := hw_R_same _ _ _
      have e1 : (z_nw S1 (z_base c) c.1).1.1 (zn S1) = z_base c := hw_R_same _ _ _
      have e2 : (z_nw S1 (z_base c) c.1).1.2 (zn S1) = c.1 := by
        show ix_up S1.1.2 (zn S1) c.1 (zn S1) = c.1
        unfold ix_up
        rw [if_pos rfl]
      rw [e0] at f2 f6 f7 f8 f10 f11 f11b
      unfold cE
      rw [e1, e2, q.2.1 2 rfl, q.2.1 6 rfl, q.2.1 7 rfl, q.2.1 8 rfl, q.2.1 10 rfl, q.2.1 11 rfl]
      exact ⟨f2, f6, f7, f8, f10, f11, Or.inl rfl, fun w => absurd (show nI 0 = nI 5 from w) (by decide), hG⟩
    · have e1 : (z_nw S1 (z_base c) c.1).1.1 r = (z_nw S1 (z_f (nI 0) (-2) (-2) (-2) (nI 0) (nI 0) (-2) (-2)) []).1.1 r := by
        show hw_R S1.1.1 (zn S1) _ r = hw_R S1.1.1 (zn S1) _ r
        rw [hw_R_ne _ _ w, hw_R_ne _ _ w]
      have e2 : (z_nw S1 (z_base c) c.1).1.2 r = (z_nw S1 (z_f (nI 0) (-2) (-2) (-2) (nI 0) (nI 0) (-2) (-2)) []).1.2 r := by
        show ix_up S1.1.2 (zn S1) c.1 r = ix_up S1.1.2 (zn S1) [] r
        unfold ix_up
        rw [if_neg w, if_neg w]
      unfold cE cG cL at hv ⊢
      rw [e1, e2, q.1 _ (hs.ne (by omega)), q.2.2 _ (hs.ne (by omega)) (hs.ne (by omega)), q.2.2 _ (hs.ne (by omega)) (hs.ne (by omega))]
      exact hv
  · unfold cH0
    rw [q.1 _ (hs.ne (by omega))]
    exact v4 j hj hjk
theorem c_swaps {h : ix_H} {L : Nat → Nat} {nr : Nat} {S : zS} {k : Nat} {F A : Nat → Nat → Int32} (p : cPre h L nr S k F A) (h5 : zh S k 1 = nI 5) {N : Nat} (hN : 2000 ≤ N) (d : Nat) (hp : z_at S k < zp S) (hat : zh S k 2 = nI (z_at S k)) (hn2 : nI (zt S (z_at S k)) = zh S k 10 → zn S < 1400) (hml : zm S < 100 ∧ zl S < 100) :
    cPo h F A L nr (z_swap S k) k (ix_run iy_P N (d + 10) 190 [ix_R (some (L 0)), ix_R (some (L (5 + k)))] (hw h F A)) := by
  have pp := p
  obtain ⟨hs, hW, hn, hk, hV⟩ := p
  have hh := pp.hd
  have ht := pp.tg
  have h0 : zh S k 1 ≠ nI 0 := by rw [h5]; decide
  have h32 := hW.2.2.1
  have hpg := hW.pg hp
  have f4 : F (L (5 + k)) 4 = nI (z_at S k) := hh.2.2.2.1.trans hat
  have f5 : F (L (5 + k)) 5 = zh S k 10 := hh.2.2.2.2.2.2.2.2.2.2.1 (Or.inr (Or.inl h5))
  have h9 := hh.2.2.2.2.2.2.2.2.2.1
  have f15 : F (L (5 + k)) 15 = zh S k 9 := hh.2.2.2.2.2.2.2.2.1
  rw [rX4_swaps N (d + 9)]
  unfold bX4_swaps
  rw [st_is hs, h_is ht, hw_fI, f4, st_top hs, hw_in (by omega) (by omega), cond_true, h_is ht, hw_aI, hw_cl (by omega), hV.2.1 _ hp, f5]
  by_cases hsn : nI (zt S (z_at S k)) = zh S k 10
  · have hn2 := hn2 hsn
    obtain ⟨F1, A1, e1, q1, g1⟩ := c_lays hs hW hn hs.he hs.x9 ⟨hs.ne (by omega), hs.ne (by omega)⟩ hV hN (d + 4) hp
    have hF1 : F1 (L (5 + k)) = F (L (5 + k)) := q1.1 _ (hs.ne (by omega))
    have b1 := cB_start pp q1.s9
    obtain ⟨F2, e2, b2, hr2⟩ := c_retires hW b1 (show 1000 ≤ N by omega) (d + 8) hp
    obtain ⟨h3, F3, A3, L3, n3, e3, hlt3, hold, hg3, hl3, hs3, hB3⟩ := cB_new b2 (show zn S < 2000 by omega) N (d + 7) (nI 0) (-2) (-2) (-2) (-2)
    have b3 := hB3 F3 (fun _ _ => rfl) (by obtain ⟨g, hg⟩ := hg3; rw [hg]; exact c_rw_row g (-2) (by decide))
    rw [show zn (z_mk S (z_rl S.1 (z_chain S.1 (zt S (z_at S k))))) = zn S from rfl] at e3 hlt3
    have hk5 : L3 (5 + k) = L (5 + k) := (hold (5 + k) (by omega)).1
    have hk0 : L3 0 = L 0 := (hold 0 (by omega)).1
    have hrow : F3 (L3 (5 + k)) = F (L (5 + k)) := by rw [hk5, (hold (5 + k) (by omega)).2.1, if_neg (by omega), hr2 _ (by omega), hF1]
    have hG3 : cG F3 A3 (L3 9) (L3 10) (L3 11) (z_pg S (z_at S k)) := by
      rw [(hold 9 (by omega)).1, (hold 10 (by omega)).1, (hold 11 (by omega)).1]
      exact g1.keep (by rw [(hold 9 (by omega)).2.1, if_neg (by omega), hr2 9 (by omega)]) (hold 10 (by omega)).2.2 (hold 11 (by omega)).2.2
    have b4 := cB_hand b3 (S2 := _) (g := hw_U (F (L (5 + k))) 6 (nI (zn S))) (by rw [hw_U_ne _ _ (by omega), hrow]) rfl rfl rfl (fun _ _ => rfl)
    have n2000 := hs3.2.2.2.2.2.2.1
    obtain ⟨F4, A4, e4, q4, g4⟩ := c_takes (hs3.rc hlt3) hs3.he ⟨hs3.ne (by omega), hs3.ne (by omega), hs3.ne (by omega), hs3.ne (by omega), hs3.ne (by omega)⟩ (F := hw_R F3 (L3 (5 + k)) (hw_U (F (L (5 + k))) 6 (nI (zn S)))) (A := A3) (show 1000 ≤ N by omega) (d + 8) (c := z_pg S (z_at S k)) (hG3.keep (hw_R_ne _ _ (hs3.ne (by omega))) rfl rfl) (by omega)
    have b5 := cB_fill b4 q4 g4
    have b6 := cB_st b5 (z_at S k) (zn S)
    have hrow4 : F4 (L3 (5 + k)) = hw_U (F (L (5 + k))) 6 (nI (zn S)) := by rw [q4.1 _ (hs3.ne (by omega)), hw_R_same]
    have hlt : ∀ r ∈ z_rl S.1 (z_chain S.1 (zt S (z_at S k))), r < zn S := z_rl_lt hW.1 (fun r hr => by have := z_chain_mem hW.1 _ (hW.2.2.2 _ hp) r hr; have := hW.2.2.2 _ hp; omega)
    rw [← z_mk_nwL S hlt] at b6
    have hmany : F4 (L3 9) 3 = nI (z_pg S (z_at S k)).1.length := by
      rw [q4.1 _ (hs3.ne (by omega)), hw_R_ne _ _ (hs3.ne (by omega))]
      exact hG3.1.1
    have hmo : F4 (L3 0) 7 = nI (zm S) := b6.2.2.2.1.1.2.2.2.2.1
    have hle : F4 (L3 0) 8 = nI (zl S) := b6.2.2.2.1.1.2.2.2.2.2
    have ht3 : ix_tg h3 (L3 (5 + k)) = 7 := b6.tg
    have ez : z_swap S k = if 0 < z_at S k ∧ zm S < (z_pg S (z_at S k)).1.length then z_sh (z_sh (z_st (z_mk (z_nw S (z_base (z_pg S (z_at S k))) (z_pg S (z_at S k)).1) (z_rl S.1 (z_chain S.1 (zt S (z_at S k))))) (z_at S k) (zn S)) k 10 (nI (zn S))) k 1 (nI 6) else if 0 < z_at S k ∧ (z_pg S (z_at S k)).1.length < zl S then z_sh (z_sh (z_st (z_mk (z_nw S (z_base (z_pg S (z_at S k))) (z_pg S (z_at S k)).1) (z_rl S.1 (z_chain S.1 (zt S (z_at S k))))) (z_at S k) (zn S)) k 10 (nI (zn S))) k 1 (nI 9) else z_go (z_sh (z_st (z_mk (z_nw S (z_base (z_pg S (z_at S k))) (z_pg S (z_at S k)).1) (z_rl S.1 (z_chain S.1 (zt S (z_at S k))))) (z_at S k) (zn S)) k 10 (nI (zn S))) k := by
      unfold z_swap
      rw [if_pos hsn]
    rw [ez]
    generalize hT : z_st (z_mk (z_nw S (z_base (z_pg S (z_at S k))) (z_pg S (z_at S k)).1) (z_rl S.1 (z_chain S.1 (zt S (z_at S k))))) (z_at S k) (zn S) = T at b6 ⊢
    have hzT : zh T k = zh S k := by rw [← hT]; rfl
    have he9 : L3 9 = L 9 := (hold 9 (by omega)).1
    -- goesOn, with the hand's base told
    have go : cPo h F A L nr (z_go (z_sh T k 10 (nI (zn S))) k) k (ix_run iy_P N (d + 9) 223 [ix_R (some (L3 (5 + k)))] (hw h3 F4 (hw_R A4 (L3 2) (hw_U (A4 (L3 2)) (z_at S k) (nI (zn S)))))) := by
      have h15 : F4 (L3 (5 + k)) 15 = zh S k 9 := by rw [hrow4, hw_U_ne _ _ (by omega)]; exact f15
      have hz9 : zh (z_sh T k 10 (nI (zn S))) k 9 = zh S k 9 := by rw [zh_sh, hw_U_ne _ _ (by omega), hzT]
      rw [c_goesOn ht3 F4 _ N (d + 7) (by rw [h15]; exact h9), h15]
      unfold z_go
      rw [hz9]
      rcases h9 with w | w
      · have e1 : ¬ zh S k 9 = nI 1 := by rw [w]; decide
        rw [if_neg e1, if_neg e1]
        have b7 := cB_hand b6 (S2 := z_sh (z_sh T k 10 (nI (zn S))) k 1 (nI 1)) (g := F4 (L3 (5 + k))) rfl rfl rfl rfl (fun j hj => by rw [zh_sh_ne _ _ _ hj, zh_sh_ne _ _ _ hj])
        rw [hw_R_self] at b7
        exact cB_end b7 (by rw [hrow4, zh_sh, zh_sh, hzT]; exact cHd_sgo0 hh h0 w _) (by rw [zh_sh, hw_U_same])
      · rw [if_pos w, if_pos w]
        have b7 := cB_hand b6 (S2 := z_sh (z_sh T k 10 (nI (zn S))) k 1 (nI 0)) (g := hw_U (F4 (L3 (5 + k))) 13 (-2)) (by rw [hw_U_ne _ _ (by omega)]) rfl rfl rfl (fun j hj => by rw [zh_sh_ne _ _ _ hj, zh_sh_ne _ _ _ hj])
        exact cB_end b7 (by rw [hw_R_same, hrow4, zh_sh, zh_sh, hzT]; exact cHd_sgo1 hh h0 w _) (by rw [zh_sh, hw_U_same])
    have stay : ∀ s, (s = nI 6 ∨ s = nI 9) → cPo h F A L nr (z_sh (z_sh T k 10 (nI (zn S))) k 1 s) k (some (.inl (some (ix_I s)), hw h3 F4 (hw_R A4 (L3 2) (hw_U (A4 (L3 2)) (z_at S k) (nI (zn S)))))) := by
      intro s hs69
      have b7 := cB_hand b6 (S2 := z_sh (z_sh T k 10 (nI (zn S))) k 1 s) (g := F4 (L3 (5 + k))) rfl rfl rfl rfl (fun j hj => by rw [zh_sh_ne _ _ _ hj, zh_sh_ne _ _ _ hj])
      rw [hw_R_self] at b7
      refine cB_end b7 ?_ (by rw [zh_sh, hw_U_same])
      rw [hrow4, zh_sh, zh_sh, hzT]
      rcases hs69 with w | w <;> rw [w]
      · exact cHd_swap6 hh h0 _
      · exact cHd_swap9 hh h0 _
    unfold jX4_swaps_70
    rw [if_pos hsn, h_is ht, st_is hs, st_isr hs, f4, hw_fR, hs.1.2.2.2.2.1, hw_cV e1, h_is ht, st_isr hs, hw_fI, hF1, f5, ← hsn, hw_cV e2, st_isr hs, hw_cI e3]
    dsimp only
    rw [← hk5, h_is ht3, hw_bdF, hrow, ← hk0, st_is hs3, h_is ht3, hw_fI, hw_R_same, hw_U_same, st_rec hs3, hw_in (by omega) (by omega), cond_true, st_is hs3, st_rrR hs3 _ A3 hlt3, hw_fR, hs3.1.2.2.2.2.1, hw_cV e4, st_is hs3, h_is ht3, h_is ht3, hw_fI, hrow4, hw_U_ne _ _ (show 4 ≠ 6 by omega), f4, hw_U_same, st_topw hs3, hw_in (by omega) (by omega), cond_true, hw_bdA, hw_cl (by omega), h_is ht3, hw_fI, hrow4, hw_U_ne _ _ (show 4 ≠ 6 by omega), f4]
    by_cases hz : z_at S k = 0
    · rw [if_pos (show nI (z_at S k) = nI 0 by rw [hz]), if_neg (fun w => by omega), if_neg (fun w => by omega), h_isr ht3]
      exact c_goR go
    rw [if_neg (show ¬ nI (z_at S k) = nI 0 by rw [hw_eq (by omega) (by omega)]; exact hz), st_is hs3, st_he hs3, st_is hs3, hmany, hmo]
    by_cases hm : zm S < (z_pg S (z_at S k)).1.length
    · rw [if_pos ⟨by omega, hm⟩, if_neg (show ¬ nI (z_pg S (z_at S k)).1.length ≤ nI (zm S) by rw [hw_le (by omega) (by omega)]; omega)]
      exact stay _ (Or.inl rfl)
    rw [if_neg (fun w => hm w.2), if_pos (show nI (z_pg S (z_at S k)).1.length ≤ nI (zm S) by rw [hw_le (by omega) (by omega)]; omega), st_is hs3, st_he hs3, st_is hs3, hmany, hle]
    by_cases hl : (z_pg S (z_at S k)).1.length < zl S
    · rw [if_pos ⟨by omega, hl⟩, if_neg (show ¬ nI (zl S) ≤ nI (z_pg S (z_at S k)).1.length by rw [hw_le (by omega) (by omega)]; omega)]
      exact stay _ (Or.inr rfl)
    · rw [if_neg (fun w => hl w.2), if_pos (show nI (zl S) ≤ nI (z_pg S (z_at S k)).1.length by rw [hw_le (by omega) (by omega)]; omega), h_isr ht3]
      exact c_goR go
  · have ez : z_swap S k = z_go (z_lose S k) k := by
      unfold z_swap
      rw [if_neg hsn]
    rw [ez, if_neg hsn, h_isr ht]
    have hz9 : zh (z_lose S k) k 9 = zh S k 9 := by unfold z_lose; rw [zh_sh, hw_U_ne _ _ (by omega)]
    rw [hw_cI (c_goesOn ht F A N (d + 7) (by rw [f15]; exact h9)), f15]
    dsimp only
    unfold z_go
    rw [hz9]
    rcases h9 with w | w
    · have e1 : ¬ zh S k 9 = nI 1 := by rw [w]; decide
      rw [if_neg e1, if_neg e1, h_isr ht, hw_cI (c_lost ht F A N (d + 8) _)]
      dsimp only
      refine cPo_h pp (cSc.refl L F A) (S' := z_sh (z_lose S k) k 1 (nI 1)) rfl rfl rfl (fun j hj => ?_) ?_ ?_ (by rw [hw_U_ne _ _ (by omega)])
      · unfold z_lose
        rw [zh_sh_ne _ _ _ hj, zh_sh_ne _ _ _ hj]
      · rw [zh_sh, hw_U_same]
      · unfold z_lose
        rw [zh_sh, zh_sh]
        exact cHd_lgo0 hh h0 w
    · rw [if_pos w, if_pos w, h_isr ht, hw_cI (c_lost ht _ A N (d + 8) _)]
      dsimp only
      rw [hw_R_R, hw_R_same, hw_U_ne _ _ (show 11 ≠ 13 by omega)]
      refine cPo_h pp (cSc.refl L F A) (S' := z_sh (z_lose S k) k 1 (nI 0)) rfl rfl rfl (fun j hj => ?_) ?_ ?_ (by rw [hw_U_ne _ _ (by omega), hw_U_ne _ _ (by omega)])
      · unfold z_lose
        rw [zh_sh_ne _ _ _ hj, zh_sh_ne _ _ _ hj]
      · rw [zh_sh, hw_U_same]
      · unfold z_lose
        rw [zh_sh, zh_sh]
        exact cHd_lgo1 hh h0 w
