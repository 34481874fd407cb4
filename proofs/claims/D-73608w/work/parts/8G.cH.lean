/-! CH: the component: a step -/
set_option maxRecDepth 100000
/-- no other hand has changed -/
def z_oth (S S' : zS) (k : Nat) : Prop := ∀ j, j ≠ k → zh S' j = zh S j
theorem z_oth.refl (S : zS) (k : Nat) : z_oth S S k := fun _ _ => rfl
theorem z_oth.sh {S S' : zS} {k : Nat} (h : z_oth S S' k) (f : Nat) (v : Int32) : z_oth S (z_sh S' k f v) k := fun j hj => (zh_sh_ne _ _ _ hj).trans (h j hj)
theorem z_oth.st {S S' : zS} {k : Nat} (h : z_oth S S' k) (p r : Nat) : z_oth S (z_st S' p r) k := h
theorem z_oth.nw {S S' : zS} {k : Nat} (h : z_oth S S' k) (f : Nat → Int32) (l : KV) : z_oth S (z_nw S' f l) k := h
theorem z_oth.pp {S S' : zS} {k : Nat} (h : z_oth S S' k) : z_oth S (z_pp S') k := h
theorem z_oth.mk {S S' : zS} {k : Nat} (h : z_oth S S' k) (l : List Nat) : z_oth S (z_mk S' l) k := h
theorem z_oth.go {S S' : zS} {k : Nat} (h : z_oth S S' k) : z_oth S (z_go S' k) k := h.sh _ _
theorem z_oth.note {S S' : zS} {k : Nat} (h : z_oth S S' k) (a b : Int32) : z_oth S (z_note S' k a b) k := ((h.sh _ _).sh _ _).sh _ _
theorem z_oth.left {S S' : zS} {k : Nat} (h : z_oth S S' k) (v : Int32) : z_oth S (z_left S' k v) k := (h.sh _ _).sh _ _
theorem z_oth.sees {S S' : zS} {k : Nat} (h : z_oth S S' k) (p : Nat) (s : Int32) : z_oth S (z_sees S' k p s) k := (h.sh _ _).sh _ _
theorem z_oth.rest {S S' : zS} {k : Nat} (h : z_oth S S' k) (v : Int32) : z_oth S (z_rest S' k v) k := ((h.sh _ _).sh _ _).sh _ _
theorem z_oth.lose {S S' : zS} {k : Nat} (h : z_oth S S' k) : z_oth S (z_lose S' k) k := h.sh _ _
theorem z_oth.ite {S A B : zS} {k : Nat} {c : Prop} [Decidable c] (h : z_oth S A k) (h' : z_oth S B k) : z_oth S (if c then A else B) k := by
  split
  · exact h
  · exact h'
theorem z_oth.chg {S S' : zS} {k : Nat} (h : z_oth S S' k) (s a b : Int32) : z_oth S (z_chg S' k s a b) k := by
  unfold z_chg
  exact z_oth.ite (((h.nw _ _).st _ _).sh _ _ |>.sh _ _) ((h.nw _ _).st _ _).go
theorem z_oth_finds (S : zS) (k : Nat) : z_oth S (z_finds S k) k := ((z_oth.refl S k).sh _ _).sh _ _
theorem z_oth_reads (S : zS) (k : Nat) : z_oth S (z_reads S k) k := by
  have r := z_oth.refl S k
  unfold z_reads
  exact .ite (r.left _) (.ite (.ite ((r.sh _ _).sh _ _) (r.note _ _)) (.ite (r.rest _) (.ite (r.rest _) (.ite (r.sh _ _) (.ite (r.rest _) (r.sees _ _))))))
theorem z_oth_prep (S : zS) (k : Nat) : z_oth S (z_prep S k) k := by
  have r := z_oth.refl S k
  unfold z_prep
  exact .ite (.ite ((((r.rest _).nw _ _).st _ _).sh _ _) (((r.rest _).nw _ _).st _ _)) (r.lose.sh _ _)
theorem z_oth_gath (S : zS) (k : Nat) : z_oth S (z_gath S k) k := by
  have r := z_oth.refl S k
  unfold z_gath
  exact .ite r.go (r.sees _ _)
theorem z_oth_swap (S : zS) (k : Nat) : z_oth S (z_swap S k) k := by
  have r := z_oth.refl S k
  have r2 := fun f l m p n v => ((((r.nw f l).mk m).st p n).sh 10 v)
  unfold z_swap
  exact .ite (.ite ((r2 _ _ _ _ _ _).sh _ _) (.ite ((r2 _ _ _ _ _ _).sh _ _) (r2 _ _ _ _ _ _).go)) r.lose.go
theorem z_oth_split (S : zS) (k : Nat) : z_oth S (z_split S k) k := by
  have r := z_oth.refl S k
  unfold z_split
  exact .ite (((((r.nw _ _).st _ _).pp.nw _ _).st _ _).note _ _) r.go
theorem z_oth_notes (S : zS) (k : Nat) : z_oth S (z_notes S k) k := by
  have r := z_oth.refl S k
  unfold z_notes
  split
  · exact .ite r.go ((r.sh _ _).sh _ _)
  · exact r.sees _ _
theorem z_oth_enter (S : zS) (k : Nat) : z_oth S (z_enter S k) k := by
  have r := z_oth.refl S k
  unfold z_enter
  exact .ite (r.chg _ _ _) (r.lose.sh _ _)
theorem z_oth_remov (S : zS) (k : Nat) : z_oth S (z_remov S k) k := by
  have r := z_oth.refl S k
  unfold z_remov
  split
  · exact .ite (((r.nw _ _).st _ _).left _) r.go
  · exact r.go
theorem z_oth_lookl (S : zS) (k : Nat) : z_oth S (z_lookl S k) k := by
  have r := z_oth.refl S k
  unfold z_lookl
  split
  · exact .ite (r.left _) (.ite (r.note _ _) (.ite (((r.sh _ _).sh _ _).sees _ _) (r.sh _ _)))
  · exact r.go
theorem z_oth_join (S : zS) (k : Nat) : z_oth S (z_join S k) k := by
  have r := z_oth.refl S k
  unfold z_join
  exact .ite (((r.nw _ _).st _ _).sh _ _) (r.lose.sh _ _)
theorem z_oth_look (S : zS) (k : Nat) : z_oth S (z_look S k) k := by
  have r := z_oth.refl S k
  unfold z_look
  split
  · exact r.sees _ _
  · exact r.go
theorem z_oth_stri (S : zS) (k : Nat) : z_oth S (z_stri S k) k := by
  have r := z_oth.refl S k
  unfold z_stri
  exact .ite ((z_oth.ite (r.mk _) r).chg _ _ _) (r.lose.sh _ _)
theorem z_oth_step1 (S : zS) (k : Nat) : z_oth S (z_step1 S k) k := by
  unfold z_step1
  exact .ite (z_oth_finds S k) (.ite (z_oth_reads S k) (.ite (z_oth_prep S k) (.ite (z_oth_gath S k) (.ite (z_oth_swap S k) (.ite (z_oth_split S k) (.ite (z_oth_notes S k) (.ite (z_oth_enter S k) (.ite (z_oth_remov S k) (.ite (z_oth_lookl S k) (.ite (z_oth_join S k) (.ite (z_oth_look S k) (z_oth_stri S k))))))))))))
theorem cHd_stage {g u : Nat → Int32} (h : cHd g u) (x : Int32) : cHd (hw_U g 3 x) u := by
  obtain ⟨a0, a1, a2, a3, a4, a5, a6, a7, a8, a9, b1, b2, b3, b4, b5⟩ := h
  refine ⟨?_, ?_, ?_, ?_, ?_, ?_, ?_, ?_, ?_, a9, ?_, ?_, ?_, ?_, ?_⟩ <;> (rw [hw_U_ne _ _ (by decide)]; try rw [hw_U_ne _ _ (by decide)]) <;> assumption
/-- only a hand has changed -/
theorem cV.hand {h : ix_H} {L : Nat → Nat} {nr : Nat} (hs : cS h L nr) {S S' : zS} {k : Nat} {F A : Nat → Nat → Int32} (hV : cV F A L S) (hk : k < 4) {g : Nat → Int32} (e1 : S'.1 = S.1) (e2 : S'.2.1 = S.2.1) (e3 : S'.2.2.2 = S.2.2.2) (ej : z_oth S S' k) (hg : cHd g (zh S' k)) : cV (hw_R F (L (5 + k)) g) A L S' := by
  obtain ⟨v1, v2, v3, v4⟩ := hV
  have ez : zn S' = zn S := by unfold zn; rw [e3]
  have ep : zp S' = zp S := by unfold zp; rw [e3]
  have et : zt S' = zt S := by unfold zt; rw [e2]
  refine ⟨?_, fun p hp => ?_, fun r hr => ?_, fun j hj => ?_⟩
  · rw [hw_R_ne _ _ (hs.ne (by omega))]
    unfold zn zp ze zc zm zl at v1 ⊢
    rw [e3]
    exact v1
  · rw [et]
    exact v2 p (by omega)
  · have hr' : r < zn S := by rw [← ez]; exact hr
    rw [e1]
    exact (v3 r hr').keep (hw_R_ne _ _ (hs.ne (by omega))) rfl rfl
  · unfold cH0
    by_cases w : j = k
    · subst w
      rw [hw_R_same]
      exact hg
    · rw [hw_R_ne _ _ (hs.ne (by omega)), ej j w]
      exact v4 j hj
/-- what a stage needs, at the component -/
def c_cn (T : zS) (k s : Nat) : Prop := match s with
  | 1 => 0 < kv_ui (zh T k 6) (z_pg T 0).1
  | 2 => z_at T k < zp T ∧ zh T k 2 = nI (z_at T k)
  | 3 => z_at T k < zp T ∧ zh T k 2 = nI (z_at T k) ∧ (zh T k 0 = nI 1 ∨ zh T k 0 = nI 2) ∧ (nI (zt T (z_at T k)) = zh T k 10 → zn T < 1400 ∧ z_W (z_prep T k))
  | 4 => z_at T k < zp T ∧ zh T k 2 = nI (z_at T k)
  | 5 => z_at T k < zp T ∧ zh T k 2 = nI (z_at T k) ∧ (nI (zt T (z_at T k)) = zh T k 10 → zn T < 1400)
  | 6 => z_at T k < zp T ∧ zh T k 2 = nI (z_at T k) ∧ (nI (zt T (z_at T k)) = zh T k 10 → zp T < 32 → zn T + 1 < 1400 ∧ 0 < (z_pg T (z_at T k)).1.length ∧ zr T (zt T (z_at T k)) 0 = nI 0)
  | 7 => True
  | 8 => nI (zt T 0) = zh T k 10 → zn T < 1400 ∧ z_W (z_enter T k)
  | 9 => z_at T k < zp T ∧ zh T k 2 = nI (z_at T k) ∧ (nI (zt T (z_at T k)) = zh T k 10 → zn T < 1400)
  | 10 => kv_ix (zh T k 11) (z_pg T 0).1 ≠ some 0
  | 11 => z_ob T k < zp T ∧ zh T k 13 = nI (z_ob T k) ∧ z_vi T k < zp T ∧ zh T k 11 = nI (z_vi T k) ∧ (nI (zt T (z_ob T k)) = zh T k 10 → zn T < 1400 ∧ zr T (zt T (z_vi T k)) 3 = nI ((z_chain T.1 (zt T (z_vi T k))).getLastD 0))
  | 12 => True
  | 13 => z_vi T k < zp T ∧ zh T k 11 = nI (z_vi T k) ∧ z_vi T k ≠ 0 ∧ (nI (zt T 0) = zh T k 10 → zn T < 1400 ∧ z_W (z_stri T k) ∧ ∃ b, kv_ix (zh T k 11) (z_pg T 0).1 = some b)
  | _ => False
def c_can (T : zS) (rc : List Nat) (k : Nat) : Prop := z_W T ∧ z_R T rc ∧ (zc T < 100 ∧ zm T < 100 ∧ zl T < 100) ∧ (∀ q ∈ (z_pg T 0).1, nI 0 ≤ q.1 ∧ ∃ p, p < zp T ∧ q.2 = nI p) ∧ ∃ s, zh T k 1 = nI s ∧ c_cn T k s
/-- after a method of the store: the answer o says r, and the store says S' -/
def cPo1 (h : ix_H) (F A : Nat → Nat → Int32) (L : Nat → Nat) (nr : Nat) (S' : zS) (r : Option ix_V) (o : ix_O) : Prop :=
  ∃ h' F' A' L' nr', o = some (.inl r, hw h' F' A') ∧ cS h' L' nr' ∧ zn S' ≤ nr' ∧ cEx h F A L nr h' F' A' L' nr' ∧ cV1 F' A' L' S'
theorem c_steps_71 {h : ix_H} {L : Nat → Nat} {nr : Nat} {S T S' : zS} {k : Nat} (hk : k < 4) {F F1 A : Nat → Nat → Int32} (cal : ix_C) (K : ix_K) {o : ix_O} (hst : ∀ j, j < 4 → F (L (5 + j)) 3 = zh S j 1) (h1 : ∀ c, (∀ i, i < 18 → c ≠ L i) → F1 c = F c) (h2 : ∀ j, j < 4 → F1 (L (5 + j)) 3 = F (L (5 + j)) 3) (ht : z_oth S T k) (hs' : z_oth T S' k) (po : cPo h F1 A L nr S' k o) :
    cPo1 h F A L nr S' (some (ix_I (zh S' k 1))) ((ix_rI o).bind fun r => jX4_steps_71 cal K (some (L (5 + k))) (some (L (5 + k))) r.1 r.2) := by
  obtain ⟨h', F', A', L', nr', e, hs, hn, ex, hV, h3⟩ := po
  have ek : L' (5 + k) = L (5 + k) := ex.2.2.2.2.1 _ (by omega)
  have tg : ix_tg h' (L' (5 + k)) = 7 := (hs.2.2.1 k hk).2
  rw [hw_cI e]
  dsimp only
  unfold jX4_steps_71
  rw [← ek, h_is tg, hw_bdF, h_is tg, hw_fI, hw_R_same, hw_U_same]
  refine ⟨h', _, A', L', nr', rfl, hs, hn, ⟨ex.1, ex.2.1, ex.2.2.1, ex.2.2.2.1, ex.2.2.2.2.1, ex.2.2.2.2.2.1, ex.2.2.2.2.2.2.1, fun b hb hn => ?_⟩, ⟨hV.hand hs hk rfl rfl rfl (z_oth.refl _ _) (cHd_stage (hV.2.2.2 k hk) _), fun j hj => ?_⟩⟩
  · obtain ⟨w1, w2⟩ := ex.2.2.2.2.2.2.2 b hb hn
    refine ⟨?_, w2⟩
    rw [hw_R_ne _ _ (by rw [ek]; exact hn _ (by omega)), w1]
    exact h1 b (fun i hi => hn i (by omega))
  · by_cases w : j = k
    · subst w
      rw [hw_R_same, hw_U_same]
    · rw [hw_R_ne _ _ (hs.ne (by omega)), ex.2.2.2.2.1 _ (by omega), h3 j hj, h2 j hj, hst j hj, hs' j w, ht j w]
theorem st_hr {h : ix_H} {L : Nat → Nat} {nr : Nat} (hs : cS h L nr) {k : Nat} (hk : k < 4) : ix_aR h (L 3) k = some (L (5 + k)) := (hs.2.2.1 k hk).1
theorem c_steps {h : ix_H} {L : Nat → Nat} {nr : Nat} {S : zS} {k : Nat} {F A : Nat → Nat → Int32} (hs : cS h L nr) (hn : zn S ≤ nr) (hk : k < 4) (hV : cV1 F A L S) {rc : List Nat} (hc : zh S k 1 ≠ nI 0 → c_can (z_sh S k 4 (zh S k 4 + nI 1)) rc k) {N : Nat} (hN : 2000 ≤ N) (d : Nat) :
    cPo1 h F A L nr (z_step S k) (some (ix_I (if zh S k 1 = nI 0 then -1 else zh (z_step S k) k 1))) (ix_run iy_P N (d + 11) 180 [ix_R (some (L 0)), ix_I (nI k)] (hw h F A)) := by
  have ht : ix_tg h (L (5 + k)) = 7 := (hs.2.2.1 k hk).2
  have f3 := hV.2 k hk
  rw [rX4_steps N (d + 10)]
  unfold bX4_steps
  rw [st_is hs, st_hnd hs, hw_in (by omega) (by omega), cond_true, hw_aR, hw_cl (by omega), st_hr hs hk, h_is ht, hw_fI, f3]
  by_cases h0 : zh S k 1 = nI 0
  · have ez : z_step S k = S := by
      unfold z_step
      rw [if_pos h0]
    rw [ez, if_pos h0, if_pos h0]
    exact ⟨h, F, A, L, nr, rfl, hs, hn, cEx.refl hs (fun _ _ _ => ⟨rfl, rfl⟩), hV⟩
  · obtain ⟨hW, hrc, hcml, hb, s, hs1, c⟩ := hc h0
    have ez : z_step S k = z_step1 (z_sh S k 4 (zh S k 4 + nI 1)) k := by
      unfold z_step
      rw [if_neg h0]
    have hT1 : zh S k 1 = nI s := by
      rw [← hs1]
      show _ = ix_up2 S.2.2.1 k 4 _ k 1
      rw [hw_up, if_neg (by omega)]
      rfl
    have oT : z_oth S (z_sh S k 4 (zh S k 4 + nI 1)) k := (z_oth.refl S k).sh _ _
    have f12 : F (L (5 + k)) 12 = zh S k 4 := (hV.1.2.2.2 k hk).2.2.2.2.2.1
    have hV2 : cV (hw_R F (L (5 + k)) (hw_U (F (L (5 + k))) 12 (zh S k 4 + nI 1))) A L (z_sh S k 4 (zh S k 4 + nI 1)) := hV.1.hand hs hk rfl rfl rfl oT (by
      rw [zh_sh]
      have := cHd_steps (hV.1.2.2.2 k hk) h0
      rw [f12] at this
      exact this)
    have h1 : ∀ c, (∀ i, i < 18 → c ≠ L i) → hw_R F (L (5 + k)) (hw_U (F (L (5 + k))) 12 (zh S k 4 + nI 1)) c = F c := fun c hc => hw_R_ne _ _ (hc _ (by omega))
    have h2 : ∀ j, j < 4 → hw_R F (L (5 + k)) (hw_U (F (L (5 + k))) 12 (zh S k 4 + nI 1)) (L (5 + j)) 3 = F (L (5 + j)) 3 := fun j hj => by
      by_cases w : j = k
      · subst w
        rw [hw_R_same, hw_U_ne _ _ (by omega)]
      · rw [hw_R_ne _ _ (hs.ne (by omega))]
    rw [ez, if_neg h0, if_neg h0, h_is ht, h_is ht, f12, hw_bdF, h_is ht, hw_fI, hw_R_same, hw_U_ne _ _ (show 3 ≠ 12 by omega), f3, hT1, z_step_eq _ _ _ hs1]
    have p : cPre h L nr (z_sh S k 4 (zh S k 4 + nI 1)) k (hw_R F (L (5 + k)) (hw_U (F (L (5 + k))) 12 (zh S k 4 + nI 1))) A := ⟨hs, hW, hn, hk, hV2⟩
    have hp0 : zh (z_sh S k 4 (zh S k 4 + nI 1)) k 1 ≠ nI 0 := by rw [hs1, ← hT1]; exact h0
    generalize z_sh S k 4 (zh S k 4 + nI 1) = T at hW hrc hcml hb c p hs1 oT hp0 ⊢
    generalize hw_R F (L (5 + k)) (hw_U (F (L (5 + k))) 12 (zh S k 4 + nI 1)) = F1 at p h1 h2 ⊢
    have go := fun {o : ix_O} {S' : zS} (K) (w : z_oth T S' k) (po : cPo h F1 A L nr S' k o) => c_steps_71 hk (ix_run iy_P N (d + 10)) K hV.2 h1 h2 oT w po
    match s, c with
    | 1, c =>
      rw [if_pos rfl, st_isr hs]
      exact go _ (z_oth_finds T k) (c_finds p hp0 hN d c)
    | 2, c =>
      rw [if_neg (by decide), if_pos rfl, st_isr hs]
      exact go _ (z_oth_reads T k) (c_reads p hrc hp0 hN d c.1 c.2)
    | 3, c =>
      rw [if_neg (by decide), if_neg (by decide), if_pos rfl, st_isr hs]
      exact go _ (z_oth_prep T k) (c_prepends p hs1 hN d c.1 c.2.1 c.2.2.1 c.2.2.2 hcml.1)
    | 4, c =>
      rw [if_neg (by decide), if_neg (by decide), if_neg (by decide), if_pos rfl, st_isr hs]
      exact go _ (z_oth_gath T k) (c_gathers p hp0 N d c.1 c.2)
    | 5, c =>
      rw [if_neg (by decide), if_neg (by decide), if_neg (by decide), if_neg (by decide), if_pos rfl, st_isr hs]
      exact go _ (z_oth_swap T k) (c_swaps p hs1 hN d c.1 c.2.1 c.2.2 hcml.2)
    | 6, c =>
      rw [if_neg (by decide), if_neg (by decide), if_neg (by decide), if_neg (by decide), if_neg (by decide), if_pos rfl, st_isr hs]
      exact go _ (z_oth_split T k) (c_splits p hs1 hN d c.1 c.2.1 c.2.2)
    | 7, c =>
      rw [if_neg (by decide), if_neg (by decide), if_neg (by decide), if_neg (by decide), if_neg (by decide), if_neg (by decide), if_pos rfl, st_isr hs]
      exact go _ (z_oth_notes T k) (c_notes p hs1 hN d)
    | 8, c =>
      rw [if_neg (by decide), if_neg (by decide), if_neg (by decide), if_neg (by decide), if_neg (by decide), if_neg (by decide), if_neg (by decide), if_pos rfl, st_isr hs]
      exact go _ (z_oth_enter T k) (c_enters p hs1 hN d c hcml.1)
    | 9, c =>
      rw [if_neg (by decide), if_neg (by decide), if_neg (by decide), if_neg (by decide), if_neg (by decide), if_neg (by decide), if_neg (by decide), if_neg (by decide), if_pos rfl, st_isr hs]
      exact go _ (z_oth_remov T k) (c_removes p hs1 hN d c.1 c.2.1 c.2.2 (fun q hq => (hb q hq).1))
    | 10, c =>
      rw [if_neg (by decide), if_neg (by decide), if_neg (by decide), if_neg (by decide), if_neg (by decide), if_neg (by decide), if_neg (by decide), if_neg (by decide), if_neg (by decide), if_pos rfl, st_isr hs]
      exact go _ (z_oth_lookl T k) (c_looksLeft p hs1 hN d (fun q hq => (hb q hq).1) (fun q hq => (hb q hq).2) c)
    | 11, c =>
      rw [if_neg (by decide), if_neg (by decide), if_neg (by decide), if_neg (by decide), if_neg (by decide), if_neg (by decide), if_neg (by decide), if_neg (by decide), if_neg (by decide), if_neg (by decide), if_pos rfl, st_isr hs]
      exact go _ (z_oth_join T k) (c_joins2 p hs1 N d c.1 c.2.1 c.2.2.1 c.2.2.2.1 c.2.2.2.2)
    | 12, c =>
      rw [if_neg (by decide), if_neg (by decide), if_neg (by decide), if_neg (by decide), if_neg (by decide), if_neg (by decide), if_neg (by decide), if_neg (by decide), if_neg (by decide), if_neg (by decide), if_neg (by decide), if_pos rfl, st_isr hs]
      exact go _ (z_oth_look T k) (c_looks p hs1 hN d (fun q hq => (hb q hq).1))
    | 13, c =>
      rw [if_neg (by decide), if_neg (by decide), if_neg (by decide), if_neg (by decide), if_neg (by decide), if_neg (by decide), if_neg (by decide), if_neg (by decide), if_neg (by decide), if_neg (by decide), if_neg (by decide), if_neg (by decide), st_isr hs]
      exact go _ (z_oth_stri T k) (c_strikes p hs1 hN d c.1 c.2.1 c.2.2.1 c.2.2.2 hcml.1)
