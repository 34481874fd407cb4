/-! I8: what always holds, whole -/
set_option maxRecDepth 100000
section
variable {S : zS} {rc : List Nat} {lo : Nat → Int32} {k : Nat}
theorem i_hu.sh4 {u : Nat → Int32} (h : i_hu S lo u) (v : Int32) : i_hu S lo (hw_U u 4 v) := by
  obtain ⟨h9, s, s1, s2, s3, s4⟩ := h
  refine ⟨h9, s, s1, s2, ?_, s4⟩
  match s, s3 with
  | 0, w => exact w
  | 1, w => exact w
  | 2, w => exact w
  | 3, w => exact w
  | 4, w => exact w
  | 5, w => exact w
  | 6, w => exact w
  | 7, w => exact w
  | 8, w => exact w
  | 9, w => exact w
  | 10, w => exact w
  | 11, w => exact w
  | 12, w => exact w
  | 13, w => exact w
theorem i_all.sh4 (h : i_all S rc lo) (hk : k < 4) (v : Int32) : i_all (z_sh S k 4 v) rc lo := by
  refine i_T0 h hk rfl rfl rfl ((z_oth.refl S k).sh _ _) ?_ (Or.inl ?_) ?_ ?_
  · rw [zh_sh]
    exact (h.H k hk).sh4 v
  · rw [zh_sh]
    exact Nat.le_refl _
  · rw [zh_sh]
    exact Nat.le_refl _
  · rw [zh_sh]
    exact Nat.le_refl _
/-- every stage -/
theorem i_stage (h : i_all S rc lo) (hk : k < 4) {s : Nat} (hs : s < 14) (h1 : zh S k 1 = nI s) (h0 : s ≠ 0) : z_cn S k s ∧ c_cn S k s ∧ ∃ rc' lo', i_all (z_sel S k s) rc' lo' := by
  match s, hs, h1, h0 with
  | 0, _, _, h0 => exact absurd rfl h0
  | 1, _, h1, _ => exact ⟨(i_finds h hk h1).1, (i_finds h hk h1).2.1, rc, lo, (i_finds h hk h1).2.2⟩
  | 2, _, h1, _ => exact ⟨(i_reads h hk h1).1, (i_reads h hk h1).2.1, rc, lo, (i_reads h hk h1).2.2⟩
  | 3, _, h1, _ => exact ⟨(i_prep h hk h1).1, (i_prep h hk h1).2.1, rc, lo, (i_prep h hk h1).2.2⟩
  | 4, _, h1, _ => exact ⟨(i_gath h hk h1).1, (i_gath h hk h1).2.1, rc, lo, (i_gath h hk h1).2.2⟩
  | 5, _, h1, _ => exact ⟨(i_swap h hk h1).1, (i_swap h hk h1).2.1, rc, lo, (i_swap h hk h1).2.2⟩
  | 6, _, h1, _ => exact i_split h hk h1
  | 7, _, h1, _ => exact ⟨(i_notes h hk h1).1, (i_notes h hk h1).2.1, rc, lo, (i_notes h hk h1).2.2⟩
  | 8, _, h1, _ => exact ⟨(i_enter h hk h1).1, (i_enter h hk h1).2.1, rc, lo, (i_enter h hk h1).2.2⟩
  | 9, _, h1, _ => exact ⟨(i_remov h hk h1).1, (i_remov h hk h1).2.1, rc, lo, (i_remov h hk h1).2.2⟩
  | 10, _, h1, _ => exact ⟨(i_lookl h hk h1).1, (i_lookl h hk h1).2.1, rc, lo, (i_lookl h hk h1).2.2⟩
  | 11, _, h1, _ =>
    obtain ⟨a, b, rc', c⟩ := i_join h hk h1
    exact ⟨a, b, rc', lo, c⟩
  | 12, _, h1, _ => exact ⟨(i_look h hk h1).1, (i_look h hk h1).2.1, rc, lo, (i_look h hk h1).2.2⟩
  | 13, _, h1, _ => exact ⟨(i_stri h hk h1).1, (i_stri h hk h1).2.1, rc, lo, (i_stri h hk h1).2.2⟩
theorem i_all.can (h : i_all S rc lo) (hk : k < 4) {s : Nat} (hs : s < 14) (h1 : zh S k 1 = nI s) (h0 : s ≠ 0) : z_can S rc k ∧ c_can S rc k := by
  obtain ⟨a, b, -⟩ := i_stage h hk hs h1 h0
  have hc := h.c
  refine ⟨⟨h.P.W, h.R, ⟨hc.1, hc.2.2.1, hc.2.2.2⟩, fun r hr => Nat.le_trans (h.P.it r hr) (by omega), fun q hq => ?_, s, h1, a⟩, h.P.W, h.R, ⟨hc.1, hc.2.2.1, hc.2.2.2⟩, fun q hq => ?_, s, h1, b⟩
  · obtain ⟨p, p1, p2, p3, p4⟩ := h.P.b0 q hq
    exact ⟨p, p2, p3⟩
  · obtain ⟨p, p1, p2, p3, p4⟩ := h.P.b0 q hq
    exact ⟨by rw [p4]; exact (h.P.lge p1 p2).1, p, p2, p3⟩
end
/-- what holds of every store that is reached -/
def i_I (S : zS) : Prop := ∃ rc lo, i_all S rc lo
theorem i_I.stage {S : zS} (h : i_I S) {k : Nat} (hk : k < 4) : ∃ s, s < 14 ∧ zh S k 1 = nI s := by
  obtain ⟨rc, lo, h⟩ := h
  obtain ⟨-, s, s1, s2, -⟩ := h.H k hk
  exact ⟨s, s1, s2⟩
theorem i_I.sz {S : zS} (h : i_I S) : zn S ≤ 1333 ∧ 2 ≤ zp S ∧ zp S ≤ 32 := by
  obtain ⟨rc, lo, h⟩ := h
  exact ⟨h.n, h.P.W.2.1, h.P.W.2.2.1⟩
theorem i_I.can {S : zS} (h : i_I S) {k : Nat} (hk : k < 4) (h0 : zh S k 1 ≠ nI 0) : ∃ rc, z_can (z_sh S k 4 (zh S k 4 + nI 1)) rc k ∧ c_can (z_sh S k 4 (zh S k 4 + nI 1)) rc k := by
  obtain ⟨rc, lo, h⟩ := h
  obtain ⟨-, s, s1, s2, -⟩ := h.H k hk
  have s0 : s ≠ 0 := fun e => h0 (by rw [s2, e])
  refine ⟨rc, (h.sh4 hk _).can hk s1 ?_ s0⟩
  rw [zh_sh]
  exact s2
theorem i_I.step {S : zS} (h : i_I S) {k : Nat} (hk : k < 4) : i_I (z_step S k) := by
  obtain ⟨rc, lo, h⟩ := h
  obtain ⟨-, s, s1, s2, -⟩ := h.H k hk
  unfold z_step
  by_cases h0 : zh S k 1 = nI 0
  · rw [if_pos h0]
    exact ⟨rc, lo, h⟩
  · rw [if_neg h0]
    have s0 : s ≠ 0 := fun e => h0 (by rw [s2, e])
    have e : zh (z_sh S k 4 (zh S k 4 + nI 1)) k 1 = nI s := by
      rw [zh_sh]
      exact s2
    rw [z_step_eq _ k s e]
    obtain ⟨-, -, rc', lo', c⟩ := i_stage (h.sh4 hk _) hk s1 e s0
    exact ⟨rc', lo', c⟩
theorem i_zkp {k : Nat} (hk : k < 4) : z_kp i_I k := fun T hT => ⟨by have := hT.sz; omega, hT.sz.2.2, hT.stage hk, fun h0 => by
  obtain ⟨rc, h1, -⟩ := hT.can hk h0
  exact ⟨rc, h1⟩, hT.step hk⟩
theorem i_ckp {k : Nat} (hk : k < 4) : c_kp i_I k := fun T hT => ⟨fun h0 => by
  obtain ⟨rc, -, h1⟩ := hT.can hk h0
  exact ⟨rc, h1⟩, hT.step hk⟩
theorem i_I.close {k : Nat} (hk : k < 4) : ∀ (n : Nat) {S : zS}, i_I S → i_I (z_close n S k).2
  | 0, _, h => h
  | n + 1, S, h => by
    unfold z_close
    by_cases w : zh S k 1 = nI 0
    · rw [if_pos w]
      exact h
    · rw [if_neg w]
      exact i_I.close hk n (h.step hk)
theorem i_e_19 (S : zS) (u : Nat → Int32) : i_e S u ≤ 19 := by
  unfold i_e
  repeat (first | omega | split)
theorem i_tab : ∀ a, a < 27 → ∀ o, o < 27 → a + o ≤ 26 → a * (11 + o) ≤ 342 := by decide +kernel
theorem i_I.take {S : zS} (h : i_I S) {k : Nat} (hk : k < 4) {act key : Int32} (v : Int32) (ha : act = nI 1 ∨ act = nI 2 ∨ act = nI 3) (h0 : nI 0 ≤ key) (h1 : key < nI 1000) : i_I (z_take S k act key v).2 := by
  obtain ⟨rc, lo, h⟩ := h
  unfold z_take
  by_cases w : zh S k 1 ≠ nI 0 ∨ 640 ≤ zn S ∨ 28 ≤ zp S
  · rw [if_pos w]
    exact ⟨rc, lo, h⟩
  · rw [if_neg w]
    have w1 : zn S < 640 := by omega
    have w2 : zp S < 28 := by omega
    have ez : zh (z_sh (z_sh (z_sh (z_sh (z_sh (z_sh (z_sh S k 0 act) k 1 (nI 1)) k 5 (nI (ze S))) k 6 key) k 7 v) k 8 (nI 0)) k 9 (nI 0)) k = hw_U (hw_U (hw_U (hw_U (hw_U (hw_U (hw_U (zh S k) 0 act) 1 (nI 1)) 5 (nI (ze S))) 6 key) 7 v) 8 (nI 0)) 9 (nI 0) := by
      rw [zh_sh, zh_sh, zh_sh, zh_sh, zh_sh, zh_sh, zh_sh]
    have ho : z_oth S (z_sh (z_sh (z_sh (z_sh (z_sh (z_sh (z_sh S k 0 act) k 1 (nI 1)) k 5 (nI (ze S))) k 6 key) k 7 v) k 8 (nI 0)) k 9 (nI 0)) k := (((((((z_oth.refl S k).sh _ _).sh _ _).sh _ _).sh _ _).sh _ _).sh _ _).sh _ _
    refine ⟨rc, lo, ?_⟩
    have e1 : (z_sh (z_sh (z_sh (z_sh (z_sh (z_sh (z_sh S k 0 act) k 1 (nI 1)) k 5 (nI (ze S))) k 6 key) k 7 v) k 8 (nI 0)) k 9 (nI 0)).1 = S.1 := rfl
    have e2 : (z_sh (z_sh (z_sh (z_sh (z_sh (z_sh (z_sh S k 0 act) k 1 (nI 1)) k 5 (nI (ze S))) k 6 key) k 7 v) k 8 (nI 0)) k 9 (nI 0)).2.1 = S.2.1 := rfl
    have e3 : (z_sh (z_sh (z_sh (z_sh (z_sh (z_sh (z_sh S k 0 act) k 1 (nI 1)) k 5 (nI (ze S))) k 6 key) k 7 v) k 8 (nI 0)) k 9 (nI 0)).2.2.2 = S.2.2.2 := rfl
    dsimp only
    generalize z_sh (z_sh (z_sh (z_sh (z_sh (z_sh (z_sh S k 0 act) k 1 (nI 1)) k 5 (nI (ze S))) k 6 key) k 7 v) k 8 (nI 0)) k 9 (nI 0) = T at ez ho e1 e2 e3 ⊢
    obtain ⟨B, t, H, m⟩ := S
    obtain ⟨B', t', H', m'⟩ := T
    simp only at e1 e2 e3
    subst e1 e2 e3
    have nx : i_nx (B', t', H', m') rc lo (zh (B', t', H', m') k) 0 13 := by
      rw [ez]
      exact i_nx_of (s := 1) (by omega) rfl (Or.inl ⟨rfl, rfl⟩) ⟨h0, h1, ha⟩ (show nI 0 = nI 0 from rfl)
    have g : i_ge (B', t', H, m') (B', t', H', m') lo lo := ⟨Nat.le_refl _, Nat.le_refl _, rfl, z_sub.refl _ _, fun _ _ => rfl, fun _ _ h => h⟩
    have hP : i_P (B', t', H', m') rc lo := i_P_hands h.P
    have s1 := i_Fs (T := (B', t', H', m')) (rc := rc) (rc' := rc) (d := 0) hk ho (fun j _ _ => Nat.le_refl _)
    have hF : i_F (B', t', H', m') rc lo ≤ i_F (B', t', H, m') rc lo := by
      unfold i_F
      have : i_sm (i_f (B', t', H', m') rc lo) 32 = i_sm (i_f (B', t', H, m') rc lo) 32 := rfl
      have := nx.2.1
      omega
    have hF2 := h.F
    refine ⟨hP, fun j hj => ?_, ?_, ?_, ?_, h.c⟩
    · by_cases w : j = k
      · rw [w]
        exact nx.1
      · rw [ho j w]
        exact (h.H j hj).ge h.P.W.1 g
    · have := i_sm_up (f := fun k => i_t (B', t', H', m') (zh (B', t', H', m') k)) (g := fun k => i_t (B', t', H, m') (zh (B', t', H, m') k)) 4 hk (fun j _ ne => by
        show i_t _ _ ≤ i_t _ _
        rw [ho j ne]
        exact Nat.le_refl _)
      have t0 := nx.2.2.2
      have := h.N
      have : i_K (B', t', H', m') rc = i_K (B', t', H, m') rc := i_K_cong rc (fun _ _ => rfl)
      omega
    · have : z_len (B', t', H', m') 0 = z_len (B', t', H, m') 0 := rfl
      omega
    · have hrl := h.P.rl
      have r1 := i_sm_le (f := i_r (B', t', H', m') rc) (g := fun p => 27 + (if p ∈ rc then 11 + (zp (B', t', H, m') - 1 - rc.length) else 0)) 32 (fun p _ => by
        have : i_r (B', t', H', m') rc p = i_r (B', t', H, m') rc p := rfl
        rw [this]
        unfold i_r
        by_cases p0 : p = 0
        · rw [if_pos p0]
          omega
        · rw [if_neg p0]
          by_cases p1 : zp (B', t', H, m') ≤ p
          · rw [if_pos p1]
            omega
          · rw [if_neg p1]
            have ll := h.P.ll p (by omega) (by omega)
            by_cases m : p ∈ rc
            · rw [if_pos m, if_pos m]
              by_cases g : z_gone (B', t', H, m') p
              · rw [if_pos g]
                omega
              · rw [if_neg g]
                omega
            · rw [if_neg m, if_neg m, h.P.goneLen (by omega) (h.P.out p (by omega) (by omega) m)]
              omega)
      rw [i_sm_add, i_sm_c] at r1
      have r2 := i_sm_mem (11 + (zp (B', t', H, m') - 1 - rc.length)) rc 32
      have r3 := i_tab rc.length (by omega) (zp (B', t', H, m') - 1 - rc.length) (by omega) (by omega)
      have r4 := i_sm_le (f := fun k => i_e (B', t', H', m') (zh (B', t', H', m') k)) (g := fun _ => 19) 4 (fun j _ => i_e_19 _ _)
      rw [i_sm_c] at r4
      unfold i_U
      have : zn (B', t', H', m') = zn (B', t', H, m') := rfl
      omega
/-- alike but for what is free, what is out of use -/
theorem i_all.like {S T : zS} {rc : List Nat} {lo : Nat → Int32} (h : i_all S rc lo) (hl : z_like S.1 T.1) (e2 : T.2.1 = S.2.1) (eh : T.2.2.1 = S.2.2.1) (en : zn T = zn S) (ez : zp T = zp S) (ec : T.2.2.2.2 = S.2.2.2.2) : i_all T rc lo := by
  have hsub : z_sub S.1 T.1 (zn S) := fun r _ => ⟨fun f a b => hl.1 r f a b, by rw [hl.2]⟩
  have et : ∀ p, zt T p = zt S p := fun p => congrFun e2 p
  have eh' : ∀ j, zh T j = zh S j := fun j => congrFun eh j
  have epg : ∀ p, z_pg T p = z_pg S p := fun p => by
    unfold z_pg
    rw [et, hl.ct]
  have elen : ∀ p, z_len T p = z_len S p := fun p => by
    unfold z_len
    rw [et, hl.chain]
  have ego : ∀ p, z_gone T p ↔ z_gone S p := fun p => by
    unfold z_gone zr
    rw [et, hl.1 _ 0 (by omega) (by omega)]
  have g : i_ge S T lo lo := ⟨Nat.le_of_eq en.symm, Nat.le_of_eq ez.symm, by unfold zm; rw [ec], hsub, fun _ _ => rfl, fun p _ w => (ego p).mpr w⟩
  have hP : i_P T rc lo := by
    refine ⟨hl.W e2 en ez h.P.W, h.P.hd, i_row_all rc h.P.row (fun y _ => by rw [epg]) (fun _ _ => rfl), fun p hp => ?_, fun p p1 p2 p3 => (ego p).mpr (h.P.out p p1 (by omega) p3), ⟨h.P.lo1, fun p p1 p2 => h.P.lo2 p p1 (by omega)⟩, fun p p1 p2 => ?_, ?_, fun p p1 => by rw [epg]; exact h.P.rt p (by omega), fun r hr => ?_, by rw [ez]; exact h.P.rl, fun p p1 p2 => by rw [elen, ez]; exact h.P.ll p p1 (by omega)⟩
    · obtain ⟨a, b, c⟩ := h.P.mem p hp
      refine ⟨a, by omega, ?_⟩
      unfold i_in at *
      rw [epg]
      exact c
    · obtain ⟨a, b⟩ := h.P.gn p (by omega) ((ego p).mp p2)
      refine ⟨a, ?_⟩
      rw [et]
      exact i_gb_sub hsub (h.P.W.2.2.2 p (by omega)) b
    · rw [epg, ez]
      exact ⟨h.P.b0, h.P.b1⟩
    · unfold zi
      rw [hl.2]
      exact h.P.it r (by omega)
  have eF : i_f T rc lo = i_f S rc lo := by
    funext p
    unfold i_f i_nt
    rw [ez, epg]
  have eR : i_r T rc = i_r S rc := by
    funext p
    unfold i_r
    rw [ez, elen]
    by_cases w : z_gone S p
    · rw [if_pos w, if_pos ((ego p).mpr w)]
    · rw [if_neg w, if_neg (fun x => w ((ego p).mp x))]
  have eE : ∀ u, i_e T u = i_e S u := fun u => by
    unfold i_e
    rw [elen]
  have eT : ∀ u, i_t T u = i_t S u := fun u => by
    unfold i_t
    rw [hl.ct]
  have eF2 : i_F T rc lo = i_F S rc lo := by
    unfold i_F
    rw [eF]
    simp only [eh']
  refine ⟨hP, fun k hk => ?_, ?_, ?_, ?_, ?_⟩
  · rw [eh']
    exact (h.H k hk).ge h.P.W.1 g
  · have e1 : i_K T rc = i_K S rc := i_K_cong rc (fun y _ => by rw [epg])
    have e2 : (fun k => i_t T (zh T k)) = fun k => i_t S (zh S k) := funext fun k => by rw [eh', eT]
    rw [e1, e2]
    exact h.N
  · rw [eF2, elen]
    exact h.F
  · have e2 : (fun k => i_e T (zh T k)) = fun k => i_e S (zh S k) := funext fun k => by rw [eh', eE]
    have := h.U
    unfold i_U at *
    rw [eF2, eR, e2, en]
    exact this
  · have := h.c
    unfold zc zm zl at *
    rw [ec]
    exact this
theorem i_I.sweep {S : zS} (h : i_I S) : i_I (z_sweep S).2 := by
  obtain ⟨rc, lo, h⟩ := h
  exact ⟨rc, lo, h.like (T := (z_sweep S).2) ⟨fun r f _ h5 => if_neg fun w => h5 w.1, rfl⟩ rfl rfl rfl rfl rfl⟩
theorem i_I.begin {c m l : Nat} (hc : c < 100) (hm : 4 ≤ m) (hm2 : m < 100) (hl : l < 100) : i_I (z_beg c m l) := by
  have bb : (z_beg c m l).1.1 = hw_R (hw_R (fun _ _ => nI 0) 0 (z_f (nI 0) (-2) (-2) (-2) (nI 1) (nI 0) (-2) (-2))) 1 (z_f (nI 0) (-2) (-2) (-2) (nI 0) (nI 1000) (-2) (-2)) := rfl
  have b0 : (z_beg c m l).1.1 0 = z_f (nI 0) (-2) (-2) (-2) (nI 1) (nI 0) (-2) (-2) := by
    rw [bb, hw_R_ne _ _ (by omega), hw_R_same]
  have b1 : (z_beg c m l).1.1 1 = z_f (nI 0) (-2) (-2) (-2) (nI 0) (nI 1000) (-2) (-2) := by
    rw [bb, hw_R_same]
  have l0 : (z_beg c m l).1.2 0 = [(nI 0, nI 1)] := rfl
  have l1 : (z_beg c m l).1.2 1 = [] := rfl
  have s0 : (z_beg c m l).1.1 0 0 = nI 0 := by rw [b0]; rfl
  have s1 : (z_beg c m l).1.1 1 0 = nI 0 := by rw [b1]; rfl
  have t0 : zt (z_beg c m l) 0 = 0 := rfl
  have t1 : zt (z_beg c m l) 1 = 1 := rfl
  have en : zn (z_beg c m l) = 2 := rfl
  have ez : zp (z_beg c m l) = 2 := rfl
  have ch0 : z_chain (z_beg c m l).1 0 = [0] := z_chain_0 s0
  have ch1 : z_chain (z_beg c m l).1 1 = [1] := z_chain_0 s1
  have c0 : z_ct (z_beg c m l).1 0 = ([(nI 0, nI 1)], nI 0, -2) := by rw [z_ct_0 s0, l0, b0]; rfl
  have c1 : z_ct (z_beg c m l).1 1 = ([], nI 1000, -2) := by rw [z_ct_0 s1, l1, b1]; rfl
  have p0 : z_pg (z_beg c m l) 0 = ([(nI 0, nI 1)], nI 0, -2) := by unfold z_pg; rw [t0, c0]
  have p1 : z_pg (z_beg c m l) 1 = ([], nI 1000, -2) := by unfold z_pg; rw [t1, c1]
  have n0 : z_len (z_beg c m l) 0 = 0 := by unfold z_len; rw [t0, ch0]; rfl
  have n1 : z_len (z_beg c m l) 1 = 0 := by unfold z_len; rw [t1, ch1]; rfl
  have ng : ∀ p, p < 2 → ¬ z_gone (z_beg c m l) p := fun p hp g => by
    unfold z_gone zr at g
    match p, hp with
    | 0, _ =>
      rw [t0, s0] at g
      exact absurd g (by decide)
    | 1, _ =>
      rw [t1, s1] at g
      exact absurd g (by decide)
  have hW : z_W (z_beg c m l) := by
    refine ⟨⟨by rw [en]; omega, fun r hr => ?_⟩, by rw [ez]; omega, by rw [ez]; omega, fun p hp => ?_⟩
    · rw [en] at hr
      match r, hr with
      | 0, _ => exact ⟨Or.inl ⟨s0, by rw [b0]; rfl⟩, by rw [b0, l0]; rfl, fun w => absurd (s0.symm.trans w) (by decide), by rw [c0]; exact List.pairwise_singleton _ _, by rw [c0]; exact (by decide : 1 ≤ 43), by rw [ch0]; exact (by decide : 1 ≤ 840)⟩
      | 1, _ => exact ⟨Or.inl ⟨s1, by rw [b1]; rfl⟩, by rw [b1, l1]; rfl, fun w => absurd (s1.symm.trans w) (by decide), by rw [c1]; exact List.Pairwise.nil, by rw [c1]; exact (by decide : 0 ≤ 43), by rw [ch1]; exact (by decide : 1 ≤ 840)⟩
    · rw [ez] at hp
      rw [en]
      match p, hp with
      | 0, _ => rw [t0]; omega
      | 1, _ => rw [t1]; omega
  have hh : ∀ j, zh (z_beg c m l) j = fun f => if f = 2 ∨ f = 6 then -2 else nI 0 := fun j => rfl
  refine ⟨[1], fun _ => nI 0, ⟨hW, ⟨[], rfl⟩, ?_, fun p hp => ?_, fun p q1 q2 q3 => ?_, ⟨rfl, fun p q1 q2 => ?_⟩, fun p q1 q2 => absurd q2 (ng p (by omega)), ?_, fun p q1 => ?_, fun r hr => ?_, by rw [ez]; exact Nat.le_refl _, fun p q1 q2 => ?_⟩, fun k hk => ?_, ?_, ?_, ?_, ?_⟩
  · show (z_pg (z_beg c m l) 1).2.1 = _ ∧ (z_pg (z_beg c m l) 1).2.2 = _
    rw [p1]
    exact ⟨rfl, rfl⟩
  · obtain rfl : p = 1 := List.mem_singleton.mp hp
    refine ⟨by omega, by rw [ez]; omega, ?_⟩
    unfold i_in
    rw [p1]
    exact fun q hq => by cases hq
  · rw [ez] at q2
    exact absurd (List.mem_singleton.mpr (show p = 1 by omega)) q3
  · rw [ez] at q2
    omega
  · rw [p0]
    refine ⟨fun q hq => ⟨1, by omega, by rw [ez]; omega, ?_⟩, List.mem_singleton.mpr rfl⟩
    rw [List.mem_singleton.mp hq]
    exact ⟨rfl, rfl⟩
  · rw [ez] at q1
    match p, q1 with
    | 0, _ => rw [p0]; decide
    | 1, _ => rw [p1]; decide
  · rw [en] at hr
    unfold zi
    match r, hr with
    | 0, _ => rw [l0]; exact (by decide : 1 ≤ 43)
    | 1, _ => rw [l1]; exact (by decide : 0 ≤ 43)
  · rw [ez] at q2
    obtain rfl : p = 1 := by omega
    rw [n1, ez]
    exact (by decide : 0 + 1 + 1 ≤ 24 + 2)
  · rw [hh]
    exact ⟨Or.inl ⟨rfl, rfl⟩, 0, by omega, rfl, trivial, fun e => absurd rfl e⟩
  · have := i_sm_le (f := fun k => i_t (z_beg c m l) (zh (z_beg c m l) k)) (g := fun _ => 0) 4 (fun j _ => Nat.le_of_eq (i_t_n3 (by rw [hh]; decide)))
    rw [i_sm_c] at this
    have e : i_K (z_beg c m l) [1] = (z_pg (z_beg c m l) 1).1.length := rfl
    rw [p1] at e
    have e : i_K (z_beg c m l) [1] = 0 := e
    omega
  · have a1 := i_sm_le (f := i_f (z_beg c m l) [1] fun _ => nI 0) (g := fun p => if p < 2 then 0 else 8) 32 (fun p _ => by
      unfold i_f
      rw [ez]
      by_cases w : p < 2
      · rw [if_pos w, if_pos w]
        exact Nat.le_refl _
      · rw [if_neg w, if_neg w, if_pos (show 2 ≤ p by omega)]
        exact Nat.le_refl _)
    have a2 : i_sm (fun p => if p < 2 then 0 else 8) 32 = 240 := by decide +kernel
    have a3 := i_sm_le (f := fun k => i_s [1] (zh (z_beg c m l) k)) (g := fun _ => 0) 4 (fun j _ => Nat.le_of_eq (i_s_no (by rw [hh]; decide) (by rw [hh]; decide) (by rw [hh]; decide) (by rw [hh]; decide)))
    rw [i_sm_c] at a3
    unfold i_F
    rw [n0]
    omega
  · have a1 := i_sm_le (f := i_f (z_beg c m l) [1] fun _ => nI 0) (g := fun p => if p < 2 then 0 else 8) 32 (fun p _ => by
      unfold i_f
      rw [ez]
      by_cases w : p < 2
      · rw [if_pos w, if_pos w]
        exact Nat.le_refl _
      · rw [if_neg w, if_neg w, if_pos (show 2 ≤ p by omega)]
        exact Nat.le_refl _)
    have a2 : i_sm (fun p => if p < 2 then 0 else 8) 32 = 240 := by decide +kernel
    have a3 := i_sm_le (f := fun k => i_s [1] (zh (z_beg c m l) k)) (g := fun _ => 0) 4 (fun j _ => Nat.le_of_eq (i_s_no (by rw [hh]; decide) (by rw [hh]; decide) (by rw [hh]; decide) (by rw [hh]; decide)))
    rw [i_sm_c] at a3
    have a4 := i_sm_le (f := i_r (z_beg c m l) [1]) (g := fun _ => 27) 32 (fun p _ => by
      unfold i_r
      rw [ez]
      by_cases w : p = 0
      · rw [if_pos w]
        omega
      · rw [if_neg w]
        by_cases w2 : 2 ≤ p
        · rw [if_pos w2]
          exact Nat.le_refl _
        · rw [if_neg w2]
          obtain rfl : p = 1 := by omega
          rw [n1]
          repeat (first | omega | split))
    rw [i_sm_c] at a4
    have a5 := i_sm_le (f := fun k => i_e (z_beg c m l) (zh (z_beg c m l) k)) (g := fun _ => 19) 4 (fun j _ => i_e_19 _ _)
    rw [i_sm_c] at a5
    unfold i_U i_F
    rw [en]
    omega
  · exact ⟨hc, hm, hm2, hl⟩
