/-! I2: steps that change the hand alone -/
set_option maxRecDepth 100000
abbrev i_w (u : Nat → Int32) : Nat := if u 9 = nI 1 then 0 else 13
theorem i_e_ge {S : zS} {u : Nat → Int32} (h : u 1 ≠ nI 0) : i_w u ≤ i_e S u := by
  unfold i_e
  rw [if_neg h]
  exact Nat.le_add_right _ _
theorem i_e_pl {S : zS} {u : Nat → Int32} (h4 : u 1 ≠ nI 4) (h5 : u 1 ≠ nI 5) : i_e S u ≤ i_w u := by
  unfold i_e
  by_cases w : u 1 = nI 0
  · rw [if_pos w]
    exact Nat.zero_le _
  · rw [if_neg w, if_neg (show ¬ ((u 1 = nI 4 ∨ u 1 = nI 5) ∧ _) from fun x => x.1.elim h4 h5)]
    exact Nat.le_refl _
theorem i_e_w {S : zS} {u : Nat → Int32} (h : u 1 = nI 4 ∨ u 1 = nI 5) : i_e S u = i_w u + (if u 9 = nI 1 ∨ u 2 = nI 0 ∨ z_len S (u 2).toNatClampNeg < 24 then 6 else 0) := by
  unfold i_e
  rw [if_neg (by rcases h with h | h <;> rw [h] <;> decide)]
  refine congrArg (fun x => i_w u + x) ?_
  by_cases w : u 9 = nI 1 ∨ u 2 = nI 0 ∨ z_len S (u 2).toNatClampNeg < 24
  · rw [if_pos w, if_pos ⟨h, w⟩]
  · rw [if_neg w, if_neg (fun x => w x.2)]
theorem i_s_no {rc : List Nat} {u : Nat → Int32} (h7 : u 1 ≠ nI 7) (h8 : u 1 ≠ nI 8) (h12 : u 1 ≠ nI 12) (h13 : u 1 ≠ nI 13) : i_s rc u = 0 := by
  unfold i_s
  rw [if_neg (fun x => x.elim h7 h8), if_neg (fun x => x.elim h12 h13)]
theorem i_s_r {rc : List Nat} {u : Nat → Int32} (h : u 1 = nI 7 ∨ u 1 = nI 8) : i_s rc u = if (u 13).toNatClampNeg ∈ rc then 0 else 2 := by
  unfold i_s
  rw [if_pos h]
theorem i_s_v {rc : List Nat} {u : Nat → Int32} (h : u 1 = nI 12 ∨ u 1 = nI 13) : i_s rc u = if (u 11).toNatClampNeg ∈ rc then 2 else 0 := by
  unfold i_s
  rw [if_neg (by rcases h with h | h <;> rw [h] <;> decide), if_pos h]
/-- a hand's next state -/
def i_nx (S : zS) (rc : List Nat) (lo : Nat → Int32) (u : Nat → Int32) (s e : Nat) : Prop := i_hu S lo u ∧ i_s rc u ≤ s ∧ i_e S u ≤ e ∧ i_t S u = 0
/-- of a stage that is none of 3, 4, 5, 7, 8, 12, 13 -/
theorem i_nx_of {S : zS} {rc : List Nat} {lo : Nat → Int32} {u : Nat → Int32} {s : Nat} (hs : s = 0 ∨ s = 1 ∨ s = 2 ∨ s = 6 ∨ s = 9 ∨ s = 10 ∨ s = 11) (h1 : u 1 = nI s) (h9 : i_h9 u) (ha : i_ab u) (hst : i_st S lo u s) : i_nx S rc lo u 0 (i_w u) := by
  have ne : ∀ t, (t = 3 ∨ t = 4 ∨ t = 5 ∨ t = 7 ∨ t = 8 ∨ t = 12 ∨ t = 13) → u 1 ≠ nI t := fun t ht e => by
    have := (nI_eq (a := s) (b := t) (by omega) (by omega)).mp (h1.symm.trans e)
    omega
  exact ⟨⟨h9, s, by omega, h1, hst, fun _ => ha⟩, Nat.le_of_eq (i_s_no (ne 7 (by omega)) (ne 8 (by omega)) (ne 12 (by omega)) (ne 13 (by omega))), i_e_pl (ne 4 (by omega)) (ne 5 (by omega)), i_t_n3 (ne 3 (by omega))⟩
theorem i_T0x {S S' : zS} {rc : List Nat} {lo : Nat → Int32} {k : Nat} (h : i_all S rc lo) (hk : k < 4) (e1 : S'.1 = S.1) (e2 : S'.2.1 = S.2.1) (e3 : S'.2.2.2 = S.2.2.2) (ej : z_oth S S' k) (nx : i_nx S rc lo (zh S' k) (i_s rc (zh S k)) (i_e S (zh S k))) : i_all S' rc lo :=
  i_T0 h hk e1 e2 e3 ej nx.1 (Or.inl (by rw [nx.2.2.2]; exact Nat.zero_le _)) nx.2.1 nx.2.2.1
theorem i_nx.le {S : zS} {rc : List Nat} {lo : Nat → Int32} {u : Nat → Int32} {s e s' e' : Nat} (h : i_nx S rc lo u s e) (hs : s ≤ s') (he : e ≤ e') : i_nx S rc lo u s' e' := ⟨h.1, Nat.le_trans h.2.1 hs, Nat.le_trans h.2.2.1 he, h.2.2.2⟩
/-! the hand's rows -/
theorem zh_go (S : zS) (k : Nat) : zh (z_go S k) k = hw_U (zh S k) 1 (if zh S k 9 = nI 1 then nI 0 else nI 1) := zh_sh _ _ _ _
theorem zh_left (S : zS) (k : Nat) (v : Int32) : zh (z_left S k v) k = hw_U (hw_U (zh S k) 11 v) 1 (nI 10) := by unfold z_left; rw [zh_sh, zh_sh]
theorem zh_note (S : zS) (k : Nat) (a b : Int32) : zh (z_note S k a b) k = hw_U (hw_U (hw_U (zh S k) 12 a) 13 b) 1 (nI 7) := by unfold z_note; rw [zh_sh, zh_sh, zh_sh]
theorem zh_sees (S : zS) (k p : Nat) (s : Int32) : zh (z_sees S k p s) k = hw_U (hw_U (zh S k) 10 (nI (zt S p))) 1 s := by unfold z_sees; rw [zh_sh, zh_sh]
theorem zh_rest (S : zS) (k : Nat) (v : Int32) : zh (z_rest S k v) k = hw_U (hw_U (hw_U (zh S k) 8 v) 9 (nI 1)) 1 (nI 0) := by unfold z_rest; rw [zh_sh, zh_sh, zh_sh]
theorem zh_lose (S : zS) (k : Nat) : zh (z_lose S k) k = hw_U (zh S k) 3 (zh S k 3 + nI 1) := zh_sh _ _ _ _
section
variable {S : zS} {rc : List Nat} {lo : Nat → Int32} {u : Nat → Int32}
theorem i_nx_go (h9 : i_h9 u) (ha : i_ab u) : i_nx S rc lo (hw_U u 1 (if u 9 = nI 1 then nI 0 else nI 1)) 0 (i_w u) := by
  by_cases w : u 9 = nI 1
  · rw [if_pos w]
    exact i_nx_of (s := 0) (by omega) rfl h9 ha trivial
  · rw [if_neg w]
    exact i_nx_of (s := 1) (by omega) rfl h9 ha (h9.resolve_right w).1
theorem i_nx_left (h9 : i_h9 u) (ha : i_ab u) {v : Nat} (h2 : 2 ≤ v) (hv : v < zp S) (hg : z_gone S v) : i_nx S rc lo (hw_U (hw_U u 11 (nI v)) 1 (nI 10)) 0 (i_w u) :=
  i_nx_of (s := 10) (by omega) rfl h9 ha ⟨v, h2, hv, rfl, hg⟩
theorem i_nx_note (h9 : i_h9 u) (ha : i_ab u) {q : Nat} (h2 : 2 ≤ q) (hq : q < zp S) (h32 : zp S ≤ 32) (hrc : q ∈ rc) : i_nx S rc lo (hw_U (hw_U (hw_U u 12 (lo q)) 13 (nI q)) 1 (nI 7)) 0 (i_w u) := by
  refine ⟨⟨h9, 7, by omega, rfl, ⟨q, h2, hq, rfl, rfl⟩, fun _ => ha⟩, ?_, i_e_pl (show nI 7 ≠ nI 4 by decide) (show nI 7 ≠ nI 5 by decide), i_t_n3 (show nI 7 ≠ nI 3 by decide)⟩
  rw [i_s_r (Or.inl rfl)]
  show (if (nI q).toNatClampNeg ∈ rc then 0 else 2) ≤ 0
  rw [nI_clamp (n := q) (by omega), if_pos hrc]
  exact Nat.le_refl _
theorem i_nx_rest (v : Int32) (ha : i_ab u) : i_nx S rc lo (hw_U (hw_U (hw_U u 8 v) 9 (nI 1)) 1 (nI 0)) 0 0 :=
  (i_nx_of (u := hw_U (hw_U (hw_U u 8 v) 9 (nI 1)) 1 (nI 0)) (s := 0) (by omega) rfl (Or.inr rfl) ha trivial).le (Nat.le_refl _) (Nat.le_of_eq (if_pos rfl))
theorem i_nx_s12 (h9 : i_h9 u) (ha : i_ab u) {v : Nat} (h1 : u 1 = nI 12) (h2 : 2 ≤ v) (hv : v < zp S) (h32 : zp S ≤ 32) (e : u 11 = nI v) : i_nx S rc lo u (if v ∈ rc then 2 else 0) (i_w u) := by
  refine ⟨⟨h9, 12, by omega, h1, ⟨v, h2, hv, e⟩, fun _ => ha⟩, ?_, i_e_pl (by rw [h1]; decide) (by rw [h1]; decide), i_t_n3 (by rw [h1]; decide)⟩
  rw [i_s_v (Or.inl h1), e, nI_clamp (n := v) (by omega)]
  exact Nat.le_refl _
end
/-! lists -/
theorem kv_ix_at {v : Int32} : ∀ {l : KV} {b : Nat}, kv_ix v l = some b → ∃ h : b < l.length, (l[b]).2 = v
  | [], _, h => by cases h
  | q :: r, b, h => by
    unfold kv_ix at h
    by_cases w : q.2 = v
    · rw [if_pos w] at h
      cases h
      exact ⟨Nat.succ_pos _, w⟩
    · rw [if_neg w] at h
      cases e : kv_ix v r with
      | none =>
        rw [e] at h
        cases h
      | some c =>
        rw [e] at h
        cases h
        obtain ⟨h1, h2⟩ := kv_ix_at e
        exact ⟨Nat.succ_lt_succ h1, h2⟩
theorem kv_ix_none {v : Int32} : ∀ {l : KV}, kv_ix v l = none → ∀ q ∈ l, q.2 ≠ v
  | [], _, _, h => by cases h
  | q :: r, h, z, hz => by
    unfold kv_ix at h
    by_cases w : q.2 = v
    · rw [if_pos w] at h
      cases h
    · rw [if_neg w] at h
      rcases List.mem_cons.mp hz with e | e
      · rw [e]
        exact w
      · refine kv_ix_none ?_ z e
        cases c : kv_ix v r with
        | none => rfl
        | some _ =>
          rw [c] at h
          cases h
theorem kv_nth_at {l : KV} {b : Nat} (h : b < l.length) : kv_nth l b = l[b] := by
  unfold kv_nth
  rw [List.getD_eq_getElem?_getD, List.getElem?_eq_getElem h]
  rfl
theorem kv_nth_in {l : KV} {b : Nat} (h : b < l.length) : kv_nth l b ∈ l := by
  rw [kv_nth_at h]
  exact List.getElem_mem h
theorem kv_hd_le {a : Int32 × Int32} {t : KV} (h : kv_so (a :: t)) {z : Int32 × Int32} (hz : z ∈ a :: t) : a.1 ≤ z.1 := by
  rcases List.mem_cons.mp hz with e | e
  · rw [e]
    exact Int32.le_refl _
  · have := (kv_so_cons.mp h).1 z e
    rw [Int32.le_iff_toInt_le]
    rw [Int32.lt_iff_toInt_lt] at this
    omega
theorem kv_ui_len (k : Int32) : ∀ l : KV, kv_ui k l ≤ l.length
  | [] => Nat.le_refl _
  | q :: r => by
    unfold kv_ui
    have := kv_ui_len k r
    split
    · rw [List.length_cons]
      omega
    · exact Nat.zero_le _
theorem kv_ui_in {k : Int32} : ∀ {l : KV}, 0 < kv_ui k l → kv_nth l (kv_ui k l - 1) ∈ l ∧ (kv_nth l (kv_ui k l - 1)).1 ≤ k
  | [], h => absurd h (Nat.lt_irrefl _)
  | q :: r, h => by
    unfold kv_ui at h ⊢
    by_cases w : q.1 ≤ k
    · rw [if_pos w, Nat.add_sub_cancel]
      rcases Nat.eq_zero_or_pos (kv_ui k r) with e | e
      · rw [e]
        exact ⟨List.mem_cons_self, w⟩
      · obtain ⟨h1, h2⟩ := kv_ui_in e
        obtain ⟨m, hm⟩ : ∃ m, kv_ui k r = m + 1 := ⟨kv_ui k r - 1, by omega⟩
        rw [hm, Nat.add_sub_cancel] at h1 h2
        rw [hm]
        exact ⟨List.mem_cons_of_mem _ h1, h2⟩
    · rw [if_neg w] at h
      exact absurd h (Nat.lt_irrefl _)
section
variable {S : zS} {rc : List Nat} {lo : Nat → Int32} {k : Nat}
/-- the first bound -/
theorem i_P.b0hd (h : i_P S rc lo) : ∃ t, (z_pg S 0).1 = (nI 0, nI 1) :: t := by
  have hso := (h.W.pg (p := 0) (by have := h.W.2.1; omega)).1
  have h1 := h.b1
  have h0 := h.b0
  generalize (z_pg S 0).1 = l at *
  cases l with
  | nil => cases h1
  | cons a t =>
    have e := kv_hd_le hso h1
    obtain ⟨p, p1, p2, p3, p4⟩ := h0 a List.mem_cons_self
    have e2 := (h.lge p1 p2).1
    have : a.1 = nI 0 := by
      rw [← p4] at e2
      exact Int32.le_antisymm e e2
    have hp : p = 1 := by
      rcases Nat.lt_or_ge 1 p with w | w
      · have := (h.lo2 p w p2).1
        rw [← p4, ‹a.1 = nI 0›] at this
        exact absurd this (fun e => kv_lt_irrefl e)
      · omega
    refine ⟨t, ?_⟩
    rw [show a = (nI 0, nI 1) from Prod.ext this (by rw [p3, hp])]
theorem i_P.b0so (h : i_P S rc lo) : kv_so (z_pg S 0).1 := (h.W.pg (p := 0) (by have := h.W.2.1; omega)).1
/-- an entry of page 0 by its page -/
theorem i_P.b0p (h : i_P S rc lo) {q : Int32 × Int32} (hq : q ∈ (z_pg S 0).1) {v : Nat} (hv : v < zp S) (e : q.2 = nI v) : q.1 = lo v := by
  obtain ⟨p, p1, p2, p3, p4⟩ := h.b0 q hq
  have h32 := h.W.2.2.1
  have : p = v := (nI_eq (a := p) (b := v) (by omega) (by omega)).mp (p3.symm.trans e)
  rw [p4, this]
theorem i_finds (h : i_all S rc lo) (hk : k < 4) (h1 : zh S k 1 = nI 1) : z_cn S k 1 ∧ c_cn S k 1 ∧ i_all (z_finds S k) rc lo := by
  obtain ⟨h9, hab⟩ := (h.H k hk).at (s := 1) (by omega) h1
  have h9 : zh S k 9 = nI 0 := h9
  have ab := hab (by omega)
  obtain ⟨t, ht⟩ := h.P.b0hd
  have hu : 0 < kv_ui (zh S k 6) (z_pg S 0).1 := by
    rw [ht]
    unfold kv_ui
    rw [if_pos ab.1]
    exact Nat.succ_pos _
  refine ⟨hu, hu, ?_⟩
  obtain ⟨m1, m2⟩ := kv_ui_in hu
  obtain ⟨p, p1, p2, p3, p4⟩ := h.P.b0 _ m1
  have ez : zh (z_finds S k) k = hw_U (hw_U (zh S k) 2 (nI p)) 1 (nI 2) := by
    unfold z_finds
    rw [zh_sh, zh_sh, p3]
  refine i_T0x h hk rfl rfl rfl (z_oth_finds S k) ?_
  rw [ez]
  exact i_nx.le (s := 0) (e := i_w (zh S k)) (i_nx_of (s := 2) (by omega) rfl (h.H k hk).1 ab ⟨h9, p, p1, p2, rfl, by rw [← p4]; exact m2⟩) (Nat.zero_le _) (i_e_ge (by rw [h1]; decide))
theorem i_reads (h : i_all S rc lo) (hk : k < 4) (h1 : zh S k 1 = nI 2) : z_cn S k 2 ∧ c_cn S k 2 ∧ i_all (z_reads S k) rc lo := by
  obtain ⟨⟨h9, p, p1, p2, p3, p4⟩, hab⟩ := (h.H k hk).at (s := 2) (by omega) h1
  have ab := hab (by omega)
  have h32 := h.P.W.2.2.1
  have hat : z_at S k = p := by unfold z_at; rw [p3, nI_clamp (n := p) (by omega)]
  refine ⟨⟨by rw [hat]; exact p2, by rw [hat]; exact p3, by rw [hat]; exact h.P.rt p p2⟩, ⟨by rw [hat]; exact p2, by rw [hat]; exact p3⟩, ?_⟩
  have h1e : zh S k 1 ≠ nI 0 := by rw [h1]; decide
  have hw : i_w (zh S k) = 13 := if_neg (by rw [h9]; decide)
  have hee : 13 ≤ i_e S (zh S k) := hw ▸ i_e_ge h1e
  have hww : i_w (zh S k) ≤ i_e S (zh S k) := i_e_ge h1e
  unfold z_reads
  rw [hat]
  by_cases hg : z_gone S p
  · rw [if_pos hg]
    refine i_T0x h hk rfl rfl rfl ((z_oth.refl S k).left _) ?_
    rw [zh_left, p3]
    exact (i_nx_left (h.H k hk).1 ab (h.P.gn p p2 hg).1 p2 hg).le (Nat.zero_le _) hww
  rw [if_neg hg]
  have hrc := h.P.live p1 p2 hg
  by_cases hh : (z_pg S p).2.1 ≤ zh S k 6
  · rw [if_pos hh]
    rcases i_row_nx h.P.row hrc with ⟨w, -⟩ | ⟨y, y1, y2, y3, y4⟩
    · rw [w] at hh
      have := ab.2.1
      rw [Int32.le_iff_toInt_le] at hh
      rw [Int32.lt_iff_toInt_lt] at this
      omega
    · obtain ⟨z1, z2, -⟩ := h.P.mem y y1
      by_cases w : kv_get (z_pg S p).2.1 (z_pg S 0).1 = some (z_pg S p).2.2
      · rw [if_pos w]
        refine i_T0x h hk rfl rfl rfl (((z_oth.refl S k).sh _ _).sh _ _) ?_
        rw [zh_sh, zh_sh, y3]
        exact i_nx.le (s := 0) (e := i_w (zh S k)) (i_nx_of (s := 2) (by omega) rfl (h.H k hk).1 ab ⟨h9, y, z1, z2, rfl, by rw [← y2]; exact hh⟩) (Nat.zero_le _) hww
      · rw [if_neg w]
        refine i_T0x h hk rfl rfl rfl ((z_oth.refl S k).note _ _) ?_
        rw [zh_note, y3, y2]
        refine (i_nx_note (h.H k hk).1 ab ?_ z2 h32 y1).le (Nat.zero_le _) hww
        rcases Nat.lt_or_ge 1 y with e | e
        · exact e
        · obtain rfl : y = 1 := by omega
          rw [h.P.lo1] at y4
          have := (h.P.lge p1 p2).1
          rw [Int32.le_iff_toInt_le] at this
          rw [Int32.lt_iff_toInt_lt] at y4
          omega
  rw [if_neg hh]
  have rest : ∀ v, i_all (z_rest S k v) rc lo := fun v => by
    refine i_T0x h hk rfl rfl rfl ((z_oth.refl S k).rest _) ?_
    rw [zh_rest]
    exact (i_nx_rest v ab).le (Nat.zero_le _) (Nat.zero_le _)
  by_cases h3 : zh S k 0 = nI 3
  · rw [if_pos h3]
    exact rest _
  rw [if_neg h3]
  by_cases h4 : zh S k 0 = nI 2 ∧ kv_get (zh S k 6) (z_pg S p).1 = none
  · rw [if_pos h4]
    exact rest _
  rw [if_neg h4]
  by_cases h5 : 24 ≤ z_len S p
  · rw [if_pos h5]
    refine i_T0 h hk rfl rfl rfl ((z_oth.refl S k).sh _ _) ?_ (Or.inl ?_) ?_ ?_
    · rw [zh_sh]
      exact ⟨(h.H k hk).1, 4, by omega, rfl, ⟨p, p2, p3⟩, fun _ => ab⟩
    · rw [zh_sh, i_t_n3 (show nI 4 ≠ nI 3 by decide)]
      exact Nat.zero_le _
    · rw [zh_sh, i_s_no (show nI 4 ≠ nI 7 by decide) (show nI 4 ≠ nI 8 by decide) (show nI 4 ≠ nI 12 by decide) (show nI 4 ≠ nI 13 by decide)]
      exact Nat.zero_le _
    · rw [zh_sh]
      refine Nat.le_trans ?_ hee
      rw [i_e_w (Or.inl rfl)]
      show i_w (zh S k) + (if zh S k 9 = nI 1 ∨ zh S k 2 = nI 0 ∨ z_len S (zh S k 2).toNatClampNeg < 24 then 6 else 0) ≤ 13
      rw [hw, if_neg ?_]
      · exact Nat.le_refl _
      · rintro (w | w | w)
        · rw [h9] at w
          exact absurd w (by decide)
        · rw [p3] at w
          have := (nI_eq (a := p) (b := 0) (by omega) (by omega)).mp w
          omega
        · rw [p3, nI_clamp (n := p) (by omega)] at w
          omega
  rw [if_neg h5]
  by_cases h6 : zh S k 0 = nI 1 ∧ kv_get (zh S k 6) (z_pg S p).1 = none ∧ 40 ≤ (z_all S).length
  · rw [if_pos h6]
    exact rest _
  rw [if_neg h6]
  have hzt := h.P.W.2.2.2 p p2
  have hn := h.n
  refine i_T0 h hk rfl rfl rfl ((z_oth.refl S k).sees _ _) ?_ ?_ ?_ ?_
  · rw [zh_sees]
    refine ⟨(h.H k hk).1, 3, by omega, rfl, ⟨h9, ?_, ⟨p, p1, p2, p3, p4⟩, zt S p, hzt, rfl, hg, ?_, ?_⟩, fun _ => ab⟩
    · show zh S k 0 = nI 1 ∨ zh S k 0 = nI 2
      rcases ab.2.2 with w | w | w
      · exact Or.inl w
      · exact Or.inr w
      · exact absurd w h3
    · show zh S k 6 < (z_pg S p).2.1
      rw [Int32.lt_iff_toInt_lt]
      rw [Int32.le_iff_toInt_le] at hh
      omega
    · unfold z_len at h5
      omega
  · rw [zh_sees]
    by_cases w : zh S k 0 = nI 1 ∧ kv_get (zh S k 6) (z_pg S p).1 = none
    · right
      have e : (z_all S).length = i_K S rc := by rw [h.R.all h32, ← i_K_eq]
      have : ¬ 40 ≤ (z_all S).length := fun x => h6 ⟨w.1, w.2, x⟩
      omega
    · left
      unfold i_t
      rw [if_neg ?_]
      · exact Nat.zero_le _
      · rintro ⟨-, a, b⟩
        have b : kv_get (zh S k 6) (z_ct S.1 (nI (zt S p)).toNatClampNeg).1 = none := b
        rw [nI_clamp (n := zt S p) (by omega)] at b
        exact w ⟨a, b⟩
  · rw [zh_sees, i_s_no (show nI 3 ≠ nI 7 by decide) (show nI 3 ≠ nI 8 by decide) (show nI 3 ≠ nI 12 by decide) (show nI 3 ≠ nI 13 by decide)]
    exact Nat.zero_le _
  · rw [zh_sees]
    exact Nat.le_trans (i_e_pl (show nI 3 ≠ nI 4 by decide) (show nI 3 ≠ nI 5 by decide)) hww
theorem i_gath (h : i_all S rc lo) (hk : k < 4) (h1 : zh S k 1 = nI 4) : z_cn S k 4 ∧ c_cn S k 4 ∧ i_all (z_gath S k) rc lo := by
  obtain ⟨⟨p, p2, p3⟩, hab⟩ := (h.H k hk).at (s := 4) (by omega) h1
  have ab := hab (by omega)
  have h9 := (h.H k hk).1
  have h32 := h.P.W.2.2.1
  have hat : z_at S k = p := by unfold z_at; rw [p3, nI_clamp (n := p) (by omega)]
  refine ⟨⟨by rw [hat]; exact p2, by rw [hat]; exact p3⟩, ⟨by rw [hat]; exact p2, by rw [hat]; exact p3⟩, ?_⟩
  unfold z_gath
  rw [hat]
  by_cases hg : 0 < p ∧ z_gone S p
  · rw [if_pos hg]
    refine i_T0x h hk rfl rfl rfl ((z_oth.refl S k).go) ?_
    rw [zh_go]
    exact (i_nx_go h9 ab).le (Nat.zero_le _) (i_e_ge (by rw [h1]; decide))
  · rw [if_neg hg]
    refine i_T0x h hk rfl rfl rfl ((z_oth.refl S k).sees _ _) ?_
    rw [zh_sees]
    refine ⟨⟨h9, 5, by omega, rfl, ⟨⟨p, p2, p3⟩, zt S p, h.P.W.2.2.2 p p2, rfl, fun w g => hg ⟨?_, g⟩⟩, fun _ => ab⟩, ?_, ?_, i_t_n3 (show nI 5 ≠ nI 3 by decide)⟩
    · rcases Nat.eq_zero_or_pos p with e | e
      · exact absurd (by rw [← e]; exact p3) w
      · exact e
    · rw [i_s_no (show nI 5 ≠ nI 7 by decide) (show nI 5 ≠ nI 8 by decide) (show nI 5 ≠ nI 12 by decide) (show nI 5 ≠ nI 13 by decide)]
      exact Nat.zero_le _
    · rw [i_e_w (Or.inr rfl), i_e_w (u := zh S k) (Or.inl h1)]
      exact Nat.le_refl _
theorem i_notes (h : i_all S rc lo) (hk : k < 4) (h1 : zh S k 1 = nI 7) : z_cn S k 7 ∧ c_cn S k 7 ∧ i_all (z_notes S k) rc lo := by
  obtain ⟨⟨q, q2, q3, q4, q5⟩, hab⟩ := (h.H k hk).at (s := 7) (by omega) h1
  have ab := hab (by omega)
  have h9 := (h.H k hk).1
  have h32 := h.P.W.2.2.1
  have hww : i_w (zh S k) ≤ i_e S (zh S k) := i_e_ge (by rw [h1]; decide)
  have hs : i_s rc (zh S k) = if q ∈ rc then 0 else 2 := by rw [i_s_r (Or.inl h1), q4, nI_clamp (n := q) (by omega)]
  refine ⟨?_, trivial, ?_⟩
  · show zh S k 13 ≠ -1
    rw [q4]
    intro e
    have := congrArg Int32.toInt e
    rw [nI_toInt (n := q) (by omega)] at this
    have e2 : (-1 : Int32).toInt = -1 := by decide
    omega
  unfold z_notes
  cases e : kv_get (zh S k 12) (z_pg S 0).1 with
  | none =>
    dsimp only
    refine i_T0x h hk rfl rfl rfl ((z_oth.refl S k).sees _ _) ?_
    rw [zh_sees]
    refine ⟨⟨h9, 8, by omega, rfl, ⟨⟨q, q2, q3, q4, q5⟩, zt S 0, h.P.W.2.2.2 0 (by omega), rfl, e⟩, fun _ => ab⟩, ?_, ?_, i_t_n3 (show nI 8 ≠ nI 3 by decide)⟩
    · rw [hs, i_s_r (Or.inr rfl)]
      show (if (zh S k 13).toNatClampNeg ∈ rc then 0 else 2) ≤ _
      rw [q4, nI_clamp (n := q) (by omega)]
      exact Nat.le_refl _
    · exact Nat.le_trans (i_e_pl (show nI 8 ≠ nI 4 by decide) (show nI 8 ≠ nI 5 by decide)) hww
  | some v =>
    dsimp only
    by_cases w : v = zh S k 13
    · rw [if_pos w]
      refine i_T0x h hk rfl rfl rfl ((z_oth.refl S k).go) ?_
      rw [zh_go]
      exact (i_nx_go h9 ab).le (Nat.zero_le _) hww
    · rw [if_neg w]
      obtain ⟨y, y1, y2, y3, y4⟩ := h.P.b0 _ (kv_get_mem e)
      dsimp only at y3 y4
      refine i_T0x h hk rfl rfl rfl (((z_oth.refl S k).sh _ _).sh _ _) ?_
      rw [zh_sh, zh_sh, y3]
      have hy : y ≠ q := fun x => w (by rw [y3, q4, x])
      refine (i_nx_s12 (u := hw_U (hw_U (zh S k) 11 (nI y)) 1 (nI 12)) (v := y) h9 ab rfl ?_ y2 h32 rfl).le ?_ hww
      · rcases Nat.lt_or_ge 1 y with x | x
        · exact x
        · obtain rfl : y = 1 := by omega
          have := (h.P.lo2 q q2 q3).1
          rw [← q5, y4, h.P.lo1] at this
          exact absurd this (fun e => kv_lt_irrefl e)
      · rw [hs]
        by_cases w1 : y ∈ rc
        · rw [if_neg (fun w2 => hy (i_row_inj h.P.row w1 w2 (y4.symm.trans q5)))]
          split <;> omega
        · rw [if_neg w1]
          exact Nat.zero_le _
theorem i_look (h : i_all S rc lo) (hk : k < 4) (h1 : zh S k 1 = nI 12) : z_cn S k 12 ∧ c_cn S k 12 ∧ i_all (z_look S k) rc lo := by
  obtain ⟨⟨v, v2, v3, v4⟩, hab⟩ := (h.H k hk).at (s := 12) (by omega) h1
  have ab := hab (by omega)
  have h9 := (h.H k hk).1
  have hww : i_w (zh S k) ≤ i_e S (zh S k) := i_e_ge (by rw [h1]; decide)
  refine ⟨trivial, trivial, ?_⟩
  unfold z_look
  cases e : kv_ix (zh S k 11) (z_pg S 0).1 with
  | none =>
    dsimp only
    refine i_T0x h hk rfl rfl rfl ((z_oth.refl S k).go) ?_
    rw [zh_go]
    exact (i_nx_go h9 ab).le (Nat.zero_le _) hww
  | some b =>
    dsimp only
    refine i_T0x h hk rfl rfl rfl ((z_oth.refl S k).sees _ _) ?_
    rw [zh_sees]
    refine ⟨⟨h9, 13, by omega, rfl, ⟨⟨v, v2, v3, v4⟩, zt S 0, h.P.W.2.2.2 0 (by omega), rfl, ?_⟩, fun _ => ab⟩, ?_, ?_, i_t_n3 (show nI 13 ≠ nI 3 by decide)⟩
    · show kv_ix (zh S k 11) (z_pg S 0).1 ≠ none
      rw [e]
      exact fun x => by cases x
    · rw [i_s_v (Or.inl h1), i_s_v (Or.inr rfl)]
      exact Nat.le_refl _
    · exact Nat.le_trans (i_e_pl (show nI 13 ≠ nI 4 by decide) (show nI 13 ≠ nI 5 by decide)) hww
theorem i_lookl (h : i_all S rc lo) (hk : k < 4) (h1 : zh S k 1 = nI 10) : z_cn S k 10 ∧ c_cn S k 10 ∧ i_all (z_lookl S k) rc lo := by
  obtain ⟨⟨v, v2, v3, v4, v5⟩, hab⟩ := (h.H k hk).at (s := 10) (by omega) h1
  have ab := hab (by omega)
  have h9 := (h.H k hk).1
  have h32 := h.P.W.2.2.1
  have hww : i_w (zh S k) ≤ i_e S (zh S k) := i_e_ge (by rw [h1]; decide)
  have go : i_all (z_go S k) rc lo := by
    refine i_T0x h hk rfl rfl rfl ((z_oth.refl S k).go) ?_
    rw [zh_go]
    exact (i_nx_go h9 ab).le (Nat.zero_le _) hww
  refine ⟨trivial, ?_, ?_⟩
  · show kv_ix (zh S k 11) (z_pg S 0).1 ≠ some 0
    intro e
    obtain ⟨t, ht⟩ := h.P.b0hd
    obtain ⟨hb, e2⟩ := kv_ix_at e
    simp only [ht, List.getElem_cons_zero] at e2
    rw [v4] at e2
    have := (nI_eq (a := 1) (b := v) (by omega) (by omega)).mp e2
    omega
  unfold z_lookl
  match e : kv_ix (zh S k 11) (z_pg S 0).1 with
  | none => exact go
  | some 0 => exact go
  | some (b + 1) =>
    dsimp only
    obtain ⟨hb, e2⟩ := kv_ix_at e
    have hb0 : b < (z_pg S 0).1.length := by omega
    rw [kv_nth_at hb, kv_nth_at hb0]
    have ea : ((z_pg S 0).1[b + 1]).1 = lo v := h.P.b0p (List.getElem_mem hb) v3 (e2.trans v4)
    obtain ⟨x, x1, x2, x3, x4⟩ := h.P.b0 _ (List.getElem_mem hb0)
    have hlt : lo x < lo v := by
      rw [← x4, ← ea]
      exact List.pairwise_iff_getElem.mp h.P.b0so b (b + 1) hb0 hb (by omega)
    rw [ea, x3, nI_clamp (n := x) (by omega)]
    by_cases hg : z_gone S x
    · rw [if_pos hg]
      refine i_T0x h hk rfl rfl rfl ((z_oth.refl S k).left _) ?_
      rw [zh_left]
      exact (i_nx_left h9 ab (h.P.gn x x2 hg).1 x2 hg).le (Nat.zero_le _) hww
    rw [if_neg hg]
    have hrc := h.P.live x1 x2 hg
    by_cases w : (z_pg S x).2.1 < lo v
    · rw [if_pos w]
      rcases i_row_nx h.P.row hrc with ⟨w2, -⟩ | ⟨y, y1, y2, y3, y4⟩
      · rw [w2] at w
        exact absurd (kv_lt_trans w (h.P.lge (by omega) v3).2) (fun e => kv_lt_irrefl e)
      · refine i_T0x h hk rfl rfl rfl ((z_oth.refl S k).note _ _) ?_
        rw [zh_note, y3, y2]
        obtain ⟨z1, z2, -⟩ := h.P.mem y y1
        refine (i_nx_note h9 ab ?_ z2 h32 y1).le (Nat.zero_le _) hww
        rcases Nat.lt_or_ge 1 y with e | e
        · exact e
        · obtain rfl : y = 1 := by omega
          rw [h.P.lo1] at y4
          have := (h.P.lge x1 x2).1
          rw [Int32.le_iff_toInt_le] at this
          rw [Int32.lt_iff_toInt_lt] at y4
          omega
    rw [if_neg w]
    by_cases w2 : (z_pg S x).2.1 = lo v ∧ (z_pg S x).2.2 = zh S k 11
    · rw [if_pos w2]
      refine i_T0x h hk rfl rfl rfl ((((z_oth.refl S k).sh _ _).sh _ _).sees _ _) ?_
      rw [zh_sees, zh_sh, zh_sh]
      exact i_nx.le (s := 0) (e := i_w (zh S k)) (i_nx_of (s := 11) (by omega) rfl h9 ab ⟨⟨v, v2, v3, v4, v5, rfl⟩, ⟨x, x1, x2, rfl⟩, zt S x, h.P.W.2.2.2 x x2, rfl, hg, w2.1, w2.2⟩) (Nat.zero_le _) hww
    · rw [if_neg w2]
      refine i_T0x h hk rfl rfl rfl ((z_oth.refl S k).sh _ _) ?_
      rw [zh_sh]
      have hv : v ∉ rc := fun m => by
        have h1 := i_row_hi h.P.row hrc m hlt
        have h2 : (z_pg S x).2.1 = lo v := Int32.le_antisymm h1 (kv_nlt_le.mp w)
        rcases i_row_nx h.P.row hrc with ⟨w3, -⟩ | ⟨y, y1, y2, y3, -⟩
        · rw [w3] at h2
          have := (h.P.lge (show 1 ≤ v by omega) v3).2
          rw [← h2] at this
          exact kv_lt_irrefl this
        · have : y = v := i_row_inj h.P.row y1 m (y2.symm.trans h2)
          exact w2 ⟨h2, by rw [y3, v4, this]⟩
      refine (i_nx_s12 (u := hw_U (zh S k) 1 (nI 12)) (v := v) h9 ab rfl v2 v3 h32 v4).le ?_ hww
      rw [if_neg hv]
      exact Nat.zero_le _
end
