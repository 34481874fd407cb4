/-! NO STEP TAKES MEMORY BACK. Written by gen_mono.py -/
/-- .. and what is thrown is a Fault -/
def ix_M (h : ix_H) (fin : iy_F) : Prop := ix_sz h ≤ ix_sz fin.2 ∧ ix_sl h ≤ ix_sl fin.2 ∧ ∀ q, fin.1 = .inr q → ix_tg fin.2 q = 2
def ix_mono (st : ix_T) : Prop := ∀ (cal : ix_C) (nx bk : ix_K) (fin : iy_F), (∀ y as h r, cal y as h = some r → ix_M h r) → (∀ (s : Nat) (l : ix_S) (k : List ix_V) (h : ix_H), nx s l k h = some fin → ix_M h fin) → (∀ (s : Nat) (l : ix_S) (k : List ix_V) (h : ix_H), bk s l k h = some fin → ix_M h fin) → ∀ (l : ix_S) (k : List ix_V) (h : ix_H), st cal nx bk l k h = some fin → ix_M h fin
theorem ix_M.trans {h : ix_H} {r fin : iy_F} (h1 : ix_M h r) (h2 : ix_M r.2 fin) : ix_M h fin := ⟨Nat.le_trans h1.1 h2.1, Nat.le_trans h1.2.1 h2.2.1, h2.2.2⟩
theorem ix_cnd {α : Type} {b : Bool} {x : Option α} {r : α} (h : cond b x none = some r) : x = some r := by cases b with
  | true => exact h
  | false => cases h
theorem ix_cnd2 {α : Type} {b : Bool} {x : Option α} {r : α} (h : cond b none x = some r) : x = some r := by cases b with
  | true => cases h
  | false => exact h
theorem mo_no  : ix_mono (sx_no) := by
  intro cal nx bk fin hcal hn hb l k h hs
  cases hs
theorem mo_keep {is : List Nat} : ix_mono (sx_keep is) := by
  intro cal nx bk fin hcal hn hb l k h hs
  obtain ⟨_, _, hs⟩ := Option.bind_eq_some_iff.mp hs
  (have z := hn _ _ _ _ hs; exact z)
theorem mo_push {v : ix_V} : ix_mono (sx_push v) := by
  intro cal nx bk fin hcal hn hb l k h hs
  (have z := hn _ _ _ _ hs; exact z)
theorem mo_cst {i : Nat} : ix_mono (sx_cst i) := by
  intro cal nx bk fin hcal hn hb l k h hs
  (have z := hn _ _ _ _ hs; exact z)
theorem mo_goto {s : Nat} : ix_mono (sx_goto s) := by
  intro cal nx bk fin hcal hn hb l k h hs
  (have z := hn _ _ _ _ hs; exact z)
theorem mo_back {j : Nat} {is : List Nat} : ix_mono (sx_back j is) := by
  intro cal nx bk fin hcal hn hb l k h hs
  obtain ⟨_, _, hs⟩ := Option.bind_eq_some_iff.mp hs
  exact hb _ _ _ _ hs
theorem mo_ild {i : Nat} : ix_mono (sx_ild i) := by
  intro cal nx bk fin hcal hn hb l k h hs
  unfold sx_ild at hs
  split at hs
  · (have z := hn _ _ _ _ hs; exact z)
  · cases hs
theorem mo_lld {i : Nat} : ix_mono (sx_lld i) := by
  intro cal nx bk fin hcal hn hb l k h hs
  unfold sx_lld at hs
  split at hs
  · (have z := hn _ _ _ _ hs; exact z)
  · cases hs
theorem mo_ald {i : Nat} : ix_mono (sx_ald i) := by
  intro cal nx bk fin hcal hn hb l k h hs
  unfold sx_ald at hs
  split at hs
  · (have z := hn _ _ _ _ hs; exact z)
  · cases hs
theorem mo_ist {i : Nat} : ix_mono (sx_ist i) := by
  intro cal nx bk fin hcal hn hb l k h hs
  unfold sx_ist at hs
  split at hs
  · (have z := hn _ _ _ _ hs; exact z)
  · cases hs
theorem mo_lst {i : Nat} : ix_mono (sx_lst i) := by
  intro cal nx bk fin hcal hn hb l k h hs
  unfold sx_lst at hs
  split at hs
  · (have z := hn _ _ _ _ hs; exact z)
  · cases hs
theorem mo_ast {i : Nat} : ix_mono (sx_ast i) := by
  intro cal nx bk fin hcal hn hb l k h hs
  unfold sx_ast at hs
  split at hs
  · (have z := hn _ _ _ _ hs; exact z)
  · cases hs
theorem mo_inc {i : Nat} {v : Int32} : ix_mono (sx_inc i v) := by
  intro cal nx bk fin hcal hn hb l k h hs
  unfold sx_inc at hs
  split at hs
  · (have z := hn _ _ _ _ hs; exact z)
  · cases hs
theorem mo_bin {f : Int32 → Int32 → Int32} : ix_mono (sx_bin f) := by
  intro cal nx bk fin hcal hn hb l k h hs
  unfold sx_bin at hs
  split at hs
  · (have z := hn _ _ _ _ hs; exact z)
  · cases hs
theorem mo_un {f : Int32 → Int32} : ix_mono (sx_un f) := by
  intro cal nx bk fin hcal hn hb l k h hs
  unfold sx_un at hs
  split at hs
  · (have z := hn _ _ _ _ hs; exact z)
  · cases hs
theorem mo_lbin {f : Int64 → Int64 → Int64} : ix_mono (sx_lbin f) := by
  intro cal nx bk fin hcal hn hb l k h hs
  unfold sx_lbin at hs
  split at hs
  · (have z := hn _ _ _ _ hs; exact z)
  · cases hs
theorem mo_i2l  : ix_mono (sx_i2l) := by
  intro cal nx bk fin hcal hn hb l k h hs
  unfold sx_i2l at hs
  split at hs
  · (have z := hn _ _ _ _ hs; exact z)
  · cases hs
theorem mo_lcmp  : ix_mono (sx_lcmp) := by
  intro cal nx bk fin hcal hn hb l k h hs
  unfold sx_lcmp at hs
  split at hs
  · (have z := hn _ _ _ _ hs; exact z)
  · cases hs
theorem mo_div {f : Int32 → Int32 → Int32} : ix_mono (sx_div f) := by
  intro cal nx bk fin hcal hn hb l k h hs
  unfold sx_div at hs
  split at hs
  · split at hs
    · cases hs
    · (have z := hn _ _ _ _ hs; exact z)
  · cases hs
theorem mo_pop  : ix_mono (sx_pop) := by
  intro cal nx bk fin hcal hn hb l k h hs
  unfold sx_pop at hs
  split at hs
  · (have z := hn _ _ _ _ (ix_cnd2 hs); exact z)
  · cases hs
theorem mo_dup  : ix_mono (sx_dup) := by
  intro cal nx bk fin hcal hn hb l k h hs
  unfold sx_dup at hs
  split at hs
  · (have z := hn _ _ _ _ (ix_cnd2 hs); exact z)
  · cases hs
theorem mo_dupx1  : ix_mono (sx_dupx1) := by
  intro cal nx bk fin hcal hn hb l k h hs
  unfold sx_dupx1 at hs
  split at hs
  · (have z := hn _ _ _ _ (ix_cnd2 hs); exact z)
  · cases hs
theorem mo_dup2  : ix_mono (sx_dup2) := by
  intro cal nx bk fin hcal hn hb l k h hs
  unfold sx_dup2 at hs
  split at hs
  · (have z := hn _ _ _ _ (ix_cnd2 hs); exact z)
  · cases hs
theorem mo_ieq {s : Nat} : ix_mono (sx_ieq s) := by
  intro cal nx bk fin hcal hn hb l k h hs
  unfold sx_ieq at hs
  split at hs
  · split at hs <;> (have z := hn _ _ _ _ hs; exact z)
  · cases hs
theorem mo_ine {s : Nat} : ix_mono (sx_ine s) := by
  intro cal nx bk fin hcal hn hb l k h hs
  unfold sx_ine at hs
  split at hs
  · split at hs <;> (have z := hn _ _ _ _ hs; exact z)
  · cases hs
theorem mo_ilt {s : Nat} : ix_mono (sx_ilt s) := by
  intro cal nx bk fin hcal hn hb l k h hs
  unfold sx_ilt at hs
  split at hs
  · split at hs <;> (have z := hn _ _ _ _ hs; exact z)
  · cases hs
theorem mo_ige {s : Nat} : ix_mono (sx_ige s) := by
  intro cal nx bk fin hcal hn hb l k h hs
  unfold sx_ige at hs
  split at hs
  · split at hs <;> (have z := hn _ _ _ _ hs; exact z)
  · cases hs
theorem mo_igt {s : Nat} : ix_mono (sx_igt s) := by
  intro cal nx bk fin hcal hn hb l k h hs
  unfold sx_igt at hs
  split at hs
  · split at hs <;> (have z := hn _ _ _ _ hs; exact z)
  · cases hs
theorem mo_ile {s : Nat} : ix_mono (sx_ile s) := by
  intro cal nx bk fin hcal hn hb l k h hs
  unfold sx_ile at hs
  split at hs
  · split at hs <;> (have z := hn _ _ _ _ hs; exact z)
  · cases hs
theorem mo_ceq {s : Nat} : ix_mono (sx_ceq s) := by
  intro cal nx bk fin hcal hn hb l k h hs
  unfold sx_ceq at hs
  split at hs
  · split at hs <;> (have z := hn _ _ _ _ hs; exact z)
  · cases hs
theorem mo_cne {s : Nat} : ix_mono (sx_cne s) := by
  intro cal nx bk fin hcal hn hb l k h hs
  unfold sx_cne at hs
  split at hs
  · split at hs <;> (have z := hn _ _ _ _ hs; exact z)
  · cases hs
theorem mo_clt {s : Nat} : ix_mono (sx_clt s) := by
  intro cal nx bk fin hcal hn hb l k h hs
  unfold sx_clt at hs
  split at hs
  · split at hs <;> (have z := hn _ _ _ _ hs; exact z)
  · cases hs
theorem mo_cge {s : Nat} : ix_mono (sx_cge s) := by
  intro cal nx bk fin hcal hn hb l k h hs
  unfold sx_cge at hs
  split at hs
  · split at hs <;> (have z := hn _ _ _ _ hs; exact z)
  · cases hs
theorem mo_cgt {s : Nat} : ix_mono (sx_cgt s) := by
  intro cal nx bk fin hcal hn hb l k h hs
  unfold sx_cgt at hs
  split at hs
  · split at hs <;> (have z := hn _ _ _ _ hs; exact z)
  · cases hs
theorem mo_cle {s : Nat} : ix_mono (sx_cle s) := by
  intro cal nx bk fin hcal hn hb l k h hs
  unfold sx_cle at hs
  split at hs
  · split at hs <;> (have z := hn _ _ _ _ hs; exact z)
  · cases hs
theorem mo_aeq {s : Nat} : ix_mono (sx_aeq s) := by
  intro cal nx bk fin hcal hn hb l k h hs
  unfold sx_aeq at hs
  split at hs
  · split at hs <;> (have z := hn _ _ _ _ hs; exact z)
  · cases hs
theorem mo_ane {s : Nat} : ix_mono (sx_ane s) := by
  intro cal nx bk fin hcal hn hb l k h hs
  unfold sx_ane at hs
  split at hs
  · split at hs <;> (have z := hn _ _ _ _ hs; exact z)
  · cases hs
theorem mo_nul {s : Nat} : ix_mono (sx_nul s) := by
  intro cal nx bk fin hcal hn hb l k h hs
  unfold sx_nul at hs
  split at hs
  · split at hs <;> (have z := hn _ _ _ _ hs; exact z)
  · cases hs
theorem mo_nnul {s : Nat} : ix_mono (sx_nnul s) := by
  intro cal nx bk fin hcal hn hb l k h hs
  unfold sx_nnul at hs
  split at hs
  · split at hs <;> (have z := hn _ _ _ _ hs; exact z)
  · cases hs
theorem mo_sw {t : List (Int32 × Nat)} {s : Nat} : ix_mono (sx_sw t s) := by
  intro cal nx bk fin hcal hn hb l k h hs
  unfold sx_sw at hs
  split at hs
  · rcases ix_sw_spec hs with ⟨i, q, _, _, g3⟩ | ⟨_, g2⟩
    · exact hn _ _ _ _ g3
    · exact hn _ _ _ _ g2
  · cases hs
theorem mo_gI {c j : Nat} : ix_mono (sx_gI c j) := by
  intro cal nx bk fin hcal hn hb l k h hs
  unfold sx_gI at hs
  split at hs
  · obtain ⟨_, _, hs⟩ := Option.bind_eq_some_iff.mp hs
    (have z := hn _ _ _ _ hs; exact z)
  · cases hs
theorem mo_gL {c j : Nat} : ix_mono (sx_gL c j) := by
  intro cal nx bk fin hcal hn hb l k h hs
  unfold sx_gL at hs
  split at hs
  · obtain ⟨_, _, hs⟩ := Option.bind_eq_some_iff.mp hs
    (have z := hn _ _ _ _ hs; exact z)
  · cases hs
theorem mo_gR {c j : Nat} : ix_mono (sx_gR c j) := by
  intro cal nx bk fin hcal hn hb l k h hs
  unfold sx_gR at hs
  split at hs
  · obtain ⟨_, _, hs⟩ := Option.bind_eq_some_iff.mp hs
    (have z := hn _ _ _ _ hs; exact z)
  · cases hs
theorem mo_gIr {c j : Nat} : ix_mono (sx_gIr c j) := by
  intro cal nx bk fin hcal hn hb l k h hs
  unfold sx_gIr at hs
  split at hs
  · obtain ⟨_, _, hs⟩ := Option.bind_eq_some_iff.mp hs
    (have z := hn _ _ _ _ hs; exact z)
  · cases hs
theorem mo_gRr {c j : Nat} : ix_mono (sx_gRr c j) := by
  intro cal nx bk fin hcal hn hb l k h hs
  unfold sx_gRr at hs
  split at hs
  · obtain ⟨_, _, hs⟩ := Option.bind_eq_some_iff.mp hs
    (have z := hn _ _ _ _ hs; exact z)
  · cases hs
theorem mo_pL {c j : Nat} : ix_mono (sx_pL c j) := by
  intro cal nx bk fin hcal hn hb l k h hs
  unfold sx_pL at hs
  split at hs
  · obtain ⟨_, _, hs⟩ := Option.bind_eq_some_iff.mp hs
    (have z := hn _ _ _ _ hs; exact z)
  · cases hs
theorem mo_pR {c j : Nat} : ix_mono (sx_pR c j) := by
  intro cal nx bk fin hcal hn hb l k h hs
  unfold sx_pR at hs
  split at hs
  · obtain ⟨_, _, hs⟩ := Option.bind_eq_some_iff.mp hs
    (have z := hn _ _ _ _ hs; exact z)
  · cases hs
theorem mo_pI {c j t : Nat} : ix_mono (sx_pI c j t) := by
  intro cal nx bk fin hcal hn hb l k h hs
  unfold sx_pI at hs
  split at hs
  · obtain ⟨_, _, hs⟩ := Option.bind_eq_some_iff.mp hs
    (have z := hn _ _ _ _ (ix_cnd hs); exact z)
  · cases hs
theorem mo_alI {c : Nat} : ix_mono (sx_alI c) := by
  intro cal nx bk fin hcal hn hb l k h hs
  unfold sx_alI at hs
  split at hs
  · obtain ⟨_, _, hs⟩ := Option.bind_eq_some_iff.mp hs
    (have z := hn _ _ _ _ hs; exact z)
  · cases hs
theorem mo_alL {c : Nat} : ix_mono (sx_alL c) := by
  intro cal nx bk fin hcal hn hb l k h hs
  unfold sx_alL at hs
  split at hs
  · obtain ⟨_, _, hs⟩ := Option.bind_eq_some_iff.mp hs
    (have z := hn _ _ _ _ hs; exact z)
  · cases hs
theorem mo_alR {c : Nat} : ix_mono (sx_alR c) := by
  intro cal nx bk fin hcal hn hb l k h hs
  unfold sx_alR at hs
  split at hs
  · obtain ⟨_, _, hs⟩ := Option.bind_eq_some_iff.mp hs
    (have z := hn _ _ _ _ hs; exact z)
  · cases hs
theorem mo_asL {c : Nat} : ix_mono (sx_asL c) := by
  intro cal nx bk fin hcal hn hb l k h hs
  unfold sx_asL at hs
  split at hs
  · obtain ⟨_, _, hs⟩ := Option.bind_eq_some_iff.mp hs
    (have z := hn _ _ _ _ hs; exact z)
  · cases hs
theorem mo_len {c : Nat} : ix_mono (sx_len c) := by
  intro cal nx bk fin hcal hn hb l k h hs
  unfold sx_len at hs
  split at hs
  · obtain ⟨_, _, hs⟩ := Option.bind_eq_some_iff.mp hs
    (have z := hn _ _ _ _ hs; exact z)
  · cases hs
theorem mo_asI {c t : Nat} : ix_mono (sx_asI c t) := by
  intro cal nx bk fin hcal hn hb l k h hs
  unfold sx_asI at hs
  split at hs
  · obtain ⟨_, _, hs⟩ := Option.bind_eq_some_iff.mp hs
    (have z := hn _ _ _ _ hs; exact z)
  · cases hs
theorem mo_asR {c : Nat} {ts : List Nat} : ix_mono (sx_asR c ts) := by
  intro cal nx bk fin hcal hn hb l k h hs
  unfold sx_asR at hs
  split at hs
  · obtain ⟨_, _, hs⟩ := Option.bind_eq_some_iff.mp hs
    (have z := hn _ _ _ _ (ix_cnd hs); exact z)
  · cases hs
theorem mo_new {c n : Nat} : ix_mono (sx_new c n) := by
  intro cal nx bk fin hcal hn hb l k h hs
  have z := hn _ _ _ _ hs
  exact ⟨Nat.le_of_succ_le z.1, Nat.le_trans (Nat.le_add_right _ _) z.2.1, z.2.2⟩
theorem mo_newA {c : Nat} : ix_mono (sx_newA c) := by
  intro cal nx bk fin hcal hn hb l k h hs
  unfold sx_newA at hs
  split at hs
  · have z := hn _ _ _ _ (ix_cnd hs)
    exact ⟨Nat.le_of_succ_le z.1, Nat.le_trans (Nat.le_add_right _ _) z.2.1, z.2.2⟩
  · cases hs
theorem mo_cast {ts : List Nat} : ix_mono (sx_cast ts) := by
  intro cal nx bk fin hcal hn hb l k h hs
  unfold sx_cast at hs
  split at hs
  · (have z := hn _ _ _ _ (ix_cnd hs); exact z)
  · cases hs
theorem mo_inst {ts : List Nat} : ix_mono (sx_inst ts) := by
  intro cal nx bk fin hcal hn hb l k h hs
  unfold sx_inst at hs
  split at hs
  · (have z := hn _ _ _ _ (ix_cnd hs); exact z)
  · cases hs
theorem mo_oin  : ix_mono (sx_oin) := by
  intro cal nx bk fin hcal hn hb l k h hs
  unfold sx_oin at hs
  split at hs
  · (have z := hn _ _ _ _ (ix_cnd hs); exact z)
  · cases hs
theorem mo_gcl {c i : Nat} : ix_mono (sx_gcl c i) := by
  intro cal nx bk fin hcal hn hb l k h hs
  unfold sx_gcl at hs
  split at hs
  · obtain ⟨_, _, hs⟩ := Option.bind_eq_some_iff.mp hs
    (have z := hn _ _ _ _ (ix_cnd hs); exact z)
  · cases hs
theorem mo_cpyI {c : Nat} : ix_mono (sx_cpyI c) := by
  intro cal nx bk fin hcal hn hb l k h hs
  unfold sx_cpyI at hs
  split at hs
  · obtain ⟨_, _, hs⟩ := Option.bind_eq_some_iff.mp hs
    obtain ⟨_, _, hs⟩ := Option.bind_eq_some_iff.mp hs
    split at hs
    · (have z := hn _ _ _ _ hs; exact z)
    · cases hs
  · cases hs
theorem mo_cpyR {c : Nat} {ts : List Nat} : ix_mono (sx_cpyR c ts) := by
  intro cal nx bk fin hcal hn hb l k h hs
  unfold sx_cpyR at hs
  split at hs
  · obtain ⟨_, _, hs⟩ := Option.bind_eq_some_iff.mp hs
    obtain ⟨_, _, hs⟩ := Option.bind_eq_some_iff.mp hs
    split at hs
    · (have z := hn _ _ _ _ hs; exact z)
    · cases hs
  · cases hs
theorem mo_csI {y n : Nat} : ix_mono (sx_csI y n) := by
  intro cal nx bk fin hcal hn hb l k h hs
  obtain ⟨_, h1⟩ := ix_cut_spec hs
  obtain ⟨r, h3, h4⟩ := Option.bind_eq_some_iff.mp h1
  exact (hcal _ _ _ _ (ix_rI_spec h3)).trans (hn _ _ _ _ h4)
theorem mo_cvI {y n c : Nat} : ix_mono (sx_cvI y n c) := by
  intro cal nx bk fin hcal hn hb l k h hs
  obtain ⟨_, h1⟩ := ix_cut_spec hs
  obtain ⟨a, as2, _, _, h2⟩ := ix_obj_spec h1
  obtain ⟨r, h3, h4⟩ := Option.bind_eq_some_iff.mp h2
  exact (hcal _ _ _ _ (ix_rI_spec h3)).trans (hn _ _ _ _ h4)
theorem mo_cdI {t : List (Nat × Nat)} {n : Nat} : ix_mono (sx_cdI t n) := by
  intro cal nx bk fin hcal hn hb l k h hs
  obtain ⟨_, h1⟩ := ix_cut_spec hs
  obtain ⟨a, as2, q, _, _, _, h2⟩ := ix_dsp_spec h1
  obtain ⟨r, h3, h4⟩ := Option.bind_eq_some_iff.mp h2
  exact (hcal _ _ _ _ (ix_rI_spec h3)).trans (hn _ _ _ _ h4)
theorem mo_csL {y n : Nat} : ix_mono (sx_csL y n) := by
  intro cal nx bk fin hcal hn hb l k h hs
  obtain ⟨_, h1⟩ := ix_cut_spec hs
  obtain ⟨r, h3, h4⟩ := Option.bind_eq_some_iff.mp h1
  exact (hcal _ _ _ _ (ix_rL_spec h3)).trans (hn _ _ _ _ h4)
theorem mo_cvL {y n c : Nat} : ix_mono (sx_cvL y n c) := by
  intro cal nx bk fin hcal hn hb l k h hs
  obtain ⟨_, h1⟩ := ix_cut_spec hs
  obtain ⟨a, as2, _, _, h2⟩ := ix_obj_spec h1
  obtain ⟨r, h3, h4⟩ := Option.bind_eq_some_iff.mp h2
  exact (hcal _ _ _ _ (ix_rL_spec h3)).trans (hn _ _ _ _ h4)
theorem mo_csR {y n : Nat} : ix_mono (sx_csR y n) := by
  intro cal nx bk fin hcal hn hb l k h hs
  obtain ⟨_, h1⟩ := ix_cut_spec hs
  obtain ⟨r, h3, h4⟩ := Option.bind_eq_some_iff.mp h1
  exact (hcal _ _ _ _ (ix_rR_spec h3)).trans (hn _ _ _ _ h4)
theorem mo_cvR {y n c : Nat} : ix_mono (sx_cvR y n c) := by
  intro cal nx bk fin hcal hn hb l k h hs
  obtain ⟨_, h1⟩ := ix_cut_spec hs
  obtain ⟨a, as2, _, _, h2⟩ := ix_obj_spec h1
  obtain ⟨r, h3, h4⟩ := Option.bind_eq_some_iff.mp h2
  exact (hcal _ _ _ _ (ix_rR_spec h3)).trans (hn _ _ _ _ h4)
theorem mo_csV {y n : Nat} : ix_mono (sx_csV y n) := by
  intro cal nx bk fin hcal hn hb l k h hs
  obtain ⟨_, h1⟩ := ix_cut_spec hs
  obtain ⟨r, h3, h4⟩ := Option.bind_eq_some_iff.mp h1
  exact (hcal _ _ _ _ (ix_rV_spec h3)).trans (hn _ _ _ _ h4)
theorem mo_cvV {y n c : Nat} : ix_mono (sx_cvV y n c) := by
  intro cal nx bk fin hcal hn hb l k h hs
  obtain ⟨_, h1⟩ := ix_cut_spec hs
  obtain ⟨a, as2, _, _, h2⟩ := ix_obj_spec h1
  obtain ⟨r, h3, h4⟩ := Option.bind_eq_some_iff.mp h2
  exact (hcal _ _ _ _ (ix_rV_spec h3)).trans (hn _ _ _ _ h4)
theorem mo_cdV {t : List (Nat × Nat)} {n : Nat} : ix_mono (sx_cdV t n) := by
  intro cal nx bk fin hcal hn hb l k h hs
  obtain ⟨_, h1⟩ := ix_cut_spec hs
  obtain ⟨a, as2, q, _, _, _, h2⟩ := ix_dsp_spec h1
  obtain ⟨r, h3, h4⟩ := Option.bind_eq_some_iff.mp h2
  exact (hcal _ _ _ _ (ix_rV_spec h3)).trans (hn _ _ _ _ h4)
theorem ix_xI_spec {o : ix_O} {f : Nat → ix_H → ix_O} {g : Int32 → ix_H → ix_O} {fin : iy_F} (e : ix_xI o f g = some fin) : (∃ x h2, o = some (.inl (some (ix_I x)), h2) ∧ g x h2 = some fin) ∨ ∃ q h2, o = some (.inr q, h2) ∧ f q h2 = some fin := by
  obtain ⟨r, h1, h2⟩ := Option.bind_eq_some_iff.mp e
  obtain ⟨r1, r2⟩ := r
  dsimp only at h2
  split at h2
  · exact Or.inl ⟨_, _, h1, h2⟩
  · exact Or.inr ⟨_, _, h1, h2⟩
  · cases h2
theorem mo_cxI {y n c : Nat} : ix_mono (sx_cxI y n c) := by
  intro cal nx bk fin hcal hn hb l k h hs
  obtain ⟨_, h1⟩ := ix_cut_spec hs
  obtain ⟨a, as2, _, _, h2⟩ := ix_obj_spec h1
  rcases ix_xI_spec h2 with ⟨x, r, h3, h4⟩ | ⟨q, r, h3, h4⟩
  · exact (hcal _ _ _ _ h3).trans (hn _ _ _ _ h4)
  · cases h4
    exact hcal _ _ _ _ h3
theorem ix_xR_spec {o : ix_O} {f : Nat → ix_H → ix_O} {g : Option Nat → ix_H → ix_O} {fin : iy_F} (e : ix_xR o f g = some fin) : (∃ x h2, o = some (.inl (some (ix_R x)), h2) ∧ g x h2 = some fin) ∨ ∃ q h2, o = some (.inr q, h2) ∧ f q h2 = some fin := by
  obtain ⟨r, h1, h2⟩ := Option.bind_eq_some_iff.mp e
  obtain ⟨r1, r2⟩ := r
  dsimp only at h2
  split at h2
  · exact Or.inl ⟨_, _, h1, h2⟩
  · exact Or.inr ⟨_, _, h1, h2⟩
  · cases h2
theorem mo_cxR {y n c : Nat} : ix_mono (sx_cxR y n c) := by
  intro cal nx bk fin hcal hn hb l k h hs
  obtain ⟨_, h1⟩ := ix_cut_spec hs
  obtain ⟨a, as2, _, _, h2⟩ := ix_obj_spec h1
  rcases ix_xR_spec h2 with ⟨x, r, h3, h4⟩ | ⟨q, r, h3, h4⟩
  · exact (hcal _ _ _ _ h3).trans (hn _ _ _ _ h4)
  · cases h4
    exact hcal _ _ _ _ h3
theorem mo_chR {y n c s : Nat} : ix_mono (sx_chR y n c s) := by
  intro cal nx bk fin hcal hn hb l k h hs
  obtain ⟨_, h1⟩ := ix_cut_spec hs
  obtain ⟨a, as2, _, _, h2⟩ := ix_obj_spec h1
  rcases ix_xR_spec h2 with ⟨x, r, h3, h4⟩ | ⟨q, r, h3, h4⟩
  · exact (hcal _ _ _ _ h3).trans (hn _ _ _ _ h4)
  · exact (hcal _ _ _ _ h3).trans (hn _ _ _ _ h4)
theorem ix_xV_spec {o : ix_O} {f : Nat → ix_H → ix_O} {g : ix_H → ix_O} {fin : iy_F} (e : ix_xV o f g = some fin) : (∃ h2, o = some (.inl (none), h2) ∧ g h2 = some fin) ∨ ∃ q h2, o = some (.inr q, h2) ∧ f q h2 = some fin := by
  obtain ⟨r, h1, h2⟩ := Option.bind_eq_some_iff.mp e
  obtain ⟨r1, r2⟩ := r
  dsimp only at h2
  split at h2
  · exact Or.inl ⟨_, h1, h2⟩
  · exact Or.inr ⟨_, _, h1, h2⟩
  · cases h2
theorem mo_cxV {y n c : Nat} : ix_mono (sx_cxV y n c) := by
  intro cal nx bk fin hcal hn hb l k h hs
  obtain ⟨_, h1⟩ := ix_cut_spec hs
  obtain ⟨a, as2, _, _, h2⟩ := ix_obj_spec h1
  rcases ix_xV_spec h2 with ⟨r, h3, h4⟩ | ⟨q, r, h3, h4⟩
  · exact (hcal _ _ _ _ h3).trans (hn _ _ _ _ h4)
  · cases h4
    exact hcal _ _ _ _ h3
theorem mo_thr  : ix_mono (sx_thr 2) := by
  intro cal nx bk fin hcal hn hb l k h hs
  unfold sx_thr at hs
  split at hs
  · obtain ⟨a, ha, h2⟩ := Option.bind_eq_some_iff.mp hs
    obtain ⟨_, htg⟩ := ix_is_spec ha
    cases h2
    exact ⟨Nat.le_refl _, Nat.le_refl _, fun q hq => by cases hq; exact htg⟩
  · cases hs
theorem mo_ret  : ix_mono (sx_ret) := by
  intro cal nx bk fin hcal hn hb l k h hs
  unfold sx_ret at hs
  split at hs
  · cases hs
    exact ⟨Nat.le_refl _, Nat.le_refl _, fun q hq => by cases hq⟩
  · cases hs
theorem mo_iret {t : Nat} : ix_mono (sx_iret t) := by
  intro cal nx bk fin hcal hn hb l k h hs
  unfold sx_iret at hs
  split at hs
  · have hs := ix_cnd hs
    cases hs
    exact ⟨Nat.le_refl _, Nat.le_refl _, fun q hq => by cases hq⟩
  · cases hs
theorem mo_lret  : ix_mono (sx_lret) := by
  intro cal nx bk fin hcal hn hb l k h hs
  unfold sx_lret at hs
  split at hs
  · cases hs
    exact ⟨Nat.le_refl _, Nat.le_refl _, fun q hq => by cases hq⟩
  · cases hs
theorem mo_aret  : ix_mono (sx_aret) := by
  intro cal nx bk fin hcal hn hb l k h hs
  unfold sx_aret at hs
  split at hs
  · cases hs
    exact ⟨Nat.le_refl _, Nat.le_refl _, fun q hq => by cases hq⟩
  · cases hs
