/-! T1: the reference: tokens -/
set_option maxRecDepth 100000
/-- the row of names told apart -/
def ml (h : ix_H) (m : Nat) (G : Nat → Int64) : ix_H := (h.1, h.2.1, h.2.2.1, (h.2.2.2.1, (fun b => if b = m + 6 then G else h.2.2.2.2.1 b), h.2.2.2.2.2))
theorem mSh_ml {h : ix_H} {m : Nat} (G : Nat → Int64) (hS : mSh h m) : mSh (ml h m G) m := hS
theorem mSp_ml {h : ix_H} {m : Nat} (G : Nat → Int64) (hP : mSp h m) : mSp (ml h m G) m := hP
theorem ml_self (h : ix_H) (m : Nat) : ml h m (ix_aL h (m + 6)) = h := by
  have e : (fun b => if b = m + 6 then ix_aL h (m + 6) else h.2.2.2.2.1 b) = h.2.2.2.2.1 := by
    funext b
    by_cases w : b = m + 6
    · rw [if_pos w, w]
      rfl
    · rw [if_neg w]
  unfold ml
  rw [e]
theorem hw_bdL {β : Type} (h : ix_H) (m : Nat) (G : Nat → Int64) (F A : Nat → Nat → Int32) (k : Nat) (v : Int64) (f : ix_H → β) : ix_bd (ix_waL (hw (ml h m G) F A) (m + 6) k v) f = f (hw (ml h m (fun j => if j = k then v else G j)) F A) := by
  have e : ix_up2 (fun b => if b = m + 6 then G else h.2.2.2.2.1 b) (m + 6) k v = fun b => if b = m + 6 then (fun j => if j = k then v else G j) else h.2.2.2.2.1 b := by
    funext b j
    unfold ix_up2
    by_cases w : b = m + 6
    · rw [if_pos w]
      by_cases w2 : j = k
      · rw [if_pos ⟨w, w2⟩, if_pos w2]
      · rw [if_neg (fun x => w2 x.2), if_neg w2]
        dsimp only
        rw [if_pos w]
    · rw [if_neg w, if_neg (fun x => w x.1)]
      dsimp only
      rw [if_neg w]
  show f (h.1, h.2.1, (F, h.2.2.1.2.1, h.2.2.1.2.2), (A, ix_up2 (fun b => if b = m + 6 then G else h.2.2.2.2.1 b) (m + 6) k v, h.2.2.2.2.2)) = _
  rw [e]
  rfl
theorem hw_cL {o : ix_O} {x : Int64} {H : ix_H} (e : o = some (.inl (some (ix_L x)), H)) (f : Int64 × ix_H → ix_O) : (ix_rL o).bind f = f (x, H) := by rw [e]; rfl
theorem tk_cmp {x y : Int64} : lg_cmp x y = nI 0 ↔ x = y := by
  unfold lg_cmp
  by_cases w : x > y
  · rw [if_pos w]
    refine ⟨fun e => absurd e (by decide), fun e => ?_⟩
    rw [e] at w
    exact absurd w (by simp)
  · rw [if_neg w]
    by_cases w2 : x = y
    · rw [if_pos w2]
      exact ⟨fun _ => w2, fun _ => rfl⟩
    · rw [if_neg w2]
      exact ⟨fun e => absurd e (by decide), fun e => absurd e w2⟩
/-- the arrays of tokens -/
def mTk (A : Nat → Nat → Int32) (m : Nat) (l : List tK) : Prop := ∀ i (h : i < l.length), i < 401 → A (m + 3) i = nI (l[i]).1 ∧ A (m + 4) i = nI (l[i]).2.1 ∧ A (m + 5) i = (l[i]).2.2.2
/-- the last number of a word that is called so -/
def tk_kf (nm : Int64) : List (List Int32) → Nat → Int32 → Int32
  | [], _, v => v
  | x :: r, i, v => tk_kf nm r (i + 1) (if tk_nm x = nm then nI (20 + i) else v)
theorem tk_kf_no {nm : Int64} : ∀ (l : List (List Int32)) i v, (∀ x ∈ l, tk_nm x ≠ nm) → tk_kf nm l i v = v
  | [], _, _, _ => rfl
  | x :: r, i, v, h => by
    unfold tk_kf
    rw [if_neg (h x List.mem_cons_self)]
    exact tk_kf_no r (i + 1) v fun y hy => h y (List.mem_cons_of_mem _ hy)
theorem tk_kf_ki {w : List Int32} (hw8 : w.length ≤ 8) (hwl : ∀ c ∈ w, tk_isL c = true) : ∀ (l : List (List Int32)) i v, (∀ x ∈ l, x.length ≤ 7 ∧ ∀ c ∈ x, tk_isL c = true) → l.Pairwise (fun a b => a ≠ b) → tk_kf (tk_nm w) l i v = match tk_ki w l i with | some j => nI (20 + j) | none => v
  | [], _, _, _, _ => rfl
  | x :: r, i, v, h, hp => by
    obtain ⟨p1, p2⟩ := List.pairwise_cons.mp hp
    have hx := h x List.mem_cons_self
    have iff : tk_nm x = tk_nm w ↔ x = w := ⟨fun e => tk_nm_inj (by omega) hw8 hx.2 hwl e, fun e => by rw [e]⟩
    unfold tk_kf tk_ki
    by_cases e : x = w
    · rw [if_pos (iff.mpr e), if_pos e]
      refine tk_kf_no r (i + 1) _ fun y hy ey => p1 y hy ?_
      have hy2 := h y (List.mem_cons_of_mem _ hy)
      rw [e]
      exact (tk_nm_inj (by omega) hw8 hy2.2 hwl ey).symm
    · rw [if_neg (fun y => e (iff.mp y)), if_neg e]
      exact tk_kf_ki hw8 hwl r (i + 1) v (fun y hy => h y (List.mem_cons_of_mem _ hy)) p2
theorem tk_kwd_pw : tk_kwd.Pairwise (fun a b => a ≠ b) := by decide +kernel
theorem tk_kf_kn {w : List Int32} (hw8 : w.length ≤ 8) (hwl : ∀ c ∈ w, tk_isL c = true) : tk_kf (tk_nm w) tk_kwd 0 (nI 1) = nI (tk_kn w) := by
  rw [tk_kf_ki hw8 hwl tk_kwd 0 (nI 1) tk_kwd_ok tk_kwd_pw]
  unfold tk_kn
  cases tk_ki w tk_kwd 0 <;> rfl
section
variable {h : ix_H} {m : Nat} {X : xS} {F A : Nat → Nat → Int32} {N : Nat} {G : Nat → Int64} {b : Nat → Int32} {n : Nat}
theorem m_isLetter (h : ix_H) (N d : Nat) (c : Int32) : ix_run iy_P N (d + 1) 247 [ix_I c] h = some (.inl (some (ix_I (if tk_isL c = true then nI 1 else nI 0))), h) := by
  rw [rX9_isLetter N d]
  unfold bX9_isLetter jX9_isLetter_8 jX9_isLetter_10 tk_isL
  by_cases w1 : c < nI 97
  · rw [if_pos w1, if_neg (by rw [decide_eq_true_iff]; exact fun w => by have := w.1; rw [Int32.le_iff_toInt_le] at this; rw [Int32.lt_iff_toInt_lt] at w1; omega), hw_okn1_0, cond_true]
  · rw [if_neg w1]
    by_cases w2 : nI 122 < c
    · rw [if_pos w2, if_neg (by rw [decide_eq_true_iff]; exact fun w => by have := w.2; rw [Int32.le_iff_toInt_le] at this; rw [Int32.lt_iff_toInt_lt] at w2; omega), hw_okn1_0, cond_true]
    · rw [if_neg w2, if_pos (by rw [decide_eq_true_iff]; exact ⟨kv_nlt_le.mp w1, kv_nlt_le.mp w2⟩), hw_okn1_1, cond_true]
theorem m_isDigit (h : ix_H) (N d : Nat) (c : Int32) : ix_run iy_P N (d + 1) 248 [ix_I c] h = some (.inl (some (ix_I (if tk_isD c = true then nI 1 else nI 0))), h) := by
  rw [rX9_isDigit N d]
  unfold bX9_isDigit jX9_isDigit_8 jX9_isDigit_10 tk_isD
  by_cases w1 : c < nI 48
  · rw [if_pos w1, if_neg (by rw [decide_eq_true_iff]; exact fun w => by have := w.1; rw [Int32.le_iff_toInt_le] at this; rw [Int32.lt_iff_toInt_lt] at w1; omega), hw_okn1_0, cond_true]
  · rw [if_neg w1]
    by_cases w2 : nI 57 < c
    · rw [if_pos w2, if_neg (by rw [decide_eq_true_iff]; exact fun w => by have := w.2; rw [Int32.le_iff_toInt_le] at this; rw [Int32.lt_iff_toInt_lt] at w2; omega), hw_okn1_0, cond_true]
    · rw [if_neg w2, if_pos (by rw [decide_eq_true_iff]; exact ⟨kv_nlt_le.mp w1, kv_nlt_le.mp w2⟩), hw_okn1_1, cond_true]
/-- the text, its size -/
def mTx (F A : Nat → Nat → Int32) (m : Nat) (b : Nat → Int32) (n : Nat) : Prop := n ≤ 2000 ∧ F m 4 = nI n ∧ (∀ k, k < n → A (m + 2) k = b k) ∧ ∀ k, -128 ≤ (b k).toInt ∧ (b k).toInt ≤ 127
theorem tk_f_by (hb : ∀ k, -128 ≤ (b k).toInt ∧ (b k).toInt ≤ 127) (i : Nat) : -128 ≤ (tk_f b n i).toInt ∧ (tk_f b n i).toInt ≤ 127 := by
  unfold tk_f
  split
  · exact hb i
  · decide
theorem m_byteAt (hP : mSp h m) (ht : mTx F A m b n) (N d : Nat) {i : Nat} (hi : i < 100000) : ix_run iy_P N (d + 1) 245 [ix_R (some m), ix_I (nI i)] (hw (ml h m G) F A) = some (.inl (some (ix_I (tk_f b n i &&& nI 255))), hw (ml h m G) F A) := by
  have hP := mSp_ml G hP
  obtain ⟨t1, t2, t3, -⟩ := ht
  rw [rX9_byteAt N d]
  unfold bX9_byteAt jX9_byteAt_12 tk_f
  rw [mq_is hP, hw_fI, t2]
  by_cases w : i < n
  · rw [if_neg (by rw [hw_le (by omega) (by omega)]; omega), if_pos w, mq_is hP, mp_rd3 hP, hw_in (by omega) (by omega), cond_true, hw_aI, hw_cl (by omega), t3 i w]
  · rw [if_pos (by rw [hw_le (by omega) (by omega)]; omega), if_neg w]
    rfl
theorem m_appends (h : ix_H) (N d : Nat) (v : Int64) (c : Int32) (hc : tk_isL c = true) : ix_run iy_P N (d + 1) 232 [ix_L v, ix_I c] h = some (.inl (some (ix_L ((27 : Int64) * v + ((c - nI 97) + nI 1).toInt64))), h) := by
  rw [rX9_appends N d]
  unfold bX9_appends jX9_appends_14
  have : c ≠ nI 0 := fun e => by rw [e] at hc; exact absurd hc (by decide)
  rw [if_neg this]
theorem tk_nm_succ (f : Nat → Int32) (k c : Nat) : tk_nm (tk_ws f k (c + 1)) = (27 : Int64) * tk_nm (tk_ws f k c) + ((f (k + c) - nI 97) + nI 1).toInt64 := by
  rw [tk_ws_succ]
  unfold tk_nm
  rw [List.foldl_append]
  rfl
theorem m_cut48 (hP : mSp h m) (ht : mTx F A m b n) (N d : Nat) {k : Nat} (hk : k < n) : ∀ j z v3, v3 + j = tk_len tk_isL (tk_f b n) n k → ix_lp (ix_run iy_P N (d + 1)) stX9_cutsUp (z + j + 1) 48 [(0, ix_R (some m)), (1, ix_I (nI k)), (3, ix_I (nI v3)), (4, ix_L (tk_nm (tk_ws (tk_f b n) k (min v3 8))))] [] (hw (ml h m G) F A) = jX9_cutsUp_76 (ix_run iy_P N (d + 1)) (ix_lp (ix_run iy_P N (d + 1)) stX9_cutsUp z) m (nI k) (nI (tk_len tk_isL (tk_f b n) n k)) (tk_nm (tk_ws (tk_f b n) k (min (tk_len tk_isL (tk_f b n) n k) 8))) (if tk_len tk_isL (tk_f b n) n k ≤ 8 then nI 1 else nI 3) (hw (ml h m G) F A) := by
  have hn := ht.1
  have hle := tk_len_le tk_isL (tk_f b n) (Nat.le_of_lt hk)
  have hend := tk_len_end (p := tk_isL) (f := tk_f b n) (Nat.le_of_lt hk) (by unfold tk_f; rw [if_neg (by omega)]; decide)
  have hin := tk_cnt_in tk_isL (tk_f b n) (n - k) k
  have hS := mSp_ml G hP
  intro j
  induction j with
  | zero =>
    intro z v3 hv
    obtain rfl : v3 = tk_len tk_isL (tk_f b n) n k := by omega
    rw [lX9_cutsUp_48]
    unfold jX9_cutsUp_48
    rw [mq_isr hS, nI_add, hw_cI (m_byteAt hP ht N d (by omega))]
    dsimp only
    rw [hw_cI (m_isLetter _ N d _)]
    dsimp only
    rw [(tk_by (tk_f_by ht.2.2.2 _)).1, if_neg hend, if_pos rfl]
    by_cases w : tk_len tk_isL (tk_f b n) n k ≤ 8
    · rw [if_pos (show nI (tk_len tk_isL (tk_f b n) n k) ≤ nI 8 by rw [hw_le (by omega) (by omega)]; exact w), if_pos w]
    · rw [if_neg (show ¬ nI (tk_len tk_isL (tk_f b n) n k) ≤ nI 8 by rw [hw_le (by omega) (by omega)]; exact w), if_neg w]
  | succ j ih =>
    intro z v3 hv
    have hl := hin v3 (by unfold tk_len at hv; omega)
    obtain ⟨b1, b2, b3, b4, b5⟩ := tk_by (tk_f_by (n := n) ht.2.2.2 (k + v3))
    rw [show z + (j + 1) + 1 = (z + j + 1) + 1 by omega, lX9_cutsUp_48]
    unfold jX9_cutsUp_48 jX9_cutsUp_67
    rw [mq_isr hS, nI_add, hw_cI (m_byteAt hP ht N d (by omega))]
    dsimp only
    rw [hw_cI (m_isLetter _ N d _)]
    dsimp only
    rw [b1, if_pos hl, if_neg (by decide), nI_add]
    by_cases w : 8 ≤ v3
    · rw [if_pos (show nI 8 ≤ nI v3 by rw [hw_le (by omega) (by omega)]; exact w)]
      have := ih z (v3 + 1) (by omega)
      rw [show min (v3 + 1) 8 = min v3 8 by omega] at this
      exact this
    · rw [if_neg (show ¬ nI 8 ≤ nI v3 by rw [hw_le (by omega) (by omega)]; exact w), mq_isr hS, hw_cI (m_byteAt hP ht N d (by omega))]
      dsimp only
      rw [b4 hl, hw_cL (m_appends _ N d _ _ hl)]
      dsimp only
      have := ih z (v3 + 1) (by omega)
      rw [show min (v3 + 1) 8 = v3 + 1 by omega, tk_nm_succ] at this
      rw [show min v3 8 = v3 by omega]
      exact this
/-- the numbers of the words -/
def mKw (h : ix_H) (m : Nat) : Prop := ∀ i (w : i < 18), ix_aL h (m + 7) i = tk_nm (tk_kwd[i]'(by rw [tk_kwd_len]; exact w))
theorem m_cut83 (hP : mSp h m) (hK : mKw h m) (cal : ix_C) (F A : Nat → Nat → Int32) (v1 v3 : Int32) (nm : Int64) : ∀ j z i v6, i + j = 18 → ix_lp cal stX9_cutsUp (z + j + 1) 83 [(0, ix_R (some m)), (1, ix_I v1), (3, ix_I v3), (4, ix_L nm), (6, ix_I v6), (7, ix_I (nI i))] [] (hw (ml h m G) F A) = jX9_cutsUp_101 cal (ix_lp cal stX9_cutsUp z) m v1 v3 nm (tk_kf nm (tk_kwd.drop i) i v6) (hw (ml h m G) F A) := by
  have hS := mSp_ml G hP
  intro j
  induction j with
  | zero =>
    intro z i v6 hi
    obtain rfl : i = 18 := by omega
    rw [lX9_cutsUp_83]
    unfold jX9_cutsUp_83
    rw [if_pos (by decide)]
    rfl
  | succ j ih =>
    intro z i v6 hi
    have hi18 : i < 18 := by omega
    rw [show z + (j + 1) + 1 = (z + j + 1) + 1 by omega, lX9_cutsUp_83]
    unfold jX9_cutsUp_83 jX9_cutsUp_98
    have ea : ix_aL (hw (ml h m G) F A) (m + 7) i = tk_nm (tk_kwd[i]'(by rw [tk_kwd_len]; exact hi18)) := by
      rw [← hK i hi18]
      show (if m + 7 = m + 6 then G else h.2.2.2.2.1 (m + 7)) i = _
      rw [if_neg (by omega)]
      rfl
    rw [if_neg (by rw [hw_le (by omega) (by omega)]; omega), mq_is hS, mp_rd9 hS, hw_in (by omega) (by omega), cond_true, hw_cl (by omega), ea, nI_add, List.drop_eq_getElem_cons (show i < tk_kwd.length by rw [tk_kwd_len]; exact hi18)]
    unfold tk_kf
    by_cases w : tk_nm (tk_kwd[i]'(by rw [tk_kwd_len]; exact hi18)) = nm
    · simp only [if_pos (tk_cmp.mpr w), if_pos w]
      rw [nI_add]
      exact ih z (i + 1) _ (by omega)
    · simp only [if_neg (fun x => w (tk_cmp.mp x)), if_neg w]
      rw [nI_add]
      exact ih z (i + 1) _ (by omega)
theorem m_token (hP : mSp h m) (N d : Nat) {q : Nat} (hq : q < 403) (hF : F m 10 = nI q) (v1 v2 v3 : Int32) (v4 : Int64) : ∃ G' A', ix_run iy_P N (d + 1) 246 [ix_R (some m), ix_I v1, ix_I v2, ix_I v3, ix_L v4] (hw (ml h m G) F A) = some (.inl none, hw (ml h m G') (hw_R F m (hw_U (F m) 10 (nI (q + 1)))) A') ∧ mQ [] [3, 4, 5] m F A F A' ∧ A' (m + 3) = hw_U (A (m + 3)) q v1 ∧ A' (m + 4) = hw_U (A (m + 4)) q v2 ∧ A' (m + 5) = hw_U (A (m + 5)) q v3 := by
  have hS := mSp_ml G hP
  rw [rX9_token N d]
  unfold bX9_token
  rw [mq_is hS, mq_is hS, mp_wr5 hS, hw_fI, hF, hw_in hq (by omega), cond_true, hw_bdA, mq_is hS, mq_is hS, mp_wr6 hS, hw_fI, hF, hw_in hq (by omega), cond_true, hw_bdA, mq_is hS, mq_is hS, mp_wr7 hS, hw_fI, hF, hw_in hq (by omega), cond_true, hw_bdA, mq_is hS, mq_is hS, mp_wr8 hS, hw_fI, hF, hw_in hq (by omega), cond_true, hw_bdL, hw_cl (by omega)]
  have hS2 := mSp_ml (fun j => if j = q then v4 else G j) hP
  rw [mq_is hS2, mq_is hS2, hw_bdF, hw_fI, hF, nI_add]
  refine ⟨_, _, rfl, (((mQ.refl [] [3, 4, 5] m F A).aR (k := 3) rfl (by omega)).aR (k := 4) rfl (by omega)).aR (k := 5) rfl (by omega), ?_, ?_, ?_⟩
  · rw [hw_R_ne _ _ (by omega), hw_R_ne _ _ (by omega), hw_R_same]
  · rw [hw_R_ne _ _ (by omega), hw_R_same, hw_R_ne _ _ (by omega)]
  · rw [hw_R_same, hw_R_ne _ _ (by omega), hw_R_ne _ _ (by omega)]
end
