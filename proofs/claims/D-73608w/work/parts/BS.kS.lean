/-! KS: the component: rounds; a whole list of tells -/
set_option maxRecDepth 100000
section
variable {h h' h2 : ix_H} {F A F' A' F2 A2 : Nat → Nat → Int32} {D : Nat → Nat} {L L' L2 : Nat → Nat → Nat} {ns ns' n2 : Nat → Nat} {Z : Nat × Nat} {W : Nat → Prop} {R Q N : Nat} {σ : xG}
/-- the method -/
theorem r_allF {k d : Nat} (hN : 3000 ≤ N) (hW : rW D Z W R Q N k (d + 5)) {n : Int32} {b : List (xT k)} {a : Nat} (ok : ∀ x ∈ b, xT_ok k x) (le : b.length ≤ 400 ∧ ∀ x ∈ b, xT_le k x) (K : rK h D L ns Z W R Q) (g : gTr h F W (k + 1) (.inr (n, b)) a) (hJ : uJ σ.1) (V : rV F A L ns R Q σ) (hr : σ.2.2.length + k ≤ 3) :
    rOJ h F A D L ns Z W R Q σ.2.2 (r_all (r_tell k) b σ) (ix_run iy_P N (d + 6) 227 [ix_R (some a), ix_R (some R)] (hw h F A)) := by
  rw [rX8_all N (d + 5)]
  unfold bX8_all
  rw [← lX8_all_2]
  exact r_allW hN hW ok le b.length 0 (N + 1) h F A L ns σ (Nat.zero_add _) (by omega) K g hJ V hr
theorem rF.q (K : rK h D L ns Z W R Q) (g : Nat → Int32) : rF h F A D L ns R Q h F (hw_R A Q g) L ns := rF.num K fun _ _ => ⟨fun _ => rfl, fun q => hw_R_ne _ _ q⟩
/-- rounds from the i-th on -/
theorem r_rdsW {k d : Nat} (hN : 3000 ≤ N) (hW : rW D Z W R Q N k (d + 5)) {n : Nat} (hn : n ≤ 99) {b : List (xT k)} {a : Nat} (ok : ∀ x ∈ b, xT_ok k x) (le : b.length ≤ 400 ∧ ∀ x ∈ b, xT_le k x) {rd : List Int32} (hr : rd.length + (k + 1) ≤ 3) : ∀ j i z h F A L ns σ, i + j = n → j < z → rK h D L ns Z W R Q → gTr h F W (k + 1) (.inr (nI n, b)) a → uJ σ.1 → (cV1 F A (L 0) σ.1 ∧ zn σ.1 ≤ ns 0 ∧ F R 2 = nI (rd.length + 1) ∧ F R 3 = σ.2.1 ∧ F R 4 = nI (zy σ.1) ∧ yQ (A Q) rd ∧ σ.2.2.tail = rd) →
    rOJ h F A D L ns Z W R Q rd ((r_rds (r_tell k) b j i σ).1, (r_rds (r_tell k) b j i σ).2.1, rd) (ix_lp (ix_run iy_P N (d + 6)) stX8_does z 8 [(0, ix_R (some a)), (1, ix_R (some R)), (2, ix_I (nI i))] [] (hw h F A)) := by
  -- the end
  have fin : ∀ (h : ix_H) (F A : Nat → Nat → Int32) (L : Nat → Nat → Nat) (ns : Nat → Nat) (σ : xG) (cal : ix_C) (KK : ix_K), rK h D L ns Z W R Q → uJ σ.1 → (cV1 F A (L 0) σ.1 ∧ zn σ.1 ≤ ns 0 ∧ F R 2 = nI (rd.length + 1) ∧ F R 3 = σ.2.1 ∧ F R 4 = nI (zy σ.1) ∧ yQ (A Q) rd ∧ σ.2.2.tail = rd) → rOJ h F A D L ns Z W R Q rd (σ.1, σ.2.1, rd) (jX8_does_27 cal KK (some R) (hw h F A)) := by
    intro h F A L ns σ cal KK K hJ V
    obtain ⟨v1, v2, v3, v4, v5, v6, v7⟩ := V
    unfold jX8_does_27
    rw [c_is K.2.1.1, c_is K.2.1.1, hw_fI, v3, hw_bdF, hw_sub (by omega)]
    refine ⟨⟨h, _, A, L, ns, rfl, K, ⟨cV1.r K v2 _ v1, v2, ?_, ?_, ?_, v6, by show rd.length ≤ 3; omega⟩, rF.r K _⟩, hJ, rfl⟩
    · rw [hw_R_same, hw_U_same, Nat.add_sub_cancel]
    · rw [hw_R_same, hw_U_ne _ _ (by omega)]
      exact v4
    · rw [hw_R_same, hw_U_ne _ _ (by omega)]
      exact v5
  intro j
  induction j with
  | zero =>
    intro i z h F A L ns σ hi hz K g hJ V
    obtain ⟨z, rfl⟩ : ∃ y, z = y + 1 := ⟨z - 1, by omega⟩
    have ta := g.2.1
    have f1 : F a 1 = nI n := g.2.2.1
    rw [lX8_does_8]
    unfold jX8_does_8
    rw [c_is ta, hw_fI, f1, if_pos (by rw [hw_le (by omega) (by omega)]; omega)]
    exact fin h F A L ns σ _ _ K hJ V
  | succ j ih =>
    intro i z h F A L ns σ hi hz K g hJ V
    obtain ⟨z, rfl⟩ : ∃ y, z = y + 1 := ⟨z - 1, by omega⟩
    have V0 := V
    obtain ⟨v1, v2, v3, v4, v5, v6, v7⟩ := V
    have ta := g.2.1
    have f1 : F a 1 = nI n := g.2.2.1
    obtain ⟨k1, k2, k3, k4, k5⟩ := K.2.1
    rw [lX8_does_8]
    unfold jX8_does_8
    rw [c_is ta, hw_fI, f1, if_neg (by rw [hw_le (by omega) (by omega)]; omega), c_isr k1 (by decide), hw_cI (r_isOver K v5 hJ.2.2.2 N (d + 5))]
    dsimp only
    by_cases ov : r_ov σ
    · have ov' : 400 ≤ zy σ.1 := ov
      rw [if_pos ov', if_neg (by decide), r_rds_ov ov]
      exact fin h F A L ns σ _ _ K hJ V0
    · have ov' : ¬ 400 ≤ zy σ.1 := ov
      have er : r_rds (r_tell k) b (j + 1) i σ = r_rds (r_tell k) b j (i + 1) (r_all (r_tell k) b (σ.1, σ.2.1, nI i :: rd)) := by
        show (if r_ov σ then σ else _) = _
        rw [if_neg ov, v7]
      rw [if_neg ov', if_pos rfl, er, c_is k1, c_is k1, hw_fR, k3, hw_fI, v3, c_at k4 k5, hw_in (by omega) (by omega), cond_true, hw_cl (by omega), hw_bdA, c_isr ta (by decide)]
      have V2 : rV F (hw_R A Q (hw_U (A Q) (rd.length + 1) (nI i))) L ns R Q (σ.1, σ.2.1, nI i :: rd) := by
        refine ⟨cV1.cells v2 (fun _ _ _ _ _ => rfl) (fun x _ _ => hw_R_ne _ _ (K.ne K.2.2.1.2 x).symm) v1, v2, v3, v4, v5, ⟨by rw [hw_R_same, hw_U_same], by rw [hw_R_same]; exact v6.up (Nat.lt_succ_self _)⟩, by show rd.length + 1 ≤ 3; omega⟩
      obtain ⟨⟨h1, F1, A1, L1, n1, e1, K1, V1, f1'⟩, J1, r1⟩ := r_allF (σ := (σ.1, σ.2.1, nI i :: rd)) hN hW ok le K g hJ V2 (by show rd.length + 1 + k ≤ 3; omega)
      have fr := (rF.q K (hw_U (A Q) (rd.length + 1) (nI i)) (F := F)).trans f1'
      have g1 := f1'.tr K g
      rw [hw_cV e1, nI_add]
      generalize r_all (r_tell k) b (σ.1, σ.2.1, nI i :: rd) = σ3 at V1 J1 r1 ⊢
      obtain ⟨u1, u2, u3, u4, u5, u6, u7⟩ := V1
      have r1 : σ3.2.2 = nI i :: rd := r1
      rw [r1] at u3 u6
      obtain ⟨o2, J2, r2⟩ := ih (i + 1) z h1 F1 A1 L1 n1 σ3 (by omega) (by omega) K1 g1 J1 ⟨u1, u2, u3, u4, u5, u6.2, by rw [r1]; rfl⟩
      exact ⟨o2.back fr, J2, r2⟩
/-- trees of each depth -/
theorem r_tellW (hN : 3000 ≤ N) (d : Nat) : ∀ k, rW D Z W R Q N k (d + 2 * k + 409)
  | 0 => fun x a h F A L ns σ K g ok le hJ hy V _ => r_leafW hN K g ok le hJ hy V d
  | k + 1 => fun x a h F A L ns σ K g ok le hJ hy V hr => by
    match x with
    | .inl l => exact r_leafW hN K g ok le hJ hy V (d + 2 * (k + 1))
    | .inr (n', b) =>
      obtain ⟨⟨n, hn, e⟩, ok⟩ := ok
      have e : n' = nI n := e
      subst e
      have hW : rW D Z W R Q N k (d + 2 * k + 404 + 5) := r_tellW hN d k
      have ta : ix_tg h a = 9 := g.2.1
      obtain ⟨v1, v2, v3, v4, v5, v6, v7⟩ := V
      refine ⟨228, 229, 0, hw_dsp rTC (q := (9, 228)) (by rw [ta]; rfl) _, ?_, hw_dsp rTD (q := (9, 229)) (by rw [ta]; rfl) _, ?_⟩
      · rw [show d + 2 * (k + 1) + 409 = d + 2 * (k + 1) + 408 + 1 by omega, rX8_counts N]
        rfl
      · have e4 : F R 4 + nI 0 = F R 4 := by rw [v5, nI_add]; rfl
        rw [e4]
        rw [show d + 2 * (k + 1) + 409 = d + 2 * k + 404 + 6 + 1 by omega, rX8_does N]
        unfold bX8_does
        rw [c_is K.2.1.1, c_is K.2.1.1, hw_fI, hw_bdF, hw_R_R, hw_R_same, ← lX8_does_8]
        have f2 : hw_U (F R) 4 (F R 4) 2 = nI σ.2.2.length := by
          rw [hw_U_ne _ _ (by omega)]
          exact v3
        have g1 : gTr h (hw_R F R (hw_U (hw_U (F R) 4 (F R 4)) 2 (hw_U (F R) 4 (F R 4) 2 + nI 1))) W (k + 1) (.inr (nI n, b)) a := (rF.r (A := A) K _).tr K g
        obtain ⟨o, J, r⟩ := r_rdsW (rd := σ.2.2) hN hW hn (fun x hx => ok x hx) le (by omega) n 0 (N + 1) h _ A L ns (σ.1, σ.2.1, nI 0 :: σ.2.2) (Nat.zero_add _) (by omega) K g1 hJ (by
          refine ⟨cV1.r K v2 _ v1, v2, ?_, ?_, ?_, v6, rfl⟩
          · rw [hw_R_same, hw_U_same, f2, nI_add]
          · rw [hw_R_same, hw_U_ne _ _ (by omega), hw_U_ne _ _ (by omega)]
            exact v4
          · rw [hw_R_same, hw_U_ne _ _ (by omega), hw_U_same]
            exact v5)
        have et : r_tell (k + 1) (.inr (nI n, b)) σ = ((r_rds (r_tell k) b n 0 (σ.1, σ.2.1, nI 0 :: σ.2.2)).1, (r_rds (r_tell k) b n 0 (σ.1, σ.2.1, nI 0 :: σ.2.2)).2.1, σ.2.2) := by
          show ((r_rds (r_tell k) b (nI n).toNatClampNeg 0 (σ.1, σ.2.1, nI 0 :: σ.2.2)).1, (r_rds (r_tell k) b (nI n).toNatClampNeg 0 (σ.1, σ.2.1, nI 0 :: σ.2.2)).2.1, σ.2.2) = _
          rw [hw_cl (by omega)]
        rw [et]
        exact ⟨o.back (rF.r K _), J, rfl⟩
end
