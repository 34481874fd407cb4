/-! KG: the component: tells as trees; a tell that is no rounds, whole -/
set_option maxRecDepth 100000
def gFa {α : Type} (P : α → Nat → Prop) : List α → List Nat → Prop
  | [], [] => True
  | a :: l, x :: xs => P a x ∧ gFa P l xs
  | _, _ => False
theorem gFa.snoc {α : Type} {P : α → Nat → Prop} {a : α} {x : Nat} (hx : P a x) : ∀ {l : List α} {xs : List Nat}, gFa P l xs → gFa P (l ++ [a]) (xs ++ [x])
  | [], [], _ => ⟨hx, trivial⟩
  | _ :: _, _ :: _, h => ⟨h.1, gFa.snoc hx h.2⟩
  | [], _ :: _, h => h.elim
  | _ :: _, [], h => h.elim
theorem gFa.mono {α : Type} {P Q : α → Nat → Prop} (hPQ : ∀ a x, P a x → Q a x) : ∀ {l : List α} {xs : List Nat}, gFa P l xs → gFa Q l xs
  | [], [], _ => trivial
  | _ :: _, _ :: _, h => ⟨hPQ _ _ h.1, gFa.mono hPQ h.2⟩
  | [], _ :: _, h => h.elim
  | _ :: _, [], h => h.elim
theorem gFa.len {α : Type} {P : α → Nat → Prop} : ∀ {l : List α} {xs : List Nat}, gFa P l xs → xs.length = l.length
  | [], [], _ => rfl
  | _ :: _, _ :: _, h => by
    simp only [List.length_cons]
    rw [gFa.len h.2]
  | [], _ :: _, h => h.elim
  | _ :: _, [], h => h.elim
theorem gFa.all {α : Type} {P : α → Nat → Prop} {Q : Nat → Prop} (hPQ : ∀ a x, P a x → Q x) : ∀ {l : List α} {xs : List Nat}, gFa P l xs → ∀ x ∈ xs, Q x
  | [], [], _, x, hx => absurd hx List.not_mem_nil
  | _ :: _, _ :: _, h, x, hx => by
    rcases List.mem_cons.mp hx with e | hx
    · rw [e]
      exact hPQ _ _ h.1
    · exact gFa.all hPQ h.2 x hx
  | [], _ :: _, h, _, _ => h.elim
  | _ :: _, [], h, _, _ => h.elim
/-- cell a is a tell's tree -/
def gTr (h : ix_H) (F : Nat → Nat → Int32) (W : Nat → Prop) : (d : Nat) → xT d → Nat → Prop
  | 0, l, a => gL h F W l a
  | _ + 1, .inl l, a => gL h F W l a
  | d + 1, .inr b, a => W a ∧ ix_tg h a = 9 ∧ F a 1 = b.1 ∧ ∃ ls ar xs, ix_fR h a 0 = some ls ∧ W ls ∧ (ix_tg h ar = 115 → W ar) ∧ gA h F ls ar xs ∧ gFa (gTr h F W d) b.2 xs
theorem gL.e {h : ix_H} {F : Nat → Nat → Int32} {W : Nat → Prop} {l : xL} {a : Nat} (g : gL h F W l a) : gE h a ∧ W a := by
  obtain ⟨g0, g⟩ := g
  refine ⟨?_, g0⟩
  rcases g with ⟨-, g, -⟩ | ⟨-, g, -⟩ | ⟨-, g⟩
  · exact .inl g
  · exact .inr (.inl g)
  · exact .inr (.inr (.inl g))
theorem gTr.e {h : ix_H} {F : Nat → Nat → Int32} {W : Nat → Prop} {a : Nat} : ∀ {d : Nat} {x : xT d}, gTr h F W d x a → gE h a ∧ W a
  | 0, _, g => gL.e g
  | _ + 1, .inl _, g => gL.e g
  | _ + 1, .inr _, g => ⟨.inr (.inr (.inr g.2.1)), g.1⟩
theorem gTr.of {h h' : ix_H} {F F' : Nat → Nat → Int32} {W W' : Nat → Prop} (hW : ∀ b, W b → W' b ∧ ix_tg h' b = ix_tg h b ∧ ix_ln h' b = ix_ln h b ∧ ix_fR h' b = ix_fR h b ∧ ix_aR h' b = ix_aR h b ∧ F' b = F b) (hc : ix_cs h' = ix_cs h) (h40 : ix_tg h' (ix_cs h 40) = ix_tg h (ix_cs h 40) ∧ ix_ln h' (ix_cs h 40) = ix_ln h (ix_cs h 40)) : ∀ {d : Nat} {x : xT d} {a : Nat}, gTr h F W d x a → gTr h' F' W' d x a
  | 0, _, _, g => gL.of (fun b hb => by obtain ⟨a1, a2, a3, a4, a5, a6⟩ := hW b hb; exact ⟨a1, a2, a4, a6⟩) g
  | _ + 1, .inl _, _, g => gL.of (fun b hb => by obtain ⟨a1, a2, a3, a4, a5, a6⟩ := hW b hb; exact ⟨a1, a2, a4, a6⟩) g
  | d + 1, .inr b, a, g => by
    obtain ⟨g1, g2, g3, ls, ar, xs, g4, g5, g6, ⟨l1, l2, l3, l4⟩, g8⟩ := g
    obtain ⟨w1, w2, w3, w4, w5, w6⟩ := hW a g1
    obtain ⟨v1, v2, v3, v4, v5, v6⟩ := hW ls g5
    refine ⟨w1, by rw [w2]; exact g2, by rw [w6]; exact g3, ls, ar, xs, by rw [w4]; exact g4, v1, ?_, ⟨by rw [v2]; exact l1, by rw [v4]; exact l2, by rw [v6]; exact l3, ?_⟩, g8.mono fun a x hx => gTr.of hW hc h40 hx⟩
    · rcases l4 with ⟨a1, a2, a3, a4⟩ | ⟨a1, a2⟩
      · intro q
        rw [a2, h40.1, ← a2, a3] at q
        exact absurd q (by decide)
      · intro q
        exact (hW ar (g6 a1)).1
    · rcases l4 with ⟨a1, a2, a3, a4⟩ | ⟨a1, a2, a3, a4, a5⟩
      · exact .inl ⟨a1, by rw [hc]; exact a2, by rw [a2, h40.1, ← a2]; exact a3, by rw [a2, h40.2, ← a2]; exact a4⟩
      · obtain ⟨u1, u2, u3, u4, u5, u6⟩ := hW ar (g6 a1)
        exact .inr ⟨by rw [u2]; exact a1, by rw [u3]; exact a2, by rw [u3]; exact a3, by rw [u3]; exact a4, fun i hi => by rw [u5]; exact a5 i hi⟩
def x_lfT : (d : Nat) → xL → xT d
  | 0, l => l
  | _ + 1, l => .inl l
theorem gTr.lf {h : ix_H} {F : Nat → Nat → Int32} {W : Nat → Prop} {l : xL} {a : Nat} (g : gL h F W l a) : ∀ d, gTr h F W d (x_lfT d l) a
  | 0 => g
  | _ + 1 => g
/-- what a tell's reading leaves -/
def gTo (D cv : Nat → Nat) (tk : Nat → tK) (e wi : Nat) (h0 : ix_H) (F0 A0 : Nat → Nat → Int32) (t : Nat) (out : ix_O) (d : Nat) (r : xR (xT d × Option Nat)) : Prop := match r with
  | .inl a => gFl D h0 F0 A0 tk t a 60 out
  | .inr a => t + 2 ≤ a.2 ∧ ∃ h' F' A' x k, out = some (.inl (some (ix_R (some x))), hw h' F' A') ∧ gT h' F' A' D cv tk e a.2 0 wi a.1.2 ∧ k + 100 ≤ 80 * (a.2 - t) ∧ gO D h0 F0 A0 h' F' A' k ∧ gTr h' F' (rg (ix_sz h0) (ix_sz h')) d a.1.1 x
section
variable {h : ix_H} {F A : Nat → Nat → Int32} {D cv : Nat → Nat} {tk : Nat → tK} {e t op wi N : Nat} {w : Option Nat}
/-- the semicolon behind a tell that is no rounds -/
theorem k_107 {h0 : ix_H} {F0 A0 : Nat → Nat → Int32} {out : ix_O} {n k : Nat} {r : xR (xL × Option Nat)} {B : Nat} (hB : B ≤ 20) (hD : ∀ j, j < 19 → D j < ix_sz h0) (o : gLo D cv tk e wi h0 F0 A0 t out r B) (K : ix_K) : gTo D cv tk e wi h0 F0 A0 t (ix_xR out ix_out fun r12 h14 => jX3_told_107 (ix_run iy_P N (n + 8)) K (D 3) r12 h14) k (x_bd r fun l t1 => x_bd (x_must tk 4 t1) fun _ t2 => .inr ((x_lfT k l.1, l.2), t2)) := by
  cases r with
  | inl a =>
    obtain ⟨o1, h', F', A', o2, o3, o4, o5⟩ := o
    exact ⟨o1, h', F', A', by rw [o2]; rfl, o3, o4, o5.mono (by omega)⟩
  | inr a =>
    obtain ⟨⟨l, w'⟩, t1⟩ := a
    obtain ⟨o1, h1, F1, A1, x, o2, T1, g1, L1⟩ := o
    have o1 : t < t1 := o1
    have T1 : gT h1 F1 A1 D cv tk e t1 0 wi w' := T1
    have t4 := T1.2.2.2.1.2.1
    have es := k_signE T1 N (n + 3) (k := 4) (by decide)
    rw [show k_wh 4 = nI 59 from rfl] at es
    rw [o2, ok_xR]
    unfold jX3_told_107
    rw [k_isr3 T1.1, es]
    show gTo D cv tk e wi h0 F0 A0 t _ k (x_bd (x_must tk 4 t1) fun _ t2 => .inr ((x_lfT k l, w'), t2))
    unfold x_must x_pas
    by_cases c : x_kd tk t1 = 4
    · rw [if_pos c, if_pos c]
      by_cases c4 : t1 = 400
      · rw [if_pos c4, if_pos c4, oF_xV]
        exact oF.fl g1 (by omega) (by show 2 * (t1 - t) + B ≤ _; omega)
      · rw [if_neg c4, if_neg c4, ok_xV]
        have T2 := T1.pass (by omega) (by omega) (by omega)
        refine ⟨by show t + 2 ≤ t1 + 1; omega, h1, _, A1, x, 2 * (t1 - t) + B, rfl, T2, by show _ ≤ 80 * (t1 + 1 - t); omega, g1.fR (.inr (.inr rfl)) _, gTr.lf (L1.of fun b hb => ⟨hb, rfl, rfl, ?_⟩) k⟩
        have := hb.1
        have d3 := hD 3 (by omega)
        exact hw_R_ne _ _ (by omega)
    · rw [if_neg c, if_neg c, oF_xV]
      exact oF.fl g1 (by omega) (by show 2 * (t1 - t) + B ≤ _; omega)
theorem x_one_act (h23 : x_kd tk t ≠ 23) (h24 : x_kd tk t ≠ 24) (h25 : x_kd tk t ≠ 25) (h26 : x_kd tk t ≠ 26) (h27 : x_kd tk t ≠ 27) : x_one tk t w = x_bd (x_act tk (-1) t) fun l t1 => .inr ((l, w), t1) := by
  unfold x_one
  rw [if_neg h23, if_neg h24, if_neg h25, if_neg h26, if_neg h27]
theorem x_act_no {hd : Int32} (h30 : x_kd tk t ≠ 30) (h31 : x_kd tk t ≠ 31) : x_act tk hd t = .inl (1, t) := by
  unfold x_act
  rw [if_neg h30, if_neg h31]
theorem k_ti_v : ∀ k, k ≤ 37 → (k_ti k = nI 0 ↔ k = 30) ∧ (k_ti k = nI 1 ↔ k = 31) ∧ (k_ti k = nI 2 ↔ k = 23) ∧ (k_ti k = nI 3 ↔ k = 24) ∧ (k_ti k = nI 4 ↔ k = 25) ∧ (k_ti k = nI 5 ↔ k = 26) ∧ (k_ti k = nI 6 ↔ k = 27) ∧ (k_ti k = nI 7 ↔ k = 28) := by decide
/-- a tell that is no rounds -/
theorem k_toldL {d k : Nat} (hN : 1000 ≤ N) (T : gT h F A D cv tk e t 0 wi w) (h28 : x_kd tk t ≠ 28) : gTo D cv tk e wi h F A t (ix_run iy_P N (d + 32) 161 [ix_R (some (D 3))] (hw h F A)) k (x_bd (x_one tk t w) fun l t1 => x_bd (x_must tk 4 t1) fun _ t2 => .inr ((x_lfT k l.1, l.2), t2)) := by
  have hs := T.1
  obtain ⟨k1, k2, k3, k4, k5, k6, k7⟩ := T.row
  have so := k_so_5 _ k7
  have hU : ∀ m w, uWk D cv tk e wi w N 163 (x_term tk) 0 (d + m + 29) := fun m w => k_termW hN (d + m)
  rw [rX3_told N (d + 31)]
  by_cases c20 : 20 ≤ x_kd tk t
  · obtain ⟨h1, F1, A1, e1, gn⟩ := k_toldS T c20 hN (d + 24) (ix_lp (ix_run iy_P N (d + 31)) stX3_told N)
    have T1 := T.ofN gn
    have g1 := gn.o D
    have e1 : bX3_told (ix_run iy_P N (d + 31)) (ix_lp (ix_run iy_P N (d + 31)) stX3_told N) (D 3) (hw h F A) = jX3_told_74 (ix_run iy_P N (d + 31)) (ix_lp (ix_run iy_P N (d + 31)) stX3_told N) (D 3) (k_ti (x_kd tk t)) (hw h1 F1 A1) := e1
    rw [e1]
    generalize ix_lp (ix_run iy_P N (d + 31)) stX3_told N = K
    obtain ⟨i0, i1, i2, i3, i4, i5, i6, i7⟩ := k_ti_v _ k7
    have lt := hs.2.2.2.2
    have fin : ∀ (out : ix_O), gLo D cv tk e wi h1 F1 A1 t out (x_one tk t w) 5 → gTo D cv tk e wi h F A t (ix_xR out ix_out fun r12 h14 => jX3_told_107 (ix_run iy_P N (d + 31)) K (D 3) r12 h14) k (x_bd (x_one tk t w) fun l t1 => x_bd (x_must tk 4 t1) fun _ t2 => .inr ((x_lfT k l.1, l.2), t2)) := fun out o => k_107 (n := d + 23) (B := 9) (by omega) lt (gLo.back g1 (Nat.le_refl t) (by omega) o) K
    unfold jX3_told_74 jX3_told_77
    by_cases c30 : x_kd tk t = 30 ∨ x_kd tk t = 31
    · have ea : gLo D cv tk e wi h1 F1 A1 t (ix_run iy_P N (d + 31) 162 [ix_R (some (D 3)), ix_I (nI 0), ix_I (nI 1)] (hw h1 F1 A1)) (x_one tk t w) 5 := by
        rw [x_one_act (by omega) (by omega) (by omega) (by omega) (by omega)]
        exact k_actW (n := d + 22) (hd := -1) hN (fun w => hU 1 w) T1 hw_okn1_1 (by decide) (by decide)
      rcases c30 with c | c
      · rw [if_pos (i0.mpr c), k_isr3 T1.1]
        exact fin _ ea
      · rw [if_neg (fun q => by have := i0.mp q; omega), if_pos (i1.mpr c), k_isr3 T1.1]
        exact fin _ ea
    · rw [if_neg (fun q => c30 (.inl (i0.mp q))), if_neg (fun q => c30 (.inr (i1.mp q)))]
      by_cases c23 : x_kd tk t = 23
      · rw [if_pos (i2.mpr c23), k_isr3 T1.1]
        exact fin _ (k_beginW (n := d + 21) hN (fun w => hU 0 w) T1 c23)
      · rw [if_neg (fun q => c23 (i2.mp q))]
        by_cases c24 : x_kd tk t = 24
        · rw [if_pos (i3.mpr c24), k_isr3 T1.1]
          exact fin _ (k_getW (n := d + 22) hN (fun w => hU 1 w) T1 c24)
        · rw [if_neg (fun q => c24 (i3.mp q))]
          by_cases c25 : x_kd tk t = 25
          · rw [if_pos (i4.mpr c25), k_isr3 T1.1]
            exact fin _ (k_goW (n := d + 22) (b := 0) hN T1 c25 (by omega))
          · rw [if_neg (fun q => c25 (i4.mp q))]
            by_cases c26 : x_kd tk t = 26
            · rw [if_pos (i5.mpr c26), k_isr3 T1.1]
              exact fin _ (k_goW (n := d + 22) (b := 1) hN T1 c26 (by omega))
            · rw [if_neg (fun q => c26 (i5.mp q))]
              by_cases c27 : x_kd tk t = 27
              · rw [if_pos (i6.mpr c27), k_isr3 T1.1]
                exact fin _ (k_sweepW (n := d + 22) T1 c27)
              · rw [if_neg (fun q => c27 (i6.mp q)), if_neg (fun q => h28 (i7.mp q)), x_one_act c23 c24 c25 c26 c27, x_act_no (fun q => c30 (.inl q)) (fun q => c30 (.inr q)), k_isr3 T1.1, k_thrE T1 N (d + 28) 1]
                exact oF.fl g1 (Nat.le_refl t) (by omega)
  · rw [x_one_act (by omega) (by omega) (by omega) (by omega) (by omega), x_act_no (by omega) (by omega)]
    unfold bX3_told
    rw [k_isr3 hs, k_sortE T N (d + 27)]
    by_cases c3 : x_kd tk t = 3
    · rw [if_pos c3, oF_xI]
      exact oF.fl (gO.refl D h F A) (Nat.le_refl t) (by omega)
    · rw [if_neg c3, ok_xI, if_neg (fun q => c20 (so.2.2.1.mp q)), k_isr3 hs, k_thrE T N (d + 28) 1]
      exact oF.fl (gO.refl D h F A) (Nat.le_refl t) (by omega)
end
