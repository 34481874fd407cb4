/-! KW: the component: a new store -/
set_option maxRecDepth 100000
/-- object o is laid on: other old cells stay; k new cells, c slots -/
def gV (o : Nat) (h : ix_H) (F A : Nat → Nat → Int32) (h' : ix_H) (F' A' : Nat → Nat → Int32) (k c : Nat) : Prop :=
  ix_sz h' = ix_sz h + k ∧ ix_sl h' = ix_sl h + c ∧ ix_cs h' = ix_cs h ∧
  ∀ b, b < ix_sz h → ix_tg h' b = ix_tg h b ∧ ix_ln h' b = ix_ln h b ∧ ix_fL h' b = ix_fL h b ∧ ix_aL h' b = ix_aL h b ∧ ix_aR h' b = ix_aR h b ∧ A' b = A b ∧ (b ≠ o → F' b = F b ∧ ix_fR h' b = ix_fR h b)
section
variable {o : Nat} {h h' h2 : ix_H} {F A F' A' F2 A2 : Nat → Nat → Int32} {k c k2 c2 N T t n j : Nat}
theorem gV.refl (o : Nat) (h : ix_H) (F A : Nat → Nat → Int32) : gV o h F A h F A 0 0 := ⟨rfl, rfl, rfl, fun _ _ => ⟨rfl, rfl, rfl, rfl, rfl, rfl, fun _ => ⟨rfl, rfl⟩⟩⟩
theorem gV.trans (g : gV o h F A h' F' A' k c) (g2 : gV o h' F' A' h2 F2 A2 k2 c2) : gV o h F A h2 F2 A2 (k + k2) (c + c2) := by
  obtain ⟨a1, a2, a3, a4⟩ := g
  obtain ⟨b1, b2, b3, b4⟩ := g2
  refine ⟨by omega, by omega, b3.trans a3, fun b hb => ?_⟩
  obtain ⟨c1, c2, c3, c4, c5, c6, c7⟩ := a4 b hb
  obtain ⟨d1, d2, d3, d4, d5, d6, d7⟩ := b4 b (by omega)
  exact ⟨d1.trans c1, d2.trans c2, d3.trans c3, d4.trans c4, d5.trans c5, d6.trans c6, fun w => ⟨(d7 w).1.trans (c7 w).1, (d7 w).2.trans (c7 w).2⟩⟩
/-- an array in field j -/
def vA (h : ix_H) (o t n j : Nat) : ix_H := ix_wfR (ix_nwA h t n) o j (some (ix_sz h))
theorem v_arr (ho : o < ix_sz h) (t n j : Nat) : gV o h F A (vA h o t n j) F (hw_R A (ix_sz h) (fun _ => 0)) 1 n ∧ ix_fR (vA h o t n j) o j = some (ix_sz h) ∧ (∀ i, i ≠ j → ix_fR (vA h o t n j) o i = ix_fR h o i) ∧ ix_tg (vA h o t n j) (ix_sz h) = t ∧ ix_ln (vA h o t n j) (ix_sz h) = n ∧ ∀ r, ix_aR (vA h o t n j) (ix_sz h) r = none := by
  refine ⟨⟨rfl, rfl, rfl, fun b hb => ?_⟩, s_fRf _ _ _ _, fun i hi => s_fRf' _ _ _ _ (fun q => hi q.2), if_pos rfl, if_pos rfl, fun r => if_pos rfl⟩
  have ne : b ≠ ix_sz h := by omega
  refine ⟨if_neg ne, if_neg ne, rfl, ?_, ?_, hw_R_ne _ _ ne, fun w => ⟨rfl, ?_⟩⟩
  · funext r
    exact if_neg ne
  · funext r
    exact if_neg ne
  · funext r
    exact s_fRf' _ _ _ _ (fun q => w q.1)
theorem v_arrS (ht : ix_tg h o = T) (ho : o < ix_sz h) (hn : n < 1000001) (t j : Nat) (f : ix_H → ix_O) : (cond (ix_in (nI n) 1000001) (ix_bd (ix_nwA (hw h F A) t (nI n).toNatClampNeg) fun h2 => (ix_is h2 T (some o)).bind fun a3 => ix_bd (ix_wfR h2 a3 j (some (ix_sz (hw h F A)))) f) none) = f (hw (vA h o t n j) F (hw_R A (ix_sz h) (fun _ => 0))) := by
  have ne : o ≠ ix_sz h := by omega
  have t1 : ix_tg (ix_nwA h t n) o = T := (if_neg ne).trans ht
  rw [hw_in hn (by omega), cond_true, hw_bA, hw_cl (by omega), c_is t1, hw_sz, hw_bfR]
  rfl
/-- a record in field j -/
def vR (h : ix_H) (o j : Nat) : ix_H := ix_wfR (c_ini (ix_nwO h 6 12) (ix_sz h)) o j (some (ix_sz h))
def vRA (h : ix_H) (A : Nat → Nat → Int32) : Nat → Nat → Int32 := hw_R (hw_R A (ix_sz h + 1) (fun _ => 0)) (ix_sz h + 2) (fun _ => 0)
theorem v_rec (ho : o < ix_sz h) (j : Nat) : gV o h F A (vR h o j) (hw_R F (ix_sz h) (fun _ => 0)) (vRA h A) 3 100 ∧ ix_fR (vR h o j) o j = some (ix_sz h) ∧ (∀ i, i ≠ j → ix_fR (vR h o j) o i = ix_fR h o i) ∧ cR (vR h o j) (ix_sz h) (ix_sz h + 1) (ix_sz h + 2) := by
  have z1 : ix_sz (ix_nwO h 6 12) = ix_sz h + 1 := rfl
  have ef : ∀ b i, ix_fR (vR h o j) b i = if b = o ∧ i = j then some (ix_sz h) else if b = ix_sz h ∧ i = 1 then some (ix_sz h + 1 + 1) else if b = ix_sz h ∧ i = 0 then some (ix_sz h + 1) else if b = ix_sz h then none else ix_fR h b i := fun b i => rfl
  have et : ∀ b, ix_tg (vR h o j) b = if b = ix_sz h + 1 + 1 then 101 else if b = ix_sz h + 1 then 101 else if b = ix_sz h then 6 else ix_tg h b := fun b => rfl
  have el : ∀ b, ix_ln (vR h o j) b = if b = ix_sz h + 1 + 1 then 44 else if b = ix_sz h + 1 then 44 else ix_ln h b := fun b => rfl
  refine ⟨⟨rfl, rfl, rfl, fun b hb => ⟨?_, ?_, ?_, ?_, ?_, ?_, fun w => ⟨hw_R_ne _ _ (by omega), ?_⟩⟩⟩, s_fRf _ _ _ _, fun i hi => ?_, ?_⟩
  · rw [et, if_neg (by omega), if_neg (by omega), if_neg (by omega)]
  · rw [el, if_neg (by omega), if_neg (by omega)]
  · have ne : b ≠ ix_sz h := by omega
    funext r
    exact if_neg ne
  · funext r
    show (if b = ix_sz h + 1 + 1 then _ else if b = ix_sz h + 1 then _ else ix_aL h b r) = _
    rw [if_neg (by omega), if_neg (by omega)]
  · funext r
    show (if b = ix_sz h + 1 + 1 then _ else if b = ix_sz h + 1 then _ else ix_aR h b r) = _
    rw [if_neg (by omega), if_neg (by omega)]
  · exact (hw_R_ne _ _ (by omega)).trans (hw_R_ne _ _ (by omega))
  · funext r
    rw [ef, if_neg (fun q => w q.1), if_neg (by omega), if_neg (by omega), if_neg (by omega)]
  · rw [ef, if_neg (fun q => hi q.2), if_neg (by omega), if_neg (by omega), if_neg (by omega)]
  · refine ⟨?_, ?_, ?_, ?_, ?_, ?_, ?_, by omega⟩
    · rw [et, if_neg (by omega), if_neg (by omega), if_pos rfl]
    · rw [ef, if_neg (by omega), if_neg (by omega), if_pos ⟨rfl, rfl⟩]
    · rw [ef, if_neg (by omega), if_pos ⟨rfl, rfl⟩]
    · rw [et, if_neg (by omega), if_pos rfl]
    · rw [et, if_pos rfl]
    · rw [el, if_neg (by omega), if_pos rfl]
    · rw [el, if_pos rfl]
theorem v_recS (ht : ix_tg h o = T) (ho : o < ix_sz h) (N d j : Nat) (f : ix_H → ix_O) : (ix_bd (ix_nwO (hw h F A) 6 12) fun h11 => (ix_isr h11 6 (some (ix_sz (hw h F A)))).bind fun a13 => (ix_rV (ix_run iy_P N (d + 1) 207 [ix_R (some a13)] h11)).bind fun r12 => (ix_is r12 T (some o)).bind fun a14 => ix_bd (ix_wfR r12 a14 j (some (ix_sz (hw h F A)))) f) = f (hw (vR h o j) (hw_R F (ix_sz h) (fun _ => 0)) (vRA h A)) := by
  have t1 : ix_tg (ix_nwO h 6 12) (ix_sz h) = 6 := s_tgO h 6 12
  have t2 : ix_tg (c_ini (ix_nwO h 6 12) (ix_sz h)) o = T := by
    show (if o = ix_sz h + 1 + 1 then 101 else if o = ix_sz h + 1 then 101 else if o = ix_sz h then 6 else ix_tg h o) = T
    rw [if_neg (by omega), if_neg (by omega), if_neg (by omega)]
    exact ht
  rw [hw_bO, hw_sz, c_isr t1 (by decide), hw_cV (c_init t1 (by show ix_sz h < ix_sz h + 1; omega) _ _ N d), c_is t2, hw_bfR]
  rfl
/-- where a new store lies -/
def vL (o s i : Nat) : Nat := if i = 0 then o else if i < 4 then s + i - 1 else if i = 4 then s + 12 else if i < 9 then s + 8 + i else if i < 18 then s + i - 6 else 1099511627776 + i
theorem vL_inj {o s : Nat} (ho : o < s) (hs : s + 20 < 1099511627776) (i j : Nat) (e : vL o s i = vL o s j) : i = j := by
  unfold vL at e
  split at e <;> split at e <;> (try omega) <;> (repeat' split at e) <;> omega
/-- four hands -/
theorem v_hands {s : Nat} (ho : o < s) (hs3 : s ≤ ix_sz h) {q : Nat} (hq : q < ix_sz h) (hqo : q ≠ o) (N d : Nat) : ∀ j i z h F A, i + j = 4 → j < z → q < ix_sz h → s ≤ ix_sz h → ix_tg h o = 5 → ix_fR h o 2 = some q → ix_tg h q = 112 → ix_ln h q = 4 →
    ∃ h' F', ix_lp (ix_run iy_P N (d + 1)) stX4_init z 35 [(0, ix_R (some o)), (1, ix_I (nI i))] [] (hw h F A) = some (.inl none, hw h' F' A) ∧ ix_sz h' = ix_sz h + j ∧ ix_sl h' = ix_sl h + 16 * j ∧ ix_cs h' = ix_cs h ∧ (∀ b, b < ix_sz h → ix_tg h' b = ix_tg h b ∧ ix_ln h' b = ix_ln h b ∧ ix_fL h' b = ix_fL h b ∧ ix_aL h' b = ix_aL h b ∧ F' b = F b ∧ ix_fR h' b = ix_fR h b ∧ (b ≠ q → ix_aR h' b = ix_aR h b)) ∧ (∀ r, r < i → ix_aR h' q r = ix_aR h q r) ∧ ∀ r, r < j → ix_aR h' q (i + r) = some (ix_sz h + r) ∧ ix_tg h' (ix_sz h + r) = 7 := by
  intro j
  induction j with
  | zero =>
    intro i z h F A hi hz hq hs ht hf tq lq
    obtain ⟨z, rfl⟩ : ∃ y, z = y + 1 := ⟨z - 1, by omega⟩
    obtain rfl : i = 4 := by omega
    rw [lX4_init_35]
    unfold jX4_init_35
    rw [if_pos (by decide)]
    exact ⟨h, F, rfl, rfl, rfl, rfl, fun _ _ => ⟨rfl, rfl, rfl, rfl, rfl, rfl, fun _ => rfl⟩, fun _ _ => rfl, fun r hr => absurd hr (Nat.not_lt_zero r)⟩
  | succ j ih =>
    intro i z h F A hi hz hq hs ht hf tq lq
    obtain ⟨z, rfl⟩ : ∃ y, z = y + 1 := ⟨z - 1, by omega⟩
    have eI : ∀ {H}, ix_run iy_P N (d + 1) 218 [ix_R (some (ix_sz h))] H = some (.inl none, H) := fun {H} => by
      rw [rX6_init N d]
      rfl
    have tn : ix_tg (ix_nwO h 7 16) (ix_sz h) = 7 := s_tgO h 7 16
    have tq1 : ix_tg (ix_nwO h 7 16) q = 112 := (s_tgO' _ _ _ (by omega)).trans tq
    have of7 : ∀ F A, ix_of (hw (ix_nwO h 7 16) F A) [7] (some (ix_sz h)) = true := fun F A => by
      show ([7] : List Nat).any (fun t => Nat.beq (ix_tg (ix_nwO h 7 16) (ix_sz h)) t) = true
      rw [tn]
      rfl
    rw [lX4_init_35]
    unfold jX4_init_35
    rw [if_neg (by rw [hw_le (by omega) (by omega)]; omega), c_is ht, hw_bO, hw_sz, c_isr tn (by decide), hw_cV eI, hw_fR, hf, c_at tq1 lq, hw_in (by omega) (by omega), cond_true, of7, cond_true, hw_cl (by omega), nI_add]
    have eb : ∀ (F A : Nat → Nat → Int32) (f : ix_H → ix_O), ix_bd (ix_waR (hw (ix_nwO h 7 16) F A) q i (some (ix_sz h))) f = f (hw (ix_waR (ix_nwO h 7 16) q i (some (ix_sz h))) F A) := fun _ _ _ => rfl
    rw [eb]
    have sz1 : ix_sz (ix_waR (ix_nwO h 7 16) q i (some (ix_sz h))) = ix_sz h + 1 := rfl
    have tg1 : ∀ b, ix_tg (ix_waR (ix_nwO h 7 16) q i (some (ix_sz h))) b = if b = ix_sz h then 7 else ix_tg h b := fun _ => rfl
    have fR1 : ∀ b r, ix_fR (ix_waR (ix_nwO h 7 16) q i (some (ix_sz h))) b r = if b = ix_sz h then none else ix_fR h b r := fun _ _ => rfl
    have aR1 : ∀ b r, ix_aR (ix_waR (ix_nwO h 7 16) q i (some (ix_sz h))) b r = if b = q ∧ r = i then some (ix_sz h) else ix_aR h b r := fun _ _ => rfl
    obtain ⟨h', F', e, z1, z2, z3, z4, z5, z6⟩ := ih (i + 1) z (ix_waR (ix_nwO h 7 16) q i (some (ix_sz h))) (hw_R F (ix_sz h) (fun _ => 0)) A (by omega) (by omega) (by omega) (by omega) (by rw [tg1, if_neg (by omega)]; exact ht) (by rw [fR1, if_neg (by omega)]; exact hf) (by rw [tg1, if_neg (by omega)]; exact tq) lq
    refine ⟨h', F', e, by omega, ?_, z3, fun b hb => ?_, fun r hr => ?_, fun r hr => ?_⟩
    · rw [z2]
      show ix_sl h + 16 + 16 * j = _
      omega
    · obtain ⟨y1, y2, y3, y4, y5, y6, y7⟩ := z4 b (by omega)
      refine ⟨y1.trans ((tg1 b).trans (if_neg (by omega))), y2, y3.trans ?_, y4, y5.trans (hw_R_ne _ _ (by omega)), y6.trans ?_, fun w => (y7 w).trans ?_⟩
      · have ne : b ≠ ix_sz h := by omega
        funext r
        exact if_neg ne
      · funext r
        rw [fR1, if_neg (by omega)]
      · funext r
        rw [aR1, if_neg (fun x => w x.1)]
    · rw [z5 r (by omega), aR1, if_neg (by omega)]
    · cases r with
      | zero =>
        refine ⟨?_, ?_⟩
        · rw [Nat.add_zero, z5 i (by omega), aR1, if_pos ⟨rfl, rfl⟩]
          rfl
        · rw [Nat.add_zero, (z4 (ix_sz h) (by omega)).1, tg1, if_pos rfl]
      | succ r =>
        obtain ⟨y1, y2⟩ := z6 r (by omega)
        rw [sz1] at y1 y2
        refine ⟨?_, ?_⟩
        · rw [show i + (r + 1) = i + 1 + r by omega, y1, show ix_sz h + 1 + r = ix_sz h + (r + 1) by omega]
        · rw [show ix_sz h + (r + 1) = ix_sz h + 1 + r by omega]
          exact y2
end
