/-! KM: the component: a text is parsed, whole -/
set_option maxRecDepth 100000
/-- a setting, kept in the text's cell -/
def kFg (cal : ix_C) (cj i : Nat) (lo hi : Int32) (v0 : Nat) (h : ix_H) (nxt : ix_H → ix_O) : ix_O :=
  (ix_is h 4 (some v0)).bind fun a17 =>
  (ix_is h 4 (some v0)).bind fun a18 =>
  (ix_is h 8 (ix_fR h a18 2)).bind fun a19 =>
  (ix_isr h 4 (some v0)).bind fun a21 =>
  ix_xI (cal 150 [ix_R (some a21), ix_R (some (ix_cs h cj)), ix_I lo, ix_I hi, ix_I (ix_fI h a19 i)] h) ix_out fun r20 h22 =>
  (ix_is h22 8 (ix_fR h a17 2)).bind fun a23 =>
  ix_bd (ix_wfI h22 a23 i r20) nxt
theorem bX3_read_eq (cal : ix_C) (K : ix_K) (v0 : Nat) (h : ix_H) : bX3_read cal K v0 h = (ix_is h 4 (some v0)).bind fun a1 =>
  (ix_isr h 3 (ix_fR h a1 0)).bind fun a3 =>
  (ix_rV (cal 139 [ix_R (some a3)] h)).bind fun r2 =>
  ix_bd (ix_nwO r2 8 4) fun h4 =>
  (ix_isr h4 8 (some (ix_sz r2))).bind fun a6 =>
  (ix_rV (cal 225 [ix_R (some a6)] h4)).bind fun r5 =>
  (ix_is r5 4 (some v0)).bind fun a7 =>
  ix_bd (ix_wfR r5 a7 2 (some (ix_sz r2))) fun h8 =>
  (ix_is h8 4 (some v0)).bind fun a9 =>
  ix_bd (ix_wfI h8 a9 3 (nI 0)) fun h10 =>
  (ix_is h10 4 (some v0)).bind fun a11 =>
  ix_bd (ix_wfI h10 a11 4 (nI 0)) fun h12 =>
  (ix_is h12 4 (some v0)).bind fun a13 =>
  ix_bd (ix_wfI h12 a13 5 (nI 0)) fun h14 =>
  (ix_is h14 4 (some v0)).bind fun a15 =>
  ix_bd (ix_wfI h14 a15 6 (nI 0)) fun h16 =>
  kFg cal 4 1 (nI 1) (nI 8) v0 h16 fun h24 => kFg cal 5 2 (nI 4) (nI 12) v0 h24 fun h32 => kFg cal 6 3 (nI 0) (nI 3) v0 h32 fun h40 => jX3_read_53 cal K v0 h40 := rfl
section
variable {h : ix_H} {F A : Nat → Nat → Int32} {D cv : Nat → Nat} {tk : Nat → tK} {e t op wi N : Nat} {w : Option Nat} {b' : Nat → Int32} {n' : Nat}
theorem k_fg {m j i : Nat} (hN : 1000 ≤ N) (hj : j < 18) {h0 : ix_H} {F0 A0 : Nat → Nat → Int32} {tx ro ls k : Nat} {a b c own : Int32} (hD : ∀ j, j < 19 → D j < ix_sz h0) (hM : kM (ix_cs h0) D cv (ix_sz h0)) (X : gX D cv tk e h0 F0 A0 h F A t w tx ro ls a b c k) (hk : k ≤ 20) (ho : F tx i = own) (lo hi : Int32) (nxt : ix_H → ix_O) :
    (x_kd tk t = 3 ∧ gFl D h0 F0 A0 tk 0 (1, t) 100 (kFg (ix_run iy_P N (m + 9)) (k_kw j) i lo hi (D 3) (hw h F A) nxt)) ∨ match x_set tk (k_kk j) lo hi own t w with
      | .inl a => gFl D h0 F0 A0 tk 0 a 100 (kFg (ix_run iy_P N (m + 9)) (k_kw j) i lo hi (D 3) (hw h F A) nxt)
      | .inr v => t ≤ v.2 ∧ ∃ h1 F1 A1, kFg (ix_run iy_P N (m + 9)) (k_kw j) i lo hi (D 3) (hw h F A) nxt = nxt (hw h1 F1 A1) ∧ gX D cv tk e h0 F0 A0 h1 F1 A1 v.2 v.1.2 tx ro ls (if i = 1 then v.1.1 else a) (if i = 2 then v.1.1 else b) (if i = 3 then v.1.1 else c) (k + 4) := by
  have T := X.1
  have hs := T.1
  have X0 := X
  obtain ⟨-, g0, ⟨x1, x2, x3, x4, x5, x6⟩, ⟨y1, y2, y3, y4, y5⟩, -, -, p1⟩ := X0
  have ef : kFg (ix_run iy_P N (m + 9)) (k_kw j) i lo hi (D 3) (hw h F A) nxt = ix_xI (ix_run iy_P N (m + 9) 150 [ix_R (some (D 3)), ix_R (some (ix_cs h (k_kw j))), ix_I lo, ix_I hi, ix_I own] (hw h F A)) ix_out fun r20 h22 => (ix_is h22 8 (some tx)).bind fun a23 => ix_bd (ix_wfI h22 a23 i r20) nxt := by
    unfold kFg
    rw [k_is3 hs, k_is3 hs, hw_fR, p1, c_is y1, k_isr3 hs, hw_fI, ho, hw_cs]
  rw [ef]
  rcases k_setE (n := m) hN hj T lo hi own with ⟨c3, o⟩ | o
  · refine .inl ⟨c3, ?_⟩
    obtain ⟨o1, h', F', A', o2, o3, o4, o5⟩ := o
    refine ⟨Nat.zero_le _, h', F', A', ?_, o3, o4, (g0.trans o5).mono (by show k + (80 * (t - t) + 10) ≤ _; omega)⟩
    rw [o2]
    rfl
  · refine .inr ?_
    generalize x_set tk (k_kk j) lo hi own t w = r at o
    cases r with
    | inl a' =>
      obtain ⟨o1, h', F', A', o2, o3, o4, o5⟩ := o
      refine ⟨Nat.zero_le _, h', F', A', ?_, o3, o4, (g0.trans o5).mono (by omega)⟩
      rw [o2]
      rfl
    | inr v =>
      obtain ⟨o1, h', F', A', o2, T', g'⟩ := o
      have X1 := X.ofO hD T' g'
      have X2 := X1.wr hM i v.1.1
      refine ⟨o1, h', _, A', ?_, X2⟩
      rw [o2, ok_xI, c_is X1.2.2.2.1.1, hw_bdF]
theorem k_parse {d : Nat} (hN : 10000 ≤ N) (hs : kS h D) (hC : kC h F A D cv) (ht : kTx F A D b' n') : ∃ F' A', kRd D 0 F A F' A' ∧ gRd D (tk_row b' n') (ix_wfR h (D 3) 2 (some (ix_sz h))) F' A' (ix_sz h) (ix_run iy_P N (d + 39) 149 [ix_R (some (D 3))] (hw h F A)) (x_text (tk_row b' n')) := by
  obtain ⟨F1, A1, e1, r1, q1⟩ := k_read (cv := cv) hs hN (d + 32) ht hC
  have hC1 := hC.rd r1
  have hK1 := gK_row (A := A1) ht (r1.2.2.1 _ (hs.ne (by omega) (by omega) (by omega)) (hs.ne (by omega) (by omega) (by omega)) (hs.ne (by omega) (by omega) (by omega)) (hs.ne (by omega) (by omega) (by omega))) q1
  refine ⟨F1, A1, r1, ?_⟩
  generalize hE : (tk_at (tk_f b' n') n' 0).length - 1 = e at hK1
  generalize tk_row b' n' = tk at hK1 ⊢
  obtain ⟨h2, F2, e2, X2⟩ := k_txt (F := F1) hs hC1 hK1 N (d + 33)
  have tg : ix_tg (ix_nwO h 8 4) (ix_sz h) = 8 := s_tgO h 8 4
  rw [rX3_read N (d + 38), bX3_read_eq, k_is3 hs, k_t3r hs, hw_cV (show ix_run iy_P N (d + 38) 139 [ix_R (some (D 2))] (hw h F A) = _ from e1), hw_bO, hw_sz, c_isr tg (by decide), hw_cV e2]
  have hs3 := X2.1.1
  have t3 : ix_tg h2 (D 3) = 4 := hs3.1.2.2.1
  have t3' : ix_tg (ix_wfR h2 (D 3) 2 (some (ix_sz h))) (D 3) = 4 := t3
  rw [c_is t3, hw_bfR, c_is t3', hw_bdF, c_is t3', hw_bdF, c_is t3', hw_bdF, c_is t3', hw_bdF]
  simp only [hw_R_R, hw_R_same]
  have hD : ∀ j, j < 19 → D j < ix_sz (ix_wfR h (D 3) 2 (some (ix_sz h))) := hs.2.2.2.2
  have hM : kM (ix_cs (ix_wfR h (D 3) 2 (some (ix_sz h)))) D cv (ix_sz (ix_wfR h (D 3) 2 (some (ix_sz h)))) := ⟨hs.2.2.2.2, fun w hw => ⟨(hC.2.1 w hw).2.1, (hC.2.1 w hw).2.2.1⟩, hC.2.2.2.2⟩
  have hp : ix_fR (ix_wfR h (D 3) 2 (some (ix_sz h))) (D 3) 2 = some (ix_sz h) := s_fRf _ _ _ _
  have hx : ix_sz (ix_wfR h (D 3) 2 (some (ix_sz h))) ≤ ix_sz h := Nat.le_refl _
  generalize ix_wfR h2 (D 3) 2 (some (ix_sz h)) = h3 at X2 ⊢
  generalize hw_R F2 (D 3) (hw_U (hw_U (hw_U (hw_U (F2 (D 3)) 3 (nI 0)) 4 (nI 0)) 5 (nI 0)) 6 (nI 0)) = F3 at X2 ⊢
  generalize ix_wfR h (D 3) 2 (some (ix_sz h)) = hb at X2 hD hM hp hx ⊢
  unfold x_text
  -- the first setting
  have s1 := k_fg (N := N) (m := d + 29) (j := 0) (i := 1) (by omega) (by omega) hD hM X2 (by omega) X2.2.2.2.1.2.2.1 (nI 1) (nI 8) (fun h24 => kFg (ix_run iy_P N (d + 38)) 5 2 (nI 4) (nI 12) (D 3) h24 fun h32 => kFg (ix_run iy_P N (d + 38)) 6 3 (nI 0) (nI 3) (D 3) h32 fun h40 => jX3_read_53 (ix_run iy_P N (d + 38)) (ix_lp (ix_run iy_P N (d + 38)) stX3_read N) (D 3) h40)
  rw [show k_kk 0 = 20 from rfl, show k_kw 0 = 4 from rfl] at s1
  rcases s1 with ⟨c3, o⟩ | s1
  · rw [x_set_bad (by omega) c3]
    show gRd D tk hb F1 A1 (ix_sz h) _ (x_bd (x_set tk 21 (nI 4) (nI 12) (nI 6) 0 none) fun b t2 => x_bd (x_set tk 22 (nI 0) (nI 3) (nI 2) t2 b.2) fun c t3 => x_bd (x_until tk (x_told tk 3) 0 (401 - t3) t3 c.2 []) fun l t4 => .inr ((nI 3, b.1, c.1, l.1, l.2), t4))
    rw [x_set_bad (by omega) c3]
    show gRd D tk hb F1 A1 (ix_sz h) _ (x_bd (x_set tk 22 (nI 0) (nI 3) (nI 2) 0 none) fun c t3 => x_bd (x_until tk (x_told tk 3) 0 (401 - t3) t3 c.2 []) fun l t4 => .inr ((nI 3, nI 6, c.1, l.1, l.2), t4))
    rw [x_set_bad (by omega) c3]
    show gRd D tk hb F1 A1 (ix_sz h) _ (x_bd (x_until tk (x_told tk 3) 0 (401 - 0) 0 none []) fun l t4 => .inr ((nI 3, nI 6, nI 2, l.1, l.2), t4))
    rw [x_until_bad c3 (by omega)]
    exact o
  · generalize x_set tk 20 (nI 1) (nI 8) (nI 3) 0 none = r at s1
    cases r with
    | inl a => exact s1
    | inr v1 =>
      obtain ⟨⟨a1, w1⟩, t1⟩ := v1
      obtain ⟨l1, h4, F4, A4, e4, X4⟩ := s1
      have X4 : gX D cv tk e hb F1 A1 h4 F4 A4 t1 w1 (ix_sz h) (ix_sz h + 1) (ix_sz h + 2) a1 (nI 6) (nI 2) (3 + 4) := X4
      have b1 := X4.1.2.2.2.1.2.1
      have s2 := k_fg (N := N) (m := d + 29) (j := 1) (i := 2) (by omega) (by omega) hD hM X4 (by omega) X4.2.2.2.1.2.2.2.1 (nI 4) (nI 12) (fun h32 => kFg (ix_run iy_P N (d + 38)) 6 3 (nI 0) (nI 3) (D 3) h32 fun h40 => jX3_read_53 (ix_run iy_P N (d + 38)) (ix_lp (ix_run iy_P N (d + 38)) stX3_read N) (D 3) h40)
      rw [show k_kk 1 = 21 from rfl, show k_kw 1 = 5 from rfl] at s2
      show gRd D tk hb F1 A1 (ix_sz h) _ (x_bd (x_set tk 21 (nI 4) (nI 12) (nI 6) t1 w1) fun b t2 => x_bd (x_set tk 22 (nI 0) (nI 3) (nI 2) t2 b.2) fun c t3 => x_bd (x_until tk (x_told tk 3) 0 (401 - t3) t3 c.2 []) fun l t4 => .inr ((a1, b.1, c.1, l.1, l.2), t4))
      rw [show kFg (ix_run iy_P N (d + 38)) 4 1 (nI 1) (nI 8) (D 3) (hw h3 F3 A1) _ = _ from e4]
      rcases s2 with ⟨c3, o⟩ | s2
      · rw [x_set_bad (by omega) c3]
        show gRd D tk hb F1 A1 (ix_sz h) _ (x_bd (x_set tk 22 (nI 0) (nI 3) (nI 2) t1 w1) fun c t3 => x_bd (x_until tk (x_told tk 3) 0 (401 - t3) t3 c.2 []) fun l t4 => .inr ((a1, nI 6, c.1, l.1, l.2), t4))
        rw [x_set_bad (by omega) c3]
        show gRd D tk hb F1 A1 (ix_sz h) _ (x_bd (x_until tk (x_told tk 3) 0 (401 - t1) t1 w1 []) fun l t4 => .inr ((a1, nI 6, nI 2, l.1, l.2), t4))
        rw [x_until_bad c3 b1]
        exact o
      · generalize x_set tk 21 (nI 4) (nI 12) (nI 6) t1 w1 = r at s2
        cases r with
        | inl a => exact s2
        | inr v2 =>
          obtain ⟨⟨a2, w2⟩, t2⟩ := v2
          obtain ⟨l2, h5, F5, A5, e5, X5⟩ := s2
          have X5 : gX D cv tk e hb F1 A1 h5 F5 A5 t2 w2 (ix_sz h) (ix_sz h + 1) (ix_sz h + 2) a1 a2 (nI 2) (3 + 4 + 4) := X5
          have b2 := X5.1.2.2.2.1.2.1
          have s3 := k_fg (N := N) (m := d + 29) (j := 2) (i := 3) (by omega) (by omega) hD hM X5 (by omega) X5.2.2.2.1.2.2.2.2 (nI 0) (nI 3) (fun h40 => jX3_read_53 (ix_run iy_P N (d + 38)) (ix_lp (ix_run iy_P N (d + 38)) stX3_read N) (D 3) h40)
          rw [show k_kk 2 = 22 from rfl, show k_kw 2 = 6 from rfl] at s3
          show gRd D tk hb F1 A1 (ix_sz h) _ (x_bd (x_set tk 22 (nI 0) (nI 3) (nI 2) t2 w2) fun c t3 => x_bd (x_until tk (x_told tk 3) 0 (401 - t3) t3 c.2 []) fun l t4 => .inr ((a1, a2, c.1, l.1, l.2), t4))
          rw [show kFg (ix_run iy_P N (d + 38)) 5 2 (nI 4) (nI 12) (D 3) (hw h4 F4 A4) _ = _ from e5]
          rcases s3 with ⟨c3, o⟩ | s3
          · rw [x_set_bad (by omega) c3]
            show gRd D tk hb F1 A1 (ix_sz h) _ (x_bd (x_until tk (x_told tk 3) 0 (401 - t2) t2 w2 []) fun l t4 => .inr ((a1, a2, nI 2, l.1, l.2), t4))
            rw [x_until_bad c3 b2]
            exact o
          · generalize x_set tk 22 (nI 0) (nI 3) (nI 2) t2 w2 = r at s3
            cases r with
            | inl a => exact s3
            | inr v3 =>
              obtain ⟨⟨a3, w3⟩, t3⟩ := v3
              obtain ⟨l3, h6, F6, A6, e6, X6⟩ := s3
              have X6 : gX D cv tk e hb F1 A1 h6 F6 A6 t3 w3 (ix_sz h) (ix_sz h + 1) (ix_sz h + 2) a1 a2 a3 (3 + 4 + 4 + 4) := X6
              have b3 := X6.1.2.2.2.1.2.1
              show gRd D tk hb F1 A1 (ix_sz h) _ (x_bd (x_until tk (x_told tk 3) 0 (401 - t3) t3 w3 []) fun l t4 => .inr ((a1, a2, a3, l.1, l.2), t4))
              rw [show kFg (ix_run iy_P N (d + 38)) 6 3 (nI 0) (nI 3) (D 3) (hw h5 F5 A5) _ = _ from e6, ← lX3_read_53]
              have hT : tWk D cv tk e 0 N (d + 30 + 8) 3 := k_toldW (by omega) d 3 0 rfl
              exact k_readL (by omega) hT hD hM hp hx (401 - t3) t3 h6 F6 A6 w3 [] (N + 1) _ (by omega) (by omega) (X6.i hM) ⟨X6.2.2.1.2.1, X6.2.2.2.1⟩ (by omega)
end
