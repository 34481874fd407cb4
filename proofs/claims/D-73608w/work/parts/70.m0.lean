/-! M0: the shape of the reference: one object at m, its arrays behind it. Written by pp.py -/
set_option maxRecDepth 100000
abbrev mSh (h : ix_H) (m : Nat) : Prop :=
  ix_is h 10 (some m) = some m ∧
  ix_isr h 10 (some m) = some m ∧
  ix_fR h m 35 = (some (m + 21)) ∧
  (∀ i, ix_atr h 101 (some (m + 21)) i = cond (ix_in i 137300) (some (m + 21)) none) ∧
  (∀ i, ix_at h 101 (some (m + 21)) i = cond (ix_in i 137300) (some (m + 21)) none) ∧
  ix_fR h m 36 = (some (m + 22)) ∧
  (∀ i, ix_atr h 101 (some (m + 22)) i = cond (ix_in i 840) (some (m + 22)) none) ∧
  (∀ i, ix_at h 101 (some (m + 22)) i = cond (ix_in i 840) (some (m + 22)) none) ∧
  ix_fR h m 38 = (some (m + 23)) ∧
  (∀ i, ix_atr h 101 (some (m + 23)) i = cond (ix_in i 90) (some (m + 23)) none) ∧
  (∀ i, ix_at h 101 (some (m + 23)) i = cond (ix_in i 90) (some (m + 23)) none) ∧
  ix_fR h m 39 = (some (m + 24)) ∧
  (∀ i, ix_atr h 101 (some (m + 24)) i = cond (ix_in i 90) (some (m + 24)) none) ∧
  (∀ i, ix_at h 101 (some (m + 24)) i = cond (ix_in i 90) (some (m + 24)) none) ∧
  ix_fR h m 43 = (some (m + 25)) ∧
  (∀ i, ix_atr h 101 (some (m + 25)) i = cond (ix_in i 90) (some (m + 25)) none) ∧
  (∀ i, ix_at h 101 (some (m + 25)) i = cond (ix_in i 90) (some (m + 25)) none) ∧
  ix_fR h m 44 = (some (m + 26)) ∧
  (∀ i, ix_atr h 101 (some (m + 26)) i = cond (ix_in i 90) (some (m + 26)) none) ∧
  (∀ i, ix_at h 101 (some (m + 26)) i = cond (ix_in i 90) (some (m + 26)) none) ∧
  ix_fR h m 46 = (some (m + 27)) ∧
  (∀ i, ix_atr h 101 (some (m + 27)) i = cond (ix_in i 200) (some (m + 27)) none) ∧
  (∀ i, ix_at h 101 (some (m + 27)) i = cond (ix_in i 200) (some (m + 27)) none) ∧
  ix_fR h m 47 = (some (m + 28)) ∧
  (∀ i, ix_atr h 101 (some (m + 28)) i = cond (ix_in i 200) (some (m + 28)) none) ∧
  (∀ i, ix_at h 101 (some (m + 28)) i = cond (ix_in i 200) (some (m + 28)) none) ∧
  ix_fR h m 49 = (some (m + 29)) ∧
  (∀ i, ix_atr h 101 (some (m + 29)) i = cond (ix_in i 14100) (some (m + 29)) none) ∧
  (∀ i, ix_at h 101 (some (m + 29)) i = cond (ix_in i 14100) (some (m + 29)) none) ∧
  ix_fR h m 50 = (some (m + 30)) ∧
  (∀ i, ix_atr h 101 (some (m + 30)) i = cond (ix_in i 200) (some (m + 30)) none) ∧
  (∀ i, ix_at h 101 (some (m + 30)) i = cond (ix_in i 200) (some (m + 30)) none) ∧
  ix_fR h m 51 = (some (m + 31)) ∧
  (∀ i, ix_atr h 101 (some (m + 31)) i = cond (ix_in i 200) (some (m + 31)) none) ∧
  (∀ i, ix_at h 101 (some (m + 31)) i = cond (ix_in i 200) (some (m + 31)) none) ∧
  ix_fR h m 53 = (some (m + 32)) ∧
  (∀ i, ix_atr h 105 (some (m + 32)) i = cond (ix_in i 3) (some (m + 32)) none) ∧
  (∀ i, ix_at h 105 (some (m + 32)) i = cond (ix_in i 3) (some (m + 32)) none) ∧
  ix_fR h m 54 = (some (m + 33)) ∧
  (∀ i, ix_atr h 101 (some (m + 33)) i = cond (ix_in i 411900) (some (m + 33)) none) ∧
  (∀ i, ix_at h 101 (some (m + 33)) i = cond (ix_in i 411900) (some (m + 33)) none)
abbrev mSp (h : ix_H) (m : Nat) : Prop :=
  ix_is h 10 (some m) = some m ∧
  ix_isr h 10 (some m) = some m ∧
  ix_fR h m 1 = (some (m + 1)) ∧
  (∀ i, ix_atr h 102 (some (m + 1)) i = cond (ix_in i 2000) (some (m + 1)) none) ∧
  (∀ i, ix_at h 102 (some (m + 1)) i = cond (ix_in i 2000) (some (m + 1)) none) ∧
  ix_fR h m 3 = (some (m + 2)) ∧
  (∀ i, ix_atr h 102 (some (m + 2)) i = cond (ix_in i 2000) (some (m + 2)) none) ∧
  (∀ i, ix_at h 102 (some (m + 2)) i = cond (ix_in i 2000) (some (m + 2)) none) ∧
  ix_fR h m 5 = (some (m + 3)) ∧
  (∀ i, ix_atr h 101 (some (m + 3)) i = cond (ix_in i 403) (some (m + 3)) none) ∧
  (∀ i, ix_at h 101 (some (m + 3)) i = cond (ix_in i 403) (some (m + 3)) none) ∧
  ix_fR h m 6 = (some (m + 4)) ∧
  (∀ i, ix_atr h 101 (some (m + 4)) i = cond (ix_in i 403) (some (m + 4)) none) ∧
  (∀ i, ix_at h 101 (some (m + 4)) i = cond (ix_in i 403) (some (m + 4)) none) ∧
  ix_fR h m 7 = (some (m + 5)) ∧
  (∀ i, ix_atr h 101 (some (m + 5)) i = cond (ix_in i 403) (some (m + 5)) none) ∧
  (∀ i, ix_at h 101 (some (m + 5)) i = cond (ix_in i 403) (some (m + 5)) none) ∧
  ix_fR h m 8 = (some (m + 6)) ∧
  (∀ i, ix_atr h 106 (some (m + 6)) i = cond (ix_in i 403) (some (m + 6)) none) ∧
  (∀ i, ix_at h 106 (some (m + 6)) i = cond (ix_in i 403) (some (m + 6)) none) ∧
  ix_fR h m 9 = (some (m + 7)) ∧
  (∀ i, ix_atr h 106 (some (m + 7)) i = cond (ix_in i 18) (some (m + 7)) none) ∧
  (∀ i, ix_at h 106 (some (m + 7)) i = cond (ix_in i 18) (some (m + 7)) none) ∧
  ix_fR h m 19 = (some (m + 8)) ∧
  (∀ i, ix_atr h 101 (some (m + 8)) i = cond (ix_in i 210) (some (m + 8)) none) ∧
  (∀ i, ix_at h 101 (some (m + 8)) i = cond (ix_in i 210) (some (m + 8)) none) ∧
  ix_fR h m 20 = (some (m + 9)) ∧
  (∀ i, ix_atr h 101 (some (m + 9)) i = cond (ix_in i 210) (some (m + 9)) none) ∧
  (∀ i, ix_at h 101 (some (m + 9)) i = cond (ix_in i 210) (some (m + 9)) none) ∧
  ix_fR h m 21 = (some (m + 10)) ∧
  (∀ i, ix_atr h 101 (some (m + 10)) i = cond (ix_in i 210) (some (m + 10)) none) ∧
  (∀ i, ix_at h 101 (some (m + 10)) i = cond (ix_in i 210) (some (m + 10)) none) ∧
  ix_fR h m 22 = (some (m + 11)) ∧
  (∀ i, ix_atr h 101 (some (m + 11)) i = cond (ix_in i 210) (some (m + 11)) none) ∧
  (∀ i, ix_at h 101 (some (m + 11)) i = cond (ix_in i 210) (some (m + 11)) none) ∧
  ix_fR h m 23 = (some (m + 12)) ∧
  (∀ i, ix_atr h 101 (some (m + 12)) i = cond (ix_in i 210) (some (m + 12)) none) ∧
  (∀ i, ix_at h 101 (some (m + 12)) i = cond (ix_in i 210) (some (m + 12)) none) ∧
  ix_fR h m 24 = (some (m + 13)) ∧
  (∀ i, ix_atr h 101 (some (m + 13)) i = cond (ix_in i 210) (some (m + 13)) none) ∧
  (∀ i, ix_at h 101 (some (m + 13)) i = cond (ix_in i 210) (some (m + 13)) none) ∧
  ix_fR h m 26 = (some (m + 14)) ∧
  (∀ i, ix_atr h 101 (some (m + 14)) i = cond (ix_in i 3) (some (m + 14)) none) ∧
  (∀ i, ix_at h 101 (some (m + 14)) i = cond (ix_in i 3) (some (m + 14)) none) ∧
  ix_fR h m 28 = (some (m + 15)) ∧
  (∀ i, ix_atr h 101 (some (m + 15)) i = cond (ix_in i 420) (some (m + 15)) none) ∧
  (∀ i, ix_at h 101 (some (m + 15)) i = cond (ix_in i 420) (some (m + 15)) none) ∧
  ix_fR h m 29 = (some (m + 16)) ∧
  (∀ i, ix_atr h 101 (some (m + 16)) i = cond (ix_in i 420) (some (m + 16)) none) ∧
  (∀ i, ix_at h 101 (some (m + 16)) i = cond (ix_in i 420) (some (m + 16)) none) ∧
  ix_fR h m 30 = (some (m + 17)) ∧
  (∀ i, ix_atr h 101 (some (m + 17)) i = cond (ix_in i 64) (some (m + 17)) none) ∧
  (∀ i, ix_at h 101 (some (m + 17)) i = cond (ix_in i 64) (some (m + 17)) none) ∧
  ix_fR h m 32 = (some (m + 18)) ∧
  (∀ i, ix_atr h 101 (some (m + 18)) i = cond (ix_in i 6) (some (m + 18)) none) ∧
  (∀ i, ix_at h 101 (some (m + 18)) i = cond (ix_in i 6) (some (m + 18)) none) ∧
  ix_fR h m 33 = (some (m + 19)) ∧
  (∀ i, ix_atr h 101 (some (m + 19)) i = cond (ix_in i 400) (some (m + 19)) none) ∧
  (∀ i, ix_at h 101 (some (m + 19)) i = cond (ix_in i 400) (some (m + 19)) none) ∧
  ix_fR h m 34 = (some (m + 20)) ∧
  (∀ i, ix_atr h 101 (some (m + 20)) i = cond (ix_in i 3) (some (m + 20)) none) ∧
  (∀ i, ix_at h 101 (some (m + 20)) i = cond (ix_in i 3) (some (m + 20)) none)
theorem mSh_hw {h : ix_H} {m : Nat} (F A : Nat → Nat → Int32) (hS : mSh h m) : mSh (hw h F A) m := hS
theorem mSp_hw {h : ix_H} {m : Nat} (F A : Nat → Nat → Int32) (hS : mSp h m) : mSp (hw h F A) m := hS
theorem mp_is {h : ix_H} {m : Nat} (hS : mSh h m) (F A : Nat → Nat → Int32) (f : Nat → ix_O) : (ix_is (hw h F A) 10 (some m)).bind f = f m := by
  rw [hw_is, hS.1]
  rfl
theorem mp_isr {h : ix_H} {m : Nat} (hS : mSh h m) (F A : Nat → Nat → Int32) (f : Nat → ix_O) : (ix_isr (hw h F A) 10 (some m)).bind f = f m := by
  rw [hw_isr, hS.2.1]
  rfl
theorem mq_is {h : ix_H} {m : Nat} (hS : mSp h m) (F A : Nat → Nat → Int32) (f : Nat → ix_O) : (ix_is (hw h F A) 10 (some m)).bind f = f m := by
  rw [hw_is, hS.1]
  rfl
theorem mq_isr {h : ix_H} {m : Nat} (hS : mSp h m) (F A : Nat → Nat → Int32) (f : Nat → ix_O) : (ix_isr (hw h F A) 10 (some m)).bind f = f m := by
  rw [hw_isr, hS.2.1]
  rfl
theorem mp_rd1 {h : ix_H} {m : Nat} (hS : mSp h m) (F A : Nat → Nat → Int32) (i : Int32) (f : Nat → ix_O) : (ix_atr (hw h F A) 102 (ix_fR (hw h F A) m 1) i).bind f = cond (ix_in i 2000) (f (m + 1)) none := by
  have hS := hS
  rw [hw_fR, hw_atr]
  simp only [hS]
  cases ix_in i 2000 <;> rfl
theorem mp_wr1 {h : ix_H} {m : Nat} (hS : mSp h m) (F A : Nat → Nat → Int32) (i : Int32) (f : Nat → ix_O) : (ix_at (hw h F A) 102 (ix_fR (hw h F A) m 1) i).bind f = cond (ix_in i 2000) (f (m + 1)) none := by
  have hS := hS
  rw [hw_fR, hw_at]
  simp only [hS]
  cases ix_in i 2000 <;> rfl
theorem mp_rd3 {h : ix_H} {m : Nat} (hS : mSp h m) (F A : Nat → Nat → Int32) (i : Int32) (f : Nat → ix_O) : (ix_atr (hw h F A) 102 (ix_fR (hw h F A) m 3) i).bind f = cond (ix_in i 2000) (f (m + 2)) none := by
  have hS := hS
  rw [hw_fR, hw_atr]
  simp only [hS]
  cases ix_in i 2000 <;> rfl
theorem mp_wr3 {h : ix_H} {m : Nat} (hS : mSp h m) (F A : Nat → Nat → Int32) (i : Int32) (f : Nat → ix_O) : (ix_at (hw h F A) 102 (ix_fR (hw h F A) m 3) i).bind f = cond (ix_in i 2000) (f (m + 2)) none := by
  have hS := hS
  rw [hw_fR, hw_at]
  simp only [hS]
  cases ix_in i 2000 <;> rfl
theorem mp_rd5 {h : ix_H} {m : Nat} (hS : mSp h m) (F A : Nat → Nat → Int32) (i : Int32) (f : Nat → ix_O) : (ix_atr (hw h F A) 101 (ix_fR (hw h F A) m 5) i).bind f = cond (ix_in i 403) (f (m + 3)) none := by
  have hS := hS
  rw [hw_fR, hw_atr]
  simp only [hS]
  cases ix_in i 403 <;> rfl
theorem mp_wr5 {h : ix_H} {m : Nat} (hS : mSp h m) (F A : Nat → Nat → Int32) (i : Int32) (f : Nat → ix_O) : (ix_at (hw h F A) 101 (ix_fR (hw h F A) m 5) i).bind f = cond (ix_in i 403) (f (m + 3)) none := by
  have hS := hS
  rw [hw_fR, hw_at]
  simp only [hS]
  cases ix_in i 403 <;> rfl
theorem mp_rd6 {h : ix_H} {m : Nat} (hS : mSp h m) (F A : Nat → Nat → Int32) (i : Int32) (f : Nat → ix_O) : (ix_atr (hw h F A) 101 (ix_fR (hw h F A) m 6) i).bind f = cond (ix_in i 403) (f (m + 4)) none := by
  have hS := hS
  rw [hw_fR, hw_atr]
  simp only [hS]
  cases ix_in i 403 <;> rfl
theorem mp_wr6 {h : ix_H} {m : Nat} (hS : mSp h m) (F A : Nat → Nat → Int32) (i : Int32) (f : Nat → ix_O) : (ix_at (hw h F A) 101 (ix_fR (hw h F A) m 6) i).bind f = cond (ix_in i 403) (f (m + 4)) none := by
  have hS := hS
  rw [hw_fR, hw_at]
  simp only [hS]
  cases ix_in i 403 <;> rfl
theorem mp_rd7 {h : ix_H} {m : Nat} (hS : mSp h m) (F A : Nat → Nat → Int32) (i : Int32) (f : Nat → ix_O) : (ix_atr (hw h F A) 101 (ix_fR (hw h F A) m 7) i).bind f = cond (ix_in i 403) (f (m + 5)) none := by
  have hS := hS
  rw [hw_fR, hw_atr]
  simp only [hS]
  cases ix_in i 403 <;> rfl
theorem mp_wr7 {h : ix_H} {m : Nat} (hS : mSp h m) (F A : Nat → Nat → Int32) (i : Int32) (f : Nat → ix_O) : (ix_at (hw h F A) 101 (ix_fR (hw h F A) m 7) i).bind f = cond (ix_in i 403) (f (m + 5)) none := by
  have hS := hS
  rw [hw_fR, hw_at]
  simp only [hS]
  cases ix_in i 403 <;> rfl
theorem mp_rd8 {h : ix_H} {m : Nat} (hS : mSp h m) (F A : Nat → Nat → Int32) (i : Int32) (f : Nat → ix_O) : (ix_atr (hw h F A) 106 (ix_fR (hw h F A) m 8) i).bind f = cond (ix_in i 403) (f (m + 6)) none := by
  have hS := hS
  rw [hw_fR, hw_atr]
  simp only [hS]
  cases ix_in i 403 <;> rfl
theorem mp_wr8 {h : ix_H} {m : Nat} (hS : mSp h m) (F A : Nat → Nat → Int32) (i : Int32) (f : Nat → ix_O) : (ix_at (hw h F A) 106 (ix_fR (hw h F A) m 8) i).bind f = cond (ix_in i 403) (f (m + 6)) none := by
  have hS := hS
  rw [hw_fR, hw_at]
  simp only [hS]
  cases ix_in i 403 <;> rfl
theorem mp_rd9 {h : ix_H} {m : Nat} (hS : mSp h m) (F A : Nat → Nat → Int32) (i : Int32) (f : Nat → ix_O) : (ix_atr (hw h F A) 106 (ix_fR (hw h F A) m 9) i).bind f = cond (ix_in i 18) (f (m + 7)) none := by
  have hS := hS
  rw [hw_fR, hw_atr]
  simp only [hS]
  cases ix_in i 18 <;> rfl
theorem mp_wr9 {h : ix_H} {m : Nat} (hS : mSp h m) (F A : Nat → Nat → Int32) (i : Int32) (f : Nat → ix_O) : (ix_at (hw h F A) 106 (ix_fR (hw h F A) m 9) i).bind f = cond (ix_in i 18) (f (m + 7)) none := by
  have hS := hS
  rw [hw_fR, hw_at]
  simp only [hS]
  cases ix_in i 18 <;> rfl
theorem mp_rd19 {h : ix_H} {m : Nat} (hS : mSp h m) (F A : Nat → Nat → Int32) (i : Int32) (f : Nat → ix_O) : (ix_atr (hw h F A) 101 (ix_fR (hw h F A) m 19) i).bind f = cond (ix_in i 210) (f (m + 8)) none := by
  have hS := hS
  rw [hw_fR, hw_atr]
  simp only [hS]
  cases ix_in i 210 <;> rfl
theorem mp_wr19 {h : ix_H} {m : Nat} (hS : mSp h m) (F A : Nat → Nat → Int32) (i : Int32) (f : Nat → ix_O) : (ix_at (hw h F A) 101 (ix_fR (hw h F A) m 19) i).bind f = cond (ix_in i 210) (f (m + 8)) none := by
  have hS := hS
  rw [hw_fR, hw_at]
  simp only [hS]
  cases ix_in i 210 <;> rfl
theorem mp_rd20 {h : ix_H} {m : Nat} (hS : mSp h m) (F A : Nat → Nat → Int32) (i : Int32) (f : Nat → ix_O) : (ix_atr (hw h F A) 101 (ix_fR (hw h F A) m 20) i).bind f = cond (ix_in i 210) (f (m + 9)) none := by
  have hS := hS
  rw [hw_fR, hw_atr]
  simp only [hS]
  cases ix_in i 210 <;> rfl
theorem mp_wr20 {h : ix_H} {m : Nat} (hS : mSp h m) (F A : Nat → Nat → Int32) (i : Int32) (f : Nat → ix_O) : (ix_at (hw h F A) 101 (ix_fR (hw h F A) m 20) i).bind f = cond (ix_in i 210) (f (m + 9)) none := by
  have hS := hS
  rw [hw_fR, hw_at]
  simp only [hS]
  cases ix_in i 210 <;> rfl
theorem mp_rd21 {h : ix_H} {m : Nat} (hS : mSp h m) (F A : Nat → Nat → Int32) (i : Int32) (f : Nat → ix_O) : (ix_atr (hw h F A) 101 (ix_fR (hw h F A) m 21) i).bind f = cond (ix_in i 210) (f (m + 10)) none := by
  have hS := hS
  rw [hw_fR, hw_atr]
  simp only [hS]
  cases ix_in i 210 <;> rfl
theorem mp_wr21 {h : ix_H} {m : Nat} (hS : mSp h m) (F A : Nat → Nat → Int32) (i : Int32) (f : Nat → ix_O) : (ix_at (hw h F A) 101 (ix_fR (hw h F A) m 21) i).bind f = cond (ix_in i 210) (f (m + 10)) none := by
  have hS := hS
  rw [hw_fR, hw_at]
  simp only [hS]
  cases ix_in i 210 <;> rfl
theorem mp_rd22 {h : ix_H} {m : Nat} (hS : mSp h m) (F A : Nat → Nat → Int32) (i : Int32) (f : Nat → ix_O) : (ix_atr (hw h F A) 101 (ix_fR (hw h F A) m 22) i).bind f = cond (ix_in i 210) (f (m + 11)) none := by
  have hS := hS
  rw [hw_fR, hw_atr]
  simp only [hS]
  cases ix_in i 210 <;> rfl
theorem mp_wr22 {h : ix_H} {m : Nat} (hS : mSp h m) (F A : Nat → Nat → Int32) (i : Int32) (f : Nat → ix_O) : (ix_at (hw h F A) 101 (ix_fR (hw h F A) m 22) i).bind f = cond (ix_in i 210) (f (m + 11)) none := by
  have hS := hS
  rw [hw_fR, hw_at]
  simp only [hS]
  cases ix_in i 210 <;> rfl
theorem mp_rd23 {h : ix_H} {m : Nat} (hS : mSp h m) (F A : Nat → Nat → Int32) (i : Int32) (f : Nat → ix_O) : (ix_atr (hw h F A) 101 (ix_fR (hw h F A) m 23) i).bind f = cond (ix_in i 210) (f (m + 12)) none := by
  have hS := hS
  rw [hw_fR, hw_atr]
  simp only [hS]
  cases ix_in i 210 <;> rfl
theorem mp_wr23 {h : ix_H} {m : Nat} (hS : mSp h m) (F A : Nat → Nat → Int32) (i : Int32) (f : Nat → ix_O) : (ix_at (hw h F A) 101 (ix_fR (hw h F A) m 23) i).bind f = cond (ix_in i 210) (f (m + 12)) none := by
  have hS := hS
  rw [hw_fR, hw_at]
  simp only [hS]
  cases ix_in i 210 <;> rfl
theorem mp_rd24 {h : ix_H} {m : Nat} (hS : mSp h m) (F A : Nat → Nat → Int32) (i : Int32) (f : Nat → ix_O) : (ix_atr (hw h F A) 101 (ix_fR (hw h F A) m 24) i).bind f = cond (ix_in i 210) (f (m + 13)) none := by
  have hS := hS
  rw [hw_fR, hw_atr]
  simp only [hS]
  cases ix_in i 210 <;> rfl
theorem mp_wr24 {h : ix_H} {m : Nat} (hS : mSp h m) (F A : Nat → Nat → Int32) (i : Int32) (f : Nat → ix_O) : (ix_at (hw h F A) 101 (ix_fR (hw h F A) m 24) i).bind f = cond (ix_in i 210) (f (m + 13)) none := by
  have hS := hS
  rw [hw_fR, hw_at]
  simp only [hS]
  cases ix_in i 210 <;> rfl
theorem mp_rd26 {h : ix_H} {m : Nat} (hS : mSp h m) (F A : Nat → Nat → Int32) (i : Int32) (f : Nat → ix_O) : (ix_atr (hw h F A) 101 (ix_fR (hw h F A) m 26) i).bind f = cond (ix_in i 3) (f (m + 14)) none := by
  have hS := hS
  rw [hw_fR, hw_atr]
  simp only [hS]
  cases ix_in i 3 <;> rfl
theorem mp_wr26 {h : ix_H} {m : Nat} (hS : mSp h m) (F A : Nat → Nat → Int32) (i : Int32) (f : Nat → ix_O) : (ix_at (hw h F A) 101 (ix_fR (hw h F A) m 26) i).bind f = cond (ix_in i 3) (f (m + 14)) none := by
  have hS := hS
  rw [hw_fR, hw_at]
  simp only [hS]
  cases ix_in i 3 <;> rfl
theorem mp_rd28 {h : ix_H} {m : Nat} (hS : mSp h m) (F A : Nat → Nat → Int32) (i : Int32) (f : Nat → ix_O) : (ix_atr (hw h F A) 101 (ix_fR (hw h F A) m 28) i).bind f = cond (ix_in i 420) (f (m + 15)) none := by
  have hS := hS
  rw [hw_fR, hw_atr]
  simp only [hS]
  cases ix_in i 420 <;> rfl
theorem mp_wr28 {h : ix_H} {m : Nat} (hS : mSp h m) (F A : Nat → Nat → Int32) (i : Int32) (f : Nat → ix_O) : (ix_at (hw h F A) 101 (ix_fR (hw h F A) m 28) i).bind f = cond (ix_in i 420) (f (m + 15)) none := by
  have hS := hS
  rw [hw_fR, hw_at]
  simp only [hS]
  cases ix_in i 420 <;> rfl
theorem mp_rd29 {h : ix_H} {m : Nat} (hS : mSp h m) (F A : Nat → Nat → Int32) (i : Int32) (f : Nat → ix_O) : (ix_atr (hw h F A) 101 (ix_fR (hw h F A) m 29) i).bind f = cond (ix_in i 420) (f (m + 16)) none := by
  have hS := hS
  rw [hw_fR, hw_atr]
  simp only [hS]
  cases ix_in i 420 <;> rfl
theorem mp_wr29 {h : ix_H} {m : Nat} (hS : mSp h m) (F A : Nat → Nat → Int32) (i : Int32) (f : Nat → ix_O) : (ix_at (hw h F A) 101 (ix_fR (hw h F A) m 29) i).bind f = cond (ix_in i 420) (f (m + 16)) none := by
  have hS := hS
  rw [hw_fR, hw_at]
  simp only [hS]
  cases ix_in i 420 <;> rfl
theorem mp_rd30 {h : ix_H} {m : Nat} (hS : mSp h m) (F A : Nat → Nat → Int32) (i : Int32) (f : Nat → ix_O) : (ix_atr (hw h F A) 101 (ix_fR (hw h F A) m 30) i).bind f = cond (ix_in i 64) (f (m + 17)) none := by
  have hS := hS
  rw [hw_fR, hw_atr]
  simp only [hS]
  cases ix_in i 64 <;> rfl
theorem mp_wr30 {h : ix_H} {m : Nat} (hS : mSp h m) (F A : Nat → Nat → Int32) (i : Int32) (f : Nat → ix_O) : (ix_at (hw h F A) 101 (ix_fR (hw h F A) m 30) i).bind f = cond (ix_in i 64) (f (m + 17)) none := by
  have hS := hS
  rw [hw_fR, hw_at]
  simp only [hS]
  cases ix_in i 64 <;> rfl
theorem mp_rd32 {h : ix_H} {m : Nat} (hS : mSp h m) (F A : Nat → Nat → Int32) (i : Int32) (f : Nat → ix_O) : (ix_atr (hw h F A) 101 (ix_fR (hw h F A) m 32) i).bind f = cond (ix_in i 6) (f (m + 18)) none := by
  have hS := hS
  rw [hw_fR, hw_atr]
  simp only [hS]
  cases ix_in i 6 <;> rfl
theorem mp_wr32 {h : ix_H} {m : Nat} (hS : mSp h m) (F A : Nat → Nat → Int32) (i : Int32) (f : Nat → ix_O) : (ix_at (hw h F A) 101 (ix_fR (hw h F A) m 32) i).bind f = cond (ix_in i 6) (f (m + 18)) none := by
  have hS := hS
  rw [hw_fR, hw_at]
  simp only [hS]
  cases ix_in i 6 <;> rfl
theorem mp_rd33 {h : ix_H} {m : Nat} (hS : mSp h m) (F A : Nat → Nat → Int32) (i : Int32) (f : Nat → ix_O) : (ix_atr (hw h F A) 101 (ix_fR (hw h F A) m 33) i).bind f = cond (ix_in i 400) (f (m + 19)) none := by
  have hS := hS
  rw [hw_fR, hw_atr]
  simp only [hS]
  cases ix_in i 400 <;> rfl
theorem mp_wr33 {h : ix_H} {m : Nat} (hS : mSp h m) (F A : Nat → Nat → Int32) (i : Int32) (f : Nat → ix_O) : (ix_at (hw h F A) 101 (ix_fR (hw h F A) m 33) i).bind f = cond (ix_in i 400) (f (m + 19)) none := by
  have hS := hS
  rw [hw_fR, hw_at]
  simp only [hS]
  cases ix_in i 400 <;> rfl
theorem mp_rd34 {h : ix_H} {m : Nat} (hS : mSp h m) (F A : Nat → Nat → Int32) (i : Int32) (f : Nat → ix_O) : (ix_atr (hw h F A) 101 (ix_fR (hw h F A) m 34) i).bind f = cond (ix_in i 3) (f (m + 20)) none := by
  have hS := hS
  rw [hw_fR, hw_atr]
  simp only [hS]
  cases ix_in i 3 <;> rfl
theorem mp_wr34 {h : ix_H} {m : Nat} (hS : mSp h m) (F A : Nat → Nat → Int32) (i : Int32) (f : Nat → ix_O) : (ix_at (hw h F A) 101 (ix_fR (hw h F A) m 34) i).bind f = cond (ix_in i 3) (f (m + 20)) none := by
  have hS := hS
  rw [hw_fR, hw_at]
  simp only [hS]
  cases ix_in i 3 <;> rfl
theorem mp_rd35 {h : ix_H} {m : Nat} (hS : mSh h m) (F A : Nat → Nat → Int32) (i : Int32) (f : Nat → ix_O) : (ix_atr (hw h F A) 101 (ix_fR (hw h F A) m 35) i).bind f = cond (ix_in i 137300) (f (m + 21)) none := by
  have hS := hS
  rw [hw_fR, hw_atr]
  simp only [hS]
  cases ix_in i 137300 <;> rfl
theorem mp_wr35 {h : ix_H} {m : Nat} (hS : mSh h m) (F A : Nat → Nat → Int32) (i : Int32) (f : Nat → ix_O) : (ix_at (hw h F A) 101 (ix_fR (hw h F A) m 35) i).bind f = cond (ix_in i 137300) (f (m + 21)) none := by
  have hS := hS
  rw [hw_fR, hw_at]
  simp only [hS]
  cases ix_in i 137300 <;> rfl
theorem mp_rd36 {h : ix_H} {m : Nat} (hS : mSh h m) (F A : Nat → Nat → Int32) (i : Int32) (f : Nat → ix_O) : (ix_atr (hw h F A) 101 (ix_fR (hw h F A) m 36) i).bind f = cond (ix_in i 840) (f (m + 22)) none := by
  have hS := hS
  rw [hw_fR, hw_atr]
  simp only [hS]
  cases ix_in i 840 <;> rfl
theorem mp_wr36 {h : ix_H} {m : Nat} (hS : mSh h m) (F A : Nat → Nat → Int32) (i : Int32) (f : Nat → ix_O) : (ix_at (hw h F A) 101 (ix_fR (hw h F A) m 36) i).bind f = cond (ix_in i 840) (f (m + 22)) none := by
  have hS := hS
  rw [hw_fR, hw_at]
  simp only [hS]
  cases ix_in i 840 <;> rfl
theorem mp_rd38 {h : ix_H} {m : Nat} (hS : mSh h m) (F A : Nat → Nat → Int32) (i : Int32) (f : Nat → ix_O) : (ix_atr (hw h F A) 101 (ix_fR (hw h F A) m 38) i).bind f = cond (ix_in i 90) (f (m + 23)) none := by
  have hS := hS
  rw [hw_fR, hw_atr]
  simp only [hS]
  cases ix_in i 90 <;> rfl
theorem mp_wr38 {h : ix_H} {m : Nat} (hS : mSh h m) (F A : Nat → Nat → Int32) (i : Int32) (f : Nat → ix_O) : (ix_at (hw h F A) 101 (ix_fR (hw h F A) m 38) i).bind f = cond (ix_in i 90) (f (m + 23)) none := by
  have hS := hS
  rw [hw_fR, hw_at]
  simp only [hS]
  cases ix_in i 90 <;> rfl
theorem mp_rd39 {h : ix_H} {m : Nat} (hS : mSh h m) (F A : Nat → Nat → Int32) (i : Int32) (f : Nat → ix_O) : (ix_atr (hw h F A) 101 (ix_fR (hw h F A) m 39) i).bind f = cond (ix_in i 90) (f (m + 24)) none := by
  have hS := hS
  rw [hw_fR, hw_atr]
  simp only [hS]
  cases ix_in i 90 <;> rfl
theorem mp_wr39 {h : ix_H} {m : Nat} (hS : mSh h m) (F A : Nat → Nat → Int32) (i : Int32) (f : Nat → ix_O) : (ix_at (hw h F A) 101 (ix_fR (hw h F A) m 39) i).bind f = cond (ix_in i 90) (f (m + 24)) none := by
  have hS := hS
  rw [hw_fR, hw_at]
  simp only [hS]
  cases ix_in i 90 <;> rfl
theorem mp_rd43 {h : ix_H} {m : Nat} (hS : mSh h m) (F A : Nat → Nat → Int32) (i : Int32) (f : Nat → ix_O) : (ix_atr (hw h F A) 101 (ix_fR (hw h F A) m 43) i).bind f = cond (ix_in i 90) (f (m + 25)) none := by
  have hS := hS
  rw [hw_fR, hw_atr]
  simp only [hS]
  cases ix_in i 90 <;> rfl
theorem mp_wr43 {h : ix_H} {m : Nat} (hS : mSh h m) (F A : Nat → Nat → Int32) (i : Int32) (f : Nat → ix_O) : (ix_at (hw h F A) 101 (ix_fR (hw h F A) m 43) i).bind f = cond (ix_in i 90) (f (m + 25)) none := by
  have hS := hS
  rw [hw_fR, hw_at]
  simp only [hS]
  cases ix_in i 90 <;> rfl
theorem mp_rd44 {h : ix_H} {m : Nat} (hS : mSh h m) (F A : Nat → Nat → Int32) (i : Int32) (f : Nat → ix_O) : (ix_atr (hw h F A) 101 (ix_fR (hw h F A) m 44) i).bind f = cond (ix_in i 90) (f (m + 26)) none := by
  have hS := hS
  rw [hw_fR, hw_atr]
  simp only [hS]
  cases ix_in i 90 <;> rfl
theorem mp_wr44 {h : ix_H} {m : Nat} (hS : mSh h m) (F A : Nat → Nat → Int32) (i : Int32) (f : Nat → ix_O) : (ix_at (hw h F A) 101 (ix_fR (hw h F A) m 44) i).bind f = cond (ix_in i 90) (f (m + 26)) none := by
  have hS := hS
  rw [hw_fR, hw_at]
  simp only [hS]
  cases ix_in i 90 <;> rfl
theorem mp_rd46 {h : ix_H} {m : Nat} (hS : mSh h m) (F A : Nat → Nat → Int32) (i : Int32) (f : Nat → ix_O) : (ix_atr (hw h F A) 101 (ix_fR (hw h F A) m 46) i).bind f = cond (ix_in i 200) (f (m + 27)) none := by
  have hS := hS
  rw [hw_fR, hw_atr]
  simp only [hS]
  cases ix_in i 200 <;> rfl
theorem mp_wr46 {h : ix_H} {m : Nat} (hS : mSh h m) (F A : Nat → Nat → Int32) (i : Int32) (f : Nat → ix_O) : (ix_at (hw h F A) 101 (ix_fR (hw h F A) m 46) i).bind f = cond (ix_in i 200) (f (m + 27)) none := by
  have hS := hS
  rw [hw_fR, hw_at]
  simp only [hS]
  cases ix_in i 200 <;> rfl
theorem mp_rd47 {h : ix_H} {m : Nat} (hS : mSh h m) (F A : Nat → Nat → Int32) (i : Int32) (f : Nat → ix_O) : (ix_atr (hw h F A) 101 (ix_fR (hw h F A) m 47) i).bind f = cond (ix_in i 200) (f (m + 28)) none := by
  have hS := hS
  rw [hw_fR, hw_atr]
  simp only [hS]
  cases ix_in i 200 <;> rfl
theorem mp_wr47 {h : ix_H} {m : Nat} (hS : mSh h m) (F A : Nat → Nat → Int32) (i : Int32) (f : Nat → ix_O) : (ix_at (hw h F A) 101 (ix_fR (hw h F A) m 47) i).bind f = cond (ix_in i 200) (f (m + 28)) none := by
  have hS := hS
  rw [hw_fR, hw_at]
  simp only [hS]
  cases ix_in i 200 <;> rfl
theorem mp_rd49 {h : ix_H} {m : Nat} (hS : mSh h m) (F A : Nat → Nat → Int32) (i : Int32) (f : Nat → ix_O) : (ix_atr (hw h F A) 101 (ix_fR (hw h F A) m 49) i).bind f = cond (ix_in i 14100) (f (m + 29)) none := by
  have hS := hS
  rw [hw_fR, hw_atr]
  simp only [hS]
  cases ix_in i 14100 <;> rfl
theorem mp_wr49 {h : ix_H} {m : Nat} (hS : mSh h m) (F A : Nat → Nat → Int32) (i : Int32) (f : Nat → ix_O) : (ix_at (hw h F A) 101 (ix_fR (hw h F A) m 49) i).bind f = cond (ix_in i 14100) (f (m + 29)) none := by
  have hS := hS
  rw [hw_fR, hw_at]
  simp only [hS]
  cases ix_in i 14100 <;> rfl
theorem mp_rd50 {h : ix_H} {m : Nat} (hS : mSh h m) (F A : Nat → Nat → Int32) (i : Int32) (f : Nat → ix_O) : (ix_atr (hw h F A) 101 (ix_fR (hw h F A) m 50) i).bind f = cond (ix_in i 200) (f (m + 30)) none := by
  have hS := hS
  rw [hw_fR, hw_atr]
  simp only [hS]
  cases ix_in i 200 <;> rfl
theorem mp_wr50 {h : ix_H} {m : Nat} (hS : mSh h m) (F A : Nat → Nat → Int32) (i : Int32) (f : Nat → ix_O) : (ix_at (hw h F A) 101 (ix_fR (hw h F A) m 50) i).bind f = cond (ix_in i 200) (f (m + 30)) none := by
  have hS := hS
  rw [hw_fR, hw_at]
  simp only [hS]
  cases ix_in i 200 <;> rfl
theorem mp_rd51 {h : ix_H} {m : Nat} (hS : mSh h m) (F A : Nat → Nat → Int32) (i : Int32) (f : Nat → ix_O) : (ix_atr (hw h F A) 101 (ix_fR (hw h F A) m 51) i).bind f = cond (ix_in i 200) (f (m + 31)) none := by
  have hS := hS
  rw [hw_fR, hw_atr]
  simp only [hS]
  cases ix_in i 200 <;> rfl
theorem mp_wr51 {h : ix_H} {m : Nat} (hS : mSh h m) (F A : Nat → Nat → Int32) (i : Int32) (f : Nat → ix_O) : (ix_at (hw h F A) 101 (ix_fR (hw h F A) m 51) i).bind f = cond (ix_in i 200) (f (m + 31)) none := by
  have hS := hS
  rw [hw_fR, hw_at]
  simp only [hS]
  cases ix_in i 200 <;> rfl
theorem mp_rd53 {h : ix_H} {m : Nat} (hS : mSh h m) (F A : Nat → Nat → Int32) (i : Int32) (f : Nat → ix_O) : (ix_atr (hw h F A) 105 (ix_fR (hw h F A) m 53) i).bind f = cond (ix_in i 3) (f (m + 32)) none := by
  have hS := hS
  rw [hw_fR, hw_atr]
  simp only [hS]
  cases ix_in i 3 <;> rfl
theorem mp_wr53 {h : ix_H} {m : Nat} (hS : mSh h m) (F A : Nat → Nat → Int32) (i : Int32) (f : Nat → ix_O) : (ix_at (hw h F A) 105 (ix_fR (hw h F A) m 53) i).bind f = cond (ix_in i 3) (f (m + 32)) none := by
  have hS := hS
  rw [hw_fR, hw_at]
  simp only [hS]
  cases ix_in i 3 <;> rfl
theorem mp_rd54 {h : ix_H} {m : Nat} (hS : mSh h m) (F A : Nat → Nat → Int32) (i : Int32) (f : Nat → ix_O) : (ix_atr (hw h F A) 101 (ix_fR (hw h F A) m 54) i).bind f = cond (ix_in i 411900) (f (m + 33)) none := by
  have hS := hS
  rw [hw_fR, hw_atr]
  simp only [hS]
  cases ix_in i 411900 <;> rfl
theorem mp_wr54 {h : ix_H} {m : Nat} (hS : mSh h m) (F A : Nat → Nat → Int32) (i : Int32) (f : Nat → ix_O) : (ix_at (hw h F A) 101 (ix_fR (hw h F A) m 54) i).bind f = cond (ix_in i 411900) (f (m + 33)) none := by
  have hS := hS
  rw [hw_fR, hw_at]
  simp only [hS]
  cases ix_in i 411900 <;> rfl
