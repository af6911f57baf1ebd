set_option maxRecDepth 100000
/-! what is told stays as it must be -/
section MP7
variable {s : mS}
theorem mPut_at {p k a st z : Int} : (mPut s p k a st).2 1 z = (if z = p then k else if p < z ∧ z ≤ s.1 0 then s.2 1 (z - 1) else s.2 1 z) ∧ (mPut s p k a st).2 2 z = (if z = p then a else if p < z ∧ z ≤ s.1 0 then s.2 2 (z - 1) else s.2 2 z) ∧ (mPut s p k a st).2 3 z = (if z = p then st else if p < z ∧ z ≤ s.1 0 then s.2 3 (z - 1) else s.2 3 z) := by
  refine ⟨?_, ?_, ?_⟩ <;> simp [mPut, mA, mF, mSh]
theorem mPut_ne {p k a st : Int} {j : Nat} (hj : j ≠ 1 ∧ j ≠ 2 ∧ j ≠ 3) : (mPut s p k a st).2 j = s.2 j := by
  funext z
  simp [mPut, mA, mF, mSh, hj]
theorem TI_put (hT : TI s) (h64 : s.1 0 < 64) {p k a st : Int} (hp : 0 ≤ p ∧ p ≤ s.1 0) (hk : 0 ≤ k ∧ k ≤ 6) (hf : mFine k a st) : TI (mPut s p k a st) := by
  obtain ⟨t1, t2, t3, t4, t5, t6, t7, t8, t9, t10, t11, t12⟩ := hT
  have e4 : (mPut s p k a st).2 4 = s.2 4 := mPut_ne (by omega)
  have e5 : (mPut s p k a st).2 5 = s.2 5 := mPut_ne (by omega)
  have e6 : (mPut s p k a st).2 6 = s.2 6 := mPut_ne (by omega)
  have e7 : (mPut s p k a st).2 7 = s.2 7 := mPut_ne (by omega)
  have e11 : (mPut s p k a st).2 11 = s.2 11 := mPut_ne (by omega)
  refine ⟨⟨by show 0 ≤ s.1 0 + 1; omega, by show s.1 0 + 1 ≤ 64; omega⟩, fun t h0 h1 => ?_, by rw [e7]; exact t3, by rw [e4, e5, e6]; exact t4, t5, t6, t7, by rw [e11]; exact t8, t9, t10, by unfold acyc; rw [e4]; exact t11, by unfold acyc; rw [e11]; exact t12⟩
  have h1 : t < s.1 0 + 1 := h1
  obtain ⟨a1, a2, a3⟩ := mPut_at (s := s) (p := p) (k := k) (a := a) (st := st) (z := t)
  unfold TK
  rw [a1, a2, a3]
  by_cases hz : t = p
  · simp only [if_pos hz]
    obtain ⟨f1, f2, f3, f4, f5, f6⟩ := hf
    have f7 : st ≤ 5 := by
      have := f1.2
      split at this <;> omega
    omega
  · simp only [if_neg hz]
    by_cases hc : p < t ∧ t ≤ s.1 0
    · simp only [if_pos hc]
      exact t2 (t - 1) (by omega) (by omega)
    · simp only [if_neg hc]
      exact t2 t h0 (by omega)
theorem TI_take (hT : TI s) {p : Int} (hp : 0 ≤ p ∧ p < s.1 0) : TI (mTake s p) := by
  obtain ⟨t1, t2, t3, t4, t5, t6, t7, t8, t9, t10, t11, t12⟩ := hT
  have e : ∀ j : Nat, j ≠ 1 ∧ j ≠ 2 ∧ j ≠ 3 → (mTake s p).2 j = s.2 j := by
    intro j hj
    funext z
    show (if (j = 1 ∨ j = 2 ∨ j = 3) ∧ p ≤ z ∧ z < s.1 0 - 1 then s.2 j (z + 1) else s.2 j z) = s.2 j z
    rw [if_neg (fun w => by omega)]
  have e4 := e 4 (by omega)
  have e5 := e 5 (by omega)
  have e6 := e 6 (by omega)
  have e7 := e 7 (by omega)
  have e11 := e 11 (by omega)
  refine ⟨⟨by show 0 ≤ s.1 0 - 1; omega, by show s.1 0 - 1 ≤ 64; omega⟩, fun t h0 h1 => ?_, by rw [e7]; exact t3, by rw [e4, e5, e6]; exact t4, t5, t6, t7, by rw [e11]; exact t8, t9, t10, by unfold acyc; rw [e4]; exact t11, by unfold acyc; rw [e11]; exact t12⟩
  have h1 : t < s.1 0 - 1 := h1
  have ea : ∀ j : Nat, j = 1 ∨ j = 2 ∨ j = 3 → (mTake s p).2 j t = (if p ≤ t then s.2 j (t + 1) else s.2 j t) := by
    intro j hj
    show (if (j = 1 ∨ j = 2 ∨ j = 3) ∧ p ≤ t ∧ t < s.1 0 - 1 then s.2 j (t + 1) else s.2 j t) = _
    by_cases hc : p ≤ t
    · rw [if_pos ⟨hj, hc, h1⟩, if_pos hc]
    · rw [if_neg (fun w => hc w.2.1), if_neg hc]
  unfold TK
  rw [ea 1 (by omega), ea 2 (by omega), ea 3 (by omega)]
  by_cases hc : p ≤ t
  · simp only [if_pos hc]
    exact t2 (t + 1) (by omega) (by omega)
  · simp only [if_neg hc]
    exact t2 t h0 (by omega)
theorem TI_data (hT : TI s) {z x : Int} (hx : 0 ≤ x ∧ x ≤ 9) : TI (mA s 7 z x) := by
  obtain ⟨t1, t2, t3, t4⟩ := hT
  refine ⟨t1, t2, fun i a b => ?_, t4⟩
  show 0 ≤ (if 7 = 7 ∧ i = z then x else s.2 7 i) ∧ (if 7 = 7 ∧ i = z then x else s.2 7 i) ≤ 9
  by_cases hi : i = z
  · rw [if_pos ⟨rfl, hi⟩]; exact hx
  · rw [if_neg (fun w => hi w.2)]; exact t3 i a b
theorem TI_grid (hT : TI s) {a b c : Int} (ha : 5 ≤ a ∧ a ≤ 20) (hb : 3 ≤ b ∧ b ≤ 20) (hc : 1 ≤ c ∧ c ≤ 2) : TI (mF (mF (mF s 8 a) 9 b) 10 c) := by
  obtain ⟨t1, t2, t3, t4, t5, t6, t7, t8⟩ := hT
  exact ⟨t1, t2, t3, t4, ha, hb, hc, t8⟩
theorem TI_fold (hT : TI s) {a b : Int} (ha : a = 4 ∨ a = 8 ∨ a = 16) (hb : 0 ≤ b ∧ b ≤ 9) : TI (mF (mF s 12 a) 13 b) := by
  obtain ⟨t1, t2, t3, t4, t5, t6, t7, t8, t9, t10, t11⟩ := hT
  exact ⟨t1, t2, t3, t4, t5, t6, t7, t8, ha, hb, t11⟩
end MP7
