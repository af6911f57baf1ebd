set_option maxRecDepth 100000
/-! the model's lines: what stands at each line -/
/-- a line as it is laid: no notes yet; head, first, long -/
def LN (x : mL) (i : Int) : Prop :=
  x.1.2 18 i = 0 ∧ (x.1.2 19 i = 0 ∨ x.1.2 19 i = 1) ∧ (x.1.2 20 i = 0 ∨ x.1.2 20 i = 1) ∧ (x.1.2 21 i = 0 ∨ (x.1.2 21 i = 1 ∧ x.1.2 20 i = 1 ∧ x.1.2 19 i = 0 ∧ i + 1 < x.1.1 14))
def LI2 (x : mL) : Prop := (∀ i, 0 ≤ i → i < x.1.1 14 → LN x i) ∧ (x.2.2.1 = 1 → x.1.2 20 x.2.2.2 = 1 ∧ x.1.2 19 x.2.2.2 = 0)
theorem LI2_step {s0 : mS} {r n : Int} {x : mL} (hI : LI s0 n x) (h2 : LI2 x) : LI2 (mLn r x n) := by
  obtain ⟨i1, i2, i3, i4, i5, i6, i7⟩ := hI
  obtain ⟨j1, j2⟩ := h2
  unfold mLn
  split
  · exact ⟨fun i a b => j1 i a b, fun w => absurd (show (0 : Int) = 1 from w) (by decide)⟩
  split
  · refine ⟨fun i a b => ?_, fun w => absurd (show (0 : Int) = 1 from w) (by decide)⟩
    have b : i < x.1.1 14 + 1 := b
    by_cases hi : i = x.1.1 14
    · subst hi
      simp [LN, mNew, mA, mF]
    · obtain ⟨q1, q2, q3, q4⟩ := j1 i a (by omega)
      simp only [LN, mNew, mA, mF]
      simp [hi]
      exact ⟨q1, q2, q3, by omega⟩
  split
  · split
    · refine ⟨fun i a b => ?_, fun w => ?_⟩
      · have b : i < x.1.1 14 + 1 := b
        by_cases hi : i = x.1.1 14
        · subst hi
          simp [LN, mNew, mA, mF]
        · obtain ⟨q1, q2, q3, q4⟩ := j1 i a (by omega)
          simp only [LN, mNew, mA, mF]
          simp [hi]
          exact ⟨q1, q2, q3, by omega⟩
      · simp [mNew, mA, mF]
    · next ho =>
      split
      · exact ⟨fun i a b => j1 i a b, fun w => j2 w⟩
      · have hop : x.2.2.1 = 1 ∧ 0 ≤ x.2.2.2 ∧ x.2.2.2 < x.1.1 14 := by
          rcases i5 with h9 | h9
          · exact absurd h9 ho
          · exact h9
        obtain ⟨o1, o2, o3⟩ := hop
        obtain ⟨p1, p2⟩ := j2 o1
        refine ⟨fun i a b => ?_, fun w => ?_⟩
        · have b : i < x.1.1 14 + 1 := b
          by_cases hi : i = x.1.1 14
          · subst hi
            have hne : ¬ x.1.1 14 = x.2.2.2 := by omega
            simp [LN, mNew, mA, mF, hne]
          · obtain ⟨q1, q2, q3, q4⟩ := j1 i a (by omega)
            by_cases hb : i = x.2.2.2
            · subst hb
              simp only [LN, mNew, mA, mF]
              simp [hi]
              exact ⟨q1, q2, q3, p1, p2, by omega⟩
            · simp only [LN, mNew, mA, mF]
              simp [hi, hb]
              exact ⟨q1, q2, q3, by omega⟩
        · have hne : ¬ x.2.2.2 = x.1.1 14 := by omega
          simp [mNew, mA, mF, hne]
          exact ⟨p1, p2⟩
  · exact ⟨fun i a b => j1 i a b, fun w => j2 w⟩
theorem LI2_all {s0 : mS} {r : Int} (hT : TI s0) (hB : MB s0) (hr : 0 ≤ r ∧ r < 4) : ∀ n : Nat, (n : Int) ≤ s0.1 0 → LI2 (mLines0 s0 r n)
  | 0, _ => ⟨fun i a b => by have b : i < 0 := b; omega, fun w => absurd w (by show ¬ (0 : Int) = 1; omega)⟩
  | n + 1, h => LI2_step (LI_all hT hB hr n (by omega)) (LI2_all hT hB hr n (by omega))
/-! what hangs -/
def mHs (x : mS × Int) (t : Int) : mS × Int :=
  if mHg x.1 t then (if x.1.2 1 t = 5 ∧ x.2 ≠ -1 then (mA (mA x.1 15 t x.2) 18 x.2 (x.1.2 18 x.2 + x.1.2 2 t), x.2) else (mA x.1 15 t x.2, x.2))
  else (x.1, if x.1.2 15 t = -1 then x.2 else x.1.2 15 t)
def mHang0 (s : mS) : Nat → mS × Int := fun n => iter mHs n (s, if s.1 14 = 0 then -1 else 0)
/-- what holds when n tokens have been hung; s1: the state ahead -/
def HI (s1 : mS) (n : Int) (x : mS × Int) : Prop :=
  MB x.1 ∧ x.1.1 = s1.1 ∧ (∀ k, k ≠ 15 → k ≠ 18 → x.1.2 k = s1.2 k) ∧ (-1 ≤ x.2 ∧ x.2 < s1.1 14) ∧ (0 < s1.1 14 → 0 ≤ x.2) ∧
  (∀ t, n ≤ t → x.1.2 15 t = s1.2 15 t) ∧ (∀ t, 0 ≤ t → t < n → -1 ≤ x.1.2 15 t ∧ x.1.2 15 t < s1.1 14) ∧ (∀ i, 0 ≤ i → i < s1.1 14 → 0 ≤ x.1.2 18 i ∧ x.1.2 18 i ≤ 4 * n)
theorem HI_step {s1 : mS} {n : Int} {x : mS × Int} (hT : TI s1) (h64 : 0 ≤ s1.1 14 ∧ s1.1 14 ≤ 64) (hl : ∀ t, 0 ≤ t → t < s1.1 0 → -1 ≤ s1.2 15 t ∧ s1.2 15 t < s1.1 14) (hI : HI s1 n x) (h0 : 0 ≤ n) (hn : n < s1.1 0) : HI s1 (n + 1) (mHs x n) := by
  obtain ⟨i1, i2, i3, i4, i5, i6, i7, i8⟩ := hI
  have hT0 := hT.1
  have hk := hT.tok h0 hn
  unfold TK at hk
  rw [← i3 1 (by omega) (by omega), ← i3 2 (by omega) (by omega)] at hk
  unfold mHs
  split
  · split
    · next hc =>
      have hx : 0 ≤ x.2 := by omega
      have h8 := i8 x.2 hx i4.2
      refine ⟨(i1.A ⟨by omega, by omega⟩).A ⟨by omega, by omega⟩, i2, fun k k1 k2 => ?_, i4, i5, fun t ht => ?_, fun t t0 t1 => ?_, fun i a b => ?_⟩
      · funext z
        show (if k = 18 ∧ z = x.2 then x.1.2 18 x.2 + x.1.2 2 n else if k = 15 ∧ z = n then x.2 else x.1.2 k z) = s1.2 k z
        rw [if_neg (fun w => k2 w.1), if_neg (fun w => k1 w.1), i3 k k1 k2]
      · show (if 15 = 18 ∧ t = x.2 then x.1.2 18 x.2 + x.1.2 2 n else if 15 = 15 ∧ t = n then x.2 else x.1.2 15 t) = s1.2 15 t
        rw [if_neg (fun w => absurd w.1 (by omega)), if_neg (fun w => by omega)]
        exact i6 t (by omega)
      · show -1 ≤ (if 15 = 18 ∧ t = x.2 then x.1.2 18 x.2 + x.1.2 2 n else if 15 = 15 ∧ t = n then x.2 else x.1.2 15 t) ∧ (if 15 = 18 ∧ t = x.2 then x.1.2 18 x.2 + x.1.2 2 n else if 15 = 15 ∧ t = n then x.2 else x.1.2 15 t) < s1.1 14
        rw [if_neg (fun w => absurd w.1 (by omega))]
        by_cases ht : t = n
        · rw [if_pos ⟨rfl, ht⟩]; exact i4
        · rw [if_neg (fun w => ht w.2)]; exact i7 t t0 (by omega)
      · show 0 ≤ (if 18 = 18 ∧ i = x.2 then x.1.2 18 x.2 + x.1.2 2 n else if 18 = 15 ∧ i = n then x.2 else x.1.2 18 i) ∧ (if 18 = 18 ∧ i = x.2 then x.1.2 18 x.2 + x.1.2 2 n else if 18 = 15 ∧ i = n then x.2 else x.1.2 18 i) ≤ 4 * (n + 1)
        by_cases hi : i = x.2
        · rw [if_pos ⟨rfl, hi⟩]
          have := hk.2.2.2.2.2 hc.1
          omega
        · rw [if_neg (fun w => hi w.2), if_neg (fun w => absurd w.1 (by omega))]
          have := i8 i a b
          omega
    · refine ⟨i1.A ⟨by omega, by omega⟩, i2, fun k k1 k2 => ?_, i4, i5, fun t ht => ?_, fun t t0 t1 => ?_, fun i a b => ?_⟩
      · funext z
        show (if k = 15 ∧ z = n then x.2 else x.1.2 k z) = s1.2 k z
        rw [if_neg (fun w => k1 w.1), i3 k k1 k2]
      · show (if 15 = 15 ∧ t = n then x.2 else x.1.2 15 t) = s1.2 15 t
        rw [if_neg (fun w => by omega)]
        exact i6 t (by omega)
      · show -1 ≤ (if 15 = 15 ∧ t = n then x.2 else x.1.2 15 t) ∧ (if 15 = 15 ∧ t = n then x.2 else x.1.2 15 t) < s1.1 14
        by_cases ht : t = n
        · rw [if_pos ⟨rfl, ht⟩]; exact i4
        · rw [if_neg (fun w => ht w.2)]; exact i7 t t0 (by omega)
      · show 0 ≤ (if 18 = 15 ∧ i = n then x.2 else x.1.2 18 i) ∧ (if 18 = 15 ∧ i = n then x.2 else x.1.2 18 i) ≤ 4 * (n + 1)
        rw [if_neg (fun w => absurd w.1 (by omega))]
        have := i8 i a b
        omega
  · have h15 : -1 ≤ x.1.2 15 n ∧ x.1.2 15 n < s1.1 14 := by
      rw [i6 n (by omega)]
      exact hl n h0 hn
    refine ⟨i1, i2, i3, ?_, ?_, fun t ht => i6 t (by omega), fun t t0 t1 => ?_, fun i a b => ?_⟩
    · show -1 ≤ (if x.1.2 15 n = -1 then x.2 else x.1.2 15 n) ∧ (if x.1.2 15 n = -1 then x.2 else x.1.2 15 n) < s1.1 14
      split
      · exact i4
      · exact h15
    · intro w
      show 0 ≤ (if x.1.2 15 n = -1 then x.2 else x.1.2 15 n)
      split
      · exact i5 w
      · omega
    · by_cases ht : t = n
      · rw [ht]; exact h15
      · exact i7 t t0 (by omega)
    · have := i8 i a b
      show 0 ≤ x.1.2 18 i ∧ x.1.2 18 i ≤ 4 * (n + 1)
      omega
