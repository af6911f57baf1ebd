set_option maxRecDepth 100000
/-! the model's calls: chains -/
def mChase (s : mS) (k : Nat) (g : Int) : Nat → Int → Int
  | 0, v => v
  | f + 1, v => if v = -1 ∨ v = g then v else mChase s k g f (s.2 k v)
theorem cnt_lt {p : Int → Bool} {t : Int} (h0 : 0 ≤ t) (hp : p t = false) : ∀ n : Nat, t < n → cnt p n < n
  | 0, h => by omega
  | n + 1, h => by
    unfold cnt
    have h9 := cnt_le p n
    by_cases ht : t = n
    · subst ht
      rw [hp]
      simp only [Bool.false_eq_true, if_false]
      omega
    · have := cnt_lt h0 hp n (by omega)
      split <;> omega
theorem cnt_sub {p q : Int → Bool} (hs : ∀ u, p u = true → q u = true) : ∀ n : Nat, cnt p n ≤ cnt q n
  | 0 => Nat.le_refl _
  | n + 1 => by
    unfold cnt
    have := cnt_sub hs n
    by_cases hp : p n = true
    · rw [if_pos hp, if_pos (hs _ hp)]
      omega
    · rw [if_neg hp]
      split <;> omega
theorem cnt_lt2 {p q : Int → Bool} {t : Int} (h0 : 0 ≤ t) (hs : ∀ u, p u = true → q u = true) (hp : p t = false) (hq : q t = true) : ∀ n : Nat, t < n → cnt p n < cnt q n
  | 0, h => by omega
  | n + 1, h => by
    unfold cnt
    by_cases ht : t = n
    · subst ht
      have := cnt_sub hs n
      rw [hp, hq]
      simp only [Bool.false_eq_true, if_false, if_true]
      omega
    · have := cnt_lt2 h0 hs hp hq n (by omega)
      by_cases hp2 : p n = true
      · rw [if_pos hp2, if_pos (hs _ hp2)]
        omega
      · rw [if_neg hp2]
        split <;> omega
theorem acyc_of {s : mS} {k : Nat} {m : Int} (rk : Int → Nat) (hr : ∀ i, 0 ≤ i → i < m → s.2 k i ≠ -1 → (0 ≤ s.2 k i ∧ s.2 k i < m) ∧ rk (s.2 k i) < rk i) : acyc s k m := by
  refine ⟨fun i => cnt (fun u => decide (rk u < rk i)) m.toNat, fun i h0 h1 => ?_, fun i h0 h1 hn => ?_⟩
  · have := cnt_lt (p := fun u => decide (rk u < rk i)) h0 (by simp) m.toNat (by omega)
    show ((cnt (fun u => decide (rk u < rk i)) m.toNat : Nat) : Int) < m
    omega
  · obtain ⟨⟨a, b⟩, c⟩ := hr i h0 h1 hn
    exact cnt_lt2 (t := s.2 k i) a (fun u hu => by simp only [decide_eq_true_eq] at hu ⊢; omega) (by simp) (by simpa using c) m.toNat (by omega)
section MP8
variable {s : mS} {k : Nat} {m g : Int} {rk : Int → Nat}
theorem mChase_st (hb : ∀ i, 0 ≤ i → i < m → -1 ≤ s.2 k i ∧ s.2 k i < m) (hr : ∀ i, 0 ≤ i → i < m → s.2 k i ≠ -1 → rk (s.2 k i) < rk i) : ∀ (f : Nat) (v : Int), (v = -1 ∨ (0 ≤ v ∧ v < m ∧ rk v < f)) → mChase s k g (f + 1) v = mChase s k g f v
  | 0, v, h => by
    have hv : v = -1 := by
      rcases h with h | h
      · exact h
      · omega
    unfold mChase mChase
    rw [if_pos (Or.inl hv)]
  | f + 1, v, h => by
    unfold mChase
    split
    · rfl
    · next hc =>
      have hv : 0 ≤ v ∧ v < m ∧ rk v < f + 1 := by
        rcases h with h | h
        · exact absurd (Or.inl h) hc
        · exact h
      have h9 := hb v hv.1 hv.2.1
      apply mChase_st hb hr f
      by_cases hn : s.2 k v = -1
      · exact Or.inl hn
      · have := hr v hv.1 hv.2.1 hn
        exact Or.inr ⟨by omega, by omega, by omega⟩
theorem acyc_set {F : Nat} (hm : (F : Int) = m) (h : acyc s k m) (hb : ∀ i, 0 ≤ i → i < m → -1 ≤ s.2 k i ∧ s.2 k i < m) (hg : 0 ≤ g ∧ g < m) {o : Int} (ho : -1 ≤ o ∧ o < m) (hc : mChase s k g F o = -1) : acyc (mA s k g o) k m := by
  obtain ⟨rk, r1, r2⟩ := h
  have hst : ∀ v, (v = -1 ∨ (0 ≤ v ∧ v < m)) → mChase s k g (F + 1) v = mChase s k g F v := fun v hv => mChase_st hb r2 F v (hv.imp id (fun q => ⟨q.1, q.2, by have := r1 v q.1 q.2; omega⟩))
  refine acyc_of (fun t => if mChase s k g F t = g then rk t + rk o + 1 else rk t) (fun i h0 h1 hn => ?_)
  have hv : (mA s k g o).2 k i = if i = g then o else s.2 k i := by
    show (if k = k ∧ i = g then o else s.2 k i) = _
    by_cases hi : i = g
    · rw [if_pos ⟨rfl, hi⟩, if_pos hi]
    · rw [if_neg (fun w => hi w.2), if_neg hi]
  rw [hv] at hn ⊢
  by_cases hi : i = g
  · rw [if_pos hi] at hn ⊢
    refine ⟨⟨by omega, by omega⟩, ?_⟩
    have e1 : mChase s k g F i = g := by
      rw [← hst i (Or.inr ⟨h0, h1⟩)]
      unfold mChase
      rw [if_pos (Or.inr hi)]
      exact hi
    rw [if_neg (by rw [hc]; omega), if_pos e1]
    omega
  · rw [if_neg hi] at hn ⊢
    have h9 := hb i h0 h1
    refine ⟨⟨by omega, by omega⟩, ?_⟩
    have e1 : mChase s k g F i = mChase s k g F (s.2 k i) := by
      rw [← hst i (Or.inr ⟨h0, h1⟩)]
      show (if i = -1 ∨ i = g then i else mChase s k g F (s.2 k i)) = _
      rw [if_neg (fun q => by omega)]
    have := r2 i h0 h1 hn
    rw [← e1]
    split <;> omega
end MP8
