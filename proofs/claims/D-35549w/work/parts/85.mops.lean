set_option maxRecDepth 100000
/-! rows of lines; what is kept -/
abbrev mR3 : Type := Int × Int × Int
/-- the tokens printed on line i, below n -/
def mOn (s : mS) (i : Int) (n : Nat) : List Nat := (List.range n).filter fun (t : Nat) => decide (s.2 15 (t : Int) = i ∧ ¬ mHg s (t : Int))
def mRow (s : mS) (r t : Int) : mR3 := (s.2 1 t, mWide s r t, mEff 6 s (s.2 3 t))
def mRows (s : mS) (r i : Int) (n : Nat) : List mR3 := (mOn s i n).map fun (t : Nat) => mRow s r (t : Int)
def mRowsAll (s : mS) (r : Int) (n m : Nat) : List (List mR3) := (List.range n).map fun (i : Nat) => mRows s r (i : Int) m
/-- what is kept -/
def KR (s : mS) (ks : List (List mR3)) : Prop := s.1 31 = (ks.length : Nat) ∧ ks.length ≤ 64 ∧ ks.flatten.length ≤ 64 ∧ (∀ i : Nat, i ≤ ks.length → s.2 32 (i : Int) = ((ks.take i).flatten.length : Nat)) ∧ ∀ j : Nat, j < ks.flatten.length → (s.2 33 (j : Int), s.2 34 (j : Int), s.2 35 (j : Int)) = ks.flatten.getD j (0, 0, 0)
/-- the same but for what is kept -/
def kq (x y : mS) : Prop := (∀ k, k ≠ 31 → y.1 k = x.1 k) ∧ ∀ k, k < 32 ∨ 35 < k → y.2 k = x.2 k
/-- the same of what is told -/
def tq (x y : mS) : Prop := (∀ k, k = 0 ∨ k = 8 ∨ k = 9 ∨ k = 10 ∨ k = 12 ∨ k = 13 → y.1 k = x.1 k) ∧ ∀ k, k = 1 ∨ k = 2 ∨ k = 3 ∨ k = 4 ∨ k = 5 ∨ k = 6 ∨ k = 7 ∨ k = 11 → y.2 k = x.2 k
section TQ
variable {x y : mS}
theorem kq.tq (h : kq x y) : tq x y := ⟨fun k hk => h.1 k (by omega), fun k hk => h.2 k (by omega)⟩
theorem tq_told (h : told y = told x) : tq x y := ⟨fun k hk => told_f h k (by omega), fun k hk => told_a h k (by omega)⟩
theorem TI.of_tq (h : tq x y) (hT : TI x) : TI y := by
  have f0 := h.1 0 (by simp)
  have f8 := h.1 8 (by simp)
  have f9 := h.1 9 (by simp)
  have f10 := h.1 10 (by simp)
  have f12 := h.1 12 (by simp)
  have f13 := h.1 13 (by simp)
  have a1 := h.2 1 (by simp)
  have a2 := h.2 2 (by simp)
  have a3 := h.2 3 (by simp)
  have a4 := h.2 4 (by simp)
  have a5 := h.2 5 (by simp)
  have a6 := h.2 6 (by simp)
  have a7 := h.2 7 (by simp)
  have a11 := h.2 11 (by simp)
  unfold TI acyc TK at hT ⊢
  rw [f0, f8, f9, f10, f12, f13, a1, a2, a3, a4, a5, a6, a7, a11]
  exact hT
theorem mRoot_tq (h : tq x y) {k : Nat} (hk : k = 5 ∨ k = 6) : ∀ f v, mRoot k y f v = mRoot k x f v
  | 0, v => rfl
  | f + 1, v => by
    unfold mRoot
    rw [h.2 k (by omega), h.2 4 (by omega), mRoot_tq h hk f]
theorem mEff_tq (h : tq x y) {k : Nat} (hk : k = 5 ∨ k = 6) (v : Int) : mEff k y v = mEff k x v := by
  unfold mEff
  rw [mRoot_tq h hk, h.2 k (by omega)]
theorem mWide_tq (h : tq x y) (r t : Int) : mWide y r t = mWide x r t := by
  unfold mWide
  rw [mEff_tq h (Or.inl rfl), h.2 1 (by omega), h.2 2 (by omega), h.2 3 (by omega), h.2 7 (by omega)]
theorem mHg_tq (h : tq x y) (t : Int) : mHg y t ↔ mHg x t := by
  unfold mHg
  rw [h.2 1 (by omega)]
theorem mRow_tq (h : tq x y) (r t : Int) : mRow y r t = mRow x r t := by
  unfold mRow
  rw [mWide_tq h, mEff_tq h (Or.inr rfl), h.2 1 (by omega), h.2 3 (by omega)]
theorem mOn_succ {s : mS} {i : Int} {n : Nat} : mOn s i (n + 1) = if s.2 15 (n : Int) = i ∧ ¬ mHg s (n : Int) then mOn s i n ++ [n] else mOn s i n := by
  unfold mOn
  rw [List.range_succ, List.filter_append]
  by_cases h : s.2 15 (n : Int) = i ∧ ¬ mHg s (n : Int)
  · rw [if_pos h, List.filter_cons_of_pos (by simpa using h)]
    rfl
  · rw [if_neg h, List.filter_cons_of_neg (by simpa using h), List.filter_nil, List.append_nil]
theorem mRows_succ {s : mS} {r i : Int} {n : Nat} : mRows s r i (n + 1) = if s.2 15 (n : Int) = i ∧ ¬ mHg s (n : Int) then mRows s r i n ++ [mRow s r (n : Int)] else mRows s r i n := by
  unfold mRows
  rw [mOn_succ]
  split
  · rw [List.map_append]
    rfl
  · rfl
def mPi (s : mS) (i t : Int) : Int → Bool := fun u => decide (¬ mHg s u ∧ ((0 ≤ s.2 15 u ∧ s.2 15 u < i) ∨ (s.2 15 u = i ∧ u < t)))
theorem mOn_len {s : mS} {i : Nat} {m a : Nat} (ha : a = cnt (mPi s i 0) m) : ∀ t : Nat, t ≤ m → a + (mOn s i t).length = cnt (mPi s i t) m
  | 0, _ => by rw [ha]; rfl
  | t + 1, h => by
    have ih := mOn_len (s := s) (i := i) ha t (by omega)
    rw [mOn_succ]
    have hne : ∀ u : Int, u ≠ t → mPi s i ((t + 1 : Nat) : Int) u = mPi s i t u := by
      intro u hu
      apply decide_eq_decide.mpr
      constructor
      · rintro ⟨a, b | ⟨b, c⟩⟩
        · exact ⟨a, Or.inl b⟩
        · exact ⟨a, Or.inr ⟨b, by omega⟩⟩
      · rintro ⟨a, b | ⟨b, c⟩⟩
        · exact ⟨a, Or.inl b⟩
        · exact ⟨a, Or.inr ⟨b, by omega⟩⟩
    split
    · next hc =>
      have h1 := cnt_one (p := mPi s i t) (q := mPi s i ((t + 1 : Nat) : Int)) (t := (t : Int)) (by omega) (by
        unfold mPi
        rw [decide_eq_false]
        rintro ⟨a, b | ⟨b, c⟩⟩
        · omega
        · omega) (by
        unfold mPi
        exact decide_eq_true ⟨hc.2, Or.inr ⟨hc.1, by omega⟩⟩) hne m (by omega)
      rw [h1, List.length_append, ← ih]
      rfl
    · next hc =>
      rw [ih, cnt_congr]
      intro u _ _
      by_cases hu : u = t
      · subst hu
        unfold mPi
        apply decide_eq_decide.mpr
        constructor
        · rintro ⟨a, b | ⟨b, c⟩⟩
          · exact ⟨a, Or.inl b⟩
          · exact absurd ⟨b, a⟩ hc
        · rintro ⟨a, b | ⟨b, c⟩⟩
          · exact ⟨a, Or.inl b⟩
          · exact absurd ⟨b, a⟩ hc
      · exact (hne u hu).symm
theorem mRowsAll_succ {s : mS} {r : Int} {n m : Nat} : (mRowsAll s r (n + 1) m).flatten = (mRowsAll s r n m).flatten ++ mRows s r (n : Int) m := by
  unfold mRowsAll
  rw [List.range_succ, List.map_append, List.flatten_append]
  simp
theorem mAll_len {s : mS} {r : Int} {m : Nat} : ∀ i : Nat, (mRowsAll s r i m).flatten.length = cnt (mPi s i 0) m
  | 0 => by
    have h9 : ∀ n, cnt (mPi s ((0 : Nat) : Int) 0) n = 0 := by
      intro n
      induction n with
      | zero => rfl
      | succ n ih =>
        unfold cnt
        rw [ih, if_neg]
        unfold mPi
        intro w
        have := of_decide_eq_true w
        omega
    exact (h9 m).symm ▸ rfl
  | i + 1 => by
    rw [mRowsAll_succ, List.length_append]
    unfold mRows
    rw [List.length_map, mOn_len (mAll_len i) m (Nat.le_refl m)]
    apply cnt_congr
    intro u h0 h1
    unfold mPi
    apply decide_eq_decide.mpr
    constructor
    · rintro ⟨a, b | ⟨b, c⟩⟩
      · exact ⟨a, Or.inl (by omega)⟩
      · exact ⟨a, Or.inl (by omega)⟩
    · rintro ⟨a, b | ⟨b, c⟩⟩
      · by_cases w : s.2 15 u = i
        · exact ⟨a, Or.inr ⟨w, by omega⟩⟩
        · exact ⟨a, Or.inl (by omega)⟩
      · omega
/-- what is written when i lines are done and the tokens of the next one below t -/
def mFl (s : mS) (r : Int) (m i t : Nat) : List mR3 := (mRowsAll s r i m).flatten ++ mRows s r (i : Int) t
theorem mFl_len {s : mS} {r : Int} {m i t : Nat} (ht : t ≤ m) : (mFl s r m i t).length ≤ m := by
  unfold mFl mRows
  rw [List.length_append, List.length_map, mOn_len (mAll_len i) t ht]
  exact cnt_le _ _
theorem mFl_end {s : mS} {r : Int} {m i : Nat} : mFl s r m i m = mFl s r m (i + 1) 0 := by
  unfold mFl
  rw [mRowsAll_succ]
  show _ = _ ++ []
  rw [List.append_nil]
theorem mFl_0 {s : mS} {r : Int} {m i : Nat} : mFl s r m i 0 = (mRowsAll s r i m).flatten := List.append_nil _
end TQ
/-- keep, under way: x the state before it -/
def KI (x : mS) (r : Int) (m i t e : Nat) (v : Int) (y : mS) : Prop := MB y ∧ kq x y ∧ y.1 31 = x.1 14 ∧ v = ((mFl x r m i t).length : Nat) ∧ (∀ i' : Nat, i' < e → y.2 32 (i' : Int) = ((mRowsAll x r i' m).flatten.length : Nat)) ∧ ∀ j : Nat, j < (mFl x r m i t).length → (y.2 33 (j : Int), y.2 34 (j : Int), y.2 35 (j : Int)) = (mFl x r m i t).getD j (0, 0, 0)
theorem KI_from {x y : mS} {r v : Int} {m i : Nat} (h : KI x r m i 0 i v y) (hv : bd v) : KI x r m i 0 (i + 1) v (mA y 32 i v) := by
  obtain ⟨h1, h2, h3, h4, h5, h6⟩ := h
  refine ⟨h1.A hv, ⟨h2.1, fun k hk => ?_⟩, h3, h4, fun i' hi => ?_, fun j hj => ?_⟩
  · rw [← h2.2 k hk]
    funext z
    show (if k = 32 ∧ _ then _ else y.2 k z) = _
    rw [if_neg (by omega)]
  · show (if 32 = 32 ∧ (i' : Int) = i then v else y.2 32 (i' : Int)) = _
    by_cases w : i' = i
    · subst w
      rw [if_pos ⟨rfl, rfl⟩, h4, mFl_0]
    · rw [if_neg (by omega)]
      exact h5 i' (by omega)
  · exact h6 j hj
theorem getD_snoc {l : List mR3} {z d : mR3} {j : Nat} : (l ++ [z]).getD j d = if j < l.length then l.getD j d else if j = l.length then z else d := by
  simp only [List.getD_eq_getElem?_getD, List.getElem?_append]
  by_cases h1 : j < l.length
  · simp [h1]
  · by_cases h2 : j = l.length
    · subst h2
      simp
    · rw [if_neg h1, if_neg h1, if_neg h2, List.getElem?_eq_none (by simp; omega)]
      rfl
theorem KI_no {x y : mS} {r v : Int} {m i t e : Nat} (h : KI x r m i t e v y) (hc : ¬ (x.2 15 (t : Int) = i ∧ ¬ mHg x (t : Int))) : KI x r m i (t + 1) e v y := by
  have e1 : mFl x r m i (t + 1) = mFl x r m i t := by
    unfold mFl
    rw [mRows_succ, if_neg hc]
  unfold KI
  rw [e1]
  exact h
theorem KI_yes {x y : mS} {r v a b c : Int} {m i t e : Nat} (h : KI x r m i t e v y) (hc : x.2 15 (t : Int) = i ∧ ¬ mHg x (t : Int)) (ha : bd a) (hb : bd b) (hcb : bd c) (hr : (a, b, c) = mRow x r (t : Int)) : KI x r m i (t + 1) e (v + 1) (mA (mA (mA y 33 v a) 34 v b) 35 v c) := by
  have e1 : mFl x r m i (t + 1) = mFl x r m i t ++ [(a, b, c)] := by
    unfold mFl
    rw [mRows_succ, if_pos hc, List.append_assoc, hr]
  obtain ⟨h1, h2, h3, h4, h5, h6⟩ := h
  unfold KI
  rw [e1]
  refine ⟨((h1.A ha).A hb).A hcb, ⟨h2.1, fun k hk => ?_⟩, h3, by rw [List.length_append, h4]; rfl, h5, fun j hj => ?_⟩
  · rw [← h2.2 k hk]
    funext z
    show (if k = 35 ∧ _ then _ else if k = 34 ∧ _ then _ else if k = 33 ∧ _ then _ else y.2 k z) = _
    rw [if_neg (by omega), if_neg (by omega), if_neg (by omega)]
  · rw [List.length_append] at hj
    have hj : j < (mFl x r m i t).length + 1 := hj
    rw [getD_snoc]
    have e33 : (mA (mA (mA y 33 v a) 34 v b) 35 v c).2 33 (j : Int) = if (j : Int) = v then a else y.2 33 (j : Int) := by simp [mA]
    have e34 : (mA (mA (mA y 33 v a) 34 v b) 35 v c).2 34 (j : Int) = if (j : Int) = v then b else y.2 34 (j : Int) := by simp [mA]
    have e35 : (mA (mA (mA y 33 v a) 34 v b) 35 v c).2 35 (j : Int) = if (j : Int) = v then c else y.2 35 (j : Int) := by simp [mA]
    rw [e33, e34, e35]
    by_cases w : j = (mFl x r m i t).length
    · rw [if_pos (by omega), if_pos (by omega), if_pos (by omega), if_neg (by omega), if_pos w]
    · rw [if_neg (by omega), if_neg (by omega), if_neg (by omega), if_pos (by omega)]
      exact h6 j (by omega)
