set_option maxRecDepth 100000
/-! what depends on the told part alone -/
section TD
variable {s s' : mS}
theorem told_A {k : Nat} {z x : Int} (hk : ¬ (k = 1 ∨ k = 2 ∨ k = 3 ∨ k = 4 ∨ k = 5 ∨ k = 6 ∨ k = 7 ∨ k = 11 ∨ k = 32 ∨ k = 33 ∨ k = 34 ∨ k = 35)) : told (mA s k z x) = told s := by
  refine Prod.ext rfl (funext fun j => funext fun i => ?_)
  simp only [told, mA]
  split
  · next hj =>
    rw [if_neg (fun w => hk (by rw [← w.1]; exact hj))]
  · rfl
theorem told_F {k : Nat} {x : Int} (hk : ¬ (k = 0 ∨ k = 8 ∨ k = 9 ∨ k = 10 ∨ k = 12 ∨ k = 13 ∨ k = 31)) : told (mF s k x) = told s := by
  refine Prod.ext (funext fun j => ?_) rfl
  simp only [told, mF]
  split
  · next hj =>
    rw [if_neg (fun w => hk (by rw [← w]; exact hj))]
  · rfl
theorem told_f (h : told s = told s') (k : Nat) (hk : k = 0 ∨ k = 8 ∨ k = 9 ∨ k = 10 ∨ k = 12 ∨ k = 13 ∨ k = 31) : s.1 k = s'.1 k := by
  have h1 := congrFun (congrArg Prod.fst h) k
  simp only [told] at h1
  rw [if_pos hk, if_pos hk] at h1
  exact h1
theorem told_a (h : told s = told s') (k : Nat) (hk : k = 1 ∨ k = 2 ∨ k = 3 ∨ k = 4 ∨ k = 5 ∨ k = 6 ∨ k = 7 ∨ k = 11 ∨ k = 32 ∨ k = 33 ∨ k = 34 ∨ k = 35) : s.2 k = s'.2 k := by
  funext z
  have h1 := congrFun (congrFun (congrArg Prod.snd h) k) z
  simp only [told] at h1
  rw [if_pos hk, if_pos hk] at h1
  exact h1
theorem TI.of (h : told s = told s') (hT : TI s) : TI s' := by
  have f0 := told_f h 0 (by simp)
  have f8 := told_f h 8 (by simp)
  have f9 := told_f h 9 (by simp)
  have f10 := told_f h 10 (by simp)
  have f12 := told_f h 12 (by simp)
  have f13 := told_f h 13 (by simp)
  have a1 := told_a h 1 (by simp)
  have a2 := told_a h 2 (by simp)
  have a3 := told_a h 3 (by simp)
  have a4 := told_a h 4 (by simp)
  have a5 := told_a h 5 (by simp)
  have a6 := told_a h 6 (by simp)
  have a7 := told_a h 7 (by simp)
  have a11 := told_a h 11 (by simp)
  unfold TI acyc TK at hT ⊢
  rw [← f0, ← f8, ← f9, ← f10, ← f12, ← f13, ← a1, ← a2, ← a3, ← a4, ← a5, ← a6, ← a7, ← a11]
  exact hT
theorem mRoot_of (h : told s = told s') {k : Nat} (hk : k = 5 ∨ k = 6) : ∀ f v, mRoot k s f v = mRoot k s' f v
  | 0, v => rfl
  | f + 1, v => by
    unfold mRoot
    rw [told_a h k (by omega), told_a h 4 (by omega), mRoot_of h hk f]
theorem mEff_of (h : told s = told s') {k : Nat} (hk : k = 5 ∨ k = 6) (v : Int) : mEff k s v = mEff k s' v := by
  unfold mEff
  rw [mRoot_of h hk, told_a h k (by omega)]
theorem mWide_of (h : told s = told s') (r t : Int) : mWide s r t = mWide s' r t := by
  unfold mWide
  rw [mEff_of h (Or.inl rfl), told_a h 1 (by omega), told_a h 2 (by omega), told_a h 3 (by omega), told_a h 7 (by omega)]
theorem mPrn_of (h : told s = told s') (r t : Int) : mPrn s r t ↔ mPrn s' r t := by
  unfold mPrn
  rw [told_a h 1 (by omega), told_a h 2 (by omega), told_a h 7 (by omega)]
theorem mHg_of (h : told s = told s') (t : Int) : mHg s t ↔ mHg s' t := by
  unfold mHg
  rw [told_a h 1 (by omega)]
end TD
/-- a loop from 0 on -/
def iter {σ : Type} (f : σ → Int → σ) : Nat → σ → σ
  | 0, x => x
  | n + 1, x => f (iter f n x) n
/-! lines -/
def mNew (s : mS) (a b : Int) : mS := mF (mA (mA (mA (mA s 19 (s.1 14) a) 20 (s.1 14) b) 21 (s.1 14) 0) 18 (s.1 14) 0) 14 (s.1 14 + 1)
theorem told_New {s : mS} {a b : Int} : told (mNew s a b) = told s := by
  unfold mNew
  rw [told_F (by omega), told_A (by omega), told_A (by omega), told_A (by omega), told_A (by omega)]
/-- a state, the width of the open line, whether one is open, the first line of its paragraph -/
abbrev mL : Type := mS × Int × Int × Int
def mLn (r : Int) (x : mL) (t : Int) : mL :=
  if x.1.2 1 t = 2 then (mA x.1 15 t (-1), x.2.1, 0, x.2.2.2)
  else if x.1.2 1 t = 3 then (mA (mNew (mA x.1 15 t (-1)) 1 1) 15 t (x.1.1 14), x.2.1, 0, x.2.2.2)
  else if mPrn x.1 r t then
    (if x.2.2.1 = 0 then (mA (mNew (mA x.1 15 t (-1)) 0 1) 15 t (x.1.1 14), mWide x.1 r t, 1, x.1.1 14)
    else if x.2.1 + 1 + mWide x.1 r t ≤ x.1.1 8 then (mA (mA x.1 15 t (-1)) 15 t (x.1.1 14 - 1), x.2.1 + (1 + mWide x.1 r t), x.2.2.1, x.2.2.2)
    else (mA (mA (mNew (mA x.1 15 t (-1)) 0 0) 21 x.2.2.2 1) 15 t (x.1.1 14), mWide x.1 r t, x.2.2.1, x.2.2.2))
  else (mA x.1 15 t (-1), x.2.1, x.2.2.1, x.2.2.2)
def mLines0 (s : mS) (r : Int) : Nat → mL := fun n => iter (mLn r) n (mF s 14 0, 0, 0, 0)
/-- what holds of the lines of the first n tokens -/
def LI (s0 : mS) (n : Int) (x : mL) : Prop :=
  MB x.1 ∧ told x.1 = told s0 ∧ (0 ≤ x.1.1 14 ∧ x.1.1 14 ≤ n) ∧ (0 ≤ x.2.1 ∧ x.2.1 ≤ 40) ∧ (x.2.2.1 = 0 ∨ (x.2.2.1 = 1 ∧ 0 ≤ x.2.2.2 ∧ x.2.2.2 < x.1.1 14)) ∧ bd x.2.2.2 ∧ ∀ t, 0 ≤ t → t < n → -1 ≤ x.1.2 15 t ∧ x.1.2 15 t < x.1.1 14
