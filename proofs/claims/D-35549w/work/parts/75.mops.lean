set_option maxRecDepth 100000
/-! the model's calls: take -/
/-- tokens above p and up to t are moved down by one; n: how many there were -/
def mSd (s : mS) (p t : Int) : mS := (s.1, fun j z => if (j = 1 ∨ j = 2 ∨ j = 3) ∧ p ≤ z ∧ z < t then s.2 j (z + 1) else s.2 j z)
def mTake (s : mS) (p : Int) : mS := mSd (mF s 0 (s.1 0 - 1)) p (s.1 0 - 1)
section MP6
variable {D : qD} {W : mW} {X : String → qH → Prop} {s : mS}
theorem mSd_0 {p : Int} : mSd s p p = s := by
  refine Prod.ext rfl (funext fun j => funext fun z => ?_)
  show (if (j = 1 ∨ j = 2 ∨ j = 3) ∧ p ≤ z ∧ z < p then s.2 j (z + 1) else s.2 j z) = s.2 j z
  rw [if_neg (fun w => by omega)]
theorem mSd_step {p t : Int} (h : p ≤ t) : mA (mA (mA (mSd s p t) 1 t ((mSd s p t).2 1 (t + 1))) 2 t ((mSd s p t).2 2 (t + 1))) 3 t ((mSd s p t).2 3 (t + 1)) = mSd s p (t + 1) := by
  have e : ∀ j : Nat, (mSd s p t).2 j (t + 1) = s.2 j (t + 1) := by
    intro j
    show (if (j = 1 ∨ j = 2 ∨ j = 3) ∧ p ≤ t + 1 ∧ t + 1 < t then s.2 j (t + 1 + 1) else s.2 j (t + 1)) = s.2 j (t + 1)
    rw [if_neg (fun w => by omega)]
  rw [e, e, e]
  refine Prod.ext rfl (funext fun j => funext fun z => ?_)
  show (if j = 3 ∧ z = t then s.2 3 (t + 1) else if j = 2 ∧ z = t then s.2 2 (t + 1) else if j = 1 ∧ z = t then s.2 1 (t + 1) else if (j = 1 ∨ j = 2 ∨ j = 3) ∧ p ≤ z ∧ z < t then s.2 j (z + 1) else s.2 j z) = (if (j = 1 ∨ j = 2 ∨ j = 3) ∧ p ≤ z ∧ z < t + 1 then s.2 j (z + 1) else s.2 j z)
  by_cases hj : j = 1 ∨ j = 2 ∨ j = 3
  · by_cases hz : z = t
    · subst hz
      rw [if_pos (⟨hj, h, by omega⟩ : (j = 1 ∨ j = 2 ∨ j = 3) ∧ p ≤ z ∧ z < z + 1)]
      rcases hj with rfl | rfl | rfl <;> simp
    · rw [if_neg (fun w => hz w.2), if_neg (fun w => hz w.2), if_neg (fun w => hz w.2)]
      by_cases hc : p ≤ z ∧ z < t
      · rw [if_pos ⟨hj, hc⟩, if_pos ⟨hj, by omega, by omega⟩]
      · rw [if_neg (fun w => hc w.2), if_neg (fun w => hc ⟨w.2.1, by omega⟩)]
  · rw [if_neg (fun w => hj (by omega)), if_neg (fun w => hj (by omega)), if_neg (fun w => hj (by omega)), if_neg (fun w => hj w.1), if_neg (fun w => hj w.1)]
theorem q_take39 (hW : mOK D W) {K : Int → mS → Prop} {p : Int} (h0 : 0 ≤ p) (hs : s.1 0 ≤ 64) (hK : K (s.1 0) (mSd s p (s.1 0))) : ∀ (n : Nat) (t : Int), t + n = s.1 0 → p ≤ t → PL_X3_take_39 D W X K (mSd s p t) t
  | 0, t, ht, h => by
    have ht : t = s.1 0 := by omega
    subst ht
    exact p_X3_take_39 hW fun _ _ => ⟨fun _ => hK, fun w => absurd (Int.le_refl _) w⟩
  | n + 1, t, ht, h => by
    have e0 : (mSd s p t).1 0 = s.1 0 := rfl
    refine p_X3_take_39 hW fun _ _ => ⟨fun w => by omega, fun _ => ⟨⟨by omega, by omega⟩, ⟨by omega, by omega⟩, ⟨by omega, by omega⟩, ⟨by omega, by omega⟩, ⟨by omega, by omega⟩, ⟨by omega, by omega⟩, ⟨by omega, by omega⟩, ?_⟩⟩
    have ih := q_take39 hW h0 hs hK n (t + 1) (by omega) (by omega)
    rw [← mSd_step h] at ih
    exact ih
theorem q_take (hW : mOK D W) (hB : MB s) (hs : 0 ≤ s.1 0 ∧ s.1 0 ≤ 64) {K : Int → mS → Prop} {p : Int} (bp : bd p) (hok : (0 ≤ p ∧ p < s.1 0) → K (s.1 0 - 1) (mTake (mF s 37 0) p)) (hno : ¬ (0 ≤ p ∧ p < s.1 0) → K 0 (mF s 37 1)) : pI D W X m_X3_take [p] s K := by
  refine p_X3_take hW hB bp ⟨⟨by omega, by omega⟩, fun w => ⟨⟨by omega, by omega⟩, ?_⟩, fun w => q_fails hW hB (bdl rfl) (hno (fun q => mIn_no.mp w (by omega)))⟩
  have e := mIn_yes.mp w
  have h9 := q_take39 (D := D) (X := X) (s := mF (mF s 37 0) 0 (s.1 0 - 1)) hW e.1 (by show s.1 0 - 1 ≤ 64; omega) (hok (by omega)) (s.1 0 - 1 - p).toNat p (by show p + ((s.1 0 - 1 - p).toNat : Int) = s.1 0 - 1; omega) (Int.le_refl _)
  rw [mSd_0] at h9
  exact h9
end MP6
