set_option maxRecDepth 100000
/-! the model's calls: put -/
/-- tokens above t are moved up by one -/
def mSh (s : mS) (t : Int) : mS := (s.1, fun j z => if (j = 1 ∨ j = 2 ∨ j = 3) ∧ t < z ∧ z ≤ s.1 0 then s.2 j (z - 1) else s.2 j z)
def mPut (s : mS) (p k a st : Int) : mS := mF (mA (mA (mA (mSh s p) 1 p k) 2 p a) 3 p st) 0 (s.1 0 + 1)
section MP5
variable {D : qD} {W : mW} {X : String → qH → Prop} {s : mS}
theorem mSh_top : mSh s (s.1 0) = s := by
  refine Prod.ext rfl (funext fun j => funext fun z => ?_)
  show (if (j = 1 ∨ j = 2 ∨ j = 3) ∧ s.1 0 < z ∧ z ≤ s.1 0 then s.2 j (z - 1) else s.2 j z) = s.2 j z
  rw [if_neg (fun w => by omega)]
theorem mSh_step {t : Int} (h : t ≤ s.1 0) : mA (mA (mA (mSh s t) 1 t ((mSh s t).2 1 (t - 1))) 2 t ((mSh s t).2 2 (t - 1))) 3 t ((mSh s t).2 3 (t - 1)) = mSh s (t - 1) := by
  have e : ∀ j : Nat, (mSh s t).2 j (t - 1) = s.2 j (t - 1) := by
    intro j
    show (if (j = 1 ∨ j = 2 ∨ j = 3) ∧ t < t - 1 ∧ t - 1 ≤ s.1 0 then s.2 j (t - 1 - 1) else s.2 j (t - 1)) = s.2 j (t - 1)
    rw [if_neg (fun w => by omega)]
  rw [e, e, e]
  refine Prod.ext rfl (funext fun j => funext fun z => ?_)
  show (if j = 3 ∧ z = t then s.2 3 (t - 1) else if j = 2 ∧ z = t then s.2 2 (t - 1) else if j = 1 ∧ z = t then s.2 1 (t - 1) else if (j = 1 ∨ j = 2 ∨ j = 3) ∧ t < z ∧ z ≤ s.1 0 then s.2 j (z - 1) else s.2 j z) = (if (j = 1 ∨ j = 2 ∨ j = 3) ∧ t - 1 < z ∧ z ≤ s.1 0 then s.2 j (z - 1) else s.2 j z)
  by_cases hj : j = 1 ∨ j = 2 ∨ j = 3
  · by_cases hz : z = t
    · subst hz
      rw [if_pos (⟨hj, by omega, h⟩ : (j = 1 ∨ j = 2 ∨ j = 3) ∧ z - 1 < z ∧ z ≤ s.1 0)]
      rcases hj with rfl | rfl | rfl <;> simp
    · rw [if_neg (fun w => hz w.2), if_neg (fun w => hz w.2), if_neg (fun w => hz w.2)]
      by_cases hc : t < z ∧ z ≤ s.1 0
      · rw [if_pos ⟨hj, hc⟩, if_pos ⟨hj, by omega, hc.2⟩]
      · rw [if_neg (fun w => hc w.2), if_neg (fun w => hc ⟨by omega, w.2.2⟩)]
  · rw [if_neg (fun w => hj (by omega)), if_neg (fun w => hj (by omega)), if_neg (fun w => hj (by omega)), if_neg (fun w => hj w.1), if_neg (fun w => hj w.1)]
theorem q_put75 (hW : mOK D W) {K : Int → mS → Prop} {p k a st : Int} (h0 : 0 ≤ p) (hs : s.1 0 ≤ 64) (hK : K (s.1 0 + 1) (mPut s p k a st)) : ∀ (n : Nat) (t : Int), t = p + n → t ≤ s.1 0 → PL_X3_put_75 D W X K (mSh s t) p k a st t
  | 0, t, ht, h => by
    have ht : t = p := by omega
    subst ht
    have e0 : (mSh s t).1 0 = s.1 0 := rfl
    refine p_X3_put_75 hW fun _ _ _ _ _ _ => ⟨fun _ => ⟨⟨h0, by omega⟩, ⟨h0, by omega⟩, ⟨h0, by omega⟩, ?_, hK⟩, fun w => absurd (Int.le_refl t) w⟩
    rw [e0]
    exact ⟨by omega, by omega⟩
  | n + 1, t, ht, h => by
    refine p_X3_put_75 hW fun _ _ _ _ _ _ => ⟨fun w => by omega, fun _ => ⟨⟨by omega, by omega⟩, ⟨by omega, by omega⟩, ⟨by omega, by omega⟩, ⟨by omega, by omega⟩, ⟨by omega, by omega⟩, ⟨by omega, by omega⟩, ⟨by omega, by omega⟩, ?_⟩⟩
    have ih := q_put75 hW h0 hs hK n (t - 1) (by omega) (by omega)
    rw [← mSh_step h] at ih
    exact ih
theorem q_putM (hW : mOK D W) (hB : MB s) (hs : 0 ≤ s.1 0 ∧ s.1 0 < 64) {K : Int → mS → Prop} {p k a st : Int} (bp : bd p) (bk : bd k) (ba : bd a) (bs : bd st) (hok : (0 ≤ p ∧ p ≤ s.1 0) → (0 ≤ k ∧ k ≤ 6) → mFine k a st → K (s.1 0 + 1) (mPut (mF s 37 0) p k a st)) (hno1 : ¬ (0 ≤ p ∧ p ≤ s.1 0) → K 0 (mF s 37 1)) (hno2 : (0 ≤ p ∧ p ≤ s.1 0) → ¬ ((0 ≤ k ∧ k ≤ 6) ∧ mFine k a st) → K 0 (mF s 37 2)) : pI D W X m_X3_put [p, k, a, st] s K := by
  refine p_X3_put hW hB bp bk ba bs ⟨fun w => ?_, fun w => q_fails hW hB (bdl rfl) (hno1 (mIn_no.mp w))⟩
  have e := mIn_yes.mp w
  have h43 : ¬ ((0 ≤ k ∧ k ≤ 6) ∧ mFine k a st) → PL_X3_put_43 D W X K s := fun q => p_X3_put_43 hW fun hB => q_fails hW hB (bdl rfl) (hno2 e q)
  refine ⟨fun w2 => h43 (fun q => mIn_no.mp w2 q.1), fun w2 => ?_⟩
  have e2 := mIn_yes.mp w2
  refine q_isFine hW hB e2 ba bs (fun f => ⟨fun _ => ⟨fun _ => ?_, fun w4 => by omega⟩, fun w3 => absurd w3 (by decide)⟩) (fun f => ⟨fun w3 => absurd rfl w3, fun _ => h43 (fun q => f q.2)⟩)
  have h9 := q_put75 (D := D) (X := X) (s := mF s 37 0) (k := k) (a := a) (st := st) hW e.1 (by show s.1 0 ≤ 64; omega) (hok e e2 f) (s.1 0 - p).toNat (s.1 0) (by omega) (Int.le_refl _)
  have et : mSh (mF s 37 0) (s.1 0) = mF s 37 0 := mSh_top (s := mF s 37 0)
  rw [et] at h9
  exact h9
end MP5
