set_option maxRecDepth 100000
/-! the model's calls: faults -/
def mF0 (s : mS) (r : Int) : Nat := cnt (fun t => decide (mPrn s r t ∧ s.1 8 < mWide s r t)) (s.1 0).toNat
def mF1 (s : mS) : Nat := cnt (fun i => decide (s.1 9 < mNeeds s i 0)) (s.1 14).toNat
def mF2 (s : mS) : Nat := cnt (fun t => decide (s.2 1 t = 4 ∧ s.1 9 < s.2 2 t)) (s.1 0).toNat
def mF4 (s : mS) : Nat := cnt (fun m => decide (s.2 11 m ≠ -1 ∧ mMarked s (mLast s m) = 0)) 10
def mFaults (s : mS) (r w : Int) : Int := if w = 3 then (if s.1 24 = 0 then 1 else 0) else if w = 0 then mF0 s r else if w = 1 then mF1 s else if w = 2 then mF2 s else mF4 s
section MPE
variable {D : qD} {W : mW} {X : String → qH → Prop} {s : mS}
theorem cnt_s {p : Int → Bool} {n : Nat} : ((cnt p (n + 1) : Nat) : Int) = (cnt p n : Nat) + (if p n = true then 1 else 0) := by
  show ((cnt p n + (if p (n : Int) then 1 else 0) : Nat) : Int) = _
  split <;> omega
theorem q_f250 (hW : mOK D W) {K : Int → mS → Prop} {w x : Int} (hK : K (if w = 3 then (if s.1 24 = 0 then 1 else 0) else x) s) : PL_X3_faults_250 D W X K s w x := by
  refine p_X3_faults_250 hW fun _ _ _ => ⟨fun q => ?_, fun q => ⟨fun q2 => ?_, fun q2 => ?_⟩⟩
  · rw [if_neg q] at hK; exact hK
  · rw [if_pos q, if_pos q2] at hK; exact hK
  · rw [if_pos q, if_neg q2] at hK; exact hK
theorem q_f200 (hW : mOK D W) (hT : TI s) {K : Int → mS → Prop} {w x : Int} (hx : 0 ≤ x ∧ x ≤ 100) (hK : PL_X3_faults_250 D W X K s w (if w = 4 then x + mF4 s else x)) : PL_X3_faults_200 D W X K s w x 0 := by
  by_cases h4 : w = 4
  · rw [if_pos h4] at hK
    have hL : ∀ j n : Nat, n + j = 10 → PL_X3_faults_200 D W X K s w (x + (cnt (fun m => decide (s.2 11 m ≠ -1 ∧ mMarked s (mLast s m) = 0)) n : Nat)) n := by
      intro j
      induction j with
      | zero =>
        intro n hn
        refine p_X3_faults_200 hW fun _ _ _ _ => ⟨fun _ => ?_, fun w => absurd (by omega) w⟩
        rw [show n = 10 by omega]
        exact hK
      | succ j ih =>
        intro n hn
        have ih := ih (n + 1) (by omega)
        rw [cnt_s] at ih
        have hb := cnt_le (fun m => decide (s.2 11 m ≠ -1 ∧ mMarked s (mLast s m) = 0)) n
        generalize cnt (fun m => decide (s.2 11 m ≠ -1 ∧ mMarked s (mLast s m) = 0)) n = c at *
        have h242 : ∀ {y : Int}, y = (if decide (s.2 11 n ≠ -1 ∧ mMarked s (mLast s n) = 0) = true then 1 else 0) → PL_X3_faults_242 D W X K s w n y (x + c) := fun hy => p_X3_faults_242 hW fun _ _ _ _ _ => ⟨by rw [hy]; split <;> exact ⟨by omega, by omega⟩, ⟨by omega, by omega⟩, by
          rw [hy, Int.add_assoc]
          exact ih⟩
        have h241 : ¬ (s.2 11 n ≠ -1 ∧ mMarked s (mLast s n) = 0) → PL_X3_faults_241 D W X K s w n (x + c) := fun q => p_X3_faults_241 hW fun _ _ _ _ => h242 (by simp [q])
        refine p_X3_faults_200 hW fun hB _ _ _ => ⟨fun w => by omega, fun _ => ⟨fun q => absurd h4 q, fun _ => ⟨⟨by omega, by omega⟩, fun q => h241 (fun z => z.1 q), fun q => ?_⟩⟩⟩
        have hl := mRootS_bd hT 10 n ⟨by omega, by omega⟩
        have hl : 0 ≤ mLast s n ∧ mLast s n < 10 := hl
        refine q_lastOf hW hB hT ⟨by omega, by omega⟩ (q_isMarked hW hB hT ⟨by omega, by omega⟩ ⟨fun q2 => h241 (fun z => q2 z.2), fun q2 => h242 (by simp [q, q2])⟩)
    have := hL 10 0 (by omega)
    have e0 : x + ((cnt (fun m => decide (s.2 11 m ≠ -1 ∧ mMarked s (mLast s m) = 0)) 0 : Nat) : Int) = x := by show x + ((0 : Nat) : Int) = x; omega
    rw [e0] at this
    exact this
  · rw [if_neg h4] at hK
    exact p_X3_faults_200 hW fun _ _ _ _ => ⟨fun w => absurd w (by decide), fun _ => ⟨fun _ => hK, fun q => absurd q h4⟩⟩
end MPE
