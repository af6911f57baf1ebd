set_option maxRecDepth 100000
/-! the model's calls: faults, the rest -/
section MPF
variable {D : qD} {W : mW} {X : String → qH → Prop} {s : mS}
theorem q_f144 (hW : mOK D W) (hT : TI s) {K : Int → mS → Prop} {w x : Int} (hx : 0 ≤ x ∧ x ≤ 30) (hK : PL_X3_faults_250 D W X K s w (if w = 2 then x + mF2 s else if w = 4 then x + mF4 s else x)) : PL_X3_faults_144 D W X K s w x 0 := by
  have h64 := hT.1
  by_cases h2 : w = 2
  · rw [if_pos h2] at hK
    have hL : ∀ j n : Nat, n + j = (s.1 0).toNat → PL_X3_faults_144 D W X K s w (x + (cnt (fun t => decide (s.2 1 t = 4 ∧ s.1 9 < s.2 2 t)) n : Nat)) n := by
      intro j
      induction j with
      | zero =>
        intro n hn
        have hb := cnt_le (fun t => decide (s.2 1 t = 4 ∧ s.1 9 < s.2 2 t)) n
        refine p_X3_faults_144 hW fun _ _ _ _ => ⟨fun _ => p_X3_faults_197 hW fun _ _ _ => q_f200 hW hT ⟨by omega, by omega⟩ ?_, fun w => absurd (by omega) w⟩
        rw [if_neg (by omega), show n = (s.1 0).toNat by omega]
        exact hK
      | succ j ih =>
        intro n hn
        have ih := ih (n + 1) (by omega)
        rw [cnt_s] at ih
        have hb := cnt_le (fun t => decide (s.2 1 t = 4 ∧ s.1 9 < s.2 2 t)) n
        generalize cnt (fun t => decide (s.2 1 t = 4 ∧ s.1 9 < s.2 2 t)) n = c at *
        have h189 : ∀ {y : Int}, y = (if decide (s.2 1 n = 4 ∧ s.1 9 < s.2 2 n) = true then 1 else 0) → PL_X3_faults_189 D W X K s w n y (x + c) := fun hy => p_X3_faults_189 hW fun _ _ _ _ _ => ⟨by rw [hy]; split <;> exact ⟨by omega, by omega⟩, ⟨by omega, by omega⟩, by
          rw [hy, Int.add_assoc]
          exact ih⟩
        have h188 : ¬ (s.2 1 n = 4 ∧ s.1 9 < s.2 2 n) → PL_X3_faults_188 D W X K s w n (x + c) := fun q => p_X3_faults_188 hW fun _ _ _ _ => h189 (by simp [q])
        exact p_X3_faults_144 hW fun hB _ _ _ => ⟨fun w => by omega, fun _ => ⟨fun q => absurd h2 q, fun _ => ⟨⟨by omega, by omega⟩, fun q => h188 (fun z => q z.1), fun q => ⟨⟨by omega, by omega⟩, fun q2 => h188 (fun z => by omega), fun q2 => h189 (if_pos (decide_eq_true ⟨q, by omega⟩)).symm⟩⟩⟩⟩
    have := hL (s.1 0).toNat 0 (by omega)
    have e0 : x + ((cnt (fun t => decide (s.2 1 t = 4 ∧ s.1 9 < s.2 2 t)) 0 : Nat) : Int) = x := by show x + ((0 : Nat) : Int) = x; omega
    rw [e0] at this
    exact this
  · rw [if_neg h2] at hK
    have h197 : PL_X3_faults_197 D W X K s w x := p_X3_faults_197 hW fun _ _ _ => q_f200 hW hT ⟨by omega, by omega⟩ hK
    exact p_X3_faults_144 hW fun _ _ _ _ => ⟨fun _ => h197, fun _ => ⟨fun _ => h197, fun q => absurd q h2⟩⟩
theorem q_f99 (hW : mOK D W) (h : CG s) {K : Int → mS → Prop} {w x : Int} (hx : 0 ≤ x ∧ x ≤ 0) (hK : PL_X3_faults_250 D W X K s w (if w = 1 then x + mF1 s else if w = 2 then x + mF2 s else if w = 4 then x + mF4 s else x)) : PL_X3_faults_99 D W X K s w x 0 := by
  have hT := h.1.2.1
  have hLL := h.1.2.2.1
  have h64 := hLL.1
  by_cases h2 : w = 1
  · rw [if_pos h2] at hK
    have hL : ∀ j n : Nat, n + j = (s.1 14).toNat → PL_X3_faults_99 D W X K s w (x + (cnt (fun i => decide (s.1 9 < mNeeds s i 0)) n : Nat)) n := by
      intro j
      induction j with
      | zero =>
        intro n hn
        have hb := cnt_le (fun i => decide (s.1 9 < mNeeds s i 0)) n
        have e9 : x + (cnt (fun i => decide (s.1 9 < mNeeds s i 0)) n : Nat) = x + mF1 s := by rw [show n = (s.1 14).toNat by omega]; rfl
        rw [e9]
        have hb2 : 0 ≤ x + (mF1 s : Int) ∧ x + (mF1 s : Int) ≤ 64 := by rw [← e9]; omega
        have h144 : PL_X3_faults_144 D W X K s w (x + mF1 s) 0 := by
          have h197 : PL_X3_faults_197 D W X K s w (x + mF1 s) := p_X3_faults_197 hW fun _ _ _ => q_f200 hW hT ⟨by omega, by omega⟩ (by rw [if_neg (by omega)]; exact hK)
          exact p_X3_faults_144 hW fun _ _ _ _ => ⟨fun _ => h197, fun _ => ⟨fun _ => h197, fun q => absurd q (by omega)⟩⟩
        exact p_X3_faults_99 hW fun _ _ _ _ => ⟨fun _ => p_X3_faults_141 hW fun _ _ _ => h144, fun w => absurd (by omega) w⟩
      | succ j ih =>
        intro n hn
        have ih := ih (n + 1) (by omega)
        rw [cnt_s] at ih
        have hb := cnt_le (fun i => decide (s.1 9 < mNeeds s i 0)) n
        generalize cnt (fun i => decide (s.1 9 < mNeeds s i 0)) n = c at *
        have h133 : ∀ {y : Int}, y = (if decide (s.1 9 < mNeeds s n 0) = true then 1 else 0) → PL_X3_faults_133 D W X K s w n y (x + c) := fun hy => p_X3_faults_133 hW fun _ _ _ _ _ => ⟨by rw [hy]; split <;> exact ⟨by omega, by omega⟩, ⟨by omega, by omega⟩, by
          rw [hy, Int.add_assoc]
          exact ih⟩
        exact p_X3_faults_99 hW fun hB _ _ _ => ⟨fun w => by omega, fun _ => ⟨fun q => absurd h2 q, fun _ => q_needs hW hB hLL (bdl rfl) (by omega) (by omega) ⟨fun q => h133 (if_neg (fun z => by have := of_decide_eq_true z; omega)).symm, fun q => h133 (if_pos (decide_eq_true (by omega))).symm⟩⟩⟩
    have := hL (s.1 14).toNat 0 (by omega)
    have e0 : x + ((cnt (fun i => decide (s.1 9 < mNeeds s i 0)) 0 : Nat) : Int) = x := by show x + ((0 : Nat) : Int) = x; omega
    rw [e0] at this
    exact this
  · rw [if_neg h2] at hK
    have h141 : PL_X3_faults_141 D W X K s w x := p_X3_faults_141 hW fun _ _ _ => q_f144 hW hT ⟨by omega, by omega⟩ hK
    exact p_X3_faults_99 hW fun _ _ _ _ => ⟨fun _ => h141, fun _ => ⟨fun _ => h141, fun q => absurd q h2⟩⟩
theorem q_f45 (hW : mOK D W) (h : CG s) {K : Int → mS → Prop} {r w : Int} (hr : 0 ≤ r ∧ r < 4) (hw : 0 ≤ w ∧ w ≤ 4) (hK : K (mFaults s r w) s) : PL_X3_faults_45 D W X K s r w 0 0 := by
  have hT := h.1.2.1
  have h64 := hT.1
  by_cases h2 : w = 0
  · have hL : ∀ j n : Nat, n + j = (s.1 0).toNat → PL_X3_faults_45 D W X K s r w ((cnt (fun t => decide (mPrn s r t ∧ s.1 8 < mWide s r t)) n : Nat) : Int) n := by
      intro j
      induction j with
      | zero =>
        intro n hn
        have hb := cnt_le (fun t => decide (mPrn s r t ∧ s.1 8 < mWide s r t)) n
        have e9 : ((cnt (fun t => decide (mPrn s r t ∧ s.1 8 < mWide s r t)) n : Nat) : Int) = mF0 s r := by rw [show n = (s.1 0).toNat by omega]; rfl
        rw [e9]
        have hb2 : 0 ≤ (mF0 s r : Int) ∧ (mF0 s r : Int) ≤ 64 := by rw [← e9]; omega
        have h197 : PL_X3_faults_197 D W X K s w (mF0 s r) := p_X3_faults_197 hW fun _ _ _ => q_f200 hW hT ⟨by omega, by omega⟩ (by
          rw [if_neg (by omega)]
          refine q_f250 hW ?_
          unfold mFaults at hK
          rw [if_neg (by omega), if_pos h2] at hK
          rw [if_neg (by omega)]
          exact hK)
        have h144 : PL_X3_faults_144 D W X K s w (mF0 s r) 0 := p_X3_faults_144 hW fun _ _ _ _ => ⟨fun _ => h197, fun _ => ⟨fun _ => h197, fun q => absurd q (by omega)⟩⟩
        have h141 : PL_X3_faults_141 D W X K s w (mF0 s r) := p_X3_faults_141 hW fun _ _ _ => h144
        have h99 : PL_X3_faults_99 D W X K s w (mF0 s r) 0 := p_X3_faults_99 hW fun _ _ _ _ => ⟨fun _ => h141, fun _ => ⟨fun _ => h141, fun q => absurd q (by omega)⟩⟩
        exact p_X3_faults_45 hW fun _ _ _ _ _ => ⟨fun _ => p_X3_faults_96 hW fun _ _ _ => h99, fun w => absurd (by omega) w⟩
      | succ j ih =>
        intro n hn
        have ih := ih (n + 1) (by omega)
        rw [cnt_s] at ih
        have hb := cnt_le (fun t => decide (mPrn s r t ∧ s.1 8 < mWide s r t)) n
        generalize cnt (fun t => decide (mPrn s r t ∧ s.1 8 < mWide s r t)) n = c at *
        have h88 : ∀ {y : Int}, y = (if decide (mPrn s r n ∧ s.1 8 < mWide s r n) = true then 1 else 0) → PL_X3_faults_88 D W X K s r w n y c := fun hy => p_X3_faults_88 hW fun _ _ _ _ _ _ => ⟨by rw [hy]; split <;> exact ⟨by omega, by omega⟩, ⟨by omega, by omega⟩, by
          rw [hy]
          exact ih⟩
        have h87 : ¬ (mPrn s r n ∧ s.1 8 < mWide s r n) → PL_X3_faults_87 D W X K s r w n c := fun q => p_X3_faults_87 hW fun _ _ _ _ _ => h88 (if_neg (fun z => q (of_decide_eq_true z))).symm
        refine p_X3_faults_45 hW fun hB _ _ _ _ => ⟨fun w => by omega, fun _ => ⟨fun q => absurd h2 q, fun _ => q_isPrinted hW hB hT hr (by omega) (by omega) ⟨fun q => h87 (fun z => by rw [if_pos z.1] at q; omega), fun q => q_wide hW hB hT hr (by omega) (by omega) ⟨fun q2 => h87 (fun z => by omega), fun q2 => h88 (if_pos (decide_eq_true ⟨?_, by omega⟩)).symm⟩⟩⟩⟩
        by_cases hp : mPrn s r n
        · exact hp
        · rw [if_neg hp] at q
          exact absurd rfl q
    exact hL (s.1 0).toNat 0 (by omega)
  · have h96 : PL_X3_faults_96 D W X K s w 0 := p_X3_faults_96 hW fun _ _ _ => q_f99 hW h ⟨by omega, by omega⟩ (q_f250 hW (by
      unfold mFaults at hK
      by_cases h3 : w = 3
      · rw [if_pos h3] at hK ⊢
        exact hK
      · rw [if_neg h3, if_neg h2] at hK
        rw [if_neg h3]
        by_cases h1 : w = 1
        · rw [if_pos h1] at hK
          rw [if_pos h1, Int.zero_add]
          exact hK
        · rw [if_neg h1] at hK
          rw [if_neg h1]
          by_cases h2 : w = 2
          · rw [if_pos h2] at hK
            rw [if_pos h2, Int.zero_add]
            exact hK
          · rw [if_neg h2] at hK
            rw [if_neg h2, if_pos (by omega), Int.zero_add]
            exact hK))
    exact p_X3_faults_45 hW fun _ _ _ _ _ => ⟨fun _ => h96, fun _ => ⟨fun _ => h96, fun q => absurd q h2⟩⟩
theorem q_faults (hW : mOK D W) (hB : MB s) (hT : TI s) {K : Int → mS → Prop} {r w : Int} (br : bd r) (bw : bd w) (hok : (0 ≤ r ∧ r ≤ 3) → (0 ≤ w ∧ w ≤ 4) → K (mFaults (mLay (mF s 37 0) r) r w) (mLay (mF s 37 0) r)) (hno : ¬ ((0 ≤ r ∧ r ≤ 3) ∧ (0 ≤ w ∧ w ≤ 4)) → K 0 (mF s 37 1)) : pI D W X m_X3_faults [r, w] s K := by
  have h24 : ¬ ((0 ≤ r ∧ r ≤ 3) ∧ (0 ≤ w ∧ w ≤ 4)) → PL_X3_faults_24 D W X K s := fun q => p_X3_faults_24 hW fun hB => q_fails hW hB (bdl rfl) (hno q)
  refine p_X3_faults hW hB br bw ⟨fun q => h24 (fun z => mIn_no.mp q z.1), fun q => ⟨fun q2 => ?_, fun q2 => h24 (fun z => mIn_no.mp q2 z.2)⟩⟩
  have e1 := mIn_yes.mp q
  have e2 := mIn_yes.mp q2
  have hB2 : MB (mF s 37 0) := hB.F (bdl rfl)
  exact q_lay hW hB2 hT.f37 ⟨e1.1, by omega⟩ (q_f45 hW (CG_lay hB2 hT.f37 ⟨e1.1, by omega⟩) ⟨e1.1, by omega⟩ e2 (hok e1 e2))
end MPF
