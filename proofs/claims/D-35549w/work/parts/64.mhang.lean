set_option maxRecDepth 100000
/-! the model's lines, with what hangs -/
section MHG
variable {D : qD} {W : mW} {X : String → qH → Prop} {s s1 : mS}
theorem HI_all (hT : TI s1) (hB : MB s1) (h64 : 0 ≤ s1.1 14 ∧ s1.1 14 ≤ 64) (hl : ∀ t, 0 ≤ t → t < s1.1 0 → -1 ≤ s1.2 15 t ∧ s1.2 15 t < s1.1 14) (hn0 : ∀ i, 0 ≤ i → i < s1.1 14 → s1.2 18 i = 0) : ∀ n : Nat, (n : Int) ≤ s1.1 0 → HI s1 n (mHang0 s1 n)
  | 0, _ => by
    refine ⟨hB, rfl, fun _ _ _ => rfl, ?_, ?_, fun _ _ => rfl, fun t a b => by omega, fun i a b => ?_⟩
    · show -1 ≤ (if s1.1 14 = 0 then (-1 : Int) else 0) ∧ (if s1.1 14 = 0 then (-1 : Int) else 0) < s1.1 14
      split <;> omega
    · intro w
      show 0 ≤ (if s1.1 14 = 0 then (-1 : Int) else 0)
      rw [if_neg (by omega)]
      omega
    · show 0 ≤ s1.2 18 i ∧ s1.2 18 i ≤ 4 * ((0 : Nat) : Int)
      rw [hn0 i a b]
      omega
  | n + 1, h => HI_step hT h64 hl (HI_all hT hB h64 hl hn0 n (by omega)) (by omega) (by omega)
theorem q_hang15 (hW : mOK D W) (hT : TI s1) (h64 : 0 ≤ s1.1 14 ∧ s1.1 14 ≤ 64) {K : mS → Prop} {n : Int} {x : mS × Int} (hI : HI s1 n x) (h0 : 0 ≤ n) (hn : n ≤ s1.1 0) (hend : n = s1.1 0 → K x.1) (hgo : n < s1.1 0 → PL_X3_hang_15 D W X K (mHs x n).1 (mHs x n).2 (n + 1)) : PL_X3_hang_15 D W X K x.1 x.2 n := by
  obtain ⟨i1, i2, i3, i4, i5, i6, i7, i8⟩ := hI
  have hT0 := hT.1
  have e0 : x.1.1 0 = s1.1 0 := by rw [i2]
  have h88 : ∀ {S : mS} {v : Int}, PL_X3_hang_15 D W X K S v (n + 1) → PL_X3_hang_88 D W X K S v n := fun G => p_X3_hang_88 hW fun _ _ _ => ⟨⟨by omega, by omega⟩, G⟩
  refine p_X3_hang_15 hW fun hB _ _ => ⟨fun w => hend (by omega), fun w => ?_⟩
  have hlt : n < s1.1 0 := by omega
  have hgo := hgo hlt
  unfold mHs at hgo
  have hk := hT.tok h0 hlt
  unfold TK at hk
  rw [← i3 1 (by omega) (by omega), ← i3 2 (by omega) (by omega)] at hk
  refine q_hangs hW hB h0 (by omega) ⟨fun p => ⟨⟨h0, by omega⟩, fun q => h88 ?_, fun q => ⟨⟨h0, by omega⟩, h88 ?_⟩⟩, fun p => ?_⟩
  · have hp : ¬ mHg x.1 n := fun q => by rw [if_pos q] at p; omega
    rw [if_neg hp, if_pos q] at hgo
    exact hgo
  · have hp : ¬ mHg x.1 n := fun q => by rw [if_pos q] at p; omega
    rw [if_neg hp, if_neg q] at hgo
    exact hgo
  · have hp : mHg x.1 n := by
      by_cases q : mHg x.1 n
      · exact q
      · rw [if_neg q] at p; exact absurd rfl p
    rw [if_pos hp] at hgo
    refine ⟨⟨h0, by omega⟩, ⟨h0, by omega⟩, fun q => h88 ?_, fun q => ⟨fun q2 => h88 ?_, fun q2 => ?_⟩⟩
    · rw [if_neg (fun w => q w.1)] at hgo
      exact hgo
    · rw [if_neg (fun w => w.2 q2)] at hgo
      exact hgo
    · rw [if_pos ⟨q, q2⟩] at hgo
      have h8 := i8 x.2 (by omega) i4.2
      exact ⟨⟨by omega, by omega⟩, ⟨h0, by omega⟩, ⟨by omega, by omega⟩, ⟨by omega, by omega⟩, h88 hgo⟩
/-- the lines of copy r, with what hangs -/
def mLay1 (s : mS) (r : Int) : mS := (mHang0 (mLines0 s r (s.1 0).toNat).1 (s.1 0).toNat).1
/-- what holds of them -/
def L1 (s : mS) (x : mS) : Prop :=
  MB x ∧ told x = told s ∧ (0 ≤ x.1 14 ∧ x.1 14 ≤ s.1 0) ∧ (∀ t, 0 ≤ t → t < s.1 0 → -1 ≤ x.2 15 t ∧ x.2 15 t < x.1 14) ∧
  ∀ i, 0 ≤ i → i < x.1 14 → (0 ≤ x.2 18 i ∧ x.2 18 i ≤ 256) ∧ (x.2 19 i = 0 ∨ x.2 19 i = 1) ∧ (x.2 20 i = 0 ∨ x.2 20 i = 1) ∧ (x.2 21 i = 0 ∨ (x.2 21 i = 1 ∧ x.2 20 i = 1 ∧ x.2 19 i = 0 ∧ i + 1 < x.1 14))
theorem told_of_HI {n : Int} {x : mS × Int} (h : HI s1 n x) : told x.1 = told s1 := by
  obtain ⟨-, i2, i3, -⟩ := h
  refine Prod.ext (funext fun k => ?_) (funext fun k => funext fun z => ?_)
  · simp only [told, i2]
  · simp only [told]
    split
    · next hk => rw [i3 k (by omega) (by omega)]
    · rfl
theorem L1_lay (hT : TI s) (hB : MB s) {r : Int} (hr : 0 ≤ r ∧ r < 4) : L1 s (mLay1 s r) ∧ HI (mLines0 s r (s.1 0).toNat).1 (s.1 0) (mHang0 (mLines0 s r (s.1 0).toNat).1 (s.1 0).toNat) := by
  have h64 := hT.1
  obtain ⟨i1, i2, i3, i4, i5, i6, i7⟩ := LI_all hT hB hr (s.1 0).toNat (by omega)
  obtain ⟨j1, -⟩ := LI2_all hT hB hr (s.1 0).toNat (by omega)
  rw [Int.toNat_of_nonneg h64.1] at i3 i7
  have hT1 := hT.of i2.symm
  have e0 : (mLines0 s r (s.1 0).toNat).1.1 0 = s.1 0 := told_f i2 0 (by simp)
  have hI := HI_all hT1 i1 ⟨i3.1, by omega⟩ (fun t a b => i7 t a (by omega)) (fun i a b => (j1 i a b).1) (s.1 0).toNat (by omega)
  rw [Int.toNat_of_nonneg h64.1] at hI
  refine ⟨?_, hI⟩
  have ht := told_of_HI hI
  obtain ⟨k1, k2, k3, k4, k5, k6, k7, k8⟩ := hI
  have e14 : (mLay1 s r).1 14 = (mLines0 s r (s.1 0).toNat).1.1 14 := congrFun k2 14
  have ea : ∀ k, k ≠ 15 → k ≠ 18 → (mLay1 s r).2 k = (mLines0 s r (s.1 0).toNat).1.2 k := k3
  refine ⟨k1, ht.trans i2, by rw [e14]; exact i3, fun t a b => ?_, fun i a b => ?_⟩
  · rw [e14]
    exact k7 t a b
  · rw [e14] at b
    obtain ⟨q1, q2, q3, q4⟩ := j1 i a b
    rw [ea 19 (by omega) (by omega), ea 20 (by omega) (by omega), ea 21 (by omega) (by omega), e14]
    have h8 := k8 i a b
    exact ⟨⟨h8.1, by have := h8.2; show (mHang0 (mLines0 s r (s.1 0).toNat).1 (s.1 0).toNat).1.2 18 i ≤ 256; omega⟩, q2, q3, q4⟩
theorem q_layLines (hW : mOK D W) (hB : MB s) (hT : TI s) {K : mS → Prop} {r : Int} (hr : 0 ≤ r ∧ r < 4) (hK : K (mLay1 s r)) : pV D W X m_X3_layLines [r] s K := by
  have h64 := hT.1
  refine q_layLines0 hW hB hT hr ?_
  obtain ⟨i1, i2, i3, i4, i5, i6, i7⟩ := LI_all hT hB hr (s.1 0).toNat (by omega)
  obtain ⟨j1, -⟩ := LI2_all hT hB hr (s.1 0).toNat (by omega)
  rw [Int.toNat_of_nonneg h64.1] at i3 i7
  have hT1 := hT.of i2.symm
  have e0 : (mLines0 s r (s.1 0).toNat).1.1 0 = s.1 0 := told_f i2 0 (by simp)
  have hA := HI_all hT1 i1 ⟨i3.1, by omega⟩ (fun t a b => i7 t a (by omega)) (fun i a b => (j1 i a b).1)
  unfold mLay1 at hK
  generalize (mLines0 s r (s.1 0).toNat).1 = s1 at *
  have hL : ∀ m n : Nat, n + m = (s.1 0).toNat → PL_X3_hang_15 D W X K (mHang0 s1 n).1 (mHang0 s1 n).2 n := by
    intro m
    induction m with
    | zero =>
      intro n hn
      refine q_hang15 hW hT1 ⟨i3.1, by omega⟩ (hA n (by omega)) (by omega) (by omega) (fun _ => ?_) (fun w => by omega)
      rw [show n = (s.1 0).toNat by omega]
      exact hK
    | succ m ih =>
      intro n hn
      exact q_hang15 hW hT1 ⟨i3.1, by omega⟩ (hA n (by omega)) (by omega) (by omega) (fun w => by omega) (fun _ => ih (n + 1) (by omega))
  have h0 := hL (s.1 0).toNat 0 (by omega)
  have h12 : PL_X3_hang_12 D W X K s1 (if s1.1 14 = 0 then -1 else 0) := p_X3_hang_12 hW fun _ _ => h0
  refine p_X3_hang hW i1 ⟨fun w => ?_, fun w => ?_⟩
  · rw [if_neg w] at h12
    exact h12
  · rw [if_pos w] at h12
    exact h12
end MHG
