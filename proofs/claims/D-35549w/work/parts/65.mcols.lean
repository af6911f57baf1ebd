set_option maxRecDepth 100000
/-! the model's columns -/
def mTakes (s : mS) (i b : Int) : Int := 1 + s.2 18 i + (if s.2 19 i = 0 then 0 else if b = 0 then 0 else 1)
def mNeeds (s : mS) (i b : Int) : Int :=
  mTakes s i b + (if (s.2 19 i ≠ 0 ∨ (s.2 20 i ≠ 0 ∧ s.2 21 i ≠ 0)) ∧ i + 1 < s.1 14 then mTakes s (i + 1) 1 + (if s.2 19 i ≠ 0 ∧ s.2 19 (i + 1) = 0 ∧ s.2 20 (i + 1) ≠ 0 ∧ s.2 21 (i + 1) ≠ 0 then mTakes s (i + 2) 1 else 0) else 0)
def mTops (s : mS) (t : Int) : mS := mF (mF (mA s 16 t (s.1 22 - 1)) 28 (s.1 28 - s.2 2 t)) 30 1
def mNext (s : mS) : mS := mF (mTops s (s.2 25 (s.1 26))) 26 (s.1 26 + 1)
def mTopsAll : Nat → mS → mS
  | 0, s => s
  | f + 1, s => if s.1 26 < s.1 27 ∧ (s.2 2 (s.2 25 (s.1 26)) ≤ s.1 28 ∨ s.1 30 = 0) then mTopsAll f (mNext s) else s
def mBeg0 (s : mS) : mS := mF (mF (mF (mF s 22 (s.1 22 + 1)) 28 (s.1 9)) 29 0) 30 0
def mBeg (s : mS) : mS := mTopsAll (s.1 27 - s.1 26).toNat (mBeg0 s)
/-- what stands all along; i lines placed, g figures met -/
def CJ (s0 : mS) (i g : Int) (s : mS) : Prop :=
  MB s ∧ told s = told s0 ∧ s.1 14 = s0.1 14 ∧ (∀ k, k = 15 ∨ k = 18 ∨ k = 19 ∨ k = 20 ∨ k = 21 → s.2 k = s0.2 k) ∧
  (0 ≤ s.1 26 ∧ s.1 26 ≤ s.1 27 ∧ s.1 27 ≤ g) ∧ (∀ j, 0 ≤ j → j < s.1 27 → 0 ≤ s.2 25 j ∧ s.2 25 j < s0.1 0 ∧ s0.2 1 (s.2 25 j) = 4) ∧
  (∀ j, 0 ≤ j → j < i → 0 ≤ s.2 17 j ∧ s.2 17 j < s.1 22)
/-- what stands while a column is filled -/
def CI (s0 : mS) (i g : Int) (s : mS) : Prop :=
  CJ s0 i g s ∧ (-300 ≤ s.1 28 ∧ s.1 28 ≤ 20) ∧ (s.1 29 = 0 ∨ s.1 29 = 1) ∧ (s.1 30 = 0 ∨ s.1 30 = 1) ∧ (s.1 30 = 0 → s.1 28 = s.1 9) ∧
  (1 ≤ s.1 22 ∧ s.1 22 ≤ i + (g - (s.1 27 - s.1 26)) + (1 - s.1 30))
section MCO
variable {D : qD} {W : mW} {X : String → qH → Prop} {s s0 : mS} {i g : Int}
theorem CJ.num (hT : TI s0) (h : CJ s0 i g s) {j : Int} (h0 : 0 ≤ j) (h1 : j < s.1 27) : 1 ≤ s.2 2 (s.2 25 j) ∧ s.2 2 (s.2 25 j) ≤ 9 := by
  obtain ⟨-, j2, -, -, -, j6, -⟩ := h
  obtain ⟨a1, a2, a3⟩ := j6 j h0 h1
  have hk := hT.tok a1 a2
  rw [told_a j2 2 (by omega)]
  exact ⟨hk.2.2.2.1 (Or.inr (Or.inr (Or.inl a3))), hk.2.2.1.2⟩
theorem told_Tops {t : Int} : told (mTops s t) = told s := by
  unfold mTops
  rw [told_F (by omega), told_F (by omega), told_A (by omega)]
theorem CI_next (hT : TI s0) (hg : g ≤ 64) (hi : 0 ≤ i ∧ i ≤ 64) (h : CI s0 i g s) (hlt : s.1 26 < s.1 27) (hc : s.2 2 (s.2 25 (s.1 26)) ≤ s.1 28 ∨ s.1 30 = 0) : CI s0 i g (mNext s) ∧ (mNext s).1 27 = s.1 27 ∧ (mNext s).1 26 = s.1 26 + 1 := by
  obtain ⟨hJ, h2, h3, h4, h5, h6⟩ := h
  have hn := hJ.num hT (j := s.1 26) (by have := hJ.2.2.2.2.1; omega) hlt
  obtain ⟨j1, j2, j3, j4, j5, j6, j7⟩ := hJ
  have h9 : 3 ≤ s.1 9 ∧ s.1 9 ≤ 20 := by
    rw [told_f j2 9 (by omega)]
    exact hT.2.2.2.2.2.1
  refine ⟨⟨⟨((((j1.A ⟨by omega, by omega⟩).F ⟨by omega, by omega⟩).F (bdl rfl)).F ⟨by omega, by omega⟩), ?_, j3, fun k hk => ?_, ?_, j6, j7⟩, ?_, h3, Or.inr rfl, fun w => absurd (show (1 : Int) = 0 from w) (by decide), ?_⟩, rfl, rfl⟩
  · unfold mNext
    rw [told_F (by omega), told_Tops, j2]
  · have hk16 : ¬ k = 16 := by omega
    rw [← j4 k hk]
    funext z
    show (if k = 16 ∧ z = _ then _ else s.2 k z) = s.2 k z
    rw [if_neg (fun w => hk16 w.1)]
  · show 0 ≤ s.1 26 + 1 ∧ s.1 26 + 1 ≤ s.1 27 ∧ s.1 27 ≤ g
    omega
  · show -300 ≤ s.1 28 - s.2 2 (s.2 25 (s.1 26)) ∧ s.1 28 - s.2 2 (s.2 25 (s.1 26)) ≤ 20
    omega
  · show 1 ≤ s.1 22 ∧ s.1 22 ≤ i + (g - (s.1 27 - (s.1 26 + 1))) + (1 - 1)
    omega
theorem CI_all (hT : TI s0) (hg : g ≤ 64) (hi : 0 ≤ i ∧ i ≤ 64) : ∀ (f : Nat) (s : mS), CI s0 i g s → CI s0 i g (mTopsAll f s) ∧ (mTopsAll f s).1 27 = s.1 27 ∧ s.1 26 ≤ (mTopsAll f s).1 26 ∧ (1 ≤ f → s.1 26 < s.1 27 → s.1 30 = 0 → s.1 26 < (mTopsAll f s).1 26) ∧ (s.1 27 ≤ s.1 26 → mTopsAll f s = s)
  | 0, s, h => ⟨h, rfl, Int.le_refl _, fun w => by omega, fun _ => rfl⟩
  | f + 1, s, h => by
    unfold mTopsAll
    split
    · next hc =>
      obtain ⟨n1, n2, n3⟩ := CI_next hT hg hi h hc.1 hc.2
      obtain ⟨a1, a2, a3, a4, a5⟩ := CI_all hT hg hi f _ n1
      refine ⟨a1, a2.trans n2, by omega, fun _ _ _ => by omega, fun w => by omega⟩
    · next hc => exact ⟨h, rfl, Int.le_refl _, fun _ w w2 => absurd ⟨w, Or.inr w2⟩ hc, fun _ => rfl⟩
theorem CI_beg0 (hT : TI s0) (hg : g ≤ 64) (hi : 0 ≤ i ∧ i ≤ 64) (h : CJ s0 i g s) (h22 : 0 ≤ s.1 22 ∧ s.1 22 ≤ i + (g - (s.1 27 - s.1 26))) : CI s0 i g (mBeg0 s) := by
  obtain ⟨j1, j2, j3, j4, j5, j6, j7⟩ := h
  have h9 : 3 ≤ s.1 9 ∧ s.1 9 ≤ 20 := by
    rw [told_f j2 9 (by omega)]
    exact hT.2.2.2.2.2.1
  refine ⟨⟨(((j1.F ⟨by omega, by omega⟩).F ⟨by omega, by omega⟩).F (bdl rfl)).F (bdl rfl), ?_, j3, j4, j5, j6, fun j a b => ?_⟩, ?_, Or.inl rfl, Or.inl rfl, fun _ => rfl, ?_⟩
  · unfold mBeg0
    rw [told_F (by omega), told_F (by omega), told_F (by omega), told_F (by omega), j2]
  · have := j7 j a b
    show 0 ≤ s.2 17 j ∧ s.2 17 j < s.1 22 + 1
    omega
  · show -300 ≤ s.1 9 ∧ s.1 9 ≤ 20
    omega
  · show 1 ≤ s.1 22 + 1 ∧ s.1 22 + 1 ≤ i + (g - (s.1 27 - s.1 26)) + (1 - 0)
    omega
theorem CI_beg (hT : TI s0) (hg : g ≤ 64) (hi : 0 ≤ i ∧ i ≤ 64) (h : CJ s0 i g s) (h22 : 0 ≤ s.1 22 ∧ s.1 22 ≤ i + (g - (s.1 27 - s.1 26))) : CI s0 i g (mBeg s) ∧ (mBeg s).1 27 = s.1 27 ∧ s.1 26 ≤ (mBeg s).1 26 ∧ (s.1 26 < s.1 27 → s.1 26 < (mBeg s).1 26) ∧ (s.1 27 ≤ s.1 26 → (mBeg s).1 30 = 0) := by
  obtain ⟨a1, a2, a3, a4, a5⟩ := CI_all hT hg hi (s.1 27 - s.1 26).toNat _ (CI_beg0 hT hg hi h h22)
  refine ⟨a1, a2, a3, fun w => a4 (by omega) w rfl, fun w => ?_⟩
  have h9 : mBeg s = mBeg0 s := a5 w
  rw [h9]
  rfl
theorem q_tops (hW : mOK D W) (hB : MB s) {K : mS → Prop} {t : Int} (ht : 0 ≤ t ∧ t < 120) (h1 : -1000 ≤ s.1 28 ∧ s.1 28 ≤ 1000) (h2 : 0 ≤ s.2 2 t ∧ s.2 2 t ≤ 100) (h3 : 0 ≤ s.1 22 ∧ s.1 22 ≤ 1000) (hK : K (mTops s t)) : pV D W X m_X3_tops [t] s K :=
  p_X3_tops hW hB ⟨by omega, by omega⟩ ⟨⟨by omega, by omega⟩, ht, ht, ⟨by omega, by omega⟩, hK⟩
theorem q_begins (hW : mOK D W) (hT : TI s0) (hg : g ≤ 64) (hi : 0 ≤ i ∧ i ≤ 64) (h : CJ s0 i g s) (h22 : 0 ≤ s.1 22 ∧ s.1 22 ≤ i + (g - (s.1 27 - s.1 26))) {K : mS → Prop} (hK : K (mBeg s)) : pV D W X m_X3_begins [] s K := by
  have hL : ∀ (f : Nat) (s : mS), CI s0 i g s → (s.1 27 - s.1 26).toNat ≤ f → K (mTopsAll f s) → PL_X3_begins_28 D W X K s := by
    intro f
    induction f with
    | zero =>
      intro s hs hf hK
      obtain ⟨hJ, -⟩ := hs
      have h5 := hJ.2.2.2.2.1
      exact p_X3_begins_28 hW fun _ => ⟨fun _ => hK, fun w => absurd (by omega) w⟩
    | succ f ih =>
      intro s hs hf hK
      have hs9 := hs
      obtain ⟨hJ, h2, h3, h4, h5, h6⟩ := hs9
      have hj := hJ.2.2.2.2.1
      refine p_X3_begins_28 hW fun hB => ⟨fun w => ?_, fun w => ?_⟩
      · unfold mTopsAll at hK
        rw [if_neg (fun q => by omega)] at hK
        exact hK
      · have hn := hJ.num hT (j := s.1 26) (by omega) (by omega)
        have hw := hJ.2.2.2.2.2.1 (s.1 26) (by omega) (by omega)
        have h64 := hT.1
        have h67 : (s.2 2 (s.2 25 (s.1 26)) ≤ s.1 28 ∨ s.1 30 = 0) → PL_X3_begins_67 D W X K s := by
          intro hc
          unfold mTopsAll at hK
          rw [if_pos ⟨by omega, hc⟩] at hK
          obtain ⟨n1, n2, n3⟩ := CI_next hT hg hi hs (by omega) hc
          refine p_X3_begins_67 hW fun hB => ⟨⟨by omega, by omega⟩, q_tops hW hB ⟨by omega, by omega⟩ ⟨by omega, by omega⟩ ⟨by omega, by omega⟩ ⟨by omega, by omega⟩ ⟨by show bd (s.1 26 + 1); exact ⟨by omega, by omega⟩, ?_⟩⟩
          exact ih (mNext s) n1 (by omega) hK
        refine ⟨⟨by omega, by omega⟩, ⟨by omega, by omega⟩, fun w2 => h67 (Or.inl w2), fun w2 => ⟨fun w3 => ?_, fun w3 => h67 (Or.inr w3)⟩⟩
        unfold mTopsAll at hK
        rw [if_neg (fun q => q.2.elim (fun z => w2 z) (fun z => w3 z))] at hK
        exact hK
  have hB := h.1
  refine p_X3_begins hW hB ⟨⟨by omega, by have := h.2.2.2.2.1; omega⟩, ?_⟩
  exact hL _ _ (CI_beg0 hT hg hi h h22) (Nat.le_refl _) hK
end MCO
