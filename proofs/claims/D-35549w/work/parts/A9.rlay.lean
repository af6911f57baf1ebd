set_option maxRecDepth 100000
/-! the component's layout is the model's -/
/-- between the component's layout and the model's copy -/
def RF (s : mS) (v : lV) (x : mS) : Prop :=
  v.1.1 14 = x.1 14 ∧ (∀ u : Int, 0 ≤ u → u < s.1 0 → v.1.2 15 u = x.2 15 u) ∧ (∀ i, 0 ≤ i → i < x.1 14 → v.1.2 18 i = x.2 18 i ∧ v.1.2 19 i = x.2 19 i ∧ v.1.2 21 i = x.2 21 i ∧ v.1.2 17 i = x.2 17 i) ∧
  (∀ i : Nat, (i : Int) < x.1 14 → v.2 (6 + 3 * i) = (mOn x i (s.1 0).toNat).map fun (u : Nat) => (u : Int)) ∧ v.1.1 22 = x.1 22 ∧
  (∀ u : Int, 0 ≤ u → u < s.1 0 → s.2 1 u = 4 → v.1.2 16 u = if x.2 15 u = -1 then -1 else x.2 16 u) ∧ v.1.1 23 = (if x.1 24 = 0 then -1 else x.1 23) ∧ LZ v ∧ LC v ∧ (0 ≤ v.1.1 22 ∧ v.1.1 22 ≤ 130) ∧ (-1 ≤ v.1.1 23 ∧ v.1.1 23 ≤ 65)
section RFS
variable {s : mS} {r : Int} {v : lV} {x : mS}
theorem iter_rel {σ τ : Type} {f : σ → Int → σ} {g : τ → Int → τ} {R : σ → τ → Prop} {n : Nat} (h : ∀ (a : σ) (b : τ) (i : Nat), i < n → R a b → R (f a i) (g b i)) {a : σ} {b : τ} (h0 : R a b) : ∀ m : Nat, m ≤ n → R (iter f m a) (iter g m b)
  | 0, _ => h0
  | m + 1, hm => h _ _ m (by omega) (iter_rel h h0 m (by omega))
theorem front_eq (hT : TI s) (hx : told x = told s) (e14 : v.1.1 14 = x.1 14) (hv : ∀ i, 0 ≤ i → i < x.1 14 → v.1.2 19 i = x.2 19 i ∧ v.1.2 17 i = x.2 17 i) (hC : LC v) {a : Int} (ha : 0 ≤ a ∧ a ≤ 66) : lFrontBy s v.1 a = mFrontBy x a := by
  have e9 : x.1 9 = s.1 9 := told_f hx 9 (by simp)
  have e10 : x.1 10 = s.1 10 := told_f hx 10 (by simp)
  have hpo : ∀ c, mPagesOf x c = mPagesOf s c := fun c => by unfold mPagesOf; rw [e10]
  have h9 := hT.2.2.2.2.2.1
  have hb : lFbN s v.1 a = mFbC x a := by
    unfold lFbN mFbC
    rw [e14]
    refine (iter_rel (R := fun (p : Int × Int) (q : Int × Int) => p.1 = q.1 ∧ p.2 = s.1 9 - q.2 ∧ 0 ≤ q.1 ∧ (q.1 = 0 → q.2 = 0)) (n := (x.1 14).toNat) (a := ((0, s.1 9) : Int × Int)) (b := ((0, 0) : Int × Int)) (fun p q i hi hR => ?_) ⟨rfl, by show s.1 9 = s.1 9 - 0; omega, Int.le_refl _, fun _ => rfl⟩ (x.1 14).toNat (Nat.le_refl _)).1
    obtain ⟨r1, r2, r3, r4⟩ := hR
    obtain ⟨q1, q2⟩ := hv i (by omega) (by omega)
    have hpg : lPg s v.1 i a = mPageBy x i a := by
      unfold lPg mPageBy
      rw [q2, e10]
      omega
    have hpb := lPg_bd hT hC (z := (i : Int)) (a := a) (by omega) (by omega) ⟨ha.1, by omega⟩
    have hdg : lDig (lPg s v.1 i a) = mDig (mPageBy x i a) := by
      rw [hpg]
      rw [hpg] at hpb
      unfold lDig mDig
      split
      · split
        · rw [if_neg (by omega)]
        · rw [if_pos (by omega), if_neg (by omega)]
      · rw [if_pos (by omega), if_pos (by omega), if_neg (by omega)]
    have hd := lDig_bd (p := lPg s v.1 i a)
    unfold lFb mFb
    rw [q1]
    by_cases h19 : x.2 19 i = 0
    · rw [if_pos h19, if_pos h19]
      exact ⟨r1, r2, r3, r4⟩
    · rw [if_neg h19, if_neg h19, e9]
      by_cases hc : q.1 = 0 ∨ q.2 < mDig (mPageBy x i a)
      · rw [if_pos hc, if_neg (by rw [hdg, r2]; omega)]
        refine ⟨by show p.1 + 1 = q.1 + 1; omega, by show lDig (lPg s v.1 i a) = s.1 9 - (s.1 9 - mDig (mPageBy x i a)); omega, by show 0 ≤ q.1 + 1; omega, fun w => ?_⟩
        have w : q.1 + 1 = 0 := w
        omega
      · rw [if_neg hc, if_pos (by rw [hdg, r2]; omega)]
        refine ⟨r1, by show p.2 + lDig (lPg s v.1 i a) = s.1 9 - (q.2 - mDig (mPageBy x i a)); omega, r3, fun w => ?_⟩
        exact absurd (Or.inl w) hc
  unfold lFrontBy mFrontBy
  rw [hb, hpo]
theorem rest_eq (hT : TI s) (hx : told x = told s) (e14 : v.1.1 14 = x.1 14) (hN : 0 ≤ v.1.1 14 ∧ v.1.1 14 ≤ 64) (hv : ∀ i, 0 ≤ i → i < x.1 14 → v.1.2 19 i = x.2 19 i ∧ v.1.2 17 i = x.2 17 i) (hC : LC v) : ∀ (f : Nat) (p : Int) (y : mS), (0 ≤ p ∧ p ≤ 65) → y.2 = x.2 → (∀ k, k ≠ 23 → k ≠ 24 → y.1 k = x.1 k) → y.1 24 = 0 → y.1 23 = p → lRests s v.1 f p = if (mFr f y).1 24 = 0 then -1 else (mFr f y).1 23
  | 0, p, y, hp, h2, h1, h24, h23 => by
    show (-1 : Int) = if y.1 24 = 0 then -1 else y.1 23
    rw [if_pos h24]
  | f + 1, p, y, hp, h2, h1, h24, h23 => by
    have hfb : mFrontBy y p = mFrontBy x p := by
      have e10 := h1 10 (by omega) (by omega)
      have e9 := h1 9 (by omega) (by omega)
      have e14 := h1 14 (by omega) (by omega)
      have epo : ∀ c, mPagesOf y c = mPagesOf x c := fun c => by unfold mPagesOf; rw [e10]
      have efb : mFb y p = mFb x p := by
        funext q i
        unfold mFb mPageBy
        rw [h2, e10, e9]
      unfold mFrontBy mFbC
      rw [epo, efb, e14]
    have heq := front_eq hT hx e14 hv hC (a := p) ⟨hp.1, by omega⟩
    have hb := lFrontBy_bd (v := v) hT hN (a := p)
    unfold lRests mFr
    rw [if_pos h24, h23, hfb, ← heq]
    by_cases w : lFrontBy s v.1 p = p
    · rw [if_pos w, if_pos w]
      have hst : ∀ (f : Nat) (z : mS), z.1 24 ≠ 0 → mFr f z = z := by
        intro f z hz
        cases f with
        | zero => rfl
        | succ f => exact if_neg hz
      have e1 : (mF (mF y 24 1) 23 (lFrontBy s v.1 p)).1 24 = 1 := rfl
      rw [hst _ _ (by rw [e1]; decide), e1, if_neg (by decide)]
      exact w.symm
    · rw [if_neg w, if_neg w]
      exact rest_eq hT hx e14 hN hv hC f _ _ hb.2.2 h2 (fun k k1 k2 => by
        show (if k = 23 then _ else if k = 24 then _ else y.1 k) = x.1 k
        rw [if_neg k1, if_neg k2]
        exact h1 k k1 k2) rfl rfl
theorem RF_lay (hT : TI s) (hB : MB s) (hr : 0 ≤ r ∧ r < 4) : RF s (lLay s r) (mLay s r) := by
  have h64 := hT.1
  have hR1 := R1_lay hT hB hr
  obtain ⟨hL1, hHI⟩ := L1_lay hT hB hr
  have hT0 := hT.of hL1.2.1.symm
  have hLL := hL1.LL hT
  have h14b := hL1.2.2.1
  have h15b := hL1.2.2.2.1
  obtain ⟨hRC, hw4⟩ := RC_fill (r := r) hT hT0 hL1.1 hL1.2.1 hLL hR1
  obtain ⟨hCF, c14, ctold, carr⟩ := CF_cols hL1.1 hT0 hLL
  have hLZ := LZ_of hLL hR1 hRC.1
  have e14 : (lFill (canon s r) (lV2 s r)).1.1 14 = (mCols (mLay1 s r)).1 14 := by rw [c14]; exact hRC.1.1.trans hR1.1
  have hLC : LC (lFill (canon s r) (lV2 s r)) := RC_LC hCF.2.2.2.2 hCF.2.2.2.1.2 e14 (fun j b0 b1 => hRC.2.2.2.2.2.2 j b0 (by rw [← c14]; exact b1))
  have hrb := lRests_bd (v := lFill (canon s r) (lV2 s r)) hT hLZ.1 10 0 ⟨by omega, by omega⟩
  obtain ⟨f2, f1⟩ := fr_same 10 (mF (mF (mCols (mLay1 s r)) 23 0) 24 0)
  have x2 : (mLay s r).2 = (mCols (mLay1 s r)).2 := f2
  have x1 : ∀ k, k ≠ 23 → k ≠ 24 → (mLay s r).1 k = (mCols (mLay1 s r)).1 k := fun k h1 h2 => (f1 k h1 h2).trans (by
    show (if k = 24 then _ else if k = 23 then _ else (mCols (mLay1 s r)).1 k) = _
    rw [if_neg h2, if_neg h1])
  have x14 : (mLay s r).1 14 = (mLay1 s r).1 14 := (x1 14 (by omega) (by omega)).trans c14
  have hat : ∀ i, 0 ≤ i → i < (mLay1 s r).1 14 → (lFill (canon s r) (lV2 s r)).1.2 18 i = (mLay s r).2 18 i ∧ (lFill (canon s r) (lV2 s r)).1.2 19 i = (mLay s r).2 19 i ∧ (lFill (canon s r) (lV2 s r)).1.2 21 i = (mLay s r).2 21 i ∧ (lFill (canon s r) (lV2 s r)).1.2 17 i = (mLay s r).2 17 i := by
    intro i b0 b1
    obtain ⟨-, -, q3, -⟩ := hR1
    have q := q3 i b0 b1
    rw [x2, carr 18 (by omega), carr 19 (by omega), carr 21 (by omega), hRC.1.2.1 18 (by omega) (by omega), hRC.1.2.1 19 (by omega) (by omega), hRC.1.2.1 21 (by omega) (by omega)]
    exact ⟨q.1, q.2.1, q.2.2, hRC.2.2.2.2.2.2 i b0 b1⟩
  have htx : told (mCols (mLay1 s r)) = told s := ctold.trans hL1.2.1
  have hrest := rest_eq (v := lFill (canon s r) (lV2 s r)) hT htx e14 hLZ.1 (fun i b0 b1 => by
    have := hat i b0 (by rw [← c14]; exact b1)
    rw [x2] at this
    exact ⟨this.2.1, this.2.2.2⟩) hLC 10 0 (mF (mF (mCols (mLay1 s r)) 23 0) 24 0) ⟨by omega, by omega⟩ rfl (fun k h1 h2 => by
    show (if k = 24 then _ else if k = 23 then _ else (mCols (mLay1 s r)).1 k) = _
    rw [if_neg h2, if_neg h1]) rfl rfl
  rw [lLay_eq]
  refine ⟨by rw [x14]; exact hRC.1.1.trans hR1.1, fun u b0 b1 => ?_, fun i b0 b1 => hat i b0 (by omega), fun i hi => ?_, ?_, fun u b0 b1 hk => ?_, hrest, hLZ, hLC, ?_, hrb⟩
  · rw [x2, carr 15 (by omega)]
    show (lFill (canon s r) (lV2 s r)).1.2 15 u = _
    rw [hRC.1.2.1 15 (by omega) (by omega)]
    exact hR1.2.1 u b0 b1
  · have e1 : mOn (mLay s r) i (s.1 0).toNat = mOn (mLay1 s r) i (s.1 0).toNat := by
      unfold mOn mHg
      have k1 : (mLay s r).2 1 = s.2 1 := told_a (told_lay hB hT hr) 1 (by omega)
      have k2 : (mLay1 s r).2 1 = s.2 1 := told_a hL1.2.1 1 (by omega)
      rw [x2, carr 15 (by omega), ← x2, k1, k2]
    rw [e1]
    show (lFill (canon s r) (lV2 s r)).2 (6 + 3 * i) = _
    rw [hRC.1.2.2 _ (by omega)]
    exact hR1.2.2.2.1 i (by omega)
  · rw [x1 22 (by omega) (by omega)]
    exact hRC.2.1
  · show (lFill (canon s r) (lV2 s r)).1.2 16 u = _
    have hu := h15b u b0 b1
    have e15 : (mLay s r).2 15 u = (mLay1 s r).2 15 u := by rw [x2, carr 15 (by omega)]
    rw [e15, x2]
    by_cases hm : (mLay1 s r).2 15 u = -1
    · rw [if_pos hm]
      refine hRC.2.2.2.2.1 u b0 (by omega) ?_
      unfold met
      rintro ⟨-, -, a, -⟩
      omega
    · rw [if_neg hm]
      rcases hRC.2.2.2.1 u with q | ⟨q, q2⟩ | q
      · exact q
      · exfalso
        rcases q2 with q2 | q2
        · exact q2 ⟨⟨b0, b1⟩, hk, by omega, Or.inl hu.2⟩
        · rw [hw4] at q2
          cases q2
      · omega
  · show 0 ≤ (lFill (canon s r) (lV2 s r)).1.1 22 ∧ (lFill (canon s r) (lV2 s r)).1.1 22 ≤ 130
    rw [hRC.2.1]
    have := hCF.2.2.2.1
    omega
end RFS
