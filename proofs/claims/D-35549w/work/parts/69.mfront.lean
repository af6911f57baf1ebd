set_option maxRecDepth 100000
/-! the model's front; a copy laid out -/
def mPageBy (s : mS) (i a : Int) : Int := a + 1 + s.2 17 i / s.1 10
def mPagesOf (s : mS) (c : Int) : Int := (c + s.1 10 - 1) / s.1 10
def mDig (v : Int) : Int := if 10 ≤ v then (if 100 ≤ v then (if 1000 ≤ v then 4 else 3) else 2) else 1
def mFb (s : mS) (a : Int) (x : Int × Int) (i : Int) : Int × Int :=
  if s.2 19 i = 0 then x else if x.1 = 0 ∨ x.2 < mDig (mPageBy s i a) then (x.1 + 1, s.1 9 - mDig (mPageBy s i a)) else (x.1, x.2 - mDig (mPageBy s i a))
def mFbC (s : mS) (a : Int) : Int := (iter (mFb s a) (s.1 14).toNat (0, 0)).1
def mFrontBy (s : mS) (a : Int) : Int := mPagesOf s (mFbC s a) + mPagesOf s (mFbC s a) % 2
def mFr : Nat → mS → mS
  | 0, s => s
  | f + 1, s => if s.1 24 = 0 then mFr f (mF (mF s 24 (if mFrontBy s (s.1 23) = s.1 23 then 1 else 0)) 23 (mFrontBy s (s.1 23))) else s
def mFront (s : mS) : mS := mFr 10 (mF (mF s 23 0) 24 0)
def mLay (s : mS) (r : Int) : mS := mFront (mCols (mLay1 s r))
def mPage (s : mS) (i : Int) : Int := if s.1 24 = 0 then -1 else mPageBy s i (s.1 23)
/-- what holds behind the columns -/
def CF (s : mS) : Prop := MB s ∧ TI s ∧ LL s ∧ (0 ≤ s.1 22 ∧ s.1 22 ≤ 128) ∧ ∀ i, 0 ≤ i → i < s.1 14 → 0 ≤ s.2 17 i ∧ s.2 17 i < s.1 22
section MFR
variable {D : qD} {W : mW} {X : String → qH → Prop} {s : mS}
theorem mPageBy_bd (h : CF s) {i a : Int} (hi : 0 ≤ i ∧ i < s.1 14) (ha : 0 ≤ a ∧ a ≤ 66) : 1 ≤ mPageBy s i a ∧ a + 1 ≤ mPageBy s i a ∧ mPageBy s i a ≤ 195 := by
  obtain ⟨-, h2, -, h4, h5⟩ := h
  have hc := h5 i hi.1 hi.2
  have h10 := h2.2.2.2.2.2.2.1
  have a1 : 0 ≤ s.2 17 i / s.1 10 := Int.ediv_nonneg hc.1 (by omega)
  have a2 : s.2 17 i / s.1 10 ≤ s.2 17 i := Int.ediv_le_self _ hc.1
  unfold mPageBy
  omega
theorem mPagesOf_bd (h : TI s) {c : Int} (hc : 0 ≤ c ∧ c ≤ 128) : 0 ≤ mPagesOf s c ∧ mPagesOf s c ≤ c := by
  have h10 := h.2.2.2.2.2.2.1
  unfold mPagesOf
  rcases (by omega : s.1 10 = 1 ∨ s.1 10 = 2) with w | w <;> rw [w] <;> omega
theorem q_pageBy (hW : mOK D W) (h : CF s) {K : Int → mS → Prop} {i a : Int} (hi : 0 ≤ i ∧ i < s.1 14) (ha : 0 ≤ a ∧ a ≤ 66) (hK : K (mPageBy s i a) s) : pI D W X m_X3_pageBy [i, a] s K := by
  have hb := mPageBy_bd h hi ha
  have hc := h.2.2.2.2 i hi.1 hi.2
  have h10 := h.2.1.2.2.2.2.2.2.1
  have hl := h.2.2.1.1
  unfold mPageBy at hb hK
  exact p_X3_pageBy hW h.1 ⟨by omega, by omega⟩ ⟨by omega, by omega⟩ ⟨⟨by omega, by omega⟩, ⟨hc.1, by omega⟩, ⟨by omega, by omega⟩, hK⟩
theorem q_pagesOf (hW : mOK D W) (hB : MB s) (hT : TI s) {K : Int → mS → Prop} {c : Int} (hc : 0 ≤ c ∧ c ≤ 128) (hK : K (mPagesOf s c) s) : pI D W X m_X3_pagesOf [c] s K := by
  have h10 := hT.2.2.2.2.2.2.1
  exact p_X3_pagesOf hW hB ⟨by omega, by omega⟩ ⟨⟨by omega, by omega⟩, ⟨by omega, by omega⟩, hK⟩
theorem q_figures (hW : mOK D W) (hB : MB s) {K : Int → mS → Prop} {v : Int} (hv : bd v) (hK : K (mDig v) s) : pIS D W X m_X3_figures [v] s K := by
  unfold mDig at hK
  refine p_X3_figures hW hB hv ⟨fun a => ⟨fun b => ⟨fun c => ?_, fun c => ?_⟩, fun b => ?_⟩, fun a => ?_⟩
  · rw [if_pos a, if_pos b, if_pos c] at hK; exact hK
  · rw [if_pos a, if_pos b, if_neg c] at hK; exact hK
  · rw [if_pos a, if_neg b] at hK; exact hK
  · rw [if_neg a] at hK; exact hK
theorem mDig_bd {v : Int} : 1 ≤ mDig v ∧ mDig v ≤ 4 := by
  unfold mDig
  split
  · split
    · split <;> omega
    · omega
  · omega
theorem mFb_bd (h : TI s) {a : Int} : ∀ n : Nat, (0 ≤ (iter (mFb s a) n (0, 0)).1 ∧ (iter (mFb s a) n (0, 0)).1 ≤ n) ∧ (-10 ≤ (iter (mFb s a) n (0, 0)).2 ∧ (iter (mFb s a) n (0, 0)).2 ≤ 20)
  | 0 => ⟨⟨by show (0 : Int) ≤ 0; omega, by show (0 : Int) ≤ 0; omega⟩, by show (-10 : Int) ≤ 0; omega, by show (0 : Int) ≤ 20; omega⟩
  | n + 1 => by
    have ih := mFb_bd h (a := a) n
    have h9 := h.2.2.2.2.2.1
    show (0 ≤ (mFb s a (iter (mFb s a) n (0, 0)) n).1 ∧ (mFb s a (iter (mFb s a) n (0, 0)) n).1 ≤ ((n + 1 : Nat) : Int)) ∧ (-10 ≤ (mFb s a (iter (mFb s a) n (0, 0)) n).2 ∧ (mFb s a (iter (mFb s a) n (0, 0)) n).2 ≤ 20)
    generalize iter (mFb s a) n (0, 0) = x at *
    have hd := mDig_bd (v := mPageBy s n a)
    unfold mFb
    split
    · omega
    · split
      · dsimp only
        omega
      · dsimp only
        omega
theorem mFrontBy_bd (h : CF s) {a : Int} : 0 ≤ mFbC s a ∧ mFbC s a ≤ 64 ∧ 0 ≤ mFrontBy s a ∧ mFrontBy s a ≤ 65 := by
  have hl := h.2.2.1.1
  have h1 := (mFb_bd h.2.1 (a := a) (s.1 14).toNat).1
  have h2 : 0 ≤ mFbC s a ∧ mFbC s a ≤ 64 := by unfold mFbC; omega
  have h3 := mPagesOf_bd h.2.1 (c := mFbC s a) ⟨h2.1, by omega⟩
  unfold mFrontBy
  omega
theorem q_frontBy (hW : mOK D W) (h : CF s) {K : Int → mS → Prop} {a : Int} (ha : 0 ≤ a ∧ a ≤ 66) (hK : K (mFrontBy s a) s) : pI D W X m_X3_frontBy [a] s K := by
  have hl := h.2.2.1.1
  have hbF := mFrontBy_bd h (a := a)
  have h9 := h.2.1.2.2.2.2.2.1
  have hL : ∀ m n : Nat, n + m = (s.1 14).toNat → PL_X3_frontBy_7 D W X K s a (iter (mFb s a) n (0, 0)).1 (iter (mFb s a) n (0, 0)).2 n := by
    intro m
    induction m with
    | zero =>
      intro n hn
      have e : (iter (mFb s a) n (0, 0)).1 = mFbC s a := by unfold mFbC; rw [show n = (s.1 14).toNat by omega]
      refine p_X3_frontBy_7 hW fun hB _ _ _ _ => ⟨fun _ => ?_, fun w => absurd (by omega) w⟩
      rw [e]
      have hp := mPagesOf_bd h.2.1 (c := mFbC s a) ⟨hbF.1, by omega⟩
      exact q_pagesOf hW hB h.2.1 ⟨hbF.1, by omega⟩ ⟨⟨hp.1, by omega⟩, ⟨by omega, by omega⟩, hK⟩
    | succ m ih =>
      intro n hn
      have ih := ih (n + 1) (by omega)
      have hx := mFb_bd h.2.1 (a := a) n
      have ih : PL_X3_frontBy_7 D W X K s a (mFb s a (iter (mFb s a) n (0, 0)) n).1 (mFb s a (iter (mFb s a) n (0, 0)) n).2 ((n : Int) + 1) := ih
      generalize iter (mFb s a) n (0, 0) = x at *
      have hd := mDig_bd (v := mPageBy s n a)
      have h61 : ∀ {c f : Int}, PL_X3_frontBy_7 D W X K s a c f ((n : Int) + 1) → PL_X3_frontBy_61 D W X K s a c f n := fun G => p_X3_frontBy_61 hW fun _ _ _ _ _ => ⟨⟨by omega, by omega⟩, G⟩
      have h56 : ∀ {c f : Int}, -20 ≤ f ∧ f ≤ 20 → PL_X3_frontBy_7 D W X K s a c (f - mDig (mPageBy s n a)) ((n : Int) + 1) → PL_X3_frontBy_56 D W X K s a c f n (mDig (mPageBy s n a)) := fun hf G => p_X3_frontBy_56 hW fun _ _ _ _ _ _ => ⟨⟨by omega, by omega⟩, h61 G⟩
      have h48 : PL_X3_frontBy_7 D W X K s a (x.1 + 1) (s.1 9 - mDig (mPageBy s n a)) ((n : Int) + 1) → PL_X3_frontBy_48 D W X K s a x.1 n (mDig (mPageBy s n a)) := fun G => p_X3_frontBy_48 hW fun _ _ _ _ _ => ⟨⟨by omega, by omega⟩, h56 ⟨by omega, by omega⟩ G⟩
      unfold mFb at ih
      refine p_X3_frontBy_7 hW fun hB _ _ _ _ => ⟨fun w => absurd w (by omega), fun _ => ⟨⟨by omega, by omega⟩, fun w => h61 ?_, fun w => ?_⟩⟩
      · rw [if_pos w] at ih
        exact ih
      · rw [if_neg w] at ih
        have hpb := mPageBy_bd h (i := n) (a := a) ⟨by omega, by omega⟩ ha
        refine q_pageBy hW h ⟨by omega, by omega⟩ ha (q_figures hW hB ⟨by omega, by omega⟩ ⟨fun q => ?_, fun q => ⟨fun q2 => ?_, fun q2 => ?_⟩⟩)
        · rw [if_pos (Or.inl q)] at ih
          exact h48 ih
        · rw [if_neg (fun z => by omega)] at ih
          exact h56 ⟨by omega, by omega⟩ ih
        · rw [if_pos (Or.inr (by omega))] at ih
          exact h48 ih
  exact p_X3_frontBy hW h.1 ⟨by omega, by omega⟩ (hL (s.1 14).toNat 0 (by omega))
theorem CF.fr (h : CF s) {x y : Int} (hx : bd x) (hy : bd y) : CF (mF (mF s 24 x) 23 y) :=
  ⟨(h.1.F hx).F hy, h.2.1.of (by rw [told_F (by omega), told_F (by omega)]), ⟨h.2.2.1.1, fun i a b => h.2.2.1.2 i a b⟩, h.2.2.2.1, h.2.2.2.2⟩
/-- what holds behind the front -/
def CG (s : mS) : Prop := CF s ∧ (0 ≤ s.1 23 ∧ s.1 23 ≤ 66) ∧ (s.1 24 = 0 ∨ s.1 24 = 1)
theorem CG_fr : ∀ (f : Nat) (s : mS), CG s → CG (mFr f s)
  | 0, s, h => h
  | f + 1, s, h => by
    unfold mFr
    split
    · have hb := mFrontBy_bd h.1 (a := s.1 23)
      refine CG_fr f _ ⟨h.1.fr (by split <;> exact bdl rfl) ⟨by omega, by omega⟩, ⟨by show 0 ≤ mFrontBy s (s.1 23); omega, by show mFrontBy s (s.1 23) ≤ 66; omega⟩, ?_⟩
      show (if mFrontBy s (s.1 23) = s.1 23 then (1 : Int) else 0) = 0 ∨ (if mFrontBy s (s.1 23) = s.1 23 then (1 : Int) else 0) = 1
      split <;> omega
    · exact h
theorem CG_00 (h : CF s) : CG (mF (mF s 23 0) 24 0) := ⟨⟨(h.1.F (bdl rfl)).F (bdl rfl), h.2.1.of (by rw [told_F (by omega), told_F (by omega)]), ⟨h.2.2.1.1, fun i a b => h.2.2.1.2 i a b⟩, h.2.2.2.1, h.2.2.2.2⟩, ⟨by show (0 : Int) ≤ 0; omega, by show (0 : Int) ≤ 66; omega⟩, Or.inl rfl⟩
theorem q_layFront (hW : mOK D W) (h : CF s) {K : mS → Prop} (hK : K (mFront s)) : pV D W X m_X3_layFront [] s K := by
  have hL : ∀ (f : Nat) (s : mS) (n : Int), CG s → n + f = 10 → 0 ≤ n → K (mFr f s) → PL_X3_layFront_12 D W X K s n := by
    intro f
    induction f with
    | zero => intro s n h hn _ hK; exact p_X3_layFront_12 hW fun _ _ => ⟨fun _ => hK, fun w => absurd (by omega) w⟩
    | succ f ih =>
      intro s n h hn h0 hK
      unfold mFr at hK
      have hb := mFrontBy_bd h.1 (a := s.1 23)
      have hCG : ∀ {y : Int}, (y = 0 ∨ y = 1) → CG (mF (mF s 24 y) 23 (mFrontBy s (s.1 23))) := fun hy => ⟨h.1.fr (bd01 hy) ⟨by omega, by omega⟩, ⟨by show 0 ≤ mFrontBy s (s.1 23); omega, by show mFrontBy s (s.1 23) ≤ 66; omega⟩, hy⟩
      have h48 : ∀ {y : Int}, (y = 0 ∨ y = 1) → K (mFr f (mF (mF s 24 y) 23 (mFrontBy s (s.1 23)))) → PL_X3_layFront_48 D W X K s n (mFrontBy s (s.1 23)) y := fun hy hK => p_X3_layFront_48 hW fun _ _ _ _ => ⟨hy, ⟨by omega, by omega⟩, ih _ _ (hCG hy) (by omega) (by omega) hK⟩
      refine p_X3_layFront_12 hW fun hB _ => ⟨fun w => absurd w (by omega), fun _ => ⟨fun w => ?_, fun w => ?_⟩⟩
      · rw [if_neg w] at hK
        exact hK
      · rw [if_pos w] at hK
        refine q_frontBy hW h.1 h.2.1 ⟨fun q => h48 (Or.inl rfl) ?_, fun q => h48 (Or.inr rfl) ?_⟩
        · rw [if_neg q] at hK
          exact hK
        · rw [if_pos q] at hK
          exact hK
  exact p_X3_layFront hW h.1 (hL 10 _ 0 (CG_00 h) (by omega) (by omega) hK)
theorem L1.LL (hT : TI s) {x : mS} (h : L1 s x) : LL x := ⟨by have := h.2.2.1; have := hT.1; omega, h.2.2.2.2⟩
theorem CF_cols (hB : MB s) (hT : TI s) (hL : LL s) : CF (mCols s) ∧ (mCols s).1 14 = s.1 14 ∧ told (mCols s) = told s ∧ ∀ k, k = 15 ∨ k = 18 ∨ k = 19 ∨ k = 20 ∨ k = 21 → (mCols s).2 k = s.2 k := by
  have h64 := hT.1
  have hl := hL.1
  unfold mCols
  split
  · next w =>
    have hc := CJ_00 hB hT
    exact ⟨⟨hc.1, hT.of hc.2.1.symm, LL_of hL hc, ⟨by show (0 : Int) ≤ 0; omega, by show (0 : Int) ≤ 128; omega⟩, fun i a b => by have b : i < s.1 14 := b; omega⟩, rfl, hc.2.1, fun _ _ => rfl⟩
  · next w =>
    have hA := CI_lines hT hL hB (s.1 14).toNat (by omega)
    rw [Int.toNat_of_nonneg hl.1] at hA
    have hgb := mG_bd (s0 := s) hT.1.1 (i := s.1 14) (t := 0)
    have hj := hA.1.1.2.2.2.2.1
    obtain ⟨c1, c2, c3⟩ := CI_end hT (by omega) ⟨by omega, by omega⟩ 130 _ hA.1 (hA.2 (by omega)) (by omega)
    obtain ⟨hJ, -, -, -, -, h6⟩ := c1
    refine ⟨⟨hJ.1, hT.of hJ.2.1.symm, LL_of hL hJ, by omega, fun i a b => ?_⟩, hJ.2.2.1, hJ.2.1, hJ.2.2.2.1⟩
    rw [hJ.2.2.1] at b
    exact hJ.2.2.2.2.2.2 i a b
theorem CG_lay (hB : MB s) (hT : TI s) {r : Int} (hr : 0 ≤ r ∧ r < 4) : CG (mLay s r) := by
  obtain ⟨h1, -⟩ := L1_lay hT hB hr
  exact CG_fr 10 _ (CG_00 (CF_cols h1.1 (hT.of h1.2.1.symm) (h1.LL hT)).1)
theorem q_lay (hW : mOK D W) (hB : MB s) (hT : TI s) {K : mS → Prop} {r : Int} (hr : 0 ≤ r ∧ r < 4) (hK : K (mLay s r)) : pV D W X m_X3_lay [r] s K := by
  obtain ⟨h1, -⟩ := L1_lay hT hB hr
  have hT1 := hT.of h1.2.1.symm
  exact p_X3_lay hW hB ⟨by omega, by omega⟩ (q_layLines hW hB hT hr (q_layColumns hW h1.1 hT1 (h1.LL hT) (q_layFront hW (CF_cols h1.1 hT1 (h1.LL hT)).1 hK)))
theorem q_page (hW : mOK D W) (h : CG s) {K : Int → mS → Prop} {i : Int} (hi : 0 ≤ i ∧ i < s.1 14) (hK : K (mPage s i) s) : pI D W X m_X3_page [i] s K := by
  have hl := h.1.2.2.1.1
  unfold mPage at hK
  refine p_X3_page hW h.1.1 ⟨by omega, by omega⟩ ⟨fun w => ?_, fun w => q_pageBy hW h.1 hi h.2.1 ?_⟩
  · rw [if_pos w] at hK; exact hK
  · rw [if_neg w] at hK; exact hK
end MFR
