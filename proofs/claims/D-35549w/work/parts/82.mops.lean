set_option maxRecDepth 100000
/-! the model's calls: plate -/
theorem fr_same : ∀ (f : Nat) (s : mS), (mFr f s).2 = s.2 ∧ ∀ k, k ≠ 23 → k ≠ 24 → (mFr f s).1 k = s.1 k
  | 0, s => ⟨rfl, fun _ _ _ => rfl⟩
  | f + 1, s => by
    unfold mFr
    split
    · obtain ⟨a, b⟩ := fr_same f (mF (mF s 24 (if mFrontBy s (s.1 23) = s.1 23 then 1 else 0)) 23 (mFrontBy s (s.1 23)))
      refine ⟨a, fun k h1 h2 => (b k h1 h2).trans ?_⟩
      simp [mF, h1, h2]
    · exact ⟨rfl, fun _ _ _ => rfl⟩
/-- what holds behind lay -/
def CH (s : mS) : Prop := CG s ∧ ∀ t, 0 ≤ t → t < s.1 0 → -1 ≤ s.2 15 t ∧ s.2 15 t < s.1 14
section MPD
variable {D : qD} {W : mW} {X : String → qH → Prop} {s : mS}
theorem lay_same (hB : MB s) (hT : TI s) {r : Int} (hr : 0 ≤ r ∧ r < 4) : (mLay s r).1 14 = (mLay1 s r).1 14 ∧ ∀ k, k = 15 ∨ k = 18 ∨ k = 19 ∨ k = 20 ∨ k = 21 → (mLay s r).2 k = (mLay1 s r).2 k := by
  obtain ⟨h1, -⟩ := L1_lay hT hB hr
  obtain ⟨-, c2, -, c4⟩ := CF_cols h1.1 (hT.of h1.2.1.symm) (h1.LL hT)
  obtain ⟨a, b⟩ := fr_same 10 (mF (mF (mCols (mLay1 s r)) 23 0) 24 0)
  refine ⟨(b 14 (by omega) (by omega)).trans c2, fun k hk => ?_⟩
  rw [← c4 k hk]
  exact congrFun a k
theorem CH_lay (hB : MB s) (hT : TI s) {r : Int} (hr : 0 ≤ r ∧ r < 4) : CH (mLay s r) := by
  obtain ⟨h1, -⟩ := L1_lay hT hB hr
  obtain ⟨e14, ea⟩ := lay_same hB hT hr
  refine ⟨CG_lay hB hT hr, fun t a b => ?_⟩
  rw [told_f (told_lay hB hT hr) 0 (by simp)] at b
  rw [ea 15 (by omega), e14]
  exact h1.2.2.2.1 t a b
def mPl (s : mS) (sh sd c x t : Int) : Int := if s.2 15 t ≠ -1 ∧ ¬ mHg s t ∧ mEff 6 s (s.2 3 t) = c ∧ mSheetOf s (mPage s (s.2 15 t)) = sh ∧ mSideOf s (mPage s (s.2 15 t)) = sd then x + 1 else x
def mPlate (s : mS) (sh sd c : Int) : Int := if s.1 24 = 0 then 0 else iter (mPl s sh sd c) (s.1 0).toNat 0
theorem mPl_bd {sh sd c : Int} : ∀ n : Nat, 0 ≤ iter (mPl s sh sd c) n 0 ∧ iter (mPl s sh sd c) n 0 ≤ n
  | 0 => ⟨by show (0 : Int) ≤ 0; omega, by show (0 : Int) ≤ 0; omega⟩
  | n + 1 => by
    have ih := mPl_bd (sh := sh) (sd := sd) (c := c) n
    show 0 ≤ mPl s sh sd c (iter (mPl s sh sd c) n 0) n ∧ mPl s sh sd c (iter (mPl s sh sd c) n 0) n ≤ ((n + 1 : Nat) : Int)
    generalize iter (mPl s sh sd c) n 0 = x at *
    unfold mPl
    split <;> omega
theorem q_plate69 (hW : mOK D W) (h : CH s) {K : Int → mS → Prop} {sh sd c : Int} (b1 : bd sh) (b2 : bd sd) (b3 : bd c) (hK : K (mPlate s sh sd c) s) : PL_X3_plate_69 D W X K s sh sd c 0 0 := by
  have hT := h.1.1.2.1
  have h64 := hT.1
  by_cases h24 : s.1 24 = 0
  · unfold mPlate at hK
    rw [if_pos h24] at hK
    exact p_X3_plate_69 hW fun _ _ _ _ _ _ => ⟨fun _ => hK, fun _ => ⟨fun _ => hK, fun w => absurd h24 w⟩⟩
  unfold mPlate at hK
  rw [if_neg h24] at hK
  have hL : ∀ j n : Nat, n + j = (s.1 0).toNat → PL_X3_plate_69 D W X K s sh sd c (iter (mPl s sh sd c) n 0) n := by
    intro j
    induction j with
    | zero =>
      intro n hn
      refine p_X3_plate_69 hW fun _ _ _ _ _ _ => ⟨fun _ => ?_, fun w => absurd (by omega) w⟩
      rw [show n = (s.1 0).toNat by omega]
      exact hK
    | succ j ih =>
      intro n hn
      have hx := mPl_bd (s := s) (sh := sh) (sd := sd) (c := c) n
      have ih : PL_X3_plate_69 D W X K s sh sd c (mPl s sh sd c (iter (mPl s sh sd c) n 0) n) ((n : Int) + 1) := ih (n + 1) (by omega)
      generalize iter (mPl s sh sd c) n 0 = x at *
      have h164 : ∀ {y : Int}, PL_X3_plate_69 D W X K s sh sd c y ((n : Int) + 1) → PL_X3_plate_164 D W X K s sh sd c y n := fun G => p_X3_plate_164 hW fun _ _ _ _ _ _ => ⟨⟨by omega, by omega⟩, G⟩
      unfold mPl at ih
      have hno : ¬ (s.2 15 n ≠ -1 ∧ ¬ mHg s n ∧ mEff 6 s (s.2 3 n) = c ∧ mSheetOf s (mPage s (s.2 15 n)) = sh ∧ mSideOf s (mPage s (s.2 15 n)) = sd) → PL_X3_plate_164 D W X K s sh sd c x n := fun q => by
        rw [if_neg q] at ih
        exact h164 ih
      have hno2 : ¬ (s.2 15 n ≠ -1 ∧ ¬ mHg s n ∧ mEff 6 s (s.2 3 n) = c ∧ mSheetOf s (mPage s (s.2 15 n)) = sh ∧ mSideOf s (mPage s (s.2 15 n)) = sd) → PL_X3_plate_160 D W X K s sh sd c n x := fun q => p_X3_plate_160 hW fun _ _ _ _ _ _ => p_X3_plate_161 hW fun _ _ _ _ _ _ _ => ⟨⟨by omega, by omega⟩, by rw [Int.add_zero]; exact hno q⟩
      have hk := hT.tok (t := n) (by omega) (by omega)
      have hk3 := hk.2.1
      have hln := h.2 n (by omega) (by omega)
      refine p_X3_plate_69 hW fun hB _ _ _ _ _ => ⟨fun w => by omega, fun _ => ⟨fun w => absurd w h24, fun _ => ⟨⟨by omega, by omega⟩, fun w => hno (fun q => q.1 w), fun w => ?_⟩⟩⟩
      have hpb := mPage_bd h.1 (i := s.2 15 n) ⟨by omega, hln.2⟩
      have hpp : 1 ≤ mPage s (s.2 15 n) := by
        unfold mPage
        rw [if_neg h24]
        exact (mPageBy_bd h.1.1 ⟨by omega, hln.2⟩ h.1.2.1).1
      refine q_hangs hW hB (by omega) (by omega) ⟨fun q => ?_, fun q => ⟨⟨by omega, by omega⟩, q_colourOf hW hB hT (by omega) (by omega) ⟨fun q2 => hno (fun z => q2 z.2.2.1), fun q2 => ⟨⟨by omega, by omega⟩, q_page hW h.1 ⟨by omega, hln.2⟩ (q_sheetOf hW hB hT ⟨hpp, by omega⟩ ⟨fun q3 => hno2 (fun z => q3 z.2.2.2.1), fun q3 => q_sideOf hW hB hT ⟨hpp, by omega⟩ ⟨fun q4 => hno2 (fun z => q4 z.2.2.2.2), fun q4 => ?_⟩⟩)⟩⟩⟩⟩
      · refine hno (fun z => ?_)
        rw [if_neg z.2.1] at q
        exact q rfl
      · have hg : ¬ mHg s n := fun z => by rw [if_pos z] at q; omega
        rw [if_pos ⟨w, hg, q2, q3, q4⟩] at ih
        exact p_X3_plate_161 hW fun _ _ _ _ _ _ _ => ⟨⟨by omega, by omega⟩, h164 ih⟩
  exact hL (s.1 0).toNat 0 (by omega)
theorem q_plate (hW : mOK D W) (hB : MB s) (hT : TI s) {K : Int → mS → Prop} {r sh sd c : Int} (br : bd r) (b1 : bd sh) (b2 : bd sd) (b3 : bd c) (hok : (0 ≤ r ∧ r ≤ 3) → (0 ≤ sh ∧ sh ≤ 249) → (0 ≤ sd ∧ sd ≤ 1) → (0 ≤ c ∧ c ≤ 3) → K (mPlate (mLay (mF s 37 0) r) sh sd c) (mLay (mF s 37 0) r)) (hno : ¬ ((0 ≤ r ∧ r ≤ 3) ∧ (0 ≤ sh ∧ sh ≤ 249) ∧ (0 ≤ sd ∧ sd ≤ 1) ∧ (0 ≤ c ∧ c ≤ 3)) → K 0 (mF s 37 1)) : pI D W X m_X3_plate [r, sh, sd, c] s K := by
  have h47 : ¬ ((0 ≤ r ∧ r ≤ 3) ∧ (0 ≤ sh ∧ sh ≤ 249) ∧ (0 ≤ sd ∧ sd ≤ 1) ∧ (0 ≤ c ∧ c ≤ 3)) → PL_X3_plate_47 D W X K s := fun q => p_X3_plate_47 hW fun hB => q_fails hW hB (bdl rfl) (hno q)
  refine p_X3_plate hW hB br b1 b2 b3 ⟨fun w => h47 (fun q => mIn_no.mp w q.1), fun w => ⟨fun w2 => h47 (fun q => mIn_no.mp w2 q.2.1), fun w2 => ⟨fun w3 => h47 (fun q => mIn_no.mp w3 q.2.2.1), fun w3 => ⟨fun w4 => ?_, fun w4 => h47 (fun q => mIn_no.mp w4 q.2.2.2)⟩⟩⟩⟩
  have e1 := mIn_yes.mp w
  have hB2 : MB (mF s 37 0) := hB.F (bdl rfl)
  exact q_lay hW hB2 hT.f37 ⟨e1.1, by omega⟩ (q_plate69 hW (CH_lay hB2 hT.f37 ⟨e1.1, by omega⟩) b1 b2 b3 (hok e1 (mIn_yes.mp w2) (mIn_yes.mp w3) (mIn_yes.mp w4)))
end MPD
