set_option maxRecDepth 100000
/-! the model's calls: sheets -/
def mQ (s : mS) (p : Int) : Int := (p - 1) % s.1 12 + 1
def mWithin (s : mS) (p : Int) : Int := if s.1 12 / 2 < mQ s p then (s.1 12 - mQ s p) / 2 else (mQ s p - 1) / 2
def mSheetOf (s : mS) (p : Int) : Int := (p - 1) / s.1 12 * (s.1 12 / 4) + mWithin s p
def mSideOf (s : mS) (p : Int) : Int := if mQ s p = s.1 12 - 2 * mWithin s p ∨ mQ s p = 2 * mWithin s p + 1 then 0 else 1
def mSheet (s : mS) (p w : Int) : Int := if w = 0 then mSheetOf s p else if w = 1 then mSideOf s p else if w = 2 then (if mQ s p = 2 * mWithin s p + 1 ∨ mQ s p = s.1 12 - 2 * mWithin s p - 1 then 1 else 0) else mWithin s p * s.1 13
section MP3
variable {D : qD} {W : mW} {X : String → qH → Prop} {s : mS}
theorem TI.sig (h : TI s) : s.1 12 = 4 ∨ s.1 12 = 8 ∨ s.1 12 = 16 := h.2.2.2.2.2.2.2.2.1
theorem mQ_bd (hT : TI s) {p : Int} : 1 ≤ mQ s p ∧ mQ s p ≤ s.1 12 := by
  have h1 := hT.sig
  have h2 := Int.emod_nonneg (p - 1) (show s.1 12 ≠ 0 by omega)
  have h3 := Int.emod_lt_of_pos (p - 1) (show 0 < s.1 12 by omega)
  unfold mQ
  omega
theorem mWithin_bd (hT : TI s) {p : Int} : 0 ≤ mWithin s p ∧ mWithin s p ≤ 8 := by
  have h1 := hT.sig
  have h2 := mQ_bd hT (p := p)
  unfold mWithin
  split <;> omega
theorem q_within (hW : mOK D W) (hB : MB s) (hT : TI s) {K : Int → mS → Prop} {p : Int} (hp : 1 ≤ p ∧ p ≤ 999) (hK : K (mWithin s p) s) : pI D W X m_X3_within [p] s K := by
  have h1 := hT.sig
  have h2 := mQ_bd hT (p := p)
  unfold mWithin at hK
  unfold mQ at h2 hK
  refine p_X3_within hW hB ⟨by omega, by omega⟩ ⟨⟨by omega, by omega⟩, ⟨by omega, by omega⟩, ⟨by omega, by omega⟩, ⟨by omega, by omega⟩, fun w => ⟨⟨by omega, by omega⟩, ⟨by omega, by omega⟩, ?_⟩, fun w => ⟨⟨by omega, by omega⟩, ⟨by omega, by omega⟩, ?_⟩⟩
  · rw [if_pos w] at hK; exact hK
  · rw [if_neg w] at hK; exact hK
theorem mDivs (hT : TI s) {p : Int} (hp : 1 ≤ p ∧ p ≤ 999) : 0 ≤ (p - 1) / s.1 12 * (s.1 12 / 4) ∧ (p - 1) / s.1 12 * (s.1 12 / 4) ≤ 1000 := by
  rcases hT.sig with h | h | h <;> rw [h] <;> omega
theorem q_sheetOf (hW : mOK D W) (hB : MB s) (hT : TI s) {K : Int → mS → Prop} {p : Int} (hp : 1 ≤ p ∧ p ≤ 999) (hK : K (mSheetOf s p) s) : pI D W X m_X3_sheetOf [p] s K := by
  have h1 := hT.sig
  have h3 := mWithin_bd hT (p := p)
  have h4 := mDivs hT hp
  exact p_X3_sheetOf hW hB ⟨by omega, by omega⟩ ⟨⟨by omega, by omega⟩, ⟨by omega, by omega⟩, ⟨by omega, by omega⟩, q_within hW hB hT hp ⟨⟨by omega, by omega⟩, hK⟩⟩
theorem q_sideOf (hW : mOK D W) (hB : MB s) (hT : TI s) {K : Int → mS → Prop} {p : Int} (hp : 1 ≤ p ∧ p ≤ 999) (hK : K (mSideOf s p) s) : pI D W X m_X3_sideOf [p] s K := by
  have h1 := hT.sig
  have h2 := mQ_bd hT (p := p)
  have h3 := mWithin_bd hT (p := p)
  have h38 : (mQ s p = s.1 12 - 2 * mWithin s p ∨ mQ s p = 2 * mWithin s p + 1) → PL_X3_sideOf_38 D W X K s := fun w => p_X3_sideOf_38 hW fun _ => by
    unfold mSideOf at hK
    rw [if_pos w] at hK
    exact hK
  have hq : (p - 1) % s.1 12 + 1 = mQ s p := rfl
  refine p_X3_sideOf hW hB ⟨by omega, by omega⟩ ?_
  rw [hq]
  refine ⟨⟨by omega, by omega⟩, ⟨by omega, by omega⟩, q_within hW hB hT hp ⟨⟨by omega, by omega⟩, ⟨by omega, by omega⟩, fun w => h38 (Or.inl w), fun w => ⟨⟨by omega, by omega⟩, ⟨by omega, by omega⟩, fun w2 => ?_, fun w2 => h38 (Or.inr w2)⟩⟩⟩
  unfold mSideOf at hK
  rw [if_neg (fun z => z.elim w w2)] at hK
  exact hK
theorem q_sheet (hW : mOK D W) (hB : MB s) (hT : TI s) {K : Int → mS → Prop} {p w : Int} (bp : bd p) (bw : bd w) (hok : (1 ≤ p ∧ p ≤ 999) → (0 ≤ w ∧ w ≤ 3) → K (mSheet s p w) (mF s 37 0)) (hno : ¬ ((1 ≤ p ∧ p ≤ 999) ∧ (0 ≤ w ∧ w ≤ 3)) → K 0 (mF s 37 1)) : pI D W X m_X3_sheet [p, w] s K := by
  have h24 : ¬ ((1 ≤ p ∧ p ≤ 999) ∧ (0 ≤ w ∧ w ≤ 3)) → PL_X3_sheet_24 D W X K s := fun q => p_X3_sheet_24 hW fun hB => q_fails hW hB (bdl rfl) (hno q)
  have h1 := hT.sig
  have h2 := mQ_bd hT (p := p)
  have h3 := mWithin_bd hT (p := p)
  have hT2 : TI (mF s 37 0) := hT.f37
  have hB2 : MB (mF s 37 0) := hB.F (bdl rfl)
  have hq : (p - 1) % s.1 12 + 1 = mQ s p := rfl
  have h13 := hT.2.2.2.2.2.2.2.2.2.1
  refine p_X3_sheet hW hB bp bw ?_
  rw [hq]
  refine ⟨fun u => h24 (fun z => mIn_no.mp u z.1), fun u => ⟨fun u2 => ?_, fun u2 => h24 (fun z => mIn_no.mp u2 z.2)⟩⟩
  have e1 := mIn_yes.mp u
  have e2 := mIn_yes.mp u2
  have hok := hok e1 e2
  unfold mSheet at hok
  refine ⟨⟨by omega, by omega⟩, ⟨by omega, by omega⟩, q_within hW hB2 hT2 e1 ?_⟩
  have eW : mWithin (mF s 37 0) p = mWithin s p := rfl
  have hb : 0 ≤ mWithin s p * s.1 13 ∧ mWithin s p * s.1 13 ≤ 8 * 9 := ⟨Int.mul_nonneg h3.1 h13.1, Int.mul_le_mul h3.2 h13.2 h13.1 (by omega)⟩
  have h117 : K 1 (mF s 37 0) → PL_X3_sheet_117 D W X K (mF s 37 0) := fun q => p_X3_sheet_117 hW fun _ => q
  rw [eW]
  refine ⟨fun w0 => q_sheetOf hW hB2 hT2 e1 ?_, fun w1 => q_sideOf hW hB2 hT2 e1 ?_, fun w2 => ⟨⟨by omega, by omega⟩, ⟨by omega, by omega⟩, fun a => h117 ?_, fun a => ⟨⟨by omega, by omega⟩, ?_, fun b => ?_, fun b => h117 ?_⟩⟩, fun n0 n1 n2 => ⟨?_, ?_⟩⟩
  · rw [if_pos w0] at hok; exact hok
  · rw [if_neg (by omega), if_pos w1] at hok; exact hok
  · rw [if_neg (by omega), if_neg (by omega), if_pos w2, if_pos (Or.inl a)] at hok; exact hok
  · show bd (s.1 12 - 2 * mWithin s p - 1)
    exact ⟨by omega, by omega⟩
  · rw [if_neg (by omega), if_neg (by omega), if_pos w2, if_neg (fun z => z.elim a b)] at hok; exact hok
  · rw [if_neg (by omega), if_neg (by omega), if_pos w2, if_pos (Or.inr (show mQ s p = s.1 12 - 2 * mWithin s p - 1 from b))] at hok; exact hok
  · show bd (mWithin s p * s.1 13)
    exact ⟨by omega, by omega⟩
  · rw [if_neg n0, if_neg n1, if_neg n2] at hok; exact hok
end MP3
