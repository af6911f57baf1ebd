set_option maxRecDepth 100000
/-! the model's calls: lines, columns, pages -/
section MP2
variable {D : qD} {W : mW} {X : String → qH → Prop} {s : mS}
theorem TI.f37 (hT : TI s) {x : Int} : TI (mF s 37 x) := hT.of (told_F (by omega)).symm
theorem CG.f37 (h : CG s) {x : Int} (hx : bd x) : CG (mF s 37 x) := ⟨⟨h.1.1.F hx, h.1.2.1.f37, ⟨h.1.2.2.1.1, fun i a b => h.1.2.2.1.2 i a b⟩, h.1.2.2.2.1, h.1.2.2.2.2⟩, h.2.1, h.2.2⟩
theorem told_fr : ∀ (f : Nat) (s : mS), told (mFr f s) = told s
  | 0, s => rfl
  | f + 1, s => by
    unfold mFr
    split
    · rw [told_fr f, told_F (by omega), told_F (by omega)]
    · rfl
theorem told_lay (hB : MB s) (hT : TI s) {r : Int} (hr : 0 ≤ r ∧ r < 4) : told (mLay s r) = told s := by
  obtain ⟨h1, -⟩ := L1_lay hT hB hr
  unfold mLay mFront
  rw [told_fr, told_F (by omega), told_F (by omega), (CF_cols h1.1 (hT.of h1.2.1.symm) (h1.LL hT)).2.2.1, h1.2.1]
theorem q_pageAnew (hW : mOK D W) (hB : MB s) (hT : TI s) {K : Int → mS → Prop} {r i : Int} (br : bd r) (bi : bd i) (hok : (0 ≤ r ∧ r ≤ 3) → (0 ≤ i ∧ i < (mLay s r).1 14) → K (mPage (mF (mLay s r) 37 0) i) (mF (mLay s r) 37 0)) (hno1 : ¬ (0 ≤ r ∧ r ≤ 3) → K 0 (mF s 37 1)) (hno2 : (0 ≤ r ∧ r ≤ 3) → ¬ (0 ≤ i ∧ i < (mLay s r).1 14) → K 0 (mF (mLay s r) 37 1)) : pI D W X m_X3_pageAnew [r, i] s K := p_X3_pageAnew hW hB br bi (q_pageOf hW hB hT br bi hok hno1 hno2)
theorem q_front (hW : mOK D W) (hB : MB s) (hT : TI s) {K : Int → mS → Prop} {r : Int} (br : bd r) (hok : (0 ≤ r ∧ r ≤ 3) → K (if (mLay (mF s 37 0) r).1 24 = 0 then -1 else (mLay (mF s 37 0) r).1 23) (mLay (mF s 37 0) r)) (hno : ¬ (0 ≤ r ∧ r ≤ 3) → K 0 (mF s 37 1)) : pI D W X m_X3_front [r] s K := by
  refine p_X3_front hW hB br ⟨fun w => ?_, fun w => q_fails hW hB (bdl rfl) (hno (mIn_no.mp w))⟩
  have e := mIn_yes.mp w
  have hok := hok e
  refine q_lay hW (hB.F (bdl rfl)) hT.f37 ⟨e.1, by omega⟩ ⟨fun w2 => ?_, fun w2 => ?_⟩
  · rw [if_pos w2] at hok; exact hok
  · rw [if_neg w2] at hok; exact hok
theorem q_pages (hW : mOK D W) (hB : MB s) (hT : TI s) {K : Int → mS → Prop} {r : Int} (br : bd r) (hok : (0 ≤ r ∧ r ≤ 3) → K (if (mLay (mF s 37 0) r).1 24 = 0 then -1 else (mLay (mF s 37 0) r).1 23 + mPagesOf (mLay (mF s 37 0) r) ((mLay (mF s 37 0) r).1 22)) (mLay (mF s 37 0) r)) (hno : ¬ (0 ≤ r ∧ r ≤ 3) → K 0 (mF s 37 1)) : pI D W X m_X3_pages [r] s K := by
  refine p_X3_pages hW hB br ⟨fun w => ?_, fun w => q_fails hW hB (bdl rfl) (hno (mIn_no.mp w))⟩
  have e := mIn_yes.mp w
  have hok := hok e
  have hG := CG_lay (hB.F (k := 37) (x := 0) (bdl rfl)) hT.f37 ⟨e.1, by omega⟩
  refine q_lay hW (hB.F (bdl rfl)) hT.f37 ⟨e.1, by omega⟩ ⟨fun w2 => ?_, fun w2 => ?_⟩
  · rw [if_pos w2] at hok; exact hok
  · rw [if_neg w2] at hok
    have h22 := hG.1.2.2.2.1
    have hp := mPagesOf_bd hG.1.2.1 h22
    have h23 := hG.2.1
    exact q_pagesOf hW hG.1.1 hG.1.2.1 h22 ⟨⟨by omega, by omega⟩, hok⟩
theorem q_lineOf (hW : mOK D W) (hB : MB s) (hT : TI s) {K : Int → mS → Prop} {r t : Int} (br : bd r) (bt : bd t) (hok : (0 ≤ r ∧ r ≤ 3) → (0 ≤ t ∧ t < s.1 0) → K ((mLay1 (mF s 37 0) r).2 15 t) (mLay1 (mF s 37 0) r)) (hno : ¬ ((0 ≤ r ∧ r ≤ 3) ∧ (0 ≤ t ∧ t < s.1 0)) → K 0 (mF s 37 1)) : pI D W X m_X3_lineOf [r, t] s K := by
  have h64 := hT.1
  have h28 : ¬ ((0 ≤ r ∧ r ≤ 3) ∧ (0 ≤ t ∧ t < s.1 0)) → PL_X3_lineOf_28 D W X K s := fun w => p_X3_lineOf_28 hW fun hB => q_fails hW hB (bdl rfl) (hno w)
  refine p_X3_lineOf hW hB br bt ⟨fun w => h28 (fun q => mIn_no.mp w q.1), fun w => ⟨⟨by omega, by omega⟩, fun w2 => ?_, fun w2 => h28 (fun q => mIn_no.mp w2 (by omega))⟩⟩
  have e := mIn_yes.mp w
  have e2 := mIn_yes.mp w2
  exact q_layLines hW (hB.F (bdl rfl)) hT.f37 ⟨e.1, by omega⟩ ⟨⟨by omega, by omega⟩, hok e (by omega)⟩
theorem q_columnOf (hW : mOK D W) (hB : MB s) (hT : TI s) {K : Int → mS → Prop} {r b w : Int} (br : bd r) (bb : bd b) (bw : bd w)
    (hok1 : (0 ≤ r ∧ r ≤ 3) → ¬ b = 0 → (0 ≤ w ∧ w < (mLay s r).1 14) → K ((mLay s r).2 17 w) (mF (mLay s r) 37 0))
    (hok2 : (0 ≤ r ∧ r ≤ 3) → b = 0 → (0 ≤ w ∧ w < s.1 0) → s.2 1 w = 4 → K (if (mLay s r).2 15 w = -1 then -1 else (mLay s r).2 16 w) (mF (mLay s r) 37 0))
    (hno1 : ¬ (0 ≤ r ∧ r ≤ 3) → K 0 (mF s 37 1)) (hno2 : (0 ≤ r ∧ r ≤ 3) → ¬ ((¬ b = 0 ∧ 0 ≤ w ∧ w < (mLay s r).1 14) ∨ (b = 0 ∧ (0 ≤ w ∧ w < s.1 0) ∧ s.2 1 w = 4)) → K 0 (mF (mLay s r) 37 1)) : pI D W X m_X3_columnOf [r, b, w] s K := by
  have h64 := hT.1
  refine p_X3_columnOf hW hB br bb bw ⟨fun u => ?_, fun u => q_fails hW hB (bdl rfl) (hno1 (mIn_no.mp u))⟩
  have e := mIn_yes.mp u
  have hr : 0 ≤ r ∧ r < 4 := ⟨e.1, by omega⟩
  have hG := CG_lay hB hT hr
  have hl := hG.1.2.2.1.1
  have ht := told_lay hB hT hr
  have e0 : (mLay s r).1 0 = s.1 0 := told_f ht 0 (by simp)
  have e1 : (mLay s r).2 1 = s.2 1 := told_a ht 1 (by simp)
  have h72 : ¬ ((¬ b = 0 ∧ 0 ≤ w ∧ w < (mLay s r).1 14) ∨ (b = 0 ∧ (0 ≤ w ∧ w < s.1 0) ∧ s.2 1 w = 4)) → PL_X3_columnOf_72 D W X K (mLay s r) := fun q => p_X3_columnOf_72 hW fun hB => q_fails hW hB (bdl rfl) (hno2 e q)
  refine q_lay hW hB hT hr ⟨fun hb => ⟨⟨by omega, by omega⟩, fun w2 => h72 (fun q => ?_), fun w2 => ⟨?_, fun k => ?_, fun k => h72 (fun q => ?_)⟩⟩, fun hb => ⟨⟨by omega, by omega⟩, fun w2 => ?_, fun w2 => h72 (fun q => ?_)⟩⟩
  · rw [mIn_no] at w2
    omega
  · have e2 := mIn_yes.mp w2
    exact ⟨e2.1, by omega⟩
  · have e2 := mIn_yes.mp w2
    rw [e1] at k
    have hok2 := hok2 e hb ⟨e2.1, by omega⟩ k
    refine p_X3_columnOf_78 hW fun _ _ _ => ⟨fun _ => ⟨⟨e2.1, by omega⟩, fun l => ⟨⟨e2.1, by omega⟩, ?_⟩, fun l => ?_⟩, fun q => absurd hb q⟩
    · rw [if_neg l] at hok2; exact hok2
    · rw [if_pos l] at hok2; exact hok2
  · rw [e1] at k
    rcases q with q | q
    · exact q.1 hb
    · exact k q.2.2
  · have e2 := mIn_yes.mp w2
    exact p_X3_columnOf_78 hW fun _ _ _ => ⟨fun q => absurd q hb, fun _ => ⟨⟨e2.1, by omega⟩, hok1 e hb ⟨e2.1, by omega⟩⟩⟩
  · rw [mIn_no] at w2
    omega
end MP2
