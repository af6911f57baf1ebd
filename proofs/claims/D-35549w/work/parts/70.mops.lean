set_option maxRecDepth 100000
/-! the model's calls: what is told (one half) -/
section MP1
variable {D : qD} {W : mW} {X : String → qH → Prop} {s : mS}
theorem mIn_yes {v lo hi : Int} : ¬ mIn v lo hi = 0 ↔ lo ≤ v ∧ v ≤ hi := by
  unfold mIn
  split <;> simp_all
theorem mIn_no {v lo hi : Int} : mIn v lo hi = 0 ↔ ¬ (lo ≤ v ∧ v ≤ hi) := by
  unfold mIn
  split <;> simp_all
theorem q_fails (hW : mOK D W) (hB : MB s) {K : Int → mS → Prop} {p : Int} (hp : bd p) (hK : K 0 (mF s 37 p)) : pI D W X m_X3_fails [p] s K := p_X3_fails hW hB hp hK
theorem q_grid (hW : mOK D W) (hB : MB s) {K : mS → Prop} {a b c : Int} (ba : bd a) (bb : bd b) (bc : bd c) (hok : (5 ≤ a ∧ a ≤ 20) → (3 ≤ b ∧ b ≤ 20) → (1 ≤ c ∧ c ≤ 2) → K (mF (mF (mF (mF s 37 0) 8 a) 9 b) 10 c)) (hno : ¬ ((5 ≤ a ∧ a ≤ 20) ∧ (3 ≤ b ∧ b ≤ 20) ∧ (1 ≤ c ∧ c ≤ 2)) → K (mF s 37 1)) : pV D W X m_X3_grid [a, b, c] s K := by
  have h40 : ¬ ((5 ≤ a ∧ a ≤ 20) ∧ (3 ≤ b ∧ b ≤ 20) ∧ (1 ≤ c ∧ c ≤ 2)) → PL_X3_grid_40 D W X K s := fun w => p_X3_grid_40 hW fun _ => hno w
  refine p_X3_grid hW hB ba bb bc ⟨fun w => h40 (fun q => mIn_no.mp w q.1), fun w => ⟨fun w2 => h40 (fun q => mIn_no.mp w2 q.2.1), fun w2 => ⟨fun w3 => ?_, fun w3 => h40 (fun q => mIn_no.mp w3 q.2.2)⟩⟩⟩
  exact hok (mIn_yes.mp w) (mIn_yes.mp w2) (mIn_yes.mp w3)
theorem q_fold (hW : mOK D W) (hB : MB s) {K : mS → Prop} {a b : Int} (ba : bd a) (bb : bd b) (hok : (a = 4 ∨ a = 8 ∨ a = 16) → (0 ≤ b ∧ b ≤ 9) → K (mF (mF (mF s 37 0) 12 a) 13 b)) (hno : ¬ ((a = 4 ∨ a = 8 ∨ a = 16) ∧ (0 ≤ b ∧ b ≤ 9)) → K (mF s 37 1)) : pV D W X m_X3_fold [a, b] s K := by
  have h29 : ¬ ((a = 4 ∨ a = 8 ∨ a = 16) ∧ (0 ≤ b ∧ b ≤ 9)) → PL_X3_fold_29 D W X K s := fun w => p_X3_fold_29 hW fun _ => hno w
  have h17 : (a = 4 ∨ a = 8 ∨ a = 16) → PL_X3_fold_17 D W X K s a b := fun q => p_X3_fold_17 hW fun _ _ _ => ⟨fun w => hok q (mIn_yes.mp w), fun w => h29 (fun z => mIn_no.mp w z.2)⟩
  exact p_X3_fold hW hB ba bb ⟨fun w => h17 (Or.inl w), fun w => ⟨fun w2 => h17 (Or.inr (Or.inl w2)), fun w2 => ⟨fun w3 => h29 (fun z => by omega), fun w3 => h17 (Or.inr (Or.inr w3))⟩⟩⟩
theorem q_data (hW : mOK D W) (hB : MB s) {K : Int → mS → Prop} {a b c : Int} (ba : bd a) (bb : bd b) (bc : bd c) (hok : (0 ≤ a ∧ a ≤ 3) → (0 ≤ b ∧ b ≤ 3) → (0 ≤ c ∧ c ≤ 9) → K (s.2 7 (4 * a + b)) (mA (mF s 37 0) 7 (4 * a + b) c)) (hno1 : ¬ ((0 ≤ a ∧ a ≤ 3) ∧ (0 ≤ b ∧ b ≤ 3)) → K 0 (mF s 37 1)) (hno2 : ((0 ≤ a ∧ a ≤ 3) ∧ (0 ≤ b ∧ b ≤ 3)) → ¬ (0 ≤ c ∧ c ≤ 9) → K 0 (mF s 37 2)) : pI D W X m_X3_data [a, b, c] s K := by
  have h24 : ¬ ((0 ≤ a ∧ a ≤ 3) ∧ (0 ≤ b ∧ b ≤ 3)) → PL_X3_data_24 D W X K s := fun w => p_X3_data_24 hW fun hB => q_fails hW hB (bdl rfl) (hno1 w)
  refine p_X3_data hW hB ba bb bc ⟨fun w => h24 (fun q => mIn_no.mp w q.1), fun w => ⟨fun w2 => ⟨fun w3 => ?_, fun w3 => q_fails hW hB (bdl rfl) (hno2 ⟨mIn_yes.mp w, mIn_yes.mp w2⟩ (mIn_no.mp w3))⟩, fun w2 => h24 (fun q => mIn_no.mp w2 q.2)⟩⟩
  have e1 := mIn_yes.mp w
  have e2 := mIn_yes.mp w2
  exact ⟨⟨by omega, by omega⟩, ⟨by omega, by omega⟩, hok e1 e2 (mIn_yes.mp w3)⟩
theorem q_tokens (hW : mOK D W) (hB : MB s) {K : Int → mS → Prop} (hK : K (s.1 0) (mF s 37 0)) : pI D W X m_X3_tokens [] s K := p_X3_tokens hW hB hK
theorem q_thrown (hW : mOK D W) (hB : MB s) {K : Int → mS → Prop} (hK : K (s.1 37) s) : pI D W X m_X3_thrown [] s K := p_X3_thrown hW hB hK
theorem q_lines (hW : mOK D W) (hB : MB s) (hT : TI s) {K : Int → mS → Prop} {r : Int} (br : bd r) (hok : (0 ≤ r ∧ r ≤ 3) → K ((mLay1 (mF s 37 0) r).1 14) (mLay1 (mF s 37 0) r)) (hno : ¬ (0 ≤ r ∧ r ≤ 3) → K 0 (mF s 37 1)) : pI D W X m_X3_lines [r] s K := by
  refine p_X3_lines hW hB br ⟨fun w => ?_, fun w => q_fails hW hB (bdl rfl) (hno (mIn_no.mp w))⟩
  have e := mIn_yes.mp w
  exact q_layLines hW (hB.F (bdl rfl)) (hT.of (told_F (by omega)).symm) ⟨e.1, by omega⟩ (hok e)
theorem q_pageOf (hW : mOK D W) (hB : MB s) (hT : TI s) {K : Int → mS → Prop} {r i : Int} (br : bd r) (bi : bd i) (hok : (0 ≤ r ∧ r ≤ 3) → (0 ≤ i ∧ i < (mLay s r).1 14) → K (mPage (mF (mLay s r) 37 0) i) (mF (mLay s r) 37 0)) (hno1 : ¬ (0 ≤ r ∧ r ≤ 3) → K 0 (mF s 37 1)) (hno2 : (0 ≤ r ∧ r ≤ 3) → ¬ (0 ≤ i ∧ i < (mLay s r).1 14) → K 0 (mF (mLay s r) 37 1)) : pI D W X m_X3_pageOf [r, i] s K := by
  refine p_X3_pageOf hW hB br bi ⟨fun w => ?_, fun w => q_fails hW hB (bdl rfl) (hno1 (mIn_no.mp w))⟩
  have e := mIn_yes.mp w
  have hr : 0 ≤ r ∧ r < 4 := ⟨e.1, by omega⟩
  have hG := CG_lay hB hT hr
  have hl := hG.1.2.2.1.1
  refine q_lay hW hB hT hr ⟨⟨by omega, by omega⟩, fun w2 => ?_, fun w2 => q_fails hW hG.1.1 (bdl rfl) (hno2 e (fun q => mIn_no.mp w2 ⟨q.1, by omega⟩))⟩
  have e2 := mIn_yes.mp w2
  have hG2 : CG (mF (mLay s r) 37 0) := ⟨⟨hG.1.1.F (bdl rfl), hG.1.2.1.of (told_F (by omega)).symm, ⟨hG.1.2.2.1.1, fun i a b => hG.1.2.2.1.2 i a b⟩, hG.1.2.2.2.1, hG.1.2.2.2.2⟩, hG.2.1, hG.2.2⟩
  exact q_page hW hG2 ⟨e2.1, by show i < (mLay s r).1 14; omega⟩ (hok e ⟨e2.1, by omega⟩)
end MP1
