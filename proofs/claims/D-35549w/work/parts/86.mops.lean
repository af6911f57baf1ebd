set_option maxRecDepth 100000
/-! the model's calls: keep -/
section MPG
variable {D : qD} {W : mW} {X : String → qH → Prop} {s x y : mS}
theorem kq_A (h : kq x y) {k : Nat} {z v : Int} (hk : 32 ≤ k ∧ k ≤ 35) : kq x (mA y k z v) := ⟨h.1, fun j hj => by
  rw [← h.2 j hj]
  funext i
  show (if j = k ∧ _ then _ else y.2 j i) = _
  rw [if_neg (by omega)]⟩
theorem KI_end {r v : Int} {m i e : Nat} (h : KI x r m i m e v y) : KI x r m (i + 1) 0 e v y := by
  unfold KI at h ⊢
  rw [← mFl_end]
  exact h
theorem q_keep58 (hW : mOK D W) (hT : TI x) {r : Int} (hr : 0 ≤ r ∧ r < 4) (h14 : 0 ≤ x.1 14 ∧ x.1 14 ≤ 64) {K : Int → mS → Prop} {m i : Nat} (hm : m = (x.1 0).toNat) (hi : (i : Int) < x.1 14) (hgo : ∀ (y : mS) (v : Int), KI x r m (i + 1) 0 (i + 1) v y → PL_X3_keep_40 D W X K y r v ((i : Int) + 1)) : ∀ (j t : Nat) (y : mS) (v : Int), t + j = m → KI x r m i t (i + 1) v y → PL_X3_keep_58 D W X K y r v i t := by
  have h64 := hT.1
  intro j
  induction j with
  | zero =>
    intro t y v ht h
    have ht : t = m := by omega
    subst ht
    have e0 : y.1 0 = x.1 0 := h.2.1.1 0 (by omega)
    exact p_X3_keep_58 hW fun _ _ _ _ _ => ⟨fun _ => ⟨⟨by omega, by omega⟩, hgo y v (KI_end h)⟩, fun w => absurd (by omega) w⟩
  | succ j ih =>
    intro t y v ht h
    have ih := ih (t + 1)
    have hv : v ≤ m ∧ 0 ≤ v := by
      have := mFl_len (s := x) (r := r) (m := m) (i := i) (t := t) (by omega)
      have := h.2.2.2.1
      omega
    have hq := h.2.1
    have e0 : y.1 0 = x.1 0 := hq.1 0 (by omega)
    have e15 : y.2 15 = x.2 15 := hq.2 15 (by omega)
    have h133 : ∀ {y' : mS} {v' : Int}, KI x r m i (t + 1) (i + 1) v' y' → PL_X3_keep_133 D W X K y' r v' i t := fun G => p_X3_keep_133 hW fun _ _ _ _ _ => ⟨⟨by omega, by omega⟩, ih _ _ (by omega) G⟩
    refine p_X3_keep_58 hW fun hB _ _ _ _ => ⟨fun w => by omega, fun _ => ⟨⟨by omega, by omega⟩, fun w => h133 (KI_no h (fun z => w (by rw [e15]; exact z.1))), fun w => q_hangs hW hB (by omega) (by omega) ⟨fun q => h133 (KI_no h (fun z => ?_)), fun q => ⟨⟨by omega, by omega⟩, ⟨by omega, by omega⟩, ?_⟩⟩⟩⟩
    · rw [if_neg (fun z2 => z.2 ((mHg_tq hq.tq _).mp z2))] at q
      exact q rfl
    · have hg : ¬ mHg x t := fun z => by
        rw [if_pos ((mHg_tq hq.tq _).mpr z)] at q
        omega
      have hT1 : TI (mA y 33 v (y.2 1 t)) := hT.of_tq (kq_A hq (by omega)).tq
      have hB1 : MB (mA y 33 v (y.2 1 t)) := hB.A (hB.2 1 t)
      have e1 : (mA y 33 v (y.2 1 t)).1 0 = x.1 0 := e0
      have hk := (hT1.tok (t := (t : Int)) (by omega) (by omega)).2.1
      refine q_wide hW hB1 hT1 hr (by omega) (by omega) ⟨⟨by omega, by omega⟩, ⟨by omega, by omega⟩, ?_⟩
      have hwb := mWide_bd hT1 hr (t := (t : Int)) (by omega) (by omega)
      have hT2 : TI (mA (mA y 33 v (y.2 1 t)) 34 v (mWide (mA y 33 v (y.2 1 t)) r t)) := hT.of_tq (kq_A (kq_A hq (by omega)) (by omega)).tq
      have hB2 : MB (mA (mA y 33 v (y.2 1 t)) 34 v (mWide (mA y 33 v (y.2 1 t)) r t)) := hB1.A ⟨by omega, by omega⟩
      have hcb := (mEff_bd hT2 (k := 6) (Or.inr rfl) (v := (mA y 33 v (y.2 1 t)).2 3 t) hk.1 (by omega)).2.2
      refine q_colourOf hW hB2 hT2 hk.1 (by omega) ⟨⟨by omega, by omega⟩, ⟨by omega, by omega⟩, h133 ?_⟩
      refine KI_yes h ⟨by rw [← e15]; exact w, hg⟩ (hB.2 1 t) ⟨by omega, by omega⟩ ⟨by omega, by omega⟩ ?_
      unfold mRow
      rw [mWide_tq (kq_A hq (by omega)).tq, mEff_tq (kq_A (kq_A hq (by omega)) (by omega)).tq (Or.inr rfl), (kq_A hq (by omega)).tq.2 3 (by omega), hq.tq.2 1 (by omega)]
theorem take_all {s : mS} {r : Int} {n m i : Nat} (hi : i ≤ n) : (mRowsAll s r n m).take i = mRowsAll s r i m := by
  unfold mRowsAll
  rw [← List.map_take, List.take_range, Nat.min_eq_left hi]
theorem KR_of {r v : Int} {m n : Nat} (hn : n ≤ 64) (hm : m ≤ 64) (h14 : x.1 14 = (n : Nat)) (h : KI x r m n 0 (n + 1) v y) : KR y (mRowsAll x r n m) := by
  obtain ⟨h1, h2, h3, h4, h5, h6⟩ := h
  have hl : (mRowsAll x r n m).length = n := by unfold mRowsAll; simp
  have hf := mFl_len (s := x) (r := r) (m := m) (i := n) (t := 0) (Nat.zero_le m)
  rw [mFl_0] at hf h6
  refine ⟨by rw [hl, h3, h14], by rw [hl]; exact hn, by omega, fun i hi => ?_, h6⟩
  rw [hl] at hi
  rw [take_all hi]
  exact h5 i (by omega)
theorem q_keep40 (hW : mOK D W) (hT : TI x) {r : Int} (hr : 0 ≤ r ∧ r < 4) (h14 : 0 ≤ x.1 14 ∧ x.1 14 ≤ 64) {K : Int → mS → Prop} {m n : Nat} (hm : m = (x.1 0).toNat) (hn : n = (x.1 14).toNat) (hK : ∀ y, MB y → kq x y → KR y (mRowsAll x r n m) → K (x.1 14) y) : ∀ (j i : Nat) (y : mS) (v : Int), i + j = n → KI x r m i 0 i v y → PL_X3_keep_40 D W X K y r v i := by
  have h64 := hT.1
  intro j
  induction j with
  | zero =>
    intro i y v hi h
    have e14 : y.1 14 = x.1 14 := h.2.1.1 14 (by omega)
    have hi : i = n := by omega
    subst hi
    refine p_X3_keep_40 hW fun _ _ bv _ => ⟨fun _ => ⟨⟨by omega, by omega⟩, ?_⟩, fun w => absurd (by omega) w⟩
    have h9 := KI_from h bv
    have ei : (i : Int) = y.1 14 := by omega
    rw [ei] at h9
    rw [e14] at h9 ⊢
    exact hK _ h9.1 h9.2.1 (KR_of (by omega) (by omega) (by omega) h9)
  | succ j ih =>
    intro i y v hi h
    have e14 : y.1 14 = x.1 14 := h.2.1.1 14 (by omega)
    refine p_X3_keep_40 hW fun _ _ bv _ => ⟨fun w => by omega, fun _ => ⟨⟨by omega, by omega⟩, ?_⟩⟩
    exact q_keep58 hW hT hr h14 hm (by omega) (fun y' v' h' => ih (i + 1) y' v' (by omega) h') m 0 _ v (by omega) (KI_from h bv)
theorem q_keep (hW : mOK D W) (hB : MB s) (hT : TI s) {K : Int → mS → Prop} {r : Int} (br : bd r) (hok : (0 ≤ r ∧ r ≤ 3) → ∀ y, MB y → kq (mLay1 (mF s 37 0) r) y → KR y (mRowsAll (mLay1 (mF s 37 0) r) r ((mLay1 (mF s 37 0) r).1 14).toNat (s.1 0).toNat) → K ((mLay1 (mF s 37 0) r).1 14) y) (hno : ¬ (0 ≤ r ∧ r ≤ 3) → K 0 (mF s 37 1)) : pI D W X m_X3_keep [r] s K := by
  refine p_X3_keep hW hB br ⟨fun w => ?_, fun w => q_fails hW hB (bdl rfl) (hno (mIn_no.mp w))⟩
  have e := mIn_yes.mp w
  have hB2 : MB (mF s 37 0) := hB.F (bdl rfl)
  refine q_layLines hW hB2 hT.f37 ⟨e.1, by omega⟩ ?_
  obtain ⟨h1, -⟩ := L1_lay hT.f37 hB2 (r := r) ⟨e.1, by omega⟩
  have hok := hok e
  have e0 : (mLay1 (mF s 37 0) r).1 0 = s.1 0 := told_f h1.2.1 0 (by simp)
  have h64 := hT.1
  have h14 : 0 ≤ (mLay1 (mF s 37 0) r).1 14 ∧ (mLay1 (mF s 37 0) r).1 14 ≤ s.1 0 := h1.2.2.1
  rw [← e0] at hok
  generalize mLay1 (mF s 37 0) r = x at *
  refine q_keep40 hW (hT.f37.of h1.2.1.symm) ⟨e.1, by omega⟩ ⟨by omega, by omega⟩ rfl rfl hok (x.1 14).toNat 0 _ 0 (by omega) ?_
  refine ⟨h1.1.F (h1.1.1 14), ⟨fun k hk => if_neg hk, fun _ _ => rfl⟩, rfl, rfl, fun i' hi' => absurd hi' (Nat.not_lt_zero _), fun j hj => absurd hj (Nat.not_lt_zero _)⟩
end MPG
