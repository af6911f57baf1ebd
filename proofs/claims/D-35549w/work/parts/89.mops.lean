set_option maxRecDepth 100000
/-! the model's calls: lines that are new -/
def mHad (x : mS) (r line : Int) (m : Nat) (ks : List (List mR3)) : Nat := cnt (fun i => decide (mRows x r line m = ks.getD i.toNat [])) ks.length
def mThere (x : mS) (r line : Int) (m : Nat) : Nat := cnt (fun i => decide (mRows x r line m = mRows x r i m)) (line + 1).toNat
theorem KR.of {s s' : mS} {ks : List (List mR3)} (h : told s = told s') (hK : KR s ks) : KR s' ks := by
  unfold KR at hK ⊢
  rw [← told_f h 31 (by omega), ← told_a h 32 (by omega), ← told_a h 33 (by omega), ← told_a h 34 (by omega), ← told_a h 35 (by omega)]
  exact hK
theorem seg_len {ks : List (List mR3)} {i : Nat} (hi : i < ks.length) : (ks.take (i + 1)).flatten.length = (ks.take i).flatten.length + (ks.getD i []).length := by
  rw [List.take_succ, List.getElem?_eq_getElem hi, List.flatten_append, List.length_append, List.getD_eq_getElem?_getD, List.getElem?_eq_getElem hi]
  simp
theorem seg_flat {ks : List (List mR3)} {i : Nat} (hi : i < ks.length) : ks.flatten = (ks.take i).flatten ++ (ks.getD i [] ++ (ks.drop (i + 1)).flatten) := by
  have e : ks = ks.take i ++ (ks.getD i [] :: ks.drop (i + 1)) := by
    rw [List.getD_eq_getElem?_getD, List.getElem?_eq_getElem hi, Option.getD_some, ← List.drop_eq_getElem_cons hi, List.take_append_drop]
  have h9 := congrArg List.flatten e
  rw [List.flatten_append, List.flatten_cons] at h9
  exact h9
theorem seg_at {ks : List (List mR3)} {i j : Nat} (hi : i < ks.length) (hj : j < (ks.getD i []).length) : ks.flatten.getD ((ks.take i).flatten.length + j) (0, 0, 0) = (ks.getD i []).getD j (0, 0, 0) := by
  rw [seg_flat hi, List.getD_eq_getElem?_getD, List.getElem?_append_right (by omega), Nat.add_sub_cancel_left, List.getElem?_append_left hj, ← List.getD_eq_getElem?_getD]
section MPJ
variable {D : qD} {W : mW} {X : String → qH → Prop} {s : mS}
theorem q_new111 (hW : mOK D W) (hB : MB s) (hT : TI s) {K : Int → mS → Prop} {r i hd : Int} (hr : 0 ≤ r ∧ r < 4) (hi : 0 ≤ i ∧ i ≤ 64) (hhd : 0 ≤ hd ∧ hd ≤ 64) {m : Nat} (hm : m = (s.1 0).toNat) (hK : K (if hd < mThere s r i m then 1 else 0) s) : ∀ j n : Nat, n + j = (i + 1).toNat → PL_X3_isNew_111 D W X K s r i hd (cnt (fun k => decide (mRows s r i m = mRows s r k m)) n : Nat) n := by
  intro j
  induction j with
  | zero =>
    intro n hn
    have e : cnt (fun k => decide (mRows s r i m = mRows s r k m)) n = mThere s r i m := by
      unfold mThere
      rw [show n = (i + 1).toNat by omega]
    rw [e]
    refine p_X3_isNew_111 hW fun _ _ _ _ _ _ => ⟨fun _ => ⟨fun w => ?_, fun w => ?_⟩, fun w => absurd (by omega) w⟩
    · rw [if_neg (by omega)] at hK
      exact hK
    · rw [if_pos (by omega)] at hK
      exact hK
  | succ j ih =>
    intro n hn
    have ih := ih (n + 1) (by omega)
    rw [cnt_s] at ih
    have hb := cnt_le (fun k => decide (mRows s r i m = mRows s r k m)) n
    generalize cnt (fun k => decide (mRows s r i m = mRows s r k m)) n = c at *
    have h135 : ∀ {y : Int}, y = (if decide (mRows s r i m = mRows s r n m) = true then 1 else 0) → PL_X3_isNew_135 D W X K s r i hd n y c := fun hy => p_X3_isNew_135 hW fun _ _ _ _ _ _ _ => ⟨by rw [hy]; split <;> exact ⟨by omega, by omega⟩, ⟨by omega, by omega⟩, by
      rw [hy]
      exact ih⟩
    refine p_X3_isNew_111 hW fun _ _ _ _ _ _ => ⟨fun w => by omega, fun _ => q_areAlike hW hB hT hr ⟨by omega, by omega⟩ ⟨by omega, by omega⟩ hm ⟨fun w => h135 ?_, fun w => h135 ?_⟩⟩
    · rw [if_neg]
      intro z
      rw [if_pos (of_decide_eq_true z)] at w
      omega
    · rw [if_pos]
      apply decide_eq_true
      apply Classical.byContradiction
      intro z
      rw [if_neg z] at w
      exact w rfl
theorem q_new57 (hW : mOK D W) (hB : MB s) (hT : TI s) {ks : List (List mR3)} (hks : KR s ks) {K : Int → mS → Prop} {r i : Int} (hr : 0 ≤ r ∧ r < 4) (hi : 0 ≤ i ∧ i ≤ 64) {m : Nat} (hm : m = (s.1 0).toNat) (hK : K (if mHad s r i m ks < mThere s r i m then 1 else 0) s) : ∀ j n : Nat, n + j = ks.length → PL_X3_isNew_57 D W X K s r i (cnt (fun k => decide (mRows s r i m = ks.getD k.toNat [])) n : Nat) n := by
  obtain ⟨k1, k2, k3, k4, k5⟩ := hks
  intro j
  induction j with
  | zero =>
    intro n hn
    have hn : n = ks.length := by omega
    subst hn
    have hb := cnt_le (fun k => decide (mRows s r i m = ks.getD k.toNat [])) ks.length
    refine p_X3_isNew_57 hW fun hB _ _ _ _ => ⟨fun _ => ?_, fun w => absurd (by omega) w⟩
    refine q_new111 hW hB hT hr hi ⟨by omega, by omega⟩ hm ?_ (i + 1).toNat 0 (by omega)
    unfold mHad at hK
    by_cases w : cnt (fun k => decide (mRows s r i m = ks.getD k.toNat [])) ks.length < mThere s r i m
    · rw [if_pos w] at hK
      rw [if_pos (by omega)]
      exact hK
    · rw [if_neg w] at hK
      rw [if_neg (by omega)]
      exact hK
  | succ j ih =>
    intro n hn
    have ih := ih (n + 1) (by omega)
    rw [cnt_s] at ih
    have hb := cnt_le (fun k => decide (mRows s r i m = ks.getD k.toNat [])) n
    generalize cnt (fun k => decide (mRows s r i m = ks.getD k.toNat [])) n = c at *
    have h97 : ∀ {y : Int}, y = (if decide (mRows s r i m = ks.getD (n : Int).toNat []) = true then 1 else 0) → PL_X3_isNew_97 D W X K s r i n y c := fun hy => p_X3_isNew_97 hW fun _ _ _ _ _ _ => ⟨by rw [hy]; split <;> exact ⟨by omega, by omega⟩, ⟨by omega, by omega⟩, by
      rw [hy]
      exact ih⟩
    refine p_X3_isNew_57 hW fun _ _ _ _ _ => ⟨fun w => by omega, fun _ => ⟨⟨by omega, by omega⟩, ⟨by omega, by omega⟩, ?_⟩⟩
    have e1 := k4 n (by omega)
    have e2 : s.2 32 ((n : Int) + 1) = _ := k4 (n + 1) (by omega)
    rw [seg_len (by omega)] at e2
    rw [e1, e2]
    have hfl := congrArg List.length (seg_flat (ks := ks) (i := n) (by omega))
    rw [List.length_append, List.length_append] at hfl
    refine q_isKept hW hB hT hr ⟨by omega, by omega⟩ hm (T := ks.getD n []) (by omega) (fun jj hj => ?_) ⟨fun w => h97 ?_, fun w => h97 ?_⟩
    · rw [k5 _ (by omega), seg_at (by omega) hj]
    · rw [if_neg]
      intro z
      have z := of_decide_eq_true z
      rw [Int.toNat_natCast] at z
      rw [if_pos z] at w
      omega
    · rw [if_pos]
      apply decide_eq_true
      rw [Int.toNat_natCast]
      apply Classical.byContradiction
      intro z
      rw [if_neg z] at w
      exact w rfl
theorem q_isNew (hW : mOK D W) (hB : MB s) (hT : TI s) {ks : List (List mR3)} (hks : KR s ks) {K : Int → mS → Prop} {r i : Int} (br : bd r) (bi : bd i) (hok : (0 ≤ r ∧ r ≤ 3) → (0 ≤ i ∧ i < (mLay1 s r).1 14) → K (if mHad (mF (mLay1 s r) 37 0) r i (s.1 0).toNat ks < mThere (mF (mLay1 s r) 37 0) r i (s.1 0).toNat then 1 else 0) (mF (mLay1 s r) 37 0)) (hno1 : ¬ (0 ≤ r ∧ r ≤ 3) → K 0 (mF s 37 1)) (hno2 : (0 ≤ r ∧ r ≤ 3) → ¬ (0 ≤ i ∧ i < (mLay1 s r).1 14) → K 0 (mF (mLay1 s r) 37 1)) : pI D W X m_X3_isNew [r, i] s K := by
  refine p_X3_isNew hW hB br bi ⟨fun w => ?_, fun w => hno1 (mIn_no.mp w)⟩
  have e := mIn_yes.mp w
  obtain ⟨h1, -⟩ := L1_lay hT hB (r := r) ⟨e.1, by omega⟩
  have h64 := hT.1
  have e0 : (mLay1 s r).1 0 = s.1 0 := told_f h1.2.1 0 (by simp)
  have h14 := h1.2.2.1
  refine q_layLines hW hB hT ⟨e.1, by omega⟩ ⟨⟨by omega, by omega⟩, fun w2 => ?_, fun w2 => hno2 e (fun q => mIn_no.mp w2 ⟨q.1, by omega⟩)⟩
  have e2 := mIn_yes.mp w2
  have hT1 := (hT.of h1.2.1.symm).f37 (x := 0)
  have hks1 : KR (mF (mLay1 s r) 37 0) ks := hks.of (by rw [told_F (by omega), h1.2.1])
  exact q_new57 hW (h1.1.F (bdl rfl)) hT1 hks1 ⟨e.1, by omega⟩ ⟨e2.1, by omega⟩ (by show _ = ((mLay1 s r).1 0).toNat; rw [e0]) (hok e ⟨e2.1, by omega⟩) ks.length 0 (by omega)
end MPJ
