set_option maxRecDepth 100000
/-! the model lays lines -/
section ML
variable {D : qD} {W : mW} {X : String → qH → Prop} {s s0 : mS}
theorem q_newLine (hW : mOK D W) (hB : MB s) {K : mS → Prop} {a b : Int} (ha : a = 0 ∨ a = 1) (hb : b = 0 ∨ b = 1) (h0 : 0 ≤ s.1 14) (h1 : s.1 14 < 120) (hK : K (mNew s a b)) : pV D W X m_X3_newLine [a, b] s K :=
  p_X3_newLine hW hB (bd01 ha) (bd01 hb) ⟨ha, ⟨h0, h1⟩, hb, ⟨h0, h1⟩, ⟨h0, h1⟩, ⟨h0, h1⟩, ⟨by omega, by omega⟩, hK⟩
theorem MB.New (hB : MB s) {a b : Int} (ha : a = 0 ∨ a = 1) (hb : b = 0 ∨ b = 1) (h0 : 0 ≤ s.1 14) (h1 : s.1 14 < 120) : MB (mNew s a b) :=
  ((((hB.A (bd01 ha)).A (bd01 hb)).A (bdl rfl)).A (bdl rfl)).F ⟨by omega, by omega⟩
theorem New14 {a b : Int} : (mNew s a b).1 14 = s.1 14 + 1 := rfl
theorem LI_step {r n : Int} {x : mL} (hT : TI s0) (hr : 0 ≤ r ∧ r < 4) (hI : LI s0 n x) (h0 : 0 ≤ n) (hn : n < s0.1 0) : LI s0 (n + 1) (mLn r x n) := by
  obtain ⟨i1, i2, i3, i4, i5, i6, i7⟩ := hI
  have hTx : TI x.1 := hT.of i2.symm
  have hn' : n < x.1.1 0 := by rw [told_f i2 0 (by simp)]; exact hn
  have h64 := hT.1
  have hw := mWide_bd hTx hr h0 hn'
  have h8 := hTx.2.2.2.2.1
  have hB1 : MB (mA x.1 15 n (-1)) := i1.A (bdl rfl)
  have hnew : ∀ a b : Int, (a = 0 ∨ a = 1) → (b = 0 ∨ b = 1) → MB (mNew (mA x.1 15 n (-1)) a b) := fun a b ha hb => hB1.New ha hb i3.1 (by show x.1.1 14 < 120; omega)
  unfold mLn
  split
  · refine ⟨hB1, by rw [told_A (by omega)]; exact i2, ⟨i3.1, by show x.1.1 14 ≤ n + 1; omega⟩, i4, Or.inl rfl, i6, fun t t0 t1 => ?_⟩
    show -1 ≤ (if 15 = 15 ∧ t = n then (-1 : Int) else x.1.2 15 t) ∧ (if 15 = 15 ∧ t = n then (-1 : Int) else x.1.2 15 t) < x.1.1 14
    by_cases ht : t = n
    · rw [if_pos ⟨rfl, ht⟩]; omega
    · rw [if_neg (fun w => ht w.2)]; exact i7 t t0 (by omega)
  split
  · refine ⟨(hnew 1 1 (Or.inr rfl) (Or.inr rfl)).A ⟨by omega, by omega⟩, by rw [told_A (by omega), told_New, told_A (by omega)]; exact i2, ⟨by show 0 ≤ x.1.1 14 + 1; omega, by show x.1.1 14 + 1 ≤ n + 1; omega⟩, i4, Or.inl rfl, i6, fun t t0 t1 => ?_⟩
    show -1 ≤ (if 15 = 15 ∧ t = n then x.1.1 14 else if 15 = 15 ∧ t = n then (-1 : Int) else x.1.2 15 t) ∧ (if 15 = 15 ∧ t = n then x.1.1 14 else if 15 = 15 ∧ t = n then (-1 : Int) else x.1.2 15 t) < x.1.1 14 + 1
    by_cases ht : t = n
    · rw [if_pos ⟨rfl, ht⟩]; omega
    · rw [if_neg (fun w => ht w.2), if_neg (fun w => ht w.2)]; have := i7 t t0 (by omega); omega
  split
  · split
    · refine ⟨(hnew 0 1 (Or.inl rfl) (Or.inr rfl)).A ⟨by omega, by omega⟩, by rw [told_A (by omega), told_New, told_A (by omega)]; exact i2, ⟨by show 0 ≤ x.1.1 14 + 1; omega, by show x.1.1 14 + 1 ≤ n + 1; omega⟩, ⟨by show 0 ≤ mWide x.1 r n; omega, by show mWide x.1 r n ≤ 40; omega⟩, Or.inr ⟨rfl, by show 0 ≤ x.1.1 14; omega, by show x.1.1 14 < x.1.1 14 + 1; omega⟩, by show bd (x.1.1 14); exact ⟨by omega, by omega⟩, fun t t0 t1 => ?_⟩
      show -1 ≤ (if 15 = 15 ∧ t = n then x.1.1 14 else if 15 = 15 ∧ t = n then (-1 : Int) else x.1.2 15 t) ∧ (if 15 = 15 ∧ t = n then x.1.1 14 else if 15 = 15 ∧ t = n then (-1 : Int) else x.1.2 15 t) < x.1.1 14 + 1
      by_cases ht : t = n
      · rw [if_pos ⟨rfl, ht⟩]; omega
      · rw [if_neg (fun w => ht w.2), if_neg (fun w => ht w.2)]; have := i7 t t0 (by omega); omega
    · next ho =>
      split
      · next hu =>
        refine ⟨hB1.A ⟨by omega, by omega⟩, by rw [told_A (by omega), told_A (by omega)]; exact i2, ⟨by show 0 ≤ x.1.1 14; omega, by show x.1.1 14 ≤ n + 1; omega⟩, ⟨by show 0 ≤ x.2.1 + (1 + mWide x.1 r n); omega, by show x.2.1 + (1 + mWide x.1 r n) ≤ 40; omega⟩, i5, i6, fun t t0 t1 => ?_⟩
        show -1 ≤ (if 15 = 15 ∧ t = n then x.1.1 14 - 1 else if 15 = 15 ∧ t = n then (-1 : Int) else x.1.2 15 t) ∧ (if 15 = 15 ∧ t = n then x.1.1 14 - 1 else if 15 = 15 ∧ t = n then (-1 : Int) else x.1.2 15 t) < x.1.1 14
        by_cases ht : t = n
        · rw [if_pos ⟨rfl, ht⟩]; omega
        · rw [if_neg (fun w => ht w.2), if_neg (fun w => ht w.2)]; exact i7 t t0 (by omega)
      · refine ⟨((hnew 0 0 (Or.inl rfl) (Or.inl rfl)).A (bdl rfl)).A ⟨by omega, by omega⟩, by rw [told_A (by omega), told_A (by omega), told_New, told_A (by omega)]; exact i2, ⟨by show 0 ≤ x.1.1 14 + 1; omega, by show x.1.1 14 + 1 ≤ n + 1; omega⟩, ⟨by show 0 ≤ mWide x.1 r n; omega, by show mWide x.1 r n ≤ 40; omega⟩, ?_, i6, fun t t0 t1 => ?_⟩
        · rcases i5 with h9 | h9
          · exact absurd h9 ho
          · exact Or.inr ⟨h9.1, h9.2.1, by show x.2.2.2 < x.1.1 14 + 1; omega⟩
        show -1 ≤ (if 15 = 15 ∧ t = n then x.1.1 14 else if 15 = 21 ∧ t = x.2.2.2 then 1 else if 15 = 15 ∧ t = n then (-1 : Int) else x.1.2 15 t) ∧ (if 15 = 15 ∧ t = n then x.1.1 14 else if 15 = 21 ∧ t = x.2.2.2 then 1 else if 15 = 15 ∧ t = n then (-1 : Int) else x.1.2 15 t) < x.1.1 14 + 1
        by_cases ht : t = n
        · rw [if_pos ⟨rfl, ht⟩]; omega
        · rw [if_neg (fun w => ht w.2), if_neg (fun w => absurd w.1 (by omega)), if_neg (fun w => ht w.2)]; have := i7 t t0 (by omega); omega
  · refine ⟨hB1, by rw [told_A (by omega)]; exact i2, ⟨i3.1, by show x.1.1 14 ≤ n + 1; omega⟩, i4, i5, i6, fun t t0 t1 => ?_⟩
    show -1 ≤ (if 15 = 15 ∧ t = n then (-1 : Int) else x.1.2 15 t) ∧ (if 15 = 15 ∧ t = n then (-1 : Int) else x.1.2 15 t) < x.1.1 14
    by_cases ht : t = n
    · rw [if_pos ⟨rfl, ht⟩]; omega
    · rw [if_neg (fun w => ht w.2)]; exact i7 t t0 (by omega)
theorem LI_all {r : Int} (hT : TI s0) (hB : MB s0) (hr : 0 ≤ r ∧ r < 4) : ∀ n : Nat, (n : Int) ≤ s0.1 0 → LI s0 n (mLines0 s0 r n)
  | 0, _ => ⟨hB.F (bdl rfl), told_F (by omega), ⟨by show (0 : Int) ≤ 0; omega, by show (0 : Int) ≤ 0; omega⟩, ⟨by show (0 : Int) ≤ 0; omega, by show (0 : Int) ≤ 40; omega⟩, Or.inl rfl, bdl rfl, fun t t0 t1 => by omega⟩
  | n + 1, h => by
    have h9 := LI_step hT hr (LI_all hT hB hr n (by omega)) (by omega) (by omega)
    exact h9
theorem q_lay15 (hW : mOK D W) (hT : TI s0) {K : mS → Prop} {r n : Int} {x : mL} (hr : 0 ≤ r ∧ r < 4) (hI : LI s0 n x) (h0 : 0 ≤ n) (hn : n ≤ s0.1 0) (hend : n = s0.1 0 → pV D W X m_X3_hang [] x.1 K) (hgo : n < s0.1 0 → PL_X3_layLines_15 D W X K (mLn r x n).1 r (mLn r x n).2.1 (mLn r x n).2.2.1 (mLn r x n).2.2.2 (n + 1)) : PL_X3_layLines_15 D W X K x.1 r x.2.1 x.2.2.1 x.2.2.2 n := by
  obtain ⟨i1, i2, i3, i4, i5, i6, i7⟩ := hI
  have hTx : TI x.1 := hT.of i2.symm
  have e0 : x.1.1 0 = s0.1 0 := told_f i2 0 (by simp)
  have h64 := hT.1
  have h8 := hTx.2.2.2.2.1
  have h179 : ∀ {S : mS} {u o b : Int}, PL_X3_layLines_15 D W X K S r u o b (n + 1) → PL_X3_layLines_179 D W X K S r u o b n := fun G => p_X3_layLines_179 hW fun _ _ _ _ _ _ => ⟨⟨by omega, by omega⟩, G⟩
  have h166 : ∀ {S : mS} {u o b : Int}, (0 ≤ S.1 14 ∧ S.1 14 ≤ 200) → PL_X3_layLines_15 D W X K (mA S 15 n (S.1 14 - 1)) r u o b (n + 1) → PL_X3_layLines_166 D W X K S r u o b n := fun hS G => p_X3_layLines_166 hW fun _ _ _ _ _ _ => ⟨⟨by omega, by omega⟩, ⟨h0, by omega⟩, h179 G⟩
  refine p_X3_layLines_15 hW fun hB _ _ _ _ _ => ⟨fun w => hend (by omega), fun w => ?_⟩
  have hlt : n < s0.1 0 := by omega
  have hw := mWide_bd hTx hr h0 (by omega : n < x.1.1 0)
  have hgo := hgo hlt
  unfold mLn at hgo
  have hB1 : MB (mA x.1 15 n (-1)) := hB.A (bdl rfl)
  have hT1 : TI (mA x.1 15 n (-1)) := hTx.of (told_A (by omega)).symm
  have eWd : mWide (mA x.1 15 n (-1)) r n = mWide x.1 r n := mWide_of (told_A (by omega)) r n
  refine ⟨⟨h0, by omega⟩, ⟨h0, by omega⟩, fun k2 => ⟨⟨h0, by omega⟩, fun k3 => ?_, fun k3 => ?_⟩, fun k2 => ?_⟩
  · rw [if_neg k2, if_neg k3] at hgo
    refine q_isPrinted hW hB1 hT1 hr h0 (by show n < x.1.1 0; omega) ⟨fun p => h179 ?_, fun p => ?_⟩
    · have hp : ¬ mPrn x.1 r n := fun q => by rw [if_pos ((mPrn_of (told_A (by omega)) r n).mpr q)] at p; omega
      rw [if_neg hp] at hgo
      exact hgo
    · have hp : mPrn x.1 r n := (mPrn_of (s := mA x.1 15 n (-1)) (told_A (by omega)) r n).mp (by
        by_cases q : mPrn (mA x.1 15 n (-1)) r n
        · exact q
        · rw [if_neg q] at p; exact absurd rfl p)
      rw [if_pos hp] at hgo
      refine q_wide hW hB1 hT1 hr h0 (by show n < x.1.1 0; omega) ?_
      rw [eWd]
      refine ⟨fun ho => ⟨⟨by omega, by omega⟩, fun u => ?_, fun u => ⟨⟨by omega, by omega⟩, ?_⟩⟩, fun ho => ?_⟩
      · have u : x.1.1 8 < x.2.1 + 1 + mWide x.1 r n := u
        rw [if_neg ho, if_neg (by omega)] at hgo
        rcases i5 with h9 | ⟨h9, h10, h11⟩
        · exact absurd h9 ho
        refine q_newLine hW hB1 (Or.inl rfl) (Or.inl rfl) i3.1 (by show x.1.1 14 < 120; omega) ⟨⟨h10, by omega⟩, h166 ⟨by show 0 ≤ x.1.1 14 + 1; omega, by show x.1.1 14 + 1 ≤ 200; omega⟩ ?_⟩
        have e9 : (mA (mNew (mA x.1 15 n (-1)) 0 0) 21 x.2.2.2 1).1 14 - 1 = x.1.1 14 := by
          show x.1.1 14 + 1 - 1 = x.1.1 14
          omega
        rw [e9]
        exact hgo
      · have u : ¬ x.1.1 8 < x.2.1 + 1 + mWide x.1 r n := u
        rw [if_neg ho, if_pos (by omega)] at hgo
        exact h166 ⟨i3.1, by show x.1.1 14 ≤ 200; omega⟩ hgo
      · rw [if_pos ho] at hgo
        refine q_newLine hW hB1 (Or.inl rfl) (Or.inr rfl) i3.1 (by show x.1.1 14 < 120; omega) (h166 ⟨by show 0 ≤ x.1.1 14 + 1; omega, by show x.1.1 14 + 1 ≤ 200; omega⟩ ?_)
        have e9 : (mNew (mA x.1 15 n (-1)) 0 1).1 14 - 1 = x.1.1 14 := by
          show x.1.1 14 + 1 - 1 = x.1.1 14
          omega
        rw [e9]
        exact hgo
  · rw [if_neg k2, if_pos k3] at hgo
    refine q_newLine hW hB1 (Or.inr rfl) (Or.inr rfl) i3.1 (by show x.1.1 14 < 120; omega) ⟨by show bd (x.1.1 14 + 1 - 1); exact ⟨by omega, by omega⟩, ⟨h0, by omega⟩, h179 ?_⟩
    have e9 : (mNew (mA x.1 15 n (-1)) 1 1).1 14 - 1 = x.1.1 14 := by
      show x.1.1 14 + 1 - 1 = x.1.1 14
      omega
    rw [e9]
    exact hgo
  · rw [if_pos k2] at hgo
    exact h179 hgo
theorem q_layLines0 (hW : mOK D W) (hB : MB s) (hT : TI s) {K : mS → Prop} {r : Int} (hr : 0 ≤ r ∧ r < 4) (hK : pV D W X m_X3_hang [] (mLines0 s r (s.1 0).toNat).1 K) : pV D W X m_X3_layLines [r] s K := by
  have h64 := hT.1
  have hL : ∀ m n : Nat, n + m = (s.1 0).toNat → PL_X3_layLines_15 D W X K (mLines0 s r n).1 r (mLines0 s r n).2.1 (mLines0 s r n).2.2.1 (mLines0 s r n).2.2.2 n := by
    intro m
    induction m with
    | zero =>
      intro n hn
      refine q_lay15 hW hT hr (LI_all hT hB hr n (by omega)) (by omega) (by omega) (fun _ => ?_) (fun w => by omega)
      rw [show n = (s.1 0).toNat by omega]
      exact hK
    | succ m ih =>
      intro n hn
      exact q_lay15 hW hT hr (LI_all hT hB hr n (by omega)) (by omega) (by omega) (fun w => by omega) (fun _ => ih (n + 1) (by omega))
  exact p_X3_layLines hW hB ⟨by omega, by omega⟩ (hL (s.1 0).toNat 0 (by omega))
end ML
