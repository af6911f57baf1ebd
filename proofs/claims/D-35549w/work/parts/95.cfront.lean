set_option maxRecDepth 100000
/-! the component: pages, the front -/
def LC (v : lV) : Prop := ∀ i, 0 ≤ i → i < v.1.1 14 → 0 ≤ v.1.2 17 i ∧ v.1.2 17 i ≤ 130
section CF9
variable {D : qD} {C : Nat → Nat} {xs : List Nat} {s : mS} {A : Nat → Nat} {r : Int} {v : lV} {h : qH} {X : String → qH → Prop}
theorem lPg_bd (hT : TI s) (hC : LC v) {z a : Int} (h0 : 0 ≤ z) (h1 : z < v.1.1 14) (ha : 0 ≤ a ∧ a ≤ 70) : 1 ≤ lPg s v.1 z a ∧ lPg s v.1 z a ≤ 201 := by
  have hc := hC z h0 h1
  have h10 := hT.2.2.2.2.2.2.1
  have a1 : 0 ≤ v.1.2 17 z / s.1 10 := Int.ediv_nonneg hc.1 (by omega)
  have a2 : v.1.2 17 z / s.1 10 ≤ v.1.2 17 z := Int.ediv_le_self _ hc.1
  unfold lPg
  omega
theorem x_pageIn (hD : q_DK D) (hT : TI s) (hP : CP C xs s h) (hC : LC v) (hN : v.1.1 14 ≤ 64) (hL : LX A (C 0) r v h) {z a : Int} (h0 : 0 ≤ z) (h1 : z < v.1.1 14) (ha : 0 ≤ a ∧ a ≤ 70) {p0 p : Int32} (hp0 : p0 = zI z) (hp : p = zI a) {K : Int32 → qH → Prop} (k9 : K (zI (lPg s v.1 z a)) h) : recv D h (some (A 0)) RX5 ∧ c_I D m_X5_pageIn [va_rf (some (A 0)), .int p0, .int p] h X K := by
  subst hp0
  subst hp
  have hc := hC z h0 h1
  have h10 := hT.2.2.2.2.2.2.1
  refine ⟨hL.rc, f_X5_pageIn _ _ _ h (lf_lines hL (ln_get hD hL rfl h0 h1 (li6 hL h0 h1 (lf_this hL (cp_c hP ⟨fun w => ?_, _, rfl, ?_⟩)))))⟩
  · rw [zl_0, zI_eq (by omega) (by omega) (by omega) (by omega)] at w
    omega
  · rw [zI_div hc.1 (by omega) (by omega) (by omega), zl_1, zI_add, zI_add]
    exact k9
theorem x_page (hD : q_DK D) (hT : TI s) (hP : CP C xs s h) (hC : LC v) (hN : v.1.1 14 ≤ 64) (hL : LX A (C 0) r v h) (hf : -1 ≤ v.1.1 23 ∧ v.1.1 23 ≤ 70) {z : Int} (h0 : 0 ≤ z) (h1 : z < v.1.1 14) {p0 : Int32} (hp0 : p0 = zI z) {K : Int32 → qH → Prop} (k9 : K (zI (if v.1.1 23 = -1 then -1 else lPg s v.1 z (v.1.1 23))) h) : recv D h (some (A 0)) RX5 ∧ c_I D m_X5_page [va_rf (some (A 0)), .int p0] h X K := by
  subst hp0
  refine ⟨hL.rc, f_X5_page _ _ h (lf_front hL ⟨fun w => lf_front hL (x_pageIn hD hT hP hC hN hL h0 h1 ?_ rfl rfl ⟨_, rfl, ?_⟩), fun w => ⟨_, rfl, ?_⟩⟩)⟩
  · rw [zl_m1, zI_eq (by omega) (by omega) (by omega) (by omega)] at w
    omega
  · rw [zl_m1, zI_eq (by omega) (by omega) (by omega) (by omega)] at w
    rw [if_neg w] at k9
    exact k9
  · rw [zl_m1, zI_eq (by omega) (by omega) (by omega) (by omega)] at w
    rw [if_pos w] at k9
    exact k9
theorem x_bodyPages (hT : TI s) (hP : CP C xs s h) (hL : LX A (C 0) r v h) (hc : 0 ≤ v.1.1 22 ∧ v.1.1 22 ≤ 130) {K : Int32 → qH → Prop} (k9 : K (zI (mPagesOf s (v.1.1 22))) h) : recv D h (some (A 0)) RX5 ∧ c_I D m_X5_bodyPages [va_rf (some (A 0))] h X K := by
  have h10 := hT.2.2.2.2.2.2.1
  refine ⟨hL.rc, f_X5_bodyPages _ h (lf_cols hL (lf_this hL (cp_c hP (lf_this hL (cp_c hP ⟨fun w => ?_, _, rfl, ?_⟩)))))⟩
  · rw [zl_0, zI_eq (by omega) (by omega) (by omega) (by omega)] at w
    omega
  · rw [zl_1, zI_add, zI_sub, zI_div (by omega) (by omega) (by omega) (by omega)]
    exact k9
theorem lDig_bd {p : Int} : 1 ≤ lDig p ∧ lDig p ≤ 3 := by
  unfold lDig
  split
  · split <;> omega
  · omega
theorem lFb_bd (hT : TI s) {a : Int} : ∀ n : Nat, (0 ≤ (iter (lFb s v.1 a) n (0, s.1 9)).1 ∧ (iter (lFb s v.1 a) n (0, s.1 9)).1 ≤ n) ∧ (1 ≤ (iter (lFb s v.1 a) n (0, s.1 9)).2 ∧ (iter (lFb s v.1 a) n (0, s.1 9)).2 ≤ 20)
  | 0 => by
    have h9 := hT.2.2.2.2.2.1
    exact ⟨⟨by show (0 : Int) ≤ 0; omega, by show (0 : Int) ≤ 0; omega⟩, by show 1 ≤ s.1 9; omega, by show s.1 9 ≤ 20; omega⟩
  | n + 1 => by
    have ih := lFb_bd hT (a := a) n
    have h9 := hT.2.2.2.2.2.1
    show (0 ≤ (lFb s v.1 a (iter (lFb s v.1 a) n (0, s.1 9)) n).1 ∧ (lFb s v.1 a (iter (lFb s v.1 a) n (0, s.1 9)) n).1 ≤ ((n + 1 : Nat) : Int)) ∧ (1 ≤ (lFb s v.1 a (iter (lFb s v.1 a) n (0, s.1 9)) n).2 ∧ (lFb s v.1 a (iter (lFb s v.1 a) n (0, s.1 9)) n).2 ≤ 20)
    generalize iter (lFb s v.1 a) n (0, s.1 9) = x at *
    have hd := lDig_bd (p := lPg s v.1 n a)
    unfold lFb
    split
    · omega
    · split
      · dsimp only
        omega
      · dsimp only
        omega
theorem lFrontBy_bd (hT : TI s) (hN : 0 ≤ v.1.1 14 ∧ v.1.1 14 ≤ 64) {a : Int} : 0 ≤ lFbN s v.1 a ∧ lFbN s v.1 a ≤ 64 ∧ 0 ≤ lFrontBy s v.1 a ∧ lFrontBy s v.1 a ≤ 65 := by
  have h1 := (lFb_bd (v := v) hT (a := a) (v.1.1 14).toNat).1
  have h2 : 0 ≤ lFbN s v.1 a ∧ lFbN s v.1 a ≤ 64 := by unfold lFbN; omega
  have h3 := mPagesOf_bd hT (c := lFbN s v.1 a) ⟨h2.1, by omega⟩
  unfold lFrontBy
  omega
theorem x_frontBy (hD : q_DK D) (hT : TI s) (hP : CP C xs s h) (hC : LC v) (hZ : LZ v) (hL : LX A (C 0) r v h) {a : Int} (ha : 0 ≤ a ∧ a ≤ 70) {p : Int32} (hp : p = zI a) {K : Int32 → qH → Prop} (k9 : K (zI (lFrontBy s v.1 a)) h) : recv D h (some (A 0)) RX5 ∧ c_I D m_X5_frontBy [va_rf (some (A 0)), .int p] h X K := by
  subst hp
  have hn0 := hL.1
  have hN := hZ.1.2
  have h9 := hT.2.2.2.2.2.1
  have h10 := hT.2.2.2.2.2.2.1
  refine ⟨hL.rc, ?_⟩
  have hLp : ∀ j n : Nat, n + j = (v.1.1 14).toNat → L_X5_frontBy_13 D (fun v h1 => ∃ r : Int32, v = some (.int r) ∧ K r h1) X (A 0) (zI a) (zI (iter (lFb s v.1 a) n (0, s.1 9)).1) (zI (iter (lFb s v.1 a) n (0, s.1 9)).2) (zI n) h := by
    intro j
    induction j with
    | zero =>
      intro n hn
      have hx := lFb_bd (v := v) hT (a := a) n
      have e : (iter (lFb s v.1 a) n (0, s.1 9)).1 = lFbN s v.1 a := by unfold lFbN; rw [show n = (v.1.1 14).toNat by omega]
      rw [e] at hx ⊢
      refine f_X5_frontBy_13 _ _ _ _ _ h (lf_lines hL (ln_size hD hL ⟨fun w => lf_this hL (cp_c hP (lf_this hL (cp_c hP ⟨fun w => ?_, _, rfl, ?_⟩))), fun w => ?_⟩))
      · rw [zl_0, zI_eq (by omega) (by omega) (by omega) (by omega)] at w
        omega
      · have hp := mPagesOf_bd hT (c := lFbN s v.1 a) ⟨hx.1.1, by omega⟩
        rw [zl_1, zI_add, zI_sub, zI_div (by omega) (by omega) (by omega) (by omega)]
        have e2 : (lFbN s v.1 a + s.1 10 - 1) / s.1 10 = mPagesOf s (lFbN s v.1 a) := rfl
        rw [e2, mz_rem rfl zl_2 ⟨⟨hp.1, by omega⟩, ⟨by omega, by omega⟩, bdl rfl⟩, zI_add]
        exact k9
      · rw [zI_le (by omega) (by omega) (by omega) (by omega)] at w
        omega
    | succ j ih =>
      intro n hn
      have hx := lFb_bd (v := v) hT (a := a) n
      have ih : L_X5_frontBy_13 D (fun v h1 => ∃ r : Int32, v = some (.int r) ∧ K r h1) X (A 0) (zI a) (zI (lFb s v.1 a (iter (lFb s v.1 a) n (0, s.1 9)) n).1) (zI (lFb s v.1 a (iter (lFb s v.1 a) n (0, s.1 9)) n).2) (zI ((n : Int) + 1)) h := ih (n + 1) (by omega)
      generalize iter (lFb s v.1 a) n (0, s.1 9) = x at *
      have hd := lDig_bd (p := lPg s v.1 n a)
      have h19 := (hZ.2 n (by omega) (by omega)).2.1
      have hpg := lPg_bd hT hC (z := (n : Int)) (a := a) (by omega) (by omega) ha
      have h127 : ∀ {c f : Int}, L_X5_frontBy_13 D (fun v h1 => ∃ r : Int32, v = some (.int r) ∧ K r h1) X (A 0) (zI a) (zI c) (zI f) (zI ((n : Int) + 1)) h → L_X5_frontBy_127 D (fun v h1 => ∃ r : Int32, v = some (.int r) ∧ K r h1) X (A 0) (zI a) (zI c) (zI f) (zI n) h := fun G => f_X5_frontBy_127 _ _ _ _ _ h (by rw [zl_1, zI_add]; exact G)
      unfold lFb at ih
      have h79 : v.1.2 19 n ≠ 0 → ∀ d : Int, d = lDig (lPg s v.1 n a) → L_X5_frontBy_79 D (fun v h1 => ∃ r : Int32, v = some (.int r) ∧ K r h1) X (A 0) (zI a) (zI x.1) (zI x.2) (zI n) (zI d) h := by
        intro hne d hdd
        subst hdd
        rw [if_neg hne] at ih
        have hA : zI x.2 + zI (lDig (lPg s v.1 n a)) ≤ zI (s.1 9) → L_X5_frontBy_126 D (fun v h1 => ∃ r : Int32, v = some (.int r) ∧ K r h1) X (A 0) (zI a) (zI x.1 + 0) (zI n) (zI x.2 + zI (lDig (lPg s v.1 n a))) h := by
          intro w
          rw [zI_add, zI_le (by omega) (by omega) (by omega) (by omega)] at w
          rw [if_pos w] at ih
          refine f_X5_frontBy_126 _ _ _ _ _ h ?_
          rw [zl_0, zI_add, zI_add, Int.add_zero]
          exact h127 ih
        have hB : ¬ zI x.2 + zI (lDig (lPg s v.1 n a)) ≤ zI (s.1 9) → L_X5_frontBy_126 D (fun v h1 => ∃ r : Int32, v = some (.int r) ∧ K r h1) X (A 0) (zI a) (zI x.1 + 1) (zI n) (zI (lDig (lPg s v.1 n a))) h := by
          intro w
          rw [zI_add, zI_le (by omega) (by omega) (by omega) (by omega)] at w
          rw [if_neg w] at ih
          refine f_X5_frontBy_126 _ _ _ _ _ h ?_
          rw [zl_1, zI_add]
          exact h127 ih
        exact f_X5_frontBy_79 _ _ _ _ _ _ h (lf_this hL (cp_l hP ⟨fun w => f_X5_frontBy_101 _ _ _ _ _ _ _ h (lf_this hL (cp_l hP ⟨fun w2 => hA w2, fun w2 => absurd w w2⟩)), fun w => f_X5_frontBy_101 _ _ _ _ _ _ _ h (lf_this hL (cp_l hP ⟨fun w2 => absurd w2 w, fun w2 => hB w2⟩))⟩))
      refine f_X5_frontBy_13 _ _ _ _ _ h (lf_lines hL (ln_size hD hL ⟨fun w => ?_, fun w => lf_lines hL (ln_get hD hL rfl (by omega) (by omega) (li0 hL (by omega) (by omega) ⟨fun w2 => h127 ?_, fun w2 => ?_⟩))⟩))
      · rw [zI_le (by omega) (by omega) (by omega) (by omega)] at w
        omega
      · rw [zl_0, zI_eq (by omega) (by omega) (by omega) (by omega)] at w2
        rw [if_pos w2] at ih
        exact ih
      · rw [zl_0, zI_eq (by omega) (by omega) (by omega) (by omega)] at w2
        refine x_pageIn hD hT hP hC hN hL (by omega) (by omega) ha rfl rfl ⟨fun w3 => ⟨fun w4 => h79 w2 1 ?_, fun w4 => h79 w2 2 ?_⟩, fun w3 => h79 w2 3 ?_⟩
        · rw [zl_99, zI_le (by omega) (by omega) (by omega) (by omega)] at w3
          rw [zl_9, zI_le (by omega) (by omega) (by omega) (by omega)] at w4
          unfold lDig
          rw [if_pos w3, if_pos w4]
        · rw [zl_99, zI_le (by omega) (by omega) (by omega) (by omega)] at w3
          rw [zl_9, zI_le (by omega) (by omega) (by omega) (by omega)] at w4
          unfold lDig
          rw [if_pos w3, if_neg w4]
        · rw [zl_99, zI_le (by omega) (by omega) (by omega) (by omega)] at w3
          unfold lDig
          rw [if_neg w3]
  exact f_X5_frontBy _ _ h (lf_this hL (cp_l hP (hLp (v.1.1 14).toNat 0 (by omega))))
theorem x_rests (hD : q_DK D) (hT : TI s) (hP : CP C xs s h) (hC : LC v) (hZ : LZ v) (hL : LX A (C 0) r v h) {K : Int32 → qH → Prop} (k9 : K (zI (lRests s v.1 10 0)) h) : recv D h (some (A 0)) RX5 ∧ c_I D m_X5_rests [va_rf (some (A 0))] h X K := by
  refine ⟨hL.rc, ?_⟩
  have hLp : ∀ (f : Nat) (n a : Int), n + f = 10 → 0 ≤ n → (0 ≤ a ∧ a ≤ 65) → K (zI (lRests s v.1 f a)) h → L_X5_rests_4 D (fun v h1 => ∃ r : Int32, v = some (.int r) ∧ K r h1) X (A 0) (zI a) (zI n) h := by
    intro f
    induction f with
    | zero =>
      intro n a hn h0 ha k9
      refine f_X5_rests_4 _ _ _ h ⟨fun _ => ⟨_, rfl, k9⟩, fun w => ?_⟩
      rw [zl_10, zI_le (by omega) (by omega) (by omega) (by omega)] at w
      omega
    | succ f ih =>
      intro n a hn h0 ha k9
      have hb := lFrontBy_bd (v := v) hT hZ.1 (a := a)
      unfold lRests at k9
      refine f_X5_rests_4 _ _ _ h ⟨fun w => ?_, fun _ => x_frontBy hD hT hP hC hZ hL ⟨ha.1, by omega⟩ rfl ⟨fun w => ?_, fun w => ⟨_, rfl, ?_⟩⟩⟩
      · rw [zl_10, zI_le (by omega) (by omega) (by omega) (by omega)] at w
        omega
      · rw [zI_eq (by omega) (by omega) (by omega) (by omega)] at w
        rw [if_neg w] at k9
        rw [zl_1, zI_add]
        exact ih (n + 1) _ (by omega) (by omega) hb.2.2 k9
      · rw [zI_eq (by omega) (by omega) (by omega) (by omega)] at w
        rw [if_pos w] at k9
        exact k9
  exact f_X5_rests _ h (hLp 10 0 0 (by omega) (by omega) ⟨by omega, by omega⟩ k9)
theorem lRests_bd (hT : TI s) (hN : 0 ≤ v.1.1 14 ∧ v.1.1 14 ≤ 64) : ∀ (f : Nat) (a : Int), (0 ≤ a ∧ a ≤ 65) → -1 ≤ lRests s v.1 f a ∧ lRests s v.1 f a ≤ 65
  | 0, a, ha => by show -1 ≤ (-1 : Int) ∧ (-1 : Int) ≤ 65; omega
  | f + 1, a, ha => by
    unfold lRests
    split
    · omega
    · exact lRests_bd hT hN f _ (lFrontBy_bd (v := v) hT hN).2.2
end CF9
