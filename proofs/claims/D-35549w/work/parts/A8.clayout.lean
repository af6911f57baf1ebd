set_option maxRecDepth 100000
/-! the component: a layout, made -/
def lV3 (k : mS) (v2 : lV) : lV := lF (lFill k v2) 23 (lRests k (lFill k v2).1 10 0)
/-- the layout of what is told: it depends on canon alone -/
def lLayK (k : mS) : lV := lV3 k (if ((iter (lLn k) (k.1 0).toNat (l0, -1, 0)).1).1.1 14 = 0 then (iter (lLn k) (k.1 0).toNat (l0, -1, 0)).1 else (iter (lHs k) (k.1 0).toNat ((iter (lLn k) (k.1 0).toNat (l0, -1, 0)).1, 0)).1)
def lLay (s : mS) (r : Int) : lV := lLayK (canon s r)
section LAY
variable {D : qD} {C : Nat → Nat} {xs : List Nat} {s s0 : mS} {g0 : qH} {W : mW} {v2 v : lV} {h : qH} {r : Int} {x : mS} {Q : Option Value → qH → Prop} {X : String → qH → Prop}
theorem lRests_canon {c : mS} : ∀ (f : Nat) (p : Int), lRests (canon s r) c f p = lRests s c f p
  | 0, p => rfl
  | f + 1, p => by
    unfold lRests
    have e : lFrontBy (canon s r) c p = lFrontBy s c p := rfl
    rw [e, lRests_canon f]
theorem lLay_eq : lLay s r = lF (lFill (canon s r) (lV2 s r)) 23 (lRests s (lFill (canon s r) (lV2 s r)).1 10 0) := by
  unfold lLay lLayK lV3
  rw [lRests_canon]
  rfl
def l0n (n : Int) : lV := ((fun _ => 0, fun k z => if (k = 15 ∨ k = 16) ∧ 0 ≤ z ∧ z < n then -1 else 0), fun _ => [])
theorem l0n_step {n : Int} (hn : 0 ≤ n) : lA (lA (l0n n) 15 n (-1)) 16 n (-1) = l0n (n + 1) := by
  refine Prod.ext (Prod.ext rfl (funext fun k => funext fun z => ?_)) rfl
  show (if k = 16 ∧ z = n then (-1 : Int) else if k = 15 ∧ z = n then -1 else if (k = 15 ∨ k = 16) ∧ 0 ≤ z ∧ z < n then -1 else 0) = if (k = 15 ∨ k = 16) ∧ 0 ≤ z ∧ z < n + 1 then -1 else 0
  by_cases h : (k = 15 ∨ k = 16) ∧ 0 ≤ z ∧ z < n + 1
  · rw [if_pos h]
    by_cases hz : z = n
    · rcases h.1 with q | q
      · rw [if_neg (by omega), if_pos ⟨q, hz⟩]
      · rw [if_pos ⟨q, hz⟩]
    · rw [if_neg (by omega), if_neg (by omega), if_pos ⟨h.1, by omega⟩]
  · rw [if_neg h, if_neg (by omega), if_neg (by omega), if_neg (by omega)]
theorem RC_LC (hI : ∀ i, 0 ≤ i → i < x.1 14 → 0 ≤ x.2 17 i ∧ x.2 17 i < x.1 22) (h22 : x.1 22 ≤ 128) (e14 : v.1.1 14 = x.1 14) (e17 : ∀ j, 0 ≤ j → j < x.1 14 → v.1.2 17 j = x.2 17 j) : LC v := by
  intro i a b
  rw [e14] at b
  rw [e17 i a b]
  have := hI i a b
  omega
theorem mk_54 (hD : q_DK D) (hP : CP C xs s g0) (hT : TI s) (hB : MB s) (hr : 0 ≤ r ∧ r < 4) {K : qH → Prop} (k9 : ∀ W' h', LH (C 0) r g0 W' (lLay s r) h' → W'.1 0 = W.1 0 → h.1 ≤ h'.1 + 7900 → K h') (hcr : 7900 ≤ h.1) : ∀ (j : Nat) (n : Int) (h' : qH), n + j = 120 → 0 ≤ n → LH (C 0) r g0 W (l0n n) h' → h'.1 = h.1 → L_X5_init_54 D (fun v h1 => v = none ∧ K h1) X (W.1 0) (zI n) h' := by
  have h64 := hT.1
  intro j
  induction j with
  | zero =>
    intro n h' hn h0 H' c'
    have hn : n = 120 := by omega
    subst hn
    have H' : LH (C 0) r g0 W l0 h' := H'
    have hR1 := R1_lay hT hB hr
    obtain ⟨hL1, hHI⟩ := L1_lay hT hB hr
    have hT0 := hT.of hL1.2.1.symm
    have hLL := hL1.LL hT
    have h14b := hL1.2.2.1
    have hRL := RL_all hT hB hr (s.1 0).toNat (by omega)
    obtain ⟨-, i2, i3, -, -, -, i7⟩ := LI_all hT hB hr (s.1 0).toNat (by omega)
    have hM : (((s.1 0).toNat : Nat) : Int) = s.1 0 := Int.toNat_of_nonneg h64.1
    rw [hM] at i3 i7
    obtain ⟨a1, a2, a3, a4, a5, a6, a7, a8, a9, a10⟩ := hRL
    rw [hM] at a2
    have hI0 : lInv 0 (l0, -1, 0) := ⟨⟨by show (0 : Int) ≤ 0; omega, by show (0 : Int) ≤ 0; omega⟩, Or.inl ⟨rfl, rfl⟩, ⟨by show (0 : Int) ≤ 0; omega, by show (0 : Int) ≤ 0; omega⟩, fun i a b => by have b : i < 0 := b; omega, fun j => by show ((0 : Nat) : Int) ≤ 0; omega⟩
    refine f_X5_init_54 _ _ h' ⟨fun _ => x_makes hD hP hT hr hI0 rfl rfl H' (by omega) (fun W1 h1 H1 e1 c1 => ?_), fun w => absurd (by decide) w⟩
    rw [← e1]
    have H1 : LH (C 0) r g0 W1 (lV1 s r) h1 := H1
    refine x_hangs hD hP hT H1 (by show (iter (lLn (canon s r)) (s.1 0).toNat (l0, -1, 0)).1.1.1 14 ≤ 64; omega) (fun u b0 b1 => ?_) (fun i b0 b1 => ?_) (fun i => a7 i) (by omega) (fun h2 H2 c2 => ?_)
    · show -1 ≤ (iter (lLn (canon s r)) (s.1 0).toNat (l0, -1, 0)).1.1.2 15 u ∧ (iter (lLn (canon s r)) (s.1 0).toNat (l0, -1, 0)).1.1.2 15 u < (iter (lLn (canon s r)) (s.1 0).toNat (l0, -1, 0)).1.1.1 14
      rw [a2 u b0 b1, a1]
      exact i7 u b0 b1
    · have b1 : i < (iter (lLn (canon s r)) (s.1 0).toNat (l0, -1, 0)).1.1.1 14 := b1
      rw [a1] at b1
      exact (a4 i b0 b1).2.2
    have H2 : LH (C 0) r g0 W1 (lV2 s r) h2 := H2
    refine x_fills hD hP hT hT0 hL1.1 hL1.2.1 hLL hR1 H2 (by omega) (fun h3 H3 c3 => ?_)
    obtain ⟨hRC, hw4⟩ := RC_fill (r := r) hT hT0 hL1.1 hL1.2.1 hLL hR1
    obtain ⟨hCF, c14, -, -⟩ := CF_cols hL1.1 hT0 hLL
    have e14 : (lFill (canon s r) (lV2 s r)).1.1 14 = (mCols (mLay1 s r)).1 14 := by rw [c14]; exact hRC.1.1.trans hR1.1
    have hLC : LC (lFill (canon s r) (lV2 s r)) := RC_LC hCF.2.2.2.2 hCF.2.2.2.1.2 e14 (fun j b0 b1 => hRC.2.2.2.2.2.2 j b0 (by rw [← c14]; exact b1))
    have hLZ := LZ_of hLL hR1 hRC.1
    have hrb := lRests_bd (v := lFill (canon s r) (lV2 s r)) hT hLZ.1 10 0 ⟨by omega, by omega⟩
    refine x_rests hD hT (hP.le H3.le) hLC hLZ H3.lx (LH_F H3 (Or.inr (Or.inr (Or.inr ⟨rfl, rfl⟩))) rfl (fun h4 H4 c4 => ⟨rfl, k9 W1 h4 ?_ e1 (by omega)⟩))
    rw [lLay_eq]
    exact H4
  | succ j ih =>
    intro n h' hn h0 H' c'
    refine f_X5_init_54 _ _ h' ⟨fun w => ?_, fun _ => lf_lineOf H'.lx (LH_S H' (Or.inl ⟨rfl, rfl⟩) rfl h0 (by omega) zl_m1 (fun h2 H2 c2 => lf_colOf H2.lx (LH_S H2 (Or.inr ⟨rfl, rfl⟩) rfl h0 (by omega) zl_m1 (fun h3 H3 c3 => ?_))))⟩
    · rw [zl_120, zI_le (by omega) (by omega) (by omega) (by omega)] at w
      omega
    · rw [l0n_step h0] at H3
      rw [zl_1, zI_add]
      exact ih (n + 1) h3 (by omega) (by omega) H3 (by rw [c3, c2]; exact c')
/-- new Layout(record) -/
theorem x_newLayout (hD : q_DK D) (hP : CP C xs s h) (hT : TI s) (hB : MB s) (hr : 0 ≤ r ∧ r < 4) (hcr : 8000 ≤ h.1) {K : Nat → qH → Prop} (k9 : ∀ (W : mW) h', LH (C 0) r h W (lLay s r) h' → h.1 ≤ h'.1 + 8000 → h.2 (W.1 0) = none → K (W.1 0) h') : n_O h 4 10 tyX5 (fun a h' => c_V D m_X5_init [va_rf (some a), va_rf (some (C 0)), .int (zI r)] h' X (fun h2 => K a h2)) := by
  refine ⟨by show 3 ≤ h.1; omega, fun t ht => ?_⟩
  refine f_X5_init _ _ _ _ (pF new_self ⟨by show 1 ≤ h.1 - 3; omega, fun a2 ha2 => j_init new_self rfl ⟨rfl, ?_⟩⟩)
  have n2t : a2 ≠ t := fun w => by rw [w, put_self] at ha2; cases ha2
  rw [put_ne n2t, new_ne n2t] at ha2
  refine pF ((put_ne (Ne.symm n2t)).trans ((new_ne (Ne.symm n2t)).trans put_self)) ⟨120, rfl, by decide, by show 31 ≤ h.1 - 3 - 1; omega, fun a6 ha6 => ?_⟩
  have n6t : a6 ≠ t := fun w => by rw [w, put_self] at ha6; cases ha6
  rw [put_ne n6t] at ha6
  have n62 : a6 ≠ a2 := fun w => by rw [w, put_self] at ha6; cases ha6
  rw [put_ne n62, new_ne n62, put_ne n6t, new_ne n6t] at ha6
  refine pF ((new_ne (Ne.symm n6t)).trans put_self) ⟨120, rfl, by decide, by show 31 ≤ h.1 - 3 - 1 - 31; omega, fun a9 ha9 => ?_⟩
  have n9t : a9 ≠ t := fun w => by rw [w, put_self] at ha9; cases ha9
  rw [put_ne n9t] at ha9
  have n96 : a9 ≠ a6 := fun w => by rw [w, new_self] at ha9; cases ha9
  rw [new_ne n96, put_ne n9t] at ha9
  have n92 : a9 ≠ a2 := fun w => by rw [w, put_self] at ha9; cases ha9
  rw [put_ne n92, new_ne n92, put_ne n9t, new_ne n9t] at ha9
  refine pF ((new_ne (Ne.symm n9t)).trans put_self) ⟨by show 1 ≤ h.1 - 3 - 1 - 31 - 31; omega, fun a12 ha12 => j_init new_self rfl ⟨rfl, ?_⟩⟩
  have nct : a12 ≠ t := fun w => by rw [w, put_self] at ha12; cases ha12
  rw [put_ne nct] at ha12
  have nc9 : a12 ≠ a9 := fun w => by rw [w, new_self] at ha12; cases ha12
  rw [new_ne nc9, put_ne nct] at ha12
  have nc6 : a12 ≠ a6 := fun w => by rw [w, new_self] at ha12; cases ha12
  rw [new_ne nc6, put_ne nct] at ha12
  have nc2 : a12 ≠ a2 := fun w => by rw [w, put_self] at ha12; cases ha12
  rw [put_ne nc2, new_ne nc2, put_ne nct, new_ne nct] at ha12
  refine pF ((put_ne (Ne.symm nct)).trans ((new_ne (Ne.symm nct)).trans put_self)) (pF put_self ?_)
  have hW : oOK ((fun k => if k = 0 then t else if k = 1 then a2 else if k = 2 then a6 else if k = 3 then a9 else a12, fun b => if b = t then some 0 else if b = a2 then some 1 else if b = a6 then some 2 else if b = a9 then some 3 else if b = a12 then some 4 else none) : mW) (lR 0) := by
    refine ⟨fun k hk => ?_, fun b k hb => ?_⟩
    · have hk : (k : Int) < 3 * 0 + 5 := hk
      have : k = 0 ∨ k = 1 ∨ k = 2 ∨ k = 3 ∨ k = 4 := by omega
      rcases this with rfl | rfl | rfl | rfl | rfl
      · show (if t = t then some 0 else _) = some 0
        rw [if_pos rfl]
      · show (if a2 = t then some 0 else if a2 = a2 then some 1 else _) = some 1
        rw [if_neg n2t, if_pos rfl]
      · show (if a6 = t then some 0 else if a6 = a2 then some 1 else if a6 = a6 then some 2 else _) = some 2
        rw [if_neg n6t, if_neg n62, if_pos rfl]
      · show (if a9 = t then some 0 else if a9 = a2 then some 1 else if a9 = a6 then some 2 else if a9 = a9 then some 3 else _) = some 3
        rw [if_neg n9t, if_neg n92, if_neg n96, if_pos rfl]
      · show (if a12 = t then some 0 else if a12 = a2 then some 1 else if a12 = a6 then some 2 else if a12 = a9 then some 3 else if a12 = a12 then some 4 else none) = some 4
        rw [if_neg nct, if_neg nc2, if_neg nc6, if_neg nc9, if_pos rfl]
    · have hb : (if b = t then some 0 else if b = a2 then some 1 else if b = a6 then some 2 else if b = a9 then some 3 else if b = a12 then some 4 else none) = some k := hb
      show b = (if k = 0 then t else if k = 1 then a2 else if k = 2 then a6 else if k = 3 then a9 else a12) ∧ ((k : Int) < 3 * 0 + 5)
      by_cases b0 : b = t
      · rw [if_pos b0] at hb; cases hb; exact ⟨b0, by omega⟩
      · rw [if_neg b0] at hb
        by_cases b1 : b = a2
        · rw [if_pos b1] at hb; cases hb; exact ⟨b1, by omega⟩
        · rw [if_neg b1] at hb
          by_cases b2 : b = a6
          · rw [if_pos b2] at hb; cases hb; exact ⟨b2, by omega⟩
          · rw [if_neg b2] at hb
            by_cases b3 : b = a9
            · rw [if_pos b3] at hb; cases hb; exact ⟨b3, by omega⟩
            · rw [if_neg b3] at hb
              by_cases b4 : b = a12
              · rw [if_pos b4] at hb; cases hb; exact ⟨b4, by omega⟩
              · rw [if_neg b4] at hb; cases hb
  refine mk_54 (W := ((fun k => if k = 0 then t else if k = 1 then a2 else if k = 2 then a6 else if k = 3 then a9 else a12, fun b => if b = t then some 0 else if b = a2 then some 1 else if b = a6 then some 2 else if b = a9 then some 3 else if b = a12 then some 4 else none) : mW)) (g0 := h) hD hP hT hB hr (fun W' h' H' e' c' => ?_) ?_ 120 0 _ (by omega) (by omega) ?_ rfl
  · have e' : W'.1 0 = t := e'
    rw [← e']
    refine k9 W' h' H' ?_ (by rw [e']; exact ht)
    have c' : h.1 - 3 - 1 - 31 - 31 - 1 ≤ h'.1 + 7900 := c'
    omega
  · show 7900 ≤ h.1 - 3 - 1 - 31 - 31 - 1
    omega
  · refine ⟨by show (0 : Int) ≤ 0; omega, fun _ => 0, fun _ => [], (h.1 - 3 - 1 - 31 - 31 - 1, h.2), ?_, hW, fun _ _ q => q, fun b k hb => ?_, fun k hk hk2 => ⟨rfl, fun i hi => absurd hi (Nat.not_lt_zero _)⟩⟩
    · refine ov_ext rfl (fun y k hy => ?_) (fun y hy => ?_)
      · obtain ⟨ey, hk⟩ := hW.2 y k hy
        have hk : (k : Int) < 3 * 0 + 5 := hk
        have : k = 0 ∨ k = 1 ∨ k = 2 ∨ k = 3 ∨ k = 4 := by omega
        rcases this with rfl | rfl | rfl | rfl | rfl
        · have ey : y = t := ey
          subst ey
          rw [put_self]
          refine congrArg (fun z => some (c_ob 4 z)) (funext fun m => ?_)
          unfold lobV
          by_cases m0 : m = 0
          · subst m0; rfl
          · by_cases m1 : m = 1
            · subst m1; rfl
            · by_cases m2 : m = 2
              · subst m2; rfl
              · by_cases m3 : m = 3
                · subst m3; rfl
                · by_cases m4 : m = 4
                  · subst m4; rfl
                  · by_cases m5 : m = 5
                    · subst m5; rfl
                    · by_cases m6 : m = 6
                      · subst m6; rfl
                      · by_cases m7 : m = 7
                        · subst m7; rfl
                        · by_cases m8 : m = 8
                          · subst m8; rfl
                          · by_cases m9 : m = 9
                            · subst m9; rfl
                            · simp [updV, m0, m1, m2, m3, m4, m5, m6, m7, m8, m9]
        · have ey : y = a2 := ey
          subst ey
          rw [put_ne n2t, put_ne n2t, put_ne (Ne.symm nc2), new_ne (Ne.symm nc2), put_ne n2t, new_ne (Ne.symm n92), put_ne n2t, new_ne (Ne.symm n62), put_ne n2t]
          exact put_self
        · have ey : y = a6 := ey
          subst ey
          rw [put_ne n6t, put_ne n6t, put_ne (Ne.symm nc6), new_ne (Ne.symm nc6), put_ne n6t, new_ne (Ne.symm n96), put_ne n6t]
          refine new_self.trans (congrArg (fun z => some (c_ia 0 120 z)) (funext fun m => ?_))
          show (0 : Int32) = zI (if (15 = 15 ∨ 15 = 16) ∧ 0 ≤ (m : Int) ∧ (m : Int) < 0 then -1 else 0)
          rw [if_neg (by omega)]
          rfl
        · have ey : y = a9 := ey
          subst ey
          rw [put_ne n9t, put_ne n9t, put_ne (Ne.symm nc9), new_ne (Ne.symm nc9), put_ne n9t]
          refine new_self.trans (congrArg (fun z => some (c_ia 0 120 z)) (funext fun m => ?_))
          show (0 : Int32) = zI (if (16 = 15 ∨ 16 = 16) ∧ 0 ≤ (m : Int) ∧ (m : Int) < 0 then -1 else 0)
          rw [if_neg (by omega)]
          rfl
        · have ey : y = a12 := ey
          subst ey
          rw [put_ne nct, put_ne nct]
          exact put_self
      · have hy : (if y = t then some 0 else if y = a2 then some 1 else if y = a6 then some 2 else if y = a9 then some 3 else if y = a12 then some 4 else none) = none := hy
        by_cases b0 : y = t
        · rw [if_pos b0] at hy; cases hy
        · rw [if_neg b0] at hy
          by_cases b1 : y = a2
          · rw [if_pos b1] at hy; cases hy
          · rw [if_neg b1] at hy
            by_cases b2 : y = a6
            · rw [if_pos b2] at hy; cases hy
            · rw [if_neg b2] at hy
              by_cases b3 : y = a9
              · rw [if_pos b3] at hy; cases hy
              · rw [if_neg b3] at hy
                by_cases b4 : y = a12
                · rw [if_pos b4] at hy; cases hy
                · rw [put_ne b0, put_ne b0, put_ne b4, new_ne b4, put_ne b0, new_ne b3, put_ne b0, new_ne b2, put_ne b0, put_ne b1, new_ne b1, put_ne b0, new_ne b0]
    · have hb9 := hW.2 b k hb
      obtain ⟨eb, hk⟩ := hb9
      have hk : (k : Int) < 3 * 0 + 5 := hk
      have : k = 0 ∨ k = 1 ∨ k = 2 ∨ k = 3 ∨ k = 4 := by omega
      rcases this with rfl | rfl | rfl | rfl | rfl
      · rw [show b = t from eb]; exact ht
      · rw [show b = a2 from eb]; exact ha2
      · rw [show b = a6 from eb]; exact ha6
      · rw [show b = a9 from eb]; exact ha9
      · rw [show b = a12 from eb]; exact ha12
end LAY
