set_option maxRecDepth 100000
/-! the component: styles, widths -/
/-- what a layout of record r is made from -/
def canon (s : mS) (r : Int) : mS := (fun j => if j = 0 ∨ j = 8 ∨ j = 9 ∨ j = 10 then s.1 j else 0, fun j z => if 1 ≤ j ∧ j ≤ 6 then s.2 j z else if j = 7 ∧ 0 ≤ z ∧ z < 4 then s.2 7 (4 * r + z) else 0)
section CAN
variable {s : mS} {r : Int}
theorem canon_root {k : Nat} (hk : k = 5 ∨ k = 6) : ∀ f v, mRoot k (canon s r) f v = mRoot k s f v
  | 0, v => rfl
  | f + 1, v => by
    unfold mRoot
    rw [canon_root hk f]
    rcases hk with rfl | rfl <;> rfl
theorem canon_eff {k : Nat} (hk : k = 5 ∨ k = 6) (v : Int) : mEff k (canon s r) v = mEff k s v := by
  unfold mEff
  rw [canon_root hk]
  rcases hk with rfl | rfl <;> rfl
theorem canon_7 {z : Int} (hz : 0 ≤ z ∧ z < 4) : (canon s r).2 7 z = s.2 7 (4 * r + z) := by
  show (if (7 = 7 ∧ 0 ≤ z ∧ z < 4) then s.2 7 (4 * r + z) else 0) = _
  rw [if_pos ⟨rfl, hz⟩]
theorem canon_wide (hT : TI s) {t : Int} (h0 : 0 ≤ t) (h1 : t < s.1 0) : mWide (canon s r) 0 t = mWide s r t := by
  have hk := hT.tok h0 h1
  unfold mWide
  rw [canon_eff (Or.inl rfl)]
  show (if s.2 1 t = 1 then (canon s r).2 7 (4 * 0 + s.2 2 t) else s.2 2 t) + _ = _
  by_cases w : s.2 1 t = 1
  · rw [if_pos w, if_pos w, canon_7 ⟨by have := hk.2.2.1; omega, by have := hk.2.2.2.2.1 w; omega⟩]
    rw [show (4 * r + (4 * 0 + s.2 2 t)) = 4 * r + s.2 2 t by omega]
    rfl
  · rw [if_neg w, if_neg w]
    rfl
theorem canon_prn (hT : TI s) {t : Int} (h0 : 0 ≤ t) (h1 : t < s.1 0) : mPrn (canon s r) 0 t ↔ mPrn s r t := by
  have hk := hT.tok h0 h1
  show (s.2 1 t = 0 ∨ s.2 1 t = 3 ∨ (s.2 1 t = 1 ∧ 0 < (canon s r).2 7 (4 * 0 + s.2 2 t))) ↔ _
  by_cases w : s.2 1 t = 1
  · rw [canon_7 ⟨by have := hk.2.2.1; omega, by have := hk.2.2.2.2.1 w; omega⟩, show (4 * r + (4 * 0 + s.2 2 t)) = 4 * r + s.2 2 t by omega]
  · constructor
    · rintro (a | a | a)
      · exact Or.inl a
      · exact Or.inr (Or.inl a)
      · exact absurd a.1 w
    · rintro (a | a | a)
      · exact Or.inl a
      · exact Or.inr (Or.inl a)
      · exact absurd a.1 w
end CAN
theorem mRoot_stop {k f : Nat} {s : mS} {v : Int} (h : ¬ (s.2 k v = -1 ∧ s.2 4 v ≠ -1)) : mRoot k s (f + 1) v = v := if_neg h
theorem mRoot_go {k f : Nat} {s : mS} {v : Int} (h : s.2 k v = -1 ∧ s.2 4 v ≠ -1) : mRoot k s (f + 1) v = mRoot k s f (s.2 4 v) := if_pos h
section CST
variable {D : qD} {C : Nat → Nat} {xs : List Nat} {s : mS} {h : qH} {Q : Option Value → qH → Prop} {X : String → qH → Prop}
theorem CP.style (hP : CP C xs s h) {z : Int} (h0 : 0 ≤ z) (h1 : z < 6) : ∃ V, h.2 (C (10 + z.toNat)) = some (c_ob 1 V) ∧ V 0 = va_rf (if s.2 4 z = -1 then none else some (C (10 + (s.2 4 z).toNat))) ∧ V 1 = .int (zI (s.2 5 z)) ∧ V 2 = .int (zI (s.2 6 z)) := by
  obtain ⟨-, -, -, -, -, g1, -⟩ := hP
  have := g1 z.toNat (by omega)
  rw [Int.toNat_of_nonneg h0] at this
  exact this
theorem k_extra (hT : TI s) (hP : CP C xs s h) : ∀ (d : Nat) (Q : Option Value → qH → Prop) (z : Int) (f : Nat) (rk : Int → Nat), (∀ i, 0 ≤ i → i < 6 → s.2 4 i ≠ -1 → rk (s.2 4 i) < rk i) → 0 ≤ z → z < 6 → rk z ≤ d → rk z < f → Q (some (.int (zI (if s.2 5 (mRoot 5 s f z) = -1 then 0 else s.2 5 (mRoot 5 s f z))))) h → MW D (m_X2_extra (d + 1)) [va_rf (some (C (10 + z.toNat)))] h Q X := by
  intro d
  induction d with
  | zero =>
    intro Q z f rk hr h0 h1 hd hf hQ
    have hb := hT.base h0 h1
    obtain ⟨V, v, v0, v1, v2⟩ := hP.style h0 h1
    have hm1 : bd (s.2 5 z) := ⟨by omega, by omega⟩
    obtain ⟨f, rfl⟩ : ∃ f', f = f' + 1 := ⟨f - 1, by omega⟩
    refine f_X2_extra _ _ h (gI v v1 ⟨fun w => gR v v0 ⟨fun w2 => ?_, fun w2 => ?_⟩, fun w => gI v v1 ?_⟩)
    · have hne : s.2 4 z ≠ -1 := fun q => w2 (if_pos q)
      have := hr z h0 h1 hne
      omega
    · have hx : s.2 4 z = -1 := by
        by_cases q : s.2 4 z = -1
        · exact q
        · rw [if_neg q] at w2; cases w2
      rw [mRoot_stop (fun q => q.2 hx)] at hQ
      rw [zl_m1, zI_eq hm1.1 hm1.2 (by omega) (by omega)] at w
      rw [if_pos w] at hQ
      exact hQ
    · rw [zl_m1, zI_eq hm1.1 hm1.2 (by omega) (by omega)] at w
      rw [mRoot_stop (fun q => w q.1), if_neg w] at hQ
      exact hQ
  | succ d ih =>
    intro Q z f rk hr h0 h1 hd hf hQ
    have hb := hT.base h0 h1
    obtain ⟨V, v, v0, v1, v2⟩ := hP.style h0 h1
    have hm1 : bd (s.2 5 z) := ⟨by omega, by omega⟩
    obtain ⟨f, rfl⟩ : ∃ f', f = f' + 1 := ⟨f - 1, by omega⟩
    refine f_X2_extra _ _ h (gI v v1 ⟨fun w => gR v v0 ⟨fun w2 => ?_, fun w2 => ?_⟩, fun w => gI v v1 ?_⟩)
    · have hne : s.2 4 z ≠ -1 := fun q => w2 (if_pos q)
      rw [zl_m1, zI_eq hm1.1 hm1.2 (by omega) (by omega)] at w
      rw [mRoot_go ⟨w, hne⟩] at hQ
      have h9 := hr z h0 h1 hne
      obtain ⟨V2, y, -⟩ := hP.style (z := s.2 4 z) (by omega) (by omega)
      refine gR v v0 ?_
      rw [if_neg hne]
      exact ⟨rcv y rfl, ih _ (s.2 4 z) f rk hr (by omega) (by omega) (by omega) (by omega) ⟨_, rfl, hQ⟩⟩
    · have hx : s.2 4 z = -1 := by
        by_cases q : s.2 4 z = -1
        · exact q
        · rw [if_neg q] at w2; cases w2
      rw [mRoot_stop (fun q => q.2 hx)] at hQ
      rw [zl_m1, zI_eq hm1.1 hm1.2 (by omega) (by omega)] at w
      rw [if_pos w] at hQ
      exact hQ
    · rw [zl_m1, zI_eq hm1.1 hm1.2 (by omega) (by omega)] at w
      rw [mRoot_stop (fun q => w q.1), if_neg w] at hQ
      exact hQ
theorem k_colour (hT : TI s) (hP : CP C xs s h) : ∀ (d : Nat) (Q : Option Value → qH → Prop) (z : Int) (f : Nat) (rk : Int → Nat), (∀ i, 0 ≤ i → i < 6 → s.2 4 i ≠ -1 → rk (s.2 4 i) < rk i) → 0 ≤ z → z < 6 → rk z ≤ d → rk z < f → Q (some (.int (zI (if s.2 6 (mRoot 6 s f z) = -1 then 0 else s.2 6 (mRoot 6 s f z))))) h → MW D (m_X2_colour (d + 1)) [va_rf (some (C (10 + z.toNat)))] h Q X := by
  intro d
  induction d with
  | zero =>
    intro Q z f rk hr h0 h1 hd hf hQ
    have hb := hT.base h0 h1
    obtain ⟨V, v, v0, v1, v2⟩ := hP.style h0 h1
    have hm1 : bd (s.2 6 z) := ⟨by omega, by omega⟩
    obtain ⟨f, rfl⟩ : ∃ f', f = f' + 1 := ⟨f - 1, by omega⟩
    refine f_X2_colour _ _ h (gI v v2 ⟨fun w => gR v v0 ⟨fun w2 => ?_, fun w2 => ?_⟩, fun w => gI v v2 ?_⟩)
    · have hne : s.2 4 z ≠ -1 := fun q => w2 (if_pos q)
      have := hr z h0 h1 hne
      omega
    · have hx : s.2 4 z = -1 := by
        by_cases q : s.2 4 z = -1
        · exact q
        · rw [if_neg q] at w2; cases w2
      rw [mRoot_stop (fun q => q.2 hx)] at hQ
      rw [zl_m1, zI_eq hm1.1 hm1.2 (by omega) (by omega)] at w
      rw [if_pos w] at hQ
      exact hQ
    · rw [zl_m1, zI_eq hm1.1 hm1.2 (by omega) (by omega)] at w
      rw [mRoot_stop (fun q => w q.1), if_neg w] at hQ
      exact hQ
  | succ d ih =>
    intro Q z f rk hr h0 h1 hd hf hQ
    have hb := hT.base h0 h1
    obtain ⟨V, v, v0, v1, v2⟩ := hP.style h0 h1
    have hm1 : bd (s.2 6 z) := ⟨by omega, by omega⟩
    obtain ⟨f, rfl⟩ : ∃ f', f = f' + 1 := ⟨f - 1, by omega⟩
    refine f_X2_colour _ _ h (gI v v2 ⟨fun w => gR v v0 ⟨fun w2 => ?_, fun w2 => ?_⟩, fun w => gI v v2 ?_⟩)
    · have hne : s.2 4 z ≠ -1 := fun q => w2 (if_pos q)
      rw [zl_m1, zI_eq hm1.1 hm1.2 (by omega) (by omega)] at w
      rw [mRoot_go ⟨w, hne⟩] at hQ
      have h9 := hr z h0 h1 hne
      obtain ⟨V2, y, -⟩ := hP.style (z := s.2 4 z) (by omega) (by omega)
      refine gR v v0 ?_
      rw [if_neg hne]
      exact ⟨rcv y rfl, ih _ (s.2 4 z) f rk hr (by omega) (by omega) (by omega) (by omega) ⟨_, rfl, hQ⟩⟩
    · have hx : s.2 4 z = -1 := by
        by_cases q : s.2 4 z = -1
        · exact q
        · rw [if_neg q] at w2; cases w2
      rw [mRoot_stop (fun q => q.2 hx)] at hQ
      rw [zl_m1, zI_eq hm1.1 hm1.2 (by omega) (by omega)] at w
      rw [if_pos w] at hQ
      exact hQ
    · rw [zl_m1, zI_eq hm1.1 hm1.2 (by omega) (by omega)] at w
      rw [mRoot_stop (fun q => w q.1), if_neg w] at hQ
      exact hQ
/-- a style asked for what it adds -/
theorem x_extra (hT : TI s) (hP : CP C xs s h) {z : Int} (h0 : 0 ≤ z) (h1 : z < 6) {K : Int32 → qH → Prop} (k9 : K (zI (mEff 5 s z)) h) : recv D h (some (C (10 + z.toNat))) RX2 ∧ c_I D (m_X2_extra 8) [va_rf (some (C (10 + z.toNat)))] h X K := by
  obtain ⟨rk, r1, r2⟩ := hT.2.2.2.2.2.2.2.2.2.2.1
  obtain ⟨V, v, -⟩ := hP.style h0 h1
  have := r1 z h0 h1
  exact ⟨rcv v rfl, k_extra hT hP 7 _ z 6 rk r2 h0 h1 (by omega) (by omega) ⟨_, rfl, k9⟩⟩
theorem x_colour (hT : TI s) (hP : CP C xs s h) {z : Int} (h0 : 0 ≤ z) (h1 : z < 6) {K : Int32 → qH → Prop} (k9 : K (zI (mEff 6 s z)) h) : recv D h (some (C (10 + z.toNat))) RX2 ∧ c_I D (m_X2_colour 8) [va_rf (some (C (10 + z.toNat)))] h X K := by
  obtain ⟨rk, r1, r2⟩ := hT.2.2.2.2.2.2.2.2.2.2.1
  obtain ⟨V, v, -⟩ := hP.style h0 h1
  have := r1 z h0 h1
  exact ⟨rcv v rfl, k_colour hT hP 7 _ z 6 rk r2 h0 h1 (by omega) (by omega) ⟨_, rfl, k9⟩⟩
theorem cp_row (hP : CP C xs s h) {i : Int32} {z : Int} (hi : i = zI z) (h0 : 0 ≤ z) (h1 : z < 4) {K : Option Nat → Prop} (k9 : K (some (C (20 + z.toNat)))) : a_R D h (some (C 3)) 6 i K := by
  obtain ⟨-, -, -, -, -, -, ⟨f, e1, e2⟩, -⟩ := hP
  subst hi
  refine aR (Or.inl e1) (zI_in h0 (by omega) (by omega)) ?_
  rw [zI_cl h0 (by omega), e2 _ (by omega)]
  exact k9
theorem cp_datum (hP : CP C xs s h) {r : Int} (hr0 : 0 ≤ r) (hr1 : r < 4) {i : Int32} {z : Int} (hi : i = zI z) (h0 : 0 ≤ z) (h1 : z < 4) {K : Int32 → Prop} (k9 : K (zI (s.2 7 (4 * r + z)))) : a_I D h (some (C (20 + r.toNat))) 0 i K := by
  obtain ⟨-, -, -, -, -, -, -, g1, -⟩ := hP
  obtain ⟨f, e1, e2⟩ := g1 r.toNat (by omega)
  subst hi
  refine aI e1 (zI_in h0 (by omega) (by omega)) ?_
  rw [zI_cl h0 (by omega), e2 _ (by omega), Int.toNat_of_nonneg hr0, Int.toNat_of_nonneg h0]
  exact k9
theorem cp_see (hP : CP C xs s h) {i : Int32} {z : Int} (hi : i = zI z) (h0 : 0 ≤ z) (h1 : z < 10) {K : Int32 → Prop} (k9 : K (zI (s.2 11 z))) : a_I D h (some (C 4)) 0 i K := by
  obtain ⟨-, -, -, -, -, -, -, -, ⟨f, e1, e2⟩⟩ := hP
  subst hi
  refine aI e1 (zI_in h0 (by omega) (by omega)) ?_
  rw [zI_cl h0 (by omega), e2 _ (by omega), Int.toNat_of_nonneg h0]
  exact k9
/-- a layout's record and its component -/
def LB (C : Nat → Nat) (l : Nat) (r : Int) (h : qH) : Prop := ∃ V, h.2 l = some (c_ob 4 V) ∧ V 0 = .int (zI r) ∧ V 9 = va_rf (some (C 0))
theorem x_isPrinted (hT : TI s) (hP : CP C xs s h) {l : Nat} {r : Int} (hB : LB C l r h) (hr : 0 ≤ r ∧ r < 4) {t : Int} (h0 : 0 ≤ t) (h1 : t < s.1 0) {K : Int32 → qH → Prop} (k9 : K (zI (if mPrn s r t then 1 else 0)) h) : recv D h (some l) RX5 ∧ c_I D m_X5_isPrinted [va_rf (some l), va_rf (some (xs.getD t.toNat 0))] h X K := by
  obtain ⟨V, b, v0, v9⟩ := hB
  obtain ⟨k1, k2, k3, k4, k5, k6⟩ := hT.tok h0 h1
  refine ⟨rcv b rfl, ?_⟩
  have b1 : bd (s.2 1 t) := ⟨by omega, by omega⟩
  have hyes : mPrn s r t → L_X5_isPrinted_43 D (fun v h1 => ∃ r : Int32, v = some (.int r) ∧ K r h1) X h := fun w => f_X5_isPrinted_43 h ⟨_, rfl, by rw [if_pos w] at k9; exact k9⟩
  have hno : ¬ mPrn s r t → ∃ r : Int32, (some (Value.int 0)) = some (.int r) ∧ K r h := fun w => ⟨_, rfl, by rw [if_neg w] at k9; exact k9⟩
  refine f_X5_isPrinted _ _ h (tk0 hP h0 h1 ⟨fun w => hyes ?_, fun w => tk0 hP h0 h1 ⟨fun w2 => hyes ?_, fun w2 => tk0 hP h0 h1 ⟨fun w3 => hno ?_, fun w3 => ?_⟩⟩⟩)
  · rw [zl_0, zI_eq b1.1 b1.2 (by omega) (by omega)] at w
    exact Or.inl w
  · rw [zl_3, zI_eq b1.1 b1.2 (by omega) (by omega)] at w2
    exact Or.inr (Or.inl w2)
  · rw [zl_0, zI_eq b1.1 b1.2 (by omega) (by omega)] at w
    rw [zl_3, zI_eq b1.1 b1.2 (by omega) (by omega)] at w2
    rw [zl_1, zI_eq b1.1 b1.2 (by omega) (by omega)] at w3
    rintro (q | q | q)
    · exact w q
    · exact w2 q
    · exact w3 q.1
  · rw [zl_0, zI_eq b1.1 b1.2 (by omega) (by omega)] at w
    rw [zl_3, zI_eq b1.1 b1.2 (by omega) (by omega)] at w2
    rw [zl_1, zI_eq b1.1 b1.2 (by omega) (by omega)] at w3
    have hd := hT.2.2.1 (4 * r + s.2 2 t) (by omega) (by have := k5 w3; omega)
    refine gR b v9 (cp_data hP (gI b v0 (cp_row hP rfl hr.1 hr.2 (tk1 hP h0 h1 (cp_datum hP hr.1 hr.2 rfl (by omega) (by have := k5 w3; omega) ⟨fun w4 => hno ?_, fun w4 => hyes ?_⟩)))))
    · rw [zl_0, zI_le (by omega) (by omega) (by omega) (by omega)] at w4
      rintro (q | q | q)
      · exact w q
      · exact w2 q
      · omega
    · rw [zl_0, zI_le (by omega) (by omega) (by omega) (by omega)] at w4
      exact Or.inr (Or.inr ⟨w3, by omega⟩)
theorem x_widthOf (hT : TI s) (hP : CP C xs s h) {l : Nat} {r : Int} (hB : LB C l r h) (hr : 0 ≤ r ∧ r < 4) {t : Int} (h0 : 0 ≤ t) (h1 : t < s.1 0) (hp : mPrn s r t) {K : Int32 → qH → Prop} (k9 : K (zI (mWide s r t)) h) : recv D h (some l) RX5 ∧ c_I D m_X5_widthOf [va_rf (some l), va_rf (some (xs.getD t.toNat 0))] h X K := by
  obtain ⟨V, b, v0, v9⟩ := hB
  obtain ⟨k1, k2, k3, k4, k5, k6⟩ := hT.tok h0 h1
  refine ⟨rcv b rfl, ?_⟩
  have b1 : bd (s.2 1 t) := ⟨by omega, by omega⟩
  have hL : ∀ y : Int, y = (if s.2 1 t = 1 then s.2 7 (4 * r + s.2 2 t) else s.2 2 t) → 1 ≤ y ∧ y ≤ 9 → L_X5_widthOf_32 D (fun v h1 => ∃ r : Int32, v = some (.int r) ∧ K r h1) X l (xs.getD t.toNat 0) (zI y) h := by
    intro y hy hyb
    refine f_X5_widthOf_32 _ _ _ h ⟨fun _ => gR b v9 (cp_styles hP (tk2 hP h0 h1 (cp_style hP rfl (by omega) (by omega) (x_extra hT hP (by omega) (by omega) ⟨_, rfl, ?_⟩)))), fun w => ?_⟩
    · rw [zI_add]
      unfold mWide at k9
      rw [← hy] at k9
      exact k9
    · rw [zl_0, zI_eq (by omega) (by omega) (by omega) (by omega)] at w
      omega
  refine f_X5_widthOf _ _ h (tk0 hP h0 h1 ⟨fun w => tk1 hP h0 h1 (hL _ ?_ ?_), fun w => ?_⟩)
  · rw [zl_1, zI_eq b1.1 b1.2 (by omega) (by omega)] at w
    rw [if_neg w]
  · rw [zl_1, zI_eq b1.1 b1.2 (by omega) (by omega)] at w
    rcases hp with q | q | q
    · exact ⟨k4 (Or.inl q), k3.2⟩
    · exact ⟨k4 (Or.inr (Or.inl q)), k3.2⟩
    · exact absurd q.1 w
  · rw [zl_1, zI_eq b1.1 b1.2 (by omega) (by omega)] at w
    have hd := hT.2.2.1 (4 * r + s.2 2 t) (by omega) (by have := k5 w; omega)
    refine gR b v9 (cp_data hP (gI b v0 (cp_row hP rfl hr.1 hr.2 (tk1 hP h0 h1 (cp_datum hP hr.1 hr.2 rfl (by omega) (by have := k5 w; omega) (hL _ (by rw [if_pos w]) ⟨?_, hd.2⟩))))))
    rcases hp with q | q | q
    · omega
    · omega
    · omega
end CST
