set_option maxRecDepth 100000
/-! the component, changed -/
def LYL (x : Nat) (L : Nat → lV) (c6 : qE) (g : qH) : Prop := ∃ f, c6 = c_ra 7 4 f ∧ ∀ r : Nat, r < 4 → ∀ l, f r = some l → ∃ A, A 0 = l ∧ LX A x r (L r) g
def SCL (C : mW) (xs : List Nat) (s : mS) (ks : List (List mR3)) (L : Nat → lV) (h : qH) : Prop := ∃ (cc : Nat → qE) (g : qH), h = ov C cc g ∧ cOK C cc ∧ (∀ b k, C.2 b = some k → g.2 b = none) ∧ CPc C.1 cc xs s g ∧ LYL (C.1 0) L (cc 6) g ∧ KP (cc 5) ks g
section CMU
variable {D : qD} {C : mW} {xs : List Nat} {s : mS} {ks : List (List mR3)} {L : Nat → lV} {h : qH} {X : String → qH → Prop} {r : Int}
theorem SC.scl (hS : SC C xs s ks h) : SCL C xs s ks (fun r => lLay s r) h := hS
theorem SCL.S (hS : SCL C xs s ks (fun r => lLay s r) h) : SC C xs s ks h := hS
theorem SCL.P (hS : SCL C xs s ks L h) : CP C.1 xs s h := by
  obtain ⟨cc, g, h1, h2, h3, h4, h5, h6⟩ := hS
  rw [h1]
  exact h4.P h2 h3
theorem SCL.rcX1 (hS : SCL C xs s ks L h) : recv D h (some (C.1 0)) RX1 := by
  obtain ⟨⟨V, a, -⟩, -⟩ := hS.P
  exact rcv a rfl
/-- a number of the component -/
theorem SC_F (hS : SCL C xs s ks L h) {j k : Nat} (hjk : (j = 3 ∧ k = 8) ∨ (j = 4 ∧ k = 9) ∨ (j = 5 ∧ k = 10) ∨ (j = 7 ∧ k = 12) ∨ (j = 8 ∧ k = 13)) {y : Int32} {z : Int} (hy : y = zI z) {K : qH → Prop} (k9 : ∀ h', SCL C xs (mF s k z) ks L h' → q_fr C h h' → h'.1 = h.1 → K h') : p_F h (some (C.1 0)) 0 j (.int y) K := by
  subst hy
  obtain ⟨cc, g, h1, h2, h3, ⟨⟨V, a0, v0, v1, v2, v3, v4, v5, v6, v7, v8, v9, v10⟩, b1, c1, d1, e1, f1, g1, i1, j1⟩, h5, h6⟩ := hS
  have hr0 : cRole 0 := by unfold cRole; omega
  refine pF (V := V) (c := 0) (by rw [h1, cov_at h2 hr0, a0]) (k9 _ ⟨fun i => if i = 0 then c_ob 0 (updV V j (.int (zI z))) else cc i, g, by rw [h1, cov_put h2 hr0], h2.up hr0, h3, ⟨⟨updV V j (.int (zI z)), rfl, ?_⟩, b1, ?_, d1, e1, fun i hi => ?_, g1, fun i hi => ?_, j1⟩, h5, h6⟩ (q_fr.put h2 hr0) rfl)
  · rcases hjk with ⟨rfl, rfl⟩ | ⟨rfl, rfl⟩ | ⟨rfl, rfl⟩ | ⟨rfl, rfl⟩ | ⟨rfl, rfl⟩
    · exact ⟨v0, v1, v2, rfl, v4, v5, v6, v7, v8, v9, v10⟩
    · exact ⟨v0, v1, v2, v3, rfl, v5, v6, v7, v8, v9, v10⟩
    · exact ⟨v0, v1, v2, v3, v4, rfl, v6, v7, v8, v9, v10⟩
    · exact ⟨v0, v1, v2, v3, v4, v5, v6, rfl, v8, v9, v10⟩
    · exact ⟨v0, v1, v2, v3, v4, v5, v6, v7, rfl, v9, v10⟩
  · rw [c1]
    exact (if_neg (by omega)).symm
  · simp only [if_neg (show 10 + i ≠ 0 by omega)]
    exact f1 i hi
  · simp only [if_neg (show 20 + i ≠ 0 by omega)]
    exact i1 i hi
/-- a datum -/
theorem SC_row (hS : SCL C xs s ks L h) (hr : 0 ≤ r ∧ r < 4) {i y : Int32} {z w : Int} (hi : i = zI z) (h0 : 0 ≤ z ∧ z < 4) (hy : y = zI w) {K : qH → Prop} (k9 : ∀ h', SCL C xs (mA s 7 (4 * r + z) w) ks L h' → q_fr C h h' → h'.1 = h.1 → K h') : s_I h (some (C.1 (20 + r.toNat))) 0 i y K := by
  subst hi
  subst hy
  obtain ⟨cc, g, h1, h2, h3, ⟨a1, b1, c1, d1, e1, f1, g1, i1, j1⟩, h5, h6⟩ := hS
  have hrr : cRole (20 + r.toNat) := by unfold cRole; omega
  obtain ⟨f, f2, f3⟩ := i1 r.toNat (by omega)
  have o7 : ∀ k, k ≠ 7 → (mA s 7 (4 * r + z) w).2 k = s.2 k := fun k hk => by
    funext u
    show (if k = 7 ∧ u = 4 * r + z then w else s.2 k u) = s.2 k u
    rw [if_neg (fun q => hk q.1)]
  have e7 : ∀ u, (mA s 7 (4 * r + z) w).2 7 u = if u = 4 * r + z then w else s.2 7 u := fun u => by simp [mA]
  refine ⟨_, 4, f, rfl, by rw [h1, cov_at h2 hrr, f2], zI_in h0.1 (by omega) (by omega), k9 _ ⟨fun i => if i = 20 + r.toNat then c_ia 0 4 (upd f (zI z).toNatClampNeg (zI w)) else cc i, g, by rw [h1, cov_put h2 hrr], h2.up hrr, h3, ⟨?_, ?_, c1, fun i hi => ?_, e1, fun i hi => ?_, g1, fun i hi => ?_, ?_⟩, ?_, ?_⟩ (q_fr.put h2 hrr) rfl⟩
  · simp only [if_neg (show ¬ (0 = 20 + r.toNat) by omega)]
    exact a1
  · simp only [if_neg (show ¬ (1 = 20 + r.toNat) by omega)]
    exact b1
  · rw [o7 1 (by omega), o7 2 (by omega), o7 3 (by omega)]
    exact d1 i hi
  · simp only [if_neg (show ¬ (10 + i = 20 + r.toNat) by omega)]
    rw [o7 4 (by omega), o7 5 (by omega), o7 6 (by omega)]
    exact f1 i hi
  · by_cases hir : i = r.toNat
    · subst hir
      refine ⟨_, if_pos rfl, fun j hj => ?_⟩
      rw [zI_cl h0.1 (by omega), e7]
      simp only [upd]
      by_cases hjz : j = z.toNat
      · rw [if_pos hjz, if_pos (by omega)]
      · rw [if_neg hjz, if_neg (by omega)]
        exact f3 j hj
    · simp only [if_neg (show ¬ (20 + i = 20 + r.toNat) by omega)]
      obtain ⟨f', q1, q2⟩ := i1 i hi
      refine ⟨f', q1, fun j hj => ?_⟩
      rw [e7, if_neg (by omega)]
      exact q2 j hj
  · simp only [if_neg (show ¬ (4 = 20 + r.toNat) by omega)]
    rw [o7 11 (by omega)]
    exact j1
  · simp only [if_neg (show ¬ (6 = 20 + r.toNat) by omega)]
    exact h5
  · simp only [if_neg (show ¬ (5 = 20 + r.toNat) by omega)]
    exact h6
/-- what a term sees -/
theorem SC_see (hS : SCL C xs s ks L h) {i y : Int32} {z w : Int} (hi : i = zI z) (h0 : 0 ≤ z ∧ z < 10) (hy : y = zI w) {K : qH → Prop} (k9 : ∀ h', SCL C xs (mA s 11 z w) ks L h' → q_fr C h h' → h'.1 = h.1 → K h') : s_I h (some (C.1 4)) 0 i y K := by
  subst hi
  subst hy
  obtain ⟨cc, g, h1, h2, h3, ⟨a1, b1, c1, d1, e1, f1, g1, i1, ⟨f, f2, f3⟩⟩, h5, h6⟩ := hS
  have hrr : cRole 4 := by unfold cRole; omega
  have o7 : ∀ k, k ≠ 11 → (mA s 11 z w).2 k = s.2 k := fun k hk => by
    funext u
    show (if k = 11 ∧ u = z then w else s.2 k u) = s.2 k u
    rw [if_neg (fun q => hk q.1)]
  have e7 : ∀ u, (mA s 11 z w).2 11 u = if u = z then w else s.2 11 u := fun u => by simp [mA]
  refine ⟨_, 10, f, rfl, by rw [h1, cov_at h2 hrr, f2], zI_in h0.1 (by omega) (by omega), k9 _ ⟨fun i => if i = 4 then c_ia 0 10 (upd f (zI z).toNatClampNeg (zI w)) else cc i, g, by rw [h1, cov_put h2 hrr], h2.up hrr, h3, ⟨a1, b1, c1, fun i hi => ?_, e1, fun i hi => ?_, g1, fun i hi => ?_, ⟨_, if_pos rfl, fun j hj => ?_⟩⟩, h5, h6⟩ (q_fr.put h2 hrr) rfl⟩
  · rw [o7 1 (by omega), o7 2 (by omega), o7 3 (by omega)]
    exact d1 i hi
  · simp only [if_neg (show ¬ (10 + i = 4) by omega)]
    rw [o7 4 (by omega), o7 5 (by omega), o7 6 (by omega)]
    exact f1 i hi
  · simp only [if_neg (show ¬ (20 + i = 4) by omega)]
    rw [o7 7 (by omega)]
    exact i1 i hi
  · rw [zI_cl h0.1 (by omega), e7]
    simp only [upd]
    by_cases hjz : j = z.toNat
    · rw [if_pos hjz, if_pos (by omega)]
    · rw [if_neg hjz, if_neg (by omega)]
      exact f3 j hj
/-- a style: field 0 its base, 1 what it adds, 2 its colour -/
theorem SC_sty (hS : SCL C xs s ks L h) {z w : Int} (h0 : 0 ≤ z ∧ z < 6) {j : Nat} (hj : j < 3) {y : Value} (hy : y = if j = 0 then va_rf (if w = -1 then none else some (C.1 (10 + w.toNat))) else .int (zI w)) {K : qH → Prop} (k9 : ∀ h', SCL C xs (mA s (4 + j) z w) ks L h' → q_fr C h h' → h'.1 = h.1 → K h') : p_F h (some (C.1 (10 + z.toNat))) 1 j y K := by
  obtain ⟨cc, g, h1, h2, h3, ⟨a1, b1, c1, d1, e1, f1, g1, i1, j1⟩, h5, h6⟩ := hS
  have hrr : cRole (10 + z.toNat) := by unfold cRole; omega
  obtain ⟨V, v, v0, v1, v2⟩ := f1 z.toNat (by omega)
  rw [Int.toNat_of_nonneg h0.1] at v0 v1 v2
  have o7 : ∀ k, k ≠ 4 + j → (mA s (4 + j) z w).2 k = s.2 k := fun k hk => by
    funext u
    show (if k = 4 + j ∧ u = z then w else s.2 k u) = s.2 k u
    rw [if_neg (fun q => hk q.1)]
  have oz : ∀ k u, u ≠ z → (mA s (4 + j) z w).2 k u = s.2 k u := fun k u hu => by
    show (if k = 4 + j ∧ u = z then w else s.2 k u) = s.2 k u
    rw [if_neg (fun q => hu q.2)]
  have ez : (mA s (4 + j) z w).2 (4 + j) z = w := if_pos ⟨rfl, rfl⟩
  refine pF (V := V) (c := 1) (by rw [h1, cov_at h2 hrr, v]) (k9 _ ⟨fun i => if i = 10 + z.toNat then c_ob 1 (updV V j y) else cc i, g, by rw [h1, cov_put h2 hrr], h2.up hrr, h3, ⟨?_, ?_, c1, fun i hi => ?_, e1, fun i hi => ?_, g1, fun i hi => ?_, ?_⟩, ?_, ?_⟩ (q_fr.put h2 hrr) rfl)
  · simp only [if_neg (show ¬ (0 = 10 + z.toNat) by omega)]
    exact a1
  · simp only [if_neg (show ¬ (1 = 10 + z.toNat) by omega)]
    exact b1
  · rw [o7 1 (by omega), o7 2 (by omega), o7 3 (by omega)]
    exact d1 i hi
  · by_cases hiz : i = z.toNat
    · subst hiz
      refine ⟨_, if_pos rfl, ?_⟩
      rw [Int.toNat_of_nonneg h0.1]
      have : j = 0 ∨ j = 1 ∨ j = 2 := by omega
      rcases this with rfl | rfl | rfl
      · have ez : (mA s (4 + 0) z w).2 4 z = w := ez
        rw [ez, o7 5 (by omega), o7 6 (by omega)]
        exact ⟨hy, v1, v2⟩
      · have ez : (mA s (4 + 1) z w).2 5 z = w := ez
        rw [ez, o7 4 (by omega), o7 6 (by omega)]
        exact ⟨v0, hy, v2⟩
      · have ez : (mA s (4 + 2) z w).2 6 z = w := ez
        rw [ez, o7 4 (by omega), o7 5 (by omega)]
        exact ⟨v0, v1, hy⟩
    · simp only [if_neg (show ¬ (10 + i = 10 + z.toNat) by omega)]
      rw [oz 4 i (by omega), oz 5 i (by omega), oz 6 i (by omega)]
      exact f1 i hi
  · simp only [if_neg (show ¬ (20 + i = 10 + z.toNat) by omega)]
    rw [o7 7 (by omega)]
    exact i1 i hi
  · simp only [if_neg (show ¬ (4 = 10 + z.toNat) by omega)]
    rw [o7 11 (by omega)]
    exact j1
  · simp only [if_neg (show ¬ (6 = 10 + z.toNat) by omega)]
    exact h5
  · simp only [if_neg (show ¬ (5 = 10 + z.toNat) by omega)]
    exact h6
/-- a layout forgotten -/
theorem SC_lay (hS : SCL C xs s ks L h) {i : Int32} {z : Int} (hi : i = zI z) (h0 : 0 ≤ z ∧ z < 4) {L' : Nat → lV} (hL : ∀ r : Nat, (r : Int) ≠ z → L' r = L r) {K : qH → Prop} (k9 : ∀ h', SCL C xs s ks L' h' → q_fr C h h' → h'.1 = h.1 → K h') : s_R D h (some (C.1 6)) 7 "Quirefold$Layout" i none K := by
  subst hi
  obtain ⟨cc, g, h1, h2, h3, ⟨a1, b1, c1, d1, e1, f1, g1, i1, j1⟩, ⟨f, f2, f3⟩, h6⟩ := hS
  have hrr : cRole 6 := by unfold cRole; omega
  refine ⟨_, 4, f, rfl, by rw [h1, cov_at h2 hrr, f2], zI_in h0.1 (by omega) (by omega), Or.inl rfl, k9 _ ⟨fun i => if i = 6 then c_ra 7 4 (va_up f (zI z).toNatClampNeg none) else cc i, g, by rw [h1, cov_put h2 hrr], h2.up hrr, h3, ⟨a1, b1, c1, d1, e1, fun i hi => ?_, g1, fun i hi => ?_, j1⟩, ⟨_, if_pos rfl, fun r hr l hl => ?_⟩, h6⟩ (q_fr.put h2 hrr) rfl⟩
  · simp only [if_neg (show ¬ (10 + i = 6) by omega)]
    exact f1 i hi
  · simp only [if_neg (show ¬ (20 + i = 6) by omega)]
    exact i1 i hi
  · rw [zI_cl h0.1 (by omega)] at hl
    simp only [va_up] at hl
    by_cases hrz : r = z.toNat
    · rw [if_pos hrz] at hl
      cases hl
    · rw [if_neg hrz] at hl
      obtain ⟨A, p1, p2⟩ := f3 r hr l hl
      exact ⟨A, p1, by rw [hL r (by omega)]; exact p2⟩
theorem x_forgets (hS : SCL C xs s ks L h) {K : qH → Prop} (k9 : ∀ h', SC C xs s ks h' → q_fr C h h' → h'.1 = h.1 → K h') : recv D h (some (C.1 0)) RX1 ∧ c_V D m_X1_forgets [va_rf (some (C.1 0))] h X K := by
  refine ⟨hS.rcX1, f_X1_forgets _ h ?_⟩
  have hLp : ∀ (j n : Nat) (h' : qH), n + j = 4 → SCL C xs s ks (fun r => if r < n then lLay s r else L r) h' → q_fr C h h' → h'.1 = h.1 → L_X1_forgets_2 D (fun v h1 => v = none ∧ K h1) X (C.1 0) (zI n) h' := by
    intro j
    induction j with
    | zero =>
      intro n h' hn S' f' c'
      have hn : n = 4 := by omega
      subst hn
      refine f_X1_forgets_2 _ _ h' ⟨fun _ => ⟨rfl, k9 h' ?_ f' c'⟩, fun w => absurd (by decide) w⟩
      obtain ⟨cc, g, h1, h2, h3, h4, ⟨f, f2, f3⟩, h6⟩ := S'
      refine ⟨cc, g, h1, h2, h3, h4, ⟨f, f2, fun r hr l hl => ?_⟩, h6⟩
      obtain ⟨A, p1, p2⟩ := f3 r hr l hl
      simp only [if_pos hr] at p2
      exact ⟨A, p1, p2⟩
    | succ j ih =>
      intro n h' hn S' f' c'
      refine f_X1_forgets_2 _ _ h' ⟨fun w => ?_, fun _ => cp_lays S'.P (SC_lay S' rfl ⟨by omega, by omega⟩ (L' := fun r => if r < n + 1 then lLay s r else L r) (fun r hr => ?_) (fun h2 S2 f2 c2 => ?_))⟩
      · rw [zl_4, zI_le (by omega) (by omega) (by omega) (by omega)] at w
        omega
      · by_cases hrn : r < n
        · simp only [if_pos hrn, if_pos (show r < n + 1 by omega)]
        · simp only [if_neg hrn, if_neg (show ¬ r < n + 1 by omega)]
      · rw [zl_1, zI_add]
        exact ih (n + 1) h2 (by omega) S2 (f'.tr f2) (by rw [c2, c'])
  refine hLp 4 0 h rfl ?_ q_fr.rf rfl
  exact hS
end CMU
