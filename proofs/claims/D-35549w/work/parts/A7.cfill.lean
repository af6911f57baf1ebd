set_option maxRecDepth 100000
/-! the component: all columns -/
section FLQ
variable {D : qD} {C : Nat → Nat} {xs : List Nat} {s s0 : mS} {g0 : qH} {W : mW} {v2 v : lV} {h : qH} {r ip i t g : Int} {x : mS} {Q : Option Value → qH → Prop} {X : String → qH → Prop}
theorem lLine_at {k : mS} {v : lV} {n : Nat} : lLine k v (n : Int) = (v.2 (7 + 3 * n)).foldl (lFig k) (lPlace (lWhile k n 130 (if v.1.1 22 = 0 then lBeg k v else v)) n) := by
  unfold lLine
  rw [Int.toNat_natCast]
theorem RC_00 (hT0 : TI s0) (hB0 : MB s0) (h0 : told s0 = told s) (h1 : R1 s v2 s0) : RC s s0 v2 0 0 0 v2 (mCol00 s0) := by
  obtain ⟨q1, q2, q3, q4, q5, q6, q7, q8⟩ := h1
  have hw : wts (mCol00 s0) = [] := wts_nil.mpr (by show (0 : Int) ≤ 0; omega)
  have hno : ∀ u, ¬ met s s0 0 0 u := by
    intro u
    unfold met
    rintro ⟨c, -, a, b⟩
    omega
  refine ⟨RB.rf, q7, by rw [q6, hw], fun u => ?_, fun u a b _ => q8 u a b, fun u hu => ?_, fun j a b => by omega⟩
  · by_cases hu : 0 ≤ u ∧ u < 120
    · exact Or.inr (Or.inl ⟨q8 u hu.1 hu.2, Or.inl (hno u)⟩)
    · exact Or.inr (Or.inr (by omega))
  · rw [q6] at hu
    cases hu
/-- the columns when n lines are placed -/
theorem RC_lines (hT : TI s) (hT0 : TI s0) (hB0 : MB s0) (h0 : told s0 = told s) (hL : LL s0) (h1 : R1 s v2 s0) : ∀ n : Nat, 1 ≤ n → (n : Int) ≤ s0.1 14 → RC s s0 v2 n n 0 (iter (lLine (canon s r)) n v2) (iter mLine n (mBeg (mCol00 s0))) ∧ RD s (iter (lLine (canon s r)) n v2) (iter mLine n (mBeg (mCol00 s0)))
  | 0, hn, _ => by omega
  | n + 1, _, hn => by
    have h64 := hT0.1
    have hl := hL.1
    have hCI := (CI_lines hT0 hL hB0 n (by omega)).1
    have hgb := mG_bd (s0 := s0) h64.1 (i := 0) (t := 0)
    have hJ0 := CJ_00 hB0 hT0
    have h70 := h1.2.2.2.2.2.2.1
    show RC s s0 v2 ((n : Int) + 1) ((n : Int) + 1) 0 (lLine (canon s r) (iter (lLine (canon s r)) n v2) n) (mLine (iter mLine n (mBeg (mCol00 s0))) n) ∧ RD s (lLine (canon s r) (iter (lLine (canon s r)) n v2) n) (mLine (iter mLine n (mBeg (mCol00 s0))) n)
    rw [lLine_at]
    by_cases hn0 : n = 0
    · subst hn0
      obtain ⟨-, -, b1, b2⟩ := RC_beg (r := r) (g := mG s0 0 0) hT0 h0 (by omega) ⟨Int.le_refl 0, by omega⟩ hJ0 ⟨by show (0 : Int) ≤ 0; omega, by show (0 : Int) ≤ 0 + (mG s0 0 0 - (0 - 0)); omega⟩ (RC_00 hT0 hB0 h0 h1)
      have e : (if (iter (lLine (canon s r)) 0 v2).1.1 22 = 0 then lBeg (canon s r) (iter (lLine (canon s r)) 0 v2) else iter (lLine (canon s r)) 0 v2) = lBeg (canon s r) v2 := if_pos h70
      rw [e]
      have h9 := RC_line (r := r) (n := 0) hT hT0 h0 hL h1 (by omega) hCI b1 b2
      have ev : (iter (lLine (canon s r)) 0 v2).2 (7 + 3 * 0) = (lBeg (canon s r) v2).2 (7 + 3 * 0) := (b1.1.2.2 _ (by omega)).symm
      rw [ev]
      exact h9
    · obtain ⟨a1, a2⟩ := RC_lines hT hT0 hB0 h0 hL h1 n (by omega) (by omega)
      have h22 := hCI.2.2.2.2.2.1
      rw [if_neg (by rw [a1.2.1]; omega)]
      exact RC_line (r := r) hT hT0 h0 hL h1 (by omega) hCI a1 a2
theorem RC_end (hT0 : TI s0) (h0 : told s0 = told s) (hg : g ≤ 64) (hi : 0 ≤ ip ∧ ip ≤ 64) : ∀ (f : Nat) (v : lV) (x : mS), CI s0 ip g x → x.1 30 = 1 → RC s s0 v2 ip i t v x → RD s v x → RC s s0 v2 ip i t (lEnd (canon s r) f v) (mEnd f x)
  | 0, v, x, _, _, hR, _ => hR
  | f + 1, v, x, hI, h30, hR, hd => by
    have hb := hI.2.2.2.2.2
    unfold lEnd mEnd
    have hc : v.2 4 ≠ [] ↔ x.1 26 < x.1 27 := by
      rw [hR.2.2.1, ne_eq, wts_nil]
      omega
    by_cases w : x.1 26 < x.1 27
    · rw [if_pos w, if_pos (hc.mpr w)]
      obtain ⟨-, -, b1, b2⟩ := RC_beg (r := r) hT0 h0 hg hi hI.1 (by omega) hR
      exact RC_end hT0 h0 hg hi f _ _ (CI_beg hT0 hg hi hI.1 (by omega)).1 (mBeg_has w) b1 b2
    · rw [if_neg w, if_neg (fun q => w (hc.mp q))]
      exact hR
theorem RC_fill (hT : TI s) (hT0 : TI s0) (hB0 : MB s0) (h0 : told s0 = told s) (hL : LL s0) (h1 : R1 s v2 s0) : RC s s0 v2 (s0.1 14) (s0.1 14) 0 (lFill (canon s r) v2) (mCols s0) ∧ (lFill (canon s r) v2).2 4 = [] := by
  have h64 := hT0.1
  have hl := hL.1
  unfold lFill mCols
  rw [h1.1]
  by_cases hz : s0.1 14 = 0
  · rw [if_pos hz, hz]
    have e : lEnd (canon s r) 130 (iter (lLine (canon s r)) (0 : Int).toNat v2) = v2 := by
      show lEnd (canon s r) 130 v2 = v2
      exact if_neg (fun q => q h1.2.2.2.2.2.1)
    rw [e]
    exact ⟨RC_00 hT0 hB0 h0 h1, h1.2.2.2.2.2.1⟩
  · rw [if_neg hz]
    have hA := CI_lines hT0 hL hB0 (s0.1 14).toNat (by omega)
    have hB := RC_lines (r := r) hT hT0 hB0 h0 hL h1 (s0.1 14).toNat (by omega) (by omega)
    rw [Int.toNat_of_nonneg hl.1] at hA hB
    have hgb := mG_bd (s0 := s0) h64.1 (i := s0.1 14) (t := 0)
    have hj := hA.1.1.2.2.2.2.1
    have h9 := RC_end (r := r) hT0 h0 (by omega) ⟨by omega, by omega⟩ 130 _ _ hA.1 (hA.2 (by omega)) hB.1 hB.2
    refine ⟨h9, ?_⟩
    obtain ⟨c1, c2, c3⟩ := CI_end hT0 (by omega) ⟨by omega, by omega⟩ 130 _ hA.1 (hA.2 (by omega)) (by omega)
    rw [h9.2.2.1, wts_nil]
    omega
theorem x_226 (hD : q_DK D) (hP : CP C xs s g0) (hT : TI s) (hT0 : TI s0) (h0 : told s0 = told s) (hg : g ≤ 64) (hi : 0 ≤ ip ∧ ip ≤ 64) {K : qH → Prop} : ∀ (f : Nat) (v : lV) (x : mS) (h : qH), LH (C 0) r g0 W v h → CI s0 ip g x → x.1 30 = 1 → RC s s0 v2 ip i t v x → RD s v x → x.1 27 - x.1 26 ≤ f → (∀ h', LH (C 0) r g0 W (lEnd (canon s r) f v) h' → h'.1 = h.1 → K h') → L_X5_fills_226 D (fun v h1 => v = none ∧ K h1) X (W.1 0) h := by
  intro f
  induction f with
  | zero =>
    intro v x h hH hI h30 hR hd hf k9
    have hnil : v.2 4 = [] := by rw [hR.2.2.1, wts_nil]; omega
    have hn0 := hH.1
    exact f_X5_fills_226 _ h (lf_wait hH.lx (lb_isEmpty hD hH.lx ⟨by omega, by omega⟩ (by omega) (by rw [hnil]; exact Nat.zero_lt_succ _) ⟨fun _ => ⟨rfl, k9 h hH rfl⟩, fun w => by rw [if_pos hnil] at w; exact absurd w (by decide)⟩))
  | succ f ih =>
    intro v x h hH hI h30 hR hd hf k9
    have hn0 := hH.1
    have hj := hI.1.2.2.2.2.1
    have hb := hI.2.2.2.2.2
    have hlen : (v.2 4).length = (x.1 27 - x.1 26).toNat := by rw [hR.2.2.1, wts_len]
    have hc : v.2 4 ≠ [] ↔ x.1 26 < x.1 27 := by
      rw [hR.2.2.1, ne_eq, wts_nil]
      omega
    unfold lEnd at k9
    refine f_X5_fills_226 _ h (lf_wait hH.lx (lb_isEmpty hD hH.lx ⟨by omega, by omega⟩ (by omega) (by omega) ⟨fun w => ⟨rfl, ?_⟩, fun w => ?_⟩))
    · have hnil : v.2 4 = [] := by
        by_cases q : v.2 4 = []
        · exact q
        · rw [if_neg q] at w; exact absurd rfl w
      rw [if_neg (fun q => q hnil)] at k9
      exact k9 h hH rfl
    · have hnil : v.2 4 ≠ [] := fun q => by rw [if_pos q] at w; exact absurd w (by decide)
      have hlt := hc.mp hnil
      rw [if_pos hnil] at k9
      obtain ⟨-, -, b1, b2⟩ := RC_beg (r := r) hT0 h0 hg hi hI.1 (by omega) hR
      obtain ⟨c1, c2, c3, c4, c5⟩ := CI_beg hT0 hg hi hI.1 (by omega)
      exact x_begins hD hP hT hT0 h0 hg hi hH hI.1 (by omega) hR (fun h2 H2 e2 => ih _ _ h2 H2 c1 (mBeg_has hlt) b1 b2 (by have := c4 hlt; omega) (fun h3 H3 e3 => k9 h3 H3 (e3.trans e2)))
theorem x_fills (hD : q_DK D) (hP : CP C xs s g0) (hT : TI s) (hT0 : TI s0) (hB0 : MB s0) (h0 : told s0 = told s) (hL : LL s0) (h1 : R1 s v2 s0) (hH : LH (C 0) r g0 W v2 h) (hcr : 26 * 64 ≤ h.1) {K : qH → Prop} (k9 : ∀ h', LH (C 0) r g0 W (lFill (canon s r) v2) h' → h.1 ≤ h'.1 + 26 * 64 → K h') : recv D h (some (W.1 0)) RX5 ∧ c_V D m_X5_fills [va_rf (some (W.1 0))] h X K := by
  have h64 := hT0.1
  have hl := hL.1
  refine ⟨hH.lx.rc, f_X5_fills _ h ?_⟩
  have hn0 := hH.1
  have hv14 := h1.1
  have h70 := h1.2.2.2.2.2.2.1
  by_cases hz : s0.1 14 = 0
  · have hfin : lFill (canon s r) v2 = v2 := by
      unfold lFill
      rw [h1.1, hz]
      show lEnd (canon s r) 130 v2 = v2
      exact if_neg (fun q => q h1.2.2.2.2.2.1)
    rw [hfin] at k9
    have h226 : L_X5_fills_226 D (fun v h1 => v = none ∧ K h1) X (W.1 0) h := f_X5_fills_226 _ h (lf_wait hH.lx (lb_isEmpty hD hH.lx ⟨by omega, by omega⟩ (by omega) (by rw [h1.2.2.2.2.2.1]; exact Nat.zero_lt_succ _) ⟨fun _ => ⟨rfl, k9 h hH (by omega)⟩, fun w => by rw [if_pos h1.2.2.2.2.2.1] at w; exact absurd w (by decide)⟩))
    refine f_X5_fills_2 _ _ h (lf_lines hH.lx (ln_size hD hH.lx ⟨fun _ => h226, fun w => ?_⟩))
    rw [zl_0, zI_le (by omega) (by omega) (by omega) (by omega)] at w
    omega
  · unfold lFill at k9
    rw [hv14] at k9
    have hLp : ∀ (j n : Nat) (h' : qH), n + j = (s0.1 14).toNat → LH (C 0) r g0 W (iter (lLine (canon s r)) n v2) h' → (h.1 : Int) ≤ h'.1 + 26 * mG s0 n 0 → L_X5_fills_2 D (fun v h1 => v = none ∧ K h1) X (W.1 0) (zI n) h' := by
      intro j
      induction j with
      | zero =>
        intro n h' hn H' c'
        have hR := RC_lines (r := r) hT hT0 hB0 h0 hL h1 n (by omega) (by omega)
        have hA := CI_lines hT0 hL hB0 n (by omega)
        have hgb := mG_bd (s0 := s0) h64.1 (i := (n : Int)) (t := 0)
        have hj := hA.1.1.2.2.2.2.1
        have e14 : (iter (lLine (canon s r)) n v2).1.1 14 = s0.1 14 := hR.1.1.1.trans hv14
        refine f_X5_fills_2 _ _ h' (lf_lines H'.lx (ln_size hD H'.lx ⟨fun _ => ?_, fun w => ?_⟩))
        · refine x_226 hD hP hT hT0 h0 (by omega) ⟨by omega, by omega⟩ 130 _ _ h' H' hA.1 (hA.2 (by omega)) hR.1 hR.2 (by omega) (fun h2 H2 e2 => k9 h2 ?_ (by omega))
          rw [show (s0.1 14).toNat = n by omega]
          exact H2
        · rw [e14, zI_le (by omega) (by omega) (by omega) (by omega)] at w
          omega
      | succ j ih =>
        intro n h' hn H' c'
        have ih := ih (n + 1)
        have hCI := (CI_lines hT0 hL hB0 n (by omega)).1
        have hgb := mG_bd (s0 := s0) h64.1 (i := (n : Int)) (t := 0)
        have hgb1 := mG_bd (s0 := s0) h64.1 (i := (n : Int) + 1) (t := 0)
        have hgb0 := mG_bd (s0 := s0) h64.1 (i := 0) (t := 0)
        have hj := hCI.1.2.2.2.2.1
        have h22 := hCI.2.2.2.2.2
        have ih : ∀ h' : qH, LH (C 0) r g0 W (lLine (canon s r) (iter (lLine (canon s r)) n v2) n) h' → (h.1 : Int) ≤ h'.1 + 26 * mG s0 ((n : Int) + 1) 0 → L_X5_fills_2 D (fun v h1 => v = none ∧ K h1) X (W.1 0) (zI ((n : Int) + 1)) h' := fun h' => ih h' (by omega)
        rw [lLine_at] at ih
        by_cases hn0 : n = 0
        · subst hn0
          have hR0 := RC_00 (s := s) hT0 hB0 h0 h1
          have hJ0 := CJ_00 hB0 hT0
          obtain ⟨-, -, b1, b2⟩ := RC_beg (r := r) (g := mG s0 0 0) hT0 h0 (by omega) ⟨Int.le_refl 0, by omega⟩ hJ0 ⟨by show (0 : Int) ≤ 0; omega, by show (0 : Int) ≤ 0 + (mG s0 0 0 - (0 - 0)); omega⟩ hR0
          have H' : LH (C 0) r g0 W v2 h' := H'
          have e : (if (iter (lLine (canon s r)) 0 v2).1.1 22 = 0 then lBeg (canon s r) (iter (lLine (canon s r)) 0 v2) else iter (lLine (canon s r)) 0 v2) = lBeg (canon s r) v2 := if_pos h70
          have ev : (iter (lLine (canon s r)) 0 v2).2 (7 + 3 * 0) = (lBeg (canon s r) v2).2 (7 + 3 * 0) := (b1.1.2.2 _ (by omega)).symm
          rw [e, ev] at ih
          refine f_X5_fills_2 _ _ h' (lf_lines H'.lx (ln_size hD H'.lx ⟨fun w => ?_, fun w => lf_lines H'.lx (ln_get hD H'.lx rfl (by omega) (by show ((0 : Nat) : Int) < v2.1.1 14; omega) (lf_cols H'.lx ⟨fun w2 => ?_, fun _ => x_begins hD hP hT hT0 h0 (g := mG s0 0 0) (by omega) ⟨Int.le_refl 0, by omega⟩ H' hJ0 ⟨by show (0 : Int) ≤ 0; omega, by show (0 : Int) ≤ 0 + (mG s0 0 0 - (0 - 0)); omega⟩ hR0 (fun h2 H2 e2 => x_line hD hP hT hT0 h0 hL h1 (n := 0) (by omega) hCI b1 b2 H2 (by have : ((0 : Nat) : Int) = 0 := rfl; omega) (fun h3 H3 c3 => ih h3 H3 (by have : ((0 : Nat) : Int) = 0 := rfl; omega)))⟩))⟩))
          · rw [zI_le (by omega) (by omega) (by omega) (by omega)] at w
            omega
          · rw [h70] at w2
            exact absurd rfl w2
        · have hR := RC_lines (r := r) hT hT0 hB0 h0 hL h1 n (by omega) (by omega)
          have e14 : (iter (lLine (canon s r)) n v2).1.1 14 = s0.1 14 := hR.1.1.1.trans hv14
          have e22 := hR.1.2.1
          have h30 := hCI.2.2.2.1
          rw [if_neg (by rw [e22]; omega)] at ih
          refine f_X5_fills_2 _ _ h' (lf_lines H'.lx (ln_size hD H'.lx ⟨fun w => ?_, fun w => lf_lines H'.lx (ln_get hD H'.lx rfl (by omega) (by omega) (lf_cols H'.lx ⟨fun _ => x_line hD hP hT hT0 h0 hL h1 (by omega) hCI hR.1 hR.2 H' (by omega) (fun h3 H3 c3 => ih h3 H3 (by omega)), fun w2 => ?_⟩))⟩))
          · rw [e14, zI_le (by omega) (by omega) (by omega) (by omega)] at w
            omega
          · rw [e22, zl_0, zI_eq (by omega) (by omega) (by omega) (by omega)] at w2
            omega
    exact hLp (s0.1 14).toNat 0 h (by omega) hH (by have := mG_bd (s0 := s0) h64.1 (i := ((0 : Nat) : Int)) (t := 0); omega)
end FLQ
