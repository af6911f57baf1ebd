set_option maxRecDepth 100000
/-! the component: what hangs -/
def lLast (y : lV × Int) (t : Int) : Int := if y.1.1.2 15 t = -1 then y.2 else y.1.1.2 15 t
def lHs (k : mS) (y : lV × Int) (t : Int) : lV × Int :=
  if k.2 1 t < 4 then (y.1, lLast y t)
  else if k.2 1 t = 4 then (lAdd (lA (lA y.1 15 t (lLast y t)) 18 (lLast y t) (y.1.1.2 18 (lLast y t))) (7 + 3 * (lLast y t).toNat) t, lLast y t)
  else (lA (lA y.1 15 t (lLast y t)) 18 (lLast y t) (y.1.1.2 18 (lLast y t) + (if k.2 1 t = 5 then k.2 2 t else 0)), lLast y t)
def hInv (k : mS) (t : Int) (n : Int) (y : lV × Int) : Prop := y.1.1.1 14 = n ∧ (0 ≤ y.2 ∧ y.2 < n) ∧ (∀ u, t ≤ u → u < k.1 0 → -1 ≤ y.1.1.2 15 u ∧ y.1.1.2 15 u < n) ∧ (∀ i, 0 ≤ i → i < n → 0 ≤ y.1.1.2 18 i ∧ y.1.1.2 18 i ≤ 4 * t) ∧ ∀ i : Nat, ((y.1.2 (7 + 3 * i)).length : Int) ≤ t
section HNG
variable {D : qD} {C : Nat → Nat} {xs : List Nat} {s : mS} {g0 : qH} {W : mW} {v : lV} {h : qH} {r : Int} {Q : Option Value → qH → Prop} {X : String → qH → Prop}
theorem lLast_bd {y : lV × Int} {t n : Int} (hI : hInv (canon s r) t n y) (h1 : t < s.1 0) : 0 ≤ lLast y t ∧ lLast y t < n := by
  obtain ⟨i1, i2, i3, i4, i5⟩ := hI
  have := i3 t (Int.le_refl _) h1
  unfold lLast
  split <;> omega
theorem hInv_step (hT : TI s) {t n : Int} (h0 : 0 ≤ t) (h1 : t < s.1 0) {y : lV × Int} (hI : hInv (canon s r) t n y) : hInv (canon s r) (t + 1) n (lHs (canon s r) y t) := by
  have hl := lLast_bd hI h1
  obtain ⟨i1, i2, i3, i4, i5⟩ := hI
  have hk := hT.tok h0 h1
  have i4l := i4 _ hl.1 hl.2
  have h15 : ∀ (v : lV) (w : Int), (∀ u, u ≠ t → v.1.2 15 u = y.1.1.2 15 u) → ∀ u, t + 1 ≤ u → u < (canon s r).1 0 → -1 ≤ v.1.2 15 u ∧ v.1.2 15 u < n := fun v w hv u a b => by
    rw [hv u (by omega)]
    exact i3 u (by omega) b
  have e15 : ∀ a u, u ≠ t → (lA (lA y.1 15 t (lLast y t)) 18 (lLast y t) a).1.2 15 u = y.1.1.2 15 u := fun a u hu => by
    simp [lA, mA, hu]
  have e18 : ∀ a i, (lA (lA y.1 15 t (lLast y t)) 18 (lLast y t) a).1.2 18 i = if i = lLast y t then a else y.1.1.2 18 i := fun a i => by
    simp [lA, mA]
  unfold lHs
  split
  · exact ⟨i1, hl, h15 y.1 0 (fun _ _ => rfl), fun i a b => by have := i4 i a b; show 0 ≤ y.1.1.2 18 i ∧ y.1.1.2 18 i ≤ 4 * (t + 1); omega, fun i => by have := i5 i; show ((y.1.2 (7 + 3 * i)).length : Int) ≤ t + 1; omega⟩
  · split
    · refine ⟨i1, hl, h15 _ 0 (fun u hu => e15 _ u hu), fun i a b => ?_, fun i => ?_⟩
      · show 0 ≤ (lA (lA y.1 15 t (lLast y t)) 18 (lLast y t) (y.1.1.2 18 (lLast y t))).1.2 18 i ∧ (lA (lA y.1 15 t (lLast y t)) 18 (lLast y t) (y.1.1.2 18 (lLast y t))).1.2 18 i ≤ 4 * (t + 1)
        rw [e18]
        have := i4 i a b
        split <;> omega
      · show (((if 7 + 3 * i = 7 + 3 * (lLast y t).toNat then y.1.2 (7 + 3 * i) ++ [t] else y.1.2 (7 + 3 * i)).length : Nat) : Int) ≤ t + 1
        have := i5 i
        split
        · rw [List.length_append]
          show (((y.1.2 (7 + 3 * i)).length + 1 : Nat) : Int) ≤ t + 1
          omega
        · omega
    · refine ⟨i1, hl, h15 _ 0 (fun u hu => e15 _ u hu), fun i a b => ?_, fun i => by have := i5 i; show ((y.1.2 (7 + 3 * i)).length : Int) ≤ t + 1; omega⟩
      show 0 ≤ (lA (lA y.1 15 t (lLast y t)) 18 (lLast y t) (y.1.1.2 18 (lLast y t) + (if s.2 1 t = 5 then s.2 2 t else 0))).1.2 18 i ∧ (lA (lA y.1 15 t (lLast y t)) 18 (lLast y t) (y.1.1.2 18 (lLast y t) + (if s.2 1 t = 5 then s.2 2 t else 0))).1.2 18 i ≤ 4 * (t + 1)
      rw [e18]
      have := i4 i a b
      have h5 := hk.2.2.2.2.2
      have h3 := hk.2.2.1
      split
      · split
        · have := h5 (by assumption)
          omega
        · omega
      · omega
theorem x_hangs (hD : q_DK D) (hP : CP C xs s g0) (hT : TI s) (hH : LH (C 0) r g0 W v h) (hn : v.1.1 14 ≤ 64) (h15 : ∀ u, 0 ≤ u → u < s.1 0 → -1 ≤ v.1.2 15 u ∧ v.1.2 15 u < v.1.1 14) (h18 : ∀ i, 0 ≤ i → i < v.1.1 14 → v.1.2 18 i = 0) (hfg : ∀ i : Nat, v.2 (7 + 3 * i) = []) (hcr : 26 * 64 + 10 ≤ h.1) {K : qH → Prop} (k9 : ∀ h', LH (C 0) r g0 W (if v.1.1 14 = 0 then v else (iter (lHs (canon s r)) (s.1 0).toNat (v, 0)).1) h' → h.1 ≤ h'.1 + 26 * 64 → K h') : recv D h (some (W.1 0)) RX5 ∧ c_V D m_X5_hangs [va_rf (some (W.1 0))] h X K := by
  have h64 := hT.1
  have hn0 := hH.1
  refine ⟨hH.lx.rc, f_X5_hangs _ h ?_⟩
  by_cases hz : v.1.1 14 = 0
  · rw [if_pos hz] at k9
    have hP' := hP.le hH.le
    have hdone : v.1.1 14 = 0 → (none : Option Value) = none ∧ K h := fun _ => ⟨rfl, k9 h hH (by omega)⟩
    exact f_X5_hangs_4 _ _ _ h (lf_this hH.lx (cp_story hP' (st_size hD hP' ⟨fun _ => hdone hz, fun _ => lf_lines hH.lx (ln_isEmpty hD hH.lx hn ⟨fun _ => hdone hz, fun w => by rw [if_pos hz] at w; exact absurd w (by decide)⟩)⟩)))
  rw [if_neg hz] at k9
  have hIn : ∀ n : Nat, (n : Int) ≤ s.1 0 → hInv (canon s r) n (v.1.1 14) (iter (lHs (canon s r)) n (v, 0)) := by
    intro n
    induction n with
    | zero =>
      intro _
      refine ⟨rfl, ⟨by show (0 : Int) ≤ 0; omega, by show 0 < v.1.1 14; omega⟩, fun u a b => h15 u a b, fun i a b => ?_, fun i => ?_⟩
      · show 0 ≤ v.1.2 18 i ∧ v.1.2 18 i ≤ 4 * ((0 : Nat) : Int)
        rw [h18 i a b]
        omega
      · show ((v.2 (7 + 3 * i)).length : Int) ≤ ((0 : Nat) : Int)
        rw [hfg i]
        exact Int.le_refl _
    | succ n ih => intro hn; exact hInv_step hT (by omega) (by omega) (ih (by omega))
  have hLp : ∀ (j n : Nat) (h' : qH), n + j = (s.1 0).toNat → LH (C 0) r g0 W (iter (lHs (canon s r)) n (v, 0)).1 h' → 26 * j ≤ h'.1 → h.1 + 26 * j ≤ h'.1 + 26 * 64 → L_X5_hangs_4 D (fun v h1 => v = none ∧ K h1) X (W.1 0) (zI (iter (lHs (canon s r)) n (v, 0)).2) (zI n) h' := by
    intro j
    induction j with
    | zero =>
      intro n h' hn9 H' c0 c1
      have hP' := hP.le H'.le
      refine f_X5_hangs_4 _ _ _ h' (lf_this H'.lx (cp_story hP' (st_size hD hP' ⟨fun w => ⟨rfl, k9 h' ?_ (by omega)⟩, fun w => ?_⟩)))
      · rw [show (s.1 0).toNat = n by omega]
        exact H'
      · rw [zI_le (by omega) (by omega) (by omega) (by omega)] at w
        omega
    | succ j ih =>
      intro n h' hn9 H' c0 c1
      have hP' := hP.le H'.le
      have ih : ∀ (h' : qH), LH (C 0) r g0 W (lHs (canon s r) (iter (lHs (canon s r)) n (v, 0)) n).1 h' → 26 * j ≤ h'.1 → h.1 + 26 * j ≤ h'.1 + 26 * 64 → L_X5_hangs_4 D (fun v h1 => v = none ∧ K h1) X (W.1 0) (zI (lHs (canon s r) (iter (lHs (canon s r)) n (v, 0)) n).2) (zI ((n : Int) + 1)) h' := fun h' => ih (n + 1) h' (by omega)
      have hI := hIn n (by omega)
      generalize iter (lHs (canon s r)) n (v, 0) = y at *
      have hl := lLast_bd hI (by omega)
      obtain ⟨i1, i2, i3, i4, i5⟩ := hI
      have i3n := i3 n (Int.le_refl _) (by show (n : Int) < s.1 0; omega)
      have hk := hT.tok (t := (n : Int)) (by omega) (by omega)
      have hk1 := hk.1
      have hk5 := hk.2.2.2.2.2
      have hk3 := hk.2.2.1
      have i4l := i4 _ hl.1 hl.2
      have h156 : ∀ (h2 : qH), L_X5_hangs_4 D (fun v h1 => v = none ∧ K h1) X (W.1 0) (zI (lLast y n)) (zI ((n : Int) + 1)) h2 → L_X5_hangs_156 D (fun v h1 => v = none ∧ K h1) X (W.1 0) (zI (lLast y n)) (zI n) h2 := fun h2 G => f_X5_hangs_156 _ _ _ h2 (by rw [zl_1, zI_add]; exact G)
      have h69 : L_X5_hangs_69 D (fun v h1 => v = none ∧ K h1) X (W.1 0) (zI n) (some (xs.getD (n : Int).toNat 0)) (zI (lLast y n)) h' := by
        refine f_X5_hangs_69 _ _ _ _ h' (tk0 hP' (by omega) (by omega) ⟨fun w => h156 h' ?_, fun w => ?_⟩)
        · rw [zl_4, zI_lt (by omega) (by omega) (by omega) (by omega)] at w
          unfold lHs at ih
          rw [if_pos (show (canon s r).2 1 n < 4 from w)] at ih
          exact ih h' H' (by omega) (by omega)
        · rw [zl_4, zI_lt (by omega) (by omega) (by omega) (by omega)] at w
          unfold lHs at ih
          rw [if_neg (show ¬ (canon s r).2 1 n < 4 from w)] at ih
          refine lf_lineOf H'.lx (LH_S H' (Or.inl ⟨rfl, rfl⟩) rfl (by omega) (by omega) rfl (fun h2 H2 c2 => lf_lines H2.lx (ln_get hD H2.lx rfl hl.1 (by show _ < y.1.1.1 14; omega) (li4 H2.lx hl.1 (by show _ < y.1.1.1 14; omega) ?_))))
          have hP2 := hP.le H2.le
          have e18 : (lA y.1 15 n (lLast y n)).1.2 18 (lLast y n) = y.1.1.2 18 (lLast y n) := by
            simp [lA, mA]
          rw [e18]
          have h118 : ∀ z : Int, z = (if s.2 1 n = 5 then s.2 2 n else 0) → L_X5_hangs_118 D (fun v h1 => v = none ∧ K h1) X (W.1 0) (zI (lLast y n)) (zI n) (some (xs.getD (n : Int).toNat 0)) (zI z) (zI (y.1.1.2 18 (lLast y n))) (some (W.1 (5 + 3 * (lLast y n).toNat))) h2 := by
            intro z hz9
            refine f_X5_hangs_118 _ _ _ _ _ _ _ h2 (LH_L H2 (Or.inr (Or.inl ⟨rfl, rfl⟩)) hl.1 (by show _ < y.1.1.1 14; omega) (by rw [zI_add]) (fun h3 H3 c3 => ?_))
            have hP3 := hP.le H3.le
            refine tk0 hP3 (by omega) (by omega) ⟨fun w4 => h156 h3 ?_, fun w4 => ?_⟩
            · rw [zl_4, zI_eq (by omega) (by omega) (by omega) (by omega)] at w4
              rw [if_neg (show ¬ (canon s r).2 1 n = 4 from w4)] at ih
              refine ih h3 ?_ (by omega) (by omega)
              subst hz9
              exact H3
            · rw [zl_4, zI_eq (by omega) (by omega) (by omega) (by omega)] at w4
              rw [if_pos (show (canon s r).2 1 n = 4 from w4)] at ih
              rw [if_neg (by omega)] at hz9
              subst hz9
              rw [Int.add_zero] at H3
              refine lf_lines H3.lx (ln_get hD H3.lx rfl hl.1 (by show _ < y.1.1.1 14; omega) (li2 H3.lx hl.1 (by show _ < y.1.1.1 14; omega) (LH_add hD H3 ⟨by omega, by omega⟩ (by show ((7 + 3 * (lLast y n).toNat : Nat) : Int) < 3 * y.1.1.1 14 + 5; omega) ⟨by omega, by omega⟩ rfl (by have := i5 (lLast y n).toNat; show (y.1.2 (7 + 3 * (lLast y n).toNat)).length ≤ 64; omega) (by omega) (fun h4 H4 c4 => h156 h4 (ih h4 H4 (by omega) (by omega))))))
          refine tk0 hP2 (by omega) (by omega) ⟨fun w5 => h118 0 ?_, fun w5 => tk1 hP2 (by omega) (by omega) (h118 _ ?_)⟩
          · rw [zl_5, zI_eq (by omega) (by omega) (by omega) (by omega)] at w5
            rw [if_neg w5]
          · rw [zl_5, zI_eq (by omega) (by omega) (by omega) (by omega)] at w5
            rw [if_pos w5]
      refine f_X5_hangs_4 _ _ _ h' (lf_this H'.lx (cp_story hP' (st_size hD hP' ⟨fun w => ?_, fun w => lf_lines H'.lx (ln_isEmpty hD H'.lx (by omega) ⟨fun w2 => ?_, fun w2 => lf_this H'.lx (cp_story hP' (st_get hD hP' rfl (by omega) (by omega) (lf_lineOf H'.lx (la15 H'.lx rfl (by omega) (by omega) ⟨fun w3 => lf_lineOf H'.lx (la15 H'.lx rfl (by omega) (by omega) ?_), fun w3 => ?_⟩))))⟩)⟩)))
      · rw [zI_le (by omega) (by omega) (by omega) (by omega)] at w
        omega
      · rw [if_neg (by omega)] at w2
        exact absurd rfl w2
      · rw [zl_m1, zI_eq (by omega) (by omega) (by omega) (by omega)] at w3
        have e9 : lLast y n = y.1.1.2 15 n := if_neg w3
        rw [e9] at h69
        exact h69
      · rw [zl_m1, zI_eq (by omega) (by omega) (by omega) (by omega)] at w3
        have e9 : lLast y n = y.2 := if_pos w3
        rw [e9] at h69
        exact h69
  exact hLp (s.1 0).toNat 0 h (by omega) hH (by omega) (by omega)
end HNG
