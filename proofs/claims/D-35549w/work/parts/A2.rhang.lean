set_option maxRecDepth 100000
/-! the component's lines are the model's, with what hangs -/
def fFg (kd g : Int → Int) (i : Int) (t : Nat) : List Int := ((List.range t).filter fun (u : Nat) => decide (kd (u : Int) = 4 ∧ g (u : Int) = i)).map fun (u : Nat) => (u : Int)
theorem fFg_succ {kd g g' : Int → Int} {i : Int} {t : Nat} (h : ∀ u : Int, 0 ≤ u → u < t → g' u = g u) : fFg kd g' i (t + 1) = if kd t = 4 ∧ g' t = i then fFg kd g i t ++ [(t : Int)] else fFg kd g i t := by
  have e : ((List.range t).filter fun (u : Nat) => decide (kd (u : Int) = 4 ∧ g' (u : Int) = i)) = (List.range t).filter fun (u : Nat) => decide (kd (u : Int) = 4 ∧ g (u : Int) = i) := by
    refine List.filter_congr fun u hu => ?_
    have := List.mem_range.mp hu
    rw [h u (by omega) (by omega)]
  unfold fFg
  rw [List.range_succ, List.filter_append, e]
  by_cases w : kd t = 4 ∧ g' t = i
  · rw [if_pos w, List.filter_cons_of_pos (by simpa using w), List.map_append]
    rfl
  · rw [if_neg w, List.filter_cons_of_neg (by simpa using w), List.filter_nil, List.append_nil]
section RHG
variable {s : mS} {r : Int}
/-- what is not printed has no line of its own -/
theorem LI3_all (hT : TI s) (hB : MB s) (hr : 0 ≤ r ∧ r < 4) : ∀ n : Nat, (n : Int) ≤ s.1 0 → ∀ u : Int, 0 ≤ u → u < n → ¬ mPrn s r u → (mLines0 s r n).1.2 15 u = -1
  | 0, _, u, h0, h1, _ => by omega
  | n + 1, hn, u, h0, h1, hp => by
    have ih := LI3_all hT hB hr n (by omega) u h0
    obtain ⟨-, i2, -⟩ := LI_all hT hB hr n (by omega)
    show (mLn r (mLines0 s r n) n).1.2 15 u = -1
    generalize mLines0 s r n = x at *
    have epr : mPrn x.1 r n ↔ mPrn s r n := mPrn_of i2 r n
    have kx : x.1.2 1 n = s.2 1 n := congrFun (told_a i2 1 (by omega)) n
    by_cases hu : u = n
    · subst hu
      have k3 : s.2 1 n ≠ 3 := fun q => hp (Or.inr (Or.inl q))
      unfold mLn
      split
      · simp [mA]
      · rw [if_neg (fun q => k3 (kx.symm.trans q)), if_neg (fun q => hp (epr.mp q))]
        simp [mA]
    · have ih := ih (by omega) hp
      have e0 : ∀ w, (mA x.1 15 n w).2 15 u = x.1.2 15 u := fun w => by simp [mA, hu]
      have e1 : ∀ (S : mS) (w : Int), (mA S 15 n w).2 15 u = S.2 15 u := fun S w => by simp [mA, hu]
      have e2 : ∀ (S : mS) (z w : Int), (mA S 21 z w).2 15 u = S.2 15 u := fun S z w => by simp [mA]
      unfold mLn
      split
      · exact (e0 _).trans ih
      split
      · show (mA (mNew (mA x.1 15 n (-1)) 1 1) 15 n (x.1.1 14)).2 15 u = -1
        rw [e1, mNew_15, e0, ih]
      split
      · split
        · show (mA (mNew (mA x.1 15 n (-1)) 0 1) 15 n (x.1.1 14)).2 15 u = -1
          rw [e1, mNew_15, e0, ih]
        · split
          · show (mA (mA x.1 15 n (-1)) 15 n (x.1.1 14 - 1)).2 15 u = -1
            rw [e1, e0, ih]
          · show (mA (mA (mNew (mA x.1 15 n (-1)) 0 0) 21 x.2.2.2 1) 15 n (x.1.1 14)).2 15 u = -1
            rw [e1, e2, mNew_15, e0, ih]
      · exact (e0 _).trans ih
def l0 : lV := ((fun _ => 0, fun k z => if (k = 15 ∨ k = 16) ∧ 0 ≤ z ∧ z < 120 then -1 else 0), fun _ => [])
theorem RL_all (hT : TI s) (hB : MB s) (hr : 0 ≤ r ∧ r < 4) : ∀ n : Nat, (n : Int) ≤ s.1 0 → RL (iter (lLn (canon s r)) n (l0, -1, 0)) (mLines0 s r n) n
  | 0, _ => by
    refine ⟨rfl, fun u a b => by omega, fun u a b => ?_, fun i a b => by have b : i < 0 := b; omega, Or.inl ⟨rfl, rfl, rfl⟩, fun i hi => by have hi : (i : Int) < 0 := hi; omega, fun _ => rfl, rfl, rfl, fun u a b => ?_⟩
    · show (if (15 = 15 ∨ 15 = 16) ∧ 0 ≤ u ∧ u < 120 then (-1 : Int) else 0) = -1
      rw [if_pos ⟨Or.inl rfl, by omega, b⟩]
    · show (if (16 = 15 ∨ 16 = 16) ∧ 0 ≤ u ∧ u < 120 then (-1 : Int) else 0) = -1
      rw [if_pos ⟨Or.inr rfl, a, b⟩]
  | n + 1, hn => RL_step hT (by omega) (LI_all hT hB hr n (by omega)) (RL_all hT hB hr n (by omega))
/-- between the component's lines and the model's, with what hangs -/
def R1 (s : mS) (v : lV) (x : mS) : Prop :=
  v.1.1 14 = x.1 14 ∧ (∀ u : Int, 0 ≤ u → u < s.1 0 → v.1.2 15 u = x.2 15 u) ∧ (∀ i, 0 ≤ i → i < x.1 14 → v.1.2 18 i = x.2 18 i ∧ v.1.2 19 i = x.2 19 i ∧ v.1.2 21 i = x.2 21 i) ∧
  (∀ i : Nat, (i : Int) < x.1 14 → v.2 (6 + 3 * i) = (mOn x i (s.1 0).toNat).map fun (u : Nat) => (u : Int)) ∧ (∀ i : Nat, (i : Int) < x.1 14 → v.2 (7 + 3 * i) = fFg (s.2 1) (x.2 15) i (s.1 0).toNat) ∧ v.2 4 = [] ∧ v.1.1 22 = 0 ∧ ∀ u : Int, 0 ≤ u → u < 120 → v.1.2 16 u = -1
def RH (s : mS) (v1 : lV) (n : Int) (y : lV × Int) (x : mS × Int) (t : Nat) : Prop :=
  y.2 = x.2 ∧ y.1.1.1 = v1.1.1 ∧ (∀ u : Int, 0 ≤ u → u < s.1 0 → y.1.1.2 15 u = x.1.2 15 u) ∧ (∀ i, 0 ≤ i → i < n → y.1.1.2 18 i = x.1.2 18 i) ∧ (∀ k, k ≠ 15 → k ≠ 18 → y.1.1.2 k = v1.1.2 k) ∧ (∀ i : Nat, (i : Int) < n → y.1.2 (7 + 3 * i) = fFg (s.2 1) (x.1.2 15) i t) ∧ ∀ j, (∀ i : Nat, j ≠ 7 + 3 * i) → y.1.2 j = v1.2 j
theorem RH_step (hT : TI s) {s1 : mS} (h1 : told s1 = told s) {v1 : lV} {t : Nat} (ht : (t : Int) < s.1 0) (hn : 0 < s1.1 14) (hng : ∀ u : Int, 0 ≤ u → u < s.1 0 → ¬ mPrn s r u → s1.2 15 u = -1) {y : lV × Int} {x : mS × Int} (hI : HI s1 t x) (h : RH s v1 (s1.1 14) y x t) : RH s v1 (s1.1 14) (lHs (canon s r) y t) (mHs x t) (t + 1) := by
  obtain ⟨i1, i2, i3, i4, i5, i6, i7, i8⟩ := hI
  obtain ⟨a1, a2, a3, a4, a5, a6, a7⟩ := h
  have hk := hT.tok (t := (t : Int)) (by omega) ht
  have kx : x.1.2 1 t = s.2 1 t := by rw [i3 1 (by omega) (by omega), told_a h1 1 (by omega)]
  have nx : x.1.2 2 t = s.2 2 t := by rw [i3 2 (by omega) (by omega), told_a h1 2 (by omega)]
  have ck : (canon s r).2 1 t = s.2 1 t := rfl
  have cn : (canon s r).2 2 t = s.2 2 t := rfl
  have hg : mHg x.1 t ↔ 4 ≤ s.2 1 t := by
    unfold mHg
    rw [kx]
    have := hk.1
    omega
  by_cases w : s.2 1 t < 4
  · have e1 : lHs (canon s r) y t = (y.1, lLast y t) := if_pos (by rw [ck]; exact w)
    have e2 : mHs x t = (x.1, if x.1.2 15 t = -1 then x.2 else x.1.2 15 t) := if_neg (by rw [hg]; omega)
    rw [e1, e2]
    refine ⟨?_, a2, a3, a4, a5, fun i hi => ?_, a7⟩
    · show lLast y t = if x.1.2 15 t = -1 then x.2 else x.1.2 15 t
      unfold lLast
      rw [a3 t (by omega) ht, a1]
    · rw [fFg_succ (g := x.1.2 15) (fun _ _ _ => rfl), if_neg (by omega)]
      exact a6 i hi
  · have hp : ¬ mPrn s r t := by unfold mPrn; omega
    have h15 : x.1.2 15 t = -1 := by rw [i6 t (Int.le_refl _)]; exact hng t (by omega) ht hp
    have hll : lLast y t = x.2 := by
      unfold lLast
      rw [a3 t (by omega) ht, if_pos h15, a1]
    have h20 := i5 hn
    have e15 : ∀ u, (mA x.1 15 t x.2).2 15 u = if u = t then x.2 else x.1.2 15 u := fun u => by simp [mA]
    have e15' : ∀ z u, (mA (mA x.1 15 t x.2) 18 x.2 z).2 15 u = if u = t then x.2 else x.1.2 15 u := fun z u => by simp [mA]
    have y15 : ∀ z u, (lA (lA y.1 15 t x.2) 18 x.2 z).1.2 15 u = if u = t then x.2 else y.1.1.2 15 u := fun z u => by simp [lA, mA]
    have y18 : ∀ z i, (lA (lA y.1 15 t x.2) 18 x.2 z).1.2 18 i = if i = x.2 then z else y.1.1.2 18 i := fun z i => by simp [lA, mA]
    have yo : ∀ z k, k ≠ 15 → k ≠ 18 → (lA (lA y.1 15 t x.2) 18 x.2 z).1.2 k = y.1.1.2 k := fun z k h1 h2 => by funext u; simp [lA, mA, h1, h2]
    by_cases w4 : s.2 1 t = 4
    · have e1 : lHs (canon s r) y t = (lAdd (lA (lA y.1 15 t x.2) 18 x.2 (y.1.1.2 18 x.2)) (7 + 3 * x.2.toNat) t, x.2) := by
        unfold lHs
        rw [if_neg (by rw [ck]; exact w), if_pos (by rw [ck]; exact w4), hll]
      have e2 : mHs x t = (mA x.1 15 t x.2, x.2) := by
        unfold mHs
        rw [if_pos (hg.mpr (by omega)), if_neg (fun q => by omega)]
      rw [e1, e2]
      refine ⟨rfl, a2, fun u b0 b1 => ?_, fun i b0 b1 => ?_, fun k h1 h2 => (yo _ k h1 h2).trans (a5 k h1 h2), fun i hi => ?_, fun j hj => ?_⟩
      · show (lA (lA y.1 15 t x.2) 18 x.2 (y.1.1.2 18 x.2)).1.2 15 u = (mA x.1 15 t x.2).2 15 u
        rw [y15, e15, a3 u b0 b1]
      · show (lA (lA y.1 15 t x.2) 18 x.2 (y.1.1.2 18 x.2)).1.2 18 i = (mA x.1 15 t x.2).2 18 i
        have : (mA x.1 15 t x.2).2 18 i = x.1.2 18 i := by simp [mA]
        rw [y18, this, ← a4 i b0 b1]
        by_cases hi : i = x.2
        · rw [if_pos hi, hi]
        · rw [if_neg hi]
      · show (if 7 + 3 * i = 7 + 3 * x.2.toNat then y.1.2 (7 + 3 * i) ++ [(t : Int)] else y.1.2 (7 + 3 * i)) = fFg (s.2 1) ((mA x.1 15 t x.2).2 15) i (t + 1)
        rw [fFg_succ (g := x.1.2 15) (fun u c0 c1 => by rw [e15, if_neg (by omega)]), e15, if_pos rfl, a6 i hi]
        by_cases hin : (i : Int) = x.2
        · rw [if_pos (by omega), if_pos ⟨w4, hin.symm⟩]
        · rw [if_neg (by omega), if_neg (fun q => hin q.2.symm)]
      · show (if j = 7 + 3 * x.2.toNat then y.1.2 j ++ [(t : Int)] else y.1.2 j) = v1.2 j
        rw [if_neg (hj _)]
        exact a7 j hj
    · have e1 : lHs (canon s r) y t = (lA (lA y.1 15 t x.2) 18 x.2 (y.1.1.2 18 x.2 + (if s.2 1 t = 5 then s.2 2 t else 0)), x.2) := by
        unfold lHs
        rw [if_neg (by rw [ck]; exact w), if_neg (by rw [ck]; exact w4), hll]
        rfl
      rw [e1]
      have hfig : ∀ i : Nat, (i : Int) < s1.1 14 → ∀ S : mS, (∀ u, S.2 15 u = if u = t then x.2 else x.1.2 15 u) → y.1.2 (7 + 3 * i) = fFg (s.2 1) (S.2 15) i (t + 1) := fun i hi S hS => by
        rw [fFg_succ (g := x.1.2 15) (fun u c0 c1 => by rw [hS, if_neg (by omega)]), if_neg (fun q => w4 q.1)]
        exact a6 i hi
      by_cases w5 : s.2 1 t = 5
      · have e2 : mHs x t = (mA (mA x.1 15 t x.2) 18 x.2 (x.1.2 18 x.2 + x.1.2 2 t), x.2) := by
          unfold mHs
          rw [if_pos (hg.mpr (by omega)), if_pos ⟨by rw [kx]; exact w5, by omega⟩]
        rw [e2]
        refine ⟨rfl, a2, fun u b0 b1 => ?_, fun i b0 b1 => ?_, fun k h1 h2 => (yo _ k h1 h2).trans (a5 k h1 h2), fun i hi => hfig i hi _ (e15' _), a7⟩
        · show (lA (lA y.1 15 t x.2) 18 x.2 (y.1.1.2 18 x.2 + (if s.2 1 t = 5 then s.2 2 t else 0))).1.2 15 u = (mA (mA x.1 15 t x.2) 18 x.2 (x.1.2 18 x.2 + x.1.2 2 t)).2 15 u
          rw [y15, e15', a3 u b0 b1]
        · show (lA (lA y.1 15 t x.2) 18 x.2 (y.1.1.2 18 x.2 + (if s.2 1 t = 5 then s.2 2 t else 0))).1.2 18 i = (mA (mA x.1 15 t x.2) 18 x.2 (x.1.2 18 x.2 + x.1.2 2 t)).2 18 i
          have : (mA (mA x.1 15 t x.2) 18 x.2 (x.1.2 18 x.2 + x.1.2 2 t)).2 18 i = if i = x.2 then x.1.2 18 x.2 + x.1.2 2 t else x.1.2 18 i := by simp [mA]
          rw [y18, this, if_pos w5, nx, a4 i b0 b1, a4 x.2 h20 i4.2]
      · have e2 : mHs x t = (mA x.1 15 t x.2, x.2) := by
          unfold mHs
          rw [if_pos (hg.mpr (by omega)), if_neg (fun q => w5 (kx.symm.trans q.1))]
        rw [e2]
        refine ⟨rfl, a2, fun u b0 b1 => ?_, fun i b0 b1 => ?_, fun k h1 h2 => (yo _ k h1 h2).trans (a5 k h1 h2), fun i hi => hfig i hi _ e15, a7⟩
        · show (lA (lA y.1 15 t x.2) 18 x.2 (y.1.1.2 18 x.2 + (if s.2 1 t = 5 then s.2 2 t else 0))).1.2 15 u = (mA x.1 15 t x.2).2 15 u
          rw [y15, e15, a3 u b0 b1]
        · show (lA (lA y.1 15 t x.2) 18 x.2 (y.1.1.2 18 x.2 + (if s.2 1 t = 5 then s.2 2 t else 0))).1.2 18 i = (mA x.1 15 t x.2).2 18 i
          have : (mA x.1 15 t x.2).2 18 i = x.1.2 18 i := by simp [mA]
          rw [y18, this, ← a4 i b0 b1, if_neg w5]
          by_cases hi : i = x.2
          · rw [if_pos hi, hi, Int.add_zero]
          · rw [if_neg hi]
theorem HG_keep {s1 : mS} (hT : TI s1) (hB : MB s1) (h64 : 0 ≤ s1.1 14 ∧ s1.1 14 ≤ 64) (hl : ∀ t, 0 ≤ t → t < s1.1 0 → -1 ≤ s1.2 15 t ∧ s1.2 15 t < s1.1 14) (hn0 : ∀ i, 0 ≤ i → i < s1.1 14 → s1.2 18 i = 0) : ∀ n : Nat, (n : Int) ≤ s1.1 0 → ∀ u : Int, 0 ≤ u → u < s1.1 0 → s1.2 1 u < 4 → (mHang0 s1 n).1.2 15 u = s1.2 15 u
  | 0, _, u, _, _, _ => rfl
  | n + 1, hn, u, h0, h1, hk => by
    have ih := HG_keep hT hB h64 hl hn0 n (by omega) u h0 h1 hk
    obtain ⟨-, -, i3, -⟩ := HI_all hT hB h64 hl hn0 n (by omega)
    show (mHs (mHang0 s1 n) n).1.2 15 u = s1.2 15 u
    generalize mHang0 s1 n = x at *
    unfold mHs
    split
    · next hg =>
      have hu : u ≠ n := fun q => by
        subst q
        unfold mHg at hg
        rw [i3 1 (by omega) (by omega)] at hg
        omega
      split
      · rw [← ih]
        simp [mA, hu]
      · rw [← ih]
        simp [mA, hu]
    · exact ih
/-- the component's lines -/
def lV1 (s : mS) (r : Int) : lV := (iter (lLn (canon s r)) (s.1 0).toNat (l0, -1, 0)).1
def lV2 (s : mS) (r : Int) : lV := if (lV1 s r).1.1 14 = 0 then lV1 s r else (iter (lHs (canon s r)) (s.1 0).toNat (lV1 s r, 0)).1
theorem R1_lay (hT : TI s) (hB : MB s) (hr : 0 ≤ r ∧ r < 4) : R1 s (lV2 s r) (mLay1 s r) := by
  have h64 := hT.1
  have hM : (((s.1 0).toNat : Nat) : Int) = s.1 0 := Int.toNat_of_nonneg h64.1
  have hRL := RL_all hT hB hr (s.1 0).toNat (by omega)
  obtain ⟨i1, i2, i3, i4, i5, i6, i7⟩ := LI_all hT hB hr (s.1 0).toNat (by omega)
  obtain ⟨j1, -⟩ := LI2_all hT hB hr (s.1 0).toNat (by omega)
  have hng := LI3_all hT hB hr (s.1 0).toNat (by omega)
  have hA := L1_lay hT hB hr
  have hH := hA.2
  have e14x : (mLay1 s r).1 14 = (mLines0 s r (s.1 0).toNat).1.1 14 := congrFun hH.2.1 14
  rw [hM] at i3 i7 hng
  have hgoal : R1 s (lV2 s r) (mLay1 s r) := by
    unfold lV2 lV1 mLay1 at *
    generalize mLines0 s r (s.1 0).toNat = x1 at *
    generalize iter (lLn (canon s r)) (s.1 0).toNat (l0, -1, 0) = y1 at *
    obtain ⟨a1, a2, a3, a4, a5, a6, a7, a8, a9, a10⟩ := hRL
    rw [hM] at a2
    have hT1 := hT.of i2.symm
    have e0 : x1.1.1 0 = s.1 0 := told_f i2 0 (by simp)
    have hHI := HI_all hT1 i1 ⟨i3.1, by omega⟩ (fun t a b => i7 t a (by omega)) (fun i a b => (j1 i a b).1)
    have hOn : ∀ (X : mS) (i : Nat), (∀ u : Int, 0 ≤ u → u < s.1 0 → s.2 1 u < 4 → X.2 15 u = x1.1.2 15 u) → X.2 1 = s.2 1 → (mOn X i (s.1 0).toNat).map (fun (u : Nat) => (u : Int)) = fOn (x1.1.2 15) i (s.1 0).toNat := by
      intro X i hX hX1
      unfold mOn fOn
      congr 1
      refine List.filter_congr fun u hu => ?_
      have hu := List.mem_range.mp hu
      apply decide_eq_decide.mpr
      have hk := (hT.tok (t := (u : Int)) (by omega) (by omega)).1
      have hgX : mHg X u ↔ 4 ≤ s.2 1 u := by
        unfold mHg
        rw [hX1]
        omega
      by_cases hp : s.2 1 u < 4
      · rw [hX u (by omega) (by omega) hp]
        exact ⟨fun q => q.1, fun q => ⟨q, fun q2 => by have := hgX.mp q2; omega⟩⟩
      · have h15 := hng u (by omega) (by omega) (by unfold mPrn; omega)
        rw [h15]
        constructor
        · rintro ⟨q, q2⟩
          exact absurd (hgX.mpr (by omega)) q2
        · intro q
          omega
    have hkp := HG_keep hT1 i1 (by omega) (fun t a b => i7 t a (by omega)) (fun i a b => (j1 i a b).1)
    have hX15 : ∀ u : Int, 0 ≤ u → u < s.1 0 → s.2 1 u < 4 → (mHang0 x1.1 (s.1 0).toNat).1.2 15 u = x1.1.2 15 u := fun u b0 b1 b2 => hkp (s.1 0).toNat (by omega) u b0 (by omega) (by rw [told_a i2 1 (by omega)]; exact b2)
    have hX1 : (mHang0 x1.1 (s.1 0).toNat).1.2 1 = s.2 1 := by rw [hH.2.2.1 1 (by omega) (by omega), told_a i2 1 (by omega)]
    by_cases hz : y1.1.1.1 14 = 0
    · rw [if_pos hz]
      have hzx : x1.1.1 14 = 0 := by omega
      refine ⟨by rw [e14x]; exact a1, fun u b0 b1 => ?_, fun i b0 b1 => by omega, fun i hi => by omega, fun i hi => by omega, a8, a9, a10⟩
      have c1 := i7 u b0 (by omega)
      have c2 := hA.1.2.2.2.1 u b0 (by omega)
      rw [a2 u b0 (by omega)]
      omega
    · rw [if_neg hz]
      have hp0 : 0 < x1.1.1 14 := by omega
      have hR : ∀ n : Nat, (n : Int) ≤ s.1 0 → RH s y1.1 (x1.1.1 14) (iter (lHs (canon s r)) n (y1.1, 0)) (mHang0 x1.1 n) n := by
        intro n
        induction n with
        | zero =>
          intro _
          refine ⟨?_, rfl, fun u b0 b1 => a2 u b0 (by omega), fun i b0 b1 => ?_, fun _ _ _ => rfl, fun i hi => a7 i, fun _ _ => rfl⟩
          · show (0 : Int) = if x1.1.1 14 = 0 then -1 else 0
            rw [if_neg (by omega)]
          · show y1.1.1.2 18 i = x1.1.2 18 i
            rw [(a4 i b0 b1).2.2, (j1 i b0 b1).1]
        | succ n ih =>
          intro hn
          exact RH_step hT i2 (by omega) hp0 (fun u b0 b1 b2 => hng u b0 (by omega) b2) (hHI n (by omega)) (ih (by omega))
      obtain ⟨r1, r2, r3, r4, r5, r6, r7⟩ := hR (s.1 0).toNat (by omega)
      refine ⟨?_, r3, fun i b0 b1 => ⟨r4 i b0 (by omega), ?_, ?_⟩, fun i hi => ?_, fun i hi => r6 i (by omega), ?_, ?_, fun u b0 b1 => ?_⟩
      · rw [e14x, ← a1]
        exact congrFun r2 14
      · rw [r5 19 (by omega) (by omega), hH.2.2.1 19 (by omega) (by omega)]
        exact (a4 i b0 (by omega)).1
      · rw [r5 21 (by omega) (by omega), hH.2.2.1 21 (by omega) (by omega)]
        exact (a4 i b0 (by omega)).2.1
      · rw [r7 _ (fun _ => by omega), a6 i (by omega)]
        exact (hOn _ i hX15 hX1).symm
      · rw [r7 4 (fun _ => by omega)]
        exact a8
      · exact (congrFun r2 22).trans a9
      · rw [r5 16 (by omega) (by omega)]
        exact a10 u b0 b1
  exact hgoal
end RHG
