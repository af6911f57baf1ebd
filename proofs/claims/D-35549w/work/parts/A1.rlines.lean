set_option maxRecDepth 100000
/-! the component's lines are the model's -/
def fOn (g : Int → Int) (i : Int) (t : Nat) : List Int := ((List.range t).filter fun (u : Nat) => decide (g (u : Int) = i)).map fun (u : Nat) => (u : Int)
theorem fOn_succ {g g' : Int → Int} {i : Int} {t : Nat} (h : ∀ u : Int, 0 ≤ u → u < t → g' u = g u) : fOn g' i (t + 1) = if g' t = i then fOn g i t ++ [(t : Int)] else fOn g i t := by
  have e : ((List.range t).filter fun (u : Nat) => decide (g' (u : Int) = i)) = (List.range t).filter fun (u : Nat) => decide (g (u : Int) = i) := by
    refine List.filter_congr fun u hu => ?_
    have := List.mem_range.mp hu
    rw [h u (by omega) (by omega)]
  unfold fOn
  rw [List.range_succ, List.filter_append, e]
  by_cases w : g' t = i
  · rw [if_pos w, List.filter_cons_of_pos (by simpa using w), List.map_append]
    rfl
  · rw [if_neg w, List.filter_cons_of_neg (by simpa using w), List.filter_nil, List.append_nil]
theorem fOn_none {g : Int → Int} {i : Int} {t : Nat} (h : ∀ u : Int, 0 ≤ u → u < t → g u ≠ i) : fOn g i t = [] := by
  unfold fOn
  rw [List.filter_eq_nil_iff.mpr]
  · rfl
  · intro u hu
    have := List.mem_range.mp hu
    simpa using h u (by omega) (by omega)
def RL (y : lV × Int × Int) (x : mL) (t : Nat) : Prop :=
  y.1.1.1 14 = x.1.1 14 ∧ (∀ u : Int, 0 ≤ u → u < t → y.1.1.2 15 u = x.1.2 15 u) ∧ (∀ u : Int, (t : Int) ≤ u → u < 120 → y.1.1.2 15 u = -1) ∧
  (∀ i, 0 ≤ i → i < x.1.1 14 → y.1.1.2 19 i = x.1.2 19 i ∧ y.1.1.2 21 i = x.1.2 21 i ∧ y.1.1.2 18 i = 0) ∧
  ((x.2.2.1 = 0 ∧ y.2.1 = -1 ∧ y.2.2 = 0) ∨ (x.2.2.1 = 1 ∧ y.2.1 = x.1.1 14 - 1 ∧ 0 ≤ x.2.2.2 ∧ x.2.2.2 < x.1.1 14 ∧ y.1.1.2 38 y.2.1 = x.2.1 ∧ y.2.2 = x.1.1 14 - x.2.2.2 ∧ (2 ≤ y.2.2 → x.1.2 21 x.2.2.2 = 1))) ∧
  (∀ i : Nat, (i : Int) < x.1.1 14 → y.1.2 (6 + 3 * i) = fOn (x.1.2 15) i t) ∧ (∀ i : Nat, y.1.2 (7 + 3 * i) = []) ∧ y.1.2 4 = [] ∧ y.1.1.1 22 = 0 ∧ ∀ u, 0 ≤ u → u < 120 → y.1.1.2 16 u = -1
section RLS
variable {s : mS} {r : Int}
theorem lNew_19 {v : lV} {a b i : Int} : (lNew v a b).1.2 19 i = if i = v.1.1 14 then a else v.1.2 19 i := by unfold lNew; simp [mF, mA]
theorem lNew_21 {v : lV} {a b i : Int} : (lNew v a b).1.2 21 i = if i = v.1.1 14 then 0 else v.1.2 21 i := by unfold lNew; simp [mF, mA]
theorem lNew_18 {v : lV} {a b i : Int} : (lNew v a b).1.2 18 i = if i = v.1.1 14 then 0 else v.1.2 18 i := by unfold lNew; simp [mF, mA]
theorem lNew_o {v : lV} {a b : Int} {k : Nat} (hk : k ≠ 19 ∧ k ≠ 38 ∧ k ≠ 18 ∧ k ≠ 21 ∧ k ≠ 17) : (lNew v a b).1.2 k = v.1.2 k := by
  unfold lNew
  funext z
  simp [mF, mA, hk]
theorem lPut_15 {v : lV} {o t u : Int} : (lPut v o t).1.2 15 u = if u = t then v.1.1 14 - 1 else v.1.2 15 u := by unfold lPut lA lAdd; simp [mA]
theorem lPut_o {v : lV} {o t : Int} {k : Nat} (hk : k ≠ 15) : (lPut v o t).1.2 k = v.1.2 k := by
  unfold lPut lA lAdd
  funext z
  simp [mA, hk]
theorem mNew_14 {s : mS} {a b : Int} : (mNew s a b).1 14 = s.1 14 + 1 := by unfold mNew; simp [mF, mA]
theorem mNew_19 {s : mS} {a b i : Int} : (mNew s a b).2 19 i = if i = s.1 14 then a else s.2 19 i := by unfold mNew; simp [mF, mA]
theorem mNew_21 {s : mS} {a b i : Int} : (mNew s a b).2 21 i = if i = s.1 14 then 0 else s.2 21 i := by unfold mNew; simp [mF, mA]
theorem mNew_15 {s : mS} {a b : Int} : (mNew s a b).2 15 = s.2 15 := by
  unfold mNew
  funext z
  simp [mF, mA]
/-- a new line, on both sides -/
theorem RL_new {y : lV × Int × Int} {x : mL} {t : Nat} (h : RL y x t) (ht : (t : Int) < 120) (hx15 : ∀ u : Int, 0 ≤ u → u < t → x.1.2 15 u < x.1.1 14) (h14 : 0 ≤ x.1.1 14) {v : lV} {w hd o f ux bx : Int} {x1 : mS} (hv14 : v.1.1 14 = y.1.1.1 14) (hv15 : v.1.2 15 = y.1.1.2 15) (hv16 : v.1.2 16 = y.1.1.2 16) (hv22 : v.1.1 22 = y.1.1.1 22) (hvl : v.2 = y.1.2) (hv : ∀ i, 0 ≤ i → i < x.1.1 14 → v.1.2 19 i = x1.2 19 i ∧ v.1.2 21 i = x1.2 21 i ∧ v.1.2 18 i = 0)
    (h1a : x1.1 14 = x.1.1 14 + 1) (h1b : ∀ u : Int, 0 ≤ u → u < t → x1.2 15 u = x.1.2 15 u) (h1c : x1.2 15 t = x.1.1 14) (h1d : x1.2 19 (x.1.1 14) = hd ∧ x1.2 21 (x.1.1 14) = 0) {op : Int} (hop : (op = 0 ∧ o = -1 ∧ f = 0) ∨ (op = 1 ∧ o = x.1.1 14 ∧ 0 ≤ bx ∧ bx ≤ x.1.1 14 ∧ ux = w ∧ f = x.1.1 14 + 1 - bx ∧ (2 ≤ f → x1.2 21 bx = 1))) : RL (lPut (lNew v hd w) (y.1.1.1 14) t, o, f) (x1, ux, op, bx) (t + 1) := by
  obtain ⟨a1, a2, a3, a4, a5, a6, a7, a8, a9, a10⟩ := h
  have e14 : (lPut (lNew v hd w) (y.1.1.1 14) t).1.1 14 = x.1.1 14 + 1 := by rw [lPut_14, lNew_14, hv14, a1]
  have hlist : ∀ j : Nat, (lPut (lNew v hd w) (y.1.1.1 14) t).2 j = if j = 6 + 3 * (x.1.1 14).toNat then [(t : Int)] else if j = 7 + 3 * (x.1.1 14).toNat then [] else y.1.2 j := by
    intro j
    show (if j = 6 + 3 * (y.1.1.1 14).toNat then (lNew v hd w).2 j ++ [(t : Int)] else (lNew v hd w).2 j) = _
    have e2 : (lNew v hd w).2 j = if j = 6 + 3 * (x.1.1 14).toNat ∨ j = 7 + 3 * (x.1.1 14).toNat then [] else y.1.2 j := by
      show (if j = 6 + 3 * (v.1.1 14).toNat ∨ j = 7 + 3 * (v.1.1 14).toNat then [] else v.2 j) = _
      rw [hv14, a1, hvl]
    rw [e2, a1]
    by_cases w1 : j = 6 + 3 * (x.1.1 14).toNat
    · rw [if_pos w1, if_pos w1, if_pos (Or.inl w1)]
      rfl
    · rw [if_neg w1, if_neg w1]
      by_cases w2 : j = 7 + 3 * (x.1.1 14).toNat
      · rw [if_pos w2, if_pos (Or.inr w2)]
      · rw [if_neg w2, if_neg (fun q => q.elim w1 w2)]
  refine ⟨by rw [e14]; exact h1a.symm, fun u b0 b1 => ?_, fun u b0 b1 => ?_, fun i b0 b1 => ?_, ?_, fun i hi => ?_, fun i => ?_, ?_, ?_, fun u b0 b1 => ?_⟩
  · show (lPut (lNew v hd w) (y.1.1.1 14) t).1.2 15 u = x1.2 15 u
    rw [lPut_15]
    by_cases hu : u = t
    · rw [if_pos hu, lNew_14, hv14, a1, hu, h1c]
      omega
    · rw [if_neg hu, lNew_o (by omega), hv15, h1b u b0 (by omega)]
      exact a2 u b0 (by omega)
  · show (lPut (lNew v hd w) (y.1.1.1 14) t).1.2 15 u = -1
    rw [lPut_15, if_neg (by omega), lNew_o (by omega), hv15]
    exact a3 u (by omega) b1
  · have b1 : i < x1.1 14 := b1
    show (lPut (lNew v hd w) (y.1.1.1 14) t).1.2 19 i = x1.2 19 i ∧ (lPut (lNew v hd w) (y.1.1.1 14) t).1.2 21 i = x1.2 21 i ∧ (lPut (lNew v hd w) (y.1.1.1 14) t).1.2 18 i = 0
    rw [lPut_o (by omega), lPut_o (by omega), lPut_o (by omega), lNew_19, lNew_21, lNew_18, hv14, a1]
    by_cases hi : i = x.1.1 14
    · rw [if_pos hi, if_pos hi, if_pos hi, hi]
      exact ⟨h1d.1.symm, h1d.2.symm, rfl⟩
    · rw [if_neg hi, if_neg hi, if_neg hi]
      exact hv i b0 (by omega)
  · rcases hop with ⟨q1, q2, q3⟩ | ⟨q1, q2, q3, q4, q5, q6, q7⟩
    · exact Or.inl ⟨q1, q2, q3⟩
    · refine Or.inr ⟨q1, ?_, q3, ?_, ?_, ?_, q7⟩
      · show o = x1.1 14 - 1
        omega
      · show bx < x1.1 14
        omega
      · show (lPut (lNew v hd w) (y.1.1.1 14) t).1.2 38 o = ux
        rw [lPut_38, lNew_38, hv14, a1, if_pos q2, q5]
      · show f = x1.1 14 - bx
        omega
  · have hi : (i : Int) < x1.1 14 := hi
    show (lPut (lNew v hd w) (y.1.1.1 14) t).2 (6 + 3 * i) = fOn (x1.2 15) i (t + 1)
    rw [hlist, fOn_succ h1b, h1c]
    by_cases hin : (i : Int) = x.1.1 14
    · rw [if_pos (by omega), if_pos hin.symm, fOn_none (fun u c0 c1 => by have := hx15 u c0 c1; omega)]
      rfl
    · rw [if_neg (by omega), if_neg (by omega), if_neg (fun q => hin q.symm)]
      exact a6 i (by omega)
  · show (lPut (lNew v hd w) (y.1.1.1 14) t).2 (7 + 3 * i) = []
    rw [hlist, if_neg (by omega)]
    split
    · rfl
    · exact a7 i
  · show (lPut (lNew v hd w) (y.1.1.1 14) t).2 4 = []
    rw [hlist, if_neg (by omega), if_neg (by omega)]
    exact a8
  · show (lNew v hd w).1.1 22 = 0
    rw [← a9, ← hv22]
    unfold lNew
    simp [mF, mA]
  · show (lPut (lNew v hd w) (y.1.1.1 14) t).1.2 16 u = -1
    rw [lPut_o (by omega), lNew_o (by omega), hv16]
    exact a10 u b0 b1
/-- no line, on both sides -/
theorem RL_none {y : lV × Int × Int} {x : mL} {t : Nat} (h : RL y x t) (ht : (t : Int) < 120) (h14 : 0 ≤ x.1.1 14) {o f op : Int} (hop : (op = 0 ∧ o = -1 ∧ f = 0) ∨ (op = x.2.2.1 ∧ o = y.2.1 ∧ f = y.2.2)) : RL (y.1, o, f) (mA x.1 15 t (-1), x.2.1, op, x.2.2.2) (t + 1) := by
  obtain ⟨a1, a2, a3, a4, a5, a6, a7, a8, a9, a10⟩ := h
  have e15 : ∀ u, (mA x.1 15 t (-1)).2 15 u = if u = t then -1 else x.1.2 15 u := fun u => by simp [mA]
  have eo : ∀ k, k ≠ 15 → (mA x.1 15 t (-1)).2 k = x.1.2 k := fun k hk => by funext z; simp [mA, hk]
  refine ⟨a1, fun u b0 b1 => ?_, fun u b0 b1 => a3 u (by omega) b1, fun i b0 b1 => ?_, ?_, fun i hi => ?_, a7, a8, a9, a10⟩
  · show y.1.1.2 15 u = (mA x.1 15 t (-1)).2 15 u
    rw [e15]
    by_cases hu : u = t
    · rw [if_pos hu, hu]
      exact a3 t (Int.le_refl _) ht
    · rw [if_neg hu]
      exact a2 u b0 (by omega)
  · show y.1.1.2 19 i = (mA x.1 15 t (-1)).2 19 i ∧ y.1.1.2 21 i = (mA x.1 15 t (-1)).2 21 i ∧ y.1.1.2 18 i = 0
    rw [eo 19 (by omega), eo 21 (by omega)]
    exact a4 i b0 b1
  · rcases hop with q | ⟨q1, q2, q3⟩
    · exact Or.inl q
    · subst q1
      subst q2
      subst q3
      show (x.2.2.1 = 0 ∧ y.2.1 = -1 ∧ y.2.2 = 0) ∨ (x.2.2.1 = 1 ∧ y.2.1 = x.1.1 14 - 1 ∧ 0 ≤ x.2.2.2 ∧ x.2.2.2 < x.1.1 14 ∧ y.1.1.2 38 y.2.1 = x.2.1 ∧ y.2.2 = x.1.1 14 - x.2.2.2 ∧ (2 ≤ y.2.2 → (mA x.1 15 t (-1)).2 21 x.2.2.2 = 1))
      rw [eo 21 (by omega)]
      exact a5
  · show y.1.2 (6 + 3 * i) = fOn ((mA x.1 15 t (-1)).2 15) i (t + 1)
    rw [fOn_succ (g := x.1.2 15) (fun u c0 c1 => by rw [e15, if_neg (by omega)]), e15, if_pos rfl, if_neg (by omega)]
    exact a6 i hi
theorem RL_step (hT : TI s) {t : Nat} (h1 : (t : Int) < s.1 0) {y : lV × Int × Int} {x : mL} (hI : LI s t x) (h : RL y x t) : RL (lLn (canon s r) y t) (mLn r x t) (t + 1) := by
  obtain ⟨-, i2, i3, -, i5, -, i7⟩ := hI
  have h64 := hT.1
  have hk : ∀ k, (k = 1 ∨ k = 2 ∨ k = 3 ∨ k = 7) → x.1.2 k = s.2 k := fun k hk => told_a i2 k (by omega)
  have e8 : x.1.1 8 = s.1 8 := told_f i2 8 (by simp)
  have ewd : mWide x.1 r t = mWide s r t := mWide_of i2 r t
  have epr : mPrn x.1 r t ↔ mPrn s r t := mPrn_of i2 r t
  have cwd : mWide (canon s r) 0 t = mWide s r t := canon_wide hT (by omega) h1
  have cpr : mPrn (canon s r) 0 t ↔ mPrn s r t := canon_prn hT (by omega) h1
  have ck : (canon s r).2 1 t = s.2 1 t := rfl
  have c8 : (canon s r).1 8 = s.1 8 := rfl
  have h9 := h
  obtain ⟨a1, a2, a3, a4, a5, a6, a7, a8, a9, a10⟩ := h9
  have hx15 : ∀ u : Int, 0 ≤ u → u < t → x.1.2 15 u < x.1.1 14 := fun u b0 b1 => (i7 u b0 b1).2
  have eA : ∀ u, (mA x.1 15 t (-1)).2 15 u = if u = t then -1 else x.1.2 15 u := fun u => by simp [mA]
  have eAo : ∀ k, k ≠ 15 → (mA x.1 15 t (-1)).2 k = x.1.2 k := fun k hk => by funext z; simp [mA, hk]
  have eA14 : (mA x.1 15 t (-1)).1 14 = x.1.1 14 := rfl
  have hN : ∀ (a b w : Int), (mA (mNew (mA x.1 15 t (-1)) a b) 15 t w).1 14 = x.1.1 14 + 1 ∧ (∀ u : Int, 0 ≤ u → u < t → (mA (mNew (mA x.1 15 t (-1)) a b) 15 t w).2 15 u = x.1.2 15 u) ∧ (mA (mNew (mA x.1 15 t (-1)) a b) 15 t w).2 15 t = w ∧ (mA (mNew (mA x.1 15 t (-1)) a b) 15 t w).2 19 (x.1.1 14) = a ∧ (mA (mNew (mA x.1 15 t (-1)) a b) 15 t w).2 21 (x.1.1 14) = 0 ∧ ∀ i, i < x.1.1 14 → (mA (mNew (mA x.1 15 t (-1)) a b) 15 t w).2 19 i = x.1.2 19 i ∧ (mA (mNew (mA x.1 15 t (-1)) a b) 15 t w).2 21 i = x.1.2 21 i := by
    intro a b w
    have o15 : ∀ u, (mA (mNew (mA x.1 15 t (-1)) a b) 15 t w).2 15 u = if u = t then w else (mNew (mA x.1 15 t (-1)) a b).2 15 u := fun u => by simp [mA]
    have oo : ∀ k, k ≠ 15 → (mA (mNew (mA x.1 15 t (-1)) a b) 15 t w).2 k = (mNew (mA x.1 15 t (-1)) a b).2 k := fun k hk => by funext z; simp [mA, hk]
    refine ⟨mNew_14 (a := a) (b := b), fun u b0 b1 => ?_, ?_, ?_, ?_, fun i hi => ⟨?_, ?_⟩⟩
    · rw [o15, if_neg (by omega), mNew_15, eA, if_neg (by omega)]
    · rw [o15, if_pos rfl]
    · rw [oo 19 (by omega), mNew_19, eA14, if_pos rfl]
    · rw [oo 21 (by omega), mNew_21, eA14, if_pos rfl]
    · rw [oo 19 (by omega), mNew_19, eA14, if_neg (by omega), eAo 19 (by omega)]
    · rw [oo 21 (by omega), mNew_21, eA14, if_neg (by omega), eAo 21 (by omega)]
  have kx : x.1.2 1 t = s.2 1 t := congrFun (hk 1 (by omega)) t
  unfold mLn
  by_cases k2 : s.2 1 t = 2
  · rw [if_pos (kx.trans k2), lLn_2 (by rw [ck]; exact k2)]
    exact RL_none h (by omega) i3.1 (Or.inl ⟨rfl, rfl, rfl⟩)
  rw [if_neg (fun q => k2 (kx.symm.trans q))]
  by_cases k3 : s.2 1 t = 3
  · rw [if_pos (kx.trans k3), lLn_3 (by rw [ck]; exact k2) (by rw [ck]; exact k3), cwd]
    obtain ⟨n1, n2, n3, n4, n5, n6⟩ := hN 1 1 (x.1.1 14)
    exact RL_new h (by omega) hx15 i3.1 rfl rfl rfl rfl rfl (fun i b0 b1 => by
      have := a4 i b0 b1
      rw [(n6 i b1).1, (n6 i b1).2]
      exact this) n1 n2 n3 ⟨n4, n5⟩ (Or.inl ⟨rfl, rfl, rfl⟩)
  rw [if_neg (fun q => k3 (kx.symm.trans q))]
  by_cases hp : mPrn s r t
  · rw [if_pos (epr.mpr hp)]
    by_cases ho : x.2.2.1 = 0
    · obtain ⟨-, ho2, hf2⟩ : x.2.2.1 = 0 ∧ y.2.1 = -1 ∧ y.2.2 = 0 := by
        rcases a5 with q | q
        · exact q
        · omega
      rw [if_pos ho, lLn_p0 (by rw [ck]; exact k2) (by rw [ck]; exact k3) (cpr.mpr hp) ho2, cwd, ewd]
      obtain ⟨n1, n2, n3, n4, n5, n6⟩ := hN 0 1 (x.1.1 14)
      have e := RL_new (o := y.1.1.1 14) (f := 1) (w := mWide s r t) (ux := mWide s r t) (bx := x.1.1 14) (op := 1) h (by omega) hx15 i3.1 (v := y.1) rfl rfl rfl rfl rfl (fun i b0 b1 => by
        have := a4 i b0 b1
        rw [(n6 i b1).1, (n6 i b1).2]
        exact this) n1 n2 n3 ⟨n4, n5⟩ (Or.inr ⟨rfl, a1, i3.1, Int.le_refl _, rfl, by omega, fun q => by omega⟩)
      exact e
    · obtain ⟨hop, ho2, b0, b1, hu, hf, h21⟩ : x.2.2.1 = 1 ∧ y.2.1 = x.1.1 14 - 1 ∧ 0 ≤ x.2.2.2 ∧ x.2.2.2 < x.1.1 14 ∧ y.1.1.2 38 y.2.1 = x.2.1 ∧ y.2.2 = x.1.1 14 - x.2.2.2 ∧ (2 ≤ y.2.2 → x.1.2 21 x.2.2.2 = 1) := by
        rcases a5 with q | q
        · exact absurd q.1 ho
        · exact q
      rw [if_neg ho]
      by_cases hfit : x.2.1 + 1 + mWide s r t ≤ s.1 8
      · rw [if_pos (by rw [ewd, e8]; exact hfit), ewd, lLn_fit (by rw [ck]; exact k2) (by rw [ck]; exact k3) (cpr.mpr hp) (by omega) (by rw [cwd, hu, c8]; exact hfit), cwd]
        have o15 : ∀ u, (mA (mA x.1 15 t (-1)) 15 t (x.1.1 14 - 1)).2 15 u = if u = t then x.1.1 14 - 1 else x.1.2 15 u := fun u => by
          by_cases hu : u = t <;> simp [mA, hu]
        have oo : ∀ k, k ≠ 15 → (mA (mA x.1 15 t (-1)) 15 t (x.1.1 14 - 1)).2 k = x.1.2 k := fun k hk => by funext z; simp [mA, hk]
        have ev : ∀ k, k ≠ 38 → (lA y.1 38 y.2.1 (y.1.1.2 38 y.2.1 + (1 + mWide s r t))).1.2 k = y.1.1.2 k := fun k hk => by unfold lA; funext z; simp [mA, hk]
        refine ⟨a1, fun u c0 c1 => ?_, fun u c0 c1 => ?_, fun i c0 c1 => ?_, Or.inr ⟨hop, ho2, b0, b1, ?_, hf, ?_⟩, fun i hi => ?_, fun i => ?_, ?_, a9, fun u c0 c1 => ?_⟩
        · show (lPut (lA y.1 38 y.2.1 (y.1.1.2 38 y.2.1 + (1 + mWide s r t))) y.2.1 t).1.2 15 u = (mA (mA x.1 15 t (-1)) 15 t (x.1.1 14 - 1)).2 15 u
          rw [lPut_15, o15, ev 15 (by omega)]
          by_cases hu : u = t
          · rw [if_pos hu, if_pos hu]
            show y.1.1.1 14 - 1 = _
            rw [a1]
          · rw [if_neg hu, if_neg hu]
            exact a2 u c0 (by omega)
        · show (lPut (lA y.1 38 y.2.1 (y.1.1.2 38 y.2.1 + (1 + mWide s r t))) y.2.1 t).1.2 15 u = -1
          rw [lPut_15, if_neg (by omega), ev 15 (by omega)]
          exact a3 u (by omega) c1
        · show (lPut (lA y.1 38 y.2.1 (y.1.1.2 38 y.2.1 + (1 + mWide s r t))) y.2.1 t).1.2 19 i = (mA (mA x.1 15 t (-1)) 15 t (x.1.1 14 - 1)).2 19 i ∧ (lPut (lA y.1 38 y.2.1 (y.1.1.2 38 y.2.1 + (1 + mWide s r t))) y.2.1 t).1.2 21 i = (mA (mA x.1 15 t (-1)) 15 t (x.1.1 14 - 1)).2 21 i ∧ (lPut (lA y.1 38 y.2.1 (y.1.1.2 38 y.2.1 + (1 + mWide s r t))) y.2.1 t).1.2 18 i = 0
          rw [lPut_o (by omega), lPut_o (by omega), lPut_o (by omega), ev 19 (by omega), ev 21 (by omega), ev 18 (by omega), oo 19 (by omega), oo 21 (by omega)]
          exact a4 i c0 c1
        · show (lPut (lA y.1 38 y.2.1 (y.1.1.2 38 y.2.1 + (1 + mWide s r t))) y.2.1 t).1.2 38 y.2.1 = x.2.1 + (1 + mWide s r t)
          rw [lPut_38]
          have : (lA y.1 38 y.2.1 (y.1.1.2 38 y.2.1 + (1 + mWide s r t))).1.2 38 y.2.1 = y.1.1.2 38 y.2.1 + (1 + mWide s r t) := by unfold lA; simp [mA]
          rw [this, hu]
        · show 2 ≤ y.2.2 → (mA (mA x.1 15 t (-1)) 15 t (x.1.1 14 - 1)).2 21 x.2.2.2 = 1
          rw [oo 21 (by omega)]
          exact h21
        · have hi : (i : Int) < x.1.1 14 := hi
          show (if 6 + 3 * i = 6 + 3 * y.2.1.toNat then y.1.2 (6 + 3 * i) ++ [(t : Int)] else y.1.2 (6 + 3 * i)) = fOn ((mA (mA x.1 15 t (-1)) 15 t (x.1.1 14 - 1)).2 15) i (t + 1)
          rw [fOn_succ (g := x.1.2 15) (fun u c0 c1 => by rw [o15, if_neg (by omega)]), o15, if_pos rfl, a6 i hi]
          by_cases hin : (i : Int) = x.1.1 14 - 1
          · rw [if_pos (by omega), if_pos hin.symm]
          · rw [if_neg (by omega), if_neg (fun q => hin q.symm)]
        · show (if 7 + 3 * i = 6 + 3 * y.2.1.toNat then y.1.2 (7 + 3 * i) ++ [(t : Int)] else y.1.2 (7 + 3 * i)) = []
          rw [if_neg (by omega)]
          exact a7 i
        · show (if 4 = 6 + 3 * y.2.1.toNat then y.1.2 4 ++ [(t : Int)] else y.1.2 4) = []
          rw [if_neg (by omega)]
          exact a8
        · show (lPut (lA y.1 38 y.2.1 (y.1.1.2 38 y.2.1 + (1 + mWide s r t))) y.2.1 t).1.2 16 u = -1
          rw [lPut_o (by omega), ev 16 (by omega)]
          exact a10 u c0 c1
      · rw [if_neg (by rw [ewd, e8]; exact hfit), ewd, lLn_new (by rw [ck]; exact k2) (by rw [ck]; exact k3) (cpr.mpr hp) (by omega) (by rw [cwd, hu, c8]; exact hfit), cwd]
        obtain ⟨n1, n2, n3, n4, n5, n6⟩ := hN 0 0 (x.1.1 14)
        have o15 : ∀ u, (mA (mA (mNew (mA x.1 15 t (-1)) 0 0) 21 x.2.2.2 1) 15 t (x.1.1 14)).2 15 u = (mA (mNew (mA x.1 15 t (-1)) 0 0) 15 t (x.1.1 14)).2 15 u := fun u => by simp [mA]
        have o19 : ∀ u, (mA (mA (mNew (mA x.1 15 t (-1)) 0 0) 21 x.2.2.2 1) 15 t (x.1.1 14)).2 19 u = (mA (mNew (mA x.1 15 t (-1)) 0 0) 15 t (x.1.1 14)).2 19 u := fun u => by simp [mA]
        have o21 : ∀ u, (mA (mA (mNew (mA x.1 15 t (-1)) 0 0) 21 x.2.2.2 1) 15 t (x.1.1 14)).2 21 u = if u = x.2.2.2 then 1 else (mA (mNew (mA x.1 15 t (-1)) 0 0) 15 t (x.1.1 14)).2 21 u := fun u => by simp [mA]
        refine RL_new (v := if y.2.2 = 1 then lA y.1 21 y.2.1 1 else y.1) (x1 := mA (mA (mNew (mA x.1 15 t (-1)) 0 0) 21 x.2.2.2 1) 15 t (x.1.1 14)) h (by omega) hx15 i3.1 ?_ ?_ ?_ ?_ ?_ (fun i c0 c1 => ?_) n1 (fun u c0 c1 => by rw [o15]; exact n2 u c0 c1) (by rw [o15]; exact n3) ⟨by rw [o19]; exact n4, by rw [o21, if_neg (by omega)]; exact n5⟩ (Or.inr ⟨hop, a1, b0, by omega, rfl, by omega, fun _ => by rw [o21, if_pos rfl]⟩)
        · split <;> rfl
        · split
          · unfold lA; funext z; simp [mA]
          · rfl
        · split
          · unfold lA; funext z; simp [mA]
          · rfl
        · split <;> rfl
        · split <;> rfl
        · have h4i := a4 i c0 c1
          rw [o19, o21, (n6 i c1).1, (n6 i c1).2]
          by_cases hf1 : y.2.2 = 1
          · rw [if_pos hf1]
            have e19 : (lA y.1 21 y.2.1 1).1.2 19 i = y.1.1.2 19 i := by unfold lA; simp [mA]
            have e18 : (lA y.1 21 y.2.1 1).1.2 18 i = y.1.1.2 18 i := by unfold lA; simp [mA]
            have e21 : (lA y.1 21 y.2.1 1).1.2 21 i = if i = y.2.1 then 1 else y.1.1.2 21 i := by unfold lA; simp [mA]
            rw [e19, e18, e21]
            refine ⟨h4i.1, ?_, h4i.2.2⟩
            by_cases hi : i = x.2.2.2
            · rw [if_pos hi, if_pos (by omega)]
            · rw [if_neg hi, if_neg (by omega)]
              exact h4i.2.1
          · rw [if_neg hf1]
            refine ⟨h4i.1, ?_, h4i.2.2⟩
            by_cases hi : i = x.2.2.2
            · rw [if_pos hi, h4i.2.1, hi]
              exact h21 (by omega)
            · rw [if_neg hi]
              exact h4i.2.1
  · rw [if_neg (fun q => hp (epr.mp q)), lLn_no (by rw [ck]; exact k2) (by rw [ck]; exact k3) (fun q => hp (cpr.mp q))]
    exact RL_none h (by omega) i3.1 (Or.inr ⟨rfl, rfl, rfl⟩)
end RLS
