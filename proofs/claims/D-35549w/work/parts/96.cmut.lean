set_option maxRecDepth 100000
/-! the component: a layout under way -/
def lA (v : lV) (k : Nat) (z w : Int) : lV := (mA v.1 k z w, v.2)
def lF (v : lV) (k : Nat) (w : Int) : lV := (mF v.1 k w, v.2)
def lAdd (v : lV) (k : Nat) (t : Int) : lV := (v.1, fun j => if j = k then v.2 j ++ [t] else v.2 j)
def lSet (v : lV) (k : Nat) (T : List Int) : lV := (v.1, fun j => if j = k then T else v.2 j)
abbrev lR (n : Int) : Nat → Prop := fun k => (k : Int) < 3 * n + 5
def LH (x : Nat) (r : Int) (g0 : qH) (W : mW) (v : lV) (h : qH) : Prop := 0 ≤ v.1.1 14 ∧ ∃ (q : Nat → Int32) (p : Nat → List Nat) (g : qH), h = ov W (lcell W.1 x r v.1 q p) g ∧ oOK W (lR (v.1.1 14)) ∧ q_le g0 g ∧ (∀ b k, W.2 b = some k → g.2 b = none) ∧ BX (v.1.1 14) p v.2 g
theorem ov_congr {W : mW} {cc cc' : Nat → qE} {g : qH} (h : ∀ b j, W.2 b = some j → cc j = cc' j) : ov W cc g = ov W cc' g := by
  refine Prod.ext rfl (funext fun b => ?_)
  cases hx : W.2 b with
  | none => rw [ov_bg hx, ov_bg hx]
  | some j => rw [ov_in hx, ov_in hx, h b j hx]
section LHR
variable {D : qD} {x : Nat} {r : Int} {g0 : qH} {W : mW} {v : lV} {h : qH} {X : String → qH → Prop}
theorem LH.le (hH : LH x r g0 W v h) : q_le g0 h := by
  obtain ⟨h0, q, p, g, h1, h2, h3, h4, h5⟩ := hH
  rw [h1]
  exact q_le.tr h3 (ov_le h4)
theorem LH.lx (hH : LH x r g0 W v h) : LX W.1 x r v h := by
  obtain ⟨h0, q, p, g, h1, h2, h3, h4, h5⟩ := hH
  refine ⟨h0, q, p, fun k hk => by rw [h1]; exact ov_at h2 hk, fun k hk hk2 => ?_⟩
  obtain ⟨a, b⟩ := h5 k hk hk2
  exact ⟨a, fun i hi => by rw [h1]; exact ov_le h4 _ _ (b i hi)⟩
theorem lcell_F {A : Nat → Nat} {c : mS} {q : Nat → Int32} {p : Nat → List Nat} {k j : Nat} {z : Int} (hk : k ≠ 14) (hj : j ≠ 0) : lcell A x r (mF c k z) q p j = lcell A x r c q p j := by
  unfold lcell
  rw [if_neg hj, if_neg hj]
  have e : (mF c k z).1 14 = c.1 14 := if_neg (Ne.symm hk)
  rw [e]
  rfl
/-- a number of the layout -/
theorem LH_F (hH : LH x r g0 W v h) {j k : Nat} (hjk : (j = 5 ∧ k = 22) ∨ (j = 6 ∧ k = 28) ∨ (j = 7 ∧ k = 29) ∨ (j = 8 ∧ k = 23)) {y : Int32} {z : Int} (hy : y = zI z) {K : qH → Prop} (k9 : ∀ h', LH x r g0 W (lF v k z) h' → h'.1 = h.1 → K h') : p_F h (some (W.1 0)) 4 j (.int y) K := by
  have hob := hH.lx.ob
  obtain ⟨h0, q, p, g, h1, h2, h3, h4, h5⟩ := hH
  subst hy
  refine pF hob (k9 _ ⟨?_, q, p, g, ?_, ?_, h3, h4, ?_⟩ rfl)
  · show 0 ≤ (if 14 = k then z else v.1.1 14)
    rw [if_neg (by omega)]
    exact h0
  · have h20 : lR (v.1.1 14) 0 := by show ((0 : Nat) : Int) < _; omega
    rw [h1, ov_put h2 h20]
    refine ov_congr fun b i hb => ?_
    by_cases hi : i = 0
    · subst hi
      rw [if_pos rfl]
      unfold lcell
      rw [if_pos rfl]
      refine congrArg (c_ob 4) (funext fun m => ?_)
      show (if m = j then Value.int (zI z) else lobV W.1 x r v.1 m) = lobV W.1 x r (mF v.1 k z) m
      unfold lobV mF
      dsimp only
      rcases hjk with ⟨rfl, rfl⟩ | ⟨rfl, rfl⟩ | ⟨rfl, rfl⟩ | ⟨rfl, rfl⟩
      · by_cases hm : m = 5
        · subst hm; rfl
        · rw [if_neg hm]
          simp [hm]
      · by_cases hm : m = 6
        · subst hm; rfl
        · rw [if_neg hm]
          simp [hm]
      · by_cases hm : m = 7
        · subst hm; rfl
        · rw [if_neg hm]
          simp [hm]
      · by_cases hm : m = 8
        · subst hm; rfl
        · rw [if_neg hm]
          simp [hm]
    · rw [if_neg hi]
      exact (lcell_F (by omega) hi).symm
  · have e : (lF v k z).1.1 14 = v.1.1 14 := if_neg (by omega)
    rw [e]
    exact h2
  · have e : (lF v k z).1.1 14 = v.1.1 14 := if_neg (by omega)
    rw [e]
    exact h5
/-- an int of lineOf or of columnOf -/
theorem LH_S (hH : LH x r g0 W v h) {j k : Nat} (hjk : (j = 2 ∧ k = 15) ∨ (j = 3 ∧ k = 16)) {i y : Int32} {z w : Int} (hi : i = zI z) (h0 : 0 ≤ z) (h1 : z < 120) (hy : y = zI w) {K : qH → Prop} (k9 : ∀ h', LH x r g0 W (lA v k z w) h' → h'.1 = h.1 → K h') : s_I h (some (W.1 j)) 0 i y K := by
  obtain ⟨h0', q, p, g, h1', h2, h3, h4, h5⟩ := hH
  subst hi
  subst hy
  have hR : lR (v.1.1 14) j := by show (j : Int) < _; omega
  have hc : h.2 (W.1 j) = some (c_ia 0 120 (fun i => zI (v.1.2 k (i : Int)))) := by
    rw [h1', ov_at h2 hR]
    rcases hjk with ⟨rfl, rfl⟩ | ⟨rfl, rfl⟩ <;> rfl
  refine ⟨W.1 j, 120, _, rfl, hc, zI_in h0 (by omega) (by omega), k9 _ ⟨h0', q, p, g, ?_, h2, h3, h4, h5⟩ rfl⟩
  rw [h1', ov_put h2 hR]
  refine ov_congr fun b m hb => ?_
  have hfun : (upd (fun i => zI (v.1.2 k (i : Int))) (zI z).toNatClampNeg (zI w)) = fun i : Nat => zI ((mA v.1 k z w).2 k (i : Int)) := by
    funext q
    rw [zI_cl h0 (by omega)]
    simp only [upd, mA]
    by_cases hq : q = z.toNat
    · rw [if_pos hq, if_pos ⟨trivial, by omega⟩]
    · rw [if_neg hq, if_neg (fun w => hq (by omega))]
  by_cases hm : m = j
  · subst hm
    rw [if_pos rfl, hfun]
    rcases hjk with ⟨rfl, rfl⟩ | ⟨rfl, rfl⟩ <;> rfl
  · rw [if_neg hm]
    have ho : ∀ k', k' ≠ k → (mA v.1 k z w).2 k' = v.1.2 k' := fun k' hk' => by
      funext i
      show (if k' = k ∧ _ then _ else v.1.2 k' i) = _
      rw [if_neg (fun q => hk' q.1)]
    unfold lcell
    show (if m = 0 then c_ob 4 (lobV W.1 x r v.1) else if m = 1 then c_ls (q 1) (lLs W.1 (v.1.1 14)) else if m = 2 then c_ia 0 120 (fun i => zI (v.1.2 15 (i : Int))) else if m = 3 then c_ia 0 120 (fun i => zI (v.1.2 16 (i : Int))) else if m % 3 = 2 then c_ob 5 (linV W.1 v.1 m) else c_ls (q m) (p m)) = (if m = 0 then c_ob 4 (lobV W.1 x r v.1) else if m = 1 then c_ls (q 1) (lLs W.1 (v.1.1 14)) else if m = 2 then c_ia 0 120 (fun i => zI ((mA v.1 k z w).2 15 (i : Int))) else if m = 3 then c_ia 0 120 (fun i => zI ((mA v.1 k z w).2 16 (i : Int))) else if m % 3 = 2 then c_ob 5 (linV W.1 (mA v.1 k z w) m) else c_ls (q m) (p m))
    have e5 : linV W.1 (mA v.1 k z w) m = linV W.1 v.1 m := by
      unfold linV
      rw [ho 19 (by omega), ho 38 (by omega), ho 18 (by omega), ho 21 (by omega), ho 17 (by omega)]
    rw [e5]
    rcases hjk with ⟨rfl, rfl⟩ | ⟨rfl, rfl⟩
    · rw [ho 16 (by omega)]
      by_cases hm2 : m = 2
      · exact absurd hm2 hm
      · simp only [if_neg hm2]
    · rw [ho 15 (by omega)]
      by_cases hm2 : m = 3
      · exact absurd hm2 hm
      · simp only [if_neg hm2]
/-- a number of a line -/
theorem LH_L (hH : LH x r g0 W v h) {j k : Nat} (hjk : (j = 3 ∧ k = 38) ∨ (j = 4 ∧ k = 18) ∨ (j = 5 ∧ k = 21) ∨ (j = 6 ∧ k = 17)) {i : Int} (h0 : 0 ≤ i) (h1 : i < v.1.1 14) {y : Int32} {w : Int} (hy : y = zI w) {K : qH → Prop} (k9 : ∀ h', LH x r g0 W (lA v k i w) h' → h'.1 = h.1 → K h') : p_F h (some (W.1 (5 + 3 * i.toNat))) 5 j (.int y) K := by
  have hob := hH.lx.line h0 h1
  obtain ⟨h0', q, p, g, h1', h2, h3, h4, h5⟩ := hH
  subst hy
  have hR : lR (v.1.1 14) (5 + 3 * i.toNat) := by show ((5 + 3 * i.toNat : Nat) : Int) < _; omega
  refine pF hob (k9 _ ⟨h0', q, p, g, ?_, h2, h3, h4, h5⟩ rfl)
  rw [h1', ov_put h2 hR]
  refine ov_congr fun b m hb => ?_
  have ho : ∀ k', k' ≠ k → (mA v.1 k i w).2 k' = v.1.2 k' := fun k' hk' => by
    funext z
    show (if k' = k ∧ _ then _ else v.1.2 k' z) = _
    rw [if_neg (fun q => hk' q.1)]
  have hk1 : (mA v.1 k i w).2 k i = w := if_pos ⟨rfl, rfl⟩
  have hmR := (h2.2 b m hb).2
  by_cases hm : m = 5 + 3 * i.toNat
  · subst hm
    rw [if_pos rfl]
    unfold lcell
    rw [if_neg (by omega), if_neg (by omega), if_neg (by omega), if_neg (by omega), if_pos (by omega)]
    refine congrArg (c_ob 5) (funext fun m => ?_)
    show (if m = j then Value.int (zI w) else linV W.1 v.1 (5 + 3 * i.toNat) m) = linV W.1 (mA v.1 k i w) (5 + 3 * i.toNat) m
    unfold linV
    rw [lin_i h0]
    rcases hjk with ⟨rfl, rfl⟩ | ⟨rfl, rfl⟩ | ⟨rfl, rfl⟩ | ⟨rfl, rfl⟩
    · rw [ho 19 (by omega), ho 18 (by omega), ho 21 (by omega), ho 17 (by omega), hk1]
      by_cases hm : m = 3
      · subst hm; rfl
      · simp [hm]
    · rw [ho 19 (by omega), ho 38 (by omega), ho 21 (by omega), ho 17 (by omega), hk1]
      by_cases hm : m = 4
      · subst hm; rfl
      · simp [hm]
    · rw [ho 19 (by omega), ho 38 (by omega), ho 18 (by omega), ho 17 (by omega), hk1]
      by_cases hm : m = 5
      · subst hm; rfl
      · simp [hm]
    · rw [ho 19 (by omega), ho 38 (by omega), ho 18 (by omega), ho 21 (by omega), hk1]
      by_cases hm : m = 6
      · subst hm; rfl
      · simp [hm]
  · rw [if_neg hm]
    unfold lcell
    have e5 : m % 3 = 2 → 5 ≤ m → linV W.1 (mA v.1 k i w) m = linV W.1 v.1 m := by
      intro hm3 hm5
      have hz : ∀ k', (mA v.1 k i w).2 k' ((((m - 5) / 3 : Nat)) : Int) = v.1.2 k' ((((m - 5) / 3 : Nat)) : Int) := fun k' => by
        show (if k' = k ∧ _ = i then _ else v.1.2 k' _) = _
        rw [if_neg (fun q => by omega)]
      unfold linV
      rw [hz, hz, hz, hz, hz]
    rw [show (lA v k i w).1.2 15 = v.1.2 15 from ho 15 (by omega), show (lA v k i w).1.2 16 = v.1.2 16 from ho 16 (by omega)]
    by_cases h0m : m = 0
    · rw [if_pos h0m, if_pos h0m]; rfl
    · rw [if_neg h0m, if_neg h0m]
      by_cases h1m : m = 1
      · rw [if_pos h1m, if_pos h1m]; rfl
      · rw [if_neg h1m, if_neg h1m]
        by_cases h2m : m = 2
        · rw [if_pos h2m, if_pos h2m]
        · rw [if_neg h2m, if_neg h2m]
          by_cases h3m : m = 3
          · rw [if_pos h3m, if_pos h3m]
          · rw [if_neg h3m, if_neg h3m]
            by_cases h4m : m % 3 = 2
            · rw [if_pos h4m, if_pos h4m]
              exact congrArg (c_ob 5) (e5 h4m (by omega)).symm
            · rw [if_neg h4m, if_neg h4m]
end LHR
