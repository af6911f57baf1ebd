set_option maxRecDepth 100000
/-! longs; X3_in; static calls; values -/
def zL (z : Int) : Int64 := Int64.ofInt z
theorem zL_toInt {z : Int} (h : bd z) : (zL z).toInt = z := by
  obtain ⟨h1, h2⟩ := h
  exact Int64.toInt_ofInt_of_le (by omega) (by omega)
theorem mz_l {x : Int32} {a : Int} (h : x = zI a) (hb : bd a) : x.toInt64 = zL a := by
  subst h
  apply Int64.toInt_inj.mp
  rw [Int32.toInt_toInt64, zI_toInt hb.1 hb.2, zL_toInt hb]
def mIn (v lo hi : Int) : Int := if lo ≤ v ∧ v ≤ hi then 1 else 0
theorem bdIn {v lo hi : Int} : bd (mIn v lo hi) := by
  unfold mIn bd
  split <;> omega
theorem bd01 {a : Int} (h : a = 0 ∨ a = 1) : bd a := by
  unfold bd
  omega
theorem bdor {a b : Int} (h : (a = 0 ∨ a = 1) ∧ (b = 0 ∨ b = 1)) : bd (if a = 0 then b else a) := by
  unfold bd
  split <;> omega
theorem bdiv {a b : Int} (h : 0 ≤ a ∧ 0 < b) (hb : bd a) : bd (a / b) := by
  have h5 : 0 ≤ a / b := Int.ediv_nonneg h.1 (by omega)
  have h6 : a / b ≤ a := Int.ediv_le_self b h.1
  exact ⟨by omega, by have := hb.2; omega⟩
theorem bmod {a b : Int} (h : 0 ≤ a ∧ 0 < b) (hb : bd b) : bd (a % b) := by
  have h5 : 0 ≤ a % b := Int.emod_nonneg a (by omega)
  have h6 : a % b < b := Int.emod_lt_of_pos a h.2
  exact ⟨by omega, by have := hb.2; omega⟩
section MC
variable {D : qD} {W : mW} {s : mS} {h : qH} {X : String → qH → Prop}
theorem mcIn {x y z : Int64} {a b c : Int} {Kf : Int32 → qH → Prop} (e1 : x = zL a) (e2 : y = zL b) (e3 : z = zL c) (b1 : bd a) (b2 : bd b) (b3 : bd c) (k9 : Kf (zI (mIn a b c)) h) : c_I D m_X3_in [.long x, .long y, .long z] h X Kf := by
  subst e1
  subst e2
  subst e3
  have t1 : (lg_cmp (zL a) (zL b)) < 0 ↔ a < b := by
    have h1 := lg_cmp_ge (zL a) (zL b)
    rw [Int64.le_iff_toInt_le, zL_toInt b1, zL_toInt b2] at h1
    constructor
    · intro w
      apply Int.lt_of_not_ge
      intro w2
      exact Int32.not_le.mpr w (h1.mpr w2)
    · intro w
      apply Int32.not_le.mp
      intro w2
      have := h1.mp w2
      omega
  have t2 : 0 < (lg_cmp (zL a) (zL c)) ↔ c < a := by
    unfold lg_cmp
    simp only [gt_iff_lt, Int64.lt_iff_toInt_lt, ← Int64.toInt_inj, zL_toInt b1, zL_toInt b3]
    by_cases h1 : c < a
    · simp [h1]
    · by_cases h2 : a = c
      · simp [h2]
      · simp [h1, h2]
  refine f_X3_in _ _ _ h ⟨fun w => ?_, fun w => ⟨fun w2 => ?_, fun w2 => ?_⟩⟩
  · rw [t1] at w
    refine ⟨0, rfl, ?_⟩
    unfold mIn at k9
    rw [if_neg (by omega)] at k9
    exact k9
  · rw [t2] at w2
    refine ⟨0, rfl, ?_⟩
    unfold mIn at k9
    rw [if_neg (by omega)] at k9
    exact k9
  · rw [t1] at w
    rw [t2] at w2
    refine ⟨1, rfl, ?_⟩
    unfold mIn at k9
    rw [if_pos (by omega)] at k9
    exact k9
def pIS (D : qD) (W : mW) (X : String → qH → Prop) (M : qM) (as : List Int) (s : mS) (K : Int → mS → Prop) : Prop := ∀ h, MW D M (as.map fun z => .int (zI z)) (mh W s h) (pQI W h K) X
theorem mcIS {M : qM} {as : List Int} {vs : List Value} {K : Int → mS → Prop} {Kf : Int32 → qH → Prop} (G : pIS D W X M as s K) (hv : vs = as.map fun z => .int (zI z)) (k : ∀ z s2, bd z → MB s2 → K z s2 → Kf (zI z) (mh W s2 h)) : c_I D M vs (mh W s h) X Kf := by
  subst hv
  refine MW_imp (G h) fun v h1 hq => ?_
  obtain ⟨z, s2, e1, e2, e3, e4, e5⟩ := hq
  subst e4
  exact ⟨_, e1, k z s2 e2 e3 e5⟩
end MC
theorem mv1 {x : Int32} {a : Int} (h : x = zI a) : [Value.int x] = [a].map fun z => .int (zI z) := by rw [h]; rfl
theorem mv2 {x y : Int32} {a b : Int} (h1 : x = zI a) (h2 : y = zI b) : [Value.int x, .int y] = [a, b].map fun z => .int (zI z) := by rw [h1, h2]; rfl
theorem mv3 {x y z : Int32} {a b c : Int} (h1 : x = zI a) (h2 : y = zI b) (h3 : z = zI c) : [Value.int x, .int y, .int z] = [a, b, c].map fun z => .int (zI z) := by rw [h1, h2, h3]; rfl
theorem mv4 {x y z w : Int32} {a b c d : Int} (h1 : x = zI a) (h2 : y = zI b) (h3 : z = zI c) (h4 : w = zI d) : [Value.int x, .int y, .int z, .int w] = [a, b, c, d].map fun z => .int (zI z) := by rw [h1, h2, h3, h4]; rfl
