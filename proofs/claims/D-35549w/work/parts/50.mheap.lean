set_option maxRecDepth 100000
/-! the model's heap: its object and its arrays, as functions to Int -/
abbrev mS : Type := (Nat → Int) × (Nat → Int → Int)
/-- where they lie: role 100 the object, role k the array of field k; and back -/
abbrev mW : Type := (Nat → Nat) × (Nat → Option Nat)
def bd (z : Int) : Prop := -2147483648 ≤ z ∧ z < 2147483648
def MB (s : mS) : Prop := (∀ k, bd (s.1 k)) ∧ ∀ k z, bd (s.2 k z)
def mlen (k : Nat) : Nat := if k = 4 then 6 else if k = 5 then 6 else if k = 6 then 6 else if k = 7 then 16 else if k = 11 then 10 else if k = 32 then 121 else if k = 36 then 400 else 120
def mty (k : Nat) : Nat := if k = 19 then 1 else if k = 20 then 1 else if k = 21 then 1 else if k = 36 then 1 else 0
def mArr (k : Nat) : Bool := k == 1 || k == 2 || k == 3 || k == 4 || k == 5 || k == 6 || k == 7 || k == 11 || k == 15 || k == 16 || k == 17 || k == 18 || k == 19 || k == 20 || k == 21 || k == 25 || k == 32 || k == 33 || k == 34 || k == 35 || k == 36
def mV (W : mW) (s : mS) : Nat → Value := fun k => if mArr k then va_rf (some (W.1 k)) else .int (zI (s.1 k))
def mcell (W : mW) (s : mS) (k : Nat) : qE := if k = 100 then c_ob 2 (mV W s) else c_ia (mty k) (mlen k) (fun i => zI (s.2 k (i : Int)))
def mOK (D : qD) (W : mW) : Prop := (∀ k, (mArr k = true ∨ k = 100) → W.2 (W.1 k) = some k ∧ ∀ x, ¬ d_ro D (W.1 k) x) ∧ ∀ b k, W.2 b = some k → b = W.1 k
def mh (W : mW) (s : mS) (h : qH) : qH := (h.1, fun b => match W.2 b with | some k => some (mcell W s k) | none => h.2 b)
def mF (s : mS) (k : Nat) (x : Int) : mS := (fun j => if j = k then x else s.1 j, s.2)
def mA (s : mS) (k : Nat) (z x : Int) : mS := (s.1, fun j i => if j = k ∧ i = z then x else s.2 j i)
theorem MB.F {s : mS} {k : Nat} {x : Int} (h : MB s) (hx : bd x) : MB (mF s k x) := ⟨fun j => by
  simp only [mF]
  by_cases hj : j = k
  · rw [if_pos hj]; exact hx
  · rw [if_neg hj]; exact h.1 j, h.2⟩
theorem MB.A {s : mS} {k : Nat} {z x : Int} (h : MB s) (hx : bd x) : MB (mA s k z x) := ⟨h.1, fun j i => by
  simp only [mA]
  by_cases hj : j = k ∧ i = z
  · rw [if_pos hj]; exact hx
  · rw [if_neg hj]; exact h.2 j i⟩
theorem mh_at {D : qD} {W : mW} (hW : mOK D W) {s : mS} {h : qH} {k : Nat} (hk : mArr k = true ∨ k = 100) : (mh W s h).2 (W.1 k) = some (mcell W s k) := by
  show (match W.2 (W.1 k) with | some k => some (mcell W s k) | none => h.2 (W.1 k)) = _
  rw [(hW.1 k hk).1]
theorem mh_put {D : qD} {W : mW} (hW : mOK D W) {s s' : mS} {h : qH} {k : Nat} {e : qE} (hk : mArr k = true ∨ k = 100) (he : e = mcell W s' k) (ho : ∀ j, j ≠ k → mcell W s' j = mcell W s j) : q_put (mh W s h) (W.1 k) e = mh W s' h := by
  subst he
  refine Prod.ext rfl (funext fun b => ?_)
  show (if b = W.1 k then some (mcell W s' k) else (match W.2 b with | some k => some (mcell W s k) | none => h.2 b)) = (match W.2 b with | some k => some (mcell W s' k) | none => h.2 b)
  by_cases hb : b = W.1 k
  · rw [if_pos hb, hb, (hW.1 k hk).1]
  · rw [if_neg hb]
    cases hx : W.2 b with
    | none => rfl
    | some j =>
      have hj : j ≠ k := fun w => by
        subst w
        exact hb (hW.2 b j hx)
      show some (mcell W s j) = some (mcell W s' j)
      rw [ho j hj]
section MH
variable {D : qD} {W : mW} {s : mS} {h : qH} {X : String → qH → Prop}
theorem mgI (hW : mOK D W) {k : Nat} {K : Int32 → Prop} (hk : mArr k = false) (k9 : K (zI (s.1 k))) : g_I D (mh W s h) (some (W.1 100)) 2 k K := ⟨W.1 100, mV W s, _, rfl, Or.inl (mh_at hW (Or.inr rfl)), by unfold mV; rw [hk]; rfl, k9⟩
theorem mgR (hW : mOK D W) {k : Nat} {K : Option Nat → Prop} (hk : mArr k = true) (k9 : K (some (W.1 k))) : g_R D (mh W s h) (some (W.1 100)) 2 k K := ⟨W.1 100, mV W s, _, rfl, Or.inl (mh_at hW (Or.inr rfl)), by unfold mV; rw [hk]; rfl, k9⟩
theorem mat_ (hW : mOK D W) {k : Nat} (hk : mArr k = true) : (mh W s h).2 (W.1 k) = some (c_ia (mty k) (mlen k) (fun i => zI (s.2 k (i : Int)))) := by
  rw [mh_at hW (Or.inl hk)]
  unfold mcell
  rw [if_neg (fun w => by rw [w] at hk; exact absurd hk (by decide))]
theorem mlen_lt (k : Nat) : mlen k ≤ 400 := by
  unfold mlen
  repeat' split
  all_goals omega
theorem maI (hW : mOK D W) {k t : Nat} {i : Int32} {z : Int} {K : Int32 → Prop} (hk : mArr k = true) (ht : mty k = t) (hi : i = zI z) {n : Int} (hn : (mlen k : Int) = n) (hz : 0 ≤ z ∧ z < n) (k9 : K (zI (s.2 k z))) : a_I D (mh W s h) (some (W.1 k)) t i K := by
  subst ht
  subst hi
  have := mlen_lt k
  refine ⟨W.1 k, _, _, rfl, Or.inl (mat_ hW hk), zI_in hz.1 (by omega) (by omega), ?_⟩
  show K (zI (s.2 k (((zI z).toNatClampNeg : Nat) : Int)))
  rw [zI_cl hz.1 (by omega), Int.toNat_of_nonneg hz.1]
  exact k9
theorem msI (hW : mOK D W) {k t : Nat} {i x : Int32} {z y : Int} {K : qH → Prop} (hk : mArr k = true) (ht : mty k = t) (hi : i = zI z) (hx : x = zI y) {n : Int} (hn : (mlen k : Int) = n) (hz : 0 ≤ z ∧ z < n) (k9 : K (mh W (mA s k z y) h)) : s_I (mh W s h) (some (W.1 k)) t i x K := by
  subst ht
  subst hi
  subst hx
  have := mlen_lt k
  refine ⟨W.1 k, _, _, rfl, mat_ hW hk, zI_in hz.1 (by omega) (by omega), ?_⟩
  have hne : k ≠ 100 := fun w => by rw [w] at hk; exact absurd hk (by decide)
  rw [mh_put hW (s' := mA s k z y) (Or.inl hk) ?_ (fun j hj => ?_)]
  · exact k9
  · unfold mcell
    rw [if_neg hne]
    congr 4
    funext q
    rw [zI_cl hz.1 (by omega)]
    simp only [upd, mA]
    by_cases hq : q = z.toNat
    · rw [if_pos hq, if_pos ⟨trivial, by omega⟩]
    · rw [if_neg hq, if_neg (fun w => hq (by omega))]
  · unfold mcell
    by_cases h1 : j = 100
    · rw [if_pos h1, if_pos h1]
      rfl
    · rw [if_neg h1, if_neg h1]
      congr 4
      funext q
      simp only [mA]
      rw [if_neg (fun w => hj w.1)]
theorem mpF (hW : mOK D W) {k : Nat} {x : Int32} {y : Int} {K : qH → Prop} (hk : mArr k = false) (hx : x = zI y) (k9 : K (mh W (mF s k y) h)) : p_F (mh W s h) (some (W.1 100)) 2 k (.int x) K := by
  subst hx
  refine ⟨W.1 100, mV W s, rfl, mh_at hW (Or.inr rfl), ?_⟩
  rw [mh_put hW (s' := mF s k y) (Or.inr rfl) ?_ (fun j hj => ?_)]
  · exact k9
  · unfold mcell
    rw [if_pos rfl]
    congr 2
    funext q
    simp only [updV, mV, mF]
    by_cases hq : q = k
    · subst hq
      rw [if_pos rfl, hk]
      simp
    · rw [if_neg hq]
      simp only [if_neg hq]
  · unfold mcell
    rw [if_neg hj, if_neg hj]
    rfl
theorem mrc (hW : mOK D W) : recv D (mh W s h) (some (W.1 100)) RX3 := ⟨W.1 100, _, rfl, Or.inl (mh_at hW (Or.inr rfl)), rfl⟩
/-! pure predicates of the model's methods -/
def pQI (W : mW) (h : qH) (K : Int → mS → Prop) : Option Value → qH → Prop := fun v h1 => ∃ (z : Int) (s2 : mS), v = some (.int (zI z)) ∧ bd z ∧ MB s2 ∧ h1 = mh W s2 h ∧ K z s2
def pQV (W : mW) (h : qH) (K : mS → Prop) : Option Value → qH → Prop := fun v h1 => ∃ s2 : mS, v = none ∧ MB s2 ∧ h1 = mh W s2 h ∧ K s2
def pI (D : qD) (W : mW) (X : String → qH → Prop) (M : qM) (as : List Int) (s : mS) (K : Int → mS → Prop) : Prop := ∀ h, MW D M (va_rf (some (W.1 100)) :: as.map fun z => .int (zI z)) (mh W s h) (pQI W h K) X
def pV (D : qD) (W : mW) (X : String → qH → Prop) (M : qM) (as : List Int) (s : mS) (K : mS → Prop) : Prop := ∀ h, MW D M (va_rf (some (W.1 100)) :: as.map fun z => .int (zI z)) (mh W s h) (pQV W h K) X
theorem mretI {K : Int → mS → Prop} {x : Int32} {z : Int} (hx : x = zI z) (hb : bd z) (hB : MB s) (k : K z s) : pQI W h K (some (.int x)) (mh W s h) := ⟨z, s, by rw [hx], hb, hB, rfl, k⟩
theorem mretV {K : mS → Prop} (hB : MB s) (k : K s) : pQV W h K none (mh W s h) := ⟨s, rfl, hB, rfl, k⟩
theorem mcI {M : qM} {as : List Int} {vs : List Value} {K : Int → mS → Prop} {Kf : Int32 → qH → Prop} (G : pI D W X M as s K) (hv : vs = as.map fun z => .int (zI z)) (k : ∀ z s2, bd z → MB s2 → K z s2 → Kf (zI z) (mh W s2 h)) : c_I D M (va_rf (some (W.1 100)) :: vs) (mh W s h) X Kf := by
  subst hv
  refine MW_imp (G h) fun v h1 hq => ?_
  obtain ⟨z, s2, e1, e2, e3, e4, e5⟩ := hq
  subst e4
  exact ⟨_, e1, k z s2 e2 e3 e5⟩
theorem mcV {M : qM} {as : List Int} {vs : List Value} {K : mS → Prop} {Kf : qH → Prop} (G : pV D W X M as s K) (hv : vs = as.map fun z => .int (zI z)) (k : ∀ s2, MB s2 → K s2 → Kf (mh W s2 h)) : c_V D M (va_rf (some (W.1 100)) :: vs) (mh W s h) X Kf := by
  subst hv
  refine MW_imp (G h) fun v h1 hq => ?_
  obtain ⟨s2, e1, e3, e4, e5⟩ := hq
  subst e4
  exact ⟨e1, k s2 e3 e5⟩
end MH
theorem mz_add {x y : Int32} {a b : Int} (h1 : x = zI a) (h2 : y = zI b) : x + y = zI (a + b) := by rw [h1, h2, zI_add]
theorem mz_sub {x y : Int32} {a b : Int} (h1 : x = zI a) (h2 : y = zI b) : x - y = zI (a - b) := by rw [h1, h2, zI_sub]
theorem mz_mul {x y : Int32} {a b : Int} (h1 : x = zI a) (h2 : y = zI b) : x * y = zI (a * b) := by rw [h1, h2, zI_mul]
theorem mz_div {x y : Int32} {a b : Int} (h1 : x = zI a) (h2 : y = zI b) (h : (0 ≤ a ∧ 0 < b) ∧ bd a ∧ bd b) : x / y = zI (a / b) := by rw [h1, h2, zI_div h.1.1 h.2.1.2 h.1.2 h.2.2.2]
theorem mz_rem {x y : Int32} {a b : Int} (h1 : x = zI a) (h2 : y = zI b) (h : (0 ≤ a ∧ 0 < b) ∧ bd a ∧ bd b) : x - x / y * y = zI (a % b) := by
  rw [mz_div h1 h2 h, h1, h2, zI_mul, zI_sub]
  congr 1
  rw [Int.emod_def, Int.mul_comm]
theorem mz_or {x y : Int32} {a b : Int} (h1 : x = zI a) (h2 : y = zI b) (h : (a = 0 ∨ a = 1) ∧ (b = 0 ∨ b = 1)) : x ||| y = zI (if a = 0 then b else a) := by
  obtain ⟨ha, hb⟩ := h
  subst h1
  subst h2
  rcases ha with rfl | rfl <;> rcases hb with rfl | rfl <;> decide
theorem mz_eq {x y : Int32} {a b : Int} (h1 : x = zI a) (h2 : y = zI b) (ha : bd a) (hb : bd b) : x = y ↔ a = b := by rw [h1, h2, zI_eq ha.1 ha.2 hb.1 hb.2]
theorem mz_lt {x y : Int32} {a b : Int} (h1 : x = zI a) (h2 : y = zI b) (ha : bd a) (hb : bd b) : x < y ↔ a < b := by rw [h1, h2, zI_lt ha.1 ha.2 hb.1 hb.2]
theorem mz_le {x y : Int32} {a b : Int} (h1 : x = zI a) (h2 : y = zI b) (ha : bd a) (hb : bd b) : x ≤ y ↔ a ≤ b := by rw [h1, h2, zI_le ha.1 ha.2 hb.1 hb.2]
theorem mz_01 {x : Int32} {a : Int} (h1 : x = zI a) (h : a = 0 ∨ a = 1) : x = 0 ∨ x = 1 := by
  rcases h with rfl | rfl
  · exact Or.inl h1
  · exact Or.inr h1
theorem bdl {z : Int} (h : (decide (-2147483648 ≤ z) && decide (z < 2147483648)) = true) : bd z := by
  simp only [Bool.and_eq_true, decide_eq_true_eq] at h
  exact h
