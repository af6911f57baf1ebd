set_option maxRecDepth 100000
/-! messages: StringBuilder, by contract (what is in them is left open) -/
section SBS
variable {D : qD} {Q : Option Value → qH → Prop} {X : String → qH → Prop} {h h0 : qH} {a t sb cap cnt : Nat}
theorem gIc {c j : Nat} {V : Nat → Value} {x : Int32} {K : Int32 → Prop} (hc : q_cell D h a (c_ob c V)) (hv : V j = .int x) (k9 : K x) : g_I D h (some a) c j K := ⟨a, V, x, rfl, hc, hv, k9⟩
theorem gRc {c j : Nat} {V : Nat → Value} {x : Option Nat} {K : Option Nat → Prop} (hc : q_cell D h a (c_ob c V)) (hv : V j = va_rf x) (k9 : K x) : g_R D h (some a) c j K := ⟨a, V, x, rfl, hc, hv, k9⟩
theorem rcvc {e : qE} {C : String} (hc : q_cell D h a e) (hn : q_nm e = some C) : recv D h (some a) C := ⟨a, e, rfl, hc, hn⟩
theorem aIc {n t : Nat} {f : Nat → Int32} {i : Int32} {K : Int32 → Prop} (hc : q_cell D h a (c_ia t n f)) (hi : vp_in i n) (k9 : K (f i.toNatClampNeg)) : a_I D h (some a) t i K := ⟨a, n, f, rfl, hc, hi, k9⟩
theorem q_shr0 (x : Int32) : x >>> ((0 : Int32) &&& 31) = x := by
  rw [show ((0 : Int32) &&& 31) = 0 by decide]
  simp
theorem q_shl0 (x : Int32) : x <<< ((0 : Int32) &&& 31) = x := by
  rw [show ((0 : Int32) &&& 31) = 0 by decide]
  simp
def q_by (f : Nat → Int32) : Prop := ∀ i, -128 ≤ f i ∧ f i ≤ 127
theorem q_by8 (x : Int32) : -128 ≤ x.toInt8.toInt32 ∧ x.toInt8.toInt32 ≤ 127 := by
  refine ⟨Int32.le_iff_toInt_le.mpr ?_, Int32.le_iff_toInt_le.mpr ?_⟩
  · rw [Int8.toInt_toInt32]
    exact Int8.le_toInt _
  · rw [Int8.toInt_toInt32]
    exact Int8.toInt_le _
theorem q_by_upd {f : Nat → Int32} {i : Nat} {x : Int32} (hf : q_by f) : q_by (upd f i (x.toInt8.toInt32)) := by
  intro j
  by_cases hj : j = i
  · simp only [upd, hj, if_true]
    exact q_by8 x
  · simp only [upd, hj, if_false]
    exact hf j
theorem q_by_cpy {f g : Nat → Int32} {sp dp n : Nat} (hf : q_by f) (hg : q_by g) : q_by (va_cpy f g sp dp n) := by
  intro j
  simp only [va_cpy]
  by_cases hj : dp ≤ j ∧ j < dp + n
  · rw [if_pos hj]; exact hf _
  · rw [if_neg hj]; exact hg _
theorem q_by0 : q_by (fun _ => 0) := fun _ => (by decide : (-128 : Int32) ≤ 0 ∧ (0 : Int32) ≤ 127)
def q_le (h h' : qH) : Prop := ∀ a e, h.2 a = some e → h'.2 a = some e
theorem q_le.rf : q_le h h := fun _ _ q => q
theorem q_le.put {h0 h : qH} {a : Nat} {e : qE} (hl : q_le h0 h) (ha : h0.2 a = none) : q_le h0 (q_put h a e) := fun b x hb => by
  rw [put_ne (fun w => by rw [w, ha] at hb; cases hb)]
  exact hl b x hb
theorem q_le.new {h0 h : qH} {a c : Nat} {e : qE} (hl : q_le h0 h) (ha : h0.2 a = none) : q_le h0 (q_new h c a e) := fun b x hb => by
  rw [new_ne (fun w => by rw [w, ha] at hb; cases hb)]
  exact hl b x hb
theorem q_le.no {h0 h : qH} {a : Nat} (hl : q_le h0 h) (ha : h.2 a = none) : h0.2 a = none := by
  cases hx : h0.2 a with
  | none => rfl
  | some x => rw [hl a x hx] at ha; cases ha
def q_SB (h0 h : qH) (sb cap cnt : Nat) : Prop := q_le h0 h ∧ h0.2 sb = none ∧ ∃ (V : Nat → Value) (arr : Nat) (f : Nat → Int32), h.2 sb = some (c_ob 9 V) ∧ V 0 = .ref arr ∧ V 1 = .int 0 ∧ V 3 = .int (nI cnt) ∧ arr ≠ sb ∧ h0.2 arr = none ∧ h.2 arr = some (c_ia 2 cap f) ∧ q_by f ∧ cnt ≤ cap ∧ 16 ≤ cap ∧ cap ≤ 800
/-! the size of a number's text -/
def q_p10 : Nat → Int
  | 0 => 1
  | n + 1 => 10 * q_p10 n
theorem q_p10_lt : ∀ n, n < 10 → 1 ≤ q_p10 n ∧ q_p10 n ≤ 1000000000 := by decide
theorem j_ssloop {z d : Int} (hz : 0 ≤ z) (hz2 : z ≤ 2147483648) (hd : 0 ≤ d ∧ d ≤ 1) (hQ : ∀ n : Nat, 1 ≤ n → n ≤ 10 → (n = 10 ∨ z < q_p10 n) → Q (some (.int (zI (n + d)))) h) : ∀ (m n : Nat), n + m = 10 → 1 ≤ n → L_J18_stringSize_16 D Q X (zI (-z)) (zI d) (zI (-q_p10 n)) (zI n) h
  | 0, n, hn, h1 => f_J18_stringSize_16 _ _ _ _ h ⟨fun _ => by
      rw [zl_10, zI_add]
      exact hQ 10 (by omega) (by omega) (Or.inl rfl), fun w => absurd (by rw [zl_10, zI_le (by omega) (by omega) (by omega) (by omega)]; omega) w⟩
  | m + 1, n, hn, h1 => by
    have hp := q_p10_lt n (by omega)
    refine f_J18_stringSize_16 _ _ _ _ h ⟨fun w => ?_, fun _ => ⟨fun _ => ?_, fun w => ?_⟩⟩
    · rw [zl_10, zI_le (by omega) (by omega) (by omega) (by omega)] at w
      omega
    · rw [zl_10, zI_mul, zl_1, zI_add]
      have e1 : (10 : Int) * (-q_p10 n) = -q_p10 (n + 1) := by
        show _ = -(10 * q_p10 n)
        omega
      rw [e1]
      exact j_ssloop hz hz2 hd hQ m (n + 1) (by omega) (by omega)
    · rw [zI_le (by omega) (by omega) (by omega) (by omega)] at w
      rw [zI_add]
      exact hQ n h1 (by omega) (Or.inr (by omega))
/-- .. of z: n digits, and a sign -/
theorem j_stringSize {z : Int} (hz1 : -2147483648 ≤ z) (hz2 : z < 2147483648) (hQ : ∀ n : Nat, 1 ≤ n → n ≤ 10 → (n = 10 ∨ (-q_p10 n < z ∧ z < q_p10 n)) → Q (some (.int (zI (n + if z < 0 then 1 else 0)))) h) : MW D m_J18_stringSize [.int (zI z)] h Q X := by
  refine f_J18_stringSize _ h ⟨fun w => ?_, fun w => ?_⟩
  · rw [zl_0, zI_lt hz1 hz2 (by omega) (by omega)] at w
    refine f_J18_stringSize_11 _ _ h ?_
    have := j_ssloop (D := D) (X := X) (Q := Q) (h := h) (z := -z) (d := 1) (by omega) (by omega) (by omega) (fun n h1 h2 h3 => by
      have h9 := hQ n h1 h2 (h3.imp id (fun q => ⟨by omega, by have := q_p10_lt n; omega⟩))
      rw [if_pos w] at h9
      exact h9) 9 1 (by omega) (by omega)
    rw [Int.neg_neg] at this
    exact this
  · rw [zl_0, zI_lt hz1 hz2 (by omega) (by omega)] at w
    refine f_J18_stringSize_11 _ _ h ?_
    rw [zI_neg]
    exact j_ssloop (D := D) (X := X) (Q := Q) (h := h) (z := z) (d := 0) (by omega) (by omega) (by omega) (fun n h1 h2 h3 => by
      have h9 := hQ n h1 h2 (h3.imp id (fun q => ⟨by omega, q⟩))
      rw [if_neg w] at h9
      exact h9) 9 1 (by omega) (by omega)
end SBS
