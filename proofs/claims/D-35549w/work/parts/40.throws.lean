set_option maxRecDepth 100000
/-! what is asked of arguments, by contract -/
section TH
variable {D : qD} {Q : Option Value → qH → Prop} {X : String → qH → Prop} {h : qH}
def q_str (D : qD) (s : Nat) : Prop := ∃ i, i < 25 ∧ s = d_s D (100 + i)
theorem j_must {x : Int32} {s : Nat} (hcr : 2000 ≤ h.1) (hok : ¬ x = 0 → Q none h) (hno : x = 0 → ∀ h', q_le h h' → h.1 ≤ h'.1 + 2000 → X "java/lang/IllegalStateException" h') : MW D m_X1_must [.int x, va_rf (some s)] h Q X := by
  refine f_X1_must _ _ h ⟨hok, fun w => ⟨by omega, fun a ha => ⟨a, rfl, new_self, a, _, rfl, put_self, by simp [qXN], ?_⟩⟩⟩
  exact hno w _ ((q_le.rf.new ha).put ha) (by show h.1 ≤ h.1 - 2 + 2000; omega)
/-- an exception made behind its message -/
theorem j_thrown {E : String} {h2 h3 : qH} {a : Nat} (hE : E ∈ qXN) (ha : h.2 a = none) (hcr : h2 = q_new h 2 a (c_ex E false)) (hle : q_le h2 h3) (hc : h.1 ≤ h3.1 + 2000) (hX : ∀ h', q_le h h' → h.1 ≤ h'.1 + 2000 → X E h') : x_I h3 (some a) E (fun h16 => x_T h16 (some a) X) := by
  subst hcr
  have h9 : h3.2 a = some (c_ex E false) := hle a _ new_self
  refine ⟨a, rfl, h9, a, E, rfl, put_self, hE, hX _ ?_ hc⟩
  intro b e hb
  have hba : b ≠ a := fun w => by rw [w, ha] at hb; cases hb
  rw [put_ne hba]
  exact hle b e ((new_ne hba).trans hb)
theorem j_place (hD : q_DK D) {z n : Int} {s : Nat} (hs : q_str D s) (hz1 : -2147483648 ≤ z) (hz2 : z < 2147483648) (hn1 : -2147483648 ≤ n) (hn2 : n < 2147483648) (hcr : 2000 ≤ h.1) (hok : 0 ≤ z → z < n → Q (some (.int (zI z))) h) (hno : ¬ (0 ≤ z ∧ z < n) → ∀ h', q_le h h' → h.1 ≤ h'.1 + 2000 → X "java/lang/IndexOutOfBoundsException" h') : MW D m_X1_place [.int (zI z), .int (zI n), va_rf (some s)] h Q X := by
  have hL : ¬ (0 ≤ z ∧ z < n) → L_X1_place_9 D Q X (zI z) s h := by
    intro w
    obtain ⟨i, hi, rfl⟩ := hs
    refine f_X1_place_9 _ _ h ⟨by omega, fun a ha => ⟨by show _ ≤ h.1 - 2; omega, fun sb hsb => ?_⟩⟩
    refine j_sbInit (h0 := q_new h 2 a (c_ex "java/lang/IndexOutOfBoundsException" false)) new_self rfl (q_le.rf.new hsb) hsb (by show 5 ≤ h.1 - 2 - (1 + 4 / 4); omega) (fun h1 S1 c1 => ⟨rfl, ?_⟩)
    have c1 : h.1 - 2 - (1 + 4 / 4) ≤ h1.1 + 5 := c1
    have r1 : ∀ {h9 : qH} {cap cnt : Nat}, q_SB (q_new h 2 a (c_ex "java/lang/IndexOutOfBoundsException" false)) h9 sb cap cnt → recv D h9 (some sb) RJ10 := fun S => by
      obtain ⟨-, -, V, arr, f, e1, -⟩ := S
      exact rcv e1 rfl
    refine ⟨r1 S1, j_appS hD S1 (i := 1) (by omega) (by omega) (by omega) (fun h2 cap2 cnt2 S2 b2 c2 => ⟨_, rfl, r1 S2, ?_⟩)⟩
    refine j_appS hD S2 hi (by omega) (by omega) (fun h3 cap3 cnt3 S3 b3 c3 => ⟨_, rfl, r1 S3, ?_⟩)
    refine j_appS hD S3 (i := 2) (by omega) (by omega) (by omega) (fun h4 cap4 cnt4 S4 b4 c4 => ⟨_, rfl, r1 S4, ?_⟩)
    refine j_appI hD S4 hz1 hz2 (by omega) (by omega) (fun h5 cap5 cnt5 S5 b5 c5 => ⟨_, rfl, r1 S5, ?_⟩)
    refine j_toString S5 (by omega) (fun m h6 le6 c6 => ⟨_, rfl, ?_⟩)
    exact j_thrown (by simp [qXN]) ha rfl le6 (by omega) (hno w)
  refine f_X1_place _ _ _ h ⟨fun w => hL ?_, fun w => ⟨fun w2 => ?_, fun w2 => hL ?_⟩⟩
  · rw [zl_0, zI_lt hz1 hz2 (by omega) (by omega)] at w
    omega
  · rw [zl_0, zI_lt hz1 hz2 (by omega) (by omega)] at w
    rw [zI_lt hz1 hz2 hn1 hn2] at w2
    exact hok (by omega) w2
  · rw [zI_lt hz1 hz2 hn1 hn2] at w2
    omega
theorem j_isWithin (hD : q_DK D) {z lo hi : Int} (hz1 : -2147483648 ≤ z) (hz2 : z < 2147483648) (hn1 : -2147483648 ≤ lo) (hn2 : lo < 2147483648) (hm1 : -2147483648 ≤ hi) (hm2 : hi < 2147483648) (hcr : 2000 ≤ h.1) (hok : lo ≤ z → z ≤ hi → Q none h) (hno : ¬ (lo ≤ z ∧ z ≤ hi) → ∀ h', q_le h h' → h.1 ≤ h'.1 + 2000 → X "java/lang/IllegalArgumentException" h') : MW D m_X1_isWithin [.int (zI z), .int (zI lo), .int (zI hi)] h Q X := by
  have hL : ¬ (lo ≤ z ∧ z ≤ hi) → L_X1_isWithin_10 D Q X (zI z) (zI lo) (zI hi) h := by
    intro w
    refine f_X1_isWithin_10 _ _ _ h ⟨by omega, fun a ha => ⟨by show _ ≤ h.1 - 2; omega, fun sb hsb => ?_⟩⟩
    refine j_sbInit (h0 := q_new h 2 a (c_ex "java/lang/IllegalArgumentException" false)) new_self rfl (q_le.rf.new hsb) hsb (by show 5 ≤ h.1 - 2 - (1 + 4 / 4); omega) (fun h1 S1 c1 => ⟨rfl, ?_⟩)
    have c1 : h.1 - 2 - (1 + 4 / 4) ≤ h1.1 + 5 := c1
    have r1 : ∀ {h9 : qH} {cap cnt : Nat}, q_SB (q_new h 2 a (c_ex "java/lang/IllegalArgumentException" false)) h9 sb cap cnt → recv D h9 (some sb) RJ10 := fun S => by
      obtain ⟨-, -, V, arr, f, e1, -⟩ := S
      exact rcv e1 rfl
    refine ⟨r1 S1, j_appI hD S1 hz1 hz2 (by omega) (by omega) (fun h2 cap2 cnt2 S2 b2 c2 => ⟨_, rfl, r1 S2, ?_⟩)⟩
    refine j_appS hD S2 (i := 3) (by omega) (by omega) (by omega) (fun h3 cap3 cnt3 S3 b3 c3 => ⟨_, rfl, r1 S3, ?_⟩)
    refine j_appI hD S3 hn1 hn2 (by omega) (by omega) (fun h4 cap4 cnt4 S4 b4 c4 => ⟨_, rfl, r1 S4, ?_⟩)
    refine j_appS hD S4 (i := 4) (by omega) (by omega) (by omega) (fun h5 cap5 cnt5 S5 b5 c5 => ⟨_, rfl, r1 S5, ?_⟩)
    refine j_appI hD S5 hm1 hm2 (by omega) (by omega) (fun h6 cap6 cnt6 S6 b6 c6 => ⟨_, rfl, r1 S6, ?_⟩)
    refine j_toString S6 (by omega) (fun m h7 le7 c7 => ⟨_, rfl, ?_⟩)
    exact j_thrown (by simp [qXN]) ha rfl le7 (by omega) (hno w)
  refine f_X1_isWithin _ _ _ h ⟨fun w => hL ?_, fun w => ⟨fun w2 => ?_, fun w2 => hL ?_⟩⟩
  · rw [zI_lt hz1 hz2 hn1 hn2] at w
    omega
  · rw [zI_lt hz1 hz2 hn1 hn2] at w
    rw [zI_le hz1 hz2 hm1 hm2] at w2
    exact hok (by omega) w2
  · rw [zI_le hz1 hz2 hm1 hm2] at w2
    omega
end TH
