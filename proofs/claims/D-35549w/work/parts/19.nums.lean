set_option maxRecDepth 100000
/-! ints by their values -/
def zI (z : Int) : Int32 := Int32.ofInt z
theorem zI_toInt {z : Int} (h1 : -2147483648 ≤ z) (h2 : z < 2147483648) : (zI z).toInt = z := Int32.toInt_ofInt_of_le (by omega) (by omega)
theorem zI_add (a b : Int) : zI a + zI b = zI (a + b) := (Int32.ofInt_add a b).symm
theorem zI_sub (a b : Int) : zI a - zI b = zI (a - b) := (Int32.ofInt_sub a b).symm
theorem zI_mul (a b : Int) : zI a * zI b = zI (a * b) := (Int32.ofInt_mul a b).symm
theorem zI_neg (a : Int) : -zI a = zI (-a) := (Int32.ofInt_neg a).symm
theorem zI_lt {a b : Int} (h1 : -2147483648 ≤ a) (h2 : a < 2147483648) (h3 : -2147483648 ≤ b) (h4 : b < 2147483648) : zI a < zI b ↔ a < b := by
  rw [Int32.lt_iff_toInt_lt, zI_toInt h1 h2, zI_toInt h3 h4]
theorem zI_le {a b : Int} (h1 : -2147483648 ≤ a) (h2 : a < 2147483648) (h3 : -2147483648 ≤ b) (h4 : b < 2147483648) : zI a ≤ zI b ↔ a ≤ b := by
  rw [Int32.le_iff_toInt_le, zI_toInt h1 h2, zI_toInt h3 h4]
theorem zI_eq {a b : Int} (h1 : -2147483648 ≤ a) (h2 : a < 2147483648) (h3 : -2147483648 ≤ b) (h4 : b < 2147483648) : zI a = zI b ↔ a = b := by
  rw [← Int32.toInt_inj, zI_toInt h1 h2, zI_toInt h3 h4]
theorem zI_of (x : Int32) : ∃ z : Int, -2147483648 ≤ z ∧ z < 2147483648 ∧ x = zI z := ⟨x.toInt, Int32.le_toInt x, Int32.toInt_lt x, (Int32.ofInt_toInt x).symm⟩
theorem zI_div {a b : Int} (h1 : 0 ≤ a) (h2 : a < 2147483648) (h3 : 0 < b) (h4 : b < 2147483648) : zI a / zI b = zI (a / b) := by
  have hb : (zI b).toInt = b := zI_toInt (by omega) h4
  have ha : (zI a).toInt = a := zI_toInt (by omega) h2
  have h5 : 0 ≤ a / b := Int.ediv_nonneg h1 (by omega)
  have h6 : a / b ≤ a := Int.ediv_le_self b h1
  rw [← Int32.toInt_inj, Int32.toInt_div, ha, hb, zI_toInt (by omega) (by omega), Int.tdiv_eq_ediv_of_nonneg h1]
  exact Int.bmod_eq_of_le (by omega) (by omega)
theorem zI_n (n : Nat) : nI n = zI (n : Int) := (Int32.ofInt_eq_ofNat (n := n)).symm
theorem zI_cl {z : Int} (h1 : 0 ≤ z) (h2 : z < 2147483648) : (zI z).toNatClampNeg = z.toNat := by
  show (zI z).toInt.toNat = z.toNat
  rw [zI_toInt (by omega) h2]
theorem zI_in {z : Int} {n : Nat} (h1 : 0 ≤ z) (h2 : z < n) (h3 : z < 2147483648) : vp_in (zI z) n := by
  rintro (h | h)
  · have h9 : zI z < zI 0 := h
    rw [zI_lt (by omega) h3 (by omega) (by omega)] at h9
    omega
  · rw [zI_cl h1 h3] at h
    omega
theorem zl_0 : (0 : Int32) = zI 0 := rfl
theorem zl_1 : (1 : Int32) = zI 1 := rfl
theorem zl_2 : (2 : Int32) = zI 2 := rfl
theorem zl_3 : (3 : Int32) = zI 3 := rfl
theorem zl_4 : (4 : Int32) = zI 4 := rfl
theorem zl_5 : (5 : Int32) = zI 5 := rfl
theorem zl_6 : (6 : Int32) = zI 6 := rfl
theorem zl_7 : (7 : Int32) = zI 7 := rfl
theorem zl_8 : (8 : Int32) = zI 8 := rfl
theorem zl_9 : (9 : Int32) = zI 9 := rfl
theorem zl_10 : (10 : Int32) = zI 10 := rfl
theorem zl_11 : (11 : Int32) = zI 11 := rfl
theorem zl_12 : (12 : Int32) = zI 12 := rfl
theorem zl_13 : (13 : Int32) = zI 13 := rfl
theorem zl_14 : (14 : Int32) = zI 14 := rfl
theorem zl_15 : (15 : Int32) = zI 15 := rfl
theorem zl_16 : (16 : Int32) = zI 16 := rfl
theorem zl_17 : (17 : Int32) = zI 17 := rfl
theorem zl_18 : (18 : Int32) = zI 18 := rfl
theorem zl_19 : (19 : Int32) = zI 19 := rfl
theorem zl_20 : (20 : Int32) = zI 20 := rfl
theorem zl_99 : (99 : Int32) = zI 99 := rfl
theorem zl_100 : (100 : Int32) = zI 100 := rfl
theorem zl_120 : (120 : Int32) = zI 120 := rfl
theorem zl_126 : (126 : Int32) = zI 126 := rfl
theorem zl_127 : (127 : Int32) = zI 127 := rfl
theorem zl_128 : (128 : Int32) = zI 128 := rfl
theorem zl_250 : (250 : Int32) = zI 250 := rfl
theorem zl_398 : (398 : Int32) = zI 398 := rfl
theorem zl_399 : (399 : Int32) = zI 399 := rfl
theorem zl_400 : (400 : Int32) = zI 400 := rfl
theorem zl_999 : (999 : Int32) = zI 999 := rfl
theorem zl_1000 : (1000 : Int32) = zI 1000 := rfl
theorem zl_1001 : (1001 : Int32) = zI 1001 := rfl
theorem zl_m1 : (-1 : Int32) = zI (-1) := rfl
theorem zl_m128 : (-128 : Int32) = zI (-128) := rfl
theorem zl_m10 : (-10 : Int32) = zI (-10) := rfl
theorem zl_m9 : (-9 : Int32) = zI (-9) := rfl
theorem zl_m100 : (-100 : Int32) = zI (-100) := rfl
