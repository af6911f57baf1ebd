set_option maxRecDepth 100000
/-! messages: the digits; StringBuilder's methods -/
section SBT
variable {D : qD} {Q : Option Value → qH → Prop} {X : String → qH → Prop} {h h0 : qH} {a t sb cap cnt arr n : Nat}
/-- h' is h but for the bytes of arr -/
def q_ar (h h' : qH) (arr n : Nat) : Prop := ∃ f : Nat → Int32, q_by f ∧ h'.1 = h.1 ∧ h'.2 arr = some (c_ia 2 n f) ∧ ∀ b, b ≠ arr → h'.2 b = h.2 b
theorem q_ar.put {h h' : qH} {i : Nat} {x : Int32} (hh : q_ar h h' arr n) : ∀ f, h'.2 arr = some (c_ia 2 n f) → q_ar h (q_put h' arr (c_ia 2 n (upd f i (x.toInt8.toInt32)))) arr n := by
  obtain ⟨f, h1, h2, h3, h4⟩ := hh
  intro f' hf'
  rw [h3] at hf'
  cases hf'
  exact ⟨_, q_by_upd h1, h2, put_self, fun b hb => (put_ne hb).trans (h4 b hb)⟩
theorem zI_divn {z : Int} (h1 : 0 ≤ z) (h2 : z ≤ 2147483648) : zI (-z) / zI 100 = zI (-(z / 100)) := by
  have hb : (zI 100).toInt = 100 := zI_toInt (by omega) (by omega)
  have ha : (zI (-z)).toInt = -z := zI_toInt (by omega) (by omega)
  rw [← Int32.toInt_inj, Int32.toInt_div, ha, hb, zI_toInt (by omega) (by omega), Int.neg_tdiv, Int.tdiv_eq_ediv_of_nonneg h1]
  exact Int.bmod_eq_of_le (by omega) (by omega)
theorem j_gc104 {h1 : qH} {c g : Int} (hn : n ≤ 1000) (hh : q_ar h h1 arr n) (hg : g = 0 ∨ g = 1) (hc : g ≤ c) (hc2 : c ≤ n) (hQ : ∀ x h2, q_ar h h2 arr n → Q (some (.int x)) h2) : L_J18_getChars_104 D Q X arr (zI c) (zI g) h1 := by
  refine f_J18_getChars_104 _ _ _ h1 ⟨fun _ => hQ _ _ hh, fun w => ?_⟩
  have hg1 : g = 1 := by
    rcases hg with rfl | rfl
    · exact absurd rfl w
    · rfl
  have hh2 := hh
  obtain ⟨f, b1, b2, b3, b4⟩ := hh2
  rw [zl_m1, zI_add]
  exact ⟨arr, n, f, rfl, b3, zI_in (by omega) (by omega) (by omega), hQ _ _ (hh.put f b3)⟩
theorem j_gc22 (hD : q_DK D) (hn : n ≤ 1000) {g : Int} (hg : g = 0 ∨ g = 1) (hQ : ∀ x h2, q_ar h h2 arr n → Q (some (.int x)) h2) : ∀ (m k : Nat) (z c : Int) (h1 : qH), k ≤ m → 1 ≤ k → k ≤ 10 → 0 ≤ z → z ≤ 2147483648 → z < q_p10 k → g + k ≤ c → c ≤ n → q_ar h h1 arr n → L_J18_getChars_22 D Q X (zI (-z)) arr (zI c) (zI g) h1
  | 0, k, z, c, h1, hk, hk1, _, _, _, _, _, _, _ => by omega
  | m + 1, k, z, c, h1, hk, hk1, hk2, hz, hz2, hz3, hc, hc2, hh => by
    have hh2 := hh
    obtain ⟨f, b1, b2, b3, b4⟩ := hh2
    obtain ⟨f2, t1, t2⟩ := hD.2.2.1
    obtain ⟨f3, o1, o2⟩ := hD.2.2.2.1
    refine f_J18_getChars_22 _ _ _ _ h1 ⟨fun w => ?_, fun w => ?_⟩
    · rw [zl_m100, zI_lt (by omega) (by omega) (by omega) (by omega)] at w
      rw [zI_neg, Int.neg_neg, zl_m1, zI_add]
      refine aIc (Or.inr o1) (zI_in (by omega) (by omega) (by omega)) ?_
      refine ⟨arr, n, f, rfl, b3, zI_in (by omega) (by omega) (by omega), ?_⟩
      have hh3 := hh.put (i := (zI (c + -1)).toNatClampNeg) (x := f3 (zI z).toNatClampNeg) f b3
      refine ⟨fun w2 => j_gc104 hn hh3 hg (by omega) (by omega) hQ, fun w2 => ?_⟩
      rw [zl_m9, zI_le (by omega) (by omega) (by omega) (by omega)] at w2
      have hk3 : 2 ≤ k := by
        rcases Nat.lt_or_ge k 2 with h9 | h9
        · have : k = 1 := by omega
          subst this
          have : q_p10 1 = 10 := rfl
          omega
        · exact h9
      rw [zI_add]
      refine aIc (Or.inr t1) (zI_in (by omega) (by omega) (by omega)) ?_
      refine ⟨arr, n, _, rfl, put_self, zI_in (by omega) (by omega) (by omega), ?_⟩
      exact j_gc104 hn (hh3.put _ put_self) hg (by omega) (by omega) hQ
    · rw [zl_m100, zI_lt (by omega) (by omega) (by omega) (by omega)] at w
      have hk3 : 3 ≤ k := by
        rcases Nat.lt_or_ge k 3 with h9 | h9
        · have : k = 1 ∨ k = 2 := by omega
          rcases this with rfl | rfl
          · have : q_p10 1 = 10 := rfl
            omega
          · have : q_p10 2 = 100 := rfl
            omega
        · exact h9
      have hp : q_p10 k = 100 * q_p10 (k - 2) := by
        obtain ⟨j, rfl⟩ : ∃ j, k = j + 2 := ⟨k - 2, by omega⟩
        show 10 * (10 * q_p10 j) = 100 * q_p10 (j + 2 - 2)
        rw [Nat.add_sub_cancel]
        omega
      have e9 : zI (-z) / 100 * 100 - zI (-z) = zI (z - z / 100 * 100) := by
        rw [zl_100, zI_divn hz hz2, zI_mul, zI_sub]
        congr 1
        omega
      have e8 : zI (-z) / 100 = zI (-(z / 100)) := by rw [zl_100, zI_divn hz hz2]
      rw [e9, e8, zl_m1, zI_add, zI_add]
      refine aIc (Or.inr o1) (zI_in (by omega) (by omega) (by omega)) ?_
      refine ⟨arr, n, f, rfl, b3, zI_in (by omega) (by omega) (by omega), ?_⟩
      have hh3 := hh.put (i := (zI (c + -1)).toNatClampNeg) (x := f3 (zI (z - z / 100 * 100)).toNatClampNeg) f b3
      refine aIc (Or.inr t1) (zI_in (by omega) (by omega) (by omega)) ?_
      refine ⟨arr, n, _, rfl, put_self, zI_in (by omega) (by omega) (by omega), ?_⟩
      refine j_gc22 hD hn hg hQ m (k - 2) (z / 100) (c + -1 + -1) _ (by omega) (by omega) (by omega) (by omega) (by omega) (by omega) (by omega) (by omega) (hh3.put _ put_self)
theorem j_getChars (hD : q_DK D) (hn : n ≤ 1000) {f : Nat → Int32} (ha : h.2 arr = some (c_ia 2 n f)) (hf : q_by f) {z c : Int} {k : Nat} (hz1 : -2147483648 ≤ z) (hz2 : z < 2147483648) (hk1 : 1 ≤ k) (hk2 : k ≤ 10) (hk3 : k = 10 ∨ (-q_p10 k < z ∧ z < q_p10 k)) (hc : (k : Int) + (if z < 0 then 1 else 0) ≤ c) (hc2 : c ≤ n) (hQ : ∀ x h2, q_ar h h2 arr n → Q (some (.int x)) h2) : MW D m_J18_getChars [.int (zI z), .int (zI c), va_rf (some arr)] h Q X := by
  have hh : q_ar h h arr n := ⟨f, hf, rfl, ha, fun _ _ => rfl⟩
  have hp10 : q_p10 10 = 10000000000 := by decide
  refine f_J18_getChars _ _ _ h ⟨fun w => ?_, fun w => ?_⟩
  · rw [zl_0, zI_le (by omega) (by omega) (by omega) (by omega)] at w
    rw [if_neg (by omega)] at hc
    refine f_J18_getChars_12 _ _ _ _ h ⟨fun q => absurd rfl q, fun _ => ?_⟩
    rw [zI_neg]
    have hzk : z < q_p10 k := by
      rcases hk3 with rfl | h9
      · omega
      · exact h9.2
    exact j_gc22 hD hn (g := 0) (Or.inl rfl) hQ k k z c h (Nat.le_refl _) hk1 hk2 (by omega) (by omega) hzk (by omega) hc2 hh
  · rw [zl_0, zI_le (by omega) (by omega) (by omega) (by omega)] at w
    rw [if_pos (by omega)] at hc
    refine f_J18_getChars_12 _ _ _ _ h ⟨fun _ => ?_, fun q => absurd q (by decide)⟩
    have hzk : -z < q_p10 k := by
      rcases hk3 with rfl | h9
      · omega
      · omega
    have h9 := j_gc22 (D := D) (X := X) hD hn (g := 1) (Or.inr rfl) hQ k k (-z) c h (Nat.le_refl _) hk1 hk2 (by omega) (by omega) hzk (by omega) hc2 hh
    rw [Int.neg_neg] at h9
    exact h9
end SBT
