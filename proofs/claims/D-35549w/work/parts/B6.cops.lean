set_option maxRecDepth 100000
/-! the component's calls: roots, sheets, entries -/
section CO6
variable {D : qD} {C : mW} {xs : List Nat} {s : mS} {ks : List (List mR3)} {h : qH} {X : String → qH → Prop} {r : Int}
theorem x_rootOf (hT : TI s) {C : Nat → Nat} (hP : CP C xs s h) {v : Int} (hv : 0 ≤ v ∧ v < 10) {p : Int32} (hp : p = zI v) {K : Int32 → qH → Prop} (k9 : K (zI (mLast s v)) h) : recv D h (some (C 0)) RX1 ∧ c_I D m_X1_rootOf [va_rf (some (C 0)), .int p] h X K := by
  subst hp
  have hrc : recv D h (some (C 0)) RX1 := by
    obtain ⟨⟨V, a, -⟩, -⟩ := hP
    exact rcv a rfl
  refine ⟨hrc, f_X1_rootOf _ _ h ?_⟩
  obtain ⟨rk, r1, r2⟩ := hT.2.2.2.2.2.2.2.2.2.2.2
  have hL : ∀ (f : Nat) (v : Int), 0 ≤ v ∧ v < 10 → rk v < f → K (zI (mRootS s f v)) h → L_X1_rootOf_2 D (fun v h1 => ∃ r : Int32, v = some (.int r) ∧ K r h1) X (C 0) (zI v) h := by
    intro f
    induction f with
    | zero => intro v _ h; omega
    | succ f ih =>
      intro v hv hr hK
      have hb := hT.2.2.2.2.2.2.2.1 v hv.1 hv.2
      unfold mRootS at hK
      refine f_X1_rootOf_2 _ _ h (cp_sees hP (cp_see hP rfl hv.1 hv.2 ⟨fun w => ⟨_, rfl, ?_⟩, fun w => cp_sees hP (cp_see hP rfl hv.1 hv.2 ?_)⟩))
      · rw [zl_m1, zI_eq (by omega) (by omega) (by omega) (by omega)] at w
        rw [if_pos w] at hK
        exact hK
      · rw [zl_m1, zI_eq (by omega) (by omega) (by omega) (by omega)] at w
        rw [if_neg w] at hK
        exact ih _ ⟨by omega, by omega⟩ (by have := r2 v hv.1 hv.2 w; omega) hK
  exact hL 10 v hv (by have := r1 v hv.1 hv.2; omega) k9
def lIn (s : mS) (p : Int) : Int := (p - 1) % s.1 12
def lSh (s : mS) (p : Int) : Int := (if s.1 12 - 1 - lIn s p < lIn s p then s.1 12 - 1 - lIn s p else lIn s p) / 2
theorem lSh_eq (hT : TI s) {p : Int} : lSh s p = mWithin s p := by
  have h2 := Int.emod_nonneg (p - 1) (show s.1 12 ≠ 0 by have := hT.sig; omega)
  have h3 := Int.emod_lt_of_pos (p - 1) (show 0 < s.1 12 by have := hT.sig; omega)
  unfold lSh mWithin mQ lIn
  generalize (p - 1) % s.1 12 = m at *
  rcases hT.sig with e | e | e
  · rw [e] at h3 ⊢
    split <;> split <;> omega
  · rw [e] at h3 ⊢
    split <;> split <;> omega
  · rw [e] at h3 ⊢
    split <;> split <;> omega
theorem side_eq (hT : TI s) {p : Int} : mSideOf s p = if (lIn s p < s.1 12 / 2 ↔ lIn s p % 2 = 1) then 1 else 0 := by
  have h2 := Int.emod_nonneg (p - 1) (show s.1 12 ≠ 0 by have := hT.sig; omega)
  have h3 := Int.emod_lt_of_pos (p - 1) (show 0 < s.1 12 by have := hT.sig; omega)
  unfold mSideOf mWithin mQ lIn
  generalize (p - 1) % s.1 12 = m at *
  rcases hT.sig with e | e | e
  · rw [e] at h3 ⊢
    have : m = 0 ∨ m = 1 ∨ m = 2 ∨ m = 3 := by omega
    rcases this with rfl | rfl | rfl | rfl <;> decide
  · rw [e] at h3 ⊢
    have : m = 0 ∨ m = 1 ∨ m = 2 ∨ m = 3 ∨ m = 4 ∨ m = 5 ∨ m = 6 ∨ m = 7 := by omega
    rcases this with rfl | rfl | rfl | rfl | rfl | rfl | rfl | rfl <;> decide
  · rw [e] at h3 ⊢
    have : m = 0 ∨ m = 1 ∨ m = 2 ∨ m = 3 ∨ m = 4 ∨ m = 5 ∨ m = 6 ∨ m = 7 ∨ m = 8 ∨ m = 9 ∨ m = 10 ∨ m = 11 ∨ m = 12 ∨ m = 13 ∨ m = 14 ∨ m = 15 := by omega
    rcases this with rfl | rfl | rfl | rfl | rfl | rfl | rfl | rfl | rfl | rfl | rfl | rfl | rfl | rfl | rfl | rfl <;> decide
theorem odd_eq (hT : TI s) {p : Int} : (mQ s p = 2 * mWithin s p + 1 ∨ mQ s p = s.1 12 - 2 * mWithin s p - 1) ↔ lIn s p % 2 = 0 := by
  have h2 := Int.emod_nonneg (p - 1) (show s.1 12 ≠ 0 by have := hT.sig; omega)
  have h3 := Int.emod_lt_of_pos (p - 1) (show 0 < s.1 12 by have := hT.sig; omega)
  unfold mWithin mQ lIn
  generalize (p - 1) % s.1 12 = m at *
  rcases hT.sig with e | e | e
  · rw [e] at h3 ⊢
    split <;> omega
  · rw [e] at h3 ⊢
    split <;> omega
  · rw [e] at h3 ⊢
    split <;> omega
theorem x_sheetOf (hT : TI s) {C : Nat → Nat} (hP : CP C xs s h) {p w : Int} (hp : 1 ≤ p ∧ p ≤ 999) (hw : 0 ≤ w ∧ w ≤ 3) {q0 q1 : Int32} (hq0 : q0 = zI p) (hq1 : q1 = zI w) {K : Int32 → qH → Prop} (k9 : K (zI (mSheet s p w)) h) : recv D h (some (C 0)) RX1 ∧ c_I D m_X1_sheetOf [va_rf (some (C 0)), .int q0, .int q1] h X K := by
  subst hq0
  subst hq1
  have hrc : recv D h (some (C 0)) RX1 := by
    obtain ⟨⟨V, a, -⟩, -⟩ := hP
    exact rcv a rfl
  have hs := hT.sig
  have h13 := hT.2.2.2.2.2.2.2.2.2.1
  have hm1 : 0 ≤ lIn s p ∧ lIn s p < s.1 12 := ⟨Int.emod_nonneg (p - 1) (by omega), Int.emod_lt_of_pos (p - 1) (by omega)⟩
  have hsh : lSh s p = mWithin s p := lSh_eq hT
  have hwb := mWithin_bd hT (p := p)
  have hdv := mDivs hT hp
  have ein : (zI p - 1) - (zI p - 1) / zI (s.1 12) * zI (s.1 12) = zI (lIn s p) := mz_rem (a := p - 1) (by rw [zl_1, zI_sub]) rfl ⟨⟨by omega, by omega⟩, ⟨by omega, by omega⟩, ⟨by omega, by omega⟩⟩
  have h54 : ∀ f o : Int, (f = if lIn s p < s.1 12 / 2 then 1 else 0) → (o = if lIn s p % 2 = 1 then 1 else 0) → L_X1_sheetOf_54 D (fun v h1 => ∃ r : Int32, v = some (.int r) ∧ K r h1) X (C 0) (zI p) (zI w) (zI (lSh s p)) (zI f) (zI o) h := by
    intro f o hf ho
    have fb : f = 0 ∨ f = 1 := by rw [hf]; split <;> simp
    have ob : o = 0 ∨ o = 1 := by rw [ho]; split <;> simp
    unfold mSheet at k9
    refine f_X1_sheetOf_54 _ _ _ _ _ _ h ⟨fun w0 => cp_fp hP ⟨fun w2 => ?_, cp_fp hP ⟨_, rfl, ?_⟩⟩, fun w1 => ⟨fun w2 => ⟨_, rfl, ?_⟩, fun w2 => ⟨_, rfl, ?_⟩⟩, fun w1 => ⟨fun w2 => ⟨_, rfl, ?_⟩, fun w2 => ⟨_, rfl, ?_⟩⟩, fun w0 w1 w2 => cp_fc hP ⟨_, rfl, ?_⟩⟩
    · rw [zl_0, zI_eq (by omega) (by omega) (by omega) (by omega)] at w2
      omega
    · rw [zl_0, zI_eq (by omega) (by omega) (by omega) (by omega)] at w0
      rw [if_pos w0] at k9
      rw [zl_1, zl_4, zI_sub, zI_div (by omega) (by omega) (by omega) (by omega), zI_div (by omega) (by omega) (by omega) (by omega), zI_mul, zI_add, hsh]
      exact k9
    · rw [zl_1, zI_eq (by omega) (by omega) (by omega) (by omega)] at w1
      rw [zI_eq (by omega) (by omega) (by omega) (by omega)] at w2
      rw [if_neg (by omega), if_pos w1, side_eq hT, if_neg (fun z => by
        by_cases z1 : lIn s p < s.1 12 / 2
        · rw [if_pos z1] at hf; rw [if_pos (z.mp z1)] at ho; omega
        · rw [if_neg z1] at hf; rw [if_neg (fun z2 => z1 (z.mpr z2))] at ho; omega)] at k9
      exact k9
    · rw [zl_1, zI_eq (by omega) (by omega) (by omega) (by omega)] at w1
      rw [zI_eq (by omega) (by omega) (by omega) (by omega)] at w2
      rw [if_neg (by omega), if_pos w1, side_eq hT, if_pos (by
        constructor
        · intro z
          rw [if_pos z] at hf
          by_cases z2 : lIn s p % 2 = 1
          · exact z2
          · rw [if_neg z2] at ho; omega
        · intro z
          rw [if_pos z] at ho
          by_cases z2 : lIn s p < s.1 12 / 2
          · exact z2
          · rw [if_neg z2] at hf; omega)] at k9
      exact k9
    · rw [zl_2, zI_eq (by omega) (by omega) (by omega) (by omega)] at w1
      rw [zl_0, zI_eq (by omega) (by omega) (by omega) (by omega)] at w2
      have z2 : ¬ lIn s p % 2 = 1 := fun z => by rw [if_pos z] at ho; omega
      rw [if_neg (by omega), if_neg (by omega), if_pos w1, if_pos ((odd_eq hT).mpr (by omega))] at k9
      exact k9
    · rw [zl_2, zI_eq (by omega) (by omega) (by omega) (by omega)] at w1
      rw [zl_0, zI_eq (by omega) (by omega) (by omega) (by omega)] at w2
      have z2 : lIn s p % 2 = 1 := by
        by_cases z : lIn s p % 2 = 1
        · exact z
        · rw [if_neg z] at ho; omega
      rw [if_neg (by omega), if_neg (by omega), if_pos w1, if_neg (fun z => by have := (odd_eq hT).mp z; omega)] at k9
      exact k9
    · rw [zl_0, zI_eq (by omega) (by omega) (by omega) (by omega)] at w0
      rw [zl_1, zI_eq (by omega) (by omega) (by omega) (by omega)] at w1
      rw [zl_2, zI_eq (by omega) (by omega) (by omega) (by omega)] at w2
      rw [if_neg w0, if_neg w1, if_neg w2] at k9
      rw [zI_mul, hsh]
      exact k9
  have h40 : ∀ f : Int, (f = if lIn s p < s.1 12 / 2 then 1 else 0) → L_X1_sheetOf_40 D (fun v h1 => ∃ r : Int32, v = some (.int r) ∧ K r h1) X (C 0) (zI p) (zI w) (zI (lIn s p)) (zI (lSh s p)) (zI f) h := by
    intro f hf
    have e2 : zI (lIn s p) - zI (lIn s p) / 2 * 2 = zI (lIn s p % 2) := mz_rem rfl zl_2 ⟨⟨hm1.1, by omega⟩, ⟨by omega, by omega⟩, bdl rfl⟩
    refine f_X1_sheetOf_40 _ _ _ _ _ _ h ⟨fun w2 => h54 f 0 hf ?_, fun w2 => h54 f 1 hf ?_⟩
    · rw [e2, zl_1, zI_eq (by omega) (by omega) (by omega) (by omega)] at w2
      rw [if_neg w2]
    · rw [e2, zl_1, zI_eq (by omega) (by omega) (by omega) (by omega)] at w2
      rw [if_pos w2]
  have esh : (if ((zI (s.1 12) - 1) - zI (lIn s p)) < zI (lIn s p) then ((zI (s.1 12) - 1) - zI (lIn s p)) else zI (lIn s p)) / 2 = zI (lSh s p) := by
    rw [zl_1, zl_2, zI_sub, zI_sub]
    unfold lSh
    by_cases q : s.1 12 - 1 - lIn s p < lIn s p
    · rw [if_pos ((zI_lt (by omega) (by omega) (by omega) (by omega)).mpr q), if_pos q, zI_div (by omega) (by omega) (by omega) (by omega)]
    · rw [if_neg (fun z => q ((zI_lt (by omega) (by omega) (by omega) (by omega)).mp z)), if_neg q, zI_div (by omega) (by omega) (by omega) (by omega)]
  have e3 : zI (s.1 12) / 2 = zI (s.1 12 / 2) := by rw [zl_2, zI_div (by omega) (by omega) (by omega) (by omega)]
  refine ⟨hrc, f_X1_sheetOf _ _ _ h (cp_fp hP ⟨fun w2 => ?_, cp_fp hP (cp_fp hP ?_)⟩)⟩
  · rw [zl_0, zI_eq (by omega) (by omega) (by omega) (by omega)] at w2
    omega
  · rw [ein, esh, e3]
    refine ⟨fun w2 => h40 0 ?_, fun w2 => h40 1 ?_⟩
    · rw [zI_le (by omega) (by omega) (by omega) (by omega)] at w2
      rw [if_neg (by omega)]
    · rw [zI_le (by omega) (by omega) (by omega) (by omega)] at w2
      rw [if_pos (by omega)]
end CO6
