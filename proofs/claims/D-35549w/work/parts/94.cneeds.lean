set_option maxRecDepth 100000
/-! the component: what lines need, pages, the front -/
def lNeeds (c : mS) (i b : Int) : Int := mTakes c i b + (if (c.2 19 i ≠ 0 ∨ c.2 21 i ≠ 0) ∧ i + 1 < c.1 14 then mTakes c (i + 1) 1 else 0) + (if ((c.2 19 i ≠ 0 ∨ c.2 21 i ≠ 0) ∧ i + 1 < c.1 14) ∧ c.2 19 i ≠ 0 ∧ c.2 21 (i + 1) ≠ 0 then mTakes c (i + 2) 1 else 0)
def lDig (p : Int) : Int := if p ≤ 99 then (if p ≤ 9 then 1 else 2) else 3
def lPg (s c : mS) (i a : Int) : Int := a + c.2 17 i / s.1 10 + 1
def lFb (s c : mS) (a : Int) (x : Int × Int) (i : Int) : Int × Int := if c.2 19 i = 0 then x else if x.2 + lDig (lPg s c i a) ≤ s.1 9 then (x.1, x.2 + lDig (lPg s c i a)) else (x.1 + 1, lDig (lPg s c i a))
def lFbN (s c : mS) (a : Int) : Int := (iter (lFb s c a) (c.1 14).toNat (0, s.1 9)).1
def lFrontBy (s c : mS) (a : Int) : Int := mPagesOf s (lFbN s c a) + mPagesOf s (lFbN s c a) % 2
def lRests (s c : mS) : Nat → Int → Int
  | 0, _ => -1
  | f + 1, p => if lFrontBy s c p = p then p else lRests s c f (lFrontBy s c p)
/-- bounds -/
def LZ (v : lV) : Prop := (0 ≤ v.1.1 14 ∧ v.1.1 14 ≤ 64) ∧ ∀ i, 0 ≤ i → i < v.1.1 14 → (0 ≤ v.1.2 18 i ∧ v.1.2 18 i ≤ 256) ∧ (v.1.2 19 i = 0 ∨ v.1.2 19 i = 1) ∧ (v.1.2 21 i = 0 ∨ (v.1.2 21 i = 1 ∧ v.1.2 19 i = 0 ∧ i + 1 < v.1.1 14))
section CN
variable {D : qD} {C : Nat → Nat} {xs : List Nat} {s : mS} {A : Nat → Nat} {r : Int} {v : lV} {h : qH} {X : String → qH → Prop}
theorem lTakes_bd (hN : LZ v) {i b : Int} (h0 : 0 ≤ i) (h1 : i < v.1.1 14) : 1 ≤ mTakes v.1 i b ∧ mTakes v.1 i b ≤ 258 := by
  have := hN.2 i h0 h1
  unfold mTakes
  split
  · omega
  · split <;> omega
theorem x_takes (hN : LZ v) {x : Nat} (hL : LX A x r v h) {z b : Int} (h0 : 0 ≤ z) (h1 : z < v.1.1 14) (hb : bd b) {p : Int32} (hp : p = zI b) {K : Int32 → qH → Prop} (k9 : K (zI (mTakes v.1 z b)) h) : recv D h (some (A (5 + 3 * z.toNat))) RX6 ∧ c_I D m_X6_takes [va_rf (some (A (5 + 3 * z.toNat))), .int p] h X K := by
  subst hp
  obtain ⟨n1, n2, n3⟩ := hN.2 z h0 h1
  refine ⟨lrc hL h0 h1, f_X6_takes _ _ h (li4 hL h0 h1 (li0 hL h0 h1 ⟨fun w => ⟨_, rfl, ?_⟩, fun w => ⟨fun w2 => ⟨_, rfl, ?_⟩, fun w2 => ⟨_, rfl, ?_⟩⟩⟩))⟩
  all_goals unfold mTakes at k9
  · rw [zl_0, zI_eq (by omega) (by omega) (by omega) (by omega)] at w
    rw [if_pos w] at k9
    rw [zl_1, zl_0, zI_add, zI_add]
    exact k9
  · rw [zl_0, zI_eq (by omega) (by omega) (by omega) (by omega)] at w
    rw [zl_0, zI_eq hb.1 hb.2 (by omega) (by omega)] at w2
    rw [if_neg w, if_pos w2] at k9
    rw [zl_1, zl_0, zI_add, zI_add]
    exact k9
  · rw [zl_0, zI_eq (by omega) (by omega) (by omega) (by omega)] at w
    rw [zl_0, zI_eq hb.1 hb.2 (by omega) (by omega)] at w2
    rw [if_neg w, if_neg w2] at k9
    rw [zl_1, zI_add, zI_add]
    exact k9
theorem x_needs (hD : q_DK D) (hN : LZ v) {x : Nat} (hL : LX A x r v h) {z b : Int} (h0 : 0 ≤ z) (h1 : z < v.1.1 14) (hb : bd b) {p0 p : Int32} (hp0 : p0 = zI z) (hp : p = zI b) {K : Int32 → qH → Prop} (k9 : K (zI (lNeeds v.1 z b)) h) : recv D h (some (A 0)) RX5 ∧ c_I D m_X5_needs [va_rf (some (A 0)), .int p0, .int p] h X K := by
  subst hp0
  obtain ⟨n1, n2, n3⟩ := hN.2 z h0 h1
  have hn := hN.1
  refine ⟨hL.rc, ?_⟩
  have h123 : ∀ m a c : Int, (m = 0 ∨ (m = 1 ∧ z + 2 < v.1.1 14)) → lNeeds v.1 z b = c + a + (if m = 0 then 0 else mTakes v.1 (z + 2) 1) → L_X5_needs_123 D (fun v h1 => ∃ r : Int32, v = some (.int r) ∧ K r h1) X (A 0) (zI z) (zI m) (zI a) (zI c) h := by
    intro m a c hm he
    refine f_X5_needs_123 _ _ _ _ _ h ⟨fun w => ⟨_, rfl, ?_⟩, fun w => lf_lines hL (ln_get hD hL (z := z + 2) (by rw [zl_2, zI_add]) (by omega) ?_ (x_takes hN hL (by omega) ?_ (bdl rfl) zl_1 ⟨_, rfl, ?_⟩))⟩
    · rw [zl_0, zI_eq (by omega) (by omega) (by omega) (by omega)] at w
      rw [if_pos w] at he
      rw [zl_0, zI_add, zI_add, ← he]
      exact k9
    · rw [zl_0, zI_eq (by omega) (by omega) (by omega) (by omega)] at w
      omega
    · rw [zl_0, zI_eq (by omega) (by omega) (by omega) (by omega)] at w
      omega
    · rw [zl_0, zI_eq (by omega) (by omega) (by omega) (by omega)] at w
      rw [if_neg w] at he
      rw [zI_add, zI_add, ← he]
      exact k9
  have h88 : ∀ m a : Int, (m = 0 ∨ (m = 1 ∧ (v.1.2 19 z ≠ 0 ∨ v.1.2 21 z ≠ 0) ∧ z + 1 < v.1.1 14)) → (m = 0 → ¬ ((v.1.2 19 z ≠ 0 ∨ v.1.2 21 z ≠ 0) ∧ z + 1 < v.1.1 14)) → (a = 0 ∨ (a = 1 ∧ m = 1 ∧ v.1.2 19 z ≠ 0 ∧ v.1.2 21 (z + 1) ≠ 0)) → (a = 0 → ¬ (m = 1 ∧ v.1.2 19 z ≠ 0 ∧ v.1.2 21 (z + 1) ≠ 0)) → L_X5_needs_88 D (fun v h1 => ∃ r : Int32, v = some (.int r) ∧ K r h1) X (A 0) (zI z) p (some (A (5 + 3 * z.toNat))) (zI m) (zI a) h := by
    intro m a hm hm0 ha ha0
    have h2 : a = 1 → z + 2 < v.1.1 14 := by
      intro q
      have := (hN.2 (z + 1) (by omega) (by omega)).2.2
      omega
    have e : lNeeds v.1 z b = mTakes v.1 z b + (if m = 0 then 0 else mTakes v.1 (z + 1) 1) + (if a = 0 then 0 else mTakes v.1 (z + 2) 1) := by
      unfold lNeeds
      congr 1
      · congr 1
        by_cases q : m = 0
        · rw [if_pos q, if_neg (hm0 q)]
        · rw [if_neg q, if_pos ((hm.resolve_left q).2)]
      · by_cases q : a = 0
        · rw [if_pos q, if_neg]
          rintro ⟨q2, q3⟩
          refine ha0 q ⟨?_, q3⟩
          by_cases q4 : m = 0
          · exact absurd q2 (hm0 q4)
          · exact (hm.resolve_left q4).1
        · have h3 := ha.resolve_left q
          rw [if_neg q, if_pos]
          exact ⟨(hm.resolve_left (by omega)).2, h3.2.2⟩
    refine f_X5_needs_88 _ _ _ _ _ _ h (x_takes hN hL h0 h1 hb hp ⟨fun w => h123 a 0 _ (by omega) ?_, fun w => lf_lines hL (ln_get hD hL (z := z + 1) (by rw [zl_1, zI_add]) (by omega) ?_ (x_takes hN hL (by omega) ?_ (bdl rfl) zl_1 (h123 a _ _ (by omega) ?_)))⟩)
    · rw [zl_0, zI_eq (by omega) (by omega) (by omega) (by omega)] at w
      rw [e, if_pos w]
    · rw [zl_0, zI_eq (by omega) (by omega) (by omega) (by omega)] at w
      omega
    · rw [zl_0, zI_eq (by omega) (by omega) (by omega) (by omega)] at w
      omega
    · rw [zl_0, zI_eq (by omega) (by omega) (by omega) (by omega)] at w
      rw [e, if_neg w]
  have h48 : ∀ m : Int, (m = 0 ∨ (m = 1 ∧ (v.1.2 19 z ≠ 0 ∨ v.1.2 21 z ≠ 0) ∧ z + 1 < v.1.1 14)) → (m = 0 → ¬ ((v.1.2 19 z ≠ 0 ∨ v.1.2 21 z ≠ 0) ∧ z + 1 < v.1.1 14)) → L_X5_needs_48 D (fun v h1 => ∃ r : Int32, v = some (.int r) ∧ K r h1) X (A 0) (zI z) p (some (A (5 + 3 * z.toNat))) (zI m) h := by
    intro m hm hm0
    have h87 : ¬ (m = 1 ∧ v.1.2 19 z ≠ 0 ∧ v.1.2 21 (z + 1) ≠ 0) → L_X5_needs_87 D (fun v h1 => ∃ r : Int32, v = some (.int r) ∧ K r h1) X (A 0) (zI z) p (some (A (5 + 3 * z.toNat))) (zI m) h := fun q => f_X5_needs_87 _ _ _ _ _ h (h88 m 0 hm hm0 (Or.inl rfl) (fun _ => q))
    have n7 := fun w => (hN.2 (z + 1) (by omega) w).2.2
    refine f_X5_needs_48 _ _ _ _ _ h ⟨fun w => h87 ?_, fun w => li0 hL h0 h1 ⟨fun w2 => h87 ?_, fun w2 => ?_⟩⟩
    · rw [zl_0, zI_eq (by omega) (by omega) (by omega) (by omega)] at w
      omega
    · rw [zl_0, zI_eq (by omega) (by omega) (by omega) (by omega)] at w2
      exact fun q => q.2.1 w2
    · rw [zl_0, zI_eq (by omega) (by omega) (by omega) (by omega)] at w
      rw [zl_0, zI_eq (by omega) (by omega) (by omega) (by omega)] at w2
      have hm2 := hm.resolve_left w
      have n7 := n7 hm2.2.2
      refine lf_lines hL (ln_get hD hL (z := z + 1) (by rw [zl_1, zI_add]) (by omega) hm2.2.2 (li5 hL (by omega) hm2.2.2 ⟨fun w3 => h87 ?_, fun w3 => h88 m 1 hm hm0 (Or.inr ⟨rfl, hm2.1, w2, ?_⟩) (fun q => absurd q (by decide))⟩))
      · rw [zl_0, zI_eq (by omega) (by omega) (by omega) (by omega)] at w3
        exact fun q => q.2.2 w3
      · rw [zl_0, zI_eq (by omega) (by omega) (by omega) (by omega)] at w3
        exact w3
  have h47 : ¬ ((v.1.2 19 z ≠ 0 ∨ v.1.2 21 z ≠ 0) ∧ z + 1 < v.1.1 14) → L_X5_needs_47 D (fun v h1 => ∃ r : Int32, v = some (.int r) ∧ K r h1) X (A 0) (zI z) p (some (A (5 + 3 * z.toNat))) h := fun q => f_X5_needs_47 _ _ _ _ h (h48 0 (Or.inl rfl) (fun _ => q))
  have h28 : (v.1.2 19 z ≠ 0 ∨ v.1.2 21 z ≠ 0) → L_X5_needs_28 D (fun v h1 => ∃ r : Int32, v = some (.int r) ∧ K r h1) X (A 0) (zI z) p (some (A (5 + 3 * z.toNat))) h := by
    intro q
    refine f_X5_needs_28 _ _ _ _ h (lf_lines hL (ln_size hD hL ⟨fun w => h47 ?_, fun w => h48 1 (Or.inr ⟨rfl, q, ?_⟩) (fun q => absurd q (by decide))⟩))
    · rw [zl_1, zI_add, zI_le (by omega) (by omega) (by omega) (by omega)] at w
      omega
    · rw [zl_1, zI_add, zI_le (by omega) (by omega) (by omega) (by omega)] at w
      omega
  refine f_X5_needs _ _ _ h (lf_lines hL (ln_get hD hL rfl h0 h1 (li0 hL h0 h1 ⟨fun w => h28 (Or.inl ?_), fun w => li5 hL h0 h1 ⟨fun w2 => h47 ?_, fun w2 => h28 (Or.inr ?_)⟩⟩)))
  · rw [zl_0, zI_eq (by omega) (by omega) (by omega) (by omega)] at w
    exact w
  · rw [zl_0, zI_eq (by omega) (by omega) (by omega) (by omega)] at w
    rw [zl_0, zI_eq (by omega) (by omega) (by omega) (by omega)] at w2
    omega
  · rw [zl_0, zI_eq (by omega) (by omega) (by omega) (by omega)] at w2
    exact w2
end CN
