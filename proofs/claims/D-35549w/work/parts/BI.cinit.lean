set_option maxRecDepth 100000
/-! the component's constructor -/
/-- under way: the cells A k hold e k, c was spent -/
def IM (h0 : qH) (R : Nat → Prop) (A : Nat → Nat) (e : Nat → qE) (c : Nat) (h : qH) : Prop := h.1 + c = h0.1 ∧ (∀ k, R k → h.2 (A k) = some (e k)) ∧ (∀ i j, R i → R j → A i = A j → i = j) ∧ (∀ k, R k → k ≠ 0 → h0.2 (A k) = none) ∧ ∀ b, (∀ k, R k → b ≠ A k) → h.2 b = h0.2 b
/-- what they hold, n styles made -/
def IFs (t n : Nat) (A : Nat → Nat) (e : Nat → qE) : Prop :=
  A 0 = t ∧ (∃ V, e 0 = c_ob 0 V ∧ V 0 = va_rf (some (A 1)) ∧ V 1 = va_rf (some (A 2)) ∧ V 2 = va_rf (some (A 3)) ∧ V 3 = .int 10 ∧ V 4 = .int 5 ∧ V 5 = .int 1 ∧ V 6 = va_rf (some (A 4)) ∧ V 7 = .int 8 ∧ V 8 = .int 1 ∧ V 9 = va_rf (some (A 5)) ∧ V 10 = va_rf (some (A 6))) ∧
  e 1 = c_ls 0 [] ∧ (∃ f, e 2 = c_ra 5 6 f ∧ ∀ i, i < n → f i = some (A (10 + i))) ∧
  (∀ i, i < n → ∃ V, e (10 + i) = c_ob 1 V ∧ V 0 = va_rf none ∧ V 1 = .int (-1) ∧ V 2 = .int (-1)) ∧
  (∃ f, e 3 = c_ra 6 4 f ∧ ∀ i, i < 4 → f i = some (A (20 + i))) ∧ (∀ r, r < 4 → e (20 + r) = c_ia 0 4 (fun _ => 0)) ∧
  (∃ f, e 4 = c_ia 0 10 f) ∧ e 5 = c_ls 0 [] ∧ e 6 = c_ra 7 4 (fun _ => none)
def iR (n : Nat) (k : Nat) : Prop := k ≤ 6 ∨ (10 ≤ k ∧ k < 10 + n) ∨ (20 ≤ k ∧ k < 24)
section CIN
variable {D : qD} {h0 h : qH} {X : String → qH → Prop} {R : Nat → Prop} {A : Nat → Nat} {e : Nat → qE} {c t : Nat}
theorem IM.cg {R' : Nat → Prop} (i0 : IM h0 R A e c h) (hR : ∀ k, R' k ↔ R k) : IM h0 R' A e c h := by
  have : R' = R := funext fun k => propext (hR k)
  rw [this]
  exact i0
theorem IM.new (i0 : IM h0 R A e c h) {k a n : Nat} {x : qE} (hk : ¬ R k) (hk0 : k ≠ 0) (ha : h.2 a = none) (hc : c + n ≤ h0.1) : IM h0 (fun j => j = k ∨ R j) (fun j => if j = k then a else A j) (fun j => if j = k then x else e j) (c + n) (q_new h n a x) := by
  obtain ⟨h1, h2, h3, h4, h5⟩ := i0
  have haR : ∀ j, R j → A j ≠ a := fun j hj w => by
    have := h2 j hj
    rw [w, ha] at this
    cases this
  have hne : ∀ j, R j → j ≠ k := fun j hj w => hk (by rw [← w]; exact hj)
  refine ⟨by show h.1 - n + (c + n) = h0.1; omega, fun j hj => ?_, fun i j hi hj w => ?_, fun j hj hj0 => ?_, fun b hb => ?_⟩
  · by_cases hjk : j = k
    · simp only [if_pos hjk]
      exact new_self
    · simp only [if_neg hjk]
      have hj := hj.resolve_left hjk
      exact (new_ne (haR j hj)).trans (h2 j hj)
  · by_cases hik : i = k
    · by_cases hjk : j = k
      · rw [hik, hjk]
      · simp only [if_pos hik, if_neg hjk] at w
        exact absurd w.symm (haR j (hj.resolve_left hjk))
    · by_cases hjk : j = k
      · simp only [if_neg hik, if_pos hjk] at w
        exact absurd w (haR i (hi.resolve_left hik))
      · simp only [if_neg hik, if_neg hjk] at w
        exact h3 i j (hi.resolve_left hik) (hj.resolve_left hjk) w
  · by_cases hjk : j = k
    · simp only [if_pos hjk]
      rw [← h5 a (fun j hj => Ne.symm (haR j hj))]
      exact ha
    · simp only [if_neg hjk]
      exact h4 j (hj.resolve_left hjk) hj0
  · have h9 := hb k (Or.inl rfl)
    simp only [if_true] at h9
    rw [new_ne h9]
    refine h5 b (fun j hj => ?_)
    have := hb j (Or.inr hj)
    simp only [if_neg (hne j hj)] at this
    exact this
theorem IM.put (i0 : IM h0 R A e c h) {k : Nat} {x : qE} (hk : R k) : IM h0 R A (fun j => if j = k then x else e j) c (q_put h (A k) x) := by
  obtain ⟨h1, h2, h3, h4, h5⟩ := i0
  refine ⟨h1, fun j hj => ?_, h3, h4, fun b hb => ?_⟩
  · by_cases hjk : j = k
    · subst hjk
      simp only [if_true]
      exact put_self
    · simp only [if_neg hjk]
      exact (put_ne (fun w => hjk (h3 j k hj hk w))).trans (h2 j hj)
  · exact (put_ne (hb k hk)).trans (h5 b hb)
theorem IM.newM (i0 : IM h0 R A e c h) {a : Nat} (hk3 : ¬ R 3) (hk20 : ∀ j, 20 ≤ j → j < 24 → ¬ R j) (ha : ∀ b, a ≤ b → h.2 b = none) (hc : c + 5 ≤ h0.1) : IM h0 (fun j => j = 3 ∨ (20 ≤ j ∧ j < 24) ∨ R j) (fun j => if j = 3 then a else if 20 ≤ j ∧ j < 24 then a + 1 + (j - 20) else A j) (fun j => if j = 3 then c_ra 6 4 (fun j => if j < 4 then some (a + 1 + j) else none) else if 20 ≤ j ∧ j < 24 then c_ia 0 4 (fun _ => 0) else e j) (c + 5) (q_newM h a) := by
  obtain ⟨h1, h2, h3, h4, h5⟩ := i0
  have hlt : ∀ j, R j → A j < a := fun j hj => by
    apply Classical.byContradiction
    intro w
    have := h2 j hj
    rw [ha _ (by omega)] at this
    cases this
  have hne : ∀ j, R j → j ≠ 3 ∧ ¬ (20 ≤ j ∧ j < 24) := fun j hj => ⟨fun w => hk3 (by rw [← w]; exact hj), fun w => hk20 j w.1 w.2 hj⟩
  have hcell : ∀ b, (q_newM h a).2 b = if b = a then some (c_ra 6 4 (fun j => if j < 4 then some (a + 1 + j) else none)) else if a < b ∧ b ≤ a + 4 then some (c_ia 0 4 (fun _ => 0)) else h.2 b := fun b => by
    show (if b = a then _ else if a < b ∧ b ≤ a + 4 then _ else none : Option qE).or (h.2 b) = _
    by_cases q : b = a
    · rw [if_pos q, if_pos q]; rfl
    · rw [if_neg q, if_neg q]
      by_cases q2 : a < b ∧ b ≤ a + 4
      · rw [if_pos q2, if_pos q2]; rfl
      · rw [if_neg q2, if_neg q2]; rfl
  have hh0 : ∀ b, a ≤ b → h0.2 b = none := fun b hb => by
    rw [← h5 b (fun j hj w => by have := hlt j hj; omega)]
    exact ha b hb
  refine ⟨by show h.1 - 5 + (c + 5) = h0.1; omega, fun j hj => ?_, fun i j hi hj w => ?_, fun j hj hj0 => ?_, fun b hb => ?_⟩
  · rw [hcell]
    by_cases q : j = 3
    · simp only [if_pos q, if_true]
    · by_cases q2 : 20 ≤ j ∧ j < 24
      · simp only [if_neg q, if_pos q2]
        rw [if_neg (by omega), if_pos (by omega)]
      · simp only [if_neg q, if_neg q2]
        have hj := (hj.resolve_left q).resolve_left q2
        have := hlt j hj
        rw [if_neg (by omega), if_neg (by omega)]
        exact h2 j hj
  · by_cases q : i = 3
    · by_cases q' : j = 3
      · rw [q, q']
      · by_cases q2' : 20 ≤ j ∧ j < 24
        · simp only [if_pos q, if_neg q', if_pos q2'] at w
          omega
        · simp only [if_pos q, if_neg q', if_neg q2'] at w
          have := hlt j ((hj.resolve_left q').resolve_left q2')
          omega
    · by_cases q2 : 20 ≤ i ∧ i < 24
      · by_cases q' : j = 3
        · simp only [if_neg q, if_pos q2, if_pos q'] at w
          omega
        · by_cases q2' : 20 ≤ j ∧ j < 24
          · simp only [if_neg q, if_pos q2, if_neg q', if_pos q2'] at w
            omega
          · simp only [if_neg q, if_pos q2, if_neg q', if_neg q2'] at w
            have := hlt j ((hj.resolve_left q').resolve_left q2')
            omega
      · have hi := (hi.resolve_left q).resolve_left q2
        have := hlt i hi
        by_cases q' : j = 3
        · simp only [if_neg q, if_neg q2, if_pos q'] at w
          omega
        · by_cases q2' : 20 ≤ j ∧ j < 24
          · simp only [if_neg q, if_neg q2, if_neg q', if_pos q2'] at w
            omega
          · simp only [if_neg q, if_neg q2, if_neg q', if_neg q2'] at w
            exact h3 i j hi ((hj.resolve_left q').resolve_left q2') w
  · by_cases q : j = 3
    · simp only [if_pos q]
      exact hh0 a (Nat.le_refl _)
    · by_cases q2 : 20 ≤ j ∧ j < 24
      · simp only [if_neg q, if_pos q2]
        exact hh0 _ (by omega)
      · simp only [if_neg q, if_neg q2]
        exact h4 j ((hj.resolve_left q).resolve_left q2) hj0
  · have b3 := hb 3 (Or.inl rfl)
    simp only [if_true] at b3
    have b20 : ∀ j, j < 4 → b ≠ a + 1 + j := fun j hj => by
      have := hb (20 + j) (Or.inr (Or.inl ⟨by omega, by omega⟩))
      simp only [if_neg (show 20 + j ≠ 3 by omega), if_pos (show 20 ≤ 20 + j ∧ 20 + j < 24 by omega)] at this
      omega
    rw [hcell, if_neg b3, if_neg (fun q => b20 (b - a - 1) (by omega) (by omega))]
    refine h5 b (fun j hj => ?_)
    have := hb j (Or.inr (Or.inr hj))
    simp only [if_neg (hne j hj).1, if_neg (hne j hj).2] at this
    exact this
/-- a new empty list -/
theorem im_O (i0 : IM h0 R A e c h) {k : Nat} (hk : ¬ R k) (hk0 : k ≠ 0) (hc : c + 1 ≤ h0.1) {G : Nat → qH → Prop} (g : ∀ a h', IM h0 (fun j => j = k ∨ R j) (fun j => if j = k then a else A j) (fun j => if j = k then c_ls 0 [] else e j) (c + 1) h' → G a h') : n_O h 6 3 tyJ2 (fun a1 h2 => c_V D m_J2_init [va_rf (some a1)] h2 X (fun h3 => G a1 h3)) := by
  refine ⟨by have := i0.1; show 1 ≤ h.1; omega, fun a ha => j_init new_self rfl ⟨rfl, ?_⟩⟩
  have i1 := i0.new (k := k) (a := a) (n := 1) (x := c_ob 6 (fun k => defaultValue (tyJ2 k))) hk hk0 ha hc
  have i2 := i1.put (k := k) (x := c_ls 0 []) (Or.inl rfl)
  simp only [if_true] at i2
  refine g a _ ?_
  have e9 : (fun j => if j = k then c_ls 0 [] else if j = k then c_ob 6 (fun k => defaultValue (tyJ2 k)) else e j) = fun j => if j = k then c_ls 0 [] else e j := funext fun j => by
    by_cases hj : j = k
    · rw [if_pos hj, if_pos hj]
    · rw [if_neg hj, if_neg hj, if_neg hj]
  rw [← e9]
  exact i2
theorem im_F (i0 : IM h0 R A e c h) (h00 : R 0) (hA : A 0 = t) {V : Nat → Value} (hV : e 0 = c_ob 0 V) {k : Nat} {v : Value} {G : qH → Prop} (g : ∀ h', IM h0 R A (fun j => if j = 0 then c_ob 0 (updV V k v) else e j) c h' → G h') : p_F h (some t) 0 k v G := by
  have h9 := i0.2.1 0 h00
  subst hA
  refine pF (V := V) (c := 0) (by rw [h9, hV]) (g _ (i0.put h00))
theorem im_R (i0 : IM h0 R A e c h) {k : Nat} (hk : ¬ R k) (hk0 : k ≠ 0) {ty N : Nat} {n : Int32} (hn : n = nI N) (hN : N ≤ 100000) (hc : c + (1 + N / 4) ≤ h0.1) {G : Nat → qH → Prop} (g : ∀ a h', IM h0 (fun j => j = k ∨ R j) (fun j => if j = k then a else A j) (fun j => if j = k then c_ra ty N (fun _ => none) else e j) (c + (1 + N / 4)) h' → G a h') : n_R h ty n G :=
  ⟨N, hn, hN, by have := i0.1; omega, fun a ha => g a _ (i0.new hk hk0 ha hc)⟩
theorem im_I (i0 : IM h0 R A e c h) {k : Nat} (hk : ¬ R k) (hk0 : k ≠ 0) {ty N : Nat} {n : Int32} (hn : n = nI N) (hN : N ≤ 100000) (hc : c + (1 + N / 4) ≤ h0.1) {G : Nat → qH → Prop} (g : ∀ a h', IM h0 (fun j => j = k ∨ R j) (fun j => if j = k then a else A j) (fun j => if j = k then c_ia ty N (fun _ => 0) else e j) (c + (1 + N / 4)) h' → G a h') : n_I h ty n G :=
  ⟨N, hn, hN, by have := i0.1; omega, fun a ha => g a _ (i0.new hk hk0 ha hc)⟩
theorem im_M (i0 : IM h0 R A e c h) (hk3 : ¬ R 3) (hk20 : ∀ j, 20 ≤ j → j < 24 → ¬ R j) (hc : c + 5 ≤ h0.1) {G : Nat → qH → Prop} (g : ∀ a h', IM h0 (fun j => j = 3 ∨ (20 ≤ j ∧ j < 24) ∨ R j) (fun j => if j = 3 then a else if 20 ≤ j ∧ j < 24 then a + 1 + (j - 20) else A j) (fun j => if j = 3 then c_ra 6 4 (fun j => if j < 4 then some (a + 1 + j) else none) else if 20 ≤ j ∧ j < 24 then c_ia 0 4 (fun _ => 0) else e j) (c + 5) h' → G a h') : n_M h 4 4 G :=
  ⟨rfl, rfl, by have := i0.1; omega, fun a ha => g a _ (i0.newM hk3 hk20 ha hc)⟩
end CIN
