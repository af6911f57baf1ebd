set_option maxRecDepth 100000
/-! the component: the pages of a term -/
/-- a list of numbers made over h0 -/
def PB (h0 : qH) (a : Nat) (L : List Int) (h : qH) : Prop := q_le h0 h ∧ h0.2 a = none ∧ ∃ (k : Int32) (ys : List Nat), h.2 a = some (c_ls k ys) ∧ ys.length = L.length ∧ ∀ i, i < L.length → h.2 (ys.getD i 0) = some (c_bx (zI (L.getD i 0)))
/-- the pages met when the lines below i are done and, of line i, the tokens below t -/
def PGs (s : mS) (r m i t : Int) (L : List Int) : Prop := L.Pairwise (· < ·) ∧ (∀ q : Int, q ∈ L ↔ ∃ u : Int, 0 ≤ u ∧ u < s.1 0 ∧ lMk s r m u = true ∧ ((lLay s r).1.2 15 u < i ∨ ((lLay s r).1.2 15 u = i ∧ u < t)) ∧ lPage s r ((lLay s r).1.2 15 u) = q) ∧ ((L.length : Int) ≤ i ∨ ((L.length : Int) ≤ i + 1 ∧ ∃ L', L = L' ++ [lPage s r i]))
section CPG
variable {D : qD} {C : Nat → Nat} {xs : List Nat} {s : mS} {h h0 : qH} {X : String → qH → Prop} {r m i t : Int} {L : List Int} {A : Nat → Nat}
theorem PB.size (hD : q_DK D) {a : Nat} (hP : PB h0 a L h) {K : Int32 → qH → Prop} (k9 : K (zI L.length) h) : recv D h (some a) RJ2 ∧ c_I D m_J2_size [va_rf (some a)] h X K := by
  obtain ⟨p1, p2, k, ys, p3, p4, p5⟩ := hP
  exact ls_size hD p3 (by rw [p4]; exact k9)
theorem PB.empty (hD : q_DK D) {a : Nat} (hP : PB h0 a L h) (hl : L.length < 1000) {K : Int32 → qH → Prop} (k9 : K (if L = [] then 1 else 0) h) : recv D h (some a) RJ2 ∧ c_I D m_J2_isEmpty [va_rf (some a)] h X K := by
  obtain ⟨p1, p2, k, ys, p3, p4, p5⟩ := hP
  refine ls_isEmpty hD p3 (by omega) ?_
  have : (ys = []) ↔ (L = []) := by rw [← List.length_eq_zero_iff, ← List.length_eq_zero_iff, p4]
  by_cases hL : L = []
  · rw [if_pos (this.mpr hL)]
    rw [if_pos hL] at k9
    exact k9
  · rw [if_neg (fun q => hL (this.mp q))]
    rw [if_neg hL] at k9
    exact k9
theorem PB.get (hD : q_DK D) {a : Nat} (hP : PB h0 a L h) {p : Int32} {z : Int} (hp : p = zI z) (z0 : 0 ≤ z) (z1 : z < L.length) {K : Int32 → qH → Prop} (k9 : K (zI (L.getD z.toNat 0)) h) : recv D h (some a) RJ2 ∧ c_R D m_J2_get [va_rf (some a), .int p] h X (fun r h3 => q_cast D h3 r "java/lang/Integer" ∧ (recv D h3 r RJ18 ∧ c_I D m_J18_intValue [va_rf r] h3 X K)) := by
  obtain ⟨p1, p2, k, ys, p3, p4, p5⟩ := hP
  refine ls_get hD p3 hp z0 (by omega) ?_
  have hbx := p5 z.toNat (by omega)
  exact ⟨Or.inr ⟨_, _, "java/lang/Integer", rfl, Or.inl hbx, rfl, Or.inl rfl⟩, rcv hbx rfl, j_intValue hbx ⟨_, rfl, k9⟩⟩
theorem PB.add (hD : q_DK D) {a : Nat} (hP : PB h0 a L h) {z : Int} (hz : bd z) {p0 : Int32} (hp0 : p0 = zI z) (hl : L.length ≤ 64) (hcr : 26 ≤ h.1) {K : Int32 → qH → Prop} (k9 : ∀ h', PB h0 a (L ++ [z]) h' → h.1 ≤ h'.1 + 26 → K 1 h') : c_R D m_J18_valueOf [.int p0] h X (fun r3 h2 => (recv D h2 (some a) RJ2 ∧ c_I D m_J2_add_2 [va_rf (some a), va_rf r3] h2 X K)) := by
  subst hp0
  obtain ⟨p1, p2, k, ys, p3, p4, p5⟩ := hP
  refine j_valueOf hD hz.1 hz.2 (by omega) fun y hy => ⟨_, rfl, ?_⟩
  have hg1 : q_le h (h.1 - 1, (q_put h y (c_bx (zI z))).2) := fun b e hb => by
    show (if b = y then some (c_bx (zI z)) else h.2 b) = some e
    by_cases hby : b = y
    · rw [if_pos hby]
      rcases hy with w | w
      · rw [hby, w] at hb; cases hb
      · rw [hby, w] at hb; exact hb
    · rw [if_neg hby]; exact hb
  have hgy : ((h.1 - 1, (q_put h y (c_bx (zI z))).2) : qH).2 y = some (c_bx (zI z)) := if_pos rfl
  have hc1 : ((h.1 - 1, (q_put h y (c_bx (zI z))).2) : qH).1 = h.1 - 1 := rfl
  generalize ((h.1 - 1, (q_put h y (c_bx (zI z))).2) : qH) = g1 at *
  have hc := hg1 _ _ p3
  have hya : y ≠ a := fun w => by rw [w, hc] at hgy; cases hgy
  have hbox : ∀ y ∈ ys, ∃ u, g1.2 y = some (c_bx u) := fun y hy => by
    obtain ⟨i, hi, rfl⟩ := mem_getD hy
    exact ⟨_, hg1 _ _ (p5 i (by omega))⟩
  refine ⟨rls hc, j_add hD hc (fun w => ?_) hya hgy rfl q1562 (fun z hz => ?_) (by omega) (by omega) (fun c' c1 c2 => ⟨_, rfl, k9 _ ⟨(p1.tr hg1).put p2, p2, k + 1, ys ++ [y], put_self, by rw [List.length_append, List.length_append, p4]; rfl, fun i hi => ?_⟩ (by show h.1 ≤ c' + 26; omega)⟩)⟩
  · obtain ⟨u, hu⟩ := hbox _ w
    rw [hc] at hu
    cases hu
  · obtain ⟨u, hu⟩ := hbox z hz
    exact ⟨_, _, hu, rfl, q1562⟩
  · rw [List.length_append] at hi
    have hi : i < L.length + 1 := hi
    rw [getDA, getDA, p4]
    have hput : ∀ {b : Nat} {e : qE}, b ≠ a → g1.2 b = some e → ((c', (q_put g1 a (c_ls (k + 1) (ys ++ [y]))).2) : qH).2 b = some e := fun hb he => (put_ne hb).trans he
    by_cases hil : i < L.length
    · rw [if_pos hil, if_pos hil]
      have h9 := hg1 _ _ (p5 i hil)
      exact hput (fun w => by rw [w, hc] at h9; cases h9) h9
    · rw [if_neg hil, if_neg hil, if_pos (by omega), if_pos (by omega)]
      exact hput hya hgy
theorem PG_0 (hb : ∀ u : Int, 0 ≤ u → u < s.1 0 → -1 ≤ (lLay s r).1.2 15 u) : PGs s r m 0 0 [] := by
  refine ⟨List.Pairwise.nil, fun q => ⟨fun w => absurd w List.not_mem_nil, ?_⟩, Or.inl (Int.le_refl _)⟩
  rintro ⟨u, u0, u1, u2, u3, -⟩
  have h1 := (of_decide_eq_true u2).2.1
  have := hb u u0 u1
  omega
theorem PG_no (h : PGs s r m i t L) (hc : ¬ (lMk s r m t = true ∧ (lLay s r).1.2 15 t = i)) : PGs s r m i (t + 1) L := by
  obtain ⟨h1, h2, h3⟩ := h
  refine ⟨h1, fun q => (h2 q).trans ⟨?_, ?_⟩, h3⟩
  · rintro ⟨u, u0, u1, u2, u3, u4⟩
    exact ⟨u, u0, u1, u2, by omega, u4⟩
  · rintro ⟨u, u0, u1, u2, u3, u4⟩
    refine ⟨u, u0, u1, u2, ?_, u4⟩
    rcases u3 with u3 | ⟨u3, u5⟩
    · exact Or.inl u3
    · by_cases hu : u = t
      · subst hu
        exact absurd ⟨u2, u3⟩ hc
      · exact Or.inr ⟨u3, by omega⟩
theorem PG_same {L' : List Int} (h : PGs s r m i t L) (hL : L = L' ++ [lPage s r i]) : PGs s r m i (t + 1) L := by
  obtain ⟨h1, h2, h3⟩ := h
  refine ⟨h1, fun q => ⟨fun w => ?_, ?_⟩, h3⟩
  · obtain ⟨u, u0, u1, u2, u3, u4⟩ := (h2 q).mp w
    exact ⟨u, u0, u1, u2, by omega, u4⟩
  · rintro ⟨u, u0, u1, u2, u3, u4⟩
    rcases u3 with u3 | ⟨u3, u5⟩
    · exact (h2 q).mpr ⟨u, u0, u1, u2, Or.inl u3, u4⟩
    · rw [← u4, u3, hL]
      simp
theorem PG_add (hmono : ∀ u : Int, 0 ≤ u → u < s.1 0 → lMk s r m u = true → (lLay s r).1.2 15 u ≤ i → lPage s r ((lLay s r).1.2 15 u) ≤ lPage s r i) (h0 : 0 ≤ t) (h1 : t < s.1 0) (h : PGs s r m i t L) (hc : lMk s r m t = true ∧ (lLay s r).1.2 15 t = i) (hL : ∀ L', L ≠ L' ++ [lPage s r i]) : PGs s r m i (t + 1) (L ++ [lPage s r i]) := by
  obtain ⟨h1', h2, h3⟩ := h
  have hle : ∀ q ∈ L, q ≤ lPage s r i := fun q hq => by
    obtain ⟨u, u0, u1, u2, u3, u4⟩ := (h2 q).mp hq
    rw [← u4]
    exact hmono u u0 u1 u2 (by omega)
  refine ⟨?_, fun q => ?_, Or.inr ⟨?_, L, rfl⟩⟩
  · rw [List.pairwise_append]
    refine ⟨h1', List.pairwise_singleton _ _, fun a ha b hb => ?_⟩
    rw [List.mem_singleton] at hb
    subst hb
    rcases List.eq_nil_or_concat L with w | ⟨L', z, w⟩
    · rw [w] at ha
      cases ha
    · rw [List.concat_eq_append] at w
      have hz : z ∈ L := by rw [w]; simp
      have hzl := hle z hz
      have hzn : z ≠ lPage s r i := fun q => hL L' (by rw [w, q])
      rw [w] at ha
      rcases List.mem_append.mp ha with ha | ha
      · rw [w, List.pairwise_append] at h1'
        have := h1'.2.2 a ha z (by simp)
        omega
      · rw [List.mem_singleton] at ha
        omega
  · rw [List.mem_append, List.mem_singleton]
    constructor
    · rintro (w | w)
      · obtain ⟨u, u0, u1, u2, u3, u4⟩ := (h2 q).mp w
        exact ⟨u, u0, u1, u2, by omega, u4⟩
      · exact ⟨t, h0, h1, hc.1, Or.inr ⟨hc.2, by omega⟩, by rw [hc.2, w]⟩
    · rintro ⟨u, u0, u1, u2, u3, u4⟩
      rcases u3 with u3 | ⟨u3, u5⟩
      · exact Or.inl ((h2 q).mpr ⟨u, u0, u1, u2, Or.inl u3, u4⟩)
      · by_cases hu : u = t
        · exact Or.inr (by rw [← u4, u3])
        · exact Or.inl ((h2 q).mpr ⟨u, u0, u1, u2, Or.inr ⟨u3, by omega⟩, u4⟩)
  · rw [List.length_append]
    have : ([lPage s r i] : List Int).length = 1 := rfl
    rcases h3 with w | ⟨-, L', w⟩
    · omega
    · exact absurd w (hL L')
theorem PG_line (ht : s.1 0 ≤ t) (h : PGs s r m i t L) : PGs s r m (i + 1) 0 L := by
  obtain ⟨h1, h2, h3⟩ := h
  refine ⟨h1, fun q => (h2 q).trans ⟨?_, ?_⟩, Or.inl (by omega)⟩
  · rintro ⟨u, u0, u1, u2, u3, u4⟩
    exact ⟨u, u0, u1, u2, by omega, u4⟩
  · rintro ⟨u, u0, u1, u2, u3, u4⟩
    exact ⟨u, u0, u1, u2, by omega, u4⟩
end CPG
