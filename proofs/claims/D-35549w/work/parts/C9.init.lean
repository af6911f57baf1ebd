set_option maxRecDepth 100000
/-! the law's start: the two objects and the array made -/
/-- the model's roles alone -/
def gW (W : mW) : mW := (W.1, fun b => match W.2 b with | some k => if (mArr k || k == 100) = true then some k else none | none => none)
/-- the component's overlay with the model's cells and the array -/
def gC (C W : mW) (o : Nat) : mW := (fun k => if k < 1000 then C.1 k else if k = 2000 then o else W.1 (k - 1000), fun b => if b = o then some 2000 else match (gW W).2 b with | some k => some (1000 + k) | none => match C.2 b with | some k => if k < 1000 then some k else none | none => none)
theorem mRole_b {k : Nat} : (mArr k || k == 100) = true ↔ mRole k := by
  unfold mRole
  rw [Bool.or_eq_true, beq_iff_eq]
theorem gW_iff {W : mW} {b k : Nat} : (gW W).2 b = some k ↔ W.2 b = some k ∧ mRole k := by
  show (match W.2 b with | some k => if (mArr k || k == 100) = true then some k else none | none => none) = some k ↔ _
  cases h : W.2 b with
  | none =>
    constructor
    · intro q; cases q
    · intro q; cases q.1
  | some j =>
    show (if (mArr j || j == 100) = true then some j else none) = some k ↔ _
    by_cases hj : (mArr j || j == 100) = true
    · rw [if_pos hj]
      constructor
      · intro q; cases q; exact ⟨rfl, mRole_b.mp hj⟩
      · intro q; exact q.1
    · rw [if_neg hj]
      constructor
      · intro q; cases q
      · intro q
        cases q.1
        exact absurd (mRole_b.mpr q.2) hj
theorem gC_iff {C W : mW} {o b k : Nat} : (gC C W o).2 b = some k ↔ (b = o ∧ k = 2000) ∨ (b ≠ o ∧ ∃ j, (gW W).2 b = some j ∧ k = 1000 + j) ∨ (b ≠ o ∧ (gW W).2 b = none ∧ C.2 b = some k ∧ k < 1000) := by
  show (if b = o then some 2000 else match (gW W).2 b with | some k => some (1000 + k) | none => match C.2 b with | some k => if k < 1000 then some k else none | none => none) = some k ↔ _
  by_cases hb : b = o
  · rw [if_pos hb]
    constructor
    · intro q; cases q; exact Or.inl ⟨hb, rfl⟩
    · rintro (⟨-, rfl⟩ | ⟨q, -⟩ | ⟨q, -⟩)
      · rfl
      · exact absurd hb q
      · exact absurd hb q
  · rw [if_neg hb]
    cases hg : (gW W).2 b with
    | some j =>
      show some (1000 + j) = some k ↔ _
      constructor
      · intro q; cases q; exact Or.inr (Or.inl ⟨hb, j, rfl, rfl⟩)
      · rintro (⟨q, -⟩ | ⟨-, j', q, rfl⟩ | ⟨-, q, -⟩)
        · exact absurd q hb
        · cases q; rfl
        · cases q
    | none =>
      show (match C.2 b with | some k => if k < 1000 then some k else none | none => none) = some k ↔ _
      cases hc : C.2 b with
      | none =>
        constructor
        · intro q; cases q
        · rintro (⟨q, -⟩ | ⟨-, j', q, -⟩ | ⟨-, -, q, -⟩)
          · exact absurd q hb
          · cases q
          · cases q
      | some j =>
        show (if j < 1000 then some j else none) = some k ↔ _
        by_cases hj : j < 1000
        · rw [if_pos hj]
          constructor
          · intro q; cases q; exact Or.inr (Or.inr ⟨hb, rfl, rfl, hj⟩)
          · rintro (⟨q, -⟩ | ⟨-, j', q, -⟩ | ⟨-, -, q, -⟩)
            · exact absurd q hb
            · cases q
            · exact q
        · rw [if_neg hj]
          constructor
          · intro q; cases q
          · rintro (⟨q, -⟩ | ⟨-, j', q, -⟩ | ⟨-, -, q, q2⟩)
            · exact absurd q hb
            · cases q
            · cases q; exact absurd q2 hj
section GI
variable {D : qD} {C0 W : mW} {h1 h4 : qH} {o : Nat}
theorem j_glue (hS0 : SC C0 [] mInit [] h1) (w1 : ∀ k, mRole k → W.2 (W.1 k) = some k) (w2 : ∀ b k, W.2 b = some k → b = W.1 k) (hr : ∀ k, mRole k → h1.2 (W.1 k) = none ∧ h4.2 (W.1 k) = some (mcell W mInit k) ∧ ∀ x, ¬ d_ro D (W.1 k) x) (ho : h1.2 o = none) (ho4 : h4.2 o = some (c_la 1 (fun _ => 0))) (hle : q_le h1 h4) :
    mOK D (gW W) ∧ JW (gC C0 W o) (gW W) ∧ JJ (gC C0 W o) (gW W) [] mInit [] mInit (fun _ => 0) h4 := by
  have hne : ∀ k, mRole k → W.1 k ≠ o := fun k hk w => by
    have h9 := (hr k hk).2.1
    rw [w, ho4] at h9
    have h9 := Option.some.inj h9
    unfold mcell at h9
    split at h9 <;> cases h9
  have g1 : ∀ k, mRole k → (gW W).2 (W.1 k) = some k := fun k hk => gW_iff.mpr ⟨w1 k hk, hk⟩
  have k1 : ∀ k, mRole k → (gC C0 W o).1 (1000 + k) = W.1 k := fun k hk => by
    have := mRole_lt hk
    show (if 1000 + k < 1000 then C0.1 (1000 + k) else if 1000 + k = 2000 then o else W.1 (1000 + k - 1000)) = W.1 k
    rw [if_neg (by omega), if_neg (by omega), Nat.add_sub_cancel_left]
  have k2 : ∀ k, k < 1000 → (gC C0 W o).1 k = C0.1 k := fun k hk => if_pos hk
  have k3 : (gC C0 W o).1 2000 = o := rfl
  have c1 : ∀ k, mRole k → (gC C0 W o).2 (W.1 k) = some (1000 + k) := fun k hk => gC_iff.mpr (Or.inr (Or.inl ⟨hne k hk, k, g1 k hk, rfl⟩))
  have c2 : (gC C0 W o).2 ((gC C0 W o).1 2000) = some 2000 := gC_iff.mpr (Or.inl ⟨rfl, rfl⟩)
  have up : ∀ b k, (gC C0 W o).2 b = some k → 1000 ≤ k → (b = o ∧ k = 2000) ∨ ∃ j, mRole j ∧ k = 1000 + j ∧ b = W.1 j := by
    intro b k hb hk
    rcases gC_iff.mp hb with q | ⟨-, j, q, rfl⟩ | ⟨-, -, -, q⟩
    · exact Or.inl q
    · obtain ⟨q1, q2⟩ := gW_iff.mp q
      exact Or.inr ⟨j, q2, rfl, w2 b j q1⟩
    · omega
  obtain ⟨cc, g, u1, u2, u3, -⟩ := id hS0
  have hin : ∀ k, cRole k → h1.2 (C0.1 k) = some (cc k) := fun k hk => by
    rw [u1]
    exact cov_at u2 hk
  refine ⟨⟨fun k hk => ⟨g1 k hk, (hr k hk).2.2⟩, fun b k hb => w2 b k (gW_iff.mp hb).1⟩, ⟨fun b k hb => (gW_iff.mp hb).2, fun k hk => ⟨k1 k hk, c1 k hk⟩, c2, fun k hk hk2 => ?_⟩, ?_, fun k hk => (hr k hk).2.1, ho4⟩
  · rcases up _ k hk2 hk with ⟨-, q⟩ | ⟨j, q1, q2, -⟩
    · exact Or.inl q
    · exact Or.inr ⟨j, q1, q2⟩
  · refine SC.glue TI_init hS0 hle k2 (fun k hk => ?_) (fun b k hb => ?_) (fun k hk hk2 => ?_)
    · have hx := hin k hk
      have hlt : k < 1000 := by unfold cRole at hk; omega
      refine gC_iff.mpr (Or.inr (Or.inr ⟨fun w => ?_, ?_, u2.c hk, hlt⟩))
      · rw [w, ho] at hx
        cases hx
      · cases hw : (gW W).2 (C0.1 k) with
        | none => rfl
        | some j =>
          obtain ⟨q1, q2⟩ := gW_iff.mp hw
          rw [w2 _ j q1, (hr j q2).1] at hx
          cases hx
    · rcases gC_iff.mp hb with ⟨rfl, rfl⟩ | ⟨q0, j, q, rfl⟩ | ⟨q0, q1, q, q2⟩
      · exact ⟨rfl, Or.inr ⟨by omega, c2⟩⟩
      · obtain ⟨q1, q2⟩ := gW_iff.mp q
        have e := w2 b j q1
        refine ⟨by rw [k1 j q2]; exact e, Or.inr ⟨by omega, ?_⟩⟩
        rw [k1 j q2]
        exact c1 j q2
      · obtain ⟨e, f⟩ := u2.1.2 b k q
        refine ⟨by rw [k2 k q2]; exact e, ?_⟩
        rcases f with f | ⟨f, -⟩
        · exact Or.inl f
        · omega
    · rcases up _ k hk2 hk with ⟨q, -⟩ | ⟨j, q1, -, q⟩
      · rw [q]
        exact ⟨ho, _, ho4, Or.inr (Or.inr ⟨_, _, rfl⟩)⟩
      · rw [q]
        exact ⟨(hr j q1).1, _, (hr j q1).2.1, mcell_mcl⟩
/-- what lies in the heap isn't read-only -/
theorem wa_ro {M : qM} {Q : Option Value → qH → Prop} {X : String → qH → Prop} {pc : Nat} {lv : List (Nat × Value)} {st : List Value} {h : qH} (k : (∀ a e, h.2 a = some e → q_isbx e = false → ∀ x, ¬ d_ro D a x) → WA D M Q X pc lv st h) : WA D M Q X pc lv st h := by
  intro p e s m args below meth c F H locs ls hA hS hl
  refine k (fun a x ha hb => ?_) p e s m args below meth c F H locs ls hA hS hl
  obtain ⟨K, -, -, -, h4, -⟩ := hA
  have hB := ((h4 a x ha).2 hb).1
  intro y hx
  have := (fx_ro F a y hx).1
  omega
theorem mcell_bx {s : mS} {k : Nat} : q_isbx (mcell W s k) = false := by
  unfold mcell
  split <;> rfl
theorem mdef {k : Nat} (hk : k < 38) (hm : mArr k = false) : defaultValue (tyX3 k) = .int 0 := by
  have : k = 0 ∨ k = 1 ∨ k = 2 ∨ k = 3 ∨ k = 4 ∨ k = 5 ∨ k = 6 ∨ k = 7 ∨ k = 8 ∨ k = 9 ∨ k = 10 ∨ k = 11 ∨ k = 12 ∨ k = 13 ∨ k = 14 ∨ k = 15 ∨ k = 16 ∨ k = 17 ∨ k = 18 ∨ k = 19 ∨ k = 20 ∨ k = 21 ∨ k = 22 ∨ k = 23 ∨ k = 24 ∨ k = 25 ∨ k = 26 ∨ k = 27 ∨ k = 28 ∨ k = 29 ∨ k = 30 ∨ k = 31 ∨ k = 32 ∨ k = 33 ∨ k = 34 ∨ k = 35 ∨ k = 36 ∨ k = 37 := by omega
  rcases this with rfl | rfl | rfl | rfl | rfl | rfl | rfl | rfl | rfl | rfl | rfl | rfl | rfl | rfl | rfl | rfl | rfl | rfl | rfl | rfl | rfl | rfl | rfl | rfl | rfl | rfl | rfl | rfl | rfl | rfl | rfl | rfl | rfl | rfl | rfl | rfl | rfl | rfl <;> first | rfl | (cases hm; done)
theorem law_init {Q : Option Value → qH → Prop} {X : String → qH → Prop} {b L : Nat} {g : Nat → Int} {h : qH} (hD : q_DK D) (hs : SCR D b L g) (hL : L ≤ 320) (hg : ∀ i, bd (g i)) (hQ : ∀ h, Q (some (.int 1)) h) (hc : 1160000 ≤ h.1) : WA D m_L_law Q X 0 [(0, va_rf (some b))] [] h := by
  refine f_L_law b h ⟨by omega, fun a ha => ?_⟩
  refine x_X1_init new_self (by show 1000 ≤ h.1 - _; omega) (fun C0 h1 c0 hS0 hC0 hk0 hc1 => ⟨rfl, ?_⟩)
  have hc1 : h.1 - (1 + 11 / 4) ≤ h1.1 + 1000 := hc1
  refine ⟨by omega, fun m hm => ?_⟩
  refine j_X3_init new_self (fun k hk hk2 => mdef hk hk2) (by show 1000 ≤ h1.1 - _; omega) (fun W w0 w1 w2 w3 w4 => ⟨rfl, ?_⟩)
  refine ⟨1, rfl, by omega, by show 1 + 1 / 4 ≤ h1.1 - _ - 580; omega, fun o ho => ?_⟩
  show WA D m_L_law Q X 23 _ [] _
  refine wa_ro fun hro => ?_
  generalize hh2 : q_new h1 (1 + 38 / 4) m (c_ob 2 fun k => defaultValue (tyX3 k)) = h2 at w3 w4 ho hro
  have e2 : h2.1 = h1.1 - (1 + 38 / 4) := by rw [← hh2]; rfl
  have hle2 : q_le h1 h2 := by rw [← hh2]; exact q_le.rf.new hm
  have hm2 : ∀ b, h2.2 b = none → h1.2 b = none := fun b hb => q_le.no hle2 hb
  have hle3 : q_le h1 (mh W mInit (h2.1 - 580, h2.2)) := by
    intro b x hb
    have hn : W.2 b = none := by
      cases hx : W.2 b with
      | none => rfl
      | some k =>
        rcases w4 b k hx with q | q
        · rw [q, hm] at hb; cases hb
        · rw [hm2 b q] at hb; cases hb
    rw [mh_ov, ov_bg hn]
    exact hle2 b x hb
  have hle4 := hle3.new (c := 1 + 1 / 4) (e := c_la 1 (fun _ => 0)) (q_le.no hle3 ho)
  have hr3 : ∀ k, mRole k → (mh W mInit (h2.1 - 580, h2.2)).2 (W.1 k) = some (mcell W mInit k) := fun k hk => by
    rw [mh_ov]
    exact ov_in (w1 k hk)
  have hr4 : ∀ k, mRole k → (q_new (mh W mInit (h2.1 - 580, h2.2)) (1 + 1 / 4) o (c_la 1 (fun _ => 0))).2 (W.1 k) = some (mcell W mInit k) := fun k hk => by
    rw [new_ne]
    · exact hr3 k hk
    · intro w
      have := hr3 k hk
      rw [w, ho] at this
      cases this
  have hr5 : ∀ k, mRole k → h1.2 (W.1 k) = none := fun k hk => by
    rcases hk with hk | hk
    · exact hm2 _ (w3 k hk)
    · rw [hk, w0]
      exact hm
  obtain ⟨q1, q2, q3⟩ := j_glue (D := D) (h4 := q_new (mh W mInit (h2.1 - 580, h2.2)) (1 + 1 / 4) o (c_la 1 (fun _ => 0))) hS0 w1 w2 (fun k hk => ⟨hr5 k hk, hr4 k hk, hro _ _ (hr4 k hk) mcell_bx⟩) (q_le.no hle3 ho) new_self hle4
  have hfin := law_loop (Q := Q) (X := X) hD q1 q2 hs hL hg hQ 64 0 _ rfl ⟨[], mInit, [], fun _ => 0, q3, TI_init, MB_init, KR_init, by show (0 : Int) ≤ 0; omega, by show 18000 * 64 ≤ h2.1 - 580 - (1 + 1 / 4); omega⟩
  have f1 : (gC C0 W o).1 0 = a := c0
  have f2 : (gW W).1 100 = m := w0
  have f3 : (gC C0 W o).1 2000 = o := rfl
  rw [f1, f2, f3] at hfin
  exact hfin
end GI
