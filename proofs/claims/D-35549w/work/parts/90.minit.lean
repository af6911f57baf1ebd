set_option maxRecDepth 100000
/-! the model's constructor -/
/-- under way: R the arrays made, A where, f what they hold, V the object's fields, c what was spent -/
def IN (h0 : qH) (t : Nat) (R : List Nat) (A : Nat → Nat) (f : Nat → Nat → Int32) (V : Nat → Value) (c : Nat) (h : qH) : Prop :=
  h.1 + c = h0.1 ∧ h.2 t = some (c_ob 2 V) ∧ (∀ k, k ∈ R → A k ≠ t ∧ h0.2 (A k) = none ∧ h.2 (A k) = some (c_ia (mty k) (mlen k) (f k))) ∧ (∀ i j, i ∈ R → j ∈ R → A i = A j → i = j) ∧ ∀ b, b ≠ t → (∀ k, k ∈ R → b ≠ A k) → h.2 b = h0.2 b
section INI
variable {h0 h : qH} {t c : Nat} {R : List Nat} {A : Nat → Nat} {f : Nat → Nat → Int32} {V : Nat → Value}
theorem IN_new (i0 : IN h0 t R A f V c h) {k : Nat} (hk : k ∉ R) {ty N : Nat} {n : Int32} (hty : mty k = ty) (hN : mlen k = N) (hn : n = nI N) (hN2 : N ≤ 100000) (hc : c + (1 + N / 4) ≤ h0.1) {G : Nat → qH → Prop} (g : ∀ a h', IN h0 t (k :: R) (fun j => if j = k then a else A j) (fun j => if j = k then fun _ => 0 else f j) V (c + (1 + N / 4)) h' → G a h') : n_I h ty n G := by
  obtain ⟨h1, h2, h3, h4, h5⟩ := i0
  refine ⟨N, hn, hN2, by omega, fun a ha => g a _ ?_⟩
  have hat : a ≠ t := fun w => by rw [w, h2] at ha; cases ha
  have haR : ∀ j, j ∈ R → A j ≠ a := fun j hj w => by
    have := (h3 j hj).2.2
    rw [w, ha] at this
    cases this
  have ha0 : h0.2 a = none := by rw [← h5 a hat (fun j hj => Ne.symm (haR j hj))]; exact ha
  refine ⟨by show h.1 - (1 + N / 4) + (c + (1 + N / 4)) = h0.1; omega, (new_ne (Ne.symm hat)).trans h2, fun j hj => ?_, fun i j hi hj w => ?_, fun b hb hbR => ?_⟩
  · by_cases hjk : j = k
    · subst hjk
      simp only [if_true]
      subst hty
      subst hN
      exact ⟨hat, ha0, new_self⟩
    · simp only [if_neg hjk]
      have hj : j ∈ R := by
        rcases List.mem_cons.mp hj with q | q
        · exact absurd q hjk
        · exact q
      obtain ⟨a1, a2, a3⟩ := h3 j hj
      exact ⟨a1, a2, (new_ne (haR j hj)).trans a3⟩
  · have hin : ∀ j, j ∈ k :: R → j ≠ k → j ∈ R := fun j hj hjk => by
      rcases List.mem_cons.mp hj with q | q
      · exact absurd q hjk
      · exact q
    by_cases hik : i = k
    · by_cases hjk : j = k
      · rw [hik, hjk]
      · simp only [if_pos hik, if_neg hjk] at w
        exact absurd w.symm (haR j (hin j hj hjk))
    · by_cases hjk : j = k
      · simp only [if_neg hik, if_pos hjk] at w
        exact absurd w (haR i (hin i hi hik))
      · simp only [if_neg hik, if_neg hjk] at w
        exact h4 i j (hin i hi hik) (hin j hj hjk) w
  · have hba : b ≠ a := by
      have := hbR k List.mem_cons_self
      simp only [if_true] at this
      exact this
    rw [new_ne hba]
    refine h5 b hb (fun j hj => ?_)
    have := hbR j (List.mem_cons_of_mem k hj)
    by_cases hjk : j = k
    · subst hjk
      exact absurd hj hk
    · simp only [if_neg hjk] at this
      exact this
theorem IN_set (i0 : IN h0 t R A f V c h) {k a N : Nat} (hk : k ∈ R) (ha : A k = a) (hN : mlen k = N) {ty n : Nat} {i x : Int32} (hty : mty k = ty) (hi : vp_in i N) (hn : i.toNatClampNeg = n) {G : qH → Prop} (g : ∀ h', IN h0 t R A (fun j => if j = k then upd (f k) n x else f j) V c h' → G h') : s_I h (some a) ty i x G := by
  obtain ⟨h1, h2, h3, h4, h5⟩ := i0
  obtain ⟨a1, a2, a3⟩ := h3 k hk
  subst ha
  subst hty
  subst hN
  refine ⟨A k, _, _, rfl, a3, hi, g _ ⟨h1, (put_ne (Ne.symm a1)).trans h2, fun j hj => ?_, h4, fun b hb hbR => ?_⟩⟩
  · obtain ⟨b1, b2, b3⟩ := h3 j hj
    by_cases hjk : j = k
    · subst hjk
      simp only [if_true]
      rw [hn]
      exact ⟨b1, b2, put_self⟩
    · simp only [if_neg hjk]
      exact ⟨b1, b2, (put_ne (fun w => hjk (h4 j k hj hk w))).trans b3⟩
  · rw [put_ne (hbR k hk)]
    exact h5 b hb hbR
theorem IN_put (i0 : IN h0 t R A f V c h) {k : Nat} {v : Value} {G : qH → Prop} (g : ∀ h', IN h0 t R A f (updV V k v) c h' → G h') : p_F h (some t) 2 k v G := by
  obtain ⟨h1, h2, h3, h4, h5⟩ := i0
  refine ⟨t, V, rfl, h2, g _ ⟨h1, put_self, fun j hj => ?_, h4, fun b hb hbR => ?_⟩⟩
  · obtain ⟨b1, b2, b3⟩ := h3 j hj
    exact ⟨b1, b2, (put_ne b1).trans b3⟩
  · rw [put_ne hb]
    exact h5 b hb hbR
end INI
/-- the model at its start -/
def mInit : mS := (fun k => if k = 8 then 10 else if k = 9 then 5 else if k = 10 then 1 else if k = 12 then 8 else if k = 13 then 1 else 0, fun k z => if k = 4 ∨ k = 5 ∨ k = 6 then (if 0 ≤ z ∧ z < 6 then -1 else 0) else if k = 11 then (if 0 ≤ z ∧ z < 10 then -1 else 0) else 0)
theorem f6_ : (upd (upd (upd (upd (upd (upd (fun _ => (0 : Int32)) 0 (-1)) 1 (-1)) 2 (-1)) 3 (-1)) 4 (-1)) 5 (-1)) = fun i : Nat => zI (if 0 ≤ (i : Int) ∧ (i : Int) < 6 then -1 else 0) := by
  funext i
  by_cases h : i < 6
  · rw [if_pos (by omega)]
    have : i = 0 ∨ i = 1 ∨ i = 2 ∨ i = 3 ∨ i = 4 ∨ i = 5 := by omega
    rcases this with rfl | rfl | rfl | rfl | rfl | rfl <;> rfl
  · rw [if_neg (by omega)]
    simp only [upd]
    rw [if_neg (by omega), if_neg (by omega), if_neg (by omega), if_neg (by omega), if_neg (by omega), if_neg (by omega)]
    rfl
theorem f10_ : (upd (upd (upd (upd (upd (upd (upd (upd (upd (upd (fun _ => (0 : Int32)) 0 (-1)) 1 (-1)) 2 (-1)) 3 (-1)) 4 (-1)) 5 (-1)) 6 (-1)) 7 (-1)) 8 (-1)) 9 (-1)) = fun i : Nat => zI (if 0 ≤ (i : Int) ∧ (i : Int) < 10 then -1 else 0) := by
  funext i
  by_cases h : i < 10
  · rw [if_pos (by omega)]
    have : i = 0 ∨ i = 1 ∨ i = 2 ∨ i = 3 ∨ i = 4 ∨ i = 5 ∨ i = 6 ∨ i = 7 ∨ i = 8 ∨ i = 9 := by omega
    rcases this with rfl | rfl | rfl | rfl | rfl | rfl | rfl | rfl | rfl | rfl <;> rfl
  · rw [if_neg (by omega)]
    simp only [upd]
    rw [if_neg (by omega), if_neg (by omega), if_neg (by omega), if_neg (by omega), if_neg (by omega), if_neg (by omega), if_neg (by omega), if_neg (by omega), if_neg (by omega), if_neg (by omega)]
    rfl
theorem MB_init : MB mInit := by
  refine ⟨fun k => ?_, fun k z => ?_⟩
  · show bd (if k = 8 then 10 else if k = 9 then 5 else if k = 10 then 1 else if k = 12 then 8 else if k = 13 then 1 else 0)
    repeat' split
    all_goals exact bdl rfl
  · show bd (if k = 4 ∨ k = 5 ∨ k = 6 then (if 0 ≤ z ∧ z < 6 then -1 else 0) else if k = 11 then (if 0 ≤ z ∧ z < 10 then -1 else 0) else 0)
    repeat' split
    all_goals exact bdl rfl
theorem TI_init : TI mInit := by
  have h6 : ∀ i : Int, 0 ≤ i → i < 6 → (if 0 ≤ i ∧ i < 6 then (-1 : Int) else 0) = -1 := fun i a b => if_pos ⟨a, b⟩
  have h10 : ∀ i : Int, 0 ≤ i → i < 10 → (if 0 ≤ i ∧ i < 10 then (-1 : Int) else 0) = -1 := fun i a b => if_pos ⟨a, b⟩
  refine ⟨⟨by decide, by decide⟩, fun t a b => absurd (show t < 0 from b) (by omega), fun i a b => ⟨by show (0 : Int) ≤ 0; omega, by show (0 : Int) ≤ 9; omega⟩, fun i a b => ?_, ⟨by decide, by decide⟩, ⟨by decide, by decide⟩, ⟨by decide, by decide⟩, fun i a b => ?_, Or.inr (Or.inl rfl), ⟨by decide, by decide⟩, ⟨fun _ => 0, fun i a b => (by show ((0 : Nat) : Int) < 6; omega), fun i a b c => absurd (h6 i a b) c⟩, ⟨fun _ => 0, fun i a b => (by show ((0 : Nat) : Int) < 10; omega), fun i a b c => absurd (h10 i a b) c⟩⟩
  · show (-1 ≤ (if 0 ≤ i ∧ i < 6 then (-1 : Int) else 0) ∧ (if 0 ≤ i ∧ i < 6 then (-1 : Int) else 0) ≤ 5) ∧ (-1 ≤ (if 0 ≤ i ∧ i < 6 then (-1 : Int) else 0) ∧ (if 0 ≤ i ∧ i < 6 then (-1 : Int) else 0) ≤ 3) ∧ -1 ≤ (if 0 ≤ i ∧ i < 6 then (-1 : Int) else 0) ∧ (if 0 ≤ i ∧ i < 6 then (-1 : Int) else 0) ≤ 3
    rw [h6 i a b]
    omega
  · show -1 ≤ (if 0 ≤ i ∧ i < 10 then (-1 : Int) else 0) ∧ (if 0 ≤ i ∧ i < 10 then (-1 : Int) else 0) ≤ 9
    rw [h10 i a b]
    omega
theorem KR_init : KR mInit [] := ⟨rfl, by decide, by decide, fun i hi => by
  have hi : i ≤ 0 := hi
  have : i = 0 := by omega
  subst this
  rfl, fun j hj => absurd hj (Nat.not_lt_zero _)⟩
/-- an object's fields beyond its last one don't count -/
theorem GS_ob {D : qD} {h1 h2 : qH} {t c : Nat} {r : vw_C} {V V' : Nat → Value} (hr : qCL[c]? = some r) (hV : ∀ j, j < r.2.2 → V j = V' j) (h1t : h1.2 t = some (c_ob c V)) (hc : h2.1 ≤ h1.1) (hs : ∀ b e, h2.2 b = some e → (b = t ∧ e = c_ob c V') ∨ (b ≠ t ∧ h1.2 b = some e)) : GS D h1 h2 := by
  intro H hro hA
  obtain ⟨K, a1, a2, a3, a4, a5, a6⟩ := hA
  obtain ⟨⟨r', r1, r2⟩, p4⟩ := a4 t _ h1t
  rw [hr] at r1
  cases r1
  refine ⟨K, a1, by omega, by omega, fun b e hb => ?_, a5, a6⟩
  rcases hs b e hb with ⟨rfl, rfl⟩ | ⟨hb1, hb3⟩
  · exact ⟨⟨r, hr, t_OB.to r2 hV⟩, fun _ => p4 rfl⟩
  · exact a4 b e hb3
abbrev mRoles : List Nat := [36, 35, 34, 33, 32, 25, 21, 20, 19, 18, 17, 16, 15, 11, 7, 6, 5, 4, 3, 2, 1]
theorem mRoles_of : ∀ k, mArr k = true ↔ k ∈ mRoles := by
  intro k
  simp only [mArr, mRoles, Bool.or_eq_true, beq_iff_eq, List.mem_cons, List.not_mem_nil, or_false]
  omega
def mW0 (t : Nat) (A : Nat → Nat) : mW := (fun k => if k = 100 then t else A k, fun b => if b = t then some 100 else mRoles.find? fun k => A k == b)
theorem IN_end {h0 h : qH} {t c : Nat} {A : Nat → Nat} {f : Nat → Nat → Int32} {V : Nat → Value} (i0 : IN h0 t mRoles A f V c h) (hf : ∀ k, k ∈ mRoles → f k = fun i : Nat => zI (mInit.2 k (i : Int))) (hV : ∀ k, k < 38 → V k = if mArr k then va_rf (some (A k)) else .int (zI (mInit.1 k))) {D : qD} {Q : Option Value → qH → Prop} (hQ : ∀ W : mW, W.1 100 = t → (∀ k, (mArr k = true ∨ k = 100) → W.2 (W.1 k) = some k) → (∀ b k, W.2 b = some k → b = W.1 k) → (∀ k, mArr k = true → h0.2 (W.1 k) = none) → (∀ b k, W.2 b = some k → b = t ∨ h0.2 b = none) → Q none (mh W mInit (h0.1 - c, h0.2))) : qcl D Q none h := by
  obtain ⟨h1, h2, h3, h4, h5⟩ := i0
  have hfind : ∀ k, k ∈ mRoles → (mRoles.find? fun j => A j == A k) = some k := by
    intro k hk
    cases hx : mRoles.find? fun j => A j == A k with
    | none =>
      have := List.find?_eq_none.mp hx k hk
      simp at this
    | some j =>
      have g1 := List.find?_some hx
      have g2 := List.mem_of_find?_eq_some hx
      have g1 : A j = A k := by simpa using g1
      rw [h4 j k g2 hk g1]
  have hback : ∀ b k, (mW0 t A).2 b = some k → b = (mW0 t A).1 k ∧ (k = 100 ∨ k ∈ mRoles) ∧ (b = t ∨ h0.2 b = none) ∧ (b ≠ t → k ∈ mRoles ∧ b = A k) := by
    intro b k hb
    unfold mW0 at hb ⊢
    dsimp only at hb ⊢
    by_cases hbt : b = t
    · rw [if_pos hbt] at hb
      cases hb
      exact ⟨hbt, Or.inl rfl, Or.inl hbt, fun w => absurd hbt w⟩
    · rw [if_neg hbt] at hb
      have g1 := List.find?_some hb
      have g2 := List.mem_of_find?_eq_some hb
      have g1 : A k = b := by simpa using g1
      rw [if_neg (fun w => by rw [w] at g2; exact absurd g2 (by decide))]
      exact ⟨g1.symm, Or.inr g2, Or.inr (by rw [← g1]; exact (h3 k g2).2.1), fun _ => ⟨g2, g1.symm⟩⟩
  have hW1 : ∀ k, mArr k = true → (mW0 t A).1 k = A k := fun k hk => by
    unfold mW0
    dsimp only
    rw [if_neg (fun w => by rw [w] at hk; exact absurd hk (by decide))]
  refine ⟨mh (mW0 t A) mInit (h0.1 - c, h0.2), hQ (mW0 t A) (by unfold mW0; rfl) (fun k hk => ?_) (fun b k hb => (hback b k hb).1) (fun k hk => ?_) (fun b k hb => (hback b k hb).2.2.1), ?_⟩
  · rcases hk with hk | hk
    · rw [hW1 k hk]
      have hkR := (mRoles_of k).mp hk
      unfold mW0
      dsimp only
      rw [if_neg (h3 k hkR).1]
      exact hfind k hkR
    · subst hk
      unfold mW0
      dsimp only
      rw [if_pos rfl, if_pos rfl]
  · rw [hW1 k hk]
    exact (h3 k ((mRoles_of k).mp hk)).2.1
  · refine GS_ob (t := t) (V := V) (V' := mV (mW0 t A) mInit) (r := (RX3, TX3, 38)) rfl (fun j hj => ?_) h2 (by show h0.1 - c ≤ h.1; omega) (fun b e hb => ?_)
    · rw [hV j hj]
      unfold mV
      split
      · next w => rw [hW1 j w]
      · rfl
    · by_cases hbt : b = t
      · refine Or.inl ⟨hbt, ?_⟩
        have e9 : (mW0 t A).2 b = some 100 := by
          unfold mW0
          dsimp only
          rw [if_pos hbt]
        have hb : (match (mW0 t A).2 b with | some k => some (mcell (mW0 t A) mInit k) | none => h0.2 b) = some e := hb
        rw [e9] at hb
        have hb : some (mcell (mW0 t A) mInit 100) = some e := hb
        cases hb
        rfl
      · refine Or.inr ⟨hbt, ?_⟩
        have hb : (match (mW0 t A).2 b with | some k => some (mcell (mW0 t A) mInit k) | none => h0.2 b) = some e := hb
        cases hx : (mW0 t A).2 b with
        | none =>
          rw [hx] at hb
          have hb : h0.2 b = some e := hb
          rw [h5 b hbt (fun k hk w => ?_)]
          · exact hb
          · unfold mW0 at hx
            dsimp only at hx
            rw [if_neg hbt, w, hfind k hk] at hx
            cases hx
        | some k =>
          rw [hx] at hb
          obtain ⟨-, -, -, g⟩ := hback b k hx
          obtain ⟨g1, g2⟩ := g hbt
          have hb : some (mcell (mW0 t A) mInit k) = some e := hb
          cases hb
          rw [g2, (h3 k g1).2.2, hf k g1]
          unfold mcell
          rw [if_neg (fun w => by rw [w] at g1; exact absurd g1 (by decide))]
theorem j_X3_init {D : qD} {Q : Option Value → qH → Prop} {X : String → qH → Prop} {h : qH} {t : Nat} {V0 : Nat → Value} (hc : h.2 t = some (c_ob 2 V0)) (hV0 : ∀ k, k < 38 → mArr k = false → V0 k = .int 0) (hcr : 1000 ≤ h.1) (hQ : ∀ W : mW, W.1 100 = t → (∀ k, (mArr k = true ∨ k = 100) → W.2 (W.1 k) = some k) → (∀ b k, W.2 b = some k → b = W.1 k) → (∀ k, mArr k = true → h.2 (W.1 k) = none) → (∀ b k, W.2 b = some k → b = t ∨ h.2 b = none) → Q none (mh W mInit (h.1 - 580, h.2))) : MW D m_X3_init [va_rf (some t)] h Q X := by
  refine MW_close (f_X3_init t h ?_)
  have i0 : IN h t [] (fun _ => 0) (fun _ _ => 0) V0 0 h := ⟨rfl, hc, fun k hk => (by cases hk), fun i j hi => (by cases hi), fun _ _ _ => rfl⟩
  refine IN_new i0 (k := 1) (N := 120) (by decide) rfl rfl rfl (by decide) (by omega) fun a1 h1 i1 => ?_
  refine IN_put i1 fun h2 i2 => ?_
  refine IN_new i2 (k := 2) (N := 120) (by decide) rfl rfl rfl (by decide) (by omega) fun a4 h3 i3 => ?_
  refine IN_put i3 fun h4 i4 => ?_
  refine IN_new i4 (k := 3) (N := 120) (by decide) rfl rfl rfl (by decide) (by omega) fun a7 h5 i5 => ?_
  refine IN_put i5 fun h6 i6 => ?_
  refine IN_new i6 (k := 4) (N := 6) (by decide) rfl rfl rfl (by decide) (by omega) fun a10 h7 i7 => ?_
  refine IN_set i7 (k := 4) (N := 6) (n := 0) (by decide) rfl rfl rfl (zI_in (z := 0) (by omega) (by omega) (by omega)) (by decide +kernel) fun h8 i8 => ?_
  refine IN_set i8 (k := 4) (N := 6) (n := 1) (by decide) rfl rfl rfl (zI_in (z := 1) (by omega) (by omega) (by omega)) (by decide +kernel) fun h9 i9 => ?_
  refine IN_set i9 (k := 4) (N := 6) (n := 2) (by decide) rfl rfl rfl (zI_in (z := 2) (by omega) (by omega) (by omega)) (by decide +kernel) fun h10 i10 => ?_
  refine IN_set i10 (k := 4) (N := 6) (n := 3) (by decide) rfl rfl rfl (zI_in (z := 3) (by omega) (by omega) (by omega)) (by decide +kernel) fun h11 i11 => ?_
  refine IN_set i11 (k := 4) (N := 6) (n := 4) (by decide) rfl rfl rfl (zI_in (z := 4) (by omega) (by omega) (by omega)) (by decide +kernel) fun h12 i12 => ?_
  refine IN_set i12 (k := 4) (N := 6) (n := 5) (by decide) rfl rfl rfl (zI_in (z := 5) (by omega) (by omega) (by omega)) (by decide +kernel) fun h13 i13 => ?_
  refine IN_put i13 fun h14 i14 => ?_
  refine IN_new i14 (k := 5) (N := 6) (by decide) rfl rfl rfl (by decide) (by omega) fun a19 h15 i15 => ?_
  refine IN_set i15 (k := 5) (N := 6) (n := 0) (by decide) rfl rfl rfl (zI_in (z := 0) (by omega) (by omega) (by omega)) (by decide +kernel) fun h16 i16 => ?_
  refine IN_set i16 (k := 5) (N := 6) (n := 1) (by decide) rfl rfl rfl (zI_in (z := 1) (by omega) (by omega) (by omega)) (by decide +kernel) fun h17 i17 => ?_
  refine IN_set i17 (k := 5) (N := 6) (n := 2) (by decide) rfl rfl rfl (zI_in (z := 2) (by omega) (by omega) (by omega)) (by decide +kernel) fun h18 i18 => ?_
  refine IN_set i18 (k := 5) (N := 6) (n := 3) (by decide) rfl rfl rfl (zI_in (z := 3) (by omega) (by omega) (by omega)) (by decide +kernel) fun h19 i19 => ?_
  refine IN_set i19 (k := 5) (N := 6) (n := 4) (by decide) rfl rfl rfl (zI_in (z := 4) (by omega) (by omega) (by omega)) (by decide +kernel) fun h20 i20 => ?_
  refine IN_set i20 (k := 5) (N := 6) (n := 5) (by decide) rfl rfl rfl (zI_in (z := 5) (by omega) (by omega) (by omega)) (by decide +kernel) fun h21 i21 => ?_
  refine IN_put i21 fun h22 i22 => ?_
  refine IN_new i22 (k := 6) (N := 6) (by decide) rfl rfl rfl (by decide) (by omega) fun a28 h23 i23 => ?_
  refine IN_set i23 (k := 6) (N := 6) (n := 0) (by decide) rfl rfl rfl (zI_in (z := 0) (by omega) (by omega) (by omega)) (by decide +kernel) fun h24 i24 => ?_
  refine IN_set i24 (k := 6) (N := 6) (n := 1) (by decide) rfl rfl rfl (zI_in (z := 1) (by omega) (by omega) (by omega)) (by decide +kernel) fun h25 i25 => ?_
  refine IN_set i25 (k := 6) (N := 6) (n := 2) (by decide) rfl rfl rfl (zI_in (z := 2) (by omega) (by omega) (by omega)) (by decide +kernel) fun h26 i26 => ?_
  refine IN_set i26 (k := 6) (N := 6) (n := 3) (by decide) rfl rfl rfl (zI_in (z := 3) (by omega) (by omega) (by omega)) (by decide +kernel) fun h27 i27 => ?_
  refine IN_set i27 (k := 6) (N := 6) (n := 4) (by decide) rfl rfl rfl (zI_in (z := 4) (by omega) (by omega) (by omega)) (by decide +kernel) fun h28 i28 => ?_
  refine IN_set i28 (k := 6) (N := 6) (n := 5) (by decide) rfl rfl rfl (zI_in (z := 5) (by omega) (by omega) (by omega)) (by decide +kernel) fun h29 i29 => ?_
  refine IN_put i29 fun h30 i30 => ?_
  refine IN_new i30 (k := 7) (N := 16) (by decide) rfl rfl rfl (by decide) (by omega) fun a37 h31 i31 => ?_
  refine IN_put i31 fun h32 i32 => ?_
  refine IN_put i32 fun h33 i33 => ?_
  refine IN_put i33 fun h34 i34 => ?_
  refine IN_put i34 fun h35 i35 => ?_
  refine IN_new i35 (k := 11) (N := 10) (by decide) rfl rfl rfl (by decide) (by omega) fun a43 h36 i36 => ?_
  refine IN_set i36 (k := 11) (N := 10) (n := 0) (by decide) rfl rfl rfl (zI_in (z := 0) (by omega) (by omega) (by omega)) (by decide +kernel) fun h37 i37 => ?_
  refine IN_set i37 (k := 11) (N := 10) (n := 1) (by decide) rfl rfl rfl (zI_in (z := 1) (by omega) (by omega) (by omega)) (by decide +kernel) fun h38 i38 => ?_
  refine IN_set i38 (k := 11) (N := 10) (n := 2) (by decide) rfl rfl rfl (zI_in (z := 2) (by omega) (by omega) (by omega)) (by decide +kernel) fun h39 i39 => ?_
  refine IN_set i39 (k := 11) (N := 10) (n := 3) (by decide) rfl rfl rfl (zI_in (z := 3) (by omega) (by omega) (by omega)) (by decide +kernel) fun h40 i40 => ?_
  refine IN_set i40 (k := 11) (N := 10) (n := 4) (by decide) rfl rfl rfl (zI_in (z := 4) (by omega) (by omega) (by omega)) (by decide +kernel) fun h41 i41 => ?_
  refine IN_set i41 (k := 11) (N := 10) (n := 5) (by decide) rfl rfl rfl (zI_in (z := 5) (by omega) (by omega) (by omega)) (by decide +kernel) fun h42 i42 => ?_
  refine IN_set i42 (k := 11) (N := 10) (n := 6) (by decide) rfl rfl rfl (zI_in (z := 6) (by omega) (by omega) (by omega)) (by decide +kernel) fun h43 i43 => ?_
  refine IN_set i43 (k := 11) (N := 10) (n := 7) (by decide) rfl rfl rfl (zI_in (z := 7) (by omega) (by omega) (by omega)) (by decide +kernel) fun h44 i44 => ?_
  refine IN_set i44 (k := 11) (N := 10) (n := 8) (by decide) rfl rfl rfl (zI_in (z := 8) (by omega) (by omega) (by omega)) (by decide +kernel) fun h45 i45 => ?_
  refine IN_set i45 (k := 11) (N := 10) (n := 9) (by decide) rfl rfl rfl (zI_in (z := 9) (by omega) (by omega) (by omega)) (by decide +kernel) fun h46 i46 => ?_
  refine IN_put i46 fun h47 i47 => ?_
  refine IN_put i47 fun h48 i48 => ?_
  refine IN_put i48 fun h49 i49 => ?_
  refine IN_new i49 (k := 15) (N := 120) (by decide) rfl rfl rfl (by decide) (by omega) fun a58 h50 i50 => ?_
  refine IN_put i50 fun h51 i51 => ?_
  refine IN_new i51 (k := 16) (N := 120) (by decide) rfl rfl rfl (by decide) (by omega) fun a61 h52 i52 => ?_
  refine IN_put i52 fun h53 i53 => ?_
  refine IN_new i53 (k := 17) (N := 120) (by decide) rfl rfl rfl (by decide) (by omega) fun a64 h54 i54 => ?_
  refine IN_put i54 fun h55 i55 => ?_
  refine IN_new i55 (k := 18) (N := 120) (by decide) rfl rfl rfl (by decide) (by omega) fun a67 h56 i56 => ?_
  refine IN_put i56 fun h57 i57 => ?_
  refine IN_new i57 (k := 19) (N := 120) (by decide) rfl rfl rfl (by decide) (by omega) fun a70 h58 i58 => ?_
  refine IN_put i58 fun h59 i59 => ?_
  refine IN_new i59 (k := 20) (N := 120) (by decide) rfl rfl rfl (by decide) (by omega) fun a73 h60 i60 => ?_
  refine IN_put i60 fun h61 i61 => ?_
  refine IN_new i61 (k := 21) (N := 120) (by decide) rfl rfl rfl (by decide) (by omega) fun a76 h62 i62 => ?_
  refine IN_put i62 fun h63 i63 => ?_
  refine IN_new i63 (k := 25) (N := 120) (by decide) rfl rfl rfl (by decide) (by omega) fun a79 h64 i64 => ?_
  refine IN_put i64 fun h65 i65 => ?_
  refine IN_new i65 (k := 32) (N := 121) (by decide) rfl rfl rfl (by decide) (by omega) fun a82 h66 i66 => ?_
  refine IN_put i66 fun h67 i67 => ?_
  refine IN_new i67 (k := 33) (N := 120) (by decide) rfl rfl rfl (by decide) (by omega) fun a85 h68 i68 => ?_
  refine IN_put i68 fun h69 i69 => ?_
  refine IN_new i69 (k := 34) (N := 120) (by decide) rfl rfl rfl (by decide) (by omega) fun a88 h70 i70 => ?_
  refine IN_put i70 fun h71 i71 => ?_
  refine IN_new i71 (k := 35) (N := 120) (by decide) rfl rfl rfl (by decide) (by omega) fun a91 h72 i72 => ?_
  refine IN_put i72 fun h73 i73 => ?_
  refine IN_new i73 (k := 36) (N := 400) (by decide) rfl rfl rfl (by decide) (by omega) fun a94 h74 i74 => ?_
  refine IN_put i74 fun h75 i75 => ?_
  refine IN_end i75 (fun k hk => ?_) (fun k hk => ?_) hQ
  · simp only [mRoles, List.mem_cons, List.not_mem_nil, or_false] at hk
    rcases hk with rfl | rfl | rfl | rfl | rfl | rfl | rfl | rfl | rfl | rfl | rfl | rfl | rfl | rfl | rfl | rfl | rfl | rfl | rfl | rfl | rfl
    · exact rfl
    · exact rfl
    · exact rfl
    · exact rfl
    · exact rfl
    · exact rfl
    · exact rfl
    · exact rfl
    · exact rfl
    · exact rfl
    · exact rfl
    · exact rfl
    · exact rfl
    · exact f10_
    · exact rfl
    · exact f6_
    · exact f6_
    · exact f6_
    · exact rfl
    · exact rfl
    · exact rfl
  · have hs : k = 0 ∨ k = 14 ∨ k = 22 ∨ k = 23 ∨ k = 24 ∨ k = 26 ∨ k = 27 ∨ k = 28 ∨ k = 29 ∨ k = 30 ∨ k = 31 ∨ k = 37 ∨ (k = 8 ∨ k = 9 ∨ k = 10 ∨ k = 12 ∨ k = 13) ∨ k ∈ mRoles := by
      simp only [mRoles, List.mem_cons, List.not_mem_nil, or_false]
      omega
    rcases hs with rfl | rfl | rfl | rfl | rfl | rfl | rfl | rfl | rfl | rfl | rfl | rfl | hs | hs
    · exact hV0 0 hk rfl
    · exact hV0 14 hk rfl
    · exact hV0 22 hk rfl
    · exact hV0 23 hk rfl
    · exact hV0 24 hk rfl
    · exact hV0 26 hk rfl
    · exact hV0 27 hk rfl
    · exact hV0 28 hk rfl
    · exact hV0 29 hk rfl
    · exact hV0 30 hk rfl
    · exact hV0 31 hk rfl
    · exact hV0 37 hk rfl
    · rcases hs with rfl | rfl | rfl | rfl | rfl <;> rfl
    · simp only [mRoles, List.mem_cons, List.not_mem_nil, or_false] at hs
      rcases hs with rfl | rfl | rfl | rfl | rfl | rfl | rfl | rfl | rfl | rfl | rfl | rfl | rfl | rfl | rfl | rfl | rfl | rfl | rfl | rfl | rfl <;> rfl
