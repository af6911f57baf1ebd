set_option maxRecDepth 100000
/-! the component's constructor: the walk -/
section CIW
variable {D : qD} {h0 h : qH} {X : String → qH → Prop} {R : Nat → Prop} {A : Nat → Nat} {e : Nat → qE} {c t : Nat}
theorem ov_self {C : mW} {cc : Nat → qE} (hc : ∀ b k, C.2 b = some k → h.2 b = some (cc k)) : h = ov C cc (h.1, fun b => if C.2 b = none then h.2 b else none) := by
  refine Prod.ext rfl (funext fun b => ?_)
  show h.2 b = (match C.2 b with | some k => some (cc k) | none => if C.2 b = none then h.2 b else none)
  cases hx : C.2 b with
  | none => simp
  | some k => exact hc b k hx
theorem x_X1_made (i0 : IM h0 (iR 6) A e c h) (hF : IFs t 6 A e) (hs : ∀ f, e 4 = c_ia 0 10 f → ∀ i : Nat, i < 10 → f i = zI (-1)) : ∃ C : mW, C.1 0 = t ∧ SC C [] mInit [] h ∧ ∀ b k, C.2 b = some k → b = t ∨ h0.2 b = none := by
  obtain ⟨h1, h2, h3, h4, h5⟩ := i0
  obtain ⟨a0, ⟨V, b0, v0, v1, v2, v3, v4, v5, v6, v7, v8, v9, v10⟩, c1, ⟨f2, c2, d2⟩, e1, ⟨f3, c3, d3⟩, c20, ⟨f4, c4⟩, c5, c6⟩ := hF
  have hsub : ∀ k, k ∈ [0, 1, 4, 5, 6, 10, 11, 12, 13, 14, 15, 20, 21, 22, 23] → cRole k := fun k hk => by
    simp only [List.mem_cons, List.not_mem_nil, or_false] at hk
    unfold cRole
    omega
  have hsup : ∀ k, cRole k → k ∈ [0, 1, 4, 5, 6, 10, 11, 12, 13, 14, 15, 20, 21, 22, 23] := fun k hk => by
    simp only [List.mem_cons, List.not_mem_nil, or_false]
    unfold cRole at hk
    omega
  have hiR : ∀ k, cRole k → iR 6 k := fun k hk => by
    unfold cRole at hk
    unfold iR
    omega
  generalize [0, 1, 4, 5, 6, 10, 11, 12, 13, 14, 15, 20, 21, 22, 23] = l at *
  have hfd : ∀ b k, l.find? (fun k => decide (A k = b)) = some k → A k = b ∧ cRole k := fun b k hk => ⟨by have h9 := List.find?_some hk; simpa using h9, hsub k (List.mem_of_find?_eq_some hk)⟩
  have hfs : ∀ k, cRole k → l.find? (fun j => decide (A j = A k)) = some k := fun k hk => by
    cases hx : l.find? (fun j => decide (A j = A k)) with
    | none =>
      have := List.find?_eq_none.mp hx k (hsup k hk)
      exact absurd (decide_eq_true rfl) this
    | some j =>
      obtain ⟨p1, p2⟩ := hfd _ j hx
      rw [h3 j k (hiR j p2) (hiR k hk) p1]
  let C : mW := (A, fun b => l.find? (fun k => decide (A k = b)))
  have hC1 : C.1 = A := rfl
  have hC2 : ∀ b k, C.2 b = some k → A k = b ∧ cRole k := hfd
  have hno : ∀ k, iR 6 k → ¬ cRole k → C.2 (A k) = none := fun k hk hk2 => by
    cases hx : C.2 (A k) with
    | none => rfl
    | some j =>
      obtain ⟨p1, p2⟩ := hC2 _ j hx
      have := h3 j k (hiR j p2) hk p1
      subst this
      exact absurd p2 hk2
  refine ⟨C, a0, ⟨e, (h.1, fun b => if C.2 b = none then h.2 b else none), ov_self (fun b k hb => ?_), ⟨⟨fun k hk => hk.elim (fun q => hfs k q) (fun q => q.2), fun b k hb => ?_⟩, fun k hk hk2 => ?_⟩, fun b k hb => ?_, ?_, ?_, ?_⟩, fun b k hb => ?_⟩
  · obtain ⟨p1, p2⟩ := hC2 b k hb
    rw [← p1]
    exact h2 k (hiR k p2)
  · obtain ⟨p1, p2⟩ := hC2 b k hb
    exact ⟨p1.symm, Or.inl p2⟩
  · have := (hC2 _ k hk2).2
    unfold cRole at this
    omega
  · show (if C.2 b = none then h.2 b else none) = none
    rw [if_neg (by rw [hb]; exact fun q => nomatch q)]
  · refine ⟨⟨V, b0, v0, v1, v2, v3, v4, v5, v6, v7, v8, v9, v10⟩, ⟨0, c1⟩, rfl, fun i hi => absurd hi (Nat.not_lt_zero _), ⟨f2, ?_, d2⟩, fun i hi => ?_, ⟨f3, ?_, d3⟩, fun r hr => ⟨_, c20 r hr, fun i hi => rfl⟩, ⟨f4, c4, fun i hi => ?_⟩⟩
    · show (if C.2 (A 2) = none then h.2 (A 2) else none) = _
      rw [if_pos (hno 2 (by unfold iR; omega) (by unfold cRole; omega)), h2 2 (by unfold iR; omega), c2]
    · obtain ⟨V, p1, p2, p3, p4⟩ := e1 i hi
      have e9 : ∀ k, k = 4 ∨ k = 5 ∨ k = 6 → mInit.2 k (i : Int) = -1 := fun k hk => by
        show (if k = 4 ∨ k = 5 ∨ k = 6 then (if 0 ≤ (i : Int) ∧ (i : Int) < 6 then (-1 : Int) else 0) else _) = -1
        rw [if_pos hk, if_pos (by omega)]
      refine ⟨V, p1, ?_, ?_, ?_⟩
      · rw [e9 4 (by omega), if_pos rfl]; exact p2
      · rw [e9 5 (by omega)]; exact p3
      · rw [e9 6 (by omega)]; exact p4
    · show (if C.2 (A 3) = none then h.2 (A 3) else none) = _
      rw [if_pos (hno 3 (by unfold iR; omega) (by unfold cRole; omega)), h2 3 (by unfold iR; omega), c3]
    · rw [hs f4 c4 i hi]
      have e9 : mInit.2 11 (i : Int) = -1 := by
        show (if 0 ≤ (i : Int) ∧ (i : Int) < 10 then (-1 : Int) else 0) = -1
        rw [if_pos (by omega)]
      rw [e9]
  · exact ⟨_, c6, fun r hr l hl => nomatch hl⟩
  · exact ⟨0, [], c5, rfl, fun i hi => absurd hi (Nat.not_lt_zero _)⟩
  · obtain ⟨p1, p2⟩ := hC2 b k hb
    by_cases hk : k = 0
    · left
      rw [← p1, hk, a0]
    · right
      rw [← p1]
      exact h4 k (hiR k p2) hk
theorem x_X1_init {Q : Option Value → qH → Prop} {V0 : Nat → Value} (hc : h.2 t = some (c_ob 0 V0)) (hcr : 1000 ≤ h.1) (hQ : ∀ (C : mW) h', C.1 0 = t → SC C [] mInit [] h' → (∀ b k, C.2 b = some k → b = t ∨ h.2 b = none) → (∀ b x, b ≠ t → h.2 b = some x → h'.2 b = some x) → h.1 ≤ h'.1 + 1000 → Q none h') : MW D m_X1_init [va_rf (some t)] h Q X := by
  have h117 : ∀ (j n c : Nat) (A : Nat → Nat) (e : Nat → qE) (h' : qH), n + j = 10 → IM h (iR 6) A e c h' → IFs t 6 A e → c ≤ 100 → (∀ f, e 4 = c_ia 0 10 f → ∀ i : Nat, i < n → f i = zI (-1)) → L_X1_init_117 D Q X t (zI n) h' := by
    intro j
    induction j with
    | zero =>
      intro n c A e h' hn i0 hF hc2 hs
      have hn : n = 10 := by omega
      subst hn
      obtain ⟨C, c0, cS, cb⟩ := x_X1_made i0 hF hs
      refine f_X1_init_117 _ _ h' ⟨fun _ => hQ C h' c0 cS cb (fun b x hb hx => ?_) (by have := i0.1; omega), fun w => absurd (by decide) w⟩
      rw [i0.2.2.2.2 b (fun k hk w => ?_)]
      · exact hx
      · by_cases hk0 : k = 0
        · rw [hk0, hF.1] at w; exact hb w
        · have := i0.2.2.2.1 k hk hk0
          rw [← w, hx] at this
          cases this
    | succ j ih =>
      intro n c A e h' hn i0 hF hc2 hs
      have hF9 := hF
      obtain ⟨a0, ⟨V, b0, v0, v1, v2, v3, v4, v5, v6, v7, v8, v9, v10⟩, c1, x2, e1, x3, c20, ⟨f4, c4⟩, c5, c6⟩ := hF9
      have hr4 : iR 6 4 := by unfold iR; omega
      have hr0 : iR 6 0 := by unfold iR; omega
      have h00 := i0.2.1 0 hr0
      have h44 := i0.2.1 4 hr4
      rw [a0, b0] at h00
      rw [c4] at h44
      refine f_X1_init_117 _ _ h' ⟨fun w => ?_, fun _ => gR h00 v6 ⟨A 4, 10, f4, rfl, h44, zI_in (z := (n : Int)) (by omega) (by omega) (by omega), ?_⟩⟩
      · rw [zl_10, zI_le (by omega) (by omega) (by omega) (by omega)] at w
        omega
      · rw [zl_1, zI_add, zI_cl (z := (n : Int)) (by omega) (by omega), Int.toNat_natCast]
        refine ih (n + 1) c A _ _ (by omega) (i0.put (k := 4) hr4) ⟨a0, ⟨V, b0, v0, v1, v2, v3, v4, v5, v6, v7, v8, v9, v10⟩, c1, x2, fun i hi => ?_, x3, fun r hr => ?_, ⟨_, rfl⟩, c5, c6⟩ hc2 (fun f hf i hi => ?_)
        · simp only [if_neg (show 10 + i ≠ 4 by omega)]
          exact e1 i hi
        · simp only [if_neg (show 20 + r ≠ 4 by omega)]
          exact c20 r hr
        · simp only [if_true] at hf
          cases hf
          by_cases hin : i = n
          · simp only [upd, if_pos hin]
            rfl
          · simp only [upd, if_neg hin]
            exact hs f4 c4 i (by omega)
  have h90 : ∀ (j n c : Nat) (A : Nat → Nat) (e : Nat → qE) (h' : qH), n + j = 6 → IM h (iR n) A e c h' → IFs t n A e → c ≤ 50 + n → L_X1_init_90 D Q X t (zI n) h' := by
    intro j
    induction j with
    | zero =>
      intro n c A e h' hn i0 hF hc2
      have hn : n = 6 := by omega
      subst hn
      refine f_X1_init_90 _ _ h' ⟨fun _ => ?_, fun w => absurd (by decide) w⟩
      rw [zl_0]
      exact h117 10 0 c A e h' (by omega) i0 hF (by omega) (fun f hf i hi => absurd hi (Nat.not_lt_zero _))
    | succ j ih =>
      intro n c A e h' hn i0 hF hc2
      have hF9 := hF
      obtain ⟨a0, ⟨V, b0, v0, v1, v2, v3, v4, v5, v6, v7, v8, v9, v10⟩, c1, ⟨f2, x2, d2⟩, e1, ⟨f3, x3, d3⟩, c20, x4, c5, c6⟩ := hF9
      have hr0 : iR n 0 := by unfold iR; omega
      have hr2 : iR n 2 := by unfold iR; omega
      have h00 := i0.2.1 0 hr0
      rw [a0, b0] at h00
      refine f_X1_init_90 _ _ h' ⟨fun w => ?_, fun _ => gR h00 v1 ⟨by have := i0.1; show 1 ≤ h'.1; omega, fun a2 ha2 => f_X2_init _ _ (pF new_self (pF put_self ⟨rfl, ?_⟩))⟩⟩
      · rw [zl_6, zI_le (by omega) (by omega) (by omega) (by omega)] at w
        omega
      have hnk : ¬ iR n (10 + n) := by unfold iR; omega
      have i1 := i0.new (k := 10 + n) (a := a2) (n := 1) (x := c_ob 1 (fun k => defaultValue (tyX2 k))) hnk (by omega) ha2 (by omega)
      have i2 := i1.put (k := 10 + n) (x := c_ob 1 (updV (fun k => defaultValue (tyX2 k)) 1 (.int (-1)))) (Or.inl rfl)
      have i3 := i2.put (k := 10 + n) (x := c_ob 1 (updV (updV (fun k => defaultValue (tyX2 k)) 1 (.int (-1))) 2 (.int (-1)))) (Or.inl rfl)
      simp only [if_true] at i3
      have hcell2 := i3.2.1 2 (Or.inr hr2)
      have hcelln := i3.2.1 (10 + n) (Or.inl rfl)
      simp only [if_neg (show ¬ (2 = 10 + n) by omega)] at hcell2
      simp only [if_true] at hcelln
      rw [x2] at hcell2
      have i4 := i3.put (k := 2) (x := c_ra 5 6 (va_up f2 n (some a2))) (Or.inr hr2)
      simp only [if_neg (show ¬ (2 = 10 + n) by omega)] at i4
      refine ⟨A 2, 6, f2, rfl, hcell2, zI_in (z := (n : Int)) (by omega) (by omega) (by omega), Or.inr ⟨_, _, "Quirefold$Style", rfl, Or.inl hcelln, rfl, Or.inl ⟨rfl, 1, _, rfl, rfl⟩⟩, ?_⟩
      rw [zl_1, zI_add, zI_cl (z := (n : Int)) (by omega) (by omega), Int.toNat_natCast]
      refine ih (n + 1) (c + 1) _ _ _ (by omega) (i4.cg (fun k => ?_)) ?_ (by omega)
      · unfold iR
        omega
      · refine ⟨?_, ⟨V, ?_, ?_⟩, ?_, ⟨va_up f2 n (some a2), rfl, fun i hi => ?_⟩, fun i hi => ?_, ⟨f3, ?_, fun i hi => ?_⟩, fun r hr => ?_, ?_, ?_, ?_⟩
        · simp only [if_neg (show ¬ (0 = 10 + n) by omega)]; exact a0
        · simp only [if_neg (show ¬ (0 = 10 + n) by omega), if_neg (show ¬ (0 = 2) by omega)]; exact b0
        · simp only [if_neg (show ¬ (1 = 10 + n) by omega), if_neg (show ¬ (2 = 10 + n) by omega), if_neg (show ¬ (3 = 10 + n) by omega), if_neg (show ¬ (4 = 10 + n) by omega), if_neg (show ¬ (5 = 10 + n) by omega), if_neg (show ¬ (6 = 10 + n) by omega)]
          exact ⟨v0, v1, v2, v3, v4, v5, v6, v7, v8, v9, v10⟩
        · simp only [if_neg (show ¬ (1 = 10 + n) by omega), if_neg (show ¬ (1 = 2) by omega)]; exact c1
        · by_cases hin : i = n
          · simp only [va_up, if_pos hin, if_pos (show 10 + i = 10 + n by omega)]
          · simp only [va_up, if_neg hin, if_neg (show ¬ (10 + i = 10 + n) by omega)]
            exact d2 i (by omega)
        · by_cases hin : i = n
          · refine ⟨updV (updV (fun k => defaultValue (tyX2 k)) 1 (.int (-1))) 2 (.int (-1)), ?_, rfl, rfl, rfl⟩
            simp only [if_pos (show 10 + i = 10 + n by omega), if_neg (show ¬ (10 + i = 2) by omega)]
          · simp only [if_neg (show ¬ (10 + i = 10 + n) by omega), if_neg (show ¬ (10 + i = 2) by omega)]
            exact e1 i (by omega)
        · simp only [if_neg (show ¬ (3 = 10 + n) by omega), if_neg (show ¬ (3 = 2) by omega)]; exact x3
        · simp only [if_neg (show ¬ (20 + i = 10 + n) by omega)]; exact d3 i hi
        · simp only [if_neg (show ¬ (20 + r = 10 + n) by omega), if_neg (show ¬ (20 + r = 2) by omega)]; exact c20 r hr
        · simp only [if_neg (show ¬ (4 = 10 + n) by omega), if_neg (show ¬ (4 = 2) by omega)]; exact x4
        · simp only [if_neg (show ¬ (5 = 10 + n) by omega), if_neg (show ¬ (5 = 2) by omega)]; exact c5
        · simp only [if_neg (show ¬ (6 = 10 + n) by omega), if_neg (show ¬ (6 = 2) by omega)]; exact c6
  have i0 : IM h (fun k => k = 0) (fun _ => t) (fun _ => c_ob 0 V0) 0 h := ⟨rfl, fun k _ => hc, fun i j hi hj _ => by omega, fun k hk hk0 => absurd hk hk0, fun b hb => rfl⟩
  refine f_X1_init t h ?_
  refine im_O i0 (k := 1) (by omega) (by omega) (by omega) (fun a1 h1 i1 => ?_)
  refine im_F i1 (by simp) rfl rfl (fun h2 i2 => ?_)
  refine im_R i2 (k := 2) (N := 6) (by omega) (by omega) rfl (by omega) (by omega) (fun a2 h3 i3 => ?_)
  refine im_F i3 (by simp) rfl rfl (fun h4 i4 => ?_)
  refine im_M i4 (by omega) (fun j _ _ => by omega) (by omega) (fun a3 h5 i5 => ?_)
  refine im_F i5 (by simp) rfl rfl (fun h6 i6 => ?_)
  refine im_F i6 (by simp) rfl rfl (fun h7 i7 => ?_)
  refine im_F i7 (by simp) rfl rfl (fun h8 i8 => ?_)
  refine im_F i8 (by simp) rfl rfl (fun h9 i9 => ?_)
  refine im_I i9 (k := 4) (N := 10) (by omega) (by omega) rfl (by omega) (by omega) (fun a4 h10 i10 => ?_)
  refine im_F i10 (by simp) rfl rfl (fun h11 i11 => ?_)
  refine im_F i11 (by simp) rfl rfl (fun h12 i12 => ?_)
  refine im_F i12 (by simp) rfl rfl (fun h13 i13 => ?_)
  refine im_O i13 (k := 5) (by omega) (by omega) (by omega) (fun a5 h14 i14 => ?_)
  refine im_F i14 (by simp) rfl rfl (fun h15 i15 => ?_)
  refine im_R i15 (k := 6) (N := 4) (by omega) (by omega) rfl (by omega) (by omega) (fun a6 h16 i16 => ?_)
  refine im_F i16 (by simp) rfl rfl (fun h17 i17 => ?_)
  rw [zl_0]
  refine h90 6 0 _ _ _ h17 (by omega) (i17.cg (fun k => ?_)) ?_ (by omega)
  · unfold iR
    omega
  · exact ⟨rfl, ⟨_, rfl, rfl, rfl, rfl, rfl, rfl, rfl, rfl, rfl, rfl, rfl, rfl⟩, rfl, ⟨_, rfl, fun i hi => absurd hi (Nat.not_lt_zero _)⟩, fun i hi => absurd hi (Nat.not_lt_zero _), ⟨_, rfl, fun i hi => by
      have : i = 0 ∨ i = 1 ∨ i = 2 ∨ i = 3 := by omega
      rcases this with rfl | rfl | rfl | rfl <;> rfl⟩, fun r hr => by
      have : r = 0 ∨ r = 1 ∨ r = 2 ∨ r = 3 := by omega
      rcases this with rfl | rfl | rfl | rfl <;> rfl, ⟨_, rfl⟩, rfl, rfl⟩
end CIW
