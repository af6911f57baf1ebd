set_option maxRecDepth 100000
/-! heaps with an overlay; what the component holds -/
def ov (W : mW) (cc : Nat → qE) (g : qH) : qH := (g.1, fun b => match W.2 b with | some k => some (cc k) | none => g.2 b)
def oOK (W : mW) (R : Nat → Prop) : Prop := (∀ k, R k → W.2 (W.1 k) = some k) ∧ ∀ b k, W.2 b = some k → b = W.1 k ∧ R k
section OV
variable {W : mW} {R : Nat → Prop} {cc : Nat → qE} {g g' : qH} {k a b n : Nat} {e : qE}
theorem ov_in (h : W.2 b = some k) : (ov W cc g).2 b = some (cc k) := by
  show (match W.2 b with | some k => some (cc k) | none => g.2 b) = _
  rw [h]
theorem ov_bg (h : W.2 b = none) : (ov W cc g).2 b = g.2 b := by
  show (match W.2 b with | some k => some (cc k) | none => g.2 b) = _
  rw [h]
theorem ov_at (hW : oOK W R) (hk : R k) : (ov W cc g).2 (W.1 k) = some (cc k) := ov_in (hW.1 k hk)
theorem ov_put (hW : oOK W R) (hk : R k) : q_put (ov W cc g) (W.1 k) e = ov W (fun j => if j = k then e else cc j) g := by
  refine Prod.ext rfl (funext fun b => ?_)
  show (if b = W.1 k then some e else (ov W cc g).2 b) = _
  cases hx : W.2 b with
  | none =>
    rw [ov_bg hx, ov_bg hx, if_neg]
    intro w
    rw [w, hW.1 k hk] at hx
    cases hx
  | some j =>
    rw [ov_in hx, ov_in hx]
    by_cases hj : j = k
    · subst hj
      rw [if_pos (hW.2 b j hx).1, if_pos rfl]
    · rw [if_neg hj, if_neg]
      intro w
      rw [w, hW.1 k hk] at hx
      cases hx
      exact hj rfl
theorem ov_none (h : (ov W cc g).2 a = none) : W.2 a = none ∧ g.2 a = none := by
  cases hx : W.2 a with
  | none => rw [ov_bg hx] at h; exact ⟨rfl, h⟩
  | some j => rw [ov_in hx] at h; cases h
theorem ov_new (h : (ov W cc g).2 a = none) : q_new (ov W cc g) n a e = ov W cc (q_new g n a e) := by
  obtain ⟨h1, h2⟩ := ov_none h
  refine Prod.ext rfl (funext fun b => ?_)
  show (if b = a then some e else (ov W cc g).2 b) = _
  cases hx : W.2 b with
  | none => rw [ov_bg hx, ov_bg hx]; rfl
  | some j =>
    rw [ov_in hx, ov_in hx, if_neg]
    intro w
    rw [w, h1] at hx
    cases hx
theorem ov_pbg (h : W.2 a = none) : q_put (ov W cc g) a e = ov W cc (q_put g a e) := by
  refine Prod.ext rfl (funext fun b => ?_)
  show (if b = a then some e else (ov W cc g).2 b) = _
  cases hx : W.2 b with
  | none => rw [ov_bg hx, ov_bg hx]; rfl
  | some j =>
    rw [ov_in hx, ov_in hx, if_neg]
    intro w
    rw [w, h] at hx
    cases hx
theorem ov_id (h : ∀ b j, W.2 b = some j → g.2 b = some (cc j)) : ov W cc g = g := by
  refine Prod.ext rfl (funext fun b => ?_)
  cases hx : W.2 b with
  | none => exact ov_bg hx
  | some j => rw [ov_in hx, h b j hx]
theorem ov_le (h : ∀ b j, W.2 b = some j → g.2 b = none) : q_le g (ov W cc g) := fun b x hb => by
  cases hx : W.2 b with
  | none => rw [ov_bg hx]; exact hb
  | some j => rw [h b j hx] at hb; cases hb
/-- one more role -/
def oadd (W : mW) (k a : Nat) : mW := (fun j => if j = k then a else W.1 j, fun b => if b = a then some k else W.2 b)
theorem oadd_ok (hW : oOK W R) (hk : ¬ R k) (ha : W.2 a = none) : oOK (oadd W k a) (fun j => j = k ∨ R j) := by
  refine ⟨fun j hj => ?_, fun b j hb => ?_⟩
  · show (if (if j = k then a else W.1 j) = a then some k else W.2 (if j = k then a else W.1 j)) = some j
    by_cases h : j = k
    · rw [if_pos h, if_pos rfl, h]
    · rw [if_neg h]
      have h9 := hW.1 j (hj.resolve_left h)
      rw [if_neg, h9]
      intro w
      rw [w, ha] at h9
      cases h9
  · have hb : (if b = a then some k else W.2 b) = some j := hb
    show b = (if j = k then a else W.1 j) ∧ _
    by_cases h : b = a
    · rw [if_pos h] at hb
      cases hb
      exact ⟨by rw [if_pos rfl, h], Or.inl rfl⟩
    · rw [if_neg h] at hb
      obtain ⟨h1, h2⟩ := hW.2 b j hb
      exact ⟨by rw [if_neg (fun w => hk (by rw [← w]; exact h2)), h1], Or.inr h2⟩
theorem oadd_new (hW : oOK W R) (hk : ¬ R k) (ha : W.2 a = none) : q_new (ov W cc g) n a e = ov (oadd W k a) (fun j => if j = k then e else cc j) (g.1 - n, g.2) := by
  refine Prod.ext rfl (funext fun b => ?_)
  show (if b = a then some e else (ov W cc g).2 b) = _
  by_cases h : b = a
  · rw [if_pos h, ov_in (k := k) (show (if b = a then some k else W.2 b) = some k from if_pos h), if_pos rfl]
  · rw [if_neg h]
    have e9 : (oadd W k a).2 b = W.2 b := if_neg h
    cases hx : W.2 b with
    | none =>
      rw [ov_bg hx, ov_bg (e9.trans hx)]
    | some j =>
      rw [ov_in hx, ov_in (e9.trans hx), if_neg (fun w => hk (by rw [← w]; exact (hW.2 b j hx).2))]
end OV
theorem mh_ov {W : mW} {s : mS} {g : qH} : mh W s g = ov W (mcell W s) g := rfl
/-- what the component holds of what is told: C its cells (0 the object, 1 the story, 2 the styles, 3 the data, 4 what is seen, 5 what is kept, 6 the layouts, 10.. each style, 20.. each record's data), xs the tokens -/
def CP (C : Nat → Nat) (xs : List Nat) (s : mS) (h : qH) : Prop :=
  (∃ V, h.2 (C 0) = some (c_ob 0 V) ∧ V 0 = va_rf (some (C 1)) ∧ V 1 = va_rf (some (C 2)) ∧ V 2 = va_rf (some (C 3)) ∧ V 3 = .int (zI (s.1 8)) ∧ V 4 = .int (zI (s.1 9)) ∧ V 5 = .int (zI (s.1 10)) ∧ V 6 = va_rf (some (C 4)) ∧ V 7 = .int (zI (s.1 12)) ∧ V 8 = .int (zI (s.1 13)) ∧ V 9 = va_rf (some (C 5)) ∧ V 10 = va_rf (some (C 6))) ∧
  (∃ k, h.2 (C 1) = some (c_ls k xs)) ∧ (xs.length : Int) = s.1 0 ∧
  (∀ i, i < xs.length → ∃ V, h.2 (xs.getD i 0) = some (c_ob 3 V) ∧ V 0 = .int (zI (s.2 1 i)) ∧ V 1 = .int (zI (s.2 2 i)) ∧ V 2 = .int (zI (s.2 3 i))) ∧
  (∃ f, h.2 (C 2) = some (c_ra 5 6 f) ∧ ∀ i, i < 6 → f i = some (C (10 + i))) ∧
  (∀ i : Nat, i < 6 → ∃ V, h.2 (C (10 + i)) = some (c_ob 1 V) ∧ V 0 = va_rf (if s.2 4 i = -1 then none else some (C (10 + (s.2 4 i).toNat))) ∧ V 1 = .int (zI (s.2 5 i)) ∧ V 2 = .int (zI (s.2 6 i))) ∧
  (∃ f, h.2 (C 3) = some (c_ra 6 4 f) ∧ ∀ i, i < 4 → f i = some (C (20 + i))) ∧
  (∀ r : Nat, r < 4 → ∃ f, h.2 (C (20 + r)) = some (c_ia 0 4 f) ∧ ∀ i : Nat, i < 4 → f i = zI (s.2 7 (4 * r + i))) ∧
  (∃ f, h.2 (C 4) = some (c_ia 0 10 f) ∧ ∀ i : Nat, i < 10 → f i = zI (s.2 11 i))
section CPR
variable {D : qD} {C : Nat → Nat} {xs : List Nat} {s : mS} {h h' : qH} {X : String → qH → Prop}
theorem CP.le (hP : CP C xs s h) (hl : q_le h h') : CP C xs s h' := by
  obtain ⟨⟨V, a1, a2⟩, ⟨k, b1⟩, c1, d1, ⟨f, e1, e2⟩, g1, ⟨f2, i1, i2⟩, j1, ⟨f3, k1, k2⟩⟩ := hP
  refine ⟨⟨V, hl _ _ a1, a2⟩, ⟨k, hl _ _ b1⟩, c1, fun i hi => ?_, ⟨f, hl _ _ e1, e2⟩, fun i hi => ?_, ⟨f2, hl _ _ i1, i2⟩, fun i hi => ?_, ⟨f3, hl _ _ k1, k2⟩⟩
  · obtain ⟨V, x1, x2⟩ := d1 i hi
    exact ⟨V, hl _ _ x1, x2⟩
  · obtain ⟨V, x1, x2⟩ := g1 i hi
    exact ⟨V, hl _ _ x1, x2⟩
  · obtain ⟨f, x1, x2⟩ := j1 i hi
    exact ⟨f, hl _ _ x1, x2⟩
theorem q_le.tr {h1 h2 h3 : qH} (a : q_le h1 h2) (b : q_le h2 h3) : q_le h1 h3 := fun x e q => b x e (a x e q)
theorem rls {t : Nat} {k : Int32} {ys : List Nat} (hc : h.2 t = some (c_ls k ys)) : recv D h (some t) RJ2 := rcv hc rfl
/-! the object's fields -/
theorem cp_story (hP : CP C xs s h) {K : Option Nat → Prop} (k9 : K (some (C 1))) : g_R D h (some (C 0)) 0 0 K := by
  obtain ⟨⟨V, a, v0, -⟩, -⟩ := hP
  exact gR a v0 k9
theorem cp_styles (hP : CP C xs s h) {K : Option Nat → Prop} (k9 : K (some (C 2))) : g_R D h (some (C 0)) 0 1 K := by
  obtain ⟨⟨V, a, v0, v1, -⟩, -⟩ := hP
  exact gR a v1 k9
theorem cp_data (hP : CP C xs s h) {K : Option Nat → Prop} (k9 : K (some (C 3))) : g_R D h (some (C 0)) 0 2 K := by
  obtain ⟨⟨V, a, v0, v1, v2, -⟩, -⟩ := hP
  exact gR a v2 k9
theorem cp_w (hP : CP C xs s h) {K : Int32 → Prop} (k9 : K (zI (s.1 8))) : g_I D h (some (C 0)) 0 3 K := by
  obtain ⟨⟨V, a, v0, v1, v2, v3, -⟩, -⟩ := hP
  exact gI a v3 k9
theorem cp_l (hP : CP C xs s h) {K : Int32 → Prop} (k9 : K (zI (s.1 9))) : g_I D h (some (C 0)) 0 4 K := by
  obtain ⟨⟨V, a, v0, v1, v2, v3, v4, -⟩, -⟩ := hP
  exact gI a v4 k9
theorem cp_c (hP : CP C xs s h) {K : Int32 → Prop} (k9 : K (zI (s.1 10))) : g_I D h (some (C 0)) 0 5 K := by
  obtain ⟨⟨V, a, v0, v1, v2, v3, v4, v5, -⟩, -⟩ := hP
  exact gI a v5 k9
theorem cp_sees (hP : CP C xs s h) {K : Option Nat → Prop} (k9 : K (some (C 4))) : g_R D h (some (C 0)) 0 6 K := by
  obtain ⟨⟨V, a, v0, v1, v2, v3, v4, v5, v6, -⟩, -⟩ := hP
  exact gR a v6 k9
theorem cp_fp (hP : CP C xs s h) {K : Int32 → Prop} (k9 : K (zI (s.1 12))) : g_I D h (some (C 0)) 0 7 K := by
  obtain ⟨⟨V, a, v0, v1, v2, v3, v4, v5, v6, v7, -⟩, -⟩ := hP
  exact gI a v7 k9
theorem cp_fc (hP : CP C xs s h) {K : Int32 → Prop} (k9 : K (zI (s.1 13))) : g_I D h (some (C 0)) 0 8 K := by
  obtain ⟨⟨V, a, v0, v1, v2, v3, v4, v5, v6, v7, v8, -⟩, -⟩ := hP
  exact gI a v8 k9
theorem cp_kept (hP : CP C xs s h) {K : Option Nat → Prop} (k9 : K (some (C 5))) : g_R D h (some (C 0)) 0 9 K := by
  obtain ⟨⟨V, a, v0, v1, v2, v3, v4, v5, v6, v7, v8, v9, -⟩, -⟩ := hP
  exact gR a v9 k9
theorem cp_lays (hP : CP C xs s h) {K : Option Nat → Prop} (k9 : K (some (C 6))) : g_R D h (some (C 0)) 0 10 K := by
  obtain ⟨⟨V, a, v0, v1, v2, v3, v4, v5, v6, v7, v8, v9, v10⟩, -⟩ := hP
  exact gR a v10 k9
/-! lists that are read -/
theorem ls_size (hD : q_DK D) {t : Nat} {k : Int32} {ys : List Nat} (hc : h.2 t = some (c_ls k ys)) {K : Int32 → qH → Prop} (k9 : K (zI ys.length) h) : recv D h (some t) RJ2 ∧ c_I D m_J2_size [va_rf (some t)] h X K := ⟨rls hc, j_size hD hc ⟨_, rfl, by rw [zI_n]; exact k9⟩⟩
theorem ls_get (hD : q_DK D) {t : Nat} {k : Int32} {ys : List Nat} (hc : h.2 t = some (c_ls k ys)) {i : Int32} {z : Int} (hi : i = zI z) (h0 : 0 ≤ z) (h1 : z < ys.length) {K : Option Nat → qH → Prop} (k9 : K (some (ys.getD z.toNat 0)) h) : recv D h (some t) RJ2 ∧ c_R D m_J2_get [va_rf (some t), .int i] h X K := by
  subst hi
  have e : zI z = nI z.toNat := by rw [zI_n, Int.toNat_of_nonneg h0]
  rw [e]
  exact ⟨rls hc, j_get hD hc (by omega) ⟨_, rfl, k9⟩⟩
theorem ls_isEmpty (hD : q_DK D) {t : Nat} {k : Int32} {ys : List Nat} (hc : h.2 t = some (c_ls k ys)) (hl : ys.length < 1000) {K : Int32 → qH → Prop} (k9 : K (if ys = [] then 1 else 0) h) : recv D h (some t) RJ2 ∧ c_I D m_J2_isEmpty [va_rf (some t)] h X K := ⟨rls hc, j_isEmpty hD hc (by omega) ⟨_, rfl, k9⟩⟩
theorem st_size (hD : q_DK D) (hP : CP C xs s h) {K : Int32 → qH → Prop} (k9 : K (zI (s.1 0)) h) : recv D h (some (C 1)) RJ2 ∧ c_I D m_J2_size [va_rf (some (C 1))] h X K := by
  obtain ⟨-, ⟨k, b⟩, c1, -⟩ := hP
  exact ls_size hD b (by rw [c1]; exact k9)
theorem CP.tok (hP : CP C xs s h) {z : Int} (h0 : 0 ≤ z) (h1 : z < s.1 0) : ∃ V, h.2 (xs.getD z.toNat 0) = some (c_ob 3 V) ∧ V 0 = .int (zI (s.2 1 z)) ∧ V 1 = .int (zI (s.2 2 z)) ∧ V 2 = .int (zI (s.2 3 z)) := by
  obtain ⟨-, -, c1, d1, -⟩ := hP
  have := d1 z.toNat (by omega)
  rw [Int.toNat_of_nonneg h0] at this
  exact this
theorem st_get (hD : q_DK D) (hP : CP C xs s h) {i : Int32} {z : Int} (hi : i = zI z) (h0 : 0 ≤ z) (h1 : z < s.1 0) {K : Option Nat → qH → Prop} (k9 : K (some (xs.getD z.toNat 0)) h) : recv D h (some (C 1)) RJ2 ∧ c_R D m_J2_get [va_rf (some (C 1)), .int i] h X (fun r h3 => q_cast D h3 r "Quirefold$Token" ∧ K r h3) := by
  obtain ⟨V, t1, -⟩ := hP.tok h0 h1
  obtain ⟨-, ⟨k, b⟩, c1, d1, -⟩ := hP
  exact ls_get hD b hi h0 (by omega) ⟨Or.inr ⟨_, _, "Quirefold$Token", rfl, Or.inl t1, rfl, Or.inl rfl⟩, k9⟩
theorem tk0 (hP : CP C xs s h) {z : Int} (h0 : 0 ≤ z) (h1 : z < s.1 0) {K : Int32 → Prop} (k9 : K (zI (s.2 1 z))) : g_I D h (some (xs.getD z.toNat 0)) 3 0 K := by
  obtain ⟨V, a, b, -⟩ := hP.tok h0 h1
  exact gI a b k9
theorem tk1 (hP : CP C xs s h) {z : Int} (h0 : 0 ≤ z) (h1 : z < s.1 0) {K : Int32 → Prop} (k9 : K (zI (s.2 2 z))) : g_I D h (some (xs.getD z.toNat 0)) 3 1 K := by
  obtain ⟨V, a, b, c, -⟩ := hP.tok h0 h1
  exact gI a c k9
theorem tk2 (hP : CP C xs s h) {z : Int} (h0 : 0 ≤ z) (h1 : z < s.1 0) {K : Int32 → Prop} (k9 : K (zI (s.2 3 z))) : g_I D h (some (xs.getD z.toNat 0)) 3 2 K := by
  obtain ⟨V, a, b, c, d⟩ := hP.tok h0 h1
  exact gI a d k9
/-- a style, by number -/
theorem cp_style (hP : CP C xs s h) {i : Int32} {z : Int} (hi : i = zI z) (h0 : 0 ≤ z) (h1 : z < 6) {K : Option Nat → Prop} (k9 : K (some (C (10 + z.toNat)))) : a_R D h (some (C 2)) 5 i K := by
  obtain ⟨-, -, -, -, ⟨f, e1, e2⟩, -⟩ := hP
  subst hi
  refine aR (Or.inl e1) (zI_in h0 (by omega) (by omega)) ?_
  rw [zI_cl h0 (by omega), e2 _ (by omega)]
  exact k9
end CPR
