set_option maxRecDepth 100000
/-! boxed ints, by contract -/
section BX
variable {D : qD} {M : qM} {av : List Value} {Q : Option Value → qH → Prop} {X : String → qH → Prop} {h : qH} {pc idx : Nat} {lv : List (Nat × Value)} {st : List Value}
theorem MW_ro {P : qH → Prop} (hP : ∀ H, q_roH D H → q_abs D h H → ∃ h1, P h1 ∧ q_abs D h1 H) (k : ∀ h1, P h1 → MW D M av h1 Q X) : MW D M av h Q X := by
  intro sz us p e ha hc hk s m args below hf happ hPc hK
  obtain ⟨q0, q1, q2, q3, q4⟩ := hPc
  have hB : d_B D ≤ s.heap.size := by
    obtain ⟨K, h1, -⟩ := q4
    exact h1
  obtain ⟨h1, hp, q4⟩ := hP _ ⟨hB, q3.2.2.2.2⟩ q4
  exact k h1 hp sz us p e ha hc hk s m args below hf happ ⟨q0, q1, q2, q3, q4⟩ hK
theorem q_ro_box {H : Heap} (hro : q_roH D H) (hA : q_abs D h H) {y : Nat} {V : Nat → Value} {v : Int32} (hy : d_ro D y (c_ob 8 V)) (hV : V 0 = .int v) : h.2 y = none ∨ h.2 y = some (c_bx v) := by
  obtain ⟨K, a1, a2, a3, a4, a5, a6⟩ := hA
  obtain ⟨g0, r, r1, r2⟩ := hro.2 y _ hy
  cases r1
  have r2 : r_OB y (d_C D 8) 1 (d_I D 8) H V := r2
  cases hx : h.2 y with
  | none => exact Or.inl rfl
  | some e =>
    obtain ⟨p1, p2⟩ := a4 y e hx
    cases hbx : q_isbx e with
    | false => exact absurd (p2 hbx).1 (Nat.not_le.mpr g0)
    | true =>
      rcases e with ⟨c, V⟩ | ⟨t, n, f⟩ | ⟨n, f⟩ | ⟨t, n, f⟩ | ⟨k, vs⟩ | ⟨k, vs⟩ | w | ⟨E, b⟩ <;> first | (cases hbx; done) | skip
      have p1 : K y = some (.inr w) := p1
      have h9 := a5 y _ p1
      obtain ⟨c1, b1, b2, b3, b3', b4⟩ := h9
      obtain ⟨c2, b5, b6, b7, b7', b8⟩ := r2
      cases b1.symm.trans b5
      have h8 := (b4 0 Nat.zero_lt_one).symm.trans (b8 0 Nat.zero_lt_one)
      rw [hV] at h8
      cases h8
      exact Or.inr rfl
theorem j_valueOf (hD : q_DK D) {z : Int} (hz1 : -2147483648 ≤ z) (hz2 : z < 2147483648) (hcr : 1 ≤ h.1) (hQ : ∀ y, (h.2 y = none ∨ h.2 y = some (c_bx (zI z))) → Q (some (va_rf (some y))) (h.1 - 1, (q_put h y (c_bx (zI z))).2)) : MW D m_J18_valueOf [.int (zI z)] h Q X := by
  refine MW_ro (P := fun h1 => h1 = h ∧ ∀ (y : Nat) (V : Nat → Value) (v : Int32), d_ro D y (c_ob 8 V) → V 0 = .int v → h.2 y = none ∨ h.2 y = some (c_bx v)) (fun H hro hA => ⟨h, ⟨rfl, fun y V v hy hV => q_ro_box hro hA hy hV⟩, hA⟩) fun h1 hh => MW_close ?_
  obtain ⟨rfl, hbox⟩ := hh
  have hL : L_J18_valueOf_23 D (qcl D Q) X (zI z) h1 := by
    refine f_J18_valueOf_23 _ h1 ⟨hcr, fun a ha => ?_⟩
    refine f_J18_init a _ _ ?_
    refine f_J17_init a _ ⟨rfl, pF new_self ⟨rfl, ?_⟩⟩
    refine ⟨_, hQ a (Or.inl ha), GS_box (y := a) (v := zI z) put_self rfl (Nat.le_refl _) (fun b e hb => ?_)⟩
    by_cases hba : b = a
    · subst hba
      rw [show ((h1.1 - 1, (q_put h1 b (c_bx (zI z))).2) : qH).2 b = some (c_bx (zI z)) from put_self] at hb
      cases hb
      exact Or.inl ⟨rfl, rfl⟩
    · have hb : h1.2 b = some e := (put_ne hba).symm.trans hb
      exact Or.inr ⟨hba, by rw [put_ne hba, new_ne hba]; exact hb⟩
  refine f_J18_valueOf _ h1 ⟨fun _ => hL, fun w1 => ⟨fun _ => hL, fun w2 => ?_⟩⟩
  rw [zl_m128, zI_lt hz1 hz2 (by omega) (by omega)] at w1
  rw [zl_127, zI_lt (by omega) (by omega) hz1 hz2] at w2
  obtain ⟨f, d1, d2⟩ := hD.2.1
  obtain ⟨y, V, y1, y2, y3⟩ := d2 (z + 128).toNat (by omega)
  rw [zl_128, zI_add]
  refine aR (Or.inr d1) (zI_in (by omega) (by omega) (by omega)) ?_
  rw [zI_cl (by omega) (by omega), y1]
  have y3 : V 0 = .int (zI z) := by
    rw [y3]
    congr 2
    omega
  refine ⟨_, hQ y (hbox y V _ y2 y3), GS_cache y2 y3 (by show h1.1 - 1 ≤ h1.1; omega) (fun b e hb => ?_)⟩
  by_cases hba : b = y
  · subst hba
    rw [show ((h1.1 - 1, (q_put h1 b (c_bx (zI z))).2) : qH).2 b = some (c_bx (zI z)) from put_self] at hb
    cases hb
    exact Or.inl ⟨rfl, rfl⟩
  · exact Or.inr ((put_ne hba).symm.trans hb)
theorem wa_getB {y : Nat} {v : Int32} {ref : String} (hd : decode (m_cc M) pc = .ok (.getfield idx, 3)) (hlink : Cond.fieldLink (m_own M) idx ref (TJ18 0).2.1 (TJ18 0).2.2.1 ∈ lw_all) (hsame : q_same ref TJ18 0) (hc : h.2 y = some (c_bx v)) (kk : WA D M Q X (pc + 3) lv (.int v :: st) h) : WA D M Q X pc lv (.ref y :: st) h := by
  intro p e s m args below meth c F H locs ls hA hS hl
  obtain ⟨K, hA9⟩ := hA
  have hK : K y = some (.inr v) := (hA9.2.2.2.1 y _ hc).1
  obtain ⟨cell, q1, q2, q2', q3, q4⟩ := hA9.2.2.2.2.1 y _ hK
  obtain ⟨hSl, hfc, kC, hkC, hkind⟩ := fx_cl F 8 _ rfl
  obtain ⟨cf, kf, fi, f, hi, hsl⟩ := hSl 0 Nat.zero_lt_one
  refine W.getf F.1 F.2.1 (fx_own F) (fx_w F _ hlink) (hsame s args (fx_w F) _ hi) (u_facts hfc hkC (u_lays (fx_w F) in_J18 Nat.zero_lt_one) hi).1 q1 q3 (v := .int v) ?_ rfl rfl hd (kk p e s m args below meth c F H locs ls ⟨K, hA9⟩ hS hl)
  rw [hsl]
  exact q4 0 Nat.zero_lt_one
theorem j_intValue {t : Nat} {v : Int32} (hc : h.2 t = some (c_bx v)) (hQ : Q (some (.int v)) h) : MW D m_J18_intValue [va_rf (some t)] h Q X := by
  refine mw_of pl_J18_intValue rfl _ (Nat.le_of_ble_eq_true rfl) rfl ?_
  refine (show WA D m_J18_intValue Q X 0 [(0, va_rf (some t))] [] h from ?_)
  refine wa_aload_n (o := (some t)) dJ18_intValue_0 rfl 0 rfl ?_
  refine wa_getB dJ18_intValue_1 q866 q_same_own hc ?_
  exact wa_iret rfl dJ18_intValue_4 hQ
end BX
