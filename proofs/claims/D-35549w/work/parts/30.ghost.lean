set_option maxRecDepth 100000
/-! moves of the abstract heap that the machine doesn't see -/
def q_roH (D : qD) (H : Heap) : Prop := d_B D ≤ H.size ∧ ∀ a e, d_ro D a e → a < d_B D ∧ q_rd D (fun _ => none) a H e
def GS (D : qD) (h1 h2 : qH) : Prop := ∀ H, q_roH D H → q_abs D h1 H → q_abs D h2 H
theorem MW_pre {D : qD} {M : qM} {av : List Value} {h : qH} {Q : Option Value → qH → Prop} {X : String → qH → Prop} {P : qH → Prop} (hP : ∀ H, q_abs D h H → ∃ h1, P h1 ∧ q_abs D h1 H) (k : ∀ h1, P h1 → MW D M av h1 Q X) : MW D M av h Q X := by
  intro sz us p e ha hc hk s m args below hf happ hPc hK
  obtain ⟨q0, q1, q2, q3, q4⟩ := hPc
  obtain ⟨h1, hp, q4⟩ := hP _ q4
  exact k h1 hp sz us p e ha hc hk s m args below hf happ ⟨q0, q1, q2, q3, q4⟩ hK
theorem MW_post {D : qD} {M : qM} {av : List Value} {h : qH} {Q Q' : Option Value → qH → Prop} {X X' : String → qH → Prop} (G : MW D M av h Q' X') (kQ : ∀ v h1, Q' v h1 → ∃ h2, Q v h2 ∧ GS D h1 h2) (kX : ∀ E h1, X' E h1 → ∃ h2, X E h2 ∧ GS D h1 h2) : MW D M av h Q X := by
  intro sz us
  refine MetFree.mono (G sz us) (fun a s h => h) (fun _ _ _ _ _ h => h) (fun a s o s' hp hq => ?_)
  obtain ⟨q0, q1, q2, q3, q4⟩ := hp
  have hB : d_B D ≤ s.heap.size := by
    obtain ⟨K, h1, -⟩ := q4
    exact h1
  have hro : ∀ t : State, va_F (d_N D) s t → q_roH D t.heap := fun t ht => ⟨Nat.le_trans hB ht.1, fun a e ha => by
    obtain ⟨g1, g2⟩ := q3.2.2.2.2 a e ha
    exact ⟨g1, q_rd_kept g2 (ht.2 a (Nat.lt_of_lt_of_le g1 hB) (Nat.not_le.mpr g1))⟩⟩
  rcases hq with ⟨⟨v, h', e1, e2, e3, e4⟩, hL⟩ | ⟨q, hq, E, ce, L, hx, hX⟩
  · obtain ⟨h2, k1, k2⟩ := kQ v h' e2
    exact Or.inl ⟨⟨v, h2, e1, k1, k2 _ (hro _ e4) e3, e4⟩, hL⟩
  · obtain ⟨h', e2, e3, e4⟩ := hx
    obtain ⟨h2, k1, k2⟩ := kX E h' e2
    exact Or.inr ⟨q, hq, E, ce, L, ⟨h2, k1, k2 _ (hro _ e4) e3, e4⟩, hX⟩
theorem GS_rf {D : qD} {h : qH} : GS D h h := fun _ _ q => q
/-- what a call leaves, but for what the machine doesn't see -/
def qcl (D : qD) (Q : Option Value → qH → Prop) : Option Value → qH → Prop := fun v h1 => ∃ h2, Q v h2 ∧ GS D h1 h2
theorem MW_close {D : qD} {M : qM} {av : List Value} {h : qH} {Q : Option Value → qH → Prop} {X : String → qH → Prop} (G : MW D M av h (qcl D Q) X) : MW D M av h Q X := MW_post G (fun _ _ q => q) (fun _ h1 q => ⟨h1, q, GS_rf⟩)
theorem MW_imp {D : qD} {M : qM} {av : List Value} {h : qH} {Q Q' : Option Value → qH → Prop} {X : String → qH → Prop} (G : MW D M av h Q' X) (kQ : ∀ v h1, Q' v h1 → Q v h1) : MW D M av h Q X := MW_post G (fun v h1 q => ⟨h1, kQ v h1 q, GS_rf⟩) (fun _ h1 q => ⟨h1, q, GS_rf⟩)
/-- cells dropped, credits dropped -/
theorem GS_sub {D : qD} {h1 h2 : qH} (hc : h2.1 ≤ h1.1) (hs : ∀ b e, h2.2 b = some e → h1.2 b = some e) : GS D h1 h2 := by
  intro H hro hA
  obtain ⟨K, a1, a2, a3, a4, a5, a6⟩ := hA
  exact ⟨K, a1, by omega, by omega, fun b e hb => a4 b e (hs b e hb), a5, a6⟩
/-- a list's picture: its elements' addresses -/
abbrev c_ls (k : Int32) (xs : List Nat) : qE := c_rl k (xs.map fun x => .ref x)
theorem q_lsget {xs : List Nat} {i : Nat} (hi : i < xs.length) : (xs.map fun x => Value.ref x).getD i .null = .ref (xs.getD i 0) := by
  simp [List.getD_eq_getElem?_getD, hi]
/-- what a list is, opened -/
def q_op (D : qD) (h : qH) (t : Nat) (k : Int32) (xs : List Nat) (h1 : qH) : Prop :=
  (xs = [] ∧ h1 = q_put h t (c_ob 6 (q_lv k (d_s D 0) 0))) ∨ ∃ (arr cap : Nat) (f : Nat → Option Nat), arr ≠ t ∧ h.2 arr = none ∧ xs.length ≤ cap ∧ 10 ≤ cap ∧ cap ≤ 1000 ∧ (∀ i, i < xs.length → f i = some (xs.getD i 0)) ∧ h1 = q_put (q_put h t (c_ob 6 (q_lv k arr xs.length))) arr (c_ra 4 cap f)
def q_kset (K : qHK) (a : Nat) (x : Option ((Nat × Nat × (Nat → Option Nat)) ⊕ Int32)) : qHK := fun b => if b = a then x else K b
theorem kset_self {K : qHK} {a : Nat} {x : Option ((Nat × Nat × (Nat → Option Nat)) ⊕ Int32)} : q_kset K a x a = x := if_pos rfl
theorem kset_ne {K : qHK} {a b : Nat} {x : Option ((Nat × Nat × (Nat → Option Nat)) ⊕ Int32)} (h : b ≠ a) : q_kset K a x b = K b := if_neg h
theorem q_bk_kept {D : qD} {K K1 : qHK} {a arr n : Nat} {el : (Nat → Option Nat) → Prop} (h : q_bk D K a arr n el) (hk : ∀ cap f, K arr = some (.inl (a, cap, f)) → K1 arr = K arr) : q_bk D K1 a arr n el := by
  rcases h with h | ⟨h0, cap, f, h1, h2⟩
  · exact Or.inl h
  · exact Or.inr ⟨h0, cap, f, by rw [hk cap f h1]; exact h1, h2⟩
theorem q_rep_K {D : qD} {K K1 : qHK} {a : Nat} {H : Heap} {e : qE} (h : q_rep D K a H e) (hl : ∀ arr cap f, K arr = some (.inl (a, cap, f)) → K1 arr = K arr) (hb : ∀ v, K a = some (.inr v) → K1 a = K a) (hbb : ∀ y v, K y = some (.inr v) → K1 y = K y) : q_rep D K1 a H e := by
  rcases e with ⟨c, V⟩ | ⟨t, n, f⟩ | ⟨n, f⟩ | ⟨t, n, f⟩ | ⟨k, vs⟩ | ⟨k, vs⟩ | v | ⟨E, b⟩
  · exact h
  · exact h
  · exact h
  · exact h
  · obtain ⟨arr, h1, h2⟩ := h
    exact ⟨arr, h1, q_bk_kept h2 (fun cap f h => hl arr cap f h)⟩
  · obtain ⟨arr, h1, h2⟩ := h
    refine ⟨arr, h1, ?_⟩
    rcases h2 with h2 | ⟨h0, cap, f, g1, g2, g3, g4, g5⟩
    · exact Or.inl h2
    · refine Or.inr ⟨h0, cap, f, by rw [hl arr cap f g1]; exact g1, g2, g3, g4, fun i hi => ?_⟩
      obtain ⟨y, y1, y2⟩ := g5 i hi
      exact ⟨y, y1, by rw [hbb y _ y2]; exact y2⟩
  · have h : K a = some (.inr v) := h
    show K1 a = some (.inr v)
    rw [hb v h]
    exact h
  · exact h
theorem q_open {D : qD} {h : qH} {t : Nat} {k : Int32} {xs : List Nat} (hc : h.2 t = some (c_ls k xs)) : ∀ H, q_abs D h H → ∃ h1, q_op D h t k xs h1 ∧ q_abs D h1 H := by
  intro H hA
  obtain ⟨K, a1, a2, a3, a4, a5, a6⟩ := hA
  obtain ⟨⟨arr, r1, r2⟩, hB⟩ := a4 t _ hc
  obtain ⟨hBt, hKt⟩ := hB rfl
  rw [List.length_map] at r1 r2
  rcases r2 with ⟨rfl, hn⟩ | ⟨hb, cap, f, g1, g2, g3, g4, g5⟩
  · refine ⟨_, Or.inl ⟨List.eq_nil_of_length_eq_zero hn, rfl⟩, K, a1, a2, a3, fun b e hbe => ?_, a5, a6⟩
    by_cases hbt : b = t
    · subst hbt
      simp only [q_put, if_true] at hbe
      cases hbe
      exact ⟨⟨_, rfl, by rw [hn] at r1; exact r1⟩, fun _ => ⟨hBt, hKt⟩⟩
    · simp only [q_put, if_neg hbt] at hbe
      exact a4 b e hbe
  · have hat : arr ≠ t := fun z => by rw [z, hKt] at g1; cases g1
    have harr : h.2 arr = none := by
      cases hx : h.2 arr with
      | none => rfl
      | some x =>
        obtain ⟨p1, p2⟩ := a4 arr x hx
        cases hbx : q_isbx x with
        | false => rw [(p2 hbx).2] at g1; cases g1
        | true =>
          rcases x with ⟨c, V⟩ | ⟨t, n, f⟩ | ⟨n, f⟩ | ⟨t, n, f⟩ | ⟨k, vs⟩ | ⟨k, vs⟩ | v | ⟨E, b⟩ <;> first | (cases hbx; done) | skip
          have p1 : K arr = some (.inr v) := p1
          rw [p1] at g1
          cases g1
    refine ⟨_, Or.inr ⟨arr, cap, f, hat, harr, g2, g3, g4, fun i hi => ?_, rfl⟩, q_kset K arr none, a1, a2, a3, fun b e hbe => ?_, fun b x hbx => ?_, a6⟩
    · have h9 : va_rf (f i) = (xs.map fun x => Value.ref x).getD i .null := g5 i hi
      rw [q_lsget hi] at h9
      cases hf : f i with
      | none => rw [hf] at h9; cases h9
      | some y => rw [hf] at h9; cases h9; rfl
    · by_cases hba : b = arr
      · subst hba
        simp only [q_put, if_true] at hbe
        cases hbe
        exact ⟨(a5 _ _ g1).2, fun _ => ⟨hb, kset_self⟩⟩
      · by_cases hbt : b = t
        · subst hbt
          simp only [q_put, if_neg hba, if_true] at hbe
          cases hbe
          exact ⟨⟨_, rfl, r1⟩, fun _ => ⟨hBt, (kset_ne hba).trans hKt⟩⟩
        · simp only [q_put, if_neg hba, if_neg hbt] at hbe
          obtain ⟨p1, p2⟩ := a4 b e hbe
          refine ⟨q_rep_K p1 (fun arr' cap' f' h9 => ?_) (fun v h9 => ?_) (fun y v h9 => ?_), fun h9 => ⟨(p2 h9).1, (kset_ne hba).trans (p2 h9).2⟩⟩
          · refine kset_ne fun z => ?_
            subst z
            rw [g1] at h9
            cases h9
            exact hbt rfl
          · refine kset_ne fun z => ?_
            subst z
            rw [g1] at h9
            cases h9
          · refine kset_ne fun z => ?_
            subst z
            rw [g1] at h9
            cases h9
    · by_cases hba : b = arr
      · rw [hba, kset_self] at hbx
        cases hbx
      · rw [kset_ne hba] at hbx
        exact a5 b x hbx
/-- .. closed -/
theorem GS_list {D : qD} {h1 h2 : qH} {t arr cap : Nat} {k : Int32} {xs : List Nat} {V : Nat → Value} {f : Nat → Option Nat} (h1t : h1.2 t = some (c_ob 6 V)) (hV0 : V 0 = .int k) (hV1 : V 1 = .ref arr) (hV2 : V 2 = .int (nI xs.length)) (hat : arr ≠ t) (harr : h1.2 arr = some (c_ra 4 cap f)) (hn : xs.length ≤ cap) (hc1 : 10 ≤ cap) (hc2 : cap ≤ 1000) (hf : ∀ i, i < xs.length → f i = some (xs.getD i 0)) (hc : h2.1 ≤ h1.1) (hs : ∀ b e, h2.2 b = some e → (b = t ∧ e = c_ls k xs) ∨ (b ≠ t ∧ b ≠ arr ∧ h1.2 b = some e)) : GS D h1 h2 := by
  intro H hro hA
  obtain ⟨K, a1, a2, a3, a4, a5, a6⟩ := hA
  obtain ⟨p1, p2⟩ := a4 arr _ harr
  obtain ⟨hBa, hKa⟩ := p2 rfl
  obtain ⟨⟨r, r1, r2⟩, p4⟩ := a4 t _ h1t
  cases r1
  obtain ⟨hBt, hKt⟩ := p4 rfl
  refine ⟨q_kset K arr (some (.inl (t, cap, f))), a1, by omega, by omega, fun b e hb => ?_, fun b x hbx => ?_, a6⟩
  · rcases hs b e hb with ⟨rfl, rfl⟩ | ⟨hb1, hb2, hb3⟩
    · refine ⟨⟨arr, t_OB.to r2 (fun j hj => ?_), Or.inr ⟨hBa, cap, f, kset_self, by rw [List.length_map]; exact hn, hc1, hc2, fun i hi => ?_⟩⟩, fun _ => ⟨hBt, (kset_ne (Ne.symm hat)).trans hKt⟩⟩
      · rw [List.length_map]
        have : j = 0 ∨ j = 1 ∨ j = 2 := by have : j < 3 := hj; omega
        rcases this with rfl | rfl | rfl
        · exact hV0
        · exact hV1
        · exact hV2
      · rw [List.length_map] at hi
        rw [hf i hi, q_lsget hi]
        rfl
    · obtain ⟨g1, g2⟩ := a4 b e hb3
      refine ⟨q_rep_K g1 (fun arr' cap' f' h9 => kset_ne fun z => ?_) (fun v h9 => kset_ne hb2) (fun y v h9 => kset_ne fun z => ?_), fun h9 => ⟨(g2 h9).1, (kset_ne hb2).trans (g2 h9).2⟩⟩
      · rw [z, hKa] at h9
        cases h9
      · rw [z, hKa] at h9
        cases h9
  · by_cases hba : b = arr
    · subst hba
      rw [kset_self] at hbx
      cases hbx
      exact ⟨hBa, p1⟩
    · rw [kset_ne hba] at hbx
      exact a5 b x hbx
theorem GS_list0 {D : qD} {h1 h2 : qH} {t : Nat} {k : Int32} {V : Nat → Value} (h1t : h1.2 t = some (c_ob 6 V)) (hV0 : V 0 = .int k) (hV1 : V 1 = .ref (d_s D 0)) (hV2 : V 2 = .int 0) (hc : h2.1 ≤ h1.1) (hs : ∀ b e, h2.2 b = some e → (b = t ∧ e = c_ls k []) ∨ (b ≠ t ∧ h1.2 b = some e)) : GS D h1 h2 := by
  intro H hro hA
  obtain ⟨K, a1, a2, a3, a4, a5, a6⟩ := hA
  obtain ⟨⟨r, r1, r2⟩, p4⟩ := a4 t _ h1t
  cases r1
  refine ⟨K, a1, by omega, by omega, fun b e hb => ?_, a5, a6⟩
  rcases hs b e hb with ⟨rfl, rfl⟩ | ⟨hb1, hb3⟩
  · refine ⟨⟨d_s D 0, t_OB.to r2 (fun j hj => ?_), Or.inl ⟨rfl, rfl⟩⟩, fun _ => p4 rfl⟩
    have : j = 0 ∨ j = 1 ∨ j = 2 := by have : j < 3 := hj; omega
    rcases this with rfl | rfl | rfl
    · exact hV0
    · exact hV1
    · exact hV2
  · exact a4 b e hb3
/-- a boxed int, new -/
theorem GS_box {D : qD} {h1 h2 : qH} {y : Nat} {v : Int32} {V : Nat → Value} (h1y : h1.2 y = some (c_ob 8 V)) (hV : V 0 = .int v) (hc : h2.1 ≤ h1.1) (hs : ∀ b e, h2.2 b = some e → (b = y ∧ e = c_bx v) ∨ (b ≠ y ∧ h1.2 b = some e)) : GS D h1 h2 := by
  intro H hro hA
  obtain ⟨K, a1, a2, a3, a4, a5, a6⟩ := hA
  obtain ⟨⟨r, r1, r2⟩, p4⟩ := a4 y _ h1y
  cases r1
  obtain ⟨hBt, hKt⟩ := p4 rfl
  refine ⟨q_kset K y (some (.inr v)), a1, by omega, by omega, fun b e hb => ?_, fun b x hbx => ?_, a6⟩
  · rcases hs b e hb with ⟨rfl, rfl⟩ | ⟨hb1, hb3⟩
    · exact ⟨kset_self, fun z => nomatch z⟩
    · obtain ⟨g1, g2⟩ := a4 b e hb3
      refine ⟨q_rep_K g1 (fun arr' cap' f' h9 => kset_ne fun z => ?_) (fun v h9 => kset_ne hb1) (fun y v h9 => kset_ne fun z => ?_), fun h9 => ⟨(g2 h9).1, (kset_ne hb1).trans (g2 h9).2⟩⟩
      · rw [z, hKt] at h9
        cases h9
      · rw [z, hKt] at h9
        cases h9
  · by_cases hba : b = y
    · subst hba
      rw [kset_self] at hbx
      cases hbx
      refine r_OB.to r2.rd (fun j hj => ?_)
      have : j = 0 := by have : j < 1 := hj; omega
      subst this
      exact hV
    · rw [kset_ne hba] at hbx
      exact a5 b x hbx
/-- .. one of the cache -/
theorem GS_cache {D : qD} {h1 h2 : qH} {y : Nat} {v : Int32} {V : Nat → Value} (hy : d_ro D y (c_ob 8 V)) (hV : V 0 = .int v) (hc : h2.1 ≤ h1.1) (hs : ∀ b e, h2.2 b = some e → (b = y ∧ e = c_bx v) ∨ h1.2 b = some e) : GS D h1 h2 := by
  intro H hro hA
  obtain ⟨K, a1, a2, a3, a4, a5, a6⟩ := hA
  obtain ⟨g0, r, r1, r2⟩ := hro.2 y _ hy
  cases r1
  have r2 : r_OB y (d_C D 8) 1 (d_I D 8) H V := r2
  have hKy : K y = none ∨ K y = some (.inr v) := by
    cases hk : K y with
    | none => exact Or.inl rfl
    | some x =>
      have h9 := a5 y x hk
      rcases x with ⟨o, cap, f⟩ | w
      · exact absurd h9.1 (Nat.not_le.mpr g0)
      · obtain ⟨c1, b1, b2, b3, b3', b4⟩ := h9
        obtain ⟨c2, b5, b6, b7, b7', b8⟩ := r2
        cases b1.symm.trans b5
        have h8 := (b4 0 Nat.zero_lt_one).symm.trans (b8 0 Nat.zero_lt_one)
        rw [hV] at h8
        cases h8
        exact Or.inr rfl
  have hK1 : ∀ b x, K b = some x → q_kset K y (some (.inr v)) b = K b := by
    intro b x hb
    by_cases hby : b = y
    · subst hby
      rw [kset_self]
      rcases hKy with h9 | h9
      · rw [h9] at hb; cases hb
      · exact h9.symm
    · exact kset_ne hby
  refine ⟨q_kset K y (some (.inr v)), a1, by omega, by omega, fun b e hb => ?_, fun b x hbx => ?_, a6⟩
  · rcases hs b e hb with ⟨rfl, rfl⟩ | hb3
    · exact ⟨kset_self, fun z => nomatch z⟩
    · obtain ⟨g1, g2⟩ := a4 b e hb3
      refine ⟨q_rep_K g1 (fun arr' cap' f' h9 => hK1 _ _ h9) (fun v h9 => hK1 _ _ h9) (fun y v h9 => hK1 _ _ h9), fun h9 => ⟨(g2 h9).1, ?_⟩⟩
      rw [kset_ne (fun z => by rw [z] at g2; exact absurd (g2 h9).1 (Nat.not_le.mpr g0))]
      exact (g2 h9).2
  · by_cases hba : b = y
    · subst hba
      rw [kset_self] at hbx
      cases hbx
      refine r_OB.to r2 (fun j hj => ?_)
      have : j = 0 := by have : j < 1 := hj; omega
      subst this
      exact hV
    · rw [kset_ne hba] at hbx
      exact a5 b x hbx
