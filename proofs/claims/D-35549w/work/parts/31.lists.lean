set_option maxRecDepth 100000
/-! lists, by contract -/
/-- what the run's read-only cells hold -/
def q_DK (D : qD) : Prop :=
  d_ro D (d_s D 0) (c_ra 4 0 (fun _ => none)) ∧
  (∃ f : Nat → Option Nat, d_ro D (d_s D 1) (c_ra 8 256 f) ∧ ∀ i : Nat, i < 256 → ∃ (y : Nat) (V : Nat → Value), f i = some y ∧ d_ro D y (c_ob 8 V) ∧ V 0 = .int (zI ((i : Int) - 128))) ∧
  (∃ f : Nat → Int32, d_ro D (d_s D 2) (c_ia 2 100 f) ∧ ∀ i, -128 ≤ f i ∧ f i ≤ 127) ∧
  (∃ f : Nat → Int32, d_ro D (d_s D 3) (c_ia 2 100 f) ∧ ∀ i, -128 ≤ f i ∧ f i ≤ 127) ∧
  (∀ i, i < 25 → ∃ (V : Nat → Value) (a n : Nat) (f : Nat → Int32), d_ro D (d_s D (100 + i)) (c_ob 10 V) ∧ V 0 = .ref a ∧ V 1 = .int 0 ∧ d_ro D a (c_ia 2 n f) ∧ n ≤ 60 ∧ ∀ i, -128 ≤ f i ∧ f i ≤ 127)
section LS
variable {D : qD} {Q : Option Value → qH → Prop} {X : String → qH → Prop} {h : qH} {a t : Nat} {k : Int32} {xs : List Nat}
theorem gI {c j : Nat} {V : Nat → Value} {x : Int32} {K : Int32 → Prop} (hc : h.2 a = some (c_ob c V)) (hv : V j = .int x) (k9 : K x) : g_I D h (some a) c j K := ⟨a, V, x, rfl, Or.inl hc, hv, k9⟩
theorem gR {c j : Nat} {V : Nat → Value} {x : Option Nat} {K : Option Nat → Prop} (hc : h.2 a = some (c_ob c V)) (hv : V j = va_rf x) (k9 : K x) : g_R D h (some a) c j K := ⟨a, V, x, rfl, Or.inl hc, hv, k9⟩
theorem pF {c j : Nat} {V : Nat → Value} {v : Value} {K : qH → Prop} (hc : h.2 a = some (c_ob c V)) (k9 : K (q_put h a (c_ob c (updV V j v)))) : p_F h (some a) c j v K := ⟨a, V, rfl, hc, k9⟩
theorem aI {n t : Nat} {f : Nat → Int32} {i : Int32} {K : Int32 → Prop} (hc : h.2 a = some (c_ia t n f)) (hi : vp_in i n) (k9 : K (f i.toNatClampNeg)) : a_I D h (some a) t i K := ⟨a, n, f, rfl, Or.inl hc, hi, k9⟩
theorem aR {n t : Nat} {f : Nat → Option Nat} {i : Int32} {K : Option Nat → Prop} (hc : q_cell D h a (c_ra t n f)) (hi : vp_in i n) (k9 : K (f i.toNatClampNeg)) : a_R D h (some a) t i K := ⟨a, n, f, rfl, hc, hi, k9⟩
theorem aNr {n t : Nat} {f : Nat → Option Nat} {K : Int32 → Prop} (hc : q_cell D h a (c_ra t n f)) (ht : t < 10) (k9 : K (nI n)) : a_N D h (some a) K := ⟨a, n, rfl, Or.inr ⟨t, f, ht, hc⟩, k9⟩
theorem aNi {n t : Nat} {f : Nat → Int32} {K : Int32 → Prop} (hc : q_cell D h a (c_ia t n f)) (ht : t < 10) (k9 : K (nI n)) : a_N D h (some a) K := ⟨a, n, rfl, Or.inl ⟨t, f, ht, hc⟩, k9⟩
theorem rcv {e : qE} {C : String} (hc : h.2 a = some e) (hn : q_nm e = some C) : recv D h (some a) C := ⟨a, e, rfl, Or.inl hc, hn⟩
theorem put_self {e : qE} : (q_put h a e).2 a = some e := if_pos rfl
theorem put_ne {b : Nat} {e : qE} (hb : b ≠ a) : (q_put h a e).2 b = h.2 b := if_neg hb
theorem new_self {e : qE} {c : Nat} : (q_new h c a e).2 a = some e := if_pos rfl
theorem new_ne {b c : Nat} {e : qE} (hb : b ≠ a) : (q_new h c a e).2 b = h.2 b := if_neg hb
/-- elements that any array of objects takes -/
def q_els (h : qH) (xs : List Nat) : Prop := ∀ y ∈ xs, ∃ (z : qE) (B : String), h.2 y = some z ∧ q_nm z = some B ∧ Cond.castable B "java/lang/Object" ∈ lw_tbl
/-- a list to be read -/
theorem q_op_read (hD : q_DK D) (hc : h.2 t = some (c_ls k xs)) {h1 : qH} (ho : q_op D h t k xs h1) : ∃ (arr cap : Nat) (f : Nat → Option Nat), h1.2 t = some (c_ob 6 (q_lv k arr xs.length)) ∧ q_cell D h1 arr (c_ra 4 cap f) ∧ xs.length ≤ cap ∧ cap ≤ 1000 ∧ (∀ i, i < xs.length → f i = some (xs.getD i 0)) ∧ GS D h1 h ∧ ∀ b e, b ≠ t → h.2 b = some e → h1.2 b = some e := by
  rcases ho with ⟨rfl, rfl⟩ | ⟨arr, cap, f, h2, h3, h4, h5, h6, h7, rfl⟩
  · refine ⟨d_s D 0, 0, _, put_self, Or.inr hD.1, Nat.le_refl _, by omega, fun i hi => absurd hi (Nat.not_lt_zero i), GS_list0 put_self rfl rfl rfl (Nat.le_refl _) (fun b e hb => ?_), fun b e hb he => (put_ne hb).trans he⟩
    by_cases hbt : b = t
    · subst hbt
      rw [hc] at hb
      cases hb
      exact Or.inl ⟨rfl, rfl⟩
    · exact Or.inr ⟨hbt, (put_ne hbt).trans hb⟩
  · have e1 : (q_put (q_put h t (c_ob 6 (q_lv k arr xs.length))) arr (c_ra 4 cap f)).2 t = some (c_ob 6 (q_lv k arr xs.length)) := (put_ne (Ne.symm h2)).trans put_self
    have e2 : ∀ b e, b ≠ t → h.2 b = some e → b ≠ arr ∧ (q_put (q_put h t (c_ob 6 (q_lv k arr xs.length))) arr (c_ra 4 cap f)).2 b = some e := by
      intro b e hb he
      have hba : b ≠ arr := fun z => by rw [z, h3] at he; cases he
      exact ⟨hba, (put_ne hba).trans ((put_ne hb).trans he)⟩
    refine ⟨arr, cap, f, e1, Or.inl put_self, h4, h6, h7, GS_list e1 rfl rfl rfl h2 put_self h4 h5 h6 h7 (Nat.le_refl _) (fun b e hb => ?_), fun b e hb he => (e2 b e hb he).2⟩
    by_cases hbt : b = t
    · subst hbt
      rw [hc] at hb
      cases hb
      exact Or.inl ⟨rfl, rfl⟩
    · exact Or.inr ⟨hbt, (e2 b e hbt hb).1, (e2 b e hbt hb).2⟩
theorem j_size (hD : q_DK D) (hc : h.2 t = some (c_ls k xs)) (hQ : Q (some (.int (nI xs.length))) h) : MW D m_J2_size [va_rf (some t)] h Q X := by
  refine MW_pre (q_open hc) fun h1 ho => MW_close ?_
  obtain ⟨arr, cap, f, e1, e2, e3, e4, e5, e6, -⟩ := q_op_read hD hc ho
  exact f_J2_size t h1 (gI e1 rfl ⟨h, hQ, e6⟩)
theorem j_isEmpty (hD : q_DK D) (hc : h.2 t = some (c_ls k xs)) (hl : xs.length < 2147483648) (hQ : Q (some (.int (if xs = [] then 1 else 0))) h) : MW D m_J2_isEmpty [va_rf (some t)] h Q X := by
  refine MW_pre (q_open hc) fun h1 ho => MW_close ?_
  obtain ⟨arr, cap, f, e1, e2, e3, e4, e5, e6, -⟩ := q_op_read hD hc ho
  refine f_J2_isEmpty t h1 (gI e1 rfl ⟨fun z => ⟨h, ?_, e6⟩, fun z => ⟨h, ?_, e6⟩⟩)
  · rw [if_neg (fun q => by rw [q] at z; exact z rfl)] at hQ
    exact hQ
  · have : xs = [] := by
      cases xs with
      | nil => rfl
      | cons x l => exact absurd z (nI_ne0 (Nat.succ_pos _) hl)
    rw [if_pos this] at hQ
    exact hQ
theorem j_checkIndex {i n : Nat} (hi : i < n) (hn : n < 2147483648) (hQ : Q (some (.int (nI i))) h) : MW D m_J21_checkIndex [.int (nI i), .int (nI n)] h Q X := by
  refine f_J21_checkIndex _ _ h ?_
  refine f_J15_checkIndex _ _ h ⟨fun z => absurd z (nI_pos (by omega)), fun _ => ⟨fun _ => ⟨_, rfl, hQ⟩, fun z => absurd (nI_lt hi (by omega)) z⟩⟩
theorem j_elementData {arr cap i : Nat} {V : Nat → Value} {f : Nat → Option Nat} (e1 : h.2 t = some (c_ob 6 V)) (e2 : V 1 = .ref arr) (e3 : q_cell D h arr (c_ra 4 cap f)) (hi : i < cap) (hc : cap < 2147483648) (hQ : Q (some (va_rf (f i))) h) : MW D m_J2_elementData [va_rf (some t), .int (nI i)] h Q X := by
  refine f_J2_elementData t _ h (gR (x := some arr) e1 e2 (aR e3 (nI_in hi (by omega)) ?_))
  rw [nI_clamp (by omega)]
  exact hQ
theorem j_get (hD : q_DK D) (hc : h.2 t = some (c_ls k xs)) {i : Nat} (hi : i < xs.length) (hQ : Q (some (va_rf (some (xs.getD i 0)))) h) : MW D m_J2_get [va_rf (some t), .int (nI i)] h Q X := by
  refine MW_pre (q_open hc) fun h1 ho => MW_close ?_
  obtain ⟨arr, cap, f, e1, e2, e3, e4, e5, e6, -⟩ := q_op_read hD hc ho
  refine f_J2_get t _ h1 (gI e1 rfl (j_checkIndex hi (by omega) ⟨_, rfl, rcv e1 rfl, ?_⟩))
  refine j_elementData e1 rfl e2 (by omega) (by omega) ⟨_, rfl, h, ?_, e6⟩
  rw [e5 i hi]
  exact hQ
end LS
