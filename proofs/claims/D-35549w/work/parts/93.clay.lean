set_option maxRecDepth 100000
/-! a layout of the component: what it holds (fields as the model's: 14 lines, 15 lineOf, 16 columnOf, 22 columns, 28 used, 29 hasLine, 23 front; lines: 19 isHead, 38 width, 18 notes, 21 isKept, 17 column; lists by role: 4 waiting, 6+3i printed, 7+3i figures) -/
abbrev lV : Type := mS × (Nat → List Int)
def lobV (A : Nat → Nat) (x : Nat) (r : Int) (c : mS) : Nat → Value := fun k => if k = 0 then .int (zI r) else if k = 1 then va_rf (some (A 1)) else if k = 2 then va_rf (some (A 2)) else if k = 3 then va_rf (some (A 3)) else if k = 4 then va_rf (some (A 4)) else if k = 5 then .int (zI (c.1 22)) else if k = 6 then .int (zI (c.1 28)) else if k = 7 then .int (zI (c.1 29)) else if k = 8 then .int (zI (c.1 23)) else if k = 9 then va_rf (some x) else defaultValue (tyX5 k)
def linV (A : Nat → Nat) (c : mS) (k : Nat) : Nat → Value := fun j => if j = 0 then .int (zI (c.2 19 ((k - 5) / 3 : Nat))) else if j = 1 then va_rf (some (A (k + 1))) else if j = 2 then va_rf (some (A (k + 2))) else if j = 3 then .int (zI (c.2 38 ((k - 5) / 3 : Nat))) else if j = 4 then .int (zI (c.2 18 ((k - 5) / 3 : Nat))) else if j = 5 then .int (zI (c.2 21 ((k - 5) / 3 : Nat))) else if j = 6 then .int (zI (c.2 17 ((k - 5) / 3 : Nat))) else defaultValue (tyX6 j)
def lLs (A : Nat → Nat) (n : Int) : List Nat := (List.range n.toNat).map fun (i : Nat) => A (5 + 3 * i)
def lcell (A : Nat → Nat) (x : Nat) (r : Int) (c : mS) (q : Nat → Int32) (p : Nat → List Nat) (k : Nat) : qE :=
  if k = 0 then c_ob 4 (lobV A x r c) else if k = 1 then c_ls (q 1) (lLs A (c.1 14)) else if k = 2 then c_ia 0 120 (fun i => zI (c.2 15 (i : Int))) else if k = 3 then c_ia 0 120 (fun i => zI (c.2 16 (i : Int))) else if k % 3 = 2 then c_ob 5 (linV A c k) else c_ls (q k) (p k)
/-- roles that are lists of boxed ints -/
def lList (k : Nat) : Prop := 4 ≤ k ∧ k % 3 ≠ 2
/-- what the lists hold -/
def BX (n : Int) (p : Nat → List Nat) (T : Nat → List Int) (h : qH) : Prop := ∀ k : Nat, lList k → (k : Int) < 3 * n + 5 → (p k).length = (T k).length ∧ ∀ i, i < (T k).length → h.2 ((p k).getD i 0) = some (c_bx (zI ((T k).getD i 0)))
/-- the layout is there -/
def LX (A : Nat → Nat) (x : Nat) (r : Int) (v : lV) (h : qH) : Prop := 0 ≤ v.1.1 14 ∧ ∃ (q : Nat → Int32) (p : Nat → List Nat), (∀ k : Nat, (k : Int) < 3 * v.1.1 14 + 5 → h.2 (A k) = some (lcell A x r v.1 q p k)) ∧ BX (v.1.1 14) p v.2 h
section LXR
variable {D : qD} {A : Nat → Nat} {x : Nat} {r : Int} {v : lV} {h h' : qH} {X : String → qH → Prop}
theorem LX.le (hL : LX A x r v h) (hl : q_le h h') : LX A x r v h' := by
  obtain ⟨h0, q, p, h1, h2⟩ := hL
  refine ⟨h0, q, p, fun k hk => hl _ _ (h1 k hk), fun k hk hk2 => ?_⟩
  obtain ⟨a, b⟩ := h2 k hk hk2
  exact ⟨a, fun i hi => hl _ _ (b i hi)⟩
theorem LX.ob (hL : LX A x r v h) : h.2 (A 0) = some (c_ob 4 (lobV A x r v.1)) := by
  obtain ⟨h0, q, p, h1, h2⟩ := hL
  exact h1 0 (by omega)
theorem LX.rc (hL : LX A x r v h) : recv D h (some (A 0)) RX5 := rcv hL.ob rfl
theorem LX.B {C : Nat → Nat} (hL : LX A (C 0) r v h) : LB C (A 0) r h := ⟨_, hL.ob, rfl, rfl⟩
theorem lf_rec (hL : LX A x r v h) {K : Int32 → Prop} (k9 : K (zI r)) : g_I D h (some (A 0)) 4 0 K := gI hL.ob rfl k9
theorem lf_lines (hL : LX A x r v h) {K : Option Nat → Prop} (k9 : K (some (A 1))) : g_R D h (some (A 0)) 4 1 K := gR hL.ob rfl k9
theorem lf_lineOf (hL : LX A x r v h) {K : Option Nat → Prop} (k9 : K (some (A 2))) : g_R D h (some (A 0)) 4 2 K := gR hL.ob rfl k9
theorem lf_colOf (hL : LX A x r v h) {K : Option Nat → Prop} (k9 : K (some (A 3))) : g_R D h (some (A 0)) 4 3 K := gR hL.ob rfl k9
theorem lf_wait (hL : LX A x r v h) {K : Option Nat → Prop} (k9 : K (some (A 4))) : g_R D h (some (A 0)) 4 4 K := gR hL.ob rfl k9
theorem lf_cols (hL : LX A x r v h) {K : Int32 → Prop} (k9 : K (zI (v.1.1 22))) : g_I D h (some (A 0)) 4 5 K := gI hL.ob rfl k9
theorem lf_used (hL : LX A x r v h) {K : Int32 → Prop} (k9 : K (zI (v.1.1 28))) : g_I D h (some (A 0)) 4 6 K := gI hL.ob rfl k9
theorem lf_has (hL : LX A x r v h) {K : Int32 → Prop} (k9 : K (zI (v.1.1 29))) : g_I D h (some (A 0)) 4 7 K := gI hL.ob rfl k9
theorem lf_front (hL : LX A x r v h) {K : Int32 → Prop} (k9 : K (zI (v.1.1 23))) : g_I D h (some (A 0)) 4 8 K := gI hL.ob rfl k9
theorem lf_this (hL : LX A x r v h) {K : Option Nat → Prop} (k9 : K (some x)) : g_R D h (some (A 0)) 4 9 K := gR hL.ob rfl k9
theorem lLs_len {n : Int} : (lLs A n).length = n.toNat := by unfold lLs; simp
theorem lLs_at {n : Int} {i : Nat} (hi : (i : Int) < n) : (lLs A n).getD i 0 = A (5 + 3 * i) := by
  unfold lLs
  rw [List.getD_eq_getElem?_getD, List.getElem?_map, List.getElem?_range (by omega)]
  rfl
theorem LX.lines (hL : LX A x r v h) : ∃ k, h.2 (A 1) = some (c_ls k (lLs A (v.1.1 14))) := by
  obtain ⟨h0, q, p, h1, h2⟩ := hL
  exact ⟨q 1, h1 1 (by omega)⟩
theorem LX.line (hL : LX A x r v h) {z : Int} (h0 : 0 ≤ z) (h1 : z < v.1.1 14) : h.2 (A (5 + 3 * z.toNat)) = some (c_ob 5 (linV A v.1 (5 + 3 * z.toNat))) := by
  obtain ⟨h0', q, p, h1', h2⟩ := hL
  rw [h1' (5 + 3 * z.toNat) (by omega)]
  unfold lcell
  rw [if_neg (by omega), if_neg (by omega), if_neg (by omega), if_neg (by omega), if_pos (by omega)]
theorem LX.list (hL : LX A x r v h) {k : Nat} (hk : lList k) (hk2 : (k : Int) < 3 * v.1.1 14 + 5) : ∃ (m : Int32) (ys : List Nat), h.2 (A k) = some (c_ls m ys) ∧ ys.length = (v.2 k).length ∧ ∀ i, i < (v.2 k).length → h.2 (ys.getD i 0) = some (c_bx (zI ((v.2 k).getD i 0))) := by
  obtain ⟨h0', q, p, h1', h2⟩ := hL
  obtain ⟨a, b⟩ := h2 k hk hk2
  refine ⟨q k, p k, ?_, a, b⟩
  rw [h1' k hk2]
  unfold lcell
  unfold lList at hk
  rw [if_neg (by omega), if_neg (by omega), if_neg (by omega), if_neg (by omega), if_neg (by omega)]
theorem ln_size (hD : q_DK D) (hL : LX A x r v h) {K : Int32 → qH → Prop} (k9 : K (zI (v.1.1 14)) h) : recv D h (some (A 1)) RJ2 ∧ c_I D m_J2_size [va_rf (some (A 1))] h X K := by
  obtain ⟨k, hk⟩ := hL.lines
  refine ls_size hD hk ?_
  rw [lLs_len, Int.toNat_of_nonneg hL.1]
  exact k9
theorem ln_isEmpty (hD : q_DK D) (hL : LX A x r v h) (hn : v.1.1 14 ≤ 64) {K : Int32 → qH → Prop} (k9 : K (if v.1.1 14 = 0 then 1 else 0) h) : recv D h (some (A 1)) RJ2 ∧ c_I D m_J2_isEmpty [va_rf (some (A 1))] h X K := by
  obtain ⟨k, hk⟩ := hL.lines
  refine ls_isEmpty hD hk (by rw [lLs_len]; omega) ?_
  have h0 := hL.1
  by_cases w : v.1.1 14 = 0
  · rw [if_pos w] at k9
    rw [if_pos (List.eq_nil_of_length_eq_zero (by rw [lLs_len]; omega))]
    exact k9
  · rw [if_neg w] at k9
    rw [if_neg (fun q => w (by have := congrArg List.length q; rw [lLs_len] at this; have : (v.1.1 14).toNat = 0 := this; omega))]
    exact k9
theorem ln_get (hD : q_DK D) (hL : LX A x r v h) {i : Int32} {z : Int} (hi : i = zI z) (h0 : 0 ≤ z) (h1 : z < v.1.1 14) {K : Option Nat → qH → Prop} (k9 : K (some (A (5 + 3 * z.toNat))) h) : recv D h (some (A 1)) RJ2 ∧ c_R D m_J2_get [va_rf (some (A 1)), .int i] h X (fun r h3 => q_cast D h3 r "Quirefold$Line" ∧ K r h3) := by
  obtain ⟨k, hk⟩ := hL.lines
  refine ls_get hD hk hi h0 (by rw [lLs_len]; omega) ?_
  rw [lLs_at (by omega)]
  exact ⟨Or.inr ⟨_, _, "Quirefold$Line", rfl, Or.inl (hL.line h0 h1), rfl, Or.inl rfl⟩, k9⟩
theorem lin_i {z : Int} (h0 : 0 ≤ z) : ((((5 + 3 * z.toNat) - 5) / 3 : Nat) : Int) = z := by omega
theorem li0 (hL : LX A x r v h) {z : Int} (h0 : 0 ≤ z) (h1 : z < v.1.1 14) {K : Int32 → Prop} (k9 : K (zI (v.1.2 19 z))) : g_I D h (some (A (5 + 3 * z.toNat))) 5 0 K := gI (hL.line h0 h1) (x := zI (v.1.2 19 z)) (by show Value.int (zI (v.1.2 19 _)) = _; rw [lin_i h0]) k9
theorem li1 (hL : LX A x r v h) {z : Int} (h0 : 0 ≤ z) (h1 : z < v.1.1 14) {K : Option Nat → Prop} (k9 : K (some (A (6 + 3 * z.toNat)))) : g_R D h (some (A (5 + 3 * z.toNat))) 5 1 K := gR (hL.line h0 h1) (x := some (A (5 + 3 * z.toNat + 1))) rfl (by rw [show 5 + 3 * z.toNat + 1 = 6 + 3 * z.toNat by omega]; exact k9)
theorem li2 (hL : LX A x r v h) {z : Int} (h0 : 0 ≤ z) (h1 : z < v.1.1 14) {K : Option Nat → Prop} (k9 : K (some (A (7 + 3 * z.toNat)))) : g_R D h (some (A (5 + 3 * z.toNat))) 5 2 K := gR (hL.line h0 h1) (x := some (A (5 + 3 * z.toNat + 2))) rfl (by rw [show 5 + 3 * z.toNat + 2 = 7 + 3 * z.toNat by omega]; exact k9)
theorem li3 (hL : LX A x r v h) {z : Int} (h0 : 0 ≤ z) (h1 : z < v.1.1 14) {K : Int32 → Prop} (k9 : K (zI (v.1.2 38 z))) : g_I D h (some (A (5 + 3 * z.toNat))) 5 3 K := gI (hL.line h0 h1) (x := zI (v.1.2 38 z)) (by show Value.int (zI (v.1.2 38 _)) = _; rw [lin_i h0]) k9
theorem li4 (hL : LX A x r v h) {z : Int} (h0 : 0 ≤ z) (h1 : z < v.1.1 14) {K : Int32 → Prop} (k9 : K (zI (v.1.2 18 z))) : g_I D h (some (A (5 + 3 * z.toNat))) 5 4 K := gI (hL.line h0 h1) (x := zI (v.1.2 18 z)) (by show Value.int (zI (v.1.2 18 _)) = _; rw [lin_i h0]) k9
theorem li5 (hL : LX A x r v h) {z : Int} (h0 : 0 ≤ z) (h1 : z < v.1.1 14) {K : Int32 → Prop} (k9 : K (zI (v.1.2 21 z))) : g_I D h (some (A (5 + 3 * z.toNat))) 5 5 K := gI (hL.line h0 h1) (x := zI (v.1.2 21 z)) (by show Value.int (zI (v.1.2 21 _)) = _; rw [lin_i h0]) k9
theorem li6 (hL : LX A x r v h) {z : Int} (h0 : 0 ≤ z) (h1 : z < v.1.1 14) {K : Int32 → Prop} (k9 : K (zI (v.1.2 17 z))) : g_I D h (some (A (5 + 3 * z.toNat))) 5 6 K := gI (hL.line h0 h1) (x := zI (v.1.2 17 z)) (by show Value.int (zI (v.1.2 17 _)) = _; rw [lin_i h0]) k9
theorem lrc (hL : LX A x r v h) {z : Int} (h0 : 0 ≤ z) (h1 : z < v.1.1 14) : recv D h (some (A (5 + 3 * z.toNat))) RX6 := rcv (hL.line h0 h1) rfl
theorem la15 (hL : LX A x r v h) {i : Int32} {z : Int} (hi : i = zI z) (h0 : 0 ≤ z) (h1 : z < 120) {K : Int32 → Prop} (k9 : K (zI (v.1.2 15 z))) : a_I D h (some (A 2)) 0 i K := by
  obtain ⟨h0', q, p, h1', h2⟩ := hL
  subst hi
  have e : h.2 (A 2) = some (c_ia 0 120 (fun i => zI (v.1.2 15 (i : Int)))) := h1' 2 (by omega)
  refine aI e (zI_in h0 (by omega) (by omega)) ?_
  rw [zI_cl h0 (by omega), Int.toNat_of_nonneg h0]
  exact k9
theorem la16 (hL : LX A x r v h) {i : Int32} {z : Int} (hi : i = zI z) (h0 : 0 ≤ z) (h1 : z < 120) {K : Int32 → Prop} (k9 : K (zI (v.1.2 16 z))) : a_I D h (some (A 3)) 0 i K := by
  obtain ⟨h0', q, p, h1', h2⟩ := hL
  subst hi
  have e : h.2 (A 3) = some (c_ia 0 120 (fun i => zI (v.1.2 16 (i : Int)))) := h1' 3 (by omega)
  refine aI e (zI_in h0 (by omega) (by omega)) ?_
  rw [zI_cl h0 (by omega), Int.toNat_of_nonneg h0]
  exact k9
/-! lists of boxed ints -/
theorem lb_size (hD : q_DK D) (hL : LX A x r v h) {k : Nat} (hk : lList k) (hk2 : (k : Int) < 3 * v.1.1 14 + 5) {K : Int32 → qH → Prop} (k9 : K (zI (v.2 k).length) h) : recv D h (some (A k)) RJ2 ∧ c_I D m_J2_size [va_rf (some (A k))] h X K := by
  obtain ⟨m, ys, a, b, c⟩ := hL.list hk hk2
  exact ls_size hD a (by rw [b]; exact k9)
theorem lb_isEmpty (hD : q_DK D) (hL : LX A x r v h) {k : Nat} (hk : lList k) (hk2 : (k : Int) < 3 * v.1.1 14 + 5) (hl : (v.2 k).length < 1000) {K : Int32 → qH → Prop} (k9 : K (if v.2 k = [] then 1 else 0) h) : recv D h (some (A k)) RJ2 ∧ c_I D m_J2_isEmpty [va_rf (some (A k))] h X K := by
  obtain ⟨m, ys, a, b, c⟩ := hL.list hk hk2
  refine ls_isEmpty hD a (by omega) ?_
  have e : ys = [] ↔ v.2 k = [] := by
    rw [← List.length_eq_zero_iff, b, List.length_eq_zero_iff]
  by_cases w : v.2 k = []
  · rw [if_pos w] at k9
    rw [if_pos (e.mpr w)]
    exact k9
  · rw [if_neg w] at k9
    rw [if_neg (fun q => w (e.mp q))]
    exact k9
/-- an element, cast and unboxed -/
theorem lb_get (hD : q_DK D) (hL : LX A x r v h) {k : Nat} (hk : lList k) (hk2 : (k : Int) < 3 * v.1.1 14 + 5) {i : Int32} {z : Int} (hi : i = zI z) (h0 : 0 ≤ z) (h1 : z < (v.2 k).length) {K : Int32 → qH → Prop} (k9 : K (zI ((v.2 k).getD z.toNat 0)) h) : recv D h (some (A k)) RJ2 ∧ c_R D m_J2_get [va_rf (some (A k)), .int i] h X (fun r h3 => q_cast D h3 r "java/lang/Integer" ∧ (recv D h3 r RJ18 ∧ c_I D m_J18_intValue [va_rf r] h3 X K)) := by
  obtain ⟨m, ys, a, b, c⟩ := hL.list hk hk2
  have hb := c z.toNat (by omega)
  exact ls_get hD a hi h0 (by omega) ⟨Or.inr ⟨_, _, "java/lang/Integer", rfl, Or.inl hb, rfl, Or.inl rfl⟩, rcv hb rfl, j_intValue hb ⟨_, rfl, k9⟩⟩
end LXR
