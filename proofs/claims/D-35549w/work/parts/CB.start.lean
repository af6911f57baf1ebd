set_option maxRecDepth 100000
/-! the start: statics, arrays, Strings, boxes that are only read -/
section SR
variable {s : State} {A : Array Value}
theorem lf_at (h : sT.before A s = true) {i : Nat} {c : Cond} (hi : (flatC sT)[i]? = some c) : c.before A s = true := flat_of_before _ h _ (List.mem_of_getElem? hi)
/-- an array that is only read -/
def s_wk (s : State) (a : Nat) (c : ClassId) (n : Nat) (v : Nat → Value) : Prop := ∃ cell : Cell, s.heap[a]? = some cell ∧ cell.cls = c ∧ cell.vm.isStatics = false ∧ cell.vm ≠ .unknown ∧ n ≤ cell.slots.size ∧ cell.slots.size.toInt32 = Int32.ofNat n ∧ ∀ j, j < n → cell.slots[j]? = some (v j)
theorem s_wk_lt {a n : Nat} {c : ClassId} {v : Nat → Value} (h : s_wk s a c n v) : a < s.heap.size := by
  obtain ⟨cell, h1, -⟩ := h
  exact (Array.getElem?_eq_some_iff.mp h1).1
theorem s_nst {cell : Cell} (h : ∀ k, cell.vm ≠ .statics k) : cell.vm.isStatics = false := by
  cases hv : cell.vm with
  | statics q => exact absurd hv (h q)
  | _ => rfl
theorem s_T {ty : FieldType} {t N : Nat} {f : Nat → Value} {P : Nat → Prop} (h : va_T ty t N f P s s.heap) : ∃ c, s_wk s t c N f ∧ ArrOfT s c ty := by
  obtain ⟨cell, h1, ⟨h2, k, hk, comp, hkind⟩, h3, h4, h5, h6, -⟩ := h
  exact ⟨cell.cls, ⟨cell, h1, rfl, s_nst h2, h3, h4, h5, h6⟩, fun n z => ⟨(fun k h => by cases h), k, hk, comp, hkind⟩⟩
theorem s_ex {tm : Term} {cls : String} {t : Nat} {c : ClassId} (h : (Cond.exactly tm cls).before A s = true) (ht : tm.eval A s none [] s = some (.ref t)) (hc : s.vm.findClass cls = some c) {cell : Cell} (h1 : s.heap[t]? = some cell) : cell.cls = c := by
  obtain ⟨a, c', cell', kA, q1, q2, q3, q4, q5, q6, -⟩ := Cond.exactly_spec (args := A) (first := s) (o := none) (s := s) (idx := []) (t := tm) (cls := cls) h
  cases ht.symm.trans q1
  cases h1.symm.trans q3
  cases hc.symm.trans q2
  exact q6
theorem s_wk_ex {tm : Term} {cls : String} {t n : Nat} {c c' : ClassId} {v : Nat → Value} (hw : s_wk s t c' n v) (h : (Cond.exactly tm cls).before A s = true) (ht : tm.eval A s none [] s = some (.ref t)) (hc : s.vm.findClass cls = some c) : s_wk s t c n v := by
  obtain ⟨cell, h1, -, h3⟩ := hw
  exact ⟨cell, h1, s_ex h ht hc h1, h3⟩
theorem s_arr {tm : Term} {ty : FieldType} {N : Nat} {f : Nat → Int32} (hN : N < 2 ^ 31) (h1 : (Cond.arrayOf tm ty).before A s = true) (h2 : (Cond.eq (.length tm) (.int (Int32.ofNat N))).before A s = true) (h3 : ∀ j, j < N → (Cond.eq (.elem tm (.int (Int32.ofNat j))) (.int (f j))).before A s = true) : ∃ t, tm.eval A s none [] s = some (.ref t) ∧ ∃ c, s_wk s t c N (fun j => .int (f j)) ∧ ArrOfT s c ty := by
  obtain ⟨t, ht, hT⟩ := va_Tof (f := fun j => .int (f j)) (A := fun _ => False) hN h1 (va_eqt h2) (fun j hj => va_eqt (h3 j hj)) (fun _ _ h => h)
  exact ⟨t, ht, s_T hT⟩
theorem s_fv {C o n d : String} {T : u_T} {N : Nat} {cC : ClassId} {iS : Nat → Nat} (hK : u_Kn s C T N cC iS) {k : Nat} (hk : k < N) (hT : (T k).1 = o ∧ (T k).2.1 = n ∧ (T k).2.2.1 = d) {v : Value} {a : Nat} {P : Nat → Prop} (h : va_OF o n d v a P s s.heap) {cell : Cell} (h1 : s.heap[a]? = some cell) : cell.slots[iS k]? = some v ∧ cell.vm ≠ .unknown := by
  obtain ⟨cf, kf, fi, f, c2, g1, g2, g3, g4, g5, -⟩ := h
  obtain ⟨cf', kf', fi', f', hi, hsl⟩ := hK.1 k hk
  obtain ⟨e1, e2, e3⟩ := hT
  rw [e1, e2, e3] at hi
  cases g1.symm.trans hi
  cases h1.symm.trans g3
  exact ⟨by rw [← hsl]; exact g5, g4⟩
theorem s_ob (hall : ∀ w ∈ lw_all, w.before A s = true) {C : String} {T : u_T} {N : Nat} {cC : ClassId} {iS : Nat → Nat} (hK : u_Kn s C T N cC iS) (hin : ∀ w ∈ u_ws C T N, w ∈ lw_all) {a : Nat} {cell : Cell} (h1 : s.heap[a]? = some cell) (h2 : cell.cls = cC) (h3 : cell.vm.isStatics = false) (h4 : cell.vm ≠ .unknown) {kC : Class} (hkC : s.vm.classes[cC]? = some kC) (h5 : cell.slots.size = kC.instanceTypes.size) : r_OB a cC N iS s.heap (fun k => (cell.slots[iS k]?).getD .null) := by
  refine ⟨cell, h1, h2, h3, h4, fun k hk => ?_⟩
  obtain ⟨cf, kf, fi, f, hi, hsl⟩ := hK.1 k hk
  have h9 := (u_facts hK.2.1 hkC (u_lays hall hin hk) hi).2.2
  have hlt : iS k < cell.slots.size := by
    rw [h5, ← hsl]
    exact (Array.getElem?_eq_some_iff.mp h9).1
  show cell.slots[iS k]? = some ((cell.slots[iS k]?).getD .null)
  rw [Array.getElem?_eq_getElem hlt]
  rfl
/-- a String constant -/
theorem s_str (hall : ∀ w ∈ lw_all, w.before A s = true) {cC : ClassId} {iS : Nat → Nat} (hK : u_Kn s RJ8 TJ8 4 cC iS) {cB : ClassId} (hB : s.vm.findClass "[B" = some cB) {k n : Nat} {l : List Int32} (hn : n < 2 ^ 31) (h0 : (Cond.exactly (.string "Quirefold" k) "java/lang/String").before A s = true) (h1 : (Cond.eq (.field (.string "Quirefold" k) "java/lang/String" "coder" "B") (.int 0)).before A s = true) (h2 : (Cond.arrayOf (.field (.string "Quirefold" k) "java/lang/String" "value" "[B") .byte).before A s = true) (h3 : (Cond.eq (.length (.field (.string "Quirefold" k) "java/lang/String" "value" "[B")) (.int (Int32.ofNat n))).before A s = true) (h4 : ∀ j, j < n → (Cond.eq (.elem (.field (.string "Quirefold" k) "java/lang/String" "value" "[B") (.int (Int32.ofNat j))) (.int (l.getD j 0))).before A s = true) (h5 : (Cond.exactly (.field (.string "Quirefold" k) "java/lang/String" "value" "[B") "[B").before A s = true) :
    ∃ q : Nat, (Term.string "Quirefold" k).eval A s none [] s = some (.ref q) ∧ ∃ (t : Nat) (V : Nat → Value), r_OB q cC 4 iS s.heap V ∧ V 0 = .ref t ∧ V 1 = .int 0 ∧ s_wk s t cB n (fun j => .int (l.getD j 0)) := by
  obtain ⟨a, c, cell, kA, q1, q2, q3, q4, q5, q6, q7⟩ := Cond.exactly_spec (args := A) (first := s) (o := none) (s := s) (idx := []) (t := .string "Quirefold" k) (cls := "java/lang/String") h0
  obtain ⟨t, ht, cc, hw, -⟩ := s_arr (f := fun j => l.getD j 0) hn h2 h3 h4
  obtain ⟨hfc, kC, hkC, hkind⟩ := hK.2
  cases hfc.symm.trans q2
  cases hkC.symm.trans q4
  obtain ⟨v0, hu⟩ := s_fv hK (k := 0) (by decide) ⟨rfl, rfl, rfl⟩ (vk_OFof (A := fun _ => False) q1 ht (fun _ _ h => h)) q3
  obtain ⟨v1, -⟩ := s_fv hK (k := 1) (by decide) ⟨rfl, rfl, rfl⟩ (vk_OFof (A := fun _ => False) q1 (va_eqt h1) (fun _ _ h => h)) q3
  refine ⟨a, q1, t, fun k => (cell.slots[iS k]?).getD .null, s_ob hall hK in_J8 q3 q6 q5 hu hkC (q7 hkind), ?_, ?_, s_wk_ex hw h5 ht hB⟩
  · show (cell.slots[iS 0]?).getD .null = _
    rw [v0]
    rfl
  · show (cell.slots[iS 1]?).getD .null = _
    rw [v1]
    rfl
/-- a boxed int of the cache -/
theorem s_box {cC : ClassId} {iS : Nat → Nat} (hK : u_Kn s RJ18 TJ18 1 cC iS) {a : Nat} {v : Int32} {P : Nat → Prop} (h1 : va_O "java/lang/Integer" a P s s.heap) (h2 : va_OF "java/lang/Integer" "value" "I" (.int v) a P s s.heap) : r_OB a cC 1 iS s.heap (fun _ => .int v) := by
  obtain ⟨cell, g1, g2, g3, -⟩ := h1
  obtain ⟨v0, hu⟩ := s_fv hK (k := 0) (by decide) ⟨rfl, rfl, rfl⟩ h2 g1
  refine ⟨cell, g1, ?_, g2, hu, fun k hk => ?_⟩
  · have := hK.2.1
    exact (Option.some.inj (g3.symm.trans this))
  · have : k = 0 := by omega
    subst this
    exact v0
theorem s_by (l : List Int32) (h : (l.all fun x => decide (-128 ≤ x ∧ x ≤ 127)) = true) (i : Nat) : -128 ≤ l.getD i 0 ∧ l.getD i 0 ≤ 127 := by
  rw [List.getD_eq_getElem?_getD]
  cases hx : l[i]? with
  | none => decide
  | some x => exact of_decide_eq_true (List.all_eq_true.mp h x (List.mem_of_getElem? hx))
theorem s_dig {r : Nat} (h : r < 10) : -128 ≤ Int32.ofNat (48 + r) ∧ Int32.ofNat (48 + r) ≤ 127 := by
  rcases (by omega : r = 0 ∨ r = 1 ∨ r = 2 ∨ r = 3 ∨ r = 4 ∨ r = 5 ∨ r = 6 ∨ r = 7 ∨ r = 8 ∨ r = 9) with rfl | rfl | rfl | rfl | rfl | rfl | rfl | rfl | rfl | rfl <;> decide
/-! the tables -/
theorem s_ac {ty : FieldType} (h : (Cond.arrayClass ty).before A s = true) : ∃ c, ArrOfT s c ty ∧ s.vm.findClass ("[" ++ ty.toString) = some c := by
  obtain ⟨c, k, comp, h1, h2, h3⟩ := Cond.arrayClass_spec (args := A) (first := s) (o := none) (idx := []) h
  exact ⟨c, fun n z => ⟨(fun k h => by cases h), k, h2, comp, h3⟩, h1⟩
theorem s_ao {C : String} (h : (Cond.arrayOver (.object C)).before A s = true) : ∃ c, (ArrOfT s c (.object C) ∧ s.vm.findClass ("[" ++ (FieldType.object C).toString) = some c) ∧ ∃ (kA : Class) (comp : ClassId), s.vm.classes[c]? = some kA ∧ kA.kind = .array comp (.object C) ∧ s.vm.findClass C = some comp := by
  obtain ⟨comp, c, k, h1, -, h3, h4, h5⟩ := Cond.arrayOver_spec (args := A) (first := s) (o := none) (idx := []) h
  exact ⟨c, ⟨fun n z => ⟨(fun k h => by cases h), k, h3, comp, h4⟩, h5⟩, k, comp, h3, h4, h1⟩
theorem s_aa (h : (Cond.arrayOver (.array .int)).before A s = true) : ∃ c, ArrOfT s c (.array .int) ∧ s.vm.findClass ("[" ++ (FieldType.array .int).toString) = some c := by
  obtain ⟨comp, c, k, h1, h3, h4, h5⟩ := Cond.arrayOver_specA (args := A) (first := s) (o := none) (idx := []) h
  exact ⟨c, fun n z => ⟨(fun k h => by cases h), k, h3, comp, h4⟩, h5⟩
theorem s_cl (hall : ∀ w ∈ lw_all, w.before A s = true) : ∀ c : Nat, ∃ q : ClassId × (Nat → Nat), ∀ r : vw_C, qCL[c]? = some r → u_Kn s r.1 r.2.1 r.2.2 q.1 q.2
  | 0 => let ⟨x, y, h⟩ := u_known hall in_X1 (hall _ q86); ⟨(x, y), fun r hr => by
    obtain rfl : (RX1, TX1, 11) = r := Option.some.inj hr
    exact h⟩
  | 1 => let ⟨x, y, h⟩ := u_known hall in_X2 (hall _ q128); ⟨(x, y), fun r hr => by
    obtain rfl : (RX2, TX2, 3) = r := Option.some.inj hr
    exact h⟩
  | 2 => let ⟨x, y, h⟩ := u_known hall in_X3 (hall _ q1187); ⟨(x, y), fun r hr => by
    obtain rfl : (RX3, TX3, 38) = r := Option.some.inj hr
    exact h⟩
  | 3 => let ⟨x, y, h⟩ := u_known hall in_X4 (hall _ q587); ⟨(x, y), fun r hr => by
    obtain rfl : (RX4, TX4, 3) = r := Option.some.inj hr
    exact h⟩
  | 4 => let ⟨x, y, h⟩ := u_known hall in_X5 (hall _ q759); ⟨(x, y), fun r hr => by
    obtain rfl : (RX5, TX5, 10) = r := Option.some.inj hr
    exact h⟩
  | 5 => let ⟨x, y, h⟩ := u_known hall in_X6 (hall _ q800); ⟨(x, y), fun r hr => by
    obtain rfl : (RX6, TX6, 7) = r := Option.some.inj hr
    exact h⟩
  | 6 => let ⟨x, y, h⟩ := u_known hall in_J2 (hall _ q94); ⟨(x, y), fun r hr => by
    obtain rfl : (RJ2, TJ2, 3) = r := Option.some.inj hr
    exact h⟩
  | 7 => let ⟨x, y, h⟩ := u_known hall in_J22 (hall _ q980); ⟨(x, y), fun r hr => by
    obtain rfl : (RJ22, TJ22, 4) = r := Option.some.inj hr
    exact h⟩
  | 8 => let ⟨x, y, h⟩ := u_known hall in_J18 (hall _ q858); ⟨(x, y), fun r hr => by
    obtain rfl : (RJ18, TJ18, 1) = r := Option.some.inj hr
    exact h⟩
  | 9 => let ⟨x, y, h⟩ := u_known hall in_J10 (hall _ q301); ⟨(x, y), fun r hr => by
    obtain rfl : (RJ10, TJ10, 4) = r := Option.some.inj hr
    exact h⟩
  | 10 => let ⟨x, y, h⟩ := u_known hall in_J8 (hall _ q275); ⟨(x, y), fun r hr => by
    obtain rfl : (RJ8, TJ8, 4) = r := Option.some.inj hr
    exact h⟩
  | n + 11 => ⟨(0, fun _ => 0), fun _ hr => nomatch hr⟩
theorem s_xn {E : String} (h : (Cond.instantiable E 6).before A s = true) : ∃ q : ClassId × Array Value, s.vm.findClass E = some q.1 ∧ ∃ kX : Class, s.vm.classes[q.1]? = some kX ∧ kX.kind = .ordinary ∧ kX.instanceTypes.map defaultValue = q.2 ∧ kX.instanceTypes.size = 6 := by
  obtain ⟨c, k, h1, h2, h3, -, -, h4⟩ := Cond.instantiable_spec h
  exact ⟨(c, k.instanceTypes.map defaultValue), h1, k, h2, h3, rfl, h4⟩
/-- a private method of the superclass, of a class that has selected another one of it -/
theorem s_sel {C : String} {y x0 y0 : MethodName} (hy : y.cls ≠ "java/lang/invoke/MethodHandle" ∧ y.cls ≠ "java/lang/invoke/VarHandle") (hpriv : (Cond.privateMethod y).before A s = true) (hinst : (Cond.instanceMethod y).before A s = true) (hsel : (Cond.selects C x0 y0).before A s = true) (h0 : y0.cls = y.cls) : (Cond.selects C y y).before A s = true := by
  obtain ⟨c, r0, m0, hc, -, hm0, -, mk0, hmk0, hni⟩ := Cond.selects_spec hsel
  obtain ⟨mk, methM, hnamed, hmethM, -, -⟩ := Cond.instanceMethod_spec hinst
  have hfound : s.methodFound? y.cls y.name y.desc = some mk := State.methodFound?_of_named hnamed hy
  have hcls : m0.cls = mk.cls := by
    have h1 := findClass_of_methodNamed hm0
    rw [h0] at h1
    exact Option.some.inj (h1.symm.trans (findClass_of_methodNamed hnamed))
  rw [hcls] at hmk0
  have hsl : selectMethod {} s.vm c mk = .method mk := selectMethod_private hmethM (Cond.privateMethod_at hpriv mk methM hnamed hmethM)
  simp only [Cond.before, Cond.holds, Cond.value, hc, hfound, hnamed, hsl, hmk0]
  simp
  exact hni
end SR
