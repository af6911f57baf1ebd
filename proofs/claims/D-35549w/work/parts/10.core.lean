set_option maxRecDepth 100000
/-! ===== THE LAYER: an abstract heap, method predicates and point predicates over the kit's W and vx_Met ===== -/
/-- kinds of arrays, by number; of 8 (the cache) and 9 (the script) the class is just what their cells have -/
abbrev qAT : List FieldType := [.int, .boolean, .byte, .long, .object "java/lang/Object", .object "Quirefold$Style", .array .int, .object "Quirefold$Layout", .object "java/lang/Integer", .int]
/-- the classes of objects, by number -/
abbrev qCL : List vw_C := [(RX1, TX1, 11), (RX2, TX2, 3), (RX3, TX3, 38), (RX4, TX4, 3), (RX5, TX5, 10), (RX6, TX6, 7), (RJ2, TJ2, 3), (RJ22, TJ22, 4), (RJ18, TJ18, 1), (RJ10, TJ10, 4), (RJ8, TJ8, 4)]
/-- an abstract cell: an object; an array of ints, booleans or bytes; of longs; of references; a list of references; a list of boxed ints; a boxed int; an exception -/
abbrev qE : Type := (Nat × (Nat → Value)) ⊕ (Nat × Nat × (Nat → Int32)) ⊕ (Nat × (Nat → Int64)) ⊕ (Nat × Nat × (Nat → Option Nat)) ⊕ (Int32 × List Value) ⊕ (Int32 × List Int32) ⊕ Int32 ⊕ (String × Bool)
abbrev c_ob (c : Nat) (V : Nat → Value) : qE := .inl (c, V)
abbrev c_ia (t n : Nat) (f : Nat → Int32) : qE := .inr (.inl (t, n, f))
abbrev c_la (n : Nat) (f : Nat → Int64) : qE := .inr (.inr (.inl (n, f)))
abbrev c_ra (t n : Nat) (f : Nat → Option Nat) : qE := .inr (.inr (.inr (.inl (t, n, f))))
abbrev c_rl (k : Int32) (vs : List Value) : qE := .inr (.inr (.inr (.inr (.inl (k, vs)))))
abbrev c_il (k : Int32) (vs : List Int32) : qE := .inr (.inr (.inr (.inr (.inr (.inl (k, vs))))))
abbrev c_bx (v : Int32) : qE := .inr (.inr (.inr (.inr (.inr (.inr (.inl v))))))
abbrev c_ex (E : String) (made : Bool) : qE := .inr (.inr (.inr (.inr (.inr (.inr (.inr (E, made)))))))
/-- an abstract heap: credits (one pays a cell and four slots), and the cells -/
abbrev qH : Type := Nat × (Nat → Option qE)
/-- what a run keeps from its start: launch, classes' numbers and slots, arrays' classes, exceptions' classes and first slots, cells that are only read, addresses by number, the law's first new address, the heap's bounds -/
abbrev qD : Type := Launch × va_G × (Nat → ClassId) × (String → ClassId × Array Value) × (Nat → qE → Prop) × (Nat → Nat) × Nat × Nat × Nat
abbrev d_l (D : qD) : Launch := D.1
abbrev d_C (D : qD) : Nat → ClassId := D.2.1.1
abbrev d_I (D : qD) : Nat → Nat → Nat := D.2.1.2
abbrev d_A (D : qD) : Nat → ClassId := D.2.2.1
abbrev d_X (D : qD) : String → ClassId × Array Value := D.2.2.2.1
abbrev d_ro (D : qD) : Nat → qE → Prop := D.2.2.2.2.1
abbrev d_s (D : qD) : Nat → Nat := D.2.2.2.2.2.1
abbrev d_B (D : qD) : Nat := D.2.2.2.2.2.2.1
abbrev d_K (D : qD) : Nat := D.2.2.2.2.2.2.2.1
abbrev d_S (D : qD) : Nat := D.2.2.2.2.2.2.2.2
abbrev d_N (D : qD) : Nat → Prop := fun q => d_B D ≤ q
/-- hidden cells: a list's array (its list, its length, what it holds), a boxed int -/
abbrev qHK : Type := Nat → Option ((Nat × Nat × (Nat → Option Nat)) ⊕ Int32)
def q_used (H : Heap) : Nat := (H.toList.map (·.slots.size)).sum
def q_lv (k : Int32) (arr n : Nat) : Nat → Value := fun j => if j = 0 then .int k else if j = 1 then .ref arr else .int (nI n)
/-- a list's array -/
def q_bk (D : qD) (K : qHK) (a arr n : Nat) (el : (Nat → Option Nat) → Prop) : Prop :=
  (arr = d_s D 0 ∧ n = 0) ∨ (d_B D ≤ arr ∧ ∃ (cap : Nat) (f : Nat → Option Nat), K arr = some (.inl (a, cap, f)) ∧ n ≤ cap ∧ 10 ≤ cap ∧ cap ≤ 1000 ∧ el f)
/-- an abstract cell is that cell of the heap -/
def q_rep (D : qD) (K : qHK) (a : Nat) (H : Heap) : qE → Prop
  | .inl (c, V) => ∃ r : vw_C, qCL[c]? = some r ∧ t_OB a (d_C D c) r.2.2 (d_I D c) H V
  | .inr (.inl (t, n, f)) => H[a]? = some (vp_cell (d_A D t) (n, .inl f))
  | .inr (.inr (.inl (n, f))) => H[a]? = some (vp_cell (d_A D 3) (n, .inr (.inl f)))
  | .inr (.inr (.inr (.inl (t, n, f)))) => H[a]? = some (vp_cell (d_A D t) (n, .inr (.inr (.inr (.inr f)))))
  | .inr (.inr (.inr (.inr (.inl (k, vs))))) => ∃ arr : Nat, t_OB a (d_C D 6) 3 (d_I D 6) H (q_lv k arr vs.length) ∧ q_bk D K a arr vs.length (fun f => ∀ i, i < vs.length → va_rf (f i) = vs.getD i .null)
  | .inr (.inr (.inr (.inr (.inr (.inl (k, vs)))))) => ∃ arr : Nat, t_OB a (d_C D 6) 3 (d_I D 6) H (q_lv k arr vs.length) ∧ q_bk D K a arr vs.length (fun f => ∀ i, i < vs.length → ∃ y, f i = some y ∧ K y = some (.inr (vs.getD i 0)))
  | .inr (.inr (.inr (.inr (.inr (.inr (.inl v)))))) => K a = some (.inr v)
  | .inr (.inr (.inr (.inr (.inr (.inr (.inr (E, made))))))) => ∃ ce : Cell, H[a]? = some ce ∧ ce.cls = (d_X D E).1 ∧ ce.vm = .none ∧ (made = false → ce = ({ cls := (d_X D E).1, slots := (d_X D E).2, vm := .none } : Cell))
/-- an object, read: nothing is known of its monitor -/
def r_OB (o : Nat) (cC : ClassId) (N : Nat) (iS : Nat → Nat) (H : Heap) (V : Nat → Value) : Prop := ∃ cell : Cell, H[o]? = some cell ∧ cell.cls = cC ∧ cell.vm.isStatics = false ∧ cell.vm ≠ .unknown ∧ ∀ k, k < N → cell.slots[iS k]? = some (V k)
/-- an array, read -/
def q_wk (D : qD) (a : Nat) (H : Heap) (t n : Nat) (v : Nat → Value) : Prop := ∃ cell : Cell, H[a]? = some cell ∧ cell.cls = d_A D t ∧ cell.vm.isStatics = false ∧ cell.vm ≠ .unknown ∧ n ≤ cell.slots.size ∧ cell.slots.size.toInt32 = Int32.ofNat n ∧ ∀ j, j < n → cell.slots[j]? = some (v j)
/-- what a cell shows to who reads it -/
def q_rd (D : qD) (K : qHK) (a : Nat) (H : Heap) : qE → Prop
  | .inl (c, V) => ∃ r : vw_C, qCL[c]? = some r ∧ r_OB a (d_C D c) r.2.2 (d_I D c) H V
  | .inr (.inl (t, n, f)) => q_wk D a H t n (fun j => .int (f j))
  | .inr (.inr (.inl (n, f))) => q_wk D a H 3 n (fun j => .long (f j))
  | .inr (.inr (.inr (.inl (t, n, f)))) => q_wk D a H t n (fun j => va_rf (f j))
  | .inr (.inr (.inr (.inr x))) => q_rep D K a H (.inr (.inr (.inr (.inr x))))
def q_isbx : qE → Bool
  | .inr (.inr (.inr (.inr (.inr (.inr (.inl _)))))) => true
  | _ => false
def q_krep (D : qD) (a : Nat) (H : Heap) : (Nat × Nat × (Nat → Option Nat)) ⊕ Int32 → Prop
  | .inl (_, cap, f) => d_B D ≤ a ∧ H[a]? = some (vp_cell (d_A D 4) (cap, .inr (.inr (.inr (.inr f)))))
  | .inr v => r_OB a (d_C D 8) 1 (d_I D 8) H (fun _ => .int v)
/-- the abstract heap with its hidden cells is this heap -/
def q_absK (D : qD) (K : qHK) (h : qH) (H : Heap) : Prop :=
  d_B D ≤ H.size ∧ H.size + h.1 ≤ d_K D ∧ q_used H + 4 * h.1 ≤ d_S D ∧ (∀ a e, h.2 a = some e → q_rep D K a H e ∧ (q_isbx e = false → d_B D ≤ a ∧ K a = none)) ∧ (∀ a k, K a = some k → q_krep D a H k) ∧ ∀ a c, d_B D ≤ a → H[a]? = some c → c.vm.isStatics = false
def q_abs (D : qD) (h : qH) (H : Heap) : Prop := ∃ K : qHK, q_absK D K h H
/-- words that don't ride in the lists -/
def q_ng : Cond → Bool
  | .castable _ _ => true
  | .fieldLinkNest _ _ _ _ _ _ => true
  | .methodLinkNest _ _ _ _ => true
  | .declares _ => true
  | _ => false
abbrev y_Lsize : MethodName := ⟨"java/util/List", "size", "()I"⟩
abbrev y_Ladd2 : MethodName := ⟨"java/util/List", "add", "(ILjava/lang/Object;)V"⟩
abbrev y_Lremove : MethodName := ⟨"java/util/List", "remove", "(I)Ljava/lang/Object;"⟩
abbrev y_Lget : MethodName := ⟨"java/util/List", "get", "(I)Ljava/lang/Object;"⟩
abbrev y_Ladd : MethodName := ⟨"java/util/List", "add", "(Ljava/lang/Object;)Z"⟩
abbrev y_LisEmpty : MethodName := ⟨"java/util/List", "isEmpty", "()Z"⟩
abbrev y_Lclear : MethodName := ⟨"java/util/List", "clear", "()V"⟩
abbrev y_Literator : MethodName := ⟨"java/util/List", "iterator", "()Ljava/util/Iterator;"⟩
abbrev y_IhasNext : MethodName := ⟨"java/util/Iterator", "hasNext", "()Z"⟩
abbrev y_Inext : MethodName := ⟨"java/util/Iterator", "next", "()Ljava/lang/Object;"⟩
abbrev y_AL (n d : String) : MethodName := ⟨"java/util/ArrayList", n, d⟩
abbrev y_It (n d : String) : MethodName := ⟨"java/util/ArrayList$Itr", n, d⟩
abbrev qFW : List (String × MethodName × MethodName) := [("java/util/ArrayList", y_Lsize, y_AL "size" "()I"), ("java/util/ArrayList", y_Ladd2, y_AL "add" "(ILjava/lang/Object;)V"), ("java/util/ArrayList", y_Lremove, y_AL "remove" "(I)Ljava/lang/Object;"), ("java/util/ArrayList", y_Lget, y_AL "get" "(I)Ljava/lang/Object;"), ("java/util/ArrayList", y_Ladd, y_AL "add" "(Ljava/lang/Object;)Z"), ("java/util/ArrayList", y_LisEmpty, y_AL "isEmpty" "()Z"), ("java/util/ArrayList", y_Lclear, y_AL "clear" "()V"), ("java/util/ArrayList", y_Literator, y_AL "iterator" "()Ljava/util/Iterator;"), ("java/util/ArrayList$Itr", y_IhasNext, y_It "hasNext" "()Z"), ("java/util/ArrayList$Itr", y_Inext, y_It "next" "()Ljava/lang/Object;")]
abbrev qAO : List String := ["java/lang/Object", "Quirefold$Style", "Quirefold$Layout"]
/-- arrays of references to objects of a class, by number -/
abbrev qRA : List (Nat × String) := [(4, "java/lang/Object"), (5, "Quirefold$Style"), (7, "Quirefold$Layout")]
/-- String constants: class, entry, text -/
abbrev qSTR : List (String × Nat × String) := [("Quirefold", 118, "place"), ("Quirefold", 62, "no "), ("Quirefold", 68, " "), ("Quirefold", 82, " is not from "), ("Quirefold", 84, " to "), ("Quirefold", 122, "the story has too many tokens"), ("Quirefold", 139, "token"), ("Quirefold", 145, "style"), ("Quirefold", 151, "the style would lead to itself"), ("Quirefold", 90, "record"), ("Quirefold", 159, "variable"), ("Quirefold", 161, "term"), ("Quirefold", 163, "the term would lead to itself"), ("Quirefold", 165, "no signature has "), ("Quirefold", 167, " pages"), ("Quirefold", 112, "line"), ("Quirefold", 193, "no figure "), ("Quirefold", 211, "no entry "), ("Quirefold", 236, "no part "), ("Quirefold", 248, "page"), ("Quirefold", 249, "thing"), ("Quirefold", 254, "sheet"), ("Quirefold", 256, "side"), ("Quirefold", 258, "colour"), ("Quirefold", 279, "kind")]
abbrev qXN : List String := ["java/lang/IndexOutOfBoundsException", "java/lang/IllegalArgumentException", "java/lang/IllegalStateException"]
/-- classes that aren't another's: none is cast to the second -/
abbrev qNC : List (String × String) := [("java/lang/IllegalArgumentException", "java/lang/IndexOutOfBoundsException"), ("java/lang/IllegalStateException", "java/lang/IndexOutOfBoundsException"), ("java/lang/IllegalStateException", "java/lang/IllegalArgumentException")]
abbrev q_aoI (U : State) : Prop := (Cond.arrayOver (.array .int)).before #[] U = true ∧ ∀ q ∈ qNC, va_Nc q.1 q.2 U
/-- statics that are read: class, name, descriptor, what they hold -/
abbrev qST (D : qD) : List (String × String × String × Value) := [("java/util/ArrayList", "DEFAULTCAPACITY_EMPTY_ELEMENTDATA", "[Ljava/lang/Object;", .ref (d_s D 0)), ("java/lang/Integer$IntegerCache", "high", "I", .int 127), ("java/lang/Integer$IntegerCache", "cache", "[Ljava/lang/Integer;", .ref (d_s D 1)), ("java/lang/String", "COMPACT_STRINGS", "Z", .int 1), ("java/lang/Integer", "DigitTens", "[B", .ref (d_s D 2)), ("java/lang/Integer", "DigitOnes", "[B", .ref (d_s D 3))]
/-- private methods of StringBuilder's superclass -/
abbrev qPV : List MethodName := [yJ9_newCapacity, yJ9_putStringAt, yJ9_inflateIfNeededFor, yJ9_ensureCapacityInternal]
/-- what the tables say all through a run -/
def q_KX (D : qD) (U : State) : Prop :=
  (d_l D).stackTraces = false ∧
  (∀ c r, qCL[c]? = some r → u_Kn U r.1 r.2.1 r.2.2 (d_C D c) (d_I D c)) ∧
  (∀ t ty, qAT[t]? = some ty → ArrOfT U (d_A D t) ty ∧ (t < 8 → U.vm.findClass ("[" ++ ty.toString) = some (d_A D t))) ∧
  (∀ q ∈ qRA, ∃ (kA : Class) (comp : ClassId), U.vm.classes[d_A D q.1]? = some kA ∧ kA.kind = .array comp (.object q.2) ∧ U.vm.findClass q.2 = some comp) ∧
  (∀ q ∈ qFW, va_Fw q.1 q.2.1 q.2.2 U) ∧
  (∀ w ∈ lw_tbl, q_ng w = true → va_Nw w U) ∧
  (∀ C ∈ qAO, va_AO C U) ∧ q_aoI U ∧ va_Dc U ∧ va_Mi "[Ljava/lang/Object;" (d_s D 4) U ∧
  (∀ i q, qSTR[i]? = some q → vk_R q.1 q.2.1 q.2.2 (d_s D (100 + i)) U) ∧
  (∀ E ∈ qXN, U.vm.findClass E = some (d_X D E).1 ∧ ∃ kX : Class, U.vm.classes[(d_X D E).1]? = some kX ∧ kX.kind = .ordinary ∧ kX.instanceTypes.map defaultValue = (d_X D E).2 ∧ kX.instanceTypes.size = 6) ∧
  (∀ y ∈ qPV, (Cond.selects "java/lang/StringBuilder" y y).before #[] U = true)
/-- .. and the cells of the heap that are only read -/
def q_RO (D : qD) (U : State) (H : Heap) : Prop :=
  (∀ q ∈ qST D, va_Z q.1 q.2.1 q.2.2.1 q.2.2.2 (d_N D) U H) ∧ vx_Zq Bundle.tN "UNASSIGNED_STACK" Bundle.steD (d_N D) U H ∧ vx_Zq Bundle.tN "SUPPRESSED_SENTINEL" Bundle.listD (d_N D) U H ∧
  ∀ a e, d_ro D a e → a < d_B D ∧ q_rd D (fun _ => none) a H e
def q_CX (D : qD) (U : State) (H : Heap) : Prop := q_KX D U ∧ q_RO D U H
/-- a method: its rank, name, the class by name, code, locals, answer, handlers -/
abbrev qM : Type := Nat × MethodName × String × ByteArray × Nat × Option FieldType × List (Nat × Nat × Nat × Nat)
abbrev m_rk (M : qM) : Nat := M.1
abbrev m_y (M : qM) : MethodName := M.2.1
abbrev m_own (M : qM) : String := M.2.2.1
abbrev m_cc (M : qM) : ByteArray := M.2.2.2.1
abbrev m_nL (M : qM) : Nat := M.2.2.2.2.1
abbrev m_ret (M : qM) : Option FieldType := M.2.2.2.2.2.1
abbrev m_hh (M : qM) : List (Nat × Nat × Nat × Nat) := M.2.2.2.2.2.2
def q_Qc (D : qD) (Q : Option Value → qH → Prop) : Array Value → State → Outcome → State → Prop := fun _ st o t => ∃ v h', o = .returned v ∧ Q v h' ∧ q_abs D h' t.heap ∧ va_F (d_N D) st t
def q_XC (D : qD) (X : String → qH → Prop) : String → State → State → Prop := fun E st t => ∃ h', X E h' ∧ q_abs D h' t.heap ∧ va_F (d_N D) st t
def q_Pc (D : qD) (av : List Value) (h : qH) (sz us : Nat) : Array Value → State → Prop := va_Pc av (fun U => U.heap.size = sz ∧ q_used U.heap = us ∧ q_CX D U U.heap ∧ q_abs D h U.heap)
abbrev q_room (D : qD) (rk sz us : Nat) : Room := { frames := rk, cells := d_K D - sz, slots := d_S D - us, locals := 64 * rk }
/-- THE METHOD's PREDICATE: called with av at the abstract heap h it comes back with Q, or throws with X -/
def MW (D : qD) (M : qM) (av : List Value) (h : qH) (Q : Option Value → qH → Prop) (X : String → qH → Prop) : Prop :=
  ∀ sz us : Nat, vx_Met (d_l D) (m_y M) (ws_ (m_y M) (m_cc M) (m_nL M) (m_ret M)) (q_room D (m_rk M) sz us) (q_Pc D av h sz us) (q_Qc D Q) (q_XC D X) (d_K D - sz) (d_S D - us) (d_N D)
/-- .. of a method with handlers -/
def MWh (D : qD) (M : qM) (av : List Value) (h : qH) (Q : Option Value → qH → Prop) (X : String → qH → Prop) : Prop :=
  ∀ sz us : Nat, vx_Met (d_l D) (m_y M) (wsW_ (m_y M) (m_cc M) (m_nL M) (m_ret M) (m_hh M)) (q_room D (m_rk M) sz us) (q_Pc D av h sz us) (q_Qc D Q) (q_XC D X) (d_K D - sz) (d_S D - us) (d_N D)
/-- what stands fixed in a method's body -/
def q_FX (D : qD) (M : qM) (p : Program) (e : Env) (s : State) (m : MethodId) (args : Array Value) (below : List Frame) (meth : Method) (c : Code) : Prop :=
  p.tables.exec = Jvm.exec ∧ c.code = m_cc M ∧ meth.sig.returnType = m_ret M ∧ meth.locks = false ∧ c.maxLocals = m_nL M ∧ s.vm.findClass (m_own M) = some m.cls ∧ (∀ w ∈ lw_all, w.before args s = true) ∧ c.exceptionTable.toList = tableOf (m_hh M) ∧ meth.name = (m_y M).name ∧ q_CX D s s.heap ∧ d_B D ≤ s.heap.size
/-- THE POINT's PREDICATE: from pc with locals lv and operands st at the abstract heap h the method ends with Q or X -/
def WA (D : qD) (M : qM) (Q : Option Value → qH → Prop) (X : String → qH → Prop) (pc : Nat) (lv : List (Nat × Value)) (st : List Value) (h : qH) : Prop :=
  ∀ (p : Program) (e : Env) (s : State) (m : MethodId) (args : Array Value) (below : List Frame) (meth : Method) (c : Code), q_FX D M p e s m args below meth c → ∀ (H : Heap) (locs : List Loc) (ls : Array Slot), q_abs D h H → va_S (d_N D) s.heap H locs → lv_has ls (m_nL M) lv →
    W p (d_l D) e (q_room D (m_rk M) s.heap.size (q_used s.heap)) s m args below meth c H locs (H.size - s.heap.size) (q_used H - q_used s.heap) (vx_MQ below (q_Qc D Q) (q_XC D X) args s (d_K D - s.heap.size) (d_S D - q_used s.heap) (d_N D)) (F0 m pc ls st)
/-! counting slots -/
theorem q_sum_take (l : List Nat) (n : Nat) : (l.take n).sum + (l.drop n).sum = l.sum := by
  rw [← List.sum_append, List.take_append_drop]
theorem q_used_ge {H H1 : Heap} (hz : H.size ≤ H1.size) (hk : ∀ (a : Nat) (c : Cell), H[a]? = some c → ∃ c', H1[a]? = some c' ∧ c'.slots.size = c.slots.size) : q_used H1 = q_used H + ((H1.toList.drop H.size).map (·.slots.size)).sum := by
  unfold q_used
  have h1 : (H1.toList.take H.size).map (·.slots.size) = H.toList.map (·.slots.size) := by
    apply List.ext_getElem?
    intro i
    rw [List.getElem?_map, List.getElem?_map, List.getElem?_take]
    by_cases hi : i < H.size
    · rw [if_pos hi]
      have h2 : H[i]? = some H[i] := Array.getElem?_eq_getElem hi
      obtain ⟨c', h3, h4⟩ := hk i _ h2
      rw [Array.getElem?_toList, Array.getElem?_toList, h2, h3]
      simp [h4]
    · rw [if_neg hi]
      have : H.toList[i]? = none := by rw [Array.getElem?_toList]; simp; omega
      rw [this]
  rw [← h1, ← q_sum_take (H1.toList.map (·.slots.size)) H.size, List.map_take, List.map_drop]
theorem q_used_same {H H1 : Heap} (hz : H1.size = H.size) (hk : ∀ (a : Nat) (c : Cell), H[a]? = some c → ∃ c', H1[a]? = some c' ∧ c'.slots.size = c.slots.size) : q_used H1 = q_used H := by
  rw [q_used_ge (Nat.le_of_eq hz.symm) hk, List.drop_eq_nil_of_le (by rw [Array.length_toList, hz]; exact Nat.le_refl _)]
  simp
theorem q_used_push {H H1 : Heap} {ce : Cell} (hz : H1.size = H.size + 1) (hn : H1[H.size]? = some ce) (hk : ∀ a : Nat, a < H.size → H1[a]? = H[a]?) : q_used H1 = q_used H + ce.slots.size := by
  rw [q_used_ge (H := H) (H1 := H1) (by omega) (fun a c h => ⟨c, by rw [hk a (Array.getElem?_eq_some_iff.mp h).1]; exact h, rfl⟩)]
  congr 1
  have h1 : H1.toList.drop H.size = [ce] := by
    have h2 : H.size < H1.toList.length := by rw [Array.length_toList]; omega
    rw [List.drop_eq_getElem_cons h2, List.drop_eq_nil_of_le (by rw [Array.length_toList]; omega)]
    have h3 : H1.toList[H.size]? = some ce := by rw [Array.getElem?_toList]; exact hn
    rw [List.getElem?_eq_getElem h2] at h3
    rw [Option.some.inj h3]
  rw [h1]
  simp
section QW
variable {p : Program} {l : Launch} {e : Env} {R : Room} {s : State} {m : MethodId} {args : Array Value} {below : List Frame} {meth : Method} {c : Code} {H : Heap} {locs : List Loc} {cells slots : Nat} {Q : State → Prop} {g : JFrame}
theorem q_stand {T : State} (X : Stand p l e R s m args below meth c T locs cells slots) : q_used s.heap ≤ q_used T.heap ∧ Stand p l e R s m args below meth c T locs (T.heap.size - s.heap.size) (q_used T.heap - q_used s.heap) := by
  obtain ⟨e1, e2, e3, e4, e5, e6⟩ := X.same
  have hu : q_used T.heap = q_used s.heap + ((T.heap.toList.drop s.heap.size).map (·.slots.size)).sum := q_used_ge e2 (fun a c9 h => by
    obtain ⟨c', h1, -, h3, -⟩ := e6 a c9 h
    exact ⟨c', h1, h3⟩)
  refine ⟨by rw [hu]; exact Nat.le_add_right _ _, { X with same := ⟨e1, e2, ?_, e4, ?_, e6⟩ }⟩
  · show T.heap.size ≤ s.heap.size + (T.heap.size - s.heap.size)
    have : s.heap.size ≤ T.heap.size := e2
    omega
  · show ((T.heap.toList.drop s.heap.size).map (·.slots.size)).sum ≤ q_used T.heap - q_used s.heap
    omega
/-- counters as they are -/
theorem q_tight (k : q_used s.heap ≤ q_used H → W p l e R s m args below meth c H locs (H.size - s.heap.size) (q_used H - q_used s.heap) Q g) : W p l e R s m args below meth c H locs cells slots Q g := by
  intro T hT X
  obtain ⟨h1, h2⟩ := q_stand X
  rw [hT] at h1 h2
  exact k h1 T hT h2
end QW
