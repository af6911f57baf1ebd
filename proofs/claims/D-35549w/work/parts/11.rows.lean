set_option maxRecDepth 100000
/-! rows of the point predicate: locals, operands, branches (printed by gen/rules.py) -/
section QR
variable {D : qD} {M : qM} {Q : Option Value → qH → Prop} {X : String → qH → Prop} {pc : Nat} {lv : List (Nat × Value)} {st : List Value} {h : qH}
theorem wa_iconst {n : Int} {v : Int32} (hd : decode (m_cc M) pc = .ok (.iconst n, 1)) (hv : Int32.ofInt n = v) (k : WA D M Q X (pc + 1) lv (.int v :: st) h) : WA D M Q X pc lv st h := by
  intro p e s m args below meth c F H locs ls hA hS hl
  exact lv_iconst F.1 F.2.1 hd hv (k p e s m args below meth c F H locs ls hA hS hl)
theorem wa_bipush {n : Int} {v : Int32} (hd : decode (m_cc M) pc = .ok (.bipush n, 2)) (hv : (Int8.ofInt n).toInt32 = v) (k : WA D M Q X (pc + 2) lv (.int v :: st) h) : WA D M Q X pc lv st h := by
  intro p e s m args below meth c F H locs ls hA hS hl
  exact lv_bipush F.1 F.2.1 hd hv (k p e s m args below meth c F H locs ls hA hS hl)
theorem wa_sipush {n : Int} {v : Int32} (hd : decode (m_cc M) pc = .ok (.sipush n, 3)) (hv : (Int16.ofInt n).toInt32 = v) (k : WA D M Q X (pc + 3) lv (.int v :: st) h) : WA D M Q X pc lv st h := by
  intro p e s m args below meth c F H locs ls hA hS hl
  exact lv_sipush F.1 F.2.1 hd hv (k p e s m args below meth c F H locs ls hA hS hl)
theorem wa_lconst {n : Fin 2} {v : Int64} (hd : decode (m_cc M) pc = .ok (.lconst n, 1)) (hv : Int64.ofNat (n : Nat) = v) (k : WA D M Q X (pc + 1) lv (.long v :: st) h) : WA D M Q X pc lv st h := by
  intro p e s m args below meth c F H locs ls hA hS hl
  exact lv_lconst F.1 F.2.1 hd hv (k p e s m args below meth c F H locs ls hA hS hl)
theorem wa_null  (hd : decode (m_cc M) pc = .ok (.aconst_null, 1))  (k : WA D M Q X (pc + 1) lv (va_rf none :: st) h) : WA D M Q X pc lv st h := by
  intro p e s m args below meth c F H locs ls hA hS hl
  exact lv_null F.1 F.2.1 hd  (k p e s m args below meth c F H locs ls hA hS hl)
theorem wa_iload_n {n : Fin 4} {i : Nat} {x : Int32} (hd : decode (m_cc M) pc = .ok (.iload_n n, 1)) (hi : (n : Nat) = i) (j : Nat) (hj : lv[j]? = some (i, .int x)) (k : WA D M Q X (pc + 1) lv (.int x :: st) h) : WA D M Q X pc lv st h := by
  intro p e s m args below meth c F H locs ls hA hS hl
  exact lv_iload_n F.1 F.2.1 hd hi (lv_at hl j hj) (k p e s m args below meth c F H locs ls hA hS hl)
theorem wa_iload {i : Nat} {x : Int32} (hd : decode (m_cc M) pc = .ok (.iload i, 2)) (j : Nat) (hj : lv[j]? = some (i, .int x)) (k : WA D M Q X (pc + 2) lv (.int x :: st) h) : WA D M Q X pc lv st h := by
  intro p e s m args below meth c F H locs ls hA hS hl
  exact lv_iload F.1 F.2.1 hd (lv_at hl j hj) (k p e s m args below meth c F H locs ls hA hS hl)
theorem wa_lload_n {n : Fin 4} {i : Nat} {x : Int64} (hd : decode (m_cc M) pc = .ok (.lload_n n, 1)) (hi : (n : Nat) = i) (j : Nat) (hj : lv[j]? = some (i, .long x)) (k : WA D M Q X (pc + 1) lv (.long x :: st) h) : WA D M Q X pc lv st h := by
  intro p e s m args below meth c F H locs ls hA hS hl
  exact lv_lload_n F.1 F.2.1 hd hi (lv_at hl j hj) (k p e s m args below meth c F H locs ls hA hS hl)
theorem wa_lload {i : Nat} {x : Int64} (hd : decode (m_cc M) pc = .ok (.lload i, 2)) (j : Nat) (hj : lv[j]? = some (i, .long x)) (k : WA D M Q X (pc + 2) lv (.long x :: st) h) : WA D M Q X pc lv st h := by
  intro p e s m args below meth c F H locs ls hA hS hl
  exact lv_lload F.1 F.2.1 hd (lv_at hl j hj) (k p e s m args below meth c F H locs ls hA hS hl)
theorem wa_aload_n {n : Fin 4} {i : Nat} {o : Option Nat} (hd : decode (m_cc M) pc = .ok (.aload_n n, 1)) (hi : (n : Nat) = i) (j : Nat) (hj : lv[j]? = some (i, va_rf o)) (k : WA D M Q X (pc + 1) lv (va_rf o :: st) h) : WA D M Q X pc lv st h := by
  intro p e s m args below meth c F H locs ls hA hS hl
  cases o with
  | none => exact lv_aload_nN F.1 F.2.1 hd hi (lv_at hl j hj) (k p e s m args below meth c F H locs ls hA hS hl)
  | some a => exact lv_aload_n F.1 F.2.1 hd hi (lv_at hl j hj) (k p e s m args below meth c F H locs ls hA hS hl)
theorem wa_aload {i : Nat} {o : Option Nat} (hd : decode (m_cc M) pc = .ok (.aload i, 2)) (j : Nat) (hj : lv[j]? = some (i, va_rf o)) (k : WA D M Q X (pc + 2) lv (va_rf o :: st) h) : WA D M Q X pc lv st h := by
  intro p e s m args below meth c F H locs ls hA hS hl
  cases o with
  | none => exact lv_aloadN F.1 F.2.1 hd (lv_at hl j hj) (k p e s m args below meth c F H locs ls hA hS hl)
  | some a => exact lv_aload F.1 F.2.1 hd (lv_at hl j hj) (k p e s m args below meth c F H locs ls hA hS hl)
theorem wa_istore_n {n : Fin 4} {i : Nat} {x : Int32} {lv' : List (Nat × Value)} (hd : decode (m_cc M) pc = .ok (.istore_n n, 1)) (hi : (n : Nat) = i) (hn : i < m_nL M) (hl2 : (i, Value.int x) :: lv.filter (fun q => !(q.1 == i) && !(q.1 + 1 == i && q.2.category == 2)) = lv') (k : WA D M Q X (pc + 1) lv' st h) : WA D M Q X pc lv (Value.int x :: st) h := by
  intro p e s m args below meth c F H locs ls hA hS hl
  exact lv_istore_n F.1 F.2.1 hd hi hl hn hl2 (fun ls hl => k p e s m args below meth c F H locs ls hA hS hl)
theorem wa_istore {i : Nat} {x : Int32} {lv' : List (Nat × Value)} (hd : decode (m_cc M) pc = .ok (.istore i, 2)) (hn : i < m_nL M) (hl2 : (i, Value.int x) :: lv.filter (fun q => !(q.1 == i) && !(q.1 + 1 == i && q.2.category == 2)) = lv') (k : WA D M Q X (pc + 2) lv' st h) : WA D M Q X pc lv (Value.int x :: st) h := by
  intro p e s m args below meth c F H locs ls hA hS hl
  exact lv_istore F.1 F.2.1 hd hl hn hl2 (fun ls hl => k p e s m args below meth c F H locs ls hA hS hl)
theorem wa_lstore_n {n : Fin 4} {i : Nat} {x : Int64} {lv' : List (Nat × Value)} (hd : decode (m_cc M) pc = .ok (.lstore_n n, 1)) (hi : (n : Nat) = i) (hn : i + 1 < m_nL M) (hl2 : (i, Value.long x) :: lv.filter (fun q => !(q.1 == i) && (!(q.1 == i + 1) && !(q.1 + 1 == i && q.2.category == 2))) = lv') (k : WA D M Q X (pc + 1) lv' st h) : WA D M Q X pc lv (Value.long x :: st) h := by
  intro p e s m args below meth c F H locs ls hA hS hl
  exact lv_lstore_n F.1 F.2.1 hd hi hl hn hl2 (fun ls hl => k p e s m args below meth c F H locs ls hA hS hl)
theorem wa_lstore {i : Nat} {x : Int64} {lv' : List (Nat × Value)} (hd : decode (m_cc M) pc = .ok (.lstore i, 2)) (hn : i + 1 < m_nL M) (hl2 : (i, Value.long x) :: lv.filter (fun q => !(q.1 == i) && (!(q.1 == i + 1) && !(q.1 + 1 == i && q.2.category == 2))) = lv') (k : WA D M Q X (pc + 2) lv' st h) : WA D M Q X pc lv (Value.long x :: st) h := by
  intro p e s m args below meth c F H locs ls hA hS hl
  exact lv_lstore F.1 F.2.1 hd hl hn hl2 (fun ls hl => k p e s m args below meth c F H locs ls hA hS hl)
theorem wa_astore_n {n : Fin 4} {i : Nat} {o : Option Nat} {lv' : List (Nat × Value)} (hd : decode (m_cc M) pc = .ok (.astore_n n, 1)) (hi : (n : Nat) = i) (hn : i < m_nL M) (hl2 : (i, va_rf o) :: lv.filter (fun q => !(q.1 == i) && !(q.1 + 1 == i && q.2.category == 2)) = lv') (k : WA D M Q X (pc + 1) lv' st h) : WA D M Q X pc lv (va_rf o :: st) h := by
  intro p e s m args below meth c F H locs ls hA hS hl
  cases o with
  | none => exact lv_astore_nN F.1 F.2.1 hd hi hl hn hl2 (fun ls hl => k p e s m args below meth c F H locs ls hA hS hl)
  | some a => exact lv_astore_n F.1 F.2.1 hd hi hl hn hl2 (fun ls hl => k p e s m args below meth c F H locs ls hA hS hl)
theorem wa_astore {i : Nat} {o : Option Nat} {lv' : List (Nat × Value)} (hd : decode (m_cc M) pc = .ok (.astore i, 2)) (hn : i < m_nL M) (hl2 : (i, va_rf o) :: lv.filter (fun q => !(q.1 == i) && !(q.1 + 1 == i && q.2.category == 2)) = lv') (k : WA D M Q X (pc + 2) lv' st h) : WA D M Q X pc lv (va_rf o :: st) h := by
  intro p e s m args below meth c F H locs ls hA hS hl
  cases o with
  | none => exact lv_astoreN F.1 F.2.1 hd hl hn hl2 (fun ls hl => k p e s m args below meth c F H locs ls hA hS hl)
  | some a => exact lv_astore F.1 F.2.1 hd hl hn hl2 (fun ls hl => k p e s m args below meth c F H locs ls hA hS hl)
theorem wa_iinc {i j : Nat} {n : Int} {x v : Int32} {lv' : List (Nat × Value)} (hd : decode (m_cc M) pc = .ok (.iinc i n, 3)) (hj : lv[j]? = some (i, .int x)) (hv : x + Int32.ofInt n = v) (hn : i < m_nL M) (hl2 : (i, Value.int v) :: lv.filter (fun q => !(q.1 == i) && !(q.1 + 1 == i && q.2.category == 2)) = lv') (k : WA D M Q X (pc + 3) lv' st h) : WA D M Q X pc lv st h := by
  intro p e s m args below meth c F H locs ls hA hS hl
  exact lv_iinc F.1 F.2.1 hd hl (k := j) hj hv hn hl2 (fun ls hl => k p e s m args below meth c F H locs ls hA hS hl)
theorem wa_iadd {x y : Int32} (hd : decode (m_cc M) pc = .ok (.iadd, 1))  (k : WA D M Q X (pc + 1) lv (.int (x + y) :: st) h) : WA D M Q X pc lv (.int y :: .int x :: st) h := by
  intro p e s m args below meth c F H locs ls hA hS hl
  exact lv_iadd F.1 F.2.1 hd  (k p e s m args below meth c F H locs ls hA hS hl)
theorem wa_isub {x y : Int32} (hd : decode (m_cc M) pc = .ok (.isub, 1))  (k : WA D M Q X (pc + 1) lv (.int (x - y) :: st) h) : WA D M Q X pc lv (.int y :: .int x :: st) h := by
  intro p e s m args below meth c F H locs ls hA hS hl
  exact lv_isub F.1 F.2.1 hd  (k p e s m args below meth c F H locs ls hA hS hl)
theorem wa_imul {x y : Int32} (hd : decode (m_cc M) pc = .ok (.imul, 1))  (k : WA D M Q X (pc + 1) lv (.int (x * y) :: st) h) : WA D M Q X pc lv (.int y :: .int x :: st) h := by
  intro p e s m args below meth c F H locs ls hA hS hl
  exact lv_imul F.1 F.2.1 hd  (k p e s m args below meth c F H locs ls hA hS hl)
theorem wa_iand {x y : Int32} (hd : decode (m_cc M) pc = .ok (.iand, 1))  (k : WA D M Q X (pc + 1) lv (.int (x &&& y) :: st) h) : WA D M Q X pc lv (.int y :: .int x :: st) h := by
  intro p e s m args below meth c F H locs ls hA hS hl
  exact lv_iand F.1 F.2.1 hd  (k p e s m args below meth c F H locs ls hA hS hl)
theorem wa_ior {x y : Int32} (hd : decode (m_cc M) pc = .ok (.ior, 1))  (k : WA D M Q X (pc + 1) lv (.int (x ||| y) :: st) h) : WA D M Q X pc lv (.int y :: .int x :: st) h := by
  intro p e s m args below meth c F H locs ls hA hS hl
  exact lv_ior F.1 F.2.1 hd  (k p e s m args below meth c F H locs ls hA hS hl)
theorem wa_ixor {x y : Int32} (hd : decode (m_cc M) pc = .ok (.ixor, 1))  (k : WA D M Q X (pc + 1) lv (.int (x ^^^ y) :: st) h) : WA D M Q X pc lv (.int y :: .int x :: st) h := by
  intro p e s m args below meth c F H locs ls hA hS hl
  exact lv_ixor F.1 F.2.1 hd  (k p e s m args below meth c F H locs ls hA hS hl)
theorem wa_idiv {x y : Int32} (hd : decode (m_cc M) pc = .ok (.idiv, 1)) (hne : ¬ y = 0) (k : WA D M Q X (pc + 1) lv (.int (x / y) :: st) h) : WA D M Q X pc lv (.int y :: .int x :: st) h := by
  intro p e s m args below meth c F H locs ls hA hS hl
  exact lv_idiv F.1 F.2.1 hd hne (k p e s m args below meth c F H locs ls hA hS hl)
theorem wa_irem {x y : Int32} (hd : decode (m_cc M) pc = .ok (.irem, 1)) (hne : ¬ y = 0) (k : WA D M Q X (pc + 1) lv (.int (x - x / y * y) :: st) h) : WA D M Q X pc lv (.int y :: .int x :: st) h := by
  intro p e s m args below meth c F H locs ls hA hS hl
  exact lv_irem F.1 F.2.1 hd hne (k p e s m args below meth c F H locs ls hA hS hl)
theorem wa_ineg {x : Int32} (hd : decode (m_cc M) pc = .ok (.ineg, 1))  (k : WA D M Q X (pc + 1) lv (.int (-x) :: st) h) : WA D M Q X pc lv (.int x :: st) h := by
  intro p e s m args below meth c F H locs ls hA hS hl
  exact lv_ineg F.1 F.2.1 hd  (k p e s m args below meth c F H locs ls hA hS hl)
theorem wa_ishl {x y : Int32} (hd : decode (m_cc M) pc = .ok (.ishl, 1))  (k : WA D M Q X (pc + 1) lv (.int (x <<< (y &&& 31)) :: st) h) : WA D M Q X pc lv (.int y :: .int x :: st) h := by
  intro p e s m args below meth c F H locs ls hA hS hl
  exact lv_ishl F.1 F.2.1 hd  (k p e s m args below meth c F H locs ls hA hS hl)
theorem wa_ishr {x y : Int32} (hd : decode (m_cc M) pc = .ok (.ishr, 1))  (k : WA D M Q X (pc + 1) lv (.int (x >>> (y &&& 31)) :: st) h) : WA D M Q X pc lv (.int y :: .int x :: st) h := by
  intro p e s m args below meth c F H locs ls hA hS hl
  exact lv_ishr F.1 F.2.1 hd  (k p e s m args below meth c F H locs ls hA hS hl)
theorem wa_i2l {x : Int32} (hd : decode (m_cc M) pc = .ok (.i2l, 1))  (k : WA D M Q X (pc + 1) lv (.long x.toInt64 :: st) h) : WA D M Q X pc lv (.int x :: st) h := by
  intro p e s m args below meth c F H locs ls hA hS hl
  exact lv_i2l F.1 F.2.1 hd rfl (k p e s m args below meth c F H locs ls hA hS hl)
theorem wa_l2i {x : Int64} (hd : decode (m_cc M) pc = .ok (.l2i, 1))  (k : WA D M Q X (pc + 1) lv (.int x.toInt32 :: st) h) : WA D M Q X pc lv (.long x :: st) h := by
  intro p e s m args below meth c F H locs ls hA hS hl
  exact lv_l2i F.1 F.2.1 hd rfl (k p e s m args below meth c F H locs ls hA hS hl)
theorem wa_i2b {x : Int32} (hd : decode (m_cc M) pc = .ok (.i2b, 1))  (k : WA D M Q X (pc + 1) lv (.int x.toInt8.toInt32 :: st) h) : WA D M Q X pc lv (.int x :: st) h := by
  intro p e s m args below meth c F H locs ls hA hS hl
  exact lv_i2b F.1 F.2.1 hd rfl (k p e s m args below meth c F H locs ls hA hS hl)
theorem wa_lcmp {x y : Int64} (hd : decode (m_cc M) pc = .ok (.lcmp, 1))  (k : WA D M Q X (pc + 1) lv (.int (lg_cmp x y) :: st) h) : WA D M Q X pc lv (.long y :: .long x :: st) h := by
  intro p e s m args below meth c F H locs ls hA hS hl
  exact W.lcmp F.1 F.2.1 hd  (k p e s m args below meth c F H locs ls hA hS hl)
theorem wa_dup {a : Value} (hd : decode (m_cc M) pc = .ok (.dup, 1)) (ha : a.category = 1) (k : WA D M Q X (pc + 1) lv (a :: a :: st) h) : WA D M Q X pc lv (a :: st) h := by
  intro p e s m args below meth c F H locs ls hA hS hl
  exact lv_dup F.1 F.2.1 hd ha (k p e s m args below meth c F H locs ls hA hS hl)
theorem wa_pop {a : Value} (hd : decode (m_cc M) pc = .ok (.pop, 1)) (ha : a.category = 1) (k : WA D M Q X (pc + 1) lv st h) : WA D M Q X pc lv (a :: st) h := by
  intro p e s m args below meth c F H locs ls hA hS hl
  exact lv_pop F.1 F.2.1 hd ha (k p e s m args below meth c F H locs ls hA hS hl)
theorem wa_dup_x1 {a b : Value} (hd : decode (m_cc M) pc = .ok (.dup_x1, 1)) (ha : a.category = 1) (hb : b.category = 1) (k : WA D M Q X (pc + 1) lv (a :: b :: a :: st) h) : WA D M Q X pc lv (a :: b :: st) h := by
  intro p e s m args below meth c F H locs ls hA hS hl
  exact lv_dup_x1 F.1 F.2.1 hd ha hb (k p e s m args below meth c F H locs ls hA hS hl)
theorem wa_dup_x2 {a b d : Value} (hd : decode (m_cc M) pc = .ok (.dup_x2, 1)) (ha : a.category = 1) (hb : b.category = 1) (hc : d.category = 1) (k : WA D M Q X (pc + 1) lv (a :: b :: d :: a :: st) h) : WA D M Q X pc lv (a :: b :: d :: st) h := by
  intro p e s m args below meth c F H locs ls hA hS hl
  exact lv_dup_x2 F.1 F.2.1 hd ha hb hc (k p e s m args below meth c F H locs ls hA hS hl)
theorem wa_dup2 {a b : Value} (hd : decode (m_cc M) pc = .ok (.dup2, 1)) (ha : a.category = 1) (hb : b.category = 1) (k : WA D M Q X (pc + 1) lv (a :: b :: a :: b :: st) h) : WA D M Q X pc lv (a :: b :: st) h := by
  intro p e s m args below meth c F H locs ls hA hS hl
  exact lv_dup2_11 F.1 F.2.1 hd ha hb (k p e s m args below meth c F H locs ls hA hS hl)
theorem wa_if_eq {x : Int32} {off : Int} {tgt : Nat} (hd : decode (m_cc M) pc = .ok (.ifCond .eq off, 3)) (ht : (pc : Int) + off = (tgt : Int)) (kt : x = 0 → WA D M Q X tgt lv st h) (kf : ¬ x = 0 → WA D M Q X (pc + 3) lv st h) : WA D M Q X pc lv (.int x :: st) h := by
  intro p e s m args below meth c F H locs ls hA hS hl
  exact lv_if_eq F.1 F.2.1 hd ht (fun z => kt z p e s m args below meth c F H locs ls hA hS hl) (fun z => kf z p e s m args below meth c F H locs ls hA hS hl)
theorem wa_icmp_eq {x y : Int32} {off : Int} {tgt : Nat} (hd : decode (m_cc M) pc = .ok (.if_icmp .eq off, 3)) (ht : (pc : Int) + off = (tgt : Int)) (kt : x = y → WA D M Q X tgt lv st h) (kf : ¬ x = y → WA D M Q X (pc + 3) lv st h) : WA D M Q X pc lv (.int y :: .int x :: st) h := by
  intro p e s m args below meth c F H locs ls hA hS hl
  exact lv_icmp_eq F.1 F.2.1 hd ht (fun z => kt z p e s m args below meth c F H locs ls hA hS hl) (fun z => kf z p e s m args below meth c F H locs ls hA hS hl)
theorem wa_if_ne {x : Int32} {off : Int} {tgt : Nat} (hd : decode (m_cc M) pc = .ok (.ifCond .ne off, 3)) (ht : (pc : Int) + off = (tgt : Int)) (kt : ¬ x = 0 → WA D M Q X tgt lv st h) (kf : x = 0 → WA D M Q X (pc + 3) lv st h) : WA D M Q X pc lv (.int x :: st) h := by
  intro p e s m args below meth c F H locs ls hA hS hl
  exact lv_if_ne F.1 F.2.1 hd ht (fun z => kt z p e s m args below meth c F H locs ls hA hS hl) (fun z => kf z p e s m args below meth c F H locs ls hA hS hl)
theorem wa_icmp_ne {x y : Int32} {off : Int} {tgt : Nat} (hd : decode (m_cc M) pc = .ok (.if_icmp .ne off, 3)) (ht : (pc : Int) + off = (tgt : Int)) (kt : ¬ x = y → WA D M Q X tgt lv st h) (kf : x = y → WA D M Q X (pc + 3) lv st h) : WA D M Q X pc lv (.int y :: .int x :: st) h := by
  intro p e s m args below meth c F H locs ls hA hS hl
  exact lv_icmp_ne F.1 F.2.1 hd ht (fun z => kt z p e s m args below meth c F H locs ls hA hS hl) (fun z => kf z p e s m args below meth c F H locs ls hA hS hl)
theorem wa_if_lt {x : Int32} {off : Int} {tgt : Nat} (hd : decode (m_cc M) pc = .ok (.ifCond .lt off, 3)) (ht : (pc : Int) + off = (tgt : Int)) (kt : x < 0 → WA D M Q X tgt lv st h) (kf : ¬ x < 0 → WA D M Q X (pc + 3) lv st h) : WA D M Q X pc lv (.int x :: st) h := by
  intro p e s m args below meth c F H locs ls hA hS hl
  exact lv_if_lt F.1 F.2.1 hd ht (fun z => kt z p e s m args below meth c F H locs ls hA hS hl) (fun z => kf z p e s m args below meth c F H locs ls hA hS hl)
theorem wa_icmp_lt {x y : Int32} {off : Int} {tgt : Nat} (hd : decode (m_cc M) pc = .ok (.if_icmp .lt off, 3)) (ht : (pc : Int) + off = (tgt : Int)) (kt : x < y → WA D M Q X tgt lv st h) (kf : ¬ x < y → WA D M Q X (pc + 3) lv st h) : WA D M Q X pc lv (.int y :: .int x :: st) h := by
  intro p e s m args below meth c F H locs ls hA hS hl
  exact lv_icmp_lt F.1 F.2.1 hd ht (fun z => kt z p e s m args below meth c F H locs ls hA hS hl) (fun z => kf z p e s m args below meth c F H locs ls hA hS hl)
theorem wa_if_ge {x : Int32} {off : Int} {tgt : Nat} (hd : decode (m_cc M) pc = .ok (.ifCond .ge off, 3)) (ht : (pc : Int) + off = (tgt : Int)) (kt : 0 ≤ x → WA D M Q X tgt lv st h) (kf : ¬ 0 ≤ x → WA D M Q X (pc + 3) lv st h) : WA D M Q X pc lv (.int x :: st) h := by
  intro p e s m args below meth c F H locs ls hA hS hl
  exact lv_if_ge F.1 F.2.1 hd ht (fun z => kt z p e s m args below meth c F H locs ls hA hS hl) (fun z => kf z p e s m args below meth c F H locs ls hA hS hl)
theorem wa_icmp_ge {x y : Int32} {off : Int} {tgt : Nat} (hd : decode (m_cc M) pc = .ok (.if_icmp .ge off, 3)) (ht : (pc : Int) + off = (tgt : Int)) (kt : y ≤ x → WA D M Q X tgt lv st h) (kf : ¬ y ≤ x → WA D M Q X (pc + 3) lv st h) : WA D M Q X pc lv (.int y :: .int x :: st) h := by
  intro p e s m args below meth c F H locs ls hA hS hl
  exact lv_icmp_ge F.1 F.2.1 hd ht (fun z => kt z p e s m args below meth c F H locs ls hA hS hl) (fun z => kf z p e s m args below meth c F H locs ls hA hS hl)
theorem wa_if_gt {x : Int32} {off : Int} {tgt : Nat} (hd : decode (m_cc M) pc = .ok (.ifCond .gt off, 3)) (ht : (pc : Int) + off = (tgt : Int)) (kt : 0 < x → WA D M Q X tgt lv st h) (kf : ¬ 0 < x → WA D M Q X (pc + 3) lv st h) : WA D M Q X pc lv (.int x :: st) h := by
  intro p e s m args below meth c F H locs ls hA hS hl
  exact lv_if_gt F.1 F.2.1 hd ht (fun z => kt z p e s m args below meth c F H locs ls hA hS hl) (fun z => kf z p e s m args below meth c F H locs ls hA hS hl)
theorem wa_icmp_gt {x y : Int32} {off : Int} {tgt : Nat} (hd : decode (m_cc M) pc = .ok (.if_icmp .gt off, 3)) (ht : (pc : Int) + off = (tgt : Int)) (kt : y < x → WA D M Q X tgt lv st h) (kf : ¬ y < x → WA D M Q X (pc + 3) lv st h) : WA D M Q X pc lv (.int y :: .int x :: st) h := by
  intro p e s m args below meth c F H locs ls hA hS hl
  exact lv_icmp_gt F.1 F.2.1 hd ht (fun z => kt z p e s m args below meth c F H locs ls hA hS hl) (fun z => kf z p e s m args below meth c F H locs ls hA hS hl)
theorem wa_if_le {x : Int32} {off : Int} {tgt : Nat} (hd : decode (m_cc M) pc = .ok (.ifCond .le off, 3)) (ht : (pc : Int) + off = (tgt : Int)) (kt : x ≤ 0 → WA D M Q X tgt lv st h) (kf : ¬ x ≤ 0 → WA D M Q X (pc + 3) lv st h) : WA D M Q X pc lv (.int x :: st) h := by
  intro p e s m args below meth c F H locs ls hA hS hl
  exact lv_if_le F.1 F.2.1 hd ht (fun z => kt z p e s m args below meth c F H locs ls hA hS hl) (fun z => kf z p e s m args below meth c F H locs ls hA hS hl)
theorem wa_icmp_le {x y : Int32} {off : Int} {tgt : Nat} (hd : decode (m_cc M) pc = .ok (.if_icmp .le off, 3)) (ht : (pc : Int) + off = (tgt : Int)) (kt : x ≤ y → WA D M Q X tgt lv st h) (kf : ¬ x ≤ y → WA D M Q X (pc + 3) lv st h) : WA D M Q X pc lv (.int y :: .int x :: st) h := by
  intro p e s m args below meth c F H locs ls hA hS hl
  exact lv_icmp_le F.1 F.2.1 hd ht (fun z => kt z p e s m args below meth c F H locs ls hA hS hl) (fun z => kf z p e s m args below meth c F H locs ls hA hS hl)
theorem wa_acmp_eq {rx ry : Option Nat} {off : Int} {tgt : Nat} (hd : decode (m_cc M) pc = .ok (.if_acmp .eq off, 3)) (ht : (pc : Int) + off = (tgt : Int)) (kt : rx = ry → WA D M Q X tgt lv st h) (kf : ¬ rx = ry → WA D M Q X (pc + 3) lv st h) : WA D M Q X pc lv (va_rf ry :: va_rf rx :: st) h := by
  intro p e s m args below meth c F H locs ls hA hS hl
  exact lv_acmp_eq F.1 F.2.1 hd ht (fun z => kt z p e s m args below meth c F H locs ls hA hS hl) (fun z => kf z p e s m args below meth c F H locs ls hA hS hl)
theorem wa_acmp_ne {rx ry : Option Nat} {off : Int} {tgt : Nat} (hd : decode (m_cc M) pc = .ok (.if_acmp .ne off, 3)) (ht : (pc : Int) + off = (tgt : Int)) (kt : ¬ rx = ry → WA D M Q X tgt lv st h) (kf : rx = ry → WA D M Q X (pc + 3) lv st h) : WA D M Q X pc lv (va_rf ry :: va_rf rx :: st) h := by
  intro p e s m args below meth c F H locs ls hA hS hl
  exact lv_acmp_ne F.1 F.2.1 hd ht (fun z => kt z p e s m args below meth c F H locs ls hA hS hl) (fun z => kf z p e s m args below meth c F H locs ls hA hS hl)
theorem wa_goto {off : Int} {tgt : Nat} (hd : decode (m_cc M) pc = .ok (.goto off, 3)) (ht : (pc : Int) + off = (tgt : Int)) (k : WA D M Q X tgt lv st h) : WA D M Q X pc lv st h := by
  intro p e s m args below meth c F H locs ls hA hS hl
  exact lv_goto F.1 F.2.1 hd ht (k p e s m args below meth c F H locs ls hA hS hl)
theorem wa_ifnull {o : Option Nat} {off : Int} {tgt : Nat} (hd : decode (m_cc M) pc = .ok (.ifnull off, 3)) (ht : (pc : Int) + off = (tgt : Int)) (kt : o = none → WA D M Q X tgt lv st h) (kf : ¬ o = none → WA D M Q X (pc + 3) lv st h) : WA D M Q X pc lv (va_rf o :: st) h := by
  intro p e s m args below meth c F H locs ls hA hS hl
  cases o with
  | none => exact lv_ifnullN F.1 F.2.1 hd ht (kt rfl p e s m args below meth c F H locs ls hA hS hl)
  | some a => exact lv_ifnull F.1 F.2.1 hd (kf (fun q => nomatch q) p e s m args below meth c F H locs ls hA hS hl)
theorem wa_ifnonnull {o : Option Nat} {off : Int} {tgt : Nat} (hd : decode (m_cc M) pc = .ok (.ifnonnull off, 3)) (ht : (pc : Int) + off = (tgt : Int)) (kt : ¬ o = none → WA D M Q X tgt lv st h) (kf : o = none → WA D M Q X (pc + 3) lv st h) : WA D M Q X pc lv (va_rf o :: st) h := by
  intro p e s m args below meth c F H locs ls hA hS hl
  cases o with
  | none => exact lv_ifnonnullN F.1 F.2.1 hd (kf rfl p e s m args below meth c F H locs ls hA hS hl)
  | some a => exact lv_ifnonnull F.1 F.2.1 hd ht (kt (fun q => nomatch q) p e s m args below meth c F H locs ls hA hS hl)
/-- other locals, fewer or in another order -/
theorem wa_sub {lv' : List (Nat × Value)} (ks : List Nat) (hk : lv_pick lv ks = lv') (k : WA D M Q X pc lv' st h) : WA D M Q X pc lv st h := by
  intro p e s m args below meth c F H locs ls hA hS hl
  exact k p e s m args below meth c F H locs ls hA hS (lv_sub hl ks hk)
theorem wa_tableOut {dflt lo hi : Int} {offs : Array Int} {len : Nat} {x : Int32} {tgt : Nat} (hd : decode (m_cc M) pc = .ok (.tableswitch dflt lo hi offs, len)) (hx : x.toInt < lo ∨ hi < x.toInt) (ht : (pc : Int) + dflt = (tgt : Int)) (k : WA D M Q X tgt lv st h) : WA D M Q X pc lv (.int x :: st) h := by
  intro p e s m args below meth c F H locs ls hA hS hl
  exact lv_tableOut F.1 F.2.1 hd hx ht (k p e s m args below meth c F H locs ls hA hS hl)
theorem wa_tableIn {dflt lo hi : Int} {offs : Array Int} {len : Nat} {x : Int32} {off : Int} {tgt : Nat} (hd : decode (m_cc M) pc = .ok (.tableswitch dflt lo hi offs, len)) (h1 : ¬ x.toInt < lo) (h2 : ¬ hi < x.toInt) (ho : offs[(x.toInt - lo).toNat]? = some off) (ht : (pc : Int) + off = (tgt : Int)) (k : WA D M Q X tgt lv st h) : WA D M Q X pc lv (.int x :: st) h := by
  intro p e s m args below meth c F H locs ls hA hS hl
  exact lv_tableIn F.1 F.2.1 hd h1 h2 ho ht (k p e s m args below meth c F H locs ls hA hS hl)
theorem wa_ldci {idx : Nat} {v : Int32} (hd : decode (m_cc M) pc = .ok (.ldc idx, 2)) (hc : Cond.constant (m_own M) idx v ∈ lw_all) (k : WA D M Q X (pc + 2) lv (.int v :: st) h) : WA D M Q X pc lv st h := by
  intro p e s m args below meth c F H locs ls hA hS hl
  exact lv_ldc F.1 F.2.1 F.2.2.2.2.2.1 (F.2.2.2.2.2.2.1 _ hc) hd (k p e s m args below meth c F H locs ls hA hS hl)
theorem wa_ldc2 {idx : Nat} {v : Int64} (hd : decode (m_cc M) pc = .ok (.ldc2_w idx, 3)) (hc : Cond.constantLong (m_own M) idx v ∈ lw_all) (k : WA D M Q X (pc + 3) lv (.long v :: st) h) : WA D M Q X pc lv st h := by
  intro p e s m args below meth c F H locs ls hA hS hl
  exact lv_ldc2 F.1 F.2.1 F.2.2.2.2.2.1 (F.2.2.2.2.2.2.1 _ hc) hd (k p e s m args below meth c F H locs ls hA hS hl)
end QR
