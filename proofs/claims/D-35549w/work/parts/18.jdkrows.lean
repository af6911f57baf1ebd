set_option maxRecDepth 100000
/-! rows of calls and natives that the JDK's own code uses -/
section QJ
variable {D : qD} {M M' : qM} {Q Q' : Option Value → qH → Prop} {X : String → qH → Prop} {pc idx n : Nat} {lv : List (Nat × Value)} {st stk As : List Value} {h : qH}
/-- a superclass's method by super -/
theorem wa_callSU {b ci : Nat} {r : vw_C} (hd : decode (m_cc M) pc = .ok (.invokespecial idx, 3)) (hci : qCL[ci]? = some r) (ho : q_ok M M' n) (hno : (m_y M').name ≠ "<init>") (w1 : Cond.methodLink (m_own M) idx (m_y M') ∈ lw_all) (w5 : Cond.sameMethod (m_y M').cls (m_y M').cls (m_y M').name (m_y M').desc ∈ lw_all) (w6 : Cond.superclass (m_own M) (m_y M').cls ∈ lw_all) (w2 : Cond.instanceMethod (m_y M') ∈ lw_all) (w3 : Cond.initialized (m_y M').cls ∈ lw_all) (w4 : Cond.code (m_y M') (m_cc M') (m_nL M') (m_ret M') ∈ lw_all) (hn : As.length = n) (hs : stk = As.reverse ++ va_rf (some b) :: st) (hst : (st.map fun v => v.category).sum ≤ 8) (hnh : m_hh M = []) (hrc : recv D h (some b) r.1) (G : MW D M' (va_rf (some b) :: As) h Q' X) (kk : ∀ v h1, Q' v h1 → WA D M Q X (pc + 3) lv (v.toList ++ st) h1) : WA D M Q X pc lv stk h := by
  obtain ⟨b', y, hb', hy, hC⟩ := hrc
  cases hb'
  intro p e s m args below meth c F H locs ls hA hS hl
  refine q_tight fun hu => ?_
  exact q_go3 F hnh hS hl (vx_runSU (C := r.1) (b := b) (As := As) (rest := st) (fx_cl F ci r hci).2 ⟨F.1, F.2.1, F.2.2.2.2.1, fx_own F, fx_w F⟩ (G H.size (q_used H)) (va_cwSU n (fx_w F) (lw_app (fun w hw => by
    simp only [List.mem_cons, List.not_mem_nil, or_false] at hw
    rcases hw with e | e | e | e | e
    · rw [e]; exact w1
    · rw [e]; exact w5
    · rw [e]; exact w6
    · rw [e]; exact w2
    · rw [e]; exact w3) (lw_meth w4)) rfl rfl rfl ⟨hno, ho.2.2.2.2⟩ ⟨ho.1, by have := ho.1; have := ho.2.1; show 8 + (m_nL M' + 11) + 64 * m_rk M' ≤ 64 * m_rk M; omega⟩) ⟨q_Pc_blind, fx_recv F hA hS hy hC, fx_pc F hA hS⟩ rfl hn hl.1 hs (lv_room hst) hd (fx_fit F hA hS hu)) kk
/-- an overriding method -/
theorem wa_callO {C owner : String} {x : MethodName} {o : Option Nat} {b0 : ByteArray} {m0 : Nat} {r0 : Option FieldType} (hd : decode (m_cc M) pc = .ok (.invokevirtual idx, 3)) (ho : m_rk M' + 1 ≤ m_rk M ∧ m_nL M' ≤ 45) (hx : owner ≠ "java/lang/invoke/MethodHandle" ∧ owner ≠ "java/lang/invoke/VarHandle" ∧ (parseMethodDescriptor x.desc).map (fun d => d.parameters.length) = some n) (w1 : Cond.methodLink (m_own M) idx x ∈ lw_all) (w5 : Cond.sameMethod x.cls owner x.name x.desc ∈ lw_all) (w6 : Cond.instanceMethod ⟨owner, x.name, x.desc⟩ ∈ lw_all) (w7 : Cond.selects C x (m_y M') ∈ lw_all) (w2 : Cond.instanceMethod (m_y M') ∈ lw_all) (w3 : Cond.initialized (m_y M').cls ∈ lw_all) (w4 : Cond.code (m_y M') (m_cc M') (m_nL M') (m_ret M') ∈ lw_all) (w0 : Cond.code ⟨owner, x.name, x.desc⟩ b0 m0 r0 ∈ lw_all) (hn : As.length = n) (hs : stk = As.reverse ++ va_rf o :: st) (hst : (st.map fun v => v.category).sum ≤ 8) (hnh : m_hh M = []) (hrc : recv D h o C) (G : MW D M' (va_rf o :: As) h Q' X) (kk : ∀ v h1, Q' v h1 → WA D M Q X (pc + 3) lv (v.toList ++ st) h1) : WA D M Q X pc lv stk h := by
  obtain ⟨b, y, rfl, hy, hC⟩ := hrc
  intro p e s m args below meth c F H locs ls hA hS hl
  refine q_tight fun hu => ?_
  exact q_go3 F hnh hS hl (vx_runU (C := C) (b := b) (As := As) (rest := st) ⟨F.1, F.2.1, F.2.2.2.2.1, fx_own F, fx_w F⟩ (G H.size (q_used H)) (va_cwO n (fx_w F) (lw_app (fun w hw => by
    simp only [List.mem_cons, List.not_mem_nil, or_false] at hw
    rcases hw with e | e | e | e | e | e
    · rw [e]; exact w1
    · rw [e]; exact w5
    · rw [e]; exact w6
    · rw [e]; exact w7
    · rw [e]; exact w2
    · rw [e]; exact w3) (lw_meth w4)) rfl rfl rfl w0 hx ⟨ho.1, by have := ho.1; have := ho.2; show 8 + (m_nL M' + 11) + 64 * m_rk M' ≤ 64 * m_rk M; omega⟩) ⟨q_Pc_blind, fx_recv F hA hS hy hC, fx_pc F hA hS⟩ rfl hn hl.1 hs (lv_room hst) hd (fx_fit F hA hS hu)) kk
/-- a private method of StringBuilder's superclass -/
theorem wa_callVP {C : String} {o : Option Nat} (hd : decode (m_cc M) pc = .ok (.invokevirtual idx, 3)) (ho : q_ok M M' n) (w1 : Cond.methodLink (m_own M) idx (m_y M') ∈ lw_all) (w2 : Cond.instanceMethod (m_y M') ∈ lw_all) (w3 : Cond.initialized (m_y M').cls ∈ lw_all) (w4 : Cond.code (m_y M') (m_cc M') (m_nL M') (m_ret M') ∈ lw_all) (hn : As.length = n) (hs : stk = As.reverse ++ va_rf o :: st) (hst : (st.map fun v => v.category).sum ≤ 8) (hnh : m_hh M = []) (hC0 : C = "java/lang/StringBuilder") (hpv : m_y M' ∈ qPV) (hrc : recv D h o C) (G : MW D M' (va_rf o :: As) h Q' X) (kk : ∀ v h1, Q' v h1 → WA D M Q X (pc + 3) lv (v.toList ++ st) h1) : WA D M Q X pc lv stk h := by
  subst hC0
  obtain ⟨b, y, rfl, hy, hC⟩ := hrc
  intro p e s m args below meth c F H locs ls hA hS hl
  refine q_tight fun hu => ?_
  exact q_go3 F hnh hS hl (vx_runV (C := "java/lang/StringBuilder") (b := b) (As := As) (rest := st) ⟨F.1, F.2.1, F.2.2.2.2.1, fx_own F, fx_w F⟩ (G H.size (q_used H)) ⟨fx_callB F ho w1 w3 w4, fx_w F _ w2, va_any rfl ((fx_cx F).1.2.2.2.2.2.2.2.2.2.2.2.2 _ hpv)⟩ ⟨q_Pc_blind, fx_recv F hA hS hy hC, fx_pc F hA hS⟩ rfl hn hl.1 hs (lv_room hst) hd (fx_fit F hA hS hu)) kk
/-! class objects -/
theorem wa_ldcM (hd : decode (m_cc M) pc = .ok (.ldc idx, 2)) (hlink : Cond.classLink (m_own M) idx "[Ljava/lang/Object;" ∈ lw_all) (k : WA D M Q X (pc + 2) lv (va_rf (some (d_s D 4)) :: st) h) : WA D M Q X pc lv st h := by
  intro p e s m args below meth c F H locs ls hA hS hl
  exact va_ldcM F.1 F.2.1 (fx_own F) (fx_w F _ hlink) (fx_cx F).1.2.2.2.2.2.2.2.2.2.1 hd (k p e s m args below meth c F H locs ls hA hS hl)
/-- an array of objects -/
def gc_R (D : qD) (h : qH) (o : Option Nat) : Prop := ∃ (a n : Nat) (f : Nat → Option Nat), o = some a ∧ q_cell D h a (c_ra 4 n f)
theorem wa_getC {o : Option Nat} (hd : decode (m_cc M) pc = .ok (.invokevirtual idx, 3)) (w1 : Cond.methodLink (m_own M) idx ⟨"java/lang/Object", "getClass", "()Ljava/lang/Class;"⟩ ∈ lw_all) (hrk : 1 ≤ m_rk M) (hst : (st.map fun v => v.category).sum ≤ 8) (G : gc_R D h o) (k : WA D M Q X (pc + 3) lv (va_rf (some (d_s D 4)) :: st) h) : WA D M Q X pc lv (va_rf o :: st) h := by
  obtain ⟨a, n, f, rfl, hc⟩ := G
  intro p e s m args below meth c F H locs ls hA hS hl
  obtain ⟨K, hr⟩ := fx_cell F hA hS hc
  have hr : q_wk D a H 4 n (fun j => va_rf (f j)) := hr
  obtain ⟨cell, c1, c2, c3, c4, c5⟩ := hr
  exact va_getC F.1 F.2.1 (F.2.2.2.2.1.trans hl.1.symm) (fx_own F) (fx_w F _ w1) (fx_cx F).1.2.2.2.2.2.2.2.2.1.use (fx_w F _ q1566) (fx_w F _ q647) (fx_w F _ q664) (fx_cx F).1.2.2.2.2.2.2.2.2.2.1 ⟨cell, c1, c3, by rw [c2]; exact (fx_at F 4 _ rfl).2 (by omega)⟩ hrk (by show _ ≤ 64 * m_rk M; omega) hd (k p e s m args below meth c F H locs ls hA hS hl)
/-- a cast of an array of bytes to its own class -/
def k_B (D : qD) (h : qH) (o : Option Nat) : Prop := ∃ (a n : Nat) (f : Nat → Int32), o = some a ∧ q_cell D h a (c_ia 2 n f)
theorem wa_castB {o : Option Nat} (hd : decode (m_cc M) pc = .ok (.checkcast idx, 3)) (hlink : Cond.classLink (m_own M) idx "[B" ∈ lw_all) (G : k_B D h o) (k : WA D M Q X (pc + 3) lv (va_rf o :: st) h) : WA D M Q X pc lv (va_rf o :: st) h := by
  obtain ⟨a, n, f, rfl, hc⟩ := G
  intro p e s m args below meth c F H locs ls hA hS hl
  obtain ⟨K, hr⟩ := fx_cell F hA hS hc
  have hr : q_wk D a H 2 n (fun j => .int (f j)) := hr
  obtain ⟨cell, c1, c2, c3, c4, c5⟩ := hr
  intro T hT Z
  obtain ⟨vm', X', step⟩ := Z.checkcastYes F.1 (fx_own F) (fx_w F _ hlink) (a := a) (by rw [hT]; exact c1) c3 (by rw [c2]; exact (fx_at F 2 _ rfl).2 (by omega)) (va_asg _ _) (g := F0 m pc ls (.ref a :: st)) rfl rfl (by rw [F.2.1]; exact hd)
  obtain ⟨t, a1, b1⟩ := k p e s m args below meth c F H locs ls hA hS hl (T.setVm vm') hT X'
  exact ⟨t, step t a1, b1⟩
/-! System.arraycopy -/
theorem q_nn (z : Int32) (hz : ¬ z < 0) : z.toInt = (z.toNatClampNeg : Int) := by
  have hz0 : (0 : Int) ≤ z.toInt := by
    have := Int32.not_lt.mp hz
    simpa using Int32.le_iff_toInt_le.mp this
  show z.toInt = ((z.toInt.toNat : Nat) : Int)
  omega
/-- what the two copies share: behind the copy -/
theorem q_copy_go {p : Program} {e : Env} {s : State} {m : MethodId} {args : Array Value} {below : List Frame} {meth : Method} {c : Code} (F : q_FX D M p e s m args below meth c) {H : Heap} {locs : List Loc} {ls : Array Slot} {a : Nat} {x x' : qE} {cell : Cell} (hA : q_abs D h H) (hS : va_S (d_N D) s.heap H locs) (hl : lv_has ls (m_nL M) lv) (ha : h.2 a = some x) (hx : q_isbx x = false) (hr1 : ∀ (K : qHK) (H1 : Heap), H1[a]? = some cell → q_rep D K a H1 x') {cell0 : Cell} (h0 : H[a]? = some cell0) (hss : cell.slots.size = cell0.slots.size) (hst : cell.vm.isStatics = false) (hl0 : List Loc) (hll : ∀ z ∈ hl0, z.base = a)
    {T U : State} (hU : U.heap = H.setIfInBounds a cell) {k9 n9 : Nat} (X9 : Stand p (d_l D) e (q_room D (m_rk M) s.heap.size (q_used s.heap)) s m args below meth c U (locs ++ hl0) k9 n9) {g : JFrame} (stp : ∀ target, Steps p.tables e below (U.setTop (F0 m (pc + 3) ls st)) target → Steps p.tables e below (T.setTop g) target) (kk : WA D M Q X (pc + 3) lv st (q_put h a x')) :
    ∃ t, Steps p.tables e below (T.setTop g) t ∧ vx_MQ below (q_Qc D Q) (q_XC D X) args s (d_K D - s.heap.size) (d_S D - q_used s.heap) (d_N D) t := by
  obtain ⟨K, hA⟩ := hA
  obtain ⟨hBa, -⟩ := (hA.2.2.2.1 a x ha).2 hx
  have hlt : a < H.size := (Array.getElem?_eq_some_iff.mp h0).1
  have e1 : U.heap[a]? = some cell := by rw [hU]; simp [Array.getElem?_setIfInBounds, hlt]
  have oq : ∀ q : Nat, q ≠ a → U.heap[q]? = H[q]? := fun q hq => by rw [hU]; simp [Array.getElem?_setIfInBounds, Ne.symm hq]
  have hz : U.heap.size = H.size := by rw [hU]; simp
  have hu : q_used U.heap = q_used H := q_used_same hz (fun b y hb => by
    by_cases hba : b = a
    · subst hba
      rw [h0] at hb
      cases hb
      exact ⟨_, e1, hss⟩
    · exact ⟨y, by rw [oq b hba]; exact hb, rfl⟩)
  have hA9 := q_absK_put (H1 := U.heap) (e' := x') hA ha hx hz hu oq (hr1 K U.heap e1) (fun c9 hc9 => by
    rw [e1] at hc9
    cases hc9
    exact hst)
  have hS9 : va_S (d_N D) s.heap U.heap (locs ++ hl0) := ⟨by rw [hz]; exact hS.1, fun q g1 g2 => by
    rw [oq q (fun e9 => g2 (by rw [e9]; exact hBa))]
    exact hS.2.1 q g1 g2, fun z hz9 => by
    rcases List.mem_append.mp hz9 with h9 | h9
    · exact hS.2.2 z h9
    · rw [hll z h9]; exact hBa⟩
  obtain ⟨t, a1, b1⟩ := q_tight (fun _ => kk p e s m args below meth c F U.heap _ ls ⟨K, hA9⟩ hS9 hl) U rfl X9
  exact ⟨t, stp _ a1, b1⟩
/-- a copy of bytes -/
def cp_B (D : qD) (h : qH) (so : Option Nat) (sp : Int32) (d : Option Nat) (dp n : Int32) (K : qH → Prop) : Prop := ∃ (a0 n0 : Nat) (f : Nat → Int32) (a n1 : Nat) (g : Nat → Int32), so = some a0 ∧ d = some a ∧ q_cell D h a0 (c_ia 2 n0 f) ∧ h.2 a = some (c_ia 2 n1 g) ∧ ¬ sp < 0 ∧ ¬ dp < 0 ∧ ¬ n < 0 ∧ sp.toNatClampNeg + n.toNatClampNeg ≤ n0 ∧ dp.toNatClampNeg + n.toNatClampNeg ≤ n1 ∧ (∀ i, -128 ≤ f i ∧ f i ≤ 127) ∧ K (q_put h a (c_ia 2 n1 (va_cpy f g sp.toNatClampNeg dp.toNatClampNeg n.toNatClampNeg)))
theorem cp_B_mono {so d : Option Nat} {sp dp n : Int32} {K K' : qH → Prop} (F : cp_B D h so sp d dp n K) (hk : ∀ x, K x → K' x) : cp_B D h so sp d dp n K' := by
  obtain ⟨a0, n0, f, a, n1, g, h1, h2, h3, h4, h5, h6, h7, h8, h9, h10, h11⟩ := F
  exact ⟨a0, n0, f, a, n1, g, h1, h2, h3, h4, h5, h6, h7, h8, h9, h10, hk _ h11⟩
theorem wa_copyB {so d : Option Nat} {sp dp n : Int32} (hd : decode (m_cc M) pc = .ok (.invokestatic idx, 3)) (w1 : Cond.methodLink (m_own M) idx arraycopyName ∈ lw_all) (hrk : 1 ≤ m_rk M) (hst : (st.map fun v => v.category).sum ≤ 8) (G : cp_B D h so sp d dp n (fun h => WA D M Q X (pc + 3) lv st h)) : WA D M Q X pc lv (.int n :: .int dp :: va_rf d :: .int sp :: va_rf so :: st) h := by
  obtain ⟨a0, n0, f, a, n1, g, rfl, rfl, hc0, hc1, h1, h2, h3, h4, h5, hfit, kk⟩ := G
  intro p e s m args below meth c F H locs ls hA hS hl
  obtain ⟨K0, r0⟩ := fx_cell F hA hS hc0
  have r0 : q_wk D a0 H 2 n0 (fun j => .int (f j)) := r0
  obtain ⟨cs, r0, c2, c3, c4, c5, c6, c7⟩ := r0
  have r1 : H[a]? = some (vp_cell (d_A D 2) (n1, .inl g)) := by
    obtain ⟨KK, hAK⟩ := hA
    exact (hAK.2.2.2.1 a _ hc1).1
  intro T hT Z
  obtain ⟨-, k0, hk0, cm0, hkk0⟩ := (fx_at F 2 _ rfl).1 n0 (fun j => .int (f j))
  have hw : nativeFrameWords "java/lang/System" "arraycopy" 5 ≤ 40 := by decide
  obtain ⟨vm', X', step⟩ := Z.arraycopy F.1 (fx_own F) (fx_w F _ w1) (fx_w F _ q377) (fx_w F _ q376) (fx_w F _ q72) (src := a0) (dst := a) (cs := cs) (cd := vp_cell (d_A D 2) (n1, .inl g)) (srcPos := sp) (destPos := dp) (n := n) (by rw [hT]; exact r0) (by rw [hT]; exact r1)
    (fun _ h => by rw [h] at c3; cases c3) (fun _ h => by cases h) c4 (fun h => by cases h) (by rw [c2]; exact hk0) hk0 hkk0 hkk0 rfl h1 h2 h3
    (by rw [q_nn sp h1, q_nn n h3]; omega)
    (by rw [q_nn dp h2, q_nn n h3]; show ¬ _ > ((arrV (d_A D 2) n1 (fun j => .int (g j))).slots.size : Int); rw [arrV_size]; omega)
    (fun vm₁ _ i hi => by
      have e : cs.slots.getD (sp.toNatClampNeg + i) .null = .int (f (sp.toNatClampNeg + i)) := by
        rw [Array.getD_eq_getD_getElem?, c7 _ (by omega)]
        rfl
      refine ⟨?_, ?_⟩
      · rw [e]
        exact q_fit_b (hfit _)
      · rw [e]
        exact trivial)
    (g := F0 m pc ls (.int n :: .int dp :: .ref a :: .int sp :: .ref a0 :: st)) rfl (hl.1.trans F.2.2.2.2.1.symm) (rest := st) rfl (by rw [F.2.1]; exact hd) hrk (by show 2 * 0 + _ + _ ≤ 64 * m_rk M; omega)
  have e1 : copied cs (vp_cell (d_A D 2) (n1, .inl g)) sp dp n = vp_cell (d_A D 2) (n1, .inl (va_cpy f g sp.toNatClampNeg dp.toNatClampNeg n.toNatClampNeg)) := va_copiedX (fun z => .int z) cs _ f g c7 h4
  rw [e1] at X' step
  exact q_copy_go (x' := c_ia 2 n1 (va_cpy f g sp.toNatClampNeg dp.toNatClampNeg n.toNatClampNeg)) (cell := vp_cell (d_A D 2) (n1, .inl (va_cpy f g sp.toNatClampNeg dp.toNatClampNeg n.toNatClampNeg))) (T := T) (g := F0 m pc ls (.int n :: .int dp :: .ref a :: .int sp :: .ref a0 :: st)) F hA hS hl hc1 rfl (fun K H1 hH1 => hH1) r1 (by rw [vp_cell_i, vp_cell_i, arrV_size, arrV_size]) rfl _ (fun z hz => by
    obtain ⟨q, -, hq⟩ := List.mem_map.mp hz
    rw [← hq]) (by rw [← hT]; rfl) X' step kk
/-- a copy of references -/
def cp_R (D : qD) (h : qH) (so : Option Nat) (sp : Int32) (d : Option Nat) (dp n : Int32) (K : qH → Prop) : Prop := ∃ (a0 n0 : Nat) (f : Nat → Option Nat) (a n1 : Nat) (g : Nat → Option Nat), so = some a0 ∧ d = some a ∧ q_cell D h a0 (c_ra 4 n0 f) ∧ h.2 a = some (c_ra 4 n1 g) ∧ ¬ sp < 0 ∧ ¬ dp < 0 ∧ ¬ n < 0 ∧ sp.toNatClampNeg + n.toNatClampNeg ≤ n0 ∧ dp.toNatClampNeg + n.toNatClampNeg ≤ n1 ∧ (∀ i, i < n.toNatClampNeg → ∀ y, f (sp.toNatClampNeg + i) = some y → ∃ (z : qE) (B : String), q_cell D h y z ∧ q_nm z = some B ∧ Cond.castable B "java/lang/Object" ∈ lw_tbl) ∧ K (q_put h a (c_ra 4 n1 (va_cpy f g sp.toNatClampNeg dp.toNatClampNeg n.toNatClampNeg)))
theorem cp_R_mono {so d : Option Nat} {sp dp n : Int32} {K K' : qH → Prop} (F : cp_R D h so sp d dp n K) (hk : ∀ x, K x → K' x) : cp_R D h so sp d dp n K' := by
  obtain ⟨a0, n0, f, a, n1, g, h1, h2, h3, h4, h5, h6, h7, h8, h9, h10, h11⟩ := F
  exact ⟨a0, n0, f, a, n1, g, h1, h2, h3, h4, h5, h6, h7, h8, h9, h10, hk _ h11⟩
theorem wa_copyR {so d : Option Nat} {sp dp n : Int32} (hd : decode (m_cc M) pc = .ok (.invokestatic idx, 3)) (w1 : Cond.methodLink (m_own M) idx arraycopyName ∈ lw_all) (hrk : 1 ≤ m_rk M) (hst : (st.map fun v => v.category).sum ≤ 8) (G : cp_R D h so sp d dp n (fun h => WA D M Q X (pc + 3) lv st h)) : WA D M Q X pc lv (.int n :: .int dp :: va_rf d :: .int sp :: va_rf so :: st) h := by
  obtain ⟨a0, n0, f, a, n1, g, rfl, rfl, hc0, hc1, h1, h2, h3, h4, h5, hel, kk⟩ := G
  intro p e s m args below meth c F H locs ls hA hS hl
  obtain ⟨K0, r0⟩ := fx_cell F hA hS hc0
  have r0 : q_wk D a0 H 4 n0 (fun j => va_rf (f j)) := r0
  obtain ⟨cs, r0, c2, c3, c4, c5, c6, c7⟩ := r0
  have r1 : H[a]? = some (vp_cell (d_A D 4) (n1, .inr (.inr (.inr (.inr g))))) := by
    obtain ⟨KK, hAK⟩ := hA
    exact (hAK.2.2.2.1 a _ hc1).1
  intro T hT Z
  obtain ⟨-, k0, hk0, cm0, hkk0⟩ := (fx_at F 4 _ rfl).1 n0 (fun j => va_rf (f j))
  obtain ⟨kA, comp, p1, p2, p3⟩ := fx_ra F (4, "java/lang/Object") (by simp [qRA])
  cases hk0.symm.trans p1
  cases hkk0.symm.trans p2
  have hw : nativeFrameWords "java/lang/System" "arraycopy" 5 ≤ 40 := by decide
  obtain ⟨vm', X', step⟩ := Z.arraycopy F.1 (fx_own F) (fx_w F _ w1) (fx_w F _ q377) (fx_w F _ q376) (fx_w F _ q72) (src := a0) (dst := a) (cs := cs) (cd := vp_cell (d_A D 4) (n1, .inr (.inr (.inr (.inr g))))) (srcPos := sp) (destPos := dp) (n := n) (by rw [hT]; exact r0) (by rw [hT]; exact r1)
    (fun _ h => by rw [h] at c3; cases c3) (fun _ h => by cases h) c4 (fun h => by cases h) (by rw [c2]; exact hk0) hk0 hkk0 hkk0 rfl h1 h2 h3
    (by rw [q_nn sp h1, q_nn n h3]; omega)
    (by rw [q_nn dp h2, q_nn n h3]; show ¬ _ > ((arrV (d_A D 4) n1 (fun j => va_rf (g j))).slots.size : Int); rw [arrV_size]; omega)
    (fun vm₁ hal i hi => by
      have e : cs.slots.getD (sp.toNatClampNeg + i) .null = va_rf (f (sp.toNatClampNeg + i)) := by
        rw [Array.getD_eq_getD_getElem?, c7 _ (by omega)]
        rfl
      rw [e]
      cases hy : f (sp.toNatClampNeg + i) with
      | none => exact ⟨rfl, trivial⟩
      | some y =>
        obtain ⟨z, B, z1, z2, z3⟩ := hel i hi y hy
        obtain ⟨cellV, g1, g2, g3⟩ := fx_recv F hA hS z1 z2
        obtain ⟨c0, t0, f1, f2, f3⟩ := Cond.castable_spec (va_Nw.use (A := args) rfl (fx_ng F _ z3 rfl))
        cases g3.symm.trans f1
        cases p3.symm.trans f2
        obtain ⟨kC, hkC, -⟩ := Vm.findClass_spec g3
        obtain ⟨kE, hkE, -⟩ := Vm.findClass_spec p3
        obtain ⟨kC', hkC', -⟩ := hal.2.2 _ _ hkC
        obtain ⟨kE', hkE', -⟩ := hal.2.2 _ _ hkE
        refine ⟨rfl, cellV, (show T.heap[y]? = some cellV by rw [hT]; exact g1), (fun q h => by rw [h] at g2; cases g2), ⟨kC', hkC'⟩, ?_, ?_⟩
        · exact ⟨kE', hkE'⟩
        · show vm₁.assignable _ _ = true
          rw [hal.assignable]
          exact f3)
    (g := F0 m pc ls (.int n :: .int dp :: .ref a :: .int sp :: .ref a0 :: st)) rfl (hl.1.trans F.2.2.2.2.1.symm) (rest := st) rfl (by rw [F.2.1]; exact hd) hrk (by show 2 * 0 + _ + _ ≤ 64 * m_rk M; omega)
  have e1 : copied cs (vp_cell (d_A D 4) (n1, .inr (.inr (.inr (.inr g))))) sp dp n = vp_cell (d_A D 4) (n1, .inr (.inr (.inr (.inr (va_cpy f g sp.toNatClampNeg dp.toNatClampNeg n.toNatClampNeg))))) := by
    rw [vp_cell_q, vp_cell_q]
    exact va_copiedX (fun z => va_rf z) cs _ f g c7 h4
  rw [e1] at X' step
  exact q_copy_go (x' := c_ra 4 n1 (va_cpy f g sp.toNatClampNeg dp.toNatClampNeg n.toNatClampNeg)) (cell := vp_cell (d_A D 4) (n1, .inr (.inr (.inr (.inr (va_cpy f g sp.toNatClampNeg dp.toNatClampNeg n.toNatClampNeg)))))) (T := T) (g := F0 m pc ls (.int n :: .int dp :: .ref a :: .int sp :: .ref a0 :: st)) F hA hS hl hc1 rfl (fun K H1 hH1 => hH1) r1 (by rw [vp_cell_q, vp_cell_q, arrV_size, arrV_size]) rfl _ (fun z hz => by
    obtain ⟨q, -, hq⟩ := List.mem_map.mp hz
    rw [← hq]) (by rw [← hT]; rfl) X' step kk
/-- a clone of an array of bytes -/
def cl_B (D : qD) (h : qH) (o : Option Nat) (K : Nat → qH → Prop) : Prop := ∃ (a0 n : Nat) (f : Nat → Int32), o = some a0 ∧ h.2 a0 = some (c_ia 2 n f) ∧ (∀ i, -128 ≤ f i ∧ f i ≤ 127) ∧ 1 + n / 4 ≤ h.1 ∧ ∀ a, h.2 a = none → K a (q_new h (1 + n / 4) a (c_ia 2 n f))
theorem cl_B_mono {o : Option Nat} {K K' : Nat → qH → Prop} (F : cl_B D h o K) (hk : ∀ a x, K a x → K' a x) : cl_B D h o K' := by
  obtain ⟨a0, n, f, h1, h2, h3, h4, h5⟩ := F
  exact ⟨a0, n, f, h1, h2, h3, h4, fun a ha => hk _ _ (h5 a ha)⟩
theorem wa_clone {o : Option Nat} (hd : decode (m_cc M) pc = .ok (.invokevirtual idx, 3)) (w1 : Cond.methodLink (m_own M) idx ⟨"[B", "clone", "()Ljava/lang/Object;"⟩ ∈ lw_all) (hrk : 1 ≤ m_rk M) (hst : (st.map fun v => v.category).sum ≤ 8) (G : cl_B D h o (fun a h => WA D M Q X (pc + 3) lv (va_rf (some a) :: st) h)) : WA D M Q X pc lv (va_rf o :: st) h := by
  obtain ⟨a0, n, f, rfl, hc0, hfit, G1, G2⟩ := G
  intro p e s m args below meth c F H locs ls hA hS hl
  refine q_tight fun hu => ?_
  obtain ⟨K, hA⟩ := hA
  have r0 : H[a0]? = some (vp_cell (d_A D 2) (n, .inl f)) := (hA.2.2.2.1 a0 _ hc0).1
  have hb2 := hA.2.1
  have hb3 := hA.2.2.1
  have hs1 := hS.1
  obtain ⟨c0, t0', f1, f2, f3⟩ := Cond.castable_spec (va_Nw.use (A := args) rfl (fx_ng F _ q370 rfl))
  cases ((fx_at F 2 _ rfl).2 (by omega)).symm.trans f1
  have hsz : (vp_cell (d_A D 2) (n, .inl f)).slots.size = n := arrV_size _ _ _
  intro T hT Z
  obtain ⟨-, kA, hkA, comp, hkind⟩ := State.isArrayOf_alike Z.warmed.alike ((fx_at F 2 _ rfl).1 0 (fun _ => .null))
  obtain ⟨-, kS, hkS, compS, hkindS⟩ := (fx_at F 2 _ rfl).1 0 (fun _ => .null)
  obtain ⟨vm', X', stp⟩ := Z.cloneArray F.1 (fx_own F) (fx_w F _ w1) (fx_w F _ q366) (fx_w F _ q367) (fx_w F _ q368) (fx_w F _ q369) (a := a0) (cell := vp_cell (d_A D 2) (n, .inl f)) (by rw [hT]; exact r0) (fun k h => by cases h) (fun h => by cases h) ((fx_at F 2 _ rfl).2 (by omega)) f2 f3
    (fun i v hv => by
      have hk' : T.vm.classes[d_A D 2]? = some kA := hkA
      have hk9 : T.vm.classes[(vp_cell (d_A D 2) (n, .inl f)).cls]? = some kA := hkA
      have h9 : fits .byte v = true := by
        have hv : (arrV (d_A D 2) n (fun j => .int (f j))).slots[i]? = some v := hv
        by_cases hi : i < n
        · rw [arrV_read _ _ hi] at hv
          cases hv
          exact q_fit_b (hfit _)
        · rw [Array.getElem?_eq_none (by rw [arrV_size]; omega)] at hv
          cases hv
      have hkind : kA.kind = .array comp .byte := hkind
      simpa [State.fitsSlot, State.slotType?, hk9, hkind] using h9)
    (g := F0 m pc ls (.ref a0 :: st)) rfl (hl.1.trans F.2.2.2.2.1.symm) rfl (by rw [F.2.1]; exact hd) hrk (by show 2 * 0 + _ + 14 ≤ 64 * m_rk M; omega) (by show _ ≤ d_K D - s.heap.size; omega) (by rw [hsz]; show _ ≤ d_S D - q_used s.heap; omega) (hloader := Vm.clonesLoader_of_array hkS hkindS)
  have hcellE : ({ cls := (vp_cell (d_A D 2) (n, .inl f)).cls, slots := (vp_cell (d_A D 2) (n, .inl f)).slots } : Cell) = vp_cell (d_A D 2) (n, .inl f) := rfl
  rw [hcellE] at X' stp
  generalize hH1 : H.push (vp_cell (d_A D 2) (n, .inl f)) = H1
  have z1 : H1.size = H.size + 1 := by rw [← hH1, Array.size_push]
  have e1 : H1[H.size]? = some (vp_cell (d_A D 2) (n, .inl f)) := by rw [← hH1, Array.getElem?_push_size]
  have o1 : ∀ q : Nat, q < H.size → H1[q]? = H[q]? := fun q hq => by rw [← hH1, Array.getElem?_push, if_neg (Nat.ne_of_lt hq)]
  obtain ⟨g1, g2⟩ := q_absK_new (e := c_ia 2 n f) hA (k := 1 + n / 4) (n := n) (by omega) q_cost G1 z1 (by rw [q_used_push z1 e1 o1, hsz]) o1 e1 (fun c9 hc9 => by rw [e1] at hc9; cases hc9; rfl)
  have hU : ((T.setVm vm').pushCell (vp_cell (d_A D 2) (n, .inl f))).heap = H1 := by rw [← hH1, ← hT]; rfl
  obtain ⟨t, a1, b1⟩ := q_tight (fun _ => G2 _ g1 p e s m args below meth c F H1 locs ls ⟨K, g2⟩ (q_S_new hS (by omega) o1) hl) _ hU X'
  refine ⟨t, stp t ?_, b1⟩
  rw [hT]
  exact a1
end QJ
