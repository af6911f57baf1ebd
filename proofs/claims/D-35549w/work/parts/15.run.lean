set_option maxRecDepth 100000
/-! calls -/
/-- the receiver: an object of just the class C -/
def recv (D : qD) (h : qH) (o : Option Nat) (C : String) : Prop := ∃ (b : Nat) (y : qE), o = some b ∧ q_cell D h b y ∧ q_nm y = some C
/-- what a call asks for but words: ranks, the callee's name and arguments -/
def q_ok (M M' : qM) (n : Nat) : Prop := m_rk M' + 1 ≤ m_rk M ∧ m_nL M' ≤ 45 ∧ (m_y M').cls ≠ "java/lang/invoke/MethodHandle" ∧ (m_y M').cls ≠ "java/lang/invoke/VarHandle" ∧ (parseMethodDescriptor (m_y M').desc).map (fun d => d.parameters.length) = some n
section QX
variable {D : qD} {M M' : qM} {Q Q' : Option Value → qH → Prop} {X : String → qH → Prop} {pc idx n : Nat} {lv : List (Nat × Value)} {st stk As : List Value} {h : qH}
theorem fx_recv {p : Program} {e : Env} {s : State} {m : MethodId} {args : Array Value} {below : List Frame} {meth : Method} {c : Code} (F : q_FX D M p e s m args below meth c) {H : Heap} {locs : List Loc} {b : Nat} {y : qE} {B : String} (hA : q_abs D h H) (hS : va_S (d_N D) s.heap H locs) (hy : q_cell D h b y) (hB : q_nm y = some B) : ∃ cell : Cell, H[b]? = some cell ∧ cell.vm.isStatics = false ∧ s.vm.findClass B = some cell.cls := by
  obtain ⟨K, hA⟩ := hA
  rcases hy with hy | hy
  · exact q_nm_at F hA.2.2.2.2.1 (q_rep_rd (hA.2.2.2.1 b y hy).1) hB
  · obtain ⟨g1, g2⟩ := fx_ro F b y hy
    exact q_nm_at (K := fun _ => none) F (fun _ _ z => by cases z) (q_rd_kept g2 (hS.2.1 b (Nat.lt_of_lt_of_le g1 (fx_B F)) (Nat.not_le.mpr g1))) hB
theorem fx_callB {p : Program} {e : Env} {s : State} {m : MethodId} {args : Array Value} {below : List Frame} {meth : Method} {c : Code} (F : q_FX D M p e s m args below meth c) {sz us : Nat} (ho : q_ok M M' n) (w1 : Cond.methodLink (m_own M) idx (m_y M') ∈ lw_all) (w3 : Cond.initialized (m_y M').cls ∈ lw_all) (w4 : Cond.code (m_y M') (m_cc M') (m_nL M') (m_ret M') ∈ lw_all) :
    CallB (q_room D (m_rk M) s.heap.size (q_used s.heap)) s args (m_own M) idx (m_y M') (m_cc M') (m_nL M') (m_ret M') (ws_ (m_y M') (m_cc M') (m_nL M') (m_ret M')) (q_room D (m_rk M') sz us) (d_K D - sz) (d_S D - us) n := by
  obtain ⟨h1, h2, h3, h4, h5⟩ := ho
  exact callB_of n (fx_w F) (lw_meth w4) rfl rfl rfl (fx_w F _ w3) (fx_w F _ w1) ⟨h3, h4, h5⟩ ⟨h1, by show 8 + (m_nL M' + 11) + 64 * m_rk M' ≤ 64 * m_rk M; omega⟩
/-- room enough for what the callee may make -/
theorem fx_fit {p : Program} {e : Env} {s : State} {m : MethodId} {args : Array Value} {below : List Frame} {meth : Method} {c : Code} (F : q_FX D M p e s m args below meth c) {H : Heap} {locs : List Loc} (hA : q_abs D h H) (hS : va_S (d_N D) s.heap H locs) (hu : q_used s.heap ≤ q_used H) : H.size - s.heap.size + (d_K D - H.size) ≤ (q_room D (m_rk M) s.heap.size (q_used s.heap)).cells ∧ q_used H - q_used s.heap + (d_S D - q_used H) ≤ (q_room D (m_rk M) s.heap.size (q_used s.heap)).slots := by
  obtain ⟨K, -, h2, h3, -⟩ := hA
  have h4 := hS.1
  exact ⟨by show _ ≤ d_K D - s.heap.size; omega, by show _ ≤ d_S D - q_used s.heap; omega⟩
/-- behind a call -/
theorem q_go3 {p : Program} {e : Env} {s : State} {m : MethodId} {args : Array Value} {below : List Frame} {meth : Method} {c : Code} (F : q_FX D M p e s m args below meth c) (hnh : m_hh M = []) {H : Heap} {locs : List Loc} {ls : Array Slot} {k9 n9 mc ms : Nat} {a : Array Value} (hS : va_S (d_N D) s.heap H locs) (hl : lv_has ls (m_nL M) lv)
    (hr : vx_Run p (d_l D) e (q_room D (m_rk M) s.heap.size (q_used s.heap)) s m args below meth c H locs k9 n9 mc ms (F0 m pc ls stk) st (q_Qc D Q' a) (q_XC D X) (d_N D)) (kk : ∀ v h1, Q' v h1 → WA D M Q X (pc + 3) lv (v.toList ++ st) h1) :
    W p (d_l D) e (q_room D (m_rk M) s.heap.size (q_used s.heap)) s m args below meth c H locs k9 n9 (vx_MQ below (q_Qc D Q) (q_XC D X) args s (d_K D - s.heap.size) (d_S D - q_used s.heap) (d_N D)) (F0 m pc ls stk) := by
  intro T hT Z
  rcases hr T hT Z with ⟨v, st₀, t, T', L, h0, X', hL, e1, e2, ⟨v', h1, hv, hq, hA1, hF⟩, stp⟩ | ⟨q, st₀, t, T', L, E, ce, h0, X', hL, e1, e2, ⟨h1, hp, hA1, hF⟩, hce, hcv, hcl, stp⟩
  · cases hv
    obtain ⟨k1, k2, k3⟩ := vx_keep (A0 := d_N D) h0 e1 hS (fun _ _ z => z) (fun _ z => z) hL hF
    rw [← e1] at hA1
    obtain ⟨t2, a1, b1⟩ := q_tight (fun _ => kk v h1 hq p e s m args below meth c F T'.heap (locs ++ L) ls hA1 k3 hl) T' rfl X'
    exact ⟨t2, stp t2 a1, b1⟩
  · obtain ⟨k1, k2, k3⟩ := vx_keep (A0 := d_N D) h0 e1 hS (fun _ _ z => z) (fun _ z => z) hL hF
    have htab := F.2.2.2.2.2.2.2.1
    rw [hnh] at htab
    rw [← e1] at hA1
    obtain ⟨t2, a1, b1⟩ := (vx_out (Qc := q_Qc D Q) (XC := q_XC D X) (free := d_N D) (mc := d_K D - s.heap.size) (ms := d_S D - q_used s.heap) (pc := pc) (ls := ls) (rest := st) (H := T'.heap) (fun x hx => by rw [htab] at hx; cases hx) F.2.2.2.1 (by rw [e1]; exact hce) hcv hcl (fun t9 ht9 _ => ⟨h1, hp, by rw [ht9]; exact hA1, k3.F ht9⟩) k3.2.2 (by
      obtain ⟨K, -, g2, -⟩ := hA1
      omega) (by
      obtain ⟨K, -, -, g2, -⟩ := hA1
      omega)) T' rfl (q_stand X').2
    exact ⟨t2, stp.trans a1, b1⟩
theorem q_go5 {p : Program} {e : Env} {s : State} {m : MethodId} {args : Array Value} {below : List Frame} {meth : Method} {c : Code} (F : q_FX D M p e s m args below meth c) (hnh : m_hh M = []) {H : Heap} {locs : List Loc} {ls : Array Slot} {k9 n9 mc ms : Nat} {a : Array Value} (hS : va_S (d_N D) s.heap H locs) (hl : lv_has ls (m_nL M) lv)
    (hr : vx_Run5 p (d_l D) e (q_room D (m_rk M) s.heap.size (q_used s.heap)) s m args below meth c H locs k9 n9 mc ms (F0 m pc ls stk) st (q_Qc D Q' a) (q_XC D X) (d_N D)) (kk : ∀ v h1, Q' v h1 → WA D M Q X (pc + 5) lv (v.toList ++ st) h1) :
    W p (d_l D) e (q_room D (m_rk M) s.heap.size (q_used s.heap)) s m args below meth c H locs k9 n9 (vx_MQ below (q_Qc D Q) (q_XC D X) args s (d_K D - s.heap.size) (d_S D - q_used s.heap) (d_N D)) (F0 m pc ls stk) := by
  intro T hT Z
  rcases hr T hT Z with ⟨v, st₀, t, T', L, h0, X', hL, e1, e2, ⟨v', h1, hv, hq, hA1, hF⟩, stp⟩ | ⟨q, st₀, t, T', L, E, ce, h0, X', hL, e1, e2, ⟨h1, hp, hA1, hF⟩, hce, hcv, hcl, stp⟩
  · cases hv
    obtain ⟨k1, k2, k3⟩ := vx_keep (A0 := d_N D) h0 e1 hS (fun _ _ z => z) (fun _ z => z) hL hF
    rw [← e1] at hA1
    obtain ⟨t2, a1, b1⟩ := q_tight (fun _ => kk v h1 hq p e s m args below meth c F T'.heap (locs ++ L) ls hA1 k3 hl) T' rfl X'
    exact ⟨t2, stp t2 a1, b1⟩
  · obtain ⟨k1, k2, k3⟩ := vx_keep (A0 := d_N D) h0 e1 hS (fun _ _ z => z) (fun _ z => z) hL hF
    have htab := F.2.2.2.2.2.2.2.1
    rw [hnh] at htab
    rw [← e1] at hA1
    obtain ⟨t2, a1, b1⟩ := (vx_out (Qc := q_Qc D Q) (XC := q_XC D X) (free := d_N D) (mc := d_K D - s.heap.size) (ms := d_S D - q_used s.heap) (pc := pc) (ls := ls) (rest := st) (H := T'.heap) (fun x hx => by rw [htab] at hx; cases hx) F.2.2.2.1 (by rw [e1]; exact hce) hcv hcl (fun t9 ht9 _ => ⟨h1, hp, by rw [ht9]; exact hA1, k3.F ht9⟩) k3.2.2 (by
      obtain ⟨K, -, g2, -⟩ := hA1
      omega) (by
      obtain ⟨K, -, -, g2, -⟩ := hA1
      omega)) T' rfl (q_stand X').2
    exact ⟨t2, stp.trans a1, b1⟩
/-- invokestatic -/
theorem wa_callS (hd : decode (m_cc M) pc = .ok (.invokestatic idx, 3)) (ho : q_ok M M' n) (w1 : Cond.methodLink (m_own M) idx (m_y M') ∈ lw_all) (w2 : Cond.static (m_y M') ∈ lw_all) (w3 : Cond.initialized (m_y M').cls ∈ lw_all) (w4 : Cond.code (m_y M') (m_cc M') (m_nL M') (m_ret M') ∈ lw_all) (hn : As.length = n) (hs : stk = As.reverse ++ st) (hst : (st.map fun v => v.category).sum ≤ 8) (hnh : m_hh M = []) (G : MW D M' As h Q' X) (kk : ∀ v h1, Q' v h1 → WA D M Q X (pc + 3) lv (v.toList ++ st) h1) : WA D M Q X pc lv stk h := by
  intro p e s m args below meth c F H locs ls hA hS hl
  refine q_tight fun hu => ?_
  exact q_go3 F hnh hS hl (vx_runS (As := As) (rest := st) ⟨F.1, F.2.1, F.2.2.2.2.1, fx_own F, fx_w F⟩ (G H.size (q_used H)) ⟨fx_callB F ho w1 w3 w4, fx_w F _ w2⟩ ⟨q_Pc_blind, fx_pc F hA hS⟩ rfl hn hl.1 hs (lv_room hst) hd (fx_fit F hA hS hu)) kk
/-- invokevirtual -/
theorem wa_callV {C : String} {o : Option Nat} (hd : decode (m_cc M) pc = .ok (.invokevirtual idx, 3)) (ho : q_ok M M' n) (w1 : Cond.methodLink (m_own M) idx (m_y M') ∈ lw_all) (w2 : Cond.instanceMethod (m_y M') ∈ lw_all) (w5 : Cond.selects C (m_y M') (m_y M') ∈ lw_all) (w3 : Cond.initialized (m_y M').cls ∈ lw_all) (w4 : Cond.code (m_y M') (m_cc M') (m_nL M') (m_ret M') ∈ lw_all) (hn : As.length = n) (hs : stk = As.reverse ++ va_rf o :: st) (hst : (st.map fun v => v.category).sum ≤ 8) (hnh : m_hh M = []) (hrc : recv D h o C) (G : MW D M' (va_rf o :: As) h Q' X) (kk : ∀ v h1, Q' v h1 → WA D M Q X (pc + 3) lv (v.toList ++ st) h1) : WA D M Q X pc lv stk h := by
  obtain ⟨b, y, rfl, hy, hC⟩ := hrc
  intro p e s m args below meth c F H locs ls hA hS hl
  refine q_tight fun hu => ?_
  exact q_go3 F hnh hS hl (vx_runV (C := C) (b := b) (As := As) (rest := st) ⟨F.1, F.2.1, F.2.2.2.2.1, fx_own F, fx_w F⟩ (G H.size (q_used H)) ⟨fx_callB F ho w1 w3 w4, fx_w F _ w2, fx_w F _ w5⟩ ⟨q_Pc_blind, fx_recv F hA hS hy hC, fx_pc F hA hS⟩ rfl hn hl.1 hs (lv_room hst) hd (fx_fit F hA hS hu)) kk
/-- invokespecial <init> -/
theorem wa_callI {b : Nat} (hd : decode (m_cc M) pc = .ok (.invokespecial idx, 3)) (ho : q_ok M M' n) (hini : (m_y M').name = "<init>") (hret : m_ret M' = none) (w1 : Cond.methodLink (m_own M) idx (m_y M') ∈ lw_all) (w2 : Cond.instanceMethod (m_y M') ∈ lw_all) (w3 : Cond.initialized (m_y M').cls ∈ lw_all) (w4 : Cond.code (m_y M') (m_cc M') (m_nL M') (m_ret M') ∈ lw_all) (hn : As.length = n) (hs : stk = As.reverse ++ .ref b :: st) (hst : (st.map fun v => v.category).sum ≤ 8) (hnh : m_hh M = []) (G : MW D M' (.ref b :: As) h Q' X) (kk : ∀ v h1, Q' v h1 → WA D M Q X (pc + 3) lv (v.toList ++ st) h1) : WA D M Q X pc lv stk h := by
  intro p e s m args below meth c F H locs ls hA hS hl
  refine q_tight fun hu => ?_
  have hB := fx_callB (sz := H.size) (us := q_used H) F ho w1 w3 w4
  have hG := G H.size (q_used H)
  rw [hret] at hB hG
  exact q_go3 F hnh hS hl (vx_runI (b := b) (As := As) (rest := st) ⟨F.1, F.2.1, F.2.2.2.2.1, fx_own F, fx_w F⟩ hG ⟨hB, hini, fx_w F _ w2⟩ ⟨q_Pc_blind, fx_pc F hA hS⟩ rfl hn hl.1 hs (lv_room hst) hd (fx_fit F hA hS hu)) kk
theorem fx_callN {p : Program} {e : Env} {s : State} {m : MethodId} {args : Array Value} {below : List Frame} {meth : Method} {c : Code} (F : q_FX D M p e s m args below meth c) {sz us : Nat} {host : String} (ho : q_ok M M' n) (w1 : Cond.methodLinkNest (m_own M) idx (m_y M') host ∈ lw_tbl) (w3 : Cond.initialized (m_y M').cls ∈ lw_all) (w4 : Cond.code (m_y M') (m_cc M') (m_nL M') (m_ret M') ∈ lw_all) :
    va_CN (q_room D (m_rk M) s.heap.size (q_used s.heap)) s args (m_own M) idx (m_y M') host (m_cc M') (m_nL M') (m_ret M') (ws_ (m_y M') (m_cc M') (m_nL M') (m_ret M')) (q_room D (m_rk M') sz us) (d_K D - sz) (d_S D - us) n := by
  obtain ⟨h1, h2, h3, h4, h5⟩ := ho
  exact va_cnB n (fx_w F) (lw_meth w4) rfl rfl rfl (fx_ng F _ w1 rfl) (fx_w F _ w3) ⟨h3, h4, h5⟩ ⟨h1, by show 8 + (m_nL M' + 11) + 64 * m_rk M' ≤ 64 * m_rk M; omega⟩
/-- .. of a nest mate -/
theorem wa_callIN {b : Nat} {host : String} (hd : decode (m_cc M) pc = .ok (.invokespecial idx, 3)) (ho : q_ok M M' n) (hini : (m_y M').name = "<init>") (hret : m_ret M' = none) (w1 : Cond.methodLinkNest (m_own M) idx (m_y M') host ∈ lw_tbl) (w2 : Cond.instanceMethod (m_y M') ∈ lw_all) (w3 : Cond.initialized (m_y M').cls ∈ lw_all) (w4 : Cond.code (m_y M') (m_cc M') (m_nL M') (m_ret M') ∈ lw_all) (hn : As.length = n) (hs : stk = As.reverse ++ .ref b :: st) (hst : (st.map fun v => v.category).sum ≤ 8) (hnh : m_hh M = []) (G : MW D M' (.ref b :: As) h Q' X) (kk : ∀ v h1, Q' v h1 → WA D M Q X (pc + 3) lv (v.toList ++ st) h1) : WA D M Q X pc lv stk h := by
  intro p e s m args below meth c F H locs ls hA hS hl
  refine q_tight fun hu => ?_
  have hB := fx_callN (sz := H.size) (us := q_used H) F ho w1 w3 w4
  have hG := G H.size (q_used H)
  rw [hret] at hB hG
  exact q_go3 F hnh hS hl (vx_runIN (b := b) (As := As) (rest := st) ⟨F.1, F.2.1, F.2.2.2.2.1, fx_own F, fx_w F⟩ hG ⟨hB, hini, fx_w F _ w2⟩ ⟨q_Pc_blind, fx_pc F hA hS⟩ rfl hn hl.1 hs (lv_room hst) hd (fx_fit F hA hS hu)) kk
theorem wa_callVN {C host : String} {o : Option Nat} (hd : decode (m_cc M) pc = .ok (.invokevirtual idx, 3)) (ho : q_ok M M' n) (w1 : Cond.methodLinkNest (m_own M) idx (m_y M') host ∈ lw_tbl) (w2 : Cond.instanceMethod (m_y M') ∈ lw_all) (w5 : Cond.selects C (m_y M') (m_y M') ∈ lw_all) (w3 : Cond.initialized (m_y M').cls ∈ lw_all) (w4 : Cond.code (m_y M') (m_cc M') (m_nL M') (m_ret M') ∈ lw_all) (hn : As.length = n) (hs : stk = As.reverse ++ va_rf o :: st) (hst : (st.map fun v => v.category).sum ≤ 8) (hnh : m_hh M = []) (hrc : recv D h o C) (G : MW D M' (va_rf o :: As) h Q' X) (kk : ∀ v h1, Q' v h1 → WA D M Q X (pc + 3) lv (v.toList ++ st) h1) : WA D M Q X pc lv stk h := by
  obtain ⟨b, y, rfl, hy, hC⟩ := hrc
  intro p e s m args below meth c F H locs ls hA hS hl
  refine q_tight fun hu => ?_
  exact q_go3 F hnh hS hl (vx_runVN (C := C) (b := b) (As := As) (rest := st) ⟨F.1, F.2.1, F.2.2.2.2.1, fx_own F, fx_w F⟩ (G H.size (q_used H)) ⟨fx_callN F ho w1 w3 w4, fx_w F _ w2, fx_w F _ w5⟩ ⟨q_Pc_blind, fx_recv F hA hS hy hC, fx_pc F hA hS⟩ rfl hn hl.1 hs (lv_room hst) hd (fx_fit F hA hS hu)) kk
/-- invokeinterface -/
theorem wa_callF {C : String} {x : MethodName} {o : Option Nat} {cnt ci : Nat} {r : vw_C} (hd : decode (m_cc M) pc = .ok (.invokeinterface idx cnt, 5)) (hci : qCL[ci]? = some r) (hrC : r.1 = C) (hfw : (C, x, m_y M') ∈ qFW) (ho : m_rk M' + 1 ≤ m_rk M ∧ m_nL M' ≤ 45) (hx : x.cls ≠ "java/lang/invoke/MethodHandle" ∧ x.cls ≠ "java/lang/invoke/VarHandle" ∧ (parseMethodDescriptor x.desc).map (fun d => d.parameters.length) = some n) (w1 : Cond.methodLink (m_own M) idx x ∈ lw_all) (w5 : Cond.selects C x (m_y M') ∈ lw_all) (w2 : Cond.instanceMethod (m_y M') ∈ lw_all) (w3 : Cond.initialized (m_y M').cls ∈ lw_all) (w4 : Cond.code (m_y M') (m_cc M') (m_nL M') (m_ret M') ∈ lw_all) (hn : As.length = n) (hs : stk = As.reverse ++ va_rf o :: st) (hst : (st.map fun v => v.category).sum ≤ 8) (hnh : m_hh M = []) (hrc : recv D h o C) (G : MW D M' (va_rf o :: As) h Q' X) (kk : ∀ v h1, Q' v h1 → WA D M Q X (pc + 5) lv (v.toList ++ st) h1) : WA D M Q X pc lv stk h := by
  obtain ⟨b, y, rfl, hy, hC⟩ := hrc
  intro p e s m args below meth c F H locs ls hA hS hl
  refine q_tight fun hu => ?_
  subst hrC
  exact q_go5 F hnh hS hl (vx_runF (C := r.1) (b := b) (As := As) (rest := st) (fx_cl F ci r hci).2 ⟨F.1, F.2.1, F.2.2.2.2.1, fx_own F, fx_w F⟩ (G H.size (q_used H)) (va_cwF n (fx_w F) (lw_app (fun w hw => by
    simp only [List.mem_cons, List.not_mem_nil, or_false] at hw
    rcases hw with e | e | e | e
    · rw [e]; exact w1
    · rw [e]; exact w5
    · rw [e]; exact w2
    · rw [e]; exact w3) (lw_meth w4)) rfl rfl rfl ((fx_cx F).1.2.2.2.2.1 _ hfw) hx ⟨ho.1, by show 8 + (m_nL M' + 11) + 64 * m_rk M' ≤ 64 * m_rk M; omega⟩) ⟨q_Pc_blind, fx_recv F hA hS hy hC, fx_pc F hA hS⟩ rfl hn hl.1 hs (lv_room hst) hd (fx_fit F hA hS hu)) kk
/-- super() of Object -/
theorem wa_objInit {a : Nat} (hd : decode (m_cc M) pc = .ok (.invokespecial idx, 3)) (w1 : Cond.methodLink (m_own M) idx Lib.objectInit ∈ lw_all) (w2 : Cond.instanceMethod Lib.objectInit ∈ lw_all) (w3 : Cond.code Lib.objectInit ⟨#[0xb1]⟩ 1 none ∈ lw_all) (hrk : 1 ≤ m_rk M) (hst : (st.map fun v => v.category).sum ≤ 8) (k : WA D M Q X (pc + 3) lv st h) : WA D M Q X pc lv (.ref a :: st) h := by
  intro p e s m args below meth c F H locs ls hA hS hl
  exact W.objInit F.1 F.2.1 (fx_own F) (fx_w F _ w1) (fx_w F _ w2) (fx_w F _ w3) rfl (by rw [F.2.2.2.2.1]; exact hl.1) rfl hd hrk (by
    have h9 := lv_room (m := m) (pc := pc) (ls := ls) (rest := st) hst
    show _ ≤ 64 * m_rk M
    have h8 : 2 * (F0 m pc ls (Value.ref a :: st)).monitorRoom + (st.map fun v => v.category).sum ≤ 8 := lv_room hst
    omega) (k p e s m args below meth c F H locs ls hA hS hl)
/-! statics, String constants, casts -/
theorem wa_gets {ref C f d : String} {v : Value} (hd : decode (m_cc M) pc = .ok (.getstatic idx, 3)) (hq : (C, f, d, v) ∈ qST D) (hlink : Cond.fieldLink (m_own M) idx ref f d ∈ lw_all) (hsame : ref = C) (k : WA D M Q X (pc + 3) lv (v :: st) h) : WA D M Q X pc lv st h := by
  intro p e s m args below meth c F H locs ls hA hS hl
  subst hsame
  exact va_gets F.1 F.2.1 ((fx_cx F).2.1 _ hq) hS (fx_own F) (fx_w F _ hlink) (fun _ z => z) hd (k p e s m args below meth c F H locs ls hA hS hl)
theorem wa_ldcS {i : Nat} {tx : String} (hd : decode (m_cc M) pc = .ok (.ldc idx, 2)) (hq : qSTR[i]? = some (m_own M, idx, tx)) (k : WA D M Q X (pc + 2) lv (va_rf (some (d_s D (100 + i))) :: st) h) : WA D M Q X pc lv st h := by
  intro p e s m args below meth c F H locs ls hA hS hl
  exact va_ldcS F.1 F.2.1 (fx_own F) ((fx_cx F).1.2.2.2.2.2.2.2.2.2.2.1 i _ hq) hd (k p e s m args below meth c F H locs ls hA hS hl)
/-- a cast: null, or an object of a class that is one of C -/
def q_cast (D : qD) (h : qH) (o : Option Nat) (C : String) : Prop := o = none ∨ ∃ (b : Nat) (y : qE) (B : String), o = some b ∧ q_cell D h b y ∧ q_nm y = some B ∧ (B = C ∨ Cond.castable B C ∈ lw_tbl)
theorem wa_cast {C : String} {o : Option Nat} (hd : decode (m_cc M) pc = .ok (.checkcast idx, 3)) (hlink : Cond.classLink (m_own M) idx C ∈ lw_all) (hc : q_cast D h o C) (k : WA D M Q X (pc + 3) lv (va_rf o :: st) h) : WA D M Q X pc lv (va_rf o :: st) h := by
  intro p e s m args below meth c F H locs ls hA hS hl
  rcases hc with rfl | ⟨b, y, B, rfl, hy, hB, hBC⟩
  · exact lv_castN F.1 F.2.1 hd (k p e s m args below meth c F H locs ls hA hS hl)
  · rcases hBC with rfl | hBC
    · exact va_castE F.1 F.2.1 (fx_own F) (fx_w F _ hlink) (fx_recv F hA hS hy hB) hd (k p e s m args below meth c F H locs ls hA hS hl)
    · exact va_castY F.1 F.2.1 (fx_own F) (fx_w F _ hlink) (fx_ng F _ hBC rfl) (fx_recv F hA hS hy hB) hd (k p e s m args below meth c F H locs ls hA hS hl)
end QX
