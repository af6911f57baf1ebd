set_option maxRecDepth 100000
section QK
variable {p : Program} {l : Launch} {e : Env} {R : Room} {s : State} {m₀ : MethodId} {args : Array Value} {below : List Frame} {meth : Method} {c : Code} {W : State} {locs : List Loc} {cells slots : Nat}
set_option maxHeartbeats 1000000 in
theorem q_ctorMadeS (X : Stand p l e R s m₀ args below meth c W locs cells slots) (hexec : p.tables.exec = Jvm.exec) (htr : e.platform.stackTraces = false) {own cls : String} {names : List String} {ic : Nat}
    (hown : s.vm.findClass own = some m₀.cls) (hcls : Bundle.fit cls = true) (hnames : ∀ n ∈ names, Bundle.fit n = true)
    (h : ∀ a ∈ Bundle.ownAtoms own ic cls names, a.before args s = true)
    (hlocs : ∀ x ∈ locs, ∀ cell, s.heap[x.base]? = some cell → cell.vm.isStatics = false)
    {a : Addr} {cX : ClassId} {kX : Class} (hfoundX : s.vm.findClass cls = some cX) (hkX : s.vm.classes[cX]? = some kX) (hcell : W.heap[a]? = some (freshCell cX kX)) (hnew : ∀ (q : Nat) (c9 : Cell), s.heap[q]? = some c9 → c9.vm.isStatics = true → q ≠ a)
    {msg : Value} (hmsg : msg.isRef = true)
    {g : JFrame} (hg : g.method = m₀) (hsize : g.locals.size = c.maxLocals) {rest : List Value} (hstack : g.stack = msg :: .ref a :: .ref a :: rest)
    (hd6 : decode c.code g.pc = .ok (.invokespecial ic, 3))
    (hRframes : names.length + 3 < R.frames) (hRlocals : 2 * g.monitorRoom + ((Value.ref a :: rest).map fun v => v.category).sum + (13 * (names.length + 1) + 42) ≤ R.locals) :
    ∃ (V : State) (ce : Cell) (L : List Loc), Stand p l e R s m₀ args below meth c (V.setCell a ce) (locs ++ L) cells slots ∧ (∀ y ∈ L, y.base = a) ∧ V.heap = W.heap ∧ ce.slots.size = (freshCell cX kX).slots.size ∧ a < V.heap.size ∧ ce.cls = cX ∧ ce.vm = .none ∧
      ∀ target, Steps p.tables e below ((V.setCell a ce).setTop { g with stack := .ref a :: rest, pc := g.pc + 3 }) target → Steps p.tables e below (W.setTop g) target := by
  have howns : e.platform.frameOwnsMonitors = true := by rw [X.admits.platform]
  have hfin : e.platform.finalization = false := by rw [X.admits.platform]
  have hpl : e.platform.magicAccessors = ({} : Platform).magicAccessors := by rw [X.admits.platform]
  have a' : ∀ x, x ∈ Bundle.ownAtoms own ic cls names → x.holds args s none s [] = true := fun x hx => h x hx
  obtain ⟨T, Z0, L, -, Y⟩ := ThrowableC.of_atoms (args := args) howns hfin hpl (fun x hx => h x (by simp [Bundle.ownAtoms, hx]))
  obtain ⟨Z, M, LZ, LM, hnZ⟩ := Init0T.ofS_atoms (args := args) hpl L Y (fun x hx => h x (by simp [Bundle.ownAtoms, hx]))
  obtain ⟨P1, Ps, hlen, L1, hL, hP1m, hlink1, hlink⟩ := Bundle.chainS (args := args) hpl hnZ names cls hcls hnames (fun x hx => h x (by simp [Bundle.ownAtoms, hx]))
  have hfound : s.vm.findClass cls = some P1.m.cls := findClass_of_methodNamed hP1m
  cases Option.some.inj (hfoundX.symm.trans hfound)
  obtain ⟨c1, kX', hc1, hk, hord, -, -, hn6⟩ := Cond.instantiable_spec (a' (.instantiable cls 6) (by simp [Bundle.ownAtoms]))
  cases Option.some.inj (hc1.symm.trans hfound)
  cases Option.some.inj (hkX.symm.trans hk)
  have hsel0 : selectMethod e.platform s.vm P1.m.cls T.fill0 = .method T.fill0 := by
    obtain ⟨c2, r2, m2, q1, q2, q3, q4, -⟩ := Cond.selects_spec (a' (.selects cls Bundle.tFill0 Bundle.tFill0) (by simp [Bundle.ownAtoms]))
    cases Option.some.inj (q1.symm.trans hfound)
    cases Option.some.inj (q2.symm.trans (State.methodFound?_of_named Y.fill0 (by decide)))
    cases Option.some.inj (q3.symm.trans Y.fill0)
    rw [Launch.admits_selectMethod X.admits]; exact q4
  have hselF : selectMethod e.platform s.vm P1.m.cls T.fill = .method T.fill := by
    obtain ⟨c2, r2, m2, q1, q2, q3, q4, -⟩ := Cond.selects_spec (a' (.selects cls Bundle.tFill Bundle.tFill) (by simp [Bundle.ownAtoms]))
    cases Option.some.inj (q1.symm.trans hfound)
    cases Option.some.inj (q2.symm.trans (State.methodFound?_of_named Y.fill (by decide)))
    cases Option.some.inj (q3.symm.trans Y.fill)
    rw [Launch.admits_selectMethod X.admits]; exact q4
  obtain ⟨cellS0, hcS0, hiss⟩ := Y.statics
  obtain ⟨u0, hu0⟩ := Cond.staticRefV Y.unassigned L.unassignedStatic L.statics hcS0 hiss (a' (.isRef (.static Bundle.tN "UNASSIGNED_STACK" Bundle.steD)) (by simp [Bundle.ownAtoms]))
  obtain ⟨sen, hsen⟩ := Cond.staticRefV Y.sentinel L.sentinelStatic L.statics hcS0 hiss (a' (.isRef (.static Bundle.tN "SUPPRESSED_SENTINEL" Bundle.listD)) (by simp [Bundle.ownAtoms]))
  obtain ⟨ci198, i198, fB, hk198, hg198, ha198, hsB, -, hnB, htB, hffB⟩ := Cond.ownField (t := .object "java/lang/Object") Y.found L.cls (by decide +kernel) (a' (.fieldLink Bundle.tN 198 Bundle.tN "backtrace" "Ljava/lang/Object;") (by simp [Bundle.ownAtoms])) (a' (.lays Bundle.tN Bundle.tN "backtrace" "Ljava/lang/Object;") (by simp [Bundle.ownAtoms])) e.platform hpl
  obtain ⟨cellS, hcS', heS, -, hkeep⟩ := X.same.2.2.2.2.2 T.aS cellS0 hcS0
  have hcellS : W.heap[T.aS]? = some cellS := hcS'
  have hout' : ∀ i, (⟨T.aS, i⟩ : Loc) ∉ locs := fun i hmem => by
    have := hlocs _ hmem cellS0 hcS0
    rw [hiss] at this; cases this
  have hknownS : cellS.vm ≠ .unknown := by
    rw [heS]; intro hu
    rw [show cellS0.vm = .unknown from hu] at hiss
    cases hiss
  have hneS : T.aS ≠ a := hnew T.aS cellS0 hcS0 hiss
  obtain ⟨iM, hffM⟩ := Y.msg
  obtain ⟨tyC, dC, hdC, hdnC⟩ := Cond.laysAt hfound hk Y.cause (a' (.lays cls Bundle.tN "cause" "Ljava/lang/Throwable;") (by simp [Bundle.ownAtoms]))
  obtain ⟨tyS, dS, hdS, hdnS⟩ := Cond.laysAt hfound hk Y.stack (a' (.lays cls Bundle.tN "stackTrace" Bundle.steD) (by simp [Bundle.ownAtoms]))
  obtain ⟨tyP, dP, hdP, hdnP⟩ := Cond.laysAt hfound hk Y.supp (a' (.lays cls Bundle.tN "suppressedExceptions" Bundle.listD) (by simp [Bundle.ownAtoms]))
  obtain ⟨tyM, dM, hdM, hdnM⟩ := Cond.laysAt hfound hk hffM (a' (.lays cls Bundle.tN "detailMessage" "Ljava/lang/String;") (by simp [Bundle.ownAtoms]))
  obtain ⟨tyB, dB, hdB, hdnB⟩ := Cond.laysAt hfound hk hffB (a' (.lays cls Bundle.tN "backtrace" "Ljava/lang/Object;") (by simp [Bundle.ownAtoms]))
  have bC := Cond.laysApart hdB hdC hdnB hdnC (by rw [hnB, Y.causeName]; decide)
  have bS := Cond.laysApart hdB hdS hdnB hdnS (by rw [hnB, Y.stackName]; decide)
  have bP := Cond.laysApart hdB hdP hdnB hdnP (by rw [hnB, Y.suppName]; decide)
  have hskip : SkipFacts T e.platform s (fun u => u) u0 ((preparedCellV T.toThrowableT (freshCell P1.m.cls kX) a u0 sen).withEntry W.cur) :=
    ⟨{ ci198 := ci198, i198 := i198, fBack := fB }, ⟨hk198, hg198, ha198, hsB⟩, by
      have := fresh_default (c := P1.m.cls) tyB
      rw [htB] at this
      simpa [preparedCellV, Cell.setSlot, Cell.withEntry, Array.getElem?_setIfInBounds, bC, bS, bP, bC.symm, bS.symm, bP.symm, defaultValue] using this, fun _ _ => rfl⟩
  obtain ⟨tm, methC, cdC, kC, vm₁, hnC, -, -, -, -, -, -, -, hW₁, st1⟩ := Steps.initColdS (tb := p.tables) (e := e) (below := below) (s := s) (U := W) X.here hexec X.warmed hpl hown (t := Bundle.initS cls) rfl rfl (Bundle.fit_spec hcls).2
    (a' (.methodLink own ic (Bundle.initS cls)) (by simp [Bundle.ownAtoms])) (h (.instanceMethod (Bundle.initS cls)) (by cases names <;> simp [Bundle.ownAtoms, Bundle.chainSAtoms, Bundle.passSAtoms])) (bytes := Bundle.six) (maxL := 2) (h (.code (Bundle.initS cls) Bundle.six 2 none) (by cases names <;> simp [Bundle.ownAtoms, Bundle.chainSAtoms, Bundle.passSAtoms]))
    (f := g) hg (a := a) (msg := msg) (rest := .ref a :: rest) hstack hd6
  cases Option.some.inj (hnC.symm.trans hP1m)
  have X₁ := X.noted hW₁
  obtain ⟨vm₂, X₂, st2⟩ := X₁.ctorMessageOffV hexec (g := { g with stack := .ref a :: rest }) hg hsize T L Z LZ M LM (P1 :: Ps)
    (fun P hP => by rcases List.mem_cons.mp hP with rfl | hP; exact L1; exact hL P hP) ⟨hlink1, hlink⟩ (u0 := u0) (sen := sen) (self := a) hmsg (cell := freshCell P1.m.cls kX) (cellS := cellS)
    hcell (fun _ => by simp) (by simp) rfl rfl hsel0 hselF hcellS hneS hknownS (by rw [hkeep _ (hout' _)]; exact hu0) (by rw [hkeep _ (hout' _)]; exact hsen)
    (Takes.of_laid hk hord tyC (by rw [Y.causeType]; rfl)) (Takes.of_laid hk hord tyS (by rw [Y.stackType]; exact fits_refV_array _ u0)) (Takes.of_laid hk hord tyP (by rw [Y.suppType]; exact fits_refV_object _ sen))
    (Takes.of_laid hk hord tyM (by rw [Y.msgType]; exact fits_refV_object _ ⟨msg, hmsg⟩)) Y.objLocals hskip htr [] hd6
    (by simp only [List.length_cons, hlen]; omega) (by simp only [List.length_cons, hlen]; exact hRlocals)
  have hlt : a < ((W.setVm vm₁).setVm vm₂).heap.size := (Array.getElem?_eq_some_iff.mp hcell).1
  refine ⟨(W.setVm vm₁).setVm vm₂, _, _, X₂, fun y hy => ?_, rfl, by simp [preparedCellV, Cell.setSlot, Cell.withEntry, Cell.left], hlt, rfl, rfl, fun target hwalk => st1 _ (fun acts => ?_)⟩
  · simp only [List.mem_cons, List.not_mem_nil, or_false] at hy
    rcases hy with rfl | rfl | rfl | rfl | rfl <;> rfl
  · rw [doInvoke_state]
    exact st2 _ hwalk
end QK
/-! stores where all locals are one slot wide -/
theorem q_cat (o : Option Nat) : (va_rf o).category = 1 := by cases o <;> rfl
def q_c1 (lv : List (Nat × Value)) : Prop := ∀ q ∈ lv, q.2.category = 1
theorem q_cn : q_c1 [] := fun _ h => nomatch h
theorem q_ci {i : Nat} {x : Int32} {l : List (Nat × Value)} (h : q_c1 l) : q_c1 ((i, .int x) :: l) := fun q hq => (List.mem_cons.mp hq).elim (fun e => by rw [e]; rfl) (h q)
theorem q_cr {i : Nat} {o : Option Nat} {l : List (Nat × Value)} (h : q_c1 l) : q_c1 ((i, va_rf o) :: l) := fun q hq => (List.mem_cons.mp hq).elim (fun e => by rw [e]; exact q_cat o) (h q)
theorem q_fil {lv : List (Nat × Value)} (h : q_c1 lv) (i : Nat) : lv.filter (fun q => !(q.1 == i) && !(q.1 + 1 == i && q.2.category == 2)) = lv.filter (fun q => !(q.1 == i)) := by
  refine List.filter_congr fun q hq => ?_
  rw [h q hq]
  simp
section QM
variable {D : qD} {M M' : qM} {Q : Option Value → qH → Prop} {X : String → qH → Prop} {pc idx : Nat} {lv lv' : List (Nat × Value)} {st : List Value} {h : qH}
theorem ws_istore_n {n : Fin 4} {i : Nat} {x : Int32} (hd : decode (m_cc M) pc = .ok (.istore_n n, 1)) (hi : (n : Nat) = i) (hn : i < m_nL M) (hc : q_c1 lv) (hl2 : (i, Value.int x) :: lv.filter (fun q => !(q.1 == i)) = lv') (k : WA D M Q X (pc + 1) lv' st h) : WA D M Q X pc lv (.int x :: st) h := wa_istore_n hd hi hn (by rw [q_fil hc]; exact hl2) k
theorem ws_istore {i : Nat} {x : Int32} (hd : decode (m_cc M) pc = .ok (.istore i, 2)) (hn : i < m_nL M) (hc : q_c1 lv) (hl2 : (i, Value.int x) :: lv.filter (fun q => !(q.1 == i)) = lv') (k : WA D M Q X (pc + 2) lv' st h) : WA D M Q X pc lv (.int x :: st) h := wa_istore hd hn (by rw [q_fil hc]; exact hl2) k
theorem ws_astore_n {n : Fin 4} {i : Nat} {o : Option Nat} (hd : decode (m_cc M) pc = .ok (.astore_n n, 1)) (hi : (n : Nat) = i) (hn : i < m_nL M) (hc : q_c1 lv) (hl2 : (i, va_rf o) :: lv.filter (fun q => !(q.1 == i)) = lv') (k : WA D M Q X (pc + 1) lv' st h) : WA D M Q X pc lv (va_rf o :: st) h := wa_astore_n hd hi hn (by rw [q_fil hc]; exact hl2) k
theorem ws_astore {i : Nat} {o : Option Nat} (hd : decode (m_cc M) pc = .ok (.astore i, 2)) (hn : i < m_nL M) (hc : q_c1 lv) (hl2 : (i, va_rf o) :: lv.filter (fun q => !(q.1 == i)) = lv') (k : WA D M Q X (pc + 2) lv' st h) : WA D M Q X pc lv (va_rf o :: st) h := wa_astore hd hn (by rw [q_fil hc]; exact hl2) k
theorem ws_iinc {i j : Nat} {n : Int} {x v : Int32} (hd : decode (m_cc M) pc = .ok (.iinc i n, 3)) (hj : lv[j]? = some (i, .int x)) (hv : x + Int32.ofInt n = v) (hn : i < m_nL M) (hc : q_c1 lv) (hl2 : (i, Value.int v) :: lv.filter (fun q => !(q.1 == i)) = lv') (k : WA D M Q X (pc + 3) lv' st h) : WA D M Q X pc lv st h := wa_iinc hd hj hv hn (by rw [q_fil hc]; exact hl2) k
/-! values that a field takes -/
theorem q_nar_ref {C : String} (o : Option Nat) : narrow (.object C) (va_rf o) = va_rf o := by cases o <;> rfl
theorem q_fit_ref {C : String} (o : Option Nat) : fits (.object C) (va_rf o) = true := by cases o <;> rfl
theorem q_nar_arr {t : FieldType} (o : Option Nat) : narrow (.array t) (va_rf o) = va_rf o := by cases o <;> rfl
theorem q_fit_arr {t : FieldType} (o : Option Nat) : fits (.array t) (va_rf o) = true := by cases o <;> rfl
/-! calls by what they hand back -/
def c_I (D : qD) (M' : qM) (As : List Value) (h : qH) (X : String → qH → Prop) (K : Int32 → qH → Prop) : Prop := MW D M' As h (fun v h1 => ∃ r : Int32, v = some (.int r) ∧ K r h1) X
def c_R (D : qD) (M' : qM) (As : List Value) (h : qH) (X : String → qH → Prop) (K : Option Nat → qH → Prop) : Prop := MW D M' As h (fun v h1 => ∃ r : Option Nat, v = some (va_rf r) ∧ K r h1) X
def c_V (D : qD) (M' : qM) (As : List Value) (h : qH) (X : String → qH → Prop) (K : qH → Prop) : Prop := MW D M' As h (fun v h1 => v = none ∧ K h1) X
theorem wk_I {n : Nat} {K : Int32 → qH → Prop} (k : ∀ r h1, K r h1 → WA D M Q X (pc + n) lv (.int r :: st) h1) : ∀ v h1, (∃ r : Int32, v = some (.int r) ∧ K r h1) → WA D M Q X (pc + n) lv (v.toList ++ st) h1 := by
  intro v h1 q
  obtain ⟨r, rfl, q⟩ := q
  exact k r h1 q
theorem wk_R {n : Nat} {K : Option Nat → qH → Prop} (k : ∀ r h1, K r h1 → WA D M Q X (pc + n) lv (va_rf r :: st) h1) : ∀ v h1, (∃ r : Option Nat, v = some (va_rf r) ∧ K r h1) → WA D M Q X (pc + n) lv (v.toList ++ st) h1 := by
  intro v h1 q
  obtain ⟨r, rfl, q⟩ := q
  exact k r h1 q
theorem wk_V {n : Nat} {K : qH → Prop} (k : ∀ h1, K h1 → WA D M Q X (pc + n) lv st h1) : ∀ v h1, (v = none ∧ K h1) → WA D M Q X (pc + n) lv (v.toList ++ st) h1 := by
  intro v h1 q
  obtain ⟨rfl, q⟩ := q
  exact k h1 q
/-! exceptions -/
def x_N (h : qH) (E : String) (K : Nat → qH → Prop) : Prop := 2 ≤ h.1 ∧ ∀ a, h.2 a = none → K a (q_new h 2 a (c_ex E false))
def x_I (h : qH) (o : Option Nat) (E : String) (K : qH → Prop) : Prop := ∃ a, o = some a ∧ h.2 a = some (c_ex E false) ∧ K (q_put h a (c_ex E true))
def x_T (h : qH) (o : Option Nat) (X : String → qH → Prop) : Prop := ∃ a E, o = some a ∧ h.2 a = some (c_ex E true) ∧ E ∈ qXN ∧ X E h
theorem x_N_mono {E : String} {K K' : Nat → qH → Prop} (F : x_N h E K) (hk : ∀ a x, K a x → K' a x) : x_N h E K' := ⟨F.1, fun a ha => hk _ _ (F.2 a ha)⟩
theorem x_I_mono {o : Option Nat} {E : String} {K K' : qH → Prop} (F : x_I h o E K) (hk : ∀ x, K x → K' x) : x_I h o E K' := by
  obtain ⟨a, h1, h2, h3⟩ := F
  exact ⟨a, h1, h2, hk _ h3⟩
theorem fx_xn {p : Program} {e : Env} {s : State} {m : MethodId} {args : Array Value} {below : List Frame} {meth : Method} {c : Code} (F : q_FX D M p e s m args below meth c) : ∀ E ∈ qXN, s.vm.findClass E = some (d_X D E).1 ∧ ∃ kX : Class, s.vm.classes[(d_X D E).1]? = some kX ∧ kX.kind = .ordinary ∧ kX.instanceTypes.map defaultValue = (d_X D E).2 ∧ kX.instanceTypes.size = 6 := (fx_cx F).1.2.2.2.2.2.2.2.2.2.2.2.1
theorem wa_newX {E : String} (hE : E ∈ qXN) (hd : decode (m_cc M) pc = .ok (.new idx, 3)) (hcl : Cond.classLink (m_own M) idx E ∈ lw_all) (hinst : Cond.instantiable E 6 ∈ lw_all) (hini : Cond.initialized E ∈ lw_all) (G : x_N h E (fun a h => WA D M Q X (pc + 3) lv (va_rf (some a) :: st) h)) : WA D M Q X pc lv st h := by
  intro p e s m args below meth c F H locs ls hA hS hl
  refine q_tight fun hu => ?_
  obtain ⟨K, hA⟩ := hA
  obtain ⟨G1, G2⟩ := G
  have hb2 := hA.2.1
  have hb3 := hA.2.2.1
  have hs1 := hS.1
  obtain ⟨x1, kX, x2, x3, x4, x5⟩ := fx_xn F E hE
  refine W.newcK F.1 F.2.1 (fx_own F) (fx_w F _ hcl) (fx_w F _ hinst) (fx_w F _ hini) rfl hd (by show _ ≤ d_K D - s.heap.size; omega) (by show _ ≤ d_S D - q_used s.heap; omega) x1 rfl fun H1 kC hkC e1 z1 o1 => ?_
  refine q_tight fun _ => ?_
  cases hkC.symm.trans x2
  have hsz : (blank (d_X D E).1 kX).slots.size = 6 := by simp [blank, x5]
  obtain ⟨g1, g2⟩ := q_absK_new (e := c_ex E false) hA (k := 2) (n := 6) (by omega) (by omega) G1 z1 (by rw [q_used_push z1 e1 o1, hsz]) o1 ⟨_, e1, rfl, rfl, fun _ => by rw [← x4]; rfl⟩ (fun c9 hc9 => by rw [e1] at hc9; cases hc9; rfl)
  exact G2 _ g1 p e s m args below meth c F H1 locs ls ⟨K, g2⟩ (q_S_new hS (by omega) o1) hl
/-- words of the tables by their places, good or not -/
theorem lw_inT (ws : List Cond) (ps : List Nat) (hp : ws = ps.filterMap (fun i => lw_tbl[i]?)) : ∀ w ∈ ws, w ∈ lw_tbl := by
  intro w h
  rw [hp] at h
  obtain ⟨i, -, hi⟩ := List.mem_filterMap.mp h
  exact List.mem_of_getElem? hi
abbrev qSup : List String := ["java/lang/RuntimeException", "java/lang/Exception"]
theorem wa_initX {E : String} {o msg : Option Nat} (hE : E ∈ qXN) (hrk : 10 ≤ m_rk M) (hfit : Bundle.fit E = true) (hd : decode (m_cc M) pc = .ok (.invokespecial idx, 3)) (hat : ∀ w ∈ vx_atS (m_own M) idx E qSup, w ∈ lw_tbl) (hag : ∀ w ∈ vx_atS (m_own M) idx E qSup, (goodWord w || q_ng w) = true) (hst : (st.map fun v => v.category).sum ≤ 8) (G : x_I h o E (fun h => WA D M Q X (pc + 3) lv (va_rf o :: st) h)) : WA D M Q X pc lv (va_rf msg :: va_rf o :: va_rf o :: st) h := by
  obtain ⟨a, rfl, hc, kk⟩ := G
  intro p e s m args below meth c F H locs ls hA hS hl
  obtain ⟨K, hA⟩ := hA
  obtain ⟨⟨ce, r1, r2, r3, r4⟩, hB⟩ := hA.2.2.2.1 a _ hc
  have r1 : H[a]? = some ce := r1
  obtain ⟨hBa, hKa⟩ := hB rfl
  obtain ⟨x1, kX, x2, x3, x4, x5⟩ := fx_xn F E hE
  intro T hT Z
  have htr : e.platform.stackTraces = false := (show e.platform.stackTraces = (d_l D).stackTraces by rw [Z.admits.platform]).trans (fx_cx F).1.1
  have hw : ∀ w ∈ vx_atS (m_own M) idx E qSup, w.before args s = true := by
    intro w hw
    have h1 := hag w hw
    rw [Bool.or_eq_true] at h1
    rcases h1 with h1 | h1
    · exact fx_w F _ (lw_g (hat w hw) h1)
    · have h2 := fx_ng F w (hat w hw) h1
      cases w <;> first | (cases h1; done) | exact va_Nw.use rfl h2
  have hw9 := vx_own hw (vx_isRefq (fx_cx F).2.2.1.1) (vx_isRefq (fx_cx F).2.2.2.1.1) (fx_cx F).2.2.1.2.word (fx_cx F).2.2.2.1.2.word
  have hfr : ce = freshCell (d_X D E).1 kX := by
    rw [r4 rfl, ← x4]
  obtain ⟨V, ce9, L, Z', hL, hVT, hss0, hlt, c1, c2, stp⟩ := q_ctorMadeS Z F.1 htr (own := m_own M) (cls := E) (names := qSup) (ic := idx) (fx_own F) hfit (by decide +kernel) hw9 (fun x hx cell h9 => by
      have hb1 : d_B D ≤ x.base := hS.2.2 x hx
      obtain ⟨c', h1', h2', -⟩ := Z.same.2.2.2.2.2 x.base cell h9
      have h3' : T.heap[x.base]? = some c' := h1'
      rw [hT] at h3'
      have h4' := hA.2.2.2.2.2 x.base c' hb1 h3'
      rw [h2'] at h4'
      exact h4') x1 x2 (by rw [hT, r1, hfr]) (fun q c9 h9 h8 e9 => by
      subst e9
      obtain ⟨c', h1', h2', -⟩ := Z.same.2.2.2.2.2 q c9 h9
      have h3' : T.heap[q]? = some c' := h1'
      rw [hT] at h3'
      have h4' := hA.2.2.2.2.2 q c' hBa h3'
      rw [h2'] at h4'
      have h5' : c9.vm.isStatics = false := h4'
      rw [h8] at h5'
      cases h5') (msg := va_rf msg) (by cases msg <;> rfl) (g := F0 m pc ls (va_rf msg :: .ref a :: .ref a :: st)) rfl (hl.1.trans F.2.2.2.2.1.symm) (rest := st) rfl (by rw [F.2.1]; exact hd) (by show 2 + 3 < m_rk M; omega) (by
      have h9 : 2 * (F0 m pc ls st).monitorRoom + (st.map fun v => v.category).sum ≤ 8 := lv_room hst
      have h8 : ((Value.ref a :: st).map fun v => v.category).sum = 1 + (st.map fun v => v.category).sum := rfl
      have h7 : (F0 m pc ls (va_rf msg :: .ref a :: .ref a :: st)).monitorRoom = (F0 m pc ls st).monitorRoom := rfl
      show _ ≤ 64 * m_rk M
      have h6 : qSup.length = 2 := rfl
      omega)
  generalize hV9 : V.setCell a ce9 = V9 at Z' stp
  have hz1 : V9.heap.size = H.size := by rw [← hV9, size_setCell, hVT, hT]
  have hh : V9.heap[a]? = some ce9 := by rw [← hV9]; exact heapAt_setCell_self (s := V) ce9 hlt
  have ho : ∀ q, q ≠ a → V9.heap[q]? = H[q]? := fun q hq => by rw [← hV9, heapAt_setCell_ne _ (Ne.symm hq), hVT, hT]
  have hss : ce9.slots.size = ce.slots.size := by
    rw [hss0, hfr]
  have hu : q_used V9.heap = q_used H := q_used_same hz1 (fun b y hb => by
    by_cases hba : b = a
    · subst hba
      rw [r1] at hb
      cases hb
      exact ⟨_, hh, hss⟩
    · exact ⟨y, by rw [ho b hba]; exact hb, rfl⟩)
  have hA9 := q_absK_put (H1 := V9.heap) (e' := c_ex E true) hA hc rfl hz1 hu ho ⟨ce9, hh, c1, c2, fun z => nomatch z⟩ (fun c9 hc9 => by
    rw [hh] at hc9
    cases hc9
    rw [c2]
    rfl)
  have hS9 : va_S (d_N D) s.heap V9.heap (locs ++ L) := ⟨by rw [hz1]; exact hS.1, fun q h1 h2 => by
    have hqa : q ≠ a := fun z => h2 (by rw [z]; exact hBa)
    rw [ho q hqa]
    exact hS.2.1 q h1 h2, fun z hz => by
    rcases List.mem_append.mp hz with h9 | h9
    · exact hS.2.2 z h9
    · rw [hL z h9]; exact hBa⟩
  obtain ⟨t, a1, b1⟩ := q_tight (fun _ => kk p e s m args below meth c F V9.heap _ ls ⟨K, hA9⟩ hS9 hl) V9 rfl Z'
  exact ⟨t, stp _ a1, b1⟩
/-- athrow, of an exception that was made, out of the method -/
theorem wa_athrow {o : Option Nat} (hnh : m_hh M = []) (hd : decode (m_cc M) pc = .ok (.athrow, 1)) (G : x_T h o X) : WA D M Q X pc lv (va_rf o :: st) h := by
  obtain ⟨a, E, rfl, hc, hE, hX⟩ := G
  intro p e s m args below meth c F H locs ls hA hS hl
  obtain ⟨K, hA⟩ := hA
  obtain ⟨⟨ce, r1, r2, r3, r4⟩, hB⟩ := hA.2.2.2.1 a _ hc
  have r1 : H[a]? = some ce := r1
  have htab := F.2.2.2.2.2.2.2.1
  rw [hnh] at htab
  refine vx_athrow F.1 F.2.1 hd ?_
  have h2 := hA.2.1
  have h3 := hA.2.2.1
  exact vx_out (fun x hx => by rw [htab] at hx; cases hx) F.2.2.2.1 r1 r3 (by rw [r2]; exact (fx_xn F E hE).1) (fun t9 ht9 _ => ⟨h, hX, by rw [ht9]; exact ⟨K, hA⟩, hS.F ht9⟩) hS.2.2 (by omega) (by omega)
end QM
