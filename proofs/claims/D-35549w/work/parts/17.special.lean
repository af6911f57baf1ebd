set_option maxRecDepth 100000
/-! rows that the printed walks use beside those above -/
theorem q_cs0 : (([] : List Value).map fun v => v.category).sum ≤ 0 := Nat.le_refl 0
theorem q_csi {x : Int32} {st : List Value} {n : Nat} (h : (st.map fun v => v.category).sum ≤ n) : ((Value.int x :: st).map fun v => v.category).sum ≤ n + 1 := by
  have h1 : ((Value.int x :: st).map fun v => v.category).sum = 1 + (st.map fun v => v.category).sum := rfl
  omega
theorem q_csl {x : Int64} {st : List Value} {n : Nat} (h : (st.map fun v => v.category).sum ≤ n) : ((Value.long x :: st).map fun v => v.category).sum ≤ n + 2 := by
  have h1 : ((Value.long x :: st).map fun v => v.category).sum = 2 + (st.map fun v => v.category).sum := rfl
  omega
theorem q_csr {o : Option Nat} {st : List Value} {n : Nat} (h : (st.map fun v => v.category).sum ≤ n) : ((va_rf o :: st).map fun v => v.category).sum ≤ n + 1 := by
  have h1 : ((va_rf o :: st).map fun v => v.category).sum = (va_rf o).category + (st.map fun v => v.category).sum := rfl
  rw [q_cat] at h1
  omega
theorem q_cs_le {st : List Value} {n : Nat} (h : (st.map fun v => v.category).sum ≤ n) (hn : n ≤ 8) : (st.map fun v => v.category).sum ≤ 8 := Nat.le_trans h hn
theorem q_stand2 {p : Program} {l : Launch} {e : Env} {R : Room} {s : State} {m : MethodId} {args : Array Value} {below : List Frame} {meth : Method} {c : Code} {locs : List Loc} {cells slots : Nat} {T : State} (X : Stand p l e R s m args below meth c T locs cells slots) : q_used T.heap ≤ q_used s.heap + slots := by
  obtain ⟨e1, e2, e3, e4, e5, e6⟩ := X.same
  have hu : q_used T.heap = q_used s.heap + ((T.heap.toList.drop s.heap.size).map (·.slots.size)).sum := q_used_ge e2 (fun a c9 h => by
    obtain ⟨c', h1, -, h3, -⟩ := e6 a c9 h
    exact ⟨c', h1, h3⟩)
  have h5 : ((T.heap.toList.drop s.heap.size).map (·.slots.size)).sum ≤ slots := e5
  omega
/-- several new cells at once -/
theorem q_absK_add {D : qD} {K : qHK} {h : qH} {H H1 : Heap} {k : Nat} {f : Nat → Option qE} (hA : q_absK D K h H) (hk : H1.size ≤ H.size + k) (hz : H.size ≤ H1.size) (hkh : k ≤ h.1) (hu : q_used H1 ≤ q_used H + 4 * k) (hq : ∀ q, q < H.size → H1[q]? = H[q]?) (hr : ∀ b x, f b = some x → H.size ≤ b ∧ q_rep D K b H1 x) (hst : ∀ b c, H.size ≤ b → H1[b]? = some c → c.vm.isStatics = false) : (∀ b, H.size ≤ b → h.2 b = none) ∧ q_absK D K (h.1 - k, fun b => (f b).or (h.2 b)) H1 := by
  obtain ⟨h1, h2, h3, h4, h5, h6⟩ := hA
  refine ⟨fun b hb => ?_, by omega, ?_, ?_, fun b x hx => ?_, fun b x hb9 => ?_, fun b c hb9 hc9 => ?_⟩
  · cases hx : h.2 b with
    | none => rfl
    | some x => exact absurd (q_rep_lt h5 (h4 _ _ hx).1) (Nat.not_lt.mpr hb)
  · show H1.size + (h.1 - k) ≤ d_K D
    omega
  · show q_used H1 + 4 * (h.1 - k) ≤ d_S D
    omega
  · have hx : (f b).or (h.2 b) = some x := hx
    cases hf : f b with
    | some y =>
      rw [hf] at hx
      have hx : some y = some x := hx
      cases hx
      obtain ⟨g1, g2⟩ := hr b _ hf
      refine ⟨g2, fun _ => ⟨Nat.le_trans h1 g1, ?_⟩⟩
      cases hK : K b with
      | none => rfl
      | some z => exact absurd (q_krep_lt (h5 _ _ hK)) (Nat.not_lt.mpr g1)
    | none =>
      rw [hf] at hx
      have hx : h.2 b = some x := hx
      obtain ⟨g1, g2⟩ := h4 b x hx
      exact ⟨q_rep_kept g1 (hq b (q_rep_lt h5 g1)), g2⟩
  · exact q_krep_kept (h5 b x hb9) (hq b (q_krep_lt (h5 b x hb9)))
  · rcases Nat.lt_or_ge b H.size with hlt | hge
    · exact h6 b c hb9 (by rw [← hq b hlt]; exact hc9)
    · exact hst b c hge hc9
section QN
variable {D : qD} {M M' : qM} {Q : Option Value → qH → Prop} {X : String → qH → Prop} {pc idx : Nat} {lv : List (Nat × Value)} {st : List Value} {h : qH}
theorem wa_put {ci k N : Nat} {C ref : String} {T : u_T} {o : Option Nat} {v : Value} (ty0 : Nat → FieldType) (hd : decode (m_cc M) pc = .ok (.putfield idx, 3)) (hr : qCL[ci]? = some (C, T, N)) (hk : k < N) (hin : ∀ w ∈ u_ws C T N, w ∈ lw_all) (hty : ∀ k, k < N → parseFieldDescriptor (T k).2.2.1 = some (ty0 k)) (hnm : ∀ a, a < N → ∀ b, b < N → a ≠ b → (T a).2.1 ≠ (T b).2.1) (hlink : Cond.fieldLink (m_own M) idx ref (T k).2.1 (T k).2.2.1 ∈ lw_all) (hsame : q_same ref T k) (hfin : (T k).2.2.2 = false) (hn : narrow (ty0 k) v = v) (hfit : fits (ty0 k) v = true) (F : p_F h o ci k v (fun h => WA D M Q X (pc + 3) lv st h)) : WA D M Q X pc lv (v :: va_rf o :: st) h := by
  obtain ⟨a, V, rfl, hc, kk⟩ := F
  exact wa_put0 ty0 hd hr hk hin hty hnm hlink hsame hfin hn hfit hc kk
theorem wa_putN {ci k N : Nat} {C ref host : String} {T : u_T} {o : Option Nat} {v : Value} (ty0 : Nat → FieldType) (hd : decode (m_cc M) pc = .ok (.putfield idx, 3)) (hr : qCL[ci]? = some (C, T, N)) (hk : k < N) (hin : ∀ w ∈ u_ws C T N, w ∈ lw_all) (hty : ∀ k, k < N → parseFieldDescriptor (T k).2.2.1 = some (ty0 k)) (hnm : ∀ a, a < N → ∀ b, b < N → a ≠ b → (T a).2.1 ≠ (T b).2.1) (hlink : Cond.fieldLinkNest (m_own M) idx ref (T k).2.1 (T k).2.2.1 host ∈ lw_tbl) (hsame : q_same ref T k) (hfin : (T k).2.2.2 = false) (hn : narrow (ty0 k) v = v) (hfit : fits (ty0 k) v = true) (F : p_F h o ci k v (fun h => WA D M Q X (pc + 3) lv st h)) : WA D M Q X pc lv (v :: va_rf o :: st) h := by
  obtain ⟨a, V, rfl, hc, kk⟩ := F
  exact wa_putN0 ty0 hd hr hk hin hty hnm hlink hsame hfin hn hfit hc kk
theorem wa_putF {ci k N : Nat} {C ref : String} {T : u_T} {o : Option Nat} {v : Value} (ty0 : Nat → FieldType) (hd : decode (m_cc M) pc = .ok (.putfield idx, 3)) (hr : qCL[ci]? = some (C, T, N)) (hk : k < N) (hin : ∀ w ∈ u_ws C T N, w ∈ lw_all) (hty : ∀ k, k < N → parseFieldDescriptor (T k).2.2.1 = some (ty0 k)) (hnm : ∀ a, a < N → ∀ b, b < N → a ≠ b → (T a).2.1 ≠ (T b).2.1) (hlink : Cond.fieldLink (m_own M) idx ref (T k).2.1 (T k).2.2.1 ∈ lw_all) (hsame : q_same ref T k) (hfin : (T k).2.2.2 = true) (hini : (m_y M).name = "<init>") (hdecl : (T k).1 = m_own M) (hn : narrow (ty0 k) v = v) (hfit : fits (ty0 k) v = true) (F : p_F h o ci k v (fun h => WA D M Q X (pc + 3) lv st h)) : WA D M Q X pc lv (v :: va_rf o :: st) h := by
  obtain ⟨a, V, rfl, hc, kk⟩ := F
  exact wa_putF0 ty0 hd hr hk hin hty hnm hlink hsame hfin hini hdecl hn hfit hc kk
theorem wa_ldcSW {i : Nat} {tx : String} (hd : decode (m_cc M) pc = .ok (.ldc_w idx, 3)) (hq : qSTR[i]? = some (m_own M, idx, tx)) (k : WA D M Q X (pc + 3) lv (va_rf (some (d_s D (100 + i))) :: st) h) : WA D M Q X pc lv st h := by
  intro p e s m args below meth c F H locs ls hA hS hl
  have hZ := (fx_cx F).1.2.2.2.2.2.2.2.2.2.2.1 i _ hq
  intro T hT X9
  obtain ⟨t, a1, b1⟩ := k p e s m args below meth c F H locs ls hA hS hl T hT X9
  exact ⟨t, X9.ldcStringW F.1 (fx_own F) (text := tx) (a := d_s D (100 + i)) hZ.1 hZ.2 (g := F0 m pc ls st) rfl (by rw [F.2.1]; exact hd) t a1, b1⟩
/-- an array of four arrays of four ints -/
def q_newM (h : qH) (a : Nat) : qH := (h.1 - 5, fun b => (if b = a then some (c_ra 6 4 (fun j => if j < 4 then some (a + 1 + j) else none)) else if a < b ∧ b ≤ a + 4 then some (c_ia 0 4 (fun _ => 0)) else none : Option qE).or (h.2 b))
def n_M (h : qH) (n k : Int32) (K : Nat → qH → Prop) : Prop := n = 4 ∧ k = 4 ∧ 5 ≤ h.1 ∧ ∀ a, (∀ b, a ≤ b → h.2 b = none) → K a (q_newM h a)
theorem n_M_mono {n k : Int32} {K K' : Nat → qH → Prop} (F : n_M h n k K) (hk : ∀ a x, K a x → K' a x) : n_M h n k K' := ⟨F.1, F.2.1, F.2.2.1, fun a ha => hk _ _ (F.2.2.2 a ha)⟩
theorem wa_newM {n k : Int32} (hd : decode (m_cc M) pc = .ok (.multianewarray idx 2, 4)) (hcl : Cond.classLink (m_own M) idx "[[I" ∈ lw_all) (harr : Cond.arrayClass .int ∈ lw_all) (G : n_M h n k (fun a h => WA D M Q X (pc + 4) lv (va_rf (some a) :: st) h)) : WA D M Q X pc lv (.int k :: .int n :: st) h := by
  intro p e s m args below meth c F H locs ls hA hS hl
  refine q_tight fun hu => ?_
  obtain ⟨K, hA⟩ := hA
  obtain ⟨rfl, rfl, G1, G2⟩ := G
  have hb2 := hA.2.1
  have hb3 := hA.2.2.1
  have hs1 := hS.1
  have e4 : (4 : Int32).toNatClampNeg = 4 := by decide
  intro T hT X9
  have hao : (Cond.arrayOver (.array .int)).before args s = true := (fx_cx F).1.2.2.2.2.2.2.2.1.1
  obtain ⟨vm₁, cA, comp, hW, hfA, hfC, hO, hI, X1, st9⟩ := X9.multianewarray2F F.1 (fx_own F) (ty := .int) (fx_w F _ hcl) hao (fx_w F _ harr) (g := F0 m pc ls (.int 4 :: .int 4 :: st)) rfl (by rw [F.2.1]; exact hd) rfl (by decide) (by decide) (by decide) (by decide) (by decide) rfl rfl (by rw [e4]; show _ ≤ d_K D - s.heap.size; omega) (by rw [e4]; show _ ≤ d_S D - q_used s.heap; omega)
  rw [e4] at X1 st9
  have hTs : (T.setVm vm₁).heap = H := hT
  obtain ⟨f1, f2, f3, f4⟩ := Jvm.Free.Multi.fill_facts (T.setVm vm₁) cA comp 4 4 (defaultValue .int) 4
  have fo := fun (a : Addr) (ha : a < H.size) => Jvm.Free.Multi.fill_old (T.setVm vm₁) cA comp 4 4 (defaultValue .int) (a := a) (by rw [hTs]; exact ha) 4
  have fi := fun (j : Nat) (hj : j < 4) => Jvm.Free.Multi.fill_inner (T.setVm vm₁) cA comp 4 4 (defaultValue .int) 4 j hj
  obtain ⟨o1, o2, o3⟩ := Jvm.Free.Multi.outerC_facts cA 4 T.heap.size 4
  have os := fun (j : Nat) (hj : j < 4) => Jvm.Free.Multi.outerC_slot cA 4 T.heap.size 4 j hj
  have u2 := q_stand2 X1
  rw [hTs] at f1 f2 fi fo
  rw [hT] at o1 o2 o3 os st9
  generalize Jvm.Free.Multi.fill (T.setVm vm₁) cA comp 4 4 (defaultValue .int) 4 = U at X1 st9 f1 f2 f3 f4 fo fi u2
  cases (((fx_at F 6 _ rfl).2 (by omega)).symm.trans hfA)
  cases (((fx_at F 0 _ rfl).2 (by omega)).symm.trans hfC)
  have hout : Jvm.Free.Multi.outerC (d_A D 6) 4 H.size 4 = vp_cell (d_A D 6) (4, .inr (.inr (.inr (.inr (fun j => if j < 4 then some (H.size + 1 + j) else none))))) := by
    rw [vp_cell_q]
    have hs9 : (Jvm.Free.Multi.outerC (d_A D 6) 4 H.size 4).slots = Array.ofFn (n := 4) fun j => va_rf (if j.val < 4 then some (H.size + 1 + j.val) else none) := by
      apply Array.ext_getElem?
      intro j
      by_cases hj : j < 4
      · rw [os j hj]
        simp [hj, va_rf]
      · rw [Array.getElem?_eq_none (by omega)]
        simp [hj]
    have h9 : Jvm.Free.Multi.outerC (d_A D 6) 4 H.size 4 = ({ cls := d_A D 6, slots := (Jvm.Free.Multi.outerC (d_A D 6) 4 H.size 4).slots, vm := .none } : Cell) := rfl
    rw [h9, hs9]
    rfl
  have hin : Jvm.Free.Multi.innerC (d_A D 0) 4 (defaultValue .int) = vp_cell (d_A D 0) (4, .inl (fun _ => 0)) := by
    rw [vp_cell_i]
    unfold arrV Jvm.Free.Multi.innerC
    rfl
  obtain ⟨g1, g2⟩ := q_absK_add (H1 := U.heap) (k := 5) (f := fun b => if b = H.size then some (c_ra 6 4 (fun j => if j < 4 then some (H.size + 1 + j) else none)) else if H.size < b ∧ b ≤ H.size + 4 then some (c_ia 0 4 (fun _ => 0)) else none) hA (by omega) (by omega) G1 (by omega) fo (fun b x hx => by
    by_cases hb : b = H.size
    · simp only [hb, if_true] at hx
      cases hx
      subst hb
      exact ⟨Nat.le_refl _, by show U.heap[H.size]? = _; rw [f2, hout]⟩
    · simp only [hb, if_false] at hx
      by_cases hb2 : H.size < b ∧ b ≤ H.size + 4
      · rw [if_pos hb2] at hx
        cases hx
        refine ⟨by omega, ?_⟩
        show U.heap[b]? = _
        have h9 := fi (b - (H.size + 1)) (by omega)
        rw [show H.size + 1 + (b - (H.size + 1)) = b by omega] at h9
        rw [h9, hin]
      · rw [if_neg hb2] at hx
        cases hx) (fun b c9 hb hc9 => by
    have hlt := (Array.getElem?_eq_some_iff.mp hc9).1
    by_cases hb2 : b = H.size
    · subst hb2
      rw [f2] at hc9
      cases hc9
      rw [o2]
      rfl
    · have h9 := fi (b - (H.size + 1)) (by omega)
      rw [show H.size + 1 + (b - (H.size + 1)) = b by omega] at h9
      rw [h9] at hc9
      cases hc9
      rfl)
  obtain ⟨t, a1, b1⟩ := q_tight (fun _ => G2 H.size g1 p e s m args below meth c F U.heap locs ls ⟨K, g2⟩ (q_S_new hS (by omega) fo) hl) U rfl X1
  exact ⟨t, st9 t a1, b1⟩
theorem wa_mmax {x y : Int32} (hd : decode (m_cc M) pc = .ok (.invokestatic idx, 3)) (w1 : Cond.methodLink (m_own M) idx Lib.Math.max.name ∈ lw_all) (w2 : Cond.static Lib.Math.max.name ∈ lw_all) (w3 : Cond.initialized "java/lang/Math" ∈ lw_all) (w4 : Cond.code Lib.Math.max.name Lib.Math.max.code 2 (some .int) ∈ lw_all) (hrk : 1 ≤ m_rk M) (hst : (st.map fun v => v.category).sum ≤ 8) (k : WA D M Q X (pc + 3) lv (.int (if x < y then y else x) :: st) h) : WA D M Q X pc lv (.int y :: .int x :: st) h := by
  intro p e s m args below meth c F H locs ls hA hS hl
  refine q_tight fun hu => ?_
  obtain ⟨f1, f2⟩ := fx_fit F hA hS hu
  have hs1 := hS.1
  exact va_mmax F.1 F.2.1 (F.2.2.2.2.1.trans hl.1.symm) (fx_own F) (fx_w F _ w1) (fx_w F _ w2) (fx_w F _ w3) (fx_w F _ w4) hrk (by show _ ≤ 64 * m_rk M; omega) (Nat.le_trans (Nat.le_add_right _ _) f1) (Nat.le_trans (Nat.le_add_right _ _) f2) hd (k p e s m args below meth c F H locs ls hA hS hl)
theorem wa_mmin {x y : Int32} (hd : decode (m_cc M) pc = .ok (.invokestatic idx, 3)) (w1 : Cond.methodLink (m_own M) idx Lib.Math.min.name ∈ lw_all) (w2 : Cond.static Lib.Math.min.name ∈ lw_all) (w3 : Cond.initialized "java/lang/Math" ∈ lw_all) (w4 : Cond.code Lib.Math.min.name Lib.Math.min.code 2 (some .int) ∈ lw_all) (hrk : 1 ≤ m_rk M) (hst : (st.map fun v => v.category).sum ≤ 8) (k : WA D M Q X (pc + 3) lv (.int (if y < x then y else x) :: st) h) : WA D M Q X pc lv (.int y :: .int x :: st) h := by
  intro p e s m args below meth c F H locs ls hA hS hl
  refine q_tight fun hu => ?_
  obtain ⟨f1, f2⟩ := fx_fit F hA hS hu
  have hs1 := hS.1
  exact va_mmin F.1 F.2.1 (F.2.2.2.2.1.trans hl.1.symm) (fx_own F) (fx_w F _ w1) (fx_w F _ w2) (fx_w F _ w3) (fx_w F _ w4) hrk (by show _ ≤ 64 * m_rk M; omega) (Nat.le_trans (Nat.le_add_right _ _) f1) (Nat.le_trans (Nat.le_add_right _ _) f2) hd (k p e s m args below meth c F H locs ls hA hS hl)
end QN
theorem q_out_1_6 {x : Int32} (h0 : ¬ x.toInt = 1) (h1 : ¬ x.toInt = 2) (h2 : ¬ x.toInt = 3) (h3 : ¬ x.toInt = 4) (h4 : ¬ x.toInt = 5) (h5 : ¬ x.toInt = 6) : x.toInt < 1 ∨ 6 < x.toInt := by omega
theorem q_out_0_3 {x : Int32} (h0 : ¬ x.toInt = 0) (h1 : ¬ x.toInt = 1) (h2 : ¬ x.toInt = 2) : x.toInt < 0 ∨ 2 < x.toInt := by omega
theorem q_out_0_6 {x : Int32} (h0 : ¬ x.toInt = 0) (h1 : ¬ x.toInt = 1) (h2 : ¬ x.toInt = 2) (h3 : ¬ x.toInt = 3) (h4 : ¬ x.toInt = 4) (h5 : ¬ x.toInt = 5) : x.toInt < 0 ∨ 5 < x.toInt := by omega
theorem q_out_0_22 {x : Int32} (h0 : ¬ x.toInt = 0) (h1 : ¬ x.toInt = 1) (h2 : ¬ x.toInt = 2) (h3 : ¬ x.toInt = 3) (h4 : ¬ x.toInt = 4) (h5 : ¬ x.toInt = 5) (h6 : ¬ x.toInt = 6) (h7 : ¬ x.toInt = 7) (h8 : ¬ x.toInt = 8) (h9 : ¬ x.toInt = 9) (h10 : ¬ x.toInt = 10) (h11 : ¬ x.toInt = 11) (h12 : ¬ x.toInt = 12) (h13 : ¬ x.toInt = 13) (h14 : ¬ x.toInt = 14) (h15 : ¬ x.toInt = 15) (h16 : ¬ x.toInt = 16) (h17 : ¬ x.toInt = 17) (h18 : ¬ x.toInt = 18) (h19 : ¬ x.toInt = 19) (h20 : ¬ x.toInt = 20) (h21 : ¬ x.toInt = 21) : x.toInt < 0 ∨ 21 < x.toInt := by omega
theorem at_IndexOutOfBoundsException : ∀ w ∈ vx_atS RX1 77 "java/lang/IndexOutOfBoundsException" qSup, w ∈ lw_tbl := lw_inT _ [60, 272, 226, 232, 235, 237, 273, 274, 91, 92, 220, 225, 233, 240, 266, 241, 267, 242, 268, 221, 223, 269, 218, 219, 239, 269, 209, 210, 211, 212, 260, 212, 213, 214, 215, 262, 215, 216, 217, 218, 264, 554, 292, 293, 294, 231, 295, 296, 297, 298, 238, 270, 299] (by decide +kernel)
theorem ag_IndexOutOfBoundsException : ∀ w ∈ vx_atS RX1 77 "java/lang/IndexOutOfBoundsException" qSup, (goodWord w || q_ng w) = true := by decide +kernel
theorem at_IllegalArgumentException : ∀ w ∈ vx_atS RX1 86 "java/lang/IllegalArgumentException" qSup, w ∈ lw_tbl := lw_inT _ [60, 272, 226, 232, 235, 237, 273, 274, 91, 92, 220, 225, 233, 240, 266, 241, 267, 242, 268, 221, 223, 269, 218, 219, 239, 269, 529, 530, 531, 212, 260, 212, 213, 214, 215, 262, 215, 216, 217, 218, 264, 566, 514, 515, 516, 229, 517, 518, 519, 520, 238, 270, 521] (by decide +kernel)
theorem ag_IllegalArgumentException : ∀ w ∈ vx_atS RX1 86 "java/lang/IllegalArgumentException" qSup, (goodWord w || q_ng w) = true := by decide +kernel
theorem at_IllegalStateException : ∀ w ∈ vx_atS RX1 89 "java/lang/IllegalStateException" qSup, w ∈ lw_tbl := lw_inT _ [60, 272, 226, 232, 235, 237, 273, 274, 91, 92, 220, 225, 233, 240, 266, 241, 267, 242, 268, 221, 223, 269, 218, 219, 239, 269, 581, 582, 583, 212, 260, 212, 213, 214, 215, 262, 215, 216, 217, 218, 264, 580, 572, 573, 574, 230, 575, 576, 577, 578, 238, 270, 579] (by decide +kernel)
theorem ag_IllegalStateException : ∀ w ∈ vx_atS RX1 89 "java/lang/IllegalStateException" qSup, (goodWord w || q_ng w) = true := by decide +kernel
theorem q_fit_z {x : Int32} (hx : x = 0 ∨ x = 1) : fits .boolean (.int x) = true := by
  rcases hx with rfl | rfl <;> rfl
theorem q_nar_b {x : Int32} (h : -128 ≤ x ∧ x ≤ 127) : narrow .byte (.int x) = .int x := by
  have h1 : (-128 : Int) ≤ x.toInt := Int32.le_iff_toInt_le.mp h.1
  have h2 : x.toInt ≤ (127 : Int) := Int32.le_iff_toInt_le.mp h.2
  show Value.int x.toInt8.toInt32 = .int x
  congr 1
  apply Int32.toInt_inj.mp
  rw [Int8.toInt_toInt32, Int32.toInt_toInt8]
  simp only [Int.bmod]
  omega
theorem q_fit_b {x : Int32} (h : -128 ≤ x ∧ x ≤ 127) : fits .byte (.int x) = true := by
  simpa [fits] using h
