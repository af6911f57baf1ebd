set_option maxRecDepth 100000
/-! what the tables say goes along into a call; the start; the end; new cells; calls -/
theorem q_aoI_moved {u U : State} (hvm : u.vm.Alike U.vm) (h : q_aoI u) : q_aoI U := by
  have h1 : (Cond.arrayOver (.array .int)).before #[] (u.setVm U.vm) = true := by rw [Cond.arrayOver_setVmC hvm]; exact h.1
  exact ⟨h1, fun q hq => va_Nc.moved hvm (h.2 q hq)⟩
theorem q_ng_warm {w : Cond} (hg : q_ng w = true) {s U : State} (hW : s.WarmedH U.vm) (h : va_Nw w s) : va_Nw w U := by
  cases w <;> first | (cases hg; done) | exact va_Nw.warmC hW h | exact va_Nw.warmF hW h | exact va_Nw.warmM hW h | exact va_Nw.warmD hW h
theorem q_fw_ne : ∀ q ∈ qFW, q.2.1.cls ≠ "java/lang/invoke/MethodHandle" ∧ q.2.1.cls ≠ "java/lang/invoke/VarHandle" := by decide +kernel
theorem q_KX_warm {D : qD} {s U : State} (hW : s.WarmedH U.vm) (h : q_KX D s) : q_KX D U := by
  have hvm := hW.alike
  obtain ⟨h1, h2, h3, h4, h5, h6, h7, h8, h9, h10, h11, h12, h13⟩ := h
  refine ⟨h1, fun c r hr => u_Kn_moved hvm (h2 c r hr), fun t ty ht => ⟨arrOfT_moved hvm (h3 t ty ht).1, fun h8 => by rw [hvm.findClass]; exact (h3 t ty ht).2 h8⟩, fun q hq => ?_, fun q hq => va_Fw.moved (q_fw_ne q hq) hvm (h5 q hq), fun w hw hg => q_ng_warm hg hW (h6 w hw hg), fun C hC => va_AO.moved hvm (h7 C hC), q_aoI_moved hvm h8, va_Dc.moved hvm h9, va_Mi.moved hvm h10, fun i q hq => vk_R.warm hW (h11 i q hq), fun E hE => ?_, fun y hy => word_at hW (Or.inl rfl) (h13 y hy)⟩
  · obtain ⟨kA, comp, g1, g2, g3⟩ := h4 q hq
    obtain ⟨k', hk', he⟩ := hvm.2.2 _ _ g1
    exact ⟨k', comp, hk', by rw [he]; exact g2, by rw [hvm.findClass]; exact g3⟩
  · obtain ⟨g1, kX, g2, g3, g4, g5⟩ := h12 E hE
    obtain ⟨k', hk', he⟩ := hvm.2.2 _ _ g2
    exact ⟨by rw [hvm.findClass]; exact g1, k', hk', by rw [he]; exact g3, by rw [he]; exact g4, by rw [he]; exact g5⟩
theorem q_RO_go {D : qD} {s U : State} {H H1 : Heap} (hvm : s.vm.Alike U.vm) (hB : d_B D ≤ H.size) (hq : ∀ a : Nat, a < H.size → ¬ d_N D a → H1[a]? = H[a]?) (h : q_RO D s H) : q_RO D U H1 := by
  obtain ⟨h1, h2, h3, h4⟩ := h
  refine ⟨fun q hq9 => (va_Z.moved hvm (h1 q hq9)).kept hq, (vx_Zq.moved hvm h2).kept hq, (vx_Zq.moved hvm h3).kept hq, fun a e ha => ?_⟩
  obtain ⟨g1, g2⟩ := h4 a e ha
  exact ⟨g1, q_rd_kept g2 (hq a (Nat.lt_of_lt_of_le g1 hB) (Nat.not_le.mpr g1))⟩
theorem q_Pc_blind {D : qD} {av : List Value} {h : qH} {sz us : Nat} : FrameBlind (q_Pc D av h sz us) := by
  intro a U g mk q
  obtain ⟨q0, q1, q2, ⟨q3, q4⟩, q5⟩ := q
  exact ⟨q0, q1, q2, ⟨q_KX_warm (U := U.calling g mk a) (State.WarmedH.refl U) q3, q4⟩, q5⟩
section QC
variable {D : qD} {M : qM} {Q : Option Value → qH → Prop} {X : String → qH → Prop} {pc : Nat} {lv : List (Nat × Value)} {st : List Value} {h : qH}
theorem fx_pc {p : Program} {e : Env} {s : State} {m : MethodId} {args : Array Value} {below : List Frame} {meth : Method} {c : Code} (F : q_FX D M p e s m args below meth c) {H : Heap} {locs : List Loc} {av : List Value} (hA : q_abs D h H) (hS : va_S (d_N D) s.heap H locs) : ∀ U : State, U.heap = H → s.WarmedH U.vm → q_Pc D av h H.size (q_used H) av.toArray U := by
  intro U hU hW
  refine ⟨rfl, by rw [hU], by rw [hU], ⟨q_KX_warm hW (fx_cx F).1, ?_⟩, by rw [hU]; exact hA⟩
  rw [hU]
  exact q_RO_go hW.alike (fx_B F) hS.2.1 (fx_cx F).2
/-- from the method's entry -/
theorem mw_of (hy : plainName (m_y M).cls = true) (hh : m_hh M = []) (av : List Value) (hn : (lg_sl av).length ≤ m_nL M) (hc : (m_y M).cls = m_own M) (k : WA D M Q X 0 (lv_args 0 av) [] h) : MW D M av h Q X := by
  intro sz us
  refine vx_ofW (cc := m_cc M) (maxL := m_nL M) (ret := m_ret M) hy rfl ?_
  intro p e s m args below meth c s₁ B hml htab hv
  obtain ⟨rfl, hsz, hus, hcx, hA⟩ := hv
  subst hsz
  subst hus
  have hts := atoms_spec (ws := ws_ (m_y M) (m_cc M) (m_nL M) (m_ret M)) B.pre
  have hl := lv_entry av hn
  rw [lg_entry_eq]
  have hB : d_B D ≤ s.heap.size := by
    obtain ⟨K, h1, -⟩ := hA
    exact h1
  have F : q_FX D M p e s m av.toArray below meth c := ⟨B.exec, B.bytes, B.returns, B.notSynchronized, hml, by rw [← hc]; exact findClass_of_methodNamed B.named, fun w h => hts w (List.mem_cons_of_mem _ h), by
    rw [hh]
    cases hx : c.exceptionTable.toList with
    | nil => rfl
    | cons x l => exact (htab x (by rw [hx]; exact List.mem_cons_self)).elim, (name_of_methodNamed B.named B.method).1, hcx, hB⟩
  exact q_tight fun _ => k p e s m _ below meth c F s.heap [] _ hA va_S.rf hl
/-! the end -/
theorem wa_iret {v : Int32} (hr : m_ret M = some .int) (hd : decode (m_cc M) pc = .ok (.ireturn, 1)) (k : Q (some (.int v)) h) : WA D M Q X pc lv [.int v] h := by
  intro p e s m args below meth c F H locs ls hA hS hl
  refine vx_ret (W.widen (k := d_K D - s.heap.size) (n := d_S D - q_used s.heap) ?_ ?_ (W.iret (v := v) F.1 F.2.1 (F.2.2.1.trans hr) (fun t ht hW => ⟨_, h, rfl, k, by rw [ht]; exact hA, hS.F ht⟩) hS.2.2 hd F.2.2.2.1))
  · obtain ⟨K, -, h2, -⟩ := hA
    omega
  · obtain ⟨K, -, -, h2, -⟩ := hA
    omega
theorem wa_zret {v : Int32} {ty : FieldType} (hr : m_ret M = some ty) (hn : narrow ty (.int v) = .int v) (hd : decode (m_cc M) pc = .ok (.ireturn, 1)) (k : Q (some (.int v)) h) : WA D M Q X pc lv [.int v] h := by
  intro p e s m args below meth c F H locs ls hA hS hl
  refine vx_ret (W.widen (k := d_K D - s.heap.size) (n := d_S D - q_used s.heap) ?_ ?_ (W.zret (v := v) F.1 F.2.1 (F.2.2.1.trans hr) hn (fun t ht hW => ⟨_, h, rfl, k, by rw [ht]; exact hA, hS.F ht⟩) hS.2.2 hd F.2.2.2.1))
  · obtain ⟨K, -, h2, -⟩ := hA
    omega
  · obtain ⟨K, -, -, h2, -⟩ := hA
    omega
theorem wa_aret {o : Option Nat} {rt : FieldType} (hr : m_ret M = some rt) (hrt : (∃ n, rt = .object n) ∨ ∃ t, rt = .array t) (hd : decode (m_cc M) pc = .ok (.areturn, 1)) (k : Q (some (va_rf o)) h) : WA D M Q X pc lv [va_rf o] h := by
  intro p e s m args below meth c F H locs ls hA hS hl
  refine vx_ret (W.widen (k := d_K D - s.heap.size) (n := d_S D - q_used s.heap) ?_ ?_ (W.aret (v := va_rf o) F.1 F.2.1 (F.2.2.1.trans hr) hrt (by cases o with | none => exact Or.inl rfl | some a => exact Or.inr ⟨a, rfl⟩) (fun t ht hW => ⟨_, h, rfl, k, by rw [ht]; exact hA, hS.F ht⟩) hS.2.2 hd F.2.2.2.1))
  · obtain ⟨K, -, h2, -⟩ := hA
    omega
  · obtain ⟨K, -, -, h2, -⟩ := hA
    omega
theorem wa_vret (hr : m_ret M = none) (hd : decode (m_cc M) pc = .ok (.return_, 1)) (k : Q none h) : WA D M Q X pc lv [] h := by
  intro p e s m args below meth c F H locs ls hA hS hl
  refine vx_ret (W.widen (k := d_K D - s.heap.size) (n := d_S D - q_used s.heap) ?_ ?_ (W.vret F.1 F.2.1 (F.2.2.1.trans hr) (fun t ht hW => ⟨_, h, rfl, k, by rw [ht]; exact hA, hS.F ht⟩) hS.2.2 hd F.2.2.2.1))
  · obtain ⟨K, -, h2, -⟩ := hA
    omega
  · obtain ⟨K, -, -, h2, -⟩ := hA
    omega
/-! new cells -/
def n_O (h : qH) (ci N : Nat) (ty0 : Nat → FieldType) (K : Nat → qH → Prop) : Prop := 1 + N / 4 ≤ h.1 ∧ ∀ a, h.2 a = none → K a (q_new h (1 + N / 4) a (c_ob ci (fun k => defaultValue (ty0 k))))
theorem n_O_mono {ci N : Nat} {ty0 : Nat → FieldType} {K K' : Nat → qH → Prop} (F : n_O h ci N ty0 K) (hk : ∀ a x, K a x → K' a x) : n_O h ci N ty0 K' := ⟨F.1, fun a ha => hk _ _ (F.2 a ha)⟩
theorem wa_new {idx ci N : Nat} {C : String} {T : u_T} (ty0 : Nat → FieldType) (hd : decode (m_cc M) pc = .ok (.new idx, 3)) (hr : qCL[ci]? = some (C, T, N)) (hin : ∀ w ∈ u_ws C T N, w ∈ lw_all) (hty : ∀ k, k < N → parseFieldDescriptor (T k).2.2.1 = some (ty0 k)) (hcl : Cond.classLink (m_own M) idx C ∈ lw_all) (hinst : Cond.instantiable C N ∈ lw_all) (hini : Cond.initialized C ∈ lw_all) (G : n_O h ci N ty0 (fun a h => WA D M Q X (pc + 3) lv (va_rf (some a) :: st) h)) : WA D M Q X pc lv st h := by
  intro p e s m args below meth c F H locs ls hA hS hl
  refine q_tight fun hu => ?_
  obtain ⟨K, hA⟩ := hA
  obtain ⟨G1, G2⟩ := G
  have hKn := fx_cl F ci _ hr
  have hb2 := hA.2.1
  have hb3 := hA.2.2.1
  have hs1 := hS.1
  refine W.newcK F.1 F.2.1 (fx_own F) (fx_w F _ hcl) (fx_w F _ hinst) (fx_w F _ hini) rfl hd (by show _ ≤ d_K D - s.heap.size; omega) (by show _ ≤ d_S D - q_used s.heap; omega) hKn.2.1 rfl fun H1 kC hkC e1 z1 o1 => ?_
  refine q_tight fun _ => ?_
  have hsz : (blank (d_C D ci) kC).slots.size = N := by
    obtain ⟨cC, kC', h1, h2, h3, -, -, h4⟩ := Cond.instantiable_spec (fx_w F _ hinst)
    cases h1.symm.trans hKn.2.1
    cases h2.symm.trans hkC
    simp [blank, h4]
  obtain ⟨g1, g2⟩ := q_absK_new (e := c_ob ci (fun k => defaultValue (ty0 k))) hA (k := 1 + N / 4) (n := N) (by omega) q_cost G1 z1 (by rw [q_used_push z1 e1 o1, hsz]) o1 ⟨_, hr, u_born ty0 (fx_w F) hin hKn hkC e1 hty⟩ (fun c9 hc9 => by rw [e1] at hc9; cases hc9; rfl)
  exact G2 _ g1 p e s m args below meth c F H1 locs ls ⟨K, g2⟩ (q_S_new hS (by omega) o1) hl
/-- a new array of ints (t: 0 int, 1 boolean, 2 byte) -/
def n_I (h : qH) (t : Nat) (n : Int32) (K : Nat → qH → Prop) : Prop := ∃ N, n = nI N ∧ N ≤ 100000 ∧ 1 + N / 4 ≤ h.1 ∧ ∀ a, h.2 a = none → K a (q_new h (1 + N / 4) a (c_ia t N (fun _ => 0)))
def n_L (h : qH) (n : Int32) (K : Nat → qH → Prop) : Prop := ∃ N, n = nI N ∧ N ≤ 100000 ∧ 1 + N / 4 ≤ h.1 ∧ ∀ a, h.2 a = none → K a (q_new h (1 + N / 4) a (c_la N (fun _ => 0)))
def n_R (h : qH) (t : Nat) (n : Int32) (K : Nat → qH → Prop) : Prop := ∃ N, n = nI N ∧ N ≤ 100000 ∧ 1 + N / 4 ≤ h.1 ∧ ∀ a, h.2 a = none → K a (q_new h (1 + N / 4) a (c_ra t N (fun _ => none)))
theorem n_I_mono {t : Nat} {n : Int32} {K K' : Nat → qH → Prop} (F : n_I h t n K) (hk : ∀ a x, K a x → K' a x) : n_I h t n K' := by
  obtain ⟨N, h1, h2, h3, h4⟩ := F
  exact ⟨N, h1, h2, h3, fun a ha => hk _ _ (h4 a ha)⟩
theorem n_L_mono {n : Int32} {K K' : Nat → qH → Prop} (F : n_L h n K) (hk : ∀ a x, K a x → K' a x) : n_L h n K' := by
  obtain ⟨N, h1, h2, h3, h4⟩ := F
  exact ⟨N, h1, h2, h3, fun a ha => hk _ _ (h4 a ha)⟩
theorem n_R_mono {t : Nat} {n : Int32} {K K' : Nat → qH → Prop} (F : n_R h t n K) (hk : ∀ a x, K a x → K' a x) : n_R h t n K' := by
  obtain ⟨N, h1, h2, h3, h4⟩ := F
  exact ⟨N, h1, h2, h3, fun a ha => hk _ _ (h4 a ha)⟩
theorem wa_newI {t : Nat} {n : Int32} {atype : ArrayType} (ht : qAT[t]? = some (newarray.typeOf atype)) (hdef : defaultValue (newarray.typeOf atype) = .int 0) (hcb : componentBytes (newarray.typeOf atype) ≤ 8) (harr : Cond.arrayClass (newarray.typeOf atype) ∈ lw_all) (hd : decode (m_cc M) pc = .ok (.newarray atype, 2)) (G : n_I h t n (fun a h => WA D M Q X (pc + 2) lv (va_rf (some a) :: st) h)) (h8 : t < 8 := by decide) : WA D M Q X pc lv (.int n :: st) h := by
  intro p e s m args below meth c F H locs ls hA hS hl
  refine q_tight fun hu => ?_
  obtain ⟨K, hA⟩ := hA
  obtain ⟨N, rfl, hN, G1, G2⟩ := G
  have hb2 := hA.2.1
  have hb3 := hA.2.2.1
  have hs1 := hS.1
  refine va_newaK F.1 F.2.1 (fx_w F _ harr) rfl hd rfl (nI_pos (by omega)) (nI_clamp (by omega)) (by have := Nat.mul_le_mul hN hcb; omega) (by show _ ≤ d_K D - s.heap.size; omega) (by show _ ≤ d_S D - q_used s.heap; omega) rfl fun H1 cA e1 z1 o1 hAr hNm => ?_
  cases (((fx_at F t _ ht).2 h8).symm.trans hNm)
  refine q_tight fun _ => ?_
  rw [hdef] at e1
  obtain ⟨g1, g2⟩ := q_absK_new (e := c_ia t N (fun _ => 0)) hA (k := 1 + N / 4) (n := N) (by omega) q_cost G1 z1 (by rw [q_used_push z1 e1 o1, arrV_size]) o1 e1 (fun c9 hc9 => by rw [e1] at hc9; cases hc9; rfl)
  exact G2 _ g1 p e s m args below meth c F H1 locs ls ⟨K, g2⟩ (q_S_new hS (by omega) o1) hl
theorem wa_newL {n : Int32} (harr : Cond.arrayClass .long ∈ lw_all) (hd : decode (m_cc M) pc = .ok (.newarray .long, 2)) (G : n_L h n (fun a h => WA D M Q X (pc + 2) lv (va_rf (some a) :: st) h)) : WA D M Q X pc lv (.int n :: st) h := by
  intro p e s m args below meth c F H locs ls hA hS hl
  refine q_tight fun hu => ?_
  obtain ⟨K, hA⟩ := hA
  obtain ⟨N, rfl, hN, G1, G2⟩ := G
  have hb2 := hA.2.1
  have hb3 := hA.2.2.1
  have hs1 := hS.1
  refine va_newaK (atype := .long) F.1 F.2.1 (fx_w F _ harr) rfl hd rfl (nI_pos (by omega)) (nI_clamp (by omega)) (by show N * 8 ≤ _; omega) (by show _ ≤ d_K D - s.heap.size; omega) (by show _ ≤ d_S D - q_used s.heap; omega) rfl fun H1 cA e1 z1 o1 hAr hNm => ?_
  cases (((fx_at F 3 _ rfl).2 (by omega)).symm.trans hNm)
  refine q_tight fun _ => ?_
  obtain ⟨g1, g2⟩ := q_absK_new (e := c_la N (fun _ => 0)) hA (k := 1 + N / 4) (n := N) (by omega) q_cost G1 z1 (by rw [q_used_push z1 e1 o1, arrV_size]) o1 e1 (fun c9 hc9 => by rw [e1] at hc9; cases hc9; rfl)
  exact G2 _ g1 p e s m args below meth c F H1 locs ls ⟨K, g2⟩ (q_S_new hS (by omega) o1) hl
theorem wa_newR {t idx : Nat} {C : String} {n : Int32} (ht : qAT[t]? = some (.object C)) (hC : C ∈ qAO) (hcl : Cond.classLink (m_own M) idx C ∈ lw_all) (hd : decode (m_cc M) pc = .ok (.anewarray idx, 3)) (G : n_R h t n (fun a h => WA D M Q X (pc + 3) lv (va_rf (some a) :: st) h)) (h8 : t < 8 := by decide) : WA D M Q X pc lv (.int n :: st) h := by
  intro p e s m args below meth c F H locs ls hA hS hl
  refine q_tight fun hu => ?_
  obtain ⟨K, hA⟩ := hA
  obtain ⟨N, rfl, hN, G1, G2⟩ := G
  have hb2 := hA.2.1
  have hb3 := hA.2.2.1
  have hs1 := hS.1
  have hcl9 : (nI N).toNatClampNeg = N := nI_clamp (by omega)
  refine W.anew F.1 F.2.1 (fx_own F) (fx_w F _ hcl) (va_AO.use ((fx_cx F).1.2.2.2.2.2.2.1 C hC)) rfl hd rfl (nI_pos (by omega)) (by rw [hcl9]; omega) (by show _ ≤ d_K D - s.heap.size; omega) (by show _ ≤ d_S D - q_used s.heap; rw [hcl9]; omega) fun cA kA comp f1 f2 f3 f4 => ?_
  cases (((fx_at F t _ ht).2 h8).symm.trans f1)
  refine q_tight fun _ => ?_
  rw [hcl9, arrV_new]
  generalize hH1 : H.push (arrV (d_A D t) N (fun _ => .null)) = H1
  have z1 : H1.size = H.size + 1 := by rw [← hH1, Array.size_push]
  have e1 : H1[H.size]? = some (arrV (d_A D t) N (fun _ => .null)) := by rw [← hH1, Array.getElem?_push_size]
  have o1 : ∀ q : Nat, q < H.size → H1[q]? = H[q]? := fun q hq => by rw [← hH1, Array.getElem?_push, if_neg (Nat.ne_of_lt hq)]
  obtain ⟨g1, g2⟩ := q_absK_new (e := c_ra t N (fun _ => none)) hA (k := 1 + N / 4) (n := N) (by omega) q_cost G1 z1 (by rw [q_used_push z1 e1 o1, arrV_size]) o1 e1 (fun c9 hc9 => by rw [e1] at hc9; cases hc9; rfl)
  exact G2 _ g1 p e s m args below meth c F H1 locs ls ⟨K, g2⟩ (q_S_new hS (by omega) o1) hl
end QC
