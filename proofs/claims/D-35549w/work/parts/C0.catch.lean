set_option maxRecDepth 100000
/-! methods with handlers: their entry, calls that are caught, calls of them -/
/-- a thrown E over pc goes to hpc -/
def q_ct (M : qM) (pc : Nat) (E : String) (hpc : Nat) : Prop := ∃ (pre : List (Nat × Nat × Nat × Nat)) (z : Nat × Nat × Nat × Nat) (suf : List (Nat × Nat × Nat × Nat)), m_hh M = pre ++ z :: suf ∧ z.2.2.1 = hpc ∧ (z.1 ≤ pc ∧ pc < z.2.1) ∧ z.2.2.2 ≠ 0 ∧ Cond.classLink (m_own M) z.2.2.2 E ∈ lw_all ∧ ∀ w ∈ pre, w.2.2.2 ≠ 0 ∧ ∃ nm : String, Cond.classLink (m_own M) w.2.2.2 nm ∈ lw_all ∧ (E, nm) ∈ qNC
theorem q_cast_rf {s : State} {args : Array Value} {E : String} {c : ClassId} (h : s.vm.findClass E = some c) : (Cond.castable E E).before args s = true := by
  simp [Cond.before, Cond.holds, Cond.value, h, va_asg]
section QY
variable {D : qD} {M M' : qM} {Q Q' : Option Value → qH → Prop} {X X' : String → qH → Prop} {pc idx n : Nat} {lv : List (Nat × Value)} {st stk As : List Value} {h : qH}
theorem q_goH {p : Program} {e : Env} {s : State} {m : MethodId} {args : Array Value} {below : List Frame} {meth : Method} {c : Code} (F : q_FX D M p e s m args below meth c) {H : Heap} {locs : List Loc} {ls : Array Slot} {k9 n9 mc ms : Nat} {a : Array Value} (hS : va_S (d_N D) s.heap H locs) (hl : lv_has ls (m_nL M) lv)
    (hr : vx_Run p (d_l D) e (q_room D (m_rk M) s.heap.size (q_used s.heap)) s m args below meth c H locs k9 n9 mc ms (F0 m pc ls stk) st (q_Qc D Q' a) (q_XC D X') (d_N D)) (kk : ∀ v h1, Q' v h1 → WA D M Q X (pc + 3) lv (v.toList ++ st) h1) (kx : ∀ E h1, X' E h1 → ∃ hpc, q_ct M pc E hpc ∧ ∀ q : Nat, WA D M Q X hpc lv [va_rf (some q)] h1) :
    W p (d_l D) e (q_room D (m_rk M) s.heap.size (q_used s.heap)) s m args below meth c H locs k9 n9 (vx_MQ below (q_Qc D Q) (q_XC D X) args s (d_K D - s.heap.size) (d_S D - q_used s.heap) (d_N D)) (F0 m pc ls stk) := by
  intro T hT Z
  rcases hr T hT Z with ⟨v, st₀, t, T', L, h0, X9, hL, e1, e2, ⟨v', h1, hv, hq, hA1, hF⟩, stp⟩ | ⟨q, st₀, t, T', L, E, ce, h0, X9, hL, e1, e2, ⟨h1, hp, hA1, hF⟩, hce, hcv, hcl, stp⟩
  · cases hv
    obtain ⟨k1, k2, k3⟩ := vx_keep (A0 := d_N D) h0 e1 hS (fun _ _ z => z) (fun _ z => z) hL hF
    rw [← e1] at hA1
    obtain ⟨t2, a1, b1⟩ := q_tight (fun _ => kk v h1 hq p e s m args below meth c F T'.heap (locs ++ L) ls hA1 k3 hl) T' rfl X9
    exact ⟨t2, stp t2 a1, b1⟩
  · obtain ⟨k1, k2, k3⟩ := vx_keep (A0 := d_N D) h0 e1 hS (fun _ _ z => z) (fun _ z => z) hL hF
    obtain ⟨hpc, ⟨pre, z, suf, c1, c2, c3, c4, c5, c6⟩, kw⟩ := kx E h1 hp
    subst c2
    rw [← e1] at hA1
    have htab : c.exceptionTable.toList = tableOf (m_hh M) := F.2.2.2.2.2.2.2.1
    have htab2 : c.exceptionTable.toList = tableOf pre ++ (⟨z.1, z.2.1, z.2.2.1, z.2.2.2⟩ : ExceptionTableEntry) :: tableOf suf := by
      rw [htab, c1]
      simp [tableOf]
    obtain ⟨t2, a1, b1⟩ := (vx_catch (pc := pc) (ls := ls) (rest := st) (H := T'.heap) (name := E) (fx_own F) (tableOf pre) _ (tableOf suf) htab2 (fun x hx => by
      obtain ⟨w, hw, rfl⟩ := List.mem_map.mp hx
      obtain ⟨d1, nm, d2, d3⟩ := c6 w hw
      exact Or.inr ⟨d1, nm, fx_w F _ d2, (fx_cx F).1.2.2.2.2.2.2.2.1.2 (E, nm) d3⟩) (by simp [c3.1, c3.2]) c4 (fx_w F _ c5) (q_cast_rf hcl) (by rw [e1]; exact hce) hcv hcl (q_tight fun _ => kw q p e s m args below meth c F T'.heap (locs ++ L) ls hA1 k3 hl)) T' rfl X9
    exact ⟨t2, stp.trans a1, b1⟩
/-- invokevirtual in a method with handlers -/
theorem wa_callVH {C : String} {o : Option Nat} (hd : decode (m_cc M) pc = .ok (.invokevirtual idx, 3)) (ho : q_ok M M' n) (w1 : Cond.methodLink (m_own M) idx (m_y M') ∈ lw_all) (w2 : Cond.instanceMethod (m_y M') ∈ lw_all) (w5 : Cond.selects C (m_y M') (m_y M') ∈ lw_all) (w3 : Cond.initialized (m_y M').cls ∈ lw_all) (w4 : Cond.code (m_y M') (m_cc M') (m_nL M') (m_ret M') ∈ lw_all) (hn : As.length = n) (hs : stk = As.reverse ++ va_rf o :: st) (hst : (st.map fun v => v.category).sum ≤ 8) (hrc : recv D h o C) (G : MW D M' (va_rf o :: As) h Q' X') (kk : ∀ v h1, Q' v h1 → WA D M Q X (pc + 3) lv (v.toList ++ st) h1) (kx : ∀ E h1, X' E h1 → ∃ hpc, q_ct M pc E hpc ∧ ∀ q : Nat, WA D M Q X hpc lv [va_rf (some q)] h1) : WA D M Q X pc lv stk h := by
  obtain ⟨b, y, rfl, hy, hC⟩ := hrc
  intro p e s m args below meth c F H locs ls hA hS hl
  refine q_tight fun hu => ?_
  exact q_goH F hS hl (vx_runV (C := C) (b := b) (As := As) (rest := st) ⟨F.1, F.2.1, F.2.2.2.2.1, fx_own F, fx_w F⟩ (G H.size (q_used H)) ⟨fx_callB F ho w1 w3 w4, fx_w F _ w2, fx_w F _ w5⟩ ⟨q_Pc_blind, fx_recv F hA hS hy hC, fx_pc F hA hS⟩ rfl hn hl.1 hs (lv_room hst) hd (fx_fit F hA hS hu)) kk kx
/-- from the entry of a method with handlers -/
theorem mwh_of (hy : plainName (m_y M).cls = true) (av : List Value) (hn : (lg_sl av).length ≤ m_nL M) (hc : (m_y M).cls = m_own M) (k : WA D M Q X 0 (lv_args 0 av) [] h) : MWh D M av h Q X := by
  intro sz us
  refine vx_ofWH (cc := m_cc M) (maxL := m_nL M) (ret := m_ret M) (hh := m_hh M) hy rfl ?_
  intro p e s m args below meth c s₁ B hml hv
  obtain ⟨rfl, hsz, hus, hcx, hA⟩ := hv
  subst hsz
  subst hus
  have hts := atoms_spec (ws := wsW_ (m_y M) (m_cc M) (m_nL M) (m_ret M) (m_hh M)) B.pre
  have hl := lv_entry av hn
  rw [lg_entry_eq]
  have hB : d_B D ≤ s.heap.size := by
    obtain ⟨K, h1, -⟩ := hA
    exact h1
  have F : q_FX D M p e s m av.toArray below meth c := ⟨B.exec, B.bytes, B.returns, B.notSynchronized, hml, by rw [← hc]; exact findClass_of_methodNamed B.named, fun w h => hts w (List.mem_cons_of_mem _ h), vx_table (x := m_y M) B (hts _ List.mem_cons_self), (name_of_methodNamed B.named B.method).1, hcx, hB⟩
  exact q_tight fun _ => k p e s m _ below meth c F s.heap [] _ hA va_S.rf hl
/-- invokestatic of a method with handlers -/
theorem wa_callSH (hd : decode (m_cc M) pc = .ok (.invokestatic idx, 3)) (ho : q_ok M M' n) (w1 : Cond.methodLink (m_own M) idx (m_y M') ∈ lw_all) (w2 : Cond.static (m_y M') ∈ lw_all) (w3 : Cond.initialized (m_y M').cls ∈ lw_all) (w4 : Cond.codeWith (m_y M') (m_cc M') (m_nL M') (m_ret M') (m_hh M') ∈ lw_all) (hn : As.length = n) (hs : stk = As.reverse ++ st) (hst : (st.map fun v => v.category).sum ≤ 8) (hnh : m_hh M = []) (G : MWh D M' As h Q' X) (kk : ∀ v h1, Q' v h1 → WA D M Q X (pc + 3) lv (v.toList ++ st) h1) : WA D M Q X pc lv stk h := by
  intro p e s m args below meth c F H locs ls hA hS hl
  refine q_tight fun hu => ?_
  obtain ⟨o1, o2, o3, o4, o5⟩ := ho
  exact q_go3 F hnh hS hl (vx_runSX (hh := m_hh M') (As := As) (rest := st) ⟨F.1, F.2.1, F.2.2.2.2.1, fx_own F, fx_w F⟩ (G H.size (q_used H)) (vx_cwSW n (fx_w F) (lw_SW w1 w2 w3 w4) rfl rfl rfl ⟨o3, o4, o5⟩ ⟨o1, by show 8 + (m_nL M' + 11) + 64 * m_rk M' ≤ 64 * m_rk M; omega⟩) ⟨q_Pc_blind, fx_pc F hA hS⟩ rfl hn hl.1 hs (lv_room hst) hd (fx_fit F hA hS hu)) kk
end QY
/-- its call in the formulas -/
def c_IW (D : qD) (M' : qM) (As : List Value) (h : qH) (X : String → qH → Prop) (K : Int32 → qH → Prop) : Prop := MWh D M' As h (fun v h1 => ∃ r : Int32, v = some (.int r) ∧ K r h1) X
