set_option maxRecDepth 100000
/-! rows of the point predicate: fields, arrays, new cells -/
theorem q_rep_kept {D : qD} {K : qHK} {a : Nat} {H H1 : Heap} {e : qE} (h : q_rep D K a H e) (hq : H1[a]? = H[a]?) : q_rep D K a H1 e := by
  rcases e with ⟨c, V⟩ | ⟨t, n, f⟩ | ⟨n, f⟩ | ⟨t, n, f⟩ | ⟨k, vs⟩ | ⟨k, vs⟩ | v | ⟨E, b⟩
  · obtain ⟨r, h1, h2⟩ := h
    exact ⟨r, h1, h2.kept hq⟩
  · exact hq.trans h
  · exact hq.trans h
  · exact hq.trans h
  · obtain ⟨arr, h1, h2⟩ := h
    exact ⟨arr, h1.kept hq, h2⟩
  · obtain ⟨arr, h1, h2⟩ := h
    exact ⟨arr, h1.kept hq, h2⟩
  · exact h
  · obtain ⟨ce, h1, h2⟩ := h
    exact ⟨ce, hq.trans h1, h2⟩
theorem r_OB.kept {o : Nat} {cC : ClassId} {N : Nat} {iS : Nat → Nat} {H H1 : Heap} {V : Nat → Value} (h : r_OB o cC N iS H V) (h1 : H1[o]? = H[o]?) : r_OB o cC N iS H1 V := by
  obtain ⟨cell, q, r⟩ := h
  exact ⟨cell, by rw [h1]; exact q, r⟩
theorem r_OB.to {o : Nat} {cC : ClassId} {N : Nat} {iS : Nat → Nat} {H : Heap} {V V' : Nat → Value} (h : r_OB o cC N iS H V) (hv : ∀ k, k < N → V k = V' k) : r_OB o cC N iS H V' := by
  obtain ⟨cell, q, r1, r2, r3, r4⟩ := h
  exact ⟨cell, q, r1, r2, r3, fun k hk => by rw [← hv k hk]; exact r4 k hk⟩
theorem t_OB.rd {o : Nat} {cC : ClassId} {N : Nat} {iS : Nat → Nat} {H : Heap} {V : Nat → Value} (h : t_OB o cC N iS H V) : r_OB o cC N iS H V := by
  obtain ⟨cell, q, r1, r2, r3⟩ := h
  exact ⟨cell, q, r1, by rw [r2]; rfl, by rw [r2]; exact (fun z => by cases z), r3⟩
theorem q_wk.kept {D : qD} {a t n : Nat} {H H1 : Heap} {v : Nat → Value} (h : q_wk D a H t n v) (h1 : H1[a]? = H[a]?) : q_wk D a H1 t n v := by
  obtain ⟨cell, q, r⟩ := h
  exact ⟨cell, by rw [h1]; exact q, r⟩
theorem q_wk_arr {D : qD} {a t n : Nat} {H : Heap} {v : Nat → Value} (h : H[a]? = some (arrV (d_A D t) n v)) : q_wk D a H t n v := ⟨_, h, rfl, rfl, (fun z => by cases z), Nat.le_of_eq (arrV_size _ _ _).symm, by rw [arrV_size] <;> rfl, fun j hj => arrV_read _ _ hj⟩
theorem q_rep_rd {D : qD} {K : qHK} {a : Nat} {H : Heap} {e : qE} (h : q_rep D K a H e) : q_rd D K a H e := by
  rcases e with ⟨c, V⟩ | ⟨t, n, f⟩ | ⟨n, f⟩ | ⟨t, n, f⟩ | x
  · obtain ⟨r, h1, h2⟩ := h
    exact ⟨r, h1, h2.rd⟩
  · have h : H[a]? = some (vp_cell (d_A D t) (n, .inl f)) := h
    exact q_wk_arr h
  · have h : H[a]? = some (vp_cell (d_A D 3) (n, .inr (.inl f))) := h
    exact q_wk_arr h
  · have h : H[a]? = some (vp_cell (d_A D t) (n, .inr (.inr (.inr (.inr f))))) := h
    exact q_wk_arr h
  · exact h
theorem q_rd_kept {D : qD} {K : qHK} {a : Nat} {H H1 : Heap} {e : qE} (h : q_rd D K a H e) (hq : H1[a]? = H[a]?) : q_rd D K a H1 e := by
  rcases e with ⟨c, V⟩ | ⟨t, n, f⟩ | ⟨n, f⟩ | ⟨t, n, f⟩ | x
  · obtain ⟨r, h1, h2⟩ := h
    exact ⟨r, h1, h2.kept hq⟩
  · exact q_wk.kept h hq
  · exact q_wk.kept h hq
  · exact q_wk.kept h hq
  · exact q_rep_kept h hq
theorem q_krep_kept {D : qD} {a : Nat} {H H1 : Heap} {k : (Nat × Nat × (Nat → Option Nat)) ⊕ Int32} (h : q_krep D a H k) (hq : H1[a]? = H[a]?) : q_krep D a H1 k := by
  rcases k with ⟨o, cap, f⟩ | v
  · exact ⟨h.1, hq.trans h.2⟩
  · exact r_OB.kept h hq
theorem q_krep_lt {D : qD} {a : Nat} {H : Heap} {k : (Nat × Nat × (Nat → Option Nat)) ⊕ Int32} (h : q_krep D a H k) : a < H.size := by
  rcases k with ⟨o, cap, f⟩ | v
  · exact (Array.getElem?_eq_some_iff.mp h.2).1
  · obtain ⟨ce, h1, -⟩ := h
    exact (Array.getElem?_eq_some_iff.mp h1).1
theorem q_rep_lt {D : qD} {K : qHK} {a : Nat} {H : Heap} {e : qE} (hk : ∀ a k, K a = some k → q_krep D a H k) (h : q_rep D K a H e) : a < H.size := by
  rcases e with ⟨c, V⟩ | ⟨t, n, f⟩ | ⟨n, f⟩ | ⟨t, n, f⟩ | ⟨k, vs⟩ | ⟨k, vs⟩ | v | ⟨E, b⟩
  · obtain ⟨r, h1, ce, h2, -⟩ := h
    exact (Array.getElem?_eq_some_iff.mp h2).1
  · exact (Array.getElem?_eq_some_iff.mp h).1
  · exact (Array.getElem?_eq_some_iff.mp h).1
  · exact (Array.getElem?_eq_some_iff.mp h).1
  · obtain ⟨arr, ⟨ce, h1, -⟩, -⟩ := h
    exact (Array.getElem?_eq_some_iff.mp h1).1
  · obtain ⟨arr, ⟨ce, h1, -⟩, -⟩ := h
    exact (Array.getElem?_eq_some_iff.mp h1).1
  · exact q_krep_lt (hk a _ h)
  · obtain ⟨ce, h1, -⟩ := h
    exact (Array.getElem?_eq_some_iff.mp h1).1
/-- a cell set -/
def q_put (h : qH) (a : Nat) (e : qE) : qH := (h.1, fun b => if b = a then some e else h.2 b)
/-- a cell made, k credits spent -/
def q_new (h : qH) (k a : Nat) (e : qE) : qH := (h.1 - k, fun b => if b = a then some e else h.2 b)
/-- a cell forgotten -/
def q_del (h : qH) (a : Nat) : qH := (h.1, fun b => if b = a then none else h.2 b)
def q_cell (D : qD) (h : qH) (a : Nat) (e : qE) : Prop := h.2 a = some e ∨ d_ro D a e
/-- an old cell changed in place -/
theorem q_absK_put {D : qD} {K : qHK} {h : qH} {H H1 : Heap} {a : Nat} {e e' : qE} (hA : q_absK D K h H) (ha : h.2 a = some e) (he : q_isbx e = false) (hz : H1.size = H.size) (hu : q_used H1 = q_used H) (hq : ∀ q, q ≠ a → H1[q]? = H[q]?) (hr : q_rep D K a H1 e') (hst : ∀ c, H1[a]? = some c → c.vm.isStatics = false) : q_absK D K (q_put h a e') H1 := by
  obtain ⟨h1, h2, h3, h4, h5, h6⟩ := hA
  obtain ⟨-, hB⟩ := h4 a e ha
  obtain ⟨hb, hk⟩ := hB he
  refine ⟨by rw [hz]; exact h1, by rw [hz]; exact h2, by rw [hu]; exact h3, fun b x hx => ?_, fun b k hb9 => ?_, fun b c hb9 hc9 => ?_⟩
  · by_cases hba : b = a
    · subst hba
      simp only [q_put, if_true] at hx
      cases hx
      exact ⟨hr, fun _ => ⟨hb, hk⟩⟩
    · simp only [q_put, if_neg hba] at hx
      obtain ⟨g1, g2⟩ := h4 b x hx
      exact ⟨q_rep_kept g1 (hq b hba), g2⟩
  · have hba : b ≠ a := fun z => by rw [z, hk] at hb9; cases hb9
    exact q_krep_kept (h5 b k hb9) (hq b hba)
  · by_cases hba : b = a
    · subst hba
      exact hst c hc9
    · exact h6 b c hb9 (by rw [← hq b hba]; exact hc9)
/-- a new cell -/
theorem q_absK_new {D : qD} {K : qHK} {h : qH} {H H1 : Heap} {k n : Nat} {e : qE} (hA : q_absK D K h H) (hk : 1 ≤ k) (hkn : n ≤ 4 * k) (hkh : k ≤ h.1) (hz : H1.size = H.size + 1) (hu : q_used H1 = q_used H + n) (hq : ∀ q, q < H.size → H1[q]? = H[q]?) (hr : q_rep D K H.size H1 e) (hst : ∀ c, H1[H.size]? = some c → c.vm.isStatics = false) : h.2 H.size = none ∧ q_absK D K (q_new h k H.size e) H1 := by
  obtain ⟨h1, h2, h3, h4, h5, h6⟩ := hA
  have hK : K H.size = none := by
    cases hx : K H.size with
    | none => rfl
    | some x => exact absurd (q_krep_lt (h5 _ _ hx)) (Nat.lt_irrefl _)
  refine ⟨?_, by omega, ?_, ?_, fun b x hx => ?_, fun b x hb9 => ?_, fun b c hb9 hc9 => ?_⟩
  · cases hx : h.2 H.size with
    | none => rfl
    | some x => exact absurd (q_rep_lt h5 (h4 _ _ hx).1) (Nat.lt_irrefl _)
  · show H1.size + (h.1 - k) ≤ d_K D
    omega
  · show q_used H1 + 4 * (h.1 - k) ≤ d_S D
    omega
  · by_cases hba : b = H.size
    · subst hba
      simp only [q_new, if_true] at hx
      cases hx
      exact ⟨hr, fun _ => ⟨h1, hK⟩⟩
    · simp only [q_new, if_neg hba] at hx
      obtain ⟨g1, g2⟩ := h4 b x hx
      exact ⟨q_rep_kept g1 (hq b (q_rep_lt h5 g1)), g2⟩
  · exact q_krep_kept (h5 b x hb9) (hq b (q_krep_lt (h5 b x hb9)))
  · have hlt : b < H1.size := (Array.getElem?_eq_some_iff.mp hc9).1
    by_cases hba : b = H.size
    · subst hba
      exact hst c hc9
    · exact h6 b c hb9 (by rw [← hq b (by omega)]; exact hc9)
theorem q_S_new {A : Nat → Prop} {H0 H H1 : Heap} {locs : List Loc} (hS : va_S A H0 H locs) (hz : H.size ≤ H1.size) (hq : ∀ q, q < H.size → H1[q]? = H[q]?) : va_S A H0 H1 locs := ⟨Nat.le_trans hS.1 hz, fun x h1 h2 => (hq x (Nat.lt_of_lt_of_le h1 hS.1)).trans (hS.2.1 x h1 h2), hS.2.2⟩
theorem q_cost {n : Nat} : n ≤ 4 * (1 + n / 4) := by omega
section QH
variable {D : qD} {M : qM} {Q : Option Value → qH → Prop} {X : String → qH → Prop} {pc : Nat} {lv : List (Nat × Value)} {st : List Value} {h : qH}
theorem fx_cx {p : Program} {e : Env} {s : State} {m : MethodId} {args : Array Value} {below : List Frame} {meth : Method} {c : Code} (F : q_FX D M p e s m args below meth c) : q_CX D s s.heap := F.2.2.2.2.2.2.2.2.2.1
theorem fx_B {p : Program} {e : Env} {s : State} {m : MethodId} {args : Array Value} {below : List Frame} {meth : Method} {c : Code} (F : q_FX D M p e s m args below meth c) : d_B D ≤ s.heap.size := F.2.2.2.2.2.2.2.2.2.2
theorem fx_w {p : Program} {e : Env} {s : State} {m : MethodId} {args : Array Value} {below : List Frame} {meth : Method} {c : Code} (F : q_FX D M p e s m args below meth c) : ∀ w ∈ lw_all, w.before args s = true := F.2.2.2.2.2.2.1
theorem fx_own {p : Program} {e : Env} {s : State} {m : MethodId} {args : Array Value} {below : List Frame} {meth : Method} {c : Code} (F : q_FX D M p e s m args below meth c) : s.vm.findClass (m_own M) = some m.cls := F.2.2.2.2.2.1
theorem fx_cl {p : Program} {e : Env} {s : State} {m : MethodId} {args : Array Value} {below : List Frame} {meth : Method} {c : Code} (F : q_FX D M p e s m args below meth c) : ∀ c r, qCL[c]? = some r → u_Kn s r.1 r.2.1 r.2.2 (d_C D c) (d_I D c) := (fx_cx F).1.2.1
theorem fx_at {p : Program} {e : Env} {s : State} {m : MethodId} {args : Array Value} {below : List Frame} {meth : Method} {c : Code} (F : q_FX D M p e s m args below meth c) : ∀ t ty, qAT[t]? = some ty → ArrOfT s (d_A D t) ty ∧ (t < 8 → s.vm.findClass ("[" ++ ty.toString) = some (d_A D t)) := (fx_cx F).1.2.2.1
theorem fx_ra {p : Program} {e : Env} {s : State} {m : MethodId} {args : Array Value} {below : List Frame} {meth : Method} {c : Code} (F : q_FX D M p e s m args below meth c) : ∀ q ∈ qRA, ∃ (kA : Class) (comp : ClassId), s.vm.classes[d_A D q.1]? = some kA ∧ kA.kind = .array comp (.object q.2) ∧ s.vm.findClass q.2 = some comp := (fx_cx F).1.2.2.2.1
theorem fx_ng {p : Program} {e : Env} {s : State} {m : MethodId} {args : Array Value} {below : List Frame} {meth : Method} {c : Code} (F : q_FX D M p e s m args below meth c) : ∀ w ∈ lw_tbl, q_ng w = true → va_Nw w s := (fx_cx F).1.2.2.2.2.2.1
theorem fx_ro {p : Program} {e : Env} {s : State} {m : MethodId} {args : Array Value} {below : List Frame} {meth : Method} {c : Code} (F : q_FX D M p e s m args below meth c) : ∀ a e, d_ro D a e → a < d_B D ∧ q_rd D (fun _ => none) a s.heap e := (fx_cx F).2.2.2.2
/-- a cell that may be read -/
theorem fx_cell {p : Program} {e : Env} {s : State} {m : MethodId} {args : Array Value} {below : List Frame} {meth : Method} {c : Code} (F : q_FX D M p e s m args below meth c) {H : Heap} {locs : List Loc} {a : Nat} {x : qE} (hA : q_abs D h H) (hS : va_S (d_N D) s.heap H locs) (hc : q_cell D h a x) : ∃ K, q_rd D K a H x := by
  rcases hc with hc | hc
  · obtain ⟨K, -, -, -, h4, -⟩ := hA
    exact ⟨K, q_rep_rd (h4 a x hc).1⟩
  · obtain ⟨h1, h2⟩ := fx_ro F a x hc
    exact ⟨_, q_rd_kept h2 (hS.2.1 a (Nat.lt_of_lt_of_le h1 (fx_B F)) (Nat.not_le.mpr h1))⟩
/-- reading a field -/
def g_I (D : qD) (h : qH) (o : Option Nat) (c k : Nat) (K : Int32 → Prop) : Prop := ∃ (a : Nat) (V : Nat → Value) (x : Int32), o = some a ∧ q_cell D h a (c_ob c V) ∧ V k = .int x ∧ K x
def g_R (D : qD) (h : qH) (o : Option Nat) (c k : Nat) (K : Option Nat → Prop) : Prop := ∃ (a : Nat) (V : Nat → Value) (x : Option Nat), o = some a ∧ q_cell D h a (c_ob c V) ∧ V k = va_rf x ∧ K x
/-- writing one -/
def p_F (h : qH) (o : Option Nat) (c k : Nat) (v : Value) (K : qH → Prop) : Prop := ∃ (a : Nat) (V : Nat → Value), o = some a ∧ h.2 a = some (c_ob c V) ∧ K (q_put h a (c_ob c (updV V k v)))
theorem g_I_mono {o : Option Nat} {c k : Nat} {K K' : Int32 → Prop} (F : g_I D h o c k K) (hk : ∀ x, K x → K' x) : g_I D h o c k K' := by
  obtain ⟨a, V, x, h1, h2, h3, h4⟩ := F
  exact ⟨a, V, x, h1, h2, h3, hk x h4⟩
theorem g_R_mono {o : Option Nat} {c k : Nat} {K K' : Option Nat → Prop} (F : g_R D h o c k K) (hk : ∀ x, K x → K' x) : g_R D h o c k K' := by
  obtain ⟨a, V, x, h1, h2, h3, h4⟩ := F
  exact ⟨a, V, x, h1, h2, h3, hk x h4⟩
theorem p_F_mono {o : Option Nat} {c k : Nat} {v : Value} {K K' : qH → Prop} (F : p_F h o c k v K) (hk : ∀ x, K x → K' x) : p_F h o c k v K' := by
  obtain ⟨a, V, h1, h2, h4⟩ := F
  exact ⟨a, V, h1, h2, hk _ h4⟩
/-- how a field is found under the name in the code -/
def q_same (ref : String) (T : u_T) (k : Nat) : Prop := ∀ (s : State) (args : Array Value), (∀ w ∈ lw_all, w.before args s = true) → ∀ x, s.fieldFound? (T k).1 (T k).2.1 (T k).2.2.1 = some x → s.fieldFound? ref (T k).2.1 (T k).2.2.1 = some x
theorem q_same_own {T : u_T} {k : Nat} : q_same (T k).1 T k := fun _ _ _ _ h => h
theorem q_same_of {ref : String} {T : u_T} {k : Nat} (h : Cond.sameField ref (T k).1 (T k).2.1 (T k).2.2.1 ∈ lw_all) : q_same ref T k := fun _ _ hw x hx => u_same (hw _ h) x hx
theorem wa_get0 {idx ci k N a : Nat} {C ref : String} {T : u_T} {V : Nat → Value} (hd : decode (m_cc M) pc = .ok (.getfield idx, 3)) (hr : qCL[ci]? = some (C, T, N)) (hk : k < N) (hin : ∀ w ∈ u_ws C T N, w ∈ lw_all) (hlink : Cond.fieldLink (m_own M) idx ref (T k).2.1 (T k).2.2.1 ∈ lw_all) (hsame : q_same ref T k) (hc : q_cell D h a (c_ob ci V)) (kk : WA D M Q X (pc + 3) lv (V k :: st) h) : WA D M Q X pc lv (.ref a :: st) h := by
  intro p e s m args below meth c F H locs ls hA hS hl
  obtain ⟨K, r, h1, cell, q1, q2, q2b, q3, q4⟩ := fx_cell F hA hS hc
  cases h1.symm.trans hr
  obtain ⟨hSl, hfc, kC, hkC, hkind⟩ := fx_cl F ci _ hr
  obtain ⟨cf, kf, fi, f, hi, hsl⟩ := hSl k hk
  refine W.getf F.1 F.2.1 (fx_own F) (fx_w F _ hlink) (hsame s args (fx_w F) _ hi) (u_facts hfc hkC (u_lays (fx_w F) hin hk) hi).1 q1 q3 (v := V k) ?_ rfl rfl hd (kk p e s m args below meth c F H locs ls hA hS hl)
  rw [hsl]
  exact q4 k hk
theorem wa_getN0 {idx ci k N a : Nat} {C ref host : String} {T : u_T} {V : Nat → Value} (hd : decode (m_cc M) pc = .ok (.getfield idx, 3)) (hr : qCL[ci]? = some (C, T, N)) (hk : k < N) (hin : ∀ w ∈ u_ws C T N, w ∈ lw_all) (hlink : Cond.fieldLinkNest (m_own M) idx ref (T k).2.1 (T k).2.2.1 host ∈ lw_tbl) (hsame : q_same ref T k) (hc : q_cell D h a (c_ob ci V)) (kk : WA D M Q X (pc + 3) lv (V k :: st) h) : WA D M Q X pc lv (.ref a :: st) h := by
  intro p e s m args below meth c F H locs ls hA hS hl
  obtain ⟨K, r, h1, cell, q1, q2, q2b, q3, q4⟩ := fx_cell F hA hS hc
  cases h1.symm.trans hr
  obtain ⟨hSl, hfc, kC, hkC, hkind⟩ := fx_cl F ci _ hr
  obtain ⟨cf, kf, fi, f, hi, hsl⟩ := hSl k hk
  refine va_Wgetf F.1 F.2.1 (fx_own F) (va_Nw.use (A := args) rfl (fx_ng F _ hlink rfl)) (hsame s args (fx_w F) _ hi) (u_facts hfc hkC (u_lays (fx_w F) hin hk) hi).1 q1 q3 (v := V k) ?_ rfl rfl hd (kk p e s m args below meth c F H locs ls hA hS hl)
  rw [hsl]
  exact q4 k hk
theorem wa_getI {idx ci k N : Nat} {C ref : String} {T : u_T} {o : Option Nat} (hd : decode (m_cc M) pc = .ok (.getfield idx, 3)) (hr : qCL[ci]? = some (C, T, N)) (hk : k < N) (hin : ∀ w ∈ u_ws C T N, w ∈ lw_all) (hlink : Cond.fieldLink (m_own M) idx ref (T k).2.1 (T k).2.2.1 ∈ lw_all) (hsame : q_same ref T k) (F : g_I D h o ci k (fun x => WA D M Q X (pc + 3) lv (.int x :: st) h)) : WA D M Q X pc lv (va_rf o :: st) h := by
  obtain ⟨a, V, x, rfl, h2, h3, h4⟩ := F
  exact wa_get0 hd hr hk hin hlink hsame h2 (by rw [h3]; exact h4)
theorem wa_getR {idx ci k N : Nat} {C ref : String} {T : u_T} {o : Option Nat} (hd : decode (m_cc M) pc = .ok (.getfield idx, 3)) (hr : qCL[ci]? = some (C, T, N)) (hk : k < N) (hin : ∀ w ∈ u_ws C T N, w ∈ lw_all) (hlink : Cond.fieldLink (m_own M) idx ref (T k).2.1 (T k).2.2.1 ∈ lw_all) (hsame : q_same ref T k) (F : g_R D h o ci k (fun x => WA D M Q X (pc + 3) lv (va_rf x :: st) h)) : WA D M Q X pc lv (va_rf o :: st) h := by
  obtain ⟨a, V, x, rfl, h2, h3, h4⟩ := F
  exact wa_get0 hd hr hk hin hlink hsame h2 (by rw [h3]; exact h4)
theorem wa_getNI {idx ci k N : Nat} {C ref host : String} {T : u_T} {o : Option Nat} (hd : decode (m_cc M) pc = .ok (.getfield idx, 3)) (hr : qCL[ci]? = some (C, T, N)) (hk : k < N) (hin : ∀ w ∈ u_ws C T N, w ∈ lw_all) (hlink : Cond.fieldLinkNest (m_own M) idx ref (T k).2.1 (T k).2.2.1 host ∈ lw_tbl) (hsame : q_same ref T k) (F : g_I D h o ci k (fun x => WA D M Q X (pc + 3) lv (.int x :: st) h)) : WA D M Q X pc lv (va_rf o :: st) h := by
  obtain ⟨a, V, x, rfl, h2, h3, h4⟩ := F
  exact wa_getN0 hd hr hk hin hlink hsame h2 (by rw [h3]; exact h4)
theorem wa_getNR {idx ci k N : Nat} {C ref host : String} {T : u_T} {o : Option Nat} (hd : decode (m_cc M) pc = .ok (.getfield idx, 3)) (hr : qCL[ci]? = some (C, T, N)) (hk : k < N) (hin : ∀ w ∈ u_ws C T N, w ∈ lw_all) (hlink : Cond.fieldLinkNest (m_own M) idx ref (T k).2.1 (T k).2.2.1 host ∈ lw_tbl) (hsame : q_same ref T k) (F : g_R D h o ci k (fun x => WA D M Q X (pc + 3) lv (va_rf x :: st) h)) : WA D M Q X pc lv (va_rf o :: st) h := by
  obtain ⟨a, V, x, rfl, h2, h3, h4⟩ := F
  exact wa_getN0 hd hr hk hin hlink hsame h2 (by rw [h3]; exact h4)
/-- what a put leaves: the heap with the slot set -/
theorem q_put_go {p : Program} {e : Env} {s : State} {m : MethodId} {args : Array Value} {below : List Frame} {meth : Method} {c : Code} (F : q_FX D M p e s m args below meth c) {H H' : Heap} {locs locs' : List Loc} {ls : Array Slot} {K : qHK} {a i : Nat} {v : Value} {cell : Cell} {x x' : qE} {k n : Nat}
    (hA : q_absK D K h H) (hS : va_S (d_N D) s.heap H locs) (hl : lv_has ls (m_nL M) lv) (ha : h.2 a = some x) (hx : q_isbx x = false) (q1 : H[a]? = some cell) (e1 : H'[a]? = some (cell.setSlot i v)) (e2 : H'.size = H.size) (e3 : ∀ q, q ≠ a → H'[q]? = H[q]?) (hlo : locs' = locs ++ [⟨a, i⟩]) (hr : q_rep D K a H' x')
    (kk : WA D M Q X pc lv st (q_put h a x')) : W p (d_l D) e (q_room D (m_rk M) s.heap.size (q_used s.heap)) s m args below meth c H' locs' k n (vx_MQ below (q_Qc D Q) (q_XC D X) args s (d_K D - s.heap.size) (d_S D - q_used s.heap) (d_N D)) (F0 m pc ls st) := by
  have hu : q_used H' = q_used H := q_used_same e2 (fun b y hb => by
    by_cases hba : b = a
    · subst hba
      rw [q1] at hb
      cases hb
      exact ⟨_, e1, by simp [Cell.setSlot]⟩
    · exact ⟨y, by rw [e3 b hba]; exact hb, rfl⟩)
  obtain ⟨hb, hK⟩ := (hA.2.2.2.1 a x ha).2 hx
  subst hlo
  refine q_tight fun _ => kk p e s m args below meth c F H' _ ls ⟨K, q_absK_put hA ha hx e2 hu e3 hr (fun c9 hc9 => by
    rw [e1] at hc9
    cases hc9
    exact hA.2.2.2.2.2 a cell hb q1)⟩ (hS.put e2 e3 hb) hl
theorem q_apart {p : Program} {e : Env} {s : State} {m : MethodId} {args : Array Value} {below : List Frame} {meth : Method} {c : Code} (F : q_FX D M p e s m args below meth c) {ci N : Nat} {C : String} {T : u_T} (hr : qCL[ci]? = some (C, T, N)) (hin : ∀ w ∈ u_ws C T N, w ∈ lw_all) (ty : Nat → FieldType) (hty : ∀ k, k < N → parseFieldDescriptor (T k).2.2.1 = some (ty k)) (hnm : ∀ a, a < N → ∀ b, b < N → a ≠ b → (T a).2.1 ≠ (T b).2.1) : ∀ x y, x < N → y < N → x ≠ y → (d_I D ci) x ≠ (d_I D ci) y := by
  intro x y hx hy hne
  obtain ⟨hS, -⟩ := fx_cl F ci _ hr
  obtain ⟨_, _, _, fa, hia, ea⟩ := hS x hx
  obtain ⟨_, _, _, fb, hib, eb⟩ := hS y hy
  rw [← ea, ← eb]
  refine u_apart (u_lays (fx_w F) hin hx) (u_lays (fx_w F) hin hy) hia hib ?_
  rw [(State.fieldFound?_type hia (hty x hx)).1, (State.fieldFound?_type hib (hty y hy)).1]
  exact hnm x hx y hy hne
theorem wa_put0 {idx ci k N a : Nat} {C ref : String} {T : u_T} {V : Nat → Value} {v : Value} (ty0 : Nat → FieldType) (hd : decode (m_cc M) pc = .ok (.putfield idx, 3)) (hr : qCL[ci]? = some (C, T, N)) (hk : k < N) (hin : ∀ w ∈ u_ws C T N, w ∈ lw_all) (hty : ∀ k, k < N → parseFieldDescriptor (T k).2.2.1 = some (ty0 k)) (hnm : ∀ a, a < N → ∀ b, b < N → a ≠ b → (T a).2.1 ≠ (T b).2.1) (hlink : Cond.fieldLink (m_own M) idx ref (T k).2.1 (T k).2.2.1 ∈ lw_all) (hsame : q_same ref T k) (hfin : (T k).2.2.2 = false) (hn : narrow (ty0 k) v = v) (hfit : fits (ty0 k) v = true) (hc : h.2 a = some (c_ob ci V)) (kk : WA D M Q X (pc + 3) lv st (q_put h a (c_ob ci (updV V k v)))) : WA D M Q X pc lv (v :: .ref a :: st) h := by
  intro p e s m args below meth c F H locs ls hA hS hl
  obtain ⟨K, hA⟩ := hA
  obtain ⟨r, h1, cell, q1, q2, q3, q4⟩ := (hA.2.2.2.1 a _ hc).1
  cases h1.symm.trans hr
  obtain ⟨hSl, hfc, kC, hkC, hkind⟩ := fx_cl F ci _ hr
  obtain ⟨cf, kf, fi, f, hi, hsl⟩ := hSl k hk
  have hlay := fx_w F _ (hin _ (u_in_lay hk))
  unfold u_lay at hlay
  rw [if_neg (by rw [hfin]; decide)] at hlay
  have hst := (u_facts hfc hkC (u_lays (fx_w F) hin hk) hi).1
  have h6 := u_store hfc hkC hkind hlay hi (hty k hk) hn hfit
  refine W.putK F.1 F.2.1 (f := f) ⟨fx_own F, fx_w F _ hlink, ⟨_, _, _, hsame s args (fx_w F) _ hi⟩, hst⟩ (by rw [q2]; exact h6) q1 q3 (by rw [hsl]; exact k2_hasslot (q4 k hk)) rfl rfl hd fun H' e1 e2 e3 => ?_
  rw [hsl] at e1 ⊢
  exact q_put_go (x' := c_ob ci (updV V k v)) F hA hS hl hc rfl q1 e1 e2 e3 rfl ⟨_, hr, _, e1, q2, q3, t_set q4 (q_apart F hr hin ty0 hty hnm) hk v⟩ kk
theorem wa_putN0 {idx ci k N a : Nat} {C ref host : String} {T : u_T} {V : Nat → Value} {v : Value} (ty0 : Nat → FieldType) (hd : decode (m_cc M) pc = .ok (.putfield idx, 3)) (hr : qCL[ci]? = some (C, T, N)) (hk : k < N) (hin : ∀ w ∈ u_ws C T N, w ∈ lw_all) (hty : ∀ k, k < N → parseFieldDescriptor (T k).2.2.1 = some (ty0 k)) (hnm : ∀ a, a < N → ∀ b, b < N → a ≠ b → (T a).2.1 ≠ (T b).2.1) (hlink : Cond.fieldLinkNest (m_own M) idx ref (T k).2.1 (T k).2.2.1 host ∈ lw_tbl) (hsame : q_same ref T k) (hfin : (T k).2.2.2 = false) (hn : narrow (ty0 k) v = v) (hfit : fits (ty0 k) v = true) (hc : h.2 a = some (c_ob ci V)) (kk : WA D M Q X (pc + 3) lv st (q_put h a (c_ob ci (updV V k v)))) : WA D M Q X pc lv (v :: .ref a :: st) h := by
  intro p e s m args below meth c F H locs ls hA hS hl
  obtain ⟨K, hA⟩ := hA
  obtain ⟨r, h1, cell, q1, q2, q3, q4⟩ := (hA.2.2.2.1 a _ hc).1
  cases h1.symm.trans hr
  obtain ⟨hSl, hfc, kC, hkC, hkind⟩ := fx_cl F ci _ hr
  obtain ⟨cf, kf, fi, f, hi, hsl⟩ := hSl k hk
  have hlay := fx_w F _ (hin _ (u_in_lay hk))
  unfold u_lay at hlay
  rw [if_neg (by rw [hfin]; decide)] at hlay
  have hst := (u_facts hfc hkC (u_lays (fx_w F) hin hk) hi).1
  have h6 := u_store hfc hkC hkind hlay hi (hty k hk) hn hfit
  refine va_WputK F.1 F.2.1 (f := f) (fx_own F) (va_Nw.use (A := args) rfl (fx_ng F _ hlink rfl)) (hsame s args (fx_w F) _ hi) hst (by rw [q2]; exact h6) q1 q3 (by rw [hsl]; exact k2_hasslot (q4 k hk)) rfl rfl hd fun H' e1 e2 e3 => ?_
  rw [hsl] at e1 ⊢
  exact q_put_go (x' := c_ob ci (updV V k v)) F hA hS hl hc rfl q1 e1 e2 e3 rfl ⟨_, hr, _, e1, q2, q3, t_set q4 (q_apart F hr hin ty0 hty hnm) hk v⟩ kk
theorem wa_putF0 {idx ci k N a : Nat} {C ref : String} {T : u_T} {V : Nat → Value} {v : Value} (ty0 : Nat → FieldType) (hd : decode (m_cc M) pc = .ok (.putfield idx, 3)) (hr : qCL[ci]? = some (C, T, N)) (hk : k < N) (hin : ∀ w ∈ u_ws C T N, w ∈ lw_all) (hty : ∀ k, k < N → parseFieldDescriptor (T k).2.2.1 = some (ty0 k)) (hnm : ∀ a, a < N → ∀ b, b < N → a ≠ b → (T a).2.1 ≠ (T b).2.1) (hlink : Cond.fieldLink (m_own M) idx ref (T k).2.1 (T k).2.2.1 ∈ lw_all) (hsame : q_same ref T k) (hfin : (T k).2.2.2 = true) (hini : (m_y M).name = "<init>") (hdecl : (T k).1 = m_own M) (hn : narrow (ty0 k) v = v) (hfit : fits (ty0 k) v = true) (hc : h.2 a = some (c_ob ci V)) (kk : WA D M Q X (pc + 3) lv st (q_put h a (c_ob ci (updV V k v)))) : WA D M Q X pc lv (v :: .ref a :: st) h := by
  intro p e s m args below meth c F H locs ls hA hS hl
  obtain ⟨K, hA⟩ := hA
  obtain ⟨r, h1, cell, q1, q2, q3, q4⟩ := (hA.2.2.2.1 a _ hc).1
  cases h1.symm.trans hr
  obtain ⟨hSl, hfc, kC, hkC, hkind⟩ := fx_cl F ci _ hr
  obtain ⟨cf, kf, fi, f, hi, hsl⟩ := hSl k hk
  have hlay := fx_w F _ (hin _ (u_in_lay hk))
  unfold u_lay at hlay
  rw [if_pos hfin] at hlay
  have hst := (u_facts hfc hkC (u_lays (fx_w F) hin hk) hi).1
  have hcf : m.cls = cf := by
    obtain ⟨_, _, c', _, _, _, -, -, hf', -, -, -, hown2, -⟩ := Cond.laysFinal_spec hlay
    have e1 : c' = cf := by have := hi.symm.trans hf'; simp at this; exact this.1.symm
    rw [hdecl] at hown2
    rw [← e1]; exact Option.some.inj ((fx_own F).symm.trans hown2)
  have h6 := u_fits hfc hkC hkind (Or.inr hlay) hi (hty k hk) hn hfit
  refine W.putFinK F.1 F.2.1 (fx_own F) (fx_w F _ hlink) (hsame s args (fx_w F) _ hi) hst hcf (F.2.2.2.2.2.2.2.2.1.trans hini) (by rw [q2]; exact h6) q1 q3 (by rw [hsl]; exact k2_hasslot (q4 k hk)) rfl rfl hd fun H' e1 e2 e3 => ?_
  rw [hsl] at e1 ⊢
  exact q_put_go (x' := c_ob ci (updV V k v)) F hA hS hl hc rfl q1 e1 e2 e3 rfl ⟨_, hr, _, e1, q2, q3, t_set q4 (q_apart F hr hin ty0 hty hnm) hk v⟩ kk
end QH
