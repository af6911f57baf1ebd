set_option maxRecDepth 100000
/-! rows of the point predicate: arrays, new objects, the end, the start -/
section QA
variable {D : qD} {M : qM} {Q : Option Value → qH → Prop} {X : String → qH → Prop} {pc : Nat} {lv : List (Nat × Value)} {st : List Value} {h : qH}
/-- reading an array: of ints (of the kind t), longs, references -/
def a_I (D : qD) (h : qH) (o : Option Nat) (t : Nat) (i : Int32) (K : Int32 → Prop) : Prop := ∃ (a n : Nat) (f : Nat → Int32), o = some a ∧ q_cell D h a (c_ia t n f) ∧ vp_in i n ∧ K (f i.toNatClampNeg)
def a_L (D : qD) (h : qH) (o : Option Nat) (i : Int32) (K : Int64 → Prop) : Prop := ∃ (a n : Nat) (f : Nat → Int64), o = some a ∧ q_cell D h a (c_la n f) ∧ vp_in i n ∧ K (f i.toNatClampNeg)
def a_R (D : qD) (h : qH) (o : Option Nat) (t : Nat) (i : Int32) (K : Option Nat → Prop) : Prop := ∃ (a n : Nat) (f : Nat → Option Nat), o = some a ∧ q_cell D h a (c_ra t n f) ∧ vp_in i n ∧ K (f i.toNatClampNeg)
/-- .. its length -/
def a_N (D : qD) (h : qH) (o : Option Nat) (K : Int32 → Prop) : Prop := ∃ (a n : Nat), o = some a ∧ ((∃ t f, t < 10 ∧ q_cell D h a (c_ia t n f)) ∨ (∃ t f, t < 10 ∧ q_cell D h a (c_ra t n f))) ∧ K (nI n)
/-- writing -/
def s_I (h : qH) (o : Option Nat) (t : Nat) (i x : Int32) (K : qH → Prop) : Prop := ∃ (a n : Nat) (f : Nat → Int32), o = some a ∧ h.2 a = some (c_ia t n f) ∧ vp_in i n ∧ K (q_put h a (c_ia t n (upd f i.toNatClampNeg x)))
def s_L (h : qH) (o : Option Nat) (i : Int32) (x : Int64) (K : qH → Prop) : Prop := ∃ (a n : Nat) (f : Nat → Int64), o = some a ∧ h.2 a = some (c_la n f) ∧ vp_in i n ∧ K (q_put h a (c_la n (vp_updL f i.toNatClampNeg x)))
theorem a_I_mono {o : Option Nat} {t : Nat} {i : Int32} {K K' : Int32 → Prop} (F : a_I D h o t i K) (hk : ∀ x, K x → K' x) : a_I D h o t i K' := by
  obtain ⟨a, n, f, h1, h2, h3, h4⟩ := F
  exact ⟨a, n, f, h1, h2, h3, hk _ h4⟩
theorem a_L_mono {o : Option Nat} {i : Int32} {K K' : Int64 → Prop} (F : a_L D h o i K) (hk : ∀ x, K x → K' x) : a_L D h o i K' := by
  obtain ⟨a, n, f, h1, h2, h3, h4⟩ := F
  exact ⟨a, n, f, h1, h2, h3, hk _ h4⟩
theorem a_R_mono {o : Option Nat} {t : Nat} {i : Int32} {K K' : Option Nat → Prop} (F : a_R D h o t i K) (hk : ∀ x, K x → K' x) : a_R D h o t i K' := by
  obtain ⟨a, n, f, h1, h2, h3, h4⟩ := F
  exact ⟨a, n, f, h1, h2, h3, hk _ h4⟩
theorem a_N_mono {o : Option Nat} {K K' : Int32 → Prop} (F : a_N D h o K) (hk : ∀ x, K x → K' x) : a_N D h o K' := by
  obtain ⟨a, n, h1, h2, h4⟩ := F
  exact ⟨a, n, h1, h2, hk _ h4⟩
theorem s_I_mono {o : Option Nat} {t : Nat} {i x : Int32} {K K' : qH → Prop} (F : s_I h o t i x K) (hk : ∀ x, K x → K' x) : s_I h o t i x K' := by
  obtain ⟨a, n, f, h1, h2, h3, h4⟩ := F
  exact ⟨a, n, f, h1, h2, h3, hk _ h4⟩
theorem s_L_mono {o : Option Nat} {i : Int32} {x : Int64} {K K' : qH → Prop} (F : s_L h o i x K) (hk : ∀ x, K x → K' x) : s_L h o i x K' := by
  obtain ⟨a, n, f, h1, h2, h3, h4⟩ := F
  exact ⟨a, n, f, h1, h2, h3, hk _ h4⟩
theorem q_wk_at {p : Program} {e : Env} {s : State} {m : MethodId} {args : Array Value} {below : List Frame} {meth : Method} {c : Code} (F : q_FX D M p e s m args below meth c) {a t n : Nat} {H : Heap} {v : Nat → Value} {ty : FieldType} (h9 : q_wk D a H t n v) (ht : qAT[t]? = some ty) : ∃ cell : Cell, H[a]? = some cell ∧ s.isArrayOf cell ty ∧ cell.vm ≠ .unknown ∧ (n ≤ cell.slots.size ∧ cell.slots.size.toInt32 = Int32.ofNat n) ∧ ∀ i, i < n → cell.slots[i]? = some (v i) := by
  obtain ⟨cell, c1, c2, c3, c4, c5, c6, c7⟩ := h9
  obtain ⟨-, k, hk, comp, hkind⟩ := (fx_at F t _ ht).1 0 (fun _ => .null)
  refine ⟨cell, c1, ⟨(fun k z => by rw [z] at c3; cases c3), k, (by rw [c2]; exact hk), comp, hkind⟩, c4, ⟨c5, c6⟩, c7⟩
theorem wa_iald0 {t : Nat} (ht : qAT[t]? = some .int) {o : Option Nat} {i : Int32} (hd : decode (m_cc M) pc = .ok (.iaload, 1)) (G : a_I D h o t i (fun x => WA D M Q X (pc + 1) lv (.int x :: st) h)) : WA D M Q X pc lv (.int i :: va_rf o :: st) h := by
  obtain ⟨a, n, f, rfl, hc, hin, kk⟩ := G
  intro p e s m args below meth c F H locs ls hA hS hl
  obtain ⟨K, hr⟩ := fx_cell F hA hS hc
  obtain ⟨cell, c1, c2, c3, c4, c5⟩ := q_wk_at F hr ht
  have hlt : i.toNatClampNeg < n := Nat.not_le.mp fun q => hin (Or.inr q)
  exact W.iald (v := .int (f i.toNatClampNeg)) F.1 F.2.1 c1 c2 c3 (fun q => q.elim (fun z => hin (Or.inl z)) (fun z => absurd hlt (Nat.not_lt.mpr (Nat.le_trans c4.1 z)))) (c5 _ hlt) rfl rfl hd (kk p e s m args below meth c F H locs ls hA hS hl)
theorem wa_iald {o : Option Nat} {i : Int32} (hd : decode (m_cc M) pc = .ok (.iaload, 1)) (G : a_I D h o 0 i (fun x => WA D M Q X (pc + 1) lv (.int x :: st) h)) : WA D M Q X pc lv (.int i :: va_rf o :: st) h := wa_iald0 rfl hd G
theorem wa_iald9 {o : Option Nat} {i : Int32} (hd : decode (m_cc M) pc = .ok (.iaload, 1)) (G : a_I D h o 9 i (fun x => WA D M Q X (pc + 1) lv (.int x :: st) h)) : WA D M Q X pc lv (.int i :: va_rf o :: st) h := wa_iald0 rfl hd G
theorem wa_zald {o : Option Nat} {i : Int32} (hd : decode (m_cc M) pc = .ok (.baload, 1)) (G : a_I D h o 1 i (fun x => WA D M Q X (pc + 1) lv (.int x :: st) h)) : WA D M Q X pc lv (.int i :: va_rf o :: st) h := by
  obtain ⟨a, n, f, rfl, hc, hin, kk⟩ := G
  intro p e s m args below meth c F H locs ls hA hS hl
  obtain ⟨K, hr⟩ := fx_cell F hA hS hc
  obtain ⟨cell, c1, c2, c3, c4, c5⟩ := q_wk_at F hr rfl
  have hlt : i.toNatClampNeg < n := Nat.not_le.mp fun q => hin (Or.inr q)
  exact W.zald (v := .int (f i.toNatClampNeg)) F.1 F.2.1 c1 c2 c3 (fun q => q.elim (fun z => hin (Or.inl z)) (fun z => absurd hlt (Nat.not_lt.mpr (Nat.le_trans c4.1 z)))) (c5 _ hlt) rfl rfl hd (kk p e s m args below meth c F H locs ls hA hS hl)
theorem wa_bald {o : Option Nat} {i : Int32} (hd : decode (m_cc M) pc = .ok (.baload, 1)) (G : a_I D h o 2 i (fun x => WA D M Q X (pc + 1) lv (.int x :: st) h)) : WA D M Q X pc lv (.int i :: va_rf o :: st) h := by
  obtain ⟨a, n, f, rfl, hc, hin, kk⟩ := G
  intro p e s m args below meth c F H locs ls hA hS hl
  obtain ⟨K, hr⟩ := fx_cell F hA hS hc
  obtain ⟨cell, c1, c2, c3, c4, c5⟩ := q_wk_at F hr rfl
  have hlt : i.toNatClampNeg < n := Nat.not_le.mp fun q => hin (Or.inr q)
  exact W.bald (v := .int (f i.toNatClampNeg)) F.1 F.2.1 c1 c2 c3 (fun q => q.elim (fun z => hin (Or.inl z)) (fun z => absurd hlt (Nat.not_lt.mpr (Nat.le_trans c4.1 z)))) (c5 _ hlt) rfl rfl hd (kk p e s m args below meth c F H locs ls hA hS hl)
theorem wa_lald {o : Option Nat} {i : Int32} (hd : decode (m_cc M) pc = .ok (.laload, 1)) (G : a_L D h o i (fun x => WA D M Q X (pc + 1) lv (.long x :: st) h)) : WA D M Q X pc lv (.int i :: va_rf o :: st) h := by
  obtain ⟨a, n, f, rfl, hc, hin, kk⟩ := G
  intro p e s m args below meth c F H locs ls hA hS hl
  obtain ⟨K, hr⟩ := fx_cell F hA hS hc
  obtain ⟨cell, c1, c2, c3, c4, c5⟩ := q_wk_at F hr (ty := .long) rfl
  have hlt : i.toNatClampNeg < n := Nat.not_le.mp fun q => hin (Or.inr q)
  exact W.lald (v := .long (f i.toNatClampNeg)) F.1 F.2.1 c1 c2 c3 (fun q => q.elim (fun z => hin (Or.inl z)) (fun z => absurd hlt (Nat.not_lt.mpr (Nat.le_trans c4.1 z)))) (c5 _ hlt) rfl rfl hd (kk p e s m args below meth c F H locs ls hA hS hl)
theorem wa_aald {o : Option Nat} {t : Nat} {ty : FieldType} {i : Int32} (ht : qAT[t]? = some ty) (hty : ty.isReference = true) (hd : decode (m_cc M) pc = .ok (.aaload, 1)) (G : a_R D h o t i (fun x => WA D M Q X (pc + 1) lv (va_rf x :: st) h)) : WA D M Q X pc lv (.int i :: va_rf o :: st) h := by
  obtain ⟨a, n, f, rfl, hc, hin, kk⟩ := G
  intro p e s m args below meth c F H locs ls hA hS hl
  obtain ⟨K, hr⟩ := fx_cell F hA hS hc
  obtain ⟨cell, c1, c2, c3, c4, c5⟩ := q_wk_at F hr ht
  have hlt : i.toNatClampNeg < n := Nat.not_le.mp fun q => hin (Or.inr q)
  exact W.aald (v := va_rf (f i.toNatClampNeg)) (ty := ty) F.1 F.2.1 c1 c2 hty c3 (fun q => q.elim (fun z => hin (Or.inl z)) (fun z => absurd hlt (Nat.not_lt.mpr (Nat.le_trans c4.1 z)))) (c5 _ hlt) rfl rfl hd (kk p e s m args below meth c F H locs ls hA hS hl)
theorem q_at_lt {t : Nat} (h : t < 10) : ∃ ty, qAT[t]? = some ty := ⟨qAT[t]'h, List.getElem?_eq_getElem h⟩
theorem wa_alen {o : Option Nat} (hd : decode (m_cc M) pc = .ok (.arraylength, 1)) (G : a_N D h o (fun x => WA D M Q X (pc + 1) lv (.int x :: st) h)) : WA D M Q X pc lv (va_rf o :: st) h := by
  obtain ⟨a, n, rfl, hc, kk⟩ := G
  intro p e s m args below meth c F H locs ls hA hS hl
  have key : ∀ (t : Nat) (v : Nat → Value), t < 10 → q_wk D a H t n v → W p (d_l D) e (q_room D (m_rk M) s.heap.size (q_used s.heap)) s m args below meth c H locs (H.size - s.heap.size) (q_used H - q_used s.heap) (vx_MQ below (q_Qc D Q) (q_XC D X) args s (d_K D - s.heap.size) (d_S D - q_used s.heap) (d_N D)) (F0 m pc ls (va_rf (some a) :: st)) := by
    intro t v ht hr
    obtain ⟨ty, hty⟩ := q_at_lt ht
    obtain ⟨cell, c1, c2, c3, c4, c5⟩ := q_wk_at F hr hty
    exact W.alen (n := Int32.ofNat n) F.1 F.2.1 c1 c2 c4.2 rfl rfl hd (kk p e s m args below meth c F H locs ls hA hS hl)
  rcases hc with ⟨t, f, ht, hc⟩ | ⟨t, f, ht, hc⟩
  · obtain ⟨K, hr⟩ := fx_cell F hA hS hc
    exact key t _ ht hr
  · obtain ⟨K, hr⟩ := fx_cell F hA hS hc
    exact key t _ ht hr
theorem q_upd_i (cA : ClassId) (n k : Nat) (f : Nat → Int32) (x : Int32) : (vp_cell cA (n, .inl f)).setSlot k (.int x) = vp_cell cA (n, .inl (upd f k x)) := by
  rw [vp_cell_i, vp_cell_i, arrV_store]
  congr 2
  funext q
  by_cases hq : q = k
  · subst hq
    simp [updV, upd]
  · simp [updV, upd, hq]
theorem q_upd_l (cA : ClassId) (n k : Nat) (f : Nat → Int64) (x : Int64) : (vp_cell cA (n, .inr (.inl f))).setSlot k (.long x) = vp_cell cA (n, .inr (.inl (vp_updL f k x))) := by
  rw [vp_cell_l, vp_cell_l, arrV_store]
  congr 2
  funext q
  by_cases hq : q = k
  · subst hq
    simp [updV, vp_updL]
  · simp [updV, vp_updL, hq]
theorem q_upd_q (cA : ClassId) (n k : Nat) (f : Nat → Option Nat) (x : Option Nat) : (vp_cell cA (n, .inr (.inr (.inr (.inr f))))).setSlot k (va_rf x) = vp_cell cA (n, .inr (.inr (.inr (.inr (va_up f k x))))) := by
  rw [vp_cell_q, vp_cell_q, arrV_store]
  congr 2
  funext q
  by_cases hq : q = k
  · subst hq
    simp [updV, va_up]
  · simp [updV, va_up, hq]
theorem wa_iast {o : Option Nat} {i x : Int32} (hd : decode (m_cc M) pc = .ok (.iastore, 1)) (G : s_I h o 0 i x (fun h => WA D M Q X (pc + 1) lv st h)) : WA D M Q X pc lv (.int x :: .int i :: va_rf o :: st) h := by
  obtain ⟨a, n, f, rfl, hc, hin, kk⟩ := G
  intro p e s m args below meth c F H locs ls hA hS hl
  obtain ⟨K, hA⟩ := hA
  have hr := (hA.2.2.2.1 a _ hc).1
  refine W.iast F.1 F.2.1 hr ((fx_at F 0 _ rfl).1 n (fun j => .int (f j))) (fun q => by cases q) (by show ¬ (i < 0 ∨ (arrV _ _ _).slots.size ≤ _); rw [arrV_size]; exact hin) rfl rfl hd fun H' e1 e2 e3 => ?_
  exact q_put_go (x' := c_ia 0 n (upd f i.toNatClampNeg x)) F hA hS hl hc rfl hr e1 e2 e3 rfl (e1.trans (congrArg some (q_upd_i _ _ _ _ _))) kk
theorem q_nar_z {x : Int32} (hx : x = 0 ∨ x = 1) : narrow .boolean (.int x) = .int x := by
  rcases hx with rfl | rfl <;> rfl
theorem wa_zast {o : Option Nat} {i x : Int32} (hx : x = 0 ∨ x = 1) (hd : decode (m_cc M) pc = .ok (.bastore, 1)) (G : s_I h o 1 i x (fun h => WA D M Q X (pc + 1) lv st h)) : WA D M Q X pc lv (.int x :: .int i :: va_rf o :: st) h := by
  obtain ⟨a, n, f, rfl, hc, hin, kk⟩ := G
  intro p e s m args below meth c F H locs ls hA hS hl
  obtain ⟨K, hA⟩ := hA
  have hr := (hA.2.2.2.1 a _ hc).1
  refine W.zast F.1 F.2.1 hr ((fx_at F 1 _ rfl).1 n (fun j => .int (f j))) (fun q => by cases q) (by show ¬ (i < 0 ∨ (arrV _ _ _).slots.size ≤ _); rw [arrV_size]; exact hin) rfl rfl hd fun H' e1 e2 e3 => ?_
  rw [q_nar_z hx] at e1
  exact q_put_go (x' := c_ia 1 n (upd f i.toNatClampNeg x)) F hA hS hl hc rfl hr e1 e2 e3 rfl (e1.trans (congrArg some (q_upd_i _ _ _ _ _))) kk
/-- a byte stored: what is left of x -/
theorem wa_bast {o : Option Nat} {i x : Int32} (hd : decode (m_cc M) pc = .ok (.bastore, 1)) (G : s_I h o 2 i (x.toInt8.toInt32) (fun h => WA D M Q X (pc + 1) lv st h)) : WA D M Q X pc lv (.int x :: .int i :: va_rf o :: st) h := by
  obtain ⟨a, n, f, rfl, hc, hin, kk⟩ := G
  intro p e s m args below meth c F H locs ls hA hS hl
  obtain ⟨K, hA⟩ := hA
  have hr := (hA.2.2.2.1 a _ hc).1
  refine W.bast F.1 F.2.1 hr ((fx_at F 2 _ rfl).1 n (fun j => .int (f j))) (fun q => by cases q) (by show ¬ (i < 0 ∨ (arrV _ _ _).slots.size ≤ _); rw [arrV_size]; exact hin) rfl rfl hd fun H' e1 e2 e3 => ?_
  have e9 : H'[a]? = some ((vp_cell (d_A D 2) (n, .inl f)).setSlot i.toNatClampNeg (.int x.toInt8.toInt32)) := e1
  exact q_put_go (x' := c_ia 2 n (upd f i.toNatClampNeg x.toInt8.toInt32)) F hA hS hl hc rfl hr e9 e2 e3 rfl (e9.trans (congrArg some (q_upd_i _ _ _ _ _))) kk
theorem wa_last {o : Option Nat} {i : Int32} {x : Int64} (hd : decode (m_cc M) pc = .ok (.lastore, 1)) (G : s_L h o i x (fun h => WA D M Q X (pc + 1) lv st h)) : WA D M Q X pc lv (.long x :: .int i :: va_rf o :: st) h := by
  obtain ⟨a, n, f, rfl, hc, hin, kk⟩ := G
  intro p e s m args below meth c F H locs ls hA hS hl
  obtain ⟨K, hA⟩ := hA
  have hr := (hA.2.2.2.1 a _ hc).1
  refine W.last F.1 F.2.1 hr ((fx_at F 3 _ rfl).1 n (fun j => .long (f j))) (fun q => by cases q) (by show ¬ (i < 0 ∨ (arrV _ _ _).slots.size ≤ _); rw [arrV_size]; exact hin) rfl rfl hd fun H' e1 e2 e3 => ?_
  exact q_put_go (x' := c_la n (vp_updL f i.toNatClampNeg x)) F hA hS hl hc rfl hr e1 e2 e3 rfl (e1.trans (congrArg some (q_upd_l _ _ _ _ _))) kk
/-! a reference stored: the element's class must be one of the array's -/
/-- the class by name of what a cell is -/
def q_nm : qE → Option String
  | .inl (c, _) => qCL[c]?.map (·.1)
  | .inr (.inl (t, _, _)) => if t = 0 then some "[I" else none
  | .inr (.inr (.inr (.inr (.inl _)))) => some RJ2
  | .inr (.inr (.inr (.inr (.inr (.inl _))))) => some RJ2
  | .inr (.inr (.inr (.inr (.inr (.inr (.inl _)))))) => some RJ18
  | _ => none
theorem q_nm_at {p : Program} {e : Env} {s : State} {m : MethodId} {args : Array Value} {below : List Frame} {meth : Method} {c : Code} (F : q_FX D M p e s m args below meth c) {K : qHK} {H : Heap} {a : Nat} {x : qE} {C : String} (hk : ∀ a k, K a = some k → q_krep D a H k) (hr : q_rd D K a H x) (hn : q_nm x = some C) : ∃ cell : Cell, H[a]? = some cell ∧ cell.vm.isStatics = false ∧ s.vm.findClass C = some cell.cls := by
  have ob : ∀ (ci : Nat) (r : vw_C) (V : Nat → Value), qCL[ci]? = some r → r_OB a (d_C D ci) r.2.2 (d_I D ci) H V → ∃ cell : Cell, H[a]? = some cell ∧ cell.vm.isStatics = false ∧ s.vm.findClass r.1 = some cell.cls := by
    intro ci r V h1 h9
    obtain ⟨cell, g1, g2, g3, -⟩ := h9
    exact ⟨cell, g1, g3, by rw [g2]; exact (fx_cl F ci r h1).2.1⟩
  rcases x with ⟨ci, V⟩ | ⟨t, n, f⟩ | ⟨n, f⟩ | ⟨t, n, f⟩ | ⟨k, vs⟩ | ⟨k, vs⟩ | v | ⟨E, b⟩
  · obtain ⟨r, h1, h2⟩ := hr
    have : r.1 = C := by simpa [q_nm, h1] using hn
    rw [← this]
    exact ob ci r V h1 h2
  · have hr : q_wk D a H t n (fun j => .int (f j)) := hr
    by_cases ht : t = 0
    · subst ht
      have : "[I" = C := by simpa [q_nm] using hn
      rw [← this]
      obtain ⟨cell, g1, g2, g3, -⟩ := hr
      exact ⟨cell, g1, g3, by rw [g2]; exact (fx_at F 0 _ rfl).2 (by omega)⟩
    · simp [q_nm, ht] at hn
  · simp [q_nm] at hn
  · simp [q_nm] at hn
  · obtain ⟨arr, h1, -⟩ := hr
    have : RJ2 = C := by simpa [q_nm] using hn
    rw [← this]
    exact ob 6 _ _ rfl h1.rd
  · obtain ⟨arr, h1, -⟩ := hr
    have : RJ2 = C := by simpa [q_nm] using hn
    rw [← this]
    exact ob 6 _ _ rfl h1.rd
  · have h1 := hk a _ hr
    have : RJ18 = C := by simpa [q_nm] using hn
    rw [← this]
    exact ob 8 _ _ rfl h1
  · simp [q_nm] at hn
/-- an object of the class B is one of C -/
def q_okc (B C : String) : Prop := (B = C ∧ ∃ (ci : Nat) (r : vw_C), qCL[ci]? = some r ∧ r.1 = B) ∨ Cond.castable B C ∈ lw_tbl
/-- storing a reference -/
def s_R (D : qD) (h : qH) (o : Option Nat) (t : Nat) (C : String) (i : Int32) (w : Option Nat) (K : qH → Prop) : Prop := ∃ (a n : Nat) (f : Nat → Option Nat), o = some a ∧ h.2 a = some (c_ra t n f) ∧ vp_in i n ∧ (w = none ∨ ∃ (b : Nat) (y : qE) (B : String), w = some b ∧ q_cell D h b y ∧ q_nm y = some B ∧ q_okc B C) ∧ K (q_put h a (c_ra t n (va_up f i.toNatClampNeg w)))
theorem s_R_mono {o : Option Nat} {t : Nat} {C : String} {i : Int32} {w : Option Nat} {K K' : qH → Prop} (F : s_R D h o t C i w K) (hk : ∀ x, K x → K' x) : s_R D h o t C i w K' := by
  obtain ⟨a, n, f, h1, h2, h3, h4, h5⟩ := F
  exact ⟨a, n, f, h1, h2, h3, h4, hk _ h5⟩
/-- castable to itself, of the three -/
theorem q_self {p : Program} {e : Env} {s : State} {m : MethodId} {args : Array Value} {below : List Frame} {meth : Method} {c : Code} (F : q_FX D M p e s m args below meth c) {ci : Nat} {r : vw_C} (hr : qCL[ci]? = some r) {comp cv : ClassId} (h1 : s.vm.findClass r.1 = some comp) (h2 : s.vm.findClass r.1 = some cv) : s.vm.assignable cv comp = true := by
  cases h1.symm.trans h2
  have := (fx_cl F ci r hr).2
  cases h1.symm.trans this.1
  exact va_assign this
theorem wa_aast {o : Option Nat} {t : Nat} {C : String} {i : Int32} {w : Option Nat} (ht : qAT[t]? = some (.object C)) (hC : (t, C) ∈ qRA) (hd : decode (m_cc M) pc = .ok (.aastore, 1)) (G : s_R D h o t C i w (fun h => WA D M Q X (pc + 1) lv st h)) : WA D M Q X pc lv (va_rf w :: .int i :: va_rf o :: st) h := by
  obtain ⟨a, n, f, rfl, hc, hin, hw, kk⟩ := G
  intro p e s m args below meth c F H locs ls hA hS hl
  obtain ⟨K, hA⟩ := hA
  have hr := (hA.2.2.2.1 a _ hc).1
  have hlt : i.toNatClampNeg < n := Nat.not_le.mp fun q => hin (Or.inr q)
  have h0 : ¬ i < 0 := fun q => hin (Or.inl q)
  cases w with
  | none =>
    refine va_WaastN (C := C) F.1 F.2.1 hr ((fx_at F t _ ht).1 n (fun j => va_rf (f j))) (fun z => by cases z) (by show ¬ (i < 0 ∨ (arrV _ _ _).slots.size ≤ _); rw [arrV_size]; exact hin) rfl rfl hd fun H' e1 e2 e3 => ?_
    exact q_put_go (x' := c_ra t n (va_up f i.toNatClampNeg none)) F hA hS hl hc rfl hr e1 e2 e3 rfl (e1.trans (congrArg some (q_upd_q _ _ _ _ none))) kk
  | some b =>
    rcases hw with hw | ⟨b', y, B, hb, hy, hB, hcast⟩
    · cases hw
    cases hb
    obtain ⟨K9, hry⟩ := fx_cell F ⟨K, hA⟩ hS hy
    have hcell : ∃ cell : Cell, H[b]? = some cell ∧ cell.vm.isStatics = false ∧ s.vm.findClass B = some cell.cls := by
      rcases hy with hy | hy
      · exact q_nm_at F hA.2.2.2.2.1 (q_rep_rd (hA.2.2.2.1 b y hy).1) hB
      · obtain ⟨g1, g2⟩ := fx_ro F b y hy
        exact q_nm_at (K := fun _ => none) F (fun _ _ z => by cases z) (q_rd_kept g2 (hS.2.1 b (Nat.lt_of_lt_of_le g1 (fx_B F)) (Nat.not_le.mpr g1))) hB
    obtain ⟨cellV, g1, g2, g3⟩ := hcell
    obtain ⟨kA, comp, k1, k2, k3⟩ := fx_ra F _ hC
    have hass : s.vm.assignable cellV.cls comp = true := by
      rcases hcast with ⟨rfl, ci, r, hs1, hs2⟩ | hcast
      · subst hs2
        exact q_self F hs1 k3 g3
      · obtain ⟨c0, t0, f1, f2, f3⟩ := Cond.castable_spec (va_Nw.use (A := args) rfl (fx_ng F _ hcast rfl))
        cases g3.symm.trans f1
        cases k3.symm.trans f2
        exact f3
    obtain ⟨kcomp, hkc, -⟩ := Vm.findClass_spec k3
    obtain ⟨kv, hkv, -⟩ := Vm.findClass_spec g3
    refine W.aast F.1 F.2.1 hr (fun q z => by cases z) (fun z => by cases z) k1 k2 rfl hkc ⟨h0, by show _ < (arrV _ _ _).slots.size; rw [arrV_size]; exact hlt⟩ g1 (fun q z => by rw [z] at g2; cases g2) hkv hass rfl rfl hd fun H' e1 e2 e3 => ?_
    exact q_put_go (x' := c_ra t n (va_up f i.toNatClampNeg (some b))) F hA hS hl hc rfl hr e1 e2 e3 rfl (e1.trans (congrArg some (q_upd_q _ _ _ _ (some b)))) kk
end QA
