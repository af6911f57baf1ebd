set_option maxRecDepth 100000
/-! the start: the run's constants -/
section SD
variable {s : State}
/-- the constants, but for the cells that are only read -/
def sD0 (s : State) (l : Launch) (G : va_G) (dA : Nat → ClassId) (dX : String → ClassId × Array Value) (ds : Nat → Nat) : qD := (l, G, dA, dX, (fun _ _ => False), ds, s.heap.size, s.heap.size + 1200384, q_used s.heap + 5489834)
/-- the constants: what is only read is what the start's heap shows -/
def sD (s : State) (l : Launch) (G : va_G) (dA : Nat → ClassId) (dX : String → ClassId × Array Value) (ds : Nat → Nat) : qD := (l, G, dA, dX, (fun a e => a < s.heap.size ∧ q_rd (sD0 s l G dA dX ds) (fun _ => none) a s.heap e), ds, s.heap.size, s.heap.size + 1200384, q_used s.heap + 5489834)
theorem sD_rd {l : Launch} {G : va_G} {dA : Nat → ClassId} {dX : String → ClassId × Array Value} {ds : Nat → Nat} {a : Nat} {e : qE} (h : q_rd (sD0 s l G dA dX ds) (fun _ => none) a s.heap e) : q_rd (sD s l G dA dX ds) (fun _ => none) a s.heap e := by
  rcases e with e | e | e | e | e | e | e | e <;> exact h
theorem s_ten {P : Nat → FieldType → Prop} (h0 : P 0 .int) (h1 : P 1 .boolean) (h2 : P 2 .byte) (h3 : P 3 .long) (h4 : P 4 (.object "java/lang/Object")) (h5 : P 5 (.object "Quirefold$Style")) (h6 : P 6 (.array .int)) (h7 : P 7 (.object "Quirefold$Layout")) (h8 : P 8 (.object "java/lang/Integer")) (h9 : P 9 .int) : ∀ t ty, qAT[t]? = some ty → P t ty
  | 0, ty, h => by
    obtain rfl : (.int : FieldType) = ty := Option.some.inj h
    exact h0
  | 1, ty, h => by
    obtain rfl : (.boolean : FieldType) = ty := Option.some.inj h
    exact h1
  | 2, ty, h => by
    obtain rfl : (.byte : FieldType) = ty := Option.some.inj h
    exact h2
  | 3, ty, h => by
    obtain rfl : (.long : FieldType) = ty := Option.some.inj h
    exact h3
  | 4, ty, h => by
    obtain rfl : (.object "java/lang/Object" : FieldType) = ty := Option.some.inj h
    exact h4
  | 5, ty, h => by
    obtain rfl : (.object "Quirefold$Style" : FieldType) = ty := Option.some.inj h
    exact h5
  | 6, ty, h => by
    obtain rfl : (.array .int : FieldType) = ty := Option.some.inj h
    exact h6
  | 7, ty, h => by
    obtain rfl : (.object "Quirefold$Layout" : FieldType) = ty := Option.some.inj h
    exact h7
  | 8, ty, h => by
    obtain rfl : (.object "java/lang/Integer" : FieldType) = ty := Option.some.inj h
    exact h8
  | 9, ty, h => by
    obtain rfl : (.int : FieldType) = ty := Option.some.inj h
    exact h9
  | n + 10, _, h => nomatch h
theorem s_vbc {i : Nat} (hi : i < 256) : vb_c i = zI ((i : Int) - 128) := by
  show nI i - 128 = _
  rw [zI_n, show (128 : Int32) = zI 128 from rfl, zI_sub]
theorem s_bdI (x : Int32) : bd x.toInt := ⟨Int32.le_toInt x, Int32.toInt_lt x⟩
theorem s_zq2 (x : Int32) : x = zI x.toInt := (Int32.ofInt_toInt x).symm
theorem s_start {l : Launch} (hfl : l.flags = flags0) {b L : Nat} {xs : Nat → Int32} (hts : ∀ w ∈ lw_tbl, w.before #[Value.ref b] s = true) (hgv : sT.before #[Value.ref b] s = true) (hX : va_X b L xs s s.heap) :
    ∃ (D : qD) (g : Nat → Int), d_l D = l ∧ d_B D = s.heap.size ∧ d_K D = s.heap.size + 1200384 ∧ d_S D = q_used s.heap + 5489834 ∧ q_CX D s s.heap ∧ q_DK D ∧ SCR D b L g ∧ ∀ i, bd (g i) := by
  have hall : ∀ w ∈ lw_all, w.before #[Value.ref b] s = true := fun w hw => hts w (lw_all_tbl hw)
  obtain ⟨cl, hcl⟩ := Classical.axiomOfChoice (s_cl hall)
  obtain ⟨a0, h0, n0⟩ := s_ac (hall _ q146)
  obtain ⟨a1, h1, n1⟩ := s_ac (hall _ q1307)
  obtain ⟨a2, h2, n2⟩ := s_ac (hall _ q276)
  obtain ⟨a3, h3, n3⟩ := s_ac (hall _ q1537)
  obtain ⟨a4, ⟨h4, n4⟩, r4⟩ := s_ao (hts _ q669)
  obtain ⟨a5, ⟨h5, n5⟩, r5⟩ := s_ao (hts _ q123)
  obtain ⟨a6, h6, n6⟩ := s_aa (hts _ q125)
  obtain ⟨a7, ⟨h7, n7⟩, r7⟩ := s_ao (hts _ q127)
  have nB : s.vm.findClass "[B" = some a2 := by
    rw [← n2]
    exact congrArg _ (by decide +kernel)
  have nO : s.vm.findClass "[Ljava/lang/Object;" = some a4 := by
    rw [← n4]
    exact congrArg _ (by decide +kernel)
  obtain ⟨ad, hC, hel⟩ := vb_Cof (A := fun _ => False) rfl (va_eqt (lf_at hgv lf_k2)) (lf_at hgv lf_k3) (fun _ _ z => z)
  obtain ⟨t1, e1, hT1⟩ := va_Tof (A := fun _ => False) (N := 256) (by decide) (lf_at hgv lf_k1) (va_eqt (lf_at hgv lf_k2)) hel (fun _ _ z => z)
  obtain ⟨a8, w1, h8⟩ := s_T hT1
  obtain ⟨scr, g1, ⟨g2, k9, hk9, comp9, kind9⟩, g3, g4, g5⟩ := hX
  have h9 : ArrOfT s scr.cls .int := fun n z => ⟨(fun k h => by cases h), k9, hk9, comp9, kind9⟩
  obtain ⟨t0, e0, c0, w0, -⟩ := s_arr (N := 0) (f := fun _ => 0) (by decide) (lf_at hgv lf_d1) (lf_at hgv lf_d3) (fun j hj => absurd hj (Nat.not_lt_zero j))
  have w0 := s_wk_ex w0 (lf_at hgv lf_d2) e0 nO
  obtain ⟨t2, e2, c2, w2, -⟩ := s_arr (N := 100) (f := fun j => Int32.ofNat (48 + j / 10 % 10)) (by decide) (lf_at hgv lf_n1) (lf_at hgv lf_n2) (fun j hj => lf_at hgv (lf_n4 j hj))
  have w2 := s_wk_ex w2 (lf_at hgv lf_n3) e2 nB
  obtain ⟨t3, e3, c3, w3, -⟩ := s_arr (N := 100) (f := fun j => Int32.ofNat (48 + j % 10)) (by decide) (lf_at hgv lf_o1) (lf_at hgv lf_o2) (fun j hj => lf_at hgv (lf_o4 j hj))
  have w3 := s_wk_ex w3 (lf_at hgv lf_o3) e3 nB
  obtain ⟨mi, hmi⟩ := va_Mi.of (lf_at hgv lf_mi)
  obtain ⟨qs, hqs⟩ := Classical.axiomOfChoice (s_strs hall hts hgv (hcl 10 (RJ8, TJ8, 4) rfl) nB)
  obtain ⟨x0, y0⟩ := s_xn (hall _ q292)
  obtain ⟨x1, y1⟩ := s_xn (hall _ q514)
  obtain ⟨x2, y2⟩ := s_xn (hall _ q572)
  obtain ⟨ds, hds⟩ : ∃ ds : Nat → Nat, ds = fun i => if i = 0 then t0 else if i = 1 then t1 else if i = 2 then t2 else if i = 3 then t3 else if i = 4 then mi else qs (i - 100) := ⟨_, rfl⟩
  have d0 : ds 0 = t0 := by rw [hds]; rfl
  have d1 : ds 1 = t1 := by rw [hds]; rfl
  have d2 : ds 2 = t2 := by rw [hds]; rfl
  have d3 : ds 3 = t3 := by rw [hds]; rfl
  have d4 : ds 4 = mi := by rw [hds]; rfl
  have d5 : ∀ i, ds (100 + i) = qs i := fun i => by
    rw [hds]
    show (if 100 + i = 0 then t0 else if 100 + i = 1 then t1 else if 100 + i = 2 then t2 else if 100 + i = 3 then t3 else if 100 + i = 4 then mi else qs (100 + i - 100)) = qs i
    rw [if_neg (by omega), if_neg (by omega), if_neg (by omega), if_neg (by omega), if_neg (by omega), show 100 + i - 100 = i by omega]
  obtain ⟨dX, hdX⟩ : ∃ dX : String → ClassId × Array Value, dX = fun E => if E = "java/lang/IndexOutOfBoundsException" then x0 else if E = "java/lang/IllegalArgumentException" then x1 else x2 := ⟨_, rfl⟩
  have f0 : dX "java/lang/IndexOutOfBoundsException" = x0 := by rw [hdX]; exact if_pos rfl
  have f1 : dX "java/lang/IllegalArgumentException" = x1 := by rw [hdX]; exact (if_neg (by decide)).trans (if_pos rfl)
  have f2 : dX "java/lang/IllegalStateException" = x2 := by rw [hdX]; exact (if_neg (by decide)).trans (if_neg (by decide))
  have hP : ∀ a : Nat, a < s.heap.size → ¬ s.heap.size ≤ a := fun a ha hn => absurd ha (Nat.not_lt.mpr hn)
  obtain ⟨z0, z1, z2, z3, z4, z5⟩ := s_st hall hts hgv (P := fun q => s.heap.size ≤ q) hP e0 e1 e2 e3
  obtain ⟨z6, z7⟩ := s_zq hall hts hgv (P := fun q => s.heap.size ≤ q) hP
  refine ⟨sD s l (fun c => (cl c).1, fun c => (cl c).2) (fun t => [a0, a1, a2, a3, a4, a5, a6, a7, a8, scr.cls].getD t 0) dX ds, fun i => if i < L then (xs i).toInt else 0, rfl, rfl, rfl, rfl, ⟨⟨?_, fun c r hr => hcl c r hr, ?_, ?_, s_fw hall hts, fun w hw hg => va_Nw.of (s_tab hg) (hts w hw), ?_, ⟨hts _ q125, ?_⟩, s_dc hall hts, ?_, ?_, ?_, s_pv hall hts⟩, ?_, z6, z7, fun a e h => ⟨h.1, sD_rd h.2⟩⟩, ⟨?_, ?_, ?_, ?_, ?_⟩, ?_, ?_⟩
  · show l.stackTraces = false
    unfold Launch.stackTraces
    rw [hfl]
    decide +kernel
  · exact s_ten ⟨h0, fun _ => n0⟩ ⟨h1, fun _ => n1⟩ ⟨h2, fun _ => n2⟩ ⟨h3, fun _ => n3⟩ ⟨h4, fun _ => n4⟩ ⟨h5, fun _ => n5⟩ ⟨h6, fun _ => n6⟩ ⟨h7, fun _ => n7⟩ ⟨h8, fun z => absurd z (by decide)⟩ ⟨h9, fun z => absurd z (by decide)⟩
  · exact List.forall_mem_cons.mpr ⟨r4, List.forall_mem_cons.mpr ⟨r5, List.forall_mem_cons.mpr ⟨r7, fun _ h => absurd h List.not_mem_nil⟩⟩⟩
  · exact List.forall_mem_cons.mpr ⟨va_AO.of (hts _ q669), List.forall_mem_cons.mpr ⟨va_AO.of (hts _ q123), List.forall_mem_cons.mpr ⟨va_AO.of (hts _ q127), fun _ h => absurd h List.not_mem_nil⟩⟩⟩
  · exact List.forall_mem_cons.mpr ⟨va_Nc.of (lf_at hgv lf_x0), List.forall_mem_cons.mpr ⟨va_Nc.of (lf_at hgv lf_x1), List.forall_mem_cons.mpr ⟨va_Nc.of (lf_at hgv lf_x2), fun _ h => absurd h List.not_mem_nil⟩⟩⟩
  · show va_Mi "[Ljava/lang/Object;" (ds 4) s
    rw [d4]
    exact hmi
  · intro i q hq
    show vk_R q.1 q.2.1 q.2.2 (ds (100 + i)) s
    rw [d5]
    exact (hqs i q hq).1
  · refine List.forall_mem_cons.mpr ⟨?_, List.forall_mem_cons.mpr ⟨?_, List.forall_mem_cons.mpr ⟨?_, fun _ h => absurd h List.not_mem_nil⟩⟩⟩
    · show s.vm.findClass "java/lang/IndexOutOfBoundsException" = some (dX "java/lang/IndexOutOfBoundsException").1 ∧ ∃ kX : Class, s.vm.classes[(dX "java/lang/IndexOutOfBoundsException").1]? = some kX ∧ kX.kind = .ordinary ∧ kX.instanceTypes.map defaultValue = (dX "java/lang/IndexOutOfBoundsException").2 ∧ kX.instanceTypes.size = 6
      rw [f0]
      exact y0
    · show s.vm.findClass "java/lang/IllegalArgumentException" = some (dX "java/lang/IllegalArgumentException").1 ∧ ∃ kX : Class, s.vm.classes[(dX "java/lang/IllegalArgumentException").1]? = some kX ∧ kX.kind = .ordinary ∧ kX.instanceTypes.map defaultValue = (dX "java/lang/IllegalArgumentException").2 ∧ kX.instanceTypes.size = 6
      rw [f1]
      exact y1
    · show s.vm.findClass "java/lang/IllegalStateException" = some (dX "java/lang/IllegalStateException").1 ∧ ∃ kX : Class, s.vm.classes[(dX "java/lang/IllegalStateException").1]? = some kX ∧ kX.kind = .ordinary ∧ kX.instanceTypes.map defaultValue = (dX "java/lang/IllegalStateException").2 ∧ kX.instanceTypes.size = 6
      rw [f2]
      exact y2
  · refine List.forall_mem_cons.mpr ⟨?_, List.forall_mem_cons.mpr ⟨z1, List.forall_mem_cons.mpr ⟨?_, List.forall_mem_cons.mpr ⟨z3, List.forall_mem_cons.mpr ⟨?_, List.forall_mem_cons.mpr ⟨?_, fun _ h => absurd h List.not_mem_nil⟩⟩⟩⟩⟩⟩
    · show va_Z "java/util/ArrayList" "DEFAULTCAPACITY_EMPTY_ELEMENTDATA" "[Ljava/lang/Object;" (.ref (ds 0)) _ s s.heap
      rw [d0]
      exact z0
    · show va_Z "java/lang/Integer$IntegerCache" "cache" "[Ljava/lang/Integer;" (.ref (ds 1)) _ s s.heap
      rw [d1]
      exact z2
    · show va_Z "java/lang/Integer" "DigitTens" "[B" (.ref (ds 2)) _ s s.heap
      rw [d2]
      exact z4
    · show va_Z "java/lang/Integer" "DigitOnes" "[B" (.ref (ds 3)) _ s s.heap
      rw [d3]
      exact z5
  · obtain ⟨cell, p1, p2, p3, p4, p5, p6, -⟩ := id w0
    refine ⟨by show ds 0 < _; rw [d0]; exact s_wk_lt w0, ?_⟩
    show q_wk (sD0 s l (fun c => (cl c).1, fun c => (cl c).2) (fun t => [a0, a1, a2, a3, a4, a5, a6, a7, a8, scr.cls].getD t 0) dX ds) (ds 0) s.heap 4 0 _
    rw [d0]
    exact ⟨cell, p1, p2, p3, p4, p5, p6, fun j hj => absurd hj (Nat.not_lt_zero j)⟩
  · refine ⟨fun i => some (ad i), ⟨by show ds 1 < _; rw [d1]; exact s_wk_lt w1, ?_⟩, fun i hi => ⟨ad i, fun _ => .int (zI ((i : Int) - 128)), rfl, ⟨?_, ?_⟩, rfl⟩⟩
    · show q_wk (sD0 s l (fun c => (cl c).1, fun c => (cl c).2) (fun t => [a0, a1, a2, a3, a4, a5, a6, a7, a8, scr.cls].getD t 0) dX ds) (ds 1) s.heap 8 256 _
      rw [d1]
      exact w1
    · obtain ⟨cell, p1, -⟩ := hC.1 i hi
      exact (Array.getElem?_eq_some_iff.mp p1).1
    · have hb := s_box (hcl 8 (RJ18, TJ18, 1) rfl) (hC.1 i hi) (hC.2 i hi)
      rw [s_vbc hi] at hb
      exact ⟨(RJ18, TJ18, 1), rfl, hb⟩
  · refine ⟨fun j => Int32.ofNat (48 + j / 10 % 10), ⟨by show ds 2 < _; rw [d2]; exact s_wk_lt w2, ?_⟩, fun i => s_dig (Nat.mod_lt _ (by decide))⟩
    show q_wk (sD0 s l (fun c => (cl c).1, fun c => (cl c).2) (fun t => [a0, a1, a2, a3, a4, a5, a6, a7, a8, scr.cls].getD t 0) dX ds) (ds 2) s.heap 2 100 _
    rw [d2]
    exact w2
  · refine ⟨fun j => Int32.ofNat (48 + j % 10), ⟨by show ds 3 < _; rw [d3]; exact s_wk_lt w3, ?_⟩, fun i => s_dig (Nat.mod_lt _ (by decide))⟩
    show q_wk (sD0 s l (fun c => (cl c).1, fun c => (cl c).2) (fun t => [a0, a1, a2, a3, a4, a5, a6, a7, a8, scr.cls].getD t 0) dX ds) (ds 3) s.heap 2 100 _
    rw [d3]
    exact w3
  · intro i hi
    have hq : ∃ z, qSTR[i]? = some z := ⟨_, List.getElem?_eq_getElem (show i < qSTR.length from hi)⟩
    obtain ⟨z, hz⟩ := hq
    obtain ⟨-, t, V, n, ls, p1, p2, p3, p4, p5, p6⟩ := hqs i z hz
    refine ⟨V, t, n, fun j => ls.getD j 0, ⟨?_, (RJ8, TJ8, 4), rfl, ?_⟩, p2, p3, ⟨s_wk_lt p4, p4⟩, p5, p6⟩
    · show ds (100 + i) < _
      rw [d5]
      obtain ⟨cell, u1, -⟩ := p1
      exact (Array.getElem?_eq_some_iff.mp u1).1
    · show r_OB (ds (100 + i)) (cl 10).1 4 (cl 10).2 s.heap V
      rw [d5]
      exact p1
  · refine ⟨(Array.getElem?_eq_some_iff.mp g1).1, scr, g1, rfl, s_nst g2, g3, Nat.le_of_eq g4.symm, by rw [g4], fun j hj => ?_⟩
    rw [g5 j hj]
    show _ = some (Value.int (zI (if j < L then (xs j).toInt else 0)))
    rw [if_pos hj, ← s_zq2]
  · intro i
    show bd (if i < L then (xs i).toInt else 0)
    by_cases hi : i < L
    · rw [if_pos hi]
      exact s_bdI _
    · rw [if_neg hi]
      exact ⟨by decide, by decide⟩
end SD
