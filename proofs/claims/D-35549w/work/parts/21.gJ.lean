set_option maxRecDepth 100000
theorem f_J0_init {D : qD} {Q : Option Value → qH → Prop} {X : String → qH → Prop} (t : Nat) (h : qH) (F : Q none h) : MW D m_J0_init [va_rf (some t)] h Q X := by
  refine mw_of pl_J0_init rfl _ (Nat.le_of_ble_eq_true rfl) rfl ?_
  refine (show WA D m_J0_init Q X 0 [(0, va_rf (some t))] [] h from ?_)
  refine wa_aload_n (o := (some t)) dJ0_init_0 rfl 0 rfl ?_
  refine wa_objInit (a := t) dJ0_init_1 q104 q91 q92 (Nat.le_of_ble_eq_true rfl) (Nat.zero_le 8) ?_
  exact wa_vret rfl dJ0_init_4 F
theorem f_J1_init {D : qD} {Q : Option Value → qH → Prop} {X : String → qH → Prop} (t : Nat) (h : qH) (F : c_V D m_J0_init [va_rf (some t)] h X (fun h1 => p_F h1 (some t) 6 0 (.int 0) (fun h2 => Q none h2))) : MW D m_J1_init [va_rf (some t)] h Q X := by
  refine mw_of pl_J1_init rfl _ (Nat.le_of_ble_eq_true rfl) rfl ?_
  refine (show WA D m_J1_init Q X 0 [(0, va_rf (some t))] [] h from ?_)
  refine wa_aload_n (o := (some t)) dJ1_init_0 rfl 0 rfl ?_
  refine wa_callI (M' := m_J0_init) (b := t) (As := []) (st := []) dJ1_init_1 ⟨Nat.le_of_ble_eq_true rfl, Nat.le_of_ble_eq_true rfl, nk_J0_init⟩ rfl rfl q101 q102 q55 q103 rfl rfl (Nat.zero_le 8) rfl F (wk_V fun h1 F => ?_)
  refine wa_aload_n (o := (some t)) dJ1_init_4 rfl 0 rfl ?_
  refine wa_iconst (v := 0) dJ1_init_5 rfl ?_
  refine wa_put (C := RJ2) (T := TJ2) (N := 3) (ci := 6) (k := 0) tyJ2 dJ1_init_6 rfl (Nat.le_of_ble_eq_true rfl) in_J2 tyJ2_ok nmJ2 q111 q_same_own rfl rfl rfl (p_F_mono F fun h2 F => ?_)
  exact wa_vret rfl dJ1_init_9 F
def L_J12_newLength_21 (D : qD) (Q : Option Value → qH → Prop) (X : String → qH → Prop) (v0 : Int32) (v1 : Int32) (h : qH) : Prop := WA D m_J12_newLength Q X 21 [(0, .int v0), (1, .int v1)] [] h
theorem f_J12_newLength {D : qD} {Q : Option Value → qH → Prop} {X : String → qH → Prop} (p0 : Int32) (p1 : Int32) (p2 : Int32) (h : qH) (F : (((p0 + (if p1 < p2 then p2 else p1)) ≤ (0 : Int32) → L_J12_newLength_21 D Q X p0 p1 h) ∧ (¬ (p0 + (if p1 < p2 then p2 else p1)) ≤ (0 : Int32) → ((2147483639 < (p0 + (if p1 < p2 then p2 else p1)) → L_J12_newLength_21 D Q X p0 p1 h) ∧ (¬ 2147483639 < (p0 + (if p1 < p2 then p2 else p1)) → Q (some (.int (p0 + (if p1 < p2 then p2 else p1)))) h))))) : MW D m_J12_newLength [.int p0, .int p1, .int p2] h Q X := by
  refine mw_of pl_J12_newLength rfl _ (Nat.le_of_ble_eq_true rfl) rfl ?_
  refine (show WA D m_J12_newLength Q X 0 [(0, .int p0), (1, .int p1), (2, .int p2)] [] h from ?_)
  refine wa_iload_n (x := p0) dJ12_newLength_0 rfl 0 rfl ?_
  refine wa_iload_n (x := p1) dJ12_newLength_1 rfl 1 rfl ?_
  refine wa_iload_n (x := p2) dJ12_newLength_2 rfl 2 rfl ?_
  refine wa_mmax (x := p1) (y := p2) dJ12_newLength_3 q354 q355 q70 q356 (Nat.le_of_ble_eq_true rfl) (q_cs_le (q_csi q_cs0) (Nat.le_of_ble_eq_true rfl)) ?_
  refine wa_iadd dJ12_newLength_6 ?_
  refine ws_istore_n (lv' := [(3, .int (p0 + (if p1 < p2 then p2 else p1))), (0, .int p0), (1, .int p1), (2, .int p2)]) dJ12_newLength_7 rfl (Nat.le_of_ble_eq_true rfl) (q_ci (q_ci (q_ci q_cn))) rfl ?_
  refine wa_iconst (v := 0) dJ12_newLength_8 rfl ?_
  refine wa_iload_n (x := (p0 + (if p1 < p2 then p2 else p1))) dJ12_newLength_9 rfl 0 rfl ?_
  refine wa_icmp_ge (tgt := 21) dJ12_newLength_10 rfl (fun z => ?_) (fun z => ?_)
  · have F := F.1 z
    exact wa_sub [1, 2] rfl F
  · have F := F.2 z
    refine wa_iload_n (x := (p0 + (if p1 < p2 then p2 else p1))) dJ12_newLength_13 rfl 0 rfl ?_
    refine wa_ldci (v := 2147483639) dJ12_newLength_14 q357 ?_
    refine wa_icmp_gt (tgt := 21) dJ12_newLength_16 rfl (fun z => ?_) (fun z => ?_)
    · have F := F.1 z
      exact wa_sub [1, 2] rfl F
    · have F := F.2 z
      refine wa_iload_n (x := (p0 + (if p1 < p2 then p2 else p1))) dJ12_newLength_19 rfl 0 rfl ?_
      exact wa_iret rfl dJ12_newLength_20 F
theorem f_J12_newLength_21 {D : qD} {Q : Option Value → qH → Prop} {X : String → qH → Prop} (v0 : Int32) (v1 : Int32) (h : qH) (F : False) : L_J12_newLength_21 D Q X v0 v1 h := by
  show WA D m_J12_newLength Q X 21 [(0, .int v0), (1, .int v1)] [] h
  refine wa_iload_n (x := v0) dJ12_newLength_21 rfl 0 rfl ?_
  refine wa_iload_n (x := v1) dJ12_newLength_22 rfl 1 rfl ?_
  exact F.elim
def L_J15_checkIndex_9 (D : qD) (Q : Option Value → qH → Prop) (X : String → qH → Prop) (v0 : Int32) (v1 : Int32) (v2 : Option Nat) (h : qH) : Prop := WA D m_J15_checkIndex Q X 9 [(0, .int v0), (1, .int v1), (2, va_rf v2)] [] h
theorem f_J15_checkIndex {D : qD} {Q : Option Value → qH → Prop} {X : String → qH → Prop} (p0 : Int32) (p1 : Int32) (h : qH) (F : ((p0 < 0 → L_J15_checkIndex_9 D Q X p0 p1 none h) ∧ (¬ p0 < 0 → ((p0 < p1 → Q (some (.int p0)) h) ∧ (¬ p0 < p1 → L_J15_checkIndex_9 D Q X p0 p1 none h))))) : MW D m_J15_checkIndex [.int p0, .int p1, va_rf none] h Q X := by
  refine mw_of pl_J15_checkIndex rfl _ (Nat.le_of_ble_eq_true rfl) rfl ?_
  refine (show WA D m_J15_checkIndex Q X 0 [(0, .int p0), (1, .int p1), (2, va_rf none)] [] h from ?_)
  refine wa_iload_n (x := p0) dJ15_checkIndex_0 rfl 0 rfl ?_
  refine wa_if_lt (tgt := 9) dJ15_checkIndex_1 rfl (fun z => ?_) (fun z => ?_)
  · have F := F.1 z
    exact F
  · have F := F.2 z
    refine wa_iload_n (x := p0) dJ15_checkIndex_4 rfl 0 rfl ?_
    refine wa_iload_n (x := p1) dJ15_checkIndex_5 rfl 1 rfl ?_
    refine wa_icmp_lt (tgt := 16) dJ15_checkIndex_6 rfl (fun z => ?_) (fun z => ?_)
    · have F := F.1 z
      refine wa_iload_n (x := p0) dJ15_checkIndex_16 rfl 0 rfl ?_
      exact wa_iret rfl dJ15_checkIndex_17 F
    · have F := F.2 z
      exact F
theorem f_J15_checkIndex_9 {D : qD} {Q : Option Value → qH → Prop} {X : String → qH → Prop} (v0 : Int32) (v1 : Int32) (v2 : Option Nat) (h : qH) (F : False) : L_J15_checkIndex_9 D Q X v0 v1 v2 h := by
  show WA D m_J15_checkIndex Q X 9 [(0, .int v0), (1, .int v1), (2, va_rf v2)] [] h
  refine wa_aload_n (o := v2) dJ15_checkIndex_9 rfl 2 rfl ?_
  refine wa_iload_n (x := v0) dJ15_checkIndex_10 rfl 0 rfl ?_
  refine wa_iload_n (x := v1) dJ15_checkIndex_11 rfl 1 rfl ?_
  exact F.elim
theorem f_J21_checkIndex {D : qD} {Q : Option Value → qH → Prop} {X : String → qH → Prop} (p0 : Int32) (p1 : Int32) (h : qH) (F : c_I D m_J15_checkIndex [.int p0, .int p1, va_rf none] h X (fun x2 h1 => Q (some (.int x2)) h1)) : MW D m_J21_checkIndex [.int p0, .int p1] h Q X := by
  refine mw_of pl_J21_checkIndex rfl _ (Nat.le_of_ble_eq_true rfl) rfl ?_
  refine (show WA D m_J21_checkIndex Q X 0 [(0, .int p0), (1, .int p1)] [] h from ?_)
  refine wa_iload_n (x := p0) dJ21_checkIndex_0 rfl 0 rfl ?_
  refine wa_iload_n (x := p1) dJ21_checkIndex_1 rfl 1 rfl ?_
  refine wa_null dJ21_checkIndex_2 ?_
  refine wa_callS (M' := m_J15_checkIndex) (As := [.int p0, .int p1, va_rf none]) (st := []) dJ21_checkIndex_3 ⟨Nat.le_of_ble_eq_true rfl, Nat.le_of_ble_eq_true rfl, nk_J15_checkIndex⟩ q698 q699 q73 q700 rfl rfl (Nat.zero_le 8) rfl F (wk_I fun x2 h1 F => ?_)
  exact wa_iret rfl dJ21_checkIndex_6 F
theorem f_J2_size {D : qD} {Q : Option Value → qH → Prop} {X : String → qH → Prop} (t : Nat) (h : qH) (F : g_I D h (some t) 6 2 (fun x1 => Q (some (.int x1)) h)) : MW D m_J2_size [va_rf (some t)] h Q X := by
  refine mw_of pl_J2_size rfl _ (Nat.le_of_ble_eq_true rfl) rfl ?_
  refine (show WA D m_J2_size Q X 0 [(0, va_rf (some t))] [] h from ?_)
  refine wa_aload_n (o := (some t)) dJ2_size_0 rfl 0 rfl ?_
  refine wa_getI (C := RJ2) (T := TJ2) (N := 3) (ci := 6) (k := 2) dJ2_size_1 rfl (Nat.le_of_ble_eq_true rfl) in_J2 q110 q_same_own (g_I_mono F fun x1 F => ?_)
  exact wa_iret rfl dJ2_size_4 F
def L_J2_fastRemove_34 (D : qD) (Q : Option Value → qH → Prop) (X : String → qH → Prop) (t : Nat) (v1 : Nat) (v3 : Int32) (h : qH) : Prop := WA D m_J2_fastRemove Q X 34 [(0, va_rf (some t)), (1, va_rf (some v1)), (3, .int v3)] [] h
theorem f_J2_fastRemove {D : qD} {Q : Option Value → qH → Prop} {X : String → qH → Prop} (t : Nat) (p0 : Nat) (p1 : Int32) (h : qH) (F : g_I D h (some t) 6 0 (fun x1 => p_F h (some t) 6 0 (.int (x1 + 1)) (fun h2 => g_I D h2 (some t) 6 2 (fun x3 => (((x3 - 1) ≤ p1 → L_J2_fastRemove_34 D Q X t p0 (x3 - 1) h2) ∧ (¬ (x3 - 1) ≤ p1 → cp_R D h2 (some p0) (p1 + 1) (some p0) p1 ((x3 - 1) - p1) (fun h4 => L_J2_fastRemove_34 D Q X t p0 (x3 - 1) h4))))))) : MW D m_J2_fastRemove [va_rf (some t), va_rf (some p0), .int p1] h Q X := by
  refine mw_of pl_J2_fastRemove rfl _ (Nat.le_of_ble_eq_true rfl) rfl ?_
  refine (show WA D m_J2_fastRemove Q X 0 [(0, va_rf (some t)), (1, va_rf (some p0)), (2, .int p1)] [] h from ?_)
  refine wa_aload_n (o := (some t)) dJ2_fastRemove_0 rfl 0 rfl ?_
  refine wa_dup dJ2_fastRemove_1 (q_cat _) ?_
  refine wa_getI (C := RJ2) (T := TJ2) (N := 3) (ci := 6) (k := 0) dJ2_fastRemove_2 rfl (Nat.le_of_ble_eq_true rfl) in_J2 q114 (q_same_of q113) (g_I_mono F fun x1 F => ?_)
  refine wa_iconst (v := 1) dJ2_fastRemove_5 rfl ?_
  refine wa_iadd dJ2_fastRemove_6 ?_
  refine wa_put (C := RJ2) (T := TJ2) (N := 3) (ci := 6) (k := 0) tyJ2 dJ2_fastRemove_7 rfl (Nat.le_of_ble_eq_true rfl) in_J2 tyJ2_ok nmJ2 q114 (q_same_of q113) rfl rfl rfl (p_F_mono F fun h2 F => ?_)
  refine wa_aload_n (o := (some t)) dJ2_fastRemove_10 rfl 0 rfl ?_
  refine wa_getI (C := RJ2) (T := TJ2) (N := 3) (ci := 6) (k := 2) dJ2_fastRemove_11 rfl (Nat.le_of_ble_eq_true rfl) in_J2 q110 q_same_own (g_I_mono F fun x3 F => ?_)
  refine wa_iconst (v := 1) dJ2_fastRemove_14 rfl ?_
  refine wa_isub dJ2_fastRemove_15 ?_
  refine wa_dup dJ2_fastRemove_16 rfl ?_
  refine ws_istore_n (lv' := [(3, .int (x3 - 1)), (0, va_rf (some t)), (1, va_rf (some p0)), (2, .int p1)]) dJ2_fastRemove_17 rfl (Nat.le_of_ble_eq_true rfl) (q_cr (q_cr (q_ci q_cn))) rfl ?_
  refine wa_iload_n (x := p1) dJ2_fastRemove_18 rfl 3 rfl ?_
  refine wa_icmp_le (tgt := 34) dJ2_fastRemove_19 rfl (fun z => ?_) (fun z => ?_)
  · have F := F.1 z
    exact wa_sub [1, 2, 0] rfl F
  · have F := F.2 z
    refine wa_aload_n (o := (some p0)) dJ2_fastRemove_22 rfl 2 rfl ?_
    refine wa_iload_n (x := p1) dJ2_fastRemove_23 rfl 3 rfl ?_
    refine wa_iconst (v := 1) dJ2_fastRemove_24 rfl ?_
    refine wa_iadd dJ2_fastRemove_25 ?_
    refine wa_aload_n (o := (some p0)) dJ2_fastRemove_26 rfl 2 rfl ?_
    refine wa_iload_n (x := p1) dJ2_fastRemove_27 rfl 3 rfl ?_
    refine wa_iload_n (x := (x3 - 1)) dJ2_fastRemove_28 rfl 0 rfl ?_
    refine wa_iload_n (x := p1) dJ2_fastRemove_29 rfl 3 rfl ?_
    refine wa_isub dJ2_fastRemove_30 ?_
    refine wa_copyR dJ2_fastRemove_31 q673 (Nat.le_of_ble_eq_true rfl) (Nat.zero_le 8) (cp_R_mono F fun h4 F => ?_)
    exact wa_sub [1, 2, 0] rfl F
theorem f_J2_fastRemove_34 {D : qD} {Q : Option Value → qH → Prop} {X : String → qH → Prop} (t : Nat) (v1 : Nat) (v3 : Int32) (h : qH) (F : p_F h (some t) 6 2 (.int v3) (fun h1 => s_R D h1 (some v1) 4 "java/lang/Object" v3 none (fun h2 => Q none h2))) : L_J2_fastRemove_34 D Q X t v1 v3 h := by
  show WA D m_J2_fastRemove Q X 34 [(0, va_rf (some t)), (1, va_rf (some v1)), (3, .int v3)] [] h
  refine wa_aload_n (o := (some v1)) dJ2_fastRemove_34 rfl 1 rfl ?_
  refine wa_aload_n (o := (some t)) dJ2_fastRemove_35 rfl 0 rfl ?_
  refine wa_iload_n (x := v3) dJ2_fastRemove_36 rfl 2 rfl ?_
  refine wa_dup_x1 dJ2_fastRemove_37 rfl (q_cat _) ?_
  refine wa_put (C := RJ2) (T := TJ2) (N := 3) (ci := 6) (k := 2) tyJ2 dJ2_fastRemove_38 rfl (Nat.le_of_ble_eq_true rfl) in_J2 tyJ2_ok nmJ2 q110 q_same_own rfl rfl rfl (p_F_mono F fun h1 F => ?_)
  refine wa_null dJ2_fastRemove_41 ?_
  refine wa_aast (t := 4) (C := "java/lang/Object") rfl (by simp [qRA]) dJ2_fastRemove_42 (s_R_mono F fun h2 F => ?_)
  exact wa_vret rfl dJ2_fastRemove_43 F
theorem f_J2_elementData {D : qD} {Q : Option Value → qH → Prop} {X : String → qH → Prop} (t : Nat) (p0 : Int32) (h : qH) (F : g_R D h (some t) 6 1 (fun r1 => a_R D h r1 4 p0 (fun r2 => Q (some (va_rf r2)) h))) : MW D m_J2_elementData [va_rf (some t), .int p0] h Q X := by
  refine mw_of pl_J2_elementData rfl _ (Nat.le_of_ble_eq_true rfl) rfl ?_
  refine (show WA D m_J2_elementData Q X 0 [(0, va_rf (some t)), (1, .int p0)] [] h from ?_)
  refine wa_aload_n (o := (some t)) dJ2_elementData_0 rfl 0 rfl ?_
  refine wa_getR (C := RJ2) (T := TJ2) (N := 3) (ci := 6) (k := 1) dJ2_elementData_1 rfl (Nat.le_of_ble_eq_true rfl) in_J2 q107 q_same_own (g_R_mono F fun r1 F => ?_)
  refine wa_iload_n (x := p0) dJ2_elementData_4 rfl 1 rfl ?_
  refine wa_aald (t := 4) rfl rfl dJ2_elementData_5 (a_R_mono F fun r2 F => ?_)
  exact wa_aret rfl (Or.inl ⟨_, rfl⟩) dJ2_elementData_6 F
theorem f_J2_isEmpty {D : qD} {Q : Option Value → qH → Prop} {X : String → qH → Prop} (t : Nat) (h : qH) (F : g_I D h (some t) 6 2 (fun x1 => ((¬ x1 = 0 → Q (some (.int 0)) h) ∧ (x1 = 0 → Q (some (.int 1)) h)))) : MW D m_J2_isEmpty [va_rf (some t)] h Q X := by
  refine mw_of pl_J2_isEmpty rfl _ (Nat.le_of_ble_eq_true rfl) rfl ?_
  refine (show WA D m_J2_isEmpty Q X 0 [(0, va_rf (some t))] [] h from ?_)
  refine wa_aload_n (o := (some t)) dJ2_isEmpty_0 rfl 0 rfl ?_
  refine wa_getI (C := RJ2) (T := TJ2) (N := 3) (ci := 6) (k := 2) dJ2_isEmpty_1 rfl (Nat.le_of_ble_eq_true rfl) in_J2 q110 q_same_own (g_I_mono F fun x1 F => ?_)
  refine wa_if_ne (tgt := 11) dJ2_isEmpty_4 rfl (fun z => ?_) (fun z => ?_)
  · have F := F.1 z
    refine wa_iconst (v := 0) dJ2_isEmpty_11 rfl ?_
    exact wa_zret rfl rfl dJ2_isEmpty_12 F
  · have F := F.2 z
    refine wa_iconst (v := 1) dJ2_isEmpty_7 rfl ?_
    refine wa_goto (tgt := 12) dJ2_isEmpty_8 rfl ?_
    exact wa_zret rfl rfl dJ2_isEmpty_12 F
def L_J2_clear_27 (D : qD) (Q : Option Value → qH → Prop) (X : String → qH → Prop) (v1 : Option Nat) (v2 : Int32) (v3 : Int32) (h : qH) : Prop := WA D m_J2_clear Q X 27 [(1, va_rf v1), (2, .int v2), (3, .int v3)] [] h
theorem f_J2_clear {D : qD} {Q : Option Value → qH → Prop} {X : String → qH → Prop} (t : Nat) (h : qH) (F : g_I D h (some t) 6 0 (fun x1 => p_F h (some t) 6 0 (.int (x1 + 1)) (fun h2 => g_R D h2 (some t) 6 1 (fun r3 => g_I D h2 (some t) 6 2 (fun x4 => p_F h2 (some t) 6 2 (.int 0) (fun h5 => L_J2_clear_27 D Q X r3 x4 0 h5)))))) : MW D m_J2_clear [va_rf (some t)] h Q X := by
  refine mw_of pl_J2_clear rfl _ (Nat.le_of_ble_eq_true rfl) rfl ?_
  refine (show WA D m_J2_clear Q X 0 [(0, va_rf (some t))] [] h from ?_)
  refine wa_aload_n (o := (some t)) dJ2_clear_0 rfl 0 rfl ?_
  refine wa_dup dJ2_clear_1 (q_cat _) ?_
  refine wa_getI (C := RJ2) (T := TJ2) (N := 3) (ci := 6) (k := 0) dJ2_clear_2 rfl (Nat.le_of_ble_eq_true rfl) in_J2 q114 (q_same_of q113) (g_I_mono F fun x1 F => ?_)
  refine wa_iconst (v := 1) dJ2_clear_5 rfl ?_
  refine wa_iadd dJ2_clear_6 ?_
  refine wa_put (C := RJ2) (T := TJ2) (N := 3) (ci := 6) (k := 0) tyJ2 dJ2_clear_7 rfl (Nat.le_of_ble_eq_true rfl) in_J2 tyJ2_ok nmJ2 q114 (q_same_of q113) rfl rfl rfl (p_F_mono F fun h2 F => ?_)
  refine wa_aload_n (o := (some t)) dJ2_clear_10 rfl 0 rfl ?_
  refine wa_getR (C := RJ2) (T := TJ2) (N := 3) (ci := 6) (k := 1) dJ2_clear_11 rfl (Nat.le_of_ble_eq_true rfl) in_J2 q107 q_same_own (g_R_mono F fun r3 F => ?_)
  refine ws_astore_n (lv' := [(1, va_rf r3), (0, va_rf (some t))]) dJ2_clear_14 rfl (Nat.le_of_ble_eq_true rfl) (q_cr q_cn) rfl ?_
  refine wa_aload_n (o := (some t)) dJ2_clear_15 rfl 1 rfl ?_
  refine wa_getI (C := RJ2) (T := TJ2) (N := 3) (ci := 6) (k := 2) dJ2_clear_16 rfl (Nat.le_of_ble_eq_true rfl) in_J2 q110 q_same_own (g_I_mono F fun x4 F => ?_)
  refine ws_istore_n (lv' := [(2, .int x4), (1, va_rf r3), (0, va_rf (some t))]) dJ2_clear_19 rfl (Nat.le_of_ble_eq_true rfl) (q_cr (q_cr q_cn)) rfl ?_
  refine wa_aload_n (o := (some t)) dJ2_clear_20 rfl 2 rfl ?_
  refine wa_iconst (v := 0) dJ2_clear_21 rfl ?_
  refine wa_dup_x1 dJ2_clear_22 rfl (q_cat _) ?_
  refine wa_put (C := RJ2) (T := TJ2) (N := 3) (ci := 6) (k := 2) tyJ2 dJ2_clear_23 rfl (Nat.le_of_ble_eq_true rfl) in_J2 tyJ2_ok nmJ2 q110 q_same_own rfl rfl rfl (p_F_mono F fun h5 F => ?_)
  refine ws_istore_n (lv' := [(3, .int 0), (2, .int x4), (1, va_rf r3), (0, va_rf (some t))]) dJ2_clear_26 rfl (Nat.le_of_ble_eq_true rfl) (q_ci (q_cr (q_cr q_cn))) rfl ?_
  exact wa_sub [2, 1, 0] rfl F
theorem f_J2_clear_27 {D : qD} {Q : Option Value → qH → Prop} {X : String → qH → Prop} (v1 : Option Nat) (v2 : Int32) (v3 : Int32) (h : qH) (F : ((v2 ≤ v3 → Q none h) ∧ (¬ v2 ≤ v3 → s_R D h v1 4 "java/lang/Object" v3 none (fun h1 => L_J2_clear_27 D Q X v1 v2 (v3 + 1) h1)))) : L_J2_clear_27 D Q X v1 v2 v3 h := by
  show WA D m_J2_clear Q X 27 [(1, va_rf v1), (2, .int v2), (3, .int v3)] [] h
  refine wa_iload_n (x := v3) dJ2_clear_27 rfl 2 rfl ?_
  refine wa_iload_n (x := v2) dJ2_clear_28 rfl 1 rfl ?_
  refine wa_icmp_ge (tgt := 42) dJ2_clear_29 rfl (fun z => ?_) (fun z => ?_)
  · have F := F.1 z
    exact wa_vret rfl dJ2_clear_42 F
  · have F := F.2 z
    refine wa_aload_n (o := v1) dJ2_clear_32 rfl 0 rfl ?_
    refine wa_iload_n (x := v3) dJ2_clear_33 rfl 2 rfl ?_
    refine wa_null dJ2_clear_34 ?_
    refine wa_aast (t := 4) (C := "java/lang/Object") rfl (by simp [qRA]) dJ2_clear_35 (s_R_mono F fun h1 F => ?_)
    refine ws_iinc (j := 2) (v := (v3 + 1)) (lv' := [(3, .int (v3 + 1)), (1, va_rf v1), (2, .int v2)]) dJ2_clear_36 rfl rfl (Nat.le_of_ble_eq_true rfl) (q_cr (q_ci (q_ci q_cn))) rfl ?_
    refine wa_goto (tgt := 27) dJ2_clear_39 rfl ?_
    exact wa_sub [1, 2, 0] rfl F
theorem f_J2_iterator {D : qD} {Q : Option Value → qH → Prop} {X : String → qH → Prop} (t : Nat) (h : qH) (F : n_O h 7 4 tyJ22 (fun a1 h2 => c_V D m_J22_init [va_rf (some a1), va_rf (some t)] h2 X (fun h3 => Q (some (va_rf (some a1))) h3))) : MW D m_J2_iterator [va_rf (some t)] h Q X := by
  refine mw_of pl_J2_iterator rfl _ (Nat.le_of_ble_eq_true rfl) rfl ?_
  refine (show WA D m_J2_iterator Q X 0 [(0, va_rf (some t))] [] h from ?_)
  refine wa_new (C := RJ22) (T := TJ22) tyJ22 dJ2_iterator_0 rfl in_J22 tyJ22_ok q979 q980 q84 (n_O_mono F fun a1 h2 F => ?_)
  refine wa_dup dJ2_iterator_3 (q_cat _) ?_
  refine wa_aload_n (o := (some t)) dJ2_iterator_4 rfl 0 rfl ?_
  refine wa_callI (M' := m_J22_init) (b := a1) (As := [va_rf (some t)]) (st := [va_rf (some a1)]) dJ2_iterator_5 ⟨Nat.le_of_ble_eq_true rfl, Nat.le_of_ble_eq_true rfl, nk_J22_init⟩ rfl rfl q981 q982 q84 q983 rfl rfl (q_cs_le (q_csr q_cs0) (Nat.le_of_ble_eq_true rfl)) rfl F (wk_V fun h3 F => ?_)
  exact wa_aret rfl (Or.inl ⟨_, rfl⟩) dJ2_iterator_8 F
theorem f_J2_init {D : qD} {Q : Option Value → qH → Prop} {X : String → qH → Prop} (t : Nat) (h : qH) (F : c_V D m_J1_init [va_rf (some t)] h X (fun h1 => p_F h1 (some t) 6 1 (va_rf (some (d_s D 0))) (fun h2 => Q none h2))) : MW D m_J2_init [va_rf (some t)] h Q X := by
  refine mw_of pl_J2_init rfl _ (Nat.le_of_ble_eq_true rfl) rfl ?_
  refine (show WA D m_J2_init Q X 0 [(0, va_rf (some t))] [] h from ?_)
  refine wa_aload_n (o := (some t)) dJ2_init_0 rfl 0 rfl ?_
  refine wa_callI (M' := m_J1_init) (b := t) (As := []) (st := []) dJ2_init_1 ⟨Nat.le_of_ble_eq_true rfl, Nat.le_of_ble_eq_true rfl, nk_J1_init⟩ rfl rfl q98 q99 q56 q100 rfl rfl (Nat.zero_le 8) rfl F (wk_V fun h1 F => ?_)
  refine wa_aload_n (o := (some t)) dJ2_init_4 rfl 0 rfl ?_
  refine wa_gets (C := "java/util/ArrayList") (v := va_rf (some (d_s D 0))) dJ2_init_5 (by simp [qST, va_rf]) q105 rfl ?_
  refine wa_put (C := RJ2) (T := TJ2) (N := 3) (ci := 6) (k := 1) tyJ2 dJ2_init_8 rfl (Nat.le_of_ble_eq_true rfl) in_J2 tyJ2_ok nmJ2 q107 q_same_own rfl (q_nar_arr _) (q_fit_arr _) (p_F_mono F fun h2 F => ?_)
  exact wa_vret rfl dJ2_init_11 F
theorem f_J2_remove {D : qD} {Q : Option Value → qH → Prop} {X : String → qH → Prop} (t : Nat) (p0 : Int32) (h : qH) (F : g_I D h (some t) 6 2 (fun x1 => c_I D m_J21_checkIndex [.int p0, .int x1] h X (fun x3 h2 => g_R D h2 (some t) 6 1 (fun r4 => a_R D h2 r4 4 p0 (fun r5 => (recv D h2 (some t) RJ2 ∧ c_V D m_J2_fastRemove [va_rf (some t), va_rf r4, .int p0] h2 X (fun h6 => Q (some (va_rf r5)) h6))))))) : MW D m_J2_remove [va_rf (some t), .int p0] h Q X := by
  refine mw_of pl_J2_remove rfl _ (Nat.le_of_ble_eq_true rfl) rfl ?_
  refine (show WA D m_J2_remove Q X 0 [(0, va_rf (some t)), (1, .int p0)] [] h from ?_)
  refine wa_iload_n (x := p0) dJ2_remove_0 rfl 1 rfl ?_
  refine wa_aload_n (o := (some t)) dJ2_remove_1 rfl 0 rfl ?_
  refine wa_getI (C := RJ2) (T := TJ2) (N := 3) (ci := 6) (k := 2) dJ2_remove_2 rfl (Nat.le_of_ble_eq_true rfl) in_J2 q110 q_same_own (g_I_mono F fun x1 F => ?_)
  refine wa_callS (M' := m_J21_checkIndex) (As := [.int p0, .int x1]) (st := []) dJ2_remove_5 ⟨Nat.le_of_ble_eq_true rfl, Nat.le_of_ble_eq_true rfl, nk_J21_checkIndex⟩ q695 q696 q80 q697 rfl rfl (Nat.zero_le 8) rfl F (wk_I fun x3 h2 F => ?_)
  refine wa_pop dJ2_remove_8 rfl ?_
  refine wa_aload_n (o := (some t)) dJ2_remove_9 rfl 0 rfl ?_
  refine wa_getR (C := RJ2) (T := TJ2) (N := 3) (ci := 6) (k := 1) dJ2_remove_10 rfl (Nat.le_of_ble_eq_true rfl) in_J2 q107 q_same_own (g_R_mono F fun r4 F => ?_)
  refine ws_astore_n (lv' := [(2, va_rf r4), (0, va_rf (some t)), (1, .int p0)]) dJ2_remove_13 rfl (Nat.le_of_ble_eq_true rfl) (q_cr (q_ci q_cn)) rfl ?_
  refine wa_aload_n (o := r4) dJ2_remove_14 rfl 0 rfl ?_
  refine wa_iload_n (x := p0) dJ2_remove_15 rfl 2 rfl ?_
  refine wa_aald (t := 4) rfl rfl dJ2_remove_16 (a_R_mono F fun r5 F => ?_)
  refine ws_astore_n (lv' := [(3, va_rf r5), (2, va_rf r4), (0, va_rf (some t)), (1, .int p0)]) dJ2_remove_17 rfl (Nat.le_of_ble_eq_true rfl) (q_cr (q_cr (q_ci q_cn))) rfl ?_
  refine wa_aload_n (o := (some t)) dJ2_remove_18 rfl 2 rfl ?_
  refine wa_aload_n (o := r4) dJ2_remove_19 rfl 1 rfl ?_
  refine wa_iload_n (x := p0) dJ2_remove_20 rfl 3 rfl ?_
  refine wa_callV (M' := m_J2_fastRemove) (C := RJ2) (o := (some t)) (As := [va_rf r4, .int p0]) (st := []) dJ2_remove_21 ⟨Nat.le_of_ble_eq_true rfl, Nat.le_of_ble_eq_true rfl, nk_J2_fastRemove⟩ q701 q703 qs6 q57 q704 rfl rfl (Nat.zero_le 8) rfl F.1 F.2 (wk_V fun h6 F => ?_)
  refine wa_aload_n (o := r5) dJ2_remove_24 rfl 0 rfl ?_
  exact wa_aret rfl (Or.inl ⟨_, rfl⟩) dJ2_remove_25 F
theorem f_J2_get {D : qD} {Q : Option Value → qH → Prop} {X : String → qH → Prop} (t : Nat) (p0 : Int32) (h : qH) (F : g_I D h (some t) 6 2 (fun x1 => c_I D m_J21_checkIndex [.int p0, .int x1] h X (fun x3 h2 => (recv D h2 (some t) RJ2 ∧ c_R D m_J2_elementData [va_rf (some t), .int p0] h2 X (fun r5 h4 => Q (some (va_rf r5)) h4))))) : MW D m_J2_get [va_rf (some t), .int p0] h Q X := by
  refine mw_of pl_J2_get rfl _ (Nat.le_of_ble_eq_true rfl) rfl ?_
  refine (show WA D m_J2_get Q X 0 [(0, va_rf (some t)), (1, .int p0)] [] h from ?_)
  refine wa_iload_n (x := p0) dJ2_get_0 rfl 1 rfl ?_
  refine wa_aload_n (o := (some t)) dJ2_get_1 rfl 0 rfl ?_
  refine wa_getI (C := RJ2) (T := TJ2) (N := 3) (ci := 6) (k := 2) dJ2_get_2 rfl (Nat.le_of_ble_eq_true rfl) in_J2 q110 q_same_own (g_I_mono F fun x1 F => ?_)
  refine wa_callS (M' := m_J21_checkIndex) (As := [.int p0, .int x1]) (st := []) dJ2_get_5 ⟨Nat.le_of_ble_eq_true rfl, Nat.le_of_ble_eq_true rfl, nk_J21_checkIndex⟩ q695 q696 q80 q697 rfl rfl (Nat.zero_le 8) rfl F (wk_I fun x3 h2 F => ?_)
  refine wa_pop dJ2_get_8 rfl ?_
  refine wa_aload_n (o := (some t)) dJ2_get_9 rfl 0 rfl ?_
  refine wa_iload_n (x := p0) dJ2_get_10 rfl 1 rfl ?_
  refine wa_callV (M' := m_J2_elementData) (C := RJ2) (o := (some t)) (As := [.int p0]) (st := []) dJ2_get_11 ⟨Nat.le_of_ble_eq_true rfl, Nat.le_of_ble_eq_true rfl, nk_J2_elementData⟩ q781 q782 q783 q57 q784 rfl rfl (Nat.zero_le 8) rfl F.1 F.2 (wk_R fun r5 h4 F => ?_)
  exact wa_aret rfl (Or.inl ⟨_, rfl⟩) dJ2_get_14 F
def L_J2_grow_2_20 (D : qD) (Q : Option Value → qH → Prop) (X : String → qH → Prop) (t : Nat) (v1 : Int32) (v2 : Int32) (h : qH) : Prop := WA D m_J2_grow_2 Q X 20 [(0, va_rf (some t)), (1, .int v1), (2, .int v2)] [] h
theorem f_J2_grow_2 {D : qD} {Q : Option Value → qH → Prop} {X : String → qH → Prop} (t : Nat) (p0 : Int32) (h : qH) (F : g_R D h (some t) 6 1 (fun r1 => a_N D h r1 (fun x2 => ((0 < x2 → L_J2_grow_2_20 D Q X t p0 x2 h) ∧ (¬ 0 < x2 → g_R D h (some t) 6 1 (fun r3 => ((r3 = (some (d_s D 0)) → n_R h 4 (if 10 < p0 then p0 else 10) (fun a4 h5 => p_F h5 (some t) 6 1 (va_rf (some a4)) (fun h6 => Q (some (va_rf (some a4))) h6))) ∧ (¬ r3 = (some (d_s D 0)) → L_J2_grow_2_20 D Q X t p0 x2 h)))))))) : MW D m_J2_grow_2 [va_rf (some t), .int p0] h Q X := by
  refine mw_of pl_J2_grow_2 rfl _ (Nat.le_of_ble_eq_true rfl) rfl ?_
  refine (show WA D m_J2_grow_2 Q X 0 [(0, va_rf (some t)), (1, .int p0)] [] h from ?_)
  refine wa_aload_n (o := (some t)) dJ2_grow_2_0 rfl 0 rfl ?_
  refine wa_getR (C := RJ2) (T := TJ2) (N := 3) (ci := 6) (k := 1) dJ2_grow_2_1 rfl (Nat.le_of_ble_eq_true rfl) in_J2 q107 q_same_own (g_R_mono F fun r1 F => ?_)
  refine wa_alen dJ2_grow_2_4 (a_N_mono F fun x2 F => ?_)
  refine ws_istore_n (lv' := [(2, .int x2), (0, va_rf (some t)), (1, .int p0)]) dJ2_grow_2_5 rfl (Nat.le_of_ble_eq_true rfl) (q_cr (q_ci q_cn)) rfl ?_
  refine wa_iload_n (x := x2) dJ2_grow_2_6 rfl 0 rfl ?_
  refine wa_if_gt (tgt := 20) dJ2_grow_2_7 rfl (fun z => ?_) (fun z => ?_)
  · have F := F.1 z
    exact wa_sub [1, 2, 0] rfl F
  · have F := F.2 z
    refine wa_aload_n (o := (some t)) dJ2_grow_2_10 rfl 1 rfl ?_
    refine wa_getR (C := RJ2) (T := TJ2) (N := 3) (ci := 6) (k := 1) dJ2_grow_2_11 rfl (Nat.le_of_ble_eq_true rfl) in_J2 q107 q_same_own (g_R_mono F fun r3 F => ?_)
    refine wa_gets (C := "java/util/ArrayList") (v := va_rf (some (d_s D 0))) dJ2_grow_2_14 (by simp [qST, va_rf]) q105 rfl ?_
    refine wa_acmp_eq (tgt := 45) dJ2_grow_2_17 rfl (fun z => ?_) (fun z => ?_)
    · have F := F.1 z
      refine wa_aload_n (o := (some t)) dJ2_grow_2_45 rfl 1 rfl ?_
      refine wa_bipush (v := 10) dJ2_grow_2_46 rfl ?_
      refine wa_iload_n (x := p0) dJ2_grow_2_48 rfl 2 rfl ?_
      refine wa_mmax (x := 10) (y := p0) dJ2_grow_2_49 q671 q355 q70 q356 (Nat.le_of_ble_eq_true rfl) (q_cs_le (q_csr q_cs0) (Nat.le_of_ble_eq_true rfl)) ?_
      refine wa_newR (t := 4) (C := "java/lang/Object") rfl (by simp [qAO]) q672 dJ2_grow_2_52 (n_R_mono F fun a4 h5 F => ?_)
      refine wa_dup_x1 dJ2_grow_2_55 (q_cat _) (q_cat _) ?_
      refine wa_put (C := RJ2) (T := TJ2) (N := 3) (ci := 6) (k := 1) tyJ2 dJ2_grow_2_56 rfl (Nat.le_of_ble_eq_true rfl) in_J2 tyJ2_ok nmJ2 q107 q_same_own rfl (q_nar_arr _) (q_fit_arr _) (p_F_mono F fun h6 F => ?_)
      exact wa_aret rfl (Or.inr ⟨_, rfl⟩) dJ2_grow_2_59 F
    · have F := F.2 z
      exact wa_sub [1, 2, 0] rfl F
theorem f_J2_grow_2_20 {D : qD} {Q : Option Value → qH → Prop} {X : String → qH → Prop} (t : Nat) (v1 : Int32) (v2 : Int32) (h : qH) (F : c_I D m_J12_newLength [.int v2, .int (v1 - v2), .int (v2 >>> ((1 : Int32) &&& 31))] h X (fun x2 h1 => g_R D h1 (some t) 6 1 (fun r3 => c_R D m_J14_copyOf_2 [va_rf r3, .int x2] h1 X (fun r5 h4 => p_F h4 (some t) 6 1 (va_rf r5) (fun h6 => Q (some (va_rf r5)) h6))))) : L_J2_grow_2_20 D Q X t v1 v2 h := by
  show WA D m_J2_grow_2 Q X 20 [(0, va_rf (some t)), (1, .int v1), (2, .int v2)] [] h
  refine wa_iload_n (x := v2) dJ2_grow_2_20 rfl 2 rfl ?_
  refine wa_iload_n (x := v1) dJ2_grow_2_21 rfl 1 rfl ?_
  refine wa_iload_n (x := v2) dJ2_grow_2_22 rfl 2 rfl ?_
  refine wa_isub dJ2_grow_2_23 ?_
  refine wa_iload_n (x := v2) dJ2_grow_2_24 rfl 2 rfl ?_
  refine wa_iconst (v := 1) dJ2_grow_2_25 rfl ?_
  refine wa_ishr dJ2_grow_2_26 ?_
  refine wa_callS (M' := m_J12_newLength) (As := [.int v2, .int (v1 - v2), .int (v2 >>> ((1 : Int32) &&& 31))]) (st := []) dJ2_grow_2_27 ⟨Nat.le_of_ble_eq_true rfl, Nat.le_of_ble_eq_true rfl, nk_J12_newLength⟩ q642 q352 q69 q353 rfl rfl (Nat.zero_le 8) rfl F (wk_I fun x2 h1 F => ?_)
  refine ws_istore_n (lv' := [(3, .int x2), (0, va_rf (some t)), (1, .int v1), (2, .int v2)]) dJ2_grow_2_30 rfl (Nat.le_of_ble_eq_true rfl) (q_cr (q_ci (q_ci q_cn))) rfl ?_
  refine wa_aload_n (o := (some t)) dJ2_grow_2_31 rfl 1 rfl ?_
  refine wa_aload_n (o := (some t)) dJ2_grow_2_32 rfl 1 rfl ?_
  refine wa_getR (C := RJ2) (T := TJ2) (N := 3) (ci := 6) (k := 1) dJ2_grow_2_33 rfl (Nat.le_of_ble_eq_true rfl) in_J2 q107 q_same_own (g_R_mono F fun r3 F => ?_)
  refine wa_iload_n (x := x2) dJ2_grow_2_36 rfl 0 rfl ?_
  refine wa_callS (M' := m_J14_copyOf_2) (As := [va_rf r3, .int x2]) (st := [va_rf (some t)]) dJ2_grow_2_37 ⟨Nat.le_of_ble_eq_true rfl, Nat.le_of_ble_eq_true rfl, nk_J14_copyOf_2⟩ q643 q644 q71 q645 rfl rfl (q_cs_le (q_csr q_cs0) (Nat.le_of_ble_eq_true rfl)) rfl F (wk_R fun r5 h4 F => ?_)
  refine wa_dup_x1 dJ2_grow_2_40 (q_cat _) (q_cat _) ?_
  refine wa_put (C := RJ2) (T := TJ2) (N := 3) (ci := 6) (k := 1) tyJ2 dJ2_grow_2_41 rfl (Nat.le_of_ble_eq_true rfl) in_J2 tyJ2_ok nmJ2 q107 q_same_own rfl (q_nar_arr _) (q_fit_arr _) (p_F_mono F fun h6 F => ?_)
  exact wa_aret rfl (Or.inr ⟨_, rfl⟩) dJ2_grow_2_44 F
theorem f_J2_grow {D : qD} {Q : Option Value → qH → Prop} {X : String → qH → Prop} (t : Nat) (h : qH) (F : g_I D h (some t) 6 2 (fun x1 => (recv D h (some t) RJ2 ∧ c_R D m_J2_grow_2 [va_rf (some t), .int (x1 + 1)] h X (fun r3 h2 => Q (some (va_rf r3)) h2)))) : MW D m_J2_grow [va_rf (some t)] h Q X := by
  refine mw_of pl_J2_grow rfl _ (Nat.le_of_ble_eq_true rfl) rfl ?_
  refine (show WA D m_J2_grow Q X 0 [(0, va_rf (some t))] [] h from ?_)
  refine wa_aload_n (o := (some t)) dJ2_grow_0 rfl 0 rfl ?_
  refine wa_aload_n (o := (some t)) dJ2_grow_1 rfl 0 rfl ?_
  refine wa_getI (C := RJ2) (T := TJ2) (N := 3) (ci := 6) (k := 2) dJ2_grow_2 rfl (Nat.le_of_ble_eq_true rfl) in_J2 q110 q_same_own (g_I_mono F fun x1 F => ?_)
  refine wa_iconst (v := 1) dJ2_grow_5 rfl ?_
  refine wa_iadd dJ2_grow_6 ?_
  refine wa_callV (M' := m_J2_grow_2) (C := RJ2) (o := (some t)) (As := [.int (x1 + 1)]) (st := []) dJ2_grow_7 ⟨Nat.le_of_ble_eq_true rfl, Nat.le_of_ble_eq_true rfl, nk_J2_grow_2⟩ q638 q640 qs4 q57 q641 rfl rfl (Nat.zero_le 8) rfl F.1 F.2 (wk_R fun r3 h2 F => ?_)
  exact wa_aret rfl (Or.inr ⟨_, rfl⟩) dJ2_grow_10 F
def L_J2_add_3_11 (D : qD) (Q : Option Value → qH → Prop) (X : String → qH → Prop) (t : Nat) (v1 : Nat) (v2 : Option Nat) (v3 : Int32) (h : qH) : Prop := WA D m_J2_add_3 Q X 11 [(0, va_rf (some t)), (1, va_rf (some v1)), (2, va_rf v2), (3, .int v3)] [] h
theorem f_J2_add_3 {D : qD} {Q : Option Value → qH → Prop} {X : String → qH → Prop} (t : Nat) (p0 : Nat) (p1 : Nat) (p2 : Int32) (h : qH) (F : a_N D h (some p1) (fun x1 => ((¬ p2 = x1 → L_J2_add_3_11 D Q X t p0 (some p1) p2 h) ∧ (p2 = x1 → (recv D h (some t) RJ2 ∧ c_R D m_J2_grow [va_rf (some t)] h X (fun r3 h2 => L_J2_add_3_11 D Q X t p0 r3 p2 h2)))))) : MW D m_J2_add_3 [va_rf (some t), va_rf (some p0), va_rf (some p1), .int p2] h Q X := by
  refine mw_of pl_J2_add_3 rfl _ (Nat.le_of_ble_eq_true rfl) rfl ?_
  refine (show WA D m_J2_add_3 Q X 0 [(0, va_rf (some t)), (1, va_rf (some p0)), (2, va_rf (some p1)), (3, .int p2)] [] h from ?_)
  refine wa_iload_n (x := p2) dJ2_add_3_0 rfl 3 rfl ?_
  refine wa_aload_n (o := (some p1)) dJ2_add_3_1 rfl 2 rfl ?_
  refine wa_alen dJ2_add_3_2 (a_N_mono F fun x1 F => ?_)
  refine wa_icmp_ne (tgt := 11) dJ2_add_3_3 rfl (fun z => ?_) (fun z => ?_)
  · have F := F.1 z
    exact F
  · have F := F.2 z
    refine wa_aload_n (o := (some t)) dJ2_add_3_6 rfl 0 rfl ?_
    refine wa_callV (M' := m_J2_grow) (C := RJ2) (o := (some t)) (As := []) (st := []) dJ2_add_3_7 ⟨Nat.le_of_ble_eq_true rfl, Nat.le_of_ble_eq_true rfl, nk_J2_grow⟩ q634 q636 qs3 q57 q637 rfl rfl (Nat.zero_le 8) rfl F.1 F.2 (wk_R fun r3 h2 F => ?_)
    refine ws_astore_n (lv' := [(2, va_rf r3), (0, va_rf (some t)), (1, va_rf (some p0)), (3, .int p2)]) dJ2_add_3_10 rfl (Nat.le_of_ble_eq_true rfl) (q_cr (q_cr (q_cr (q_ci q_cn)))) rfl ?_
    exact wa_sub [1, 2, 0, 3] rfl F
theorem f_J2_add_3_11 {D : qD} {Q : Option Value → qH → Prop} {X : String → qH → Prop} (t : Nat) (v1 : Nat) (v2 : Option Nat) (v3 : Int32) (h : qH) (F : s_R D h v2 4 "java/lang/Object" v3 (some v1) (fun h1 => p_F h1 (some t) 6 2 (.int (v3 + 1)) (fun h2 => Q none h2))) : L_J2_add_3_11 D Q X t v1 v2 v3 h := by
  show WA D m_J2_add_3 Q X 11 [(0, va_rf (some t)), (1, va_rf (some v1)), (2, va_rf v2), (3, .int v3)] [] h
  refine wa_aload_n (o := v2) dJ2_add_3_11 rfl 2 rfl ?_
  refine wa_iload_n (x := v3) dJ2_add_3_12 rfl 3 rfl ?_
  refine wa_aload_n (o := (some v1)) dJ2_add_3_13 rfl 1 rfl ?_
  refine wa_aast (t := 4) (C := "java/lang/Object") rfl (by simp [qRA]) dJ2_add_3_14 (s_R_mono F fun h1 F => ?_)
  refine wa_aload_n (o := (some t)) dJ2_add_3_15 rfl 0 rfl ?_
  refine wa_iload_n (x := v3) dJ2_add_3_16 rfl 3 rfl ?_
  refine wa_iconst (v := 1) dJ2_add_3_17 rfl ?_
  refine wa_iadd dJ2_add_3_18 ?_
  refine wa_put (C := RJ2) (T := TJ2) (N := 3) (ci := 6) (k := 2) tyJ2 dJ2_add_3_19 rfl (Nat.le_of_ble_eq_true rfl) in_J2 tyJ2_ok nmJ2 q110 q_same_own rfl rfl rfl (p_F_mono F fun h2 F => ?_)
  exact wa_vret rfl dJ2_add_3_22 F
theorem f_J2_add_2 {D : qD} {Q : Option Value → qH → Prop} {X : String → qH → Prop} (t : Nat) (p0 : Nat) (h : qH) (F : g_I D h (some t) 6 0 (fun x1 => p_F h (some t) 6 0 (.int (x1 + 1)) (fun h2 => g_R D h2 (some t) 6 1 (fun r3 => g_I D h2 (some t) 6 2 (fun x4 => (recv D h2 (some t) RJ2 ∧ c_V D m_J2_add_3 [va_rf (some t), va_rf (some p0), va_rf r3, .int x4] h2 X (fun h5 => Q (some (.int 1)) h5))))))) : MW D m_J2_add_2 [va_rf (some t), va_rf (some p0)] h Q X := by
  refine mw_of pl_J2_add_2 rfl _ (Nat.le_of_ble_eq_true rfl) rfl ?_
  refine (show WA D m_J2_add_2 Q X 0 [(0, va_rf (some t)), (1, va_rf (some p0))] [] h from ?_)
  refine wa_aload_n (o := (some t)) dJ2_add_2_0 rfl 0 rfl ?_
  refine wa_dup dJ2_add_2_1 (q_cat _) ?_
  refine wa_getI (C := RJ2) (T := TJ2) (N := 3) (ci := 6) (k := 0) dJ2_add_2_2 rfl (Nat.le_of_ble_eq_true rfl) in_J2 q114 (q_same_of q113) (g_I_mono F fun x1 F => ?_)
  refine wa_iconst (v := 1) dJ2_add_2_5 rfl ?_
  refine wa_iadd dJ2_add_2_6 ?_
  refine wa_put (C := RJ2) (T := TJ2) (N := 3) (ci := 6) (k := 0) tyJ2 dJ2_add_2_7 rfl (Nat.le_of_ble_eq_true rfl) in_J2 tyJ2_ok nmJ2 q114 (q_same_of q113) rfl rfl rfl (p_F_mono F fun h2 F => ?_)
  refine wa_aload_n (o := (some t)) dJ2_add_2_10 rfl 0 rfl ?_
  refine wa_aload_n (o := (some p0)) dJ2_add_2_11 rfl 1 rfl ?_
  refine wa_aload_n (o := (some t)) dJ2_add_2_12 rfl 0 rfl ?_
  refine wa_getR (C := RJ2) (T := TJ2) (N := 3) (ci := 6) (k := 1) dJ2_add_2_13 rfl (Nat.le_of_ble_eq_true rfl) in_J2 q107 q_same_own (g_R_mono F fun r3 F => ?_)
  refine wa_aload_n (o := (some t)) dJ2_add_2_16 rfl 0 rfl ?_
  refine wa_getI (C := RJ2) (T := TJ2) (N := 3) (ci := 6) (k := 2) dJ2_add_2_17 rfl (Nat.le_of_ble_eq_true rfl) in_J2 q110 q_same_own (g_I_mono F fun x4 F => ?_)
  refine wa_callV (M' := m_J2_add_3) (C := RJ2) (o := (some t)) (As := [va_rf (some p0), va_rf r3, .int x4]) (st := []) dJ2_add_2_20 ⟨Nat.le_of_ble_eq_true rfl, Nat.le_of_ble_eq_true rfl, nk_J2_add_3⟩ q846 q848 qs10 q57 q849 rfl rfl (Nat.zero_le 8) rfl F.1 F.2 (wk_V fun h5 F => ?_)
  refine wa_iconst (v := 1) dJ2_add_2_23 rfl ?_
  exact wa_zret rfl rfl dJ2_add_2_24 F
def L_J2_rangeCheckForAdd_12 (D : qD) (Q : Option Value → qH → Prop) (X : String → qH → Prop) (t : Nat) (v1 : Int32) (h : qH) : Prop := WA D m_J2_rangeCheckForAdd Q X 12 [(0, va_rf (some t)), (1, .int v1)] [] h
theorem f_J2_rangeCheckForAdd {D : qD} {Q : Option Value → qH → Prop} {X : String → qH → Prop} (t : Nat) (p0 : Int32) (h : qH) (F : g_I D h (some t) 6 2 (fun x1 => ((x1 < p0 → L_J2_rangeCheckForAdd_12 D Q X t p0 h) ∧ (¬ x1 < p0 → ((0 ≤ p0 → Q none h) ∧ (¬ 0 ≤ p0 → L_J2_rangeCheckForAdd_12 D Q X t p0 h)))))) : MW D m_J2_rangeCheckForAdd [va_rf (some t), .int p0] h Q X := by
  refine mw_of pl_J2_rangeCheckForAdd rfl _ (Nat.le_of_ble_eq_true rfl) rfl ?_
  refine (show WA D m_J2_rangeCheckForAdd Q X 0 [(0, va_rf (some t)), (1, .int p0)] [] h from ?_)
  refine wa_iload_n (x := p0) dJ2_rangeCheckForAdd_0 rfl 1 rfl ?_
  refine wa_aload_n (o := (some t)) dJ2_rangeCheckForAdd_1 rfl 0 rfl ?_
  refine wa_getI (C := RJ2) (T := TJ2) (N := 3) (ci := 6) (k := 2) dJ2_rangeCheckForAdd_2 rfl (Nat.le_of_ble_eq_true rfl) in_J2 q110 q_same_own (g_I_mono F fun x1 F => ?_)
  refine wa_icmp_gt (tgt := 12) dJ2_rangeCheckForAdd_5 rfl (fun z => ?_) (fun z => ?_)
  · have F := F.1 z
    exact F
  · have F := F.2 z
    refine wa_iload_n (x := p0) dJ2_rangeCheckForAdd_8 rfl 1 rfl ?_
    refine wa_if_ge (tgt := 25) dJ2_rangeCheckForAdd_9 rfl (fun z => ?_) (fun z => ?_)
    · have F := F.1 z
      exact wa_vret rfl dJ2_rangeCheckForAdd_25 F
    · have F := F.2 z
      exact F
theorem f_J2_rangeCheckForAdd_12 {D : qD} {Q : Option Value → qH → Prop} {X : String → qH → Prop} (t : Nat) (v1 : Int32) (h : qH) (F : x_N h "java/lang/IndexOutOfBoundsException" (fun a1 h2 => False)) : L_J2_rangeCheckForAdd_12 D Q X t v1 h := by
  show WA D m_J2_rangeCheckForAdd Q X 12 [(0, va_rf (some t)), (1, .int v1)] [] h
  refine wa_newX (E := "java/lang/IndexOutOfBoundsException") (by simp [qXN]) dJ2_rangeCheckForAdd_12 q621 q292 q63 (x_N_mono F fun a1 h2 F => ?_)
  refine wa_dup dJ2_rangeCheckForAdd_15 (q_cat _) ?_
  refine wa_aload_n (o := (some t)) dJ2_rangeCheckForAdd_16 rfl 0 rfl ?_
  refine wa_iload_n (x := v1) dJ2_rangeCheckForAdd_17 rfl 1 rfl ?_
  exact F.elim
def L_J2_add_38 (D : qD) (Q : Option Value → qH → Prop) (X : String → qH → Prop) (t : Nat) (v1 : Int32) (v2 : Nat) (v3 : Int32) (v4 : Option Nat) (h : qH) : Prop := WA D m_J2_add Q X 38 [(0, va_rf (some t)), (1, .int v1), (2, va_rf (some v2)), (3, .int v3), (4, va_rf v4)] [] h
theorem f_J2_add {D : qD} {Q : Option Value → qH → Prop} {X : String → qH → Prop} (t : Nat) (p0 : Int32) (p1 : Nat) (h : qH) (F : (recv D h (some t) RJ2 ∧ c_V D m_J2_rangeCheckForAdd [va_rf (some t), .int p0] h X (fun h1 => g_I D h1 (some t) 6 0 (fun x2 => p_F h1 (some t) 6 0 (.int (x2 + 1)) (fun h3 => g_I D h3 (some t) 6 2 (fun x4 => g_R D h3 (some t) 6 1 (fun r5 => a_N D h3 r5 (fun x6 => ((¬ x4 = x6 → L_J2_add_38 D Q X t p0 p1 x4 r5 h3) ∧ (x4 = x6 → (recv D h3 (some t) RJ2 ∧ c_R D m_J2_grow [va_rf (some t)] h3 X (fun r8 h7 => L_J2_add_38 D Q X t p0 p1 x4 r8 h7)))))))))))) : MW D m_J2_add [va_rf (some t), .int p0, va_rf (some p1)] h Q X := by
  refine mw_of pl_J2_add rfl _ (Nat.le_of_ble_eq_true rfl) rfl ?_
  refine (show WA D m_J2_add Q X 0 [(0, va_rf (some t)), (1, .int p0), (2, va_rf (some p1))] [] h from ?_)
  refine wa_aload_n (o := (some t)) dJ2_add_0 rfl 0 rfl ?_
  refine wa_iload_n (x := p0) dJ2_add_1 rfl 1 rfl ?_
  refine wa_callV (M' := m_J2_rangeCheckForAdd) (C := RJ2) (o := (some t)) (As := [.int p0]) (st := []) dJ2_add_2 ⟨Nat.le_of_ble_eq_true rfl, Nat.le_of_ble_eq_true rfl, nk_J2_rangeCheckForAdd⟩ q617 q619 qs1 q57 q620 rfl rfl (Nat.zero_le 8) rfl F.1 F.2 (wk_V fun h1 F => ?_)
  refine wa_aload_n (o := (some t)) dJ2_add_5 rfl 0 rfl ?_
  refine wa_dup dJ2_add_6 (q_cat _) ?_
  refine wa_getI (C := RJ2) (T := TJ2) (N := 3) (ci := 6) (k := 0) dJ2_add_7 rfl (Nat.le_of_ble_eq_true rfl) in_J2 q114 (q_same_of q113) (g_I_mono F fun x2 F => ?_)
  refine wa_iconst (v := 1) dJ2_add_10 rfl ?_
  refine wa_iadd dJ2_add_11 ?_
  refine wa_put (C := RJ2) (T := TJ2) (N := 3) (ci := 6) (k := 0) tyJ2 dJ2_add_12 rfl (Nat.le_of_ble_eq_true rfl) in_J2 tyJ2_ok nmJ2 q114 (q_same_of q113) rfl rfl rfl (p_F_mono F fun h3 F => ?_)
  refine wa_aload_n (o := (some t)) dJ2_add_15 rfl 0 rfl ?_
  refine wa_getI (C := RJ2) (T := TJ2) (N := 3) (ci := 6) (k := 2) dJ2_add_16 rfl (Nat.le_of_ble_eq_true rfl) in_J2 q110 q_same_own (g_I_mono F fun x4 F => ?_)
  refine wa_dup dJ2_add_19 rfl ?_
  refine ws_istore_n (lv' := [(3, .int x4), (0, va_rf (some t)), (1, .int p0), (2, va_rf (some p1))]) dJ2_add_20 rfl (Nat.le_of_ble_eq_true rfl) (q_cr (q_ci (q_cr q_cn))) rfl ?_
  refine wa_aload_n (o := (some t)) dJ2_add_21 rfl 1 rfl ?_
  refine wa_getR (C := RJ2) (T := TJ2) (N := 3) (ci := 6) (k := 1) dJ2_add_22 rfl (Nat.le_of_ble_eq_true rfl) in_J2 q107 q_same_own (g_R_mono F fun r5 F => ?_)
  refine wa_dup dJ2_add_25 (q_cat _) ?_
  refine ws_astore (lv' := [(4, va_rf r5), (3, .int x4), (0, va_rf (some t)), (1, .int p0), (2, va_rf (some p1))]) dJ2_add_26 (Nat.le_of_ble_eq_true rfl) (q_ci (q_cr (q_ci (q_cr q_cn)))) rfl ?_
  refine wa_alen dJ2_add_28 (a_N_mono F fun x6 F => ?_)
  refine wa_icmp_ne (tgt := 38) dJ2_add_29 rfl (fun z => ?_) (fun z => ?_)
  · have F := F.1 z
    exact wa_sub [2, 3, 4, 1, 0] rfl F
  · have F := F.2 z
    refine wa_aload_n (o := (some t)) dJ2_add_32 rfl 2 rfl ?_
    refine wa_callV (M' := m_J2_grow) (C := RJ2) (o := (some t)) (As := []) (st := []) dJ2_add_33 ⟨Nat.le_of_ble_eq_true rfl, Nat.le_of_ble_eq_true rfl, nk_J2_grow⟩ q634 q636 qs3 q57 q637 rfl rfl (Nat.zero_le 8) rfl F.1 F.2 (wk_R fun r8 h7 F => ?_)
    refine ws_astore (lv' := [(4, va_rf r8), (3, .int x4), (0, va_rf (some t)), (1, .int p0), (2, va_rf (some p1))]) dJ2_add_36 (Nat.le_of_ble_eq_true rfl) (q_cr (q_ci (q_cr (q_ci (q_cr q_cn))))) rfl ?_
    exact wa_sub [2, 3, 4, 1, 0] rfl F
theorem f_J2_add_38 {D : qD} {Q : Option Value → qH → Prop} {X : String → qH → Prop} (t : Nat) (v1 : Int32) (v2 : Nat) (v3 : Int32) (v4 : Option Nat) (h : qH) (F : cp_R D h v4 v1 v4 (v1 + 1) (v3 - v1) (fun h1 => s_R D h1 v4 4 "java/lang/Object" v1 (some v2) (fun h2 => p_F h2 (some t) 6 2 (.int (v3 + 1)) (fun h3 => Q none h3)))) : L_J2_add_38 D Q X t v1 v2 v3 v4 h := by
  show WA D m_J2_add Q X 38 [(0, va_rf (some t)), (1, .int v1), (2, va_rf (some v2)), (3, .int v3), (4, va_rf v4)] [] h
  refine wa_aload (o := v4) dJ2_add_38 4 rfl ?_
  refine wa_iload_n (x := v1) dJ2_add_40 rfl 1 rfl ?_
  refine wa_aload (o := v4) dJ2_add_41 4 rfl ?_
  refine wa_iload_n (x := v1) dJ2_add_43 rfl 1 rfl ?_
  refine wa_iconst (v := 1) dJ2_add_44 rfl ?_
  refine wa_iadd dJ2_add_45 ?_
  refine wa_iload_n (x := v3) dJ2_add_46 rfl 3 rfl ?_
  refine wa_iload_n (x := v1) dJ2_add_47 rfl 1 rfl ?_
  refine wa_isub dJ2_add_48 ?_
  refine wa_copyR dJ2_add_49 q673 (Nat.le_of_ble_eq_true rfl) (Nat.zero_le 8) (cp_R_mono F fun h1 F => ?_)
  refine wa_aload (o := v4) dJ2_add_52 4 rfl ?_
  refine wa_iload_n (x := v1) dJ2_add_54 rfl 1 rfl ?_
  refine wa_aload_n (o := (some v2)) dJ2_add_55 rfl 2 rfl ?_
  refine wa_aast (t := 4) (C := "java/lang/Object") rfl (by simp [qRA]) dJ2_add_56 (s_R_mono F fun h2 F => ?_)
  refine wa_aload_n (o := (some t)) dJ2_add_57 rfl 0 rfl ?_
  refine wa_iload_n (x := v3) dJ2_add_58 rfl 3 rfl ?_
  refine wa_iconst (v := 1) dJ2_add_59 rfl ?_
  refine wa_iadd dJ2_add_60 ?_
  refine wa_put (C := RJ2) (T := TJ2) (N := 3) (ci := 6) (k := 2) tyJ2 dJ2_add_61 rfl (Nat.le_of_ble_eq_true rfl) in_J2 tyJ2_ok nmJ2 q110 q_same_own rfl rfl rfl (p_F_mono F fun h3 F => ?_)
  exact wa_vret rfl dJ2_add_64 F
theorem f_J22_init {D : qD} {Q : Option Value → qH → Prop} {X : String → qH → Prop} (t : Nat) (p0 : Nat) (h : qH) (F : p_F h (some t) 7 3 (va_rf (some p0)) (fun h1 => p_F h1 (some t) 7 1 (.int (-1)) (fun h2 => g_R D h2 (some t) 7 3 (fun r3 => g_I D h2 r3 6 0 (fun x4 => p_F h2 (some t) 7 2 (.int x4) (fun h5 => Q none h5)))))) : MW D m_J22_init [va_rf (some t), va_rf (some p0)] h Q X := by
  refine mw_of pl_J22_init rfl _ (Nat.le_of_ble_eq_true rfl) rfl ?_
  refine (show WA D m_J22_init Q X 0 [(0, va_rf (some t)), (1, va_rf (some p0))] [] h from ?_)
  refine wa_aload_n (o := (some t)) dJ22_init_0 rfl 0 rfl ?_
  refine wa_aload_n (o := (some p0)) dJ22_init_1 rfl 1 rfl ?_
  refine wa_putF (C := RJ22) (T := TJ22) (N := 4) (ci := 7) (k := 3) tyJ22 dJ22_init_2 rfl (Nat.le_of_ble_eq_true rfl) in_J22 tyJ22_ok nmJ22 q988 q_same_own rfl rfl rfl (q_nar_ref _) (q_fit_ref _) (p_F_mono F fun h1 F => ?_)
  refine wa_aload_n (o := (some t)) dJ22_init_5 rfl 0 rfl ?_
  refine wa_objInit (a := t) dJ22_init_6 q984 q91 q92 (Nat.le_of_ble_eq_true rfl) (Nat.zero_le 8) ?_
  refine wa_aload_n (o := (some t)) dJ22_init_9 rfl 0 rfl ?_
  refine wa_iconst (v := -1) dJ22_init_10 rfl ?_
  refine wa_put (C := RJ22) (T := TJ22) (N := 4) (ci := 7) (k := 1) tyJ22 dJ22_init_11 rfl (Nat.le_of_ble_eq_true rfl) in_J22 tyJ22_ok nmJ22 q986 q_same_own rfl rfl rfl (p_F_mono F fun h2 F => ?_)
  refine wa_aload_n (o := (some t)) dJ22_init_14 rfl 0 rfl ?_
  refine wa_aload_n (o := (some t)) dJ22_init_15 rfl 0 rfl ?_
  refine wa_getR (C := RJ22) (T := TJ22) (N := 4) (ci := 7) (k := 3) dJ22_init_16 rfl (Nat.le_of_ble_eq_true rfl) in_J22 q988 q_same_own (g_R_mono F fun r3 F => ?_)
  refine wa_getI (C := RJ2) (T := TJ2) (N := 3) (ci := 6) (k := 0) dJ22_init_19 rfl (Nat.le_of_ble_eq_true rfl) in_J2 q112 (q_same_of q113) (g_I_mono F fun x4 F => ?_)
  refine wa_put (C := RJ22) (T := TJ22) (N := 4) (ci := 7) (k := 2) tyJ22 dJ22_init_22 rfl (Nat.le_of_ble_eq_true rfl) in_J22 tyJ22_ok nmJ22 q987 q_same_own rfl rfl rfl (p_F_mono F fun h5 F => ?_)
  exact wa_vret rfl dJ22_init_25 F
theorem f_J22_hasNext {D : qD} {Q : Option Value → qH → Prop} {X : String → qH → Prop} (t : Nat) (h : qH) (F : g_I D h (some t) 7 0 (fun x1 => g_R D h (some t) 7 3 (fun r2 => g_I D h r2 6 2 (fun x3 => ((x1 = x3 → Q (some (.int 0)) h) ∧ (¬ x1 = x3 → Q (some (.int 1)) h)))))) : MW D m_J22_hasNext [va_rf (some t)] h Q X := by
  refine mw_of pl_J22_hasNext rfl _ (Nat.le_of_ble_eq_true rfl) rfl ?_
  refine (show WA D m_J22_hasNext Q X 0 [(0, va_rf (some t))] [] h from ?_)
  refine wa_aload_n (o := (some t)) dJ22_hasNext_0 rfl 0 rfl ?_
  refine wa_getI (C := RJ22) (T := TJ22) (N := 4) (ci := 7) (k := 0) dJ22_hasNext_1 rfl (Nat.le_of_ble_eq_true rfl) in_J22 q985 q_same_own (g_I_mono F fun x1 F => ?_)
  refine wa_aload_n (o := (some t)) dJ22_hasNext_4 rfl 0 rfl ?_
  refine wa_getR (C := RJ22) (T := TJ22) (N := 4) (ci := 7) (k := 3) dJ22_hasNext_5 rfl (Nat.le_of_ble_eq_true rfl) in_J22 q988 q_same_own (g_R_mono F fun r2 F => ?_)
  refine wa_getNI (C := RJ2) (T := TJ2) (N := 3) (ci := 6) (k := 2) dJ22_hasNext_8 rfl (Nat.le_of_ble_eq_true rfl) in_J2 q109 q_same_own (g_I_mono F fun x3 F => ?_)
  refine wa_icmp_eq (tgt := 18) dJ22_hasNext_11 rfl (fun z => ?_) (fun z => ?_)
  · have F := F.1 z
    refine wa_iconst (v := 0) dJ22_hasNext_18 rfl ?_
    exact wa_zret rfl rfl dJ22_hasNext_19 F
  · have F := F.2 z
    refine wa_iconst (v := 1) dJ22_hasNext_14 rfl ?_
    refine wa_goto (tgt := 19) dJ22_hasNext_15 rfl ?_
    exact wa_zret rfl rfl dJ22_hasNext_19 F
theorem f_J22_checkForComodification {D : qD} {Q : Option Value → qH → Prop} {X : String → qH → Prop} (t : Nat) (h : qH) (F : g_R D h (some t) 7 3 (fun r1 => g_I D h r1 6 0 (fun x2 => g_I D h (some t) 7 2 (fun x3 => ((x2 = x3 → Q none h) ∧ (¬ x2 = x3 → False)))))) : MW D m_J22_checkForComodification [va_rf (some t)] h Q X := by
  refine mw_of pl_J22_checkForComodification rfl _ (Nat.le_of_ble_eq_true rfl) rfl ?_
  refine (show WA D m_J22_checkForComodification Q X 0 [(0, va_rf (some t))] [] h from ?_)
  refine wa_aload_n (o := (some t)) dJ22_checkForComodification_0 rfl 0 rfl ?_
  refine wa_getR (C := RJ22) (T := TJ22) (N := 4) (ci := 7) (k := 3) dJ22_checkForComodification_1 rfl (Nat.le_of_ble_eq_true rfl) in_J22 q988 q_same_own (g_R_mono F fun r1 F => ?_)
  refine wa_getI (C := RJ2) (T := TJ2) (N := 3) (ci := 6) (k := 0) dJ22_checkForComodification_4 rfl (Nat.le_of_ble_eq_true rfl) in_J2 q112 (q_same_of q113) (g_I_mono F fun x2 F => ?_)
  refine wa_aload_n (o := (some t)) dJ22_checkForComodification_7 rfl 0 rfl ?_
  refine wa_getI (C := RJ22) (T := TJ22) (N := 4) (ci := 7) (k := 2) dJ22_checkForComodification_8 rfl (Nat.le_of_ble_eq_true rfl) in_J22 q987 q_same_own (g_I_mono F fun x3 F => ?_)
  refine wa_icmp_eq (tgt := 22) dJ22_checkForComodification_11 rfl (fun z => ?_) (fun z => ?_)
  · have F := F.1 z
    exact wa_vret rfl dJ22_checkForComodification_22 F
  · have F := F.2 z
    exact F.elim
theorem f_J22_next {D : qD} {Q : Option Value → qH → Prop} {X : String → qH → Prop} (t : Nat) (h : qH) (F : (recv D h (some t) RJ22 ∧ c_V D m_J22_checkForComodification [va_rf (some t)] h X (fun h1 => g_I D h1 (some t) 7 0 (fun x2 => g_R D h1 (some t) 7 3 (fun r3 => g_I D h1 r3 6 2 (fun x4 => ((x2 < x4 → g_R D h1 (some t) 7 3 (fun r5 => g_R D h1 r5 6 1 (fun r6 => a_N D h1 r6 (fun x7 => ((x2 < x7 → p_F h1 (some t) 7 0 (.int (x2 + 1)) (fun h8 => p_F h8 (some t) 7 1 (.int x2) (fun h9 => a_R D h9 r6 4 x2 (fun r10 => Q (some (va_rf r10)) h9)))) ∧ (¬ x2 < x7 → False)))))) ∧ (¬ x2 < x4 → False)))))))) : MW D m_J22_next [va_rf (some t)] h Q X := by
  refine mw_of pl_J22_next rfl _ (Nat.le_of_ble_eq_true rfl) rfl ?_
  refine (show WA D m_J22_next Q X 0 [(0, va_rf (some t))] [] h from ?_)
  refine wa_aload_n (o := (some t)) dJ22_next_0 rfl 0 rfl ?_
  refine wa_callV (M' := m_J22_checkForComodification) (C := RJ22) (o := (some t)) (As := []) (st := []) dJ22_next_1 ⟨Nat.le_of_ble_eq_true rfl, Nat.le_of_ble_eq_true rfl, nk_J22_checkForComodification⟩ q1017 q1018 q1019 q84 q1020 rfl rfl (Nat.zero_le 8) rfl F.1 F.2 (wk_V fun h1 F => ?_)
  refine wa_aload_n (o := (some t)) dJ22_next_4 rfl 0 rfl ?_
  refine wa_getI (C := RJ22) (T := TJ22) (N := 4) (ci := 7) (k := 0) dJ22_next_5 rfl (Nat.le_of_ble_eq_true rfl) in_J22 q985 q_same_own (g_I_mono F fun x2 F => ?_)
  refine ws_istore_n (lv' := [(1, .int x2), (0, va_rf (some t))]) dJ22_next_8 rfl (Nat.le_of_ble_eq_true rfl) (q_cr q_cn) rfl ?_
  refine wa_iload_n (x := x2) dJ22_next_9 rfl 0 rfl ?_
  refine wa_aload_n (o := (some t)) dJ22_next_10 rfl 1 rfl ?_
  refine wa_getR (C := RJ22) (T := TJ22) (N := 4) (ci := 7) (k := 3) dJ22_next_11 rfl (Nat.le_of_ble_eq_true rfl) in_J22 q988 q_same_own (g_R_mono F fun r3 F => ?_)
  refine wa_getNI (C := RJ2) (T := TJ2) (N := 3) (ci := 6) (k := 2) dJ22_next_14 rfl (Nat.le_of_ble_eq_true rfl) in_J2 q109 q_same_own (g_I_mono F fun x4 F => ?_)
  refine wa_icmp_lt (tgt := 28) dJ22_next_17 rfl (fun z => ?_) (fun z => ?_)
  · have F := F.1 z
    refine wa_aload_n (o := (some t)) dJ22_next_28 rfl 1 rfl ?_
    refine wa_getR (C := RJ22) (T := TJ22) (N := 4) (ci := 7) (k := 3) dJ22_next_29 rfl (Nat.le_of_ble_eq_true rfl) in_J22 q988 q_same_own (g_R_mono F fun r5 F => ?_)
    refine wa_getR (C := RJ2) (T := TJ2) (N := 3) (ci := 6) (k := 1) dJ22_next_32 rfl (Nat.le_of_ble_eq_true rfl) in_J2 q108 q_same_own (g_R_mono F fun r6 F => ?_)
    refine ws_astore_n (lv' := [(2, va_rf r6), (1, .int x2), (0, va_rf (some t))]) dJ22_next_35 rfl (Nat.le_of_ble_eq_true rfl) (q_ci (q_cr q_cn)) rfl ?_
    refine wa_iload_n (x := x2) dJ22_next_36 rfl 1 rfl ?_
    refine wa_aload_n (o := r6) dJ22_next_37 rfl 0 rfl ?_
    refine wa_alen dJ22_next_38 (a_N_mono F fun x7 F => ?_)
    refine wa_icmp_lt (tgt := 50) dJ22_next_39 rfl (fun z => ?_) (fun z => ?_)
    · have F := F.1 z
      refine wa_aload_n (o := (some t)) dJ22_next_50 rfl 2 rfl ?_
      refine wa_iload_n (x := x2) dJ22_next_51 rfl 1 rfl ?_
      refine wa_iconst (v := 1) dJ22_next_52 rfl ?_
      refine wa_iadd dJ22_next_53 ?_
      refine wa_put (C := RJ22) (T := TJ22) (N := 4) (ci := 7) (k := 0) tyJ22 dJ22_next_54 rfl (Nat.le_of_ble_eq_true rfl) in_J22 tyJ22_ok nmJ22 q985 q_same_own rfl rfl rfl (p_F_mono F fun h8 F => ?_)
      refine wa_aload_n (o := r6) dJ22_next_57 rfl 0 rfl ?_
      refine wa_aload_n (o := (some t)) dJ22_next_58 rfl 2 rfl ?_
      refine wa_iload_n (x := x2) dJ22_next_59 rfl 1 rfl ?_
      refine wa_dup_x1 dJ22_next_60 rfl (q_cat _) ?_
      refine wa_put (C := RJ22) (T := TJ22) (N := 4) (ci := 7) (k := 1) tyJ22 dJ22_next_61 rfl (Nat.le_of_ble_eq_true rfl) in_J22 tyJ22_ok nmJ22 q986 q_same_own rfl rfl rfl (p_F_mono F fun h9 F => ?_)
      refine wa_aald (t := 4) rfl rfl dJ22_next_64 (a_R_mono F fun r10 F => ?_)
      exact wa_aret rfl (Or.inl ⟨_, rfl⟩) dJ22_next_65 F
    · have F := F.2 z
      exact F.elim
  · have F := F.2 z
    exact F.elim
theorem f_J17_init {D : qD} {Q : Option Value → qH → Prop} {X : String → qH → Prop} (t : Nat) (h : qH) (F : Q none h) : MW D m_J17_init [va_rf (some t)] h Q X := by
  refine mw_of pl_J17_init rfl _ (Nat.le_of_ble_eq_true rfl) rfl ?_
  refine (show WA D m_J17_init Q X 0 [(0, va_rf (some t))] [] h from ?_)
  refine wa_aload_n (o := (some t)) dJ17_init_0 rfl 0 rfl ?_
  refine wa_objInit (a := t) dJ17_init_1 q865 q91 q92 (Nat.le_of_ble_eq_true rfl) (Nat.zero_le 8) ?_
  exact wa_vret rfl dJ17_init_4 F
def L_J18_stringSize_11 (D : qD) (Q : Option Value → qH → Prop) (X : String → qH → Prop) (v0 : Int32) (v1 : Int32) (h : qH) : Prop := WA D m_J18_stringSize Q X 11 [(0, .int v0), (1, .int v1)] [] h
def L_J18_stringSize_16 (D : qD) (Q : Option Value → qH → Prop) (X : String → qH → Prop) (v0 : Int32) (v1 : Int32) (v2 : Int32) (v3 : Int32) (h : qH) : Prop := WA D m_J18_stringSize Q X 16 [(0, .int v0), (1, .int v1), (2, .int v2), (3, .int v3)] [] h
theorem f_J18_stringSize {D : qD} {Q : Option Value → qH → Prop} {X : String → qH → Prop} (p0 : Int32) (h : qH) (F : ((p0 < 0 → L_J18_stringSize_11 D Q X p0 1 h) ∧ (¬ p0 < 0 → L_J18_stringSize_11 D Q X (-p0) 0 h))) : MW D m_J18_stringSize [.int p0] h Q X := by
  refine mw_of pl_J18_stringSize rfl _ (Nat.le_of_ble_eq_true rfl) rfl ?_
  refine (show WA D m_J18_stringSize Q X 0 [(0, .int p0)] [] h from ?_)
  refine wa_iconst (v := 1) dJ18_stringSize_0 rfl ?_
  refine ws_istore_n (lv' := [(1, .int 1), (0, .int p0)]) dJ18_stringSize_1 rfl (Nat.le_of_ble_eq_true rfl) (q_ci q_cn) rfl ?_
  refine wa_iload_n (x := p0) dJ18_stringSize_2 rfl 1 rfl ?_
  refine wa_if_lt (tgt := 11) dJ18_stringSize_3 rfl (fun z => ?_) (fun z => ?_)
  · have F := F.1 z
    exact wa_sub [1, 0] rfl F
  · have F := F.2 z
    refine wa_iconst (v := 0) dJ18_stringSize_6 rfl ?_
    refine ws_istore_n (lv' := [(1, .int 0), (0, .int p0)]) dJ18_stringSize_7 rfl (Nat.le_of_ble_eq_true rfl) (q_ci (q_ci q_cn)) rfl ?_
    refine wa_iload_n (x := p0) dJ18_stringSize_8 rfl 1 rfl ?_
    refine wa_ineg dJ18_stringSize_9 ?_
    refine ws_istore_n (lv' := [(0, .int (-p0)), (1, .int 0)]) dJ18_stringSize_10 rfl (Nat.le_of_ble_eq_true rfl) (q_ci (q_ci q_cn)) rfl ?_
    exact F
theorem f_J18_stringSize_11 {D : qD} {Q : Option Value → qH → Prop} {X : String → qH → Prop} (v0 : Int32) (v1 : Int32) (h : qH) (F : L_J18_stringSize_16 D Q X v0 v1 (-10) 1 h) : L_J18_stringSize_11 D Q X v0 v1 h := by
  show WA D m_J18_stringSize Q X 11 [(0, .int v0), (1, .int v1)] [] h
  refine wa_bipush (v := -10) dJ18_stringSize_11 rfl ?_
  refine ws_istore_n (lv' := [(2, .int (-10)), (0, .int v0), (1, .int v1)]) dJ18_stringSize_13 rfl (Nat.le_of_ble_eq_true rfl) (q_ci (q_ci q_cn)) rfl ?_
  refine wa_iconst (v := 1) dJ18_stringSize_14 rfl ?_
  refine ws_istore_n (lv' := [(3, .int 1), (2, .int (-10)), (0, .int v0), (1, .int v1)]) dJ18_stringSize_15 rfl (Nat.le_of_ble_eq_true rfl) (q_ci (q_ci (q_ci q_cn))) rfl ?_
  exact wa_sub [2, 3, 1, 0] rfl F
theorem f_J18_stringSize_16 {D : qD} {Q : Option Value → qH → Prop} {X : String → qH → Prop} (v0 : Int32) (v1 : Int32) (v2 : Int32) (v3 : Int32) (h : qH) (F : ((10 ≤ v3 → Q (some (.int (10 + v1))) h) ∧ (¬ 10 ≤ v3 → ((v0 ≤ v2 → L_J18_stringSize_16 D Q X v0 v1 (10 * v2) (v3 + 1) h) ∧ (¬ v0 ≤ v2 → Q (some (.int (v3 + v1))) h))))) : L_J18_stringSize_16 D Q X v0 v1 v2 v3 h := by
  show WA D m_J18_stringSize Q X 16 [(0, .int v0), (1, .int v1), (2, .int v2), (3, .int v3)] [] h
  refine wa_iload_n (x := v3) dJ18_stringSize_16 rfl 3 rfl ?_
  refine wa_bipush (v := 10) dJ18_stringSize_17 rfl ?_
  refine wa_icmp_ge (tgt := 42) dJ18_stringSize_19 rfl (fun z => ?_) (fun z => ?_)
  · have F := F.1 z
    refine wa_bipush (v := 10) dJ18_stringSize_42 rfl ?_
    refine wa_iload_n (x := v1) dJ18_stringSize_44 rfl 1 rfl ?_
    refine wa_iadd dJ18_stringSize_45 ?_
    exact wa_iret rfl dJ18_stringSize_46 F
  · have F := F.2 z
    refine wa_iload_n (x := v0) dJ18_stringSize_22 rfl 0 rfl ?_
    refine wa_iload_n (x := v2) dJ18_stringSize_23 rfl 2 rfl ?_
    refine wa_icmp_le (tgt := 31) dJ18_stringSize_24 rfl (fun z => ?_) (fun z => ?_)
    · have F := F.1 z
      refine wa_bipush (v := 10) dJ18_stringSize_31 rfl ?_
      refine wa_iload_n (x := v2) dJ18_stringSize_33 rfl 2 rfl ?_
      refine wa_imul dJ18_stringSize_34 ?_
      refine ws_istore_n (lv' := [(2, .int (10 * v2)), (0, .int v0), (1, .int v1), (3, .int v3)]) dJ18_stringSize_35 rfl (Nat.le_of_ble_eq_true rfl) (q_ci (q_ci (q_ci (q_ci q_cn)))) rfl ?_
      refine ws_iinc (j := 3) (v := (v3 + 1)) (lv' := [(3, .int (v3 + 1)), (2, .int (10 * v2)), (0, .int v0), (1, .int v1)]) dJ18_stringSize_36 rfl rfl (Nat.le_of_ble_eq_true rfl) (q_ci (q_ci (q_ci (q_ci q_cn)))) rfl ?_
      refine wa_goto (tgt := 16) dJ18_stringSize_39 rfl ?_
      exact wa_sub [2, 3, 1, 0] rfl F
    · have F := F.2 z
      refine wa_iload_n (x := v3) dJ18_stringSize_27 rfl 3 rfl ?_
      refine wa_iload_n (x := v1) dJ18_stringSize_28 rfl 1 rfl ?_
      refine wa_iadd dJ18_stringSize_29 ?_
      exact wa_iret rfl dJ18_stringSize_30 F
def L_J18_getChars_12 (D : qD) (Q : Option Value → qH → Prop) (X : String → qH → Prop) (v0 : Int32) (v2 : Nat) (v5 : Int32) (s0 : Int32) (h : qH) : Prop := WA D m_J18_getChars Q X 12 [(0, .int v0), (2, va_rf (some v2)), (5, .int v5)] [.int s0] h
def L_J18_getChars_22 (D : qD) (Q : Option Value → qH → Prop) (X : String → qH → Prop) (v0 : Int32) (v2 : Nat) (v5 : Int32) (v6 : Int32) (h : qH) : Prop := WA D m_J18_getChars Q X 22 [(0, .int v0), (2, va_rf (some v2)), (5, .int v5), (6, .int v6)] [] h
def L_J18_getChars_104 (D : qD) (Q : Option Value → qH → Prop) (X : String → qH → Prop) (v2 : Nat) (v5 : Int32) (v6 : Int32) (h : qH) : Prop := WA D m_J18_getChars Q X 104 [(2, va_rf (some v2)), (5, .int v5), (6, .int v6)] [] h
theorem f_J18_getChars {D : qD} {Q : Option Value → qH → Prop} {X : String → qH → Prop} (p0 : Int32) (p1 : Int32) (p2 : Nat) (h : qH) (F : ((0 ≤ p0 → L_J18_getChars_12 D Q X p0 p2 p1 0 h) ∧ (¬ 0 ≤ p0 → L_J18_getChars_12 D Q X p0 p2 p1 1 h))) : MW D m_J18_getChars [.int p0, .int p1, va_rf (some p2)] h Q X := by
  refine mw_of pl_J18_getChars rfl _ (Nat.le_of_ble_eq_true rfl) rfl ?_
  refine (show WA D m_J18_getChars Q X 0 [(0, .int p0), (1, .int p1), (2, va_rf (some p2))] [] h from ?_)
  refine wa_iload_n (x := p1) dJ18_getChars_0 rfl 1 rfl ?_
  refine ws_istore (lv' := [(5, .int p1), (0, .int p0), (1, .int p1), (2, va_rf (some p2))]) dJ18_getChars_1 (Nat.le_of_ble_eq_true rfl) (q_ci (q_ci (q_cr q_cn))) rfl ?_
  refine wa_iload_n (x := p0) dJ18_getChars_3 rfl 1 rfl ?_
  refine wa_if_ge (tgt := 11) dJ18_getChars_4 rfl (fun z => ?_) (fun z => ?_)
  · have F := F.1 z
    refine wa_iconst (v := 0) dJ18_getChars_11 rfl ?_
    exact wa_sub [1, 3, 0] rfl F
  · have F := F.2 z
    refine wa_iconst (v := 1) dJ18_getChars_7 rfl ?_
    refine wa_goto (tgt := 12) dJ18_getChars_8 rfl ?_
    exact wa_sub [1, 3, 0] rfl F
theorem f_J18_getChars_12 {D : qD} {Q : Option Value → qH → Prop} {X : String → qH → Prop} (v0 : Int32) (v2 : Nat) (v5 : Int32) (s0 : Int32) (h : qH) (F : ((¬ s0 = 0 → L_J18_getChars_22 D Q X v0 v2 v5 s0 h) ∧ (s0 = 0 → L_J18_getChars_22 D Q X (-v0) v2 v5 s0 h))) : L_J18_getChars_12 D Q X v0 v2 v5 s0 h := by
  show WA D m_J18_getChars Q X 12 [(0, .int v0), (2, va_rf (some v2)), (5, .int v5)] [.int s0] h
  refine ws_istore (lv' := [(6, .int s0), (0, .int v0), (2, va_rf (some v2)), (5, .int v5)]) dJ18_getChars_12 (Nat.le_of_ble_eq_true rfl) (q_ci (q_cr (q_ci q_cn))) rfl ?_
  refine wa_iload (x := s0) dJ18_getChars_14 0 rfl ?_
  refine wa_if_ne (tgt := 22) dJ18_getChars_16 rfl (fun z => ?_) (fun z => ?_)
  · have F := F.1 z
    exact wa_sub [1, 2, 3, 0] rfl F
  · have F := F.2 z
    refine wa_iload_n (x := v0) dJ18_getChars_19 rfl 1 rfl ?_
    refine wa_ineg dJ18_getChars_20 ?_
    refine ws_istore_n (lv' := [(0, .int (-v0)), (6, .int s0), (2, va_rf (some v2)), (5, .int v5)]) dJ18_getChars_21 rfl (Nat.le_of_ble_eq_true rfl) (q_ci (q_ci (q_cr (q_ci q_cn)))) rfl ?_
    exact wa_sub [0, 2, 3, 1] rfl F
theorem f_J18_getChars_22 {D : qD} {Q : Option Value → qH → Prop} {X : String → qH → Prop} (v0 : Int32) (v2 : Nat) (v5 : Int32) (v6 : Int32) (h : qH) (F : (((-100) < v0 → a_I D h (some (d_s D 3)) 2 (-v0) (fun x1 => s_I h (some v2) 2 (v5 + (-1)) (x1.toInt8.toInt32) (fun h2 => (((-9) ≤ v0 → L_J18_getChars_104 D Q X v2 (v5 + (-1)) v6 h2) ∧ (¬ (-9) ≤ v0 → a_I D h2 (some (d_s D 2)) 2 (-v0) (fun x3 => s_I h2 (some v2) 2 ((v5 + (-1)) + (-1)) (x3.toInt8.toInt32) (fun h4 => L_J18_getChars_104 D Q X v2 ((v5 + (-1)) + (-1)) v6 h4))))))) ∧ (¬ (-100) < v0 → a_I D h (some (d_s D 3)) 2 (((v0 / 100) * 100) - v0) (fun x5 => s_I h (some v2) 2 (v5 + (-1)) (x5.toInt8.toInt32) (fun h6 => a_I D h6 (some (d_s D 2)) 2 (((v0 / 100) * 100) - v0) (fun x7 => s_I h6 (some v2) 2 ((v5 + (-1)) + (-1)) (x7.toInt8.toInt32) (fun h8 => L_J18_getChars_22 D Q X (v0 / 100) v2 ((v5 + (-1)) + (-1)) v6 h8))))))) : L_J18_getChars_22 D Q X v0 v2 v5 v6 h := by
  show WA D m_J18_getChars Q X 22 [(0, .int v0), (2, va_rf (some v2)), (5, .int v5), (6, .int v6)] [] h
  refine wa_iload_n (x := v0) dJ18_getChars_22 rfl 0 rfl ?_
  refine wa_bipush (v := -100) dJ18_getChars_23 rfl ?_
  refine wa_icmp_gt (tgt := 72) dJ18_getChars_25 rfl (fun z => ?_) (fun z => ?_)
  · have F := F.1 z
    refine wa_aload_n (o := (some v2)) dJ18_getChars_72 rfl 1 rfl ?_
    refine ws_iinc (j := 2) (v := (v5 + (-1))) (lv' := [(5, .int (v5 + (-1))), (0, .int v0), (2, va_rf (some v2)), (6, .int v6)]) dJ18_getChars_73 rfl rfl (Nat.le_of_ble_eq_true rfl) (q_ci (q_cr (q_ci (q_ci q_cn)))) rfl ?_
    refine wa_iload (x := (v5 + (-1))) dJ18_getChars_76 0 rfl ?_
    refine wa_gets (C := "java/lang/Integer") (v := va_rf (some (d_s D 3))) dJ18_getChars_78 (by simp [qST, va_rf]) q466 rfl ?_
    refine wa_iload_n (x := v0) dJ18_getChars_81 rfl 1 rfl ?_
    refine wa_ineg dJ18_getChars_82 ?_
    refine wa_bald dJ18_getChars_83 (a_I_mono F fun x1 F => ?_)
    refine wa_bast dJ18_getChars_84 (s_I_mono F fun h2 F => ?_)
    refine wa_iload_n (x := v0) dJ18_getChars_85 rfl 1 rfl ?_
    refine wa_bipush (v := -9) dJ18_getChars_86 rfl ?_
    refine wa_icmp_ge (tgt := 104) dJ18_getChars_88 rfl (fun z => ?_) (fun z => ?_)
    · have F := F.1 z
      exact wa_sub [2, 0, 3] rfl F
    · have F := F.2 z
      refine wa_aload_n (o := (some v2)) dJ18_getChars_91 rfl 2 rfl ?_
      refine ws_iinc (j := 0) (v := ((v5 + (-1)) + (-1))) (lv' := [(5, .int ((v5 + (-1)) + (-1))), (0, .int v0), (2, va_rf (some v2)), (6, .int v6)]) dJ18_getChars_92 rfl rfl (Nat.le_of_ble_eq_true rfl) (q_ci (q_ci (q_cr (q_ci q_cn)))) rfl ?_
      refine wa_iload (x := ((v5 + (-1)) + (-1))) dJ18_getChars_95 0 rfl ?_
      refine wa_gets (C := "java/lang/Integer") (v := va_rf (some (d_s D 2))) dJ18_getChars_97 (by simp [qST, va_rf]) q468 rfl ?_
      refine wa_iload_n (x := v0) dJ18_getChars_100 rfl 1 rfl ?_
      refine wa_ineg dJ18_getChars_101 ?_
      refine wa_bald dJ18_getChars_102 (a_I_mono F fun x3 F => ?_)
      refine wa_bast dJ18_getChars_103 (s_I_mono F fun h4 F => ?_)
      exact wa_sub [2, 0, 3] rfl F
  · have F := F.2 z
    refine wa_iload_n (x := v0) dJ18_getChars_28 rfl 0 rfl ?_
    refine wa_bipush (v := 100) dJ18_getChars_29 rfl ?_
    refine wa_idiv dJ18_getChars_31 (by decide) ?_
    refine ws_istore_n (lv' := [(3, .int (v0 / 100)), (0, .int v0), (2, va_rf (some v2)), (5, .int v5), (6, .int v6)]) dJ18_getChars_32 rfl (Nat.le_of_ble_eq_true rfl) (q_ci (q_cr (q_ci (q_ci q_cn)))) rfl ?_
    refine wa_iload_n (x := (v0 / 100)) dJ18_getChars_33 rfl 0 rfl ?_
    refine wa_bipush (v := 100) dJ18_getChars_34 rfl ?_
    refine wa_imul dJ18_getChars_36 ?_
    refine wa_iload_n (x := v0) dJ18_getChars_37 rfl 1 rfl ?_
    refine wa_isub dJ18_getChars_38 ?_
    refine ws_istore (lv' := [(4, .int (((v0 / 100) * 100) - v0)), (3, .int (v0 / 100)), (0, .int v0), (2, va_rf (some v2)), (5, .int v5), (6, .int v6)]) dJ18_getChars_39 (Nat.le_of_ble_eq_true rfl) (q_ci (q_ci (q_cr (q_ci (q_ci q_cn))))) rfl ?_
    refine wa_iload_n (x := (v0 / 100)) dJ18_getChars_41 rfl 1 rfl ?_
    refine ws_istore_n (lv' := [(0, .int (v0 / 100)), (4, .int (((v0 / 100) * 100) - v0)), (3, .int (v0 / 100)), (2, va_rf (some v2)), (5, .int v5), (6, .int v6)]) dJ18_getChars_42 rfl (Nat.le_of_ble_eq_true rfl) (q_ci (q_ci (q_ci (q_cr (q_ci (q_ci q_cn)))))) rfl ?_
    refine wa_aload_n (o := (some v2)) dJ18_getChars_43 rfl 3 rfl ?_
    refine ws_iinc (j := 4) (v := (v5 + (-1))) (lv' := [(5, .int (v5 + (-1))), (0, .int (v0 / 100)), (4, .int (((v0 / 100) * 100) - v0)), (3, .int (v0 / 100)), (2, va_rf (some v2)), (6, .int v6)]) dJ18_getChars_44 rfl rfl (Nat.le_of_ble_eq_true rfl) (q_ci (q_ci (q_ci (q_cr (q_ci (q_ci q_cn)))))) rfl ?_
    refine wa_iload (x := (v5 + (-1))) dJ18_getChars_47 0 rfl ?_
    refine wa_gets (C := "java/lang/Integer") (v := va_rf (some (d_s D 3))) dJ18_getChars_49 (by simp [qST, va_rf]) q466 rfl ?_
    refine wa_iload (x := (((v0 / 100) * 100) - v0)) dJ18_getChars_52 2 rfl ?_
    refine wa_bald dJ18_getChars_54 (a_I_mono F fun x5 F => ?_)
    refine wa_bast dJ18_getChars_55 (s_I_mono F fun h6 F => ?_)
    refine wa_aload_n (o := (some v2)) dJ18_getChars_56 rfl 4 rfl ?_
    refine ws_iinc (j := 0) (v := ((v5 + (-1)) + (-1))) (lv' := [(5, .int ((v5 + (-1)) + (-1))), (0, .int (v0 / 100)), (4, .int (((v0 / 100) * 100) - v0)), (3, .int (v0 / 100)), (2, va_rf (some v2)), (6, .int v6)]) dJ18_getChars_57 rfl rfl (Nat.le_of_ble_eq_true rfl) (q_ci (q_ci (q_ci (q_ci (q_cr (q_ci q_cn)))))) rfl ?_
    refine wa_iload (x := ((v5 + (-1)) + (-1))) dJ18_getChars_60 0 rfl ?_
    refine wa_gets (C := "java/lang/Integer") (v := va_rf (some (d_s D 2))) dJ18_getChars_62 (by simp [qST, va_rf]) q468 rfl ?_
    refine wa_iload (x := (((v0 / 100) * 100) - v0)) dJ18_getChars_65 2 rfl ?_
    refine wa_bald dJ18_getChars_67 (a_I_mono F fun x7 F => ?_)
    refine wa_bast dJ18_getChars_68 (s_I_mono F fun h8 F => ?_)
    refine wa_goto (tgt := 22) dJ18_getChars_69 rfl ?_
    exact wa_sub [1, 4, 0, 5] rfl F
theorem f_J18_getChars_104 {D : qD} {Q : Option Value → qH → Prop} {X : String → qH → Prop} (v2 : Nat) (v5 : Int32) (v6 : Int32) (h : qH) (F : ((v6 = 0 → Q (some (.int v5)) h) ∧ (¬ v6 = 0 → s_I h (some v2) 2 (v5 + (-1)) ((45 : Int32).toInt8.toInt32) (fun h1 => Q (some (.int (v5 + (-1)))) h1)))) : L_J18_getChars_104 D Q X v2 v5 v6 h := by
  show WA D m_J18_getChars Q X 104 [(2, va_rf (some v2)), (5, .int v5), (6, .int v6)] [] h
  refine wa_iload (x := v6) dJ18_getChars_104 2 rfl ?_
  refine wa_if_eq (tgt := 118) dJ18_getChars_106 rfl (fun z => ?_) (fun z => ?_)
  · have F := F.1 z
    refine wa_iload (x := v5) dJ18_getChars_118 1 rfl ?_
    exact wa_iret rfl dJ18_getChars_120 F
  · have F := F.2 z
    refine wa_aload_n (o := (some v2)) dJ18_getChars_109 rfl 0 rfl ?_
    refine ws_iinc (j := 1) (v := (v5 + (-1))) (lv' := [(5, .int (v5 + (-1))), (2, va_rf (some v2)), (6, .int v6)]) dJ18_getChars_110 rfl rfl (Nat.le_of_ble_eq_true rfl) (q_cr (q_ci (q_ci q_cn))) rfl ?_
    refine wa_iload (x := (v5 + (-1))) dJ18_getChars_113 0 rfl ?_
    refine wa_bipush (v := 45) dJ18_getChars_115 rfl ?_
    refine wa_bast dJ18_getChars_117 (s_I_mono F fun h1 F => ?_)
    refine wa_iload (x := (v5 + (-1))) dJ18_getChars_118 0 rfl ?_
    exact wa_iret rfl dJ18_getChars_120 F
theorem f_J18_intValue {D : qD} {Q : Option Value → qH → Prop} {X : String → qH → Prop} (t : Nat) (h : qH) (F : g_I D h (some t) 8 0 (fun x1 => Q (some (.int x1)) h)) : MW D m_J18_intValue [va_rf (some t)] h Q X := by
  refine mw_of pl_J18_intValue rfl _ (Nat.le_of_ble_eq_true rfl) rfl ?_
  refine (show WA D m_J18_intValue Q X 0 [(0, va_rf (some t))] [] h from ?_)
  refine wa_aload_n (o := (some t)) dJ18_intValue_0 rfl 0 rfl ?_
  refine wa_getI (C := RJ18) (T := TJ18) (N := 1) (ci := 8) (k := 0) dJ18_intValue_1 rfl (Nat.le_of_ble_eq_true rfl) in_J18 q866 q_same_own (g_I_mono F fun x1 F => ?_)
  exact wa_iret rfl dJ18_intValue_4 F
theorem f_J18_init {D : qD} {Q : Option Value → qH → Prop} {X : String → qH → Prop} (t : Nat) (p0 : Int32) (h : qH) (F : c_V D m_J17_init [va_rf (some t)] h X (fun h1 => p_F h1 (some t) 8 0 (.int p0) (fun h2 => Q none h2))) : MW D m_J18_init [va_rf (some t), .int p0] h Q X := by
  refine mw_of pl_J18_init rfl _ (Nat.le_of_ble_eq_true rfl) rfl ?_
  refine (show WA D m_J18_init Q X 0 [(0, va_rf (some t)), (1, .int p0)] [] h from ?_)
  refine wa_aload_n (o := (some t)) dJ18_init_0 rfl 0 rfl ?_
  refine wa_callI (M' := m_J17_init) (b := t) (As := []) (st := []) dJ18_init_1 ⟨Nat.le_of_ble_eq_true rfl, Nat.le_of_ble_eq_true rfl, nk_J17_init⟩ rfl rfl q862 q863 q75 q864 rfl rfl (Nat.zero_le 8) rfl F (wk_V fun h1 F => ?_)
  refine wa_aload_n (o := (some t)) dJ18_init_4 rfl 0 rfl ?_
  refine wa_iload_n (x := p0) dJ18_init_5 rfl 1 rfl ?_
  refine wa_putF (C := RJ18) (T := TJ18) (N := 1) (ci := 8) (k := 0) tyJ18 dJ18_init_6 rfl (Nat.le_of_ble_eq_true rfl) in_J18 tyJ18_ok nmJ18 q866 q_same_own rfl rfl rfl rfl rfl (p_F_mono F fun h2 F => ?_)
  exact wa_vret rfl dJ18_init_9 F
def L_J18_valueOf_23 (D : qD) (Q : Option Value → qH → Prop) (X : String → qH → Prop) (v0 : Int32) (h : qH) : Prop := WA D m_J18_valueOf Q X 23 [(0, .int v0)] [] h
theorem f_J18_valueOf {D : qD} {Q : Option Value → qH → Prop} {X : String → qH → Prop} (p0 : Int32) (h : qH) (F : ((p0 < (-128) → L_J18_valueOf_23 D Q X p0 h) ∧ (¬ p0 < (-128) → ((127 < p0 → L_J18_valueOf_23 D Q X p0 h) ∧ (¬ 127 < p0 → a_R D h (some (d_s D 1)) 8 (p0 + 128) (fun r1 => Q (some (va_rf r1)) h)))))) : MW D m_J18_valueOf [.int p0] h Q X := by
  refine mw_of pl_J18_valueOf rfl _ (Nat.le_of_ble_eq_true rfl) rfl ?_
  refine (show WA D m_J18_valueOf Q X 0 [(0, .int p0)] [] h from ?_)
  refine wa_iload_n (x := p0) dJ18_valueOf_0 rfl 0 rfl ?_
  refine wa_bipush (v := -128) dJ18_valueOf_1 rfl ?_
  refine wa_icmp_lt (tgt := 23) dJ18_valueOf_3 rfl (fun z => ?_) (fun z => ?_)
  · have F := F.1 z
    exact F
  · have F := F.2 z
    refine wa_iload_n (x := p0) dJ18_valueOf_6 rfl 0 rfl ?_
    refine wa_gets (C := "java/lang/Integer$IntegerCache") (v := .int 127) dJ18_valueOf_7 (by simp [qST]) q853 rfl ?_
    refine wa_icmp_gt (tgt := 23) dJ18_valueOf_10 rfl (fun z => ?_) (fun z => ?_)
    · have F := F.1 z
      exact F
    · have F := F.2 z
      refine wa_gets (C := "java/lang/Integer$IntegerCache") (v := va_rf (some (d_s D 1))) dJ18_valueOf_13 (by simp [qST, va_rf]) q855 rfl ?_
      refine wa_iload_n (x := p0) dJ18_valueOf_16 rfl 0 rfl ?_
      refine wa_sipush (v := 128) dJ18_valueOf_17 rfl ?_
      refine wa_iadd dJ18_valueOf_20 ?_
      refine wa_aald (t := 8) rfl rfl dJ18_valueOf_21 (a_R_mono F fun r1 F => ?_)
      exact wa_aret rfl (Or.inl ⟨_, rfl⟩) dJ18_valueOf_22 F
theorem f_J18_valueOf_23 {D : qD} {Q : Option Value → qH → Prop} {X : String → qH → Prop} (v0 : Int32) (h : qH) (F : n_O h 8 1 tyJ18 (fun a1 h2 => c_V D m_J18_init [va_rf (some a1), .int v0] h2 X (fun h3 => Q (some (va_rf (some a1))) h3))) : L_J18_valueOf_23 D Q X v0 h := by
  show WA D m_J18_valueOf Q X 23 [(0, .int v0)] [] h
  refine wa_new (C := RJ18) (T := TJ18) tyJ18 dJ18_valueOf_23 rfl in_J18 tyJ18_ok q857 q858 q76 (n_O_mono F fun a1 h2 F => ?_)
  refine wa_dup dJ18_valueOf_26 (q_cat _) ?_
  refine wa_iload_n (x := v0) dJ18_valueOf_27 rfl 0 rfl ?_
  refine wa_callI (M' := m_J18_init) (b := a1) (As := [.int v0]) (st := [va_rf (some a1)]) dJ18_valueOf_28 ⟨Nat.le_of_ble_eq_true rfl, Nat.le_of_ble_eq_true rfl, nk_J18_init⟩ rfl rfl q859 q860 q76 q861 rfl rfl (q_cs_le (q_csr q_cs0) (Nat.le_of_ble_eq_true rfl)) rfl F (wk_V fun h3 F => ?_)
  exact wa_aret rfl (Or.inl ⟨_, rfl⟩) dJ18_valueOf_31 F
theorem f_J14_copyOf {D : qD} {Q : Option Value → qH → Prop} {X : String → qH → Prop} (p0 : Nat) (p1 : Int32) (h : qH) (F : a_N D h (some p0) (fun x1 => ((¬ p1 = x1 → n_I h 2 p1 (fun a2 h3 => a_N D h3 (some p0) (fun x4 => cp_B D h3 (some p0) 0 (some a2) 0 (if p1 < x4 then p1 else x4) (fun h5 => Q (some (va_rf (some a2))) h5)))) ∧ (p1 = x1 → cl_B D h (some p0) (fun a6 h7 => (k_B D h7 (some a6) ∧ Q (some (va_rf (some a6))) h7)))))) : MW D m_J14_copyOf [va_rf (some p0), .int p1] h Q X := by
  refine mw_of pl_J14_copyOf rfl _ (Nat.le_of_ble_eq_true rfl) rfl ?_
  refine (show WA D m_J14_copyOf Q X 0 [(0, va_rf (some p0)), (1, .int p1)] [] h from ?_)
  refine wa_iload_n (x := p1) dJ14_copyOf_0 rfl 1 rfl ?_
  refine wa_aload_n (o := (some p0)) dJ14_copyOf_1 rfl 0 rfl ?_
  refine wa_alen dJ14_copyOf_2 (a_N_mono F fun x1 F => ?_)
  refine wa_icmp_ne (tgt := 14) dJ14_copyOf_3 rfl (fun z => ?_) (fun z => ?_)
  · have F := F.1 z
    refine wa_iload_n (x := p1) dJ14_copyOf_14 rfl 1 rfl ?_
    refine wa_newI (t := 2) (atype := .byte) rfl rfl (Nat.le_of_ble_eq_true rfl) q276 dJ14_copyOf_15 (n_I_mono F fun a2 h3 F => ?_)
    refine ws_astore_n (lv' := [(2, va_rf (some a2)), (0, va_rf (some p0)), (1, .int p1)]) dJ14_copyOf_17 rfl (Nat.le_of_ble_eq_true rfl) (q_cr (q_ci q_cn)) rfl ?_
    refine wa_aload_n (o := (some p0)) dJ14_copyOf_18 rfl 1 rfl ?_
    refine wa_iconst (v := 0) dJ14_copyOf_19 rfl ?_
    refine wa_aload_n (o := (some a2)) dJ14_copyOf_20 rfl 0 rfl ?_
    refine wa_iconst (v := 0) dJ14_copyOf_21 rfl ?_
    refine wa_aload_n (o := (some p0)) dJ14_copyOf_22 rfl 1 rfl ?_
    refine wa_alen dJ14_copyOf_23 (a_N_mono F fun x4 F => ?_)
    refine wa_iload_n (x := p1) dJ14_copyOf_24 rfl 2 rfl ?_
    refine wa_mmin (x := x4) (y := p1) dJ14_copyOf_25 q372 q373 q70 q374 (Nat.le_of_ble_eq_true rfl) (q_cs_le (q_csi (q_csr (q_csi (q_csr q_cs0)))) (Nat.le_of_ble_eq_true rfl)) ?_
    refine wa_copyB dJ14_copyOf_28 q375 (Nat.le_of_ble_eq_true rfl) (Nat.zero_le 8) (cp_B_mono F fun h5 F => ?_)
    refine wa_aload_n (o := (some a2)) dJ14_copyOf_31 rfl 0 rfl ?_
    exact wa_aret rfl (Or.inr ⟨_, rfl⟩) dJ14_copyOf_32 F
  · have F := F.2 z
    refine wa_aload_n (o := (some p0)) dJ14_copyOf_6 rfl 0 rfl ?_
    refine wa_clone dJ14_copyOf_7 q365 (Nat.le_of_ble_eq_true rfl) (Nat.zero_le 8) (cl_B_mono F fun a6 h7 F => ?_)
    refine wa_castB dJ14_copyOf_10 q371 F.1 ?_
    have F := F.2
    exact wa_aret rfl (Or.inr ⟨_, rfl⟩) dJ14_copyOf_13 F
def L_J14_copyOf_3_24 (D : qD) (Q : Option Value → qH → Prop) (X : String → qH → Prop) (v0 : Nat) (v1 : Int32) (s0 : Nat) (h : qH) : Prop := WA D m_J14_copyOf_3 Q X 24 [(0, va_rf (some v0)), (1, .int v1)] [va_rf (some s0)] h
theorem f_J14_copyOf_3 {D : qD} {Q : Option Value → qH → Prop} {X : String → qH → Prop} (p0 : Nat) (p1 : Int32) (p2 : Nat) (h : qH) (F : ((¬ (some p2) = (some (d_s D 4)) → False) ∧ ((some p2) = (some (d_s D 4)) → n_R h 4 p1 (fun a1 h2 => L_J14_copyOf_3_24 D Q X p0 p1 a1 h2)))) : MW D m_J14_copyOf_3 [va_rf (some p0), .int p1, va_rf (some p2)] h Q X := by
  refine mw_of pl_J14_copyOf_3 rfl _ (Nat.le_of_ble_eq_true rfl) rfl ?_
  refine (show WA D m_J14_copyOf_3 Q X 0 [(0, va_rf (some p0)), (1, .int p1), (2, va_rf (some p2))] [] h from ?_)
  refine wa_aload_n (o := (some p2)) dJ14_copyOf_3_0 rfl 2 rfl ?_
  refine wa_ldcM dJ14_copyOf_3_1 q668 ?_
  refine wa_acmp_ne (tgt := 13) dJ14_copyOf_3_3 rfl (fun z => ?_) (fun z => ?_)
  · have F := F.1 z
    refine wa_aload_n (o := (some p2)) dJ14_copyOf_3_13 rfl 2 rfl ?_
    exact F.elim
  · have F := F.2 z
    refine wa_iload_n (x := p1) dJ14_copyOf_3_6 rfl 1 rfl ?_
    refine wa_newR (t := 4) (C := "java/lang/Object") rfl (by simp [qAO]) q670 dJ14_copyOf_3_7 (n_R_mono F fun a1 h2 F => ?_)
    refine wa_goto (tgt := 24) dJ14_copyOf_3_10 rfl ?_
    exact wa_sub [0, 1] rfl F
theorem f_J14_copyOf_3_24 {D : qD} {Q : Option Value → qH → Prop} {X : String → qH → Prop} (v0 : Nat) (v1 : Int32) (s0 : Nat) (h : qH) (F : a_N D h (some v0) (fun x1 => cp_R D h (some v0) 0 (some s0) 0 (if v1 < x1 then v1 else x1) (fun h2 => Q (some (va_rf (some s0))) h2))) : L_J14_copyOf_3_24 D Q X v0 v1 s0 h := by
  show WA D m_J14_copyOf_3 Q X 24 [(0, va_rf (some v0)), (1, .int v1)] [va_rf (some s0)] h
  refine ws_astore_n (lv' := [(3, va_rf (some s0)), (0, va_rf (some v0)), (1, .int v1)]) dJ14_copyOf_3_24 rfl (Nat.le_of_ble_eq_true rfl) (q_cr (q_ci q_cn)) rfl ?_
  refine wa_aload_n (o := (some v0)) dJ14_copyOf_3_25 rfl 1 rfl ?_
  refine wa_iconst (v := 0) dJ14_copyOf_3_26 rfl ?_
  refine wa_aload_n (o := (some s0)) dJ14_copyOf_3_27 rfl 0 rfl ?_
  refine wa_iconst (v := 0) dJ14_copyOf_3_28 rfl ?_
  refine wa_aload_n (o := (some v0)) dJ14_copyOf_3_29 rfl 1 rfl ?_
  refine wa_alen dJ14_copyOf_3_30 (a_N_mono F fun x1 F => ?_)
  refine wa_iload_n (x := v1) dJ14_copyOf_3_31 rfl 2 rfl ?_
  refine wa_mmin (x := x1) (y := v1) dJ14_copyOf_3_32 q372 q373 q70 q374 (Nat.le_of_ble_eq_true rfl) (q_cs_le (q_csi (q_csr (q_csi (q_csr q_cs0)))) (Nat.le_of_ble_eq_true rfl)) ?_
  refine wa_copyR dJ14_copyOf_3_35 q375 (Nat.le_of_ble_eq_true rfl) (Nat.zero_le 8) (cp_R_mono F fun h2 F => ?_)
  refine wa_aload_n (o := (some s0)) dJ14_copyOf_3_38 rfl 0 rfl ?_
  exact wa_aret rfl (Or.inr ⟨_, rfl⟩) dJ14_copyOf_3_39 F
theorem f_J14_copyOf_2 {D : qD} {Q : Option Value → qH → Prop} {X : String → qH → Prop} (p0 : Nat) (p1 : Int32) (h : qH) (F : (gc_R D h (some p0) ∧ c_R D m_J14_copyOf_3 [va_rf (some p0), .int p1, va_rf (some (d_s D 4))] h X (fun r2 h1 => Q (some (va_rf r2)) h1))) : MW D m_J14_copyOf_2 [va_rf (some p0), .int p1] h Q X := by
  refine mw_of pl_J14_copyOf_2 rfl _ (Nat.le_of_ble_eq_true rfl) rfl ?_
  refine (show WA D m_J14_copyOf_2 Q X 0 [(0, va_rf (some p0)), (1, .int p1)] [] h from ?_)
  refine wa_aload_n (o := (some p0)) dJ14_copyOf_2_0 rfl 0 rfl ?_
  refine wa_iload_n (x := p1) dJ14_copyOf_2_1 rfl 1 rfl ?_
  refine wa_aload_n (o := (some p0)) dJ14_copyOf_2_2 rfl 0 rfl ?_
  refine wa_getC dJ14_copyOf_2_3 q646 (Nat.le_of_ble_eq_true rfl) (q_cs_le (q_csi (q_csr q_cs0)) (Nat.le_of_ble_eq_true rfl)) F.1 ?_
  have F := F.2
  refine wa_callS (M' := m_J14_copyOf_3) (As := [va_rf (some p0), .int p1, va_rf (some (d_s D 4))]) (st := []) dJ14_copyOf_2_6 ⟨Nat.le_of_ble_eq_true rfl, Nat.le_of_ble_eq_true rfl, nk_J14_copyOf_3⟩ q665 q666 q71 q667 rfl rfl (Nat.zero_le 8) rfl F (wk_R fun r2 h1 F => ?_)
  exact wa_aret rfl (Or.inr ⟨_, rfl⟩) dJ14_copyOf_2_9 F
theorem f_J14_checkLength {D : qD} {Q : Option Value → qH → Prop} {X : String → qH → Prop} (p0 : Int32) (p1 : Int32) (h : qH) (F : ((p0 ≤ p1 → Q none h) ∧ (¬ p0 ≤ p1 → False))) : MW D m_J14_checkLength [.int p0, .int p1] h Q X := by
  refine mw_of pl_J14_checkLength rfl _ (Nat.le_of_ble_eq_true rfl) rfl ?_
  refine (show WA D m_J14_checkLength Q X 0 [(0, .int p0), (1, .int p1)] [] h from ?_)
  refine wa_iload_n (x := p1) dJ14_checkLength_0 rfl 1 rfl ?_
  refine wa_iload_n (x := p0) dJ14_checkLength_1 rfl 0 rfl ?_
  refine wa_icmp_ge (tgt := 37) dJ14_checkLength_2 rfl (fun z => ?_) (fun z => ?_)
  · have F := F.1 z
    exact wa_vret rfl dJ14_checkLength_37 F
  · have F := F.2 z
    exact F.elim
theorem f_J14_copyOfRangeByte {D : qD} {Q : Option Value → qH → Prop} {X : String → qH → Prop} (p0 : Nat) (p1 : Int32) (p2 : Int32) (h : qH) (F : c_V D m_J14_checkLength [.int p1, .int p2] h X (fun h1 => n_I h1 2 (p2 - p1) (fun a2 h3 => a_N D h3 (some p0) (fun x4 => cp_B D h3 (some p0) p1 (some a2) 0 (if (p2 - p1) < (x4 - p1) then (p2 - p1) else (x4 - p1)) (fun h5 => Q (some (va_rf (some a2))) h5))))) : MW D m_J14_copyOfRangeByte [va_rf (some p0), .int p1, .int p2] h Q X := by
  refine mw_of pl_J14_copyOfRangeByte rfl _ (Nat.le_of_ble_eq_true rfl) rfl ?_
  refine (show WA D m_J14_copyOfRangeByte Q X 0 [(0, va_rf (some p0)), (1, .int p1), (2, .int p2)] [] h from ?_)
  refine wa_iload_n (x := p1) dJ14_copyOfRangeByte_0 rfl 1 rfl ?_
  refine wa_iload_n (x := p2) dJ14_copyOfRangeByte_1 rfl 2 rfl ?_
  refine wa_callS (M' := m_J14_checkLength) (As := [.int p1, .int p2]) (st := []) dJ14_copyOfRangeByte_2 ⟨Nat.le_of_ble_eq_true rfl, Nat.le_of_ble_eq_true rfl, nk_J14_checkLength⟩ q510 q511 q71 q512 rfl rfl (Nat.zero_le 8) rfl F (wk_V fun h1 F => ?_)
  refine wa_iload_n (x := p2) dJ14_copyOfRangeByte_5 rfl 2 rfl ?_
  refine wa_iload_n (x := p1) dJ14_copyOfRangeByte_6 rfl 1 rfl ?_
  refine wa_isub dJ14_copyOfRangeByte_7 ?_
  refine ws_istore_n (lv' := [(3, .int (p2 - p1)), (0, va_rf (some p0)), (1, .int p1), (2, .int p2)]) dJ14_copyOfRangeByte_8 rfl (Nat.le_of_ble_eq_true rfl) (q_cr (q_ci (q_ci q_cn))) rfl ?_
  refine wa_iload_n (x := (p2 - p1)) dJ14_copyOfRangeByte_9 rfl 0 rfl ?_
  refine wa_newI (t := 2) (atype := .byte) rfl rfl (Nat.le_of_ble_eq_true rfl) q276 dJ14_copyOfRangeByte_10 (n_I_mono F fun a2 h3 F => ?_)
  refine ws_astore (lv' := [(4, va_rf (some a2)), (3, .int (p2 - p1)), (0, va_rf (some p0)), (1, .int p1), (2, .int p2)]) dJ14_copyOfRangeByte_12 (Nat.le_of_ble_eq_true rfl) (q_ci (q_cr (q_ci (q_ci q_cn)))) rfl ?_
  refine wa_aload_n (o := (some p0)) dJ14_copyOfRangeByte_14 rfl 2 rfl ?_
  refine wa_iload_n (x := p1) dJ14_copyOfRangeByte_15 rfl 3 rfl ?_
  refine wa_aload (o := (some a2)) dJ14_copyOfRangeByte_16 0 rfl ?_
  refine wa_iconst (v := 0) dJ14_copyOfRangeByte_18 rfl ?_
  refine wa_aload_n (o := (some p0)) dJ14_copyOfRangeByte_19 rfl 2 rfl ?_
  refine wa_alen dJ14_copyOfRangeByte_20 (a_N_mono F fun x4 F => ?_)
  refine wa_iload_n (x := p1) dJ14_copyOfRangeByte_21 rfl 3 rfl ?_
  refine wa_isub dJ14_copyOfRangeByte_22 ?_
  refine wa_iload_n (x := (p2 - p1)) dJ14_copyOfRangeByte_23 rfl 1 rfl ?_
  refine wa_mmin (x := (x4 - p1)) (y := (p2 - p1)) dJ14_copyOfRangeByte_24 q372 q373 q70 q374 (Nat.le_of_ble_eq_true rfl) (q_cs_le (q_csi (q_csr (q_csi (q_csr q_cs0)))) (Nat.le_of_ble_eq_true rfl)) ?_
  refine wa_copyB dJ14_copyOfRangeByte_27 q375 (Nat.le_of_ble_eq_true rfl) (Nat.zero_le 8) (cp_B_mono F fun h5 F => ?_)
  refine wa_aload (o := (some a2)) dJ14_copyOfRangeByte_30 0 rfl ?_
  exact wa_aret rfl (Or.inr ⟨_, rfl⟩) dJ14_copyOfRangeByte_32 F
def L_J14_copyOfRange_10 (D : qD) (Q : Option Value → qH → Prop) (X : String → qH → Prop) (v0 : Nat) (v1 : Int32) (v2 : Int32) (h : qH) : Prop := WA D m_J14_copyOfRange Q X 10 [(0, va_rf (some v0)), (1, .int v1), (2, .int v2)] [] h
theorem f_J14_copyOfRange {D : qD} {Q : Option Value → qH → Prop} {X : String → qH → Prop} (p0 : Nat) (p1 : Int32) (p2 : Int32) (h : qH) (F : ((¬ p1 = 0 → L_J14_copyOfRange_10 D Q X p0 p1 p2 h) ∧ (p1 = 0 → a_N D h (some p0) (fun x1 => ((p2 = x1 → cl_B D h (some p0) (fun a2 h3 => (k_B D h3 (some a2) ∧ Q (some (va_rf (some a2))) h3))) ∧ (¬ p2 = x1 → L_J14_copyOfRange_10 D Q X p0 p1 p2 h)))))) : MW D m_J14_copyOfRange [va_rf (some p0), .int p1, .int p2] h Q X := by
  refine mw_of pl_J14_copyOfRange rfl _ (Nat.le_of_ble_eq_true rfl) rfl ?_
  refine (show WA D m_J14_copyOfRange Q X 0 [(0, va_rf (some p0)), (1, .int p1), (2, .int p2)] [] h from ?_)
  refine wa_iload_n (x := p1) dJ14_copyOfRange_0 rfl 1 rfl ?_
  refine wa_if_ne (tgt := 10) dJ14_copyOfRange_1 rfl (fun z => ?_) (fun z => ?_)
  · have F := F.1 z
    exact F
  · have F := F.2 z
    refine wa_iload_n (x := p2) dJ14_copyOfRange_4 rfl 2 rfl ?_
    refine wa_aload_n (o := (some p0)) dJ14_copyOfRange_5 rfl 0 rfl ?_
    refine wa_alen dJ14_copyOfRange_6 (a_N_mono F fun x1 F => ?_)
    refine wa_icmp_eq (tgt := 17) dJ14_copyOfRange_7 rfl (fun z => ?_) (fun z => ?_)
    · have F := F.1 z
      refine wa_aload_n (o := (some p0)) dJ14_copyOfRange_17 rfl 0 rfl ?_
      refine wa_clone dJ14_copyOfRange_18 q365 (Nat.le_of_ble_eq_true rfl) (Nat.zero_le 8) (cl_B_mono F fun a2 h3 F => ?_)
      refine wa_castB dJ14_copyOfRange_21 q371 F.1 ?_
      have F := F.2
      exact wa_aret rfl (Or.inr ⟨_, rfl⟩) dJ14_copyOfRange_24 F
    · have F := F.2 z
      exact F
theorem f_J14_copyOfRange_10 {D : qD} {Q : Option Value → qH → Prop} {X : String → qH → Prop} (v0 : Nat) (v1 : Int32) (v2 : Int32) (h : qH) (F : c_R D m_J14_copyOfRangeByte [va_rf (some v0), .int v1, .int v2] h X (fun r2 h1 => Q (some (va_rf r2)) h1)) : L_J14_copyOfRange_10 D Q X v0 v1 v2 h := by
  show WA D m_J14_copyOfRange Q X 10 [(0, va_rf (some v0)), (1, .int v1), (2, .int v2)] [] h
  refine wa_aload_n (o := (some v0)) dJ14_copyOfRange_10 rfl 0 rfl ?_
  refine wa_iload_n (x := v1) dJ14_copyOfRange_11 rfl 1 rfl ?_
  refine wa_iload_n (x := v2) dJ14_copyOfRange_12 rfl 2 rfl ?_
  refine wa_callS (M' := m_J14_copyOfRangeByte) (As := [va_rf (some v0), .int v1, .int v2]) (st := []) dJ14_copyOfRange_13 ⟨Nat.le_of_ble_eq_true rfl, Nat.le_of_ble_eq_true rfl, nk_J14_copyOfRangeByte⟩ q507 q508 q71 q509 rfl rfl (Nat.zero_le 8) rfl F (wk_R fun r2 h1 F => ?_)
  exact wa_aret rfl (Or.inr ⟨_, rfl⟩) dJ14_copyOfRange_16 F
theorem f_J8_coder {D : qD} {Q : Option Value → qH → Prop} {X : String → qH → Prop} (t : Nat) (h : qH) (F : (((1 : Int32) = 0 → Q (some (.int 1)) h) ∧ (¬ (1 : Int32) = 0 → g_I D h (some t) 10 1 (fun x1 => ((-128 ≤ x1 ∧ x1 ≤ 127) ∧ Q (some (.int x1)) h))))) : MW D m_J8_coder [va_rf (some t)] h Q X := by
  refine mw_of pl_J8_coder rfl _ (Nat.le_of_ble_eq_true rfl) rfl ?_
  refine (show WA D m_J8_coder Q X 0 [(0, va_rf (some t))] [] h from ?_)
  refine wa_gets (C := "java/lang/String") (v := .int 1) dJ8_coder_0 (by simp [qST]) q417 rfl ?_
  refine wa_if_eq (tgt := 13) dJ8_coder_3 rfl (fun z => ?_) (fun z => ?_)
  · have F := F.1 z
    refine wa_iconst (v := 1) dJ8_coder_13 rfl ?_
    exact wa_zret rfl rfl dJ8_coder_14 F
  · have F := F.2 z
    refine wa_aload_n (o := (some t)) dJ8_coder_6 rfl 0 rfl ?_
    refine wa_getI (C := RJ8) (T := TJ8) (N := 4) (ci := 10) (k := 1) dJ8_coder_7 rfl (Nat.le_of_ble_eq_true rfl) in_J8 q548 q_same_own (g_I_mono F fun x1 F => ?_)
    refine wa_goto (tgt := 14) dJ8_coder_10 rfl ?_
    exact wa_zret rfl (q_nar_b F.1) dJ8_coder_14 F.2
theorem f_J8_length {D : qD} {Q : Option Value → qH → Prop} {X : String → qH → Prop} (t : Nat) (h : qH) (F : g_R D h (some t) 10 0 (fun r1 => a_N D h r1 (fun x2 => (recv D h (some t) RJ8 ∧ c_I D m_J8_coder [va_rf (some t)] h X (fun x4 h3 => Q (some (.int (x2 >>> (x4 &&& 31)))) h3))))) : MW D m_J8_length [va_rf (some t)] h Q X := by
  refine mw_of pl_J8_length rfl _ (Nat.le_of_ble_eq_true rfl) rfl ?_
  refine (show WA D m_J8_length Q X 0 [(0, va_rf (some t))] [] h from ?_)
  refine wa_aload_n (o := (some t)) dJ8_length_0 rfl 0 rfl ?_
  refine wa_getR (C := RJ8) (T := TJ8) (N := 4) (ci := 10) (k := 0) dJ8_length_1 rfl (Nat.le_of_ble_eq_true rfl) in_J8 q547 q_same_own (g_R_mono F fun r1 F => ?_)
  refine wa_alen dJ8_length_4 (a_N_mono F fun x2 F => ?_)
  refine wa_aload_n (o := (some t)) dJ8_length_5 rfl 0 rfl ?_
  refine wa_callV (M' := m_J8_coder) (C := RJ8) (o := (some t)) (As := []) (st := [.int x2]) dJ8_length_6 ⟨Nat.le_of_ble_eq_true rfl, Nat.le_of_ble_eq_true rfl, nk_J8_coder⟩ q413 q414 q415 q65 q416 rfl rfl (q_cs_le (q_csi q_cs0) (Nat.le_of_ble_eq_true rfl)) rfl F.1 F.2 (wk_I fun x4 h3 F => ?_)
  refine wa_ishr dJ8_length_9 ?_
  exact wa_iret rfl dJ8_length_10 F
theorem f_J8_getBytes {D : qD} {Q : Option Value → qH → Prop} {X : String → qH → Prop} (t : Nat) (p0 : Nat) (p1 : Int32) (p2 : Int32) (h : qH) (F : (recv D h (some t) RJ8 ∧ c_I D m_J8_coder [va_rf (some t)] h X (fun x2 h1 => ((¬ x2 = p2 → g_R D h1 (some t) 10 0 (fun r3 => g_R D h1 (some t) 10 0 (fun r4 => a_N D h1 r4 (fun x5 => False)))) ∧ (x2 = p2 → g_R D h1 (some t) 10 0 (fun r6 => g_R D h1 (some t) 10 0 (fun r7 => a_N D h1 r7 (fun x8 => cp_B D h1 r6 0 (some p0) (p1 <<< (p2 &&& 31)) x8 (fun h9 => Q none h9))))))))) : MW D m_J8_getBytes [va_rf (some t), va_rf (some p0), .int p1, .int p2] h Q X := by
  refine mw_of pl_J8_getBytes rfl _ (Nat.le_of_ble_eq_true rfl) rfl ?_
  refine (show WA D m_J8_getBytes Q X 0 [(0, va_rf (some t)), (1, va_rf (some p0)), (2, .int p1), (3, .int p2)] [] h from ?_)
  refine wa_aload_n (o := (some t)) dJ8_getBytes_0 rfl 0 rfl ?_
  refine wa_callV (M' := m_J8_coder) (C := RJ8) (o := (some t)) (As := []) (st := []) dJ8_getBytes_1 ⟨Nat.le_of_ble_eq_true rfl, Nat.le_of_ble_eq_true rfl, nk_J8_coder⟩ q413 q414 q415 q65 q416 rfl rfl (Nat.zero_le 8) rfl F.1 F.2 (wk_I fun x2 h1 F => ?_)
  refine wa_iload_n (x := p2) dJ8_getBytes_4 rfl 3 rfl ?_
  refine wa_icmp_ne (tgt := 28) dJ8_getBytes_5 rfl (fun z => ?_) (fun z => ?_)
  · have F := F.1 z
    refine wa_aload_n (o := (some t)) dJ8_getBytes_28 rfl 0 rfl ?_
    refine wa_getR (C := RJ8) (T := TJ8) (N := 4) (ci := 10) (k := 0) dJ8_getBytes_29 rfl (Nat.le_of_ble_eq_true rfl) in_J8 q547 q_same_own (g_R_mono F fun r3 F => ?_)
    refine wa_iconst (v := 0) dJ8_getBytes_32 rfl ?_
    refine wa_aload_n (o := (some p0)) dJ8_getBytes_33 rfl 1 rfl ?_
    refine wa_iload_n (x := p1) dJ8_getBytes_34 rfl 2 rfl ?_
    refine wa_aload_n (o := (some t)) dJ8_getBytes_35 rfl 0 rfl ?_
    refine wa_getR (C := RJ8) (T := TJ8) (N := 4) (ci := 10) (k := 0) dJ8_getBytes_36 rfl (Nat.le_of_ble_eq_true rfl) in_J8 q547 q_same_own (g_R_mono F fun r4 F => ?_)
    refine wa_alen dJ8_getBytes_39 (a_N_mono F fun x5 F => ?_)
    exact F.elim
  · have F := F.2 z
    refine wa_aload_n (o := (some t)) dJ8_getBytes_8 rfl 0 rfl ?_
    refine wa_getR (C := RJ8) (T := TJ8) (N := 4) (ci := 10) (k := 0) dJ8_getBytes_9 rfl (Nat.le_of_ble_eq_true rfl) in_J8 q547 q_same_own (g_R_mono F fun r6 F => ?_)
    refine wa_iconst (v := 0) dJ8_getBytes_12 rfl ?_
    refine wa_aload_n (o := (some p0)) dJ8_getBytes_13 rfl 1 rfl ?_
    refine wa_iload_n (x := p1) dJ8_getBytes_14 rfl 2 rfl ?_
    refine wa_iload_n (x := p2) dJ8_getBytes_15 rfl 3 rfl ?_
    refine wa_ishl dJ8_getBytes_16 ?_
    refine wa_aload_n (o := (some t)) dJ8_getBytes_17 rfl 0 rfl ?_
    refine wa_getR (C := RJ8) (T := TJ8) (N := 4) (ci := 10) (k := 0) dJ8_getBytes_18 rfl (Nat.le_of_ble_eq_true rfl) in_J8 q547 q_same_own (g_R_mono F fun r7 F => ?_)
    refine wa_alen dJ8_getBytes_21 (a_N_mono F fun x8 F => ?_)
    refine wa_copyB dJ8_getBytes_22 q450 (Nat.le_of_ble_eq_true rfl) (Nat.zero_le 8) (cp_B_mono F fun h9 F => ?_)
    refine wa_goto (tgt := 43) dJ8_getBytes_25 rfl ?_
    exact wa_vret rfl dJ8_getBytes_43 F
def L_J8_init_2_79 (D : qD) (Q : Option Value → qH → Prop) (X : String → qH → Prop) (t : Nat) (v3 : Option Nat) (v4 : Int32) (h : qH) : Prop := WA D m_J8_init_2 Q X 79 [(0, va_rf (some t)), (3, va_rf v3), (4, .int v4)] [] h
theorem f_J8_init_2 {D : qD} {Q : Option Value → qH → Prop} {X : String → qH → Prop} (t : Nat) (p0 : Nat) (h : qH) (F : (recv D h (some p0) RJ10 ∧ c_R D m_J9_getValue [va_rf (some p0)] h X (fun r2 h1 => (recv D h1 (some p0) RJ10 ∧ c_I D m_J10_length [va_rf (some p0)] h1 X (fun x4 h3 => (recv D h3 (some p0) RJ10 ∧ c_I D m_J9_isLatin1 [va_rf (some p0)] h3 X (fun x6 h5 => ((x6 = 0 → (((1 : Int32) = 0 → L_J8_init_2_79 D Q X t r2 x4 h5) ∧ (¬ (1 : Int32) = 0 → g_I D h5 (some p0) 9 2 (fun x7 => ((x7 = 0 → L_J8_init_2_79 D Q X t r2 x4 h5) ∧ (¬ x7 = 0 → False)))))) ∧ (¬ x6 = 0 → p_F h5 (some t) 10 1 (.int 0) (fun h8 => c_R D m_J14_copyOfRange [va_rf r2, .int 0, .int x4] h8 X (fun r10 h9 => p_F h9 (some t) 10 0 (va_rf r10) (fun h11 => Q none h11)))))))))))) : MW D m_J8_init_2 [va_rf (some t), va_rf (some p0), va_rf none] h Q X := by
  refine mw_of pl_J8_init_2 rfl _ (Nat.le_of_ble_eq_true rfl) rfl ?_
  refine (show WA D m_J8_init_2 Q X 0 [(0, va_rf (some t)), (1, va_rf (some p0)), (2, va_rf none)] [] h from ?_)
  refine wa_aload_n (o := (some t)) dJ8_init_2_0 rfl 0 rfl ?_
  refine wa_objInit (a := t) dJ8_init_2_1 q489 q91 q92 (Nat.le_of_ble_eq_true rfl) (Nat.zero_le 8) ?_
  refine wa_aload_n (o := (some p0)) dJ8_init_2_4 rfl 1 rfl ?_
  refine wa_callV (M' := m_J9_getValue) (C := RJ10) (o := (some p0)) (As := []) (st := []) dJ8_init_2_5 ⟨Nat.le_of_ble_eq_true rfl, Nat.le_of_ble_eq_true rfl, nk_J9_getValue⟩ q490 q491 q493 q66 q494 rfl rfl (Nat.zero_le 8) rfl F.1 F.2 (wk_R fun r2 h1 F => ?_)
  refine ws_astore_n (lv' := [(3, va_rf r2), (0, va_rf (some t)), (1, va_rf (some p0)), (2, va_rf none)]) dJ8_init_2_8 rfl (Nat.le_of_ble_eq_true rfl) (q_cr (q_cr (q_cr q_cn))) rfl ?_
  refine wa_aload_n (o := (some p0)) dJ8_init_2_9 rfl 2 rfl ?_
  refine wa_callO (M' := m_J10_length) (C := RJ10) (owner := RJ9) (x := yJ9_length) (o := (some p0)) (As := []) (st := []) dJ8_init_2_10 ⟨Nat.le_of_ble_eq_true rfl, Nat.le_of_ble_eq_true rfl⟩ nk_J9_length q495 q497 q496 q498 q499 q67 q500 q502 rfl rfl (Nat.zero_le 8) rfl F.1 F.2 (wk_I fun x4 h3 F => ?_)
  refine ws_istore (lv' := [(4, .int x4), (3, va_rf r2), (0, va_rf (some t)), (1, va_rf (some p0)), (2, va_rf none)]) dJ8_init_2_13 (Nat.le_of_ble_eq_true rfl) (q_cr (q_cr (q_cr (q_cr q_cn)))) rfl ?_
  refine wa_aload_n (o := (some p0)) dJ8_init_2_15 rfl 3 rfl ?_
  refine wa_callV (M' := m_J9_isLatin1) (C := RJ10) (o := (some p0)) (As := []) (st := []) dJ8_init_2_16 ⟨Nat.le_of_ble_eq_true rfl, Nat.le_of_ble_eq_true rfl, nk_J9_isLatin1⟩ q503 q379 q381 q66 q382 rfl rfl (Nat.zero_le 8) rfl F.1 F.2 (wk_I fun x6 h5 F => ?_)
  refine wa_if_eq (tgt := 41) dJ8_init_2_19 rfl (fun z => ?_) (fun z => ?_)
  · have F := F.1 z
    refine wa_gets (C := "java/lang/String") (v := .int 1) dJ8_init_2_41 (by simp [qST]) q417 rfl ?_
    refine wa_if_eq (tgt := 79) dJ8_init_2_44 rfl (fun z => ?_) (fun z => ?_)
    · have F := F.1 z
      exact wa_sub [2, 1, 0] rfl F
    · have F := F.2 z
      refine wa_aload_n (o := (some p0)) dJ8_init_2_47 rfl 3 rfl ?_
      refine wa_getI (C := RJ10) (T := TJ10) (N := 4) (ci := 9) (k := 2) dJ8_init_2_48 rfl (Nat.le_of_ble_eq_true rfl) in_J10 q320 q_same_own (g_I_mono F fun x7 F => ?_)
      refine wa_if_eq (tgt := 79) dJ8_init_2_51 rfl (fun z => ?_) (fun z => ?_)
      · have F := F.1 z
        exact wa_sub [2, 1, 0] rfl F
      · have F := F.2 z
        refine wa_aload_n (o := (some t)) dJ8_init_2_54 rfl 2 rfl ?_
        refine wa_aload_n (o := r2) dJ8_init_2_55 rfl 1 rfl ?_
        refine wa_iconst (v := 0) dJ8_init_2_56 rfl ?_
        refine wa_iload (x := x4) dJ8_init_2_57 0 rfl ?_
        exact F.elim
  · have F := F.2 z
    refine wa_aload_n (o := (some t)) dJ8_init_2_22 rfl 2 rfl ?_
    refine wa_iconst (v := 0) dJ8_init_2_23 rfl ?_
    refine wa_putF (C := RJ8) (T := TJ8) (N := 4) (ci := 10) (k := 1) tyJ8 dJ8_init_2_24 rfl (Nat.le_of_ble_eq_true rfl) in_J8 tyJ8_ok nmJ8 q548 q_same_own rfl rfl rfl rfl rfl (p_F_mono F fun h8 F => ?_)
    refine wa_aload_n (o := (some t)) dJ8_init_2_27 rfl 2 rfl ?_
    refine wa_aload_n (o := r2) dJ8_init_2_28 rfl 1 rfl ?_
    refine wa_iconst (v := 0) dJ8_init_2_29 rfl ?_
    refine wa_iload (x := x4) dJ8_init_2_30 0 rfl ?_
    refine wa_callS (M' := m_J14_copyOfRange) (As := [va_rf r2, .int 0, .int x4]) (st := [va_rf (some t)]) dJ8_init_2_32 ⟨Nat.le_of_ble_eq_true rfl, Nat.le_of_ble_eq_true rfl, nk_J14_copyOfRange⟩ q504 q505 q71 q506 rfl rfl (q_cs_le (q_csr q_cs0) (Nat.le_of_ble_eq_true rfl)) rfl F (wk_R fun r10 h9 F => ?_)
    refine wa_putF (C := RJ8) (T := TJ8) (N := 4) (ci := 10) (k := 0) tyJ8 dJ8_init_2_35 rfl (Nat.le_of_ble_eq_true rfl) in_J8 tyJ8_ok nmJ8 q547 q_same_own rfl rfl rfl (q_nar_arr _) (q_fit_arr _) (p_F_mono F fun h11 F => ?_)
    refine wa_goto (tgt := 97) dJ8_init_2_38 rfl ?_
    exact wa_vret rfl dJ8_init_2_97 F
theorem f_J8_init_2_79 {D : qD} {Q : Option Value → qH → Prop} {X : String → qH → Prop} (t : Nat) (v3 : Option Nat) (v4 : Int32) (h : qH) (F : p_F h (some t) 10 1 (.int 1) (fun h1 => c_R D m_J14_copyOfRange [va_rf v3, .int 0, .int (v4 <<< ((1 : Int32) &&& 31))] h1 X (fun r3 h2 => p_F h2 (some t) 10 0 (va_rf r3) (fun h4 => Q none h4)))) : L_J8_init_2_79 D Q X t v3 v4 h := by
  show WA D m_J8_init_2 Q X 79 [(0, va_rf (some t)), (3, va_rf v3), (4, .int v4)] [] h
  refine wa_aload_n (o := (some t)) dJ8_init_2_79 rfl 0 rfl ?_
  refine wa_iconst (v := 1) dJ8_init_2_80 rfl ?_
  refine wa_putF (C := RJ8) (T := TJ8) (N := 4) (ci := 10) (k := 1) tyJ8 dJ8_init_2_81 rfl (Nat.le_of_ble_eq_true rfl) in_J8 tyJ8_ok nmJ8 q548 q_same_own rfl rfl rfl rfl rfl (p_F_mono F fun h1 F => ?_)
  refine wa_aload_n (o := (some t)) dJ8_init_2_84 rfl 0 rfl ?_
  refine wa_aload_n (o := v3) dJ8_init_2_85 rfl 1 rfl ?_
  refine wa_iconst (v := 0) dJ8_init_2_86 rfl ?_
  refine wa_iload (x := v4) dJ8_init_2_87 2 rfl ?_
  refine wa_iconst (v := 1) dJ8_init_2_89 rfl ?_
  refine wa_ishl dJ8_init_2_90 ?_
  refine wa_callS (M' := m_J14_copyOfRange) (As := [va_rf v3, .int 0, .int (v4 <<< ((1 : Int32) &&& 31))]) (st := [va_rf (some t)]) dJ8_init_2_91 ⟨Nat.le_of_ble_eq_true rfl, Nat.le_of_ble_eq_true rfl, nk_J14_copyOfRange⟩ q504 q505 q71 q506 rfl rfl (q_cs_le (q_csr q_cs0) (Nat.le_of_ble_eq_true rfl)) rfl F (wk_R fun r3 h2 F => ?_)
  refine wa_putF (C := RJ8) (T := TJ8) (N := 4) (ci := 10) (k := 0) tyJ8 dJ8_init_2_94 rfl (Nat.le_of_ble_eq_true rfl) in_J8 tyJ8_ok nmJ8 q547 q_same_own rfl rfl rfl (q_nar_arr _) (q_fit_arr _) (p_F_mono F fun h4 F => ?_)
  exact wa_vret rfl dJ8_init_2_97 F
theorem f_J8_init {D : qD} {Q : Option Value → qH → Prop} {X : String → qH → Prop} (t : Nat) (p0 : Nat) (h : qH) (F : c_V D m_J8_init_2 [va_rf (some t), va_rf (some p0), va_rf none] h X (fun h1 => Q none h1)) : MW D m_J8_init [va_rf (some t), va_rf (some p0)] h Q X := by
  refine mw_of pl_J8_init rfl _ (Nat.le_of_ble_eq_true rfl) rfl ?_
  refine (show WA D m_J8_init Q X 0 [(0, va_rf (some t)), (1, va_rf (some p0))] [] h from ?_)
  refine wa_aload_n (o := (some t)) dJ8_init_0 rfl 0 rfl ?_
  refine wa_aload_n (o := (some p0)) dJ8_init_1 rfl 1 rfl ?_
  refine wa_null dJ8_init_2 ?_
  refine wa_callI (M' := m_J8_init_2) (b := t) (As := [va_rf (some p0), va_rf none]) (st := []) dJ8_init_3 ⟨Nat.le_of_ble_eq_true rfl, Nat.le_of_ble_eq_true rfl, nk_J8_init_2⟩ rfl rfl q486 q487 q65 q488 rfl rfl (Nat.zero_le 8) rfl F (wk_V fun h1 F => ?_)
  exact wa_vret rfl dJ8_init_6 F
theorem f_J9_init {D : qD} {Q : Option Value → qH → Prop} {X : String → qH → Prop} (t : Nat) (p0 : Int32) (h : qH) (F : (((1 : Int32) = 0 → False) ∧ (¬ (1 : Int32) = 0 → n_I h 2 p0 (fun a1 h2 => p_F h2 (some t) 9 0 (va_rf (some a1)) (fun h3 => p_F h3 (some t) 9 1 (.int 0) (fun h4 => Q none h4)))))) : MW D m_J9_init [va_rf (some t), .int p0] h Q X := by
  refine mw_of pl_J9_init rfl _ (Nat.le_of_ble_eq_true rfl) rfl ?_
  refine (show WA D m_J9_init Q X 0 [(0, va_rf (some t)), (1, .int p0)] [] h from ?_)
  refine wa_aload_n (o := (some t)) dJ9_init_0 rfl 0 rfl ?_
  refine wa_objInit (a := t) dJ9_init_1 q308 q91 q92 (Nat.le_of_ble_eq_true rfl) (Nat.zero_le 8) ?_
  refine wa_gets (C := "java/lang/String") (v := .int 1) dJ9_init_4 (by simp [qST]) q309 rfl ?_
  refine wa_if_eq (tgt := 25) dJ9_init_7 rfl (fun z => ?_) (fun z => ?_)
  · have F := F.1 z
    refine wa_aload_n (o := (some t)) dJ9_init_25 rfl 0 rfl ?_
    refine wa_iload_n (x := p0) dJ9_init_26 rfl 1 rfl ?_
    exact F.elim
  · have F := F.2 z
    refine wa_aload_n (o := (some t)) dJ9_init_10 rfl 0 rfl ?_
    refine wa_iload_n (x := p0) dJ9_init_11 rfl 1 rfl ?_
    refine wa_newI (t := 2) (atype := .byte) rfl rfl (Nat.le_of_ble_eq_true rfl) q276 dJ9_init_12 (n_I_mono F fun a1 h2 F => ?_)
    refine wa_put (C := RJ10) (T := TJ10) (N := 4) (ci := 9) (k := 0) tyJ10 dJ9_init_14 rfl (Nat.le_of_ble_eq_true rfl) in_J10 tyJ10_ok nmJ10 q318 q_same_own rfl (q_nar_arr _) (q_fit_arr _) (p_F_mono F fun h3 F => ?_)
    refine wa_aload_n (o := (some t)) dJ9_init_17 rfl 0 rfl ?_
    refine wa_iconst (v := 0) dJ9_init_18 rfl ?_
    refine wa_put (C := RJ10) (T := TJ10) (N := 4) (ci := 9) (k := 1) tyJ10 dJ9_init_19 rfl (Nat.le_of_ble_eq_true rfl) in_J10 tyJ10_ok nmJ10 q319 q_same_own rfl rfl rfl (p_F_mono F fun h4 F => ?_)
    refine wa_goto (tgt := 38) dJ9_init_22 rfl ?_
    exact wa_vret rfl dJ9_init_38 F
theorem f_J9_isLatin1 {D : qD} {Q : Option Value → qH → Prop} {X : String → qH → Prop} (t : Nat) (h : qH) (F : (((1 : Int32) = 0 → Q (some (.int 0)) h) ∧ (¬ (1 : Int32) = 0 → g_I D h (some t) 9 1 (fun x1 => ((¬ x1 = 0 → Q (some (.int 0)) h) ∧ (x1 = 0 → Q (some (.int 1)) h)))))) : MW D m_J9_isLatin1 [va_rf (some t)] h Q X := by
  refine mw_of pl_J9_isLatin1 rfl _ (Nat.le_of_ble_eq_true rfl) rfl ?_
  refine (show WA D m_J9_isLatin1 Q X 0 [(0, va_rf (some t))] [] h from ?_)
  refine wa_gets (C := "java/lang/String") (v := .int 1) dJ9_isLatin1_0 (by simp [qST]) q309 rfl ?_
  refine wa_if_eq (tgt := 17) dJ9_isLatin1_3 rfl (fun z => ?_) (fun z => ?_)
  · have F := F.1 z
    refine wa_iconst (v := 0) dJ9_isLatin1_17 rfl ?_
    exact wa_zret rfl rfl dJ9_isLatin1_18 F
  · have F := F.2 z
    refine wa_aload_n (o := (some t)) dJ9_isLatin1_6 rfl 0 rfl ?_
    refine wa_getI (C := RJ10) (T := TJ10) (N := 4) (ci := 9) (k := 1) dJ9_isLatin1_7 rfl (Nat.le_of_ble_eq_true rfl) in_J10 q319 q_same_own (g_I_mono F fun x1 F => ?_)
    refine wa_if_ne (tgt := 17) dJ9_isLatin1_10 rfl (fun z => ?_) (fun z => ?_)
    · have F := F.1 z
      refine wa_iconst (v := 0) dJ9_isLatin1_17 rfl ?_
      exact wa_zret rfl rfl dJ9_isLatin1_18 F
    · have F := F.2 z
      refine wa_iconst (v := 1) dJ9_isLatin1_13 rfl ?_
      refine wa_goto (tgt := 18) dJ9_isLatin1_14 rfl ?_
      exact wa_zret rfl rfl dJ9_isLatin1_18 F
theorem f_J9_getValue {D : qD} {Q : Option Value → qH → Prop} {X : String → qH → Prop} (t : Nat) (h : qH) (F : g_R D h (some t) 9 0 (fun r1 => Q (some (va_rf r1)) h)) : MW D m_J9_getValue [va_rf (some t)] h Q X := by
  refine mw_of pl_J9_getValue rfl _ (Nat.le_of_ble_eq_true rfl) rfl ?_
  refine (show WA D m_J9_getValue Q X 0 [(0, va_rf (some t))] [] h from ?_)
  refine wa_aload_n (o := (some t)) dJ9_getValue_0 rfl 0 rfl ?_
  refine wa_getR (C := RJ10) (T := TJ10) (N := 4) (ci := 9) (k := 0) dJ9_getValue_1 rfl (Nat.le_of_ble_eq_true rfl) in_J10 q318 q_same_own (g_R_mono F fun r1 F => ?_)
  exact wa_aret rfl (Or.inr ⟨_, rfl⟩) dJ9_getValue_4 F
theorem f_J9_length {D : qD} {Q : Option Value → qH → Prop} {X : String → qH → Prop} (t : Nat) (h : qH) (F : g_I D h (some t) 9 3 (fun x1 => Q (some (.int x1)) h)) : MW D m_J9_length [va_rf (some t)] h Q X := by
  refine mw_of pl_J9_length rfl _ (Nat.le_of_ble_eq_true rfl) rfl ?_
  refine (show WA D m_J9_length Q X 0 [(0, va_rf (some t))] [] h from ?_)
  refine wa_aload_n (o := (some t)) dJ9_length_0 rfl 0 rfl ?_
  refine wa_getI (C := RJ10) (T := TJ10) (N := 4) (ci := 9) (k := 3) dJ9_length_1 rfl (Nat.le_of_ble_eq_true rfl) in_J10 q321 q_same_own (g_I_mono F fun x1 F => ?_)
  exact wa_iret rfl dJ9_length_4 F
theorem f_J9_inflateIfNeededFor {D : qD} {Q : Option Value → qH → Prop} {X : String → qH → Prop} (t : Nat) (p0 : Nat) (h : qH) (F : (((1 : Int32) = 0 → Q none h) ∧ (¬ (1 : Int32) = 0 → g_I D h (some t) 9 1 (fun x1 => (recv D h (some p0) RJ8 ∧ c_I D m_J8_coder [va_rf (some p0)] h X (fun x3 h2 => ((x1 = x3 → Q none h2) ∧ (¬ x1 = x3 → False)))))))) : MW D m_J9_inflateIfNeededFor [va_rf (some t), va_rf (some p0)] h Q X := by
  refine mw_of pl_J9_inflateIfNeededFor rfl _ (Nat.le_of_ble_eq_true rfl) rfl ?_
  refine (show WA D m_J9_inflateIfNeededFor Q X 0 [(0, va_rf (some t)), (1, va_rf (some p0))] [] h from ?_)
  refine wa_gets (C := "java/lang/String") (v := .int 1) dJ9_inflateIfNeededFor_0 (by simp [qST]) q309 rfl ?_
  refine wa_if_eq (tgt := 21) dJ9_inflateIfNeededFor_3 rfl (fun z => ?_) (fun z => ?_)
  · have F := F.1 z
    exact wa_vret rfl dJ9_inflateIfNeededFor_21 F
  · have F := F.2 z
    refine wa_aload_n (o := (some t)) dJ9_inflateIfNeededFor_6 rfl 0 rfl ?_
    refine wa_getI (C := RJ10) (T := TJ10) (N := 4) (ci := 9) (k := 1) dJ9_inflateIfNeededFor_7 rfl (Nat.le_of_ble_eq_true rfl) in_J10 q319 q_same_own (g_I_mono F fun x1 F => ?_)
    refine wa_aload_n (o := (some p0)) dJ9_inflateIfNeededFor_10 rfl 1 rfl ?_
    refine wa_callV (M' := m_J8_coder) (C := RJ8) (o := (some p0)) (As := []) (st := [.int x1]) dJ9_inflateIfNeededFor_11 ⟨Nat.le_of_ble_eq_true rfl, Nat.le_of_ble_eq_true rfl, nk_J8_coder⟩ q426 q414 q415 q65 q416 rfl rfl (q_cs_le (q_csi q_cs0) (Nat.le_of_ble_eq_true rfl)) rfl F.1 F.2 (wk_I fun x3 h2 F => ?_)
    refine wa_icmp_eq (tgt := 21) dJ9_inflateIfNeededFor_14 rfl (fun z => ?_) (fun z => ?_)
    · have F := F.1 z
      exact wa_vret rfl dJ9_inflateIfNeededFor_21 F
    · have F := F.2 z
      refine wa_aload_n (o := (some t)) dJ9_inflateIfNeededFor_17 rfl 0 rfl ?_
      exact F.elim
theorem f_J9_newCapacity {D : qD} {Q : Option Value → qH → Prop} {X : String → qH → Prop} (t : Nat) (p0 : Int32) (h : qH) (F : g_R D h (some t) 9 0 (fun r1 => a_N D h r1 (fun x2 => g_I D h (some t) 9 1 (fun x3 => g_I D h (some t) 9 1 (fun x4 => c_I D m_J12_newLength [.int x2, .int ((p0 <<< (x3 &&& 31)) - x2), .int (x2 + (2 <<< (x4 &&& 31)))] h X (fun x6 h5 => ((¬ x6 = 2147483647 → g_I D h5 (some t) 9 1 (fun x7 => Q (some (.int (x6 >>> (x7 &&& 31)))) h5)) ∧ (x6 = 2147483647 → False)))))))) : MW D m_J9_newCapacity [va_rf (some t), .int p0] h Q X := by
  refine mw_of pl_J9_newCapacity rfl _ (Nat.le_of_ble_eq_true rfl) rfl ?_
  refine (show WA D m_J9_newCapacity Q X 0 [(0, va_rf (some t)), (1, .int p0)] [] h from ?_)
  refine wa_aload_n (o := (some t)) dJ9_newCapacity_0 rfl 0 rfl ?_
  refine wa_getR (C := RJ10) (T := TJ10) (N := 4) (ci := 9) (k := 0) dJ9_newCapacity_1 rfl (Nat.le_of_ble_eq_true rfl) in_J10 q318 q_same_own (g_R_mono F fun r1 F => ?_)
  refine wa_alen dJ9_newCapacity_4 (a_N_mono F fun x2 F => ?_)
  refine ws_istore_n (lv' := [(2, .int x2), (0, va_rf (some t)), (1, .int p0)]) dJ9_newCapacity_5 rfl (Nat.le_of_ble_eq_true rfl) (q_cr (q_ci q_cn)) rfl ?_
  refine wa_iload_n (x := p0) dJ9_newCapacity_6 rfl 2 rfl ?_
  refine wa_aload_n (o := (some t)) dJ9_newCapacity_7 rfl 1 rfl ?_
  refine wa_getI (C := RJ10) (T := TJ10) (N := 4) (ci := 9) (k := 1) dJ9_newCapacity_8 rfl (Nat.le_of_ble_eq_true rfl) in_J10 q319 q_same_own (g_I_mono F fun x3 F => ?_)
  refine wa_ishl dJ9_newCapacity_11 ?_
  refine ws_istore_n (lv' := [(3, .int (p0 <<< (x3 &&& 31))), (2, .int x2), (0, va_rf (some t)), (1, .int p0)]) dJ9_newCapacity_12 rfl (Nat.le_of_ble_eq_true rfl) (q_ci (q_cr (q_ci q_cn))) rfl ?_
  refine wa_iload_n (x := (p0 <<< (x3 &&& 31))) dJ9_newCapacity_13 rfl 0 rfl ?_
  refine wa_iload_n (x := x2) dJ9_newCapacity_14 rfl 1 rfl ?_
  refine wa_isub dJ9_newCapacity_15 ?_
  refine ws_istore (lv' := [(4, .int ((p0 <<< (x3 &&& 31)) - x2)), (3, .int (p0 <<< (x3 &&& 31))), (2, .int x2), (0, va_rf (some t)), (1, .int p0)]) dJ9_newCapacity_16 (Nat.le_of_ble_eq_true rfl) (q_ci (q_ci (q_cr (q_ci q_cn)))) rfl ?_
  refine wa_iload_n (x := x2) dJ9_newCapacity_18 rfl 2 rfl ?_
  refine wa_iload (x := ((p0 <<< (x3 &&& 31)) - x2)) dJ9_newCapacity_19 0 rfl ?_
  refine wa_iload_n (x := x2) dJ9_newCapacity_21 rfl 2 rfl ?_
  refine wa_iconst (v := 2) dJ9_newCapacity_22 rfl ?_
  refine wa_aload_n (o := (some t)) dJ9_newCapacity_23 rfl 3 rfl ?_
  refine wa_getI (C := RJ10) (T := TJ10) (N := 4) (ci := 9) (k := 1) dJ9_newCapacity_24 rfl (Nat.le_of_ble_eq_true rfl) in_J10 q319 q_same_own (g_I_mono F fun x4 F => ?_)
  refine wa_ishl dJ9_newCapacity_27 ?_
  refine wa_iadd dJ9_newCapacity_28 ?_
  refine wa_callS (M' := m_J12_newLength) (As := [.int x2, .int ((p0 <<< (x3 &&& 31)) - x2), .int (x2 + (2 <<< (x4 &&& 31)))]) (st := []) dJ9_newCapacity_29 ⟨Nat.le_of_ble_eq_true rfl, Nat.le_of_ble_eq_true rfl, nk_J12_newLength⟩ q351 q352 q69 q353 rfl rfl (Nat.zero_le 8) rfl F (wk_I fun x6 h5 F => ?_)
  refine ws_istore (lv' := [(5, .int x6), (4, .int ((p0 <<< (x3 &&& 31)) - x2)), (3, .int (p0 <<< (x3 &&& 31))), (2, .int x2), (0, va_rf (some t)), (1, .int p0)]) dJ9_newCapacity_32 (Nat.le_of_ble_eq_true rfl) (q_ci (q_ci (q_ci (q_cr (q_ci q_cn))))) rfl ?_
  refine wa_iload (x := x6) dJ9_newCapacity_34 0 rfl ?_
  refine wa_ldci (v := 2147483647) dJ9_newCapacity_36 q361 ?_
  refine wa_icmp_ne (tgt := 51) dJ9_newCapacity_38 rfl (fun z => ?_) (fun z => ?_)
  · have F := F.1 z
    refine wa_iload (x := x6) dJ9_newCapacity_51 0 rfl ?_
    refine wa_aload_n (o := (some t)) dJ9_newCapacity_53 rfl 4 rfl ?_
    refine wa_getI (C := RJ10) (T := TJ10) (N := 4) (ci := 9) (k := 1) dJ9_newCapacity_54 rfl (Nat.le_of_ble_eq_true rfl) in_J10 q319 q_same_own (g_I_mono F fun x7 F => ?_)
    refine wa_ishr dJ9_newCapacity_57 ?_
    exact wa_iret rfl dJ9_newCapacity_58 F
  · have F := F.2 z
    exact F.elim
theorem f_J9_putStringAt {D : qD} {Q : Option Value → qH → Prop} {X : String → qH → Prop} (t : Nat) (p0 : Int32) (p1 : Nat) (h : qH) (F : (recv D h (some t) RJ10 ∧ c_V D m_J9_inflateIfNeededFor [va_rf (some t), va_rf (some p1)] h X (fun h1 => g_R D h1 (some t) 9 0 (fun r2 => g_I D h1 (some t) 9 1 (fun x3 => (recv D h1 (some p1) RJ8 ∧ c_V D m_J8_getBytes [va_rf (some p1), va_rf r2, .int p0, .int x3] h1 X (fun h4 => Q none h4))))))) : MW D m_J9_putStringAt [va_rf (some t), .int p0, va_rf (some p1)] h Q X := by
  refine mw_of pl_J9_putStringAt rfl _ (Nat.le_of_ble_eq_true rfl) rfl ?_
  refine (show WA D m_J9_putStringAt Q X 0 [(0, va_rf (some t)), (1, .int p0), (2, va_rf (some p1))] [] h from ?_)
  refine wa_aload_n (o := (some t)) dJ9_putStringAt_0 rfl 0 rfl ?_
  refine wa_aload_n (o := (some p1)) dJ9_putStringAt_1 rfl 2 rfl ?_
  refine wa_callVP (M' := m_J9_inflateIfNeededFor) (C := RJ10) (o := (some t)) (As := [va_rf (some p1)]) (st := []) dJ9_putStringAt_2 ⟨Nat.le_of_ble_eq_true rfl, Nat.le_of_ble_eq_true rfl, nk_J9_inflateIfNeededFor⟩ q422 q424 q66 q425 rfl rfl (Nat.zero_le 8) rfl rfl pv_J9_inflateIfNeededFor F.1 F.2 (wk_V fun h1 F => ?_)
  refine wa_aload_n (o := (some p1)) dJ9_putStringAt_5 rfl 2 rfl ?_
  refine wa_aload_n (o := (some t)) dJ9_putStringAt_6 rfl 0 rfl ?_
  refine wa_getR (C := RJ10) (T := TJ10) (N := 4) (ci := 9) (k := 0) dJ9_putStringAt_7 rfl (Nat.le_of_ble_eq_true rfl) in_J10 q318 q_same_own (g_R_mono F fun r2 F => ?_)
  refine wa_iload_n (x := p0) dJ9_putStringAt_10 rfl 1 rfl ?_
  refine wa_aload_n (o := (some t)) dJ9_putStringAt_11 rfl 0 rfl ?_
  refine wa_getI (C := RJ10) (T := TJ10) (N := 4) (ci := 9) (k := 1) dJ9_putStringAt_12 rfl (Nat.le_of_ble_eq_true rfl) in_J10 q319 q_same_own (g_I_mono F fun x3 F => ?_)
  refine wa_callV (M' := m_J8_getBytes) (C := RJ8) (o := (some p1)) (As := [va_rf r2, .int p0, .int x3]) (st := []) dJ9_putStringAt_15 ⟨Nat.le_of_ble_eq_true rfl, Nat.le_of_ble_eq_true rfl, nk_J8_getBytes⟩ q446 q447 q448 q65 q449 rfl rfl (Nat.zero_le 8) rfl F.1 F.2 (wk_V fun h4 F => ?_)
  exact wa_vret rfl dJ9_putStringAt_18 F
theorem f_J9_ensureCapacityInternal {D : qD} {Q : Option Value → qH → Prop} {X : String → qH → Prop} (t : Nat) (p0 : Int32) (h : qH) (F : g_R D h (some t) 9 0 (fun r1 => a_N D h r1 (fun x2 => g_I D h (some t) 9 1 (fun x3 => (((p0 - (x2 >>> (x3 &&& 31))) ≤ 0 → Q none h) ∧ (¬ (p0 - (x2 >>> (x3 &&& 31))) ≤ 0 → g_R D h (some t) 9 0 (fun r4 => (recv D h (some t) RJ10 ∧ c_I D m_J9_newCapacity [va_rf (some t), .int p0] h X (fun x6 h5 => g_I D h5 (some t) 9 1 (fun x7 => c_R D m_J14_copyOf [va_rf r4, .int (x6 <<< (x7 &&& 31))] h5 X (fun r9 h8 => p_F h8 (some t) 9 0 (va_rf r9) (fun h10 => Q none h10)))))))))))) : MW D m_J9_ensureCapacityInternal [va_rf (some t), .int p0] h Q X := by
  refine mw_of pl_J9_ensureCapacityInternal rfl _ (Nat.le_of_ble_eq_true rfl) rfl ?_
  refine (show WA D m_J9_ensureCapacityInternal Q X 0 [(0, va_rf (some t)), (1, .int p0)] [] h from ?_)
  refine wa_aload_n (o := (some t)) dJ9_ensureCapacityInternal_0 rfl 0 rfl ?_
  refine wa_getR (C := RJ10) (T := TJ10) (N := 4) (ci := 9) (k := 0) dJ9_ensureCapacityInternal_1 rfl (Nat.le_of_ble_eq_true rfl) in_J10 q318 q_same_own (g_R_mono F fun r1 F => ?_)
  refine wa_alen dJ9_ensureCapacityInternal_4 (a_N_mono F fun x2 F => ?_)
  refine wa_aload_n (o := (some t)) dJ9_ensureCapacityInternal_5 rfl 0 rfl ?_
  refine wa_getI (C := RJ10) (T := TJ10) (N := 4) (ci := 9) (k := 1) dJ9_ensureCapacityInternal_6 rfl (Nat.le_of_ble_eq_true rfl) in_J10 q319 q_same_own (g_I_mono F fun x3 F => ?_)
  refine wa_ishr dJ9_ensureCapacityInternal_9 ?_
  refine ws_istore_n (lv' := [(2, .int (x2 >>> (x3 &&& 31))), (0, va_rf (some t)), (1, .int p0)]) dJ9_ensureCapacityInternal_10 rfl (Nat.le_of_ble_eq_true rfl) (q_cr (q_ci q_cn)) rfl ?_
  refine wa_iload_n (x := p0) dJ9_ensureCapacityInternal_11 rfl 2 rfl ?_
  refine wa_iload_n (x := (x2 >>> (x3 &&& 31))) dJ9_ensureCapacityInternal_12 rfl 0 rfl ?_
  refine wa_isub dJ9_ensureCapacityInternal_13 ?_
  refine wa_if_le (tgt := 38) dJ9_ensureCapacityInternal_14 rfl (fun z => ?_) (fun z => ?_)
  · have F := F.1 z
    exact wa_vret rfl dJ9_ensureCapacityInternal_38 F
  · have F := F.2 z
    refine wa_aload_n (o := (some t)) dJ9_ensureCapacityInternal_17 rfl 1 rfl ?_
    refine wa_aload_n (o := (some t)) dJ9_ensureCapacityInternal_18 rfl 1 rfl ?_
    refine wa_getR (C := RJ10) (T := TJ10) (N := 4) (ci := 9) (k := 0) dJ9_ensureCapacityInternal_19 rfl (Nat.le_of_ble_eq_true rfl) in_J10 q318 q_same_own (g_R_mono F fun r4 F => ?_)
    refine wa_aload_n (o := (some t)) dJ9_ensureCapacityInternal_22 rfl 1 rfl ?_
    refine wa_iload_n (x := p0) dJ9_ensureCapacityInternal_23 rfl 2 rfl ?_
    refine wa_callVP (M' := m_J9_newCapacity) (C := RJ10) (o := (some t)) (As := [.int p0]) (st := [va_rf r4, va_rf (some t)]) dJ9_ensureCapacityInternal_24 ⟨Nat.le_of_ble_eq_true rfl, Nat.le_of_ble_eq_true rfl, nk_J9_newCapacity⟩ q347 q349 q66 q350 rfl rfl (q_cs_le (q_csr (q_csr q_cs0)) (Nat.le_of_ble_eq_true rfl)) rfl rfl pv_J9_newCapacity F.1 F.2 (wk_I fun x6 h5 F => ?_)
    refine wa_aload_n (o := (some t)) dJ9_ensureCapacityInternal_27 rfl 1 rfl ?_
    refine wa_getI (C := RJ10) (T := TJ10) (N := 4) (ci := 9) (k := 1) dJ9_ensureCapacityInternal_28 rfl (Nat.le_of_ble_eq_true rfl) in_J10 q319 q_same_own (g_I_mono F fun x7 F => ?_)
    refine wa_ishl dJ9_ensureCapacityInternal_31 ?_
    refine wa_callS (M' := m_J14_copyOf) (As := [va_rf r4, .int (x6 <<< (x7 &&& 31))]) (st := [va_rf (some t)]) dJ9_ensureCapacityInternal_32 ⟨Nat.le_of_ble_eq_true rfl, Nat.le_of_ble_eq_true rfl, nk_J14_copyOf⟩ q362 q363 q71 q364 rfl rfl (q_cs_le (q_csr q_cs0) (Nat.le_of_ble_eq_true rfl)) rfl F (wk_R fun r9 h8 F => ?_)
    refine wa_put (C := RJ10) (T := TJ10) (N := 4) (ci := 9) (k := 0) tyJ10 dJ9_ensureCapacityInternal_35 rfl (Nat.le_of_ble_eq_true rfl) in_J10 tyJ10_ok nmJ10 q318 q_same_own rfl (q_nar_arr _) (q_fit_arr _) (p_F_mono F fun h10 F => ?_)
    exact wa_vret rfl dJ9_ensureCapacityInternal_38 F
theorem f_J9_append {D : qD} {Q : Option Value → qH → Prop} {X : String → qH → Prop} (t : Nat) (p0 : Nat) (h : qH) (F : ((¬ (some p0) = none → (recv D h (some p0) RJ8 ∧ c_I D m_J8_length [va_rf (some p0)] h X (fun x2 h1 => g_I D h1 (some t) 9 3 (fun x3 => (recv D h1 (some t) RJ10 ∧ c_V D m_J9_ensureCapacityInternal [va_rf (some t), .int (x3 + x2)] h1 X (fun h4 => g_I D h4 (some t) 9 3 (fun x5 => (recv D h4 (some t) RJ10 ∧ c_V D m_J9_putStringAt [va_rf (some t), .int x5, va_rf (some p0)] h4 X (fun h6 => g_I D h6 (some t) 9 3 (fun x7 => p_F h6 (some t) 9 3 (.int (x7 + x2)) (fun h8 => Q (some (va_rf (some t))) h8))))))))))) ∧ ((some p0) = none → False))) : MW D m_J9_append [va_rf (some t), va_rf (some p0)] h Q X := by
  refine mw_of pl_J9_append rfl _ (Nat.le_of_ble_eq_true rfl) rfl ?_
  refine (show WA D m_J9_append Q X 0 [(0, va_rf (some t)), (1, va_rf (some p0))] [] h from ?_)
  refine wa_aload_n (o := (some p0)) dJ9_append_0 rfl 1 rfl ?_
  refine wa_ifnonnull (tgt := 9) dJ9_append_1 rfl (fun z => ?_) (fun z => ?_)
  · have F := F.1 z
    refine wa_aload_n (o := (some p0)) dJ9_append_9 rfl 1 rfl ?_
    refine wa_callV (M' := m_J8_length) (C := RJ8) (o := (some p0)) (As := []) (st := []) dJ9_append_10 ⟨Nat.le_of_ble_eq_true rfl, Nat.le_of_ble_eq_true rfl, nk_J8_length⟩ q409 q410 q411 q65 q412 rfl rfl (Nat.zero_le 8) rfl F.1 F.2 (wk_I fun x2 h1 F => ?_)
    refine ws_istore_n (lv' := [(2, .int x2), (0, va_rf (some t)), (1, va_rf (some p0))]) dJ9_append_13 rfl (Nat.le_of_ble_eq_true rfl) (q_cr (q_cr q_cn)) rfl ?_
    refine wa_aload_n (o := (some t)) dJ9_append_14 rfl 1 rfl ?_
    refine wa_aload_n (o := (some t)) dJ9_append_15 rfl 1 rfl ?_
    refine wa_getI (C := RJ10) (T := TJ10) (N := 4) (ci := 9) (k := 3) dJ9_append_16 rfl (Nat.le_of_ble_eq_true rfl) in_J10 q321 q_same_own (g_I_mono F fun x3 F => ?_)
    refine wa_iload_n (x := x2) dJ9_append_19 rfl 0 rfl ?_
    refine wa_iadd dJ9_append_20 ?_
    refine wa_callVP (M' := m_J9_ensureCapacityInternal) (C := RJ10) (o := (some t)) (As := [.int (x3 + x2)]) (st := []) dJ9_append_21 ⟨Nat.le_of_ble_eq_true rfl, Nat.le_of_ble_eq_true rfl, nk_J9_ensureCapacityInternal⟩ q343 q345 q66 q346 rfl rfl (Nat.zero_le 8) rfl rfl pv_J9_ensureCapacityInternal F.1 F.2 (wk_V fun h4 F => ?_)
    refine wa_aload_n (o := (some t)) dJ9_append_24 rfl 1 rfl ?_
    refine wa_aload_n (o := (some t)) dJ9_append_25 rfl 1 rfl ?_
    refine wa_getI (C := RJ10) (T := TJ10) (N := 4) (ci := 9) (k := 3) dJ9_append_26 rfl (Nat.le_of_ble_eq_true rfl) in_J10 q321 q_same_own (g_I_mono F fun x5 F => ?_)
    refine wa_aload_n (o := (some p0)) dJ9_append_29 rfl 2 rfl ?_
    refine wa_callVP (M' := m_J9_putStringAt) (C := RJ10) (o := (some t)) (As := [.int x5, va_rf (some p0)]) (st := []) dJ9_append_30 ⟨Nat.le_of_ble_eq_true rfl, Nat.le_of_ble_eq_true rfl, nk_J9_putStringAt⟩ q418 q420 q66 q421 rfl rfl (Nat.zero_le 8) rfl rfl pv_J9_putStringAt F.1 F.2 (wk_V fun h6 F => ?_)
    refine wa_aload_n (o := (some t)) dJ9_append_33 rfl 1 rfl ?_
    refine wa_dup dJ9_append_34 (q_cat _) ?_
    refine wa_getI (C := RJ10) (T := TJ10) (N := 4) (ci := 9) (k := 3) dJ9_append_35 rfl (Nat.le_of_ble_eq_true rfl) in_J10 q321 q_same_own (g_I_mono F fun x7 F => ?_)
    refine wa_iload_n (x := x2) dJ9_append_38 rfl 0 rfl ?_
    refine wa_iadd dJ9_append_39 ?_
    refine wa_put (C := RJ10) (T := TJ10) (N := 4) (ci := 9) (k := 3) tyJ10 dJ9_append_40 rfl (Nat.le_of_ble_eq_true rfl) in_J10 tyJ10_ok nmJ10 q321 q_same_own rfl rfl rfl (p_F_mono F fun h8 F => ?_)
    refine wa_aload_n (o := (some t)) dJ9_append_43 rfl 1 rfl ?_
    exact wa_aret rfl (Or.inl ⟨_, rfl⟩) dJ9_append_44 F
  · have F := F.2 z
    refine wa_aload_n (o := (some t)) dJ9_append_4 rfl 0 rfl ?_
    exact F.elim
def L_J9_append_2_48 (D : qD) (Q : Option Value → qH → Prop) (X : String → qH → Prop) (t : Nat) (v3 : Int32) (h : qH) : Prop := WA D m_J9_append_2 Q X 48 [(0, va_rf (some t)), (3, .int v3)] [] h
theorem f_J9_append_2 {D : qD} {Q : Option Value → qH → Prop} {X : String → qH → Prop} (t : Nat) (p0 : Int32) (h : qH) (F : g_I D h (some t) 9 3 (fun x1 => c_I D m_J18_stringSize [.int p0] h X (fun x3 h2 => (recv D h2 (some t) RJ10 ∧ c_V D m_J9_ensureCapacityInternal [va_rf (some t), .int (x1 + x3)] h2 X (fun h4 => (recv D h4 (some t) RJ10 ∧ c_I D m_J9_isLatin1 [va_rf (some t)] h4 X (fun x6 h5 => ((x6 = 0 → g_R D h5 (some t) 9 0 (fun r7 => False)) ∧ (¬ x6 = 0 → g_R D h5 (some t) 9 0 (fun r8 => c_I D m_J18_getChars [.int p0, .int (x1 + x3), va_rf r8] h5 X (fun x10 h9 => L_J9_append_2_48 D Q X t (x1 + x3) h9))))))))))) : MW D m_J9_append_2 [va_rf (some t), .int p0] h Q X := by
  refine mw_of pl_J9_append_2 rfl _ (Nat.le_of_ble_eq_true rfl) rfl ?_
  refine (show WA D m_J9_append_2 Q X 0 [(0, va_rf (some t)), (1, .int p0)] [] h from ?_)
  refine wa_aload_n (o := (some t)) dJ9_append_2_0 rfl 0 rfl ?_
  refine wa_getI (C := RJ10) (T := TJ10) (N := 4) (ci := 9) (k := 3) dJ9_append_2_1 rfl (Nat.le_of_ble_eq_true rfl) in_J10 q321 q_same_own (g_I_mono F fun x1 F => ?_)
  refine ws_istore_n (lv' := [(2, .int x1), (0, va_rf (some t)), (1, .int p0)]) dJ9_append_2_4 rfl (Nat.le_of_ble_eq_true rfl) (q_cr (q_ci q_cn)) rfl ?_
  refine wa_iload_n (x := x1) dJ9_append_2_5 rfl 0 rfl ?_
  refine wa_iload_n (x := p0) dJ9_append_2_6 rfl 2 rfl ?_
  refine wa_callS (M' := m_J18_stringSize) (As := [.int p0]) (st := [.int x1]) dJ9_append_2_7 ⟨Nat.le_of_ble_eq_true rfl, Nat.le_of_ble_eq_true rfl, nk_J18_stringSize⟩ q460 q461 q76 q462 rfl rfl (q_cs_le (q_csi q_cs0) (Nat.le_of_ble_eq_true rfl)) rfl F (wk_I fun x3 h2 F => ?_)
  refine wa_iadd dJ9_append_2_10 ?_
  refine ws_istore_n (lv' := [(3, .int (x1 + x3)), (2, .int x1), (0, va_rf (some t)), (1, .int p0)]) dJ9_append_2_11 rfl (Nat.le_of_ble_eq_true rfl) (q_ci (q_cr (q_ci q_cn))) rfl ?_
  refine wa_aload_n (o := (some t)) dJ9_append_2_12 rfl 2 rfl ?_
  refine wa_iload_n (x := (x1 + x3)) dJ9_append_2_13 rfl 0 rfl ?_
  refine wa_callVP (M' := m_J9_ensureCapacityInternal) (C := RJ10) (o := (some t)) (As := [.int (x1 + x3)]) (st := []) dJ9_append_2_14 ⟨Nat.le_of_ble_eq_true rfl, Nat.le_of_ble_eq_true rfl, nk_J9_ensureCapacityInternal⟩ q343 q345 q66 q346 rfl rfl (Nat.zero_le 8) rfl rfl pv_J9_ensureCapacityInternal F.1 F.2 (wk_V fun h4 F => ?_)
  refine wa_aload_n (o := (some t)) dJ9_append_2_17 rfl 2 rfl ?_
  refine wa_callV (M' := m_J9_isLatin1) (C := RJ10) (o := (some t)) (As := []) (st := []) dJ9_append_2_18 ⟨Nat.le_of_ble_eq_true rfl, Nat.le_of_ble_eq_true rfl, nk_J9_isLatin1⟩ q378 q379 q381 q66 q382 rfl rfl (Nat.zero_le 8) rfl F.1 F.2 (wk_I fun x6 h5 F => ?_)
  refine wa_if_eq (tgt := 37) dJ9_append_2_21 rfl (fun z => ?_) (fun z => ?_)
  · have F := F.1 z
    refine wa_iload_n (x := p0) dJ9_append_2_37 rfl 3 rfl ?_
    refine wa_iload_n (x := x1) dJ9_append_2_38 rfl 1 rfl ?_
    refine wa_iload_n (x := (x1 + x3)) dJ9_append_2_39 rfl 0 rfl ?_
    refine wa_aload_n (o := (some t)) dJ9_append_2_40 rfl 2 rfl ?_
    refine wa_getR (C := RJ10) (T := TJ10) (N := 4) (ci := 9) (k := 0) dJ9_append_2_41 rfl (Nat.le_of_ble_eq_true rfl) in_J10 q318 q_same_own (g_R_mono F fun r7 F => ?_)
    exact F.elim
  · have F := F.2 z
    refine wa_iload_n (x := p0) dJ9_append_2_24 rfl 3 rfl ?_
    refine wa_iload_n (x := (x1 + x3)) dJ9_append_2_25 rfl 0 rfl ?_
    refine wa_aload_n (o := (some t)) dJ9_append_2_26 rfl 2 rfl ?_
    refine wa_getR (C := RJ10) (T := TJ10) (N := 4) (ci := 9) (k := 0) dJ9_append_2_27 rfl (Nat.le_of_ble_eq_true rfl) in_J10 q318 q_same_own (g_R_mono F fun r8 F => ?_)
    refine wa_callS (M' := m_J18_getChars) (As := [.int p0, .int (x1 + x3), va_rf r8]) (st := []) dJ9_append_2_30 ⟨Nat.le_of_ble_eq_true rfl, Nat.le_of_ble_eq_true rfl, nk_J18_getChars⟩ q463 q464 q76 q465 rfl rfl (Nat.zero_le 8) rfl F (wk_I fun x10 h9 F => ?_)
    refine wa_pop dJ9_append_2_33 rfl ?_
    refine wa_goto (tgt := 48) dJ9_append_2_34 rfl ?_
    exact wa_sub [2, 0] rfl F
theorem f_J9_append_2_48 {D : qD} {Q : Option Value → qH → Prop} {X : String → qH → Prop} (t : Nat) (v3 : Int32) (h : qH) (F : p_F h (some t) 9 3 (.int v3) (fun h1 => Q (some (va_rf (some t))) h1)) : L_J9_append_2_48 D Q X t v3 h := by
  show WA D m_J9_append_2 Q X 48 [(0, va_rf (some t)), (3, .int v3)] [] h
  refine wa_aload_n (o := (some t)) dJ9_append_2_48 rfl 0 rfl ?_
  refine wa_iload_n (x := v3) dJ9_append_2_49 rfl 1 rfl ?_
  refine wa_put (C := RJ10) (T := TJ10) (N := 4) (ci := 9) (k := 3) tyJ10 dJ9_append_2_50 rfl (Nat.le_of_ble_eq_true rfl) in_J10 tyJ10_ok nmJ10 q321 q_same_own rfl rfl rfl (p_F_mono F fun h1 F => ?_)
  refine wa_aload_n (o := (some t)) dJ9_append_2_53 rfl 0 rfl ?_
  exact wa_aret rfl (Or.inl ⟨_, rfl⟩) dJ9_append_2_54 F
theorem f_J10_init {D : qD} {Q : Option Value → qH → Prop} {X : String → qH → Prop} (t : Nat) (h : qH) (F : c_V D m_J9_init [va_rf (some t), .int 16] h X (fun h1 => Q none h1)) : MW D m_J10_init [va_rf (some t)] h Q X := by
  refine mw_of pl_J10_init rfl _ (Nat.le_of_ble_eq_true rfl) rfl ?_
  refine (show WA D m_J10_init Q X 0 [(0, va_rf (some t))] [] h from ?_)
  refine wa_aload_n (o := (some t)) dJ10_init_0 rfl 0 rfl ?_
  refine wa_bipush (v := 16) dJ10_init_1 rfl ?_
  refine wa_callI (M' := m_J9_init) (b := t) (As := [.int 16]) (st := []) dJ10_init_3 ⟨Nat.le_of_ble_eq_true rfl, Nat.le_of_ble_eq_true rfl, nk_J9_init⟩ rfl rfl q305 q306 q66 q307 rfl rfl (Nat.zero_le 8) rfl F (wk_V fun h1 F => ?_)
  exact wa_vret rfl dJ10_init_6 F
theorem f_J10_length {D : qD} {Q : Option Value → qH → Prop} {X : String → qH → Prop} (t : Nat) (h : qH) (F : (recv D h (some t) RJ10 ∧ c_I D m_J9_length [va_rf (some t)] h X (fun x2 h1 => Q (some (.int x2)) h1))) : MW D m_J10_length [va_rf (some t)] h Q X := by
  refine mw_of pl_J10_length rfl _ (Nat.le_of_ble_eq_true rfl) rfl ?_
  refine (show WA D m_J10_length Q X 0 [(0, va_rf (some t))] [] h from ?_)
  refine wa_aload_n (o := (some t)) dJ10_length_0 rfl 0 rfl ?_
  refine wa_callSU (M' := m_J9_length) (b := t) (ci := 9) (As := []) (st := []) dJ10_length_1 rfl ⟨Nat.le_of_ble_eq_true rfl, Nat.le_of_ble_eq_true rfl, nk_J9_length⟩ (by decide) q501 q497 q330 q496 q66 q502 rfl rfl (Nat.zero_le 8) rfl F.1 F.2 (wk_I fun x2 h1 F => ?_)
  exact wa_iret rfl dJ10_length_4 F
theorem f_J10_append {D : qD} {Q : Option Value → qH → Prop} {X : String → qH → Prop} (t : Nat) (p0 : Nat) (h : qH) (F : (recv D h (some t) RJ10 ∧ c_R D m_J9_append [va_rf (some t), va_rf (some p0)] h X (fun r2 h1 => Q (some (va_rf (some t))) h1))) : MW D m_J10_append [va_rf (some t), va_rf (some p0)] h Q X := by
  refine mw_of pl_J10_append rfl _ (Nat.le_of_ble_eq_true rfl) rfl ?_
  refine (show WA D m_J10_append Q X 0 [(0, va_rf (some t)), (1, va_rf (some p0))] [] h from ?_)
  refine wa_aload_n (o := (some t)) dJ10_append_0 rfl 0 rfl ?_
  refine wa_aload_n (o := (some p0)) dJ10_append_1 rfl 1 rfl ?_
  refine wa_callSU (M' := m_J9_append) (b := t) (ci := 9) (As := [va_rf (some p0)]) (st := []) dJ10_append_2 rfl ⟨Nat.le_of_ble_eq_true rfl, Nat.le_of_ble_eq_true rfl, nk_J9_append⟩ (by decide) q336 q1539 q330 q337 q66 q338 rfl rfl (Nat.zero_le 8) rfl F.1 F.2 (wk_R fun r2 h1 F => ?_)
  refine wa_pop dJ10_append_5 (q_cat _) ?_
  refine wa_aload_n (o := (some t)) dJ10_append_6 rfl 0 rfl ?_
  exact wa_aret rfl (Or.inl ⟨_, rfl⟩) dJ10_append_7 F
theorem f_J10_append_2 {D : qD} {Q : Option Value → qH → Prop} {X : String → qH → Prop} (t : Nat) (p0 : Int32) (h : qH) (F : (recv D h (some t) RJ10 ∧ c_R D m_J9_append_2 [va_rf (some t), .int p0] h X (fun r2 h1 => Q (some (va_rf (some t))) h1))) : MW D m_J10_append_2 [va_rf (some t), .int p0] h Q X := by
  refine mw_of pl_J10_append_2 rfl _ (Nat.le_of_ble_eq_true rfl) rfl ?_
  refine (show WA D m_J10_append_2 Q X 0 [(0, va_rf (some t)), (1, .int p0)] [] h from ?_)
  refine wa_aload_n (o := (some t)) dJ10_append_2_0 rfl 0 rfl ?_
  refine wa_iload_n (x := p0) dJ10_append_2_1 rfl 1 rfl ?_
  refine wa_callSU (M' := m_J9_append_2) (b := t) (ci := 9) (As := [.int p0]) (st := []) dJ10_append_2_2 rfl ⟨Nat.le_of_ble_eq_true rfl, Nat.le_of_ble_eq_true rfl, nk_J9_append_2⟩ (by decide) q457 q1546 q330 q458 q66 q459 rfl rfl (Nat.zero_le 8) rfl F.1 F.2 (wk_R fun r2 h1 F => ?_)
  refine wa_pop dJ10_append_2_5 (q_cat _) ?_
  refine wa_aload_n (o := (some t)) dJ10_append_2_6 rfl 0 rfl ?_
  exact wa_aret rfl (Or.inl ⟨_, rfl⟩) dJ10_append_2_7 F
theorem f_J10_toString {D : qD} {Q : Option Value → qH → Prop} {X : String → qH → Prop} (t : Nat) (h : qH) (F : n_O h 10 4 tyJ8 (fun a1 h2 => c_V D m_J8_init [va_rf (some a1), va_rf (some t)] h2 X (fun h3 => Q (some (va_rf (some a1))) h3))) : MW D m_J10_toString [va_rf (some t)] h Q X := by
  refine mw_of pl_J10_toString rfl _ (Nat.le_of_ble_eq_true rfl) rfl ?_
  refine (show WA D m_J10_toString Q X 0 [(0, va_rf (some t))] [] h from ?_)
  refine wa_new (C := RJ8) (T := TJ8) tyJ8 dJ10_toString_0 rfl in_J8 tyJ8_ok q482 q275 q65 (n_O_mono F fun a1 h2 F => ?_)
  refine wa_dup dJ10_toString_3 (q_cat _) ?_
  refine wa_aload_n (o := (some t)) dJ10_toString_4 rfl 0 rfl ?_
  refine wa_callI (M' := m_J8_init) (b := a1) (As := [va_rf (some t)]) (st := [va_rf (some a1)]) dJ10_toString_5 ⟨Nat.le_of_ble_eq_true rfl, Nat.le_of_ble_eq_true rfl, nk_J8_init⟩ rfl rfl q483 q484 q65 q485 rfl rfl (q_cs_le (q_csr q_cs0) (Nat.le_of_ble_eq_true rfl)) rfl F (wk_V fun h3 F => ?_)
  exact wa_aret rfl (Or.inl ⟨_, rfl⟩) dJ10_toString_8 F
