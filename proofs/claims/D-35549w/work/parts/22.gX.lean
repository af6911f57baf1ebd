set_option maxRecDepth 100000
theorem f_X2_init {D : qD} {Q : Option Value → qH → Prop} {X : String → qH → Prop} (t : Nat) (h : qH) (F : p_F h (some t) 1 1 (.int (-1)) (fun h1 => p_F h1 (some t) 1 2 (.int (-1)) (fun h2 => Q none h2))) : MW D m_X2_init [va_rf (some t)] h Q X := by
  refine mw_of pl_X2_init rfl _ (Nat.le_of_ble_eq_true rfl) rfl ?_
  refine (show WA D m_X2_init Q X 0 [(0, va_rf (some t))] [] h from ?_)
  refine wa_aload_n (o := (some t)) dX2_init_0 rfl 0 rfl ?_
  refine wa_objInit (a := t) dX2_init_1 q132 q91 q92 (Nat.le_of_ble_eq_true rfl) (Nat.zero_le 8) ?_
  refine wa_aload_n (o := (some t)) dX2_init_4 rfl 0 rfl ?_
  refine wa_iconst (v := -1) dX2_init_5 rfl ?_
  refine wa_put (C := RX2) (T := TX2) (N := 3) (ci := 1) (k := 1) tyX2 dX2_init_6 rfl (Nat.le_of_ble_eq_true rfl) in_X2 tyX2_ok nmX2 q135 q_same_own rfl rfl rfl (p_F_mono F fun h1 F => ?_)
  refine wa_aload_n (o := (some t)) dX2_init_9 rfl 0 rfl ?_
  refine wa_iconst (v := -1) dX2_init_10 rfl ?_
  refine wa_put (C := RX2) (T := TX2) (N := 3) (ci := 1) (k := 2) tyX2 dX2_init_11 rfl (Nat.le_of_ble_eq_true rfl) in_X2 tyX2_ok nmX2 q137 q_same_own rfl rfl rfl (p_F_mono F fun h2 F => ?_)
  exact wa_vret rfl dX2_init_14 F
theorem f_X2_extra {D : qD} {Q : Option Value → qH → Prop} {X : String → qH → Prop} (d : Nat) (t : Nat) (h : qH) (F : g_I D h (some t) 1 1 (fun x1 => ((x1 = (-1) → g_R D h (some t) 1 0 (fun r2 => ((¬ r2 = none → g_R D h (some t) 1 0 (fun r3 => (recv D h r3 RX2 ∧ c_I D (m_X2_extra d) [va_rf r3] h X (fun x5 h4 => Q (some (.int x5)) h4)))) ∧ (r2 = none → Q (some (.int 0)) h)))) ∧ (¬ x1 = (-1) → g_I D h (some t) 1 1 (fun x6 => Q (some (.int x6)) h))))) : MW D (m_X2_extra (d + 1)) [va_rf (some t)] h Q X := by
  refine mw_of pl_X2_extra rfl _ (Nat.le_of_ble_eq_true rfl) rfl ?_
  refine (show WA D (m_X2_extra (d + 1)) Q X 0 [(0, va_rf (some t))] [] h from ?_)
  refine wa_aload_n (o := (some t)) dX2_extra_0 rfl 0 rfl ?_
  refine wa_getI (C := RX2) (T := TX2) (N := 3) (ci := 1) (k := 1) dX2_extra_1 rfl (Nat.le_of_ble_eq_true rfl) in_X2 q135 q_same_own (g_I_mono F fun x1 F => ?_)
  refine wa_iconst (v := -1) dX2_extra_4 rfl ?_
  refine wa_icmp_eq (tgt := 15) dX2_extra_5 rfl (fun z => ?_) (fun z => ?_)
  · have F := F.1 z
    refine wa_aload_n (o := (some t)) dX2_extra_15 rfl 0 rfl ?_
    refine wa_getR (C := RX2) (T := TX2) (N := 3) (ci := 1) (k := 0) dX2_extra_16 rfl (Nat.le_of_ble_eq_true rfl) in_X2 q133 q_same_own (g_R_mono F fun r2 F => ?_)
    refine wa_ifnonnull (tgt := 26) dX2_extra_19 rfl (fun z => ?_) (fun z => ?_)
    · have F := F.1 z
      refine wa_aload_n (o := (some t)) dX2_extra_26 rfl 0 rfl ?_
      refine wa_getR (C := RX2) (T := TX2) (N := 3) (ci := 1) (k := 0) dX2_extra_27 rfl (Nat.le_of_ble_eq_true rfl) in_X2 q133 q_same_own (g_R_mono F fun r3 F => ?_)
      refine wa_callV (M' := (m_X2_extra d)) (C := RX2) (o := r3) (As := []) (st := []) dX2_extra_30 ⟨Nat.le_refl _, Nat.le_of_ble_eq_true rfl, nk_X2_extra⟩ q798 q795 q796 q58 q797 rfl rfl (Nat.zero_le 8) rfl F.1 F.2 (wk_I fun x5 h4 F => ?_)
      exact wa_iret rfl dX2_extra_33 F
    · have F := F.2 z
      refine wa_iconst (v := 0) dX2_extra_22 rfl ?_
      refine wa_goto (tgt := 33) dX2_extra_23 rfl ?_
      exact wa_iret rfl dX2_extra_33 F
  · have F := F.2 z
    refine wa_aload_n (o := (some t)) dX2_extra_8 rfl 0 rfl ?_
    refine wa_getI (C := RX2) (T := TX2) (N := 3) (ci := 1) (k := 1) dX2_extra_9 rfl (Nat.le_of_ble_eq_true rfl) in_X2 q135 q_same_own (g_I_mono F fun x6 F => ?_)
    refine wa_goto (tgt := 33) dX2_extra_12 rfl ?_
    exact wa_iret rfl dX2_extra_33 F
theorem f_X2_colour {D : qD} {Q : Option Value → qH → Prop} {X : String → qH → Prop} (d : Nat) (t : Nat) (h : qH) (F : g_I D h (some t) 1 2 (fun x1 => ((x1 = (-1) → g_R D h (some t) 1 0 (fun r2 => ((¬ r2 = none → g_R D h (some t) 1 0 (fun r3 => (recv D h r3 RX2 ∧ c_I D (m_X2_colour d) [va_rf r3] h X (fun x5 h4 => Q (some (.int x5)) h4)))) ∧ (r2 = none → Q (some (.int 0)) h)))) ∧ (¬ x1 = (-1) → g_I D h (some t) 1 2 (fun x6 => Q (some (.int x6)) h))))) : MW D (m_X2_colour (d + 1)) [va_rf (some t)] h Q X := by
  refine mw_of pl_X2_colour rfl _ (Nat.le_of_ble_eq_true rfl) rfl ?_
  refine (show WA D (m_X2_colour (d + 1)) Q X 0 [(0, va_rf (some t))] [] h from ?_)
  refine wa_aload_n (o := (some t)) dX2_colour_0 rfl 0 rfl ?_
  refine wa_getI (C := RX2) (T := TX2) (N := 3) (ci := 1) (k := 2) dX2_colour_1 rfl (Nat.le_of_ble_eq_true rfl) in_X2 q137 q_same_own (g_I_mono F fun x1 F => ?_)
  refine wa_iconst (v := -1) dX2_colour_4 rfl ?_
  refine wa_icmp_eq (tgt := 15) dX2_colour_5 rfl (fun z => ?_) (fun z => ?_)
  · have F := F.1 z
    refine wa_aload_n (o := (some t)) dX2_colour_15 rfl 0 rfl ?_
    refine wa_getR (C := RX2) (T := TX2) (N := 3) (ci := 1) (k := 0) dX2_colour_16 rfl (Nat.le_of_ble_eq_true rfl) in_X2 q133 q_same_own (g_R_mono F fun r2 F => ?_)
    refine wa_ifnonnull (tgt := 26) dX2_colour_19 rfl (fun z => ?_) (fun z => ?_)
    · have F := F.1 z
      refine wa_aload_n (o := (some t)) dX2_colour_26 rfl 0 rfl ?_
      refine wa_getR (C := RX2) (T := TX2) (N := 3) (ci := 1) (k := 0) dX2_colour_27 rfl (Nat.le_of_ble_eq_true rfl) in_X2 q133 q_same_own (g_R_mono F fun r3 F => ?_)
      refine wa_callV (M' := (m_X2_colour d)) (C := RX2) (o := r3) (As := []) (st := []) dX2_colour_30 ⟨Nat.le_refl _, Nat.le_of_ble_eq_true rfl, nk_X2_colour⟩ q1029 q1026 q1027 q58 q1028 rfl rfl (Nat.zero_le 8) rfl F.1 F.2 (wk_I fun x5 h4 F => ?_)
      exact wa_iret rfl dX2_colour_33 F
    · have F := F.2 z
      refine wa_iconst (v := 0) dX2_colour_22 rfl ?_
      refine wa_goto (tgt := 33) dX2_colour_23 rfl ?_
      exact wa_iret rfl dX2_colour_33 F
  · have F := F.2 z
    refine wa_aload_n (o := (some t)) dX2_colour_8 rfl 0 rfl ?_
    refine wa_getI (C := RX2) (T := TX2) (N := 3) (ci := 1) (k := 2) dX2_colour_9 rfl (Nat.le_of_ble_eq_true rfl) in_X2 q137 q_same_own (g_I_mono F fun x6 F => ?_)
    refine wa_goto (tgt := 33) dX2_colour_12 rfl ?_
    exact wa_iret rfl dX2_colour_33 F
theorem f_X4_init {D : qD} {Q : Option Value → qH → Prop} {X : String → qH → Prop} (t : Nat) (p0 : Int32) (p1 : Int32) (p2 : Int32) (h : qH) (F : p_F h (some t) 3 0 (.int p0) (fun h1 => p_F h1 (some t) 3 1 (.int p1) (fun h2 => p_F h2 (some t) 3 2 (.int p2) (fun h3 => Q none h3)))) : MW D m_X4_init [va_rf (some t), .int p0, .int p1, .int p2] h Q X := by
  refine mw_of pl_X4_init rfl _ (Nat.le_of_ble_eq_true rfl) rfl ?_
  refine (show WA D m_X4_init Q X 0 [(0, va_rf (some t)), (1, .int p0), (2, .int p1), (3, .int p2)] [] h from ?_)
  refine wa_aload_n (o := (some t)) dX4_init_0 rfl 0 rfl ?_
  refine wa_objInit (a := t) dX4_init_1 q591 q91 q92 (Nat.le_of_ble_eq_true rfl) (Nat.zero_le 8) ?_
  refine wa_aload_n (o := (some t)) dX4_init_4 rfl 0 rfl ?_
  refine wa_iload_n (x := p0) dX4_init_5 rfl 1 rfl ?_
  refine wa_putF (C := RX4) (T := TX4) (N := 3) (ci := 3) (k := 0) tyX4 dX4_init_6 rfl (Nat.le_of_ble_eq_true rfl) in_X4 tyX4_ok nmX4 q592 q_same_own rfl rfl rfl rfl rfl (p_F_mono F fun h1 F => ?_)
  refine wa_aload_n (o := (some t)) dX4_init_9 rfl 0 rfl ?_
  refine wa_iload_n (x := p1) dX4_init_10 rfl 2 rfl ?_
  refine wa_putF (C := RX4) (T := TX4) (N := 3) (ci := 3) (k := 1) tyX4 dX4_init_11 rfl (Nat.le_of_ble_eq_true rfl) in_X4 tyX4_ok nmX4 q595 q_same_own rfl rfl rfl rfl rfl (p_F_mono F fun h2 F => ?_)
  refine wa_aload_n (o := (some t)) dX4_init_14 rfl 0 rfl ?_
  refine wa_iload_n (x := p2) dX4_init_15 rfl 3 rfl ?_
  refine wa_putF (C := RX4) (T := TX4) (N := 3) (ci := 3) (k := 2) tyX4 dX4_init_16 rfl (Nat.le_of_ble_eq_true rfl) in_X4 tyX4_ok nmX4 q598 q_same_own rfl rfl rfl rfl rfl (p_F_mono F fun h3 F => ?_)
  exact wa_vret rfl dX4_init_19 F
theorem f_X6_takes {D : qD} {Q : Option Value → qH → Prop} {X : String → qH → Prop} (t : Nat) (p0 : Int32) (h : qH) (F : g_I D h (some t) 5 4 (fun x1 => g_I D h (some t) 5 0 (fun x2 => ((x2 = 0 → Q (some (.int ((1 + x1) + 0))) h) ∧ (¬ x2 = 0 → ((p0 = 0 → Q (some (.int ((1 + x1) + 0))) h) ∧ (¬ p0 = 0 → Q (some (.int ((1 + x1) + 1))) h))))))) : MW D m_X6_takes [va_rf (some t), .int p0] h Q X := by
  refine mw_of pl_X6_takes rfl _ (Nat.le_of_ble_eq_true rfl) rfl ?_
  refine (show WA D m_X6_takes Q X 0 [(0, va_rf (some t)), (1, .int p0)] [] h from ?_)
  refine wa_iconst (v := 1) dX6_takes_0 rfl ?_
  refine wa_aload_n (o := (some t)) dX6_takes_1 rfl 0 rfl ?_
  refine wa_getI (C := RX6) (T := TX6) (N := 7) (ci := 5) (k := 4) dX6_takes_2 rfl (Nat.le_of_ble_eq_true rfl) in_X6 q816 q_same_own (g_I_mono F fun x1 F => ?_)
  refine wa_iadd dX6_takes_5 ?_
  refine wa_aload_n (o := (some t)) dX6_takes_6 rfl 0 rfl ?_
  refine wa_getI (C := RX6) (T := TX6) (N := 7) (ci := 5) (k := 0) dX6_takes_7 rfl (Nat.le_of_ble_eq_true rfl) in_X6 q807 q_same_own (g_I_mono F fun x2 F => ?_)
  refine wa_if_eq (tgt := 21) dX6_takes_10 rfl (fun z => ?_) (fun z => ?_)
  · have F := F.1 z
    refine wa_iconst (v := 0) dX6_takes_21 rfl ?_
    refine wa_iadd dX6_takes_22 ?_
    exact wa_iret rfl dX6_takes_23 F
  · have F := F.2 z
    refine wa_iload_n (x := p0) dX6_takes_13 rfl 1 rfl ?_
    refine wa_if_eq (tgt := 21) dX6_takes_14 rfl (fun z => ?_) (fun z => ?_)
    · have F := F.1 z
      refine wa_iconst (v := 0) dX6_takes_21 rfl ?_
      refine wa_iadd dX6_takes_22 ?_
      exact wa_iret rfl dX6_takes_23 F
    · have F := F.2 z
      refine wa_iconst (v := 1) dX6_takes_17 rfl ?_
      refine wa_goto (tgt := 22) dX6_takes_18 rfl ?_
      refine wa_iadd dX6_takes_22 ?_
      exact wa_iret rfl dX6_takes_23 F
theorem f_X6_init {D : qD} {Q : Option Value → qH → Prop} {X : String → qH → Prop} (t : Nat) (p0 : Int32) (h : qH) (F : n_O h 6 3 tyJ2 (fun a1 h2 => c_V D m_J2_init [va_rf (some a1)] h2 X (fun h3 => p_F h3 (some t) 5 1 (va_rf (some a1)) (fun h4 => n_O h4 6 3 tyJ2 (fun a5 h6 => c_V D m_J2_init [va_rf (some a5)] h6 X (fun h7 => p_F h7 (some t) 5 2 (va_rf (some a5)) (fun h8 => p_F h8 (some t) 5 6 (.int (-1)) (fun h9 => ((p0 = 0 ∨ p0 = 1) ∧ p_F h9 (some t) 5 0 (.int p0) (fun h10 => Q none h10)))))))))) : MW D m_X6_init [va_rf (some t), .int p0] h Q X := by
  refine mw_of pl_X6_init rfl _ (Nat.le_of_ble_eq_true rfl) rfl ?_
  refine (show WA D m_X6_init Q X 0 [(0, va_rf (some t)), (1, .int p0)] [] h from ?_)
  refine wa_aload_n (o := (some t)) dX6_init_0 rfl 0 rfl ?_
  refine wa_objInit (a := t) dX6_init_1 q804 q91 q92 (Nat.le_of_ble_eq_true rfl) (Nat.zero_le 8) ?_
  refine wa_aload_n (o := (some t)) dX6_init_4 rfl 0 rfl ?_
  refine wa_new (C := RJ2) (T := TJ2) tyJ2 dX6_init_5 rfl in_J2 tyJ2_ok q805 q94 q57 (n_O_mono F fun a1 h2 F => ?_)
  refine wa_dup dX6_init_8 (q_cat _) ?_
  refine wa_callI (M' := m_J2_init) (b := a1) (As := []) (st := [va_rf (some a1), va_rf (some t)]) dX6_init_9 ⟨Nat.le_of_ble_eq_true rfl, Nat.le_of_ble_eq_true rfl, nk_J2_init⟩ rfl rfl q806 q96 q57 q97 rfl rfl (q_cs_le (q_csr (q_csr q_cs0)) (Nat.le_of_ble_eq_true rfl)) rfl F (wk_V fun h3 F => ?_)
  refine wa_putF (C := RX6) (T := TX6) (N := 7) (ci := 5) (k := 1) tyX6 dX6_init_12 rfl (Nat.le_of_ble_eq_true rfl) in_X6 tyX6_ok nmX6 q810 q_same_own rfl rfl rfl (q_nar_ref _) (q_fit_ref _) (p_F_mono F fun h4 F => ?_)
  refine wa_aload_n (o := (some t)) dX6_init_15 rfl 0 rfl ?_
  refine wa_new (C := RJ2) (T := TJ2) tyJ2 dX6_init_16 rfl in_J2 tyJ2_ok q805 q94 q57 (n_O_mono F fun a5 h6 F => ?_)
  refine wa_dup dX6_init_19 (q_cat _) ?_
  refine wa_callI (M' := m_J2_init) (b := a5) (As := []) (st := [va_rf (some a5), va_rf (some t)]) dX6_init_20 ⟨Nat.le_of_ble_eq_true rfl, Nat.le_of_ble_eq_true rfl, nk_J2_init⟩ rfl rfl q806 q96 q57 q97 rfl rfl (q_cs_le (q_csr (q_csr q_cs0)) (Nat.le_of_ble_eq_true rfl)) rfl F (wk_V fun h7 F => ?_)
  refine wa_putF (C := RX6) (T := TX6) (N := 7) (ci := 5) (k := 2) tyX6 dX6_init_23 rfl (Nat.le_of_ble_eq_true rfl) in_X6 tyX6_ok nmX6 q813 q_same_own rfl rfl rfl (q_nar_ref _) (q_fit_ref _) (p_F_mono F fun h8 F => ?_)
  refine wa_aload_n (o := (some t)) dX6_init_26 rfl 0 rfl ?_
  refine wa_iconst (v := -1) dX6_init_27 rfl ?_
  refine wa_put (C := RX6) (T := TX6) (N := 7) (ci := 5) (k := 6) tyX6 dX6_init_28 rfl (Nat.le_of_ble_eq_true rfl) in_X6 tyX6_ok nmX6 q819 q_same_own rfl rfl rfl (p_F_mono F fun h9 F => ?_)
  refine wa_aload_n (o := (some t)) dX6_init_31 rfl 0 rfl ?_
  refine wa_iload_n (x := p0) dX6_init_32 rfl 1 rfl ?_
  refine wa_putF (C := RX6) (T := TX6) (N := 7) (ci := 5) (k := 0) tyX6 dX6_init_33 rfl (Nat.le_of_ble_eq_true rfl) in_X6 tyX6_ok nmX6 q807 q_same_own rfl rfl rfl (q_nar_z F.1) (q_fit_z F.1) (p_F_mono F.2 fun h10 F => ?_)
  exact wa_vret rfl dX6_init_36 F
def L_X5_isPrinted_43 (D : qD) (Q : Option Value → qH → Prop) (X : String → qH → Prop) (h : qH) : Prop := WA D m_X5_isPrinted Q X 43 [] [] h
theorem f_X5_isPrinted {D : qD} {Q : Option Value → qH → Prop} {X : String → qH → Prop} (t : Nat) (p0 : Nat) (h : qH) (F : g_I D h (some p0) 3 0 (fun x1 => ((x1 = 0 → L_X5_isPrinted_43 D Q X h) ∧ (¬ x1 = 0 → g_I D h (some p0) 3 0 (fun x2 => ((x2 = 3 → L_X5_isPrinted_43 D Q X h) ∧ (¬ x2 = 3 → g_I D h (some p0) 3 0 (fun x3 => ((¬ x3 = 1 → Q (some (.int 0)) h) ∧ (x3 = 1 → g_R D h (some t) 4 9 (fun r4 => g_R D h r4 0 2 (fun r5 => g_I D h (some t) 4 0 (fun x6 => a_R D h r5 6 x6 (fun r7 => g_I D h (some p0) 3 1 (fun x8 => a_I D h r7 0 x8 (fun x9 => ((x9 ≤ 0 → Q (some (.int 0)) h) ∧ (¬ x9 ≤ 0 → L_X5_isPrinted_43 D Q X h)))))))))))))))))) : MW D m_X5_isPrinted [va_rf (some t), va_rf (some p0)] h Q X := by
  refine mw_of pl_X5_isPrinted rfl _ (Nat.le_of_ble_eq_true rfl) rfl ?_
  refine (show WA D m_X5_isPrinted Q X 0 [(0, va_rf (some t)), (1, va_rf (some p0))] [] h from ?_)
  refine wa_aload_n (o := (some p0)) dX5_isPrinted_0 rfl 1 rfl ?_
  refine wa_getNI (C := RX4) (T := TX4) (N := 3) (ci := 3) (k := 0) dX5_isPrinted_1 rfl (Nat.le_of_ble_eq_true rfl) in_X4 q593 q_same_own (g_I_mono F fun x1 F => ?_)
  refine wa_if_eq (tgt := 43) dX5_isPrinted_4 rfl (fun z => ?_) (fun z => ?_)
  · have F := F.1 z
    exact wa_sub [] rfl F
  · have F := F.2 z
    refine wa_aload_n (o := (some p0)) dX5_isPrinted_7 rfl 1 rfl ?_
    refine wa_getNI (C := RX4) (T := TX4) (N := 3) (ci := 3) (k := 0) dX5_isPrinted_8 rfl (Nat.le_of_ble_eq_true rfl) in_X4 q593 q_same_own (g_I_mono F fun x2 F => ?_)
    refine wa_iconst (v := 3) dX5_isPrinted_11 rfl ?_
    refine wa_icmp_eq (tgt := 43) dX5_isPrinted_12 rfl (fun z => ?_) (fun z => ?_)
    · have F := F.1 z
      exact wa_sub [] rfl F
    · have F := F.2 z
      refine wa_aload_n (o := (some p0)) dX5_isPrinted_15 rfl 1 rfl ?_
      refine wa_getNI (C := RX4) (T := TX4) (N := 3) (ci := 3) (k := 0) dX5_isPrinted_16 rfl (Nat.le_of_ble_eq_true rfl) in_X4 q593 q_same_own (g_I_mono F fun x3 F => ?_)
      refine wa_iconst (v := 1) dX5_isPrinted_19 rfl ?_
      refine wa_icmp_ne (tgt := 47) dX5_isPrinted_20 rfl (fun z => ?_) (fun z => ?_)
      · have F := F.1 z
        refine wa_iconst (v := 0) dX5_isPrinted_47 rfl ?_
        exact wa_zret rfl rfl dX5_isPrinted_48 F
      · have F := F.2 z
        refine wa_aload_n (o := (some t)) dX5_isPrinted_23 rfl 0 rfl ?_
        refine wa_getR (C := RX5) (T := TX5) (N := 10) (ci := 4) (k := 9) dX5_isPrinted_24 rfl (Nat.le_of_ble_eq_true rfl) in_X5 q935 q_same_own (g_R_mono F fun r4 F => ?_)
        refine wa_getNR (C := RX1) (T := TX1) (N := 11) (ci := 0) (k := 2) dX5_isPrinted_27 rfl (Nat.le_of_ble_eq_true rfl) in_X1 q152 q_same_own (g_R_mono F fun r5 F => ?_)
        refine wa_aload_n (o := (some t)) dX5_isPrinted_30 rfl 0 rfl ?_
        refine wa_getI (C := RX5) (T := TX5) (N := 10) (ci := 4) (k := 0) dX5_isPrinted_31 rfl (Nat.le_of_ble_eq_true rfl) in_X5 q922 q_same_own (g_I_mono F fun x6 F => ?_)
        refine wa_aald (t := 6) rfl rfl dX5_isPrinted_34 (a_R_mono F fun r7 F => ?_)
        refine wa_aload_n (o := (some p0)) dX5_isPrinted_35 rfl 1 rfl ?_
        refine wa_getNI (C := RX4) (T := TX4) (N := 3) (ci := 3) (k := 1) dX5_isPrinted_36 rfl (Nat.le_of_ble_eq_true rfl) in_X4 q596 q_same_own (g_I_mono F fun x8 F => ?_)
        refine wa_iald dX5_isPrinted_39 (a_I_mono F fun x9 F => ?_)
        refine wa_if_le (tgt := 47) dX5_isPrinted_40 rfl (fun z => ?_) (fun z => ?_)
        · have F := F.1 z
          refine wa_iconst (v := 0) dX5_isPrinted_47 rfl ?_
          exact wa_zret rfl rfl dX5_isPrinted_48 F
        · have F := F.2 z
          exact wa_sub [] rfl F
theorem f_X5_isPrinted_43 {D : qD} {Q : Option Value → qH → Prop} {X : String → qH → Prop} (h : qH) (F : Q (some (.int 1)) h) : L_X5_isPrinted_43 D Q X  h := by
  show WA D m_X5_isPrinted Q X 43 [] [] h
  refine wa_iconst (v := 1) dX5_isPrinted_43 rfl ?_
  refine wa_goto (tgt := 48) dX5_isPrinted_44 rfl ?_
  exact wa_zret rfl rfl dX5_isPrinted_48 F
theorem f_X5_bodyPages {D : qD} {Q : Option Value → qH → Prop} {X : String → qH → Prop} (t : Nat) (h : qH) (F : g_I D h (some t) 4 5 (fun x1 => g_R D h (some t) 4 9 (fun r2 => g_I D h r2 0 5 (fun x3 => g_R D h (some t) 4 9 (fun r4 => g_I D h r4 0 5 (fun x5 => (¬ x5 = 0 ∧ Q (some (.int (((x1 + x3) - 1) / x5))) h))))))) : MW D m_X5_bodyPages [va_rf (some t)] h Q X := by
  refine mw_of pl_X5_bodyPages rfl _ (Nat.le_of_ble_eq_true rfl) rfl ?_
  refine (show WA D m_X5_bodyPages Q X 0 [(0, va_rf (some t))] [] h from ?_)
  refine wa_aload_n (o := (some t)) dX5_bodyPages_0 rfl 0 rfl ?_
  refine wa_getI (C := RX5) (T := TX5) (N := 10) (ci := 4) (k := 5) dX5_bodyPages_1 rfl (Nat.le_of_ble_eq_true rfl) in_X5 q930 q_same_own (g_I_mono F fun x1 F => ?_)
  refine wa_aload_n (o := (some t)) dX5_bodyPages_4 rfl 0 rfl ?_
  refine wa_getR (C := RX5) (T := TX5) (N := 10) (ci := 4) (k := 9) dX5_bodyPages_5 rfl (Nat.le_of_ble_eq_true rfl) in_X5 q935 q_same_own (g_R_mono F fun r2 F => ?_)
  refine wa_getNI (C := RX1) (T := TX1) (N := 11) (ci := 0) (k := 5) dX5_bodyPages_8 rfl (Nat.le_of_ble_eq_true rfl) in_X1 q158 q_same_own (g_I_mono F fun x3 F => ?_)
  refine wa_iadd dX5_bodyPages_11 ?_
  refine wa_iconst (v := 1) dX5_bodyPages_12 rfl ?_
  refine wa_isub dX5_bodyPages_13 ?_
  refine wa_aload_n (o := (some t)) dX5_bodyPages_14 rfl 0 rfl ?_
  refine wa_getR (C := RX5) (T := TX5) (N := 10) (ci := 4) (k := 9) dX5_bodyPages_15 rfl (Nat.le_of_ble_eq_true rfl) in_X5 q935 q_same_own (g_R_mono F fun r4 F => ?_)
  refine wa_getNI (C := RX1) (T := TX1) (N := 11) (ci := 0) (k := 5) dX5_bodyPages_18 rfl (Nat.le_of_ble_eq_true rfl) in_X1 q158 q_same_own (g_I_mono F fun x5 F => ?_)
  refine wa_idiv dX5_bodyPages_21 F.1 ?_
  have F := F.2
  exact wa_iret rfl dX5_bodyPages_22 F
theorem f_X5_tops {D : qD} {Q : Option Value → qH → Prop} {X : String → qH → Prop} (t : Nat) (p0 : Int32) (h : qH) (F : g_I D h (some t) 4 6 (fun x1 => g_R D h (some t) 4 9 (fun r2 => g_R D h r2 0 0 (fun r3 => (recv D h r3 RJ2 ∧ c_R D m_J2_get [va_rf r3, .int p0] h X (fun r5 h4 => (q_cast D h4 r5 "Quirefold$Token" ∧ g_I D h4 r5 3 1 (fun x6 => p_F h4 (some t) 4 6 (.int (x1 + x6)) (fun h7 => g_R D h7 (some t) 4 3 (fun r8 => g_I D h7 (some t) 4 5 (fun x9 => s_I h7 r8 0 p0 (x9 - 1) (fun h10 => Q none h10)))))))))))) : MW D m_X5_tops [va_rf (some t), .int p0] h Q X := by
  refine mw_of pl_X5_tops rfl _ (Nat.le_of_ble_eq_true rfl) rfl ?_
  refine (show WA D m_X5_tops Q X 0 [(0, va_rf (some t)), (1, .int p0)] [] h from ?_)
  refine wa_aload_n (o := (some t)) dX5_tops_0 rfl 0 rfl ?_
  refine wa_dup dX5_tops_1 (q_cat _) ?_
  refine wa_getI (C := RX5) (T := TX5) (N := 10) (ci := 4) (k := 6) dX5_tops_2 rfl (Nat.le_of_ble_eq_true rfl) in_X5 q931 q_same_own (g_I_mono F fun x1 F => ?_)
  refine wa_aload_n (o := (some t)) dX5_tops_5 rfl 0 rfl ?_
  refine wa_getR (C := RX5) (T := TX5) (N := 10) (ci := 4) (k := 9) dX5_tops_6 rfl (Nat.le_of_ble_eq_true rfl) in_X5 q935 q_same_own (g_R_mono F fun r2 F => ?_)
  refine wa_getNR (C := RX1) (T := TX1) (N := 11) (ci := 0) (k := 0) dX5_tops_9 rfl (Nat.le_of_ble_eq_true rfl) in_X1 q148 q_same_own (g_R_mono F fun r3 F => ?_)
  refine wa_iload_n (x := p0) dX5_tops_12 rfl 1 rfl ?_
  refine wa_callF (M' := m_J2_get) (C := RJ2) (x := y_Lget) (ci := 6) (o := r3) (As := [.int p0]) (st := [.int x1, va_rf (some t)]) dX5_tops_13 rfl rfl fw_J2_get ⟨Nat.le_of_ble_eq_true rfl, Nat.le_of_ble_eq_true rfl⟩ nf_y_Lget q773 q776 q778 q57 q780 rfl rfl (q_cs_le (q_csi (q_csr q_cs0)) (Nat.le_of_ble_eq_true rfl)) rfl F.1 F.2 (wk_R fun r5 h4 F => ?_)
  refine wa_cast (C := "Quirefold$Token") dX5_tops_18 q785 F.1 ?_
  have F := F.2
  refine wa_getNI (C := RX4) (T := TX4) (N := 3) (ci := 3) (k := 1) dX5_tops_21 rfl (Nat.le_of_ble_eq_true rfl) in_X4 q596 q_same_own (g_I_mono F fun x6 F => ?_)
  refine wa_iadd dX5_tops_24 ?_
  refine wa_put (C := RX5) (T := TX5) (N := 10) (ci := 4) (k := 6) tyX5 dX5_tops_25 rfl (Nat.le_of_ble_eq_true rfl) in_X5 tyX5_ok nmX5 q931 q_same_own rfl rfl rfl (p_F_mono F fun h7 F => ?_)
  refine wa_aload_n (o := (some t)) dX5_tops_28 rfl 0 rfl ?_
  refine wa_getR (C := RX5) (T := TX5) (N := 10) (ci := 4) (k := 3) dX5_tops_29 rfl (Nat.le_of_ble_eq_true rfl) in_X5 q927 q_same_own (g_R_mono F fun r8 F => ?_)
  refine wa_iload_n (x := p0) dX5_tops_32 rfl 1 rfl ?_
  refine wa_aload_n (o := (some t)) dX5_tops_33 rfl 0 rfl ?_
  refine wa_getI (C := RX5) (T := TX5) (N := 10) (ci := 4) (k := 5) dX5_tops_34 rfl (Nat.le_of_ble_eq_true rfl) in_X5 q930 q_same_own (g_I_mono F fun x9 F => ?_)
  refine wa_iconst (v := 1) dX5_tops_37 rfl ?_
  refine wa_isub dX5_tops_38 ?_
  refine wa_iast dX5_tops_39 (s_I_mono F fun h10 F => ?_)
  exact wa_vret rfl dX5_tops_40 F
def L_X5_needs_28 (D : qD) (Q : Option Value → qH → Prop) (X : String → qH → Prop) (t : Nat) (v1 : Int32) (v2 : Int32) (v3 : Option Nat) (h : qH) : Prop := WA D m_X5_needs Q X 28 [(0, va_rf (some t)), (1, .int v1), (2, .int v2), (3, va_rf v3)] [] h
def L_X5_needs_47 (D : qD) (Q : Option Value → qH → Prop) (X : String → qH → Prop) (t : Nat) (v1 : Int32) (v2 : Int32) (v3 : Option Nat) (h : qH) : Prop := WA D m_X5_needs Q X 47 [(0, va_rf (some t)), (1, .int v1), (2, .int v2), (3, va_rf v3)] [] h
def L_X5_needs_48 (D : qD) (Q : Option Value → qH → Prop) (X : String → qH → Prop) (t : Nat) (v1 : Int32) (v2 : Int32) (v3 : Option Nat) (s0 : Int32) (h : qH) : Prop := WA D m_X5_needs Q X 48 [(0, va_rf (some t)), (1, .int v1), (2, .int v2), (3, va_rf v3)] [.int s0] h
def L_X5_needs_87 (D : qD) (Q : Option Value → qH → Prop) (X : String → qH → Prop) (t : Nat) (v1 : Int32) (v2 : Int32) (v3 : Option Nat) (v4 : Int32) (h : qH) : Prop := WA D m_X5_needs Q X 87 [(0, va_rf (some t)), (1, .int v1), (2, .int v2), (3, va_rf v3), (4, .int v4)] [] h
def L_X5_needs_88 (D : qD) (Q : Option Value → qH → Prop) (X : String → qH → Prop) (t : Nat) (v1 : Int32) (v2 : Int32) (v3 : Option Nat) (v4 : Int32) (s0 : Int32) (h : qH) : Prop := WA D m_X5_needs Q X 88 [(0, va_rf (some t)), (1, .int v1), (2, .int v2), (3, va_rf v3), (4, .int v4)] [.int s0] h
def L_X5_needs_123 (D : qD) (Q : Option Value → qH → Prop) (X : String → qH → Prop) (t : Nat) (v1 : Int32) (v5 : Int32) (s0 : Int32) (s1 : Int32) (h : qH) : Prop := WA D m_X5_needs Q X 123 [(0, va_rf (some t)), (1, .int v1), (5, .int v5)] [.int s0, .int s1] h
theorem f_X5_needs {D : qD} {Q : Option Value → qH → Prop} {X : String → qH → Prop} (t : Nat) (p0 : Int32) (p1 : Int32) (h : qH) (F : g_R D h (some t) 4 1 (fun r1 => (recv D h r1 RJ2 ∧ c_R D m_J2_get [va_rf r1, .int p0] h X (fun r3 h2 => (q_cast D h2 r3 "Quirefold$Line" ∧ g_I D h2 r3 5 0 (fun x4 => ((¬ x4 = 0 → L_X5_needs_28 D Q X t p0 p1 r3 h2) ∧ (x4 = 0 → g_I D h2 r3 5 5 (fun x5 => ((x5 = 0 → L_X5_needs_47 D Q X t p0 p1 r3 h2) ∧ (¬ x5 = 0 → L_X5_needs_28 D Q X t p0 p1 r3 h2))))))))))) : MW D m_X5_needs [va_rf (some t), .int p0, .int p1] h Q X := by
  refine mw_of pl_X5_needs rfl _ (Nat.le_of_ble_eq_true rfl) rfl ?_
  refine (show WA D m_X5_needs Q X 0 [(0, va_rf (some t)), (1, .int p0), (2, .int p1)] [] h from ?_)
  refine wa_aload_n (o := (some t)) dX5_needs_0 rfl 0 rfl ?_
  refine wa_getR (C := RX5) (T := TX5) (N := 10) (ci := 4) (k := 1) dX5_needs_1 rfl (Nat.le_of_ble_eq_true rfl) in_X5 q923 q_same_own (g_R_mono F fun r1 F => ?_)
  refine wa_iload_n (x := p0) dX5_needs_4 rfl 1 rfl ?_
  refine wa_callF (M' := m_J2_get) (C := RJ2) (x := y_Lget) (ci := 6) (o := r1) (As := [.int p0]) (st := []) dX5_needs_5 rfl rfl fw_J2_get ⟨Nat.le_of_ble_eq_true rfl, Nat.le_of_ble_eq_true rfl⟩ nf_y_Lget q773 q776 q778 q57 q780 rfl rfl (Nat.zero_le 8) rfl F.1 F.2 (wk_R fun r3 h2 F => ?_)
  refine wa_cast (C := "Quirefold$Line") dX5_needs_10 q799 F.1 ?_
  have F := F.2
  refine ws_astore_n (lv' := [(3, va_rf r3), (0, va_rf (some t)), (1, .int p0), (2, .int p1)]) dX5_needs_13 rfl (Nat.le_of_ble_eq_true rfl) (q_cr (q_ci (q_ci q_cn))) rfl ?_
  refine wa_aload_n (o := r3) dX5_needs_14 rfl 0 rfl ?_
  refine wa_getNI (C := RX6) (T := TX6) (N := 7) (ci := 5) (k := 0) dX5_needs_15 rfl (Nat.le_of_ble_eq_true rfl) in_X6 q808 q_same_own (g_I_mono F fun x4 F => ?_)
  refine wa_if_ne (tgt := 28) dX5_needs_18 rfl (fun z => ?_) (fun z => ?_)
  · have F := F.1 z
    exact wa_sub [1, 2, 3, 0] rfl F
  · have F := F.2 z
    refine wa_aload_n (o := r3) dX5_needs_21 rfl 0 rfl ?_
    refine wa_getNI (C := RX6) (T := TX6) (N := 7) (ci := 5) (k := 5) dX5_needs_22 rfl (Nat.le_of_ble_eq_true rfl) in_X6 q818 q_same_own (g_I_mono F fun x5 F => ?_)
    refine wa_if_eq (tgt := 47) dX5_needs_25 rfl (fun z => ?_) (fun z => ?_)
    · have F := F.1 z
      exact wa_sub [1, 2, 3, 0] rfl F
    · have F := F.2 z
      exact wa_sub [1, 2, 3, 0] rfl F
theorem f_X5_needs_28 {D : qD} {Q : Option Value → qH → Prop} {X : String → qH → Prop} (t : Nat) (v1 : Int32) (v2 : Int32) (v3 : Option Nat) (h : qH) (F : g_R D h (some t) 4 1 (fun r1 => (recv D h r1 RJ2 ∧ c_I D m_J2_size [va_rf r1] h X (fun x3 h2 => ((x3 ≤ (v1 + 1) → L_X5_needs_47 D Q X t v1 v2 v3 h2) ∧ (¬ x3 ≤ (v1 + 1) → L_X5_needs_48 D Q X t v1 v2 v3 1 h2)))))) : L_X5_needs_28 D Q X t v1 v2 v3 h := by
  show WA D m_X5_needs Q X 28 [(0, va_rf (some t)), (1, .int v1), (2, .int v2), (3, va_rf v3)] [] h
  refine wa_iload_n (x := v1) dX5_needs_28 rfl 1 rfl ?_
  refine wa_iconst (v := 1) dX5_needs_29 rfl ?_
  refine wa_iadd dX5_needs_30 ?_
  refine wa_aload_n (o := (some t)) dX5_needs_31 rfl 0 rfl ?_
  refine wa_getR (C := RX5) (T := TX5) (N := 10) (ci := 4) (k := 1) dX5_needs_32 rfl (Nat.le_of_ble_eq_true rfl) in_X5 q923 q_same_own (g_R_mono F fun r1 F => ?_)
  refine wa_callF (M' := m_J2_size) (C := RJ2) (x := y_Lsize) (ci := 6) (o := r1) (As := []) (st := [.int (v1 + 1)]) dX5_needs_35 rfl rfl fw_J2_size ⟨Nat.le_of_ble_eq_true rfl, Nat.le_of_ble_eq_true rfl⟩ nf_y_Lsize q771 q196 q198 q57 q200 rfl rfl (q_cs_le (q_csi q_cs0) (Nat.le_of_ble_eq_true rfl)) rfl F.1 F.2 (wk_I fun x3 h2 F => ?_)
  refine wa_icmp_ge (tgt := 47) dX5_needs_40 rfl (fun z => ?_) (fun z => ?_)
  · have F := F.1 z
    exact F
  · have F := F.2 z
    refine wa_iconst (v := 1) dX5_needs_43 rfl ?_
    refine wa_goto (tgt := 48) dX5_needs_44 rfl ?_
    exact F
theorem f_X5_needs_47 {D : qD} {Q : Option Value → qH → Prop} {X : String → qH → Prop} (t : Nat) (v1 : Int32) (v2 : Int32) (v3 : Option Nat) (h : qH) (F : L_X5_needs_48 D Q X t v1 v2 v3 0 h) : L_X5_needs_47 D Q X t v1 v2 v3 h := by
  show WA D m_X5_needs Q X 47 [(0, va_rf (some t)), (1, .int v1), (2, .int v2), (3, va_rf v3)] [] h
  refine wa_iconst (v := 0) dX5_needs_47 rfl ?_
  exact F
theorem f_X5_needs_48 {D : qD} {Q : Option Value → qH → Prop} {X : String → qH → Prop} (t : Nat) (v1 : Int32) (v2 : Int32) (v3 : Option Nat) (s0 : Int32) (h : qH) (F : ((s0 = 0 → L_X5_needs_87 D Q X t v1 v2 v3 s0 h) ∧ (¬ s0 = 0 → g_I D h v3 5 0 (fun x1 => ((x1 = 0 → L_X5_needs_87 D Q X t v1 v2 v3 s0 h) ∧ (¬ x1 = 0 → g_R D h (some t) 4 1 (fun r2 => (recv D h r2 RJ2 ∧ c_R D m_J2_get [va_rf r2, .int (v1 + 1)] h X (fun r4 h3 => (q_cast D h3 r4 "Quirefold$Line" ∧ g_I D h3 r4 5 5 (fun x5 => ((x5 = 0 → L_X5_needs_87 D Q X t v1 v2 v3 s0 h3) ∧ (¬ x5 = 0 → L_X5_needs_88 D Q X t v1 v2 v3 s0 1 h3))))))))))))) : L_X5_needs_48 D Q X t v1 v2 v3 s0 h := by
  show WA D m_X5_needs Q X 48 [(0, va_rf (some t)), (1, .int v1), (2, .int v2), (3, va_rf v3)] [.int s0] h
  refine ws_istore (lv' := [(4, .int s0), (0, va_rf (some t)), (1, .int v1), (2, .int v2), (3, va_rf v3)]) dX5_needs_48 (Nat.le_of_ble_eq_true rfl) (q_cr (q_ci (q_ci (q_cr q_cn)))) rfl ?_
  refine wa_iload (x := s0) dX5_needs_50 0 rfl ?_
  refine wa_if_eq (tgt := 87) dX5_needs_52 rfl (fun z => ?_) (fun z => ?_)
  · have F := F.1 z
    exact wa_sub [1, 2, 3, 4, 0] rfl F
  · have F := F.2 z
    refine wa_aload_n (o := v3) dX5_needs_55 rfl 4 rfl ?_
    refine wa_getNI (C := RX6) (T := TX6) (N := 7) (ci := 5) (k := 0) dX5_needs_56 rfl (Nat.le_of_ble_eq_true rfl) in_X6 q808 q_same_own (g_I_mono F fun x1 F => ?_)
    refine wa_if_eq (tgt := 87) dX5_needs_59 rfl (fun z => ?_) (fun z => ?_)
    · have F := F.1 z
      exact wa_sub [1, 2, 3, 4, 0] rfl F
    · have F := F.2 z
      refine wa_aload_n (o := (some t)) dX5_needs_62 rfl 1 rfl ?_
      refine wa_getR (C := RX5) (T := TX5) (N := 10) (ci := 4) (k := 1) dX5_needs_63 rfl (Nat.le_of_ble_eq_true rfl) in_X5 q923 q_same_own (g_R_mono F fun r2 F => ?_)
      refine wa_iload_n (x := v1) dX5_needs_66 rfl 2 rfl ?_
      refine wa_iconst (v := 1) dX5_needs_67 rfl ?_
      refine wa_iadd dX5_needs_68 ?_
      refine wa_callF (M' := m_J2_get) (C := RJ2) (x := y_Lget) (ci := 6) (o := r2) (As := [.int (v1 + 1)]) (st := []) dX5_needs_69 rfl rfl fw_J2_get ⟨Nat.le_of_ble_eq_true rfl, Nat.le_of_ble_eq_true rfl⟩ nf_y_Lget q773 q776 q778 q57 q780 rfl rfl (Nat.zero_le 8) rfl F.1 F.2 (wk_R fun r4 h3 F => ?_)
      refine wa_cast (C := "Quirefold$Line") dX5_needs_74 q799 F.1 ?_
      have F := F.2
      refine wa_getNI (C := RX6) (T := TX6) (N := 7) (ci := 5) (k := 5) dX5_needs_77 rfl (Nat.le_of_ble_eq_true rfl) in_X6 q818 q_same_own (g_I_mono F fun x5 F => ?_)
      refine wa_if_eq (tgt := 87) dX5_needs_80 rfl (fun z => ?_) (fun z => ?_)
      · have F := F.1 z
        exact wa_sub [1, 2, 3, 4, 0] rfl F
      · have F := F.2 z
        refine wa_iconst (v := 1) dX5_needs_83 rfl ?_
        refine wa_goto (tgt := 88) dX5_needs_84 rfl ?_
        exact wa_sub [1, 2, 3, 4, 0] rfl F
theorem f_X5_needs_87 {D : qD} {Q : Option Value → qH → Prop} {X : String → qH → Prop} (t : Nat) (v1 : Int32) (v2 : Int32) (v3 : Option Nat) (v4 : Int32) (h : qH) (F : L_X5_needs_88 D Q X t v1 v2 v3 v4 0 h) : L_X5_needs_87 D Q X t v1 v2 v3 v4 h := by
  show WA D m_X5_needs Q X 87 [(0, va_rf (some t)), (1, .int v1), (2, .int v2), (3, va_rf v3), (4, .int v4)] [] h
  refine wa_iconst (v := 0) dX5_needs_87 rfl ?_
  exact F
theorem f_X5_needs_88 {D : qD} {Q : Option Value → qH → Prop} {X : String → qH → Prop} (t : Nat) (v1 : Int32) (v2 : Int32) (v3 : Option Nat) (v4 : Int32) (s0 : Int32) (h : qH) (F : (recv D h v3 RX6 ∧ c_I D m_X6_takes [va_rf v3, .int v2] h X (fun x2 h1 => ((v4 = 0 → L_X5_needs_123 D Q X t v1 s0 0 x2 h1) ∧ (¬ v4 = 0 → g_R D h1 (some t) 4 1 (fun r3 => (recv D h1 r3 RJ2 ∧ c_R D m_J2_get [va_rf r3, .int (v1 + 1)] h1 X (fun r5 h4 => (q_cast D h4 r5 "Quirefold$Line" ∧ (recv D h4 r5 RX6 ∧ c_I D m_X6_takes [va_rf r5, .int 1] h4 X (fun x7 h6 => L_X5_needs_123 D Q X t v1 s0 x7 x2 h6))))))))))) : L_X5_needs_88 D Q X t v1 v2 v3 v4 s0 h := by
  show WA D m_X5_needs Q X 88 [(0, va_rf (some t)), (1, .int v1), (2, .int v2), (3, va_rf v3), (4, .int v4)] [.int s0] h
  refine ws_istore (lv' := [(5, .int s0), (0, va_rf (some t)), (1, .int v1), (2, .int v2), (3, va_rf v3), (4, .int v4)]) dX5_needs_88 (Nat.le_of_ble_eq_true rfl) (q_cr (q_ci (q_ci (q_cr (q_ci q_cn))))) rfl ?_
  refine wa_aload_n (o := v3) dX5_needs_90 rfl 4 rfl ?_
  refine wa_iload_n (x := v2) dX5_needs_91 rfl 3 rfl ?_
  refine wa_callV (M' := m_X6_takes) (C := RX6) (o := v3) (As := [.int v2]) (st := []) dX5_needs_92 ⟨Nat.le_of_ble_eq_true rfl, Nat.le_of_ble_eq_true rfl, nk_X6_takes⟩ q906 q907 q908 q82 q909 rfl rfl (Nat.zero_le 8) rfl F.1 F.2 (wk_I fun x2 h1 F => ?_)
  refine wa_iload (x := v4) dX5_needs_95 5 rfl ?_
  refine wa_if_eq (tgt := 122) dX5_needs_97 rfl (fun z => ?_) (fun z => ?_)
  · have F := F.1 z
    refine wa_iconst (v := 0) dX5_needs_122 rfl ?_
    exact wa_sub [1, 2, 0] rfl F
  · have F := F.2 z
    refine wa_aload_n (o := (some t)) dX5_needs_100 rfl 1 rfl ?_
    refine wa_getR (C := RX5) (T := TX5) (N := 10) (ci := 4) (k := 1) dX5_needs_101 rfl (Nat.le_of_ble_eq_true rfl) in_X5 q923 q_same_own (g_R_mono F fun r3 F => ?_)
    refine wa_iload_n (x := v1) dX5_needs_104 rfl 2 rfl ?_
    refine wa_iconst (v := 1) dX5_needs_105 rfl ?_
    refine wa_iadd dX5_needs_106 ?_
    refine wa_callF (M' := m_J2_get) (C := RJ2) (x := y_Lget) (ci := 6) (o := r3) (As := [.int (v1 + 1)]) (st := [.int x2]) dX5_needs_107 rfl rfl fw_J2_get ⟨Nat.le_of_ble_eq_true rfl, Nat.le_of_ble_eq_true rfl⟩ nf_y_Lget q773 q776 q778 q57 q780 rfl rfl (q_cs_le (q_csi q_cs0) (Nat.le_of_ble_eq_true rfl)) rfl F.1 F.2 (wk_R fun r5 h4 F => ?_)
    refine wa_cast (C := "Quirefold$Line") dX5_needs_112 q799 F.1 ?_
    have F := F.2
    refine wa_iconst (v := 1) dX5_needs_115 rfl ?_
    refine wa_callV (M' := m_X6_takes) (C := RX6) (o := r5) (As := [.int 1]) (st := [.int x2]) dX5_needs_116 ⟨Nat.le_of_ble_eq_true rfl, Nat.le_of_ble_eq_true rfl, nk_X6_takes⟩ q906 q907 q908 q82 q909 rfl rfl (q_cs_le (q_csi q_cs0) (Nat.le_of_ble_eq_true rfl)) rfl F.1 F.2 (wk_I fun x7 h6 F => ?_)
    refine wa_goto (tgt := 123) dX5_needs_119 rfl ?_
    exact wa_sub [1, 2, 0] rfl F
theorem f_X5_needs_123 {D : qD} {Q : Option Value → qH → Prop} {X : String → qH → Prop} (t : Nat) (v1 : Int32) (v5 : Int32) (s0 : Int32) (s1 : Int32) (h : qH) (F : ((v5 = 0 → Q (some (.int ((s1 + s0) + 0))) h) ∧ (¬ v5 = 0 → g_R D h (some t) 4 1 (fun r1 => (recv D h r1 RJ2 ∧ c_R D m_J2_get [va_rf r1, .int (v1 + 2)] h X (fun r3 h2 => (q_cast D h2 r3 "Quirefold$Line" ∧ (recv D h2 r3 RX6 ∧ c_I D m_X6_takes [va_rf r3, .int 1] h2 X (fun x5 h4 => Q (some (.int ((s1 + s0) + x5))) h4))))))))) : L_X5_needs_123 D Q X t v1 v5 s0 s1 h := by
  show WA D m_X5_needs Q X 123 [(0, va_rf (some t)), (1, .int v1), (5, .int v5)] [.int s0, .int s1] h
  refine wa_iadd dX5_needs_123 ?_
  refine wa_iload (x := v5) dX5_needs_124 2 rfl ?_
  refine wa_if_eq (tgt := 151) dX5_needs_126 rfl (fun z => ?_) (fun z => ?_)
  · have F := F.1 z
    refine wa_iconst (v := 0) dX5_needs_151 rfl ?_
    refine wa_iadd dX5_needs_152 ?_
    exact wa_iret rfl dX5_needs_153 F
  · have F := F.2 z
    refine wa_aload_n (o := (some t)) dX5_needs_129 rfl 0 rfl ?_
    refine wa_getR (C := RX5) (T := TX5) (N := 10) (ci := 4) (k := 1) dX5_needs_130 rfl (Nat.le_of_ble_eq_true rfl) in_X5 q923 q_same_own (g_R_mono F fun r1 F => ?_)
    refine wa_iload_n (x := v1) dX5_needs_133 rfl 1 rfl ?_
    refine wa_iconst (v := 2) dX5_needs_134 rfl ?_
    refine wa_iadd dX5_needs_135 ?_
    refine wa_callF (M' := m_J2_get) (C := RJ2) (x := y_Lget) (ci := 6) (o := r1) (As := [.int (v1 + 2)]) (st := [.int (s1 + s0)]) dX5_needs_136 rfl rfl fw_J2_get ⟨Nat.le_of_ble_eq_true rfl, Nat.le_of_ble_eq_true rfl⟩ nf_y_Lget q773 q776 q778 q57 q780 rfl rfl (q_cs_le (q_csi q_cs0) (Nat.le_of_ble_eq_true rfl)) rfl F.1 F.2 (wk_R fun r3 h2 F => ?_)
    refine wa_cast (C := "Quirefold$Line") dX5_needs_141 q799 F.1 ?_
    have F := F.2
    refine wa_iconst (v := 1) dX5_needs_144 rfl ?_
    refine wa_callV (M' := m_X6_takes) (C := RX6) (o := r3) (As := [.int 1]) (st := [.int (s1 + s0)]) dX5_needs_145 ⟨Nat.le_of_ble_eq_true rfl, Nat.le_of_ble_eq_true rfl, nk_X6_takes⟩ q906 q907 q908 q82 q909 rfl rfl (q_cs_le (q_csi q_cs0) (Nat.le_of_ble_eq_true rfl)) rfl F.1 F.2 (wk_I fun x5 h4 F => ?_)
    refine wa_goto (tgt := 152) dX5_needs_148 rfl ?_
    refine wa_iadd dX5_needs_152 ?_
    exact wa_iret rfl dX5_needs_153 F
theorem f_X5_pageIn {D : qD} {Q : Option Value → qH → Prop} {X : String → qH → Prop} (t : Nat) (p0 : Int32) (p1 : Int32) (h : qH) (F : g_R D h (some t) 4 1 (fun r1 => (recv D h r1 RJ2 ∧ c_R D m_J2_get [va_rf r1, .int p0] h X (fun r3 h2 => (q_cast D h2 r3 "Quirefold$Line" ∧ g_I D h2 r3 5 6 (fun x4 => g_R D h2 (some t) 4 9 (fun r5 => g_I D h2 r5 0 5 (fun x6 => (¬ x6 = 0 ∧ Q (some (.int ((p1 + (x4 / x6)) + 1))) h2))))))))) : MW D m_X5_pageIn [va_rf (some t), .int p0, .int p1] h Q X := by
  refine mw_of pl_X5_pageIn rfl _ (Nat.le_of_ble_eq_true rfl) rfl ?_
  refine (show WA D m_X5_pageIn Q X 0 [(0, va_rf (some t)), (1, .int p0), (2, .int p1)] [] h from ?_)
  refine wa_iload_n (x := p1) dX5_pageIn_0 rfl 2 rfl ?_
  refine wa_aload_n (o := (some t)) dX5_pageIn_1 rfl 0 rfl ?_
  refine wa_getR (C := RX5) (T := TX5) (N := 10) (ci := 4) (k := 1) dX5_pageIn_2 rfl (Nat.le_of_ble_eq_true rfl) in_X5 q923 q_same_own (g_R_mono F fun r1 F => ?_)
  refine wa_iload_n (x := p0) dX5_pageIn_5 rfl 1 rfl ?_
  refine wa_callF (M' := m_J2_get) (C := RJ2) (x := y_Lget) (ci := 6) (o := r1) (As := [.int p0]) (st := [.int p1]) dX5_pageIn_6 rfl rfl fw_J2_get ⟨Nat.le_of_ble_eq_true rfl, Nat.le_of_ble_eq_true rfl⟩ nf_y_Lget q773 q776 q778 q57 q780 rfl rfl (q_cs_le (q_csi q_cs0) (Nat.le_of_ble_eq_true rfl)) rfl F.1 F.2 (wk_R fun r3 h2 F => ?_)
  refine wa_cast (C := "Quirefold$Line") dX5_pageIn_11 q799 F.1 ?_
  have F := F.2
  refine wa_getNI (C := RX6) (T := TX6) (N := 7) (ci := 5) (k := 6) dX5_pageIn_14 rfl (Nat.le_of_ble_eq_true rfl) in_X6 q820 q_same_own (g_I_mono F fun x4 F => ?_)
  refine wa_aload_n (o := (some t)) dX5_pageIn_17 rfl 0 rfl ?_
  refine wa_getR (C := RX5) (T := TX5) (N := 10) (ci := 4) (k := 9) dX5_pageIn_18 rfl (Nat.le_of_ble_eq_true rfl) in_X5 q935 q_same_own (g_R_mono F fun r5 F => ?_)
  refine wa_getNI (C := RX1) (T := TX1) (N := 11) (ci := 0) (k := 5) dX5_pageIn_21 rfl (Nat.le_of_ble_eq_true rfl) in_X1 q158 q_same_own (g_I_mono F fun x6 F => ?_)
  refine wa_idiv dX5_pageIn_24 F.1 ?_
  have F := F.2
  refine wa_iadd dX5_pageIn_25 ?_
  refine wa_iconst (v := 1) dX5_pageIn_26 rfl ?_
  refine wa_iadd dX5_pageIn_27 ?_
  exact wa_iret rfl dX5_pageIn_28 F
def L_X5_begins_20 (D : qD) (Q : Option Value → qH → Prop) (X : String → qH → Prop) (t : Nat) (h : qH) : Prop := WA D m_X5_begins Q X 20 [(0, va_rf (some t))] [] h
def L_X5_begins_88 (D : qD) (Q : Option Value → qH → Prop) (X : String → qH → Prop) (t : Nat) (h : qH) : Prop := WA D m_X5_begins Q X 88 [(0, va_rf (some t))] [] h
theorem f_X5_begins {D : qD} {Q : Option Value → qH → Prop} {X : String → qH → Prop} (t : Nat) (h : qH) (F : g_I D h (some t) 4 5 (fun x1 => p_F h (some t) 4 5 (.int (x1 + 1)) (fun h2 => p_F h2 (some t) 4 6 (.int 0) (fun h3 => p_F h3 (some t) 4 7 (.int 0) (fun h4 => L_X5_begins_20 D Q X t h4))))) : MW D m_X5_begins [va_rf (some t)] h Q X := by
  refine mw_of pl_X5_begins rfl _ (Nat.le_of_ble_eq_true rfl) rfl ?_
  refine (show WA D m_X5_begins Q X 0 [(0, va_rf (some t))] [] h from ?_)
  refine wa_aload_n (o := (some t)) dX5_begins_0 rfl 0 rfl ?_
  refine wa_dup dX5_begins_1 (q_cat _) ?_
  refine wa_getI (C := RX5) (T := TX5) (N := 10) (ci := 4) (k := 5) dX5_begins_2 rfl (Nat.le_of_ble_eq_true rfl) in_X5 q930 q_same_own (g_I_mono F fun x1 F => ?_)
  refine wa_iconst (v := 1) dX5_begins_5 rfl ?_
  refine wa_iadd dX5_begins_6 ?_
  refine wa_put (C := RX5) (T := TX5) (N := 10) (ci := 4) (k := 5) tyX5 dX5_begins_7 rfl (Nat.le_of_ble_eq_true rfl) in_X5 tyX5_ok nmX5 q930 q_same_own rfl rfl rfl (p_F_mono F fun h2 F => ?_)
  refine wa_aload_n (o := (some t)) dX5_begins_10 rfl 0 rfl ?_
  refine wa_iconst (v := 0) dX5_begins_11 rfl ?_
  refine wa_put (C := RX5) (T := TX5) (N := 10) (ci := 4) (k := 6) tyX5 dX5_begins_12 rfl (Nat.le_of_ble_eq_true rfl) in_X5 tyX5_ok nmX5 q931 q_same_own rfl rfl rfl (p_F_mono F fun h3 F => ?_)
  refine wa_aload_n (o := (some t)) dX5_begins_15 rfl 0 rfl ?_
  refine wa_iconst (v := 0) dX5_begins_16 rfl ?_
  refine wa_put (C := RX5) (T := TX5) (N := 10) (ci := 4) (k := 7) tyX5 dX5_begins_17 rfl (Nat.le_of_ble_eq_true rfl) in_X5 tyX5_ok nmX5 q932 q_same_own rfl rfl rfl (p_F_mono F fun h4 F => ?_)
  exact F
theorem f_X5_begins_20 {D : qD} {Q : Option Value → qH → Prop} {X : String → qH → Prop} (t : Nat) (h : qH) (F : g_R D h (some t) 4 4 (fun r1 => (recv D h r1 RJ2 ∧ c_I D m_J2_isEmpty [va_rf r1] h X (fun x3 h2 => ((¬ x3 = 0 → Q none h2) ∧ (x3 = 0 → g_I D h2 (some t) 4 6 (fun x4 => ((x4 = 0 → L_X5_begins_88 D Q X t h2) ∧ (¬ x4 = 0 → g_I D h2 (some t) 4 6 (fun x5 => g_R D h2 (some t) 4 9 (fun r6 => g_R D h2 r6 0 0 (fun r7 => g_R D h2 (some t) 4 4 (fun r8 => (recv D h2 r8 RJ2 ∧ c_R D m_J2_get [va_rf r8, .int 0] h2 X (fun r10 h9 => (q_cast D h9 r10 "java/lang/Integer" ∧ (recv D h9 r10 RJ18 ∧ c_I D m_J18_intValue [va_rf r10] h9 X (fun x12 h11 => (recv D h11 r7 RJ2 ∧ c_R D m_J2_get [va_rf r7, .int x12] h11 X (fun r14 h13 => (q_cast D h13 r14 "Quirefold$Token" ∧ g_I D h13 r14 3 1 (fun x15 => g_R D h13 (some t) 4 9 (fun r16 => g_I D h13 r16 0 4 (fun x17 => ((x17 < (x5 + x15) → Q none h13) ∧ (¬ x17 < (x5 + x15) → L_X5_begins_88 D Q X t h13)))))))))))))))))))))))))) : L_X5_begins_20 D Q X t h := by
  show WA D m_X5_begins Q X 20 [(0, va_rf (some t))] [] h
  refine wa_aload_n (o := (some t)) dX5_begins_20 rfl 0 rfl ?_
  refine wa_getR (C := RX5) (T := TX5) (N := 10) (ci := 4) (k := 4) dX5_begins_21 rfl (Nat.le_of_ble_eq_true rfl) in_X5 q929 q_same_own (g_R_mono F fun r1 F => ?_)
  refine wa_callF (M' := m_J2_isEmpty) (C := RJ2) (x := y_LisEmpty) (ci := 6) (o := r1) (As := []) (st := []) dX5_begins_24 rfl rfl fw_J2_isEmpty ⟨Nat.le_of_ble_eq_true rfl, Nat.le_of_ble_eq_true rfl⟩ nf_y_LisEmpty q875 q878 q880 q57 q882 rfl rfl (Nat.zero_le 8) rfl F.1 F.2 (wk_I fun x3 h2 F => ?_)
  refine wa_if_ne (tgt := 111) dX5_begins_29 rfl (fun z => ?_) (fun z => ?_)
  · have F := F.1 z
    exact wa_vret rfl dX5_begins_111 F
  · have F := F.2 z
    refine wa_aload_n (o := (some t)) dX5_begins_32 rfl 0 rfl ?_
    refine wa_getI (C := RX5) (T := TX5) (N := 10) (ci := 4) (k := 6) dX5_begins_33 rfl (Nat.le_of_ble_eq_true rfl) in_X5 q931 q_same_own (g_I_mono F fun x4 F => ?_)
    refine wa_if_eq (tgt := 88) dX5_begins_36 rfl (fun z => ?_) (fun z => ?_)
    · have F := F.1 z
      exact F
    · have F := F.2 z
      refine wa_aload_n (o := (some t)) dX5_begins_39 rfl 0 rfl ?_
      refine wa_getI (C := RX5) (T := TX5) (N := 10) (ci := 4) (k := 6) dX5_begins_40 rfl (Nat.le_of_ble_eq_true rfl) in_X5 q931 q_same_own (g_I_mono F fun x5 F => ?_)
      refine wa_aload_n (o := (some t)) dX5_begins_43 rfl 0 rfl ?_
      refine wa_getR (C := RX5) (T := TX5) (N := 10) (ci := 4) (k := 9) dX5_begins_44 rfl (Nat.le_of_ble_eq_true rfl) in_X5 q935 q_same_own (g_R_mono F fun r6 F => ?_)
      refine wa_getNR (C := RX1) (T := TX1) (N := 11) (ci := 0) (k := 0) dX5_begins_47 rfl (Nat.le_of_ble_eq_true rfl) in_X1 q148 q_same_own (g_R_mono F fun r7 F => ?_)
      refine wa_aload_n (o := (some t)) dX5_begins_50 rfl 0 rfl ?_
      refine wa_getR (C := RX5) (T := TX5) (N := 10) (ci := 4) (k := 4) dX5_begins_51 rfl (Nat.le_of_ble_eq_true rfl) in_X5 q929 q_same_own (g_R_mono F fun r8 F => ?_)
      refine wa_iconst (v := 0) dX5_begins_54 rfl ?_
      refine wa_callF (M' := m_J2_get) (C := RJ2) (x := y_Lget) (ci := 6) (o := r8) (As := [.int 0]) (st := [va_rf r7, .int x5]) dX5_begins_55 rfl rfl fw_J2_get ⟨Nat.le_of_ble_eq_true rfl, Nat.le_of_ble_eq_true rfl⟩ nf_y_Lget q773 q776 q778 q57 q780 rfl rfl (q_cs_le (q_csr (q_csi q_cs0)) (Nat.le_of_ble_eq_true rfl)) rfl F.1 F.2 (wk_R fun r10 h9 F => ?_)
      refine wa_cast (C := "java/lang/Integer") dX5_begins_60 q891 F.1 ?_
      have F := F.2
      refine wa_callV (M' := m_J18_intValue) (C := RJ18) (o := r10) (As := []) (st := [va_rf r7, .int x5]) dX5_begins_63 ⟨Nat.le_of_ble_eq_true rfl, Nat.le_of_ble_eq_true rfl, nk_J18_intValue⟩ q892 q893 q894 q76 q895 rfl rfl (q_cs_le (q_csr (q_csi q_cs0)) (Nat.le_of_ble_eq_true rfl)) rfl F.1 F.2 (wk_I fun x12 h11 F => ?_)
      refine wa_callF (M' := m_J2_get) (C := RJ2) (x := y_Lget) (ci := 6) (o := r7) (As := [.int x12]) (st := [.int x5]) dX5_begins_66 rfl rfl fw_J2_get ⟨Nat.le_of_ble_eq_true rfl, Nat.le_of_ble_eq_true rfl⟩ nf_y_Lget q773 q776 q778 q57 q780 rfl rfl (q_cs_le (q_csi q_cs0) (Nat.le_of_ble_eq_true rfl)) rfl F.1 F.2 (wk_R fun r14 h13 F => ?_)
      refine wa_cast (C := "Quirefold$Token") dX5_begins_71 q785 F.1 ?_
      have F := F.2
      refine wa_getNI (C := RX4) (T := TX4) (N := 3) (ci := 3) (k := 1) dX5_begins_74 rfl (Nat.le_of_ble_eq_true rfl) in_X4 q596 q_same_own (g_I_mono F fun x15 F => ?_)
      refine wa_iadd dX5_begins_77 ?_
      refine wa_aload_n (o := (some t)) dX5_begins_78 rfl 0 rfl ?_
      refine wa_getR (C := RX5) (T := TX5) (N := 10) (ci := 4) (k := 9) dX5_begins_79 rfl (Nat.le_of_ble_eq_true rfl) in_X5 q935 q_same_own (g_R_mono F fun r16 F => ?_)
      refine wa_getNI (C := RX1) (T := TX1) (N := 11) (ci := 0) (k := 4) dX5_begins_82 rfl (Nat.le_of_ble_eq_true rfl) in_X1 q156 q_same_own (g_I_mono F fun x17 F => ?_)
      refine wa_icmp_gt (tgt := 111) dX5_begins_85 rfl (fun z => ?_) (fun z => ?_)
      · have F := F.1 z
        exact wa_vret rfl dX5_begins_111 F
      · have F := F.2 z
        exact F
theorem f_X5_begins_88 {D : qD} {Q : Option Value → qH → Prop} {X : String → qH → Prop} (t : Nat) (h : qH) (F : g_R D h (some t) 4 4 (fun r1 => (recv D h r1 RJ2 ∧ c_R D m_J2_remove [va_rf r1, .int 0] h X (fun r3 h2 => (q_cast D h2 r3 "java/lang/Integer" ∧ (recv D h2 r3 RJ18 ∧ c_I D m_J18_intValue [va_rf r3] h2 X (fun x5 h4 => (recv D h4 (some t) RX5 ∧ c_V D m_X5_tops [va_rf (some t), .int x5] h4 X (fun h6 => L_X5_begins_20 D Q X t h6))))))))) : L_X5_begins_88 D Q X t h := by
  show WA D m_X5_begins Q X 88 [(0, va_rf (some t))] [] h
  refine wa_aload_n (o := (some t)) dX5_begins_88 rfl 0 rfl ?_
  refine wa_aload_n (o := (some t)) dX5_begins_89 rfl 0 rfl ?_
  refine wa_getR (C := RX5) (T := TX5) (N := 10) (ci := 4) (k := 4) dX5_begins_90 rfl (Nat.le_of_ble_eq_true rfl) in_X5 q929 q_same_own (g_R_mono F fun r1 F => ?_)
  refine wa_iconst (v := 0) dX5_begins_93 rfl ?_
  refine wa_callF (M' := m_J2_remove) (C := RJ2) (x := y_Lremove) (ci := 6) (o := r1) (As := [.int 0]) (st := [va_rf (some t)]) dX5_begins_94 rfl rfl fw_J2_remove ⟨Nat.le_of_ble_eq_true rfl, Nat.le_of_ble_eq_true rfl⟩ nf_y_Lremove q897 q690 q692 q57 q694 rfl rfl (q_cs_le (q_csr q_cs0) (Nat.le_of_ble_eq_true rfl)) rfl F.1 F.2 (wk_R fun r3 h2 F => ?_)
  refine wa_cast (C := "java/lang/Integer") dX5_begins_99 q891 F.1 ?_
  have F := F.2
  refine wa_callV (M' := m_J18_intValue) (C := RJ18) (o := r3) (As := []) (st := [va_rf (some t)]) dX5_begins_102 ⟨Nat.le_of_ble_eq_true rfl, Nat.le_of_ble_eq_true rfl, nk_J18_intValue⟩ q892 q893 q894 q76 q895 rfl rfl (q_cs_le (q_csr q_cs0) (Nat.le_of_ble_eq_true rfl)) rfl F.1 F.2 (wk_I fun x5 h4 F => ?_)
  refine wa_callV (M' := m_X5_tops) (C := RX5) (o := (some t)) (As := [.int x5]) (st := []) dX5_begins_105 ⟨Nat.le_of_ble_eq_true rfl, Nat.le_of_ble_eq_true rfl, nk_X5_tops⟩ q898 q900 qs14 q81 q901 rfl rfl (Nat.zero_le 8) rfl F.1 F.2 (wk_V fun h6 F => ?_)
  refine wa_goto (tgt := 20) dX5_begins_108 rfl ?_
  exact F
def L_X5_frontBy_13 (D : qD) (Q : Option Value → qH → Prop) (X : String → qH → Prop) (t : Nat) (v1 : Int32) (v2 : Int32) (v3 : Int32) (v4 : Int32) (h : qH) : Prop := WA D m_X5_frontBy Q X 13 [(0, va_rf (some t)), (1, .int v1), (2, .int v2), (3, .int v3), (4, .int v4)] [] h
def L_X5_frontBy_127 (D : qD) (Q : Option Value → qH → Prop) (X : String → qH → Prop) (t : Nat) (v1 : Int32) (v2 : Int32) (v3 : Int32) (v4 : Int32) (h : qH) : Prop := WA D m_X5_frontBy Q X 127 [(0, va_rf (some t)), (1, .int v1), (2, .int v2), (3, .int v3), (4, .int v4)] [] h
def L_X5_frontBy_79 (D : qD) (Q : Option Value → qH → Prop) (X : String → qH → Prop) (t : Nat) (v1 : Int32) (v2 : Int32) (v3 : Int32) (v4 : Int32) (s0 : Int32) (h : qH) : Prop := WA D m_X5_frontBy Q X 79 [(0, va_rf (some t)), (1, .int v1), (2, .int v2), (3, .int v3), (4, .int v4)] [.int s0] h
def L_X5_frontBy_101 (D : qD) (Q : Option Value → qH → Prop) (X : String → qH → Prop) (t : Nat) (v1 : Int32) (v3 : Int32) (v4 : Int32) (v6 : Int32) (s0 : Int32) (s1 : Int32) (h : qH) : Prop := WA D m_X5_frontBy Q X 101 [(0, va_rf (some t)), (1, .int v1), (3, .int v3), (4, .int v4), (6, .int v6)] [.int s0, .int s1] h
def L_X5_frontBy_126 (D : qD) (Q : Option Value → qH → Prop) (X : String → qH → Prop) (t : Nat) (v1 : Int32) (v2 : Int32) (v4 : Int32) (s0 : Int32) (h : qH) : Prop := WA D m_X5_frontBy Q X 126 [(0, va_rf (some t)), (1, .int v1), (2, .int v2), (4, .int v4)] [.int s0] h
theorem f_X5_frontBy {D : qD} {Q : Option Value → qH → Prop} {X : String → qH → Prop} (t : Nat) (p0 : Int32) (h : qH) (F : g_R D h (some t) 4 9 (fun r1 => g_I D h r1 0 4 (fun x2 => L_X5_frontBy_13 D Q X t p0 0 x2 0 h))) : MW D m_X5_frontBy [va_rf (some t), .int p0] h Q X := by
  refine mw_of pl_X5_frontBy rfl _ (Nat.le_of_ble_eq_true rfl) rfl ?_
  refine (show WA D m_X5_frontBy Q X 0 [(0, va_rf (some t)), (1, .int p0)] [] h from ?_)
  refine wa_iconst (v := 0) dX5_frontBy_0 rfl ?_
  refine ws_istore_n (lv' := [(2, .int 0), (0, va_rf (some t)), (1, .int p0)]) dX5_frontBy_1 rfl (Nat.le_of_ble_eq_true rfl) (q_cr (q_ci q_cn)) rfl ?_
  refine wa_aload_n (o := (some t)) dX5_frontBy_2 rfl 1 rfl ?_
  refine wa_getR (C := RX5) (T := TX5) (N := 10) (ci := 4) (k := 9) dX5_frontBy_3 rfl (Nat.le_of_ble_eq_true rfl) in_X5 q935 q_same_own (g_R_mono F fun r1 F => ?_)
  refine wa_getNI (C := RX1) (T := TX1) (N := 11) (ci := 0) (k := 4) dX5_frontBy_6 rfl (Nat.le_of_ble_eq_true rfl) in_X1 q156 q_same_own (g_I_mono F fun x2 F => ?_)
  refine ws_istore_n (lv' := [(3, .int x2), (2, .int 0), (0, va_rf (some t)), (1, .int p0)]) dX5_frontBy_9 rfl (Nat.le_of_ble_eq_true rfl) (q_ci (q_cr (q_ci q_cn))) rfl ?_
  refine wa_iconst (v := 0) dX5_frontBy_10 rfl ?_
  refine ws_istore (lv' := [(4, .int 0), (3, .int x2), (2, .int 0), (0, va_rf (some t)), (1, .int p0)]) dX5_frontBy_11 (Nat.le_of_ble_eq_true rfl) (q_ci (q_ci (q_cr (q_ci q_cn)))) rfl ?_
  exact wa_sub [3, 4, 2, 1, 0] rfl F
theorem f_X5_frontBy_13 {D : qD} {Q : Option Value → qH → Prop} {X : String → qH → Prop} (t : Nat) (v1 : Int32) (v2 : Int32) (v3 : Int32) (v4 : Int32) (h : qH) (F : g_R D h (some t) 4 1 (fun r1 => (recv D h r1 RJ2 ∧ c_I D m_J2_size [va_rf r1] h X (fun x3 h2 => ((x3 ≤ v4 → g_R D h2 (some t) 4 9 (fun r4 => g_I D h2 r4 0 5 (fun x5 => g_R D h2 (some t) 4 9 (fun r6 => g_I D h2 r6 0 5 (fun x7 => (¬ x7 = 0 ∧ Q (some (.int ((((v2 + x5) - 1) / x7) + ((((v2 + x5) - 1) / x7) - (((v2 + x5) - 1) / x7) / 2 * 2)))) h2)))))) ∧ (¬ x3 ≤ v4 → g_R D h2 (some t) 4 1 (fun r8 => (recv D h2 r8 RJ2 ∧ c_R D m_J2_get [va_rf r8, .int v4] h2 X (fun r10 h9 => (q_cast D h9 r10 "Quirefold$Line" ∧ g_I D h9 r10 5 0 (fun x11 => ((x11 = 0 → L_X5_frontBy_127 D Q X t v1 v2 v3 v4 h9) ∧ (¬ x11 = 0 → (recv D h9 (some t) RX5 ∧ c_I D m_X5_pageIn [va_rf (some t), .int v4, .int v1] h9 X (fun x13 h12 => ((x13 ≤ 99 → ((x13 ≤ 9 → L_X5_frontBy_79 D Q X t v1 v2 v3 v4 1 h12) ∧ (¬ x13 ≤ 9 → L_X5_frontBy_79 D Q X t v1 v2 v3 v4 2 h12))) ∧ (¬ x13 ≤ 99 → L_X5_frontBy_79 D Q X t v1 v2 v3 v4 3 h12))))))))))))))))) : L_X5_frontBy_13 D Q X t v1 v2 v3 v4 h := by
  show WA D m_X5_frontBy Q X 13 [(0, va_rf (some t)), (1, .int v1), (2, .int v2), (3, .int v3), (4, .int v4)] [] h
  refine wa_iload (x := v4) dX5_frontBy_13 4 rfl ?_
  refine wa_aload_n (o := (some t)) dX5_frontBy_15 rfl 0 rfl ?_
  refine wa_getR (C := RX5) (T := TX5) (N := 10) (ci := 4) (k := 1) dX5_frontBy_16 rfl (Nat.le_of_ble_eq_true rfl) in_X5 q923 q_same_own (g_R_mono F fun r1 F => ?_)
  refine wa_callF (M' := m_J2_size) (C := RJ2) (x := y_Lsize) (ci := 6) (o := r1) (As := []) (st := [.int v4]) dX5_frontBy_19 rfl rfl fw_J2_size ⟨Nat.le_of_ble_eq_true rfl, Nat.le_of_ble_eq_true rfl⟩ nf_y_Lsize q771 q196 q198 q57 q200 rfl rfl (q_cs_le (q_csi q_cs0) (Nat.le_of_ble_eq_true rfl)) rfl F.1 F.2 (wk_I fun x3 h2 F => ?_)
  refine wa_icmp_ge (tgt := 133) dX5_frontBy_24 rfl (fun z => ?_) (fun z => ?_)
  · have F := F.1 z
    refine wa_iload_n (x := v2) dX5_frontBy_133 rfl 2 rfl ?_
    refine wa_aload_n (o := (some t)) dX5_frontBy_134 rfl 0 rfl ?_
    refine wa_getR (C := RX5) (T := TX5) (N := 10) (ci := 4) (k := 9) dX5_frontBy_135 rfl (Nat.le_of_ble_eq_true rfl) in_X5 q935 q_same_own (g_R_mono F fun r4 F => ?_)
    refine wa_getNI (C := RX1) (T := TX1) (N := 11) (ci := 0) (k := 5) dX5_frontBy_138 rfl (Nat.le_of_ble_eq_true rfl) in_X1 q158 q_same_own (g_I_mono F fun x5 F => ?_)
    refine wa_iadd dX5_frontBy_141 ?_
    refine wa_iconst (v := 1) dX5_frontBy_142 rfl ?_
    refine wa_isub dX5_frontBy_143 ?_
    refine wa_aload_n (o := (some t)) dX5_frontBy_144 rfl 0 rfl ?_
    refine wa_getR (C := RX5) (T := TX5) (N := 10) (ci := 4) (k := 9) dX5_frontBy_145 rfl (Nat.le_of_ble_eq_true rfl) in_X5 q935 q_same_own (g_R_mono F fun r6 F => ?_)
    refine wa_getNI (C := RX1) (T := TX1) (N := 11) (ci := 0) (k := 5) dX5_frontBy_148 rfl (Nat.le_of_ble_eq_true rfl) in_X1 q158 q_same_own (g_I_mono F fun x7 F => ?_)
    refine wa_idiv dX5_frontBy_151 F.1 ?_
    have F := F.2
    refine ws_istore (lv' := [(4, .int (((v2 + x5) - 1) / x7)), (0, va_rf (some t)), (1, .int v1), (2, .int v2), (3, .int v3)]) dX5_frontBy_152 (Nat.le_of_ble_eq_true rfl) (q_cr (q_ci (q_ci (q_ci (q_ci q_cn))))) rfl ?_
    refine wa_iload (x := (((v2 + x5) - 1) / x7)) dX5_frontBy_154 0 rfl ?_
    refine wa_iload (x := (((v2 + x5) - 1) / x7)) dX5_frontBy_156 0 rfl ?_
    refine wa_iconst (v := 2) dX5_frontBy_158 rfl ?_
    refine wa_irem dX5_frontBy_159 (by decide) ?_
    refine wa_iadd dX5_frontBy_160 ?_
    exact wa_iret rfl dX5_frontBy_161 F
  · have F := F.2 z
    refine wa_aload_n (o := (some t)) dX5_frontBy_27 rfl 0 rfl ?_
    refine wa_getR (C := RX5) (T := TX5) (N := 10) (ci := 4) (k := 1) dX5_frontBy_28 rfl (Nat.le_of_ble_eq_true rfl) in_X5 q923 q_same_own (g_R_mono F fun r8 F => ?_)
    refine wa_iload (x := v4) dX5_frontBy_31 4 rfl ?_
    refine wa_callF (M' := m_J2_get) (C := RJ2) (x := y_Lget) (ci := 6) (o := r8) (As := [.int v4]) (st := []) dX5_frontBy_33 rfl rfl fw_J2_get ⟨Nat.le_of_ble_eq_true rfl, Nat.le_of_ble_eq_true rfl⟩ nf_y_Lget q773 q776 q778 q57 q780 rfl rfl (Nat.zero_le 8) rfl F.1 F.2 (wk_R fun r10 h9 F => ?_)
    refine wa_cast (C := "Quirefold$Line") dX5_frontBy_38 q799 F.1 ?_
    have F := F.2
    refine wa_getNI (C := RX6) (T := TX6) (N := 7) (ci := 5) (k := 0) dX5_frontBy_41 rfl (Nat.le_of_ble_eq_true rfl) in_X6 q808 q_same_own (g_I_mono F fun x11 F => ?_)
    refine wa_if_eq (tgt := 127) dX5_frontBy_44 rfl (fun z => ?_) (fun z => ?_)
    · have F := F.1 z
      exact F
    · have F := F.2 z
      refine wa_aload_n (o := (some t)) dX5_frontBy_47 rfl 0 rfl ?_
      refine wa_iload (x := v4) dX5_frontBy_48 4 rfl ?_
      refine wa_iload_n (x := v1) dX5_frontBy_50 rfl 1 rfl ?_
      refine wa_callV (M' := m_X5_pageIn) (C := RX5) (o := (some t)) (As := [.int v4, .int v1]) (st := []) dX5_frontBy_51 ⟨Nat.le_of_ble_eq_true rfl, Nat.le_of_ble_eq_true rfl, nk_X5_pageIn⟩ q918 q920 qs17 q81 q921 rfl rfl (Nat.zero_le 8) rfl F.1 F.2 (wk_I fun x13 h12 F => ?_)
      refine ws_istore (lv' := [(5, .int x13), (0, va_rf (some t)), (1, .int v1), (2, .int v2), (3, .int v3), (4, .int v4)]) dX5_frontBy_54 (Nat.le_of_ble_eq_true rfl) (q_cr (q_ci (q_ci (q_ci (q_ci q_cn))))) rfl ?_
      refine wa_iload (x := x13) dX5_frontBy_56 0 rfl ?_
      refine wa_bipush (v := 99) dX5_frontBy_58 rfl ?_
      refine wa_icmp_le (tgt := 67) dX5_frontBy_60 rfl (fun z => ?_) (fun z => ?_)
      · have F := F.1 z
        refine wa_iload (x := x13) dX5_frontBy_67 0 rfl ?_
        refine wa_bipush (v := 9) dX5_frontBy_69 rfl ?_
        refine wa_icmp_le (tgt := 78) dX5_frontBy_71 rfl (fun z => ?_) (fun z => ?_)
        · have F := F.1 z
          refine wa_iconst (v := 1) dX5_frontBy_78 rfl ?_
          exact wa_sub [1, 2, 3, 4, 5] rfl F
        · have F := F.2 z
          refine wa_iconst (v := 2) dX5_frontBy_74 rfl ?_
          refine wa_goto (tgt := 79) dX5_frontBy_75 rfl ?_
          exact wa_sub [1, 2, 3, 4, 5] rfl F
      · have F := F.2 z
        refine wa_iconst (v := 3) dX5_frontBy_63 rfl ?_
        refine wa_goto (tgt := 79) dX5_frontBy_64 rfl ?_
        exact wa_sub [1, 2, 3, 4, 5] rfl F
theorem f_X5_frontBy_127 {D : qD} {Q : Option Value → qH → Prop} {X : String → qH → Prop} (t : Nat) (v1 : Int32) (v2 : Int32) (v3 : Int32) (v4 : Int32) (h : qH) (F : L_X5_frontBy_13 D Q X t v1 v2 v3 (v4 + 1) h) : L_X5_frontBy_127 D Q X t v1 v2 v3 v4 h := by
  show WA D m_X5_frontBy Q X 127 [(0, va_rf (some t)), (1, .int v1), (2, .int v2), (3, .int v3), (4, .int v4)] [] h
  refine ws_iinc (j := 4) (v := (v4 + 1)) (lv' := [(4, .int (v4 + 1)), (0, va_rf (some t)), (1, .int v1), (2, .int v2), (3, .int v3)]) dX5_frontBy_127 rfl rfl (Nat.le_of_ble_eq_true rfl) (q_cr (q_ci (q_ci (q_ci (q_ci q_cn))))) rfl ?_
  refine wa_goto (tgt := 13) dX5_frontBy_130 rfl ?_
  exact wa_sub [1, 2, 3, 4, 0] rfl F
theorem f_X5_frontBy_79 {D : qD} {Q : Option Value → qH → Prop} {X : String → qH → Prop} (t : Nat) (v1 : Int32) (v2 : Int32) (v3 : Int32) (v4 : Int32) (s0 : Int32) (h : qH) (F : g_R D h (some t) 4 9 (fun r1 => g_I D h r1 0 4 (fun x2 => (((v3 + s0) ≤ x2 → L_X5_frontBy_101 D Q X t v1 v3 v4 s0 0 v2 h) ∧ (¬ (v3 + s0) ≤ x2 → L_X5_frontBy_101 D Q X t v1 v3 v4 s0 1 v2 h))))) : L_X5_frontBy_79 D Q X t v1 v2 v3 v4 s0 h := by
  show WA D m_X5_frontBy Q X 79 [(0, va_rf (some t)), (1, .int v1), (2, .int v2), (3, .int v3), (4, .int v4)] [.int s0] h
  refine ws_istore (lv' := [(6, .int s0), (0, va_rf (some t)), (1, .int v1), (2, .int v2), (3, .int v3), (4, .int v4)]) dX5_frontBy_79 (Nat.le_of_ble_eq_true rfl) (q_cr (q_ci (q_ci (q_ci (q_ci q_cn))))) rfl ?_
  refine wa_iload_n (x := v2) dX5_frontBy_81 rfl 3 rfl ?_
  refine wa_iload_n (x := v3) dX5_frontBy_82 rfl 4 rfl ?_
  refine wa_iload (x := s0) dX5_frontBy_83 0 rfl ?_
  refine wa_iadd dX5_frontBy_85 ?_
  refine wa_aload_n (o := (some t)) dX5_frontBy_86 rfl 1 rfl ?_
  refine wa_getR (C := RX5) (T := TX5) (N := 10) (ci := 4) (k := 9) dX5_frontBy_87 rfl (Nat.le_of_ble_eq_true rfl) in_X5 q935 q_same_own (g_R_mono F fun r1 F => ?_)
  refine wa_getNI (C := RX1) (T := TX1) (N := 11) (ci := 0) (k := 4) dX5_frontBy_90 rfl (Nat.le_of_ble_eq_true rfl) in_X1 q156 q_same_own (g_I_mono F fun x2 F => ?_)
  refine wa_icmp_le (tgt := 100) dX5_frontBy_93 rfl (fun z => ?_) (fun z => ?_)
  · have F := F.1 z
    refine wa_iconst (v := 0) dX5_frontBy_100 rfl ?_
    exact wa_sub [1, 2, 4, 5, 0] rfl F
  · have F := F.2 z
    refine wa_iconst (v := 1) dX5_frontBy_96 rfl ?_
    refine wa_goto (tgt := 101) dX5_frontBy_97 rfl ?_
    exact wa_sub [1, 2, 4, 5, 0] rfl F
theorem f_X5_frontBy_101 {D : qD} {Q : Option Value → qH → Prop} {X : String → qH → Prop} (t : Nat) (v1 : Int32) (v3 : Int32) (v4 : Int32) (v6 : Int32) (s0 : Int32) (s1 : Int32) (h : qH) (F : g_R D h (some t) 4 9 (fun r1 => g_I D h r1 0 4 (fun x2 => (((v3 + v6) ≤ x2 → L_X5_frontBy_126 D Q X t v1 (s1 + s0) v4 (v3 + v6) h) ∧ (¬ (v3 + v6) ≤ x2 → L_X5_frontBy_126 D Q X t v1 (s1 + s0) v4 v6 h))))) : L_X5_frontBy_101 D Q X t v1 v3 v4 v6 s0 s1 h := by
  show WA D m_X5_frontBy Q X 101 [(0, va_rf (some t)), (1, .int v1), (3, .int v3), (4, .int v4), (6, .int v6)] [.int s0, .int s1] h
  refine wa_iadd dX5_frontBy_101 ?_
  refine ws_istore_n (lv' := [(2, .int (s1 + s0)), (0, va_rf (some t)), (1, .int v1), (3, .int v3), (4, .int v4), (6, .int v6)]) dX5_frontBy_102 rfl (Nat.le_of_ble_eq_true rfl) (q_cr (q_ci (q_ci (q_ci (q_ci q_cn))))) rfl ?_
  refine wa_iload_n (x := v3) dX5_frontBy_103 rfl 3 rfl ?_
  refine wa_iload (x := v6) dX5_frontBy_104 5 rfl ?_
  refine wa_iadd dX5_frontBy_106 ?_
  refine wa_aload_n (o := (some t)) dX5_frontBy_107 rfl 1 rfl ?_
  refine wa_getR (C := RX5) (T := TX5) (N := 10) (ci := 4) (k := 9) dX5_frontBy_108 rfl (Nat.le_of_ble_eq_true rfl) in_X5 q935 q_same_own (g_R_mono F fun r1 F => ?_)
  refine wa_getNI (C := RX1) (T := TX1) (N := 11) (ci := 0) (k := 4) dX5_frontBy_111 rfl (Nat.le_of_ble_eq_true rfl) in_X1 q156 q_same_own (g_I_mono F fun x2 F => ?_)
  refine wa_icmp_le (tgt := 122) dX5_frontBy_114 rfl (fun z => ?_) (fun z => ?_)
  · have F := F.1 z
    refine wa_iload_n (x := v3) dX5_frontBy_122 rfl 3 rfl ?_
    refine wa_iload (x := v6) dX5_frontBy_123 5 rfl ?_
    refine wa_iadd dX5_frontBy_125 ?_
    exact wa_sub [1, 2, 0, 4] rfl F
  · have F := F.2 z
    refine wa_iload (x := v6) dX5_frontBy_117 5 rfl ?_
    refine wa_goto (tgt := 126) dX5_frontBy_119 rfl ?_
    exact wa_sub [1, 2, 0, 4] rfl F
theorem f_X5_frontBy_126 {D : qD} {Q : Option Value → qH → Prop} {X : String → qH → Prop} (t : Nat) (v1 : Int32) (v2 : Int32) (v4 : Int32) (s0 : Int32) (h : qH) (F : L_X5_frontBy_127 D Q X t v1 v2 s0 v4 h) : L_X5_frontBy_126 D Q X t v1 v2 v4 s0 h := by
  show WA D m_X5_frontBy Q X 126 [(0, va_rf (some t)), (1, .int v1), (2, .int v2), (4, .int v4)] [.int s0] h
  refine ws_istore_n (lv' := [(3, .int s0), (0, va_rf (some t)), (1, .int v1), (2, .int v2), (4, .int v4)]) dX5_frontBy_126 rfl (Nat.le_of_ble_eq_true rfl) (q_cr (q_ci (q_ci (q_ci q_cn)))) rfl ?_
  exact wa_sub [1, 2, 3, 0, 4] rfl F
theorem f_X5_page {D : qD} {Q : Option Value → qH → Prop} {X : String → qH → Prop} (t : Nat) (p0 : Int32) (h : qH) (F : g_I D h (some t) 4 8 (fun x1 => ((¬ x1 = (-1) → g_I D h (some t) 4 8 (fun x2 => (recv D h (some t) RX5 ∧ c_I D m_X5_pageIn [va_rf (some t), .int p0, .int x2] h X (fun x4 h3 => Q (some (.int x4)) h3)))) ∧ (x1 = (-1) → Q (some (.int (-1))) h)))) : MW D m_X5_page [va_rf (some t), .int p0] h Q X := by
  refine mw_of pl_X5_page rfl _ (Nat.le_of_ble_eq_true rfl) rfl ?_
  refine (show WA D m_X5_page Q X 0 [(0, va_rf (some t)), (1, .int p0)] [] h from ?_)
  refine wa_aload_n (o := (some t)) dX5_page_0 rfl 0 rfl ?_
  refine wa_getI (C := RX5) (T := TX5) (N := 10) (ci := 4) (k := 8) dX5_page_1 rfl (Nat.le_of_ble_eq_true rfl) in_X5 q933 q_same_own (g_I_mono F fun x1 F => ?_)
  refine wa_iconst (v := -1) dX5_page_4 rfl ?_
  refine wa_icmp_ne (tgt := 12) dX5_page_5 rfl (fun z => ?_) (fun z => ?_)
  · have F := F.1 z
    refine wa_aload_n (o := (some t)) dX5_page_12 rfl 0 rfl ?_
    refine wa_iload_n (x := p0) dX5_page_13 rfl 1 rfl ?_
    refine wa_aload_n (o := (some t)) dX5_page_14 rfl 0 rfl ?_
    refine wa_getI (C := RX5) (T := TX5) (N := 10) (ci := 4) (k := 8) dX5_page_15 rfl (Nat.le_of_ble_eq_true rfl) in_X5 q933 q_same_own (g_I_mono F fun x2 F => ?_)
    refine wa_callV (M' := m_X5_pageIn) (C := RX5) (o := (some t)) (As := [.int p0, .int x2]) (st := []) dX5_page_18 ⟨Nat.le_of_ble_eq_true rfl, Nat.le_of_ble_eq_true rfl, nk_X5_pageIn⟩ q918 q920 qs17 q81 q921 rfl rfl (Nat.zero_le 8) rfl F.1 F.2 (wk_I fun x4 h3 F => ?_)
    exact wa_iret rfl dX5_page_21 F
  · have F := F.2 z
    refine wa_iconst (v := -1) dX5_page_8 rfl ?_
    refine wa_goto (tgt := 21) dX5_page_9 rfl ?_
    exact wa_iret rfl dX5_page_21 F
def L_X5_rests_4 (D : qD) (Q : Option Value → qH → Prop) (X : String → qH → Prop) (t : Nat) (v1 : Int32) (v2 : Int32) (h : qH) : Prop := WA D m_X5_rests Q X 4 [(0, va_rf (some t)), (1, .int v1), (2, .int v2)] [] h
theorem f_X5_rests {D : qD} {Q : Option Value → qH → Prop} {X : String → qH → Prop} (t : Nat) (h : qH) (F : L_X5_rests_4 D Q X t 0 0 h) : MW D m_X5_rests [va_rf (some t)] h Q X := by
  refine mw_of pl_X5_rests rfl _ (Nat.le_of_ble_eq_true rfl) rfl ?_
  refine (show WA D m_X5_rests Q X 0 [(0, va_rf (some t))] [] h from ?_)
  refine wa_iconst (v := 0) dX5_rests_0 rfl ?_
  refine ws_istore_n (lv' := [(1, .int 0), (0, va_rf (some t))]) dX5_rests_1 rfl (Nat.le_of_ble_eq_true rfl) (q_cr q_cn) rfl ?_
  refine wa_iconst (v := 0) dX5_rests_2 rfl ?_
  refine ws_istore_n (lv' := [(2, .int 0), (1, .int 0), (0, va_rf (some t))]) dX5_rests_3 rfl (Nat.le_of_ble_eq_true rfl) (q_ci (q_cr q_cn)) rfl ?_
  exact wa_sub [2, 1, 0] rfl F
theorem f_X5_rests_4 {D : qD} {Q : Option Value → qH → Prop} {X : String → qH → Prop} (t : Nat) (v1 : Int32) (v2 : Int32) (h : qH) (F : ((10 ≤ v2 → Q (some (.int (-1))) h) ∧ (¬ 10 ≤ v2 → (recv D h (some t) RX5 ∧ c_I D m_X5_frontBy [va_rf (some t), .int v1] h X (fun x2 h1 => ((¬ x2 = v1 → L_X5_rests_4 D Q X t x2 (v2 + 1) h1) ∧ (x2 = v1 → Q (some (.int v1)) h1))))))) : L_X5_rests_4 D Q X t v1 v2 h := by
  show WA D m_X5_rests Q X 4 [(0, va_rf (some t)), (1, .int v1), (2, .int v2)] [] h
  refine wa_iload_n (x := v2) dX5_rests_4 rfl 2 rfl ?_
  refine wa_bipush (v := 10) dX5_rests_5 rfl ?_
  refine wa_icmp_ge (tgt := 31) dX5_rests_7 rfl (fun z => ?_) (fun z => ?_)
  · have F := F.1 z
    refine wa_iconst (v := -1) dX5_rests_31 rfl ?_
    exact wa_iret rfl dX5_rests_32 F
  · have F := F.2 z
    refine wa_aload_n (o := (some t)) dX5_rests_10 rfl 0 rfl ?_
    refine wa_iload_n (x := v1) dX5_rests_11 rfl 1 rfl ?_
    refine wa_callV (M' := m_X5_frontBy) (C := RX5) (o := (some t)) (As := [.int v1]) (st := []) dX5_rests_12 ⟨Nat.le_of_ble_eq_true rfl, Nat.le_of_ble_eq_true rfl, nk_X5_frontBy⟩ q914 q916 qs16 q81 q917 rfl rfl (Nat.zero_le 8) rfl F.1 F.2 (wk_I fun x2 h1 F => ?_)
    refine ws_istore_n (lv' := [(3, .int x2), (0, va_rf (some t)), (1, .int v1), (2, .int v2)]) dX5_rests_15 rfl (Nat.le_of_ble_eq_true rfl) (q_cr (q_ci (q_ci q_cn))) rfl ?_
    refine wa_iload_n (x := x2) dX5_rests_16 rfl 0 rfl ?_
    refine wa_iload_n (x := v1) dX5_rests_17 rfl 2 rfl ?_
    refine wa_icmp_ne (tgt := 23) dX5_rests_18 rfl (fun z => ?_) (fun z => ?_)
    · have F := F.1 z
      refine wa_iload_n (x := x2) dX5_rests_23 rfl 0 rfl ?_
      refine ws_istore_n (lv' := [(1, .int x2), (3, .int x2), (0, va_rf (some t)), (2, .int v2)]) dX5_rests_24 rfl (Nat.le_of_ble_eq_true rfl) (q_ci (q_cr (q_ci (q_ci q_cn)))) rfl ?_
      refine ws_iinc (j := 3) (v := (v2 + 1)) (lv' := [(2, .int (v2 + 1)), (1, .int x2), (3, .int x2), (0, va_rf (some t))]) dX5_rests_25 rfl rfl (Nat.le_of_ble_eq_true rfl) (q_ci (q_ci (q_cr (q_ci q_cn)))) rfl ?_
      refine wa_goto (tgt := 4) dX5_rests_28 rfl ?_
      exact wa_sub [3, 1, 0] rfl F
    · have F := F.2 z
      refine wa_iload_n (x := v1) dX5_rests_21 rfl 2 rfl ?_
      exact wa_iret rfl dX5_rests_22 F
def L_X5_hangs_4 (D : qD) (Q : Option Value → qH → Prop) (X : String → qH → Prop) (t : Nat) (v1 : Int32) (v2 : Int32) (h : qH) : Prop := WA D m_X5_hangs Q X 4 [(0, va_rf (some t)), (1, .int v1), (2, .int v2)] [] h
def L_X5_hangs_69 (D : qD) (Q : Option Value → qH → Prop) (X : String → qH → Prop) (t : Nat) (v2 : Int32) (v3 : Option Nat) (s0 : Int32) (h : qH) : Prop := WA D m_X5_hangs Q X 69 [(0, va_rf (some t)), (2, .int v2), (3, va_rf v3)] [.int s0] h
def L_X5_hangs_156 (D : qD) (Q : Option Value → qH → Prop) (X : String → qH → Prop) (t : Nat) (v1 : Int32) (v2 : Int32) (h : qH) : Prop := WA D m_X5_hangs Q X 156 [(0, va_rf (some t)), (1, .int v1), (2, .int v2)] [] h
def L_X5_hangs_118 (D : qD) (Q : Option Value → qH → Prop) (X : String → qH → Prop) (t : Nat) (v1 : Int32) (v2 : Int32) (v3 : Option Nat) (s0 : Int32) (s1 : Int32) (s2 : Option Nat) (h : qH) : Prop := WA D m_X5_hangs Q X 118 [(0, va_rf (some t)), (1, .int v1), (2, .int v2), (3, va_rf v3)] [.int s0, .int s1, va_rf s2] h
theorem f_X5_hangs {D : qD} {Q : Option Value → qH → Prop} {X : String → qH → Prop} (t : Nat) (h : qH) (F : L_X5_hangs_4 D Q X t 0 0 h) : MW D m_X5_hangs [va_rf (some t)] h Q X := by
  refine mw_of pl_X5_hangs rfl _ (Nat.le_of_ble_eq_true rfl) rfl ?_
  refine (show WA D m_X5_hangs Q X 0 [(0, va_rf (some t))] [] h from ?_)
  refine wa_iconst (v := 0) dX5_hangs_0 rfl ?_
  refine ws_istore_n (lv' := [(1, .int 0), (0, va_rf (some t))]) dX5_hangs_1 rfl (Nat.le_of_ble_eq_true rfl) (q_cr q_cn) rfl ?_
  refine wa_iconst (v := 0) dX5_hangs_2 rfl ?_
  refine ws_istore_n (lv' := [(2, .int 0), (1, .int 0), (0, va_rf (some t))]) dX5_hangs_3 rfl (Nat.le_of_ble_eq_true rfl) (q_ci (q_cr q_cn)) rfl ?_
  exact wa_sub [2, 1, 0] rfl F
theorem f_X5_hangs_4 {D : qD} {Q : Option Value → qH → Prop} {X : String → qH → Prop} (t : Nat) (v1 : Int32) (v2 : Int32) (h : qH) (F : g_R D h (some t) 4 9 (fun r1 => g_R D h r1 0 0 (fun r2 => (recv D h r2 RJ2 ∧ c_I D m_J2_size [va_rf r2] h X (fun x4 h3 => ((x4 ≤ v2 → Q none h3) ∧ (¬ x4 ≤ v2 → g_R D h3 (some t) 4 1 (fun r5 => (recv D h3 r5 RJ2 ∧ c_I D m_J2_isEmpty [va_rf r5] h3 X (fun x7 h6 => ((¬ x7 = 0 → Q none h6) ∧ (x7 = 0 → g_R D h6 (some t) 4 9 (fun r8 => g_R D h6 r8 0 0 (fun r9 => (recv D h6 r9 RJ2 ∧ c_R D m_J2_get [va_rf r9, .int v2] h6 X (fun r11 h10 => (q_cast D h10 r11 "Quirefold$Token" ∧ g_R D h10 (some t) 4 2 (fun r12 => a_I D h10 r12 0 v2 (fun x13 => ((¬ x13 = (-1) → g_R D h10 (some t) 4 2 (fun r14 => a_I D h10 r14 0 v2 (fun x15 => L_X5_hangs_69 D Q X t v2 r11 x15 h10))) ∧ (x13 = (-1) → L_X5_hangs_69 D Q X t v2 r11 v1 h10))))))))))))))))))))) : L_X5_hangs_4 D Q X t v1 v2 h := by
  show WA D m_X5_hangs Q X 4 [(0, va_rf (some t)), (1, .int v1), (2, .int v2)] [] h
  refine wa_iload_n (x := v2) dX5_hangs_4 rfl 2 rfl ?_
  refine wa_aload_n (o := (some t)) dX5_hangs_5 rfl 0 rfl ?_
  refine wa_getR (C := RX5) (T := TX5) (N := 10) (ci := 4) (k := 9) dX5_hangs_6 rfl (Nat.le_of_ble_eq_true rfl) in_X5 q935 q_same_own (g_R_mono F fun r1 F => ?_)
  refine wa_getNR (C := RX1) (T := TX1) (N := 11) (ci := 0) (k := 0) dX5_hangs_9 rfl (Nat.le_of_ble_eq_true rfl) in_X1 q148 q_same_own (g_R_mono F fun r2 F => ?_)
  refine wa_callF (M' := m_J2_size) (C := RJ2) (x := y_Lsize) (ci := 6) (o := r2) (As := []) (st := [.int v2]) dX5_hangs_12 rfl rfl fw_J2_size ⟨Nat.le_of_ble_eq_true rfl, Nat.le_of_ble_eq_true rfl⟩ nf_y_Lsize q771 q196 q198 q57 q200 rfl rfl (q_cs_le (q_csi q_cs0) (Nat.le_of_ble_eq_true rfl)) rfl F.1 F.2 (wk_I fun x4 h3 F => ?_)
  refine wa_icmp_ge (tgt := 162) dX5_hangs_17 rfl (fun z => ?_) (fun z => ?_)
  · have F := F.1 z
    exact wa_vret rfl dX5_hangs_162 F
  · have F := F.2 z
    refine wa_aload_n (o := (some t)) dX5_hangs_20 rfl 0 rfl ?_
    refine wa_getR (C := RX5) (T := TX5) (N := 10) (ci := 4) (k := 1) dX5_hangs_21 rfl (Nat.le_of_ble_eq_true rfl) in_X5 q923 q_same_own (g_R_mono F fun r5 F => ?_)
    refine wa_callF (M' := m_J2_isEmpty) (C := RJ2) (x := y_LisEmpty) (ci := 6) (o := r5) (As := []) (st := []) dX5_hangs_24 rfl rfl fw_J2_isEmpty ⟨Nat.le_of_ble_eq_true rfl, Nat.le_of_ble_eq_true rfl⟩ nf_y_LisEmpty q875 q878 q880 q57 q882 rfl rfl (Nat.zero_le 8) rfl F.1 F.2 (wk_I fun x7 h6 F => ?_)
    refine wa_if_ne (tgt := 162) dX5_hangs_29 rfl (fun z => ?_) (fun z => ?_)
    · have F := F.1 z
      exact wa_vret rfl dX5_hangs_162 F
    · have F := F.2 z
      refine wa_aload_n (o := (some t)) dX5_hangs_32 rfl 0 rfl ?_
      refine wa_getR (C := RX5) (T := TX5) (N := 10) (ci := 4) (k := 9) dX5_hangs_33 rfl (Nat.le_of_ble_eq_true rfl) in_X5 q935 q_same_own (g_R_mono F fun r8 F => ?_)
      refine wa_getNR (C := RX1) (T := TX1) (N := 11) (ci := 0) (k := 0) dX5_hangs_36 rfl (Nat.le_of_ble_eq_true rfl) in_X1 q148 q_same_own (g_R_mono F fun r9 F => ?_)
      refine wa_iload_n (x := v2) dX5_hangs_39 rfl 2 rfl ?_
      refine wa_callF (M' := m_J2_get) (C := RJ2) (x := y_Lget) (ci := 6) (o := r9) (As := [.int v2]) (st := []) dX5_hangs_40 rfl rfl fw_J2_get ⟨Nat.le_of_ble_eq_true rfl, Nat.le_of_ble_eq_true rfl⟩ nf_y_Lget q773 q776 q778 q57 q780 rfl rfl (Nat.zero_le 8) rfl F.1 F.2 (wk_R fun r11 h10 F => ?_)
      refine wa_cast (C := "Quirefold$Token") dX5_hangs_45 q785 F.1 ?_
      have F := F.2
      refine ws_astore_n (lv' := [(3, va_rf r11), (0, va_rf (some t)), (1, .int v1), (2, .int v2)]) dX5_hangs_48 rfl (Nat.le_of_ble_eq_true rfl) (q_cr (q_ci (q_ci q_cn))) rfl ?_
      refine wa_aload_n (o := (some t)) dX5_hangs_49 rfl 1 rfl ?_
      refine wa_getR (C := RX5) (T := TX5) (N := 10) (ci := 4) (k := 2) dX5_hangs_50 rfl (Nat.le_of_ble_eq_true rfl) in_X5 q925 q_same_own (g_R_mono F fun r12 F => ?_)
      refine wa_iload_n (x := v2) dX5_hangs_53 rfl 3 rfl ?_
      refine wa_iald dX5_hangs_54 (a_I_mono F fun x13 F => ?_)
      refine wa_iconst (v := -1) dX5_hangs_55 rfl ?_
      refine wa_icmp_ne (tgt := 63) dX5_hangs_56 rfl (fun z => ?_) (fun z => ?_)
      · have F := F.1 z
        refine wa_aload_n (o := (some t)) dX5_hangs_63 rfl 1 rfl ?_
        refine wa_getR (C := RX5) (T := TX5) (N := 10) (ci := 4) (k := 2) dX5_hangs_64 rfl (Nat.le_of_ble_eq_true rfl) in_X5 q925 q_same_own (g_R_mono F fun r14 F => ?_)
        refine wa_iload_n (x := v2) dX5_hangs_67 rfl 3 rfl ?_
        refine wa_iald dX5_hangs_68 (a_I_mono F fun x15 F => ?_)
        exact wa_sub [1, 3, 0] rfl F
      · have F := F.2 z
        refine wa_iload_n (x := v1) dX5_hangs_59 rfl 2 rfl ?_
        refine wa_goto (tgt := 69) dX5_hangs_60 rfl ?_
        exact wa_sub [1, 3, 0] rfl F
theorem f_X5_hangs_69 {D : qD} {Q : Option Value → qH → Prop} {X : String → qH → Prop} (t : Nat) (v2 : Int32) (v3 : Option Nat) (s0 : Int32) (h : qH) (F : g_I D h v3 3 0 (fun x1 => ((x1 < 4 → L_X5_hangs_156 D Q X t s0 v2 h) ∧ (¬ x1 < 4 → g_R D h (some t) 4 2 (fun r2 => s_I h r2 0 v2 s0 (fun h3 => g_R D h3 (some t) 4 1 (fun r4 => (recv D h3 r4 RJ2 ∧ c_R D m_J2_get [va_rf r4, .int s0] h3 X (fun r6 h5 => (q_cast D h5 r6 "Quirefold$Line" ∧ g_I D h5 r6 5 4 (fun x7 => g_I D h5 v3 3 0 (fun x8 => ((¬ x8 = 5 → L_X5_hangs_118 D Q X t s0 v2 v3 0 x7 r6 h5) ∧ (x8 = 5 → g_I D h5 v3 3 1 (fun x9 => L_X5_hangs_118 D Q X t s0 v2 v3 x9 x7 r6 h5))))))))))))))) : L_X5_hangs_69 D Q X t v2 v3 s0 h := by
  show WA D m_X5_hangs Q X 69 [(0, va_rf (some t)), (2, .int v2), (3, va_rf v3)] [.int s0] h
  refine ws_istore_n (lv' := [(1, .int s0), (0, va_rf (some t)), (2, .int v2), (3, va_rf v3)]) dX5_hangs_69 rfl (Nat.le_of_ble_eq_true rfl) (q_cr (q_ci (q_cr q_cn))) rfl ?_
  refine wa_aload_n (o := v3) dX5_hangs_70 rfl 3 rfl ?_
  refine wa_getNI (C := RX4) (T := TX4) (N := 3) (ci := 3) (k := 0) dX5_hangs_71 rfl (Nat.le_of_ble_eq_true rfl) in_X4 q593 q_same_own (g_I_mono F fun x1 F => ?_)
  refine wa_iconst (v := 4) dX5_hangs_74 rfl ?_
  refine wa_icmp_lt (tgt := 156) dX5_hangs_75 rfl (fun z => ?_) (fun z => ?_)
  · have F := F.1 z
    exact wa_sub [1, 0, 2] rfl F
  · have F := F.2 z
    refine wa_aload_n (o := (some t)) dX5_hangs_78 rfl 1 rfl ?_
    refine wa_getR (C := RX5) (T := TX5) (N := 10) (ci := 4) (k := 2) dX5_hangs_79 rfl (Nat.le_of_ble_eq_true rfl) in_X5 q925 q_same_own (g_R_mono F fun r2 F => ?_)
    refine wa_iload_n (x := v2) dX5_hangs_82 rfl 2 rfl ?_
    refine wa_iload_n (x := s0) dX5_hangs_83 rfl 0 rfl ?_
    refine wa_iast dX5_hangs_84 (s_I_mono F fun h3 F => ?_)
    refine wa_aload_n (o := (some t)) dX5_hangs_85 rfl 1 rfl ?_
    refine wa_getR (C := RX5) (T := TX5) (N := 10) (ci := 4) (k := 1) dX5_hangs_86 rfl (Nat.le_of_ble_eq_true rfl) in_X5 q923 q_same_own (g_R_mono F fun r4 F => ?_)
    refine wa_iload_n (x := s0) dX5_hangs_89 rfl 0 rfl ?_
    refine wa_callF (M' := m_J2_get) (C := RJ2) (x := y_Lget) (ci := 6) (o := r4) (As := [.int s0]) (st := []) dX5_hangs_90 rfl rfl fw_J2_get ⟨Nat.le_of_ble_eq_true rfl, Nat.le_of_ble_eq_true rfl⟩ nf_y_Lget q773 q776 q778 q57 q780 rfl rfl (Nat.zero_le 8) rfl F.1 F.2 (wk_R fun r6 h5 F => ?_)
    refine wa_cast (C := "Quirefold$Line") dX5_hangs_95 q799 F.1 ?_
    have F := F.2
    refine wa_dup dX5_hangs_98 (q_cat _) ?_
    refine wa_getNI (C := RX6) (T := TX6) (N := 7) (ci := 5) (k := 4) dX5_hangs_99 rfl (Nat.le_of_ble_eq_true rfl) in_X6 q817 q_same_own (g_I_mono F fun x7 F => ?_)
    refine wa_aload_n (o := v3) dX5_hangs_102 rfl 3 rfl ?_
    refine wa_getNI (C := RX4) (T := TX4) (N := 3) (ci := 3) (k := 0) dX5_hangs_103 rfl (Nat.le_of_ble_eq_true rfl) in_X4 q593 q_same_own (g_I_mono F fun x8 F => ?_)
    refine wa_iconst (v := 5) dX5_hangs_106 rfl ?_
    refine wa_icmp_ne (tgt := 117) dX5_hangs_107 rfl (fun z => ?_) (fun z => ?_)
    · have F := F.1 z
      refine wa_iconst (v := 0) dX5_hangs_117 rfl ?_
      exact wa_sub [1, 0, 2, 3] rfl F
    · have F := F.2 z
      refine wa_aload_n (o := v3) dX5_hangs_110 rfl 3 rfl ?_
      refine wa_getNI (C := RX4) (T := TX4) (N := 3) (ci := 3) (k := 1) dX5_hangs_111 rfl (Nat.le_of_ble_eq_true rfl) in_X4 q596 q_same_own (g_I_mono F fun x9 F => ?_)
      refine wa_goto (tgt := 118) dX5_hangs_114 rfl ?_
      exact wa_sub [1, 0, 2, 3] rfl F
theorem f_X5_hangs_156 {D : qD} {Q : Option Value → qH → Prop} {X : String → qH → Prop} (t : Nat) (v1 : Int32) (v2 : Int32) (h : qH) (F : L_X5_hangs_4 D Q X t v1 (v2 + 1) h) : L_X5_hangs_156 D Q X t v1 v2 h := by
  show WA D m_X5_hangs Q X 156 [(0, va_rf (some t)), (1, .int v1), (2, .int v2)] [] h
  refine ws_iinc (j := 2) (v := (v2 + 1)) (lv' := [(2, .int (v2 + 1)), (0, va_rf (some t)), (1, .int v1)]) dX5_hangs_156 rfl rfl (Nat.le_of_ble_eq_true rfl) (q_cr (q_ci (q_ci q_cn))) rfl ?_
  refine wa_goto (tgt := 4) dX5_hangs_159 rfl ?_
  exact wa_sub [1, 2, 0] rfl F
theorem f_X5_hangs_118 {D : qD} {Q : Option Value → qH → Prop} {X : String → qH → Prop} (t : Nat) (v1 : Int32) (v2 : Int32) (v3 : Option Nat) (s0 : Int32) (s1 : Int32) (s2 : Option Nat) (h : qH) (F : p_F h s2 5 4 (.int (s1 + s0)) (fun h1 => g_I D h1 v3 3 0 (fun x2 => ((¬ x2 = 4 → L_X5_hangs_156 D Q X t v1 v2 h1) ∧ (x2 = 4 → g_R D h1 (some t) 4 1 (fun r3 => (recv D h1 r3 RJ2 ∧ c_R D m_J2_get [va_rf r3, .int v1] h1 X (fun r5 h4 => (q_cast D h4 r5 "Quirefold$Line" ∧ g_R D h4 r5 5 2 (fun r6 => c_R D m_J18_valueOf [.int v2] h4 X (fun r8 h7 => (recv D h7 r6 RJ2 ∧ c_I D m_J2_add_2 [va_rf r6, va_rf r8] h7 X (fun x10 h9 => L_X5_hangs_156 D Q X t v1 v2 h9))))))))))))) : L_X5_hangs_118 D Q X t v1 v2 v3 s0 s1 s2 h := by
  show WA D m_X5_hangs Q X 118 [(0, va_rf (some t)), (1, .int v1), (2, .int v2), (3, va_rf v3)] [.int s0, .int s1, va_rf s2] h
  refine wa_iadd dX5_hangs_118 ?_
  refine wa_putN (C := RX6) (T := TX6) (N := 7) (ci := 5) (k := 4) tyX6 dX5_hangs_119 rfl (Nat.le_of_ble_eq_true rfl) in_X6 tyX6_ok nmX6 q817 q_same_own rfl rfl rfl (p_F_mono F fun h1 F => ?_)
  refine wa_aload_n (o := v3) dX5_hangs_122 rfl 3 rfl ?_
  refine wa_getNI (C := RX4) (T := TX4) (N := 3) (ci := 3) (k := 0) dX5_hangs_123 rfl (Nat.le_of_ble_eq_true rfl) in_X4 q593 q_same_own (g_I_mono F fun x2 F => ?_)
  refine wa_iconst (v := 4) dX5_hangs_126 rfl ?_
  refine wa_icmp_ne (tgt := 156) dX5_hangs_127 rfl (fun z => ?_) (fun z => ?_)
  · have F := F.1 z
    exact wa_sub [0, 1, 2] rfl F
  · have F := F.2 z
    refine wa_aload_n (o := (some t)) dX5_hangs_130 rfl 0 rfl ?_
    refine wa_getR (C := RX5) (T := TX5) (N := 10) (ci := 4) (k := 1) dX5_hangs_131 rfl (Nat.le_of_ble_eq_true rfl) in_X5 q923 q_same_own (g_R_mono F fun r3 F => ?_)
    refine wa_iload_n (x := v1) dX5_hangs_134 rfl 1 rfl ?_
    refine wa_callF (M' := m_J2_get) (C := RJ2) (x := y_Lget) (ci := 6) (o := r3) (As := [.int v1]) (st := []) dX5_hangs_135 rfl rfl fw_J2_get ⟨Nat.le_of_ble_eq_true rfl, Nat.le_of_ble_eq_true rfl⟩ nf_y_Lget q773 q776 q778 q57 q780 rfl rfl (Nat.zero_le 8) rfl F.1 F.2 (wk_R fun r5 h4 F => ?_)
    refine wa_cast (C := "Quirefold$Line") dX5_hangs_140 q799 F.1 ?_
    have F := F.2
    refine wa_getNR (C := RX6) (T := TX6) (N := 7) (ci := 5) (k := 2) dX5_hangs_143 rfl (Nat.le_of_ble_eq_true rfl) in_X6 q814 q_same_own (g_R_mono F fun r6 F => ?_)
    refine wa_iload_n (x := v2) dX5_hangs_146 rfl 2 rfl ?_
    refine wa_callS (M' := m_J18_valueOf) (As := [.int v2]) (st := [va_rf r6]) dX5_hangs_147 ⟨Nat.le_of_ble_eq_true rfl, Nat.le_of_ble_eq_true rfl, nk_J18_valueOf⟩ q850 q851 q76 q852 rfl rfl (q_cs_le (q_csr q_cs0) (Nat.le_of_ble_eq_true rfl)) rfl F (wk_R fun r8 h7 F => ?_)
    refine wa_callF (M' := m_J2_add_2) (C := RJ2) (x := y_Ladd) (ci := 6) (o := r6) (As := [va_rf r8]) (st := []) dX5_hangs_150 rfl rfl fw_J2_add_2 ⟨Nat.le_of_ble_eq_true rfl, Nat.le_of_ble_eq_true rfl⟩ nf_y_Ladd q838 q841 q843 q57 q845 rfl rfl (Nat.zero_le 8) rfl F.1 F.2 (wk_I fun x10 h9 F => ?_)
    refine wa_pop dX5_hangs_155 rfl ?_
    exact wa_sub [0, 1, 2] rfl F
def L_X5_fills_2 (D : qD) (Q : Option Value → qH → Prop) (X : String → qH → Prop) (t : Nat) (v1 : Int32) (h : qH) : Prop := WA D m_X5_fills Q X 2 [(0, va_rf (some t)), (1, .int v1)] [] h
def L_X5_fills_226 (D : qD) (Q : Option Value → qH → Prop) (X : String → qH → Prop) (t : Nat) (h : qH) : Prop := WA D m_X5_fills Q X 226 [(0, va_rf (some t))] [] h
def L_X5_fills_40 (D : qD) (Q : Option Value → qH → Prop) (X : String → qH → Prop) (t : Nat) (v1 : Int32) (v2 : Option Nat) (h : qH) : Prop := WA D m_X5_fills Q X 40 [(0, va_rf (some t)), (1, .int v1), (2, va_rf v2)] [] h
def L_X5_fills_78 (D : qD) (Q : Option Value → qH → Prop) (X : String → qH → Prop) (t : Nat) (v1 : Int32) (v2 : Option Nat) (h : qH) : Prop := WA D m_X5_fills Q X 78 [(0, va_rf (some t)), (1, .int v1), (2, va_rf v2)] [] h
def L_X5_fills_112 (D : qD) (Q : Option Value → qH → Prop) (X : String → qH → Prop) (t : Nat) (v1 : Int32) (v2 : Option Nat) (v3 : Int32) (h : qH) : Prop := WA D m_X5_fills Q X 112 [(0, va_rf (some t)), (1, .int v1), (2, va_rf v2), (3, .int v3)] [] h
def L_X5_fills_199 (D : qD) (Q : Option Value → qH → Prop) (X : String → qH → Prop) (t : Nat) (v1 : Int32) (v2 : Option Nat) (v3 : Int32) (v4 : Int32) (h : qH) : Prop := WA D m_X5_fills Q X 199 [(0, va_rf (some t)), (1, .int v1), (2, va_rf v2), (3, .int v3), (4, .int v4)] [] h
def L_X5_fills_214 (D : qD) (Q : Option Value → qH → Prop) (X : String → qH → Prop) (t : Nat) (v1 : Int32) (v2 : Option Nat) (v3 : Int32) (h : qH) : Prop := WA D m_X5_fills Q X 214 [(0, va_rf (some t)), (1, .int v1), (2, va_rf v2), (3, .int v3)] [] h
theorem f_X5_fills {D : qD} {Q : Option Value → qH → Prop} {X : String → qH → Prop} (t : Nat) (h : qH) (F : L_X5_fills_2 D Q X t 0 h) : MW D m_X5_fills [va_rf (some t)] h Q X := by
  refine mw_of pl_X5_fills rfl _ (Nat.le_of_ble_eq_true rfl) rfl ?_
  refine (show WA D m_X5_fills Q X 0 [(0, va_rf (some t))] [] h from ?_)
  refine wa_iconst (v := 0) dX5_fills_0 rfl ?_
  refine ws_istore_n (lv' := [(1, .int 0), (0, va_rf (some t))]) dX5_fills_1 rfl (Nat.le_of_ble_eq_true rfl) (q_cr q_cn) rfl ?_
  exact wa_sub [1, 0] rfl F
theorem f_X5_fills_2 {D : qD} {Q : Option Value → qH → Prop} {X : String → qH → Prop} (t : Nat) (v1 : Int32) (h : qH) (F : g_R D h (some t) 4 1 (fun r1 => (recv D h r1 RJ2 ∧ c_I D m_J2_size [va_rf r1] h X (fun x3 h2 => ((x3 ≤ v1 → L_X5_fills_226 D Q X t h2) ∧ (¬ x3 ≤ v1 → g_R D h2 (some t) 4 1 (fun r4 => (recv D h2 r4 RJ2 ∧ c_R D m_J2_get [va_rf r4, .int v1] h2 X (fun r6 h5 => (q_cast D h5 r6 "Quirefold$Line" ∧ g_I D h5 (some t) 4 5 (fun x7 => ((¬ x7 = 0 → L_X5_fills_40 D Q X t v1 r6 h5) ∧ (x7 = 0 → (recv D h5 (some t) RX5 ∧ c_V D m_X5_begins [va_rf (some t)] h5 X (fun h8 => L_X5_fills_40 D Q X t v1 r6 h8))))))))))))))) : L_X5_fills_2 D Q X t v1 h := by
  show WA D m_X5_fills Q X 2 [(0, va_rf (some t)), (1, .int v1)] [] h
  refine wa_iload_n (x := v1) dX5_fills_2 rfl 1 rfl ?_
  refine wa_aload_n (o := (some t)) dX5_fills_3 rfl 0 rfl ?_
  refine wa_getR (C := RX5) (T := TX5) (N := 10) (ci := 4) (k := 1) dX5_fills_4 rfl (Nat.le_of_ble_eq_true rfl) in_X5 q923 q_same_own (g_R_mono F fun r1 F => ?_)
  refine wa_callF (M' := m_J2_size) (C := RJ2) (x := y_Lsize) (ci := 6) (o := r1) (As := []) (st := [.int v1]) dX5_fills_7 rfl rfl fw_J2_size ⟨Nat.le_of_ble_eq_true rfl, Nat.le_of_ble_eq_true rfl⟩ nf_y_Lsize q771 q196 q198 q57 q200 rfl rfl (q_cs_le (q_csi q_cs0) (Nat.le_of_ble_eq_true rfl)) rfl F.1 F.2 (wk_I fun x3 h2 F => ?_)
  refine wa_icmp_ge (tgt := 226) dX5_fills_12 rfl (fun z => ?_) (fun z => ?_)
  · have F := F.1 z
    exact wa_sub [0] rfl F
  · have F := F.2 z
    refine wa_aload_n (o := (some t)) dX5_fills_15 rfl 0 rfl ?_
    refine wa_getR (C := RX5) (T := TX5) (N := 10) (ci := 4) (k := 1) dX5_fills_16 rfl (Nat.le_of_ble_eq_true rfl) in_X5 q923 q_same_own (g_R_mono F fun r4 F => ?_)
    refine wa_iload_n (x := v1) dX5_fills_19 rfl 1 rfl ?_
    refine wa_callF (M' := m_J2_get) (C := RJ2) (x := y_Lget) (ci := 6) (o := r4) (As := [.int v1]) (st := []) dX5_fills_20 rfl rfl fw_J2_get ⟨Nat.le_of_ble_eq_true rfl, Nat.le_of_ble_eq_true rfl⟩ nf_y_Lget q773 q776 q778 q57 q780 rfl rfl (Nat.zero_le 8) rfl F.1 F.2 (wk_R fun r6 h5 F => ?_)
    refine wa_cast (C := "Quirefold$Line") dX5_fills_25 q799 F.1 ?_
    have F := F.2
    refine ws_astore_n (lv' := [(2, va_rf r6), (0, va_rf (some t)), (1, .int v1)]) dX5_fills_28 rfl (Nat.le_of_ble_eq_true rfl) (q_cr (q_ci q_cn)) rfl ?_
    refine wa_aload_n (o := (some t)) dX5_fills_29 rfl 1 rfl ?_
    refine wa_getI (C := RX5) (T := TX5) (N := 10) (ci := 4) (k := 5) dX5_fills_30 rfl (Nat.le_of_ble_eq_true rfl) in_X5 q930 q_same_own (g_I_mono F fun x7 F => ?_)
    refine wa_if_ne (tgt := 40) dX5_fills_33 rfl (fun z => ?_) (fun z => ?_)
    · have F := F.1 z
      exact wa_sub [1, 2, 0] rfl F
    · have F := F.2 z
      refine wa_aload_n (o := (some t)) dX5_fills_36 rfl 1 rfl ?_
      refine wa_callV (M' := m_X5_begins) (C := RX5) (o := (some t)) (As := []) (st := []) dX5_fills_37 ⟨Nat.le_of_ble_eq_true rfl, Nat.le_of_ble_eq_true rfl, nk_X5_begins⟩ q887 q889 qs13 q81 q890 rfl rfl (Nat.zero_le 8) rfl F.1 F.2 (wk_V fun h8 F => ?_)
      exact wa_sub [1, 2, 0] rfl F
theorem f_X5_fills_226 {D : qD} {Q : Option Value → qH → Prop} {X : String → qH → Prop} (t : Nat) (h : qH) (F : g_R D h (some t) 4 4 (fun r1 => (recv D h r1 RJ2 ∧ c_I D m_J2_isEmpty [va_rf r1] h X (fun x3 h2 => ((¬ x3 = 0 → Q none h2) ∧ (x3 = 0 → (recv D h2 (some t) RX5 ∧ c_V D m_X5_begins [va_rf (some t)] h2 X (fun h4 => L_X5_fills_226 D Q X t h4)))))))) : L_X5_fills_226 D Q X t h := by
  show WA D m_X5_fills Q X 226 [(0, va_rf (some t))] [] h
  refine wa_aload_n (o := (some t)) dX5_fills_226 rfl 0 rfl ?_
  refine wa_getR (C := RX5) (T := TX5) (N := 10) (ci := 4) (k := 4) dX5_fills_227 rfl (Nat.le_of_ble_eq_true rfl) in_X5 q929 q_same_own (g_R_mono F fun r1 F => ?_)
  refine wa_callF (M' := m_J2_isEmpty) (C := RJ2) (x := y_LisEmpty) (ci := 6) (o := r1) (As := []) (st := []) dX5_fills_230 rfl rfl fw_J2_isEmpty ⟨Nat.le_of_ble_eq_true rfl, Nat.le_of_ble_eq_true rfl⟩ nf_y_LisEmpty q875 q878 q880 q57 q882 rfl rfl (Nat.zero_le 8) rfl F.1 F.2 (wk_I fun x3 h2 F => ?_)
  refine wa_if_ne (tgt := 245) dX5_fills_235 rfl (fun z => ?_) (fun z => ?_)
  · have F := F.1 z
    exact wa_vret rfl dX5_fills_245 F
  · have F := F.2 z
    refine wa_aload_n (o := (some t)) dX5_fills_238 rfl 0 rfl ?_
    refine wa_callV (M' := m_X5_begins) (C := RX5) (o := (some t)) (As := []) (st := []) dX5_fills_239 ⟨Nat.le_of_ble_eq_true rfl, Nat.le_of_ble_eq_true rfl, nk_X5_begins⟩ q887 q889 qs13 q81 q890 rfl rfl (Nat.zero_le 8) rfl F.1 F.2 (wk_V fun h4 F => ?_)
    refine wa_goto (tgt := 226) dX5_fills_242 rfl ?_
    exact F
theorem f_X5_fills_40 {D : qD} {Q : Option Value → qH → Prop} {X : String → qH → Prop} (t : Nat) (v1 : Int32) (v2 : Option Nat) (h : qH) (F : g_I D h (some t) 4 6 (fun x1 => ((x1 ≤ 0 → L_X5_fills_78 D Q X t v1 v2 h) ∧ (¬ x1 ≤ 0 → g_I D h (some t) 4 6 (fun x2 => g_I D h (some t) 4 7 (fun x3 => (recv D h (some t) RX5 ∧ c_I D m_X5_needs [va_rf (some t), .int v1, .int x3] h X (fun x5 h4 => g_R D h4 (some t) 4 9 (fun r6 => g_I D h4 r6 0 4 (fun x7 => (((x2 + x5) ≤ x7 → L_X5_fills_78 D Q X t v1 v2 h4) ∧ (¬ (x2 + x5) ≤ x7 → (recv D h4 (some t) RX5 ∧ c_V D m_X5_begins [va_rf (some t)] h4 X (fun h8 => L_X5_fills_40 D Q X t v1 v2 h8)))))))))))))) : L_X5_fills_40 D Q X t v1 v2 h := by
  show WA D m_X5_fills Q X 40 [(0, va_rf (some t)), (1, .int v1), (2, va_rf v2)] [] h
  refine wa_aload_n (o := (some t)) dX5_fills_40 rfl 0 rfl ?_
  refine wa_getI (C := RX5) (T := TX5) (N := 10) (ci := 4) (k := 6) dX5_fills_41 rfl (Nat.le_of_ble_eq_true rfl) in_X5 q931 q_same_own (g_I_mono F fun x1 F => ?_)
  refine wa_if_le (tgt := 78) dX5_fills_44 rfl (fun z => ?_) (fun z => ?_)
  · have F := F.1 z
    exact F
  · have F := F.2 z
    refine wa_aload_n (o := (some t)) dX5_fills_47 rfl 0 rfl ?_
    refine wa_getI (C := RX5) (T := TX5) (N := 10) (ci := 4) (k := 6) dX5_fills_48 rfl (Nat.le_of_ble_eq_true rfl) in_X5 q931 q_same_own (g_I_mono F fun x2 F => ?_)
    refine wa_aload_n (o := (some t)) dX5_fills_51 rfl 0 rfl ?_
    refine wa_iload_n (x := v1) dX5_fills_52 rfl 1 rfl ?_
    refine wa_aload_n (o := (some t)) dX5_fills_53 rfl 0 rfl ?_
    refine wa_getI (C := RX5) (T := TX5) (N := 10) (ci := 4) (k := 7) dX5_fills_54 rfl (Nat.le_of_ble_eq_true rfl) in_X5 q932 q_same_own (g_I_mono F fun x3 F => ?_)
    refine wa_callV (M' := m_X5_needs) (C := RX5) (o := (some t)) (As := [.int v1, .int x3]) (st := [.int x2]) dX5_fills_57 ⟨Nat.le_of_ble_eq_true rfl, Nat.le_of_ble_eq_true rfl, nk_X5_needs⟩ q902 q903 q904 q81 q905 rfl rfl (q_cs_le (q_csi q_cs0) (Nat.le_of_ble_eq_true rfl)) rfl F.1 F.2 (wk_I fun x5 h4 F => ?_)
    refine wa_iadd dX5_fills_60 ?_
    refine wa_aload_n (o := (some t)) dX5_fills_61 rfl 0 rfl ?_
    refine wa_getR (C := RX5) (T := TX5) (N := 10) (ci := 4) (k := 9) dX5_fills_62 rfl (Nat.le_of_ble_eq_true rfl) in_X5 q935 q_same_own (g_R_mono F fun r6 F => ?_)
    refine wa_getNI (C := RX1) (T := TX1) (N := 11) (ci := 0) (k := 4) dX5_fills_65 rfl (Nat.le_of_ble_eq_true rfl) in_X1 q156 q_same_own (g_I_mono F fun x7 F => ?_)
    refine wa_icmp_le (tgt := 78) dX5_fills_68 rfl (fun z => ?_) (fun z => ?_)
    · have F := F.1 z
      exact F
    · have F := F.2 z
      refine wa_aload_n (o := (some t)) dX5_fills_71 rfl 0 rfl ?_
      refine wa_callV (M' := m_X5_begins) (C := RX5) (o := (some t)) (As := []) (st := []) dX5_fills_72 ⟨Nat.le_of_ble_eq_true rfl, Nat.le_of_ble_eq_true rfl, nk_X5_begins⟩ q887 q889 qs13 q81 q890 rfl rfl (Nat.zero_le 8) rfl F.1 F.2 (wk_V fun h8 F => ?_)
      refine wa_goto (tgt := 40) dX5_fills_75 rfl ?_
      exact F
theorem f_X5_fills_78 {D : qD} {Q : Option Value → qH → Prop} {X : String → qH → Prop} (t : Nat) (v1 : Int32) (v2 : Option Nat) (h : qH) (F : g_I D h (some t) 4 6 (fun x1 => g_I D h (some t) 4 7 (fun x2 => (recv D h v2 RX6 ∧ c_I D m_X6_takes [va_rf v2, .int x2] h X (fun x4 h3 => p_F h3 (some t) 4 6 (.int (x1 + x4)) (fun h5 => p_F h5 (some t) 4 7 (.int 1) (fun h6 => g_I D h6 (some t) 4 5 (fun x7 => p_F h6 v2 5 6 (.int (x7 - 1)) (fun h8 => L_X5_fills_112 D Q X t v1 v2 0 h8))))))))) : L_X5_fills_78 D Q X t v1 v2 h := by
  show WA D m_X5_fills Q X 78 [(0, va_rf (some t)), (1, .int v1), (2, va_rf v2)] [] h
  refine wa_aload_n (o := (some t)) dX5_fills_78 rfl 0 rfl ?_
  refine wa_dup dX5_fills_79 (q_cat _) ?_
  refine wa_getI (C := RX5) (T := TX5) (N := 10) (ci := 4) (k := 6) dX5_fills_80 rfl (Nat.le_of_ble_eq_true rfl) in_X5 q931 q_same_own (g_I_mono F fun x1 F => ?_)
  refine wa_aload_n (o := v2) dX5_fills_83 rfl 2 rfl ?_
  refine wa_aload_n (o := (some t)) dX5_fills_84 rfl 0 rfl ?_
  refine wa_getI (C := RX5) (T := TX5) (N := 10) (ci := 4) (k := 7) dX5_fills_85 rfl (Nat.le_of_ble_eq_true rfl) in_X5 q932 q_same_own (g_I_mono F fun x2 F => ?_)
  refine wa_callV (M' := m_X6_takes) (C := RX6) (o := v2) (As := [.int x2]) (st := [.int x1, va_rf (some t)]) dX5_fills_88 ⟨Nat.le_of_ble_eq_true rfl, Nat.le_of_ble_eq_true rfl, nk_X6_takes⟩ q906 q907 q908 q82 q909 rfl rfl (q_cs_le (q_csi (q_csr q_cs0)) (Nat.le_of_ble_eq_true rfl)) rfl F.1 F.2 (wk_I fun x4 h3 F => ?_)
  refine wa_iadd dX5_fills_91 ?_
  refine wa_put (C := RX5) (T := TX5) (N := 10) (ci := 4) (k := 6) tyX5 dX5_fills_92 rfl (Nat.le_of_ble_eq_true rfl) in_X5 tyX5_ok nmX5 q931 q_same_own rfl rfl rfl (p_F_mono F fun h5 F => ?_)
  refine wa_aload_n (o := (some t)) dX5_fills_95 rfl 0 rfl ?_
  refine wa_iconst (v := 1) dX5_fills_96 rfl ?_
  refine wa_put (C := RX5) (T := TX5) (N := 10) (ci := 4) (k := 7) tyX5 dX5_fills_97 rfl (Nat.le_of_ble_eq_true rfl) in_X5 tyX5_ok nmX5 q932 q_same_own rfl rfl rfl (p_F_mono F fun h6 F => ?_)
  refine wa_aload_n (o := v2) dX5_fills_100 rfl 2 rfl ?_
  refine wa_aload_n (o := (some t)) dX5_fills_101 rfl 0 rfl ?_
  refine wa_getI (C := RX5) (T := TX5) (N := 10) (ci := 4) (k := 5) dX5_fills_102 rfl (Nat.le_of_ble_eq_true rfl) in_X5 q930 q_same_own (g_I_mono F fun x7 F => ?_)
  refine wa_iconst (v := 1) dX5_fills_105 rfl ?_
  refine wa_isub dX5_fills_106 ?_
  refine wa_putN (C := RX6) (T := TX6) (N := 7) (ci := 5) (k := 6) tyX6 dX5_fills_107 rfl (Nat.le_of_ble_eq_true rfl) in_X6 tyX6_ok nmX6 q820 q_same_own rfl rfl rfl (p_F_mono F fun h8 F => ?_)
  refine wa_iconst (v := 0) dX5_fills_110 rfl ?_
  refine ws_istore_n (lv' := [(3, .int 0), (0, va_rf (some t)), (1, .int v1), (2, va_rf v2)]) dX5_fills_111 rfl (Nat.le_of_ble_eq_true rfl) (q_cr (q_ci (q_cr q_cn))) rfl ?_
  exact wa_sub [1, 2, 3, 0] rfl F
theorem f_X5_fills_112 {D : qD} {Q : Option Value → qH → Prop} {X : String → qH → Prop} (t : Nat) (v1 : Int32) (v2 : Option Nat) (v3 : Int32) (h : qH) (F : g_R D h v2 5 2 (fun r1 => (recv D h r1 RJ2 ∧ c_I D m_J2_size [va_rf r1] h X (fun x3 h2 => ((x3 ≤ v3 → L_X5_fills_2 D Q X t (v1 + 1) h2) ∧ (¬ x3 ≤ v3 → g_R D h2 v2 5 2 (fun r4 => (recv D h2 r4 RJ2 ∧ c_R D m_J2_get [va_rf r4, .int v3] h2 X (fun r6 h5 => (q_cast D h5 r6 "java/lang/Integer" ∧ (recv D h5 r6 RJ18 ∧ c_I D m_J18_intValue [va_rf r6] h5 X (fun x8 h7 => g_R D h7 (some t) 4 4 (fun r9 => (recv D h7 r9 RJ2 ∧ c_I D m_J2_isEmpty [va_rf r9] h7 X (fun x11 h10 => ((x11 = 0 → L_X5_fills_199 D Q X t v1 v2 v3 x8 h10) ∧ (¬ x11 = 0 → g_I D h10 (some t) 4 6 (fun x12 => g_R D h10 (some t) 4 9 (fun r13 => g_R D h10 r13 0 0 (fun r14 => (recv D h10 r14 RJ2 ∧ c_R D m_J2_get [va_rf r14, .int x8] h10 X (fun r16 h15 => (q_cast D h15 r16 "Quirefold$Token" ∧ g_I D h15 r16 3 1 (fun x17 => g_R D h15 (some t) 4 9 (fun r18 => g_I D h15 r18 0 4 (fun x19 => ((x19 < (x12 + x17) → L_X5_fills_199 D Q X t v1 v2 v3 x8 h15) ∧ (¬ x19 < (x12 + x17) → (recv D h15 (some t) RX5 ∧ c_V D m_X5_tops [va_rf (some t), .int x8] h15 X (fun h20 => L_X5_fills_214 D Q X t v1 v2 v3 h20)))))))))))))))))))))))))))))) : L_X5_fills_112 D Q X t v1 v2 v3 h := by
  show WA D m_X5_fills Q X 112 [(0, va_rf (some t)), (1, .int v1), (2, va_rf v2), (3, .int v3)] [] h
  refine wa_iload_n (x := v3) dX5_fills_112 rfl 3 rfl ?_
  refine wa_aload_n (o := v2) dX5_fills_113 rfl 2 rfl ?_
  refine wa_getNR (C := RX6) (T := TX6) (N := 7) (ci := 5) (k := 2) dX5_fills_114 rfl (Nat.le_of_ble_eq_true rfl) in_X6 q814 q_same_own (g_R_mono F fun r1 F => ?_)
  refine wa_callF (M' := m_J2_size) (C := RJ2) (x := y_Lsize) (ci := 6) (o := r1) (As := []) (st := [.int v3]) dX5_fills_117 rfl rfl fw_J2_size ⟨Nat.le_of_ble_eq_true rfl, Nat.le_of_ble_eq_true rfl⟩ nf_y_Lsize q771 q196 q198 q57 q200 rfl rfl (q_cs_le (q_csi q_cs0) (Nat.le_of_ble_eq_true rfl)) rfl F.1 F.2 (wk_I fun x3 h2 F => ?_)
  refine wa_icmp_ge (tgt := 220) dX5_fills_122 rfl (fun z => ?_) (fun z => ?_)
  · have F := F.1 z
    refine ws_iinc (j := 1) (v := (v1 + 1)) (lv' := [(1, .int (v1 + 1)), (0, va_rf (some t)), (2, va_rf v2), (3, .int v3)]) dX5_fills_220 rfl rfl (Nat.le_of_ble_eq_true rfl) (q_cr (q_ci (q_cr (q_ci q_cn)))) rfl ?_
    refine wa_goto (tgt := 2) dX5_fills_223 rfl ?_
    exact wa_sub [1, 0] rfl F
  · have F := F.2 z
    refine wa_aload_n (o := v2) dX5_fills_125 rfl 2 rfl ?_
    refine wa_getNR (C := RX6) (T := TX6) (N := 7) (ci := 5) (k := 2) dX5_fills_126 rfl (Nat.le_of_ble_eq_true rfl) in_X6 q814 q_same_own (g_R_mono F fun r4 F => ?_)
    refine wa_iload_n (x := v3) dX5_fills_129 rfl 3 rfl ?_
    refine wa_callF (M' := m_J2_get) (C := RJ2) (x := y_Lget) (ci := 6) (o := r4) (As := [.int v3]) (st := []) dX5_fills_130 rfl rfl fw_J2_get ⟨Nat.le_of_ble_eq_true rfl, Nat.le_of_ble_eq_true rfl⟩ nf_y_Lget q773 q776 q778 q57 q780 rfl rfl (Nat.zero_le 8) rfl F.1 F.2 (wk_R fun r6 h5 F => ?_)
    refine wa_cast (C := "java/lang/Integer") dX5_fills_135 q891 F.1 ?_
    have F := F.2
    refine wa_callV (M' := m_J18_intValue) (C := RJ18) (o := r6) (As := []) (st := []) dX5_fills_138 ⟨Nat.le_of_ble_eq_true rfl, Nat.le_of_ble_eq_true rfl, nk_J18_intValue⟩ q892 q893 q894 q76 q895 rfl rfl (Nat.zero_le 8) rfl F.1 F.2 (wk_I fun x8 h7 F => ?_)
    refine ws_istore (lv' := [(4, .int x8), (0, va_rf (some t)), (1, .int v1), (2, va_rf v2), (3, .int v3)]) dX5_fills_141 (Nat.le_of_ble_eq_true rfl) (q_cr (q_ci (q_cr (q_ci q_cn)))) rfl ?_
    refine wa_aload_n (o := (some t)) dX5_fills_143 rfl 1 rfl ?_
    refine wa_getR (C := RX5) (T := TX5) (N := 10) (ci := 4) (k := 4) dX5_fills_144 rfl (Nat.le_of_ble_eq_true rfl) in_X5 q929 q_same_own (g_R_mono F fun r9 F => ?_)
    refine wa_callF (M' := m_J2_isEmpty) (C := RJ2) (x := y_LisEmpty) (ci := 6) (o := r9) (As := []) (st := []) dX5_fills_147 rfl rfl fw_J2_isEmpty ⟨Nat.le_of_ble_eq_true rfl, Nat.le_of_ble_eq_true rfl⟩ nf_y_LisEmpty q875 q878 q880 q57 q882 rfl rfl (Nat.zero_le 8) rfl F.1 F.2 (wk_I fun x11 h10 F => ?_)
    refine wa_if_eq (tgt := 199) dX5_fills_152 rfl (fun z => ?_) (fun z => ?_)
    · have F := F.1 z
      exact wa_sub [1, 2, 3, 4, 0] rfl F
    · have F := F.2 z
      refine wa_aload_n (o := (some t)) dX5_fills_155 rfl 1 rfl ?_
      refine wa_getI (C := RX5) (T := TX5) (N := 10) (ci := 4) (k := 6) dX5_fills_156 rfl (Nat.le_of_ble_eq_true rfl) in_X5 q931 q_same_own (g_I_mono F fun x12 F => ?_)
      refine wa_aload_n (o := (some t)) dX5_fills_159 rfl 1 rfl ?_
      refine wa_getR (C := RX5) (T := TX5) (N := 10) (ci := 4) (k := 9) dX5_fills_160 rfl (Nat.le_of_ble_eq_true rfl) in_X5 q935 q_same_own (g_R_mono F fun r13 F => ?_)
      refine wa_getNR (C := RX1) (T := TX1) (N := 11) (ci := 0) (k := 0) dX5_fills_163 rfl (Nat.le_of_ble_eq_true rfl) in_X1 q148 q_same_own (g_R_mono F fun r14 F => ?_)
      refine wa_iload (x := x8) dX5_fills_166 0 rfl ?_
      refine wa_callF (M' := m_J2_get) (C := RJ2) (x := y_Lget) (ci := 6) (o := r14) (As := [.int x8]) (st := [.int x12]) dX5_fills_168 rfl rfl fw_J2_get ⟨Nat.le_of_ble_eq_true rfl, Nat.le_of_ble_eq_true rfl⟩ nf_y_Lget q773 q776 q778 q57 q780 rfl rfl (q_cs_le (q_csi q_cs0) (Nat.le_of_ble_eq_true rfl)) rfl F.1 F.2 (wk_R fun r16 h15 F => ?_)
      refine wa_cast (C := "Quirefold$Token") dX5_fills_173 q785 F.1 ?_
      have F := F.2
      refine wa_getNI (C := RX4) (T := TX4) (N := 3) (ci := 3) (k := 1) dX5_fills_176 rfl (Nat.le_of_ble_eq_true rfl) in_X4 q596 q_same_own (g_I_mono F fun x17 F => ?_)
      refine wa_iadd dX5_fills_179 ?_
      refine wa_aload_n (o := (some t)) dX5_fills_180 rfl 1 rfl ?_
      refine wa_getR (C := RX5) (T := TX5) (N := 10) (ci := 4) (k := 9) dX5_fills_181 rfl (Nat.le_of_ble_eq_true rfl) in_X5 q935 q_same_own (g_R_mono F fun r18 F => ?_)
      refine wa_getNI (C := RX1) (T := TX1) (N := 11) (ci := 0) (k := 4) dX5_fills_184 rfl (Nat.le_of_ble_eq_true rfl) in_X1 q156 q_same_own (g_I_mono F fun x19 F => ?_)
      refine wa_icmp_gt (tgt := 199) dX5_fills_187 rfl (fun z => ?_) (fun z => ?_)
      · have F := F.1 z
        exact wa_sub [1, 2, 3, 4, 0] rfl F
      · have F := F.2 z
        refine wa_aload_n (o := (some t)) dX5_fills_190 rfl 1 rfl ?_
        refine wa_iload (x := x8) dX5_fills_191 0 rfl ?_
        refine wa_callV (M' := m_X5_tops) (C := RX5) (o := (some t)) (As := [.int x8]) (st := []) dX5_fills_193 ⟨Nat.le_of_ble_eq_true rfl, Nat.le_of_ble_eq_true rfl, nk_X5_tops⟩ q898 q900 qs14 q81 q901 rfl rfl (Nat.zero_le 8) rfl F.1 F.2 (wk_V fun h20 F => ?_)
        refine wa_goto (tgt := 214) dX5_fills_196 rfl ?_
        exact wa_sub [1, 2, 3, 4] rfl F
theorem f_X5_fills_199 {D : qD} {Q : Option Value → qH → Prop} {X : String → qH → Prop} (t : Nat) (v1 : Int32) (v2 : Option Nat) (v3 : Int32) (v4 : Int32) (h : qH) (F : g_R D h (some t) 4 4 (fun r1 => c_R D m_J18_valueOf [.int v4] h X (fun r3 h2 => (recv D h2 r1 RJ2 ∧ c_I D m_J2_add_2 [va_rf r1, va_rf r3] h2 X (fun x5 h4 => L_X5_fills_214 D Q X t v1 v2 v3 h4))))) : L_X5_fills_199 D Q X t v1 v2 v3 v4 h := by
  show WA D m_X5_fills Q X 199 [(0, va_rf (some t)), (1, .int v1), (2, va_rf v2), (3, .int v3), (4, .int v4)] [] h
  refine wa_aload_n (o := (some t)) dX5_fills_199 rfl 0 rfl ?_
  refine wa_getR (C := RX5) (T := TX5) (N := 10) (ci := 4) (k := 4) dX5_fills_200 rfl (Nat.le_of_ble_eq_true rfl) in_X5 q929 q_same_own (g_R_mono F fun r1 F => ?_)
  refine wa_iload (x := v4) dX5_fills_203 4 rfl ?_
  refine wa_callS (M' := m_J18_valueOf) (As := [.int v4]) (st := [va_rf r1]) dX5_fills_205 ⟨Nat.le_of_ble_eq_true rfl, Nat.le_of_ble_eq_true rfl, nk_J18_valueOf⟩ q850 q851 q76 q852 rfl rfl (q_cs_le (q_csr q_cs0) (Nat.le_of_ble_eq_true rfl)) rfl F (wk_R fun r3 h2 F => ?_)
  refine wa_callF (M' := m_J2_add_2) (C := RJ2) (x := y_Ladd) (ci := 6) (o := r1) (As := [va_rf r3]) (st := []) dX5_fills_208 rfl rfl fw_J2_add_2 ⟨Nat.le_of_ble_eq_true rfl, Nat.le_of_ble_eq_true rfl⟩ nf_y_Ladd q838 q841 q843 q57 q845 rfl rfl (Nat.zero_le 8) rfl F.1 F.2 (wk_I fun x5 h4 F => ?_)
  refine wa_pop dX5_fills_213 rfl ?_
  exact wa_sub [0, 1, 2, 3] rfl F
theorem f_X5_fills_214 {D : qD} {Q : Option Value → qH → Prop} {X : String → qH → Prop} (t : Nat) (v1 : Int32) (v2 : Option Nat) (v3 : Int32) (h : qH) (F : L_X5_fills_112 D Q X t v1 v2 (v3 + 1) h) : L_X5_fills_214 D Q X t v1 v2 v3 h := by
  show WA D m_X5_fills Q X 214 [(0, va_rf (some t)), (1, .int v1), (2, va_rf v2), (3, .int v3)] [] h
  refine ws_iinc (j := 3) (v := (v3 + 1)) (lv' := [(3, .int (v3 + 1)), (0, va_rf (some t)), (1, .int v1), (2, va_rf v2)]) dX5_fills_214 rfl rfl (Nat.le_of_ble_eq_true rfl) (q_cr (q_ci (q_cr (q_ci q_cn)))) rfl ?_
  refine wa_goto (tgt := 112) dX5_fills_217 rfl ?_
  exact wa_sub [1, 2, 3, 0] rfl F
def L_X5_widthOf_32 (D : qD) (Q : Option Value → qH → Prop) (X : String → qH → Prop) (t : Nat) (v1 : Nat) (s0 : Int32) (h : qH) : Prop := WA D m_X5_widthOf Q X 32 [(0, va_rf (some t)), (1, va_rf (some v1))] [.int s0] h
theorem f_X5_widthOf {D : qD} {Q : Option Value → qH → Prop} {X : String → qH → Prop} (t : Nat) (p0 : Nat) (h : qH) (F : g_I D h (some p0) 3 0 (fun x1 => ((¬ x1 = 1 → g_I D h (some p0) 3 1 (fun x2 => L_X5_widthOf_32 D Q X t p0 x2 h)) ∧ (x1 = 1 → g_R D h (some t) 4 9 (fun r3 => g_R D h r3 0 2 (fun r4 => g_I D h (some t) 4 0 (fun x5 => a_R D h r4 6 x5 (fun r6 => g_I D h (some p0) 3 1 (fun x7 => a_I D h r6 0 x7 (fun x8 => L_X5_widthOf_32 D Q X t p0 x8 h)))))))))) : MW D m_X5_widthOf [va_rf (some t), va_rf (some p0)] h Q X := by
  refine mw_of pl_X5_widthOf rfl _ (Nat.le_of_ble_eq_true rfl) rfl ?_
  refine (show WA D m_X5_widthOf Q X 0 [(0, va_rf (some t)), (1, va_rf (some p0))] [] h from ?_)
  refine wa_aload_n (o := (some p0)) dX5_widthOf_0 rfl 1 rfl ?_
  refine wa_getNI (C := RX4) (T := TX4) (N := 3) (ci := 3) (k := 0) dX5_widthOf_1 rfl (Nat.le_of_ble_eq_true rfl) in_X4 q593 q_same_own (g_I_mono F fun x1 F => ?_)
  refine wa_iconst (v := 1) dX5_widthOf_4 rfl ?_
  refine wa_icmp_ne (tgt := 28) dX5_widthOf_5 rfl (fun z => ?_) (fun z => ?_)
  · have F := F.1 z
    refine wa_aload_n (o := (some p0)) dX5_widthOf_28 rfl 1 rfl ?_
    refine wa_getNI (C := RX4) (T := TX4) (N := 3) (ci := 3) (k := 1) dX5_widthOf_29 rfl (Nat.le_of_ble_eq_true rfl) in_X4 q596 q_same_own (g_I_mono F fun x2 F => ?_)
    exact F
  · have F := F.2 z
    refine wa_aload_n (o := (some t)) dX5_widthOf_8 rfl 0 rfl ?_
    refine wa_getR (C := RX5) (T := TX5) (N := 10) (ci := 4) (k := 9) dX5_widthOf_9 rfl (Nat.le_of_ble_eq_true rfl) in_X5 q935 q_same_own (g_R_mono F fun r3 F => ?_)
    refine wa_getNR (C := RX1) (T := TX1) (N := 11) (ci := 0) (k := 2) dX5_widthOf_12 rfl (Nat.le_of_ble_eq_true rfl) in_X1 q152 q_same_own (g_R_mono F fun r4 F => ?_)
    refine wa_aload_n (o := (some t)) dX5_widthOf_15 rfl 0 rfl ?_
    refine wa_getI (C := RX5) (T := TX5) (N := 10) (ci := 4) (k := 0) dX5_widthOf_16 rfl (Nat.le_of_ble_eq_true rfl) in_X5 q922 q_same_own (g_I_mono F fun x5 F => ?_)
    refine wa_aald (t := 6) rfl rfl dX5_widthOf_19 (a_R_mono F fun r6 F => ?_)
    refine wa_aload_n (o := (some p0)) dX5_widthOf_20 rfl 1 rfl ?_
    refine wa_getNI (C := RX4) (T := TX4) (N := 3) (ci := 3) (k := 1) dX5_widthOf_21 rfl (Nat.le_of_ble_eq_true rfl) in_X4 q596 q_same_own (g_I_mono F fun x7 F => ?_)
    refine wa_iald dX5_widthOf_24 (a_I_mono F fun x8 F => ?_)
    refine wa_goto (tgt := 32) dX5_widthOf_25 rfl ?_
    exact F
theorem f_X5_widthOf_32 {D : qD} {Q : Option Value → qH → Prop} {X : String → qH → Prop} (t : Nat) (v1 : Nat) (s0 : Int32) (h : qH) (F : ((¬ s0 = 0 → g_R D h (some t) 4 9 (fun r1 => g_R D h r1 0 1 (fun r2 => g_I D h (some v1) 3 2 (fun x3 => a_R D h r2 5 x3 (fun r4 => (recv D h r4 RX2 ∧ c_I D (m_X2_extra 8) [va_rf r4] h X (fun x6 h5 => Q (some (.int (s0 + x6))) h5))))))) ∧ (s0 = 0 → Q (some (.int 0)) h))) : L_X5_widthOf_32 D Q X t v1 s0 h := by
  show WA D m_X5_widthOf Q X 32 [(0, va_rf (some t)), (1, va_rf (some v1))] [.int s0] h
  refine ws_istore_n (lv' := [(2, .int s0), (0, va_rf (some t)), (1, va_rf (some v1))]) dX5_widthOf_32 rfl (Nat.le_of_ble_eq_true rfl) (q_cr (q_cr q_cn)) rfl ?_
  refine wa_iload_n (x := s0) dX5_widthOf_33 rfl 0 rfl ?_
  refine wa_if_ne (tgt := 41) dX5_widthOf_34 rfl (fun z => ?_) (fun z => ?_)
  · have F := F.1 z
    refine wa_iload_n (x := s0) dX5_widthOf_41 rfl 0 rfl ?_
    refine wa_aload_n (o := (some t)) dX5_widthOf_42 rfl 1 rfl ?_
    refine wa_getR (C := RX5) (T := TX5) (N := 10) (ci := 4) (k := 9) dX5_widthOf_43 rfl (Nat.le_of_ble_eq_true rfl) in_X5 q935 q_same_own (g_R_mono F fun r1 F => ?_)
    refine wa_getNR (C := RX1) (T := TX1) (N := 11) (ci := 0) (k := 1) dX5_widthOf_46 rfl (Nat.le_of_ble_eq_true rfl) in_X1 q150 q_same_own (g_R_mono F fun r2 F => ?_)
    refine wa_aload_n (o := (some v1)) dX5_widthOf_49 rfl 2 rfl ?_
    refine wa_getNI (C := RX4) (T := TX4) (N := 3) (ci := 3) (k := 2) dX5_widthOf_50 rfl (Nat.le_of_ble_eq_true rfl) in_X4 q599 q_same_own (g_I_mono F fun x3 F => ?_)
    refine wa_aald (t := 5) rfl rfl dX5_widthOf_53 (a_R_mono F fun r4 F => ?_)
    refine wa_callV (M' := (m_X2_extra 8)) (C := RX2) (o := r4) (As := []) (st := [.int s0]) dX5_widthOf_54 ⟨Nat.le_of_ble_eq_true rfl, Nat.le_of_ble_eq_true rfl, nk_X2_extra⟩ q794 q795 q796 q58 q797 rfl rfl (q_cs_le (q_csi q_cs0) (Nat.le_of_ble_eq_true rfl)) rfl F.1 F.2 (wk_I fun x6 h5 F => ?_)
    refine wa_iadd dX5_widthOf_57 ?_
    exact wa_iret rfl dX5_widthOf_58 F
  · have F := F.2 z
    refine wa_iconst (v := 0) dX5_widthOf_37 rfl ?_
    refine wa_goto (tgt := 58) dX5_widthOf_38 rfl ?_
    exact wa_iret rfl dX5_widthOf_58 F
def L_X5_makesLines_6 (D : qD) (Q : Option Value → qH → Prop) (X : String → qH → Prop) (t : Nat) (v1 : Option Nat) (v2 : Int32) (v3 : Int32) (h : qH) : Prop := WA D m_X5_makesLines Q X 6 [(0, va_rf (some t)), (1, va_rf v1), (2, .int v2), (3, .int v3)] [] h
def L_X5_makesLines_58 (D : qD) (Q : Option Value → qH → Prop) (X : String → qH → Prop) (t : Nat) (v3 : Int32) (v4 : Option Nat) (h : qH) : Prop := WA D m_X5_makesLines Q X 58 [(0, va_rf (some t)), (3, .int v3), (4, va_rf v4)] [] h
def L_X5_makesLines_62 (D : qD) (Q : Option Value → qH → Prop) (X : String → qH → Prop) (t : Nat) (v1 : Option Nat) (v2 : Int32) (v3 : Int32) (v4 : Option Nat) (h : qH) : Prop := WA D m_X5_makesLines Q X 62 [(0, va_rf (some t)), (1, va_rf v1), (2, .int v2), (3, .int v3), (4, va_rf v4)] [] h
def L_X5_makesLines_210 (D : qD) (Q : Option Value → qH → Prop) (X : String → qH → Prop) (t : Nat) (v1 : Option Nat) (v2 : Int32) (v3 : Int32) (v4 : Option Nat) (h : qH) : Prop := WA D m_X5_makesLines Q X 210 [(0, va_rf (some t)), (1, va_rf v1), (2, .int v2), (3, .int v3), (4, va_rf v4)] [] h
def L_X5_makesLines_111 (D : qD) (Q : Option Value → qH → Prop) (X : String → qH → Prop) (t : Nat) (v1 : Option Nat) (v2 : Int32) (v3 : Int32) (v4 : Option Nat) (v5 : Int32) (h : qH) : Prop := WA D m_X5_makesLines Q X 111 [(0, va_rf (some t)), (1, va_rf v1), (2, .int v2), (3, .int v3), (4, va_rf v4), (5, .int v5)] [] h
def L_X5_makesLines_179 (D : qD) (Q : Option Value → qH → Prop) (X : String → qH → Prop) (t : Nat) (v1 : Option Nat) (v2 : Int32) (v3 : Int32) (v4 : Option Nat) (h : qH) : Prop := WA D m_X5_makesLines Q X 179 [(0, va_rf (some t)), (1, va_rf v1), (2, .int v2), (3, .int v3), (4, va_rf v4)] [] h
def L_X5_makesLines_223 (D : qD) (Q : Option Value → qH → Prop) (X : String → qH → Prop) (t : Nat) (v1 : Option Nat) (v2 : Int32) (v3 : Int32) (h : qH) : Prop := WA D m_X5_makesLines Q X 223 [(0, va_rf (some t)), (1, va_rf v1), (2, .int v2), (3, .int v3)] [] h
def L_X5_makesLines_121 (D : qD) (Q : Option Value → qH → Prop) (X : String → qH → Prop) (t : Nat) (v2 : Int32) (v3 : Int32) (v4 : Option Nat) (v5 : Int32) (h : qH) : Prop := WA D m_X5_makesLines Q X 121 [(0, va_rf (some t)), (2, .int v2), (3, .int v3), (4, va_rf v4), (5, .int v5)] [] h
def L_X5_makesLines_139 (D : qD) (Q : Option Value → qH → Prop) (X : String → qH → Prop) (t : Nat) (v2 : Int32) (v3 : Int32) (v4 : Option Nat) (v5 : Int32) (s0 : Int32) (s1 : Nat) (s2 : Nat) (h : qH) : Prop := WA D m_X5_makesLines Q X 139 [(0, va_rf (some t)), (2, .int v2), (3, .int v3), (4, va_rf v4), (5, .int v5)] [.int s0, va_rf (some s1), va_rf (some s2)] h
theorem f_X5_makesLines {D : qD} {Q : Option Value → qH → Prop} {X : String → qH → Prop} (t : Nat) (h : qH) (F : L_X5_makesLines_6 D Q X t none 0 0 h) : MW D m_X5_makesLines [va_rf (some t)] h Q X := by
  refine mw_of pl_X5_makesLines rfl _ (Nat.le_of_ble_eq_true rfl) rfl ?_
  refine (show WA D m_X5_makesLines Q X 0 [(0, va_rf (some t))] [] h from ?_)
  refine wa_null dX5_makesLines_0 ?_
  refine ws_astore_n (lv' := [(1, va_rf none), (0, va_rf (some t))]) dX5_makesLines_1 rfl (Nat.le_of_ble_eq_true rfl) (q_cr q_cn) rfl ?_
  refine wa_iconst (v := 0) dX5_makesLines_2 rfl ?_
  refine ws_istore_n (lv' := [(2, .int 0), (1, va_rf none), (0, va_rf (some t))]) dX5_makesLines_3 rfl (Nat.le_of_ble_eq_true rfl) (q_cr (q_cr q_cn)) rfl ?_
  refine wa_iconst (v := 0) dX5_makesLines_4 rfl ?_
  refine ws_istore_n (lv' := [(3, .int 0), (2, .int 0), (1, va_rf none), (0, va_rf (some t))]) dX5_makesLines_5 rfl (Nat.le_of_ble_eq_true rfl) (q_ci (q_cr (q_cr q_cn))) rfl ?_
  exact wa_sub [3, 2, 1, 0] rfl F
theorem f_X5_makesLines_6 {D : qD} {Q : Option Value → qH → Prop} {X : String → qH → Prop} (t : Nat) (v1 : Option Nat) (v2 : Int32) (v3 : Int32) (h : qH) (F : g_R D h (some t) 4 9 (fun r1 => g_R D h r1 0 0 (fun r2 => (recv D h r2 RJ2 ∧ c_I D m_J2_size [va_rf r2] h X (fun x4 h3 => ((x4 ≤ v3 → Q none h3) ∧ (¬ x4 ≤ v3 → g_R D h3 (some t) 4 9 (fun r5 => g_R D h3 r5 0 0 (fun r6 => (recv D h3 r6 RJ2 ∧ c_R D m_J2_get [va_rf r6, .int v3] h3 X (fun r8 h7 => (q_cast D h7 r8 "Quirefold$Token" ∧ g_I D h7 r8 3 0 (fun x9 => ((x9 = 2 → L_X5_makesLines_58 D Q X t v3 r8 h7) ∧ (¬ x9 = 2 → g_I D h7 r8 3 0 (fun x10 => ((¬ x10 = 3 → L_X5_makesLines_62 D Q X t v1 v2 v3 r8 h7) ∧ (x10 = 3 → L_X5_makesLines_58 D Q X t v3 r8 h7)))))))))))))))))) : L_X5_makesLines_6 D Q X t v1 v2 v3 h := by
  show WA D m_X5_makesLines Q X 6 [(0, va_rf (some t)), (1, va_rf v1), (2, .int v2), (3, .int v3)] [] h
  refine wa_iload_n (x := v3) dX5_makesLines_6 rfl 3 rfl ?_
  refine wa_aload_n (o := (some t)) dX5_makesLines_7 rfl 0 rfl ?_
  refine wa_getR (C := RX5) (T := TX5) (N := 10) (ci := 4) (k := 9) dX5_makesLines_8 rfl (Nat.le_of_ble_eq_true rfl) in_X5 q935 q_same_own (g_R_mono F fun r1 F => ?_)
  refine wa_getNR (C := RX1) (T := TX1) (N := 11) (ci := 0) (k := 0) dX5_makesLines_11 rfl (Nat.le_of_ble_eq_true rfl) in_X1 q148 q_same_own (g_R_mono F fun r2 F => ?_)
  refine wa_callF (M' := m_J2_size) (C := RJ2) (x := y_Lsize) (ci := 6) (o := r2) (As := []) (st := [.int v3]) dX5_makesLines_14 rfl rfl fw_J2_size ⟨Nat.le_of_ble_eq_true rfl, Nat.le_of_ble_eq_true rfl⟩ nf_y_Lsize q771 q196 q198 q57 q200 rfl rfl (q_cs_le (q_csi q_cs0) (Nat.le_of_ble_eq_true rfl)) rfl F.1 F.2 (wk_I fun x4 h3 F => ?_)
  refine wa_icmp_ge (tgt := 229) dX5_makesLines_19 rfl (fun z => ?_) (fun z => ?_)
  · have F := F.1 z
    exact wa_vret rfl dX5_makesLines_229 F
  · have F := F.2 z
    refine wa_aload_n (o := (some t)) dX5_makesLines_22 rfl 0 rfl ?_
    refine wa_getR (C := RX5) (T := TX5) (N := 10) (ci := 4) (k := 9) dX5_makesLines_23 rfl (Nat.le_of_ble_eq_true rfl) in_X5 q935 q_same_own (g_R_mono F fun r5 F => ?_)
    refine wa_getNR (C := RX1) (T := TX1) (N := 11) (ci := 0) (k := 0) dX5_makesLines_26 rfl (Nat.le_of_ble_eq_true rfl) in_X1 q148 q_same_own (g_R_mono F fun r6 F => ?_)
    refine wa_iload_n (x := v3) dX5_makesLines_29 rfl 3 rfl ?_
    refine wa_callF (M' := m_J2_get) (C := RJ2) (x := y_Lget) (ci := 6) (o := r6) (As := [.int v3]) (st := []) dX5_makesLines_30 rfl rfl fw_J2_get ⟨Nat.le_of_ble_eq_true rfl, Nat.le_of_ble_eq_true rfl⟩ nf_y_Lget q773 q776 q778 q57 q780 rfl rfl (Nat.zero_le 8) rfl F.1 F.2 (wk_R fun r8 h7 F => ?_)
    refine wa_cast (C := "Quirefold$Token") dX5_makesLines_35 q785 F.1 ?_
    have F := F.2
    refine ws_astore (lv' := [(4, va_rf r8), (0, va_rf (some t)), (1, va_rf v1), (2, .int v2), (3, .int v3)]) dX5_makesLines_38 (Nat.le_of_ble_eq_true rfl) (q_cr (q_cr (q_ci (q_ci q_cn)))) rfl ?_
    refine wa_aload (o := r8) dX5_makesLines_40 0 rfl ?_
    refine wa_getNI (C := RX4) (T := TX4) (N := 3) (ci := 3) (k := 0) dX5_makesLines_42 rfl (Nat.le_of_ble_eq_true rfl) in_X4 q593 q_same_own (g_I_mono F fun x9 F => ?_)
    refine wa_iconst (v := 2) dX5_makesLines_45 rfl ?_
    refine wa_icmp_eq (tgt := 58) dX5_makesLines_46 rfl (fun z => ?_) (fun z => ?_)
    · have F := F.1 z
      exact wa_sub [1, 4, 0] rfl F
    · have F := F.2 z
      refine wa_aload (o := r8) dX5_makesLines_49 0 rfl ?_
      refine wa_getNI (C := RX4) (T := TX4) (N := 3) (ci := 3) (k := 0) dX5_makesLines_51 rfl (Nat.le_of_ble_eq_true rfl) in_X4 q593 q_same_own (g_I_mono F fun x10 F => ?_)
      refine wa_iconst (v := 3) dX5_makesLines_54 rfl ?_
      refine wa_icmp_ne (tgt := 62) dX5_makesLines_55 rfl (fun z => ?_) (fun z => ?_)
      · have F := F.1 z
        exact wa_sub [1, 2, 3, 4, 0] rfl F
      · have F := F.2 z
        exact wa_sub [1, 4, 0] rfl F
theorem f_X5_makesLines_58 {D : qD} {Q : Option Value → qH → Prop} {X : String → qH → Prop} (t : Nat) (v3 : Int32) (v4 : Option Nat) (h : qH) (F : L_X5_makesLines_62 D Q X t none 0 v3 v4 h) : L_X5_makesLines_58 D Q X t v3 v4 h := by
  show WA D m_X5_makesLines Q X 58 [(0, va_rf (some t)), (3, .int v3), (4, va_rf v4)] [] h
  refine wa_null dX5_makesLines_58 ?_
  refine ws_astore_n (lv' := [(1, va_rf none), (0, va_rf (some t)), (3, .int v3), (4, va_rf v4)]) dX5_makesLines_59 rfl (Nat.le_of_ble_eq_true rfl) (q_cr (q_ci (q_cr q_cn))) rfl ?_
  refine wa_iconst (v := 0) dX5_makesLines_60 rfl ?_
  refine ws_istore_n (lv' := [(2, .int 0), (1, va_rf none), (0, va_rf (some t)), (3, .int v3), (4, va_rf v4)]) dX5_makesLines_61 rfl (Nat.le_of_ble_eq_true rfl) (q_cr (q_cr (q_ci (q_cr q_cn)))) rfl ?_
  exact wa_sub [2, 1, 0, 3, 4] rfl F
theorem f_X5_makesLines_62 {D : qD} {Q : Option Value → qH → Prop} {X : String → qH → Prop} (t : Nat) (v1 : Option Nat) (v2 : Int32) (v3 : Int32) (v4 : Option Nat) (h : qH) (F : (recv D h (some t) RX5 ∧ c_I D m_X5_isPrinted [va_rf (some t), va_rf v4] h X (fun x2 h1 => ((x2 = 0 → L_X5_makesLines_210 D Q X t v1 v2 v3 v4 h1) ∧ (¬ x2 = 0 → (recv D h1 (some t) RX5 ∧ c_I D m_X5_widthOf [va_rf (some t), va_rf v4] h1 X (fun x4 h3 => g_I D h3 v4 3 0 (fun x5 => ((x5 = 3 → L_X5_makesLines_111 D Q X t v1 v2 v3 v4 x4 h3) ∧ (¬ x5 = 3 → ((v1 = none → L_X5_makesLines_111 D Q X t v1 v2 v3 v4 x4 h3) ∧ (¬ v1 = none → g_I D h3 v1 5 3 (fun x6 => g_R D h3 (some t) 4 9 (fun r7 => g_I D h3 r7 0 3 (fun x8 => ((((x6 + 1) + x4) ≤ x8 → g_I D h3 v1 5 3 (fun x9 => p_F h3 v1 5 3 (.int (x9 + (1 + x4))) (fun h10 => L_X5_makesLines_179 D Q X t v1 v2 v3 v4 h10))) ∧ (¬ ((x6 + 1) + x4) ≤ x8 → L_X5_makesLines_111 D Q X t v1 v2 v3 v4 x4 h3))))))))))))))))) : L_X5_makesLines_62 D Q X t v1 v2 v3 v4 h := by
  show WA D m_X5_makesLines Q X 62 [(0, va_rf (some t)), (1, va_rf v1), (2, .int v2), (3, .int v3), (4, va_rf v4)] [] h
  refine wa_aload_n (o := (some t)) dX5_makesLines_62 rfl 0 rfl ?_
  refine wa_aload (o := v4) dX5_makesLines_63 4 rfl ?_
  refine wa_callV (M' := m_X5_isPrinted) (C := RX5) (o := (some t)) (As := [va_rf v4]) (st := []) dX5_makesLines_65 ⟨Nat.le_of_ble_eq_true rfl, Nat.le_of_ble_eq_true rfl, nk_X5_isPrinted⟩ q786 q788 qs9 q81 q789 rfl rfl (Nat.zero_le 8) rfl F.1 F.2 (wk_I fun x2 h1 F => ?_)
  refine wa_if_eq (tgt := 210) dX5_makesLines_68 rfl (fun z => ?_) (fun z => ?_)
  · have F := F.1 z
    exact F
  · have F := F.2 z
    refine wa_aload_n (o := (some t)) dX5_makesLines_71 rfl 0 rfl ?_
    refine wa_aload (o := v4) dX5_makesLines_72 4 rfl ?_
    refine wa_callV (M' := m_X5_widthOf) (C := RX5) (o := (some t)) (As := [va_rf v4]) (st := []) dX5_makesLines_74 ⟨Nat.le_of_ble_eq_true rfl, Nat.le_of_ble_eq_true rfl, nk_X5_widthOf⟩ q790 q791 q792 q81 q793 rfl rfl (Nat.zero_le 8) rfl F.1 F.2 (wk_I fun x4 h3 F => ?_)
    refine ws_istore (lv' := [(5, .int x4), (0, va_rf (some t)), (1, va_rf v1), (2, .int v2), (3, .int v3), (4, va_rf v4)]) dX5_makesLines_77 (Nat.le_of_ble_eq_true rfl) (q_cr (q_cr (q_ci (q_ci (q_cr q_cn))))) rfl ?_
    refine wa_aload (o := v4) dX5_makesLines_79 5 rfl ?_
    refine wa_getNI (C := RX4) (T := TX4) (N := 3) (ci := 3) (k := 0) dX5_makesLines_81 rfl (Nat.le_of_ble_eq_true rfl) in_X4 q593 q_same_own (g_I_mono F fun x5 F => ?_)
    refine wa_iconst (v := 3) dX5_makesLines_84 rfl ?_
    refine wa_icmp_eq (tgt := 111) dX5_makesLines_85 rfl (fun z => ?_) (fun z => ?_)
    · have F := F.1 z
      exact wa_sub [1, 2, 3, 4, 5, 0] rfl F
    · have F := F.2 z
      refine wa_aload_n (o := v1) dX5_makesLines_88 rfl 2 rfl ?_
      refine wa_ifnull (tgt := 111) dX5_makesLines_89 rfl (fun z => ?_) (fun z => ?_)
      · have F := F.1 z
        exact wa_sub [1, 2, 3, 4, 5, 0] rfl F
      · have F := F.2 z
        refine wa_aload_n (o := v1) dX5_makesLines_92 rfl 2 rfl ?_
        refine wa_getNI (C := RX6) (T := TX6) (N := 7) (ci := 5) (k := 3) dX5_makesLines_93 rfl (Nat.le_of_ble_eq_true rfl) in_X6 q815 q_same_own (g_I_mono F fun x6 F => ?_)
        refine wa_iconst (v := 1) dX5_makesLines_96 rfl ?_
        refine wa_iadd dX5_makesLines_97 ?_
        refine wa_iload (x := x4) dX5_makesLines_98 0 rfl ?_
        refine wa_iadd dX5_makesLines_100 ?_
        refine wa_aload_n (o := (some t)) dX5_makesLines_101 rfl 1 rfl ?_
        refine wa_getR (C := RX5) (T := TX5) (N := 10) (ci := 4) (k := 9) dX5_makesLines_102 rfl (Nat.le_of_ble_eq_true rfl) in_X5 q935 q_same_own (g_R_mono F fun r7 F => ?_)
        refine wa_getNI (C := RX1) (T := TX1) (N := 11) (ci := 0) (k := 3) dX5_makesLines_105 rfl (Nat.le_of_ble_eq_true rfl) in_X1 q154 q_same_own (g_I_mono F fun x8 F => ?_)
        refine wa_icmp_le (tgt := 166) dX5_makesLines_108 rfl (fun z => ?_) (fun z => ?_)
        · have F := F.1 z
          refine wa_aload_n (o := v1) dX5_makesLines_166 rfl 2 rfl ?_
          refine wa_dup dX5_makesLines_167 (q_cat _) ?_
          refine wa_getNI (C := RX6) (T := TX6) (N := 7) (ci := 5) (k := 3) dX5_makesLines_168 rfl (Nat.le_of_ble_eq_true rfl) in_X6 q815 q_same_own (g_I_mono F fun x9 F => ?_)
          refine wa_iconst (v := 1) dX5_makesLines_171 rfl ?_
          refine wa_iload (x := x4) dX5_makesLines_172 0 rfl ?_
          refine wa_iadd dX5_makesLines_174 ?_
          refine wa_iadd dX5_makesLines_175 ?_
          refine wa_putN (C := RX6) (T := TX6) (N := 7) (ci := 5) (k := 3) tyX6 dX5_makesLines_176 rfl (Nat.le_of_ble_eq_true rfl) in_X6 tyX6_ok nmX6 q815 q_same_own rfl rfl rfl (p_F_mono F fun h10 F => ?_)
          exact wa_sub [1, 2, 3, 4, 5] rfl F
        · have F := F.2 z
          exact wa_sub [1, 2, 3, 4, 5, 0] rfl F
theorem f_X5_makesLines_210 {D : qD} {Q : Option Value → qH → Prop} {X : String → qH → Prop} (t : Nat) (v1 : Option Nat) (v2 : Int32) (v3 : Int32) (v4 : Option Nat) (h : qH) (F : g_I D h v4 3 0 (fun x1 => ((¬ x1 = 3 → L_X5_makesLines_223 D Q X t v1 v2 v3 h) ∧ (x1 = 3 → L_X5_makesLines_223 D Q X t none 0 v3 h)))) : L_X5_makesLines_210 D Q X t v1 v2 v3 v4 h := by
  show WA D m_X5_makesLines Q X 210 [(0, va_rf (some t)), (1, va_rf v1), (2, .int v2), (3, .int v3), (4, va_rf v4)] [] h
  refine wa_aload (o := v4) dX5_makesLines_210 4 rfl ?_
  refine wa_getNI (C := RX4) (T := TX4) (N := 3) (ci := 3) (k := 0) dX5_makesLines_212 rfl (Nat.le_of_ble_eq_true rfl) in_X4 q593 q_same_own (g_I_mono F fun x1 F => ?_)
  refine wa_iconst (v := 3) dX5_makesLines_215 rfl ?_
  refine wa_icmp_ne (tgt := 223) dX5_makesLines_216 rfl (fun z => ?_) (fun z => ?_)
  · have F := F.1 z
    exact wa_sub [0, 1, 2, 3] rfl F
  · have F := F.2 z
    refine wa_null dX5_makesLines_219 ?_
    refine ws_astore_n (lv' := [(1, va_rf none), (0, va_rf (some t)), (2, .int v2), (3, .int v3), (4, va_rf v4)]) dX5_makesLines_220 rfl (Nat.le_of_ble_eq_true rfl) (q_cr (q_cr (q_ci (q_ci (q_cr q_cn))))) rfl ?_
    refine wa_iconst (v := 0) dX5_makesLines_221 rfl ?_
    refine ws_istore_n (lv' := [(2, .int 0), (1, va_rf none), (0, va_rf (some t)), (3, .int v3), (4, va_rf v4)]) dX5_makesLines_222 rfl (Nat.le_of_ble_eq_true rfl) (q_cr (q_cr (q_ci (q_ci (q_cr q_cn))))) rfl ?_
    exact wa_sub [2, 1, 0, 3] rfl F
theorem f_X5_makesLines_111 {D : qD} {Q : Option Value → qH → Prop} {X : String → qH → Prop} (t : Nat) (v1 : Option Nat) (v2 : Int32) (v3 : Int32) (v4 : Option Nat) (v5 : Int32) (h : qH) (F : ((¬ v2 = 1 → L_X5_makesLines_121 D Q X t v2 v3 v4 v5 h) ∧ (v2 = 1 → p_F h v1 5 5 (.int 1) (fun h1 => L_X5_makesLines_121 D Q X t v2 v3 v4 v5 h1)))) : L_X5_makesLines_111 D Q X t v1 v2 v3 v4 v5 h := by
  show WA D m_X5_makesLines Q X 111 [(0, va_rf (some t)), (1, va_rf v1), (2, .int v2), (3, .int v3), (4, va_rf v4), (5, .int v5)] [] h
  refine wa_iload_n (x := v2) dX5_makesLines_111 rfl 2 rfl ?_
  refine wa_iconst (v := 1) dX5_makesLines_112 rfl ?_
  refine wa_icmp_ne (tgt := 121) dX5_makesLines_113 rfl (fun z => ?_) (fun z => ?_)
  · have F := F.1 z
    exact wa_sub [0, 2, 3, 4, 5] rfl F
  · have F := F.2 z
    refine wa_aload_n (o := v1) dX5_makesLines_116 rfl 1 rfl ?_
    refine wa_iconst (v := 1) dX5_makesLines_117 rfl ?_
    refine wa_putN (C := RX6) (T := TX6) (N := 7) (ci := 5) (k := 5) tyX6 dX5_makesLines_118 rfl (Nat.le_of_ble_eq_true rfl) in_X6 tyX6_ok nmX6 q818 q_same_own rfl rfl rfl (p_F_mono F fun h1 F => ?_)
    exact wa_sub [0, 2, 3, 4, 5] rfl F
theorem f_X5_makesLines_179 {D : qD} {Q : Option Value → qH → Prop} {X : String → qH → Prop} (t : Nat) (v1 : Option Nat) (v2 : Int32) (v3 : Int32) (v4 : Option Nat) (h : qH) (F : g_R D h v1 5 1 (fun r1 => c_R D m_J18_valueOf [.int v3] h X (fun r3 h2 => (recv D h2 r1 RJ2 ∧ c_I D m_J2_add_2 [va_rf r1, va_rf r3] h2 X (fun x5 h4 => g_R D h4 (some t) 4 2 (fun r6 => g_R D h4 (some t) 4 1 (fun r7 => (recv D h4 r7 RJ2 ∧ c_I D m_J2_size [va_rf r7] h4 X (fun x9 h8 => s_I h8 r6 0 v3 (x9 - 1) (fun h10 => L_X5_makesLines_210 D Q X t v1 v2 v3 v4 h10)))))))))) : L_X5_makesLines_179 D Q X t v1 v2 v3 v4 h := by
  show WA D m_X5_makesLines Q X 179 [(0, va_rf (some t)), (1, va_rf v1), (2, .int v2), (3, .int v3), (4, va_rf v4)] [] h
  refine wa_aload_n (o := v1) dX5_makesLines_179 rfl 1 rfl ?_
  refine wa_getNR (C := RX6) (T := TX6) (N := 7) (ci := 5) (k := 1) dX5_makesLines_180 rfl (Nat.le_of_ble_eq_true rfl) in_X6 q811 q_same_own (g_R_mono F fun r1 F => ?_)
  refine wa_iload_n (x := v3) dX5_makesLines_183 rfl 3 rfl ?_
  refine wa_callS (M' := m_J18_valueOf) (As := [.int v3]) (st := [va_rf r1]) dX5_makesLines_184 ⟨Nat.le_of_ble_eq_true rfl, Nat.le_of_ble_eq_true rfl, nk_J18_valueOf⟩ q850 q851 q76 q852 rfl rfl (q_cs_le (q_csr q_cs0) (Nat.le_of_ble_eq_true rfl)) rfl F (wk_R fun r3 h2 F => ?_)
  refine wa_callF (M' := m_J2_add_2) (C := RJ2) (x := y_Ladd) (ci := 6) (o := r1) (As := [va_rf r3]) (st := []) dX5_makesLines_187 rfl rfl fw_J2_add_2 ⟨Nat.le_of_ble_eq_true rfl, Nat.le_of_ble_eq_true rfl⟩ nf_y_Ladd q838 q841 q843 q57 q845 rfl rfl (Nat.zero_le 8) rfl F.1 F.2 (wk_I fun x5 h4 F => ?_)
  refine wa_pop dX5_makesLines_192 rfl ?_
  refine wa_aload_n (o := (some t)) dX5_makesLines_193 rfl 0 rfl ?_
  refine wa_getR (C := RX5) (T := TX5) (N := 10) (ci := 4) (k := 2) dX5_makesLines_194 rfl (Nat.le_of_ble_eq_true rfl) in_X5 q925 q_same_own (g_R_mono F fun r6 F => ?_)
  refine wa_iload_n (x := v3) dX5_makesLines_197 rfl 3 rfl ?_
  refine wa_aload_n (o := (some t)) dX5_makesLines_198 rfl 0 rfl ?_
  refine wa_getR (C := RX5) (T := TX5) (N := 10) (ci := 4) (k := 1) dX5_makesLines_199 rfl (Nat.le_of_ble_eq_true rfl) in_X5 q923 q_same_own (g_R_mono F fun r7 F => ?_)
  refine wa_callF (M' := m_J2_size) (C := RJ2) (x := y_Lsize) (ci := 6) (o := r7) (As := []) (st := [.int v3, va_rf r6]) dX5_makesLines_202 rfl rfl fw_J2_size ⟨Nat.le_of_ble_eq_true rfl, Nat.le_of_ble_eq_true rfl⟩ nf_y_Lsize q771 q196 q198 q57 q200 rfl rfl (q_cs_le (q_csi (q_csr q_cs0)) (Nat.le_of_ble_eq_true rfl)) rfl F.1 F.2 (wk_I fun x9 h8 F => ?_)
  refine wa_iconst (v := 1) dX5_makesLines_207 rfl ?_
  refine wa_isub dX5_makesLines_208 ?_
  refine wa_iast dX5_makesLines_209 (s_I_mono F fun h10 F => ?_)
  exact F
theorem f_X5_makesLines_223 {D : qD} {Q : Option Value → qH → Prop} {X : String → qH → Prop} (t : Nat) (v1 : Option Nat) (v2 : Int32) (v3 : Int32) (h : qH) (F : L_X5_makesLines_6 D Q X t v1 v2 (v3 + 1) h) : L_X5_makesLines_223 D Q X t v1 v2 v3 h := by
  show WA D m_X5_makesLines Q X 223 [(0, va_rf (some t)), (1, va_rf v1), (2, .int v2), (3, .int v3)] [] h
  refine ws_iinc (j := 3) (v := (v3 + 1)) (lv' := [(3, .int (v3 + 1)), (0, va_rf (some t)), (1, va_rf v1), (2, .int v2)]) dX5_makesLines_223 rfl rfl (Nat.le_of_ble_eq_true rfl) (q_cr (q_cr (q_ci (q_ci q_cn)))) rfl ?_
  refine wa_goto (tgt := 6) dX5_makesLines_226 rfl ?_
  exact wa_sub [1, 2, 3, 0] rfl F
theorem f_X5_makesLines_121 {D : qD} {Q : Option Value → qH → Prop} {X : String → qH → Prop} (t : Nat) (v2 : Int32) (v3 : Int32) (v4 : Option Nat) (v5 : Int32) (h : qH) (F : n_O h 5 7 tyX6 (fun a1 h2 => g_I D h2 v4 3 0 (fun x3 => ((¬ x3 = 3 → L_X5_makesLines_139 D Q X t v2 v3 v4 v5 0 a1 a1 h2) ∧ (x3 = 3 → L_X5_makesLines_139 D Q X t v2 v3 v4 v5 1 a1 a1 h2))))) : L_X5_makesLines_121 D Q X t v2 v3 v4 v5 h := by
  show WA D m_X5_makesLines Q X 121 [(0, va_rf (some t)), (2, .int v2), (3, .int v3), (4, va_rf v4), (5, .int v5)] [] h
  refine wa_new (C := RX6) (T := TX6) tyX6 dX5_makesLines_121 rfl in_X6 tyX6_ok q799 q800 q82 (n_O_mono F fun a1 h2 F => ?_)
  refine wa_dup dX5_makesLines_124 (q_cat _) ?_
  refine wa_aload (o := v4) dX5_makesLines_125 3 rfl ?_
  refine wa_getNI (C := RX4) (T := TX4) (N := 3) (ci := 3) (k := 0) dX5_makesLines_127 rfl (Nat.le_of_ble_eq_true rfl) in_X4 q593 q_same_own (g_I_mono F fun x3 F => ?_)
  refine wa_iconst (v := 3) dX5_makesLines_130 rfl ?_
  refine wa_icmp_ne (tgt := 138) dX5_makesLines_131 rfl (fun z => ?_) (fun z => ?_)
  · have F := F.1 z
    refine wa_iconst (v := 0) dX5_makesLines_138 rfl ?_
    exact F
  · have F := F.2 z
    refine wa_iconst (v := 1) dX5_makesLines_134 rfl ?_
    refine wa_goto (tgt := 139) dX5_makesLines_135 rfl ?_
    exact F
theorem f_X5_makesLines_139 {D : qD} {Q : Option Value → qH → Prop} {X : String → qH → Prop} (t : Nat) (v2 : Int32) (v3 : Int32) (v4 : Option Nat) (v5 : Int32) (s0 : Int32) (s1 : Nat) (s2 : Nat) (h : qH) (F : c_V D m_X6_init [va_rf (some s1), .int s0] h X (fun h1 => g_R D h1 (some t) 4 1 (fun r2 => (recv D h1 r2 RJ2 ∧ c_I D m_J2_add_2 [va_rf r2, va_rf (some s2)] h1 X (fun x4 h3 => p_F h3 (some s2) 5 3 (.int v5) (fun h5 => L_X5_makesLines_179 D Q X t (some s2) (v2 + 1) v3 v4 h5)))))) : L_X5_makesLines_139 D Q X t v2 v3 v4 v5 s0 s1 s2 h := by
  show WA D m_X5_makesLines Q X 139 [(0, va_rf (some t)), (2, .int v2), (3, .int v3), (4, va_rf v4), (5, .int v5)] [.int s0, va_rf (some s1), va_rf (some s2)] h
  refine wa_callI (M' := m_X6_init) (b := s1) (As := [.int s0]) (st := [va_rf (some s2)]) dX5_makesLines_139 ⟨Nat.le_of_ble_eq_true rfl, Nat.le_of_ble_eq_true rfl, nk_X6_init⟩ rfl rfl q801 q802 q82 q803 rfl rfl (q_cs_le (q_csr q_cs0) (Nat.le_of_ble_eq_true rfl)) rfl F (wk_V fun h1 F => ?_)
  refine ws_astore_n (lv' := [(1, va_rf (some s2)), (0, va_rf (some t)), (2, .int v2), (3, .int v3), (4, va_rf v4), (5, .int v5)]) dX5_makesLines_142 rfl (Nat.le_of_ble_eq_true rfl) (q_cr (q_ci (q_ci (q_cr (q_ci q_cn))))) rfl ?_
  refine wa_aload_n (o := (some t)) dX5_makesLines_143 rfl 1 rfl ?_
  refine wa_getR (C := RX5) (T := TX5) (N := 10) (ci := 4) (k := 1) dX5_makesLines_144 rfl (Nat.le_of_ble_eq_true rfl) in_X5 q923 q_same_own (g_R_mono F fun r2 F => ?_)
  refine wa_aload_n (o := (some s2)) dX5_makesLines_147 rfl 0 rfl ?_
  refine wa_callF (M' := m_J2_add_2) (C := RJ2) (x := y_Ladd) (ci := 6) (o := r2) (As := [va_rf (some s2)]) (st := []) dX5_makesLines_148 rfl rfl fw_J2_add_2 ⟨Nat.le_of_ble_eq_true rfl, Nat.le_of_ble_eq_true rfl⟩ nf_y_Ladd q838 q841 q843 q57 q845 rfl rfl (Nat.zero_le 8) rfl F.1 F.2 (wk_I fun x4 h3 F => ?_)
  refine wa_pop dX5_makesLines_153 rfl ?_
  refine wa_aload_n (o := (some s2)) dX5_makesLines_154 rfl 0 rfl ?_
  refine wa_iload (x := v5) dX5_makesLines_155 5 rfl ?_
  refine wa_putN (C := RX6) (T := TX6) (N := 7) (ci := 5) (k := 3) tyX6 dX5_makesLines_157 rfl (Nat.le_of_ble_eq_true rfl) in_X6 tyX6_ok nmX6 q815 q_same_own rfl rfl rfl (p_F_mono F fun h5 F => ?_)
  refine ws_iinc (j := 2) (v := (v2 + 1)) (lv' := [(2, .int (v2 + 1)), (1, va_rf (some s2)), (0, va_rf (some t)), (3, .int v3), (4, va_rf v4), (5, .int v5)]) dX5_makesLines_160 rfl rfl (Nat.le_of_ble_eq_true rfl) (q_cr (q_cr (q_ci (q_ci (q_cr (q_ci q_cn)))))) rfl ?_
  refine wa_goto (tgt := 179) dX5_makesLines_163 rfl ?_
  exact wa_sub [2, 1, 0, 3, 4] rfl F
theorem f_X5_rowOf {D : qD} {Q : Option Value → qH → Prop} {X : String → qH → Prop} (t : Nat) (p0 : Int32) (h : qH) (F : g_R D h (some t) 4 9 (fun r1 => g_R D h r1 0 0 (fun r2 => (recv D h r2 RJ2 ∧ c_R D m_J2_get [va_rf r2, .int p0] h X (fun r4 h3 => (q_cast D h3 r4 "Quirefold$Token" ∧ n_I h3 0 3 (fun a5 h6 => g_I D h6 r4 3 0 (fun x7 => s_I h6 (some a5) 0 0 x7 (fun h8 => (recv D h8 (some t) RX5 ∧ c_I D m_X5_widthOf [va_rf (some t), va_rf r4] h8 X (fun x10 h9 => s_I h9 (some a5) 0 1 x10 (fun h11 => g_R D h11 (some t) 4 9 (fun r12 => g_R D h11 r12 0 1 (fun r13 => g_I D h11 r4 3 2 (fun x14 => a_R D h11 r13 5 x14 (fun r15 => (recv D h11 r15 RX2 ∧ c_I D (m_X2_colour 8) [va_rf r15] h11 X (fun x17 h16 => s_I h16 (some a5) 0 2 x17 (fun h18 => Q (some (va_rf (some a5))) h18))))))))))))))))))) : MW D m_X5_rowOf [va_rf (some t), .int p0] h Q X := by
  refine mw_of pl_X5_rowOf rfl _ (Nat.le_of_ble_eq_true rfl) rfl ?_
  refine (show WA D m_X5_rowOf Q X 0 [(0, va_rf (some t)), (1, .int p0)] [] h from ?_)
  refine wa_aload_n (o := (some t)) dX5_rowOf_0 rfl 0 rfl ?_
  refine wa_getR (C := RX5) (T := TX5) (N := 10) (ci := 4) (k := 9) dX5_rowOf_1 rfl (Nat.le_of_ble_eq_true rfl) in_X5 q935 q_same_own (g_R_mono F fun r1 F => ?_)
  refine wa_getNR (C := RX1) (T := TX1) (N := 11) (ci := 0) (k := 0) dX5_rowOf_4 rfl (Nat.le_of_ble_eq_true rfl) in_X1 q148 q_same_own (g_R_mono F fun r2 F => ?_)
  refine wa_iload_n (x := p0) dX5_rowOf_7 rfl 1 rfl ?_
  refine wa_callF (M' := m_J2_get) (C := RJ2) (x := y_Lget) (ci := 6) (o := r2) (As := [.int p0]) (st := []) dX5_rowOf_8 rfl rfl fw_J2_get ⟨Nat.le_of_ble_eq_true rfl, Nat.le_of_ble_eq_true rfl⟩ nf_y_Lget q773 q776 q778 q57 q780 rfl rfl (Nat.zero_le 8) rfl F.1 F.2 (wk_R fun r4 h3 F => ?_)
  refine wa_cast (C := "Quirefold$Token") dX5_rowOf_13 q785 F.1 ?_
  have F := F.2
  refine ws_astore_n (lv' := [(2, va_rf r4), (0, va_rf (some t)), (1, .int p0)]) dX5_rowOf_16 rfl (Nat.le_of_ble_eq_true rfl) (q_cr (q_ci q_cn)) rfl ?_
  refine wa_iconst (v := 3) dX5_rowOf_17 rfl ?_
  refine wa_newI (t := 0) (atype := .int) rfl rfl (Nat.le_of_ble_eq_true rfl) q146 dX5_rowOf_18 (n_I_mono F fun a5 h6 F => ?_)
  refine ws_astore_n (lv' := [(3, va_rf (some a5)), (2, va_rf r4), (0, va_rf (some t)), (1, .int p0)]) dX5_rowOf_20 rfl (Nat.le_of_ble_eq_true rfl) (q_cr (q_cr (q_ci q_cn))) rfl ?_
  refine wa_aload_n (o := (some a5)) dX5_rowOf_21 rfl 0 rfl ?_
  refine wa_iconst (v := 0) dX5_rowOf_22 rfl ?_
  refine wa_aload_n (o := r4) dX5_rowOf_23 rfl 1 rfl ?_
  refine wa_getNI (C := RX4) (T := TX4) (N := 3) (ci := 3) (k := 0) dX5_rowOf_24 rfl (Nat.le_of_ble_eq_true rfl) in_X4 q593 q_same_own (g_I_mono F fun x7 F => ?_)
  refine wa_iast dX5_rowOf_27 (s_I_mono F fun h8 F => ?_)
  refine wa_aload_n (o := (some a5)) dX5_rowOf_28 rfl 0 rfl ?_
  refine wa_iconst (v := 1) dX5_rowOf_29 rfl ?_
  refine wa_aload_n (o := (some t)) dX5_rowOf_30 rfl 2 rfl ?_
  refine wa_aload_n (o := r4) dX5_rowOf_31 rfl 1 rfl ?_
  refine wa_callV (M' := m_X5_widthOf) (C := RX5) (o := (some t)) (As := [va_rf r4]) (st := [.int 1, va_rf (some a5)]) dX5_rowOf_32 ⟨Nat.le_of_ble_eq_true rfl, Nat.le_of_ble_eq_true rfl, nk_X5_widthOf⟩ q790 q791 q792 q81 q793 rfl rfl (q_cs_le (q_csi (q_csr q_cs0)) (Nat.le_of_ble_eq_true rfl)) rfl F.1 F.2 (wk_I fun x10 h9 F => ?_)
  refine wa_iast dX5_rowOf_35 (s_I_mono F fun h11 F => ?_)
  refine wa_aload_n (o := (some a5)) dX5_rowOf_36 rfl 0 rfl ?_
  refine wa_iconst (v := 2) dX5_rowOf_37 rfl ?_
  refine wa_aload_n (o := (some t)) dX5_rowOf_38 rfl 2 rfl ?_
  refine wa_getR (C := RX5) (T := TX5) (N := 10) (ci := 4) (k := 9) dX5_rowOf_39 rfl (Nat.le_of_ble_eq_true rfl) in_X5 q935 q_same_own (g_R_mono F fun r12 F => ?_)
  refine wa_getNR (C := RX1) (T := TX1) (N := 11) (ci := 0) (k := 1) dX5_rowOf_42 rfl (Nat.le_of_ble_eq_true rfl) in_X1 q150 q_same_own (g_R_mono F fun r13 F => ?_)
  refine wa_aload_n (o := r4) dX5_rowOf_45 rfl 1 rfl ?_
  refine wa_getNI (C := RX4) (T := TX4) (N := 3) (ci := 3) (k := 2) dX5_rowOf_46 rfl (Nat.le_of_ble_eq_true rfl) in_X4 q599 q_same_own (g_I_mono F fun x14 F => ?_)
  refine wa_aald (t := 5) rfl rfl dX5_rowOf_49 (a_R_mono F fun r15 F => ?_)
  refine wa_callV (M' := (m_X2_colour 8)) (C := RX2) (o := r15) (As := []) (st := [.int 2, va_rf (some a5)]) dX5_rowOf_50 ⟨Nat.le_of_ble_eq_true rfl, Nat.le_of_ble_eq_true rfl, nk_X2_colour⟩ q1025 q1026 q1027 q58 q1028 rfl rfl (q_cs_le (q_csi (q_csr q_cs0)) (Nat.le_of_ble_eq_true rfl)) rfl F.1 F.2 (wk_I fun x17 h16 F => ?_)
  refine wa_iast dX5_rowOf_53 (s_I_mono F fun h18 F => ?_)
  refine wa_aload_n (o := (some a5)) dX5_rowOf_54 rfl 0 rfl ?_
  exact wa_aret rfl (Or.inr ⟨_, rfl⟩) dX5_rowOf_55 F
def L_X5_init_54 (D : qD) (Q : Option Value → qH → Prop) (X : String → qH → Prop) (t : Nat) (v3 : Int32) (h : qH) : Prop := WA D m_X5_init Q X 54 [(0, va_rf (some t)), (3, .int v3)] [] h
theorem f_X5_init {D : qD} {Q : Option Value → qH → Prop} {X : String → qH → Prop} (t : Nat) (p0 : Nat) (p1 : Int32) (h : qH) (F : p_F h (some t) 4 9 (va_rf (some p0)) (fun h1 => n_O h1 6 3 tyJ2 (fun a2 h3 => c_V D m_J2_init [va_rf (some a2)] h3 X (fun h4 => p_F h4 (some t) 4 1 (va_rf (some a2)) (fun h5 => n_I h5 0 120 (fun a6 h7 => p_F h7 (some t) 4 2 (va_rf (some a6)) (fun h8 => n_I h8 0 120 (fun a9 h10 => p_F h10 (some t) 4 3 (va_rf (some a9)) (fun h11 => n_O h11 6 3 tyJ2 (fun a12 h13 => c_V D m_J2_init [va_rf (some a12)] h13 X (fun h14 => p_F h14 (some t) 4 4 (va_rf (some a12)) (fun h15 => p_F h15 (some t) 4 0 (.int p1) (fun h16 => L_X5_init_54 D Q X t 0 h16))))))))))))) : MW D m_X5_init [va_rf (some t), va_rf (some p0), .int p1] h Q X := by
  refine mw_of pl_X5_init rfl _ (Nat.le_of_ble_eq_true rfl) rfl ?_
  refine (show WA D m_X5_init Q X 0 [(0, va_rf (some t)), (1, va_rf (some p0)), (2, .int p1)] [] h from ?_)
  refine wa_aload_n (o := (some t)) dX5_init_0 rfl 0 rfl ?_
  refine wa_aload_n (o := (some p0)) dX5_init_1 rfl 1 rfl ?_
  refine wa_putF (C := RX5) (T := TX5) (N := 10) (ci := 4) (k := 9) tyX5 dX5_init_2 rfl (Nat.le_of_ble_eq_true rfl) in_X5 tyX5_ok nmX5 q935 q_same_own rfl rfl rfl (q_nar_ref _) (q_fit_ref _) (p_F_mono F fun h1 F => ?_)
  refine wa_aload_n (o := (some t)) dX5_init_5 rfl 0 rfl ?_
  refine wa_objInit (a := t) dX5_init_6 q763 q91 q92 (Nat.le_of_ble_eq_true rfl) (Nat.zero_le 8) ?_
  refine wa_aload_n (o := (some t)) dX5_init_9 rfl 0 rfl ?_
  refine wa_new (C := RJ2) (T := TJ2) tyJ2 dX5_init_10 rfl in_J2 tyJ2_ok q764 q94 q57 (n_O_mono F fun a2 h3 F => ?_)
  refine wa_dup dX5_init_13 (q_cat _) ?_
  refine wa_callI (M' := m_J2_init) (b := a2) (As := []) (st := [va_rf (some a2), va_rf (some t)]) dX5_init_14 ⟨Nat.le_of_ble_eq_true rfl, Nat.le_of_ble_eq_true rfl, nk_J2_init⟩ rfl rfl q765 q96 q57 q97 rfl rfl (q_cs_le (q_csr (q_csr q_cs0)) (Nat.le_of_ble_eq_true rfl)) rfl F (wk_V fun h4 F => ?_)
  refine wa_putF (C := RX5) (T := TX5) (N := 10) (ci := 4) (k := 1) tyX5 dX5_init_17 rfl (Nat.le_of_ble_eq_true rfl) in_X5 tyX5_ok nmX5 q923 q_same_own rfl rfl rfl (q_nar_ref _) (q_fit_ref _) (p_F_mono F fun h5 F => ?_)
  refine wa_aload_n (o := (some t)) dX5_init_20 rfl 0 rfl ?_
  refine wa_bipush (v := 120) dX5_init_21 rfl ?_
  refine wa_newI (t := 0) (atype := .int) rfl rfl (Nat.le_of_ble_eq_true rfl) q146 dX5_init_23 (n_I_mono F fun a6 h7 F => ?_)
  refine wa_putF (C := RX5) (T := TX5) (N := 10) (ci := 4) (k := 2) tyX5 dX5_init_25 rfl (Nat.le_of_ble_eq_true rfl) in_X5 tyX5_ok nmX5 q925 q_same_own rfl rfl rfl (q_nar_arr _) (q_fit_arr _) (p_F_mono F fun h8 F => ?_)
  refine wa_aload_n (o := (some t)) dX5_init_28 rfl 0 rfl ?_
  refine wa_bipush (v := 120) dX5_init_29 rfl ?_
  refine wa_newI (t := 0) (atype := .int) rfl rfl (Nat.le_of_ble_eq_true rfl) q146 dX5_init_31 (n_I_mono F fun a9 h10 F => ?_)
  refine wa_putF (C := RX5) (T := TX5) (N := 10) (ci := 4) (k := 3) tyX5 dX5_init_33 rfl (Nat.le_of_ble_eq_true rfl) in_X5 tyX5_ok nmX5 q927 q_same_own rfl rfl rfl (q_nar_arr _) (q_fit_arr _) (p_F_mono F fun h11 F => ?_)
  refine wa_aload_n (o := (some t)) dX5_init_36 rfl 0 rfl ?_
  refine wa_new (C := RJ2) (T := TJ2) tyJ2 dX5_init_37 rfl in_J2 tyJ2_ok q764 q94 q57 (n_O_mono F fun a12 h13 F => ?_)
  refine wa_dup dX5_init_40 (q_cat _) ?_
  refine wa_callI (M' := m_J2_init) (b := a12) (As := []) (st := [va_rf (some a12), va_rf (some t)]) dX5_init_41 ⟨Nat.le_of_ble_eq_true rfl, Nat.le_of_ble_eq_true rfl, nk_J2_init⟩ rfl rfl q765 q96 q57 q97 rfl rfl (q_cs_le (q_csr (q_csr q_cs0)) (Nat.le_of_ble_eq_true rfl)) rfl F (wk_V fun h14 F => ?_)
  refine wa_putF (C := RX5) (T := TX5) (N := 10) (ci := 4) (k := 4) tyX5 dX5_init_44 rfl (Nat.le_of_ble_eq_true rfl) in_X5 tyX5_ok nmX5 q929 q_same_own rfl rfl rfl (q_nar_ref _) (q_fit_ref _) (p_F_mono F fun h15 F => ?_)
  refine wa_aload_n (o := (some t)) dX5_init_47 rfl 0 rfl ?_
  refine wa_iload_n (x := p1) dX5_init_48 rfl 2 rfl ?_
  refine wa_putF (C := RX5) (T := TX5) (N := 10) (ci := 4) (k := 0) tyX5 dX5_init_49 rfl (Nat.le_of_ble_eq_true rfl) in_X5 tyX5_ok nmX5 q922 q_same_own rfl rfl rfl rfl rfl (p_F_mono F fun h16 F => ?_)
  refine wa_iconst (v := 0) dX5_init_52 rfl ?_
  refine ws_istore_n (lv' := [(3, .int 0), (0, va_rf (some t)), (1, va_rf (some p0)), (2, .int p1)]) dX5_init_53 rfl (Nat.le_of_ble_eq_true rfl) (q_cr (q_cr (q_ci q_cn))) rfl ?_
  exact wa_sub [1, 0] rfl F
theorem f_X5_init_54 {D : qD} {Q : Option Value → qH → Prop} {X : String → qH → Prop} (t : Nat) (v3 : Int32) (h : qH) (F : ((120 ≤ v3 → (recv D h (some t) RX5 ∧ c_V D m_X5_makesLines [va_rf (some t)] h X (fun h1 => (recv D h1 (some t) RX5 ∧ c_V D m_X5_hangs [va_rf (some t)] h1 X (fun h2 => (recv D h2 (some t) RX5 ∧ c_V D m_X5_fills [va_rf (some t)] h2 X (fun h3 => (recv D h3 (some t) RX5 ∧ c_I D m_X5_rests [va_rf (some t)] h3 X (fun x5 h4 => p_F h4 (some t) 4 8 (.int x5) (fun h6 => Q none h6)))))))))) ∧ (¬ 120 ≤ v3 → g_R D h (some t) 4 2 (fun r7 => s_I h r7 0 v3 (-1) (fun h8 => g_R D h8 (some t) 4 3 (fun r9 => s_I h8 r9 0 v3 (-1) (fun h10 => L_X5_init_54 D Q X t (v3 + 1) h10))))))) : L_X5_init_54 D Q X t v3 h := by
  show WA D m_X5_init Q X 54 [(0, va_rf (some t)), (3, .int v3)] [] h
  refine wa_iload_n (x := v3) dX5_init_54 rfl 1 rfl ?_
  refine wa_bipush (v := 120) dX5_init_55 rfl ?_
  refine wa_icmp_ge (tgt := 80) dX5_init_57 rfl (fun z => ?_) (fun z => ?_)
  · have F := F.1 z
    refine wa_aload_n (o := (some t)) dX5_init_80 rfl 0 rfl ?_
    refine wa_callV (M' := m_X5_makesLines) (C := RX5) (o := (some t)) (As := []) (st := []) dX5_init_81 ⟨Nat.le_of_ble_eq_true rfl, Nat.le_of_ble_eq_true rfl, nk_X5_makesLines⟩ q766 q768 qs8 q81 q769 rfl rfl (Nat.zero_le 8) rfl F.1 F.2 (wk_V fun h1 F => ?_)
    refine wa_aload_n (o := (some t)) dX5_init_84 rfl 0 rfl ?_
    refine wa_callV (M' := m_X5_hangs) (C := RX5) (o := (some t)) (As := []) (st := []) dX5_init_85 ⟨Nat.le_of_ble_eq_true rfl, Nat.le_of_ble_eq_true rfl, nk_X5_hangs⟩ q870 q872 qs11 q81 q873 rfl rfl (Nat.zero_le 8) rfl F.1 F.2 (wk_V fun h2 F => ?_)
    refine wa_aload_n (o := (some t)) dX5_init_88 rfl 0 rfl ?_
    refine wa_callV (M' := m_X5_fills) (C := RX5) (o := (some t)) (As := []) (st := []) dX5_init_89 ⟨Nat.le_of_ble_eq_true rfl, Nat.le_of_ble_eq_true rfl, nk_X5_fills⟩ q883 q885 qs12 q81 q886 rfl rfl (Nat.zero_le 8) rfl F.1 F.2 (wk_V fun h3 F => ?_)
    refine wa_aload_n (o := (some t)) dX5_init_92 rfl 0 rfl ?_
    refine wa_aload_n (o := (some t)) dX5_init_93 rfl 0 rfl ?_
    refine wa_callV (M' := m_X5_rests) (C := RX5) (o := (some t)) (As := []) (st := [va_rf (some t)]) dX5_init_94 ⟨Nat.le_of_ble_eq_true rfl, Nat.le_of_ble_eq_true rfl, nk_X5_rests⟩ q910 q912 qs15 q81 q913 rfl rfl (q_cs_le (q_csr q_cs0) (Nat.le_of_ble_eq_true rfl)) rfl F.1 F.2 (wk_I fun x5 h4 F => ?_)
    refine wa_put (C := RX5) (T := TX5) (N := 10) (ci := 4) (k := 8) tyX5 dX5_init_97 rfl (Nat.le_of_ble_eq_true rfl) in_X5 tyX5_ok nmX5 q933 q_same_own rfl rfl rfl (p_F_mono F fun h6 F => ?_)
    exact wa_vret rfl dX5_init_100 F
  · have F := F.2 z
    refine wa_aload_n (o := (some t)) dX5_init_60 rfl 0 rfl ?_
    refine wa_getR (C := RX5) (T := TX5) (N := 10) (ci := 4) (k := 2) dX5_init_61 rfl (Nat.le_of_ble_eq_true rfl) in_X5 q925 q_same_own (g_R_mono F fun r7 F => ?_)
    refine wa_iload_n (x := v3) dX5_init_64 rfl 1 rfl ?_
    refine wa_iconst (v := -1) dX5_init_65 rfl ?_
    refine wa_iast dX5_init_66 (s_I_mono F fun h8 F => ?_)
    refine wa_aload_n (o := (some t)) dX5_init_67 rfl 0 rfl ?_
    refine wa_getR (C := RX5) (T := TX5) (N := 10) (ci := 4) (k := 3) dX5_init_68 rfl (Nat.le_of_ble_eq_true rfl) in_X5 q927 q_same_own (g_R_mono F fun r9 F => ?_)
    refine wa_iload_n (x := v3) dX5_init_71 rfl 1 rfl ?_
    refine wa_iconst (v := -1) dX5_init_72 rfl ?_
    refine wa_iast dX5_init_73 (s_I_mono F fun h10 F => ?_)
    refine ws_iinc (j := 1) (v := (v3 + 1)) (lv' := [(3, .int (v3 + 1)), (0, va_rf (some t))]) dX5_init_74 rfl rfl (Nat.le_of_ble_eq_true rfl) (q_cr (q_ci q_cn)) rfl ?_
    refine wa_goto (tgt := 54) dX5_init_77 rfl ?_
    exact wa_sub [1, 0] rfl F
def L_X5_rowsOf_30 (D : qD) (Q : Option Value → qH → Prop) (X : String → qH → Prop) (t : Nat) (v2 : Option Nat) (v3 : Option Nat) (h : qH) : Prop := WA D m_X5_rowsOf Q X 30 [(0, va_rf (some t)), (2, va_rf v2), (3, va_rf v3)] [] h
theorem f_X5_rowsOf {D : qD} {Q : Option Value → qH → Prop} {X : String → qH → Prop} (t : Nat) (p0 : Int32) (h : qH) (F : n_O h 6 3 tyJ2 (fun a1 h2 => c_V D m_J2_init [va_rf (some a1)] h2 X (fun h3 => g_R D h3 (some t) 4 1 (fun r4 => (recv D h3 r4 RJ2 ∧ c_R D m_J2_get [va_rf r4, .int p0] h3 X (fun r6 h5 => (q_cast D h5 r6 "Quirefold$Line" ∧ g_R D h5 r6 5 1 (fun r7 => (recv D h5 r7 RJ2 ∧ c_R D m_J2_iterator [va_rf r7] h5 X (fun r9 h8 => L_X5_rowsOf_30 D Q X t (some a1) r9 h8)))))))))) : MW D m_X5_rowsOf [va_rf (some t), .int p0] h Q X := by
  refine mw_of pl_X5_rowsOf rfl _ (Nat.le_of_ble_eq_true rfl) rfl ?_
  refine (show WA D m_X5_rowsOf Q X 0 [(0, va_rf (some t)), (1, .int p0)] [] h from ?_)
  refine wa_new (C := RJ2) (T := TJ2) tyJ2 dX5_rowsOf_0 rfl in_J2 tyJ2_ok q764 q94 q57 (n_O_mono F fun a1 h2 F => ?_)
  refine wa_dup dX5_rowsOf_3 (q_cat _) ?_
  refine wa_callI (M' := m_J2_init) (b := a1) (As := []) (st := [va_rf (some a1)]) dX5_rowsOf_4 ⟨Nat.le_of_ble_eq_true rfl, Nat.le_of_ble_eq_true rfl, nk_J2_init⟩ rfl rfl q765 q96 q57 q97 rfl rfl (q_cs_le (q_csr q_cs0) (Nat.le_of_ble_eq_true rfl)) rfl F (wk_V fun h3 F => ?_)
  refine ws_astore_n (lv' := [(2, va_rf (some a1)), (0, va_rf (some t)), (1, .int p0)]) dX5_rowsOf_7 rfl (Nat.le_of_ble_eq_true rfl) (q_cr (q_ci q_cn)) rfl ?_
  refine wa_aload_n (o := (some t)) dX5_rowsOf_8 rfl 1 rfl ?_
  refine wa_getR (C := RX5) (T := TX5) (N := 10) (ci := 4) (k := 1) dX5_rowsOf_9 rfl (Nat.le_of_ble_eq_true rfl) in_X5 q923 q_same_own (g_R_mono F fun r4 F => ?_)
  refine wa_iload_n (x := p0) dX5_rowsOf_12 rfl 2 rfl ?_
  refine wa_callF (M' := m_J2_get) (C := RJ2) (x := y_Lget) (ci := 6) (o := r4) (As := [.int p0]) (st := []) dX5_rowsOf_13 rfl rfl fw_J2_get ⟨Nat.le_of_ble_eq_true rfl, Nat.le_of_ble_eq_true rfl⟩ nf_y_Lget q773 q776 q778 q57 q780 rfl rfl (Nat.zero_le 8) rfl F.1 F.2 (wk_R fun r6 h5 F => ?_)
  refine wa_cast (C := "Quirefold$Line") dX5_rowsOf_18 q799 F.1 ?_
  have F := F.2
  refine wa_getNR (C := RX6) (T := TX6) (N := 7) (ci := 5) (k := 1) dX5_rowsOf_21 rfl (Nat.le_of_ble_eq_true rfl) in_X6 q811 q_same_own (g_R_mono F fun r7 F => ?_)
  refine wa_callF (M' := m_J2_iterator) (C := RJ2) (x := y_Literator) (ci := 6) (o := r7) (As := []) (st := []) dX5_rowsOf_24 rfl rfl fw_J2_iterator ⟨Nat.le_of_ble_eq_true rfl, Nat.le_of_ble_eq_true rfl⟩ nf_y_Literator q971 q974 q976 q57 q978 rfl rfl (Nat.zero_le 8) rfl F.1 F.2 (wk_R fun r9 h8 F => ?_)
  refine ws_astore_n (lv' := [(3, va_rf r9), (2, va_rf (some a1)), (0, va_rf (some t)), (1, .int p0)]) dX5_rowsOf_29 rfl (Nat.le_of_ble_eq_true rfl) (q_cr (q_cr (q_ci q_cn))) rfl ?_
  exact wa_sub [2, 1, 0] rfl F
theorem f_X5_rowsOf_30 {D : qD} {Q : Option Value → qH → Prop} {X : String → qH → Prop} (t : Nat) (v2 : Option Nat) (v3 : Option Nat) (h : qH) (F : (recv D h v3 RJ22 ∧ c_I D m_J22_hasNext [va_rf v3] h X (fun x2 h1 => ((x2 = 0 → Q (some (va_rf v2)) h1) ∧ (¬ x2 = 0 → (recv D h1 v3 RJ22 ∧ c_R D m_J22_next [va_rf v3] h1 X (fun r4 h3 => (q_cast D h3 r4 "java/lang/Integer" ∧ (recv D h3 r4 RJ18 ∧ c_I D m_J18_intValue [va_rf r4] h3 X (fun x6 h5 => (recv D h5 (some t) RX5 ∧ c_R D m_X5_rowOf [va_rf (some t), .int x6] h5 X (fun r8 h7 => (recv D h7 v2 RJ2 ∧ c_I D m_J2_add_2 [va_rf v2, va_rf r8] h7 X (fun x10 h9 => L_X5_rowsOf_30 D Q X t v2 v3 h9)))))))))))))) : L_X5_rowsOf_30 D Q X t v2 v3 h := by
  show WA D m_X5_rowsOf Q X 30 [(0, va_rf (some t)), (2, va_rf v2), (3, va_rf v3)] [] h
  refine wa_aload_n (o := v3) dX5_rowsOf_30 rfl 2 rfl ?_
  refine wa_callF (M' := m_J22_hasNext) (C := RJ22) (x := y_IhasNext) (ci := 7) (o := v3) (As := []) (st := []) dX5_rowsOf_31 rfl rfl fw_J22_hasNext ⟨Nat.le_of_ble_eq_true rfl, Nat.le_of_ble_eq_true rfl⟩ nf_y_IhasNext q999 q1003 q1005 q84 q1007 rfl rfl (Nat.zero_le 8) rfl F.1 F.2 (wk_I fun x2 h1 F => ?_)
  refine wa_if_eq (tgt := 69) dX5_rowsOf_36 rfl (fun z => ?_) (fun z => ?_)
  · have F := F.1 z
    refine wa_aload_n (o := v2) dX5_rowsOf_69 rfl 1 rfl ?_
    exact wa_aret rfl (Or.inl ⟨_, rfl⟩) dX5_rowsOf_70 F
  · have F := F.2 z
    refine wa_aload_n (o := v3) dX5_rowsOf_39 rfl 2 rfl ?_
    refine wa_callF (M' := m_J22_next) (C := RJ22) (x := y_Inext) (ci := 7) (o := v3) (As := []) (st := []) dX5_rowsOf_40 rfl rfl fw_J22_next ⟨Nat.le_of_ble_eq_true rfl, Nat.le_of_ble_eq_true rfl⟩ nf_y_Inext q1009 q1012 q1014 q84 q1016 rfl rfl (Nat.zero_le 8) rfl F.1 F.2 (wk_R fun r4 h3 F => ?_)
    refine wa_cast (C := "java/lang/Integer") dX5_rowsOf_45 q891 F.1 ?_
    have F := F.2
    refine wa_callV (M' := m_J18_intValue) (C := RJ18) (o := r4) (As := []) (st := []) dX5_rowsOf_48 ⟨Nat.le_of_ble_eq_true rfl, Nat.le_of_ble_eq_true rfl, nk_J18_intValue⟩ q892 q893 q894 q76 q895 rfl rfl (Nat.zero_le 8) rfl F.1 F.2 (wk_I fun x6 h5 F => ?_)
    refine ws_istore (lv' := [(4, .int x6), (0, va_rf (some t)), (2, va_rf v2), (3, va_rf v3)]) dX5_rowsOf_51 (Nat.le_of_ble_eq_true rfl) (q_cr (q_cr (q_cr q_cn))) rfl ?_
    refine wa_aload_n (o := v2) dX5_rowsOf_53 rfl 2 rfl ?_
    refine wa_aload_n (o := (some t)) dX5_rowsOf_54 rfl 1 rfl ?_
    refine wa_iload (x := x6) dX5_rowsOf_55 0 rfl ?_
    refine wa_callV (M' := m_X5_rowOf) (C := RX5) (o := (some t)) (As := [.int x6]) (st := [va_rf v2]) dX5_rowsOf_57 ⟨Nat.le_of_ble_eq_true rfl, Nat.le_of_ble_eq_true rfl, nk_X5_rowOf⟩ q1021 q1022 q1023 q81 q1024 rfl rfl (q_cs_le (q_csr q_cs0) (Nat.le_of_ble_eq_true rfl)) rfl F.1 F.2 (wk_R fun r8 h7 F => ?_)
    refine wa_callF (M' := m_J2_add_2) (C := RJ2) (x := y_Ladd) (ci := 6) (o := v2) (As := [va_rf r8]) (st := []) dX5_rowsOf_60 rfl rfl fw_J2_add_2 ⟨Nat.le_of_ble_eq_true rfl, Nat.le_of_ble_eq_true rfl⟩ nf_y_Ladd q838 q841 q843 q57 q845 rfl rfl (Nat.zero_le 8) rfl F.1 F.2 (wk_I fun x10 h9 F => ?_)
    refine wa_pop dX5_rowsOf_65 rfl ?_
    refine wa_goto (tgt := 30) dX5_rowsOf_66 rfl ?_
    exact wa_sub [1, 2, 3] rfl F
def L_X5_isLike_37 (D : qD) (Q : Option Value → qH → Prop) (X : String → qH → Prop) (t : Nat) (v2 : Nat) (v3 : Option Nat) (s0 : Int32) (h : qH) : Prop := WA D m_X5_isLike Q X 37 [(0, va_rf (some t)), (2, va_rf (some v2)), (3, va_rf v3)] [.int s0] h
def L_X5_isLike_42 (D : qD) (Q : Option Value → qH → Prop) (X : String → qH → Prop) (t : Nat) (v2 : Nat) (v3 : Option Nat) (v4 : Int32) (v5 : Int32) (h : qH) : Prop := WA D m_X5_isLike Q X 42 [(0, va_rf (some t)), (2, va_rf (some v2)), (3, va_rf v3), (4, .int v4), (5, .int v5)] [] h
def L_X5_isLike_128 (D : qD) (Q : Option Value → qH → Prop) (X : String → qH → Prop) (t : Nat) (v2 : Nat) (v3 : Option Nat) (v5 : Int32) (h : qH) : Prop := WA D m_X5_isLike Q X 128 [(0, va_rf (some t)), (2, va_rf (some v2)), (3, va_rf v3), (5, .int v5)] [] h
def L_X5_isLike_129 (D : qD) (Q : Option Value → qH → Prop) (X : String → qH → Prop) (t : Nat) (v2 : Nat) (v3 : Option Nat) (v5 : Int32) (s0 : Int32) (h : qH) : Prop := WA D m_X5_isLike Q X 129 [(0, va_rf (some t)), (2, va_rf (some v2)), (3, va_rf v3), (5, .int v5)] [.int s0] h
theorem f_X5_isLike {D : qD} {Q : Option Value → qH → Prop} {X : String → qH → Prop} (t : Nat) (p0 : Int32) (p1 : Nat) (h : qH) (F : g_R D h (some t) 4 1 (fun r1 => (recv D h r1 RJ2 ∧ c_R D m_J2_get [va_rf r1, .int p0] h X (fun r3 h2 => (q_cast D h2 r3 "Quirefold$Line" ∧ g_R D h2 r3 5 1 (fun r4 => (recv D h2 r4 RJ2 ∧ c_I D m_J2_size [va_rf r4] h2 X (fun x6 h5 => (recv D h5 (some p1) RJ2 ∧ c_I D m_J2_size [va_rf (some p1)] h5 X (fun x8 h7 => ((¬ x6 = x8 → L_X5_isLike_37 D Q X t p1 r4 0 h7) ∧ (x6 = x8 → L_X5_isLike_37 D Q X t p1 r4 1 h7)))))))))))) : MW D m_X5_isLike [va_rf (some t), .int p0, va_rf (some p1)] h Q X := by
  refine mw_of pl_X5_isLike rfl _ (Nat.le_of_ble_eq_true rfl) rfl ?_
  refine (show WA D m_X5_isLike Q X 0 [(0, va_rf (some t)), (1, .int p0), (2, va_rf (some p1))] [] h from ?_)
  refine wa_aload_n (o := (some t)) dX5_isLike_0 rfl 0 rfl ?_
  refine wa_getR (C := RX5) (T := TX5) (N := 10) (ci := 4) (k := 1) dX5_isLike_1 rfl (Nat.le_of_ble_eq_true rfl) in_X5 q923 q_same_own (g_R_mono F fun r1 F => ?_)
  refine wa_iload_n (x := p0) dX5_isLike_4 rfl 1 rfl ?_
  refine wa_callF (M' := m_J2_get) (C := RJ2) (x := y_Lget) (ci := 6) (o := r1) (As := [.int p0]) (st := []) dX5_isLike_5 rfl rfl fw_J2_get ⟨Nat.le_of_ble_eq_true rfl, Nat.le_of_ble_eq_true rfl⟩ nf_y_Lget q773 q776 q778 q57 q780 rfl rfl (Nat.zero_le 8) rfl F.1 F.2 (wk_R fun r3 h2 F => ?_)
  refine wa_cast (C := "Quirefold$Line") dX5_isLike_10 q799 F.1 ?_
  have F := F.2
  refine wa_getNR (C := RX6) (T := TX6) (N := 7) (ci := 5) (k := 1) dX5_isLike_13 rfl (Nat.le_of_ble_eq_true rfl) in_X6 q811 q_same_own (g_R_mono F fun r4 F => ?_)
  refine ws_astore_n (lv' := [(3, va_rf r4), (0, va_rf (some t)), (1, .int p0), (2, va_rf (some p1))]) dX5_isLike_16 rfl (Nat.le_of_ble_eq_true rfl) (q_cr (q_ci (q_cr q_cn))) rfl ?_
  refine wa_aload_n (o := r4) dX5_isLike_17 rfl 0 rfl ?_
  refine wa_callF (M' := m_J2_size) (C := RJ2) (x := y_Lsize) (ci := 6) (o := r4) (As := []) (st := []) dX5_isLike_18 rfl rfl fw_J2_size ⟨Nat.le_of_ble_eq_true rfl, Nat.le_of_ble_eq_true rfl⟩ nf_y_Lsize q771 q196 q198 q57 q200 rfl rfl (Nat.zero_le 8) rfl F.1 F.2 (wk_I fun x6 h5 F => ?_)
  refine wa_aload_n (o := (some p1)) dX5_isLike_23 rfl 3 rfl ?_
  refine wa_callF (M' := m_J2_size) (C := RJ2) (x := y_Lsize) (ci := 6) (o := (some p1)) (As := []) (st := [.int x6]) dX5_isLike_24 rfl rfl fw_J2_size ⟨Nat.le_of_ble_eq_true rfl, Nat.le_of_ble_eq_true rfl⟩ nf_y_Lsize q771 q196 q198 q57 q200 rfl rfl (q_cs_le (q_csi q_cs0) (Nat.le_of_ble_eq_true rfl)) rfl F.1 F.2 (wk_I fun x8 h7 F => ?_)
  refine wa_icmp_ne (tgt := 36) dX5_isLike_29 rfl (fun z => ?_) (fun z => ?_)
  · have F := F.1 z
    refine wa_iconst (v := 0) dX5_isLike_36 rfl ?_
    exact wa_sub [1, 3, 0] rfl F
  · have F := F.2 z
    refine wa_iconst (v := 1) dX5_isLike_32 rfl ?_
    refine wa_goto (tgt := 37) dX5_isLike_33 rfl ?_
    exact wa_sub [1, 3, 0] rfl F
theorem f_X5_isLike_37 {D : qD} {Q : Option Value → qH → Prop} {X : String → qH → Prop} (t : Nat) (v2 : Nat) (v3 : Option Nat) (s0 : Int32) (h : qH) (F : L_X5_isLike_42 D Q X t v2 v3 s0 0 h) : L_X5_isLike_37 D Q X t v2 v3 s0 h := by
  show WA D m_X5_isLike Q X 37 [(0, va_rf (some t)), (2, va_rf (some v2)), (3, va_rf v3)] [.int s0] h
  refine ws_istore (lv' := [(4, .int s0), (0, va_rf (some t)), (2, va_rf (some v2)), (3, va_rf v3)]) dX5_isLike_37 (Nat.le_of_ble_eq_true rfl) (q_cr (q_cr (q_cr q_cn))) rfl ?_
  refine wa_iconst (v := 0) dX5_isLike_39 rfl ?_
  refine ws_istore (lv' := [(5, .int 0), (4, .int s0), (0, va_rf (some t)), (2, va_rf (some v2)), (3, va_rf v3)]) dX5_isLike_40 (Nat.le_of_ble_eq_true rfl) (q_ci (q_cr (q_cr (q_cr q_cn)))) rfl ?_
  exact wa_sub [2, 3, 4, 1, 0] rfl F
theorem f_X5_isLike_42 {D : qD} {Q : Option Value → qH → Prop} {X : String → qH → Prop} (t : Nat) (v2 : Nat) (v3 : Option Nat) (v4 : Int32) (v5 : Int32) (h : qH) (F : (recv D h v3 RJ2 ∧ c_I D m_J2_size [va_rf v3] h X (fun x2 h1 => ((x2 ≤ v5 → ((v4 = 0 ∨ v4 = 1) ∧ Q (some (.int v4)) h1)) ∧ (¬ x2 ≤ v5 → ((v4 = 0 → ((v4 = 0 ∨ v4 = 1) ∧ Q (some (.int v4)) h1)) ∧ (¬ v4 = 0 → (recv D h1 v3 RJ2 ∧ c_R D m_J2_get [va_rf v3, .int v5] h1 X (fun r4 h3 => (q_cast D h3 r4 "java/lang/Integer" ∧ (recv D h3 r4 RJ18 ∧ c_I D m_J18_intValue [va_rf r4] h3 X (fun x6 h5 => (recv D h5 (some t) RX5 ∧ c_R D m_X5_rowOf [va_rf (some t), .int x6] h5 X (fun r8 h7 => (recv D h7 (some v2) RJ2 ∧ c_R D m_J2_get [va_rf (some v2), .int v5] h7 X (fun r10 h9 => (q_cast D h9 r10 "[I" ∧ a_I D h9 r8 0 0 (fun x11 => a_I D h9 r10 0 0 (fun x12 => ((¬ x11 = x12 → L_X5_isLike_128 D Q X t v2 v3 v5 h9) ∧ (x11 = x12 → a_I D h9 r8 0 1 (fun x13 => a_I D h9 r10 0 1 (fun x14 => ((¬ x13 = x14 → L_X5_isLike_128 D Q X t v2 v3 v5 h9) ∧ (x13 = x14 → a_I D h9 r8 0 2 (fun x15 => a_I D h9 r10 0 2 (fun x16 => ((¬ x15 = x16 → L_X5_isLike_128 D Q X t v2 v3 v5 h9) ∧ (x15 = x16 → L_X5_isLike_129 D Q X t v2 v3 v5 1 h9))))))))))))))))))))))))))))) : L_X5_isLike_42 D Q X t v2 v3 v4 v5 h := by
  show WA D m_X5_isLike Q X 42 [(0, va_rf (some t)), (2, va_rf (some v2)), (3, va_rf v3), (4, .int v4), (5, .int v5)] [] h
  refine wa_iload (x := v5) dX5_isLike_42 4 rfl ?_
  refine wa_aload_n (o := v3) dX5_isLike_44 rfl 2 rfl ?_
  refine wa_callF (M' := m_J2_size) (C := RJ2) (x := y_Lsize) (ci := 6) (o := v3) (As := []) (st := [.int v5]) dX5_isLike_45 rfl rfl fw_J2_size ⟨Nat.le_of_ble_eq_true rfl, Nat.le_of_ble_eq_true rfl⟩ nf_y_Lsize q771 q196 q198 q57 q200 rfl rfl (q_cs_le (q_csi q_cs0) (Nat.le_of_ble_eq_true rfl)) rfl F.1 F.2 (wk_I fun x2 h1 F => ?_)
  refine wa_icmp_ge (tgt := 137) dX5_isLike_50 rfl (fun z => ?_) (fun z => ?_)
  · have F := F.1 z
    refine wa_iload (x := v4) dX5_isLike_137 3 rfl ?_
    exact wa_zret rfl (q_nar_z F.1) dX5_isLike_139 F.2
  · have F := F.2 z
    refine wa_iload (x := v4) dX5_isLike_53 3 rfl ?_
    refine wa_if_eq (tgt := 137) dX5_isLike_55 rfl (fun z => ?_) (fun z => ?_)
    · have F := F.1 z
      refine wa_iload (x := v4) dX5_isLike_137 3 rfl ?_
      exact wa_zret rfl (q_nar_z F.1) dX5_isLike_139 F.2
    · have F := F.2 z
      refine wa_aload_n (o := (some t)) dX5_isLike_58 rfl 0 rfl ?_
      refine wa_aload_n (o := v3) dX5_isLike_59 rfl 2 rfl ?_
      refine wa_iload (x := v5) dX5_isLike_60 4 rfl ?_
      refine wa_callF (M' := m_J2_get) (C := RJ2) (x := y_Lget) (ci := 6) (o := v3) (As := [.int v5]) (st := [va_rf (some t)]) dX5_isLike_62 rfl rfl fw_J2_get ⟨Nat.le_of_ble_eq_true rfl, Nat.le_of_ble_eq_true rfl⟩ nf_y_Lget q773 q776 q778 q57 q780 rfl rfl (q_cs_le (q_csr q_cs0) (Nat.le_of_ble_eq_true rfl)) rfl F.1 F.2 (wk_R fun r4 h3 F => ?_)
      refine wa_cast (C := "java/lang/Integer") dX5_isLike_67 q891 F.1 ?_
      have F := F.2
      refine wa_callV (M' := m_J18_intValue) (C := RJ18) (o := r4) (As := []) (st := [va_rf (some t)]) dX5_isLike_70 ⟨Nat.le_of_ble_eq_true rfl, Nat.le_of_ble_eq_true rfl, nk_J18_intValue⟩ q892 q893 q894 q76 q895 rfl rfl (q_cs_le (q_csr q_cs0) (Nat.le_of_ble_eq_true rfl)) rfl F.1 F.2 (wk_I fun x6 h5 F => ?_)
      refine wa_callV (M' := m_X5_rowOf) (C := RX5) (o := (some t)) (As := [.int x6]) (st := []) dX5_isLike_73 ⟨Nat.le_of_ble_eq_true rfl, Nat.le_of_ble_eq_true rfl, nk_X5_rowOf⟩ q1021 q1022 q1023 q81 q1024 rfl rfl (Nat.zero_le 8) rfl F.1 F.2 (wk_R fun r8 h7 F => ?_)
      refine ws_astore (lv' := [(6, va_rf r8), (0, va_rf (some t)), (2, va_rf (some v2)), (3, va_rf v3), (4, .int v4), (5, .int v5)]) dX5_isLike_76 (Nat.le_of_ble_eq_true rfl) (q_cr (q_cr (q_cr (q_ci (q_ci q_cn))))) rfl ?_
      refine wa_aload_n (o := (some v2)) dX5_isLike_78 rfl 2 rfl ?_
      refine wa_iload (x := v5) dX5_isLike_79 5 rfl ?_
      refine wa_callF (M' := m_J2_get) (C := RJ2) (x := y_Lget) (ci := 6) (o := (some v2)) (As := [.int v5]) (st := []) dX5_isLike_81 rfl rfl fw_J2_get ⟨Nat.le_of_ble_eq_true rfl, Nat.le_of_ble_eq_true rfl⟩ nf_y_Lget q773 q776 q778 q57 q780 rfl rfl (Nat.zero_le 8) rfl F.1 F.2 (wk_R fun r10 h9 F => ?_)
      refine wa_cast (C := "[I") dX5_isLike_86 q1184 F.1 ?_
      have F := F.2
      refine ws_astore (lv' := [(7, va_rf r10), (6, va_rf r8), (0, va_rf (some t)), (2, va_rf (some v2)), (3, va_rf v3), (4, .int v4), (5, .int v5)]) dX5_isLike_89 (Nat.le_of_ble_eq_true rfl) (q_cr (q_cr (q_cr (q_cr (q_ci (q_ci q_cn)))))) rfl ?_
      refine wa_aload (o := r8) dX5_isLike_91 1 rfl ?_
      refine wa_iconst (v := 0) dX5_isLike_93 rfl ?_
      refine wa_iald dX5_isLike_94 (a_I_mono F fun x11 F => ?_)
      refine wa_aload (o := r10) dX5_isLike_95 0 rfl ?_
      refine wa_iconst (v := 0) dX5_isLike_97 rfl ?_
      refine wa_iald dX5_isLike_98 (a_I_mono F fun x12 F => ?_)
      refine wa_icmp_ne (tgt := 128) dX5_isLike_99 rfl (fun z => ?_) (fun z => ?_)
      · have F := F.1 z
        exact wa_sub [2, 3, 4, 6] rfl F
      · have F := F.2 z
        refine wa_aload (o := r8) dX5_isLike_102 1 rfl ?_
        refine wa_iconst (v := 1) dX5_isLike_104 rfl ?_
        refine wa_iald dX5_isLike_105 (a_I_mono F fun x13 F => ?_)
        refine wa_aload (o := r10) dX5_isLike_106 0 rfl ?_
        refine wa_iconst (v := 1) dX5_isLike_108 rfl ?_
        refine wa_iald dX5_isLike_109 (a_I_mono F fun x14 F => ?_)
        refine wa_icmp_ne (tgt := 128) dX5_isLike_110 rfl (fun z => ?_) (fun z => ?_)
        · have F := F.1 z
          exact wa_sub [2, 3, 4, 6] rfl F
        · have F := F.2 z
          refine wa_aload (o := r8) dX5_isLike_113 1 rfl ?_
          refine wa_iconst (v := 2) dX5_isLike_115 rfl ?_
          refine wa_iald dX5_isLike_116 (a_I_mono F fun x15 F => ?_)
          refine wa_aload (o := r10) dX5_isLike_117 0 rfl ?_
          refine wa_iconst (v := 2) dX5_isLike_119 rfl ?_
          refine wa_iald dX5_isLike_120 (a_I_mono F fun x16 F => ?_)
          refine wa_icmp_ne (tgt := 128) dX5_isLike_121 rfl (fun z => ?_) (fun z => ?_)
          · have F := F.1 z
            exact wa_sub [2, 3, 4, 6] rfl F
          · have F := F.2 z
            refine wa_iconst (v := 1) dX5_isLike_124 rfl ?_
            refine wa_goto (tgt := 129) dX5_isLike_125 rfl ?_
            exact wa_sub [2, 3, 4, 6] rfl F
theorem f_X5_isLike_128 {D : qD} {Q : Option Value → qH → Prop} {X : String → qH → Prop} (t : Nat) (v2 : Nat) (v3 : Option Nat) (v5 : Int32) (h : qH) (F : L_X5_isLike_129 D Q X t v2 v3 v5 0 h) : L_X5_isLike_128 D Q X t v2 v3 v5 h := by
  show WA D m_X5_isLike Q X 128 [(0, va_rf (some t)), (2, va_rf (some v2)), (3, va_rf v3), (5, .int v5)] [] h
  refine wa_iconst (v := 0) dX5_isLike_128 rfl ?_
  exact F
theorem f_X5_isLike_129 {D : qD} {Q : Option Value → qH → Prop} {X : String → qH → Prop} (t : Nat) (v2 : Nat) (v3 : Option Nat) (v5 : Int32) (s0 : Int32) (h : qH) (F : L_X5_isLike_42 D Q X t v2 v3 s0 (v5 + 1) h) : L_X5_isLike_129 D Q X t v2 v3 v5 s0 h := by
  show WA D m_X5_isLike Q X 129 [(0, va_rf (some t)), (2, va_rf (some v2)), (3, va_rf v3), (5, .int v5)] [.int s0] h
  refine ws_istore (lv' := [(4, .int s0), (0, va_rf (some t)), (2, va_rf (some v2)), (3, va_rf v3), (5, .int v5)]) dX5_isLike_129 (Nat.le_of_ble_eq_true rfl) (q_cr (q_cr (q_cr (q_ci q_cn)))) rfl ?_
  refine ws_iinc (j := 4) (v := (v5 + 1)) (lv' := [(5, .int (v5 + 1)), (4, .int s0), (0, va_rf (some t)), (2, va_rf (some v2)), (3, va_rf v3)]) dX5_isLike_131 rfl rfl (Nat.le_of_ble_eq_true rfl) (q_ci (q_cr (q_cr (q_cr (q_ci q_cn))))) rfl ?_
  refine wa_goto (tgt := 42) dX5_isLike_134 rfl ?_
  exact wa_sub [2, 3, 4, 1, 0] rfl F
