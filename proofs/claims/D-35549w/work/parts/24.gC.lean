set_option maxRecDepth 100000
def L_X1_forgets_2 (D : qD) (Q : Option Value → qH → Prop) (X : String → qH → Prop) (t : Nat) (v1 : Int32) (h : qH) : Prop := WA D m_X1_forgets Q X 2 [(0, va_rf (some t)), (1, .int v1)] [] h
theorem f_X1_forgets {D : qD} {Q : Option Value → qH → Prop} {X : String → qH → Prop} (t : Nat) (h : qH) (F : L_X1_forgets_2 D Q X t 0 h) : MW D m_X1_forgets [va_rf (some t)] h Q X := by
  refine mw_of pl_X1_forgets rfl _ (Nat.le_of_ble_eq_true rfl) rfl ?_
  refine (show WA D m_X1_forgets Q X 0 [(0, va_rf (some t))] [] h from ?_)
  refine wa_iconst (v := 0) dX1_forgets_0 rfl ?_
  refine ws_istore_n (lv' := [(1, .int 0), (0, va_rf (some t))]) dX1_forgets_1 rfl (Nat.le_of_ble_eq_true rfl) (q_cr q_cn) rfl ?_
  exact wa_sub [1, 0] rfl F
theorem f_X1_forgets_2 {D : qD} {Q : Option Value → qH → Prop} {X : String → qH → Prop} (t : Nat) (v1 : Int32) (h : qH) (F : ((4 ≤ v1 → Q none h) ∧ (¬ 4 ≤ v1 → g_R D h (some t) 0 10 (fun r1 => s_R D h r1 7 "Quirefold$Layout" v1 none (fun h2 => L_X1_forgets_2 D Q X t (v1 + 1) h2))))) : L_X1_forgets_2 D Q X t v1 h := by
  show WA D m_X1_forgets Q X 2 [(0, va_rf (some t)), (1, .int v1)] [] h
  refine wa_iload_n (x := v1) dX1_forgets_2 rfl 1 rfl ?_
  refine wa_iconst (v := 4) dX1_forgets_3 rfl ?_
  refine wa_icmp_ge (tgt := 20) dX1_forgets_4 rfl (fun z => ?_) (fun z => ?_)
  · have F := F.1 z
    exact wa_vret rfl dX1_forgets_20 F
  · have F := F.2 z
    refine wa_aload_n (o := (some t)) dX1_forgets_7 rfl 0 rfl ?_
    refine wa_getR (C := RX1) (T := TX1) (N := 11) (ci := 0) (k := 10) dX1_forgets_8 rfl (Nat.le_of_ble_eq_true rfl) in_X1 q163 q_same_own (g_R_mono F fun r1 F => ?_)
    refine wa_iload_n (x := v1) dX1_forgets_11 rfl 1 rfl ?_
    refine wa_null dX1_forgets_12 ?_
    refine wa_aast (t := 7) (C := "Quirefold$Layout") rfl (by simp [qRA]) dX1_forgets_13 (s_R_mono F fun h2 F => ?_)
    refine ws_iinc (j := 1) (v := (v1 + 1)) (lv' := [(1, .int (v1 + 1)), (0, va_rf (some t))]) dX1_forgets_14 rfl rfl (Nat.le_of_ble_eq_true rfl) (q_cr (q_ci q_cn)) rfl ?_
    refine wa_goto (tgt := 2) dX1_forgets_17 rfl ?_
    exact wa_sub [1, 0] rfl F
def L_X1_rootOf_2 (D : qD) (Q : Option Value → qH → Prop) (X : String → qH → Prop) (t : Nat) (v2 : Int32) (h : qH) : Prop := WA D m_X1_rootOf Q X 2 [(0, va_rf (some t)), (2, .int v2)] [] h
theorem f_X1_rootOf {D : qD} {Q : Option Value → qH → Prop} {X : String → qH → Prop} (t : Nat) (p0 : Int32) (h : qH) (F : L_X1_rootOf_2 D Q X t p0 h) : MW D m_X1_rootOf [va_rf (some t), .int p0] h Q X := by
  refine mw_of pl_X1_rootOf rfl _ (Nat.le_of_ble_eq_true rfl) rfl ?_
  refine (show WA D m_X1_rootOf Q X 0 [(0, va_rf (some t)), (1, .int p0)] [] h from ?_)
  refine wa_iload_n (x := p0) dX1_rootOf_0 rfl 1 rfl ?_
  refine ws_istore_n (lv' := [(2, .int p0), (0, va_rf (some t)), (1, .int p0)]) dX1_rootOf_1 rfl (Nat.le_of_ble_eq_true rfl) (q_cr (q_ci q_cn)) rfl ?_
  exact wa_sub [1, 0] rfl F
theorem f_X1_rootOf_2 {D : qD} {Q : Option Value → qH → Prop} {X : String → qH → Prop} (t : Nat) (v2 : Int32) (h : qH) (F : g_R D h (some t) 0 6 (fun r1 => a_I D h r1 0 v2 (fun x2 => ((x2 = (-1) → Q (some (.int v2)) h) ∧ (¬ x2 = (-1) → g_R D h (some t) 0 6 (fun r3 => a_I D h r3 0 v2 (fun x4 => L_X1_rootOf_2 D Q X t x4 h))))))) : L_X1_rootOf_2 D Q X t v2 h := by
  show WA D m_X1_rootOf Q X 2 [(0, va_rf (some t)), (2, .int v2)] [] h
  refine wa_aload_n (o := (some t)) dX1_rootOf_2 rfl 0 rfl ?_
  refine wa_getR (C := RX1) (T := TX1) (N := 11) (ci := 0) (k := 6) dX1_rootOf_3 rfl (Nat.le_of_ble_eq_true rfl) in_X1 q159 q_same_own (g_R_mono F fun r1 F => ?_)
  refine wa_iload_n (x := v2) dX1_rootOf_6 rfl 1 rfl ?_
  refine wa_iald dX1_rootOf_7 (a_I_mono F fun x2 F => ?_)
  refine wa_iconst (v := -1) dX1_rootOf_8 rfl ?_
  refine wa_icmp_eq (tgt := 22) dX1_rootOf_9 rfl (fun z => ?_) (fun z => ?_)
  · have F := F.1 z
    refine wa_iload_n (x := v2) dX1_rootOf_22 rfl 1 rfl ?_
    exact wa_iret rfl dX1_rootOf_23 F
  · have F := F.2 z
    refine wa_aload_n (o := (some t)) dX1_rootOf_12 rfl 0 rfl ?_
    refine wa_getR (C := RX1) (T := TX1) (N := 11) (ci := 0) (k := 6) dX1_rootOf_13 rfl (Nat.le_of_ble_eq_true rfl) in_X1 q159 q_same_own (g_R_mono F fun r3 F => ?_)
    refine wa_iload_n (x := v2) dX1_rootOf_16 rfl 1 rfl ?_
    refine wa_iald dX1_rootOf_17 (a_I_mono F fun x4 F => ?_)
    refine ws_istore_n (lv' := [(2, .int x4), (0, va_rf (some t))]) dX1_rootOf_18 rfl (Nat.le_of_ble_eq_true rfl) (q_cr (q_ci q_cn)) rfl ?_
    refine wa_goto (tgt := 2) dX1_rootOf_19 rfl ?_
    exact wa_sub [1, 0] rfl F
theorem f_X1_tokens {D : qD} {Q : Option Value → qH → Prop} {X : String → qH → Prop} (t : Nat) (h : qH) (F : g_R D h (some t) 0 0 (fun r1 => (recv D h r1 RJ2 ∧ c_I D m_J2_size [va_rf r1] h X (fun x3 h2 => Q (some (.int x3)) h2)))) : MW D m_X1_tokens [va_rf (some t)] h Q X := by
  refine mw_of pl_X1_tokens rfl _ (Nat.le_of_ble_eq_true rfl) rfl ?_
  refine (show WA D m_X1_tokens Q X 0 [(0, va_rf (some t))] [] h from ?_)
  refine wa_aload_n (o := (some t)) dX1_tokens_0 rfl 0 rfl ?_
  refine wa_getR (C := RX1) (T := TX1) (N := 11) (ci := 0) (k := 0) dX1_tokens_1 rfl (Nat.le_of_ble_eq_true rfl) in_X1 q147 q_same_own (g_R_mono F fun r1 F => ?_)
  refine wa_callF (M' := m_J2_size) (C := RJ2) (x := y_Lsize) (ci := 6) (o := r1) (As := []) (st := []) dX1_tokens_4 rfl rfl fw_J2_size ⟨Nat.le_of_ble_eq_true rfl, Nat.le_of_ble_eq_true rfl⟩ nf_y_Lsize q192 q196 q198 q57 q200 rfl rfl (Nat.zero_le 8) rfl F.1 F.2 (wk_I fun x3 h2 F => ?_)
  exact wa_iret rfl dX1_tokens_9 F
def L_X1_sheetOf_40 (D : qD) (Q : Option Value → qH → Prop) (X : String → qH → Prop) (t : Nat) (v1 : Int32) (v2 : Int32) (v3 : Int32) (v4 : Int32) (s0 : Int32) (h : qH) : Prop := WA D m_X1_sheetOf Q X 40 [(0, va_rf (some t)), (1, .int v1), (2, .int v2), (3, .int v3), (4, .int v4)] [.int s0] h
def L_X1_sheetOf_54 (D : qD) (Q : Option Value → qH → Prop) (X : String → qH → Prop) (t : Nat) (v1 : Int32) (v2 : Int32) (v4 : Int32) (v5 : Int32) (s0 : Int32) (h : qH) : Prop := WA D m_X1_sheetOf Q X 54 [(0, va_rf (some t)), (1, .int v1), (2, .int v2), (4, .int v4), (5, .int v5)] [.int s0] h
theorem f_X1_sheetOf {D : qD} {Q : Option Value → qH → Prop} {X : String → qH → Prop} (t : Nat) (p0 : Int32) (p1 : Int32) (h : qH) (F : g_I D h (some t) 0 7 (fun x1 => (¬ x1 = 0 ∧ g_I D h (some t) 0 7 (fun x2 => g_I D h (some t) 0 7 (fun x3 => (((x3 / 2) ≤ ((p0 - 1) - (p0 - 1) / x1 * x1) → L_X1_sheetOf_40 D Q X t p0 p1 ((p0 - 1) - (p0 - 1) / x1 * x1) ((if ((x2 - 1) - ((p0 - 1) - (p0 - 1) / x1 * x1)) < ((p0 - 1) - (p0 - 1) / x1 * x1) then ((x2 - 1) - ((p0 - 1) - (p0 - 1) / x1 * x1)) else ((p0 - 1) - (p0 - 1) / x1 * x1)) / 2) 0 h) ∧ (¬ (x3 / 2) ≤ ((p0 - 1) - (p0 - 1) / x1 * x1) → L_X1_sheetOf_40 D Q X t p0 p1 ((p0 - 1) - (p0 - 1) / x1 * x1) ((if ((x2 - 1) - ((p0 - 1) - (p0 - 1) / x1 * x1)) < ((p0 - 1) - (p0 - 1) / x1 * x1) then ((x2 - 1) - ((p0 - 1) - (p0 - 1) / x1 * x1)) else ((p0 - 1) - (p0 - 1) / x1 * x1)) / 2) 1 h))))))) : MW D m_X1_sheetOf [va_rf (some t), .int p0, .int p1] h Q X := by
  refine mw_of pl_X1_sheetOf rfl _ (Nat.le_of_ble_eq_true rfl) rfl ?_
  refine (show WA D m_X1_sheetOf Q X 0 [(0, va_rf (some t)), (1, .int p0), (2, .int p1)] [] h from ?_)
  refine wa_iload_n (x := p0) dX1_sheetOf_0 rfl 1 rfl ?_
  refine wa_iconst (v := 1) dX1_sheetOf_1 rfl ?_
  refine wa_isub dX1_sheetOf_2 ?_
  refine wa_aload_n (o := (some t)) dX1_sheetOf_3 rfl 0 rfl ?_
  refine wa_getI (C := RX1) (T := TX1) (N := 11) (ci := 0) (k := 7) dX1_sheetOf_4 rfl (Nat.le_of_ble_eq_true rfl) in_X1 q160 q_same_own (g_I_mono F fun x1 F => ?_)
  refine wa_irem dX1_sheetOf_7 F.1 ?_
  have F := F.2
  refine ws_istore_n (lv' := [(3, .int ((p0 - 1) - (p0 - 1) / x1 * x1)), (0, va_rf (some t)), (1, .int p0), (2, .int p1)]) dX1_sheetOf_8 rfl (Nat.le_of_ble_eq_true rfl) (q_cr (q_ci (q_ci q_cn))) rfl ?_
  refine wa_iload_n (x := ((p0 - 1) - (p0 - 1) / x1 * x1)) dX1_sheetOf_9 rfl 0 rfl ?_
  refine wa_aload_n (o := (some t)) dX1_sheetOf_10 rfl 1 rfl ?_
  refine wa_getI (C := RX1) (T := TX1) (N := 11) (ci := 0) (k := 7) dX1_sheetOf_11 rfl (Nat.le_of_ble_eq_true rfl) in_X1 q160 q_same_own (g_I_mono F fun x2 F => ?_)
  refine wa_iconst (v := 1) dX1_sheetOf_14 rfl ?_
  refine wa_isub dX1_sheetOf_15 ?_
  refine wa_iload_n (x := ((p0 - 1) - (p0 - 1) / x1 * x1)) dX1_sheetOf_16 rfl 0 rfl ?_
  refine wa_isub dX1_sheetOf_17 ?_
  refine wa_mmin (x := ((p0 - 1) - (p0 - 1) / x1 * x1)) (y := ((x2 - 1) - ((p0 - 1) - (p0 - 1) / x1 * x1))) dX1_sheetOf_18 q1140 q373 q70 q374 (Nat.le_of_ble_eq_true rfl) (Nat.zero_le 8) ?_
  refine wa_iconst (v := 2) dX1_sheetOf_21 rfl ?_
  refine wa_idiv dX1_sheetOf_22 (by decide) ?_
  refine ws_istore (lv' := [(4, .int ((if ((x2 - 1) - ((p0 - 1) - (p0 - 1) / x1 * x1)) < ((p0 - 1) - (p0 - 1) / x1 * x1) then ((x2 - 1) - ((p0 - 1) - (p0 - 1) / x1 * x1)) else ((p0 - 1) - (p0 - 1) / x1 * x1)) / 2)), (3, .int ((p0 - 1) - (p0 - 1) / x1 * x1)), (0, va_rf (some t)), (1, .int p0), (2, .int p1)]) dX1_sheetOf_23 (Nat.le_of_ble_eq_true rfl) (q_ci (q_cr (q_ci (q_ci q_cn)))) rfl ?_
  refine wa_iload_n (x := ((p0 - 1) - (p0 - 1) / x1 * x1)) dX1_sheetOf_25 rfl 1 rfl ?_
  refine wa_aload_n (o := (some t)) dX1_sheetOf_26 rfl 2 rfl ?_
  refine wa_getI (C := RX1) (T := TX1) (N := 11) (ci := 0) (k := 7) dX1_sheetOf_27 rfl (Nat.le_of_ble_eq_true rfl) in_X1 q160 q_same_own (g_I_mono F fun x3 F => ?_)
  refine wa_iconst (v := 2) dX1_sheetOf_30 rfl ?_
  refine wa_idiv dX1_sheetOf_31 (by decide) ?_
  refine wa_icmp_ge (tgt := 39) dX1_sheetOf_32 rfl (fun z => ?_) (fun z => ?_)
  · have F := F.1 z
    refine wa_iconst (v := 0) dX1_sheetOf_39 rfl ?_
    exact wa_sub [2, 3, 4, 1, 0] rfl F
  · have F := F.2 z
    refine wa_iconst (v := 1) dX1_sheetOf_35 rfl ?_
    refine wa_goto (tgt := 40) dX1_sheetOf_36 rfl ?_
    exact wa_sub [2, 3, 4, 1, 0] rfl F
theorem f_X1_sheetOf_40 {D : qD} {Q : Option Value → qH → Prop} {X : String → qH → Prop} (t : Nat) (v1 : Int32) (v2 : Int32) (v3 : Int32) (v4 : Int32) (s0 : Int32) (h : qH) (F : ((¬ (v3 - v3 / 2 * 2) = 1 → L_X1_sheetOf_54 D Q X t v1 v2 v4 s0 0 h) ∧ ((v3 - v3 / 2 * 2) = 1 → L_X1_sheetOf_54 D Q X t v1 v2 v4 s0 1 h))) : L_X1_sheetOf_40 D Q X t v1 v2 v3 v4 s0 h := by
  show WA D m_X1_sheetOf Q X 40 [(0, va_rf (some t)), (1, .int v1), (2, .int v2), (3, .int v3), (4, .int v4)] [.int s0] h
  refine ws_istore (lv' := [(5, .int s0), (0, va_rf (some t)), (1, .int v1), (2, .int v2), (3, .int v3), (4, .int v4)]) dX1_sheetOf_40 (Nat.le_of_ble_eq_true rfl) (q_cr (q_ci (q_ci (q_ci (q_ci q_cn))))) rfl ?_
  refine wa_iload_n (x := v3) dX1_sheetOf_42 rfl 4 rfl ?_
  refine wa_iconst (v := 2) dX1_sheetOf_43 rfl ?_
  refine wa_irem dX1_sheetOf_44 (by decide) ?_
  refine wa_iconst (v := 1) dX1_sheetOf_45 rfl ?_
  refine wa_icmp_ne (tgt := 53) dX1_sheetOf_46 rfl (fun z => ?_) (fun z => ?_)
  · have F := F.1 z
    refine wa_iconst (v := 0) dX1_sheetOf_53 rfl ?_
    exact wa_sub [1, 2, 3, 5, 0] rfl F
  · have F := F.2 z
    refine wa_iconst (v := 1) dX1_sheetOf_49 rfl ?_
    refine wa_goto (tgt := 54) dX1_sheetOf_50 rfl ?_
    exact wa_sub [1, 2, 3, 5, 0] rfl F
theorem f_X1_sheetOf_54 {D : qD} {Q : Option Value → qH → Prop} {X : String → qH → Prop} (t : Nat) (v1 : Int32) (v2 : Int32) (v4 : Int32) (v5 : Int32) (s0 : Int32) (h : qH) (F : ((v2 = 0 → g_I D h (some t) 0 7 (fun x1 => (¬ x1 = 0 ∧ g_I D h (some t) 0 7 (fun x2 => Q (some (.int ((((v1 - 1) / x1) * (x2 / 4)) + v4))) h)))) ∧ (v2 = 1 → ((¬ v5 = s0 → Q (some (.int 0)) h) ∧ (v5 = s0 → Q (some (.int 1)) h))) ∧ (v2 = 2 → ((s0 = 0 → Q (some (.int 1)) h) ∧ (¬ s0 = 0 → Q (some (.int 0)) h))) ∧ (¬ v2 = 0 → ¬ v2 = 1 → ¬ v2 = 2 → g_I D h (some t) 0 8 (fun x3 => Q (some (.int (v4 * x3))) h)))) : L_X1_sheetOf_54 D Q X t v1 v2 v4 v5 s0 h := by
  show WA D m_X1_sheetOf Q X 54 [(0, va_rf (some t)), (1, .int v1), (2, .int v2), (4, .int v4), (5, .int v5)] [.int s0] h
  refine ws_istore (lv' := [(6, .int s0), (0, va_rf (some t)), (1, .int v1), (2, .int v2), (4, .int v4), (5, .int v5)]) dX1_sheetOf_54 (Nat.le_of_ble_eq_true rfl) (q_cr (q_ci (q_ci (q_ci (q_ci q_cn))))) rfl ?_
  refine wa_iload_n (x := v2) dX1_sheetOf_56 rfl 3 rfl ?_
  by_cases z0 : v2 = 0
  · have F := (F.1 z0)
    refine wa_tableIn (tgt := 84) (off := 27) dX1_sheetOf_57 (by rw [z0]; decide) (by rw [z0]; decide) (by rw [z0]; rfl) rfl ?_
    refine wa_iload_n (x := v1) dX1_sheetOf_84 rfl 2 rfl ?_
    refine wa_iconst (v := 1) dX1_sheetOf_85 rfl ?_
    refine wa_isub dX1_sheetOf_86 ?_
    refine wa_aload_n (o := (some t)) dX1_sheetOf_87 rfl 1 rfl ?_
    refine wa_getI (C := RX1) (T := TX1) (N := 11) (ci := 0) (k := 7) dX1_sheetOf_88 rfl (Nat.le_of_ble_eq_true rfl) in_X1 q160 q_same_own (g_I_mono F fun x1 F => ?_)
    refine wa_idiv dX1_sheetOf_91 F.1 ?_
    have F := F.2
    refine wa_aload_n (o := (some t)) dX1_sheetOf_92 rfl 1 rfl ?_
    refine wa_getI (C := RX1) (T := TX1) (N := 11) (ci := 0) (k := 7) dX1_sheetOf_93 rfl (Nat.le_of_ble_eq_true rfl) in_X1 q160 q_same_own (g_I_mono F fun x2 F => ?_)
    refine wa_iconst (v := 4) dX1_sheetOf_96 rfl ?_
    refine wa_idiv dX1_sheetOf_97 (by decide) ?_
    refine wa_imul dX1_sheetOf_98 ?_
    refine wa_iload (x := v4) dX1_sheetOf_99 4 rfl ?_
    refine wa_iadd dX1_sheetOf_101 ?_
    exact wa_iret rfl dX1_sheetOf_102 F
  have F := F.2
  by_cases z1 : v2 = 1
  · have F := (F.1 z1)
    refine wa_tableIn (tgt := 103) (off := 46) dX1_sheetOf_57 (by rw [z1]; decide) (by rw [z1]; decide) (by rw [z1]; rfl) rfl ?_
    refine wa_iload (x := v5) dX1_sheetOf_103 5 rfl ?_
    refine wa_iload (x := s0) dX1_sheetOf_105 0 rfl ?_
    refine wa_icmp_ne (tgt := 114) dX1_sheetOf_107 rfl (fun z => ?_) (fun z => ?_)
    · have F := F.1 z
      refine wa_iconst (v := 0) dX1_sheetOf_114 rfl ?_
      exact wa_iret rfl dX1_sheetOf_115 F
    · have F := F.2 z
      refine wa_iconst (v := 1) dX1_sheetOf_110 rfl ?_
      refine wa_goto (tgt := 115) dX1_sheetOf_111 rfl ?_
      exact wa_iret rfl dX1_sheetOf_115 F
  have F := F.2
  by_cases z2 : v2 = 2
  · have F := (F.1 z2)
    refine wa_tableIn (tgt := 116) (off := 59) dX1_sheetOf_57 (by rw [z2]; decide) (by rw [z2]; decide) (by rw [z2]; rfl) rfl ?_
    refine wa_iload (x := s0) dX1_sheetOf_116 0 rfl ?_
    refine wa_if_eq (tgt := 125) dX1_sheetOf_118 rfl (fun z => ?_) (fun z => ?_)
    · have F := F.1 z
      refine wa_iconst (v := 1) dX1_sheetOf_125 rfl ?_
      exact wa_iret rfl dX1_sheetOf_126 F
    · have F := F.2 z
      refine wa_iconst (v := 0) dX1_sheetOf_121 rfl ?_
      refine wa_goto (tgt := 126) dX1_sheetOf_122 rfl ?_
      exact wa_iret rfl dX1_sheetOf_126 F
  have F := F.2
  have F := F z0 z1 z2
  refine wa_tableOut (tgt := 127) dX1_sheetOf_57 (q_out_0_3 (lv_neT z0 rfl) (lv_neT z1 rfl) (lv_neT z2 rfl)) rfl ?_
  refine wa_iload (x := v4) dX1_sheetOf_127 4 rfl ?_
  refine wa_aload_n (o := (some t)) dX1_sheetOf_129 rfl 1 rfl ?_
  refine wa_getI (C := RX1) (T := TX1) (N := 11) (ci := 0) (k := 8) dX1_sheetOf_130 rfl (Nat.le_of_ble_eq_true rfl) in_X1 q161 q_same_own (g_I_mono F fun x3 F => ?_)
  refine wa_imul dX1_sheetOf_133 ?_
  exact wa_iret rfl dX1_sheetOf_134 F
def L_X1_init_90 (D : qD) (Q : Option Value → qH → Prop) (X : String → qH → Prop) (t : Nat) (v1 : Int32) (h : qH) : Prop := WA D m_X1_init Q X 90 [(0, va_rf (some t)), (1, .int v1)] [] h
def L_X1_init_117 (D : qD) (Q : Option Value → qH → Prop) (X : String → qH → Prop) (t : Nat) (v1 : Int32) (h : qH) : Prop := WA D m_X1_init Q X 117 [(0, va_rf (some t)), (1, .int v1)] [] h
theorem f_X1_init {D : qD} {Q : Option Value → qH → Prop} {X : String → qH → Prop} (t : Nat) (h : qH) (F : n_O h 6 3 tyJ2 (fun a1 h2 => c_V D m_J2_init [va_rf (some a1)] h2 X (fun h3 => p_F h3 (some t) 0 0 (va_rf (some a1)) (fun h4 => n_R h4 5 6 (fun a5 h6 => p_F h6 (some t) 0 1 (va_rf (some a5)) (fun h7 => n_M h7 4 4 (fun a8 h9 => p_F h9 (some t) 0 2 (va_rf (some a8)) (fun h10 => p_F h10 (some t) 0 3 (.int 10) (fun h11 => p_F h11 (some t) 0 4 (.int 5) (fun h12 => p_F h12 (some t) 0 5 (.int 1) (fun h13 => n_I h13 0 10 (fun a14 h15 => p_F h15 (some t) 0 6 (va_rf (some a14)) (fun h16 => p_F h16 (some t) 0 7 (.int 8) (fun h17 => p_F h17 (some t) 0 8 (.int 1) (fun h18 => n_O h18 6 3 tyJ2 (fun a19 h20 => c_V D m_J2_init [va_rf (some a19)] h20 X (fun h21 => p_F h21 (some t) 0 9 (va_rf (some a19)) (fun h22 => n_R h22 7 4 (fun a23 h24 => p_F h24 (some t) 0 10 (va_rf (some a23)) (fun h25 => L_X1_init_90 D Q X t 0 h25)))))))))))))))))))) : MW D m_X1_init [va_rf (some t)] h Q X := by
  refine mw_of pl_X1_init rfl _ (Nat.le_of_ble_eq_true rfl) rfl ?_
  refine (show WA D m_X1_init Q X 0 [(0, va_rf (some t))] [] h from ?_)
  refine wa_aload_n (o := (some t)) dX1_init_0 rfl 0 rfl ?_
  refine wa_objInit (a := t) dX1_init_1 q90 q91 q92 (Nat.le_of_ble_eq_true rfl) (Nat.zero_le 8) ?_
  refine wa_aload_n (o := (some t)) dX1_init_4 rfl 0 rfl ?_
  refine wa_new (C := RJ2) (T := TJ2) tyJ2 dX1_init_5 rfl in_J2 tyJ2_ok q93 q94 q57 (n_O_mono F fun a1 h2 F => ?_)
  refine wa_dup dX1_init_8 (q_cat _) ?_
  refine wa_callI (M' := m_J2_init) (b := a1) (As := []) (st := [va_rf (some a1), va_rf (some t)]) dX1_init_9 ⟨Nat.le_of_ble_eq_true rfl, Nat.le_of_ble_eq_true rfl, nk_J2_init⟩ rfl rfl q95 q96 q57 q97 rfl rfl (q_cs_le (q_csr (q_csr q_cs0)) (Nat.le_of_ble_eq_true rfl)) rfl F (wk_V fun h3 F => ?_)
  refine wa_putF (C := RX1) (T := TX1) (N := 11) (ci := 0) (k := 0) tyX1 dX1_init_12 rfl (Nat.le_of_ble_eq_true rfl) in_X1 tyX1_ok nmX1 q147 q_same_own rfl rfl rfl (q_nar_ref _) (q_fit_ref _) (p_F_mono F fun h4 F => ?_)
  refine wa_aload_n (o := (some t)) dX1_init_15 rfl 0 rfl ?_
  refine wa_bipush (v := 6) dX1_init_16 rfl ?_
  refine wa_newR (t := 5) (C := "Quirefold$Style") rfl (by simp [qAO]) q122 dX1_init_18 (n_R_mono F fun a5 h6 F => ?_)
  refine wa_putF (C := RX1) (T := TX1) (N := 11) (ci := 0) (k := 1) tyX1 dX1_init_21 rfl (Nat.le_of_ble_eq_true rfl) in_X1 tyX1_ok nmX1 q149 q_same_own rfl rfl rfl (q_nar_arr _) (q_fit_arr _) (p_F_mono F fun h7 F => ?_)
  refine wa_aload_n (o := (some t)) dX1_init_24 rfl 0 rfl ?_
  refine wa_iconst (v := 4) dX1_init_25 rfl ?_
  refine wa_iconst (v := 4) dX1_init_26 rfl ?_
  refine wa_newM dX1_init_27 q124 q146 (n_M_mono F fun a8 h9 F => ?_)
  refine wa_putF (C := RX1) (T := TX1) (N := 11) (ci := 0) (k := 2) tyX1 dX1_init_31 rfl (Nat.le_of_ble_eq_true rfl) in_X1 tyX1_ok nmX1 q151 q_same_own rfl rfl rfl (q_nar_arr _) (q_fit_arr _) (p_F_mono F fun h10 F => ?_)
  refine wa_aload_n (o := (some t)) dX1_init_34 rfl 0 rfl ?_
  refine wa_bipush (v := 10) dX1_init_35 rfl ?_
  refine wa_put (C := RX1) (T := TX1) (N := 11) (ci := 0) (k := 3) tyX1 dX1_init_37 rfl (Nat.le_of_ble_eq_true rfl) in_X1 tyX1_ok nmX1 q153 q_same_own rfl rfl rfl (p_F_mono F fun h11 F => ?_)
  refine wa_aload_n (o := (some t)) dX1_init_40 rfl 0 rfl ?_
  refine wa_iconst (v := 5) dX1_init_41 rfl ?_
  refine wa_put (C := RX1) (T := TX1) (N := 11) (ci := 0) (k := 4) tyX1 dX1_init_42 rfl (Nat.le_of_ble_eq_true rfl) in_X1 tyX1_ok nmX1 q155 q_same_own rfl rfl rfl (p_F_mono F fun h12 F => ?_)
  refine wa_aload_n (o := (some t)) dX1_init_45 rfl 0 rfl ?_
  refine wa_iconst (v := 1) dX1_init_46 rfl ?_
  refine wa_put (C := RX1) (T := TX1) (N := 11) (ci := 0) (k := 5) tyX1 dX1_init_47 rfl (Nat.le_of_ble_eq_true rfl) in_X1 tyX1_ok nmX1 q157 q_same_own rfl rfl rfl (p_F_mono F fun h13 F => ?_)
  refine wa_aload_n (o := (some t)) dX1_init_50 rfl 0 rfl ?_
  refine wa_bipush (v := 10) dX1_init_51 rfl ?_
  refine wa_newI (t := 0) (atype := .int) rfl rfl (Nat.le_of_ble_eq_true rfl) q146 dX1_init_53 (n_I_mono F fun a14 h15 F => ?_)
  refine wa_putF (C := RX1) (T := TX1) (N := 11) (ci := 0) (k := 6) tyX1 dX1_init_55 rfl (Nat.le_of_ble_eq_true rfl) in_X1 tyX1_ok nmX1 q159 q_same_own rfl rfl rfl (q_nar_arr _) (q_fit_arr _) (p_F_mono F fun h16 F => ?_)
  refine wa_aload_n (o := (some t)) dX1_init_58 rfl 0 rfl ?_
  refine wa_bipush (v := 8) dX1_init_59 rfl ?_
  refine wa_put (C := RX1) (T := TX1) (N := 11) (ci := 0) (k := 7) tyX1 dX1_init_61 rfl (Nat.le_of_ble_eq_true rfl) in_X1 tyX1_ok nmX1 q160 q_same_own rfl rfl rfl (p_F_mono F fun h17 F => ?_)
  refine wa_aload_n (o := (some t)) dX1_init_64 rfl 0 rfl ?_
  refine wa_iconst (v := 1) dX1_init_65 rfl ?_
  refine wa_put (C := RX1) (T := TX1) (N := 11) (ci := 0) (k := 8) tyX1 dX1_init_66 rfl (Nat.le_of_ble_eq_true rfl) in_X1 tyX1_ok nmX1 q161 q_same_own rfl rfl rfl (p_F_mono F fun h18 F => ?_)
  refine wa_aload_n (o := (some t)) dX1_init_69 rfl 0 rfl ?_
  refine wa_new (C := RJ2) (T := TJ2) tyJ2 dX1_init_70 rfl in_J2 tyJ2_ok q93 q94 q57 (n_O_mono F fun a19 h20 F => ?_)
  refine wa_dup dX1_init_73 (q_cat _) ?_
  refine wa_callI (M' := m_J2_init) (b := a19) (As := []) (st := [va_rf (some a19), va_rf (some t)]) dX1_init_74 ⟨Nat.le_of_ble_eq_true rfl, Nat.le_of_ble_eq_true rfl, nk_J2_init⟩ rfl rfl q95 q96 q57 q97 rfl rfl (q_cs_le (q_csr (q_csr q_cs0)) (Nat.le_of_ble_eq_true rfl)) rfl F (wk_V fun h21 F => ?_)
  refine wa_putF (C := RX1) (T := TX1) (N := 11) (ci := 0) (k := 9) tyX1 dX1_init_77 rfl (Nat.le_of_ble_eq_true rfl) in_X1 tyX1_ok nmX1 q162 q_same_own rfl rfl rfl (q_nar_ref _) (q_fit_ref _) (p_F_mono F fun h22 F => ?_)
  refine wa_aload_n (o := (some t)) dX1_init_80 rfl 0 rfl ?_
  refine wa_iconst (v := 4) dX1_init_81 rfl ?_
  refine wa_newR (t := 7) (C := "Quirefold$Layout") rfl (by simp [qAO]) q126 dX1_init_82 (n_R_mono F fun a23 h24 F => ?_)
  refine wa_putF (C := RX1) (T := TX1) (N := 11) (ci := 0) (k := 10) tyX1 dX1_init_85 rfl (Nat.le_of_ble_eq_true rfl) in_X1 tyX1_ok nmX1 q163 q_same_own rfl rfl rfl (q_nar_arr _) (q_fit_arr _) (p_F_mono F fun h25 F => ?_)
  refine wa_iconst (v := 0) dX1_init_88 rfl ?_
  refine ws_istore_n (lv' := [(1, .int 0), (0, va_rf (some t))]) dX1_init_89 rfl (Nat.le_of_ble_eq_true rfl) (q_cr q_cn) rfl ?_
  exact wa_sub [1, 0] rfl F
theorem f_X1_init_90 {D : qD} {Q : Option Value → qH → Prop} {X : String → qH → Prop} (t : Nat) (v1 : Int32) (h : qH) (F : ((6 ≤ v1 → L_X1_init_117 D Q X t 0 h) ∧ (¬ 6 ≤ v1 → g_R D h (some t) 0 1 (fun r1 => n_O h 1 3 tyX2 (fun a2 h3 => c_V D m_X2_init [va_rf (some a2)] h3 X (fun h4 => s_R D h4 r1 5 "Quirefold$Style" v1 (some a2) (fun h5 => L_X1_init_90 D Q X t (v1 + 1) h5))))))) : L_X1_init_90 D Q X t v1 h := by
  show WA D m_X1_init Q X 90 [(0, va_rf (some t)), (1, .int v1)] [] h
  refine wa_iload_n (x := v1) dX1_init_90 rfl 1 rfl ?_
  refine wa_bipush (v := 6) dX1_init_91 rfl ?_
  refine wa_icmp_ge (tgt := 115) dX1_init_93 rfl (fun z => ?_) (fun z => ?_)
  · have F := F.1 z
    refine wa_iconst (v := 0) dX1_init_115 rfl ?_
    refine ws_istore_n (lv' := [(1, .int 0), (0, va_rf (some t))]) dX1_init_116 rfl (Nat.le_of_ble_eq_true rfl) (q_cr (q_ci q_cn)) rfl ?_
    exact wa_sub [1, 0] rfl F
  · have F := F.2 z
    refine wa_aload_n (o := (some t)) dX1_init_96 rfl 0 rfl ?_
    refine wa_getR (C := RX1) (T := TX1) (N := 11) (ci := 0) (k := 1) dX1_init_97 rfl (Nat.le_of_ble_eq_true rfl) in_X1 q149 q_same_own (g_R_mono F fun r1 F => ?_)
    refine wa_iload_n (x := v1) dX1_init_100 rfl 1 rfl ?_
    refine wa_new (C := RX2) (T := TX2) tyX2 dX1_init_101 rfl in_X2 tyX2_ok q122 q128 q58 (n_O_mono F fun a2 h3 F => ?_)
    refine wa_dup dX1_init_104 (q_cat _) ?_
    refine wa_callIN (M' := m_X2_init) (b := a2) (As := []) (st := [va_rf (some a2), .int v1, va_rf r1]) dX1_init_105 ⟨Nat.le_of_ble_eq_true rfl, Nat.le_of_ble_eq_true rfl, nk_X2_init⟩ rfl rfl q129 q130 q58 q131 rfl rfl (q_cs_le (q_csr (q_csi (q_csr q_cs0))) (Nat.le_of_ble_eq_true rfl)) rfl F (wk_V fun h4 F => ?_)
    refine wa_aast (t := 5) (C := "Quirefold$Style") rfl (by simp [qRA]) dX1_init_108 (s_R_mono F fun h5 F => ?_)
    refine ws_iinc (j := 1) (v := (v1 + 1)) (lv' := [(1, .int (v1 + 1)), (0, va_rf (some t))]) dX1_init_109 rfl rfl (Nat.le_of_ble_eq_true rfl) (q_cr (q_ci q_cn)) rfl ?_
    refine wa_goto (tgt := 90) dX1_init_112 rfl ?_
    exact wa_sub [1, 0] rfl F
theorem f_X1_init_117 {D : qD} {Q : Option Value → qH → Prop} {X : String → qH → Prop} (t : Nat) (v1 : Int32) (h : qH) (F : ((10 ≤ v1 → Q none h) ∧ (¬ 10 ≤ v1 → g_R D h (some t) 0 6 (fun r1 => s_I h r1 0 v1 (-1) (fun h2 => L_X1_init_117 D Q X t (v1 + 1) h2))))) : L_X1_init_117 D Q X t v1 h := by
  show WA D m_X1_init Q X 117 [(0, va_rf (some t)), (1, .int v1)] [] h
  refine wa_iload_n (x := v1) dX1_init_117 rfl 1 rfl ?_
  refine wa_bipush (v := 10) dX1_init_118 rfl ?_
  refine wa_icmp_ge (tgt := 136) dX1_init_120 rfl (fun z => ?_) (fun z => ?_)
  · have F := F.1 z
    exact wa_vret rfl dX1_init_136 F
  · have F := F.2 z
    refine wa_aload_n (o := (some t)) dX1_init_123 rfl 0 rfl ?_
    refine wa_getR (C := RX1) (T := TX1) (N := 11) (ci := 0) (k := 6) dX1_init_124 rfl (Nat.le_of_ble_eq_true rfl) in_X1 q159 q_same_own (g_R_mono F fun r1 F => ?_)
    refine wa_iload_n (x := v1) dX1_init_127 rfl 1 rfl ?_
    refine wa_iconst (v := -1) dX1_init_128 rfl ?_
    refine wa_iast dX1_init_129 (s_I_mono F fun h2 F => ?_)
    refine ws_iinc (j := 1) (v := (v1 + 1)) (lv' := [(1, .int (v1 + 1)), (0, va_rf (some t))]) dX1_init_130 rfl rfl (Nat.le_of_ble_eq_true rfl) (q_cr (q_ci q_cn)) rfl ?_
    refine wa_goto (tgt := 117) dX1_init_133 rfl ?_
    exact wa_sub [1, 0] rfl F
def L_X1_marksOf_5 (D : qD) (Q : Option Value → qH → Prop) (X : String → qH → Prop) (t : Nat) (v1 : Nat) (v2 : Int32) (v3 : Int32) (v4 : Int32) (h : qH) : Prop := WA D m_X1_marksOf Q X 5 [(0, va_rf (some t)), (1, va_rf (some v1)), (2, .int v2), (3, .int v3), (4, .int v4)] [] h
def L_X1_marksOf_82 (D : qD) (Q : Option Value → qH → Prop) (X : String → qH → Prop) (t : Nat) (v1 : Nat) (v2 : Int32) (v4 : Int32) (s0 : Int32) (h : qH) : Prop := WA D m_X1_marksOf Q X 82 [(0, va_rf (some t)), (1, va_rf (some v1)), (2, .int v2), (4, .int v4)] [.int s0] h
def L_X1_marksOf_83 (D : qD) (Q : Option Value → qH → Prop) (X : String → qH → Prop) (t : Nat) (v1 : Nat) (v2 : Int32) (v4 : Int32) (s0 : Int32) (s1 : Int32) (h : qH) : Prop := WA D m_X1_marksOf Q X 83 [(0, va_rf (some t)), (1, va_rf (some v1)), (2, .int v2), (4, .int v4)] [.int s0, .int s1] h
theorem f_X1_marksOf {D : qD} {Q : Option Value → qH → Prop} {X : String → qH → Prop} (t : Nat) (p0 : Nat) (p1 : Int32) (h : qH) (F : L_X1_marksOf_5 D Q X t p0 p1 0 0 h) : MW D m_X1_marksOf [va_rf (some t), va_rf (some p0), .int p1] h Q X := by
  refine mw_of pl_X1_marksOf rfl _ (Nat.le_of_ble_eq_true rfl) rfl ?_
  refine (show WA D m_X1_marksOf Q X 0 [(0, va_rf (some t)), (1, va_rf (some p0)), (2, .int p1)] [] h from ?_)
  refine wa_iconst (v := 0) dX1_marksOf_0 rfl ?_
  refine ws_istore_n (lv' := [(3, .int 0), (0, va_rf (some t)), (1, va_rf (some p0)), (2, .int p1)]) dX1_marksOf_1 rfl (Nat.le_of_ble_eq_true rfl) (q_cr (q_cr (q_ci q_cn))) rfl ?_
  refine wa_iconst (v := 0) dX1_marksOf_2 rfl ?_
  refine ws_istore (lv' := [(4, .int 0), (3, .int 0), (0, va_rf (some t)), (1, va_rf (some p0)), (2, .int p1)]) dX1_marksOf_3 (Nat.le_of_ble_eq_true rfl) (q_ci (q_cr (q_cr (q_ci q_cn)))) rfl ?_
  exact wa_sub [2, 3, 4, 1, 0] rfl F
theorem f_X1_marksOf_5 {D : qD} {Q : Option Value → qH → Prop} {X : String → qH → Prop} (t : Nat) (v1 : Nat) (v2 : Int32) (v3 : Int32) (v4 : Int32) (h : qH) (F : g_R D h (some t) 0 0 (fun r1 => (recv D h r1 RJ2 ∧ c_I D m_J2_size [va_rf r1] h X (fun x3 h2 => ((x3 ≤ v4 → Q (some (.int v3)) h2) ∧ (¬ x3 ≤ v4 → g_R D h2 (some t) 0 0 (fun r4 => (recv D h2 r4 RJ2 ∧ c_R D m_J2_get [va_rf r4, .int v4] h2 X (fun r6 h5 => (q_cast D h5 r6 "Quirefold$Token" ∧ g_I D h5 r6 3 0 (fun x7 => ((¬ x7 = 6 → L_X1_marksOf_82 D Q X t v1 v2 v4 v3 h5) ∧ (x7 = 6 → g_R D h5 (some v1) 4 2 (fun r8 => a_I D h5 r8 0 v4 (fun x9 => ((x9 = (-1) → L_X1_marksOf_82 D Q X t v1 v2 v4 v3 h5) ∧ (¬ x9 = (-1) → g_R D h5 (some t) 0 0 (fun r10 => (recv D h5 r10 RJ2 ∧ c_R D m_J2_get [va_rf r10, .int v4] h5 X (fun r12 h11 => (q_cast D h11 r12 "Quirefold$Token" ∧ g_I D h11 r12 3 1 (fun x13 => (recv D h11 (some t) RX1 ∧ c_I D m_X1_rootOf [va_rf (some t), .int x13] h11 X (fun x15 h14 => ((¬ x15 = v2 → L_X1_marksOf_82 D Q X t v1 v2 v4 v3 h14) ∧ (x15 = v2 → L_X1_marksOf_83 D Q X t v1 v2 v4 1 v3 h14)))))))))))))))))))))))))) : L_X1_marksOf_5 D Q X t v1 v2 v3 v4 h := by
  show WA D m_X1_marksOf Q X 5 [(0, va_rf (some t)), (1, va_rf (some v1)), (2, .int v2), (3, .int v3), (4, .int v4)] [] h
  refine wa_iload (x := v4) dX1_marksOf_5 4 rfl ?_
  refine wa_aload_n (o := (some t)) dX1_marksOf_7 rfl 0 rfl ?_
  refine wa_getR (C := RX1) (T := TX1) (N := 11) (ci := 0) (k := 0) dX1_marksOf_8 rfl (Nat.le_of_ble_eq_true rfl) in_X1 q147 q_same_own (g_R_mono F fun r1 F => ?_)
  refine wa_callF (M' := m_J2_size) (C := RJ2) (x := y_Lsize) (ci := 6) (o := r1) (As := []) (st := [.int v4]) dX1_marksOf_11 rfl rfl fw_J2_size ⟨Nat.le_of_ble_eq_true rfl, Nat.le_of_ble_eq_true rfl⟩ nf_y_Lsize q192 q196 q198 q57 q200 rfl rfl (q_cs_le (q_csi q_cs0) (Nat.le_of_ble_eq_true rfl)) rfl F.1 F.2 (wk_I fun x3 h2 F => ?_)
  refine wa_icmp_ge (tgt := 91) dX1_marksOf_16 rfl (fun z => ?_) (fun z => ?_)
  · have F := F.1 z
    refine wa_iload_n (x := v3) dX1_marksOf_91 rfl 3 rfl ?_
    exact wa_iret rfl dX1_marksOf_92 F
  · have F := F.2 z
    refine wa_iload_n (x := v3) dX1_marksOf_19 rfl 3 rfl ?_
    refine wa_aload_n (o := (some t)) dX1_marksOf_20 rfl 0 rfl ?_
    refine wa_getR (C := RX1) (T := TX1) (N := 11) (ci := 0) (k := 0) dX1_marksOf_21 rfl (Nat.le_of_ble_eq_true rfl) in_X1 q147 q_same_own (g_R_mono F fun r4 F => ?_)
    refine wa_iload (x := v4) dX1_marksOf_24 4 rfl ?_
    refine wa_callF (M' := m_J2_get) (C := RJ2) (x := y_Lget) (ci := 6) (o := r4) (As := [.int v4]) (st := [.int v3]) dX1_marksOf_26 rfl rfl fw_J2_get ⟨Nat.le_of_ble_eq_true rfl, Nat.le_of_ble_eq_true rfl⟩ nf_y_Lget q1055 q776 q778 q57 q780 rfl rfl (q_cs_le (q_csi q_cs0) (Nat.le_of_ble_eq_true rfl)) rfl F.1 F.2 (wk_R fun r6 h5 F => ?_)
    refine wa_cast (C := "Quirefold$Token") dX1_marksOf_31 q586 F.1 ?_
    have F := F.2
    refine wa_getNI (C := RX4) (T := TX4) (N := 3) (ci := 3) (k := 0) dX1_marksOf_34 rfl (Nat.le_of_ble_eq_true rfl) in_X4 q594 q_same_own (g_I_mono F fun x7 F => ?_)
    refine wa_bipush (v := 6) dX1_marksOf_37 rfl ?_
    refine wa_icmp_ne (tgt := 82) dX1_marksOf_39 rfl (fun z => ?_) (fun z => ?_)
    · have F := F.1 z
      exact wa_sub [0, 1, 2, 4] rfl F
    · have F := F.2 z
      refine wa_aload_n (o := (some v1)) dX1_marksOf_42 rfl 1 rfl ?_
      refine wa_getNR (C := RX5) (T := TX5) (N := 10) (ci := 4) (k := 2) dX1_marksOf_43 rfl (Nat.le_of_ble_eq_true rfl) in_X5 q926 q_same_own (g_R_mono F fun r8 F => ?_)
      refine wa_iload (x := v4) dX1_marksOf_46 4 rfl ?_
      refine wa_iald dX1_marksOf_48 (a_I_mono F fun x9 F => ?_)
      refine wa_iconst (v := -1) dX1_marksOf_49 rfl ?_
      refine wa_icmp_eq (tgt := 82) dX1_marksOf_50 rfl (fun z => ?_) (fun z => ?_)
      · have F := F.1 z
        exact wa_sub [0, 1, 2, 4] rfl F
      · have F := F.2 z
        refine wa_aload_n (o := (some t)) dX1_marksOf_53 rfl 0 rfl ?_
        refine wa_aload_n (o := (some t)) dX1_marksOf_54 rfl 0 rfl ?_
        refine wa_getR (C := RX1) (T := TX1) (N := 11) (ci := 0) (k := 0) dX1_marksOf_55 rfl (Nat.le_of_ble_eq_true rfl) in_X1 q147 q_same_own (g_R_mono F fun r10 F => ?_)
        refine wa_iload (x := v4) dX1_marksOf_58 4 rfl ?_
        refine wa_callF (M' := m_J2_get) (C := RJ2) (x := y_Lget) (ci := 6) (o := r10) (As := [.int v4]) (st := [va_rf (some t), .int v3]) dX1_marksOf_60 rfl rfl fw_J2_get ⟨Nat.le_of_ble_eq_true rfl, Nat.le_of_ble_eq_true rfl⟩ nf_y_Lget q1055 q776 q778 q57 q780 rfl rfl (q_cs_le (q_csr (q_csi q_cs0)) (Nat.le_of_ble_eq_true rfl)) rfl F.1 F.2 (wk_R fun r12 h11 F => ?_)
        refine wa_cast (C := "Quirefold$Token") dX1_marksOf_65 q586 F.1 ?_
        have F := F.2
        refine wa_getNI (C := RX4) (T := TX4) (N := 3) (ci := 3) (k := 1) dX1_marksOf_68 rfl (Nat.le_of_ble_eq_true rfl) in_X4 q597 q_same_own (g_I_mono F fun x13 F => ?_)
        refine wa_callV (M' := m_X1_rootOf) (C := RX1) (o := (some t)) (As := [.int x13]) (st := [.int v3]) dX1_marksOf_71 ⟨Nat.le_of_ble_eq_true rfl, Nat.le_of_ble_eq_true rfl, nk_X1_rootOf⟩ q1118 q1120 qs20 q54 q1121 rfl rfl (q_cs_le (q_csi q_cs0) (Nat.le_of_ble_eq_true rfl)) rfl F.1 F.2 (wk_I fun x15 h14 F => ?_)
        refine wa_iload_n (x := v2) dX1_marksOf_74 rfl 2 rfl ?_
        refine wa_icmp_ne (tgt := 82) dX1_marksOf_75 rfl (fun z => ?_) (fun z => ?_)
        · have F := F.1 z
          exact wa_sub [0, 1, 2, 4] rfl F
        · have F := F.2 z
          refine wa_iconst (v := 1) dX1_marksOf_78 rfl ?_
          refine wa_goto (tgt := 83) dX1_marksOf_79 rfl ?_
          exact wa_sub [0, 1, 2, 4] rfl F
theorem f_X1_marksOf_82 {D : qD} {Q : Option Value → qH → Prop} {X : String → qH → Prop} (t : Nat) (v1 : Nat) (v2 : Int32) (v4 : Int32) (s0 : Int32) (h : qH) (F : L_X1_marksOf_83 D Q X t v1 v2 v4 0 s0 h) : L_X1_marksOf_82 D Q X t v1 v2 v4 s0 h := by
  show WA D m_X1_marksOf Q X 82 [(0, va_rf (some t)), (1, va_rf (some v1)), (2, .int v2), (4, .int v4)] [.int s0] h
  refine wa_iconst (v := 0) dX1_marksOf_82 rfl ?_
  exact F
theorem f_X1_marksOf_83 {D : qD} {Q : Option Value → qH → Prop} {X : String → qH → Prop} (t : Nat) (v1 : Nat) (v2 : Int32) (v4 : Int32) (s0 : Int32) (s1 : Int32) (h : qH) (F : L_X1_marksOf_5 D Q X t v1 v2 (s1 + s0) (v4 + 1) h) : L_X1_marksOf_83 D Q X t v1 v2 v4 s0 s1 h := by
  show WA D m_X1_marksOf Q X 83 [(0, va_rf (some t)), (1, va_rf (some v1)), (2, .int v2), (4, .int v4)] [.int s0, .int s1] h
  refine wa_iadd dX1_marksOf_83 ?_
  refine ws_istore_n (lv' := [(3, .int (s1 + s0)), (0, va_rf (some t)), (1, va_rf (some v1)), (2, .int v2), (4, .int v4)]) dX1_marksOf_84 rfl (Nat.le_of_ble_eq_true rfl) (q_cr (q_cr (q_ci (q_ci q_cn)))) rfl ?_
  refine ws_iinc (j := 4) (v := (v4 + 1)) (lv' := [(4, .int (v4 + 1)), (3, .int (s1 + s0)), (0, va_rf (some t)), (1, va_rf (some v1)), (2, .int v2)]) dX1_marksOf_85 rfl rfl (Nat.le_of_ble_eq_true rfl) (q_ci (q_cr (q_cr (q_ci (q_ci q_cn))))) rfl ?_
  refine wa_goto (tgt := 5) dX1_marksOf_88 rfl ?_
  exact wa_sub [2, 3, 4, 1, 0] rfl F
def L_X1_pagesOf_29 (D : qD) (Q : Option Value → qH → Prop) (X : String → qH → Prop) (t : Nat) (v1 : Nat) (v2 : Int32) (v3 : Option Nat) (s0 : Int32) (h : qH) : Prop := WA D m_X1_pagesOf Q X 29 [(0, va_rf (some t)), (1, va_rf (some v1)), (2, .int v2), (3, va_rf v3)] [.int s0] h
def L_X1_pagesOf_34 (D : qD) (Q : Option Value → qH → Prop) (X : String → qH → Prop) (t : Nat) (v1 : Nat) (v2 : Int32) (v3 : Option Nat) (v4 : Int32) (v5 : Int32) (h : qH) : Prop := WA D m_X1_pagesOf Q X 34 [(0, va_rf (some t)), (1, va_rf (some v1)), (2, .int v2), (3, va_rf v3), (4, .int v4), (5, .int v5)] [] h
def L_X1_pagesOf_44 (D : qD) (Q : Option Value → qH → Prop) (X : String → qH → Prop) (t : Nat) (v1 : Nat) (v2 : Int32) (v3 : Option Nat) (v4 : Int32) (v5 : Int32) (v6 : Int32) (h : qH) : Prop := WA D m_X1_pagesOf Q X 44 [(0, va_rf (some t)), (1, va_rf (some v1)), (2, .int v2), (3, va_rf v3), (4, .int v4), (5, .int v5), (6, .int v6)] [] h
def L_X1_pagesOf_121 (D : qD) (Q : Option Value → qH → Prop) (X : String → qH → Prop) (t : Nat) (v1 : Nat) (v2 : Int32) (v3 : Option Nat) (v4 : Int32) (v5 : Int32) (v6 : Int32) (h : qH) : Prop := WA D m_X1_pagesOf Q X 121 [(0, va_rf (some t)), (1, va_rf (some v1)), (2, .int v2), (3, va_rf v3), (4, .int v4), (5, .int v5), (6, .int v6)] [] h
def L_X1_pagesOf_122 (D : qD) (Q : Option Value → qH → Prop) (X : String → qH → Prop) (t : Nat) (v1 : Nat) (v2 : Int32) (v3 : Option Nat) (v4 : Int32) (v5 : Int32) (v6 : Int32) (s0 : Int32) (h : qH) : Prop := WA D m_X1_pagesOf Q X 122 [(0, va_rf (some t)), (1, va_rf (some v1)), (2, .int v2), (3, va_rf v3), (4, .int v4), (5, .int v5), (6, .int v6)] [.int s0] h
def L_X1_pagesOf_183 (D : qD) (Q : Option Value → qH → Prop) (X : String → qH → Prop) (t : Nat) (v1 : Nat) (v2 : Int32) (v3 : Option Nat) (v4 : Int32) (v5 : Int32) (v6 : Int32) (h : qH) : Prop := WA D m_X1_pagesOf Q X 183 [(0, va_rf (some t)), (1, va_rf (some v1)), (2, .int v2), (3, va_rf v3), (4, .int v4), (5, .int v5), (6, .int v6)] [] h
def L_X1_pagesOf_167 (D : qD) (Q : Option Value → qH → Prop) (X : String → qH → Prop) (t : Nat) (v1 : Nat) (v2 : Int32) (v3 : Option Nat) (v4 : Int32) (v5 : Int32) (v6 : Int32) (h : qH) : Prop := WA D m_X1_pagesOf Q X 167 [(0, va_rf (some t)), (1, va_rf (some v1)), (2, .int v2), (3, va_rf v3), (4, .int v4), (5, .int v5), (6, .int v6)] [] h
theorem f_X1_pagesOf {D : qD} {Q : Option Value → qH → Prop} {X : String → qH → Prop} (t : Nat) (p0 : Nat) (p1 : Int32) (h : qH) (F : n_O h 6 3 tyJ2 (fun a1 h2 => c_V D m_J2_init [va_rf (some a1)] h2 X (fun h3 => g_I D h3 (some p0) 4 8 (fun x4 => ((¬ x4 = (-1) → g_R D h3 (some p0) 4 1 (fun r5 => (recv D h3 r5 RJ2 ∧ c_I D m_J2_size [va_rf r5] h3 X (fun x7 h6 => L_X1_pagesOf_29 D Q X t p0 p1 (some a1) x7 h6)))) ∧ (x4 = (-1) → L_X1_pagesOf_29 D Q X t p0 p1 (some a1) 0 h3)))))) : MW D m_X1_pagesOf [va_rf (some t), va_rf (some p0), .int p1] h Q X := by
  refine mw_of pl_X1_pagesOf rfl _ (Nat.le_of_ble_eq_true rfl) rfl ?_
  refine (show WA D m_X1_pagesOf Q X 0 [(0, va_rf (some t)), (1, va_rf (some p0)), (2, .int p1)] [] h from ?_)
  refine wa_new (C := RJ2) (T := TJ2) tyJ2 dX1_pagesOf_0 rfl in_J2 tyJ2_ok q93 q94 q57 (n_O_mono F fun a1 h2 F => ?_)
  refine wa_dup dX1_pagesOf_3 (q_cat _) ?_
  refine wa_callI (M' := m_J2_init) (b := a1) (As := []) (st := [va_rf (some a1)]) dX1_pagesOf_4 ⟨Nat.le_of_ble_eq_true rfl, Nat.le_of_ble_eq_true rfl, nk_J2_init⟩ rfl rfl q95 q96 q57 q97 rfl rfl (q_cs_le (q_csr q_cs0) (Nat.le_of_ble_eq_true rfl)) rfl F (wk_V fun h3 F => ?_)
  refine ws_astore_n (lv' := [(3, va_rf (some a1)), (0, va_rf (some t)), (1, va_rf (some p0)), (2, .int p1)]) dX1_pagesOf_7 rfl (Nat.le_of_ble_eq_true rfl) (q_cr (q_cr (q_ci q_cn))) rfl ?_
  refine wa_aload_n (o := (some p0)) dX1_pagesOf_8 rfl 2 rfl ?_
  refine wa_getNI (C := RX5) (T := TX5) (N := 10) (ci := 4) (k := 8) dX1_pagesOf_9 rfl (Nat.le_of_ble_eq_true rfl) in_X5 q934 q_same_own (g_I_mono F fun x4 F => ?_)
  refine wa_iconst (v := -1) dX1_pagesOf_12 rfl ?_
  refine wa_icmp_ne (tgt := 20) dX1_pagesOf_13 rfl (fun z => ?_) (fun z => ?_)
  · have F := F.1 z
    refine wa_aload_n (o := (some p0)) dX1_pagesOf_20 rfl 2 rfl ?_
    refine wa_getNR (C := RX5) (T := TX5) (N := 10) (ci := 4) (k := 1) dX1_pagesOf_21 rfl (Nat.le_of_ble_eq_true rfl) in_X5 q924 q_same_own (g_R_mono F fun r5 F => ?_)
    refine wa_callF (M' := m_J2_size) (C := RJ2) (x := y_Lsize) (ci := 6) (o := r5) (As := []) (st := []) dX1_pagesOf_24 rfl rfl fw_J2_size ⟨Nat.le_of_ble_eq_true rfl, Nat.le_of_ble_eq_true rfl⟩ nf_y_Lsize q192 q196 q198 q57 q200 rfl rfl (Nat.zero_le 8) rfl F.1 F.2 (wk_I fun x7 h6 F => ?_)
    exact wa_sub [1, 2, 3, 0] rfl F
  · have F := F.2 z
    refine wa_iconst (v := 0) dX1_pagesOf_16 rfl ?_
    refine wa_goto (tgt := 29) dX1_pagesOf_17 rfl ?_
    exact wa_sub [1, 2, 3, 0] rfl F
theorem f_X1_pagesOf_29 {D : qD} {Q : Option Value → qH → Prop} {X : String → qH → Prop} (t : Nat) (v1 : Nat) (v2 : Int32) (v3 : Option Nat) (s0 : Int32) (h : qH) (F : L_X1_pagesOf_34 D Q X t v1 v2 v3 s0 0 h) : L_X1_pagesOf_29 D Q X t v1 v2 v3 s0 h := by
  show WA D m_X1_pagesOf Q X 29 [(0, va_rf (some t)), (1, va_rf (some v1)), (2, .int v2), (3, va_rf v3)] [.int s0] h
  refine ws_istore (lv' := [(4, .int s0), (0, va_rf (some t)), (1, va_rf (some v1)), (2, .int v2), (3, va_rf v3)]) dX1_pagesOf_29 (Nat.le_of_ble_eq_true rfl) (q_cr (q_cr (q_ci (q_cr q_cn)))) rfl ?_
  refine wa_iconst (v := 0) dX1_pagesOf_31 rfl ?_
  refine ws_istore (lv' := [(5, .int 0), (4, .int s0), (0, va_rf (some t)), (1, va_rf (some v1)), (2, .int v2), (3, va_rf v3)]) dX1_pagesOf_32 (Nat.le_of_ble_eq_true rfl) (q_ci (q_cr (q_cr (q_ci (q_cr q_cn))))) rfl ?_
  exact wa_sub [2, 3, 4, 5, 1, 0] rfl F
theorem f_X1_pagesOf_34 {D : qD} {Q : Option Value → qH → Prop} {X : String → qH → Prop} (t : Nat) (v1 : Nat) (v2 : Int32) (v3 : Option Nat) (v4 : Int32) (v5 : Int32) (h : qH) (F : ((v4 ≤ v5 → Q (some (va_rf v3)) h) ∧ (¬ v4 ≤ v5 → L_X1_pagesOf_44 D Q X t v1 v2 v3 v4 v5 0 h))) : L_X1_pagesOf_34 D Q X t v1 v2 v3 v4 v5 h := by
  show WA D m_X1_pagesOf Q X 34 [(0, va_rf (some t)), (1, va_rf (some v1)), (2, .int v2), (3, va_rf v3), (4, .int v4), (5, .int v5)] [] h
  refine wa_iload (x := v5) dX1_pagesOf_34 5 rfl ?_
  refine wa_iload (x := v4) dX1_pagesOf_36 4 rfl ?_
  refine wa_icmp_ge (tgt := 195) dX1_pagesOf_38 rfl (fun z => ?_) (fun z => ?_)
  · have F := F.1 z
    refine wa_aload_n (o := v3) dX1_pagesOf_195 rfl 3 rfl ?_
    exact wa_aret rfl (Or.inl ⟨_, rfl⟩) dX1_pagesOf_196 F
  · have F := F.2 z
    refine wa_iconst (v := 0) dX1_pagesOf_41 rfl ?_
    refine ws_istore (lv' := [(6, .int 0), (0, va_rf (some t)), (1, va_rf (some v1)), (2, .int v2), (3, va_rf v3), (4, .int v4), (5, .int v5)]) dX1_pagesOf_42 (Nat.le_of_ble_eq_true rfl) (q_cr (q_cr (q_ci (q_cr (q_ci (q_ci q_cn)))))) rfl ?_
    exact wa_sub [1, 2, 3, 4, 5, 6, 0] rfl F
theorem f_X1_pagesOf_44 {D : qD} {Q : Option Value → qH → Prop} {X : String → qH → Prop} (t : Nat) (v1 : Nat) (v2 : Int32) (v3 : Option Nat) (v4 : Int32) (v5 : Int32) (v6 : Int32) (h : qH) (F : g_R D h (some t) 0 0 (fun r1 => (recv D h r1 RJ2 ∧ c_I D m_J2_size [va_rf r1] h X (fun x3 h2 => ((x3 ≤ v6 → L_X1_pagesOf_34 D Q X t v1 v2 v3 v4 (v5 + 1) h2) ∧ (¬ x3 ≤ v6 → g_R D h2 (some t) 0 0 (fun r4 => (recv D h2 r4 RJ2 ∧ c_R D m_J2_get [va_rf r4, .int v6] h2 X (fun r6 h5 => (q_cast D h5 r6 "Quirefold$Token" ∧ g_I D h5 r6 3 0 (fun x7 => ((¬ x7 = 6 → L_X1_pagesOf_121 D Q X t v1 v2 v3 v4 v5 v6 h5) ∧ (x7 = 6 → g_R D h5 (some v1) 4 2 (fun r8 => a_I D h5 r8 0 v6 (fun x9 => ((¬ x9 = v5 → L_X1_pagesOf_121 D Q X t v1 v2 v3 v4 v5 v6 h5) ∧ (x9 = v5 → g_R D h5 (some t) 0 0 (fun r10 => (recv D h5 r10 RJ2 ∧ c_R D m_J2_get [va_rf r10, .int v6] h5 X (fun r12 h11 => (q_cast D h11 r12 "Quirefold$Token" ∧ g_I D h11 r12 3 1 (fun x13 => (recv D h11 (some t) RX1 ∧ c_I D m_X1_rootOf [va_rf (some t), .int x13] h11 X (fun x15 h14 => ((¬ x15 = v2 → L_X1_pagesOf_121 D Q X t v1 v2 v3 v4 v5 v6 h14) ∧ (x15 = v2 → L_X1_pagesOf_122 D Q X t v1 v2 v3 v4 v5 v6 1 h14)))))))))))))))))))))))))) : L_X1_pagesOf_44 D Q X t v1 v2 v3 v4 v5 v6 h := by
  show WA D m_X1_pagesOf Q X 44 [(0, va_rf (some t)), (1, va_rf (some v1)), (2, .int v2), (3, va_rf v3), (4, .int v4), (5, .int v5), (6, .int v6)] [] h
  refine wa_iload (x := v6) dX1_pagesOf_44 6 rfl ?_
  refine wa_aload_n (o := (some t)) dX1_pagesOf_46 rfl 0 rfl ?_
  refine wa_getR (C := RX1) (T := TX1) (N := 11) (ci := 0) (k := 0) dX1_pagesOf_47 rfl (Nat.le_of_ble_eq_true rfl) in_X1 q147 q_same_own (g_R_mono F fun r1 F => ?_)
  refine wa_callF (M' := m_J2_size) (C := RJ2) (x := y_Lsize) (ci := 6) (o := r1) (As := []) (st := [.int v6]) dX1_pagesOf_50 rfl rfl fw_J2_size ⟨Nat.le_of_ble_eq_true rfl, Nat.le_of_ble_eq_true rfl⟩ nf_y_Lsize q192 q196 q198 q57 q200 rfl rfl (q_cs_le (q_csi q_cs0) (Nat.le_of_ble_eq_true rfl)) rfl F.1 F.2 (wk_I fun x3 h2 F => ?_)
  refine wa_icmp_ge (tgt := 189) dX1_pagesOf_55 rfl (fun z => ?_) (fun z => ?_)
  · have F := F.1 z
    refine ws_iinc (j := 5) (v := (v5 + 1)) (lv' := [(5, .int (v5 + 1)), (0, va_rf (some t)), (1, va_rf (some v1)), (2, .int v2), (3, va_rf v3), (4, .int v4), (6, .int v6)]) dX1_pagesOf_189 rfl rfl (Nat.le_of_ble_eq_true rfl) (q_cr (q_cr (q_ci (q_cr (q_ci (q_ci (q_ci q_cn))))))) rfl ?_
    refine wa_goto (tgt := 34) dX1_pagesOf_192 rfl ?_
    exact wa_sub [1, 2, 3, 4, 5, 0] rfl F
  · have F := F.2 z
    refine wa_aload_n (o := (some t)) dX1_pagesOf_58 rfl 0 rfl ?_
    refine wa_getR (C := RX1) (T := TX1) (N := 11) (ci := 0) (k := 0) dX1_pagesOf_59 rfl (Nat.le_of_ble_eq_true rfl) in_X1 q147 q_same_own (g_R_mono F fun r4 F => ?_)
    refine wa_iload (x := v6) dX1_pagesOf_62 6 rfl ?_
    refine wa_callF (M' := m_J2_get) (C := RJ2) (x := y_Lget) (ci := 6) (o := r4) (As := [.int v6]) (st := []) dX1_pagesOf_64 rfl rfl fw_J2_get ⟨Nat.le_of_ble_eq_true rfl, Nat.le_of_ble_eq_true rfl⟩ nf_y_Lget q1055 q776 q778 q57 q780 rfl rfl (Nat.zero_le 8) rfl F.1 F.2 (wk_R fun r6 h5 F => ?_)
    refine wa_cast (C := "Quirefold$Token") dX1_pagesOf_69 q586 F.1 ?_
    have F := F.2
    refine wa_getNI (C := RX4) (T := TX4) (N := 3) (ci := 3) (k := 0) dX1_pagesOf_72 rfl (Nat.le_of_ble_eq_true rfl) in_X4 q594 q_same_own (g_I_mono F fun x7 F => ?_)
    refine wa_bipush (v := 6) dX1_pagesOf_75 rfl ?_
    refine wa_icmp_ne (tgt := 121) dX1_pagesOf_77 rfl (fun z => ?_) (fun z => ?_)
    · have F := F.1 z
      exact F
    · have F := F.2 z
      refine wa_aload_n (o := (some v1)) dX1_pagesOf_80 rfl 1 rfl ?_
      refine wa_getNR (C := RX5) (T := TX5) (N := 10) (ci := 4) (k := 2) dX1_pagesOf_81 rfl (Nat.le_of_ble_eq_true rfl) in_X5 q926 q_same_own (g_R_mono F fun r8 F => ?_)
      refine wa_iload (x := v6) dX1_pagesOf_84 6 rfl ?_
      refine wa_iald dX1_pagesOf_86 (a_I_mono F fun x9 F => ?_)
      refine wa_iload (x := v5) dX1_pagesOf_87 5 rfl ?_
      refine wa_icmp_ne (tgt := 121) dX1_pagesOf_89 rfl (fun z => ?_) (fun z => ?_)
      · have F := F.1 z
        exact F
      · have F := F.2 z
        refine wa_aload_n (o := (some t)) dX1_pagesOf_92 rfl 0 rfl ?_
        refine wa_aload_n (o := (some t)) dX1_pagesOf_93 rfl 0 rfl ?_
        refine wa_getR (C := RX1) (T := TX1) (N := 11) (ci := 0) (k := 0) dX1_pagesOf_94 rfl (Nat.le_of_ble_eq_true rfl) in_X1 q147 q_same_own (g_R_mono F fun r10 F => ?_)
        refine wa_iload (x := v6) dX1_pagesOf_97 6 rfl ?_
        refine wa_callF (M' := m_J2_get) (C := RJ2) (x := y_Lget) (ci := 6) (o := r10) (As := [.int v6]) (st := [va_rf (some t)]) dX1_pagesOf_99 rfl rfl fw_J2_get ⟨Nat.le_of_ble_eq_true rfl, Nat.le_of_ble_eq_true rfl⟩ nf_y_Lget q1055 q776 q778 q57 q780 rfl rfl (q_cs_le (q_csr q_cs0) (Nat.le_of_ble_eq_true rfl)) rfl F.1 F.2 (wk_R fun r12 h11 F => ?_)
        refine wa_cast (C := "Quirefold$Token") dX1_pagesOf_104 q586 F.1 ?_
        have F := F.2
        refine wa_getNI (C := RX4) (T := TX4) (N := 3) (ci := 3) (k := 1) dX1_pagesOf_107 rfl (Nat.le_of_ble_eq_true rfl) in_X4 q597 q_same_own (g_I_mono F fun x13 F => ?_)
        refine wa_callV (M' := m_X1_rootOf) (C := RX1) (o := (some t)) (As := [.int x13]) (st := []) dX1_pagesOf_110 ⟨Nat.le_of_ble_eq_true rfl, Nat.le_of_ble_eq_true rfl, nk_X1_rootOf⟩ q1118 q1120 qs20 q54 q1121 rfl rfl (Nat.zero_le 8) rfl F.1 F.2 (wk_I fun x15 h14 F => ?_)
        refine wa_iload_n (x := v2) dX1_pagesOf_113 rfl 2 rfl ?_
        refine wa_icmp_ne (tgt := 121) dX1_pagesOf_114 rfl (fun z => ?_) (fun z => ?_)
        · have F := F.1 z
          exact F
        · have F := F.2 z
          refine wa_iconst (v := 1) dX1_pagesOf_117 rfl ?_
          refine wa_goto (tgt := 122) dX1_pagesOf_118 rfl ?_
          exact F
theorem f_X1_pagesOf_121 {D : qD} {Q : Option Value → qH → Prop} {X : String → qH → Prop} (t : Nat) (v1 : Nat) (v2 : Int32) (v3 : Option Nat) (v4 : Int32) (v5 : Int32) (v6 : Int32) (h : qH) (F : L_X1_pagesOf_122 D Q X t v1 v2 v3 v4 v5 v6 0 h) : L_X1_pagesOf_121 D Q X t v1 v2 v3 v4 v5 v6 h := by
  show WA D m_X1_pagesOf Q X 121 [(0, va_rf (some t)), (1, va_rf (some v1)), (2, .int v2), (3, va_rf v3), (4, .int v4), (5, .int v5), (6, .int v6)] [] h
  refine wa_iconst (v := 0) dX1_pagesOf_121 rfl ?_
  exact F
theorem f_X1_pagesOf_122 {D : qD} {Q : Option Value → qH → Prop} {X : String → qH → Prop} (t : Nat) (v1 : Nat) (v2 : Int32) (v3 : Option Nat) (v4 : Int32) (v5 : Int32) (v6 : Int32) (s0 : Int32) (h : qH) (F : ((s0 = 0 → L_X1_pagesOf_183 D Q X t v1 v2 v3 v4 v5 v6 h) ∧ (¬ s0 = 0 → (recv D h v3 RJ2 ∧ c_I D m_J2_isEmpty [va_rf v3] h X (fun x2 h1 => ((¬ x2 = 0 → L_X1_pagesOf_167 D Q X t v1 v2 v3 v4 v5 v6 h1) ∧ (x2 = 0 → (recv D h1 v3 RJ2 ∧ c_I D m_J2_size [va_rf v3] h1 X (fun x4 h3 => (recv D h3 v3 RJ2 ∧ c_R D m_J2_get [va_rf v3, .int (x4 - 1)] h3 X (fun r6 h5 => (q_cast D h5 r6 "java/lang/Integer" ∧ (recv D h5 r6 RJ18 ∧ c_I D m_J18_intValue [va_rf r6] h5 X (fun x8 h7 => (recv D h7 (some v1) RX5 ∧ c_I D m_X5_page [va_rf (some v1), .int v5] h7 X (fun x10 h9 => ((x8 = x10 → L_X1_pagesOf_183 D Q X t v1 v2 v3 v4 v5 v6 h9) ∧ (¬ x8 = x10 → L_X1_pagesOf_167 D Q X t v1 v2 v3 v4 v5 v6 h9)))))))))))))))))) : L_X1_pagesOf_122 D Q X t v1 v2 v3 v4 v5 v6 s0 h := by
  show WA D m_X1_pagesOf Q X 122 [(0, va_rf (some t)), (1, va_rf (some v1)), (2, .int v2), (3, va_rf v3), (4, .int v4), (5, .int v5), (6, .int v6)] [.int s0] h
  refine ws_istore (lv' := [(7, .int s0), (0, va_rf (some t)), (1, va_rf (some v1)), (2, .int v2), (3, va_rf v3), (4, .int v4), (5, .int v5), (6, .int v6)]) dX1_pagesOf_122 (Nat.le_of_ble_eq_true rfl) (q_cr (q_cr (q_ci (q_cr (q_ci (q_ci (q_ci q_cn))))))) rfl ?_
  refine wa_iload (x := s0) dX1_pagesOf_124 0 rfl ?_
  refine wa_if_eq (tgt := 183) dX1_pagesOf_126 rfl (fun z => ?_) (fun z => ?_)
  · have F := F.1 z
    exact wa_sub [1, 2, 3, 4, 5, 6, 7] rfl F
  · have F := F.2 z
    refine wa_aload_n (o := v3) dX1_pagesOf_129 rfl 4 rfl ?_
    refine wa_callF (M' := m_J2_isEmpty) (C := RJ2) (x := y_LisEmpty) (ci := 6) (o := v3) (As := []) (st := []) dX1_pagesOf_130 rfl rfl fw_J2_isEmpty ⟨Nat.le_of_ble_eq_true rfl, Nat.le_of_ble_eq_true rfl⟩ nf_y_LisEmpty q1123 q878 q880 q57 q882 rfl rfl (Nat.zero_le 8) rfl F.1 F.2 (wk_I fun x2 h1 F => ?_)
    refine wa_if_ne (tgt := 167) dX1_pagesOf_135 rfl (fun z => ?_) (fun z => ?_)
    · have F := F.1 z
      exact wa_sub [1, 2, 3, 4, 5, 6, 7] rfl F
    · have F := F.2 z
      refine wa_aload_n (o := v3) dX1_pagesOf_138 rfl 4 rfl ?_
      refine wa_aload_n (o := v3) dX1_pagesOf_139 rfl 4 rfl ?_
      refine wa_callF (M' := m_J2_size) (C := RJ2) (x := y_Lsize) (ci := 6) (o := v3) (As := []) (st := [va_rf v3]) dX1_pagesOf_140 rfl rfl fw_J2_size ⟨Nat.le_of_ble_eq_true rfl, Nat.le_of_ble_eq_true rfl⟩ nf_y_Lsize q192 q196 q198 q57 q200 rfl rfl (q_cs_le (q_csr q_cs0) (Nat.le_of_ble_eq_true rfl)) rfl F.1 F.2 (wk_I fun x4 h3 F => ?_)
      refine wa_iconst (v := 1) dX1_pagesOf_145 rfl ?_
      refine wa_isub dX1_pagesOf_146 ?_
      refine wa_callF (M' := m_J2_get) (C := RJ2) (x := y_Lget) (ci := 6) (o := v3) (As := [.int (x4 - 1)]) (st := []) dX1_pagesOf_147 rfl rfl fw_J2_get ⟨Nat.le_of_ble_eq_true rfl, Nat.le_of_ble_eq_true rfl⟩ nf_y_Lget q1055 q776 q778 q57 q780 rfl rfl (Nat.zero_le 8) rfl F.1 F.2 (wk_R fun r6 h5 F => ?_)
      refine wa_cast (C := "java/lang/Integer") dX1_pagesOf_152 q1124 F.1 ?_
      have F := F.2
      refine wa_callV (M' := m_J18_intValue) (C := RJ18) (o := r6) (As := []) (st := []) dX1_pagesOf_155 ⟨Nat.le_of_ble_eq_true rfl, Nat.le_of_ble_eq_true rfl, nk_J18_intValue⟩ q1125 q893 q894 q76 q895 rfl rfl (Nat.zero_le 8) rfl F.1 F.2 (wk_I fun x8 h7 F => ?_)
      refine wa_aload_n (o := (some v1)) dX1_pagesOf_158 rfl 2 rfl ?_
      refine wa_iload (x := v5) dX1_pagesOf_159 6 rfl ?_
      refine wa_callV (M' := m_X5_page) (C := RX5) (o := (some v1)) (As := [.int v5]) (st := [.int x8]) dX1_pagesOf_161 ⟨Nat.le_of_ble_eq_true rfl, Nat.le_of_ble_eq_true rfl, nk_X5_page⟩ q1069 q1070 q1071 q81 q1072 rfl rfl (q_cs_le (q_csi q_cs0) (Nat.le_of_ble_eq_true rfl)) rfl F.1 F.2 (wk_I fun x10 h9 F => ?_)
      refine wa_icmp_eq (tgt := 183) dX1_pagesOf_164 rfl (fun z => ?_) (fun z => ?_)
      · have F := F.1 z
        exact wa_sub [1, 2, 3, 4, 5, 6, 7] rfl F
      · have F := F.2 z
        exact wa_sub [1, 2, 3, 4, 5, 6, 7] rfl F
theorem f_X1_pagesOf_183 {D : qD} {Q : Option Value → qH → Prop} {X : String → qH → Prop} (t : Nat) (v1 : Nat) (v2 : Int32) (v3 : Option Nat) (v4 : Int32) (v5 : Int32) (v6 : Int32) (h : qH) (F : L_X1_pagesOf_44 D Q X t v1 v2 v3 v4 v5 (v6 + 1) h) : L_X1_pagesOf_183 D Q X t v1 v2 v3 v4 v5 v6 h := by
  show WA D m_X1_pagesOf Q X 183 [(0, va_rf (some t)), (1, va_rf (some v1)), (2, .int v2), (3, va_rf v3), (4, .int v4), (5, .int v5), (6, .int v6)] [] h
  refine ws_iinc (j := 6) (v := (v6 + 1)) (lv' := [(6, .int (v6 + 1)), (0, va_rf (some t)), (1, va_rf (some v1)), (2, .int v2), (3, va_rf v3), (4, .int v4), (5, .int v5)]) dX1_pagesOf_183 rfl rfl (Nat.le_of_ble_eq_true rfl) (q_cr (q_cr (q_ci (q_cr (q_ci (q_ci (q_ci q_cn))))))) rfl ?_
  refine wa_goto (tgt := 44) dX1_pagesOf_186 rfl ?_
  exact wa_sub [1, 2, 3, 4, 5, 6, 0] rfl F
theorem f_X1_pagesOf_167 {D : qD} {Q : Option Value → qH → Prop} {X : String → qH → Prop} (t : Nat) (v1 : Nat) (v2 : Int32) (v3 : Option Nat) (v4 : Int32) (v5 : Int32) (v6 : Int32) (h : qH) (F : (recv D h (some v1) RX5 ∧ c_I D m_X5_page [va_rf (some v1), .int v5] h X (fun x2 h1 => c_R D m_J18_valueOf [.int x2] h1 X (fun r4 h3 => (recv D h3 v3 RJ2 ∧ c_I D m_J2_add_2 [va_rf v3, va_rf r4] h3 X (fun x6 h5 => L_X1_pagesOf_183 D Q X t v1 v2 v3 v4 v5 v6 h5)))))) : L_X1_pagesOf_167 D Q X t v1 v2 v3 v4 v5 v6 h := by
  show WA D m_X1_pagesOf Q X 167 [(0, va_rf (some t)), (1, va_rf (some v1)), (2, .int v2), (3, va_rf v3), (4, .int v4), (5, .int v5), (6, .int v6)] [] h
  refine wa_aload_n (o := v3) dX1_pagesOf_167 rfl 3 rfl ?_
  refine wa_aload_n (o := (some v1)) dX1_pagesOf_168 rfl 1 rfl ?_
  refine wa_iload (x := v5) dX1_pagesOf_169 5 rfl ?_
  refine wa_callV (M' := m_X5_page) (C := RX5) (o := (some v1)) (As := [.int v5]) (st := [va_rf v3]) dX1_pagesOf_171 ⟨Nat.le_of_ble_eq_true rfl, Nat.le_of_ble_eq_true rfl, nk_X5_page⟩ q1069 q1070 q1071 q81 q1072 rfl rfl (q_cs_le (q_csr q_cs0) (Nat.le_of_ble_eq_true rfl)) rfl F.1 F.2 (wk_I fun x2 h1 F => ?_)
  refine wa_callS (M' := m_J18_valueOf) (As := [.int x2]) (st := [va_rf v3]) dX1_pagesOf_174 ⟨Nat.le_of_ble_eq_true rfl, Nat.le_of_ble_eq_true rfl, nk_J18_valueOf⟩ q1126 q851 q76 q852 rfl rfl (q_cs_le (q_csr q_cs0) (Nat.le_of_ble_eq_true rfl)) rfl F (wk_R fun r4 h3 F => ?_)
  refine wa_callF (M' := m_J2_add_2) (C := RJ2) (x := y_Ladd) (ci := 6) (o := v3) (As := [va_rf r4]) (st := []) dX1_pagesOf_177 rfl rfl fw_J2_add_2 ⟨Nat.le_of_ble_eq_true rfl, Nat.le_of_ble_eq_true rfl⟩ nf_y_Ladd q1031 q841 q843 q57 q845 rfl rfl (Nat.zero_le 8) rfl F.1 F.2 (wk_I fun x6 h5 F => ?_)
  refine wa_pop dX1_pagesOf_182 rfl ?_
  exact F
theorem f_X1_must {D : qD} {Q : Option Value → qH → Prop} {X : String → qH → Prop} (p0 : Int32) (p1 : Nat) (h : qH) (F : ((¬ p0 = 0 → Q none h) ∧ (p0 = 0 → x_N h "java/lang/IllegalStateException" (fun a1 h2 => x_I h2 (some a1) "java/lang/IllegalStateException" (fun h3 => x_T h3 (some a1) X))))) : MW D m_X1_must [.int p0, va_rf (some p1)] h Q X := by
  refine mw_of pl_X1_must rfl _ (Nat.le_of_ble_eq_true rfl) rfl ?_
  refine (show WA D m_X1_must Q X 0 [(0, .int p0), (1, va_rf (some p1))] [] h from ?_)
  refine wa_iload_n (x := p0) dX1_must_0 rfl 0 rfl ?_
  refine wa_if_ne (tgt := 13) dX1_must_1 rfl (fun z => ?_) (fun z => ?_)
  · have F := F.1 z
    exact wa_vret rfl dX1_must_13 F
  · have F := F.2 z
    refine wa_newX (E := "java/lang/IllegalStateException") (by simp [qXN]) dX1_must_4 q571 q572 q78 (x_N_mono F fun a1 h2 F => ?_)
    refine wa_dup dX1_must_7 (q_cat _) ?_
    refine wa_aload_n (o := (some p1)) dX1_must_8 rfl 1 rfl ?_
    refine wa_initX (E := "java/lang/IllegalStateException") (by simp [qXN]) (Nat.le_of_ble_eq_true rfl) (by decide +kernel) dX1_must_9 at_IllegalStateException ag_IllegalStateException (Nat.zero_le 8) (x_I_mono F fun h3 F => ?_)
    exact wa_athrow rfl dX1_must_12 F
def L_X1_place_9 (D : qD) (Q : Option Value → qH → Prop) (X : String → qH → Prop) (v0 : Int32) (v2 : Nat) (h : qH) : Prop := WA D m_X1_place Q X 9 [(0, .int v0), (2, va_rf (some v2))] [] h
theorem f_X1_place {D : qD} {Q : Option Value → qH → Prop} {X : String → qH → Prop} (p0 : Int32) (p1 : Int32) (p2 : Nat) (h : qH) (F : ((p0 < 0 → L_X1_place_9 D Q X p0 p2 h) ∧ (¬ p0 < 0 → ((p0 < p1 → Q (some (.int p0)) h) ∧ (¬ p0 < p1 → L_X1_place_9 D Q X p0 p2 h))))) : MW D m_X1_place [.int p0, .int p1, va_rf (some p2)] h Q X := by
  refine mw_of pl_X1_place rfl _ (Nat.le_of_ble_eq_true rfl) rfl ?_
  refine (show WA D m_X1_place Q X 0 [(0, .int p0), (1, .int p1), (2, va_rf (some p2))] [] h from ?_)
  refine wa_iload_n (x := p0) dX1_place_0 rfl 0 rfl ?_
  refine wa_if_lt (tgt := 9) dX1_place_1 rfl (fun z => ?_) (fun z => ?_)
  · have F := F.1 z
    exact wa_sub [0, 2] rfl F
  · have F := F.2 z
    refine wa_iload_n (x := p0) dX1_place_4 rfl 0 rfl ?_
    refine wa_iload_n (x := p1) dX1_place_5 rfl 1 rfl ?_
    refine wa_icmp_lt (tgt := 45) dX1_place_6 rfl (fun z => ?_) (fun z => ?_)
    · have F := F.1 z
      refine wa_iload_n (x := p0) dX1_place_45 rfl 0 rfl ?_
      exact wa_iret rfl dX1_place_46 F
    · have F := F.2 z
      exact wa_sub [0, 2] rfl F
theorem f_X1_place_9 {D : qD} {Q : Option Value → qH → Prop} {X : String → qH → Prop} (v0 : Int32) (v2 : Nat) (h : qH) (F : x_N h "java/lang/IndexOutOfBoundsException" (fun a1 h2 => n_O h2 9 4 tyJ10 (fun a3 h4 => c_V D m_J10_init [va_rf (some a3)] h4 X (fun h5 => (recv D h5 (some a3) RJ10 ∧ c_R D m_J10_append [va_rf (some a3), va_rf (some (d_s D 101))] h5 X (fun r7 h6 => (recv D h6 r7 RJ10 ∧ c_R D m_J10_append [va_rf r7, va_rf (some v2)] h6 X (fun r9 h8 => (recv D h8 r9 RJ10 ∧ c_R D m_J10_append [va_rf r9, va_rf (some (d_s D 102))] h8 X (fun r11 h10 => (recv D h10 r11 RJ10 ∧ c_R D m_J10_append_2 [va_rf r11, .int v0] h10 X (fun r13 h12 => (recv D h12 r13 RJ10 ∧ c_R D m_J10_toString [va_rf r13] h12 X (fun r15 h14 => x_I h14 (some a1) "java/lang/IndexOutOfBoundsException" (fun h16 => x_T h16 (some a1) X))))))))))))))) : L_X1_place_9 D Q X v0 v2 h := by
  show WA D m_X1_place Q X 9 [(0, .int v0), (2, va_rf (some v2))] [] h
  refine wa_newX (E := "java/lang/IndexOutOfBoundsException") (by simp [qXN]) dX1_place_9 q291 q292 q63 (x_N_mono F fun a1 h2 F => ?_)
  refine wa_dup dX1_place_12 (q_cat _) ?_
  refine wa_new (C := RJ10) (T := TJ10) tyJ10 dX1_place_13 rfl in_J10 tyJ10_ok q300 q301 q67 (n_O_mono F fun a3 h4 F => ?_)
  refine wa_dup dX1_place_16 (q_cat _) ?_
  refine wa_callI (M' := m_J10_init) (b := a3) (As := []) (st := [va_rf (some a3), va_rf (some a1), va_rf (some a1)]) dX1_place_17 ⟨Nat.le_of_ble_eq_true rfl, Nat.le_of_ble_eq_true rfl, nk_J10_init⟩ rfl rfl q302 q303 q67 q304 rfl rfl (q_cs_le (q_csr (q_csr (q_csr q_cs0))) (Nat.le_of_ble_eq_true rfl)) rfl F (wk_V fun h5 F => ?_)
  refine wa_ldcS (i := 1) dX1_place_20 rfl ?_
  refine wa_callV (M' := m_J10_append) (C := RJ10) (o := (some a3)) (As := [va_rf (some (d_s D 101))]) (st := [va_rf (some a1), va_rf (some a1)]) dX1_place_22 ⟨Nat.le_of_ble_eq_true rfl, Nat.le_of_ble_eq_true rfl, nk_J10_append⟩ q332 q333 q334 q67 q335 rfl rfl (q_cs_le (q_csr (q_csr q_cs0)) (Nat.le_of_ble_eq_true rfl)) rfl F.1 F.2 (wk_R fun r7 h6 F => ?_)
  refine wa_aload_n (o := (some v2)) dX1_place_25 rfl 1 rfl ?_
  refine wa_callV (M' := m_J10_append) (C := RJ10) (o := r7) (As := [va_rf (some v2)]) (st := [va_rf (some a1), va_rf (some a1)]) dX1_place_26 ⟨Nat.le_of_ble_eq_true rfl, Nat.le_of_ble_eq_true rfl, nk_J10_append⟩ q332 q333 q334 q67 q335 rfl rfl (q_cs_le (q_csr (q_csr q_cs0)) (Nat.le_of_ble_eq_true rfl)) rfl F.1 F.2 (wk_R fun r9 h8 F => ?_)
  refine wa_ldcS (i := 2) dX1_place_29 rfl ?_
  refine wa_callV (M' := m_J10_append) (C := RJ10) (o := r9) (As := [va_rf (some (d_s D 102))]) (st := [va_rf (some a1), va_rf (some a1)]) dX1_place_31 ⟨Nat.le_of_ble_eq_true rfl, Nat.le_of_ble_eq_true rfl, nk_J10_append⟩ q332 q333 q334 q67 q335 rfl rfl (q_cs_le (q_csr (q_csr q_cs0)) (Nat.le_of_ble_eq_true rfl)) rfl F.1 F.2 (wk_R fun r11 h10 F => ?_)
  refine wa_iload_n (x := v0) dX1_place_34 rfl 0 rfl ?_
  refine wa_callV (M' := m_J10_append_2) (C := RJ10) (o := r11) (As := [.int v0]) (st := [va_rf (some a1), va_rf (some a1)]) dX1_place_35 ⟨Nat.le_of_ble_eq_true rfl, Nat.le_of_ble_eq_true rfl, nk_J10_append_2⟩ q453 q454 q455 q67 q456 rfl rfl (q_cs_le (q_csr (q_csr q_cs0)) (Nat.le_of_ble_eq_true rfl)) rfl F.1 F.2 (wk_R fun r13 h12 F => ?_)
  refine wa_callV (M' := m_J10_toString) (C := RJ10) (o := r13) (As := []) (st := [va_rf (some a1), va_rf (some a1)]) dX1_place_38 ⟨Nat.le_of_ble_eq_true rfl, Nat.le_of_ble_eq_true rfl, nk_J10_toString⟩ q478 q479 q480 q67 q481 rfl rfl (q_cs_le (q_csr (q_csr q_cs0)) (Nat.le_of_ble_eq_true rfl)) rfl F.1 F.2 (wk_R fun r15 h14 F => ?_)
  refine wa_initX (E := "java/lang/IndexOutOfBoundsException") (by simp [qXN]) (Nat.le_of_ble_eq_true rfl) (by decide +kernel) dX1_place_41 at_IndexOutOfBoundsException ag_IndexOutOfBoundsException (Nat.zero_le 8) (x_I_mono F fun h16 F => ?_)
  exact wa_athrow rfl dX1_place_44 F
def L_X1_isWithin_10 (D : qD) (Q : Option Value → qH → Prop) (X : String → qH → Prop) (v0 : Int32) (v1 : Int32) (v2 : Int32) (h : qH) : Prop := WA D m_X1_isWithin Q X 10 [(0, .int v0), (1, .int v1), (2, .int v2)] [] h
theorem f_X1_isWithin {D : qD} {Q : Option Value → qH → Prop} {X : String → qH → Prop} (p0 : Int32) (p1 : Int32) (p2 : Int32) (h : qH) (F : ((p0 < p1 → L_X1_isWithin_10 D Q X p0 p1 p2 h) ∧ (¬ p0 < p1 → ((p0 ≤ p2 → Q none h) ∧ (¬ p0 ≤ p2 → L_X1_isWithin_10 D Q X p0 p1 p2 h))))) : MW D m_X1_isWithin [.int p0, .int p1, .int p2] h Q X := by
  refine mw_of pl_X1_isWithin rfl _ (Nat.le_of_ble_eq_true rfl) rfl ?_
  refine (show WA D m_X1_isWithin Q X 0 [(0, .int p0), (1, .int p1), (2, .int p2)] [] h from ?_)
  refine wa_iload_n (x := p0) dX1_isWithin_0 rfl 0 rfl ?_
  refine wa_iload_n (x := p1) dX1_isWithin_1 rfl 1 rfl ?_
  refine wa_icmp_lt (tgt := 10) dX1_isWithin_2 rfl (fun z => ?_) (fun z => ?_)
  · have F := F.1 z
    exact F
  · have F := F.2 z
    refine wa_iload_n (x := p0) dX1_isWithin_5 rfl 0 rfl ?_
    refine wa_iload_n (x := p2) dX1_isWithin_6 rfl 2 rfl ?_
    refine wa_icmp_le (tgt := 50) dX1_isWithin_7 rfl (fun z => ?_) (fun z => ?_)
    · have F := F.1 z
      exact wa_vret rfl dX1_isWithin_50 F
    · have F := F.2 z
      exact F
theorem f_X1_isWithin_10 {D : qD} {Q : Option Value → qH → Prop} {X : String → qH → Prop} (v0 : Int32) (v1 : Int32) (v2 : Int32) (h : qH) (F : x_N h "java/lang/IllegalArgumentException" (fun a1 h2 => n_O h2 9 4 tyJ10 (fun a3 h4 => c_V D m_J10_init [va_rf (some a3)] h4 X (fun h5 => (recv D h5 (some a3) RJ10 ∧ c_R D m_J10_append_2 [va_rf (some a3), .int v0] h5 X (fun r7 h6 => (recv D h6 r7 RJ10 ∧ c_R D m_J10_append [va_rf r7, va_rf (some (d_s D 103))] h6 X (fun r9 h8 => (recv D h8 r9 RJ10 ∧ c_R D m_J10_append_2 [va_rf r9, .int v1] h8 X (fun r11 h10 => (recv D h10 r11 RJ10 ∧ c_R D m_J10_append [va_rf r11, va_rf (some (d_s D 104))] h10 X (fun r13 h12 => (recv D h12 r13 RJ10 ∧ c_R D m_J10_append_2 [va_rf r13, .int v2] h12 X (fun r15 h14 => (recv D h14 r15 RJ10 ∧ c_R D m_J10_toString [va_rf r15] h14 X (fun r17 h16 => x_I h16 (some a1) "java/lang/IllegalArgumentException" (fun h18 => x_T h18 (some a1) X))))))))))))))))) : L_X1_isWithin_10 D Q X v0 v1 v2 h := by
  show WA D m_X1_isWithin Q X 10 [(0, .int v0), (1, .int v1), (2, .int v2)] [] h
  refine wa_newX (E := "java/lang/IllegalArgumentException") (by simp [qXN]) dX1_isWithin_10 q563 q514 q77 (x_N_mono F fun a1 h2 F => ?_)
  refine wa_dup dX1_isWithin_13 (q_cat _) ?_
  refine wa_new (C := RJ10) (T := TJ10) tyJ10 dX1_isWithin_14 rfl in_J10 tyJ10_ok q300 q301 q67 (n_O_mono F fun a3 h4 F => ?_)
  refine wa_dup dX1_isWithin_17 (q_cat _) ?_
  refine wa_callI (M' := m_J10_init) (b := a3) (As := []) (st := [va_rf (some a3), va_rf (some a1), va_rf (some a1)]) dX1_isWithin_18 ⟨Nat.le_of_ble_eq_true rfl, Nat.le_of_ble_eq_true rfl, nk_J10_init⟩ rfl rfl q302 q303 q67 q304 rfl rfl (q_cs_le (q_csr (q_csr (q_csr q_cs0))) (Nat.le_of_ble_eq_true rfl)) rfl F (wk_V fun h5 F => ?_)
  refine wa_iload_n (x := v0) dX1_isWithin_21 rfl 0 rfl ?_
  refine wa_callV (M' := m_J10_append_2) (C := RJ10) (o := (some a3)) (As := [.int v0]) (st := [va_rf (some a1), va_rf (some a1)]) dX1_isWithin_22 ⟨Nat.le_of_ble_eq_true rfl, Nat.le_of_ble_eq_true rfl, nk_J10_append_2⟩ q453 q454 q455 q67 q456 rfl rfl (q_cs_le (q_csr (q_csr q_cs0)) (Nat.le_of_ble_eq_true rfl)) rfl F.1 F.2 (wk_R fun r7 h6 F => ?_)
  refine wa_ldcS (i := 3) dX1_isWithin_25 rfl ?_
  refine wa_callV (M' := m_J10_append) (C := RJ10) (o := r7) (As := [va_rf (some (d_s D 103))]) (st := [va_rf (some a1), va_rf (some a1)]) dX1_isWithin_27 ⟨Nat.le_of_ble_eq_true rfl, Nat.le_of_ble_eq_true rfl, nk_J10_append⟩ q332 q333 q334 q67 q335 rfl rfl (q_cs_le (q_csr (q_csr q_cs0)) (Nat.le_of_ble_eq_true rfl)) rfl F.1 F.2 (wk_R fun r9 h8 F => ?_)
  refine wa_iload_n (x := v1) dX1_isWithin_30 rfl 1 rfl ?_
  refine wa_callV (M' := m_J10_append_2) (C := RJ10) (o := r9) (As := [.int v1]) (st := [va_rf (some a1), va_rf (some a1)]) dX1_isWithin_31 ⟨Nat.le_of_ble_eq_true rfl, Nat.le_of_ble_eq_true rfl, nk_J10_append_2⟩ q453 q454 q455 q67 q456 rfl rfl (q_cs_le (q_csr (q_csr q_cs0)) (Nat.le_of_ble_eq_true rfl)) rfl F.1 F.2 (wk_R fun r11 h10 F => ?_)
  refine wa_ldcS (i := 4) dX1_isWithin_34 rfl ?_
  refine wa_callV (M' := m_J10_append) (C := RJ10) (o := r11) (As := [va_rf (some (d_s D 104))]) (st := [va_rf (some a1), va_rf (some a1)]) dX1_isWithin_36 ⟨Nat.le_of_ble_eq_true rfl, Nat.le_of_ble_eq_true rfl, nk_J10_append⟩ q332 q333 q334 q67 q335 rfl rfl (q_cs_le (q_csr (q_csr q_cs0)) (Nat.le_of_ble_eq_true rfl)) rfl F.1 F.2 (wk_R fun r13 h12 F => ?_)
  refine wa_iload_n (x := v2) dX1_isWithin_39 rfl 2 rfl ?_
  refine wa_callV (M' := m_J10_append_2) (C := RJ10) (o := r13) (As := [.int v2]) (st := [va_rf (some a1), va_rf (some a1)]) dX1_isWithin_40 ⟨Nat.le_of_ble_eq_true rfl, Nat.le_of_ble_eq_true rfl, nk_J10_append_2⟩ q453 q454 q455 q67 q456 rfl rfl (q_cs_le (q_csr (q_csr q_cs0)) (Nat.le_of_ble_eq_true rfl)) rfl F.1 F.2 (wk_R fun r15 h14 F => ?_)
  refine wa_callV (M' := m_J10_toString) (C := RJ10) (o := r15) (As := []) (st := [va_rf (some a1), va_rf (some a1)]) dX1_isWithin_43 ⟨Nat.le_of_ble_eq_true rfl, Nat.le_of_ble_eq_true rfl, nk_J10_toString⟩ q478 q479 q480 q67 q481 rfl rfl (q_cs_le (q_csr (q_csr q_cs0)) (Nat.le_of_ble_eq_true rfl)) rfl F.1 F.2 (wk_R fun r17 h16 F => ?_)
  refine wa_initX (E := "java/lang/IllegalArgumentException") (by simp [qXN]) (Nat.le_of_ble_eq_true rfl) (by decide +kernel) dX1_isWithin_46 at_IllegalArgumentException ag_IllegalArgumentException (Nat.zero_le 8) (x_I_mono F fun h18 F => ?_)
  exact wa_athrow rfl dX1_isWithin_49 F
def L_X1_isToken_92 (D : qD) (Q : Option Value → qH → Prop) (X : String → qH → Prop) (v0 : Int32) (v2 : Int32) (h : qH) : Prop := WA D m_X1_isToken Q X 92 [(0, .int v0), (2, .int v2)] [] h
def L_X1_isToken_85 (D : qD) (Q : Option Value → qH → Prop) (X : String → qH → Prop) (v0 : Int32) (v1 : Int32) (v2 : Int32) (h : qH) : Prop := WA D m_X1_isToken Q X 85 [(0, .int v0), (1, .int v1), (2, .int v2)] [] h
def L_X1_isToken_104 (D : qD) (Q : Option Value → qH → Prop) (X : String → qH → Prop) (s0 : Int32) (s1 : Int32) (h : qH) : Prop := WA D m_X1_isToken Q X 104 [] [.int s0, .int s1] h
def L_X1_isToken_109 (D : qD) (Q : Option Value → qH → Prop) (X : String → qH → Prop) (s0 : Int32) (s1 : Int32) (s2 : Int32) (h : qH) : Prop := WA D m_X1_isToken Q X 109 [] [.int s0, .int s1, .int s2] h
theorem f_X1_isToken {D : qD} {Q : Option Value → qH → Prop} {X : String → qH → Prop} (p0 : Int32) (p1 : Int32) (p2 : Int32) (h : qH) (F : c_V D m_X1_isWithin [.int p0, .int 0, .int 6] h X (fun h1 => ((p0 = 1 → c_V D m_X1_isWithin [.int p1, .int 0, .int 3] h1 X (fun h2 => L_X1_isToken_92 D Q X p0 p2 h2)) ∧ (p0 = 2 → c_V D m_X1_isWithin [.int p1, .int 0, .int 0] h1 X (fun h3 => L_X1_isToken_92 D Q X p0 p2 h3)) ∧ (p0 = 3 → L_X1_isToken_85 D Q X p0 p1 p2 h1) ∧ (p0 = 4 → L_X1_isToken_85 D Q X p0 p1 p2 h1) ∧ (p0 = 5 → c_V D m_X1_isWithin [.int p1, .int 1, .int 4] h1 X (fun h4 => L_X1_isToken_92 D Q X p0 p2 h4)) ∧ (p0 = 6 → c_V D m_X1_isWithin [.int p1, .int 0, .int 9] h1 X (fun h5 => L_X1_isToken_92 D Q X p0 p2 h5)) ∧ (¬ p0 = 1 → ¬ p0 = 2 → ¬ p0 = 3 → ¬ p0 = 4 → ¬ p0 = 5 → ¬ p0 = 6 → L_X1_isToken_85 D Q X p0 p1 p2 h1)))) : MW D m_X1_isToken [.int p0, .int p1, .int p2] h Q X := by
  refine mw_of pl_X1_isToken rfl _ (Nat.le_of_ble_eq_true rfl) rfl ?_
  refine (show WA D m_X1_isToken Q X 0 [(0, .int p0), (1, .int p1), (2, .int p2)] [] h from ?_)
  refine wa_iload_n (x := p0) dX1_isToken_0 rfl 0 rfl ?_
  refine wa_iconst (v := 0) dX1_isToken_1 rfl ?_
  refine wa_bipush (v := 6) dX1_isToken_2 rfl ?_
  refine wa_callS (M' := m_X1_isWithin) (As := [.int p0, .int 0, .int 6]) (st := []) dX1_isToken_4 ⟨Nat.le_of_ble_eq_true rfl, Nat.le_of_ble_eq_true rfl, nk_X1_isWithin⟩ q560 q561 q54 q562 rfl rfl (Nat.zero_le 8) rfl F (wk_V fun h1 F => ?_)
  refine wa_iload_n (x := p0) dX1_isToken_7 rfl 0 rfl ?_
  by_cases z1 : p0 = 1
  · have F := (F.1 z1)
    refine wa_tableIn (tgt := 48) (off := 40) dX1_isToken_8 (by rw [z1]; decide) (by rw [z1]; decide) (by rw [z1]; rfl) rfl ?_
    refine wa_iload_n (x := p1) dX1_isToken_48 rfl 1 rfl ?_
    refine wa_iconst (v := 0) dX1_isToken_49 rfl ?_
    refine wa_iconst (v := 3) dX1_isToken_50 rfl ?_
    refine wa_callS (M' := m_X1_isWithin) (As := [.int p1, .int 0, .int 3]) (st := []) dX1_isToken_51 ⟨Nat.le_of_ble_eq_true rfl, Nat.le_of_ble_eq_true rfl, nk_X1_isWithin⟩ q560 q561 q54 q562 rfl rfl (Nat.zero_le 8) rfl F (wk_V fun h2 F => ?_)
    refine wa_goto (tgt := 92) dX1_isToken_54 rfl ?_
    exact wa_sub [0, 2] rfl F
  have F := F.2
  by_cases z2 : p0 = 2
  · have F := (F.1 z2)
    refine wa_tableIn (tgt := 57) (off := 49) dX1_isToken_8 (by rw [z2]; decide) (by rw [z2]; decide) (by rw [z2]; rfl) rfl ?_
    refine wa_iload_n (x := p1) dX1_isToken_57 rfl 1 rfl ?_
    refine wa_iconst (v := 0) dX1_isToken_58 rfl ?_
    refine wa_iconst (v := 0) dX1_isToken_59 rfl ?_
    refine wa_callS (M' := m_X1_isWithin) (As := [.int p1, .int 0, .int 0]) (st := []) dX1_isToken_60 ⟨Nat.le_of_ble_eq_true rfl, Nat.le_of_ble_eq_true rfl, nk_X1_isWithin⟩ q560 q561 q54 q562 rfl rfl (Nat.zero_le 8) rfl F (wk_V fun h3 F => ?_)
    refine wa_goto (tgt := 92) dX1_isToken_63 rfl ?_
    exact wa_sub [0, 2] rfl F
  have F := F.2
  by_cases z3 : p0 = 3
  · have F := (F.1 z3)
    refine wa_tableIn (tgt := 85) (off := 77) dX1_isToken_8 (by rw [z3]; decide) (by rw [z3]; decide) (by rw [z3]; rfl) rfl ?_
    exact F
  have F := F.2
  by_cases z4 : p0 = 4
  · have F := (F.1 z4)
    refine wa_tableIn (tgt := 85) (off := 77) dX1_isToken_8 (by rw [z4]; decide) (by rw [z4]; decide) (by rw [z4]; rfl) rfl ?_
    exact F
  have F := F.2
  by_cases z5 : p0 = 5
  · have F := (F.1 z5)
    refine wa_tableIn (tgt := 66) (off := 58) dX1_isToken_8 (by rw [z5]; decide) (by rw [z5]; decide) (by rw [z5]; rfl) rfl ?_
    refine wa_iload_n (x := p1) dX1_isToken_66 rfl 1 rfl ?_
    refine wa_iconst (v := 1) dX1_isToken_67 rfl ?_
    refine wa_iconst (v := 4) dX1_isToken_68 rfl ?_
    refine wa_callS (M' := m_X1_isWithin) (As := [.int p1, .int 1, .int 4]) (st := []) dX1_isToken_69 ⟨Nat.le_of_ble_eq_true rfl, Nat.le_of_ble_eq_true rfl, nk_X1_isWithin⟩ q560 q561 q54 q562 rfl rfl (Nat.zero_le 8) rfl F (wk_V fun h4 F => ?_)
    refine wa_goto (tgt := 92) dX1_isToken_72 rfl ?_
    exact wa_sub [0, 2] rfl F
  have F := F.2
  by_cases z6 : p0 = 6
  · have F := (F.1 z6)
    refine wa_tableIn (tgt := 75) (off := 67) dX1_isToken_8 (by rw [z6]; decide) (by rw [z6]; decide) (by rw [z6]; rfl) rfl ?_
    refine wa_iload_n (x := p1) dX1_isToken_75 rfl 1 rfl ?_
    refine wa_iconst (v := 0) dX1_isToken_76 rfl ?_
    refine wa_bipush (v := 9) dX1_isToken_77 rfl ?_
    refine wa_callS (M' := m_X1_isWithin) (As := [.int p1, .int 0, .int 9]) (st := []) dX1_isToken_79 ⟨Nat.le_of_ble_eq_true rfl, Nat.le_of_ble_eq_true rfl, nk_X1_isWithin⟩ q560 q561 q54 q562 rfl rfl (Nat.zero_le 8) rfl F (wk_V fun h5 F => ?_)
    refine wa_goto (tgt := 92) dX1_isToken_82 rfl ?_
    exact wa_sub [0, 2] rfl F
  have F := F.2
  have F := F z1 z2 z3 z4 z5 z6
  refine wa_tableOut (tgt := 85) dX1_isToken_8 (q_out_1_6 (lv_neT z1 rfl) (lv_neT z2 rfl) (lv_neT z3 rfl) (lv_neT z4 rfl) (lv_neT z5 rfl) (lv_neT z6 rfl)) rfl ?_
  exact F
theorem f_X1_isToken_92 {D : qD} {Q : Option Value → qH → Prop} {X : String → qH → Prop} (v0 : Int32) (v2 : Int32) (h : qH) (F : ((v0 ≤ 1 → L_X1_isToken_104 D Q X 0 v2 h) ∧ (¬ v0 ≤ 1 → ((¬ v0 = 3 → L_X1_isToken_109 D Q X 0 0 v2 h) ∧ (v0 = 3 → L_X1_isToken_104 D Q X 0 v2 h))))) : L_X1_isToken_92 D Q X v0 v2 h := by
  show WA D m_X1_isToken Q X 92 [(0, .int v0), (2, .int v2)] [] h
  refine wa_iload_n (x := v2) dX1_isToken_92 rfl 1 rfl ?_
  refine wa_iconst (v := 0) dX1_isToken_93 rfl ?_
  refine wa_iload_n (x := v0) dX1_isToken_94 rfl 0 rfl ?_
  refine wa_iconst (v := 1) dX1_isToken_95 rfl ?_
  refine wa_icmp_le (tgt := 104) dX1_isToken_96 rfl (fun z => ?_) (fun z => ?_)
  · have F := F.1 z
    exact wa_sub [] rfl F
  · have F := F.2 z
    refine wa_iload_n (x := v0) dX1_isToken_99 rfl 0 rfl ?_
    refine wa_iconst (v := 3) dX1_isToken_100 rfl ?_
    refine wa_icmp_ne (tgt := 108) dX1_isToken_101 rfl (fun z => ?_) (fun z => ?_)
    · have F := F.1 z
      refine wa_iconst (v := 0) dX1_isToken_108 rfl ?_
      exact wa_sub [] rfl F
    · have F := F.2 z
      exact wa_sub [] rfl F
theorem f_X1_isToken_85 {D : qD} {Q : Option Value → qH → Prop} {X : String → qH → Prop} (v0 : Int32) (v1 : Int32) (v2 : Int32) (h : qH) (F : c_V D m_X1_isWithin [.int v1, .int 1, .int 9] h X (fun h1 => L_X1_isToken_92 D Q X v0 v2 h1)) : L_X1_isToken_85 D Q X v0 v1 v2 h := by
  show WA D m_X1_isToken Q X 85 [(0, .int v0), (1, .int v1), (2, .int v2)] [] h
  refine wa_iload_n (x := v1) dX1_isToken_85 rfl 1 rfl ?_
  refine wa_iconst (v := 1) dX1_isToken_86 rfl ?_
  refine wa_bipush (v := 9) dX1_isToken_87 rfl ?_
  refine wa_callS (M' := m_X1_isWithin) (As := [.int v1, .int 1, .int 9]) (st := []) dX1_isToken_89 ⟨Nat.le_of_ble_eq_true rfl, Nat.le_of_ble_eq_true rfl, nk_X1_isWithin⟩ q560 q561 q54 q562 rfl rfl (Nat.zero_le 8) rfl F (wk_V fun h1 F => ?_)
  exact wa_sub [0, 2] rfl F
theorem f_X1_isToken_104 {D : qD} {Q : Option Value → qH → Prop} {X : String → qH → Prop} (s0 : Int32) (s1 : Int32) (h : qH) (F : L_X1_isToken_109 D Q X 5 s0 s1 h) : L_X1_isToken_104 D Q X s0 s1 h := by
  show WA D m_X1_isToken Q X 104 [] [.int s0, .int s1] h
  refine wa_iconst (v := 5) dX1_isToken_104 rfl ?_
  refine wa_goto (tgt := 109) dX1_isToken_105 rfl ?_
  exact F
theorem f_X1_isToken_109 {D : qD} {Q : Option Value → qH → Prop} {X : String → qH → Prop} (s0 : Int32) (s1 : Int32) (s2 : Int32) (h : qH) (F : c_V D m_X1_isWithin [.int s2, .int s1, .int s0] h X (fun h1 => Q none h1)) : L_X1_isToken_109 D Q X s0 s1 s2 h := by
  show WA D m_X1_isToken Q X 109 [] [.int s0, .int s1, .int s2] h
  refine wa_callS (M' := m_X1_isWithin) (As := [.int s2, .int s1, .int s0]) (st := []) dX1_isToken_109 ⟨Nat.le_of_ble_eq_true rfl, Nat.le_of_ble_eq_true rfl, nk_X1_isWithin⟩ q560 q561 q54 q562 rfl rfl (Nat.zero_le 8) rfl F (wk_V fun h1 F => ?_)
  exact wa_vret rfl dX1_isToken_112 F
theorem f_X1_take {D : qD} {Q : Option Value → qH → Prop} {X : String → qH → Prop} (t : Nat) (p0 : Int32) (h : qH) (F : g_R D h (some t) 0 0 (fun r1 => g_R D h (some t) 0 0 (fun r2 => (recv D h r2 RJ2 ∧ c_I D m_J2_size [va_rf r2] h X (fun x4 h3 => c_I D m_X1_place [.int p0, .int x4, va_rf (some (d_s D 106))] h3 X (fun x6 h5 => (recv D h5 r1 RJ2 ∧ c_R D m_J2_remove [va_rf r1, .int x6] h5 X (fun r8 h7 => (recv D h7 (some t) RX1 ∧ c_V D m_X1_forgets [va_rf (some t)] h7 X (fun h9 => g_R D h9 (some t) 0 0 (fun r10 => (recv D h9 r10 RJ2 ∧ c_I D m_J2_size [va_rf r10] h9 X (fun x12 h11 => Q (some (.int x12)) h11))))))))))))) : MW D m_X1_take [va_rf (some t), .int p0] h Q X := by
  refine mw_of pl_X1_take rfl _ (Nat.le_of_ble_eq_true rfl) rfl ?_
  refine (show WA D m_X1_take Q X 0 [(0, va_rf (some t)), (1, .int p0)] [] h from ?_)
  refine wa_aload_n (o := (some t)) dX1_take_0 rfl 0 rfl ?_
  refine wa_getR (C := RX1) (T := TX1) (N := 11) (ci := 0) (k := 0) dX1_take_1 rfl (Nat.le_of_ble_eq_true rfl) in_X1 q147 q_same_own (g_R_mono F fun r1 F => ?_)
  refine wa_iload_n (x := p0) dX1_take_4 rfl 1 rfl ?_
  refine wa_aload_n (o := (some t)) dX1_take_5 rfl 0 rfl ?_
  refine wa_getR (C := RX1) (T := TX1) (N := 11) (ci := 0) (k := 0) dX1_take_6 rfl (Nat.le_of_ble_eq_true rfl) in_X1 q147 q_same_own (g_R_mono F fun r2 F => ?_)
  refine wa_callF (M' := m_J2_size) (C := RJ2) (x := y_Lsize) (ci := 6) (o := r2) (As := []) (st := [.int p0, va_rf r1]) dX1_take_9 rfl rfl fw_J2_size ⟨Nat.le_of_ble_eq_true rfl, Nat.le_of_ble_eq_true rfl⟩ nf_y_Lsize q192 q196 q198 q57 q200 rfl rfl (q_cs_le (q_csi (q_csr q_cs0)) (Nat.le_of_ble_eq_true rfl)) rfl F.1 F.2 (wk_I fun x4 h3 F => ?_)
  refine wa_ldcS (i := 6) dX1_take_14 rfl ?_
  refine wa_callS (M' := m_X1_place) (As := [.int p0, .int x4, va_rf (some (d_s D 106))]) (st := [va_rf r1]) dX1_take_16 ⟨Nat.le_of_ble_eq_true rfl, Nat.le_of_ble_eq_true rfl, nk_X1_place⟩ q288 q289 q54 q290 rfl rfl (q_cs_le (q_csr q_cs0) (Nat.le_of_ble_eq_true rfl)) rfl F (wk_I fun x6 h5 F => ?_)
  refine wa_callF (M' := m_J2_remove) (C := RJ2) (x := y_Lremove) (ci := 6) (o := r1) (As := [.int x6]) (st := []) dX1_take_19 rfl rfl fw_J2_remove ⟨Nat.le_of_ble_eq_true rfl, Nat.le_of_ble_eq_true rfl⟩ nf_y_Lremove q687 q690 q692 q57 q694 rfl rfl (Nat.zero_le 8) rfl F.1 F.2 (wk_R fun r8 h7 F => ?_)
  refine wa_pop dX1_take_24 (q_cat _) ?_
  refine wa_aload_n (o := (some t)) dX1_take_25 rfl 0 rfl ?_
  refine wa_callV (M' := m_X1_forgets) (C := RX1) (o := (some t)) (As := []) (st := []) dX1_take_26 ⟨Nat.le_of_ble_eq_true rfl, Nat.le_of_ble_eq_true rfl, nk_X1_forgets⟩ q674 q676 qs5 q54 q677 rfl rfl (Nat.zero_le 8) rfl F.1 F.2 (wk_V fun h9 F => ?_)
  refine wa_aload_n (o := (some t)) dX1_take_29 rfl 0 rfl ?_
  refine wa_getR (C := RX1) (T := TX1) (N := 11) (ci := 0) (k := 0) dX1_take_30 rfl (Nat.le_of_ble_eq_true rfl) in_X1 q147 q_same_own (g_R_mono F fun r10 F => ?_)
  refine wa_callF (M' := m_J2_size) (C := RJ2) (x := y_Lsize) (ci := 6) (o := r10) (As := []) (st := []) dX1_take_33 rfl rfl fw_J2_size ⟨Nat.le_of_ble_eq_true rfl, Nat.le_of_ble_eq_true rfl⟩ nf_y_Lsize q192 q196 q198 q57 q200 rfl rfl (Nat.zero_le 8) rfl F.1 F.2 (wk_I fun x12 h11 F => ?_)
  exact wa_iret rfl dX1_take_38 F
def L_X1_style_37 (D : qD) (Q : Option Value → qH → Prop) (X : String → qH → Prop) (t : Nat) (v3 : Int32) (v4 : Int32) (v5 : Option Nat) (s0 : Option Nat) (h : qH) : Prop := WA D m_X1_style Q X 37 [(0, va_rf (some t)), (3, .int v3), (4, .int v4), (5, va_rf v5)] [va_rf s0] h
def L_X1_style_59 (D : qD) (Q : Option Value → qH → Prop) (X : String → qH → Prop) (t : Nat) (v3 : Int32) (v4 : Int32) (v5 : Option Nat) (v6 : Option Nat) (v7 : Int32) (v8 : Option Nat) (h : qH) : Prop := WA D m_X1_style Q X 59 [(0, va_rf (some t)), (3, .int v3), (4, .int v4), (5, va_rf v5), (6, va_rf v6), (7, .int v7), (8, va_rf v8)] [] h
def L_X1_style_93 (D : qD) (Q : Option Value → qH → Prop) (X : String → qH → Prop) (t : Nat) (v3 : Int32) (v4 : Int32) (v5 : Option Nat) (v6 : Option Nat) (v7 : Int32) (h : qH) : Prop := WA D m_X1_style Q X 93 [(0, va_rf (some t)), (3, .int v3), (4, .int v4), (5, va_rf v5), (6, va_rf v6), (7, .int v7)] [] h
def L_X1_style_81 (D : qD) (Q : Option Value → qH → Prop) (X : String → qH → Prop) (t : Nat) (v3 : Int32) (v4 : Int32) (v5 : Option Nat) (v6 : Option Nat) (v8 : Option Nat) (s0 : Int32) (h : qH) : Prop := WA D m_X1_style Q X 81 [(0, va_rf (some t)), (3, .int v3), (4, .int v4), (5, va_rf v5), (6, va_rf v6), (8, va_rf v8)] [.int s0] h
def L_X1_style_103 (D : qD) (Q : Option Value → qH → Prop) (X : String → qH → Prop) (t : Nat) (v3 : Int32) (v4 : Int32) (v5 : Option Nat) (v6 : Option Nat) (s0 : Int32) (h : qH) : Prop := WA D m_X1_style Q X 103 [(0, va_rf (some t)), (3, .int v3), (4, .int v4), (5, va_rf v5), (6, va_rf v6)] [.int s0] h
theorem f_X1_style {D : qD} {Q : Option Value → qH → Prop} {X : String → qH → Prop} (t : Nat) (p0 : Int32) (p1 : Int32) (p2 : Int32) (p3 : Int32) (h : qH) (F : g_R D h (some t) 0 1 (fun r1 => c_I D m_X1_place [.int p0, .int 6, va_rf (some (d_s D 107))] h X (fun x3 h2 => a_R D h2 r1 5 x3 (fun r4 => ((¬ p1 = (-1) → g_R D h2 (some t) 0 1 (fun r5 => c_I D m_X1_place [.int p1, .int 6, va_rf (some (d_s D 107))] h2 X (fun x7 h6 => a_R D h6 r5 5 x7 (fun r8 => L_X1_style_37 D Q X t p2 p3 r4 r8 h6)))) ∧ (p1 = (-1) → L_X1_style_37 D Q X t p2 p3 r4 none h2)))))) : MW D m_X1_style [va_rf (some t), .int p0, .int p1, .int p2, .int p3] h Q X := by
  refine mw_of pl_X1_style rfl _ (Nat.le_of_ble_eq_true rfl) rfl ?_
  refine (show WA D m_X1_style Q X 0 [(0, va_rf (some t)), (1, .int p0), (2, .int p1), (3, .int p2), (4, .int p3)] [] h from ?_)
  refine wa_aload_n (o := (some t)) dX1_style_0 rfl 0 rfl ?_
  refine wa_getR (C := RX1) (T := TX1) (N := 11) (ci := 0) (k := 1) dX1_style_1 rfl (Nat.le_of_ble_eq_true rfl) in_X1 q149 q_same_own (g_R_mono F fun r1 F => ?_)
  refine wa_iload_n (x := p0) dX1_style_4 rfl 1 rfl ?_
  refine wa_bipush (v := 6) dX1_style_5 rfl ?_
  refine wa_ldcS (i := 7) dX1_style_7 rfl ?_
  refine wa_callS (M' := m_X1_place) (As := [.int p0, .int 6, va_rf (some (d_s D 107))]) (st := [va_rf r1]) dX1_style_9 ⟨Nat.le_of_ble_eq_true rfl, Nat.le_of_ble_eq_true rfl, nk_X1_place⟩ q288 q289 q54 q290 rfl rfl (q_cs_le (q_csr q_cs0) (Nat.le_of_ble_eq_true rfl)) rfl F (wk_I fun x3 h2 F => ?_)
  refine wa_aald (t := 5) rfl rfl dX1_style_12 (a_R_mono F fun r4 F => ?_)
  refine ws_astore (lv' := [(5, va_rf r4), (0, va_rf (some t)), (1, .int p0), (2, .int p1), (3, .int p2), (4, .int p3)]) dX1_style_13 (Nat.le_of_ble_eq_true rfl) (q_cr (q_ci (q_ci (q_ci (q_ci q_cn))))) rfl ?_
  refine wa_iload_n (x := p1) dX1_style_15 rfl 3 rfl ?_
  refine wa_iconst (v := -1) dX1_style_16 rfl ?_
  refine wa_icmp_ne (tgt := 24) dX1_style_17 rfl (fun z => ?_) (fun z => ?_)
  · have F := F.1 z
    refine wa_aload_n (o := (some t)) dX1_style_24 rfl 1 rfl ?_
    refine wa_getR (C := RX1) (T := TX1) (N := 11) (ci := 0) (k := 1) dX1_style_25 rfl (Nat.le_of_ble_eq_true rfl) in_X1 q149 q_same_own (g_R_mono F fun r5 F => ?_)
    refine wa_iload_n (x := p1) dX1_style_28 rfl 3 rfl ?_
    refine wa_bipush (v := 6) dX1_style_29 rfl ?_
    refine wa_ldcS (i := 7) dX1_style_31 rfl ?_
    refine wa_callS (M' := m_X1_place) (As := [.int p1, .int 6, va_rf (some (d_s D 107))]) (st := [va_rf r5]) dX1_style_33 ⟨Nat.le_of_ble_eq_true rfl, Nat.le_of_ble_eq_true rfl, nk_X1_place⟩ q288 q289 q54 q290 rfl rfl (q_cs_le (q_csr q_cs0) (Nat.le_of_ble_eq_true rfl)) rfl F (wk_I fun x7 h6 F => ?_)
    refine wa_aald (t := 5) rfl rfl dX1_style_36 (a_R_mono F fun r8 F => ?_)
    exact wa_sub [1, 4, 5, 0] rfl F
  · have F := F.2 z
    refine wa_null dX1_style_20 ?_
    refine wa_goto (tgt := 37) dX1_style_21 rfl ?_
    exact wa_sub [1, 4, 5, 0] rfl F
theorem f_X1_style_37 {D : qD} {Q : Option Value → qH → Prop} {X : String → qH → Prop} (t : Nat) (v3 : Int32) (v4 : Int32) (v5 : Option Nat) (s0 : Option Nat) (h : qH) (F : c_V D m_X1_isWithin [.int v3, .int (-1), .int 3] h X (fun h1 => c_V D m_X1_isWithin [.int v4, .int (-1), .int 3] h1 X (fun h2 => L_X1_style_59 D Q X t v3 v4 v5 s0 0 s0 h2))) : L_X1_style_37 D Q X t v3 v4 v5 s0 h := by
  show WA D m_X1_style Q X 37 [(0, va_rf (some t)), (3, .int v3), (4, .int v4), (5, va_rf v5)] [va_rf s0] h
  refine ws_astore (lv' := [(6, va_rf s0), (0, va_rf (some t)), (3, .int v3), (4, .int v4), (5, va_rf v5)]) dX1_style_37 (Nat.le_of_ble_eq_true rfl) (q_cr (q_ci (q_ci (q_cr q_cn)))) rfl ?_
  refine wa_iload_n (x := v3) dX1_style_39 rfl 2 rfl ?_
  refine wa_iconst (v := -1) dX1_style_40 rfl ?_
  refine wa_iconst (v := 3) dX1_style_41 rfl ?_
  refine wa_callS (M' := m_X1_isWithin) (As := [.int v3, .int (-1), .int 3]) (st := []) dX1_style_42 ⟨Nat.le_of_ble_eq_true rfl, Nat.le_of_ble_eq_true rfl, nk_X1_isWithin⟩ q560 q561 q54 q562 rfl rfl (Nat.zero_le 8) rfl F (wk_V fun h1 F => ?_)
  refine wa_iload (x := v4) dX1_style_45 3 rfl ?_
  refine wa_iconst (v := -1) dX1_style_47 rfl ?_
  refine wa_iconst (v := 3) dX1_style_48 rfl ?_
  refine wa_callS (M' := m_X1_isWithin) (As := [.int v4, .int (-1), .int 3]) (st := []) dX1_style_49 ⟨Nat.le_of_ble_eq_true rfl, Nat.le_of_ble_eq_true rfl, nk_X1_isWithin⟩ q560 q561 q54 q562 rfl rfl (Nat.zero_le 8) rfl F (wk_V fun h2 F => ?_)
  refine wa_iconst (v := 0) dX1_style_52 rfl ?_
  refine ws_istore (lv' := [(7, .int 0), (6, va_rf s0), (0, va_rf (some t)), (3, .int v3), (4, .int v4), (5, va_rf v5)]) dX1_style_53 (Nat.le_of_ble_eq_true rfl) (q_cr (q_cr (q_ci (q_ci (q_cr q_cn))))) rfl ?_
  refine wa_aload (o := s0) dX1_style_55 1 rfl ?_
  refine ws_astore (lv' := [(8, va_rf s0), (7, .int 0), (6, va_rf s0), (0, va_rf (some t)), (3, .int v3), (4, .int v4), (5, va_rf v5)]) dX1_style_57 (Nat.le_of_ble_eq_true rfl) (q_ci (q_cr (q_cr (q_ci (q_ci (q_cr q_cn)))))) rfl ?_
  exact wa_sub [3, 4, 5, 6, 2, 1, 0] rfl F
theorem f_X1_style_59 {D : qD} {Q : Option Value → qH → Prop} {X : String → qH → Prop} (t : Nat) (v3 : Int32) (v4 : Int32) (v5 : Option Nat) (v6 : Option Nat) (v7 : Int32) (v8 : Option Nat) (h : qH) (F : ((v8 = none → L_X1_style_93 D Q X t v3 v4 v5 v6 v7 h) ∧ (¬ v8 = none → ((¬ v7 = 0 → L_X1_style_93 D Q X t v3 v4 v5 v6 v7 h) ∧ (v7 = 0 → ((¬ v8 = v5 → L_X1_style_81 D Q X t v3 v4 v5 v6 v8 0 h) ∧ (v8 = v5 → L_X1_style_81 D Q X t v3 v4 v5 v6 v8 1 h))))))) : L_X1_style_59 D Q X t v3 v4 v5 v6 v7 v8 h := by
  show WA D m_X1_style Q X 59 [(0, va_rf (some t)), (3, .int v3), (4, .int v4), (5, va_rf v5), (6, va_rf v6), (7, .int v7), (8, va_rf v8)] [] h
  refine wa_aload (o := v8) dX1_style_59 6 rfl ?_
  refine wa_ifnull (tgt := 93) dX1_style_61 rfl (fun z => ?_) (fun z => ?_)
  · have F := F.1 z
    exact wa_sub [0, 1, 2, 3, 4, 5] rfl F
  · have F := F.2 z
    refine wa_iload (x := v7) dX1_style_64 5 rfl ?_
    refine wa_if_ne (tgt := 93) dX1_style_66 rfl (fun z => ?_) (fun z => ?_)
    · have F := F.1 z
      exact wa_sub [0, 1, 2, 3, 4, 5] rfl F
    · have F := F.2 z
      refine wa_aload (o := v8) dX1_style_69 6 rfl ?_
      refine wa_aload (o := v5) dX1_style_71 3 rfl ?_
      refine wa_acmp_ne (tgt := 80) dX1_style_73 rfl (fun z => ?_) (fun z => ?_)
      · have F := F.1 z
        refine wa_iconst (v := 0) dX1_style_80 rfl ?_
        exact wa_sub [0, 1, 2, 3, 4, 6] rfl F
      · have F := F.2 z
        refine wa_iconst (v := 1) dX1_style_76 rfl ?_
        refine wa_goto (tgt := 81) dX1_style_77 rfl ?_
        exact wa_sub [0, 1, 2, 3, 4, 6] rfl F
theorem f_X1_style_93 {D : qD} {Q : Option Value → qH → Prop} {X : String → qH → Prop} (t : Nat) (v3 : Int32) (v4 : Int32) (v5 : Option Nat) (v6 : Option Nat) (v7 : Int32) (h : qH) (F : ((¬ v7 = 0 → L_X1_style_103 D Q X t v3 v4 v5 v6 0 h) ∧ (v7 = 0 → L_X1_style_103 D Q X t v3 v4 v5 v6 1 h))) : L_X1_style_93 D Q X t v3 v4 v5 v6 v7 h := by
  show WA D m_X1_style Q X 93 [(0, va_rf (some t)), (3, .int v3), (4, .int v4), (5, va_rf v5), (6, va_rf v6), (7, .int v7)] [] h
  refine wa_iload (x := v7) dX1_style_93 5 rfl ?_
  refine wa_if_ne (tgt := 102) dX1_style_95 rfl (fun z => ?_) (fun z => ?_)
  · have F := F.1 z
    refine wa_iconst (v := 0) dX1_style_102 rfl ?_
    exact wa_sub [0, 1, 2, 3, 4] rfl F
  · have F := F.2 z
    refine wa_iconst (v := 1) dX1_style_98 rfl ?_
    refine wa_goto (tgt := 103) dX1_style_99 rfl ?_
    exact wa_sub [0, 1, 2, 3, 4] rfl F
theorem f_X1_style_81 {D : qD} {Q : Option Value → qH → Prop} {X : String → qH → Prop} (t : Nat) (v3 : Int32) (v4 : Int32) (v5 : Option Nat) (v6 : Option Nat) (v8 : Option Nat) (s0 : Int32) (h : qH) (F : g_R D h v8 1 0 (fun r1 => L_X1_style_59 D Q X t v3 v4 v5 v6 s0 r1 h)) : L_X1_style_81 D Q X t v3 v4 v5 v6 v8 s0 h := by
  show WA D m_X1_style Q X 81 [(0, va_rf (some t)), (3, .int v3), (4, .int v4), (5, va_rf v5), (6, va_rf v6), (8, va_rf v8)] [.int s0] h
  refine ws_istore (lv' := [(7, .int s0), (0, va_rf (some t)), (3, .int v3), (4, .int v4), (5, va_rf v5), (6, va_rf v6), (8, va_rf v8)]) dX1_style_81 (Nat.le_of_ble_eq_true rfl) (q_cr (q_ci (q_ci (q_cr (q_cr (q_cr q_cn)))))) rfl ?_
  refine wa_aload (o := v8) dX1_style_83 6 rfl ?_
  refine wa_getNR (C := RX2) (T := TX2) (N := 3) (ci := 1) (k := 0) dX1_style_85 rfl (Nat.le_of_ble_eq_true rfl) in_X2 q134 q_same_own (g_R_mono F fun r1 F => ?_)
  refine ws_astore (lv' := [(8, va_rf r1), (7, .int s0), (0, va_rf (some t)), (3, .int v3), (4, .int v4), (5, va_rf v5), (6, va_rf v6)]) dX1_style_88 (Nat.le_of_ble_eq_true rfl) (q_ci (q_cr (q_ci (q_ci (q_cr (q_cr (q_cr q_cn))))))) rfl ?_
  refine wa_goto (tgt := 59) dX1_style_90 rfl ?_
  exact wa_sub [2, 3, 4, 5, 6, 1, 0] rfl F
theorem f_X1_style_103 {D : qD} {Q : Option Value → qH → Prop} {X : String → qH → Prop} (t : Nat) (v3 : Int32) (v4 : Int32) (v5 : Option Nat) (v6 : Option Nat) (s0 : Int32) (h : qH) (F : c_V D m_X1_must [.int s0, va_rf (some (d_s D 108))] h X (fun h1 => p_F h1 v5 1 0 (va_rf v6) (fun h2 => p_F h2 v5 1 1 (.int v3) (fun h3 => p_F h3 v5 1 2 (.int v4) (fun h4 => (recv D h4 (some t) RX1 ∧ c_V D m_X1_forgets [va_rf (some t)] h4 X (fun h5 => Q none h5))))))) : L_X1_style_103 D Q X t v3 v4 v5 v6 s0 h := by
  show WA D m_X1_style Q X 103 [(0, va_rf (some t)), (3, .int v3), (4, .int v4), (5, va_rf v5), (6, va_rf v6)] [.int s0] h
  refine wa_ldcS (i := 8) dX1_style_103 rfl ?_
  refine wa_callS (M' := m_X1_must) (As := [.int s0, va_rf (some (d_s D 108))]) (st := []) dX1_style_105 ⟨Nat.le_of_ble_eq_true rfl, Nat.le_of_ble_eq_true rfl, nk_X1_must⟩ q568 q569 q54 q570 rfl rfl (Nat.zero_le 8) rfl F (wk_V fun h1 F => ?_)
  refine wa_aload (o := v5) dX1_style_108 3 rfl ?_
  refine wa_aload (o := v6) dX1_style_110 4 rfl ?_
  refine wa_putN (C := RX2) (T := TX2) (N := 3) (ci := 1) (k := 0) tyX2 dX1_style_112 rfl (Nat.le_of_ble_eq_true rfl) in_X2 tyX2_ok nmX2 q134 q_same_own rfl (q_nar_ref _) (q_fit_ref _) (p_F_mono F fun h2 F => ?_)
  refine wa_aload (o := v5) dX1_style_115 3 rfl ?_
  refine wa_iload_n (x := v3) dX1_style_117 rfl 1 rfl ?_
  refine wa_putN (C := RX2) (T := TX2) (N := 3) (ci := 1) (k := 1) tyX2 dX1_style_118 rfl (Nat.le_of_ble_eq_true rfl) in_X2 tyX2_ok nmX2 q136 q_same_own rfl rfl rfl (p_F_mono F fun h3 F => ?_)
  refine wa_aload (o := v5) dX1_style_121 3 rfl ?_
  refine wa_iload (x := v4) dX1_style_123 2 rfl ?_
  refine wa_putN (C := RX2) (T := TX2) (N := 3) (ci := 1) (k := 2) tyX2 dX1_style_125 rfl (Nat.le_of_ble_eq_true rfl) in_X2 tyX2_ok nmX2 q138 q_same_own rfl rfl rfl (p_F_mono F fun h4 F => ?_)
  refine wa_aload_n (o := (some t)) dX1_style_128 rfl 0 rfl ?_
  refine wa_callV (M' := m_X1_forgets) (C := RX1) (o := (some t)) (As := []) (st := []) dX1_style_129 ⟨Nat.le_of_ble_eq_true rfl, Nat.le_of_ble_eq_true rfl, nk_X1_forgets⟩ q674 q676 qs5 q54 q677 rfl rfl (Nat.zero_le 8) rfl F.1 F.2 (wk_V fun h5 F => ?_)
  exact wa_vret rfl dX1_style_132 F
theorem f_X1_data {D : qD} {Q : Option Value → qH → Prop} {X : String → qH → Prop} (t : Nat) (p0 : Int32) (p1 : Int32) (p2 : Int32) (h : qH) (F : c_I D m_X1_place [.int p0, .int 4, va_rf (some (d_s D 109))] h X (fun x2 h1 => c_I D m_X1_place [.int p1, .int 4, va_rf (some (d_s D 110))] h1 X (fun x4 h3 => c_V D m_X1_isWithin [.int p2, .int 0, .int 9] h3 X (fun h5 => g_R D h5 (some t) 0 2 (fun r6 => a_R D h5 r6 6 p0 (fun r7 => a_I D h5 r7 0 p1 (fun x8 => g_R D h5 (some t) 0 2 (fun r9 => a_R D h5 r9 6 p0 (fun r10 => s_I h5 r10 0 p1 p2 (fun h11 => g_R D h11 (some t) 0 10 (fun r12 => s_R D h11 r12 7 "Quirefold$Layout" p0 none (fun h13 => Q (some (.int x8)) h13)))))))))))) : MW D m_X1_data [va_rf (some t), .int p0, .int p1, .int p2] h Q X := by
  refine mw_of pl_X1_data rfl _ (Nat.le_of_ble_eq_true rfl) rfl ?_
  refine (show WA D m_X1_data Q X 0 [(0, va_rf (some t)), (1, .int p0), (2, .int p1), (3, .int p2)] [] h from ?_)
  refine wa_iload_n (x := p0) dX1_data_0 rfl 1 rfl ?_
  refine wa_iconst (v := 4) dX1_data_1 rfl ?_
  refine wa_ldcS (i := 9) dX1_data_2 rfl ?_
  refine wa_callS (M' := m_X1_place) (As := [.int p0, .int 4, va_rf (some (d_s D 109))]) (st := []) dX1_data_4 ⟨Nat.le_of_ble_eq_true rfl, Nat.le_of_ble_eq_true rfl, nk_X1_place⟩ q288 q289 q54 q290 rfl rfl (Nat.zero_le 8) rfl F (wk_I fun x2 h1 F => ?_)
  refine wa_pop dX1_data_7 rfl ?_
  refine wa_iload_n (x := p1) dX1_data_8 rfl 2 rfl ?_
  refine wa_iconst (v := 4) dX1_data_9 rfl ?_
  refine wa_ldcS (i := 10) dX1_data_10 rfl ?_
  refine wa_callS (M' := m_X1_place) (As := [.int p1, .int 4, va_rf (some (d_s D 110))]) (st := []) dX1_data_12 ⟨Nat.le_of_ble_eq_true rfl, Nat.le_of_ble_eq_true rfl, nk_X1_place⟩ q288 q289 q54 q290 rfl rfl (Nat.zero_le 8) rfl F (wk_I fun x4 h3 F => ?_)
  refine wa_pop dX1_data_15 rfl ?_
  refine wa_iload_n (x := p2) dX1_data_16 rfl 3 rfl ?_
  refine wa_iconst (v := 0) dX1_data_17 rfl ?_
  refine wa_bipush (v := 9) dX1_data_18 rfl ?_
  refine wa_callS (M' := m_X1_isWithin) (As := [.int p2, .int 0, .int 9]) (st := []) dX1_data_20 ⟨Nat.le_of_ble_eq_true rfl, Nat.le_of_ble_eq_true rfl, nk_X1_isWithin⟩ q560 q561 q54 q562 rfl rfl (Nat.zero_le 8) rfl F (wk_V fun h5 F => ?_)
  refine wa_aload_n (o := (some t)) dX1_data_23 rfl 0 rfl ?_
  refine wa_getR (C := RX1) (T := TX1) (N := 11) (ci := 0) (k := 2) dX1_data_24 rfl (Nat.le_of_ble_eq_true rfl) in_X1 q151 q_same_own (g_R_mono F fun r6 F => ?_)
  refine wa_iload_n (x := p0) dX1_data_27 rfl 1 rfl ?_
  refine wa_aald (t := 6) rfl rfl dX1_data_28 (a_R_mono F fun r7 F => ?_)
  refine wa_iload_n (x := p1) dX1_data_29 rfl 2 rfl ?_
  refine wa_iald dX1_data_30 (a_I_mono F fun x8 F => ?_)
  refine ws_istore (lv' := [(4, .int x8), (0, va_rf (some t)), (1, .int p0), (2, .int p1), (3, .int p2)]) dX1_data_31 (Nat.le_of_ble_eq_true rfl) (q_cr (q_ci (q_ci (q_ci q_cn)))) rfl ?_
  refine wa_aload_n (o := (some t)) dX1_data_33 rfl 1 rfl ?_
  refine wa_getR (C := RX1) (T := TX1) (N := 11) (ci := 0) (k := 2) dX1_data_34 rfl (Nat.le_of_ble_eq_true rfl) in_X1 q151 q_same_own (g_R_mono F fun r9 F => ?_)
  refine wa_iload_n (x := p0) dX1_data_37 rfl 2 rfl ?_
  refine wa_aald (t := 6) rfl rfl dX1_data_38 (a_R_mono F fun r10 F => ?_)
  refine wa_iload_n (x := p1) dX1_data_39 rfl 3 rfl ?_
  refine wa_iload_n (x := p2) dX1_data_40 rfl 4 rfl ?_
  refine wa_iast dX1_data_41 (s_I_mono F fun h11 F => ?_)
  refine wa_aload_n (o := (some t)) dX1_data_42 rfl 1 rfl ?_
  refine wa_getR (C := RX1) (T := TX1) (N := 11) (ci := 0) (k := 10) dX1_data_43 rfl (Nat.le_of_ble_eq_true rfl) in_X1 q163 q_same_own (g_R_mono F fun r12 F => ?_)
  refine wa_iload_n (x := p0) dX1_data_46 rfl 2 rfl ?_
  refine wa_null dX1_data_47 ?_
  refine wa_aast (t := 7) (C := "Quirefold$Layout") rfl (by simp [qRA]) dX1_data_48 (s_R_mono F fun h13 F => ?_)
  refine wa_iload (x := x8) dX1_data_49 0 rfl ?_
  exact wa_iret rfl dX1_data_51 F
theorem f_X1_grid {D : qD} {Q : Option Value → qH → Prop} {X : String → qH → Prop} (t : Nat) (p0 : Int32) (p1 : Int32) (p2 : Int32) (h : qH) (F : c_V D m_X1_isWithin [.int p0, .int 5, .int 20] h X (fun h1 => c_V D m_X1_isWithin [.int p1, .int 3, .int 20] h1 X (fun h2 => c_V D m_X1_isWithin [.int p2, .int 1, .int 2] h2 X (fun h3 => p_F h3 (some t) 0 3 (.int p0) (fun h4 => p_F h4 (some t) 0 4 (.int p1) (fun h5 => p_F h5 (some t) 0 5 (.int p2) (fun h6 => (recv D h6 (some t) RX1 ∧ c_V D m_X1_forgets [va_rf (some t)] h6 X (fun h7 => Q none h7))))))))) : MW D m_X1_grid [va_rf (some t), .int p0, .int p1, .int p2] h Q X := by
  refine mw_of pl_X1_grid rfl _ (Nat.le_of_ble_eq_true rfl) rfl ?_
  refine (show WA D m_X1_grid Q X 0 [(0, va_rf (some t)), (1, .int p0), (2, .int p1), (3, .int p2)] [] h from ?_)
  refine wa_iload_n (x := p0) dX1_grid_0 rfl 1 rfl ?_
  refine wa_iconst (v := 5) dX1_grid_1 rfl ?_
  refine wa_bipush (v := 20) dX1_grid_2 rfl ?_
  refine wa_callS (M' := m_X1_isWithin) (As := [.int p0, .int 5, .int 20]) (st := []) dX1_grid_4 ⟨Nat.le_of_ble_eq_true rfl, Nat.le_of_ble_eq_true rfl, nk_X1_isWithin⟩ q560 q561 q54 q562 rfl rfl (Nat.zero_le 8) rfl F (wk_V fun h1 F => ?_)
  refine wa_iload_n (x := p1) dX1_grid_7 rfl 2 rfl ?_
  refine wa_iconst (v := 3) dX1_grid_8 rfl ?_
  refine wa_bipush (v := 20) dX1_grid_9 rfl ?_
  refine wa_callS (M' := m_X1_isWithin) (As := [.int p1, .int 3, .int 20]) (st := []) dX1_grid_11 ⟨Nat.le_of_ble_eq_true rfl, Nat.le_of_ble_eq_true rfl, nk_X1_isWithin⟩ q560 q561 q54 q562 rfl rfl (Nat.zero_le 8) rfl F (wk_V fun h2 F => ?_)
  refine wa_iload_n (x := p2) dX1_grid_14 rfl 3 rfl ?_
  refine wa_iconst (v := 1) dX1_grid_15 rfl ?_
  refine wa_iconst (v := 2) dX1_grid_16 rfl ?_
  refine wa_callS (M' := m_X1_isWithin) (As := [.int p2, .int 1, .int 2]) (st := []) dX1_grid_17 ⟨Nat.le_of_ble_eq_true rfl, Nat.le_of_ble_eq_true rfl, nk_X1_isWithin⟩ q560 q561 q54 q562 rfl rfl (Nat.zero_le 8) rfl F (wk_V fun h3 F => ?_)
  refine wa_aload_n (o := (some t)) dX1_grid_20 rfl 0 rfl ?_
  refine wa_iload_n (x := p0) dX1_grid_21 rfl 1 rfl ?_
  refine wa_put (C := RX1) (T := TX1) (N := 11) (ci := 0) (k := 3) tyX1 dX1_grid_22 rfl (Nat.le_of_ble_eq_true rfl) in_X1 tyX1_ok nmX1 q153 q_same_own rfl rfl rfl (p_F_mono F fun h4 F => ?_)
  refine wa_aload_n (o := (some t)) dX1_grid_25 rfl 0 rfl ?_
  refine wa_iload_n (x := p1) dX1_grid_26 rfl 2 rfl ?_
  refine wa_put (C := RX1) (T := TX1) (N := 11) (ci := 0) (k := 4) tyX1 dX1_grid_27 rfl (Nat.le_of_ble_eq_true rfl) in_X1 tyX1_ok nmX1 q155 q_same_own rfl rfl rfl (p_F_mono F fun h5 F => ?_)
  refine wa_aload_n (o := (some t)) dX1_grid_30 rfl 0 rfl ?_
  refine wa_iload_n (x := p2) dX1_grid_31 rfl 3 rfl ?_
  refine wa_put (C := RX1) (T := TX1) (N := 11) (ci := 0) (k := 5) tyX1 dX1_grid_32 rfl (Nat.le_of_ble_eq_true rfl) in_X1 tyX1_ok nmX1 q157 q_same_own rfl rfl rfl (p_F_mono F fun h6 F => ?_)
  refine wa_aload_n (o := (some t)) dX1_grid_35 rfl 0 rfl ?_
  refine wa_callV (M' := m_X1_forgets) (C := RX1) (o := (some t)) (As := []) (st := []) dX1_grid_36 ⟨Nat.le_of_ble_eq_true rfl, Nat.le_of_ble_eq_true rfl, nk_X1_forgets⟩ q674 q676 qs5 q54 q677 rfl rfl (Nat.zero_le 8) rfl F.1 F.2 (wk_V fun h7 F => ?_)
  exact wa_vret rfl dX1_grid_39 F
def L_X1_see_76 (D : qD) (Q : Option Value → qH → Prop) (X : String → qH → Prop) (t : Nat) (v1 : Int32) (v2 : Int32) (h : qH) : Prop := WA D m_X1_see Q X 76 [(0, va_rf (some t)), (1, .int v1), (2, .int v2)] [] h
def L_X1_see_28 (D : qD) (Q : Option Value → qH → Prop) (X : String → qH → Prop) (t : Nat) (v1 : Int32) (v2 : Int32) (v3 : Int32) (v4 : Int32) (h : qH) : Prop := WA D m_X1_see Q X 28 [(0, va_rf (some t)), (1, .int v1), (2, .int v2), (3, .int v3), (4, .int v4)] [] h
def L_X1_see_71 (D : qD) (Q : Option Value → qH → Prop) (X : String → qH → Prop) (t : Nat) (v1 : Int32) (v2 : Int32) (s0 : Int32) (h : qH) : Prop := WA D m_X1_see Q X 71 [(0, va_rf (some t)), (1, .int v1), (2, .int v2)] [.int s0] h
def L_X1_see_44 (D : qD) (Q : Option Value → qH → Prop) (X : String → qH → Prop) (t : Nat) (v1 : Int32) (v2 : Int32) (v4 : Int32) (h : qH) : Prop := WA D m_X1_see Q X 44 [(0, va_rf (some t)), (1, .int v1), (2, .int v2), (4, .int v4)] [] h
def L_X1_see_49 (D : qD) (Q : Option Value → qH → Prop) (X : String → qH → Prop) (t : Nat) (v1 : Int32) (v2 : Int32) (v4 : Int32) (s0 : Int32) (h : qH) : Prop := WA D m_X1_see Q X 49 [(0, va_rf (some t)), (1, .int v1), (2, .int v2), (4, .int v4)] [.int s0] h
theorem f_X1_see {D : qD} {Q : Option Value → qH → Prop} {X : String → qH → Prop} (t : Nat) (p0 : Int32) (p1 : Int32) (h : qH) (F : c_I D m_X1_place [.int p0, .int 10, va_rf (some (d_s D 111))] h X (fun x2 h1 => ((p1 = (-1) → L_X1_see_76 D Q X t p0 p1 h1) ∧ (¬ p1 = (-1) → c_I D m_X1_place [.int p1, .int 10, va_rf (some (d_s D 111))] h1 X (fun x4 h3 => L_X1_see_28 D Q X t p0 p1 0 p1 h3))))) : MW D m_X1_see [va_rf (some t), .int p0, .int p1] h Q X := by
  refine mw_of pl_X1_see rfl _ (Nat.le_of_ble_eq_true rfl) rfl ?_
  refine (show WA D m_X1_see Q X 0 [(0, va_rf (some t)), (1, .int p0), (2, .int p1)] [] h from ?_)
  refine wa_iload_n (x := p0) dX1_see_0 rfl 1 rfl ?_
  refine wa_bipush (v := 10) dX1_see_1 rfl ?_
  refine wa_ldcS (i := 11) dX1_see_3 rfl ?_
  refine wa_callS (M' := m_X1_place) (As := [.int p0, .int 10, va_rf (some (d_s D 111))]) (st := []) dX1_see_5 ⟨Nat.le_of_ble_eq_true rfl, Nat.le_of_ble_eq_true rfl, nk_X1_place⟩ q288 q289 q54 q290 rfl rfl (Nat.zero_le 8) rfl F (wk_I fun x2 h1 F => ?_)
  refine wa_pop dX1_see_8 rfl ?_
  refine wa_iload_n (x := p1) dX1_see_9 rfl 2 rfl ?_
  refine wa_iconst (v := -1) dX1_see_10 rfl ?_
  refine wa_icmp_eq (tgt := 76) dX1_see_11 rfl (fun z => ?_) (fun z => ?_)
  · have F := F.1 z
    exact F
  · have F := F.2 z
    refine wa_iload_n (x := p1) dX1_see_14 rfl 2 rfl ?_
    refine wa_bipush (v := 10) dX1_see_15 rfl ?_
    refine wa_ldcS (i := 11) dX1_see_17 rfl ?_
    refine wa_callS (M' := m_X1_place) (As := [.int p1, .int 10, va_rf (some (d_s D 111))]) (st := []) dX1_see_19 ⟨Nat.le_of_ble_eq_true rfl, Nat.le_of_ble_eq_true rfl, nk_X1_place⟩ q288 q289 q54 q290 rfl rfl (Nat.zero_le 8) rfl F (wk_I fun x4 h3 F => ?_)
    refine wa_pop dX1_see_22 rfl ?_
    refine wa_iconst (v := 0) dX1_see_23 rfl ?_
    refine ws_istore_n (lv' := [(3, .int 0), (0, va_rf (some t)), (1, .int p0), (2, .int p1)]) dX1_see_24 rfl (Nat.le_of_ble_eq_true rfl) (q_cr (q_ci (q_ci q_cn))) rfl ?_
    refine wa_iload_n (x := p1) dX1_see_25 rfl 3 rfl ?_
    refine ws_istore (lv' := [(4, .int p1), (3, .int 0), (0, va_rf (some t)), (1, .int p0), (2, .int p1)]) dX1_see_26 (Nat.le_of_ble_eq_true rfl) (q_ci (q_cr (q_ci (q_ci q_cn)))) rfl ?_
    exact wa_sub [2, 3, 4, 1, 0] rfl F
theorem f_X1_see_76 {D : qD} {Q : Option Value → qH → Prop} {X : String → qH → Prop} (t : Nat) (v1 : Int32) (v2 : Int32) (h : qH) (F : g_R D h (some t) 0 6 (fun r1 => a_I D h r1 0 v1 (fun x2 => g_R D h (some t) 0 6 (fun r3 => s_I h r3 0 v1 v2 (fun h4 => Q (some (.int x2)) h4))))) : L_X1_see_76 D Q X t v1 v2 h := by
  show WA D m_X1_see Q X 76 [(0, va_rf (some t)), (1, .int v1), (2, .int v2)] [] h
  refine wa_aload_n (o := (some t)) dX1_see_76 rfl 0 rfl ?_
  refine wa_getR (C := RX1) (T := TX1) (N := 11) (ci := 0) (k := 6) dX1_see_77 rfl (Nat.le_of_ble_eq_true rfl) in_X1 q159 q_same_own (g_R_mono F fun r1 F => ?_)
  refine wa_iload_n (x := v1) dX1_see_80 rfl 1 rfl ?_
  refine wa_iald dX1_see_81 (a_I_mono F fun x2 F => ?_)
  refine ws_istore_n (lv' := [(3, .int x2), (0, va_rf (some t)), (1, .int v1), (2, .int v2)]) dX1_see_82 rfl (Nat.le_of_ble_eq_true rfl) (q_cr (q_ci (q_ci q_cn))) rfl ?_
  refine wa_aload_n (o := (some t)) dX1_see_83 rfl 1 rfl ?_
  refine wa_getR (C := RX1) (T := TX1) (N := 11) (ci := 0) (k := 6) dX1_see_84 rfl (Nat.le_of_ble_eq_true rfl) in_X1 q159 q_same_own (g_R_mono F fun r3 F => ?_)
  refine wa_iload_n (x := v1) dX1_see_87 rfl 2 rfl ?_
  refine wa_iload_n (x := v2) dX1_see_88 rfl 3 rfl ?_
  refine wa_iast dX1_see_89 (s_I_mono F fun h4 F => ?_)
  refine wa_iload_n (x := x2) dX1_see_90 rfl 0 rfl ?_
  exact wa_iret rfl dX1_see_91 F
theorem f_X1_see_28 {D : qD} {Q : Option Value → qH → Prop} {X : String → qH → Prop} (t : Nat) (v1 : Int32) (v2 : Int32) (v3 : Int32) (v4 : Int32) (h : qH) (F : ((v4 = (-1) → ((¬ v3 = 0 → L_X1_see_71 D Q X t v1 v2 0 h) ∧ (v3 = 0 → L_X1_see_71 D Q X t v1 v2 1 h))) ∧ (¬ v4 = (-1) → ((¬ v3 = 0 → L_X1_see_44 D Q X t v1 v2 v4 h) ∧ (v3 = 0 → ((¬ v4 = v1 → L_X1_see_49 D Q X t v1 v2 v4 0 h) ∧ (v4 = v1 → L_X1_see_44 D Q X t v1 v2 v4 h))))))) : L_X1_see_28 D Q X t v1 v2 v3 v4 h := by
  show WA D m_X1_see Q X 28 [(0, va_rf (some t)), (1, .int v1), (2, .int v2), (3, .int v3), (4, .int v4)] [] h
  refine wa_iload (x := v4) dX1_see_28 4 rfl ?_
  refine wa_iconst (v := -1) dX1_see_30 rfl ?_
  refine wa_icmp_eq (tgt := 62) dX1_see_31 rfl (fun z => ?_) (fun z => ?_)
  · have F := F.1 z
    refine wa_iload_n (x := v3) dX1_see_62 rfl 3 rfl ?_
    refine wa_if_ne (tgt := 70) dX1_see_63 rfl (fun z => ?_) (fun z => ?_)
    · have F := F.1 z
      refine wa_iconst (v := 0) dX1_see_70 rfl ?_
      exact wa_sub [0, 1, 2] rfl F
    · have F := F.2 z
      refine wa_iconst (v := 1) dX1_see_66 rfl ?_
      refine wa_goto (tgt := 71) dX1_see_67 rfl ?_
      exact wa_sub [0, 1, 2] rfl F
  · have F := F.2 z
    refine wa_iload_n (x := v3) dX1_see_34 rfl 3 rfl ?_
    refine wa_if_ne (tgt := 44) dX1_see_35 rfl (fun z => ?_) (fun z => ?_)
    · have F := F.1 z
      exact wa_sub [0, 1, 2, 4] rfl F
    · have F := F.2 z
      refine wa_iload (x := v4) dX1_see_38 4 rfl ?_
      refine wa_iload_n (x := v1) dX1_see_40 rfl 1 rfl ?_
      refine wa_icmp_ne (tgt := 48) dX1_see_41 rfl (fun z => ?_) (fun z => ?_)
      · have F := F.1 z
        refine wa_iconst (v := 0) dX1_see_48 rfl ?_
        exact wa_sub [0, 1, 2, 4] rfl F
      · have F := F.2 z
        exact wa_sub [0, 1, 2, 4] rfl F
theorem f_X1_see_71 {D : qD} {Q : Option Value → qH → Prop} {X : String → qH → Prop} (t : Nat) (v1 : Int32) (v2 : Int32) (s0 : Int32) (h : qH) (F : c_V D m_X1_must [.int s0, va_rf (some (d_s D 112))] h X (fun h1 => L_X1_see_76 D Q X t v1 v2 h1)) : L_X1_see_71 D Q X t v1 v2 s0 h := by
  show WA D m_X1_see Q X 71 [(0, va_rf (some t)), (1, .int v1), (2, .int v2)] [.int s0] h
  refine wa_ldcS (i := 12) dX1_see_71 rfl ?_
  refine wa_callS (M' := m_X1_must) (As := [.int s0, va_rf (some (d_s D 112))]) (st := []) dX1_see_73 ⟨Nat.le_of_ble_eq_true rfl, Nat.le_of_ble_eq_true rfl, nk_X1_must⟩ q568 q569 q54 q570 rfl rfl (Nat.zero_le 8) rfl F (wk_V fun h1 F => ?_)
  exact F
theorem f_X1_see_44 {D : qD} {Q : Option Value → qH → Prop} {X : String → qH → Prop} (t : Nat) (v1 : Int32) (v2 : Int32) (v4 : Int32) (h : qH) (F : L_X1_see_49 D Q X t v1 v2 v4 1 h) : L_X1_see_44 D Q X t v1 v2 v4 h := by
  show WA D m_X1_see Q X 44 [(0, va_rf (some t)), (1, .int v1), (2, .int v2), (4, .int v4)] [] h
  refine wa_iconst (v := 1) dX1_see_44 rfl ?_
  refine wa_goto (tgt := 49) dX1_see_45 rfl ?_
  exact F
theorem f_X1_see_49 {D : qD} {Q : Option Value → qH → Prop} {X : String → qH → Prop} (t : Nat) (v1 : Int32) (v2 : Int32) (v4 : Int32) (s0 : Int32) (h : qH) (F : g_R D h (some t) 0 6 (fun r1 => a_I D h r1 0 v4 (fun x2 => L_X1_see_28 D Q X t v1 v2 s0 x2 h))) : L_X1_see_49 D Q X t v1 v2 v4 s0 h := by
  show WA D m_X1_see Q X 49 [(0, va_rf (some t)), (1, .int v1), (2, .int v2), (4, .int v4)] [.int s0] h
  refine ws_istore_n (lv' := [(3, .int s0), (0, va_rf (some t)), (1, .int v1), (2, .int v2), (4, .int v4)]) dX1_see_49 rfl (Nat.le_of_ble_eq_true rfl) (q_cr (q_ci (q_ci (q_ci q_cn)))) rfl ?_
  refine wa_aload_n (o := (some t)) dX1_see_50 rfl 1 rfl ?_
  refine wa_getR (C := RX1) (T := TX1) (N := 11) (ci := 0) (k := 6) dX1_see_51 rfl (Nat.le_of_ble_eq_true rfl) in_X1 q159 q_same_own (g_R_mono F fun r1 F => ?_)
  refine wa_iload (x := v4) dX1_see_54 4 rfl ?_
  refine wa_iald dX1_see_56 (a_I_mono F fun x2 F => ?_)
  refine ws_istore (lv' := [(4, .int x2), (3, .int s0), (0, va_rf (some t)), (1, .int v1), (2, .int v2)]) dX1_see_57 (Nat.le_of_ble_eq_true rfl) (q_ci (q_cr (q_ci (q_ci (q_ci q_cn))))) rfl ?_
  refine wa_goto (tgt := 28) dX1_see_59 rfl ?_
  exact wa_sub [2, 3, 4, 1, 0] rfl F
def L_X1_fold_56 (D : qD) (Q : Option Value → qH → Prop) (X : String → qH → Prop) (t : Nat) (v1 : Int32) (v2 : Int32) (h : qH) : Prop := WA D m_X1_fold Q X 56 [(0, va_rf (some t)), (1, .int v1), (2, .int v2)] [] h
theorem f_X1_fold {D : qD} {Q : Option Value → qH → Prop} {X : String → qH → Prop} (t : Nat) (p0 : Int32) (p1 : Int32) (h : qH) (F : c_V D m_X1_isWithin [.int p0, .int 4, .int 16] h X (fun h1 => ((p0 = 4 → L_X1_fold_56 D Q X t p0 p1 h1) ∧ (¬ p0 = 4 → ((p0 = 8 → L_X1_fold_56 D Q X t p0 p1 h1) ∧ (¬ p0 = 8 → ((p0 = 16 → L_X1_fold_56 D Q X t p0 p1 h1) ∧ (¬ p0 = 16 → x_N h1 "java/lang/IllegalArgumentException" (fun a2 h3 => n_O h3 9 4 tyJ10 (fun a4 h5 => c_V D m_J10_init [va_rf (some a4)] h5 X (fun h6 => (recv D h6 (some a4) RJ10 ∧ c_R D m_J10_append [va_rf (some a4), va_rf (some (d_s D 113))] h6 X (fun r8 h7 => (recv D h7 r8 RJ10 ∧ c_R D m_J10_append_2 [va_rf r8, .int p0] h7 X (fun r10 h9 => (recv D h9 r10 RJ10 ∧ c_R D m_J10_append [va_rf r10, va_rf (some (d_s D 114))] h9 X (fun r12 h11 => (recv D h11 r12 RJ10 ∧ c_R D m_J10_toString [va_rf r12] h11 X (fun r14 h13 => x_I h13 (some a2) "java/lang/IllegalArgumentException" (fun h15 => x_T h15 (some a2) X)))))))))))))))))))) : MW D m_X1_fold [va_rf (some t), .int p0, .int p1] h Q X := by
  refine mw_of pl_X1_fold rfl _ (Nat.le_of_ble_eq_true rfl) rfl ?_
  refine (show WA D m_X1_fold Q X 0 [(0, va_rf (some t)), (1, .int p0), (2, .int p1)] [] h from ?_)
  refine wa_iload_n (x := p0) dX1_fold_0 rfl 1 rfl ?_
  refine wa_iconst (v := 4) dX1_fold_1 rfl ?_
  refine wa_bipush (v := 16) dX1_fold_2 rfl ?_
  refine wa_callS (M' := m_X1_isWithin) (As := [.int p0, .int 4, .int 16]) (st := []) dX1_fold_4 ⟨Nat.le_of_ble_eq_true rfl, Nat.le_of_ble_eq_true rfl, nk_X1_isWithin⟩ q560 q561 q54 q562 rfl rfl (Nat.zero_le 8) rfl F (wk_V fun h1 F => ?_)
  refine wa_iload_n (x := p0) dX1_fold_7 rfl 1 rfl ?_
  refine wa_iconst (v := 4) dX1_fold_8 rfl ?_
  refine wa_icmp_eq (tgt := 56) dX1_fold_9 rfl (fun z => ?_) (fun z => ?_)
  · have F := F.1 z
    exact F
  · have F := F.2 z
    refine wa_iload_n (x := p0) dX1_fold_12 rfl 1 rfl ?_
    refine wa_bipush (v := 8) dX1_fold_13 rfl ?_
    refine wa_icmp_eq (tgt := 56) dX1_fold_15 rfl (fun z => ?_) (fun z => ?_)
    · have F := F.1 z
      exact F
    · have F := F.2 z
      refine wa_iload_n (x := p0) dX1_fold_18 rfl 1 rfl ?_
      refine wa_bipush (v := 16) dX1_fold_19 rfl ?_
      refine wa_icmp_eq (tgt := 56) dX1_fold_21 rfl (fun z => ?_) (fun z => ?_)
      · have F := F.1 z
        exact F
      · have F := F.2 z
        refine wa_newX (E := "java/lang/IllegalArgumentException") (by simp [qXN]) dX1_fold_24 q563 q514 q77 (x_N_mono F fun a2 h3 F => ?_)
        refine wa_dup dX1_fold_27 (q_cat _) ?_
        refine wa_new (C := RJ10) (T := TJ10) tyJ10 dX1_fold_28 rfl in_J10 tyJ10_ok q300 q301 q67 (n_O_mono F fun a4 h5 F => ?_)
        refine wa_dup dX1_fold_31 (q_cat _) ?_
        refine wa_callI (M' := m_J10_init) (b := a4) (As := []) (st := [va_rf (some a4), va_rf (some a2), va_rf (some a2)]) dX1_fold_32 ⟨Nat.le_of_ble_eq_true rfl, Nat.le_of_ble_eq_true rfl, nk_J10_init⟩ rfl rfl q302 q303 q67 q304 rfl rfl (q_cs_le (q_csr (q_csr (q_csr q_cs0))) (Nat.le_of_ble_eq_true rfl)) rfl F (wk_V fun h6 F => ?_)
        refine wa_ldcS (i := 13) dX1_fold_35 rfl ?_
        refine wa_callV (M' := m_J10_append) (C := RJ10) (o := (some a4)) (As := [va_rf (some (d_s D 113))]) (st := [va_rf (some a2), va_rf (some a2)]) dX1_fold_37 ⟨Nat.le_of_ble_eq_true rfl, Nat.le_of_ble_eq_true rfl, nk_J10_append⟩ q332 q333 q334 q67 q335 rfl rfl (q_cs_le (q_csr (q_csr q_cs0)) (Nat.le_of_ble_eq_true rfl)) rfl F.1 F.2 (wk_R fun r8 h7 F => ?_)
        refine wa_iload_n (x := p0) dX1_fold_40 rfl 1 rfl ?_
        refine wa_callV (M' := m_J10_append_2) (C := RJ10) (o := r8) (As := [.int p0]) (st := [va_rf (some a2), va_rf (some a2)]) dX1_fold_41 ⟨Nat.le_of_ble_eq_true rfl, Nat.le_of_ble_eq_true rfl, nk_J10_append_2⟩ q453 q454 q455 q67 q456 rfl rfl (q_cs_le (q_csr (q_csr q_cs0)) (Nat.le_of_ble_eq_true rfl)) rfl F.1 F.2 (wk_R fun r10 h9 F => ?_)
        refine wa_ldcS (i := 14) dX1_fold_44 rfl ?_
        refine wa_callV (M' := m_J10_append) (C := RJ10) (o := r10) (As := [va_rf (some (d_s D 114))]) (st := [va_rf (some a2), va_rf (some a2)]) dX1_fold_46 ⟨Nat.le_of_ble_eq_true rfl, Nat.le_of_ble_eq_true rfl, nk_J10_append⟩ q332 q333 q334 q67 q335 rfl rfl (q_cs_le (q_csr (q_csr q_cs0)) (Nat.le_of_ble_eq_true rfl)) rfl F.1 F.2 (wk_R fun r12 h11 F => ?_)
        refine wa_callV (M' := m_J10_toString) (C := RJ10) (o := r12) (As := []) (st := [va_rf (some a2), va_rf (some a2)]) dX1_fold_49 ⟨Nat.le_of_ble_eq_true rfl, Nat.le_of_ble_eq_true rfl, nk_J10_toString⟩ q478 q479 q480 q67 q481 rfl rfl (q_cs_le (q_csr (q_csr q_cs0)) (Nat.le_of_ble_eq_true rfl)) rfl F.1 F.2 (wk_R fun r14 h13 F => ?_)
        refine wa_initX (E := "java/lang/IllegalArgumentException") (by simp [qXN]) (Nat.le_of_ble_eq_true rfl) (by decide +kernel) dX1_fold_52 at_IllegalArgumentException ag_IllegalArgumentException (Nat.zero_le 8) (x_I_mono F fun h15 F => ?_)
        exact wa_athrow rfl dX1_fold_55 F
theorem f_X1_fold_56 {D : qD} {Q : Option Value → qH → Prop} {X : String → qH → Prop} (t : Nat) (v1 : Int32) (v2 : Int32) (h : qH) (F : c_V D m_X1_isWithin [.int v2, .int 0, .int 9] h X (fun h1 => p_F h1 (some t) 0 7 (.int v1) (fun h2 => p_F h2 (some t) 0 8 (.int v2) (fun h3 => Q none h3)))) : L_X1_fold_56 D Q X t v1 v2 h := by
  show WA D m_X1_fold Q X 56 [(0, va_rf (some t)), (1, .int v1), (2, .int v2)] [] h
  refine wa_iload_n (x := v2) dX1_fold_56 rfl 2 rfl ?_
  refine wa_iconst (v := 0) dX1_fold_57 rfl ?_
  refine wa_bipush (v := 9) dX1_fold_58 rfl ?_
  refine wa_callS (M' := m_X1_isWithin) (As := [.int v2, .int 0, .int 9]) (st := []) dX1_fold_60 ⟨Nat.le_of_ble_eq_true rfl, Nat.le_of_ble_eq_true rfl, nk_X1_isWithin⟩ q560 q561 q54 q562 rfl rfl (Nat.zero_le 8) rfl F (wk_V fun h1 F => ?_)
  refine wa_aload_n (o := (some t)) dX1_fold_63 rfl 0 rfl ?_
  refine wa_iload_n (x := v1) dX1_fold_64 rfl 1 rfl ?_
  refine wa_put (C := RX1) (T := TX1) (N := 11) (ci := 0) (k := 7) tyX1 dX1_fold_65 rfl (Nat.le_of_ble_eq_true rfl) in_X1 tyX1_ok nmX1 q160 q_same_own rfl rfl rfl (p_F_mono F fun h2 F => ?_)
  refine wa_aload_n (o := (some t)) dX1_fold_68 rfl 0 rfl ?_
  refine wa_iload_n (x := v2) dX1_fold_69 rfl 2 rfl ?_
  refine wa_put (C := RX1) (T := TX1) (N := 11) (ci := 0) (k := 8) tyX1 dX1_fold_70 rfl (Nat.le_of_ble_eq_true rfl) in_X1 tyX1_ok nmX1 q161 q_same_own rfl rfl rfl (p_F_mono F fun h3 F => ?_)
  exact wa_vret rfl dX1_fold_73 F
def L_X1_layout_32 (D : qD) (Q : Option Value → qH → Prop) (X : String → qH → Prop) (t : Nat) (v1 : Int32) (h : qH) : Prop := WA D m_X1_layout Q X 32 [(0, va_rf (some t)), (1, .int v1)] [] h
theorem f_X1_layout {D : qD} {Q : Option Value → qH → Prop} {X : String → qH → Prop} (t : Nat) (p0 : Int32) (h : qH) (F : c_I D m_X1_place [.int p0, .int 4, va_rf (some (d_s D 109))] h X (fun x2 h1 => g_R D h1 (some t) 0 10 (fun r3 => a_R D h1 r3 7 p0 (fun r4 => ((¬ r4 = none → L_X1_layout_32 D Q X t p0 h1) ∧ (r4 = none → g_R D h1 (some t) 0 10 (fun r5 => n_O h1 4 10 tyX5 (fun a6 h7 => c_V D m_X5_init [va_rf (some a6), va_rf (some t), .int p0] h7 X (fun h8 => s_R D h8 r5 7 "Quirefold$Layout" p0 (some a6) (fun h9 => L_X1_layout_32 D Q X t p0 h9)))))))))) : MW D m_X1_layout [va_rf (some t), .int p0] h Q X := by
  refine mw_of pl_X1_layout rfl _ (Nat.le_of_ble_eq_true rfl) rfl ?_
  refine (show WA D m_X1_layout Q X 0 [(0, va_rf (some t)), (1, .int p0)] [] h from ?_)
  refine wa_iload_n (x := p0) dX1_layout_0 rfl 1 rfl ?_
  refine wa_iconst (v := 4) dX1_layout_1 rfl ?_
  refine wa_ldcS (i := 9) dX1_layout_2 rfl ?_
  refine wa_callS (M' := m_X1_place) (As := [.int p0, .int 4, va_rf (some (d_s D 109))]) (st := []) dX1_layout_4 ⟨Nat.le_of_ble_eq_true rfl, Nat.le_of_ble_eq_true rfl, nk_X1_place⟩ q288 q289 q54 q290 rfl rfl (Nat.zero_le 8) rfl F (wk_I fun x2 h1 F => ?_)
  refine wa_pop dX1_layout_7 rfl ?_
  refine wa_aload_n (o := (some t)) dX1_layout_8 rfl 0 rfl ?_
  refine wa_getR (C := RX1) (T := TX1) (N := 11) (ci := 0) (k := 10) dX1_layout_9 rfl (Nat.le_of_ble_eq_true rfl) in_X1 q163 q_same_own (g_R_mono F fun r3 F => ?_)
  refine wa_iload_n (x := p0) dX1_layout_12 rfl 1 rfl ?_
  refine wa_aald (t := 7) rfl rfl dX1_layout_13 (a_R_mono F fun r4 F => ?_)
  refine wa_ifnonnull (tgt := 32) dX1_layout_14 rfl (fun z => ?_) (fun z => ?_)
  · have F := F.1 z
    exact F
  · have F := F.2 z
    refine wa_aload_n (o := (some t)) dX1_layout_17 rfl 0 rfl ?_
    refine wa_getR (C := RX1) (T := TX1) (N := 11) (ci := 0) (k := 10) dX1_layout_18 rfl (Nat.le_of_ble_eq_true rfl) in_X1 q163 q_same_own (g_R_mono F fun r5 F => ?_)
    refine wa_iload_n (x := p0) dX1_layout_21 rfl 1 rfl ?_
    refine wa_new (C := RX5) (T := TX5) tyX5 dX1_layout_22 rfl in_X5 tyX5_ok q126 q759 q81 (n_O_mono F fun a6 h7 F => ?_)
    refine wa_dup dX1_layout_25 (q_cat _) ?_
    refine wa_aload_n (o := (some t)) dX1_layout_26 rfl 0 rfl ?_
    refine wa_iload_n (x := p0) dX1_layout_27 rfl 1 rfl ?_
    refine wa_callI (M' := m_X5_init) (b := a6) (As := [va_rf (some t), .int p0]) (st := [va_rf (some a6), .int p0, va_rf r5]) dX1_layout_28 ⟨Nat.le_of_ble_eq_true rfl, Nat.le_of_ble_eq_true rfl, nk_X5_init⟩ rfl rfl q760 q761 q81 q762 rfl rfl (q_cs_le (q_csr (q_csi (q_csr q_cs0))) (Nat.le_of_ble_eq_true rfl)) rfl F (wk_V fun h8 F => ?_)
    refine wa_aast (t := 7) (C := "Quirefold$Layout") rfl (by simp [qRA]) dX1_layout_31 (s_R_mono F fun h9 F => ?_)
    exact F
theorem f_X1_layout_32 {D : qD} {Q : Option Value → qH → Prop} {X : String → qH → Prop} (t : Nat) (v1 : Int32) (h : qH) (F : g_R D h (some t) 0 10 (fun r1 => a_R D h r1 7 v1 (fun r2 => Q (some (va_rf r2)) h))) : L_X1_layout_32 D Q X t v1 h := by
  show WA D m_X1_layout Q X 32 [(0, va_rf (some t)), (1, .int v1)] [] h
  refine wa_aload_n (o := (some t)) dX1_layout_32 rfl 0 rfl ?_
  refine wa_getR (C := RX1) (T := TX1) (N := 11) (ci := 0) (k := 10) dX1_layout_33 rfl (Nat.le_of_ble_eq_true rfl) in_X1 q163 q_same_own (g_R_mono F fun r1 F => ?_)
  refine wa_iload_n (x := v1) dX1_layout_36 rfl 1 rfl ?_
  refine wa_aald (t := 7) rfl rfl dX1_layout_37 (a_R_mono F fun r2 F => ?_)
  exact wa_aret rfl (Or.inl ⟨_, rfl⟩) dX1_layout_38 F
theorem f_X1_sheet {D : qD} {Q : Option Value → qH → Prop} {X : String → qH → Prop} (t : Nat) (p0 : Int32) (p1 : Int32) (h : qH) (F : c_I D m_X1_place [.int (p0 - 1), .int 999, va_rf (some (d_s D 119))] h X (fun x2 h1 => c_I D m_X1_place [.int p1, .int 4, va_rf (some (d_s D 120))] h1 X (fun x4 h3 => (recv D h3 (some t) RX1 ∧ c_I D m_X1_sheetOf [va_rf (some t), .int p0, .int p1] h3 X (fun x6 h5 => Q (some (.int x6)) h5))))) : MW D m_X1_sheet [va_rf (some t), .int p0, .int p1] h Q X := by
  refine mw_of pl_X1_sheet rfl _ (Nat.le_of_ble_eq_true rfl) rfl ?_
  refine (show WA D m_X1_sheet Q X 0 [(0, va_rf (some t)), (1, .int p0), (2, .int p1)] [] h from ?_)
  refine wa_iload_n (x := p0) dX1_sheet_0 rfl 1 rfl ?_
  refine wa_iconst (v := 1) dX1_sheet_1 rfl ?_
  refine wa_isub dX1_sheet_2 ?_
  refine wa_sipush (v := 999) dX1_sheet_3 rfl ?_
  refine wa_ldcS (i := 19) dX1_sheet_6 rfl ?_
  refine wa_callS (M' := m_X1_place) (As := [.int (p0 - 1), .int 999, va_rf (some (d_s D 119))]) (st := []) dX1_sheet_8 ⟨Nat.le_of_ble_eq_true rfl, Nat.le_of_ble_eq_true rfl, nk_X1_place⟩ q288 q289 q54 q290 rfl rfl (Nat.zero_le 8) rfl F (wk_I fun x2 h1 F => ?_)
  refine wa_pop dX1_sheet_11 rfl ?_
  refine wa_iload_n (x := p1) dX1_sheet_12 rfl 2 rfl ?_
  refine wa_iconst (v := 4) dX1_sheet_13 rfl ?_
  refine wa_ldcS (i := 20) dX1_sheet_14 rfl ?_
  refine wa_callS (M' := m_X1_place) (As := [.int p1, .int 4, va_rf (some (d_s D 120))]) (st := []) dX1_sheet_16 ⟨Nat.le_of_ble_eq_true rfl, Nat.le_of_ble_eq_true rfl, nk_X1_place⟩ q288 q289 q54 q290 rfl rfl (Nat.zero_le 8) rfl F (wk_I fun x4 h3 F => ?_)
  refine wa_pop dX1_sheet_19 rfl ?_
  refine wa_aload_n (o := (some t)) dX1_sheet_20 rfl 0 rfl ?_
  refine wa_iload_n (x := p0) dX1_sheet_21 rfl 1 rfl ?_
  refine wa_iload_n (x := p1) dX1_sheet_22 rfl 2 rfl ?_
  refine wa_callV (M' := m_X1_sheetOf) (C := RX1) (o := (some t)) (As := [.int p0, .int p1]) (st := []) dX1_sheet_23 ⟨Nat.le_of_ble_eq_true rfl, Nat.le_of_ble_eq_true rfl, nk_X1_sheetOf⟩ q1136 q1138 qs21 q54 q1139 rfl rfl (Nat.zero_le 8) rfl F.1 F.2 (wk_I fun x6 h5 F => ?_)
  exact wa_iret rfl dX1_sheet_26 F
def L_X1_put_44 (D : qD) (Q : Option Value → qH → Prop) (X : String → qH → Prop) (t : Nat) (v1 : Int32) (v2 : Int32) (v3 : Int32) (v4 : Int32) (s0 : Int32) (h : qH) : Prop := WA D m_X1_put Q X 44 [(0, va_rf (some t)), (1, .int v1), (2, .int v2), (3, .int v3), (4, .int v4)] [.int s0] h
theorem f_X1_put {D : qD} {Q : Option Value → qH → Prop} {X : String → qH → Prop} (t : Nat) (p0 : Int32) (p1 : Int32) (p2 : Int32) (p3 : Int32) (h : qH) (F : g_R D h (some t) 0 0 (fun r1 => (recv D h r1 RJ2 ∧ c_I D m_J2_size [va_rf r1] h X (fun x3 h2 => c_I D m_X1_place [.int p0, .int (x3 + 1), va_rf (some (d_s D 100))] h2 X (fun x5 h4 => c_V D m_X1_isToken [.int p1, .int p2, .int p3] h4 X (fun h6 => g_R D h6 (some t) 0 0 (fun r7 => (recv D h6 r7 RJ2 ∧ c_I D m_J2_size [va_rf r7] h6 X (fun x9 h8 => ((120 ≤ x9 → L_X1_put_44 D Q X t p0 p1 p2 p3 0 h8) ∧ (¬ 120 ≤ x9 → L_X1_put_44 D Q X t p0 p1 p2 p3 1 h8))))))))))) : MW D m_X1_put [va_rf (some t), .int p0, .int p1, .int p2, .int p3] h Q X := by
  refine mw_of pl_X1_put rfl _ (Nat.le_of_ble_eq_true rfl) rfl ?_
  refine (show WA D m_X1_put Q X 0 [(0, va_rf (some t)), (1, .int p0), (2, .int p1), (3, .int p2), (4, .int p3)] [] h from ?_)
  refine wa_iload_n (x := p0) dX1_put_0 rfl 1 rfl ?_
  refine wa_aload_n (o := (some t)) dX1_put_1 rfl 0 rfl ?_
  refine wa_getR (C := RX1) (T := TX1) (N := 11) (ci := 0) (k := 0) dX1_put_2 rfl (Nat.le_of_ble_eq_true rfl) in_X1 q147 q_same_own (g_R_mono F fun r1 F => ?_)
  refine wa_callF (M' := m_J2_size) (C := RJ2) (x := y_Lsize) (ci := 6) (o := r1) (As := []) (st := [.int p0]) dX1_put_5 rfl rfl fw_J2_size ⟨Nat.le_of_ble_eq_true rfl, Nat.le_of_ble_eq_true rfl⟩ nf_y_Lsize q192 q196 q198 q57 q200 rfl rfl (q_cs_le (q_csi q_cs0) (Nat.le_of_ble_eq_true rfl)) rfl F.1 F.2 (wk_I fun x3 h2 F => ?_)
  refine wa_iconst (v := 1) dX1_put_10 rfl ?_
  refine wa_iadd dX1_put_11 ?_
  refine wa_ldcS (i := 0) dX1_put_12 rfl ?_
  refine wa_callS (M' := m_X1_place) (As := [.int p0, .int (x3 + 1), va_rf (some (d_s D 100))]) (st := []) dX1_put_14 ⟨Nat.le_of_ble_eq_true rfl, Nat.le_of_ble_eq_true rfl, nk_X1_place⟩ q288 q289 q54 q290 rfl rfl (Nat.zero_le 8) rfl F (wk_I fun x5 h4 F => ?_)
  refine wa_pop dX1_put_17 rfl ?_
  refine wa_iload_n (x := p1) dX1_put_18 rfl 2 rfl ?_
  refine wa_iload_n (x := p2) dX1_put_19 rfl 3 rfl ?_
  refine wa_iload (x := p3) dX1_put_20 4 rfl ?_
  refine wa_callS (M' := m_X1_isToken) (As := [.int p1, .int p2, .int p3]) (st := []) dX1_put_22 ⟨Nat.le_of_ble_eq_true rfl, Nat.le_of_ble_eq_true rfl, nk_X1_isToken⟩ q557 q558 q54 q559 rfl rfl (Nat.zero_le 8) rfl F (wk_V fun h6 F => ?_)
  refine wa_aload_n (o := (some t)) dX1_put_25 rfl 0 rfl ?_
  refine wa_getR (C := RX1) (T := TX1) (N := 11) (ci := 0) (k := 0) dX1_put_26 rfl (Nat.le_of_ble_eq_true rfl) in_X1 q147 q_same_own (g_R_mono F fun r7 F => ?_)
  refine wa_callF (M' := m_J2_size) (C := RJ2) (x := y_Lsize) (ci := 6) (o := r7) (As := []) (st := []) dX1_put_29 rfl rfl fw_J2_size ⟨Nat.le_of_ble_eq_true rfl, Nat.le_of_ble_eq_true rfl⟩ nf_y_Lsize q192 q196 q198 q57 q200 rfl rfl (Nat.zero_le 8) rfl F.1 F.2 (wk_I fun x9 h8 F => ?_)
  refine wa_bipush (v := 120) dX1_put_34 rfl ?_
  refine wa_icmp_ge (tgt := 43) dX1_put_36 rfl (fun z => ?_) (fun z => ?_)
  · have F := F.1 z
    refine wa_iconst (v := 0) dX1_put_43 rfl ?_
    exact F
  · have F := F.2 z
    refine wa_iconst (v := 1) dX1_put_39 rfl ?_
    refine wa_goto (tgt := 44) dX1_put_40 rfl ?_
    exact F
theorem f_X1_put_44 {D : qD} {Q : Option Value → qH → Prop} {X : String → qH → Prop} (t : Nat) (v1 : Int32) (v2 : Int32) (v3 : Int32) (v4 : Int32) (s0 : Int32) (h : qH) (F : c_V D m_X1_must [.int s0, va_rf (some (d_s D 105))] h X (fun h1 => g_R D h1 (some t) 0 0 (fun r2 => n_O h1 3 3 tyX4 (fun a3 h4 => c_V D m_X4_init [va_rf (some a3), .int v2, .int v3, .int v4] h4 X (fun h5 => (recv D h5 r2 RJ2 ∧ c_V D m_J2_add [va_rf r2, .int v1, va_rf (some a3)] h5 X (fun h6 => (recv D h6 (some t) RX1 ∧ c_V D m_X1_forgets [va_rf (some t)] h6 X (fun h7 => g_R D h7 (some t) 0 0 (fun r8 => (recv D h7 r8 RJ2 ∧ c_I D m_J2_size [va_rf r8] h7 X (fun x10 h9 => Q (some (.int x10)) h9)))))))))))) : L_X1_put_44 D Q X t v1 v2 v3 v4 s0 h := by
  show WA D m_X1_put Q X 44 [(0, va_rf (some t)), (1, .int v1), (2, .int v2), (3, .int v3), (4, .int v4)] [.int s0] h
  refine wa_ldcS (i := 5) dX1_put_44 rfl ?_
  refine wa_callS (M' := m_X1_must) (As := [.int s0, va_rf (some (d_s D 105))]) (st := []) dX1_put_46 ⟨Nat.le_of_ble_eq_true rfl, Nat.le_of_ble_eq_true rfl, nk_X1_must⟩ q568 q569 q54 q570 rfl rfl (Nat.zero_le 8) rfl F (wk_V fun h1 F => ?_)
  refine wa_aload_n (o := (some t)) dX1_put_49 rfl 0 rfl ?_
  refine wa_getR (C := RX1) (T := TX1) (N := 11) (ci := 0) (k := 0) dX1_put_50 rfl (Nat.le_of_ble_eq_true rfl) in_X1 q147 q_same_own (g_R_mono F fun r2 F => ?_)
  refine wa_iload_n (x := v1) dX1_put_53 rfl 1 rfl ?_
  refine wa_new (C := RX4) (T := TX4) tyX4 dX1_put_54 rfl in_X4 tyX4_ok q586 q587 q79 (n_O_mono F fun a3 h4 F => ?_)
  refine wa_dup dX1_put_57 (q_cat _) ?_
  refine wa_iload_n (x := v2) dX1_put_58 rfl 2 rfl ?_
  refine wa_iload_n (x := v3) dX1_put_59 rfl 3 rfl ?_
  refine wa_iload (x := v4) dX1_put_60 4 rfl ?_
  refine wa_callI (M' := m_X4_init) (b := a3) (As := [.int v2, .int v3, .int v4]) (st := [va_rf (some a3), .int v1, va_rf r2]) dX1_put_62 ⟨Nat.le_of_ble_eq_true rfl, Nat.le_of_ble_eq_true rfl, nk_X4_init⟩ rfl rfl q588 q589 q79 q590 rfl rfl (q_cs_le (q_csr (q_csi (q_csr q_cs0))) (Nat.le_of_ble_eq_true rfl)) rfl F (wk_V fun h5 F => ?_)
  refine wa_callF (M' := m_J2_add) (C := RJ2) (x := y_Ladd2) (ci := 6) (o := r2) (As := [.int v1, va_rf (some a3)]) (st := []) dX1_put_65 rfl rfl fw_J2_add ⟨Nat.le_of_ble_eq_true rfl, Nat.le_of_ble_eq_true rfl⟩ nf_y_Ladd2 q609 q612 q614 q57 q616 rfl rfl (Nat.zero_le 8) rfl F.1 F.2 (wk_V fun h6 F => ?_)
  refine wa_aload_n (o := (some t)) dX1_put_70 rfl 0 rfl ?_
  refine wa_callV (M' := m_X1_forgets) (C := RX1) (o := (some t)) (As := []) (st := []) dX1_put_71 ⟨Nat.le_of_ble_eq_true rfl, Nat.le_of_ble_eq_true rfl, nk_X1_forgets⟩ q674 q676 qs5 q54 q677 rfl rfl (Nat.zero_le 8) rfl F.1 F.2 (wk_V fun h7 F => ?_)
  refine wa_aload_n (o := (some t)) dX1_put_74 rfl 0 rfl ?_
  refine wa_getR (C := RX1) (T := TX1) (N := 11) (ci := 0) (k := 0) dX1_put_75 rfl (Nat.le_of_ble_eq_true rfl) in_X1 q147 q_same_own (g_R_mono F fun r8 F => ?_)
  refine wa_callF (M' := m_J2_size) (C := RJ2) (x := y_Lsize) (ci := 6) (o := r8) (As := []) (st := []) dX1_put_78 rfl rfl fw_J2_size ⟨Nat.le_of_ble_eq_true rfl, Nat.le_of_ble_eq_true rfl⟩ nf_y_Lsize q192 q196 q198 q57 q200 rfl rfl (Nat.zero_le 8) rfl F.1 F.2 (wk_I fun x10 h9 F => ?_)
  exact wa_iret rfl dX1_put_83 F
def L_X1_keep_17 (D : qD) (Q : Option Value → qH → Prop) (X : String → qH → Prop) (t : Nat) (v2 : Option Nat) (v3 : Int32) (h : qH) : Prop := WA D m_X1_keep Q X 17 [(0, va_rf (some t)), (2, va_rf v2), (3, .int v3)] [] h
theorem f_X1_keep {D : qD} {Q : Option Value → qH → Prop} {X : String → qH → Prop} (t : Nat) (p0 : Int32) (h : qH) (F : (recv D h (some t) RX1 ∧ c_R D m_X1_layout [va_rf (some t), .int p0] h X (fun r2 h1 => g_R D h1 (some t) 0 9 (fun r3 => (recv D h1 r3 RJ2 ∧ c_V D m_J2_clear [va_rf r3] h1 X (fun h4 => L_X1_keep_17 D Q X t r2 0 h4)))))) : MW D m_X1_keep [va_rf (some t), .int p0] h Q X := by
  refine mw_of pl_X1_keep rfl _ (Nat.le_of_ble_eq_true rfl) rfl ?_
  refine (show WA D m_X1_keep Q X 0 [(0, va_rf (some t)), (1, .int p0)] [] h from ?_)
  refine wa_aload_n (o := (some t)) dX1_keep_0 rfl 0 rfl ?_
  refine wa_iload_n (x := p0) dX1_keep_1 rfl 1 rfl ?_
  refine wa_callV (M' := m_X1_layout) (C := RX1) (o := (some t)) (As := [.int p0]) (st := []) dX1_keep_2 ⟨Nat.le_of_ble_eq_true rfl, Nat.le_of_ble_eq_true rfl, nk_X1_layout⟩ q755 q757 qs7 q54 q758 rfl rfl (Nat.zero_le 8) rfl F.1 F.2 (wk_R fun r2 h1 F => ?_)
  refine ws_astore_n (lv' := [(2, va_rf r2), (0, va_rf (some t)), (1, .int p0)]) dX1_keep_5 rfl (Nat.le_of_ble_eq_true rfl) (q_cr (q_ci q_cn)) rfl ?_
  refine wa_aload_n (o := (some t)) dX1_keep_6 rfl 1 rfl ?_
  refine wa_getR (C := RX1) (T := TX1) (N := 11) (ci := 0) (k := 9) dX1_keep_7 rfl (Nat.le_of_ble_eq_true rfl) in_X1 q162 q_same_own (g_R_mono F fun r3 F => ?_)
  refine wa_callF (M' := m_J2_clear) (C := RJ2) (x := y_Lclear) (ci := 6) (o := r3) (As := []) (st := []) dX1_keep_10 rfl rfl fw_J2_clear ⟨Nat.le_of_ble_eq_true rfl, Nat.le_of_ble_eq_true rfl⟩ nf_y_Lclear q958 q961 q963 q57 q965 rfl rfl (Nat.zero_le 8) rfl F.1 F.2 (wk_V fun h4 F => ?_)
  refine wa_iconst (v := 0) dX1_keep_15 rfl ?_
  refine ws_istore_n (lv' := [(3, .int 0), (2, va_rf r2), (0, va_rf (some t)), (1, .int p0)]) dX1_keep_16 rfl (Nat.le_of_ble_eq_true rfl) (q_cr (q_cr (q_ci q_cn))) rfl ?_
  exact wa_sub [2, 1, 0] rfl F
theorem f_X1_keep_17 {D : qD} {Q : Option Value → qH → Prop} {X : String → qH → Prop} (t : Nat) (v2 : Option Nat) (v3 : Int32) (h : qH) (F : g_R D h v2 4 1 (fun r1 => (recv D h r1 RJ2 ∧ c_I D m_J2_size [va_rf r1] h X (fun x3 h2 => ((x3 ≤ v3 → g_R D h2 (some t) 0 9 (fun r4 => (recv D h2 r4 RJ2 ∧ c_I D m_J2_size [va_rf r4] h2 X (fun x6 h5 => Q (some (.int x6)) h5)))) ∧ (¬ x3 ≤ v3 → g_R D h2 (some t) 0 9 (fun r7 => (recv D h2 v2 RX5 ∧ c_R D m_X5_rowsOf [va_rf v2, .int v3] h2 X (fun r9 h8 => (recv D h8 r7 RJ2 ∧ c_I D m_J2_add_2 [va_rf r7, va_rf r9] h8 X (fun x11 h10 => L_X1_keep_17 D Q X t v2 (v3 + 1) h10))))))))))) : L_X1_keep_17 D Q X t v2 v3 h := by
  show WA D m_X1_keep Q X 17 [(0, va_rf (some t)), (2, va_rf v2), (3, .int v3)] [] h
  refine wa_iload_n (x := v3) dX1_keep_17 rfl 2 rfl ?_
  refine wa_aload_n (o := v2) dX1_keep_18 rfl 1 rfl ?_
  refine wa_getNR (C := RX5) (T := TX5) (N := 10) (ci := 4) (k := 1) dX1_keep_19 rfl (Nat.le_of_ble_eq_true rfl) in_X5 q924 q_same_own (g_R_mono F fun r1 F => ?_)
  refine wa_callF (M' := m_J2_size) (C := RJ2) (x := y_Lsize) (ci := 6) (o := r1) (As := []) (st := [.int v3]) dX1_keep_22 rfl rfl fw_J2_size ⟨Nat.le_of_ble_eq_true rfl, Nat.le_of_ble_eq_true rfl⟩ nf_y_Lsize q192 q196 q198 q57 q200 rfl rfl (q_cs_le (q_csi q_cs0) (Nat.le_of_ble_eq_true rfl)) rfl F.1 F.2 (wk_I fun x3 h2 F => ?_)
  refine wa_icmp_ge (tgt := 51) dX1_keep_27 rfl (fun z => ?_) (fun z => ?_)
  · have F := F.1 z
    refine wa_aload_n (o := (some t)) dX1_keep_51 rfl 0 rfl ?_
    refine wa_getR (C := RX1) (T := TX1) (N := 11) (ci := 0) (k := 9) dX1_keep_52 rfl (Nat.le_of_ble_eq_true rfl) in_X1 q162 q_same_own (g_R_mono F fun r4 F => ?_)
    refine wa_callF (M' := m_J2_size) (C := RJ2) (x := y_Lsize) (ci := 6) (o := r4) (As := []) (st := []) dX1_keep_55 rfl rfl fw_J2_size ⟨Nat.le_of_ble_eq_true rfl, Nat.le_of_ble_eq_true rfl⟩ nf_y_Lsize q192 q196 q198 q57 q200 rfl rfl (Nat.zero_le 8) rfl F.1 F.2 (wk_I fun x6 h5 F => ?_)
    exact wa_iret rfl dX1_keep_60 F
  · have F := F.2 z
    refine wa_aload_n (o := (some t)) dX1_keep_30 rfl 0 rfl ?_
    refine wa_getR (C := RX1) (T := TX1) (N := 11) (ci := 0) (k := 9) dX1_keep_31 rfl (Nat.le_of_ble_eq_true rfl) in_X1 q162 q_same_own (g_R_mono F fun r7 F => ?_)
    refine wa_aload_n (o := v2) dX1_keep_34 rfl 1 rfl ?_
    refine wa_iload_n (x := v3) dX1_keep_35 rfl 2 rfl ?_
    refine wa_callV (M' := m_X5_rowsOf) (C := RX5) (o := v2) (As := [.int v3]) (st := [va_rf r7]) dX1_keep_36 ⟨Nat.le_of_ble_eq_true rfl, Nat.le_of_ble_eq_true rfl, nk_X5_rowsOf⟩ q966 q967 q968 q81 q969 rfl rfl (q_cs_le (q_csr q_cs0) (Nat.le_of_ble_eq_true rfl)) rfl F.1 F.2 (wk_R fun r9 h8 F => ?_)
    refine wa_callF (M' := m_J2_add_2) (C := RJ2) (x := y_Ladd) (ci := 6) (o := r7) (As := [va_rf r9]) (st := []) dX1_keep_39 rfl rfl fw_J2_add_2 ⟨Nat.le_of_ble_eq_true rfl, Nat.le_of_ble_eq_true rfl⟩ nf_y_Ladd q1031 q841 q843 q57 q845 rfl rfl (Nat.zero_le 8) rfl F.1 F.2 (wk_I fun x11 h10 F => ?_)
    refine wa_pop dX1_keep_44 rfl ?_
    refine ws_iinc (j := 2) (v := (v3 + 1)) (lv' := [(3, .int (v3 + 1)), (0, va_rf (some t)), (2, va_rf v2)]) dX1_keep_45 rfl rfl (Nat.le_of_ble_eq_true rfl) (q_cr (q_cr (q_ci q_cn))) rfl ?_
    refine wa_goto (tgt := 17) dX1_keep_48 rfl ?_
    exact wa_sub [1, 2, 0] rfl F
theorem f_X1_lines {D : qD} {Q : Option Value → qH → Prop} {X : String → qH → Prop} (t : Nat) (p0 : Int32) (h : qH) (F : (recv D h (some t) RX1 ∧ c_R D m_X1_layout [va_rf (some t), .int p0] h X (fun r2 h1 => g_R D h1 r2 4 1 (fun r3 => (recv D h1 r3 RJ2 ∧ c_I D m_J2_size [va_rf r3] h1 X (fun x5 h4 => Q (some (.int x5)) h4)))))) : MW D m_X1_lines [va_rf (some t), .int p0] h Q X := by
  refine mw_of pl_X1_lines rfl _ (Nat.le_of_ble_eq_true rfl) rfl ?_
  refine (show WA D m_X1_lines Q X 0 [(0, va_rf (some t)), (1, .int p0)] [] h from ?_)
  refine wa_aload_n (o := (some t)) dX1_lines_0 rfl 0 rfl ?_
  refine wa_iload_n (x := p0) dX1_lines_1 rfl 1 rfl ?_
  refine wa_callV (M' := m_X1_layout) (C := RX1) (o := (some t)) (As := [.int p0]) (st := []) dX1_lines_2 ⟨Nat.le_of_ble_eq_true rfl, Nat.le_of_ble_eq_true rfl, nk_X1_layout⟩ q755 q757 qs7 q54 q758 rfl rfl (Nat.zero_le 8) rfl F.1 F.2 (wk_R fun r2 h1 F => ?_)
  refine wa_getNR (C := RX5) (T := TX5) (N := 10) (ci := 4) (k := 1) dX1_lines_5 rfl (Nat.le_of_ble_eq_true rfl) in_X5 q924 q_same_own (g_R_mono F fun r3 F => ?_)
  refine wa_callF (M' := m_J2_size) (C := RJ2) (x := y_Lsize) (ci := 6) (o := r3) (As := []) (st := []) dX1_lines_8 rfl rfl fw_J2_size ⟨Nat.le_of_ble_eq_true rfl, Nat.le_of_ble_eq_true rfl⟩ nf_y_Lsize q192 q196 q198 q57 q200 rfl rfl (Nat.zero_le 8) rfl F.1 F.2 (wk_I fun x5 h4 F => ?_)
  exact wa_iret rfl dX1_lines_13 F
theorem f_X1_lineOf {D : qD} {Q : Option Value → qH → Prop} {X : String → qH → Prop} (t : Nat) (p0 : Int32) (p1 : Int32) (h : qH) (F : (recv D h (some t) RX1 ∧ c_R D m_X1_layout [va_rf (some t), .int p0] h X (fun r2 h1 => g_R D h1 r2 4 2 (fun r3 => g_R D h1 (some t) 0 0 (fun r4 => (recv D h1 r4 RJ2 ∧ c_I D m_J2_size [va_rf r4] h1 X (fun x6 h5 => c_I D m_X1_place [.int p1, .int x6, va_rf (some (d_s D 106))] h5 X (fun x8 h7 => a_I D h7 r3 0 x8 (fun x9 => Q (some (.int x9)) h7))))))))) : MW D m_X1_lineOf [va_rf (some t), .int p0, .int p1] h Q X := by
  refine mw_of pl_X1_lineOf rfl _ (Nat.le_of_ble_eq_true rfl) rfl ?_
  refine (show WA D m_X1_lineOf Q X 0 [(0, va_rf (some t)), (1, .int p0), (2, .int p1)] [] h from ?_)
  refine wa_aload_n (o := (some t)) dX1_lineOf_0 rfl 0 rfl ?_
  refine wa_iload_n (x := p0) dX1_lineOf_1 rfl 1 rfl ?_
  refine wa_callV (M' := m_X1_layout) (C := RX1) (o := (some t)) (As := [.int p0]) (st := []) dX1_lineOf_2 ⟨Nat.le_of_ble_eq_true rfl, Nat.le_of_ble_eq_true rfl, nk_X1_layout⟩ q755 q757 qs7 q54 q758 rfl rfl (Nat.zero_le 8) rfl F.1 F.2 (wk_R fun r2 h1 F => ?_)
  refine ws_astore_n (lv' := [(3, va_rf r2), (0, va_rf (some t)), (1, .int p0), (2, .int p1)]) dX1_lineOf_5 rfl (Nat.le_of_ble_eq_true rfl) (q_cr (q_ci (q_ci q_cn))) rfl ?_
  refine wa_aload_n (o := r2) dX1_lineOf_6 rfl 0 rfl ?_
  refine wa_getNR (C := RX5) (T := TX5) (N := 10) (ci := 4) (k := 2) dX1_lineOf_7 rfl (Nat.le_of_ble_eq_true rfl) in_X5 q926 q_same_own (g_R_mono F fun r3 F => ?_)
  refine wa_iload_n (x := p1) dX1_lineOf_10 rfl 3 rfl ?_
  refine wa_aload_n (o := (some t)) dX1_lineOf_11 rfl 1 rfl ?_
  refine wa_getR (C := RX1) (T := TX1) (N := 11) (ci := 0) (k := 0) dX1_lineOf_12 rfl (Nat.le_of_ble_eq_true rfl) in_X1 q147 q_same_own (g_R_mono F fun r4 F => ?_)
  refine wa_callF (M' := m_J2_size) (C := RJ2) (x := y_Lsize) (ci := 6) (o := r4) (As := []) (st := [.int p1, va_rf r3]) dX1_lineOf_15 rfl rfl fw_J2_size ⟨Nat.le_of_ble_eq_true rfl, Nat.le_of_ble_eq_true rfl⟩ nf_y_Lsize q192 q196 q198 q57 q200 rfl rfl (q_cs_le (q_csi (q_csr q_cs0)) (Nat.le_of_ble_eq_true rfl)) rfl F.1 F.2 (wk_I fun x6 h5 F => ?_)
  refine wa_ldcS (i := 6) dX1_lineOf_20 rfl ?_
  refine wa_callS (M' := m_X1_place) (As := [.int p1, .int x6, va_rf (some (d_s D 106))]) (st := [va_rf r3]) dX1_lineOf_22 ⟨Nat.le_of_ble_eq_true rfl, Nat.le_of_ble_eq_true rfl, nk_X1_place⟩ q288 q289 q54 q290 rfl rfl (q_cs_le (q_csr q_cs0) (Nat.le_of_ble_eq_true rfl)) rfl F (wk_I fun x8 h7 F => ?_)
  refine wa_iald dX1_lineOf_25 (a_I_mono F fun x9 F => ?_)
  exact wa_iret rfl dX1_lineOf_26 F
theorem f_X1_columnOf {D : qD} {Q : Option Value → qH → Prop} {X : String → qH → Prop} (t : Nat) (p0 : Int32) (p1 : Int32) (p2 : Int32) (h : qH) (F : (recv D h (some t) RX1 ∧ c_R D m_X1_layout [va_rf (some t), .int p0] h X (fun r2 h1 => ((p1 = 0 → g_R D h1 (some t) 0 0 (fun r3 => g_R D h1 (some t) 0 0 (fun r4 => (recv D h1 r4 RJ2 ∧ c_I D m_J2_size [va_rf r4] h1 X (fun x6 h5 => c_I D m_X1_place [.int p2, .int x6, va_rf (some (d_s D 106))] h5 X (fun x8 h7 => (recv D h7 r3 RJ2 ∧ c_R D m_J2_get [va_rf r3, .int x8] h7 X (fun r10 h9 => (q_cast D h9 r10 "Quirefold$Token" ∧ g_I D h9 r10 3 0 (fun x11 => ((x11 = 4 → g_R D h9 r2 4 3 (fun r12 => a_I D h9 r12 0 p2 (fun x13 => Q (some (.int x13)) h9))) ∧ (¬ x11 = 4 → x_N h9 "java/lang/IndexOutOfBoundsException" (fun a14 h15 => n_O h15 9 4 tyJ10 (fun a16 h17 => c_V D m_J10_init [va_rf (some a16)] h17 X (fun h18 => (recv D h18 (some a16) RJ10 ∧ c_R D m_J10_append [va_rf (some a16), va_rf (some (d_s D 116))] h18 X (fun r20 h19 => (recv D h19 r20 RJ10 ∧ c_R D m_J10_append_2 [va_rf r20, .int p2] h19 X (fun r22 h21 => (recv D h21 r22 RJ10 ∧ c_R D m_J10_toString [va_rf r22] h21 X (fun r24 h23 => x_I h23 (some a14) "java/lang/IndexOutOfBoundsException" (fun h25 => x_T h25 (some a14) X)))))))))))))))))))))) ∧ (¬ p1 = 0 → g_R D h1 r2 4 1 (fun r26 => g_R D h1 r2 4 1 (fun r27 => (recv D h1 r27 RJ2 ∧ c_I D m_J2_size [va_rf r27] h1 X (fun x29 h28 => c_I D m_X1_place [.int p2, .int x29, va_rf (some (d_s D 115))] h28 X (fun x31 h30 => (recv D h30 r26 RJ2 ∧ c_R D m_J2_get [va_rf r26, .int x31] h30 X (fun r33 h32 => (q_cast D h32 r33 "Quirefold$Line" ∧ g_I D h32 r33 5 6 (fun x34 => Q (some (.int x34)) h32)))))))))))))) : MW D m_X1_columnOf [va_rf (some t), .int p0, .int p1, .int p2] h Q X := by
  refine mw_of pl_X1_columnOf rfl _ (Nat.le_of_ble_eq_true rfl) rfl ?_
  refine (show WA D m_X1_columnOf Q X 0 [(0, va_rf (some t)), (1, .int p0), (2, .int p1), (3, .int p2)] [] h from ?_)
  refine wa_aload_n (o := (some t)) dX1_columnOf_0 rfl 0 rfl ?_
  refine wa_iload_n (x := p0) dX1_columnOf_1 rfl 1 rfl ?_
  refine wa_callV (M' := m_X1_layout) (C := RX1) (o := (some t)) (As := [.int p0]) (st := []) dX1_columnOf_2 ⟨Nat.le_of_ble_eq_true rfl, Nat.le_of_ble_eq_true rfl, nk_X1_layout⟩ q755 q757 qs7 q54 q758 rfl rfl (Nat.zero_le 8) rfl F.1 F.2 (wk_R fun r2 h1 F => ?_)
  refine ws_astore (lv' := [(4, va_rf r2), (0, va_rf (some t)), (1, .int p0), (2, .int p1), (3, .int p2)]) dX1_columnOf_5 (Nat.le_of_ble_eq_true rfl) (q_cr (q_ci (q_ci (q_ci q_cn)))) rfl ?_
  refine wa_iload_n (x := p1) dX1_columnOf_7 rfl 3 rfl ?_
  refine wa_if_eq (tgt := 44) dX1_columnOf_8 rfl (fun z => ?_) (fun z => ?_)
  · have F := F.1 z
    refine wa_aload_n (o := (some t)) dX1_columnOf_44 rfl 1 rfl ?_
    refine wa_getR (C := RX1) (T := TX1) (N := 11) (ci := 0) (k := 0) dX1_columnOf_45 rfl (Nat.le_of_ble_eq_true rfl) in_X1 q147 q_same_own (g_R_mono F fun r3 F => ?_)
    refine wa_iload_n (x := p2) dX1_columnOf_48 rfl 4 rfl ?_
    refine wa_aload_n (o := (some t)) dX1_columnOf_49 rfl 1 rfl ?_
    refine wa_getR (C := RX1) (T := TX1) (N := 11) (ci := 0) (k := 0) dX1_columnOf_50 rfl (Nat.le_of_ble_eq_true rfl) in_X1 q147 q_same_own (g_R_mono F fun r4 F => ?_)
    refine wa_callF (M' := m_J2_size) (C := RJ2) (x := y_Lsize) (ci := 6) (o := r4) (As := []) (st := [.int p2, va_rf r3]) dX1_columnOf_53 rfl rfl fw_J2_size ⟨Nat.le_of_ble_eq_true rfl, Nat.le_of_ble_eq_true rfl⟩ nf_y_Lsize q192 q196 q198 q57 q200 rfl rfl (q_cs_le (q_csi (q_csr q_cs0)) (Nat.le_of_ble_eq_true rfl)) rfl F.1 F.2 (wk_I fun x6 h5 F => ?_)
    refine wa_ldcS (i := 6) dX1_columnOf_58 rfl ?_
    refine wa_callS (M' := m_X1_place) (As := [.int p2, .int x6, va_rf (some (d_s D 106))]) (st := [va_rf r3]) dX1_columnOf_60 ⟨Nat.le_of_ble_eq_true rfl, Nat.le_of_ble_eq_true rfl, nk_X1_place⟩ q288 q289 q54 q290 rfl rfl (q_cs_le (q_csr q_cs0) (Nat.le_of_ble_eq_true rfl)) rfl F (wk_I fun x8 h7 F => ?_)
    refine wa_callF (M' := m_J2_get) (C := RJ2) (x := y_Lget) (ci := 6) (o := r3) (As := [.int x8]) (st := []) dX1_columnOf_63 rfl rfl fw_J2_get ⟨Nat.le_of_ble_eq_true rfl, Nat.le_of_ble_eq_true rfl⟩ nf_y_Lget q1055 q776 q778 q57 q780 rfl rfl (Nat.zero_le 8) rfl F.1 F.2 (wk_R fun r10 h9 F => ?_)
    refine wa_cast (C := "Quirefold$Token") dX1_columnOf_68 q586 F.1 ?_
    have F := F.2
    refine wa_getNI (C := RX4) (T := TX4) (N := 3) (ci := 3) (k := 0) dX1_columnOf_71 rfl (Nat.le_of_ble_eq_true rfl) in_X4 q594 q_same_own (g_I_mono F fun x11 F => ?_)
    refine wa_iconst (v := 4) dX1_columnOf_74 rfl ?_
    refine wa_icmp_eq (tgt := 105) dX1_columnOf_75 rfl (fun z => ?_) (fun z => ?_)
    · have F := F.1 z
      refine wa_aload (o := r2) dX1_columnOf_105 0 rfl ?_
      refine wa_getNR (C := RX5) (T := TX5) (N := 10) (ci := 4) (k := 3) dX1_columnOf_107 rfl (Nat.le_of_ble_eq_true rfl) in_X5 q928 q_same_own (g_R_mono F fun r12 F => ?_)
      refine wa_iload_n (x := p2) dX1_columnOf_110 rfl 4 rfl ?_
      refine wa_iald dX1_columnOf_111 (a_I_mono F fun x13 F => ?_)
      exact wa_iret rfl dX1_columnOf_112 F
    · have F := F.2 z
      refine wa_newX (E := "java/lang/IndexOutOfBoundsException") (by simp [qXN]) dX1_columnOf_78 q291 q292 q63 (x_N_mono F fun a14 h15 F => ?_)
      refine wa_dup dX1_columnOf_81 (q_cat _) ?_
      refine wa_new (C := RJ10) (T := TJ10) tyJ10 dX1_columnOf_82 rfl in_J10 tyJ10_ok q300 q301 q67 (n_O_mono F fun a16 h17 F => ?_)
      refine wa_dup dX1_columnOf_85 (q_cat _) ?_
      refine wa_callI (M' := m_J10_init) (b := a16) (As := []) (st := [va_rf (some a16), va_rf (some a14), va_rf (some a14)]) dX1_columnOf_86 ⟨Nat.le_of_ble_eq_true rfl, Nat.le_of_ble_eq_true rfl, nk_J10_init⟩ rfl rfl q302 q303 q67 q304 rfl rfl (q_cs_le (q_csr (q_csr (q_csr q_cs0))) (Nat.le_of_ble_eq_true rfl)) rfl F (wk_V fun h18 F => ?_)
      refine wa_ldcS (i := 16) dX1_columnOf_89 rfl ?_
      refine wa_callV (M' := m_J10_append) (C := RJ10) (o := (some a16)) (As := [va_rf (some (d_s D 116))]) (st := [va_rf (some a14), va_rf (some a14)]) dX1_columnOf_91 ⟨Nat.le_of_ble_eq_true rfl, Nat.le_of_ble_eq_true rfl, nk_J10_append⟩ q332 q333 q334 q67 q335 rfl rfl (q_cs_le (q_csr (q_csr q_cs0)) (Nat.le_of_ble_eq_true rfl)) rfl F.1 F.2 (wk_R fun r20 h19 F => ?_)
      refine wa_iload_n (x := p2) dX1_columnOf_94 rfl 4 rfl ?_
      refine wa_callV (M' := m_J10_append_2) (C := RJ10) (o := r20) (As := [.int p2]) (st := [va_rf (some a14), va_rf (some a14)]) dX1_columnOf_95 ⟨Nat.le_of_ble_eq_true rfl, Nat.le_of_ble_eq_true rfl, nk_J10_append_2⟩ q453 q454 q455 q67 q456 rfl rfl (q_cs_le (q_csr (q_csr q_cs0)) (Nat.le_of_ble_eq_true rfl)) rfl F.1 F.2 (wk_R fun r22 h21 F => ?_)
      refine wa_callV (M' := m_J10_toString) (C := RJ10) (o := r22) (As := []) (st := [va_rf (some a14), va_rf (some a14)]) dX1_columnOf_98 ⟨Nat.le_of_ble_eq_true rfl, Nat.le_of_ble_eq_true rfl, nk_J10_toString⟩ q478 q479 q480 q67 q481 rfl rfl (q_cs_le (q_csr (q_csr q_cs0)) (Nat.le_of_ble_eq_true rfl)) rfl F.1 F.2 (wk_R fun r24 h23 F => ?_)
      refine wa_initX (E := "java/lang/IndexOutOfBoundsException") (by simp [qXN]) (Nat.le_of_ble_eq_true rfl) (by decide +kernel) dX1_columnOf_101 at_IndexOutOfBoundsException ag_IndexOutOfBoundsException (Nat.zero_le 8) (x_I_mono F fun h25 F => ?_)
      exact wa_athrow rfl dX1_columnOf_104 F
  · have F := F.2 z
    refine wa_aload (o := r2) dX1_columnOf_11 0 rfl ?_
    refine wa_getNR (C := RX5) (T := TX5) (N := 10) (ci := 4) (k := 1) dX1_columnOf_13 rfl (Nat.le_of_ble_eq_true rfl) in_X5 q924 q_same_own (g_R_mono F fun r26 F => ?_)
    refine wa_iload_n (x := p2) dX1_columnOf_16 rfl 4 rfl ?_
    refine wa_aload (o := r2) dX1_columnOf_17 0 rfl ?_
    refine wa_getNR (C := RX5) (T := TX5) (N := 10) (ci := 4) (k := 1) dX1_columnOf_19 rfl (Nat.le_of_ble_eq_true rfl) in_X5 q924 q_same_own (g_R_mono F fun r27 F => ?_)
    refine wa_callF (M' := m_J2_size) (C := RJ2) (x := y_Lsize) (ci := 6) (o := r27) (As := []) (st := [.int p2, va_rf r26]) dX1_columnOf_22 rfl rfl fw_J2_size ⟨Nat.le_of_ble_eq_true rfl, Nat.le_of_ble_eq_true rfl⟩ nf_y_Lsize q192 q196 q198 q57 q200 rfl rfl (q_cs_le (q_csi (q_csr q_cs0)) (Nat.le_of_ble_eq_true rfl)) rfl F.1 F.2 (wk_I fun x29 h28 F => ?_)
    refine wa_ldcS (i := 15) dX1_columnOf_27 rfl ?_
    refine wa_callS (M' := m_X1_place) (As := [.int p2, .int x29, va_rf (some (d_s D 115))]) (st := [va_rf r26]) dX1_columnOf_29 ⟨Nat.le_of_ble_eq_true rfl, Nat.le_of_ble_eq_true rfl, nk_X1_place⟩ q288 q289 q54 q290 rfl rfl (q_cs_le (q_csr q_cs0) (Nat.le_of_ble_eq_true rfl)) rfl F (wk_I fun x31 h30 F => ?_)
    refine wa_callF (M' := m_J2_get) (C := RJ2) (x := y_Lget) (ci := 6) (o := r26) (As := [.int x31]) (st := []) dX1_columnOf_32 rfl rfl fw_J2_get ⟨Nat.le_of_ble_eq_true rfl, Nat.le_of_ble_eq_true rfl⟩ nf_y_Lget q1055 q776 q778 q57 q780 rfl rfl (Nat.zero_le 8) rfl F.1 F.2 (wk_R fun r33 h32 F => ?_)
    refine wa_cast (C := "Quirefold$Line") dX1_columnOf_37 q1056 F.1 ?_
    have F := F.2
    refine wa_getNI (C := RX6) (T := TX6) (N := 7) (ci := 5) (k := 6) dX1_columnOf_40 rfl (Nat.le_of_ble_eq_true rfl) in_X6 q821 q_same_own (g_I_mono F fun x34 F => ?_)
    exact wa_iret rfl dX1_columnOf_43 F
theorem f_X1_layout_2 {D : qD} {Q : Option Value → qH → Prop} {X : String → qH → Prop} (t : Nat) (p0 : Int32) (p1 : Int32) (h : qH) (F : (recv D h (some t) RX1 ∧ c_R D m_X1_layout [va_rf (some t), .int p0] h X (fun r2 h1 => g_R D h1 r2 4 1 (fun r3 => (recv D h1 r3 RJ2 ∧ c_I D m_J2_size [va_rf r3] h1 X (fun x5 h4 => c_I D m_X1_place [.int p1, .int x5, va_rf (some (d_s D 115))] h4 X (fun x7 h6 => Q (some (va_rf r2)) h6))))))) : MW D m_X1_layout_2 [va_rf (some t), .int p0, .int p1] h Q X := by
  refine mw_of pl_X1_layout_2 rfl _ (Nat.le_of_ble_eq_true rfl) rfl ?_
  refine (show WA D m_X1_layout_2 Q X 0 [(0, va_rf (some t)), (1, .int p0), (2, .int p1)] [] h from ?_)
  refine wa_aload_n (o := (some t)) dX1_layout_2_0 rfl 0 rfl ?_
  refine wa_iload_n (x := p0) dX1_layout_2_1 rfl 1 rfl ?_
  refine wa_callV (M' := m_X1_layout) (C := RX1) (o := (some t)) (As := [.int p0]) (st := []) dX1_layout_2_2 ⟨Nat.le_of_ble_eq_true rfl, Nat.le_of_ble_eq_true rfl, nk_X1_layout⟩ q755 q757 qs7 q54 q758 rfl rfl (Nat.zero_le 8) rfl F.1 F.2 (wk_R fun r2 h1 F => ?_)
  refine ws_astore_n (lv' := [(3, va_rf r2), (0, va_rf (some t)), (1, .int p0), (2, .int p1)]) dX1_layout_2_5 rfl (Nat.le_of_ble_eq_true rfl) (q_cr (q_ci (q_ci q_cn))) rfl ?_
  refine wa_iload_n (x := p1) dX1_layout_2_6 rfl 3 rfl ?_
  refine wa_aload_n (o := r2) dX1_layout_2_7 rfl 0 rfl ?_
  refine wa_getNR (C := RX5) (T := TX5) (N := 10) (ci := 4) (k := 1) dX1_layout_2_8 rfl (Nat.le_of_ble_eq_true rfl) in_X5 q924 q_same_own (g_R_mono F fun r3 F => ?_)
  refine wa_callF (M' := m_J2_size) (C := RJ2) (x := y_Lsize) (ci := 6) (o := r3) (As := []) (st := [.int p1]) dX1_layout_2_11 rfl rfl fw_J2_size ⟨Nat.le_of_ble_eq_true rfl, Nat.le_of_ble_eq_true rfl⟩ nf_y_Lsize q192 q196 q198 q57 q200 rfl rfl (q_cs_le (q_csi q_cs0) (Nat.le_of_ble_eq_true rfl)) rfl F.1 F.2 (wk_I fun x5 h4 F => ?_)
  refine wa_ldcS (i := 15) dX1_layout_2_16 rfl ?_
  refine wa_callS (M' := m_X1_place) (As := [.int p1, .int x5, va_rf (some (d_s D 115))]) (st := []) dX1_layout_2_18 ⟨Nat.le_of_ble_eq_true rfl, Nat.le_of_ble_eq_true rfl, nk_X1_place⟩ q288 q289 q54 q290 rfl rfl (Nat.zero_le 8) rfl F (wk_I fun x7 h6 F => ?_)
  refine wa_pop dX1_layout_2_21 rfl ?_
  refine wa_aload_n (o := r2) dX1_layout_2_22 rfl 0 rfl ?_
  exact wa_aret rfl (Or.inl ⟨_, rfl⟩) dX1_layout_2_23 F
theorem f_X1_pages {D : qD} {Q : Option Value → qH → Prop} {X : String → qH → Prop} (t : Nat) (p0 : Int32) (h : qH) (F : (recv D h (some t) RX1 ∧ c_R D m_X1_layout [va_rf (some t), .int p0] h X (fun r2 h1 => g_I D h1 r2 4 8 (fun x3 => ((¬ x3 = (-1) → g_I D h1 r2 4 8 (fun x4 => (recv D h1 r2 RX5 ∧ c_I D m_X5_bodyPages [va_rf r2] h1 X (fun x6 h5 => Q (some (.int (x4 + x6))) h5)))) ∧ (x3 = (-1) → Q (some (.int (-1))) h1)))))) : MW D m_X1_pages [va_rf (some t), .int p0] h Q X := by
  refine mw_of pl_X1_pages rfl _ (Nat.le_of_ble_eq_true rfl) rfl ?_
  refine (show WA D m_X1_pages Q X 0 [(0, va_rf (some t)), (1, .int p0)] [] h from ?_)
  refine wa_aload_n (o := (some t)) dX1_pages_0 rfl 0 rfl ?_
  refine wa_iload_n (x := p0) dX1_pages_1 rfl 1 rfl ?_
  refine wa_callV (M' := m_X1_layout) (C := RX1) (o := (some t)) (As := [.int p0]) (st := []) dX1_pages_2 ⟨Nat.le_of_ble_eq_true rfl, Nat.le_of_ble_eq_true rfl, nk_X1_layout⟩ q755 q757 qs7 q54 q758 rfl rfl (Nat.zero_le 8) rfl F.1 F.2 (wk_R fun r2 h1 F => ?_)
  refine ws_astore_n (lv' := [(2, va_rf r2), (0, va_rf (some t)), (1, .int p0)]) dX1_pages_5 rfl (Nat.le_of_ble_eq_true rfl) (q_cr (q_ci q_cn)) rfl ?_
  refine wa_aload_n (o := r2) dX1_pages_6 rfl 0 rfl ?_
  refine wa_getNI (C := RX5) (T := TX5) (N := 10) (ci := 4) (k := 8) dX1_pages_7 rfl (Nat.le_of_ble_eq_true rfl) in_X5 q934 q_same_own (g_I_mono F fun x3 F => ?_)
  refine wa_iconst (v := -1) dX1_pages_10 rfl ?_
  refine wa_icmp_ne (tgt := 18) dX1_pages_11 rfl (fun z => ?_) (fun z => ?_)
  · have F := F.1 z
    refine wa_aload_n (o := r2) dX1_pages_18 rfl 0 rfl ?_
    refine wa_getNI (C := RX5) (T := TX5) (N := 10) (ci := 4) (k := 8) dX1_pages_19 rfl (Nat.le_of_ble_eq_true rfl) in_X5 q934 q_same_own (g_I_mono F fun x4 F => ?_)
    refine wa_aload_n (o := r2) dX1_pages_22 rfl 0 rfl ?_
    refine wa_callV (M' := m_X5_bodyPages) (C := RX5) (o := r2) (As := []) (st := [.int x4]) dX1_pages_23 ⟨Nat.le_of_ble_eq_true rfl, Nat.le_of_ble_eq_true rfl, nk_X5_bodyPages⟩ q1087 q1088 q1089 q81 q1090 rfl rfl (q_cs_le (q_csi q_cs0) (Nat.le_of_ble_eq_true rfl)) rfl F.1 F.2 (wk_I fun x6 h5 F => ?_)
    refine wa_iadd dX1_pages_26 ?_
    exact wa_iret rfl dX1_pages_27 F
  · have F := F.2 z
    refine wa_iconst (v := -1) dX1_pages_14 rfl ?_
    refine wa_goto (tgt := 27) dX1_pages_15 rfl ?_
    exact wa_iret rfl dX1_pages_27 F
theorem f_X1_front {D : qD} {Q : Option Value → qH → Prop} {X : String → qH → Prop} (t : Nat) (p0 : Int32) (h : qH) (F : (recv D h (some t) RX1 ∧ c_R D m_X1_layout [va_rf (some t), .int p0] h X (fun r2 h1 => g_I D h1 r2 4 8 (fun x3 => Q (some (.int x3)) h1)))) : MW D m_X1_front [va_rf (some t), .int p0] h Q X := by
  refine mw_of pl_X1_front rfl _ (Nat.le_of_ble_eq_true rfl) rfl ?_
  refine (show WA D m_X1_front Q X 0 [(0, va_rf (some t)), (1, .int p0)] [] h from ?_)
  refine wa_aload_n (o := (some t)) dX1_front_0 rfl 0 rfl ?_
  refine wa_iload_n (x := p0) dX1_front_1 rfl 1 rfl ?_
  refine wa_callV (M' := m_X1_layout) (C := RX1) (o := (some t)) (As := [.int p0]) (st := []) dX1_front_2 ⟨Nat.le_of_ble_eq_true rfl, Nat.le_of_ble_eq_true rfl, nk_X1_layout⟩ q755 q757 qs7 q54 q758 rfl rfl (Nat.zero_le 8) rfl F.1 F.2 (wk_R fun r2 h1 F => ?_)
  refine wa_getNI (C := RX5) (T := TX5) (N := 10) (ci := 4) (k := 8) dX1_front_5 rfl (Nat.le_of_ble_eq_true rfl) in_X5 q934 q_same_own (g_I_mono F fun x3 F => ?_)
  exact wa_iret rfl dX1_front_8 F
def L_X1_entry_43 (D : qD) (Q : Option Value → qH → Prop) (X : String → qH → Prop) (v3 : Option Nat) (v4 : Int32) (v5 : Int32) (h : qH) : Prop := WA D m_X1_entry Q X 43 [(3, va_rf v3), (4, .int v4), (5, .int v5)] [] h
def L_X1_entry_92 (D : qD) (Q : Option Value → qH → Prop) (X : String → qH → Prop) (v3 : Option Nat) (v4 : Int32) (v5 : Int32) (h : qH) : Prop := WA D m_X1_entry Q X 92 [(3, va_rf v3), (4, .int v4), (5, .int v5)] [] h
theorem f_X1_entry {D : qD} {Q : Option Value → qH → Prop} {X : String → qH → Prop} (t : Nat) (p0 : Int32) (p1 : Int32) (h : qH) (F : (recv D h (some t) RX1 ∧ c_R D m_X1_layout [va_rf (some t), .int p0] h X (fun r2 h1 => ((0 ≤ p1 → L_X1_entry_43 D Q X r2 p1 0 h1) ∧ (¬ 0 ≤ p1 → x_N h1 "java/lang/IndexOutOfBoundsException" (fun a3 h4 => n_O h4 9 4 tyJ10 (fun a5 h6 => c_V D m_J10_init [va_rf (some a5)] h6 X (fun h7 => (recv D h7 (some a5) RJ10 ∧ c_R D m_J10_append [va_rf (some a5), va_rf (some (d_s D 117))] h7 X (fun r9 h8 => (recv D h8 r9 RJ10 ∧ c_R D m_J10_append_2 [va_rf r9, .int p1] h8 X (fun r11 h10 => (recv D h10 r11 RJ10 ∧ c_R D m_J10_toString [va_rf r11] h10 X (fun r13 h12 => x_I h12 (some a3) "java/lang/IndexOutOfBoundsException" (fun h14 => x_T h14 (some a3) X))))))))))))))) : MW D m_X1_entry [va_rf (some t), .int p0, .int p1] h Q X := by
  refine mw_of pl_X1_entry rfl _ (Nat.le_of_ble_eq_true rfl) rfl ?_
  refine (show WA D m_X1_entry Q X 0 [(0, va_rf (some t)), (1, .int p0), (2, .int p1)] [] h from ?_)
  refine wa_aload_n (o := (some t)) dX1_entry_0 rfl 0 rfl ?_
  refine wa_iload_n (x := p0) dX1_entry_1 rfl 1 rfl ?_
  refine wa_callV (M' := m_X1_layout) (C := RX1) (o := (some t)) (As := [.int p0]) (st := []) dX1_entry_2 ⟨Nat.le_of_ble_eq_true rfl, Nat.le_of_ble_eq_true rfl, nk_X1_layout⟩ q755 q757 qs7 q54 q758 rfl rfl (Nat.zero_le 8) rfl F.1 F.2 (wk_R fun r2 h1 F => ?_)
  refine ws_astore_n (lv' := [(3, va_rf r2), (0, va_rf (some t)), (1, .int p0), (2, .int p1)]) dX1_entry_5 rfl (Nat.le_of_ble_eq_true rfl) (q_cr (q_ci (q_ci q_cn))) rfl ?_
  refine wa_iload_n (x := p1) dX1_entry_6 rfl 3 rfl ?_
  refine wa_if_ge (tgt := 37) dX1_entry_7 rfl (fun z => ?_) (fun z => ?_)
  · have F := F.1 z
    refine wa_iload_n (x := p1) dX1_entry_37 rfl 3 rfl ?_
    refine ws_istore (lv' := [(4, .int p1), (3, va_rf r2), (0, va_rf (some t)), (1, .int p0), (2, .int p1)]) dX1_entry_38 (Nat.le_of_ble_eq_true rfl) (q_cr (q_cr (q_ci (q_ci q_cn)))) rfl ?_
    refine wa_iconst (v := 0) dX1_entry_40 rfl ?_
    refine ws_istore (lv' := [(5, .int 0), (4, .int p1), (3, va_rf r2), (0, va_rf (some t)), (1, .int p0), (2, .int p1)]) dX1_entry_41 (Nat.le_of_ble_eq_true rfl) (q_ci (q_cr (q_cr (q_ci (q_ci q_cn))))) rfl ?_
    exact wa_sub [2, 1, 0] rfl F
  · have F := F.2 z
    refine wa_newX (E := "java/lang/IndexOutOfBoundsException") (by simp [qXN]) dX1_entry_10 q291 q292 q63 (x_N_mono F fun a3 h4 F => ?_)
    refine wa_dup dX1_entry_13 (q_cat _) ?_
    refine wa_new (C := RJ10) (T := TJ10) tyJ10 dX1_entry_14 rfl in_J10 tyJ10_ok q300 q301 q67 (n_O_mono F fun a5 h6 F => ?_)
    refine wa_dup dX1_entry_17 (q_cat _) ?_
    refine wa_callI (M' := m_J10_init) (b := a5) (As := []) (st := [va_rf (some a5), va_rf (some a3), va_rf (some a3)]) dX1_entry_18 ⟨Nat.le_of_ble_eq_true rfl, Nat.le_of_ble_eq_true rfl, nk_J10_init⟩ rfl rfl q302 q303 q67 q304 rfl rfl (q_cs_le (q_csr (q_csr (q_csr q_cs0))) (Nat.le_of_ble_eq_true rfl)) rfl F (wk_V fun h7 F => ?_)
    refine wa_ldcS (i := 17) dX1_entry_21 rfl ?_
    refine wa_callV (M' := m_J10_append) (C := RJ10) (o := (some a5)) (As := [va_rf (some (d_s D 117))]) (st := [va_rf (some a3), va_rf (some a3)]) dX1_entry_23 ⟨Nat.le_of_ble_eq_true rfl, Nat.le_of_ble_eq_true rfl, nk_J10_append⟩ q332 q333 q334 q67 q335 rfl rfl (q_cs_le (q_csr (q_csr q_cs0)) (Nat.le_of_ble_eq_true rfl)) rfl F.1 F.2 (wk_R fun r9 h8 F => ?_)
    refine wa_iload_n (x := p1) dX1_entry_26 rfl 3 rfl ?_
    refine wa_callV (M' := m_J10_append_2) (C := RJ10) (o := r9) (As := [.int p1]) (st := [va_rf (some a3), va_rf (some a3)]) dX1_entry_27 ⟨Nat.le_of_ble_eq_true rfl, Nat.le_of_ble_eq_true rfl, nk_J10_append_2⟩ q453 q454 q455 q67 q456 rfl rfl (q_cs_le (q_csr (q_csr q_cs0)) (Nat.le_of_ble_eq_true rfl)) rfl F.1 F.2 (wk_R fun r11 h10 F => ?_)
    refine wa_callV (M' := m_J10_toString) (C := RJ10) (o := r11) (As := []) (st := [va_rf (some a3), va_rf (some a3)]) dX1_entry_30 ⟨Nat.le_of_ble_eq_true rfl, Nat.le_of_ble_eq_true rfl, nk_J10_toString⟩ q478 q479 q480 q67 q481 rfl rfl (q_cs_le (q_csr (q_csr q_cs0)) (Nat.le_of_ble_eq_true rfl)) rfl F.1 F.2 (wk_R fun r13 h12 F => ?_)
    refine wa_initX (E := "java/lang/IndexOutOfBoundsException") (by simp [qXN]) (Nat.le_of_ble_eq_true rfl) (by decide +kernel) dX1_entry_33 at_IndexOutOfBoundsException ag_IndexOutOfBoundsException (Nat.zero_le 8) (x_I_mono F fun h14 F => ?_)
    exact wa_athrow rfl dX1_entry_36 F
theorem f_X1_entry_43 {D : qD} {Q : Option Value → qH → Prop} {X : String → qH → Prop} (v3 : Option Nat) (v4 : Int32) (v5 : Int32) (h : qH) (F : g_R D h v3 4 1 (fun r1 => (recv D h r1 RJ2 ∧ c_I D m_J2_size [va_rf r1] h X (fun x3 h2 => ((x3 ≤ v5 → Q (some (.int (-1))) h2) ∧ (¬ x3 ≤ v5 → g_R D h2 v3 4 1 (fun r4 => (recv D h2 r4 RJ2 ∧ c_R D m_J2_get [va_rf r4, .int v5] h2 X (fun r6 h5 => (q_cast D h5 r6 "Quirefold$Line" ∧ g_I D h5 r6 5 0 (fun x7 => ((x7 = 0 → L_X1_entry_92 D Q X v3 v4 v5 h5) ∧ (¬ x7 = 0 → ((¬ v4 = 0 → L_X1_entry_92 D Q X v3 (v4 + (-1)) v5 h5) ∧ (v4 = 0 → (recv D h5 v3 RX5 ∧ c_I D m_X5_page [va_rf v3, .int v5] h5 X (fun x9 h8 => Q (some (.int x9)) h8))))))))))))))))) : L_X1_entry_43 D Q X v3 v4 v5 h := by
  show WA D m_X1_entry Q X 43 [(3, va_rf v3), (4, .int v4), (5, .int v5)] [] h
  refine wa_iload (x := v5) dX1_entry_43 2 rfl ?_
  refine wa_aload_n (o := v3) dX1_entry_45 rfl 0 rfl ?_
  refine wa_getNR (C := RX5) (T := TX5) (N := 10) (ci := 4) (k := 1) dX1_entry_46 rfl (Nat.le_of_ble_eq_true rfl) in_X5 q924 q_same_own (g_R_mono F fun r1 F => ?_)
  refine wa_callF (M' := m_J2_size) (C := RJ2) (x := y_Lsize) (ci := 6) (o := r1) (As := []) (st := [.int v5]) dX1_entry_49 rfl rfl fw_J2_size ⟨Nat.le_of_ble_eq_true rfl, Nat.le_of_ble_eq_true rfl⟩ nf_y_Lsize q192 q196 q198 q57 q200 rfl rfl (q_cs_le (q_csi q_cs0) (Nat.le_of_ble_eq_true rfl)) rfl F.1 F.2 (wk_I fun x3 h2 F => ?_)
  refine wa_icmp_ge (tgt := 98) dX1_entry_54 rfl (fun z => ?_) (fun z => ?_)
  · have F := F.1 z
    refine wa_iconst (v := -1) dX1_entry_98 rfl ?_
    exact wa_iret rfl dX1_entry_99 F
  · have F := F.2 z
    refine wa_aload_n (o := v3) dX1_entry_57 rfl 0 rfl ?_
    refine wa_getNR (C := RX5) (T := TX5) (N := 10) (ci := 4) (k := 1) dX1_entry_58 rfl (Nat.le_of_ble_eq_true rfl) in_X5 q924 q_same_own (g_R_mono F fun r4 F => ?_)
    refine wa_iload (x := v5) dX1_entry_61 2 rfl ?_
    refine wa_callF (M' := m_J2_get) (C := RJ2) (x := y_Lget) (ci := 6) (o := r4) (As := [.int v5]) (st := []) dX1_entry_63 rfl rfl fw_J2_get ⟨Nat.le_of_ble_eq_true rfl, Nat.le_of_ble_eq_true rfl⟩ nf_y_Lget q1055 q776 q778 q57 q780 rfl rfl (Nat.zero_le 8) rfl F.1 F.2 (wk_R fun r6 h5 F => ?_)
    refine wa_cast (C := "Quirefold$Line") dX1_entry_68 q1056 F.1 ?_
    have F := F.2
    refine wa_getNI (C := RX6) (T := TX6) (N := 7) (ci := 5) (k := 0) dX1_entry_71 rfl (Nat.le_of_ble_eq_true rfl) in_X6 q809 q_same_own (g_I_mono F fun x7 F => ?_)
    refine wa_if_eq (tgt := 92) dX1_entry_74 rfl (fun z => ?_) (fun z => ?_)
    · have F := F.1 z
      exact F
    · have F := F.2 z
      refine wa_iload (x := v4) dX1_entry_77 1 rfl ?_
      refine wa_if_ne (tgt := 89) dX1_entry_79 rfl (fun z => ?_) (fun z => ?_)
      · have F := F.1 z
        refine ws_iinc (j := 1) (v := (v4 + (-1))) (lv' := [(4, .int (v4 + (-1))), (3, va_rf v3), (5, .int v5)]) dX1_entry_89 rfl rfl (Nat.le_of_ble_eq_true rfl) (q_cr (q_ci (q_ci q_cn))) rfl ?_
        exact wa_sub [1, 0, 2] rfl F
      · have F := F.2 z
        refine wa_aload_n (o := v3) dX1_entry_82 rfl 0 rfl ?_
        refine wa_iload (x := v5) dX1_entry_83 2 rfl ?_
        refine wa_callV (M' := m_X5_page) (C := RX5) (o := v3) (As := [.int v5]) (st := []) dX1_entry_85 ⟨Nat.le_of_ble_eq_true rfl, Nat.le_of_ble_eq_true rfl, nk_X5_page⟩ q1069 q1070 q1071 q81 q1072 rfl rfl (Nat.zero_le 8) rfl F.1 F.2 (wk_I fun x9 h8 F => ?_)
        exact wa_iret rfl dX1_entry_88 F
theorem f_X1_entry_92 {D : qD} {Q : Option Value → qH → Prop} {X : String → qH → Prop} (v3 : Option Nat) (v4 : Int32) (v5 : Int32) (h : qH) (F : L_X1_entry_43 D Q X v3 v4 (v5 + 1) h) : L_X1_entry_92 D Q X v3 v4 v5 h := by
  show WA D m_X1_entry Q X 92 [(3, va_rf v3), (4, .int v4), (5, .int v5)] [] h
  refine ws_iinc (j := 2) (v := (v5 + 1)) (lv' := [(5, .int (v5 + 1)), (3, va_rf v3), (4, .int v4)]) dX1_entry_92 rfl rfl (Nat.le_of_ble_eq_true rfl) (q_cr (q_ci (q_ci q_cn))) rfl ?_
  refine wa_goto (tgt := 43) dX1_entry_95 rfl ?_
  exact wa_sub [1, 2, 0] rfl F
def L_X1_index_74 (D : qD) (Q : Option Value → qH → Prop) (X : String → qH → Prop) (v3 : Int32) (s0 : Option Nat) (h : qH) : Prop := WA D m_X1_index Q X 74 [(3, .int v3)] [va_rf s0] h
def L_X1_index_82 (D : qD) (Q : Option Value → qH → Prop) (X : String → qH → Prop) (v5 : Option Nat) (v6 : Int32) (v7 : Int32) (h : qH) : Prop := WA D m_X1_index Q X 82 [(5, va_rf v5), (6, .int v6), (7, .int v7)] [] h
def L_X1_index_100 (D : qD) (Q : Option Value → qH → Prop) (X : String → qH → Prop) (v5 : Option Nat) (v6 : Int32) (v7 : Int32) (v8 : Int32) (h : qH) : Prop := WA D m_X1_index Q X 100 [(5, va_rf v5), (6, .int v6), (7, .int v7), (8, .int v8)] [] h
def L_X1_index_155 (D : qD) (Q : Option Value → qH → Prop) (X : String → qH → Prop) (v5 : Option Nat) (v6 : Int32) (v7 : Int32) (v8 : Int32) (h : qH) : Prop := WA D m_X1_index Q X 155 [(5, va_rf v5), (6, .int v6), (7, .int v7), (8, .int v8)] [] h
def L_X1_index_173 (D : qD) (Q : Option Value → qH → Prop) (X : String → qH → Prop) (v5 : Option Nat) (v6 : Int32) (v7 : Int32) (s0 : Int32) (h : qH) : Prop := WA D m_X1_index Q X 173 [(5, va_rf v5), (6, .int v6), (7, .int v7)] [.int s0] h
theorem f_X1_index {D : qD} {Q : Option Value → qH → Prop} {X : String → qH → Prop} (t : Nat) (p0 : Int32) (p1 : Int32) (p2 : Int32) (h : qH) (F : (recv D h (some t) RX1 ∧ c_R D m_X1_layout [va_rf (some t), .int p0] h X (fun r2 h1 => c_I D m_X1_place [.int p1, .int 10, va_rf (some (d_s D 111))] h1 X (fun x4 h3 => ((0 ≤ p2 → g_R D h3 (some t) 0 6 (fun r5 => a_I D h3 r5 0 p1 (fun x6 => ((¬ x6 = (-1) → n_O h3 6 3 tyJ2 (fun a7 h8 => c_V D m_J2_init [va_rf (some a7)] h8 X (fun h9 => L_X1_index_74 D Q X p2 (some a7) h9))) ∧ (x6 = (-1) → (recv D h3 (some t) RX1 ∧ c_R D m_X1_pagesOf [va_rf (some t), va_rf r2, .int p1] h3 X (fun r11 h10 => L_X1_index_74 D Q X p2 r11 h10))))))) ∧ (¬ 0 ≤ p2 → x_N h3 "java/lang/IndexOutOfBoundsException" (fun a12 h13 => n_O h13 9 4 tyJ10 (fun a14 h15 => c_V D m_J10_init [va_rf (some a14)] h15 X (fun h16 => (recv D h16 (some a14) RJ10 ∧ c_R D m_J10_append [va_rf (some a14), va_rf (some (d_s D 118))] h16 X (fun r18 h17 => (recv D h17 r18 RJ10 ∧ c_R D m_J10_append_2 [va_rf r18, .int p2] h17 X (fun r20 h19 => (recv D h19 r20 RJ10 ∧ c_R D m_J10_toString [va_rf r20] h19 X (fun r22 h21 => x_I h21 (some a12) "java/lang/IndexOutOfBoundsException" (fun h23 => x_T h23 (some a12) X)))))))))))))))) : MW D m_X1_index [va_rf (some t), .int p0, .int p1, .int p2] h Q X := by
  refine mw_of pl_X1_index rfl _ (Nat.le_of_ble_eq_true rfl) rfl ?_
  refine (show WA D m_X1_index Q X 0 [(0, va_rf (some t)), (1, .int p0), (2, .int p1), (3, .int p2)] [] h from ?_)
  refine wa_aload_n (o := (some t)) dX1_index_0 rfl 0 rfl ?_
  refine wa_iload_n (x := p0) dX1_index_1 rfl 1 rfl ?_
  refine wa_callV (M' := m_X1_layout) (C := RX1) (o := (some t)) (As := [.int p0]) (st := []) dX1_index_2 ⟨Nat.le_of_ble_eq_true rfl, Nat.le_of_ble_eq_true rfl, nk_X1_layout⟩ q755 q757 qs7 q54 q758 rfl rfl (Nat.zero_le 8) rfl F.1 F.2 (wk_R fun r2 h1 F => ?_)
  refine ws_astore (lv' := [(4, va_rf r2), (0, va_rf (some t)), (1, .int p0), (2, .int p1), (3, .int p2)]) dX1_index_5 (Nat.le_of_ble_eq_true rfl) (q_cr (q_ci (q_ci (q_ci q_cn)))) rfl ?_
  refine wa_iload_n (x := p1) dX1_index_7 rfl 3 rfl ?_
  refine wa_bipush (v := 10) dX1_index_8 rfl ?_
  refine wa_ldcS (i := 11) dX1_index_10 rfl ?_
  refine wa_callS (M' := m_X1_place) (As := [.int p1, .int 10, va_rf (some (d_s D 111))]) (st := []) dX1_index_12 ⟨Nat.le_of_ble_eq_true rfl, Nat.le_of_ble_eq_true rfl, nk_X1_place⟩ q288 q289 q54 q290 rfl rfl (Nat.zero_le 8) rfl F (wk_I fun x4 h3 F => ?_)
  refine wa_pop dX1_index_15 rfl ?_
  refine wa_iload_n (x := p2) dX1_index_16 rfl 4 rfl ?_
  refine wa_if_ge (tgt := 47) dX1_index_17 rfl (fun z => ?_) (fun z => ?_)
  · have F := F.1 z
    refine wa_aload_n (o := (some t)) dX1_index_47 rfl 1 rfl ?_
    refine wa_getR (C := RX1) (T := TX1) (N := 11) (ci := 0) (k := 6) dX1_index_48 rfl (Nat.le_of_ble_eq_true rfl) in_X1 q159 q_same_own (g_R_mono F fun r5 F => ?_)
    refine wa_iload_n (x := p1) dX1_index_51 rfl 3 rfl ?_
    refine wa_iald dX1_index_52 (a_I_mono F fun x6 F => ?_)
    refine wa_iconst (v := -1) dX1_index_53 rfl ?_
    refine wa_icmp_ne (tgt := 67) dX1_index_54 rfl (fun z => ?_) (fun z => ?_)
    · have F := F.1 z
      refine wa_new (C := RJ2) (T := TJ2) tyJ2 dX1_index_67 rfl in_J2 tyJ2_ok q93 q94 q57 (n_O_mono F fun a7 h8 F => ?_)
      refine wa_dup dX1_index_70 (q_cat _) ?_
      refine wa_callI (M' := m_J2_init) (b := a7) (As := []) (st := [va_rf (some a7)]) dX1_index_71 ⟨Nat.le_of_ble_eq_true rfl, Nat.le_of_ble_eq_true rfl, nk_J2_init⟩ rfl rfl q95 q96 q57 q97 rfl rfl (q_cs_le (q_csr q_cs0) (Nat.le_of_ble_eq_true rfl)) rfl F (wk_V fun h9 F => ?_)
      exact wa_sub [4] rfl F
    · have F := F.2 z
      refine wa_aload_n (o := (some t)) dX1_index_57 rfl 1 rfl ?_
      refine wa_aload (o := r2) dX1_index_58 0 rfl ?_
      refine wa_iload_n (x := p1) dX1_index_60 rfl 3 rfl ?_
      refine wa_callV (M' := m_X1_pagesOf) (C := RX1) (o := (some t)) (As := [va_rf r2, .int p1]) (st := []) dX1_index_61 ⟨Nat.le_of_ble_eq_true rfl, Nat.le_of_ble_eq_true rfl, nk_X1_pagesOf⟩ q1114 q1116 qs19 q54 q1117 rfl rfl (Nat.zero_le 8) rfl F.1 F.2 (wk_R fun r11 h10 F => ?_)
      refine wa_goto (tgt := 74) dX1_index_64 rfl ?_
      exact wa_sub [4] rfl F
  · have F := F.2 z
    refine wa_newX (E := "java/lang/IndexOutOfBoundsException") (by simp [qXN]) dX1_index_20 q291 q292 q63 (x_N_mono F fun a12 h13 F => ?_)
    refine wa_dup dX1_index_23 (q_cat _) ?_
    refine wa_new (C := RJ10) (T := TJ10) tyJ10 dX1_index_24 rfl in_J10 tyJ10_ok q300 q301 q67 (n_O_mono F fun a14 h15 F => ?_)
    refine wa_dup dX1_index_27 (q_cat _) ?_
    refine wa_callI (M' := m_J10_init) (b := a14) (As := []) (st := [va_rf (some a14), va_rf (some a12), va_rf (some a12)]) dX1_index_28 ⟨Nat.le_of_ble_eq_true rfl, Nat.le_of_ble_eq_true rfl, nk_J10_init⟩ rfl rfl q302 q303 q67 q304 rfl rfl (q_cs_le (q_csr (q_csr (q_csr q_cs0))) (Nat.le_of_ble_eq_true rfl)) rfl F (wk_V fun h16 F => ?_)
    refine wa_ldcS (i := 18) dX1_index_31 rfl ?_
    refine wa_callV (M' := m_J10_append) (C := RJ10) (o := (some a14)) (As := [va_rf (some (d_s D 118))]) (st := [va_rf (some a12), va_rf (some a12)]) dX1_index_33 ⟨Nat.le_of_ble_eq_true rfl, Nat.le_of_ble_eq_true rfl, nk_J10_append⟩ q332 q333 q334 q67 q335 rfl rfl (q_cs_le (q_csr (q_csr q_cs0)) (Nat.le_of_ble_eq_true rfl)) rfl F.1 F.2 (wk_R fun r18 h17 F => ?_)
    refine wa_iload_n (x := p2) dX1_index_36 rfl 4 rfl ?_
    refine wa_callV (M' := m_J10_append_2) (C := RJ10) (o := r18) (As := [.int p2]) (st := [va_rf (some a12), va_rf (some a12)]) dX1_index_37 ⟨Nat.le_of_ble_eq_true rfl, Nat.le_of_ble_eq_true rfl, nk_J10_append_2⟩ q453 q454 q455 q67 q456 rfl rfl (q_cs_le (q_csr (q_csr q_cs0)) (Nat.le_of_ble_eq_true rfl)) rfl F.1 F.2 (wk_R fun r20 h19 F => ?_)
    refine wa_callV (M' := m_J10_toString) (C := RJ10) (o := r20) (As := []) (st := [va_rf (some a12), va_rf (some a12)]) dX1_index_40 ⟨Nat.le_of_ble_eq_true rfl, Nat.le_of_ble_eq_true rfl, nk_J10_toString⟩ q478 q479 q480 q67 q481 rfl rfl (q_cs_le (q_csr (q_csr q_cs0)) (Nat.le_of_ble_eq_true rfl)) rfl F.1 F.2 (wk_R fun r22 h21 F => ?_)
    refine wa_initX (E := "java/lang/IndexOutOfBoundsException") (by simp [qXN]) (Nat.le_of_ble_eq_true rfl) (by decide +kernel) dX1_index_43 at_IndexOutOfBoundsException ag_IndexOutOfBoundsException (Nat.zero_le 8) (x_I_mono F fun h23 F => ?_)
    exact wa_athrow rfl dX1_index_46 F
theorem f_X1_index_74 {D : qD} {Q : Option Value → qH → Prop} {X : String → qH → Prop} (v3 : Int32) (s0 : Option Nat) (h : qH) (F : L_X1_index_82 D Q X s0 v3 0 h) : L_X1_index_74 D Q X v3 s0 h := by
  show WA D m_X1_index Q X 74 [(3, .int v3)] [va_rf s0] h
  refine ws_astore (lv' := [(5, va_rf s0), (3, .int v3)]) dX1_index_74 (Nat.le_of_ble_eq_true rfl) (q_ci q_cn) rfl ?_
  refine wa_iload_n (x := v3) dX1_index_76 rfl 1 rfl ?_
  refine ws_istore (lv' := [(6, .int v3), (5, va_rf s0), (3, .int v3)]) dX1_index_77 (Nat.le_of_ble_eq_true rfl) (q_cr (q_ci q_cn)) rfl ?_
  refine wa_iconst (v := 0) dX1_index_79 rfl ?_
  refine ws_istore (lv' := [(7, .int 0), (6, .int v3), (5, va_rf s0), (3, .int v3)]) dX1_index_80 (Nat.le_of_ble_eq_true rfl) (q_ci (q_cr (q_ci q_cn))) rfl ?_
  exact wa_sub [2, 1, 0] rfl F
theorem f_X1_index_82 {D : qD} {Q : Option Value → qH → Prop} {X : String → qH → Prop} (v5 : Option Nat) (v6 : Int32) (v7 : Int32) (h : qH) (F : (recv D h v5 RJ2 ∧ c_I D m_J2_size [va_rf v5] h X (fun x2 h1 => ((x2 ≤ v7 → Q (some (.int (-1))) h1) ∧ (¬ x2 ≤ v7 → L_X1_index_100 D Q X v5 v6 v7 (v7 + 1) h1))))) : L_X1_index_82 D Q X v5 v6 v7 h := by
  show WA D m_X1_index Q X 82 [(5, va_rf v5), (6, .int v6), (7, .int v7)] [] h
  refine wa_iload (x := v7) dX1_index_82 2 rfl ?_
  refine wa_aload (o := v5) dX1_index_84 0 rfl ?_
  refine wa_callF (M' := m_J2_size) (C := RJ2) (x := y_Lsize) (ci := 6) (o := v5) (As := []) (st := [.int v7]) dX1_index_86 rfl rfl fw_J2_size ⟨Nat.le_of_ble_eq_true rfl, Nat.le_of_ble_eq_true rfl⟩ nf_y_Lsize q192 q196 q198 q57 q200 rfl rfl (q_cs_le (q_csi q_cs0) (Nat.le_of_ble_eq_true rfl)) rfl F.1 F.2 (wk_I fun x2 h1 F => ?_)
  refine wa_icmp_ge (tgt := 228) dX1_index_91 rfl (fun z => ?_) (fun z => ?_)
  · have F := F.1 z
    refine wa_iconst (v := -1) dX1_index_228 rfl ?_
    exact wa_iret rfl dX1_index_229 F
  · have F := F.2 z
    refine wa_iload (x := v7) dX1_index_94 2 rfl ?_
    refine wa_iconst (v := 1) dX1_index_96 rfl ?_
    refine wa_iadd dX1_index_97 ?_
    refine ws_istore (lv' := [(8, .int (v7 + 1)), (5, va_rf v5), (6, .int v6), (7, .int v7)]) dX1_index_98 (Nat.le_of_ble_eq_true rfl) (q_cr (q_ci (q_ci q_cn))) rfl ?_
    exact wa_sub [1, 2, 3, 0] rfl F
theorem f_X1_index_100 {D : qD} {Q : Option Value → qH → Prop} {X : String → qH → Prop} (v5 : Option Nat) (v6 : Int32) (v7 : Int32) (v8 : Int32) (h : qH) (F : (recv D h v5 RJ2 ∧ c_I D m_J2_size [va_rf v5] h X (fun x2 h1 => ((x2 ≤ v8 → L_X1_index_155 D Q X v5 v6 v7 v8 h1) ∧ (¬ x2 ≤ v8 → (recv D h1 v5 RJ2 ∧ c_R D m_J2_get [va_rf v5, .int v8] h1 X (fun r4 h3 => (q_cast D h3 r4 "java/lang/Integer" ∧ (recv D h3 r4 RJ18 ∧ c_I D m_J18_intValue [va_rf r4] h3 X (fun x6 h5 => (recv D h5 v5 RJ2 ∧ c_R D m_J2_get [va_rf v5, .int (v8 - 1)] h5 X (fun r8 h7 => (q_cast D h7 r8 "java/lang/Integer" ∧ (recv D h7 r8 RJ18 ∧ c_I D m_J18_intValue [va_rf r8] h7 X (fun x10 h9 => ((¬ x6 = (x10 + 1) → L_X1_index_155 D Q X v5 v6 v7 v8 h9) ∧ (x6 = (x10 + 1) → L_X1_index_100 D Q X v5 v6 v7 (v8 + 1) h9))))))))))))))))) : L_X1_index_100 D Q X v5 v6 v7 v8 h := by
  show WA D m_X1_index Q X 100 [(5, va_rf v5), (6, .int v6), (7, .int v7), (8, .int v8)] [] h
  refine wa_iload (x := v8) dX1_index_100 3 rfl ?_
  refine wa_aload (o := v5) dX1_index_102 0 rfl ?_
  refine wa_callF (M' := m_J2_size) (C := RJ2) (x := y_Lsize) (ci := 6) (o := v5) (As := []) (st := [.int v8]) dX1_index_104 rfl rfl fw_J2_size ⟨Nat.le_of_ble_eq_true rfl, Nat.le_of_ble_eq_true rfl⟩ nf_y_Lsize q192 q196 q198 q57 q200 rfl rfl (q_cs_le (q_csi q_cs0) (Nat.le_of_ble_eq_true rfl)) rfl F.1 F.2 (wk_I fun x2 h1 F => ?_)
  refine wa_icmp_ge (tgt := 155) dX1_index_109 rfl (fun z => ?_) (fun z => ?_)
  · have F := F.1 z
    exact F
  · have F := F.2 z
    refine wa_aload (o := v5) dX1_index_112 0 rfl ?_
    refine wa_iload (x := v8) dX1_index_114 3 rfl ?_
    refine wa_callF (M' := m_J2_get) (C := RJ2) (x := y_Lget) (ci := 6) (o := v5) (As := [.int v8]) (st := []) dX1_index_116 rfl rfl fw_J2_get ⟨Nat.le_of_ble_eq_true rfl, Nat.le_of_ble_eq_true rfl⟩ nf_y_Lget q1055 q776 q778 q57 q780 rfl rfl (Nat.zero_le 8) rfl F.1 F.2 (wk_R fun r4 h3 F => ?_)
    refine wa_cast (C := "java/lang/Integer") dX1_index_121 q1124 F.1 ?_
    have F := F.2
    refine wa_callV (M' := m_J18_intValue) (C := RJ18) (o := r4) (As := []) (st := []) dX1_index_124 ⟨Nat.le_of_ble_eq_true rfl, Nat.le_of_ble_eq_true rfl, nk_J18_intValue⟩ q1125 q893 q894 q76 q895 rfl rfl (Nat.zero_le 8) rfl F.1 F.2 (wk_I fun x6 h5 F => ?_)
    refine wa_aload (o := v5) dX1_index_127 0 rfl ?_
    refine wa_iload (x := v8) dX1_index_129 3 rfl ?_
    refine wa_iconst (v := 1) dX1_index_131 rfl ?_
    refine wa_isub dX1_index_132 ?_
    refine wa_callF (M' := m_J2_get) (C := RJ2) (x := y_Lget) (ci := 6) (o := v5) (As := [.int (v8 - 1)]) (st := [.int x6]) dX1_index_133 rfl rfl fw_J2_get ⟨Nat.le_of_ble_eq_true rfl, Nat.le_of_ble_eq_true rfl⟩ nf_y_Lget q1055 q776 q778 q57 q780 rfl rfl (q_cs_le (q_csi q_cs0) (Nat.le_of_ble_eq_true rfl)) rfl F.1 F.2 (wk_R fun r8 h7 F => ?_)
    refine wa_cast (C := "java/lang/Integer") dX1_index_138 q1124 F.1 ?_
    have F := F.2
    refine wa_callV (M' := m_J18_intValue) (C := RJ18) (o := r8) (As := []) (st := [.int x6]) dX1_index_141 ⟨Nat.le_of_ble_eq_true rfl, Nat.le_of_ble_eq_true rfl, nk_J18_intValue⟩ q1125 q893 q894 q76 q895 rfl rfl (q_cs_le (q_csi q_cs0) (Nat.le_of_ble_eq_true rfl)) rfl F.1 F.2 (wk_I fun x10 h9 F => ?_)
    refine wa_iconst (v := 1) dX1_index_144 rfl ?_
    refine wa_iadd dX1_index_145 ?_
    refine wa_icmp_ne (tgt := 155) dX1_index_146 rfl (fun z => ?_) (fun z => ?_)
    · have F := F.1 z
      exact F
    · have F := F.2 z
      refine ws_iinc (j := 3) (v := (v8 + 1)) (lv' := [(8, .int (v8 + 1)), (5, va_rf v5), (6, .int v6), (7, .int v7)]) dX1_index_149 rfl rfl (Nat.le_of_ble_eq_true rfl) (q_cr (q_ci (q_ci (q_ci q_cn)))) rfl ?_
      refine wa_goto (tgt := 100) dX1_index_152 rfl ?_
      exact wa_sub [1, 2, 3, 0] rfl F
theorem f_X1_index_155 {D : qD} {Q : Option Value → qH → Prop} {X : String → qH → Prop} (v5 : Option Nat) (v6 : Int32) (v7 : Int32) (v8 : Int32) (h : qH) (F : (((v8 - v7) < 3 → L_X1_index_173 D Q X v5 v6 v7 (v7 + 1) h) ∧ (¬ (v8 - v7) < 3 → L_X1_index_173 D Q X v5 v6 v7 v8 h))) : L_X1_index_155 D Q X v5 v6 v7 v8 h := by
  show WA D m_X1_index Q X 155 [(5, va_rf v5), (6, .int v6), (7, .int v7), (8, .int v8)] [] h
  refine wa_iload (x := v8) dX1_index_155 3 rfl ?_
  refine wa_iload (x := v7) dX1_index_157 2 rfl ?_
  refine wa_isub dX1_index_159 ?_
  refine wa_iconst (v := 3) dX1_index_160 rfl ?_
  refine wa_icmp_lt (tgt := 169) dX1_index_161 rfl (fun z => ?_) (fun z => ?_)
  · have F := F.1 z
    refine wa_iload (x := v7) dX1_index_169 2 rfl ?_
    refine wa_iconst (v := 1) dX1_index_171 rfl ?_
    refine wa_iadd dX1_index_172 ?_
    exact wa_sub [0, 1, 2] rfl F
  · have F := F.2 z
    refine wa_iload (x := v8) dX1_index_164 3 rfl ?_
    refine wa_goto (tgt := 173) dX1_index_166 rfl ?_
    exact wa_sub [0, 1, 2] rfl F
theorem f_X1_index_173 {D : qD} {Q : Option Value → qH → Prop} {X : String → qH → Prop} (v5 : Option Nat) (v6 : Int32) (v7 : Int32) (s0 : Int32) (h : qH) (F : ((¬ v6 = 0 → L_X1_index_82 D Q X v5 (v6 + (-1)) s0 h) ∧ (v6 = 0 → (recv D h v5 RJ2 ∧ c_R D m_J2_get [va_rf v5, .int v7] h X (fun r2 h1 => (q_cast D h1 r2 "java/lang/Integer" ∧ (recv D h1 r2 RJ18 ∧ c_I D m_J18_intValue [va_rf r2] h1 X (fun x4 h3 => (recv D h3 v5 RJ2 ∧ c_R D m_J2_get [va_rf v5, .int (s0 - 1)] h3 X (fun r6 h5 => (q_cast D h5 r6 "java/lang/Integer" ∧ (recv D h5 r6 RJ18 ∧ c_I D m_J18_intValue [va_rf r6] h5 X (fun x8 h7 => Q (some (.int ((1000 * x4) + x8))) h7))))))))))))) : L_X1_index_173 D Q X v5 v6 v7 s0 h := by
  show WA D m_X1_index Q X 173 [(5, va_rf v5), (6, .int v6), (7, .int v7)] [.int s0] h
  refine ws_istore (lv' := [(8, .int s0), (5, va_rf v5), (6, .int v6), (7, .int v7)]) dX1_index_173 (Nat.le_of_ble_eq_true rfl) (q_cr (q_ci (q_ci q_cn))) rfl ?_
  refine wa_iload (x := v6) dX1_index_175 2 rfl ?_
  refine wa_if_ne (tgt := 218) dX1_index_177 rfl (fun z => ?_) (fun z => ?_)
  · have F := F.1 z
    refine ws_iinc (j := 2) (v := (v6 + (-1))) (lv' := [(6, .int (v6 + (-1))), (8, .int s0), (5, va_rf v5), (7, .int v7)]) dX1_index_218 rfl rfl (Nat.le_of_ble_eq_true rfl) (q_ci (q_cr (q_ci (q_ci q_cn)))) rfl ?_
    refine wa_iload (x := s0) dX1_index_221 1 rfl ?_
    refine ws_istore (lv' := [(7, .int s0), (6, .int (v6 + (-1))), (8, .int s0), (5, va_rf v5)]) dX1_index_223 (Nat.le_of_ble_eq_true rfl) (q_ci (q_ci (q_cr (q_ci q_cn)))) rfl ?_
    refine wa_goto (tgt := 82) dX1_index_225 rfl ?_
    exact wa_sub [3, 1, 0] rfl F
  · have F := F.2 z
    refine wa_sipush (v := 1000) dX1_index_180 rfl ?_
    refine wa_aload (o := v5) dX1_index_183 1 rfl ?_
    refine wa_iload (x := v7) dX1_index_185 3 rfl ?_
    refine wa_callF (M' := m_J2_get) (C := RJ2) (x := y_Lget) (ci := 6) (o := v5) (As := [.int v7]) (st := [.int 1000]) dX1_index_187 rfl rfl fw_J2_get ⟨Nat.le_of_ble_eq_true rfl, Nat.le_of_ble_eq_true rfl⟩ nf_y_Lget q1055 q776 q778 q57 q780 rfl rfl (q_cs_le (q_csi q_cs0) (Nat.le_of_ble_eq_true rfl)) rfl F.1 F.2 (wk_R fun r2 h1 F => ?_)
    refine wa_cast (C := "java/lang/Integer") dX1_index_192 q1124 F.1 ?_
    have F := F.2
    refine wa_callV (M' := m_J18_intValue) (C := RJ18) (o := r2) (As := []) (st := [.int 1000]) dX1_index_195 ⟨Nat.le_of_ble_eq_true rfl, Nat.le_of_ble_eq_true rfl, nk_J18_intValue⟩ q1125 q893 q894 q76 q895 rfl rfl (q_cs_le (q_csi q_cs0) (Nat.le_of_ble_eq_true rfl)) rfl F.1 F.2 (wk_I fun x4 h3 F => ?_)
    refine wa_imul dX1_index_198 ?_
    refine wa_aload (o := v5) dX1_index_199 1 rfl ?_
    refine wa_iload (x := s0) dX1_index_201 0 rfl ?_
    refine wa_iconst (v := 1) dX1_index_203 rfl ?_
    refine wa_isub dX1_index_204 ?_
    refine wa_callF (M' := m_J2_get) (C := RJ2) (x := y_Lget) (ci := 6) (o := v5) (As := [.int (s0 - 1)]) (st := [.int (1000 * x4)]) dX1_index_205 rfl rfl fw_J2_get ⟨Nat.le_of_ble_eq_true rfl, Nat.le_of_ble_eq_true rfl⟩ nf_y_Lget q1055 q776 q778 q57 q780 rfl rfl (q_cs_le (q_csi q_cs0) (Nat.le_of_ble_eq_true rfl)) rfl F.1 F.2 (wk_R fun r6 h5 F => ?_)
    refine wa_cast (C := "java/lang/Integer") dX1_index_210 q1124 F.1 ?_
    have F := F.2
    refine wa_callV (M' := m_J18_intValue) (C := RJ18) (o := r6) (As := []) (st := [.int (1000 * x4)]) dX1_index_213 ⟨Nat.le_of_ble_eq_true rfl, Nat.le_of_ble_eq_true rfl, nk_J18_intValue⟩ q1125 q893 q894 q76 q895 rfl rfl (q_cs_le (q_csi q_cs0) (Nat.le_of_ble_eq_true rfl)) rfl F.1 F.2 (wk_I fun x8 h7 F => ?_)
    refine wa_iadd dX1_index_216 ?_
    exact wa_iret rfl dX1_index_217 F
def L_X1_plate_42 (D : qD) (Q : Option Value → qH → Prop) (X : String → qH → Prop) (t : Nat) (v2 : Int32) (v3 : Int32) (v4 : Int32) (v5 : Option Nat) (v6 : Int32) (v7 : Int32) (h : qH) : Prop := WA D m_X1_plate Q X 42 [(0, va_rf (some t)), (2, .int v2), (3, .int v3), (4, .int v4), (5, va_rf v5), (6, .int v6), (7, .int v7)] [] h
def L_X1_plate_190 (D : qD) (Q : Option Value → qH → Prop) (X : String → qH → Prop) (t : Nat) (v2 : Int32) (v3 : Int32) (v4 : Int32) (v5 : Option Nat) (v6 : Int32) (v7 : Int32) (h : qH) : Prop := WA D m_X1_plate Q X 190 [(0, va_rf (some t)), (2, .int v2), (3, .int v3), (4, .int v4), (5, va_rf v5), (6, .int v6), (7, .int v7)] [] h
def L_X1_plate_122 (D : qD) (Q : Option Value → qH → Prop) (X : String → qH → Prop) (t : Nat) (v2 : Int32) (v3 : Int32) (v4 : Int32) (v5 : Option Nat) (v6 : Int32) (v7 : Int32) (v9 : Option Nat) (h : qH) : Prop := WA D m_X1_plate Q X 122 [(0, va_rf (some t)), (2, .int v2), (3, .int v3), (4, .int v4), (5, va_rf v5), (6, .int v6), (7, .int v7), (9, va_rf v9)] [] h
def L_X1_plate_184 (D : qD) (Q : Option Value → qH → Prop) (X : String → qH → Prop) (t : Nat) (v2 : Int32) (v3 : Int32) (v4 : Int32) (v5 : Option Nat) (v7 : Int32) (v9 : Option Nat) (s0 : Int32) (s1 : Int32) (h : qH) : Prop := WA D m_X1_plate Q X 184 [(0, va_rf (some t)), (2, .int v2), (3, .int v3), (4, .int v4), (5, va_rf v5), (7, .int v7), (9, va_rf v9)] [.int s0, .int s1] h
theorem f_X1_plate {D : qD} {Q : Option Value → qH → Prop} {X : String → qH → Prop} (t : Nat) (p0 : Int32) (p1 : Int32) (p2 : Int32) (p3 : Int32) (h : qH) (F : (recv D h (some t) RX1 ∧ c_R D m_X1_layout [va_rf (some t), .int p0] h X (fun r2 h1 => c_I D m_X1_place [.int p1, .int 250, va_rf (some (d_s D 121))] h1 X (fun x4 h3 => c_I D m_X1_place [.int p2, .int 2, va_rf (some (d_s D 122))] h3 X (fun x6 h5 => c_I D m_X1_place [.int p3, .int 4, va_rf (some (d_s D 123))] h5 X (fun x8 h7 => L_X1_plate_42 D Q X t p1 p2 p3 r2 0 0 h7)))))) : MW D m_X1_plate [va_rf (some t), .int p0, .int p1, .int p2, .int p3] h Q X := by
  refine mw_of pl_X1_plate rfl _ (Nat.le_of_ble_eq_true rfl) rfl ?_
  refine (show WA D m_X1_plate Q X 0 [(0, va_rf (some t)), (1, .int p0), (2, .int p1), (3, .int p2), (4, .int p3)] [] h from ?_)
  refine wa_aload_n (o := (some t)) dX1_plate_0 rfl 0 rfl ?_
  refine wa_iload_n (x := p0) dX1_plate_1 rfl 1 rfl ?_
  refine wa_callV (M' := m_X1_layout) (C := RX1) (o := (some t)) (As := [.int p0]) (st := []) dX1_plate_2 ⟨Nat.le_of_ble_eq_true rfl, Nat.le_of_ble_eq_true rfl, nk_X1_layout⟩ q755 q757 qs7 q54 q758 rfl rfl (Nat.zero_le 8) rfl F.1 F.2 (wk_R fun r2 h1 F => ?_)
  refine ws_astore (lv' := [(5, va_rf r2), (0, va_rf (some t)), (1, .int p0), (2, .int p1), (3, .int p2), (4, .int p3)]) dX1_plate_5 (Nat.le_of_ble_eq_true rfl) (q_cr (q_ci (q_ci (q_ci (q_ci q_cn))))) rfl ?_
  refine wa_iload_n (x := p1) dX1_plate_7 rfl 3 rfl ?_
  refine wa_sipush (v := 250) dX1_plate_8 rfl ?_
  refine wa_ldcS (i := 21) dX1_plate_11 rfl ?_
  refine wa_callS (M' := m_X1_place) (As := [.int p1, .int 250, va_rf (some (d_s D 121))]) (st := []) dX1_plate_13 ⟨Nat.le_of_ble_eq_true rfl, Nat.le_of_ble_eq_true rfl, nk_X1_place⟩ q288 q289 q54 q290 rfl rfl (Nat.zero_le 8) rfl F (wk_I fun x4 h3 F => ?_)
  refine wa_pop dX1_plate_16 rfl ?_
  refine wa_iload_n (x := p2) dX1_plate_17 rfl 4 rfl ?_
  refine wa_iconst (v := 2) dX1_plate_18 rfl ?_
  refine wa_ldcSW (i := 22) dX1_plate_19 rfl ?_
  refine wa_callS (M' := m_X1_place) (As := [.int p2, .int 2, va_rf (some (d_s D 122))]) (st := []) dX1_plate_22 ⟨Nat.le_of_ble_eq_true rfl, Nat.le_of_ble_eq_true rfl, nk_X1_place⟩ q288 q289 q54 q290 rfl rfl (Nat.zero_le 8) rfl F (wk_I fun x6 h5 F => ?_)
  refine wa_pop dX1_plate_25 rfl ?_
  refine wa_iload (x := p3) dX1_plate_26 5 rfl ?_
  refine wa_iconst (v := 4) dX1_plate_28 rfl ?_
  refine wa_ldcSW (i := 23) dX1_plate_29 rfl ?_
  refine wa_callS (M' := m_X1_place) (As := [.int p3, .int 4, va_rf (some (d_s D 123))]) (st := []) dX1_plate_32 ⟨Nat.le_of_ble_eq_true rfl, Nat.le_of_ble_eq_true rfl, nk_X1_place⟩ q288 q289 q54 q290 rfl rfl (Nat.zero_le 8) rfl F (wk_I fun x8 h7 F => ?_)
  refine wa_pop dX1_plate_35 rfl ?_
  refine wa_iconst (v := 0) dX1_plate_36 rfl ?_
  refine ws_istore (lv' := [(6, .int 0), (5, va_rf r2), (0, va_rf (some t)), (1, .int p0), (2, .int p1), (3, .int p2), (4, .int p3)]) dX1_plate_37 (Nat.le_of_ble_eq_true rfl) (q_cr (q_cr (q_ci (q_ci (q_ci (q_ci q_cn)))))) rfl ?_
  refine wa_iconst (v := 0) dX1_plate_39 rfl ?_
  refine ws_istore (lv' := [(7, .int 0), (6, .int 0), (5, va_rf r2), (0, va_rf (some t)), (1, .int p0), (2, .int p1), (3, .int p2), (4, .int p3)]) dX1_plate_40 (Nat.le_of_ble_eq_true rfl) (q_ci (q_cr (q_cr (q_ci (q_ci (q_ci (q_ci q_cn))))))) rfl ?_
  exact wa_sub [3, 5, 6, 7, 2, 1, 0] rfl F
theorem f_X1_plate_42 {D : qD} {Q : Option Value → qH → Prop} {X : String → qH → Prop} (t : Nat) (v2 : Int32) (v3 : Int32) (v4 : Int32) (v5 : Option Nat) (v6 : Int32) (v7 : Int32) (h : qH) (F : g_R D h v5 4 1 (fun r1 => (recv D h r1 RJ2 ∧ c_I D m_J2_size [va_rf r1] h X (fun x3 h2 => ((x3 ≤ v7 → Q (some (.int v6)) h2) ∧ (¬ x3 ≤ v7 → g_I D h2 v5 4 8 (fun x4 => ((x4 = (-1) → Q (some (.int v6)) h2) ∧ (¬ x4 = (-1) → (recv D h2 v5 RX5 ∧ c_I D m_X5_page [va_rf v5, .int v7] h2 X (fun x6 h5 => (recv D h5 (some t) RX1 ∧ c_I D m_X1_sheetOf [va_rf (some t), .int x6, .int 0] h5 X (fun x8 h7 => ((¬ x8 = v2 → L_X1_plate_190 D Q X t v2 v3 v4 v5 v6 v7 h7) ∧ (x8 = v2 → (recv D h7 (some t) RX1 ∧ c_I D m_X1_sheetOf [va_rf (some t), .int x6, .int 1] h7 X (fun x10 h9 => ((¬ x10 = v3 → L_X1_plate_190 D Q X t v2 v3 v4 v5 v6 v7 h9) ∧ (x10 = v3 → g_R D h9 v5 4 1 (fun r11 => (recv D h9 r11 RJ2 ∧ c_R D m_J2_get [va_rf r11, .int v7] h9 X (fun r13 h12 => (q_cast D h12 r13 "Quirefold$Line" ∧ g_R D h12 r13 5 1 (fun r14 => (recv D h12 r14 RJ2 ∧ c_R D m_J2_iterator [va_rf r14] h12 X (fun r16 h15 => L_X1_plate_122 D Q X t v2 v3 v4 v5 v6 v7 r16 h15)))))))))))))))))))))))))) : L_X1_plate_42 D Q X t v2 v3 v4 v5 v6 v7 h := by
  show WA D m_X1_plate Q X 42 [(0, va_rf (some t)), (2, .int v2), (3, .int v3), (4, .int v4), (5, va_rf v5), (6, .int v6), (7, .int v7)] [] h
  refine wa_iload (x := v7) dX1_plate_42 6 rfl ?_
  refine wa_aload (o := v5) dX1_plate_44 4 rfl ?_
  refine wa_getNR (C := RX5) (T := TX5) (N := 10) (ci := 4) (k := 1) dX1_plate_46 rfl (Nat.le_of_ble_eq_true rfl) in_X5 q924 q_same_own (g_R_mono F fun r1 F => ?_)
  refine wa_callF (M' := m_J2_size) (C := RJ2) (x := y_Lsize) (ci := 6) (o := r1) (As := []) (st := [.int v7]) dX1_plate_49 rfl rfl fw_J2_size ⟨Nat.le_of_ble_eq_true rfl, Nat.le_of_ble_eq_true rfl⟩ nf_y_Lsize q192 q196 q198 q57 q200 rfl rfl (q_cs_le (q_csi q_cs0) (Nat.le_of_ble_eq_true rfl)) rfl F.1 F.2 (wk_I fun x3 h2 F => ?_)
  refine wa_icmp_ge (tgt := 196) dX1_plate_54 rfl (fun z => ?_) (fun z => ?_)
  · have F := F.1 z
    refine wa_iload (x := v6) dX1_plate_196 5 rfl ?_
    exact wa_iret rfl dX1_plate_198 F
  · have F := F.2 z
    refine wa_aload (o := v5) dX1_plate_57 4 rfl ?_
    refine wa_getNI (C := RX5) (T := TX5) (N := 10) (ci := 4) (k := 8) dX1_plate_59 rfl (Nat.le_of_ble_eq_true rfl) in_X5 q934 q_same_own (g_I_mono F fun x4 F => ?_)
    refine wa_iconst (v := -1) dX1_plate_62 rfl ?_
    refine wa_icmp_eq (tgt := 196) dX1_plate_63 rfl (fun z => ?_) (fun z => ?_)
    · have F := F.1 z
      refine wa_iload (x := v6) dX1_plate_196 5 rfl ?_
      exact wa_iret rfl dX1_plate_198 F
    · have F := F.2 z
      refine wa_aload (o := v5) dX1_plate_66 4 rfl ?_
      refine wa_iload (x := v7) dX1_plate_68 6 rfl ?_
      refine wa_callV (M' := m_X5_page) (C := RX5) (o := v5) (As := [.int v7]) (st := []) dX1_plate_70 ⟨Nat.le_of_ble_eq_true rfl, Nat.le_of_ble_eq_true rfl, nk_X5_page⟩ q1069 q1070 q1071 q81 q1072 rfl rfl (Nat.zero_le 8) rfl F.1 F.2 (wk_I fun x6 h5 F => ?_)
      refine ws_istore (lv' := [(8, .int x6), (0, va_rf (some t)), (2, .int v2), (3, .int v3), (4, .int v4), (5, va_rf v5), (6, .int v6), (7, .int v7)]) dX1_plate_73 (Nat.le_of_ble_eq_true rfl) (q_cr (q_ci (q_ci (q_ci (q_cr (q_ci (q_ci q_cn))))))) rfl ?_
      refine wa_aload_n (o := (some t)) dX1_plate_75 rfl 1 rfl ?_
      refine wa_iload (x := x6) dX1_plate_76 0 rfl ?_
      refine wa_iconst (v := 0) dX1_plate_78 rfl ?_
      refine wa_callV (M' := m_X1_sheetOf) (C := RX1) (o := (some t)) (As := [.int x6, .int 0]) (st := []) dX1_plate_79 ⟨Nat.le_of_ble_eq_true rfl, Nat.le_of_ble_eq_true rfl, nk_X1_sheetOf⟩ q1136 q1138 qs21 q54 q1139 rfl rfl (Nat.zero_le 8) rfl F.1 F.2 (wk_I fun x8 h7 F => ?_)
      refine wa_iload_n (x := v2) dX1_plate_82 rfl 2 rfl ?_
      refine wa_icmp_ne (tgt := 190) dX1_plate_83 rfl (fun z => ?_) (fun z => ?_)
      · have F := F.1 z
        exact wa_sub [1, 2, 3, 4, 5, 6, 7] rfl F
      · have F := F.2 z
        refine wa_aload_n (o := (some t)) dX1_plate_86 rfl 1 rfl ?_
        refine wa_iload (x := x6) dX1_plate_87 0 rfl ?_
        refine wa_iconst (v := 1) dX1_plate_89 rfl ?_
        refine wa_callV (M' := m_X1_sheetOf) (C := RX1) (o := (some t)) (As := [.int x6, .int 1]) (st := []) dX1_plate_90 ⟨Nat.le_of_ble_eq_true rfl, Nat.le_of_ble_eq_true rfl, nk_X1_sheetOf⟩ q1136 q1138 qs21 q54 q1139 rfl rfl (Nat.zero_le 8) rfl F.1 F.2 (wk_I fun x10 h9 F => ?_)
        refine wa_iload_n (x := v3) dX1_plate_93 rfl 3 rfl ?_
        refine wa_icmp_ne (tgt := 190) dX1_plate_94 rfl (fun z => ?_) (fun z => ?_)
        · have F := F.1 z
          exact wa_sub [1, 2, 3, 4, 5, 6, 7] rfl F
        · have F := F.2 z
          refine wa_aload (o := v5) dX1_plate_97 5 rfl ?_
          refine wa_getNR (C := RX5) (T := TX5) (N := 10) (ci := 4) (k := 1) dX1_plate_99 rfl (Nat.le_of_ble_eq_true rfl) in_X5 q924 q_same_own (g_R_mono F fun r11 F => ?_)
          refine wa_iload (x := v7) dX1_plate_102 7 rfl ?_
          refine wa_callF (M' := m_J2_get) (C := RJ2) (x := y_Lget) (ci := 6) (o := r11) (As := [.int v7]) (st := []) dX1_plate_104 rfl rfl fw_J2_get ⟨Nat.le_of_ble_eq_true rfl, Nat.le_of_ble_eq_true rfl⟩ nf_y_Lget q1055 q776 q778 q57 q780 rfl rfl (Nat.zero_le 8) rfl F.1 F.2 (wk_R fun r13 h12 F => ?_)
          refine wa_cast (C := "Quirefold$Line") dX1_plate_109 q1056 F.1 ?_
          have F := F.2
          refine wa_getNR (C := RX6) (T := TX6) (N := 7) (ci := 5) (k := 1) dX1_plate_112 rfl (Nat.le_of_ble_eq_true rfl) in_X6 q812 q_same_own (g_R_mono F fun r14 F => ?_)
          refine wa_callF (M' := m_J2_iterator) (C := RJ2) (x := y_Literator) (ci := 6) (o := r14) (As := []) (st := []) dX1_plate_115 rfl rfl fw_J2_iterator ⟨Nat.le_of_ble_eq_true rfl, Nat.le_of_ble_eq_true rfl⟩ nf_y_Literator q1152 q974 q976 q57 q978 rfl rfl (Nat.zero_le 8) rfl F.1 F.2 (wk_R fun r16 h15 F => ?_)
          refine ws_astore (lv' := [(9, va_rf r16), (8, .int x6), (0, va_rf (some t)), (2, .int v2), (3, .int v3), (4, .int v4), (5, va_rf v5), (6, .int v6), (7, .int v7)]) dX1_plate_120 (Nat.le_of_ble_eq_true rfl) (q_ci (q_cr (q_ci (q_ci (q_ci (q_cr (q_ci (q_ci q_cn)))))))) rfl ?_
          exact wa_sub [2, 3, 4, 5, 6, 7, 8, 0] rfl F
theorem f_X1_plate_190 {D : qD} {Q : Option Value → qH → Prop} {X : String → qH → Prop} (t : Nat) (v2 : Int32) (v3 : Int32) (v4 : Int32) (v5 : Option Nat) (v6 : Int32) (v7 : Int32) (h : qH) (F : L_X1_plate_42 D Q X t v2 v3 v4 v5 v6 (v7 + 1) h) : L_X1_plate_190 D Q X t v2 v3 v4 v5 v6 v7 h := by
  show WA D m_X1_plate Q X 190 [(0, va_rf (some t)), (2, .int v2), (3, .int v3), (4, .int v4), (5, va_rf v5), (6, .int v6), (7, .int v7)] [] h
  refine ws_iinc (j := 6) (v := (v7 + 1)) (lv' := [(7, .int (v7 + 1)), (0, va_rf (some t)), (2, .int v2), (3, .int v3), (4, .int v4), (5, va_rf v5), (6, .int v6)]) dX1_plate_190 rfl rfl (Nat.le_of_ble_eq_true rfl) (q_cr (q_ci (q_ci (q_ci (q_cr (q_ci (q_ci q_cn))))))) rfl ?_
  refine wa_goto (tgt := 42) dX1_plate_193 rfl ?_
  exact wa_sub [1, 2, 3, 4, 5, 6, 0] rfl F
theorem f_X1_plate_122 {D : qD} {Q : Option Value → qH → Prop} {X : String → qH → Prop} (t : Nat) (v2 : Int32) (v3 : Int32) (v4 : Int32) (v5 : Option Nat) (v6 : Int32) (v7 : Int32) (v9 : Option Nat) (h : qH) (F : (recv D h v9 RJ22 ∧ c_I D m_J22_hasNext [va_rf v9] h X (fun x2 h1 => ((x2 = 0 → L_X1_plate_190 D Q X t v2 v3 v4 v5 v6 v7 h1) ∧ (¬ x2 = 0 → (recv D h1 v9 RJ22 ∧ c_R D m_J22_next [va_rf v9] h1 X (fun r4 h3 => (q_cast D h3 r4 "java/lang/Integer" ∧ (recv D h3 r4 RJ18 ∧ c_I D m_J18_intValue [va_rf r4] h3 X (fun x6 h5 => g_R D h5 (some t) 0 1 (fun r7 => g_R D h5 (some t) 0 0 (fun r8 => (recv D h5 r8 RJ2 ∧ c_R D m_J2_get [va_rf r8, .int x6] h5 X (fun r10 h9 => (q_cast D h9 r10 "Quirefold$Token" ∧ g_I D h9 r10 3 2 (fun x11 => a_R D h9 r7 5 x11 (fun r12 => (recv D h9 r12 RX2 ∧ c_I D (m_X2_colour 8) [va_rf r12] h9 X (fun x14 h13 => ((¬ x14 = v4 → L_X1_plate_184 D Q X t v2 v3 v4 v5 v7 v9 0 v6 h13) ∧ (x14 = v4 → L_X1_plate_184 D Q X t v2 v3 v4 v5 v7 v9 1 v6 h13))))))))))))))))))))) : L_X1_plate_122 D Q X t v2 v3 v4 v5 v6 v7 v9 h := by
  show WA D m_X1_plate Q X 122 [(0, va_rf (some t)), (2, .int v2), (3, .int v3), (4, .int v4), (5, va_rf v5), (6, .int v6), (7, .int v7), (9, va_rf v9)] [] h
  refine wa_aload (o := v9) dX1_plate_122 7 rfl ?_
  refine wa_callF (M' := m_J22_hasNext) (C := RJ22) (x := y_IhasNext) (ci := 7) (o := v9) (As := []) (st := []) dX1_plate_124 rfl rfl fw_J22_hasNext ⟨Nat.le_of_ble_eq_true rfl, Nat.le_of_ble_eq_true rfl⟩ nf_y_IhasNext q1154 q1003 q1005 q84 q1007 rfl rfl (Nat.zero_le 8) rfl F.1 F.2 (wk_I fun x2 h1 F => ?_)
  refine wa_if_eq (tgt := 190) dX1_plate_129 rfl (fun z => ?_) (fun z => ?_)
  · have F := F.1 z
    exact wa_sub [0, 1, 2, 3, 4, 5, 6] rfl F
  · have F := F.2 z
    refine wa_aload (o := v9) dX1_plate_132 7 rfl ?_
    refine wa_callF (M' := m_J22_next) (C := RJ22) (x := y_Inext) (ci := 7) (o := v9) (As := []) (st := []) dX1_plate_134 rfl rfl fw_J22_next ⟨Nat.le_of_ble_eq_true rfl, Nat.le_of_ble_eq_true rfl⟩ nf_y_Inext q1156 q1012 q1014 q84 q1016 rfl rfl (Nat.zero_le 8) rfl F.1 F.2 (wk_R fun r4 h3 F => ?_)
    refine wa_cast (C := "java/lang/Integer") dX1_plate_139 q1124 F.1 ?_
    have F := F.2
    refine wa_callV (M' := m_J18_intValue) (C := RJ18) (o := r4) (As := []) (st := []) dX1_plate_142 ⟨Nat.le_of_ble_eq_true rfl, Nat.le_of_ble_eq_true rfl, nk_J18_intValue⟩ q1125 q893 q894 q76 q895 rfl rfl (Nat.zero_le 8) rfl F.1 F.2 (wk_I fun x6 h5 F => ?_)
    refine ws_istore (lv' := [(10, .int x6), (0, va_rf (some t)), (2, .int v2), (3, .int v3), (4, .int v4), (5, va_rf v5), (6, .int v6), (7, .int v7), (9, va_rf v9)]) dX1_plate_145 (Nat.le_of_ble_eq_true rfl) (q_cr (q_ci (q_ci (q_ci (q_cr (q_ci (q_ci (q_cr q_cn)))))))) rfl ?_
    refine wa_iload (x := v6) dX1_plate_147 6 rfl ?_
    refine wa_aload_n (o := (some t)) dX1_plate_149 rfl 1 rfl ?_
    refine wa_getR (C := RX1) (T := TX1) (N := 11) (ci := 0) (k := 1) dX1_plate_150 rfl (Nat.le_of_ble_eq_true rfl) in_X1 q149 q_same_own (g_R_mono F fun r7 F => ?_)
    refine wa_aload_n (o := (some t)) dX1_plate_153 rfl 1 rfl ?_
    refine wa_getR (C := RX1) (T := TX1) (N := 11) (ci := 0) (k := 0) dX1_plate_154 rfl (Nat.le_of_ble_eq_true rfl) in_X1 q147 q_same_own (g_R_mono F fun r8 F => ?_)
    refine wa_iload (x := x6) dX1_plate_157 0 rfl ?_
    refine wa_callF (M' := m_J2_get) (C := RJ2) (x := y_Lget) (ci := 6) (o := r8) (As := [.int x6]) (st := [va_rf r7, .int v6]) dX1_plate_159 rfl rfl fw_J2_get ⟨Nat.le_of_ble_eq_true rfl, Nat.le_of_ble_eq_true rfl⟩ nf_y_Lget q1055 q776 q778 q57 q780 rfl rfl (q_cs_le (q_csr (q_csi q_cs0)) (Nat.le_of_ble_eq_true rfl)) rfl F.1 F.2 (wk_R fun r10 h9 F => ?_)
    refine wa_cast (C := "Quirefold$Token") dX1_plate_164 q586 F.1 ?_
    have F := F.2
    refine wa_getNI (C := RX4) (T := TX4) (N := 3) (ci := 3) (k := 2) dX1_plate_167 rfl (Nat.le_of_ble_eq_true rfl) in_X4 q600 q_same_own (g_I_mono F fun x11 F => ?_)
    refine wa_aald (t := 5) rfl rfl dX1_plate_170 (a_R_mono F fun r12 F => ?_)
    refine wa_callV (M' := (m_X2_colour 8)) (C := RX2) (o := r12) (As := []) (st := [.int v6]) dX1_plate_171 ⟨Nat.le_of_ble_eq_true rfl, Nat.le_of_ble_eq_true rfl, nk_X2_colour⟩ q1157 q1026 q1027 q58 q1028 rfl rfl (q_cs_le (q_csi q_cs0) (Nat.le_of_ble_eq_true rfl)) rfl F.1 F.2 (wk_I fun x14 h13 F => ?_)
    refine wa_iload (x := v4) dX1_plate_174 4 rfl ?_
    refine wa_icmp_ne (tgt := 183) dX1_plate_176 rfl (fun z => ?_) (fun z => ?_)
    · have F := F.1 z
      refine wa_iconst (v := 0) dX1_plate_183 rfl ?_
      exact wa_sub [1, 2, 3, 4, 5, 7, 8] rfl F
    · have F := F.2 z
      refine wa_iconst (v := 1) dX1_plate_179 rfl ?_
      refine wa_goto (tgt := 184) dX1_plate_180 rfl ?_
      exact wa_sub [1, 2, 3, 4, 5, 7, 8] rfl F
theorem f_X1_plate_184 {D : qD} {Q : Option Value → qH → Prop} {X : String → qH → Prop} (t : Nat) (v2 : Int32) (v3 : Int32) (v4 : Int32) (v5 : Option Nat) (v7 : Int32) (v9 : Option Nat) (s0 : Int32) (s1 : Int32) (h : qH) (F : L_X1_plate_122 D Q X t v2 v3 v4 v5 (s1 + s0) v7 v9 h) : L_X1_plate_184 D Q X t v2 v3 v4 v5 v7 v9 s0 s1 h := by
  show WA D m_X1_plate Q X 184 [(0, va_rf (some t)), (2, .int v2), (3, .int v3), (4, .int v4), (5, va_rf v5), (7, .int v7), (9, va_rf v9)] [.int s0, .int s1] h
  refine wa_iadd dX1_plate_184 ?_
  refine ws_istore (lv' := [(6, .int (s1 + s0)), (0, va_rf (some t)), (2, .int v2), (3, .int v3), (4, .int v4), (5, va_rf v5), (7, .int v7), (9, va_rf v9)]) dX1_plate_185 (Nat.le_of_ble_eq_true rfl) (q_cr (q_ci (q_ci (q_ci (q_cr (q_ci (q_cr q_cn))))))) rfl ?_
  refine wa_goto (tgt := 122) dX1_plate_187 rfl ?_
  exact wa_sub [1, 2, 3, 4, 5, 0, 6, 7] rfl F
def L_X1_faults_162 (D : qD) (Q : Option Value → qH → Prop) (X : String → qH → Prop) (t : Nat) (v2 : Int32) (v3 : Option Nat) (v4 : Int32) (v5 : Option Nat) (h : qH) : Prop := WA D m_X1_faults Q X 162 [(0, va_rf (some t)), (2, .int v2), (3, va_rf v3), (4, .int v4), (5, va_rf v5)] [] h
def L_X1_faults_100 (D : qD) (Q : Option Value → qH → Prop) (X : String → qH → Prop) (t : Nat) (v3 : Option Nat) (v4 : Int32) (v5 : Int32) (h : qH) : Prop := WA D m_X1_faults Q X 100 [(0, va_rf (some t)), (3, va_rf v3), (4, .int v4), (5, .int v5)] [] h
def L_X1_faults_26 (D : qD) (Q : Option Value → qH → Prop) (X : String → qH → Prop) (t : Nat) (v3 : Option Nat) (v4 : Int32) (v5 : Int32) (h : qH) : Prop := WA D m_X1_faults Q X 26 [(0, va_rf (some t)), (3, va_rf v3), (4, .int v4), (5, .int v5)] [] h
def L_X1_faults_216 (D : qD) (Q : Option Value → qH → Prop) (X : String → qH → Prop) (t : Nat) (v2 : Int32) (v3 : Option Nat) (v5 : Option Nat) (v6 : Option Nat) (s0 : Int32) (h : qH) : Prop := WA D m_X1_faults Q X 216 [(0, va_rf (some t)), (2, .int v2), (3, va_rf v3), (5, va_rf v5), (6, va_rf v6)] [.int s0] h
def L_X1_faults_217 (D : qD) (Q : Option Value → qH → Prop) (X : String → qH → Prop) (t : Nat) (v2 : Int32) (v3 : Option Nat) (v5 : Option Nat) (v6 : Option Nat) (s0 : Int32) (s1 : Int32) (h : qH) : Prop := WA D m_X1_faults Q X 217 [(0, va_rf (some t)), (2, .int v2), (3, va_rf v3), (5, va_rf v5), (6, va_rf v6)] [.int s0, .int s1] h
def L_X1_faults_138 (D : qD) (Q : Option Value → qH → Prop) (X : String → qH → Prop) (t : Nat) (v3 : Option Nat) (v5 : Int32) (s0 : Int32) (h : qH) : Prop := WA D m_X1_faults Q X 138 [(0, va_rf (some t)), (3, va_rf v3), (5, .int v5)] [.int s0] h
def L_X1_faults_139 (D : qD) (Q : Option Value → qH → Prop) (X : String → qH → Prop) (t : Nat) (v3 : Option Nat) (v5 : Int32) (s0 : Int32) (s1 : Int32) (h : qH) : Prop := WA D m_X1_faults Q X 139 [(0, va_rf (some t)), (3, va_rf v3), (5, .int v5)] [.int s0, .int s1] h
def L_X1_faults_61 (D : qD) (Q : Option Value → qH → Prop) (X : String → qH → Prop) (t : Nat) (v3 : Option Nat) (v5 : Int32) (s0 : Int32) (s1 : Int32) (h : qH) : Prop := WA D m_X1_faults Q X 61 [(0, va_rf (some t)), (3, va_rf v3), (5, .int v5)] [.int s0, .int s1] h
def L_X1_faults_252 (D : qD) (Q : Option Value → qH → Prop) (X : String → qH → Prop) (t : Nat) (v2 : Int32) (v3 : Option Nat) (v5 : Option Nat) (s0 : Int32) (h : qH) : Prop := WA D m_X1_faults Q X 252 [(0, va_rf (some t)), (2, .int v2), (3, va_rf v3), (5, va_rf v5)] [.int s0] h
def L_X1_faults_253 (D : qD) (Q : Option Value → qH → Prop) (X : String → qH → Prop) (t : Nat) (v2 : Int32) (v3 : Option Nat) (v5 : Option Nat) (s0 : Int32) (s1 : Int32) (h : qH) : Prop := WA D m_X1_faults Q X 253 [(0, va_rf (some t)), (2, .int v2), (3, va_rf v3), (5, va_rf v5)] [.int s0, .int s1] h
theorem f_X1_faults {D : qD} {Q : Option Value → qH → Prop} {X : String → qH → Prop} (t : Nat) (p0 : Int32) (p1 : Int32) (h : qH) (F : (recv D h (some t) RX1 ∧ c_R D m_X1_layout [va_rf (some t), .int p0] h X (fun r2 h1 => c_I D m_X1_place [.int p1, .int 5, va_rf (some (d_s D 124))] h1 X (fun x4 h3 => ((¬ p1 = 1 → ((¬ p1 = 3 → ((¬ p1 = 4 → g_R D h3 (some t) 0 0 (fun r5 => (recv D h3 r5 RJ2 ∧ c_R D m_J2_iterator [va_rf r5] h3 X (fun r7 h6 => L_X1_faults_162 D Q X t p1 r2 0 r7 h6)))) ∧ (p1 = 4 → L_X1_faults_100 D Q X t r2 0 0 h3))) ∧ (p1 = 3 → g_I D h3 r2 4 8 (fun x8 => ((¬ x8 = (-1) → Q (some (.int 0)) h3) ∧ (x8 = (-1) → Q (some (.int 1)) h3)))))) ∧ (p1 = 1 → L_X1_faults_26 D Q X t r2 0 0 h3)))))) : MW D m_X1_faults [va_rf (some t), .int p0, .int p1] h Q X := by
  refine mw_of pl_X1_faults rfl _ (Nat.le_of_ble_eq_true rfl) rfl ?_
  refine (show WA D m_X1_faults Q X 0 [(0, va_rf (some t)), (1, .int p0), (2, .int p1)] [] h from ?_)
  refine wa_aload_n (o := (some t)) dX1_faults_0 rfl 0 rfl ?_
  refine wa_iload_n (x := p0) dX1_faults_1 rfl 1 rfl ?_
  refine wa_callV (M' := m_X1_layout) (C := RX1) (o := (some t)) (As := [.int p0]) (st := []) dX1_faults_2 ⟨Nat.le_of_ble_eq_true rfl, Nat.le_of_ble_eq_true rfl, nk_X1_layout⟩ q755 q757 qs7 q54 q758 rfl rfl (Nat.zero_le 8) rfl F.1 F.2 (wk_R fun r2 h1 F => ?_)
  refine ws_astore_n (lv' := [(3, va_rf r2), (0, va_rf (some t)), (1, .int p0), (2, .int p1)]) dX1_faults_5 rfl (Nat.le_of_ble_eq_true rfl) (q_cr (q_ci (q_ci q_cn))) rfl ?_
  refine wa_iload_n (x := p1) dX1_faults_6 rfl 3 rfl ?_
  refine wa_iconst (v := 5) dX1_faults_7 rfl ?_
  refine wa_ldcSW (i := 24) dX1_faults_8 rfl ?_
  refine wa_callS (M' := m_X1_place) (As := [.int p1, .int 5, va_rf (some (d_s D 124))]) (st := []) dX1_faults_11 ⟨Nat.le_of_ble_eq_true rfl, Nat.le_of_ble_eq_true rfl, nk_X1_place⟩ q288 q289 q54 q290 rfl rfl (Nat.zero_le 8) rfl F (wk_I fun x4 h3 F => ?_)
  refine wa_pop dX1_faults_14 rfl ?_
  refine wa_iconst (v := 0) dX1_faults_15 rfl ?_
  refine ws_istore (lv' := [(4, .int 0), (3, va_rf r2), (0, va_rf (some t)), (1, .int p0), (2, .int p1)]) dX1_faults_16 (Nat.le_of_ble_eq_true rfl) (q_cr (q_cr (q_ci (q_ci q_cn)))) rfl ?_
  refine wa_iload_n (x := p1) dX1_faults_18 rfl 4 rfl ?_
  refine wa_iconst (v := 1) dX1_faults_19 rfl ?_
  refine wa_icmp_ne (tgt := 73) dX1_faults_20 rfl (fun z => ?_) (fun z => ?_)
  · have F := F.1 z
    refine wa_iload_n (x := p1) dX1_faults_73 rfl 4 rfl ?_
    refine wa_iconst (v := 3) dX1_faults_74 rfl ?_
    refine wa_icmp_ne (tgt := 92) dX1_faults_75 rfl (fun z => ?_) (fun z => ?_)
    · have F := F.1 z
      refine wa_iload_n (x := p1) dX1_faults_92 rfl 4 rfl ?_
      refine wa_iconst (v := 4) dX1_faults_93 rfl ?_
      refine wa_icmp_ne (tgt := 151) dX1_faults_94 rfl (fun z => ?_) (fun z => ?_)
      · have F := F.1 z
        refine wa_aload_n (o := (some t)) dX1_faults_151 rfl 2 rfl ?_
        refine wa_getR (C := RX1) (T := TX1) (N := 11) (ci := 0) (k := 0) dX1_faults_152 rfl (Nat.le_of_ble_eq_true rfl) in_X1 q147 q_same_own (g_R_mono F fun r5 F => ?_)
        refine wa_callF (M' := m_J2_iterator) (C := RJ2) (x := y_Literator) (ci := 6) (o := r5) (As := []) (st := []) dX1_faults_155 rfl rfl fw_J2_iterator ⟨Nat.le_of_ble_eq_true rfl, Nat.le_of_ble_eq_true rfl⟩ nf_y_Literator q1152 q974 q976 q57 q978 rfl rfl (Nat.zero_le 8) rfl F.1 F.2 (wk_R fun r7 h6 F => ?_)
        refine ws_astore (lv' := [(5, va_rf r7), (4, .int 0), (3, va_rf r2), (0, va_rf (some t)), (1, .int p0), (2, .int p1)]) dX1_faults_160 (Nat.le_of_ble_eq_true rfl) (q_ci (q_cr (q_cr (q_ci (q_ci q_cn))))) rfl ?_
        exact wa_sub [3, 5, 2, 1, 0] rfl F
      · have F := F.2 z
        refine wa_iconst (v := 0) dX1_faults_97 rfl ?_
        refine ws_istore (lv' := [(5, .int 0), (4, .int 0), (3, va_rf r2), (0, va_rf (some t)), (1, .int p0), (2, .int p1)]) dX1_faults_98 (Nat.le_of_ble_eq_true rfl) (q_ci (q_cr (q_cr (q_ci (q_ci q_cn))))) rfl ?_
        exact wa_sub [3, 2, 1, 0] rfl F
    · have F := F.2 z
      refine wa_aload_n (o := r2) dX1_faults_78 rfl 1 rfl ?_
      refine wa_getNI (C := RX5) (T := TX5) (N := 10) (ci := 4) (k := 8) dX1_faults_79 rfl (Nat.le_of_ble_eq_true rfl) in_X5 q934 q_same_own (g_I_mono F fun x8 F => ?_)
      refine wa_iconst (v := -1) dX1_faults_82 rfl ?_
      refine wa_icmp_ne (tgt := 90) dX1_faults_83 rfl (fun z => ?_) (fun z => ?_)
      · have F := F.1 z
        refine wa_iconst (v := 0) dX1_faults_90 rfl ?_
        exact wa_iret rfl dX1_faults_91 F
      · have F := F.2 z
        refine wa_iconst (v := 1) dX1_faults_86 rfl ?_
        refine wa_goto (tgt := 91) dX1_faults_87 rfl ?_
        exact wa_iret rfl dX1_faults_91 F
  · have F := F.2 z
    refine wa_iconst (v := 0) dX1_faults_23 rfl ?_
    refine ws_istore (lv' := [(5, .int 0), (4, .int 0), (3, va_rf r2), (0, va_rf (some t)), (1, .int p0), (2, .int p1)]) dX1_faults_24 (Nat.le_of_ble_eq_true rfl) (q_ci (q_cr (q_cr (q_ci (q_ci q_cn))))) rfl ?_
    exact wa_sub [3, 2, 1, 0] rfl F
theorem f_X1_faults_162 {D : qD} {Q : Option Value → qH → Prop} {X : String → qH → Prop} (t : Nat) (v2 : Int32) (v3 : Option Nat) (v4 : Int32) (v5 : Option Nat) (h : qH) (F : (recv D h v5 RJ22 ∧ c_I D m_J22_hasNext [va_rf v5] h X (fun x2 h1 => ((x2 = 0 → Q (some (.int v4)) h1) ∧ (¬ x2 = 0 → (recv D h1 v5 RJ22 ∧ c_R D m_J22_next [va_rf v5] h1 X (fun r4 h3 => (q_cast D h3 r4 "Quirefold$Token" ∧ ((¬ v2 = 0 → L_X1_faults_216 D Q X t v2 v3 v5 r4 v4 h3) ∧ (v2 = 0 → (recv D h3 v3 RX5 ∧ c_I D m_X5_isPrinted [va_rf v3, va_rf r4] h3 X (fun x6 h5 => ((x6 = 0 → L_X1_faults_216 D Q X t v2 v3 v5 r4 v4 h5) ∧ (¬ x6 = 0 → (recv D h5 v3 RX5 ∧ c_I D m_X5_widthOf [va_rf v3, va_rf r4] h5 X (fun x8 h7 => g_I D h7 (some t) 0 3 (fun x9 => ((x8 ≤ x9 → L_X1_faults_216 D Q X t v2 v3 v5 r4 v4 h7) ∧ (¬ x8 ≤ x9 → L_X1_faults_217 D Q X t v2 v3 v5 r4 1 v4 h7))))))))))))))))))) : L_X1_faults_162 D Q X t v2 v3 v4 v5 h := by
  show WA D m_X1_faults Q X 162 [(0, va_rf (some t)), (2, .int v2), (3, va_rf v3), (4, .int v4), (5, va_rf v5)] [] h
  refine wa_aload (o := v5) dX1_faults_162 4 rfl ?_
  refine wa_callF (M' := m_J22_hasNext) (C := RJ22) (x := y_IhasNext) (ci := 7) (o := v5) (As := []) (st := []) dX1_faults_164 rfl rfl fw_J22_hasNext ⟨Nat.le_of_ble_eq_true rfl, Nat.le_of_ble_eq_true rfl⟩ nf_y_IhasNext q1154 q1003 q1005 q84 q1007 rfl rfl (Nat.zero_le 8) rfl F.1 F.2 (wk_I fun x2 h1 F => ?_)
  refine wa_if_eq (tgt := 259) dX1_faults_169 rfl (fun z => ?_) (fun z => ?_)
  · have F := F.1 z
    refine wa_iload (x := v4) dX1_faults_259 3 rfl ?_
    exact wa_iret rfl dX1_faults_261 F
  · have F := F.2 z
    refine wa_aload (o := v5) dX1_faults_172 4 rfl ?_
    refine wa_callF (M' := m_J22_next) (C := RJ22) (x := y_Inext) (ci := 7) (o := v5) (As := []) (st := []) dX1_faults_174 rfl rfl fw_J22_next ⟨Nat.le_of_ble_eq_true rfl, Nat.le_of_ble_eq_true rfl⟩ nf_y_Inext q1156 q1012 q1014 q84 q1016 rfl rfl (Nat.zero_le 8) rfl F.1 F.2 (wk_R fun r4 h3 F => ?_)
    refine wa_cast (C := "Quirefold$Token") dX1_faults_179 q586 F.1 ?_
    have F := F.2
    refine ws_astore (lv' := [(6, va_rf r4), (0, va_rf (some t)), (2, .int v2), (3, va_rf v3), (4, .int v4), (5, va_rf v5)]) dX1_faults_182 (Nat.le_of_ble_eq_true rfl) (q_cr (q_ci (q_cr (q_ci (q_cr q_cn))))) rfl ?_
    refine wa_iload (x := v4) dX1_faults_184 4 rfl ?_
    refine wa_iload_n (x := v2) dX1_faults_186 rfl 2 rfl ?_
    refine wa_if_ne (tgt := 216) dX1_faults_187 rfl (fun z => ?_) (fun z => ?_)
    · have F := F.1 z
      exact wa_sub [1, 2, 3, 5, 0] rfl F
    · have F := F.2 z
      refine wa_aload_n (o := v3) dX1_faults_190 rfl 3 rfl ?_
      refine wa_aload (o := r4) dX1_faults_191 0 rfl ?_
      refine wa_callVN (M' := m_X5_isPrinted) (C := RX5) (o := v3) (As := [va_rf r4]) (st := [.int v4]) dX1_faults_193 ⟨Nat.le_of_ble_eq_true rfl, Nat.le_of_ble_eq_true rfl, nk_X5_isPrinted⟩ q1171 q788 qs9 q81 q789 rfl rfl (q_cs_le (q_csi q_cs0) (Nat.le_of_ble_eq_true rfl)) rfl F.1 F.2 (wk_I fun x6 h5 F => ?_)
      refine wa_if_eq (tgt := 216) dX1_faults_196 rfl (fun z => ?_) (fun z => ?_)
      · have F := F.1 z
        exact wa_sub [1, 2, 3, 5, 0] rfl F
      · have F := F.2 z
        refine wa_aload_n (o := v3) dX1_faults_199 rfl 3 rfl ?_
        refine wa_aload (o := r4) dX1_faults_200 0 rfl ?_
        refine wa_callV (M' := m_X5_widthOf) (C := RX5) (o := v3) (As := [va_rf r4]) (st := [.int v4]) dX1_faults_202 ⟨Nat.le_of_ble_eq_true rfl, Nat.le_of_ble_eq_true rfl, nk_X5_widthOf⟩ q1172 q791 q792 q81 q793 rfl rfl (q_cs_le (q_csi q_cs0) (Nat.le_of_ble_eq_true rfl)) rfl F.1 F.2 (wk_I fun x8 h7 F => ?_)
        refine wa_aload_n (o := (some t)) dX1_faults_205 rfl 1 rfl ?_
        refine wa_getI (C := RX1) (T := TX1) (N := 11) (ci := 0) (k := 3) dX1_faults_206 rfl (Nat.le_of_ble_eq_true rfl) in_X1 q153 q_same_own (g_I_mono F fun x9 F => ?_)
        refine wa_icmp_le (tgt := 216) dX1_faults_209 rfl (fun z => ?_) (fun z => ?_)
        · have F := F.1 z
          exact wa_sub [1, 2, 3, 5, 0] rfl F
        · have F := F.2 z
          refine wa_iconst (v := 1) dX1_faults_212 rfl ?_
          refine wa_goto (tgt := 217) dX1_faults_213 rfl ?_
          exact wa_sub [1, 2, 3, 5, 0] rfl F
theorem f_X1_faults_100 {D : qD} {Q : Option Value → qH → Prop} {X : String → qH → Prop} (t : Nat) (v3 : Option Nat) (v4 : Int32) (v5 : Int32) (h : qH) (F : ((10 ≤ v5 → Q (some (.int v4)) h) ∧ (¬ 10 ≤ v5 → g_R D h (some t) 0 6 (fun r1 => a_I D h r1 0 v5 (fun x2 => ((x2 = (-1) → L_X1_faults_138 D Q X t v3 v5 v4 h) ∧ (¬ x2 = (-1) → (recv D h (some t) RX1 ∧ c_I D m_X1_rootOf [va_rf (some t), .int v5] h X (fun x4 h3 => (recv D h3 (some t) RX1 ∧ c_I D m_X1_marksOf [va_rf (some t), va_rf v3, .int x4] h3 X (fun x6 h5 => ((¬ x6 = 0 → L_X1_faults_138 D Q X t v3 v5 v4 h5) ∧ (x6 = 0 → L_X1_faults_139 D Q X t v3 v5 1 v4 h5))))))))))))) : L_X1_faults_100 D Q X t v3 v4 v5 h := by
  show WA D m_X1_faults Q X 100 [(0, va_rf (some t)), (3, va_rf v3), (4, .int v4), (5, .int v5)] [] h
  refine wa_iload (x := v5) dX1_faults_100 3 rfl ?_
  refine wa_bipush (v := 10) dX1_faults_102 rfl ?_
  refine wa_icmp_ge (tgt := 148) dX1_faults_104 rfl (fun z => ?_) (fun z => ?_)
  · have F := F.1 z
    refine wa_iload (x := v4) dX1_faults_148 2 rfl ?_
    exact wa_iret rfl dX1_faults_150 F
  · have F := F.2 z
    refine wa_iload (x := v4) dX1_faults_107 2 rfl ?_
    refine wa_aload_n (o := (some t)) dX1_faults_109 rfl 0 rfl ?_
    refine wa_getR (C := RX1) (T := TX1) (N := 11) (ci := 0) (k := 6) dX1_faults_110 rfl (Nat.le_of_ble_eq_true rfl) in_X1 q159 q_same_own (g_R_mono F fun r1 F => ?_)
    refine wa_iload (x := v5) dX1_faults_113 3 rfl ?_
    refine wa_iald dX1_faults_115 (a_I_mono F fun x2 F => ?_)
    refine wa_iconst (v := -1) dX1_faults_116 rfl ?_
    refine wa_icmp_eq (tgt := 138) dX1_faults_117 rfl (fun z => ?_) (fun z => ?_)
    · have F := F.1 z
      exact wa_sub [0, 1, 3] rfl F
    · have F := F.2 z
      refine wa_aload_n (o := (some t)) dX1_faults_120 rfl 0 rfl ?_
      refine wa_aload_n (o := v3) dX1_faults_121 rfl 1 rfl ?_
      refine wa_aload_n (o := (some t)) dX1_faults_122 rfl 0 rfl ?_
      refine wa_iload (x := v5) dX1_faults_123 3 rfl ?_
      refine wa_callV (M' := m_X1_rootOf) (C := RX1) (o := (some t)) (As := [.int v5]) (st := [va_rf v3, va_rf (some t), .int v4]) dX1_faults_125 ⟨Nat.le_of_ble_eq_true rfl, Nat.le_of_ble_eq_true rfl, nk_X1_rootOf⟩ q1118 q1120 qs20 q54 q1121 rfl rfl (q_cs_le (q_csr (q_csr (q_csi q_cs0))) (Nat.le_of_ble_eq_true rfl)) rfl F.1 F.2 (wk_I fun x4 h3 F => ?_)
      refine wa_callV (M' := m_X1_marksOf) (C := RX1) (o := (some t)) (As := [va_rf v3, .int x4]) (st := [.int v4]) dX1_faults_128 ⟨Nat.le_of_ble_eq_true rfl, Nat.le_of_ble_eq_true rfl, nk_X1_marksOf⟩ q1167 q1169 qs22 q54 q1170 rfl rfl (q_cs_le (q_csi q_cs0) (Nat.le_of_ble_eq_true rfl)) rfl F.1 F.2 (wk_I fun x6 h5 F => ?_)
      refine wa_if_ne (tgt := 138) dX1_faults_131 rfl (fun z => ?_) (fun z => ?_)
      · have F := F.1 z
        exact wa_sub [0, 1, 3] rfl F
      · have F := F.2 z
        refine wa_iconst (v := 1) dX1_faults_134 rfl ?_
        refine wa_goto (tgt := 139) dX1_faults_135 rfl ?_
        exact wa_sub [0, 1, 3] rfl F
theorem f_X1_faults_26 {D : qD} {Q : Option Value → qH → Prop} {X : String → qH → Prop} (t : Nat) (v3 : Option Nat) (v4 : Int32) (v5 : Int32) (h : qH) (F : g_R D h v3 4 1 (fun r1 => (recv D h r1 RJ2 ∧ c_I D m_J2_size [va_rf r1] h X (fun x3 h2 => ((x3 ≤ v5 → Q (some (.int v4)) h2) ∧ (¬ x3 ≤ v5 → (recv D h2 v3 RX5 ∧ c_I D m_X5_needs [va_rf v3, .int v5, .int 0] h2 X (fun x5 h4 => g_I D h4 (some t) 0 4 (fun x6 => ((x5 ≤ x6 → L_X1_faults_61 D Q X t v3 v5 0 v4 h4) ∧ (¬ x5 ≤ x6 → L_X1_faults_61 D Q X t v3 v5 1 v4 h4))))))))))) : L_X1_faults_26 D Q X t v3 v4 v5 h := by
  show WA D m_X1_faults Q X 26 [(0, va_rf (some t)), (3, va_rf v3), (4, .int v4), (5, .int v5)] [] h
  refine wa_iload (x := v5) dX1_faults_26 3 rfl ?_
  refine wa_aload_n (o := v3) dX1_faults_28 rfl 1 rfl ?_
  refine wa_getNR (C := RX5) (T := TX5) (N := 10) (ci := 4) (k := 1) dX1_faults_29 rfl (Nat.le_of_ble_eq_true rfl) in_X5 q924 q_same_own (g_R_mono F fun r1 F => ?_)
  refine wa_callF (M' := m_J2_size) (C := RJ2) (x := y_Lsize) (ci := 6) (o := r1) (As := []) (st := [.int v5]) dX1_faults_32 rfl rfl fw_J2_size ⟨Nat.le_of_ble_eq_true rfl, Nat.le_of_ble_eq_true rfl⟩ nf_y_Lsize q192 q196 q198 q57 q200 rfl rfl (q_cs_le (q_csi q_cs0) (Nat.le_of_ble_eq_true rfl)) rfl F.1 F.2 (wk_I fun x3 h2 F => ?_)
  refine wa_icmp_ge (tgt := 70) dX1_faults_37 rfl (fun z => ?_) (fun z => ?_)
  · have F := F.1 z
    refine wa_iload (x := v4) dX1_faults_70 2 rfl ?_
    exact wa_iret rfl dX1_faults_72 F
  · have F := F.2 z
    refine wa_iload (x := v4) dX1_faults_40 2 rfl ?_
    refine wa_aload_n (o := v3) dX1_faults_42 rfl 1 rfl ?_
    refine wa_iload (x := v5) dX1_faults_43 3 rfl ?_
    refine wa_iconst (v := 0) dX1_faults_45 rfl ?_
    refine wa_callV (M' := m_X5_needs) (C := RX5) (o := v3) (As := [.int v5, .int 0]) (st := [.int v4]) dX1_faults_46 ⟨Nat.le_of_ble_eq_true rfl, Nat.le_of_ble_eq_true rfl, nk_X5_needs⟩ q1166 q903 q904 q81 q905 rfl rfl (q_cs_le (q_csi q_cs0) (Nat.le_of_ble_eq_true rfl)) rfl F.1 F.2 (wk_I fun x5 h4 F => ?_)
    refine wa_aload_n (o := (some t)) dX1_faults_49 rfl 0 rfl ?_
    refine wa_getI (C := RX1) (T := TX1) (N := 11) (ci := 0) (k := 4) dX1_faults_50 rfl (Nat.le_of_ble_eq_true rfl) in_X1 q155 q_same_own (g_I_mono F fun x6 F => ?_)
    refine wa_icmp_le (tgt := 60) dX1_faults_53 rfl (fun z => ?_) (fun z => ?_)
    · have F := F.1 z
      refine wa_iconst (v := 0) dX1_faults_60 rfl ?_
      exact wa_sub [0, 1, 3] rfl F
    · have F := F.2 z
      refine wa_iconst (v := 1) dX1_faults_56 rfl ?_
      refine wa_goto (tgt := 61) dX1_faults_57 rfl ?_
      exact wa_sub [0, 1, 3] rfl F
theorem f_X1_faults_216 {D : qD} {Q : Option Value → qH → Prop} {X : String → qH → Prop} (t : Nat) (v2 : Int32) (v3 : Option Nat) (v5 : Option Nat) (v6 : Option Nat) (s0 : Int32) (h : qH) (F : L_X1_faults_217 D Q X t v2 v3 v5 v6 0 s0 h) : L_X1_faults_216 D Q X t v2 v3 v5 v6 s0 h := by
  show WA D m_X1_faults Q X 216 [(0, va_rf (some t)), (2, .int v2), (3, va_rf v3), (5, va_rf v5), (6, va_rf v6)] [.int s0] h
  refine wa_iconst (v := 0) dX1_faults_216 rfl ?_
  exact F
theorem f_X1_faults_217 {D : qD} {Q : Option Value → qH → Prop} {X : String → qH → Prop} (t : Nat) (v2 : Int32) (v3 : Option Nat) (v5 : Option Nat) (v6 : Option Nat) (s0 : Int32) (s1 : Int32) (h : qH) (F : ((¬ v2 = 2 → L_X1_faults_252 D Q X t v2 v3 v5 (s1 + s0) h) ∧ (v2 = 2 → g_I D h v6 3 0 (fun x1 => ((¬ x1 = 4 → L_X1_faults_252 D Q X t v2 v3 v5 (s1 + s0) h) ∧ (x1 = 4 → g_I D h v6 3 1 (fun x2 => g_I D h (some t) 0 4 (fun x3 => ((x2 ≤ x3 → L_X1_faults_252 D Q X t v2 v3 v5 (s1 + s0) h) ∧ (¬ x2 ≤ x3 → L_X1_faults_253 D Q X t v2 v3 v5 1 (s1 + s0) h)))))))))) : L_X1_faults_217 D Q X t v2 v3 v5 v6 s0 s1 h := by
  show WA D m_X1_faults Q X 217 [(0, va_rf (some t)), (2, .int v2), (3, va_rf v3), (5, va_rf v5), (6, va_rf v6)] [.int s0, .int s1] h
  refine wa_iadd dX1_faults_217 ?_
  refine ws_istore (lv' := [(4, .int (s1 + s0)), (0, va_rf (some t)), (2, .int v2), (3, va_rf v3), (5, va_rf v5), (6, va_rf v6)]) dX1_faults_218 (Nat.le_of_ble_eq_true rfl) (q_cr (q_ci (q_cr (q_cr (q_cr q_cn))))) rfl ?_
  refine wa_iload (x := (s1 + s0)) dX1_faults_220 0 rfl ?_
  refine wa_iload_n (x := v2) dX1_faults_222 rfl 2 rfl ?_
  refine wa_iconst (v := 2) dX1_faults_223 rfl ?_
  refine wa_icmp_ne (tgt := 252) dX1_faults_224 rfl (fun z => ?_) (fun z => ?_)
  · have F := F.1 z
    exact wa_sub [1, 2, 3, 4] rfl F
  · have F := F.2 z
    refine wa_aload (o := v6) dX1_faults_227 5 rfl ?_
    refine wa_getNI (C := RX4) (T := TX4) (N := 3) (ci := 3) (k := 0) dX1_faults_229 rfl (Nat.le_of_ble_eq_true rfl) in_X4 q594 q_same_own (g_I_mono F fun x1 F => ?_)
    refine wa_iconst (v := 4) dX1_faults_232 rfl ?_
    refine wa_icmp_ne (tgt := 252) dX1_faults_233 rfl (fun z => ?_) (fun z => ?_)
    · have F := F.1 z
      exact wa_sub [1, 2, 3, 4] rfl F
    · have F := F.2 z
      refine wa_aload (o := v6) dX1_faults_236 5 rfl ?_
      refine wa_getNI (C := RX4) (T := TX4) (N := 3) (ci := 3) (k := 1) dX1_faults_238 rfl (Nat.le_of_ble_eq_true rfl) in_X4 q597 q_same_own (g_I_mono F fun x2 F => ?_)
      refine wa_aload_n (o := (some t)) dX1_faults_241 rfl 1 rfl ?_
      refine wa_getI (C := RX1) (T := TX1) (N := 11) (ci := 0) (k := 4) dX1_faults_242 rfl (Nat.le_of_ble_eq_true rfl) in_X1 q155 q_same_own (g_I_mono F fun x3 F => ?_)
      refine wa_icmp_le (tgt := 252) dX1_faults_245 rfl (fun z => ?_) (fun z => ?_)
      · have F := F.1 z
        exact wa_sub [1, 2, 3, 4] rfl F
      · have F := F.2 z
        refine wa_iconst (v := 1) dX1_faults_248 rfl ?_
        refine wa_goto (tgt := 253) dX1_faults_249 rfl ?_
        exact wa_sub [1, 2, 3, 4] rfl F
theorem f_X1_faults_138 {D : qD} {Q : Option Value → qH → Prop} {X : String → qH → Prop} (t : Nat) (v3 : Option Nat) (v5 : Int32) (s0 : Int32) (h : qH) (F : L_X1_faults_139 D Q X t v3 v5 0 s0 h) : L_X1_faults_138 D Q X t v3 v5 s0 h := by
  show WA D m_X1_faults Q X 138 [(0, va_rf (some t)), (3, va_rf v3), (5, .int v5)] [.int s0] h
  refine wa_iconst (v := 0) dX1_faults_138 rfl ?_
  exact F
theorem f_X1_faults_139 {D : qD} {Q : Option Value → qH → Prop} {X : String → qH → Prop} (t : Nat) (v3 : Option Nat) (v5 : Int32) (s0 : Int32) (s1 : Int32) (h : qH) (F : L_X1_faults_100 D Q X t v3 (s1 + s0) (v5 + 1) h) : L_X1_faults_139 D Q X t v3 v5 s0 s1 h := by
  show WA D m_X1_faults Q X 139 [(0, va_rf (some t)), (3, va_rf v3), (5, .int v5)] [.int s0, .int s1] h
  refine wa_iadd dX1_faults_139 ?_
  refine ws_istore (lv' := [(4, .int (s1 + s0)), (0, va_rf (some t)), (3, va_rf v3), (5, .int v5)]) dX1_faults_140 (Nat.le_of_ble_eq_true rfl) (q_cr (q_cr (q_ci q_cn))) rfl ?_
  refine ws_iinc (j := 3) (v := (v5 + 1)) (lv' := [(5, .int (v5 + 1)), (4, .int (s1 + s0)), (0, va_rf (some t)), (3, va_rf v3)]) dX1_faults_142 rfl rfl (Nat.le_of_ble_eq_true rfl) (q_ci (q_cr (q_cr (q_ci q_cn)))) rfl ?_
  refine wa_goto (tgt := 100) dX1_faults_145 rfl ?_
  exact wa_sub [2, 3, 1, 0] rfl F
theorem f_X1_faults_61 {D : qD} {Q : Option Value → qH → Prop} {X : String → qH → Prop} (t : Nat) (v3 : Option Nat) (v5 : Int32) (s0 : Int32) (s1 : Int32) (h : qH) (F : L_X1_faults_26 D Q X t v3 (s1 + s0) (v5 + 1) h) : L_X1_faults_61 D Q X t v3 v5 s0 s1 h := by
  show WA D m_X1_faults Q X 61 [(0, va_rf (some t)), (3, va_rf v3), (5, .int v5)] [.int s0, .int s1] h
  refine wa_iadd dX1_faults_61 ?_
  refine ws_istore (lv' := [(4, .int (s1 + s0)), (0, va_rf (some t)), (3, va_rf v3), (5, .int v5)]) dX1_faults_62 (Nat.le_of_ble_eq_true rfl) (q_cr (q_cr (q_ci q_cn))) rfl ?_
  refine ws_iinc (j := 3) (v := (v5 + 1)) (lv' := [(5, .int (v5 + 1)), (4, .int (s1 + s0)), (0, va_rf (some t)), (3, va_rf v3)]) dX1_faults_64 rfl rfl (Nat.le_of_ble_eq_true rfl) (q_ci (q_cr (q_cr (q_ci q_cn)))) rfl ?_
  refine wa_goto (tgt := 26) dX1_faults_67 rfl ?_
  exact wa_sub [2, 3, 1, 0] rfl F
theorem f_X1_faults_252 {D : qD} {Q : Option Value → qH → Prop} {X : String → qH → Prop} (t : Nat) (v2 : Int32) (v3 : Option Nat) (v5 : Option Nat) (s0 : Int32) (h : qH) (F : L_X1_faults_253 D Q X t v2 v3 v5 0 s0 h) : L_X1_faults_252 D Q X t v2 v3 v5 s0 h := by
  show WA D m_X1_faults Q X 252 [(0, va_rf (some t)), (2, .int v2), (3, va_rf v3), (5, va_rf v5)] [.int s0] h
  refine wa_iconst (v := 0) dX1_faults_252 rfl ?_
  exact F
theorem f_X1_faults_253 {D : qD} {Q : Option Value → qH → Prop} {X : String → qH → Prop} (t : Nat) (v2 : Int32) (v3 : Option Nat) (v5 : Option Nat) (s0 : Int32) (s1 : Int32) (h : qH) (F : L_X1_faults_162 D Q X t v2 v3 (s1 + s0) v5 h) : L_X1_faults_253 D Q X t v2 v3 v5 s0 s1 h := by
  show WA D m_X1_faults Q X 253 [(0, va_rf (some t)), (2, .int v2), (3, va_rf v3), (5, va_rf v5)] [.int s0, .int s1] h
  refine wa_iadd dX1_faults_253 ?_
  refine ws_istore (lv' := [(4, .int (s1 + s0)), (0, va_rf (some t)), (2, .int v2), (3, va_rf v3), (5, va_rf v5)]) dX1_faults_254 (Nat.le_of_ble_eq_true rfl) (q_cr (q_ci (q_cr (q_cr q_cn)))) rfl ?_
  refine wa_goto (tgt := 162) dX1_faults_256 rfl ?_
  exact wa_sub [1, 2, 3, 0, 4] rfl F
theorem f_X1_pageOf {D : qD} {Q : Option Value → qH → Prop} {X : String → qH → Prop} (t : Nat) (p0 : Int32) (p1 : Int32) (h : qH) (F : (recv D h (some t) RX1 ∧ c_R D m_X1_layout_2 [va_rf (some t), .int p0, .int p1] h X (fun r2 h1 => (recv D h1 r2 RX5 ∧ c_I D m_X5_page [va_rf r2, .int p1] h1 X (fun x4 h3 => Q (some (.int x4)) h3))))) : MW D m_X1_pageOf [va_rf (some t), .int p0, .int p1] h Q X := by
  refine mw_of pl_X1_pageOf rfl _ (Nat.le_of_ble_eq_true rfl) rfl ?_
  refine (show WA D m_X1_pageOf Q X 0 [(0, va_rf (some t)), (1, .int p0), (2, .int p1)] [] h from ?_)
  refine wa_aload_n (o := (some t)) dX1_pageOf_0 rfl 0 rfl ?_
  refine wa_iload_n (x := p0) dX1_pageOf_1 rfl 1 rfl ?_
  refine wa_iload_n (x := p1) dX1_pageOf_2 rfl 2 rfl ?_
  refine wa_callV (M' := m_X1_layout_2) (C := RX1) (o := (some t)) (As := [.int p0, .int p1]) (st := []) dX1_pageOf_3 ⟨Nat.le_of_ble_eq_true rfl, Nat.le_of_ble_eq_true rfl, nk_X1_layout_2⟩ q1065 q1067 qs18 q54 q1068 rfl rfl (Nat.zero_le 8) rfl F.1 F.2 (wk_R fun r2 h1 F => ?_)
  refine wa_iload_n (x := p1) dX1_pageOf_6 rfl 2 rfl ?_
  refine wa_callV (M' := m_X5_page) (C := RX5) (o := r2) (As := [.int p1]) (st := []) dX1_pageOf_7 ⟨Nat.le_of_ble_eq_true rfl, Nat.le_of_ble_eq_true rfl, nk_X5_page⟩ q1069 q1070 q1071 q81 q1072 rfl rfl (Nat.zero_le 8) rfl F.1 F.2 (wk_I fun x4 h3 F => ?_)
  exact wa_iret rfl dX1_pageOf_10 F
theorem f_X1_pageAnew {D : qD} {Q : Option Value → qH → Prop} {X : String → qH → Prop} (t : Nat) (p0 : Int32) (p1 : Int32) (h : qH) (F : (recv D h (some t) RX1 ∧ c_R D m_X1_layout_2 [va_rf (some t), .int p0, .int p1] h X (fun r2 h1 => n_O h1 4 10 tyX5 (fun a3 h4 => c_V D m_X5_init [va_rf (some a3), va_rf (some t), .int p0] h4 X (fun h5 => (recv D h5 (some a3) RX5 ∧ c_I D m_X5_page [va_rf (some a3), .int p1] h5 X (fun x7 h6 => Q (some (.int x7)) h6))))))) : MW D m_X1_pageAnew [va_rf (some t), .int p0, .int p1] h Q X := by
  refine mw_of pl_X1_pageAnew rfl _ (Nat.le_of_ble_eq_true rfl) rfl ?_
  refine (show WA D m_X1_pageAnew Q X 0 [(0, va_rf (some t)), (1, .int p0), (2, .int p1)] [] h from ?_)
  refine wa_aload_n (o := (some t)) dX1_pageAnew_0 rfl 0 rfl ?_
  refine wa_iload_n (x := p0) dX1_pageAnew_1 rfl 1 rfl ?_
  refine wa_iload_n (x := p1) dX1_pageAnew_2 rfl 2 rfl ?_
  refine wa_callV (M' := m_X1_layout_2) (C := RX1) (o := (some t)) (As := [.int p0, .int p1]) (st := []) dX1_pageAnew_3 ⟨Nat.le_of_ble_eq_true rfl, Nat.le_of_ble_eq_true rfl, nk_X1_layout_2⟩ q1065 q1067 qs18 q54 q1068 rfl rfl (Nat.zero_le 8) rfl F.1 F.2 (wk_R fun r2 h1 F => ?_)
  refine wa_pop dX1_pageAnew_6 (q_cat _) ?_
  refine wa_new (C := RX5) (T := TX5) tyX5 dX1_pageAnew_7 rfl in_X5 tyX5_ok q126 q759 q81 (n_O_mono F fun a3 h4 F => ?_)
  refine wa_dup dX1_pageAnew_10 (q_cat _) ?_
  refine wa_aload_n (o := (some t)) dX1_pageAnew_11 rfl 0 rfl ?_
  refine wa_iload_n (x := p0) dX1_pageAnew_12 rfl 1 rfl ?_
  refine wa_callI (M' := m_X5_init) (b := a3) (As := [va_rf (some t), .int p0]) (st := [va_rf (some a3)]) dX1_pageAnew_13 ⟨Nat.le_of_ble_eq_true rfl, Nat.le_of_ble_eq_true rfl, nk_X5_init⟩ rfl rfl q760 q761 q81 q762 rfl rfl (q_cs_le (q_csr q_cs0) (Nat.le_of_ble_eq_true rfl)) rfl F (wk_V fun h5 F => ?_)
  refine wa_iload_n (x := p1) dX1_pageAnew_16 rfl 2 rfl ?_
  refine wa_callV (M' := m_X5_page) (C := RX5) (o := (some a3)) (As := [.int p1]) (st := []) dX1_pageAnew_17 ⟨Nat.le_of_ble_eq_true rfl, Nat.le_of_ble_eq_true rfl, nk_X5_page⟩ q1069 q1070 q1071 q81 q1072 rfl rfl (Nat.zero_le 8) rfl F.1 F.2 (wk_I fun x7 h6 F => ?_)
  exact wa_iret rfl dX1_pageAnew_20 F
def L_X1_isNew_20 (D : qD) (Q : Option Value → qH → Prop) (X : String → qH → Prop) (t : Nat) (v2 : Int32) (v3 : Option Nat) (v4 : Option Nat) (v5 : Int32) (v6 : Int32) (h : qH) : Prop := WA D m_X1_isNew Q X 20 [(0, va_rf (some t)), (2, .int v2), (3, va_rf v3), (4, va_rf v4), (5, .int v5), (6, .int v6)] [] h
def L_X1_isNew_56 (D : qD) (Q : Option Value → qH → Prop) (X : String → qH → Prop) (t : Nat) (v2 : Int32) (v3 : Option Nat) (v5 : Int32) (v6 : Int32) (h : qH) : Prop := WA D m_X1_isNew Q X 56 [(0, va_rf (some t)), (2, .int v2), (3, va_rf v3), (5, .int v5), (6, .int v6)] [] h
def L_X1_isNew_44 (D : qD) (Q : Option Value → qH → Prop) (X : String → qH → Prop) (t : Nat) (v2 : Int32) (v3 : Option Nat) (v4 : Option Nat) (v6 : Int32) (s0 : Int32) (s1 : Int32) (h : qH) : Prop := WA D m_X1_isNew Q X 44 [(0, va_rf (some t)), (2, .int v2), (3, va_rf v3), (4, va_rf v4), (6, .int v6)] [.int s0, .int s1] h
def L_X1_isNew_99 (D : qD) (Q : Option Value → qH → Prop) (X : String → qH → Prop) (t : Nat) (v2 : Int32) (v3 : Option Nat) (v6 : Int32) (s0 : Int32) (s1 : Int32) (h : qH) : Prop := WA D m_X1_isNew Q X 99 [(0, va_rf (some t)), (2, .int v2), (3, va_rf v3), (6, .int v6)] [.int s0, .int s1] h
theorem f_X1_isNew {D : qD} {Q : Option Value → qH → Prop} {X : String → qH → Prop} (t : Nat) (p0 : Int32) (p1 : Int32) (h : qH) (F : (recv D h (some t) RX1 ∧ c_R D m_X1_layout_2 [va_rf (some t), .int p0, .int p1] h X (fun r2 h1 => (recv D h1 r2 RX5 ∧ c_R D m_X5_rowsOf [va_rf r2, .int p1] h1 X (fun r4 h3 => L_X1_isNew_20 D Q X t p1 r2 r4 0 0 h3))))) : MW D m_X1_isNew [va_rf (some t), .int p0, .int p1] h Q X := by
  refine mw_of pl_X1_isNew rfl _ (Nat.le_of_ble_eq_true rfl) rfl ?_
  refine (show WA D m_X1_isNew Q X 0 [(0, va_rf (some t)), (1, .int p0), (2, .int p1)] [] h from ?_)
  refine wa_aload_n (o := (some t)) dX1_isNew_0 rfl 0 rfl ?_
  refine wa_iload_n (x := p0) dX1_isNew_1 rfl 1 rfl ?_
  refine wa_iload_n (x := p1) dX1_isNew_2 rfl 2 rfl ?_
  refine wa_callV (M' := m_X1_layout_2) (C := RX1) (o := (some t)) (As := [.int p0, .int p1]) (st := []) dX1_isNew_3 ⟨Nat.le_of_ble_eq_true rfl, Nat.le_of_ble_eq_true rfl, nk_X1_layout_2⟩ q1065 q1067 qs18 q54 q1068 rfl rfl (Nat.zero_le 8) rfl F.1 F.2 (wk_R fun r2 h1 F => ?_)
  refine ws_astore_n (lv' := [(3, va_rf r2), (0, va_rf (some t)), (1, .int p0), (2, .int p1)]) dX1_isNew_6 rfl (Nat.le_of_ble_eq_true rfl) (q_cr (q_ci (q_ci q_cn))) rfl ?_
  refine wa_aload_n (o := r2) dX1_isNew_7 rfl 0 rfl ?_
  refine wa_iload_n (x := p1) dX1_isNew_8 rfl 3 rfl ?_
  refine wa_callV (M' := m_X5_rowsOf) (C := RX5) (o := r2) (As := [.int p1]) (st := []) dX1_isNew_9 ⟨Nat.le_of_ble_eq_true rfl, Nat.le_of_ble_eq_true rfl, nk_X5_rowsOf⟩ q966 q967 q968 q81 q969 rfl rfl (Nat.zero_le 8) rfl F.1 F.2 (wk_R fun r4 h3 F => ?_)
  refine ws_astore (lv' := [(4, va_rf r4), (3, va_rf r2), (0, va_rf (some t)), (1, .int p0), (2, .int p1)]) dX1_isNew_12 (Nat.le_of_ble_eq_true rfl) (q_cr (q_cr (q_ci (q_ci q_cn)))) rfl ?_
  refine wa_iconst (v := 0) dX1_isNew_14 rfl ?_
  refine ws_istore (lv' := [(5, .int 0), (4, va_rf r4), (3, va_rf r2), (0, va_rf (some t)), (1, .int p0), (2, .int p1)]) dX1_isNew_15 (Nat.le_of_ble_eq_true rfl) (q_cr (q_cr (q_cr (q_ci (q_ci q_cn))))) rfl ?_
  refine wa_iconst (v := 0) dX1_isNew_17 rfl ?_
  refine ws_istore (lv' := [(6, .int 0), (5, .int 0), (4, va_rf r4), (3, va_rf r2), (0, va_rf (some t)), (1, .int p0), (2, .int p1)]) dX1_isNew_18 (Nat.le_of_ble_eq_true rfl) (q_ci (q_cr (q_cr (q_cr (q_ci (q_ci q_cn)))))) rfl ?_
  exact wa_sub [4, 6, 3, 2, 1, 0] rfl F
theorem f_X1_isNew_20 {D : qD} {Q : Option Value → qH → Prop} {X : String → qH → Prop} (t : Nat) (v2 : Int32) (v3 : Option Nat) (v4 : Option Nat) (v5 : Int32) (v6 : Int32) (h : qH) (F : ((v2 < v6 → L_X1_isNew_56 D Q X t v2 v3 v5 0 h) ∧ (¬ v2 < v6 → (recv D h v3 RX5 ∧ c_I D m_X5_isLike [va_rf v3, .int v6, va_rf v4] h X (fun x2 h1 => ((x2 = 0 → L_X1_isNew_44 D Q X t v2 v3 v4 v6 0 v5 h1) ∧ (¬ x2 = 0 → L_X1_isNew_44 D Q X t v2 v3 v4 v6 1 v5 h1))))))) : L_X1_isNew_20 D Q X t v2 v3 v4 v5 v6 h := by
  show WA D m_X1_isNew Q X 20 [(0, va_rf (some t)), (2, .int v2), (3, va_rf v3), (4, va_rf v4), (5, .int v5), (6, .int v6)] [] h
  refine wa_iload (x := v6) dX1_isNew_20 5 rfl ?_
  refine wa_iload_n (x := v2) dX1_isNew_22 rfl 1 rfl ?_
  refine wa_icmp_gt (tgt := 53) dX1_isNew_23 rfl (fun z => ?_) (fun z => ?_)
  · have F := F.1 z
    refine wa_iconst (v := 0) dX1_isNew_53 rfl ?_
    refine ws_istore (lv' := [(6, .int 0), (0, va_rf (some t)), (2, .int v2), (3, va_rf v3), (4, va_rf v4), (5, .int v5)]) dX1_isNew_54 (Nat.le_of_ble_eq_true rfl) (q_cr (q_ci (q_cr (q_cr (q_ci (q_ci q_cn)))))) rfl ?_
    exact wa_sub [1, 2, 3, 5, 0] rfl F
  · have F := F.2 z
    refine wa_iload (x := v5) dX1_isNew_26 4 rfl ?_
    refine wa_aload_n (o := v3) dX1_isNew_28 rfl 2 rfl ?_
    refine wa_iload (x := v6) dX1_isNew_29 5 rfl ?_
    refine wa_aload (o := v4) dX1_isNew_31 3 rfl ?_
    refine wa_callV (M' := m_X5_isLike) (C := RX5) (o := v3) (As := [.int v6, va_rf v4]) (st := [.int v5]) dX1_isNew_33 ⟨Nat.le_of_ble_eq_true rfl, Nat.le_of_ble_eq_true rfl, nk_X5_isLike⟩ q1180 q1181 q1182 q81 q1183 rfl rfl (q_cs_le (q_csi q_cs0) (Nat.le_of_ble_eq_true rfl)) rfl F.1 F.2 (wk_I fun x2 h1 F => ?_)
    refine wa_if_eq (tgt := 43) dX1_isNew_36 rfl (fun z => ?_) (fun z => ?_)
    · have F := F.1 z
      refine wa_iconst (v := 0) dX1_isNew_43 rfl ?_
      exact wa_sub [0, 1, 2, 3, 5] rfl F
    · have F := F.2 z
      refine wa_iconst (v := 1) dX1_isNew_39 rfl ?_
      refine wa_goto (tgt := 44) dX1_isNew_40 rfl ?_
      exact wa_sub [0, 1, 2, 3, 5] rfl F
theorem f_X1_isNew_56 {D : qD} {Q : Option Value → qH → Prop} {X : String → qH → Prop} (t : Nat) (v2 : Int32) (v3 : Option Nat) (v5 : Int32) (v6 : Int32) (h : qH) (F : g_R D h (some t) 0 9 (fun r1 => (recv D h r1 RJ2 ∧ c_I D m_J2_size [va_rf r1] h X (fun x3 h2 => ((x3 ≤ v6 → ((v5 ≤ 0 → Q (some (.int 0)) h2) ∧ (¬ v5 ≤ 0 → Q (some (.int 1)) h2))) ∧ (¬ x3 ≤ v6 → g_R D h2 (some t) 0 9 (fun r4 => (recv D h2 r4 RJ2 ∧ c_R D m_J2_get [va_rf r4, .int v6] h2 X (fun r6 h5 => (q_cast D h5 r6 "java/util/List" ∧ (recv D h5 v3 RX5 ∧ c_I D m_X5_isLike [va_rf v3, .int v2, va_rf r6] h5 X (fun x8 h7 => ((x8 = 0 → L_X1_isNew_99 D Q X t v2 v3 v6 0 v5 h7) ∧ (¬ x8 = 0 → L_X1_isNew_99 D Q X t v2 v3 v6 1 v5 h7)))))))))))))) : L_X1_isNew_56 D Q X t v2 v3 v5 v6 h := by
  show WA D m_X1_isNew Q X 56 [(0, va_rf (some t)), (2, .int v2), (3, va_rf v3), (5, .int v5), (6, .int v6)] [] h
  refine wa_iload (x := v6) dX1_isNew_56 4 rfl ?_
  refine wa_aload_n (o := (some t)) dX1_isNew_58 rfl 0 rfl ?_
  refine wa_getR (C := RX1) (T := TX1) (N := 11) (ci := 0) (k := 9) dX1_isNew_59 rfl (Nat.le_of_ble_eq_true rfl) in_X1 q162 q_same_own (g_R_mono F fun r1 F => ?_)
  refine wa_callF (M' := m_J2_size) (C := RJ2) (x := y_Lsize) (ci := 6) (o := r1) (As := []) (st := [.int v6]) dX1_isNew_62 rfl rfl fw_J2_size ⟨Nat.le_of_ble_eq_true rfl, Nat.le_of_ble_eq_true rfl⟩ nf_y_Lsize q192 q196 q198 q57 q200 rfl rfl (q_cs_le (q_csi q_cs0) (Nat.le_of_ble_eq_true rfl)) rfl F.1 F.2 (wk_I fun x3 h2 F => ?_)
  refine wa_icmp_ge (tgt := 108) dX1_isNew_67 rfl (fun z => ?_) (fun z => ?_)
  · have F := F.1 z
    refine wa_iload (x := v5) dX1_isNew_108 3 rfl ?_
    refine wa_if_le (tgt := 117) dX1_isNew_110 rfl (fun z => ?_) (fun z => ?_)
    · have F := F.1 z
      refine wa_iconst (v := 0) dX1_isNew_117 rfl ?_
      exact wa_zret rfl rfl dX1_isNew_118 F
    · have F := F.2 z
      refine wa_iconst (v := 1) dX1_isNew_113 rfl ?_
      refine wa_goto (tgt := 118) dX1_isNew_114 rfl ?_
      exact wa_zret rfl rfl dX1_isNew_118 F
  · have F := F.2 z
    refine wa_iload (x := v5) dX1_isNew_70 3 rfl ?_
    refine wa_aload_n (o := v3) dX1_isNew_72 rfl 2 rfl ?_
    refine wa_iload_n (x := v2) dX1_isNew_73 rfl 1 rfl ?_
    refine wa_aload_n (o := (some t)) dX1_isNew_74 rfl 0 rfl ?_
    refine wa_getR (C := RX1) (T := TX1) (N := 11) (ci := 0) (k := 9) dX1_isNew_75 rfl (Nat.le_of_ble_eq_true rfl) in_X1 q162 q_same_own (g_R_mono F fun r4 F => ?_)
    refine wa_iload (x := v6) dX1_isNew_78 4 rfl ?_
    refine wa_callF (M' := m_J2_get) (C := RJ2) (x := y_Lget) (ci := 6) (o := r4) (As := [.int v6]) (st := [.int v2, va_rf v3, .int v5]) dX1_isNew_80 rfl rfl fw_J2_get ⟨Nat.le_of_ble_eq_true rfl, Nat.le_of_ble_eq_true rfl⟩ nf_y_Lget q1055 q776 q778 q57 q780 rfl rfl (q_cs_le (q_csi (q_csr (q_csi q_cs0))) (Nat.le_of_ble_eq_true rfl)) rfl F.1 F.2 (wk_R fun r6 h5 F => ?_)
    refine wa_cast (C := "java/util/List") dX1_isNew_85 q1185 F.1 ?_
    have F := F.2
    refine wa_callV (M' := m_X5_isLike) (C := RX5) (o := v3) (As := [.int v2, va_rf r6]) (st := [.int v5]) dX1_isNew_88 ⟨Nat.le_of_ble_eq_true rfl, Nat.le_of_ble_eq_true rfl, nk_X5_isLike⟩ q1180 q1181 q1182 q81 q1183 rfl rfl (q_cs_le (q_csi q_cs0) (Nat.le_of_ble_eq_true rfl)) rfl F.1 F.2 (wk_I fun x8 h7 F => ?_)
    refine wa_if_eq (tgt := 98) dX1_isNew_91 rfl (fun z => ?_) (fun z => ?_)
    · have F := F.1 z
      refine wa_iconst (v := 0) dX1_isNew_98 rfl ?_
      exact wa_sub [0, 1, 2, 4] rfl F
    · have F := F.2 z
      refine wa_iconst (v := 1) dX1_isNew_94 rfl ?_
      refine wa_goto (tgt := 99) dX1_isNew_95 rfl ?_
      exact wa_sub [0, 1, 2, 4] rfl F
theorem f_X1_isNew_44 {D : qD} {Q : Option Value → qH → Prop} {X : String → qH → Prop} (t : Nat) (v2 : Int32) (v3 : Option Nat) (v4 : Option Nat) (v6 : Int32) (s0 : Int32) (s1 : Int32) (h : qH) (F : L_X1_isNew_20 D Q X t v2 v3 v4 (s1 + s0) (v6 + 1) h) : L_X1_isNew_44 D Q X t v2 v3 v4 v6 s0 s1 h := by
  show WA D m_X1_isNew Q X 44 [(0, va_rf (some t)), (2, .int v2), (3, va_rf v3), (4, va_rf v4), (6, .int v6)] [.int s0, .int s1] h
  refine wa_iadd dX1_isNew_44 ?_
  refine ws_istore (lv' := [(5, .int (s1 + s0)), (0, va_rf (some t)), (2, .int v2), (3, va_rf v3), (4, va_rf v4), (6, .int v6)]) dX1_isNew_45 (Nat.le_of_ble_eq_true rfl) (q_cr (q_ci (q_cr (q_cr (q_ci q_cn))))) rfl ?_
  refine ws_iinc (j := 5) (v := (v6 + 1)) (lv' := [(6, .int (v6 + 1)), (5, .int (s1 + s0)), (0, va_rf (some t)), (2, .int v2), (3, va_rf v3), (4, va_rf v4)]) dX1_isNew_47 rfl rfl (Nat.le_of_ble_eq_true rfl) (q_ci (q_cr (q_ci (q_cr (q_cr (q_ci q_cn)))))) rfl ?_
  refine wa_goto (tgt := 20) dX1_isNew_50 rfl ?_
  exact wa_sub [2, 3, 4, 5, 1, 0] rfl F
theorem f_X1_isNew_99 {D : qD} {Q : Option Value → qH → Prop} {X : String → qH → Prop} (t : Nat) (v2 : Int32) (v3 : Option Nat) (v6 : Int32) (s0 : Int32) (s1 : Int32) (h : qH) (F : L_X1_isNew_56 D Q X t v2 v3 (s1 - s0) (v6 + 1) h) : L_X1_isNew_99 D Q X t v2 v3 v6 s0 s1 h := by
  show WA D m_X1_isNew Q X 99 [(0, va_rf (some t)), (2, .int v2), (3, va_rf v3), (6, .int v6)] [.int s0, .int s1] h
  refine wa_isub dX1_isNew_99 ?_
  refine ws_istore (lv' := [(5, .int (s1 - s0)), (0, va_rf (some t)), (2, .int v2), (3, va_rf v3), (6, .int v6)]) dX1_isNew_100 (Nat.le_of_ble_eq_true rfl) (q_cr (q_ci (q_cr (q_ci q_cn)))) rfl ?_
  refine ws_iinc (j := 4) (v := (v6 + 1)) (lv' := [(6, .int (v6 + 1)), (5, .int (s1 - s0)), (0, va_rf (some t)), (2, .int v2), (3, va_rf v3)]) dX1_isNew_102 rfl rfl (Nat.le_of_ble_eq_true rfl) (q_ci (q_cr (q_ci (q_cr (q_ci q_cn))))) rfl ?_
  refine wa_goto (tgt := 56) dX1_isNew_105 rfl ?_
  exact wa_sub [2, 3, 4, 1, 0] rfl F
