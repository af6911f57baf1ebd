set_option maxRecDepth 100000
def L_L_law_23 (D : qD) (Q : Option Value → qH → Prop) (X : String → qH → Prop) (v0 : Nat) (v1 : Option Nat) (v2 : Option Nat) (v3 : Option Nat) (v4 : Int32) (h : qH) : Prop := WA D m_L_law Q X 23 [(0, va_rf (some v0)), (1, va_rf v1), (2, va_rf v2), (3, va_rf v3), (4, .int v4)] [] h
def L_L_law_140 (D : qD) (Q : Option Value → qH → Prop) (X : String → qH → Prop) (v0 : Nat) (v1 : Option Nat) (v2 : Option Nat) (v3 : Option Nat) (v4 : Int32) (h : qH) : Prop := WA D m_L_law Q X 140 [(0, va_rf (some v0)), (1, va_rf v1), (2, va_rf v2), (3, va_rf v3), (4, .int v4)] [] h
def L_L_law_232 (D : qD) (Q : Option Value → qH → Prop) (X : String → qH → Prop) (v0 : Nat) (v1 : Option Nat) (v2 : Option Nat) (v3 : Option Nat) (v4 : Int32) (h : qH) : Prop := WA D m_L_law Q X 232 [(0, va_rf (some v0)), (1, va_rf v1), (2, va_rf v2), (3, va_rf v3), (4, .int v4)] [] h
def L_L_law_288 (D : qD) (Q : Option Value → qH → Prop) (X : String → qH → Prop) (v0 : Nat) (v1 : Option Nat) (v2 : Option Nat) (v3 : Option Nat) (v4 : Int32) (h : qH) : Prop := WA D m_L_law Q X 288 [(0, va_rf (some v0)), (1, va_rf v1), (2, va_rf v2), (3, va_rf v3), (4, .int v4)] [] h
def L_L_law_360 (D : qD) (Q : Option Value → qH → Prop) (X : String → qH → Prop) (v0 : Nat) (v1 : Option Nat) (v2 : Option Nat) (v3 : Option Nat) (v4 : Int32) (h : qH) : Prop := WA D m_L_law Q X 360 [(0, va_rf (some v0)), (1, va_rf v1), (2, va_rf v2), (3, va_rf v3), (4, .int v4)] [] h
def L_L_law_440 (D : qD) (Q : Option Value → qH → Prop) (X : String → qH → Prop) (v0 : Nat) (v1 : Option Nat) (v2 : Option Nat) (v3 : Option Nat) (v4 : Int32) (h : qH) : Prop := WA D m_L_law Q X 440 [(0, va_rf (some v0)), (1, va_rf v1), (2, va_rf v2), (3, va_rf v3), (4, .int v4)] [] h
def L_L_law_500 (D : qD) (Q : Option Value → qH → Prop) (X : String → qH → Prop) (v0 : Nat) (v1 : Option Nat) (v2 : Option Nat) (v3 : Option Nat) (v4 : Int32) (h : qH) : Prop := WA D m_L_law Q X 500 [(0, va_rf (some v0)), (1, va_rf v1), (2, va_rf v2), (3, va_rf v3), (4, .int v4)] [] h
def L_L_law_568 (D : qD) (Q : Option Value → qH → Prop) (X : String → qH → Prop) (v0 : Nat) (v1 : Option Nat) (v2 : Option Nat) (v3 : Option Nat) (v4 : Int32) (h : qH) : Prop := WA D m_L_law Q X 568 [(0, va_rf (some v0)), (1, va_rf v1), (2, va_rf v2), (3, va_rf v3), (4, .int v4)] [] h
def L_L_law_616 (D : qD) (Q : Option Value → qH → Prop) (X : String → qH → Prop) (v0 : Nat) (v1 : Option Nat) (v2 : Option Nat) (v3 : Option Nat) (v4 : Int32) (h : qH) : Prop := WA D m_L_law Q X 616 [(0, va_rf (some v0)), (1, va_rf v1), (2, va_rf v2), (3, va_rf v3), (4, .int v4)] [] h
def L_L_law_672 (D : qD) (Q : Option Value → qH → Prop) (X : String → qH → Prop) (v0 : Nat) (v1 : Option Nat) (v2 : Option Nat) (v3 : Option Nat) (v4 : Int32) (h : qH) : Prop := WA D m_L_law Q X 672 [(0, va_rf (some v0)), (1, va_rf v1), (2, va_rf v2), (3, va_rf v3), (4, .int v4)] [] h
def L_L_law_728 (D : qD) (Q : Option Value → qH → Prop) (X : String → qH → Prop) (v0 : Nat) (v1 : Option Nat) (v2 : Option Nat) (v3 : Option Nat) (v4 : Int32) (h : qH) : Prop := WA D m_L_law Q X 728 [(0, va_rf (some v0)), (1, va_rf v1), (2, va_rf v2), (3, va_rf v3), (4, .int v4)] [] h
def L_L_law_796 (D : qD) (Q : Option Value → qH → Prop) (X : String → qH → Prop) (v0 : Nat) (v1 : Option Nat) (v2 : Option Nat) (v3 : Option Nat) (v4 : Int32) (h : qH) : Prop := WA D m_L_law Q X 796 [(0, va_rf (some v0)), (1, va_rf v1), (2, va_rf v2), (3, va_rf v3), (4, .int v4)] [] h
def L_L_law_892 (D : qD) (Q : Option Value → qH → Prop) (X : String → qH → Prop) (v0 : Nat) (v1 : Option Nat) (v2 : Option Nat) (v3 : Option Nat) (v4 : Int32) (h : qH) : Prop := WA D m_L_law Q X 892 [(0, va_rf (some v0)), (1, va_rf v1), (2, va_rf v2), (3, va_rf v3), (4, .int v4)] [] h
def L_L_law_960 (D : qD) (Q : Option Value → qH → Prop) (X : String → qH → Prop) (v0 : Nat) (v1 : Option Nat) (v2 : Option Nat) (v3 : Option Nat) (v4 : Int32) (h : qH) : Prop := WA D m_L_law Q X 960 [(0, va_rf (some v0)), (1, va_rf v1), (2, va_rf v2), (3, va_rf v3), (4, .int v4)] [] h
def L_L_law_1028 (D : qD) (Q : Option Value → qH → Prop) (X : String → qH → Prop) (v0 : Nat) (v1 : Option Nat) (v2 : Option Nat) (v3 : Option Nat) (v4 : Int32) (h : qH) : Prop := WA D m_L_law Q X 1028 [(0, va_rf (some v0)), (1, va_rf v1), (2, va_rf v2), (3, va_rf v3), (4, .int v4)] [] h
def L_L_law_1084 (D : qD) (Q : Option Value → qH → Prop) (X : String → qH → Prop) (v0 : Nat) (v1 : Option Nat) (v2 : Option Nat) (v3 : Option Nat) (v4 : Int32) (h : qH) : Prop := WA D m_L_law Q X 1084 [(0, va_rf (some v0)), (1, va_rf v1), (2, va_rf v2), (3, va_rf v3), (4, .int v4)] [] h
def L_L_law_1140 (D : qD) (Q : Option Value → qH → Prop) (X : String → qH → Prop) (v0 : Nat) (v1 : Option Nat) (v2 : Option Nat) (v3 : Option Nat) (v4 : Int32) (h : qH) : Prop := WA D m_L_law Q X 1140 [(0, va_rf (some v0)), (1, va_rf v1), (2, va_rf v2), (3, va_rf v3), (4, .int v4)] [] h
def L_L_law_1208 (D : qD) (Q : Option Value → qH → Prop) (X : String → qH → Prop) (v0 : Nat) (v1 : Option Nat) (v2 : Option Nat) (v3 : Option Nat) (v4 : Int32) (h : qH) : Prop := WA D m_L_law Q X 1208 [(0, va_rf (some v0)), (1, va_rf v1), (2, va_rf v2), (3, va_rf v3), (4, .int v4)] [] h
def L_L_law_1288 (D : qD) (Q : Option Value → qH → Prop) (X : String → qH → Prop) (v0 : Nat) (v1 : Option Nat) (v2 : Option Nat) (v3 : Option Nat) (v4 : Int32) (h : qH) : Prop := WA D m_L_law Q X 1288 [(0, va_rf (some v0)), (1, va_rf v1), (2, va_rf v2), (3, va_rf v3), (4, .int v4)] [] h
def L_L_law_1356 (D : qD) (Q : Option Value → qH → Prop) (X : String → qH → Prop) (v0 : Nat) (v1 : Option Nat) (v2 : Option Nat) (v3 : Option Nat) (v4 : Int32) (h : qH) : Prop := WA D m_L_law Q X 1356 [(0, va_rf (some v0)), (1, va_rf v1), (2, va_rf v2), (3, va_rf v3), (4, .int v4)] [] h
def L_L_law_1448 (D : qD) (Q : Option Value → qH → Prop) (X : String → qH → Prop) (v0 : Nat) (v1 : Option Nat) (v2 : Option Nat) (v3 : Option Nat) (v4 : Int32) (h : qH) : Prop := WA D m_L_law Q X 1448 [(0, va_rf (some v0)), (1, va_rf v1), (2, va_rf v2), (3, va_rf v3), (4, .int v4)] [] h
def L_L_law_1516 (D : qD) (Q : Option Value → qH → Prop) (X : String → qH → Prop) (v0 : Nat) (v1 : Option Nat) (v2 : Option Nat) (v3 : Option Nat) (v4 : Int32) (h : qH) : Prop := WA D m_L_law Q X 1516 [(0, va_rf (some v0)), (1, va_rf v1), (2, va_rf v2), (3, va_rf v3), (4, .int v4)] [] h
def L_L_law_1591 (D : qD) (Q : Option Value → qH → Prop) (X : String → qH → Prop) (v0 : Nat) (v1 : Option Nat) (v2 : Option Nat) (v3 : Option Nat) (v4 : Int32) (h : qH) : Prop := WA D m_L_law Q X 1591 [(0, va_rf (some v0)), (1, va_rf v1), (2, va_rf v2), (3, va_rf v3), (4, .int v4)] [] h
def L_L_law_1604 (D : qD) (Q : Option Value → qH → Prop) (X : String → qH → Prop) (v0 : Nat) (v1 : Option Nat) (v2 : Option Nat) (v3 : Option Nat) (v4 : Int32) (h : qH) : Prop := WA D m_L_law Q X 1604 [(0, va_rf (some v0)), (1, va_rf v1), (2, va_rf v2), (3, va_rf v3), (4, .int v4)] [] h
def L_L_law_229 (D : qD) (Q : Option Value → qH → Prop) (X : String → qH → Prop) (v0 : Nat) (v1 : Option Nat) (v2 : Option Nat) (v3 : Option Nat) (v4 : Int32) (h : qH) : Prop := WA D m_L_law Q X 229 [(0, va_rf (some v0)), (1, va_rf v1), (2, va_rf v2), (3, va_rf v3), (4, .int v4)] [] h
def L_L_law_285 (D : qD) (Q : Option Value → qH → Prop) (X : String → qH → Prop) (v0 : Nat) (v1 : Option Nat) (v2 : Option Nat) (v3 : Option Nat) (v4 : Int32) (h : qH) : Prop := WA D m_L_law Q X 285 [(0, va_rf (some v0)), (1, va_rf v1), (2, va_rf v2), (3, va_rf v3), (4, .int v4)] [] h
def L_L_law_437 (D : qD) (Q : Option Value → qH → Prop) (X : String → qH → Prop) (v0 : Nat) (v1 : Option Nat) (v2 : Option Nat) (v3 : Option Nat) (v4 : Int32) (h : qH) : Prop := WA D m_L_law Q X 437 [(0, va_rf (some v0)), (1, va_rf v1), (2, va_rf v2), (3, va_rf v3), (4, .int v4)] [] h
def L_L_law_565 (D : qD) (Q : Option Value → qH → Prop) (X : String → qH → Prop) (v0 : Nat) (v1 : Option Nat) (v2 : Option Nat) (v3 : Option Nat) (v4 : Int32) (h : qH) : Prop := WA D m_L_law Q X 565 [(0, va_rf (some v0)), (1, va_rf v1), (2, va_rf v2), (3, va_rf v3), (4, .int v4)] [] h
def L_L_law_669 (D : qD) (Q : Option Value → qH → Prop) (X : String → qH → Prop) (v0 : Nat) (v1 : Option Nat) (v2 : Option Nat) (v3 : Option Nat) (v4 : Int32) (h : qH) : Prop := WA D m_L_law Q X 669 [(0, va_rf (some v0)), (1, va_rf v1), (2, va_rf v2), (3, va_rf v3), (4, .int v4)] [] h
def L_L_law_725 (D : qD) (Q : Option Value → qH → Prop) (X : String → qH → Prop) (v0 : Nat) (v1 : Option Nat) (v2 : Option Nat) (v3 : Option Nat) (v4 : Int32) (h : qH) : Prop := WA D m_L_law Q X 725 [(0, va_rf (some v0)), (1, va_rf v1), (2, va_rf v2), (3, va_rf v3), (4, .int v4)] [] h
def L_L_law_793 (D : qD) (Q : Option Value → qH → Prop) (X : String → qH → Prop) (v0 : Nat) (v1 : Option Nat) (v2 : Option Nat) (v3 : Option Nat) (v4 : Int32) (h : qH) : Prop := WA D m_L_law Q X 793 [(0, va_rf (some v0)), (1, va_rf v1), (2, va_rf v2), (3, va_rf v3), (4, .int v4)] [] h
def L_L_law_817 (D : qD) (Q : Option Value → qH → Prop) (X : String → qH → Prop) (v0 : Nat) (v1 : Option Nat) (v2 : Option Nat) (v3 : Option Nat) (v4 : Int32) (s0 : Int32) (s1 : Int32) (s2 : Option Nat) (h : qH) : Prop := WA D m_L_law Q X 817 [(0, va_rf (some v0)), (1, va_rf v1), (2, va_rf v2), (3, va_rf v3), (4, .int v4)] [.int s0, .int s1, va_rf s2] h
def L_L_law_957 (D : qD) (Q : Option Value → qH → Prop) (X : String → qH → Prop) (v0 : Nat) (v1 : Option Nat) (v2 : Option Nat) (v3 : Option Nat) (v4 : Int32) (h : qH) : Prop := WA D m_L_law Q X 957 [(0, va_rf (some v0)), (1, va_rf v1), (2, va_rf v2), (3, va_rf v3), (4, .int v4)] [] h
def L_L_law_1025 (D : qD) (Q : Option Value → qH → Prop) (X : String → qH → Prop) (v0 : Nat) (v1 : Option Nat) (v2 : Option Nat) (v3 : Option Nat) (v4 : Int32) (h : qH) : Prop := WA D m_L_law Q X 1025 [(0, va_rf (some v0)), (1, va_rf v1), (2, va_rf v2), (3, va_rf v3), (4, .int v4)] [] h
def L_L_law_1081 (D : qD) (Q : Option Value → qH → Prop) (X : String → qH → Prop) (v0 : Nat) (v1 : Option Nat) (v2 : Option Nat) (v3 : Option Nat) (v4 : Int32) (h : qH) : Prop := WA D m_L_law Q X 1081 [(0, va_rf (some v0)), (1, va_rf v1), (2, va_rf v2), (3, va_rf v3), (4, .int v4)] [] h
def L_L_law_1137 (D : qD) (Q : Option Value → qH → Prop) (X : String → qH → Prop) (v0 : Nat) (v1 : Option Nat) (v2 : Option Nat) (v3 : Option Nat) (v4 : Int32) (h : qH) : Prop := WA D m_L_law Q X 1137 [(0, va_rf (some v0)), (1, va_rf v1), (2, va_rf v2), (3, va_rf v3), (4, .int v4)] [] h
def L_L_law_1205 (D : qD) (Q : Option Value → qH → Prop) (X : String → qH → Prop) (v0 : Nat) (v1 : Option Nat) (v2 : Option Nat) (v3 : Option Nat) (v4 : Int32) (h : qH) : Prop := WA D m_L_law Q X 1205 [(0, va_rf (some v0)), (1, va_rf v1), (2, va_rf v2), (3, va_rf v3), (4, .int v4)] [] h
def L_L_law_1285 (D : qD) (Q : Option Value → qH → Prop) (X : String → qH → Prop) (v0 : Nat) (v1 : Option Nat) (v2 : Option Nat) (v3 : Option Nat) (v4 : Int32) (h : qH) : Prop := WA D m_L_law Q X 1285 [(0, va_rf (some v0)), (1, va_rf v1), (2, va_rf v2), (3, va_rf v3), (4, .int v4)] [] h
def L_L_law_1353 (D : qD) (Q : Option Value → qH → Prop) (X : String → qH → Prop) (v0 : Nat) (v1 : Option Nat) (v2 : Option Nat) (v3 : Option Nat) (v4 : Int32) (h : qH) : Prop := WA D m_L_law Q X 1353 [(0, va_rf (some v0)), (1, va_rf v1), (2, va_rf v2), (3, va_rf v3), (4, .int v4)] [] h
def L_L_law_1445 (D : qD) (Q : Option Value → qH → Prop) (X : String → qH → Prop) (v0 : Nat) (v1 : Option Nat) (v2 : Option Nat) (v3 : Option Nat) (v4 : Int32) (h : qH) : Prop := WA D m_L_law Q X 1445 [(0, va_rf (some v0)), (1, va_rf v1), (2, va_rf v2), (3, va_rf v3), (4, .int v4)] [] h
def L_L_law_1513 (D : qD) (Q : Option Value → qH → Prop) (X : String → qH → Prop) (v0 : Nat) (v1 : Option Nat) (v2 : Option Nat) (v3 : Option Nat) (v4 : Int32) (h : qH) : Prop := WA D m_L_law Q X 1513 [(0, va_rf (some v0)), (1, va_rf v1), (2, va_rf v2), (3, va_rf v3), (4, .int v4)] [] h
def L_L_law_1588 (D : qD) (Q : Option Value → qH → Prop) (X : String → qH → Prop) (v0 : Nat) (v1 : Option Nat) (v2 : Option Nat) (v3 : Option Nat) (v4 : Int32) (h : qH) : Prop := WA D m_L_law Q X 1588 [(0, va_rf (some v0)), (1, va_rf v1), (2, va_rf v2), (3, va_rf v3), (4, .int v4)] [] h
def L_L_law_1582 (D : qD) (Q : Option Value → qH → Prop) (X : String → qH → Prop) (v0 : Nat) (v1 : Option Nat) (v2 : Option Nat) (v3 : Option Nat) (v4 : Int32) (s0 : Int64) (s1 : Int64) (h : qH) : Prop := WA D m_L_law Q X 1582 [(0, va_rf (some v0)), (1, va_rf v1), (2, va_rf v2), (3, va_rf v3), (4, .int v4)] [.long s0, .long s1] h
def L_L_law_850 (D : qD) (Q : Option Value → qH → Prop) (X : String → qH → Prop) (v0 : Nat) (v1 : Option Nat) (v2 : Option Nat) (v3 : Option Nat) (v4 : Int32) (v5 : Int32) (s0 : Int32) (s1 : Int32) (s2 : Option Nat) (h : qH) : Prop := WA D m_L_law Q X 850 [(0, va_rf (some v0)), (1, va_rf v1), (2, va_rf v2), (3, va_rf v3), (4, .int v4), (5, .int v5)] [.int s0, .int s1, va_rf s2] h
def L_L_law_889 (D : qD) (Q : Option Value → qH → Prop) (X : String → qH → Prop) (v0 : Nat) (v1 : Option Nat) (v2 : Option Nat) (v3 : Option Nat) (v4 : Int32) (h : qH) : Prop := WA D m_L_law Q X 889 [(0, va_rf (some v0)), (1, va_rf v1), (2, va_rf v2), (3, va_rf v3), (4, .int v4)] [] h
theorem f_L_law {D : qD} {Q : Option Value → qH → Prop} {X : String → qH → Prop} (p0 : Nat) (h : qH) (F : n_O h 0 11 tyX1 (fun a1 h2 => c_V D m_X1_init [va_rf (some a1)] h2 X (fun h3 => n_O h3 2 38 tyX3 (fun a4 h5 => c_V D m_X3_init [va_rf (some a4)] h5 X (fun h6 => n_L h6 1 (fun a7 h8 => L_L_law_23 D Q X p0 (some a1) (some a4) (some a7) 0 h8)))))) : WA D m_L_law Q X 0 [(0, va_rf (some p0))] [] h := by
  refine (show WA D m_L_law Q X 0 [(0, va_rf (some p0))] [] h from ?_)
  refine wa_new (C := RX1) (T := TX1) tyX1 dL_law_0 rfl in_X1 tyX1_ok q85 q86 q54 (n_O_mono F fun a1 h2 F => ?_)
  refine wa_dup dL_law_3 (q_cat _) ?_
  refine wa_callI (M' := m_X1_init) (b := a1) (As := []) (st := [va_rf (some a1)]) dL_law_4 ⟨Nat.le_of_ble_eq_true rfl, Nat.le_of_ble_eq_true rfl, nk_X1_init⟩ rfl rfl q87 q88 q54 q89 rfl rfl (q_cs_le (q_csr q_cs0) (Nat.le_of_ble_eq_true rfl)) rfl F (wk_V fun h3 F => ?_)
  refine ws_astore_n (lv' := [(1, va_rf (some a1)), (0, va_rf (some p0))]) dL_law_7 rfl (Nat.le_of_ble_eq_true rfl) (q_cr q_cn) rfl ?_
  refine wa_new (C := RX3) (T := TX3) tyX3 dL_law_8 rfl in_X3 tyX3_ok q1186 q1187 q59 (n_O_mono F fun a4 h5 F => ?_)
  refine wa_dup dL_law_11 (q_cat _) ?_
  refine wa_callI (M' := m_X3_init) (b := a4) (As := []) (st := [va_rf (some a4)]) dL_law_12 ⟨Nat.le_of_ble_eq_true rfl, Nat.le_of_ble_eq_true rfl, nk_X3_init⟩ rfl rfl q1188 q1189 q59 q1190 rfl rfl (q_cs_le (q_csr q_cs0) (Nat.le_of_ble_eq_true rfl)) rfl F (wk_V fun h6 F => ?_)
  refine ws_astore_n (lv' := [(2, va_rf (some a4)), (1, va_rf (some a1)), (0, va_rf (some p0))]) dL_law_15 rfl (Nat.le_of_ble_eq_true rfl) (q_cr (q_cr q_cn)) rfl ?_
  refine wa_iconst (v := 1) dL_law_16 rfl ?_
  refine wa_newL q1537 dL_law_17 (n_L_mono F fun a7 h8 F => ?_)
  refine ws_astore_n (lv' := [(3, va_rf (some a7)), (2, va_rf (some a4)), (1, va_rf (some a1)), (0, va_rf (some p0))]) dL_law_19 rfl (Nat.le_of_ble_eq_true rfl) (q_cr (q_cr (q_cr q_cn))) rfl ?_
  refine wa_iconst (v := 0) dL_law_20 rfl ?_
  refine ws_istore (lv' := [(4, .int 0), (3, va_rf (some a7)), (2, va_rf (some a4)), (1, va_rf (some a1)), (0, va_rf (some p0))]) dL_law_21 (Nat.le_of_ble_eq_true rfl) (q_cr (q_cr (q_cr (q_cr q_cn)))) rfl ?_
  exact wa_sub [4, 3, 2, 1, 0] rfl F
theorem f_L_law_23 {D : qD} {Q : Option Value → qH → Prop} {X : String → qH → Prop} (v0 : Nat) (v1 : Option Nat) (v2 : Option Nat) (v3 : Option Nat) (v4 : Int32) (h : qH) (F : a_N D h (some v0) (fun x1 => (((x1 - 5) < v4 → Q (some (.int 1)) h) ∧ (¬ (x1 - 5) < v4 → a_I D h (some v0) 9 v4 (fun x2 => (((x2 &&& 31) = 0 → L_L_law_140 D Q X v0 v1 v2 v3 v4 h) ∧ ((x2 &&& 31) = 1 → L_L_law_232 D Q X v0 v1 v2 v3 v4 h) ∧ ((x2 &&& 31) = 2 → L_L_law_288 D Q X v0 v1 v2 v3 v4 h) ∧ ((x2 &&& 31) = 3 → L_L_law_360 D Q X v0 v1 v2 v3 v4 h) ∧ ((x2 &&& 31) = 4 → L_L_law_440 D Q X v0 v1 v2 v3 v4 h) ∧ ((x2 &&& 31) = 5 → L_L_law_500 D Q X v0 v1 v2 v3 v4 h) ∧ ((x2 &&& 31) = 6 → L_L_law_568 D Q X v0 v1 v2 v3 v4 h) ∧ ((x2 &&& 31) = 7 → L_L_law_616 D Q X v0 v1 v2 v3 v4 h) ∧ ((x2 &&& 31) = 8 → L_L_law_672 D Q X v0 v1 v2 v3 v4 h) ∧ ((x2 &&& 31) = 9 → L_L_law_728 D Q X v0 v1 v2 v3 v4 h) ∧ ((x2 &&& 31) = 10 → L_L_law_796 D Q X v0 v1 v2 v3 v4 h) ∧ ((x2 &&& 31) = 11 → L_L_law_892 D Q X v0 v1 v2 v3 v4 h) ∧ ((x2 &&& 31) = 12 → L_L_law_960 D Q X v0 v1 v2 v3 v4 h) ∧ ((x2 &&& 31) = 13 → L_L_law_1028 D Q X v0 v1 v2 v3 v4 h) ∧ ((x2 &&& 31) = 14 → L_L_law_1084 D Q X v0 v1 v2 v3 v4 h) ∧ ((x2 &&& 31) = 15 → L_L_law_1140 D Q X v0 v1 v2 v3 v4 h) ∧ ((x2 &&& 31) = 16 → L_L_law_1208 D Q X v0 v1 v2 v3 v4 h) ∧ ((x2 &&& 31) = 17 → L_L_law_1288 D Q X v0 v1 v2 v3 v4 h) ∧ ((x2 &&& 31) = 18 → L_L_law_1356 D Q X v0 v1 v2 v3 v4 h) ∧ ((x2 &&& 31) = 19 → L_L_law_1448 D Q X v0 v1 v2 v3 v4 h) ∧ ((x2 &&& 31) = 20 → L_L_law_1516 D Q X v0 v1 v2 v3 v4 h) ∧ ((x2 &&& 31) = 21 → L_L_law_1591 D Q X v0 v1 v2 v3 v4 h) ∧ (¬ (x2 &&& 31) = 0 → ¬ (x2 &&& 31) = 1 → ¬ (x2 &&& 31) = 2 → ¬ (x2 &&& 31) = 3 → ¬ (x2 &&& 31) = 4 → ¬ (x2 &&& 31) = 5 → ¬ (x2 &&& 31) = 6 → ¬ (x2 &&& 31) = 7 → ¬ (x2 &&& 31) = 8 → ¬ (x2 &&& 31) = 9 → ¬ (x2 &&& 31) = 10 → ¬ (x2 &&& 31) = 11 → ¬ (x2 &&& 31) = 12 → ¬ (x2 &&& 31) = 13 → ¬ (x2 &&& 31) = 14 → ¬ (x2 &&& 31) = 15 → ¬ (x2 &&& 31) = 16 → ¬ (x2 &&& 31) = 17 → ¬ (x2 &&& 31) = 18 → ¬ (x2 &&& 31) = 19 → ¬ (x2 &&& 31) = 20 → ¬ (x2 &&& 31) = 21 → L_L_law_1604 D Q X v0 v1 v2 v3 v4 h))))))) : L_L_law_23 D Q X v0 v1 v2 v3 v4 h := by
  show WA D m_L_law Q X 23 [(0, va_rf (some v0)), (1, va_rf v1), (2, va_rf v2), (3, va_rf v3), (4, .int v4)] [] h
  refine wa_iload (x := v4) dL_law_23 4 rfl ?_
  refine wa_aload_n (o := (some v0)) dL_law_25 rfl 0 rfl ?_
  refine wa_alen dL_law_26 (a_N_mono F fun x1 F => ?_)
  refine wa_iconst (v := 5) dL_law_27 rfl ?_
  refine wa_isub dL_law_28 ?_
  refine wa_icmp_gt (tgt := 1610) dL_law_29 rfl (fun z => ?_) (fun z => ?_)
  · have F := F.1 z
    refine wa_iconst (v := 1) dL_law_1610 rfl ?_
    exact wa_zret rfl rfl dL_law_1611 F
  · have F := F.2 z
    refine wa_aload_n (o := (some v0)) dL_law_32 rfl 0 rfl ?_
    refine wa_iload (x := v4) dL_law_33 4 rfl ?_
    refine wa_iald9 dL_law_35 (a_I_mono F fun x2 F => ?_)
    refine wa_bipush (v := 31) dL_law_36 rfl ?_
    refine wa_iand dL_law_38 ?_
    by_cases z0 : (x2 &&& 31) = 0
    · have F := (F.1 z0)
      refine wa_tableIn (tgt := 140) (off := 101) dL_law_39 (by rw [z0]; decide) (by rw [z0]; decide) (by rw [z0]; rfl) rfl ?_
      exact F
    have F := F.2
    by_cases z1 : (x2 &&& 31) = 1
    · have F := (F.1 z1)
      refine wa_tableIn (tgt := 232) (off := 193) dL_law_39 (by rw [z1]; decide) (by rw [z1]; decide) (by rw [z1]; rfl) rfl ?_
      exact F
    have F := F.2
    by_cases z2 : (x2 &&& 31) = 2
    · have F := (F.1 z2)
      refine wa_tableIn (tgt := 288) (off := 249) dL_law_39 (by rw [z2]; decide) (by rw [z2]; decide) (by rw [z2]; rfl) rfl ?_
      exact F
    have F := F.2
    by_cases z3 : (x2 &&& 31) = 3
    · have F := (F.1 z3)
      refine wa_tableIn (tgt := 360) (off := 321) dL_law_39 (by rw [z3]; decide) (by rw [z3]; decide) (by rw [z3]; rfl) rfl ?_
      exact F
    have F := F.2
    by_cases z4 : (x2 &&& 31) = 4
    · have F := (F.1 z4)
      refine wa_tableIn (tgt := 440) (off := 401) dL_law_39 (by rw [z4]; decide) (by rw [z4]; decide) (by rw [z4]; rfl) rfl ?_
      exact F
    have F := F.2
    by_cases z5 : (x2 &&& 31) = 5
    · have F := (F.1 z5)
      refine wa_tableIn (tgt := 500) (off := 461) dL_law_39 (by rw [z5]; decide) (by rw [z5]; decide) (by rw [z5]; rfl) rfl ?_
      exact F
    have F := F.2
    by_cases z6 : (x2 &&& 31) = 6
    · have F := (F.1 z6)
      refine wa_tableIn (tgt := 568) (off := 529) dL_law_39 (by rw [z6]; decide) (by rw [z6]; decide) (by rw [z6]; rfl) rfl ?_
      exact F
    have F := F.2
    by_cases z7 : (x2 &&& 31) = 7
    · have F := (F.1 z7)
      refine wa_tableIn (tgt := 616) (off := 577) dL_law_39 (by rw [z7]; decide) (by rw [z7]; decide) (by rw [z7]; rfl) rfl ?_
      exact F
    have F := F.2
    by_cases z8 : (x2 &&& 31) = 8
    · have F := (F.1 z8)
      refine wa_tableIn (tgt := 672) (off := 633) dL_law_39 (by rw [z8]; decide) (by rw [z8]; decide) (by rw [z8]; rfl) rfl ?_
      exact F
    have F := F.2
    by_cases z9 : (x2 &&& 31) = 9
    · have F := (F.1 z9)
      refine wa_tableIn (tgt := 728) (off := 689) dL_law_39 (by rw [z9]; decide) (by rw [z9]; decide) (by rw [z9]; rfl) rfl ?_
      exact F
    have F := F.2
    by_cases z10 : (x2 &&& 31) = 10
    · have F := (F.1 z10)
      refine wa_tableIn (tgt := 796) (off := 757) dL_law_39 (by rw [z10]; decide) (by rw [z10]; decide) (by rw [z10]; rfl) rfl ?_
      exact F
    have F := F.2
    by_cases z11 : (x2 &&& 31) = 11
    · have F := (F.1 z11)
      refine wa_tableIn (tgt := 892) (off := 853) dL_law_39 (by rw [z11]; decide) (by rw [z11]; decide) (by rw [z11]; rfl) rfl ?_
      exact F
    have F := F.2
    by_cases z12 : (x2 &&& 31) = 12
    · have F := (F.1 z12)
      refine wa_tableIn (tgt := 960) (off := 921) dL_law_39 (by rw [z12]; decide) (by rw [z12]; decide) (by rw [z12]; rfl) rfl ?_
      exact F
    have F := F.2
    by_cases z13 : (x2 &&& 31) = 13
    · have F := (F.1 z13)
      refine wa_tableIn (tgt := 1028) (off := 989) dL_law_39 (by rw [z13]; decide) (by rw [z13]; decide) (by rw [z13]; rfl) rfl ?_
      exact F
    have F := F.2
    by_cases z14 : (x2 &&& 31) = 14
    · have F := (F.1 z14)
      refine wa_tableIn (tgt := 1084) (off := 1045) dL_law_39 (by rw [z14]; decide) (by rw [z14]; decide) (by rw [z14]; rfl) rfl ?_
      exact F
    have F := F.2
    by_cases z15 : (x2 &&& 31) = 15
    · have F := (F.1 z15)
      refine wa_tableIn (tgt := 1140) (off := 1101) dL_law_39 (by rw [z15]; decide) (by rw [z15]; decide) (by rw [z15]; rfl) rfl ?_
      exact F
    have F := F.2
    by_cases z16 : (x2 &&& 31) = 16
    · have F := (F.1 z16)
      refine wa_tableIn (tgt := 1208) (off := 1169) dL_law_39 (by rw [z16]; decide) (by rw [z16]; decide) (by rw [z16]; rfl) rfl ?_
      exact F
    have F := F.2
    by_cases z17 : (x2 &&& 31) = 17
    · have F := (F.1 z17)
      refine wa_tableIn (tgt := 1288) (off := 1249) dL_law_39 (by rw [z17]; decide) (by rw [z17]; decide) (by rw [z17]; rfl) rfl ?_
      exact F
    have F := F.2
    by_cases z18 : (x2 &&& 31) = 18
    · have F := (F.1 z18)
      refine wa_tableIn (tgt := 1356) (off := 1317) dL_law_39 (by rw [z18]; decide) (by rw [z18]; decide) (by rw [z18]; rfl) rfl ?_
      exact F
    have F := F.2
    by_cases z19 : (x2 &&& 31) = 19
    · have F := (F.1 z19)
      refine wa_tableIn (tgt := 1448) (off := 1409) dL_law_39 (by rw [z19]; decide) (by rw [z19]; decide) (by rw [z19]; rfl) rfl ?_
      exact F
    have F := F.2
    by_cases z20 : (x2 &&& 31) = 20
    · have F := (F.1 z20)
      refine wa_tableIn (tgt := 1516) (off := 1477) dL_law_39 (by rw [z20]; decide) (by rw [z20]; decide) (by rw [z20]; rfl) rfl ?_
      exact F
    have F := F.2
    by_cases z21 : (x2 &&& 31) = 21
    · have F := (F.1 z21)
      refine wa_tableIn (tgt := 1591) (off := 1552) dL_law_39 (by rw [z21]; decide) (by rw [z21]; decide) (by rw [z21]; rfl) rfl ?_
      exact F
    have F := F.2
    have F := F z0 z1 z2 z3 z4 z5 z6 z7 z8 z9 z10 z11 z12 z13 z14 z15 z16 z17 z18 z19 z20 z21
    refine wa_tableOut (tgt := 1604) dL_law_39 (q_out_0_22 (lv_neT z0 rfl) (lv_neT z1 rfl) (lv_neT z2 rfl) (lv_neT z3 rfl) (lv_neT z4 rfl) (lv_neT z5 rfl) (lv_neT z6 rfl) (lv_neT z7 rfl) (lv_neT z8 rfl) (lv_neT z9 rfl) (lv_neT z10 rfl) (lv_neT z11 rfl) (lv_neT z12 rfl) (lv_neT z13 rfl) (lv_neT z14 rfl) (lv_neT z15 rfl) (lv_neT z16 rfl) (lv_neT z17 rfl) (lv_neT z18 rfl) (lv_neT z19 rfl) (lv_neT z20 rfl) (lv_neT z21 rfl)) rfl ?_
    exact F
theorem f_L_law_140 {D : qD} {Q : Option Value → qH → Prop} {X : String → qH → Prop} (v0 : Nat) (v1 : Option Nat) (v2 : Option Nat) (v3 : Option Nat) (v4 : Int32) (h : qH) (F : a_I D h (some v0) 9 (v4 + 1) (fun x1 => a_I D h (some v0) 9 (v4 + 2) (fun x2 => a_I D h (some v0) 9 (v4 + 3) (fun x3 => a_I D h (some v0) 9 (v4 + 4) (fun x4 => c_IW D m_X0_put [va_rf v1, .int x1, .int x2, .int x3, .int x4, va_rf v3] h X (fun x6 h5 => a_I D h5 (some v0) 9 (v4 + 1) (fun x7 => a_I D h5 (some v0) 9 (v4 + 2) (fun x8 => a_I D h5 (some v0) 9 (v4 + 3) (fun x9 => a_I D h5 (some v0) 9 (v4 + 4) (fun x10 => (recv D h5 v2 RX3 ∧ c_I D m_X3_put [va_rf v2, .int x7, .int x8, .int x9, .int x10] h5 X (fun x12 h11 => (recv D h11 v2 RX3 ∧ c_I D m_X3_thrown [va_rf v2] h11 X (fun x14 h13 => ((x14 = x6 → ((¬ x6 = 0 → L_L_law_229 D Q X v0 v1 v2 v3 v4 h13) ∧ (x6 = 0 → a_L D h13 v3 0 (fun y15 => (((lg_cmp y15 x12.toInt64) = 0 → L_L_law_229 D Q X v0 v1 v2 v3 v4 h13) ∧ (¬ (lg_cmp y15 x12.toInt64) = 0 → Q (some (.int 0)) h13)))))) ∧ (¬ x14 = x6 → Q (some (.int 0)) h13)))))))))))))))) : L_L_law_140 D Q X v0 v1 v2 v3 v4 h := by
  show WA D m_L_law Q X 140 [(0, va_rf (some v0)), (1, va_rf v1), (2, va_rf v2), (3, va_rf v3), (4, .int v4)] [] h
  refine wa_aload_n (o := v1) dL_law_140 rfl 1 rfl ?_
  refine wa_aload_n (o := (some v0)) dL_law_141 rfl 0 rfl ?_
  refine wa_iload (x := v4) dL_law_142 4 rfl ?_
  refine wa_iconst (v := 1) dL_law_144 rfl ?_
  refine wa_iadd dL_law_145 ?_
  refine wa_iald9 dL_law_146 (a_I_mono F fun x1 F => ?_)
  refine wa_aload_n (o := (some v0)) dL_law_147 rfl 0 rfl ?_
  refine wa_iload (x := v4) dL_law_148 4 rfl ?_
  refine wa_iconst (v := 2) dL_law_150 rfl ?_
  refine wa_iadd dL_law_151 ?_
  refine wa_iald9 dL_law_152 (a_I_mono F fun x2 F => ?_)
  refine wa_aload_n (o := (some v0)) dL_law_153 rfl 0 rfl ?_
  refine wa_iload (x := v4) dL_law_154 4 rfl ?_
  refine wa_iconst (v := 3) dL_law_156 rfl ?_
  refine wa_iadd dL_law_157 ?_
  refine wa_iald9 dL_law_158 (a_I_mono F fun x3 F => ?_)
  refine wa_aload_n (o := (some v0)) dL_law_159 rfl 0 rfl ?_
  refine wa_iload (x := v4) dL_law_160 4 rfl ?_
  refine wa_iconst (v := 4) dL_law_162 rfl ?_
  refine wa_iadd dL_law_163 ?_
  refine wa_iald9 dL_law_164 (a_I_mono F fun x4 F => ?_)
  refine wa_aload_n (o := v3) dL_law_165 rfl 3 rfl ?_
  refine wa_callSH (M' := m_X0_put) (As := [va_rf v1, .int x1, .int x2, .int x3, .int x4, va_rf v3]) (st := []) dL_law_166 ⟨Nat.le_of_ble_eq_true rfl, Nat.le_of_ble_eq_true rfl, nk_X0_put⟩ q201 q202 q53 q203 rfl rfl (Nat.zero_le 8) rfl F (wk_I fun x6 h5 F => ?_)
  refine ws_istore (lv' := [(5, .int x6), (0, va_rf (some v0)), (1, va_rf v1), (2, va_rf v2), (3, va_rf v3), (4, .int v4)]) dL_law_169 (Nat.le_of_ble_eq_true rfl) (q_cr (q_cr (q_cr (q_cr (q_ci q_cn))))) rfl ?_
  refine wa_aload_n (o := v2) dL_law_171 rfl 3 rfl ?_
  refine wa_aload_n (o := (some v0)) dL_law_172 rfl 1 rfl ?_
  refine wa_iload (x := v4) dL_law_173 5 rfl ?_
  refine wa_iconst (v := 1) dL_law_175 rfl ?_
  refine wa_iadd dL_law_176 ?_
  refine wa_iald9 dL_law_177 (a_I_mono F fun x7 F => ?_)
  refine wa_aload_n (o := (some v0)) dL_law_178 rfl 1 rfl ?_
  refine wa_iload (x := v4) dL_law_179 5 rfl ?_
  refine wa_iconst (v := 2) dL_law_181 rfl ?_
  refine wa_iadd dL_law_182 ?_
  refine wa_iald9 dL_law_183 (a_I_mono F fun x8 F => ?_)
  refine wa_aload_n (o := (some v0)) dL_law_184 rfl 1 rfl ?_
  refine wa_iload (x := v4) dL_law_185 5 rfl ?_
  refine wa_iconst (v := 3) dL_law_187 rfl ?_
  refine wa_iadd dL_law_188 ?_
  refine wa_iald9 dL_law_189 (a_I_mono F fun x9 F => ?_)
  refine wa_aload_n (o := (some v0)) dL_law_190 rfl 1 rfl ?_
  refine wa_iload (x := v4) dL_law_191 5 rfl ?_
  refine wa_iconst (v := 4) dL_law_193 rfl ?_
  refine wa_iadd dL_law_194 ?_
  refine wa_iald9 dL_law_195 (a_I_mono F fun x10 F => ?_)
  refine wa_callV (M' := m_X3_put) (C := RX3) (o := v2) (As := [.int x7, .int x8, .int x9, .int x10]) (st := []) dL_law_196 ⟨Nat.le_of_ble_eq_true rfl, Nat.le_of_ble_eq_true rfl, nk_X3_put⟩ q1312 q1313 q1314 q59 q1315 rfl rfl (Nat.zero_le 8) rfl F.1 F.2 (wk_I fun x12 h11 F => ?_)
  refine ws_istore (lv' := [(6, .int x12), (5, .int x6), (0, va_rf (some v0)), (1, va_rf v1), (2, va_rf v2), (3, va_rf v3), (4, .int v4)]) dL_law_199 (Nat.le_of_ble_eq_true rfl) (q_ci (q_cr (q_cr (q_cr (q_cr (q_ci q_cn)))))) rfl ?_
  refine wa_aload_n (o := v2) dL_law_201 rfl 4 rfl ?_
  refine wa_callV (M' := m_X3_thrown) (C := RX3) (o := v2) (As := []) (st := []) dL_law_202 ⟨Nat.le_of_ble_eq_true rfl, Nat.le_of_ble_eq_true rfl, nk_X3_thrown⟩ q1308 q1309 q1310 q59 q1311 rfl rfl (Nat.zero_le 8) rfl F.1 F.2 (wk_I fun x14 h13 F => ?_)
  refine wa_iload (x := x6) dL_law_205 1 rfl ?_
  refine wa_icmp_eq (tgt := 212) dL_law_207 rfl (fun z => ?_) (fun z => ?_)
  · have F := F.1 z
    refine wa_iload (x := x6) dL_law_212 1 rfl ?_
    refine wa_if_ne (tgt := 229) dL_law_214 rfl (fun z => ?_) (fun z => ?_)
    · have F := F.1 z
      exact wa_sub [2, 3, 4, 5, 6] rfl F
    · have F := F.2 z
      refine wa_aload_n (o := v3) dL_law_217 rfl 5 rfl ?_
      refine wa_iconst (v := 0) dL_law_218 rfl ?_
      refine wa_lald dL_law_219 (a_L_mono F fun y15 F => ?_)
      refine wa_iload (x := x12) dL_law_220 0 rfl ?_
      refine wa_i2l dL_law_222 ?_
      refine wa_lcmp dL_law_223 ?_
      refine wa_if_eq (tgt := 229) dL_law_224 rfl (fun z => ?_) (fun z => ?_)
      · have F := F.1 z
        exact wa_sub [2, 3, 4, 5, 6] rfl F
      · have F := F.2 z
        refine wa_iconst (v := 0) dL_law_227 rfl ?_
        exact wa_zret rfl rfl dL_law_228 F
  · have F := F.2 z
    refine wa_iconst (v := 0) dL_law_210 rfl ?_
    exact wa_zret rfl rfl dL_law_211 F
theorem f_L_law_232 {D : qD} {Q : Option Value → qH → Prop} {X : String → qH → Prop} (v0 : Nat) (v1 : Option Nat) (v2 : Option Nat) (v3 : Option Nat) (v4 : Int32) (h : qH) (F : a_I D h (some v0) 9 (v4 + 1) (fun x1 => c_IW D m_X0_take [va_rf v1, .int x1, va_rf v3] h X (fun x3 h2 => a_I D h2 (some v0) 9 (v4 + 1) (fun x4 => (recv D h2 v2 RX3 ∧ c_I D m_X3_take [va_rf v2, .int x4] h2 X (fun x6 h5 => (recv D h5 v2 RX3 ∧ c_I D m_X3_thrown [va_rf v2] h5 X (fun x8 h7 => ((x8 = x3 → ((¬ x3 = 0 → L_L_law_285 D Q X v0 v1 v2 v3 v4 h7) ∧ (x3 = 0 → a_L D h7 v3 0 (fun y9 => (((lg_cmp y9 x6.toInt64) = 0 → L_L_law_285 D Q X v0 v1 v2 v3 v4 h7) ∧ (¬ (lg_cmp y9 x6.toInt64) = 0 → Q (some (.int 0)) h7)))))) ∧ (¬ x8 = x3 → Q (some (.int 0)) h7)))))))))) : L_L_law_232 D Q X v0 v1 v2 v3 v4 h := by
  show WA D m_L_law Q X 232 [(0, va_rf (some v0)), (1, va_rf v1), (2, va_rf v2), (3, va_rf v3), (4, .int v4)] [] h
  refine wa_aload_n (o := v1) dL_law_232 rfl 1 rfl ?_
  refine wa_aload_n (o := (some v0)) dL_law_233 rfl 0 rfl ?_
  refine wa_iload (x := v4) dL_law_234 4 rfl ?_
  refine wa_iconst (v := 1) dL_law_236 rfl ?_
  refine wa_iadd dL_law_237 ?_
  refine wa_iald9 dL_law_238 (a_I_mono F fun x1 F => ?_)
  refine wa_aload_n (o := v3) dL_law_239 rfl 3 rfl ?_
  refine wa_callSH (M' := m_X0_take) (As := [va_rf v1, .int x1, va_rf v3]) (st := []) dL_law_240 ⟨Nat.le_of_ble_eq_true rfl, Nat.le_of_ble_eq_true rfl, nk_X0_take⟩ q678 q679 q53 q680 rfl rfl (Nat.zero_le 8) rfl F (wk_I fun x3 h2 F => ?_)
  refine ws_istore (lv' := [(5, .int x3), (0, va_rf (some v0)), (1, va_rf v1), (2, va_rf v2), (3, va_rf v3), (4, .int v4)]) dL_law_243 (Nat.le_of_ble_eq_true rfl) (q_cr (q_cr (q_cr (q_cr (q_ci q_cn))))) rfl ?_
  refine wa_aload_n (o := v2) dL_law_245 rfl 3 rfl ?_
  refine wa_aload_n (o := (some v0)) dL_law_246 rfl 1 rfl ?_
  refine wa_iload (x := v4) dL_law_247 5 rfl ?_
  refine wa_iconst (v := 1) dL_law_249 rfl ?_
  refine wa_iadd dL_law_250 ?_
  refine wa_iald9 dL_law_251 (a_I_mono F fun x4 F => ?_)
  refine wa_callV (M' := m_X3_take) (C := RX3) (o := v2) (As := [.int x4]) (st := []) dL_law_252 ⟨Nat.le_of_ble_eq_true rfl, Nat.le_of_ble_eq_true rfl, nk_X3_take⟩ q1332 q1333 q1334 q59 q1335 rfl rfl (Nat.zero_le 8) rfl F.1 F.2 (wk_I fun x6 h5 F => ?_)
  refine ws_istore (lv' := [(6, .int x6), (5, .int x3), (0, va_rf (some v0)), (1, va_rf v1), (2, va_rf v2), (3, va_rf v3), (4, .int v4)]) dL_law_255 (Nat.le_of_ble_eq_true rfl) (q_ci (q_cr (q_cr (q_cr (q_cr (q_ci q_cn)))))) rfl ?_
  refine wa_aload_n (o := v2) dL_law_257 rfl 4 rfl ?_
  refine wa_callV (M' := m_X3_thrown) (C := RX3) (o := v2) (As := []) (st := []) dL_law_258 ⟨Nat.le_of_ble_eq_true rfl, Nat.le_of_ble_eq_true rfl, nk_X3_thrown⟩ q1308 q1309 q1310 q59 q1311 rfl rfl (Nat.zero_le 8) rfl F.1 F.2 (wk_I fun x8 h7 F => ?_)
  refine wa_iload (x := x3) dL_law_261 1 rfl ?_
  refine wa_icmp_eq (tgt := 268) dL_law_263 rfl (fun z => ?_) (fun z => ?_)
  · have F := F.1 z
    refine wa_iload (x := x3) dL_law_268 1 rfl ?_
    refine wa_if_ne (tgt := 285) dL_law_270 rfl (fun z => ?_) (fun z => ?_)
    · have F := F.1 z
      exact wa_sub [2, 3, 4, 5, 6] rfl F
    · have F := F.2 z
      refine wa_aload_n (o := v3) dL_law_273 rfl 5 rfl ?_
      refine wa_iconst (v := 0) dL_law_274 rfl ?_
      refine wa_lald dL_law_275 (a_L_mono F fun y9 F => ?_)
      refine wa_iload (x := x6) dL_law_276 0 rfl ?_
      refine wa_i2l dL_law_278 ?_
      refine wa_lcmp dL_law_279 ?_
      refine wa_if_eq (tgt := 285) dL_law_280 rfl (fun z => ?_) (fun z => ?_)
      · have F := F.1 z
        exact wa_sub [2, 3, 4, 5, 6] rfl F
      · have F := F.2 z
        refine wa_iconst (v := 0) dL_law_283 rfl ?_
        exact wa_zret rfl rfl dL_law_284 F
  · have F := F.2 z
    refine wa_iconst (v := 0) dL_law_266 rfl ?_
    exact wa_zret rfl rfl dL_law_267 F
theorem f_L_law_288 {D : qD} {Q : Option Value → qH → Prop} {X : String → qH → Prop} (v0 : Nat) (v1 : Option Nat) (v2 : Option Nat) (v3 : Option Nat) (v4 : Int32) (h : qH) (F : a_I D h (some v0) 9 (v4 + 1) (fun x1 => a_I D h (some v0) 9 (v4 + 2) (fun x2 => a_I D h (some v0) 9 (v4 + 3) (fun x3 => a_I D h (some v0) 9 (v4 + 4) (fun x4 => c_IW D m_X0_style [va_rf v1, .int x1, .int x2, .int x3, .int x4] h X (fun x6 h5 => a_I D h5 (some v0) 9 (v4 + 1) (fun x7 => a_I D h5 (some v0) 9 (v4 + 2) (fun x8 => a_I D h5 (some v0) 9 (v4 + 3) (fun x9 => a_I D h5 (some v0) 9 (v4 + 4) (fun x10 => (recv D h5 v2 RX3 ∧ c_V D m_X3_style [va_rf v2, .int x7, .int x8, .int x9, .int x10] h5 X (fun h11 => (recv D h11 v2 RX3 ∧ c_I D m_X3_thrown [va_rf v2] h11 X (fun x13 h12 => ((x13 = x6 → L_L_law_1604 D Q X v0 v1 v2 v3 v4 h12) ∧ (¬ x13 = x6 → Q (some (.int 0)) h12)))))))))))))))) : L_L_law_288 D Q X v0 v1 v2 v3 v4 h := by
  show WA D m_L_law Q X 288 [(0, va_rf (some v0)), (1, va_rf v1), (2, va_rf v2), (3, va_rf v3), (4, .int v4)] [] h
  refine wa_aload_n (o := v1) dL_law_288 rfl 1 rfl ?_
  refine wa_aload_n (o := (some v0)) dL_law_289 rfl 0 rfl ?_
  refine wa_iload (x := v4) dL_law_290 4 rfl ?_
  refine wa_iconst (v := 1) dL_law_292 rfl ?_
  refine wa_iadd dL_law_293 ?_
  refine wa_iald9 dL_law_294 (a_I_mono F fun x1 F => ?_)
  refine wa_aload_n (o := (some v0)) dL_law_295 rfl 0 rfl ?_
  refine wa_iload (x := v4) dL_law_296 4 rfl ?_
  refine wa_iconst (v := 2) dL_law_298 rfl ?_
  refine wa_iadd dL_law_299 ?_
  refine wa_iald9 dL_law_300 (a_I_mono F fun x2 F => ?_)
  refine wa_aload_n (o := (some v0)) dL_law_301 rfl 0 rfl ?_
  refine wa_iload (x := v4) dL_law_302 4 rfl ?_
  refine wa_iconst (v := 3) dL_law_304 rfl ?_
  refine wa_iadd dL_law_305 ?_
  refine wa_iald9 dL_law_306 (a_I_mono F fun x3 F => ?_)
  refine wa_aload_n (o := (some v0)) dL_law_307 rfl 0 rfl ?_
  refine wa_iload (x := v4) dL_law_308 4 rfl ?_
  refine wa_iconst (v := 4) dL_law_310 rfl ?_
  refine wa_iadd dL_law_311 ?_
  refine wa_iald9 dL_law_312 (a_I_mono F fun x4 F => ?_)
  refine wa_callSH (M' := m_X0_style) (As := [va_rf v1, .int x1, .int x2, .int x3, .int x4]) (st := []) dL_law_313 ⟨Nat.le_of_ble_eq_true rfl, Nat.le_of_ble_eq_true rfl, nk_X0_style⟩ q705 q706 q53 q707 rfl rfl (Nat.zero_le 8) rfl F (wk_I fun x6 h5 F => ?_)
  refine ws_istore (lv' := [(5, .int x6), (0, va_rf (some v0)), (1, va_rf v1), (2, va_rf v2), (3, va_rf v3), (4, .int v4)]) dL_law_316 (Nat.le_of_ble_eq_true rfl) (q_cr (q_cr (q_cr (q_cr (q_ci q_cn))))) rfl ?_
  refine wa_aload_n (o := v2) dL_law_318 rfl 3 rfl ?_
  refine wa_aload_n (o := (some v0)) dL_law_319 rfl 1 rfl ?_
  refine wa_iload (x := v4) dL_law_320 5 rfl ?_
  refine wa_iconst (v := 1) dL_law_322 rfl ?_
  refine wa_iadd dL_law_323 ?_
  refine wa_iald9 dL_law_324 (a_I_mono F fun x7 F => ?_)
  refine wa_aload_n (o := (some v0)) dL_law_325 rfl 1 rfl ?_
  refine wa_iload (x := v4) dL_law_326 5 rfl ?_
  refine wa_iconst (v := 2) dL_law_328 rfl ?_
  refine wa_iadd dL_law_329 ?_
  refine wa_iald9 dL_law_330 (a_I_mono F fun x8 F => ?_)
  refine wa_aload_n (o := (some v0)) dL_law_331 rfl 1 rfl ?_
  refine wa_iload (x := v4) dL_law_332 5 rfl ?_
  refine wa_iconst (v := 3) dL_law_334 rfl ?_
  refine wa_iadd dL_law_335 ?_
  refine wa_iald9 dL_law_336 (a_I_mono F fun x9 F => ?_)
  refine wa_aload_n (o := (some v0)) dL_law_337 rfl 1 rfl ?_
  refine wa_iload (x := v4) dL_law_338 5 rfl ?_
  refine wa_iconst (v := 4) dL_law_340 rfl ?_
  refine wa_iadd dL_law_341 ?_
  refine wa_iald9 dL_law_342 (a_I_mono F fun x10 F => ?_)
  refine wa_callV (M' := m_X3_style) (C := RX3) (o := v2) (As := [.int x7, .int x8, .int x9, .int x10]) (st := []) dL_law_343 ⟨Nat.le_of_ble_eq_true rfl, Nat.le_of_ble_eq_true rfl, nk_X3_style⟩ q1336 q1337 q1338 q59 q1339 rfl rfl (Nat.zero_le 8) rfl F.1 F.2 (wk_V fun h11 F => ?_)
  refine wa_aload_n (o := v2) dL_law_346 rfl 3 rfl ?_
  refine wa_callV (M' := m_X3_thrown) (C := RX3) (o := v2) (As := []) (st := []) dL_law_347 ⟨Nat.le_of_ble_eq_true rfl, Nat.le_of_ble_eq_true rfl, nk_X3_thrown⟩ q1308 q1309 q1310 q59 q1311 rfl rfl (Nat.zero_le 8) rfl F.1 F.2 (wk_I fun x13 h12 F => ?_)
  refine wa_iload (x := x6) dL_law_350 0 rfl ?_
  refine wa_icmp_eq (tgt := 357) dL_law_352 rfl (fun z => ?_) (fun z => ?_)
  · have F := F.1 z
    refine wa_goto (tgt := 1604) dL_law_357 rfl ?_
    exact wa_sub [1, 2, 3, 4, 5] rfl F
  · have F := F.2 z
    refine wa_iconst (v := 0) dL_law_355 rfl ?_
    exact wa_zret rfl rfl dL_law_356 F
theorem f_L_law_360 {D : qD} {Q : Option Value → qH → Prop} {X : String → qH → Prop} (v0 : Nat) (v1 : Option Nat) (v2 : Option Nat) (v3 : Option Nat) (v4 : Int32) (h : qH) (F : a_I D h (some v0) 9 (v4 + 1) (fun x1 => a_I D h (some v0) 9 (v4 + 2) (fun x2 => a_I D h (some v0) 9 (v4 + 3) (fun x3 => c_IW D m_X0_data [va_rf v1, .int x1, .int x2, .int x3, va_rf v3] h X (fun x5 h4 => a_I D h4 (some v0) 9 (v4 + 1) (fun x6 => a_I D h4 (some v0) 9 (v4 + 2) (fun x7 => a_I D h4 (some v0) 9 (v4 + 3) (fun x8 => (recv D h4 v2 RX3 ∧ c_I D m_X3_data [va_rf v2, .int x6, .int x7, .int x8] h4 X (fun x10 h9 => (recv D h9 v2 RX3 ∧ c_I D m_X3_thrown [va_rf v2] h9 X (fun x12 h11 => ((x12 = x5 → ((¬ x5 = 0 → L_L_law_437 D Q X v0 v1 v2 v3 v4 h11) ∧ (x5 = 0 → a_L D h11 v3 0 (fun y13 => (((lg_cmp y13 x10.toInt64) = 0 → L_L_law_437 D Q X v0 v1 v2 v3 v4 h11) ∧ (¬ (lg_cmp y13 x10.toInt64) = 0 → Q (some (.int 0)) h11)))))) ∧ (¬ x12 = x5 → Q (some (.int 0)) h11)))))))))))))) : L_L_law_360 D Q X v0 v1 v2 v3 v4 h := by
  show WA D m_L_law Q X 360 [(0, va_rf (some v0)), (1, va_rf v1), (2, va_rf v2), (3, va_rf v3), (4, .int v4)] [] h
  refine wa_aload_n (o := v1) dL_law_360 rfl 1 rfl ?_
  refine wa_aload_n (o := (some v0)) dL_law_361 rfl 0 rfl ?_
  refine wa_iload (x := v4) dL_law_362 4 rfl ?_
  refine wa_iconst (v := 1) dL_law_364 rfl ?_
  refine wa_iadd dL_law_365 ?_
  refine wa_iald9 dL_law_366 (a_I_mono F fun x1 F => ?_)
  refine wa_aload_n (o := (some v0)) dL_law_367 rfl 0 rfl ?_
  refine wa_iload (x := v4) dL_law_368 4 rfl ?_
  refine wa_iconst (v := 2) dL_law_370 rfl ?_
  refine wa_iadd dL_law_371 ?_
  refine wa_iald9 dL_law_372 (a_I_mono F fun x2 F => ?_)
  refine wa_aload_n (o := (some v0)) dL_law_373 rfl 0 rfl ?_
  refine wa_iload (x := v4) dL_law_374 4 rfl ?_
  refine wa_iconst (v := 3) dL_law_376 rfl ?_
  refine wa_iadd dL_law_377 ?_
  refine wa_iald9 dL_law_378 (a_I_mono F fun x3 F => ?_)
  refine wa_aload_n (o := v3) dL_law_379 rfl 3 rfl ?_
  refine wa_callSH (M' := m_X0_data) (As := [va_rf v1, .int x1, .int x2, .int x3, va_rf v3]) (st := []) dL_law_380 ⟨Nat.le_of_ble_eq_true rfl, Nat.le_of_ble_eq_true rfl, nk_X0_data⟩ q714 q715 q53 q716 rfl rfl (Nat.zero_le 8) rfl F (wk_I fun x5 h4 F => ?_)
  refine ws_istore (lv' := [(5, .int x5), (0, va_rf (some v0)), (1, va_rf v1), (2, va_rf v2), (3, va_rf v3), (4, .int v4)]) dL_law_383 (Nat.le_of_ble_eq_true rfl) (q_cr (q_cr (q_cr (q_cr (q_ci q_cn))))) rfl ?_
  refine wa_aload_n (o := v2) dL_law_385 rfl 3 rfl ?_
  refine wa_aload_n (o := (some v0)) dL_law_386 rfl 1 rfl ?_
  refine wa_iload (x := v4) dL_law_387 5 rfl ?_
  refine wa_iconst (v := 1) dL_law_389 rfl ?_
  refine wa_iadd dL_law_390 ?_
  refine wa_iald9 dL_law_391 (a_I_mono F fun x6 F => ?_)
  refine wa_aload_n (o := (some v0)) dL_law_392 rfl 1 rfl ?_
  refine wa_iload (x := v4) dL_law_393 5 rfl ?_
  refine wa_iconst (v := 2) dL_law_395 rfl ?_
  refine wa_iadd dL_law_396 ?_
  refine wa_iald9 dL_law_397 (a_I_mono F fun x7 F => ?_)
  refine wa_aload_n (o := (some v0)) dL_law_398 rfl 1 rfl ?_
  refine wa_iload (x := v4) dL_law_399 5 rfl ?_
  refine wa_iconst (v := 3) dL_law_401 rfl ?_
  refine wa_iadd dL_law_402 ?_
  refine wa_iald9 dL_law_403 (a_I_mono F fun x8 F => ?_)
  refine wa_callV (M' := m_X3_data) (C := RX3) (o := v2) (As := [.int x6, .int x7, .int x8]) (st := []) dL_law_404 ⟨Nat.le_of_ble_eq_true rfl, Nat.le_of_ble_eq_true rfl, nk_X3_data⟩ q1341 q1342 q1343 q59 q1344 rfl rfl (Nat.zero_le 8) rfl F.1 F.2 (wk_I fun x10 h9 F => ?_)
  refine ws_istore (lv' := [(6, .int x10), (5, .int x5), (0, va_rf (some v0)), (1, va_rf v1), (2, va_rf v2), (3, va_rf v3), (4, .int v4)]) dL_law_407 (Nat.le_of_ble_eq_true rfl) (q_ci (q_cr (q_cr (q_cr (q_cr (q_ci q_cn)))))) rfl ?_
  refine wa_aload_n (o := v2) dL_law_409 rfl 4 rfl ?_
  refine wa_callV (M' := m_X3_thrown) (C := RX3) (o := v2) (As := []) (st := []) dL_law_410 ⟨Nat.le_of_ble_eq_true rfl, Nat.le_of_ble_eq_true rfl, nk_X3_thrown⟩ q1308 q1309 q1310 q59 q1311 rfl rfl (Nat.zero_le 8) rfl F.1 F.2 (wk_I fun x12 h11 F => ?_)
  refine wa_iload (x := x5) dL_law_413 1 rfl ?_
  refine wa_icmp_eq (tgt := 420) dL_law_415 rfl (fun z => ?_) (fun z => ?_)
  · have F := F.1 z
    refine wa_iload (x := x5) dL_law_420 1 rfl ?_
    refine wa_if_ne (tgt := 437) dL_law_422 rfl (fun z => ?_) (fun z => ?_)
    · have F := F.1 z
      exact wa_sub [2, 3, 4, 5, 6] rfl F
    · have F := F.2 z
      refine wa_aload_n (o := v3) dL_law_425 rfl 5 rfl ?_
      refine wa_iconst (v := 0) dL_law_426 rfl ?_
      refine wa_lald dL_law_427 (a_L_mono F fun y13 F => ?_)
      refine wa_iload (x := x10) dL_law_428 0 rfl ?_
      refine wa_i2l dL_law_430 ?_
      refine wa_lcmp dL_law_431 ?_
      refine wa_if_eq (tgt := 437) dL_law_432 rfl (fun z => ?_) (fun z => ?_)
      · have F := F.1 z
        exact wa_sub [2, 3, 4, 5, 6] rfl F
      · have F := F.2 z
        refine wa_iconst (v := 0) dL_law_435 rfl ?_
        exact wa_zret rfl rfl dL_law_436 F
  · have F := F.2 z
    refine wa_iconst (v := 0) dL_law_418 rfl ?_
    exact wa_zret rfl rfl dL_law_419 F
theorem f_L_law_440 {D : qD} {Q : Option Value → qH → Prop} {X : String → qH → Prop} (v0 : Nat) (v1 : Option Nat) (v2 : Option Nat) (v3 : Option Nat) (v4 : Int32) (h : qH) (F : a_I D h (some v0) 9 (v4 + 1) (fun x1 => a_I D h (some v0) 9 (v4 + 2) (fun x2 => a_I D h (some v0) 9 (v4 + 3) (fun x3 => c_IW D m_X0_grid [va_rf v1, .int x1, .int x2, .int x3] h X (fun x5 h4 => a_I D h4 (some v0) 9 (v4 + 1) (fun x6 => a_I D h4 (some v0) 9 (v4 + 2) (fun x7 => a_I D h4 (some v0) 9 (v4 + 3) (fun x8 => (recv D h4 v2 RX3 ∧ c_V D m_X3_grid [va_rf v2, .int x6, .int x7, .int x8] h4 X (fun h9 => (recv D h9 v2 RX3 ∧ c_I D m_X3_thrown [va_rf v2] h9 X (fun x11 h10 => ((x11 = x5 → L_L_law_1604 D Q X v0 v1 v2 v3 v4 h10) ∧ (¬ x11 = x5 → Q (some (.int 0)) h10)))))))))))))) : L_L_law_440 D Q X v0 v1 v2 v3 v4 h := by
  show WA D m_L_law Q X 440 [(0, va_rf (some v0)), (1, va_rf v1), (2, va_rf v2), (3, va_rf v3), (4, .int v4)] [] h
  refine wa_aload_n (o := v1) dL_law_440 rfl 1 rfl ?_
  refine wa_aload_n (o := (some v0)) dL_law_441 rfl 0 rfl ?_
  refine wa_iload (x := v4) dL_law_442 4 rfl ?_
  refine wa_iconst (v := 1) dL_law_444 rfl ?_
  refine wa_iadd dL_law_445 ?_
  refine wa_iald9 dL_law_446 (a_I_mono F fun x1 F => ?_)
  refine wa_aload_n (o := (some v0)) dL_law_447 rfl 0 rfl ?_
  refine wa_iload (x := v4) dL_law_448 4 rfl ?_
  refine wa_iconst (v := 2) dL_law_450 rfl ?_
  refine wa_iadd dL_law_451 ?_
  refine wa_iald9 dL_law_452 (a_I_mono F fun x2 F => ?_)
  refine wa_aload_n (o := (some v0)) dL_law_453 rfl 0 rfl ?_
  refine wa_iload (x := v4) dL_law_454 4 rfl ?_
  refine wa_iconst (v := 3) dL_law_456 rfl ?_
  refine wa_iadd dL_law_457 ?_
  refine wa_iald9 dL_law_458 (a_I_mono F fun x3 F => ?_)
  refine wa_callSH (M' := m_X0_grid) (As := [va_rf v1, .int x1, .int x2, .int x3]) (st := []) dL_law_459 ⟨Nat.le_of_ble_eq_true rfl, Nat.le_of_ble_eq_true rfl, nk_X0_grid⟩ q723 q724 q53 q725 rfl rfl (Nat.zero_le 8) rfl F (wk_I fun x5 h4 F => ?_)
  refine ws_istore (lv' := [(5, .int x5), (0, va_rf (some v0)), (1, va_rf v1), (2, va_rf v2), (3, va_rf v3), (4, .int v4)]) dL_law_462 (Nat.le_of_ble_eq_true rfl) (q_cr (q_cr (q_cr (q_cr (q_ci q_cn))))) rfl ?_
  refine wa_aload_n (o := v2) dL_law_464 rfl 3 rfl ?_
  refine wa_aload_n (o := (some v0)) dL_law_465 rfl 1 rfl ?_
  refine wa_iload (x := v4) dL_law_466 5 rfl ?_
  refine wa_iconst (v := 1) dL_law_468 rfl ?_
  refine wa_iadd dL_law_469 ?_
  refine wa_iald9 dL_law_470 (a_I_mono F fun x6 F => ?_)
  refine wa_aload_n (o := (some v0)) dL_law_471 rfl 1 rfl ?_
  refine wa_iload (x := v4) dL_law_472 5 rfl ?_
  refine wa_iconst (v := 2) dL_law_474 rfl ?_
  refine wa_iadd dL_law_475 ?_
  refine wa_iald9 dL_law_476 (a_I_mono F fun x7 F => ?_)
  refine wa_aload_n (o := (some v0)) dL_law_477 rfl 1 rfl ?_
  refine wa_iload (x := v4) dL_law_478 5 rfl ?_
  refine wa_iconst (v := 3) dL_law_480 rfl ?_
  refine wa_iadd dL_law_481 ?_
  refine wa_iald9 dL_law_482 (a_I_mono F fun x8 F => ?_)
  refine wa_callV (M' := m_X3_grid) (C := RX3) (o := v2) (As := [.int x6, .int x7, .int x8]) (st := []) dL_law_483 ⟨Nat.le_of_ble_eq_true rfl, Nat.le_of_ble_eq_true rfl, nk_X3_grid⟩ q1345 q1346 q1347 q59 q1348 rfl rfl (Nat.zero_le 8) rfl F.1 F.2 (wk_V fun h9 F => ?_)
  refine wa_aload_n (o := v2) dL_law_486 rfl 3 rfl ?_
  refine wa_callV (M' := m_X3_thrown) (C := RX3) (o := v2) (As := []) (st := []) dL_law_487 ⟨Nat.le_of_ble_eq_true rfl, Nat.le_of_ble_eq_true rfl, nk_X3_thrown⟩ q1308 q1309 q1310 q59 q1311 rfl rfl (Nat.zero_le 8) rfl F.1 F.2 (wk_I fun x11 h10 F => ?_)
  refine wa_iload (x := x5) dL_law_490 0 rfl ?_
  refine wa_icmp_eq (tgt := 497) dL_law_492 rfl (fun z => ?_) (fun z => ?_)
  · have F := F.1 z
    refine wa_goto (tgt := 1604) dL_law_497 rfl ?_
    exact wa_sub [1, 2, 3, 4, 5] rfl F
  · have F := F.2 z
    refine wa_iconst (v := 0) dL_law_495 rfl ?_
    exact wa_zret rfl rfl dL_law_496 F
theorem f_L_law_500 {D : qD} {Q : Option Value → qH → Prop} {X : String → qH → Prop} (v0 : Nat) (v1 : Option Nat) (v2 : Option Nat) (v3 : Option Nat) (v4 : Int32) (h : qH) (F : a_I D h (some v0) 9 (v4 + 1) (fun x1 => a_I D h (some v0) 9 (v4 + 2) (fun x2 => c_IW D m_X0_see [va_rf v1, .int x1, .int x2, va_rf v3] h X (fun x4 h3 => a_I D h3 (some v0) 9 (v4 + 1) (fun x5 => a_I D h3 (some v0) 9 (v4 + 2) (fun x6 => (recv D h3 v2 RX3 ∧ c_I D m_X3_see [va_rf v2, .int x5, .int x6] h3 X (fun x8 h7 => (recv D h7 v2 RX3 ∧ c_I D m_X3_thrown [va_rf v2] h7 X (fun x10 h9 => ((x10 = x4 → ((¬ x4 = 0 → L_L_law_565 D Q X v0 v1 v2 v3 v4 h9) ∧ (x4 = 0 → a_L D h9 v3 0 (fun y11 => (((lg_cmp y11 x8.toInt64) = 0 → L_L_law_565 D Q X v0 v1 v2 v3 v4 h9) ∧ (¬ (lg_cmp y11 x8.toInt64) = 0 → Q (some (.int 0)) h9)))))) ∧ (¬ x10 = x4 → Q (some (.int 0)) h9)))))))))))) : L_L_law_500 D Q X v0 v1 v2 v3 v4 h := by
  show WA D m_L_law Q X 500 [(0, va_rf (some v0)), (1, va_rf v1), (2, va_rf v2), (3, va_rf v3), (4, .int v4)] [] h
  refine wa_aload_n (o := v1) dL_law_500 rfl 1 rfl ?_
  refine wa_aload_n (o := (some v0)) dL_law_501 rfl 0 rfl ?_
  refine wa_iload (x := v4) dL_law_502 4 rfl ?_
  refine wa_iconst (v := 1) dL_law_504 rfl ?_
  refine wa_iadd dL_law_505 ?_
  refine wa_iald9 dL_law_506 (a_I_mono F fun x1 F => ?_)
  refine wa_aload_n (o := (some v0)) dL_law_507 rfl 0 rfl ?_
  refine wa_iload (x := v4) dL_law_508 4 rfl ?_
  refine wa_iconst (v := 2) dL_law_510 rfl ?_
  refine wa_iadd dL_law_511 ?_
  refine wa_iald9 dL_law_512 (a_I_mono F fun x2 F => ?_)
  refine wa_aload_n (o := v3) dL_law_513 rfl 3 rfl ?_
  refine wa_callSH (M' := m_X0_see) (As := [va_rf v1, .int x1, .int x2, va_rf v3]) (st := []) dL_law_514 ⟨Nat.le_of_ble_eq_true rfl, Nat.le_of_ble_eq_true rfl, nk_X0_see⟩ q730 q731 q53 q732 rfl rfl (Nat.zero_le 8) rfl F (wk_I fun x4 h3 F => ?_)
  refine ws_istore (lv' := [(5, .int x4), (0, va_rf (some v0)), (1, va_rf v1), (2, va_rf v2), (3, va_rf v3), (4, .int v4)]) dL_law_517 (Nat.le_of_ble_eq_true rfl) (q_cr (q_cr (q_cr (q_cr (q_ci q_cn))))) rfl ?_
  refine wa_aload_n (o := v2) dL_law_519 rfl 3 rfl ?_
  refine wa_aload_n (o := (some v0)) dL_law_520 rfl 1 rfl ?_
  refine wa_iload (x := v4) dL_law_521 5 rfl ?_
  refine wa_iconst (v := 1) dL_law_523 rfl ?_
  refine wa_iadd dL_law_524 ?_
  refine wa_iald9 dL_law_525 (a_I_mono F fun x5 F => ?_)
  refine wa_aload_n (o := (some v0)) dL_law_526 rfl 1 rfl ?_
  refine wa_iload (x := v4) dL_law_527 5 rfl ?_
  refine wa_iconst (v := 2) dL_law_529 rfl ?_
  refine wa_iadd dL_law_530 ?_
  refine wa_iald9 dL_law_531 (a_I_mono F fun x6 F => ?_)
  refine wa_callV (M' := m_X3_see) (C := RX3) (o := v2) (As := [.int x5, .int x6]) (st := []) dL_law_532 ⟨Nat.le_of_ble_eq_true rfl, Nat.le_of_ble_eq_true rfl, nk_X3_see⟩ q1351 q1352 q1353 q59 q1354 rfl rfl (Nat.zero_le 8) rfl F.1 F.2 (wk_I fun x8 h7 F => ?_)
  refine ws_istore (lv' := [(6, .int x8), (5, .int x4), (0, va_rf (some v0)), (1, va_rf v1), (2, va_rf v2), (3, va_rf v3), (4, .int v4)]) dL_law_535 (Nat.le_of_ble_eq_true rfl) (q_ci (q_cr (q_cr (q_cr (q_cr (q_ci q_cn)))))) rfl ?_
  refine wa_aload_n (o := v2) dL_law_537 rfl 4 rfl ?_
  refine wa_callV (M' := m_X3_thrown) (C := RX3) (o := v2) (As := []) (st := []) dL_law_538 ⟨Nat.le_of_ble_eq_true rfl, Nat.le_of_ble_eq_true rfl, nk_X3_thrown⟩ q1308 q1309 q1310 q59 q1311 rfl rfl (Nat.zero_le 8) rfl F.1 F.2 (wk_I fun x10 h9 F => ?_)
  refine wa_iload (x := x4) dL_law_541 1 rfl ?_
  refine wa_icmp_eq (tgt := 548) dL_law_543 rfl (fun z => ?_) (fun z => ?_)
  · have F := F.1 z
    refine wa_iload (x := x4) dL_law_548 1 rfl ?_
    refine wa_if_ne (tgt := 565) dL_law_550 rfl (fun z => ?_) (fun z => ?_)
    · have F := F.1 z
      exact wa_sub [2, 3, 4, 5, 6] rfl F
    · have F := F.2 z
      refine wa_aload_n (o := v3) dL_law_553 rfl 5 rfl ?_
      refine wa_iconst (v := 0) dL_law_554 rfl ?_
      refine wa_lald dL_law_555 (a_L_mono F fun y11 F => ?_)
      refine wa_iload (x := x8) dL_law_556 0 rfl ?_
      refine wa_i2l dL_law_558 ?_
      refine wa_lcmp dL_law_559 ?_
      refine wa_if_eq (tgt := 565) dL_law_560 rfl (fun z => ?_) (fun z => ?_)
      · have F := F.1 z
        exact wa_sub [2, 3, 4, 5, 6] rfl F
      · have F := F.2 z
        refine wa_iconst (v := 0) dL_law_563 rfl ?_
        exact wa_zret rfl rfl dL_law_564 F
  · have F := F.2 z
    refine wa_iconst (v := 0) dL_law_546 rfl ?_
    exact wa_zret rfl rfl dL_law_547 F
theorem f_L_law_568 {D : qD} {Q : Option Value → qH → Prop} {X : String → qH → Prop} (v0 : Nat) (v1 : Option Nat) (v2 : Option Nat) (v3 : Option Nat) (v4 : Int32) (h : qH) (F : a_I D h (some v0) 9 (v4 + 1) (fun x1 => a_I D h (some v0) 9 (v4 + 2) (fun x2 => c_IW D m_X0_fold [va_rf v1, .int x1, .int x2] h X (fun x4 h3 => a_I D h3 (some v0) 9 (v4 + 1) (fun x5 => a_I D h3 (some v0) 9 (v4 + 2) (fun x6 => (recv D h3 v2 RX3 ∧ c_V D m_X3_fold [va_rf v2, .int x5, .int x6] h3 X (fun h7 => (recv D h7 v2 RX3 ∧ c_I D m_X3_thrown [va_rf v2] h7 X (fun x9 h8 => ((x9 = x4 → L_L_law_1604 D Q X v0 v1 v2 v3 v4 h8) ∧ (¬ x9 = x4 → Q (some (.int 0)) h8)))))))))))) : L_L_law_568 D Q X v0 v1 v2 v3 v4 h := by
  show WA D m_L_law Q X 568 [(0, va_rf (some v0)), (1, va_rf v1), (2, va_rf v2), (3, va_rf v3), (4, .int v4)] [] h
  refine wa_aload_n (o := v1) dL_law_568 rfl 1 rfl ?_
  refine wa_aload_n (o := (some v0)) dL_law_569 rfl 0 rfl ?_
  refine wa_iload (x := v4) dL_law_570 4 rfl ?_
  refine wa_iconst (v := 1) dL_law_572 rfl ?_
  refine wa_iadd dL_law_573 ?_
  refine wa_iald9 dL_law_574 (a_I_mono F fun x1 F => ?_)
  refine wa_aload_n (o := (some v0)) dL_law_575 rfl 0 rfl ?_
  refine wa_iload (x := v4) dL_law_576 4 rfl ?_
  refine wa_iconst (v := 2) dL_law_578 rfl ?_
  refine wa_iadd dL_law_579 ?_
  refine wa_iald9 dL_law_580 (a_I_mono F fun x2 F => ?_)
  refine wa_callSH (M' := m_X0_fold) (As := [va_rf v1, .int x1, .int x2]) (st := []) dL_law_581 ⟨Nat.le_of_ble_eq_true rfl, Nat.le_of_ble_eq_true rfl, nk_X0_fold⟩ q739 q740 q53 q741 rfl rfl (Nat.zero_le 8) rfl F (wk_I fun x4 h3 F => ?_)
  refine ws_istore (lv' := [(5, .int x4), (0, va_rf (some v0)), (1, va_rf v1), (2, va_rf v2), (3, va_rf v3), (4, .int v4)]) dL_law_584 (Nat.le_of_ble_eq_true rfl) (q_cr (q_cr (q_cr (q_cr (q_ci q_cn))))) rfl ?_
  refine wa_aload_n (o := v2) dL_law_586 rfl 3 rfl ?_
  refine wa_aload_n (o := (some v0)) dL_law_587 rfl 1 rfl ?_
  refine wa_iload (x := v4) dL_law_588 5 rfl ?_
  refine wa_iconst (v := 1) dL_law_590 rfl ?_
  refine wa_iadd dL_law_591 ?_
  refine wa_iald9 dL_law_592 (a_I_mono F fun x5 F => ?_)
  refine wa_aload_n (o := (some v0)) dL_law_593 rfl 1 rfl ?_
  refine wa_iload (x := v4) dL_law_594 5 rfl ?_
  refine wa_iconst (v := 2) dL_law_596 rfl ?_
  refine wa_iadd dL_law_597 ?_
  refine wa_iald9 dL_law_598 (a_I_mono F fun x6 F => ?_)
  refine wa_callV (M' := m_X3_fold) (C := RX3) (o := v2) (As := [.int x5, .int x6]) (st := []) dL_law_599 ⟨Nat.le_of_ble_eq_true rfl, Nat.le_of_ble_eq_true rfl, nk_X3_fold⟩ q1355 q1356 q1357 q59 q1358 rfl rfl (Nat.zero_le 8) rfl F.1 F.2 (wk_V fun h7 F => ?_)
  refine wa_aload_n (o := v2) dL_law_602 rfl 3 rfl ?_
  refine wa_callV (M' := m_X3_thrown) (C := RX3) (o := v2) (As := []) (st := []) dL_law_603 ⟨Nat.le_of_ble_eq_true rfl, Nat.le_of_ble_eq_true rfl, nk_X3_thrown⟩ q1308 q1309 q1310 q59 q1311 rfl rfl (Nat.zero_le 8) rfl F.1 F.2 (wk_I fun x9 h8 F => ?_)
  refine wa_iload (x := x4) dL_law_606 0 rfl ?_
  refine wa_icmp_eq (tgt := 613) dL_law_608 rfl (fun z => ?_) (fun z => ?_)
  · have F := F.1 z
    refine wa_goto (tgt := 1604) dL_law_613 rfl ?_
    exact wa_sub [1, 2, 3, 4, 5] rfl F
  · have F := F.2 z
    refine wa_iconst (v := 0) dL_law_611 rfl ?_
    exact wa_zret rfl rfl dL_law_612 F
theorem f_L_law_616 {D : qD} {Q : Option Value → qH → Prop} {X : String → qH → Prop} (v0 : Nat) (v1 : Option Nat) (v2 : Option Nat) (v3 : Option Nat) (v4 : Int32) (h : qH) (F : a_I D h (some v0) 9 (v4 + 1) (fun x1 => c_IW D m_X0_keep [va_rf v1, .int x1, va_rf v3] h X (fun x3 h2 => a_I D h2 (some v0) 9 (v4 + 1) (fun x4 => (recv D h2 v2 RX3 ∧ c_I D m_X3_keep [va_rf v2, .int x4] h2 X (fun x6 h5 => (recv D h5 v2 RX3 ∧ c_I D m_X3_thrown [va_rf v2] h5 X (fun x8 h7 => ((x8 = x3 → ((¬ x3 = 0 → L_L_law_669 D Q X v0 v1 v2 v3 v4 h7) ∧ (x3 = 0 → a_L D h7 v3 0 (fun y9 => (((lg_cmp y9 x6.toInt64) = 0 → L_L_law_669 D Q X v0 v1 v2 v3 v4 h7) ∧ (¬ (lg_cmp y9 x6.toInt64) = 0 → Q (some (.int 0)) h7)))))) ∧ (¬ x8 = x3 → Q (some (.int 0)) h7)))))))))) : L_L_law_616 D Q X v0 v1 v2 v3 v4 h := by
  show WA D m_L_law Q X 616 [(0, va_rf (some v0)), (1, va_rf v1), (2, va_rf v2), (3, va_rf v3), (4, .int v4)] [] h
  refine wa_aload_n (o := v1) dL_law_616 rfl 1 rfl ?_
  refine wa_aload_n (o := (some v0)) dL_law_617 rfl 0 rfl ?_
  refine wa_iload (x := v4) dL_law_618 4 rfl ?_
  refine wa_iconst (v := 1) dL_law_620 rfl ?_
  refine wa_iadd dL_law_621 ?_
  refine wa_iald9 dL_law_622 (a_I_mono F fun x1 F => ?_)
  refine wa_aload_n (o := v3) dL_law_623 rfl 3 rfl ?_
  refine wa_callSH (M' := m_X0_keep) (As := [va_rf v1, .int x1, va_rf v3]) (st := []) dL_law_624 ⟨Nat.le_of_ble_eq_true rfl, Nat.le_of_ble_eq_true rfl, nk_X0_keep⟩ q748 q749 q53 q750 rfl rfl (Nat.zero_le 8) rfl F (wk_I fun x3 h2 F => ?_)
  refine ws_istore (lv' := [(5, .int x3), (0, va_rf (some v0)), (1, va_rf v1), (2, va_rf v2), (3, va_rf v3), (4, .int v4)]) dL_law_627 (Nat.le_of_ble_eq_true rfl) (q_cr (q_cr (q_cr (q_cr (q_ci q_cn))))) rfl ?_
  refine wa_aload_n (o := v2) dL_law_629 rfl 3 rfl ?_
  refine wa_aload_n (o := (some v0)) dL_law_630 rfl 1 rfl ?_
  refine wa_iload (x := v4) dL_law_631 5 rfl ?_
  refine wa_iconst (v := 1) dL_law_633 rfl ?_
  refine wa_iadd dL_law_634 ?_
  refine wa_iald9 dL_law_635 (a_I_mono F fun x4 F => ?_)
  refine wa_callV (M' := m_X3_keep) (C := RX3) (o := v2) (As := [.int x4]) (st := []) dL_law_636 ⟨Nat.le_of_ble_eq_true rfl, Nat.le_of_ble_eq_true rfl, nk_X3_keep⟩ q1359 q1360 q1361 q59 q1362 rfl rfl (Nat.zero_le 8) rfl F.1 F.2 (wk_I fun x6 h5 F => ?_)
  refine ws_istore (lv' := [(6, .int x6), (5, .int x3), (0, va_rf (some v0)), (1, va_rf v1), (2, va_rf v2), (3, va_rf v3), (4, .int v4)]) dL_law_639 (Nat.le_of_ble_eq_true rfl) (q_ci (q_cr (q_cr (q_cr (q_cr (q_ci q_cn)))))) rfl ?_
  refine wa_aload_n (o := v2) dL_law_641 rfl 4 rfl ?_
  refine wa_callV (M' := m_X3_thrown) (C := RX3) (o := v2) (As := []) (st := []) dL_law_642 ⟨Nat.le_of_ble_eq_true rfl, Nat.le_of_ble_eq_true rfl, nk_X3_thrown⟩ q1308 q1309 q1310 q59 q1311 rfl rfl (Nat.zero_le 8) rfl F.1 F.2 (wk_I fun x8 h7 F => ?_)
  refine wa_iload (x := x3) dL_law_645 1 rfl ?_
  refine wa_icmp_eq (tgt := 652) dL_law_647 rfl (fun z => ?_) (fun z => ?_)
  · have F := F.1 z
    refine wa_iload (x := x3) dL_law_652 1 rfl ?_
    refine wa_if_ne (tgt := 669) dL_law_654 rfl (fun z => ?_) (fun z => ?_)
    · have F := F.1 z
      exact wa_sub [2, 3, 4, 5, 6] rfl F
    · have F := F.2 z
      refine wa_aload_n (o := v3) dL_law_657 rfl 5 rfl ?_
      refine wa_iconst (v := 0) dL_law_658 rfl ?_
      refine wa_lald dL_law_659 (a_L_mono F fun y9 F => ?_)
      refine wa_iload (x := x6) dL_law_660 0 rfl ?_
      refine wa_i2l dL_law_662 ?_
      refine wa_lcmp dL_law_663 ?_
      refine wa_if_eq (tgt := 669) dL_law_664 rfl (fun z => ?_) (fun z => ?_)
      · have F := F.1 z
        exact wa_sub [2, 3, 4, 5, 6] rfl F
      · have F := F.2 z
        refine wa_iconst (v := 0) dL_law_667 rfl ?_
        exact wa_zret rfl rfl dL_law_668 F
  · have F := F.2 z
    refine wa_iconst (v := 0) dL_law_650 rfl ?_
    exact wa_zret rfl rfl dL_law_651 F
theorem f_L_law_672 {D : qD} {Q : Option Value → qH → Prop} {X : String → qH → Prop} (v0 : Nat) (v1 : Option Nat) (v2 : Option Nat) (v3 : Option Nat) (v4 : Int32) (h : qH) (F : a_I D h (some v0) 9 (v4 + 1) (fun x1 => c_IW D m_X0_lines [va_rf v1, .int x1, va_rf v3] h X (fun x3 h2 => a_I D h2 (some v0) 9 (v4 + 1) (fun x4 => (recv D h2 v2 RX3 ∧ c_I D m_X3_lines [va_rf v2, .int x4] h2 X (fun x6 h5 => (recv D h5 v2 RX3 ∧ c_I D m_X3_thrown [va_rf v2] h5 X (fun x8 h7 => ((x8 = x3 → ((¬ x3 = 0 → L_L_law_725 D Q X v0 v1 v2 v3 v4 h7) ∧ (x3 = 0 → a_L D h7 v3 0 (fun y9 => (((lg_cmp y9 x6.toInt64) = 0 → L_L_law_725 D Q X v0 v1 v2 v3 v4 h7) ∧ (¬ (lg_cmp y9 x6.toInt64) = 0 → Q (some (.int 0)) h7)))))) ∧ (¬ x8 = x3 → Q (some (.int 0)) h7)))))))))) : L_L_law_672 D Q X v0 v1 v2 v3 v4 h := by
  show WA D m_L_law Q X 672 [(0, va_rf (some v0)), (1, va_rf v1), (2, va_rf v2), (3, va_rf v3), (4, .int v4)] [] h
  refine wa_aload_n (o := v1) dL_law_672 rfl 1 rfl ?_
  refine wa_aload_n (o := (some v0)) dL_law_673 rfl 0 rfl ?_
  refine wa_iload (x := v4) dL_law_674 4 rfl ?_
  refine wa_iconst (v := 1) dL_law_676 rfl ?_
  refine wa_iadd dL_law_677 ?_
  refine wa_iald9 dL_law_678 (a_I_mono F fun x1 F => ?_)
  refine wa_aload_n (o := v3) dL_law_679 rfl 3 rfl ?_
  refine wa_callSH (M' := m_X0_lines) (As := [va_rf v1, .int x1, va_rf v3]) (st := []) dL_law_680 ⟨Nat.le_of_ble_eq_true rfl, Nat.le_of_ble_eq_true rfl, nk_X0_lines⟩ q1032 q1033 q53 q1034 rfl rfl (Nat.zero_le 8) rfl F (wk_I fun x3 h2 F => ?_)
  refine ws_istore (lv' := [(5, .int x3), (0, va_rf (some v0)), (1, va_rf v1), (2, va_rf v2), (3, va_rf v3), (4, .int v4)]) dL_law_683 (Nat.le_of_ble_eq_true rfl) (q_cr (q_cr (q_cr (q_cr (q_ci q_cn))))) rfl ?_
  refine wa_aload_n (o := v2) dL_law_685 rfl 3 rfl ?_
  refine wa_aload_n (o := (some v0)) dL_law_686 rfl 1 rfl ?_
  refine wa_iload (x := v4) dL_law_687 5 rfl ?_
  refine wa_iconst (v := 1) dL_law_689 rfl ?_
  refine wa_iadd dL_law_690 ?_
  refine wa_iald9 dL_law_691 (a_I_mono F fun x4 F => ?_)
  refine wa_callV (M' := m_X3_lines) (C := RX3) (o := v2) (As := [.int x4]) (st := []) dL_law_692 ⟨Nat.le_of_ble_eq_true rfl, Nat.le_of_ble_eq_true rfl, nk_X3_lines⟩ q1395 q1396 q1397 q59 q1398 rfl rfl (Nat.zero_le 8) rfl F.1 F.2 (wk_I fun x6 h5 F => ?_)
  refine ws_istore (lv' := [(6, .int x6), (5, .int x3), (0, va_rf (some v0)), (1, va_rf v1), (2, va_rf v2), (3, va_rf v3), (4, .int v4)]) dL_law_695 (Nat.le_of_ble_eq_true rfl) (q_ci (q_cr (q_cr (q_cr (q_cr (q_ci q_cn)))))) rfl ?_
  refine wa_aload_n (o := v2) dL_law_697 rfl 4 rfl ?_
  refine wa_callV (M' := m_X3_thrown) (C := RX3) (o := v2) (As := []) (st := []) dL_law_698 ⟨Nat.le_of_ble_eq_true rfl, Nat.le_of_ble_eq_true rfl, nk_X3_thrown⟩ q1308 q1309 q1310 q59 q1311 rfl rfl (Nat.zero_le 8) rfl F.1 F.2 (wk_I fun x8 h7 F => ?_)
  refine wa_iload (x := x3) dL_law_701 1 rfl ?_
  refine wa_icmp_eq (tgt := 708) dL_law_703 rfl (fun z => ?_) (fun z => ?_)
  · have F := F.1 z
    refine wa_iload (x := x3) dL_law_708 1 rfl ?_
    refine wa_if_ne (tgt := 725) dL_law_710 rfl (fun z => ?_) (fun z => ?_)
    · have F := F.1 z
      exact wa_sub [2, 3, 4, 5, 6] rfl F
    · have F := F.2 z
      refine wa_aload_n (o := v3) dL_law_713 rfl 5 rfl ?_
      refine wa_iconst (v := 0) dL_law_714 rfl ?_
      refine wa_lald dL_law_715 (a_L_mono F fun y9 F => ?_)
      refine wa_iload (x := x6) dL_law_716 0 rfl ?_
      refine wa_i2l dL_law_718 ?_
      refine wa_lcmp dL_law_719 ?_
      refine wa_if_eq (tgt := 725) dL_law_720 rfl (fun z => ?_) (fun z => ?_)
      · have F := F.1 z
        exact wa_sub [2, 3, 4, 5, 6] rfl F
      · have F := F.2 z
        refine wa_iconst (v := 0) dL_law_723 rfl ?_
        exact wa_zret rfl rfl dL_law_724 F
  · have F := F.2 z
    refine wa_iconst (v := 0) dL_law_706 rfl ?_
    exact wa_zret rfl rfl dL_law_707 F
theorem f_L_law_728 {D : qD} {Q : Option Value → qH → Prop} {X : String → qH → Prop} (v0 : Nat) (v1 : Option Nat) (v2 : Option Nat) (v3 : Option Nat) (v4 : Int32) (h : qH) (F : a_I D h (some v0) 9 (v4 + 1) (fun x1 => a_I D h (some v0) 9 (v4 + 2) (fun x2 => c_IW D m_X0_lineOf [va_rf v1, .int x1, .int x2, va_rf v3] h X (fun x4 h3 => a_I D h3 (some v0) 9 (v4 + 1) (fun x5 => a_I D h3 (some v0) 9 (v4 + 2) (fun x6 => (recv D h3 v2 RX3 ∧ c_I D m_X3_lineOf [va_rf v2, .int x5, .int x6] h3 X (fun x8 h7 => (recv D h7 v2 RX3 ∧ c_I D m_X3_thrown [va_rf v2] h7 X (fun x10 h9 => ((x10 = x4 → ((¬ x4 = 0 → L_L_law_793 D Q X v0 v1 v2 v3 v4 h9) ∧ (x4 = 0 → a_L D h9 v3 0 (fun y11 => (((lg_cmp y11 x8.toInt64) = 0 → L_L_law_793 D Q X v0 v1 v2 v3 v4 h9) ∧ (¬ (lg_cmp y11 x8.toInt64) = 0 → Q (some (.int 0)) h9)))))) ∧ (¬ x10 = x4 → Q (some (.int 0)) h9)))))))))))) : L_L_law_728 D Q X v0 v1 v2 v3 v4 h := by
  show WA D m_L_law Q X 728 [(0, va_rf (some v0)), (1, va_rf v1), (2, va_rf v2), (3, va_rf v3), (4, .int v4)] [] h
  refine wa_aload_n (o := v1) dL_law_728 rfl 1 rfl ?_
  refine wa_aload_n (o := (some v0)) dL_law_729 rfl 0 rfl ?_
  refine wa_iload (x := v4) dL_law_730 4 rfl ?_
  refine wa_iconst (v := 1) dL_law_732 rfl ?_
  refine wa_iadd dL_law_733 ?_
  refine wa_iald9 dL_law_734 (a_I_mono F fun x1 F => ?_)
  refine wa_aload_n (o := (some v0)) dL_law_735 rfl 0 rfl ?_
  refine wa_iload (x := v4) dL_law_736 4 rfl ?_
  refine wa_iconst (v := 2) dL_law_738 rfl ?_
  refine wa_iadd dL_law_739 ?_
  refine wa_iald9 dL_law_740 (a_I_mono F fun x2 F => ?_)
  refine wa_aload_n (o := v3) dL_law_741 rfl 3 rfl ?_
  refine wa_callSH (M' := m_X0_lineOf) (As := [va_rf v1, .int x1, .int x2, va_rf v3]) (st := []) dL_law_742 ⟨Nat.le_of_ble_eq_true rfl, Nat.le_of_ble_eq_true rfl, nk_X0_lineOf⟩ q1039 q1040 q53 q1041 rfl rfl (Nat.zero_le 8) rfl F (wk_I fun x4 h3 F => ?_)
  refine ws_istore (lv' := [(5, .int x4), (0, va_rf (some v0)), (1, va_rf v1), (2, va_rf v2), (3, va_rf v3), (4, .int v4)]) dL_law_745 (Nat.le_of_ble_eq_true rfl) (q_cr (q_cr (q_cr (q_cr (q_ci q_cn))))) rfl ?_
  refine wa_aload_n (o := v2) dL_law_747 rfl 3 rfl ?_
  refine wa_aload_n (o := (some v0)) dL_law_748 rfl 1 rfl ?_
  refine wa_iload (x := v4) dL_law_749 5 rfl ?_
  refine wa_iconst (v := 1) dL_law_751 rfl ?_
  refine wa_iadd dL_law_752 ?_
  refine wa_iald9 dL_law_753 (a_I_mono F fun x5 F => ?_)
  refine wa_aload_n (o := (some v0)) dL_law_754 rfl 1 rfl ?_
  refine wa_iload (x := v4) dL_law_755 5 rfl ?_
  refine wa_iconst (v := 2) dL_law_757 rfl ?_
  refine wa_iadd dL_law_758 ?_
  refine wa_iald9 dL_law_759 (a_I_mono F fun x6 F => ?_)
  refine wa_callV (M' := m_X3_lineOf) (C := RX3) (o := v2) (As := [.int x5, .int x6]) (st := []) dL_law_760 ⟨Nat.le_of_ble_eq_true rfl, Nat.le_of_ble_eq_true rfl, nk_X3_lineOf⟩ q1399 q1400 q1401 q59 q1402 rfl rfl (Nat.zero_le 8) rfl F.1 F.2 (wk_I fun x8 h7 F => ?_)
  refine ws_istore (lv' := [(6, .int x8), (5, .int x4), (0, va_rf (some v0)), (1, va_rf v1), (2, va_rf v2), (3, va_rf v3), (4, .int v4)]) dL_law_763 (Nat.le_of_ble_eq_true rfl) (q_ci (q_cr (q_cr (q_cr (q_cr (q_ci q_cn)))))) rfl ?_
  refine wa_aload_n (o := v2) dL_law_765 rfl 4 rfl ?_
  refine wa_callV (M' := m_X3_thrown) (C := RX3) (o := v2) (As := []) (st := []) dL_law_766 ⟨Nat.le_of_ble_eq_true rfl, Nat.le_of_ble_eq_true rfl, nk_X3_thrown⟩ q1308 q1309 q1310 q59 q1311 rfl rfl (Nat.zero_le 8) rfl F.1 F.2 (wk_I fun x10 h9 F => ?_)
  refine wa_iload (x := x4) dL_law_769 1 rfl ?_
  refine wa_icmp_eq (tgt := 776) dL_law_771 rfl (fun z => ?_) (fun z => ?_)
  · have F := F.1 z
    refine wa_iload (x := x4) dL_law_776 1 rfl ?_
    refine wa_if_ne (tgt := 793) dL_law_778 rfl (fun z => ?_) (fun z => ?_)
    · have F := F.1 z
      exact wa_sub [2, 3, 4, 5, 6] rfl F
    · have F := F.2 z
      refine wa_aload_n (o := v3) dL_law_781 rfl 5 rfl ?_
      refine wa_iconst (v := 0) dL_law_782 rfl ?_
      refine wa_lald dL_law_783 (a_L_mono F fun y11 F => ?_)
      refine wa_iload (x := x8) dL_law_784 0 rfl ?_
      refine wa_i2l dL_law_786 ?_
      refine wa_lcmp dL_law_787 ?_
      refine wa_if_eq (tgt := 793) dL_law_788 rfl (fun z => ?_) (fun z => ?_)
      · have F := F.1 z
        exact wa_sub [2, 3, 4, 5, 6] rfl F
      · have F := F.2 z
        refine wa_iconst (v := 0) dL_law_791 rfl ?_
        exact wa_zret rfl rfl dL_law_792 F
  · have F := F.2 z
    refine wa_iconst (v := 0) dL_law_774 rfl ?_
    exact wa_zret rfl rfl dL_law_775 F
theorem f_L_law_796 {D : qD} {Q : Option Value → qH → Prop} {X : String → qH → Prop} (v0 : Nat) (v1 : Option Nat) (v2 : Option Nat) (v3 : Option Nat) (v4 : Int32) (h : qH) (F : a_I D h (some v0) 9 (v4 + 1) (fun x1 => a_I D h (some v0) 9 (v4 + 2) (fun x2 => ((x2 = 0 → L_L_law_817 D Q X v0 v1 v2 v3 v4 0 x1 v1 h) ∧ (¬ x2 = 0 → L_L_law_817 D Q X v0 v1 v2 v3 v4 1 x1 v1 h))))) : L_L_law_796 D Q X v0 v1 v2 v3 v4 h := by
  show WA D m_L_law Q X 796 [(0, va_rf (some v0)), (1, va_rf v1), (2, va_rf v2), (3, va_rf v3), (4, .int v4)] [] h
  refine wa_aload_n (o := v1) dL_law_796 rfl 1 rfl ?_
  refine wa_aload_n (o := (some v0)) dL_law_797 rfl 0 rfl ?_
  refine wa_iload (x := v4) dL_law_798 4 rfl ?_
  refine wa_iconst (v := 1) dL_law_800 rfl ?_
  refine wa_iadd dL_law_801 ?_
  refine wa_iald9 dL_law_802 (a_I_mono F fun x1 F => ?_)
  refine wa_aload_n (o := (some v0)) dL_law_803 rfl 0 rfl ?_
  refine wa_iload (x := v4) dL_law_804 4 rfl ?_
  refine wa_iconst (v := 2) dL_law_806 rfl ?_
  refine wa_iadd dL_law_807 ?_
  refine wa_iald9 dL_law_808 (a_I_mono F fun x2 F => ?_)
  refine wa_if_eq (tgt := 816) dL_law_809 rfl (fun z => ?_) (fun z => ?_)
  · have F := F.1 z
    refine wa_iconst (v := 0) dL_law_816 rfl ?_
    exact F
  · have F := F.2 z
    refine wa_iconst (v := 1) dL_law_812 rfl ?_
    refine wa_goto (tgt := 817) dL_law_813 rfl ?_
    exact F
theorem f_L_law_892 {D : qD} {Q : Option Value → qH → Prop} {X : String → qH → Prop} (v0 : Nat) (v1 : Option Nat) (v2 : Option Nat) (v3 : Option Nat) (v4 : Int32) (h : qH) (F : a_I D h (some v0) 9 (v4 + 1) (fun x1 => a_I D h (some v0) 9 (v4 + 2) (fun x2 => c_IW D m_X0_pageOf [va_rf v1, .int x1, .int x2, va_rf v3] h X (fun x4 h3 => a_I D h3 (some v0) 9 (v4 + 1) (fun x5 => a_I D h3 (some v0) 9 (v4 + 2) (fun x6 => (recv D h3 v2 RX3 ∧ c_I D m_X3_pageOf [va_rf v2, .int x5, .int x6] h3 X (fun x8 h7 => (recv D h7 v2 RX3 ∧ c_I D m_X3_thrown [va_rf v2] h7 X (fun x10 h9 => ((x10 = x4 → ((¬ x4 = 0 → L_L_law_957 D Q X v0 v1 v2 v3 v4 h9) ∧ (x4 = 0 → a_L D h9 v3 0 (fun y11 => (((lg_cmp y11 x8.toInt64) = 0 → L_L_law_957 D Q X v0 v1 v2 v3 v4 h9) ∧ (¬ (lg_cmp y11 x8.toInt64) = 0 → Q (some (.int 0)) h9)))))) ∧ (¬ x10 = x4 → Q (some (.int 0)) h9)))))))))))) : L_L_law_892 D Q X v0 v1 v2 v3 v4 h := by
  show WA D m_L_law Q X 892 [(0, va_rf (some v0)), (1, va_rf v1), (2, va_rf v2), (3, va_rf v3), (4, .int v4)] [] h
  refine wa_aload_n (o := v1) dL_law_892 rfl 1 rfl ?_
  refine wa_aload_n (o := (some v0)) dL_law_893 rfl 0 rfl ?_
  refine wa_iload (x := v4) dL_law_894 4 rfl ?_
  refine wa_iconst (v := 1) dL_law_896 rfl ?_
  refine wa_iadd dL_law_897 ?_
  refine wa_iald9 dL_law_898 (a_I_mono F fun x1 F => ?_)
  refine wa_aload_n (o := (some v0)) dL_law_899 rfl 0 rfl ?_
  refine wa_iload (x := v4) dL_law_900 4 rfl ?_
  refine wa_iconst (v := 2) dL_law_902 rfl ?_
  refine wa_iadd dL_law_903 ?_
  refine wa_iald9 dL_law_904 (a_I_mono F fun x2 F => ?_)
  refine wa_aload_n (o := v3) dL_law_905 rfl 3 rfl ?_
  refine wa_callSH (M' := m_X0_pageOf) (As := [va_rf v1, .int x1, .int x2, va_rf v3]) (st := []) dL_law_906 ⟨Nat.le_of_ble_eq_true rfl, Nat.le_of_ble_eq_true rfl, nk_X0_pageOf⟩ q1058 q1059 q53 q1060 rfl rfl (Nat.zero_le 8) rfl F (wk_I fun x4 h3 F => ?_)
  refine ws_istore (lv' := [(5, .int x4), (0, va_rf (some v0)), (1, va_rf v1), (2, va_rf v2), (3, va_rf v3), (4, .int v4)]) dL_law_909 (Nat.le_of_ble_eq_true rfl) (q_cr (q_cr (q_cr (q_cr (q_ci q_cn))))) rfl ?_
  refine wa_aload_n (o := v2) dL_law_911 rfl 3 rfl ?_
  refine wa_aload_n (o := (some v0)) dL_law_912 rfl 1 rfl ?_
  refine wa_iload (x := v4) dL_law_913 5 rfl ?_
  refine wa_iconst (v := 1) dL_law_915 rfl ?_
  refine wa_iadd dL_law_916 ?_
  refine wa_iald9 dL_law_917 (a_I_mono F fun x5 F => ?_)
  refine wa_aload_n (o := (some v0)) dL_law_918 rfl 1 rfl ?_
  refine wa_iload (x := v4) dL_law_919 5 rfl ?_
  refine wa_iconst (v := 2) dL_law_921 rfl ?_
  refine wa_iadd dL_law_922 ?_
  refine wa_iald9 dL_law_923 (a_I_mono F fun x6 F => ?_)
  refine wa_callV (M' := m_X3_pageOf) (C := RX3) (o := v2) (As := [.int x5, .int x6]) (st := []) dL_law_924 ⟨Nat.le_of_ble_eq_true rfl, Nat.le_of_ble_eq_true rfl, nk_X3_pageOf⟩ q1450 q1451 q1452 q59 q1453 rfl rfl (Nat.zero_le 8) rfl F.1 F.2 (wk_I fun x8 h7 F => ?_)
  refine ws_istore (lv' := [(6, .int x8), (5, .int x4), (0, va_rf (some v0)), (1, va_rf v1), (2, va_rf v2), (3, va_rf v3), (4, .int v4)]) dL_law_927 (Nat.le_of_ble_eq_true rfl) (q_ci (q_cr (q_cr (q_cr (q_cr (q_ci q_cn)))))) rfl ?_
  refine wa_aload_n (o := v2) dL_law_929 rfl 4 rfl ?_
  refine wa_callV (M' := m_X3_thrown) (C := RX3) (o := v2) (As := []) (st := []) dL_law_930 ⟨Nat.le_of_ble_eq_true rfl, Nat.le_of_ble_eq_true rfl, nk_X3_thrown⟩ q1308 q1309 q1310 q59 q1311 rfl rfl (Nat.zero_le 8) rfl F.1 F.2 (wk_I fun x10 h9 F => ?_)
  refine wa_iload (x := x4) dL_law_933 1 rfl ?_
  refine wa_icmp_eq (tgt := 940) dL_law_935 rfl (fun z => ?_) (fun z => ?_)
  · have F := F.1 z
    refine wa_iload (x := x4) dL_law_940 1 rfl ?_
    refine wa_if_ne (tgt := 957) dL_law_942 rfl (fun z => ?_) (fun z => ?_)
    · have F := F.1 z
      exact wa_sub [2, 3, 4, 5, 6] rfl F
    · have F := F.2 z
      refine wa_aload_n (o := v3) dL_law_945 rfl 5 rfl ?_
      refine wa_iconst (v := 0) dL_law_946 rfl ?_
      refine wa_lald dL_law_947 (a_L_mono F fun y11 F => ?_)
      refine wa_iload (x := x8) dL_law_948 0 rfl ?_
      refine wa_i2l dL_law_950 ?_
      refine wa_lcmp dL_law_951 ?_
      refine wa_if_eq (tgt := 957) dL_law_952 rfl (fun z => ?_) (fun z => ?_)
      · have F := F.1 z
        exact wa_sub [2, 3, 4, 5, 6] rfl F
      · have F := F.2 z
        refine wa_iconst (v := 0) dL_law_955 rfl ?_
        exact wa_zret rfl rfl dL_law_956 F
  · have F := F.2 z
    refine wa_iconst (v := 0) dL_law_938 rfl ?_
    exact wa_zret rfl rfl dL_law_939 F
theorem f_L_law_960 {D : qD} {Q : Option Value → qH → Prop} {X : String → qH → Prop} (v0 : Nat) (v1 : Option Nat) (v2 : Option Nat) (v3 : Option Nat) (v4 : Int32) (h : qH) (F : a_I D h (some v0) 9 (v4 + 1) (fun x1 => a_I D h (some v0) 9 (v4 + 2) (fun x2 => c_IW D m_X0_pageAnew [va_rf v1, .int x1, .int x2, va_rf v3] h X (fun x4 h3 => a_I D h3 (some v0) 9 (v4 + 1) (fun x5 => a_I D h3 (some v0) 9 (v4 + 2) (fun x6 => (recv D h3 v2 RX3 ∧ c_I D m_X3_pageAnew [va_rf v2, .int x5, .int x6] h3 X (fun x8 h7 => (recv D h7 v2 RX3 ∧ c_I D m_X3_thrown [va_rf v2] h7 X (fun x10 h9 => ((x10 = x4 → ((¬ x4 = 0 → L_L_law_1025 D Q X v0 v1 v2 v3 v4 h9) ∧ (x4 = 0 → a_L D h9 v3 0 (fun y11 => (((lg_cmp y11 x8.toInt64) = 0 → L_L_law_1025 D Q X v0 v1 v2 v3 v4 h9) ∧ (¬ (lg_cmp y11 x8.toInt64) = 0 → Q (some (.int 0)) h9)))))) ∧ (¬ x10 = x4 → Q (some (.int 0)) h9)))))))))))) : L_L_law_960 D Q X v0 v1 v2 v3 v4 h := by
  show WA D m_L_law Q X 960 [(0, va_rf (some v0)), (1, va_rf v1), (2, va_rf v2), (3, va_rf v3), (4, .int v4)] [] h
  refine wa_aload_n (o := v1) dL_law_960 rfl 1 rfl ?_
  refine wa_aload_n (o := (some v0)) dL_law_961 rfl 0 rfl ?_
  refine wa_iload (x := v4) dL_law_962 4 rfl ?_
  refine wa_iconst (v := 1) dL_law_964 rfl ?_
  refine wa_iadd dL_law_965 ?_
  refine wa_iald9 dL_law_966 (a_I_mono F fun x1 F => ?_)
  refine wa_aload_n (o := (some v0)) dL_law_967 rfl 0 rfl ?_
  refine wa_iload (x := v4) dL_law_968 4 rfl ?_
  refine wa_iconst (v := 2) dL_law_970 rfl ?_
  refine wa_iadd dL_law_971 ?_
  refine wa_iald9 dL_law_972 (a_I_mono F fun x2 F => ?_)
  refine wa_aload_n (o := v3) dL_law_973 rfl 3 rfl ?_
  refine wa_callSH (M' := m_X0_pageAnew) (As := [va_rf v1, .int x1, .int x2, va_rf v3]) (st := []) dL_law_974 ⟨Nat.le_of_ble_eq_true rfl, Nat.le_of_ble_eq_true rfl, nk_X0_pageAnew⟩ q1073 q1074 q53 q1075 rfl rfl (Nat.zero_le 8) rfl F (wk_I fun x4 h3 F => ?_)
  refine ws_istore (lv' := [(5, .int x4), (0, va_rf (some v0)), (1, va_rf v1), (2, va_rf v2), (3, va_rf v3), (4, .int v4)]) dL_law_977 (Nat.le_of_ble_eq_true rfl) (q_cr (q_cr (q_cr (q_cr (q_ci q_cn))))) rfl ?_
  refine wa_aload_n (o := v2) dL_law_979 rfl 3 rfl ?_
  refine wa_aload_n (o := (some v0)) dL_law_980 rfl 1 rfl ?_
  refine wa_iload (x := v4) dL_law_981 5 rfl ?_
  refine wa_iconst (v := 1) dL_law_983 rfl ?_
  refine wa_iadd dL_law_984 ?_
  refine wa_iald9 dL_law_985 (a_I_mono F fun x5 F => ?_)
  refine wa_aload_n (o := (some v0)) dL_law_986 rfl 1 rfl ?_
  refine wa_iload (x := v4) dL_law_987 5 rfl ?_
  refine wa_iconst (v := 2) dL_law_989 rfl ?_
  refine wa_iadd dL_law_990 ?_
  refine wa_iald9 dL_law_991 (a_I_mono F fun x6 F => ?_)
  refine wa_callV (M' := m_X3_pageAnew) (C := RX3) (o := v2) (As := [.int x5, .int x6]) (st := []) dL_law_992 ⟨Nat.le_of_ble_eq_true rfl, Nat.le_of_ble_eq_true rfl, nk_X3_pageAnew⟩ q1458 q1459 q1460 q59 q1461 rfl rfl (Nat.zero_le 8) rfl F.1 F.2 (wk_I fun x8 h7 F => ?_)
  refine ws_istore (lv' := [(6, .int x8), (5, .int x4), (0, va_rf (some v0)), (1, va_rf v1), (2, va_rf v2), (3, va_rf v3), (4, .int v4)]) dL_law_995 (Nat.le_of_ble_eq_true rfl) (q_ci (q_cr (q_cr (q_cr (q_cr (q_ci q_cn)))))) rfl ?_
  refine wa_aload_n (o := v2) dL_law_997 rfl 4 rfl ?_
  refine wa_callV (M' := m_X3_thrown) (C := RX3) (o := v2) (As := []) (st := []) dL_law_998 ⟨Nat.le_of_ble_eq_true rfl, Nat.le_of_ble_eq_true rfl, nk_X3_thrown⟩ q1308 q1309 q1310 q59 q1311 rfl rfl (Nat.zero_le 8) rfl F.1 F.2 (wk_I fun x10 h9 F => ?_)
  refine wa_iload (x := x4) dL_law_1001 1 rfl ?_
  refine wa_icmp_eq (tgt := 1008) dL_law_1003 rfl (fun z => ?_) (fun z => ?_)
  · have F := F.1 z
    refine wa_iload (x := x4) dL_law_1008 1 rfl ?_
    refine wa_if_ne (tgt := 1025) dL_law_1010 rfl (fun z => ?_) (fun z => ?_)
    · have F := F.1 z
      exact wa_sub [2, 3, 4, 5, 6] rfl F
    · have F := F.2 z
      refine wa_aload_n (o := v3) dL_law_1013 rfl 5 rfl ?_
      refine wa_iconst (v := 0) dL_law_1014 rfl ?_
      refine wa_lald dL_law_1015 (a_L_mono F fun y11 F => ?_)
      refine wa_iload (x := x8) dL_law_1016 0 rfl ?_
      refine wa_i2l dL_law_1018 ?_
      refine wa_lcmp dL_law_1019 ?_
      refine wa_if_eq (tgt := 1025) dL_law_1020 rfl (fun z => ?_) (fun z => ?_)
      · have F := F.1 z
        exact wa_sub [2, 3, 4, 5, 6] rfl F
      · have F := F.2 z
        refine wa_iconst (v := 0) dL_law_1023 rfl ?_
        exact wa_zret rfl rfl dL_law_1024 F
  · have F := F.2 z
    refine wa_iconst (v := 0) dL_law_1006 rfl ?_
    exact wa_zret rfl rfl dL_law_1007 F
theorem f_L_law_1028 {D : qD} {Q : Option Value → qH → Prop} {X : String → qH → Prop} (v0 : Nat) (v1 : Option Nat) (v2 : Option Nat) (v3 : Option Nat) (v4 : Int32) (h : qH) (F : a_I D h (some v0) 9 (v4 + 1) (fun x1 => c_IW D m_X0_pages [va_rf v1, .int x1, va_rf v3] h X (fun x3 h2 => a_I D h2 (some v0) 9 (v4 + 1) (fun x4 => (recv D h2 v2 RX3 ∧ c_I D m_X3_pages [va_rf v2, .int x4] h2 X (fun x6 h5 => (recv D h5 v2 RX3 ∧ c_I D m_X3_thrown [va_rf v2] h5 X (fun x8 h7 => ((x8 = x3 → ((¬ x3 = 0 → L_L_law_1081 D Q X v0 v1 v2 v3 v4 h7) ∧ (x3 = 0 → a_L D h7 v3 0 (fun y9 => (((lg_cmp y9 x6.toInt64) = 0 → L_L_law_1081 D Q X v0 v1 v2 v3 v4 h7) ∧ (¬ (lg_cmp y9 x6.toInt64) = 0 → Q (some (.int 0)) h7)))))) ∧ (¬ x8 = x3 → Q (some (.int 0)) h7)))))))))) : L_L_law_1028 D Q X v0 v1 v2 v3 v4 h := by
  show WA D m_L_law Q X 1028 [(0, va_rf (some v0)), (1, va_rf v1), (2, va_rf v2), (3, va_rf v3), (4, .int v4)] [] h
  refine wa_aload_n (o := v1) dL_law_1028 rfl 1 rfl ?_
  refine wa_aload_n (o := (some v0)) dL_law_1029 rfl 0 rfl ?_
  refine wa_iload (x := v4) dL_law_1030 4 rfl ?_
  refine wa_iconst (v := 1) dL_law_1032 rfl ?_
  refine wa_iadd dL_law_1033 ?_
  refine wa_iald9 dL_law_1034 (a_I_mono F fun x1 F => ?_)
  refine wa_aload_n (o := v3) dL_law_1035 rfl 3 rfl ?_
  refine wa_callSH (M' := m_X0_pages) (As := [va_rf v1, .int x1, va_rf v3]) (st := []) dL_law_1036 ⟨Nat.le_of_ble_eq_true rfl, Nat.le_of_ble_eq_true rfl, nk_X0_pages⟩ q1080 q1081 q53 q1082 rfl rfl (Nat.zero_le 8) rfl F (wk_I fun x3 h2 F => ?_)
  refine ws_istore (lv' := [(5, .int x3), (0, va_rf (some v0)), (1, va_rf v1), (2, va_rf v2), (3, va_rf v3), (4, .int v4)]) dL_law_1039 (Nat.le_of_ble_eq_true rfl) (q_cr (q_cr (q_cr (q_cr (q_ci q_cn))))) rfl ?_
  refine wa_aload_n (o := v2) dL_law_1041 rfl 3 rfl ?_
  refine wa_aload_n (o := (some v0)) dL_law_1042 rfl 1 rfl ?_
  refine wa_iload (x := v4) dL_law_1043 5 rfl ?_
  refine wa_iconst (v := 1) dL_law_1045 rfl ?_
  refine wa_iadd dL_law_1046 ?_
  refine wa_iald9 dL_law_1047 (a_I_mono F fun x4 F => ?_)
  refine wa_callV (M' := m_X3_pages) (C := RX3) (o := v2) (As := [.int x4]) (st := []) dL_law_1048 ⟨Nat.le_of_ble_eq_true rfl, Nat.le_of_ble_eq_true rfl, nk_X3_pages⟩ q1463 q1464 q1465 q59 q1466 rfl rfl (Nat.zero_le 8) rfl F.1 F.2 (wk_I fun x6 h5 F => ?_)
  refine ws_istore (lv' := [(6, .int x6), (5, .int x3), (0, va_rf (some v0)), (1, va_rf v1), (2, va_rf v2), (3, va_rf v3), (4, .int v4)]) dL_law_1051 (Nat.le_of_ble_eq_true rfl) (q_ci (q_cr (q_cr (q_cr (q_cr (q_ci q_cn)))))) rfl ?_
  refine wa_aload_n (o := v2) dL_law_1053 rfl 4 rfl ?_
  refine wa_callV (M' := m_X3_thrown) (C := RX3) (o := v2) (As := []) (st := []) dL_law_1054 ⟨Nat.le_of_ble_eq_true rfl, Nat.le_of_ble_eq_true rfl, nk_X3_thrown⟩ q1308 q1309 q1310 q59 q1311 rfl rfl (Nat.zero_le 8) rfl F.1 F.2 (wk_I fun x8 h7 F => ?_)
  refine wa_iload (x := x3) dL_law_1057 1 rfl ?_
  refine wa_icmp_eq (tgt := 1064) dL_law_1059 rfl (fun z => ?_) (fun z => ?_)
  · have F := F.1 z
    refine wa_iload (x := x3) dL_law_1064 1 rfl ?_
    refine wa_if_ne (tgt := 1081) dL_law_1066 rfl (fun z => ?_) (fun z => ?_)
    · have F := F.1 z
      exact wa_sub [2, 3, 4, 5, 6] rfl F
    · have F := F.2 z
      refine wa_aload_n (o := v3) dL_law_1069 rfl 5 rfl ?_
      refine wa_iconst (v := 0) dL_law_1070 rfl ?_
      refine wa_lald dL_law_1071 (a_L_mono F fun y9 F => ?_)
      refine wa_iload (x := x6) dL_law_1072 0 rfl ?_
      refine wa_i2l dL_law_1074 ?_
      refine wa_lcmp dL_law_1075 ?_
      refine wa_if_eq (tgt := 1081) dL_law_1076 rfl (fun z => ?_) (fun z => ?_)
      · have F := F.1 z
        exact wa_sub [2, 3, 4, 5, 6] rfl F
      · have F := F.2 z
        refine wa_iconst (v := 0) dL_law_1079 rfl ?_
        exact wa_zret rfl rfl dL_law_1080 F
  · have F := F.2 z
    refine wa_iconst (v := 0) dL_law_1062 rfl ?_
    exact wa_zret rfl rfl dL_law_1063 F
theorem f_L_law_1084 {D : qD} {Q : Option Value → qH → Prop} {X : String → qH → Prop} (v0 : Nat) (v1 : Option Nat) (v2 : Option Nat) (v3 : Option Nat) (v4 : Int32) (h : qH) (F : a_I D h (some v0) 9 (v4 + 1) (fun x1 => c_IW D m_X0_front [va_rf v1, .int x1, va_rf v3] h X (fun x3 h2 => a_I D h2 (some v0) 9 (v4 + 1) (fun x4 => (recv D h2 v2 RX3 ∧ c_I D m_X3_front [va_rf v2, .int x4] h2 X (fun x6 h5 => (recv D h5 v2 RX3 ∧ c_I D m_X3_thrown [va_rf v2] h5 X (fun x8 h7 => ((x8 = x3 → ((¬ x3 = 0 → L_L_law_1137 D Q X v0 v1 v2 v3 v4 h7) ∧ (x3 = 0 → a_L D h7 v3 0 (fun y9 => (((lg_cmp y9 x6.toInt64) = 0 → L_L_law_1137 D Q X v0 v1 v2 v3 v4 h7) ∧ (¬ (lg_cmp y9 x6.toInt64) = 0 → Q (some (.int 0)) h7)))))) ∧ (¬ x8 = x3 → Q (some (.int 0)) h7)))))))))) : L_L_law_1084 D Q X v0 v1 v2 v3 v4 h := by
  show WA D m_L_law Q X 1084 [(0, va_rf (some v0)), (1, va_rf v1), (2, va_rf v2), (3, va_rf v3), (4, .int v4)] [] h
  refine wa_aload_n (o := v1) dL_law_1084 rfl 1 rfl ?_
  refine wa_aload_n (o := (some v0)) dL_law_1085 rfl 0 rfl ?_
  refine wa_iload (x := v4) dL_law_1086 4 rfl ?_
  refine wa_iconst (v := 1) dL_law_1088 rfl ?_
  refine wa_iadd dL_law_1089 ?_
  refine wa_iald9 dL_law_1090 (a_I_mono F fun x1 F => ?_)
  refine wa_aload_n (o := v3) dL_law_1091 rfl 3 rfl ?_
  refine wa_callSH (M' := m_X0_front) (As := [va_rf v1, .int x1, va_rf v3]) (st := []) dL_law_1092 ⟨Nat.le_of_ble_eq_true rfl, Nat.le_of_ble_eq_true rfl, nk_X0_front⟩ q1091 q1092 q53 q1093 rfl rfl (Nat.zero_le 8) rfl F (wk_I fun x3 h2 F => ?_)
  refine ws_istore (lv' := [(5, .int x3), (0, va_rf (some v0)), (1, va_rf v1), (2, va_rf v2), (3, va_rf v3), (4, .int v4)]) dL_law_1095 (Nat.le_of_ble_eq_true rfl) (q_cr (q_cr (q_cr (q_cr (q_ci q_cn))))) rfl ?_
  refine wa_aload_n (o := v2) dL_law_1097 rfl 3 rfl ?_
  refine wa_aload_n (o := (some v0)) dL_law_1098 rfl 1 rfl ?_
  refine wa_iload (x := v4) dL_law_1099 5 rfl ?_
  refine wa_iconst (v := 1) dL_law_1101 rfl ?_
  refine wa_iadd dL_law_1102 ?_
  refine wa_iald9 dL_law_1103 (a_I_mono F fun x4 F => ?_)
  refine wa_callV (M' := m_X3_front) (C := RX3) (o := v2) (As := [.int x4]) (st := []) dL_law_1104 ⟨Nat.le_of_ble_eq_true rfl, Nat.le_of_ble_eq_true rfl, nk_X3_front⟩ q1467 q1468 q1469 q59 q1470 rfl rfl (Nat.zero_le 8) rfl F.1 F.2 (wk_I fun x6 h5 F => ?_)
  refine ws_istore (lv' := [(6, .int x6), (5, .int x3), (0, va_rf (some v0)), (1, va_rf v1), (2, va_rf v2), (3, va_rf v3), (4, .int v4)]) dL_law_1107 (Nat.le_of_ble_eq_true rfl) (q_ci (q_cr (q_cr (q_cr (q_cr (q_ci q_cn)))))) rfl ?_
  refine wa_aload_n (o := v2) dL_law_1109 rfl 4 rfl ?_
  refine wa_callV (M' := m_X3_thrown) (C := RX3) (o := v2) (As := []) (st := []) dL_law_1110 ⟨Nat.le_of_ble_eq_true rfl, Nat.le_of_ble_eq_true rfl, nk_X3_thrown⟩ q1308 q1309 q1310 q59 q1311 rfl rfl (Nat.zero_le 8) rfl F.1 F.2 (wk_I fun x8 h7 F => ?_)
  refine wa_iload (x := x3) dL_law_1113 1 rfl ?_
  refine wa_icmp_eq (tgt := 1120) dL_law_1115 rfl (fun z => ?_) (fun z => ?_)
  · have F := F.1 z
    refine wa_iload (x := x3) dL_law_1120 1 rfl ?_
    refine wa_if_ne (tgt := 1137) dL_law_1122 rfl (fun z => ?_) (fun z => ?_)
    · have F := F.1 z
      exact wa_sub [2, 3, 4, 5, 6] rfl F
    · have F := F.2 z
      refine wa_aload_n (o := v3) dL_law_1125 rfl 5 rfl ?_
      refine wa_iconst (v := 0) dL_law_1126 rfl ?_
      refine wa_lald dL_law_1127 (a_L_mono F fun y9 F => ?_)
      refine wa_iload (x := x6) dL_law_1128 0 rfl ?_
      refine wa_i2l dL_law_1130 ?_
      refine wa_lcmp dL_law_1131 ?_
      refine wa_if_eq (tgt := 1137) dL_law_1132 rfl (fun z => ?_) (fun z => ?_)
      · have F := F.1 z
        exact wa_sub [2, 3, 4, 5, 6] rfl F
      · have F := F.2 z
        refine wa_iconst (v := 0) dL_law_1135 rfl ?_
        exact wa_zret rfl rfl dL_law_1136 F
  · have F := F.2 z
    refine wa_iconst (v := 0) dL_law_1118 rfl ?_
    exact wa_zret rfl rfl dL_law_1119 F
theorem f_L_law_1140 {D : qD} {Q : Option Value → qH → Prop} {X : String → qH → Prop} (v0 : Nat) (v1 : Option Nat) (v2 : Option Nat) (v3 : Option Nat) (v4 : Int32) (h : qH) (F : a_I D h (some v0) 9 (v4 + 1) (fun x1 => a_I D h (some v0) 9 (v4 + 2) (fun x2 => c_IW D m_X0_entry [va_rf v1, .int x1, .int x2, va_rf v3] h X (fun x4 h3 => a_I D h3 (some v0) 9 (v4 + 1) (fun x5 => a_I D h3 (some v0) 9 (v4 + 2) (fun x6 => (recv D h3 v2 RX3 ∧ c_I D m_X3_entry [va_rf v2, .int x5, .int x6] h3 X (fun x8 h7 => (recv D h7 v2 RX3 ∧ c_I D m_X3_thrown [va_rf v2] h7 X (fun x10 h9 => ((x10 = x4 → ((¬ x4 = 0 → L_L_law_1205 D Q X v0 v1 v2 v3 v4 h9) ∧ (x4 = 0 → a_L D h9 v3 0 (fun y11 => (((lg_cmp y11 x8.toInt64) = 0 → L_L_law_1205 D Q X v0 v1 v2 v3 v4 h9) ∧ (¬ (lg_cmp y11 x8.toInt64) = 0 → Q (some (.int 0)) h9)))))) ∧ (¬ x10 = x4 → Q (some (.int 0)) h9)))))))))))) : L_L_law_1140 D Q X v0 v1 v2 v3 v4 h := by
  show WA D m_L_law Q X 1140 [(0, va_rf (some v0)), (1, va_rf v1), (2, va_rf v2), (3, va_rf v3), (4, .int v4)] [] h
  refine wa_aload_n (o := v1) dL_law_1140 rfl 1 rfl ?_
  refine wa_aload_n (o := (some v0)) dL_law_1141 rfl 0 rfl ?_
  refine wa_iload (x := v4) dL_law_1142 4 rfl ?_
  refine wa_iconst (v := 1) dL_law_1144 rfl ?_
  refine wa_iadd dL_law_1145 ?_
  refine wa_iald9 dL_law_1146 (a_I_mono F fun x1 F => ?_)
  refine wa_aload_n (o := (some v0)) dL_law_1147 rfl 0 rfl ?_
  refine wa_iload (x := v4) dL_law_1148 4 rfl ?_
  refine wa_iconst (v := 2) dL_law_1150 rfl ?_
  refine wa_iadd dL_law_1151 ?_
  refine wa_iald9 dL_law_1152 (a_I_mono F fun x2 F => ?_)
  refine wa_aload_n (o := v3) dL_law_1153 rfl 3 rfl ?_
  refine wa_callSH (M' := m_X0_entry) (As := [va_rf v1, .int x1, .int x2, va_rf v3]) (st := []) dL_law_1154 ⟨Nat.le_of_ble_eq_true rfl, Nat.le_of_ble_eq_true rfl, nk_X0_entry⟩ q1098 q1099 q53 q1100 rfl rfl (Nat.zero_le 8) rfl F (wk_I fun x4 h3 F => ?_)
  refine ws_istore (lv' := [(5, .int x4), (0, va_rf (some v0)), (1, va_rf v1), (2, va_rf v2), (3, va_rf v3), (4, .int v4)]) dL_law_1157 (Nat.le_of_ble_eq_true rfl) (q_cr (q_cr (q_cr (q_cr (q_ci q_cn))))) rfl ?_
  refine wa_aload_n (o := v2) dL_law_1159 rfl 3 rfl ?_
  refine wa_aload_n (o := (some v0)) dL_law_1160 rfl 1 rfl ?_
  refine wa_iload (x := v4) dL_law_1161 5 rfl ?_
  refine wa_iconst (v := 1) dL_law_1163 rfl ?_
  refine wa_iadd dL_law_1164 ?_
  refine wa_iald9 dL_law_1165 (a_I_mono F fun x5 F => ?_)
  refine wa_aload_n (o := (some v0)) dL_law_1166 rfl 1 rfl ?_
  refine wa_iload (x := v4) dL_law_1167 5 rfl ?_
  refine wa_iconst (v := 2) dL_law_1169 rfl ?_
  refine wa_iadd dL_law_1170 ?_
  refine wa_iald9 dL_law_1171 (a_I_mono F fun x6 F => ?_)
  refine wa_callV (M' := m_X3_entry) (C := RX3) (o := v2) (As := [.int x5, .int x6]) (st := []) dL_law_1172 ⟨Nat.le_of_ble_eq_true rfl, Nat.le_of_ble_eq_true rfl, nk_X3_entry⟩ q1471 q1472 q1473 q59 q1474 rfl rfl (Nat.zero_le 8) rfl F.1 F.2 (wk_I fun x8 h7 F => ?_)
  refine ws_istore (lv' := [(6, .int x8), (5, .int x4), (0, va_rf (some v0)), (1, va_rf v1), (2, va_rf v2), (3, va_rf v3), (4, .int v4)]) dL_law_1175 (Nat.le_of_ble_eq_true rfl) (q_ci (q_cr (q_cr (q_cr (q_cr (q_ci q_cn)))))) rfl ?_
  refine wa_aload_n (o := v2) dL_law_1177 rfl 4 rfl ?_
  refine wa_callV (M' := m_X3_thrown) (C := RX3) (o := v2) (As := []) (st := []) dL_law_1178 ⟨Nat.le_of_ble_eq_true rfl, Nat.le_of_ble_eq_true rfl, nk_X3_thrown⟩ q1308 q1309 q1310 q59 q1311 rfl rfl (Nat.zero_le 8) rfl F.1 F.2 (wk_I fun x10 h9 F => ?_)
  refine wa_iload (x := x4) dL_law_1181 1 rfl ?_
  refine wa_icmp_eq (tgt := 1188) dL_law_1183 rfl (fun z => ?_) (fun z => ?_)
  · have F := F.1 z
    refine wa_iload (x := x4) dL_law_1188 1 rfl ?_
    refine wa_if_ne (tgt := 1205) dL_law_1190 rfl (fun z => ?_) (fun z => ?_)
    · have F := F.1 z
      exact wa_sub [2, 3, 4, 5, 6] rfl F
    · have F := F.2 z
      refine wa_aload_n (o := v3) dL_law_1193 rfl 5 rfl ?_
      refine wa_iconst (v := 0) dL_law_1194 rfl ?_
      refine wa_lald dL_law_1195 (a_L_mono F fun y11 F => ?_)
      refine wa_iload (x := x8) dL_law_1196 0 rfl ?_
      refine wa_i2l dL_law_1198 ?_
      refine wa_lcmp dL_law_1199 ?_
      refine wa_if_eq (tgt := 1205) dL_law_1200 rfl (fun z => ?_) (fun z => ?_)
      · have F := F.1 z
        exact wa_sub [2, 3, 4, 5, 6] rfl F
      · have F := F.2 z
        refine wa_iconst (v := 0) dL_law_1203 rfl ?_
        exact wa_zret rfl rfl dL_law_1204 F
  · have F := F.2 z
    refine wa_iconst (v := 0) dL_law_1186 rfl ?_
    exact wa_zret rfl rfl dL_law_1187 F
theorem f_L_law_1208 {D : qD} {Q : Option Value → qH → Prop} {X : String → qH → Prop} (v0 : Nat) (v1 : Option Nat) (v2 : Option Nat) (v3 : Option Nat) (v4 : Int32) (h : qH) (F : a_I D h (some v0) 9 (v4 + 1) (fun x1 => a_I D h (some v0) 9 (v4 + 2) (fun x2 => a_I D h (some v0) 9 (v4 + 3) (fun x3 => c_IW D m_X0_index [va_rf v1, .int x1, .int x2, .int x3, va_rf v3] h X (fun x5 h4 => a_I D h4 (some v0) 9 (v4 + 1) (fun x6 => a_I D h4 (some v0) 9 (v4 + 2) (fun x7 => a_I D h4 (some v0) 9 (v4 + 3) (fun x8 => (recv D h4 v2 RX3 ∧ c_I D m_X3_index [va_rf v2, .int x6, .int x7, .int x8] h4 X (fun x10 h9 => (recv D h9 v2 RX3 ∧ c_I D m_X3_thrown [va_rf v2] h9 X (fun x12 h11 => ((x12 = x5 → ((¬ x5 = 0 → L_L_law_1285 D Q X v0 v1 v2 v3 v4 h11) ∧ (x5 = 0 → a_L D h11 v3 0 (fun y13 => (((lg_cmp y13 x10.toInt64) = 0 → L_L_law_1285 D Q X v0 v1 v2 v3 v4 h11) ∧ (¬ (lg_cmp y13 x10.toInt64) = 0 → Q (some (.int 0)) h11)))))) ∧ (¬ x12 = x5 → Q (some (.int 0)) h11)))))))))))))) : L_L_law_1208 D Q X v0 v1 v2 v3 v4 h := by
  show WA D m_L_law Q X 1208 [(0, va_rf (some v0)), (1, va_rf v1), (2, va_rf v2), (3, va_rf v3), (4, .int v4)] [] h
  refine wa_aload_n (o := v1) dL_law_1208 rfl 1 rfl ?_
  refine wa_aload_n (o := (some v0)) dL_law_1209 rfl 0 rfl ?_
  refine wa_iload (x := v4) dL_law_1210 4 rfl ?_
  refine wa_iconst (v := 1) dL_law_1212 rfl ?_
  refine wa_iadd dL_law_1213 ?_
  refine wa_iald9 dL_law_1214 (a_I_mono F fun x1 F => ?_)
  refine wa_aload_n (o := (some v0)) dL_law_1215 rfl 0 rfl ?_
  refine wa_iload (x := v4) dL_law_1216 4 rfl ?_
  refine wa_iconst (v := 2) dL_law_1218 rfl ?_
  refine wa_iadd dL_law_1219 ?_
  refine wa_iald9 dL_law_1220 (a_I_mono F fun x2 F => ?_)
  refine wa_aload_n (o := (some v0)) dL_law_1221 rfl 0 rfl ?_
  refine wa_iload (x := v4) dL_law_1222 4 rfl ?_
  refine wa_iconst (v := 3) dL_law_1224 rfl ?_
  refine wa_iadd dL_law_1225 ?_
  refine wa_iald9 dL_law_1226 (a_I_mono F fun x3 F => ?_)
  refine wa_aload_n (o := v3) dL_law_1227 rfl 3 rfl ?_
  refine wa_callSH (M' := m_X0_index) (As := [va_rf v1, .int x1, .int x2, .int x3, va_rf v3]) (st := []) dL_law_1228 ⟨Nat.le_of_ble_eq_true rfl, Nat.le_of_ble_eq_true rfl, nk_X0_index⟩ q1106 q1107 q53 q1108 rfl rfl (Nat.zero_le 8) rfl F (wk_I fun x5 h4 F => ?_)
  refine ws_istore (lv' := [(5, .int x5), (0, va_rf (some v0)), (1, va_rf v1), (2, va_rf v2), (3, va_rf v3), (4, .int v4)]) dL_law_1231 (Nat.le_of_ble_eq_true rfl) (q_cr (q_cr (q_cr (q_cr (q_ci q_cn))))) rfl ?_
  refine wa_aload_n (o := v2) dL_law_1233 rfl 3 rfl ?_
  refine wa_aload_n (o := (some v0)) dL_law_1234 rfl 1 rfl ?_
  refine wa_iload (x := v4) dL_law_1235 5 rfl ?_
  refine wa_iconst (v := 1) dL_law_1237 rfl ?_
  refine wa_iadd dL_law_1238 ?_
  refine wa_iald9 dL_law_1239 (a_I_mono F fun x6 F => ?_)
  refine wa_aload_n (o := (some v0)) dL_law_1240 rfl 1 rfl ?_
  refine wa_iload (x := v4) dL_law_1241 5 rfl ?_
  refine wa_iconst (v := 2) dL_law_1243 rfl ?_
  refine wa_iadd dL_law_1244 ?_
  refine wa_iald9 dL_law_1245 (a_I_mono F fun x7 F => ?_)
  refine wa_aload_n (o := (some v0)) dL_law_1246 rfl 1 rfl ?_
  refine wa_iload (x := v4) dL_law_1247 5 rfl ?_
  refine wa_iconst (v := 3) dL_law_1249 rfl ?_
  refine wa_iadd dL_law_1250 ?_
  refine wa_iald9 dL_law_1251 (a_I_mono F fun x8 F => ?_)
  refine wa_callV (M' := m_X3_index) (C := RX3) (o := v2) (As := [.int x6, .int x7, .int x8]) (st := []) dL_law_1252 ⟨Nat.le_of_ble_eq_true rfl, Nat.le_of_ble_eq_true rfl, nk_X3_index⟩ q1475 q1476 q1477 q59 q1478 rfl rfl (Nat.zero_le 8) rfl F.1 F.2 (wk_I fun x10 h9 F => ?_)
  refine ws_istore (lv' := [(6, .int x10), (5, .int x5), (0, va_rf (some v0)), (1, va_rf v1), (2, va_rf v2), (3, va_rf v3), (4, .int v4)]) dL_law_1255 (Nat.le_of_ble_eq_true rfl) (q_ci (q_cr (q_cr (q_cr (q_cr (q_ci q_cn)))))) rfl ?_
  refine wa_aload_n (o := v2) dL_law_1257 rfl 4 rfl ?_
  refine wa_callV (M' := m_X3_thrown) (C := RX3) (o := v2) (As := []) (st := []) dL_law_1258 ⟨Nat.le_of_ble_eq_true rfl, Nat.le_of_ble_eq_true rfl, nk_X3_thrown⟩ q1308 q1309 q1310 q59 q1311 rfl rfl (Nat.zero_le 8) rfl F.1 F.2 (wk_I fun x12 h11 F => ?_)
  refine wa_iload (x := x5) dL_law_1261 1 rfl ?_
  refine wa_icmp_eq (tgt := 1268) dL_law_1263 rfl (fun z => ?_) (fun z => ?_)
  · have F := F.1 z
    refine wa_iload (x := x5) dL_law_1268 1 rfl ?_
    refine wa_if_ne (tgt := 1285) dL_law_1270 rfl (fun z => ?_) (fun z => ?_)
    · have F := F.1 z
      exact wa_sub [2, 3, 4, 5, 6] rfl F
    · have F := F.2 z
      refine wa_aload_n (o := v3) dL_law_1273 rfl 5 rfl ?_
      refine wa_iconst (v := 0) dL_law_1274 rfl ?_
      refine wa_lald dL_law_1275 (a_L_mono F fun y13 F => ?_)
      refine wa_iload (x := x10) dL_law_1276 0 rfl ?_
      refine wa_i2l dL_law_1278 ?_
      refine wa_lcmp dL_law_1279 ?_
      refine wa_if_eq (tgt := 1285) dL_law_1280 rfl (fun z => ?_) (fun z => ?_)
      · have F := F.1 z
        exact wa_sub [2, 3, 4, 5, 6] rfl F
      · have F := F.2 z
        refine wa_iconst (v := 0) dL_law_1283 rfl ?_
        exact wa_zret rfl rfl dL_law_1284 F
  · have F := F.2 z
    refine wa_iconst (v := 0) dL_law_1266 rfl ?_
    exact wa_zret rfl rfl dL_law_1267 F
theorem f_L_law_1288 {D : qD} {Q : Option Value → qH → Prop} {X : String → qH → Prop} (v0 : Nat) (v1 : Option Nat) (v2 : Option Nat) (v3 : Option Nat) (v4 : Int32) (h : qH) (F : a_I D h (some v0) 9 (v4 + 1) (fun x1 => a_I D h (some v0) 9 (v4 + 2) (fun x2 => c_IW D m_X0_sheet [va_rf v1, .int x1, .int x2, va_rf v3] h X (fun x4 h3 => a_I D h3 (some v0) 9 (v4 + 1) (fun x5 => a_I D h3 (some v0) 9 (v4 + 2) (fun x6 => (recv D h3 v2 RX3 ∧ c_I D m_X3_sheet [va_rf v2, .int x5, .int x6] h3 X (fun x8 h7 => (recv D h7 v2 RX3 ∧ c_I D m_X3_thrown [va_rf v2] h7 X (fun x10 h9 => ((x10 = x4 → ((¬ x4 = 0 → L_L_law_1353 D Q X v0 v1 v2 v3 v4 h9) ∧ (x4 = 0 → a_L D h9 v3 0 (fun y11 => (((lg_cmp y11 x8.toInt64) = 0 → L_L_law_1353 D Q X v0 v1 v2 v3 v4 h9) ∧ (¬ (lg_cmp y11 x8.toInt64) = 0 → Q (some (.int 0)) h9)))))) ∧ (¬ x10 = x4 → Q (some (.int 0)) h9)))))))))))) : L_L_law_1288 D Q X v0 v1 v2 v3 v4 h := by
  show WA D m_L_law Q X 1288 [(0, va_rf (some v0)), (1, va_rf v1), (2, va_rf v2), (3, va_rf v3), (4, .int v4)] [] h
  refine wa_aload_n (o := v1) dL_law_1288 rfl 1 rfl ?_
  refine wa_aload_n (o := (some v0)) dL_law_1289 rfl 0 rfl ?_
  refine wa_iload (x := v4) dL_law_1290 4 rfl ?_
  refine wa_iconst (v := 1) dL_law_1292 rfl ?_
  refine wa_iadd dL_law_1293 ?_
  refine wa_iald9 dL_law_1294 (a_I_mono F fun x1 F => ?_)
  refine wa_aload_n (o := (some v0)) dL_law_1295 rfl 0 rfl ?_
  refine wa_iload (x := v4) dL_law_1296 4 rfl ?_
  refine wa_iconst (v := 2) dL_law_1298 rfl ?_
  refine wa_iadd dL_law_1299 ?_
  refine wa_iald9 dL_law_1300 (a_I_mono F fun x2 F => ?_)
  refine wa_aload_n (o := v3) dL_law_1301 rfl 3 rfl ?_
  refine wa_callSH (M' := m_X0_sheet) (As := [va_rf v1, .int x1, .int x2, va_rf v3]) (st := []) dL_law_1302 ⟨Nat.le_of_ble_eq_true rfl, Nat.le_of_ble_eq_true rfl, nk_X0_sheet⟩ q1127 q1128 q53 q1129 rfl rfl (Nat.zero_le 8) rfl F (wk_I fun x4 h3 F => ?_)
  refine ws_istore (lv' := [(5, .int x4), (0, va_rf (some v0)), (1, va_rf v1), (2, va_rf v2), (3, va_rf v3), (4, .int v4)]) dL_law_1305 (Nat.le_of_ble_eq_true rfl) (q_cr (q_cr (q_cr (q_cr (q_ci q_cn))))) rfl ?_
  refine wa_aload_n (o := v2) dL_law_1307 rfl 3 rfl ?_
  refine wa_aload_n (o := (some v0)) dL_law_1308 rfl 1 rfl ?_
  refine wa_iload (x := v4) dL_law_1309 5 rfl ?_
  refine wa_iconst (v := 1) dL_law_1311 rfl ?_
  refine wa_iadd dL_law_1312 ?_
  refine wa_iald9 dL_law_1313 (a_I_mono F fun x5 F => ?_)
  refine wa_aload_n (o := (some v0)) dL_law_1314 rfl 1 rfl ?_
  refine wa_iload (x := v4) dL_law_1315 5 rfl ?_
  refine wa_iconst (v := 2) dL_law_1317 rfl ?_
  refine wa_iadd dL_law_1318 ?_
  refine wa_iald9 dL_law_1319 (a_I_mono F fun x6 F => ?_)
  refine wa_callV (M' := m_X3_sheet) (C := RX3) (o := v2) (As := [.int x5, .int x6]) (st := []) dL_law_1320 ⟨Nat.le_of_ble_eq_true rfl, Nat.le_of_ble_eq_true rfl, nk_X3_sheet⟩ q1487 q1488 q1489 q59 q1490 rfl rfl (Nat.zero_le 8) rfl F.1 F.2 (wk_I fun x8 h7 F => ?_)
  refine ws_istore (lv' := [(6, .int x8), (5, .int x4), (0, va_rf (some v0)), (1, va_rf v1), (2, va_rf v2), (3, va_rf v3), (4, .int v4)]) dL_law_1323 (Nat.le_of_ble_eq_true rfl) (q_ci (q_cr (q_cr (q_cr (q_cr (q_ci q_cn)))))) rfl ?_
  refine wa_aload_n (o := v2) dL_law_1325 rfl 4 rfl ?_
  refine wa_callV (M' := m_X3_thrown) (C := RX3) (o := v2) (As := []) (st := []) dL_law_1326 ⟨Nat.le_of_ble_eq_true rfl, Nat.le_of_ble_eq_true rfl, nk_X3_thrown⟩ q1308 q1309 q1310 q59 q1311 rfl rfl (Nat.zero_le 8) rfl F.1 F.2 (wk_I fun x10 h9 F => ?_)
  refine wa_iload (x := x4) dL_law_1329 1 rfl ?_
  refine wa_icmp_eq (tgt := 1336) dL_law_1331 rfl (fun z => ?_) (fun z => ?_)
  · have F := F.1 z
    refine wa_iload (x := x4) dL_law_1336 1 rfl ?_
    refine wa_if_ne (tgt := 1353) dL_law_1338 rfl (fun z => ?_) (fun z => ?_)
    · have F := F.1 z
      exact wa_sub [2, 3, 4, 5, 6] rfl F
    · have F := F.2 z
      refine wa_aload_n (o := v3) dL_law_1341 rfl 5 rfl ?_
      refine wa_iconst (v := 0) dL_law_1342 rfl ?_
      refine wa_lald dL_law_1343 (a_L_mono F fun y11 F => ?_)
      refine wa_iload (x := x8) dL_law_1344 0 rfl ?_
      refine wa_i2l dL_law_1346 ?_
      refine wa_lcmp dL_law_1347 ?_
      refine wa_if_eq (tgt := 1353) dL_law_1348 rfl (fun z => ?_) (fun z => ?_)
      · have F := F.1 z
        exact wa_sub [2, 3, 4, 5, 6] rfl F
      · have F := F.2 z
        refine wa_iconst (v := 0) dL_law_1351 rfl ?_
        exact wa_zret rfl rfl dL_law_1352 F
  · have F := F.2 z
    refine wa_iconst (v := 0) dL_law_1334 rfl ?_
    exact wa_zret rfl rfl dL_law_1335 F
theorem f_L_law_1356 {D : qD} {Q : Option Value → qH → Prop} {X : String → qH → Prop} (v0 : Nat) (v1 : Option Nat) (v2 : Option Nat) (v3 : Option Nat) (v4 : Int32) (h : qH) (F : a_I D h (some v0) 9 (v4 + 1) (fun x1 => a_I D h (some v0) 9 (v4 + 2) (fun x2 => a_I D h (some v0) 9 (v4 + 3) (fun x3 => a_I D h (some v0) 9 (v4 + 4) (fun x4 => c_IW D m_X0_plate [va_rf v1, .int x1, .int x2, .int x3, .int x4, va_rf v3] h X (fun x6 h5 => a_I D h5 (some v0) 9 (v4 + 1) (fun x7 => a_I D h5 (some v0) 9 (v4 + 2) (fun x8 => a_I D h5 (some v0) 9 (v4 + 3) (fun x9 => a_I D h5 (some v0) 9 (v4 + 4) (fun x10 => (recv D h5 v2 RX3 ∧ c_I D m_X3_plate [va_rf v2, .int x7, .int x8, .int x9, .int x10] h5 X (fun x12 h11 => (recv D h11 v2 RX3 ∧ c_I D m_X3_thrown [va_rf v2] h11 X (fun x14 h13 => ((x14 = x6 → ((¬ x6 = 0 → L_L_law_1445 D Q X v0 v1 v2 v3 v4 h13) ∧ (x6 = 0 → a_L D h13 v3 0 (fun y15 => (((lg_cmp y15 x12.toInt64) = 0 → L_L_law_1445 D Q X v0 v1 v2 v3 v4 h13) ∧ (¬ (lg_cmp y15 x12.toInt64) = 0 → Q (some (.int 0)) h13)))))) ∧ (¬ x14 = x6 → Q (some (.int 0)) h13)))))))))))))))) : L_L_law_1356 D Q X v0 v1 v2 v3 v4 h := by
  show WA D m_L_law Q X 1356 [(0, va_rf (some v0)), (1, va_rf v1), (2, va_rf v2), (3, va_rf v3), (4, .int v4)] [] h
  refine wa_aload_n (o := v1) dL_law_1356 rfl 1 rfl ?_
  refine wa_aload_n (o := (some v0)) dL_law_1357 rfl 0 rfl ?_
  refine wa_iload (x := v4) dL_law_1358 4 rfl ?_
  refine wa_iconst (v := 1) dL_law_1360 rfl ?_
  refine wa_iadd dL_law_1361 ?_
  refine wa_iald9 dL_law_1362 (a_I_mono F fun x1 F => ?_)
  refine wa_aload_n (o := (some v0)) dL_law_1363 rfl 0 rfl ?_
  refine wa_iload (x := v4) dL_law_1364 4 rfl ?_
  refine wa_iconst (v := 2) dL_law_1366 rfl ?_
  refine wa_iadd dL_law_1367 ?_
  refine wa_iald9 dL_law_1368 (a_I_mono F fun x2 F => ?_)
  refine wa_aload_n (o := (some v0)) dL_law_1369 rfl 0 rfl ?_
  refine wa_iload (x := v4) dL_law_1370 4 rfl ?_
  refine wa_iconst (v := 3) dL_law_1372 rfl ?_
  refine wa_iadd dL_law_1373 ?_
  refine wa_iald9 dL_law_1374 (a_I_mono F fun x3 F => ?_)
  refine wa_aload_n (o := (some v0)) dL_law_1375 rfl 0 rfl ?_
  refine wa_iload (x := v4) dL_law_1376 4 rfl ?_
  refine wa_iconst (v := 4) dL_law_1378 rfl ?_
  refine wa_iadd dL_law_1379 ?_
  refine wa_iald9 dL_law_1380 (a_I_mono F fun x4 F => ?_)
  refine wa_aload_n (o := v3) dL_law_1381 rfl 3 rfl ?_
  refine wa_callSH (M' := m_X0_plate) (As := [va_rf v1, .int x1, .int x2, .int x3, .int x4, va_rf v3]) (st := []) dL_law_1382 ⟨Nat.le_of_ble_eq_true rfl, Nat.le_of_ble_eq_true rfl, nk_X0_plate⟩ q1141 q1142 q53 q1143 rfl rfl (Nat.zero_le 8) rfl F (wk_I fun x6 h5 F => ?_)
  refine ws_istore (lv' := [(5, .int x6), (0, va_rf (some v0)), (1, va_rf v1), (2, va_rf v2), (3, va_rf v3), (4, .int v4)]) dL_law_1385 (Nat.le_of_ble_eq_true rfl) (q_cr (q_cr (q_cr (q_cr (q_ci q_cn))))) rfl ?_
  refine wa_aload_n (o := v2) dL_law_1387 rfl 3 rfl ?_
  refine wa_aload_n (o := (some v0)) dL_law_1388 rfl 1 rfl ?_
  refine wa_iload (x := v4) dL_law_1389 5 rfl ?_
  refine wa_iconst (v := 1) dL_law_1391 rfl ?_
  refine wa_iadd dL_law_1392 ?_
  refine wa_iald9 dL_law_1393 (a_I_mono F fun x7 F => ?_)
  refine wa_aload_n (o := (some v0)) dL_law_1394 rfl 1 rfl ?_
  refine wa_iload (x := v4) dL_law_1395 5 rfl ?_
  refine wa_iconst (v := 2) dL_law_1397 rfl ?_
  refine wa_iadd dL_law_1398 ?_
  refine wa_iald9 dL_law_1399 (a_I_mono F fun x8 F => ?_)
  refine wa_aload_n (o := (some v0)) dL_law_1400 rfl 1 rfl ?_
  refine wa_iload (x := v4) dL_law_1401 5 rfl ?_
  refine wa_iconst (v := 3) dL_law_1403 rfl ?_
  refine wa_iadd dL_law_1404 ?_
  refine wa_iald9 dL_law_1405 (a_I_mono F fun x9 F => ?_)
  refine wa_aload_n (o := (some v0)) dL_law_1406 rfl 1 rfl ?_
  refine wa_iload (x := v4) dL_law_1407 5 rfl ?_
  refine wa_iconst (v := 4) dL_law_1409 rfl ?_
  refine wa_iadd dL_law_1410 ?_
  refine wa_iald9 dL_law_1411 (a_I_mono F fun x10 F => ?_)
  refine wa_callV (M' := m_X3_plate) (C := RX3) (o := v2) (As := [.int x7, .int x8, .int x9, .int x10]) (st := []) dL_law_1412 ⟨Nat.le_of_ble_eq_true rfl, Nat.le_of_ble_eq_true rfl, nk_X3_plate⟩ q1504 q1505 q1506 q59 q1507 rfl rfl (Nat.zero_le 8) rfl F.1 F.2 (wk_I fun x12 h11 F => ?_)
  refine ws_istore (lv' := [(6, .int x12), (5, .int x6), (0, va_rf (some v0)), (1, va_rf v1), (2, va_rf v2), (3, va_rf v3), (4, .int v4)]) dL_law_1415 (Nat.le_of_ble_eq_true rfl) (q_ci (q_cr (q_cr (q_cr (q_cr (q_ci q_cn)))))) rfl ?_
  refine wa_aload_n (o := v2) dL_law_1417 rfl 4 rfl ?_
  refine wa_callV (M' := m_X3_thrown) (C := RX3) (o := v2) (As := []) (st := []) dL_law_1418 ⟨Nat.le_of_ble_eq_true rfl, Nat.le_of_ble_eq_true rfl, nk_X3_thrown⟩ q1308 q1309 q1310 q59 q1311 rfl rfl (Nat.zero_le 8) rfl F.1 F.2 (wk_I fun x14 h13 F => ?_)
  refine wa_iload (x := x6) dL_law_1421 1 rfl ?_
  refine wa_icmp_eq (tgt := 1428) dL_law_1423 rfl (fun z => ?_) (fun z => ?_)
  · have F := F.1 z
    refine wa_iload (x := x6) dL_law_1428 1 rfl ?_
    refine wa_if_ne (tgt := 1445) dL_law_1430 rfl (fun z => ?_) (fun z => ?_)
    · have F := F.1 z
      exact wa_sub [2, 3, 4, 5, 6] rfl F
    · have F := F.2 z
      refine wa_aload_n (o := v3) dL_law_1433 rfl 5 rfl ?_
      refine wa_iconst (v := 0) dL_law_1434 rfl ?_
      refine wa_lald dL_law_1435 (a_L_mono F fun y15 F => ?_)
      refine wa_iload (x := x12) dL_law_1436 0 rfl ?_
      refine wa_i2l dL_law_1438 ?_
      refine wa_lcmp dL_law_1439 ?_
      refine wa_if_eq (tgt := 1445) dL_law_1440 rfl (fun z => ?_) (fun z => ?_)
      · have F := F.1 z
        exact wa_sub [2, 3, 4, 5, 6] rfl F
      · have F := F.2 z
        refine wa_iconst (v := 0) dL_law_1443 rfl ?_
        exact wa_zret rfl rfl dL_law_1444 F
  · have F := F.2 z
    refine wa_iconst (v := 0) dL_law_1426 rfl ?_
    exact wa_zret rfl rfl dL_law_1427 F
theorem f_L_law_1448 {D : qD} {Q : Option Value → qH → Prop} {X : String → qH → Prop} (v0 : Nat) (v1 : Option Nat) (v2 : Option Nat) (v3 : Option Nat) (v4 : Int32) (h : qH) (F : a_I D h (some v0) 9 (v4 + 1) (fun x1 => a_I D h (some v0) 9 (v4 + 2) (fun x2 => c_IW D m_X0_faults [va_rf v1, .int x1, .int x2, va_rf v3] h X (fun x4 h3 => a_I D h3 (some v0) 9 (v4 + 1) (fun x5 => a_I D h3 (some v0) 9 (v4 + 2) (fun x6 => (recv D h3 v2 RX3 ∧ c_I D m_X3_faults [va_rf v2, .int x5, .int x6] h3 X (fun x8 h7 => (recv D h7 v2 RX3 ∧ c_I D m_X3_thrown [va_rf v2] h7 X (fun x10 h9 => ((x10 = x4 → ((¬ x4 = 0 → L_L_law_1513 D Q X v0 v1 v2 v3 v4 h9) ∧ (x4 = 0 → a_L D h9 v3 0 (fun y11 => (((lg_cmp y11 x8.toInt64) = 0 → L_L_law_1513 D Q X v0 v1 v2 v3 v4 h9) ∧ (¬ (lg_cmp y11 x8.toInt64) = 0 → Q (some (.int 0)) h9)))))) ∧ (¬ x10 = x4 → Q (some (.int 0)) h9)))))))))))) : L_L_law_1448 D Q X v0 v1 v2 v3 v4 h := by
  show WA D m_L_law Q X 1448 [(0, va_rf (some v0)), (1, va_rf v1), (2, va_rf v2), (3, va_rf v3), (4, .int v4)] [] h
  refine wa_aload_n (o := v1) dL_law_1448 rfl 1 rfl ?_
  refine wa_aload_n (o := (some v0)) dL_law_1449 rfl 0 rfl ?_
  refine wa_iload (x := v4) dL_law_1450 4 rfl ?_
  refine wa_iconst (v := 1) dL_law_1452 rfl ?_
  refine wa_iadd dL_law_1453 ?_
  refine wa_iald9 dL_law_1454 (a_I_mono F fun x1 F => ?_)
  refine wa_aload_n (o := (some v0)) dL_law_1455 rfl 0 rfl ?_
  refine wa_iload (x := v4) dL_law_1456 4 rfl ?_
  refine wa_iconst (v := 2) dL_law_1458 rfl ?_
  refine wa_iadd dL_law_1459 ?_
  refine wa_iald9 dL_law_1460 (a_I_mono F fun x2 F => ?_)
  refine wa_aload_n (o := v3) dL_law_1461 rfl 3 rfl ?_
  refine wa_callSH (M' := m_X0_faults) (As := [va_rf v1, .int x1, .int x2, va_rf v3]) (st := []) dL_law_1462 ⟨Nat.le_of_ble_eq_true rfl, Nat.le_of_ble_eq_true rfl, nk_X0_faults⟩ q1158 q1159 q53 q1160 rfl rfl (Nat.zero_le 8) rfl F (wk_I fun x4 h3 F => ?_)
  refine ws_istore (lv' := [(5, .int x4), (0, va_rf (some v0)), (1, va_rf v1), (2, va_rf v2), (3, va_rf v3), (4, .int v4)]) dL_law_1465 (Nat.le_of_ble_eq_true rfl) (q_cr (q_cr (q_cr (q_cr (q_ci q_cn))))) rfl ?_
  refine wa_aload_n (o := v2) dL_law_1467 rfl 3 rfl ?_
  refine wa_aload_n (o := (some v0)) dL_law_1468 rfl 1 rfl ?_
  refine wa_iload (x := v4) dL_law_1469 5 rfl ?_
  refine wa_iconst (v := 1) dL_law_1471 rfl ?_
  refine wa_iadd dL_law_1472 ?_
  refine wa_iald9 dL_law_1473 (a_I_mono F fun x5 F => ?_)
  refine wa_aload_n (o := (some v0)) dL_law_1474 rfl 1 rfl ?_
  refine wa_iload (x := v4) dL_law_1475 5 rfl ?_
  refine wa_iconst (v := 2) dL_law_1477 rfl ?_
  refine wa_iadd dL_law_1478 ?_
  refine wa_iald9 dL_law_1479 (a_I_mono F fun x6 F => ?_)
  refine wa_callV (M' := m_X3_faults) (C := RX3) (o := v2) (As := [.int x5, .int x6]) (st := []) dL_law_1480 ⟨Nat.le_of_ble_eq_true rfl, Nat.le_of_ble_eq_true rfl, nk_X3_faults⟩ q1509 q1510 q1511 q59 q1512 rfl rfl (Nat.zero_le 8) rfl F.1 F.2 (wk_I fun x8 h7 F => ?_)
  refine ws_istore (lv' := [(6, .int x8), (5, .int x4), (0, va_rf (some v0)), (1, va_rf v1), (2, va_rf v2), (3, va_rf v3), (4, .int v4)]) dL_law_1483 (Nat.le_of_ble_eq_true rfl) (q_ci (q_cr (q_cr (q_cr (q_cr (q_ci q_cn)))))) rfl ?_
  refine wa_aload_n (o := v2) dL_law_1485 rfl 4 rfl ?_
  refine wa_callV (M' := m_X3_thrown) (C := RX3) (o := v2) (As := []) (st := []) dL_law_1486 ⟨Nat.le_of_ble_eq_true rfl, Nat.le_of_ble_eq_true rfl, nk_X3_thrown⟩ q1308 q1309 q1310 q59 q1311 rfl rfl (Nat.zero_le 8) rfl F.1 F.2 (wk_I fun x10 h9 F => ?_)
  refine wa_iload (x := x4) dL_law_1489 1 rfl ?_
  refine wa_icmp_eq (tgt := 1496) dL_law_1491 rfl (fun z => ?_) (fun z => ?_)
  · have F := F.1 z
    refine wa_iload (x := x4) dL_law_1496 1 rfl ?_
    refine wa_if_ne (tgt := 1513) dL_law_1498 rfl (fun z => ?_) (fun z => ?_)
    · have F := F.1 z
      exact wa_sub [2, 3, 4, 5, 6] rfl F
    · have F := F.2 z
      refine wa_aload_n (o := v3) dL_law_1501 rfl 5 rfl ?_
      refine wa_iconst (v := 0) dL_law_1502 rfl ?_
      refine wa_lald dL_law_1503 (a_L_mono F fun y11 F => ?_)
      refine wa_iload (x := x8) dL_law_1504 0 rfl ?_
      refine wa_i2l dL_law_1506 ?_
      refine wa_lcmp dL_law_1507 ?_
      refine wa_if_eq (tgt := 1513) dL_law_1508 rfl (fun z => ?_) (fun z => ?_)
      · have F := F.1 z
        exact wa_sub [2, 3, 4, 5, 6] rfl F
      · have F := F.2 z
        refine wa_iconst (v := 0) dL_law_1511 rfl ?_
        exact wa_zret rfl rfl dL_law_1512 F
  · have F := F.2 z
    refine wa_iconst (v := 0) dL_law_1494 rfl ?_
    exact wa_zret rfl rfl dL_law_1495 F
theorem f_L_law_1516 {D : qD} {Q : Option Value → qH → Prop} {X : String → qH → Prop} (v0 : Nat) (v1 : Option Nat) (v2 : Option Nat) (v3 : Option Nat) (v4 : Int32) (h : qH) (F : a_I D h (some v0) 9 (v4 + 1) (fun x1 => a_I D h (some v0) 9 (v4 + 2) (fun x2 => c_IW D m_X0_isNew [va_rf v1, .int x1, .int x2, va_rf v3] h X (fun x4 h3 => a_I D h3 (some v0) 9 (v4 + 1) (fun x5 => a_I D h3 (some v0) 9 (v4 + 2) (fun x6 => (recv D h3 v2 RX3 ∧ c_I D m_X3_isNew [va_rf v2, .int x5, .int x6] h3 X (fun x8 h7 => (recv D h7 v2 RX3 ∧ c_I D m_X3_thrown [va_rf v2] h7 X (fun x10 h9 => ((x10 = x4 → ((¬ x4 = 0 → L_L_law_1588 D Q X v0 v1 v2 v3 v4 h9) ∧ (x4 = 0 → a_L D h9 v3 0 (fun y11 => ((x8 = 0 → L_L_law_1582 D Q X v0 v1 v2 v3 v4 0 y11 h9) ∧ (¬ x8 = 0 → L_L_law_1582 D Q X v0 v1 v2 v3 v4 1 y11 h9)))))) ∧ (¬ x10 = x4 → Q (some (.int 0)) h9)))))))))))) : L_L_law_1516 D Q X v0 v1 v2 v3 v4 h := by
  show WA D m_L_law Q X 1516 [(0, va_rf (some v0)), (1, va_rf v1), (2, va_rf v2), (3, va_rf v3), (4, .int v4)] [] h
  refine wa_aload_n (o := v1) dL_law_1516 rfl 1 rfl ?_
  refine wa_aload_n (o := (some v0)) dL_law_1517 rfl 0 rfl ?_
  refine wa_iload (x := v4) dL_law_1518 4 rfl ?_
  refine wa_iconst (v := 1) dL_law_1520 rfl ?_
  refine wa_iadd dL_law_1521 ?_
  refine wa_iald9 dL_law_1522 (a_I_mono F fun x1 F => ?_)
  refine wa_aload_n (o := (some v0)) dL_law_1523 rfl 0 rfl ?_
  refine wa_iload (x := v4) dL_law_1524 4 rfl ?_
  refine wa_iconst (v := 2) dL_law_1526 rfl ?_
  refine wa_iadd dL_law_1527 ?_
  refine wa_iald9 dL_law_1528 (a_I_mono F fun x2 F => ?_)
  refine wa_aload_n (o := v3) dL_law_1529 rfl 3 rfl ?_
  refine wa_callSH (M' := m_X0_isNew) (As := [va_rf v1, .int x1, .int x2, va_rf v3]) (st := []) dL_law_1530 ⟨Nat.le_of_ble_eq_true rfl, Nat.le_of_ble_eq_true rfl, nk_X0_isNew⟩ q1173 q1174 q53 q1175 rfl rfl (Nat.zero_le 8) rfl F (wk_I fun x4 h3 F => ?_)
  refine ws_istore (lv' := [(5, .int x4), (0, va_rf (some v0)), (1, va_rf v1), (2, va_rf v2), (3, va_rf v3), (4, .int v4)]) dL_law_1533 (Nat.le_of_ble_eq_true rfl) (q_cr (q_cr (q_cr (q_cr (q_ci q_cn))))) rfl ?_
  refine wa_aload_n (o := v2) dL_law_1535 rfl 3 rfl ?_
  refine wa_aload_n (o := (some v0)) dL_law_1536 rfl 1 rfl ?_
  refine wa_iload (x := v4) dL_law_1537 5 rfl ?_
  refine wa_iconst (v := 1) dL_law_1539 rfl ?_
  refine wa_iadd dL_law_1540 ?_
  refine wa_iald9 dL_law_1541 (a_I_mono F fun x5 F => ?_)
  refine wa_aload_n (o := (some v0)) dL_law_1542 rfl 1 rfl ?_
  refine wa_iload (x := v4) dL_law_1543 5 rfl ?_
  refine wa_iconst (v := 2) dL_law_1545 rfl ?_
  refine wa_iadd dL_law_1546 ?_
  refine wa_iald9 dL_law_1547 (a_I_mono F fun x6 F => ?_)
  refine wa_callV (M' := m_X3_isNew) (C := RX3) (o := v2) (As := [.int x5, .int x6]) (st := []) dL_law_1548 ⟨Nat.le_of_ble_eq_true rfl, Nat.le_of_ble_eq_true rfl, nk_X3_isNew⟩ q1517 q1518 q1519 q59 q1520 rfl rfl (Nat.zero_le 8) rfl F.1 F.2 (wk_I fun x8 h7 F => ?_)
  refine ws_istore (lv' := [(6, .int x8), (5, .int x4), (0, va_rf (some v0)), (1, va_rf v1), (2, va_rf v2), (3, va_rf v3), (4, .int v4)]) dL_law_1551 (Nat.le_of_ble_eq_true rfl) (q_ci (q_cr (q_cr (q_cr (q_cr (q_ci q_cn)))))) rfl ?_
  refine wa_aload_n (o := v2) dL_law_1553 rfl 4 rfl ?_
  refine wa_callV (M' := m_X3_thrown) (C := RX3) (o := v2) (As := []) (st := []) dL_law_1554 ⟨Nat.le_of_ble_eq_true rfl, Nat.le_of_ble_eq_true rfl, nk_X3_thrown⟩ q1308 q1309 q1310 q59 q1311 rfl rfl (Nat.zero_le 8) rfl F.1 F.2 (wk_I fun x10 h9 F => ?_)
  refine wa_iload (x := x4) dL_law_1557 1 rfl ?_
  refine wa_icmp_eq (tgt := 1564) dL_law_1559 rfl (fun z => ?_) (fun z => ?_)
  · have F := F.1 z
    refine wa_iload (x := x4) dL_law_1564 1 rfl ?_
    refine wa_if_ne (tgt := 1588) dL_law_1566 rfl (fun z => ?_) (fun z => ?_)
    · have F := F.1 z
      exact wa_sub [2, 3, 4, 5, 6] rfl F
    · have F := F.2 z
      refine wa_aload_n (o := v3) dL_law_1569 rfl 5 rfl ?_
      refine wa_iconst (v := 0) dL_law_1570 rfl ?_
      refine wa_lald dL_law_1571 (a_L_mono F fun y11 F => ?_)
      refine wa_iload (x := x8) dL_law_1572 0 rfl ?_
      refine wa_if_eq (tgt := 1581) dL_law_1574 rfl (fun z => ?_) (fun z => ?_)
      · have F := F.1 z
        refine wa_lconst (v := 0) dL_law_1581 rfl ?_
        exact wa_sub [2, 3, 4, 5, 6] rfl F
      · have F := F.2 z
        refine wa_lconst (v := 1) dL_law_1577 rfl ?_
        refine wa_goto (tgt := 1582) dL_law_1578 rfl ?_
        exact wa_sub [2, 3, 4, 5, 6] rfl F
  · have F := F.2 z
    refine wa_iconst (v := 0) dL_law_1562 rfl ?_
    exact wa_zret rfl rfl dL_law_1563 F
theorem f_L_law_1591 {D : qD} {Q : Option Value → qH → Prop} {X : String → qH → Prop} (v0 : Nat) (v1 : Option Nat) (v2 : Option Nat) (v3 : Option Nat) (v4 : Int32) (h : qH) (F : (recv D h v1 RX1 ∧ c_I D m_X1_tokens [va_rf v1] h X (fun x2 h1 => (recv D h1 v2 RX3 ∧ c_I D m_X3_tokens [va_rf v2] h1 X (fun x4 h3 => ((x2 = x4 → L_L_law_1604 D Q X v0 v1 v2 v3 v4 h3) ∧ (¬ x2 = x4 → Q (some (.int 0)) h3))))))) : L_L_law_1591 D Q X v0 v1 v2 v3 v4 h := by
  show WA D m_L_law Q X 1591 [(0, va_rf (some v0)), (1, va_rf v1), (2, va_rf v2), (3, va_rf v3), (4, .int v4)] [] h
  refine wa_aload_n (o := v1) dL_law_1591 rfl 1 rfl ?_
  refine wa_callV (M' := m_X1_tokens) (C := RX1) (o := v1) (As := []) (st := []) dL_law_1592 ⟨Nat.le_of_ble_eq_true rfl, Nat.le_of_ble_eq_true rfl, nk_X1_tokens⟩ q187 q188 q189 q54 q190 rfl rfl (Nat.zero_le 8) rfl F.1 F.2 (wk_I fun x2 h1 F => ?_)
  refine wa_aload_n (o := v2) dL_law_1595 rfl 2 rfl ?_
  refine wa_callV (M' := m_X3_tokens) (C := RX3) (o := v2) (As := []) (st := [.int x2]) dL_law_1596 ⟨Nat.le_of_ble_eq_true rfl, Nat.le_of_ble_eq_true rfl, nk_X3_tokens⟩ q1533 q1534 q1535 q59 q1536 rfl rfl (q_cs_le (q_csi q_cs0) (Nat.le_of_ble_eq_true rfl)) rfl F.1 F.2 (wk_I fun x4 h3 F => ?_)
  refine wa_icmp_eq (tgt := 1604) dL_law_1599 rfl (fun z => ?_) (fun z => ?_)
  · have F := F.1 z
    exact F
  · have F := F.2 z
    refine wa_iconst (v := 0) dL_law_1602 rfl ?_
    exact wa_zret rfl rfl dL_law_1603 F
theorem f_L_law_1604 {D : qD} {Q : Option Value → qH → Prop} {X : String → qH → Prop} (v0 : Nat) (v1 : Option Nat) (v2 : Option Nat) (v3 : Option Nat) (v4 : Int32) (h : qH) (F : L_L_law_23 D Q X v0 v1 v2 v3 (v4 + 5) h) : L_L_law_1604 D Q X v0 v1 v2 v3 v4 h := by
  show WA D m_L_law Q X 1604 [(0, va_rf (some v0)), (1, va_rf v1), (2, va_rf v2), (3, va_rf v3), (4, .int v4)] [] h
  refine ws_iinc (j := 4) (v := (v4 + 5)) (lv' := [(4, .int (v4 + 5)), (0, va_rf (some v0)), (1, va_rf v1), (2, va_rf v2), (3, va_rf v3)]) dL_law_1604 rfl rfl (Nat.le_of_ble_eq_true rfl) (q_cr (q_cr (q_cr (q_cr (q_ci q_cn))))) rfl ?_
  refine wa_goto (tgt := 23) dL_law_1607 rfl ?_
  exact wa_sub [1, 2, 3, 4, 0] rfl F
theorem f_L_law_229 {D : qD} {Q : Option Value → qH → Prop} {X : String → qH → Prop} (v0 : Nat) (v1 : Option Nat) (v2 : Option Nat) (v3 : Option Nat) (v4 : Int32) (h : qH) (F : L_L_law_1604 D Q X v0 v1 v2 v3 v4 h) : L_L_law_229 D Q X v0 v1 v2 v3 v4 h := by
  show WA D m_L_law Q X 229 [(0, va_rf (some v0)), (1, va_rf v1), (2, va_rf v2), (3, va_rf v3), (4, .int v4)] [] h
  refine wa_goto (tgt := 1604) dL_law_229 rfl ?_
  exact F
theorem f_L_law_285 {D : qD} {Q : Option Value → qH → Prop} {X : String → qH → Prop} (v0 : Nat) (v1 : Option Nat) (v2 : Option Nat) (v3 : Option Nat) (v4 : Int32) (h : qH) (F : L_L_law_1604 D Q X v0 v1 v2 v3 v4 h) : L_L_law_285 D Q X v0 v1 v2 v3 v4 h := by
  show WA D m_L_law Q X 285 [(0, va_rf (some v0)), (1, va_rf v1), (2, va_rf v2), (3, va_rf v3), (4, .int v4)] [] h
  refine wa_goto (tgt := 1604) dL_law_285 rfl ?_
  exact F
theorem f_L_law_437 {D : qD} {Q : Option Value → qH → Prop} {X : String → qH → Prop} (v0 : Nat) (v1 : Option Nat) (v2 : Option Nat) (v3 : Option Nat) (v4 : Int32) (h : qH) (F : L_L_law_1604 D Q X v0 v1 v2 v3 v4 h) : L_L_law_437 D Q X v0 v1 v2 v3 v4 h := by
  show WA D m_L_law Q X 437 [(0, va_rf (some v0)), (1, va_rf v1), (2, va_rf v2), (3, va_rf v3), (4, .int v4)] [] h
  refine wa_goto (tgt := 1604) dL_law_437 rfl ?_
  exact F
theorem f_L_law_565 {D : qD} {Q : Option Value → qH → Prop} {X : String → qH → Prop} (v0 : Nat) (v1 : Option Nat) (v2 : Option Nat) (v3 : Option Nat) (v4 : Int32) (h : qH) (F : L_L_law_1604 D Q X v0 v1 v2 v3 v4 h) : L_L_law_565 D Q X v0 v1 v2 v3 v4 h := by
  show WA D m_L_law Q X 565 [(0, va_rf (some v0)), (1, va_rf v1), (2, va_rf v2), (3, va_rf v3), (4, .int v4)] [] h
  refine wa_goto (tgt := 1604) dL_law_565 rfl ?_
  exact F
theorem f_L_law_669 {D : qD} {Q : Option Value → qH → Prop} {X : String → qH → Prop} (v0 : Nat) (v1 : Option Nat) (v2 : Option Nat) (v3 : Option Nat) (v4 : Int32) (h : qH) (F : L_L_law_1604 D Q X v0 v1 v2 v3 v4 h) : L_L_law_669 D Q X v0 v1 v2 v3 v4 h := by
  show WA D m_L_law Q X 669 [(0, va_rf (some v0)), (1, va_rf v1), (2, va_rf v2), (3, va_rf v3), (4, .int v4)] [] h
  refine wa_goto (tgt := 1604) dL_law_669 rfl ?_
  exact F
theorem f_L_law_725 {D : qD} {Q : Option Value → qH → Prop} {X : String → qH → Prop} (v0 : Nat) (v1 : Option Nat) (v2 : Option Nat) (v3 : Option Nat) (v4 : Int32) (h : qH) (F : L_L_law_1604 D Q X v0 v1 v2 v3 v4 h) : L_L_law_725 D Q X v0 v1 v2 v3 v4 h := by
  show WA D m_L_law Q X 725 [(0, va_rf (some v0)), (1, va_rf v1), (2, va_rf v2), (3, va_rf v3), (4, .int v4)] [] h
  refine wa_goto (tgt := 1604) dL_law_725 rfl ?_
  exact F
theorem f_L_law_793 {D : qD} {Q : Option Value → qH → Prop} {X : String → qH → Prop} (v0 : Nat) (v1 : Option Nat) (v2 : Option Nat) (v3 : Option Nat) (v4 : Int32) (h : qH) (F : L_L_law_1604 D Q X v0 v1 v2 v3 v4 h) : L_L_law_793 D Q X v0 v1 v2 v3 v4 h := by
  show WA D m_L_law Q X 793 [(0, va_rf (some v0)), (1, va_rf v1), (2, va_rf v2), (3, va_rf v3), (4, .int v4)] [] h
  refine wa_goto (tgt := 1604) dL_law_793 rfl ?_
  exact F
theorem f_L_law_817 {D : qD} {Q : Option Value → qH → Prop} {X : String → qH → Prop} (v0 : Nat) (v1 : Option Nat) (v2 : Option Nat) (v3 : Option Nat) (v4 : Int32) (s0 : Int32) (s1 : Int32) (s2 : Option Nat) (h : qH) (F : a_I D h (some v0) 9 (v4 + 3) (fun x1 => c_IW D m_X0_columnOf [va_rf s2, .int s1, .int s0, .int x1, va_rf v3] h X (fun x3 h2 => a_I D h2 (some v0) 9 (v4 + 1) (fun x4 => a_I D h2 (some v0) 9 (v4 + 2) (fun x5 => ((x5 = 0 → L_L_law_850 D Q X v0 v1 v2 v3 v4 x3 0 x4 v2 h2) ∧ (¬ x5 = 0 → L_L_law_850 D Q X v0 v1 v2 v3 v4 x3 1 x4 v2 h2))))))) : L_L_law_817 D Q X v0 v1 v2 v3 v4 s0 s1 s2 h := by
  show WA D m_L_law Q X 817 [(0, va_rf (some v0)), (1, va_rf v1), (2, va_rf v2), (3, va_rf v3), (4, .int v4)] [.int s0, .int s1, va_rf s2] h
  refine wa_aload_n (o := (some v0)) dL_law_817 rfl 0 rfl ?_
  refine wa_iload (x := v4) dL_law_818 4 rfl ?_
  refine wa_iconst (v := 3) dL_law_820 rfl ?_
  refine wa_iadd dL_law_821 ?_
  refine wa_iald9 dL_law_822 (a_I_mono F fun x1 F => ?_)
  refine wa_aload_n (o := v3) dL_law_823 rfl 3 rfl ?_
  refine wa_callSH (M' := m_X0_columnOf) (As := [va_rf s2, .int s1, .int s0, .int x1, va_rf v3]) (st := []) dL_law_824 ⟨Nat.le_of_ble_eq_true rfl, Nat.le_of_ble_eq_true rfl, nk_X0_columnOf⟩ q1046 q1047 q53 q1048 rfl rfl (Nat.zero_le 8) rfl F (wk_I fun x3 h2 F => ?_)
  refine ws_istore (lv' := [(5, .int x3), (0, va_rf (some v0)), (1, va_rf v1), (2, va_rf v2), (3, va_rf v3), (4, .int v4)]) dL_law_827 (Nat.le_of_ble_eq_true rfl) (q_cr (q_cr (q_cr (q_cr (q_ci q_cn))))) rfl ?_
  refine wa_aload_n (o := v2) dL_law_829 rfl 3 rfl ?_
  refine wa_aload_n (o := (some v0)) dL_law_830 rfl 1 rfl ?_
  refine wa_iload (x := v4) dL_law_831 5 rfl ?_
  refine wa_iconst (v := 1) dL_law_833 rfl ?_
  refine wa_iadd dL_law_834 ?_
  refine wa_iald9 dL_law_835 (a_I_mono F fun x4 F => ?_)
  refine wa_aload_n (o := (some v0)) dL_law_836 rfl 1 rfl ?_
  refine wa_iload (x := v4) dL_law_837 5 rfl ?_
  refine wa_iconst (v := 2) dL_law_839 rfl ?_
  refine wa_iadd dL_law_840 ?_
  refine wa_iald9 dL_law_841 (a_I_mono F fun x5 F => ?_)
  refine wa_if_eq (tgt := 849) dL_law_842 rfl (fun z => ?_) (fun z => ?_)
  · have F := F.1 z
    refine wa_iconst (v := 0) dL_law_849 rfl ?_
    exact wa_sub [1, 2, 3, 4, 5, 0] rfl F
  · have F := F.2 z
    refine wa_iconst (v := 1) dL_law_845 rfl ?_
    refine wa_goto (tgt := 850) dL_law_846 rfl ?_
    exact wa_sub [1, 2, 3, 4, 5, 0] rfl F
theorem f_L_law_957 {D : qD} {Q : Option Value → qH → Prop} {X : String → qH → Prop} (v0 : Nat) (v1 : Option Nat) (v2 : Option Nat) (v3 : Option Nat) (v4 : Int32) (h : qH) (F : L_L_law_1604 D Q X v0 v1 v2 v3 v4 h) : L_L_law_957 D Q X v0 v1 v2 v3 v4 h := by
  show WA D m_L_law Q X 957 [(0, va_rf (some v0)), (1, va_rf v1), (2, va_rf v2), (3, va_rf v3), (4, .int v4)] [] h
  refine wa_goto (tgt := 1604) dL_law_957 rfl ?_
  exact F
theorem f_L_law_1025 {D : qD} {Q : Option Value → qH → Prop} {X : String → qH → Prop} (v0 : Nat) (v1 : Option Nat) (v2 : Option Nat) (v3 : Option Nat) (v4 : Int32) (h : qH) (F : L_L_law_1604 D Q X v0 v1 v2 v3 v4 h) : L_L_law_1025 D Q X v0 v1 v2 v3 v4 h := by
  show WA D m_L_law Q X 1025 [(0, va_rf (some v0)), (1, va_rf v1), (2, va_rf v2), (3, va_rf v3), (4, .int v4)] [] h
  refine wa_goto (tgt := 1604) dL_law_1025 rfl ?_
  exact F
theorem f_L_law_1081 {D : qD} {Q : Option Value → qH → Prop} {X : String → qH → Prop} (v0 : Nat) (v1 : Option Nat) (v2 : Option Nat) (v3 : Option Nat) (v4 : Int32) (h : qH) (F : L_L_law_1604 D Q X v0 v1 v2 v3 v4 h) : L_L_law_1081 D Q X v0 v1 v2 v3 v4 h := by
  show WA D m_L_law Q X 1081 [(0, va_rf (some v0)), (1, va_rf v1), (2, va_rf v2), (3, va_rf v3), (4, .int v4)] [] h
  refine wa_goto (tgt := 1604) dL_law_1081 rfl ?_
  exact F
theorem f_L_law_1137 {D : qD} {Q : Option Value → qH → Prop} {X : String → qH → Prop} (v0 : Nat) (v1 : Option Nat) (v2 : Option Nat) (v3 : Option Nat) (v4 : Int32) (h : qH) (F : L_L_law_1604 D Q X v0 v1 v2 v3 v4 h) : L_L_law_1137 D Q X v0 v1 v2 v3 v4 h := by
  show WA D m_L_law Q X 1137 [(0, va_rf (some v0)), (1, va_rf v1), (2, va_rf v2), (3, va_rf v3), (4, .int v4)] [] h
  refine wa_goto (tgt := 1604) dL_law_1137 rfl ?_
  exact F
theorem f_L_law_1205 {D : qD} {Q : Option Value → qH → Prop} {X : String → qH → Prop} (v0 : Nat) (v1 : Option Nat) (v2 : Option Nat) (v3 : Option Nat) (v4 : Int32) (h : qH) (F : L_L_law_1604 D Q X v0 v1 v2 v3 v4 h) : L_L_law_1205 D Q X v0 v1 v2 v3 v4 h := by
  show WA D m_L_law Q X 1205 [(0, va_rf (some v0)), (1, va_rf v1), (2, va_rf v2), (3, va_rf v3), (4, .int v4)] [] h
  refine wa_goto (tgt := 1604) dL_law_1205 rfl ?_
  exact F
theorem f_L_law_1285 {D : qD} {Q : Option Value → qH → Prop} {X : String → qH → Prop} (v0 : Nat) (v1 : Option Nat) (v2 : Option Nat) (v3 : Option Nat) (v4 : Int32) (h : qH) (F : L_L_law_1604 D Q X v0 v1 v2 v3 v4 h) : L_L_law_1285 D Q X v0 v1 v2 v3 v4 h := by
  show WA D m_L_law Q X 1285 [(0, va_rf (some v0)), (1, va_rf v1), (2, va_rf v2), (3, va_rf v3), (4, .int v4)] [] h
  refine wa_goto (tgt := 1604) dL_law_1285 rfl ?_
  exact F
theorem f_L_law_1353 {D : qD} {Q : Option Value → qH → Prop} {X : String → qH → Prop} (v0 : Nat) (v1 : Option Nat) (v2 : Option Nat) (v3 : Option Nat) (v4 : Int32) (h : qH) (F : L_L_law_1604 D Q X v0 v1 v2 v3 v4 h) : L_L_law_1353 D Q X v0 v1 v2 v3 v4 h := by
  show WA D m_L_law Q X 1353 [(0, va_rf (some v0)), (1, va_rf v1), (2, va_rf v2), (3, va_rf v3), (4, .int v4)] [] h
  refine wa_goto (tgt := 1604) dL_law_1353 rfl ?_
  exact F
theorem f_L_law_1445 {D : qD} {Q : Option Value → qH → Prop} {X : String → qH → Prop} (v0 : Nat) (v1 : Option Nat) (v2 : Option Nat) (v3 : Option Nat) (v4 : Int32) (h : qH) (F : L_L_law_1604 D Q X v0 v1 v2 v3 v4 h) : L_L_law_1445 D Q X v0 v1 v2 v3 v4 h := by
  show WA D m_L_law Q X 1445 [(0, va_rf (some v0)), (1, va_rf v1), (2, va_rf v2), (3, va_rf v3), (4, .int v4)] [] h
  refine wa_goto (tgt := 1604) dL_law_1445 rfl ?_
  exact F
theorem f_L_law_1513 {D : qD} {Q : Option Value → qH → Prop} {X : String → qH → Prop} (v0 : Nat) (v1 : Option Nat) (v2 : Option Nat) (v3 : Option Nat) (v4 : Int32) (h : qH) (F : L_L_law_1604 D Q X v0 v1 v2 v3 v4 h) : L_L_law_1513 D Q X v0 v1 v2 v3 v4 h := by
  show WA D m_L_law Q X 1513 [(0, va_rf (some v0)), (1, va_rf v1), (2, va_rf v2), (3, va_rf v3), (4, .int v4)] [] h
  refine wa_goto (tgt := 1604) dL_law_1513 rfl ?_
  exact F
theorem f_L_law_1588 {D : qD} {Q : Option Value → qH → Prop} {X : String → qH → Prop} (v0 : Nat) (v1 : Option Nat) (v2 : Option Nat) (v3 : Option Nat) (v4 : Int32) (h : qH) (F : L_L_law_1604 D Q X v0 v1 v2 v3 v4 h) : L_L_law_1588 D Q X v0 v1 v2 v3 v4 h := by
  show WA D m_L_law Q X 1588 [(0, va_rf (some v0)), (1, va_rf v1), (2, va_rf v2), (3, va_rf v3), (4, .int v4)] [] h
  refine wa_goto (tgt := 1604) dL_law_1588 rfl ?_
  exact F
theorem f_L_law_1582 {D : qD} {Q : Option Value → qH → Prop} {X : String → qH → Prop} (v0 : Nat) (v1 : Option Nat) (v2 : Option Nat) (v3 : Option Nat) (v4 : Int32) (s0 : Int64) (s1 : Int64) (h : qH) (F : (((lg_cmp s1 s0) = 0 → L_L_law_1588 D Q X v0 v1 v2 v3 v4 h) ∧ (¬ (lg_cmp s1 s0) = 0 → Q (some (.int 0)) h))) : L_L_law_1582 D Q X v0 v1 v2 v3 v4 s0 s1 h := by
  show WA D m_L_law Q X 1582 [(0, va_rf (some v0)), (1, va_rf v1), (2, va_rf v2), (3, va_rf v3), (4, .int v4)] [.long s0, .long s1] h
  refine wa_lcmp dL_law_1582 ?_
  refine wa_if_eq (tgt := 1588) dL_law_1583 rfl (fun z => ?_) (fun z => ?_)
  · have F := F.1 z
    exact F
  · have F := F.2 z
    refine wa_iconst (v := 0) dL_law_1586 rfl ?_
    exact wa_zret rfl rfl dL_law_1587 F
theorem f_L_law_850 {D : qD} {Q : Option Value → qH → Prop} {X : String → qH → Prop} (v0 : Nat) (v1 : Option Nat) (v2 : Option Nat) (v3 : Option Nat) (v4 : Int32) (v5 : Int32) (s0 : Int32) (s1 : Int32) (s2 : Option Nat) (h : qH) (F : a_I D h (some v0) 9 (v4 + 3) (fun x1 => (recv D h s2 RX3 ∧ c_I D m_X3_columnOf [va_rf s2, .int s1, .int s0, .int x1] h X (fun x3 h2 => (recv D h2 v2 RX3 ∧ c_I D m_X3_thrown [va_rf v2] h2 X (fun x5 h4 => ((x5 = v5 → ((¬ v5 = 0 → L_L_law_889 D Q X v0 v1 v2 v3 v4 h4) ∧ (v5 = 0 → a_L D h4 v3 0 (fun y6 => (((lg_cmp y6 x3.toInt64) = 0 → L_L_law_889 D Q X v0 v1 v2 v3 v4 h4) ∧ (¬ (lg_cmp y6 x3.toInt64) = 0 → Q (some (.int 0)) h4)))))) ∧ (¬ x5 = v5 → Q (some (.int 0)) h4)))))))) : L_L_law_850 D Q X v0 v1 v2 v3 v4 v5 s0 s1 s2 h := by
  show WA D m_L_law Q X 850 [(0, va_rf (some v0)), (1, va_rf v1), (2, va_rf v2), (3, va_rf v3), (4, .int v4), (5, .int v5)] [.int s0, .int s1, va_rf s2] h
  refine wa_aload_n (o := (some v0)) dL_law_850 rfl 0 rfl ?_
  refine wa_iload (x := v4) dL_law_851 4 rfl ?_
  refine wa_iconst (v := 3) dL_law_853 rfl ?_
  refine wa_iadd dL_law_854 ?_
  refine wa_iald9 dL_law_855 (a_I_mono F fun x1 F => ?_)
  refine wa_callV (M' := m_X3_columnOf) (C := RX3) (o := s2) (As := [.int s1, .int s0, .int x1]) (st := []) dL_law_856 ⟨Nat.le_of_ble_eq_true rfl, Nat.le_of_ble_eq_true rfl, nk_X3_columnOf⟩ q1403 q1404 q1405 q59 q1406 rfl rfl (Nat.zero_le 8) rfl F.1 F.2 (wk_I fun x3 h2 F => ?_)
  refine ws_istore (lv' := [(6, .int x3), (0, va_rf (some v0)), (1, va_rf v1), (2, va_rf v2), (3, va_rf v3), (4, .int v4), (5, .int v5)]) dL_law_859 (Nat.le_of_ble_eq_true rfl) (q_cr (q_cr (q_cr (q_cr (q_ci (q_ci q_cn)))))) rfl ?_
  refine wa_aload_n (o := v2) dL_law_861 rfl 3 rfl ?_
  refine wa_callV (M' := m_X3_thrown) (C := RX3) (o := v2) (As := []) (st := []) dL_law_862 ⟨Nat.le_of_ble_eq_true rfl, Nat.le_of_ble_eq_true rfl, nk_X3_thrown⟩ q1308 q1309 q1310 q59 q1311 rfl rfl (Nat.zero_le 8) rfl F.1 F.2 (wk_I fun x5 h4 F => ?_)
  refine wa_iload (x := v5) dL_law_865 6 rfl ?_
  refine wa_icmp_eq (tgt := 872) dL_law_867 rfl (fun z => ?_) (fun z => ?_)
  · have F := F.1 z
    refine wa_iload (x := v5) dL_law_872 6 rfl ?_
    refine wa_if_ne (tgt := 889) dL_law_874 rfl (fun z => ?_) (fun z => ?_)
    · have F := F.1 z
      exact wa_sub [1, 2, 3, 4, 5] rfl F
    · have F := F.2 z
      refine wa_aload_n (o := v3) dL_law_877 rfl 4 rfl ?_
      refine wa_iconst (v := 0) dL_law_878 rfl ?_
      refine wa_lald dL_law_879 (a_L_mono F fun y6 F => ?_)
      refine wa_iload (x := x3) dL_law_880 0 rfl ?_
      refine wa_i2l dL_law_882 ?_
      refine wa_lcmp dL_law_883 ?_
      refine wa_if_eq (tgt := 889) dL_law_884 rfl (fun z => ?_) (fun z => ?_)
      · have F := F.1 z
        exact wa_sub [1, 2, 3, 4, 5] rfl F
      · have F := F.2 z
        refine wa_iconst (v := 0) dL_law_887 rfl ?_
        exact wa_zret rfl rfl dL_law_888 F
  · have F := F.2 z
    refine wa_iconst (v := 0) dL_law_870 rfl ?_
    exact wa_zret rfl rfl dL_law_871 F
theorem f_L_law_889 {D : qD} {Q : Option Value → qH → Prop} {X : String → qH → Prop} (v0 : Nat) (v1 : Option Nat) (v2 : Option Nat) (v3 : Option Nat) (v4 : Int32) (h : qH) (F : L_L_law_1604 D Q X v0 v1 v2 v3 v4 h) : L_L_law_889 D Q X v0 v1 v2 v3 v4 h := by
  show WA D m_L_law Q X 889 [(0, va_rf (some v0)), (1, va_rf v1), (2, va_rf v2), (3, va_rf v3), (4, .int v4)] [] h
  refine wa_goto (tgt := 1604) dL_law_889 rfl ?_
  exact F
