set_option maxRecDepth 100000
theorem ct_X0_take_0 : q_ct m_X0_take 4 "java/lang/IndexOutOfBoundsException" 12 := ⟨[], (0, 9, 12, 13), [], rfl, rfl, ⟨by decide, by decide⟩, by decide, q204, fun w hw => nomatch hw⟩
theorem f_X0_take {D : qD} {Q : Option Value → qH → Prop} {X : String → qH → Prop} (p0 : Nat) (p1 : Int32) (p2 : Nat) (h : qH) (F : (recv D h (some p0) RX1 ∧ c_I D m_X1_take [va_rf (some p0), .int p1] h (fun E4 h5 => (E4 = "java/lang/IndexOutOfBoundsException" ∧ Q (some (.int 1)) h5)) (fun x2 h1 => s_L h1 (some p2) 0 x2.toInt64 (fun h3 => Q (some (.int 0)) h3)))) : MWh D m_X0_take [va_rf (some p0), .int p1, va_rf (some p2)] h Q X := by
  refine mwh_of pl_X0_take _ (Nat.le_of_ble_eq_true rfl) rfl ?_
  refine (show WA D m_X0_take Q X 0 [(0, va_rf (some p0)), (1, .int p1), (2, va_rf (some p2))] [] h from ?_)
  refine wa_aload_n (o := (some p2)) dX0_take_0 rfl 2 rfl ?_
  refine wa_iconst (v := 0) dX0_take_1 rfl ?_
  refine wa_aload_n (o := (some p0)) dX0_take_2 rfl 0 rfl ?_
  refine wa_iload_n (x := p1) dX0_take_3 rfl 1 rfl ?_
  refine wa_callVH (M' := m_X1_take) (C := RX1) (o := (some p0)) (As := [.int p1]) (st := [.int 0, va_rf (some p2)]) dX0_take_4 ⟨Nat.le_of_ble_eq_true rfl, Nat.le_of_ble_eq_true rfl, nk_X1_take⟩ q681 q682 q683 q54 q684 rfl rfl (q_cs_le (q_csi (q_csr q_cs0)) (Nat.le_of_ble_eq_true rfl)) F.1 F.2 (wk_I fun x2 h1 F => ?_) (fun E4 h5 F => ?_)
  · refine wa_i2l dX0_take_7 ?_
    refine wa_last dX0_take_8 (s_L_mono F fun h3 F => ?_)
    refine wa_goto (tgt := 15) dX0_take_9 rfl ?_
    refine wa_iconst (v := 0) dX0_take_15 rfl ?_
    exact wa_iret rfl dX0_take_16 F
  · obtain ⟨rfl, F⟩ := F
    refine ⟨12, ct_X0_take_0, fun q6 => ?_⟩
    refine ws_astore_n (lv' := [(3, va_rf (some q6)), (0, va_rf (some p0)), (1, .int p1), (2, va_rf (some p2))]) dX0_take_12 rfl (Nat.le_of_ble_eq_true rfl) (q_cr (q_ci (q_cr q_cn))) rfl ?_
    refine wa_iconst (v := 1) dX0_take_13 rfl ?_
    exact wa_iret rfl dX0_take_14 F
theorem ct_X0_style_0 : q_ct m_X0_style 6 "java/lang/IndexOutOfBoundsException" 12 := ⟨[], (0, 9, 12, 13), [(0, 9, 16, 15), (0, 9, 20, 17)], rfl, rfl, ⟨by decide, by decide⟩, by decide, q204, fun w hw => nomatch hw⟩
theorem ct_X0_style_1 : q_ct m_X0_style 6 "java/lang/IllegalArgumentException" 16 := ⟨[(0, 9, 12, 13)], (0, 9, 16, 15), [(0, 9, 20, 17)], rfl, rfl, ⟨by decide, by decide⟩, by decide, q281, List.forall_mem_cons.mpr ⟨⟨by decide, _, q204, by simp [qNC]⟩, fun w hw => nomatch hw⟩⟩
theorem ct_X0_style_2 : q_ct m_X0_style 6 "java/lang/IllegalStateException" 20 := ⟨[(0, 9, 12, 13), (0, 9, 16, 15)], (0, 9, 20, 17), [], rfl, rfl, ⟨by decide, by decide⟩, by decide, q282, List.forall_mem_cons.mpr ⟨⟨by decide, _, q204, by simp [qNC]⟩, List.forall_mem_cons.mpr ⟨⟨by decide, _, q281, by simp [qNC]⟩, fun w hw => nomatch hw⟩⟩⟩
theorem f_X0_style {D : qD} {Q : Option Value → qH → Prop} {X : String → qH → Prop} (p0 : Nat) (p1 : Int32) (p2 : Int32) (p3 : Int32) (p4 : Int32) (h : qH) (F : (recv D h (some p0) RX1 ∧ c_V D m_X1_style [va_rf (some p0), .int p1, .int p2, .int p3, .int p4] h (fun E2 h3 => (E2 = "java/lang/IndexOutOfBoundsException" ∧ Q (some (.int 1)) h3) ∨ (E2 = "java/lang/IllegalArgumentException" ∧ Q (some (.int 2)) h3) ∨ (E2 = "java/lang/IllegalStateException" ∧ Q (some (.int 3)) h3)) (fun h1 => Q (some (.int 0)) h1))) : MWh D m_X0_style [va_rf (some p0), .int p1, .int p2, .int p3, .int p4] h Q X := by
  refine mwh_of pl_X0_style _ (Nat.le_of_ble_eq_true rfl) rfl ?_
  refine (show WA D m_X0_style Q X 0 [(0, va_rf (some p0)), (1, .int p1), (2, .int p2), (3, .int p3), (4, .int p4)] [] h from ?_)
  refine wa_aload_n (o := (some p0)) dX0_style_0 rfl 0 rfl ?_
  refine wa_iload_n (x := p1) dX0_style_1 rfl 1 rfl ?_
  refine wa_iload_n (x := p2) dX0_style_2 rfl 2 rfl ?_
  refine wa_iload_n (x := p3) dX0_style_3 rfl 3 rfl ?_
  refine wa_iload (x := p4) dX0_style_4 4 rfl ?_
  refine wa_callVH (M' := m_X1_style) (C := RX1) (o := (some p0)) (As := [.int p1, .int p2, .int p3, .int p4]) (st := []) dX0_style_6 ⟨Nat.le_of_ble_eq_true rfl, Nat.le_of_ble_eq_true rfl, nk_X1_style⟩ q708 q709 q710 q54 q711 rfl rfl (Nat.zero_le 8) F.1 F.2 (wk_V fun h1 F => ?_) (fun E2 h3 F => ?_)
  · refine wa_goto (tgt := 24) dX0_style_9 rfl ?_
    refine wa_iconst (v := 0) dX0_style_24 rfl ?_
    exact wa_iret rfl dX0_style_25 F
  · rcases F with ⟨rfl, F⟩ | ⟨rfl, F⟩ | ⟨rfl, F⟩
    · refine ⟨12, ct_X0_style_0, fun q4 => ?_⟩
      refine ws_astore (lv' := [(5, va_rf (some q4)), (0, va_rf (some p0)), (1, .int p1), (2, .int p2), (3, .int p3), (4, .int p4)]) dX0_style_12 (Nat.le_of_ble_eq_true rfl) (q_cr (q_ci (q_ci (q_ci (q_ci q_cn))))) rfl ?_
      refine wa_iconst (v := 1) dX0_style_14 rfl ?_
      exact wa_iret rfl dX0_style_15 F
    · refine ⟨16, ct_X0_style_1, fun q4 => ?_⟩
      refine ws_astore (lv' := [(5, va_rf (some q4)), (0, va_rf (some p0)), (1, .int p1), (2, .int p2), (3, .int p3), (4, .int p4)]) dX0_style_16 (Nat.le_of_ble_eq_true rfl) (q_cr (q_ci (q_ci (q_ci (q_ci q_cn))))) rfl ?_
      refine wa_iconst (v := 2) dX0_style_18 rfl ?_
      exact wa_iret rfl dX0_style_19 F
    · refine ⟨20, ct_X0_style_2, fun q4 => ?_⟩
      refine ws_astore (lv' := [(5, va_rf (some q4)), (0, va_rf (some p0)), (1, .int p1), (2, .int p2), (3, .int p3), (4, .int p4)]) dX0_style_20 (Nat.le_of_ble_eq_true rfl) (q_cr (q_ci (q_ci (q_ci (q_ci q_cn))))) rfl ?_
      refine wa_iconst (v := 3) dX0_style_22 rfl ?_
      exact wa_iret rfl dX0_style_23 F
theorem ct_X0_data_0 : q_ct m_X0_data 7 "java/lang/IndexOutOfBoundsException" 15 := ⟨[], (0, 12, 15, 13), [(0, 12, 19, 15)], rfl, rfl, ⟨by decide, by decide⟩, by decide, q204, fun w hw => nomatch hw⟩
theorem ct_X0_data_1 : q_ct m_X0_data 7 "java/lang/IllegalArgumentException" 19 := ⟨[(0, 12, 15, 13)], (0, 12, 19, 15), [], rfl, rfl, ⟨by decide, by decide⟩, by decide, q281, List.forall_mem_cons.mpr ⟨⟨by decide, _, q204, by simp [qNC]⟩, fun w hw => nomatch hw⟩⟩
theorem f_X0_data {D : qD} {Q : Option Value → qH → Prop} {X : String → qH → Prop} (p0 : Nat) (p1 : Int32) (p2 : Int32) (p3 : Int32) (p4 : Nat) (h : qH) (F : (recv D h (some p0) RX1 ∧ c_I D m_X1_data [va_rf (some p0), .int p1, .int p2, .int p3] h (fun E4 h5 => (E4 = "java/lang/IndexOutOfBoundsException" ∧ Q (some (.int 1)) h5) ∨ (E4 = "java/lang/IllegalArgumentException" ∧ Q (some (.int 2)) h5)) (fun x2 h1 => s_L h1 (some p4) 0 x2.toInt64 (fun h3 => Q (some (.int 0)) h3)))) : MWh D m_X0_data [va_rf (some p0), .int p1, .int p2, .int p3, va_rf (some p4)] h Q X := by
  refine mwh_of pl_X0_data _ (Nat.le_of_ble_eq_true rfl) rfl ?_
  refine (show WA D m_X0_data Q X 0 [(0, va_rf (some p0)), (1, .int p1), (2, .int p2), (3, .int p3), (4, va_rf (some p4))] [] h from ?_)
  refine wa_aload (o := (some p4)) dX0_data_0 4 rfl ?_
  refine wa_iconst (v := 0) dX0_data_2 rfl ?_
  refine wa_aload_n (o := (some p0)) dX0_data_3 rfl 0 rfl ?_
  refine wa_iload_n (x := p1) dX0_data_4 rfl 1 rfl ?_
  refine wa_iload_n (x := p2) dX0_data_5 rfl 2 rfl ?_
  refine wa_iload_n (x := p3) dX0_data_6 rfl 3 rfl ?_
  refine wa_callVH (M' := m_X1_data) (C := RX1) (o := (some p0)) (As := [.int p1, .int p2, .int p3]) (st := [.int 0, va_rf (some p4)]) dX0_data_7 ⟨Nat.le_of_ble_eq_true rfl, Nat.le_of_ble_eq_true rfl, nk_X1_data⟩ q717 q718 q719 q54 q720 rfl rfl (q_cs_le (q_csi (q_csr q_cs0)) (Nat.le_of_ble_eq_true rfl)) F.1 F.2 (wk_I fun x2 h1 F => ?_) (fun E4 h5 F => ?_)
  · refine wa_i2l dX0_data_10 ?_
    refine wa_last dX0_data_11 (s_L_mono F fun h3 F => ?_)
    refine wa_goto (tgt := 23) dX0_data_12 rfl ?_
    refine wa_iconst (v := 0) dX0_data_23 rfl ?_
    exact wa_iret rfl dX0_data_24 F
  · rcases F with ⟨rfl, F⟩ | ⟨rfl, F⟩
    · refine ⟨15, ct_X0_data_0, fun q6 => ?_⟩
      refine ws_astore (lv' := [(5, va_rf (some q6)), (0, va_rf (some p0)), (1, .int p1), (2, .int p2), (3, .int p3), (4, va_rf (some p4))]) dX0_data_15 (Nat.le_of_ble_eq_true rfl) (q_cr (q_ci (q_ci (q_ci (q_cr q_cn))))) rfl ?_
      refine wa_iconst (v := 1) dX0_data_17 rfl ?_
      exact wa_iret rfl dX0_data_18 F
    · refine ⟨19, ct_X0_data_1, fun q6 => ?_⟩
      refine ws_astore (lv' := [(5, va_rf (some q6)), (0, va_rf (some p0)), (1, .int p1), (2, .int p2), (3, .int p3), (4, va_rf (some p4))]) dX0_data_19 (Nat.le_of_ble_eq_true rfl) (q_cr (q_ci (q_ci (q_ci (q_cr q_cn))))) rfl ?_
      refine wa_iconst (v := 2) dX0_data_21 rfl ?_
      exact wa_iret rfl dX0_data_22 F
theorem ct_X0_grid_0 : q_ct m_X0_grid 4 "java/lang/IllegalArgumentException" 10 := ⟨[], (0, 7, 10, 15), [], rfl, rfl, ⟨by decide, by decide⟩, by decide, q281, fun w hw => nomatch hw⟩
theorem f_X0_grid {D : qD} {Q : Option Value → qH → Prop} {X : String → qH → Prop} (p0 : Nat) (p1 : Int32) (p2 : Int32) (p3 : Int32) (h : qH) (F : (recv D h (some p0) RX1 ∧ c_V D m_X1_grid [va_rf (some p0), .int p1, .int p2, .int p3] h (fun E2 h3 => (E2 = "java/lang/IllegalArgumentException" ∧ Q (some (.int 1)) h3)) (fun h1 => Q (some (.int 0)) h1))) : MWh D m_X0_grid [va_rf (some p0), .int p1, .int p2, .int p3] h Q X := by
  refine mwh_of pl_X0_grid _ (Nat.le_of_ble_eq_true rfl) rfl ?_
  refine (show WA D m_X0_grid Q X 0 [(0, va_rf (some p0)), (1, .int p1), (2, .int p2), (3, .int p3)] [] h from ?_)
  refine wa_aload_n (o := (some p0)) dX0_grid_0 rfl 0 rfl ?_
  refine wa_iload_n (x := p1) dX0_grid_1 rfl 1 rfl ?_
  refine wa_iload_n (x := p2) dX0_grid_2 rfl 2 rfl ?_
  refine wa_iload_n (x := p3) dX0_grid_3 rfl 3 rfl ?_
  refine wa_callVH (M' := m_X1_grid) (C := RX1) (o := (some p0)) (As := [.int p1, .int p2, .int p3]) (st := []) dX0_grid_4 ⟨Nat.le_of_ble_eq_true rfl, Nat.le_of_ble_eq_true rfl, nk_X1_grid⟩ q726 q727 q728 q54 q729 rfl rfl (Nat.zero_le 8) F.1 F.2 (wk_V fun h1 F => ?_) (fun E2 h3 F => ?_)
  · refine wa_goto (tgt := 14) dX0_grid_7 rfl ?_
    refine wa_iconst (v := 0) dX0_grid_14 rfl ?_
    exact wa_iret rfl dX0_grid_15 F
  · obtain ⟨rfl, F⟩ := F
    refine ⟨10, ct_X0_grid_0, fun q4 => ?_⟩
    refine ws_astore (lv' := [(4, va_rf (some q4)), (0, va_rf (some p0)), (1, .int p1), (2, .int p2), (3, .int p3)]) dX0_grid_10 (Nat.le_of_ble_eq_true rfl) (q_cr (q_ci (q_ci (q_ci q_cn)))) rfl ?_
    refine wa_iconst (v := 1) dX0_grid_12 rfl ?_
    exact wa_iret rfl dX0_grid_13 F
theorem ct_X0_see_0 : q_ct m_X0_see 5 "java/lang/IndexOutOfBoundsException" 13 := ⟨[], (0, 10, 13, 13), [(0, 10, 17, 17)], rfl, rfl, ⟨by decide, by decide⟩, by decide, q204, fun w hw => nomatch hw⟩
theorem ct_X0_see_1 : q_ct m_X0_see 5 "java/lang/IllegalStateException" 17 := ⟨[(0, 10, 13, 13)], (0, 10, 17, 17), [], rfl, rfl, ⟨by decide, by decide⟩, by decide, q282, List.forall_mem_cons.mpr ⟨⟨by decide, _, q204, by simp [qNC]⟩, fun w hw => nomatch hw⟩⟩
theorem f_X0_see {D : qD} {Q : Option Value → qH → Prop} {X : String → qH → Prop} (p0 : Nat) (p1 : Int32) (p2 : Int32) (p3 : Nat) (h : qH) (F : (recv D h (some p0) RX1 ∧ c_I D m_X1_see [va_rf (some p0), .int p1, .int p2] h (fun E4 h5 => (E4 = "java/lang/IndexOutOfBoundsException" ∧ Q (some (.int 1)) h5) ∨ (E4 = "java/lang/IllegalStateException" ∧ Q (some (.int 2)) h5)) (fun x2 h1 => s_L h1 (some p3) 0 x2.toInt64 (fun h3 => Q (some (.int 0)) h3)))) : MWh D m_X0_see [va_rf (some p0), .int p1, .int p2, va_rf (some p3)] h Q X := by
  refine mwh_of pl_X0_see _ (Nat.le_of_ble_eq_true rfl) rfl ?_
  refine (show WA D m_X0_see Q X 0 [(0, va_rf (some p0)), (1, .int p1), (2, .int p2), (3, va_rf (some p3))] [] h from ?_)
  refine wa_aload_n (o := (some p3)) dX0_see_0 rfl 3 rfl ?_
  refine wa_iconst (v := 0) dX0_see_1 rfl ?_
  refine wa_aload_n (o := (some p0)) dX0_see_2 rfl 0 rfl ?_
  refine wa_iload_n (x := p1) dX0_see_3 rfl 1 rfl ?_
  refine wa_iload_n (x := p2) dX0_see_4 rfl 2 rfl ?_
  refine wa_callVH (M' := m_X1_see) (C := RX1) (o := (some p0)) (As := [.int p1, .int p2]) (st := [.int 0, va_rf (some p3)]) dX0_see_5 ⟨Nat.le_of_ble_eq_true rfl, Nat.le_of_ble_eq_true rfl, nk_X1_see⟩ q733 q734 q735 q54 q736 rfl rfl (q_cs_le (q_csi (q_csr q_cs0)) (Nat.le_of_ble_eq_true rfl)) F.1 F.2 (wk_I fun x2 h1 F => ?_) (fun E4 h5 F => ?_)
  · refine wa_i2l dX0_see_8 ?_
    refine wa_last dX0_see_9 (s_L_mono F fun h3 F => ?_)
    refine wa_goto (tgt := 21) dX0_see_10 rfl ?_
    refine wa_iconst (v := 0) dX0_see_21 rfl ?_
    exact wa_iret rfl dX0_see_22 F
  · rcases F with ⟨rfl, F⟩ | ⟨rfl, F⟩
    · refine ⟨13, ct_X0_see_0, fun q6 => ?_⟩
      refine ws_astore (lv' := [(4, va_rf (some q6)), (0, va_rf (some p0)), (1, .int p1), (2, .int p2), (3, va_rf (some p3))]) dX0_see_13 (Nat.le_of_ble_eq_true rfl) (q_cr (q_ci (q_ci (q_cr q_cn)))) rfl ?_
      refine wa_iconst (v := 1) dX0_see_15 rfl ?_
      exact wa_iret rfl dX0_see_16 F
    · refine ⟨17, ct_X0_see_1, fun q6 => ?_⟩
      refine ws_astore (lv' := [(4, va_rf (some q6)), (0, va_rf (some p0)), (1, .int p1), (2, .int p2), (3, va_rf (some p3))]) dX0_see_17 (Nat.le_of_ble_eq_true rfl) (q_cr (q_ci (q_ci (q_cr q_cn)))) rfl ?_
      refine wa_iconst (v := 2) dX0_see_19 rfl ?_
      exact wa_iret rfl dX0_see_20 F
theorem ct_X0_fold_0 : q_ct m_X0_fold 3 "java/lang/IllegalArgumentException" 9 := ⟨[], (0, 6, 9, 15), [], rfl, rfl, ⟨by decide, by decide⟩, by decide, q281, fun w hw => nomatch hw⟩
theorem f_X0_fold {D : qD} {Q : Option Value → qH → Prop} {X : String → qH → Prop} (p0 : Nat) (p1 : Int32) (p2 : Int32) (h : qH) (F : (recv D h (some p0) RX1 ∧ c_V D m_X1_fold [va_rf (some p0), .int p1, .int p2] h (fun E2 h3 => (E2 = "java/lang/IllegalArgumentException" ∧ Q (some (.int 1)) h3)) (fun h1 => Q (some (.int 0)) h1))) : MWh D m_X0_fold [va_rf (some p0), .int p1, .int p2] h Q X := by
  refine mwh_of pl_X0_fold _ (Nat.le_of_ble_eq_true rfl) rfl ?_
  refine (show WA D m_X0_fold Q X 0 [(0, va_rf (some p0)), (1, .int p1), (2, .int p2)] [] h from ?_)
  refine wa_aload_n (o := (some p0)) dX0_fold_0 rfl 0 rfl ?_
  refine wa_iload_n (x := p1) dX0_fold_1 rfl 1 rfl ?_
  refine wa_iload_n (x := p2) dX0_fold_2 rfl 2 rfl ?_
  refine wa_callVH (M' := m_X1_fold) (C := RX1) (o := (some p0)) (As := [.int p1, .int p2]) (st := []) dX0_fold_3 ⟨Nat.le_of_ble_eq_true rfl, Nat.le_of_ble_eq_true rfl, nk_X1_fold⟩ q742 q743 q744 q54 q745 rfl rfl (Nat.zero_le 8) F.1 F.2 (wk_V fun h1 F => ?_) (fun E2 h3 F => ?_)
  · refine wa_goto (tgt := 12) dX0_fold_6 rfl ?_
    refine wa_iconst (v := 0) dX0_fold_12 rfl ?_
    exact wa_iret rfl dX0_fold_13 F
  · obtain ⟨rfl, F⟩ := F
    refine ⟨9, ct_X0_fold_0, fun q4 => ?_⟩
    refine ws_astore_n (lv' := [(3, va_rf (some q4)), (0, va_rf (some p0)), (1, .int p1), (2, .int p2)]) dX0_fold_9 rfl (Nat.le_of_ble_eq_true rfl) (q_cr (q_ci (q_ci q_cn))) rfl ?_
    refine wa_iconst (v := 1) dX0_fold_10 rfl ?_
    exact wa_iret rfl dX0_fold_11 F
theorem ct_X0_sheet_0 : q_ct m_X0_sheet 5 "java/lang/IndexOutOfBoundsException" 13 := ⟨[], (0, 10, 13, 13), [], rfl, rfl, ⟨by decide, by decide⟩, by decide, q204, fun w hw => nomatch hw⟩
theorem f_X0_sheet {D : qD} {Q : Option Value → qH → Prop} {X : String → qH → Prop} (p0 : Nat) (p1 : Int32) (p2 : Int32) (p3 : Nat) (h : qH) (F : (recv D h (some p0) RX1 ∧ c_I D m_X1_sheet [va_rf (some p0), .int p1, .int p2] h (fun E4 h5 => (E4 = "java/lang/IndexOutOfBoundsException" ∧ Q (some (.int 1)) h5)) (fun x2 h1 => s_L h1 (some p3) 0 x2.toInt64 (fun h3 => Q (some (.int 0)) h3)))) : MWh D m_X0_sheet [va_rf (some p0), .int p1, .int p2, va_rf (some p3)] h Q X := by
  refine mwh_of pl_X0_sheet _ (Nat.le_of_ble_eq_true rfl) rfl ?_
  refine (show WA D m_X0_sheet Q X 0 [(0, va_rf (some p0)), (1, .int p1), (2, .int p2), (3, va_rf (some p3))] [] h from ?_)
  refine wa_aload_n (o := (some p3)) dX0_sheet_0 rfl 3 rfl ?_
  refine wa_iconst (v := 0) dX0_sheet_1 rfl ?_
  refine wa_aload_n (o := (some p0)) dX0_sheet_2 rfl 0 rfl ?_
  refine wa_iload_n (x := p1) dX0_sheet_3 rfl 1 rfl ?_
  refine wa_iload_n (x := p2) dX0_sheet_4 rfl 2 rfl ?_
  refine wa_callVH (M' := m_X1_sheet) (C := RX1) (o := (some p0)) (As := [.int p1, .int p2]) (st := [.int 0, va_rf (some p3)]) dX0_sheet_5 ⟨Nat.le_of_ble_eq_true rfl, Nat.le_of_ble_eq_true rfl, nk_X1_sheet⟩ q1130 q1131 q1132 q54 q1133 rfl rfl (q_cs_le (q_csi (q_csr q_cs0)) (Nat.le_of_ble_eq_true rfl)) F.1 F.2 (wk_I fun x2 h1 F => ?_) (fun E4 h5 F => ?_)
  · refine wa_i2l dX0_sheet_8 ?_
    refine wa_last dX0_sheet_9 (s_L_mono F fun h3 F => ?_)
    refine wa_goto (tgt := 17) dX0_sheet_10 rfl ?_
    refine wa_iconst (v := 0) dX0_sheet_17 rfl ?_
    exact wa_iret rfl dX0_sheet_18 F
  · obtain ⟨rfl, F⟩ := F
    refine ⟨13, ct_X0_sheet_0, fun q6 => ?_⟩
    refine ws_astore (lv' := [(4, va_rf (some q6)), (0, va_rf (some p0)), (1, .int p1), (2, .int p2), (3, va_rf (some p3))]) dX0_sheet_13 (Nat.le_of_ble_eq_true rfl) (q_cr (q_ci (q_ci (q_cr q_cn)))) rfl ?_
    refine wa_iconst (v := 1) dX0_sheet_15 rfl ?_
    exact wa_iret rfl dX0_sheet_16 F
theorem ct_X0_put_0 : q_ct m_X0_put 9 "java/lang/IndexOutOfBoundsException" 17 := ⟨[], (0, 14, 17, 13), [(0, 14, 21, 15), (0, 14, 25, 17)], rfl, rfl, ⟨by decide, by decide⟩, by decide, q204, fun w hw => nomatch hw⟩
theorem ct_X0_put_1 : q_ct m_X0_put 9 "java/lang/IllegalArgumentException" 21 := ⟨[(0, 14, 17, 13)], (0, 14, 21, 15), [(0, 14, 25, 17)], rfl, rfl, ⟨by decide, by decide⟩, by decide, q281, List.forall_mem_cons.mpr ⟨⟨by decide, _, q204, by simp [qNC]⟩, fun w hw => nomatch hw⟩⟩
theorem ct_X0_put_2 : q_ct m_X0_put 9 "java/lang/IllegalStateException" 25 := ⟨[(0, 14, 17, 13), (0, 14, 21, 15)], (0, 14, 25, 17), [], rfl, rfl, ⟨by decide, by decide⟩, by decide, q282, List.forall_mem_cons.mpr ⟨⟨by decide, _, q204, by simp [qNC]⟩, List.forall_mem_cons.mpr ⟨⟨by decide, _, q281, by simp [qNC]⟩, fun w hw => nomatch hw⟩⟩⟩
theorem f_X0_put {D : qD} {Q : Option Value → qH → Prop} {X : String → qH → Prop} (p0 : Nat) (p1 : Int32) (p2 : Int32) (p3 : Int32) (p4 : Int32) (p5 : Nat) (h : qH) (F : (recv D h (some p0) RX1 ∧ c_I D m_X1_put [va_rf (some p0), .int p1, .int p2, .int p3, .int p4] h (fun E4 h5 => (E4 = "java/lang/IndexOutOfBoundsException" ∧ Q (some (.int 1)) h5) ∨ (E4 = "java/lang/IllegalArgumentException" ∧ Q (some (.int 2)) h5) ∨ (E4 = "java/lang/IllegalStateException" ∧ Q (some (.int 3)) h5)) (fun x2 h1 => s_L h1 (some p5) 0 x2.toInt64 (fun h3 => Q (some (.int 0)) h3)))) : MWh D m_X0_put [va_rf (some p0), .int p1, .int p2, .int p3, .int p4, va_rf (some p5)] h Q X := by
  refine mwh_of pl_X0_put _ (Nat.le_of_ble_eq_true rfl) rfl ?_
  refine (show WA D m_X0_put Q X 0 [(0, va_rf (some p0)), (1, .int p1), (2, .int p2), (3, .int p3), (4, .int p4), (5, va_rf (some p5))] [] h from ?_)
  refine wa_aload (o := (some p5)) dX0_put_0 5 rfl ?_
  refine wa_iconst (v := 0) dX0_put_2 rfl ?_
  refine wa_aload_n (o := (some p0)) dX0_put_3 rfl 0 rfl ?_
  refine wa_iload_n (x := p1) dX0_put_4 rfl 1 rfl ?_
  refine wa_iload_n (x := p2) dX0_put_5 rfl 2 rfl ?_
  refine wa_iload_n (x := p3) dX0_put_6 rfl 3 rfl ?_
  refine wa_iload (x := p4) dX0_put_7 4 rfl ?_
  refine wa_callVH (M' := m_X1_put) (C := RX1) (o := (some p0)) (As := [.int p1, .int p2, .int p3, .int p4]) (st := [.int 0, va_rf (some p5)]) dX0_put_9 ⟨Nat.le_of_ble_eq_true rfl, Nat.le_of_ble_eq_true rfl, nk_X1_put⟩ q283 q284 q285 q54 q286 rfl rfl (q_cs_le (q_csi (q_csr q_cs0)) (Nat.le_of_ble_eq_true rfl)) F.1 F.2 (wk_I fun x2 h1 F => ?_) (fun E4 h5 F => ?_)
  · refine wa_i2l dX0_put_12 ?_
    refine wa_last dX0_put_13 (s_L_mono F fun h3 F => ?_)
    refine wa_goto (tgt := 29) dX0_put_14 rfl ?_
    refine wa_iconst (v := 0) dX0_put_29 rfl ?_
    exact wa_iret rfl dX0_put_30 F
  · rcases F with ⟨rfl, F⟩ | ⟨rfl, F⟩ | ⟨rfl, F⟩
    · refine ⟨17, ct_X0_put_0, fun q6 => ?_⟩
      refine ws_astore (lv' := [(6, va_rf (some q6)), (0, va_rf (some p0)), (1, .int p1), (2, .int p2), (3, .int p3), (4, .int p4), (5, va_rf (some p5))]) dX0_put_17 (Nat.le_of_ble_eq_true rfl) (q_cr (q_ci (q_ci (q_ci (q_ci (q_cr q_cn)))))) rfl ?_
      refine wa_iconst (v := 1) dX0_put_19 rfl ?_
      exact wa_iret rfl dX0_put_20 F
    · refine ⟨21, ct_X0_put_1, fun q6 => ?_⟩
      refine ws_astore (lv' := [(6, va_rf (some q6)), (0, va_rf (some p0)), (1, .int p1), (2, .int p2), (3, .int p3), (4, .int p4), (5, va_rf (some p5))]) dX0_put_21 (Nat.le_of_ble_eq_true rfl) (q_cr (q_ci (q_ci (q_ci (q_ci (q_cr q_cn)))))) rfl ?_
      refine wa_iconst (v := 2) dX0_put_23 rfl ?_
      exact wa_iret rfl dX0_put_24 F
    · refine ⟨25, ct_X0_put_2, fun q6 => ?_⟩
      refine ws_astore (lv' := [(6, va_rf (some q6)), (0, va_rf (some p0)), (1, .int p1), (2, .int p2), (3, .int p3), (4, .int p4), (5, va_rf (some p5))]) dX0_put_25 (Nat.le_of_ble_eq_true rfl) (q_cr (q_ci (q_ci (q_ci (q_ci (q_cr q_cn)))))) rfl ?_
      refine wa_iconst (v := 3) dX0_put_27 rfl ?_
      exact wa_iret rfl dX0_put_28 F
theorem ct_X0_keep_0 : q_ct m_X0_keep 4 "java/lang/IndexOutOfBoundsException" 12 := ⟨[], (0, 9, 12, 13), [], rfl, rfl, ⟨by decide, by decide⟩, by decide, q204, fun w hw => nomatch hw⟩
theorem f_X0_keep {D : qD} {Q : Option Value → qH → Prop} {X : String → qH → Prop} (p0 : Nat) (p1 : Int32) (p2 : Nat) (h : qH) (F : (recv D h (some p0) RX1 ∧ c_I D m_X1_keep [va_rf (some p0), .int p1] h (fun E4 h5 => (E4 = "java/lang/IndexOutOfBoundsException" ∧ Q (some (.int 1)) h5)) (fun x2 h1 => s_L h1 (some p2) 0 x2.toInt64 (fun h3 => Q (some (.int 0)) h3)))) : MWh D m_X0_keep [va_rf (some p0), .int p1, va_rf (some p2)] h Q X := by
  refine mwh_of pl_X0_keep _ (Nat.le_of_ble_eq_true rfl) rfl ?_
  refine (show WA D m_X0_keep Q X 0 [(0, va_rf (some p0)), (1, .int p1), (2, va_rf (some p2))] [] h from ?_)
  refine wa_aload_n (o := (some p2)) dX0_keep_0 rfl 2 rfl ?_
  refine wa_iconst (v := 0) dX0_keep_1 rfl ?_
  refine wa_aload_n (o := (some p0)) dX0_keep_2 rfl 0 rfl ?_
  refine wa_iload_n (x := p1) dX0_keep_3 rfl 1 rfl ?_
  refine wa_callVH (M' := m_X1_keep) (C := RX1) (o := (some p0)) (As := [.int p1]) (st := [.int 0, va_rf (some p2)]) dX0_keep_4 ⟨Nat.le_of_ble_eq_true rfl, Nat.le_of_ble_eq_true rfl, nk_X1_keep⟩ q751 q752 q753 q54 q754 rfl rfl (q_cs_le (q_csi (q_csr q_cs0)) (Nat.le_of_ble_eq_true rfl)) F.1 F.2 (wk_I fun x2 h1 F => ?_) (fun E4 h5 F => ?_)
  · refine wa_i2l dX0_keep_7 ?_
    refine wa_last dX0_keep_8 (s_L_mono F fun h3 F => ?_)
    refine wa_goto (tgt := 15) dX0_keep_9 rfl ?_
    refine wa_iconst (v := 0) dX0_keep_15 rfl ?_
    exact wa_iret rfl dX0_keep_16 F
  · obtain ⟨rfl, F⟩ := F
    refine ⟨12, ct_X0_keep_0, fun q6 => ?_⟩
    refine ws_astore_n (lv' := [(3, va_rf (some q6)), (0, va_rf (some p0)), (1, .int p1), (2, va_rf (some p2))]) dX0_keep_12 rfl (Nat.le_of_ble_eq_true rfl) (q_cr (q_ci (q_cr q_cn))) rfl ?_
    refine wa_iconst (v := 1) dX0_keep_13 rfl ?_
    exact wa_iret rfl dX0_keep_14 F
theorem ct_X0_lines_0 : q_ct m_X0_lines 4 "java/lang/IndexOutOfBoundsException" 12 := ⟨[], (0, 9, 12, 13), [], rfl, rfl, ⟨by decide, by decide⟩, by decide, q204, fun w hw => nomatch hw⟩
theorem f_X0_lines {D : qD} {Q : Option Value → qH → Prop} {X : String → qH → Prop} (p0 : Nat) (p1 : Int32) (p2 : Nat) (h : qH) (F : (recv D h (some p0) RX1 ∧ c_I D m_X1_lines [va_rf (some p0), .int p1] h (fun E4 h5 => (E4 = "java/lang/IndexOutOfBoundsException" ∧ Q (some (.int 1)) h5)) (fun x2 h1 => s_L h1 (some p2) 0 x2.toInt64 (fun h3 => Q (some (.int 0)) h3)))) : MWh D m_X0_lines [va_rf (some p0), .int p1, va_rf (some p2)] h Q X := by
  refine mwh_of pl_X0_lines _ (Nat.le_of_ble_eq_true rfl) rfl ?_
  refine (show WA D m_X0_lines Q X 0 [(0, va_rf (some p0)), (1, .int p1), (2, va_rf (some p2))] [] h from ?_)
  refine wa_aload_n (o := (some p2)) dX0_lines_0 rfl 2 rfl ?_
  refine wa_iconst (v := 0) dX0_lines_1 rfl ?_
  refine wa_aload_n (o := (some p0)) dX0_lines_2 rfl 0 rfl ?_
  refine wa_iload_n (x := p1) dX0_lines_3 rfl 1 rfl ?_
  refine wa_callVH (M' := m_X1_lines) (C := RX1) (o := (some p0)) (As := [.int p1]) (st := [.int 0, va_rf (some p2)]) dX0_lines_4 ⟨Nat.le_of_ble_eq_true rfl, Nat.le_of_ble_eq_true rfl, nk_X1_lines⟩ q1035 q1036 q1037 q54 q1038 rfl rfl (q_cs_le (q_csi (q_csr q_cs0)) (Nat.le_of_ble_eq_true rfl)) F.1 F.2 (wk_I fun x2 h1 F => ?_) (fun E4 h5 F => ?_)
  · refine wa_i2l dX0_lines_7 ?_
    refine wa_last dX0_lines_8 (s_L_mono F fun h3 F => ?_)
    refine wa_goto (tgt := 15) dX0_lines_9 rfl ?_
    refine wa_iconst (v := 0) dX0_lines_15 rfl ?_
    exact wa_iret rfl dX0_lines_16 F
  · obtain ⟨rfl, F⟩ := F
    refine ⟨12, ct_X0_lines_0, fun q6 => ?_⟩
    refine ws_astore_n (lv' := [(3, va_rf (some q6)), (0, va_rf (some p0)), (1, .int p1), (2, va_rf (some p2))]) dX0_lines_12 rfl (Nat.le_of_ble_eq_true rfl) (q_cr (q_ci (q_cr q_cn))) rfl ?_
    refine wa_iconst (v := 1) dX0_lines_13 rfl ?_
    exact wa_iret rfl dX0_lines_14 F
theorem ct_X0_lineOf_0 : q_ct m_X0_lineOf 5 "java/lang/IndexOutOfBoundsException" 13 := ⟨[], (0, 10, 13, 13), [], rfl, rfl, ⟨by decide, by decide⟩, by decide, q204, fun w hw => nomatch hw⟩
theorem f_X0_lineOf {D : qD} {Q : Option Value → qH → Prop} {X : String → qH → Prop} (p0 : Nat) (p1 : Int32) (p2 : Int32) (p3 : Nat) (h : qH) (F : (recv D h (some p0) RX1 ∧ c_I D m_X1_lineOf [va_rf (some p0), .int p1, .int p2] h (fun E4 h5 => (E4 = "java/lang/IndexOutOfBoundsException" ∧ Q (some (.int 1)) h5)) (fun x2 h1 => s_L h1 (some p3) 0 x2.toInt64 (fun h3 => Q (some (.int 0)) h3)))) : MWh D m_X0_lineOf [va_rf (some p0), .int p1, .int p2, va_rf (some p3)] h Q X := by
  refine mwh_of pl_X0_lineOf _ (Nat.le_of_ble_eq_true rfl) rfl ?_
  refine (show WA D m_X0_lineOf Q X 0 [(0, va_rf (some p0)), (1, .int p1), (2, .int p2), (3, va_rf (some p3))] [] h from ?_)
  refine wa_aload_n (o := (some p3)) dX0_lineOf_0 rfl 3 rfl ?_
  refine wa_iconst (v := 0) dX0_lineOf_1 rfl ?_
  refine wa_aload_n (o := (some p0)) dX0_lineOf_2 rfl 0 rfl ?_
  refine wa_iload_n (x := p1) dX0_lineOf_3 rfl 1 rfl ?_
  refine wa_iload_n (x := p2) dX0_lineOf_4 rfl 2 rfl ?_
  refine wa_callVH (M' := m_X1_lineOf) (C := RX1) (o := (some p0)) (As := [.int p1, .int p2]) (st := [.int 0, va_rf (some p3)]) dX0_lineOf_5 ⟨Nat.le_of_ble_eq_true rfl, Nat.le_of_ble_eq_true rfl, nk_X1_lineOf⟩ q1042 q1043 q1044 q54 q1045 rfl rfl (q_cs_le (q_csi (q_csr q_cs0)) (Nat.le_of_ble_eq_true rfl)) F.1 F.2 (wk_I fun x2 h1 F => ?_) (fun E4 h5 F => ?_)
  · refine wa_i2l dX0_lineOf_8 ?_
    refine wa_last dX0_lineOf_9 (s_L_mono F fun h3 F => ?_)
    refine wa_goto (tgt := 17) dX0_lineOf_10 rfl ?_
    refine wa_iconst (v := 0) dX0_lineOf_17 rfl ?_
    exact wa_iret rfl dX0_lineOf_18 F
  · obtain ⟨rfl, F⟩ := F
    refine ⟨13, ct_X0_lineOf_0, fun q6 => ?_⟩
    refine ws_astore (lv' := [(4, va_rf (some q6)), (0, va_rf (some p0)), (1, .int p1), (2, .int p2), (3, va_rf (some p3))]) dX0_lineOf_13 (Nat.le_of_ble_eq_true rfl) (q_cr (q_ci (q_ci (q_cr q_cn)))) rfl ?_
    refine wa_iconst (v := 1) dX0_lineOf_15 rfl ?_
    exact wa_iret rfl dX0_lineOf_16 F
theorem ct_X0_columnOf_0 : q_ct m_X0_columnOf 7 "java/lang/IndexOutOfBoundsException" 15 := ⟨[], (0, 12, 15, 13), [], rfl, rfl, ⟨by decide, by decide⟩, by decide, q204, fun w hw => nomatch hw⟩
theorem f_X0_columnOf {D : qD} {Q : Option Value → qH → Prop} {X : String → qH → Prop} (p0 : Nat) (p1 : Int32) (p2 : Int32) (p3 : Int32) (p4 : Nat) (h : qH) (F : (recv D h (some p0) RX1 ∧ c_I D m_X1_columnOf [va_rf (some p0), .int p1, .int p2, .int p3] h (fun E4 h5 => (E4 = "java/lang/IndexOutOfBoundsException" ∧ Q (some (.int 1)) h5)) (fun x2 h1 => s_L h1 (some p4) 0 x2.toInt64 (fun h3 => Q (some (.int 0)) h3)))) : MWh D m_X0_columnOf [va_rf (some p0), .int p1, .int p2, .int p3, va_rf (some p4)] h Q X := by
  refine mwh_of pl_X0_columnOf _ (Nat.le_of_ble_eq_true rfl) rfl ?_
  refine (show WA D m_X0_columnOf Q X 0 [(0, va_rf (some p0)), (1, .int p1), (2, .int p2), (3, .int p3), (4, va_rf (some p4))] [] h from ?_)
  refine wa_aload (o := (some p4)) dX0_columnOf_0 4 rfl ?_
  refine wa_iconst (v := 0) dX0_columnOf_2 rfl ?_
  refine wa_aload_n (o := (some p0)) dX0_columnOf_3 rfl 0 rfl ?_
  refine wa_iload_n (x := p1) dX0_columnOf_4 rfl 1 rfl ?_
  refine wa_iload_n (x := p2) dX0_columnOf_5 rfl 2 rfl ?_
  refine wa_iload_n (x := p3) dX0_columnOf_6 rfl 3 rfl ?_
  refine wa_callVH (M' := m_X1_columnOf) (C := RX1) (o := (some p0)) (As := [.int p1, .int p2, .int p3]) (st := [.int 0, va_rf (some p4)]) dX0_columnOf_7 ⟨Nat.le_of_ble_eq_true rfl, Nat.le_of_ble_eq_true rfl, nk_X1_columnOf⟩ q1049 q1050 q1051 q54 q1052 rfl rfl (q_cs_le (q_csi (q_csr q_cs0)) (Nat.le_of_ble_eq_true rfl)) F.1 F.2 (wk_I fun x2 h1 F => ?_) (fun E4 h5 F => ?_)
  · refine wa_i2l dX0_columnOf_10 ?_
    refine wa_last dX0_columnOf_11 (s_L_mono F fun h3 F => ?_)
    refine wa_goto (tgt := 19) dX0_columnOf_12 rfl ?_
    refine wa_iconst (v := 0) dX0_columnOf_19 rfl ?_
    exact wa_iret rfl dX0_columnOf_20 F
  · obtain ⟨rfl, F⟩ := F
    refine ⟨15, ct_X0_columnOf_0, fun q6 => ?_⟩
    refine ws_astore (lv' := [(5, va_rf (some q6)), (0, va_rf (some p0)), (1, .int p1), (2, .int p2), (3, .int p3), (4, va_rf (some p4))]) dX0_columnOf_15 (Nat.le_of_ble_eq_true rfl) (q_cr (q_ci (q_ci (q_ci (q_cr q_cn))))) rfl ?_
    refine wa_iconst (v := 1) dX0_columnOf_17 rfl ?_
    exact wa_iret rfl dX0_columnOf_18 F
theorem ct_X0_pages_0 : q_ct m_X0_pages 4 "java/lang/IndexOutOfBoundsException" 12 := ⟨[], (0, 9, 12, 13), [], rfl, rfl, ⟨by decide, by decide⟩, by decide, q204, fun w hw => nomatch hw⟩
theorem f_X0_pages {D : qD} {Q : Option Value → qH → Prop} {X : String → qH → Prop} (p0 : Nat) (p1 : Int32) (p2 : Nat) (h : qH) (F : (recv D h (some p0) RX1 ∧ c_I D m_X1_pages [va_rf (some p0), .int p1] h (fun E4 h5 => (E4 = "java/lang/IndexOutOfBoundsException" ∧ Q (some (.int 1)) h5)) (fun x2 h1 => s_L h1 (some p2) 0 x2.toInt64 (fun h3 => Q (some (.int 0)) h3)))) : MWh D m_X0_pages [va_rf (some p0), .int p1, va_rf (some p2)] h Q X := by
  refine mwh_of pl_X0_pages _ (Nat.le_of_ble_eq_true rfl) rfl ?_
  refine (show WA D m_X0_pages Q X 0 [(0, va_rf (some p0)), (1, .int p1), (2, va_rf (some p2))] [] h from ?_)
  refine wa_aload_n (o := (some p2)) dX0_pages_0 rfl 2 rfl ?_
  refine wa_iconst (v := 0) dX0_pages_1 rfl ?_
  refine wa_aload_n (o := (some p0)) dX0_pages_2 rfl 0 rfl ?_
  refine wa_iload_n (x := p1) dX0_pages_3 rfl 1 rfl ?_
  refine wa_callVH (M' := m_X1_pages) (C := RX1) (o := (some p0)) (As := [.int p1]) (st := [.int 0, va_rf (some p2)]) dX0_pages_4 ⟨Nat.le_of_ble_eq_true rfl, Nat.le_of_ble_eq_true rfl, nk_X1_pages⟩ q1083 q1084 q1085 q54 q1086 rfl rfl (q_cs_le (q_csi (q_csr q_cs0)) (Nat.le_of_ble_eq_true rfl)) F.1 F.2 (wk_I fun x2 h1 F => ?_) (fun E4 h5 F => ?_)
  · refine wa_i2l dX0_pages_7 ?_
    refine wa_last dX0_pages_8 (s_L_mono F fun h3 F => ?_)
    refine wa_goto (tgt := 15) dX0_pages_9 rfl ?_
    refine wa_iconst (v := 0) dX0_pages_15 rfl ?_
    exact wa_iret rfl dX0_pages_16 F
  · obtain ⟨rfl, F⟩ := F
    refine ⟨12, ct_X0_pages_0, fun q6 => ?_⟩
    refine ws_astore_n (lv' := [(3, va_rf (some q6)), (0, va_rf (some p0)), (1, .int p1), (2, va_rf (some p2))]) dX0_pages_12 rfl (Nat.le_of_ble_eq_true rfl) (q_cr (q_ci (q_cr q_cn))) rfl ?_
    refine wa_iconst (v := 1) dX0_pages_13 rfl ?_
    exact wa_iret rfl dX0_pages_14 F
theorem ct_X0_front_0 : q_ct m_X0_front 4 "java/lang/IndexOutOfBoundsException" 12 := ⟨[], (0, 9, 12, 13), [], rfl, rfl, ⟨by decide, by decide⟩, by decide, q204, fun w hw => nomatch hw⟩
theorem f_X0_front {D : qD} {Q : Option Value → qH → Prop} {X : String → qH → Prop} (p0 : Nat) (p1 : Int32) (p2 : Nat) (h : qH) (F : (recv D h (some p0) RX1 ∧ c_I D m_X1_front [va_rf (some p0), .int p1] h (fun E4 h5 => (E4 = "java/lang/IndexOutOfBoundsException" ∧ Q (some (.int 1)) h5)) (fun x2 h1 => s_L h1 (some p2) 0 x2.toInt64 (fun h3 => Q (some (.int 0)) h3)))) : MWh D m_X0_front [va_rf (some p0), .int p1, va_rf (some p2)] h Q X := by
  refine mwh_of pl_X0_front _ (Nat.le_of_ble_eq_true rfl) rfl ?_
  refine (show WA D m_X0_front Q X 0 [(0, va_rf (some p0)), (1, .int p1), (2, va_rf (some p2))] [] h from ?_)
  refine wa_aload_n (o := (some p2)) dX0_front_0 rfl 2 rfl ?_
  refine wa_iconst (v := 0) dX0_front_1 rfl ?_
  refine wa_aload_n (o := (some p0)) dX0_front_2 rfl 0 rfl ?_
  refine wa_iload_n (x := p1) dX0_front_3 rfl 1 rfl ?_
  refine wa_callVH (M' := m_X1_front) (C := RX1) (o := (some p0)) (As := [.int p1]) (st := [.int 0, va_rf (some p2)]) dX0_front_4 ⟨Nat.le_of_ble_eq_true rfl, Nat.le_of_ble_eq_true rfl, nk_X1_front⟩ q1094 q1095 q1096 q54 q1097 rfl rfl (q_cs_le (q_csi (q_csr q_cs0)) (Nat.le_of_ble_eq_true rfl)) F.1 F.2 (wk_I fun x2 h1 F => ?_) (fun E4 h5 F => ?_)
  · refine wa_i2l dX0_front_7 ?_
    refine wa_last dX0_front_8 (s_L_mono F fun h3 F => ?_)
    refine wa_goto (tgt := 15) dX0_front_9 rfl ?_
    refine wa_iconst (v := 0) dX0_front_15 rfl ?_
    exact wa_iret rfl dX0_front_16 F
  · obtain ⟨rfl, F⟩ := F
    refine ⟨12, ct_X0_front_0, fun q6 => ?_⟩
    refine ws_astore_n (lv' := [(3, va_rf (some q6)), (0, va_rf (some p0)), (1, .int p1), (2, va_rf (some p2))]) dX0_front_12 rfl (Nat.le_of_ble_eq_true rfl) (q_cr (q_ci (q_cr q_cn))) rfl ?_
    refine wa_iconst (v := 1) dX0_front_13 rfl ?_
    exact wa_iret rfl dX0_front_14 F
theorem ct_X0_entry_0 : q_ct m_X0_entry 5 "java/lang/IndexOutOfBoundsException" 13 := ⟨[], (0, 10, 13, 13), [], rfl, rfl, ⟨by decide, by decide⟩, by decide, q204, fun w hw => nomatch hw⟩
theorem f_X0_entry {D : qD} {Q : Option Value → qH → Prop} {X : String → qH → Prop} (p0 : Nat) (p1 : Int32) (p2 : Int32) (p3 : Nat) (h : qH) (F : (recv D h (some p0) RX1 ∧ c_I D m_X1_entry [va_rf (some p0), .int p1, .int p2] h (fun E4 h5 => (E4 = "java/lang/IndexOutOfBoundsException" ∧ Q (some (.int 1)) h5)) (fun x2 h1 => s_L h1 (some p3) 0 x2.toInt64 (fun h3 => Q (some (.int 0)) h3)))) : MWh D m_X0_entry [va_rf (some p0), .int p1, .int p2, va_rf (some p3)] h Q X := by
  refine mwh_of pl_X0_entry _ (Nat.le_of_ble_eq_true rfl) rfl ?_
  refine (show WA D m_X0_entry Q X 0 [(0, va_rf (some p0)), (1, .int p1), (2, .int p2), (3, va_rf (some p3))] [] h from ?_)
  refine wa_aload_n (o := (some p3)) dX0_entry_0 rfl 3 rfl ?_
  refine wa_iconst (v := 0) dX0_entry_1 rfl ?_
  refine wa_aload_n (o := (some p0)) dX0_entry_2 rfl 0 rfl ?_
  refine wa_iload_n (x := p1) dX0_entry_3 rfl 1 rfl ?_
  refine wa_iload_n (x := p2) dX0_entry_4 rfl 2 rfl ?_
  refine wa_callVH (M' := m_X1_entry) (C := RX1) (o := (some p0)) (As := [.int p1, .int p2]) (st := [.int 0, va_rf (some p3)]) dX0_entry_5 ⟨Nat.le_of_ble_eq_true rfl, Nat.le_of_ble_eq_true rfl, nk_X1_entry⟩ q1101 q1102 q1103 q54 q1104 rfl rfl (q_cs_le (q_csi (q_csr q_cs0)) (Nat.le_of_ble_eq_true rfl)) F.1 F.2 (wk_I fun x2 h1 F => ?_) (fun E4 h5 F => ?_)
  · refine wa_i2l dX0_entry_8 ?_
    refine wa_last dX0_entry_9 (s_L_mono F fun h3 F => ?_)
    refine wa_goto (tgt := 17) dX0_entry_10 rfl ?_
    refine wa_iconst (v := 0) dX0_entry_17 rfl ?_
    exact wa_iret rfl dX0_entry_18 F
  · obtain ⟨rfl, F⟩ := F
    refine ⟨13, ct_X0_entry_0, fun q6 => ?_⟩
    refine ws_astore (lv' := [(4, va_rf (some q6)), (0, va_rf (some p0)), (1, .int p1), (2, .int p2), (3, va_rf (some p3))]) dX0_entry_13 (Nat.le_of_ble_eq_true rfl) (q_cr (q_ci (q_ci (q_cr q_cn)))) rfl ?_
    refine wa_iconst (v := 1) dX0_entry_15 rfl ?_
    exact wa_iret rfl dX0_entry_16 F
theorem ct_X0_index_0 : q_ct m_X0_index 7 "java/lang/IndexOutOfBoundsException" 15 := ⟨[], (0, 12, 15, 13), [], rfl, rfl, ⟨by decide, by decide⟩, by decide, q204, fun w hw => nomatch hw⟩
theorem f_X0_index {D : qD} {Q : Option Value → qH → Prop} {X : String → qH → Prop} (p0 : Nat) (p1 : Int32) (p2 : Int32) (p3 : Int32) (p4 : Nat) (h : qH) (F : (recv D h (some p0) RX1 ∧ c_I D m_X1_index [va_rf (some p0), .int p1, .int p2, .int p3] h (fun E4 h5 => (E4 = "java/lang/IndexOutOfBoundsException" ∧ Q (some (.int 1)) h5)) (fun x2 h1 => s_L h1 (some p4) 0 x2.toInt64 (fun h3 => Q (some (.int 0)) h3)))) : MWh D m_X0_index [va_rf (some p0), .int p1, .int p2, .int p3, va_rf (some p4)] h Q X := by
  refine mwh_of pl_X0_index _ (Nat.le_of_ble_eq_true rfl) rfl ?_
  refine (show WA D m_X0_index Q X 0 [(0, va_rf (some p0)), (1, .int p1), (2, .int p2), (3, .int p3), (4, va_rf (some p4))] [] h from ?_)
  refine wa_aload (o := (some p4)) dX0_index_0 4 rfl ?_
  refine wa_iconst (v := 0) dX0_index_2 rfl ?_
  refine wa_aload_n (o := (some p0)) dX0_index_3 rfl 0 rfl ?_
  refine wa_iload_n (x := p1) dX0_index_4 rfl 1 rfl ?_
  refine wa_iload_n (x := p2) dX0_index_5 rfl 2 rfl ?_
  refine wa_iload_n (x := p3) dX0_index_6 rfl 3 rfl ?_
  refine wa_callVH (M' := m_X1_index) (C := RX1) (o := (some p0)) (As := [.int p1, .int p2, .int p3]) (st := [.int 0, va_rf (some p4)]) dX0_index_7 ⟨Nat.le_of_ble_eq_true rfl, Nat.le_of_ble_eq_true rfl, nk_X1_index⟩ q1109 q1110 q1111 q54 q1112 rfl rfl (q_cs_le (q_csi (q_csr q_cs0)) (Nat.le_of_ble_eq_true rfl)) F.1 F.2 (wk_I fun x2 h1 F => ?_) (fun E4 h5 F => ?_)
  · refine wa_i2l dX0_index_10 ?_
    refine wa_last dX0_index_11 (s_L_mono F fun h3 F => ?_)
    refine wa_goto (tgt := 19) dX0_index_12 rfl ?_
    refine wa_iconst (v := 0) dX0_index_19 rfl ?_
    exact wa_iret rfl dX0_index_20 F
  · obtain ⟨rfl, F⟩ := F
    refine ⟨15, ct_X0_index_0, fun q6 => ?_⟩
    refine ws_astore (lv' := [(5, va_rf (some q6)), (0, va_rf (some p0)), (1, .int p1), (2, .int p2), (3, .int p3), (4, va_rf (some p4))]) dX0_index_15 (Nat.le_of_ble_eq_true rfl) (q_cr (q_ci (q_ci (q_ci (q_cr q_cn))))) rfl ?_
    refine wa_iconst (v := 1) dX0_index_17 rfl ?_
    exact wa_iret rfl dX0_index_18 F
theorem ct_X0_plate_0 : q_ct m_X0_plate 9 "java/lang/IndexOutOfBoundsException" 17 := ⟨[], (0, 14, 17, 13), [], rfl, rfl, ⟨by decide, by decide⟩, by decide, q204, fun w hw => nomatch hw⟩
theorem f_X0_plate {D : qD} {Q : Option Value → qH → Prop} {X : String → qH → Prop} (p0 : Nat) (p1 : Int32) (p2 : Int32) (p3 : Int32) (p4 : Int32) (p5 : Nat) (h : qH) (F : (recv D h (some p0) RX1 ∧ c_I D m_X1_plate [va_rf (some p0), .int p1, .int p2, .int p3, .int p4] h (fun E4 h5 => (E4 = "java/lang/IndexOutOfBoundsException" ∧ Q (some (.int 1)) h5)) (fun x2 h1 => s_L h1 (some p5) 0 x2.toInt64 (fun h3 => Q (some (.int 0)) h3)))) : MWh D m_X0_plate [va_rf (some p0), .int p1, .int p2, .int p3, .int p4, va_rf (some p5)] h Q X := by
  refine mwh_of pl_X0_plate _ (Nat.le_of_ble_eq_true rfl) rfl ?_
  refine (show WA D m_X0_plate Q X 0 [(0, va_rf (some p0)), (1, .int p1), (2, .int p2), (3, .int p3), (4, .int p4), (5, va_rf (some p5))] [] h from ?_)
  refine wa_aload (o := (some p5)) dX0_plate_0 5 rfl ?_
  refine wa_iconst (v := 0) dX0_plate_2 rfl ?_
  refine wa_aload_n (o := (some p0)) dX0_plate_3 rfl 0 rfl ?_
  refine wa_iload_n (x := p1) dX0_plate_4 rfl 1 rfl ?_
  refine wa_iload_n (x := p2) dX0_plate_5 rfl 2 rfl ?_
  refine wa_iload_n (x := p3) dX0_plate_6 rfl 3 rfl ?_
  refine wa_iload (x := p4) dX0_plate_7 4 rfl ?_
  refine wa_callVH (M' := m_X1_plate) (C := RX1) (o := (some p0)) (As := [.int p1, .int p2, .int p3, .int p4]) (st := [.int 0, va_rf (some p5)]) dX0_plate_9 ⟨Nat.le_of_ble_eq_true rfl, Nat.le_of_ble_eq_true rfl, nk_X1_plate⟩ q1144 q1145 q1146 q54 q1147 rfl rfl (q_cs_le (q_csi (q_csr q_cs0)) (Nat.le_of_ble_eq_true rfl)) F.1 F.2 (wk_I fun x2 h1 F => ?_) (fun E4 h5 F => ?_)
  · refine wa_i2l dX0_plate_12 ?_
    refine wa_last dX0_plate_13 (s_L_mono F fun h3 F => ?_)
    refine wa_goto (tgt := 21) dX0_plate_14 rfl ?_
    refine wa_iconst (v := 0) dX0_plate_21 rfl ?_
    exact wa_iret rfl dX0_plate_22 F
  · obtain ⟨rfl, F⟩ := F
    refine ⟨17, ct_X0_plate_0, fun q6 => ?_⟩
    refine ws_astore (lv' := [(6, va_rf (some q6)), (0, va_rf (some p0)), (1, .int p1), (2, .int p2), (3, .int p3), (4, .int p4), (5, va_rf (some p5))]) dX0_plate_17 (Nat.le_of_ble_eq_true rfl) (q_cr (q_ci (q_ci (q_ci (q_ci (q_cr q_cn)))))) rfl ?_
    refine wa_iconst (v := 1) dX0_plate_19 rfl ?_
    exact wa_iret rfl dX0_plate_20 F
theorem ct_X0_faults_0 : q_ct m_X0_faults 5 "java/lang/IndexOutOfBoundsException" 13 := ⟨[], (0, 10, 13, 13), [], rfl, rfl, ⟨by decide, by decide⟩, by decide, q204, fun w hw => nomatch hw⟩
theorem f_X0_faults {D : qD} {Q : Option Value → qH → Prop} {X : String → qH → Prop} (p0 : Nat) (p1 : Int32) (p2 : Int32) (p3 : Nat) (h : qH) (F : (recv D h (some p0) RX1 ∧ c_I D m_X1_faults [va_rf (some p0), .int p1, .int p2] h (fun E4 h5 => (E4 = "java/lang/IndexOutOfBoundsException" ∧ Q (some (.int 1)) h5)) (fun x2 h1 => s_L h1 (some p3) 0 x2.toInt64 (fun h3 => Q (some (.int 0)) h3)))) : MWh D m_X0_faults [va_rf (some p0), .int p1, .int p2, va_rf (some p3)] h Q X := by
  refine mwh_of pl_X0_faults _ (Nat.le_of_ble_eq_true rfl) rfl ?_
  refine (show WA D m_X0_faults Q X 0 [(0, va_rf (some p0)), (1, .int p1), (2, .int p2), (3, va_rf (some p3))] [] h from ?_)
  refine wa_aload_n (o := (some p3)) dX0_faults_0 rfl 3 rfl ?_
  refine wa_iconst (v := 0) dX0_faults_1 rfl ?_
  refine wa_aload_n (o := (some p0)) dX0_faults_2 rfl 0 rfl ?_
  refine wa_iload_n (x := p1) dX0_faults_3 rfl 1 rfl ?_
  refine wa_iload_n (x := p2) dX0_faults_4 rfl 2 rfl ?_
  refine wa_callVH (M' := m_X1_faults) (C := RX1) (o := (some p0)) (As := [.int p1, .int p2]) (st := [.int 0, va_rf (some p3)]) dX0_faults_5 ⟨Nat.le_of_ble_eq_true rfl, Nat.le_of_ble_eq_true rfl, nk_X1_faults⟩ q1161 q1162 q1163 q54 q1164 rfl rfl (q_cs_le (q_csi (q_csr q_cs0)) (Nat.le_of_ble_eq_true rfl)) F.1 F.2 (wk_I fun x2 h1 F => ?_) (fun E4 h5 F => ?_)
  · refine wa_i2l dX0_faults_8 ?_
    refine wa_last dX0_faults_9 (s_L_mono F fun h3 F => ?_)
    refine wa_goto (tgt := 17) dX0_faults_10 rfl ?_
    refine wa_iconst (v := 0) dX0_faults_17 rfl ?_
    exact wa_iret rfl dX0_faults_18 F
  · obtain ⟨rfl, F⟩ := F
    refine ⟨13, ct_X0_faults_0, fun q6 => ?_⟩
    refine ws_astore (lv' := [(4, va_rf (some q6)), (0, va_rf (some p0)), (1, .int p1), (2, .int p2), (3, va_rf (some p3))]) dX0_faults_13 (Nat.le_of_ble_eq_true rfl) (q_cr (q_ci (q_ci (q_cr q_cn)))) rfl ?_
    refine wa_iconst (v := 1) dX0_faults_15 rfl ?_
    exact wa_iret rfl dX0_faults_16 F
theorem ct_X0_pageOf_0 : q_ct m_X0_pageOf 5 "java/lang/IndexOutOfBoundsException" 13 := ⟨[], (0, 10, 13, 13), [], rfl, rfl, ⟨by decide, by decide⟩, by decide, q204, fun w hw => nomatch hw⟩
theorem f_X0_pageOf {D : qD} {Q : Option Value → qH → Prop} {X : String → qH → Prop} (p0 : Nat) (p1 : Int32) (p2 : Int32) (p3 : Nat) (h : qH) (F : (recv D h (some p0) RX1 ∧ c_I D m_X1_pageOf [va_rf (some p0), .int p1, .int p2] h (fun E4 h5 => (E4 = "java/lang/IndexOutOfBoundsException" ∧ Q (some (.int 1)) h5)) (fun x2 h1 => s_L h1 (some p3) 0 x2.toInt64 (fun h3 => Q (some (.int 0)) h3)))) : MWh D m_X0_pageOf [va_rf (some p0), .int p1, .int p2, va_rf (some p3)] h Q X := by
  refine mwh_of pl_X0_pageOf _ (Nat.le_of_ble_eq_true rfl) rfl ?_
  refine (show WA D m_X0_pageOf Q X 0 [(0, va_rf (some p0)), (1, .int p1), (2, .int p2), (3, va_rf (some p3))] [] h from ?_)
  refine wa_aload_n (o := (some p3)) dX0_pageOf_0 rfl 3 rfl ?_
  refine wa_iconst (v := 0) dX0_pageOf_1 rfl ?_
  refine wa_aload_n (o := (some p0)) dX0_pageOf_2 rfl 0 rfl ?_
  refine wa_iload_n (x := p1) dX0_pageOf_3 rfl 1 rfl ?_
  refine wa_iload_n (x := p2) dX0_pageOf_4 rfl 2 rfl ?_
  refine wa_callVH (M' := m_X1_pageOf) (C := RX1) (o := (some p0)) (As := [.int p1, .int p2]) (st := [.int 0, va_rf (some p3)]) dX0_pageOf_5 ⟨Nat.le_of_ble_eq_true rfl, Nat.le_of_ble_eq_true rfl, nk_X1_pageOf⟩ q1061 q1062 q1063 q54 q1064 rfl rfl (q_cs_le (q_csi (q_csr q_cs0)) (Nat.le_of_ble_eq_true rfl)) F.1 F.2 (wk_I fun x2 h1 F => ?_) (fun E4 h5 F => ?_)
  · refine wa_i2l dX0_pageOf_8 ?_
    refine wa_last dX0_pageOf_9 (s_L_mono F fun h3 F => ?_)
    refine wa_goto (tgt := 17) dX0_pageOf_10 rfl ?_
    refine wa_iconst (v := 0) dX0_pageOf_17 rfl ?_
    exact wa_iret rfl dX0_pageOf_18 F
  · obtain ⟨rfl, F⟩ := F
    refine ⟨13, ct_X0_pageOf_0, fun q6 => ?_⟩
    refine ws_astore (lv' := [(4, va_rf (some q6)), (0, va_rf (some p0)), (1, .int p1), (2, .int p2), (3, va_rf (some p3))]) dX0_pageOf_13 (Nat.le_of_ble_eq_true rfl) (q_cr (q_ci (q_ci (q_cr q_cn)))) rfl ?_
    refine wa_iconst (v := 1) dX0_pageOf_15 rfl ?_
    exact wa_iret rfl dX0_pageOf_16 F
theorem ct_X0_pageAnew_0 : q_ct m_X0_pageAnew 5 "java/lang/IndexOutOfBoundsException" 13 := ⟨[], (0, 10, 13, 13), [], rfl, rfl, ⟨by decide, by decide⟩, by decide, q204, fun w hw => nomatch hw⟩
theorem f_X0_pageAnew {D : qD} {Q : Option Value → qH → Prop} {X : String → qH → Prop} (p0 : Nat) (p1 : Int32) (p2 : Int32) (p3 : Nat) (h : qH) (F : (recv D h (some p0) RX1 ∧ c_I D m_X1_pageAnew [va_rf (some p0), .int p1, .int p2] h (fun E4 h5 => (E4 = "java/lang/IndexOutOfBoundsException" ∧ Q (some (.int 1)) h5)) (fun x2 h1 => s_L h1 (some p3) 0 x2.toInt64 (fun h3 => Q (some (.int 0)) h3)))) : MWh D m_X0_pageAnew [va_rf (some p0), .int p1, .int p2, va_rf (some p3)] h Q X := by
  refine mwh_of pl_X0_pageAnew _ (Nat.le_of_ble_eq_true rfl) rfl ?_
  refine (show WA D m_X0_pageAnew Q X 0 [(0, va_rf (some p0)), (1, .int p1), (2, .int p2), (3, va_rf (some p3))] [] h from ?_)
  refine wa_aload_n (o := (some p3)) dX0_pageAnew_0 rfl 3 rfl ?_
  refine wa_iconst (v := 0) dX0_pageAnew_1 rfl ?_
  refine wa_aload_n (o := (some p0)) dX0_pageAnew_2 rfl 0 rfl ?_
  refine wa_iload_n (x := p1) dX0_pageAnew_3 rfl 1 rfl ?_
  refine wa_iload_n (x := p2) dX0_pageAnew_4 rfl 2 rfl ?_
  refine wa_callVH (M' := m_X1_pageAnew) (C := RX1) (o := (some p0)) (As := [.int p1, .int p2]) (st := [.int 0, va_rf (some p3)]) dX0_pageAnew_5 ⟨Nat.le_of_ble_eq_true rfl, Nat.le_of_ble_eq_true rfl, nk_X1_pageAnew⟩ q1076 q1077 q1078 q54 q1079 rfl rfl (q_cs_le (q_csi (q_csr q_cs0)) (Nat.le_of_ble_eq_true rfl)) F.1 F.2 (wk_I fun x2 h1 F => ?_) (fun E4 h5 F => ?_)
  · refine wa_i2l dX0_pageAnew_8 ?_
    refine wa_last dX0_pageAnew_9 (s_L_mono F fun h3 F => ?_)
    refine wa_goto (tgt := 17) dX0_pageAnew_10 rfl ?_
    refine wa_iconst (v := 0) dX0_pageAnew_17 rfl ?_
    exact wa_iret rfl dX0_pageAnew_18 F
  · obtain ⟨rfl, F⟩ := F
    refine ⟨13, ct_X0_pageAnew_0, fun q6 => ?_⟩
    refine ws_astore (lv' := [(4, va_rf (some q6)), (0, va_rf (some p0)), (1, .int p1), (2, .int p2), (3, va_rf (some p3))]) dX0_pageAnew_13 (Nat.le_of_ble_eq_true rfl) (q_cr (q_ci (q_ci (q_cr q_cn)))) rfl ?_
    refine wa_iconst (v := 1) dX0_pageAnew_15 rfl ?_
    exact wa_iret rfl dX0_pageAnew_16 F
theorem ct_X0_isNew_0 : q_ct m_X0_isNew 5 "java/lang/IndexOutOfBoundsException" 20 := ⟨[], (0, 17, 20, 13), [], rfl, rfl, ⟨by decide, by decide⟩, by decide, q204, fun w hw => nomatch hw⟩
def L_X0_isNew_16 (D : qD) (Q : Option Value → qH → Prop) (X : String → qH → Prop) (s0 : Int64) (s1 : Int32) (s2 : Nat) (h : qH) : Prop := WA D m_X0_isNew Q X 16 [] [.long s0, .int s1, va_rf (some s2)] h
theorem f_X0_isNew {D : qD} {Q : Option Value → qH → Prop} {X : String → qH → Prop} (p0 : Nat) (p1 : Int32) (p2 : Int32) (p3 : Nat) (h : qH) (F : (recv D h (some p0) RX1 ∧ c_I D m_X1_isNew [va_rf (some p0), .int p1, .int p2] h (fun E3 h4 => (E3 = "java/lang/IndexOutOfBoundsException" ∧ Q (some (.int 1)) h4)) (fun x2 h1 => ((x2 = 0 → L_X0_isNew_16 D Q X 0 0 p3 h1) ∧ (¬ x2 = 0 → L_X0_isNew_16 D Q X 1 0 p3 h1))))) : MWh D m_X0_isNew [va_rf (some p0), .int p1, .int p2, va_rf (some p3)] h Q X := by
  refine mwh_of pl_X0_isNew _ (Nat.le_of_ble_eq_true rfl) rfl ?_
  refine (show WA D m_X0_isNew Q X 0 [(0, va_rf (some p0)), (1, .int p1), (2, .int p2), (3, va_rf (some p3))] [] h from ?_)
  refine wa_aload_n (o := (some p3)) dX0_isNew_0 rfl 3 rfl ?_
  refine wa_iconst (v := 0) dX0_isNew_1 rfl ?_
  refine wa_aload_n (o := (some p0)) dX0_isNew_2 rfl 0 rfl ?_
  refine wa_iload_n (x := p1) dX0_isNew_3 rfl 1 rfl ?_
  refine wa_iload_n (x := p2) dX0_isNew_4 rfl 2 rfl ?_
  refine wa_callVH (M' := m_X1_isNew) (C := RX1) (o := (some p0)) (As := [.int p1, .int p2]) (st := [.int 0, va_rf (some p3)]) dX0_isNew_5 ⟨Nat.le_of_ble_eq_true rfl, Nat.le_of_ble_eq_true rfl, nk_X1_isNew⟩ q1176 q1177 q1178 q54 q1179 rfl rfl (q_cs_le (q_csi (q_csr q_cs0)) (Nat.le_of_ble_eq_true rfl)) F.1 F.2 (wk_I fun x2 h1 F => ?_) (fun E3 h4 F => ?_)
  · refine wa_if_eq (tgt := 15) dX0_isNew_8 rfl (fun z => ?_) (fun z => ?_)
    · have F := F.1 z
      refine wa_lconst (v := 0) dX0_isNew_15 rfl ?_
      exact wa_sub [] rfl F
    · have F := F.2 z
      refine wa_lconst (v := 1) dX0_isNew_11 rfl ?_
      refine wa_goto (tgt := 16) dX0_isNew_12 rfl ?_
      exact wa_sub [] rfl F
  · obtain ⟨rfl, F⟩ := F
    refine ⟨20, ct_X0_isNew_0, fun q5 => ?_⟩
    refine ws_astore (lv' := [(4, va_rf (some q5)), (0, va_rf (some p0)), (1, .int p1), (2, .int p2), (3, va_rf (some p3))]) dX0_isNew_20 (Nat.le_of_ble_eq_true rfl) (q_cr (q_ci (q_ci (q_cr q_cn)))) rfl ?_
    refine wa_iconst (v := 1) dX0_isNew_22 rfl ?_
    exact wa_iret rfl dX0_isNew_23 F
theorem f_X0_isNew_16 {D : qD} {Q : Option Value → qH → Prop} {X : String → qH → Prop} (s0 : Int64) (s1 : Int32) (s2 : Nat) (h : qH) (F : s_L h (some s2) s1 s0 (fun h1 => Q (some (.int 0)) h1)) : L_X0_isNew_16 D Q X s0 s1 s2 h := by
  show WA D m_X0_isNew Q X 16 [] [.long s0, .int s1, va_rf (some s2)] h
  refine wa_last dX0_isNew_16 (s_L_mono F fun h1 F => ?_)
  refine wa_goto (tgt := 24) dX0_isNew_17 rfl ?_
  refine wa_iconst (v := 0) dX0_isNew_24 rfl ?_
  exact wa_iret rfl dX0_isNew_25 F
