set_option maxRecDepth 100000
theorem f_X3_init {D : qD} {Q : Option Value → qH → Prop} {X : String → qH → Prop} (t : Nat) (h : qH) (F : n_I h 0 120 (fun a1 h2 => p_F h2 (some t) 2 1 (va_rf (some a1)) (fun h3 => n_I h3 0 120 (fun a4 h5 => p_F h5 (some t) 2 2 (va_rf (some a4)) (fun h6 => n_I h6 0 120 (fun a7 h8 => p_F h8 (some t) 2 3 (va_rf (some a7)) (fun h9 => n_I h9 0 6 (fun a10 h11 => s_I h11 (some a10) 0 0 (-1) (fun h12 => s_I h12 (some a10) 0 1 (-1) (fun h13 => s_I h13 (some a10) 0 2 (-1) (fun h14 => s_I h14 (some a10) 0 3 (-1) (fun h15 => s_I h15 (some a10) 0 4 (-1) (fun h16 => s_I h16 (some a10) 0 5 (-1) (fun h17 => p_F h17 (some t) 2 4 (va_rf (some a10)) (fun h18 => n_I h18 0 6 (fun a19 h20 => s_I h20 (some a19) 0 0 (-1) (fun h21 => s_I h21 (some a19) 0 1 (-1) (fun h22 => s_I h22 (some a19) 0 2 (-1) (fun h23 => s_I h23 (some a19) 0 3 (-1) (fun h24 => s_I h24 (some a19) 0 4 (-1) (fun h25 => s_I h25 (some a19) 0 5 (-1) (fun h26 => p_F h26 (some t) 2 5 (va_rf (some a19)) (fun h27 => n_I h27 0 6 (fun a28 h29 => s_I h29 (some a28) 0 0 (-1) (fun h30 => s_I h30 (some a28) 0 1 (-1) (fun h31 => s_I h31 (some a28) 0 2 (-1) (fun h32 => s_I h32 (some a28) 0 3 (-1) (fun h33 => s_I h33 (some a28) 0 4 (-1) (fun h34 => s_I h34 (some a28) 0 5 (-1) (fun h35 => p_F h35 (some t) 2 6 (va_rf (some a28)) (fun h36 => n_I h36 0 16 (fun a37 h38 => p_F h38 (some t) 2 7 (va_rf (some a37)) (fun h39 => p_F h39 (some t) 2 8 (.int 10) (fun h40 => p_F h40 (some t) 2 9 (.int 5) (fun h41 => p_F h41 (some t) 2 10 (.int 1) (fun h42 => n_I h42 0 10 (fun a43 h44 => s_I h44 (some a43) 0 0 (-1) (fun h45 => s_I h45 (some a43) 0 1 (-1) (fun h46 => s_I h46 (some a43) 0 2 (-1) (fun h47 => s_I h47 (some a43) 0 3 (-1) (fun h48 => s_I h48 (some a43) 0 4 (-1) (fun h49 => s_I h49 (some a43) 0 5 (-1) (fun h50 => s_I h50 (some a43) 0 6 (-1) (fun h51 => s_I h51 (some a43) 0 7 (-1) (fun h52 => s_I h52 (some a43) 0 8 (-1) (fun h53 => s_I h53 (some a43) 0 9 (-1) (fun h54 => p_F h54 (some t) 2 11 (va_rf (some a43)) (fun h55 => p_F h55 (some t) 2 12 (.int 8) (fun h56 => p_F h56 (some t) 2 13 (.int 1) (fun h57 => n_I h57 0 120 (fun a58 h59 => p_F h59 (some t) 2 15 (va_rf (some a58)) (fun h60 => n_I h60 0 120 (fun a61 h62 => p_F h62 (some t) 2 16 (va_rf (some a61)) (fun h63 => n_I h63 0 120 (fun a64 h65 => p_F h65 (some t) 2 17 (va_rf (some a64)) (fun h66 => n_I h66 0 120 (fun a67 h68 => p_F h68 (some t) 2 18 (va_rf (some a67)) (fun h69 => n_I h69 1 120 (fun a70 h71 => p_F h71 (some t) 2 19 (va_rf (some a70)) (fun h72 => n_I h72 1 120 (fun a73 h74 => p_F h74 (some t) 2 20 (va_rf (some a73)) (fun h75 => n_I h75 1 120 (fun a76 h77 => p_F h77 (some t) 2 21 (va_rf (some a76)) (fun h78 => n_I h78 0 120 (fun a79 h80 => p_F h80 (some t) 2 25 (va_rf (some a79)) (fun h81 => n_I h81 0 121 (fun a82 h83 => p_F h83 (some t) 2 32 (va_rf (some a82)) (fun h84 => n_I h84 0 120 (fun a85 h86 => p_F h86 (some t) 2 33 (va_rf (some a85)) (fun h87 => n_I h87 0 120 (fun a88 h89 => p_F h89 (some t) 2 34 (va_rf (some a88)) (fun h90 => n_I h90 0 120 (fun a91 h92 => p_F h92 (some t) 2 35 (va_rf (some a91)) (fun h93 => n_I h93 1 400 (fun a94 h95 => p_F h95 (some t) 2 36 (va_rf (some a94)) (fun h96 => Q none h96)))))))))))))))))))))))))))))))))))))))))))))))))))))))))))))))))))))))))))) : MW D m_X3_init [va_rf (some t)] h Q X := by
  refine mw_of pl_X3_init rfl _ (Nat.le_of_ble_eq_true rfl) rfl ?_
  refine (show WA D m_X3_init Q X 0 [(0, va_rf (some t))] [] h from ?_)
  refine wa_aload_n (o := (some t)) dX3_init_0 rfl 0 rfl ?_
  refine wa_objInit (a := t) dX3_init_1 q1191 q91 q92 (Nat.le_of_ble_eq_true rfl) (Nat.zero_le 8) ?_
  refine wa_aload_n (o := (some t)) dX3_init_4 rfl 0 rfl ?_
  refine wa_bipush (v := 120) dX3_init_5 rfl ?_
  refine wa_newI (t := 0) (atype := .int) rfl rfl (Nat.le_of_ble_eq_true rfl) q146 dX3_init_7 (n_I_mono F fun a1 h2 F => ?_)
  refine wa_putF (C := RX3) (T := TX3) (N := 38) (ci := 2) (k := 1) tyX3 dX3_init_9 rfl (Nat.le_of_ble_eq_true rfl) in_X3 tyX3_ok nmX3 q1193 q_same_own rfl rfl rfl (q_nar_arr _) (q_fit_arr _) (p_F_mono F fun h3 F => ?_)
  refine wa_aload_n (o := (some t)) dX3_init_12 rfl 0 rfl ?_
  refine wa_bipush (v := 120) dX3_init_13 rfl ?_
  refine wa_newI (t := 0) (atype := .int) rfl rfl (Nat.le_of_ble_eq_true rfl) q146 dX3_init_15 (n_I_mono F fun a4 h5 F => ?_)
  refine wa_putF (C := RX3) (T := TX3) (N := 38) (ci := 2) (k := 2) tyX3 dX3_init_17 rfl (Nat.le_of_ble_eq_true rfl) in_X3 tyX3_ok nmX3 q1194 q_same_own rfl rfl rfl (q_nar_arr _) (q_fit_arr _) (p_F_mono F fun h6 F => ?_)
  refine wa_aload_n (o := (some t)) dX3_init_20 rfl 0 rfl ?_
  refine wa_bipush (v := 120) dX3_init_21 rfl ?_
  refine wa_newI (t := 0) (atype := .int) rfl rfl (Nat.le_of_ble_eq_true rfl) q146 dX3_init_23 (n_I_mono F fun a7 h8 F => ?_)
  refine wa_putF (C := RX3) (T := TX3) (N := 38) (ci := 2) (k := 3) tyX3 dX3_init_25 rfl (Nat.le_of_ble_eq_true rfl) in_X3 tyX3_ok nmX3 q1195 q_same_own rfl rfl rfl (q_nar_arr _) (q_fit_arr _) (p_F_mono F fun h9 F => ?_)
  refine wa_aload_n (o := (some t)) dX3_init_28 rfl 0 rfl ?_
  refine wa_bipush (v := 6) dX3_init_29 rfl ?_
  refine wa_newI (t := 0) (atype := .int) rfl rfl (Nat.le_of_ble_eq_true rfl) q146 dX3_init_31 (n_I_mono F fun a10 h11 F => ?_)
  refine wa_dup dX3_init_33 (q_cat _) ?_
  refine wa_iconst (v := 0) dX3_init_34 rfl ?_
  refine wa_iconst (v := -1) dX3_init_35 rfl ?_
  refine wa_iast dX3_init_36 (s_I_mono F fun h12 F => ?_)
  refine wa_dup dX3_init_37 (q_cat _) ?_
  refine wa_iconst (v := 1) dX3_init_38 rfl ?_
  refine wa_iconst (v := -1) dX3_init_39 rfl ?_
  refine wa_iast dX3_init_40 (s_I_mono F fun h13 F => ?_)
  refine wa_dup dX3_init_41 (q_cat _) ?_
  refine wa_iconst (v := 2) dX3_init_42 rfl ?_
  refine wa_iconst (v := -1) dX3_init_43 rfl ?_
  refine wa_iast dX3_init_44 (s_I_mono F fun h14 F => ?_)
  refine wa_dup dX3_init_45 (q_cat _) ?_
  refine wa_iconst (v := 3) dX3_init_46 rfl ?_
  refine wa_iconst (v := -1) dX3_init_47 rfl ?_
  refine wa_iast dX3_init_48 (s_I_mono F fun h15 F => ?_)
  refine wa_dup dX3_init_49 (q_cat _) ?_
  refine wa_iconst (v := 4) dX3_init_50 rfl ?_
  refine wa_iconst (v := -1) dX3_init_51 rfl ?_
  refine wa_iast dX3_init_52 (s_I_mono F fun h16 F => ?_)
  refine wa_dup dX3_init_53 (q_cat _) ?_
  refine wa_iconst (v := 5) dX3_init_54 rfl ?_
  refine wa_iconst (v := -1) dX3_init_55 rfl ?_
  refine wa_iast dX3_init_56 (s_I_mono F fun h17 F => ?_)
  refine wa_putF (C := RX3) (T := TX3) (N := 38) (ci := 2) (k := 4) tyX3 dX3_init_57 rfl (Nat.le_of_ble_eq_true rfl) in_X3 tyX3_ok nmX3 q1196 q_same_own rfl rfl rfl (q_nar_arr _) (q_fit_arr _) (p_F_mono F fun h18 F => ?_)
  refine wa_aload_n (o := (some t)) dX3_init_60 rfl 0 rfl ?_
  refine wa_bipush (v := 6) dX3_init_61 rfl ?_
  refine wa_newI (t := 0) (atype := .int) rfl rfl (Nat.le_of_ble_eq_true rfl) q146 dX3_init_63 (n_I_mono F fun a19 h20 F => ?_)
  refine wa_dup dX3_init_65 (q_cat _) ?_
  refine wa_iconst (v := 0) dX3_init_66 rfl ?_
  refine wa_iconst (v := -1) dX3_init_67 rfl ?_
  refine wa_iast dX3_init_68 (s_I_mono F fun h21 F => ?_)
  refine wa_dup dX3_init_69 (q_cat _) ?_
  refine wa_iconst (v := 1) dX3_init_70 rfl ?_
  refine wa_iconst (v := -1) dX3_init_71 rfl ?_
  refine wa_iast dX3_init_72 (s_I_mono F fun h22 F => ?_)
  refine wa_dup dX3_init_73 (q_cat _) ?_
  refine wa_iconst (v := 2) dX3_init_74 rfl ?_
  refine wa_iconst (v := -1) dX3_init_75 rfl ?_
  refine wa_iast dX3_init_76 (s_I_mono F fun h23 F => ?_)
  refine wa_dup dX3_init_77 (q_cat _) ?_
  refine wa_iconst (v := 3) dX3_init_78 rfl ?_
  refine wa_iconst (v := -1) dX3_init_79 rfl ?_
  refine wa_iast dX3_init_80 (s_I_mono F fun h24 F => ?_)
  refine wa_dup dX3_init_81 (q_cat _) ?_
  refine wa_iconst (v := 4) dX3_init_82 rfl ?_
  refine wa_iconst (v := -1) dX3_init_83 rfl ?_
  refine wa_iast dX3_init_84 (s_I_mono F fun h25 F => ?_)
  refine wa_dup dX3_init_85 (q_cat _) ?_
  refine wa_iconst (v := 5) dX3_init_86 rfl ?_
  refine wa_iconst (v := -1) dX3_init_87 rfl ?_
  refine wa_iast dX3_init_88 (s_I_mono F fun h26 F => ?_)
  refine wa_putF (C := RX3) (T := TX3) (N := 38) (ci := 2) (k := 5) tyX3 dX3_init_89 rfl (Nat.le_of_ble_eq_true rfl) in_X3 tyX3_ok nmX3 q1197 q_same_own rfl rfl rfl (q_nar_arr _) (q_fit_arr _) (p_F_mono F fun h27 F => ?_)
  refine wa_aload_n (o := (some t)) dX3_init_92 rfl 0 rfl ?_
  refine wa_bipush (v := 6) dX3_init_93 rfl ?_
  refine wa_newI (t := 0) (atype := .int) rfl rfl (Nat.le_of_ble_eq_true rfl) q146 dX3_init_95 (n_I_mono F fun a28 h29 F => ?_)
  refine wa_dup dX3_init_97 (q_cat _) ?_
  refine wa_iconst (v := 0) dX3_init_98 rfl ?_
  refine wa_iconst (v := -1) dX3_init_99 rfl ?_
  refine wa_iast dX3_init_100 (s_I_mono F fun h30 F => ?_)
  refine wa_dup dX3_init_101 (q_cat _) ?_
  refine wa_iconst (v := 1) dX3_init_102 rfl ?_
  refine wa_iconst (v := -1) dX3_init_103 rfl ?_
  refine wa_iast dX3_init_104 (s_I_mono F fun h31 F => ?_)
  refine wa_dup dX3_init_105 (q_cat _) ?_
  refine wa_iconst (v := 2) dX3_init_106 rfl ?_
  refine wa_iconst (v := -1) dX3_init_107 rfl ?_
  refine wa_iast dX3_init_108 (s_I_mono F fun h32 F => ?_)
  refine wa_dup dX3_init_109 (q_cat _) ?_
  refine wa_iconst (v := 3) dX3_init_110 rfl ?_
  refine wa_iconst (v := -1) dX3_init_111 rfl ?_
  refine wa_iast dX3_init_112 (s_I_mono F fun h33 F => ?_)
  refine wa_dup dX3_init_113 (q_cat _) ?_
  refine wa_iconst (v := 4) dX3_init_114 rfl ?_
  refine wa_iconst (v := -1) dX3_init_115 rfl ?_
  refine wa_iast dX3_init_116 (s_I_mono F fun h34 F => ?_)
  refine wa_dup dX3_init_117 (q_cat _) ?_
  refine wa_iconst (v := 5) dX3_init_118 rfl ?_
  refine wa_iconst (v := -1) dX3_init_119 rfl ?_
  refine wa_iast dX3_init_120 (s_I_mono F fun h35 F => ?_)
  refine wa_putF (C := RX3) (T := TX3) (N := 38) (ci := 2) (k := 6) tyX3 dX3_init_121 rfl (Nat.le_of_ble_eq_true rfl) in_X3 tyX3_ok nmX3 q1198 q_same_own rfl rfl rfl (q_nar_arr _) (q_fit_arr _) (p_F_mono F fun h36 F => ?_)
  refine wa_aload_n (o := (some t)) dX3_init_124 rfl 0 rfl ?_
  refine wa_bipush (v := 16) dX3_init_125 rfl ?_
  refine wa_newI (t := 0) (atype := .int) rfl rfl (Nat.le_of_ble_eq_true rfl) q146 dX3_init_127 (n_I_mono F fun a37 h38 F => ?_)
  refine wa_putF (C := RX3) (T := TX3) (N := 38) (ci := 2) (k := 7) tyX3 dX3_init_129 rfl (Nat.le_of_ble_eq_true rfl) in_X3 tyX3_ok nmX3 q1199 q_same_own rfl rfl rfl (q_nar_arr _) (q_fit_arr _) (p_F_mono F fun h39 F => ?_)
  refine wa_aload_n (o := (some t)) dX3_init_132 rfl 0 rfl ?_
  refine wa_bipush (v := 10) dX3_init_133 rfl ?_
  refine wa_put (C := RX3) (T := TX3) (N := 38) (ci := 2) (k := 8) tyX3 dX3_init_135 rfl (Nat.le_of_ble_eq_true rfl) in_X3 tyX3_ok nmX3 q1200 q_same_own rfl rfl rfl (p_F_mono F fun h40 F => ?_)
  refine wa_aload_n (o := (some t)) dX3_init_138 rfl 0 rfl ?_
  refine wa_iconst (v := 5) dX3_init_139 rfl ?_
  refine wa_put (C := RX3) (T := TX3) (N := 38) (ci := 2) (k := 9) tyX3 dX3_init_140 rfl (Nat.le_of_ble_eq_true rfl) in_X3 tyX3_ok nmX3 q1201 q_same_own rfl rfl rfl (p_F_mono F fun h41 F => ?_)
  refine wa_aload_n (o := (some t)) dX3_init_143 rfl 0 rfl ?_
  refine wa_iconst (v := 1) dX3_init_144 rfl ?_
  refine wa_put (C := RX3) (T := TX3) (N := 38) (ci := 2) (k := 10) tyX3 dX3_init_145 rfl (Nat.le_of_ble_eq_true rfl) in_X3 tyX3_ok nmX3 q1202 q_same_own rfl rfl rfl (p_F_mono F fun h42 F => ?_)
  refine wa_aload_n (o := (some t)) dX3_init_148 rfl 0 rfl ?_
  refine wa_bipush (v := 10) dX3_init_149 rfl ?_
  refine wa_newI (t := 0) (atype := .int) rfl rfl (Nat.le_of_ble_eq_true rfl) q146 dX3_init_151 (n_I_mono F fun a43 h44 F => ?_)
  refine wa_dup dX3_init_153 (q_cat _) ?_
  refine wa_iconst (v := 0) dX3_init_154 rfl ?_
  refine wa_iconst (v := -1) dX3_init_155 rfl ?_
  refine wa_iast dX3_init_156 (s_I_mono F fun h45 F => ?_)
  refine wa_dup dX3_init_157 (q_cat _) ?_
  refine wa_iconst (v := 1) dX3_init_158 rfl ?_
  refine wa_iconst (v := -1) dX3_init_159 rfl ?_
  refine wa_iast dX3_init_160 (s_I_mono F fun h46 F => ?_)
  refine wa_dup dX3_init_161 (q_cat _) ?_
  refine wa_iconst (v := 2) dX3_init_162 rfl ?_
  refine wa_iconst (v := -1) dX3_init_163 rfl ?_
  refine wa_iast dX3_init_164 (s_I_mono F fun h47 F => ?_)
  refine wa_dup dX3_init_165 (q_cat _) ?_
  refine wa_iconst (v := 3) dX3_init_166 rfl ?_
  refine wa_iconst (v := -1) dX3_init_167 rfl ?_
  refine wa_iast dX3_init_168 (s_I_mono F fun h48 F => ?_)
  refine wa_dup dX3_init_169 (q_cat _) ?_
  refine wa_iconst (v := 4) dX3_init_170 rfl ?_
  refine wa_iconst (v := -1) dX3_init_171 rfl ?_
  refine wa_iast dX3_init_172 (s_I_mono F fun h49 F => ?_)
  refine wa_dup dX3_init_173 (q_cat _) ?_
  refine wa_iconst (v := 5) dX3_init_174 rfl ?_
  refine wa_iconst (v := -1) dX3_init_175 rfl ?_
  refine wa_iast dX3_init_176 (s_I_mono F fun h50 F => ?_)
  refine wa_dup dX3_init_177 (q_cat _) ?_
  refine wa_bipush (v := 6) dX3_init_178 rfl ?_
  refine wa_iconst (v := -1) dX3_init_180 rfl ?_
  refine wa_iast dX3_init_181 (s_I_mono F fun h51 F => ?_)
  refine wa_dup dX3_init_182 (q_cat _) ?_
  refine wa_bipush (v := 7) dX3_init_183 rfl ?_
  refine wa_iconst (v := -1) dX3_init_185 rfl ?_
  refine wa_iast dX3_init_186 (s_I_mono F fun h52 F => ?_)
  refine wa_dup dX3_init_187 (q_cat _) ?_
  refine wa_bipush (v := 8) dX3_init_188 rfl ?_
  refine wa_iconst (v := -1) dX3_init_190 rfl ?_
  refine wa_iast dX3_init_191 (s_I_mono F fun h53 F => ?_)
  refine wa_dup dX3_init_192 (q_cat _) ?_
  refine wa_bipush (v := 9) dX3_init_193 rfl ?_
  refine wa_iconst (v := -1) dX3_init_195 rfl ?_
  refine wa_iast dX3_init_196 (s_I_mono F fun h54 F => ?_)
  refine wa_putF (C := RX3) (T := TX3) (N := 38) (ci := 2) (k := 11) tyX3 dX3_init_197 rfl (Nat.le_of_ble_eq_true rfl) in_X3 tyX3_ok nmX3 q1203 q_same_own rfl rfl rfl (q_nar_arr _) (q_fit_arr _) (p_F_mono F fun h55 F => ?_)
  refine wa_aload_n (o := (some t)) dX3_init_200 rfl 0 rfl ?_
  refine wa_bipush (v := 8) dX3_init_201 rfl ?_
  refine wa_put (C := RX3) (T := TX3) (N := 38) (ci := 2) (k := 12) tyX3 dX3_init_203 rfl (Nat.le_of_ble_eq_true rfl) in_X3 tyX3_ok nmX3 q1204 q_same_own rfl rfl rfl (p_F_mono F fun h56 F => ?_)
  refine wa_aload_n (o := (some t)) dX3_init_206 rfl 0 rfl ?_
  refine wa_iconst (v := 1) dX3_init_207 rfl ?_
  refine wa_put (C := RX3) (T := TX3) (N := 38) (ci := 2) (k := 13) tyX3 dX3_init_208 rfl (Nat.le_of_ble_eq_true rfl) in_X3 tyX3_ok nmX3 q1205 q_same_own rfl rfl rfl (p_F_mono F fun h57 F => ?_)
  refine wa_aload_n (o := (some t)) dX3_init_211 rfl 0 rfl ?_
  refine wa_bipush (v := 120) dX3_init_212 rfl ?_
  refine wa_newI (t := 0) (atype := .int) rfl rfl (Nat.le_of_ble_eq_true rfl) q146 dX3_init_214 (n_I_mono F fun a58 h59 F => ?_)
  refine wa_putF (C := RX3) (T := TX3) (N := 38) (ci := 2) (k := 15) tyX3 dX3_init_216 rfl (Nat.le_of_ble_eq_true rfl) in_X3 tyX3_ok nmX3 q1207 q_same_own rfl rfl rfl (q_nar_arr _) (q_fit_arr _) (p_F_mono F fun h60 F => ?_)
  refine wa_aload_n (o := (some t)) dX3_init_219 rfl 0 rfl ?_
  refine wa_bipush (v := 120) dX3_init_220 rfl ?_
  refine wa_newI (t := 0) (atype := .int) rfl rfl (Nat.le_of_ble_eq_true rfl) q146 dX3_init_222 (n_I_mono F fun a61 h62 F => ?_)
  refine wa_putF (C := RX3) (T := TX3) (N := 38) (ci := 2) (k := 16) tyX3 dX3_init_224 rfl (Nat.le_of_ble_eq_true rfl) in_X3 tyX3_ok nmX3 q1208 q_same_own rfl rfl rfl (q_nar_arr _) (q_fit_arr _) (p_F_mono F fun h63 F => ?_)
  refine wa_aload_n (o := (some t)) dX3_init_227 rfl 0 rfl ?_
  refine wa_bipush (v := 120) dX3_init_228 rfl ?_
  refine wa_newI (t := 0) (atype := .int) rfl rfl (Nat.le_of_ble_eq_true rfl) q146 dX3_init_230 (n_I_mono F fun a64 h65 F => ?_)
  refine wa_putF (C := RX3) (T := TX3) (N := 38) (ci := 2) (k := 17) tyX3 dX3_init_232 rfl (Nat.le_of_ble_eq_true rfl) in_X3 tyX3_ok nmX3 q1209 q_same_own rfl rfl rfl (q_nar_arr _) (q_fit_arr _) (p_F_mono F fun h66 F => ?_)
  refine wa_aload_n (o := (some t)) dX3_init_235 rfl 0 rfl ?_
  refine wa_bipush (v := 120) dX3_init_236 rfl ?_
  refine wa_newI (t := 0) (atype := .int) rfl rfl (Nat.le_of_ble_eq_true rfl) q146 dX3_init_238 (n_I_mono F fun a67 h68 F => ?_)
  refine wa_putF (C := RX3) (T := TX3) (N := 38) (ci := 2) (k := 18) tyX3 dX3_init_240 rfl (Nat.le_of_ble_eq_true rfl) in_X3 tyX3_ok nmX3 q1210 q_same_own rfl rfl rfl (q_nar_arr _) (q_fit_arr _) (p_F_mono F fun h69 F => ?_)
  refine wa_aload_n (o := (some t)) dX3_init_243 rfl 0 rfl ?_
  refine wa_bipush (v := 120) dX3_init_244 rfl ?_
  refine wa_newI (t := 1) (atype := .boolean) rfl rfl (Nat.le_of_ble_eq_true rfl) q1307 dX3_init_246 (n_I_mono F fun a70 h71 F => ?_)
  refine wa_putF (C := RX3) (T := TX3) (N := 38) (ci := 2) (k := 19) tyX3 dX3_init_248 rfl (Nat.le_of_ble_eq_true rfl) in_X3 tyX3_ok nmX3 q1211 q_same_own rfl rfl rfl (q_nar_arr _) (q_fit_arr _) (p_F_mono F fun h72 F => ?_)
  refine wa_aload_n (o := (some t)) dX3_init_251 rfl 0 rfl ?_
  refine wa_bipush (v := 120) dX3_init_252 rfl ?_
  refine wa_newI (t := 1) (atype := .boolean) rfl rfl (Nat.le_of_ble_eq_true rfl) q1307 dX3_init_254 (n_I_mono F fun a73 h74 F => ?_)
  refine wa_putF (C := RX3) (T := TX3) (N := 38) (ci := 2) (k := 20) tyX3 dX3_init_256 rfl (Nat.le_of_ble_eq_true rfl) in_X3 tyX3_ok nmX3 q1212 q_same_own rfl rfl rfl (q_nar_arr _) (q_fit_arr _) (p_F_mono F fun h75 F => ?_)
  refine wa_aload_n (o := (some t)) dX3_init_259 rfl 0 rfl ?_
  refine wa_bipush (v := 120) dX3_init_260 rfl ?_
  refine wa_newI (t := 1) (atype := .boolean) rfl rfl (Nat.le_of_ble_eq_true rfl) q1307 dX3_init_262 (n_I_mono F fun a76 h77 F => ?_)
  refine wa_putF (C := RX3) (T := TX3) (N := 38) (ci := 2) (k := 21) tyX3 dX3_init_264 rfl (Nat.le_of_ble_eq_true rfl) in_X3 tyX3_ok nmX3 q1213 q_same_own rfl rfl rfl (q_nar_arr _) (q_fit_arr _) (p_F_mono F fun h78 F => ?_)
  refine wa_aload_n (o := (some t)) dX3_init_267 rfl 0 rfl ?_
  refine wa_bipush (v := 120) dX3_init_268 rfl ?_
  refine wa_newI (t := 0) (atype := .int) rfl rfl (Nat.le_of_ble_eq_true rfl) q146 dX3_init_270 (n_I_mono F fun a79 h80 F => ?_)
  refine wa_putF (C := RX3) (T := TX3) (N := 38) (ci := 2) (k := 25) tyX3 dX3_init_272 rfl (Nat.le_of_ble_eq_true rfl) in_X3 tyX3_ok nmX3 q1217 q_same_own rfl rfl rfl (q_nar_arr _) (q_fit_arr _) (p_F_mono F fun h81 F => ?_)
  refine wa_aload_n (o := (some t)) dX3_init_275 rfl 0 rfl ?_
  refine wa_bipush (v := 121) dX3_init_276 rfl ?_
  refine wa_newI (t := 0) (atype := .int) rfl rfl (Nat.le_of_ble_eq_true rfl) q146 dX3_init_278 (n_I_mono F fun a82 h83 F => ?_)
  refine wa_putF (C := RX3) (T := TX3) (N := 38) (ci := 2) (k := 32) tyX3 dX3_init_280 rfl (Nat.le_of_ble_eq_true rfl) in_X3 tyX3_ok nmX3 q1224 q_same_own rfl rfl rfl (q_nar_arr _) (q_fit_arr _) (p_F_mono F fun h84 F => ?_)
  refine wa_aload_n (o := (some t)) dX3_init_283 rfl 0 rfl ?_
  refine wa_bipush (v := 120) dX3_init_284 rfl ?_
  refine wa_newI (t := 0) (atype := .int) rfl rfl (Nat.le_of_ble_eq_true rfl) q146 dX3_init_286 (n_I_mono F fun a85 h86 F => ?_)
  refine wa_putF (C := RX3) (T := TX3) (N := 38) (ci := 2) (k := 33) tyX3 dX3_init_288 rfl (Nat.le_of_ble_eq_true rfl) in_X3 tyX3_ok nmX3 q1225 q_same_own rfl rfl rfl (q_nar_arr _) (q_fit_arr _) (p_F_mono F fun h87 F => ?_)
  refine wa_aload_n (o := (some t)) dX3_init_291 rfl 0 rfl ?_
  refine wa_bipush (v := 120) dX3_init_292 rfl ?_
  refine wa_newI (t := 0) (atype := .int) rfl rfl (Nat.le_of_ble_eq_true rfl) q146 dX3_init_294 (n_I_mono F fun a88 h89 F => ?_)
  refine wa_putF (C := RX3) (T := TX3) (N := 38) (ci := 2) (k := 34) tyX3 dX3_init_296 rfl (Nat.le_of_ble_eq_true rfl) in_X3 tyX3_ok nmX3 q1226 q_same_own rfl rfl rfl (q_nar_arr _) (q_fit_arr _) (p_F_mono F fun h90 F => ?_)
  refine wa_aload_n (o := (some t)) dX3_init_299 rfl 0 rfl ?_
  refine wa_bipush (v := 120) dX3_init_300 rfl ?_
  refine wa_newI (t := 0) (atype := .int) rfl rfl (Nat.le_of_ble_eq_true rfl) q146 dX3_init_302 (n_I_mono F fun a91 h92 F => ?_)
  refine wa_putF (C := RX3) (T := TX3) (N := 38) (ci := 2) (k := 35) tyX3 dX3_init_304 rfl (Nat.le_of_ble_eq_true rfl) in_X3 tyX3_ok nmX3 q1227 q_same_own rfl rfl rfl (q_nar_arr _) (q_fit_arr _) (p_F_mono F fun h93 F => ?_)
  refine wa_aload_n (o := (some t)) dX3_init_307 rfl 0 rfl ?_
  refine wa_sipush (v := 400) dX3_init_308 rfl ?_
  refine wa_newI (t := 1) (atype := .boolean) rfl rfl (Nat.le_of_ble_eq_true rfl) q1307 dX3_init_311 (n_I_mono F fun a94 h95 F => ?_)
  refine wa_putF (C := RX3) (T := TX3) (N := 38) (ci := 2) (k := 36) tyX3 dX3_init_313 rfl (Nat.le_of_ble_eq_true rfl) in_X3 tyX3_ok nmX3 q1228 q_same_own rfl rfl rfl (q_nar_arr _) (q_fit_arr _) (p_F_mono F fun h96 F => ?_)
  exact wa_vret rfl dX3_init_316 F
theorem f_X3_thrown {D : qD} {Q : Option Value → qH → Prop} {X : String → qH → Prop} (t : Nat) (h : qH) (F : g_I D h (some t) 2 37 (fun x1 => Q (some (.int x1)) h)) : MW D m_X3_thrown [va_rf (some t)] h Q X := by
  refine mw_of pl_X3_thrown rfl _ (Nat.le_of_ble_eq_true rfl) rfl ?_
  refine (show WA D m_X3_thrown Q X 0 [(0, va_rf (some t))] [] h from ?_)
  refine wa_aload_n (o := (some t)) dX3_thrown_0 rfl 0 rfl ?_
  refine wa_getI (C := RX3) (T := TX3) (N := 38) (ci := 2) (k := 37) dX3_thrown_1 rfl (Nat.le_of_ble_eq_true rfl) in_X3 q1229 q_same_own (g_I_mono F fun x1 F => ?_)
  exact wa_iret rfl dX3_thrown_4 F
theorem f_X3_in {D : qD} {Q : Option Value → qH → Prop} {X : String → qH → Prop} (p0 : Int64) (p1 : Int64) (p2 : Int64) (h : qH) (F : (((lg_cmp p0 p1) < 0 → Q (some (.int 0)) h) ∧ (¬ (lg_cmp p0 p1) < 0 → ((0 < (lg_cmp p0 p2) → Q (some (.int 0)) h) ∧ (¬ 0 < (lg_cmp p0 p2) → Q (some (.int 1)) h))))) : MW D m_X3_in [.long p0, .long p1, .long p2] h Q X := by
  refine mw_of pl_X3_in rfl _ (Nat.le_of_ble_eq_true rfl) rfl ?_
  refine (show WA D m_X3_in Q X 0 [(0, .long p0), (2, .long p1), (4, .long p2)] [] h from ?_)
  refine wa_lload_n (x := p0) dX3_in_0 rfl 0 rfl ?_
  refine wa_lload_n (x := p1) dX3_in_1 rfl 1 rfl ?_
  refine wa_lcmp dX3_in_2 ?_
  refine wa_if_lt (tgt := 17) dX3_in_3 rfl (fun z => ?_) (fun z => ?_)
  · have F := F.1 z
    refine wa_iconst (v := 0) dX3_in_17 rfl ?_
    exact wa_zret rfl rfl dX3_in_18 F
  · have F := F.2 z
    refine wa_lload_n (x := p0) dX3_in_6 rfl 0 rfl ?_
    refine wa_lload (x := p2) dX3_in_7 2 rfl ?_
    refine wa_lcmp dX3_in_9 ?_
    refine wa_if_gt (tgt := 17) dX3_in_10 rfl (fun z => ?_) (fun z => ?_)
    · have F := F.1 z
      refine wa_iconst (v := 0) dX3_in_17 rfl ?_
      exact wa_zret rfl rfl dX3_in_18 F
    · have F := F.2 z
      refine wa_iconst (v := 1) dX3_in_13 rfl ?_
      refine wa_goto (tgt := 18) dX3_in_14 rfl ?_
      exact wa_zret rfl rfl dX3_in_18 F
theorem f_X3_fails {D : qD} {Q : Option Value → qH → Prop} {X : String → qH → Prop} (t : Nat) (p0 : Int32) (h : qH) (F : p_F h (some t) 2 37 (.int p0) (fun h1 => Q (some (.int 0)) h1)) : MW D m_X3_fails [va_rf (some t), .int p0] h Q X := by
  refine mw_of pl_X3_fails rfl _ (Nat.le_of_ble_eq_true rfl) rfl ?_
  refine (show WA D m_X3_fails Q X 0 [(0, va_rf (some t)), (1, .int p0)] [] h from ?_)
  refine wa_aload_n (o := (some t)) dX3_fails_0 rfl 0 rfl ?_
  refine wa_iload_n (x := p0) dX3_fails_1 rfl 1 rfl ?_
  refine wa_put (C := RX3) (T := TX3) (N := 38) (ci := 2) (k := 37) tyX3 dX3_fails_2 rfl (Nat.le_of_ble_eq_true rfl) in_X3 tyX3_ok nmX3 q1229 q_same_own rfl rfl rfl (p_F_mono F fun h1 F => ?_)
  refine wa_iconst (v := 0) dX3_fails_5 rfl ?_
  exact wa_iret rfl dX3_fails_6 F
theorem f_X3_newLine {D : qD} {Q : Option Value → qH → Prop} {X : String → qH → Prop} (t : Nat) (p0 : Int32) (p1 : Int32) (h : qH) (F : g_R D h (some t) 2 19 (fun r1 => g_I D h (some t) 2 14 (fun x2 => ((p0 = 0 ∨ p0 = 1) ∧ s_I h r1 1 x2 p0 (fun h3 => g_R D h3 (some t) 2 20 (fun r4 => g_I D h3 (some t) 2 14 (fun x5 => ((p1 = 0 ∨ p1 = 1) ∧ s_I h3 r4 1 x5 p1 (fun h6 => g_R D h6 (some t) 2 21 (fun r7 => g_I D h6 (some t) 2 14 (fun x8 => s_I h6 r7 1 x8 0 (fun h9 => g_R D h9 (some t) 2 18 (fun r10 => g_I D h9 (some t) 2 14 (fun x11 => s_I h9 r10 0 x11 0 (fun h12 => g_I D h12 (some t) 2 14 (fun x13 => p_F h12 (some t) 2 14 (.int (x13 + 1)) (fun h14 => Q none h14))))))))))))))))) : MW D m_X3_newLine [va_rf (some t), .int p0, .int p1] h Q X := by
  refine mw_of pl_X3_newLine rfl _ (Nat.le_of_ble_eq_true rfl) rfl ?_
  refine (show WA D m_X3_newLine Q X 0 [(0, va_rf (some t)), (1, .int p0), (2, .int p1)] [] h from ?_)
  refine wa_aload_n (o := (some t)) dX3_newLine_0 rfl 0 rfl ?_
  refine wa_getR (C := RX3) (T := TX3) (N := 38) (ci := 2) (k := 19) dX3_newLine_1 rfl (Nat.le_of_ble_eq_true rfl) in_X3 q1211 q_same_own (g_R_mono F fun r1 F => ?_)
  refine wa_aload_n (o := (some t)) dX3_newLine_4 rfl 0 rfl ?_
  refine wa_getI (C := RX3) (T := TX3) (N := 38) (ci := 2) (k := 14) dX3_newLine_5 rfl (Nat.le_of_ble_eq_true rfl) in_X3 q1206 q_same_own (g_I_mono F fun x2 F => ?_)
  refine wa_iload_n (x := p0) dX3_newLine_8 rfl 1 rfl ?_
  refine wa_zast F.1 dX3_newLine_9 (s_I_mono F.2 fun h3 F => ?_)
  refine wa_aload_n (o := (some t)) dX3_newLine_10 rfl 0 rfl ?_
  refine wa_getR (C := RX3) (T := TX3) (N := 38) (ci := 2) (k := 20) dX3_newLine_11 rfl (Nat.le_of_ble_eq_true rfl) in_X3 q1212 q_same_own (g_R_mono F fun r4 F => ?_)
  refine wa_aload_n (o := (some t)) dX3_newLine_14 rfl 0 rfl ?_
  refine wa_getI (C := RX3) (T := TX3) (N := 38) (ci := 2) (k := 14) dX3_newLine_15 rfl (Nat.le_of_ble_eq_true rfl) in_X3 q1206 q_same_own (g_I_mono F fun x5 F => ?_)
  refine wa_iload_n (x := p1) dX3_newLine_18 rfl 2 rfl ?_
  refine wa_zast F.1 dX3_newLine_19 (s_I_mono F.2 fun h6 F => ?_)
  refine wa_aload_n (o := (some t)) dX3_newLine_20 rfl 0 rfl ?_
  refine wa_getR (C := RX3) (T := TX3) (N := 38) (ci := 2) (k := 21) dX3_newLine_21 rfl (Nat.le_of_ble_eq_true rfl) in_X3 q1213 q_same_own (g_R_mono F fun r7 F => ?_)
  refine wa_aload_n (o := (some t)) dX3_newLine_24 rfl 0 rfl ?_
  refine wa_getI (C := RX3) (T := TX3) (N := 38) (ci := 2) (k := 14) dX3_newLine_25 rfl (Nat.le_of_ble_eq_true rfl) in_X3 q1206 q_same_own (g_I_mono F fun x8 F => ?_)
  refine wa_iconst (v := 0) dX3_newLine_28 rfl ?_
  refine wa_zast (by decide) dX3_newLine_29 (s_I_mono F fun h9 F => ?_)
  refine wa_aload_n (o := (some t)) dX3_newLine_30 rfl 0 rfl ?_
  refine wa_getR (C := RX3) (T := TX3) (N := 38) (ci := 2) (k := 18) dX3_newLine_31 rfl (Nat.le_of_ble_eq_true rfl) in_X3 q1210 q_same_own (g_R_mono F fun r10 F => ?_)
  refine wa_aload_n (o := (some t)) dX3_newLine_34 rfl 0 rfl ?_
  refine wa_getI (C := RX3) (T := TX3) (N := 38) (ci := 2) (k := 14) dX3_newLine_35 rfl (Nat.le_of_ble_eq_true rfl) in_X3 q1206 q_same_own (g_I_mono F fun x11 F => ?_)
  refine wa_iconst (v := 0) dX3_newLine_38 rfl ?_
  refine wa_iast dX3_newLine_39 (s_I_mono F fun h12 F => ?_)
  refine wa_aload_n (o := (some t)) dX3_newLine_40 rfl 0 rfl ?_
  refine wa_dup dX3_newLine_41 (q_cat _) ?_
  refine wa_getI (C := RX3) (T := TX3) (N := 38) (ci := 2) (k := 14) dX3_newLine_42 rfl (Nat.le_of_ble_eq_true rfl) in_X3 q1206 q_same_own (g_I_mono F fun x13 F => ?_)
  refine wa_iconst (v := 1) dX3_newLine_45 rfl ?_
  refine wa_iadd dX3_newLine_46 ?_
  refine wa_put (C := RX3) (T := TX3) (N := 38) (ci := 2) (k := 14) tyX3 dX3_newLine_47 rfl (Nat.le_of_ble_eq_true rfl) in_X3 tyX3_ok nmX3 q1206 q_same_own rfl rfl rfl (p_F_mono F fun h14 F => ?_)
  exact wa_vret rfl dX3_newLine_50 F
def L_X3_isPrinted_47 (D : qD) (Q : Option Value → qH → Prop) (X : String → qH → Prop) (h : qH) : Prop := WA D m_X3_isPrinted Q X 47 [] [] h
theorem f_X3_isPrinted {D : qD} {Q : Option Value → qH → Prop} {X : String → qH → Prop} (t : Nat) (p0 : Int32) (p1 : Int32) (h : qH) (F : g_R D h (some t) 2 1 (fun r1 => a_I D h r1 0 p1 (fun x2 => ((x2 = 0 → L_X3_isPrinted_47 D Q X h) ∧ (¬ x2 = 0 → g_R D h (some t) 2 1 (fun r3 => a_I D h r3 0 p1 (fun x4 => ((x4 = 3 → L_X3_isPrinted_47 D Q X h) ∧ (¬ x4 = 3 → g_R D h (some t) 2 1 (fun r5 => a_I D h r5 0 p1 (fun x6 => ((¬ x6 = 1 → Q (some (.int 0)) h) ∧ (x6 = 1 → g_R D h (some t) 2 7 (fun r7 => g_R D h (some t) 2 2 (fun r8 => a_I D h r8 0 p1 (fun x9 => a_I D h r7 0 ((4 * p0) + x9) (fun x10 => ((x10 ≤ 0 → Q (some (.int 0)) h) ∧ (¬ x10 ≤ 0 → L_X3_isPrinted_47 D Q X h))))))))))))))))))) : MW D m_X3_isPrinted [va_rf (some t), .int p0, .int p1] h Q X := by
  refine mw_of pl_X3_isPrinted rfl _ (Nat.le_of_ble_eq_true rfl) rfl ?_
  refine (show WA D m_X3_isPrinted Q X 0 [(0, va_rf (some t)), (1, .int p0), (2, .int p1)] [] h from ?_)
  refine wa_aload_n (o := (some t)) dX3_isPrinted_0 rfl 0 rfl ?_
  refine wa_getR (C := RX3) (T := TX3) (N := 38) (ci := 2) (k := 1) dX3_isPrinted_1 rfl (Nat.le_of_ble_eq_true rfl) in_X3 q1193 q_same_own (g_R_mono F fun r1 F => ?_)
  refine wa_iload_n (x := p1) dX3_isPrinted_4 rfl 2 rfl ?_
  refine wa_iald dX3_isPrinted_5 (a_I_mono F fun x2 F => ?_)
  refine wa_if_eq (tgt := 47) dX3_isPrinted_6 rfl (fun z => ?_) (fun z => ?_)
  · have F := F.1 z
    exact wa_sub [] rfl F
  · have F := F.2 z
    refine wa_aload_n (o := (some t)) dX3_isPrinted_9 rfl 0 rfl ?_
    refine wa_getR (C := RX3) (T := TX3) (N := 38) (ci := 2) (k := 1) dX3_isPrinted_10 rfl (Nat.le_of_ble_eq_true rfl) in_X3 q1193 q_same_own (g_R_mono F fun r3 F => ?_)
    refine wa_iload_n (x := p1) dX3_isPrinted_13 rfl 2 rfl ?_
    refine wa_iald dX3_isPrinted_14 (a_I_mono F fun x4 F => ?_)
    refine wa_iconst (v := 3) dX3_isPrinted_15 rfl ?_
    refine wa_icmp_eq (tgt := 47) dX3_isPrinted_16 rfl (fun z => ?_) (fun z => ?_)
    · have F := F.1 z
      exact wa_sub [] rfl F
    · have F := F.2 z
      refine wa_aload_n (o := (some t)) dX3_isPrinted_19 rfl 0 rfl ?_
      refine wa_getR (C := RX3) (T := TX3) (N := 38) (ci := 2) (k := 1) dX3_isPrinted_20 rfl (Nat.le_of_ble_eq_true rfl) in_X3 q1193 q_same_own (g_R_mono F fun r5 F => ?_)
      refine wa_iload_n (x := p1) dX3_isPrinted_23 rfl 2 rfl ?_
      refine wa_iald dX3_isPrinted_24 (a_I_mono F fun x6 F => ?_)
      refine wa_iconst (v := 1) dX3_isPrinted_25 rfl ?_
      refine wa_icmp_ne (tgt := 51) dX3_isPrinted_26 rfl (fun z => ?_) (fun z => ?_)
      · have F := F.1 z
        refine wa_iconst (v := 0) dX3_isPrinted_51 rfl ?_
        exact wa_zret rfl rfl dX3_isPrinted_52 F
      · have F := F.2 z
        refine wa_aload_n (o := (some t)) dX3_isPrinted_29 rfl 0 rfl ?_
        refine wa_getR (C := RX3) (T := TX3) (N := 38) (ci := 2) (k := 7) dX3_isPrinted_30 rfl (Nat.le_of_ble_eq_true rfl) in_X3 q1199 q_same_own (g_R_mono F fun r7 F => ?_)
        refine wa_iconst (v := 4) dX3_isPrinted_33 rfl ?_
        refine wa_iload_n (x := p0) dX3_isPrinted_34 rfl 1 rfl ?_
        refine wa_imul dX3_isPrinted_35 ?_
        refine wa_aload_n (o := (some t)) dX3_isPrinted_36 rfl 0 rfl ?_
        refine wa_getR (C := RX3) (T := TX3) (N := 38) (ci := 2) (k := 2) dX3_isPrinted_37 rfl (Nat.le_of_ble_eq_true rfl) in_X3 q1194 q_same_own (g_R_mono F fun r8 F => ?_)
        refine wa_iload_n (x := p1) dX3_isPrinted_40 rfl 2 rfl ?_
        refine wa_iald dX3_isPrinted_41 (a_I_mono F fun x9 F => ?_)
        refine wa_iadd dX3_isPrinted_42 ?_
        refine wa_iald dX3_isPrinted_43 (a_I_mono F fun x10 F => ?_)
        refine wa_if_le (tgt := 51) dX3_isPrinted_44 rfl (fun z => ?_) (fun z => ?_)
        · have F := F.1 z
          refine wa_iconst (v := 0) dX3_isPrinted_51 rfl ?_
          exact wa_zret rfl rfl dX3_isPrinted_52 F
        · have F := F.2 z
          exact wa_sub [] rfl F
theorem f_X3_isPrinted_47 {D : qD} {Q : Option Value → qH → Prop} {X : String → qH → Prop} (h : qH) (F : Q (some (.int 1)) h) : L_X3_isPrinted_47 D Q X  h := by
  show WA D m_X3_isPrinted Q X 47 [] [] h
  refine wa_iconst (v := 1) dX3_isPrinted_47 rfl ?_
  refine wa_goto (tgt := 52) dX3_isPrinted_48 rfl ?_
  exact wa_zret rfl rfl dX3_isPrinted_52 F
def L_X3_extraOf_2 (D : qD) (Q : Option Value → qH → Prop) (X : String → qH → Prop) (t : Nat) (v2 : Int32) (h : qH) : Prop := WA D m_X3_extraOf Q X 2 [(0, va_rf (some t)), (2, .int v2)] [] h
def L_X3_extraOf_32 (D : qD) (Q : Option Value → qH → Prop) (X : String → qH → Prop) (t : Nat) (v2 : Int32) (h : qH) : Prop := WA D m_X3_extraOf Q X 32 [(0, va_rf (some t)), (2, .int v2)] [] h
theorem f_X3_extraOf {D : qD} {Q : Option Value → qH → Prop} {X : String → qH → Prop} (t : Nat) (p0 : Int32) (h : qH) (F : L_X3_extraOf_2 D Q X t p0 h) : MW D m_X3_extraOf [va_rf (some t), .int p0] h Q X := by
  refine mw_of pl_X3_extraOf rfl _ (Nat.le_of_ble_eq_true rfl) rfl ?_
  refine (show WA D m_X3_extraOf Q X 0 [(0, va_rf (some t)), (1, .int p0)] [] h from ?_)
  refine wa_iload_n (x := p0) dX3_extraOf_0 rfl 1 rfl ?_
  refine ws_istore_n (lv' := [(2, .int p0), (0, va_rf (some t)), (1, .int p0)]) dX3_extraOf_1 rfl (Nat.le_of_ble_eq_true rfl) (q_cr (q_ci q_cn)) rfl ?_
  exact wa_sub [1, 0] rfl F
theorem f_X3_extraOf_2 {D : qD} {Q : Option Value → qH → Prop} {X : String → qH → Prop} (t : Nat) (v2 : Int32) (h : qH) (F : g_R D h (some t) 2 5 (fun r1 => a_I D h r1 0 v2 (fun x2 => ((¬ x2 = (-1) → L_X3_extraOf_32 D Q X t v2 h) ∧ (x2 = (-1) → g_R D h (some t) 2 4 (fun r3 => a_I D h r3 0 v2 (fun x4 => ((x4 = (-1) → L_X3_extraOf_32 D Q X t v2 h) ∧ (¬ x4 = (-1) → g_R D h (some t) 2 4 (fun r5 => a_I D h r5 0 v2 (fun x6 => L_X3_extraOf_2 D Q X t x6 h))))))))))) : L_X3_extraOf_2 D Q X t v2 h := by
  show WA D m_X3_extraOf Q X 2 [(0, va_rf (some t)), (2, .int v2)] [] h
  refine wa_aload_n (o := (some t)) dX3_extraOf_2 rfl 0 rfl ?_
  refine wa_getR (C := RX3) (T := TX3) (N := 38) (ci := 2) (k := 5) dX3_extraOf_3 rfl (Nat.le_of_ble_eq_true rfl) in_X3 q1197 q_same_own (g_R_mono F fun r1 F => ?_)
  refine wa_iload_n (x := v2) dX3_extraOf_6 rfl 1 rfl ?_
  refine wa_iald dX3_extraOf_7 (a_I_mono F fun x2 F => ?_)
  refine wa_iconst (v := -1) dX3_extraOf_8 rfl ?_
  refine wa_icmp_ne (tgt := 32) dX3_extraOf_9 rfl (fun z => ?_) (fun z => ?_)
  · have F := F.1 z
    exact F
  · have F := F.2 z
    refine wa_aload_n (o := (some t)) dX3_extraOf_12 rfl 0 rfl ?_
    refine wa_getR (C := RX3) (T := TX3) (N := 38) (ci := 2) (k := 4) dX3_extraOf_13 rfl (Nat.le_of_ble_eq_true rfl) in_X3 q1196 q_same_own (g_R_mono F fun r3 F => ?_)
    refine wa_iload_n (x := v2) dX3_extraOf_16 rfl 1 rfl ?_
    refine wa_iald dX3_extraOf_17 (a_I_mono F fun x4 F => ?_)
    refine wa_iconst (v := -1) dX3_extraOf_18 rfl ?_
    refine wa_icmp_eq (tgt := 32) dX3_extraOf_19 rfl (fun z => ?_) (fun z => ?_)
    · have F := F.1 z
      exact F
    · have F := F.2 z
      refine wa_aload_n (o := (some t)) dX3_extraOf_22 rfl 0 rfl ?_
      refine wa_getR (C := RX3) (T := TX3) (N := 38) (ci := 2) (k := 4) dX3_extraOf_23 rfl (Nat.le_of_ble_eq_true rfl) in_X3 q1196 q_same_own (g_R_mono F fun r5 F => ?_)
      refine wa_iload_n (x := v2) dX3_extraOf_26 rfl 1 rfl ?_
      refine wa_iald dX3_extraOf_27 (a_I_mono F fun x6 F => ?_)
      refine ws_istore_n (lv' := [(2, .int x6), (0, va_rf (some t))]) dX3_extraOf_28 rfl (Nat.le_of_ble_eq_true rfl) (q_cr (q_ci q_cn)) rfl ?_
      refine wa_goto (tgt := 2) dX3_extraOf_29 rfl ?_
      exact wa_sub [1, 0] rfl F
theorem f_X3_extraOf_32 {D : qD} {Q : Option Value → qH → Prop} {X : String → qH → Prop} (t : Nat) (v2 : Int32) (h : qH) (F : g_R D h (some t) 2 5 (fun r1 => a_I D h r1 0 v2 (fun x2 => ((¬ x2 = (-1) → g_R D h (some t) 2 5 (fun r3 => a_I D h r3 0 v2 (fun x4 => Q (some (.int x4)) h))) ∧ (x2 = (-1) → Q (some (.int 0)) h))))) : L_X3_extraOf_32 D Q X t v2 h := by
  show WA D m_X3_extraOf Q X 32 [(0, va_rf (some t)), (2, .int v2)] [] h
  refine wa_aload_n (o := (some t)) dX3_extraOf_32 rfl 0 rfl ?_
  refine wa_getR (C := RX3) (T := TX3) (N := 38) (ci := 2) (k := 5) dX3_extraOf_33 rfl (Nat.le_of_ble_eq_true rfl) in_X3 q1197 q_same_own (g_R_mono F fun r1 F => ?_)
  refine wa_iload_n (x := v2) dX3_extraOf_36 rfl 1 rfl ?_
  refine wa_iald dX3_extraOf_37 (a_I_mono F fun x2 F => ?_)
  refine wa_iconst (v := -1) dX3_extraOf_38 rfl ?_
  refine wa_icmp_ne (tgt := 46) dX3_extraOf_39 rfl (fun z => ?_) (fun z => ?_)
  · have F := F.1 z
    refine wa_aload_n (o := (some t)) dX3_extraOf_46 rfl 0 rfl ?_
    refine wa_getR (C := RX3) (T := TX3) (N := 38) (ci := 2) (k := 5) dX3_extraOf_47 rfl (Nat.le_of_ble_eq_true rfl) in_X3 q1197 q_same_own (g_R_mono F fun r3 F => ?_)
    refine wa_iload_n (x := v2) dX3_extraOf_50 rfl 1 rfl ?_
    refine wa_iald dX3_extraOf_51 (a_I_mono F fun x4 F => ?_)
    exact wa_iret rfl dX3_extraOf_52 F
  · have F := F.2 z
    refine wa_iconst (v := 0) dX3_extraOf_42 rfl ?_
    refine wa_goto (tgt := 52) dX3_extraOf_43 rfl ?_
    exact wa_iret rfl dX3_extraOf_52 F
def L_X3_hangs_31 (D : qD) (Q : Option Value → qH → Prop) (X : String → qH → Prop) (h : qH) : Prop := WA D m_X3_hangs Q X 31 [] [] h
theorem f_X3_hangs {D : qD} {Q : Option Value → qH → Prop} {X : String → qH → Prop} (t : Nat) (p0 : Int32) (h : qH) (F : g_R D h (some t) 2 1 (fun r1 => a_I D h r1 0 p0 (fun x2 => ((x2 = 4 → L_X3_hangs_31 D Q X h) ∧ (¬ x2 = 4 → g_R D h (some t) 2 1 (fun r3 => a_I D h r3 0 p0 (fun x4 => ((x4 = 5 → L_X3_hangs_31 D Q X h) ∧ (¬ x4 = 5 → g_R D h (some t) 2 1 (fun r5 => a_I D h r5 0 p0 (fun x6 => ((¬ x6 = 6 → Q (some (.int 0)) h) ∧ (x6 = 6 → L_X3_hangs_31 D Q X h))))))))))))) : MW D m_X3_hangs [va_rf (some t), .int p0] h Q X := by
  refine mw_of pl_X3_hangs rfl _ (Nat.le_of_ble_eq_true rfl) rfl ?_
  refine (show WA D m_X3_hangs Q X 0 [(0, va_rf (some t)), (1, .int p0)] [] h from ?_)
  refine wa_aload_n (o := (some t)) dX3_hangs_0 rfl 0 rfl ?_
  refine wa_getR (C := RX3) (T := TX3) (N := 38) (ci := 2) (k := 1) dX3_hangs_1 rfl (Nat.le_of_ble_eq_true rfl) in_X3 q1193 q_same_own (g_R_mono F fun r1 F => ?_)
  refine wa_iload_n (x := p0) dX3_hangs_4 rfl 1 rfl ?_
  refine wa_iald dX3_hangs_5 (a_I_mono F fun x2 F => ?_)
  refine wa_iconst (v := 4) dX3_hangs_6 rfl ?_
  refine wa_icmp_eq (tgt := 31) dX3_hangs_7 rfl (fun z => ?_) (fun z => ?_)
  · have F := F.1 z
    exact wa_sub [] rfl F
  · have F := F.2 z
    refine wa_aload_n (o := (some t)) dX3_hangs_10 rfl 0 rfl ?_
    refine wa_getR (C := RX3) (T := TX3) (N := 38) (ci := 2) (k := 1) dX3_hangs_11 rfl (Nat.le_of_ble_eq_true rfl) in_X3 q1193 q_same_own (g_R_mono F fun r3 F => ?_)
    refine wa_iload_n (x := p0) dX3_hangs_14 rfl 1 rfl ?_
    refine wa_iald dX3_hangs_15 (a_I_mono F fun x4 F => ?_)
    refine wa_iconst (v := 5) dX3_hangs_16 rfl ?_
    refine wa_icmp_eq (tgt := 31) dX3_hangs_17 rfl (fun z => ?_) (fun z => ?_)
    · have F := F.1 z
      exact wa_sub [] rfl F
    · have F := F.2 z
      refine wa_aload_n (o := (some t)) dX3_hangs_20 rfl 0 rfl ?_
      refine wa_getR (C := RX3) (T := TX3) (N := 38) (ci := 2) (k := 1) dX3_hangs_21 rfl (Nat.le_of_ble_eq_true rfl) in_X3 q1193 q_same_own (g_R_mono F fun r5 F => ?_)
      refine wa_iload_n (x := p0) dX3_hangs_24 rfl 1 rfl ?_
      refine wa_iald dX3_hangs_25 (a_I_mono F fun x6 F => ?_)
      refine wa_bipush (v := 6) dX3_hangs_26 rfl ?_
      refine wa_icmp_ne (tgt := 35) dX3_hangs_28 rfl (fun z => ?_) (fun z => ?_)
      · have F := F.1 z
        refine wa_iconst (v := 0) dX3_hangs_35 rfl ?_
        exact wa_zret rfl rfl dX3_hangs_36 F
      · have F := F.2 z
        exact wa_sub [] rfl F
theorem f_X3_hangs_31 {D : qD} {Q : Option Value → qH → Prop} {X : String → qH → Prop} (h : qH) (F : Q (some (.int 1)) h) : L_X3_hangs_31 D Q X  h := by
  show WA D m_X3_hangs Q X 31 [] [] h
  refine wa_iconst (v := 1) dX3_hangs_31 rfl ?_
  refine wa_goto (tgt := 36) dX3_hangs_32 rfl ?_
  exact wa_zret rfl rfl dX3_hangs_36 F
def L_X3_colourOf_2 (D : qD) (Q : Option Value → qH → Prop) (X : String → qH → Prop) (t : Nat) (v2 : Int32) (h : qH) : Prop := WA D m_X3_colourOf Q X 2 [(0, va_rf (some t)), (2, .int v2)] [] h
def L_X3_colourOf_32 (D : qD) (Q : Option Value → qH → Prop) (X : String → qH → Prop) (t : Nat) (v2 : Int32) (h : qH) : Prop := WA D m_X3_colourOf Q X 32 [(0, va_rf (some t)), (2, .int v2)] [] h
theorem f_X3_colourOf {D : qD} {Q : Option Value → qH → Prop} {X : String → qH → Prop} (t : Nat) (p0 : Int32) (h : qH) (F : L_X3_colourOf_2 D Q X t p0 h) : MW D m_X3_colourOf [va_rf (some t), .int p0] h Q X := by
  refine mw_of pl_X3_colourOf rfl _ (Nat.le_of_ble_eq_true rfl) rfl ?_
  refine (show WA D m_X3_colourOf Q X 0 [(0, va_rf (some t)), (1, .int p0)] [] h from ?_)
  refine wa_iload_n (x := p0) dX3_colourOf_0 rfl 1 rfl ?_
  refine ws_istore_n (lv' := [(2, .int p0), (0, va_rf (some t)), (1, .int p0)]) dX3_colourOf_1 rfl (Nat.le_of_ble_eq_true rfl) (q_cr (q_ci q_cn)) rfl ?_
  exact wa_sub [1, 0] rfl F
theorem f_X3_colourOf_2 {D : qD} {Q : Option Value → qH → Prop} {X : String → qH → Prop} (t : Nat) (v2 : Int32) (h : qH) (F : g_R D h (some t) 2 6 (fun r1 => a_I D h r1 0 v2 (fun x2 => ((¬ x2 = (-1) → L_X3_colourOf_32 D Q X t v2 h) ∧ (x2 = (-1) → g_R D h (some t) 2 4 (fun r3 => a_I D h r3 0 v2 (fun x4 => ((x4 = (-1) → L_X3_colourOf_32 D Q X t v2 h) ∧ (¬ x4 = (-1) → g_R D h (some t) 2 4 (fun r5 => a_I D h r5 0 v2 (fun x6 => L_X3_colourOf_2 D Q X t x6 h))))))))))) : L_X3_colourOf_2 D Q X t v2 h := by
  show WA D m_X3_colourOf Q X 2 [(0, va_rf (some t)), (2, .int v2)] [] h
  refine wa_aload_n (o := (some t)) dX3_colourOf_2 rfl 0 rfl ?_
  refine wa_getR (C := RX3) (T := TX3) (N := 38) (ci := 2) (k := 6) dX3_colourOf_3 rfl (Nat.le_of_ble_eq_true rfl) in_X3 q1198 q_same_own (g_R_mono F fun r1 F => ?_)
  refine wa_iload_n (x := v2) dX3_colourOf_6 rfl 1 rfl ?_
  refine wa_iald dX3_colourOf_7 (a_I_mono F fun x2 F => ?_)
  refine wa_iconst (v := -1) dX3_colourOf_8 rfl ?_
  refine wa_icmp_ne (tgt := 32) dX3_colourOf_9 rfl (fun z => ?_) (fun z => ?_)
  · have F := F.1 z
    exact F
  · have F := F.2 z
    refine wa_aload_n (o := (some t)) dX3_colourOf_12 rfl 0 rfl ?_
    refine wa_getR (C := RX3) (T := TX3) (N := 38) (ci := 2) (k := 4) dX3_colourOf_13 rfl (Nat.le_of_ble_eq_true rfl) in_X3 q1196 q_same_own (g_R_mono F fun r3 F => ?_)
    refine wa_iload_n (x := v2) dX3_colourOf_16 rfl 1 rfl ?_
    refine wa_iald dX3_colourOf_17 (a_I_mono F fun x4 F => ?_)
    refine wa_iconst (v := -1) dX3_colourOf_18 rfl ?_
    refine wa_icmp_eq (tgt := 32) dX3_colourOf_19 rfl (fun z => ?_) (fun z => ?_)
    · have F := F.1 z
      exact F
    · have F := F.2 z
      refine wa_aload_n (o := (some t)) dX3_colourOf_22 rfl 0 rfl ?_
      refine wa_getR (C := RX3) (T := TX3) (N := 38) (ci := 2) (k := 4) dX3_colourOf_23 rfl (Nat.le_of_ble_eq_true rfl) in_X3 q1196 q_same_own (g_R_mono F fun r5 F => ?_)
      refine wa_iload_n (x := v2) dX3_colourOf_26 rfl 1 rfl ?_
      refine wa_iald dX3_colourOf_27 (a_I_mono F fun x6 F => ?_)
      refine ws_istore_n (lv' := [(2, .int x6), (0, va_rf (some t))]) dX3_colourOf_28 rfl (Nat.le_of_ble_eq_true rfl) (q_cr (q_ci q_cn)) rfl ?_
      refine wa_goto (tgt := 2) dX3_colourOf_29 rfl ?_
      exact wa_sub [1, 0] rfl F
theorem f_X3_colourOf_32 {D : qD} {Q : Option Value → qH → Prop} {X : String → qH → Prop} (t : Nat) (v2 : Int32) (h : qH) (F : g_R D h (some t) 2 6 (fun r1 => a_I D h r1 0 v2 (fun x2 => ((¬ x2 = (-1) → g_R D h (some t) 2 6 (fun r3 => a_I D h r3 0 v2 (fun x4 => Q (some (.int x4)) h))) ∧ (x2 = (-1) → Q (some (.int 0)) h))))) : L_X3_colourOf_32 D Q X t v2 h := by
  show WA D m_X3_colourOf Q X 32 [(0, va_rf (some t)), (2, .int v2)] [] h
  refine wa_aload_n (o := (some t)) dX3_colourOf_32 rfl 0 rfl ?_
  refine wa_getR (C := RX3) (T := TX3) (N := 38) (ci := 2) (k := 6) dX3_colourOf_33 rfl (Nat.le_of_ble_eq_true rfl) in_X3 q1198 q_same_own (g_R_mono F fun r1 F => ?_)
  refine wa_iload_n (x := v2) dX3_colourOf_36 rfl 1 rfl ?_
  refine wa_iald dX3_colourOf_37 (a_I_mono F fun x2 F => ?_)
  refine wa_iconst (v := -1) dX3_colourOf_38 rfl ?_
  refine wa_icmp_ne (tgt := 46) dX3_colourOf_39 rfl (fun z => ?_) (fun z => ?_)
  · have F := F.1 z
    refine wa_aload_n (o := (some t)) dX3_colourOf_46 rfl 0 rfl ?_
    refine wa_getR (C := RX3) (T := TX3) (N := 38) (ci := 2) (k := 6) dX3_colourOf_47 rfl (Nat.le_of_ble_eq_true rfl) in_X3 q1198 q_same_own (g_R_mono F fun r3 F => ?_)
    refine wa_iload_n (x := v2) dX3_colourOf_50 rfl 1 rfl ?_
    refine wa_iald dX3_colourOf_51 (a_I_mono F fun x4 F => ?_)
    exact wa_iret rfl dX3_colourOf_52 F
  · have F := F.2 z
    refine wa_iconst (v := 0) dX3_colourOf_42 rfl ?_
    refine wa_goto (tgt := 52) dX3_colourOf_43 rfl ?_
    exact wa_iret rfl dX3_colourOf_52 F
theorem f_X3_tops {D : qD} {Q : Option Value → qH → Prop} {X : String → qH → Prop} (t : Nat) (p0 : Int32) (h : qH) (F : g_R D h (some t) 2 16 (fun r1 => g_I D h (some t) 2 22 (fun x2 => s_I h r1 0 p0 (x2 - 1) (fun h3 => g_I D h3 (some t) 2 28 (fun x4 => g_R D h3 (some t) 2 2 (fun r5 => a_I D h3 r5 0 p0 (fun x6 => p_F h3 (some t) 2 28 (.int (x4 - x6)) (fun h7 => p_F h7 (some t) 2 30 (.int 1) (fun h8 => Q none h8))))))))) : MW D m_X3_tops [va_rf (some t), .int p0] h Q X := by
  refine mw_of pl_X3_tops rfl _ (Nat.le_of_ble_eq_true rfl) rfl ?_
  refine (show WA D m_X3_tops Q X 0 [(0, va_rf (some t)), (1, .int p0)] [] h from ?_)
  refine wa_aload_n (o := (some t)) dX3_tops_0 rfl 0 rfl ?_
  refine wa_getR (C := RX3) (T := TX3) (N := 38) (ci := 2) (k := 16) dX3_tops_1 rfl (Nat.le_of_ble_eq_true rfl) in_X3 q1208 q_same_own (g_R_mono F fun r1 F => ?_)
  refine wa_iload_n (x := p0) dX3_tops_4 rfl 1 rfl ?_
  refine wa_aload_n (o := (some t)) dX3_tops_5 rfl 0 rfl ?_
  refine wa_getI (C := RX3) (T := TX3) (N := 38) (ci := 2) (k := 22) dX3_tops_6 rfl (Nat.le_of_ble_eq_true rfl) in_X3 q1214 q_same_own (g_I_mono F fun x2 F => ?_)
  refine wa_iconst (v := 1) dX3_tops_9 rfl ?_
  refine wa_isub dX3_tops_10 ?_
  refine wa_iast dX3_tops_11 (s_I_mono F fun h3 F => ?_)
  refine wa_aload_n (o := (some t)) dX3_tops_12 rfl 0 rfl ?_
  refine wa_dup dX3_tops_13 (q_cat _) ?_
  refine wa_getI (C := RX3) (T := TX3) (N := 38) (ci := 2) (k := 28) dX3_tops_14 rfl (Nat.le_of_ble_eq_true rfl) in_X3 q1220 q_same_own (g_I_mono F fun x4 F => ?_)
  refine wa_aload_n (o := (some t)) dX3_tops_17 rfl 0 rfl ?_
  refine wa_getR (C := RX3) (T := TX3) (N := 38) (ci := 2) (k := 2) dX3_tops_18 rfl (Nat.le_of_ble_eq_true rfl) in_X3 q1194 q_same_own (g_R_mono F fun r5 F => ?_)
  refine wa_iload_n (x := p0) dX3_tops_21 rfl 1 rfl ?_
  refine wa_iald dX3_tops_22 (a_I_mono F fun x6 F => ?_)
  refine wa_isub dX3_tops_23 ?_
  refine wa_put (C := RX3) (T := TX3) (N := 38) (ci := 2) (k := 28) tyX3 dX3_tops_24 rfl (Nat.le_of_ble_eq_true rfl) in_X3 tyX3_ok nmX3 q1220 q_same_own rfl rfl rfl (p_F_mono F fun h7 F => ?_)
  refine wa_aload_n (o := (some t)) dX3_tops_27 rfl 0 rfl ?_
  refine wa_iconst (v := 1) dX3_tops_28 rfl ?_
  refine wa_put (C := RX3) (T := TX3) (N := 38) (ci := 2) (k := 30) tyX3 dX3_tops_29 rfl (Nat.le_of_ble_eq_true rfl) in_X3 tyX3_ok nmX3 q1222 q_same_own rfl rfl rfl (p_F_mono F fun h8 F => ?_)
  exact wa_vret rfl dX3_tops_32 F
theorem f_X3_takes {D : qD} {Q : Option Value → qH → Prop} {X : String → qH → Prop} (t : Nat) (p0 : Int32) (p1 : Int32) (h : qH) (F : g_R D h (some t) 2 18 (fun r1 => a_I D h r1 0 p0 (fun x2 => g_R D h (some t) 2 19 (fun r3 => a_I D h r3 1 p0 (fun x4 => ((x4 = 0 → Q (some (.int ((1 + x2) + 0))) h) ∧ (¬ x4 = 0 → ((p1 = 0 → Q (some (.int ((1 + x2) + 0))) h) ∧ (¬ p1 = 0 → Q (some (.int ((1 + x2) + 1))) h))))))))) : MW D m_X3_takes [va_rf (some t), .int p0, .int p1] h Q X := by
  refine mw_of pl_X3_takes rfl _ (Nat.le_of_ble_eq_true rfl) rfl ?_
  refine (show WA D m_X3_takes Q X 0 [(0, va_rf (some t)), (1, .int p0), (2, .int p1)] [] h from ?_)
  refine wa_iconst (v := 1) dX3_takes_0 rfl ?_
  refine wa_aload_n (o := (some t)) dX3_takes_1 rfl 0 rfl ?_
  refine wa_getR (C := RX3) (T := TX3) (N := 38) (ci := 2) (k := 18) dX3_takes_2 rfl (Nat.le_of_ble_eq_true rfl) in_X3 q1210 q_same_own (g_R_mono F fun r1 F => ?_)
  refine wa_iload_n (x := p0) dX3_takes_5 rfl 1 rfl ?_
  refine wa_iald dX3_takes_6 (a_I_mono F fun x2 F => ?_)
  refine wa_iadd dX3_takes_7 ?_
  refine wa_aload_n (o := (some t)) dX3_takes_8 rfl 0 rfl ?_
  refine wa_getR (C := RX3) (T := TX3) (N := 38) (ci := 2) (k := 19) dX3_takes_9 rfl (Nat.le_of_ble_eq_true rfl) in_X3 q1211 q_same_own (g_R_mono F fun r3 F => ?_)
  refine wa_iload_n (x := p0) dX3_takes_12 rfl 1 rfl ?_
  refine wa_zald dX3_takes_13 (a_I_mono F fun x4 F => ?_)
  refine wa_if_eq (tgt := 25) dX3_takes_14 rfl (fun z => ?_) (fun z => ?_)
  · have F := F.1 z
    refine wa_iconst (v := 0) dX3_takes_25 rfl ?_
    refine wa_iadd dX3_takes_26 ?_
    exact wa_iret rfl dX3_takes_27 F
  · have F := F.2 z
    refine wa_iload_n (x := p1) dX3_takes_17 rfl 2 rfl ?_
    refine wa_if_eq (tgt := 25) dX3_takes_18 rfl (fun z => ?_) (fun z => ?_)
    · have F := F.1 z
      refine wa_iconst (v := 0) dX3_takes_25 rfl ?_
      refine wa_iadd dX3_takes_26 ?_
      exact wa_iret rfl dX3_takes_27 F
    · have F := F.2 z
      refine wa_iconst (v := 1) dX3_takes_21 rfl ?_
      refine wa_goto (tgt := 26) dX3_takes_22 rfl ?_
      refine wa_iadd dX3_takes_26 ?_
      exact wa_iret rfl dX3_takes_27 F
theorem f_X3_pageBy {D : qD} {Q : Option Value → qH → Prop} {X : String → qH → Prop} (t : Nat) (p0 : Int32) (p1 : Int32) (h : qH) (F : g_R D h (some t) 2 17 (fun r1 => a_I D h r1 0 p0 (fun x2 => g_I D h (some t) 2 10 (fun x3 => (¬ x3 = 0 ∧ Q (some (.int ((p1 + 1) + (x2 / x3)))) h))))) : MW D m_X3_pageBy [va_rf (some t), .int p0, .int p1] h Q X := by
  refine mw_of pl_X3_pageBy rfl _ (Nat.le_of_ble_eq_true rfl) rfl ?_
  refine (show WA D m_X3_pageBy Q X 0 [(0, va_rf (some t)), (1, .int p0), (2, .int p1)] [] h from ?_)
  refine wa_iload_n (x := p1) dX3_pageBy_0 rfl 2 rfl ?_
  refine wa_iconst (v := 1) dX3_pageBy_1 rfl ?_
  refine wa_iadd dX3_pageBy_2 ?_
  refine wa_aload_n (o := (some t)) dX3_pageBy_3 rfl 0 rfl ?_
  refine wa_getR (C := RX3) (T := TX3) (N := 38) (ci := 2) (k := 17) dX3_pageBy_4 rfl (Nat.le_of_ble_eq_true rfl) in_X3 q1209 q_same_own (g_R_mono F fun r1 F => ?_)
  refine wa_iload_n (x := p0) dX3_pageBy_7 rfl 1 rfl ?_
  refine wa_iald dX3_pageBy_8 (a_I_mono F fun x2 F => ?_)
  refine wa_aload_n (o := (some t)) dX3_pageBy_9 rfl 0 rfl ?_
  refine wa_getI (C := RX3) (T := TX3) (N := 38) (ci := 2) (k := 10) dX3_pageBy_10 rfl (Nat.le_of_ble_eq_true rfl) in_X3 q1202 q_same_own (g_I_mono F fun x3 F => ?_)
  refine wa_idiv dX3_pageBy_13 F.1 ?_
  have F := F.2
  refine wa_iadd dX3_pageBy_14 ?_
  exact wa_iret rfl dX3_pageBy_15 F
theorem f_X3_figures {D : qD} {Q : Option Value → qH → Prop} {X : String → qH → Prop} (p0 : Int32) (h : qH) (F : ((10 ≤ p0 → ((100 ≤ p0 → ((1000 ≤ p0 → Q (some (.int 4)) h) ∧ (¬ 1000 ≤ p0 → Q (some (.int 3)) h))) ∧ (¬ 100 ≤ p0 → Q (some (.int 2)) h))) ∧ (¬ 10 ≤ p0 → Q (some (.int 1)) h))) : MW D m_X3_figures [.int p0] h Q X := by
  refine mw_of pl_X3_figures rfl _ (Nat.le_of_ble_eq_true rfl) rfl ?_
  refine (show WA D m_X3_figures Q X 0 [(0, .int p0)] [] h from ?_)
  refine wa_iload_n (x := p0) dX3_figures_0 rfl 0 rfl ?_
  refine wa_bipush (v := 10) dX3_figures_1 rfl ?_
  refine wa_icmp_ge (tgt := 10) dX3_figures_3 rfl (fun z => ?_) (fun z => ?_)
  · have F := F.1 z
    refine wa_iload_n (x := p0) dX3_figures_10 rfl 0 rfl ?_
    refine wa_bipush (v := 100) dX3_figures_11 rfl ?_
    refine wa_icmp_ge (tgt := 20) dX3_figures_13 rfl (fun z => ?_) (fun z => ?_)
    · have F := F.1 z
      refine wa_iload_n (x := p0) dX3_figures_20 rfl 0 rfl ?_
      refine wa_sipush (v := 1000) dX3_figures_21 rfl ?_
      refine wa_icmp_ge (tgt := 31) dX3_figures_24 rfl (fun z => ?_) (fun z => ?_)
      · have F := F.1 z
        refine wa_iconst (v := 4) dX3_figures_31 rfl ?_
        exact wa_iret rfl dX3_figures_32 F
      · have F := F.2 z
        refine wa_iconst (v := 3) dX3_figures_27 rfl ?_
        refine wa_goto (tgt := 32) dX3_figures_28 rfl ?_
        exact wa_iret rfl dX3_figures_32 F
    · have F := F.2 z
      refine wa_iconst (v := 2) dX3_figures_16 rfl ?_
      refine wa_goto (tgt := 32) dX3_figures_17 rfl ?_
      exact wa_iret rfl dX3_figures_32 F
  · have F := F.2 z
    refine wa_iconst (v := 1) dX3_figures_6 rfl ?_
    refine wa_goto (tgt := 32) dX3_figures_7 rfl ?_
    exact wa_iret rfl dX3_figures_32 F
theorem f_X3_pagesOf {D : qD} {Q : Option Value → qH → Prop} {X : String → qH → Prop} (t : Nat) (p0 : Int32) (h : qH) (F : g_I D h (some t) 2 10 (fun x1 => g_I D h (some t) 2 10 (fun x2 => (¬ x2 = 0 ∧ Q (some (.int (((p0 + x1) - 1) / x2))) h)))) : MW D m_X3_pagesOf [va_rf (some t), .int p0] h Q X := by
  refine mw_of pl_X3_pagesOf rfl _ (Nat.le_of_ble_eq_true rfl) rfl ?_
  refine (show WA D m_X3_pagesOf Q X 0 [(0, va_rf (some t)), (1, .int p0)] [] h from ?_)
  refine wa_iload_n (x := p0) dX3_pagesOf_0 rfl 1 rfl ?_
  refine wa_aload_n (o := (some t)) dX3_pagesOf_1 rfl 0 rfl ?_
  refine wa_getI (C := RX3) (T := TX3) (N := 38) (ci := 2) (k := 10) dX3_pagesOf_2 rfl (Nat.le_of_ble_eq_true rfl) in_X3 q1202 q_same_own (g_I_mono F fun x1 F => ?_)
  refine wa_iadd dX3_pagesOf_5 ?_
  refine wa_iconst (v := 1) dX3_pagesOf_6 rfl ?_
  refine wa_isub dX3_pagesOf_7 ?_
  refine wa_aload_n (o := (some t)) dX3_pagesOf_8 rfl 0 rfl ?_
  refine wa_getI (C := RX3) (T := TX3) (N := 38) (ci := 2) (k := 10) dX3_pagesOf_9 rfl (Nat.le_of_ble_eq_true rfl) in_X3 q1202 q_same_own (g_I_mono F fun x2 F => ?_)
  refine wa_idiv dX3_pagesOf_12 F.1 ?_
  have F := F.2
  exact wa_iret rfl dX3_pagesOf_13 F
def L_X3_lastOf_2 (D : qD) (Q : Option Value → qH → Prop) (X : String → qH → Prop) (t : Nat) (v2 : Int32) (h : qH) : Prop := WA D m_X3_lastOf Q X 2 [(0, va_rf (some t)), (2, .int v2)] [] h
theorem f_X3_lastOf {D : qD} {Q : Option Value → qH → Prop} {X : String → qH → Prop} (t : Nat) (p0 : Int32) (h : qH) (F : L_X3_lastOf_2 D Q X t p0 h) : MW D m_X3_lastOf [va_rf (some t), .int p0] h Q X := by
  refine mw_of pl_X3_lastOf rfl _ (Nat.le_of_ble_eq_true rfl) rfl ?_
  refine (show WA D m_X3_lastOf Q X 0 [(0, va_rf (some t)), (1, .int p0)] [] h from ?_)
  refine wa_iload_n (x := p0) dX3_lastOf_0 rfl 1 rfl ?_
  refine ws_istore_n (lv' := [(2, .int p0), (0, va_rf (some t)), (1, .int p0)]) dX3_lastOf_1 rfl (Nat.le_of_ble_eq_true rfl) (q_cr (q_ci q_cn)) rfl ?_
  exact wa_sub [1, 0] rfl F
theorem f_X3_lastOf_2 {D : qD} {Q : Option Value → qH → Prop} {X : String → qH → Prop} (t : Nat) (v2 : Int32) (h : qH) (F : g_R D h (some t) 2 11 (fun r1 => a_I D h r1 0 v2 (fun x2 => ((x2 = (-1) → Q (some (.int v2)) h) ∧ (¬ x2 = (-1) → g_R D h (some t) 2 11 (fun r3 => a_I D h r3 0 v2 (fun x4 => L_X3_lastOf_2 D Q X t x4 h))))))) : L_X3_lastOf_2 D Q X t v2 h := by
  show WA D m_X3_lastOf Q X 2 [(0, va_rf (some t)), (2, .int v2)] [] h
  refine wa_aload_n (o := (some t)) dX3_lastOf_2 rfl 0 rfl ?_
  refine wa_getR (C := RX3) (T := TX3) (N := 38) (ci := 2) (k := 11) dX3_lastOf_3 rfl (Nat.le_of_ble_eq_true rfl) in_X3 q1203 q_same_own (g_R_mono F fun r1 F => ?_)
  refine wa_iload_n (x := v2) dX3_lastOf_6 rfl 1 rfl ?_
  refine wa_iald dX3_lastOf_7 (a_I_mono F fun x2 F => ?_)
  refine wa_iconst (v := -1) dX3_lastOf_8 rfl ?_
  refine wa_icmp_eq (tgt := 22) dX3_lastOf_9 rfl (fun z => ?_) (fun z => ?_)
  · have F := F.1 z
    refine wa_iload_n (x := v2) dX3_lastOf_22 rfl 1 rfl ?_
    exact wa_iret rfl dX3_lastOf_23 F
  · have F := F.2 z
    refine wa_aload_n (o := (some t)) dX3_lastOf_12 rfl 0 rfl ?_
    refine wa_getR (C := RX3) (T := TX3) (N := 38) (ci := 2) (k := 11) dX3_lastOf_13 rfl (Nat.le_of_ble_eq_true rfl) in_X3 q1203 q_same_own (g_R_mono F fun r3 F => ?_)
    refine wa_iload_n (x := v2) dX3_lastOf_16 rfl 1 rfl ?_
    refine wa_iald dX3_lastOf_17 (a_I_mono F fun x4 F => ?_)
    refine ws_istore_n (lv' := [(2, .int x4), (0, va_rf (some t))]) dX3_lastOf_18 rfl (Nat.le_of_ble_eq_true rfl) (q_cr (q_ci q_cn)) rfl ?_
    refine wa_goto (tgt := 2) dX3_lastOf_19 rfl ?_
    exact wa_sub [1, 0] rfl F
theorem f_X3_within {D : qD} {Q : Option Value → qH → Prop} {X : String → qH → Prop} (t : Nat) (p0 : Int32) (h : qH) (F : g_I D h (some t) 2 12 (fun x1 => (¬ x1 = 0 ∧ g_I D h (some t) 2 12 (fun x2 => (((x2 / 2) < (((p0 - 1) - (p0 - 1) / x1 * x1) + 1) → g_I D h (some t) 2 12 (fun x3 => Q (some (.int ((x3 - (((p0 - 1) - (p0 - 1) / x1 * x1) + 1)) / 2))) h)) ∧ (¬ (x2 / 2) < (((p0 - 1) - (p0 - 1) / x1 * x1) + 1) → Q (some (.int (((((p0 - 1) - (p0 - 1) / x1 * x1) + 1) - 1) / 2))) h)))))) : MW D m_X3_within [va_rf (some t), .int p0] h Q X := by
  refine mw_of pl_X3_within rfl _ (Nat.le_of_ble_eq_true rfl) rfl ?_
  refine (show WA D m_X3_within Q X 0 [(0, va_rf (some t)), (1, .int p0)] [] h from ?_)
  refine wa_iload_n (x := p0) dX3_within_0 rfl 1 rfl ?_
  refine wa_iconst (v := 1) dX3_within_1 rfl ?_
  refine wa_isub dX3_within_2 ?_
  refine wa_aload_n (o := (some t)) dX3_within_3 rfl 0 rfl ?_
  refine wa_getI (C := RX3) (T := TX3) (N := 38) (ci := 2) (k := 12) dX3_within_4 rfl (Nat.le_of_ble_eq_true rfl) in_X3 q1204 q_same_own (g_I_mono F fun x1 F => ?_)
  refine wa_irem dX3_within_7 F.1 ?_
  have F := F.2
  refine wa_iconst (v := 1) dX3_within_8 rfl ?_
  refine wa_iadd dX3_within_9 ?_
  refine ws_istore_n (lv' := [(2, .int (((p0 - 1) - (p0 - 1) / x1 * x1) + 1)), (0, va_rf (some t)), (1, .int p0)]) dX3_within_10 rfl (Nat.le_of_ble_eq_true rfl) (q_cr (q_ci q_cn)) rfl ?_
  refine wa_iload_n (x := (((p0 - 1) - (p0 - 1) / x1 * x1) + 1)) dX3_within_11 rfl 0 rfl ?_
  refine wa_aload_n (o := (some t)) dX3_within_12 rfl 1 rfl ?_
  refine wa_getI (C := RX3) (T := TX3) (N := 38) (ci := 2) (k := 12) dX3_within_13 rfl (Nat.le_of_ble_eq_true rfl) in_X3 q1204 q_same_own (g_I_mono F fun x2 F => ?_)
  refine wa_iconst (v := 2) dX3_within_16 rfl ?_
  refine wa_idiv dX3_within_17 (by decide) ?_
  refine wa_icmp_gt (tgt := 29) dX3_within_18 rfl (fun z => ?_) (fun z => ?_)
  · have F := F.1 z
    refine wa_aload_n (o := (some t)) dX3_within_29 rfl 1 rfl ?_
    refine wa_getI (C := RX3) (T := TX3) (N := 38) (ci := 2) (k := 12) dX3_within_30 rfl (Nat.le_of_ble_eq_true rfl) in_X3 q1204 q_same_own (g_I_mono F fun x3 F => ?_)
    refine wa_iload_n (x := (((p0 - 1) - (p0 - 1) / x1 * x1) + 1)) dX3_within_33 rfl 0 rfl ?_
    refine wa_isub dX3_within_34 ?_
    refine wa_iconst (v := 2) dX3_within_35 rfl ?_
    refine wa_idiv dX3_within_36 (by decide) ?_
    exact wa_iret rfl dX3_within_37 F
  · have F := F.2 z
    refine wa_iload_n (x := (((p0 - 1) - (p0 - 1) / x1 * x1) + 1)) dX3_within_21 rfl 0 rfl ?_
    refine wa_iconst (v := 1) dX3_within_22 rfl ?_
    refine wa_isub dX3_within_23 ?_
    refine wa_iconst (v := 2) dX3_within_24 rfl ?_
    refine wa_idiv dX3_within_25 (by decide) ?_
    refine wa_goto (tgt := 37) dX3_within_26 rfl ?_
    exact wa_iret rfl dX3_within_37 F
theorem f_X3_tokens {D : qD} {Q : Option Value → qH → Prop} {X : String → qH → Prop} (t : Nat) (h : qH) (F : p_F h (some t) 2 37 (.int 0) (fun h1 => g_I D h1 (some t) 2 0 (fun x2 => Q (some (.int x2)) h1))) : MW D m_X3_tokens [va_rf (some t)] h Q X := by
  refine mw_of pl_X3_tokens rfl _ (Nat.le_of_ble_eq_true rfl) rfl ?_
  refine (show WA D m_X3_tokens Q X 0 [(0, va_rf (some t))] [] h from ?_)
  refine wa_aload_n (o := (some t)) dX3_tokens_0 rfl 0 rfl ?_
  refine wa_iconst (v := 0) dX3_tokens_1 rfl ?_
  refine wa_put (C := RX3) (T := TX3) (N := 38) (ci := 2) (k := 37) tyX3 dX3_tokens_2 rfl (Nat.le_of_ble_eq_true rfl) in_X3 tyX3_ok nmX3 q1229 q_same_own rfl rfl rfl (p_F_mono F fun h1 F => ?_)
  refine wa_aload_n (o := (some t)) dX3_tokens_5 rfl 0 rfl ?_
  refine wa_getI (C := RX3) (T := TX3) (N := 38) (ci := 2) (k := 0) dX3_tokens_6 rfl (Nat.le_of_ble_eq_true rfl) in_X3 q1192 q_same_own (g_I_mono F fun x2 F => ?_)
  exact wa_iret rfl dX3_tokens_9 F
def L_X3_isFine_14 (D : qD) (Q : Option Value → qH → Prop) (X : String → qH → Prop) (v1 : Int32) (v2 : Int32) (v3 : Int32) (h : qH) : Prop := WA D m_X3_isFine Q X 14 [(1, .int v1), (2, .int v2), (3, .int v3)] [] h
def L_X3_isFine_19 (D : qD) (Q : Option Value → qH → Prop) (X : String → qH → Prop) (v1 : Int32) (v2 : Int32) (v3 : Int32) (s0 : Int32) (h : qH) : Prop := WA D m_X3_isFine Q X 19 [(1, .int v1), (2, .int v2), (3, .int v3)] [.int s0] h
def L_X3_isFine_36 (D : qD) (Q : Option Value → qH → Prop) (X : String → qH → Prop) (v1 : Int32) (v2 : Int32) (s0 : Int64) (s1 : Int64) (s2 : Int64) (h : qH) : Prop := WA D m_X3_isFine Q X 36 [(1, .int v1), (2, .int v2)] [.long s0, .long s1, .long s2] h
def L_X3_isFine_84 (D : qD) (Q : Option Value → qH → Prop) (X : String → qH → Prop) (v2 : Int32) (h : qH) : Prop := WA D m_X3_isFine Q X 84 [(2, .int v2)] [] h
theorem f_X3_isFine {D : qD} {Q : Option Value → qH → Prop} {X : String → qH → Prop} (t : Nat) (p0 : Int32) (p1 : Int32) (p2 : Int32) (h : qH) (F : ((p0 = 0 → L_X3_isFine_14 D Q X p0 p1 p2 h) ∧ (¬ p0 = 0 → ((p0 = 1 → L_X3_isFine_14 D Q X p0 p1 p2 h) ∧ (¬ p0 = 1 → ((¬ p0 = 3 → L_X3_isFine_19 D Q X p0 p1 p2 0 h) ∧ (p0 = 3 → L_X3_isFine_14 D Q X p0 p1 p2 h))))))) : MW D m_X3_isFine [va_rf (some t), .int p0, .int p1, .int p2] h Q X := by
  refine mw_of pl_X3_isFine rfl _ (Nat.le_of_ble_eq_true rfl) rfl ?_
  refine (show WA D m_X3_isFine Q X 0 [(0, va_rf (some t)), (1, .int p0), (2, .int p1), (3, .int p2)] [] h from ?_)
  refine wa_iload_n (x := p0) dX3_isFine_0 rfl 1 rfl ?_
  refine wa_if_eq (tgt := 14) dX3_isFine_1 rfl (fun z => ?_) (fun z => ?_)
  · have F := F.1 z
    exact wa_sub [1, 2, 3] rfl F
  · have F := F.2 z
    refine wa_iload_n (x := p0) dX3_isFine_4 rfl 1 rfl ?_
    refine wa_iconst (v := 1) dX3_isFine_5 rfl ?_
    refine wa_icmp_eq (tgt := 14) dX3_isFine_6 rfl (fun z => ?_) (fun z => ?_)
    · have F := F.1 z
      exact wa_sub [1, 2, 3] rfl F
    · have F := F.2 z
      refine wa_iload_n (x := p0) dX3_isFine_9 rfl 1 rfl ?_
      refine wa_iconst (v := 3) dX3_isFine_10 rfl ?_
      refine wa_icmp_ne (tgt := 18) dX3_isFine_11 rfl (fun z => ?_) (fun z => ?_)
      · have F := F.1 z
        refine wa_iconst (v := 0) dX3_isFine_18 rfl ?_
        exact wa_sub [1, 2, 3] rfl F
      · have F := F.2 z
        exact wa_sub [1, 2, 3] rfl F
theorem f_X3_isFine_14 {D : qD} {Q : Option Value → qH → Prop} {X : String → qH → Prop} (v1 : Int32) (v2 : Int32) (v3 : Int32) (h : qH) (F : L_X3_isFine_19 D Q X v1 v2 v3 1 h) : L_X3_isFine_14 D Q X v1 v2 v3 h := by
  show WA D m_X3_isFine Q X 14 [(1, .int v1), (2, .int v2), (3, .int v3)] [] h
  refine wa_iconst (v := 1) dX3_isFine_14 rfl ?_
  refine wa_goto (tgt := 19) dX3_isFine_15 rfl ?_
  exact F
theorem f_X3_isFine_19 {D : qD} {Q : Option Value → qH → Prop} {X : String → qH → Prop} (v1 : Int32) (v2 : Int32) (v3 : Int32) (s0 : Int32) (h : qH) (F : ((s0 = 0 → L_X3_isFine_36 D Q X v1 v2 0 0 v3.toInt64 h) ∧ (¬ s0 = 0 → L_X3_isFine_36 D Q X v1 v2 5 0 v3.toInt64 h))) : L_X3_isFine_19 D Q X v1 v2 v3 s0 h := by
  show WA D m_X3_isFine Q X 19 [(1, .int v1), (2, .int v2), (3, .int v3)] [.int s0] h
  refine ws_istore (lv' := [(4, .int s0), (1, .int v1), (2, .int v2), (3, .int v3)]) dX3_isFine_19 (Nat.le_of_ble_eq_true rfl) (q_ci (q_ci (q_ci q_cn))) rfl ?_
  refine wa_iload_n (x := v3) dX3_isFine_21 rfl 3 rfl ?_
  refine wa_i2l dX3_isFine_22 ?_
  refine wa_lconst (v := 0) dX3_isFine_23 rfl ?_
  refine wa_iload (x := s0) dX3_isFine_24 0 rfl ?_
  refine wa_if_eq (tgt := 35) dX3_isFine_26 rfl (fun z => ?_) (fun z => ?_)
  · have F := F.1 z
    refine wa_lconst (v := 0) dX3_isFine_35 rfl ?_
    exact wa_sub [1, 2] rfl F
  · have F := F.2 z
    refine wa_ldc2 (v := 5) dX3_isFine_29 q1328 ?_
    refine wa_goto (tgt := 36) dX3_isFine_32 rfl ?_
    exact wa_sub [1, 2] rfl F
theorem f_X3_isFine_36 {D : qD} {Q : Option Value → qH → Prop} {X : String → qH → Prop} (v1 : Int32) (v2 : Int32) (s0 : Int64) (s1 : Int64) (s2 : Int64) (h : qH) (F : c_I D m_X3_in [.long s2, .long s1, .long s0] h X (fun x2 h1 => ((¬ x2 = 0 → ((v1 = 0 → L_X3_isFine_84 D Q X v2 h1) ∧ (v1 = 1 → c_I D m_X3_in [.long v2.toInt64, .long 0, .long 3] h1 X (fun x4 h3 => ((x4 = 0 ∨ x4 = 1) ∧ Q (some (.int x4)) h3))) ∧ (v1 = 2 → ((¬ v2 = 0 → Q (some (.int 0)) h1) ∧ (v2 = 0 → Q (some (.int 1)) h1))) ∧ (v1 = 3 → L_X3_isFine_84 D Q X v2 h1) ∧ (v1 = 4 → L_X3_isFine_84 D Q X v2 h1) ∧ (v1 = 5 → c_I D m_X3_in [.long v2.toInt64, .long 1, .long 4] h1 X (fun x6 h5 => ((x6 = 0 ∨ x6 = 1) ∧ Q (some (.int x6)) h5))) ∧ (¬ v1 = 0 → ¬ v1 = 1 → ¬ v1 = 2 → ¬ v1 = 3 → ¬ v1 = 4 → ¬ v1 = 5 → c_I D m_X3_in [.long v2.toInt64, .long 0, .long 9] h1 X (fun x8 h7 => ((x8 = 0 ∨ x8 = 1) ∧ Q (some (.int x8)) h7))))) ∧ (x2 = 0 → Q (some (.int 0)) h1)))) : L_X3_isFine_36 D Q X v1 v2 s0 s1 s2 h := by
  show WA D m_X3_isFine Q X 36 [(1, .int v1), (2, .int v2)] [.long s0, .long s1, .long s2] h
  refine wa_callS (M' := m_X3_in) (As := [.long s2, .long s1, .long s0]) (st := []) dX3_isFine_36 ⟨Nat.le_of_ble_eq_true rfl, Nat.le_of_ble_eq_true rfl, nk_X3_in⟩ q1316 q1317 q59 q1318 rfl rfl (Nat.zero_le 8) rfl F (wk_I fun x2 h1 F => ?_)
  refine wa_if_ne (tgt := 44) dX3_isFine_39 rfl (fun z => ?_) (fun z => ?_)
  · have F := F.1 z
    refine wa_iload_n (x := v1) dX3_isFine_44 rfl 0 rfl ?_
    by_cases z0 : v1 = 0
    · have F := (F.1 z0)
      refine wa_tableIn (tgt := 84) (off := 39) dX3_isFine_45 (by rw [z0]; decide) (by rw [z0]; decide) (by rw [z0]; rfl) rfl ?_
      exact wa_sub [1] rfl F
    have F := F.2
    by_cases z1 : v1 = 1
    · have F := (F.1 z1)
      refine wa_tableIn (tgt := 94) (off := 49) dX3_isFine_45 (by rw [z1]; decide) (by rw [z1]; decide) (by rw [z1]; rfl) rfl ?_
      refine wa_iload_n (x := v2) dX3_isFine_94 rfl 1 rfl ?_
      refine wa_i2l dX3_isFine_95 ?_
      refine wa_lconst (v := 0) dX3_isFine_96 rfl ?_
      refine wa_ldc2 (v := 3) dX3_isFine_97 q1330 ?_
      refine wa_callS (M' := m_X3_in) (As := [.long v2.toInt64, .long 0, .long 3]) (st := []) dX3_isFine_100 ⟨Nat.le_of_ble_eq_true rfl, Nat.le_of_ble_eq_true rfl, nk_X3_in⟩ q1316 q1317 q59 q1318 rfl rfl (Nat.zero_le 8) rfl F (wk_I fun x4 h3 F => ?_)
      exact wa_zret rfl (q_nar_z F.1) dX3_isFine_103 F.2
    have F := F.2
    by_cases z2 : v1 = 2
    · have F := (F.1 z2)
      refine wa_tableIn (tgt := 104) (off := 59) dX3_isFine_45 (by rw [z2]; decide) (by rw [z2]; decide) (by rw [z2]; rfl) rfl ?_
      refine wa_iload_n (x := v2) dX3_isFine_104 rfl 1 rfl ?_
      refine wa_if_ne (tgt := 112) dX3_isFine_105 rfl (fun z => ?_) (fun z => ?_)
      · have F := F.1 z
        refine wa_iconst (v := 0) dX3_isFine_112 rfl ?_
        exact wa_zret rfl rfl dX3_isFine_113 F
      · have F := F.2 z
        refine wa_iconst (v := 1) dX3_isFine_108 rfl ?_
        refine wa_goto (tgt := 113) dX3_isFine_109 rfl ?_
        exact wa_zret rfl rfl dX3_isFine_113 F
    have F := F.2
    by_cases z3 : v1 = 3
    · have F := (F.1 z3)
      refine wa_tableIn (tgt := 84) (off := 39) dX3_isFine_45 (by rw [z3]; decide) (by rw [z3]; decide) (by rw [z3]; rfl) rfl ?_
      exact wa_sub [1] rfl F
    have F := F.2
    by_cases z4 : v1 = 4
    · have F := (F.1 z4)
      refine wa_tableIn (tgt := 84) (off := 39) dX3_isFine_45 (by rw [z4]; decide) (by rw [z4]; decide) (by rw [z4]; rfl) rfl ?_
      exact wa_sub [1] rfl F
    have F := F.2
    by_cases z5 : v1 = 5
    · have F := (F.1 z5)
      refine wa_tableIn (tgt := 114) (off := 69) dX3_isFine_45 (by rw [z5]; decide) (by rw [z5]; decide) (by rw [z5]; rfl) rfl ?_
      refine wa_iload_n (x := v2) dX3_isFine_114 rfl 1 rfl ?_
      refine wa_i2l dX3_isFine_115 ?_
      refine wa_lconst (v := 1) dX3_isFine_116 rfl ?_
      refine wa_ldc2 (v := 4) dX3_isFine_117 q1331 ?_
      refine wa_callS (M' := m_X3_in) (As := [.long v2.toInt64, .long 1, .long 4]) (st := []) dX3_isFine_120 ⟨Nat.le_of_ble_eq_true rfl, Nat.le_of_ble_eq_true rfl, nk_X3_in⟩ q1316 q1317 q59 q1318 rfl rfl (Nat.zero_le 8) rfl F (wk_I fun x6 h5 F => ?_)
      exact wa_zret rfl (q_nar_z F.1) dX3_isFine_123 F.2
    have F := F.2
    have F := F z0 z1 z2 z3 z4 z5
    refine wa_tableOut (tgt := 124) dX3_isFine_45 (q_out_0_6 (lv_neT z0 rfl) (lv_neT z1 rfl) (lv_neT z2 rfl) (lv_neT z3 rfl) (lv_neT z4 rfl) (lv_neT z5 rfl)) rfl ?_
    refine wa_iload_n (x := v2) dX3_isFine_124 rfl 1 rfl ?_
    refine wa_i2l dX3_isFine_125 ?_
    refine wa_lconst (v := 0) dX3_isFine_126 rfl ?_
    refine wa_ldc2 (v := 9) dX3_isFine_127 q1329 ?_
    refine wa_callS (M' := m_X3_in) (As := [.long v2.toInt64, .long 0, .long 9]) (st := []) dX3_isFine_130 ⟨Nat.le_of_ble_eq_true rfl, Nat.le_of_ble_eq_true rfl, nk_X3_in⟩ q1316 q1317 q59 q1318 rfl rfl (Nat.zero_le 8) rfl F (wk_I fun x8 h7 F => ?_)
    exact wa_zret rfl (q_nar_z F.1) dX3_isFine_133 F.2
  · have F := F.2 z
    refine wa_iconst (v := 0) dX3_isFine_42 rfl ?_
    exact wa_zret rfl rfl dX3_isFine_43 F
theorem f_X3_isFine_84 {D : qD} {Q : Option Value → qH → Prop} {X : String → qH → Prop} (v2 : Int32) (h : qH) (F : c_I D m_X3_in [.long v2.toInt64, .long 1, .long 9] h X (fun x2 h1 => ((x2 = 0 ∨ x2 = 1) ∧ Q (some (.int x2)) h1))) : L_X3_isFine_84 D Q X v2 h := by
  show WA D m_X3_isFine Q X 84 [(2, .int v2)] [] h
  refine wa_iload_n (x := v2) dX3_isFine_84 rfl 0 rfl ?_
  refine wa_i2l dX3_isFine_85 ?_
  refine wa_lconst (v := 1) dX3_isFine_86 rfl ?_
  refine wa_ldc2 (v := 9) dX3_isFine_87 q1329 ?_
  refine wa_callS (M' := m_X3_in) (As := [.long v2.toInt64, .long 1, .long 9]) (st := []) dX3_isFine_90 ⟨Nat.le_of_ble_eq_true rfl, Nat.le_of_ble_eq_true rfl, nk_X3_in⟩ q1316 q1317 q59 q1318 rfl rfl (Nat.zero_le 8) rfl F (wk_I fun x2 h1 F => ?_)
  exact wa_zret rfl (q_nar_z F.1) dX3_isFine_93 F.2
def L_X3_take_39 (D : qD) (Q : Option Value → qH → Prop) (X : String → qH → Prop) (t : Nat) (v2 : Int32) (h : qH) : Prop := WA D m_X3_take Q X 39 [(0, va_rf (some t)), (2, .int v2)] [] h
theorem f_X3_take {D : qD} {Q : Option Value → qH → Prop} {X : String → qH → Prop} (t : Nat) (p0 : Int32) (h : qH) (F : g_I D h (some t) 2 0 (fun x1 => c_I D m_X3_in [.long p0.toInt64, .long 0, .long (x1 - 1).toInt64] h X (fun x3 h2 => ((¬ x3 = 0 → p_F h2 (some t) 2 37 (.int 0) (fun h4 => g_I D h4 (some t) 2 0 (fun x5 => p_F h4 (some t) 2 0 (.int (x5 - 1)) (fun h6 => L_X3_take_39 D Q X t p0 h6)))) ∧ (x3 = 0 → (recv D h2 (some t) RX3 ∧ c_I D m_X3_fails [va_rf (some t), .int 1] h2 X (fun x8 h7 => Q (some (.int x8)) h7))))))) : MW D m_X3_take [va_rf (some t), .int p0] h Q X := by
  refine mw_of pl_X3_take rfl _ (Nat.le_of_ble_eq_true rfl) rfl ?_
  refine (show WA D m_X3_take Q X 0 [(0, va_rf (some t)), (1, .int p0)] [] h from ?_)
  refine wa_iload_n (x := p0) dX3_take_0 rfl 1 rfl ?_
  refine wa_i2l dX3_take_1 ?_
  refine wa_lconst (v := 0) dX3_take_2 rfl ?_
  refine wa_aload_n (o := (some t)) dX3_take_3 rfl 0 rfl ?_
  refine wa_getI (C := RX3) (T := TX3) (N := 38) (ci := 2) (k := 0) dX3_take_4 rfl (Nat.le_of_ble_eq_true rfl) in_X3 q1192 q_same_own (g_I_mono F fun x1 F => ?_)
  refine wa_iconst (v := 1) dX3_take_7 rfl ?_
  refine wa_isub dX3_take_8 ?_
  refine wa_i2l dX3_take_9 ?_
  refine wa_callS (M' := m_X3_in) (As := [.long p0.toInt64, .long 0, .long (x1 - 1).toInt64]) (st := []) dX3_take_10 ⟨Nat.le_of_ble_eq_true rfl, Nat.le_of_ble_eq_true rfl, nk_X3_in⟩ q1316 q1317 q59 q1318 rfl rfl (Nat.zero_le 8) rfl F (wk_I fun x3 h2 F => ?_)
  refine wa_if_ne (tgt := 22) dX3_take_13 rfl (fun z => ?_) (fun z => ?_)
  · have F := F.1 z
    refine wa_aload_n (o := (some t)) dX3_take_22 rfl 0 rfl ?_
    refine wa_iconst (v := 0) dX3_take_23 rfl ?_
    refine wa_put (C := RX3) (T := TX3) (N := 38) (ci := 2) (k := 37) tyX3 dX3_take_24 rfl (Nat.le_of_ble_eq_true rfl) in_X3 tyX3_ok nmX3 q1229 q_same_own rfl rfl rfl (p_F_mono F fun h4 F => ?_)
    refine wa_aload_n (o := (some t)) dX3_take_27 rfl 0 rfl ?_
    refine wa_dup dX3_take_28 (q_cat _) ?_
    refine wa_getI (C := RX3) (T := TX3) (N := 38) (ci := 2) (k := 0) dX3_take_29 rfl (Nat.le_of_ble_eq_true rfl) in_X3 q1192 q_same_own (g_I_mono F fun x5 F => ?_)
    refine wa_iconst (v := 1) dX3_take_32 rfl ?_
    refine wa_isub dX3_take_33 ?_
    refine wa_put (C := RX3) (T := TX3) (N := 38) (ci := 2) (k := 0) tyX3 dX3_take_34 rfl (Nat.le_of_ble_eq_true rfl) in_X3 tyX3_ok nmX3 q1192 q_same_own rfl rfl rfl (p_F_mono F fun h6 F => ?_)
    refine wa_iload_n (x := p0) dX3_take_37 rfl 1 rfl ?_
    refine ws_istore_n (lv' := [(2, .int p0), (0, va_rf (some t)), (1, .int p0)]) dX3_take_38 rfl (Nat.le_of_ble_eq_true rfl) (q_cr (q_ci q_cn)) rfl ?_
    exact wa_sub [1, 0] rfl F
  · have F := F.2 z
    refine wa_aload_n (o := (some t)) dX3_take_16 rfl 0 rfl ?_
    refine wa_iconst (v := 1) dX3_take_17 rfl ?_
    refine wa_callV (M' := m_X3_fails) (C := RX3) (o := (some t)) (As := [.int 1]) (st := []) dX3_take_18 ⟨Nat.le_of_ble_eq_true rfl, Nat.le_of_ble_eq_true rfl, nk_X3_fails⟩ q1319 q1321 qs23 q59 q1322 rfl rfl (Nat.zero_le 8) rfl F.1 F.2 (wk_I fun x8 h7 F => ?_)
    exact wa_iret rfl dX3_take_21 F
theorem f_X3_take_39 {D : qD} {Q : Option Value → qH → Prop} {X : String → qH → Prop} (t : Nat) (v2 : Int32) (h : qH) (F : g_I D h (some t) 2 0 (fun x1 => ((x1 ≤ v2 → g_I D h (some t) 2 0 (fun x2 => Q (some (.int x2)) h)) ∧ (¬ x1 ≤ v2 → g_R D h (some t) 2 1 (fun r3 => g_R D h (some t) 2 1 (fun r4 => a_I D h r4 0 (v2 + 1) (fun x5 => s_I h r3 0 v2 x5 (fun h6 => g_R D h6 (some t) 2 2 (fun r7 => g_R D h6 (some t) 2 2 (fun r8 => a_I D h6 r8 0 (v2 + 1) (fun x9 => s_I h6 r7 0 v2 x9 (fun h10 => g_R D h10 (some t) 2 3 (fun r11 => g_R D h10 (some t) 2 3 (fun r12 => a_I D h10 r12 0 (v2 + 1) (fun x13 => s_I h10 r11 0 v2 x13 (fun h14 => L_X3_take_39 D Q X t (v2 + 1) h14)))))))))))))))) : L_X3_take_39 D Q X t v2 h := by
  show WA D m_X3_take Q X 39 [(0, va_rf (some t)), (2, .int v2)] [] h
  refine wa_iload_n (x := v2) dX3_take_39 rfl 1 rfl ?_
  refine wa_aload_n (o := (some t)) dX3_take_40 rfl 0 rfl ?_
  refine wa_getI (C := RX3) (T := TX3) (N := 38) (ci := 2) (k := 0) dX3_take_41 rfl (Nat.le_of_ble_eq_true rfl) in_X3 q1192 q_same_own (g_I_mono F fun x1 F => ?_)
  refine wa_icmp_ge (tgt := 95) dX3_take_44 rfl (fun z => ?_) (fun z => ?_)
  · have F := F.1 z
    refine wa_aload_n (o := (some t)) dX3_take_95 rfl 0 rfl ?_
    refine wa_getI (C := RX3) (T := TX3) (N := 38) (ci := 2) (k := 0) dX3_take_96 rfl (Nat.le_of_ble_eq_true rfl) in_X3 q1192 q_same_own (g_I_mono F fun x2 F => ?_)
    exact wa_iret rfl dX3_take_99 F
  · have F := F.2 z
    refine wa_aload_n (o := (some t)) dX3_take_47 rfl 0 rfl ?_
    refine wa_getR (C := RX3) (T := TX3) (N := 38) (ci := 2) (k := 1) dX3_take_48 rfl (Nat.le_of_ble_eq_true rfl) in_X3 q1193 q_same_own (g_R_mono F fun r3 F => ?_)
    refine wa_iload_n (x := v2) dX3_take_51 rfl 1 rfl ?_
    refine wa_aload_n (o := (some t)) dX3_take_52 rfl 0 rfl ?_
    refine wa_getR (C := RX3) (T := TX3) (N := 38) (ci := 2) (k := 1) dX3_take_53 rfl (Nat.le_of_ble_eq_true rfl) in_X3 q1193 q_same_own (g_R_mono F fun r4 F => ?_)
    refine wa_iload_n (x := v2) dX3_take_56 rfl 1 rfl ?_
    refine wa_iconst (v := 1) dX3_take_57 rfl ?_
    refine wa_iadd dX3_take_58 ?_
    refine wa_iald dX3_take_59 (a_I_mono F fun x5 F => ?_)
    refine wa_iast dX3_take_60 (s_I_mono F fun h6 F => ?_)
    refine wa_aload_n (o := (some t)) dX3_take_61 rfl 0 rfl ?_
    refine wa_getR (C := RX3) (T := TX3) (N := 38) (ci := 2) (k := 2) dX3_take_62 rfl (Nat.le_of_ble_eq_true rfl) in_X3 q1194 q_same_own (g_R_mono F fun r7 F => ?_)
    refine wa_iload_n (x := v2) dX3_take_65 rfl 1 rfl ?_
    refine wa_aload_n (o := (some t)) dX3_take_66 rfl 0 rfl ?_
    refine wa_getR (C := RX3) (T := TX3) (N := 38) (ci := 2) (k := 2) dX3_take_67 rfl (Nat.le_of_ble_eq_true rfl) in_X3 q1194 q_same_own (g_R_mono F fun r8 F => ?_)
    refine wa_iload_n (x := v2) dX3_take_70 rfl 1 rfl ?_
    refine wa_iconst (v := 1) dX3_take_71 rfl ?_
    refine wa_iadd dX3_take_72 ?_
    refine wa_iald dX3_take_73 (a_I_mono F fun x9 F => ?_)
    refine wa_iast dX3_take_74 (s_I_mono F fun h10 F => ?_)
    refine wa_aload_n (o := (some t)) dX3_take_75 rfl 0 rfl ?_
    refine wa_getR (C := RX3) (T := TX3) (N := 38) (ci := 2) (k := 3) dX3_take_76 rfl (Nat.le_of_ble_eq_true rfl) in_X3 q1195 q_same_own (g_R_mono F fun r11 F => ?_)
    refine wa_iload_n (x := v2) dX3_take_79 rfl 1 rfl ?_
    refine wa_aload_n (o := (some t)) dX3_take_80 rfl 0 rfl ?_
    refine wa_getR (C := RX3) (T := TX3) (N := 38) (ci := 2) (k := 3) dX3_take_81 rfl (Nat.le_of_ble_eq_true rfl) in_X3 q1195 q_same_own (g_R_mono F fun r12 F => ?_)
    refine wa_iload_n (x := v2) dX3_take_84 rfl 1 rfl ?_
    refine wa_iconst (v := 1) dX3_take_85 rfl ?_
    refine wa_iadd dX3_take_86 ?_
    refine wa_iald dX3_take_87 (a_I_mono F fun x13 F => ?_)
    refine wa_iast dX3_take_88 (s_I_mono F fun h14 F => ?_)
    refine ws_iinc (j := 1) (v := (v2 + 1)) (lv' := [(2, .int (v2 + 1)), (0, va_rf (some t))]) dX3_take_89 rfl rfl (Nat.le_of_ble_eq_true rfl) (q_cr (q_ci q_cn)) rfl ?_
    refine wa_goto (tgt := 39) dX3_take_92 rfl ?_
    exact wa_sub [1, 0] rfl F
def L_X3_style_26 (D : qD) (Q : Option Value → qH → Prop) (X : String → qH → Prop) (t : Nat) (h : qH) : Prop := WA D m_X3_style Q X 26 [(0, va_rf (some t))] [] h
def L_X3_style_61 (D : qD) (Q : Option Value → qH → Prop) (X : String → qH → Prop) (t : Nat) (h : qH) : Prop := WA D m_X3_style Q X 61 [(0, va_rf (some t))] [] h
def L_X3_style_70 (D : qD) (Q : Option Value → qH → Prop) (X : String → qH → Prop) (t : Nat) (v1 : Int32) (v2 : Int32) (v3 : Int32) (v4 : Int32) (v5 : Int32) (h : qH) : Prop := WA D m_X3_style Q X 70 [(0, va_rf (some t)), (1, .int v1), (2, .int v2), (3, .int v3), (4, .int v4), (5, .int v5)] [] h
def L_X3_style_94 (D : qD) (Q : Option Value → qH → Prop) (X : String → qH → Prop) (t : Nat) (v1 : Int32) (v2 : Int32) (v3 : Int32) (v4 : Int32) (v5 : Int32) (h : qH) : Prop := WA D m_X3_style Q X 94 [(0, va_rf (some t)), (1, .int v1), (2, .int v2), (3, .int v3), (4, .int v4), (5, .int v5)] [] h
theorem f_X3_style {D : qD} {Q : Option Value → qH → Prop} {X : String → qH → Prop} (t : Nat) (p0 : Int32) (p1 : Int32) (p2 : Int32) (p3 : Int32) (h : qH) (F : c_I D m_X3_in [.long p0.toInt64, .long 0, .long 5] h X (fun x2 h1 => ((x2 = 0 → L_X3_style_26 D Q X t h1) ∧ (¬ x2 = 0 → c_I D m_X3_in [.long p1.toInt64, .long (-1), .long 5] h1 X (fun x4 h3 => ((¬ x4 = 0 → c_I D m_X3_in [.long p2.toInt64, .long (-1), .long 3] h3 X (fun x6 h5 => ((x6 = 0 → L_X3_style_61 D Q X t h5) ∧ (¬ x6 = 0 → c_I D m_X3_in [.long p3.toInt64, .long (-1), .long 3] h5 X (fun x8 h7 => ((¬ x8 = 0 → L_X3_style_70 D Q X t p0 p1 p2 p3 p1 h7) ∧ (x8 = 0 → L_X3_style_61 D Q X t h7))))))) ∧ (x4 = 0 → L_X3_style_26 D Q X t h3))))))) : MW D m_X3_style [va_rf (some t), .int p0, .int p1, .int p2, .int p3] h Q X := by
  refine mw_of pl_X3_style rfl _ (Nat.le_of_ble_eq_true rfl) rfl ?_
  refine (show WA D m_X3_style Q X 0 [(0, va_rf (some t)), (1, .int p0), (2, .int p1), (3, .int p2), (4, .int p3)] [] h from ?_)
  refine wa_iload_n (x := p0) dX3_style_0 rfl 1 rfl ?_
  refine wa_i2l dX3_style_1 ?_
  refine wa_lconst (v := 0) dX3_style_2 rfl ?_
  refine wa_ldc2 (v := 5) dX3_style_3 q1328 ?_
  refine wa_callS (M' := m_X3_in) (As := [.long p0.toInt64, .long 0, .long 5]) (st := []) dX3_style_6 ⟨Nat.le_of_ble_eq_true rfl, Nat.le_of_ble_eq_true rfl, nk_X3_in⟩ q1316 q1317 q59 q1318 rfl rfl (Nat.zero_le 8) rfl F (wk_I fun x2 h1 F => ?_)
  refine wa_if_eq (tgt := 26) dX3_style_9 rfl (fun z => ?_) (fun z => ?_)
  · have F := F.1 z
    exact wa_sub [0] rfl F
  · have F := F.2 z
    refine wa_iload_n (x := p1) dX3_style_12 rfl 2 rfl ?_
    refine wa_i2l dX3_style_13 ?_
    refine wa_ldc2 (v := -1) dX3_style_14 q1340 ?_
    refine wa_ldc2 (v := 5) dX3_style_17 q1328 ?_
    refine wa_callS (M' := m_X3_in) (As := [.long p1.toInt64, .long (-1), .long 5]) (st := []) dX3_style_20 ⟨Nat.le_of_ble_eq_true rfl, Nat.le_of_ble_eq_true rfl, nk_X3_in⟩ q1316 q1317 q59 q1318 rfl rfl (Nat.zero_le 8) rfl F (wk_I fun x4 h3 F => ?_)
    refine wa_if_ne (tgt := 32) dX3_style_23 rfl (fun z => ?_) (fun z => ?_)
    · have F := F.1 z
      refine wa_iload_n (x := p2) dX3_style_32 rfl 3 rfl ?_
      refine wa_i2l dX3_style_33 ?_
      refine wa_ldc2 (v := -1) dX3_style_34 q1340 ?_
      refine wa_ldc2 (v := 3) dX3_style_37 q1330 ?_
      refine wa_callS (M' := m_X3_in) (As := [.long p2.toInt64, .long (-1), .long 3]) (st := []) dX3_style_40 ⟨Nat.le_of_ble_eq_true rfl, Nat.le_of_ble_eq_true rfl, nk_X3_in⟩ q1316 q1317 q59 q1318 rfl rfl (Nat.zero_le 8) rfl F (wk_I fun x6 h5 F => ?_)
      refine wa_if_eq (tgt := 61) dX3_style_43 rfl (fun z => ?_) (fun z => ?_)
      · have F := F.1 z
        exact wa_sub [0] rfl F
      · have F := F.2 z
        refine wa_iload (x := p3) dX3_style_46 4 rfl ?_
        refine wa_i2l dX3_style_48 ?_
        refine wa_ldc2 (v := -1) dX3_style_49 q1340 ?_
        refine wa_ldc2 (v := 3) dX3_style_52 q1330 ?_
        refine wa_callS (M' := m_X3_in) (As := [.long p3.toInt64, .long (-1), .long 3]) (st := []) dX3_style_55 ⟨Nat.le_of_ble_eq_true rfl, Nat.le_of_ble_eq_true rfl, nk_X3_in⟩ q1316 q1317 q59 q1318 rfl rfl (Nat.zero_le 8) rfl F (wk_I fun x8 h7 F => ?_)
        refine wa_if_ne (tgt := 67) dX3_style_58 rfl (fun z => ?_) (fun z => ?_)
        · have F := F.1 z
          refine wa_iload_n (x := p1) dX3_style_67 rfl 2 rfl ?_
          refine ws_istore (lv' := [(5, .int p1), (0, va_rf (some t)), (1, .int p0), (2, .int p1), (3, .int p2), (4, .int p3)]) dX3_style_68 (Nat.le_of_ble_eq_true rfl) (q_cr (q_ci (q_ci (q_ci (q_ci q_cn))))) rfl ?_
          exact wa_sub [1, 2, 3, 4, 5, 0] rfl F
        · have F := F.2 z
          exact wa_sub [0] rfl F
    · have F := F.2 z
      exact wa_sub [0] rfl F
theorem f_X3_style_26 {D : qD} {Q : Option Value → qH → Prop} {X : String → qH → Prop} (t : Nat) (h : qH) (F : p_F h (some t) 2 37 (.int 1) (fun h1 => Q none h1)) : L_X3_style_26 D Q X t h := by
  show WA D m_X3_style Q X 26 [(0, va_rf (some t))] [] h
  refine wa_aload_n (o := (some t)) dX3_style_26 rfl 0 rfl ?_
  refine wa_iconst (v := 1) dX3_style_27 rfl ?_
  refine wa_put (C := RX3) (T := TX3) (N := 38) (ci := 2) (k := 37) tyX3 dX3_style_28 rfl (Nat.le_of_ble_eq_true rfl) in_X3 tyX3_ok nmX3 q1229 q_same_own rfl rfl rfl (p_F_mono F fun h1 F => ?_)
  exact wa_vret rfl dX3_style_31 F
theorem f_X3_style_61 {D : qD} {Q : Option Value → qH → Prop} {X : String → qH → Prop} (t : Nat) (h : qH) (F : p_F h (some t) 2 37 (.int 2) (fun h1 => Q none h1)) : L_X3_style_61 D Q X t h := by
  show WA D m_X3_style Q X 61 [(0, va_rf (some t))] [] h
  refine wa_aload_n (o := (some t)) dX3_style_61 rfl 0 rfl ?_
  refine wa_iconst (v := 2) dX3_style_62 rfl ?_
  refine wa_put (C := RX3) (T := TX3) (N := 38) (ci := 2) (k := 37) tyX3 dX3_style_63 rfl (Nat.le_of_ble_eq_true rfl) in_X3 tyX3_ok nmX3 q1229 q_same_own rfl rfl rfl (p_F_mono F fun h1 F => ?_)
  exact wa_vret rfl dX3_style_66 F
theorem f_X3_style_70 {D : qD} {Q : Option Value → qH → Prop} {X : String → qH → Prop} (t : Nat) (v1 : Int32) (v2 : Int32) (v3 : Int32) (v4 : Int32) (v5 : Int32) (h : qH) (F : ((v5 = (-1) → L_X3_style_94 D Q X t v1 v2 v3 v4 v5 h) ∧ (¬ v5 = (-1) → ((v5 = v1 → L_X3_style_94 D Q X t v1 v2 v3 v4 v5 h) ∧ (¬ v5 = v1 → g_R D h (some t) 2 4 (fun r1 => a_I D h r1 0 v5 (fun x2 => L_X3_style_70 D Q X t v1 v2 v3 v4 x2 h))))))) : L_X3_style_70 D Q X t v1 v2 v3 v4 v5 h := by
  show WA D m_X3_style Q X 70 [(0, va_rf (some t)), (1, .int v1), (2, .int v2), (3, .int v3), (4, .int v4), (5, .int v5)] [] h
  refine wa_iload (x := v5) dX3_style_70 5 rfl ?_
  refine wa_iconst (v := -1) dX3_style_72 rfl ?_
  refine wa_icmp_eq (tgt := 94) dX3_style_73 rfl (fun z => ?_) (fun z => ?_)
  · have F := F.1 z
    exact F
  · have F := F.2 z
    refine wa_iload (x := v5) dX3_style_76 5 rfl ?_
    refine wa_iload_n (x := v1) dX3_style_78 rfl 1 rfl ?_
    refine wa_icmp_eq (tgt := 94) dX3_style_79 rfl (fun z => ?_) (fun z => ?_)
    · have F := F.1 z
      exact F
    · have F := F.2 z
      refine wa_aload_n (o := (some t)) dX3_style_82 rfl 0 rfl ?_
      refine wa_getR (C := RX3) (T := TX3) (N := 38) (ci := 2) (k := 4) dX3_style_83 rfl (Nat.le_of_ble_eq_true rfl) in_X3 q1196 q_same_own (g_R_mono F fun r1 F => ?_)
      refine wa_iload (x := v5) dX3_style_86 5 rfl ?_
      refine wa_iald dX3_style_88 (a_I_mono F fun x2 F => ?_)
      refine ws_istore (lv' := [(5, .int x2), (0, va_rf (some t)), (1, .int v1), (2, .int v2), (3, .int v3), (4, .int v4)]) dX3_style_89 (Nat.le_of_ble_eq_true rfl) (q_cr (q_ci (q_ci (q_ci (q_ci (q_ci q_cn)))))) rfl ?_
      refine wa_goto (tgt := 70) dX3_style_91 rfl ?_
      exact wa_sub [1, 2, 3, 4, 5, 0] rfl F
theorem f_X3_style_94 {D : qD} {Q : Option Value → qH → Prop} {X : String → qH → Prop} (t : Nat) (v1 : Int32) (v2 : Int32) (v3 : Int32) (v4 : Int32) (v5 : Int32) (h : qH) (F : ((v5 = (-1) → p_F h (some t) 2 37 (.int 0) (fun h1 => g_R D h1 (some t) 2 4 (fun r2 => s_I h1 r2 0 v1 v2 (fun h3 => g_R D h3 (some t) 2 5 (fun r4 => s_I h3 r4 0 v1 v3 (fun h5 => g_R D h5 (some t) 2 6 (fun r6 => s_I h5 r6 0 v1 v4 (fun h7 => Q none h7)))))))) ∧ (¬ v5 = (-1) → p_F h (some t) 2 37 (.int 3) (fun h8 => Q none h8)))) : L_X3_style_94 D Q X t v1 v2 v3 v4 v5 h := by
  show WA D m_X3_style Q X 94 [(0, va_rf (some t)), (1, .int v1), (2, .int v2), (3, .int v3), (4, .int v4), (5, .int v5)] [] h
  refine wa_iload (x := v5) dX3_style_94 5 rfl ?_
  refine wa_iconst (v := -1) dX3_style_96 rfl ?_
  refine wa_icmp_eq (tgt := 106) dX3_style_97 rfl (fun z => ?_) (fun z => ?_)
  · have F := F.1 z
    refine wa_aload_n (o := (some t)) dX3_style_106 rfl 0 rfl ?_
    refine wa_iconst (v := 0) dX3_style_107 rfl ?_
    refine wa_put (C := RX3) (T := TX3) (N := 38) (ci := 2) (k := 37) tyX3 dX3_style_108 rfl (Nat.le_of_ble_eq_true rfl) in_X3 tyX3_ok nmX3 q1229 q_same_own rfl rfl rfl (p_F_mono F fun h1 F => ?_)
    refine wa_aload_n (o := (some t)) dX3_style_111 rfl 0 rfl ?_
    refine wa_getR (C := RX3) (T := TX3) (N := 38) (ci := 2) (k := 4) dX3_style_112 rfl (Nat.le_of_ble_eq_true rfl) in_X3 q1196 q_same_own (g_R_mono F fun r2 F => ?_)
    refine wa_iload_n (x := v1) dX3_style_115 rfl 1 rfl ?_
    refine wa_iload_n (x := v2) dX3_style_116 rfl 2 rfl ?_
    refine wa_iast dX3_style_117 (s_I_mono F fun h3 F => ?_)
    refine wa_aload_n (o := (some t)) dX3_style_118 rfl 0 rfl ?_
    refine wa_getR (C := RX3) (T := TX3) (N := 38) (ci := 2) (k := 5) dX3_style_119 rfl (Nat.le_of_ble_eq_true rfl) in_X3 q1197 q_same_own (g_R_mono F fun r4 F => ?_)
    refine wa_iload_n (x := v1) dX3_style_122 rfl 1 rfl ?_
    refine wa_iload_n (x := v3) dX3_style_123 rfl 3 rfl ?_
    refine wa_iast dX3_style_124 (s_I_mono F fun h5 F => ?_)
    refine wa_aload_n (o := (some t)) dX3_style_125 rfl 0 rfl ?_
    refine wa_getR (C := RX3) (T := TX3) (N := 38) (ci := 2) (k := 6) dX3_style_126 rfl (Nat.le_of_ble_eq_true rfl) in_X3 q1198 q_same_own (g_R_mono F fun r6 F => ?_)
    refine wa_iload_n (x := v1) dX3_style_129 rfl 1 rfl ?_
    refine wa_iload (x := v4) dX3_style_130 4 rfl ?_
    refine wa_iast dX3_style_132 (s_I_mono F fun h7 F => ?_)
    exact wa_vret rfl dX3_style_133 F
  · have F := F.2 z
    refine wa_aload_n (o := (some t)) dX3_style_100 rfl 0 rfl ?_
    refine wa_iconst (v := 3) dX3_style_101 rfl ?_
    refine wa_put (C := RX3) (T := TX3) (N := 38) (ci := 2) (k := 37) tyX3 dX3_style_102 rfl (Nat.le_of_ble_eq_true rfl) in_X3 tyX3_ok nmX3 q1229 q_same_own rfl rfl rfl (p_F_mono F fun h8 F => ?_)
    exact wa_vret rfl dX3_style_105 F
def L_X3_data_24 (D : qD) (Q : Option Value → qH → Prop) (X : String → qH → Prop) (t : Nat) (h : qH) : Prop := WA D m_X3_data Q X 24 [(0, va_rf (some t))] [] h
theorem f_X3_data {D : qD} {Q : Option Value → qH → Prop} {X : String → qH → Prop} (t : Nat) (p0 : Int32) (p1 : Int32) (p2 : Int32) (h : qH) (F : c_I D m_X3_in [.long p0.toInt64, .long 0, .long 3] h X (fun x2 h1 => ((x2 = 0 → L_X3_data_24 D Q X t h1) ∧ (¬ x2 = 0 → c_I D m_X3_in [.long p1.toInt64, .long 0, .long 3] h1 X (fun x4 h3 => ((¬ x4 = 0 → c_I D m_X3_in [.long p2.toInt64, .long 0, .long 9] h3 X (fun x6 h5 => ((¬ x6 = 0 → p_F h5 (some t) 2 37 (.int 0) (fun h7 => g_R D h7 (some t) 2 7 (fun r8 => a_I D h7 r8 0 ((4 * p0) + p1) (fun x9 => g_R D h7 (some t) 2 7 (fun r10 => s_I h7 r10 0 ((4 * p0) + p1) p2 (fun h11 => Q (some (.int x9)) h11)))))) ∧ (x6 = 0 → (recv D h5 (some t) RX3 ∧ c_I D m_X3_fails [va_rf (some t), .int 2] h5 X (fun x13 h12 => Q (some (.int x13)) h12)))))) ∧ (x4 = 0 → L_X3_data_24 D Q X t h3))))))) : MW D m_X3_data [va_rf (some t), .int p0, .int p1, .int p2] h Q X := by
  refine mw_of pl_X3_data rfl _ (Nat.le_of_ble_eq_true rfl) rfl ?_
  refine (show WA D m_X3_data Q X 0 [(0, va_rf (some t)), (1, .int p0), (2, .int p1), (3, .int p2)] [] h from ?_)
  refine wa_iload_n (x := p0) dX3_data_0 rfl 1 rfl ?_
  refine wa_i2l dX3_data_1 ?_
  refine wa_lconst (v := 0) dX3_data_2 rfl ?_
  refine wa_ldc2 (v := 3) dX3_data_3 q1330 ?_
  refine wa_callS (M' := m_X3_in) (As := [.long p0.toInt64, .long 0, .long 3]) (st := []) dX3_data_6 ⟨Nat.le_of_ble_eq_true rfl, Nat.le_of_ble_eq_true rfl, nk_X3_in⟩ q1316 q1317 q59 q1318 rfl rfl (Nat.zero_le 8) rfl F (wk_I fun x2 h1 F => ?_)
  refine wa_if_eq (tgt := 24) dX3_data_9 rfl (fun z => ?_) (fun z => ?_)
  · have F := F.1 z
    exact wa_sub [0] rfl F
  · have F := F.2 z
    refine wa_iload_n (x := p1) dX3_data_12 rfl 2 rfl ?_
    refine wa_i2l dX3_data_13 ?_
    refine wa_lconst (v := 0) dX3_data_14 rfl ?_
    refine wa_ldc2 (v := 3) dX3_data_15 q1330 ?_
    refine wa_callS (M' := m_X3_in) (As := [.long p1.toInt64, .long 0, .long 3]) (st := []) dX3_data_18 ⟨Nat.le_of_ble_eq_true rfl, Nat.le_of_ble_eq_true rfl, nk_X3_in⟩ q1316 q1317 q59 q1318 rfl rfl (Nat.zero_le 8) rfl F (wk_I fun x4 h3 F => ?_)
    refine wa_if_ne (tgt := 30) dX3_data_21 rfl (fun z => ?_) (fun z => ?_)
    · have F := F.1 z
      refine wa_iload_n (x := p2) dX3_data_30 rfl 3 rfl ?_
      refine wa_i2l dX3_data_31 ?_
      refine wa_lconst (v := 0) dX3_data_32 rfl ?_
      refine wa_ldc2 (v := 9) dX3_data_33 q1329 ?_
      refine wa_callS (M' := m_X3_in) (As := [.long p2.toInt64, .long 0, .long 9]) (st := []) dX3_data_36 ⟨Nat.le_of_ble_eq_true rfl, Nat.le_of_ble_eq_true rfl, nk_X3_in⟩ q1316 q1317 q59 q1318 rfl rfl (Nat.zero_le 8) rfl F (wk_I fun x6 h5 F => ?_)
      refine wa_if_ne (tgt := 48) dX3_data_39 rfl (fun z => ?_) (fun z => ?_)
      · have F := F.1 z
        refine wa_aload_n (o := (some t)) dX3_data_48 rfl 0 rfl ?_
        refine wa_iconst (v := 0) dX3_data_49 rfl ?_
        refine wa_put (C := RX3) (T := TX3) (N := 38) (ci := 2) (k := 37) tyX3 dX3_data_50 rfl (Nat.le_of_ble_eq_true rfl) in_X3 tyX3_ok nmX3 q1229 q_same_own rfl rfl rfl (p_F_mono F fun h7 F => ?_)
        refine wa_aload_n (o := (some t)) dX3_data_53 rfl 0 rfl ?_
        refine wa_getR (C := RX3) (T := TX3) (N := 38) (ci := 2) (k := 7) dX3_data_54 rfl (Nat.le_of_ble_eq_true rfl) in_X3 q1199 q_same_own (g_R_mono F fun r8 F => ?_)
        refine wa_iconst (v := 4) dX3_data_57 rfl ?_
        refine wa_iload_n (x := p0) dX3_data_58 rfl 1 rfl ?_
        refine wa_imul dX3_data_59 ?_
        refine wa_iload_n (x := p1) dX3_data_60 rfl 2 rfl ?_
        refine wa_iadd dX3_data_61 ?_
        refine wa_iald dX3_data_62 (a_I_mono F fun x9 F => ?_)
        refine ws_istore (lv' := [(4, .int x9), (0, va_rf (some t)), (1, .int p0), (2, .int p1), (3, .int p2)]) dX3_data_63 (Nat.le_of_ble_eq_true rfl) (q_cr (q_ci (q_ci (q_ci q_cn)))) rfl ?_
        refine wa_aload_n (o := (some t)) dX3_data_65 rfl 1 rfl ?_
        refine wa_getR (C := RX3) (T := TX3) (N := 38) (ci := 2) (k := 7) dX3_data_66 rfl (Nat.le_of_ble_eq_true rfl) in_X3 q1199 q_same_own (g_R_mono F fun r10 F => ?_)
        refine wa_iconst (v := 4) dX3_data_69 rfl ?_
        refine wa_iload_n (x := p0) dX3_data_70 rfl 2 rfl ?_
        refine wa_imul dX3_data_71 ?_
        refine wa_iload_n (x := p1) dX3_data_72 rfl 3 rfl ?_
        refine wa_iadd dX3_data_73 ?_
        refine wa_iload_n (x := p2) dX3_data_74 rfl 4 rfl ?_
        refine wa_iast dX3_data_75 (s_I_mono F fun h11 F => ?_)
        refine wa_iload (x := x9) dX3_data_76 0 rfl ?_
        exact wa_iret rfl dX3_data_78 F
      · have F := F.2 z
        refine wa_aload_n (o := (some t)) dX3_data_42 rfl 0 rfl ?_
        refine wa_iconst (v := 2) dX3_data_43 rfl ?_
        refine wa_callV (M' := m_X3_fails) (C := RX3) (o := (some t)) (As := [.int 2]) (st := []) dX3_data_44 ⟨Nat.le_of_ble_eq_true rfl, Nat.le_of_ble_eq_true rfl, nk_X3_fails⟩ q1319 q1321 qs23 q59 q1322 rfl rfl (Nat.zero_le 8) rfl F.1 F.2 (wk_I fun x13 h12 F => ?_)
        exact wa_iret rfl dX3_data_47 F
    · have F := F.2 z
      exact wa_sub [0] rfl F
theorem f_X3_data_24 {D : qD} {Q : Option Value → qH → Prop} {X : String → qH → Prop} (t : Nat) (h : qH) (F : (recv D h (some t) RX3 ∧ c_I D m_X3_fails [va_rf (some t), .int 1] h X (fun x2 h1 => Q (some (.int x2)) h1))) : L_X3_data_24 D Q X t h := by
  show WA D m_X3_data Q X 24 [(0, va_rf (some t))] [] h
  refine wa_aload_n (o := (some t)) dX3_data_24 rfl 0 rfl ?_
  refine wa_iconst (v := 1) dX3_data_25 rfl ?_
  refine wa_callV (M' := m_X3_fails) (C := RX3) (o := (some t)) (As := [.int 1]) (st := []) dX3_data_26 ⟨Nat.le_of_ble_eq_true rfl, Nat.le_of_ble_eq_true rfl, nk_X3_fails⟩ q1319 q1321 qs23 q59 q1322 rfl rfl (Nat.zero_le 8) rfl F.1 F.2 (wk_I fun x2 h1 F => ?_)
  exact wa_iret rfl dX3_data_29 F
def L_X3_grid_40 (D : qD) (Q : Option Value → qH → Prop) (X : String → qH → Prop) (t : Nat) (h : qH) : Prop := WA D m_X3_grid Q X 40 [(0, va_rf (some t))] [] h
theorem f_X3_grid {D : qD} {Q : Option Value → qH → Prop} {X : String → qH → Prop} (t : Nat) (p0 : Int32) (p1 : Int32) (p2 : Int32) (h : qH) (F : c_I D m_X3_in [.long p0.toInt64, .long 5, .long 20] h X (fun x2 h1 => ((x2 = 0 → L_X3_grid_40 D Q X t h1) ∧ (¬ x2 = 0 → c_I D m_X3_in [.long p1.toInt64, .long 3, .long 20] h1 X (fun x4 h3 => ((x4 = 0 → L_X3_grid_40 D Q X t h3) ∧ (¬ x4 = 0 → c_I D m_X3_in [.long p2.toInt64, .long 1, .long 2] h3 X (fun x6 h5 => ((¬ x6 = 0 → p_F h5 (some t) 2 37 (.int 0) (fun h7 => p_F h7 (some t) 2 8 (.int p0) (fun h8 => p_F h8 (some t) 2 9 (.int p1) (fun h9 => p_F h9 (some t) 2 10 (.int p2) (fun h10 => Q none h10))))) ∧ (x6 = 0 → L_X3_grid_40 D Q X t h5)))))))))) : MW D m_X3_grid [va_rf (some t), .int p0, .int p1, .int p2] h Q X := by
  refine mw_of pl_X3_grid rfl _ (Nat.le_of_ble_eq_true rfl) rfl ?_
  refine (show WA D m_X3_grid Q X 0 [(0, va_rf (some t)), (1, .int p0), (2, .int p1), (3, .int p2)] [] h from ?_)
  refine wa_iload_n (x := p0) dX3_grid_0 rfl 1 rfl ?_
  refine wa_i2l dX3_grid_1 ?_
  refine wa_ldc2 (v := 5) dX3_grid_2 q1328 ?_
  refine wa_ldc2 (v := 20) dX3_grid_5 q1349 ?_
  refine wa_callS (M' := m_X3_in) (As := [.long p0.toInt64, .long 5, .long 20]) (st := []) dX3_grid_8 ⟨Nat.le_of_ble_eq_true rfl, Nat.le_of_ble_eq_true rfl, nk_X3_in⟩ q1316 q1317 q59 q1318 rfl rfl (Nat.zero_le 8) rfl F (wk_I fun x2 h1 F => ?_)
  refine wa_if_eq (tgt := 40) dX3_grid_11 rfl (fun z => ?_) (fun z => ?_)
  · have F := F.1 z
    exact wa_sub [0] rfl F
  · have F := F.2 z
    refine wa_iload_n (x := p1) dX3_grid_14 rfl 2 rfl ?_
    refine wa_i2l dX3_grid_15 ?_
    refine wa_ldc2 (v := 3) dX3_grid_16 q1330 ?_
    refine wa_ldc2 (v := 20) dX3_grid_19 q1349 ?_
    refine wa_callS (M' := m_X3_in) (As := [.long p1.toInt64, .long 3, .long 20]) (st := []) dX3_grid_22 ⟨Nat.le_of_ble_eq_true rfl, Nat.le_of_ble_eq_true rfl, nk_X3_in⟩ q1316 q1317 q59 q1318 rfl rfl (Nat.zero_le 8) rfl F (wk_I fun x4 h3 F => ?_)
    refine wa_if_eq (tgt := 40) dX3_grid_25 rfl (fun z => ?_) (fun z => ?_)
    · have F := F.1 z
      exact wa_sub [0] rfl F
    · have F := F.2 z
      refine wa_iload_n (x := p2) dX3_grid_28 rfl 3 rfl ?_
      refine wa_i2l dX3_grid_29 ?_
      refine wa_lconst (v := 1) dX3_grid_30 rfl ?_
      refine wa_ldc2 (v := 2) dX3_grid_31 q1350 ?_
      refine wa_callS (M' := m_X3_in) (As := [.long p2.toInt64, .long 1, .long 2]) (st := []) dX3_grid_34 ⟨Nat.le_of_ble_eq_true rfl, Nat.le_of_ble_eq_true rfl, nk_X3_in⟩ q1316 q1317 q59 q1318 rfl rfl (Nat.zero_le 8) rfl F (wk_I fun x6 h5 F => ?_)
      refine wa_if_ne (tgt := 46) dX3_grid_37 rfl (fun z => ?_) (fun z => ?_)
      · have F := F.1 z
        refine wa_aload_n (o := (some t)) dX3_grid_46 rfl 0 rfl ?_
        refine wa_iconst (v := 0) dX3_grid_47 rfl ?_
        refine wa_put (C := RX3) (T := TX3) (N := 38) (ci := 2) (k := 37) tyX3 dX3_grid_48 rfl (Nat.le_of_ble_eq_true rfl) in_X3 tyX3_ok nmX3 q1229 q_same_own rfl rfl rfl (p_F_mono F fun h7 F => ?_)
        refine wa_aload_n (o := (some t)) dX3_grid_51 rfl 0 rfl ?_
        refine wa_iload_n (x := p0) dX3_grid_52 rfl 1 rfl ?_
        refine wa_put (C := RX3) (T := TX3) (N := 38) (ci := 2) (k := 8) tyX3 dX3_grid_53 rfl (Nat.le_of_ble_eq_true rfl) in_X3 tyX3_ok nmX3 q1200 q_same_own rfl rfl rfl (p_F_mono F fun h8 F => ?_)
        refine wa_aload_n (o := (some t)) dX3_grid_56 rfl 0 rfl ?_
        refine wa_iload_n (x := p1) dX3_grid_57 rfl 2 rfl ?_
        refine wa_put (C := RX3) (T := TX3) (N := 38) (ci := 2) (k := 9) tyX3 dX3_grid_58 rfl (Nat.le_of_ble_eq_true rfl) in_X3 tyX3_ok nmX3 q1201 q_same_own rfl rfl rfl (p_F_mono F fun h9 F => ?_)
        refine wa_aload_n (o := (some t)) dX3_grid_61 rfl 0 rfl ?_
        refine wa_iload_n (x := p2) dX3_grid_62 rfl 3 rfl ?_
        refine wa_put (C := RX3) (T := TX3) (N := 38) (ci := 2) (k := 10) tyX3 dX3_grid_63 rfl (Nat.le_of_ble_eq_true rfl) in_X3 tyX3_ok nmX3 q1202 q_same_own rfl rfl rfl (p_F_mono F fun h10 F => ?_)
        exact wa_vret rfl dX3_grid_66 F
      · have F := F.2 z
        exact wa_sub [0] rfl F
theorem f_X3_grid_40 {D : qD} {Q : Option Value → qH → Prop} {X : String → qH → Prop} (t : Nat) (h : qH) (F : p_F h (some t) 2 37 (.int 1) (fun h1 => Q none h1)) : L_X3_grid_40 D Q X t h := by
  show WA D m_X3_grid Q X 40 [(0, va_rf (some t))] [] h
  refine wa_aload_n (o := (some t)) dX3_grid_40 rfl 0 rfl ?_
  refine wa_iconst (v := 1) dX3_grid_41 rfl ?_
  refine wa_put (C := RX3) (T := TX3) (N := 38) (ci := 2) (k := 37) tyX3 dX3_grid_42 rfl (Nat.le_of_ble_eq_true rfl) in_X3 tyX3_ok nmX3 q1229 q_same_own rfl rfl rfl (p_F_mono F fun h1 F => ?_)
  exact wa_vret rfl dX3_grid_45 F
def L_X3_see_26 (D : qD) (Q : Option Value → qH → Prop) (X : String → qH → Prop) (t : Nat) (h : qH) : Prop := WA D m_X3_see Q X 26 [(0, va_rf (some t))] [] h
def L_X3_see_34 (D : qD) (Q : Option Value → qH → Prop) (X : String → qH → Prop) (t : Nat) (v1 : Int32) (v2 : Int32) (v3 : Int32) (h : qH) : Prop := WA D m_X3_see Q X 34 [(0, va_rf (some t)), (1, .int v1), (2, .int v2), (3, .int v3)] [] h
def L_X3_see_54 (D : qD) (Q : Option Value → qH → Prop) (X : String → qH → Prop) (t : Nat) (v1 : Int32) (v2 : Int32) (v3 : Int32) (h : qH) : Prop := WA D m_X3_see Q X 54 [(0, va_rf (some t)), (1, .int v1), (2, .int v2), (3, .int v3)] [] h
theorem f_X3_see {D : qD} {Q : Option Value → qH → Prop} {X : String → qH → Prop} (t : Nat) (p0 : Int32) (p1 : Int32) (h : qH) (F : c_I D m_X3_in [.long p0.toInt64, .long 0, .long 9] h X (fun x2 h1 => ((x2 = 0 → L_X3_see_26 D Q X t h1) ∧ (¬ x2 = 0 → c_I D m_X3_in [.long p1.toInt64, .long (-1), .long 9] h1 X (fun x4 h3 => ((¬ x4 = 0 → L_X3_see_34 D Q X t p0 p1 p1 h3) ∧ (x4 = 0 → L_X3_see_26 D Q X t h3))))))) : MW D m_X3_see [va_rf (some t), .int p0, .int p1] h Q X := by
  refine mw_of pl_X3_see rfl _ (Nat.le_of_ble_eq_true rfl) rfl ?_
  refine (show WA D m_X3_see Q X 0 [(0, va_rf (some t)), (1, .int p0), (2, .int p1)] [] h from ?_)
  refine wa_iload_n (x := p0) dX3_see_0 rfl 1 rfl ?_
  refine wa_i2l dX3_see_1 ?_
  refine wa_lconst (v := 0) dX3_see_2 rfl ?_
  refine wa_ldc2 (v := 9) dX3_see_3 q1329 ?_
  refine wa_callS (M' := m_X3_in) (As := [.long p0.toInt64, .long 0, .long 9]) (st := []) dX3_see_6 ⟨Nat.le_of_ble_eq_true rfl, Nat.le_of_ble_eq_true rfl, nk_X3_in⟩ q1316 q1317 q59 q1318 rfl rfl (Nat.zero_le 8) rfl F (wk_I fun x2 h1 F => ?_)
  refine wa_if_eq (tgt := 26) dX3_see_9 rfl (fun z => ?_) (fun z => ?_)
  · have F := F.1 z
    exact wa_sub [0] rfl F
  · have F := F.2 z
    refine wa_iload_n (x := p1) dX3_see_12 rfl 2 rfl ?_
    refine wa_i2l dX3_see_13 ?_
    refine wa_ldc2 (v := -1) dX3_see_14 q1340 ?_
    refine wa_ldc2 (v := 9) dX3_see_17 q1329 ?_
    refine wa_callS (M' := m_X3_in) (As := [.long p1.toInt64, .long (-1), .long 9]) (st := []) dX3_see_20 ⟨Nat.le_of_ble_eq_true rfl, Nat.le_of_ble_eq_true rfl, nk_X3_in⟩ q1316 q1317 q59 q1318 rfl rfl (Nat.zero_le 8) rfl F (wk_I fun x4 h3 F => ?_)
    refine wa_if_ne (tgt := 32) dX3_see_23 rfl (fun z => ?_) (fun z => ?_)
    · have F := F.1 z
      refine wa_iload_n (x := p1) dX3_see_32 rfl 2 rfl ?_
      refine ws_istore_n (lv' := [(3, .int p1), (0, va_rf (some t)), (1, .int p0), (2, .int p1)]) dX3_see_33 rfl (Nat.le_of_ble_eq_true rfl) (q_cr (q_ci (q_ci q_cn))) rfl ?_
      exact wa_sub [1, 2, 3, 0] rfl F
    · have F := F.2 z
      exact wa_sub [0] rfl F
theorem f_X3_see_26 {D : qD} {Q : Option Value → qH → Prop} {X : String → qH → Prop} (t : Nat) (h : qH) (F : (recv D h (some t) RX3 ∧ c_I D m_X3_fails [va_rf (some t), .int 1] h X (fun x2 h1 => Q (some (.int x2)) h1))) : L_X3_see_26 D Q X t h := by
  show WA D m_X3_see Q X 26 [(0, va_rf (some t))] [] h
  refine wa_aload_n (o := (some t)) dX3_see_26 rfl 0 rfl ?_
  refine wa_iconst (v := 1) dX3_see_27 rfl ?_
  refine wa_callV (M' := m_X3_fails) (C := RX3) (o := (some t)) (As := [.int 1]) (st := []) dX3_see_28 ⟨Nat.le_of_ble_eq_true rfl, Nat.le_of_ble_eq_true rfl, nk_X3_fails⟩ q1319 q1321 qs23 q59 q1322 rfl rfl (Nat.zero_le 8) rfl F.1 F.2 (wk_I fun x2 h1 F => ?_)
  exact wa_iret rfl dX3_see_31 F
theorem f_X3_see_34 {D : qD} {Q : Option Value → qH → Prop} {X : String → qH → Prop} (t : Nat) (v1 : Int32) (v2 : Int32) (v3 : Int32) (h : qH) (F : ((v3 = (-1) → L_X3_see_54 D Q X t v1 v2 v3 h) ∧ (¬ v3 = (-1) → ((v3 = v1 → L_X3_see_54 D Q X t v1 v2 v3 h) ∧ (¬ v3 = v1 → g_R D h (some t) 2 11 (fun r1 => a_I D h r1 0 v3 (fun x2 => L_X3_see_34 D Q X t v1 v2 x2 h))))))) : L_X3_see_34 D Q X t v1 v2 v3 h := by
  show WA D m_X3_see Q X 34 [(0, va_rf (some t)), (1, .int v1), (2, .int v2), (3, .int v3)] [] h
  refine wa_iload_n (x := v3) dX3_see_34 rfl 3 rfl ?_
  refine wa_iconst (v := -1) dX3_see_35 rfl ?_
  refine wa_icmp_eq (tgt := 54) dX3_see_36 rfl (fun z => ?_) (fun z => ?_)
  · have F := F.1 z
    exact F
  · have F := F.2 z
    refine wa_iload_n (x := v3) dX3_see_39 rfl 3 rfl ?_
    refine wa_iload_n (x := v1) dX3_see_40 rfl 1 rfl ?_
    refine wa_icmp_eq (tgt := 54) dX3_see_41 rfl (fun z => ?_) (fun z => ?_)
    · have F := F.1 z
      exact F
    · have F := F.2 z
      refine wa_aload_n (o := (some t)) dX3_see_44 rfl 0 rfl ?_
      refine wa_getR (C := RX3) (T := TX3) (N := 38) (ci := 2) (k := 11) dX3_see_45 rfl (Nat.le_of_ble_eq_true rfl) in_X3 q1203 q_same_own (g_R_mono F fun r1 F => ?_)
      refine wa_iload_n (x := v3) dX3_see_48 rfl 3 rfl ?_
      refine wa_iald dX3_see_49 (a_I_mono F fun x2 F => ?_)
      refine ws_istore_n (lv' := [(3, .int x2), (0, va_rf (some t)), (1, .int v1), (2, .int v2)]) dX3_see_50 rfl (Nat.le_of_ble_eq_true rfl) (q_cr (q_ci (q_ci (q_ci q_cn)))) rfl ?_
      refine wa_goto (tgt := 34) dX3_see_51 rfl ?_
      exact wa_sub [1, 2, 3, 0] rfl F
theorem f_X3_see_54 {D : qD} {Q : Option Value → qH → Prop} {X : String → qH → Prop} (t : Nat) (v1 : Int32) (v2 : Int32) (v3 : Int32) (h : qH) (F : ((v3 = (-1) → p_F h (some t) 2 37 (.int 0) (fun h1 => g_R D h1 (some t) 2 11 (fun r2 => a_I D h1 r2 0 v1 (fun x3 => g_R D h1 (some t) 2 11 (fun r4 => s_I h1 r4 0 v1 v2 (fun h5 => Q (some (.int x3)) h5)))))) ∧ (¬ v3 = (-1) → (recv D h (some t) RX3 ∧ c_I D m_X3_fails [va_rf (some t), .int 2] h X (fun x7 h6 => Q (some (.int x7)) h6))))) : L_X3_see_54 D Q X t v1 v2 v3 h := by
  show WA D m_X3_see Q X 54 [(0, va_rf (some t)), (1, .int v1), (2, .int v2), (3, .int v3)] [] h
  refine wa_iload_n (x := v3) dX3_see_54 rfl 3 rfl ?_
  refine wa_iconst (v := -1) dX3_see_55 rfl ?_
  refine wa_icmp_eq (tgt := 65) dX3_see_56 rfl (fun z => ?_) (fun z => ?_)
  · have F := F.1 z
    refine wa_aload_n (o := (some t)) dX3_see_65 rfl 0 rfl ?_
    refine wa_iconst (v := 0) dX3_see_66 rfl ?_
    refine wa_put (C := RX3) (T := TX3) (N := 38) (ci := 2) (k := 37) tyX3 dX3_see_67 rfl (Nat.le_of_ble_eq_true rfl) in_X3 tyX3_ok nmX3 q1229 q_same_own rfl rfl rfl (p_F_mono F fun h1 F => ?_)
    refine wa_aload_n (o := (some t)) dX3_see_70 rfl 0 rfl ?_
    refine wa_getR (C := RX3) (T := TX3) (N := 38) (ci := 2) (k := 11) dX3_see_71 rfl (Nat.le_of_ble_eq_true rfl) in_X3 q1203 q_same_own (g_R_mono F fun r2 F => ?_)
    refine wa_iload_n (x := v1) dX3_see_74 rfl 1 rfl ?_
    refine wa_iald dX3_see_75 (a_I_mono F fun x3 F => ?_)
    refine ws_istore (lv' := [(4, .int x3), (0, va_rf (some t)), (1, .int v1), (2, .int v2), (3, .int v3)]) dX3_see_76 (Nat.le_of_ble_eq_true rfl) (q_cr (q_ci (q_ci (q_ci q_cn)))) rfl ?_
    refine wa_aload_n (o := (some t)) dX3_see_78 rfl 1 rfl ?_
    refine wa_getR (C := RX3) (T := TX3) (N := 38) (ci := 2) (k := 11) dX3_see_79 rfl (Nat.le_of_ble_eq_true rfl) in_X3 q1203 q_same_own (g_R_mono F fun r4 F => ?_)
    refine wa_iload_n (x := v1) dX3_see_82 rfl 2 rfl ?_
    refine wa_iload_n (x := v2) dX3_see_83 rfl 3 rfl ?_
    refine wa_iast dX3_see_84 (s_I_mono F fun h5 F => ?_)
    refine wa_iload (x := x3) dX3_see_85 0 rfl ?_
    exact wa_iret rfl dX3_see_87 F
  · have F := F.2 z
    refine wa_aload_n (o := (some t)) dX3_see_59 rfl 0 rfl ?_
    refine wa_iconst (v := 2) dX3_see_60 rfl ?_
    refine wa_callV (M' := m_X3_fails) (C := RX3) (o := (some t)) (As := [.int 2]) (st := []) dX3_see_61 ⟨Nat.le_of_ble_eq_true rfl, Nat.le_of_ble_eq_true rfl, nk_X3_fails⟩ q1319 q1321 qs23 q59 q1322 rfl rfl (Nat.zero_le 8) rfl F.1 F.2 (wk_I fun x7 h6 F => ?_)
    exact wa_iret rfl dX3_see_64 F
def L_X3_fold_17 (D : qD) (Q : Option Value → qH → Prop) (X : String → qH → Prop) (t : Nat) (v1 : Int32) (v2 : Int32) (h : qH) : Prop := WA D m_X3_fold Q X 17 [(0, va_rf (some t)), (1, .int v1), (2, .int v2)] [] h
def L_X3_fold_29 (D : qD) (Q : Option Value → qH → Prop) (X : String → qH → Prop) (t : Nat) (h : qH) : Prop := WA D m_X3_fold Q X 29 [(0, va_rf (some t))] [] h
theorem f_X3_fold {D : qD} {Q : Option Value → qH → Prop} {X : String → qH → Prop} (t : Nat) (p0 : Int32) (p1 : Int32) (h : qH) (F : ((p0 = 4 → L_X3_fold_17 D Q X t p0 p1 h) ∧ (¬ p0 = 4 → ((p0 = 8 → L_X3_fold_17 D Q X t p0 p1 h) ∧ (¬ p0 = 8 → ((¬ p0 = 16 → L_X3_fold_29 D Q X t h) ∧ (p0 = 16 → L_X3_fold_17 D Q X t p0 p1 h))))))) : MW D m_X3_fold [va_rf (some t), .int p0, .int p1] h Q X := by
  refine mw_of pl_X3_fold rfl _ (Nat.le_of_ble_eq_true rfl) rfl ?_
  refine (show WA D m_X3_fold Q X 0 [(0, va_rf (some t)), (1, .int p0), (2, .int p1)] [] h from ?_)
  refine wa_iload_n (x := p0) dX3_fold_0 rfl 1 rfl ?_
  refine wa_iconst (v := 4) dX3_fold_1 rfl ?_
  refine wa_icmp_eq (tgt := 17) dX3_fold_2 rfl (fun z => ?_) (fun z => ?_)
  · have F := F.1 z
    exact F
  · have F := F.2 z
    refine wa_iload_n (x := p0) dX3_fold_5 rfl 1 rfl ?_
    refine wa_bipush (v := 8) dX3_fold_6 rfl ?_
    refine wa_icmp_eq (tgt := 17) dX3_fold_8 rfl (fun z => ?_) (fun z => ?_)
    · have F := F.1 z
      exact F
    · have F := F.2 z
      refine wa_iload_n (x := p0) dX3_fold_11 rfl 1 rfl ?_
      refine wa_bipush (v := 16) dX3_fold_12 rfl ?_
      refine wa_icmp_ne (tgt := 29) dX3_fold_14 rfl (fun z => ?_) (fun z => ?_)
      · have F := F.1 z
        exact wa_sub [0] rfl F
      · have F := F.2 z
        exact F
theorem f_X3_fold_17 {D : qD} {Q : Option Value → qH → Prop} {X : String → qH → Prop} (t : Nat) (v1 : Int32) (v2 : Int32) (h : qH) (F : c_I D m_X3_in [.long v2.toInt64, .long 0, .long 9] h X (fun x2 h1 => ((¬ x2 = 0 → p_F h1 (some t) 2 37 (.int 0) (fun h3 => p_F h3 (some t) 2 12 (.int v1) (fun h4 => p_F h4 (some t) 2 13 (.int v2) (fun h5 => Q none h5)))) ∧ (x2 = 0 → L_X3_fold_29 D Q X t h1)))) : L_X3_fold_17 D Q X t v1 v2 h := by
  show WA D m_X3_fold Q X 17 [(0, va_rf (some t)), (1, .int v1), (2, .int v2)] [] h
  refine wa_iload_n (x := v2) dX3_fold_17 rfl 2 rfl ?_
  refine wa_i2l dX3_fold_18 ?_
  refine wa_lconst (v := 0) dX3_fold_19 rfl ?_
  refine wa_ldc2 (v := 9) dX3_fold_20 q1329 ?_
  refine wa_callS (M' := m_X3_in) (As := [.long v2.toInt64, .long 0, .long 9]) (st := []) dX3_fold_23 ⟨Nat.le_of_ble_eq_true rfl, Nat.le_of_ble_eq_true rfl, nk_X3_in⟩ q1316 q1317 q59 q1318 rfl rfl (Nat.zero_le 8) rfl F (wk_I fun x2 h1 F => ?_)
  refine wa_if_ne (tgt := 35) dX3_fold_26 rfl (fun z => ?_) (fun z => ?_)
  · have F := F.1 z
    refine wa_aload_n (o := (some t)) dX3_fold_35 rfl 0 rfl ?_
    refine wa_iconst (v := 0) dX3_fold_36 rfl ?_
    refine wa_put (C := RX3) (T := TX3) (N := 38) (ci := 2) (k := 37) tyX3 dX3_fold_37 rfl (Nat.le_of_ble_eq_true rfl) in_X3 tyX3_ok nmX3 q1229 q_same_own rfl rfl rfl (p_F_mono F fun h3 F => ?_)
    refine wa_aload_n (o := (some t)) dX3_fold_40 rfl 0 rfl ?_
    refine wa_iload_n (x := v1) dX3_fold_41 rfl 1 rfl ?_
    refine wa_put (C := RX3) (T := TX3) (N := 38) (ci := 2) (k := 12) tyX3 dX3_fold_42 rfl (Nat.le_of_ble_eq_true rfl) in_X3 tyX3_ok nmX3 q1204 q_same_own rfl rfl rfl (p_F_mono F fun h4 F => ?_)
    refine wa_aload_n (o := (some t)) dX3_fold_45 rfl 0 rfl ?_
    refine wa_iload_n (x := v2) dX3_fold_46 rfl 2 rfl ?_
    refine wa_put (C := RX3) (T := TX3) (N := 38) (ci := 2) (k := 13) tyX3 dX3_fold_47 rfl (Nat.le_of_ble_eq_true rfl) in_X3 tyX3_ok nmX3 q1205 q_same_own rfl rfl rfl (p_F_mono F fun h5 F => ?_)
    exact wa_vret rfl dX3_fold_50 F
  · have F := F.2 z
    exact wa_sub [0] rfl F
theorem f_X3_fold_29 {D : qD} {Q : Option Value → qH → Prop} {X : String → qH → Prop} (t : Nat) (h : qH) (F : p_F h (some t) 2 37 (.int 1) (fun h1 => Q none h1)) : L_X3_fold_29 D Q X t h := by
  show WA D m_X3_fold Q X 29 [(0, va_rf (some t))] [] h
  refine wa_aload_n (o := (some t)) dX3_fold_29 rfl 0 rfl ?_
  refine wa_iconst (v := 1) dX3_fold_30 rfl ?_
  refine wa_put (C := RX3) (T := TX3) (N := 38) (ci := 2) (k := 37) tyX3 dX3_fold_31 rfl (Nat.le_of_ble_eq_true rfl) in_X3 tyX3_ok nmX3 q1229 q_same_own rfl rfl rfl (p_F_mono F fun h1 F => ?_)
  exact wa_vret rfl dX3_fold_34 F
def L_X3_wide_34 (D : qD) (Q : Option Value → qH → Prop) (X : String → qH → Prop) (t : Nat) (v2 : Int32) (s0 : Int32) (h : qH) : Prop := WA D m_X3_wide Q X 34 [(0, va_rf (some t)), (2, .int v2)] [.int s0] h
theorem f_X3_wide {D : qD} {Q : Option Value → qH → Prop} {X : String → qH → Prop} (t : Nat) (p0 : Int32) (p1 : Int32) (h : qH) (F : g_R D h (some t) 2 1 (fun r1 => a_I D h r1 0 p1 (fun x2 => ((¬ x2 = 1 → g_R D h (some t) 2 2 (fun r3 => a_I D h r3 0 p1 (fun x4 => L_X3_wide_34 D Q X t p1 x4 h))) ∧ (x2 = 1 → g_R D h (some t) 2 7 (fun r5 => g_R D h (some t) 2 2 (fun r6 => a_I D h r6 0 p1 (fun x7 => a_I D h r5 0 ((4 * p0) + x7) (fun x8 => L_X3_wide_34 D Q X t p1 x8 h))))))))) : MW D m_X3_wide [va_rf (some t), .int p0, .int p1] h Q X := by
  refine mw_of pl_X3_wide rfl _ (Nat.le_of_ble_eq_true rfl) rfl ?_
  refine (show WA D m_X3_wide Q X 0 [(0, va_rf (some t)), (1, .int p0), (2, .int p1)] [] h from ?_)
  refine wa_aload_n (o := (some t)) dX3_wide_0 rfl 0 rfl ?_
  refine wa_getR (C := RX3) (T := TX3) (N := 38) (ci := 2) (k := 1) dX3_wide_1 rfl (Nat.le_of_ble_eq_true rfl) in_X3 q1193 q_same_own (g_R_mono F fun r1 F => ?_)
  refine wa_iload_n (x := p1) dX3_wide_4 rfl 2 rfl ?_
  refine wa_iald dX3_wide_5 (a_I_mono F fun x2 F => ?_)
  refine wa_iconst (v := 1) dX3_wide_6 rfl ?_
  refine wa_icmp_ne (tgt := 28) dX3_wide_7 rfl (fun z => ?_) (fun z => ?_)
  · have F := F.1 z
    refine wa_aload_n (o := (some t)) dX3_wide_28 rfl 0 rfl ?_
    refine wa_getR (C := RX3) (T := TX3) (N := 38) (ci := 2) (k := 2) dX3_wide_29 rfl (Nat.le_of_ble_eq_true rfl) in_X3 q1194 q_same_own (g_R_mono F fun r3 F => ?_)
    refine wa_iload_n (x := p1) dX3_wide_32 rfl 2 rfl ?_
    refine wa_iald dX3_wide_33 (a_I_mono F fun x4 F => ?_)
    exact wa_sub [0, 2] rfl F
  · have F := F.2 z
    refine wa_aload_n (o := (some t)) dX3_wide_10 rfl 0 rfl ?_
    refine wa_getR (C := RX3) (T := TX3) (N := 38) (ci := 2) (k := 7) dX3_wide_11 rfl (Nat.le_of_ble_eq_true rfl) in_X3 q1199 q_same_own (g_R_mono F fun r5 F => ?_)
    refine wa_iconst (v := 4) dX3_wide_14 rfl ?_
    refine wa_iload_n (x := p0) dX3_wide_15 rfl 1 rfl ?_
    refine wa_imul dX3_wide_16 ?_
    refine wa_aload_n (o := (some t)) dX3_wide_17 rfl 0 rfl ?_
    refine wa_getR (C := RX3) (T := TX3) (N := 38) (ci := 2) (k := 2) dX3_wide_18 rfl (Nat.le_of_ble_eq_true rfl) in_X3 q1194 q_same_own (g_R_mono F fun r6 F => ?_)
    refine wa_iload_n (x := p1) dX3_wide_21 rfl 2 rfl ?_
    refine wa_iald dX3_wide_22 (a_I_mono F fun x7 F => ?_)
    refine wa_iadd dX3_wide_23 ?_
    refine wa_iald dX3_wide_24 (a_I_mono F fun x8 F => ?_)
    refine wa_goto (tgt := 34) dX3_wide_25 rfl ?_
    exact wa_sub [0, 2] rfl F
theorem f_X3_wide_34 {D : qD} {Q : Option Value → qH → Prop} {X : String → qH → Prop} (t : Nat) (v2 : Int32) (s0 : Int32) (h : qH) (F : g_R D h (some t) 2 3 (fun r1 => a_I D h r1 0 v2 (fun x2 => (recv D h (some t) RX3 ∧ c_I D m_X3_extraOf [va_rf (some t), .int x2] h X (fun x4 h3 => Q (some (.int (s0 + x4))) h3))))) : L_X3_wide_34 D Q X t v2 s0 h := by
  show WA D m_X3_wide Q X 34 [(0, va_rf (some t)), (2, .int v2)] [.int s0] h
  refine wa_aload_n (o := (some t)) dX3_wide_34 rfl 0 rfl ?_
  refine wa_aload_n (o := (some t)) dX3_wide_35 rfl 0 rfl ?_
  refine wa_getR (C := RX3) (T := TX3) (N := 38) (ci := 2) (k := 3) dX3_wide_36 rfl (Nat.le_of_ble_eq_true rfl) in_X3 q1195 q_same_own (g_R_mono F fun r1 F => ?_)
  refine wa_iload_n (x := v2) dX3_wide_39 rfl 1 rfl ?_
  refine wa_iald dX3_wide_40 (a_I_mono F fun x2 F => ?_)
  refine wa_callV (M' := m_X3_extraOf) (C := RX3) (o := (some t)) (As := [.int x2]) (st := [.int s0]) dX3_wide_41 ⟨Nat.le_of_ble_eq_true rfl, Nat.le_of_ble_eq_true rfl, nk_X3_extraOf⟩ q1379 q1381 qs29 q59 q1382 rfl rfl (q_cs_le (q_csi q_cs0) (Nat.le_of_ble_eq_true rfl)) rfl F.1 F.2 (wk_I fun x4 h3 F => ?_)
  refine wa_iadd dX3_wide_44 ?_
  exact wa_iret rfl dX3_wide_45 F
def L_X3_hang_12 (D : qD) (Q : Option Value → qH → Prop) (X : String → qH → Prop) (t : Nat) (s0 : Int32) (h : qH) : Prop := WA D m_X3_hang Q X 12 [(0, va_rf (some t))] [.int s0] h
def L_X3_hang_15 (D : qD) (Q : Option Value → qH → Prop) (X : String → qH → Prop) (t : Nat) (v1 : Int32) (v2 : Int32) (h : qH) : Prop := WA D m_X3_hang Q X 15 [(0, va_rf (some t)), (1, .int v1), (2, .int v2)] [] h
def L_X3_hang_88 (D : qD) (Q : Option Value → qH → Prop) (X : String → qH → Prop) (t : Nat) (v1 : Int32) (v2 : Int32) (h : qH) : Prop := WA D m_X3_hang Q X 88 [(0, va_rf (some t)), (1, .int v1), (2, .int v2)] [] h
theorem f_X3_hang {D : qD} {Q : Option Value → qH → Prop} {X : String → qH → Prop} (t : Nat) (h : qH) (F : g_I D h (some t) 2 14 (fun x1 => ((¬ x1 = 0 → L_X3_hang_12 D Q X t 0 h) ∧ (x1 = 0 → L_X3_hang_12 D Q X t (-1) h)))) : MW D m_X3_hang [va_rf (some t)] h Q X := by
  refine mw_of pl_X3_hang rfl _ (Nat.le_of_ble_eq_true rfl) rfl ?_
  refine (show WA D m_X3_hang Q X 0 [(0, va_rf (some t))] [] h from ?_)
  refine wa_aload_n (o := (some t)) dX3_hang_0 rfl 0 rfl ?_
  refine wa_getI (C := RX3) (T := TX3) (N := 38) (ci := 2) (k := 14) dX3_hang_1 rfl (Nat.le_of_ble_eq_true rfl) in_X3 q1206 q_same_own (g_I_mono F fun x1 F => ?_)
  refine wa_if_ne (tgt := 11) dX3_hang_4 rfl (fun z => ?_) (fun z => ?_)
  · have F := F.1 z
    refine wa_iconst (v := 0) dX3_hang_11 rfl ?_
    exact F
  · have F := F.2 z
    refine wa_iconst (v := -1) dX3_hang_7 rfl ?_
    refine wa_goto (tgt := 12) dX3_hang_8 rfl ?_
    exact F
theorem f_X3_hang_12 {D : qD} {Q : Option Value → qH → Prop} {X : String → qH → Prop} (t : Nat) (s0 : Int32) (h : qH) (F : L_X3_hang_15 D Q X t s0 0 h) : L_X3_hang_12 D Q X t s0 h := by
  show WA D m_X3_hang Q X 12 [(0, va_rf (some t))] [.int s0] h
  refine ws_istore_n (lv' := [(1, .int s0), (0, va_rf (some t))]) dX3_hang_12 rfl (Nat.le_of_ble_eq_true rfl) (q_cr q_cn) rfl ?_
  refine wa_iconst (v := 0) dX3_hang_13 rfl ?_
  refine ws_istore_n (lv' := [(2, .int 0), (1, .int s0), (0, va_rf (some t))]) dX3_hang_14 rfl (Nat.le_of_ble_eq_true rfl) (q_ci (q_cr q_cn)) rfl ?_
  exact wa_sub [2, 1, 0] rfl F
theorem f_X3_hang_15 {D : qD} {Q : Option Value → qH → Prop} {X : String → qH → Prop} (t : Nat) (v1 : Int32) (v2 : Int32) (h : qH) (F : g_I D h (some t) 2 0 (fun x1 => ((x1 ≤ v2 → Q none h) ∧ (¬ x1 ≤ v2 → (recv D h (some t) RX3 ∧ c_I D m_X3_hangs [va_rf (some t), .int v2] h X (fun x3 h2 => ((x3 = 0 → g_R D h2 (some t) 2 15 (fun r4 => a_I D h2 r4 0 v2 (fun x5 => ((x5 = (-1) → L_X3_hang_88 D Q X t v1 v2 h2) ∧ (¬ x5 = (-1) → g_R D h2 (some t) 2 15 (fun r6 => a_I D h2 r6 0 v2 (fun x7 => L_X3_hang_88 D Q X t x7 v2 h2))))))) ∧ (¬ x3 = 0 → g_R D h2 (some t) 2 15 (fun r8 => s_I h2 r8 0 v2 v1 (fun h9 => g_R D h9 (some t) 2 1 (fun r10 => a_I D h9 r10 0 v2 (fun x11 => ((¬ x11 = 5 → L_X3_hang_88 D Q X t v1 v2 h9) ∧ (x11 = 5 → ((v1 = (-1) → L_X3_hang_88 D Q X t v1 v2 h9) ∧ (¬ v1 = (-1) → g_R D h9 (some t) 2 18 (fun r12 => a_I D h9 r12 0 v1 (fun x13 => g_R D h9 (some t) 2 2 (fun r14 => a_I D h9 r14 0 v2 (fun x15 => s_I h9 r12 0 v1 (x13 + x15) (fun h16 => L_X3_hang_88 D Q X t v1 v2 h16))))))))))))))))))))) : L_X3_hang_15 D Q X t v1 v2 h := by
  show WA D m_X3_hang Q X 15 [(0, va_rf (some t)), (1, .int v1), (2, .int v2)] [] h
  refine wa_iload_n (x := v2) dX3_hang_15 rfl 2 rfl ?_
  refine wa_aload_n (o := (some t)) dX3_hang_16 rfl 0 rfl ?_
  refine wa_getI (C := RX3) (T := TX3) (N := 38) (ci := 2) (k := 0) dX3_hang_17 rfl (Nat.le_of_ble_eq_true rfl) in_X3 q1192 q_same_own (g_I_mono F fun x1 F => ?_)
  refine wa_icmp_ge (tgt := 94) dX3_hang_20 rfl (fun z => ?_) (fun z => ?_)
  · have F := F.1 z
    exact wa_vret rfl dX3_hang_94 F
  · have F := F.2 z
    refine wa_aload_n (o := (some t)) dX3_hang_23 rfl 0 rfl ?_
    refine wa_iload_n (x := v2) dX3_hang_24 rfl 2 rfl ?_
    refine wa_callV (M' := m_X3_hangs) (C := RX3) (o := (some t)) (As := [.int v2]) (st := []) dX3_hang_25 ⟨Nat.le_of_ble_eq_true rfl, Nat.le_of_ble_eq_true rfl, nk_X3_hangs⟩ q1387 q1389 qs31 q59 q1390 rfl rfl (Nat.zero_le 8) rfl F.1 F.2 (wk_I fun x3 h2 F => ?_)
    refine wa_if_eq (tgt := 71) dX3_hang_28 rfl (fun z => ?_) (fun z => ?_)
    · have F := F.1 z
      refine wa_aload_n (o := (some t)) dX3_hang_71 rfl 0 rfl ?_
      refine wa_getR (C := RX3) (T := TX3) (N := 38) (ci := 2) (k := 15) dX3_hang_72 rfl (Nat.le_of_ble_eq_true rfl) in_X3 q1207 q_same_own (g_R_mono F fun r4 F => ?_)
      refine wa_iload_n (x := v2) dX3_hang_75 rfl 2 rfl ?_
      refine wa_iald dX3_hang_76 (a_I_mono F fun x5 F => ?_)
      refine wa_iconst (v := -1) dX3_hang_77 rfl ?_
      refine wa_icmp_eq (tgt := 88) dX3_hang_78 rfl (fun z => ?_) (fun z => ?_)
      · have F := F.1 z
        exact F
      · have F := F.2 z
        refine wa_aload_n (o := (some t)) dX3_hang_81 rfl 0 rfl ?_
        refine wa_getR (C := RX3) (T := TX3) (N := 38) (ci := 2) (k := 15) dX3_hang_82 rfl (Nat.le_of_ble_eq_true rfl) in_X3 q1207 q_same_own (g_R_mono F fun r6 F => ?_)
        refine wa_iload_n (x := v2) dX3_hang_85 rfl 2 rfl ?_
        refine wa_iald dX3_hang_86 (a_I_mono F fun x7 F => ?_)
        refine ws_istore_n (lv' := [(1, .int x7), (0, va_rf (some t)), (2, .int v2)]) dX3_hang_87 rfl (Nat.le_of_ble_eq_true rfl) (q_cr (q_ci (q_ci q_cn))) rfl ?_
        exact wa_sub [1, 0, 2] rfl F
    · have F := F.2 z
      refine wa_aload_n (o := (some t)) dX3_hang_31 rfl 0 rfl ?_
      refine wa_getR (C := RX3) (T := TX3) (N := 38) (ci := 2) (k := 15) dX3_hang_32 rfl (Nat.le_of_ble_eq_true rfl) in_X3 q1207 q_same_own (g_R_mono F fun r8 F => ?_)
      refine wa_iload_n (x := v2) dX3_hang_35 rfl 2 rfl ?_
      refine wa_iload_n (x := v1) dX3_hang_36 rfl 1 rfl ?_
      refine wa_iast dX3_hang_37 (s_I_mono F fun h9 F => ?_)
      refine wa_aload_n (o := (some t)) dX3_hang_38 rfl 0 rfl ?_
      refine wa_getR (C := RX3) (T := TX3) (N := 38) (ci := 2) (k := 1) dX3_hang_39 rfl (Nat.le_of_ble_eq_true rfl) in_X3 q1193 q_same_own (g_R_mono F fun r10 F => ?_)
      refine wa_iload_n (x := v2) dX3_hang_42 rfl 2 rfl ?_
      refine wa_iald dX3_hang_43 (a_I_mono F fun x11 F => ?_)
      refine wa_iconst (v := 5) dX3_hang_44 rfl ?_
      refine wa_icmp_ne (tgt := 88) dX3_hang_45 rfl (fun z => ?_) (fun z => ?_)
      · have F := F.1 z
        exact F
      · have F := F.2 z
        refine wa_iload_n (x := v1) dX3_hang_48 rfl 1 rfl ?_
        refine wa_iconst (v := -1) dX3_hang_49 rfl ?_
        refine wa_icmp_eq (tgt := 88) dX3_hang_50 rfl (fun z => ?_) (fun z => ?_)
        · have F := F.1 z
          exact F
        · have F := F.2 z
          refine wa_aload_n (o := (some t)) dX3_hang_53 rfl 0 rfl ?_
          refine wa_getR (C := RX3) (T := TX3) (N := 38) (ci := 2) (k := 18) dX3_hang_54 rfl (Nat.le_of_ble_eq_true rfl) in_X3 q1210 q_same_own (g_R_mono F fun r12 F => ?_)
          refine wa_iload_n (x := v1) dX3_hang_57 rfl 1 rfl ?_
          refine wa_dup2 dX3_hang_58 rfl (q_cat _) ?_
          refine wa_iald dX3_hang_59 (a_I_mono F fun x13 F => ?_)
          refine wa_aload_n (o := (some t)) dX3_hang_60 rfl 0 rfl ?_
          refine wa_getR (C := RX3) (T := TX3) (N := 38) (ci := 2) (k := 2) dX3_hang_61 rfl (Nat.le_of_ble_eq_true rfl) in_X3 q1194 q_same_own (g_R_mono F fun r14 F => ?_)
          refine wa_iload_n (x := v2) dX3_hang_64 rfl 2 rfl ?_
          refine wa_iald dX3_hang_65 (a_I_mono F fun x15 F => ?_)
          refine wa_iadd dX3_hang_66 ?_
          refine wa_iast dX3_hang_67 (s_I_mono F fun h16 F => ?_)
          refine wa_goto (tgt := 88) dX3_hang_68 rfl ?_
          exact F
theorem f_X3_hang_88 {D : qD} {Q : Option Value → qH → Prop} {X : String → qH → Prop} (t : Nat) (v1 : Int32) (v2 : Int32) (h : qH) (F : L_X3_hang_15 D Q X t v1 (v2 + 1) h) : L_X3_hang_88 D Q X t v1 v2 h := by
  show WA D m_X3_hang Q X 88 [(0, va_rf (some t)), (1, .int v1), (2, .int v2)] [] h
  refine ws_iinc (j := 2) (v := (v2 + 1)) (lv' := [(2, .int (v2 + 1)), (0, va_rf (some t)), (1, .int v1)]) dX3_hang_88 rfl rfl (Nat.le_of_ble_eq_true rfl) (q_cr (q_ci (q_ci q_cn))) rfl ?_
  refine wa_goto (tgt := 15) dX3_hang_91 rfl ?_
  exact wa_sub [1, 2, 0] rfl F
def L_X3_begins_28 (D : qD) (Q : Option Value → qH → Prop) (X : String → qH → Prop) (t : Nat) (h : qH) : Prop := WA D m_X3_begins Q X 28 [(0, va_rf (some t))] [] h
def L_X3_begins_67 (D : qD) (Q : Option Value → qH → Prop) (X : String → qH → Prop) (t : Nat) (h : qH) : Prop := WA D m_X3_begins Q X 67 [(0, va_rf (some t))] [] h
theorem f_X3_begins {D : qD} {Q : Option Value → qH → Prop} {X : String → qH → Prop} (t : Nat) (h : qH) (F : g_I D h (some t) 2 22 (fun x1 => p_F h (some t) 2 22 (.int (x1 + 1)) (fun h2 => g_I D h2 (some t) 2 9 (fun x3 => p_F h2 (some t) 2 28 (.int x3) (fun h4 => p_F h4 (some t) 2 29 (.int 0) (fun h5 => p_F h5 (some t) 2 30 (.int 0) (fun h6 => L_X3_begins_28 D Q X t h6))))))) : MW D m_X3_begins [va_rf (some t)] h Q X := by
  refine mw_of pl_X3_begins rfl _ (Nat.le_of_ble_eq_true rfl) rfl ?_
  refine (show WA D m_X3_begins Q X 0 [(0, va_rf (some t))] [] h from ?_)
  refine wa_aload_n (o := (some t)) dX3_begins_0 rfl 0 rfl ?_
  refine wa_dup dX3_begins_1 (q_cat _) ?_
  refine wa_getI (C := RX3) (T := TX3) (N := 38) (ci := 2) (k := 22) dX3_begins_2 rfl (Nat.le_of_ble_eq_true rfl) in_X3 q1214 q_same_own (g_I_mono F fun x1 F => ?_)
  refine wa_iconst (v := 1) dX3_begins_5 rfl ?_
  refine wa_iadd dX3_begins_6 ?_
  refine wa_put (C := RX3) (T := TX3) (N := 38) (ci := 2) (k := 22) tyX3 dX3_begins_7 rfl (Nat.le_of_ble_eq_true rfl) in_X3 tyX3_ok nmX3 q1214 q_same_own rfl rfl rfl (p_F_mono F fun h2 F => ?_)
  refine wa_aload_n (o := (some t)) dX3_begins_10 rfl 0 rfl ?_
  refine wa_aload_n (o := (some t)) dX3_begins_11 rfl 0 rfl ?_
  refine wa_getI (C := RX3) (T := TX3) (N := 38) (ci := 2) (k := 9) dX3_begins_12 rfl (Nat.le_of_ble_eq_true rfl) in_X3 q1201 q_same_own (g_I_mono F fun x3 F => ?_)
  refine wa_put (C := RX3) (T := TX3) (N := 38) (ci := 2) (k := 28) tyX3 dX3_begins_15 rfl (Nat.le_of_ble_eq_true rfl) in_X3 tyX3_ok nmX3 q1220 q_same_own rfl rfl rfl (p_F_mono F fun h4 F => ?_)
  refine wa_aload_n (o := (some t)) dX3_begins_18 rfl 0 rfl ?_
  refine wa_iconst (v := 0) dX3_begins_19 rfl ?_
  refine wa_put (C := RX3) (T := TX3) (N := 38) (ci := 2) (k := 29) tyX3 dX3_begins_20 rfl (Nat.le_of_ble_eq_true rfl) in_X3 tyX3_ok nmX3 q1221 q_same_own rfl rfl rfl (p_F_mono F fun h5 F => ?_)
  refine wa_aload_n (o := (some t)) dX3_begins_23 rfl 0 rfl ?_
  refine wa_iconst (v := 0) dX3_begins_24 rfl ?_
  refine wa_put (C := RX3) (T := TX3) (N := 38) (ci := 2) (k := 30) tyX3 dX3_begins_25 rfl (Nat.le_of_ble_eq_true rfl) in_X3 tyX3_ok nmX3 q1222 q_same_own rfl rfl rfl (p_F_mono F fun h6 F => ?_)
  exact F
theorem f_X3_begins_28 {D : qD} {Q : Option Value → qH → Prop} {X : String → qH → Prop} (t : Nat) (h : qH) (F : g_I D h (some t) 2 26 (fun x1 => g_I D h (some t) 2 27 (fun x2 => ((x2 ≤ x1 → Q none h) ∧ (¬ x2 ≤ x1 → g_R D h (some t) 2 2 (fun r3 => g_R D h (some t) 2 25 (fun r4 => g_I D h (some t) 2 26 (fun x5 => a_I D h r4 0 x5 (fun x6 => a_I D h r3 0 x6 (fun x7 => g_I D h (some t) 2 28 (fun x8 => ((x7 ≤ x8 → L_X3_begins_67 D Q X t h) ∧ (¬ x7 ≤ x8 → g_I D h (some t) 2 30 (fun x9 => ((¬ x9 = 0 → Q none h) ∧ (x9 = 0 → L_X3_begins_67 D Q X t h)))))))))))))))) : L_X3_begins_28 D Q X t h := by
  show WA D m_X3_begins Q X 28 [(0, va_rf (some t))] [] h
  refine wa_aload_n (o := (some t)) dX3_begins_28 rfl 0 rfl ?_
  refine wa_getI (C := RX3) (T := TX3) (N := 38) (ci := 2) (k := 26) dX3_begins_29 rfl (Nat.le_of_ble_eq_true rfl) in_X3 q1218 q_same_own (g_I_mono F fun x1 F => ?_)
  refine wa_aload_n (o := (some t)) dX3_begins_32 rfl 0 rfl ?_
  refine wa_getI (C := RX3) (T := TX3) (N := 38) (ci := 2) (k := 27) dX3_begins_33 rfl (Nat.le_of_ble_eq_true rfl) in_X3 q1219 q_same_own (g_I_mono F fun x2 F => ?_)
  refine wa_icmp_ge (tgt := 93) dX3_begins_36 rfl (fun z => ?_) (fun z => ?_)
  · have F := F.1 z
    exact wa_vret rfl dX3_begins_93 F
  · have F := F.2 z
    refine wa_aload_n (o := (some t)) dX3_begins_39 rfl 0 rfl ?_
    refine wa_getR (C := RX3) (T := TX3) (N := 38) (ci := 2) (k := 2) dX3_begins_40 rfl (Nat.le_of_ble_eq_true rfl) in_X3 q1194 q_same_own (g_R_mono F fun r3 F => ?_)
    refine wa_aload_n (o := (some t)) dX3_begins_43 rfl 0 rfl ?_
    refine wa_getR (C := RX3) (T := TX3) (N := 38) (ci := 2) (k := 25) dX3_begins_44 rfl (Nat.le_of_ble_eq_true rfl) in_X3 q1217 q_same_own (g_R_mono F fun r4 F => ?_)
    refine wa_aload_n (o := (some t)) dX3_begins_47 rfl 0 rfl ?_
    refine wa_getI (C := RX3) (T := TX3) (N := 38) (ci := 2) (k := 26) dX3_begins_48 rfl (Nat.le_of_ble_eq_true rfl) in_X3 q1218 q_same_own (g_I_mono F fun x5 F => ?_)
    refine wa_iald dX3_begins_51 (a_I_mono F fun x6 F => ?_)
    refine wa_iald dX3_begins_52 (a_I_mono F fun x7 F => ?_)
    refine wa_aload_n (o := (some t)) dX3_begins_53 rfl 0 rfl ?_
    refine wa_getI (C := RX3) (T := TX3) (N := 38) (ci := 2) (k := 28) dX3_begins_54 rfl (Nat.le_of_ble_eq_true rfl) in_X3 q1220 q_same_own (g_I_mono F fun x8 F => ?_)
    refine wa_icmp_le (tgt := 67) dX3_begins_57 rfl (fun z => ?_) (fun z => ?_)
    · have F := F.1 z
      exact F
    · have F := F.2 z
      refine wa_aload_n (o := (some t)) dX3_begins_60 rfl 0 rfl ?_
      refine wa_getI (C := RX3) (T := TX3) (N := 38) (ci := 2) (k := 30) dX3_begins_61 rfl (Nat.le_of_ble_eq_true rfl) in_X3 q1222 q_same_own (g_I_mono F fun x9 F => ?_)
      refine wa_if_ne (tgt := 93) dX3_begins_64 rfl (fun z => ?_) (fun z => ?_)
      · have F := F.1 z
        exact wa_vret rfl dX3_begins_93 F
      · have F := F.2 z
        exact F
theorem f_X3_begins_67 {D : qD} {Q : Option Value → qH → Prop} {X : String → qH → Prop} (t : Nat) (h : qH) (F : g_R D h (some t) 2 25 (fun r1 => g_I D h (some t) 2 26 (fun x2 => a_I D h r1 0 x2 (fun x3 => (recv D h (some t) RX3 ∧ c_V D m_X3_tops [va_rf (some t), .int x3] h X (fun h4 => g_I D h4 (some t) 2 26 (fun x5 => p_F h4 (some t) 2 26 (.int (x5 + 1)) (fun h6 => L_X3_begins_28 D Q X t h6)))))))) : L_X3_begins_67 D Q X t h := by
  show WA D m_X3_begins Q X 67 [(0, va_rf (some t))] [] h
  refine wa_aload_n (o := (some t)) dX3_begins_67 rfl 0 rfl ?_
  refine wa_aload_n (o := (some t)) dX3_begins_68 rfl 0 rfl ?_
  refine wa_getR (C := RX3) (T := TX3) (N := 38) (ci := 2) (k := 25) dX3_begins_69 rfl (Nat.le_of_ble_eq_true rfl) in_X3 q1217 q_same_own (g_R_mono F fun r1 F => ?_)
  refine wa_aload_n (o := (some t)) dX3_begins_72 rfl 0 rfl ?_
  refine wa_getI (C := RX3) (T := TX3) (N := 38) (ci := 2) (k := 26) dX3_begins_73 rfl (Nat.le_of_ble_eq_true rfl) in_X3 q1218 q_same_own (g_I_mono F fun x2 F => ?_)
  refine wa_iald dX3_begins_76 (a_I_mono F fun x3 F => ?_)
  refine wa_callV (M' := m_X3_tops) (C := RX3) (o := (some t)) (As := [.int x3]) (st := []) dX3_begins_77 ⟨Nat.le_of_ble_eq_true rfl, Nat.le_of_ble_eq_true rfl, nk_X3_tops⟩ q1419 q1421 qs36 q59 q1422 rfl rfl (Nat.zero_le 8) rfl F.1 F.2 (wk_V fun h4 F => ?_)
  refine wa_aload_n (o := (some t)) dX3_begins_80 rfl 0 rfl ?_
  refine wa_dup dX3_begins_81 (q_cat _) ?_
  refine wa_getI (C := RX3) (T := TX3) (N := 38) (ci := 2) (k := 26) dX3_begins_82 rfl (Nat.le_of_ble_eq_true rfl) in_X3 q1218 q_same_own (g_I_mono F fun x5 F => ?_)
  refine wa_iconst (v := 1) dX3_begins_85 rfl ?_
  refine wa_iadd dX3_begins_86 ?_
  refine wa_put (C := RX3) (T := TX3) (N := 38) (ci := 2) (k := 26) tyX3 dX3_begins_87 rfl (Nat.le_of_ble_eq_true rfl) in_X3 tyX3_ok nmX3 q1218 q_same_own rfl rfl rfl (p_F_mono F fun h6 F => ?_)
  refine wa_goto (tgt := 28) dX3_begins_90 rfl ?_
  exact F
def L_X3_needs_34 (D : qD) (Q : Option Value → qH → Prop) (X : String → qH → Prop) (t : Nat) (v1 : Int32) (v3 : Int32) (h : qH) : Prop := WA D m_X3_needs Q X 34 [(0, va_rf (some t)), (1, .int v1), (3, .int v3)] [] h
def L_X3_needs_38 (D : qD) (Q : Option Value → qH → Prop) (X : String → qH → Prop) (t : Nat) (v1 : Int32) (v3 : Int32) (h : qH) : Prop := WA D m_X3_needs Q X 38 [(0, va_rf (some t)), (1, .int v1), (3, .int v3)] [] h
def L_X3_needs_39 (D : qD) (Q : Option Value → qH → Prop) (X : String → qH → Prop) (t : Nat) (v1 : Int32) (v3 : Int32) (s0 : Int32) (h : qH) : Prop := WA D m_X3_needs Q X 39 [(0, va_rf (some t)), (1, .int v1), (3, .int v3)] [.int s0] h
theorem f_X3_needs {D : qD} {Q : Option Value → qH → Prop} {X : String → qH → Prop} (t : Nat) (p0 : Int32) (p1 : Int32) (h : qH) (F : (recv D h (some t) RX3 ∧ c_I D m_X3_takes [va_rf (some t), .int p0, .int p1] h X (fun x2 h1 => g_R D h1 (some t) 2 19 (fun r3 => a_I D h1 r3 1 p0 (fun x4 => ((¬ x4 = 0 → L_X3_needs_34 D Q X t p0 x2 h1) ∧ (x4 = 0 → g_R D h1 (some t) 2 20 (fun r5 => a_I D h1 r5 1 p0 (fun x6 => ((x6 = 0 → L_X3_needs_38 D Q X t p0 x2 h1) ∧ (¬ x6 = 0 → g_R D h1 (some t) 2 21 (fun r7 => a_I D h1 r7 1 p0 (fun x8 => ((x8 = 0 → L_X3_needs_38 D Q X t p0 x2 h1) ∧ (¬ x8 = 0 → L_X3_needs_34 D Q X t p0 x2 h1))))))))))))))) : MW D m_X3_needs [va_rf (some t), .int p0, .int p1] h Q X := by
  refine mw_of pl_X3_needs rfl _ (Nat.le_of_ble_eq_true rfl) rfl ?_
  refine (show WA D m_X3_needs Q X 0 [(0, va_rf (some t)), (1, .int p0), (2, .int p1)] [] h from ?_)
  refine wa_aload_n (o := (some t)) dX3_needs_0 rfl 0 rfl ?_
  refine wa_iload_n (x := p0) dX3_needs_1 rfl 1 rfl ?_
  refine wa_iload_n (x := p1) dX3_needs_2 rfl 2 rfl ?_
  refine wa_callV (M' := m_X3_takes) (C := RX3) (o := (some t)) (As := [.int p0, .int p1]) (st := []) dX3_needs_3 ⟨Nat.le_of_ble_eq_true rfl, Nat.le_of_ble_eq_true rfl, nk_X3_takes⟩ q1427 q1429 qs38 q59 q1430 rfl rfl (Nat.zero_le 8) rfl F.1 F.2 (wk_I fun x2 h1 F => ?_)
  refine ws_istore_n (lv' := [(3, .int x2), (0, va_rf (some t)), (1, .int p0), (2, .int p1)]) dX3_needs_6 rfl (Nat.le_of_ble_eq_true rfl) (q_cr (q_ci (q_ci q_cn))) rfl ?_
  refine wa_aload_n (o := (some t)) dX3_needs_7 rfl 1 rfl ?_
  refine wa_getR (C := RX3) (T := TX3) (N := 38) (ci := 2) (k := 19) dX3_needs_8 rfl (Nat.le_of_ble_eq_true rfl) in_X3 q1211 q_same_own (g_R_mono F fun r3 F => ?_)
  refine wa_iload_n (x := p0) dX3_needs_11 rfl 2 rfl ?_
  refine wa_zald dX3_needs_12 (a_I_mono F fun x4 F => ?_)
  refine wa_if_ne (tgt := 34) dX3_needs_13 rfl (fun z => ?_) (fun z => ?_)
  · have F := F.1 z
    exact wa_sub [1, 2, 0] rfl F
  · have F := F.2 z
    refine wa_aload_n (o := (some t)) dX3_needs_16 rfl 1 rfl ?_
    refine wa_getR (C := RX3) (T := TX3) (N := 38) (ci := 2) (k := 20) dX3_needs_17 rfl (Nat.le_of_ble_eq_true rfl) in_X3 q1212 q_same_own (g_R_mono F fun r5 F => ?_)
    refine wa_iload_n (x := p0) dX3_needs_20 rfl 2 rfl ?_
    refine wa_zald dX3_needs_21 (a_I_mono F fun x6 F => ?_)
    refine wa_if_eq (tgt := 38) dX3_needs_22 rfl (fun z => ?_) (fun z => ?_)
    · have F := F.1 z
      exact wa_sub [1, 2, 0] rfl F
    · have F := F.2 z
      refine wa_aload_n (o := (some t)) dX3_needs_25 rfl 1 rfl ?_
      refine wa_getR (C := RX3) (T := TX3) (N := 38) (ci := 2) (k := 21) dX3_needs_26 rfl (Nat.le_of_ble_eq_true rfl) in_X3 q1213 q_same_own (g_R_mono F fun r7 F => ?_)
      refine wa_iload_n (x := p0) dX3_needs_29 rfl 2 rfl ?_
      refine wa_zald dX3_needs_30 (a_I_mono F fun x8 F => ?_)
      refine wa_if_eq (tgt := 38) dX3_needs_31 rfl (fun z => ?_) (fun z => ?_)
      · have F := F.1 z
        exact wa_sub [1, 2, 0] rfl F
      · have F := F.2 z
        exact wa_sub [1, 2, 0] rfl F
theorem f_X3_needs_34 {D : qD} {Q : Option Value → qH → Prop} {X : String → qH → Prop} (t : Nat) (v1 : Int32) (v3 : Int32) (h : qH) (F : L_X3_needs_39 D Q X t v1 v3 1 h) : L_X3_needs_34 D Q X t v1 v3 h := by
  show WA D m_X3_needs Q X 34 [(0, va_rf (some t)), (1, .int v1), (3, .int v3)] [] h
  refine wa_iconst (v := 1) dX3_needs_34 rfl ?_
  refine wa_goto (tgt := 39) dX3_needs_35 rfl ?_
  exact F
theorem f_X3_needs_38 {D : qD} {Q : Option Value → qH → Prop} {X : String → qH → Prop} (t : Nat) (v1 : Int32) (v3 : Int32) (h : qH) (F : L_X3_needs_39 D Q X t v1 v3 0 h) : L_X3_needs_38 D Q X t v1 v3 h := by
  show WA D m_X3_needs Q X 38 [(0, va_rf (some t)), (1, .int v1), (3, .int v3)] [] h
  refine wa_iconst (v := 0) dX3_needs_38 rfl ?_
  exact F
theorem f_X3_needs_39 {D : qD} {Q : Option Value → qH → Prop} {X : String → qH → Prop} (t : Nat) (v1 : Int32) (v3 : Int32) (s0 : Int32) (h : qH) (F : ((s0 = 0 → Q (some (.int v3)) h) ∧ (¬ s0 = 0 → g_I D h (some t) 2 14 (fun x1 => ((x1 ≤ (v1 + 1) → Q (some (.int v3)) h) ∧ (¬ x1 ≤ (v1 + 1) → (recv D h (some t) RX3 ∧ c_I D m_X3_takes [va_rf (some t), .int (v1 + 1), .int 1] h X (fun x3 h2 => g_R D h2 (some t) 2 19 (fun r4 => a_I D h2 r4 1 v1 (fun x5 => ((x5 = 0 → Q (some (.int (v3 + x3))) h2) ∧ (¬ x5 = 0 → g_R D h2 (some t) 2 19 (fun r6 => a_I D h2 r6 1 (v1 + 1) (fun x7 => ((¬ x7 = 0 → Q (some (.int (v3 + x3))) h2) ∧ (x7 = 0 → g_R D h2 (some t) 2 20 (fun r8 => a_I D h2 r8 1 (v1 + 1) (fun x9 => ((x9 = 0 → Q (some (.int (v3 + x3))) h2) ∧ (¬ x9 = 0 → g_R D h2 (some t) 2 21 (fun r10 => a_I D h2 r10 1 (v1 + 1) (fun x11 => ((x11 = 0 → Q (some (.int (v3 + x3))) h2) ∧ (¬ x11 = 0 → (recv D h2 (some t) RX3 ∧ c_I D m_X3_takes [va_rf (some t), .int (v1 + 2), .int 1] h2 X (fun x13 h12 => Q (some (.int ((v3 + x3) + x13))) h12)))))))))))))))))))))))))) : L_X3_needs_39 D Q X t v1 v3 s0 h := by
  show WA D m_X3_needs Q X 39 [(0, va_rf (some t)), (1, .int v1), (3, .int v3)] [.int s0] h
  refine ws_istore (lv' := [(4, .int s0), (0, va_rf (some t)), (1, .int v1), (3, .int v3)]) dX3_needs_39 (Nat.le_of_ble_eq_true rfl) (q_cr (q_ci (q_ci q_cn))) rfl ?_
  refine wa_iload (x := s0) dX3_needs_41 0 rfl ?_
  refine wa_if_eq (tgt := 120) dX3_needs_43 rfl (fun z => ?_) (fun z => ?_)
  · have F := F.1 z
    refine wa_iload_n (x := v3) dX3_needs_120 rfl 3 rfl ?_
    exact wa_iret rfl dX3_needs_121 F
  · have F := F.2 z
    refine wa_iload_n (x := v1) dX3_needs_46 rfl 2 rfl ?_
    refine wa_iconst (v := 1) dX3_needs_47 rfl ?_
    refine wa_iadd dX3_needs_48 ?_
    refine wa_aload_n (o := (some t)) dX3_needs_49 rfl 1 rfl ?_
    refine wa_getI (C := RX3) (T := TX3) (N := 38) (ci := 2) (k := 14) dX3_needs_50 rfl (Nat.le_of_ble_eq_true rfl) in_X3 q1206 q_same_own (g_I_mono F fun x1 F => ?_)
    refine wa_icmp_ge (tgt := 120) dX3_needs_53 rfl (fun z => ?_) (fun z => ?_)
    · have F := F.1 z
      refine wa_iload_n (x := v3) dX3_needs_120 rfl 3 rfl ?_
      exact wa_iret rfl dX3_needs_121 F
    · have F := F.2 z
      refine wa_iload_n (x := v3) dX3_needs_56 rfl 3 rfl ?_
      refine wa_aload_n (o := (some t)) dX3_needs_57 rfl 1 rfl ?_
      refine wa_iload_n (x := v1) dX3_needs_58 rfl 2 rfl ?_
      refine wa_iconst (v := 1) dX3_needs_59 rfl ?_
      refine wa_iadd dX3_needs_60 ?_
      refine wa_iconst (v := 1) dX3_needs_61 rfl ?_
      refine wa_callV (M' := m_X3_takes) (C := RX3) (o := (some t)) (As := [.int (v1 + 1), .int 1]) (st := [.int v3]) dX3_needs_62 ⟨Nat.le_of_ble_eq_true rfl, Nat.le_of_ble_eq_true rfl, nk_X3_takes⟩ q1427 q1429 qs38 q59 q1430 rfl rfl (q_cs_le (q_csi q_cs0) (Nat.le_of_ble_eq_true rfl)) rfl F.1 F.2 (wk_I fun x3 h2 F => ?_)
      refine wa_iadd dX3_needs_65 ?_
      refine ws_istore_n (lv' := [(3, .int (v3 + x3)), (4, .int s0), (0, va_rf (some t)), (1, .int v1)]) dX3_needs_66 rfl (Nat.le_of_ble_eq_true rfl) (q_ci (q_cr (q_ci (q_ci q_cn)))) rfl ?_
      refine wa_aload_n (o := (some t)) dX3_needs_67 rfl 2 rfl ?_
      refine wa_getR (C := RX3) (T := TX3) (N := 38) (ci := 2) (k := 19) dX3_needs_68 rfl (Nat.le_of_ble_eq_true rfl) in_X3 q1211 q_same_own (g_R_mono F fun r4 F => ?_)
      refine wa_iload_n (x := v1) dX3_needs_71 rfl 3 rfl ?_
      refine wa_zald dX3_needs_72 (a_I_mono F fun x5 F => ?_)
      refine wa_if_eq (tgt := 120) dX3_needs_73 rfl (fun z => ?_) (fun z => ?_)
      · have F := F.1 z
        refine wa_iload_n (x := (v3 + x3)) dX3_needs_120 rfl 0 rfl ?_
        exact wa_iret rfl dX3_needs_121 F
      · have F := F.2 z
        refine wa_aload_n (o := (some t)) dX3_needs_76 rfl 2 rfl ?_
        refine wa_getR (C := RX3) (T := TX3) (N := 38) (ci := 2) (k := 19) dX3_needs_77 rfl (Nat.le_of_ble_eq_true rfl) in_X3 q1211 q_same_own (g_R_mono F fun r6 F => ?_)
        refine wa_iload_n (x := v1) dX3_needs_80 rfl 3 rfl ?_
        refine wa_iconst (v := 1) dX3_needs_81 rfl ?_
        refine wa_iadd dX3_needs_82 ?_
        refine wa_zald dX3_needs_83 (a_I_mono F fun x7 F => ?_)
        refine wa_if_ne (tgt := 120) dX3_needs_84 rfl (fun z => ?_) (fun z => ?_)
        · have F := F.1 z
          refine wa_iload_n (x := (v3 + x3)) dX3_needs_120 rfl 0 rfl ?_
          exact wa_iret rfl dX3_needs_121 F
        · have F := F.2 z
          refine wa_aload_n (o := (some t)) dX3_needs_87 rfl 2 rfl ?_
          refine wa_getR (C := RX3) (T := TX3) (N := 38) (ci := 2) (k := 20) dX3_needs_88 rfl (Nat.le_of_ble_eq_true rfl) in_X3 q1212 q_same_own (g_R_mono F fun r8 F => ?_)
          refine wa_iload_n (x := v1) dX3_needs_91 rfl 3 rfl ?_
          refine wa_iconst (v := 1) dX3_needs_92 rfl ?_
          refine wa_iadd dX3_needs_93 ?_
          refine wa_zald dX3_needs_94 (a_I_mono F fun x9 F => ?_)
          refine wa_if_eq (tgt := 120) dX3_needs_95 rfl (fun z => ?_) (fun z => ?_)
          · have F := F.1 z
            refine wa_iload_n (x := (v3 + x3)) dX3_needs_120 rfl 0 rfl ?_
            exact wa_iret rfl dX3_needs_121 F
          · have F := F.2 z
            refine wa_aload_n (o := (some t)) dX3_needs_98 rfl 2 rfl ?_
            refine wa_getR (C := RX3) (T := TX3) (N := 38) (ci := 2) (k := 21) dX3_needs_99 rfl (Nat.le_of_ble_eq_true rfl) in_X3 q1213 q_same_own (g_R_mono F fun r10 F => ?_)
            refine wa_iload_n (x := v1) dX3_needs_102 rfl 3 rfl ?_
            refine wa_iconst (v := 1) dX3_needs_103 rfl ?_
            refine wa_iadd dX3_needs_104 ?_
            refine wa_zald dX3_needs_105 (a_I_mono F fun x11 F => ?_)
            refine wa_if_eq (tgt := 120) dX3_needs_106 rfl (fun z => ?_) (fun z => ?_)
            · have F := F.1 z
              refine wa_iload_n (x := (v3 + x3)) dX3_needs_120 rfl 0 rfl ?_
              exact wa_iret rfl dX3_needs_121 F
            · have F := F.2 z
              refine wa_iload_n (x := (v3 + x3)) dX3_needs_109 rfl 0 rfl ?_
              refine wa_aload_n (o := (some t)) dX3_needs_110 rfl 2 rfl ?_
              refine wa_iload_n (x := v1) dX3_needs_111 rfl 3 rfl ?_
              refine wa_iconst (v := 2) dX3_needs_112 rfl ?_
              refine wa_iadd dX3_needs_113 ?_
              refine wa_iconst (v := 1) dX3_needs_114 rfl ?_
              refine wa_callV (M' := m_X3_takes) (C := RX3) (o := (some t)) (As := [.int (v1 + 2), .int 1]) (st := [.int (v3 + x3)]) dX3_needs_115 ⟨Nat.le_of_ble_eq_true rfl, Nat.le_of_ble_eq_true rfl, nk_X3_takes⟩ q1427 q1429 qs38 q59 q1430 rfl rfl (q_cs_le (q_csi q_cs0) (Nat.le_of_ble_eq_true rfl)) rfl F.1 F.2 (wk_I fun x13 h12 F => ?_)
              refine wa_iadd dX3_needs_118 ?_
              refine ws_istore_n (lv' := [(3, .int ((v3 + x3) + x13)), (4, .int s0), (0, va_rf (some t)), (1, .int v1)]) dX3_needs_119 rfl (Nat.le_of_ble_eq_true rfl) (q_ci (q_ci (q_cr (q_ci q_cn)))) rfl ?_
              refine wa_iload_n (x := ((v3 + x3) + x13)) dX3_needs_120 rfl 0 rfl ?_
              exact wa_iret rfl dX3_needs_121 F
def L_X3_frontBy_7 (D : qD) (Q : Option Value → qH → Prop) (X : String → qH → Prop) (t : Nat) (v1 : Int32) (v2 : Int32) (v3 : Int32) (v4 : Int32) (h : qH) : Prop := WA D m_X3_frontBy Q X 7 [(0, va_rf (some t)), (1, .int v1), (2, .int v2), (3, .int v3), (4, .int v4)] [] h
def L_X3_frontBy_61 (D : qD) (Q : Option Value → qH → Prop) (X : String → qH → Prop) (t : Nat) (v1 : Int32) (v2 : Int32) (v3 : Int32) (v4 : Int32) (h : qH) : Prop := WA D m_X3_frontBy Q X 61 [(0, va_rf (some t)), (1, .int v1), (2, .int v2), (3, .int v3), (4, .int v4)] [] h
def L_X3_frontBy_48 (D : qD) (Q : Option Value → qH → Prop) (X : String → qH → Prop) (t : Nat) (v1 : Int32) (v2 : Int32) (v4 : Int32) (v5 : Int32) (h : qH) : Prop := WA D m_X3_frontBy Q X 48 [(0, va_rf (some t)), (1, .int v1), (2, .int v2), (4, .int v4), (5, .int v5)] [] h
def L_X3_frontBy_56 (D : qD) (Q : Option Value → qH → Prop) (X : String → qH → Prop) (t : Nat) (v1 : Int32) (v2 : Int32) (v3 : Int32) (v4 : Int32) (v5 : Int32) (h : qH) : Prop := WA D m_X3_frontBy Q X 56 [(0, va_rf (some t)), (1, .int v1), (2, .int v2), (3, .int v3), (4, .int v4), (5, .int v5)] [] h
theorem f_X3_frontBy {D : qD} {Q : Option Value → qH → Prop} {X : String → qH → Prop} (t : Nat) (p0 : Int32) (h : qH) (F : L_X3_frontBy_7 D Q X t p0 0 0 0 h) : MW D m_X3_frontBy [va_rf (some t), .int p0] h Q X := by
  refine mw_of pl_X3_frontBy rfl _ (Nat.le_of_ble_eq_true rfl) rfl ?_
  refine (show WA D m_X3_frontBy Q X 0 [(0, va_rf (some t)), (1, .int p0)] [] h from ?_)
  refine wa_iconst (v := 0) dX3_frontBy_0 rfl ?_
  refine ws_istore_n (lv' := [(2, .int 0), (0, va_rf (some t)), (1, .int p0)]) dX3_frontBy_1 rfl (Nat.le_of_ble_eq_true rfl) (q_cr (q_ci q_cn)) rfl ?_
  refine wa_iconst (v := 0) dX3_frontBy_2 rfl ?_
  refine ws_istore_n (lv' := [(3, .int 0), (2, .int 0), (0, va_rf (some t)), (1, .int p0)]) dX3_frontBy_3 rfl (Nat.le_of_ble_eq_true rfl) (q_ci (q_cr (q_ci q_cn))) rfl ?_
  refine wa_iconst (v := 0) dX3_frontBy_4 rfl ?_
  refine ws_istore (lv' := [(4, .int 0), (3, .int 0), (2, .int 0), (0, va_rf (some t)), (1, .int p0)]) dX3_frontBy_5 (Nat.le_of_ble_eq_true rfl) (q_ci (q_ci (q_cr (q_ci q_cn)))) rfl ?_
  exact wa_sub [3, 4, 2, 1, 0] rfl F
theorem f_X3_frontBy_7 {D : qD} {Q : Option Value → qH → Prop} {X : String → qH → Prop} (t : Nat) (v1 : Int32) (v2 : Int32) (v3 : Int32) (v4 : Int32) (h : qH) (F : g_I D h (some t) 2 14 (fun x1 => ((x1 ≤ v4 → (recv D h (some t) RX3 ∧ c_I D m_X3_pagesOf [va_rf (some t), .int v2] h X (fun x3 h2 => Q (some (.int (x3 + (x3 - x3 / 2 * 2)))) h2))) ∧ (¬ x1 ≤ v4 → g_R D h (some t) 2 19 (fun r4 => a_I D h r4 1 v4 (fun x5 => ((x5 = 0 → L_X3_frontBy_61 D Q X t v1 v2 v3 v4 h) ∧ (¬ x5 = 0 → (recv D h (some t) RX3 ∧ c_I D m_X3_pageBy [va_rf (some t), .int v4, .int v1] h X (fun x7 h6 => c_I D m_X3_figures [.int x7] h6 X (fun x9 h8 => ((v2 = 0 → L_X3_frontBy_48 D Q X t v1 v2 v4 x9 h8) ∧ (¬ v2 = 0 → ((x9 ≤ v3 → L_X3_frontBy_56 D Q X t v1 v2 v3 v4 x9 h8) ∧ (¬ x9 ≤ v3 → L_X3_frontBy_48 D Q X t v1 v2 v4 x9 h8))))))))))))))) : L_X3_frontBy_7 D Q X t v1 v2 v3 v4 h := by
  show WA D m_X3_frontBy Q X 7 [(0, va_rf (some t)), (1, .int v1), (2, .int v2), (3, .int v3), (4, .int v4)] [] h
  refine wa_iload (x := v4) dX3_frontBy_7 4 rfl ?_
  refine wa_aload_n (o := (some t)) dX3_frontBy_9 rfl 0 rfl ?_
  refine wa_getI (C := RX3) (T := TX3) (N := 38) (ci := 2) (k := 14) dX3_frontBy_10 rfl (Nat.le_of_ble_eq_true rfl) in_X3 q1206 q_same_own (g_I_mono F fun x1 F => ?_)
  refine wa_icmp_ge (tgt := 67) dX3_frontBy_13 rfl (fun z => ?_) (fun z => ?_)
  · have F := F.1 z
    refine wa_aload_n (o := (some t)) dX3_frontBy_67 rfl 0 rfl ?_
    refine wa_iload_n (x := v2) dX3_frontBy_68 rfl 2 rfl ?_
    refine wa_callV (M' := m_X3_pagesOf) (C := RX3) (o := (some t)) (As := [.int v2]) (st := []) dX3_frontBy_69 ⟨Nat.le_of_ble_eq_true rfl, Nat.le_of_ble_eq_true rfl, nk_X3_pagesOf⟩ q1446 q1448 qs42 q59 q1449 rfl rfl (Nat.zero_le 8) rfl F.1 F.2 (wk_I fun x3 h2 F => ?_)
    refine ws_istore (lv' := [(4, .int x3), (0, va_rf (some t)), (1, .int v1), (2, .int v2), (3, .int v3)]) dX3_frontBy_72 (Nat.le_of_ble_eq_true rfl) (q_cr (q_ci (q_ci (q_ci (q_ci q_cn))))) rfl ?_
    refine wa_iload (x := x3) dX3_frontBy_74 0 rfl ?_
    refine wa_iload (x := x3) dX3_frontBy_76 0 rfl ?_
    refine wa_iconst (v := 2) dX3_frontBy_78 rfl ?_
    refine wa_irem dX3_frontBy_79 (by decide) ?_
    refine wa_iadd dX3_frontBy_80 ?_
    exact wa_iret rfl dX3_frontBy_81 F
  · have F := F.2 z
    refine wa_aload_n (o := (some t)) dX3_frontBy_16 rfl 0 rfl ?_
    refine wa_getR (C := RX3) (T := TX3) (N := 38) (ci := 2) (k := 19) dX3_frontBy_17 rfl (Nat.le_of_ble_eq_true rfl) in_X3 q1211 q_same_own (g_R_mono F fun r4 F => ?_)
    refine wa_iload (x := v4) dX3_frontBy_20 4 rfl ?_
    refine wa_zald dX3_frontBy_22 (a_I_mono F fun x5 F => ?_)
    refine wa_if_eq (tgt := 61) dX3_frontBy_23 rfl (fun z => ?_) (fun z => ?_)
    · have F := F.1 z
      exact F
    · have F := F.2 z
      refine wa_aload_n (o := (some t)) dX3_frontBy_26 rfl 0 rfl ?_
      refine wa_iload (x := v4) dX3_frontBy_27 4 rfl ?_
      refine wa_iload_n (x := v1) dX3_frontBy_29 rfl 1 rfl ?_
      refine wa_callV (M' := m_X3_pageBy) (C := RX3) (o := (some t)) (As := [.int v4, .int v1]) (st := []) dX3_frontBy_30 ⟨Nat.le_of_ble_eq_true rfl, Nat.le_of_ble_eq_true rfl, nk_X3_pageBy⟩ q1439 q1441 qs41 q59 q1442 rfl rfl (Nat.zero_le 8) rfl F.1 F.2 (wk_I fun x7 h6 F => ?_)
      refine wa_callS (M' := m_X3_figures) (As := [.int x7]) (st := []) dX3_frontBy_33 ⟨Nat.le_of_ble_eq_true rfl, Nat.le_of_ble_eq_true rfl, nk_X3_figures⟩ q1443 q1444 q59 q1445 rfl rfl (Nat.zero_le 8) rfl F (wk_I fun x9 h8 F => ?_)
      refine ws_istore (lv' := [(5, .int x9), (0, va_rf (some t)), (1, .int v1), (2, .int v2), (3, .int v3), (4, .int v4)]) dX3_frontBy_36 (Nat.le_of_ble_eq_true rfl) (q_cr (q_ci (q_ci (q_ci (q_ci q_cn))))) rfl ?_
      refine wa_iload_n (x := v2) dX3_frontBy_38 rfl 3 rfl ?_
      refine wa_if_eq (tgt := 48) dX3_frontBy_39 rfl (fun z => ?_) (fun z => ?_)
      · have F := F.1 z
        exact wa_sub [1, 2, 3, 5, 0] rfl F
      · have F := F.2 z
        refine wa_iload (x := x9) dX3_frontBy_42 0 rfl ?_
        refine wa_iload_n (x := v3) dX3_frontBy_44 rfl 4 rfl ?_
        refine wa_icmp_le (tgt := 56) dX3_frontBy_45 rfl (fun z => ?_) (fun z => ?_)
        · have F := F.1 z
          exact wa_sub [1, 2, 3, 4, 5, 0] rfl F
        · have F := F.2 z
          exact wa_sub [1, 2, 3, 5, 0] rfl F
theorem f_X3_frontBy_61 {D : qD} {Q : Option Value → qH → Prop} {X : String → qH → Prop} (t : Nat) (v1 : Int32) (v2 : Int32) (v3 : Int32) (v4 : Int32) (h : qH) (F : L_X3_frontBy_7 D Q X t v1 v2 v3 (v4 + 1) h) : L_X3_frontBy_61 D Q X t v1 v2 v3 v4 h := by
  show WA D m_X3_frontBy Q X 61 [(0, va_rf (some t)), (1, .int v1), (2, .int v2), (3, .int v3), (4, .int v4)] [] h
  refine ws_iinc (j := 4) (v := (v4 + 1)) (lv' := [(4, .int (v4 + 1)), (0, va_rf (some t)), (1, .int v1), (2, .int v2), (3, .int v3)]) dX3_frontBy_61 rfl rfl (Nat.le_of_ble_eq_true rfl) (q_cr (q_ci (q_ci (q_ci (q_ci q_cn))))) rfl ?_
  refine wa_goto (tgt := 7) dX3_frontBy_64 rfl ?_
  exact wa_sub [1, 2, 3, 4, 0] rfl F
theorem f_X3_frontBy_48 {D : qD} {Q : Option Value → qH → Prop} {X : String → qH → Prop} (t : Nat) (v1 : Int32) (v2 : Int32) (v4 : Int32) (v5 : Int32) (h : qH) (F : g_I D h (some t) 2 9 (fun x1 => L_X3_frontBy_56 D Q X t v1 (v2 + 1) x1 v4 v5 h)) : L_X3_frontBy_48 D Q X t v1 v2 v4 v5 h := by
  show WA D m_X3_frontBy Q X 48 [(0, va_rf (some t)), (1, .int v1), (2, .int v2), (4, .int v4), (5, .int v5)] [] h
  refine ws_iinc (j := 2) (v := (v2 + 1)) (lv' := [(2, .int (v2 + 1)), (0, va_rf (some t)), (1, .int v1), (4, .int v4), (5, .int v5)]) dX3_frontBy_48 rfl rfl (Nat.le_of_ble_eq_true rfl) (q_cr (q_ci (q_ci (q_ci (q_ci q_cn))))) rfl ?_
  refine wa_aload_n (o := (some t)) dX3_frontBy_51 rfl 1 rfl ?_
  refine wa_getI (C := RX3) (T := TX3) (N := 38) (ci := 2) (k := 9) dX3_frontBy_52 rfl (Nat.le_of_ble_eq_true rfl) in_X3 q1201 q_same_own (g_I_mono F fun x1 F => ?_)
  refine ws_istore_n (lv' := [(3, .int x1), (2, .int (v2 + 1)), (0, va_rf (some t)), (1, .int v1), (4, .int v4), (5, .int v5)]) dX3_frontBy_55 rfl (Nat.le_of_ble_eq_true rfl) (q_ci (q_cr (q_ci (q_ci (q_ci q_cn))))) rfl ?_
  exact wa_sub [2, 3, 1, 0, 4, 5] rfl F
theorem f_X3_frontBy_56 {D : qD} {Q : Option Value → qH → Prop} {X : String → qH → Prop} (t : Nat) (v1 : Int32) (v2 : Int32) (v3 : Int32) (v4 : Int32) (v5 : Int32) (h : qH) (F : L_X3_frontBy_61 D Q X t v1 v2 (v3 - v5) v4 h) : L_X3_frontBy_56 D Q X t v1 v2 v3 v4 v5 h := by
  show WA D m_X3_frontBy Q X 56 [(0, va_rf (some t)), (1, .int v1), (2, .int v2), (3, .int v3), (4, .int v4), (5, .int v5)] [] h
  refine wa_iload_n (x := v3) dX3_frontBy_56 rfl 3 rfl ?_
  refine wa_iload (x := v5) dX3_frontBy_57 5 rfl ?_
  refine wa_isub dX3_frontBy_59 ?_
  refine ws_istore_n (lv' := [(3, .int (v3 - v5)), (0, va_rf (some t)), (1, .int v1), (2, .int v2), (4, .int v4), (5, .int v5)]) dX3_frontBy_60 rfl (Nat.le_of_ble_eq_true rfl) (q_cr (q_ci (q_ci (q_ci (q_ci (q_ci q_cn)))))) rfl ?_
  exact wa_sub [1, 2, 3, 0, 4] rfl F
theorem f_X3_page {D : qD} {Q : Option Value → qH → Prop} {X : String → qH → Prop} (t : Nat) (p0 : Int32) (h : qH) (F : g_I D h (some t) 2 24 (fun x1 => ((x1 = 0 → Q (some (.int (-1))) h) ∧ (¬ x1 = 0 → g_I D h (some t) 2 23 (fun x2 => (recv D h (some t) RX3 ∧ c_I D m_X3_pageBy [va_rf (some t), .int p0, .int x2] h X (fun x4 h3 => Q (some (.int x4)) h3))))))) : MW D m_X3_page [va_rf (some t), .int p0] h Q X := by
  refine mw_of pl_X3_page rfl _ (Nat.le_of_ble_eq_true rfl) rfl ?_
  refine (show WA D m_X3_page Q X 0 [(0, va_rf (some t)), (1, .int p0)] [] h from ?_)
  refine wa_aload_n (o := (some t)) dX3_page_0 rfl 0 rfl ?_
  refine wa_getI (C := RX3) (T := TX3) (N := 38) (ci := 2) (k := 24) dX3_page_1 rfl (Nat.le_of_ble_eq_true rfl) in_X3 q1216 q_same_own (g_I_mono F fun x1 F => ?_)
  refine wa_if_eq (tgt := 19) dX3_page_4 rfl (fun z => ?_) (fun z => ?_)
  · have F := F.1 z
    refine wa_iconst (v := -1) dX3_page_19 rfl ?_
    exact wa_iret rfl dX3_page_20 F
  · have F := F.2 z
    refine wa_aload_n (o := (some t)) dX3_page_7 rfl 0 rfl ?_
    refine wa_iload_n (x := p0) dX3_page_8 rfl 1 rfl ?_
    refine wa_aload_n (o := (some t)) dX3_page_9 rfl 0 rfl ?_
    refine wa_getI (C := RX3) (T := TX3) (N := 38) (ci := 2) (k := 23) dX3_page_10 rfl (Nat.le_of_ble_eq_true rfl) in_X3 q1215 q_same_own (g_I_mono F fun x2 F => ?_)
    refine wa_callV (M' := m_X3_pageBy) (C := RX3) (o := (some t)) (As := [.int p0, .int x2]) (st := []) dX3_page_13 ⟨Nat.le_of_ble_eq_true rfl, Nat.le_of_ble_eq_true rfl, nk_X3_pageBy⟩ q1439 q1441 qs41 q59 q1442 rfl rfl (Nat.zero_le 8) rfl F.1 F.2 (wk_I fun x4 h3 F => ?_)
    refine wa_goto (tgt := 20) dX3_page_16 rfl ?_
    exact wa_iret rfl dX3_page_20 F
theorem f_X3_counts {D : qD} {Q : Option Value → qH → Prop} {X : String → qH → Prop} (t : Nat) (p0 : Int32) (p1 : Int32) (h : qH) (F : g_R D h (some t) 2 1 (fun r1 => a_I D h r1 0 p0 (fun x2 => ((¬ x2 = 6 → Q (some (.int 0)) h) ∧ (x2 = 6 → g_R D h (some t) 2 15 (fun r3 => a_I D h r3 0 p0 (fun x4 => ((x4 = (-1) → Q (some (.int 0)) h) ∧ (¬ x4 = (-1) → g_R D h (some t) 2 2 (fun r5 => a_I D h r5 0 p0 (fun x6 => (recv D h (some t) RX3 ∧ c_I D m_X3_lastOf [va_rf (some t), .int x6] h X (fun x8 h7 => ((¬ x8 = p1 → Q (some (.int 0)) h7) ∧ (x8 = p1 → Q (some (.int 1)) h7))))))))))))))) : MW D m_X3_counts [va_rf (some t), .int p0, .int p1] h Q X := by
  refine mw_of pl_X3_counts rfl _ (Nat.le_of_ble_eq_true rfl) rfl ?_
  refine (show WA D m_X3_counts Q X 0 [(0, va_rf (some t)), (1, .int p0), (2, .int p1)] [] h from ?_)
  refine wa_aload_n (o := (some t)) dX3_counts_0 rfl 0 rfl ?_
  refine wa_getR (C := RX3) (T := TX3) (N := 38) (ci := 2) (k := 1) dX3_counts_1 rfl (Nat.le_of_ble_eq_true rfl) in_X3 q1193 q_same_own (g_R_mono F fun r1 F => ?_)
  refine wa_iload_n (x := p0) dX3_counts_4 rfl 1 rfl ?_
  refine wa_iald dX3_counts_5 (a_I_mono F fun x2 F => ?_)
  refine wa_bipush (v := 6) dX3_counts_6 rfl ?_
  refine wa_icmp_ne (tgt := 39) dX3_counts_8 rfl (fun z => ?_) (fun z => ?_)
  · have F := F.1 z
    refine wa_iconst (v := 0) dX3_counts_39 rfl ?_
    exact wa_zret rfl rfl dX3_counts_40 F
  · have F := F.2 z
    refine wa_aload_n (o := (some t)) dX3_counts_11 rfl 0 rfl ?_
    refine wa_getR (C := RX3) (T := TX3) (N := 38) (ci := 2) (k := 15) dX3_counts_12 rfl (Nat.le_of_ble_eq_true rfl) in_X3 q1207 q_same_own (g_R_mono F fun r3 F => ?_)
    refine wa_iload_n (x := p0) dX3_counts_15 rfl 1 rfl ?_
    refine wa_iald dX3_counts_16 (a_I_mono F fun x4 F => ?_)
    refine wa_iconst (v := -1) dX3_counts_17 rfl ?_
    refine wa_icmp_eq (tgt := 39) dX3_counts_18 rfl (fun z => ?_) (fun z => ?_)
    · have F := F.1 z
      refine wa_iconst (v := 0) dX3_counts_39 rfl ?_
      exact wa_zret rfl rfl dX3_counts_40 F
    · have F := F.2 z
      refine wa_aload_n (o := (some t)) dX3_counts_21 rfl 0 rfl ?_
      refine wa_aload_n (o := (some t)) dX3_counts_22 rfl 0 rfl ?_
      refine wa_getR (C := RX3) (T := TX3) (N := 38) (ci := 2) (k := 2) dX3_counts_23 rfl (Nat.le_of_ble_eq_true rfl) in_X3 q1194 q_same_own (g_R_mono F fun r5 F => ?_)
      refine wa_iload_n (x := p0) dX3_counts_26 rfl 1 rfl ?_
      refine wa_iald dX3_counts_27 (a_I_mono F fun x6 F => ?_)
      refine wa_callV (M' := m_X3_lastOf) (C := RX3) (o := (some t)) (As := [.int x6]) (st := []) dX3_counts_28 ⟨Nat.le_of_ble_eq_true rfl, Nat.le_of_ble_eq_true rfl, nk_X3_lastOf⟩ q1483 q1485 qs45 q59 q1486 rfl rfl (Nat.zero_le 8) rfl F.1 F.2 (wk_I fun x8 h7 F => ?_)
      refine wa_iload_n (x := p1) dX3_counts_31 rfl 2 rfl ?_
      refine wa_icmp_ne (tgt := 39) dX3_counts_32 rfl (fun z => ?_) (fun z => ?_)
      · have F := F.1 z
        refine wa_iconst (v := 0) dX3_counts_39 rfl ?_
        exact wa_zret rfl rfl dX3_counts_40 F
      · have F := F.2 z
        refine wa_iconst (v := 1) dX3_counts_35 rfl ?_
        refine wa_goto (tgt := 40) dX3_counts_36 rfl ?_
        exact wa_zret rfl rfl dX3_counts_40 F
theorem f_X3_sheetOf {D : qD} {Q : Option Value → qH → Prop} {X : String → qH → Prop} (t : Nat) (p0 : Int32) (h : qH) (F : g_I D h (some t) 2 12 (fun x1 => (¬ x1 = 0 ∧ g_I D h (some t) 2 12 (fun x2 => (recv D h (some t) RX3 ∧ c_I D m_X3_within [va_rf (some t), .int p0] h X (fun x4 h3 => Q (some (.int ((((p0 - 1) / x1) * (x2 / 4)) + x4))) h3)))))) : MW D m_X3_sheetOf [va_rf (some t), .int p0] h Q X := by
  refine mw_of pl_X3_sheetOf rfl _ (Nat.le_of_ble_eq_true rfl) rfl ?_
  refine (show WA D m_X3_sheetOf Q X 0 [(0, va_rf (some t)), (1, .int p0)] [] h from ?_)
  refine wa_iload_n (x := p0) dX3_sheetOf_0 rfl 1 rfl ?_
  refine wa_iconst (v := 1) dX3_sheetOf_1 rfl ?_
  refine wa_isub dX3_sheetOf_2 ?_
  refine wa_aload_n (o := (some t)) dX3_sheetOf_3 rfl 0 rfl ?_
  refine wa_getI (C := RX3) (T := TX3) (N := 38) (ci := 2) (k := 12) dX3_sheetOf_4 rfl (Nat.le_of_ble_eq_true rfl) in_X3 q1204 q_same_own (g_I_mono F fun x1 F => ?_)
  refine wa_idiv dX3_sheetOf_7 F.1 ?_
  have F := F.2
  refine wa_aload_n (o := (some t)) dX3_sheetOf_8 rfl 0 rfl ?_
  refine wa_getI (C := RX3) (T := TX3) (N := 38) (ci := 2) (k := 12) dX3_sheetOf_9 rfl (Nat.le_of_ble_eq_true rfl) in_X3 q1204 q_same_own (g_I_mono F fun x2 F => ?_)
  refine wa_iconst (v := 4) dX3_sheetOf_12 rfl ?_
  refine wa_idiv dX3_sheetOf_13 (by decide) ?_
  refine wa_imul dX3_sheetOf_14 ?_
  refine wa_aload_n (o := (some t)) dX3_sheetOf_15 rfl 0 rfl ?_
  refine wa_iload_n (x := p0) dX3_sheetOf_16 rfl 1 rfl ?_
  refine wa_callV (M' := m_X3_within) (C := RX3) (o := (some t)) (As := [.int p0]) (st := [.int (((p0 - 1) / x1) * (x2 / 4))]) dX3_sheetOf_17 ⟨Nat.le_of_ble_eq_true rfl, Nat.le_of_ble_eq_true rfl, nk_X3_within⟩ q1492 q1494 qs46 q59 q1495 rfl rfl (q_cs_le (q_csi q_cs0) (Nat.le_of_ble_eq_true rfl)) rfl F.1 F.2 (wk_I fun x4 h3 F => ?_)
  refine wa_iadd dX3_sheetOf_20 ?_
  exact wa_iret rfl dX3_sheetOf_21 F
def L_X3_sideOf_38 (D : qD) (Q : Option Value → qH → Prop) (X : String → qH → Prop) (h : qH) : Prop := WA D m_X3_sideOf Q X 38 [] [] h
theorem f_X3_sideOf {D : qD} {Q : Option Value → qH → Prop} {X : String → qH → Prop} (t : Nat) (p0 : Int32) (h : qH) (F : g_I D h (some t) 2 12 (fun x1 => (¬ x1 = 0 ∧ (recv D h (some t) RX3 ∧ c_I D m_X3_within [va_rf (some t), .int p0] h X (fun x3 h2 => g_I D h2 (some t) 2 12 (fun x4 => (((((p0 - 1) - (p0 - 1) / x1 * x1) + 1) = (x4 - (2 * x3)) → L_X3_sideOf_38 D Q X h2) ∧ (¬ (((p0 - 1) - (p0 - 1) / x1 * x1) + 1) = (x4 - (2 * x3)) → ((¬ (((p0 - 1) - (p0 - 1) / x1 * x1) + 1) = ((2 * x3) + 1) → Q (some (.int 1)) h2) ∧ ((((p0 - 1) - (p0 - 1) / x1 * x1) + 1) = ((2 * x3) + 1) → L_X3_sideOf_38 D Q X h2)))))))))) : MW D m_X3_sideOf [va_rf (some t), .int p0] h Q X := by
  refine mw_of pl_X3_sideOf rfl _ (Nat.le_of_ble_eq_true rfl) rfl ?_
  refine (show WA D m_X3_sideOf Q X 0 [(0, va_rf (some t)), (1, .int p0)] [] h from ?_)
  refine wa_iload_n (x := p0) dX3_sideOf_0 rfl 1 rfl ?_
  refine wa_iconst (v := 1) dX3_sideOf_1 rfl ?_
  refine wa_isub dX3_sideOf_2 ?_
  refine wa_aload_n (o := (some t)) dX3_sideOf_3 rfl 0 rfl ?_
  refine wa_getI (C := RX3) (T := TX3) (N := 38) (ci := 2) (k := 12) dX3_sideOf_4 rfl (Nat.le_of_ble_eq_true rfl) in_X3 q1204 q_same_own (g_I_mono F fun x1 F => ?_)
  refine wa_irem dX3_sideOf_7 F.1 ?_
  have F := F.2
  refine wa_iconst (v := 1) dX3_sideOf_8 rfl ?_
  refine wa_iadd dX3_sideOf_9 ?_
  refine ws_istore_n (lv' := [(2, .int (((p0 - 1) - (p0 - 1) / x1 * x1) + 1)), (0, va_rf (some t)), (1, .int p0)]) dX3_sideOf_10 rfl (Nat.le_of_ble_eq_true rfl) (q_cr (q_ci q_cn)) rfl ?_
  refine wa_aload_n (o := (some t)) dX3_sideOf_11 rfl 1 rfl ?_
  refine wa_iload_n (x := p0) dX3_sideOf_12 rfl 2 rfl ?_
  refine wa_callV (M' := m_X3_within) (C := RX3) (o := (some t)) (As := [.int p0]) (st := []) dX3_sideOf_13 ⟨Nat.le_of_ble_eq_true rfl, Nat.le_of_ble_eq_true rfl, nk_X3_within⟩ q1492 q1494 qs46 q59 q1495 rfl rfl (Nat.zero_le 8) rfl F.1 F.2 (wk_I fun x3 h2 F => ?_)
  refine ws_istore_n (lv' := [(3, .int x3), (2, .int (((p0 - 1) - (p0 - 1) / x1 * x1) + 1)), (0, va_rf (some t)), (1, .int p0)]) dX3_sideOf_16 rfl (Nat.le_of_ble_eq_true rfl) (q_ci (q_cr (q_ci q_cn))) rfl ?_
  refine wa_iload_n (x := (((p0 - 1) - (p0 - 1) / x1 * x1) + 1)) dX3_sideOf_17 rfl 1 rfl ?_
  refine wa_aload_n (o := (some t)) dX3_sideOf_18 rfl 2 rfl ?_
  refine wa_getI (C := RX3) (T := TX3) (N := 38) (ci := 2) (k := 12) dX3_sideOf_19 rfl (Nat.le_of_ble_eq_true rfl) in_X3 q1204 q_same_own (g_I_mono F fun x4 F => ?_)
  refine wa_iconst (v := 2) dX3_sideOf_22 rfl ?_
  refine wa_iload_n (x := x3) dX3_sideOf_23 rfl 0 rfl ?_
  refine wa_imul dX3_sideOf_24 ?_
  refine wa_isub dX3_sideOf_25 ?_
  refine wa_icmp_eq (tgt := 38) dX3_sideOf_26 rfl (fun z => ?_) (fun z => ?_)
  · have F := F.1 z
    exact wa_sub [] rfl F
  · have F := F.2 z
    refine wa_iload_n (x := (((p0 - 1) - (p0 - 1) / x1 * x1) + 1)) dX3_sideOf_29 rfl 1 rfl ?_
    refine wa_iconst (v := 2) dX3_sideOf_30 rfl ?_
    refine wa_iload_n (x := x3) dX3_sideOf_31 rfl 0 rfl ?_
    refine wa_imul dX3_sideOf_32 ?_
    refine wa_iconst (v := 1) dX3_sideOf_33 rfl ?_
    refine wa_iadd dX3_sideOf_34 ?_
    refine wa_icmp_ne (tgt := 42) dX3_sideOf_35 rfl (fun z => ?_) (fun z => ?_)
    · have F := F.1 z
      refine wa_iconst (v := 1) dX3_sideOf_42 rfl ?_
      exact wa_iret rfl dX3_sideOf_43 F
    · have F := F.2 z
      exact wa_sub [] rfl F
theorem f_X3_sideOf_38 {D : qD} {Q : Option Value → qH → Prop} {X : String → qH → Prop} (h : qH) (F : Q (some (.int 0)) h) : L_X3_sideOf_38 D Q X  h := by
  show WA D m_X3_sideOf Q X 38 [] [] h
  refine wa_iconst (v := 0) dX3_sideOf_38 rfl ?_
  refine wa_goto (tgt := 43) dX3_sideOf_39 rfl ?_
  exact wa_iret rfl dX3_sideOf_43 F
def L_X3_nextOn_2 (D : qD) (Q : Option Value → qH → Prop) (X : String → qH → Prop) (t : Nat) (v1 : Int32) (v3 : Int32) (h : qH) : Prop := WA D m_X3_nextOn Q X 2 [(0, va_rf (some t)), (1, .int v1), (3, .int v3)] [] h
def L_X3_nextOn_28 (D : qD) (Q : Option Value → qH → Prop) (X : String → qH → Prop) (t : Nat) (v1 : Int32) (v3 : Int32) (h : qH) : Prop := WA D m_X3_nextOn Q X 28 [(0, va_rf (some t)), (1, .int v1), (3, .int v3)] [] h
theorem f_X3_nextOn {D : qD} {Q : Option Value → qH → Prop} {X : String → qH → Prop} (t : Nat) (p0 : Int32) (p1 : Int32) (h : qH) (F : L_X3_nextOn_2 D Q X t p0 p1 h) : MW D m_X3_nextOn [va_rf (some t), .int p0, .int p1] h Q X := by
  refine mw_of pl_X3_nextOn rfl _ (Nat.le_of_ble_eq_true rfl) rfl ?_
  refine (show WA D m_X3_nextOn Q X 0 [(0, va_rf (some t)), (1, .int p0), (2, .int p1)] [] h from ?_)
  refine wa_iload_n (x := p1) dX3_nextOn_0 rfl 2 rfl ?_
  refine ws_istore_n (lv' := [(3, .int p1), (0, va_rf (some t)), (1, .int p0), (2, .int p1)]) dX3_nextOn_1 rfl (Nat.le_of_ble_eq_true rfl) (q_cr (q_ci (q_ci q_cn))) rfl ?_
  exact wa_sub [1, 2, 0] rfl F
theorem f_X3_nextOn_2 {D : qD} {Q : Option Value → qH → Prop} {X : String → qH → Prop} (t : Nat) (v1 : Int32) (v3 : Int32) (h : qH) (F : g_I D h (some t) 2 0 (fun x1 => ((x1 ≤ v3 → Q (some (.int v3)) h) ∧ (¬ x1 ≤ v3 → g_R D h (some t) 2 15 (fun r2 => a_I D h r2 0 v3 (fun x3 => ((¬ x3 = v1 → L_X3_nextOn_28 D Q X t v1 v3 h) ∧ (x3 = v1 → (recv D h (some t) RX3 ∧ c_I D m_X3_hangs [va_rf (some t), .int v3] h X (fun x5 h4 => ((x5 = 0 → Q (some (.int v3)) h4) ∧ (¬ x5 = 0 → L_X3_nextOn_28 D Q X t v1 v3 h4)))))))))))) : L_X3_nextOn_2 D Q X t v1 v3 h := by
  show WA D m_X3_nextOn Q X 2 [(0, va_rf (some t)), (1, .int v1), (3, .int v3)] [] h
  refine wa_iload_n (x := v3) dX3_nextOn_2 rfl 2 rfl ?_
  refine wa_aload_n (o := (some t)) dX3_nextOn_3 rfl 0 rfl ?_
  refine wa_getI (C := RX3) (T := TX3) (N := 38) (ci := 2) (k := 0) dX3_nextOn_4 rfl (Nat.le_of_ble_eq_true rfl) in_X3 q1192 q_same_own (g_I_mono F fun x1 F => ?_)
  refine wa_icmp_ge (tgt := 34) dX3_nextOn_7 rfl (fun z => ?_) (fun z => ?_)
  · have F := F.1 z
    refine wa_iload_n (x := v3) dX3_nextOn_34 rfl 2 rfl ?_
    exact wa_iret rfl dX3_nextOn_35 F
  · have F := F.2 z
    refine wa_aload_n (o := (some t)) dX3_nextOn_10 rfl 0 rfl ?_
    refine wa_getR (C := RX3) (T := TX3) (N := 38) (ci := 2) (k := 15) dX3_nextOn_11 rfl (Nat.le_of_ble_eq_true rfl) in_X3 q1207 q_same_own (g_R_mono F fun r2 F => ?_)
    refine wa_iload_n (x := v3) dX3_nextOn_14 rfl 2 rfl ?_
    refine wa_iald dX3_nextOn_15 (a_I_mono F fun x3 F => ?_)
    refine wa_iload_n (x := v1) dX3_nextOn_16 rfl 1 rfl ?_
    refine wa_icmp_ne (tgt := 28) dX3_nextOn_17 rfl (fun z => ?_) (fun z => ?_)
    · have F := F.1 z
      exact F
    · have F := F.2 z
      refine wa_aload_n (o := (some t)) dX3_nextOn_20 rfl 0 rfl ?_
      refine wa_iload_n (x := v3) dX3_nextOn_21 rfl 2 rfl ?_
      refine wa_callV (M' := m_X3_hangs) (C := RX3) (o := (some t)) (As := [.int v3]) (st := []) dX3_nextOn_22 ⟨Nat.le_of_ble_eq_true rfl, Nat.le_of_ble_eq_true rfl, nk_X3_hangs⟩ q1387 q1389 qs31 q59 q1390 rfl rfl (Nat.zero_le 8) rfl F.1 F.2 (wk_I fun x5 h4 F => ?_)
      refine wa_if_eq (tgt := 34) dX3_nextOn_25 rfl (fun z => ?_) (fun z => ?_)
      · have F := F.1 z
        refine wa_iload_n (x := v3) dX3_nextOn_34 rfl 2 rfl ?_
        exact wa_iret rfl dX3_nextOn_35 F
      · have F := F.2 z
        exact F
theorem f_X3_nextOn_28 {D : qD} {Q : Option Value → qH → Prop} {X : String → qH → Prop} (t : Nat) (v1 : Int32) (v3 : Int32) (h : qH) (F : L_X3_nextOn_2 D Q X t v1 (v3 + 1) h) : L_X3_nextOn_28 D Q X t v1 v3 h := by
  show WA D m_X3_nextOn Q X 28 [(0, va_rf (some t)), (1, .int v1), (3, .int v3)] [] h
  refine ws_iinc (j := 2) (v := (v3 + 1)) (lv' := [(3, .int (v3 + 1)), (0, va_rf (some t)), (1, .int v1)]) dX3_nextOn_28 rfl rfl (Nat.le_of_ble_eq_true rfl) (q_cr (q_ci (q_ci q_cn))) rfl ?_
  refine wa_goto (tgt := 2) dX3_nextOn_31 rfl ?_
  exact wa_sub [1, 2, 0] rfl F
def L_X3_put_43 (D : qD) (Q : Option Value → qH → Prop) (X : String → qH → Prop) (t : Nat) (h : qH) : Prop := WA D m_X3_put Q X 43 [(0, va_rf (some t))] [] h
def L_X3_put_75 (D : qD) (Q : Option Value → qH → Prop) (X : String → qH → Prop) (t : Nat) (v1 : Int32) (v2 : Int32) (v3 : Int32) (v4 : Int32) (v5 : Int32) (h : qH) : Prop := WA D m_X3_put Q X 75 [(0, va_rf (some t)), (1, .int v1), (2, .int v2), (3, .int v3), (4, .int v4), (5, .int v5)] [] h
theorem f_X3_put {D : qD} {Q : Option Value → qH → Prop} {X : String → qH → Prop} (t : Nat) (p0 : Int32) (p1 : Int32) (p2 : Int32) (p3 : Int32) (h : qH) (F : g_I D h (some t) 2 0 (fun x1 => c_I D m_X3_in [.long p0.toInt64, .long 0, .long x1.toInt64] h X (fun x3 h2 => ((¬ x3 = 0 → c_I D m_X3_in [.long p1.toInt64, .long 0, .long 6] h2 X (fun x5 h4 => ((x5 = 0 → L_X3_put_43 D Q X t h4) ∧ (¬ x5 = 0 → (recv D h4 (some t) RX3 ∧ c_I D m_X3_isFine [va_rf (some t), .int p1, .int p2, .int p3] h4 X (fun x7 h6 => ((¬ x7 = 0 → g_I D h6 (some t) 2 0 (fun x8 => ((¬ x8 = 120 → p_F h6 (some t) 2 37 (.int 0) (fun h9 => g_I D h9 (some t) 2 0 (fun x10 => L_X3_put_75 D Q X t p0 p1 p2 p3 x10 h9))) ∧ (x8 = 120 → (recv D h6 (some t) RX3 ∧ c_I D m_X3_fails [va_rf (some t), .int 3] h6 X (fun x12 h11 => Q (some (.int x12)) h11)))))) ∧ (x7 = 0 → L_X3_put_43 D Q X t h6)))))))) ∧ (x3 = 0 → (recv D h2 (some t) RX3 ∧ c_I D m_X3_fails [va_rf (some t), .int 1] h2 X (fun x14 h13 => Q (some (.int x14)) h13))))))) : MW D m_X3_put [va_rf (some t), .int p0, .int p1, .int p2, .int p3] h Q X := by
  refine mw_of pl_X3_put rfl _ (Nat.le_of_ble_eq_true rfl) rfl ?_
  refine (show WA D m_X3_put Q X 0 [(0, va_rf (some t)), (1, .int p0), (2, .int p1), (3, .int p2), (4, .int p3)] [] h from ?_)
  refine wa_iload_n (x := p0) dX3_put_0 rfl 1 rfl ?_
  refine wa_i2l dX3_put_1 ?_
  refine wa_lconst (v := 0) dX3_put_2 rfl ?_
  refine wa_aload_n (o := (some t)) dX3_put_3 rfl 0 rfl ?_
  refine wa_getI (C := RX3) (T := TX3) (N := 38) (ci := 2) (k := 0) dX3_put_4 rfl (Nat.le_of_ble_eq_true rfl) in_X3 q1192 q_same_own (g_I_mono F fun x1 F => ?_)
  refine wa_i2l dX3_put_7 ?_
  refine wa_callS (M' := m_X3_in) (As := [.long p0.toInt64, .long 0, .long x1.toInt64]) (st := []) dX3_put_8 ⟨Nat.le_of_ble_eq_true rfl, Nat.le_of_ble_eq_true rfl, nk_X3_in⟩ q1316 q1317 q59 q1318 rfl rfl (Nat.zero_le 8) rfl F (wk_I fun x3 h2 F => ?_)
  refine wa_if_ne (tgt := 20) dX3_put_11 rfl (fun z => ?_) (fun z => ?_)
  · have F := F.1 z
    refine wa_iload_n (x := p1) dX3_put_20 rfl 2 rfl ?_
    refine wa_i2l dX3_put_21 ?_
    refine wa_lconst (v := 0) dX3_put_22 rfl ?_
    refine wa_ldc2 (v := 6) dX3_put_23 q1323 ?_
    refine wa_callS (M' := m_X3_in) (As := [.long p1.toInt64, .long 0, .long 6]) (st := []) dX3_put_26 ⟨Nat.le_of_ble_eq_true rfl, Nat.le_of_ble_eq_true rfl, nk_X3_in⟩ q1316 q1317 q59 q1318 rfl rfl (Nat.zero_le 8) rfl F (wk_I fun x5 h4 F => ?_)
    refine wa_if_eq (tgt := 43) dX3_put_29 rfl (fun z => ?_) (fun z => ?_)
    · have F := F.1 z
      exact wa_sub [0] rfl F
    · have F := F.2 z
      refine wa_aload_n (o := (some t)) dX3_put_32 rfl 0 rfl ?_
      refine wa_iload_n (x := p1) dX3_put_33 rfl 2 rfl ?_
      refine wa_iload_n (x := p2) dX3_put_34 rfl 3 rfl ?_
      refine wa_iload (x := p3) dX3_put_35 4 rfl ?_
      refine wa_callV (M' := m_X3_isFine) (C := RX3) (o := (some t)) (As := [.int p1, .int p2, .int p3]) (st := []) dX3_put_37 ⟨Nat.le_of_ble_eq_true rfl, Nat.le_of_ble_eq_true rfl, nk_X3_isFine⟩ q1324 q1326 qs24 q59 q1327 rfl rfl (Nat.zero_le 8) rfl F.1 F.2 (wk_I fun x7 h6 F => ?_)
      refine wa_if_ne (tgt := 49) dX3_put_40 rfl (fun z => ?_) (fun z => ?_)
      · have F := F.1 z
        refine wa_aload_n (o := (some t)) dX3_put_49 rfl 0 rfl ?_
        refine wa_getI (C := RX3) (T := TX3) (N := 38) (ci := 2) (k := 0) dX3_put_50 rfl (Nat.le_of_ble_eq_true rfl) in_X3 q1192 q_same_own (g_I_mono F fun x8 F => ?_)
        refine wa_bipush (v := 120) dX3_put_53 rfl ?_
        refine wa_icmp_ne (tgt := 64) dX3_put_55 rfl (fun z => ?_) (fun z => ?_)
        · have F := F.1 z
          refine wa_aload_n (o := (some t)) dX3_put_64 rfl 0 rfl ?_
          refine wa_iconst (v := 0) dX3_put_65 rfl ?_
          refine wa_put (C := RX3) (T := TX3) (N := 38) (ci := 2) (k := 37) tyX3 dX3_put_66 rfl (Nat.le_of_ble_eq_true rfl) in_X3 tyX3_ok nmX3 q1229 q_same_own rfl rfl rfl (p_F_mono F fun h9 F => ?_)
          refine wa_aload_n (o := (some t)) dX3_put_69 rfl 0 rfl ?_
          refine wa_getI (C := RX3) (T := TX3) (N := 38) (ci := 2) (k := 0) dX3_put_70 rfl (Nat.le_of_ble_eq_true rfl) in_X3 q1192 q_same_own (g_I_mono F fun x10 F => ?_)
          refine ws_istore (lv' := [(5, .int x10), (0, va_rf (some t)), (1, .int p0), (2, .int p1), (3, .int p2), (4, .int p3)]) dX3_put_73 (Nat.le_of_ble_eq_true rfl) (q_cr (q_ci (q_ci (q_ci (q_ci q_cn))))) rfl ?_
          exact wa_sub [1, 2, 3, 4, 5, 0] rfl F
        · have F := F.2 z
          refine wa_aload_n (o := (some t)) dX3_put_58 rfl 0 rfl ?_
          refine wa_iconst (v := 3) dX3_put_59 rfl ?_
          refine wa_callV (M' := m_X3_fails) (C := RX3) (o := (some t)) (As := [.int 3]) (st := []) dX3_put_60 ⟨Nat.le_of_ble_eq_true rfl, Nat.le_of_ble_eq_true rfl, nk_X3_fails⟩ q1319 q1321 qs23 q59 q1322 rfl rfl (Nat.zero_le 8) rfl F.1 F.2 (wk_I fun x12 h11 F => ?_)
          exact wa_iret rfl dX3_put_63 F
      · have F := F.2 z
        exact wa_sub [0] rfl F
  · have F := F.2 z
    refine wa_aload_n (o := (some t)) dX3_put_14 rfl 0 rfl ?_
    refine wa_iconst (v := 1) dX3_put_15 rfl ?_
    refine wa_callV (M' := m_X3_fails) (C := RX3) (o := (some t)) (As := [.int 1]) (st := []) dX3_put_16 ⟨Nat.le_of_ble_eq_true rfl, Nat.le_of_ble_eq_true rfl, nk_X3_fails⟩ q1319 q1321 qs23 q59 q1322 rfl rfl (Nat.zero_le 8) rfl F.1 F.2 (wk_I fun x14 h13 F => ?_)
    exact wa_iret rfl dX3_put_19 F
theorem f_X3_put_43 {D : qD} {Q : Option Value → qH → Prop} {X : String → qH → Prop} (t : Nat) (h : qH) (F : (recv D h (some t) RX3 ∧ c_I D m_X3_fails [va_rf (some t), .int 2] h X (fun x2 h1 => Q (some (.int x2)) h1))) : L_X3_put_43 D Q X t h := by
  show WA D m_X3_put Q X 43 [(0, va_rf (some t))] [] h
  refine wa_aload_n (o := (some t)) dX3_put_43 rfl 0 rfl ?_
  refine wa_iconst (v := 2) dX3_put_44 rfl ?_
  refine wa_callV (M' := m_X3_fails) (C := RX3) (o := (some t)) (As := [.int 2]) (st := []) dX3_put_45 ⟨Nat.le_of_ble_eq_true rfl, Nat.le_of_ble_eq_true rfl, nk_X3_fails⟩ q1319 q1321 qs23 q59 q1322 rfl rfl (Nat.zero_le 8) rfl F.1 F.2 (wk_I fun x2 h1 F => ?_)
  exact wa_iret rfl dX3_put_48 F
theorem f_X3_put_75 {D : qD} {Q : Option Value → qH → Prop} {X : String → qH → Prop} (t : Nat) (v1 : Int32) (v2 : Int32) (v3 : Int32) (v4 : Int32) (v5 : Int32) (h : qH) (F : ((v5 ≤ v1 → g_R D h (some t) 2 1 (fun r1 => s_I h r1 0 v1 v2 (fun h2 => g_R D h2 (some t) 2 2 (fun r3 => s_I h2 r3 0 v1 v3 (fun h4 => g_R D h4 (some t) 2 3 (fun r5 => s_I h4 r5 0 v1 v4 (fun h6 => g_I D h6 (some t) 2 0 (fun x7 => p_F h6 (some t) 2 0 (.int (x7 + 1)) (fun h8 => g_I D h8 (some t) 2 0 (fun x9 => Q (some (.int x9)) h8)))))))))) ∧ (¬ v5 ≤ v1 → g_R D h (some t) 2 1 (fun r10 => g_R D h (some t) 2 1 (fun r11 => a_I D h r11 0 (v5 - 1) (fun x12 => s_I h r10 0 v5 x12 (fun h13 => g_R D h13 (some t) 2 2 (fun r14 => g_R D h13 (some t) 2 2 (fun r15 => a_I D h13 r15 0 (v5 - 1) (fun x16 => s_I h13 r14 0 v5 x16 (fun h17 => g_R D h17 (some t) 2 3 (fun r18 => g_R D h17 (some t) 2 3 (fun r19 => a_I D h17 r19 0 (v5 - 1) (fun x20 => s_I h17 r18 0 v5 x20 (fun h21 => L_X3_put_75 D Q X t v1 v2 v3 v4 (v5 + (-1)) h21))))))))))))))) : L_X3_put_75 D Q X t v1 v2 v3 v4 v5 h := by
  show WA D m_X3_put Q X 75 [(0, va_rf (some t)), (1, .int v1), (2, .int v2), (3, .int v3), (4, .int v4), (5, .int v5)] [] h
  refine wa_iload (x := v5) dX3_put_75 5 rfl ?_
  refine wa_iload_n (x := v1) dX3_put_77 rfl 1 rfl ?_
  refine wa_icmp_le (tgt := 135) dX3_put_78 rfl (fun z => ?_) (fun z => ?_)
  · have F := F.1 z
    refine wa_aload_n (o := (some t)) dX3_put_135 rfl 0 rfl ?_
    refine wa_getR (C := RX3) (T := TX3) (N := 38) (ci := 2) (k := 1) dX3_put_136 rfl (Nat.le_of_ble_eq_true rfl) in_X3 q1193 q_same_own (g_R_mono F fun r1 F => ?_)
    refine wa_iload_n (x := v1) dX3_put_139 rfl 1 rfl ?_
    refine wa_iload_n (x := v2) dX3_put_140 rfl 2 rfl ?_
    refine wa_iast dX3_put_141 (s_I_mono F fun h2 F => ?_)
    refine wa_aload_n (o := (some t)) dX3_put_142 rfl 0 rfl ?_
    refine wa_getR (C := RX3) (T := TX3) (N := 38) (ci := 2) (k := 2) dX3_put_143 rfl (Nat.le_of_ble_eq_true rfl) in_X3 q1194 q_same_own (g_R_mono F fun r3 F => ?_)
    refine wa_iload_n (x := v1) dX3_put_146 rfl 1 rfl ?_
    refine wa_iload_n (x := v3) dX3_put_147 rfl 3 rfl ?_
    refine wa_iast dX3_put_148 (s_I_mono F fun h4 F => ?_)
    refine wa_aload_n (o := (some t)) dX3_put_149 rfl 0 rfl ?_
    refine wa_getR (C := RX3) (T := TX3) (N := 38) (ci := 2) (k := 3) dX3_put_150 rfl (Nat.le_of_ble_eq_true rfl) in_X3 q1195 q_same_own (g_R_mono F fun r5 F => ?_)
    refine wa_iload_n (x := v1) dX3_put_153 rfl 1 rfl ?_
    refine wa_iload (x := v4) dX3_put_154 4 rfl ?_
    refine wa_iast dX3_put_156 (s_I_mono F fun h6 F => ?_)
    refine wa_aload_n (o := (some t)) dX3_put_157 rfl 0 rfl ?_
    refine wa_dup dX3_put_158 (q_cat _) ?_
    refine wa_getI (C := RX3) (T := TX3) (N := 38) (ci := 2) (k := 0) dX3_put_159 rfl (Nat.le_of_ble_eq_true rfl) in_X3 q1192 q_same_own (g_I_mono F fun x7 F => ?_)
    refine wa_iconst (v := 1) dX3_put_162 rfl ?_
    refine wa_iadd dX3_put_163 ?_
    refine wa_put (C := RX3) (T := TX3) (N := 38) (ci := 2) (k := 0) tyX3 dX3_put_164 rfl (Nat.le_of_ble_eq_true rfl) in_X3 tyX3_ok nmX3 q1192 q_same_own rfl rfl rfl (p_F_mono F fun h8 F => ?_)
    refine wa_aload_n (o := (some t)) dX3_put_167 rfl 0 rfl ?_
    refine wa_getI (C := RX3) (T := TX3) (N := 38) (ci := 2) (k := 0) dX3_put_168 rfl (Nat.le_of_ble_eq_true rfl) in_X3 q1192 q_same_own (g_I_mono F fun x9 F => ?_)
    exact wa_iret rfl dX3_put_171 F
  · have F := F.2 z
    refine wa_aload_n (o := (some t)) dX3_put_81 rfl 0 rfl ?_
    refine wa_getR (C := RX3) (T := TX3) (N := 38) (ci := 2) (k := 1) dX3_put_82 rfl (Nat.le_of_ble_eq_true rfl) in_X3 q1193 q_same_own (g_R_mono F fun r10 F => ?_)
    refine wa_iload (x := v5) dX3_put_85 5 rfl ?_
    refine wa_aload_n (o := (some t)) dX3_put_87 rfl 0 rfl ?_
    refine wa_getR (C := RX3) (T := TX3) (N := 38) (ci := 2) (k := 1) dX3_put_88 rfl (Nat.le_of_ble_eq_true rfl) in_X3 q1193 q_same_own (g_R_mono F fun r11 F => ?_)
    refine wa_iload (x := v5) dX3_put_91 5 rfl ?_
    refine wa_iconst (v := 1) dX3_put_93 rfl ?_
    refine wa_isub dX3_put_94 ?_
    refine wa_iald dX3_put_95 (a_I_mono F fun x12 F => ?_)
    refine wa_iast dX3_put_96 (s_I_mono F fun h13 F => ?_)
    refine wa_aload_n (o := (some t)) dX3_put_97 rfl 0 rfl ?_
    refine wa_getR (C := RX3) (T := TX3) (N := 38) (ci := 2) (k := 2) dX3_put_98 rfl (Nat.le_of_ble_eq_true rfl) in_X3 q1194 q_same_own (g_R_mono F fun r14 F => ?_)
    refine wa_iload (x := v5) dX3_put_101 5 rfl ?_
    refine wa_aload_n (o := (some t)) dX3_put_103 rfl 0 rfl ?_
    refine wa_getR (C := RX3) (T := TX3) (N := 38) (ci := 2) (k := 2) dX3_put_104 rfl (Nat.le_of_ble_eq_true rfl) in_X3 q1194 q_same_own (g_R_mono F fun r15 F => ?_)
    refine wa_iload (x := v5) dX3_put_107 5 rfl ?_
    refine wa_iconst (v := 1) dX3_put_109 rfl ?_
    refine wa_isub dX3_put_110 ?_
    refine wa_iald dX3_put_111 (a_I_mono F fun x16 F => ?_)
    refine wa_iast dX3_put_112 (s_I_mono F fun h17 F => ?_)
    refine wa_aload_n (o := (some t)) dX3_put_113 rfl 0 rfl ?_
    refine wa_getR (C := RX3) (T := TX3) (N := 38) (ci := 2) (k := 3) dX3_put_114 rfl (Nat.le_of_ble_eq_true rfl) in_X3 q1195 q_same_own (g_R_mono F fun r18 F => ?_)
    refine wa_iload (x := v5) dX3_put_117 5 rfl ?_
    refine wa_aload_n (o := (some t)) dX3_put_119 rfl 0 rfl ?_
    refine wa_getR (C := RX3) (T := TX3) (N := 38) (ci := 2) (k := 3) dX3_put_120 rfl (Nat.le_of_ble_eq_true rfl) in_X3 q1195 q_same_own (g_R_mono F fun r19 F => ?_)
    refine wa_iload (x := v5) dX3_put_123 5 rfl ?_
    refine wa_iconst (v := 1) dX3_put_125 rfl ?_
    refine wa_isub dX3_put_126 ?_
    refine wa_iald dX3_put_127 (a_I_mono F fun x20 F => ?_)
    refine wa_iast dX3_put_128 (s_I_mono F fun h21 F => ?_)
    refine ws_iinc (j := 5) (v := (v5 + (-1))) (lv' := [(5, .int (v5 + (-1))), (0, va_rf (some t)), (1, .int v1), (2, .int v2), (3, .int v3), (4, .int v4)]) dX3_put_129 rfl rfl (Nat.le_of_ble_eq_true rfl) (q_cr (q_ci (q_ci (q_ci (q_ci (q_ci q_cn)))))) rfl ?_
    refine wa_goto (tgt := 75) dX3_put_132 rfl ?_
    exact wa_sub [1, 2, 3, 4, 5, 0] rfl F
def L_X3_layLines_15 (D : qD) (Q : Option Value → qH → Prop) (X : String → qH → Prop) (t : Nat) (v1 : Int32) (v2 : Int32) (v3 : Int32) (v4 : Int32) (v5 : Int32) (h : qH) : Prop := WA D m_X3_layLines Q X 15 [(0, va_rf (some t)), (1, .int v1), (2, .int v2), (3, .int v3), (4, .int v4), (5, .int v5)] [] h
def L_X3_layLines_179 (D : qD) (Q : Option Value → qH → Prop) (X : String → qH → Prop) (t : Nat) (v1 : Int32) (v2 : Int32) (v3 : Int32) (v4 : Int32) (v5 : Int32) (h : qH) : Prop := WA D m_X3_layLines Q X 179 [(0, va_rf (some t)), (1, .int v1), (2, .int v2), (3, .int v3), (4, .int v4), (5, .int v5)] [] h
def L_X3_layLines_166 (D : qD) (Q : Option Value → qH → Prop) (X : String → qH → Prop) (t : Nat) (v1 : Int32) (v2 : Int32) (v3 : Int32) (v4 : Int32) (v5 : Int32) (h : qH) : Prop := WA D m_X3_layLines Q X 166 [(0, va_rf (some t)), (1, .int v1), (2, .int v2), (3, .int v3), (4, .int v4), (5, .int v5)] [] h
theorem f_X3_layLines {D : qD} {Q : Option Value → qH → Prop} {X : String → qH → Prop} (t : Nat) (p0 : Int32) (h : qH) (F : p_F h (some t) 2 14 (.int 0) (fun h1 => L_X3_layLines_15 D Q X t p0 0 0 0 0 h1)) : MW D m_X3_layLines [va_rf (some t), .int p0] h Q X := by
  refine mw_of pl_X3_layLines rfl _ (Nat.le_of_ble_eq_true rfl) rfl ?_
  refine (show WA D m_X3_layLines Q X 0 [(0, va_rf (some t)), (1, .int p0)] [] h from ?_)
  refine wa_aload_n (o := (some t)) dX3_layLines_0 rfl 0 rfl ?_
  refine wa_iconst (v := 0) dX3_layLines_1 rfl ?_
  refine wa_put (C := RX3) (T := TX3) (N := 38) (ci := 2) (k := 14) tyX3 dX3_layLines_2 rfl (Nat.le_of_ble_eq_true rfl) in_X3 tyX3_ok nmX3 q1206 q_same_own rfl rfl rfl (p_F_mono F fun h1 F => ?_)
  refine wa_iconst (v := 0) dX3_layLines_5 rfl ?_
  refine ws_istore_n (lv' := [(2, .int 0), (0, va_rf (some t)), (1, .int p0)]) dX3_layLines_6 rfl (Nat.le_of_ble_eq_true rfl) (q_cr (q_ci q_cn)) rfl ?_
  refine wa_iconst (v := 0) dX3_layLines_7 rfl ?_
  refine ws_istore_n (lv' := [(3, .int 0), (2, .int 0), (0, va_rf (some t)), (1, .int p0)]) dX3_layLines_8 rfl (Nat.le_of_ble_eq_true rfl) (q_ci (q_cr (q_ci q_cn))) rfl ?_
  refine wa_iconst (v := 0) dX3_layLines_9 rfl ?_
  refine ws_istore (lv' := [(4, .int 0), (3, .int 0), (2, .int 0), (0, va_rf (some t)), (1, .int p0)]) dX3_layLines_10 (Nat.le_of_ble_eq_true rfl) (q_ci (q_ci (q_cr (q_ci q_cn)))) rfl ?_
  refine wa_iconst (v := 0) dX3_layLines_12 rfl ?_
  refine ws_istore (lv' := [(5, .int 0), (4, .int 0), (3, .int 0), (2, .int 0), (0, va_rf (some t)), (1, .int p0)]) dX3_layLines_13 (Nat.le_of_ble_eq_true rfl) (q_ci (q_ci (q_ci (q_cr (q_ci q_cn))))) rfl ?_
  exact wa_sub [4, 5, 3, 2, 1, 0] rfl F
theorem f_X3_layLines_15 {D : qD} {Q : Option Value → qH → Prop} {X : String → qH → Prop} (t : Nat) (v1 : Int32) (v2 : Int32) (v3 : Int32) (v4 : Int32) (v5 : Int32) (h : qH) (F : g_I D h (some t) 2 0 (fun x1 => ((x1 ≤ v5 → (recv D h (some t) RX3 ∧ c_V D m_X3_hang [va_rf (some t)] h X (fun h2 => Q none h2))) ∧ (¬ x1 ≤ v5 → g_R D h (some t) 2 15 (fun r3 => s_I h r3 0 v5 (-1) (fun h4 => g_R D h4 (some t) 2 1 (fun r5 => a_I D h4 r5 0 v5 (fun x6 => ((¬ x6 = 2 → g_R D h4 (some t) 2 1 (fun r7 => a_I D h4 r7 0 v5 (fun x8 => ((¬ x8 = 3 → (recv D h4 (some t) RX3 ∧ c_I D m_X3_isPrinted [va_rf (some t), .int v1, .int v5] h4 X (fun x10 h9 => ((x10 = 0 → L_X3_layLines_179 D Q X t v1 v2 v3 v4 v5 h9) ∧ (¬ x10 = 0 → (recv D h9 (some t) RX3 ∧ c_I D m_X3_wide [va_rf (some t), .int v1, .int v5] h9 X (fun x12 h11 => ((¬ v3 = 0 → g_I D h11 (some t) 2 8 (fun x13 => ((x13 < ((v2 + 1) + x12) → (recv D h11 (some t) RX3 ∧ c_V D m_X3_newLine [va_rf (some t), .int 0, .int 0] h11 X (fun h14 => g_R D h14 (some t) 2 21 (fun r15 => s_I h14 r15 1 v4 1 (fun h16 => L_X3_layLines_166 D Q X t v1 x12 v3 v4 v5 h16))))) ∧ (¬ x13 < ((v2 + 1) + x12) → L_X3_layLines_166 D Q X t v1 (v2 + (1 + x12)) v3 v4 v5 h11)))) ∧ (v3 = 0 → g_I D h11 (some t) 2 14 (fun x17 => (recv D h11 (some t) RX3 ∧ c_V D m_X3_newLine [va_rf (some t), .int 0, .int 1] h11 X (fun h18 => L_X3_layLines_166 D Q X t v1 x12 1 x17 v5 h18)))))))))))) ∧ (x8 = 3 → (recv D h4 (some t) RX3 ∧ c_V D m_X3_newLine [va_rf (some t), .int 1, .int 1] h4 X (fun h19 => g_R D h19 (some t) 2 15 (fun r20 => g_I D h19 (some t) 2 14 (fun x21 => s_I h19 r20 0 v5 (x21 - 1) (fun h22 => L_X3_layLines_179 D Q X t v1 v2 0 v4 v5 h22)))))))))) ∧ (x6 = 2 → L_X3_layLines_179 D Q X t v1 v2 0 v4 v5 h4)))))))))) : L_X3_layLines_15 D Q X t v1 v2 v3 v4 v5 h := by
  show WA D m_X3_layLines Q X 15 [(0, va_rf (some t)), (1, .int v1), (2, .int v2), (3, .int v3), (4, .int v4), (5, .int v5)] [] h
  refine wa_iload (x := v5) dX3_layLines_15 5 rfl ?_
  refine wa_aload_n (o := (some t)) dX3_layLines_17 rfl 0 rfl ?_
  refine wa_getI (C := RX3) (T := TX3) (N := 38) (ci := 2) (k := 0) dX3_layLines_18 rfl (Nat.le_of_ble_eq_true rfl) in_X3 q1192 q_same_own (g_I_mono F fun x1 F => ?_)
  refine wa_icmp_ge (tgt := 185) dX3_layLines_21 rfl (fun z => ?_) (fun z => ?_)
  · have F := F.1 z
    refine wa_aload_n (o := (some t)) dX3_layLines_185 rfl 0 rfl ?_
    refine wa_callV (M' := m_X3_hang) (C := RX3) (o := (some t)) (As := []) (st := []) dX3_layLines_186 ⟨Nat.le_of_ble_eq_true rfl, Nat.le_of_ble_eq_true rfl, nk_X3_hang⟩ q1383 q1385 qs30 q59 q1386 rfl rfl (Nat.zero_le 8) rfl F.1 F.2 (wk_V fun h2 F => ?_)
    exact wa_vret rfl dX3_layLines_189 F
  · have F := F.2 z
    refine wa_aload_n (o := (some t)) dX3_layLines_24 rfl 0 rfl ?_
    refine wa_getR (C := RX3) (T := TX3) (N := 38) (ci := 2) (k := 15) dX3_layLines_25 rfl (Nat.le_of_ble_eq_true rfl) in_X3 q1207 q_same_own (g_R_mono F fun r3 F => ?_)
    refine wa_iload (x := v5) dX3_layLines_28 5 rfl ?_
    refine wa_iconst (v := -1) dX3_layLines_30 rfl ?_
    refine wa_iast dX3_layLines_31 (s_I_mono F fun h4 F => ?_)
    refine wa_aload_n (o := (some t)) dX3_layLines_32 rfl 0 rfl ?_
    refine wa_getR (C := RX3) (T := TX3) (N := 38) (ci := 2) (k := 1) dX3_layLines_33 rfl (Nat.le_of_ble_eq_true rfl) in_X3 q1193 q_same_own (g_R_mono F fun r5 F => ?_)
    refine wa_iload (x := v5) dX3_layLines_36 5 rfl ?_
    refine wa_iald dX3_layLines_38 (a_I_mono F fun x6 F => ?_)
    refine wa_iconst (v := 2) dX3_layLines_39 rfl ?_
    refine wa_icmp_ne (tgt := 48) dX3_layLines_40 rfl (fun z => ?_) (fun z => ?_)
    · have F := F.1 z
      refine wa_aload_n (o := (some t)) dX3_layLines_48 rfl 0 rfl ?_
      refine wa_getR (C := RX3) (T := TX3) (N := 38) (ci := 2) (k := 1) dX3_layLines_49 rfl (Nat.le_of_ble_eq_true rfl) in_X3 q1193 q_same_own (g_R_mono F fun r7 F => ?_)
      refine wa_iload (x := v5) dX3_layLines_52 5 rfl ?_
      refine wa_iald dX3_layLines_54 (a_I_mono F fun x8 F => ?_)
      refine wa_iconst (v := 3) dX3_layLines_55 rfl ?_
      refine wa_icmp_ne (tgt := 83) dX3_layLines_56 rfl (fun z => ?_) (fun z => ?_)
      · have F := F.1 z
        refine wa_aload_n (o := (some t)) dX3_layLines_83 rfl 0 rfl ?_
        refine wa_iload_n (x := v1) dX3_layLines_84 rfl 1 rfl ?_
        refine wa_iload (x := v5) dX3_layLines_85 5 rfl ?_
        refine wa_callV (M' := m_X3_isPrinted) (C := RX3) (o := (some t)) (As := [.int v1, .int v5]) (st := []) dX3_layLines_87 ⟨Nat.le_of_ble_eq_true rfl, Nat.le_of_ble_eq_true rfl, nk_X3_isPrinted⟩ q1371 q1373 qs27 q59 q1374 rfl rfl (Nat.zero_le 8) rfl F.1 F.2 (wk_I fun x10 h9 F => ?_)
        refine wa_if_eq (tgt := 179) dX3_layLines_90 rfl (fun z => ?_) (fun z => ?_)
        · have F := F.1 z
          exact F
        · have F := F.2 z
          refine wa_aload_n (o := (some t)) dX3_layLines_93 rfl 0 rfl ?_
          refine wa_iload_n (x := v1) dX3_layLines_94 rfl 1 rfl ?_
          refine wa_iload (x := v5) dX3_layLines_95 5 rfl ?_
          refine wa_callV (M' := m_X3_wide) (C := RX3) (o := (some t)) (As := [.int v1, .int v5]) (st := []) dX3_layLines_97 ⟨Nat.le_of_ble_eq_true rfl, Nat.le_of_ble_eq_true rfl, nk_X3_wide⟩ q1375 q1377 qs28 q59 q1378 rfl rfl (Nat.zero_le 8) rfl F.1 F.2 (wk_I fun x12 h11 F => ?_)
          refine ws_istore (lv' := [(6, .int x12), (0, va_rf (some t)), (1, .int v1), (2, .int v2), (3, .int v3), (4, .int v4), (5, .int v5)]) dX3_layLines_100 (Nat.le_of_ble_eq_true rfl) (q_cr (q_ci (q_ci (q_ci (q_ci (q_ci q_cn)))))) rfl ?_
          refine wa_iload_n (x := v3) dX3_layLines_102 rfl 4 rfl ?_
          refine wa_if_ne (tgt := 126) dX3_layLines_103 rfl (fun z => ?_) (fun z => ?_)
          · have F := F.1 z
            refine wa_iload_n (x := v2) dX3_layLines_126 rfl 3 rfl ?_
            refine wa_iconst (v := 1) dX3_layLines_127 rfl ?_
            refine wa_iadd dX3_layLines_128 ?_
            refine wa_iload (x := x12) dX3_layLines_129 0 rfl ?_
            refine wa_iadd dX3_layLines_131 ?_
            refine wa_aload_n (o := (some t)) dX3_layLines_132 rfl 1 rfl ?_
            refine wa_getI (C := RX3) (T := TX3) (N := 38) (ci := 2) (k := 8) dX3_layLines_133 rfl (Nat.le_of_ble_eq_true rfl) in_X3 q1200 q_same_own (g_I_mono F fun x13 F => ?_)
            refine wa_icmp_gt (tgt := 149) dX3_layLines_136 rfl (fun z => ?_) (fun z => ?_)
            · have F := F.1 z
              refine wa_aload_n (o := (some t)) dX3_layLines_149 rfl 1 rfl ?_
              refine wa_iconst (v := 0) dX3_layLines_150 rfl ?_
              refine wa_iconst (v := 0) dX3_layLines_151 rfl ?_
              refine wa_callV (M' := m_X3_newLine) (C := RX3) (o := (some t)) (As := [.int 0, .int 0]) (st := []) dX3_layLines_152 ⟨Nat.le_of_ble_eq_true rfl, Nat.le_of_ble_eq_true rfl, nk_X3_newLine⟩ q1367 q1369 qs26 q59 q1370 rfl rfl (Nat.zero_le 8) rfl F.1 F.2 (wk_V fun h14 F => ?_)
              refine wa_aload_n (o := (some t)) dX3_layLines_155 rfl 1 rfl ?_
              refine wa_getR (C := RX3) (T := TX3) (N := 38) (ci := 2) (k := 21) dX3_layLines_156 rfl (Nat.le_of_ble_eq_true rfl) in_X3 q1213 q_same_own (g_R_mono F fun r15 F => ?_)
              refine wa_iload (x := v4) dX3_layLines_159 5 rfl ?_
              refine wa_iconst (v := 1) dX3_layLines_161 rfl ?_
              refine wa_zast (by decide) dX3_layLines_162 (s_I_mono F fun h16 F => ?_)
              refine wa_iload (x := x12) dX3_layLines_163 0 rfl ?_
              refine ws_istore_n (lv' := [(2, .int x12), (6, .int x12), (0, va_rf (some t)), (1, .int v1), (3, .int v3), (4, .int v4), (5, .int v5)]) dX3_layLines_165 rfl (Nat.le_of_ble_eq_true rfl) (q_ci (q_cr (q_ci (q_ci (q_ci (q_ci (q_ci q_cn))))))) rfl ?_
              exact wa_sub [2, 3, 0, 4, 5, 6] rfl F
            · have F := F.2 z
              refine wa_iload_n (x := v2) dX3_layLines_139 rfl 3 rfl ?_
              refine wa_iconst (v := 1) dX3_layLines_140 rfl ?_
              refine wa_iload (x := x12) dX3_layLines_141 0 rfl ?_
              refine wa_iadd dX3_layLines_143 ?_
              refine wa_iadd dX3_layLines_144 ?_
              refine ws_istore_n (lv' := [(2, .int (v2 + (1 + x12))), (6, .int x12), (0, va_rf (some t)), (1, .int v1), (3, .int v3), (4, .int v4), (5, .int v5)]) dX3_layLines_145 rfl (Nat.le_of_ble_eq_true rfl) (q_ci (q_cr (q_ci (q_ci (q_ci (q_ci (q_ci q_cn))))))) rfl ?_
              refine wa_goto (tgt := 166) dX3_layLines_146 rfl ?_
              exact wa_sub [2, 3, 0, 4, 5, 6] rfl F
          · have F := F.2 z
            refine wa_aload_n (o := (some t)) dX3_layLines_106 rfl 1 rfl ?_
            refine wa_getI (C := RX3) (T := TX3) (N := 38) (ci := 2) (k := 14) dX3_layLines_107 rfl (Nat.le_of_ble_eq_true rfl) in_X3 q1206 q_same_own (g_I_mono F fun x17 F => ?_)
            refine ws_istore (lv' := [(4, .int x17), (6, .int x12), (0, va_rf (some t)), (1, .int v1), (2, .int v2), (3, .int v3), (5, .int v5)]) dX3_layLines_110 (Nat.le_of_ble_eq_true rfl) (q_ci (q_cr (q_ci (q_ci (q_ci (q_ci (q_ci q_cn))))))) rfl ?_
            refine wa_aload_n (o := (some t)) dX3_layLines_112 rfl 2 rfl ?_
            refine wa_iconst (v := 0) dX3_layLines_113 rfl ?_
            refine wa_iconst (v := 1) dX3_layLines_114 rfl ?_
            refine wa_callV (M' := m_X3_newLine) (C := RX3) (o := (some t)) (As := [.int 0, .int 1]) (st := []) dX3_layLines_115 ⟨Nat.le_of_ble_eq_true rfl, Nat.le_of_ble_eq_true rfl, nk_X3_newLine⟩ q1367 q1369 qs26 q59 q1370 rfl rfl (Nat.zero_le 8) rfl F.1 F.2 (wk_V fun h18 F => ?_)
            refine wa_iload (x := x12) dX3_layLines_118 1 rfl ?_
            refine ws_istore_n (lv' := [(2, .int x12), (4, .int x17), (6, .int x12), (0, va_rf (some t)), (1, .int v1), (3, .int v3), (5, .int v5)]) dX3_layLines_120 rfl (Nat.le_of_ble_eq_true rfl) (q_ci (q_ci (q_cr (q_ci (q_ci (q_ci (q_ci q_cn))))))) rfl ?_
            refine wa_iconst (v := 1) dX3_layLines_121 rfl ?_
            refine ws_istore_n (lv' := [(3, .int 1), (2, .int x12), (4, .int x17), (6, .int x12), (0, va_rf (some t)), (1, .int v1), (5, .int v5)]) dX3_layLines_122 rfl (Nat.le_of_ble_eq_true rfl) (q_ci (q_ci (q_ci (q_cr (q_ci (q_ci (q_ci q_cn))))))) rfl ?_
            refine wa_goto (tgt := 166) dX3_layLines_123 rfl ?_
            exact wa_sub [4, 5, 1, 0, 2, 6] rfl F
      · have F := F.2 z
        refine wa_iconst (v := 0) dX3_layLines_59 rfl ?_
        refine ws_istore_n (lv' := [(3, .int 0), (0, va_rf (some t)), (1, .int v1), (2, .int v2), (4, .int v4), (5, .int v5)]) dX3_layLines_60 rfl (Nat.le_of_ble_eq_true rfl) (q_cr (q_ci (q_ci (q_ci (q_ci (q_ci q_cn)))))) rfl ?_
        refine wa_aload_n (o := (some t)) dX3_layLines_61 rfl 1 rfl ?_
        refine wa_iconst (v := 1) dX3_layLines_62 rfl ?_
        refine wa_iconst (v := 1) dX3_layLines_63 rfl ?_
        refine wa_callV (M' := m_X3_newLine) (C := RX3) (o := (some t)) (As := [.int 1, .int 1]) (st := []) dX3_layLines_64 ⟨Nat.le_of_ble_eq_true rfl, Nat.le_of_ble_eq_true rfl, nk_X3_newLine⟩ q1367 q1369 qs26 q59 q1370 rfl rfl (Nat.zero_le 8) rfl F.1 F.2 (wk_V fun h19 F => ?_)
        refine wa_aload_n (o := (some t)) dX3_layLines_67 rfl 1 rfl ?_
        refine wa_getR (C := RX3) (T := TX3) (N := 38) (ci := 2) (k := 15) dX3_layLines_68 rfl (Nat.le_of_ble_eq_true rfl) in_X3 q1207 q_same_own (g_R_mono F fun r20 F => ?_)
        refine wa_iload (x := v5) dX3_layLines_71 5 rfl ?_
        refine wa_aload_n (o := (some t)) dX3_layLines_73 rfl 1 rfl ?_
        refine wa_getI (C := RX3) (T := TX3) (N := 38) (ci := 2) (k := 14) dX3_layLines_74 rfl (Nat.le_of_ble_eq_true rfl) in_X3 q1206 q_same_own (g_I_mono F fun x21 F => ?_)
        refine wa_iconst (v := 1) dX3_layLines_77 rfl ?_
        refine wa_isub dX3_layLines_78 ?_
        refine wa_iast dX3_layLines_79 (s_I_mono F fun h22 F => ?_)
        refine wa_goto (tgt := 179) dX3_layLines_80 rfl ?_
        exact wa_sub [1, 2, 3, 0, 4, 5] rfl F
    · have F := F.2 z
      refine wa_iconst (v := 0) dX3_layLines_43 rfl ?_
      refine ws_istore_n (lv' := [(3, .int 0), (0, va_rf (some t)), (1, .int v1), (2, .int v2), (4, .int v4), (5, .int v5)]) dX3_layLines_44 rfl (Nat.le_of_ble_eq_true rfl) (q_cr (q_ci (q_ci (q_ci (q_ci (q_ci q_cn)))))) rfl ?_
      refine wa_goto (tgt := 179) dX3_layLines_45 rfl ?_
      exact wa_sub [1, 2, 3, 0, 4, 5] rfl F
theorem f_X3_layLines_179 {D : qD} {Q : Option Value → qH → Prop} {X : String → qH → Prop} (t : Nat) (v1 : Int32) (v2 : Int32) (v3 : Int32) (v4 : Int32) (v5 : Int32) (h : qH) (F : L_X3_layLines_15 D Q X t v1 v2 v3 v4 (v5 + 1) h) : L_X3_layLines_179 D Q X t v1 v2 v3 v4 v5 h := by
  show WA D m_X3_layLines Q X 179 [(0, va_rf (some t)), (1, .int v1), (2, .int v2), (3, .int v3), (4, .int v4), (5, .int v5)] [] h
  refine ws_iinc (j := 5) (v := (v5 + 1)) (lv' := [(5, .int (v5 + 1)), (0, va_rf (some t)), (1, .int v1), (2, .int v2), (3, .int v3), (4, .int v4)]) dX3_layLines_179 rfl rfl (Nat.le_of_ble_eq_true rfl) (q_cr (q_ci (q_ci (q_ci (q_ci (q_ci q_cn)))))) rfl ?_
  refine wa_goto (tgt := 15) dX3_layLines_182 rfl ?_
  exact wa_sub [1, 2, 3, 4, 5, 0] rfl F
theorem f_X3_layLines_166 {D : qD} {Q : Option Value → qH → Prop} {X : String → qH → Prop} (t : Nat) (v1 : Int32) (v2 : Int32) (v3 : Int32) (v4 : Int32) (v5 : Int32) (h : qH) (F : g_R D h (some t) 2 15 (fun r1 => g_I D h (some t) 2 14 (fun x2 => s_I h r1 0 v5 (x2 - 1) (fun h3 => L_X3_layLines_179 D Q X t v1 v2 v3 v4 v5 h3)))) : L_X3_layLines_166 D Q X t v1 v2 v3 v4 v5 h := by
  show WA D m_X3_layLines Q X 166 [(0, va_rf (some t)), (1, .int v1), (2, .int v2), (3, .int v3), (4, .int v4), (5, .int v5)] [] h
  refine wa_aload_n (o := (some t)) dX3_layLines_166 rfl 0 rfl ?_
  refine wa_getR (C := RX3) (T := TX3) (N := 38) (ci := 2) (k := 15) dX3_layLines_167 rfl (Nat.le_of_ble_eq_true rfl) in_X3 q1207 q_same_own (g_R_mono F fun r1 F => ?_)
  refine wa_iload (x := v5) dX3_layLines_170 5 rfl ?_
  refine wa_aload_n (o := (some t)) dX3_layLines_172 rfl 0 rfl ?_
  refine wa_getI (C := RX3) (T := TX3) (N := 38) (ci := 2) (k := 14) dX3_layLines_173 rfl (Nat.le_of_ble_eq_true rfl) in_X3 q1206 q_same_own (g_I_mono F fun x2 F => ?_)
  refine wa_iconst (v := 1) dX3_layLines_176 rfl ?_
  refine wa_isub dX3_layLines_177 ?_
  refine wa_iast dX3_layLines_178 (s_I_mono F fun h3 F => ?_)
  exact F
def L_X3_layColumns_29 (D : qD) (Q : Option Value → qH → Prop) (X : String → qH → Prop) (t : Nat) (v1 : Int32) (h : qH) : Prop := WA D m_X3_layColumns Q X 29 [(0, va_rf (some t)), (1, .int v1)] [] h
def L_X3_layColumns_201 (D : qD) (Q : Option Value → qH → Prop) (X : String → qH → Prop) (t : Nat) (h : qH) : Prop := WA D m_X3_layColumns Q X 201 [(0, va_rf (some t))] [] h
def L_X3_layColumns_37 (D : qD) (Q : Option Value → qH → Prop) (X : String → qH → Prop) (t : Nat) (v1 : Int32) (h : qH) : Prop := WA D m_X3_layColumns Q X 37 [(0, va_rf (some t)), (1, .int v1)] [] h
def L_X3_layColumns_67 (D : qD) (Q : Option Value → qH → Prop) (X : String → qH → Prop) (t : Nat) (v1 : Int32) (h : qH) : Prop := WA D m_X3_layColumns Q X 67 [(0, va_rf (some t)), (1, .int v1)] [] h
def L_X3_layColumns_109 (D : qD) (Q : Option Value → qH → Prop) (X : String → qH → Prop) (t : Nat) (v1 : Int32) (v2 : Int32) (h : qH) : Prop := WA D m_X3_layColumns Q X 109 [(0, va_rf (some t)), (1, .int v1), (2, .int v2)] [] h
def L_X3_layColumns_189 (D : qD) (Q : Option Value → qH → Prop) (X : String → qH → Prop) (t : Nat) (v1 : Int32) (v2 : Int32) (h : qH) : Prop := WA D m_X3_layColumns Q X 189 [(0, va_rf (some t)), (1, .int v1), (2, .int v2)] [] h
def L_X3_layColumns_169 (D : qD) (Q : Option Value → qH → Prop) (X : String → qH → Prop) (t : Nat) (v1 : Int32) (v2 : Int32) (h : qH) : Prop := WA D m_X3_layColumns Q X 169 [(0, va_rf (some t)), (1, .int v1), (2, .int v2)] [] h
theorem f_X3_layColumns {D : qD} {Q : Option Value → qH → Prop} {X : String → qH → Prop} (t : Nat) (h : qH) (F : p_F h (some t) 2 22 (.int 0) (fun h1 => p_F h1 (some t) 2 26 (.int 0) (fun h2 => p_F h2 (some t) 2 27 (.int 0) (fun h3 => g_I D h3 (some t) 2 14 (fun x4 => ((¬ x4 = 0 → (recv D h3 (some t) RX3 ∧ c_V D m_X3_begins [va_rf (some t)] h3 X (fun h5 => L_X3_layColumns_29 D Q X t 0 h5))) ∧ (x4 = 0 → Q none h3))))))) : MW D m_X3_layColumns [va_rf (some t)] h Q X := by
  refine mw_of pl_X3_layColumns rfl _ (Nat.le_of_ble_eq_true rfl) rfl ?_
  refine (show WA D m_X3_layColumns Q X 0 [(0, va_rf (some t))] [] h from ?_)
  refine wa_aload_n (o := (some t)) dX3_layColumns_0 rfl 0 rfl ?_
  refine wa_iconst (v := 0) dX3_layColumns_1 rfl ?_
  refine wa_put (C := RX3) (T := TX3) (N := 38) (ci := 2) (k := 22) tyX3 dX3_layColumns_2 rfl (Nat.le_of_ble_eq_true rfl) in_X3 tyX3_ok nmX3 q1214 q_same_own rfl rfl rfl (p_F_mono F fun h1 F => ?_)
  refine wa_aload_n (o := (some t)) dX3_layColumns_5 rfl 0 rfl ?_
  refine wa_iconst (v := 0) dX3_layColumns_6 rfl ?_
  refine wa_put (C := RX3) (T := TX3) (N := 38) (ci := 2) (k := 26) tyX3 dX3_layColumns_7 rfl (Nat.le_of_ble_eq_true rfl) in_X3 tyX3_ok nmX3 q1218 q_same_own rfl rfl rfl (p_F_mono F fun h2 F => ?_)
  refine wa_aload_n (o := (some t)) dX3_layColumns_10 rfl 0 rfl ?_
  refine wa_iconst (v := 0) dX3_layColumns_11 rfl ?_
  refine wa_put (C := RX3) (T := TX3) (N := 38) (ci := 2) (k := 27) tyX3 dX3_layColumns_12 rfl (Nat.le_of_ble_eq_true rfl) in_X3 tyX3_ok nmX3 q1219 q_same_own rfl rfl rfl (p_F_mono F fun h3 F => ?_)
  refine wa_aload_n (o := (some t)) dX3_layColumns_15 rfl 0 rfl ?_
  refine wa_getI (C := RX3) (T := TX3) (N := 38) (ci := 2) (k := 14) dX3_layColumns_16 rfl (Nat.le_of_ble_eq_true rfl) in_X3 q1206 q_same_own (g_I_mono F fun x4 F => ?_)
  refine wa_if_ne (tgt := 23) dX3_layColumns_19 rfl (fun z => ?_) (fun z => ?_)
  · have F := F.1 z
    refine wa_aload_n (o := (some t)) dX3_layColumns_23 rfl 0 rfl ?_
    refine wa_callV (M' := m_X3_begins) (C := RX3) (o := (some t)) (As := []) (st := []) dX3_layColumns_24 ⟨Nat.le_of_ble_eq_true rfl, Nat.le_of_ble_eq_true rfl, nk_X3_begins⟩ q1415 q1417 qs35 q59 q1418 rfl rfl (Nat.zero_le 8) rfl F.1 F.2 (wk_V fun h5 F => ?_)
    refine wa_iconst (v := 0) dX3_layColumns_27 rfl ?_
    refine ws_istore_n (lv' := [(1, .int 0), (0, va_rf (some t))]) dX3_layColumns_28 rfl (Nat.le_of_ble_eq_true rfl) (q_cr q_cn) rfl ?_
    exact wa_sub [1, 0] rfl F
  · have F := F.2 z
    exact wa_vret rfl dX3_layColumns_22 F
theorem f_X3_layColumns_29 {D : qD} {Q : Option Value → qH → Prop} {X : String → qH → Prop} (t : Nat) (v1 : Int32) (h : qH) (F : g_I D h (some t) 2 14 (fun x1 => ((x1 ≤ v1 → L_X3_layColumns_201 D Q X t h) ∧ (¬ x1 ≤ v1 → L_X3_layColumns_37 D Q X t v1 h)))) : L_X3_layColumns_29 D Q X t v1 h := by
  show WA D m_X3_layColumns Q X 29 [(0, va_rf (some t)), (1, .int v1)] [] h
  refine wa_iload_n (x := v1) dX3_layColumns_29 rfl 1 rfl ?_
  refine wa_aload_n (o := (some t)) dX3_layColumns_30 rfl 0 rfl ?_
  refine wa_getI (C := RX3) (T := TX3) (N := 38) (ci := 2) (k := 14) dX3_layColumns_31 rfl (Nat.le_of_ble_eq_true rfl) in_X3 q1206 q_same_own (g_I_mono F fun x1 F => ?_)
  refine wa_icmp_ge (tgt := 201) dX3_layColumns_34 rfl (fun z => ?_) (fun z => ?_)
  · have F := F.1 z
    exact wa_sub [0] rfl F
  · have F := F.2 z
    exact F
theorem f_X3_layColumns_201 {D : qD} {Q : Option Value → qH → Prop} {X : String → qH → Prop} (t : Nat) (h : qH) (F : g_I D h (some t) 2 26 (fun x1 => g_I D h (some t) 2 27 (fun x2 => ((x2 ≤ x1 → Q none h) ∧ (¬ x2 ≤ x1 → (recv D h (some t) RX3 ∧ c_V D m_X3_begins [va_rf (some t)] h X (fun h3 => L_X3_layColumns_201 D Q X t h3))))))) : L_X3_layColumns_201 D Q X t h := by
  show WA D m_X3_layColumns Q X 201 [(0, va_rf (some t))] [] h
  refine wa_aload_n (o := (some t)) dX3_layColumns_201 rfl 0 rfl ?_
  refine wa_getI (C := RX3) (T := TX3) (N := 38) (ci := 2) (k := 26) dX3_layColumns_202 rfl (Nat.le_of_ble_eq_true rfl) in_X3 q1218 q_same_own (g_I_mono F fun x1 F => ?_)
  refine wa_aload_n (o := (some t)) dX3_layColumns_205 rfl 0 rfl ?_
  refine wa_getI (C := RX3) (T := TX3) (N := 38) (ci := 2) (k := 27) dX3_layColumns_206 rfl (Nat.le_of_ble_eq_true rfl) in_X3 q1219 q_same_own (g_I_mono F fun x2 F => ?_)
  refine wa_icmp_ge (tgt := 219) dX3_layColumns_209 rfl (fun z => ?_) (fun z => ?_)
  · have F := F.1 z
    exact wa_vret rfl dX3_layColumns_219 F
  · have F := F.2 z
    refine wa_aload_n (o := (some t)) dX3_layColumns_212 rfl 0 rfl ?_
    refine wa_callV (M' := m_X3_begins) (C := RX3) (o := (some t)) (As := []) (st := []) dX3_layColumns_213 ⟨Nat.le_of_ble_eq_true rfl, Nat.le_of_ble_eq_true rfl, nk_X3_begins⟩ q1415 q1417 qs35 q59 q1418 rfl rfl (Nat.zero_le 8) rfl F.1 F.2 (wk_V fun h3 F => ?_)
    refine wa_goto (tgt := 201) dX3_layColumns_216 rfl ?_
    exact F
theorem f_X3_layColumns_37 {D : qD} {Q : Option Value → qH → Prop} {X : String → qH → Prop} (t : Nat) (v1 : Int32) (h : qH) (F : g_I D h (some t) 2 30 (fun x1 => ((x1 = 0 → L_X3_layColumns_67 D Q X t v1 h) ∧ (¬ x1 = 0 → g_I D h (some t) 2 29 (fun x2 => (recv D h (some t) RX3 ∧ c_I D m_X3_needs [va_rf (some t), .int v1, .int x2] h X (fun x4 h3 => g_I D h3 (some t) 2 28 (fun x5 => ((x4 ≤ x5 → L_X3_layColumns_67 D Q X t v1 h3) ∧ (¬ x4 ≤ x5 → (recv D h3 (some t) RX3 ∧ c_V D m_X3_begins [va_rf (some t)] h3 X (fun h6 => L_X3_layColumns_37 D Q X t v1 h6)))))))))))) : L_X3_layColumns_37 D Q X t v1 h := by
  show WA D m_X3_layColumns Q X 37 [(0, va_rf (some t)), (1, .int v1)] [] h
  refine wa_aload_n (o := (some t)) dX3_layColumns_37 rfl 0 rfl ?_
  refine wa_getI (C := RX3) (T := TX3) (N := 38) (ci := 2) (k := 30) dX3_layColumns_38 rfl (Nat.le_of_ble_eq_true rfl) in_X3 q1222 q_same_own (g_I_mono F fun x1 F => ?_)
  refine wa_if_eq (tgt := 67) dX3_layColumns_41 rfl (fun z => ?_) (fun z => ?_)
  · have F := F.1 z
    exact F
  · have F := F.2 z
    refine wa_aload_n (o := (some t)) dX3_layColumns_44 rfl 0 rfl ?_
    refine wa_iload_n (x := v1) dX3_layColumns_45 rfl 1 rfl ?_
    refine wa_aload_n (o := (some t)) dX3_layColumns_46 rfl 0 rfl ?_
    refine wa_getI (C := RX3) (T := TX3) (N := 38) (ci := 2) (k := 29) dX3_layColumns_47 rfl (Nat.le_of_ble_eq_true rfl) in_X3 q1221 q_same_own (g_I_mono F fun x2 F => ?_)
    refine wa_callV (M' := m_X3_needs) (C := RX3) (o := (some t)) (As := [.int v1, .int x2]) (st := []) dX3_layColumns_50 ⟨Nat.le_of_ble_eq_true rfl, Nat.le_of_ble_eq_true rfl, nk_X3_needs⟩ q1423 q1425 qs37 q59 q1426 rfl rfl (Nat.zero_le 8) rfl F.1 F.2 (wk_I fun x4 h3 F => ?_)
    refine wa_aload_n (o := (some t)) dX3_layColumns_53 rfl 0 rfl ?_
    refine wa_getI (C := RX3) (T := TX3) (N := 38) (ci := 2) (k := 28) dX3_layColumns_54 rfl (Nat.le_of_ble_eq_true rfl) in_X3 q1220 q_same_own (g_I_mono F fun x5 F => ?_)
    refine wa_icmp_le (tgt := 67) dX3_layColumns_57 rfl (fun z => ?_) (fun z => ?_)
    · have F := F.1 z
      exact F
    · have F := F.2 z
      refine wa_aload_n (o := (some t)) dX3_layColumns_60 rfl 0 rfl ?_
      refine wa_callV (M' := m_X3_begins) (C := RX3) (o := (some t)) (As := []) (st := []) dX3_layColumns_61 ⟨Nat.le_of_ble_eq_true rfl, Nat.le_of_ble_eq_true rfl, nk_X3_begins⟩ q1415 q1417 qs35 q59 q1418 rfl rfl (Nat.zero_le 8) rfl F.1 F.2 (wk_V fun h6 F => ?_)
      refine wa_goto (tgt := 37) dX3_layColumns_64 rfl ?_
      exact F
theorem f_X3_layColumns_67 {D : qD} {Q : Option Value → qH → Prop} {X : String → qH → Prop} (t : Nat) (v1 : Int32) (h : qH) (F : g_R D h (some t) 2 17 (fun r1 => g_I D h (some t) 2 22 (fun x2 => s_I h r1 0 v1 (x2 - 1) (fun h3 => g_I D h3 (some t) 2 28 (fun x4 => g_I D h3 (some t) 2 29 (fun x5 => (recv D h3 (some t) RX3 ∧ c_I D m_X3_takes [va_rf (some t), .int v1, .int x5] h3 X (fun x7 h6 => p_F h6 (some t) 2 28 (.int (x4 - x7)) (fun h8 => p_F h8 (some t) 2 29 (.int 1) (fun h9 => p_F h9 (some t) 2 30 (.int 1) (fun h10 => L_X3_layColumns_109 D Q X t v1 0 h10))))))))))) : L_X3_layColumns_67 D Q X t v1 h := by
  show WA D m_X3_layColumns Q X 67 [(0, va_rf (some t)), (1, .int v1)] [] h
  refine wa_aload_n (o := (some t)) dX3_layColumns_67 rfl 0 rfl ?_
  refine wa_getR (C := RX3) (T := TX3) (N := 38) (ci := 2) (k := 17) dX3_layColumns_68 rfl (Nat.le_of_ble_eq_true rfl) in_X3 q1209 q_same_own (g_R_mono F fun r1 F => ?_)
  refine wa_iload_n (x := v1) dX3_layColumns_71 rfl 1 rfl ?_
  refine wa_aload_n (o := (some t)) dX3_layColumns_72 rfl 0 rfl ?_
  refine wa_getI (C := RX3) (T := TX3) (N := 38) (ci := 2) (k := 22) dX3_layColumns_73 rfl (Nat.le_of_ble_eq_true rfl) in_X3 q1214 q_same_own (g_I_mono F fun x2 F => ?_)
  refine wa_iconst (v := 1) dX3_layColumns_76 rfl ?_
  refine wa_isub dX3_layColumns_77 ?_
  refine wa_iast dX3_layColumns_78 (s_I_mono F fun h3 F => ?_)
  refine wa_aload_n (o := (some t)) dX3_layColumns_79 rfl 0 rfl ?_
  refine wa_dup dX3_layColumns_80 (q_cat _) ?_
  refine wa_getI (C := RX3) (T := TX3) (N := 38) (ci := 2) (k := 28) dX3_layColumns_81 rfl (Nat.le_of_ble_eq_true rfl) in_X3 q1220 q_same_own (g_I_mono F fun x4 F => ?_)
  refine wa_aload_n (o := (some t)) dX3_layColumns_84 rfl 0 rfl ?_
  refine wa_iload_n (x := v1) dX3_layColumns_85 rfl 1 rfl ?_
  refine wa_aload_n (o := (some t)) dX3_layColumns_86 rfl 0 rfl ?_
  refine wa_getI (C := RX3) (T := TX3) (N := 38) (ci := 2) (k := 29) dX3_layColumns_87 rfl (Nat.le_of_ble_eq_true rfl) in_X3 q1221 q_same_own (g_I_mono F fun x5 F => ?_)
  refine wa_callV (M' := m_X3_takes) (C := RX3) (o := (some t)) (As := [.int v1, .int x5]) (st := [.int x4, va_rf (some t)]) dX3_layColumns_90 ⟨Nat.le_of_ble_eq_true rfl, Nat.le_of_ble_eq_true rfl, nk_X3_takes⟩ q1427 q1429 qs38 q59 q1430 rfl rfl (q_cs_le (q_csi (q_csr q_cs0)) (Nat.le_of_ble_eq_true rfl)) rfl F.1 F.2 (wk_I fun x7 h6 F => ?_)
  refine wa_isub dX3_layColumns_93 ?_
  refine wa_put (C := RX3) (T := TX3) (N := 38) (ci := 2) (k := 28) tyX3 dX3_layColumns_94 rfl (Nat.le_of_ble_eq_true rfl) in_X3 tyX3_ok nmX3 q1220 q_same_own rfl rfl rfl (p_F_mono F fun h8 F => ?_)
  refine wa_aload_n (o := (some t)) dX3_layColumns_97 rfl 0 rfl ?_
  refine wa_iconst (v := 1) dX3_layColumns_98 rfl ?_
  refine wa_put (C := RX3) (T := TX3) (N := 38) (ci := 2) (k := 29) tyX3 dX3_layColumns_99 rfl (Nat.le_of_ble_eq_true rfl) in_X3 tyX3_ok nmX3 q1221 q_same_own rfl rfl rfl (p_F_mono F fun h9 F => ?_)
  refine wa_aload_n (o := (some t)) dX3_layColumns_102 rfl 0 rfl ?_
  refine wa_iconst (v := 1) dX3_layColumns_103 rfl ?_
  refine wa_put (C := RX3) (T := TX3) (N := 38) (ci := 2) (k := 30) tyX3 dX3_layColumns_104 rfl (Nat.le_of_ble_eq_true rfl) in_X3 tyX3_ok nmX3 q1222 q_same_own rfl rfl rfl (p_F_mono F fun h10 F => ?_)
  refine wa_iconst (v := 0) dX3_layColumns_107 rfl ?_
  refine ws_istore_n (lv' := [(2, .int 0), (0, va_rf (some t)), (1, .int v1)]) dX3_layColumns_108 rfl (Nat.le_of_ble_eq_true rfl) (q_cr (q_ci q_cn)) rfl ?_
  exact wa_sub [1, 2, 0] rfl F
theorem f_X3_layColumns_109 {D : qD} {Q : Option Value → qH → Prop} {X : String → qH → Prop} (t : Nat) (v1 : Int32) (v2 : Int32) (h : qH) (F : g_I D h (some t) 2 0 (fun x1 => ((x1 ≤ v2 → L_X3_layColumns_29 D Q X t (v1 + 1) h) ∧ (¬ x1 ≤ v2 → g_R D h (some t) 2 1 (fun r2 => a_I D h r2 0 v2 (fun x3 => ((¬ x3 = 4 → L_X3_layColumns_189 D Q X t v1 v2 h) ∧ (x3 = 4 → g_R D h (some t) 2 15 (fun r4 => a_I D h r4 0 v2 (fun x5 => ((¬ x5 = v1 → L_X3_layColumns_189 D Q X t v1 v2 h) ∧ (x5 = v1 → g_I D h (some t) 2 26 (fun x6 => g_I D h (some t) 2 27 (fun x7 => ((¬ x6 = x7 → L_X3_layColumns_169 D Q X t v1 v2 h) ∧ (x6 = x7 → g_R D h (some t) 2 2 (fun r8 => a_I D h r8 0 v2 (fun x9 => g_I D h (some t) 2 28 (fun x10 => ((x10 < x9 → L_X3_layColumns_169 D Q X t v1 v2 h) ∧ (¬ x10 < x9 → (recv D h (some t) RX3 ∧ c_V D m_X3_tops [va_rf (some t), .int v2] h X (fun h11 => L_X3_layColumns_189 D Q X t v1 v2 h11))))))))))))))))))))))) : L_X3_layColumns_109 D Q X t v1 v2 h := by
  show WA D m_X3_layColumns Q X 109 [(0, va_rf (some t)), (1, .int v1), (2, .int v2)] [] h
  refine wa_iload_n (x := v2) dX3_layColumns_109 rfl 2 rfl ?_
  refine wa_aload_n (o := (some t)) dX3_layColumns_110 rfl 0 rfl ?_
  refine wa_getI (C := RX3) (T := TX3) (N := 38) (ci := 2) (k := 0) dX3_layColumns_111 rfl (Nat.le_of_ble_eq_true rfl) in_X3 q1192 q_same_own (g_I_mono F fun x1 F => ?_)
  refine wa_icmp_ge (tgt := 195) dX3_layColumns_114 rfl (fun z => ?_) (fun z => ?_)
  · have F := F.1 z
    refine ws_iinc (j := 1) (v := (v1 + 1)) (lv' := [(1, .int (v1 + 1)), (0, va_rf (some t)), (2, .int v2)]) dX3_layColumns_195 rfl rfl (Nat.le_of_ble_eq_true rfl) (q_cr (q_ci (q_ci q_cn))) rfl ?_
    refine wa_goto (tgt := 29) dX3_layColumns_198 rfl ?_
    exact wa_sub [1, 0] rfl F
  · have F := F.2 z
    refine wa_aload_n (o := (some t)) dX3_layColumns_117 rfl 0 rfl ?_
    refine wa_getR (C := RX3) (T := TX3) (N := 38) (ci := 2) (k := 1) dX3_layColumns_118 rfl (Nat.le_of_ble_eq_true rfl) in_X3 q1193 q_same_own (g_R_mono F fun r2 F => ?_)
    refine wa_iload_n (x := v2) dX3_layColumns_121 rfl 2 rfl ?_
    refine wa_iald dX3_layColumns_122 (a_I_mono F fun x3 F => ?_)
    refine wa_iconst (v := 4) dX3_layColumns_123 rfl ?_
    refine wa_icmp_ne (tgt := 189) dX3_layColumns_124 rfl (fun z => ?_) (fun z => ?_)
    · have F := F.1 z
      exact F
    · have F := F.2 z
      refine wa_aload_n (o := (some t)) dX3_layColumns_127 rfl 0 rfl ?_
      refine wa_getR (C := RX3) (T := TX3) (N := 38) (ci := 2) (k := 15) dX3_layColumns_128 rfl (Nat.le_of_ble_eq_true rfl) in_X3 q1207 q_same_own (g_R_mono F fun r4 F => ?_)
      refine wa_iload_n (x := v2) dX3_layColumns_131 rfl 2 rfl ?_
      refine wa_iald dX3_layColumns_132 (a_I_mono F fun x5 F => ?_)
      refine wa_iload_n (x := v1) dX3_layColumns_133 rfl 1 rfl ?_
      refine wa_icmp_ne (tgt := 189) dX3_layColumns_134 rfl (fun z => ?_) (fun z => ?_)
      · have F := F.1 z
        exact F
      · have F := F.2 z
        refine wa_aload_n (o := (some t)) dX3_layColumns_137 rfl 0 rfl ?_
        refine wa_getI (C := RX3) (T := TX3) (N := 38) (ci := 2) (k := 26) dX3_layColumns_138 rfl (Nat.le_of_ble_eq_true rfl) in_X3 q1218 q_same_own (g_I_mono F fun x6 F => ?_)
        refine wa_aload_n (o := (some t)) dX3_layColumns_141 rfl 0 rfl ?_
        refine wa_getI (C := RX3) (T := TX3) (N := 38) (ci := 2) (k := 27) dX3_layColumns_142 rfl (Nat.le_of_ble_eq_true rfl) in_X3 q1219 q_same_own (g_I_mono F fun x7 F => ?_)
        refine wa_icmp_ne (tgt := 169) dX3_layColumns_145 rfl (fun z => ?_) (fun z => ?_)
        · have F := F.1 z
          exact F
        · have F := F.2 z
          refine wa_aload_n (o := (some t)) dX3_layColumns_148 rfl 0 rfl ?_
          refine wa_getR (C := RX3) (T := TX3) (N := 38) (ci := 2) (k := 2) dX3_layColumns_149 rfl (Nat.le_of_ble_eq_true rfl) in_X3 q1194 q_same_own (g_R_mono F fun r8 F => ?_)
          refine wa_iload_n (x := v2) dX3_layColumns_152 rfl 2 rfl ?_
          refine wa_iald dX3_layColumns_153 (a_I_mono F fun x9 F => ?_)
          refine wa_aload_n (o := (some t)) dX3_layColumns_154 rfl 0 rfl ?_
          refine wa_getI (C := RX3) (T := TX3) (N := 38) (ci := 2) (k := 28) dX3_layColumns_155 rfl (Nat.le_of_ble_eq_true rfl) in_X3 q1220 q_same_own (g_I_mono F fun x10 F => ?_)
          refine wa_icmp_gt (tgt := 169) dX3_layColumns_158 rfl (fun z => ?_) (fun z => ?_)
          · have F := F.1 z
            exact F
          · have F := F.2 z
            refine wa_aload_n (o := (some t)) dX3_layColumns_161 rfl 0 rfl ?_
            refine wa_iload_n (x := v2) dX3_layColumns_162 rfl 2 rfl ?_
            refine wa_callV (M' := m_X3_tops) (C := RX3) (o := (some t)) (As := [.int v2]) (st := []) dX3_layColumns_163 ⟨Nat.le_of_ble_eq_true rfl, Nat.le_of_ble_eq_true rfl, nk_X3_tops⟩ q1419 q1421 qs36 q59 q1422 rfl rfl (Nat.zero_le 8) rfl F.1 F.2 (wk_V fun h11 F => ?_)
            refine wa_goto (tgt := 189) dX3_layColumns_166 rfl ?_
            exact F
theorem f_X3_layColumns_189 {D : qD} {Q : Option Value → qH → Prop} {X : String → qH → Prop} (t : Nat) (v1 : Int32) (v2 : Int32) (h : qH) (F : L_X3_layColumns_109 D Q X t v1 (v2 + 1) h) : L_X3_layColumns_189 D Q X t v1 v2 h := by
  show WA D m_X3_layColumns Q X 189 [(0, va_rf (some t)), (1, .int v1), (2, .int v2)] [] h
  refine ws_iinc (j := 2) (v := (v2 + 1)) (lv' := [(2, .int (v2 + 1)), (0, va_rf (some t)), (1, .int v1)]) dX3_layColumns_189 rfl rfl (Nat.le_of_ble_eq_true rfl) (q_cr (q_ci (q_ci q_cn))) rfl ?_
  refine wa_goto (tgt := 109) dX3_layColumns_192 rfl ?_
  exact wa_sub [1, 2, 0] rfl F
theorem f_X3_layColumns_169 {D : qD} {Q : Option Value → qH → Prop} {X : String → qH → Prop} (t : Nat) (v1 : Int32) (v2 : Int32) (h : qH) (F : g_R D h (some t) 2 25 (fun r1 => g_I D h (some t) 2 27 (fun x2 => s_I h r1 0 x2 v2 (fun h3 => g_I D h3 (some t) 2 27 (fun x4 => p_F h3 (some t) 2 27 (.int (x4 + 1)) (fun h5 => L_X3_layColumns_189 D Q X t v1 v2 h5)))))) : L_X3_layColumns_169 D Q X t v1 v2 h := by
  show WA D m_X3_layColumns Q X 169 [(0, va_rf (some t)), (1, .int v1), (2, .int v2)] [] h
  refine wa_aload_n (o := (some t)) dX3_layColumns_169 rfl 0 rfl ?_
  refine wa_getR (C := RX3) (T := TX3) (N := 38) (ci := 2) (k := 25) dX3_layColumns_170 rfl (Nat.le_of_ble_eq_true rfl) in_X3 q1217 q_same_own (g_R_mono F fun r1 F => ?_)
  refine wa_aload_n (o := (some t)) dX3_layColumns_173 rfl 0 rfl ?_
  refine wa_getI (C := RX3) (T := TX3) (N := 38) (ci := 2) (k := 27) dX3_layColumns_174 rfl (Nat.le_of_ble_eq_true rfl) in_X3 q1219 q_same_own (g_I_mono F fun x2 F => ?_)
  refine wa_iload_n (x := v2) dX3_layColumns_177 rfl 2 rfl ?_
  refine wa_iast dX3_layColumns_178 (s_I_mono F fun h3 F => ?_)
  refine wa_aload_n (o := (some t)) dX3_layColumns_179 rfl 0 rfl ?_
  refine wa_dup dX3_layColumns_180 (q_cat _) ?_
  refine wa_getI (C := RX3) (T := TX3) (N := 38) (ci := 2) (k := 27) dX3_layColumns_181 rfl (Nat.le_of_ble_eq_true rfl) in_X3 q1219 q_same_own (g_I_mono F fun x4 F => ?_)
  refine wa_iconst (v := 1) dX3_layColumns_184 rfl ?_
  refine wa_iadd dX3_layColumns_185 ?_
  refine wa_put (C := RX3) (T := TX3) (N := 38) (ci := 2) (k := 27) tyX3 dX3_layColumns_186 rfl (Nat.le_of_ble_eq_true rfl) in_X3 tyX3_ok nmX3 q1219 q_same_own rfl rfl rfl (p_F_mono F fun h5 F => ?_)
  exact F
def L_X3_layFront_12 (D : qD) (Q : Option Value → qH → Prop) (X : String → qH → Prop) (t : Nat) (v1 : Int32) (h : qH) : Prop := WA D m_X3_layFront Q X 12 [(0, va_rf (some t)), (1, .int v1)] [] h
def L_X3_layFront_48 (D : qD) (Q : Option Value → qH → Prop) (X : String → qH → Prop) (t : Nat) (v1 : Int32) (v2 : Int32) (s0 : Int32) (s1 : Nat) (h : qH) : Prop := WA D m_X3_layFront Q X 48 [(0, va_rf (some t)), (1, .int v1), (2, .int v2)] [.int s0, va_rf (some s1)] h
theorem f_X3_layFront {D : qD} {Q : Option Value → qH → Prop} {X : String → qH → Prop} (t : Nat) (h : qH) (F : p_F h (some t) 2 23 (.int 0) (fun h1 => p_F h1 (some t) 2 24 (.int 0) (fun h2 => L_X3_layFront_12 D Q X t 0 h2))) : MW D m_X3_layFront [va_rf (some t)] h Q X := by
  refine mw_of pl_X3_layFront rfl _ (Nat.le_of_ble_eq_true rfl) rfl ?_
  refine (show WA D m_X3_layFront Q X 0 [(0, va_rf (some t))] [] h from ?_)
  refine wa_aload_n (o := (some t)) dX3_layFront_0 rfl 0 rfl ?_
  refine wa_iconst (v := 0) dX3_layFront_1 rfl ?_
  refine wa_put (C := RX3) (T := TX3) (N := 38) (ci := 2) (k := 23) tyX3 dX3_layFront_2 rfl (Nat.le_of_ble_eq_true rfl) in_X3 tyX3_ok nmX3 q1215 q_same_own rfl rfl rfl (p_F_mono F fun h1 F => ?_)
  refine wa_aload_n (o := (some t)) dX3_layFront_5 rfl 0 rfl ?_
  refine wa_iconst (v := 0) dX3_layFront_6 rfl ?_
  refine wa_put (C := RX3) (T := TX3) (N := 38) (ci := 2) (k := 24) tyX3 dX3_layFront_7 rfl (Nat.le_of_ble_eq_true rfl) in_X3 tyX3_ok nmX3 q1216 q_same_own rfl rfl rfl (p_F_mono F fun h2 F => ?_)
  refine wa_iconst (v := 0) dX3_layFront_10 rfl ?_
  refine ws_istore_n (lv' := [(1, .int 0), (0, va_rf (some t))]) dX3_layFront_11 rfl (Nat.le_of_ble_eq_true rfl) (q_cr q_cn) rfl ?_
  exact wa_sub [1, 0] rfl F
theorem f_X3_layFront_12 {D : qD} {Q : Option Value → qH → Prop} {X : String → qH → Prop} (t : Nat) (v1 : Int32) (h : qH) (F : ((10 ≤ v1 → Q none h) ∧ (¬ 10 ≤ v1 → g_I D h (some t) 2 24 (fun x1 => ((¬ x1 = 0 → Q none h) ∧ (x1 = 0 → g_I D h (some t) 2 23 (fun x2 => (recv D h (some t) RX3 ∧ c_I D m_X3_frontBy [va_rf (some t), .int x2] h X (fun x4 h3 => g_I D h3 (some t) 2 23 (fun x5 => ((¬ x4 = x5 → L_X3_layFront_48 D Q X t v1 x4 0 t h3) ∧ (x4 = x5 → L_X3_layFront_48 D Q X t v1 x4 1 t h3)))))))))))) : L_X3_layFront_12 D Q X t v1 h := by
  show WA D m_X3_layFront Q X 12 [(0, va_rf (some t)), (1, .int v1)] [] h
  refine wa_iload_n (x := v1) dX3_layFront_12 rfl 1 rfl ?_
  refine wa_bipush (v := 10) dX3_layFront_13 rfl ?_
  refine wa_icmp_ge (tgt := 62) dX3_layFront_15 rfl (fun z => ?_) (fun z => ?_)
  · have F := F.1 z
    exact wa_vret rfl dX3_layFront_62 F
  · have F := F.2 z
    refine wa_aload_n (o := (some t)) dX3_layFront_18 rfl 0 rfl ?_
    refine wa_getI (C := RX3) (T := TX3) (N := 38) (ci := 2) (k := 24) dX3_layFront_19 rfl (Nat.le_of_ble_eq_true rfl) in_X3 q1216 q_same_own (g_I_mono F fun x1 F => ?_)
    refine wa_if_ne (tgt := 62) dX3_layFront_22 rfl (fun z => ?_) (fun z => ?_)
    · have F := F.1 z
      exact wa_vret rfl dX3_layFront_62 F
    · have F := F.2 z
      refine wa_aload_n (o := (some t)) dX3_layFront_25 rfl 0 rfl ?_
      refine wa_aload_n (o := (some t)) dX3_layFront_26 rfl 0 rfl ?_
      refine wa_getI (C := RX3) (T := TX3) (N := 38) (ci := 2) (k := 23) dX3_layFront_27 rfl (Nat.le_of_ble_eq_true rfl) in_X3 q1215 q_same_own (g_I_mono F fun x2 F => ?_)
      refine wa_callV (M' := m_X3_frontBy) (C := RX3) (o := (some t)) (As := [.int x2]) (st := []) dX3_layFront_30 ⟨Nat.le_of_ble_eq_true rfl, Nat.le_of_ble_eq_true rfl, nk_X3_frontBy⟩ q1435 q1437 qs40 q59 q1438 rfl rfl (Nat.zero_le 8) rfl F.1 F.2 (wk_I fun x4 h3 F => ?_)
      refine ws_istore_n (lv' := [(2, .int x4), (0, va_rf (some t)), (1, .int v1)]) dX3_layFront_33 rfl (Nat.le_of_ble_eq_true rfl) (q_cr (q_ci q_cn)) rfl ?_
      refine wa_aload_n (o := (some t)) dX3_layFront_34 rfl 1 rfl ?_
      refine wa_iload_n (x := x4) dX3_layFront_35 rfl 0 rfl ?_
      refine wa_aload_n (o := (some t)) dX3_layFront_36 rfl 1 rfl ?_
      refine wa_getI (C := RX3) (T := TX3) (N := 38) (ci := 2) (k := 23) dX3_layFront_37 rfl (Nat.le_of_ble_eq_true rfl) in_X3 q1215 q_same_own (g_I_mono F fun x5 F => ?_)
      refine wa_icmp_ne (tgt := 47) dX3_layFront_40 rfl (fun z => ?_) (fun z => ?_)
      · have F := F.1 z
        refine wa_iconst (v := 0) dX3_layFront_47 rfl ?_
        exact wa_sub [1, 2, 0] rfl F
      · have F := F.2 z
        refine wa_iconst (v := 1) dX3_layFront_43 rfl ?_
        refine wa_goto (tgt := 48) dX3_layFront_44 rfl ?_
        exact wa_sub [1, 2, 0] rfl F
theorem f_X3_layFront_48 {D : qD} {Q : Option Value → qH → Prop} {X : String → qH → Prop} (t : Nat) (v1 : Int32) (v2 : Int32) (s0 : Int32) (s1 : Nat) (h : qH) (F : ((s0 = 0 ∨ s0 = 1) ∧ p_F h (some s1) 2 24 (.int s0) (fun h1 => p_F h1 (some t) 2 23 (.int v2) (fun h2 => L_X3_layFront_12 D Q X t (v1 + 1) h2)))) : L_X3_layFront_48 D Q X t v1 v2 s0 s1 h := by
  show WA D m_X3_layFront Q X 48 [(0, va_rf (some t)), (1, .int v1), (2, .int v2)] [.int s0, va_rf (some s1)] h
  refine wa_put (C := RX3) (T := TX3) (N := 38) (ci := 2) (k := 24) tyX3 dX3_layFront_48 rfl (Nat.le_of_ble_eq_true rfl) in_X3 tyX3_ok nmX3 q1216 q_same_own rfl (q_nar_z F.1) (q_fit_z F.1) (p_F_mono F.2 fun h1 F => ?_)
  refine wa_aload_n (o := (some t)) dX3_layFront_51 rfl 0 rfl ?_
  refine wa_iload_n (x := v2) dX3_layFront_52 rfl 2 rfl ?_
  refine wa_put (C := RX3) (T := TX3) (N := 38) (ci := 2) (k := 23) tyX3 dX3_layFront_53 rfl (Nat.le_of_ble_eq_true rfl) in_X3 tyX3_ok nmX3 q1215 q_same_own rfl rfl rfl (p_F_mono F fun h2 F => ?_)
  refine ws_iinc (j := 1) (v := (v1 + 1)) (lv' := [(1, .int (v1 + 1)), (0, va_rf (some t)), (2, .int v2)]) dX3_layFront_56 rfl rfl (Nat.le_of_ble_eq_true rfl) (q_cr (q_ci (q_ci q_cn))) rfl ?_
  refine wa_goto (tgt := 12) dX3_layFront_59 rfl ?_
  exact wa_sub [1, 0] rfl F
def L_X3_sheet_24 (D : qD) (Q : Option Value → qH → Prop) (X : String → qH → Prop) (t : Nat) (h : qH) : Prop := WA D m_X3_sheet Q X 24 [(0, va_rf (some t))] [] h
def L_X3_sheet_117 (D : qD) (Q : Option Value → qH → Prop) (X : String → qH → Prop) (h : qH) : Prop := WA D m_X3_sheet Q X 117 [] [] h
theorem f_X3_sheet {D : qD} {Q : Option Value → qH → Prop} {X : String → qH → Prop} (t : Nat) (p0 : Int32) (p1 : Int32) (h : qH) (F : c_I D m_X3_in [.long p0.toInt64, .long 1, .long 999] h X (fun x2 h1 => ((x2 = 0 → L_X3_sheet_24 D Q X t h1) ∧ (¬ x2 = 0 → c_I D m_X3_in [.long p1.toInt64, .long 0, .long 3] h1 X (fun x4 h3 => ((¬ x4 = 0 → p_F h3 (some t) 2 37 (.int 0) (fun h5 => g_I D h5 (some t) 2 12 (fun x6 => (¬ x6 = 0 ∧ (recv D h5 (some t) RX3 ∧ c_I D m_X3_within [va_rf (some t), .int p0] h5 X (fun x8 h7 => ((p1 = 0 → (recv D h7 (some t) RX3 ∧ c_I D m_X3_sheetOf [va_rf (some t), .int p0] h7 X (fun x10 h9 => Q (some (.int x10)) h9))) ∧ (p1 = 1 → (recv D h7 (some t) RX3 ∧ c_I D m_X3_sideOf [va_rf (some t), .int p0] h7 X (fun x12 h11 => Q (some (.int x12)) h11))) ∧ (p1 = 2 → (((((p0 - 1) - (p0 - 1) / x6 * x6) + 1) = ((2 * x8) + 1) → L_X3_sheet_117 D Q X h7) ∧ (¬ (((p0 - 1) - (p0 - 1) / x6 * x6) + 1) = ((2 * x8) + 1) → g_I D h7 (some t) 2 12 (fun x13 => ((¬ (((p0 - 1) - (p0 - 1) / x6 * x6) + 1) = ((x13 - (2 * x8)) - 1) → Q (some (.int 0)) h7) ∧ ((((p0 - 1) - (p0 - 1) / x6 * x6) + 1) = ((x13 - (2 * x8)) - 1) → L_X3_sheet_117 D Q X h7)))))) ∧ (¬ p1 = 0 → ¬ p1 = 1 → ¬ p1 = 2 → g_I D h7 (some t) 2 13 (fun x14 => Q (some (.int (x8 * x14))) h7))))))))) ∧ (x4 = 0 → L_X3_sheet_24 D Q X t h3))))))) : MW D m_X3_sheet [va_rf (some t), .int p0, .int p1] h Q X := by
  refine mw_of pl_X3_sheet rfl _ (Nat.le_of_ble_eq_true rfl) rfl ?_
  refine (show WA D m_X3_sheet Q X 0 [(0, va_rf (some t)), (1, .int p0), (2, .int p1)] [] h from ?_)
  refine wa_iload_n (x := p0) dX3_sheet_0 rfl 1 rfl ?_
  refine wa_i2l dX3_sheet_1 ?_
  refine wa_lconst (v := 1) dX3_sheet_2 rfl ?_
  refine wa_ldc2 (v := 999) dX3_sheet_3 q1491 ?_
  refine wa_callS (M' := m_X3_in) (As := [.long p0.toInt64, .long 1, .long 999]) (st := []) dX3_sheet_6 ⟨Nat.le_of_ble_eq_true rfl, Nat.le_of_ble_eq_true rfl, nk_X3_in⟩ q1316 q1317 q59 q1318 rfl rfl (Nat.zero_le 8) rfl F (wk_I fun x2 h1 F => ?_)
  refine wa_if_eq (tgt := 24) dX3_sheet_9 rfl (fun z => ?_) (fun z => ?_)
  · have F := F.1 z
    exact wa_sub [0] rfl F
  · have F := F.2 z
    refine wa_iload_n (x := p1) dX3_sheet_12 rfl 2 rfl ?_
    refine wa_i2l dX3_sheet_13 ?_
    refine wa_lconst (v := 0) dX3_sheet_14 rfl ?_
    refine wa_ldc2 (v := 3) dX3_sheet_15 q1330 ?_
    refine wa_callS (M' := m_X3_in) (As := [.long p1.toInt64, .long 0, .long 3]) (st := []) dX3_sheet_18 ⟨Nat.le_of_ble_eq_true rfl, Nat.le_of_ble_eq_true rfl, nk_X3_in⟩ q1316 q1317 q59 q1318 rfl rfl (Nat.zero_le 8) rfl F (wk_I fun x4 h3 F => ?_)
    refine wa_if_ne (tgt := 30) dX3_sheet_21 rfl (fun z => ?_) (fun z => ?_)
    · have F := F.1 z
      refine wa_aload_n (o := (some t)) dX3_sheet_30 rfl 0 rfl ?_
      refine wa_iconst (v := 0) dX3_sheet_31 rfl ?_
      refine wa_put (C := RX3) (T := TX3) (N := 38) (ci := 2) (k := 37) tyX3 dX3_sheet_32 rfl (Nat.le_of_ble_eq_true rfl) in_X3 tyX3_ok nmX3 q1229 q_same_own rfl rfl rfl (p_F_mono F fun h5 F => ?_)
      refine wa_iload_n (x := p0) dX3_sheet_35 rfl 1 rfl ?_
      refine wa_iconst (v := 1) dX3_sheet_36 rfl ?_
      refine wa_isub dX3_sheet_37 ?_
      refine wa_aload_n (o := (some t)) dX3_sheet_38 rfl 0 rfl ?_
      refine wa_getI (C := RX3) (T := TX3) (N := 38) (ci := 2) (k := 12) dX3_sheet_39 rfl (Nat.le_of_ble_eq_true rfl) in_X3 q1204 q_same_own (g_I_mono F fun x6 F => ?_)
      refine wa_irem dX3_sheet_42 F.1 ?_
      have F := F.2
      refine wa_iconst (v := 1) dX3_sheet_43 rfl ?_
      refine wa_iadd dX3_sheet_44 ?_
      refine ws_istore_n (lv' := [(3, .int (((p0 - 1) - (p0 - 1) / x6 * x6) + 1)), (0, va_rf (some t)), (1, .int p0), (2, .int p1)]) dX3_sheet_45 rfl (Nat.le_of_ble_eq_true rfl) (q_cr (q_ci (q_ci q_cn))) rfl ?_
      refine wa_aload_n (o := (some t)) dX3_sheet_46 rfl 1 rfl ?_
      refine wa_iload_n (x := p0) dX3_sheet_47 rfl 2 rfl ?_
      refine wa_callV (M' := m_X3_within) (C := RX3) (o := (some t)) (As := [.int p0]) (st := []) dX3_sheet_48 ⟨Nat.le_of_ble_eq_true rfl, Nat.le_of_ble_eq_true rfl, nk_X3_within⟩ q1492 q1494 qs46 q59 q1495 rfl rfl (Nat.zero_le 8) rfl F.1 F.2 (wk_I fun x8 h7 F => ?_)
      refine ws_istore (lv' := [(4, .int x8), (3, .int (((p0 - 1) - (p0 - 1) / x6 * x6) + 1)), (0, va_rf (some t)), (1, .int p0), (2, .int p1)]) dX3_sheet_51 (Nat.le_of_ble_eq_true rfl) (q_ci (q_cr (q_ci (q_ci q_cn)))) rfl ?_
      refine wa_iload_n (x := p1) dX3_sheet_53 rfl 4 rfl ?_
      by_cases z0 : p1 = 0
      · have F := (F.1 z0)
        refine wa_tableIn (tgt := 80) (off := 26) dX3_sheet_54 (by rw [z0]; decide) (by rw [z0]; decide) (by rw [z0]; rfl) rfl ?_
        refine wa_aload_n (o := (some t)) dX3_sheet_80 rfl 2 rfl ?_
        refine wa_iload_n (x := p0) dX3_sheet_81 rfl 3 rfl ?_
        refine wa_callV (M' := m_X3_sheetOf) (C := RX3) (o := (some t)) (As := [.int p0]) (st := []) dX3_sheet_82 ⟨Nat.le_of_ble_eq_true rfl, Nat.le_of_ble_eq_true rfl, nk_X3_sheetOf⟩ q1496 q1498 qs47 q59 q1499 rfl rfl (Nat.zero_le 8) rfl F.1 F.2 (wk_I fun x10 h9 F => ?_)
        exact wa_iret rfl dX3_sheet_85 F
      have F := F.2
      by_cases z1 : p1 = 1
      · have F := (F.1 z1)
        refine wa_tableIn (tgt := 86) (off := 32) dX3_sheet_54 (by rw [z1]; decide) (by rw [z1]; decide) (by rw [z1]; rfl) rfl ?_
        refine wa_aload_n (o := (some t)) dX3_sheet_86 rfl 2 rfl ?_
        refine wa_iload_n (x := p0) dX3_sheet_87 rfl 3 rfl ?_
        refine wa_callV (M' := m_X3_sideOf) (C := RX3) (o := (some t)) (As := [.int p0]) (st := []) dX3_sheet_88 ⟨Nat.le_of_ble_eq_true rfl, Nat.le_of_ble_eq_true rfl, nk_X3_sideOf⟩ q1500 q1502 qs48 q59 q1503 rfl rfl (Nat.zero_le 8) rfl F.1 F.2 (wk_I fun x12 h11 F => ?_)
        exact wa_iret rfl dX3_sheet_91 F
      have F := F.2
      by_cases z2 : p1 = 2
      · have F := (F.1 z2)
        refine wa_tableIn (tgt := 92) (off := 38) dX3_sheet_54 (by rw [z2]; decide) (by rw [z2]; decide) (by rw [z2]; rfl) rfl ?_
        refine wa_iload_n (x := (((p0 - 1) - (p0 - 1) / x6 * x6) + 1)) dX3_sheet_92 rfl 1 rfl ?_
        refine wa_iconst (v := 2) dX3_sheet_93 rfl ?_
        refine wa_iload (x := x8) dX3_sheet_94 0 rfl ?_
        refine wa_imul dX3_sheet_96 ?_
        refine wa_iconst (v := 1) dX3_sheet_97 rfl ?_
        refine wa_iadd dX3_sheet_98 ?_
        refine wa_icmp_eq (tgt := 117) dX3_sheet_99 rfl (fun z => ?_) (fun z => ?_)
        · have F := F.1 z
          exact wa_sub [] rfl F
        · have F := F.2 z
          refine wa_iload_n (x := (((p0 - 1) - (p0 - 1) / x6 * x6) + 1)) dX3_sheet_102 rfl 1 rfl ?_
          refine wa_aload_n (o := (some t)) dX3_sheet_103 rfl 2 rfl ?_
          refine wa_getI (C := RX3) (T := TX3) (N := 38) (ci := 2) (k := 12) dX3_sheet_104 rfl (Nat.le_of_ble_eq_true rfl) in_X3 q1204 q_same_own (g_I_mono F fun x13 F => ?_)
          refine wa_iconst (v := 2) dX3_sheet_107 rfl ?_
          refine wa_iload (x := x8) dX3_sheet_108 0 rfl ?_
          refine wa_imul dX3_sheet_110 ?_
          refine wa_isub dX3_sheet_111 ?_
          refine wa_iconst (v := 1) dX3_sheet_112 rfl ?_
          refine wa_isub dX3_sheet_113 ?_
          refine wa_icmp_ne (tgt := 121) dX3_sheet_114 rfl (fun z => ?_) (fun z => ?_)
          · have F := F.1 z
            refine wa_iconst (v := 0) dX3_sheet_121 rfl ?_
            exact wa_iret rfl dX3_sheet_122 F
          · have F := F.2 z
            exact wa_sub [] rfl F
      have F := F.2
      have F := F z0 z1 z2
      refine wa_tableOut (tgt := 123) dX3_sheet_54 (q_out_0_3 (lv_neT z0 rfl) (lv_neT z1 rfl) (lv_neT z2 rfl)) rfl ?_
      refine wa_iload (x := x8) dX3_sheet_123 0 rfl ?_
      refine wa_aload_n (o := (some t)) dX3_sheet_125 rfl 2 rfl ?_
      refine wa_getI (C := RX3) (T := TX3) (N := 38) (ci := 2) (k := 13) dX3_sheet_126 rfl (Nat.le_of_ble_eq_true rfl) in_X3 q1205 q_same_own (g_I_mono F fun x14 F => ?_)
      refine wa_imul dX3_sheet_129 ?_
      exact wa_iret rfl dX3_sheet_130 F
    · have F := F.2 z
      exact wa_sub [0] rfl F
theorem f_X3_sheet_24 {D : qD} {Q : Option Value → qH → Prop} {X : String → qH → Prop} (t : Nat) (h : qH) (F : (recv D h (some t) RX3 ∧ c_I D m_X3_fails [va_rf (some t), .int 1] h X (fun x2 h1 => Q (some (.int x2)) h1))) : L_X3_sheet_24 D Q X t h := by
  show WA D m_X3_sheet Q X 24 [(0, va_rf (some t))] [] h
  refine wa_aload_n (o := (some t)) dX3_sheet_24 rfl 0 rfl ?_
  refine wa_iconst (v := 1) dX3_sheet_25 rfl ?_
  refine wa_callV (M' := m_X3_fails) (C := RX3) (o := (some t)) (As := [.int 1]) (st := []) dX3_sheet_26 ⟨Nat.le_of_ble_eq_true rfl, Nat.le_of_ble_eq_true rfl, nk_X3_fails⟩ q1319 q1321 qs23 q59 q1322 rfl rfl (Nat.zero_le 8) rfl F.1 F.2 (wk_I fun x2 h1 F => ?_)
  exact wa_iret rfl dX3_sheet_29 F
theorem f_X3_sheet_117 {D : qD} {Q : Option Value → qH → Prop} {X : String → qH → Prop} (h : qH) (F : Q (some (.int 1)) h) : L_X3_sheet_117 D Q X  h := by
  show WA D m_X3_sheet Q X 117 [] [] h
  refine wa_iconst (v := 1) dX3_sheet_117 rfl ?_
  refine wa_goto (tgt := 122) dX3_sheet_118 rfl ?_
  exact wa_iret rfl dX3_sheet_122 F
def L_X3_isMarked_4 (D : qD) (Q : Option Value → qH → Prop) (X : String → qH → Prop) (t : Nat) (v1 : Int32) (v2 : Int32) (v3 : Int32) (h : qH) : Prop := WA D m_X3_isMarked Q X 4 [(0, va_rf (some t)), (1, .int v1), (2, .int v2), (3, .int v3)] [] h
theorem f_X3_isMarked {D : qD} {Q : Option Value → qH → Prop} {X : String → qH → Prop} (t : Nat) (p0 : Int32) (h : qH) (F : L_X3_isMarked_4 D Q X t p0 0 0 h) : MW D m_X3_isMarked [va_rf (some t), .int p0] h Q X := by
  refine mw_of pl_X3_isMarked rfl _ (Nat.le_of_ble_eq_true rfl) rfl ?_
  refine (show WA D m_X3_isMarked Q X 0 [(0, va_rf (some t)), (1, .int p0)] [] h from ?_)
  refine wa_iconst (v := 0) dX3_isMarked_0 rfl ?_
  refine ws_istore_n (lv' := [(2, .int 0), (0, va_rf (some t)), (1, .int p0)]) dX3_isMarked_1 rfl (Nat.le_of_ble_eq_true rfl) (q_cr (q_ci q_cn)) rfl ?_
  refine wa_iconst (v := 0) dX3_isMarked_2 rfl ?_
  refine ws_istore_n (lv' := [(3, .int 0), (2, .int 0), (0, va_rf (some t)), (1, .int p0)]) dX3_isMarked_3 rfl (Nat.le_of_ble_eq_true rfl) (q_ci (q_cr (q_ci q_cn))) rfl ?_
  exact wa_sub [2, 3, 1, 0] rfl F
theorem f_X3_isMarked_4 {D : qD} {Q : Option Value → qH → Prop} {X : String → qH → Prop} (t : Nat) (v1 : Int32) (v2 : Int32) (v3 : Int32) (h : qH) (F : g_I D h (some t) 2 0 (fun x1 => ((x1 ≤ v3 → ((v2 = 0 ∨ v2 = 1) ∧ Q (some (.int v2)) h)) ∧ (¬ x1 ≤ v3 → (recv D h (some t) RX3 ∧ c_I D m_X3_counts [va_rf (some t), .int v3, .int v1] h X (fun x3 h2 => L_X3_isMarked_4 D Q X t v1 (v2 ||| x3) (v3 + 1) h2)))))) : L_X3_isMarked_4 D Q X t v1 v2 v3 h := by
  show WA D m_X3_isMarked Q X 4 [(0, va_rf (some t)), (1, .int v1), (2, .int v2), (3, .int v3)] [] h
  refine wa_iload_n (x := v3) dX3_isMarked_4 rfl 3 rfl ?_
  refine wa_aload_n (o := (some t)) dX3_isMarked_5 rfl 0 rfl ?_
  refine wa_getI (C := RX3) (T := TX3) (N := 38) (ci := 2) (k := 0) dX3_isMarked_6 rfl (Nat.le_of_ble_eq_true rfl) in_X3 q1192 q_same_own (g_I_mono F fun x1 F => ?_)
  refine wa_icmp_ge (tgt := 27) dX3_isMarked_9 rfl (fun z => ?_) (fun z => ?_)
  · have F := F.1 z
    refine wa_iload_n (x := v2) dX3_isMarked_27 rfl 2 rfl ?_
    exact wa_zret rfl (q_nar_z F.1) dX3_isMarked_28 F.2
  · have F := F.2 z
    refine wa_iload_n (x := v2) dX3_isMarked_12 rfl 2 rfl ?_
    refine wa_aload_n (o := (some t)) dX3_isMarked_13 rfl 0 rfl ?_
    refine wa_iload_n (x := v3) dX3_isMarked_14 rfl 3 rfl ?_
    refine wa_iload_n (x := v1) dX3_isMarked_15 rfl 1 rfl ?_
    refine wa_callV (M' := m_X3_counts) (C := RX3) (o := (some t)) (As := [.int v3, .int v1]) (st := [.int v2]) dX3_isMarked_16 ⟨Nat.le_of_ble_eq_true rfl, Nat.le_of_ble_eq_true rfl, nk_X3_counts⟩ q1479 q1481 qs44 q59 q1482 rfl rfl (q_cs_le (q_csi q_cs0) (Nat.le_of_ble_eq_true rfl)) rfl F.1 F.2 (wk_I fun x3 h2 F => ?_)
    refine wa_ior dX3_isMarked_19 ?_
    refine ws_istore_n (lv' := [(2, .int (v2 ||| x3)), (0, va_rf (some t)), (1, .int v1), (3, .int v3)]) dX3_isMarked_20 rfl (Nat.le_of_ble_eq_true rfl) (q_cr (q_ci (q_ci (q_ci q_cn)))) rfl ?_
    refine ws_iinc (j := 3) (v := (v3 + 1)) (lv' := [(3, .int (v3 + 1)), (2, .int (v2 ||| x3)), (0, va_rf (some t)), (1, .int v1)]) dX3_isMarked_21 rfl rfl (Nat.le_of_ble_eq_true rfl) (q_ci (q_cr (q_ci (q_ci q_cn)))) rfl ?_
    refine wa_goto (tgt := 4) dX3_isMarked_24 rfl ?_
    exact wa_sub [2, 3, 1, 0] rfl F
def L_X3_isKept_6 (D : qD) (Q : Option Value → qH → Prop) (X : String → qH → Prop) (t : Nat) (v1 : Int32) (v2 : Int32) (v4 : Int32) (v5 : Int32) (v6 : Int32) (h : qH) : Prop := WA D m_X3_isKept Q X 6 [(0, va_rf (some t)), (1, .int v1), (2, .int v2), (4, .int v4), (5, .int v5), (6, .int v6)] [] h
def L_X3_isKept_102 (D : qD) (Q : Option Value → qH → Prop) (X : String → qH → Prop) (t : Nat) (v1 : Int32) (v2 : Int32) (v4 : Int32) (v5 : Int32) (v6 : Int32) (h : qH) : Prop := WA D m_X3_isKept Q X 102 [(0, va_rf (some t)), (1, .int v1), (2, .int v2), (4, .int v4), (5, .int v5), (6, .int v6)] [] h
theorem f_X3_isKept {D : qD} {Q : Option Value → qH → Prop} {X : String → qH → Prop} (t : Nat) (p0 : Int32) (p1 : Int32) (p2 : Int32) (p3 : Int32) (h : qH) (F : L_X3_isKept_6 D Q X t p0 p1 p3 p2 0 h) : MW D m_X3_isKept [va_rf (some t), .int p0, .int p1, .int p2, .int p3] h Q X := by
  refine mw_of pl_X3_isKept rfl _ (Nat.le_of_ble_eq_true rfl) rfl ?_
  refine (show WA D m_X3_isKept Q X 0 [(0, va_rf (some t)), (1, .int p0), (2, .int p1), (3, .int p2), (4, .int p3)] [] h from ?_)
  refine wa_iload_n (x := p2) dX3_isKept_0 rfl 3 rfl ?_
  refine ws_istore (lv' := [(5, .int p2), (0, va_rf (some t)), (1, .int p0), (2, .int p1), (3, .int p2), (4, .int p3)]) dX3_isKept_1 (Nat.le_of_ble_eq_true rfl) (q_cr (q_ci (q_ci (q_ci (q_ci q_cn))))) rfl ?_
  refine wa_iconst (v := 0) dX3_isKept_3 rfl ?_
  refine ws_istore (lv' := [(6, .int 0), (5, .int p2), (0, va_rf (some t)), (1, .int p0), (2, .int p1), (3, .int p2), (4, .int p3)]) dX3_isKept_4 (Nat.le_of_ble_eq_true rfl) (q_ci (q_cr (q_ci (q_ci (q_ci (q_ci q_cn)))))) rfl ?_
  exact wa_sub [2, 3, 4, 6, 1, 0] rfl F
theorem f_X3_isKept_6 {D : qD} {Q : Option Value → qH → Prop} {X : String → qH → Prop} (t : Nat) (v1 : Int32) (v2 : Int32) (v4 : Int32) (v5 : Int32) (v6 : Int32) (h : qH) (F : g_I D h (some t) 2 0 (fun x1 => ((x1 ≤ v6 → ((¬ v5 = v4 → Q (some (.int 0)) h) ∧ (v5 = v4 → Q (some (.int 1)) h))) ∧ (¬ x1 ≤ v6 → g_R D h (some t) 2 15 (fun r2 => a_I D h r2 0 v6 (fun x3 => ((¬ x3 = v2 → L_X3_isKept_102 D Q X t v1 v2 v4 v5 v6 h) ∧ (x3 = v2 → (recv D h (some t) RX3 ∧ c_I D m_X3_hangs [va_rf (some t), .int v6] h X (fun x5 h4 => ((¬ x5 = 0 → L_X3_isKept_102 D Q X t v1 v2 v4 v5 v6 h4) ∧ (x5 = 0 → ((v5 = v4 → Q (some (.int 0)) h4) ∧ (¬ v5 = v4 → g_R D h4 (some t) 2 33 (fun r6 => a_I D h4 r6 0 v5 (fun x7 => g_R D h4 (some t) 2 1 (fun r8 => a_I D h4 r8 0 v6 (fun x9 => ((¬ x7 = x9 → Q (some (.int 0)) h4) ∧ (x7 = x9 → g_R D h4 (some t) 2 34 (fun r10 => a_I D h4 r10 0 v5 (fun x11 => (recv D h4 (some t) RX3 ∧ c_I D m_X3_wide [va_rf (some t), .int v1, .int v6] h4 X (fun x13 h12 => ((¬ x11 = x13 → Q (some (.int 0)) h12) ∧ (x11 = x13 → g_R D h12 (some t) 2 35 (fun r14 => a_I D h12 r14 0 v5 (fun x15 => g_R D h12 (some t) 2 3 (fun r16 => a_I D h12 r16 0 v6 (fun x17 => (recv D h12 (some t) RX3 ∧ c_I D m_X3_colourOf [va_rf (some t), .int x17] h12 X (fun x19 h18 => ((x15 = x19 → L_X3_isKept_102 D Q X t v1 v2 v4 (v5 + 1) v6 h18) ∧ (¬ x15 = x19 → Q (some (.int 0)) h18)))))))))))))))))))))))))))))))))) : L_X3_isKept_6 D Q X t v1 v2 v4 v5 v6 h := by
  show WA D m_X3_isKept Q X 6 [(0, va_rf (some t)), (1, .int v1), (2, .int v2), (4, .int v4), (5, .int v5), (6, .int v6)] [] h
  refine wa_iload (x := v6) dX3_isKept_6 5 rfl ?_
  refine wa_aload_n (o := (some t)) dX3_isKept_8 rfl 0 rfl ?_
  refine wa_getI (C := RX3) (T := TX3) (N := 38) (ci := 2) (k := 0) dX3_isKept_9 rfl (Nat.le_of_ble_eq_true rfl) in_X3 q1192 q_same_own (g_I_mono F fun x1 F => ?_)
  refine wa_icmp_ge (tgt := 108) dX3_isKept_12 rfl (fun z => ?_) (fun z => ?_)
  · have F := F.1 z
    refine wa_iload (x := v5) dX3_isKept_108 4 rfl ?_
    refine wa_iload (x := v4) dX3_isKept_110 3 rfl ?_
    refine wa_icmp_ne (tgt := 119) dX3_isKept_112 rfl (fun z => ?_) (fun z => ?_)
    · have F := F.1 z
      refine wa_iconst (v := 0) dX3_isKept_119 rfl ?_
      exact wa_zret rfl rfl dX3_isKept_120 F
    · have F := F.2 z
      refine wa_iconst (v := 1) dX3_isKept_115 rfl ?_
      refine wa_goto (tgt := 120) dX3_isKept_116 rfl ?_
      exact wa_zret rfl rfl dX3_isKept_120 F
  · have F := F.2 z
    refine wa_aload_n (o := (some t)) dX3_isKept_15 rfl 0 rfl ?_
    refine wa_getR (C := RX3) (T := TX3) (N := 38) (ci := 2) (k := 15) dX3_isKept_16 rfl (Nat.le_of_ble_eq_true rfl) in_X3 q1207 q_same_own (g_R_mono F fun r2 F => ?_)
    refine wa_iload (x := v6) dX3_isKept_19 5 rfl ?_
    refine wa_iald dX3_isKept_21 (a_I_mono F fun x3 F => ?_)
    refine wa_iload_n (x := v2) dX3_isKept_22 rfl 2 rfl ?_
    refine wa_icmp_ne (tgt := 102) dX3_isKept_23 rfl (fun z => ?_) (fun z => ?_)
    · have F := F.1 z
      exact F
    · have F := F.2 z
      refine wa_aload_n (o := (some t)) dX3_isKept_26 rfl 0 rfl ?_
      refine wa_iload (x := v6) dX3_isKept_27 5 rfl ?_
      refine wa_callV (M' := m_X3_hangs) (C := RX3) (o := (some t)) (As := [.int v6]) (st := []) dX3_isKept_29 ⟨Nat.le_of_ble_eq_true rfl, Nat.le_of_ble_eq_true rfl, nk_X3_hangs⟩ q1387 q1389 qs31 q59 q1390 rfl rfl (Nat.zero_le 8) rfl F.1 F.2 (wk_I fun x5 h4 F => ?_)
      refine wa_if_ne (tgt := 102) dX3_isKept_32 rfl (fun z => ?_) (fun z => ?_)
      · have F := F.1 z
        exact F
      · have F := F.2 z
        refine wa_iload (x := v5) dX3_isKept_35 4 rfl ?_
        refine wa_iload (x := v4) dX3_isKept_37 3 rfl ?_
        refine wa_icmp_eq (tgt := 97) dX3_isKept_39 rfl (fun z => ?_) (fun z => ?_)
        · have F := F.1 z
          refine wa_iconst (v := 0) dX3_isKept_97 rfl ?_
          exact wa_zret rfl rfl dX3_isKept_98 F
        · have F := F.2 z
          refine wa_aload_n (o := (some t)) dX3_isKept_42 rfl 0 rfl ?_
          refine wa_getR (C := RX3) (T := TX3) (N := 38) (ci := 2) (k := 33) dX3_isKept_43 rfl (Nat.le_of_ble_eq_true rfl) in_X3 q1225 q_same_own (g_R_mono F fun r6 F => ?_)
          refine wa_iload (x := v5) dX3_isKept_46 4 rfl ?_
          refine wa_iald dX3_isKept_48 (a_I_mono F fun x7 F => ?_)
          refine wa_aload_n (o := (some t)) dX3_isKept_49 rfl 0 rfl ?_
          refine wa_getR (C := RX3) (T := TX3) (N := 38) (ci := 2) (k := 1) dX3_isKept_50 rfl (Nat.le_of_ble_eq_true rfl) in_X3 q1193 q_same_own (g_R_mono F fun r8 F => ?_)
          refine wa_iload (x := v6) dX3_isKept_53 5 rfl ?_
          refine wa_iald dX3_isKept_55 (a_I_mono F fun x9 F => ?_)
          refine wa_icmp_ne (tgt := 97) dX3_isKept_56 rfl (fun z => ?_) (fun z => ?_)
          · have F := F.1 z
            refine wa_iconst (v := 0) dX3_isKept_97 rfl ?_
            exact wa_zret rfl rfl dX3_isKept_98 F
          · have F := F.2 z
            refine wa_aload_n (o := (some t)) dX3_isKept_59 rfl 0 rfl ?_
            refine wa_getR (C := RX3) (T := TX3) (N := 38) (ci := 2) (k := 34) dX3_isKept_60 rfl (Nat.le_of_ble_eq_true rfl) in_X3 q1226 q_same_own (g_R_mono F fun r10 F => ?_)
            refine wa_iload (x := v5) dX3_isKept_63 4 rfl ?_
            refine wa_iald dX3_isKept_65 (a_I_mono F fun x11 F => ?_)
            refine wa_aload_n (o := (some t)) dX3_isKept_66 rfl 0 rfl ?_
            refine wa_iload_n (x := v1) dX3_isKept_67 rfl 1 rfl ?_
            refine wa_iload (x := v6) dX3_isKept_68 5 rfl ?_
            refine wa_callV (M' := m_X3_wide) (C := RX3) (o := (some t)) (As := [.int v1, .int v6]) (st := [.int x11]) dX3_isKept_70 ⟨Nat.le_of_ble_eq_true rfl, Nat.le_of_ble_eq_true rfl, nk_X3_wide⟩ q1375 q1377 qs28 q59 q1378 rfl rfl (q_cs_le (q_csi q_cs0) (Nat.le_of_ble_eq_true rfl)) rfl F.1 F.2 (wk_I fun x13 h12 F => ?_)
            refine wa_icmp_ne (tgt := 97) dX3_isKept_73 rfl (fun z => ?_) (fun z => ?_)
            · have F := F.1 z
              refine wa_iconst (v := 0) dX3_isKept_97 rfl ?_
              exact wa_zret rfl rfl dX3_isKept_98 F
            · have F := F.2 z
              refine wa_aload_n (o := (some t)) dX3_isKept_76 rfl 0 rfl ?_
              refine wa_getR (C := RX3) (T := TX3) (N := 38) (ci := 2) (k := 35) dX3_isKept_77 rfl (Nat.le_of_ble_eq_true rfl) in_X3 q1227 q_same_own (g_R_mono F fun r14 F => ?_)
              refine wa_iload (x := v5) dX3_isKept_80 4 rfl ?_
              refine wa_iald dX3_isKept_82 (a_I_mono F fun x15 F => ?_)
              refine wa_aload_n (o := (some t)) dX3_isKept_83 rfl 0 rfl ?_
              refine wa_aload_n (o := (some t)) dX3_isKept_84 rfl 0 rfl ?_
              refine wa_getR (C := RX3) (T := TX3) (N := 38) (ci := 2) (k := 3) dX3_isKept_85 rfl (Nat.le_of_ble_eq_true rfl) in_X3 q1195 q_same_own (g_R_mono F fun r16 F => ?_)
              refine wa_iload (x := v6) dX3_isKept_88 5 rfl ?_
              refine wa_iald dX3_isKept_90 (a_I_mono F fun x17 F => ?_)
              refine wa_callV (M' := m_X3_colourOf) (C := RX3) (o := (some t)) (As := [.int x17]) (st := [.int x15]) dX3_isKept_91 ⟨Nat.le_of_ble_eq_true rfl, Nat.le_of_ble_eq_true rfl, nk_X3_colourOf⟩ q1391 q1393 qs32 q59 q1394 rfl rfl (q_cs_le (q_csi q_cs0) (Nat.le_of_ble_eq_true rfl)) rfl F.1 F.2 (wk_I fun x19 h18 F => ?_)
              refine wa_icmp_eq (tgt := 99) dX3_isKept_94 rfl (fun z => ?_) (fun z => ?_)
              · have F := F.1 z
                refine ws_iinc (j := 4) (v := (v5 + 1)) (lv' := [(5, .int (v5 + 1)), (0, va_rf (some t)), (1, .int v1), (2, .int v2), (4, .int v4), (6, .int v6)]) dX3_isKept_99 rfl rfl (Nat.le_of_ble_eq_true rfl) (q_cr (q_ci (q_ci (q_ci (q_ci (q_ci q_cn)))))) rfl ?_
                exact wa_sub [1, 2, 3, 4, 0, 5] rfl F
              · have F := F.2 z
                refine wa_iconst (v := 0) dX3_isKept_97 rfl ?_
                exact wa_zret rfl rfl dX3_isKept_98 F
theorem f_X3_isKept_102 {D : qD} {Q : Option Value → qH → Prop} {X : String → qH → Prop} (t : Nat) (v1 : Int32) (v2 : Int32) (v4 : Int32) (v5 : Int32) (v6 : Int32) (h : qH) (F : L_X3_isKept_6 D Q X t v1 v2 v4 v5 (v6 + 1) h) : L_X3_isKept_102 D Q X t v1 v2 v4 v5 v6 h := by
  show WA D m_X3_isKept Q X 102 [(0, va_rf (some t)), (1, .int v1), (2, .int v2), (4, .int v4), (5, .int v5), (6, .int v6)] [] h
  refine ws_iinc (j := 5) (v := (v6 + 1)) (lv' := [(6, .int (v6 + 1)), (0, va_rf (some t)), (1, .int v1), (2, .int v2), (4, .int v4), (5, .int v5)]) dX3_isKept_102 rfl rfl (Nat.le_of_ble_eq_true rfl) (q_cr (q_ci (q_ci (q_ci (q_ci (q_ci q_cn)))))) rfl ?_
  refine wa_goto (tgt := 6) dX3_isKept_105 rfl ?_
  exact wa_sub [1, 2, 3, 4, 5, 0] rfl F
def L_X3_areAlike_19 (D : qD) (Q : Option Value → qH → Prop) (X : String → qH → Prop) (t : Nat) (v1 : Int32) (v2 : Int32) (v3 : Int32) (v4 : Int32) (v5 : Int32) (v6 : Int32) (h : qH) : Prop := WA D m_X3_areAlike Q X 19 [(0, va_rf (some t)), (1, .int v1), (2, .int v2), (3, .int v3), (4, .int v4), (5, .int v5), (6, .int v6)] [] h
def L_X3_areAlike_133 (D : qD) (Q : Option Value → qH → Prop) (X : String → qH → Prop) (t : Nat) (v4 : Int32) (v5 : Int32) (v6 : Int32) (h : qH) : Prop := WA D m_X3_areAlike Q X 133 [(0, va_rf (some t)), (4, .int v4), (5, .int v5), (6, .int v6)] [] h
def L_X3_areAlike_105 (D : qD) (Q : Option Value → qH → Prop) (X : String → qH → Prop) (t : Nat) (v1 : Int32) (v2 : Int32) (v3 : Int32) (v4 : Int32) (v5 : Int32) (h : qH) : Prop := WA D m_X3_areAlike Q X 105 [(0, va_rf (some t)), (1, .int v1), (2, .int v2), (3, .int v3), (4, .int v4), (5, .int v5)] [] h
def L_X3_areAlike_106 (D : qD) (Q : Option Value → qH → Prop) (X : String → qH → Prop) (t : Nat) (v1 : Int32) (v2 : Int32) (v3 : Int32) (v4 : Int32) (v5 : Int32) (s0 : Int32) (h : qH) : Prop := WA D m_X3_areAlike Q X 106 [(0, va_rf (some t)), (1, .int v1), (2, .int v2), (3, .int v3), (4, .int v4), (5, .int v5)] [.int s0] h
theorem f_X3_areAlike {D : qD} {Q : Option Value → qH → Prop} {X : String → qH → Prop} (t : Nat) (p0 : Int32) (p1 : Int32) (p2 : Int32) (h : qH) (F : (recv D h (some t) RX3 ∧ c_I D m_X3_nextOn [va_rf (some t), .int p1, .int 0] h X (fun x2 h1 => (recv D h1 (some t) RX3 ∧ c_I D m_X3_nextOn [va_rf (some t), .int p2, .int 0] h1 X (fun x4 h3 => L_X3_areAlike_19 D Q X t p0 p1 p2 x2 x4 1 h3))))) : MW D m_X3_areAlike [va_rf (some t), .int p0, .int p1, .int p2] h Q X := by
  refine mw_of pl_X3_areAlike rfl _ (Nat.le_of_ble_eq_true rfl) rfl ?_
  refine (show WA D m_X3_areAlike Q X 0 [(0, va_rf (some t)), (1, .int p0), (2, .int p1), (3, .int p2)] [] h from ?_)
  refine wa_aload_n (o := (some t)) dX3_areAlike_0 rfl 0 rfl ?_
  refine wa_iload_n (x := p1) dX3_areAlike_1 rfl 2 rfl ?_
  refine wa_iconst (v := 0) dX3_areAlike_2 rfl ?_
  refine wa_callV (M' := m_X3_nextOn) (C := RX3) (o := (some t)) (As := [.int p1, .int 0]) (st := []) dX3_areAlike_3 ⟨Nat.le_of_ble_eq_true rfl, Nat.le_of_ble_eq_true rfl, nk_X3_nextOn⟩ q1529 q1531 qs52 q59 q1532 rfl rfl (Nat.zero_le 8) rfl F.1 F.2 (wk_I fun x2 h1 F => ?_)
  refine ws_istore (lv' := [(4, .int x2), (0, va_rf (some t)), (1, .int p0), (2, .int p1), (3, .int p2)]) dX3_areAlike_6 (Nat.le_of_ble_eq_true rfl) (q_cr (q_ci (q_ci (q_ci q_cn)))) rfl ?_
  refine wa_aload_n (o := (some t)) dX3_areAlike_8 rfl 1 rfl ?_
  refine wa_iload_n (x := p2) dX3_areAlike_9 rfl 4 rfl ?_
  refine wa_iconst (v := 0) dX3_areAlike_10 rfl ?_
  refine wa_callV (M' := m_X3_nextOn) (C := RX3) (o := (some t)) (As := [.int p2, .int 0]) (st := []) dX3_areAlike_11 ⟨Nat.le_of_ble_eq_true rfl, Nat.le_of_ble_eq_true rfl, nk_X3_nextOn⟩ q1529 q1531 qs52 q59 q1532 rfl rfl (Nat.zero_le 8) rfl F.1 F.2 (wk_I fun x4 h3 F => ?_)
  refine ws_istore (lv' := [(5, .int x4), (4, .int x2), (0, va_rf (some t)), (1, .int p0), (2, .int p1), (3, .int p2)]) dX3_areAlike_14 (Nat.le_of_ble_eq_true rfl) (q_ci (q_cr (q_ci (q_ci (q_ci q_cn))))) rfl ?_
  refine wa_iconst (v := 1) dX3_areAlike_16 rfl ?_
  refine ws_istore (lv' := [(6, .int 1), (5, .int x4), (4, .int x2), (0, va_rf (some t)), (1, .int p0), (2, .int p1), (3, .int p2)]) dX3_areAlike_17 (Nat.le_of_ble_eq_true rfl) (q_ci (q_ci (q_cr (q_ci (q_ci (q_ci q_cn)))))) rfl ?_
  exact wa_sub [3, 4, 5, 6, 2, 1, 0] rfl F
theorem f_X3_areAlike_19 {D : qD} {Q : Option Value → qH → Prop} {X : String → qH → Prop} (t : Nat) (v1 : Int32) (v2 : Int32) (v3 : Int32) (v4 : Int32) (v5 : Int32) (v6 : Int32) (h : qH) (F : ((v6 = 0 → L_X3_areAlike_133 D Q X t v4 v5 v6 h) ∧ (¬ v6 = 0 → g_I D h (some t) 2 0 (fun x1 => ((x1 ≤ v4 → L_X3_areAlike_133 D Q X t v4 v5 v6 h) ∧ (¬ x1 ≤ v4 → g_I D h (some t) 2 0 (fun x2 => ((x2 ≤ v5 → L_X3_areAlike_133 D Q X t v4 v5 v6 h) ∧ (¬ x2 ≤ v5 → g_R D h (some t) 2 1 (fun r3 => a_I D h r3 0 v4 (fun x4 => g_R D h (some t) 2 1 (fun r5 => a_I D h r5 0 v5 (fun x6 => ((¬ x4 = x6 → L_X3_areAlike_105 D Q X t v1 v2 v3 v4 v5 h) ∧ (x4 = x6 → (recv D h (some t) RX3 ∧ c_I D m_X3_wide [va_rf (some t), .int v1, .int v4] h X (fun x8 h7 => (recv D h7 (some t) RX3 ∧ c_I D m_X3_wide [va_rf (some t), .int v1, .int v5] h7 X (fun x10 h9 => ((¬ x8 = x10 → L_X3_areAlike_105 D Q X t v1 v2 v3 v4 v5 h9) ∧ (x8 = x10 → g_R D h9 (some t) 2 3 (fun r11 => a_I D h9 r11 0 v4 (fun x12 => (recv D h9 (some t) RX3 ∧ c_I D m_X3_colourOf [va_rf (some t), .int x12] h9 X (fun x14 h13 => g_R D h13 (some t) 2 3 (fun r15 => a_I D h13 r15 0 v5 (fun x16 => (recv D h13 (some t) RX3 ∧ c_I D m_X3_colourOf [va_rf (some t), .int x16] h13 X (fun x18 h17 => ((¬ x14 = x18 → L_X3_areAlike_105 D Q X t v1 v2 v3 v4 v5 h17) ∧ (x14 = x18 → L_X3_areAlike_106 D Q X t v1 v2 v3 v4 v5 1 h17))))))))))))))))))))))))))))))) : L_X3_areAlike_19 D Q X t v1 v2 v3 v4 v5 v6 h := by
  show WA D m_X3_areAlike Q X 19 [(0, va_rf (some t)), (1, .int v1), (2, .int v2), (3, .int v3), (4, .int v4), (5, .int v5), (6, .int v6)] [] h
  refine wa_iload (x := v6) dX3_areAlike_19 6 rfl ?_
  refine wa_if_eq (tgt := 133) dX3_areAlike_21 rfl (fun z => ?_) (fun z => ?_)
  · have F := F.1 z
    exact wa_sub [0, 4, 5, 6] rfl F
  · have F := F.2 z
    refine wa_iload (x := v4) dX3_areAlike_24 4 rfl ?_
    refine wa_aload_n (o := (some t)) dX3_areAlike_26 rfl 0 rfl ?_
    refine wa_getI (C := RX3) (T := TX3) (N := 38) (ci := 2) (k := 0) dX3_areAlike_27 rfl (Nat.le_of_ble_eq_true rfl) in_X3 q1192 q_same_own (g_I_mono F fun x1 F => ?_)
    refine wa_icmp_ge (tgt := 133) dX3_areAlike_30 rfl (fun z => ?_) (fun z => ?_)
    · have F := F.1 z
      exact wa_sub [0, 4, 5, 6] rfl F
    · have F := F.2 z
      refine wa_iload (x := v5) dX3_areAlike_33 5 rfl ?_
      refine wa_aload_n (o := (some t)) dX3_areAlike_35 rfl 0 rfl ?_
      refine wa_getI (C := RX3) (T := TX3) (N := 38) (ci := 2) (k := 0) dX3_areAlike_36 rfl (Nat.le_of_ble_eq_true rfl) in_X3 q1192 q_same_own (g_I_mono F fun x2 F => ?_)
      refine wa_icmp_ge (tgt := 133) dX3_areAlike_39 rfl (fun z => ?_) (fun z => ?_)
      · have F := F.1 z
        exact wa_sub [0, 4, 5, 6] rfl F
      · have F := F.2 z
        refine wa_aload_n (o := (some t)) dX3_areAlike_42 rfl 0 rfl ?_
        refine wa_getR (C := RX3) (T := TX3) (N := 38) (ci := 2) (k := 1) dX3_areAlike_43 rfl (Nat.le_of_ble_eq_true rfl) in_X3 q1193 q_same_own (g_R_mono F fun r3 F => ?_)
        refine wa_iload (x := v4) dX3_areAlike_46 4 rfl ?_
        refine wa_iald dX3_areAlike_48 (a_I_mono F fun x4 F => ?_)
        refine wa_aload_n (o := (some t)) dX3_areAlike_49 rfl 0 rfl ?_
        refine wa_getR (C := RX3) (T := TX3) (N := 38) (ci := 2) (k := 1) dX3_areAlike_50 rfl (Nat.le_of_ble_eq_true rfl) in_X3 q1193 q_same_own (g_R_mono F fun r5 F => ?_)
        refine wa_iload (x := v5) dX3_areAlike_53 5 rfl ?_
        refine wa_iald dX3_areAlike_55 (a_I_mono F fun x6 F => ?_)
        refine wa_icmp_ne (tgt := 105) dX3_areAlike_56 rfl (fun z => ?_) (fun z => ?_)
        · have F := F.1 z
          exact wa_sub [0, 1, 2, 3, 4, 5] rfl F
        · have F := F.2 z
          refine wa_aload_n (o := (some t)) dX3_areAlike_59 rfl 0 rfl ?_
          refine wa_iload_n (x := v1) dX3_areAlike_60 rfl 1 rfl ?_
          refine wa_iload (x := v4) dX3_areAlike_61 4 rfl ?_
          refine wa_callV (M' := m_X3_wide) (C := RX3) (o := (some t)) (As := [.int v1, .int v4]) (st := []) dX3_areAlike_63 ⟨Nat.le_of_ble_eq_true rfl, Nat.le_of_ble_eq_true rfl, nk_X3_wide⟩ q1375 q1377 qs28 q59 q1378 rfl rfl (Nat.zero_le 8) rfl F.1 F.2 (wk_I fun x8 h7 F => ?_)
          refine wa_aload_n (o := (some t)) dX3_areAlike_66 rfl 0 rfl ?_
          refine wa_iload_n (x := v1) dX3_areAlike_67 rfl 1 rfl ?_
          refine wa_iload (x := v5) dX3_areAlike_68 5 rfl ?_
          refine wa_callV (M' := m_X3_wide) (C := RX3) (o := (some t)) (As := [.int v1, .int v5]) (st := [.int x8]) dX3_areAlike_70 ⟨Nat.le_of_ble_eq_true rfl, Nat.le_of_ble_eq_true rfl, nk_X3_wide⟩ q1375 q1377 qs28 q59 q1378 rfl rfl (q_cs_le (q_csi q_cs0) (Nat.le_of_ble_eq_true rfl)) rfl F.1 F.2 (wk_I fun x10 h9 F => ?_)
          refine wa_icmp_ne (tgt := 105) dX3_areAlike_73 rfl (fun z => ?_) (fun z => ?_)
          · have F := F.1 z
            exact wa_sub [0, 1, 2, 3, 4, 5] rfl F
          · have F := F.2 z
            refine wa_aload_n (o := (some t)) dX3_areAlike_76 rfl 0 rfl ?_
            refine wa_aload_n (o := (some t)) dX3_areAlike_77 rfl 0 rfl ?_
            refine wa_getR (C := RX3) (T := TX3) (N := 38) (ci := 2) (k := 3) dX3_areAlike_78 rfl (Nat.le_of_ble_eq_true rfl) in_X3 q1195 q_same_own (g_R_mono F fun r11 F => ?_)
            refine wa_iload (x := v4) dX3_areAlike_81 4 rfl ?_
            refine wa_iald dX3_areAlike_83 (a_I_mono F fun x12 F => ?_)
            refine wa_callV (M' := m_X3_colourOf) (C := RX3) (o := (some t)) (As := [.int x12]) (st := []) dX3_areAlike_84 ⟨Nat.le_of_ble_eq_true rfl, Nat.le_of_ble_eq_true rfl, nk_X3_colourOf⟩ q1391 q1393 qs32 q59 q1394 rfl rfl (Nat.zero_le 8) rfl F.1 F.2 (wk_I fun x14 h13 F => ?_)
            refine wa_aload_n (o := (some t)) dX3_areAlike_87 rfl 0 rfl ?_
            refine wa_aload_n (o := (some t)) dX3_areAlike_88 rfl 0 rfl ?_
            refine wa_getR (C := RX3) (T := TX3) (N := 38) (ci := 2) (k := 3) dX3_areAlike_89 rfl (Nat.le_of_ble_eq_true rfl) in_X3 q1195 q_same_own (g_R_mono F fun r15 F => ?_)
            refine wa_iload (x := v5) dX3_areAlike_92 5 rfl ?_
            refine wa_iald dX3_areAlike_94 (a_I_mono F fun x16 F => ?_)
            refine wa_callV (M' := m_X3_colourOf) (C := RX3) (o := (some t)) (As := [.int x16]) (st := [.int x14]) dX3_areAlike_95 ⟨Nat.le_of_ble_eq_true rfl, Nat.le_of_ble_eq_true rfl, nk_X3_colourOf⟩ q1391 q1393 qs32 q59 q1394 rfl rfl (q_cs_le (q_csi q_cs0) (Nat.le_of_ble_eq_true rfl)) rfl F.1 F.2 (wk_I fun x18 h17 F => ?_)
            refine wa_icmp_ne (tgt := 105) dX3_areAlike_98 rfl (fun z => ?_) (fun z => ?_)
            · have F := F.1 z
              exact wa_sub [0, 1, 2, 3, 4, 5] rfl F
            · have F := F.2 z
              refine wa_iconst (v := 1) dX3_areAlike_101 rfl ?_
              refine wa_goto (tgt := 106) dX3_areAlike_102 rfl ?_
              exact wa_sub [0, 1, 2, 3, 4, 5] rfl F
theorem f_X3_areAlike_133 {D : qD} {Q : Option Value → qH → Prop} {X : String → qH → Prop} (t : Nat) (v4 : Int32) (v5 : Int32) (v6 : Int32) (h : qH) (F : ((v6 = 0 → Q (some (.int 0)) h) ∧ (¬ v6 = 0 → g_I D h (some t) 2 0 (fun x1 => ((v4 < x1 → Q (some (.int 0)) h) ∧ (¬ v4 < x1 → g_I D h (some t) 2 0 (fun x2 => ((v5 < x2 → Q (some (.int 0)) h) ∧ (¬ v5 < x2 → Q (some (.int 1)) h))))))))) : L_X3_areAlike_133 D Q X t v4 v5 v6 h := by
  show WA D m_X3_areAlike Q X 133 [(0, va_rf (some t)), (4, .int v4), (5, .int v5), (6, .int v6)] [] h
  refine wa_iload (x := v6) dX3_areAlike_133 3 rfl ?_
  refine wa_if_eq (tgt := 160) dX3_areAlike_135 rfl (fun z => ?_) (fun z => ?_)
  · have F := F.1 z
    refine wa_iconst (v := 0) dX3_areAlike_160 rfl ?_
    exact wa_zret rfl rfl dX3_areAlike_161 F
  · have F := F.2 z
    refine wa_iload (x := v4) dX3_areAlike_138 1 rfl ?_
    refine wa_aload_n (o := (some t)) dX3_areAlike_140 rfl 0 rfl ?_
    refine wa_getI (C := RX3) (T := TX3) (N := 38) (ci := 2) (k := 0) dX3_areAlike_141 rfl (Nat.le_of_ble_eq_true rfl) in_X3 q1192 q_same_own (g_I_mono F fun x1 F => ?_)
    refine wa_icmp_lt (tgt := 160) dX3_areAlike_144 rfl (fun z => ?_) (fun z => ?_)
    · have F := F.1 z
      refine wa_iconst (v := 0) dX3_areAlike_160 rfl ?_
      exact wa_zret rfl rfl dX3_areAlike_161 F
    · have F := F.2 z
      refine wa_iload (x := v5) dX3_areAlike_147 2 rfl ?_
      refine wa_aload_n (o := (some t)) dX3_areAlike_149 rfl 0 rfl ?_
      refine wa_getI (C := RX3) (T := TX3) (N := 38) (ci := 2) (k := 0) dX3_areAlike_150 rfl (Nat.le_of_ble_eq_true rfl) in_X3 q1192 q_same_own (g_I_mono F fun x2 F => ?_)
      refine wa_icmp_lt (tgt := 160) dX3_areAlike_153 rfl (fun z => ?_) (fun z => ?_)
      · have F := F.1 z
        refine wa_iconst (v := 0) dX3_areAlike_160 rfl ?_
        exact wa_zret rfl rfl dX3_areAlike_161 F
      · have F := F.2 z
        refine wa_iconst (v := 1) dX3_areAlike_156 rfl ?_
        refine wa_goto (tgt := 161) dX3_areAlike_157 rfl ?_
        exact wa_zret rfl rfl dX3_areAlike_161 F
theorem f_X3_areAlike_105 {D : qD} {Q : Option Value → qH → Prop} {X : String → qH → Prop} (t : Nat) (v1 : Int32) (v2 : Int32) (v3 : Int32) (v4 : Int32) (v5 : Int32) (h : qH) (F : L_X3_areAlike_106 D Q X t v1 v2 v3 v4 v5 0 h) : L_X3_areAlike_105 D Q X t v1 v2 v3 v4 v5 h := by
  show WA D m_X3_areAlike Q X 105 [(0, va_rf (some t)), (1, .int v1), (2, .int v2), (3, .int v3), (4, .int v4), (5, .int v5)] [] h
  refine wa_iconst (v := 0) dX3_areAlike_105 rfl ?_
  exact F
theorem f_X3_areAlike_106 {D : qD} {Q : Option Value → qH → Prop} {X : String → qH → Prop} (t : Nat) (v1 : Int32) (v2 : Int32) (v3 : Int32) (v4 : Int32) (v5 : Int32) (s0 : Int32) (h : qH) (F : (recv D h (some t) RX3 ∧ c_I D m_X3_nextOn [va_rf (some t), .int v2, .int (v4 + 1)] h X (fun x2 h1 => (recv D h1 (some t) RX3 ∧ c_I D m_X3_nextOn [va_rf (some t), .int v3, .int (v5 + 1)] h1 X (fun x4 h3 => L_X3_areAlike_19 D Q X t v1 v2 v3 x2 x4 s0 h3))))) : L_X3_areAlike_106 D Q X t v1 v2 v3 v4 v5 s0 h := by
  show WA D m_X3_areAlike Q X 106 [(0, va_rf (some t)), (1, .int v1), (2, .int v2), (3, .int v3), (4, .int v4), (5, .int v5)] [.int s0] h
  refine ws_istore (lv' := [(6, .int s0), (0, va_rf (some t)), (1, .int v1), (2, .int v2), (3, .int v3), (4, .int v4), (5, .int v5)]) dX3_areAlike_106 (Nat.le_of_ble_eq_true rfl) (q_cr (q_ci (q_ci (q_ci (q_ci (q_ci q_cn)))))) rfl ?_
  refine wa_aload_n (o := (some t)) dX3_areAlike_108 rfl 1 rfl ?_
  refine wa_iload_n (x := v2) dX3_areAlike_109 rfl 3 rfl ?_
  refine wa_iload (x := v4) dX3_areAlike_110 5 rfl ?_
  refine wa_iconst (v := 1) dX3_areAlike_112 rfl ?_
  refine wa_iadd dX3_areAlike_113 ?_
  refine wa_callV (M' := m_X3_nextOn) (C := RX3) (o := (some t)) (As := [.int v2, .int (v4 + 1)]) (st := []) dX3_areAlike_114 ⟨Nat.le_of_ble_eq_true rfl, Nat.le_of_ble_eq_true rfl, nk_X3_nextOn⟩ q1529 q1531 qs52 q59 q1532 rfl rfl (Nat.zero_le 8) rfl F.1 F.2 (wk_I fun x2 h1 F => ?_)
  refine ws_istore (lv' := [(4, .int x2), (6, .int s0), (0, va_rf (some t)), (1, .int v1), (2, .int v2), (3, .int v3), (5, .int v5)]) dX3_areAlike_117 (Nat.le_of_ble_eq_true rfl) (q_ci (q_cr (q_ci (q_ci (q_ci (q_ci (q_ci q_cn))))))) rfl ?_
  refine wa_aload_n (o := (some t)) dX3_areAlike_119 rfl 2 rfl ?_
  refine wa_iload_n (x := v3) dX3_areAlike_120 rfl 5 rfl ?_
  refine wa_iload (x := v5) dX3_areAlike_121 6 rfl ?_
  refine wa_iconst (v := 1) dX3_areAlike_123 rfl ?_
  refine wa_iadd dX3_areAlike_124 ?_
  refine wa_callV (M' := m_X3_nextOn) (C := RX3) (o := (some t)) (As := [.int v3, .int (v5 + 1)]) (st := []) dX3_areAlike_125 ⟨Nat.le_of_ble_eq_true rfl, Nat.le_of_ble_eq_true rfl, nk_X3_nextOn⟩ q1529 q1531 qs52 q59 q1532 rfl rfl (Nat.zero_le 8) rfl F.1 F.2 (wk_I fun x4 h3 F => ?_)
  refine ws_istore (lv' := [(5, .int x4), (4, .int x2), (6, .int s0), (0, va_rf (some t)), (1, .int v1), (2, .int v2), (3, .int v3)]) dX3_areAlike_128 (Nat.le_of_ble_eq_true rfl) (q_ci (q_ci (q_cr (q_ci (q_ci (q_ci (q_ci q_cn))))))) rfl ?_
  refine wa_goto (tgt := 19) dX3_areAlike_130 rfl ?_
  exact wa_sub [3, 4, 5, 6, 1, 0, 2] rfl F
def L_X3_keep_40 (D : qD) (Q : Option Value → qH → Prop) (X : String → qH → Prop) (t : Nat) (v1 : Int32) (v2 : Int32) (v3 : Int32) (h : qH) : Prop := WA D m_X3_keep Q X 40 [(0, va_rf (some t)), (1, .int v1), (2, .int v2), (3, .int v3)] [] h
def L_X3_keep_58 (D : qD) (Q : Option Value → qH → Prop) (X : String → qH → Prop) (t : Nat) (v1 : Int32) (v2 : Int32) (v3 : Int32) (v4 : Int32) (h : qH) : Prop := WA D m_X3_keep Q X 58 [(0, va_rf (some t)), (1, .int v1), (2, .int v2), (3, .int v3), (4, .int v4)] [] h
def L_X3_keep_133 (D : qD) (Q : Option Value → qH → Prop) (X : String → qH → Prop) (t : Nat) (v1 : Int32) (v2 : Int32) (v3 : Int32) (v4 : Int32) (h : qH) : Prop := WA D m_X3_keep Q X 133 [(0, va_rf (some t)), (1, .int v1), (2, .int v2), (3, .int v3), (4, .int v4)] [] h
theorem f_X3_keep {D : qD} {Q : Option Value → qH → Prop} {X : String → qH → Prop} (t : Nat) (p0 : Int32) (h : qH) (F : c_I D m_X3_in [.long p0.toInt64, .long 0, .long 3] h X (fun x2 h1 => ((¬ x2 = 0 → p_F h1 (some t) 2 37 (.int 0) (fun h3 => (recv D h3 (some t) RX3 ∧ c_V D m_X3_layLines [va_rf (some t), .int p0] h3 X (fun h4 => g_I D h4 (some t) 2 14 (fun x5 => p_F h4 (some t) 2 31 (.int x5) (fun h6 => L_X3_keep_40 D Q X t p0 0 0 h6)))))) ∧ (x2 = 0 → (recv D h1 (some t) RX3 ∧ c_I D m_X3_fails [va_rf (some t), .int 1] h1 X (fun x8 h7 => Q (some (.int x8)) h7)))))) : MW D m_X3_keep [va_rf (some t), .int p0] h Q X := by
  refine mw_of pl_X3_keep rfl _ (Nat.le_of_ble_eq_true rfl) rfl ?_
  refine (show WA D m_X3_keep Q X 0 [(0, va_rf (some t)), (1, .int p0)] [] h from ?_)
  refine wa_iload_n (x := p0) dX3_keep_0 rfl 1 rfl ?_
  refine wa_i2l dX3_keep_1 ?_
  refine wa_lconst (v := 0) dX3_keep_2 rfl ?_
  refine wa_ldc2 (v := 3) dX3_keep_3 q1330 ?_
  refine wa_callS (M' := m_X3_in) (As := [.long p0.toInt64, .long 0, .long 3]) (st := []) dX3_keep_6 ⟨Nat.le_of_ble_eq_true rfl, Nat.le_of_ble_eq_true rfl, nk_X3_in⟩ q1316 q1317 q59 q1318 rfl rfl (Nat.zero_le 8) rfl F (wk_I fun x2 h1 F => ?_)
  refine wa_if_ne (tgt := 18) dX3_keep_9 rfl (fun z => ?_) (fun z => ?_)
  · have F := F.1 z
    refine wa_aload_n (o := (some t)) dX3_keep_18 rfl 0 rfl ?_
    refine wa_iconst (v := 0) dX3_keep_19 rfl ?_
    refine wa_put (C := RX3) (T := TX3) (N := 38) (ci := 2) (k := 37) tyX3 dX3_keep_20 rfl (Nat.le_of_ble_eq_true rfl) in_X3 tyX3_ok nmX3 q1229 q_same_own rfl rfl rfl (p_F_mono F fun h3 F => ?_)
    refine wa_aload_n (o := (some t)) dX3_keep_23 rfl 0 rfl ?_
    refine wa_iload_n (x := p0) dX3_keep_24 rfl 1 rfl ?_
    refine wa_callV (M' := m_X3_layLines) (C := RX3) (o := (some t)) (As := [.int p0]) (st := []) dX3_keep_25 ⟨Nat.le_of_ble_eq_true rfl, Nat.le_of_ble_eq_true rfl, nk_X3_layLines⟩ q1363 q1365 qs25 q59 q1366 rfl rfl (Nat.zero_le 8) rfl F.1 F.2 (wk_V fun h4 F => ?_)
    refine wa_aload_n (o := (some t)) dX3_keep_28 rfl 0 rfl ?_
    refine wa_aload_n (o := (some t)) dX3_keep_29 rfl 0 rfl ?_
    refine wa_getI (C := RX3) (T := TX3) (N := 38) (ci := 2) (k := 14) dX3_keep_30 rfl (Nat.le_of_ble_eq_true rfl) in_X3 q1206 q_same_own (g_I_mono F fun x5 F => ?_)
    refine wa_put (C := RX3) (T := TX3) (N := 38) (ci := 2) (k := 31) tyX3 dX3_keep_33 rfl (Nat.le_of_ble_eq_true rfl) in_X3 tyX3_ok nmX3 q1223 q_same_own rfl rfl rfl (p_F_mono F fun h6 F => ?_)
    refine wa_iconst (v := 0) dX3_keep_36 rfl ?_
    refine ws_istore_n (lv' := [(2, .int 0), (0, va_rf (some t)), (1, .int p0)]) dX3_keep_37 rfl (Nat.le_of_ble_eq_true rfl) (q_cr (q_ci q_cn)) rfl ?_
    refine wa_iconst (v := 0) dX3_keep_38 rfl ?_
    refine ws_istore_n (lv' := [(3, .int 0), (2, .int 0), (0, va_rf (some t)), (1, .int p0)]) dX3_keep_39 rfl (Nat.le_of_ble_eq_true rfl) (q_ci (q_cr (q_ci q_cn))) rfl ?_
    exact wa_sub [2, 3, 1, 0] rfl F
  · have F := F.2 z
    refine wa_aload_n (o := (some t)) dX3_keep_12 rfl 0 rfl ?_
    refine wa_iconst (v := 1) dX3_keep_13 rfl ?_
    refine wa_callV (M' := m_X3_fails) (C := RX3) (o := (some t)) (As := [.int 1]) (st := []) dX3_keep_14 ⟨Nat.le_of_ble_eq_true rfl, Nat.le_of_ble_eq_true rfl, nk_X3_fails⟩ q1319 q1321 qs23 q59 q1322 rfl rfl (Nat.zero_le 8) rfl F.1 F.2 (wk_I fun x8 h7 F => ?_)
    exact wa_iret rfl dX3_keep_17 F
theorem f_X3_keep_40 {D : qD} {Q : Option Value → qH → Prop} {X : String → qH → Prop} (t : Nat) (v1 : Int32) (v2 : Int32) (v3 : Int32) (h : qH) (F : g_I D h (some t) 2 14 (fun x1 => ((x1 ≤ v3 → g_R D h (some t) 2 32 (fun r2 => g_I D h (some t) 2 14 (fun x3 => s_I h r2 0 x3 v2 (fun h4 => g_I D h4 (some t) 2 14 (fun x5 => Q (some (.int x5)) h4))))) ∧ (¬ x1 ≤ v3 → g_R D h (some t) 2 32 (fun r6 => s_I h r6 0 v3 v2 (fun h7 => L_X3_keep_58 D Q X t v1 v2 v3 0 h7)))))) : L_X3_keep_40 D Q X t v1 v2 v3 h := by
  show WA D m_X3_keep Q X 40 [(0, va_rf (some t)), (1, .int v1), (2, .int v2), (3, .int v3)] [] h
  refine wa_iload_n (x := v3) dX3_keep_40 rfl 3 rfl ?_
  refine wa_aload_n (o := (some t)) dX3_keep_41 rfl 0 rfl ?_
  refine wa_getI (C := RX3) (T := TX3) (N := 38) (ci := 2) (k := 14) dX3_keep_42 rfl (Nat.le_of_ble_eq_true rfl) in_X3 q1206 q_same_own (g_I_mono F fun x1 F => ?_)
  refine wa_icmp_ge (tgt := 145) dX3_keep_45 rfl (fun z => ?_) (fun z => ?_)
  · have F := F.1 z
    refine wa_aload_n (o := (some t)) dX3_keep_145 rfl 0 rfl ?_
    refine wa_getR (C := RX3) (T := TX3) (N := 38) (ci := 2) (k := 32) dX3_keep_146 rfl (Nat.le_of_ble_eq_true rfl) in_X3 q1224 q_same_own (g_R_mono F fun r2 F => ?_)
    refine wa_aload_n (o := (some t)) dX3_keep_149 rfl 0 rfl ?_
    refine wa_getI (C := RX3) (T := TX3) (N := 38) (ci := 2) (k := 14) dX3_keep_150 rfl (Nat.le_of_ble_eq_true rfl) in_X3 q1206 q_same_own (g_I_mono F fun x3 F => ?_)
    refine wa_iload_n (x := v2) dX3_keep_153 rfl 2 rfl ?_
    refine wa_iast dX3_keep_154 (s_I_mono F fun h4 F => ?_)
    refine wa_aload_n (o := (some t)) dX3_keep_155 rfl 0 rfl ?_
    refine wa_getI (C := RX3) (T := TX3) (N := 38) (ci := 2) (k := 14) dX3_keep_156 rfl (Nat.le_of_ble_eq_true rfl) in_X3 q1206 q_same_own (g_I_mono F fun x5 F => ?_)
    exact wa_iret rfl dX3_keep_159 F
  · have F := F.2 z
    refine wa_aload_n (o := (some t)) dX3_keep_48 rfl 0 rfl ?_
    refine wa_getR (C := RX3) (T := TX3) (N := 38) (ci := 2) (k := 32) dX3_keep_49 rfl (Nat.le_of_ble_eq_true rfl) in_X3 q1224 q_same_own (g_R_mono F fun r6 F => ?_)
    refine wa_iload_n (x := v3) dX3_keep_52 rfl 3 rfl ?_
    refine wa_iload_n (x := v2) dX3_keep_53 rfl 2 rfl ?_
    refine wa_iast dX3_keep_54 (s_I_mono F fun h7 F => ?_)
    refine wa_iconst (v := 0) dX3_keep_55 rfl ?_
    refine ws_istore (lv' := [(4, .int 0), (0, va_rf (some t)), (1, .int v1), (2, .int v2), (3, .int v3)]) dX3_keep_56 (Nat.le_of_ble_eq_true rfl) (q_cr (q_ci (q_ci (q_ci q_cn)))) rfl ?_
    exact wa_sub [1, 2, 3, 4, 0] rfl F
theorem f_X3_keep_58 {D : qD} {Q : Option Value → qH → Prop} {X : String → qH → Prop} (t : Nat) (v1 : Int32) (v2 : Int32) (v3 : Int32) (v4 : Int32) (h : qH) (F : g_I D h (some t) 2 0 (fun x1 => ((x1 ≤ v4 → L_X3_keep_40 D Q X t v1 v2 (v3 + 1) h) ∧ (¬ x1 ≤ v4 → g_R D h (some t) 2 15 (fun r2 => a_I D h r2 0 v4 (fun x3 => ((¬ x3 = v3 → L_X3_keep_133 D Q X t v1 v2 v3 v4 h) ∧ (x3 = v3 → (recv D h (some t) RX3 ∧ c_I D m_X3_hangs [va_rf (some t), .int v4] h X (fun x5 h4 => ((¬ x5 = 0 → L_X3_keep_133 D Q X t v1 v2 v3 v4 h4) ∧ (x5 = 0 → g_R D h4 (some t) 2 33 (fun r6 => g_R D h4 (some t) 2 1 (fun r7 => a_I D h4 r7 0 v4 (fun x8 => s_I h4 r6 0 v2 x8 (fun h9 => g_R D h9 (some t) 2 34 (fun r10 => (recv D h9 (some t) RX3 ∧ c_I D m_X3_wide [va_rf (some t), .int v1, .int v4] h9 X (fun x12 h11 => s_I h11 r10 0 v2 x12 (fun h13 => g_R D h13 (some t) 2 35 (fun r14 => g_R D h13 (some t) 2 3 (fun r15 => a_I D h13 r15 0 v4 (fun x16 => (recv D h13 (some t) RX3 ∧ c_I D m_X3_colourOf [va_rf (some t), .int x16] h13 X (fun x18 h17 => s_I h17 r14 0 v2 x18 (fun h19 => L_X3_keep_133 D Q X t v1 (v2 + 1) v3 v4 h19)))))))))))))))))))))))))) : L_X3_keep_58 D Q X t v1 v2 v3 v4 h := by
  show WA D m_X3_keep Q X 58 [(0, va_rf (some t)), (1, .int v1), (2, .int v2), (3, .int v3), (4, .int v4)] [] h
  refine wa_iload (x := v4) dX3_keep_58 4 rfl ?_
  refine wa_aload_n (o := (some t)) dX3_keep_60 rfl 0 rfl ?_
  refine wa_getI (C := RX3) (T := TX3) (N := 38) (ci := 2) (k := 0) dX3_keep_61 rfl (Nat.le_of_ble_eq_true rfl) in_X3 q1192 q_same_own (g_I_mono F fun x1 F => ?_)
  refine wa_icmp_ge (tgt := 139) dX3_keep_64 rfl (fun z => ?_) (fun z => ?_)
  · have F := F.1 z
    refine ws_iinc (j := 3) (v := (v3 + 1)) (lv' := [(3, .int (v3 + 1)), (0, va_rf (some t)), (1, .int v1), (2, .int v2), (4, .int v4)]) dX3_keep_139 rfl rfl (Nat.le_of_ble_eq_true rfl) (q_cr (q_ci (q_ci (q_ci (q_ci q_cn))))) rfl ?_
    refine wa_goto (tgt := 40) dX3_keep_142 rfl ?_
    exact wa_sub [1, 2, 3, 0] rfl F
  · have F := F.2 z
    refine wa_aload_n (o := (some t)) dX3_keep_67 rfl 0 rfl ?_
    refine wa_getR (C := RX3) (T := TX3) (N := 38) (ci := 2) (k := 15) dX3_keep_68 rfl (Nat.le_of_ble_eq_true rfl) in_X3 q1207 q_same_own (g_R_mono F fun r2 F => ?_)
    refine wa_iload (x := v4) dX3_keep_71 4 rfl ?_
    refine wa_iald dX3_keep_73 (a_I_mono F fun x3 F => ?_)
    refine wa_iload_n (x := v3) dX3_keep_74 rfl 3 rfl ?_
    refine wa_icmp_ne (tgt := 133) dX3_keep_75 rfl (fun z => ?_) (fun z => ?_)
    · have F := F.1 z
      exact F
    · have F := F.2 z
      refine wa_aload_n (o := (some t)) dX3_keep_78 rfl 0 rfl ?_
      refine wa_iload (x := v4) dX3_keep_79 4 rfl ?_
      refine wa_callV (M' := m_X3_hangs) (C := RX3) (o := (some t)) (As := [.int v4]) (st := []) dX3_keep_81 ⟨Nat.le_of_ble_eq_true rfl, Nat.le_of_ble_eq_true rfl, nk_X3_hangs⟩ q1387 q1389 qs31 q59 q1390 rfl rfl (Nat.zero_le 8) rfl F.1 F.2 (wk_I fun x5 h4 F => ?_)
      refine wa_if_ne (tgt := 133) dX3_keep_84 rfl (fun z => ?_) (fun z => ?_)
      · have F := F.1 z
        exact F
      · have F := F.2 z
        refine wa_aload_n (o := (some t)) dX3_keep_87 rfl 0 rfl ?_
        refine wa_getR (C := RX3) (T := TX3) (N := 38) (ci := 2) (k := 33) dX3_keep_88 rfl (Nat.le_of_ble_eq_true rfl) in_X3 q1225 q_same_own (g_R_mono F fun r6 F => ?_)
        refine wa_iload_n (x := v2) dX3_keep_91 rfl 2 rfl ?_
        refine wa_aload_n (o := (some t)) dX3_keep_92 rfl 0 rfl ?_
        refine wa_getR (C := RX3) (T := TX3) (N := 38) (ci := 2) (k := 1) dX3_keep_93 rfl (Nat.le_of_ble_eq_true rfl) in_X3 q1193 q_same_own (g_R_mono F fun r7 F => ?_)
        refine wa_iload (x := v4) dX3_keep_96 4 rfl ?_
        refine wa_iald dX3_keep_98 (a_I_mono F fun x8 F => ?_)
        refine wa_iast dX3_keep_99 (s_I_mono F fun h9 F => ?_)
        refine wa_aload_n (o := (some t)) dX3_keep_100 rfl 0 rfl ?_
        refine wa_getR (C := RX3) (T := TX3) (N := 38) (ci := 2) (k := 34) dX3_keep_101 rfl (Nat.le_of_ble_eq_true rfl) in_X3 q1226 q_same_own (g_R_mono F fun r10 F => ?_)
        refine wa_iload_n (x := v2) dX3_keep_104 rfl 2 rfl ?_
        refine wa_aload_n (o := (some t)) dX3_keep_105 rfl 0 rfl ?_
        refine wa_iload_n (x := v1) dX3_keep_106 rfl 1 rfl ?_
        refine wa_iload (x := v4) dX3_keep_107 4 rfl ?_
        refine wa_callV (M' := m_X3_wide) (C := RX3) (o := (some t)) (As := [.int v1, .int v4]) (st := [.int v2, va_rf r10]) dX3_keep_109 ⟨Nat.le_of_ble_eq_true rfl, Nat.le_of_ble_eq_true rfl, nk_X3_wide⟩ q1375 q1377 qs28 q59 q1378 rfl rfl (q_cs_le (q_csi (q_csr q_cs0)) (Nat.le_of_ble_eq_true rfl)) rfl F.1 F.2 (wk_I fun x12 h11 F => ?_)
        refine wa_iast dX3_keep_112 (s_I_mono F fun h13 F => ?_)
        refine wa_aload_n (o := (some t)) dX3_keep_113 rfl 0 rfl ?_
        refine wa_getR (C := RX3) (T := TX3) (N := 38) (ci := 2) (k := 35) dX3_keep_114 rfl (Nat.le_of_ble_eq_true rfl) in_X3 q1227 q_same_own (g_R_mono F fun r14 F => ?_)
        refine wa_iload_n (x := v2) dX3_keep_117 rfl 2 rfl ?_
        refine wa_aload_n (o := (some t)) dX3_keep_118 rfl 0 rfl ?_
        refine wa_aload_n (o := (some t)) dX3_keep_119 rfl 0 rfl ?_
        refine wa_getR (C := RX3) (T := TX3) (N := 38) (ci := 2) (k := 3) dX3_keep_120 rfl (Nat.le_of_ble_eq_true rfl) in_X3 q1195 q_same_own (g_R_mono F fun r15 F => ?_)
        refine wa_iload (x := v4) dX3_keep_123 4 rfl ?_
        refine wa_iald dX3_keep_125 (a_I_mono F fun x16 F => ?_)
        refine wa_callV (M' := m_X3_colourOf) (C := RX3) (o := (some t)) (As := [.int x16]) (st := [.int v2, va_rf r14]) dX3_keep_126 ⟨Nat.le_of_ble_eq_true rfl, Nat.le_of_ble_eq_true rfl, nk_X3_colourOf⟩ q1391 q1393 qs32 q59 q1394 rfl rfl (q_cs_le (q_csi (q_csr q_cs0)) (Nat.le_of_ble_eq_true rfl)) rfl F.1 F.2 (wk_I fun x18 h17 F => ?_)
        refine wa_iast dX3_keep_129 (s_I_mono F fun h19 F => ?_)
        refine ws_iinc (j := 2) (v := (v2 + 1)) (lv' := [(2, .int (v2 + 1)), (0, va_rf (some t)), (1, .int v1), (3, .int v3), (4, .int v4)]) dX3_keep_130 rfl rfl (Nat.le_of_ble_eq_true rfl) (q_cr (q_ci (q_ci (q_ci (q_ci q_cn))))) rfl ?_
        exact wa_sub [1, 2, 0, 3, 4] rfl F
theorem f_X3_keep_133 {D : qD} {Q : Option Value → qH → Prop} {X : String → qH → Prop} (t : Nat) (v1 : Int32) (v2 : Int32) (v3 : Int32) (v4 : Int32) (h : qH) (F : L_X3_keep_58 D Q X t v1 v2 v3 (v4 + 1) h) : L_X3_keep_133 D Q X t v1 v2 v3 v4 h := by
  show WA D m_X3_keep Q X 133 [(0, va_rf (some t)), (1, .int v1), (2, .int v2), (3, .int v3), (4, .int v4)] [] h
  refine ws_iinc (j := 4) (v := (v4 + 1)) (lv' := [(4, .int (v4 + 1)), (0, va_rf (some t)), (1, .int v1), (2, .int v2), (3, .int v3)]) dX3_keep_133 rfl rfl (Nat.le_of_ble_eq_true rfl) (q_cr (q_ci (q_ci (q_ci (q_ci q_cn))))) rfl ?_
  refine wa_goto (tgt := 58) dX3_keep_136 rfl ?_
  exact wa_sub [1, 2, 3, 4, 0] rfl F
theorem f_X3_lines {D : qD} {Q : Option Value → qH → Prop} {X : String → qH → Prop} (t : Nat) (p0 : Int32) (h : qH) (F : c_I D m_X3_in [.long p0.toInt64, .long 0, .long 3] h X (fun x2 h1 => ((¬ x2 = 0 → p_F h1 (some t) 2 37 (.int 0) (fun h3 => (recv D h3 (some t) RX3 ∧ c_V D m_X3_layLines [va_rf (some t), .int p0] h3 X (fun h4 => g_I D h4 (some t) 2 14 (fun x5 => Q (some (.int x5)) h4))))) ∧ (x2 = 0 → (recv D h1 (some t) RX3 ∧ c_I D m_X3_fails [va_rf (some t), .int 1] h1 X (fun x7 h6 => Q (some (.int x7)) h6)))))) : MW D m_X3_lines [va_rf (some t), .int p0] h Q X := by
  refine mw_of pl_X3_lines rfl _ (Nat.le_of_ble_eq_true rfl) rfl ?_
  refine (show WA D m_X3_lines Q X 0 [(0, va_rf (some t)), (1, .int p0)] [] h from ?_)
  refine wa_iload_n (x := p0) dX3_lines_0 rfl 1 rfl ?_
  refine wa_i2l dX3_lines_1 ?_
  refine wa_lconst (v := 0) dX3_lines_2 rfl ?_
  refine wa_ldc2 (v := 3) dX3_lines_3 q1330 ?_
  refine wa_callS (M' := m_X3_in) (As := [.long p0.toInt64, .long 0, .long 3]) (st := []) dX3_lines_6 ⟨Nat.le_of_ble_eq_true rfl, Nat.le_of_ble_eq_true rfl, nk_X3_in⟩ q1316 q1317 q59 q1318 rfl rfl (Nat.zero_le 8) rfl F (wk_I fun x2 h1 F => ?_)
  refine wa_if_ne (tgt := 18) dX3_lines_9 rfl (fun z => ?_) (fun z => ?_)
  · have F := F.1 z
    refine wa_aload_n (o := (some t)) dX3_lines_18 rfl 0 rfl ?_
    refine wa_iconst (v := 0) dX3_lines_19 rfl ?_
    refine wa_put (C := RX3) (T := TX3) (N := 38) (ci := 2) (k := 37) tyX3 dX3_lines_20 rfl (Nat.le_of_ble_eq_true rfl) in_X3 tyX3_ok nmX3 q1229 q_same_own rfl rfl rfl (p_F_mono F fun h3 F => ?_)
    refine wa_aload_n (o := (some t)) dX3_lines_23 rfl 0 rfl ?_
    refine wa_iload_n (x := p0) dX3_lines_24 rfl 1 rfl ?_
    refine wa_callV (M' := m_X3_layLines) (C := RX3) (o := (some t)) (As := [.int p0]) (st := []) dX3_lines_25 ⟨Nat.le_of_ble_eq_true rfl, Nat.le_of_ble_eq_true rfl, nk_X3_layLines⟩ q1363 q1365 qs25 q59 q1366 rfl rfl (Nat.zero_le 8) rfl F.1 F.2 (wk_V fun h4 F => ?_)
    refine wa_aload_n (o := (some t)) dX3_lines_28 rfl 0 rfl ?_
    refine wa_getI (C := RX3) (T := TX3) (N := 38) (ci := 2) (k := 14) dX3_lines_29 rfl (Nat.le_of_ble_eq_true rfl) in_X3 q1206 q_same_own (g_I_mono F fun x5 F => ?_)
    exact wa_iret rfl dX3_lines_32 F
  · have F := F.2 z
    refine wa_aload_n (o := (some t)) dX3_lines_12 rfl 0 rfl ?_
    refine wa_iconst (v := 1) dX3_lines_13 rfl ?_
    refine wa_callV (M' := m_X3_fails) (C := RX3) (o := (some t)) (As := [.int 1]) (st := []) dX3_lines_14 ⟨Nat.le_of_ble_eq_true rfl, Nat.le_of_ble_eq_true rfl, nk_X3_fails⟩ q1319 q1321 qs23 q59 q1322 rfl rfl (Nat.zero_le 8) rfl F.1 F.2 (wk_I fun x7 h6 F => ?_)
    exact wa_iret rfl dX3_lines_17 F
def L_X3_lineOf_28 (D : qD) (Q : Option Value → qH → Prop) (X : String → qH → Prop) (t : Nat) (h : qH) : Prop := WA D m_X3_lineOf Q X 28 [(0, va_rf (some t))] [] h
theorem f_X3_lineOf {D : qD} {Q : Option Value → qH → Prop} {X : String → qH → Prop} (t : Nat) (p0 : Int32) (p1 : Int32) (h : qH) (F : c_I D m_X3_in [.long p0.toInt64, .long 0, .long 3] h X (fun x2 h1 => ((x2 = 0 → L_X3_lineOf_28 D Q X t h1) ∧ (¬ x2 = 0 → g_I D h1 (some t) 2 0 (fun x3 => c_I D m_X3_in [.long p1.toInt64, .long 0, .long (x3 - 1).toInt64] h1 X (fun x5 h4 => ((¬ x5 = 0 → p_F h4 (some t) 2 37 (.int 0) (fun h6 => (recv D h6 (some t) RX3 ∧ c_V D m_X3_layLines [va_rf (some t), .int p0] h6 X (fun h7 => g_R D h7 (some t) 2 15 (fun r8 => a_I D h7 r8 0 p1 (fun x9 => Q (some (.int x9)) h7)))))) ∧ (x5 = 0 → L_X3_lineOf_28 D Q X t h4)))))))) : MW D m_X3_lineOf [va_rf (some t), .int p0, .int p1] h Q X := by
  refine mw_of pl_X3_lineOf rfl _ (Nat.le_of_ble_eq_true rfl) rfl ?_
  refine (show WA D m_X3_lineOf Q X 0 [(0, va_rf (some t)), (1, .int p0), (2, .int p1)] [] h from ?_)
  refine wa_iload_n (x := p0) dX3_lineOf_0 rfl 1 rfl ?_
  refine wa_i2l dX3_lineOf_1 ?_
  refine wa_lconst (v := 0) dX3_lineOf_2 rfl ?_
  refine wa_ldc2 (v := 3) dX3_lineOf_3 q1330 ?_
  refine wa_callS (M' := m_X3_in) (As := [.long p0.toInt64, .long 0, .long 3]) (st := []) dX3_lineOf_6 ⟨Nat.le_of_ble_eq_true rfl, Nat.le_of_ble_eq_true rfl, nk_X3_in⟩ q1316 q1317 q59 q1318 rfl rfl (Nat.zero_le 8) rfl F (wk_I fun x2 h1 F => ?_)
  refine wa_if_eq (tgt := 28) dX3_lineOf_9 rfl (fun z => ?_) (fun z => ?_)
  · have F := F.1 z
    exact wa_sub [0] rfl F
  · have F := F.2 z
    refine wa_iload_n (x := p1) dX3_lineOf_12 rfl 2 rfl ?_
    refine wa_i2l dX3_lineOf_13 ?_
    refine wa_lconst (v := 0) dX3_lineOf_14 rfl ?_
    refine wa_aload_n (o := (some t)) dX3_lineOf_15 rfl 0 rfl ?_
    refine wa_getI (C := RX3) (T := TX3) (N := 38) (ci := 2) (k := 0) dX3_lineOf_16 rfl (Nat.le_of_ble_eq_true rfl) in_X3 q1192 q_same_own (g_I_mono F fun x3 F => ?_)
    refine wa_iconst (v := 1) dX3_lineOf_19 rfl ?_
    refine wa_isub dX3_lineOf_20 ?_
    refine wa_i2l dX3_lineOf_21 ?_
    refine wa_callS (M' := m_X3_in) (As := [.long p1.toInt64, .long 0, .long (x3 - 1).toInt64]) (st := []) dX3_lineOf_22 ⟨Nat.le_of_ble_eq_true rfl, Nat.le_of_ble_eq_true rfl, nk_X3_in⟩ q1316 q1317 q59 q1318 rfl rfl (Nat.zero_le 8) rfl F (wk_I fun x5 h4 F => ?_)
    refine wa_if_ne (tgt := 34) dX3_lineOf_25 rfl (fun z => ?_) (fun z => ?_)
    · have F := F.1 z
      refine wa_aload_n (o := (some t)) dX3_lineOf_34 rfl 0 rfl ?_
      refine wa_iconst (v := 0) dX3_lineOf_35 rfl ?_
      refine wa_put (C := RX3) (T := TX3) (N := 38) (ci := 2) (k := 37) tyX3 dX3_lineOf_36 rfl (Nat.le_of_ble_eq_true rfl) in_X3 tyX3_ok nmX3 q1229 q_same_own rfl rfl rfl (p_F_mono F fun h6 F => ?_)
      refine wa_aload_n (o := (some t)) dX3_lineOf_39 rfl 0 rfl ?_
      refine wa_iload_n (x := p0) dX3_lineOf_40 rfl 1 rfl ?_
      refine wa_callV (M' := m_X3_layLines) (C := RX3) (o := (some t)) (As := [.int p0]) (st := []) dX3_lineOf_41 ⟨Nat.le_of_ble_eq_true rfl, Nat.le_of_ble_eq_true rfl, nk_X3_layLines⟩ q1363 q1365 qs25 q59 q1366 rfl rfl (Nat.zero_le 8) rfl F.1 F.2 (wk_V fun h7 F => ?_)
      refine wa_aload_n (o := (some t)) dX3_lineOf_44 rfl 0 rfl ?_
      refine wa_getR (C := RX3) (T := TX3) (N := 38) (ci := 2) (k := 15) dX3_lineOf_45 rfl (Nat.le_of_ble_eq_true rfl) in_X3 q1207 q_same_own (g_R_mono F fun r8 F => ?_)
      refine wa_iload_n (x := p1) dX3_lineOf_48 rfl 2 rfl ?_
      refine wa_iald dX3_lineOf_49 (a_I_mono F fun x9 F => ?_)
      exact wa_iret rfl dX3_lineOf_50 F
    · have F := F.2 z
      exact wa_sub [0] rfl F
theorem f_X3_lineOf_28 {D : qD} {Q : Option Value → qH → Prop} {X : String → qH → Prop} (t : Nat) (h : qH) (F : (recv D h (some t) RX3 ∧ c_I D m_X3_fails [va_rf (some t), .int 1] h X (fun x2 h1 => Q (some (.int x2)) h1))) : L_X3_lineOf_28 D Q X t h := by
  show WA D m_X3_lineOf Q X 28 [(0, va_rf (some t))] [] h
  refine wa_aload_n (o := (some t)) dX3_lineOf_28 rfl 0 rfl ?_
  refine wa_iconst (v := 1) dX3_lineOf_29 rfl ?_
  refine wa_callV (M' := m_X3_fails) (C := RX3) (o := (some t)) (As := [.int 1]) (st := []) dX3_lineOf_30 ⟨Nat.le_of_ble_eq_true rfl, Nat.le_of_ble_eq_true rfl, nk_X3_fails⟩ q1319 q1321 qs23 q59 q1322 rfl rfl (Nat.zero_le 8) rfl F.1 F.2 (wk_I fun x2 h1 F => ?_)
  exact wa_iret rfl dX3_lineOf_33 F
theorem f_X3_lay {D : qD} {Q : Option Value → qH → Prop} {X : String → qH → Prop} (t : Nat) (p0 : Int32) (h : qH) (F : (recv D h (some t) RX3 ∧ c_V D m_X3_layLines [va_rf (some t), .int p0] h X (fun h1 => (recv D h1 (some t) RX3 ∧ c_V D m_X3_layColumns [va_rf (some t)] h1 X (fun h2 => (recv D h2 (some t) RX3 ∧ c_V D m_X3_layFront [va_rf (some t)] h2 X (fun h3 => Q none h3))))))) : MW D m_X3_lay [va_rf (some t), .int p0] h Q X := by
  refine mw_of pl_X3_lay rfl _ (Nat.le_of_ble_eq_true rfl) rfl ?_
  refine (show WA D m_X3_lay Q X 0 [(0, va_rf (some t)), (1, .int p0)] [] h from ?_)
  refine wa_aload_n (o := (some t)) dX3_lay_0 rfl 0 rfl ?_
  refine wa_iload_n (x := p0) dX3_lay_1 rfl 1 rfl ?_
  refine wa_callV (M' := m_X3_layLines) (C := RX3) (o := (some t)) (As := [.int p0]) (st := []) dX3_lay_2 ⟨Nat.le_of_ble_eq_true rfl, Nat.le_of_ble_eq_true rfl, nk_X3_layLines⟩ q1363 q1365 qs25 q59 q1366 rfl rfl (Nat.zero_le 8) rfl F.1 F.2 (wk_V fun h1 F => ?_)
  refine wa_aload_n (o := (some t)) dX3_lay_5 rfl 0 rfl ?_
  refine wa_callV (M' := m_X3_layColumns) (C := RX3) (o := (some t)) (As := []) (st := []) dX3_lay_6 ⟨Nat.le_of_ble_eq_true rfl, Nat.le_of_ble_eq_true rfl, nk_X3_layColumns⟩ q1411 q1413 qs34 q59 q1414 rfl rfl (Nat.zero_le 8) rfl F.1 F.2 (wk_V fun h2 F => ?_)
  refine wa_aload_n (o := (some t)) dX3_lay_9 rfl 0 rfl ?_
  refine wa_callV (M' := m_X3_layFront) (C := RX3) (o := (some t)) (As := []) (st := []) dX3_lay_10 ⟨Nat.le_of_ble_eq_true rfl, Nat.le_of_ble_eq_true rfl, nk_X3_layFront⟩ q1431 q1433 qs39 q59 q1434 rfl rfl (Nat.zero_le 8) rfl F.1 F.2 (wk_V fun h3 F => ?_)
  exact wa_vret rfl dX3_lay_13 F
def L_X3_isNew_57 (D : qD) (Q : Option Value → qH → Prop) (X : String → qH → Prop) (t : Nat) (v1 : Int32) (v2 : Int32) (v3 : Int32) (v4 : Int32) (h : qH) : Prop := WA D m_X3_isNew Q X 57 [(0, va_rf (some t)), (1, .int v1), (2, .int v2), (3, .int v3), (4, .int v4)] [] h
def L_X3_isNew_111 (D : qD) (Q : Option Value → qH → Prop) (X : String → qH → Prop) (t : Nat) (v1 : Int32) (v2 : Int32) (v3 : Int32) (v4 : Int32) (v5 : Int32) (h : qH) : Prop := WA D m_X3_isNew Q X 111 [(0, va_rf (some t)), (1, .int v1), (2, .int v2), (3, .int v3), (4, .int v4), (5, .int v5)] [] h
def L_X3_isNew_97 (D : qD) (Q : Option Value → qH → Prop) (X : String → qH → Prop) (t : Nat) (v1 : Int32) (v2 : Int32) (v4 : Int32) (s0 : Int32) (s1 : Int32) (h : qH) : Prop := WA D m_X3_isNew Q X 97 [(0, va_rf (some t)), (1, .int v1), (2, .int v2), (4, .int v4)] [.int s0, .int s1] h
def L_X3_isNew_135 (D : qD) (Q : Option Value → qH → Prop) (X : String → qH → Prop) (t : Nat) (v1 : Int32) (v2 : Int32) (v3 : Int32) (v5 : Int32) (s0 : Int32) (s1 : Int32) (h : qH) : Prop := WA D m_X3_isNew Q X 135 [(0, va_rf (some t)), (1, .int v1), (2, .int v2), (3, .int v3), (5, .int v5)] [.int s0, .int s1] h
theorem f_X3_isNew {D : qD} {Q : Option Value → qH → Prop} {X : String → qH → Prop} (t : Nat) (p0 : Int32) (p1 : Int32) (h : qH) (F : c_I D m_X3_in [.long p0.toInt64, .long 0, .long 3] h X (fun x2 h1 => ((¬ x2 = 0 → (recv D h1 (some t) RX3 ∧ c_V D m_X3_layLines [va_rf (some t), .int p0] h1 X (fun h3 => g_I D h3 (some t) 2 14 (fun x4 => c_I D m_X3_in [.long p1.toInt64, .long 0, .long (x4 - 1).toInt64] h3 X (fun x6 h5 => ((¬ x6 = 0 → p_F h5 (some t) 2 37 (.int 0) (fun h7 => L_X3_isNew_57 D Q X t p0 p1 0 0 h7)) ∧ (x6 = 0 → p_F h5 (some t) 2 37 (.int 1) (fun h8 => Q (some (.int 0)) h8)))))))) ∧ (x2 = 0 → p_F h1 (some t) 2 37 (.int 1) (fun h9 => Q (some (.int 0)) h9))))) : MW D m_X3_isNew [va_rf (some t), .int p0, .int p1] h Q X := by
  refine mw_of pl_X3_isNew rfl _ (Nat.le_of_ble_eq_true rfl) rfl ?_
  refine (show WA D m_X3_isNew Q X 0 [(0, va_rf (some t)), (1, .int p0), (2, .int p1)] [] h from ?_)
  refine wa_iload_n (x := p0) dX3_isNew_0 rfl 1 rfl ?_
  refine wa_i2l dX3_isNew_1 ?_
  refine wa_lconst (v := 0) dX3_isNew_2 rfl ?_
  refine wa_ldc2 (v := 3) dX3_isNew_3 q1330 ?_
  refine wa_callS (M' := m_X3_in) (As := [.long p0.toInt64, .long 0, .long 3]) (st := []) dX3_isNew_6 ⟨Nat.le_of_ble_eq_true rfl, Nat.le_of_ble_eq_true rfl, nk_X3_in⟩ q1316 q1317 q59 q1318 rfl rfl (Nat.zero_le 8) rfl F (wk_I fun x2 h1 F => ?_)
  refine wa_if_ne (tgt := 19) dX3_isNew_9 rfl (fun z => ?_) (fun z => ?_)
  · have F := F.1 z
    refine wa_aload_n (o := (some t)) dX3_isNew_19 rfl 0 rfl ?_
    refine wa_iload_n (x := p0) dX3_isNew_20 rfl 1 rfl ?_
    refine wa_callV (M' := m_X3_layLines) (C := RX3) (o := (some t)) (As := [.int p0]) (st := []) dX3_isNew_21 ⟨Nat.le_of_ble_eq_true rfl, Nat.le_of_ble_eq_true rfl, nk_X3_layLines⟩ q1363 q1365 qs25 q59 q1366 rfl rfl (Nat.zero_le 8) rfl F.1 F.2 (wk_V fun h3 F => ?_)
    refine wa_iload_n (x := p1) dX3_isNew_24 rfl 2 rfl ?_
    refine wa_i2l dX3_isNew_25 ?_
    refine wa_lconst (v := 0) dX3_isNew_26 rfl ?_
    refine wa_aload_n (o := (some t)) dX3_isNew_27 rfl 0 rfl ?_
    refine wa_getI (C := RX3) (T := TX3) (N := 38) (ci := 2) (k := 14) dX3_isNew_28 rfl (Nat.le_of_ble_eq_true rfl) in_X3 q1206 q_same_own (g_I_mono F fun x4 F => ?_)
    refine wa_iconst (v := 1) dX3_isNew_31 rfl ?_
    refine wa_isub dX3_isNew_32 ?_
    refine wa_i2l dX3_isNew_33 ?_
    refine wa_callS (M' := m_X3_in) (As := [.long p1.toInt64, .long 0, .long (x4 - 1).toInt64]) (st := []) dX3_isNew_34 ⟨Nat.le_of_ble_eq_true rfl, Nat.le_of_ble_eq_true rfl, nk_X3_in⟩ q1316 q1317 q59 q1318 rfl rfl (Nat.zero_le 8) rfl F (wk_I fun x6 h5 F => ?_)
    refine wa_if_ne (tgt := 47) dX3_isNew_37 rfl (fun z => ?_) (fun z => ?_)
    · have F := F.1 z
      refine wa_aload_n (o := (some t)) dX3_isNew_47 rfl 0 rfl ?_
      refine wa_iconst (v := 0) dX3_isNew_48 rfl ?_
      refine wa_put (C := RX3) (T := TX3) (N := 38) (ci := 2) (k := 37) tyX3 dX3_isNew_49 rfl (Nat.le_of_ble_eq_true rfl) in_X3 tyX3_ok nmX3 q1229 q_same_own rfl rfl rfl (p_F_mono F fun h7 F => ?_)
      refine wa_iconst (v := 0) dX3_isNew_52 rfl ?_
      refine ws_istore_n (lv' := [(3, .int 0), (0, va_rf (some t)), (1, .int p0), (2, .int p1)]) dX3_isNew_53 rfl (Nat.le_of_ble_eq_true rfl) (q_cr (q_ci (q_ci q_cn))) rfl ?_
      refine wa_iconst (v := 0) dX3_isNew_54 rfl ?_
      refine ws_istore (lv' := [(4, .int 0), (3, .int 0), (0, va_rf (some t)), (1, .int p0), (2, .int p1)]) dX3_isNew_55 (Nat.le_of_ble_eq_true rfl) (q_ci (q_cr (q_ci (q_ci q_cn)))) rfl ?_
      exact wa_sub [2, 3, 4, 1, 0] rfl F
    · have F := F.2 z
      refine wa_aload_n (o := (some t)) dX3_isNew_40 rfl 0 rfl ?_
      refine wa_iconst (v := 1) dX3_isNew_41 rfl ?_
      refine wa_put (C := RX3) (T := TX3) (N := 38) (ci := 2) (k := 37) tyX3 dX3_isNew_42 rfl (Nat.le_of_ble_eq_true rfl) in_X3 tyX3_ok nmX3 q1229 q_same_own rfl rfl rfl (p_F_mono F fun h8 F => ?_)
      refine wa_iconst (v := 0) dX3_isNew_45 rfl ?_
      exact wa_zret rfl rfl dX3_isNew_46 F
  · have F := F.2 z
    refine wa_aload_n (o := (some t)) dX3_isNew_12 rfl 0 rfl ?_
    refine wa_iconst (v := 1) dX3_isNew_13 rfl ?_
    refine wa_put (C := RX3) (T := TX3) (N := 38) (ci := 2) (k := 37) tyX3 dX3_isNew_14 rfl (Nat.le_of_ble_eq_true rfl) in_X3 tyX3_ok nmX3 q1229 q_same_own rfl rfl rfl (p_F_mono F fun h9 F => ?_)
    refine wa_iconst (v := 0) dX3_isNew_17 rfl ?_
    exact wa_zret rfl rfl dX3_isNew_18 F
theorem f_X3_isNew_57 {D : qD} {Q : Option Value → qH → Prop} {X : String → qH → Prop} (t : Nat) (v1 : Int32) (v2 : Int32) (v3 : Int32) (v4 : Int32) (h : qH) (F : g_I D h (some t) 2 31 (fun x1 => ((x1 ≤ v4 → L_X3_isNew_111 D Q X t v1 v2 v3 0 0 h) ∧ (¬ x1 ≤ v4 → g_R D h (some t) 2 32 (fun r2 => a_I D h r2 0 v4 (fun x3 => g_R D h (some t) 2 32 (fun r4 => a_I D h r4 0 (v4 + 1) (fun x5 => (recv D h (some t) RX3 ∧ c_I D m_X3_isKept [va_rf (some t), .int v1, .int v2, .int x3, .int x5] h X (fun x7 h6 => ((x7 = 0 → L_X3_isNew_97 D Q X t v1 v2 v4 0 v3 h6) ∧ (¬ x7 = 0 → L_X3_isNew_97 D Q X t v1 v2 v4 1 v3 h6)))))))))))) : L_X3_isNew_57 D Q X t v1 v2 v3 v4 h := by
  show WA D m_X3_isNew Q X 57 [(0, va_rf (some t)), (1, .int v1), (2, .int v2), (3, .int v3), (4, .int v4)] [] h
  refine wa_iload (x := v4) dX3_isNew_57 4 rfl ?_
  refine wa_aload_n (o := (some t)) dX3_isNew_59 rfl 0 rfl ?_
  refine wa_getI (C := RX3) (T := TX3) (N := 38) (ci := 2) (k := 31) dX3_isNew_60 rfl (Nat.le_of_ble_eq_true rfl) in_X3 q1223 q_same_own (g_I_mono F fun x1 F => ?_)
  refine wa_icmp_ge (tgt := 105) dX3_isNew_63 rfl (fun z => ?_) (fun z => ?_)
  · have F := F.1 z
    refine wa_iconst (v := 0) dX3_isNew_105 rfl ?_
    refine ws_istore (lv' := [(4, .int 0), (0, va_rf (some t)), (1, .int v1), (2, .int v2), (3, .int v3)]) dX3_isNew_106 (Nat.le_of_ble_eq_true rfl) (q_cr (q_ci (q_ci (q_ci (q_ci q_cn))))) rfl ?_
    refine wa_iconst (v := 0) dX3_isNew_108 rfl ?_
    refine ws_istore (lv' := [(5, .int 0), (4, .int 0), (0, va_rf (some t)), (1, .int v1), (2, .int v2), (3, .int v3)]) dX3_isNew_109 (Nat.le_of_ble_eq_true rfl) (q_ci (q_cr (q_ci (q_ci (q_ci q_cn))))) rfl ?_
    exact wa_sub [2, 3, 4, 5, 1, 0] rfl F
  · have F := F.2 z
    refine wa_iload_n (x := v3) dX3_isNew_66 rfl 3 rfl ?_
    refine wa_aload_n (o := (some t)) dX3_isNew_67 rfl 0 rfl ?_
    refine wa_iload_n (x := v1) dX3_isNew_68 rfl 1 rfl ?_
    refine wa_iload_n (x := v2) dX3_isNew_69 rfl 2 rfl ?_
    refine wa_aload_n (o := (some t)) dX3_isNew_70 rfl 0 rfl ?_
    refine wa_getR (C := RX3) (T := TX3) (N := 38) (ci := 2) (k := 32) dX3_isNew_71 rfl (Nat.le_of_ble_eq_true rfl) in_X3 q1224 q_same_own (g_R_mono F fun r2 F => ?_)
    refine wa_iload (x := v4) dX3_isNew_74 4 rfl ?_
    refine wa_iald dX3_isNew_76 (a_I_mono F fun x3 F => ?_)
    refine wa_aload_n (o := (some t)) dX3_isNew_77 rfl 0 rfl ?_
    refine wa_getR (C := RX3) (T := TX3) (N := 38) (ci := 2) (k := 32) dX3_isNew_78 rfl (Nat.le_of_ble_eq_true rfl) in_X3 q1224 q_same_own (g_R_mono F fun r4 F => ?_)
    refine wa_iload (x := v4) dX3_isNew_81 4 rfl ?_
    refine wa_iconst (v := 1) dX3_isNew_83 rfl ?_
    refine wa_iadd dX3_isNew_84 ?_
    refine wa_iald dX3_isNew_85 (a_I_mono F fun x5 F => ?_)
    refine wa_callV (M' := m_X3_isKept) (C := RX3) (o := (some t)) (As := [.int v1, .int v2, .int x3, .int x5]) (st := [.int v3]) dX3_isNew_86 ⟨Nat.le_of_ble_eq_true rfl, Nat.le_of_ble_eq_true rfl, nk_X3_isKept⟩ q1521 q1523 qs50 q59 q1524 rfl rfl (q_cs_le (q_csi q_cs0) (Nat.le_of_ble_eq_true rfl)) rfl F.1 F.2 (wk_I fun x7 h6 F => ?_)
    refine wa_if_eq (tgt := 96) dX3_isNew_89 rfl (fun z => ?_) (fun z => ?_)
    · have F := F.1 z
      refine wa_iconst (v := 0) dX3_isNew_96 rfl ?_
      exact wa_sub [0, 1, 2, 4] rfl F
    · have F := F.2 z
      refine wa_iconst (v := 1) dX3_isNew_92 rfl ?_
      refine wa_goto (tgt := 97) dX3_isNew_93 rfl ?_
      exact wa_sub [0, 1, 2, 4] rfl F
theorem f_X3_isNew_111 {D : qD} {Q : Option Value → qH → Prop} {X : String → qH → Prop} (t : Nat) (v1 : Int32) (v2 : Int32) (v3 : Int32) (v4 : Int32) (v5 : Int32) (h : qH) (F : ((v2 < v5 → ((v4 ≤ v3 → Q (some (.int 0)) h) ∧ (¬ v4 ≤ v3 → Q (some (.int 1)) h))) ∧ (¬ v2 < v5 → (recv D h (some t) RX3 ∧ c_I D m_X3_areAlike [va_rf (some t), .int v1, .int v2, .int v5] h X (fun x2 h1 => ((x2 = 0 → L_X3_isNew_135 D Q X t v1 v2 v3 v5 0 v4 h1) ∧ (¬ x2 = 0 → L_X3_isNew_135 D Q X t v1 v2 v3 v5 1 v4 h1))))))) : L_X3_isNew_111 D Q X t v1 v2 v3 v4 v5 h := by
  show WA D m_X3_isNew Q X 111 [(0, va_rf (some t)), (1, .int v1), (2, .int v2), (3, .int v3), (4, .int v4), (5, .int v5)] [] h
  refine wa_iload (x := v5) dX3_isNew_111 5 rfl ?_
  refine wa_iload_n (x := v2) dX3_isNew_113 rfl 2 rfl ?_
  refine wa_icmp_gt (tgt := 144) dX3_isNew_114 rfl (fun z => ?_) (fun z => ?_)
  · have F := F.1 z
    refine wa_iload_n (x := v3) dX3_isNew_144 rfl 3 rfl ?_
    refine wa_iload (x := v4) dX3_isNew_145 4 rfl ?_
    refine wa_icmp_ge (tgt := 154) dX3_isNew_147 rfl (fun z => ?_) (fun z => ?_)
    · have F := F.1 z
      refine wa_iconst (v := 0) dX3_isNew_154 rfl ?_
      exact wa_zret rfl rfl dX3_isNew_155 F
    · have F := F.2 z
      refine wa_iconst (v := 1) dX3_isNew_150 rfl ?_
      refine wa_goto (tgt := 155) dX3_isNew_151 rfl ?_
      exact wa_zret rfl rfl dX3_isNew_155 F
  · have F := F.2 z
    refine wa_iload (x := v4) dX3_isNew_117 4 rfl ?_
    refine wa_aload_n (o := (some t)) dX3_isNew_119 rfl 0 rfl ?_
    refine wa_iload_n (x := v1) dX3_isNew_120 rfl 1 rfl ?_
    refine wa_iload_n (x := v2) dX3_isNew_121 rfl 2 rfl ?_
    refine wa_iload (x := v5) dX3_isNew_122 5 rfl ?_
    refine wa_callV (M' := m_X3_areAlike) (C := RX3) (o := (some t)) (As := [.int v1, .int v2, .int v5]) (st := [.int v4]) dX3_isNew_124 ⟨Nat.le_of_ble_eq_true rfl, Nat.le_of_ble_eq_true rfl, nk_X3_areAlike⟩ q1525 q1527 qs51 q59 q1528 rfl rfl (q_cs_le (q_csi q_cs0) (Nat.le_of_ble_eq_true rfl)) rfl F.1 F.2 (wk_I fun x2 h1 F => ?_)
    refine wa_if_eq (tgt := 134) dX3_isNew_127 rfl (fun z => ?_) (fun z => ?_)
    · have F := F.1 z
      refine wa_iconst (v := 0) dX3_isNew_134 rfl ?_
      exact wa_sub [0, 1, 2, 3, 5] rfl F
    · have F := F.2 z
      refine wa_iconst (v := 1) dX3_isNew_130 rfl ?_
      refine wa_goto (tgt := 135) dX3_isNew_131 rfl ?_
      exact wa_sub [0, 1, 2, 3, 5] rfl F
theorem f_X3_isNew_97 {D : qD} {Q : Option Value → qH → Prop} {X : String → qH → Prop} (t : Nat) (v1 : Int32) (v2 : Int32) (v4 : Int32) (s0 : Int32) (s1 : Int32) (h : qH) (F : L_X3_isNew_57 D Q X t v1 v2 (s1 + s0) (v4 + 1) h) : L_X3_isNew_97 D Q X t v1 v2 v4 s0 s1 h := by
  show WA D m_X3_isNew Q X 97 [(0, va_rf (some t)), (1, .int v1), (2, .int v2), (4, .int v4)] [.int s0, .int s1] h
  refine wa_iadd dX3_isNew_97 ?_
  refine ws_istore_n (lv' := [(3, .int (s1 + s0)), (0, va_rf (some t)), (1, .int v1), (2, .int v2), (4, .int v4)]) dX3_isNew_98 rfl (Nat.le_of_ble_eq_true rfl) (q_cr (q_ci (q_ci (q_ci q_cn)))) rfl ?_
  refine ws_iinc (j := 4) (v := (v4 + 1)) (lv' := [(4, .int (v4 + 1)), (3, .int (s1 + s0)), (0, va_rf (some t)), (1, .int v1), (2, .int v2)]) dX3_isNew_99 rfl rfl (Nat.le_of_ble_eq_true rfl) (q_ci (q_cr (q_ci (q_ci (q_ci q_cn))))) rfl ?_
  refine wa_goto (tgt := 57) dX3_isNew_102 rfl ?_
  exact wa_sub [2, 3, 4, 1, 0] rfl F
theorem f_X3_isNew_135 {D : qD} {Q : Option Value → qH → Prop} {X : String → qH → Prop} (t : Nat) (v1 : Int32) (v2 : Int32) (v3 : Int32) (v5 : Int32) (s0 : Int32) (s1 : Int32) (h : qH) (F : L_X3_isNew_111 D Q X t v1 v2 v3 (s1 + s0) (v5 + 1) h) : L_X3_isNew_135 D Q X t v1 v2 v3 v5 s0 s1 h := by
  show WA D m_X3_isNew Q X 135 [(0, va_rf (some t)), (1, .int v1), (2, .int v2), (3, .int v3), (5, .int v5)] [.int s0, .int s1] h
  refine wa_iadd dX3_isNew_135 ?_
  refine ws_istore (lv' := [(4, .int (s1 + s0)), (0, va_rf (some t)), (1, .int v1), (2, .int v2), (3, .int v3), (5, .int v5)]) dX3_isNew_136 (Nat.le_of_ble_eq_true rfl) (q_cr (q_ci (q_ci (q_ci (q_ci q_cn))))) rfl ?_
  refine ws_iinc (j := 5) (v := (v5 + 1)) (lv' := [(5, .int (v5 + 1)), (4, .int (s1 + s0)), (0, va_rf (some t)), (1, .int v1), (2, .int v2), (3, .int v3)]) dX3_isNew_138 rfl rfl (Nat.le_of_ble_eq_true rfl) (q_ci (q_cr (q_ci (q_ci (q_ci (q_ci q_cn)))))) rfl ?_
  refine wa_goto (tgt := 111) dX3_isNew_141 rfl ?_
  exact wa_sub [2, 3, 4, 5, 1, 0] rfl F
def L_X3_columnOf_72 (D : qD) (Q : Option Value → qH → Prop) (X : String → qH → Prop) (t : Nat) (h : qH) : Prop := WA D m_X3_columnOf Q X 72 [(0, va_rf (some t))] [] h
def L_X3_columnOf_78 (D : qD) (Q : Option Value → qH → Prop) (X : String → qH → Prop) (t : Nat) (v2 : Int32) (v3 : Int32) (h : qH) : Prop := WA D m_X3_columnOf Q X 78 [(0, va_rf (some t)), (2, .int v2), (3, .int v3)] [] h
theorem f_X3_columnOf {D : qD} {Q : Option Value → qH → Prop} {X : String → qH → Prop} (t : Nat) (p0 : Int32) (p1 : Int32) (p2 : Int32) (h : qH) (F : c_I D m_X3_in [.long p0.toInt64, .long 0, .long 3] h X (fun x2 h1 => ((¬ x2 = 0 → (recv D h1 (some t) RX3 ∧ c_V D m_X3_lay [va_rf (some t), .int p0] h1 X (fun h3 => ((p1 = 0 → g_I D h3 (some t) 2 0 (fun x4 => c_I D m_X3_in [.long p2.toInt64, .long 0, .long (x4 - 1).toInt64] h3 X (fun x6 h5 => ((x6 = 0 → L_X3_columnOf_72 D Q X t h5) ∧ (¬ x6 = 0 → g_R D h5 (some t) 2 1 (fun r7 => a_I D h5 r7 0 p2 (fun x8 => ((x8 = 4 → L_X3_columnOf_78 D Q X t p1 p2 h5) ∧ (¬ x8 = 4 → L_X3_columnOf_72 D Q X t h5))))))))) ∧ (¬ p1 = 0 → g_I D h3 (some t) 2 14 (fun x9 => c_I D m_X3_in [.long p2.toInt64, .long 0, .long (x9 - 1).toInt64] h3 X (fun x11 h10 => ((¬ x11 = 0 → L_X3_columnOf_78 D Q X t p1 p2 h10) ∧ (x11 = 0 → L_X3_columnOf_72 D Q X t h10))))))))) ∧ (x2 = 0 → (recv D h1 (some t) RX3 ∧ c_I D m_X3_fails [va_rf (some t), .int 1] h1 X (fun x13 h12 => Q (some (.int x13)) h12)))))) : MW D m_X3_columnOf [va_rf (some t), .int p0, .int p1, .int p2] h Q X := by
  refine mw_of pl_X3_columnOf rfl _ (Nat.le_of_ble_eq_true rfl) rfl ?_
  refine (show WA D m_X3_columnOf Q X 0 [(0, va_rf (some t)), (1, .int p0), (2, .int p1), (3, .int p2)] [] h from ?_)
  refine wa_iload_n (x := p0) dX3_columnOf_0 rfl 1 rfl ?_
  refine wa_i2l dX3_columnOf_1 ?_
  refine wa_lconst (v := 0) dX3_columnOf_2 rfl ?_
  refine wa_ldc2 (v := 3) dX3_columnOf_3 q1330 ?_
  refine wa_callS (M' := m_X3_in) (As := [.long p0.toInt64, .long 0, .long 3]) (st := []) dX3_columnOf_6 ⟨Nat.le_of_ble_eq_true rfl, Nat.le_of_ble_eq_true rfl, nk_X3_in⟩ q1316 q1317 q59 q1318 rfl rfl (Nat.zero_le 8) rfl F (wk_I fun x2 h1 F => ?_)
  refine wa_if_ne (tgt := 18) dX3_columnOf_9 rfl (fun z => ?_) (fun z => ?_)
  · have F := F.1 z
    refine wa_aload_n (o := (some t)) dX3_columnOf_18 rfl 0 rfl ?_
    refine wa_iload_n (x := p0) dX3_columnOf_19 rfl 1 rfl ?_
    refine wa_callV (M' := m_X3_lay) (C := RX3) (o := (some t)) (As := [.int p0]) (st := []) dX3_columnOf_20 ⟨Nat.le_of_ble_eq_true rfl, Nat.le_of_ble_eq_true rfl, nk_X3_lay⟩ q1407 q1409 qs33 q59 q1410 rfl rfl (Nat.zero_le 8) rfl F.1 F.2 (wk_V fun h3 F => ?_)
    refine wa_iload_n (x := p1) dX3_columnOf_23 rfl 2 rfl ?_
    refine wa_if_eq (tgt := 46) dX3_columnOf_24 rfl (fun z => ?_) (fun z => ?_)
    · have F := F.1 z
      refine wa_iload_n (x := p2) dX3_columnOf_46 rfl 3 rfl ?_
      refine wa_i2l dX3_columnOf_47 ?_
      refine wa_lconst (v := 0) dX3_columnOf_48 rfl ?_
      refine wa_aload_n (o := (some t)) dX3_columnOf_49 rfl 0 rfl ?_
      refine wa_getI (C := RX3) (T := TX3) (N := 38) (ci := 2) (k := 0) dX3_columnOf_50 rfl (Nat.le_of_ble_eq_true rfl) in_X3 q1192 q_same_own (g_I_mono F fun x4 F => ?_)
      refine wa_iconst (v := 1) dX3_columnOf_53 rfl ?_
      refine wa_isub dX3_columnOf_54 ?_
      refine wa_i2l dX3_columnOf_55 ?_
      refine wa_callS (M' := m_X3_in) (As := [.long p2.toInt64, .long 0, .long (x4 - 1).toInt64]) (st := []) dX3_columnOf_56 ⟨Nat.le_of_ble_eq_true rfl, Nat.le_of_ble_eq_true rfl, nk_X3_in⟩ q1316 q1317 q59 q1318 rfl rfl (Nat.zero_le 8) rfl F (wk_I fun x6 h5 F => ?_)
      refine wa_if_eq (tgt := 72) dX3_columnOf_59 rfl (fun z => ?_) (fun z => ?_)
      · have F := F.1 z
        exact wa_sub [0] rfl F
      · have F := F.2 z
        refine wa_aload_n (o := (some t)) dX3_columnOf_62 rfl 0 rfl ?_
        refine wa_getR (C := RX3) (T := TX3) (N := 38) (ci := 2) (k := 1) dX3_columnOf_63 rfl (Nat.le_of_ble_eq_true rfl) in_X3 q1193 q_same_own (g_R_mono F fun r7 F => ?_)
        refine wa_iload_n (x := p2) dX3_columnOf_66 rfl 3 rfl ?_
        refine wa_iald dX3_columnOf_67 (a_I_mono F fun x8 F => ?_)
        refine wa_iconst (v := 4) dX3_columnOf_68 rfl ?_
        refine wa_icmp_eq (tgt := 78) dX3_columnOf_69 rfl (fun z => ?_) (fun z => ?_)
        · have F := F.1 z
          exact wa_sub [0, 2, 3] rfl F
        · have F := F.2 z
          exact wa_sub [0] rfl F
    · have F := F.2 z
      refine wa_iload_n (x := p2) dX3_columnOf_27 rfl 3 rfl ?_
      refine wa_i2l dX3_columnOf_28 ?_
      refine wa_lconst (v := 0) dX3_columnOf_29 rfl ?_
      refine wa_aload_n (o := (some t)) dX3_columnOf_30 rfl 0 rfl ?_
      refine wa_getI (C := RX3) (T := TX3) (N := 38) (ci := 2) (k := 14) dX3_columnOf_31 rfl (Nat.le_of_ble_eq_true rfl) in_X3 q1206 q_same_own (g_I_mono F fun x9 F => ?_)
      refine wa_iconst (v := 1) dX3_columnOf_34 rfl ?_
      refine wa_isub dX3_columnOf_35 ?_
      refine wa_i2l dX3_columnOf_36 ?_
      refine wa_callS (M' := m_X3_in) (As := [.long p2.toInt64, .long 0, .long (x9 - 1).toInt64]) (st := []) dX3_columnOf_37 ⟨Nat.le_of_ble_eq_true rfl, Nat.le_of_ble_eq_true rfl, nk_X3_in⟩ q1316 q1317 q59 q1318 rfl rfl (Nat.zero_le 8) rfl F (wk_I fun x11 h10 F => ?_)
      refine wa_if_ne (tgt := 78) dX3_columnOf_40 rfl (fun z => ?_) (fun z => ?_)
      · have F := F.1 z
        exact wa_sub [0, 2, 3] rfl F
      · have F := F.2 z
        refine wa_goto (tgt := 72) dX3_columnOf_43 rfl ?_
        exact wa_sub [0] rfl F
  · have F := F.2 z
    refine wa_aload_n (o := (some t)) dX3_columnOf_12 rfl 0 rfl ?_
    refine wa_iconst (v := 1) dX3_columnOf_13 rfl ?_
    refine wa_callV (M' := m_X3_fails) (C := RX3) (o := (some t)) (As := [.int 1]) (st := []) dX3_columnOf_14 ⟨Nat.le_of_ble_eq_true rfl, Nat.le_of_ble_eq_true rfl, nk_X3_fails⟩ q1319 q1321 qs23 q59 q1322 rfl rfl (Nat.zero_le 8) rfl F.1 F.2 (wk_I fun x13 h12 F => ?_)
    exact wa_iret rfl dX3_columnOf_17 F
theorem f_X3_columnOf_72 {D : qD} {Q : Option Value → qH → Prop} {X : String → qH → Prop} (t : Nat) (h : qH) (F : (recv D h (some t) RX3 ∧ c_I D m_X3_fails [va_rf (some t), .int 1] h X (fun x2 h1 => Q (some (.int x2)) h1))) : L_X3_columnOf_72 D Q X t h := by
  show WA D m_X3_columnOf Q X 72 [(0, va_rf (some t))] [] h
  refine wa_aload_n (o := (some t)) dX3_columnOf_72 rfl 0 rfl ?_
  refine wa_iconst (v := 1) dX3_columnOf_73 rfl ?_
  refine wa_callV (M' := m_X3_fails) (C := RX3) (o := (some t)) (As := [.int 1]) (st := []) dX3_columnOf_74 ⟨Nat.le_of_ble_eq_true rfl, Nat.le_of_ble_eq_true rfl, nk_X3_fails⟩ q1319 q1321 qs23 q59 q1322 rfl rfl (Nat.zero_le 8) rfl F.1 F.2 (wk_I fun x2 h1 F => ?_)
  exact wa_iret rfl dX3_columnOf_77 F
theorem f_X3_columnOf_78 {D : qD} {Q : Option Value → qH → Prop} {X : String → qH → Prop} (t : Nat) (v2 : Int32) (v3 : Int32) (h : qH) (F : p_F h (some t) 2 37 (.int 0) (fun h1 => ((v2 = 0 → g_R D h1 (some t) 2 15 (fun r2 => a_I D h1 r2 0 v3 (fun x3 => ((¬ x3 = (-1) → g_R D h1 (some t) 2 16 (fun r4 => a_I D h1 r4 0 v3 (fun x5 => Q (some (.int x5)) h1))) ∧ (x3 = (-1) → Q (some (.int (-1))) h1))))) ∧ (¬ v2 = 0 → g_R D h1 (some t) 2 17 (fun r6 => a_I D h1 r6 0 v3 (fun x7 => Q (some (.int x7)) h1)))))) : L_X3_columnOf_78 D Q X t v2 v3 h := by
  show WA D m_X3_columnOf Q X 78 [(0, va_rf (some t)), (2, .int v2), (3, .int v3)] [] h
  refine wa_aload_n (o := (some t)) dX3_columnOf_78 rfl 0 rfl ?_
  refine wa_iconst (v := 0) dX3_columnOf_79 rfl ?_
  refine wa_put (C := RX3) (T := TX3) (N := 38) (ci := 2) (k := 37) tyX3 dX3_columnOf_80 rfl (Nat.le_of_ble_eq_true rfl) in_X3 tyX3_ok nmX3 q1229 q_same_own rfl rfl rfl (p_F_mono F fun h1 F => ?_)
  refine wa_iload_n (x := v2) dX3_columnOf_83 rfl 1 rfl ?_
  refine wa_if_eq (tgt := 96) dX3_columnOf_84 rfl (fun z => ?_) (fun z => ?_)
  · have F := F.1 z
    refine wa_aload_n (o := (some t)) dX3_columnOf_96 rfl 0 rfl ?_
    refine wa_getR (C := RX3) (T := TX3) (N := 38) (ci := 2) (k := 15) dX3_columnOf_97 rfl (Nat.le_of_ble_eq_true rfl) in_X3 q1207 q_same_own (g_R_mono F fun r2 F => ?_)
    refine wa_iload_n (x := v3) dX3_columnOf_100 rfl 2 rfl ?_
    refine wa_iald dX3_columnOf_101 (a_I_mono F fun x3 F => ?_)
    refine wa_iconst (v := -1) dX3_columnOf_102 rfl ?_
    refine wa_icmp_ne (tgt := 110) dX3_columnOf_103 rfl (fun z => ?_) (fun z => ?_)
    · have F := F.1 z
      refine wa_aload_n (o := (some t)) dX3_columnOf_110 rfl 0 rfl ?_
      refine wa_getR (C := RX3) (T := TX3) (N := 38) (ci := 2) (k := 16) dX3_columnOf_111 rfl (Nat.le_of_ble_eq_true rfl) in_X3 q1208 q_same_own (g_R_mono F fun r4 F => ?_)
      refine wa_iload_n (x := v3) dX3_columnOf_114 rfl 2 rfl ?_
      refine wa_iald dX3_columnOf_115 (a_I_mono F fun x5 F => ?_)
      exact wa_iret rfl dX3_columnOf_116 F
    · have F := F.2 z
      refine wa_iconst (v := -1) dX3_columnOf_106 rfl ?_
      refine wa_goto (tgt := 116) dX3_columnOf_107 rfl ?_
      exact wa_iret rfl dX3_columnOf_116 F
  · have F := F.2 z
    refine wa_aload_n (o := (some t)) dX3_columnOf_87 rfl 0 rfl ?_
    refine wa_getR (C := RX3) (T := TX3) (N := 38) (ci := 2) (k := 17) dX3_columnOf_88 rfl (Nat.le_of_ble_eq_true rfl) in_X3 q1209 q_same_own (g_R_mono F fun r6 F => ?_)
    refine wa_iload_n (x := v3) dX3_columnOf_91 rfl 2 rfl ?_
    refine wa_iald dX3_columnOf_92 (a_I_mono F fun x7 F => ?_)
    refine wa_goto (tgt := 116) dX3_columnOf_93 rfl ?_
    exact wa_iret rfl dX3_columnOf_116 F
theorem f_X3_pageOf {D : qD} {Q : Option Value → qH → Prop} {X : String → qH → Prop} (t : Nat) (p0 : Int32) (p1 : Int32) (h : qH) (F : c_I D m_X3_in [.long p0.toInt64, .long 0, .long 3] h X (fun x2 h1 => ((¬ x2 = 0 → (recv D h1 (some t) RX3 ∧ c_V D m_X3_lay [va_rf (some t), .int p0] h1 X (fun h3 => g_I D h3 (some t) 2 14 (fun x4 => c_I D m_X3_in [.long p1.toInt64, .long 0, .long (x4 - 1).toInt64] h3 X (fun x6 h5 => ((¬ x6 = 0 → p_F h5 (some t) 2 37 (.int 0) (fun h7 => (recv D h7 (some t) RX3 ∧ c_I D m_X3_page [va_rf (some t), .int p1] h7 X (fun x9 h8 => Q (some (.int x9)) h8)))) ∧ (x6 = 0 → (recv D h5 (some t) RX3 ∧ c_I D m_X3_fails [va_rf (some t), .int 1] h5 X (fun x11 h10 => Q (some (.int x11)) h10))))))))) ∧ (x2 = 0 → (recv D h1 (some t) RX3 ∧ c_I D m_X3_fails [va_rf (some t), .int 1] h1 X (fun x13 h12 => Q (some (.int x13)) h12)))))) : MW D m_X3_pageOf [va_rf (some t), .int p0, .int p1] h Q X := by
  refine mw_of pl_X3_pageOf rfl _ (Nat.le_of_ble_eq_true rfl) rfl ?_
  refine (show WA D m_X3_pageOf Q X 0 [(0, va_rf (some t)), (1, .int p0), (2, .int p1)] [] h from ?_)
  refine wa_iload_n (x := p0) dX3_pageOf_0 rfl 1 rfl ?_
  refine wa_i2l dX3_pageOf_1 ?_
  refine wa_lconst (v := 0) dX3_pageOf_2 rfl ?_
  refine wa_ldc2 (v := 3) dX3_pageOf_3 q1330 ?_
  refine wa_callS (M' := m_X3_in) (As := [.long p0.toInt64, .long 0, .long 3]) (st := []) dX3_pageOf_6 ⟨Nat.le_of_ble_eq_true rfl, Nat.le_of_ble_eq_true rfl, nk_X3_in⟩ q1316 q1317 q59 q1318 rfl rfl (Nat.zero_le 8) rfl F (wk_I fun x2 h1 F => ?_)
  refine wa_if_ne (tgt := 18) dX3_pageOf_9 rfl (fun z => ?_) (fun z => ?_)
  · have F := F.1 z
    refine wa_aload_n (o := (some t)) dX3_pageOf_18 rfl 0 rfl ?_
    refine wa_iload_n (x := p0) dX3_pageOf_19 rfl 1 rfl ?_
    refine wa_callV (M' := m_X3_lay) (C := RX3) (o := (some t)) (As := [.int p0]) (st := []) dX3_pageOf_20 ⟨Nat.le_of_ble_eq_true rfl, Nat.le_of_ble_eq_true rfl, nk_X3_lay⟩ q1407 q1409 qs33 q59 q1410 rfl rfl (Nat.zero_le 8) rfl F.1 F.2 (wk_V fun h3 F => ?_)
    refine wa_iload_n (x := p1) dX3_pageOf_23 rfl 2 rfl ?_
    refine wa_i2l dX3_pageOf_24 ?_
    refine wa_lconst (v := 0) dX3_pageOf_25 rfl ?_
    refine wa_aload_n (o := (some t)) dX3_pageOf_26 rfl 0 rfl ?_
    refine wa_getI (C := RX3) (T := TX3) (N := 38) (ci := 2) (k := 14) dX3_pageOf_27 rfl (Nat.le_of_ble_eq_true rfl) in_X3 q1206 q_same_own (g_I_mono F fun x4 F => ?_)
    refine wa_iconst (v := 1) dX3_pageOf_30 rfl ?_
    refine wa_isub dX3_pageOf_31 ?_
    refine wa_i2l dX3_pageOf_32 ?_
    refine wa_callS (M' := m_X3_in) (As := [.long p1.toInt64, .long 0, .long (x4 - 1).toInt64]) (st := []) dX3_pageOf_33 ⟨Nat.le_of_ble_eq_true rfl, Nat.le_of_ble_eq_true rfl, nk_X3_in⟩ q1316 q1317 q59 q1318 rfl rfl (Nat.zero_le 8) rfl F (wk_I fun x6 h5 F => ?_)
    refine wa_if_ne (tgt := 45) dX3_pageOf_36 rfl (fun z => ?_) (fun z => ?_)
    · have F := F.1 z
      refine wa_aload_n (o := (some t)) dX3_pageOf_45 rfl 0 rfl ?_
      refine wa_iconst (v := 0) dX3_pageOf_46 rfl ?_
      refine wa_put (C := RX3) (T := TX3) (N := 38) (ci := 2) (k := 37) tyX3 dX3_pageOf_47 rfl (Nat.le_of_ble_eq_true rfl) in_X3 tyX3_ok nmX3 q1229 q_same_own rfl rfl rfl (p_F_mono F fun h7 F => ?_)
      refine wa_aload_n (o := (some t)) dX3_pageOf_50 rfl 0 rfl ?_
      refine wa_iload_n (x := p1) dX3_pageOf_51 rfl 2 rfl ?_
      refine wa_callV (M' := m_X3_page) (C := RX3) (o := (some t)) (As := [.int p1]) (st := []) dX3_pageOf_52 ⟨Nat.le_of_ble_eq_true rfl, Nat.le_of_ble_eq_true rfl, nk_X3_page⟩ q1454 q1456 qs43 q59 q1457 rfl rfl (Nat.zero_le 8) rfl F.1 F.2 (wk_I fun x9 h8 F => ?_)
      exact wa_iret rfl dX3_pageOf_55 F
    · have F := F.2 z
      refine wa_aload_n (o := (some t)) dX3_pageOf_39 rfl 0 rfl ?_
      refine wa_iconst (v := 1) dX3_pageOf_40 rfl ?_
      refine wa_callV (M' := m_X3_fails) (C := RX3) (o := (some t)) (As := [.int 1]) (st := []) dX3_pageOf_41 ⟨Nat.le_of_ble_eq_true rfl, Nat.le_of_ble_eq_true rfl, nk_X3_fails⟩ q1319 q1321 qs23 q59 q1322 rfl rfl (Nat.zero_le 8) rfl F.1 F.2 (wk_I fun x11 h10 F => ?_)
      exact wa_iret rfl dX3_pageOf_44 F
  · have F := F.2 z
    refine wa_aload_n (o := (some t)) dX3_pageOf_12 rfl 0 rfl ?_
    refine wa_iconst (v := 1) dX3_pageOf_13 rfl ?_
    refine wa_callV (M' := m_X3_fails) (C := RX3) (o := (some t)) (As := [.int 1]) (st := []) dX3_pageOf_14 ⟨Nat.le_of_ble_eq_true rfl, Nat.le_of_ble_eq_true rfl, nk_X3_fails⟩ q1319 q1321 qs23 q59 q1322 rfl rfl (Nat.zero_le 8) rfl F.1 F.2 (wk_I fun x13 h12 F => ?_)
    exact wa_iret rfl dX3_pageOf_17 F
theorem f_X3_pages {D : qD} {Q : Option Value → qH → Prop} {X : String → qH → Prop} (t : Nat) (p0 : Int32) (h : qH) (F : c_I D m_X3_in [.long p0.toInt64, .long 0, .long 3] h X (fun x2 h1 => ((¬ x2 = 0 → p_F h1 (some t) 2 37 (.int 0) (fun h3 => (recv D h3 (some t) RX3 ∧ c_V D m_X3_lay [va_rf (some t), .int p0] h3 X (fun h4 => g_I D h4 (some t) 2 24 (fun x5 => ((x5 = 0 → Q (some (.int (-1))) h4) ∧ (¬ x5 = 0 → g_I D h4 (some t) 2 23 (fun x6 => g_I D h4 (some t) 2 22 (fun x7 => (recv D h4 (some t) RX3 ∧ c_I D m_X3_pagesOf [va_rf (some t), .int x7] h4 X (fun x9 h8 => Q (some (.int (x6 + x9))) h8))))))))))) ∧ (x2 = 0 → (recv D h1 (some t) RX3 ∧ c_I D m_X3_fails [va_rf (some t), .int 1] h1 X (fun x11 h10 => Q (some (.int x11)) h10)))))) : MW D m_X3_pages [va_rf (some t), .int p0] h Q X := by
  refine mw_of pl_X3_pages rfl _ (Nat.le_of_ble_eq_true rfl) rfl ?_
  refine (show WA D m_X3_pages Q X 0 [(0, va_rf (some t)), (1, .int p0)] [] h from ?_)
  refine wa_iload_n (x := p0) dX3_pages_0 rfl 1 rfl ?_
  refine wa_i2l dX3_pages_1 ?_
  refine wa_lconst (v := 0) dX3_pages_2 rfl ?_
  refine wa_ldc2 (v := 3) dX3_pages_3 q1330 ?_
  refine wa_callS (M' := m_X3_in) (As := [.long p0.toInt64, .long 0, .long 3]) (st := []) dX3_pages_6 ⟨Nat.le_of_ble_eq_true rfl, Nat.le_of_ble_eq_true rfl, nk_X3_in⟩ q1316 q1317 q59 q1318 rfl rfl (Nat.zero_le 8) rfl F (wk_I fun x2 h1 F => ?_)
  refine wa_if_ne (tgt := 18) dX3_pages_9 rfl (fun z => ?_) (fun z => ?_)
  · have F := F.1 z
    refine wa_aload_n (o := (some t)) dX3_pages_18 rfl 0 rfl ?_
    refine wa_iconst (v := 0) dX3_pages_19 rfl ?_
    refine wa_put (C := RX3) (T := TX3) (N := 38) (ci := 2) (k := 37) tyX3 dX3_pages_20 rfl (Nat.le_of_ble_eq_true rfl) in_X3 tyX3_ok nmX3 q1229 q_same_own rfl rfl rfl (p_F_mono F fun h3 F => ?_)
    refine wa_aload_n (o := (some t)) dX3_pages_23 rfl 0 rfl ?_
    refine wa_iload_n (x := p0) dX3_pages_24 rfl 1 rfl ?_
    refine wa_callV (M' := m_X3_lay) (C := RX3) (o := (some t)) (As := [.int p0]) (st := []) dX3_pages_25 ⟨Nat.le_of_ble_eq_true rfl, Nat.le_of_ble_eq_true rfl, nk_X3_lay⟩ q1407 q1409 qs33 q59 q1410 rfl rfl (Nat.zero_le 8) rfl F.1 F.2 (wk_V fun h4 F => ?_)
    refine wa_aload_n (o := (some t)) dX3_pages_28 rfl 0 rfl ?_
    refine wa_getI (C := RX3) (T := TX3) (N := 38) (ci := 2) (k := 24) dX3_pages_29 rfl (Nat.le_of_ble_eq_true rfl) in_X3 q1216 q_same_own (g_I_mono F fun x5 F => ?_)
    refine wa_if_eq (tgt := 51) dX3_pages_32 rfl (fun z => ?_) (fun z => ?_)
    · have F := F.1 z
      refine wa_iconst (v := -1) dX3_pages_51 rfl ?_
      exact wa_iret rfl dX3_pages_52 F
    · have F := F.2 z
      refine wa_aload_n (o := (some t)) dX3_pages_35 rfl 0 rfl ?_
      refine wa_getI (C := RX3) (T := TX3) (N := 38) (ci := 2) (k := 23) dX3_pages_36 rfl (Nat.le_of_ble_eq_true rfl) in_X3 q1215 q_same_own (g_I_mono F fun x6 F => ?_)
      refine wa_aload_n (o := (some t)) dX3_pages_39 rfl 0 rfl ?_
      refine wa_aload_n (o := (some t)) dX3_pages_40 rfl 0 rfl ?_
      refine wa_getI (C := RX3) (T := TX3) (N := 38) (ci := 2) (k := 22) dX3_pages_41 rfl (Nat.le_of_ble_eq_true rfl) in_X3 q1214 q_same_own (g_I_mono F fun x7 F => ?_)
      refine wa_callV (M' := m_X3_pagesOf) (C := RX3) (o := (some t)) (As := [.int x7]) (st := [.int x6]) dX3_pages_44 ⟨Nat.le_of_ble_eq_true rfl, Nat.le_of_ble_eq_true rfl, nk_X3_pagesOf⟩ q1446 q1448 qs42 q59 q1449 rfl rfl (q_cs_le (q_csi q_cs0) (Nat.le_of_ble_eq_true rfl)) rfl F.1 F.2 (wk_I fun x9 h8 F => ?_)
      refine wa_iadd dX3_pages_47 ?_
      refine wa_goto (tgt := 52) dX3_pages_48 rfl ?_
      exact wa_iret rfl dX3_pages_52 F
  · have F := F.2 z
    refine wa_aload_n (o := (some t)) dX3_pages_12 rfl 0 rfl ?_
    refine wa_iconst (v := 1) dX3_pages_13 rfl ?_
    refine wa_callV (M' := m_X3_fails) (C := RX3) (o := (some t)) (As := [.int 1]) (st := []) dX3_pages_14 ⟨Nat.le_of_ble_eq_true rfl, Nat.le_of_ble_eq_true rfl, nk_X3_fails⟩ q1319 q1321 qs23 q59 q1322 rfl rfl (Nat.zero_le 8) rfl F.1 F.2 (wk_I fun x11 h10 F => ?_)
    exact wa_iret rfl dX3_pages_17 F
theorem f_X3_front {D : qD} {Q : Option Value → qH → Prop} {X : String → qH → Prop} (t : Nat) (p0 : Int32) (h : qH) (F : c_I D m_X3_in [.long p0.toInt64, .long 0, .long 3] h X (fun x2 h1 => ((¬ x2 = 0 → p_F h1 (some t) 2 37 (.int 0) (fun h3 => (recv D h3 (some t) RX3 ∧ c_V D m_X3_lay [va_rf (some t), .int p0] h3 X (fun h4 => g_I D h4 (some t) 2 24 (fun x5 => ((x5 = 0 → Q (some (.int (-1))) h4) ∧ (¬ x5 = 0 → g_I D h4 (some t) 2 23 (fun x6 => Q (some (.int x6)) h4)))))))) ∧ (x2 = 0 → (recv D h1 (some t) RX3 ∧ c_I D m_X3_fails [va_rf (some t), .int 1] h1 X (fun x8 h7 => Q (some (.int x8)) h7)))))) : MW D m_X3_front [va_rf (some t), .int p0] h Q X := by
  refine mw_of pl_X3_front rfl _ (Nat.le_of_ble_eq_true rfl) rfl ?_
  refine (show WA D m_X3_front Q X 0 [(0, va_rf (some t)), (1, .int p0)] [] h from ?_)
  refine wa_iload_n (x := p0) dX3_front_0 rfl 1 rfl ?_
  refine wa_i2l dX3_front_1 ?_
  refine wa_lconst (v := 0) dX3_front_2 rfl ?_
  refine wa_ldc2 (v := 3) dX3_front_3 q1330 ?_
  refine wa_callS (M' := m_X3_in) (As := [.long p0.toInt64, .long 0, .long 3]) (st := []) dX3_front_6 ⟨Nat.le_of_ble_eq_true rfl, Nat.le_of_ble_eq_true rfl, nk_X3_in⟩ q1316 q1317 q59 q1318 rfl rfl (Nat.zero_le 8) rfl F (wk_I fun x2 h1 F => ?_)
  refine wa_if_ne (tgt := 18) dX3_front_9 rfl (fun z => ?_) (fun z => ?_)
  · have F := F.1 z
    refine wa_aload_n (o := (some t)) dX3_front_18 rfl 0 rfl ?_
    refine wa_iconst (v := 0) dX3_front_19 rfl ?_
    refine wa_put (C := RX3) (T := TX3) (N := 38) (ci := 2) (k := 37) tyX3 dX3_front_20 rfl (Nat.le_of_ble_eq_true rfl) in_X3 tyX3_ok nmX3 q1229 q_same_own rfl rfl rfl (p_F_mono F fun h3 F => ?_)
    refine wa_aload_n (o := (some t)) dX3_front_23 rfl 0 rfl ?_
    refine wa_iload_n (x := p0) dX3_front_24 rfl 1 rfl ?_
    refine wa_callV (M' := m_X3_lay) (C := RX3) (o := (some t)) (As := [.int p0]) (st := []) dX3_front_25 ⟨Nat.le_of_ble_eq_true rfl, Nat.le_of_ble_eq_true rfl, nk_X3_lay⟩ q1407 q1409 qs33 q59 q1410 rfl rfl (Nat.zero_le 8) rfl F.1 F.2 (wk_V fun h4 F => ?_)
    refine wa_aload_n (o := (some t)) dX3_front_28 rfl 0 rfl ?_
    refine wa_getI (C := RX3) (T := TX3) (N := 38) (ci := 2) (k := 24) dX3_front_29 rfl (Nat.le_of_ble_eq_true rfl) in_X3 q1216 q_same_own (g_I_mono F fun x5 F => ?_)
    refine wa_if_eq (tgt := 42) dX3_front_32 rfl (fun z => ?_) (fun z => ?_)
    · have F := F.1 z
      refine wa_iconst (v := -1) dX3_front_42 rfl ?_
      exact wa_iret rfl dX3_front_43 F
    · have F := F.2 z
      refine wa_aload_n (o := (some t)) dX3_front_35 rfl 0 rfl ?_
      refine wa_getI (C := RX3) (T := TX3) (N := 38) (ci := 2) (k := 23) dX3_front_36 rfl (Nat.le_of_ble_eq_true rfl) in_X3 q1215 q_same_own (g_I_mono F fun x6 F => ?_)
      refine wa_goto (tgt := 43) dX3_front_39 rfl ?_
      exact wa_iret rfl dX3_front_43 F
  · have F := F.2 z
    refine wa_aload_n (o := (some t)) dX3_front_12 rfl 0 rfl ?_
    refine wa_iconst (v := 1) dX3_front_13 rfl ?_
    refine wa_callV (M' := m_X3_fails) (C := RX3) (o := (some t)) (As := [.int 1]) (st := []) dX3_front_14 ⟨Nat.le_of_ble_eq_true rfl, Nat.le_of_ble_eq_true rfl, nk_X3_fails⟩ q1319 q1321 qs23 q59 q1322 rfl rfl (Nat.zero_le 8) rfl F.1 F.2 (wk_I fun x8 h7 F => ?_)
    exact wa_iret rfl dX3_front_17 F
def L_X3_entry_16 (D : qD) (Q : Option Value → qH → Prop) (X : String → qH → Prop) (t : Nat) (h : qH) : Prop := WA D m_X3_entry Q X 16 [(0, va_rf (some t))] [] h
def L_X3_entry_40 (D : qD) (Q : Option Value → qH → Prop) (X : String → qH → Prop) (t : Nat) (v2 : Int32) (v3 : Int32) (v4 : Int32) (v5 : Int32) (h : qH) : Prop := WA D m_X3_entry Q X 40 [(0, va_rf (some t)), (2, .int v2), (3, .int v3), (4, .int v4), (5, .int v5)] [] h
def L_X3_entry_80 (D : qD) (Q : Option Value → qH → Prop) (X : String → qH → Prop) (t : Nat) (v2 : Int32) (v3 : Int32) (v4 : Int32) (v5 : Int32) (h : qH) : Prop := WA D m_X3_entry Q X 80 [(0, va_rf (some t)), (2, .int v2), (3, .int v3), (4, .int v4), (5, .int v5)] [] h
def L_X3_entry_75 (D : qD) (Q : Option Value → qH → Prop) (X : String → qH → Prop) (t : Nat) (v2 : Int32) (v3 : Int32) (v5 : Int32) (s0 : Int32) (h : qH) : Prop := WA D m_X3_entry Q X 75 [(0, va_rf (some t)), (2, .int v2), (3, .int v3), (5, .int v5)] [.int s0] h
theorem f_X3_entry {D : qD} {Q : Option Value → qH → Prop} {X : String → qH → Prop} (t : Nat) (p0 : Int32) (p1 : Int32) (h : qH) (F : c_I D m_X3_in [.long p0.toInt64, .long 0, .long 3] h X (fun x2 h1 => ((x2 = 0 → L_X3_entry_16 D Q X t h1) ∧ (¬ x2 = 0 → ((0 ≤ p1 → p_F h1 (some t) 2 37 (.int 0) (fun h3 => (recv D h3 (some t) RX3 ∧ c_V D m_X3_lay [va_rf (some t), .int p0] h3 X (fun h4 => L_X3_entry_40 D Q X t p1 0 (-1) 0 h4)))) ∧ (¬ 0 ≤ p1 → L_X3_entry_16 D Q X t h1)))))) : MW D m_X3_entry [va_rf (some t), .int p0, .int p1] h Q X := by
  refine mw_of pl_X3_entry rfl _ (Nat.le_of_ble_eq_true rfl) rfl ?_
  refine (show WA D m_X3_entry Q X 0 [(0, va_rf (some t)), (1, .int p0), (2, .int p1)] [] h from ?_)
  refine wa_iload_n (x := p0) dX3_entry_0 rfl 1 rfl ?_
  refine wa_i2l dX3_entry_1 ?_
  refine wa_lconst (v := 0) dX3_entry_2 rfl ?_
  refine wa_ldc2 (v := 3) dX3_entry_3 q1330 ?_
  refine wa_callS (M' := m_X3_in) (As := [.long p0.toInt64, .long 0, .long 3]) (st := []) dX3_entry_6 ⟨Nat.le_of_ble_eq_true rfl, Nat.le_of_ble_eq_true rfl, nk_X3_in⟩ q1316 q1317 q59 q1318 rfl rfl (Nat.zero_le 8) rfl F (wk_I fun x2 h1 F => ?_)
  refine wa_if_eq (tgt := 16) dX3_entry_9 rfl (fun z => ?_) (fun z => ?_)
  · have F := F.1 z
    exact wa_sub [0] rfl F
  · have F := F.2 z
    refine wa_iload_n (x := p1) dX3_entry_12 rfl 2 rfl ?_
    refine wa_if_ge (tgt := 22) dX3_entry_13 rfl (fun z => ?_) (fun z => ?_)
    · have F := F.1 z
      refine wa_aload_n (o := (some t)) dX3_entry_22 rfl 0 rfl ?_
      refine wa_iconst (v := 0) dX3_entry_23 rfl ?_
      refine wa_put (C := RX3) (T := TX3) (N := 38) (ci := 2) (k := 37) tyX3 dX3_entry_24 rfl (Nat.le_of_ble_eq_true rfl) in_X3 tyX3_ok nmX3 q1229 q_same_own rfl rfl rfl (p_F_mono F fun h3 F => ?_)
      refine wa_aload_n (o := (some t)) dX3_entry_27 rfl 0 rfl ?_
      refine wa_iload_n (x := p0) dX3_entry_28 rfl 1 rfl ?_
      refine wa_callV (M' := m_X3_lay) (C := RX3) (o := (some t)) (As := [.int p0]) (st := []) dX3_entry_29 ⟨Nat.le_of_ble_eq_true rfl, Nat.le_of_ble_eq_true rfl, nk_X3_lay⟩ q1407 q1409 qs33 q59 q1410 rfl rfl (Nat.zero_le 8) rfl F.1 F.2 (wk_V fun h4 F => ?_)
      refine wa_iconst (v := 0) dX3_entry_32 rfl ?_
      refine ws_istore_n (lv' := [(3, .int 0), (0, va_rf (some t)), (1, .int p0), (2, .int p1)]) dX3_entry_33 rfl (Nat.le_of_ble_eq_true rfl) (q_cr (q_ci (q_ci q_cn))) rfl ?_
      refine wa_iconst (v := -1) dX3_entry_34 rfl ?_
      refine ws_istore (lv' := [(4, .int (-1)), (3, .int 0), (0, va_rf (some t)), (1, .int p0), (2, .int p1)]) dX3_entry_35 (Nat.le_of_ble_eq_true rfl) (q_ci (q_cr (q_ci (q_ci q_cn)))) rfl ?_
      refine wa_iconst (v := 0) dX3_entry_37 rfl ?_
      refine ws_istore (lv' := [(5, .int 0), (4, .int (-1)), (3, .int 0), (0, va_rf (some t)), (1, .int p0), (2, .int p1)]) dX3_entry_38 (Nat.le_of_ble_eq_true rfl) (q_ci (q_ci (q_cr (q_ci (q_ci q_cn))))) rfl ?_
      exact wa_sub [3, 5, 2, 1, 0] rfl F
    · have F := F.2 z
      exact wa_sub [0] rfl F
theorem f_X3_entry_16 {D : qD} {Q : Option Value → qH → Prop} {X : String → qH → Prop} (t : Nat) (h : qH) (F : (recv D h (some t) RX3 ∧ c_I D m_X3_fails [va_rf (some t), .int 1] h X (fun x2 h1 => Q (some (.int x2)) h1))) : L_X3_entry_16 D Q X t h := by
  show WA D m_X3_entry Q X 16 [(0, va_rf (some t))] [] h
  refine wa_aload_n (o := (some t)) dX3_entry_16 rfl 0 rfl ?_
  refine wa_iconst (v := 1) dX3_entry_17 rfl ?_
  refine wa_callV (M' := m_X3_fails) (C := RX3) (o := (some t)) (As := [.int 1]) (st := []) dX3_entry_18 ⟨Nat.le_of_ble_eq_true rfl, Nat.le_of_ble_eq_true rfl, nk_X3_fails⟩ q1319 q1321 qs23 q59 q1322 rfl rfl (Nat.zero_le 8) rfl F.1 F.2 (wk_I fun x2 h1 F => ?_)
  exact wa_iret rfl dX3_entry_21 F
theorem f_X3_entry_40 {D : qD} {Q : Option Value → qH → Prop} {X : String → qH → Prop} (t : Nat) (v2 : Int32) (v3 : Int32) (v4 : Int32) (v5 : Int32) (h : qH) (F : g_I D h (some t) 2 14 (fun x1 => ((x1 ≤ v5 → Q (some (.int v4)) h) ∧ (¬ x1 ≤ v5 → g_R D h (some t) 2 19 (fun r2 => a_I D h r2 1 v5 (fun x3 => ((x3 = 0 → L_X3_entry_80 D Q X t v2 v3 v4 v5 h) ∧ (¬ x3 = 0 → ((¬ v3 = v2 → L_X3_entry_75 D Q X t v2 v3 v5 v4 h) ∧ (v3 = v2 → (recv D h (some t) RX3 ∧ c_I D m_X3_page [va_rf (some t), .int v5] h X (fun x5 h4 => L_X3_entry_75 D Q X t v2 v3 v5 x5 h4)))))))))))) : L_X3_entry_40 D Q X t v2 v3 v4 v5 h := by
  show WA D m_X3_entry Q X 40 [(0, va_rf (some t)), (2, .int v2), (3, .int v3), (4, .int v4), (5, .int v5)] [] h
  refine wa_iload (x := v5) dX3_entry_40 4 rfl ?_
  refine wa_aload_n (o := (some t)) dX3_entry_42 rfl 0 rfl ?_
  refine wa_getI (C := RX3) (T := TX3) (N := 38) (ci := 2) (k := 14) dX3_entry_43 rfl (Nat.le_of_ble_eq_true rfl) in_X3 q1206 q_same_own (g_I_mono F fun x1 F => ?_)
  refine wa_icmp_ge (tgt := 86) dX3_entry_46 rfl (fun z => ?_) (fun z => ?_)
  · have F := F.1 z
    refine wa_iload (x := v4) dX3_entry_86 3 rfl ?_
    exact wa_iret rfl dX3_entry_88 F
  · have F := F.2 z
    refine wa_aload_n (o := (some t)) dX3_entry_49 rfl 0 rfl ?_
    refine wa_getR (C := RX3) (T := TX3) (N := 38) (ci := 2) (k := 19) dX3_entry_50 rfl (Nat.le_of_ble_eq_true rfl) in_X3 q1211 q_same_own (g_R_mono F fun r2 F => ?_)
    refine wa_iload (x := v5) dX3_entry_53 4 rfl ?_
    refine wa_zald dX3_entry_55 (a_I_mono F fun x3 F => ?_)
    refine wa_if_eq (tgt := 80) dX3_entry_56 rfl (fun z => ?_) (fun z => ?_)
    · have F := F.1 z
      exact F
    · have F := F.2 z
      refine wa_iload_n (x := v3) dX3_entry_59 rfl 2 rfl ?_
      refine wa_iload_n (x := v2) dX3_entry_60 rfl 1 rfl ?_
      refine wa_icmp_ne (tgt := 73) dX3_entry_61 rfl (fun z => ?_) (fun z => ?_)
      · have F := F.1 z
        refine wa_iload (x := v4) dX3_entry_73 3 rfl ?_
        exact wa_sub [0, 1, 2, 4] rfl F
      · have F := F.2 z
        refine wa_aload_n (o := (some t)) dX3_entry_64 rfl 0 rfl ?_
        refine wa_iload (x := v5) dX3_entry_65 4 rfl ?_
        refine wa_callV (M' := m_X3_page) (C := RX3) (o := (some t)) (As := [.int v5]) (st := []) dX3_entry_67 ⟨Nat.le_of_ble_eq_true rfl, Nat.le_of_ble_eq_true rfl, nk_X3_page⟩ q1454 q1456 qs43 q59 q1457 rfl rfl (Nat.zero_le 8) rfl F.1 F.2 (wk_I fun x5 h4 F => ?_)
        refine wa_goto (tgt := 75) dX3_entry_70 rfl ?_
        exact wa_sub [0, 1, 2, 4] rfl F
theorem f_X3_entry_80 {D : qD} {Q : Option Value → qH → Prop} {X : String → qH → Prop} (t : Nat) (v2 : Int32) (v3 : Int32) (v4 : Int32) (v5 : Int32) (h : qH) (F : L_X3_entry_40 D Q X t v2 v3 v4 (v5 + 1) h) : L_X3_entry_80 D Q X t v2 v3 v4 v5 h := by
  show WA D m_X3_entry Q X 80 [(0, va_rf (some t)), (2, .int v2), (3, .int v3), (4, .int v4), (5, .int v5)] [] h
  refine ws_iinc (j := 4) (v := (v5 + 1)) (lv' := [(5, .int (v5 + 1)), (0, va_rf (some t)), (2, .int v2), (3, .int v3), (4, .int v4)]) dX3_entry_80 rfl rfl (Nat.le_of_ble_eq_true rfl) (q_cr (q_ci (q_ci (q_ci (q_ci q_cn))))) rfl ?_
  refine wa_goto (tgt := 40) dX3_entry_83 rfl ?_
  exact wa_sub [1, 2, 3, 4, 0] rfl F
theorem f_X3_entry_75 {D : qD} {Q : Option Value → qH → Prop} {X : String → qH → Prop} (t : Nat) (v2 : Int32) (v3 : Int32) (v5 : Int32) (s0 : Int32) (h : qH) (F : L_X3_entry_80 D Q X t v2 (v3 + 1) s0 v5 h) : L_X3_entry_75 D Q X t v2 v3 v5 s0 h := by
  show WA D m_X3_entry Q X 75 [(0, va_rf (some t)), (2, .int v2), (3, .int v3), (5, .int v5)] [.int s0] h
  refine ws_istore (lv' := [(4, .int s0), (0, va_rf (some t)), (2, .int v2), (3, .int v3), (5, .int v5)]) dX3_entry_75 (Nat.le_of_ble_eq_true rfl) (q_cr (q_ci (q_ci (q_ci q_cn)))) rfl ?_
  refine ws_iinc (j := 3) (v := (v3 + 1)) (lv' := [(3, .int (v3 + 1)), (4, .int s0), (0, va_rf (some t)), (2, .int v2), (5, .int v5)]) dX3_entry_77 rfl rfl (Nat.le_of_ble_eq_true rfl) (q_ci (q_cr (q_ci (q_ci (q_ci q_cn))))) rfl ?_
  exact wa_sub [2, 3, 0, 1, 4] rfl F
def L_X3_index_28 (D : qD) (Q : Option Value → qH → Prop) (X : String → qH → Prop) (t : Nat) (h : qH) : Prop := WA D m_X3_index Q X 28 [(0, va_rf (some t))] [] h
def L_X3_index_66 (D : qD) (Q : Option Value → qH → Prop) (X : String → qH → Prop) (t : Nat) (v2 : Int32) (v3 : Int32) (v4 : Int32) (h : qH) : Prop := WA D m_X3_index Q X 66 [(0, va_rf (some t)), (2, .int v2), (3, .int v3), (4, .int v4)] [] h
def L_X3_index_91 (D : qD) (Q : Option Value → qH → Prop) (X : String → qH → Prop) (t : Nat) (v2 : Int32) (v3 : Int32) (v4 : Int32) (h : qH) : Prop := WA D m_X3_index Q X 91 [(0, va_rf (some t)), (2, .int v2), (3, .int v3), (4, .int v4)] [] h
def L_X3_index_139 (D : qD) (Q : Option Value → qH → Prop) (X : String → qH → Prop) (t : Nat) (v3 : Int32) (v4 : Int32) (v5 : Int32) (h : qH) : Prop := WA D m_X3_index Q X 139 [(0, va_rf (some t)), (3, .int v3), (4, .int v4), (5, .int v5)] [] h
def L_X3_index_127 (D : qD) (Q : Option Value → qH → Prop) (X : String → qH → Prop) (t : Nat) (v2 : Int32) (v3 : Int32) (v4 : Int32) (h : qH) : Prop := WA D m_X3_index Q X 127 [(0, va_rf (some t)), (2, .int v2), (3, .int v3), (4, .int v4)] [] h
def L_X3_index_151 (D : qD) (Q : Option Value → qH → Prop) (X : String → qH → Prop) (t : Nat) (v3 : Int32) (v4 : Int32) (v5 : Int32) (v6 : Int32) (h : qH) : Prop := WA D m_X3_index Q X 151 [(0, va_rf (some t)), (3, .int v3), (4, .int v4), (5, .int v5), (6, .int v6)] [] h
def L_X3_index_187 (D : qD) (Q : Option Value → qH → Prop) (X : String → qH → Prop) (t : Nat) (v3 : Int32) (v4 : Int32) (v5 : Int32) (v6 : Int32) (h : qH) : Prop := WA D m_X3_index Q X 187 [(0, va_rf (some t)), (3, .int v3), (4, .int v4), (5, .int v5), (6, .int v6)] [] h
def L_X3_index_231 (D : qD) (Q : Option Value → qH → Prop) (X : String → qH → Prop) (t : Nat) (v3 : Int32) (v4 : Int32) (v5 : Int32) (v6 : Int32) (h : qH) : Prop := WA D m_X3_index Q X 231 [(0, va_rf (some t)), (3, .int v3), (4, .int v4), (5, .int v5), (6, .int v6)] [] h
def L_X3_index_248 (D : qD) (Q : Option Value → qH → Prop) (X : String → qH → Prop) (t : Nat) (v3 : Int32) (v5 : Int32) (v6 : Int32) (s0 : Int32) (s1 : Int32) (h : qH) : Prop := WA D m_X3_index Q X 248 [(0, va_rf (some t)), (3, .int v3), (5, .int v5), (6, .int v6)] [.int s0, .int s1] h
def L_X3_index_271 (D : qD) (Q : Option Value → qH → Prop) (X : String → qH → Prop) (t : Nat) (v3 : Int32) (v4 : Int32) (s0 : Int32) (h : qH) : Prop := WA D m_X3_index Q X 271 [(0, va_rf (some t)), (3, .int v3), (4, .int v4)] [.int s0] h
theorem f_X3_index {D : qD} {Q : Option Value → qH → Prop} {X : String → qH → Prop} (t : Nat) (p0 : Int32) (p1 : Int32) (p2 : Int32) (h : qH) (F : c_I D m_X3_in [.long p0.toInt64, .long 0, .long 3] h X (fun x2 h1 => ((x2 = 0 → L_X3_index_28 D Q X t h1) ∧ (¬ x2 = 0 → c_I D m_X3_in [.long p1.toInt64, .long 0, .long 9] h1 X (fun x4 h3 => ((x4 = 0 → L_X3_index_28 D Q X t h3) ∧ (¬ x4 = 0 → ((0 ≤ p2 → p_F h3 (some t) 2 37 (.int 0) (fun h5 => (recv D h5 (some t) RX3 ∧ c_V D m_X3_lay [va_rf (some t), .int p0] h5 X (fun h6 => g_R D h6 (some t) 2 11 (fun r7 => a_I D h6 r7 0 p1 (fun x8 => ((¬ x8 = (-1) → Q (some (.int (-1))) h6) ∧ (x8 = (-1) → g_I D h6 (some t) 2 24 (fun x9 => ((¬ x9 = 0 → L_X3_index_66 D Q X t p1 p2 0 h6) ∧ (x9 = 0 → Q (some (.int (-1))) h6))))))))))) ∧ (¬ 0 ≤ p2 → L_X3_index_28 D Q X t h3))))))))) : MW D m_X3_index [va_rf (some t), .int p0, .int p1, .int p2] h Q X := by
  refine mw_of pl_X3_index rfl _ (Nat.le_of_ble_eq_true rfl) rfl ?_
  refine (show WA D m_X3_index Q X 0 [(0, va_rf (some t)), (1, .int p0), (2, .int p1), (3, .int p2)] [] h from ?_)
  refine wa_iload_n (x := p0) dX3_index_0 rfl 1 rfl ?_
  refine wa_i2l dX3_index_1 ?_
  refine wa_lconst (v := 0) dX3_index_2 rfl ?_
  refine wa_ldc2 (v := 3) dX3_index_3 q1330 ?_
  refine wa_callS (M' := m_X3_in) (As := [.long p0.toInt64, .long 0, .long 3]) (st := []) dX3_index_6 ⟨Nat.le_of_ble_eq_true rfl, Nat.le_of_ble_eq_true rfl, nk_X3_in⟩ q1316 q1317 q59 q1318 rfl rfl (Nat.zero_le 8) rfl F (wk_I fun x2 h1 F => ?_)
  refine wa_if_eq (tgt := 28) dX3_index_9 rfl (fun z => ?_) (fun z => ?_)
  · have F := F.1 z
    exact wa_sub [0] rfl F
  · have F := F.2 z
    refine wa_iload_n (x := p1) dX3_index_12 rfl 2 rfl ?_
    refine wa_i2l dX3_index_13 ?_
    refine wa_lconst (v := 0) dX3_index_14 rfl ?_
    refine wa_ldc2 (v := 9) dX3_index_15 q1329 ?_
    refine wa_callS (M' := m_X3_in) (As := [.long p1.toInt64, .long 0, .long 9]) (st := []) dX3_index_18 ⟨Nat.le_of_ble_eq_true rfl, Nat.le_of_ble_eq_true rfl, nk_X3_in⟩ q1316 q1317 q59 q1318 rfl rfl (Nat.zero_le 8) rfl F (wk_I fun x4 h3 F => ?_)
    refine wa_if_eq (tgt := 28) dX3_index_21 rfl (fun z => ?_) (fun z => ?_)
    · have F := F.1 z
      exact wa_sub [0] rfl F
    · have F := F.2 z
      refine wa_iload_n (x := p2) dX3_index_24 rfl 3 rfl ?_
      refine wa_if_ge (tgt := 34) dX3_index_25 rfl (fun z => ?_) (fun z => ?_)
      · have F := F.1 z
        refine wa_aload_n (o := (some t)) dX3_index_34 rfl 0 rfl ?_
        refine wa_iconst (v := 0) dX3_index_35 rfl ?_
        refine wa_put (C := RX3) (T := TX3) (N := 38) (ci := 2) (k := 37) tyX3 dX3_index_36 rfl (Nat.le_of_ble_eq_true rfl) in_X3 tyX3_ok nmX3 q1229 q_same_own rfl rfl rfl (p_F_mono F fun h5 F => ?_)
        refine wa_aload_n (o := (some t)) dX3_index_39 rfl 0 rfl ?_
        refine wa_iload_n (x := p0) dX3_index_40 rfl 1 rfl ?_
        refine wa_callV (M' := m_X3_lay) (C := RX3) (o := (some t)) (As := [.int p0]) (st := []) dX3_index_41 ⟨Nat.le_of_ble_eq_true rfl, Nat.le_of_ble_eq_true rfl, nk_X3_lay⟩ q1407 q1409 qs33 q59 q1410 rfl rfl (Nat.zero_le 8) rfl F.1 F.2 (wk_V fun h6 F => ?_)
        refine wa_aload_n (o := (some t)) dX3_index_44 rfl 0 rfl ?_
        refine wa_getR (C := RX3) (T := TX3) (N := 38) (ci := 2) (k := 11) dX3_index_45 rfl (Nat.le_of_ble_eq_true rfl) in_X3 q1203 q_same_own (g_R_mono F fun r7 F => ?_)
        refine wa_iload_n (x := p1) dX3_index_48 rfl 2 rfl ?_
        refine wa_iald dX3_index_49 (a_I_mono F fun x8 F => ?_)
        refine wa_iconst (v := -1) dX3_index_50 rfl ?_
        refine wa_icmp_ne (tgt := 61) dX3_index_51 rfl (fun z => ?_) (fun z => ?_)
        · have F := F.1 z
          refine wa_iconst (v := -1) dX3_index_61 rfl ?_
          exact wa_iret rfl dX3_index_62 F
        · have F := F.2 z
          refine wa_aload_n (o := (some t)) dX3_index_54 rfl 0 rfl ?_
          refine wa_getI (C := RX3) (T := TX3) (N := 38) (ci := 2) (k := 24) dX3_index_55 rfl (Nat.le_of_ble_eq_true rfl) in_X3 q1216 q_same_own (g_I_mono F fun x9 F => ?_)
          refine wa_if_ne (tgt := 63) dX3_index_58 rfl (fun z => ?_) (fun z => ?_)
          · have F := F.1 z
            refine wa_iconst (v := 0) dX3_index_63 rfl ?_
            refine ws_istore (lv' := [(4, .int 0), (0, va_rf (some t)), (1, .int p0), (2, .int p1), (3, .int p2)]) dX3_index_64 (Nat.le_of_ble_eq_true rfl) (q_cr (q_ci (q_ci (q_ci q_cn)))) rfl ?_
            exact wa_sub [1, 3, 4, 0] rfl F
          · have F := F.2 z
            refine wa_iconst (v := -1) dX3_index_61 rfl ?_
            exact wa_iret rfl dX3_index_62 F
      · have F := F.2 z
        exact wa_sub [0] rfl F
theorem f_X3_index_28 {D : qD} {Q : Option Value → qH → Prop} {X : String → qH → Prop} (t : Nat) (h : qH) (F : (recv D h (some t) RX3 ∧ c_I D m_X3_fails [va_rf (some t), .int 1] h X (fun x2 h1 => Q (some (.int x2)) h1))) : L_X3_index_28 D Q X t h := by
  show WA D m_X3_index Q X 28 [(0, va_rf (some t))] [] h
  refine wa_aload_n (o := (some t)) dX3_index_28 rfl 0 rfl ?_
  refine wa_iconst (v := 1) dX3_index_29 rfl ?_
  refine wa_callV (M' := m_X3_fails) (C := RX3) (o := (some t)) (As := [.int 1]) (st := []) dX3_index_30 ⟨Nat.le_of_ble_eq_true rfl, Nat.le_of_ble_eq_true rfl, nk_X3_fails⟩ q1319 q1321 qs23 q59 q1322 rfl rfl (Nat.zero_le 8) rfl F.1 F.2 (wk_I fun x2 h1 F => ?_)
  exact wa_iret rfl dX3_index_33 F
theorem f_X3_index_66 {D : qD} {Q : Option Value → qH → Prop} {X : String → qH → Prop} (t : Nat) (v2 : Int32) (v3 : Int32) (v4 : Int32) (h : qH) (F : ((400 ≤ v4 → L_X3_index_91 D Q X t v2 v3 0 h) ∧ (¬ 400 ≤ v4 → g_R D h (some t) 2 36 (fun r1 => s_I h r1 1 v4 0 (fun h2 => L_X3_index_66 D Q X t v2 v3 (v4 + 1) h2))))) : L_X3_index_66 D Q X t v2 v3 v4 h := by
  show WA D m_X3_index Q X 66 [(0, va_rf (some t)), (2, .int v2), (3, .int v3), (4, .int v4)] [] h
  refine wa_iload (x := v4) dX3_index_66 3 rfl ?_
  refine wa_sipush (v := 400) dX3_index_68 rfl ?_
  refine wa_icmp_ge (tgt := 88) dX3_index_71 rfl (fun z => ?_) (fun z => ?_)
  · have F := F.1 z
    refine wa_iconst (v := 0) dX3_index_88 rfl ?_
    refine ws_istore (lv' := [(4, .int 0), (0, va_rf (some t)), (2, .int v2), (3, .int v3)]) dX3_index_89 (Nat.le_of_ble_eq_true rfl) (q_cr (q_ci (q_ci (q_ci q_cn)))) rfl ?_
    exact wa_sub [1, 2, 3, 0] rfl F
  · have F := F.2 z
    refine wa_aload_n (o := (some t)) dX3_index_74 rfl 0 rfl ?_
    refine wa_getR (C := RX3) (T := TX3) (N := 38) (ci := 2) (k := 36) dX3_index_75 rfl (Nat.le_of_ble_eq_true rfl) in_X3 q1228 q_same_own (g_R_mono F fun r1 F => ?_)
    refine wa_iload (x := v4) dX3_index_78 3 rfl ?_
    refine wa_iconst (v := 0) dX3_index_80 rfl ?_
    refine wa_zast (by decide) dX3_index_81 (s_I_mono F fun h2 F => ?_)
    refine ws_iinc (j := 3) (v := (v4 + 1)) (lv' := [(4, .int (v4 + 1)), (0, va_rf (some t)), (2, .int v2), (3, .int v3)]) dX3_index_82 rfl rfl (Nat.le_of_ble_eq_true rfl) (q_cr (q_ci (q_ci (q_ci q_cn)))) rfl ?_
    refine wa_goto (tgt := 66) dX3_index_85 rfl ?_
    exact wa_sub [1, 2, 3, 0] rfl F
theorem f_X3_index_91 {D : qD} {Q : Option Value → qH → Prop} {X : String → qH → Prop} (t : Nat) (v2 : Int32) (v3 : Int32) (v4 : Int32) (h : qH) (F : g_I D h (some t) 2 0 (fun x1 => ((x1 ≤ v4 → L_X3_index_139 D Q X t v3 0 1 h) ∧ (¬ x1 ≤ v4 → (recv D h (some t) RX3 ∧ c_I D m_X3_counts [va_rf (some t), .int v4, .int v2] h X (fun x3 h2 => ((x3 = 0 → L_X3_index_127 D Q X t v2 v3 v4 h2) ∧ (¬ x3 = 0 → g_R D h2 (some t) 2 36 (fun r4 => g_R D h2 (some t) 2 15 (fun r5 => a_I D h2 r5 0 v4 (fun x6 => (recv D h2 (some t) RX3 ∧ c_I D m_X3_page [va_rf (some t), .int x6] h2 X (fun x8 h7 => s_I h7 r4 1 x8 1 (fun h9 => L_X3_index_127 D Q X t v2 v3 v4 h9)))))))))))))) : L_X3_index_91 D Q X t v2 v3 v4 h := by
  show WA D m_X3_index Q X 91 [(0, va_rf (some t)), (2, .int v2), (3, .int v3), (4, .int v4)] [] h
  refine wa_iload (x := v4) dX3_index_91 3 rfl ?_
  refine wa_aload_n (o := (some t)) dX3_index_93 rfl 0 rfl ?_
  refine wa_getI (C := RX3) (T := TX3) (N := 38) (ci := 2) (k := 0) dX3_index_94 rfl (Nat.le_of_ble_eq_true rfl) in_X3 q1192 q_same_own (g_I_mono F fun x1 F => ?_)
  refine wa_icmp_ge (tgt := 133) dX3_index_97 rfl (fun z => ?_) (fun z => ?_)
  · have F := F.1 z
    refine wa_iconst (v := 0) dX3_index_133 rfl ?_
    refine ws_istore (lv' := [(4, .int 0), (0, va_rf (some t)), (2, .int v2), (3, .int v3)]) dX3_index_134 (Nat.le_of_ble_eq_true rfl) (q_cr (q_ci (q_ci (q_ci q_cn)))) rfl ?_
    refine wa_iconst (v := 1) dX3_index_136 rfl ?_
    refine ws_istore (lv' := [(5, .int 1), (4, .int 0), (0, va_rf (some t)), (2, .int v2), (3, .int v3)]) dX3_index_137 (Nat.le_of_ble_eq_true rfl) (q_ci (q_cr (q_ci (q_ci q_cn)))) rfl ?_
    exact wa_sub [2, 4, 1, 0] rfl F
  · have F := F.2 z
    refine wa_aload_n (o := (some t)) dX3_index_100 rfl 0 rfl ?_
    refine wa_iload (x := v4) dX3_index_101 3 rfl ?_
    refine wa_iload_n (x := v2) dX3_index_103 rfl 1 rfl ?_
    refine wa_callV (M' := m_X3_counts) (C := RX3) (o := (some t)) (As := [.int v4, .int v2]) (st := []) dX3_index_104 ⟨Nat.le_of_ble_eq_true rfl, Nat.le_of_ble_eq_true rfl, nk_X3_counts⟩ q1479 q1481 qs44 q59 q1482 rfl rfl (Nat.zero_le 8) rfl F.1 F.2 (wk_I fun x3 h2 F => ?_)
    refine wa_if_eq (tgt := 127) dX3_index_107 rfl (fun z => ?_) (fun z => ?_)
    · have F := F.1 z
      exact F
    · have F := F.2 z
      refine wa_aload_n (o := (some t)) dX3_index_110 rfl 0 rfl ?_
      refine wa_getR (C := RX3) (T := TX3) (N := 38) (ci := 2) (k := 36) dX3_index_111 rfl (Nat.le_of_ble_eq_true rfl) in_X3 q1228 q_same_own (g_R_mono F fun r4 F => ?_)
      refine wa_aload_n (o := (some t)) dX3_index_114 rfl 0 rfl ?_
      refine wa_aload_n (o := (some t)) dX3_index_115 rfl 0 rfl ?_
      refine wa_getR (C := RX3) (T := TX3) (N := 38) (ci := 2) (k := 15) dX3_index_116 rfl (Nat.le_of_ble_eq_true rfl) in_X3 q1207 q_same_own (g_R_mono F fun r5 F => ?_)
      refine wa_iload (x := v4) dX3_index_119 3 rfl ?_
      refine wa_iald dX3_index_121 (a_I_mono F fun x6 F => ?_)
      refine wa_callV (M' := m_X3_page) (C := RX3) (o := (some t)) (As := [.int x6]) (st := [va_rf r4]) dX3_index_122 ⟨Nat.le_of_ble_eq_true rfl, Nat.le_of_ble_eq_true rfl, nk_X3_page⟩ q1454 q1456 qs43 q59 q1457 rfl rfl (q_cs_le (q_csr q_cs0) (Nat.le_of_ble_eq_true rfl)) rfl F.1 F.2 (wk_I fun x8 h7 F => ?_)
      refine wa_iconst (v := 1) dX3_index_125 rfl ?_
      refine wa_zast (by decide) dX3_index_126 (s_I_mono F fun h9 F => ?_)
      exact F
theorem f_X3_index_139 {D : qD} {Q : Option Value → qH → Prop} {X : String → qH → Prop} (t : Nat) (v3 : Int32) (v4 : Int32) (v5 : Int32) (h : qH) (F : ((399 ≤ v5 → Q (some (.int (-1))) h) ∧ (¬ 399 ≤ v5 → L_X3_index_151 D Q X t v3 v4 v5 v5 h))) : L_X3_index_139 D Q X t v3 v4 v5 h := by
  show WA D m_X3_index Q X 139 [(0, va_rf (some t)), (3, .int v3), (4, .int v4), (5, .int v5)] [] h
  refine wa_iload (x := v5) dX3_index_139 3 rfl ?_
  refine wa_sipush (v := 399) dX3_index_141 rfl ?_
  refine wa_icmp_ge (tgt := 276) dX3_index_144 rfl (fun z => ?_) (fun z => ?_)
  · have F := F.1 z
    refine wa_iconst (v := -1) dX3_index_276 rfl ?_
    exact wa_iret rfl dX3_index_277 F
  · have F := F.2 z
    refine wa_iload (x := v5) dX3_index_147 3 rfl ?_
    refine ws_istore (lv' := [(6, .int v5), (0, va_rf (some t)), (3, .int v3), (4, .int v4), (5, .int v5)]) dX3_index_149 (Nat.le_of_ble_eq_true rfl) (q_cr (q_ci (q_ci (q_ci q_cn)))) rfl ?_
    exact wa_sub [1, 2, 3, 4, 0] rfl F
theorem f_X3_index_127 {D : qD} {Q : Option Value → qH → Prop} {X : String → qH → Prop} (t : Nat) (v2 : Int32) (v3 : Int32) (v4 : Int32) (h : qH) (F : L_X3_index_91 D Q X t v2 v3 (v4 + 1) h) : L_X3_index_127 D Q X t v2 v3 v4 h := by
  show WA D m_X3_index Q X 127 [(0, va_rf (some t)), (2, .int v2), (3, .int v3), (4, .int v4)] [] h
  refine ws_iinc (j := 3) (v := (v4 + 1)) (lv' := [(4, .int (v4 + 1)), (0, va_rf (some t)), (2, .int v2), (3, .int v3)]) dX3_index_127 rfl rfl (Nat.le_of_ble_eq_true rfl) (q_cr (q_ci (q_ci (q_ci q_cn)))) rfl ?_
  refine wa_goto (tgt := 91) dX3_index_130 rfl ?_
  exact wa_sub [1, 2, 3, 0] rfl F
theorem f_X3_index_151 {D : qD} {Q : Option Value → qH → Prop} {X : String → qH → Prop} (t : Nat) (v3 : Int32) (v4 : Int32) (v5 : Int32) (v6 : Int32) (h : qH) (F : g_R D h (some t) 2 36 (fun r1 => a_I D h r1 1 v5 (fun x2 => ((x2 = 0 → L_X3_index_187 D Q X t v3 v4 v5 v6 h) ∧ (¬ x2 = 0 → g_R D h (some t) 2 36 (fun r3 => a_I D h r3 1 (v6 + 1) (fun x4 => ((x4 = 0 → L_X3_index_187 D Q X t v3 v4 v5 v6 h) ∧ (¬ x4 = 0 → ((398 ≤ v6 → L_X3_index_187 D Q X t v3 v4 v5 v6 h) ∧ (¬ 398 ≤ v6 → L_X3_index_151 D Q X t v3 v4 v5 (v6 + 1) h))))))))))) : L_X3_index_151 D Q X t v3 v4 v5 v6 h := by
  show WA D m_X3_index Q X 151 [(0, va_rf (some t)), (3, .int v3), (4, .int v4), (5, .int v5), (6, .int v6)] [] h
  refine wa_aload_n (o := (some t)) dX3_index_151 rfl 0 rfl ?_
  refine wa_getR (C := RX3) (T := TX3) (N := 38) (ci := 2) (k := 36) dX3_index_152 rfl (Nat.le_of_ble_eq_true rfl) in_X3 q1228 q_same_own (g_R_mono F fun r1 F => ?_)
  refine wa_iload (x := v5) dX3_index_155 3 rfl ?_
  refine wa_zald dX3_index_157 (a_I_mono F fun x2 F => ?_)
  refine wa_if_eq (tgt := 187) dX3_index_158 rfl (fun z => ?_) (fun z => ?_)
  · have F := F.1 z
    exact F
  · have F := F.2 z
    refine wa_aload_n (o := (some t)) dX3_index_161 rfl 0 rfl ?_
    refine wa_getR (C := RX3) (T := TX3) (N := 38) (ci := 2) (k := 36) dX3_index_162 rfl (Nat.le_of_ble_eq_true rfl) in_X3 q1228 q_same_own (g_R_mono F fun r3 F => ?_)
    refine wa_iload (x := v6) dX3_index_165 4 rfl ?_
    refine wa_iconst (v := 1) dX3_index_167 rfl ?_
    refine wa_iadd dX3_index_168 ?_
    refine wa_zald dX3_index_169 (a_I_mono F fun x4 F => ?_)
    refine wa_if_eq (tgt := 187) dX3_index_170 rfl (fun z => ?_) (fun z => ?_)
    · have F := F.1 z
      exact F
    · have F := F.2 z
      refine wa_iload (x := v6) dX3_index_173 4 rfl ?_
      refine wa_sipush (v := 398) dX3_index_175 rfl ?_
      refine wa_icmp_ge (tgt := 187) dX3_index_178 rfl (fun z => ?_) (fun z => ?_)
      · have F := F.1 z
        exact F
      · have F := F.2 z
        refine ws_iinc (j := 4) (v := (v6 + 1)) (lv' := [(6, .int (v6 + 1)), (0, va_rf (some t)), (3, .int v3), (4, .int v4), (5, .int v5)]) dX3_index_181 rfl rfl (Nat.le_of_ble_eq_true rfl) (q_cr (q_ci (q_ci (q_ci (q_ci q_cn))))) rfl ?_
        refine wa_goto (tgt := 151) dX3_index_184 rfl ?_
        exact wa_sub [1, 2, 3, 4, 0] rfl F
theorem f_X3_index_187 {D : qD} {Q : Option Value → qH → Prop} {X : String → qH → Prop} (t : Nat) (v3 : Int32) (v4 : Int32) (v5 : Int32) (v6 : Int32) (h : qH) (F : g_R D h (some t) 2 36 (fun r1 => a_I D h r1 1 v5 (fun x2 => ((x2 = 0 → L_X3_index_231 D Q X t v3 v4 v5 v6 h) ∧ (¬ x2 = 0 → ((¬ v4 = v3 → L_X3_index_231 D Q X t v3 v4 v5 v6 h) ∧ (v4 = v3 → (((v6 - v5) < 2 → Q (some (.int (1001 * v5))) h) ∧ (¬ (v6 - v5) < 2 → Q (some (.int ((1000 * v5) + v6))) h))))))))) : L_X3_index_187 D Q X t v3 v4 v5 v6 h := by
  show WA D m_X3_index Q X 187 [(0, va_rf (some t)), (3, .int v3), (4, .int v4), (5, .int v5), (6, .int v6)] [] h
  refine wa_aload_n (o := (some t)) dX3_index_187 rfl 0 rfl ?_
  refine wa_getR (C := RX3) (T := TX3) (N := 38) (ci := 2) (k := 36) dX3_index_188 rfl (Nat.le_of_ble_eq_true rfl) in_X3 q1228 q_same_own (g_R_mono F fun r1 F => ?_)
  refine wa_iload (x := v5) dX3_index_191 3 rfl ?_
  refine wa_zald dX3_index_193 (a_I_mono F fun x2 F => ?_)
  refine wa_if_eq (tgt := 231) dX3_index_194 rfl (fun z => ?_) (fun z => ?_)
  · have F := F.1 z
    exact F
  · have F := F.2 z
    refine wa_iload (x := v4) dX3_index_197 2 rfl ?_
    refine wa_iload_n (x := v3) dX3_index_199 rfl 1 rfl ?_
    refine wa_icmp_ne (tgt := 231) dX3_index_200 rfl (fun z => ?_) (fun z => ?_)
    · have F := F.1 z
      exact F
    · have F := F.2 z
      refine wa_iload (x := v6) dX3_index_203 4 rfl ?_
      refine wa_iload (x := v5) dX3_index_205 3 rfl ?_
      refine wa_isub dX3_index_207 ?_
      refine wa_iconst (v := 2) dX3_index_208 rfl ?_
      refine wa_icmp_lt (tgt := 224) dX3_index_209 rfl (fun z => ?_) (fun z => ?_)
      · have F := F.1 z
        refine wa_sipush (v := 1001) dX3_index_224 rfl ?_
        refine wa_iload (x := v5) dX3_index_227 3 rfl ?_
        refine wa_imul dX3_index_229 ?_
        exact wa_iret rfl dX3_index_230 F
      · have F := F.2 z
        refine wa_sipush (v := 1000) dX3_index_212 rfl ?_
        refine wa_iload (x := v5) dX3_index_215 3 rfl ?_
        refine wa_imul dX3_index_217 ?_
        refine wa_iload (x := v6) dX3_index_218 4 rfl ?_
        refine wa_iadd dX3_index_220 ?_
        refine wa_goto (tgt := 230) dX3_index_221 rfl ?_
        exact wa_iret rfl dX3_index_230 F
theorem f_X3_index_231 {D : qD} {Q : Option Value → qH → Prop} {X : String → qH → Prop} (t : Nat) (v3 : Int32) (v4 : Int32) (v5 : Int32) (v6 : Int32) (h : qH) (F : g_R D h (some t) 2 36 (fun r1 => a_I D h r1 1 v5 (fun x2 => ((x2 = 0 → L_X3_index_248 D Q X t v3 v5 v6 0 v4 h) ∧ (¬ x2 = 0 → L_X3_index_248 D Q X t v3 v5 v6 1 v4 h))))) : L_X3_index_231 D Q X t v3 v4 v5 v6 h := by
  show WA D m_X3_index Q X 231 [(0, va_rf (some t)), (3, .int v3), (4, .int v4), (5, .int v5), (6, .int v6)] [] h
  refine wa_iload (x := v4) dX3_index_231 2 rfl ?_
  refine wa_aload_n (o := (some t)) dX3_index_233 rfl 0 rfl ?_
  refine wa_getR (C := RX3) (T := TX3) (N := 38) (ci := 2) (k := 36) dX3_index_234 rfl (Nat.le_of_ble_eq_true rfl) in_X3 q1228 q_same_own (g_R_mono F fun r1 F => ?_)
  refine wa_iload (x := v5) dX3_index_237 3 rfl ?_
  refine wa_zald dX3_index_239 (a_I_mono F fun x2 F => ?_)
  refine wa_if_eq (tgt := 247) dX3_index_240 rfl (fun z => ?_) (fun z => ?_)
  · have F := F.1 z
    refine wa_iconst (v := 0) dX3_index_247 rfl ?_
    exact wa_sub [0, 1, 3, 4] rfl F
  · have F := F.2 z
    refine wa_iconst (v := 1) dX3_index_243 rfl ?_
    refine wa_goto (tgt := 248) dX3_index_244 rfl ?_
    exact wa_sub [0, 1, 3, 4] rfl F
theorem f_X3_index_248 {D : qD} {Q : Option Value → qH → Prop} {X : String → qH → Prop} (t : Nat) (v3 : Int32) (v5 : Int32) (v6 : Int32) (s0 : Int32) (s1 : Int32) (h : qH) (F : (((v6 - v5) < 2 → L_X3_index_271 D Q X t v3 (s1 + s0) (v5 + 1) h) ∧ (¬ (v6 - v5) < 2 → L_X3_index_271 D Q X t v3 (s1 + s0) (v6 + 1) h))) : L_X3_index_248 D Q X t v3 v5 v6 s0 s1 h := by
  show WA D m_X3_index Q X 248 [(0, va_rf (some t)), (3, .int v3), (5, .int v5), (6, .int v6)] [.int s0, .int s1] h
  refine wa_iadd dX3_index_248 ?_
  refine ws_istore (lv' := [(4, .int (s1 + s0)), (0, va_rf (some t)), (3, .int v3), (5, .int v5), (6, .int v6)]) dX3_index_249 (Nat.le_of_ble_eq_true rfl) (q_cr (q_ci (q_ci (q_ci q_cn)))) rfl ?_
  refine wa_iload (x := v6) dX3_index_251 4 rfl ?_
  refine wa_iload (x := v5) dX3_index_253 3 rfl ?_
  refine wa_isub dX3_index_255 ?_
  refine wa_iconst (v := 2) dX3_index_256 rfl ?_
  refine wa_icmp_lt (tgt := 267) dX3_index_257 rfl (fun z => ?_) (fun z => ?_)
  · have F := F.1 z
    refine wa_iload (x := v5) dX3_index_267 3 rfl ?_
    refine wa_iconst (v := 1) dX3_index_269 rfl ?_
    refine wa_iadd dX3_index_270 ?_
    exact wa_sub [1, 2, 0] rfl F
  · have F := F.2 z
    refine wa_iload (x := v6) dX3_index_260 4 rfl ?_
    refine wa_iconst (v := 1) dX3_index_262 rfl ?_
    refine wa_iadd dX3_index_263 ?_
    refine wa_goto (tgt := 271) dX3_index_264 rfl ?_
    exact wa_sub [1, 2, 0] rfl F
theorem f_X3_index_271 {D : qD} {Q : Option Value → qH → Prop} {X : String → qH → Prop} (t : Nat) (v3 : Int32) (v4 : Int32) (s0 : Int32) (h : qH) (F : L_X3_index_139 D Q X t v3 v4 s0 h) : L_X3_index_271 D Q X t v3 v4 s0 h := by
  show WA D m_X3_index Q X 271 [(0, va_rf (some t)), (3, .int v3), (4, .int v4)] [.int s0] h
  refine ws_istore (lv' := [(5, .int s0), (0, va_rf (some t)), (3, .int v3), (4, .int v4)]) dX3_index_271 (Nat.le_of_ble_eq_true rfl) (q_cr (q_ci (q_ci q_cn))) rfl ?_
  refine wa_goto (tgt := 139) dX3_index_273 rfl ?_
  exact wa_sub [1, 2, 3, 0] rfl F
def L_X3_plate_47 (D : qD) (Q : Option Value → qH → Prop) (X : String → qH → Prop) (t : Nat) (h : qH) : Prop := WA D m_X3_plate Q X 47 [(0, va_rf (some t))] [] h
def L_X3_plate_69 (D : qD) (Q : Option Value → qH → Prop) (X : String → qH → Prop) (t : Nat) (v2 : Int32) (v3 : Int32) (v4 : Int32) (v5 : Int32) (v6 : Int32) (h : qH) : Prop := WA D m_X3_plate Q X 69 [(0, va_rf (some t)), (2, .int v2), (3, .int v3), (4, .int v4), (5, .int v5), (6, .int v6)] [] h
def L_X3_plate_164 (D : qD) (Q : Option Value → qH → Prop) (X : String → qH → Prop) (t : Nat) (v2 : Int32) (v3 : Int32) (v4 : Int32) (v5 : Int32) (v6 : Int32) (h : qH) : Prop := WA D m_X3_plate Q X 164 [(0, va_rf (some t)), (2, .int v2), (3, .int v3), (4, .int v4), (5, .int v5), (6, .int v6)] [] h
def L_X3_plate_160 (D : qD) (Q : Option Value → qH → Prop) (X : String → qH → Prop) (t : Nat) (v2 : Int32) (v3 : Int32) (v4 : Int32) (v6 : Int32) (s0 : Int32) (h : qH) : Prop := WA D m_X3_plate Q X 160 [(0, va_rf (some t)), (2, .int v2), (3, .int v3), (4, .int v4), (6, .int v6)] [.int s0] h
def L_X3_plate_161 (D : qD) (Q : Option Value → qH → Prop) (X : String → qH → Prop) (t : Nat) (v2 : Int32) (v3 : Int32) (v4 : Int32) (v6 : Int32) (s0 : Int32) (s1 : Int32) (h : qH) : Prop := WA D m_X3_plate Q X 161 [(0, va_rf (some t)), (2, .int v2), (3, .int v3), (4, .int v4), (6, .int v6)] [.int s0, .int s1] h
theorem f_X3_plate {D : qD} {Q : Option Value → qH → Prop} {X : String → qH → Prop} (t : Nat) (p0 : Int32) (p1 : Int32) (p2 : Int32) (p3 : Int32) (h : qH) (F : c_I D m_X3_in [.long p0.toInt64, .long 0, .long 3] h X (fun x2 h1 => ((x2 = 0 → L_X3_plate_47 D Q X t h1) ∧ (¬ x2 = 0 → c_I D m_X3_in [.long p1.toInt64, .long 0, .long 249] h1 X (fun x4 h3 => ((x4 = 0 → L_X3_plate_47 D Q X t h3) ∧ (¬ x4 = 0 → c_I D m_X3_in [.long p2.toInt64, .long 0, .long 1] h3 X (fun x6 h5 => ((x6 = 0 → L_X3_plate_47 D Q X t h5) ∧ (¬ x6 = 0 → c_I D m_X3_in [.long p3.toInt64, .long 0, .long 3] h5 X (fun x8 h7 => ((¬ x8 = 0 → p_F h7 (some t) 2 37 (.int 0) (fun h9 => (recv D h9 (some t) RX3 ∧ c_V D m_X3_lay [va_rf (some t), .int p0] h9 X (fun h10 => L_X3_plate_69 D Q X t p1 p2 p3 0 0 h10)))) ∧ (x8 = 0 → L_X3_plate_47 D Q X t h7))))))))))))) : MW D m_X3_plate [va_rf (some t), .int p0, .int p1, .int p2, .int p3] h Q X := by
  refine mw_of pl_X3_plate rfl _ (Nat.le_of_ble_eq_true rfl) rfl ?_
  refine (show WA D m_X3_plate Q X 0 [(0, va_rf (some t)), (1, .int p0), (2, .int p1), (3, .int p2), (4, .int p3)] [] h from ?_)
  refine wa_iload_n (x := p0) dX3_plate_0 rfl 1 rfl ?_
  refine wa_i2l dX3_plate_1 ?_
  refine wa_lconst (v := 0) dX3_plate_2 rfl ?_
  refine wa_ldc2 (v := 3) dX3_plate_3 q1330 ?_
  refine wa_callS (M' := m_X3_in) (As := [.long p0.toInt64, .long 0, .long 3]) (st := []) dX3_plate_6 ⟨Nat.le_of_ble_eq_true rfl, Nat.le_of_ble_eq_true rfl, nk_X3_in⟩ q1316 q1317 q59 q1318 rfl rfl (Nat.zero_le 8) rfl F (wk_I fun x2 h1 F => ?_)
  refine wa_if_eq (tgt := 47) dX3_plate_9 rfl (fun z => ?_) (fun z => ?_)
  · have F := F.1 z
    exact wa_sub [0] rfl F
  · have F := F.2 z
    refine wa_iload_n (x := p1) dX3_plate_12 rfl 2 rfl ?_
    refine wa_i2l dX3_plate_13 ?_
    refine wa_lconst (v := 0) dX3_plate_14 rfl ?_
    refine wa_ldc2 (v := 249) dX3_plate_15 q1508 ?_
    refine wa_callS (M' := m_X3_in) (As := [.long p1.toInt64, .long 0, .long 249]) (st := []) dX3_plate_18 ⟨Nat.le_of_ble_eq_true rfl, Nat.le_of_ble_eq_true rfl, nk_X3_in⟩ q1316 q1317 q59 q1318 rfl rfl (Nat.zero_le 8) rfl F (wk_I fun x4 h3 F => ?_)
    refine wa_if_eq (tgt := 47) dX3_plate_21 rfl (fun z => ?_) (fun z => ?_)
    · have F := F.1 z
      exact wa_sub [0] rfl F
    · have F := F.2 z
      refine wa_iload_n (x := p2) dX3_plate_24 rfl 3 rfl ?_
      refine wa_i2l dX3_plate_25 ?_
      refine wa_lconst (v := 0) dX3_plate_26 rfl ?_
      refine wa_lconst (v := 1) dX3_plate_27 rfl ?_
      refine wa_callS (M' := m_X3_in) (As := [.long p2.toInt64, .long 0, .long 1]) (st := []) dX3_plate_28 ⟨Nat.le_of_ble_eq_true rfl, Nat.le_of_ble_eq_true rfl, nk_X3_in⟩ q1316 q1317 q59 q1318 rfl rfl (Nat.zero_le 8) rfl F (wk_I fun x6 h5 F => ?_)
      refine wa_if_eq (tgt := 47) dX3_plate_31 rfl (fun z => ?_) (fun z => ?_)
      · have F := F.1 z
        exact wa_sub [0] rfl F
      · have F := F.2 z
        refine wa_iload (x := p3) dX3_plate_34 4 rfl ?_
        refine wa_i2l dX3_plate_36 ?_
        refine wa_lconst (v := 0) dX3_plate_37 rfl ?_
        refine wa_ldc2 (v := 3) dX3_plate_38 q1330 ?_
        refine wa_callS (M' := m_X3_in) (As := [.long p3.toInt64, .long 0, .long 3]) (st := []) dX3_plate_41 ⟨Nat.le_of_ble_eq_true rfl, Nat.le_of_ble_eq_true rfl, nk_X3_in⟩ q1316 q1317 q59 q1318 rfl rfl (Nat.zero_le 8) rfl F (wk_I fun x8 h7 F => ?_)
        refine wa_if_ne (tgt := 53) dX3_plate_44 rfl (fun z => ?_) (fun z => ?_)
        · have F := F.1 z
          refine wa_aload_n (o := (some t)) dX3_plate_53 rfl 0 rfl ?_
          refine wa_iconst (v := 0) dX3_plate_54 rfl ?_
          refine wa_put (C := RX3) (T := TX3) (N := 38) (ci := 2) (k := 37) tyX3 dX3_plate_55 rfl (Nat.le_of_ble_eq_true rfl) in_X3 tyX3_ok nmX3 q1229 q_same_own rfl rfl rfl (p_F_mono F fun h9 F => ?_)
          refine wa_aload_n (o := (some t)) dX3_plate_58 rfl 0 rfl ?_
          refine wa_iload_n (x := p0) dX3_plate_59 rfl 1 rfl ?_
          refine wa_callV (M' := m_X3_lay) (C := RX3) (o := (some t)) (As := [.int p0]) (st := []) dX3_plate_60 ⟨Nat.le_of_ble_eq_true rfl, Nat.le_of_ble_eq_true rfl, nk_X3_lay⟩ q1407 q1409 qs33 q59 q1410 rfl rfl (Nat.zero_le 8) rfl F.1 F.2 (wk_V fun h10 F => ?_)
          refine wa_iconst (v := 0) dX3_plate_63 rfl ?_
          refine ws_istore (lv' := [(5, .int 0), (0, va_rf (some t)), (1, .int p0), (2, .int p1), (3, .int p2), (4, .int p3)]) dX3_plate_64 (Nat.le_of_ble_eq_true rfl) (q_cr (q_ci (q_ci (q_ci (q_ci q_cn))))) rfl ?_
          refine wa_iconst (v := 0) dX3_plate_66 rfl ?_
          refine ws_istore (lv' := [(6, .int 0), (5, .int 0), (0, va_rf (some t)), (1, .int p0), (2, .int p1), (3, .int p2), (4, .int p3)]) dX3_plate_67 (Nat.le_of_ble_eq_true rfl) (q_ci (q_cr (q_ci (q_ci (q_ci (q_ci q_cn)))))) rfl ?_
          exact wa_sub [2, 4, 5, 6, 1, 0] rfl F
        · have F := F.2 z
          exact wa_sub [0] rfl F
theorem f_X3_plate_47 {D : qD} {Q : Option Value → qH → Prop} {X : String → qH → Prop} (t : Nat) (h : qH) (F : (recv D h (some t) RX3 ∧ c_I D m_X3_fails [va_rf (some t), .int 1] h X (fun x2 h1 => Q (some (.int x2)) h1))) : L_X3_plate_47 D Q X t h := by
  show WA D m_X3_plate Q X 47 [(0, va_rf (some t))] [] h
  refine wa_aload_n (o := (some t)) dX3_plate_47 rfl 0 rfl ?_
  refine wa_iconst (v := 1) dX3_plate_48 rfl ?_
  refine wa_callV (M' := m_X3_fails) (C := RX3) (o := (some t)) (As := [.int 1]) (st := []) dX3_plate_49 ⟨Nat.le_of_ble_eq_true rfl, Nat.le_of_ble_eq_true rfl, nk_X3_fails⟩ q1319 q1321 qs23 q59 q1322 rfl rfl (Nat.zero_le 8) rfl F.1 F.2 (wk_I fun x2 h1 F => ?_)
  exact wa_iret rfl dX3_plate_52 F
theorem f_X3_plate_69 {D : qD} {Q : Option Value → qH → Prop} {X : String → qH → Prop} (t : Nat) (v2 : Int32) (v3 : Int32) (v4 : Int32) (v5 : Int32) (v6 : Int32) (h : qH) (F : g_I D h (some t) 2 0 (fun x1 => ((x1 ≤ v6 → Q (some (.int v5)) h) ∧ (¬ x1 ≤ v6 → g_I D h (some t) 2 24 (fun x2 => ((x2 = 0 → Q (some (.int v5)) h) ∧ (¬ x2 = 0 → g_R D h (some t) 2 15 (fun r3 => a_I D h r3 0 v6 (fun x4 => ((x4 = (-1) → L_X3_plate_164 D Q X t v2 v3 v4 v5 v6 h) ∧ (¬ x4 = (-1) → (recv D h (some t) RX3 ∧ c_I D m_X3_hangs [va_rf (some t), .int v6] h X (fun x6 h5 => ((¬ x6 = 0 → L_X3_plate_164 D Q X t v2 v3 v4 v5 v6 h5) ∧ (x6 = 0 → g_R D h5 (some t) 2 3 (fun r7 => a_I D h5 r7 0 v6 (fun x8 => (recv D h5 (some t) RX3 ∧ c_I D m_X3_colourOf [va_rf (some t), .int x8] h5 X (fun x10 h9 => ((¬ x10 = v4 → L_X3_plate_164 D Q X t v2 v3 v4 v5 v6 h9) ∧ (x10 = v4 → g_R D h9 (some t) 2 15 (fun r11 => a_I D h9 r11 0 v6 (fun x12 => (recv D h9 (some t) RX3 ∧ c_I D m_X3_page [va_rf (some t), .int x12] h9 X (fun x14 h13 => (recv D h13 (some t) RX3 ∧ c_I D m_X3_sheetOf [va_rf (some t), .int x14] h13 X (fun x16 h15 => ((¬ x16 = v2 → L_X3_plate_160 D Q X t v2 v3 v4 v6 v5 h15) ∧ (x16 = v2 → (recv D h15 (some t) RX3 ∧ c_I D m_X3_sideOf [va_rf (some t), .int x14] h15 X (fun x18 h17 => ((¬ x18 = v3 → L_X3_plate_160 D Q X t v2 v3 v4 v6 v5 h17) ∧ (x18 = v3 → L_X3_plate_161 D Q X t v2 v3 v4 v6 1 v5 h17))))))))))))))))))))))))))))))))) : L_X3_plate_69 D Q X t v2 v3 v4 v5 v6 h := by
  show WA D m_X3_plate Q X 69 [(0, va_rf (some t)), (2, .int v2), (3, .int v3), (4, .int v4), (5, .int v5), (6, .int v6)] [] h
  refine wa_iload (x := v6) dX3_plate_69 5 rfl ?_
  refine wa_aload_n (o := (some t)) dX3_plate_71 rfl 0 rfl ?_
  refine wa_getI (C := RX3) (T := TX3) (N := 38) (ci := 2) (k := 0) dX3_plate_72 rfl (Nat.le_of_ble_eq_true rfl) in_X3 q1192 q_same_own (g_I_mono F fun x1 F => ?_)
  refine wa_icmp_ge (tgt := 170) dX3_plate_75 rfl (fun z => ?_) (fun z => ?_)
  · have F := F.1 z
    refine wa_iload (x := v5) dX3_plate_170 4 rfl ?_
    exact wa_iret rfl dX3_plate_172 F
  · have F := F.2 z
    refine wa_aload_n (o := (some t)) dX3_plate_78 rfl 0 rfl ?_
    refine wa_getI (C := RX3) (T := TX3) (N := 38) (ci := 2) (k := 24) dX3_plate_79 rfl (Nat.le_of_ble_eq_true rfl) in_X3 q1216 q_same_own (g_I_mono F fun x2 F => ?_)
    refine wa_if_eq (tgt := 170) dX3_plate_82 rfl (fun z => ?_) (fun z => ?_)
    · have F := F.1 z
      refine wa_iload (x := v5) dX3_plate_170 4 rfl ?_
      exact wa_iret rfl dX3_plate_172 F
    · have F := F.2 z
      refine wa_aload_n (o := (some t)) dX3_plate_85 rfl 0 rfl ?_
      refine wa_getR (C := RX3) (T := TX3) (N := 38) (ci := 2) (k := 15) dX3_plate_86 rfl (Nat.le_of_ble_eq_true rfl) in_X3 q1207 q_same_own (g_R_mono F fun r3 F => ?_)
      refine wa_iload (x := v6) dX3_plate_89 5 rfl ?_
      refine wa_iald dX3_plate_91 (a_I_mono F fun x4 F => ?_)
      refine wa_iconst (v := -1) dX3_plate_92 rfl ?_
      refine wa_icmp_eq (tgt := 164) dX3_plate_93 rfl (fun z => ?_) (fun z => ?_)
      · have F := F.1 z
        exact F
      · have F := F.2 z
        refine wa_aload_n (o := (some t)) dX3_plate_96 rfl 0 rfl ?_
        refine wa_iload (x := v6) dX3_plate_97 5 rfl ?_
        refine wa_callV (M' := m_X3_hangs) (C := RX3) (o := (some t)) (As := [.int v6]) (st := []) dX3_plate_99 ⟨Nat.le_of_ble_eq_true rfl, Nat.le_of_ble_eq_true rfl, nk_X3_hangs⟩ q1387 q1389 qs31 q59 q1390 rfl rfl (Nat.zero_le 8) rfl F.1 F.2 (wk_I fun x6 h5 F => ?_)
        refine wa_if_ne (tgt := 164) dX3_plate_102 rfl (fun z => ?_) (fun z => ?_)
        · have F := F.1 z
          exact F
        · have F := F.2 z
          refine wa_aload_n (o := (some t)) dX3_plate_105 rfl 0 rfl ?_
          refine wa_aload_n (o := (some t)) dX3_plate_106 rfl 0 rfl ?_
          refine wa_getR (C := RX3) (T := TX3) (N := 38) (ci := 2) (k := 3) dX3_plate_107 rfl (Nat.le_of_ble_eq_true rfl) in_X3 q1195 q_same_own (g_R_mono F fun r7 F => ?_)
          refine wa_iload (x := v6) dX3_plate_110 5 rfl ?_
          refine wa_iald dX3_plate_112 (a_I_mono F fun x8 F => ?_)
          refine wa_callV (M' := m_X3_colourOf) (C := RX3) (o := (some t)) (As := [.int x8]) (st := []) dX3_plate_113 ⟨Nat.le_of_ble_eq_true rfl, Nat.le_of_ble_eq_true rfl, nk_X3_colourOf⟩ q1391 q1393 qs32 q59 q1394 rfl rfl (Nat.zero_le 8) rfl F.1 F.2 (wk_I fun x10 h9 F => ?_)
          refine wa_iload (x := v4) dX3_plate_116 3 rfl ?_
          refine wa_icmp_ne (tgt := 164) dX3_plate_118 rfl (fun z => ?_) (fun z => ?_)
          · have F := F.1 z
            exact F
          · have F := F.2 z
            refine wa_aload_n (o := (some t)) dX3_plate_121 rfl 0 rfl ?_
            refine wa_aload_n (o := (some t)) dX3_plate_122 rfl 0 rfl ?_
            refine wa_getR (C := RX3) (T := TX3) (N := 38) (ci := 2) (k := 15) dX3_plate_123 rfl (Nat.le_of_ble_eq_true rfl) in_X3 q1207 q_same_own (g_R_mono F fun r11 F => ?_)
            refine wa_iload (x := v6) dX3_plate_126 5 rfl ?_
            refine wa_iald dX3_plate_128 (a_I_mono F fun x12 F => ?_)
            refine wa_callV (M' := m_X3_page) (C := RX3) (o := (some t)) (As := [.int x12]) (st := []) dX3_plate_129 ⟨Nat.le_of_ble_eq_true rfl, Nat.le_of_ble_eq_true rfl, nk_X3_page⟩ q1454 q1456 qs43 q59 q1457 rfl rfl (Nat.zero_le 8) rfl F.1 F.2 (wk_I fun x14 h13 F => ?_)
            refine ws_istore (lv' := [(7, .int x14), (0, va_rf (some t)), (2, .int v2), (3, .int v3), (4, .int v4), (5, .int v5), (6, .int v6)]) dX3_plate_132 (Nat.le_of_ble_eq_true rfl) (q_cr (q_ci (q_ci (q_ci (q_ci (q_ci q_cn)))))) rfl ?_
            refine wa_iload (x := v5) dX3_plate_134 5 rfl ?_
            refine wa_aload_n (o := (some t)) dX3_plate_136 rfl 1 rfl ?_
            refine wa_iload (x := x14) dX3_plate_137 0 rfl ?_
            refine wa_callV (M' := m_X3_sheetOf) (C := RX3) (o := (some t)) (As := [.int x14]) (st := [.int v5]) dX3_plate_139 ⟨Nat.le_of_ble_eq_true rfl, Nat.le_of_ble_eq_true rfl, nk_X3_sheetOf⟩ q1496 q1498 qs47 q59 q1499 rfl rfl (q_cs_le (q_csi q_cs0) (Nat.le_of_ble_eq_true rfl)) rfl F.1 F.2 (wk_I fun x16 h15 F => ?_)
            refine wa_iload_n (x := v2) dX3_plate_142 rfl 2 rfl ?_
            refine wa_icmp_ne (tgt := 160) dX3_plate_143 rfl (fun z => ?_) (fun z => ?_)
            · have F := F.1 z
              exact wa_sub [1, 2, 3, 4, 6] rfl F
            · have F := F.2 z
              refine wa_aload_n (o := (some t)) dX3_plate_146 rfl 1 rfl ?_
              refine wa_iload (x := x14) dX3_plate_147 0 rfl ?_
              refine wa_callV (M' := m_X3_sideOf) (C := RX3) (o := (some t)) (As := [.int x14]) (st := [.int v5]) dX3_plate_149 ⟨Nat.le_of_ble_eq_true rfl, Nat.le_of_ble_eq_true rfl, nk_X3_sideOf⟩ q1500 q1502 qs48 q59 q1503 rfl rfl (q_cs_le (q_csi q_cs0) (Nat.le_of_ble_eq_true rfl)) rfl F.1 F.2 (wk_I fun x18 h17 F => ?_)
              refine wa_iload_n (x := v3) dX3_plate_152 rfl 3 rfl ?_
              refine wa_icmp_ne (tgt := 160) dX3_plate_153 rfl (fun z => ?_) (fun z => ?_)
              · have F := F.1 z
                exact wa_sub [1, 2, 3, 4, 6] rfl F
              · have F := F.2 z
                refine wa_iconst (v := 1) dX3_plate_156 rfl ?_
                refine wa_goto (tgt := 161) dX3_plate_157 rfl ?_
                exact wa_sub [1, 2, 3, 4, 6] rfl F
theorem f_X3_plate_164 {D : qD} {Q : Option Value → qH → Prop} {X : String → qH → Prop} (t : Nat) (v2 : Int32) (v3 : Int32) (v4 : Int32) (v5 : Int32) (v6 : Int32) (h : qH) (F : L_X3_plate_69 D Q X t v2 v3 v4 v5 (v6 + 1) h) : L_X3_plate_164 D Q X t v2 v3 v4 v5 v6 h := by
  show WA D m_X3_plate Q X 164 [(0, va_rf (some t)), (2, .int v2), (3, .int v3), (4, .int v4), (5, .int v5), (6, .int v6)] [] h
  refine ws_iinc (j := 5) (v := (v6 + 1)) (lv' := [(6, .int (v6 + 1)), (0, va_rf (some t)), (2, .int v2), (3, .int v3), (4, .int v4), (5, .int v5)]) dX3_plate_164 rfl rfl (Nat.le_of_ble_eq_true rfl) (q_cr (q_ci (q_ci (q_ci (q_ci (q_ci q_cn)))))) rfl ?_
  refine wa_goto (tgt := 69) dX3_plate_167 rfl ?_
  exact wa_sub [1, 2, 3, 4, 5, 0] rfl F
theorem f_X3_plate_160 {D : qD} {Q : Option Value → qH → Prop} {X : String → qH → Prop} (t : Nat) (v2 : Int32) (v3 : Int32) (v4 : Int32) (v6 : Int32) (s0 : Int32) (h : qH) (F : L_X3_plate_161 D Q X t v2 v3 v4 v6 0 s0 h) : L_X3_plate_160 D Q X t v2 v3 v4 v6 s0 h := by
  show WA D m_X3_plate Q X 160 [(0, va_rf (some t)), (2, .int v2), (3, .int v3), (4, .int v4), (6, .int v6)] [.int s0] h
  refine wa_iconst (v := 0) dX3_plate_160 rfl ?_
  exact F
theorem f_X3_plate_161 {D : qD} {Q : Option Value → qH → Prop} {X : String → qH → Prop} (t : Nat) (v2 : Int32) (v3 : Int32) (v4 : Int32) (v6 : Int32) (s0 : Int32) (s1 : Int32) (h : qH) (F : L_X3_plate_164 D Q X t v2 v3 v4 (s1 + s0) v6 h) : L_X3_plate_161 D Q X t v2 v3 v4 v6 s0 s1 h := by
  show WA D m_X3_plate Q X 161 [(0, va_rf (some t)), (2, .int v2), (3, .int v3), (4, .int v4), (6, .int v6)] [.int s0, .int s1] h
  refine wa_iadd dX3_plate_161 ?_
  refine ws_istore (lv' := [(5, .int (s1 + s0)), (0, va_rf (some t)), (2, .int v2), (3, .int v3), (4, .int v4), (6, .int v6)]) dX3_plate_162 (Nat.le_of_ble_eq_true rfl) (q_cr (q_ci (q_ci (q_ci (q_ci q_cn))))) rfl ?_
  exact wa_sub [1, 2, 3, 4, 0, 5] rfl F
def L_X3_faults_24 (D : qD) (Q : Option Value → qH → Prop) (X : String → qH → Prop) (t : Nat) (h : qH) : Prop := WA D m_X3_faults Q X 24 [(0, va_rf (some t))] [] h
def L_X3_faults_45 (D : qD) (Q : Option Value → qH → Prop) (X : String → qH → Prop) (t : Nat) (v1 : Int32) (v2 : Int32) (v3 : Int32) (v4 : Int32) (h : qH) : Prop := WA D m_X3_faults Q X 45 [(0, va_rf (some t)), (1, .int v1), (2, .int v2), (3, .int v3), (4, .int v4)] [] h
def L_X3_faults_96 (D : qD) (Q : Option Value → qH → Prop) (X : String → qH → Prop) (t : Nat) (v2 : Int32) (v3 : Int32) (h : qH) : Prop := WA D m_X3_faults Q X 96 [(0, va_rf (some t)), (2, .int v2), (3, .int v3)] [] h
def L_X3_faults_87 (D : qD) (Q : Option Value → qH → Prop) (X : String → qH → Prop) (t : Nat) (v1 : Int32) (v2 : Int32) (v4 : Int32) (s0 : Int32) (h : qH) : Prop := WA D m_X3_faults Q X 87 [(0, va_rf (some t)), (1, .int v1), (2, .int v2), (4, .int v4)] [.int s0] h
def L_X3_faults_88 (D : qD) (Q : Option Value → qH → Prop) (X : String → qH → Prop) (t : Nat) (v1 : Int32) (v2 : Int32) (v4 : Int32) (s0 : Int32) (s1 : Int32) (h : qH) : Prop := WA D m_X3_faults Q X 88 [(0, va_rf (some t)), (1, .int v1), (2, .int v2), (4, .int v4)] [.int s0, .int s1] h
def L_X3_faults_99 (D : qD) (Q : Option Value → qH → Prop) (X : String → qH → Prop) (t : Nat) (v2 : Int32) (v3 : Int32) (v4 : Int32) (h : qH) : Prop := WA D m_X3_faults Q X 99 [(0, va_rf (some t)), (2, .int v2), (3, .int v3), (4, .int v4)] [] h
def L_X3_faults_141 (D : qD) (Q : Option Value → qH → Prop) (X : String → qH → Prop) (t : Nat) (v2 : Int32) (v3 : Int32) (h : qH) : Prop := WA D m_X3_faults Q X 141 [(0, va_rf (some t)), (2, .int v2), (3, .int v3)] [] h
def L_X3_faults_133 (D : qD) (Q : Option Value → qH → Prop) (X : String → qH → Prop) (t : Nat) (v2 : Int32) (v4 : Int32) (s0 : Int32) (s1 : Int32) (h : qH) : Prop := WA D m_X3_faults Q X 133 [(0, va_rf (some t)), (2, .int v2), (4, .int v4)] [.int s0, .int s1] h
def L_X3_faults_144 (D : qD) (Q : Option Value → qH → Prop) (X : String → qH → Prop) (t : Nat) (v2 : Int32) (v3 : Int32) (v4 : Int32) (h : qH) : Prop := WA D m_X3_faults Q X 144 [(0, va_rf (some t)), (2, .int v2), (3, .int v3), (4, .int v4)] [] h
def L_X3_faults_197 (D : qD) (Q : Option Value → qH → Prop) (X : String → qH → Prop) (t : Nat) (v2 : Int32) (v3 : Int32) (h : qH) : Prop := WA D m_X3_faults Q X 197 [(0, va_rf (some t)), (2, .int v2), (3, .int v3)] [] h
def L_X3_faults_188 (D : qD) (Q : Option Value → qH → Prop) (X : String → qH → Prop) (t : Nat) (v2 : Int32) (v4 : Int32) (s0 : Int32) (h : qH) : Prop := WA D m_X3_faults Q X 188 [(0, va_rf (some t)), (2, .int v2), (4, .int v4)] [.int s0] h
def L_X3_faults_189 (D : qD) (Q : Option Value → qH → Prop) (X : String → qH → Prop) (t : Nat) (v2 : Int32) (v4 : Int32) (s0 : Int32) (s1 : Int32) (h : qH) : Prop := WA D m_X3_faults Q X 189 [(0, va_rf (some t)), (2, .int v2), (4, .int v4)] [.int s0, .int s1] h
def L_X3_faults_200 (D : qD) (Q : Option Value → qH → Prop) (X : String → qH → Prop) (t : Nat) (v2 : Int32) (v3 : Int32) (v4 : Int32) (h : qH) : Prop := WA D m_X3_faults Q X 200 [(0, va_rf (some t)), (2, .int v2), (3, .int v3), (4, .int v4)] [] h
def L_X3_faults_250 (D : qD) (Q : Option Value → qH → Prop) (X : String → qH → Prop) (t : Nat) (v2 : Int32) (v3 : Int32) (h : qH) : Prop := WA D m_X3_faults Q X 250 [(0, va_rf (some t)), (2, .int v2), (3, .int v3)] [] h
def L_X3_faults_241 (D : qD) (Q : Option Value → qH → Prop) (X : String → qH → Prop) (t : Nat) (v2 : Int32) (v4 : Int32) (s0 : Int32) (h : qH) : Prop := WA D m_X3_faults Q X 241 [(0, va_rf (some t)), (2, .int v2), (4, .int v4)] [.int s0] h
def L_X3_faults_242 (D : qD) (Q : Option Value → qH → Prop) (X : String → qH → Prop) (t : Nat) (v2 : Int32) (v4 : Int32) (s0 : Int32) (s1 : Int32) (h : qH) : Prop := WA D m_X3_faults Q X 242 [(0, va_rf (some t)), (2, .int v2), (4, .int v4)] [.int s0, .int s1] h
theorem f_X3_faults {D : qD} {Q : Option Value → qH → Prop} {X : String → qH → Prop} (t : Nat) (p0 : Int32) (p1 : Int32) (h : qH) (F : c_I D m_X3_in [.long p0.toInt64, .long 0, .long 3] h X (fun x2 h1 => ((x2 = 0 → L_X3_faults_24 D Q X t h1) ∧ (¬ x2 = 0 → c_I D m_X3_in [.long p1.toInt64, .long 0, .long 4] h1 X (fun x4 h3 => ((¬ x4 = 0 → p_F h3 (some t) 2 37 (.int 0) (fun h5 => (recv D h5 (some t) RX3 ∧ c_V D m_X3_lay [va_rf (some t), .int p0] h5 X (fun h6 => L_X3_faults_45 D Q X t p0 p1 0 0 h6)))) ∧ (x4 = 0 → L_X3_faults_24 D Q X t h3))))))) : MW D m_X3_faults [va_rf (some t), .int p0, .int p1] h Q X := by
  refine mw_of pl_X3_faults rfl _ (Nat.le_of_ble_eq_true rfl) rfl ?_
  refine (show WA D m_X3_faults Q X 0 [(0, va_rf (some t)), (1, .int p0), (2, .int p1)] [] h from ?_)
  refine wa_iload_n (x := p0) dX3_faults_0 rfl 1 rfl ?_
  refine wa_i2l dX3_faults_1 ?_
  refine wa_lconst (v := 0) dX3_faults_2 rfl ?_
  refine wa_ldc2 (v := 3) dX3_faults_3 q1330 ?_
  refine wa_callS (M' := m_X3_in) (As := [.long p0.toInt64, .long 0, .long 3]) (st := []) dX3_faults_6 ⟨Nat.le_of_ble_eq_true rfl, Nat.le_of_ble_eq_true rfl, nk_X3_in⟩ q1316 q1317 q59 q1318 rfl rfl (Nat.zero_le 8) rfl F (wk_I fun x2 h1 F => ?_)
  refine wa_if_eq (tgt := 24) dX3_faults_9 rfl (fun z => ?_) (fun z => ?_)
  · have F := F.1 z
    exact wa_sub [0] rfl F
  · have F := F.2 z
    refine wa_iload_n (x := p1) dX3_faults_12 rfl 2 rfl ?_
    refine wa_i2l dX3_faults_13 ?_
    refine wa_lconst (v := 0) dX3_faults_14 rfl ?_
    refine wa_ldc2 (v := 4) dX3_faults_15 q1331 ?_
    refine wa_callS (M' := m_X3_in) (As := [.long p1.toInt64, .long 0, .long 4]) (st := []) dX3_faults_18 ⟨Nat.le_of_ble_eq_true rfl, Nat.le_of_ble_eq_true rfl, nk_X3_in⟩ q1316 q1317 q59 q1318 rfl rfl (Nat.zero_le 8) rfl F (wk_I fun x4 h3 F => ?_)
    refine wa_if_ne (tgt := 30) dX3_faults_21 rfl (fun z => ?_) (fun z => ?_)
    · have F := F.1 z
      refine wa_aload_n (o := (some t)) dX3_faults_30 rfl 0 rfl ?_
      refine wa_iconst (v := 0) dX3_faults_31 rfl ?_
      refine wa_put (C := RX3) (T := TX3) (N := 38) (ci := 2) (k := 37) tyX3 dX3_faults_32 rfl (Nat.le_of_ble_eq_true rfl) in_X3 tyX3_ok nmX3 q1229 q_same_own rfl rfl rfl (p_F_mono F fun h5 F => ?_)
      refine wa_aload_n (o := (some t)) dX3_faults_35 rfl 0 rfl ?_
      refine wa_iload_n (x := p0) dX3_faults_36 rfl 1 rfl ?_
      refine wa_callV (M' := m_X3_lay) (C := RX3) (o := (some t)) (As := [.int p0]) (st := []) dX3_faults_37 ⟨Nat.le_of_ble_eq_true rfl, Nat.le_of_ble_eq_true rfl, nk_X3_lay⟩ q1407 q1409 qs33 q59 q1410 rfl rfl (Nat.zero_le 8) rfl F.1 F.2 (wk_V fun h6 F => ?_)
      refine wa_iconst (v := 0) dX3_faults_40 rfl ?_
      refine ws_istore_n (lv' := [(3, .int 0), (0, va_rf (some t)), (1, .int p0), (2, .int p1)]) dX3_faults_41 rfl (Nat.le_of_ble_eq_true rfl) (q_cr (q_ci (q_ci q_cn))) rfl ?_
      refine wa_iconst (v := 0) dX3_faults_42 rfl ?_
      refine ws_istore (lv' := [(4, .int 0), (3, .int 0), (0, va_rf (some t)), (1, .int p0), (2, .int p1)]) dX3_faults_43 (Nat.le_of_ble_eq_true rfl) (q_ci (q_cr (q_ci (q_ci q_cn)))) rfl ?_
      exact wa_sub [2, 3, 4, 1, 0] rfl F
    · have F := F.2 z
      exact wa_sub [0] rfl F
theorem f_X3_faults_24 {D : qD} {Q : Option Value → qH → Prop} {X : String → qH → Prop} (t : Nat) (h : qH) (F : (recv D h (some t) RX3 ∧ c_I D m_X3_fails [va_rf (some t), .int 1] h X (fun x2 h1 => Q (some (.int x2)) h1))) : L_X3_faults_24 D Q X t h := by
  show WA D m_X3_faults Q X 24 [(0, va_rf (some t))] [] h
  refine wa_aload_n (o := (some t)) dX3_faults_24 rfl 0 rfl ?_
  refine wa_iconst (v := 1) dX3_faults_25 rfl ?_
  refine wa_callV (M' := m_X3_fails) (C := RX3) (o := (some t)) (As := [.int 1]) (st := []) dX3_faults_26 ⟨Nat.le_of_ble_eq_true rfl, Nat.le_of_ble_eq_true rfl, nk_X3_fails⟩ q1319 q1321 qs23 q59 q1322 rfl rfl (Nat.zero_le 8) rfl F.1 F.2 (wk_I fun x2 h1 F => ?_)
  exact wa_iret rfl dX3_faults_29 F
theorem f_X3_faults_45 {D : qD} {Q : Option Value → qH → Prop} {X : String → qH → Prop} (t : Nat) (v1 : Int32) (v2 : Int32) (v3 : Int32) (v4 : Int32) (h : qH) (F : g_I D h (some t) 2 0 (fun x1 => ((x1 ≤ v4 → L_X3_faults_96 D Q X t v2 v3 h) ∧ (¬ x1 ≤ v4 → ((¬ v2 = 0 → L_X3_faults_96 D Q X t v2 v3 h) ∧ (v2 = 0 → (recv D h (some t) RX3 ∧ c_I D m_X3_isPrinted [va_rf (some t), .int v1, .int v4] h X (fun x3 h2 => ((x3 = 0 → L_X3_faults_87 D Q X t v1 v2 v4 v3 h2) ∧ (¬ x3 = 0 → (recv D h2 (some t) RX3 ∧ c_I D m_X3_wide [va_rf (some t), .int v1, .int v4] h2 X (fun x5 h4 => g_I D h4 (some t) 2 8 (fun x6 => ((x5 ≤ x6 → L_X3_faults_87 D Q X t v1 v2 v4 v3 h4) ∧ (¬ x5 ≤ x6 → L_X3_faults_88 D Q X t v1 v2 v4 1 v3 h4))))))))))))))) : L_X3_faults_45 D Q X t v1 v2 v3 v4 h := by
  show WA D m_X3_faults Q X 45 [(0, va_rf (some t)), (1, .int v1), (2, .int v2), (3, .int v3), (4, .int v4)] [] h
  refine wa_iload (x := v4) dX3_faults_45 4 rfl ?_
  refine wa_aload_n (o := (some t)) dX3_faults_47 rfl 0 rfl ?_
  refine wa_getI (C := RX3) (T := TX3) (N := 38) (ci := 2) (k := 0) dX3_faults_48 rfl (Nat.le_of_ble_eq_true rfl) in_X3 q1192 q_same_own (g_I_mono F fun x1 F => ?_)
  refine wa_icmp_ge (tgt := 96) dX3_faults_51 rfl (fun z => ?_) (fun z => ?_)
  · have F := F.1 z
    exact wa_sub [0, 2, 3] rfl F
  · have F := F.2 z
    refine wa_iload_n (x := v2) dX3_faults_54 rfl 2 rfl ?_
    refine wa_if_ne (tgt := 96) dX3_faults_55 rfl (fun z => ?_) (fun z => ?_)
    · have F := F.1 z
      exact wa_sub [0, 2, 3] rfl F
    · have F := F.2 z
      refine wa_iload_n (x := v3) dX3_faults_58 rfl 3 rfl ?_
      refine wa_aload_n (o := (some t)) dX3_faults_59 rfl 0 rfl ?_
      refine wa_iload_n (x := v1) dX3_faults_60 rfl 1 rfl ?_
      refine wa_iload (x := v4) dX3_faults_61 4 rfl ?_
      refine wa_callV (M' := m_X3_isPrinted) (C := RX3) (o := (some t)) (As := [.int v1, .int v4]) (st := [.int v3]) dX3_faults_63 ⟨Nat.le_of_ble_eq_true rfl, Nat.le_of_ble_eq_true rfl, nk_X3_isPrinted⟩ q1371 q1373 qs27 q59 q1374 rfl rfl (q_cs_le (q_csi q_cs0) (Nat.le_of_ble_eq_true rfl)) rfl F.1 F.2 (wk_I fun x3 h2 F => ?_)
      refine wa_if_eq (tgt := 87) dX3_faults_66 rfl (fun z => ?_) (fun z => ?_)
      · have F := F.1 z
        exact wa_sub [0, 1, 2, 4] rfl F
      · have F := F.2 z
        refine wa_aload_n (o := (some t)) dX3_faults_69 rfl 0 rfl ?_
        refine wa_iload_n (x := v1) dX3_faults_70 rfl 1 rfl ?_
        refine wa_iload (x := v4) dX3_faults_71 4 rfl ?_
        refine wa_callV (M' := m_X3_wide) (C := RX3) (o := (some t)) (As := [.int v1, .int v4]) (st := [.int v3]) dX3_faults_73 ⟨Nat.le_of_ble_eq_true rfl, Nat.le_of_ble_eq_true rfl, nk_X3_wide⟩ q1375 q1377 qs28 q59 q1378 rfl rfl (q_cs_le (q_csi q_cs0) (Nat.le_of_ble_eq_true rfl)) rfl F.1 F.2 (wk_I fun x5 h4 F => ?_)
        refine wa_aload_n (o := (some t)) dX3_faults_76 rfl 0 rfl ?_
        refine wa_getI (C := RX3) (T := TX3) (N := 38) (ci := 2) (k := 8) dX3_faults_77 rfl (Nat.le_of_ble_eq_true rfl) in_X3 q1200 q_same_own (g_I_mono F fun x6 F => ?_)
        refine wa_icmp_le (tgt := 87) dX3_faults_80 rfl (fun z => ?_) (fun z => ?_)
        · have F := F.1 z
          exact wa_sub [0, 1, 2, 4] rfl F
        · have F := F.2 z
          refine wa_iconst (v := 1) dX3_faults_83 rfl ?_
          refine wa_goto (tgt := 88) dX3_faults_84 rfl ?_
          exact wa_sub [0, 1, 2, 4] rfl F
theorem f_X3_faults_96 {D : qD} {Q : Option Value → qH → Prop} {X : String → qH → Prop} (t : Nat) (v2 : Int32) (v3 : Int32) (h : qH) (F : L_X3_faults_99 D Q X t v2 v3 0 h) : L_X3_faults_96 D Q X t v2 v3 h := by
  show WA D m_X3_faults Q X 96 [(0, va_rf (some t)), (2, .int v2), (3, .int v3)] [] h
  refine wa_iconst (v := 0) dX3_faults_96 rfl ?_
  refine ws_istore (lv' := [(4, .int 0), (0, va_rf (some t)), (2, .int v2), (3, .int v3)]) dX3_faults_97 (Nat.le_of_ble_eq_true rfl) (q_cr (q_ci (q_ci q_cn))) rfl ?_
  exact wa_sub [1, 2, 3, 0] rfl F
theorem f_X3_faults_87 {D : qD} {Q : Option Value → qH → Prop} {X : String → qH → Prop} (t : Nat) (v1 : Int32) (v2 : Int32) (v4 : Int32) (s0 : Int32) (h : qH) (F : L_X3_faults_88 D Q X t v1 v2 v4 0 s0 h) : L_X3_faults_87 D Q X t v1 v2 v4 s0 h := by
  show WA D m_X3_faults Q X 87 [(0, va_rf (some t)), (1, .int v1), (2, .int v2), (4, .int v4)] [.int s0] h
  refine wa_iconst (v := 0) dX3_faults_87 rfl ?_
  exact F
theorem f_X3_faults_88 {D : qD} {Q : Option Value → qH → Prop} {X : String → qH → Prop} (t : Nat) (v1 : Int32) (v2 : Int32) (v4 : Int32) (s0 : Int32) (s1 : Int32) (h : qH) (F : L_X3_faults_45 D Q X t v1 v2 (s1 + s0) (v4 + 1) h) : L_X3_faults_88 D Q X t v1 v2 v4 s0 s1 h := by
  show WA D m_X3_faults Q X 88 [(0, va_rf (some t)), (1, .int v1), (2, .int v2), (4, .int v4)] [.int s0, .int s1] h
  refine wa_iadd dX3_faults_88 ?_
  refine ws_istore_n (lv' := [(3, .int (s1 + s0)), (0, va_rf (some t)), (1, .int v1), (2, .int v2), (4, .int v4)]) dX3_faults_89 rfl (Nat.le_of_ble_eq_true rfl) (q_cr (q_ci (q_ci (q_ci q_cn)))) rfl ?_
  refine ws_iinc (j := 4) (v := (v4 + 1)) (lv' := [(4, .int (v4 + 1)), (3, .int (s1 + s0)), (0, va_rf (some t)), (1, .int v1), (2, .int v2)]) dX3_faults_90 rfl rfl (Nat.le_of_ble_eq_true rfl) (q_ci (q_cr (q_ci (q_ci (q_ci q_cn))))) rfl ?_
  refine wa_goto (tgt := 45) dX3_faults_93 rfl ?_
  exact wa_sub [2, 3, 4, 1, 0] rfl F
theorem f_X3_faults_99 {D : qD} {Q : Option Value → qH → Prop} {X : String → qH → Prop} (t : Nat) (v2 : Int32) (v3 : Int32) (v4 : Int32) (h : qH) (F : g_I D h (some t) 2 14 (fun x1 => ((x1 ≤ v4 → L_X3_faults_141 D Q X t v2 v3 h) ∧ (¬ x1 ≤ v4 → ((¬ v2 = 1 → L_X3_faults_141 D Q X t v2 v3 h) ∧ (v2 = 1 → (recv D h (some t) RX3 ∧ c_I D m_X3_needs [va_rf (some t), .int v4, .int 0] h X (fun x3 h2 => g_I D h2 (some t) 2 9 (fun x4 => ((x3 ≤ x4 → L_X3_faults_133 D Q X t v2 v4 0 v3 h2) ∧ (¬ x3 ≤ x4 → L_X3_faults_133 D Q X t v2 v4 1 v3 h2))))))))))) : L_X3_faults_99 D Q X t v2 v3 v4 h := by
  show WA D m_X3_faults Q X 99 [(0, va_rf (some t)), (2, .int v2), (3, .int v3), (4, .int v4)] [] h
  refine wa_iload (x := v4) dX3_faults_99 3 rfl ?_
  refine wa_aload_n (o := (some t)) dX3_faults_101 rfl 0 rfl ?_
  refine wa_getI (C := RX3) (T := TX3) (N := 38) (ci := 2) (k := 14) dX3_faults_102 rfl (Nat.le_of_ble_eq_true rfl) in_X3 q1206 q_same_own (g_I_mono F fun x1 F => ?_)
  refine wa_icmp_ge (tgt := 141) dX3_faults_105 rfl (fun z => ?_) (fun z => ?_)
  · have F := F.1 z
    exact wa_sub [0, 1, 2] rfl F
  · have F := F.2 z
    refine wa_iload_n (x := v2) dX3_faults_108 rfl 1 rfl ?_
    refine wa_iconst (v := 1) dX3_faults_109 rfl ?_
    refine wa_icmp_ne (tgt := 141) dX3_faults_110 rfl (fun z => ?_) (fun z => ?_)
    · have F := F.1 z
      exact wa_sub [0, 1, 2] rfl F
    · have F := F.2 z
      refine wa_iload_n (x := v3) dX3_faults_113 rfl 2 rfl ?_
      refine wa_aload_n (o := (some t)) dX3_faults_114 rfl 0 rfl ?_
      refine wa_iload (x := v4) dX3_faults_115 3 rfl ?_
      refine wa_iconst (v := 0) dX3_faults_117 rfl ?_
      refine wa_callV (M' := m_X3_needs) (C := RX3) (o := (some t)) (As := [.int v4, .int 0]) (st := [.int v3]) dX3_faults_118 ⟨Nat.le_of_ble_eq_true rfl, Nat.le_of_ble_eq_true rfl, nk_X3_needs⟩ q1423 q1425 qs37 q59 q1426 rfl rfl (q_cs_le (q_csi q_cs0) (Nat.le_of_ble_eq_true rfl)) rfl F.1 F.2 (wk_I fun x3 h2 F => ?_)
      refine wa_aload_n (o := (some t)) dX3_faults_121 rfl 0 rfl ?_
      refine wa_getI (C := RX3) (T := TX3) (N := 38) (ci := 2) (k := 9) dX3_faults_122 rfl (Nat.le_of_ble_eq_true rfl) in_X3 q1201 q_same_own (g_I_mono F fun x4 F => ?_)
      refine wa_icmp_le (tgt := 132) dX3_faults_125 rfl (fun z => ?_) (fun z => ?_)
      · have F := F.1 z
        refine wa_iconst (v := 0) dX3_faults_132 rfl ?_
        exact wa_sub [0, 1, 3] rfl F
      · have F := F.2 z
        refine wa_iconst (v := 1) dX3_faults_128 rfl ?_
        refine wa_goto (tgt := 133) dX3_faults_129 rfl ?_
        exact wa_sub [0, 1, 3] rfl F
theorem f_X3_faults_141 {D : qD} {Q : Option Value → qH → Prop} {X : String → qH → Prop} (t : Nat) (v2 : Int32) (v3 : Int32) (h : qH) (F : L_X3_faults_144 D Q X t v2 v3 0 h) : L_X3_faults_141 D Q X t v2 v3 h := by
  show WA D m_X3_faults Q X 141 [(0, va_rf (some t)), (2, .int v2), (3, .int v3)] [] h
  refine wa_iconst (v := 0) dX3_faults_141 rfl ?_
  refine ws_istore (lv' := [(4, .int 0), (0, va_rf (some t)), (2, .int v2), (3, .int v3)]) dX3_faults_142 (Nat.le_of_ble_eq_true rfl) (q_cr (q_ci (q_ci q_cn))) rfl ?_
  exact wa_sub [1, 2, 3, 0] rfl F
theorem f_X3_faults_133 {D : qD} {Q : Option Value → qH → Prop} {X : String → qH → Prop} (t : Nat) (v2 : Int32) (v4 : Int32) (s0 : Int32) (s1 : Int32) (h : qH) (F : L_X3_faults_99 D Q X t v2 (s1 + s0) (v4 + 1) h) : L_X3_faults_133 D Q X t v2 v4 s0 s1 h := by
  show WA D m_X3_faults Q X 133 [(0, va_rf (some t)), (2, .int v2), (4, .int v4)] [.int s0, .int s1] h
  refine wa_iadd dX3_faults_133 ?_
  refine ws_istore_n (lv' := [(3, .int (s1 + s0)), (0, va_rf (some t)), (2, .int v2), (4, .int v4)]) dX3_faults_134 rfl (Nat.le_of_ble_eq_true rfl) (q_cr (q_ci (q_ci q_cn))) rfl ?_
  refine ws_iinc (j := 3) (v := (v4 + 1)) (lv' := [(4, .int (v4 + 1)), (3, .int (s1 + s0)), (0, va_rf (some t)), (2, .int v2)]) dX3_faults_135 rfl rfl (Nat.le_of_ble_eq_true rfl) (q_ci (q_cr (q_ci (q_ci q_cn)))) rfl ?_
  refine wa_goto (tgt := 99) dX3_faults_138 rfl ?_
  exact wa_sub [2, 3, 1, 0] rfl F
theorem f_X3_faults_144 {D : qD} {Q : Option Value → qH → Prop} {X : String → qH → Prop} (t : Nat) (v2 : Int32) (v3 : Int32) (v4 : Int32) (h : qH) (F : g_I D h (some t) 2 0 (fun x1 => ((x1 ≤ v4 → L_X3_faults_197 D Q X t v2 v3 h) ∧ (¬ x1 ≤ v4 → ((¬ v2 = 2 → L_X3_faults_197 D Q X t v2 v3 h) ∧ (v2 = 2 → g_R D h (some t) 2 1 (fun r2 => a_I D h r2 0 v4 (fun x3 => ((¬ x3 = 4 → L_X3_faults_188 D Q X t v2 v4 v3 h) ∧ (x3 = 4 → g_R D h (some t) 2 2 (fun r4 => a_I D h r4 0 v4 (fun x5 => g_I D h (some t) 2 9 (fun x6 => ((x5 ≤ x6 → L_X3_faults_188 D Q X t v2 v4 v3 h) ∧ (¬ x5 ≤ x6 → L_X3_faults_189 D Q X t v2 v4 1 v3 h))))))))))))))) : L_X3_faults_144 D Q X t v2 v3 v4 h := by
  show WA D m_X3_faults Q X 144 [(0, va_rf (some t)), (2, .int v2), (3, .int v3), (4, .int v4)] [] h
  refine wa_iload (x := v4) dX3_faults_144 3 rfl ?_
  refine wa_aload_n (o := (some t)) dX3_faults_146 rfl 0 rfl ?_
  refine wa_getI (C := RX3) (T := TX3) (N := 38) (ci := 2) (k := 0) dX3_faults_147 rfl (Nat.le_of_ble_eq_true rfl) in_X3 q1192 q_same_own (g_I_mono F fun x1 F => ?_)
  refine wa_icmp_ge (tgt := 197) dX3_faults_150 rfl (fun z => ?_) (fun z => ?_)
  · have F := F.1 z
    exact wa_sub [0, 1, 2] rfl F
  · have F := F.2 z
    refine wa_iload_n (x := v2) dX3_faults_153 rfl 1 rfl ?_
    refine wa_iconst (v := 2) dX3_faults_154 rfl ?_
    refine wa_icmp_ne (tgt := 197) dX3_faults_155 rfl (fun z => ?_) (fun z => ?_)
    · have F := F.1 z
      exact wa_sub [0, 1, 2] rfl F
    · have F := F.2 z
      refine wa_iload_n (x := v3) dX3_faults_158 rfl 2 rfl ?_
      refine wa_aload_n (o := (some t)) dX3_faults_159 rfl 0 rfl ?_
      refine wa_getR (C := RX3) (T := TX3) (N := 38) (ci := 2) (k := 1) dX3_faults_160 rfl (Nat.le_of_ble_eq_true rfl) in_X3 q1193 q_same_own (g_R_mono F fun r2 F => ?_)
      refine wa_iload (x := v4) dX3_faults_163 3 rfl ?_
      refine wa_iald dX3_faults_165 (a_I_mono F fun x3 F => ?_)
      refine wa_iconst (v := 4) dX3_faults_166 rfl ?_
      refine wa_icmp_ne (tgt := 188) dX3_faults_167 rfl (fun z => ?_) (fun z => ?_)
      · have F := F.1 z
        exact wa_sub [0, 1, 3] rfl F
      · have F := F.2 z
        refine wa_aload_n (o := (some t)) dX3_faults_170 rfl 0 rfl ?_
        refine wa_getR (C := RX3) (T := TX3) (N := 38) (ci := 2) (k := 2) dX3_faults_171 rfl (Nat.le_of_ble_eq_true rfl) in_X3 q1194 q_same_own (g_R_mono F fun r4 F => ?_)
        refine wa_iload (x := v4) dX3_faults_174 3 rfl ?_
        refine wa_iald dX3_faults_176 (a_I_mono F fun x5 F => ?_)
        refine wa_aload_n (o := (some t)) dX3_faults_177 rfl 0 rfl ?_
        refine wa_getI (C := RX3) (T := TX3) (N := 38) (ci := 2) (k := 9) dX3_faults_178 rfl (Nat.le_of_ble_eq_true rfl) in_X3 q1201 q_same_own (g_I_mono F fun x6 F => ?_)
        refine wa_icmp_le (tgt := 188) dX3_faults_181 rfl (fun z => ?_) (fun z => ?_)
        · have F := F.1 z
          exact wa_sub [0, 1, 3] rfl F
        · have F := F.2 z
          refine wa_iconst (v := 1) dX3_faults_184 rfl ?_
          refine wa_goto (tgt := 189) dX3_faults_185 rfl ?_
          exact wa_sub [0, 1, 3] rfl F
theorem f_X3_faults_197 {D : qD} {Q : Option Value → qH → Prop} {X : String → qH → Prop} (t : Nat) (v2 : Int32) (v3 : Int32) (h : qH) (F : L_X3_faults_200 D Q X t v2 v3 0 h) : L_X3_faults_197 D Q X t v2 v3 h := by
  show WA D m_X3_faults Q X 197 [(0, va_rf (some t)), (2, .int v2), (3, .int v3)] [] h
  refine wa_iconst (v := 0) dX3_faults_197 rfl ?_
  refine ws_istore (lv' := [(4, .int 0), (0, va_rf (some t)), (2, .int v2), (3, .int v3)]) dX3_faults_198 (Nat.le_of_ble_eq_true rfl) (q_cr (q_ci (q_ci q_cn))) rfl ?_
  exact wa_sub [1, 2, 3, 0] rfl F
theorem f_X3_faults_188 {D : qD} {Q : Option Value → qH → Prop} {X : String → qH → Prop} (t : Nat) (v2 : Int32) (v4 : Int32) (s0 : Int32) (h : qH) (F : L_X3_faults_189 D Q X t v2 v4 0 s0 h) : L_X3_faults_188 D Q X t v2 v4 s0 h := by
  show WA D m_X3_faults Q X 188 [(0, va_rf (some t)), (2, .int v2), (4, .int v4)] [.int s0] h
  refine wa_iconst (v := 0) dX3_faults_188 rfl ?_
  exact F
theorem f_X3_faults_189 {D : qD} {Q : Option Value → qH → Prop} {X : String → qH → Prop} (t : Nat) (v2 : Int32) (v4 : Int32) (s0 : Int32) (s1 : Int32) (h : qH) (F : L_X3_faults_144 D Q X t v2 (s1 + s0) (v4 + 1) h) : L_X3_faults_189 D Q X t v2 v4 s0 s1 h := by
  show WA D m_X3_faults Q X 189 [(0, va_rf (some t)), (2, .int v2), (4, .int v4)] [.int s0, .int s1] h
  refine wa_iadd dX3_faults_189 ?_
  refine ws_istore_n (lv' := [(3, .int (s1 + s0)), (0, va_rf (some t)), (2, .int v2), (4, .int v4)]) dX3_faults_190 rfl (Nat.le_of_ble_eq_true rfl) (q_cr (q_ci (q_ci q_cn))) rfl ?_
  refine ws_iinc (j := 3) (v := (v4 + 1)) (lv' := [(4, .int (v4 + 1)), (3, .int (s1 + s0)), (0, va_rf (some t)), (2, .int v2)]) dX3_faults_191 rfl rfl (Nat.le_of_ble_eq_true rfl) (q_ci (q_cr (q_ci (q_ci q_cn)))) rfl ?_
  refine wa_goto (tgt := 144) dX3_faults_194 rfl ?_
  exact wa_sub [2, 3, 1, 0] rfl F
theorem f_X3_faults_200 {D : qD} {Q : Option Value → qH → Prop} {X : String → qH → Prop} (t : Nat) (v2 : Int32) (v3 : Int32) (v4 : Int32) (h : qH) (F : ((10 ≤ v4 → L_X3_faults_250 D Q X t v2 v3 h) ∧ (¬ 10 ≤ v4 → ((¬ v2 = 4 → L_X3_faults_250 D Q X t v2 v3 h) ∧ (v2 = 4 → g_R D h (some t) 2 11 (fun r1 => a_I D h r1 0 v4 (fun x2 => ((x2 = (-1) → L_X3_faults_241 D Q X t v2 v4 v3 h) ∧ (¬ x2 = (-1) → (recv D h (some t) RX3 ∧ c_I D m_X3_lastOf [va_rf (some t), .int v4] h X (fun x4 h3 => (recv D h3 (some t) RX3 ∧ c_I D m_X3_isMarked [va_rf (some t), .int x4] h3 X (fun x6 h5 => ((¬ x6 = 0 → L_X3_faults_241 D Q X t v2 v4 v3 h5) ∧ (x6 = 0 → L_X3_faults_242 D Q X t v2 v4 1 v3 h5))))))))))))))) : L_X3_faults_200 D Q X t v2 v3 v4 h := by
  show WA D m_X3_faults Q X 200 [(0, va_rf (some t)), (2, .int v2), (3, .int v3), (4, .int v4)] [] h
  refine wa_iload (x := v4) dX3_faults_200 3 rfl ?_
  refine wa_bipush (v := 10) dX3_faults_202 rfl ?_
  refine wa_icmp_ge (tgt := 250) dX3_faults_204 rfl (fun z => ?_) (fun z => ?_)
  · have F := F.1 z
    exact wa_sub [0, 1, 2] rfl F
  · have F := F.2 z
    refine wa_iload_n (x := v2) dX3_faults_207 rfl 1 rfl ?_
    refine wa_iconst (v := 4) dX3_faults_208 rfl ?_
    refine wa_icmp_ne (tgt := 250) dX3_faults_209 rfl (fun z => ?_) (fun z => ?_)
    · have F := F.1 z
      exact wa_sub [0, 1, 2] rfl F
    · have F := F.2 z
      refine wa_iload_n (x := v3) dX3_faults_212 rfl 2 rfl ?_
      refine wa_aload_n (o := (some t)) dX3_faults_213 rfl 0 rfl ?_
      refine wa_getR (C := RX3) (T := TX3) (N := 38) (ci := 2) (k := 11) dX3_faults_214 rfl (Nat.le_of_ble_eq_true rfl) in_X3 q1203 q_same_own (g_R_mono F fun r1 F => ?_)
      refine wa_iload (x := v4) dX3_faults_217 3 rfl ?_
      refine wa_iald dX3_faults_219 (a_I_mono F fun x2 F => ?_)
      refine wa_iconst (v := -1) dX3_faults_220 rfl ?_
      refine wa_icmp_eq (tgt := 241) dX3_faults_221 rfl (fun z => ?_) (fun z => ?_)
      · have F := F.1 z
        exact wa_sub [0, 1, 3] rfl F
      · have F := F.2 z
        refine wa_aload_n (o := (some t)) dX3_faults_224 rfl 0 rfl ?_
        refine wa_aload_n (o := (some t)) dX3_faults_225 rfl 0 rfl ?_
        refine wa_iload (x := v4) dX3_faults_226 3 rfl ?_
        refine wa_callV (M' := m_X3_lastOf) (C := RX3) (o := (some t)) (As := [.int v4]) (st := [va_rf (some t), .int v3]) dX3_faults_228 ⟨Nat.le_of_ble_eq_true rfl, Nat.le_of_ble_eq_true rfl, nk_X3_lastOf⟩ q1483 q1485 qs45 q59 q1486 rfl rfl (q_cs_le (q_csr (q_csi q_cs0)) (Nat.le_of_ble_eq_true rfl)) rfl F.1 F.2 (wk_I fun x4 h3 F => ?_)
        refine wa_callV (M' := m_X3_isMarked) (C := RX3) (o := (some t)) (As := [.int x4]) (st := [.int v3]) dX3_faults_231 ⟨Nat.le_of_ble_eq_true rfl, Nat.le_of_ble_eq_true rfl, nk_X3_isMarked⟩ q1513 q1515 qs49 q59 q1516 rfl rfl (q_cs_le (q_csi q_cs0) (Nat.le_of_ble_eq_true rfl)) rfl F.1 F.2 (wk_I fun x6 h5 F => ?_)
        refine wa_if_ne (tgt := 241) dX3_faults_234 rfl (fun z => ?_) (fun z => ?_)
        · have F := F.1 z
          exact wa_sub [0, 1, 3] rfl F
        · have F := F.2 z
          refine wa_iconst (v := 1) dX3_faults_237 rfl ?_
          refine wa_goto (tgt := 242) dX3_faults_238 rfl ?_
          exact wa_sub [0, 1, 3] rfl F
theorem f_X3_faults_250 {D : qD} {Q : Option Value → qH → Prop} {X : String → qH → Prop} (t : Nat) (v2 : Int32) (v3 : Int32) (h : qH) (F : ((¬ v2 = 3 → Q (some (.int v3)) h) ∧ (v2 = 3 → g_I D h (some t) 2 24 (fun x1 => ((x1 = 0 → Q (some (.int 1)) h) ∧ (¬ x1 = 0 → Q (some (.int 0)) h)))))) : L_X3_faults_250 D Q X t v2 v3 h := by
  show WA D m_X3_faults Q X 250 [(0, va_rf (some t)), (2, .int v2), (3, .int v3)] [] h
  refine wa_iload_n (x := v2) dX3_faults_250 rfl 1 rfl ?_
  refine wa_iconst (v := 3) dX3_faults_251 rfl ?_
  refine wa_icmp_ne (tgt := 270) dX3_faults_252 rfl (fun z => ?_) (fun z => ?_)
  · have F := F.1 z
    refine wa_iload_n (x := v3) dX3_faults_270 rfl 2 rfl ?_
    exact wa_iret rfl dX3_faults_271 F
  · have F := F.2 z
    refine wa_aload_n (o := (some t)) dX3_faults_255 rfl 0 rfl ?_
    refine wa_getI (C := RX3) (T := TX3) (N := 38) (ci := 2) (k := 24) dX3_faults_256 rfl (Nat.le_of_ble_eq_true rfl) in_X3 q1216 q_same_own (g_I_mono F fun x1 F => ?_)
    refine wa_if_eq (tgt := 266) dX3_faults_259 rfl (fun z => ?_) (fun z => ?_)
    · have F := F.1 z
      refine wa_iconst (v := 1) dX3_faults_266 rfl ?_
      refine wa_goto (tgt := 271) dX3_faults_267 rfl ?_
      exact wa_iret rfl dX3_faults_271 F
    · have F := F.2 z
      refine wa_iconst (v := 0) dX3_faults_262 rfl ?_
      refine wa_goto (tgt := 271) dX3_faults_263 rfl ?_
      exact wa_iret rfl dX3_faults_271 F
theorem f_X3_faults_241 {D : qD} {Q : Option Value → qH → Prop} {X : String → qH → Prop} (t : Nat) (v2 : Int32) (v4 : Int32) (s0 : Int32) (h : qH) (F : L_X3_faults_242 D Q X t v2 v4 0 s0 h) : L_X3_faults_241 D Q X t v2 v4 s0 h := by
  show WA D m_X3_faults Q X 241 [(0, va_rf (some t)), (2, .int v2), (4, .int v4)] [.int s0] h
  refine wa_iconst (v := 0) dX3_faults_241 rfl ?_
  exact F
theorem f_X3_faults_242 {D : qD} {Q : Option Value → qH → Prop} {X : String → qH → Prop} (t : Nat) (v2 : Int32) (v4 : Int32) (s0 : Int32) (s1 : Int32) (h : qH) (F : L_X3_faults_200 D Q X t v2 (s1 + s0) (v4 + 1) h) : L_X3_faults_242 D Q X t v2 v4 s0 s1 h := by
  show WA D m_X3_faults Q X 242 [(0, va_rf (some t)), (2, .int v2), (4, .int v4)] [.int s0, .int s1] h
  refine wa_iadd dX3_faults_242 ?_
  refine ws_istore_n (lv' := [(3, .int (s1 + s0)), (0, va_rf (some t)), (2, .int v2), (4, .int v4)]) dX3_faults_243 rfl (Nat.le_of_ble_eq_true rfl) (q_cr (q_ci (q_ci q_cn))) rfl ?_
  refine ws_iinc (j := 3) (v := (v4 + 1)) (lv' := [(4, .int (v4 + 1)), (3, .int (s1 + s0)), (0, va_rf (some t)), (2, .int v2)]) dX3_faults_244 rfl rfl (Nat.le_of_ble_eq_true rfl) (q_ci (q_cr (q_ci (q_ci q_cn)))) rfl ?_
  refine wa_goto (tgt := 200) dX3_faults_247 rfl ?_
  exact wa_sub [2, 3, 1, 0] rfl F
theorem f_X3_pageAnew {D : qD} {Q : Option Value → qH → Prop} {X : String → qH → Prop} (t : Nat) (p0 : Int32) (p1 : Int32) (h : qH) (F : (recv D h (some t) RX3 ∧ c_I D m_X3_pageOf [va_rf (some t), .int p0, .int p1] h X (fun x2 h1 => Q (some (.int x2)) h1))) : MW D m_X3_pageAnew [va_rf (some t), .int p0, .int p1] h Q X := by
  refine mw_of pl_X3_pageAnew rfl _ (Nat.le_of_ble_eq_true rfl) rfl ?_
  refine (show WA D m_X3_pageAnew Q X 0 [(0, va_rf (some t)), (1, .int p0), (2, .int p1)] [] h from ?_)
  refine wa_aload_n (o := (some t)) dX3_pageAnew_0 rfl 0 rfl ?_
  refine wa_iload_n (x := p0) dX3_pageAnew_1 rfl 1 rfl ?_
  refine wa_iload_n (x := p1) dX3_pageAnew_2 rfl 2 rfl ?_
  refine wa_callV (M' := m_X3_pageOf) (C := RX3) (o := (some t)) (As := [.int p0, .int p1]) (st := []) dX3_pageAnew_3 ⟨Nat.le_of_ble_eq_true rfl, Nat.le_of_ble_eq_true rfl, nk_X3_pageOf⟩ q1462 q1451 q1452 q59 q1453 rfl rfl (Nat.zero_le 8) rfl F.1 F.2 (wk_I fun x2 h1 F => ?_)
  exact wa_iret rfl dX3_pageAnew_6 F
