set_option maxRecDepth 100000
/-! Quirefold -/
set_option maxRecDepth 100000
def RX1 : String := "Quirefold"
def TX1 : u_T := fun k => match k with
  | 0 => ("Quirefold", "story", "Ljava/util/List;", true)
  | 1 => ("Quirefold", "styles", "[LQuirefold$Style;", true)
  | 2 => ("Quirefold", "data", "[[I", true)
  | 3 => ("Quirefold", "gridWidth", "I", false)
  | 4 => ("Quirefold", "gridLines", "I", false)
  | 5 => ("Quirefold", "gridColumns", "I", false)
  | 6 => ("Quirefold", "sees", "[I", true)
  | 7 => ("Quirefold", "foldPages", "I", false)
  | 8 => ("Quirefold", "foldCreep", "I", false)
  | 9 => ("Quirefold", "kept", "Ljava/util/List;", true)
  | _ => ("Quirefold", "layouts", "[LQuirefold$Layout;", true)
def tyX1 : Nat → FieldType := fun k => match k with
  | 0 => .object "java/util/List"
  | 1 => .array (.object "Quirefold$Style")
  | 2 => .array (.array .int)
  | 3 => .int
  | 4 => .int
  | 5 => .int
  | 6 => .array .int
  | 7 => .int
  | 8 => .int
  | 9 => .object "java/util/List"
  | _ => .array (.object "Quirefold$Layout")
abbrev wsX10 : List Cond := u_ws RX1 TX1 11
theorem nmX1 : ∀ a, a < 11 → ∀ b, b < 11 → a ≠ b → (TX1 a).2.1 ≠ (TX1 b).2.1 := by decide +kernel
theorem tyX1_ok : ∀ k, k < 11 → parseFieldDescriptor (TX1 k).2.2.1 = some (tyX1 k) := by decide +kernel
abbrev cX1_init : ByteArray := prog_1_method_1_code
def yX1_init : MethodName := ⟨RX1, "<init>", "()V"⟩
def dkwX1_init_5 : List UInt8 := [27, 16, 10, 162, 0, 16, 42, 180, 0, 37, 27, 2, 79, 132, 1, 1, 167, 255, 240, 177]
abbrev dktX1_init_5 : List UInt8 := dkwX1_init_5 ++ []
def dkwX1_init_4 : List UInt8 := [162, 0, 22, 42, 180, 0, 18, 27, 187, 0, 16, 89, 183, 0, 56, 83, 132, 1, 1, 167, 255, 234, 3, 60]
abbrev dktX1_init_4 : List UInt8 := dkwX1_init_4 ++ dktX1_init_5
def dkwX1_init_3 : List UInt8 := [187, 0, 7, 89, 183, 0, 9, 181, 0, 47, 42, 7, 189, 0, 50, 181, 0, 52, 3, 60, 27, 16, 6]
abbrev dktX1_init_3 : List UInt8 := dkwX1_init_3 ++ dktX1_init_4
def dkwX1_init_2 : List UInt8 := [181, 0, 34, 42, 16, 10, 188, 10, 181, 0, 37, 42, 16, 8, 181, 0, 41, 42, 4, 181, 0, 44, 42]
abbrev dktX1_init_2 : List UInt8 := dkwX1_init_2 ++ dktX1_init_3
def dkwX1_init_1 : List UInt8 := [42, 7, 7, 197, 0, 22, 2, 181, 0, 24, 42, 16, 10, 181, 0, 27, 42, 8, 181, 0, 31, 42, 4]
abbrev dktX1_init_1 : List UInt8 := dkwX1_init_1 ++ dktX1_init_2
def dkwX1_init_0 : List UInt8 := [42, 183, 0, 1, 42, 187, 0, 7, 89, 183, 0, 9, 181, 0, 10, 42, 16, 6, 189, 0, 16, 181, 0, 18]
abbrev dktX1_init_0 : List UInt8 := dkwX1_init_0 ++ dktX1_init_1
theorem dksX1_init_0 : cX1_init.data.toList.drop 0 = dktX1_init_0 := by decide +kernel
theorem dksX1_init_1 : cX1_init.data.toList.drop 24 = dktX1_init_1 := dk_seg dksX1_init_0 24 rfl rfl
theorem dksX1_init_2 : cX1_init.data.toList.drop 47 = dktX1_init_2 := dk_seg dksX1_init_1 23 rfl rfl
theorem dksX1_init_3 : cX1_init.data.toList.drop 70 = dktX1_init_3 := dk_seg dksX1_init_2 23 rfl rfl
theorem dksX1_init_4 : cX1_init.data.toList.drop 93 = dktX1_init_4 := dk_seg dksX1_init_3 23 rfl rfl
theorem dksX1_init_5 : cX1_init.data.toList.drop 117 = dktX1_init_5 := dk_seg dksX1_init_4 24 rfl rfl
theorem dX1_init_0 : decode cX1_init 0 = .ok (.aload_n 0, 1) := dk_42 (dk_at dksX1_init_0 0 rfl rfl)
theorem dX1_init_1 : decode cX1_init 1 = .ok (.invokespecial 1, 3) := dk_183 0 1 (dk_at dksX1_init_0 1 rfl rfl)
theorem dX1_init_4 : decode cX1_init 4 = .ok (.aload_n 0, 1) := dk_42 (dk_at dksX1_init_0 4 rfl rfl)
theorem dX1_init_5 : decode cX1_init 5 = .ok (.new 7, 3) := dk_187 0 7 (dk_at dksX1_init_0 5 rfl rfl)
theorem dX1_init_8 : decode cX1_init 8 = .ok (.dup, 1) := dk_89 (dk_at dksX1_init_0 8 rfl rfl)
theorem dX1_init_9 : decode cX1_init 9 = .ok (.invokespecial 9, 3) := dk_183 0 9 (dk_at dksX1_init_0 9 rfl rfl)
theorem dX1_init_12 : decode cX1_init 12 = .ok (.putfield 10, 3) := dk_181 0 10 (dk_at dksX1_init_0 12 rfl rfl)
theorem dX1_init_15 : decode cX1_init 15 = .ok (.aload_n 0, 1) := dk_42 (dk_at dksX1_init_0 15 rfl rfl)
theorem dX1_init_16 : decode cX1_init 16 = .ok (.bipush 6, 2) := dk_16 6 (dk_at dksX1_init_0 16 rfl rfl)
theorem dX1_init_18 : decode cX1_init 18 = .ok (.anewarray 16, 3) := dk_189 0 16 (dk_at dksX1_init_0 18 rfl rfl)
theorem dX1_init_21 : decode cX1_init 21 = .ok (.putfield 18, 3) := dk_181 0 18 (dk_at dksX1_init_0 21 rfl rfl)
theorem dX1_init_24 : decode cX1_init 24 = .ok (.aload_n 0, 1) := dk_42 (dk_at dksX1_init_1 0 rfl rfl)
theorem dX1_init_25 : decode cX1_init 25 = .ok (.iconst 4, 1) := dk_7 (dk_at dksX1_init_1 1 rfl rfl)
theorem dX1_init_26 : decode cX1_init 26 = .ok (.iconst 4, 1) := dk_7 (dk_at dksX1_init_1 2 rfl rfl)
theorem dX1_init_27 : decode cX1_init 27 = .ok (.multianewarray 22 2, 4) := by decide +kernel
theorem dX1_init_31 : decode cX1_init 31 = .ok (.putfield 24, 3) := dk_181 0 24 (dk_at dksX1_init_1 7 rfl rfl)
theorem dX1_init_34 : decode cX1_init 34 = .ok (.aload_n 0, 1) := dk_42 (dk_at dksX1_init_1 10 rfl rfl)
theorem dX1_init_35 : decode cX1_init 35 = .ok (.bipush 10, 2) := dk_16 10 (dk_at dksX1_init_1 11 rfl rfl)
theorem dX1_init_37 : decode cX1_init 37 = .ok (.putfield 27, 3) := dk_181 0 27 (dk_at dksX1_init_1 13 rfl rfl)
theorem dX1_init_40 : decode cX1_init 40 = .ok (.aload_n 0, 1) := dk_42 (dk_at dksX1_init_1 16 rfl rfl)
theorem dX1_init_41 : decode cX1_init 41 = .ok (.iconst 5, 1) := dk_8 (dk_at dksX1_init_1 17 rfl rfl)
theorem dX1_init_42 : decode cX1_init 42 = .ok (.putfield 31, 3) := dk_181 0 31 (dk_at dksX1_init_1 18 rfl rfl)
theorem dX1_init_45 : decode cX1_init 45 = .ok (.aload_n 0, 1) := dk_42 (dk_at dksX1_init_1 21 rfl rfl)
theorem dX1_init_46 : decode cX1_init 46 = .ok (.iconst 1, 1) := dk_4 (dk_at dksX1_init_1 22 rfl rfl)
theorem dX1_init_47 : decode cX1_init 47 = .ok (.putfield 34, 3) := dk_181 0 34 (dk_at dksX1_init_2 0 rfl rfl)
theorem dX1_init_50 : decode cX1_init 50 = .ok (.aload_n 0, 1) := dk_42 (dk_at dksX1_init_2 3 rfl rfl)
theorem dX1_init_51 : decode cX1_init 51 = .ok (.bipush 10, 2) := dk_16 10 (dk_at dksX1_init_2 4 rfl rfl)
theorem dX1_init_53 : decode cX1_init 53 = .ok (.newarray .int, 2) := dk_188_10 (dk_at dksX1_init_2 6 rfl rfl)
theorem dX1_init_55 : decode cX1_init 55 = .ok (.putfield 37, 3) := dk_181 0 37 (dk_at dksX1_init_2 8 rfl rfl)
theorem dX1_init_58 : decode cX1_init 58 = .ok (.aload_n 0, 1) := dk_42 (dk_at dksX1_init_2 11 rfl rfl)
theorem dX1_init_59 : decode cX1_init 59 = .ok (.bipush 8, 2) := dk_16 8 (dk_at dksX1_init_2 12 rfl rfl)
theorem dX1_init_61 : decode cX1_init 61 = .ok (.putfield 41, 3) := dk_181 0 41 (dk_at dksX1_init_2 14 rfl rfl)
theorem dX1_init_64 : decode cX1_init 64 = .ok (.aload_n 0, 1) := dk_42 (dk_at dksX1_init_2 17 rfl rfl)
theorem dX1_init_65 : decode cX1_init 65 = .ok (.iconst 1, 1) := dk_4 (dk_at dksX1_init_2 18 rfl rfl)
theorem dX1_init_66 : decode cX1_init 66 = .ok (.putfield 44, 3) := dk_181 0 44 (dk_at dksX1_init_2 19 rfl rfl)
theorem dX1_init_69 : decode cX1_init 69 = .ok (.aload_n 0, 1) := dk_42 (dk_at dksX1_init_2 22 rfl rfl)
theorem dX1_init_70 : decode cX1_init 70 = .ok (.new 7, 3) := dk_187 0 7 (dk_at dksX1_init_3 0 rfl rfl)
theorem dX1_init_73 : decode cX1_init 73 = .ok (.dup, 1) := dk_89 (dk_at dksX1_init_3 3 rfl rfl)
theorem dX1_init_74 : decode cX1_init 74 = .ok (.invokespecial 9, 3) := dk_183 0 9 (dk_at dksX1_init_3 4 rfl rfl)
theorem dX1_init_77 : decode cX1_init 77 = .ok (.putfield 47, 3) := dk_181 0 47 (dk_at dksX1_init_3 7 rfl rfl)
theorem dX1_init_80 : decode cX1_init 80 = .ok (.aload_n 0, 1) := dk_42 (dk_at dksX1_init_3 10 rfl rfl)
theorem dX1_init_81 : decode cX1_init 81 = .ok (.iconst 4, 1) := dk_7 (dk_at dksX1_init_3 11 rfl rfl)
theorem dX1_init_82 : decode cX1_init 82 = .ok (.anewarray 50, 3) := dk_189 0 50 (dk_at dksX1_init_3 12 rfl rfl)
theorem dX1_init_85 : decode cX1_init 85 = .ok (.putfield 52, 3) := dk_181 0 52 (dk_at dksX1_init_3 15 rfl rfl)
theorem dX1_init_88 : decode cX1_init 88 = .ok (.iconst 0, 1) := dk_3 (dk_at dksX1_init_3 18 rfl rfl)
theorem dX1_init_89 : decode cX1_init 89 = .ok (.istore_n 1, 1) := dk_60 (dk_at dksX1_init_3 19 rfl rfl)
theorem dX1_init_90 : decode cX1_init 90 = .ok (.iload_n 1, 1) := dk_27 (dk_at dksX1_init_3 20 rfl rfl)
theorem dX1_init_91 : decode cX1_init 91 = .ok (.bipush 6, 2) := dk_16 6 (dk_at dksX1_init_3 21 rfl rfl)
theorem dX1_init_93 : decode cX1_init 93 = .ok (.if_icmp .ge 22, 3) := dk_162 0 22 (dk_at dksX1_init_4 0 rfl rfl)
theorem dX1_init_96 : decode cX1_init 96 = .ok (.aload_n 0, 1) := dk_42 (dk_at dksX1_init_4 3 rfl rfl)
theorem dX1_init_97 : decode cX1_init 97 = .ok (.getfield 18, 3) := dk_180 0 18 (dk_at dksX1_init_4 4 rfl rfl)
theorem dX1_init_100 : decode cX1_init 100 = .ok (.iload_n 1, 1) := dk_27 (dk_at dksX1_init_4 7 rfl rfl)
theorem dX1_init_101 : decode cX1_init 101 = .ok (.new 16, 3) := dk_187 0 16 (dk_at dksX1_init_4 8 rfl rfl)
theorem dX1_init_104 : decode cX1_init 104 = .ok (.dup, 1) := dk_89 (dk_at dksX1_init_4 11 rfl rfl)
theorem dX1_init_105 : decode cX1_init 105 = .ok (.invokespecial 56, 3) := dk_183 0 56 (dk_at dksX1_init_4 12 rfl rfl)
theorem dX1_init_108 : decode cX1_init 108 = .ok (.aastore, 1) := dk_83 (dk_at dksX1_init_4 15 rfl rfl)
theorem dX1_init_109 : decode cX1_init 109 = .ok (.iinc 1 1, 3) := dk_132 1 1 (dk_at dksX1_init_4 16 rfl rfl)
theorem dX1_init_112 : decode cX1_init 112 = .ok (.goto (-22), 3) := dk_167 255 234 (dk_at dksX1_init_4 19 rfl rfl)
theorem dX1_init_115 : decode cX1_init 115 = .ok (.iconst 0, 1) := dk_3 (dk_at dksX1_init_4 22 rfl rfl)
theorem dX1_init_116 : decode cX1_init 116 = .ok (.istore_n 1, 1) := dk_60 (dk_at dksX1_init_4 23 rfl rfl)
theorem dX1_init_117 : decode cX1_init 117 = .ok (.iload_n 1, 1) := dk_27 (dk_at dksX1_init_5 0 rfl rfl)
theorem dX1_init_118 : decode cX1_init 118 = .ok (.bipush 10, 2) := dk_16 10 (dk_at dksX1_init_5 1 rfl rfl)
theorem dX1_init_120 : decode cX1_init 120 = .ok (.if_icmp .ge 16, 3) := dk_162 0 16 (dk_at dksX1_init_5 3 rfl rfl)
theorem dX1_init_123 : decode cX1_init 123 = .ok (.aload_n 0, 1) := dk_42 (dk_at dksX1_init_5 6 rfl rfl)
theorem dX1_init_124 : decode cX1_init 124 = .ok (.getfield 37, 3) := dk_180 0 37 (dk_at dksX1_init_5 7 rfl rfl)
theorem dX1_init_127 : decode cX1_init 127 = .ok (.iload_n 1, 1) := dk_27 (dk_at dksX1_init_5 10 rfl rfl)
theorem dX1_init_128 : decode cX1_init 128 = .ok (.iconst (-1), 1) := dk_2 (dk_at dksX1_init_5 11 rfl rfl)
theorem dX1_init_129 : decode cX1_init 129 = .ok (.iastore, 1) := dk_79 (dk_at dksX1_init_5 12 rfl rfl)
theorem dX1_init_130 : decode cX1_init 130 = .ok (.iinc 1 1, 3) := dk_132 1 1 (dk_at dksX1_init_5 13 rfl rfl)
theorem dX1_init_133 : decode cX1_init 133 = .ok (.goto (-16), 3) := dk_167 255 240 (dk_at dksX1_init_5 16 rfl rfl)
theorem dX1_init_136 : decode cX1_init 136 = .ok (.return_, 1) := dk_177 (dk_at dksX1_init_5 19 rfl rfl)
abbrev cX1_tokens : ByteArray := prog_1_method_34_code
def yX1_tokens : MethodName := ⟨RX1, "tokens", "()I"⟩
def dkwX1_tokens_0 : List UInt8 := [42, 180, 0, 10, 185, 0, 106, 1, 0, 172]
abbrev dktX1_tokens_0 : List UInt8 := dkwX1_tokens_0 ++ []
theorem dksX1_tokens_0 : cX1_tokens.data.toList.drop 0 = dktX1_tokens_0 := by decide +kernel
theorem dX1_tokens_0 : decode cX1_tokens 0 = .ok (.aload_n 0, 1) := dk_42 (dk_at dksX1_tokens_0 0 rfl rfl)
theorem dX1_tokens_1 : decode cX1_tokens 1 = .ok (.getfield 10, 3) := dk_180 0 10 (dk_at dksX1_tokens_0 1 rfl rfl)
theorem dX1_tokens_4 : decode cX1_tokens 4 = .ok (.invokeinterface 106 1, 5) := by decide +kernel
theorem dX1_tokens_9 : decode cX1_tokens 9 = .ok (.ireturn, 1) := dk_172 (dk_at dksX1_tokens_0 9 rfl rfl)
abbrev cX1_put : ByteArray := prog_1_method_9_code
def yX1_put : MethodName := ⟨RX1, "put", "(IIII)I"⟩
def dkwX1_put_3 : List UInt8 := [42, 182, 0, 136, 42, 180, 0, 10, 185, 0, 106, 1, 0, 172]
abbrev dktX1_put_3 : List UInt8 := dkwX1_put_3 ++ []
def dkwX1_put_2 : List UInt8 := [184, 0, 124, 42, 180, 0, 10, 27, 187, 0, 128, 89, 28, 29, 21, 4, 183, 0, 130, 185, 0, 132, 3, 0]
abbrev dktX1_put_2 : List UInt8 := dkwX1_put_2 ++ dktX1_put_3
def dkwX1_put_1 : List UInt8 := [184, 0, 119, 42, 180, 0, 10, 185, 0, 106, 1, 0, 16, 120, 162, 0, 7, 4, 167, 0, 4, 3, 18, 122]
abbrev dktX1_put_1 : List UInt8 := dkwX1_put_1 ++ dktX1_put_2
def dkwX1_put_0 : List UInt8 := [27, 42, 180, 0, 10, 185, 0, 106, 1, 0, 4, 96, 18, 118, 184, 0, 92, 87, 28, 29, 21, 4]
abbrev dktX1_put_0 : List UInt8 := dkwX1_put_0 ++ dktX1_put_1
theorem dksX1_put_0 : cX1_put.data.toList.drop 0 = dktX1_put_0 := by decide +kernel
theorem dksX1_put_1 : cX1_put.data.toList.drop 22 = dktX1_put_1 := dk_seg dksX1_put_0 22 rfl rfl
theorem dksX1_put_2 : cX1_put.data.toList.drop 46 = dktX1_put_2 := dk_seg dksX1_put_1 24 rfl rfl
theorem dksX1_put_3 : cX1_put.data.toList.drop 70 = dktX1_put_3 := dk_seg dksX1_put_2 24 rfl rfl
theorem dX1_put_0 : decode cX1_put 0 = .ok (.iload_n 1, 1) := dk_27 (dk_at dksX1_put_0 0 rfl rfl)
theorem dX1_put_1 : decode cX1_put 1 = .ok (.aload_n 0, 1) := dk_42 (dk_at dksX1_put_0 1 rfl rfl)
theorem dX1_put_2 : decode cX1_put 2 = .ok (.getfield 10, 3) := dk_180 0 10 (dk_at dksX1_put_0 2 rfl rfl)
theorem dX1_put_5 : decode cX1_put 5 = .ok (.invokeinterface 106 1, 5) := by decide +kernel
theorem dX1_put_10 : decode cX1_put 10 = .ok (.iconst 1, 1) := dk_4 (dk_at dksX1_put_0 10 rfl rfl)
theorem dX1_put_11 : decode cX1_put 11 = .ok (.iadd, 1) := dk_96 (dk_at dksX1_put_0 11 rfl rfl)
theorem dX1_put_12 : decode cX1_put 12 = .ok (.ldc 118, 2) := dk_18 118 (dk_at dksX1_put_0 12 rfl rfl)
theorem dX1_put_14 : decode cX1_put 14 = .ok (.invokestatic 92, 3) := dk_184 0 92 (dk_at dksX1_put_0 14 rfl rfl)
theorem dX1_put_17 : decode cX1_put 17 = .ok (.pop, 1) := dk_87 (dk_at dksX1_put_0 17 rfl rfl)
theorem dX1_put_18 : decode cX1_put 18 = .ok (.iload_n 2, 1) := dk_28 (dk_at dksX1_put_0 18 rfl rfl)
theorem dX1_put_19 : decode cX1_put 19 = .ok (.iload_n 3, 1) := dk_29 (dk_at dksX1_put_0 19 rfl rfl)
theorem dX1_put_20 : decode cX1_put 20 = .ok (.iload 4, 2) := dk_21 4 (dk_at dksX1_put_0 20 rfl rfl)
theorem dX1_put_22 : decode cX1_put 22 = .ok (.invokestatic 119, 3) := dk_184 0 119 (dk_at dksX1_put_1 0 rfl rfl)
theorem dX1_put_25 : decode cX1_put 25 = .ok (.aload_n 0, 1) := dk_42 (dk_at dksX1_put_1 3 rfl rfl)
theorem dX1_put_26 : decode cX1_put 26 = .ok (.getfield 10, 3) := dk_180 0 10 (dk_at dksX1_put_1 4 rfl rfl)
theorem dX1_put_29 : decode cX1_put 29 = .ok (.invokeinterface 106 1, 5) := by decide +kernel
theorem dX1_put_34 : decode cX1_put 34 = .ok (.bipush 120, 2) := dk_16 120 (dk_at dksX1_put_1 12 rfl rfl)
theorem dX1_put_36 : decode cX1_put 36 = .ok (.if_icmp .ge 7, 3) := dk_162 0 7 (dk_at dksX1_put_1 14 rfl rfl)
theorem dX1_put_39 : decode cX1_put 39 = .ok (.iconst 1, 1) := dk_4 (dk_at dksX1_put_1 17 rfl rfl)
theorem dX1_put_40 : decode cX1_put 40 = .ok (.goto 4, 3) := dk_167 0 4 (dk_at dksX1_put_1 18 rfl rfl)
theorem dX1_put_43 : decode cX1_put 43 = .ok (.iconst 0, 1) := dk_3 (dk_at dksX1_put_1 21 rfl rfl)
theorem dX1_put_44 : decode cX1_put 44 = .ok (.ldc 122, 2) := dk_18 122 (dk_at dksX1_put_1 22 rfl rfl)
theorem dX1_put_46 : decode cX1_put 46 = .ok (.invokestatic 124, 3) := dk_184 0 124 (dk_at dksX1_put_2 0 rfl rfl)
theorem dX1_put_49 : decode cX1_put 49 = .ok (.aload_n 0, 1) := dk_42 (dk_at dksX1_put_2 3 rfl rfl)
theorem dX1_put_50 : decode cX1_put 50 = .ok (.getfield 10, 3) := dk_180 0 10 (dk_at dksX1_put_2 4 rfl rfl)
theorem dX1_put_53 : decode cX1_put 53 = .ok (.iload_n 1, 1) := dk_27 (dk_at dksX1_put_2 7 rfl rfl)
theorem dX1_put_54 : decode cX1_put 54 = .ok (.new 128, 3) := dk_187 0 128 (dk_at dksX1_put_2 8 rfl rfl)
theorem dX1_put_57 : decode cX1_put 57 = .ok (.dup, 1) := dk_89 (dk_at dksX1_put_2 11 rfl rfl)
theorem dX1_put_58 : decode cX1_put 58 = .ok (.iload_n 2, 1) := dk_28 (dk_at dksX1_put_2 12 rfl rfl)
theorem dX1_put_59 : decode cX1_put 59 = .ok (.iload_n 3, 1) := dk_29 (dk_at dksX1_put_2 13 rfl rfl)
theorem dX1_put_60 : decode cX1_put 60 = .ok (.iload 4, 2) := dk_21 4 (dk_at dksX1_put_2 14 rfl rfl)
theorem dX1_put_62 : decode cX1_put 62 = .ok (.invokespecial 130, 3) := dk_183 0 130 (dk_at dksX1_put_2 16 rfl rfl)
theorem dX1_put_65 : decode cX1_put 65 = .ok (.invokeinterface 132 3, 5) := by decide +kernel
theorem dX1_put_70 : decode cX1_put 70 = .ok (.aload_n 0, 1) := dk_42 (dk_at dksX1_put_3 0 rfl rfl)
theorem dX1_put_71 : decode cX1_put 71 = .ok (.invokevirtual 136, 3) := dk_182 0 136 (dk_at dksX1_put_3 1 rfl rfl)
theorem dX1_put_74 : decode cX1_put 74 = .ok (.aload_n 0, 1) := dk_42 (dk_at dksX1_put_3 4 rfl rfl)
theorem dX1_put_75 : decode cX1_put 75 = .ok (.getfield 10, 3) := dk_180 0 10 (dk_at dksX1_put_3 5 rfl rfl)
theorem dX1_put_78 : decode cX1_put 78 = .ok (.invokeinterface 106 1, 5) := by decide +kernel
theorem dX1_put_83 : decode cX1_put 83 = .ok (.ireturn, 1) := dk_172 (dk_at dksX1_put_3 13 rfl rfl)
abbrev cX1_place : ByteArray := prog_1_method_2_code
def yX1_place : MethodName := ⟨RX1, "place", "(IILjava/lang/String;)I"⟩
def dkwX1_place_2 : List UInt8 := [172]
abbrev dktX1_place_2 : List UInt8 := dkwX1_place_2 ++ []
def dkwX1_place_1 : List UInt8 := [182, 0, 64, 44, 182, 0, 64, 18, 68, 182, 0, 64, 26, 182, 0, 70, 182, 0, 73, 183, 0, 77, 191, 26]
abbrev dktX1_place_1 : List UInt8 := dkwX1_place_1 ++ dktX1_place_2
def dkwX1_place_0 : List UInt8 := [26, 155, 0, 8, 26, 27, 161, 0, 39, 187, 0, 57, 89, 187, 0, 59, 89, 183, 0, 61, 18, 62]
abbrev dktX1_place_0 : List UInt8 := dkwX1_place_0 ++ dktX1_place_1
theorem dksX1_place_0 : cX1_place.data.toList.drop 0 = dktX1_place_0 := by decide +kernel
theorem dksX1_place_1 : cX1_place.data.toList.drop 22 = dktX1_place_1 := dk_seg dksX1_place_0 22 rfl rfl
theorem dksX1_place_2 : cX1_place.data.toList.drop 46 = dktX1_place_2 := dk_seg dksX1_place_1 24 rfl rfl
theorem dX1_place_0 : decode cX1_place 0 = .ok (.iload_n 0, 1) := dk_26 (dk_at dksX1_place_0 0 rfl rfl)
theorem dX1_place_1 : decode cX1_place 1 = .ok (.ifCond .lt 8, 3) := dk_155 0 8 (dk_at dksX1_place_0 1 rfl rfl)
theorem dX1_place_4 : decode cX1_place 4 = .ok (.iload_n 0, 1) := dk_26 (dk_at dksX1_place_0 4 rfl rfl)
theorem dX1_place_5 : decode cX1_place 5 = .ok (.iload_n 1, 1) := dk_27 (dk_at dksX1_place_0 5 rfl rfl)
theorem dX1_place_6 : decode cX1_place 6 = .ok (.if_icmp .lt 39, 3) := dk_161 0 39 (dk_at dksX1_place_0 6 rfl rfl)
theorem dX1_place_9 : decode cX1_place 9 = .ok (.new 57, 3) := dk_187 0 57 (dk_at dksX1_place_0 9 rfl rfl)
theorem dX1_place_12 : decode cX1_place 12 = .ok (.dup, 1) := dk_89 (dk_at dksX1_place_0 12 rfl rfl)
theorem dX1_place_13 : decode cX1_place 13 = .ok (.new 59, 3) := dk_187 0 59 (dk_at dksX1_place_0 13 rfl rfl)
theorem dX1_place_16 : decode cX1_place 16 = .ok (.dup, 1) := dk_89 (dk_at dksX1_place_0 16 rfl rfl)
theorem dX1_place_17 : decode cX1_place 17 = .ok (.invokespecial 61, 3) := dk_183 0 61 (dk_at dksX1_place_0 17 rfl rfl)
theorem dX1_place_20 : decode cX1_place 20 = .ok (.ldc 62, 2) := dk_18 62 (dk_at dksX1_place_0 20 rfl rfl)
theorem dX1_place_22 : decode cX1_place 22 = .ok (.invokevirtual 64, 3) := dk_182 0 64 (dk_at dksX1_place_1 0 rfl rfl)
theorem dX1_place_25 : decode cX1_place 25 = .ok (.aload_n 2, 1) := dk_44 (dk_at dksX1_place_1 3 rfl rfl)
theorem dX1_place_26 : decode cX1_place 26 = .ok (.invokevirtual 64, 3) := dk_182 0 64 (dk_at dksX1_place_1 4 rfl rfl)
theorem dX1_place_29 : decode cX1_place 29 = .ok (.ldc 68, 2) := dk_18 68 (dk_at dksX1_place_1 7 rfl rfl)
theorem dX1_place_31 : decode cX1_place 31 = .ok (.invokevirtual 64, 3) := dk_182 0 64 (dk_at dksX1_place_1 9 rfl rfl)
theorem dX1_place_34 : decode cX1_place 34 = .ok (.iload_n 0, 1) := dk_26 (dk_at dksX1_place_1 12 rfl rfl)
theorem dX1_place_35 : decode cX1_place 35 = .ok (.invokevirtual 70, 3) := dk_182 0 70 (dk_at dksX1_place_1 13 rfl rfl)
theorem dX1_place_38 : decode cX1_place 38 = .ok (.invokevirtual 73, 3) := dk_182 0 73 (dk_at dksX1_place_1 16 rfl rfl)
theorem dX1_place_41 : decode cX1_place 41 = .ok (.invokespecial 77, 3) := dk_183 0 77 (dk_at dksX1_place_1 19 rfl rfl)
theorem dX1_place_44 : decode cX1_place 44 = .ok (.athrow, 1) := dk_191 (dk_at dksX1_place_1 22 rfl rfl)
theorem dX1_place_45 : decode cX1_place 45 = .ok (.iload_n 0, 1) := dk_26 (dk_at dksX1_place_1 23 rfl rfl)
theorem dX1_place_46 : decode cX1_place 46 = .ok (.ireturn, 1) := dk_172 (dk_at dksX1_place_2 0 rfl rfl)
abbrev cX1_isToken : ByteArray := prog_1_method_8_code
def yX1_isToken : MethodName := ⟨RX1, "isToken", "(III)V"⟩
def dkwX1_isToken_4 : List UInt8 := [164, 0, 8, 26, 6, 160, 0, 7, 8, 167, 0, 4, 3, 184, 0, 114, 177]
abbrev dktX1_isToken_4 : List UInt8 := dkwX1_isToken_4 ++ []
def dkwX1_isToken_3 : List UInt8 := [167, 0, 20, 27, 3, 16, 9, 184, 0, 114, 167, 0, 10, 27, 4, 16, 9, 184, 0, 114, 28, 3, 26, 4]
abbrev dktX1_isToken_3 : List UInt8 := dkwX1_isToken_3 ++ dktX1_isToken_4
def dkwX1_isToken_2 : List UInt8 := [27, 3, 6, 184, 0, 114, 167, 0, 38, 27, 3, 3, 184, 0, 114, 167, 0, 29, 27, 4, 7, 184, 0, 114]
abbrev dktX1_isToken_2 : List UInt8 := dkwX1_isToken_2 ++ dktX1_isToken_3
def dkwX1_isToken_1 : List UInt8 := [170, 0, 0, 0, 0, 0, 0, 77, 0, 0, 0, 1, 0, 0, 0, 6, 0, 0, 0, 40, 0, 0, 0, 49, 0, 0, 0, 77, 0, 0, 0, 77, 0, 0, 0, 58, 0, 0, 0, 67]
abbrev dktX1_isToken_1 : List UInt8 := dkwX1_isToken_1 ++ dktX1_isToken_2
def dkwX1_isToken_0 : List UInt8 := [26, 3, 16, 6, 184, 0, 114, 26]
abbrev dktX1_isToken_0 : List UInt8 := dkwX1_isToken_0 ++ dktX1_isToken_1
theorem dksX1_isToken_0 : cX1_isToken.data.toList.drop 0 = dktX1_isToken_0 := by decide +kernel
theorem dksX1_isToken_1 : cX1_isToken.data.toList.drop 8 = dktX1_isToken_1 := dk_seg dksX1_isToken_0 8 rfl rfl
theorem dksX1_isToken_2 : cX1_isToken.data.toList.drop 48 = dktX1_isToken_2 := dk_seg dksX1_isToken_1 40 rfl rfl
theorem dksX1_isToken_3 : cX1_isToken.data.toList.drop 72 = dktX1_isToken_3 := dk_seg dksX1_isToken_2 24 rfl rfl
theorem dksX1_isToken_4 : cX1_isToken.data.toList.drop 96 = dktX1_isToken_4 := dk_seg dksX1_isToken_3 24 rfl rfl
theorem dX1_isToken_0 : decode cX1_isToken 0 = .ok (.iload_n 0, 1) := dk_26 (dk_at dksX1_isToken_0 0 rfl rfl)
theorem dX1_isToken_1 : decode cX1_isToken 1 = .ok (.iconst 0, 1) := dk_3 (dk_at dksX1_isToken_0 1 rfl rfl)
theorem dX1_isToken_2 : decode cX1_isToken 2 = .ok (.bipush 6, 2) := dk_16 6 (dk_at dksX1_isToken_0 2 rfl rfl)
theorem dX1_isToken_4 : decode cX1_isToken 4 = .ok (.invokestatic 114, 3) := dk_184 0 114 (dk_at dksX1_isToken_0 4 rfl rfl)
theorem dX1_isToken_7 : decode cX1_isToken 7 = .ok (.iload_n 0, 1) := dk_26 (dk_at dksX1_isToken_0 7 rfl rfl)
theorem dX1_isToken_8 : decode cX1_isToken 8 = .ok (.tableswitch 77 1 6 #[40, 49, 77, 77, 58, 67], 40) := by decide +kernel
theorem dX1_isToken_48 : decode cX1_isToken 48 = .ok (.iload_n 1, 1) := dk_27 (dk_at dksX1_isToken_2 0 rfl rfl)
theorem dX1_isToken_49 : decode cX1_isToken 49 = .ok (.iconst 0, 1) := dk_3 (dk_at dksX1_isToken_2 1 rfl rfl)
theorem dX1_isToken_50 : decode cX1_isToken 50 = .ok (.iconst 3, 1) := dk_6 (dk_at dksX1_isToken_2 2 rfl rfl)
theorem dX1_isToken_51 : decode cX1_isToken 51 = .ok (.invokestatic 114, 3) := dk_184 0 114 (dk_at dksX1_isToken_2 3 rfl rfl)
theorem dX1_isToken_54 : decode cX1_isToken 54 = .ok (.goto 38, 3) := dk_167 0 38 (dk_at dksX1_isToken_2 6 rfl rfl)
theorem dX1_isToken_57 : decode cX1_isToken 57 = .ok (.iload_n 1, 1) := dk_27 (dk_at dksX1_isToken_2 9 rfl rfl)
theorem dX1_isToken_58 : decode cX1_isToken 58 = .ok (.iconst 0, 1) := dk_3 (dk_at dksX1_isToken_2 10 rfl rfl)
theorem dX1_isToken_59 : decode cX1_isToken 59 = .ok (.iconst 0, 1) := dk_3 (dk_at dksX1_isToken_2 11 rfl rfl)
theorem dX1_isToken_60 : decode cX1_isToken 60 = .ok (.invokestatic 114, 3) := dk_184 0 114 (dk_at dksX1_isToken_2 12 rfl rfl)
theorem dX1_isToken_63 : decode cX1_isToken 63 = .ok (.goto 29, 3) := dk_167 0 29 (dk_at dksX1_isToken_2 15 rfl rfl)
theorem dX1_isToken_66 : decode cX1_isToken 66 = .ok (.iload_n 1, 1) := dk_27 (dk_at dksX1_isToken_2 18 rfl rfl)
theorem dX1_isToken_67 : decode cX1_isToken 67 = .ok (.iconst 1, 1) := dk_4 (dk_at dksX1_isToken_2 19 rfl rfl)
theorem dX1_isToken_68 : decode cX1_isToken 68 = .ok (.iconst 4, 1) := dk_7 (dk_at dksX1_isToken_2 20 rfl rfl)
theorem dX1_isToken_69 : decode cX1_isToken 69 = .ok (.invokestatic 114, 3) := dk_184 0 114 (dk_at dksX1_isToken_2 21 rfl rfl)
theorem dX1_isToken_72 : decode cX1_isToken 72 = .ok (.goto 20, 3) := dk_167 0 20 (dk_at dksX1_isToken_3 0 rfl rfl)
theorem dX1_isToken_75 : decode cX1_isToken 75 = .ok (.iload_n 1, 1) := dk_27 (dk_at dksX1_isToken_3 3 rfl rfl)
theorem dX1_isToken_76 : decode cX1_isToken 76 = .ok (.iconst 0, 1) := dk_3 (dk_at dksX1_isToken_3 4 rfl rfl)
theorem dX1_isToken_77 : decode cX1_isToken 77 = .ok (.bipush 9, 2) := dk_16 9 (dk_at dksX1_isToken_3 5 rfl rfl)
theorem dX1_isToken_79 : decode cX1_isToken 79 = .ok (.invokestatic 114, 3) := dk_184 0 114 (dk_at dksX1_isToken_3 7 rfl rfl)
theorem dX1_isToken_82 : decode cX1_isToken 82 = .ok (.goto 10, 3) := dk_167 0 10 (dk_at dksX1_isToken_3 10 rfl rfl)
theorem dX1_isToken_85 : decode cX1_isToken 85 = .ok (.iload_n 1, 1) := dk_27 (dk_at dksX1_isToken_3 13 rfl rfl)
theorem dX1_isToken_86 : decode cX1_isToken 86 = .ok (.iconst 1, 1) := dk_4 (dk_at dksX1_isToken_3 14 rfl rfl)
theorem dX1_isToken_87 : decode cX1_isToken 87 = .ok (.bipush 9, 2) := dk_16 9 (dk_at dksX1_isToken_3 15 rfl rfl)
theorem dX1_isToken_89 : decode cX1_isToken 89 = .ok (.invokestatic 114, 3) := dk_184 0 114 (dk_at dksX1_isToken_3 17 rfl rfl)
theorem dX1_isToken_92 : decode cX1_isToken 92 = .ok (.iload_n 2, 1) := dk_28 (dk_at dksX1_isToken_3 20 rfl rfl)
theorem dX1_isToken_93 : decode cX1_isToken 93 = .ok (.iconst 0, 1) := dk_3 (dk_at dksX1_isToken_3 21 rfl rfl)
theorem dX1_isToken_94 : decode cX1_isToken 94 = .ok (.iload_n 0, 1) := dk_26 (dk_at dksX1_isToken_3 22 rfl rfl)
theorem dX1_isToken_95 : decode cX1_isToken 95 = .ok (.iconst 1, 1) := dk_4 (dk_at dksX1_isToken_3 23 rfl rfl)
theorem dX1_isToken_96 : decode cX1_isToken 96 = .ok (.if_icmp .le 8, 3) := dk_164 0 8 (dk_at dksX1_isToken_4 0 rfl rfl)
theorem dX1_isToken_99 : decode cX1_isToken 99 = .ok (.iload_n 0, 1) := dk_26 (dk_at dksX1_isToken_4 3 rfl rfl)
theorem dX1_isToken_100 : decode cX1_isToken 100 = .ok (.iconst 3, 1) := dk_6 (dk_at dksX1_isToken_4 4 rfl rfl)
theorem dX1_isToken_101 : decode cX1_isToken 101 = .ok (.if_icmp .ne 7, 3) := dk_160 0 7 (dk_at dksX1_isToken_4 5 rfl rfl)
theorem dX1_isToken_104 : decode cX1_isToken 104 = .ok (.iconst 5, 1) := dk_8 (dk_at dksX1_isToken_4 8 rfl rfl)
theorem dX1_isToken_105 : decode cX1_isToken 105 = .ok (.goto 4, 3) := dk_167 0 4 (dk_at dksX1_isToken_4 9 rfl rfl)
theorem dX1_isToken_108 : decode cX1_isToken 108 = .ok (.iconst 0, 1) := dk_3 (dk_at dksX1_isToken_4 12 rfl rfl)
theorem dX1_isToken_109 : decode cX1_isToken 109 = .ok (.invokestatic 114, 3) := dk_184 0 114 (dk_at dksX1_isToken_4 13 rfl rfl)
theorem dX1_isToken_112 : decode cX1_isToken 112 = .ok (.return_, 1) := dk_177 (dk_at dksX1_isToken_4 16 rfl rfl)
abbrev cX1_isWithin : ByteArray := prog_1_method_3_code
def yX1_isWithin : MethodName := ⟨RX1, "isWithin", "(III)V"⟩
def dkwX1_isWithin_2 : List UInt8 := [183, 0, 86, 191, 177]
abbrev dktX1_isWithin_2 : List UInt8 := dkwX1_isWithin_2 ++ []
def dkwX1_isWithin_1 : List UInt8 := [182, 0, 70, 18, 82, 182, 0, 64, 27, 182, 0, 70, 18, 84, 182, 0, 64, 28, 182, 0, 70, 182, 0, 73]
abbrev dktX1_isWithin_1 : List UInt8 := dkwX1_isWithin_1 ++ dktX1_isWithin_2
def dkwX1_isWithin_0 : List UInt8 := [26, 27, 161, 0, 8, 26, 28, 164, 0, 43, 187, 0, 80, 89, 187, 0, 59, 89, 183, 0, 61, 26]
abbrev dktX1_isWithin_0 : List UInt8 := dkwX1_isWithin_0 ++ dktX1_isWithin_1
theorem dksX1_isWithin_0 : cX1_isWithin.data.toList.drop 0 = dktX1_isWithin_0 := by decide +kernel
theorem dksX1_isWithin_1 : cX1_isWithin.data.toList.drop 22 = dktX1_isWithin_1 := dk_seg dksX1_isWithin_0 22 rfl rfl
theorem dksX1_isWithin_2 : cX1_isWithin.data.toList.drop 46 = dktX1_isWithin_2 := dk_seg dksX1_isWithin_1 24 rfl rfl
theorem dX1_isWithin_0 : decode cX1_isWithin 0 = .ok (.iload_n 0, 1) := dk_26 (dk_at dksX1_isWithin_0 0 rfl rfl)
theorem dX1_isWithin_1 : decode cX1_isWithin 1 = .ok (.iload_n 1, 1) := dk_27 (dk_at dksX1_isWithin_0 1 rfl rfl)
theorem dX1_isWithin_2 : decode cX1_isWithin 2 = .ok (.if_icmp .lt 8, 3) := dk_161 0 8 (dk_at dksX1_isWithin_0 2 rfl rfl)
theorem dX1_isWithin_5 : decode cX1_isWithin 5 = .ok (.iload_n 0, 1) := dk_26 (dk_at dksX1_isWithin_0 5 rfl rfl)
theorem dX1_isWithin_6 : decode cX1_isWithin 6 = .ok (.iload_n 2, 1) := dk_28 (dk_at dksX1_isWithin_0 6 rfl rfl)
theorem dX1_isWithin_7 : decode cX1_isWithin 7 = .ok (.if_icmp .le 43, 3) := dk_164 0 43 (dk_at dksX1_isWithin_0 7 rfl rfl)
theorem dX1_isWithin_10 : decode cX1_isWithin 10 = .ok (.new 80, 3) := dk_187 0 80 (dk_at dksX1_isWithin_0 10 rfl rfl)
theorem dX1_isWithin_13 : decode cX1_isWithin 13 = .ok (.dup, 1) := dk_89 (dk_at dksX1_isWithin_0 13 rfl rfl)
theorem dX1_isWithin_14 : decode cX1_isWithin 14 = .ok (.new 59, 3) := dk_187 0 59 (dk_at dksX1_isWithin_0 14 rfl rfl)
theorem dX1_isWithin_17 : decode cX1_isWithin 17 = .ok (.dup, 1) := dk_89 (dk_at dksX1_isWithin_0 17 rfl rfl)
theorem dX1_isWithin_18 : decode cX1_isWithin 18 = .ok (.invokespecial 61, 3) := dk_183 0 61 (dk_at dksX1_isWithin_0 18 rfl rfl)
theorem dX1_isWithin_21 : decode cX1_isWithin 21 = .ok (.iload_n 0, 1) := dk_26 (dk_at dksX1_isWithin_0 21 rfl rfl)
theorem dX1_isWithin_22 : decode cX1_isWithin 22 = .ok (.invokevirtual 70, 3) := dk_182 0 70 (dk_at dksX1_isWithin_1 0 rfl rfl)
theorem dX1_isWithin_25 : decode cX1_isWithin 25 = .ok (.ldc 82, 2) := dk_18 82 (dk_at dksX1_isWithin_1 3 rfl rfl)
theorem dX1_isWithin_27 : decode cX1_isWithin 27 = .ok (.invokevirtual 64, 3) := dk_182 0 64 (dk_at dksX1_isWithin_1 5 rfl rfl)
theorem dX1_isWithin_30 : decode cX1_isWithin 30 = .ok (.iload_n 1, 1) := dk_27 (dk_at dksX1_isWithin_1 8 rfl rfl)
theorem dX1_isWithin_31 : decode cX1_isWithin 31 = .ok (.invokevirtual 70, 3) := dk_182 0 70 (dk_at dksX1_isWithin_1 9 rfl rfl)
theorem dX1_isWithin_34 : decode cX1_isWithin 34 = .ok (.ldc 84, 2) := dk_18 84 (dk_at dksX1_isWithin_1 12 rfl rfl)
theorem dX1_isWithin_36 : decode cX1_isWithin 36 = .ok (.invokevirtual 64, 3) := dk_182 0 64 (dk_at dksX1_isWithin_1 14 rfl rfl)
theorem dX1_isWithin_39 : decode cX1_isWithin 39 = .ok (.iload_n 2, 1) := dk_28 (dk_at dksX1_isWithin_1 17 rfl rfl)
theorem dX1_isWithin_40 : decode cX1_isWithin 40 = .ok (.invokevirtual 70, 3) := dk_182 0 70 (dk_at dksX1_isWithin_1 18 rfl rfl)
theorem dX1_isWithin_43 : decode cX1_isWithin 43 = .ok (.invokevirtual 73, 3) := dk_182 0 73 (dk_at dksX1_isWithin_1 21 rfl rfl)
theorem dX1_isWithin_46 : decode cX1_isWithin 46 = .ok (.invokespecial 86, 3) := dk_183 0 86 (dk_at dksX1_isWithin_2 0 rfl rfl)
theorem dX1_isWithin_49 : decode cX1_isWithin 49 = .ok (.athrow, 1) := dk_191 (dk_at dksX1_isWithin_2 3 rfl rfl)
theorem dX1_isWithin_50 : decode cX1_isWithin 50 = .ok (.return_, 1) := dk_177 (dk_at dksX1_isWithin_2 4 rfl rfl)
abbrev cX1_must : ByteArray := prog_1_method_4_code
def yX1_must : MethodName := ⟨RX1, "must", "(ZLjava/lang/String;)V"⟩
def dkwX1_must_0 : List UInt8 := [26, 154, 0, 12, 187, 0, 87, 89, 43, 183, 0, 89, 191, 177]
abbrev dktX1_must_0 : List UInt8 := dkwX1_must_0 ++ []
theorem dksX1_must_0 : cX1_must.data.toList.drop 0 = dktX1_must_0 := by decide +kernel
theorem dX1_must_0 : decode cX1_must 0 = .ok (.iload_n 0, 1) := dk_26 (dk_at dksX1_must_0 0 rfl rfl)
theorem dX1_must_1 : decode cX1_must 1 = .ok (.ifCond .ne 12, 3) := dk_154 0 12 (dk_at dksX1_must_0 1 rfl rfl)
theorem dX1_must_4 : decode cX1_must 4 = .ok (.new 87, 3) := dk_187 0 87 (dk_at dksX1_must_0 4 rfl rfl)
theorem dX1_must_7 : decode cX1_must 7 = .ok (.dup, 1) := dk_89 (dk_at dksX1_must_0 7 rfl rfl)
theorem dX1_must_8 : decode cX1_must 8 = .ok (.aload_n 1, 1) := dk_43 (dk_at dksX1_must_0 8 rfl rfl)
theorem dX1_must_9 : decode cX1_must 9 = .ok (.invokespecial 89, 3) := dk_183 0 89 (dk_at dksX1_must_0 9 rfl rfl)
theorem dX1_must_12 : decode cX1_must 12 = .ok (.athrow, 1) := dk_191 (dk_at dksX1_must_0 12 rfl rfl)
theorem dX1_must_13 : decode cX1_must 13 = .ok (.return_, 1) := dk_177 (dk_at dksX1_must_0 13 rfl rfl)
abbrev cX1_forgets : ByteArray := prog_1_method_7_code
def yX1_forgets : MethodName := ⟨RX1, "forgets", "()V"⟩
def dkwX1_forgets_0 : List UInt8 := [3, 60, 27, 7, 162, 0, 16, 42, 180, 0, 52, 27, 1, 83, 132, 1, 1, 167, 255, 241, 177]
abbrev dktX1_forgets_0 : List UInt8 := dkwX1_forgets_0 ++ []
theorem dksX1_forgets_0 : cX1_forgets.data.toList.drop 0 = dktX1_forgets_0 := by decide +kernel
theorem dX1_forgets_0 : decode cX1_forgets 0 = .ok (.iconst 0, 1) := dk_3 (dk_at dksX1_forgets_0 0 rfl rfl)
theorem dX1_forgets_1 : decode cX1_forgets 1 = .ok (.istore_n 1, 1) := dk_60 (dk_at dksX1_forgets_0 1 rfl rfl)
theorem dX1_forgets_2 : decode cX1_forgets 2 = .ok (.iload_n 1, 1) := dk_27 (dk_at dksX1_forgets_0 2 rfl rfl)
theorem dX1_forgets_3 : decode cX1_forgets 3 = .ok (.iconst 4, 1) := dk_7 (dk_at dksX1_forgets_0 3 rfl rfl)
theorem dX1_forgets_4 : decode cX1_forgets 4 = .ok (.if_icmp .ge 16, 3) := dk_162 0 16 (dk_at dksX1_forgets_0 4 rfl rfl)
theorem dX1_forgets_7 : decode cX1_forgets 7 = .ok (.aload_n 0, 1) := dk_42 (dk_at dksX1_forgets_0 7 rfl rfl)
theorem dX1_forgets_8 : decode cX1_forgets 8 = .ok (.getfield 52, 3) := dk_180 0 52 (dk_at dksX1_forgets_0 8 rfl rfl)
theorem dX1_forgets_11 : decode cX1_forgets 11 = .ok (.iload_n 1, 1) := dk_27 (dk_at dksX1_forgets_0 11 rfl rfl)
theorem dX1_forgets_12 : decode cX1_forgets 12 = .ok (.aconst_null, 1) := dk_1 (dk_at dksX1_forgets_0 12 rfl rfl)
theorem dX1_forgets_13 : decode cX1_forgets 13 = .ok (.aastore, 1) := dk_83 (dk_at dksX1_forgets_0 13 rfl rfl)
theorem dX1_forgets_14 : decode cX1_forgets 14 = .ok (.iinc 1 1, 3) := dk_132 1 1 (dk_at dksX1_forgets_0 14 rfl rfl)
theorem dX1_forgets_17 : decode cX1_forgets 17 = .ok (.goto (-15), 3) := dk_167 255 241 (dk_at dksX1_forgets_0 17 rfl rfl)
theorem dX1_forgets_20 : decode cX1_forgets 20 = .ok (.return_, 1) := dk_177 (dk_at dksX1_forgets_0 20 rfl rfl)
abbrev cX1_take : ByteArray := prog_1_method_10_code
def yX1_take : MethodName := ⟨RX1, "take", "(I)I"⟩
def dkwX1_take_1 : List UInt8 := [87, 42, 182, 0, 136, 42, 180, 0, 10, 185, 0, 106, 1, 0, 172]
abbrev dktX1_take_1 : List UInt8 := dkwX1_take_1 ++ []
def dkwX1_take_0 : List UInt8 := [42, 180, 0, 10, 27, 42, 180, 0, 10, 185, 0, 106, 1, 0, 18, 139, 184, 0, 92, 185, 0, 141, 2, 0]
abbrev dktX1_take_0 : List UInt8 := dkwX1_take_0 ++ dktX1_take_1
theorem dksX1_take_0 : cX1_take.data.toList.drop 0 = dktX1_take_0 := by decide +kernel
theorem dksX1_take_1 : cX1_take.data.toList.drop 24 = dktX1_take_1 := dk_seg dksX1_take_0 24 rfl rfl
theorem dX1_take_0 : decode cX1_take 0 = .ok (.aload_n 0, 1) := dk_42 (dk_at dksX1_take_0 0 rfl rfl)
theorem dX1_take_1 : decode cX1_take 1 = .ok (.getfield 10, 3) := dk_180 0 10 (dk_at dksX1_take_0 1 rfl rfl)
theorem dX1_take_4 : decode cX1_take 4 = .ok (.iload_n 1, 1) := dk_27 (dk_at dksX1_take_0 4 rfl rfl)
theorem dX1_take_5 : decode cX1_take 5 = .ok (.aload_n 0, 1) := dk_42 (dk_at dksX1_take_0 5 rfl rfl)
theorem dX1_take_6 : decode cX1_take 6 = .ok (.getfield 10, 3) := dk_180 0 10 (dk_at dksX1_take_0 6 rfl rfl)
theorem dX1_take_9 : decode cX1_take 9 = .ok (.invokeinterface 106 1, 5) := by decide +kernel
theorem dX1_take_14 : decode cX1_take 14 = .ok (.ldc 139, 2) := dk_18 139 (dk_at dksX1_take_0 14 rfl rfl)
theorem dX1_take_16 : decode cX1_take 16 = .ok (.invokestatic 92, 3) := dk_184 0 92 (dk_at dksX1_take_0 16 rfl rfl)
theorem dX1_take_19 : decode cX1_take 19 = .ok (.invokeinterface 141 2, 5) := by decide +kernel
theorem dX1_take_24 : decode cX1_take 24 = .ok (.pop, 1) := dk_87 (dk_at dksX1_take_1 0 rfl rfl)
theorem dX1_take_25 : decode cX1_take 25 = .ok (.aload_n 0, 1) := dk_42 (dk_at dksX1_take_1 1 rfl rfl)
theorem dX1_take_26 : decode cX1_take 26 = .ok (.invokevirtual 136, 3) := dk_182 0 136 (dk_at dksX1_take_1 2 rfl rfl)
theorem dX1_take_29 : decode cX1_take 29 = .ok (.aload_n 0, 1) := dk_42 (dk_at dksX1_take_1 5 rfl rfl)
theorem dX1_take_30 : decode cX1_take 30 = .ok (.getfield 10, 3) := dk_180 0 10 (dk_at dksX1_take_1 6 rfl rfl)
theorem dX1_take_33 : decode cX1_take 33 = .ok (.invokeinterface 106 1, 5) := by decide +kernel
theorem dX1_take_38 : decode cX1_take 38 = .ok (.ireturn, 1) := dk_172 (dk_at dksX1_take_1 14 rfl rfl)
abbrev cX1_style : ByteArray := prog_1_method_11_code
def yX1_style : MethodName := ⟨RX1, "style", "(IIII)V"⟩
def dkwX1_style_5 : List UInt8 := [181, 0, 153, 25, 5, 21, 4, 181, 0, 156, 42, 182, 0, 136, 177]
abbrev dktX1_style_5 : List UInt8 := dkwX1_style_5 ++ []
def dkwX1_style_4 : List UInt8 := [154, 0, 7, 4, 167, 0, 4, 3, 18, 151, 184, 0, 124, 25, 5, 25, 6, 181, 0, 147, 25, 5, 29]
abbrev dktX1_style_4 : List UInt8 := dkwX1_style_4 ++ dktX1_style_5
def dkwX1_style_3 : List UInt8 := [25, 5, 166, 0, 7, 4, 167, 0, 4, 3, 54, 7, 25, 8, 180, 0, 147, 58, 8, 167, 255, 225, 21, 7]
abbrev dktX1_style_3 : List UInt8 := dkwX1_style_3 ++ dktX1_style_4
def dkwX1_style_2 : List UInt8 := [6, 184, 0, 114, 3, 54, 7, 25, 6, 58, 8, 25, 8, 198, 0, 32, 21, 7, 154, 0, 27, 25, 8]
abbrev dktX1_style_2 : List UInt8 := dkwX1_style_2 ++ dktX1_style_3
def dkwX1_style_1 : List UInt8 := [42, 180, 0, 18, 28, 16, 6, 18, 145, 184, 0, 92, 50, 58, 6, 29, 2, 6, 184, 0, 114, 21, 4, 2]
abbrev dktX1_style_1 : List UInt8 := dkwX1_style_1 ++ dktX1_style_2
def dkwX1_style_0 : List UInt8 := [42, 180, 0, 18, 27, 16, 6, 18, 145, 184, 0, 92, 50, 58, 5, 28, 2, 160, 0, 7, 1, 167, 0, 16]
abbrev dktX1_style_0 : List UInt8 := dkwX1_style_0 ++ dktX1_style_1
theorem dksX1_style_0 : cX1_style.data.toList.drop 0 = dktX1_style_0 := by decide +kernel
theorem dksX1_style_1 : cX1_style.data.toList.drop 24 = dktX1_style_1 := dk_seg dksX1_style_0 24 rfl rfl
theorem dksX1_style_2 : cX1_style.data.toList.drop 48 = dktX1_style_2 := dk_seg dksX1_style_1 24 rfl rfl
theorem dksX1_style_3 : cX1_style.data.toList.drop 71 = dktX1_style_3 := dk_seg dksX1_style_2 23 rfl rfl
theorem dksX1_style_4 : cX1_style.data.toList.drop 95 = dktX1_style_4 := dk_seg dksX1_style_3 24 rfl rfl
theorem dksX1_style_5 : cX1_style.data.toList.drop 118 = dktX1_style_5 := dk_seg dksX1_style_4 23 rfl rfl
theorem dX1_style_0 : decode cX1_style 0 = .ok (.aload_n 0, 1) := dk_42 (dk_at dksX1_style_0 0 rfl rfl)
theorem dX1_style_1 : decode cX1_style 1 = .ok (.getfield 18, 3) := dk_180 0 18 (dk_at dksX1_style_0 1 rfl rfl)
theorem dX1_style_4 : decode cX1_style 4 = .ok (.iload_n 1, 1) := dk_27 (dk_at dksX1_style_0 4 rfl rfl)
theorem dX1_style_5 : decode cX1_style 5 = .ok (.bipush 6, 2) := dk_16 6 (dk_at dksX1_style_0 5 rfl rfl)
theorem dX1_style_7 : decode cX1_style 7 = .ok (.ldc 145, 2) := dk_18 145 (dk_at dksX1_style_0 7 rfl rfl)
theorem dX1_style_9 : decode cX1_style 9 = .ok (.invokestatic 92, 3) := dk_184 0 92 (dk_at dksX1_style_0 9 rfl rfl)
theorem dX1_style_12 : decode cX1_style 12 = .ok (.aaload, 1) := dk_50 (dk_at dksX1_style_0 12 rfl rfl)
theorem dX1_style_13 : decode cX1_style 13 = .ok (.astore 5, 2) := dk_58 5 (dk_at dksX1_style_0 13 rfl rfl)
theorem dX1_style_15 : decode cX1_style 15 = .ok (.iload_n 2, 1) := dk_28 (dk_at dksX1_style_0 15 rfl rfl)
theorem dX1_style_16 : decode cX1_style 16 = .ok (.iconst (-1), 1) := dk_2 (dk_at dksX1_style_0 16 rfl rfl)
theorem dX1_style_17 : decode cX1_style 17 = .ok (.if_icmp .ne 7, 3) := dk_160 0 7 (dk_at dksX1_style_0 17 rfl rfl)
theorem dX1_style_20 : decode cX1_style 20 = .ok (.aconst_null, 1) := dk_1 (dk_at dksX1_style_0 20 rfl rfl)
theorem dX1_style_21 : decode cX1_style 21 = .ok (.goto 16, 3) := dk_167 0 16 (dk_at dksX1_style_0 21 rfl rfl)
theorem dX1_style_24 : decode cX1_style 24 = .ok (.aload_n 0, 1) := dk_42 (dk_at dksX1_style_1 0 rfl rfl)
theorem dX1_style_25 : decode cX1_style 25 = .ok (.getfield 18, 3) := dk_180 0 18 (dk_at dksX1_style_1 1 rfl rfl)
theorem dX1_style_28 : decode cX1_style 28 = .ok (.iload_n 2, 1) := dk_28 (dk_at dksX1_style_1 4 rfl rfl)
theorem dX1_style_29 : decode cX1_style 29 = .ok (.bipush 6, 2) := dk_16 6 (dk_at dksX1_style_1 5 rfl rfl)
theorem dX1_style_31 : decode cX1_style 31 = .ok (.ldc 145, 2) := dk_18 145 (dk_at dksX1_style_1 7 rfl rfl)
theorem dX1_style_33 : decode cX1_style 33 = .ok (.invokestatic 92, 3) := dk_184 0 92 (dk_at dksX1_style_1 9 rfl rfl)
theorem dX1_style_36 : decode cX1_style 36 = .ok (.aaload, 1) := dk_50 (dk_at dksX1_style_1 12 rfl rfl)
theorem dX1_style_37 : decode cX1_style 37 = .ok (.astore 6, 2) := dk_58 6 (dk_at dksX1_style_1 13 rfl rfl)
theorem dX1_style_39 : decode cX1_style 39 = .ok (.iload_n 3, 1) := dk_29 (dk_at dksX1_style_1 15 rfl rfl)
theorem dX1_style_40 : decode cX1_style 40 = .ok (.iconst (-1), 1) := dk_2 (dk_at dksX1_style_1 16 rfl rfl)
theorem dX1_style_41 : decode cX1_style 41 = .ok (.iconst 3, 1) := dk_6 (dk_at dksX1_style_1 17 rfl rfl)
theorem dX1_style_42 : decode cX1_style 42 = .ok (.invokestatic 114, 3) := dk_184 0 114 (dk_at dksX1_style_1 18 rfl rfl)
theorem dX1_style_45 : decode cX1_style 45 = .ok (.iload 4, 2) := dk_21 4 (dk_at dksX1_style_1 21 rfl rfl)
theorem dX1_style_47 : decode cX1_style 47 = .ok (.iconst (-1), 1) := dk_2 (dk_at dksX1_style_1 23 rfl rfl)
theorem dX1_style_48 : decode cX1_style 48 = .ok (.iconst 3, 1) := dk_6 (dk_at dksX1_style_2 0 rfl rfl)
theorem dX1_style_49 : decode cX1_style 49 = .ok (.invokestatic 114, 3) := dk_184 0 114 (dk_at dksX1_style_2 1 rfl rfl)
theorem dX1_style_52 : decode cX1_style 52 = .ok (.iconst 0, 1) := dk_3 (dk_at dksX1_style_2 4 rfl rfl)
theorem dX1_style_53 : decode cX1_style 53 = .ok (.istore 7, 2) := dk_54 7 (dk_at dksX1_style_2 5 rfl rfl)
theorem dX1_style_55 : decode cX1_style 55 = .ok (.aload 6, 2) := dk_25 6 (dk_at dksX1_style_2 7 rfl rfl)
theorem dX1_style_57 : decode cX1_style 57 = .ok (.astore 8, 2) := dk_58 8 (dk_at dksX1_style_2 9 rfl rfl)
theorem dX1_style_59 : decode cX1_style 59 = .ok (.aload 8, 2) := dk_25 8 (dk_at dksX1_style_2 11 rfl rfl)
theorem dX1_style_61 : decode cX1_style 61 = .ok (.ifnull 32, 3) := dk_198 0 32 (dk_at dksX1_style_2 13 rfl rfl)
theorem dX1_style_64 : decode cX1_style 64 = .ok (.iload 7, 2) := dk_21 7 (dk_at dksX1_style_2 16 rfl rfl)
theorem dX1_style_66 : decode cX1_style 66 = .ok (.ifCond .ne 27, 3) := dk_154 0 27 (dk_at dksX1_style_2 18 rfl rfl)
theorem dX1_style_69 : decode cX1_style 69 = .ok (.aload 8, 2) := dk_25 8 (dk_at dksX1_style_2 21 rfl rfl)
theorem dX1_style_71 : decode cX1_style 71 = .ok (.aload 5, 2) := dk_25 5 (dk_at dksX1_style_3 0 rfl rfl)
theorem dX1_style_73 : decode cX1_style 73 = .ok (.if_acmp .ne 7, 3) := dk_166 0 7 (dk_at dksX1_style_3 2 rfl rfl)
theorem dX1_style_76 : decode cX1_style 76 = .ok (.iconst 1, 1) := dk_4 (dk_at dksX1_style_3 5 rfl rfl)
theorem dX1_style_77 : decode cX1_style 77 = .ok (.goto 4, 3) := dk_167 0 4 (dk_at dksX1_style_3 6 rfl rfl)
theorem dX1_style_80 : decode cX1_style 80 = .ok (.iconst 0, 1) := dk_3 (dk_at dksX1_style_3 9 rfl rfl)
theorem dX1_style_81 : decode cX1_style 81 = .ok (.istore 7, 2) := dk_54 7 (dk_at dksX1_style_3 10 rfl rfl)
theorem dX1_style_83 : decode cX1_style 83 = .ok (.aload 8, 2) := dk_25 8 (dk_at dksX1_style_3 12 rfl rfl)
theorem dX1_style_85 : decode cX1_style 85 = .ok (.getfield 147, 3) := dk_180 0 147 (dk_at dksX1_style_3 14 rfl rfl)
theorem dX1_style_88 : decode cX1_style 88 = .ok (.astore 8, 2) := dk_58 8 (dk_at dksX1_style_3 17 rfl rfl)
theorem dX1_style_90 : decode cX1_style 90 = .ok (.goto (-31), 3) := dk_167 255 225 (dk_at dksX1_style_3 19 rfl rfl)
theorem dX1_style_93 : decode cX1_style 93 = .ok (.iload 7, 2) := dk_21 7 (dk_at dksX1_style_3 22 rfl rfl)
theorem dX1_style_95 : decode cX1_style 95 = .ok (.ifCond .ne 7, 3) := dk_154 0 7 (dk_at dksX1_style_4 0 rfl rfl)
theorem dX1_style_98 : decode cX1_style 98 = .ok (.iconst 1, 1) := dk_4 (dk_at dksX1_style_4 3 rfl rfl)
theorem dX1_style_99 : decode cX1_style 99 = .ok (.goto 4, 3) := dk_167 0 4 (dk_at dksX1_style_4 4 rfl rfl)
theorem dX1_style_102 : decode cX1_style 102 = .ok (.iconst 0, 1) := dk_3 (dk_at dksX1_style_4 7 rfl rfl)
theorem dX1_style_103 : decode cX1_style 103 = .ok (.ldc 151, 2) := dk_18 151 (dk_at dksX1_style_4 8 rfl rfl)
theorem dX1_style_105 : decode cX1_style 105 = .ok (.invokestatic 124, 3) := dk_184 0 124 (dk_at dksX1_style_4 10 rfl rfl)
theorem dX1_style_108 : decode cX1_style 108 = .ok (.aload 5, 2) := dk_25 5 (dk_at dksX1_style_4 13 rfl rfl)
theorem dX1_style_110 : decode cX1_style 110 = .ok (.aload 6, 2) := dk_25 6 (dk_at dksX1_style_4 15 rfl rfl)
theorem dX1_style_112 : decode cX1_style 112 = .ok (.putfield 147, 3) := dk_181 0 147 (dk_at dksX1_style_4 17 rfl rfl)
theorem dX1_style_115 : decode cX1_style 115 = .ok (.aload 5, 2) := dk_25 5 (dk_at dksX1_style_4 20 rfl rfl)
theorem dX1_style_117 : decode cX1_style 117 = .ok (.iload_n 3, 1) := dk_29 (dk_at dksX1_style_4 22 rfl rfl)
theorem dX1_style_118 : decode cX1_style 118 = .ok (.putfield 153, 3) := dk_181 0 153 (dk_at dksX1_style_5 0 rfl rfl)
theorem dX1_style_121 : decode cX1_style 121 = .ok (.aload 5, 2) := dk_25 5 (dk_at dksX1_style_5 3 rfl rfl)
theorem dX1_style_123 : decode cX1_style 123 = .ok (.iload 4, 2) := dk_21 4 (dk_at dksX1_style_5 5 rfl rfl)
theorem dX1_style_125 : decode cX1_style 125 = .ok (.putfield 156, 3) := dk_181 0 156 (dk_at dksX1_style_5 7 rfl rfl)
theorem dX1_style_128 : decode cX1_style 128 = .ok (.aload_n 0, 1) := dk_42 (dk_at dksX1_style_5 10 rfl rfl)
theorem dX1_style_129 : decode cX1_style 129 = .ok (.invokevirtual 136, 3) := dk_182 0 136 (dk_at dksX1_style_5 11 rfl rfl)
theorem dX1_style_132 : decode cX1_style 132 = .ok (.return_, 1) := dk_177 (dk_at dksX1_style_5 14 rfl rfl)
abbrev cX1_data : ByteArray := prog_1_method_12_code
def yX1_data : MethodName := ⟨RX1, "data", "(III)I"⟩
def dkwX1_data_2 : List UInt8 := [83, 21, 4, 172]
abbrev dktX1_data_2 : List UInt8 := dkwX1_data_2 ++ []
def dkwX1_data_1 : List UInt8 := [180, 0, 24, 27, 50, 28, 46, 54, 4, 42, 180, 0, 24, 27, 50, 28, 29, 79, 42, 180, 0, 52, 27, 1]
abbrev dktX1_data_1 : List UInt8 := dkwX1_data_1 ++ dktX1_data_2
def dkwX1_data_0 : List UInt8 := [27, 7, 18, 90, 184, 0, 92, 87, 28, 7, 18, 159, 184, 0, 92, 87, 29, 3, 16, 9, 184, 0, 114, 42]
abbrev dktX1_data_0 : List UInt8 := dkwX1_data_0 ++ dktX1_data_1
theorem dksX1_data_0 : cX1_data.data.toList.drop 0 = dktX1_data_0 := by decide +kernel
theorem dksX1_data_1 : cX1_data.data.toList.drop 24 = dktX1_data_1 := dk_seg dksX1_data_0 24 rfl rfl
theorem dksX1_data_2 : cX1_data.data.toList.drop 48 = dktX1_data_2 := dk_seg dksX1_data_1 24 rfl rfl
theorem dX1_data_0 : decode cX1_data 0 = .ok (.iload_n 1, 1) := dk_27 (dk_at dksX1_data_0 0 rfl rfl)
theorem dX1_data_1 : decode cX1_data 1 = .ok (.iconst 4, 1) := dk_7 (dk_at dksX1_data_0 1 rfl rfl)
theorem dX1_data_2 : decode cX1_data 2 = .ok (.ldc 90, 2) := dk_18 90 (dk_at dksX1_data_0 2 rfl rfl)
theorem dX1_data_4 : decode cX1_data 4 = .ok (.invokestatic 92, 3) := dk_184 0 92 (dk_at dksX1_data_0 4 rfl rfl)
theorem dX1_data_7 : decode cX1_data 7 = .ok (.pop, 1) := dk_87 (dk_at dksX1_data_0 7 rfl rfl)
theorem dX1_data_8 : decode cX1_data 8 = .ok (.iload_n 2, 1) := dk_28 (dk_at dksX1_data_0 8 rfl rfl)
theorem dX1_data_9 : decode cX1_data 9 = .ok (.iconst 4, 1) := dk_7 (dk_at dksX1_data_0 9 rfl rfl)
theorem dX1_data_10 : decode cX1_data 10 = .ok (.ldc 159, 2) := dk_18 159 (dk_at dksX1_data_0 10 rfl rfl)
theorem dX1_data_12 : decode cX1_data 12 = .ok (.invokestatic 92, 3) := dk_184 0 92 (dk_at dksX1_data_0 12 rfl rfl)
theorem dX1_data_15 : decode cX1_data 15 = .ok (.pop, 1) := dk_87 (dk_at dksX1_data_0 15 rfl rfl)
theorem dX1_data_16 : decode cX1_data 16 = .ok (.iload_n 3, 1) := dk_29 (dk_at dksX1_data_0 16 rfl rfl)
theorem dX1_data_17 : decode cX1_data 17 = .ok (.iconst 0, 1) := dk_3 (dk_at dksX1_data_0 17 rfl rfl)
theorem dX1_data_18 : decode cX1_data 18 = .ok (.bipush 9, 2) := dk_16 9 (dk_at dksX1_data_0 18 rfl rfl)
theorem dX1_data_20 : decode cX1_data 20 = .ok (.invokestatic 114, 3) := dk_184 0 114 (dk_at dksX1_data_0 20 rfl rfl)
theorem dX1_data_23 : decode cX1_data 23 = .ok (.aload_n 0, 1) := dk_42 (dk_at dksX1_data_0 23 rfl rfl)
theorem dX1_data_24 : decode cX1_data 24 = .ok (.getfield 24, 3) := dk_180 0 24 (dk_at dksX1_data_1 0 rfl rfl)
theorem dX1_data_27 : decode cX1_data 27 = .ok (.iload_n 1, 1) := dk_27 (dk_at dksX1_data_1 3 rfl rfl)
theorem dX1_data_28 : decode cX1_data 28 = .ok (.aaload, 1) := dk_50 (dk_at dksX1_data_1 4 rfl rfl)
theorem dX1_data_29 : decode cX1_data 29 = .ok (.iload_n 2, 1) := dk_28 (dk_at dksX1_data_1 5 rfl rfl)
theorem dX1_data_30 : decode cX1_data 30 = .ok (.iaload, 1) := dk_46 (dk_at dksX1_data_1 6 rfl rfl)
theorem dX1_data_31 : decode cX1_data 31 = .ok (.istore 4, 2) := dk_54 4 (dk_at dksX1_data_1 7 rfl rfl)
theorem dX1_data_33 : decode cX1_data 33 = .ok (.aload_n 0, 1) := dk_42 (dk_at dksX1_data_1 9 rfl rfl)
theorem dX1_data_34 : decode cX1_data 34 = .ok (.getfield 24, 3) := dk_180 0 24 (dk_at dksX1_data_1 10 rfl rfl)
theorem dX1_data_37 : decode cX1_data 37 = .ok (.iload_n 1, 1) := dk_27 (dk_at dksX1_data_1 13 rfl rfl)
theorem dX1_data_38 : decode cX1_data 38 = .ok (.aaload, 1) := dk_50 (dk_at dksX1_data_1 14 rfl rfl)
theorem dX1_data_39 : decode cX1_data 39 = .ok (.iload_n 2, 1) := dk_28 (dk_at dksX1_data_1 15 rfl rfl)
theorem dX1_data_40 : decode cX1_data 40 = .ok (.iload_n 3, 1) := dk_29 (dk_at dksX1_data_1 16 rfl rfl)
theorem dX1_data_41 : decode cX1_data 41 = .ok (.iastore, 1) := dk_79 (dk_at dksX1_data_1 17 rfl rfl)
theorem dX1_data_42 : decode cX1_data 42 = .ok (.aload_n 0, 1) := dk_42 (dk_at dksX1_data_1 18 rfl rfl)
theorem dX1_data_43 : decode cX1_data 43 = .ok (.getfield 52, 3) := dk_180 0 52 (dk_at dksX1_data_1 19 rfl rfl)
theorem dX1_data_46 : decode cX1_data 46 = .ok (.iload_n 1, 1) := dk_27 (dk_at dksX1_data_1 22 rfl rfl)
theorem dX1_data_47 : decode cX1_data 47 = .ok (.aconst_null, 1) := dk_1 (dk_at dksX1_data_1 23 rfl rfl)
theorem dX1_data_48 : decode cX1_data 48 = .ok (.aastore, 1) := dk_83 (dk_at dksX1_data_2 0 rfl rfl)
theorem dX1_data_49 : decode cX1_data 49 = .ok (.iload 4, 2) := dk_21 4 (dk_at dksX1_data_2 1 rfl rfl)
theorem dX1_data_51 : decode cX1_data 51 = .ok (.ireturn, 1) := dk_172 (dk_at dksX1_data_2 3 rfl rfl)
abbrev cX1_grid : ByteArray := prog_1_method_13_code
def yX1_grid : MethodName := ⟨RX1, "grid", "(III)V"⟩
def dkwX1_grid_1 : List UInt8 := [181, 0, 27, 42, 28, 181, 0, 31, 42, 29, 181, 0, 34, 42, 182, 0, 136, 177]
abbrev dktX1_grid_1 : List UInt8 := dkwX1_grid_1 ++ []
def dkwX1_grid_0 : List UInt8 := [27, 8, 16, 20, 184, 0, 114, 28, 6, 16, 20, 184, 0, 114, 29, 4, 5, 184, 0, 114, 42, 27]
abbrev dktX1_grid_0 : List UInt8 := dkwX1_grid_0 ++ dktX1_grid_1
theorem dksX1_grid_0 : cX1_grid.data.toList.drop 0 = dktX1_grid_0 := by decide +kernel
theorem dksX1_grid_1 : cX1_grid.data.toList.drop 22 = dktX1_grid_1 := dk_seg dksX1_grid_0 22 rfl rfl
theorem dX1_grid_0 : decode cX1_grid 0 = .ok (.iload_n 1, 1) := dk_27 (dk_at dksX1_grid_0 0 rfl rfl)
theorem dX1_grid_1 : decode cX1_grid 1 = .ok (.iconst 5, 1) := dk_8 (dk_at dksX1_grid_0 1 rfl rfl)
theorem dX1_grid_2 : decode cX1_grid 2 = .ok (.bipush 20, 2) := dk_16 20 (dk_at dksX1_grid_0 2 rfl rfl)
theorem dX1_grid_4 : decode cX1_grid 4 = .ok (.invokestatic 114, 3) := dk_184 0 114 (dk_at dksX1_grid_0 4 rfl rfl)
theorem dX1_grid_7 : decode cX1_grid 7 = .ok (.iload_n 2, 1) := dk_28 (dk_at dksX1_grid_0 7 rfl rfl)
theorem dX1_grid_8 : decode cX1_grid 8 = .ok (.iconst 3, 1) := dk_6 (dk_at dksX1_grid_0 8 rfl rfl)
theorem dX1_grid_9 : decode cX1_grid 9 = .ok (.bipush 20, 2) := dk_16 20 (dk_at dksX1_grid_0 9 rfl rfl)
theorem dX1_grid_11 : decode cX1_grid 11 = .ok (.invokestatic 114, 3) := dk_184 0 114 (dk_at dksX1_grid_0 11 rfl rfl)
theorem dX1_grid_14 : decode cX1_grid 14 = .ok (.iload_n 3, 1) := dk_29 (dk_at dksX1_grid_0 14 rfl rfl)
theorem dX1_grid_15 : decode cX1_grid 15 = .ok (.iconst 1, 1) := dk_4 (dk_at dksX1_grid_0 15 rfl rfl)
theorem dX1_grid_16 : decode cX1_grid 16 = .ok (.iconst 2, 1) := dk_5 (dk_at dksX1_grid_0 16 rfl rfl)
theorem dX1_grid_17 : decode cX1_grid 17 = .ok (.invokestatic 114, 3) := dk_184 0 114 (dk_at dksX1_grid_0 17 rfl rfl)
theorem dX1_grid_20 : decode cX1_grid 20 = .ok (.aload_n 0, 1) := dk_42 (dk_at dksX1_grid_0 20 rfl rfl)
theorem dX1_grid_21 : decode cX1_grid 21 = .ok (.iload_n 1, 1) := dk_27 (dk_at dksX1_grid_0 21 rfl rfl)
theorem dX1_grid_22 : decode cX1_grid 22 = .ok (.putfield 27, 3) := dk_181 0 27 (dk_at dksX1_grid_1 0 rfl rfl)
theorem dX1_grid_25 : decode cX1_grid 25 = .ok (.aload_n 0, 1) := dk_42 (dk_at dksX1_grid_1 3 rfl rfl)
theorem dX1_grid_26 : decode cX1_grid 26 = .ok (.iload_n 2, 1) := dk_28 (dk_at dksX1_grid_1 4 rfl rfl)
theorem dX1_grid_27 : decode cX1_grid 27 = .ok (.putfield 31, 3) := dk_181 0 31 (dk_at dksX1_grid_1 5 rfl rfl)
theorem dX1_grid_30 : decode cX1_grid 30 = .ok (.aload_n 0, 1) := dk_42 (dk_at dksX1_grid_1 8 rfl rfl)
theorem dX1_grid_31 : decode cX1_grid 31 = .ok (.iload_n 3, 1) := dk_29 (dk_at dksX1_grid_1 9 rfl rfl)
theorem dX1_grid_32 : decode cX1_grid 32 = .ok (.putfield 34, 3) := dk_181 0 34 (dk_at dksX1_grid_1 10 rfl rfl)
theorem dX1_grid_35 : decode cX1_grid 35 = .ok (.aload_n 0, 1) := dk_42 (dk_at dksX1_grid_1 13 rfl rfl)
theorem dX1_grid_36 : decode cX1_grid 36 = .ok (.invokevirtual 136, 3) := dk_182 0 136 (dk_at dksX1_grid_1 14 rfl rfl)
theorem dX1_grid_39 : decode cX1_grid 39 = .ok (.return_, 1) := dk_177 (dk_at dksX1_grid_1 17 rfl rfl)
abbrev cX1_see : ByteArray := prog_1_method_15_code
def yX1_see : MethodName := ⟨RX1, "see", "(II)I"⟩
def dkwX1_see_3 : List UInt8 := [18, 163, 184, 0, 124, 42, 180, 0, 37, 27, 46, 62, 42, 180, 0, 37, 27, 28, 79, 29, 172]
abbrev dktX1_see_3 : List UInt8 := dkwX1_see_3 ++ []
def dkwX1_see_2 : List UInt8 := [3, 62, 42, 180, 0, 37, 21, 4, 46, 54, 4, 167, 255, 225, 29, 154, 0, 7, 4, 167, 0, 4, 3]
abbrev dktX1_see_2 : List UInt8 := dkwX1_see_2 ++ dktX1_see_3
def dkwX1_see_1 : List UInt8 := [62, 28, 54, 4, 21, 4, 2, 159, 0, 31, 29, 154, 0, 9, 21, 4, 27, 160, 0, 7, 4, 167, 0, 4]
abbrev dktX1_see_1 : List UInt8 := dkwX1_see_1 ++ dktX1_see_2
def dkwX1_see_0 : List UInt8 := [27, 16, 10, 18, 161, 184, 0, 92, 87, 28, 2, 159, 0, 65, 28, 16, 10, 18, 161, 184, 0, 92, 87, 3]
abbrev dktX1_see_0 : List UInt8 := dkwX1_see_0 ++ dktX1_see_1
theorem dksX1_see_0 : cX1_see.data.toList.drop 0 = dktX1_see_0 := by decide +kernel
theorem dksX1_see_1 : cX1_see.data.toList.drop 24 = dktX1_see_1 := dk_seg dksX1_see_0 24 rfl rfl
theorem dksX1_see_2 : cX1_see.data.toList.drop 48 = dktX1_see_2 := dk_seg dksX1_see_1 24 rfl rfl
theorem dksX1_see_3 : cX1_see.data.toList.drop 71 = dktX1_see_3 := dk_seg dksX1_see_2 23 rfl rfl
theorem dX1_see_0 : decode cX1_see 0 = .ok (.iload_n 1, 1) := dk_27 (dk_at dksX1_see_0 0 rfl rfl)
theorem dX1_see_1 : decode cX1_see 1 = .ok (.bipush 10, 2) := dk_16 10 (dk_at dksX1_see_0 1 rfl rfl)
theorem dX1_see_3 : decode cX1_see 3 = .ok (.ldc 161, 2) := dk_18 161 (dk_at dksX1_see_0 3 rfl rfl)
theorem dX1_see_5 : decode cX1_see 5 = .ok (.invokestatic 92, 3) := dk_184 0 92 (dk_at dksX1_see_0 5 rfl rfl)
theorem dX1_see_8 : decode cX1_see 8 = .ok (.pop, 1) := dk_87 (dk_at dksX1_see_0 8 rfl rfl)
theorem dX1_see_9 : decode cX1_see 9 = .ok (.iload_n 2, 1) := dk_28 (dk_at dksX1_see_0 9 rfl rfl)
theorem dX1_see_10 : decode cX1_see 10 = .ok (.iconst (-1), 1) := dk_2 (dk_at dksX1_see_0 10 rfl rfl)
theorem dX1_see_11 : decode cX1_see 11 = .ok (.if_icmp .eq 65, 3) := dk_159 0 65 (dk_at dksX1_see_0 11 rfl rfl)
theorem dX1_see_14 : decode cX1_see 14 = .ok (.iload_n 2, 1) := dk_28 (dk_at dksX1_see_0 14 rfl rfl)
theorem dX1_see_15 : decode cX1_see 15 = .ok (.bipush 10, 2) := dk_16 10 (dk_at dksX1_see_0 15 rfl rfl)
theorem dX1_see_17 : decode cX1_see 17 = .ok (.ldc 161, 2) := dk_18 161 (dk_at dksX1_see_0 17 rfl rfl)
theorem dX1_see_19 : decode cX1_see 19 = .ok (.invokestatic 92, 3) := dk_184 0 92 (dk_at dksX1_see_0 19 rfl rfl)
theorem dX1_see_22 : decode cX1_see 22 = .ok (.pop, 1) := dk_87 (dk_at dksX1_see_0 22 rfl rfl)
theorem dX1_see_23 : decode cX1_see 23 = .ok (.iconst 0, 1) := dk_3 (dk_at dksX1_see_0 23 rfl rfl)
theorem dX1_see_24 : decode cX1_see 24 = .ok (.istore_n 3, 1) := dk_62 (dk_at dksX1_see_1 0 rfl rfl)
theorem dX1_see_25 : decode cX1_see 25 = .ok (.iload_n 2, 1) := dk_28 (dk_at dksX1_see_1 1 rfl rfl)
theorem dX1_see_26 : decode cX1_see 26 = .ok (.istore 4, 2) := dk_54 4 (dk_at dksX1_see_1 2 rfl rfl)
theorem dX1_see_28 : decode cX1_see 28 = .ok (.iload 4, 2) := dk_21 4 (dk_at dksX1_see_1 4 rfl rfl)
theorem dX1_see_30 : decode cX1_see 30 = .ok (.iconst (-1), 1) := dk_2 (dk_at dksX1_see_1 6 rfl rfl)
theorem dX1_see_31 : decode cX1_see 31 = .ok (.if_icmp .eq 31, 3) := dk_159 0 31 (dk_at dksX1_see_1 7 rfl rfl)
theorem dX1_see_34 : decode cX1_see 34 = .ok (.iload_n 3, 1) := dk_29 (dk_at dksX1_see_1 10 rfl rfl)
theorem dX1_see_35 : decode cX1_see 35 = .ok (.ifCond .ne 9, 3) := dk_154 0 9 (dk_at dksX1_see_1 11 rfl rfl)
theorem dX1_see_38 : decode cX1_see 38 = .ok (.iload 4, 2) := dk_21 4 (dk_at dksX1_see_1 14 rfl rfl)
theorem dX1_see_40 : decode cX1_see 40 = .ok (.iload_n 1, 1) := dk_27 (dk_at dksX1_see_1 16 rfl rfl)
theorem dX1_see_41 : decode cX1_see 41 = .ok (.if_icmp .ne 7, 3) := dk_160 0 7 (dk_at dksX1_see_1 17 rfl rfl)
theorem dX1_see_44 : decode cX1_see 44 = .ok (.iconst 1, 1) := dk_4 (dk_at dksX1_see_1 20 rfl rfl)
theorem dX1_see_45 : decode cX1_see 45 = .ok (.goto 4, 3) := dk_167 0 4 (dk_at dksX1_see_1 21 rfl rfl)
theorem dX1_see_48 : decode cX1_see 48 = .ok (.iconst 0, 1) := dk_3 (dk_at dksX1_see_2 0 rfl rfl)
theorem dX1_see_49 : decode cX1_see 49 = .ok (.istore_n 3, 1) := dk_62 (dk_at dksX1_see_2 1 rfl rfl)
theorem dX1_see_50 : decode cX1_see 50 = .ok (.aload_n 0, 1) := dk_42 (dk_at dksX1_see_2 2 rfl rfl)
theorem dX1_see_51 : decode cX1_see 51 = .ok (.getfield 37, 3) := dk_180 0 37 (dk_at dksX1_see_2 3 rfl rfl)
theorem dX1_see_54 : decode cX1_see 54 = .ok (.iload 4, 2) := dk_21 4 (dk_at dksX1_see_2 6 rfl rfl)
theorem dX1_see_56 : decode cX1_see 56 = .ok (.iaload, 1) := dk_46 (dk_at dksX1_see_2 8 rfl rfl)
theorem dX1_see_57 : decode cX1_see 57 = .ok (.istore 4, 2) := dk_54 4 (dk_at dksX1_see_2 9 rfl rfl)
theorem dX1_see_59 : decode cX1_see 59 = .ok (.goto (-31), 3) := dk_167 255 225 (dk_at dksX1_see_2 11 rfl rfl)
theorem dX1_see_62 : decode cX1_see 62 = .ok (.iload_n 3, 1) := dk_29 (dk_at dksX1_see_2 14 rfl rfl)
theorem dX1_see_63 : decode cX1_see 63 = .ok (.ifCond .ne 7, 3) := dk_154 0 7 (dk_at dksX1_see_2 15 rfl rfl)
theorem dX1_see_66 : decode cX1_see 66 = .ok (.iconst 1, 1) := dk_4 (dk_at dksX1_see_2 18 rfl rfl)
theorem dX1_see_67 : decode cX1_see 67 = .ok (.goto 4, 3) := dk_167 0 4 (dk_at dksX1_see_2 19 rfl rfl)
theorem dX1_see_70 : decode cX1_see 70 = .ok (.iconst 0, 1) := dk_3 (dk_at dksX1_see_2 22 rfl rfl)
theorem dX1_see_71 : decode cX1_see 71 = .ok (.ldc 163, 2) := dk_18 163 (dk_at dksX1_see_3 0 rfl rfl)
theorem dX1_see_73 : decode cX1_see 73 = .ok (.invokestatic 124, 3) := dk_184 0 124 (dk_at dksX1_see_3 2 rfl rfl)
theorem dX1_see_76 : decode cX1_see 76 = .ok (.aload_n 0, 1) := dk_42 (dk_at dksX1_see_3 5 rfl rfl)
theorem dX1_see_77 : decode cX1_see 77 = .ok (.getfield 37, 3) := dk_180 0 37 (dk_at dksX1_see_3 6 rfl rfl)
theorem dX1_see_80 : decode cX1_see 80 = .ok (.iload_n 1, 1) := dk_27 (dk_at dksX1_see_3 9 rfl rfl)
theorem dX1_see_81 : decode cX1_see 81 = .ok (.iaload, 1) := dk_46 (dk_at dksX1_see_3 10 rfl rfl)
theorem dX1_see_82 : decode cX1_see 82 = .ok (.istore_n 3, 1) := dk_62 (dk_at dksX1_see_3 11 rfl rfl)
theorem dX1_see_83 : decode cX1_see 83 = .ok (.aload_n 0, 1) := dk_42 (dk_at dksX1_see_3 12 rfl rfl)
theorem dX1_see_84 : decode cX1_see 84 = .ok (.getfield 37, 3) := dk_180 0 37 (dk_at dksX1_see_3 13 rfl rfl)
theorem dX1_see_87 : decode cX1_see 87 = .ok (.iload_n 1, 1) := dk_27 (dk_at dksX1_see_3 16 rfl rfl)
theorem dX1_see_88 : decode cX1_see 88 = .ok (.iload_n 2, 1) := dk_28 (dk_at dksX1_see_3 17 rfl rfl)
theorem dX1_see_89 : decode cX1_see 89 = .ok (.iastore, 1) := dk_79 (dk_at dksX1_see_3 18 rfl rfl)
theorem dX1_see_90 : decode cX1_see 90 = .ok (.iload_n 3, 1) := dk_29 (dk_at dksX1_see_3 19 rfl rfl)
theorem dX1_see_91 : decode cX1_see 91 = .ok (.ireturn, 1) := dk_172 (dk_at dksX1_see_3 20 rfl rfl)
abbrev cX1_fold : ByteArray := prog_1_method_16_code
def yX1_fold : MethodName := ⟨RX1, "fold", "(II)V"⟩
def dkwX1_fold_3 : List UInt8 := [181, 0, 44, 177]
abbrev dktX1_fold_3 : List UInt8 := dkwX1_fold_3 ++ []
def dkwX1_fold_2 : List UInt8 := [182, 0, 64, 182, 0, 73, 183, 0, 86, 191, 28, 3, 16, 9, 184, 0, 114, 42, 27, 181, 0, 41, 42, 28]
abbrev dktX1_fold_2 : List UInt8 := dkwX1_fold_2 ++ dktX1_fold_3
def dkwX1_fold_1 : List UInt8 := [187, 0, 80, 89, 187, 0, 59, 89, 183, 0, 61, 18, 165, 182, 0, 64, 27, 182, 0, 70, 18, 167]
abbrev dktX1_fold_1 : List UInt8 := dkwX1_fold_1 ++ dktX1_fold_2
def dkwX1_fold_0 : List UInt8 := [27, 7, 16, 16, 184, 0, 114, 27, 7, 159, 0, 47, 27, 16, 8, 159, 0, 41, 27, 16, 16, 159, 0, 35]
abbrev dktX1_fold_0 : List UInt8 := dkwX1_fold_0 ++ dktX1_fold_1
theorem dksX1_fold_0 : cX1_fold.data.toList.drop 0 = dktX1_fold_0 := by decide +kernel
theorem dksX1_fold_1 : cX1_fold.data.toList.drop 24 = dktX1_fold_1 := dk_seg dksX1_fold_0 24 rfl rfl
theorem dksX1_fold_2 : cX1_fold.data.toList.drop 46 = dktX1_fold_2 := dk_seg dksX1_fold_1 22 rfl rfl
theorem dksX1_fold_3 : cX1_fold.data.toList.drop 70 = dktX1_fold_3 := dk_seg dksX1_fold_2 24 rfl rfl
theorem dX1_fold_0 : decode cX1_fold 0 = .ok (.iload_n 1, 1) := dk_27 (dk_at dksX1_fold_0 0 rfl rfl)
theorem dX1_fold_1 : decode cX1_fold 1 = .ok (.iconst 4, 1) := dk_7 (dk_at dksX1_fold_0 1 rfl rfl)
theorem dX1_fold_2 : decode cX1_fold 2 = .ok (.bipush 16, 2) := dk_16 16 (dk_at dksX1_fold_0 2 rfl rfl)
theorem dX1_fold_4 : decode cX1_fold 4 = .ok (.invokestatic 114, 3) := dk_184 0 114 (dk_at dksX1_fold_0 4 rfl rfl)
theorem dX1_fold_7 : decode cX1_fold 7 = .ok (.iload_n 1, 1) := dk_27 (dk_at dksX1_fold_0 7 rfl rfl)
theorem dX1_fold_8 : decode cX1_fold 8 = .ok (.iconst 4, 1) := dk_7 (dk_at dksX1_fold_0 8 rfl rfl)
theorem dX1_fold_9 : decode cX1_fold 9 = .ok (.if_icmp .eq 47, 3) := dk_159 0 47 (dk_at dksX1_fold_0 9 rfl rfl)
theorem dX1_fold_12 : decode cX1_fold 12 = .ok (.iload_n 1, 1) := dk_27 (dk_at dksX1_fold_0 12 rfl rfl)
theorem dX1_fold_13 : decode cX1_fold 13 = .ok (.bipush 8, 2) := dk_16 8 (dk_at dksX1_fold_0 13 rfl rfl)
theorem dX1_fold_15 : decode cX1_fold 15 = .ok (.if_icmp .eq 41, 3) := dk_159 0 41 (dk_at dksX1_fold_0 15 rfl rfl)
theorem dX1_fold_18 : decode cX1_fold 18 = .ok (.iload_n 1, 1) := dk_27 (dk_at dksX1_fold_0 18 rfl rfl)
theorem dX1_fold_19 : decode cX1_fold 19 = .ok (.bipush 16, 2) := dk_16 16 (dk_at dksX1_fold_0 19 rfl rfl)
theorem dX1_fold_21 : decode cX1_fold 21 = .ok (.if_icmp .eq 35, 3) := dk_159 0 35 (dk_at dksX1_fold_0 21 rfl rfl)
theorem dX1_fold_24 : decode cX1_fold 24 = .ok (.new 80, 3) := dk_187 0 80 (dk_at dksX1_fold_1 0 rfl rfl)
theorem dX1_fold_27 : decode cX1_fold 27 = .ok (.dup, 1) := dk_89 (dk_at dksX1_fold_1 3 rfl rfl)
theorem dX1_fold_28 : decode cX1_fold 28 = .ok (.new 59, 3) := dk_187 0 59 (dk_at dksX1_fold_1 4 rfl rfl)
theorem dX1_fold_31 : decode cX1_fold 31 = .ok (.dup, 1) := dk_89 (dk_at dksX1_fold_1 7 rfl rfl)
theorem dX1_fold_32 : decode cX1_fold 32 = .ok (.invokespecial 61, 3) := dk_183 0 61 (dk_at dksX1_fold_1 8 rfl rfl)
theorem dX1_fold_35 : decode cX1_fold 35 = .ok (.ldc 165, 2) := dk_18 165 (dk_at dksX1_fold_1 11 rfl rfl)
theorem dX1_fold_37 : decode cX1_fold 37 = .ok (.invokevirtual 64, 3) := dk_182 0 64 (dk_at dksX1_fold_1 13 rfl rfl)
theorem dX1_fold_40 : decode cX1_fold 40 = .ok (.iload_n 1, 1) := dk_27 (dk_at dksX1_fold_1 16 rfl rfl)
theorem dX1_fold_41 : decode cX1_fold 41 = .ok (.invokevirtual 70, 3) := dk_182 0 70 (dk_at dksX1_fold_1 17 rfl rfl)
theorem dX1_fold_44 : decode cX1_fold 44 = .ok (.ldc 167, 2) := dk_18 167 (dk_at dksX1_fold_1 20 rfl rfl)
theorem dX1_fold_46 : decode cX1_fold 46 = .ok (.invokevirtual 64, 3) := dk_182 0 64 (dk_at dksX1_fold_2 0 rfl rfl)
theorem dX1_fold_49 : decode cX1_fold 49 = .ok (.invokevirtual 73, 3) := dk_182 0 73 (dk_at dksX1_fold_2 3 rfl rfl)
theorem dX1_fold_52 : decode cX1_fold 52 = .ok (.invokespecial 86, 3) := dk_183 0 86 (dk_at dksX1_fold_2 6 rfl rfl)
theorem dX1_fold_55 : decode cX1_fold 55 = .ok (.athrow, 1) := dk_191 (dk_at dksX1_fold_2 9 rfl rfl)
theorem dX1_fold_56 : decode cX1_fold 56 = .ok (.iload_n 2, 1) := dk_28 (dk_at dksX1_fold_2 10 rfl rfl)
theorem dX1_fold_57 : decode cX1_fold 57 = .ok (.iconst 0, 1) := dk_3 (dk_at dksX1_fold_2 11 rfl rfl)
theorem dX1_fold_58 : decode cX1_fold 58 = .ok (.bipush 9, 2) := dk_16 9 (dk_at dksX1_fold_2 12 rfl rfl)
theorem dX1_fold_60 : decode cX1_fold 60 = .ok (.invokestatic 114, 3) := dk_184 0 114 (dk_at dksX1_fold_2 14 rfl rfl)
theorem dX1_fold_63 : decode cX1_fold 63 = .ok (.aload_n 0, 1) := dk_42 (dk_at dksX1_fold_2 17 rfl rfl)
theorem dX1_fold_64 : decode cX1_fold 64 = .ok (.iload_n 1, 1) := dk_27 (dk_at dksX1_fold_2 18 rfl rfl)
theorem dX1_fold_65 : decode cX1_fold 65 = .ok (.putfield 41, 3) := dk_181 0 41 (dk_at dksX1_fold_2 19 rfl rfl)
theorem dX1_fold_68 : decode cX1_fold 68 = .ok (.aload_n 0, 1) := dk_42 (dk_at dksX1_fold_2 22 rfl rfl)
theorem dX1_fold_69 : decode cX1_fold 69 = .ok (.iload_n 2, 1) := dk_28 (dk_at dksX1_fold_2 23 rfl rfl)
theorem dX1_fold_70 : decode cX1_fold 70 = .ok (.putfield 44, 3) := dk_181 0 44 (dk_at dksX1_fold_3 0 rfl rfl)
theorem dX1_fold_73 : decode cX1_fold 73 = .ok (.return_, 1) := dk_177 (dk_at dksX1_fold_3 3 rfl rfl)
abbrev cX1_keep : ByteArray := prog_1_method_17_code
def yX1_keep : MethodName := ⟨RX1, "keep", "(I)I"⟩
def dkwX1_keep_2 : List UInt8 := [132, 3, 1, 167, 255, 225, 42, 180, 0, 47, 185, 0, 106, 1, 0, 172]
abbrev dktX1_keep_2 : List UInt8 := dkwX1_keep_2 ++ []
def dkwX1_keep_1 : List UInt8 := [185, 0, 106, 1, 0, 162, 0, 24, 42, 180, 0, 47, 44, 29, 182, 0, 172, 185, 0, 176, 2, 0, 87]
abbrev dktX1_keep_1 : List UInt8 := dkwX1_keep_1 ++ dktX1_keep_2
def dkwX1_keep_0 : List UInt8 := [42, 27, 182, 0, 99, 77, 42, 180, 0, 47, 185, 0, 169, 1, 0, 3, 62, 29, 44, 180, 0, 103]
abbrev dktX1_keep_0 : List UInt8 := dkwX1_keep_0 ++ dktX1_keep_1
theorem dksX1_keep_0 : cX1_keep.data.toList.drop 0 = dktX1_keep_0 := by decide +kernel
theorem dksX1_keep_1 : cX1_keep.data.toList.drop 22 = dktX1_keep_1 := dk_seg dksX1_keep_0 22 rfl rfl
theorem dksX1_keep_2 : cX1_keep.data.toList.drop 45 = dktX1_keep_2 := dk_seg dksX1_keep_1 23 rfl rfl
theorem dX1_keep_0 : decode cX1_keep 0 = .ok (.aload_n 0, 1) := dk_42 (dk_at dksX1_keep_0 0 rfl rfl)
theorem dX1_keep_1 : decode cX1_keep 1 = .ok (.iload_n 1, 1) := dk_27 (dk_at dksX1_keep_0 1 rfl rfl)
theorem dX1_keep_2 : decode cX1_keep 2 = .ok (.invokevirtual 99, 3) := dk_182 0 99 (dk_at dksX1_keep_0 2 rfl rfl)
theorem dX1_keep_5 : decode cX1_keep 5 = .ok (.astore_n 2, 1) := dk_77 (dk_at dksX1_keep_0 5 rfl rfl)
theorem dX1_keep_6 : decode cX1_keep 6 = .ok (.aload_n 0, 1) := dk_42 (dk_at dksX1_keep_0 6 rfl rfl)
theorem dX1_keep_7 : decode cX1_keep 7 = .ok (.getfield 47, 3) := dk_180 0 47 (dk_at dksX1_keep_0 7 rfl rfl)
theorem dX1_keep_10 : decode cX1_keep 10 = .ok (.invokeinterface 169 1, 5) := by decide +kernel
theorem dX1_keep_15 : decode cX1_keep 15 = .ok (.iconst 0, 1) := dk_3 (dk_at dksX1_keep_0 15 rfl rfl)
theorem dX1_keep_16 : decode cX1_keep 16 = .ok (.istore_n 3, 1) := dk_62 (dk_at dksX1_keep_0 16 rfl rfl)
theorem dX1_keep_17 : decode cX1_keep 17 = .ok (.iload_n 3, 1) := dk_29 (dk_at dksX1_keep_0 17 rfl rfl)
theorem dX1_keep_18 : decode cX1_keep 18 = .ok (.aload_n 2, 1) := dk_44 (dk_at dksX1_keep_0 18 rfl rfl)
theorem dX1_keep_19 : decode cX1_keep 19 = .ok (.getfield 103, 3) := dk_180 0 103 (dk_at dksX1_keep_0 19 rfl rfl)
theorem dX1_keep_22 : decode cX1_keep 22 = .ok (.invokeinterface 106 1, 5) := by decide +kernel
theorem dX1_keep_27 : decode cX1_keep 27 = .ok (.if_icmp .ge 24, 3) := dk_162 0 24 (dk_at dksX1_keep_1 5 rfl rfl)
theorem dX1_keep_30 : decode cX1_keep 30 = .ok (.aload_n 0, 1) := dk_42 (dk_at dksX1_keep_1 8 rfl rfl)
theorem dX1_keep_31 : decode cX1_keep 31 = .ok (.getfield 47, 3) := dk_180 0 47 (dk_at dksX1_keep_1 9 rfl rfl)
theorem dX1_keep_34 : decode cX1_keep 34 = .ok (.aload_n 2, 1) := dk_44 (dk_at dksX1_keep_1 12 rfl rfl)
theorem dX1_keep_35 : decode cX1_keep 35 = .ok (.iload_n 3, 1) := dk_29 (dk_at dksX1_keep_1 13 rfl rfl)
theorem dX1_keep_36 : decode cX1_keep 36 = .ok (.invokevirtual 172, 3) := dk_182 0 172 (dk_at dksX1_keep_1 14 rfl rfl)
theorem dX1_keep_39 : decode cX1_keep 39 = .ok (.invokeinterface 176 2, 5) := by decide +kernel
theorem dX1_keep_44 : decode cX1_keep 44 = .ok (.pop, 1) := dk_87 (dk_at dksX1_keep_1 22 rfl rfl)
theorem dX1_keep_45 : decode cX1_keep 45 = .ok (.iinc 3 1, 3) := dk_132 3 1 (dk_at dksX1_keep_2 0 rfl rfl)
theorem dX1_keep_48 : decode cX1_keep 48 = .ok (.goto (-31), 3) := dk_167 255 225 (dk_at dksX1_keep_2 3 rfl rfl)
theorem dX1_keep_51 : decode cX1_keep 51 = .ok (.aload_n 0, 1) := dk_42 (dk_at dksX1_keep_2 6 rfl rfl)
theorem dX1_keep_52 : decode cX1_keep 52 = .ok (.getfield 47, 3) := dk_180 0 47 (dk_at dksX1_keep_2 7 rfl rfl)
theorem dX1_keep_55 : decode cX1_keep 55 = .ok (.invokeinterface 106 1, 5) := by decide +kernel
theorem dX1_keep_60 : decode cX1_keep 60 = .ok (.ireturn, 1) := dk_172 (dk_at dksX1_keep_2 15 rfl rfl)
abbrev cX1_layout : ByteArray := prog_1_method_5_code
def yX1_layout : MethodName := ⟨RX1, "layout", "(I)LQuirefold$Layout;"⟩
def dkwX1_layout_1 : List UInt8 := [187, 0, 50, 89, 42, 27, 183, 0, 96, 83, 42, 180, 0, 52, 27, 50, 176]
abbrev dktX1_layout_1 : List UInt8 := dkwX1_layout_1 ++ []
def dkwX1_layout_0 : List UInt8 := [27, 7, 18, 90, 184, 0, 92, 87, 42, 180, 0, 52, 27, 50, 199, 0, 18, 42, 180, 0, 52, 27]
abbrev dktX1_layout_0 : List UInt8 := dkwX1_layout_0 ++ dktX1_layout_1
theorem dksX1_layout_0 : cX1_layout.data.toList.drop 0 = dktX1_layout_0 := by decide +kernel
theorem dksX1_layout_1 : cX1_layout.data.toList.drop 22 = dktX1_layout_1 := dk_seg dksX1_layout_0 22 rfl rfl
theorem dX1_layout_0 : decode cX1_layout 0 = .ok (.iload_n 1, 1) := dk_27 (dk_at dksX1_layout_0 0 rfl rfl)
theorem dX1_layout_1 : decode cX1_layout 1 = .ok (.iconst 4, 1) := dk_7 (dk_at dksX1_layout_0 1 rfl rfl)
theorem dX1_layout_2 : decode cX1_layout 2 = .ok (.ldc 90, 2) := dk_18 90 (dk_at dksX1_layout_0 2 rfl rfl)
theorem dX1_layout_4 : decode cX1_layout 4 = .ok (.invokestatic 92, 3) := dk_184 0 92 (dk_at dksX1_layout_0 4 rfl rfl)
theorem dX1_layout_7 : decode cX1_layout 7 = .ok (.pop, 1) := dk_87 (dk_at dksX1_layout_0 7 rfl rfl)
theorem dX1_layout_8 : decode cX1_layout 8 = .ok (.aload_n 0, 1) := dk_42 (dk_at dksX1_layout_0 8 rfl rfl)
theorem dX1_layout_9 : decode cX1_layout 9 = .ok (.getfield 52, 3) := dk_180 0 52 (dk_at dksX1_layout_0 9 rfl rfl)
theorem dX1_layout_12 : decode cX1_layout 12 = .ok (.iload_n 1, 1) := dk_27 (dk_at dksX1_layout_0 12 rfl rfl)
theorem dX1_layout_13 : decode cX1_layout 13 = .ok (.aaload, 1) := dk_50 (dk_at dksX1_layout_0 13 rfl rfl)
theorem dX1_layout_14 : decode cX1_layout 14 = .ok (.ifnonnull 18, 3) := dk_199 0 18 (dk_at dksX1_layout_0 14 rfl rfl)
theorem dX1_layout_17 : decode cX1_layout 17 = .ok (.aload_n 0, 1) := dk_42 (dk_at dksX1_layout_0 17 rfl rfl)
theorem dX1_layout_18 : decode cX1_layout 18 = .ok (.getfield 52, 3) := dk_180 0 52 (dk_at dksX1_layout_0 18 rfl rfl)
theorem dX1_layout_21 : decode cX1_layout 21 = .ok (.iload_n 1, 1) := dk_27 (dk_at dksX1_layout_0 21 rfl rfl)
theorem dX1_layout_22 : decode cX1_layout 22 = .ok (.new 50, 3) := dk_187 0 50 (dk_at dksX1_layout_1 0 rfl rfl)
theorem dX1_layout_25 : decode cX1_layout 25 = .ok (.dup, 1) := dk_89 (dk_at dksX1_layout_1 3 rfl rfl)
theorem dX1_layout_26 : decode cX1_layout 26 = .ok (.aload_n 0, 1) := dk_42 (dk_at dksX1_layout_1 4 rfl rfl)
theorem dX1_layout_27 : decode cX1_layout 27 = .ok (.iload_n 1, 1) := dk_27 (dk_at dksX1_layout_1 5 rfl rfl)
theorem dX1_layout_28 : decode cX1_layout 28 = .ok (.invokespecial 96, 3) := dk_183 0 96 (dk_at dksX1_layout_1 6 rfl rfl)
theorem dX1_layout_31 : decode cX1_layout 31 = .ok (.aastore, 1) := dk_83 (dk_at dksX1_layout_1 9 rfl rfl)
theorem dX1_layout_32 : decode cX1_layout 32 = .ok (.aload_n 0, 1) := dk_42 (dk_at dksX1_layout_1 10 rfl rfl)
theorem dX1_layout_33 : decode cX1_layout 33 = .ok (.getfield 52, 3) := dk_180 0 52 (dk_at dksX1_layout_1 11 rfl rfl)
theorem dX1_layout_36 : decode cX1_layout 36 = .ok (.iload_n 1, 1) := dk_27 (dk_at dksX1_layout_1 14 rfl rfl)
theorem dX1_layout_37 : decode cX1_layout 37 = .ok (.aaload, 1) := dk_50 (dk_at dksX1_layout_1 15 rfl rfl)
theorem dX1_layout_38 : decode cX1_layout 38 = .ok (.areturn, 1) := dk_176 (dk_at dksX1_layout_1 16 rfl rfl)
abbrev cX1_lines : ByteArray := prog_1_method_18_code
def yX1_lines : MethodName := ⟨RX1, "lines", "(I)I"⟩
def dkwX1_lines_0 : List UInt8 := [42, 27, 182, 0, 99, 180, 0, 103, 185, 0, 106, 1, 0, 172]
abbrev dktX1_lines_0 : List UInt8 := dkwX1_lines_0 ++ []
theorem dksX1_lines_0 : cX1_lines.data.toList.drop 0 = dktX1_lines_0 := by decide +kernel
theorem dX1_lines_0 : decode cX1_lines 0 = .ok (.aload_n 0, 1) := dk_42 (dk_at dksX1_lines_0 0 rfl rfl)
theorem dX1_lines_1 : decode cX1_lines 1 = .ok (.iload_n 1, 1) := dk_27 (dk_at dksX1_lines_0 1 rfl rfl)
theorem dX1_lines_2 : decode cX1_lines 2 = .ok (.invokevirtual 99, 3) := dk_182 0 99 (dk_at dksX1_lines_0 2 rfl rfl)
theorem dX1_lines_5 : decode cX1_lines 5 = .ok (.getfield 103, 3) := dk_180 0 103 (dk_at dksX1_lines_0 5 rfl rfl)
theorem dX1_lines_8 : decode cX1_lines 8 = .ok (.invokeinterface 106 1, 5) := by decide +kernel
theorem dX1_lines_13 : decode cX1_lines 13 = .ok (.ireturn, 1) := dk_172 (dk_at dksX1_lines_0 13 rfl rfl)
abbrev cX1_lineOf : ByteArray := prog_1_method_19_code
def yX1_lineOf : MethodName := ⟨RX1, "lineOf", "(II)I"⟩
def dkwX1_lineOf_1 : List UInt8 := [184, 0, 92, 46, 172]
abbrev dktX1_lineOf_1 : List UInt8 := dkwX1_lineOf_1 ++ []
def dkwX1_lineOf_0 : List UInt8 := [42, 27, 182, 0, 99, 78, 45, 180, 0, 179, 28, 42, 180, 0, 10, 185, 0, 106, 1, 0, 18, 139]
abbrev dktX1_lineOf_0 : List UInt8 := dkwX1_lineOf_0 ++ dktX1_lineOf_1
theorem dksX1_lineOf_0 : cX1_lineOf.data.toList.drop 0 = dktX1_lineOf_0 := by decide +kernel
theorem dksX1_lineOf_1 : cX1_lineOf.data.toList.drop 22 = dktX1_lineOf_1 := dk_seg dksX1_lineOf_0 22 rfl rfl
theorem dX1_lineOf_0 : decode cX1_lineOf 0 = .ok (.aload_n 0, 1) := dk_42 (dk_at dksX1_lineOf_0 0 rfl rfl)
theorem dX1_lineOf_1 : decode cX1_lineOf 1 = .ok (.iload_n 1, 1) := dk_27 (dk_at dksX1_lineOf_0 1 rfl rfl)
theorem dX1_lineOf_2 : decode cX1_lineOf 2 = .ok (.invokevirtual 99, 3) := dk_182 0 99 (dk_at dksX1_lineOf_0 2 rfl rfl)
theorem dX1_lineOf_5 : decode cX1_lineOf 5 = .ok (.astore_n 3, 1) := dk_78 (dk_at dksX1_lineOf_0 5 rfl rfl)
theorem dX1_lineOf_6 : decode cX1_lineOf 6 = .ok (.aload_n 3, 1) := dk_45 (dk_at dksX1_lineOf_0 6 rfl rfl)
theorem dX1_lineOf_7 : decode cX1_lineOf 7 = .ok (.getfield 179, 3) := dk_180 0 179 (dk_at dksX1_lineOf_0 7 rfl rfl)
theorem dX1_lineOf_10 : decode cX1_lineOf 10 = .ok (.iload_n 2, 1) := dk_28 (dk_at dksX1_lineOf_0 10 rfl rfl)
theorem dX1_lineOf_11 : decode cX1_lineOf 11 = .ok (.aload_n 0, 1) := dk_42 (dk_at dksX1_lineOf_0 11 rfl rfl)
theorem dX1_lineOf_12 : decode cX1_lineOf 12 = .ok (.getfield 10, 3) := dk_180 0 10 (dk_at dksX1_lineOf_0 12 rfl rfl)
theorem dX1_lineOf_15 : decode cX1_lineOf 15 = .ok (.invokeinterface 106 1, 5) := by decide +kernel
theorem dX1_lineOf_20 : decode cX1_lineOf 20 = .ok (.ldc 139, 2) := dk_18 139 (dk_at dksX1_lineOf_0 20 rfl rfl)
theorem dX1_lineOf_22 : decode cX1_lineOf 22 = .ok (.invokestatic 92, 3) := dk_184 0 92 (dk_at dksX1_lineOf_1 0 rfl rfl)
theorem dX1_lineOf_25 : decode cX1_lineOf 25 = .ok (.iaload, 1) := dk_46 (dk_at dksX1_lineOf_1 3 rfl rfl)
theorem dX1_lineOf_26 : decode cX1_lineOf 26 = .ok (.ireturn, 1) := dk_172 (dk_at dksX1_lineOf_1 4 rfl rfl)
abbrev cX1_columnOf : ByteArray := prog_1_method_20_code
def yX1_columnOf : MethodName := ⟨RX1, "columnOf", "(IZI)I"⟩
def dkwX1_columnOf_4 : List UInt8 := [182, 0, 64, 29, 182, 0, 70, 182, 0, 73, 183, 0, 77, 191, 25, 4, 180, 0, 195, 29, 46, 172]
abbrev dktX1_columnOf_4 : List UInt8 := dkwX1_columnOf_4 ++ []
def dkwX1_columnOf_3 : List UInt8 := [192, 0, 128, 180, 0, 190, 7, 159, 0, 30, 187, 0, 57, 89, 187, 0, 59, 89, 183, 0, 61, 18, 193]
abbrev dktX1_columnOf_3 : List UInt8 := dkwX1_columnOf_3 ++ dktX1_columnOf_4
def dkwX1_columnOf_2 : List UInt8 := [180, 0, 10, 29, 42, 180, 0, 10, 185, 0, 106, 1, 0, 18, 139, 184, 0, 92, 185, 0, 182, 2, 0]
abbrev dktX1_columnOf_2 : List UInt8 := dkwX1_columnOf_2 ++ dktX1_columnOf_3
def dkwX1_columnOf_1 : List UInt8 := [185, 0, 106, 1, 0, 18, 112, 184, 0, 92, 185, 0, 182, 2, 0, 192, 0, 185, 180, 0, 187, 172, 42]
abbrev dktX1_columnOf_1 : List UInt8 := dkwX1_columnOf_1 ++ dktX1_columnOf_2
def dkwX1_columnOf_0 : List UInt8 := [42, 27, 182, 0, 99, 58, 4, 28, 153, 0, 36, 25, 4, 180, 0, 103, 29, 25, 4, 180, 0, 103]
abbrev dktX1_columnOf_0 : List UInt8 := dkwX1_columnOf_0 ++ dktX1_columnOf_1
theorem dksX1_columnOf_0 : cX1_columnOf.data.toList.drop 0 = dktX1_columnOf_0 := by decide +kernel
theorem dksX1_columnOf_1 : cX1_columnOf.data.toList.drop 22 = dktX1_columnOf_1 := dk_seg dksX1_columnOf_0 22 rfl rfl
theorem dksX1_columnOf_2 : cX1_columnOf.data.toList.drop 45 = dktX1_columnOf_2 := dk_seg dksX1_columnOf_1 23 rfl rfl
theorem dksX1_columnOf_3 : cX1_columnOf.data.toList.drop 68 = dktX1_columnOf_3 := dk_seg dksX1_columnOf_2 23 rfl rfl
theorem dksX1_columnOf_4 : cX1_columnOf.data.toList.drop 91 = dktX1_columnOf_4 := dk_seg dksX1_columnOf_3 23 rfl rfl
theorem dX1_columnOf_0 : decode cX1_columnOf 0 = .ok (.aload_n 0, 1) := dk_42 (dk_at dksX1_columnOf_0 0 rfl rfl)
theorem dX1_columnOf_1 : decode cX1_columnOf 1 = .ok (.iload_n 1, 1) := dk_27 (dk_at dksX1_columnOf_0 1 rfl rfl)
theorem dX1_columnOf_2 : decode cX1_columnOf 2 = .ok (.invokevirtual 99, 3) := dk_182 0 99 (dk_at dksX1_columnOf_0 2 rfl rfl)
theorem dX1_columnOf_5 : decode cX1_columnOf 5 = .ok (.astore 4, 2) := dk_58 4 (dk_at dksX1_columnOf_0 5 rfl rfl)
theorem dX1_columnOf_7 : decode cX1_columnOf 7 = .ok (.iload_n 2, 1) := dk_28 (dk_at dksX1_columnOf_0 7 rfl rfl)
theorem dX1_columnOf_8 : decode cX1_columnOf 8 = .ok (.ifCond .eq 36, 3) := dk_153 0 36 (dk_at dksX1_columnOf_0 8 rfl rfl)
theorem dX1_columnOf_11 : decode cX1_columnOf 11 = .ok (.aload 4, 2) := dk_25 4 (dk_at dksX1_columnOf_0 11 rfl rfl)
theorem dX1_columnOf_13 : decode cX1_columnOf 13 = .ok (.getfield 103, 3) := dk_180 0 103 (dk_at dksX1_columnOf_0 13 rfl rfl)
theorem dX1_columnOf_16 : decode cX1_columnOf 16 = .ok (.iload_n 3, 1) := dk_29 (dk_at dksX1_columnOf_0 16 rfl rfl)
theorem dX1_columnOf_17 : decode cX1_columnOf 17 = .ok (.aload 4, 2) := dk_25 4 (dk_at dksX1_columnOf_0 17 rfl rfl)
theorem dX1_columnOf_19 : decode cX1_columnOf 19 = .ok (.getfield 103, 3) := dk_180 0 103 (dk_at dksX1_columnOf_0 19 rfl rfl)
theorem dX1_columnOf_22 : decode cX1_columnOf 22 = .ok (.invokeinterface 106 1, 5) := by decide +kernel
theorem dX1_columnOf_27 : decode cX1_columnOf 27 = .ok (.ldc 112, 2) := dk_18 112 (dk_at dksX1_columnOf_1 5 rfl rfl)
theorem dX1_columnOf_29 : decode cX1_columnOf 29 = .ok (.invokestatic 92, 3) := dk_184 0 92 (dk_at dksX1_columnOf_1 7 rfl rfl)
theorem dX1_columnOf_32 : decode cX1_columnOf 32 = .ok (.invokeinterface 182 2, 5) := by decide +kernel
theorem dX1_columnOf_37 : decode cX1_columnOf 37 = .ok (.checkcast 185, 3) := dk_192 0 185 (dk_at dksX1_columnOf_1 15 rfl rfl)
theorem dX1_columnOf_40 : decode cX1_columnOf 40 = .ok (.getfield 187, 3) := dk_180 0 187 (dk_at dksX1_columnOf_1 18 rfl rfl)
theorem dX1_columnOf_43 : decode cX1_columnOf 43 = .ok (.ireturn, 1) := dk_172 (dk_at dksX1_columnOf_1 21 rfl rfl)
theorem dX1_columnOf_44 : decode cX1_columnOf 44 = .ok (.aload_n 0, 1) := dk_42 (dk_at dksX1_columnOf_1 22 rfl rfl)
theorem dX1_columnOf_45 : decode cX1_columnOf 45 = .ok (.getfield 10, 3) := dk_180 0 10 (dk_at dksX1_columnOf_2 0 rfl rfl)
theorem dX1_columnOf_48 : decode cX1_columnOf 48 = .ok (.iload_n 3, 1) := dk_29 (dk_at dksX1_columnOf_2 3 rfl rfl)
theorem dX1_columnOf_49 : decode cX1_columnOf 49 = .ok (.aload_n 0, 1) := dk_42 (dk_at dksX1_columnOf_2 4 rfl rfl)
theorem dX1_columnOf_50 : decode cX1_columnOf 50 = .ok (.getfield 10, 3) := dk_180 0 10 (dk_at dksX1_columnOf_2 5 rfl rfl)
theorem dX1_columnOf_53 : decode cX1_columnOf 53 = .ok (.invokeinterface 106 1, 5) := by decide +kernel
theorem dX1_columnOf_58 : decode cX1_columnOf 58 = .ok (.ldc 139, 2) := dk_18 139 (dk_at dksX1_columnOf_2 13 rfl rfl)
theorem dX1_columnOf_60 : decode cX1_columnOf 60 = .ok (.invokestatic 92, 3) := dk_184 0 92 (dk_at dksX1_columnOf_2 15 rfl rfl)
theorem dX1_columnOf_63 : decode cX1_columnOf 63 = .ok (.invokeinterface 182 2, 5) := by decide +kernel
theorem dX1_columnOf_68 : decode cX1_columnOf 68 = .ok (.checkcast 128, 3) := dk_192 0 128 (dk_at dksX1_columnOf_3 0 rfl rfl)
theorem dX1_columnOf_71 : decode cX1_columnOf 71 = .ok (.getfield 190, 3) := dk_180 0 190 (dk_at dksX1_columnOf_3 3 rfl rfl)
theorem dX1_columnOf_74 : decode cX1_columnOf 74 = .ok (.iconst 4, 1) := dk_7 (dk_at dksX1_columnOf_3 6 rfl rfl)
theorem dX1_columnOf_75 : decode cX1_columnOf 75 = .ok (.if_icmp .eq 30, 3) := dk_159 0 30 (dk_at dksX1_columnOf_3 7 rfl rfl)
theorem dX1_columnOf_78 : decode cX1_columnOf 78 = .ok (.new 57, 3) := dk_187 0 57 (dk_at dksX1_columnOf_3 10 rfl rfl)
theorem dX1_columnOf_81 : decode cX1_columnOf 81 = .ok (.dup, 1) := dk_89 (dk_at dksX1_columnOf_3 13 rfl rfl)
theorem dX1_columnOf_82 : decode cX1_columnOf 82 = .ok (.new 59, 3) := dk_187 0 59 (dk_at dksX1_columnOf_3 14 rfl rfl)
theorem dX1_columnOf_85 : decode cX1_columnOf 85 = .ok (.dup, 1) := dk_89 (dk_at dksX1_columnOf_3 17 rfl rfl)
theorem dX1_columnOf_86 : decode cX1_columnOf 86 = .ok (.invokespecial 61, 3) := dk_183 0 61 (dk_at dksX1_columnOf_3 18 rfl rfl)
theorem dX1_columnOf_89 : decode cX1_columnOf 89 = .ok (.ldc 193, 2) := dk_18 193 (dk_at dksX1_columnOf_3 21 rfl rfl)
theorem dX1_columnOf_91 : decode cX1_columnOf 91 = .ok (.invokevirtual 64, 3) := dk_182 0 64 (dk_at dksX1_columnOf_4 0 rfl rfl)
theorem dX1_columnOf_94 : decode cX1_columnOf 94 = .ok (.iload_n 3, 1) := dk_29 (dk_at dksX1_columnOf_4 3 rfl rfl)
theorem dX1_columnOf_95 : decode cX1_columnOf 95 = .ok (.invokevirtual 70, 3) := dk_182 0 70 (dk_at dksX1_columnOf_4 4 rfl rfl)
theorem dX1_columnOf_98 : decode cX1_columnOf 98 = .ok (.invokevirtual 73, 3) := dk_182 0 73 (dk_at dksX1_columnOf_4 7 rfl rfl)
theorem dX1_columnOf_101 : decode cX1_columnOf 101 = .ok (.invokespecial 77, 3) := dk_183 0 77 (dk_at dksX1_columnOf_4 10 rfl rfl)
theorem dX1_columnOf_104 : decode cX1_columnOf 104 = .ok (.athrow, 1) := dk_191 (dk_at dksX1_columnOf_4 13 rfl rfl)
theorem dX1_columnOf_105 : decode cX1_columnOf 105 = .ok (.aload 4, 2) := dk_25 4 (dk_at dksX1_columnOf_4 14 rfl rfl)
theorem dX1_columnOf_107 : decode cX1_columnOf 107 = .ok (.getfield 195, 3) := dk_180 0 195 (dk_at dksX1_columnOf_4 16 rfl rfl)
theorem dX1_columnOf_110 : decode cX1_columnOf 110 = .ok (.iload_n 3, 1) := dk_29 (dk_at dksX1_columnOf_4 19 rfl rfl)
theorem dX1_columnOf_111 : decode cX1_columnOf 111 = .ok (.iaload, 1) := dk_46 (dk_at dksX1_columnOf_4 20 rfl rfl)
theorem dX1_columnOf_112 : decode cX1_columnOf 112 = .ok (.ireturn, 1) := dk_172 (dk_at dksX1_columnOf_4 21 rfl rfl)
abbrev cX1_pageOf : ByteArray := prog_1_method_21_code
def yX1_pageOf : MethodName := ⟨RX1, "pageOf", "(II)I"⟩
def dkwX1_pageOf_0 : List UInt8 := [42, 27, 28, 182, 0, 198, 28, 182, 0, 201, 172]
abbrev dktX1_pageOf_0 : List UInt8 := dkwX1_pageOf_0 ++ []
theorem dksX1_pageOf_0 : cX1_pageOf.data.toList.drop 0 = dktX1_pageOf_0 := by decide +kernel
theorem dX1_pageOf_0 : decode cX1_pageOf 0 = .ok (.aload_n 0, 1) := dk_42 (dk_at dksX1_pageOf_0 0 rfl rfl)
theorem dX1_pageOf_1 : decode cX1_pageOf 1 = .ok (.iload_n 1, 1) := dk_27 (dk_at dksX1_pageOf_0 1 rfl rfl)
theorem dX1_pageOf_2 : decode cX1_pageOf 2 = .ok (.iload_n 2, 1) := dk_28 (dk_at dksX1_pageOf_0 2 rfl rfl)
theorem dX1_pageOf_3 : decode cX1_pageOf 3 = .ok (.invokevirtual 198, 3) := dk_182 0 198 (dk_at dksX1_pageOf_0 3 rfl rfl)
theorem dX1_pageOf_6 : decode cX1_pageOf 6 = .ok (.iload_n 2, 1) := dk_28 (dk_at dksX1_pageOf_0 6 rfl rfl)
theorem dX1_pageOf_7 : decode cX1_pageOf 7 = .ok (.invokevirtual 201, 3) := dk_182 0 201 (dk_at dksX1_pageOf_0 7 rfl rfl)
theorem dX1_pageOf_10 : decode cX1_pageOf 10 = .ok (.ireturn, 1) := dk_172 (dk_at dksX1_pageOf_0 10 rfl rfl)
abbrev cX1_layout_2 : ByteArray := prog_1_method_6_code
def yX1_layout_2 : MethodName := ⟨RX1, "layout", "(II)LQuirefold$Layout;"⟩
def dkwX1_layout_2_0 : List UInt8 := [42, 27, 182, 0, 99, 78, 28, 45, 180, 0, 103, 185, 0, 106, 1, 0, 18, 112, 184, 0, 92, 87, 45, 176]
abbrev dktX1_layout_2_0 : List UInt8 := dkwX1_layout_2_0 ++ []
theorem dksX1_layout_2_0 : cX1_layout_2.data.toList.drop 0 = dktX1_layout_2_0 := by decide +kernel
theorem dX1_layout_2_0 : decode cX1_layout_2 0 = .ok (.aload_n 0, 1) := dk_42 (dk_at dksX1_layout_2_0 0 rfl rfl)
theorem dX1_layout_2_1 : decode cX1_layout_2 1 = .ok (.iload_n 1, 1) := dk_27 (dk_at dksX1_layout_2_0 1 rfl rfl)
theorem dX1_layout_2_2 : decode cX1_layout_2 2 = .ok (.invokevirtual 99, 3) := dk_182 0 99 (dk_at dksX1_layout_2_0 2 rfl rfl)
theorem dX1_layout_2_5 : decode cX1_layout_2 5 = .ok (.astore_n 3, 1) := dk_78 (dk_at dksX1_layout_2_0 5 rfl rfl)
theorem dX1_layout_2_6 : decode cX1_layout_2 6 = .ok (.iload_n 2, 1) := dk_28 (dk_at dksX1_layout_2_0 6 rfl rfl)
theorem dX1_layout_2_7 : decode cX1_layout_2 7 = .ok (.aload_n 3, 1) := dk_45 (dk_at dksX1_layout_2_0 7 rfl rfl)
theorem dX1_layout_2_8 : decode cX1_layout_2 8 = .ok (.getfield 103, 3) := dk_180 0 103 (dk_at dksX1_layout_2_0 8 rfl rfl)
theorem dX1_layout_2_11 : decode cX1_layout_2 11 = .ok (.invokeinterface 106 1, 5) := by decide +kernel
theorem dX1_layout_2_16 : decode cX1_layout_2 16 = .ok (.ldc 112, 2) := dk_18 112 (dk_at dksX1_layout_2_0 16 rfl rfl)
theorem dX1_layout_2_18 : decode cX1_layout_2 18 = .ok (.invokestatic 92, 3) := dk_184 0 92 (dk_at dksX1_layout_2_0 18 rfl rfl)
theorem dX1_layout_2_21 : decode cX1_layout_2 21 = .ok (.pop, 1) := dk_87 (dk_at dksX1_layout_2_0 21 rfl rfl)
theorem dX1_layout_2_22 : decode cX1_layout_2 22 = .ok (.aload_n 3, 1) := dk_45 (dk_at dksX1_layout_2_0 22 rfl rfl)
theorem dX1_layout_2_23 : decode cX1_layout_2 23 = .ok (.areturn, 1) := dk_176 (dk_at dksX1_layout_2_0 23 rfl rfl)
abbrev cX1_pageAnew : ByteArray := prog_1_method_22_code
def yX1_pageAnew : MethodName := ⟨RX1, "pageAnew", "(II)I"⟩
def dkwX1_pageAnew_0 : List UInt8 := [42, 27, 28, 182, 0, 198, 87, 187, 0, 50, 89, 42, 27, 183, 0, 96, 28, 182, 0, 201, 172]
abbrev dktX1_pageAnew_0 : List UInt8 := dkwX1_pageAnew_0 ++ []
theorem dksX1_pageAnew_0 : cX1_pageAnew.data.toList.drop 0 = dktX1_pageAnew_0 := by decide +kernel
theorem dX1_pageAnew_0 : decode cX1_pageAnew 0 = .ok (.aload_n 0, 1) := dk_42 (dk_at dksX1_pageAnew_0 0 rfl rfl)
theorem dX1_pageAnew_1 : decode cX1_pageAnew 1 = .ok (.iload_n 1, 1) := dk_27 (dk_at dksX1_pageAnew_0 1 rfl rfl)
theorem dX1_pageAnew_2 : decode cX1_pageAnew 2 = .ok (.iload_n 2, 1) := dk_28 (dk_at dksX1_pageAnew_0 2 rfl rfl)
theorem dX1_pageAnew_3 : decode cX1_pageAnew 3 = .ok (.invokevirtual 198, 3) := dk_182 0 198 (dk_at dksX1_pageAnew_0 3 rfl rfl)
theorem dX1_pageAnew_6 : decode cX1_pageAnew 6 = .ok (.pop, 1) := dk_87 (dk_at dksX1_pageAnew_0 6 rfl rfl)
theorem dX1_pageAnew_7 : decode cX1_pageAnew 7 = .ok (.new 50, 3) := dk_187 0 50 (dk_at dksX1_pageAnew_0 7 rfl rfl)
theorem dX1_pageAnew_10 : decode cX1_pageAnew 10 = .ok (.dup, 1) := dk_89 (dk_at dksX1_pageAnew_0 10 rfl rfl)
theorem dX1_pageAnew_11 : decode cX1_pageAnew 11 = .ok (.aload_n 0, 1) := dk_42 (dk_at dksX1_pageAnew_0 11 rfl rfl)
theorem dX1_pageAnew_12 : decode cX1_pageAnew 12 = .ok (.iload_n 1, 1) := dk_27 (dk_at dksX1_pageAnew_0 12 rfl rfl)
theorem dX1_pageAnew_13 : decode cX1_pageAnew 13 = .ok (.invokespecial 96, 3) := dk_183 0 96 (dk_at dksX1_pageAnew_0 13 rfl rfl)
theorem dX1_pageAnew_16 : decode cX1_pageAnew 16 = .ok (.iload_n 2, 1) := dk_28 (dk_at dksX1_pageAnew_0 16 rfl rfl)
theorem dX1_pageAnew_17 : decode cX1_pageAnew 17 = .ok (.invokevirtual 201, 3) := dk_182 0 201 (dk_at dksX1_pageAnew_0 17 rfl rfl)
theorem dX1_pageAnew_20 : decode cX1_pageAnew 20 = .ok (.ireturn, 1) := dk_172 (dk_at dksX1_pageAnew_0 20 rfl rfl)
abbrev cX1_pages : ByteArray := prog_1_method_23_code
def yX1_pages : MethodName := ⟨RX1, "pages", "(I)I"⟩
def dkwX1_pages_1 : List UInt8 := [182, 0, 208, 96, 172]
abbrev dktX1_pages_1 : List UInt8 := dkwX1_pages_1 ++ []
def dkwX1_pages_0 : List UInt8 := [42, 27, 182, 0, 99, 77, 44, 180, 0, 205, 2, 160, 0, 7, 2, 167, 0, 12, 44, 180, 0, 205, 44]
abbrev dktX1_pages_0 : List UInt8 := dkwX1_pages_0 ++ dktX1_pages_1
theorem dksX1_pages_0 : cX1_pages.data.toList.drop 0 = dktX1_pages_0 := by decide +kernel
theorem dksX1_pages_1 : cX1_pages.data.toList.drop 23 = dktX1_pages_1 := dk_seg dksX1_pages_0 23 rfl rfl
theorem dX1_pages_0 : decode cX1_pages 0 = .ok (.aload_n 0, 1) := dk_42 (dk_at dksX1_pages_0 0 rfl rfl)
theorem dX1_pages_1 : decode cX1_pages 1 = .ok (.iload_n 1, 1) := dk_27 (dk_at dksX1_pages_0 1 rfl rfl)
theorem dX1_pages_2 : decode cX1_pages 2 = .ok (.invokevirtual 99, 3) := dk_182 0 99 (dk_at dksX1_pages_0 2 rfl rfl)
theorem dX1_pages_5 : decode cX1_pages 5 = .ok (.astore_n 2, 1) := dk_77 (dk_at dksX1_pages_0 5 rfl rfl)
theorem dX1_pages_6 : decode cX1_pages 6 = .ok (.aload_n 2, 1) := dk_44 (dk_at dksX1_pages_0 6 rfl rfl)
theorem dX1_pages_7 : decode cX1_pages 7 = .ok (.getfield 205, 3) := dk_180 0 205 (dk_at dksX1_pages_0 7 rfl rfl)
theorem dX1_pages_10 : decode cX1_pages 10 = .ok (.iconst (-1), 1) := dk_2 (dk_at dksX1_pages_0 10 rfl rfl)
theorem dX1_pages_11 : decode cX1_pages 11 = .ok (.if_icmp .ne 7, 3) := dk_160 0 7 (dk_at dksX1_pages_0 11 rfl rfl)
theorem dX1_pages_14 : decode cX1_pages 14 = .ok (.iconst (-1), 1) := dk_2 (dk_at dksX1_pages_0 14 rfl rfl)
theorem dX1_pages_15 : decode cX1_pages 15 = .ok (.goto 12, 3) := dk_167 0 12 (dk_at dksX1_pages_0 15 rfl rfl)
theorem dX1_pages_18 : decode cX1_pages 18 = .ok (.aload_n 2, 1) := dk_44 (dk_at dksX1_pages_0 18 rfl rfl)
theorem dX1_pages_19 : decode cX1_pages 19 = .ok (.getfield 205, 3) := dk_180 0 205 (dk_at dksX1_pages_0 19 rfl rfl)
theorem dX1_pages_22 : decode cX1_pages 22 = .ok (.aload_n 2, 1) := dk_44 (dk_at dksX1_pages_0 22 rfl rfl)
theorem dX1_pages_23 : decode cX1_pages 23 = .ok (.invokevirtual 208, 3) := dk_182 0 208 (dk_at dksX1_pages_1 0 rfl rfl)
theorem dX1_pages_26 : decode cX1_pages 26 = .ok (.iadd, 1) := dk_96 (dk_at dksX1_pages_1 3 rfl rfl)
theorem dX1_pages_27 : decode cX1_pages 27 = .ok (.ireturn, 1) := dk_172 (dk_at dksX1_pages_1 4 rfl rfl)
abbrev cX1_front : ByteArray := prog_1_method_24_code
def yX1_front : MethodName := ⟨RX1, "front", "(I)I"⟩
def dkwX1_front_0 : List UInt8 := [42, 27, 182, 0, 99, 180, 0, 205, 172]
abbrev dktX1_front_0 : List UInt8 := dkwX1_front_0 ++ []
theorem dksX1_front_0 : cX1_front.data.toList.drop 0 = dktX1_front_0 := by decide +kernel
theorem dX1_front_0 : decode cX1_front 0 = .ok (.aload_n 0, 1) := dk_42 (dk_at dksX1_front_0 0 rfl rfl)
theorem dX1_front_1 : decode cX1_front 1 = .ok (.iload_n 1, 1) := dk_27 (dk_at dksX1_front_0 1 rfl rfl)
theorem dX1_front_2 : decode cX1_front 2 = .ok (.invokevirtual 99, 3) := dk_182 0 99 (dk_at dksX1_front_0 2 rfl rfl)
theorem dX1_front_5 : decode cX1_front 5 = .ok (.getfield 205, 3) := dk_180 0 205 (dk_at dksX1_front_0 5 rfl rfl)
theorem dX1_front_8 : decode cX1_front 8 = .ok (.ireturn, 1) := dk_172 (dk_at dksX1_front_0 8 rfl rfl)
abbrev cX1_entry : ByteArray := prog_1_method_25_code
def yX1_entry : MethodName := ⟨RX1, "entry", "(II)I"⟩
def dkwX1_entry_4 : List UInt8 := [132, 5, 1, 167, 255, 204, 2, 172]
abbrev dktX1_entry_4 : List UInt8 := dkwX1_entry_4 ++ []
def dkwX1_entry_3 : List UInt8 := [192, 0, 185, 180, 0, 213, 153, 0, 18, 21, 4, 154, 0, 10, 45, 21, 5, 182, 0, 201, 172, 132, 4, 255]
abbrev dktX1_entry_3 : List UInt8 := dkwX1_entry_3 ++ dktX1_entry_4
def dkwX1_entry_2 : List UInt8 := [180, 0, 103, 185, 0, 106, 1, 0, 162, 0, 44, 45, 180, 0, 103, 21, 5, 185, 0, 182, 2, 0]
abbrev dktX1_entry_2 : List UInt8 := dkwX1_entry_2 ++ dktX1_entry_3
def dkwX1_entry_1 : List UInt8 := [182, 0, 64, 28, 182, 0, 70, 182, 0, 73, 183, 0, 77, 191, 28, 54, 4, 3, 54, 5, 21, 5, 45]
abbrev dktX1_entry_1 : List UInt8 := dkwX1_entry_1 ++ dktX1_entry_2
def dkwX1_entry_0 : List UInt8 := [42, 27, 182, 0, 99, 78, 28, 156, 0, 30, 187, 0, 57, 89, 187, 0, 59, 89, 183, 0, 61, 18, 211]
abbrev dktX1_entry_0 : List UInt8 := dkwX1_entry_0 ++ dktX1_entry_1
theorem dksX1_entry_0 : cX1_entry.data.toList.drop 0 = dktX1_entry_0 := by decide +kernel
theorem dksX1_entry_1 : cX1_entry.data.toList.drop 23 = dktX1_entry_1 := dk_seg dksX1_entry_0 23 rfl rfl
theorem dksX1_entry_2 : cX1_entry.data.toList.drop 46 = dktX1_entry_2 := dk_seg dksX1_entry_1 23 rfl rfl
theorem dksX1_entry_3 : cX1_entry.data.toList.drop 68 = dktX1_entry_3 := dk_seg dksX1_entry_2 22 rfl rfl
theorem dksX1_entry_4 : cX1_entry.data.toList.drop 92 = dktX1_entry_4 := dk_seg dksX1_entry_3 24 rfl rfl
theorem dX1_entry_0 : decode cX1_entry 0 = .ok (.aload_n 0, 1) := dk_42 (dk_at dksX1_entry_0 0 rfl rfl)
theorem dX1_entry_1 : decode cX1_entry 1 = .ok (.iload_n 1, 1) := dk_27 (dk_at dksX1_entry_0 1 rfl rfl)
theorem dX1_entry_2 : decode cX1_entry 2 = .ok (.invokevirtual 99, 3) := dk_182 0 99 (dk_at dksX1_entry_0 2 rfl rfl)
theorem dX1_entry_5 : decode cX1_entry 5 = .ok (.astore_n 3, 1) := dk_78 (dk_at dksX1_entry_0 5 rfl rfl)
theorem dX1_entry_6 : decode cX1_entry 6 = .ok (.iload_n 2, 1) := dk_28 (dk_at dksX1_entry_0 6 rfl rfl)
theorem dX1_entry_7 : decode cX1_entry 7 = .ok (.ifCond .ge 30, 3) := dk_156 0 30 (dk_at dksX1_entry_0 7 rfl rfl)
theorem dX1_entry_10 : decode cX1_entry 10 = .ok (.new 57, 3) := dk_187 0 57 (dk_at dksX1_entry_0 10 rfl rfl)
theorem dX1_entry_13 : decode cX1_entry 13 = .ok (.dup, 1) := dk_89 (dk_at dksX1_entry_0 13 rfl rfl)
theorem dX1_entry_14 : decode cX1_entry 14 = .ok (.new 59, 3) := dk_187 0 59 (dk_at dksX1_entry_0 14 rfl rfl)
theorem dX1_entry_17 : decode cX1_entry 17 = .ok (.dup, 1) := dk_89 (dk_at dksX1_entry_0 17 rfl rfl)
theorem dX1_entry_18 : decode cX1_entry 18 = .ok (.invokespecial 61, 3) := dk_183 0 61 (dk_at dksX1_entry_0 18 rfl rfl)
theorem dX1_entry_21 : decode cX1_entry 21 = .ok (.ldc 211, 2) := dk_18 211 (dk_at dksX1_entry_0 21 rfl rfl)
theorem dX1_entry_23 : decode cX1_entry 23 = .ok (.invokevirtual 64, 3) := dk_182 0 64 (dk_at dksX1_entry_1 0 rfl rfl)
theorem dX1_entry_26 : decode cX1_entry 26 = .ok (.iload_n 2, 1) := dk_28 (dk_at dksX1_entry_1 3 rfl rfl)
theorem dX1_entry_27 : decode cX1_entry 27 = .ok (.invokevirtual 70, 3) := dk_182 0 70 (dk_at dksX1_entry_1 4 rfl rfl)
theorem dX1_entry_30 : decode cX1_entry 30 = .ok (.invokevirtual 73, 3) := dk_182 0 73 (dk_at dksX1_entry_1 7 rfl rfl)
theorem dX1_entry_33 : decode cX1_entry 33 = .ok (.invokespecial 77, 3) := dk_183 0 77 (dk_at dksX1_entry_1 10 rfl rfl)
theorem dX1_entry_36 : decode cX1_entry 36 = .ok (.athrow, 1) := dk_191 (dk_at dksX1_entry_1 13 rfl rfl)
theorem dX1_entry_37 : decode cX1_entry 37 = .ok (.iload_n 2, 1) := dk_28 (dk_at dksX1_entry_1 14 rfl rfl)
theorem dX1_entry_38 : decode cX1_entry 38 = .ok (.istore 4, 2) := dk_54 4 (dk_at dksX1_entry_1 15 rfl rfl)
theorem dX1_entry_40 : decode cX1_entry 40 = .ok (.iconst 0, 1) := dk_3 (dk_at dksX1_entry_1 17 rfl rfl)
theorem dX1_entry_41 : decode cX1_entry 41 = .ok (.istore 5, 2) := dk_54 5 (dk_at dksX1_entry_1 18 rfl rfl)
theorem dX1_entry_43 : decode cX1_entry 43 = .ok (.iload 5, 2) := dk_21 5 (dk_at dksX1_entry_1 20 rfl rfl)
theorem dX1_entry_45 : decode cX1_entry 45 = .ok (.aload_n 3, 1) := dk_45 (dk_at dksX1_entry_1 22 rfl rfl)
theorem dX1_entry_46 : decode cX1_entry 46 = .ok (.getfield 103, 3) := dk_180 0 103 (dk_at dksX1_entry_2 0 rfl rfl)
theorem dX1_entry_49 : decode cX1_entry 49 = .ok (.invokeinterface 106 1, 5) := by decide +kernel
theorem dX1_entry_54 : decode cX1_entry 54 = .ok (.if_icmp .ge 44, 3) := dk_162 0 44 (dk_at dksX1_entry_2 8 rfl rfl)
theorem dX1_entry_57 : decode cX1_entry 57 = .ok (.aload_n 3, 1) := dk_45 (dk_at dksX1_entry_2 11 rfl rfl)
theorem dX1_entry_58 : decode cX1_entry 58 = .ok (.getfield 103, 3) := dk_180 0 103 (dk_at dksX1_entry_2 12 rfl rfl)
theorem dX1_entry_61 : decode cX1_entry 61 = .ok (.iload 5, 2) := dk_21 5 (dk_at dksX1_entry_2 15 rfl rfl)
theorem dX1_entry_63 : decode cX1_entry 63 = .ok (.invokeinterface 182 2, 5) := by decide +kernel
theorem dX1_entry_68 : decode cX1_entry 68 = .ok (.checkcast 185, 3) := dk_192 0 185 (dk_at dksX1_entry_3 0 rfl rfl)
theorem dX1_entry_71 : decode cX1_entry 71 = .ok (.getfield 213, 3) := dk_180 0 213 (dk_at dksX1_entry_3 3 rfl rfl)
theorem dX1_entry_74 : decode cX1_entry 74 = .ok (.ifCond .eq 18, 3) := dk_153 0 18 (dk_at dksX1_entry_3 6 rfl rfl)
theorem dX1_entry_77 : decode cX1_entry 77 = .ok (.iload 4, 2) := dk_21 4 (dk_at dksX1_entry_3 9 rfl rfl)
theorem dX1_entry_79 : decode cX1_entry 79 = .ok (.ifCond .ne 10, 3) := dk_154 0 10 (dk_at dksX1_entry_3 11 rfl rfl)
theorem dX1_entry_82 : decode cX1_entry 82 = .ok (.aload_n 3, 1) := dk_45 (dk_at dksX1_entry_3 14 rfl rfl)
theorem dX1_entry_83 : decode cX1_entry 83 = .ok (.iload 5, 2) := dk_21 5 (dk_at dksX1_entry_3 15 rfl rfl)
theorem dX1_entry_85 : decode cX1_entry 85 = .ok (.invokevirtual 201, 3) := dk_182 0 201 (dk_at dksX1_entry_3 17 rfl rfl)
theorem dX1_entry_88 : decode cX1_entry 88 = .ok (.ireturn, 1) := dk_172 (dk_at dksX1_entry_3 20 rfl rfl)
theorem dX1_entry_89 : decode cX1_entry 89 = .ok (.iinc 4 (-1), 3) := dk_132 4 255 (dk_at dksX1_entry_3 21 rfl rfl)
theorem dX1_entry_92 : decode cX1_entry 92 = .ok (.iinc 5 1, 3) := dk_132 5 1 (dk_at dksX1_entry_4 0 rfl rfl)
theorem dX1_entry_95 : decode cX1_entry 95 = .ok (.goto (-52), 3) := dk_167 255 204 (dk_at dksX1_entry_4 3 rfl rfl)
theorem dX1_entry_98 : decode cX1_entry 98 = .ok (.iconst (-1), 1) := dk_2 (dk_at dksX1_entry_4 6 rfl rfl)
theorem dX1_entry_99 : decode cX1_entry 99 = .ok (.ireturn, 1) := dk_172 (dk_at dksX1_entry_4 7 rfl rfl)
abbrev cX1_index : ByteArray := prog_1_method_27_code
def yX1_index : MethodName := ⟨RX1, "index", "(III)I"⟩
def dkwX1_index_10 : List UInt8 := [172]
abbrev dktX1_index_10 : List UInt8 := dkwX1_index_10 ++ []
def dkwX1_index_9 : List UInt8 := [185, 0, 182, 2, 0, 192, 0, 227, 182, 0, 229, 96, 172, 132, 6, 255, 21, 8, 54, 7, 167, 255, 113, 2]
abbrev dktX1_index_9 : List UInt8 := dkwX1_index_9 ++ dktX1_index_10
def dkwX1_index_8 : List UInt8 := [21, 7, 185, 0, 182, 2, 0, 192, 0, 227, 182, 0, 229, 104, 25, 5, 21, 8, 4, 100]
abbrev dktX1_index_8 : List UInt8 := dkwX1_index_8 ++ dktX1_index_9
def dkwX1_index_7 : List UInt8 := [161, 0, 8, 21, 8, 167, 0, 7, 21, 7, 4, 96, 54, 8, 21, 6, 154, 0, 41, 17, 3, 232, 25, 5]
abbrev dktX1_index_7 : List UInt8 := dkwX1_index_7 ++ dktX1_index_8
def dkwX1_index_6 : List UInt8 := [192, 0, 227, 182, 0, 229, 4, 96, 160, 0, 9, 132, 8, 1, 167, 255, 204, 21, 8, 21, 7, 100, 6]
abbrev dktX1_index_6 : List UInt8 := dkwX1_index_6 ++ dktX1_index_7
def dkwX1_index_5 : List UInt8 := [185, 0, 182, 2, 0, 192, 0, 227, 182, 0, 229, 25, 5, 21, 8, 4, 100, 185, 0, 182, 2, 0]
abbrev dktX1_index_5 : List UInt8 := dkwX1_index_5 ++ dktX1_index_6
def dkwX1_index_4 : List UInt8 := [21, 7, 4, 96, 54, 8, 21, 8, 25, 5, 185, 0, 106, 1, 0, 162, 0, 46, 25, 5, 21, 8]
abbrev dktX1_index_4 : List UInt8 := dkwX1_index_4 ++ dktX1_index_5
def dkwX1_index_3 : List UInt8 := [183, 0, 9, 58, 5, 29, 54, 6, 3, 54, 7, 21, 7, 25, 5, 185, 0, 106, 1, 0, 162, 0, 137]
abbrev dktX1_index_3 : List UInt8 := dkwX1_index_3 ++ dktX1_index_4
def dkwX1_index_2 : List UInt8 := [180, 0, 37, 28, 46, 2, 160, 0, 13, 42, 25, 4, 28, 182, 0, 238, 167, 0, 10, 187, 0, 7, 89]
abbrev dktX1_index_2 : List UInt8 := dkwX1_index_2 ++ dktX1_index_3
def dkwX1_index_1 : List UInt8 := [187, 0, 59, 89, 183, 0, 61, 18, 236, 182, 0, 64, 29, 182, 0, 70, 182, 0, 73, 183, 0, 77, 191, 42]
abbrev dktX1_index_1 : List UInt8 := dkwX1_index_1 ++ dktX1_index_2
def dkwX1_index_0 : List UInt8 := [42, 27, 182, 0, 99, 58, 4, 28, 16, 10, 18, 161, 184, 0, 92, 87, 29, 156, 0, 30, 187, 0, 57, 89]
abbrev dktX1_index_0 : List UInt8 := dkwX1_index_0 ++ dktX1_index_1
theorem dksX1_index_0 : cX1_index.data.toList.drop 0 = dktX1_index_0 := by decide +kernel
theorem dksX1_index_1 : cX1_index.data.toList.drop 24 = dktX1_index_1 := dk_seg dksX1_index_0 24 rfl rfl
theorem dksX1_index_2 : cX1_index.data.toList.drop 48 = dktX1_index_2 := dk_seg dksX1_index_1 24 rfl rfl
theorem dksX1_index_3 : cX1_index.data.toList.drop 71 = dktX1_index_3 := dk_seg dksX1_index_2 23 rfl rfl
theorem dksX1_index_4 : cX1_index.data.toList.drop 94 = dktX1_index_4 := dk_seg dksX1_index_3 23 rfl rfl
theorem dksX1_index_5 : cX1_index.data.toList.drop 116 = dktX1_index_5 := dk_seg dksX1_index_4 22 rfl rfl
theorem dksX1_index_6 : cX1_index.data.toList.drop 138 = dktX1_index_6 := dk_seg dksX1_index_5 22 rfl rfl
theorem dksX1_index_7 : cX1_index.data.toList.drop 161 = dktX1_index_7 := dk_seg dksX1_index_6 23 rfl rfl
theorem dksX1_index_8 : cX1_index.data.toList.drop 185 = dktX1_index_8 := dk_seg dksX1_index_7 24 rfl rfl
theorem dksX1_index_9 : cX1_index.data.toList.drop 205 = dktX1_index_9 := dk_seg dksX1_index_8 20 rfl rfl
theorem dksX1_index_10 : cX1_index.data.toList.drop 229 = dktX1_index_10 := dk_seg dksX1_index_9 24 rfl rfl
theorem dX1_index_0 : decode cX1_index 0 = .ok (.aload_n 0, 1) := dk_42 (dk_at dksX1_index_0 0 rfl rfl)
theorem dX1_index_1 : decode cX1_index 1 = .ok (.iload_n 1, 1) := dk_27 (dk_at dksX1_index_0 1 rfl rfl)
theorem dX1_index_2 : decode cX1_index 2 = .ok (.invokevirtual 99, 3) := dk_182 0 99 (dk_at dksX1_index_0 2 rfl rfl)
theorem dX1_index_5 : decode cX1_index 5 = .ok (.astore 4, 2) := dk_58 4 (dk_at dksX1_index_0 5 rfl rfl)
theorem dX1_index_7 : decode cX1_index 7 = .ok (.iload_n 2, 1) := dk_28 (dk_at dksX1_index_0 7 rfl rfl)
theorem dX1_index_8 : decode cX1_index 8 = .ok (.bipush 10, 2) := dk_16 10 (dk_at dksX1_index_0 8 rfl rfl)
theorem dX1_index_10 : decode cX1_index 10 = .ok (.ldc 161, 2) := dk_18 161 (dk_at dksX1_index_0 10 rfl rfl)
theorem dX1_index_12 : decode cX1_index 12 = .ok (.invokestatic 92, 3) := dk_184 0 92 (dk_at dksX1_index_0 12 rfl rfl)
theorem dX1_index_15 : decode cX1_index 15 = .ok (.pop, 1) := dk_87 (dk_at dksX1_index_0 15 rfl rfl)
theorem dX1_index_16 : decode cX1_index 16 = .ok (.iload_n 3, 1) := dk_29 (dk_at dksX1_index_0 16 rfl rfl)
theorem dX1_index_17 : decode cX1_index 17 = .ok (.ifCond .ge 30, 3) := dk_156 0 30 (dk_at dksX1_index_0 17 rfl rfl)
theorem dX1_index_20 : decode cX1_index 20 = .ok (.new 57, 3) := dk_187 0 57 (dk_at dksX1_index_0 20 rfl rfl)
theorem dX1_index_23 : decode cX1_index 23 = .ok (.dup, 1) := dk_89 (dk_at dksX1_index_0 23 rfl rfl)
theorem dX1_index_24 : decode cX1_index 24 = .ok (.new 59, 3) := dk_187 0 59 (dk_at dksX1_index_1 0 rfl rfl)
theorem dX1_index_27 : decode cX1_index 27 = .ok (.dup, 1) := dk_89 (dk_at dksX1_index_1 3 rfl rfl)
theorem dX1_index_28 : decode cX1_index 28 = .ok (.invokespecial 61, 3) := dk_183 0 61 (dk_at dksX1_index_1 4 rfl rfl)
theorem dX1_index_31 : decode cX1_index 31 = .ok (.ldc 236, 2) := dk_18 236 (dk_at dksX1_index_1 7 rfl rfl)
theorem dX1_index_33 : decode cX1_index 33 = .ok (.invokevirtual 64, 3) := dk_182 0 64 (dk_at dksX1_index_1 9 rfl rfl)
theorem dX1_index_36 : decode cX1_index 36 = .ok (.iload_n 3, 1) := dk_29 (dk_at dksX1_index_1 12 rfl rfl)
theorem dX1_index_37 : decode cX1_index 37 = .ok (.invokevirtual 70, 3) := dk_182 0 70 (dk_at dksX1_index_1 13 rfl rfl)
theorem dX1_index_40 : decode cX1_index 40 = .ok (.invokevirtual 73, 3) := dk_182 0 73 (dk_at dksX1_index_1 16 rfl rfl)
theorem dX1_index_43 : decode cX1_index 43 = .ok (.invokespecial 77, 3) := dk_183 0 77 (dk_at dksX1_index_1 19 rfl rfl)
theorem dX1_index_46 : decode cX1_index 46 = .ok (.athrow, 1) := dk_191 (dk_at dksX1_index_1 22 rfl rfl)
theorem dX1_index_47 : decode cX1_index 47 = .ok (.aload_n 0, 1) := dk_42 (dk_at dksX1_index_1 23 rfl rfl)
theorem dX1_index_48 : decode cX1_index 48 = .ok (.getfield 37, 3) := dk_180 0 37 (dk_at dksX1_index_2 0 rfl rfl)
theorem dX1_index_51 : decode cX1_index 51 = .ok (.iload_n 2, 1) := dk_28 (dk_at dksX1_index_2 3 rfl rfl)
theorem dX1_index_52 : decode cX1_index 52 = .ok (.iaload, 1) := dk_46 (dk_at dksX1_index_2 4 rfl rfl)
theorem dX1_index_53 : decode cX1_index 53 = .ok (.iconst (-1), 1) := dk_2 (dk_at dksX1_index_2 5 rfl rfl)
theorem dX1_index_54 : decode cX1_index 54 = .ok (.if_icmp .ne 13, 3) := dk_160 0 13 (dk_at dksX1_index_2 6 rfl rfl)
theorem dX1_index_57 : decode cX1_index 57 = .ok (.aload_n 0, 1) := dk_42 (dk_at dksX1_index_2 9 rfl rfl)
theorem dX1_index_58 : decode cX1_index 58 = .ok (.aload 4, 2) := dk_25 4 (dk_at dksX1_index_2 10 rfl rfl)
theorem dX1_index_60 : decode cX1_index 60 = .ok (.iload_n 2, 1) := dk_28 (dk_at dksX1_index_2 12 rfl rfl)
theorem dX1_index_61 : decode cX1_index 61 = .ok (.invokevirtual 238, 3) := dk_182 0 238 (dk_at dksX1_index_2 13 rfl rfl)
theorem dX1_index_64 : decode cX1_index 64 = .ok (.goto 10, 3) := dk_167 0 10 (dk_at dksX1_index_2 16 rfl rfl)
theorem dX1_index_67 : decode cX1_index 67 = .ok (.new 7, 3) := dk_187 0 7 (dk_at dksX1_index_2 19 rfl rfl)
theorem dX1_index_70 : decode cX1_index 70 = .ok (.dup, 1) := dk_89 (dk_at dksX1_index_2 22 rfl rfl)
theorem dX1_index_71 : decode cX1_index 71 = .ok (.invokespecial 9, 3) := dk_183 0 9 (dk_at dksX1_index_3 0 rfl rfl)
theorem dX1_index_74 : decode cX1_index 74 = .ok (.astore 5, 2) := dk_58 5 (dk_at dksX1_index_3 3 rfl rfl)
theorem dX1_index_76 : decode cX1_index 76 = .ok (.iload_n 3, 1) := dk_29 (dk_at dksX1_index_3 5 rfl rfl)
theorem dX1_index_77 : decode cX1_index 77 = .ok (.istore 6, 2) := dk_54 6 (dk_at dksX1_index_3 6 rfl rfl)
theorem dX1_index_79 : decode cX1_index 79 = .ok (.iconst 0, 1) := dk_3 (dk_at dksX1_index_3 8 rfl rfl)
theorem dX1_index_80 : decode cX1_index 80 = .ok (.istore 7, 2) := dk_54 7 (dk_at dksX1_index_3 9 rfl rfl)
theorem dX1_index_82 : decode cX1_index 82 = .ok (.iload 7, 2) := dk_21 7 (dk_at dksX1_index_3 11 rfl rfl)
theorem dX1_index_84 : decode cX1_index 84 = .ok (.aload 5, 2) := dk_25 5 (dk_at dksX1_index_3 13 rfl rfl)
theorem dX1_index_86 : decode cX1_index 86 = .ok (.invokeinterface 106 1, 5) := by decide +kernel
theorem dX1_index_91 : decode cX1_index 91 = .ok (.if_icmp .ge 137, 3) := dk_162 0 137 (dk_at dksX1_index_3 20 rfl rfl)
theorem dX1_index_94 : decode cX1_index 94 = .ok (.iload 7, 2) := dk_21 7 (dk_at dksX1_index_4 0 rfl rfl)
theorem dX1_index_96 : decode cX1_index 96 = .ok (.iconst 1, 1) := dk_4 (dk_at dksX1_index_4 2 rfl rfl)
theorem dX1_index_97 : decode cX1_index 97 = .ok (.iadd, 1) := dk_96 (dk_at dksX1_index_4 3 rfl rfl)
theorem dX1_index_98 : decode cX1_index 98 = .ok (.istore 8, 2) := dk_54 8 (dk_at dksX1_index_4 4 rfl rfl)
theorem dX1_index_100 : decode cX1_index 100 = .ok (.iload 8, 2) := dk_21 8 (dk_at dksX1_index_4 6 rfl rfl)
theorem dX1_index_102 : decode cX1_index 102 = .ok (.aload 5, 2) := dk_25 5 (dk_at dksX1_index_4 8 rfl rfl)
theorem dX1_index_104 : decode cX1_index 104 = .ok (.invokeinterface 106 1, 5) := by decide +kernel
theorem dX1_index_109 : decode cX1_index 109 = .ok (.if_icmp .ge 46, 3) := dk_162 0 46 (dk_at dksX1_index_4 15 rfl rfl)
theorem dX1_index_112 : decode cX1_index 112 = .ok (.aload 5, 2) := dk_25 5 (dk_at dksX1_index_4 18 rfl rfl)
theorem dX1_index_114 : decode cX1_index 114 = .ok (.iload 8, 2) := dk_21 8 (dk_at dksX1_index_4 20 rfl rfl)
theorem dX1_index_116 : decode cX1_index 116 = .ok (.invokeinterface 182 2, 5) := by decide +kernel
theorem dX1_index_121 : decode cX1_index 121 = .ok (.checkcast 227, 3) := dk_192 0 227 (dk_at dksX1_index_5 5 rfl rfl)
theorem dX1_index_124 : decode cX1_index 124 = .ok (.invokevirtual 229, 3) := dk_182 0 229 (dk_at dksX1_index_5 8 rfl rfl)
theorem dX1_index_127 : decode cX1_index 127 = .ok (.aload 5, 2) := dk_25 5 (dk_at dksX1_index_5 11 rfl rfl)
theorem dX1_index_129 : decode cX1_index 129 = .ok (.iload 8, 2) := dk_21 8 (dk_at dksX1_index_5 13 rfl rfl)
theorem dX1_index_131 : decode cX1_index 131 = .ok (.iconst 1, 1) := dk_4 (dk_at dksX1_index_5 15 rfl rfl)
theorem dX1_index_132 : decode cX1_index 132 = .ok (.isub, 1) := dk_100 (dk_at dksX1_index_5 16 rfl rfl)
theorem dX1_index_133 : decode cX1_index 133 = .ok (.invokeinterface 182 2, 5) := by decide +kernel
theorem dX1_index_138 : decode cX1_index 138 = .ok (.checkcast 227, 3) := dk_192 0 227 (dk_at dksX1_index_6 0 rfl rfl)
theorem dX1_index_141 : decode cX1_index 141 = .ok (.invokevirtual 229, 3) := dk_182 0 229 (dk_at dksX1_index_6 3 rfl rfl)
theorem dX1_index_144 : decode cX1_index 144 = .ok (.iconst 1, 1) := dk_4 (dk_at dksX1_index_6 6 rfl rfl)
theorem dX1_index_145 : decode cX1_index 145 = .ok (.iadd, 1) := dk_96 (dk_at dksX1_index_6 7 rfl rfl)
theorem dX1_index_146 : decode cX1_index 146 = .ok (.if_icmp .ne 9, 3) := dk_160 0 9 (dk_at dksX1_index_6 8 rfl rfl)
theorem dX1_index_149 : decode cX1_index 149 = .ok (.iinc 8 1, 3) := dk_132 8 1 (dk_at dksX1_index_6 11 rfl rfl)
theorem dX1_index_152 : decode cX1_index 152 = .ok (.goto (-52), 3) := dk_167 255 204 (dk_at dksX1_index_6 14 rfl rfl)
theorem dX1_index_155 : decode cX1_index 155 = .ok (.iload 8, 2) := dk_21 8 (dk_at dksX1_index_6 17 rfl rfl)
theorem dX1_index_157 : decode cX1_index 157 = .ok (.iload 7, 2) := dk_21 7 (dk_at dksX1_index_6 19 rfl rfl)
theorem dX1_index_159 : decode cX1_index 159 = .ok (.isub, 1) := dk_100 (dk_at dksX1_index_6 21 rfl rfl)
theorem dX1_index_160 : decode cX1_index 160 = .ok (.iconst 3, 1) := dk_6 (dk_at dksX1_index_6 22 rfl rfl)
theorem dX1_index_161 : decode cX1_index 161 = .ok (.if_icmp .lt 8, 3) := dk_161 0 8 (dk_at dksX1_index_7 0 rfl rfl)
theorem dX1_index_164 : decode cX1_index 164 = .ok (.iload 8, 2) := dk_21 8 (dk_at dksX1_index_7 3 rfl rfl)
theorem dX1_index_166 : decode cX1_index 166 = .ok (.goto 7, 3) := dk_167 0 7 (dk_at dksX1_index_7 5 rfl rfl)
theorem dX1_index_169 : decode cX1_index 169 = .ok (.iload 7, 2) := dk_21 7 (dk_at dksX1_index_7 8 rfl rfl)
theorem dX1_index_171 : decode cX1_index 171 = .ok (.iconst 1, 1) := dk_4 (dk_at dksX1_index_7 10 rfl rfl)
theorem dX1_index_172 : decode cX1_index 172 = .ok (.iadd, 1) := dk_96 (dk_at dksX1_index_7 11 rfl rfl)
theorem dX1_index_173 : decode cX1_index 173 = .ok (.istore 8, 2) := dk_54 8 (dk_at dksX1_index_7 12 rfl rfl)
theorem dX1_index_175 : decode cX1_index 175 = .ok (.iload 6, 2) := dk_21 6 (dk_at dksX1_index_7 14 rfl rfl)
theorem dX1_index_177 : decode cX1_index 177 = .ok (.ifCond .ne 41, 3) := dk_154 0 41 (dk_at dksX1_index_7 16 rfl rfl)
theorem dX1_index_180 : decode cX1_index 180 = .ok (.sipush 1000, 3) := dk_17 3 232 (dk_at dksX1_index_7 19 rfl rfl)
theorem dX1_index_183 : decode cX1_index 183 = .ok (.aload 5, 2) := dk_25 5 (dk_at dksX1_index_7 22 rfl rfl)
theorem dX1_index_185 : decode cX1_index 185 = .ok (.iload 7, 2) := dk_21 7 (dk_at dksX1_index_8 0 rfl rfl)
theorem dX1_index_187 : decode cX1_index 187 = .ok (.invokeinterface 182 2, 5) := by decide +kernel
theorem dX1_index_192 : decode cX1_index 192 = .ok (.checkcast 227, 3) := dk_192 0 227 (dk_at dksX1_index_8 7 rfl rfl)
theorem dX1_index_195 : decode cX1_index 195 = .ok (.invokevirtual 229, 3) := dk_182 0 229 (dk_at dksX1_index_8 10 rfl rfl)
theorem dX1_index_198 : decode cX1_index 198 = .ok (.imul, 1) := dk_104 (dk_at dksX1_index_8 13 rfl rfl)
theorem dX1_index_199 : decode cX1_index 199 = .ok (.aload 5, 2) := dk_25 5 (dk_at dksX1_index_8 14 rfl rfl)
theorem dX1_index_201 : decode cX1_index 201 = .ok (.iload 8, 2) := dk_21 8 (dk_at dksX1_index_8 16 rfl rfl)
theorem dX1_index_203 : decode cX1_index 203 = .ok (.iconst 1, 1) := dk_4 (dk_at dksX1_index_8 18 rfl rfl)
theorem dX1_index_204 : decode cX1_index 204 = .ok (.isub, 1) := dk_100 (dk_at dksX1_index_8 19 rfl rfl)
theorem dX1_index_205 : decode cX1_index 205 = .ok (.invokeinterface 182 2, 5) := by decide +kernel
theorem dX1_index_210 : decode cX1_index 210 = .ok (.checkcast 227, 3) := dk_192 0 227 (dk_at dksX1_index_9 5 rfl rfl)
theorem dX1_index_213 : decode cX1_index 213 = .ok (.invokevirtual 229, 3) := dk_182 0 229 (dk_at dksX1_index_9 8 rfl rfl)
theorem dX1_index_216 : decode cX1_index 216 = .ok (.iadd, 1) := dk_96 (dk_at dksX1_index_9 11 rfl rfl)
theorem dX1_index_217 : decode cX1_index 217 = .ok (.ireturn, 1) := dk_172 (dk_at dksX1_index_9 12 rfl rfl)
theorem dX1_index_218 : decode cX1_index 218 = .ok (.iinc 6 (-1), 3) := dk_132 6 255 (dk_at dksX1_index_9 13 rfl rfl)
theorem dX1_index_221 : decode cX1_index 221 = .ok (.iload 8, 2) := dk_21 8 (dk_at dksX1_index_9 16 rfl rfl)
theorem dX1_index_223 : decode cX1_index 223 = .ok (.istore 7, 2) := dk_54 7 (dk_at dksX1_index_9 18 rfl rfl)
theorem dX1_index_225 : decode cX1_index 225 = .ok (.goto (-143), 3) := dk_167 255 113 (dk_at dksX1_index_9 20 rfl rfl)
theorem dX1_index_228 : decode cX1_index 228 = .ok (.iconst (-1), 1) := dk_2 (dk_at dksX1_index_9 23 rfl rfl)
theorem dX1_index_229 : decode cX1_index 229 = .ok (.ireturn, 1) := dk_172 (dk_at dksX1_index_10 0 rfl rfl)
abbrev cX1_pagesOf : ByteArray := prog_1_method_26_code
def yX1_pagesOf : MethodName := ⟨RX1, "pagesOf", "(LQuirefold$Layout;I)Ljava/util/List;"⟩
def dkwX1_pagesOf_8 : List UInt8 := [167, 255, 114, 132, 5, 1, 167, 255, 98, 45, 176]
abbrev dktX1_pagesOf_8 : List UInt8 := dkwX1_pagesOf_8 ++ []
def dkwX1_pagesOf_7 : List UInt8 := [159, 0, 19, 45, 43, 21, 5, 182, 0, 201, 184, 0, 232, 185, 0, 176, 2, 0, 87, 132, 6, 1]
abbrev dktX1_pagesOf_7 : List UInt8 := dkwX1_pagesOf_7 ++ dktX1_pagesOf_8
def dkwX1_pagesOf_6 : List UInt8 := [185, 0, 106, 1, 0, 4, 100, 185, 0, 182, 2, 0, 192, 0, 227, 182, 0, 229, 43, 21, 5, 182, 0, 201]
abbrev dktX1_pagesOf_6 : List UInt8 := dkwX1_pagesOf_6 ++ dktX1_pagesOf_7
def dkwX1_pagesOf_5 : List UInt8 := [4, 167, 0, 4, 3, 54, 7, 21, 7, 153, 0, 57, 45, 185, 0, 223, 1, 0, 154, 0, 32, 45, 45]
abbrev dktX1_pagesOf_5 : List UInt8 := dkwX1_pagesOf_5 ++ dktX1_pagesOf_6
def dkwX1_pagesOf_4 : List UInt8 := [42, 180, 0, 10, 21, 6, 185, 0, 182, 2, 0, 192, 0, 128, 180, 0, 217, 182, 0, 220, 28, 160, 0, 7]
abbrev dktX1_pagesOf_4 : List UInt8 := dkwX1_pagesOf_4 ++ dktX1_pagesOf_5
def dkwX1_pagesOf_3 : List UInt8 := [192, 0, 128, 180, 0, 190, 16, 6, 160, 0, 44, 43, 180, 0, 179, 21, 6, 46, 21, 5, 160, 0, 32, 42]
abbrev dktX1_pagesOf_3 : List UInt8 := dkwX1_pagesOf_3 ++ dktX1_pagesOf_4
def dkwX1_pagesOf_2 : List UInt8 := [180, 0, 10, 185, 0, 106, 1, 0, 162, 0, 134, 42, 180, 0, 10, 21, 6, 185, 0, 182, 2, 0]
abbrev dktX1_pagesOf_2 : List UInt8 := dkwX1_pagesOf_2 ++ dktX1_pagesOf_3
def dkwX1_pagesOf_1 : List UInt8 := [185, 0, 106, 1, 0, 54, 4, 3, 54, 5, 21, 5, 21, 4, 162, 0, 157, 3, 54, 6, 21, 6, 42]
abbrev dktX1_pagesOf_1 : List UInt8 := dkwX1_pagesOf_1 ++ dktX1_pagesOf_2
def dkwX1_pagesOf_0 : List UInt8 := [187, 0, 7, 89, 183, 0, 9, 78, 43, 180, 0, 205, 2, 160, 0, 7, 3, 167, 0, 12, 43, 180, 0, 103]
abbrev dktX1_pagesOf_0 : List UInt8 := dkwX1_pagesOf_0 ++ dktX1_pagesOf_1
theorem dksX1_pagesOf_0 : cX1_pagesOf.data.toList.drop 0 = dktX1_pagesOf_0 := by decide +kernel
theorem dksX1_pagesOf_1 : cX1_pagesOf.data.toList.drop 24 = dktX1_pagesOf_1 := dk_seg dksX1_pagesOf_0 24 rfl rfl
theorem dksX1_pagesOf_2 : cX1_pagesOf.data.toList.drop 47 = dktX1_pagesOf_2 := dk_seg dksX1_pagesOf_1 23 rfl rfl
theorem dksX1_pagesOf_3 : cX1_pagesOf.data.toList.drop 69 = dktX1_pagesOf_3 := dk_seg dksX1_pagesOf_2 22 rfl rfl
theorem dksX1_pagesOf_4 : cX1_pagesOf.data.toList.drop 93 = dktX1_pagesOf_4 := dk_seg dksX1_pagesOf_3 24 rfl rfl
theorem dksX1_pagesOf_5 : cX1_pagesOf.data.toList.drop 117 = dktX1_pagesOf_5 := dk_seg dksX1_pagesOf_4 24 rfl rfl
theorem dksX1_pagesOf_6 : cX1_pagesOf.data.toList.drop 140 = dktX1_pagesOf_6 := dk_seg dksX1_pagesOf_5 23 rfl rfl
theorem dksX1_pagesOf_7 : cX1_pagesOf.data.toList.drop 164 = dktX1_pagesOf_7 := dk_seg dksX1_pagesOf_6 24 rfl rfl
theorem dksX1_pagesOf_8 : cX1_pagesOf.data.toList.drop 186 = dktX1_pagesOf_8 := dk_seg dksX1_pagesOf_7 22 rfl rfl
theorem dX1_pagesOf_0 : decode cX1_pagesOf 0 = .ok (.new 7, 3) := dk_187 0 7 (dk_at dksX1_pagesOf_0 0 rfl rfl)
theorem dX1_pagesOf_3 : decode cX1_pagesOf 3 = .ok (.dup, 1) := dk_89 (dk_at dksX1_pagesOf_0 3 rfl rfl)
theorem dX1_pagesOf_4 : decode cX1_pagesOf 4 = .ok (.invokespecial 9, 3) := dk_183 0 9 (dk_at dksX1_pagesOf_0 4 rfl rfl)
theorem dX1_pagesOf_7 : decode cX1_pagesOf 7 = .ok (.astore_n 3, 1) := dk_78 (dk_at dksX1_pagesOf_0 7 rfl rfl)
theorem dX1_pagesOf_8 : decode cX1_pagesOf 8 = .ok (.aload_n 1, 1) := dk_43 (dk_at dksX1_pagesOf_0 8 rfl rfl)
theorem dX1_pagesOf_9 : decode cX1_pagesOf 9 = .ok (.getfield 205, 3) := dk_180 0 205 (dk_at dksX1_pagesOf_0 9 rfl rfl)
theorem dX1_pagesOf_12 : decode cX1_pagesOf 12 = .ok (.iconst (-1), 1) := dk_2 (dk_at dksX1_pagesOf_0 12 rfl rfl)
theorem dX1_pagesOf_13 : decode cX1_pagesOf 13 = .ok (.if_icmp .ne 7, 3) := dk_160 0 7 (dk_at dksX1_pagesOf_0 13 rfl rfl)
theorem dX1_pagesOf_16 : decode cX1_pagesOf 16 = .ok (.iconst 0, 1) := dk_3 (dk_at dksX1_pagesOf_0 16 rfl rfl)
theorem dX1_pagesOf_17 : decode cX1_pagesOf 17 = .ok (.goto 12, 3) := dk_167 0 12 (dk_at dksX1_pagesOf_0 17 rfl rfl)
theorem dX1_pagesOf_20 : decode cX1_pagesOf 20 = .ok (.aload_n 1, 1) := dk_43 (dk_at dksX1_pagesOf_0 20 rfl rfl)
theorem dX1_pagesOf_21 : decode cX1_pagesOf 21 = .ok (.getfield 103, 3) := dk_180 0 103 (dk_at dksX1_pagesOf_0 21 rfl rfl)
theorem dX1_pagesOf_24 : decode cX1_pagesOf 24 = .ok (.invokeinterface 106 1, 5) := by decide +kernel
theorem dX1_pagesOf_29 : decode cX1_pagesOf 29 = .ok (.istore 4, 2) := dk_54 4 (dk_at dksX1_pagesOf_1 5 rfl rfl)
theorem dX1_pagesOf_31 : decode cX1_pagesOf 31 = .ok (.iconst 0, 1) := dk_3 (dk_at dksX1_pagesOf_1 7 rfl rfl)
theorem dX1_pagesOf_32 : decode cX1_pagesOf 32 = .ok (.istore 5, 2) := dk_54 5 (dk_at dksX1_pagesOf_1 8 rfl rfl)
theorem dX1_pagesOf_34 : decode cX1_pagesOf 34 = .ok (.iload 5, 2) := dk_21 5 (dk_at dksX1_pagesOf_1 10 rfl rfl)
theorem dX1_pagesOf_36 : decode cX1_pagesOf 36 = .ok (.iload 4, 2) := dk_21 4 (dk_at dksX1_pagesOf_1 12 rfl rfl)
theorem dX1_pagesOf_38 : decode cX1_pagesOf 38 = .ok (.if_icmp .ge 157, 3) := dk_162 0 157 (dk_at dksX1_pagesOf_1 14 rfl rfl)
theorem dX1_pagesOf_41 : decode cX1_pagesOf 41 = .ok (.iconst 0, 1) := dk_3 (dk_at dksX1_pagesOf_1 17 rfl rfl)
theorem dX1_pagesOf_42 : decode cX1_pagesOf 42 = .ok (.istore 6, 2) := dk_54 6 (dk_at dksX1_pagesOf_1 18 rfl rfl)
theorem dX1_pagesOf_44 : decode cX1_pagesOf 44 = .ok (.iload 6, 2) := dk_21 6 (dk_at dksX1_pagesOf_1 20 rfl rfl)
theorem dX1_pagesOf_46 : decode cX1_pagesOf 46 = .ok (.aload_n 0, 1) := dk_42 (dk_at dksX1_pagesOf_1 22 rfl rfl)
theorem dX1_pagesOf_47 : decode cX1_pagesOf 47 = .ok (.getfield 10, 3) := dk_180 0 10 (dk_at dksX1_pagesOf_2 0 rfl rfl)
theorem dX1_pagesOf_50 : decode cX1_pagesOf 50 = .ok (.invokeinterface 106 1, 5) := by decide +kernel
theorem dX1_pagesOf_55 : decode cX1_pagesOf 55 = .ok (.if_icmp .ge 134, 3) := dk_162 0 134 (dk_at dksX1_pagesOf_2 8 rfl rfl)
theorem dX1_pagesOf_58 : decode cX1_pagesOf 58 = .ok (.aload_n 0, 1) := dk_42 (dk_at dksX1_pagesOf_2 11 rfl rfl)
theorem dX1_pagesOf_59 : decode cX1_pagesOf 59 = .ok (.getfield 10, 3) := dk_180 0 10 (dk_at dksX1_pagesOf_2 12 rfl rfl)
theorem dX1_pagesOf_62 : decode cX1_pagesOf 62 = .ok (.iload 6, 2) := dk_21 6 (dk_at dksX1_pagesOf_2 15 rfl rfl)
theorem dX1_pagesOf_64 : decode cX1_pagesOf 64 = .ok (.invokeinterface 182 2, 5) := by decide +kernel
theorem dX1_pagesOf_69 : decode cX1_pagesOf 69 = .ok (.checkcast 128, 3) := dk_192 0 128 (dk_at dksX1_pagesOf_3 0 rfl rfl)
theorem dX1_pagesOf_72 : decode cX1_pagesOf 72 = .ok (.getfield 190, 3) := dk_180 0 190 (dk_at dksX1_pagesOf_3 3 rfl rfl)
theorem dX1_pagesOf_75 : decode cX1_pagesOf 75 = .ok (.bipush 6, 2) := dk_16 6 (dk_at dksX1_pagesOf_3 6 rfl rfl)
theorem dX1_pagesOf_77 : decode cX1_pagesOf 77 = .ok (.if_icmp .ne 44, 3) := dk_160 0 44 (dk_at dksX1_pagesOf_3 8 rfl rfl)
theorem dX1_pagesOf_80 : decode cX1_pagesOf 80 = .ok (.aload_n 1, 1) := dk_43 (dk_at dksX1_pagesOf_3 11 rfl rfl)
theorem dX1_pagesOf_81 : decode cX1_pagesOf 81 = .ok (.getfield 179, 3) := dk_180 0 179 (dk_at dksX1_pagesOf_3 12 rfl rfl)
theorem dX1_pagesOf_84 : decode cX1_pagesOf 84 = .ok (.iload 6, 2) := dk_21 6 (dk_at dksX1_pagesOf_3 15 rfl rfl)
theorem dX1_pagesOf_86 : decode cX1_pagesOf 86 = .ok (.iaload, 1) := dk_46 (dk_at dksX1_pagesOf_3 17 rfl rfl)
theorem dX1_pagesOf_87 : decode cX1_pagesOf 87 = .ok (.iload 5, 2) := dk_21 5 (dk_at dksX1_pagesOf_3 18 rfl rfl)
theorem dX1_pagesOf_89 : decode cX1_pagesOf 89 = .ok (.if_icmp .ne 32, 3) := dk_160 0 32 (dk_at dksX1_pagesOf_3 20 rfl rfl)
theorem dX1_pagesOf_92 : decode cX1_pagesOf 92 = .ok (.aload_n 0, 1) := dk_42 (dk_at dksX1_pagesOf_3 23 rfl rfl)
theorem dX1_pagesOf_93 : decode cX1_pagesOf 93 = .ok (.aload_n 0, 1) := dk_42 (dk_at dksX1_pagesOf_4 0 rfl rfl)
theorem dX1_pagesOf_94 : decode cX1_pagesOf 94 = .ok (.getfield 10, 3) := dk_180 0 10 (dk_at dksX1_pagesOf_4 1 rfl rfl)
theorem dX1_pagesOf_97 : decode cX1_pagesOf 97 = .ok (.iload 6, 2) := dk_21 6 (dk_at dksX1_pagesOf_4 4 rfl rfl)
theorem dX1_pagesOf_99 : decode cX1_pagesOf 99 = .ok (.invokeinterface 182 2, 5) := by decide +kernel
theorem dX1_pagesOf_104 : decode cX1_pagesOf 104 = .ok (.checkcast 128, 3) := dk_192 0 128 (dk_at dksX1_pagesOf_4 11 rfl rfl)
theorem dX1_pagesOf_107 : decode cX1_pagesOf 107 = .ok (.getfield 217, 3) := dk_180 0 217 (dk_at dksX1_pagesOf_4 14 rfl rfl)
theorem dX1_pagesOf_110 : decode cX1_pagesOf 110 = .ok (.invokevirtual 220, 3) := dk_182 0 220 (dk_at dksX1_pagesOf_4 17 rfl rfl)
theorem dX1_pagesOf_113 : decode cX1_pagesOf 113 = .ok (.iload_n 2, 1) := dk_28 (dk_at dksX1_pagesOf_4 20 rfl rfl)
theorem dX1_pagesOf_114 : decode cX1_pagesOf 114 = .ok (.if_icmp .ne 7, 3) := dk_160 0 7 (dk_at dksX1_pagesOf_4 21 rfl rfl)
theorem dX1_pagesOf_117 : decode cX1_pagesOf 117 = .ok (.iconst 1, 1) := dk_4 (dk_at dksX1_pagesOf_5 0 rfl rfl)
theorem dX1_pagesOf_118 : decode cX1_pagesOf 118 = .ok (.goto 4, 3) := dk_167 0 4 (dk_at dksX1_pagesOf_5 1 rfl rfl)
theorem dX1_pagesOf_121 : decode cX1_pagesOf 121 = .ok (.iconst 0, 1) := dk_3 (dk_at dksX1_pagesOf_5 4 rfl rfl)
theorem dX1_pagesOf_122 : decode cX1_pagesOf 122 = .ok (.istore 7, 2) := dk_54 7 (dk_at dksX1_pagesOf_5 5 rfl rfl)
theorem dX1_pagesOf_124 : decode cX1_pagesOf 124 = .ok (.iload 7, 2) := dk_21 7 (dk_at dksX1_pagesOf_5 7 rfl rfl)
theorem dX1_pagesOf_126 : decode cX1_pagesOf 126 = .ok (.ifCond .eq 57, 3) := dk_153 0 57 (dk_at dksX1_pagesOf_5 9 rfl rfl)
theorem dX1_pagesOf_129 : decode cX1_pagesOf 129 = .ok (.aload_n 3, 1) := dk_45 (dk_at dksX1_pagesOf_5 12 rfl rfl)
theorem dX1_pagesOf_130 : decode cX1_pagesOf 130 = .ok (.invokeinterface 223 1, 5) := by decide +kernel
theorem dX1_pagesOf_135 : decode cX1_pagesOf 135 = .ok (.ifCond .ne 32, 3) := dk_154 0 32 (dk_at dksX1_pagesOf_5 18 rfl rfl)
theorem dX1_pagesOf_138 : decode cX1_pagesOf 138 = .ok (.aload_n 3, 1) := dk_45 (dk_at dksX1_pagesOf_5 21 rfl rfl)
theorem dX1_pagesOf_139 : decode cX1_pagesOf 139 = .ok (.aload_n 3, 1) := dk_45 (dk_at dksX1_pagesOf_5 22 rfl rfl)
theorem dX1_pagesOf_140 : decode cX1_pagesOf 140 = .ok (.invokeinterface 106 1, 5) := by decide +kernel
theorem dX1_pagesOf_145 : decode cX1_pagesOf 145 = .ok (.iconst 1, 1) := dk_4 (dk_at dksX1_pagesOf_6 5 rfl rfl)
theorem dX1_pagesOf_146 : decode cX1_pagesOf 146 = .ok (.isub, 1) := dk_100 (dk_at dksX1_pagesOf_6 6 rfl rfl)
theorem dX1_pagesOf_147 : decode cX1_pagesOf 147 = .ok (.invokeinterface 182 2, 5) := by decide +kernel
theorem dX1_pagesOf_152 : decode cX1_pagesOf 152 = .ok (.checkcast 227, 3) := dk_192 0 227 (dk_at dksX1_pagesOf_6 12 rfl rfl)
theorem dX1_pagesOf_155 : decode cX1_pagesOf 155 = .ok (.invokevirtual 229, 3) := dk_182 0 229 (dk_at dksX1_pagesOf_6 15 rfl rfl)
theorem dX1_pagesOf_158 : decode cX1_pagesOf 158 = .ok (.aload_n 1, 1) := dk_43 (dk_at dksX1_pagesOf_6 18 rfl rfl)
theorem dX1_pagesOf_159 : decode cX1_pagesOf 159 = .ok (.iload 5, 2) := dk_21 5 (dk_at dksX1_pagesOf_6 19 rfl rfl)
theorem dX1_pagesOf_161 : decode cX1_pagesOf 161 = .ok (.invokevirtual 201, 3) := dk_182 0 201 (dk_at dksX1_pagesOf_6 21 rfl rfl)
theorem dX1_pagesOf_164 : decode cX1_pagesOf 164 = .ok (.if_icmp .eq 19, 3) := dk_159 0 19 (dk_at dksX1_pagesOf_7 0 rfl rfl)
theorem dX1_pagesOf_167 : decode cX1_pagesOf 167 = .ok (.aload_n 3, 1) := dk_45 (dk_at dksX1_pagesOf_7 3 rfl rfl)
theorem dX1_pagesOf_168 : decode cX1_pagesOf 168 = .ok (.aload_n 1, 1) := dk_43 (dk_at dksX1_pagesOf_7 4 rfl rfl)
theorem dX1_pagesOf_169 : decode cX1_pagesOf 169 = .ok (.iload 5, 2) := dk_21 5 (dk_at dksX1_pagesOf_7 5 rfl rfl)
theorem dX1_pagesOf_171 : decode cX1_pagesOf 171 = .ok (.invokevirtual 201, 3) := dk_182 0 201 (dk_at dksX1_pagesOf_7 7 rfl rfl)
theorem dX1_pagesOf_174 : decode cX1_pagesOf 174 = .ok (.invokestatic 232, 3) := dk_184 0 232 (dk_at dksX1_pagesOf_7 10 rfl rfl)
theorem dX1_pagesOf_177 : decode cX1_pagesOf 177 = .ok (.invokeinterface 176 2, 5) := by decide +kernel
theorem dX1_pagesOf_182 : decode cX1_pagesOf 182 = .ok (.pop, 1) := dk_87 (dk_at dksX1_pagesOf_7 18 rfl rfl)
theorem dX1_pagesOf_183 : decode cX1_pagesOf 183 = .ok (.iinc 6 1, 3) := dk_132 6 1 (dk_at dksX1_pagesOf_7 19 rfl rfl)
theorem dX1_pagesOf_186 : decode cX1_pagesOf 186 = .ok (.goto (-142), 3) := dk_167 255 114 (dk_at dksX1_pagesOf_8 0 rfl rfl)
theorem dX1_pagesOf_189 : decode cX1_pagesOf 189 = .ok (.iinc 5 1, 3) := dk_132 5 1 (dk_at dksX1_pagesOf_8 3 rfl rfl)
theorem dX1_pagesOf_192 : decode cX1_pagesOf 192 = .ok (.goto (-158), 3) := dk_167 255 98 (dk_at dksX1_pagesOf_8 6 rfl rfl)
theorem dX1_pagesOf_195 : decode cX1_pagesOf 195 = .ok (.aload_n 3, 1) := dk_45 (dk_at dksX1_pagesOf_8 9 rfl rfl)
theorem dX1_pagesOf_196 : decode cX1_pagesOf 196 = .ok (.areturn, 1) := dk_176 (dk_at dksX1_pagesOf_8 10 rfl rfl)
abbrev cX1_rootOf : ByteArray := prog_1_method_14_code
def yX1_rootOf : MethodName := ⟨RX1, "rootOf", "(I)I"⟩
def dkwX1_rootOf_0 : List UInt8 := [27, 61, 42, 180, 0, 37, 28, 46, 2, 159, 0, 13, 42, 180, 0, 37, 28, 46, 61, 167, 255, 239, 28, 172]
abbrev dktX1_rootOf_0 : List UInt8 := dkwX1_rootOf_0 ++ []
theorem dksX1_rootOf_0 : cX1_rootOf.data.toList.drop 0 = dktX1_rootOf_0 := by decide +kernel
theorem dX1_rootOf_0 : decode cX1_rootOf 0 = .ok (.iload_n 1, 1) := dk_27 (dk_at dksX1_rootOf_0 0 rfl rfl)
theorem dX1_rootOf_1 : decode cX1_rootOf 1 = .ok (.istore_n 2, 1) := dk_61 (dk_at dksX1_rootOf_0 1 rfl rfl)
theorem dX1_rootOf_2 : decode cX1_rootOf 2 = .ok (.aload_n 0, 1) := dk_42 (dk_at dksX1_rootOf_0 2 rfl rfl)
theorem dX1_rootOf_3 : decode cX1_rootOf 3 = .ok (.getfield 37, 3) := dk_180 0 37 (dk_at dksX1_rootOf_0 3 rfl rfl)
theorem dX1_rootOf_6 : decode cX1_rootOf 6 = .ok (.iload_n 2, 1) := dk_28 (dk_at dksX1_rootOf_0 6 rfl rfl)
theorem dX1_rootOf_7 : decode cX1_rootOf 7 = .ok (.iaload, 1) := dk_46 (dk_at dksX1_rootOf_0 7 rfl rfl)
theorem dX1_rootOf_8 : decode cX1_rootOf 8 = .ok (.iconst (-1), 1) := dk_2 (dk_at dksX1_rootOf_0 8 rfl rfl)
theorem dX1_rootOf_9 : decode cX1_rootOf 9 = .ok (.if_icmp .eq 13, 3) := dk_159 0 13 (dk_at dksX1_rootOf_0 9 rfl rfl)
theorem dX1_rootOf_12 : decode cX1_rootOf 12 = .ok (.aload_n 0, 1) := dk_42 (dk_at dksX1_rootOf_0 12 rfl rfl)
theorem dX1_rootOf_13 : decode cX1_rootOf 13 = .ok (.getfield 37, 3) := dk_180 0 37 (dk_at dksX1_rootOf_0 13 rfl rfl)
theorem dX1_rootOf_16 : decode cX1_rootOf 16 = .ok (.iload_n 2, 1) := dk_28 (dk_at dksX1_rootOf_0 16 rfl rfl)
theorem dX1_rootOf_17 : decode cX1_rootOf 17 = .ok (.iaload, 1) := dk_46 (dk_at dksX1_rootOf_0 17 rfl rfl)
theorem dX1_rootOf_18 : decode cX1_rootOf 18 = .ok (.istore_n 2, 1) := dk_61 (dk_at dksX1_rootOf_0 18 rfl rfl)
theorem dX1_rootOf_19 : decode cX1_rootOf 19 = .ok (.goto (-17), 3) := dk_167 255 239 (dk_at dksX1_rootOf_0 19 rfl rfl)
theorem dX1_rootOf_22 : decode cX1_rootOf 22 = .ok (.iload_n 2, 1) := dk_28 (dk_at dksX1_rootOf_0 22 rfl rfl)
theorem dX1_rootOf_23 : decode cX1_rootOf 23 = .ok (.ireturn, 1) := dk_172 (dk_at dksX1_rootOf_0 23 rfl rfl)
abbrev cX1_sheet : ByteArray := prog_1_method_29_code
def yX1_sheet : MethodName := ⟨RX1, "sheet", "(II)I"⟩
def dkwX1_sheet_1 : List UInt8 := [182, 0, 251, 172]
abbrev dktX1_sheet_1 : List UInt8 := dkwX1_sheet_1 ++ []
def dkwX1_sheet_0 : List UInt8 := [27, 4, 100, 17, 3, 231, 18, 248, 184, 0, 92, 87, 28, 7, 18, 249, 184, 0, 92, 87, 42, 27, 28]
abbrev dktX1_sheet_0 : List UInt8 := dkwX1_sheet_0 ++ dktX1_sheet_1
theorem dksX1_sheet_0 : cX1_sheet.data.toList.drop 0 = dktX1_sheet_0 := by decide +kernel
theorem dksX1_sheet_1 : cX1_sheet.data.toList.drop 23 = dktX1_sheet_1 := dk_seg dksX1_sheet_0 23 rfl rfl
theorem dX1_sheet_0 : decode cX1_sheet 0 = .ok (.iload_n 1, 1) := dk_27 (dk_at dksX1_sheet_0 0 rfl rfl)
theorem dX1_sheet_1 : decode cX1_sheet 1 = .ok (.iconst 1, 1) := dk_4 (dk_at dksX1_sheet_0 1 rfl rfl)
theorem dX1_sheet_2 : decode cX1_sheet 2 = .ok (.isub, 1) := dk_100 (dk_at dksX1_sheet_0 2 rfl rfl)
theorem dX1_sheet_3 : decode cX1_sheet 3 = .ok (.sipush 999, 3) := dk_17 3 231 (dk_at dksX1_sheet_0 3 rfl rfl)
theorem dX1_sheet_6 : decode cX1_sheet 6 = .ok (.ldc 248, 2) := dk_18 248 (dk_at dksX1_sheet_0 6 rfl rfl)
theorem dX1_sheet_8 : decode cX1_sheet 8 = .ok (.invokestatic 92, 3) := dk_184 0 92 (dk_at dksX1_sheet_0 8 rfl rfl)
theorem dX1_sheet_11 : decode cX1_sheet 11 = .ok (.pop, 1) := dk_87 (dk_at dksX1_sheet_0 11 rfl rfl)
theorem dX1_sheet_12 : decode cX1_sheet 12 = .ok (.iload_n 2, 1) := dk_28 (dk_at dksX1_sheet_0 12 rfl rfl)
theorem dX1_sheet_13 : decode cX1_sheet 13 = .ok (.iconst 4, 1) := dk_7 (dk_at dksX1_sheet_0 13 rfl rfl)
theorem dX1_sheet_14 : decode cX1_sheet 14 = .ok (.ldc 249, 2) := dk_18 249 (dk_at dksX1_sheet_0 14 rfl rfl)
theorem dX1_sheet_16 : decode cX1_sheet 16 = .ok (.invokestatic 92, 3) := dk_184 0 92 (dk_at dksX1_sheet_0 16 rfl rfl)
theorem dX1_sheet_19 : decode cX1_sheet 19 = .ok (.pop, 1) := dk_87 (dk_at dksX1_sheet_0 19 rfl rfl)
theorem dX1_sheet_20 : decode cX1_sheet 20 = .ok (.aload_n 0, 1) := dk_42 (dk_at dksX1_sheet_0 20 rfl rfl)
theorem dX1_sheet_21 : decode cX1_sheet 21 = .ok (.iload_n 1, 1) := dk_27 (dk_at dksX1_sheet_0 21 rfl rfl)
theorem dX1_sheet_22 : decode cX1_sheet 22 = .ok (.iload_n 2, 1) := dk_28 (dk_at dksX1_sheet_0 22 rfl rfl)
theorem dX1_sheet_23 : decode cX1_sheet 23 = .ok (.invokevirtual 251, 3) := dk_182 0 251 (dk_at dksX1_sheet_1 0 rfl rfl)
theorem dX1_sheet_26 : decode cX1_sheet 26 = .ok (.ireturn, 1) := dk_172 (dk_at dksX1_sheet_1 3 rfl rfl)
abbrev cX1_sheetOf : ByteArray := prog_1_method_28_code
def yX1_sheetOf : MethodName := ⟨RX1, "sheetOf", "(II)I"⟩
def dkwX1_sheetOf_6 : List UInt8 := [180, 0, 44, 104, 172]
abbrev dktX1_sheetOf_6 : List UInt8 := dkwX1_sheetOf_6 ++ []
def dkwX1_sheetOf_5 : List UInt8 := [160, 0, 7, 4, 167, 0, 4, 3, 172, 21, 6, 153, 0, 7, 3, 167, 0, 4, 4, 172, 21, 4, 42]
abbrev dktX1_sheetOf_5 : List UInt8 := dkwX1_sheetOf_5 ++ dktX1_sheetOf_6
def dkwX1_sheetOf_4 : List UInt8 := [27, 4, 100, 42, 180, 0, 41, 108, 42, 180, 0, 41, 7, 108, 104, 21, 4, 96, 172, 21, 5, 21, 6]
abbrev dktX1_sheetOf_4 : List UInt8 := dkwX1_sheetOf_4 ++ dktX1_sheetOf_5
def dkwX1_sheetOf_3 : List UInt8 := [170, 0, 0, 0, 0, 0, 70, 0, 0, 0, 0, 0, 0, 0, 2, 0, 0, 0, 27, 0, 0, 0, 46, 0, 0, 0, 59]
abbrev dktX1_sheetOf_3 : List UInt8 := dkwX1_sheetOf_3 ++ dktX1_sheetOf_4
def dkwX1_sheetOf_2 : List UInt8 := [160, 0, 7, 4, 167, 0, 4, 3, 54, 6, 28]
abbrev dktX1_sheetOf_2 : List UInt8 := dkwX1_sheetOf_2 ++ dktX1_sheetOf_3
def dkwX1_sheetOf_1 : List UInt8 := [54, 4, 29, 42, 180, 0, 41, 5, 108, 162, 0, 7, 4, 167, 0, 4, 3, 54, 5, 29, 5, 112, 4]
abbrev dktX1_sheetOf_1 : List UInt8 := dkwX1_sheetOf_1 ++ dktX1_sheetOf_2
def dkwX1_sheetOf_0 : List UInt8 := [27, 4, 100, 42, 180, 0, 41, 112, 62, 29, 42, 180, 0, 41, 4, 100, 29, 100, 184, 0, 242, 5, 108]
abbrev dktX1_sheetOf_0 : List UInt8 := dkwX1_sheetOf_0 ++ dktX1_sheetOf_1
theorem dksX1_sheetOf_0 : cX1_sheetOf.data.toList.drop 0 = dktX1_sheetOf_0 := by decide +kernel
theorem dksX1_sheetOf_1 : cX1_sheetOf.data.toList.drop 23 = dktX1_sheetOf_1 := dk_seg dksX1_sheetOf_0 23 rfl rfl
theorem dksX1_sheetOf_2 : cX1_sheetOf.data.toList.drop 46 = dktX1_sheetOf_2 := dk_seg dksX1_sheetOf_1 23 rfl rfl
theorem dksX1_sheetOf_3 : cX1_sheetOf.data.toList.drop 57 = dktX1_sheetOf_3 := dk_seg dksX1_sheetOf_2 11 rfl rfl
theorem dksX1_sheetOf_4 : cX1_sheetOf.data.toList.drop 84 = dktX1_sheetOf_4 := dk_seg dksX1_sheetOf_3 27 rfl rfl
theorem dksX1_sheetOf_5 : cX1_sheetOf.data.toList.drop 107 = dktX1_sheetOf_5 := dk_seg dksX1_sheetOf_4 23 rfl rfl
theorem dksX1_sheetOf_6 : cX1_sheetOf.data.toList.drop 130 = dktX1_sheetOf_6 := dk_seg dksX1_sheetOf_5 23 rfl rfl
theorem dX1_sheetOf_0 : decode cX1_sheetOf 0 = .ok (.iload_n 1, 1) := dk_27 (dk_at dksX1_sheetOf_0 0 rfl rfl)
theorem dX1_sheetOf_1 : decode cX1_sheetOf 1 = .ok (.iconst 1, 1) := dk_4 (dk_at dksX1_sheetOf_0 1 rfl rfl)
theorem dX1_sheetOf_2 : decode cX1_sheetOf 2 = .ok (.isub, 1) := dk_100 (dk_at dksX1_sheetOf_0 2 rfl rfl)
theorem dX1_sheetOf_3 : decode cX1_sheetOf 3 = .ok (.aload_n 0, 1) := dk_42 (dk_at dksX1_sheetOf_0 3 rfl rfl)
theorem dX1_sheetOf_4 : decode cX1_sheetOf 4 = .ok (.getfield 41, 3) := dk_180 0 41 (dk_at dksX1_sheetOf_0 4 rfl rfl)
theorem dX1_sheetOf_7 : decode cX1_sheetOf 7 = .ok (.irem, 1) := dk_112 (dk_at dksX1_sheetOf_0 7 rfl rfl)
theorem dX1_sheetOf_8 : decode cX1_sheetOf 8 = .ok (.istore_n 3, 1) := dk_62 (dk_at dksX1_sheetOf_0 8 rfl rfl)
theorem dX1_sheetOf_9 : decode cX1_sheetOf 9 = .ok (.iload_n 3, 1) := dk_29 (dk_at dksX1_sheetOf_0 9 rfl rfl)
theorem dX1_sheetOf_10 : decode cX1_sheetOf 10 = .ok (.aload_n 0, 1) := dk_42 (dk_at dksX1_sheetOf_0 10 rfl rfl)
theorem dX1_sheetOf_11 : decode cX1_sheetOf 11 = .ok (.getfield 41, 3) := dk_180 0 41 (dk_at dksX1_sheetOf_0 11 rfl rfl)
theorem dX1_sheetOf_14 : decode cX1_sheetOf 14 = .ok (.iconst 1, 1) := dk_4 (dk_at dksX1_sheetOf_0 14 rfl rfl)
theorem dX1_sheetOf_15 : decode cX1_sheetOf 15 = .ok (.isub, 1) := dk_100 (dk_at dksX1_sheetOf_0 15 rfl rfl)
theorem dX1_sheetOf_16 : decode cX1_sheetOf 16 = .ok (.iload_n 3, 1) := dk_29 (dk_at dksX1_sheetOf_0 16 rfl rfl)
theorem dX1_sheetOf_17 : decode cX1_sheetOf 17 = .ok (.isub, 1) := dk_100 (dk_at dksX1_sheetOf_0 17 rfl rfl)
theorem dX1_sheetOf_18 : decode cX1_sheetOf 18 = .ok (.invokestatic 242, 3) := dk_184 0 242 (dk_at dksX1_sheetOf_0 18 rfl rfl)
theorem dX1_sheetOf_21 : decode cX1_sheetOf 21 = .ok (.iconst 2, 1) := dk_5 (dk_at dksX1_sheetOf_0 21 rfl rfl)
theorem dX1_sheetOf_22 : decode cX1_sheetOf 22 = .ok (.idiv, 1) := dk_108 (dk_at dksX1_sheetOf_0 22 rfl rfl)
theorem dX1_sheetOf_23 : decode cX1_sheetOf 23 = .ok (.istore 4, 2) := dk_54 4 (dk_at dksX1_sheetOf_1 0 rfl rfl)
theorem dX1_sheetOf_25 : decode cX1_sheetOf 25 = .ok (.iload_n 3, 1) := dk_29 (dk_at dksX1_sheetOf_1 2 rfl rfl)
theorem dX1_sheetOf_26 : decode cX1_sheetOf 26 = .ok (.aload_n 0, 1) := dk_42 (dk_at dksX1_sheetOf_1 3 rfl rfl)
theorem dX1_sheetOf_27 : decode cX1_sheetOf 27 = .ok (.getfield 41, 3) := dk_180 0 41 (dk_at dksX1_sheetOf_1 4 rfl rfl)
theorem dX1_sheetOf_30 : decode cX1_sheetOf 30 = .ok (.iconst 2, 1) := dk_5 (dk_at dksX1_sheetOf_1 7 rfl rfl)
theorem dX1_sheetOf_31 : decode cX1_sheetOf 31 = .ok (.idiv, 1) := dk_108 (dk_at dksX1_sheetOf_1 8 rfl rfl)
theorem dX1_sheetOf_32 : decode cX1_sheetOf 32 = .ok (.if_icmp .ge 7, 3) := dk_162 0 7 (dk_at dksX1_sheetOf_1 9 rfl rfl)
theorem dX1_sheetOf_35 : decode cX1_sheetOf 35 = .ok (.iconst 1, 1) := dk_4 (dk_at dksX1_sheetOf_1 12 rfl rfl)
theorem dX1_sheetOf_36 : decode cX1_sheetOf 36 = .ok (.goto 4, 3) := dk_167 0 4 (dk_at dksX1_sheetOf_1 13 rfl rfl)
theorem dX1_sheetOf_39 : decode cX1_sheetOf 39 = .ok (.iconst 0, 1) := dk_3 (dk_at dksX1_sheetOf_1 16 rfl rfl)
theorem dX1_sheetOf_40 : decode cX1_sheetOf 40 = .ok (.istore 5, 2) := dk_54 5 (dk_at dksX1_sheetOf_1 17 rfl rfl)
theorem dX1_sheetOf_42 : decode cX1_sheetOf 42 = .ok (.iload_n 3, 1) := dk_29 (dk_at dksX1_sheetOf_1 19 rfl rfl)
theorem dX1_sheetOf_43 : decode cX1_sheetOf 43 = .ok (.iconst 2, 1) := dk_5 (dk_at dksX1_sheetOf_1 20 rfl rfl)
theorem dX1_sheetOf_44 : decode cX1_sheetOf 44 = .ok (.irem, 1) := dk_112 (dk_at dksX1_sheetOf_1 21 rfl rfl)
theorem dX1_sheetOf_45 : decode cX1_sheetOf 45 = .ok (.iconst 1, 1) := dk_4 (dk_at dksX1_sheetOf_1 22 rfl rfl)
theorem dX1_sheetOf_46 : decode cX1_sheetOf 46 = .ok (.if_icmp .ne 7, 3) := dk_160 0 7 (dk_at dksX1_sheetOf_2 0 rfl rfl)
theorem dX1_sheetOf_49 : decode cX1_sheetOf 49 = .ok (.iconst 1, 1) := dk_4 (dk_at dksX1_sheetOf_2 3 rfl rfl)
theorem dX1_sheetOf_50 : decode cX1_sheetOf 50 = .ok (.goto 4, 3) := dk_167 0 4 (dk_at dksX1_sheetOf_2 4 rfl rfl)
theorem dX1_sheetOf_53 : decode cX1_sheetOf 53 = .ok (.iconst 0, 1) := dk_3 (dk_at dksX1_sheetOf_2 7 rfl rfl)
theorem dX1_sheetOf_54 : decode cX1_sheetOf 54 = .ok (.istore 6, 2) := dk_54 6 (dk_at dksX1_sheetOf_2 8 rfl rfl)
theorem dX1_sheetOf_56 : decode cX1_sheetOf 56 = .ok (.iload_n 2, 1) := dk_28 (dk_at dksX1_sheetOf_2 10 rfl rfl)
theorem dX1_sheetOf_57 : decode cX1_sheetOf 57 = .ok (.tableswitch 70 0 2 #[27, 46, 59], 27) := by decide +kernel
theorem dX1_sheetOf_84 : decode cX1_sheetOf 84 = .ok (.iload_n 1, 1) := dk_27 (dk_at dksX1_sheetOf_4 0 rfl rfl)
theorem dX1_sheetOf_85 : decode cX1_sheetOf 85 = .ok (.iconst 1, 1) := dk_4 (dk_at dksX1_sheetOf_4 1 rfl rfl)
theorem dX1_sheetOf_86 : decode cX1_sheetOf 86 = .ok (.isub, 1) := dk_100 (dk_at dksX1_sheetOf_4 2 rfl rfl)
theorem dX1_sheetOf_87 : decode cX1_sheetOf 87 = .ok (.aload_n 0, 1) := dk_42 (dk_at dksX1_sheetOf_4 3 rfl rfl)
theorem dX1_sheetOf_88 : decode cX1_sheetOf 88 = .ok (.getfield 41, 3) := dk_180 0 41 (dk_at dksX1_sheetOf_4 4 rfl rfl)
theorem dX1_sheetOf_91 : decode cX1_sheetOf 91 = .ok (.idiv, 1) := dk_108 (dk_at dksX1_sheetOf_4 7 rfl rfl)
theorem dX1_sheetOf_92 : decode cX1_sheetOf 92 = .ok (.aload_n 0, 1) := dk_42 (dk_at dksX1_sheetOf_4 8 rfl rfl)
theorem dX1_sheetOf_93 : decode cX1_sheetOf 93 = .ok (.getfield 41, 3) := dk_180 0 41 (dk_at dksX1_sheetOf_4 9 rfl rfl)
theorem dX1_sheetOf_96 : decode cX1_sheetOf 96 = .ok (.iconst 4, 1) := dk_7 (dk_at dksX1_sheetOf_4 12 rfl rfl)
theorem dX1_sheetOf_97 : decode cX1_sheetOf 97 = .ok (.idiv, 1) := dk_108 (dk_at dksX1_sheetOf_4 13 rfl rfl)
theorem dX1_sheetOf_98 : decode cX1_sheetOf 98 = .ok (.imul, 1) := dk_104 (dk_at dksX1_sheetOf_4 14 rfl rfl)
theorem dX1_sheetOf_99 : decode cX1_sheetOf 99 = .ok (.iload 4, 2) := dk_21 4 (dk_at dksX1_sheetOf_4 15 rfl rfl)
theorem dX1_sheetOf_101 : decode cX1_sheetOf 101 = .ok (.iadd, 1) := dk_96 (dk_at dksX1_sheetOf_4 17 rfl rfl)
theorem dX1_sheetOf_102 : decode cX1_sheetOf 102 = .ok (.ireturn, 1) := dk_172 (dk_at dksX1_sheetOf_4 18 rfl rfl)
theorem dX1_sheetOf_103 : decode cX1_sheetOf 103 = .ok (.iload 5, 2) := dk_21 5 (dk_at dksX1_sheetOf_4 19 rfl rfl)
theorem dX1_sheetOf_105 : decode cX1_sheetOf 105 = .ok (.iload 6, 2) := dk_21 6 (dk_at dksX1_sheetOf_4 21 rfl rfl)
theorem dX1_sheetOf_107 : decode cX1_sheetOf 107 = .ok (.if_icmp .ne 7, 3) := dk_160 0 7 (dk_at dksX1_sheetOf_5 0 rfl rfl)
theorem dX1_sheetOf_110 : decode cX1_sheetOf 110 = .ok (.iconst 1, 1) := dk_4 (dk_at dksX1_sheetOf_5 3 rfl rfl)
theorem dX1_sheetOf_111 : decode cX1_sheetOf 111 = .ok (.goto 4, 3) := dk_167 0 4 (dk_at dksX1_sheetOf_5 4 rfl rfl)
theorem dX1_sheetOf_114 : decode cX1_sheetOf 114 = .ok (.iconst 0, 1) := dk_3 (dk_at dksX1_sheetOf_5 7 rfl rfl)
theorem dX1_sheetOf_115 : decode cX1_sheetOf 115 = .ok (.ireturn, 1) := dk_172 (dk_at dksX1_sheetOf_5 8 rfl rfl)
theorem dX1_sheetOf_116 : decode cX1_sheetOf 116 = .ok (.iload 6, 2) := dk_21 6 (dk_at dksX1_sheetOf_5 9 rfl rfl)
theorem dX1_sheetOf_118 : decode cX1_sheetOf 118 = .ok (.ifCond .eq 7, 3) := dk_153 0 7 (dk_at dksX1_sheetOf_5 11 rfl rfl)
theorem dX1_sheetOf_121 : decode cX1_sheetOf 121 = .ok (.iconst 0, 1) := dk_3 (dk_at dksX1_sheetOf_5 14 rfl rfl)
theorem dX1_sheetOf_122 : decode cX1_sheetOf 122 = .ok (.goto 4, 3) := dk_167 0 4 (dk_at dksX1_sheetOf_5 15 rfl rfl)
theorem dX1_sheetOf_125 : decode cX1_sheetOf 125 = .ok (.iconst 1, 1) := dk_4 (dk_at dksX1_sheetOf_5 18 rfl rfl)
theorem dX1_sheetOf_126 : decode cX1_sheetOf 126 = .ok (.ireturn, 1) := dk_172 (dk_at dksX1_sheetOf_5 19 rfl rfl)
theorem dX1_sheetOf_127 : decode cX1_sheetOf 127 = .ok (.iload 4, 2) := dk_21 4 (dk_at dksX1_sheetOf_5 20 rfl rfl)
theorem dX1_sheetOf_129 : decode cX1_sheetOf 129 = .ok (.aload_n 0, 1) := dk_42 (dk_at dksX1_sheetOf_5 22 rfl rfl)
theorem dX1_sheetOf_130 : decode cX1_sheetOf 130 = .ok (.getfield 44, 3) := dk_180 0 44 (dk_at dksX1_sheetOf_6 0 rfl rfl)
theorem dX1_sheetOf_133 : decode cX1_sheetOf 133 = .ok (.imul, 1) := dk_104 (dk_at dksX1_sheetOf_6 3 rfl rfl)
theorem dX1_sheetOf_134 : decode cX1_sheetOf 134 = .ok (.ireturn, 1) := dk_172 (dk_at dksX1_sheetOf_6 4 rfl rfl)
abbrev cX1_plate : ByteArray := prog_1_method_30_code
def yX1_plate : MethodName := ⟨RX1, "plate", "(IIII)I"⟩
def dkwX1_plate_8 : List UInt8 := [3, 96, 54, 6, 167, 255, 191, 132, 7, 1, 167, 255, 105, 21, 6, 172]
abbrev dktX1_plate_8 : List UInt8 := dkwX1_plate_8 ++ []
def dkwX1_plate_7 : List UInt8 := [185, 0, 182, 2, 0, 192, 0, 128, 180, 1, 19, 50, 182, 1, 21, 21, 4, 160, 0, 7, 4, 167, 0, 4]
abbrev dktX1_plate_7 : List UInt8 := dkwX1_plate_7 ++ dktX1_plate_8
def dkwX1_plate_6 : List UInt8 := [192, 0, 227, 182, 0, 229, 54, 10, 21, 6, 42, 180, 0, 18, 42, 180, 0, 10, 21, 10]
abbrev dktX1_plate_6 : List UInt8 := dkwX1_plate_6 ++ dktX1_plate_7
def dkwX1_plate_5 : List UInt8 := [185, 1, 6, 1, 0, 58, 9, 25, 9, 185, 1, 10, 1, 0, 153, 0, 61, 25, 9, 185, 1, 15, 1, 0]
abbrev dktX1_plate_5 : List UInt8 := dkwX1_plate_5 ++ dktX1_plate_6
def dkwX1_plate_4 : List UInt8 := [160, 0, 96, 25, 5, 180, 0, 103, 21, 7, 185, 0, 182, 2, 0, 192, 0, 185, 180, 1, 3]
abbrev dktX1_plate_4 : List UInt8 := dkwX1_plate_4 ++ dktX1_plate_5
def dkwX1_plate_3 : List UInt8 := [182, 0, 201, 54, 8, 42, 21, 8, 3, 182, 0, 251, 28, 160, 0, 107, 42, 21, 8, 4, 182, 0, 251, 29]
abbrev dktX1_plate_3 : List UInt8 := dkwX1_plate_3 ++ dktX1_plate_4
def dkwX1_plate_2 : List UInt8 := [180, 0, 103, 185, 0, 106, 1, 0, 162, 0, 142, 25, 5, 180, 0, 205, 2, 159, 0, 133, 25, 5, 21, 7]
abbrev dktX1_plate_2 : List UInt8 := dkwX1_plate_2 ++ dktX1_plate_3
def dkwX1_plate_1 : List UInt8 := [184, 0, 92, 87, 21, 4, 7, 19, 1, 2, 184, 0, 92, 87, 3, 54, 6, 3, 54, 7, 21, 7, 25, 5]
abbrev dktX1_plate_1 : List UInt8 := dkwX1_plate_1 ++ dktX1_plate_2
def dkwX1_plate_0 : List UInt8 := [42, 27, 182, 0, 99, 58, 5, 28, 17, 0, 250, 18, 254, 184, 0, 92, 87, 29, 5, 19, 1, 0]
abbrev dktX1_plate_0 : List UInt8 := dkwX1_plate_0 ++ dktX1_plate_1
theorem dksX1_plate_0 : cX1_plate.data.toList.drop 0 = dktX1_plate_0 := by decide +kernel
theorem dksX1_plate_1 : cX1_plate.data.toList.drop 22 = dktX1_plate_1 := dk_seg dksX1_plate_0 22 rfl rfl
theorem dksX1_plate_2 : cX1_plate.data.toList.drop 46 = dktX1_plate_2 := dk_seg dksX1_plate_1 24 rfl rfl
theorem dksX1_plate_3 : cX1_plate.data.toList.drop 70 = dktX1_plate_3 := dk_seg dksX1_plate_2 24 rfl rfl
theorem dksX1_plate_4 : cX1_plate.data.toList.drop 94 = dktX1_plate_4 := dk_seg dksX1_plate_3 24 rfl rfl
theorem dksX1_plate_5 : cX1_plate.data.toList.drop 115 = dktX1_plate_5 := dk_seg dksX1_plate_4 21 rfl rfl
theorem dksX1_plate_6 : cX1_plate.data.toList.drop 139 = dktX1_plate_6 := dk_seg dksX1_plate_5 24 rfl rfl
theorem dksX1_plate_7 : cX1_plate.data.toList.drop 159 = dktX1_plate_7 := dk_seg dksX1_plate_6 20 rfl rfl
theorem dksX1_plate_8 : cX1_plate.data.toList.drop 183 = dktX1_plate_8 := dk_seg dksX1_plate_7 24 rfl rfl
theorem dX1_plate_0 : decode cX1_plate 0 = .ok (.aload_n 0, 1) := dk_42 (dk_at dksX1_plate_0 0 rfl rfl)
theorem dX1_plate_1 : decode cX1_plate 1 = .ok (.iload_n 1, 1) := dk_27 (dk_at dksX1_plate_0 1 rfl rfl)
theorem dX1_plate_2 : decode cX1_plate 2 = .ok (.invokevirtual 99, 3) := dk_182 0 99 (dk_at dksX1_plate_0 2 rfl rfl)
theorem dX1_plate_5 : decode cX1_plate 5 = .ok (.astore 5, 2) := dk_58 5 (dk_at dksX1_plate_0 5 rfl rfl)
theorem dX1_plate_7 : decode cX1_plate 7 = .ok (.iload_n 2, 1) := dk_28 (dk_at dksX1_plate_0 7 rfl rfl)
theorem dX1_plate_8 : decode cX1_plate 8 = .ok (.sipush 250, 3) := dk_17 0 250 (dk_at dksX1_plate_0 8 rfl rfl)
theorem dX1_plate_11 : decode cX1_plate 11 = .ok (.ldc 254, 2) := dk_18 254 (dk_at dksX1_plate_0 11 rfl rfl)
theorem dX1_plate_13 : decode cX1_plate 13 = .ok (.invokestatic 92, 3) := dk_184 0 92 (dk_at dksX1_plate_0 13 rfl rfl)
theorem dX1_plate_16 : decode cX1_plate 16 = .ok (.pop, 1) := dk_87 (dk_at dksX1_plate_0 16 rfl rfl)
theorem dX1_plate_17 : decode cX1_plate 17 = .ok (.iload_n 3, 1) := dk_29 (dk_at dksX1_plate_0 17 rfl rfl)
theorem dX1_plate_18 : decode cX1_plate 18 = .ok (.iconst 2, 1) := dk_5 (dk_at dksX1_plate_0 18 rfl rfl)
theorem dX1_plate_19 : decode cX1_plate 19 = .ok (.ldc_w 256, 3) := dk_19 1 0 (dk_at dksX1_plate_0 19 rfl rfl)
theorem dX1_plate_22 : decode cX1_plate 22 = .ok (.invokestatic 92, 3) := dk_184 0 92 (dk_at dksX1_plate_1 0 rfl rfl)
theorem dX1_plate_25 : decode cX1_plate 25 = .ok (.pop, 1) := dk_87 (dk_at dksX1_plate_1 3 rfl rfl)
theorem dX1_plate_26 : decode cX1_plate 26 = .ok (.iload 4, 2) := dk_21 4 (dk_at dksX1_plate_1 4 rfl rfl)
theorem dX1_plate_28 : decode cX1_plate 28 = .ok (.iconst 4, 1) := dk_7 (dk_at dksX1_plate_1 6 rfl rfl)
theorem dX1_plate_29 : decode cX1_plate 29 = .ok (.ldc_w 258, 3) := dk_19 1 2 (dk_at dksX1_plate_1 7 rfl rfl)
theorem dX1_plate_32 : decode cX1_plate 32 = .ok (.invokestatic 92, 3) := dk_184 0 92 (dk_at dksX1_plate_1 10 rfl rfl)
theorem dX1_plate_35 : decode cX1_plate 35 = .ok (.pop, 1) := dk_87 (dk_at dksX1_plate_1 13 rfl rfl)
theorem dX1_plate_36 : decode cX1_plate 36 = .ok (.iconst 0, 1) := dk_3 (dk_at dksX1_plate_1 14 rfl rfl)
theorem dX1_plate_37 : decode cX1_plate 37 = .ok (.istore 6, 2) := dk_54 6 (dk_at dksX1_plate_1 15 rfl rfl)
theorem dX1_plate_39 : decode cX1_plate 39 = .ok (.iconst 0, 1) := dk_3 (dk_at dksX1_plate_1 17 rfl rfl)
theorem dX1_plate_40 : decode cX1_plate 40 = .ok (.istore 7, 2) := dk_54 7 (dk_at dksX1_plate_1 18 rfl rfl)
theorem dX1_plate_42 : decode cX1_plate 42 = .ok (.iload 7, 2) := dk_21 7 (dk_at dksX1_plate_1 20 rfl rfl)
theorem dX1_plate_44 : decode cX1_plate 44 = .ok (.aload 5, 2) := dk_25 5 (dk_at dksX1_plate_1 22 rfl rfl)
theorem dX1_plate_46 : decode cX1_plate 46 = .ok (.getfield 103, 3) := dk_180 0 103 (dk_at dksX1_plate_2 0 rfl rfl)
theorem dX1_plate_49 : decode cX1_plate 49 = .ok (.invokeinterface 106 1, 5) := by decide +kernel
theorem dX1_plate_54 : decode cX1_plate 54 = .ok (.if_icmp .ge 142, 3) := dk_162 0 142 (dk_at dksX1_plate_2 8 rfl rfl)
theorem dX1_plate_57 : decode cX1_plate 57 = .ok (.aload 5, 2) := dk_25 5 (dk_at dksX1_plate_2 11 rfl rfl)
theorem dX1_plate_59 : decode cX1_plate 59 = .ok (.getfield 205, 3) := dk_180 0 205 (dk_at dksX1_plate_2 13 rfl rfl)
theorem dX1_plate_62 : decode cX1_plate 62 = .ok (.iconst (-1), 1) := dk_2 (dk_at dksX1_plate_2 16 rfl rfl)
theorem dX1_plate_63 : decode cX1_plate 63 = .ok (.if_icmp .eq 133, 3) := dk_159 0 133 (dk_at dksX1_plate_2 17 rfl rfl)
theorem dX1_plate_66 : decode cX1_plate 66 = .ok (.aload 5, 2) := dk_25 5 (dk_at dksX1_plate_2 20 rfl rfl)
theorem dX1_plate_68 : decode cX1_plate 68 = .ok (.iload 7, 2) := dk_21 7 (dk_at dksX1_plate_2 22 rfl rfl)
theorem dX1_plate_70 : decode cX1_plate 70 = .ok (.invokevirtual 201, 3) := dk_182 0 201 (dk_at dksX1_plate_3 0 rfl rfl)
theorem dX1_plate_73 : decode cX1_plate 73 = .ok (.istore 8, 2) := dk_54 8 (dk_at dksX1_plate_3 3 rfl rfl)
theorem dX1_plate_75 : decode cX1_plate 75 = .ok (.aload_n 0, 1) := dk_42 (dk_at dksX1_plate_3 5 rfl rfl)
theorem dX1_plate_76 : decode cX1_plate 76 = .ok (.iload 8, 2) := dk_21 8 (dk_at dksX1_plate_3 6 rfl rfl)
theorem dX1_plate_78 : decode cX1_plate 78 = .ok (.iconst 0, 1) := dk_3 (dk_at dksX1_plate_3 8 rfl rfl)
theorem dX1_plate_79 : decode cX1_plate 79 = .ok (.invokevirtual 251, 3) := dk_182 0 251 (dk_at dksX1_plate_3 9 rfl rfl)
theorem dX1_plate_82 : decode cX1_plate 82 = .ok (.iload_n 2, 1) := dk_28 (dk_at dksX1_plate_3 12 rfl rfl)
theorem dX1_plate_83 : decode cX1_plate 83 = .ok (.if_icmp .ne 107, 3) := dk_160 0 107 (dk_at dksX1_plate_3 13 rfl rfl)
theorem dX1_plate_86 : decode cX1_plate 86 = .ok (.aload_n 0, 1) := dk_42 (dk_at dksX1_plate_3 16 rfl rfl)
theorem dX1_plate_87 : decode cX1_plate 87 = .ok (.iload 8, 2) := dk_21 8 (dk_at dksX1_plate_3 17 rfl rfl)
theorem dX1_plate_89 : decode cX1_plate 89 = .ok (.iconst 1, 1) := dk_4 (dk_at dksX1_plate_3 19 rfl rfl)
theorem dX1_plate_90 : decode cX1_plate 90 = .ok (.invokevirtual 251, 3) := dk_182 0 251 (dk_at dksX1_plate_3 20 rfl rfl)
theorem dX1_plate_93 : decode cX1_plate 93 = .ok (.iload_n 3, 1) := dk_29 (dk_at dksX1_plate_3 23 rfl rfl)
theorem dX1_plate_94 : decode cX1_plate 94 = .ok (.if_icmp .ne 96, 3) := dk_160 0 96 (dk_at dksX1_plate_4 0 rfl rfl)
theorem dX1_plate_97 : decode cX1_plate 97 = .ok (.aload 5, 2) := dk_25 5 (dk_at dksX1_plate_4 3 rfl rfl)
theorem dX1_plate_99 : decode cX1_plate 99 = .ok (.getfield 103, 3) := dk_180 0 103 (dk_at dksX1_plate_4 5 rfl rfl)
theorem dX1_plate_102 : decode cX1_plate 102 = .ok (.iload 7, 2) := dk_21 7 (dk_at dksX1_plate_4 8 rfl rfl)
theorem dX1_plate_104 : decode cX1_plate 104 = .ok (.invokeinterface 182 2, 5) := by decide +kernel
theorem dX1_plate_109 : decode cX1_plate 109 = .ok (.checkcast 185, 3) := dk_192 0 185 (dk_at dksX1_plate_4 15 rfl rfl)
theorem dX1_plate_112 : decode cX1_plate 112 = .ok (.getfield 259, 3) := dk_180 1 3 (dk_at dksX1_plate_4 18 rfl rfl)
theorem dX1_plate_115 : decode cX1_plate 115 = .ok (.invokeinterface 262 1, 5) := by decide +kernel
theorem dX1_plate_120 : decode cX1_plate 120 = .ok (.astore 9, 2) := dk_58 9 (dk_at dksX1_plate_5 5 rfl rfl)
theorem dX1_plate_122 : decode cX1_plate 122 = .ok (.aload 9, 2) := dk_25 9 (dk_at dksX1_plate_5 7 rfl rfl)
theorem dX1_plate_124 : decode cX1_plate 124 = .ok (.invokeinterface 266 1, 5) := by decide +kernel
theorem dX1_plate_129 : decode cX1_plate 129 = .ok (.ifCond .eq 61, 3) := dk_153 0 61 (dk_at dksX1_plate_5 14 rfl rfl)
theorem dX1_plate_132 : decode cX1_plate 132 = .ok (.aload 9, 2) := dk_25 9 (dk_at dksX1_plate_5 17 rfl rfl)
theorem dX1_plate_134 : decode cX1_plate 134 = .ok (.invokeinterface 271 1, 5) := by decide +kernel
theorem dX1_plate_139 : decode cX1_plate 139 = .ok (.checkcast 227, 3) := dk_192 0 227 (dk_at dksX1_plate_6 0 rfl rfl)
theorem dX1_plate_142 : decode cX1_plate 142 = .ok (.invokevirtual 229, 3) := dk_182 0 229 (dk_at dksX1_plate_6 3 rfl rfl)
theorem dX1_plate_145 : decode cX1_plate 145 = .ok (.istore 10, 2) := dk_54 10 (dk_at dksX1_plate_6 6 rfl rfl)
theorem dX1_plate_147 : decode cX1_plate 147 = .ok (.iload 6, 2) := dk_21 6 (dk_at dksX1_plate_6 8 rfl rfl)
theorem dX1_plate_149 : decode cX1_plate 149 = .ok (.aload_n 0, 1) := dk_42 (dk_at dksX1_plate_6 10 rfl rfl)
theorem dX1_plate_150 : decode cX1_plate 150 = .ok (.getfield 18, 3) := dk_180 0 18 (dk_at dksX1_plate_6 11 rfl rfl)
theorem dX1_plate_153 : decode cX1_plate 153 = .ok (.aload_n 0, 1) := dk_42 (dk_at dksX1_plate_6 14 rfl rfl)
theorem dX1_plate_154 : decode cX1_plate 154 = .ok (.getfield 10, 3) := dk_180 0 10 (dk_at dksX1_plate_6 15 rfl rfl)
theorem dX1_plate_157 : decode cX1_plate 157 = .ok (.iload 10, 2) := dk_21 10 (dk_at dksX1_plate_6 18 rfl rfl)
theorem dX1_plate_159 : decode cX1_plate 159 = .ok (.invokeinterface 182 2, 5) := by decide +kernel
theorem dX1_plate_164 : decode cX1_plate 164 = .ok (.checkcast 128, 3) := dk_192 0 128 (dk_at dksX1_plate_7 5 rfl rfl)
theorem dX1_plate_167 : decode cX1_plate 167 = .ok (.getfield 275, 3) := dk_180 1 19 (dk_at dksX1_plate_7 8 rfl rfl)
theorem dX1_plate_170 : decode cX1_plate 170 = .ok (.aaload, 1) := dk_50 (dk_at dksX1_plate_7 11 rfl rfl)
theorem dX1_plate_171 : decode cX1_plate 171 = .ok (.invokevirtual 277, 3) := dk_182 1 21 (dk_at dksX1_plate_7 12 rfl rfl)
theorem dX1_plate_174 : decode cX1_plate 174 = .ok (.iload 4, 2) := dk_21 4 (dk_at dksX1_plate_7 15 rfl rfl)
theorem dX1_plate_176 : decode cX1_plate 176 = .ok (.if_icmp .ne 7, 3) := dk_160 0 7 (dk_at dksX1_plate_7 17 rfl rfl)
theorem dX1_plate_179 : decode cX1_plate 179 = .ok (.iconst 1, 1) := dk_4 (dk_at dksX1_plate_7 20 rfl rfl)
theorem dX1_plate_180 : decode cX1_plate 180 = .ok (.goto 4, 3) := dk_167 0 4 (dk_at dksX1_plate_7 21 rfl rfl)
theorem dX1_plate_183 : decode cX1_plate 183 = .ok (.iconst 0, 1) := dk_3 (dk_at dksX1_plate_8 0 rfl rfl)
theorem dX1_plate_184 : decode cX1_plate 184 = .ok (.iadd, 1) := dk_96 (dk_at dksX1_plate_8 1 rfl rfl)
theorem dX1_plate_185 : decode cX1_plate 185 = .ok (.istore 6, 2) := dk_54 6 (dk_at dksX1_plate_8 2 rfl rfl)
theorem dX1_plate_187 : decode cX1_plate 187 = .ok (.goto (-65), 3) := dk_167 255 191 (dk_at dksX1_plate_8 4 rfl rfl)
theorem dX1_plate_190 : decode cX1_plate 190 = .ok (.iinc 7 1, 3) := dk_132 7 1 (dk_at dksX1_plate_8 7 rfl rfl)
theorem dX1_plate_193 : decode cX1_plate 193 = .ok (.goto (-151), 3) := dk_167 255 105 (dk_at dksX1_plate_8 10 rfl rfl)
theorem dX1_plate_196 : decode cX1_plate 196 = .ok (.iload 6, 2) := dk_21 6 (dk_at dksX1_plate_8 13 rfl rfl)
theorem dX1_plate_198 : decode cX1_plate 198 = .ok (.ireturn, 1) := dk_172 (dk_at dksX1_plate_8 15 rfl rfl)
abbrev cX1_faults : ByteArray := prog_1_method_32_code
def yX1_faults : MethodName := ⟨RX1, "faults", "(II)I"⟩
def dkwX1_faults_11 : List UInt8 := [167, 255, 162, 21, 4, 172]
abbrev dktX1_faults_11 : List UInt8 := dkwX1_faults_11 ++ []
def dkwX1_faults_10 : List UInt8 := [160, 0, 19, 25, 6, 180, 0, 217, 42, 180, 0, 31, 164, 0, 7, 4, 167, 0, 4, 3, 96, 54, 4]
abbrev dktX1_faults_10 : List UInt8 := dkwX1_faults_10 ++ dktX1_faults_11
def dkwX1_faults_9 : List UInt8 := [164, 0, 7, 4, 167, 0, 4, 3, 96, 54, 4, 21, 4, 28, 5, 160, 0, 28, 25, 6, 180, 0, 190, 7]
abbrev dktX1_faults_9 : List UInt8 := dkwX1_faults_9 ++ dktX1_faults_10
def dkwX1_faults_8 : List UInt8 := [154, 0, 29, 45, 25, 6, 182, 1, 32, 153, 0, 20, 45, 25, 6, 182, 1, 36, 42, 180, 0, 27]
abbrev dktX1_faults_8 : List UInt8 := dkwX1_faults_8 ++ dktX1_faults_9
def dkwX1_faults_7 : List UInt8 := [185, 1, 10, 1, 0, 153, 0, 90, 25, 5, 185, 1, 15, 1, 0, 192, 0, 128, 58, 6, 21, 4, 28]
abbrev dktX1_faults_7 : List UInt8 := dkwX1_faults_7 ++ dktX1_faults_8
def dkwX1_faults_6 : List UInt8 := [54, 4, 132, 5, 1, 167, 255, 211, 21, 4, 172, 42, 180, 0, 10, 185, 1, 6, 1, 0, 58, 5, 25, 5]
abbrev dktX1_faults_6 : List UInt8 := dkwX1_faults_6 ++ dktX1_faults_7
def dkwX1_faults_5 : List UInt8 := [159, 0, 21, 42, 45, 42, 21, 5, 182, 0, 220, 182, 1, 28, 154, 0, 7, 4, 167, 0, 4, 3, 96]
abbrev dktX1_faults_5 : List UInt8 := dkwX1_faults_5 ++ dktX1_faults_6
def dkwX1_faults_4 : List UInt8 := [160, 0, 57, 3, 54, 5, 21, 5, 16, 10, 162, 0, 44, 21, 4, 42, 180, 0, 37, 21, 5, 46, 2]
abbrev dktX1_faults_4 : List UInt8 := dkwX1_faults_4 ++ dktX1_faults_5
def dkwX1_faults_3 : List UInt8 := [21, 4, 172, 28, 6, 160, 0, 17, 45, 180, 0, 205, 2, 160, 0, 7, 4, 167, 0, 4, 3, 172, 28, 7]
abbrev dktX1_faults_3 : List UInt8 := dkwX1_faults_3 ++ dktX1_faults_4
def dkwX1_faults_2 : List UInt8 := [182, 1, 24, 42, 180, 0, 31, 164, 0, 7, 4, 167, 0, 4, 3, 96, 54, 4, 132, 5, 1, 167, 255, 215]
abbrev dktX1_faults_2 : List UInt8 := dkwX1_faults_2 ++ dktX1_faults_3
def dkwX1_faults_1 : List UInt8 := [54, 5, 21, 5, 45, 180, 0, 103, 185, 0, 106, 1, 0, 162, 0, 33, 21, 4, 45, 21, 5, 3]
abbrev dktX1_faults_1 : List UInt8 := dkwX1_faults_1 ++ dktX1_faults_2
def dkwX1_faults_0 : List UInt8 := [42, 27, 182, 0, 99, 78, 28, 8, 19, 1, 23, 184, 0, 92, 87, 3, 54, 4, 28, 4, 160, 0, 53, 3]
abbrev dktX1_faults_0 : List UInt8 := dkwX1_faults_0 ++ dktX1_faults_1
theorem dksX1_faults_0 : cX1_faults.data.toList.drop 0 = dktX1_faults_0 := by decide +kernel
theorem dksX1_faults_1 : cX1_faults.data.toList.drop 24 = dktX1_faults_1 := dk_seg dksX1_faults_0 24 rfl rfl
theorem dksX1_faults_2 : cX1_faults.data.toList.drop 46 = dktX1_faults_2 := dk_seg dksX1_faults_1 22 rfl rfl
theorem dksX1_faults_3 : cX1_faults.data.toList.drop 70 = dktX1_faults_3 := dk_seg dksX1_faults_2 24 rfl rfl
theorem dksX1_faults_4 : cX1_faults.data.toList.drop 94 = dktX1_faults_4 := dk_seg dksX1_faults_3 24 rfl rfl
theorem dksX1_faults_5 : cX1_faults.data.toList.drop 117 = dktX1_faults_5 := dk_seg dksX1_faults_4 23 rfl rfl
theorem dksX1_faults_6 : cX1_faults.data.toList.drop 140 = dktX1_faults_6 := dk_seg dksX1_faults_5 23 rfl rfl
theorem dksX1_faults_7 : cX1_faults.data.toList.drop 164 = dktX1_faults_7 := dk_seg dksX1_faults_6 24 rfl rfl
theorem dksX1_faults_8 : cX1_faults.data.toList.drop 187 = dktX1_faults_8 := dk_seg dksX1_faults_7 23 rfl rfl
theorem dksX1_faults_9 : cX1_faults.data.toList.drop 209 = dktX1_faults_9 := dk_seg dksX1_faults_8 22 rfl rfl
theorem dksX1_faults_10 : cX1_faults.data.toList.drop 233 = dktX1_faults_10 := dk_seg dksX1_faults_9 24 rfl rfl
theorem dksX1_faults_11 : cX1_faults.data.toList.drop 256 = dktX1_faults_11 := dk_seg dksX1_faults_10 23 rfl rfl
theorem dX1_faults_0 : decode cX1_faults 0 = .ok (.aload_n 0, 1) := dk_42 (dk_at dksX1_faults_0 0 rfl rfl)
theorem dX1_faults_1 : decode cX1_faults 1 = .ok (.iload_n 1, 1) := dk_27 (dk_at dksX1_faults_0 1 rfl rfl)
theorem dX1_faults_2 : decode cX1_faults 2 = .ok (.invokevirtual 99, 3) := dk_182 0 99 (dk_at dksX1_faults_0 2 rfl rfl)
theorem dX1_faults_5 : decode cX1_faults 5 = .ok (.astore_n 3, 1) := dk_78 (dk_at dksX1_faults_0 5 rfl rfl)
theorem dX1_faults_6 : decode cX1_faults 6 = .ok (.iload_n 2, 1) := dk_28 (dk_at dksX1_faults_0 6 rfl rfl)
theorem dX1_faults_7 : decode cX1_faults 7 = .ok (.iconst 5, 1) := dk_8 (dk_at dksX1_faults_0 7 rfl rfl)
theorem dX1_faults_8 : decode cX1_faults 8 = .ok (.ldc_w 279, 3) := dk_19 1 23 (dk_at dksX1_faults_0 8 rfl rfl)
theorem dX1_faults_11 : decode cX1_faults 11 = .ok (.invokestatic 92, 3) := dk_184 0 92 (dk_at dksX1_faults_0 11 rfl rfl)
theorem dX1_faults_14 : decode cX1_faults 14 = .ok (.pop, 1) := dk_87 (dk_at dksX1_faults_0 14 rfl rfl)
theorem dX1_faults_15 : decode cX1_faults 15 = .ok (.iconst 0, 1) := dk_3 (dk_at dksX1_faults_0 15 rfl rfl)
theorem dX1_faults_16 : decode cX1_faults 16 = .ok (.istore 4, 2) := dk_54 4 (dk_at dksX1_faults_0 16 rfl rfl)
theorem dX1_faults_18 : decode cX1_faults 18 = .ok (.iload_n 2, 1) := dk_28 (dk_at dksX1_faults_0 18 rfl rfl)
theorem dX1_faults_19 : decode cX1_faults 19 = .ok (.iconst 1, 1) := dk_4 (dk_at dksX1_faults_0 19 rfl rfl)
theorem dX1_faults_20 : decode cX1_faults 20 = .ok (.if_icmp .ne 53, 3) := dk_160 0 53 (dk_at dksX1_faults_0 20 rfl rfl)
theorem dX1_faults_23 : decode cX1_faults 23 = .ok (.iconst 0, 1) := dk_3 (dk_at dksX1_faults_0 23 rfl rfl)
theorem dX1_faults_24 : decode cX1_faults 24 = .ok (.istore 5, 2) := dk_54 5 (dk_at dksX1_faults_1 0 rfl rfl)
theorem dX1_faults_26 : decode cX1_faults 26 = .ok (.iload 5, 2) := dk_21 5 (dk_at dksX1_faults_1 2 rfl rfl)
theorem dX1_faults_28 : decode cX1_faults 28 = .ok (.aload_n 3, 1) := dk_45 (dk_at dksX1_faults_1 4 rfl rfl)
theorem dX1_faults_29 : decode cX1_faults 29 = .ok (.getfield 103, 3) := dk_180 0 103 (dk_at dksX1_faults_1 5 rfl rfl)
theorem dX1_faults_32 : decode cX1_faults 32 = .ok (.invokeinterface 106 1, 5) := by decide +kernel
theorem dX1_faults_37 : decode cX1_faults 37 = .ok (.if_icmp .ge 33, 3) := dk_162 0 33 (dk_at dksX1_faults_1 13 rfl rfl)
theorem dX1_faults_40 : decode cX1_faults 40 = .ok (.iload 4, 2) := dk_21 4 (dk_at dksX1_faults_1 16 rfl rfl)
theorem dX1_faults_42 : decode cX1_faults 42 = .ok (.aload_n 3, 1) := dk_45 (dk_at dksX1_faults_1 18 rfl rfl)
theorem dX1_faults_43 : decode cX1_faults 43 = .ok (.iload 5, 2) := dk_21 5 (dk_at dksX1_faults_1 19 rfl rfl)
theorem dX1_faults_45 : decode cX1_faults 45 = .ok (.iconst 0, 1) := dk_3 (dk_at dksX1_faults_1 21 rfl rfl)
theorem dX1_faults_46 : decode cX1_faults 46 = .ok (.invokevirtual 280, 3) := dk_182 1 24 (dk_at dksX1_faults_2 0 rfl rfl)
theorem dX1_faults_49 : decode cX1_faults 49 = .ok (.aload_n 0, 1) := dk_42 (dk_at dksX1_faults_2 3 rfl rfl)
theorem dX1_faults_50 : decode cX1_faults 50 = .ok (.getfield 31, 3) := dk_180 0 31 (dk_at dksX1_faults_2 4 rfl rfl)
theorem dX1_faults_53 : decode cX1_faults 53 = .ok (.if_icmp .le 7, 3) := dk_164 0 7 (dk_at dksX1_faults_2 7 rfl rfl)
theorem dX1_faults_56 : decode cX1_faults 56 = .ok (.iconst 1, 1) := dk_4 (dk_at dksX1_faults_2 10 rfl rfl)
theorem dX1_faults_57 : decode cX1_faults 57 = .ok (.goto 4, 3) := dk_167 0 4 (dk_at dksX1_faults_2 11 rfl rfl)
theorem dX1_faults_60 : decode cX1_faults 60 = .ok (.iconst 0, 1) := dk_3 (dk_at dksX1_faults_2 14 rfl rfl)
theorem dX1_faults_61 : decode cX1_faults 61 = .ok (.iadd, 1) := dk_96 (dk_at dksX1_faults_2 15 rfl rfl)
theorem dX1_faults_62 : decode cX1_faults 62 = .ok (.istore 4, 2) := dk_54 4 (dk_at dksX1_faults_2 16 rfl rfl)
theorem dX1_faults_64 : decode cX1_faults 64 = .ok (.iinc 5 1, 3) := dk_132 5 1 (dk_at dksX1_faults_2 18 rfl rfl)
theorem dX1_faults_67 : decode cX1_faults 67 = .ok (.goto (-41), 3) := dk_167 255 215 (dk_at dksX1_faults_2 21 rfl rfl)
theorem dX1_faults_70 : decode cX1_faults 70 = .ok (.iload 4, 2) := dk_21 4 (dk_at dksX1_faults_3 0 rfl rfl)
theorem dX1_faults_72 : decode cX1_faults 72 = .ok (.ireturn, 1) := dk_172 (dk_at dksX1_faults_3 2 rfl rfl)
theorem dX1_faults_73 : decode cX1_faults 73 = .ok (.iload_n 2, 1) := dk_28 (dk_at dksX1_faults_3 3 rfl rfl)
theorem dX1_faults_74 : decode cX1_faults 74 = .ok (.iconst 3, 1) := dk_6 (dk_at dksX1_faults_3 4 rfl rfl)
theorem dX1_faults_75 : decode cX1_faults 75 = .ok (.if_icmp .ne 17, 3) := dk_160 0 17 (dk_at dksX1_faults_3 5 rfl rfl)
theorem dX1_faults_78 : decode cX1_faults 78 = .ok (.aload_n 3, 1) := dk_45 (dk_at dksX1_faults_3 8 rfl rfl)
theorem dX1_faults_79 : decode cX1_faults 79 = .ok (.getfield 205, 3) := dk_180 0 205 (dk_at dksX1_faults_3 9 rfl rfl)
theorem dX1_faults_82 : decode cX1_faults 82 = .ok (.iconst (-1), 1) := dk_2 (dk_at dksX1_faults_3 12 rfl rfl)
theorem dX1_faults_83 : decode cX1_faults 83 = .ok (.if_icmp .ne 7, 3) := dk_160 0 7 (dk_at dksX1_faults_3 13 rfl rfl)
theorem dX1_faults_86 : decode cX1_faults 86 = .ok (.iconst 1, 1) := dk_4 (dk_at dksX1_faults_3 16 rfl rfl)
theorem dX1_faults_87 : decode cX1_faults 87 = .ok (.goto 4, 3) := dk_167 0 4 (dk_at dksX1_faults_3 17 rfl rfl)
theorem dX1_faults_90 : decode cX1_faults 90 = .ok (.iconst 0, 1) := dk_3 (dk_at dksX1_faults_3 20 rfl rfl)
theorem dX1_faults_91 : decode cX1_faults 91 = .ok (.ireturn, 1) := dk_172 (dk_at dksX1_faults_3 21 rfl rfl)
theorem dX1_faults_92 : decode cX1_faults 92 = .ok (.iload_n 2, 1) := dk_28 (dk_at dksX1_faults_3 22 rfl rfl)
theorem dX1_faults_93 : decode cX1_faults 93 = .ok (.iconst 4, 1) := dk_7 (dk_at dksX1_faults_3 23 rfl rfl)
theorem dX1_faults_94 : decode cX1_faults 94 = .ok (.if_icmp .ne 57, 3) := dk_160 0 57 (dk_at dksX1_faults_4 0 rfl rfl)
theorem dX1_faults_97 : decode cX1_faults 97 = .ok (.iconst 0, 1) := dk_3 (dk_at dksX1_faults_4 3 rfl rfl)
theorem dX1_faults_98 : decode cX1_faults 98 = .ok (.istore 5, 2) := dk_54 5 (dk_at dksX1_faults_4 4 rfl rfl)
theorem dX1_faults_100 : decode cX1_faults 100 = .ok (.iload 5, 2) := dk_21 5 (dk_at dksX1_faults_4 6 rfl rfl)
theorem dX1_faults_102 : decode cX1_faults 102 = .ok (.bipush 10, 2) := dk_16 10 (dk_at dksX1_faults_4 8 rfl rfl)
theorem dX1_faults_104 : decode cX1_faults 104 = .ok (.if_icmp .ge 44, 3) := dk_162 0 44 (dk_at dksX1_faults_4 10 rfl rfl)
theorem dX1_faults_107 : decode cX1_faults 107 = .ok (.iload 4, 2) := dk_21 4 (dk_at dksX1_faults_4 13 rfl rfl)
theorem dX1_faults_109 : decode cX1_faults 109 = .ok (.aload_n 0, 1) := dk_42 (dk_at dksX1_faults_4 15 rfl rfl)
theorem dX1_faults_110 : decode cX1_faults 110 = .ok (.getfield 37, 3) := dk_180 0 37 (dk_at dksX1_faults_4 16 rfl rfl)
theorem dX1_faults_113 : decode cX1_faults 113 = .ok (.iload 5, 2) := dk_21 5 (dk_at dksX1_faults_4 19 rfl rfl)
theorem dX1_faults_115 : decode cX1_faults 115 = .ok (.iaload, 1) := dk_46 (dk_at dksX1_faults_4 21 rfl rfl)
theorem dX1_faults_116 : decode cX1_faults 116 = .ok (.iconst (-1), 1) := dk_2 (dk_at dksX1_faults_4 22 rfl rfl)
theorem dX1_faults_117 : decode cX1_faults 117 = .ok (.if_icmp .eq 21, 3) := dk_159 0 21 (dk_at dksX1_faults_5 0 rfl rfl)
theorem dX1_faults_120 : decode cX1_faults 120 = .ok (.aload_n 0, 1) := dk_42 (dk_at dksX1_faults_5 3 rfl rfl)
theorem dX1_faults_121 : decode cX1_faults 121 = .ok (.aload_n 3, 1) := dk_45 (dk_at dksX1_faults_5 4 rfl rfl)
theorem dX1_faults_122 : decode cX1_faults 122 = .ok (.aload_n 0, 1) := dk_42 (dk_at dksX1_faults_5 5 rfl rfl)
theorem dX1_faults_123 : decode cX1_faults 123 = .ok (.iload 5, 2) := dk_21 5 (dk_at dksX1_faults_5 6 rfl rfl)
theorem dX1_faults_125 : decode cX1_faults 125 = .ok (.invokevirtual 220, 3) := dk_182 0 220 (dk_at dksX1_faults_5 8 rfl rfl)
theorem dX1_faults_128 : decode cX1_faults 128 = .ok (.invokevirtual 284, 3) := dk_182 1 28 (dk_at dksX1_faults_5 11 rfl rfl)
theorem dX1_faults_131 : decode cX1_faults 131 = .ok (.ifCond .ne 7, 3) := dk_154 0 7 (dk_at dksX1_faults_5 14 rfl rfl)
theorem dX1_faults_134 : decode cX1_faults 134 = .ok (.iconst 1, 1) := dk_4 (dk_at dksX1_faults_5 17 rfl rfl)
theorem dX1_faults_135 : decode cX1_faults 135 = .ok (.goto 4, 3) := dk_167 0 4 (dk_at dksX1_faults_5 18 rfl rfl)
theorem dX1_faults_138 : decode cX1_faults 138 = .ok (.iconst 0, 1) := dk_3 (dk_at dksX1_faults_5 21 rfl rfl)
theorem dX1_faults_139 : decode cX1_faults 139 = .ok (.iadd, 1) := dk_96 (dk_at dksX1_faults_5 22 rfl rfl)
theorem dX1_faults_140 : decode cX1_faults 140 = .ok (.istore 4, 2) := dk_54 4 (dk_at dksX1_faults_6 0 rfl rfl)
theorem dX1_faults_142 : decode cX1_faults 142 = .ok (.iinc 5 1, 3) := dk_132 5 1 (dk_at dksX1_faults_6 2 rfl rfl)
theorem dX1_faults_145 : decode cX1_faults 145 = .ok (.goto (-45), 3) := dk_167 255 211 (dk_at dksX1_faults_6 5 rfl rfl)
theorem dX1_faults_148 : decode cX1_faults 148 = .ok (.iload 4, 2) := dk_21 4 (dk_at dksX1_faults_6 8 rfl rfl)
theorem dX1_faults_150 : decode cX1_faults 150 = .ok (.ireturn, 1) := dk_172 (dk_at dksX1_faults_6 10 rfl rfl)
theorem dX1_faults_151 : decode cX1_faults 151 = .ok (.aload_n 0, 1) := dk_42 (dk_at dksX1_faults_6 11 rfl rfl)
theorem dX1_faults_152 : decode cX1_faults 152 = .ok (.getfield 10, 3) := dk_180 0 10 (dk_at dksX1_faults_6 12 rfl rfl)
theorem dX1_faults_155 : decode cX1_faults 155 = .ok (.invokeinterface 262 1, 5) := by decide +kernel
theorem dX1_faults_160 : decode cX1_faults 160 = .ok (.astore 5, 2) := dk_58 5 (dk_at dksX1_faults_6 20 rfl rfl)
theorem dX1_faults_162 : decode cX1_faults 162 = .ok (.aload 5, 2) := dk_25 5 (dk_at dksX1_faults_6 22 rfl rfl)
theorem dX1_faults_164 : decode cX1_faults 164 = .ok (.invokeinterface 266 1, 5) := by decide +kernel
theorem dX1_faults_169 : decode cX1_faults 169 = .ok (.ifCond .eq 90, 3) := dk_153 0 90 (dk_at dksX1_faults_7 5 rfl rfl)
theorem dX1_faults_172 : decode cX1_faults 172 = .ok (.aload 5, 2) := dk_25 5 (dk_at dksX1_faults_7 8 rfl rfl)
theorem dX1_faults_174 : decode cX1_faults 174 = .ok (.invokeinterface 271 1, 5) := by decide +kernel
theorem dX1_faults_179 : decode cX1_faults 179 = .ok (.checkcast 128, 3) := dk_192 0 128 (dk_at dksX1_faults_7 15 rfl rfl)
theorem dX1_faults_182 : decode cX1_faults 182 = .ok (.astore 6, 2) := dk_58 6 (dk_at dksX1_faults_7 18 rfl rfl)
theorem dX1_faults_184 : decode cX1_faults 184 = .ok (.iload 4, 2) := dk_21 4 (dk_at dksX1_faults_7 20 rfl rfl)
theorem dX1_faults_186 : decode cX1_faults 186 = .ok (.iload_n 2, 1) := dk_28 (dk_at dksX1_faults_7 22 rfl rfl)
theorem dX1_faults_187 : decode cX1_faults 187 = .ok (.ifCond .ne 29, 3) := dk_154 0 29 (dk_at dksX1_faults_8 0 rfl rfl)
theorem dX1_faults_190 : decode cX1_faults 190 = .ok (.aload_n 3, 1) := dk_45 (dk_at dksX1_faults_8 3 rfl rfl)
theorem dX1_faults_191 : decode cX1_faults 191 = .ok (.aload 6, 2) := dk_25 6 (dk_at dksX1_faults_8 4 rfl rfl)
theorem dX1_faults_193 : decode cX1_faults 193 = .ok (.invokevirtual 288, 3) := dk_182 1 32 (dk_at dksX1_faults_8 6 rfl rfl)
theorem dX1_faults_196 : decode cX1_faults 196 = .ok (.ifCond .eq 20, 3) := dk_153 0 20 (dk_at dksX1_faults_8 9 rfl rfl)
theorem dX1_faults_199 : decode cX1_faults 199 = .ok (.aload_n 3, 1) := dk_45 (dk_at dksX1_faults_8 12 rfl rfl)
theorem dX1_faults_200 : decode cX1_faults 200 = .ok (.aload 6, 2) := dk_25 6 (dk_at dksX1_faults_8 13 rfl rfl)
theorem dX1_faults_202 : decode cX1_faults 202 = .ok (.invokevirtual 292, 3) := dk_182 1 36 (dk_at dksX1_faults_8 15 rfl rfl)
theorem dX1_faults_205 : decode cX1_faults 205 = .ok (.aload_n 0, 1) := dk_42 (dk_at dksX1_faults_8 18 rfl rfl)
theorem dX1_faults_206 : decode cX1_faults 206 = .ok (.getfield 27, 3) := dk_180 0 27 (dk_at dksX1_faults_8 19 rfl rfl)
theorem dX1_faults_209 : decode cX1_faults 209 = .ok (.if_icmp .le 7, 3) := dk_164 0 7 (dk_at dksX1_faults_9 0 rfl rfl)
theorem dX1_faults_212 : decode cX1_faults 212 = .ok (.iconst 1, 1) := dk_4 (dk_at dksX1_faults_9 3 rfl rfl)
theorem dX1_faults_213 : decode cX1_faults 213 = .ok (.goto 4, 3) := dk_167 0 4 (dk_at dksX1_faults_9 4 rfl rfl)
theorem dX1_faults_216 : decode cX1_faults 216 = .ok (.iconst 0, 1) := dk_3 (dk_at dksX1_faults_9 7 rfl rfl)
theorem dX1_faults_217 : decode cX1_faults 217 = .ok (.iadd, 1) := dk_96 (dk_at dksX1_faults_9 8 rfl rfl)
theorem dX1_faults_218 : decode cX1_faults 218 = .ok (.istore 4, 2) := dk_54 4 (dk_at dksX1_faults_9 9 rfl rfl)
theorem dX1_faults_220 : decode cX1_faults 220 = .ok (.iload 4, 2) := dk_21 4 (dk_at dksX1_faults_9 11 rfl rfl)
theorem dX1_faults_222 : decode cX1_faults 222 = .ok (.iload_n 2, 1) := dk_28 (dk_at dksX1_faults_9 13 rfl rfl)
theorem dX1_faults_223 : decode cX1_faults 223 = .ok (.iconst 2, 1) := dk_5 (dk_at dksX1_faults_9 14 rfl rfl)
theorem dX1_faults_224 : decode cX1_faults 224 = .ok (.if_icmp .ne 28, 3) := dk_160 0 28 (dk_at dksX1_faults_9 15 rfl rfl)
theorem dX1_faults_227 : decode cX1_faults 227 = .ok (.aload 6, 2) := dk_25 6 (dk_at dksX1_faults_9 18 rfl rfl)
theorem dX1_faults_229 : decode cX1_faults 229 = .ok (.getfield 190, 3) := dk_180 0 190 (dk_at dksX1_faults_9 20 rfl rfl)
theorem dX1_faults_232 : decode cX1_faults 232 = .ok (.iconst 4, 1) := dk_7 (dk_at dksX1_faults_9 23 rfl rfl)
theorem dX1_faults_233 : decode cX1_faults 233 = .ok (.if_icmp .ne 19, 3) := dk_160 0 19 (dk_at dksX1_faults_10 0 rfl rfl)
theorem dX1_faults_236 : decode cX1_faults 236 = .ok (.aload 6, 2) := dk_25 6 (dk_at dksX1_faults_10 3 rfl rfl)
theorem dX1_faults_238 : decode cX1_faults 238 = .ok (.getfield 217, 3) := dk_180 0 217 (dk_at dksX1_faults_10 5 rfl rfl)
theorem dX1_faults_241 : decode cX1_faults 241 = .ok (.aload_n 0, 1) := dk_42 (dk_at dksX1_faults_10 8 rfl rfl)
theorem dX1_faults_242 : decode cX1_faults 242 = .ok (.getfield 31, 3) := dk_180 0 31 (dk_at dksX1_faults_10 9 rfl rfl)
theorem dX1_faults_245 : decode cX1_faults 245 = .ok (.if_icmp .le 7, 3) := dk_164 0 7 (dk_at dksX1_faults_10 12 rfl rfl)
theorem dX1_faults_248 : decode cX1_faults 248 = .ok (.iconst 1, 1) := dk_4 (dk_at dksX1_faults_10 15 rfl rfl)
theorem dX1_faults_249 : decode cX1_faults 249 = .ok (.goto 4, 3) := dk_167 0 4 (dk_at dksX1_faults_10 16 rfl rfl)
theorem dX1_faults_252 : decode cX1_faults 252 = .ok (.iconst 0, 1) := dk_3 (dk_at dksX1_faults_10 19 rfl rfl)
theorem dX1_faults_253 : decode cX1_faults 253 = .ok (.iadd, 1) := dk_96 (dk_at dksX1_faults_10 20 rfl rfl)
theorem dX1_faults_254 : decode cX1_faults 254 = .ok (.istore 4, 2) := dk_54 4 (dk_at dksX1_faults_10 21 rfl rfl)
theorem dX1_faults_256 : decode cX1_faults 256 = .ok (.goto (-94), 3) := dk_167 255 162 (dk_at dksX1_faults_11 0 rfl rfl)
theorem dX1_faults_259 : decode cX1_faults 259 = .ok (.iload 4, 2) := dk_21 4 (dk_at dksX1_faults_11 3 rfl rfl)
theorem dX1_faults_261 : decode cX1_faults 261 = .ok (.ireturn, 1) := dk_172 (dk_at dksX1_faults_11 5 rfl rfl)
abbrev cX1_marksOf : ByteArray := prog_1_method_31_code
def yX1_marksOf : MethodName := ⟨RX1, "marksOf", "(LQuirefold$Layout;I)I"⟩
def dkwX1_marksOf_3 : List UInt8 := [182, 0, 220, 28, 160, 0, 7, 4, 167, 0, 4, 3, 96, 62, 132, 4, 1, 167, 255, 173, 29, 172]
abbrev dktX1_marksOf_3 : List UInt8 := dkwX1_marksOf_3 ++ []
def dkwX1_marksOf_2 : List UInt8 := [46, 2, 159, 0, 32, 42, 42, 180, 0, 10, 21, 4, 185, 0, 182, 2, 0, 192, 0, 128, 180, 0, 217]
abbrev dktX1_marksOf_2 : List UInt8 := dkwX1_marksOf_2 ++ dktX1_marksOf_3
def dkwX1_marksOf_1 : List UInt8 := [21, 4, 185, 0, 182, 2, 0, 192, 0, 128, 180, 0, 190, 16, 6, 160, 0, 43, 43, 180, 0, 179, 21, 4]
abbrev dktX1_marksOf_1 : List UInt8 := dkwX1_marksOf_1 ++ dktX1_marksOf_2
def dkwX1_marksOf_0 : List UInt8 := [3, 62, 3, 54, 4, 21, 4, 42, 180, 0, 10, 185, 0, 106, 1, 0, 162, 0, 75, 29, 42, 180, 0, 10]
abbrev dktX1_marksOf_0 : List UInt8 := dkwX1_marksOf_0 ++ dktX1_marksOf_1
theorem dksX1_marksOf_0 : cX1_marksOf.data.toList.drop 0 = dktX1_marksOf_0 := by decide +kernel
theorem dksX1_marksOf_1 : cX1_marksOf.data.toList.drop 24 = dktX1_marksOf_1 := dk_seg dksX1_marksOf_0 24 rfl rfl
theorem dksX1_marksOf_2 : cX1_marksOf.data.toList.drop 48 = dktX1_marksOf_2 := dk_seg dksX1_marksOf_1 24 rfl rfl
theorem dksX1_marksOf_3 : cX1_marksOf.data.toList.drop 71 = dktX1_marksOf_3 := dk_seg dksX1_marksOf_2 23 rfl rfl
theorem dX1_marksOf_0 : decode cX1_marksOf 0 = .ok (.iconst 0, 1) := dk_3 (dk_at dksX1_marksOf_0 0 rfl rfl)
theorem dX1_marksOf_1 : decode cX1_marksOf 1 = .ok (.istore_n 3, 1) := dk_62 (dk_at dksX1_marksOf_0 1 rfl rfl)
theorem dX1_marksOf_2 : decode cX1_marksOf 2 = .ok (.iconst 0, 1) := dk_3 (dk_at dksX1_marksOf_0 2 rfl rfl)
theorem dX1_marksOf_3 : decode cX1_marksOf 3 = .ok (.istore 4, 2) := dk_54 4 (dk_at dksX1_marksOf_0 3 rfl rfl)
theorem dX1_marksOf_5 : decode cX1_marksOf 5 = .ok (.iload 4, 2) := dk_21 4 (dk_at dksX1_marksOf_0 5 rfl rfl)
theorem dX1_marksOf_7 : decode cX1_marksOf 7 = .ok (.aload_n 0, 1) := dk_42 (dk_at dksX1_marksOf_0 7 rfl rfl)
theorem dX1_marksOf_8 : decode cX1_marksOf 8 = .ok (.getfield 10, 3) := dk_180 0 10 (dk_at dksX1_marksOf_0 8 rfl rfl)
theorem dX1_marksOf_11 : decode cX1_marksOf 11 = .ok (.invokeinterface 106 1, 5) := by decide +kernel
theorem dX1_marksOf_16 : decode cX1_marksOf 16 = .ok (.if_icmp .ge 75, 3) := dk_162 0 75 (dk_at dksX1_marksOf_0 16 rfl rfl)
theorem dX1_marksOf_19 : decode cX1_marksOf 19 = .ok (.iload_n 3, 1) := dk_29 (dk_at dksX1_marksOf_0 19 rfl rfl)
theorem dX1_marksOf_20 : decode cX1_marksOf 20 = .ok (.aload_n 0, 1) := dk_42 (dk_at dksX1_marksOf_0 20 rfl rfl)
theorem dX1_marksOf_21 : decode cX1_marksOf 21 = .ok (.getfield 10, 3) := dk_180 0 10 (dk_at dksX1_marksOf_0 21 rfl rfl)
theorem dX1_marksOf_24 : decode cX1_marksOf 24 = .ok (.iload 4, 2) := dk_21 4 (dk_at dksX1_marksOf_1 0 rfl rfl)
theorem dX1_marksOf_26 : decode cX1_marksOf 26 = .ok (.invokeinterface 182 2, 5) := by decide +kernel
theorem dX1_marksOf_31 : decode cX1_marksOf 31 = .ok (.checkcast 128, 3) := dk_192 0 128 (dk_at dksX1_marksOf_1 7 rfl rfl)
theorem dX1_marksOf_34 : decode cX1_marksOf 34 = .ok (.getfield 190, 3) := dk_180 0 190 (dk_at dksX1_marksOf_1 10 rfl rfl)
theorem dX1_marksOf_37 : decode cX1_marksOf 37 = .ok (.bipush 6, 2) := dk_16 6 (dk_at dksX1_marksOf_1 13 rfl rfl)
theorem dX1_marksOf_39 : decode cX1_marksOf 39 = .ok (.if_icmp .ne 43, 3) := dk_160 0 43 (dk_at dksX1_marksOf_1 15 rfl rfl)
theorem dX1_marksOf_42 : decode cX1_marksOf 42 = .ok (.aload_n 1, 1) := dk_43 (dk_at dksX1_marksOf_1 18 rfl rfl)
theorem dX1_marksOf_43 : decode cX1_marksOf 43 = .ok (.getfield 179, 3) := dk_180 0 179 (dk_at dksX1_marksOf_1 19 rfl rfl)
theorem dX1_marksOf_46 : decode cX1_marksOf 46 = .ok (.iload 4, 2) := dk_21 4 (dk_at dksX1_marksOf_1 22 rfl rfl)
theorem dX1_marksOf_48 : decode cX1_marksOf 48 = .ok (.iaload, 1) := dk_46 (dk_at dksX1_marksOf_2 0 rfl rfl)
theorem dX1_marksOf_49 : decode cX1_marksOf 49 = .ok (.iconst (-1), 1) := dk_2 (dk_at dksX1_marksOf_2 1 rfl rfl)
theorem dX1_marksOf_50 : decode cX1_marksOf 50 = .ok (.if_icmp .eq 32, 3) := dk_159 0 32 (dk_at dksX1_marksOf_2 2 rfl rfl)
theorem dX1_marksOf_53 : decode cX1_marksOf 53 = .ok (.aload_n 0, 1) := dk_42 (dk_at dksX1_marksOf_2 5 rfl rfl)
theorem dX1_marksOf_54 : decode cX1_marksOf 54 = .ok (.aload_n 0, 1) := dk_42 (dk_at dksX1_marksOf_2 6 rfl rfl)
theorem dX1_marksOf_55 : decode cX1_marksOf 55 = .ok (.getfield 10, 3) := dk_180 0 10 (dk_at dksX1_marksOf_2 7 rfl rfl)
theorem dX1_marksOf_58 : decode cX1_marksOf 58 = .ok (.iload 4, 2) := dk_21 4 (dk_at dksX1_marksOf_2 10 rfl rfl)
theorem dX1_marksOf_60 : decode cX1_marksOf 60 = .ok (.invokeinterface 182 2, 5) := by decide +kernel
theorem dX1_marksOf_65 : decode cX1_marksOf 65 = .ok (.checkcast 128, 3) := dk_192 0 128 (dk_at dksX1_marksOf_2 17 rfl rfl)
theorem dX1_marksOf_68 : decode cX1_marksOf 68 = .ok (.getfield 217, 3) := dk_180 0 217 (dk_at dksX1_marksOf_2 20 rfl rfl)
theorem dX1_marksOf_71 : decode cX1_marksOf 71 = .ok (.invokevirtual 220, 3) := dk_182 0 220 (dk_at dksX1_marksOf_3 0 rfl rfl)
theorem dX1_marksOf_74 : decode cX1_marksOf 74 = .ok (.iload_n 2, 1) := dk_28 (dk_at dksX1_marksOf_3 3 rfl rfl)
theorem dX1_marksOf_75 : decode cX1_marksOf 75 = .ok (.if_icmp .ne 7, 3) := dk_160 0 7 (dk_at dksX1_marksOf_3 4 rfl rfl)
theorem dX1_marksOf_78 : decode cX1_marksOf 78 = .ok (.iconst 1, 1) := dk_4 (dk_at dksX1_marksOf_3 7 rfl rfl)
theorem dX1_marksOf_79 : decode cX1_marksOf 79 = .ok (.goto 4, 3) := dk_167 0 4 (dk_at dksX1_marksOf_3 8 rfl rfl)
theorem dX1_marksOf_82 : decode cX1_marksOf 82 = .ok (.iconst 0, 1) := dk_3 (dk_at dksX1_marksOf_3 11 rfl rfl)
theorem dX1_marksOf_83 : decode cX1_marksOf 83 = .ok (.iadd, 1) := dk_96 (dk_at dksX1_marksOf_3 12 rfl rfl)
theorem dX1_marksOf_84 : decode cX1_marksOf 84 = .ok (.istore_n 3, 1) := dk_62 (dk_at dksX1_marksOf_3 13 rfl rfl)
theorem dX1_marksOf_85 : decode cX1_marksOf 85 = .ok (.iinc 4 1, 3) := dk_132 4 1 (dk_at dksX1_marksOf_3 14 rfl rfl)
theorem dX1_marksOf_88 : decode cX1_marksOf 88 = .ok (.goto (-83), 3) := dk_167 255 173 (dk_at dksX1_marksOf_3 17 rfl rfl)
theorem dX1_marksOf_91 : decode cX1_marksOf 91 = .ok (.iload_n 3, 1) := dk_29 (dk_at dksX1_marksOf_3 20 rfl rfl)
theorem dX1_marksOf_92 : decode cX1_marksOf 92 = .ok (.ireturn, 1) := dk_172 (dk_at dksX1_marksOf_3 21 rfl rfl)
abbrev cX1_isNew : ByteArray := prog_1_method_33_code
def yX1_isNew : MethodName := ⟨RX1, "isNew", "(II)Z"⟩
def dkwX1_isNew_5 : List UInt8 := [172]
abbrev dktX1_isNew_5 : List UInt8 := dkwX1_isNew_5 ++ []
def dkwX1_isNew_4 : List UInt8 := [4, 167, 0, 4, 3, 100, 54, 5, 132, 6, 1, 167, 255, 207, 21, 5, 158, 0, 7, 4, 167, 0, 4, 3]
abbrev dktX1_isNew_4 : List UInt8 := dkwX1_isNew_4 ++ dktX1_isNew_5
def dkwX1_isNew_3 : List UInt8 := [21, 5, 45, 28, 42, 180, 0, 47, 21, 6, 185, 0, 182, 2, 0, 192, 0, 107, 182, 1, 40, 153, 0, 7]
abbrev dktX1_isNew_3 : List UInt8 := dkwX1_isNew_3 ++ dktX1_isNew_4
def dkwX1_isNew_2 : List UInt8 := [132, 6, 1, 167, 255, 226, 3, 54, 6, 21, 6, 42, 180, 0, 47, 185, 0, 106, 1, 0, 162, 0, 41]
abbrev dktX1_isNew_2 : List UInt8 := dkwX1_isNew_2 ++ dktX1_isNew_3
def dkwX1_isNew_1 : List UInt8 := [163, 0, 30, 21, 5, 45, 21, 6, 25, 4, 182, 1, 40, 153, 0, 7, 4, 167, 0, 4, 3, 96, 54, 5]
abbrev dktX1_isNew_1 : List UInt8 := dkwX1_isNew_1 ++ dktX1_isNew_2
def dkwX1_isNew_0 : List UInt8 := [42, 27, 28, 182, 0, 198, 78, 45, 28, 182, 0, 172, 58, 4, 3, 54, 5, 3, 54, 6, 21, 6, 28]
abbrev dktX1_isNew_0 : List UInt8 := dkwX1_isNew_0 ++ dktX1_isNew_1
theorem dksX1_isNew_0 : cX1_isNew.data.toList.drop 0 = dktX1_isNew_0 := by decide +kernel
theorem dksX1_isNew_1 : cX1_isNew.data.toList.drop 23 = dktX1_isNew_1 := dk_seg dksX1_isNew_0 23 rfl rfl
theorem dksX1_isNew_2 : cX1_isNew.data.toList.drop 47 = dktX1_isNew_2 := dk_seg dksX1_isNew_1 24 rfl rfl
theorem dksX1_isNew_3 : cX1_isNew.data.toList.drop 70 = dktX1_isNew_3 := dk_seg dksX1_isNew_2 23 rfl rfl
theorem dksX1_isNew_4 : cX1_isNew.data.toList.drop 94 = dktX1_isNew_4 := dk_seg dksX1_isNew_3 24 rfl rfl
theorem dksX1_isNew_5 : cX1_isNew.data.toList.drop 118 = dktX1_isNew_5 := dk_seg dksX1_isNew_4 24 rfl rfl
theorem dX1_isNew_0 : decode cX1_isNew 0 = .ok (.aload_n 0, 1) := dk_42 (dk_at dksX1_isNew_0 0 rfl rfl)
theorem dX1_isNew_1 : decode cX1_isNew 1 = .ok (.iload_n 1, 1) := dk_27 (dk_at dksX1_isNew_0 1 rfl rfl)
theorem dX1_isNew_2 : decode cX1_isNew 2 = .ok (.iload_n 2, 1) := dk_28 (dk_at dksX1_isNew_0 2 rfl rfl)
theorem dX1_isNew_3 : decode cX1_isNew 3 = .ok (.invokevirtual 198, 3) := dk_182 0 198 (dk_at dksX1_isNew_0 3 rfl rfl)
theorem dX1_isNew_6 : decode cX1_isNew 6 = .ok (.astore_n 3, 1) := dk_78 (dk_at dksX1_isNew_0 6 rfl rfl)
theorem dX1_isNew_7 : decode cX1_isNew 7 = .ok (.aload_n 3, 1) := dk_45 (dk_at dksX1_isNew_0 7 rfl rfl)
theorem dX1_isNew_8 : decode cX1_isNew 8 = .ok (.iload_n 2, 1) := dk_28 (dk_at dksX1_isNew_0 8 rfl rfl)
theorem dX1_isNew_9 : decode cX1_isNew 9 = .ok (.invokevirtual 172, 3) := dk_182 0 172 (dk_at dksX1_isNew_0 9 rfl rfl)
theorem dX1_isNew_12 : decode cX1_isNew 12 = .ok (.astore 4, 2) := dk_58 4 (dk_at dksX1_isNew_0 12 rfl rfl)
theorem dX1_isNew_14 : decode cX1_isNew 14 = .ok (.iconst 0, 1) := dk_3 (dk_at dksX1_isNew_0 14 rfl rfl)
theorem dX1_isNew_15 : decode cX1_isNew 15 = .ok (.istore 5, 2) := dk_54 5 (dk_at dksX1_isNew_0 15 rfl rfl)
theorem dX1_isNew_17 : decode cX1_isNew 17 = .ok (.iconst 0, 1) := dk_3 (dk_at dksX1_isNew_0 17 rfl rfl)
theorem dX1_isNew_18 : decode cX1_isNew 18 = .ok (.istore 6, 2) := dk_54 6 (dk_at dksX1_isNew_0 18 rfl rfl)
theorem dX1_isNew_20 : decode cX1_isNew 20 = .ok (.iload 6, 2) := dk_21 6 (dk_at dksX1_isNew_0 20 rfl rfl)
theorem dX1_isNew_22 : decode cX1_isNew 22 = .ok (.iload_n 2, 1) := dk_28 (dk_at dksX1_isNew_0 22 rfl rfl)
theorem dX1_isNew_23 : decode cX1_isNew 23 = .ok (.if_icmp .gt 30, 3) := dk_163 0 30 (dk_at dksX1_isNew_1 0 rfl rfl)
theorem dX1_isNew_26 : decode cX1_isNew 26 = .ok (.iload 5, 2) := dk_21 5 (dk_at dksX1_isNew_1 3 rfl rfl)
theorem dX1_isNew_28 : decode cX1_isNew 28 = .ok (.aload_n 3, 1) := dk_45 (dk_at dksX1_isNew_1 5 rfl rfl)
theorem dX1_isNew_29 : decode cX1_isNew 29 = .ok (.iload 6, 2) := dk_21 6 (dk_at dksX1_isNew_1 6 rfl rfl)
theorem dX1_isNew_31 : decode cX1_isNew 31 = .ok (.aload 4, 2) := dk_25 4 (dk_at dksX1_isNew_1 8 rfl rfl)
theorem dX1_isNew_33 : decode cX1_isNew 33 = .ok (.invokevirtual 296, 3) := dk_182 1 40 (dk_at dksX1_isNew_1 10 rfl rfl)
theorem dX1_isNew_36 : decode cX1_isNew 36 = .ok (.ifCond .eq 7, 3) := dk_153 0 7 (dk_at dksX1_isNew_1 13 rfl rfl)
theorem dX1_isNew_39 : decode cX1_isNew 39 = .ok (.iconst 1, 1) := dk_4 (dk_at dksX1_isNew_1 16 rfl rfl)
theorem dX1_isNew_40 : decode cX1_isNew 40 = .ok (.goto 4, 3) := dk_167 0 4 (dk_at dksX1_isNew_1 17 rfl rfl)
theorem dX1_isNew_43 : decode cX1_isNew 43 = .ok (.iconst 0, 1) := dk_3 (dk_at dksX1_isNew_1 20 rfl rfl)
theorem dX1_isNew_44 : decode cX1_isNew 44 = .ok (.iadd, 1) := dk_96 (dk_at dksX1_isNew_1 21 rfl rfl)
theorem dX1_isNew_45 : decode cX1_isNew 45 = .ok (.istore 5, 2) := dk_54 5 (dk_at dksX1_isNew_1 22 rfl rfl)
theorem dX1_isNew_47 : decode cX1_isNew 47 = .ok (.iinc 6 1, 3) := dk_132 6 1 (dk_at dksX1_isNew_2 0 rfl rfl)
theorem dX1_isNew_50 : decode cX1_isNew 50 = .ok (.goto (-30), 3) := dk_167 255 226 (dk_at dksX1_isNew_2 3 rfl rfl)
theorem dX1_isNew_53 : decode cX1_isNew 53 = .ok (.iconst 0, 1) := dk_3 (dk_at dksX1_isNew_2 6 rfl rfl)
theorem dX1_isNew_54 : decode cX1_isNew 54 = .ok (.istore 6, 2) := dk_54 6 (dk_at dksX1_isNew_2 7 rfl rfl)
theorem dX1_isNew_56 : decode cX1_isNew 56 = .ok (.iload 6, 2) := dk_21 6 (dk_at dksX1_isNew_2 9 rfl rfl)
theorem dX1_isNew_58 : decode cX1_isNew 58 = .ok (.aload_n 0, 1) := dk_42 (dk_at dksX1_isNew_2 11 rfl rfl)
theorem dX1_isNew_59 : decode cX1_isNew 59 = .ok (.getfield 47, 3) := dk_180 0 47 (dk_at dksX1_isNew_2 12 rfl rfl)
theorem dX1_isNew_62 : decode cX1_isNew 62 = .ok (.invokeinterface 106 1, 5) := by decide +kernel
theorem dX1_isNew_67 : decode cX1_isNew 67 = .ok (.if_icmp .ge 41, 3) := dk_162 0 41 (dk_at dksX1_isNew_2 20 rfl rfl)
theorem dX1_isNew_70 : decode cX1_isNew 70 = .ok (.iload 5, 2) := dk_21 5 (dk_at dksX1_isNew_3 0 rfl rfl)
theorem dX1_isNew_72 : decode cX1_isNew 72 = .ok (.aload_n 3, 1) := dk_45 (dk_at dksX1_isNew_3 2 rfl rfl)
theorem dX1_isNew_73 : decode cX1_isNew 73 = .ok (.iload_n 2, 1) := dk_28 (dk_at dksX1_isNew_3 3 rfl rfl)
theorem dX1_isNew_74 : decode cX1_isNew 74 = .ok (.aload_n 0, 1) := dk_42 (dk_at dksX1_isNew_3 4 rfl rfl)
theorem dX1_isNew_75 : decode cX1_isNew 75 = .ok (.getfield 47, 3) := dk_180 0 47 (dk_at dksX1_isNew_3 5 rfl rfl)
theorem dX1_isNew_78 : decode cX1_isNew 78 = .ok (.iload 6, 2) := dk_21 6 (dk_at dksX1_isNew_3 8 rfl rfl)
theorem dX1_isNew_80 : decode cX1_isNew 80 = .ok (.invokeinterface 182 2, 5) := by decide +kernel
theorem dX1_isNew_85 : decode cX1_isNew 85 = .ok (.checkcast 107, 3) := dk_192 0 107 (dk_at dksX1_isNew_3 15 rfl rfl)
theorem dX1_isNew_88 : decode cX1_isNew 88 = .ok (.invokevirtual 296, 3) := dk_182 1 40 (dk_at dksX1_isNew_3 18 rfl rfl)
theorem dX1_isNew_91 : decode cX1_isNew 91 = .ok (.ifCond .eq 7, 3) := dk_153 0 7 (dk_at dksX1_isNew_3 21 rfl rfl)
theorem dX1_isNew_94 : decode cX1_isNew 94 = .ok (.iconst 1, 1) := dk_4 (dk_at dksX1_isNew_4 0 rfl rfl)
theorem dX1_isNew_95 : decode cX1_isNew 95 = .ok (.goto 4, 3) := dk_167 0 4 (dk_at dksX1_isNew_4 1 rfl rfl)
theorem dX1_isNew_98 : decode cX1_isNew 98 = .ok (.iconst 0, 1) := dk_3 (dk_at dksX1_isNew_4 4 rfl rfl)
theorem dX1_isNew_99 : decode cX1_isNew 99 = .ok (.isub, 1) := dk_100 (dk_at dksX1_isNew_4 5 rfl rfl)
theorem dX1_isNew_100 : decode cX1_isNew 100 = .ok (.istore 5, 2) := dk_54 5 (dk_at dksX1_isNew_4 6 rfl rfl)
theorem dX1_isNew_102 : decode cX1_isNew 102 = .ok (.iinc 6 1, 3) := dk_132 6 1 (dk_at dksX1_isNew_4 8 rfl rfl)
theorem dX1_isNew_105 : decode cX1_isNew 105 = .ok (.goto (-49), 3) := dk_167 255 207 (dk_at dksX1_isNew_4 11 rfl rfl)
theorem dX1_isNew_108 : decode cX1_isNew 108 = .ok (.iload 5, 2) := dk_21 5 (dk_at dksX1_isNew_4 14 rfl rfl)
theorem dX1_isNew_110 : decode cX1_isNew 110 = .ok (.ifCond .le 7, 3) := dk_158 0 7 (dk_at dksX1_isNew_4 16 rfl rfl)
theorem dX1_isNew_113 : decode cX1_isNew 113 = .ok (.iconst 1, 1) := dk_4 (dk_at dksX1_isNew_4 19 rfl rfl)
theorem dX1_isNew_114 : decode cX1_isNew 114 = .ok (.goto 4, 3) := dk_167 0 4 (dk_at dksX1_isNew_4 20 rfl rfl)
theorem dX1_isNew_117 : decode cX1_isNew 117 = .ok (.iconst 0, 1) := dk_3 (dk_at dksX1_isNew_4 23 rfl rfl)
theorem dX1_isNew_118 : decode cX1_isNew 118 = .ok (.ireturn, 1) := dk_172 (dk_at dksX1_isNew_5 0 rfl rfl)
theorem q54 : (Jvm.Cond.initialized "Quirefold") ∈ lw_all := lw_g (lw_at lw_m1 1 rfl) rfl
theorem q86 : (Jvm.Cond.instantiable "Quirefold" (11 : Nat)) ∈ lw_all := lw_g (lw_at lw_m1 33 rfl) rfl
theorem q88 : (Jvm.Cond.instanceMethod ({ cls := "Quirefold", name := "<init>", desc := "()V" } : Jvm.MethodName)) ∈ lw_all := lw_g (lw_at lw_m1 35 rfl) rfl
theorem q89 : (Jvm.Cond.code ({ cls := "Quirefold", name := "<init>", desc := "()V" } : Jvm.MethodName) prog_1_method_1_code (2 : Nat) (Option.none : Option Jvm.ClassFile.FieldType)) ∈ lw_all := lw_g (lw_at lw_m1 36 rfl) rfl
theorem q90 : (Jvm.Cond.methodLink "Quirefold" (1 : Nat) ({ cls := "java/lang/Object", name := "<init>", desc := "()V" } : Jvm.MethodName)) ∈ lw_all := lw_g (lw_at lw_m1 37 rfl) rfl
theorem q93 : (Jvm.Cond.classLink "Quirefold" (7 : Nat) "java/util/ArrayList") ∈ lw_all := lw_g (lw_at lw_m1 40 rfl) rfl
theorem q95 : (Jvm.Cond.methodLink "Quirefold" (9 : Nat) ({ cls := "java/util/ArrayList", name := "<init>", desc := "()V" } : Jvm.MethodName)) ∈ lw_all := lw_g (lw_at lw_m1 42 rfl) rfl
theorem q122 : (Jvm.Cond.classLink "Quirefold" (16 : Nat) "Quirefold$Style") ∈ lw_all := lw_g (lw_at lw_m1 69 rfl) rfl
theorem q124 : (Jvm.Cond.classLink "Quirefold" (22 : Nat) "[[I") ∈ lw_all := lw_g (lw_at lw_m1 71 rfl) rfl
theorem q126 : (Jvm.Cond.classLink "Quirefold" (50 : Nat) "Quirefold$Layout") ∈ lw_all := lw_g (lw_at lw_m1 73 rfl) rfl
theorem q129 : (Jvm.Cond.methodLinkNest "Quirefold" (56 : Nat) ({ cls := "Quirefold$Style", name := "<init>", desc := "()V" } : Jvm.MethodName) "Quirefold") ∈ lw_tbl := lw_at lw_m1 76 rfl
theorem q134 : (Jvm.Cond.fieldLinkNest "Quirefold" (147 : Nat) "Quirefold$Style" "base" "LQuirefold$Style;" "Quirefold") ∈ lw_tbl := lw_at lw_m1 81 rfl
theorem q136 : (Jvm.Cond.fieldLinkNest "Quirefold" (153 : Nat) "Quirefold$Style" "extra" "I" "Quirefold") ∈ lw_tbl := lw_at lw_m1 83 rfl
theorem q138 : (Jvm.Cond.fieldLinkNest "Quirefold" (156 : Nat) "Quirefold$Style" "colour" "I" "Quirefold") ∈ lw_tbl := lw_at lw_m1 85 rfl
theorem q147 : (Jvm.Cond.fieldLink "Quirefold" (10 : Nat) "Quirefold" "story" "Ljava/util/List;") ∈ lw_all := lw_g (lw_at lw_m1 94 rfl) rfl
theorem q149 : (Jvm.Cond.fieldLink "Quirefold" (18 : Nat) "Quirefold" "styles" "[LQuirefold$Style;") ∈ lw_all := lw_g (lw_at lw_m1 96 rfl) rfl
theorem q151 : (Jvm.Cond.fieldLink "Quirefold" (24 : Nat) "Quirefold" "data" "[[I") ∈ lw_all := lw_g (lw_at lw_m1 98 rfl) rfl
theorem q153 : (Jvm.Cond.fieldLink "Quirefold" (27 : Nat) "Quirefold" "gridWidth" "I") ∈ lw_all := lw_g (lw_at lw_m1 100 rfl) rfl
theorem q155 : (Jvm.Cond.fieldLink "Quirefold" (31 : Nat) "Quirefold" "gridLines" "I") ∈ lw_all := lw_g (lw_at lw_m1 102 rfl) rfl
theorem q157 : (Jvm.Cond.fieldLink "Quirefold" (34 : Nat) "Quirefold" "gridColumns" "I") ∈ lw_all := lw_g (lw_at lw_m1 104 rfl) rfl
theorem q159 : (Jvm.Cond.fieldLink "Quirefold" (37 : Nat) "Quirefold" "sees" "[I") ∈ lw_all := lw_g (lw_at lw_m1 106 rfl) rfl
theorem q160 : (Jvm.Cond.fieldLink "Quirefold" (41 : Nat) "Quirefold" "foldPages" "I") ∈ lw_all := lw_g (lw_at lw_m1 107 rfl) rfl
theorem q161 : (Jvm.Cond.fieldLink "Quirefold" (44 : Nat) "Quirefold" "foldCreep" "I") ∈ lw_all := lw_g (lw_at lw_m1 108 rfl) rfl
theorem q162 : (Jvm.Cond.fieldLink "Quirefold" (47 : Nat) "Quirefold" "kept" "Ljava/util/List;") ∈ lw_all := lw_g (lw_at lw_m1 109 rfl) rfl
theorem q163 : (Jvm.Cond.fieldLink "Quirefold" (52 : Nat) "Quirefold" "layouts" "[LQuirefold$Layout;") ∈ lw_all := lw_g (lw_at lw_m1 110 rfl) rfl
theorem q164 : (Jvm.Cond.laysFinal "Quirefold" "Quirefold" "story" "Ljava/util/List;") ∈ lw_all := lw_g (lw_at lw_m1 111 rfl) rfl
theorem q165 : (Jvm.Cond.soleField "Quirefold" "story") ∈ lw_all := lw_g (lw_at lw_m1 112 rfl) rfl
theorem q166 : (Jvm.Cond.laysFinal "Quirefold" "Quirefold" "styles" "[LQuirefold$Style;") ∈ lw_all := lw_g (lw_at lw_m1 113 rfl) rfl
theorem q167 : (Jvm.Cond.soleField "Quirefold" "styles") ∈ lw_all := lw_g (lw_at lw_m1 114 rfl) rfl
theorem q168 : (Jvm.Cond.laysFinal "Quirefold" "Quirefold" "data" "[[I") ∈ lw_all := lw_g (lw_at lw_m1 115 rfl) rfl
theorem q169 : (Jvm.Cond.soleField "Quirefold" "data") ∈ lw_all := lw_g (lw_at lw_m1 116 rfl) rfl
theorem q170 : (Jvm.Cond.lays "Quirefold" "Quirefold" "gridWidth" "I") ∈ lw_all := lw_g (lw_at lw_m1 117 rfl) rfl
theorem q171 : (Jvm.Cond.soleField "Quirefold" "gridWidth") ∈ lw_all := lw_g (lw_at lw_m1 118 rfl) rfl
theorem q172 : (Jvm.Cond.lays "Quirefold" "Quirefold" "gridLines" "I") ∈ lw_all := lw_g (lw_at lw_m1 119 rfl) rfl
theorem q173 : (Jvm.Cond.soleField "Quirefold" "gridLines") ∈ lw_all := lw_g (lw_at lw_m1 120 rfl) rfl
theorem q174 : (Jvm.Cond.lays "Quirefold" "Quirefold" "gridColumns" "I") ∈ lw_all := lw_g (lw_at lw_m1 121 rfl) rfl
theorem q175 : (Jvm.Cond.soleField "Quirefold" "gridColumns") ∈ lw_all := lw_g (lw_at lw_m1 122 rfl) rfl
theorem q176 : (Jvm.Cond.laysFinal "Quirefold" "Quirefold" "sees" "[I") ∈ lw_all := lw_g (lw_at lw_m1 123 rfl) rfl
theorem q177 : (Jvm.Cond.soleField "Quirefold" "sees") ∈ lw_all := lw_g (lw_at lw_m1 124 rfl) rfl
theorem q178 : (Jvm.Cond.lays "Quirefold" "Quirefold" "foldPages" "I") ∈ lw_all := lw_g (lw_at lw_m1 125 rfl) rfl
theorem q179 : (Jvm.Cond.soleField "Quirefold" "foldPages") ∈ lw_all := lw_g (lw_at lw_m1 126 rfl) rfl
theorem q180 : (Jvm.Cond.lays "Quirefold" "Quirefold" "foldCreep" "I") ∈ lw_all := lw_g (lw_at lw_m1 127 rfl) rfl
theorem q181 : (Jvm.Cond.soleField "Quirefold" "foldCreep") ∈ lw_all := lw_g (lw_at lw_m1 128 rfl) rfl
theorem q182 : (Jvm.Cond.laysFinal "Quirefold" "Quirefold" "kept" "Ljava/util/List;") ∈ lw_all := lw_g (lw_at lw_m1 129 rfl) rfl
theorem q183 : (Jvm.Cond.soleField "Quirefold" "kept") ∈ lw_all := lw_g (lw_at lw_m1 130 rfl) rfl
theorem q184 : (Jvm.Cond.laysFinal "Quirefold" "Quirefold" "layouts" "[LQuirefold$Layout;") ∈ lw_all := lw_g (lw_at lw_m1 131 rfl) rfl
theorem q185 : (Jvm.Cond.soleField "Quirefold" "layouts") ∈ lw_all := lw_g (lw_at lw_m1 132 rfl) rfl
theorem q186 : (Jvm.Cond.superclass "Quirefold" "java/lang/Object") ∈ lw_all := lw_g (lw_at lw_m1 133 rfl) rfl
theorem q188 : (Jvm.Cond.instanceMethod ({ cls := "Quirefold", name := "tokens", desc := "()I" } : Jvm.MethodName)) ∈ lw_all := lw_g (lw_at lw_m1 135 rfl) rfl
theorem q189 : (Jvm.Cond.selects "Quirefold" ({ cls := "Quirefold", name := "tokens", desc := "()I" } : Jvm.MethodName) ({ cls := "Quirefold", name := "tokens", desc := "()I" } : Jvm.MethodName)) ∈ lw_all := lw_g (lw_at lw_m1 136 rfl) rfl
theorem q190 : (Jvm.Cond.code ({ cls := "Quirefold", name := "tokens", desc := "()I" } : Jvm.MethodName) prog_1_method_34_code (1 : Nat) (Option.some Jvm.ClassFile.FieldType.int)) ∈ lw_all := lw_g (lw_at lw_m1 137 rfl) rfl
theorem q191 : (Jvm.Cond.interfaceEntry "Quirefold" (106 : Nat)) ∈ lw_tbl := lw_at lw_m1 138 rfl
theorem q192 : (Jvm.Cond.methodLink "Quirefold" (106 : Nat) ({ cls := "java/util/List", name := "size", desc := "()I" } : Jvm.MethodName)) ∈ lw_all := lw_g (lw_at lw_m1 139 rfl) rfl
theorem q284 : (Jvm.Cond.instanceMethod ({ cls := "Quirefold", name := "put", desc := "(IIII)I" } : Jvm.MethodName)) ∈ lw_all := lw_g (lw_at lw_m1 231 rfl) rfl
theorem q285 : (Jvm.Cond.selects "Quirefold" ({ cls := "Quirefold", name := "put", desc := "(IIII)I" } : Jvm.MethodName) ({ cls := "Quirefold", name := "put", desc := "(IIII)I" } : Jvm.MethodName)) ∈ lw_all := lw_g (lw_at lw_m1 232 rfl) rfl
theorem q286 : (Jvm.Cond.code ({ cls := "Quirefold", name := "put", desc := "(IIII)I" } : Jvm.MethodName) prog_1_method_9_code (5 : Nat) (Option.some Jvm.ClassFile.FieldType.int)) ∈ lw_all := lw_g (lw_at lw_m1 233 rfl) rfl
theorem q287 : (Jvm.Cond.stringRef "Quirefold" (118 : Nat) "place") ∈ lw_tbl := lw_at lw_m1 234 rfl
theorem q288 : (Jvm.Cond.methodLink "Quirefold" (92 : Nat) ({ cls := "Quirefold", name := "place", desc := "(IILjava/lang/String;)I" } : Jvm.MethodName)) ∈ lw_all := lw_g (lw_at lw_m1 235 rfl) rfl
theorem q289 : (Jvm.Cond.static ({ cls := "Quirefold", name := "place", desc := "(IILjava/lang/String;)I" } : Jvm.MethodName)) ∈ lw_all := lw_g (lw_at lw_m1 236 rfl) rfl
theorem q290 : (Jvm.Cond.code ({ cls := "Quirefold", name := "place", desc := "(IILjava/lang/String;)I" } : Jvm.MethodName) prog_1_method_2_code (3 : Nat) (Option.some Jvm.ClassFile.FieldType.int)) ∈ lw_all := lw_g (lw_at lw_m1 237 rfl) rfl
theorem q291 : (Jvm.Cond.classLink "Quirefold" (57 : Nat) "java/lang/IndexOutOfBoundsException") ∈ lw_all := lw_g (lw_at lw_m1 238 rfl) rfl
theorem q300 : (Jvm.Cond.classLink "Quirefold" (59 : Nat) "java/lang/StringBuilder") ∈ lw_all := lw_g (lw_at lw_m2 7 rfl) rfl
theorem q302 : (Jvm.Cond.methodLink "Quirefold" (61 : Nat) ({ cls := "java/lang/StringBuilder", name := "<init>", desc := "()V" } : Jvm.MethodName)) ∈ lw_all := lw_g (lw_at lw_m2 9 rfl) rfl
theorem q331 : (Jvm.Cond.stringRef "Quirefold" (62 : Nat) "no ") ∈ lw_tbl := lw_at lw_m2 38 rfl
theorem q332 : (Jvm.Cond.methodLink "Quirefold" (64 : Nat) ({ cls := "java/lang/StringBuilder", name := "append", desc := "(Ljava/lang/String;)Ljava/lang/StringBuilder;" } : Jvm.MethodName)) ∈ lw_all := lw_g (lw_at lw_m2 39 rfl) rfl
theorem q452 : (Jvm.Cond.stringRef "Quirefold" (68 : Nat) " ") ∈ lw_tbl := lw_at lw_m2 159 rfl
theorem q453 : (Jvm.Cond.methodLink "Quirefold" (70 : Nat) ({ cls := "java/lang/StringBuilder", name := "append", desc := "(I)Ljava/lang/StringBuilder;" } : Jvm.MethodName)) ∈ lw_all := lw_g (lw_at lw_m2 160 rfl) rfl
theorem q478 : (Jvm.Cond.methodLink "Quirefold" (73 : Nat) ({ cls := "java/lang/StringBuilder", name := "toString", desc := "()Ljava/lang/String;" } : Jvm.MethodName)) ∈ lw_all := lw_g (lw_at lw_m2 185 rfl) rfl
theorem q554 : (Jvm.Cond.methodLink "Quirefold" (77 : Nat) ({ cls := "java/lang/IndexOutOfBoundsException", name := "<init>", desc := "(Ljava/lang/String;)V" } : Jvm.MethodName)) ∈ lw_all := lw_g (lw_at lw_m3 21 rfl) rfl
theorem q557 : (Jvm.Cond.methodLink "Quirefold" (119 : Nat) ({ cls := "Quirefold", name := "isToken", desc := "(III)V" } : Jvm.MethodName)) ∈ lw_all := lw_g (lw_at lw_m3 24 rfl) rfl
theorem q558 : (Jvm.Cond.static ({ cls := "Quirefold", name := "isToken", desc := "(III)V" } : Jvm.MethodName)) ∈ lw_all := lw_g (lw_at lw_m3 25 rfl) rfl
theorem q559 : (Jvm.Cond.code ({ cls := "Quirefold", name := "isToken", desc := "(III)V" } : Jvm.MethodName) prog_1_method_8_code (3 : Nat) (Option.none : Option Jvm.ClassFile.FieldType)) ∈ lw_all := lw_g (lw_at lw_m3 26 rfl) rfl
theorem q560 : (Jvm.Cond.methodLink "Quirefold" (114 : Nat) ({ cls := "Quirefold", name := "isWithin", desc := "(III)V" } : Jvm.MethodName)) ∈ lw_all := lw_g (lw_at lw_m3 27 rfl) rfl
theorem q561 : (Jvm.Cond.static ({ cls := "Quirefold", name := "isWithin", desc := "(III)V" } : Jvm.MethodName)) ∈ lw_all := lw_g (lw_at lw_m3 28 rfl) rfl
theorem q562 : (Jvm.Cond.code ({ cls := "Quirefold", name := "isWithin", desc := "(III)V" } : Jvm.MethodName) prog_1_method_3_code (3 : Nat) (Option.none : Option Jvm.ClassFile.FieldType)) ∈ lw_all := lw_g (lw_at lw_m3 29 rfl) rfl
theorem q563 : (Jvm.Cond.classLink "Quirefold" (80 : Nat) "java/lang/IllegalArgumentException") ∈ lw_all := lw_g (lw_at lw_m3 30 rfl) rfl
theorem q564 : (Jvm.Cond.stringRef "Quirefold" (82 : Nat) " is not from ") ∈ lw_tbl := lw_at lw_m3 31 rfl
theorem q565 : (Jvm.Cond.stringRef "Quirefold" (84 : Nat) " to ") ∈ lw_tbl := lw_at lw_m3 32 rfl
theorem q566 : (Jvm.Cond.methodLink "Quirefold" (86 : Nat) ({ cls := "java/lang/IllegalArgumentException", name := "<init>", desc := "(Ljava/lang/String;)V" } : Jvm.MethodName)) ∈ lw_all := lw_g (lw_at lw_m3 33 rfl) rfl
theorem q567 : (Jvm.Cond.stringRef "Quirefold" (122 : Nat) "the story has too many tokens") ∈ lw_tbl := lw_at lw_m3 34 rfl
theorem q568 : (Jvm.Cond.methodLink "Quirefold" (124 : Nat) ({ cls := "Quirefold", name := "must", desc := "(ZLjava/lang/String;)V" } : Jvm.MethodName)) ∈ lw_all := lw_g (lw_at lw_m3 35 rfl) rfl
theorem q569 : (Jvm.Cond.static ({ cls := "Quirefold", name := "must", desc := "(ZLjava/lang/String;)V" } : Jvm.MethodName)) ∈ lw_all := lw_g (lw_at lw_m3 36 rfl) rfl
theorem q570 : (Jvm.Cond.code ({ cls := "Quirefold", name := "must", desc := "(ZLjava/lang/String;)V" } : Jvm.MethodName) prog_1_method_4_code (2 : Nat) (Option.none : Option Jvm.ClassFile.FieldType)) ∈ lw_all := lw_g (lw_at lw_m3 37 rfl) rfl
theorem q571 : (Jvm.Cond.classLink "Quirefold" (87 : Nat) "java/lang/IllegalStateException") ∈ lw_all := lw_g (lw_at lw_m3 38 rfl) rfl
theorem q580 : (Jvm.Cond.methodLink "Quirefold" (89 : Nat) ({ cls := "java/lang/IllegalStateException", name := "<init>", desc := "(Ljava/lang/String;)V" } : Jvm.MethodName)) ∈ lw_all := lw_g (lw_at lw_m3 47 rfl) rfl
theorem q586 : (Jvm.Cond.classLink "Quirefold" (128 : Nat) "Quirefold$Token") ∈ lw_all := lw_g (lw_at lw_m3 53 rfl) rfl
theorem q588 : (Jvm.Cond.methodLink "Quirefold" (130 : Nat) ({ cls := "Quirefold$Token", name := "<init>", desc := "(III)V" } : Jvm.MethodName)) ∈ lw_all := lw_g (lw_at lw_m3 55 rfl) rfl
theorem q594 : (Jvm.Cond.fieldLinkNest "Quirefold" (190 : Nat) "Quirefold$Token" "kind" "I" "Quirefold") ∈ lw_tbl := lw_at lw_m3 61 rfl
theorem q597 : (Jvm.Cond.fieldLinkNest "Quirefold" (217 : Nat) "Quirefold$Token" "a" "I" "Quirefold") ∈ lw_tbl := lw_at lw_m3 64 rfl
theorem q600 : (Jvm.Cond.fieldLinkNest "Quirefold" (275 : Nat) "Quirefold$Token" "style" "I" "Quirefold") ∈ lw_tbl := lw_at lw_m3 67 rfl
theorem q608 : (Jvm.Cond.interfaceEntry "Quirefold" (132 : Nat)) ∈ lw_tbl := lw_at lw_m3 75 rfl
theorem q609 : (Jvm.Cond.methodLink "Quirefold" (132 : Nat) ({ cls := "java/util/List", name := "add", desc := "(ILjava/lang/Object;)V" } : Jvm.MethodName)) ∈ lw_all := lw_g (lw_at lw_m3 76 rfl) rfl
theorem q649 : (Jvm.Cond.selects "Quirefold" ({ cls := "java/lang/Object", name := "getClass", desc := "()Ljava/lang/Class;" } : Jvm.MethodName) ({ cls := "java/lang/Object", name := "getClass", desc := "()Ljava/lang/Class;" } : Jvm.MethodName)) ∈ lw_all := lw_g (lw_at lw_m3 116 rfl) rfl
theorem q674 : (Jvm.Cond.methodLink "Quirefold" (136 : Nat) ({ cls := "Quirefold", name := "forgets", desc := "()V" } : Jvm.MethodName)) ∈ lw_all := lw_g (lw_at lw_m3 141 rfl) rfl
theorem q675 : (Jvm.Cond.privateMethod ({ cls := "Quirefold", name := "forgets", desc := "()V" } : Jvm.MethodName)) ∈ lw_tbl := lw_at lw_m3 142 rfl
theorem q676 : (Jvm.Cond.instanceMethod ({ cls := "Quirefold", name := "forgets", desc := "()V" } : Jvm.MethodName)) ∈ lw_all := lw_g (lw_at lw_m3 143 rfl) rfl
theorem q677 : (Jvm.Cond.code ({ cls := "Quirefold", name := "forgets", desc := "()V" } : Jvm.MethodName) prog_1_method_7_code (2 : Nat) (Option.none : Option Jvm.ClassFile.FieldType)) ∈ lw_all := lw_g (lw_at lw_m3 144 rfl) rfl
theorem q682 : (Jvm.Cond.instanceMethod ({ cls := "Quirefold", name := "take", desc := "(I)I" } : Jvm.MethodName)) ∈ lw_all := lw_g (lw_at lw_m3 149 rfl) rfl
theorem q683 : (Jvm.Cond.selects "Quirefold" ({ cls := "Quirefold", name := "take", desc := "(I)I" } : Jvm.MethodName) ({ cls := "Quirefold", name := "take", desc := "(I)I" } : Jvm.MethodName)) ∈ lw_all := lw_g (lw_at lw_m3 150 rfl) rfl
theorem q684 : (Jvm.Cond.code ({ cls := "Quirefold", name := "take", desc := "(I)I" } : Jvm.MethodName) prog_1_method_10_code (2 : Nat) (Option.some Jvm.ClassFile.FieldType.int)) ∈ lw_all := lw_g (lw_at lw_m3 151 rfl) rfl
theorem q685 : (Jvm.Cond.stringRef "Quirefold" (139 : Nat) "token") ∈ lw_tbl := lw_at lw_m3 152 rfl
theorem q686 : (Jvm.Cond.interfaceEntry "Quirefold" (141 : Nat)) ∈ lw_tbl := lw_at lw_m3 153 rfl
theorem q687 : (Jvm.Cond.methodLink "Quirefold" (141 : Nat) ({ cls := "java/util/List", name := "remove", desc := "(I)Ljava/lang/Object;" } : Jvm.MethodName)) ∈ lw_all := lw_g (lw_at lw_m3 154 rfl) rfl
theorem q709 : (Jvm.Cond.instanceMethod ({ cls := "Quirefold", name := "style", desc := "(IIII)V" } : Jvm.MethodName)) ∈ lw_all := lw_g (lw_at lw_m3 176 rfl) rfl
theorem q710 : (Jvm.Cond.selects "Quirefold" ({ cls := "Quirefold", name := "style", desc := "(IIII)V" } : Jvm.MethodName) ({ cls := "Quirefold", name := "style", desc := "(IIII)V" } : Jvm.MethodName)) ∈ lw_all := lw_g (lw_at lw_m3 177 rfl) rfl
theorem q711 : (Jvm.Cond.code ({ cls := "Quirefold", name := "style", desc := "(IIII)V" } : Jvm.MethodName) prog_1_method_11_code (9 : Nat) (Option.none : Option Jvm.ClassFile.FieldType)) ∈ lw_all := lw_g (lw_at lw_m3 178 rfl) rfl
theorem q712 : (Jvm.Cond.stringRef "Quirefold" (145 : Nat) "style") ∈ lw_tbl := lw_at lw_m3 179 rfl
theorem q713 : (Jvm.Cond.stringRef "Quirefold" (151 : Nat) "the style would lead to itself") ∈ lw_tbl := lw_at lw_m3 180 rfl
theorem q718 : (Jvm.Cond.instanceMethod ({ cls := "Quirefold", name := "data", desc := "(III)I" } : Jvm.MethodName)) ∈ lw_all := lw_g (lw_at lw_m3 185 rfl) rfl
theorem q719 : (Jvm.Cond.selects "Quirefold" ({ cls := "Quirefold", name := "data", desc := "(III)I" } : Jvm.MethodName) ({ cls := "Quirefold", name := "data", desc := "(III)I" } : Jvm.MethodName)) ∈ lw_all := lw_g (lw_at lw_m3 186 rfl) rfl
theorem q720 : (Jvm.Cond.code ({ cls := "Quirefold", name := "data", desc := "(III)I" } : Jvm.MethodName) prog_1_method_12_code (5 : Nat) (Option.some Jvm.ClassFile.FieldType.int)) ∈ lw_all := lw_g (lw_at lw_m3 187 rfl) rfl
theorem q721 : (Jvm.Cond.stringRef "Quirefold" (90 : Nat) "record") ∈ lw_tbl := lw_at lw_m3 188 rfl
theorem q722 : (Jvm.Cond.stringRef "Quirefold" (159 : Nat) "variable") ∈ lw_tbl := lw_at lw_m3 189 rfl
theorem q727 : (Jvm.Cond.instanceMethod ({ cls := "Quirefold", name := "grid", desc := "(III)V" } : Jvm.MethodName)) ∈ lw_all := lw_g (lw_at lw_m3 194 rfl) rfl
theorem q728 : (Jvm.Cond.selects "Quirefold" ({ cls := "Quirefold", name := "grid", desc := "(III)V" } : Jvm.MethodName) ({ cls := "Quirefold", name := "grid", desc := "(III)V" } : Jvm.MethodName)) ∈ lw_all := lw_g (lw_at lw_m3 195 rfl) rfl
theorem q729 : (Jvm.Cond.code ({ cls := "Quirefold", name := "grid", desc := "(III)V" } : Jvm.MethodName) prog_1_method_13_code (4 : Nat) (Option.none : Option Jvm.ClassFile.FieldType)) ∈ lw_all := lw_g (lw_at lw_m3 196 rfl) rfl
theorem q734 : (Jvm.Cond.instanceMethod ({ cls := "Quirefold", name := "see", desc := "(II)I" } : Jvm.MethodName)) ∈ lw_all := lw_g (lw_at lw_m3 201 rfl) rfl
theorem q735 : (Jvm.Cond.selects "Quirefold" ({ cls := "Quirefold", name := "see", desc := "(II)I" } : Jvm.MethodName) ({ cls := "Quirefold", name := "see", desc := "(II)I" } : Jvm.MethodName)) ∈ lw_all := lw_g (lw_at lw_m3 202 rfl) rfl
theorem q736 : (Jvm.Cond.code ({ cls := "Quirefold", name := "see", desc := "(II)I" } : Jvm.MethodName) prog_1_method_15_code (5 : Nat) (Option.some Jvm.ClassFile.FieldType.int)) ∈ lw_all := lw_g (lw_at lw_m3 203 rfl) rfl
theorem q737 : (Jvm.Cond.stringRef "Quirefold" (161 : Nat) "term") ∈ lw_tbl := lw_at lw_m3 204 rfl
theorem q738 : (Jvm.Cond.stringRef "Quirefold" (163 : Nat) "the term would lead to itself") ∈ lw_tbl := lw_at lw_m3 205 rfl
theorem q743 : (Jvm.Cond.instanceMethod ({ cls := "Quirefold", name := "fold", desc := "(II)V" } : Jvm.MethodName)) ∈ lw_all := lw_g (lw_at lw_m3 210 rfl) rfl
theorem q744 : (Jvm.Cond.selects "Quirefold" ({ cls := "Quirefold", name := "fold", desc := "(II)V" } : Jvm.MethodName) ({ cls := "Quirefold", name := "fold", desc := "(II)V" } : Jvm.MethodName)) ∈ lw_all := lw_g (lw_at lw_m3 211 rfl) rfl
theorem q745 : (Jvm.Cond.code ({ cls := "Quirefold", name := "fold", desc := "(II)V" } : Jvm.MethodName) prog_1_method_16_code (3 : Nat) (Option.none : Option Jvm.ClassFile.FieldType)) ∈ lw_all := lw_g (lw_at lw_m3 212 rfl) rfl
theorem q746 : (Jvm.Cond.stringRef "Quirefold" (165 : Nat) "no signature has ") ∈ lw_tbl := lw_at lw_m3 213 rfl
theorem q747 : (Jvm.Cond.stringRef "Quirefold" (167 : Nat) " pages") ∈ lw_tbl := lw_at lw_m3 214 rfl
theorem q752 : (Jvm.Cond.instanceMethod ({ cls := "Quirefold", name := "keep", desc := "(I)I" } : Jvm.MethodName)) ∈ lw_all := lw_g (lw_at lw_m3 219 rfl) rfl
theorem q753 : (Jvm.Cond.selects "Quirefold" ({ cls := "Quirefold", name := "keep", desc := "(I)I" } : Jvm.MethodName) ({ cls := "Quirefold", name := "keep", desc := "(I)I" } : Jvm.MethodName)) ∈ lw_all := lw_g (lw_at lw_m3 220 rfl) rfl
theorem q754 : (Jvm.Cond.code ({ cls := "Quirefold", name := "keep", desc := "(I)I" } : Jvm.MethodName) prog_1_method_17_code (4 : Nat) (Option.some Jvm.ClassFile.FieldType.int)) ∈ lw_all := lw_g (lw_at lw_m3 221 rfl) rfl
theorem q755 : (Jvm.Cond.methodLink "Quirefold" (99 : Nat) ({ cls := "Quirefold", name := "layout", desc := "(I)LQuirefold$Layout;" } : Jvm.MethodName)) ∈ lw_all := lw_g (lw_at lw_m3 222 rfl) rfl
theorem q756 : (Jvm.Cond.privateMethod ({ cls := "Quirefold", name := "layout", desc := "(I)LQuirefold$Layout;" } : Jvm.MethodName)) ∈ lw_tbl := lw_at lw_m3 223 rfl
theorem q757 : (Jvm.Cond.instanceMethod ({ cls := "Quirefold", name := "layout", desc := "(I)LQuirefold$Layout;" } : Jvm.MethodName)) ∈ lw_all := lw_g (lw_at lw_m3 224 rfl) rfl
theorem q758 : (Jvm.Cond.code ({ cls := "Quirefold", name := "layout", desc := "(I)LQuirefold$Layout;" } : Jvm.MethodName) prog_1_method_5_code (2 : Nat) (Option.some (Jvm.ClassFile.FieldType.object "Quirefold$Layout"))) ∈ lw_all := lw_g (lw_at lw_m3 225 rfl) rfl
theorem q760 : (Jvm.Cond.methodLink "Quirefold" (96 : Nat) ({ cls := "Quirefold$Layout", name := "<init>", desc := "(LQuirefold;I)V" } : Jvm.MethodName)) ∈ lw_all := lw_g (lw_at lw_m3 227 rfl) rfl
theorem q809 : (Jvm.Cond.fieldLinkNest "Quirefold" (213 : Nat) "Quirefold$Line" "isHead" "Z" "Quirefold") ∈ lw_tbl := lw_at lw_m4 36 rfl
theorem q812 : (Jvm.Cond.fieldLinkNest "Quirefold" (259 : Nat) "Quirefold$Line" "printed" "Ljava/util/List;" "Quirefold") ∈ lw_tbl := lw_at lw_m4 39 rfl
theorem q821 : (Jvm.Cond.fieldLinkNest "Quirefold" (187 : Nat) "Quirefold$Line" "column" "I" "Quirefold") ∈ lw_tbl := lw_at lw_m4 48 rfl
theorem q924 : (Jvm.Cond.fieldLinkNest "Quirefold" (103 : Nat) "Quirefold$Layout" "lines" "Ljava/util/List;" "Quirefold") ∈ lw_tbl := lw_at lw_m4 151 rfl
theorem q926 : (Jvm.Cond.fieldLinkNest "Quirefold" (179 : Nat) "Quirefold$Layout" "lineOf" "[I" "Quirefold") ∈ lw_tbl := lw_at lw_m4 153 rfl
theorem q928 : (Jvm.Cond.fieldLinkNest "Quirefold" (195 : Nat) "Quirefold$Layout" "columnOf" "[I" "Quirefold") ∈ lw_tbl := lw_at lw_m4 155 rfl
theorem q934 : (Jvm.Cond.fieldLinkNest "Quirefold" (205 : Nat) "Quirefold$Layout" "front" "I" "Quirefold") ∈ lw_tbl := lw_at lw_m4 161 rfl
theorem q957 : (Jvm.Cond.interfaceEntry "Quirefold" (169 : Nat)) ∈ lw_tbl := lw_at lw_m4 184 rfl
theorem q958 : (Jvm.Cond.methodLink "Quirefold" (169 : Nat) ({ cls := "java/util/List", name := "clear", desc := "()V" } : Jvm.MethodName)) ∈ lw_all := lw_g (lw_at lw_m4 185 rfl) rfl
theorem q966 : (Jvm.Cond.methodLink "Quirefold" (172 : Nat) ({ cls := "Quirefold$Layout", name := "rowsOf", desc := "(I)Ljava/util/List;" } : Jvm.MethodName)) ∈ lw_all := lw_g (lw_at lw_m4 193 rfl) rfl
theorem q1030 : (Jvm.Cond.interfaceEntry "Quirefold" (176 : Nat)) ∈ lw_tbl := lw_at lw_m5 17 rfl
theorem q1031 : (Jvm.Cond.methodLink "Quirefold" (176 : Nat) ({ cls := "java/util/List", name := "add", desc := "(Ljava/lang/Object;)Z" } : Jvm.MethodName)) ∈ lw_all := lw_g (lw_at lw_m5 18 rfl) rfl
theorem q1036 : (Jvm.Cond.instanceMethod ({ cls := "Quirefold", name := "lines", desc := "(I)I" } : Jvm.MethodName)) ∈ lw_all := lw_g (lw_at lw_m5 23 rfl) rfl
theorem q1037 : (Jvm.Cond.selects "Quirefold" ({ cls := "Quirefold", name := "lines", desc := "(I)I" } : Jvm.MethodName) ({ cls := "Quirefold", name := "lines", desc := "(I)I" } : Jvm.MethodName)) ∈ lw_all := lw_g (lw_at lw_m5 24 rfl) rfl
theorem q1038 : (Jvm.Cond.code ({ cls := "Quirefold", name := "lines", desc := "(I)I" } : Jvm.MethodName) prog_1_method_18_code (2 : Nat) (Option.some Jvm.ClassFile.FieldType.int)) ∈ lw_all := lw_g (lw_at lw_m5 25 rfl) rfl
theorem q1043 : (Jvm.Cond.instanceMethod ({ cls := "Quirefold", name := "lineOf", desc := "(II)I" } : Jvm.MethodName)) ∈ lw_all := lw_g (lw_at lw_m5 30 rfl) rfl
theorem q1044 : (Jvm.Cond.selects "Quirefold" ({ cls := "Quirefold", name := "lineOf", desc := "(II)I" } : Jvm.MethodName) ({ cls := "Quirefold", name := "lineOf", desc := "(II)I" } : Jvm.MethodName)) ∈ lw_all := lw_g (lw_at lw_m5 31 rfl) rfl
theorem q1045 : (Jvm.Cond.code ({ cls := "Quirefold", name := "lineOf", desc := "(II)I" } : Jvm.MethodName) prog_1_method_19_code (4 : Nat) (Option.some Jvm.ClassFile.FieldType.int)) ∈ lw_all := lw_g (lw_at lw_m5 32 rfl) rfl
theorem q1050 : (Jvm.Cond.instanceMethod ({ cls := "Quirefold", name := "columnOf", desc := "(IZI)I" } : Jvm.MethodName)) ∈ lw_all := lw_g (lw_at lw_m5 37 rfl) rfl
theorem q1051 : (Jvm.Cond.selects "Quirefold" ({ cls := "Quirefold", name := "columnOf", desc := "(IZI)I" } : Jvm.MethodName) ({ cls := "Quirefold", name := "columnOf", desc := "(IZI)I" } : Jvm.MethodName)) ∈ lw_all := lw_g (lw_at lw_m5 38 rfl) rfl
theorem q1052 : (Jvm.Cond.code ({ cls := "Quirefold", name := "columnOf", desc := "(IZI)I" } : Jvm.MethodName) prog_1_method_20_code (5 : Nat) (Option.some Jvm.ClassFile.FieldType.int)) ∈ lw_all := lw_g (lw_at lw_m5 39 rfl) rfl
theorem q1053 : (Jvm.Cond.stringRef "Quirefold" (112 : Nat) "line") ∈ lw_tbl := lw_at lw_m5 40 rfl
theorem q1054 : (Jvm.Cond.interfaceEntry "Quirefold" (182 : Nat)) ∈ lw_tbl := lw_at lw_m5 41 rfl
theorem q1055 : (Jvm.Cond.methodLink "Quirefold" (182 : Nat) ({ cls := "java/util/List", name := "get", desc := "(I)Ljava/lang/Object;" } : Jvm.MethodName)) ∈ lw_all := lw_g (lw_at lw_m5 42 rfl) rfl
theorem q1056 : (Jvm.Cond.classLink "Quirefold" (185 : Nat) "Quirefold$Line") ∈ lw_all := lw_g (lw_at lw_m5 43 rfl) rfl
theorem q1057 : (Jvm.Cond.stringRef "Quirefold" (193 : Nat) "no figure ") ∈ lw_tbl := lw_at lw_m5 44 rfl
theorem q1062 : (Jvm.Cond.instanceMethod ({ cls := "Quirefold", name := "pageOf", desc := "(II)I" } : Jvm.MethodName)) ∈ lw_all := lw_g (lw_at lw_m5 49 rfl) rfl
theorem q1063 : (Jvm.Cond.selects "Quirefold" ({ cls := "Quirefold", name := "pageOf", desc := "(II)I" } : Jvm.MethodName) ({ cls := "Quirefold", name := "pageOf", desc := "(II)I" } : Jvm.MethodName)) ∈ lw_all := lw_g (lw_at lw_m5 50 rfl) rfl
theorem q1064 : (Jvm.Cond.code ({ cls := "Quirefold", name := "pageOf", desc := "(II)I" } : Jvm.MethodName) prog_1_method_21_code (3 : Nat) (Option.some Jvm.ClassFile.FieldType.int)) ∈ lw_all := lw_g (lw_at lw_m5 51 rfl) rfl
theorem q1065 : (Jvm.Cond.methodLink "Quirefold" (198 : Nat) ({ cls := "Quirefold", name := "layout", desc := "(II)LQuirefold$Layout;" } : Jvm.MethodName)) ∈ lw_all := lw_g (lw_at lw_m5 52 rfl) rfl
theorem q1066 : (Jvm.Cond.privateMethod ({ cls := "Quirefold", name := "layout", desc := "(II)LQuirefold$Layout;" } : Jvm.MethodName)) ∈ lw_tbl := lw_at lw_m5 53 rfl
theorem q1067 : (Jvm.Cond.instanceMethod ({ cls := "Quirefold", name := "layout", desc := "(II)LQuirefold$Layout;" } : Jvm.MethodName)) ∈ lw_all := lw_g (lw_at lw_m5 54 rfl) rfl
theorem q1068 : (Jvm.Cond.code ({ cls := "Quirefold", name := "layout", desc := "(II)LQuirefold$Layout;" } : Jvm.MethodName) prog_1_method_6_code (4 : Nat) (Option.some (Jvm.ClassFile.FieldType.object "Quirefold$Layout"))) ∈ lw_all := lw_g (lw_at lw_m5 55 rfl) rfl
theorem q1069 : (Jvm.Cond.methodLink "Quirefold" (201 : Nat) ({ cls := "Quirefold$Layout", name := "page", desc := "(I)I" } : Jvm.MethodName)) ∈ lw_all := lw_g (lw_at lw_m5 56 rfl) rfl
theorem q1077 : (Jvm.Cond.instanceMethod ({ cls := "Quirefold", name := "pageAnew", desc := "(II)I" } : Jvm.MethodName)) ∈ lw_all := lw_g (lw_at lw_m5 64 rfl) rfl
theorem q1078 : (Jvm.Cond.selects "Quirefold" ({ cls := "Quirefold", name := "pageAnew", desc := "(II)I" } : Jvm.MethodName) ({ cls := "Quirefold", name := "pageAnew", desc := "(II)I" } : Jvm.MethodName)) ∈ lw_all := lw_g (lw_at lw_m5 65 rfl) rfl
theorem q1079 : (Jvm.Cond.code ({ cls := "Quirefold", name := "pageAnew", desc := "(II)I" } : Jvm.MethodName) prog_1_method_22_code (3 : Nat) (Option.some Jvm.ClassFile.FieldType.int)) ∈ lw_all := lw_g (lw_at lw_m5 66 rfl) rfl
theorem q1084 : (Jvm.Cond.instanceMethod ({ cls := "Quirefold", name := "pages", desc := "(I)I" } : Jvm.MethodName)) ∈ lw_all := lw_g (lw_at lw_m5 71 rfl) rfl
theorem q1085 : (Jvm.Cond.selects "Quirefold" ({ cls := "Quirefold", name := "pages", desc := "(I)I" } : Jvm.MethodName) ({ cls := "Quirefold", name := "pages", desc := "(I)I" } : Jvm.MethodName)) ∈ lw_all := lw_g (lw_at lw_m5 72 rfl) rfl
theorem q1086 : (Jvm.Cond.code ({ cls := "Quirefold", name := "pages", desc := "(I)I" } : Jvm.MethodName) prog_1_method_23_code (3 : Nat) (Option.some Jvm.ClassFile.FieldType.int)) ∈ lw_all := lw_g (lw_at lw_m5 73 rfl) rfl
theorem q1087 : (Jvm.Cond.methodLink "Quirefold" (208 : Nat) ({ cls := "Quirefold$Layout", name := "bodyPages", desc := "()I" } : Jvm.MethodName)) ∈ lw_all := lw_g (lw_at lw_m5 74 rfl) rfl
theorem q1095 : (Jvm.Cond.instanceMethod ({ cls := "Quirefold", name := "front", desc := "(I)I" } : Jvm.MethodName)) ∈ lw_all := lw_g (lw_at lw_m5 82 rfl) rfl
theorem q1096 : (Jvm.Cond.selects "Quirefold" ({ cls := "Quirefold", name := "front", desc := "(I)I" } : Jvm.MethodName) ({ cls := "Quirefold", name := "front", desc := "(I)I" } : Jvm.MethodName)) ∈ lw_all := lw_g (lw_at lw_m5 83 rfl) rfl
theorem q1097 : (Jvm.Cond.code ({ cls := "Quirefold", name := "front", desc := "(I)I" } : Jvm.MethodName) prog_1_method_24_code (2 : Nat) (Option.some Jvm.ClassFile.FieldType.int)) ∈ lw_all := lw_g (lw_at lw_m5 84 rfl) rfl
theorem q1102 : (Jvm.Cond.instanceMethod ({ cls := "Quirefold", name := "entry", desc := "(II)I" } : Jvm.MethodName)) ∈ lw_all := lw_g (lw_at lw_m5 89 rfl) rfl
theorem q1103 : (Jvm.Cond.selects "Quirefold" ({ cls := "Quirefold", name := "entry", desc := "(II)I" } : Jvm.MethodName) ({ cls := "Quirefold", name := "entry", desc := "(II)I" } : Jvm.MethodName)) ∈ lw_all := lw_g (lw_at lw_m5 90 rfl) rfl
theorem q1104 : (Jvm.Cond.code ({ cls := "Quirefold", name := "entry", desc := "(II)I" } : Jvm.MethodName) prog_1_method_25_code (6 : Nat) (Option.some Jvm.ClassFile.FieldType.int)) ∈ lw_all := lw_g (lw_at lw_m5 91 rfl) rfl
theorem q1105 : (Jvm.Cond.stringRef "Quirefold" (211 : Nat) "no entry ") ∈ lw_tbl := lw_at lw_m5 92 rfl
theorem q1110 : (Jvm.Cond.instanceMethod ({ cls := "Quirefold", name := "index", desc := "(III)I" } : Jvm.MethodName)) ∈ lw_all := lw_g (lw_at lw_m5 97 rfl) rfl
theorem q1111 : (Jvm.Cond.selects "Quirefold" ({ cls := "Quirefold", name := "index", desc := "(III)I" } : Jvm.MethodName) ({ cls := "Quirefold", name := "index", desc := "(III)I" } : Jvm.MethodName)) ∈ lw_all := lw_g (lw_at lw_m5 98 rfl) rfl
theorem q1112 : (Jvm.Cond.code ({ cls := "Quirefold", name := "index", desc := "(III)I" } : Jvm.MethodName) prog_1_method_27_code (9 : Nat) (Option.some Jvm.ClassFile.FieldType.int)) ∈ lw_all := lw_g (lw_at lw_m5 99 rfl) rfl
theorem q1113 : (Jvm.Cond.stringRef "Quirefold" (236 : Nat) "no part ") ∈ lw_tbl := lw_at lw_m5 100 rfl
theorem q1114 : (Jvm.Cond.methodLink "Quirefold" (238 : Nat) ({ cls := "Quirefold", name := "pagesOf", desc := "(LQuirefold$Layout;I)Ljava/util/List;" } : Jvm.MethodName)) ∈ lw_all := lw_g (lw_at lw_m5 101 rfl) rfl
theorem q1115 : (Jvm.Cond.privateMethod ({ cls := "Quirefold", name := "pagesOf", desc := "(LQuirefold$Layout;I)Ljava/util/List;" } : Jvm.MethodName)) ∈ lw_tbl := lw_at lw_m5 102 rfl
theorem q1116 : (Jvm.Cond.instanceMethod ({ cls := "Quirefold", name := "pagesOf", desc := "(LQuirefold$Layout;I)Ljava/util/List;" } : Jvm.MethodName)) ∈ lw_all := lw_g (lw_at lw_m5 103 rfl) rfl
theorem q1117 : (Jvm.Cond.code ({ cls := "Quirefold", name := "pagesOf", desc := "(LQuirefold$Layout;I)Ljava/util/List;" } : Jvm.MethodName) prog_1_method_26_code (8 : Nat) (Option.some (Jvm.ClassFile.FieldType.object "java/util/List"))) ∈ lw_all := lw_g (lw_at lw_m5 104 rfl) rfl
theorem q1118 : (Jvm.Cond.methodLink "Quirefold" (220 : Nat) ({ cls := "Quirefold", name := "rootOf", desc := "(I)I" } : Jvm.MethodName)) ∈ lw_all := lw_g (lw_at lw_m5 105 rfl) rfl
theorem q1119 : (Jvm.Cond.privateMethod ({ cls := "Quirefold", name := "rootOf", desc := "(I)I" } : Jvm.MethodName)) ∈ lw_tbl := lw_at lw_m5 106 rfl
theorem q1120 : (Jvm.Cond.instanceMethod ({ cls := "Quirefold", name := "rootOf", desc := "(I)I" } : Jvm.MethodName)) ∈ lw_all := lw_g (lw_at lw_m5 107 rfl) rfl
theorem q1121 : (Jvm.Cond.code ({ cls := "Quirefold", name := "rootOf", desc := "(I)I" } : Jvm.MethodName) prog_1_method_14_code (3 : Nat) (Option.some Jvm.ClassFile.FieldType.int)) ∈ lw_all := lw_g (lw_at lw_m5 108 rfl) rfl
theorem q1122 : (Jvm.Cond.interfaceEntry "Quirefold" (223 : Nat)) ∈ lw_tbl := lw_at lw_m5 109 rfl
theorem q1123 : (Jvm.Cond.methodLink "Quirefold" (223 : Nat) ({ cls := "java/util/List", name := "isEmpty", desc := "()Z" } : Jvm.MethodName)) ∈ lw_all := lw_g (lw_at lw_m5 110 rfl) rfl
theorem q1124 : (Jvm.Cond.classLink "Quirefold" (227 : Nat) "java/lang/Integer") ∈ lw_all := lw_g (lw_at lw_m5 111 rfl) rfl
theorem q1125 : (Jvm.Cond.methodLink "Quirefold" (229 : Nat) ({ cls := "java/lang/Integer", name := "intValue", desc := "()I" } : Jvm.MethodName)) ∈ lw_all := lw_g (lw_at lw_m5 112 rfl) rfl
theorem q1126 : (Jvm.Cond.methodLink "Quirefold" (232 : Nat) ({ cls := "java/lang/Integer", name := "valueOf", desc := "(I)Ljava/lang/Integer;" } : Jvm.MethodName)) ∈ lw_all := lw_g (lw_at lw_m5 113 rfl) rfl
theorem q1131 : (Jvm.Cond.instanceMethod ({ cls := "Quirefold", name := "sheet", desc := "(II)I" } : Jvm.MethodName)) ∈ lw_all := lw_g (lw_at lw_m5 118 rfl) rfl
theorem q1132 : (Jvm.Cond.selects "Quirefold" ({ cls := "Quirefold", name := "sheet", desc := "(II)I" } : Jvm.MethodName) ({ cls := "Quirefold", name := "sheet", desc := "(II)I" } : Jvm.MethodName)) ∈ lw_all := lw_g (lw_at lw_m5 119 rfl) rfl
theorem q1133 : (Jvm.Cond.code ({ cls := "Quirefold", name := "sheet", desc := "(II)I" } : Jvm.MethodName) prog_1_method_29_code (3 : Nat) (Option.some Jvm.ClassFile.FieldType.int)) ∈ lw_all := lw_g (lw_at lw_m5 120 rfl) rfl
theorem q1134 : (Jvm.Cond.stringRef "Quirefold" (248 : Nat) "page") ∈ lw_tbl := lw_at lw_m5 121 rfl
theorem q1135 : (Jvm.Cond.stringRef "Quirefold" (249 : Nat) "thing") ∈ lw_tbl := lw_at lw_m5 122 rfl
theorem q1136 : (Jvm.Cond.methodLink "Quirefold" (251 : Nat) ({ cls := "Quirefold", name := "sheetOf", desc := "(II)I" } : Jvm.MethodName)) ∈ lw_all := lw_g (lw_at lw_m5 123 rfl) rfl
theorem q1137 : (Jvm.Cond.privateMethod ({ cls := "Quirefold", name := "sheetOf", desc := "(II)I" } : Jvm.MethodName)) ∈ lw_tbl := lw_at lw_m5 124 rfl
theorem q1138 : (Jvm.Cond.instanceMethod ({ cls := "Quirefold", name := "sheetOf", desc := "(II)I" } : Jvm.MethodName)) ∈ lw_all := lw_g (lw_at lw_m5 125 rfl) rfl
theorem q1139 : (Jvm.Cond.code ({ cls := "Quirefold", name := "sheetOf", desc := "(II)I" } : Jvm.MethodName) prog_1_method_28_code (7 : Nat) (Option.some Jvm.ClassFile.FieldType.int)) ∈ lw_all := lw_g (lw_at lw_m5 126 rfl) rfl
theorem q1140 : (Jvm.Cond.methodLink "Quirefold" (242 : Nat) ({ cls := "java/lang/Math", name := "min", desc := "(II)I" } : Jvm.MethodName)) ∈ lw_all := lw_g (lw_at lw_m5 127 rfl) rfl
theorem q1145 : (Jvm.Cond.instanceMethod ({ cls := "Quirefold", name := "plate", desc := "(IIII)I" } : Jvm.MethodName)) ∈ lw_all := lw_g (lw_at lw_m5 132 rfl) rfl
theorem q1146 : (Jvm.Cond.selects "Quirefold" ({ cls := "Quirefold", name := "plate", desc := "(IIII)I" } : Jvm.MethodName) ({ cls := "Quirefold", name := "plate", desc := "(IIII)I" } : Jvm.MethodName)) ∈ lw_all := lw_g (lw_at lw_m5 133 rfl) rfl
theorem q1147 : (Jvm.Cond.code ({ cls := "Quirefold", name := "plate", desc := "(IIII)I" } : Jvm.MethodName) prog_1_method_30_code (11 : Nat) (Option.some Jvm.ClassFile.FieldType.int)) ∈ lw_all := lw_g (lw_at lw_m5 134 rfl) rfl
theorem q1148 : (Jvm.Cond.stringRef "Quirefold" (254 : Nat) "sheet") ∈ lw_tbl := lw_at lw_m5 135 rfl
theorem q1149 : (Jvm.Cond.stringRef "Quirefold" (256 : Nat) "side") ∈ lw_tbl := lw_at lw_m5 136 rfl
theorem q1150 : (Jvm.Cond.stringRef "Quirefold" (258 : Nat) "colour") ∈ lw_tbl := lw_at lw_m5 137 rfl
theorem q1151 : (Jvm.Cond.interfaceEntry "Quirefold" (262 : Nat)) ∈ lw_tbl := lw_at lw_m5 138 rfl
theorem q1152 : (Jvm.Cond.methodLink "Quirefold" (262 : Nat) ({ cls := "java/util/List", name := "iterator", desc := "()Ljava/util/Iterator;" } : Jvm.MethodName)) ∈ lw_all := lw_g (lw_at lw_m5 139 rfl) rfl
theorem q1153 : (Jvm.Cond.interfaceEntry "Quirefold" (266 : Nat)) ∈ lw_tbl := lw_at lw_m5 140 rfl
theorem q1154 : (Jvm.Cond.methodLink "Quirefold" (266 : Nat) ({ cls := "java/util/Iterator", name := "hasNext", desc := "()Z" } : Jvm.MethodName)) ∈ lw_all := lw_g (lw_at lw_m5 141 rfl) rfl
theorem q1155 : (Jvm.Cond.interfaceEntry "Quirefold" (271 : Nat)) ∈ lw_tbl := lw_at lw_m5 142 rfl
theorem q1156 : (Jvm.Cond.methodLink "Quirefold" (271 : Nat) ({ cls := "java/util/Iterator", name := "next", desc := "()Ljava/lang/Object;" } : Jvm.MethodName)) ∈ lw_all := lw_g (lw_at lw_m5 143 rfl) rfl
theorem q1157 : (Jvm.Cond.methodLink "Quirefold" (277 : Nat) ({ cls := "Quirefold$Style", name := "colour", desc := "()I" } : Jvm.MethodName)) ∈ lw_all := lw_g (lw_at lw_m5 144 rfl) rfl
theorem q1162 : (Jvm.Cond.instanceMethod ({ cls := "Quirefold", name := "faults", desc := "(II)I" } : Jvm.MethodName)) ∈ lw_all := lw_g (lw_at lw_m5 149 rfl) rfl
theorem q1163 : (Jvm.Cond.selects "Quirefold" ({ cls := "Quirefold", name := "faults", desc := "(II)I" } : Jvm.MethodName) ({ cls := "Quirefold", name := "faults", desc := "(II)I" } : Jvm.MethodName)) ∈ lw_all := lw_g (lw_at lw_m5 150 rfl) rfl
theorem q1164 : (Jvm.Cond.code ({ cls := "Quirefold", name := "faults", desc := "(II)I" } : Jvm.MethodName) prog_1_method_32_code (7 : Nat) (Option.some Jvm.ClassFile.FieldType.int)) ∈ lw_all := lw_g (lw_at lw_m5 151 rfl) rfl
theorem q1165 : (Jvm.Cond.stringRef "Quirefold" (279 : Nat) "kind") ∈ lw_tbl := lw_at lw_m5 152 rfl
theorem q1166 : (Jvm.Cond.methodLink "Quirefold" (280 : Nat) ({ cls := "Quirefold$Layout", name := "needs", desc := "(IZ)I" } : Jvm.MethodName)) ∈ lw_all := lw_g (lw_at lw_m5 153 rfl) rfl
theorem q1167 : (Jvm.Cond.methodLink "Quirefold" (284 : Nat) ({ cls := "Quirefold", name := "marksOf", desc := "(LQuirefold$Layout;I)I" } : Jvm.MethodName)) ∈ lw_all := lw_g (lw_at lw_m5 154 rfl) rfl
theorem q1168 : (Jvm.Cond.privateMethod ({ cls := "Quirefold", name := "marksOf", desc := "(LQuirefold$Layout;I)I" } : Jvm.MethodName)) ∈ lw_tbl := lw_at lw_m5 155 rfl
theorem q1169 : (Jvm.Cond.instanceMethod ({ cls := "Quirefold", name := "marksOf", desc := "(LQuirefold$Layout;I)I" } : Jvm.MethodName)) ∈ lw_all := lw_g (lw_at lw_m5 156 rfl) rfl
theorem q1170 : (Jvm.Cond.code ({ cls := "Quirefold", name := "marksOf", desc := "(LQuirefold$Layout;I)I" } : Jvm.MethodName) prog_1_method_31_code (5 : Nat) (Option.some Jvm.ClassFile.FieldType.int)) ∈ lw_all := lw_g (lw_at lw_m5 157 rfl) rfl
theorem q1171 : (Jvm.Cond.methodLinkNest "Quirefold" (288 : Nat) ({ cls := "Quirefold$Layout", name := "isPrinted", desc := "(LQuirefold$Token;)Z" } : Jvm.MethodName) "Quirefold") ∈ lw_tbl := lw_at lw_m5 158 rfl
theorem q1172 : (Jvm.Cond.methodLink "Quirefold" (292 : Nat) ({ cls := "Quirefold$Layout", name := "widthOf", desc := "(LQuirefold$Token;)I" } : Jvm.MethodName)) ∈ lw_all := lw_g (lw_at lw_m5 159 rfl) rfl
theorem q1177 : (Jvm.Cond.instanceMethod ({ cls := "Quirefold", name := "isNew", desc := "(II)Z" } : Jvm.MethodName)) ∈ lw_all := lw_g (lw_at lw_m5 164 rfl) rfl
theorem q1178 : (Jvm.Cond.selects "Quirefold" ({ cls := "Quirefold", name := "isNew", desc := "(II)Z" } : Jvm.MethodName) ({ cls := "Quirefold", name := "isNew", desc := "(II)Z" } : Jvm.MethodName)) ∈ lw_all := lw_g (lw_at lw_m5 165 rfl) rfl
theorem q1179 : (Jvm.Cond.code ({ cls := "Quirefold", name := "isNew", desc := "(II)Z" } : Jvm.MethodName) prog_1_method_33_code (7 : Nat) (Option.some Jvm.ClassFile.FieldType.boolean)) ∈ lw_all := lw_g (lw_at lw_m5 166 rfl) rfl
theorem q1180 : (Jvm.Cond.methodLink "Quirefold" (296 : Nat) ({ cls := "Quirefold$Layout", name := "isLike", desc := "(ILjava/util/List;)Z" } : Jvm.MethodName)) ∈ lw_all := lw_g (lw_at lw_m5 167 rfl) rfl
theorem q1185 : (Jvm.Cond.classLink "Quirefold" (107 : Nat) "java/util/List") ∈ lw_all := lw_g (lw_at lw_m5 172 rfl) rfl
theorem q1551 : (Jvm.Cond.castable "Quirefold" "java/lang/Object") ∈ lw_tbl := lw_at lw_m7 58 rfl
theorem in_X1 : ∀ w ∈ wsX10, w ∈ lw_all := lw_in wsX10 [164, 166, 168, 170, 172, 174, 176, 178, 180, 182, 184] (by decide +kernel) (by decide +kernel)

/-! Quirefold$Style -/
set_option maxRecDepth 100000
def RX2 : String := "Quirefold$Style"
def TX2 : u_T := fun k => match k with
  | 0 => ("Quirefold$Style", "base", "LQuirefold$Style;", false)
  | 1 => ("Quirefold$Style", "extra", "I", false)
  | _ => ("Quirefold$Style", "colour", "I", false)
def tyX2 : Nat → FieldType := fun k => match k with
  | 0 => .object "Quirefold$Style"
  | 1 => .int
  | _ => .int
abbrev wsX20 : List Cond := u_ws RX2 TX2 3
theorem nmX2 : ∀ a, a < 3 → ∀ b, b < 3 → a ≠ b → (TX2 a).2.1 ≠ (TX2 b).2.1 := by decide +kernel
theorem tyX2_ok : ∀ k, k < 3 → parseFieldDescriptor (TX2 k).2.2.1 = some (tyX2 k) := by decide +kernel
abbrev cX2_init : ByteArray := prog_4_method_1_code
def yX2_init : MethodName := ⟨RX2, "<init>", "()V"⟩
def dkwX2_init_0 : List UInt8 := [42, 183, 0, 3, 42, 2, 181, 0, 9, 42, 2, 181, 0, 15, 177]
abbrev dktX2_init_0 : List UInt8 := dkwX2_init_0 ++ []
theorem dksX2_init_0 : cX2_init.data.toList.drop 0 = dktX2_init_0 := by decide +kernel
theorem dX2_init_0 : decode cX2_init 0 = .ok (.aload_n 0, 1) := dk_42 (dk_at dksX2_init_0 0 rfl rfl)
theorem dX2_init_1 : decode cX2_init 1 = .ok (.invokespecial 3, 3) := dk_183 0 3 (dk_at dksX2_init_0 1 rfl rfl)
theorem dX2_init_4 : decode cX2_init 4 = .ok (.aload_n 0, 1) := dk_42 (dk_at dksX2_init_0 4 rfl rfl)
theorem dX2_init_5 : decode cX2_init 5 = .ok (.iconst (-1), 1) := dk_2 (dk_at dksX2_init_0 5 rfl rfl)
theorem dX2_init_6 : decode cX2_init 6 = .ok (.putfield 9, 3) := dk_181 0 9 (dk_at dksX2_init_0 6 rfl rfl)
theorem dX2_init_9 : decode cX2_init 9 = .ok (.aload_n 0, 1) := dk_42 (dk_at dksX2_init_0 9 rfl rfl)
theorem dX2_init_10 : decode cX2_init 10 = .ok (.iconst (-1), 1) := dk_2 (dk_at dksX2_init_0 10 rfl rfl)
theorem dX2_init_11 : decode cX2_init 11 = .ok (.putfield 15, 3) := dk_181 0 15 (dk_at dksX2_init_0 11 rfl rfl)
theorem dX2_init_14 : decode cX2_init 14 = .ok (.return_, 1) := dk_177 (dk_at dksX2_init_0 14 rfl rfl)
abbrev cX2_extra : ByteArray := prog_4_method_2_code
def yX2_extra : MethodName := ⟨RX2, "extra", "()I"⟩
def dkwX2_extra_1 : List UInt8 := [167, 0, 10, 42, 180, 0, 18, 182, 0, 22, 172]
abbrev dktX2_extra_1 : List UInt8 := dkwX2_extra_1 ++ []
def dkwX2_extra_0 : List UInt8 := [42, 180, 0, 9, 2, 159, 0, 10, 42, 180, 0, 9, 167, 0, 21, 42, 180, 0, 18, 199, 0, 7, 3]
abbrev dktX2_extra_0 : List UInt8 := dkwX2_extra_0 ++ dktX2_extra_1
theorem dksX2_extra_0 : cX2_extra.data.toList.drop 0 = dktX2_extra_0 := by decide +kernel
theorem dksX2_extra_1 : cX2_extra.data.toList.drop 23 = dktX2_extra_1 := dk_seg dksX2_extra_0 23 rfl rfl
theorem dX2_extra_0 : decode cX2_extra 0 = .ok (.aload_n 0, 1) := dk_42 (dk_at dksX2_extra_0 0 rfl rfl)
theorem dX2_extra_1 : decode cX2_extra 1 = .ok (.getfield 9, 3) := dk_180 0 9 (dk_at dksX2_extra_0 1 rfl rfl)
theorem dX2_extra_4 : decode cX2_extra 4 = .ok (.iconst (-1), 1) := dk_2 (dk_at dksX2_extra_0 4 rfl rfl)
theorem dX2_extra_5 : decode cX2_extra 5 = .ok (.if_icmp .eq 10, 3) := dk_159 0 10 (dk_at dksX2_extra_0 5 rfl rfl)
theorem dX2_extra_8 : decode cX2_extra 8 = .ok (.aload_n 0, 1) := dk_42 (dk_at dksX2_extra_0 8 rfl rfl)
theorem dX2_extra_9 : decode cX2_extra 9 = .ok (.getfield 9, 3) := dk_180 0 9 (dk_at dksX2_extra_0 9 rfl rfl)
theorem dX2_extra_12 : decode cX2_extra 12 = .ok (.goto 21, 3) := dk_167 0 21 (dk_at dksX2_extra_0 12 rfl rfl)
theorem dX2_extra_15 : decode cX2_extra 15 = .ok (.aload_n 0, 1) := dk_42 (dk_at dksX2_extra_0 15 rfl rfl)
theorem dX2_extra_16 : decode cX2_extra 16 = .ok (.getfield 18, 3) := dk_180 0 18 (dk_at dksX2_extra_0 16 rfl rfl)
theorem dX2_extra_19 : decode cX2_extra 19 = .ok (.ifnonnull 7, 3) := dk_199 0 7 (dk_at dksX2_extra_0 19 rfl rfl)
theorem dX2_extra_22 : decode cX2_extra 22 = .ok (.iconst 0, 1) := dk_3 (dk_at dksX2_extra_0 22 rfl rfl)
theorem dX2_extra_23 : decode cX2_extra 23 = .ok (.goto 10, 3) := dk_167 0 10 (dk_at dksX2_extra_1 0 rfl rfl)
theorem dX2_extra_26 : decode cX2_extra 26 = .ok (.aload_n 0, 1) := dk_42 (dk_at dksX2_extra_1 3 rfl rfl)
theorem dX2_extra_27 : decode cX2_extra 27 = .ok (.getfield 18, 3) := dk_180 0 18 (dk_at dksX2_extra_1 4 rfl rfl)
theorem dX2_extra_30 : decode cX2_extra 30 = .ok (.invokevirtual 22, 3) := dk_182 0 22 (dk_at dksX2_extra_1 7 rfl rfl)
theorem dX2_extra_33 : decode cX2_extra 33 = .ok (.ireturn, 1) := dk_172 (dk_at dksX2_extra_1 10 rfl rfl)
abbrev cX2_colour : ByteArray := prog_4_method_3_code
def yX2_colour : MethodName := ⟨RX2, "colour", "()I"⟩
def dkwX2_colour_1 : List UInt8 := [167, 0, 10, 42, 180, 0, 18, 182, 0, 25, 172]
abbrev dktX2_colour_1 : List UInt8 := dkwX2_colour_1 ++ []
def dkwX2_colour_0 : List UInt8 := [42, 180, 0, 15, 2, 159, 0, 10, 42, 180, 0, 15, 167, 0, 21, 42, 180, 0, 18, 199, 0, 7, 3]
abbrev dktX2_colour_0 : List UInt8 := dkwX2_colour_0 ++ dktX2_colour_1
theorem dksX2_colour_0 : cX2_colour.data.toList.drop 0 = dktX2_colour_0 := by decide +kernel
theorem dksX2_colour_1 : cX2_colour.data.toList.drop 23 = dktX2_colour_1 := dk_seg dksX2_colour_0 23 rfl rfl
theorem dX2_colour_0 : decode cX2_colour 0 = .ok (.aload_n 0, 1) := dk_42 (dk_at dksX2_colour_0 0 rfl rfl)
theorem dX2_colour_1 : decode cX2_colour 1 = .ok (.getfield 15, 3) := dk_180 0 15 (dk_at dksX2_colour_0 1 rfl rfl)
theorem dX2_colour_4 : decode cX2_colour 4 = .ok (.iconst (-1), 1) := dk_2 (dk_at dksX2_colour_0 4 rfl rfl)
theorem dX2_colour_5 : decode cX2_colour 5 = .ok (.if_icmp .eq 10, 3) := dk_159 0 10 (dk_at dksX2_colour_0 5 rfl rfl)
theorem dX2_colour_8 : decode cX2_colour 8 = .ok (.aload_n 0, 1) := dk_42 (dk_at dksX2_colour_0 8 rfl rfl)
theorem dX2_colour_9 : decode cX2_colour 9 = .ok (.getfield 15, 3) := dk_180 0 15 (dk_at dksX2_colour_0 9 rfl rfl)
theorem dX2_colour_12 : decode cX2_colour 12 = .ok (.goto 21, 3) := dk_167 0 21 (dk_at dksX2_colour_0 12 rfl rfl)
theorem dX2_colour_15 : decode cX2_colour 15 = .ok (.aload_n 0, 1) := dk_42 (dk_at dksX2_colour_0 15 rfl rfl)
theorem dX2_colour_16 : decode cX2_colour 16 = .ok (.getfield 18, 3) := dk_180 0 18 (dk_at dksX2_colour_0 16 rfl rfl)
theorem dX2_colour_19 : decode cX2_colour 19 = .ok (.ifnonnull 7, 3) := dk_199 0 7 (dk_at dksX2_colour_0 19 rfl rfl)
theorem dX2_colour_22 : decode cX2_colour 22 = .ok (.iconst 0, 1) := dk_3 (dk_at dksX2_colour_0 22 rfl rfl)
theorem dX2_colour_23 : decode cX2_colour 23 = .ok (.goto 10, 3) := dk_167 0 10 (dk_at dksX2_colour_1 0 rfl rfl)
theorem dX2_colour_26 : decode cX2_colour 26 = .ok (.aload_n 0, 1) := dk_42 (dk_at dksX2_colour_1 3 rfl rfl)
theorem dX2_colour_27 : decode cX2_colour 27 = .ok (.getfield 18, 3) := dk_180 0 18 (dk_at dksX2_colour_1 4 rfl rfl)
theorem dX2_colour_30 : decode cX2_colour 30 = .ok (.invokevirtual 25, 3) := dk_182 0 25 (dk_at dksX2_colour_1 7 rfl rfl)
theorem dX2_colour_33 : decode cX2_colour 33 = .ok (.ireturn, 1) := dk_172 (dk_at dksX2_colour_1 10 rfl rfl)
theorem q58 : (Jvm.Cond.initialized "Quirefold$Style") ∈ lw_all := lw_g (lw_at lw_m1 5 rfl) rfl
theorem q128 : (Jvm.Cond.instantiable "Quirefold$Style" (3 : Nat)) ∈ lw_all := lw_g (lw_at lw_m1 75 rfl) rfl
theorem q130 : (Jvm.Cond.instanceMethod ({ cls := "Quirefold$Style", name := "<init>", desc := "()V" } : Jvm.MethodName)) ∈ lw_all := lw_g (lw_at lw_m1 77 rfl) rfl
theorem q131 : (Jvm.Cond.code ({ cls := "Quirefold$Style", name := "<init>", desc := "()V" } : Jvm.MethodName) prog_4_method_1_code (1 : Nat) (Option.none : Option Jvm.ClassFile.FieldType)) ∈ lw_all := lw_g (lw_at lw_m1 78 rfl) rfl
theorem q132 : (Jvm.Cond.methodLink "Quirefold$Style" (3 : Nat) ({ cls := "java/lang/Object", name := "<init>", desc := "()V" } : Jvm.MethodName)) ∈ lw_all := lw_g (lw_at lw_m1 79 rfl) rfl
theorem q133 : (Jvm.Cond.fieldLink "Quirefold$Style" (18 : Nat) "Quirefold$Style" "base" "LQuirefold$Style;") ∈ lw_all := lw_g (lw_at lw_m1 80 rfl) rfl
theorem q135 : (Jvm.Cond.fieldLink "Quirefold$Style" (9 : Nat) "Quirefold$Style" "extra" "I") ∈ lw_all := lw_g (lw_at lw_m1 82 rfl) rfl
theorem q137 : (Jvm.Cond.fieldLink "Quirefold$Style" (15 : Nat) "Quirefold$Style" "colour" "I") ∈ lw_all := lw_g (lw_at lw_m1 84 rfl) rfl
theorem q139 : (Jvm.Cond.lays "Quirefold$Style" "Quirefold$Style" "base" "LQuirefold$Style;") ∈ lw_all := lw_g (lw_at lw_m1 86 rfl) rfl
theorem q140 : (Jvm.Cond.soleField "Quirefold$Style" "base") ∈ lw_all := lw_g (lw_at lw_m1 87 rfl) rfl
theorem q141 : (Jvm.Cond.lays "Quirefold$Style" "Quirefold$Style" "extra" "I") ∈ lw_all := lw_g (lw_at lw_m1 88 rfl) rfl
theorem q142 : (Jvm.Cond.soleField "Quirefold$Style" "extra") ∈ lw_all := lw_g (lw_at lw_m1 89 rfl) rfl
theorem q143 : (Jvm.Cond.lays "Quirefold$Style" "Quirefold$Style" "colour" "I") ∈ lw_all := lw_g (lw_at lw_m1 90 rfl) rfl
theorem q144 : (Jvm.Cond.soleField "Quirefold$Style" "colour") ∈ lw_all := lw_g (lw_at lw_m1 91 rfl) rfl
theorem q145 : (Jvm.Cond.superclass "Quirefold$Style" "java/lang/Object") ∈ lw_all := lw_g (lw_at lw_m1 92 rfl) rfl
theorem q652 : (Jvm.Cond.selects "Quirefold$Style" ({ cls := "java/lang/Object", name := "getClass", desc := "()Ljava/lang/Class;" } : Jvm.MethodName) ({ cls := "java/lang/Object", name := "getClass", desc := "()Ljava/lang/Class;" } : Jvm.MethodName)) ∈ lw_all := lw_g (lw_at lw_m3 119 rfl) rfl
theorem q795 : (Jvm.Cond.instanceMethod ({ cls := "Quirefold$Style", name := "extra", desc := "()I" } : Jvm.MethodName)) ∈ lw_all := lw_g (lw_at lw_m4 22 rfl) rfl
theorem q796 : (Jvm.Cond.selects "Quirefold$Style" ({ cls := "Quirefold$Style", name := "extra", desc := "()I" } : Jvm.MethodName) ({ cls := "Quirefold$Style", name := "extra", desc := "()I" } : Jvm.MethodName)) ∈ lw_all := lw_g (lw_at lw_m4 23 rfl) rfl
theorem q797 : (Jvm.Cond.code ({ cls := "Quirefold$Style", name := "extra", desc := "()I" } : Jvm.MethodName) prog_4_method_2_code (1 : Nat) (Option.some Jvm.ClassFile.FieldType.int)) ∈ lw_all := lw_g (lw_at lw_m4 24 rfl) rfl
theorem q798 : (Jvm.Cond.methodLink "Quirefold$Style" (22 : Nat) ({ cls := "Quirefold$Style", name := "extra", desc := "()I" } : Jvm.MethodName)) ∈ lw_all := lw_g (lw_at lw_m4 25 rfl) rfl
theorem q1026 : (Jvm.Cond.instanceMethod ({ cls := "Quirefold$Style", name := "colour", desc := "()I" } : Jvm.MethodName)) ∈ lw_all := lw_g (lw_at lw_m5 13 rfl) rfl
theorem q1027 : (Jvm.Cond.selects "Quirefold$Style" ({ cls := "Quirefold$Style", name := "colour", desc := "()I" } : Jvm.MethodName) ({ cls := "Quirefold$Style", name := "colour", desc := "()I" } : Jvm.MethodName)) ∈ lw_all := lw_g (lw_at lw_m5 14 rfl) rfl
theorem q1028 : (Jvm.Cond.code ({ cls := "Quirefold$Style", name := "colour", desc := "()I" } : Jvm.MethodName) prog_4_method_3_code (1 : Nat) (Option.some Jvm.ClassFile.FieldType.int)) ∈ lw_all := lw_g (lw_at lw_m5 15 rfl) rfl
theorem q1029 : (Jvm.Cond.methodLink "Quirefold$Style" (25 : Nat) ({ cls := "Quirefold$Style", name := "colour", desc := "()I" } : Jvm.MethodName)) ∈ lw_all := lw_g (lw_at lw_m5 16 rfl) rfl
theorem q1549 : (Jvm.Cond.castable "Quirefold$Style" "java/lang/Object") ∈ lw_tbl := lw_at lw_m7 56 rfl
theorem in_X2 : ∀ w ∈ wsX20, w ∈ lw_all := lw_in wsX20 [139, 141, 143] (by decide +kernel) (by decide +kernel)

/-! Quirefold$Token -/
set_option maxRecDepth 100000
def RX4 : String := "Quirefold$Token"
def TX4 : u_T := fun k => match k with
  | 0 => ("Quirefold$Token", "kind", "I", true)
  | 1 => ("Quirefold$Token", "a", "I", true)
  | _ => ("Quirefold$Token", "style", "I", true)
def tyX4 : Nat → FieldType := fun k => match k with
  | 0 => .int
  | 1 => .int
  | _ => .int
abbrev wsX40 : List Cond := u_ws RX4 TX4 3
theorem nmX4 : ∀ a, a < 3 → ∀ b, b < 3 → a ≠ b → (TX4 a).2.1 ≠ (TX4 b).2.1 := by decide +kernel
theorem tyX4_ok : ∀ k, k < 3 → parseFieldDescriptor (TX4 k).2.2.1 = some (tyX4 k) := by decide +kernel
abbrev cX4_init : ByteArray := prog_5_method_1_code
def yX4_init : MethodName := ⟨RX4, "<init>", "(III)V"⟩
def dkwX4_init_0 : List UInt8 := [42, 183, 0, 1, 42, 27, 181, 0, 7, 42, 28, 181, 0, 13, 42, 29, 181, 0, 16, 177]
abbrev dktX4_init_0 : List UInt8 := dkwX4_init_0 ++ []
theorem dksX4_init_0 : cX4_init.data.toList.drop 0 = dktX4_init_0 := by decide +kernel
theorem dX4_init_0 : decode cX4_init 0 = .ok (.aload_n 0, 1) := dk_42 (dk_at dksX4_init_0 0 rfl rfl)
theorem dX4_init_1 : decode cX4_init 1 = .ok (.invokespecial 1, 3) := dk_183 0 1 (dk_at dksX4_init_0 1 rfl rfl)
theorem dX4_init_4 : decode cX4_init 4 = .ok (.aload_n 0, 1) := dk_42 (dk_at dksX4_init_0 4 rfl rfl)
theorem dX4_init_5 : decode cX4_init 5 = .ok (.iload_n 1, 1) := dk_27 (dk_at dksX4_init_0 5 rfl rfl)
theorem dX4_init_6 : decode cX4_init 6 = .ok (.putfield 7, 3) := dk_181 0 7 (dk_at dksX4_init_0 6 rfl rfl)
theorem dX4_init_9 : decode cX4_init 9 = .ok (.aload_n 0, 1) := dk_42 (dk_at dksX4_init_0 9 rfl rfl)
theorem dX4_init_10 : decode cX4_init 10 = .ok (.iload_n 2, 1) := dk_28 (dk_at dksX4_init_0 10 rfl rfl)
theorem dX4_init_11 : decode cX4_init 11 = .ok (.putfield 13, 3) := dk_181 0 13 (dk_at dksX4_init_0 11 rfl rfl)
theorem dX4_init_14 : decode cX4_init 14 = .ok (.aload_n 0, 1) := dk_42 (dk_at dksX4_init_0 14 rfl rfl)
theorem dX4_init_15 : decode cX4_init 15 = .ok (.iload_n 3, 1) := dk_29 (dk_at dksX4_init_0 15 rfl rfl)
theorem dX4_init_16 : decode cX4_init 16 = .ok (.putfield 16, 3) := dk_181 0 16 (dk_at dksX4_init_0 16 rfl rfl)
theorem dX4_init_19 : decode cX4_init 19 = .ok (.return_, 1) := dk_177 (dk_at dksX4_init_0 19 rfl rfl)
theorem q79 : (Jvm.Cond.initialized "Quirefold$Token") ∈ lw_all := lw_g (lw_at lw_m1 26 rfl) rfl
theorem q587 : (Jvm.Cond.instantiable "Quirefold$Token" (3 : Nat)) ∈ lw_all := lw_g (lw_at lw_m3 54 rfl) rfl
theorem q589 : (Jvm.Cond.instanceMethod ({ cls := "Quirefold$Token", name := "<init>", desc := "(III)V" } : Jvm.MethodName)) ∈ lw_all := lw_g (lw_at lw_m3 56 rfl) rfl
theorem q590 : (Jvm.Cond.code ({ cls := "Quirefold$Token", name := "<init>", desc := "(III)V" } : Jvm.MethodName) prog_5_method_1_code (4 : Nat) (Option.none : Option Jvm.ClassFile.FieldType)) ∈ lw_all := lw_g (lw_at lw_m3 57 rfl) rfl
theorem q591 : (Jvm.Cond.methodLink "Quirefold$Token" (1 : Nat) ({ cls := "java/lang/Object", name := "<init>", desc := "()V" } : Jvm.MethodName)) ∈ lw_all := lw_g (lw_at lw_m3 58 rfl) rfl
theorem q592 : (Jvm.Cond.fieldLink "Quirefold$Token" (7 : Nat) "Quirefold$Token" "kind" "I") ∈ lw_all := lw_g (lw_at lw_m3 59 rfl) rfl
theorem q595 : (Jvm.Cond.fieldLink "Quirefold$Token" (13 : Nat) "Quirefold$Token" "a" "I") ∈ lw_all := lw_g (lw_at lw_m3 62 rfl) rfl
theorem q598 : (Jvm.Cond.fieldLink "Quirefold$Token" (16 : Nat) "Quirefold$Token" "style" "I") ∈ lw_all := lw_g (lw_at lw_m3 65 rfl) rfl
theorem q601 : (Jvm.Cond.laysFinal "Quirefold$Token" "Quirefold$Token" "kind" "I") ∈ lw_all := lw_g (lw_at lw_m3 68 rfl) rfl
theorem q602 : (Jvm.Cond.soleField "Quirefold$Token" "kind") ∈ lw_all := lw_g (lw_at lw_m3 69 rfl) rfl
theorem q603 : (Jvm.Cond.laysFinal "Quirefold$Token" "Quirefold$Token" "a" "I") ∈ lw_all := lw_g (lw_at lw_m3 70 rfl) rfl
theorem q604 : (Jvm.Cond.soleField "Quirefold$Token" "a") ∈ lw_all := lw_g (lw_at lw_m3 71 rfl) rfl
theorem q605 : (Jvm.Cond.laysFinal "Quirefold$Token" "Quirefold$Token" "style" "I") ∈ lw_all := lw_g (lw_at lw_m3 72 rfl) rfl
theorem q606 : (Jvm.Cond.soleField "Quirefold$Token" "style") ∈ lw_all := lw_g (lw_at lw_m3 73 rfl) rfl
theorem q607 : (Jvm.Cond.superclass "Quirefold$Token" "java/lang/Object") ∈ lw_all := lw_g (lw_at lw_m3 74 rfl) rfl
theorem q653 : (Jvm.Cond.selects "Quirefold$Token" ({ cls := "java/lang/Object", name := "getClass", desc := "()Ljava/lang/Class;" } : Jvm.MethodName) ({ cls := "java/lang/Object", name := "getClass", desc := "()Ljava/lang/Class;" } : Jvm.MethodName)) ∈ lw_all := lw_g (lw_at lw_m3 120 rfl) rfl
theorem q1560 : (Jvm.Cond.castable "Quirefold$Token" "java/lang/Object") ∈ lw_tbl := lw_at lw_m7 67 rfl
theorem in_X4 : ∀ w ∈ wsX40, w ∈ lw_all := lw_in wsX40 [601, 603, 605] (by decide +kernel) (by decide +kernel)

/-! Quirefold$Layout -/
set_option maxRecDepth 100000
def RX5 : String := "Quirefold$Layout"
def TX5 : u_T := fun k => match k with
  | 0 => ("Quirefold$Layout", "record", "I", true)
  | 1 => ("Quirefold$Layout", "lines", "Ljava/util/List;", true)
  | 2 => ("Quirefold$Layout", "lineOf", "[I", true)
  | 3 => ("Quirefold$Layout", "columnOf", "[I", true)
  | 4 => ("Quirefold$Layout", "waiting", "Ljava/util/List;", true)
  | 5 => ("Quirefold$Layout", "columns", "I", false)
  | 6 => ("Quirefold$Layout", "used", "I", false)
  | 7 => ("Quirefold$Layout", "hasLine", "Z", false)
  | 8 => ("Quirefold$Layout", "front", "I", false)
  | _ => ("Quirefold$Layout", "this$0", "LQuirefold;", true)
def tyX5 : Nat → FieldType := fun k => match k with
  | 0 => .int
  | 1 => .object "java/util/List"
  | 2 => .array .int
  | 3 => .array .int
  | 4 => .object "java/util/List"
  | 5 => .int
  | 6 => .int
  | 7 => .boolean
  | 8 => .int
  | _ => .object "Quirefold"
abbrev wsX50 : List Cond := u_ws RX5 TX5 10
theorem nmX5 : ∀ a, a < 10 → ∀ b, b < 10 → a ≠ b → (TX5 a).2.1 ≠ (TX5 b).2.1 := by decide +kernel
theorem tyX5_ok : ∀ k, k < 10 → parseFieldDescriptor (TX5 k).2.2.1 = some (tyX5 k) := by decide +kernel
abbrev cX5_init : ByteArray := prog_2_method_1_code
def yX5_init : MethodName := ⟨RX5, "<init>", "(LQuirefold;I)V"⟩
def dkwX5_init_4 : List UInt8 := [182, 0, 45, 181, 0, 49, 177]
abbrev dktX5_init_4 : List UInt8 := dkwX5_init_4 ++ []
def dkwX5_init_3 : List UInt8 := [29, 2, 79, 132, 3, 1, 167, 255, 233, 42, 182, 0, 36, 42, 182, 0, 39, 42, 182, 0, 42, 42, 42]
abbrev dktX5_init_3 : List UInt8 := dkwX5_init_3 ++ dktX5_init_4
def dkwX5_init_2 : List UInt8 := [42, 28, 181, 0, 32, 3, 62, 29, 16, 120, 162, 0, 23, 42, 180, 0, 22, 29, 2, 79, 42, 180, 0, 26]
abbrev dktX5_init_2 : List UInt8 := dkwX5_init_2 ++ dktX5_init_3
def dkwX5_init_1 : List UInt8 := [188, 10, 181, 0, 22, 42, 16, 120, 188, 10, 181, 0, 26, 42, 187, 0, 15, 89, 183, 0, 17, 181, 0, 29]
abbrev dktX5_init_1 : List UInt8 := dkwX5_init_1 ++ dktX5_init_2
def dkwX5_init_0 : List UInt8 := [42, 43, 181, 0, 3, 42, 183, 0, 9, 42, 187, 0, 15, 89, 183, 0, 17, 181, 0, 18, 42, 16, 120]
abbrev dktX5_init_0 : List UInt8 := dkwX5_init_0 ++ dktX5_init_1
theorem dksX5_init_0 : cX5_init.data.toList.drop 0 = dktX5_init_0 := by decide +kernel
theorem dksX5_init_1 : cX5_init.data.toList.drop 23 = dktX5_init_1 := dk_seg dksX5_init_0 23 rfl rfl
theorem dksX5_init_2 : cX5_init.data.toList.drop 47 = dktX5_init_2 := dk_seg dksX5_init_1 24 rfl rfl
theorem dksX5_init_3 : cX5_init.data.toList.drop 71 = dktX5_init_3 := dk_seg dksX5_init_2 24 rfl rfl
theorem dksX5_init_4 : cX5_init.data.toList.drop 94 = dktX5_init_4 := dk_seg dksX5_init_3 23 rfl rfl
theorem dX5_init_0 : decode cX5_init 0 = .ok (.aload_n 0, 1) := dk_42 (dk_at dksX5_init_0 0 rfl rfl)
theorem dX5_init_1 : decode cX5_init 1 = .ok (.aload_n 1, 1) := dk_43 (dk_at dksX5_init_0 1 rfl rfl)
theorem dX5_init_2 : decode cX5_init 2 = .ok (.putfield 3, 3) := dk_181 0 3 (dk_at dksX5_init_0 2 rfl rfl)
theorem dX5_init_5 : decode cX5_init 5 = .ok (.aload_n 0, 1) := dk_42 (dk_at dksX5_init_0 5 rfl rfl)
theorem dX5_init_6 : decode cX5_init 6 = .ok (.invokespecial 9, 3) := dk_183 0 9 (dk_at dksX5_init_0 6 rfl rfl)
theorem dX5_init_9 : decode cX5_init 9 = .ok (.aload_n 0, 1) := dk_42 (dk_at dksX5_init_0 9 rfl rfl)
theorem dX5_init_10 : decode cX5_init 10 = .ok (.new 15, 3) := dk_187 0 15 (dk_at dksX5_init_0 10 rfl rfl)
theorem dX5_init_13 : decode cX5_init 13 = .ok (.dup, 1) := dk_89 (dk_at dksX5_init_0 13 rfl rfl)
theorem dX5_init_14 : decode cX5_init 14 = .ok (.invokespecial 17, 3) := dk_183 0 17 (dk_at dksX5_init_0 14 rfl rfl)
theorem dX5_init_17 : decode cX5_init 17 = .ok (.putfield 18, 3) := dk_181 0 18 (dk_at dksX5_init_0 17 rfl rfl)
theorem dX5_init_20 : decode cX5_init 20 = .ok (.aload_n 0, 1) := dk_42 (dk_at dksX5_init_0 20 rfl rfl)
theorem dX5_init_21 : decode cX5_init 21 = .ok (.bipush 120, 2) := dk_16 120 (dk_at dksX5_init_0 21 rfl rfl)
theorem dX5_init_23 : decode cX5_init 23 = .ok (.newarray .int, 2) := dk_188_10 (dk_at dksX5_init_1 0 rfl rfl)
theorem dX5_init_25 : decode cX5_init 25 = .ok (.putfield 22, 3) := dk_181 0 22 (dk_at dksX5_init_1 2 rfl rfl)
theorem dX5_init_28 : decode cX5_init 28 = .ok (.aload_n 0, 1) := dk_42 (dk_at dksX5_init_1 5 rfl rfl)
theorem dX5_init_29 : decode cX5_init 29 = .ok (.bipush 120, 2) := dk_16 120 (dk_at dksX5_init_1 6 rfl rfl)
theorem dX5_init_31 : decode cX5_init 31 = .ok (.newarray .int, 2) := dk_188_10 (dk_at dksX5_init_1 8 rfl rfl)
theorem dX5_init_33 : decode cX5_init 33 = .ok (.putfield 26, 3) := dk_181 0 26 (dk_at dksX5_init_1 10 rfl rfl)
theorem dX5_init_36 : decode cX5_init 36 = .ok (.aload_n 0, 1) := dk_42 (dk_at dksX5_init_1 13 rfl rfl)
theorem dX5_init_37 : decode cX5_init 37 = .ok (.new 15, 3) := dk_187 0 15 (dk_at dksX5_init_1 14 rfl rfl)
theorem dX5_init_40 : decode cX5_init 40 = .ok (.dup, 1) := dk_89 (dk_at dksX5_init_1 17 rfl rfl)
theorem dX5_init_41 : decode cX5_init 41 = .ok (.invokespecial 17, 3) := dk_183 0 17 (dk_at dksX5_init_1 18 rfl rfl)
theorem dX5_init_44 : decode cX5_init 44 = .ok (.putfield 29, 3) := dk_181 0 29 (dk_at dksX5_init_1 21 rfl rfl)
theorem dX5_init_47 : decode cX5_init 47 = .ok (.aload_n 0, 1) := dk_42 (dk_at dksX5_init_2 0 rfl rfl)
theorem dX5_init_48 : decode cX5_init 48 = .ok (.iload_n 2, 1) := dk_28 (dk_at dksX5_init_2 1 rfl rfl)
theorem dX5_init_49 : decode cX5_init 49 = .ok (.putfield 32, 3) := dk_181 0 32 (dk_at dksX5_init_2 2 rfl rfl)
theorem dX5_init_52 : decode cX5_init 52 = .ok (.iconst 0, 1) := dk_3 (dk_at dksX5_init_2 5 rfl rfl)
theorem dX5_init_53 : decode cX5_init 53 = .ok (.istore_n 3, 1) := dk_62 (dk_at dksX5_init_2 6 rfl rfl)
theorem dX5_init_54 : decode cX5_init 54 = .ok (.iload_n 3, 1) := dk_29 (dk_at dksX5_init_2 7 rfl rfl)
theorem dX5_init_55 : decode cX5_init 55 = .ok (.bipush 120, 2) := dk_16 120 (dk_at dksX5_init_2 8 rfl rfl)
theorem dX5_init_57 : decode cX5_init 57 = .ok (.if_icmp .ge 23, 3) := dk_162 0 23 (dk_at dksX5_init_2 10 rfl rfl)
theorem dX5_init_60 : decode cX5_init 60 = .ok (.aload_n 0, 1) := dk_42 (dk_at dksX5_init_2 13 rfl rfl)
theorem dX5_init_61 : decode cX5_init 61 = .ok (.getfield 22, 3) := dk_180 0 22 (dk_at dksX5_init_2 14 rfl rfl)
theorem dX5_init_64 : decode cX5_init 64 = .ok (.iload_n 3, 1) := dk_29 (dk_at dksX5_init_2 17 rfl rfl)
theorem dX5_init_65 : decode cX5_init 65 = .ok (.iconst (-1), 1) := dk_2 (dk_at dksX5_init_2 18 rfl rfl)
theorem dX5_init_66 : decode cX5_init 66 = .ok (.iastore, 1) := dk_79 (dk_at dksX5_init_2 19 rfl rfl)
theorem dX5_init_67 : decode cX5_init 67 = .ok (.aload_n 0, 1) := dk_42 (dk_at dksX5_init_2 20 rfl rfl)
theorem dX5_init_68 : decode cX5_init 68 = .ok (.getfield 26, 3) := dk_180 0 26 (dk_at dksX5_init_2 21 rfl rfl)
theorem dX5_init_71 : decode cX5_init 71 = .ok (.iload_n 3, 1) := dk_29 (dk_at dksX5_init_3 0 rfl rfl)
theorem dX5_init_72 : decode cX5_init 72 = .ok (.iconst (-1), 1) := dk_2 (dk_at dksX5_init_3 1 rfl rfl)
theorem dX5_init_73 : decode cX5_init 73 = .ok (.iastore, 1) := dk_79 (dk_at dksX5_init_3 2 rfl rfl)
theorem dX5_init_74 : decode cX5_init 74 = .ok (.iinc 3 1, 3) := dk_132 3 1 (dk_at dksX5_init_3 3 rfl rfl)
theorem dX5_init_77 : decode cX5_init 77 = .ok (.goto (-23), 3) := dk_167 255 233 (dk_at dksX5_init_3 6 rfl rfl)
theorem dX5_init_80 : decode cX5_init 80 = .ok (.aload_n 0, 1) := dk_42 (dk_at dksX5_init_3 9 rfl rfl)
theorem dX5_init_81 : decode cX5_init 81 = .ok (.invokevirtual 36, 3) := dk_182 0 36 (dk_at dksX5_init_3 10 rfl rfl)
theorem dX5_init_84 : decode cX5_init 84 = .ok (.aload_n 0, 1) := dk_42 (dk_at dksX5_init_3 13 rfl rfl)
theorem dX5_init_85 : decode cX5_init 85 = .ok (.invokevirtual 39, 3) := dk_182 0 39 (dk_at dksX5_init_3 14 rfl rfl)
theorem dX5_init_88 : decode cX5_init 88 = .ok (.aload_n 0, 1) := dk_42 (dk_at dksX5_init_3 17 rfl rfl)
theorem dX5_init_89 : decode cX5_init 89 = .ok (.invokevirtual 42, 3) := dk_182 0 42 (dk_at dksX5_init_3 18 rfl rfl)
theorem dX5_init_92 : decode cX5_init 92 = .ok (.aload_n 0, 1) := dk_42 (dk_at dksX5_init_3 21 rfl rfl)
theorem dX5_init_93 : decode cX5_init 93 = .ok (.aload_n 0, 1) := dk_42 (dk_at dksX5_init_3 22 rfl rfl)
theorem dX5_init_94 : decode cX5_init 94 = .ok (.invokevirtual 45, 3) := dk_182 0 45 (dk_at dksX5_init_4 0 rfl rfl)
theorem dX5_init_97 : decode cX5_init 97 = .ok (.putfield 49, 3) := dk_181 0 49 (dk_at dksX5_init_4 3 rfl rfl)
theorem dX5_init_100 : decode cX5_init 100 = .ok (.return_, 1) := dk_177 (dk_at dksX5_init_4 6 rfl rfl)
abbrev cX5_makesLines : ByteArray := prog_2_method_4_code
def yX5_makesLines : MethodName := ⟨RX5, "makesLines", "()V"⟩
def dkwX5_makesLines_9 : List UInt8 := [25, 4, 180, 0, 52, 6, 160, 0, 7, 1, 76, 3, 61, 132, 3, 1, 167, 255, 36, 177]
abbrev dktX5_makesLines_9 : List UInt8 := dkwX5_makesLines_9 ++ []
def dkwX5_makesLines_8 : List UInt8 := [185, 0, 111, 2, 0, 87, 42, 180, 0, 22, 29, 42, 180, 0, 18, 185, 0, 79, 1, 0, 4, 100, 79]
abbrev dktX5_makesLines_8 : List UInt8 := dkwX5_makesLines_8 ++ dktX5_makesLines_9
def dkwX5_makesLines_7 : List UInt8 := [167, 0, 16, 43, 89, 180, 0, 96, 4, 21, 5, 96, 96, 181, 0, 96, 43, 180, 0, 115, 29, 184, 0, 118]
abbrev dktX5_makesLines_7 : List UInt8 := dkwX5_makesLines_7 ++ dktX5_makesLines_8
def dkwX5_makesLines_6 : List UInt8 := [183, 0, 108, 76, 42, 180, 0, 18, 43, 185, 0, 111, 2, 0, 87, 43, 21, 5, 181, 0, 96, 132, 2, 1]
abbrev dktX5_makesLines_6 : List UInt8 := dkwX5_makesLines_6 ++ dktX5_makesLines_7
def dkwX5_makesLines_5 : List UInt8 := [43, 4, 181, 0, 104, 187, 0, 97, 89, 25, 4, 180, 0, 52, 6, 160, 0, 7, 4, 167, 0, 4, 3]
abbrev dktX5_makesLines_5 : List UInt8 := dkwX5_makesLines_5 ++ dktX5_makesLines_6
def dkwX5_makesLines_4 : List UInt8 := [43, 180, 0, 96, 4, 96, 21, 5, 96, 42, 180, 0, 3, 180, 0, 101, 164, 0, 58, 28, 4, 160, 0, 8]
abbrev dktX5_makesLines_4 : List UInt8 := dkwX5_makesLines_4 ++ dktX5_makesLines_5
def dkwX5_makesLines_3 : List UInt8 := [153, 0, 142, 42, 25, 4, 182, 0, 92, 54, 5, 25, 4, 180, 0, 52, 6, 159, 0, 26, 43, 198, 0, 22]
abbrev dktX5_makesLines_3 : List UInt8 := dkwX5_makesLines_3 ++ dktX5_makesLines_4
def dkwX5_makesLines_2 : List UInt8 := [159, 0, 12, 25, 4, 180, 0, 52, 6, 160, 0, 7, 1, 76, 3, 61, 42, 25, 4, 182, 0, 88]
abbrev dktX5_makesLines_2 : List UInt8 := dkwX5_makesLines_2 ++ dktX5_makesLines_3
def dkwX5_makesLines_1 : List UInt8 := [180, 0, 3, 180, 0, 76, 29, 185, 0, 84, 2, 0, 192, 0, 53, 58, 4, 25, 4, 180, 0, 52, 5]
abbrev dktX5_makesLines_1 : List UInt8 := dkwX5_makesLines_1 ++ dktX5_makesLines_2
def dkwX5_makesLines_0 : List UInt8 := [1, 76, 3, 61, 3, 62, 29, 42, 180, 0, 3, 180, 0, 76, 185, 0, 79, 1, 0, 162, 0, 210, 42]
abbrev dktX5_makesLines_0 : List UInt8 := dkwX5_makesLines_0 ++ dktX5_makesLines_1
theorem dksX5_makesLines_0 : cX5_makesLines.data.toList.drop 0 = dktX5_makesLines_0 := by decide +kernel
theorem dksX5_makesLines_1 : cX5_makesLines.data.toList.drop 23 = dktX5_makesLines_1 := dk_seg dksX5_makesLines_0 23 rfl rfl
theorem dksX5_makesLines_2 : cX5_makesLines.data.toList.drop 46 = dktX5_makesLines_2 := dk_seg dksX5_makesLines_1 23 rfl rfl
theorem dksX5_makesLines_3 : cX5_makesLines.data.toList.drop 68 = dktX5_makesLines_3 := dk_seg dksX5_makesLines_2 22 rfl rfl
theorem dksX5_makesLines_4 : cX5_makesLines.data.toList.drop 92 = dktX5_makesLines_4 := dk_seg dksX5_makesLines_3 24 rfl rfl
theorem dksX5_makesLines_5 : cX5_makesLines.data.toList.drop 116 = dktX5_makesLines_5 := dk_seg dksX5_makesLines_4 24 rfl rfl
theorem dksX5_makesLines_6 : cX5_makesLines.data.toList.drop 139 = dktX5_makesLines_6 := dk_seg dksX5_makesLines_5 23 rfl rfl
theorem dksX5_makesLines_7 : cX5_makesLines.data.toList.drop 163 = dktX5_makesLines_7 := dk_seg dksX5_makesLines_6 24 rfl rfl
theorem dksX5_makesLines_8 : cX5_makesLines.data.toList.drop 187 = dktX5_makesLines_8 := dk_seg dksX5_makesLines_7 24 rfl rfl
theorem dksX5_makesLines_9 : cX5_makesLines.data.toList.drop 210 = dktX5_makesLines_9 := dk_seg dksX5_makesLines_8 23 rfl rfl
theorem dX5_makesLines_0 : decode cX5_makesLines 0 = .ok (.aconst_null, 1) := dk_1 (dk_at dksX5_makesLines_0 0 rfl rfl)
theorem dX5_makesLines_1 : decode cX5_makesLines 1 = .ok (.astore_n 1, 1) := dk_76 (dk_at dksX5_makesLines_0 1 rfl rfl)
theorem dX5_makesLines_2 : decode cX5_makesLines 2 = .ok (.iconst 0, 1) := dk_3 (dk_at dksX5_makesLines_0 2 rfl rfl)
theorem dX5_makesLines_3 : decode cX5_makesLines 3 = .ok (.istore_n 2, 1) := dk_61 (dk_at dksX5_makesLines_0 3 rfl rfl)
theorem dX5_makesLines_4 : decode cX5_makesLines 4 = .ok (.iconst 0, 1) := dk_3 (dk_at dksX5_makesLines_0 4 rfl rfl)
theorem dX5_makesLines_5 : decode cX5_makesLines 5 = .ok (.istore_n 3, 1) := dk_62 (dk_at dksX5_makesLines_0 5 rfl rfl)
theorem dX5_makesLines_6 : decode cX5_makesLines 6 = .ok (.iload_n 3, 1) := dk_29 (dk_at dksX5_makesLines_0 6 rfl rfl)
theorem dX5_makesLines_7 : decode cX5_makesLines 7 = .ok (.aload_n 0, 1) := dk_42 (dk_at dksX5_makesLines_0 7 rfl rfl)
theorem dX5_makesLines_8 : decode cX5_makesLines 8 = .ok (.getfield 3, 3) := dk_180 0 3 (dk_at dksX5_makesLines_0 8 rfl rfl)
theorem dX5_makesLines_11 : decode cX5_makesLines 11 = .ok (.getfield 76, 3) := dk_180 0 76 (dk_at dksX5_makesLines_0 11 rfl rfl)
theorem dX5_makesLines_14 : decode cX5_makesLines 14 = .ok (.invokeinterface 79 1, 5) := by decide +kernel
theorem dX5_makesLines_19 : decode cX5_makesLines 19 = .ok (.if_icmp .ge 210, 3) := dk_162 0 210 (dk_at dksX5_makesLines_0 19 rfl rfl)
theorem dX5_makesLines_22 : decode cX5_makesLines 22 = .ok (.aload_n 0, 1) := dk_42 (dk_at dksX5_makesLines_0 22 rfl rfl)
theorem dX5_makesLines_23 : decode cX5_makesLines 23 = .ok (.getfield 3, 3) := dk_180 0 3 (dk_at dksX5_makesLines_1 0 rfl rfl)
theorem dX5_makesLines_26 : decode cX5_makesLines 26 = .ok (.getfield 76, 3) := dk_180 0 76 (dk_at dksX5_makesLines_1 3 rfl rfl)
theorem dX5_makesLines_29 : decode cX5_makesLines 29 = .ok (.iload_n 3, 1) := dk_29 (dk_at dksX5_makesLines_1 6 rfl rfl)
theorem dX5_makesLines_30 : decode cX5_makesLines 30 = .ok (.invokeinterface 84 2, 5) := by decide +kernel
theorem dX5_makesLines_35 : decode cX5_makesLines 35 = .ok (.checkcast 53, 3) := dk_192 0 53 (dk_at dksX5_makesLines_1 12 rfl rfl)
theorem dX5_makesLines_38 : decode cX5_makesLines 38 = .ok (.astore 4, 2) := dk_58 4 (dk_at dksX5_makesLines_1 15 rfl rfl)
theorem dX5_makesLines_40 : decode cX5_makesLines 40 = .ok (.aload 4, 2) := dk_25 4 (dk_at dksX5_makesLines_1 17 rfl rfl)
theorem dX5_makesLines_42 : decode cX5_makesLines 42 = .ok (.getfield 52, 3) := dk_180 0 52 (dk_at dksX5_makesLines_1 19 rfl rfl)
theorem dX5_makesLines_45 : decode cX5_makesLines 45 = .ok (.iconst 2, 1) := dk_5 (dk_at dksX5_makesLines_1 22 rfl rfl)
theorem dX5_makesLines_46 : decode cX5_makesLines 46 = .ok (.if_icmp .eq 12, 3) := dk_159 0 12 (dk_at dksX5_makesLines_2 0 rfl rfl)
theorem dX5_makesLines_49 : decode cX5_makesLines 49 = .ok (.aload 4, 2) := dk_25 4 (dk_at dksX5_makesLines_2 3 rfl rfl)
theorem dX5_makesLines_51 : decode cX5_makesLines 51 = .ok (.getfield 52, 3) := dk_180 0 52 (dk_at dksX5_makesLines_2 5 rfl rfl)
theorem dX5_makesLines_54 : decode cX5_makesLines 54 = .ok (.iconst 3, 1) := dk_6 (dk_at dksX5_makesLines_2 8 rfl rfl)
theorem dX5_makesLines_55 : decode cX5_makesLines 55 = .ok (.if_icmp .ne 7, 3) := dk_160 0 7 (dk_at dksX5_makesLines_2 9 rfl rfl)
theorem dX5_makesLines_58 : decode cX5_makesLines 58 = .ok (.aconst_null, 1) := dk_1 (dk_at dksX5_makesLines_2 12 rfl rfl)
theorem dX5_makesLines_59 : decode cX5_makesLines 59 = .ok (.astore_n 1, 1) := dk_76 (dk_at dksX5_makesLines_2 13 rfl rfl)
theorem dX5_makesLines_60 : decode cX5_makesLines 60 = .ok (.iconst 0, 1) := dk_3 (dk_at dksX5_makesLines_2 14 rfl rfl)
theorem dX5_makesLines_61 : decode cX5_makesLines 61 = .ok (.istore_n 2, 1) := dk_61 (dk_at dksX5_makesLines_2 15 rfl rfl)
theorem dX5_makesLines_62 : decode cX5_makesLines 62 = .ok (.aload_n 0, 1) := dk_42 (dk_at dksX5_makesLines_2 16 rfl rfl)
theorem dX5_makesLines_63 : decode cX5_makesLines 63 = .ok (.aload 4, 2) := dk_25 4 (dk_at dksX5_makesLines_2 17 rfl rfl)
theorem dX5_makesLines_65 : decode cX5_makesLines 65 = .ok (.invokevirtual 88, 3) := dk_182 0 88 (dk_at dksX5_makesLines_2 19 rfl rfl)
theorem dX5_makesLines_68 : decode cX5_makesLines 68 = .ok (.ifCond .eq 142, 3) := dk_153 0 142 (dk_at dksX5_makesLines_3 0 rfl rfl)
theorem dX5_makesLines_71 : decode cX5_makesLines 71 = .ok (.aload_n 0, 1) := dk_42 (dk_at dksX5_makesLines_3 3 rfl rfl)
theorem dX5_makesLines_72 : decode cX5_makesLines 72 = .ok (.aload 4, 2) := dk_25 4 (dk_at dksX5_makesLines_3 4 rfl rfl)
theorem dX5_makesLines_74 : decode cX5_makesLines 74 = .ok (.invokevirtual 92, 3) := dk_182 0 92 (dk_at dksX5_makesLines_3 6 rfl rfl)
theorem dX5_makesLines_77 : decode cX5_makesLines 77 = .ok (.istore 5, 2) := dk_54 5 (dk_at dksX5_makesLines_3 9 rfl rfl)
theorem dX5_makesLines_79 : decode cX5_makesLines 79 = .ok (.aload 4, 2) := dk_25 4 (dk_at dksX5_makesLines_3 11 rfl rfl)
theorem dX5_makesLines_81 : decode cX5_makesLines 81 = .ok (.getfield 52, 3) := dk_180 0 52 (dk_at dksX5_makesLines_3 13 rfl rfl)
theorem dX5_makesLines_84 : decode cX5_makesLines 84 = .ok (.iconst 3, 1) := dk_6 (dk_at dksX5_makesLines_3 16 rfl rfl)
theorem dX5_makesLines_85 : decode cX5_makesLines 85 = .ok (.if_icmp .eq 26, 3) := dk_159 0 26 (dk_at dksX5_makesLines_3 17 rfl rfl)
theorem dX5_makesLines_88 : decode cX5_makesLines 88 = .ok (.aload_n 1, 1) := dk_43 (dk_at dksX5_makesLines_3 20 rfl rfl)
theorem dX5_makesLines_89 : decode cX5_makesLines 89 = .ok (.ifnull 22, 3) := dk_198 0 22 (dk_at dksX5_makesLines_3 21 rfl rfl)
theorem dX5_makesLines_92 : decode cX5_makesLines 92 = .ok (.aload_n 1, 1) := dk_43 (dk_at dksX5_makesLines_4 0 rfl rfl)
theorem dX5_makesLines_93 : decode cX5_makesLines 93 = .ok (.getfield 96, 3) := dk_180 0 96 (dk_at dksX5_makesLines_4 1 rfl rfl)
theorem dX5_makesLines_96 : decode cX5_makesLines 96 = .ok (.iconst 1, 1) := dk_4 (dk_at dksX5_makesLines_4 4 rfl rfl)
theorem dX5_makesLines_97 : decode cX5_makesLines 97 = .ok (.iadd, 1) := dk_96 (dk_at dksX5_makesLines_4 5 rfl rfl)
theorem dX5_makesLines_98 : decode cX5_makesLines 98 = .ok (.iload 5, 2) := dk_21 5 (dk_at dksX5_makesLines_4 6 rfl rfl)
theorem dX5_makesLines_100 : decode cX5_makesLines 100 = .ok (.iadd, 1) := dk_96 (dk_at dksX5_makesLines_4 8 rfl rfl)
theorem dX5_makesLines_101 : decode cX5_makesLines 101 = .ok (.aload_n 0, 1) := dk_42 (dk_at dksX5_makesLines_4 9 rfl rfl)
theorem dX5_makesLines_102 : decode cX5_makesLines 102 = .ok (.getfield 3, 3) := dk_180 0 3 (dk_at dksX5_makesLines_4 10 rfl rfl)
theorem dX5_makesLines_105 : decode cX5_makesLines 105 = .ok (.getfield 101, 3) := dk_180 0 101 (dk_at dksX5_makesLines_4 13 rfl rfl)
theorem dX5_makesLines_108 : decode cX5_makesLines 108 = .ok (.if_icmp .le 58, 3) := dk_164 0 58 (dk_at dksX5_makesLines_4 16 rfl rfl)
theorem dX5_makesLines_111 : decode cX5_makesLines 111 = .ok (.iload_n 2, 1) := dk_28 (dk_at dksX5_makesLines_4 19 rfl rfl)
theorem dX5_makesLines_112 : decode cX5_makesLines 112 = .ok (.iconst 1, 1) := dk_4 (dk_at dksX5_makesLines_4 20 rfl rfl)
theorem dX5_makesLines_113 : decode cX5_makesLines 113 = .ok (.if_icmp .ne 8, 3) := dk_160 0 8 (dk_at dksX5_makesLines_4 21 rfl rfl)
theorem dX5_makesLines_116 : decode cX5_makesLines 116 = .ok (.aload_n 1, 1) := dk_43 (dk_at dksX5_makesLines_5 0 rfl rfl)
theorem dX5_makesLines_117 : decode cX5_makesLines 117 = .ok (.iconst 1, 1) := dk_4 (dk_at dksX5_makesLines_5 1 rfl rfl)
theorem dX5_makesLines_118 : decode cX5_makesLines 118 = .ok (.putfield 104, 3) := dk_181 0 104 (dk_at dksX5_makesLines_5 2 rfl rfl)
theorem dX5_makesLines_121 : decode cX5_makesLines 121 = .ok (.new 97, 3) := dk_187 0 97 (dk_at dksX5_makesLines_5 5 rfl rfl)
theorem dX5_makesLines_124 : decode cX5_makesLines 124 = .ok (.dup, 1) := dk_89 (dk_at dksX5_makesLines_5 8 rfl rfl)
theorem dX5_makesLines_125 : decode cX5_makesLines 125 = .ok (.aload 4, 2) := dk_25 4 (dk_at dksX5_makesLines_5 9 rfl rfl)
theorem dX5_makesLines_127 : decode cX5_makesLines 127 = .ok (.getfield 52, 3) := dk_180 0 52 (dk_at dksX5_makesLines_5 11 rfl rfl)
theorem dX5_makesLines_130 : decode cX5_makesLines 130 = .ok (.iconst 3, 1) := dk_6 (dk_at dksX5_makesLines_5 14 rfl rfl)
theorem dX5_makesLines_131 : decode cX5_makesLines 131 = .ok (.if_icmp .ne 7, 3) := dk_160 0 7 (dk_at dksX5_makesLines_5 15 rfl rfl)
theorem dX5_makesLines_134 : decode cX5_makesLines 134 = .ok (.iconst 1, 1) := dk_4 (dk_at dksX5_makesLines_5 18 rfl rfl)
theorem dX5_makesLines_135 : decode cX5_makesLines 135 = .ok (.goto 4, 3) := dk_167 0 4 (dk_at dksX5_makesLines_5 19 rfl rfl)
theorem dX5_makesLines_138 : decode cX5_makesLines 138 = .ok (.iconst 0, 1) := dk_3 (dk_at dksX5_makesLines_5 22 rfl rfl)
theorem dX5_makesLines_139 : decode cX5_makesLines 139 = .ok (.invokespecial 108, 3) := dk_183 0 108 (dk_at dksX5_makesLines_6 0 rfl rfl)
theorem dX5_makesLines_142 : decode cX5_makesLines 142 = .ok (.astore_n 1, 1) := dk_76 (dk_at dksX5_makesLines_6 3 rfl rfl)
theorem dX5_makesLines_143 : decode cX5_makesLines 143 = .ok (.aload_n 0, 1) := dk_42 (dk_at dksX5_makesLines_6 4 rfl rfl)
theorem dX5_makesLines_144 : decode cX5_makesLines 144 = .ok (.getfield 18, 3) := dk_180 0 18 (dk_at dksX5_makesLines_6 5 rfl rfl)
theorem dX5_makesLines_147 : decode cX5_makesLines 147 = .ok (.aload_n 1, 1) := dk_43 (dk_at dksX5_makesLines_6 8 rfl rfl)
theorem dX5_makesLines_148 : decode cX5_makesLines 148 = .ok (.invokeinterface 111 2, 5) := by decide +kernel
theorem dX5_makesLines_153 : decode cX5_makesLines 153 = .ok (.pop, 1) := dk_87 (dk_at dksX5_makesLines_6 14 rfl rfl)
theorem dX5_makesLines_154 : decode cX5_makesLines 154 = .ok (.aload_n 1, 1) := dk_43 (dk_at dksX5_makesLines_6 15 rfl rfl)
theorem dX5_makesLines_155 : decode cX5_makesLines 155 = .ok (.iload 5, 2) := dk_21 5 (dk_at dksX5_makesLines_6 16 rfl rfl)
theorem dX5_makesLines_157 : decode cX5_makesLines 157 = .ok (.putfield 96, 3) := dk_181 0 96 (dk_at dksX5_makesLines_6 18 rfl rfl)
theorem dX5_makesLines_160 : decode cX5_makesLines 160 = .ok (.iinc 2 1, 3) := dk_132 2 1 (dk_at dksX5_makesLines_6 21 rfl rfl)
theorem dX5_makesLines_163 : decode cX5_makesLines 163 = .ok (.goto 16, 3) := dk_167 0 16 (dk_at dksX5_makesLines_7 0 rfl rfl)
theorem dX5_makesLines_166 : decode cX5_makesLines 166 = .ok (.aload_n 1, 1) := dk_43 (dk_at dksX5_makesLines_7 3 rfl rfl)
theorem dX5_makesLines_167 : decode cX5_makesLines 167 = .ok (.dup, 1) := dk_89 (dk_at dksX5_makesLines_7 4 rfl rfl)
theorem dX5_makesLines_168 : decode cX5_makesLines 168 = .ok (.getfield 96, 3) := dk_180 0 96 (dk_at dksX5_makesLines_7 5 rfl rfl)
theorem dX5_makesLines_171 : decode cX5_makesLines 171 = .ok (.iconst 1, 1) := dk_4 (dk_at dksX5_makesLines_7 8 rfl rfl)
theorem dX5_makesLines_172 : decode cX5_makesLines 172 = .ok (.iload 5, 2) := dk_21 5 (dk_at dksX5_makesLines_7 9 rfl rfl)
theorem dX5_makesLines_174 : decode cX5_makesLines 174 = .ok (.iadd, 1) := dk_96 (dk_at dksX5_makesLines_7 11 rfl rfl)
theorem dX5_makesLines_175 : decode cX5_makesLines 175 = .ok (.iadd, 1) := dk_96 (dk_at dksX5_makesLines_7 12 rfl rfl)
theorem dX5_makesLines_176 : decode cX5_makesLines 176 = .ok (.putfield 96, 3) := dk_181 0 96 (dk_at dksX5_makesLines_7 13 rfl rfl)
theorem dX5_makesLines_179 : decode cX5_makesLines 179 = .ok (.aload_n 1, 1) := dk_43 (dk_at dksX5_makesLines_7 16 rfl rfl)
theorem dX5_makesLines_180 : decode cX5_makesLines 180 = .ok (.getfield 115, 3) := dk_180 0 115 (dk_at dksX5_makesLines_7 17 rfl rfl)
theorem dX5_makesLines_183 : decode cX5_makesLines 183 = .ok (.iload_n 3, 1) := dk_29 (dk_at dksX5_makesLines_7 20 rfl rfl)
theorem dX5_makesLines_184 : decode cX5_makesLines 184 = .ok (.invokestatic 118, 3) := dk_184 0 118 (dk_at dksX5_makesLines_7 21 rfl rfl)
theorem dX5_makesLines_187 : decode cX5_makesLines 187 = .ok (.invokeinterface 111 2, 5) := by decide +kernel
theorem dX5_makesLines_192 : decode cX5_makesLines 192 = .ok (.pop, 1) := dk_87 (dk_at dksX5_makesLines_8 5 rfl rfl)
theorem dX5_makesLines_193 : decode cX5_makesLines 193 = .ok (.aload_n 0, 1) := dk_42 (dk_at dksX5_makesLines_8 6 rfl rfl)
theorem dX5_makesLines_194 : decode cX5_makesLines 194 = .ok (.getfield 22, 3) := dk_180 0 22 (dk_at dksX5_makesLines_8 7 rfl rfl)
theorem dX5_makesLines_197 : decode cX5_makesLines 197 = .ok (.iload_n 3, 1) := dk_29 (dk_at dksX5_makesLines_8 10 rfl rfl)
theorem dX5_makesLines_198 : decode cX5_makesLines 198 = .ok (.aload_n 0, 1) := dk_42 (dk_at dksX5_makesLines_8 11 rfl rfl)
theorem dX5_makesLines_199 : decode cX5_makesLines 199 = .ok (.getfield 18, 3) := dk_180 0 18 (dk_at dksX5_makesLines_8 12 rfl rfl)
theorem dX5_makesLines_202 : decode cX5_makesLines 202 = .ok (.invokeinterface 79 1, 5) := by decide +kernel
theorem dX5_makesLines_207 : decode cX5_makesLines 207 = .ok (.iconst 1, 1) := dk_4 (dk_at dksX5_makesLines_8 20 rfl rfl)
theorem dX5_makesLines_208 : decode cX5_makesLines 208 = .ok (.isub, 1) := dk_100 (dk_at dksX5_makesLines_8 21 rfl rfl)
theorem dX5_makesLines_209 : decode cX5_makesLines 209 = .ok (.iastore, 1) := dk_79 (dk_at dksX5_makesLines_8 22 rfl rfl)
theorem dX5_makesLines_210 : decode cX5_makesLines 210 = .ok (.aload 4, 2) := dk_25 4 (dk_at dksX5_makesLines_9 0 rfl rfl)
theorem dX5_makesLines_212 : decode cX5_makesLines 212 = .ok (.getfield 52, 3) := dk_180 0 52 (dk_at dksX5_makesLines_9 2 rfl rfl)
theorem dX5_makesLines_215 : decode cX5_makesLines 215 = .ok (.iconst 3, 1) := dk_6 (dk_at dksX5_makesLines_9 5 rfl rfl)
theorem dX5_makesLines_216 : decode cX5_makesLines 216 = .ok (.if_icmp .ne 7, 3) := dk_160 0 7 (dk_at dksX5_makesLines_9 6 rfl rfl)
theorem dX5_makesLines_219 : decode cX5_makesLines 219 = .ok (.aconst_null, 1) := dk_1 (dk_at dksX5_makesLines_9 9 rfl rfl)
theorem dX5_makesLines_220 : decode cX5_makesLines 220 = .ok (.astore_n 1, 1) := dk_76 (dk_at dksX5_makesLines_9 10 rfl rfl)
theorem dX5_makesLines_221 : decode cX5_makesLines 221 = .ok (.iconst 0, 1) := dk_3 (dk_at dksX5_makesLines_9 11 rfl rfl)
theorem dX5_makesLines_222 : decode cX5_makesLines 222 = .ok (.istore_n 2, 1) := dk_61 (dk_at dksX5_makesLines_9 12 rfl rfl)
theorem dX5_makesLines_223 : decode cX5_makesLines 223 = .ok (.iinc 3 1, 3) := dk_132 3 1 (dk_at dksX5_makesLines_9 13 rfl rfl)
theorem dX5_makesLines_226 : decode cX5_makesLines 226 = .ok (.goto (-220), 3) := dk_167 255 36 (dk_at dksX5_makesLines_9 16 rfl rfl)
theorem dX5_makesLines_229 : decode cX5_makesLines 229 = .ok (.return_, 1) := dk_177 (dk_at dksX5_makesLines_9 19 rfl rfl)
abbrev cX5_isPrinted : ByteArray := prog_2_method_3_code
def yX5_isPrinted : MethodName := ⟨RX5, "isPrinted", "(LQuirefold$Token;)Z"⟩
def dkwX5_isPrinted_2 : List UInt8 := [172]
abbrev dktX5_isPrinted_2 : List UInt8 := dkwX5_isPrinted_2 ++ []
def dkwX5_isPrinted_1 : List UInt8 := [180, 0, 3, 180, 0, 57, 42, 180, 0, 32, 50, 43, 180, 0, 61, 46, 158, 0, 7, 4, 167, 0, 4, 3]
abbrev dktX5_isPrinted_1 : List UInt8 := dkwX5_isPrinted_1 ++ dktX5_isPrinted_2
def dkwX5_isPrinted_0 : List UInt8 := [43, 180, 0, 52, 153, 0, 39, 43, 180, 0, 52, 6, 159, 0, 31, 43, 180, 0, 52, 4, 160, 0, 27, 42]
abbrev dktX5_isPrinted_0 : List UInt8 := dkwX5_isPrinted_0 ++ dktX5_isPrinted_1
theorem dksX5_isPrinted_0 : cX5_isPrinted.data.toList.drop 0 = dktX5_isPrinted_0 := by decide +kernel
theorem dksX5_isPrinted_1 : cX5_isPrinted.data.toList.drop 24 = dktX5_isPrinted_1 := dk_seg dksX5_isPrinted_0 24 rfl rfl
theorem dksX5_isPrinted_2 : cX5_isPrinted.data.toList.drop 48 = dktX5_isPrinted_2 := dk_seg dksX5_isPrinted_1 24 rfl rfl
theorem dX5_isPrinted_0 : decode cX5_isPrinted 0 = .ok (.aload_n 1, 1) := dk_43 (dk_at dksX5_isPrinted_0 0 rfl rfl)
theorem dX5_isPrinted_1 : decode cX5_isPrinted 1 = .ok (.getfield 52, 3) := dk_180 0 52 (dk_at dksX5_isPrinted_0 1 rfl rfl)
theorem dX5_isPrinted_4 : decode cX5_isPrinted 4 = .ok (.ifCond .eq 39, 3) := dk_153 0 39 (dk_at dksX5_isPrinted_0 4 rfl rfl)
theorem dX5_isPrinted_7 : decode cX5_isPrinted 7 = .ok (.aload_n 1, 1) := dk_43 (dk_at dksX5_isPrinted_0 7 rfl rfl)
theorem dX5_isPrinted_8 : decode cX5_isPrinted 8 = .ok (.getfield 52, 3) := dk_180 0 52 (dk_at dksX5_isPrinted_0 8 rfl rfl)
theorem dX5_isPrinted_11 : decode cX5_isPrinted 11 = .ok (.iconst 3, 1) := dk_6 (dk_at dksX5_isPrinted_0 11 rfl rfl)
theorem dX5_isPrinted_12 : decode cX5_isPrinted 12 = .ok (.if_icmp .eq 31, 3) := dk_159 0 31 (dk_at dksX5_isPrinted_0 12 rfl rfl)
theorem dX5_isPrinted_15 : decode cX5_isPrinted 15 = .ok (.aload_n 1, 1) := dk_43 (dk_at dksX5_isPrinted_0 15 rfl rfl)
theorem dX5_isPrinted_16 : decode cX5_isPrinted 16 = .ok (.getfield 52, 3) := dk_180 0 52 (dk_at dksX5_isPrinted_0 16 rfl rfl)
theorem dX5_isPrinted_19 : decode cX5_isPrinted 19 = .ok (.iconst 1, 1) := dk_4 (dk_at dksX5_isPrinted_0 19 rfl rfl)
theorem dX5_isPrinted_20 : decode cX5_isPrinted 20 = .ok (.if_icmp .ne 27, 3) := dk_160 0 27 (dk_at dksX5_isPrinted_0 20 rfl rfl)
theorem dX5_isPrinted_23 : decode cX5_isPrinted 23 = .ok (.aload_n 0, 1) := dk_42 (dk_at dksX5_isPrinted_0 23 rfl rfl)
theorem dX5_isPrinted_24 : decode cX5_isPrinted 24 = .ok (.getfield 3, 3) := dk_180 0 3 (dk_at dksX5_isPrinted_1 0 rfl rfl)
theorem dX5_isPrinted_27 : decode cX5_isPrinted 27 = .ok (.getfield 57, 3) := dk_180 0 57 (dk_at dksX5_isPrinted_1 3 rfl rfl)
theorem dX5_isPrinted_30 : decode cX5_isPrinted 30 = .ok (.aload_n 0, 1) := dk_42 (dk_at dksX5_isPrinted_1 6 rfl rfl)
theorem dX5_isPrinted_31 : decode cX5_isPrinted 31 = .ok (.getfield 32, 3) := dk_180 0 32 (dk_at dksX5_isPrinted_1 7 rfl rfl)
theorem dX5_isPrinted_34 : decode cX5_isPrinted 34 = .ok (.aaload, 1) := dk_50 (dk_at dksX5_isPrinted_1 10 rfl rfl)
theorem dX5_isPrinted_35 : decode cX5_isPrinted 35 = .ok (.aload_n 1, 1) := dk_43 (dk_at dksX5_isPrinted_1 11 rfl rfl)
theorem dX5_isPrinted_36 : decode cX5_isPrinted 36 = .ok (.getfield 61, 3) := dk_180 0 61 (dk_at dksX5_isPrinted_1 12 rfl rfl)
theorem dX5_isPrinted_39 : decode cX5_isPrinted 39 = .ok (.iaload, 1) := dk_46 (dk_at dksX5_isPrinted_1 15 rfl rfl)
theorem dX5_isPrinted_40 : decode cX5_isPrinted 40 = .ok (.ifCond .le 7, 3) := dk_158 0 7 (dk_at dksX5_isPrinted_1 16 rfl rfl)
theorem dX5_isPrinted_43 : decode cX5_isPrinted 43 = .ok (.iconst 1, 1) := dk_4 (dk_at dksX5_isPrinted_1 19 rfl rfl)
theorem dX5_isPrinted_44 : decode cX5_isPrinted 44 = .ok (.goto 4, 3) := dk_167 0 4 (dk_at dksX5_isPrinted_1 20 rfl rfl)
theorem dX5_isPrinted_47 : decode cX5_isPrinted 47 = .ok (.iconst 0, 1) := dk_3 (dk_at dksX5_isPrinted_1 23 rfl rfl)
theorem dX5_isPrinted_48 : decode cX5_isPrinted 48 = .ok (.ireturn, 1) := dk_172 (dk_at dksX5_isPrinted_2 0 rfl rfl)
abbrev cX5_widthOf : ByteArray := prog_2_method_2_code
def yX5_widthOf : MethodName := ⟨RX5, "widthOf", "(LQuirefold$Token;)I"⟩
def dkwX5_widthOf_2 : List UInt8 := [180, 0, 64, 43, 180, 0, 68, 50, 182, 0, 71, 96, 172]
abbrev dktX5_widthOf_2 : List UInt8 := dkwX5_widthOf_2 ++ []
def dkwX5_widthOf_1 : List UInt8 := [46, 167, 0, 7, 43, 180, 0, 61, 61, 28, 154, 0, 7, 3, 167, 0, 20, 28, 42, 180, 0, 3]
abbrev dktX5_widthOf_1 : List UInt8 := dkwX5_widthOf_1 ++ dktX5_widthOf_2
def dkwX5_widthOf_0 : List UInt8 := [43, 180, 0, 52, 4, 160, 0, 23, 42, 180, 0, 3, 180, 0, 57, 42, 180, 0, 32, 50, 43, 180, 0, 61]
abbrev dktX5_widthOf_0 : List UInt8 := dkwX5_widthOf_0 ++ dktX5_widthOf_1
theorem dksX5_widthOf_0 : cX5_widthOf.data.toList.drop 0 = dktX5_widthOf_0 := by decide +kernel
theorem dksX5_widthOf_1 : cX5_widthOf.data.toList.drop 24 = dktX5_widthOf_1 := dk_seg dksX5_widthOf_0 24 rfl rfl
theorem dksX5_widthOf_2 : cX5_widthOf.data.toList.drop 46 = dktX5_widthOf_2 := dk_seg dksX5_widthOf_1 22 rfl rfl
theorem dX5_widthOf_0 : decode cX5_widthOf 0 = .ok (.aload_n 1, 1) := dk_43 (dk_at dksX5_widthOf_0 0 rfl rfl)
theorem dX5_widthOf_1 : decode cX5_widthOf 1 = .ok (.getfield 52, 3) := dk_180 0 52 (dk_at dksX5_widthOf_0 1 rfl rfl)
theorem dX5_widthOf_4 : decode cX5_widthOf 4 = .ok (.iconst 1, 1) := dk_4 (dk_at dksX5_widthOf_0 4 rfl rfl)
theorem dX5_widthOf_5 : decode cX5_widthOf 5 = .ok (.if_icmp .ne 23, 3) := dk_160 0 23 (dk_at dksX5_widthOf_0 5 rfl rfl)
theorem dX5_widthOf_8 : decode cX5_widthOf 8 = .ok (.aload_n 0, 1) := dk_42 (dk_at dksX5_widthOf_0 8 rfl rfl)
theorem dX5_widthOf_9 : decode cX5_widthOf 9 = .ok (.getfield 3, 3) := dk_180 0 3 (dk_at dksX5_widthOf_0 9 rfl rfl)
theorem dX5_widthOf_12 : decode cX5_widthOf 12 = .ok (.getfield 57, 3) := dk_180 0 57 (dk_at dksX5_widthOf_0 12 rfl rfl)
theorem dX5_widthOf_15 : decode cX5_widthOf 15 = .ok (.aload_n 0, 1) := dk_42 (dk_at dksX5_widthOf_0 15 rfl rfl)
theorem dX5_widthOf_16 : decode cX5_widthOf 16 = .ok (.getfield 32, 3) := dk_180 0 32 (dk_at dksX5_widthOf_0 16 rfl rfl)
theorem dX5_widthOf_19 : decode cX5_widthOf 19 = .ok (.aaload, 1) := dk_50 (dk_at dksX5_widthOf_0 19 rfl rfl)
theorem dX5_widthOf_20 : decode cX5_widthOf 20 = .ok (.aload_n 1, 1) := dk_43 (dk_at dksX5_widthOf_0 20 rfl rfl)
theorem dX5_widthOf_21 : decode cX5_widthOf 21 = .ok (.getfield 61, 3) := dk_180 0 61 (dk_at dksX5_widthOf_0 21 rfl rfl)
theorem dX5_widthOf_24 : decode cX5_widthOf 24 = .ok (.iaload, 1) := dk_46 (dk_at dksX5_widthOf_1 0 rfl rfl)
theorem dX5_widthOf_25 : decode cX5_widthOf 25 = .ok (.goto 7, 3) := dk_167 0 7 (dk_at dksX5_widthOf_1 1 rfl rfl)
theorem dX5_widthOf_28 : decode cX5_widthOf 28 = .ok (.aload_n 1, 1) := dk_43 (dk_at dksX5_widthOf_1 4 rfl rfl)
theorem dX5_widthOf_29 : decode cX5_widthOf 29 = .ok (.getfield 61, 3) := dk_180 0 61 (dk_at dksX5_widthOf_1 5 rfl rfl)
theorem dX5_widthOf_32 : decode cX5_widthOf 32 = .ok (.istore_n 2, 1) := dk_61 (dk_at dksX5_widthOf_1 8 rfl rfl)
theorem dX5_widthOf_33 : decode cX5_widthOf 33 = .ok (.iload_n 2, 1) := dk_28 (dk_at dksX5_widthOf_1 9 rfl rfl)
theorem dX5_widthOf_34 : decode cX5_widthOf 34 = .ok (.ifCond .ne 7, 3) := dk_154 0 7 (dk_at dksX5_widthOf_1 10 rfl rfl)
theorem dX5_widthOf_37 : decode cX5_widthOf 37 = .ok (.iconst 0, 1) := dk_3 (dk_at dksX5_widthOf_1 13 rfl rfl)
theorem dX5_widthOf_38 : decode cX5_widthOf 38 = .ok (.goto 20, 3) := dk_167 0 20 (dk_at dksX5_widthOf_1 14 rfl rfl)
theorem dX5_widthOf_41 : decode cX5_widthOf 41 = .ok (.iload_n 2, 1) := dk_28 (dk_at dksX5_widthOf_1 17 rfl rfl)
theorem dX5_widthOf_42 : decode cX5_widthOf 42 = .ok (.aload_n 0, 1) := dk_42 (dk_at dksX5_widthOf_1 18 rfl rfl)
theorem dX5_widthOf_43 : decode cX5_widthOf 43 = .ok (.getfield 3, 3) := dk_180 0 3 (dk_at dksX5_widthOf_1 19 rfl rfl)
theorem dX5_widthOf_46 : decode cX5_widthOf 46 = .ok (.getfield 64, 3) := dk_180 0 64 (dk_at dksX5_widthOf_2 0 rfl rfl)
theorem dX5_widthOf_49 : decode cX5_widthOf 49 = .ok (.aload_n 1, 1) := dk_43 (dk_at dksX5_widthOf_2 3 rfl rfl)
theorem dX5_widthOf_50 : decode cX5_widthOf 50 = .ok (.getfield 68, 3) := dk_180 0 68 (dk_at dksX5_widthOf_2 4 rfl rfl)
theorem dX5_widthOf_53 : decode cX5_widthOf 53 = .ok (.aaload, 1) := dk_50 (dk_at dksX5_widthOf_2 7 rfl rfl)
theorem dX5_widthOf_54 : decode cX5_widthOf 54 = .ok (.invokevirtual 71, 3) := dk_182 0 71 (dk_at dksX5_widthOf_2 8 rfl rfl)
theorem dX5_widthOf_57 : decode cX5_widthOf 57 = .ok (.iadd, 1) := dk_96 (dk_at dksX5_widthOf_2 11 rfl rfl)
theorem dX5_widthOf_58 : decode cX5_widthOf 58 = .ok (.ireturn, 1) := dk_172 (dk_at dksX5_widthOf_2 12 rfl rfl)
abbrev cX5_hangs : ByteArray := prog_2_method_5_code
def yX5_hangs : MethodName := ⟨RX5, "hangs", "()V"⟩
def dkwX5_hangs_6 : List UInt8 := [180, 0, 131, 28, 184, 0, 118, 185, 0, 111, 2, 0, 87, 132, 2, 1, 167, 255, 101, 177]
abbrev dktX5_hangs_6 : List UInt8 := dkwX5_hangs_6 ++ []
def dkwX5_hangs_5 : List UInt8 := [181, 0, 128, 45, 180, 0, 52, 7, 160, 0, 29, 42, 180, 0, 18, 27, 185, 0, 84, 2, 0, 192, 0, 97]
abbrev dktX5_hangs_5 : List UInt8 := dkwX5_hangs_5 ++ dktX5_hangs_6
def dkwX5_hangs_4 : List UInt8 := [192, 0, 97, 89, 180, 0, 128, 45, 180, 0, 52, 8, 160, 0, 10, 45, 180, 0, 61, 167, 0, 4, 3, 96]
abbrev dktX5_hangs_4 : List UInt8 := dkwX5_hangs_4 ++ dktX5_hangs_5
def dkwX5_hangs_3 : List UInt8 := [180, 0, 52, 7, 161, 0, 81, 42, 180, 0, 22, 28, 27, 79, 42, 180, 0, 18, 27, 185, 0, 84, 2, 0]
abbrev dktX5_hangs_3 : List UInt8 := dkwX5_hangs_3 ++ dktX5_hangs_4
def dkwX5_hangs_2 : List UInt8 := [78, 42, 180, 0, 22, 28, 46, 2, 160, 0, 7, 27, 167, 0, 9, 42, 180, 0, 22, 28, 46, 60, 45]
abbrev dktX5_hangs_2 : List UInt8 := dkwX5_hangs_2 ++ dktX5_hangs_3
def dkwX5_hangs_1 : List UInt8 := [185, 0, 124, 1, 0, 154, 0, 133, 42, 180, 0, 3, 180, 0, 76, 28, 185, 0, 84, 2, 0, 192, 0, 53]
abbrev dktX5_hangs_1 : List UInt8 := dkwX5_hangs_1 ++ dktX5_hangs_2
def dkwX5_hangs_0 : List UInt8 := [3, 60, 3, 61, 28, 42, 180, 0, 3, 180, 0, 76, 185, 0, 79, 1, 0, 162, 0, 145, 42, 180, 0, 18]
abbrev dktX5_hangs_0 : List UInt8 := dkwX5_hangs_0 ++ dktX5_hangs_1
theorem dksX5_hangs_0 : cX5_hangs.data.toList.drop 0 = dktX5_hangs_0 := by decide +kernel
theorem dksX5_hangs_1 : cX5_hangs.data.toList.drop 24 = dktX5_hangs_1 := dk_seg dksX5_hangs_0 24 rfl rfl
theorem dksX5_hangs_2 : cX5_hangs.data.toList.drop 48 = dktX5_hangs_2 := dk_seg dksX5_hangs_1 24 rfl rfl
theorem dksX5_hangs_3 : cX5_hangs.data.toList.drop 71 = dktX5_hangs_3 := dk_seg dksX5_hangs_2 23 rfl rfl
theorem dksX5_hangs_4 : cX5_hangs.data.toList.drop 95 = dktX5_hangs_4 := dk_seg dksX5_hangs_3 24 rfl rfl
theorem dksX5_hangs_5 : cX5_hangs.data.toList.drop 119 = dktX5_hangs_5 := dk_seg dksX5_hangs_4 24 rfl rfl
theorem dksX5_hangs_6 : cX5_hangs.data.toList.drop 143 = dktX5_hangs_6 := dk_seg dksX5_hangs_5 24 rfl rfl
theorem dX5_hangs_0 : decode cX5_hangs 0 = .ok (.iconst 0, 1) := dk_3 (dk_at dksX5_hangs_0 0 rfl rfl)
theorem dX5_hangs_1 : decode cX5_hangs 1 = .ok (.istore_n 1, 1) := dk_60 (dk_at dksX5_hangs_0 1 rfl rfl)
theorem dX5_hangs_2 : decode cX5_hangs 2 = .ok (.iconst 0, 1) := dk_3 (dk_at dksX5_hangs_0 2 rfl rfl)
theorem dX5_hangs_3 : decode cX5_hangs 3 = .ok (.istore_n 2, 1) := dk_61 (dk_at dksX5_hangs_0 3 rfl rfl)
theorem dX5_hangs_4 : decode cX5_hangs 4 = .ok (.iload_n 2, 1) := dk_28 (dk_at dksX5_hangs_0 4 rfl rfl)
theorem dX5_hangs_5 : decode cX5_hangs 5 = .ok (.aload_n 0, 1) := dk_42 (dk_at dksX5_hangs_0 5 rfl rfl)
theorem dX5_hangs_6 : decode cX5_hangs 6 = .ok (.getfield 3, 3) := dk_180 0 3 (dk_at dksX5_hangs_0 6 rfl rfl)
theorem dX5_hangs_9 : decode cX5_hangs 9 = .ok (.getfield 76, 3) := dk_180 0 76 (dk_at dksX5_hangs_0 9 rfl rfl)
theorem dX5_hangs_12 : decode cX5_hangs 12 = .ok (.invokeinterface 79 1, 5) := by decide +kernel
theorem dX5_hangs_17 : decode cX5_hangs 17 = .ok (.if_icmp .ge 145, 3) := dk_162 0 145 (dk_at dksX5_hangs_0 17 rfl rfl)
theorem dX5_hangs_20 : decode cX5_hangs 20 = .ok (.aload_n 0, 1) := dk_42 (dk_at dksX5_hangs_0 20 rfl rfl)
theorem dX5_hangs_21 : decode cX5_hangs 21 = .ok (.getfield 18, 3) := dk_180 0 18 (dk_at dksX5_hangs_0 21 rfl rfl)
theorem dX5_hangs_24 : decode cX5_hangs 24 = .ok (.invokeinterface 124 1, 5) := by decide +kernel
theorem dX5_hangs_29 : decode cX5_hangs 29 = .ok (.ifCond .ne 133, 3) := dk_154 0 133 (dk_at dksX5_hangs_1 5 rfl rfl)
theorem dX5_hangs_32 : decode cX5_hangs 32 = .ok (.aload_n 0, 1) := dk_42 (dk_at dksX5_hangs_1 8 rfl rfl)
theorem dX5_hangs_33 : decode cX5_hangs 33 = .ok (.getfield 3, 3) := dk_180 0 3 (dk_at dksX5_hangs_1 9 rfl rfl)
theorem dX5_hangs_36 : decode cX5_hangs 36 = .ok (.getfield 76, 3) := dk_180 0 76 (dk_at dksX5_hangs_1 12 rfl rfl)
theorem dX5_hangs_39 : decode cX5_hangs 39 = .ok (.iload_n 2, 1) := dk_28 (dk_at dksX5_hangs_1 15 rfl rfl)
theorem dX5_hangs_40 : decode cX5_hangs 40 = .ok (.invokeinterface 84 2, 5) := by decide +kernel
theorem dX5_hangs_45 : decode cX5_hangs 45 = .ok (.checkcast 53, 3) := dk_192 0 53 (dk_at dksX5_hangs_1 21 rfl rfl)
theorem dX5_hangs_48 : decode cX5_hangs 48 = .ok (.astore_n 3, 1) := dk_78 (dk_at dksX5_hangs_2 0 rfl rfl)
theorem dX5_hangs_49 : decode cX5_hangs 49 = .ok (.aload_n 0, 1) := dk_42 (dk_at dksX5_hangs_2 1 rfl rfl)
theorem dX5_hangs_50 : decode cX5_hangs 50 = .ok (.getfield 22, 3) := dk_180 0 22 (dk_at dksX5_hangs_2 2 rfl rfl)
theorem dX5_hangs_53 : decode cX5_hangs 53 = .ok (.iload_n 2, 1) := dk_28 (dk_at dksX5_hangs_2 5 rfl rfl)
theorem dX5_hangs_54 : decode cX5_hangs 54 = .ok (.iaload, 1) := dk_46 (dk_at dksX5_hangs_2 6 rfl rfl)
theorem dX5_hangs_55 : decode cX5_hangs 55 = .ok (.iconst (-1), 1) := dk_2 (dk_at dksX5_hangs_2 7 rfl rfl)
theorem dX5_hangs_56 : decode cX5_hangs 56 = .ok (.if_icmp .ne 7, 3) := dk_160 0 7 (dk_at dksX5_hangs_2 8 rfl rfl)
theorem dX5_hangs_59 : decode cX5_hangs 59 = .ok (.iload_n 1, 1) := dk_27 (dk_at dksX5_hangs_2 11 rfl rfl)
theorem dX5_hangs_60 : decode cX5_hangs 60 = .ok (.goto 9, 3) := dk_167 0 9 (dk_at dksX5_hangs_2 12 rfl rfl)
theorem dX5_hangs_63 : decode cX5_hangs 63 = .ok (.aload_n 0, 1) := dk_42 (dk_at dksX5_hangs_2 15 rfl rfl)
theorem dX5_hangs_64 : decode cX5_hangs 64 = .ok (.getfield 22, 3) := dk_180 0 22 (dk_at dksX5_hangs_2 16 rfl rfl)
theorem dX5_hangs_67 : decode cX5_hangs 67 = .ok (.iload_n 2, 1) := dk_28 (dk_at dksX5_hangs_2 19 rfl rfl)
theorem dX5_hangs_68 : decode cX5_hangs 68 = .ok (.iaload, 1) := dk_46 (dk_at dksX5_hangs_2 20 rfl rfl)
theorem dX5_hangs_69 : decode cX5_hangs 69 = .ok (.istore_n 1, 1) := dk_60 (dk_at dksX5_hangs_2 21 rfl rfl)
theorem dX5_hangs_70 : decode cX5_hangs 70 = .ok (.aload_n 3, 1) := dk_45 (dk_at dksX5_hangs_2 22 rfl rfl)
theorem dX5_hangs_71 : decode cX5_hangs 71 = .ok (.getfield 52, 3) := dk_180 0 52 (dk_at dksX5_hangs_3 0 rfl rfl)
theorem dX5_hangs_74 : decode cX5_hangs 74 = .ok (.iconst 4, 1) := dk_7 (dk_at dksX5_hangs_3 3 rfl rfl)
theorem dX5_hangs_75 : decode cX5_hangs 75 = .ok (.if_icmp .lt 81, 3) := dk_161 0 81 (dk_at dksX5_hangs_3 4 rfl rfl)
theorem dX5_hangs_78 : decode cX5_hangs 78 = .ok (.aload_n 0, 1) := dk_42 (dk_at dksX5_hangs_3 7 rfl rfl)
theorem dX5_hangs_79 : decode cX5_hangs 79 = .ok (.getfield 22, 3) := dk_180 0 22 (dk_at dksX5_hangs_3 8 rfl rfl)
theorem dX5_hangs_82 : decode cX5_hangs 82 = .ok (.iload_n 2, 1) := dk_28 (dk_at dksX5_hangs_3 11 rfl rfl)
theorem dX5_hangs_83 : decode cX5_hangs 83 = .ok (.iload_n 1, 1) := dk_27 (dk_at dksX5_hangs_3 12 rfl rfl)
theorem dX5_hangs_84 : decode cX5_hangs 84 = .ok (.iastore, 1) := dk_79 (dk_at dksX5_hangs_3 13 rfl rfl)
theorem dX5_hangs_85 : decode cX5_hangs 85 = .ok (.aload_n 0, 1) := dk_42 (dk_at dksX5_hangs_3 14 rfl rfl)
theorem dX5_hangs_86 : decode cX5_hangs 86 = .ok (.getfield 18, 3) := dk_180 0 18 (dk_at dksX5_hangs_3 15 rfl rfl)
theorem dX5_hangs_89 : decode cX5_hangs 89 = .ok (.iload_n 1, 1) := dk_27 (dk_at dksX5_hangs_3 18 rfl rfl)
theorem dX5_hangs_90 : decode cX5_hangs 90 = .ok (.invokeinterface 84 2, 5) := by decide +kernel
theorem dX5_hangs_95 : decode cX5_hangs 95 = .ok (.checkcast 97, 3) := dk_192 0 97 (dk_at dksX5_hangs_4 0 rfl rfl)
theorem dX5_hangs_98 : decode cX5_hangs 98 = .ok (.dup, 1) := dk_89 (dk_at dksX5_hangs_4 3 rfl rfl)
theorem dX5_hangs_99 : decode cX5_hangs 99 = .ok (.getfield 128, 3) := dk_180 0 128 (dk_at dksX5_hangs_4 4 rfl rfl)
theorem dX5_hangs_102 : decode cX5_hangs 102 = .ok (.aload_n 3, 1) := dk_45 (dk_at dksX5_hangs_4 7 rfl rfl)
theorem dX5_hangs_103 : decode cX5_hangs 103 = .ok (.getfield 52, 3) := dk_180 0 52 (dk_at dksX5_hangs_4 8 rfl rfl)
theorem dX5_hangs_106 : decode cX5_hangs 106 = .ok (.iconst 5, 1) := dk_8 (dk_at dksX5_hangs_4 11 rfl rfl)
theorem dX5_hangs_107 : decode cX5_hangs 107 = .ok (.if_icmp .ne 10, 3) := dk_160 0 10 (dk_at dksX5_hangs_4 12 rfl rfl)
theorem dX5_hangs_110 : decode cX5_hangs 110 = .ok (.aload_n 3, 1) := dk_45 (dk_at dksX5_hangs_4 15 rfl rfl)
theorem dX5_hangs_111 : decode cX5_hangs 111 = .ok (.getfield 61, 3) := dk_180 0 61 (dk_at dksX5_hangs_4 16 rfl rfl)
theorem dX5_hangs_114 : decode cX5_hangs 114 = .ok (.goto 4, 3) := dk_167 0 4 (dk_at dksX5_hangs_4 19 rfl rfl)
theorem dX5_hangs_117 : decode cX5_hangs 117 = .ok (.iconst 0, 1) := dk_3 (dk_at dksX5_hangs_4 22 rfl rfl)
theorem dX5_hangs_118 : decode cX5_hangs 118 = .ok (.iadd, 1) := dk_96 (dk_at dksX5_hangs_4 23 rfl rfl)
theorem dX5_hangs_119 : decode cX5_hangs 119 = .ok (.putfield 128, 3) := dk_181 0 128 (dk_at dksX5_hangs_5 0 rfl rfl)
theorem dX5_hangs_122 : decode cX5_hangs 122 = .ok (.aload_n 3, 1) := dk_45 (dk_at dksX5_hangs_5 3 rfl rfl)
theorem dX5_hangs_123 : decode cX5_hangs 123 = .ok (.getfield 52, 3) := dk_180 0 52 (dk_at dksX5_hangs_5 4 rfl rfl)
theorem dX5_hangs_126 : decode cX5_hangs 126 = .ok (.iconst 4, 1) := dk_7 (dk_at dksX5_hangs_5 7 rfl rfl)
theorem dX5_hangs_127 : decode cX5_hangs 127 = .ok (.if_icmp .ne 29, 3) := dk_160 0 29 (dk_at dksX5_hangs_5 8 rfl rfl)
theorem dX5_hangs_130 : decode cX5_hangs 130 = .ok (.aload_n 0, 1) := dk_42 (dk_at dksX5_hangs_5 11 rfl rfl)
theorem dX5_hangs_131 : decode cX5_hangs 131 = .ok (.getfield 18, 3) := dk_180 0 18 (dk_at dksX5_hangs_5 12 rfl rfl)
theorem dX5_hangs_134 : decode cX5_hangs 134 = .ok (.iload_n 1, 1) := dk_27 (dk_at dksX5_hangs_5 15 rfl rfl)
theorem dX5_hangs_135 : decode cX5_hangs 135 = .ok (.invokeinterface 84 2, 5) := by decide +kernel
theorem dX5_hangs_140 : decode cX5_hangs 140 = .ok (.checkcast 97, 3) := dk_192 0 97 (dk_at dksX5_hangs_5 21 rfl rfl)
theorem dX5_hangs_143 : decode cX5_hangs 143 = .ok (.getfield 131, 3) := dk_180 0 131 (dk_at dksX5_hangs_6 0 rfl rfl)
theorem dX5_hangs_146 : decode cX5_hangs 146 = .ok (.iload_n 2, 1) := dk_28 (dk_at dksX5_hangs_6 3 rfl rfl)
theorem dX5_hangs_147 : decode cX5_hangs 147 = .ok (.invokestatic 118, 3) := dk_184 0 118 (dk_at dksX5_hangs_6 4 rfl rfl)
theorem dX5_hangs_150 : decode cX5_hangs 150 = .ok (.invokeinterface 111 2, 5) := by decide +kernel
theorem dX5_hangs_155 : decode cX5_hangs 155 = .ok (.pop, 1) := dk_87 (dk_at dksX5_hangs_6 12 rfl rfl)
theorem dX5_hangs_156 : decode cX5_hangs 156 = .ok (.iinc 2 1, 3) := dk_132 2 1 (dk_at dksX5_hangs_6 13 rfl rfl)
theorem dX5_hangs_159 : decode cX5_hangs 159 = .ok (.goto (-155), 3) := dk_167 255 101 (dk_at dksX5_hangs_6 16 rfl rfl)
theorem dX5_hangs_162 : decode cX5_hangs 162 = .ok (.return_, 1) := dk_177 (dk_at dksX5_hangs_6 19 rfl rfl)
abbrev cX5_fills : ByteArray := prog_2_method_9_code
def yX5_fills : MethodName := ⟨RX5, "fills", "()V"⟩
def dkwX5_fills_10 : List UInt8 := [185, 0, 124, 1, 0, 154, 0, 10, 42, 182, 0, 163, 167, 255, 240, 177]
abbrev dktX5_fills_10 : List UInt8 := dkwX5_fills_10 ++ []
def dkwX5_fills_9 : List UInt8 := [185, 0, 111, 2, 0, 87, 132, 3, 1, 167, 255, 151, 132, 1, 1, 167, 255, 35, 42, 180, 0, 29]
abbrev dktX5_fills_9 : List UInt8 := dkwX5_fills_9 ++ dktX5_fills_10
def dkwX5_fills_8 : List UInt8 := [180, 0, 153, 163, 0, 12, 42, 21, 4, 182, 0, 159, 167, 0, 18, 42, 180, 0, 29, 21, 4, 184, 0, 118]
abbrev dktX5_fills_8 : List UInt8 := dkwX5_fills_8 ++ dktX5_fills_9
def dkwX5_fills_7 : List UInt8 := [180, 0, 3, 180, 0, 76, 21, 4, 185, 0, 84, 2, 0, 192, 0, 53, 180, 0, 61, 96, 42, 180, 0, 3]
abbrev dktX5_fills_7 : List UInt8 := dkwX5_fills_7 ++ dktX5_fills_8
def dkwX5_fills_6 : List UInt8 := [182, 0, 150, 54, 4, 42, 180, 0, 29, 185, 0, 124, 1, 0, 153, 0, 47, 42, 180, 0, 144, 42]
abbrev dktX5_fills_6 : List UInt8 := dkwX5_fills_6 ++ dktX5_fills_7
def dkwX5_fills_5 : List UInt8 := [180, 0, 131, 185, 0, 79, 1, 0, 162, 0, 98, 44, 180, 0, 131, 29, 185, 0, 84, 2, 0, 192, 0, 119]
abbrev dktX5_fills_5 : List UInt8 := dkwX5_fills_5 ++ dktX5_fills_6
def dkwX5_fills_4 : List UInt8 := [181, 0, 144, 42, 4, 181, 0, 147, 44, 42, 180, 0, 141, 4, 100, 181, 0, 170, 3, 62, 29, 44]
abbrev dktX5_fills_4 : List UInt8 := dkwX5_fills_4 ++ dktX5_fills_5
def dkwX5_fills_3 : List UInt8 := [164, 0, 10, 42, 182, 0, 163, 167, 255, 221, 42, 89, 180, 0, 144, 44, 42, 180, 0, 147, 182, 0, 137, 96]
abbrev dktX5_fills_3 : List UInt8 := dkwX5_fills_3 ++ dktX5_fills_4
def dkwX5_fills_2 : List UInt8 := [158, 0, 34, 42, 180, 0, 144, 42, 27, 42, 180, 0, 147, 182, 0, 166, 96, 42, 180, 0, 3, 180, 0, 153]
abbrev dktX5_fills_2 : List UInt8 := dkwX5_fills_2 ++ dktX5_fills_3
def dkwX5_fills_1 : List UInt8 := [185, 0, 84, 2, 0, 192, 0, 97, 77, 42, 180, 0, 141, 154, 0, 7, 42, 182, 0, 163, 42, 180, 0, 144]
abbrev dktX5_fills_1 : List UInt8 := dkwX5_fills_1 ++ dktX5_fills_2
def dkwX5_fills_0 : List UInt8 := [3, 60, 27, 42, 180, 0, 18, 185, 0, 79, 1, 0, 162, 0, 214, 42, 180, 0, 18, 27]
abbrev dktX5_fills_0 : List UInt8 := dkwX5_fills_0 ++ dktX5_fills_1
theorem dksX5_fills_0 : cX5_fills.data.toList.drop 0 = dktX5_fills_0 := by decide +kernel
theorem dksX5_fills_1 : cX5_fills.data.toList.drop 20 = dktX5_fills_1 := dk_seg dksX5_fills_0 20 rfl rfl
theorem dksX5_fills_2 : cX5_fills.data.toList.drop 44 = dktX5_fills_2 := dk_seg dksX5_fills_1 24 rfl rfl
theorem dksX5_fills_3 : cX5_fills.data.toList.drop 68 = dktX5_fills_3 := dk_seg dksX5_fills_2 24 rfl rfl
theorem dksX5_fills_4 : cX5_fills.data.toList.drop 92 = dktX5_fills_4 := dk_seg dksX5_fills_3 24 rfl rfl
theorem dksX5_fills_5 : cX5_fills.data.toList.drop 114 = dktX5_fills_5 := dk_seg dksX5_fills_4 22 rfl rfl
theorem dksX5_fills_6 : cX5_fills.data.toList.drop 138 = dktX5_fills_6 := dk_seg dksX5_fills_5 24 rfl rfl
theorem dksX5_fills_7 : cX5_fills.data.toList.drop 160 = dktX5_fills_7 := dk_seg dksX5_fills_6 22 rfl rfl
theorem dksX5_fills_8 : cX5_fills.data.toList.drop 184 = dktX5_fills_8 := dk_seg dksX5_fills_7 24 rfl rfl
theorem dksX5_fills_9 : cX5_fills.data.toList.drop 208 = dktX5_fills_9 := dk_seg dksX5_fills_8 24 rfl rfl
theorem dksX5_fills_10 : cX5_fills.data.toList.drop 230 = dktX5_fills_10 := dk_seg dksX5_fills_9 22 rfl rfl
theorem dX5_fills_0 : decode cX5_fills 0 = .ok (.iconst 0, 1) := dk_3 (dk_at dksX5_fills_0 0 rfl rfl)
theorem dX5_fills_1 : decode cX5_fills 1 = .ok (.istore_n 1, 1) := dk_60 (dk_at dksX5_fills_0 1 rfl rfl)
theorem dX5_fills_2 : decode cX5_fills 2 = .ok (.iload_n 1, 1) := dk_27 (dk_at dksX5_fills_0 2 rfl rfl)
theorem dX5_fills_3 : decode cX5_fills 3 = .ok (.aload_n 0, 1) := dk_42 (dk_at dksX5_fills_0 3 rfl rfl)
theorem dX5_fills_4 : decode cX5_fills 4 = .ok (.getfield 18, 3) := dk_180 0 18 (dk_at dksX5_fills_0 4 rfl rfl)
theorem dX5_fills_7 : decode cX5_fills 7 = .ok (.invokeinterface 79 1, 5) := by decide +kernel
theorem dX5_fills_12 : decode cX5_fills 12 = .ok (.if_icmp .ge 214, 3) := dk_162 0 214 (dk_at dksX5_fills_0 12 rfl rfl)
theorem dX5_fills_15 : decode cX5_fills 15 = .ok (.aload_n 0, 1) := dk_42 (dk_at dksX5_fills_0 15 rfl rfl)
theorem dX5_fills_16 : decode cX5_fills 16 = .ok (.getfield 18, 3) := dk_180 0 18 (dk_at dksX5_fills_0 16 rfl rfl)
theorem dX5_fills_19 : decode cX5_fills 19 = .ok (.iload_n 1, 1) := dk_27 (dk_at dksX5_fills_0 19 rfl rfl)
theorem dX5_fills_20 : decode cX5_fills 20 = .ok (.invokeinterface 84 2, 5) := by decide +kernel
theorem dX5_fills_25 : decode cX5_fills 25 = .ok (.checkcast 97, 3) := dk_192 0 97 (dk_at dksX5_fills_1 5 rfl rfl)
theorem dX5_fills_28 : decode cX5_fills 28 = .ok (.astore_n 2, 1) := dk_77 (dk_at dksX5_fills_1 8 rfl rfl)
theorem dX5_fills_29 : decode cX5_fills 29 = .ok (.aload_n 0, 1) := dk_42 (dk_at dksX5_fills_1 9 rfl rfl)
theorem dX5_fills_30 : decode cX5_fills 30 = .ok (.getfield 141, 3) := dk_180 0 141 (dk_at dksX5_fills_1 10 rfl rfl)
theorem dX5_fills_33 : decode cX5_fills 33 = .ok (.ifCond .ne 7, 3) := dk_154 0 7 (dk_at dksX5_fills_1 13 rfl rfl)
theorem dX5_fills_36 : decode cX5_fills 36 = .ok (.aload_n 0, 1) := dk_42 (dk_at dksX5_fills_1 16 rfl rfl)
theorem dX5_fills_37 : decode cX5_fills 37 = .ok (.invokevirtual 163, 3) := dk_182 0 163 (dk_at dksX5_fills_1 17 rfl rfl)
theorem dX5_fills_40 : decode cX5_fills 40 = .ok (.aload_n 0, 1) := dk_42 (dk_at dksX5_fills_1 20 rfl rfl)
theorem dX5_fills_41 : decode cX5_fills 41 = .ok (.getfield 144, 3) := dk_180 0 144 (dk_at dksX5_fills_1 21 rfl rfl)
theorem dX5_fills_44 : decode cX5_fills 44 = .ok (.ifCond .le 34, 3) := dk_158 0 34 (dk_at dksX5_fills_2 0 rfl rfl)
theorem dX5_fills_47 : decode cX5_fills 47 = .ok (.aload_n 0, 1) := dk_42 (dk_at dksX5_fills_2 3 rfl rfl)
theorem dX5_fills_48 : decode cX5_fills 48 = .ok (.getfield 144, 3) := dk_180 0 144 (dk_at dksX5_fills_2 4 rfl rfl)
theorem dX5_fills_51 : decode cX5_fills 51 = .ok (.aload_n 0, 1) := dk_42 (dk_at dksX5_fills_2 7 rfl rfl)
theorem dX5_fills_52 : decode cX5_fills 52 = .ok (.iload_n 1, 1) := dk_27 (dk_at dksX5_fills_2 8 rfl rfl)
theorem dX5_fills_53 : decode cX5_fills 53 = .ok (.aload_n 0, 1) := dk_42 (dk_at dksX5_fills_2 9 rfl rfl)
theorem dX5_fills_54 : decode cX5_fills 54 = .ok (.getfield 147, 3) := dk_180 0 147 (dk_at dksX5_fills_2 10 rfl rfl)
theorem dX5_fills_57 : decode cX5_fills 57 = .ok (.invokevirtual 166, 3) := dk_182 0 166 (dk_at dksX5_fills_2 13 rfl rfl)
theorem dX5_fills_60 : decode cX5_fills 60 = .ok (.iadd, 1) := dk_96 (dk_at dksX5_fills_2 16 rfl rfl)
theorem dX5_fills_61 : decode cX5_fills 61 = .ok (.aload_n 0, 1) := dk_42 (dk_at dksX5_fills_2 17 rfl rfl)
theorem dX5_fills_62 : decode cX5_fills 62 = .ok (.getfield 3, 3) := dk_180 0 3 (dk_at dksX5_fills_2 18 rfl rfl)
theorem dX5_fills_65 : decode cX5_fills 65 = .ok (.getfield 153, 3) := dk_180 0 153 (dk_at dksX5_fills_2 21 rfl rfl)
theorem dX5_fills_68 : decode cX5_fills 68 = .ok (.if_icmp .le 10, 3) := dk_164 0 10 (dk_at dksX5_fills_3 0 rfl rfl)
theorem dX5_fills_71 : decode cX5_fills 71 = .ok (.aload_n 0, 1) := dk_42 (dk_at dksX5_fills_3 3 rfl rfl)
theorem dX5_fills_72 : decode cX5_fills 72 = .ok (.invokevirtual 163, 3) := dk_182 0 163 (dk_at dksX5_fills_3 4 rfl rfl)
theorem dX5_fills_75 : decode cX5_fills 75 = .ok (.goto (-35), 3) := dk_167 255 221 (dk_at dksX5_fills_3 7 rfl rfl)
theorem dX5_fills_78 : decode cX5_fills 78 = .ok (.aload_n 0, 1) := dk_42 (dk_at dksX5_fills_3 10 rfl rfl)
theorem dX5_fills_79 : decode cX5_fills 79 = .ok (.dup, 1) := dk_89 (dk_at dksX5_fills_3 11 rfl rfl)
theorem dX5_fills_80 : decode cX5_fills 80 = .ok (.getfield 144, 3) := dk_180 0 144 (dk_at dksX5_fills_3 12 rfl rfl)
theorem dX5_fills_83 : decode cX5_fills 83 = .ok (.aload_n 2, 1) := dk_44 (dk_at dksX5_fills_3 15 rfl rfl)
theorem dX5_fills_84 : decode cX5_fills 84 = .ok (.aload_n 0, 1) := dk_42 (dk_at dksX5_fills_3 16 rfl rfl)
theorem dX5_fills_85 : decode cX5_fills 85 = .ok (.getfield 147, 3) := dk_180 0 147 (dk_at dksX5_fills_3 17 rfl rfl)
theorem dX5_fills_88 : decode cX5_fills 88 = .ok (.invokevirtual 137, 3) := dk_182 0 137 (dk_at dksX5_fills_3 20 rfl rfl)
theorem dX5_fills_91 : decode cX5_fills 91 = .ok (.iadd, 1) := dk_96 (dk_at dksX5_fills_3 23 rfl rfl)
theorem dX5_fills_92 : decode cX5_fills 92 = .ok (.putfield 144, 3) := dk_181 0 144 (dk_at dksX5_fills_4 0 rfl rfl)
theorem dX5_fills_95 : decode cX5_fills 95 = .ok (.aload_n 0, 1) := dk_42 (dk_at dksX5_fills_4 3 rfl rfl)
theorem dX5_fills_96 : decode cX5_fills 96 = .ok (.iconst 1, 1) := dk_4 (dk_at dksX5_fills_4 4 rfl rfl)
theorem dX5_fills_97 : decode cX5_fills 97 = .ok (.putfield 147, 3) := dk_181 0 147 (dk_at dksX5_fills_4 5 rfl rfl)
theorem dX5_fills_100 : decode cX5_fills 100 = .ok (.aload_n 2, 1) := dk_44 (dk_at dksX5_fills_4 8 rfl rfl)
theorem dX5_fills_101 : decode cX5_fills 101 = .ok (.aload_n 0, 1) := dk_42 (dk_at dksX5_fills_4 9 rfl rfl)
theorem dX5_fills_102 : decode cX5_fills 102 = .ok (.getfield 141, 3) := dk_180 0 141 (dk_at dksX5_fills_4 10 rfl rfl)
theorem dX5_fills_105 : decode cX5_fills 105 = .ok (.iconst 1, 1) := dk_4 (dk_at dksX5_fills_4 13 rfl rfl)
theorem dX5_fills_106 : decode cX5_fills 106 = .ok (.isub, 1) := dk_100 (dk_at dksX5_fills_4 14 rfl rfl)
theorem dX5_fills_107 : decode cX5_fills 107 = .ok (.putfield 170, 3) := dk_181 0 170 (dk_at dksX5_fills_4 15 rfl rfl)
theorem dX5_fills_110 : decode cX5_fills 110 = .ok (.iconst 0, 1) := dk_3 (dk_at dksX5_fills_4 18 rfl rfl)
theorem dX5_fills_111 : decode cX5_fills 111 = .ok (.istore_n 3, 1) := dk_62 (dk_at dksX5_fills_4 19 rfl rfl)
theorem dX5_fills_112 : decode cX5_fills 112 = .ok (.iload_n 3, 1) := dk_29 (dk_at dksX5_fills_4 20 rfl rfl)
theorem dX5_fills_113 : decode cX5_fills 113 = .ok (.aload_n 2, 1) := dk_44 (dk_at dksX5_fills_4 21 rfl rfl)
theorem dX5_fills_114 : decode cX5_fills 114 = .ok (.getfield 131, 3) := dk_180 0 131 (dk_at dksX5_fills_5 0 rfl rfl)
theorem dX5_fills_117 : decode cX5_fills 117 = .ok (.invokeinterface 79 1, 5) := by decide +kernel
theorem dX5_fills_122 : decode cX5_fills 122 = .ok (.if_icmp .ge 98, 3) := dk_162 0 98 (dk_at dksX5_fills_5 8 rfl rfl)
theorem dX5_fills_125 : decode cX5_fills 125 = .ok (.aload_n 2, 1) := dk_44 (dk_at dksX5_fills_5 11 rfl rfl)
theorem dX5_fills_126 : decode cX5_fills 126 = .ok (.getfield 131, 3) := dk_180 0 131 (dk_at dksX5_fills_5 12 rfl rfl)
theorem dX5_fills_129 : decode cX5_fills 129 = .ok (.iload_n 3, 1) := dk_29 (dk_at dksX5_fills_5 15 rfl rfl)
theorem dX5_fills_130 : decode cX5_fills 130 = .ok (.invokeinterface 84 2, 5) := by decide +kernel
theorem dX5_fills_135 : decode cX5_fills 135 = .ok (.checkcast 119, 3) := dk_192 0 119 (dk_at dksX5_fills_5 21 rfl rfl)
theorem dX5_fills_138 : decode cX5_fills 138 = .ok (.invokevirtual 150, 3) := dk_182 0 150 (dk_at dksX5_fills_6 0 rfl rfl)
theorem dX5_fills_141 : decode cX5_fills 141 = .ok (.istore 4, 2) := dk_54 4 (dk_at dksX5_fills_6 3 rfl rfl)
theorem dX5_fills_143 : decode cX5_fills 143 = .ok (.aload_n 0, 1) := dk_42 (dk_at dksX5_fills_6 5 rfl rfl)
theorem dX5_fills_144 : decode cX5_fills 144 = .ok (.getfield 29, 3) := dk_180 0 29 (dk_at dksX5_fills_6 6 rfl rfl)
theorem dX5_fills_147 : decode cX5_fills 147 = .ok (.invokeinterface 124 1, 5) := by decide +kernel
theorem dX5_fills_152 : decode cX5_fills 152 = .ok (.ifCond .eq 47, 3) := dk_153 0 47 (dk_at dksX5_fills_6 14 rfl rfl)
theorem dX5_fills_155 : decode cX5_fills 155 = .ok (.aload_n 0, 1) := dk_42 (dk_at dksX5_fills_6 17 rfl rfl)
theorem dX5_fills_156 : decode cX5_fills 156 = .ok (.getfield 144, 3) := dk_180 0 144 (dk_at dksX5_fills_6 18 rfl rfl)
theorem dX5_fills_159 : decode cX5_fills 159 = .ok (.aload_n 0, 1) := dk_42 (dk_at dksX5_fills_6 21 rfl rfl)
theorem dX5_fills_160 : decode cX5_fills 160 = .ok (.getfield 3, 3) := dk_180 0 3 (dk_at dksX5_fills_7 0 rfl rfl)
theorem dX5_fills_163 : decode cX5_fills 163 = .ok (.getfield 76, 3) := dk_180 0 76 (dk_at dksX5_fills_7 3 rfl rfl)
theorem dX5_fills_166 : decode cX5_fills 166 = .ok (.iload 4, 2) := dk_21 4 (dk_at dksX5_fills_7 6 rfl rfl)
theorem dX5_fills_168 : decode cX5_fills 168 = .ok (.invokeinterface 84 2, 5) := by decide +kernel
theorem dX5_fills_173 : decode cX5_fills 173 = .ok (.checkcast 53, 3) := dk_192 0 53 (dk_at dksX5_fills_7 13 rfl rfl)
theorem dX5_fills_176 : decode cX5_fills 176 = .ok (.getfield 61, 3) := dk_180 0 61 (dk_at dksX5_fills_7 16 rfl rfl)
theorem dX5_fills_179 : decode cX5_fills 179 = .ok (.iadd, 1) := dk_96 (dk_at dksX5_fills_7 19 rfl rfl)
theorem dX5_fills_180 : decode cX5_fills 180 = .ok (.aload_n 0, 1) := dk_42 (dk_at dksX5_fills_7 20 rfl rfl)
theorem dX5_fills_181 : decode cX5_fills 181 = .ok (.getfield 3, 3) := dk_180 0 3 (dk_at dksX5_fills_7 21 rfl rfl)
theorem dX5_fills_184 : decode cX5_fills 184 = .ok (.getfield 153, 3) := dk_180 0 153 (dk_at dksX5_fills_8 0 rfl rfl)
theorem dX5_fills_187 : decode cX5_fills 187 = .ok (.if_icmp .gt 12, 3) := dk_163 0 12 (dk_at dksX5_fills_8 3 rfl rfl)
theorem dX5_fills_190 : decode cX5_fills 190 = .ok (.aload_n 0, 1) := dk_42 (dk_at dksX5_fills_8 6 rfl rfl)
theorem dX5_fills_191 : decode cX5_fills 191 = .ok (.iload 4, 2) := dk_21 4 (dk_at dksX5_fills_8 7 rfl rfl)
theorem dX5_fills_193 : decode cX5_fills 193 = .ok (.invokevirtual 159, 3) := dk_182 0 159 (dk_at dksX5_fills_8 9 rfl rfl)
theorem dX5_fills_196 : decode cX5_fills 196 = .ok (.goto 18, 3) := dk_167 0 18 (dk_at dksX5_fills_8 12 rfl rfl)
theorem dX5_fills_199 : decode cX5_fills 199 = .ok (.aload_n 0, 1) := dk_42 (dk_at dksX5_fills_8 15 rfl rfl)
theorem dX5_fills_200 : decode cX5_fills 200 = .ok (.getfield 29, 3) := dk_180 0 29 (dk_at dksX5_fills_8 16 rfl rfl)
theorem dX5_fills_203 : decode cX5_fills 203 = .ok (.iload 4, 2) := dk_21 4 (dk_at dksX5_fills_8 19 rfl rfl)
theorem dX5_fills_205 : decode cX5_fills 205 = .ok (.invokestatic 118, 3) := dk_184 0 118 (dk_at dksX5_fills_8 21 rfl rfl)
theorem dX5_fills_208 : decode cX5_fills 208 = .ok (.invokeinterface 111 2, 5) := by decide +kernel
theorem dX5_fills_213 : decode cX5_fills 213 = .ok (.pop, 1) := dk_87 (dk_at dksX5_fills_9 5 rfl rfl)
theorem dX5_fills_214 : decode cX5_fills 214 = .ok (.iinc 3 1, 3) := dk_132 3 1 (dk_at dksX5_fills_9 6 rfl rfl)
theorem dX5_fills_217 : decode cX5_fills 217 = .ok (.goto (-105), 3) := dk_167 255 151 (dk_at dksX5_fills_9 9 rfl rfl)
theorem dX5_fills_220 : decode cX5_fills 220 = .ok (.iinc 1 1, 3) := dk_132 1 1 (dk_at dksX5_fills_9 12 rfl rfl)
theorem dX5_fills_223 : decode cX5_fills 223 = .ok (.goto (-221), 3) := dk_167 255 35 (dk_at dksX5_fills_9 15 rfl rfl)
theorem dX5_fills_226 : decode cX5_fills 226 = .ok (.aload_n 0, 1) := dk_42 (dk_at dksX5_fills_9 18 rfl rfl)
theorem dX5_fills_227 : decode cX5_fills 227 = .ok (.getfield 29, 3) := dk_180 0 29 (dk_at dksX5_fills_9 19 rfl rfl)
theorem dX5_fills_230 : decode cX5_fills 230 = .ok (.invokeinterface 124 1, 5) := by decide +kernel
theorem dX5_fills_235 : decode cX5_fills 235 = .ok (.ifCond .ne 10, 3) := dk_154 0 10 (dk_at dksX5_fills_10 5 rfl rfl)
theorem dX5_fills_238 : decode cX5_fills 238 = .ok (.aload_n 0, 1) := dk_42 (dk_at dksX5_fills_10 8 rfl rfl)
theorem dX5_fills_239 : decode cX5_fills 239 = .ok (.invokevirtual 163, 3) := dk_182 0 163 (dk_at dksX5_fills_10 9 rfl rfl)
theorem dX5_fills_242 : decode cX5_fills 242 = .ok (.goto (-16), 3) := dk_167 255 240 (dk_at dksX5_fills_10 12 rfl rfl)
theorem dX5_fills_245 : decode cX5_fills 245 = .ok (.return_, 1) := dk_177 (dk_at dksX5_fills_10 15 rfl rfl)
abbrev cX5_begins : ByteArray := prog_2_method_7_code
def yX5_begins : MethodName := ⟨RX5, "begins", "()V"⟩
def dkwX5_begins_4 : List UInt8 := [185, 0, 156, 2, 0, 192, 0, 119, 182, 0, 150, 182, 0, 159, 167, 255, 168, 177]
abbrev dktX5_begins_4 : List UInt8 := dkwX5_begins_4 ++ []
def dkwX5_begins_3 : List UInt8 := [192, 0, 53, 180, 0, 61, 96, 42, 180, 0, 3, 180, 0, 153, 163, 0, 26, 42, 42, 180, 0, 29, 3]
abbrev dktX5_begins_3 : List UInt8 := dkwX5_begins_3 ++ dktX5_begins_4
def dkwX5_begins_2 : List UInt8 := [180, 0, 76, 42, 180, 0, 29, 3, 185, 0, 84, 2, 0, 192, 0, 119, 182, 0, 150, 185, 0, 84, 2, 0]
abbrev dktX5_begins_2 : List UInt8 := dkwX5_begins_2 ++ dktX5_begins_3
def dkwX5_begins_1 : List UInt8 := [185, 0, 124, 1, 0, 154, 0, 82, 42, 180, 0, 144, 153, 0, 52, 42, 180, 0, 144, 42, 180, 0, 3]
abbrev dktX5_begins_1 : List UInt8 := dkwX5_begins_1 ++ dktX5_begins_2
def dkwX5_begins_0 : List UInt8 := [42, 89, 180, 0, 141, 4, 96, 181, 0, 141, 42, 3, 181, 0, 144, 42, 3, 181, 0, 147, 42, 180, 0, 29]
abbrev dktX5_begins_0 : List UInt8 := dkwX5_begins_0 ++ dktX5_begins_1
theorem dksX5_begins_0 : cX5_begins.data.toList.drop 0 = dktX5_begins_0 := by decide +kernel
theorem dksX5_begins_1 : cX5_begins.data.toList.drop 24 = dktX5_begins_1 := dk_seg dksX5_begins_0 24 rfl rfl
theorem dksX5_begins_2 : cX5_begins.data.toList.drop 47 = dktX5_begins_2 := dk_seg dksX5_begins_1 23 rfl rfl
theorem dksX5_begins_3 : cX5_begins.data.toList.drop 71 = dktX5_begins_3 := dk_seg dksX5_begins_2 24 rfl rfl
theorem dksX5_begins_4 : cX5_begins.data.toList.drop 94 = dktX5_begins_4 := dk_seg dksX5_begins_3 23 rfl rfl
theorem dX5_begins_0 : decode cX5_begins 0 = .ok (.aload_n 0, 1) := dk_42 (dk_at dksX5_begins_0 0 rfl rfl)
theorem dX5_begins_1 : decode cX5_begins 1 = .ok (.dup, 1) := dk_89 (dk_at dksX5_begins_0 1 rfl rfl)
theorem dX5_begins_2 : decode cX5_begins 2 = .ok (.getfield 141, 3) := dk_180 0 141 (dk_at dksX5_begins_0 2 rfl rfl)
theorem dX5_begins_5 : decode cX5_begins 5 = .ok (.iconst 1, 1) := dk_4 (dk_at dksX5_begins_0 5 rfl rfl)
theorem dX5_begins_6 : decode cX5_begins 6 = .ok (.iadd, 1) := dk_96 (dk_at dksX5_begins_0 6 rfl rfl)
theorem dX5_begins_7 : decode cX5_begins 7 = .ok (.putfield 141, 3) := dk_181 0 141 (dk_at dksX5_begins_0 7 rfl rfl)
theorem dX5_begins_10 : decode cX5_begins 10 = .ok (.aload_n 0, 1) := dk_42 (dk_at dksX5_begins_0 10 rfl rfl)
theorem dX5_begins_11 : decode cX5_begins 11 = .ok (.iconst 0, 1) := dk_3 (dk_at dksX5_begins_0 11 rfl rfl)
theorem dX5_begins_12 : decode cX5_begins 12 = .ok (.putfield 144, 3) := dk_181 0 144 (dk_at dksX5_begins_0 12 rfl rfl)
theorem dX5_begins_15 : decode cX5_begins 15 = .ok (.aload_n 0, 1) := dk_42 (dk_at dksX5_begins_0 15 rfl rfl)
theorem dX5_begins_16 : decode cX5_begins 16 = .ok (.iconst 0, 1) := dk_3 (dk_at dksX5_begins_0 16 rfl rfl)
theorem dX5_begins_17 : decode cX5_begins 17 = .ok (.putfield 147, 3) := dk_181 0 147 (dk_at dksX5_begins_0 17 rfl rfl)
theorem dX5_begins_20 : decode cX5_begins 20 = .ok (.aload_n 0, 1) := dk_42 (dk_at dksX5_begins_0 20 rfl rfl)
theorem dX5_begins_21 : decode cX5_begins 21 = .ok (.getfield 29, 3) := dk_180 0 29 (dk_at dksX5_begins_0 21 rfl rfl)
theorem dX5_begins_24 : decode cX5_begins 24 = .ok (.invokeinterface 124 1, 5) := by decide +kernel
theorem dX5_begins_29 : decode cX5_begins 29 = .ok (.ifCond .ne 82, 3) := dk_154 0 82 (dk_at dksX5_begins_1 5 rfl rfl)
theorem dX5_begins_32 : decode cX5_begins 32 = .ok (.aload_n 0, 1) := dk_42 (dk_at dksX5_begins_1 8 rfl rfl)
theorem dX5_begins_33 : decode cX5_begins 33 = .ok (.getfield 144, 3) := dk_180 0 144 (dk_at dksX5_begins_1 9 rfl rfl)
theorem dX5_begins_36 : decode cX5_begins 36 = .ok (.ifCond .eq 52, 3) := dk_153 0 52 (dk_at dksX5_begins_1 12 rfl rfl)
theorem dX5_begins_39 : decode cX5_begins 39 = .ok (.aload_n 0, 1) := dk_42 (dk_at dksX5_begins_1 15 rfl rfl)
theorem dX5_begins_40 : decode cX5_begins 40 = .ok (.getfield 144, 3) := dk_180 0 144 (dk_at dksX5_begins_1 16 rfl rfl)
theorem dX5_begins_43 : decode cX5_begins 43 = .ok (.aload_n 0, 1) := dk_42 (dk_at dksX5_begins_1 19 rfl rfl)
theorem dX5_begins_44 : decode cX5_begins 44 = .ok (.getfield 3, 3) := dk_180 0 3 (dk_at dksX5_begins_1 20 rfl rfl)
theorem dX5_begins_47 : decode cX5_begins 47 = .ok (.getfield 76, 3) := dk_180 0 76 (dk_at dksX5_begins_2 0 rfl rfl)
theorem dX5_begins_50 : decode cX5_begins 50 = .ok (.aload_n 0, 1) := dk_42 (dk_at dksX5_begins_2 3 rfl rfl)
theorem dX5_begins_51 : decode cX5_begins 51 = .ok (.getfield 29, 3) := dk_180 0 29 (dk_at dksX5_begins_2 4 rfl rfl)
theorem dX5_begins_54 : decode cX5_begins 54 = .ok (.iconst 0, 1) := dk_3 (dk_at dksX5_begins_2 7 rfl rfl)
theorem dX5_begins_55 : decode cX5_begins 55 = .ok (.invokeinterface 84 2, 5) := by decide +kernel
theorem dX5_begins_60 : decode cX5_begins 60 = .ok (.checkcast 119, 3) := dk_192 0 119 (dk_at dksX5_begins_2 13 rfl rfl)
theorem dX5_begins_63 : decode cX5_begins 63 = .ok (.invokevirtual 150, 3) := dk_182 0 150 (dk_at dksX5_begins_2 16 rfl rfl)
theorem dX5_begins_66 : decode cX5_begins 66 = .ok (.invokeinterface 84 2, 5) := by decide +kernel
theorem dX5_begins_71 : decode cX5_begins 71 = .ok (.checkcast 53, 3) := dk_192 0 53 (dk_at dksX5_begins_3 0 rfl rfl)
theorem dX5_begins_74 : decode cX5_begins 74 = .ok (.getfield 61, 3) := dk_180 0 61 (dk_at dksX5_begins_3 3 rfl rfl)
theorem dX5_begins_77 : decode cX5_begins 77 = .ok (.iadd, 1) := dk_96 (dk_at dksX5_begins_3 6 rfl rfl)
theorem dX5_begins_78 : decode cX5_begins 78 = .ok (.aload_n 0, 1) := dk_42 (dk_at dksX5_begins_3 7 rfl rfl)
theorem dX5_begins_79 : decode cX5_begins 79 = .ok (.getfield 3, 3) := dk_180 0 3 (dk_at dksX5_begins_3 8 rfl rfl)
theorem dX5_begins_82 : decode cX5_begins 82 = .ok (.getfield 153, 3) := dk_180 0 153 (dk_at dksX5_begins_3 11 rfl rfl)
theorem dX5_begins_85 : decode cX5_begins 85 = .ok (.if_icmp .gt 26, 3) := dk_163 0 26 (dk_at dksX5_begins_3 14 rfl rfl)
theorem dX5_begins_88 : decode cX5_begins 88 = .ok (.aload_n 0, 1) := dk_42 (dk_at dksX5_begins_3 17 rfl rfl)
theorem dX5_begins_89 : decode cX5_begins 89 = .ok (.aload_n 0, 1) := dk_42 (dk_at dksX5_begins_3 18 rfl rfl)
theorem dX5_begins_90 : decode cX5_begins 90 = .ok (.getfield 29, 3) := dk_180 0 29 (dk_at dksX5_begins_3 19 rfl rfl)
theorem dX5_begins_93 : decode cX5_begins 93 = .ok (.iconst 0, 1) := dk_3 (dk_at dksX5_begins_3 22 rfl rfl)
theorem dX5_begins_94 : decode cX5_begins 94 = .ok (.invokeinterface 156 2, 5) := by decide +kernel
theorem dX5_begins_99 : decode cX5_begins 99 = .ok (.checkcast 119, 3) := dk_192 0 119 (dk_at dksX5_begins_4 5 rfl rfl)
theorem dX5_begins_102 : decode cX5_begins 102 = .ok (.invokevirtual 150, 3) := dk_182 0 150 (dk_at dksX5_begins_4 8 rfl rfl)
theorem dX5_begins_105 : decode cX5_begins 105 = .ok (.invokevirtual 159, 3) := dk_182 0 159 (dk_at dksX5_begins_4 11 rfl rfl)
theorem dX5_begins_108 : decode cX5_begins 108 = .ok (.goto (-88), 3) := dk_167 255 168 (dk_at dksX5_begins_4 14 rfl rfl)
theorem dX5_begins_111 : decode cX5_begins 111 = .ok (.return_, 1) := dk_177 (dk_at dksX5_begins_4 17 rfl rfl)
abbrev cX5_tops : ByteArray := prog_2_method_8_code
def yX5_tops : MethodName := ⟨RX5, "tops", "(I)V"⟩
def dkwX5_tops_1 : List UInt8 := [96, 181, 0, 144, 42, 180, 0, 26, 27, 42, 180, 0, 141, 4, 100, 79, 177]
abbrev dktX5_tops_1 : List UInt8 := dkwX5_tops_1 ++ []
def dkwX5_tops_0 : List UInt8 := [42, 89, 180, 0, 144, 42, 180, 0, 3, 180, 0, 76, 27, 185, 0, 84, 2, 0, 192, 0, 53, 180, 0, 61]
abbrev dktX5_tops_0 : List UInt8 := dkwX5_tops_0 ++ dktX5_tops_1
theorem dksX5_tops_0 : cX5_tops.data.toList.drop 0 = dktX5_tops_0 := by decide +kernel
theorem dksX5_tops_1 : cX5_tops.data.toList.drop 24 = dktX5_tops_1 := dk_seg dksX5_tops_0 24 rfl rfl
theorem dX5_tops_0 : decode cX5_tops 0 = .ok (.aload_n 0, 1) := dk_42 (dk_at dksX5_tops_0 0 rfl rfl)
theorem dX5_tops_1 : decode cX5_tops 1 = .ok (.dup, 1) := dk_89 (dk_at dksX5_tops_0 1 rfl rfl)
theorem dX5_tops_2 : decode cX5_tops 2 = .ok (.getfield 144, 3) := dk_180 0 144 (dk_at dksX5_tops_0 2 rfl rfl)
theorem dX5_tops_5 : decode cX5_tops 5 = .ok (.aload_n 0, 1) := dk_42 (dk_at dksX5_tops_0 5 rfl rfl)
theorem dX5_tops_6 : decode cX5_tops 6 = .ok (.getfield 3, 3) := dk_180 0 3 (dk_at dksX5_tops_0 6 rfl rfl)
theorem dX5_tops_9 : decode cX5_tops 9 = .ok (.getfield 76, 3) := dk_180 0 76 (dk_at dksX5_tops_0 9 rfl rfl)
theorem dX5_tops_12 : decode cX5_tops 12 = .ok (.iload_n 1, 1) := dk_27 (dk_at dksX5_tops_0 12 rfl rfl)
theorem dX5_tops_13 : decode cX5_tops 13 = .ok (.invokeinterface 84 2, 5) := by decide +kernel
theorem dX5_tops_18 : decode cX5_tops 18 = .ok (.checkcast 53, 3) := dk_192 0 53 (dk_at dksX5_tops_0 18 rfl rfl)
theorem dX5_tops_21 : decode cX5_tops 21 = .ok (.getfield 61, 3) := dk_180 0 61 (dk_at dksX5_tops_0 21 rfl rfl)
theorem dX5_tops_24 : decode cX5_tops 24 = .ok (.iadd, 1) := dk_96 (dk_at dksX5_tops_1 0 rfl rfl)
theorem dX5_tops_25 : decode cX5_tops 25 = .ok (.putfield 144, 3) := dk_181 0 144 (dk_at dksX5_tops_1 1 rfl rfl)
theorem dX5_tops_28 : decode cX5_tops 28 = .ok (.aload_n 0, 1) := dk_42 (dk_at dksX5_tops_1 4 rfl rfl)
theorem dX5_tops_29 : decode cX5_tops 29 = .ok (.getfield 26, 3) := dk_180 0 26 (dk_at dksX5_tops_1 5 rfl rfl)
theorem dX5_tops_32 : decode cX5_tops 32 = .ok (.iload_n 1, 1) := dk_27 (dk_at dksX5_tops_1 8 rfl rfl)
theorem dX5_tops_33 : decode cX5_tops 33 = .ok (.aload_n 0, 1) := dk_42 (dk_at dksX5_tops_1 9 rfl rfl)
theorem dX5_tops_34 : decode cX5_tops 34 = .ok (.getfield 141, 3) := dk_180 0 141 (dk_at dksX5_tops_1 10 rfl rfl)
theorem dX5_tops_37 : decode cX5_tops 37 = .ok (.iconst 1, 1) := dk_4 (dk_at dksX5_tops_1 13 rfl rfl)
theorem dX5_tops_38 : decode cX5_tops 38 = .ok (.isub, 1) := dk_100 (dk_at dksX5_tops_1 14 rfl rfl)
theorem dX5_tops_39 : decode cX5_tops 39 = .ok (.iastore, 1) := dk_79 (dk_at dksX5_tops_1 15 rfl rfl)
theorem dX5_tops_40 : decode cX5_tops 40 = .ok (.return_, 1) := dk_177 (dk_at dksX5_tops_1 16 rfl rfl)
abbrev cX5_needs : ByteArray := prog_2_method_6_code
def yX5_needs : MethodName := ⟨RX5, "needs", "(IZ)I"⟩
def dkwX5_needs_6 : List UInt8 := [185, 0, 84, 2, 0, 192, 0, 97, 4, 182, 0, 137, 167, 0, 4, 3, 96, 172]
abbrev dktX5_needs_6 : List UInt8 := dkwX5_needs_6 ++ []
def dkwX5_needs_5 : List UInt8 := [182, 0, 137, 167, 0, 4, 3, 96, 21, 5, 153, 0, 25, 42, 180, 0, 18, 27, 5, 96]
abbrev dktX5_needs_5 : List UInt8 := dkwX5_needs_5 ++ dktX5_needs_6
def dkwX5_needs_4 : List UInt8 := [182, 0, 137, 21, 4, 153, 0, 25, 42, 180, 0, 18, 27, 4, 96, 185, 0, 84, 2, 0, 192, 0, 97, 4]
abbrev dktX5_needs_4 : List UInt8 := dkwX5_needs_4 ++ dktX5_needs_5
def dkwX5_needs_3 : List UInt8 := [96, 185, 0, 84, 2, 0, 192, 0, 97, 180, 0, 104, 153, 0, 7, 4, 167, 0, 4, 3, 54, 5, 45, 28]
abbrev dktX5_needs_3 : List UInt8 := dkwX5_needs_3 ++ dktX5_needs_4
def dkwX5_needs_2 : List UInt8 := [167, 0, 4, 3, 54, 4, 21, 4, 153, 0, 35, 45, 180, 0, 134, 153, 0, 28, 42, 180, 0, 18, 27, 4]
abbrev dktX5_needs_2 : List UInt8 := dkwX5_needs_2 ++ dktX5_needs_3
def dkwX5_needs_1 : List UInt8 := [180, 0, 104, 153, 0, 22, 27, 4, 96, 42, 180, 0, 18, 185, 0, 79, 1, 0, 162, 0, 7, 4]
abbrev dktX5_needs_1 : List UInt8 := dkwX5_needs_1 ++ dktX5_needs_2
def dkwX5_needs_0 : List UInt8 := [42, 180, 0, 18, 27, 185, 0, 84, 2, 0, 192, 0, 97, 78, 45, 180, 0, 134, 154, 0, 10, 45]
abbrev dktX5_needs_0 : List UInt8 := dkwX5_needs_0 ++ dktX5_needs_1
theorem dksX5_needs_0 : cX5_needs.data.toList.drop 0 = dktX5_needs_0 := by decide +kernel
theorem dksX5_needs_1 : cX5_needs.data.toList.drop 22 = dktX5_needs_1 := dk_seg dksX5_needs_0 22 rfl rfl
theorem dksX5_needs_2 : cX5_needs.data.toList.drop 44 = dktX5_needs_2 := dk_seg dksX5_needs_1 22 rfl rfl
theorem dksX5_needs_3 : cX5_needs.data.toList.drop 68 = dktX5_needs_3 := dk_seg dksX5_needs_2 24 rfl rfl
theorem dksX5_needs_4 : cX5_needs.data.toList.drop 92 = dktX5_needs_4 := dk_seg dksX5_needs_3 24 rfl rfl
theorem dksX5_needs_5 : cX5_needs.data.toList.drop 116 = dktX5_needs_5 := dk_seg dksX5_needs_4 24 rfl rfl
theorem dksX5_needs_6 : cX5_needs.data.toList.drop 136 = dktX5_needs_6 := dk_seg dksX5_needs_5 20 rfl rfl
theorem dX5_needs_0 : decode cX5_needs 0 = .ok (.aload_n 0, 1) := dk_42 (dk_at dksX5_needs_0 0 rfl rfl)
theorem dX5_needs_1 : decode cX5_needs 1 = .ok (.getfield 18, 3) := dk_180 0 18 (dk_at dksX5_needs_0 1 rfl rfl)
theorem dX5_needs_4 : decode cX5_needs 4 = .ok (.iload_n 1, 1) := dk_27 (dk_at dksX5_needs_0 4 rfl rfl)
theorem dX5_needs_5 : decode cX5_needs 5 = .ok (.invokeinterface 84 2, 5) := by decide +kernel
theorem dX5_needs_10 : decode cX5_needs 10 = .ok (.checkcast 97, 3) := dk_192 0 97 (dk_at dksX5_needs_0 10 rfl rfl)
theorem dX5_needs_13 : decode cX5_needs 13 = .ok (.astore_n 3, 1) := dk_78 (dk_at dksX5_needs_0 13 rfl rfl)
theorem dX5_needs_14 : decode cX5_needs 14 = .ok (.aload_n 3, 1) := dk_45 (dk_at dksX5_needs_0 14 rfl rfl)
theorem dX5_needs_15 : decode cX5_needs 15 = .ok (.getfield 134, 3) := dk_180 0 134 (dk_at dksX5_needs_0 15 rfl rfl)
theorem dX5_needs_18 : decode cX5_needs 18 = .ok (.ifCond .ne 10, 3) := dk_154 0 10 (dk_at dksX5_needs_0 18 rfl rfl)
theorem dX5_needs_21 : decode cX5_needs 21 = .ok (.aload_n 3, 1) := dk_45 (dk_at dksX5_needs_0 21 rfl rfl)
theorem dX5_needs_22 : decode cX5_needs 22 = .ok (.getfield 104, 3) := dk_180 0 104 (dk_at dksX5_needs_1 0 rfl rfl)
theorem dX5_needs_25 : decode cX5_needs 25 = .ok (.ifCond .eq 22, 3) := dk_153 0 22 (dk_at dksX5_needs_1 3 rfl rfl)
theorem dX5_needs_28 : decode cX5_needs 28 = .ok (.iload_n 1, 1) := dk_27 (dk_at dksX5_needs_1 6 rfl rfl)
theorem dX5_needs_29 : decode cX5_needs 29 = .ok (.iconst 1, 1) := dk_4 (dk_at dksX5_needs_1 7 rfl rfl)
theorem dX5_needs_30 : decode cX5_needs 30 = .ok (.iadd, 1) := dk_96 (dk_at dksX5_needs_1 8 rfl rfl)
theorem dX5_needs_31 : decode cX5_needs 31 = .ok (.aload_n 0, 1) := dk_42 (dk_at dksX5_needs_1 9 rfl rfl)
theorem dX5_needs_32 : decode cX5_needs 32 = .ok (.getfield 18, 3) := dk_180 0 18 (dk_at dksX5_needs_1 10 rfl rfl)
theorem dX5_needs_35 : decode cX5_needs 35 = .ok (.invokeinterface 79 1, 5) := by decide +kernel
theorem dX5_needs_40 : decode cX5_needs 40 = .ok (.if_icmp .ge 7, 3) := dk_162 0 7 (dk_at dksX5_needs_1 18 rfl rfl)
theorem dX5_needs_43 : decode cX5_needs 43 = .ok (.iconst 1, 1) := dk_4 (dk_at dksX5_needs_1 21 rfl rfl)
theorem dX5_needs_44 : decode cX5_needs 44 = .ok (.goto 4, 3) := dk_167 0 4 (dk_at dksX5_needs_2 0 rfl rfl)
theorem dX5_needs_47 : decode cX5_needs 47 = .ok (.iconst 0, 1) := dk_3 (dk_at dksX5_needs_2 3 rfl rfl)
theorem dX5_needs_48 : decode cX5_needs 48 = .ok (.istore 4, 2) := dk_54 4 (dk_at dksX5_needs_2 4 rfl rfl)
theorem dX5_needs_50 : decode cX5_needs 50 = .ok (.iload 4, 2) := dk_21 4 (dk_at dksX5_needs_2 6 rfl rfl)
theorem dX5_needs_52 : decode cX5_needs 52 = .ok (.ifCond .eq 35, 3) := dk_153 0 35 (dk_at dksX5_needs_2 8 rfl rfl)
theorem dX5_needs_55 : decode cX5_needs 55 = .ok (.aload_n 3, 1) := dk_45 (dk_at dksX5_needs_2 11 rfl rfl)
theorem dX5_needs_56 : decode cX5_needs 56 = .ok (.getfield 134, 3) := dk_180 0 134 (dk_at dksX5_needs_2 12 rfl rfl)
theorem dX5_needs_59 : decode cX5_needs 59 = .ok (.ifCond .eq 28, 3) := dk_153 0 28 (dk_at dksX5_needs_2 15 rfl rfl)
theorem dX5_needs_62 : decode cX5_needs 62 = .ok (.aload_n 0, 1) := dk_42 (dk_at dksX5_needs_2 18 rfl rfl)
theorem dX5_needs_63 : decode cX5_needs 63 = .ok (.getfield 18, 3) := dk_180 0 18 (dk_at dksX5_needs_2 19 rfl rfl)
theorem dX5_needs_66 : decode cX5_needs 66 = .ok (.iload_n 1, 1) := dk_27 (dk_at dksX5_needs_2 22 rfl rfl)
theorem dX5_needs_67 : decode cX5_needs 67 = .ok (.iconst 1, 1) := dk_4 (dk_at dksX5_needs_2 23 rfl rfl)
theorem dX5_needs_68 : decode cX5_needs 68 = .ok (.iadd, 1) := dk_96 (dk_at dksX5_needs_3 0 rfl rfl)
theorem dX5_needs_69 : decode cX5_needs 69 = .ok (.invokeinterface 84 2, 5) := by decide +kernel
theorem dX5_needs_74 : decode cX5_needs 74 = .ok (.checkcast 97, 3) := dk_192 0 97 (dk_at dksX5_needs_3 6 rfl rfl)
theorem dX5_needs_77 : decode cX5_needs 77 = .ok (.getfield 104, 3) := dk_180 0 104 (dk_at dksX5_needs_3 9 rfl rfl)
theorem dX5_needs_80 : decode cX5_needs 80 = .ok (.ifCond .eq 7, 3) := dk_153 0 7 (dk_at dksX5_needs_3 12 rfl rfl)
theorem dX5_needs_83 : decode cX5_needs 83 = .ok (.iconst 1, 1) := dk_4 (dk_at dksX5_needs_3 15 rfl rfl)
theorem dX5_needs_84 : decode cX5_needs 84 = .ok (.goto 4, 3) := dk_167 0 4 (dk_at dksX5_needs_3 16 rfl rfl)
theorem dX5_needs_87 : decode cX5_needs 87 = .ok (.iconst 0, 1) := dk_3 (dk_at dksX5_needs_3 19 rfl rfl)
theorem dX5_needs_88 : decode cX5_needs 88 = .ok (.istore 5, 2) := dk_54 5 (dk_at dksX5_needs_3 20 rfl rfl)
theorem dX5_needs_90 : decode cX5_needs 90 = .ok (.aload_n 3, 1) := dk_45 (dk_at dksX5_needs_3 22 rfl rfl)
theorem dX5_needs_91 : decode cX5_needs 91 = .ok (.iload_n 2, 1) := dk_28 (dk_at dksX5_needs_3 23 rfl rfl)
theorem dX5_needs_92 : decode cX5_needs 92 = .ok (.invokevirtual 137, 3) := dk_182 0 137 (dk_at dksX5_needs_4 0 rfl rfl)
theorem dX5_needs_95 : decode cX5_needs 95 = .ok (.iload 4, 2) := dk_21 4 (dk_at dksX5_needs_4 3 rfl rfl)
theorem dX5_needs_97 : decode cX5_needs 97 = .ok (.ifCond .eq 25, 3) := dk_153 0 25 (dk_at dksX5_needs_4 5 rfl rfl)
theorem dX5_needs_100 : decode cX5_needs 100 = .ok (.aload_n 0, 1) := dk_42 (dk_at dksX5_needs_4 8 rfl rfl)
theorem dX5_needs_101 : decode cX5_needs 101 = .ok (.getfield 18, 3) := dk_180 0 18 (dk_at dksX5_needs_4 9 rfl rfl)
theorem dX5_needs_104 : decode cX5_needs 104 = .ok (.iload_n 1, 1) := dk_27 (dk_at dksX5_needs_4 12 rfl rfl)
theorem dX5_needs_105 : decode cX5_needs 105 = .ok (.iconst 1, 1) := dk_4 (dk_at dksX5_needs_4 13 rfl rfl)
theorem dX5_needs_106 : decode cX5_needs 106 = .ok (.iadd, 1) := dk_96 (dk_at dksX5_needs_4 14 rfl rfl)
theorem dX5_needs_107 : decode cX5_needs 107 = .ok (.invokeinterface 84 2, 5) := by decide +kernel
theorem dX5_needs_112 : decode cX5_needs 112 = .ok (.checkcast 97, 3) := dk_192 0 97 (dk_at dksX5_needs_4 20 rfl rfl)
theorem dX5_needs_115 : decode cX5_needs 115 = .ok (.iconst 1, 1) := dk_4 (dk_at dksX5_needs_4 23 rfl rfl)
theorem dX5_needs_116 : decode cX5_needs 116 = .ok (.invokevirtual 137, 3) := dk_182 0 137 (dk_at dksX5_needs_5 0 rfl rfl)
theorem dX5_needs_119 : decode cX5_needs 119 = .ok (.goto 4, 3) := dk_167 0 4 (dk_at dksX5_needs_5 3 rfl rfl)
theorem dX5_needs_122 : decode cX5_needs 122 = .ok (.iconst 0, 1) := dk_3 (dk_at dksX5_needs_5 6 rfl rfl)
theorem dX5_needs_123 : decode cX5_needs 123 = .ok (.iadd, 1) := dk_96 (dk_at dksX5_needs_5 7 rfl rfl)
theorem dX5_needs_124 : decode cX5_needs 124 = .ok (.iload 5, 2) := dk_21 5 (dk_at dksX5_needs_5 8 rfl rfl)
theorem dX5_needs_126 : decode cX5_needs 126 = .ok (.ifCond .eq 25, 3) := dk_153 0 25 (dk_at dksX5_needs_5 10 rfl rfl)
theorem dX5_needs_129 : decode cX5_needs 129 = .ok (.aload_n 0, 1) := dk_42 (dk_at dksX5_needs_5 13 rfl rfl)
theorem dX5_needs_130 : decode cX5_needs 130 = .ok (.getfield 18, 3) := dk_180 0 18 (dk_at dksX5_needs_5 14 rfl rfl)
theorem dX5_needs_133 : decode cX5_needs 133 = .ok (.iload_n 1, 1) := dk_27 (dk_at dksX5_needs_5 17 rfl rfl)
theorem dX5_needs_134 : decode cX5_needs 134 = .ok (.iconst 2, 1) := dk_5 (dk_at dksX5_needs_5 18 rfl rfl)
theorem dX5_needs_135 : decode cX5_needs 135 = .ok (.iadd, 1) := dk_96 (dk_at dksX5_needs_5 19 rfl rfl)
theorem dX5_needs_136 : decode cX5_needs 136 = .ok (.invokeinterface 84 2, 5) := by decide +kernel
theorem dX5_needs_141 : decode cX5_needs 141 = .ok (.checkcast 97, 3) := dk_192 0 97 (dk_at dksX5_needs_6 5 rfl rfl)
theorem dX5_needs_144 : decode cX5_needs 144 = .ok (.iconst 1, 1) := dk_4 (dk_at dksX5_needs_6 8 rfl rfl)
theorem dX5_needs_145 : decode cX5_needs 145 = .ok (.invokevirtual 137, 3) := dk_182 0 137 (dk_at dksX5_needs_6 9 rfl rfl)
theorem dX5_needs_148 : decode cX5_needs 148 = .ok (.goto 4, 3) := dk_167 0 4 (dk_at dksX5_needs_6 12 rfl rfl)
theorem dX5_needs_151 : decode cX5_needs 151 = .ok (.iconst 0, 1) := dk_3 (dk_at dksX5_needs_6 15 rfl rfl)
theorem dX5_needs_152 : decode cX5_needs 152 = .ok (.iadd, 1) := dk_96 (dk_at dksX5_needs_6 16 rfl rfl)
theorem dX5_needs_153 : decode cX5_needs 153 = .ok (.ireturn, 1) := dk_172 (dk_at dksX5_needs_6 17 rfl rfl)
abbrev cX5_rests : ByteArray := prog_2_method_14_code
def yX5_rests : MethodName := ⟨RX5, "rests", "()I"⟩
def dkwX5_rests_1 : List UInt8 := [60, 132, 2, 1, 167, 255, 232, 2, 172]
abbrev dktX5_rests_1 : List UInt8 := dkwX5_rests_1 ++ []
def dkwX5_rests_0 : List UInt8 := [3, 60, 3, 61, 28, 16, 10, 162, 0, 24, 42, 27, 182, 0, 180, 62, 29, 27, 160, 0, 5, 27, 172, 29]
abbrev dktX5_rests_0 : List UInt8 := dkwX5_rests_0 ++ dktX5_rests_1
theorem dksX5_rests_0 : cX5_rests.data.toList.drop 0 = dktX5_rests_0 := by decide +kernel
theorem dksX5_rests_1 : cX5_rests.data.toList.drop 24 = dktX5_rests_1 := dk_seg dksX5_rests_0 24 rfl rfl
theorem dX5_rests_0 : decode cX5_rests 0 = .ok (.iconst 0, 1) := dk_3 (dk_at dksX5_rests_0 0 rfl rfl)
theorem dX5_rests_1 : decode cX5_rests 1 = .ok (.istore_n 1, 1) := dk_60 (dk_at dksX5_rests_0 1 rfl rfl)
theorem dX5_rests_2 : decode cX5_rests 2 = .ok (.iconst 0, 1) := dk_3 (dk_at dksX5_rests_0 2 rfl rfl)
theorem dX5_rests_3 : decode cX5_rests 3 = .ok (.istore_n 2, 1) := dk_61 (dk_at dksX5_rests_0 3 rfl rfl)
theorem dX5_rests_4 : decode cX5_rests 4 = .ok (.iload_n 2, 1) := dk_28 (dk_at dksX5_rests_0 4 rfl rfl)
theorem dX5_rests_5 : decode cX5_rests 5 = .ok (.bipush 10, 2) := dk_16 10 (dk_at dksX5_rests_0 5 rfl rfl)
theorem dX5_rests_7 : decode cX5_rests 7 = .ok (.if_icmp .ge 24, 3) := dk_162 0 24 (dk_at dksX5_rests_0 7 rfl rfl)
theorem dX5_rests_10 : decode cX5_rests 10 = .ok (.aload_n 0, 1) := dk_42 (dk_at dksX5_rests_0 10 rfl rfl)
theorem dX5_rests_11 : decode cX5_rests 11 = .ok (.iload_n 1, 1) := dk_27 (dk_at dksX5_rests_0 11 rfl rfl)
theorem dX5_rests_12 : decode cX5_rests 12 = .ok (.invokevirtual 180, 3) := dk_182 0 180 (dk_at dksX5_rests_0 12 rfl rfl)
theorem dX5_rests_15 : decode cX5_rests 15 = .ok (.istore_n 3, 1) := dk_62 (dk_at dksX5_rests_0 15 rfl rfl)
theorem dX5_rests_16 : decode cX5_rests 16 = .ok (.iload_n 3, 1) := dk_29 (dk_at dksX5_rests_0 16 rfl rfl)
theorem dX5_rests_17 : decode cX5_rests 17 = .ok (.iload_n 1, 1) := dk_27 (dk_at dksX5_rests_0 17 rfl rfl)
theorem dX5_rests_18 : decode cX5_rests 18 = .ok (.if_icmp .ne 5, 3) := dk_160 0 5 (dk_at dksX5_rests_0 18 rfl rfl)
theorem dX5_rests_21 : decode cX5_rests 21 = .ok (.iload_n 1, 1) := dk_27 (dk_at dksX5_rests_0 21 rfl rfl)
theorem dX5_rests_22 : decode cX5_rests 22 = .ok (.ireturn, 1) := dk_172 (dk_at dksX5_rests_0 22 rfl rfl)
theorem dX5_rests_23 : decode cX5_rests 23 = .ok (.iload_n 3, 1) := dk_29 (dk_at dksX5_rests_0 23 rfl rfl)
theorem dX5_rests_24 : decode cX5_rests 24 = .ok (.istore_n 1, 1) := dk_60 (dk_at dksX5_rests_1 0 rfl rfl)
theorem dX5_rests_25 : decode cX5_rests 25 = .ok (.iinc 2 1, 3) := dk_132 2 1 (dk_at dksX5_rests_1 1 rfl rfl)
theorem dX5_rests_28 : decode cX5_rests 28 = .ok (.goto (-24), 3) := dk_167 255 232 (dk_at dksX5_rests_1 4 rfl rfl)
theorem dX5_rests_31 : decode cX5_rests 31 = .ok (.iconst (-1), 1) := dk_2 (dk_at dksX5_rests_1 7 rfl rfl)
theorem dX5_rests_32 : decode cX5_rests 32 = .ok (.ireturn, 1) := dk_172 (dk_at dksX5_rests_1 8 rfl rfl)
abbrev cX5_frontBy : ByteArray := prog_2_method_13_code
def yX5_frontBy : MethodName := ⟨RX5, "frontBy", "(I)I"⟩
def dkwX5_frontBy_6 : List UInt8 := [96, 4, 100, 42, 180, 0, 3, 180, 0, 173, 108, 54, 4, 21, 4, 21, 4, 5, 112, 96, 172]
abbrev dktX5_frontBy_6 : List UInt8 := dkwX5_frontBy_6 ++ []
def dkwX5_frontBy_5 : List UInt8 := [21, 6, 167, 0, 7, 29, 21, 6, 96, 62, 132, 4, 1, 167, 255, 139, 28, 42, 180, 0, 3, 180, 0, 173]
abbrev dktX5_frontBy_5 : List UInt8 := dkwX5_frontBy_5 ++ dktX5_frontBy_6
def dkwX5_frontBy_4 : List UInt8 := [164, 0, 7, 4, 167, 0, 4, 3, 96, 61, 29, 21, 6, 96, 42, 180, 0, 3, 180, 0, 153, 164, 0, 8]
abbrev dktX5_frontBy_4 : List UInt8 := dkwX5_frontBy_4 ++ dktX5_frontBy_5
def dkwX5_frontBy_3 : List UInt8 := [164, 0, 7, 5, 167, 0, 4, 4, 54, 6, 28, 29, 21, 6, 96, 42, 180, 0, 3, 180, 0, 153]
abbrev dktX5_frontBy_3 : List UInt8 := dkwX5_frontBy_3 ++ dktX5_frontBy_4
def dkwX5_frontBy_2 : List UInt8 := [21, 4, 27, 182, 0, 176, 54, 5, 21, 5, 16, 99, 164, 0, 7, 6, 167, 0, 15, 21, 5, 16, 9]
abbrev dktX5_frontBy_2 : List UInt8 := dkwX5_frontBy_2 ++ dktX5_frontBy_3
def dkwX5_frontBy_1 : List UInt8 := [162, 0, 109, 42, 180, 0, 18, 21, 4, 185, 0, 84, 2, 0, 192, 0, 97, 180, 0, 134, 153, 0, 83, 42]
abbrev dktX5_frontBy_1 : List UInt8 := dkwX5_frontBy_1 ++ dktX5_frontBy_2
def dkwX5_frontBy_0 : List UInt8 := [3, 61, 42, 180, 0, 3, 180, 0, 153, 62, 3, 54, 4, 21, 4, 42, 180, 0, 18, 185, 0, 79, 1, 0]
abbrev dktX5_frontBy_0 : List UInt8 := dkwX5_frontBy_0 ++ dktX5_frontBy_1
theorem dksX5_frontBy_0 : cX5_frontBy.data.toList.drop 0 = dktX5_frontBy_0 := by decide +kernel
theorem dksX5_frontBy_1 : cX5_frontBy.data.toList.drop 24 = dktX5_frontBy_1 := dk_seg dksX5_frontBy_0 24 rfl rfl
theorem dksX5_frontBy_2 : cX5_frontBy.data.toList.drop 48 = dktX5_frontBy_2 := dk_seg dksX5_frontBy_1 24 rfl rfl
theorem dksX5_frontBy_3 : cX5_frontBy.data.toList.drop 71 = dktX5_frontBy_3 := dk_seg dksX5_frontBy_2 23 rfl rfl
theorem dksX5_frontBy_4 : cX5_frontBy.data.toList.drop 93 = dktX5_frontBy_4 := dk_seg dksX5_frontBy_3 22 rfl rfl
theorem dksX5_frontBy_5 : cX5_frontBy.data.toList.drop 117 = dktX5_frontBy_5 := dk_seg dksX5_frontBy_4 24 rfl rfl
theorem dksX5_frontBy_6 : cX5_frontBy.data.toList.drop 141 = dktX5_frontBy_6 := dk_seg dksX5_frontBy_5 24 rfl rfl
theorem dX5_frontBy_0 : decode cX5_frontBy 0 = .ok (.iconst 0, 1) := dk_3 (dk_at dksX5_frontBy_0 0 rfl rfl)
theorem dX5_frontBy_1 : decode cX5_frontBy 1 = .ok (.istore_n 2, 1) := dk_61 (dk_at dksX5_frontBy_0 1 rfl rfl)
theorem dX5_frontBy_2 : decode cX5_frontBy 2 = .ok (.aload_n 0, 1) := dk_42 (dk_at dksX5_frontBy_0 2 rfl rfl)
theorem dX5_frontBy_3 : decode cX5_frontBy 3 = .ok (.getfield 3, 3) := dk_180 0 3 (dk_at dksX5_frontBy_0 3 rfl rfl)
theorem dX5_frontBy_6 : decode cX5_frontBy 6 = .ok (.getfield 153, 3) := dk_180 0 153 (dk_at dksX5_frontBy_0 6 rfl rfl)
theorem dX5_frontBy_9 : decode cX5_frontBy 9 = .ok (.istore_n 3, 1) := dk_62 (dk_at dksX5_frontBy_0 9 rfl rfl)
theorem dX5_frontBy_10 : decode cX5_frontBy 10 = .ok (.iconst 0, 1) := dk_3 (dk_at dksX5_frontBy_0 10 rfl rfl)
theorem dX5_frontBy_11 : decode cX5_frontBy 11 = .ok (.istore 4, 2) := dk_54 4 (dk_at dksX5_frontBy_0 11 rfl rfl)
theorem dX5_frontBy_13 : decode cX5_frontBy 13 = .ok (.iload 4, 2) := dk_21 4 (dk_at dksX5_frontBy_0 13 rfl rfl)
theorem dX5_frontBy_15 : decode cX5_frontBy 15 = .ok (.aload_n 0, 1) := dk_42 (dk_at dksX5_frontBy_0 15 rfl rfl)
theorem dX5_frontBy_16 : decode cX5_frontBy 16 = .ok (.getfield 18, 3) := dk_180 0 18 (dk_at dksX5_frontBy_0 16 rfl rfl)
theorem dX5_frontBy_19 : decode cX5_frontBy 19 = .ok (.invokeinterface 79 1, 5) := by decide +kernel
theorem dX5_frontBy_24 : decode cX5_frontBy 24 = .ok (.if_icmp .ge 109, 3) := dk_162 0 109 (dk_at dksX5_frontBy_1 0 rfl rfl)
theorem dX5_frontBy_27 : decode cX5_frontBy 27 = .ok (.aload_n 0, 1) := dk_42 (dk_at dksX5_frontBy_1 3 rfl rfl)
theorem dX5_frontBy_28 : decode cX5_frontBy 28 = .ok (.getfield 18, 3) := dk_180 0 18 (dk_at dksX5_frontBy_1 4 rfl rfl)
theorem dX5_frontBy_31 : decode cX5_frontBy 31 = .ok (.iload 4, 2) := dk_21 4 (dk_at dksX5_frontBy_1 7 rfl rfl)
theorem dX5_frontBy_33 : decode cX5_frontBy 33 = .ok (.invokeinterface 84 2, 5) := by decide +kernel
theorem dX5_frontBy_38 : decode cX5_frontBy 38 = .ok (.checkcast 97, 3) := dk_192 0 97 (dk_at dksX5_frontBy_1 14 rfl rfl)
theorem dX5_frontBy_41 : decode cX5_frontBy 41 = .ok (.getfield 134, 3) := dk_180 0 134 (dk_at dksX5_frontBy_1 17 rfl rfl)
theorem dX5_frontBy_44 : decode cX5_frontBy 44 = .ok (.ifCond .eq 83, 3) := dk_153 0 83 (dk_at dksX5_frontBy_1 20 rfl rfl)
theorem dX5_frontBy_47 : decode cX5_frontBy 47 = .ok (.aload_n 0, 1) := dk_42 (dk_at dksX5_frontBy_1 23 rfl rfl)
theorem dX5_frontBy_48 : decode cX5_frontBy 48 = .ok (.iload 4, 2) := dk_21 4 (dk_at dksX5_frontBy_2 0 rfl rfl)
theorem dX5_frontBy_50 : decode cX5_frontBy 50 = .ok (.iload_n 1, 1) := dk_27 (dk_at dksX5_frontBy_2 2 rfl rfl)
theorem dX5_frontBy_51 : decode cX5_frontBy 51 = .ok (.invokevirtual 176, 3) := dk_182 0 176 (dk_at dksX5_frontBy_2 3 rfl rfl)
theorem dX5_frontBy_54 : decode cX5_frontBy 54 = .ok (.istore 5, 2) := dk_54 5 (dk_at dksX5_frontBy_2 6 rfl rfl)
theorem dX5_frontBy_56 : decode cX5_frontBy 56 = .ok (.iload 5, 2) := dk_21 5 (dk_at dksX5_frontBy_2 8 rfl rfl)
theorem dX5_frontBy_58 : decode cX5_frontBy 58 = .ok (.bipush 99, 2) := dk_16 99 (dk_at dksX5_frontBy_2 10 rfl rfl)
theorem dX5_frontBy_60 : decode cX5_frontBy 60 = .ok (.if_icmp .le 7, 3) := dk_164 0 7 (dk_at dksX5_frontBy_2 12 rfl rfl)
theorem dX5_frontBy_63 : decode cX5_frontBy 63 = .ok (.iconst 3, 1) := dk_6 (dk_at dksX5_frontBy_2 15 rfl rfl)
theorem dX5_frontBy_64 : decode cX5_frontBy 64 = .ok (.goto 15, 3) := dk_167 0 15 (dk_at dksX5_frontBy_2 16 rfl rfl)
theorem dX5_frontBy_67 : decode cX5_frontBy 67 = .ok (.iload 5, 2) := dk_21 5 (dk_at dksX5_frontBy_2 19 rfl rfl)
theorem dX5_frontBy_69 : decode cX5_frontBy 69 = .ok (.bipush 9, 2) := dk_16 9 (dk_at dksX5_frontBy_2 21 rfl rfl)
theorem dX5_frontBy_71 : decode cX5_frontBy 71 = .ok (.if_icmp .le 7, 3) := dk_164 0 7 (dk_at dksX5_frontBy_3 0 rfl rfl)
theorem dX5_frontBy_74 : decode cX5_frontBy 74 = .ok (.iconst 2, 1) := dk_5 (dk_at dksX5_frontBy_3 3 rfl rfl)
theorem dX5_frontBy_75 : decode cX5_frontBy 75 = .ok (.goto 4, 3) := dk_167 0 4 (dk_at dksX5_frontBy_3 4 rfl rfl)
theorem dX5_frontBy_78 : decode cX5_frontBy 78 = .ok (.iconst 1, 1) := dk_4 (dk_at dksX5_frontBy_3 7 rfl rfl)
theorem dX5_frontBy_79 : decode cX5_frontBy 79 = .ok (.istore 6, 2) := dk_54 6 (dk_at dksX5_frontBy_3 8 rfl rfl)
theorem dX5_frontBy_81 : decode cX5_frontBy 81 = .ok (.iload_n 2, 1) := dk_28 (dk_at dksX5_frontBy_3 10 rfl rfl)
theorem dX5_frontBy_82 : decode cX5_frontBy 82 = .ok (.iload_n 3, 1) := dk_29 (dk_at dksX5_frontBy_3 11 rfl rfl)
theorem dX5_frontBy_83 : decode cX5_frontBy 83 = .ok (.iload 6, 2) := dk_21 6 (dk_at dksX5_frontBy_3 12 rfl rfl)
theorem dX5_frontBy_85 : decode cX5_frontBy 85 = .ok (.iadd, 1) := dk_96 (dk_at dksX5_frontBy_3 14 rfl rfl)
theorem dX5_frontBy_86 : decode cX5_frontBy 86 = .ok (.aload_n 0, 1) := dk_42 (dk_at dksX5_frontBy_3 15 rfl rfl)
theorem dX5_frontBy_87 : decode cX5_frontBy 87 = .ok (.getfield 3, 3) := dk_180 0 3 (dk_at dksX5_frontBy_3 16 rfl rfl)
theorem dX5_frontBy_90 : decode cX5_frontBy 90 = .ok (.getfield 153, 3) := dk_180 0 153 (dk_at dksX5_frontBy_3 19 rfl rfl)
theorem dX5_frontBy_93 : decode cX5_frontBy 93 = .ok (.if_icmp .le 7, 3) := dk_164 0 7 (dk_at dksX5_frontBy_4 0 rfl rfl)
theorem dX5_frontBy_96 : decode cX5_frontBy 96 = .ok (.iconst 1, 1) := dk_4 (dk_at dksX5_frontBy_4 3 rfl rfl)
theorem dX5_frontBy_97 : decode cX5_frontBy 97 = .ok (.goto 4, 3) := dk_167 0 4 (dk_at dksX5_frontBy_4 4 rfl rfl)
theorem dX5_frontBy_100 : decode cX5_frontBy 100 = .ok (.iconst 0, 1) := dk_3 (dk_at dksX5_frontBy_4 7 rfl rfl)
theorem dX5_frontBy_101 : decode cX5_frontBy 101 = .ok (.iadd, 1) := dk_96 (dk_at dksX5_frontBy_4 8 rfl rfl)
theorem dX5_frontBy_102 : decode cX5_frontBy 102 = .ok (.istore_n 2, 1) := dk_61 (dk_at dksX5_frontBy_4 9 rfl rfl)
theorem dX5_frontBy_103 : decode cX5_frontBy 103 = .ok (.iload_n 3, 1) := dk_29 (dk_at dksX5_frontBy_4 10 rfl rfl)
theorem dX5_frontBy_104 : decode cX5_frontBy 104 = .ok (.iload 6, 2) := dk_21 6 (dk_at dksX5_frontBy_4 11 rfl rfl)
theorem dX5_frontBy_106 : decode cX5_frontBy 106 = .ok (.iadd, 1) := dk_96 (dk_at dksX5_frontBy_4 13 rfl rfl)
theorem dX5_frontBy_107 : decode cX5_frontBy 107 = .ok (.aload_n 0, 1) := dk_42 (dk_at dksX5_frontBy_4 14 rfl rfl)
theorem dX5_frontBy_108 : decode cX5_frontBy 108 = .ok (.getfield 3, 3) := dk_180 0 3 (dk_at dksX5_frontBy_4 15 rfl rfl)
theorem dX5_frontBy_111 : decode cX5_frontBy 111 = .ok (.getfield 153, 3) := dk_180 0 153 (dk_at dksX5_frontBy_4 18 rfl rfl)
theorem dX5_frontBy_114 : decode cX5_frontBy 114 = .ok (.if_icmp .le 8, 3) := dk_164 0 8 (dk_at dksX5_frontBy_4 21 rfl rfl)
theorem dX5_frontBy_117 : decode cX5_frontBy 117 = .ok (.iload 6, 2) := dk_21 6 (dk_at dksX5_frontBy_5 0 rfl rfl)
theorem dX5_frontBy_119 : decode cX5_frontBy 119 = .ok (.goto 7, 3) := dk_167 0 7 (dk_at dksX5_frontBy_5 2 rfl rfl)
theorem dX5_frontBy_122 : decode cX5_frontBy 122 = .ok (.iload_n 3, 1) := dk_29 (dk_at dksX5_frontBy_5 5 rfl rfl)
theorem dX5_frontBy_123 : decode cX5_frontBy 123 = .ok (.iload 6, 2) := dk_21 6 (dk_at dksX5_frontBy_5 6 rfl rfl)
theorem dX5_frontBy_125 : decode cX5_frontBy 125 = .ok (.iadd, 1) := dk_96 (dk_at dksX5_frontBy_5 8 rfl rfl)
theorem dX5_frontBy_126 : decode cX5_frontBy 126 = .ok (.istore_n 3, 1) := dk_62 (dk_at dksX5_frontBy_5 9 rfl rfl)
theorem dX5_frontBy_127 : decode cX5_frontBy 127 = .ok (.iinc 4 1, 3) := dk_132 4 1 (dk_at dksX5_frontBy_5 10 rfl rfl)
theorem dX5_frontBy_130 : decode cX5_frontBy 130 = .ok (.goto (-117), 3) := dk_167 255 139 (dk_at dksX5_frontBy_5 13 rfl rfl)
theorem dX5_frontBy_133 : decode cX5_frontBy 133 = .ok (.iload_n 2, 1) := dk_28 (dk_at dksX5_frontBy_5 16 rfl rfl)
theorem dX5_frontBy_134 : decode cX5_frontBy 134 = .ok (.aload_n 0, 1) := dk_42 (dk_at dksX5_frontBy_5 17 rfl rfl)
theorem dX5_frontBy_135 : decode cX5_frontBy 135 = .ok (.getfield 3, 3) := dk_180 0 3 (dk_at dksX5_frontBy_5 18 rfl rfl)
theorem dX5_frontBy_138 : decode cX5_frontBy 138 = .ok (.getfield 173, 3) := dk_180 0 173 (dk_at dksX5_frontBy_5 21 rfl rfl)
theorem dX5_frontBy_141 : decode cX5_frontBy 141 = .ok (.iadd, 1) := dk_96 (dk_at dksX5_frontBy_6 0 rfl rfl)
theorem dX5_frontBy_142 : decode cX5_frontBy 142 = .ok (.iconst 1, 1) := dk_4 (dk_at dksX5_frontBy_6 1 rfl rfl)
theorem dX5_frontBy_143 : decode cX5_frontBy 143 = .ok (.isub, 1) := dk_100 (dk_at dksX5_frontBy_6 2 rfl rfl)
theorem dX5_frontBy_144 : decode cX5_frontBy 144 = .ok (.aload_n 0, 1) := dk_42 (dk_at dksX5_frontBy_6 3 rfl rfl)
theorem dX5_frontBy_145 : decode cX5_frontBy 145 = .ok (.getfield 3, 3) := dk_180 0 3 (dk_at dksX5_frontBy_6 4 rfl rfl)
theorem dX5_frontBy_148 : decode cX5_frontBy 148 = .ok (.getfield 173, 3) := dk_180 0 173 (dk_at dksX5_frontBy_6 7 rfl rfl)
theorem dX5_frontBy_151 : decode cX5_frontBy 151 = .ok (.idiv, 1) := dk_108 (dk_at dksX5_frontBy_6 10 rfl rfl)
theorem dX5_frontBy_152 : decode cX5_frontBy 152 = .ok (.istore 4, 2) := dk_54 4 (dk_at dksX5_frontBy_6 11 rfl rfl)
theorem dX5_frontBy_154 : decode cX5_frontBy 154 = .ok (.iload 4, 2) := dk_21 4 (dk_at dksX5_frontBy_6 13 rfl rfl)
theorem dX5_frontBy_156 : decode cX5_frontBy 156 = .ok (.iload 4, 2) := dk_21 4 (dk_at dksX5_frontBy_6 15 rfl rfl)
theorem dX5_frontBy_158 : decode cX5_frontBy 158 = .ok (.iconst 2, 1) := dk_5 (dk_at dksX5_frontBy_6 17 rfl rfl)
theorem dX5_frontBy_159 : decode cX5_frontBy 159 = .ok (.irem, 1) := dk_112 (dk_at dksX5_frontBy_6 18 rfl rfl)
theorem dX5_frontBy_160 : decode cX5_frontBy 160 = .ok (.iadd, 1) := dk_96 (dk_at dksX5_frontBy_6 19 rfl rfl)
theorem dX5_frontBy_161 : decode cX5_frontBy 161 = .ok (.ireturn, 1) := dk_172 (dk_at dksX5_frontBy_6 20 rfl rfl)
abbrev cX5_pageIn : ByteArray := prog_2_method_11_code
def yX5_pageIn : MethodName := ⟨RX5, "pageIn", "(II)I"⟩
def dkwX5_pageIn_1 : List UInt8 := [108, 96, 4, 96, 172]
abbrev dktX5_pageIn_1 : List UInt8 := dkwX5_pageIn_1 ++ []
def dkwX5_pageIn_0 : List UInt8 := [28, 42, 180, 0, 18, 27, 185, 0, 84, 2, 0, 192, 0, 97, 180, 0, 170, 42, 180, 0, 3, 180, 0, 173]
abbrev dktX5_pageIn_0 : List UInt8 := dkwX5_pageIn_0 ++ dktX5_pageIn_1
theorem dksX5_pageIn_0 : cX5_pageIn.data.toList.drop 0 = dktX5_pageIn_0 := by decide +kernel
theorem dksX5_pageIn_1 : cX5_pageIn.data.toList.drop 24 = dktX5_pageIn_1 := dk_seg dksX5_pageIn_0 24 rfl rfl
theorem dX5_pageIn_0 : decode cX5_pageIn 0 = .ok (.iload_n 2, 1) := dk_28 (dk_at dksX5_pageIn_0 0 rfl rfl)
theorem dX5_pageIn_1 : decode cX5_pageIn 1 = .ok (.aload_n 0, 1) := dk_42 (dk_at dksX5_pageIn_0 1 rfl rfl)
theorem dX5_pageIn_2 : decode cX5_pageIn 2 = .ok (.getfield 18, 3) := dk_180 0 18 (dk_at dksX5_pageIn_0 2 rfl rfl)
theorem dX5_pageIn_5 : decode cX5_pageIn 5 = .ok (.iload_n 1, 1) := dk_27 (dk_at dksX5_pageIn_0 5 rfl rfl)
theorem dX5_pageIn_6 : decode cX5_pageIn 6 = .ok (.invokeinterface 84 2, 5) := by decide +kernel
theorem dX5_pageIn_11 : decode cX5_pageIn 11 = .ok (.checkcast 97, 3) := dk_192 0 97 (dk_at dksX5_pageIn_0 11 rfl rfl)
theorem dX5_pageIn_14 : decode cX5_pageIn 14 = .ok (.getfield 170, 3) := dk_180 0 170 (dk_at dksX5_pageIn_0 14 rfl rfl)
theorem dX5_pageIn_17 : decode cX5_pageIn 17 = .ok (.aload_n 0, 1) := dk_42 (dk_at dksX5_pageIn_0 17 rfl rfl)
theorem dX5_pageIn_18 : decode cX5_pageIn 18 = .ok (.getfield 3, 3) := dk_180 0 3 (dk_at dksX5_pageIn_0 18 rfl rfl)
theorem dX5_pageIn_21 : decode cX5_pageIn 21 = .ok (.getfield 173, 3) := dk_180 0 173 (dk_at dksX5_pageIn_0 21 rfl rfl)
theorem dX5_pageIn_24 : decode cX5_pageIn 24 = .ok (.idiv, 1) := dk_108 (dk_at dksX5_pageIn_1 0 rfl rfl)
theorem dX5_pageIn_25 : decode cX5_pageIn 25 = .ok (.iadd, 1) := dk_96 (dk_at dksX5_pageIn_1 1 rfl rfl)
theorem dX5_pageIn_26 : decode cX5_pageIn 26 = .ok (.iconst 1, 1) := dk_4 (dk_at dksX5_pageIn_1 2 rfl rfl)
theorem dX5_pageIn_27 : decode cX5_pageIn 27 = .ok (.iadd, 1) := dk_96 (dk_at dksX5_pageIn_1 3 rfl rfl)
theorem dX5_pageIn_28 : decode cX5_pageIn 28 = .ok (.ireturn, 1) := dk_172 (dk_at dksX5_pageIn_1 4 rfl rfl)
abbrev cX5_rowsOf : ByteArray := prog_2_method_17_code
def yX5_rowsOf : MethodName := ⟨RX5, "rowsOf", "(I)Ljava/util/List;"⟩
def dkwX5_rowsOf_2 : List UInt8 := [182, 0, 150, 54, 4, 44, 42, 21, 4, 182, 0, 184, 185, 0, 111, 2, 0, 87, 167, 255, 220, 44, 176]
abbrev dktX5_rowsOf_2 : List UInt8 := dkwX5_rowsOf_2 ++ []
def dkwX5_rowsOf_1 : List UInt8 := [185, 0, 192, 1, 0, 78, 45, 185, 0, 196, 1, 0, 153, 0, 33, 45, 185, 0, 201, 1, 0, 192, 0, 119]
abbrev dktX5_rowsOf_1 : List UInt8 := dkwX5_rowsOf_1 ++ dktX5_rowsOf_2
def dkwX5_rowsOf_0 : List UInt8 := [187, 0, 15, 89, 183, 0, 17, 77, 42, 180, 0, 18, 27, 185, 0, 84, 2, 0, 192, 0, 97, 180, 0, 115]
abbrev dktX5_rowsOf_0 : List UInt8 := dkwX5_rowsOf_0 ++ dktX5_rowsOf_1
theorem dksX5_rowsOf_0 : cX5_rowsOf.data.toList.drop 0 = dktX5_rowsOf_0 := by decide +kernel
theorem dksX5_rowsOf_1 : cX5_rowsOf.data.toList.drop 24 = dktX5_rowsOf_1 := dk_seg dksX5_rowsOf_0 24 rfl rfl
theorem dksX5_rowsOf_2 : cX5_rowsOf.data.toList.drop 48 = dktX5_rowsOf_2 := dk_seg dksX5_rowsOf_1 24 rfl rfl
theorem dX5_rowsOf_0 : decode cX5_rowsOf 0 = .ok (.new 15, 3) := dk_187 0 15 (dk_at dksX5_rowsOf_0 0 rfl rfl)
theorem dX5_rowsOf_3 : decode cX5_rowsOf 3 = .ok (.dup, 1) := dk_89 (dk_at dksX5_rowsOf_0 3 rfl rfl)
theorem dX5_rowsOf_4 : decode cX5_rowsOf 4 = .ok (.invokespecial 17, 3) := dk_183 0 17 (dk_at dksX5_rowsOf_0 4 rfl rfl)
theorem dX5_rowsOf_7 : decode cX5_rowsOf 7 = .ok (.astore_n 2, 1) := dk_77 (dk_at dksX5_rowsOf_0 7 rfl rfl)
theorem dX5_rowsOf_8 : decode cX5_rowsOf 8 = .ok (.aload_n 0, 1) := dk_42 (dk_at dksX5_rowsOf_0 8 rfl rfl)
theorem dX5_rowsOf_9 : decode cX5_rowsOf 9 = .ok (.getfield 18, 3) := dk_180 0 18 (dk_at dksX5_rowsOf_0 9 rfl rfl)
theorem dX5_rowsOf_12 : decode cX5_rowsOf 12 = .ok (.iload_n 1, 1) := dk_27 (dk_at dksX5_rowsOf_0 12 rfl rfl)
theorem dX5_rowsOf_13 : decode cX5_rowsOf 13 = .ok (.invokeinterface 84 2, 5) := by decide +kernel
theorem dX5_rowsOf_18 : decode cX5_rowsOf 18 = .ok (.checkcast 97, 3) := dk_192 0 97 (dk_at dksX5_rowsOf_0 18 rfl rfl)
theorem dX5_rowsOf_21 : decode cX5_rowsOf 21 = .ok (.getfield 115, 3) := dk_180 0 115 (dk_at dksX5_rowsOf_0 21 rfl rfl)
theorem dX5_rowsOf_24 : decode cX5_rowsOf 24 = .ok (.invokeinterface 192 1, 5) := by decide +kernel
theorem dX5_rowsOf_29 : decode cX5_rowsOf 29 = .ok (.astore_n 3, 1) := dk_78 (dk_at dksX5_rowsOf_1 5 rfl rfl)
theorem dX5_rowsOf_30 : decode cX5_rowsOf 30 = .ok (.aload_n 3, 1) := dk_45 (dk_at dksX5_rowsOf_1 6 rfl rfl)
theorem dX5_rowsOf_31 : decode cX5_rowsOf 31 = .ok (.invokeinterface 196 1, 5) := by decide +kernel
theorem dX5_rowsOf_36 : decode cX5_rowsOf 36 = .ok (.ifCond .eq 33, 3) := dk_153 0 33 (dk_at dksX5_rowsOf_1 12 rfl rfl)
theorem dX5_rowsOf_39 : decode cX5_rowsOf 39 = .ok (.aload_n 3, 1) := dk_45 (dk_at dksX5_rowsOf_1 15 rfl rfl)
theorem dX5_rowsOf_40 : decode cX5_rowsOf 40 = .ok (.invokeinterface 201 1, 5) := by decide +kernel
theorem dX5_rowsOf_45 : decode cX5_rowsOf 45 = .ok (.checkcast 119, 3) := dk_192 0 119 (dk_at dksX5_rowsOf_1 21 rfl rfl)
theorem dX5_rowsOf_48 : decode cX5_rowsOf 48 = .ok (.invokevirtual 150, 3) := dk_182 0 150 (dk_at dksX5_rowsOf_2 0 rfl rfl)
theorem dX5_rowsOf_51 : decode cX5_rowsOf 51 = .ok (.istore 4, 2) := dk_54 4 (dk_at dksX5_rowsOf_2 3 rfl rfl)
theorem dX5_rowsOf_53 : decode cX5_rowsOf 53 = .ok (.aload_n 2, 1) := dk_44 (dk_at dksX5_rowsOf_2 5 rfl rfl)
theorem dX5_rowsOf_54 : decode cX5_rowsOf 54 = .ok (.aload_n 0, 1) := dk_42 (dk_at dksX5_rowsOf_2 6 rfl rfl)
theorem dX5_rowsOf_55 : decode cX5_rowsOf 55 = .ok (.iload 4, 2) := dk_21 4 (dk_at dksX5_rowsOf_2 7 rfl rfl)
theorem dX5_rowsOf_57 : decode cX5_rowsOf 57 = .ok (.invokevirtual 184, 3) := dk_182 0 184 (dk_at dksX5_rowsOf_2 9 rfl rfl)
theorem dX5_rowsOf_60 : decode cX5_rowsOf 60 = .ok (.invokeinterface 111 2, 5) := by decide +kernel
theorem dX5_rowsOf_65 : decode cX5_rowsOf 65 = .ok (.pop, 1) := dk_87 (dk_at dksX5_rowsOf_2 17 rfl rfl)
theorem dX5_rowsOf_66 : decode cX5_rowsOf 66 = .ok (.goto (-36), 3) := dk_167 255 220 (dk_at dksX5_rowsOf_2 18 rfl rfl)
theorem dX5_rowsOf_69 : decode cX5_rowsOf 69 = .ok (.aload_n 2, 1) := dk_44 (dk_at dksX5_rowsOf_2 21 rfl rfl)
theorem dX5_rowsOf_70 : decode cX5_rowsOf 70 = .ok (.areturn, 1) := dk_176 (dk_at dksX5_rowsOf_2 22 rfl rfl)
abbrev cX5_rowOf : ByteArray := prog_2_method_16_code
def yX5_rowOf : MethodName := ⟨RX5, "rowOf", "(I)[I"⟩
def dkwX5_rowOf_2 : List UInt8 := [180, 0, 68, 50, 182, 0, 189, 79, 45, 176]
abbrev dktX5_rowOf_2 : List UInt8 := dkwX5_rowOf_2 ++ []
def dkwX5_rowOf_1 : List UInt8 := [180, 0, 52, 79, 45, 4, 42, 44, 182, 0, 92, 79, 45, 5, 42, 180, 0, 3, 180, 0, 64, 44]
abbrev dktX5_rowOf_1 : List UInt8 := dkwX5_rowOf_1 ++ dktX5_rowOf_2
def dkwX5_rowOf_0 : List UInt8 := [42, 180, 0, 3, 180, 0, 76, 27, 185, 0, 84, 2, 0, 192, 0, 53, 77, 6, 188, 10, 78, 45, 3, 44]
abbrev dktX5_rowOf_0 : List UInt8 := dkwX5_rowOf_0 ++ dktX5_rowOf_1
theorem dksX5_rowOf_0 : cX5_rowOf.data.toList.drop 0 = dktX5_rowOf_0 := by decide +kernel
theorem dksX5_rowOf_1 : cX5_rowOf.data.toList.drop 24 = dktX5_rowOf_1 := dk_seg dksX5_rowOf_0 24 rfl rfl
theorem dksX5_rowOf_2 : cX5_rowOf.data.toList.drop 46 = dktX5_rowOf_2 := dk_seg dksX5_rowOf_1 22 rfl rfl
theorem dX5_rowOf_0 : decode cX5_rowOf 0 = .ok (.aload_n 0, 1) := dk_42 (dk_at dksX5_rowOf_0 0 rfl rfl)
theorem dX5_rowOf_1 : decode cX5_rowOf 1 = .ok (.getfield 3, 3) := dk_180 0 3 (dk_at dksX5_rowOf_0 1 rfl rfl)
theorem dX5_rowOf_4 : decode cX5_rowOf 4 = .ok (.getfield 76, 3) := dk_180 0 76 (dk_at dksX5_rowOf_0 4 rfl rfl)
theorem dX5_rowOf_7 : decode cX5_rowOf 7 = .ok (.iload_n 1, 1) := dk_27 (dk_at dksX5_rowOf_0 7 rfl rfl)
theorem dX5_rowOf_8 : decode cX5_rowOf 8 = .ok (.invokeinterface 84 2, 5) := by decide +kernel
theorem dX5_rowOf_13 : decode cX5_rowOf 13 = .ok (.checkcast 53, 3) := dk_192 0 53 (dk_at dksX5_rowOf_0 13 rfl rfl)
theorem dX5_rowOf_16 : decode cX5_rowOf 16 = .ok (.astore_n 2, 1) := dk_77 (dk_at dksX5_rowOf_0 16 rfl rfl)
theorem dX5_rowOf_17 : decode cX5_rowOf 17 = .ok (.iconst 3, 1) := dk_6 (dk_at dksX5_rowOf_0 17 rfl rfl)
theorem dX5_rowOf_18 : decode cX5_rowOf 18 = .ok (.newarray .int, 2) := dk_188_10 (dk_at dksX5_rowOf_0 18 rfl rfl)
theorem dX5_rowOf_20 : decode cX5_rowOf 20 = .ok (.astore_n 3, 1) := dk_78 (dk_at dksX5_rowOf_0 20 rfl rfl)
theorem dX5_rowOf_21 : decode cX5_rowOf 21 = .ok (.aload_n 3, 1) := dk_45 (dk_at dksX5_rowOf_0 21 rfl rfl)
theorem dX5_rowOf_22 : decode cX5_rowOf 22 = .ok (.iconst 0, 1) := dk_3 (dk_at dksX5_rowOf_0 22 rfl rfl)
theorem dX5_rowOf_23 : decode cX5_rowOf 23 = .ok (.aload_n 2, 1) := dk_44 (dk_at dksX5_rowOf_0 23 rfl rfl)
theorem dX5_rowOf_24 : decode cX5_rowOf 24 = .ok (.getfield 52, 3) := dk_180 0 52 (dk_at dksX5_rowOf_1 0 rfl rfl)
theorem dX5_rowOf_27 : decode cX5_rowOf 27 = .ok (.iastore, 1) := dk_79 (dk_at dksX5_rowOf_1 3 rfl rfl)
theorem dX5_rowOf_28 : decode cX5_rowOf 28 = .ok (.aload_n 3, 1) := dk_45 (dk_at dksX5_rowOf_1 4 rfl rfl)
theorem dX5_rowOf_29 : decode cX5_rowOf 29 = .ok (.iconst 1, 1) := dk_4 (dk_at dksX5_rowOf_1 5 rfl rfl)
theorem dX5_rowOf_30 : decode cX5_rowOf 30 = .ok (.aload_n 0, 1) := dk_42 (dk_at dksX5_rowOf_1 6 rfl rfl)
theorem dX5_rowOf_31 : decode cX5_rowOf 31 = .ok (.aload_n 2, 1) := dk_44 (dk_at dksX5_rowOf_1 7 rfl rfl)
theorem dX5_rowOf_32 : decode cX5_rowOf 32 = .ok (.invokevirtual 92, 3) := dk_182 0 92 (dk_at dksX5_rowOf_1 8 rfl rfl)
theorem dX5_rowOf_35 : decode cX5_rowOf 35 = .ok (.iastore, 1) := dk_79 (dk_at dksX5_rowOf_1 11 rfl rfl)
theorem dX5_rowOf_36 : decode cX5_rowOf 36 = .ok (.aload_n 3, 1) := dk_45 (dk_at dksX5_rowOf_1 12 rfl rfl)
theorem dX5_rowOf_37 : decode cX5_rowOf 37 = .ok (.iconst 2, 1) := dk_5 (dk_at dksX5_rowOf_1 13 rfl rfl)
theorem dX5_rowOf_38 : decode cX5_rowOf 38 = .ok (.aload_n 0, 1) := dk_42 (dk_at dksX5_rowOf_1 14 rfl rfl)
theorem dX5_rowOf_39 : decode cX5_rowOf 39 = .ok (.getfield 3, 3) := dk_180 0 3 (dk_at dksX5_rowOf_1 15 rfl rfl)
theorem dX5_rowOf_42 : decode cX5_rowOf 42 = .ok (.getfield 64, 3) := dk_180 0 64 (dk_at dksX5_rowOf_1 18 rfl rfl)
theorem dX5_rowOf_45 : decode cX5_rowOf 45 = .ok (.aload_n 2, 1) := dk_44 (dk_at dksX5_rowOf_1 21 rfl rfl)
theorem dX5_rowOf_46 : decode cX5_rowOf 46 = .ok (.getfield 68, 3) := dk_180 0 68 (dk_at dksX5_rowOf_2 0 rfl rfl)
theorem dX5_rowOf_49 : decode cX5_rowOf 49 = .ok (.aaload, 1) := dk_50 (dk_at dksX5_rowOf_2 3 rfl rfl)
theorem dX5_rowOf_50 : decode cX5_rowOf 50 = .ok (.invokevirtual 189, 3) := dk_182 0 189 (dk_at dksX5_rowOf_2 4 rfl rfl)
theorem dX5_rowOf_53 : decode cX5_rowOf 53 = .ok (.iastore, 1) := dk_79 (dk_at dksX5_rowOf_2 7 rfl rfl)
theorem dX5_rowOf_54 : decode cX5_rowOf 54 = .ok (.aload_n 3, 1) := dk_45 (dk_at dksX5_rowOf_2 8 rfl rfl)
theorem dX5_rowOf_55 : decode cX5_rowOf 55 = .ok (.areturn, 1) := dk_176 (dk_at dksX5_rowOf_2 9 rfl rfl)
abbrev cX5_page : ByteArray := prog_2_method_12_code
def yX5_page : MethodName := ⟨RX5, "page", "(I)I"⟩
def dkwX5_page_0 : List UInt8 := [42, 180, 0, 49, 2, 160, 0, 7, 2, 167, 0, 12, 42, 27, 42, 180, 0, 49, 182, 0, 176, 172]
abbrev dktX5_page_0 : List UInt8 := dkwX5_page_0 ++ []
theorem dksX5_page_0 : cX5_page.data.toList.drop 0 = dktX5_page_0 := by decide +kernel
theorem dX5_page_0 : decode cX5_page 0 = .ok (.aload_n 0, 1) := dk_42 (dk_at dksX5_page_0 0 rfl rfl)
theorem dX5_page_1 : decode cX5_page 1 = .ok (.getfield 49, 3) := dk_180 0 49 (dk_at dksX5_page_0 1 rfl rfl)
theorem dX5_page_4 : decode cX5_page 4 = .ok (.iconst (-1), 1) := dk_2 (dk_at dksX5_page_0 4 rfl rfl)
theorem dX5_page_5 : decode cX5_page 5 = .ok (.if_icmp .ne 7, 3) := dk_160 0 7 (dk_at dksX5_page_0 5 rfl rfl)
theorem dX5_page_8 : decode cX5_page 8 = .ok (.iconst (-1), 1) := dk_2 (dk_at dksX5_page_0 8 rfl rfl)
theorem dX5_page_9 : decode cX5_page 9 = .ok (.goto 12, 3) := dk_167 0 12 (dk_at dksX5_page_0 9 rfl rfl)
theorem dX5_page_12 : decode cX5_page 12 = .ok (.aload_n 0, 1) := dk_42 (dk_at dksX5_page_0 12 rfl rfl)
theorem dX5_page_13 : decode cX5_page 13 = .ok (.iload_n 1, 1) := dk_27 (dk_at dksX5_page_0 13 rfl rfl)
theorem dX5_page_14 : decode cX5_page 14 = .ok (.aload_n 0, 1) := dk_42 (dk_at dksX5_page_0 14 rfl rfl)
theorem dX5_page_15 : decode cX5_page 15 = .ok (.getfield 49, 3) := dk_180 0 49 (dk_at dksX5_page_0 15 rfl rfl)
theorem dX5_page_18 : decode cX5_page 18 = .ok (.invokevirtual 176, 3) := dk_182 0 176 (dk_at dksX5_page_0 18 rfl rfl)
theorem dX5_page_21 : decode cX5_page 21 = .ok (.ireturn, 1) := dk_172 (dk_at dksX5_page_0 21 rfl rfl)
abbrev cX5_bodyPages : ByteArray := prog_2_method_10_code
def yX5_bodyPages : MethodName := ⟨RX5, "bodyPages", "()I"⟩
def dkwX5_bodyPages_0 : List UInt8 := [42, 180, 0, 141, 42, 180, 0, 3, 180, 0, 173, 96, 4, 100, 42, 180, 0, 3, 180, 0, 173, 108, 172]
abbrev dktX5_bodyPages_0 : List UInt8 := dkwX5_bodyPages_0 ++ []
theorem dksX5_bodyPages_0 : cX5_bodyPages.data.toList.drop 0 = dktX5_bodyPages_0 := by decide +kernel
theorem dX5_bodyPages_0 : decode cX5_bodyPages 0 = .ok (.aload_n 0, 1) := dk_42 (dk_at dksX5_bodyPages_0 0 rfl rfl)
theorem dX5_bodyPages_1 : decode cX5_bodyPages 1 = .ok (.getfield 141, 3) := dk_180 0 141 (dk_at dksX5_bodyPages_0 1 rfl rfl)
theorem dX5_bodyPages_4 : decode cX5_bodyPages 4 = .ok (.aload_n 0, 1) := dk_42 (dk_at dksX5_bodyPages_0 4 rfl rfl)
theorem dX5_bodyPages_5 : decode cX5_bodyPages 5 = .ok (.getfield 3, 3) := dk_180 0 3 (dk_at dksX5_bodyPages_0 5 rfl rfl)
theorem dX5_bodyPages_8 : decode cX5_bodyPages 8 = .ok (.getfield 173, 3) := dk_180 0 173 (dk_at dksX5_bodyPages_0 8 rfl rfl)
theorem dX5_bodyPages_11 : decode cX5_bodyPages 11 = .ok (.iadd, 1) := dk_96 (dk_at dksX5_bodyPages_0 11 rfl rfl)
theorem dX5_bodyPages_12 : decode cX5_bodyPages 12 = .ok (.iconst 1, 1) := dk_4 (dk_at dksX5_bodyPages_0 12 rfl rfl)
theorem dX5_bodyPages_13 : decode cX5_bodyPages 13 = .ok (.isub, 1) := dk_100 (dk_at dksX5_bodyPages_0 13 rfl rfl)
theorem dX5_bodyPages_14 : decode cX5_bodyPages 14 = .ok (.aload_n 0, 1) := dk_42 (dk_at dksX5_bodyPages_0 14 rfl rfl)
theorem dX5_bodyPages_15 : decode cX5_bodyPages 15 = .ok (.getfield 3, 3) := dk_180 0 3 (dk_at dksX5_bodyPages_0 15 rfl rfl)
theorem dX5_bodyPages_18 : decode cX5_bodyPages 18 = .ok (.getfield 173, 3) := dk_180 0 173 (dk_at dksX5_bodyPages_0 18 rfl rfl)
theorem dX5_bodyPages_21 : decode cX5_bodyPages 21 = .ok (.idiv, 1) := dk_108 (dk_at dksX5_bodyPages_0 21 rfl rfl)
theorem dX5_bodyPages_22 : decode cX5_bodyPages 22 = .ok (.ireturn, 1) := dk_172 (dk_at dksX5_bodyPages_0 22 rfl rfl)
abbrev cX5_isLike : ByteArray := prog_2_method_15_code
def yX5_isLike : MethodName := ⟨RX5, "isLike", "(ILjava/util/List;)Z"⟩
def dkwX5_isLike_6 : List UInt8 := [172]
abbrev dktX5_isLike_6 : List UInt8 := dkwX5_isLike_6 ++ []
def dkwX5_isLike_5 : List UInt8 := [5, 46, 25, 7, 5, 46, 160, 0, 7, 4, 167, 0, 4, 3, 54, 4, 132, 5, 1, 167, 255, 164, 21, 4]
abbrev dktX5_isLike_5 : List UInt8 := dkwX5_isLike_5 ++ dktX5_isLike_6
def dkwX5_isLike_4 : List UInt8 := [25, 6, 3, 46, 25, 7, 3, 46, 160, 0, 29, 25, 6, 4, 46, 25, 7, 4, 46, 160, 0, 18, 25, 6]
abbrev dktX5_isLike_4 : List UInt8 := dkwX5_isLike_4 ++ dktX5_isLike_5
def dkwX5_isLike_3 : List UInt8 := [192, 0, 119, 182, 0, 150, 182, 0, 184, 58, 6, 44, 21, 5, 185, 0, 84, 2, 0, 192, 0, 188, 58, 7]
abbrev dktX5_isLike_3 : List UInt8 := dkwX5_isLike_3 ++ dktX5_isLike_4
def dkwX5_isLike_2 : List UInt8 := [185, 0, 79, 1, 0, 162, 0, 87, 21, 4, 153, 0, 82, 42, 45, 21, 5, 185, 0, 84, 2, 0]
abbrev dktX5_isLike_2 : List UInt8 := dkwX5_isLike_2 ++ dktX5_isLike_3
def dkwX5_isLike_1 : List UInt8 := [185, 0, 79, 1, 0, 160, 0, 7, 4, 167, 0, 4, 3, 54, 4, 3, 54, 5, 21, 5, 45]
abbrev dktX5_isLike_1 : List UInt8 := dkwX5_isLike_1 ++ dktX5_isLike_2
def dkwX5_isLike_0 : List UInt8 := [42, 180, 0, 18, 27, 185, 0, 84, 2, 0, 192, 0, 97, 180, 0, 115, 78, 45, 185, 0, 79, 1, 0, 44]
abbrev dktX5_isLike_0 : List UInt8 := dkwX5_isLike_0 ++ dktX5_isLike_1
theorem dksX5_isLike_0 : cX5_isLike.data.toList.drop 0 = dktX5_isLike_0 := by decide +kernel
theorem dksX5_isLike_1 : cX5_isLike.data.toList.drop 24 = dktX5_isLike_1 := dk_seg dksX5_isLike_0 24 rfl rfl
theorem dksX5_isLike_2 : cX5_isLike.data.toList.drop 45 = dktX5_isLike_2 := dk_seg dksX5_isLike_1 21 rfl rfl
theorem dksX5_isLike_3 : cX5_isLike.data.toList.drop 67 = dktX5_isLike_3 := dk_seg dksX5_isLike_2 22 rfl rfl
theorem dksX5_isLike_4 : cX5_isLike.data.toList.drop 91 = dktX5_isLike_4 := dk_seg dksX5_isLike_3 24 rfl rfl
theorem dksX5_isLike_5 : cX5_isLike.data.toList.drop 115 = dktX5_isLike_5 := dk_seg dksX5_isLike_4 24 rfl rfl
theorem dksX5_isLike_6 : cX5_isLike.data.toList.drop 139 = dktX5_isLike_6 := dk_seg dksX5_isLike_5 24 rfl rfl
theorem dX5_isLike_0 : decode cX5_isLike 0 = .ok (.aload_n 0, 1) := dk_42 (dk_at dksX5_isLike_0 0 rfl rfl)
theorem dX5_isLike_1 : decode cX5_isLike 1 = .ok (.getfield 18, 3) := dk_180 0 18 (dk_at dksX5_isLike_0 1 rfl rfl)
theorem dX5_isLike_4 : decode cX5_isLike 4 = .ok (.iload_n 1, 1) := dk_27 (dk_at dksX5_isLike_0 4 rfl rfl)
theorem dX5_isLike_5 : decode cX5_isLike 5 = .ok (.invokeinterface 84 2, 5) := by decide +kernel
theorem dX5_isLike_10 : decode cX5_isLike 10 = .ok (.checkcast 97, 3) := dk_192 0 97 (dk_at dksX5_isLike_0 10 rfl rfl)
theorem dX5_isLike_13 : decode cX5_isLike 13 = .ok (.getfield 115, 3) := dk_180 0 115 (dk_at dksX5_isLike_0 13 rfl rfl)
theorem dX5_isLike_16 : decode cX5_isLike 16 = .ok (.astore_n 3, 1) := dk_78 (dk_at dksX5_isLike_0 16 rfl rfl)
theorem dX5_isLike_17 : decode cX5_isLike 17 = .ok (.aload_n 3, 1) := dk_45 (dk_at dksX5_isLike_0 17 rfl rfl)
theorem dX5_isLike_18 : decode cX5_isLike 18 = .ok (.invokeinterface 79 1, 5) := by decide +kernel
theorem dX5_isLike_23 : decode cX5_isLike 23 = .ok (.aload_n 2, 1) := dk_44 (dk_at dksX5_isLike_0 23 rfl rfl)
theorem dX5_isLike_24 : decode cX5_isLike 24 = .ok (.invokeinterface 79 1, 5) := by decide +kernel
theorem dX5_isLike_29 : decode cX5_isLike 29 = .ok (.if_icmp .ne 7, 3) := dk_160 0 7 (dk_at dksX5_isLike_1 5 rfl rfl)
theorem dX5_isLike_32 : decode cX5_isLike 32 = .ok (.iconst 1, 1) := dk_4 (dk_at dksX5_isLike_1 8 rfl rfl)
theorem dX5_isLike_33 : decode cX5_isLike 33 = .ok (.goto 4, 3) := dk_167 0 4 (dk_at dksX5_isLike_1 9 rfl rfl)
theorem dX5_isLike_36 : decode cX5_isLike 36 = .ok (.iconst 0, 1) := dk_3 (dk_at dksX5_isLike_1 12 rfl rfl)
theorem dX5_isLike_37 : decode cX5_isLike 37 = .ok (.istore 4, 2) := dk_54 4 (dk_at dksX5_isLike_1 13 rfl rfl)
theorem dX5_isLike_39 : decode cX5_isLike 39 = .ok (.iconst 0, 1) := dk_3 (dk_at dksX5_isLike_1 15 rfl rfl)
theorem dX5_isLike_40 : decode cX5_isLike 40 = .ok (.istore 5, 2) := dk_54 5 (dk_at dksX5_isLike_1 16 rfl rfl)
theorem dX5_isLike_42 : decode cX5_isLike 42 = .ok (.iload 5, 2) := dk_21 5 (dk_at dksX5_isLike_1 18 rfl rfl)
theorem dX5_isLike_44 : decode cX5_isLike 44 = .ok (.aload_n 3, 1) := dk_45 (dk_at dksX5_isLike_1 20 rfl rfl)
theorem dX5_isLike_45 : decode cX5_isLike 45 = .ok (.invokeinterface 79 1, 5) := by decide +kernel
theorem dX5_isLike_50 : decode cX5_isLike 50 = .ok (.if_icmp .ge 87, 3) := dk_162 0 87 (dk_at dksX5_isLike_2 5 rfl rfl)
theorem dX5_isLike_53 : decode cX5_isLike 53 = .ok (.iload 4, 2) := dk_21 4 (dk_at dksX5_isLike_2 8 rfl rfl)
theorem dX5_isLike_55 : decode cX5_isLike 55 = .ok (.ifCond .eq 82, 3) := dk_153 0 82 (dk_at dksX5_isLike_2 10 rfl rfl)
theorem dX5_isLike_58 : decode cX5_isLike 58 = .ok (.aload_n 0, 1) := dk_42 (dk_at dksX5_isLike_2 13 rfl rfl)
theorem dX5_isLike_59 : decode cX5_isLike 59 = .ok (.aload_n 3, 1) := dk_45 (dk_at dksX5_isLike_2 14 rfl rfl)
theorem dX5_isLike_60 : decode cX5_isLike 60 = .ok (.iload 5, 2) := dk_21 5 (dk_at dksX5_isLike_2 15 rfl rfl)
theorem dX5_isLike_62 : decode cX5_isLike 62 = .ok (.invokeinterface 84 2, 5) := by decide +kernel
theorem dX5_isLike_67 : decode cX5_isLike 67 = .ok (.checkcast 119, 3) := dk_192 0 119 (dk_at dksX5_isLike_3 0 rfl rfl)
theorem dX5_isLike_70 : decode cX5_isLike 70 = .ok (.invokevirtual 150, 3) := dk_182 0 150 (dk_at dksX5_isLike_3 3 rfl rfl)
theorem dX5_isLike_73 : decode cX5_isLike 73 = .ok (.invokevirtual 184, 3) := dk_182 0 184 (dk_at dksX5_isLike_3 6 rfl rfl)
theorem dX5_isLike_76 : decode cX5_isLike 76 = .ok (.astore 6, 2) := dk_58 6 (dk_at dksX5_isLike_3 9 rfl rfl)
theorem dX5_isLike_78 : decode cX5_isLike 78 = .ok (.aload_n 2, 1) := dk_44 (dk_at dksX5_isLike_3 11 rfl rfl)
theorem dX5_isLike_79 : decode cX5_isLike 79 = .ok (.iload 5, 2) := dk_21 5 (dk_at dksX5_isLike_3 12 rfl rfl)
theorem dX5_isLike_81 : decode cX5_isLike 81 = .ok (.invokeinterface 84 2, 5) := by decide +kernel
theorem dX5_isLike_86 : decode cX5_isLike 86 = .ok (.checkcast 188, 3) := dk_192 0 188 (dk_at dksX5_isLike_3 19 rfl rfl)
theorem dX5_isLike_89 : decode cX5_isLike 89 = .ok (.astore 7, 2) := dk_58 7 (dk_at dksX5_isLike_3 22 rfl rfl)
theorem dX5_isLike_91 : decode cX5_isLike 91 = .ok (.aload 6, 2) := dk_25 6 (dk_at dksX5_isLike_4 0 rfl rfl)
theorem dX5_isLike_93 : decode cX5_isLike 93 = .ok (.iconst 0, 1) := dk_3 (dk_at dksX5_isLike_4 2 rfl rfl)
theorem dX5_isLike_94 : decode cX5_isLike 94 = .ok (.iaload, 1) := dk_46 (dk_at dksX5_isLike_4 3 rfl rfl)
theorem dX5_isLike_95 : decode cX5_isLike 95 = .ok (.aload 7, 2) := dk_25 7 (dk_at dksX5_isLike_4 4 rfl rfl)
theorem dX5_isLike_97 : decode cX5_isLike 97 = .ok (.iconst 0, 1) := dk_3 (dk_at dksX5_isLike_4 6 rfl rfl)
theorem dX5_isLike_98 : decode cX5_isLike 98 = .ok (.iaload, 1) := dk_46 (dk_at dksX5_isLike_4 7 rfl rfl)
theorem dX5_isLike_99 : decode cX5_isLike 99 = .ok (.if_icmp .ne 29, 3) := dk_160 0 29 (dk_at dksX5_isLike_4 8 rfl rfl)
theorem dX5_isLike_102 : decode cX5_isLike 102 = .ok (.aload 6, 2) := dk_25 6 (dk_at dksX5_isLike_4 11 rfl rfl)
theorem dX5_isLike_104 : decode cX5_isLike 104 = .ok (.iconst 1, 1) := dk_4 (dk_at dksX5_isLike_4 13 rfl rfl)
theorem dX5_isLike_105 : decode cX5_isLike 105 = .ok (.iaload, 1) := dk_46 (dk_at dksX5_isLike_4 14 rfl rfl)
theorem dX5_isLike_106 : decode cX5_isLike 106 = .ok (.aload 7, 2) := dk_25 7 (dk_at dksX5_isLike_4 15 rfl rfl)
theorem dX5_isLike_108 : decode cX5_isLike 108 = .ok (.iconst 1, 1) := dk_4 (dk_at dksX5_isLike_4 17 rfl rfl)
theorem dX5_isLike_109 : decode cX5_isLike 109 = .ok (.iaload, 1) := dk_46 (dk_at dksX5_isLike_4 18 rfl rfl)
theorem dX5_isLike_110 : decode cX5_isLike 110 = .ok (.if_icmp .ne 18, 3) := dk_160 0 18 (dk_at dksX5_isLike_4 19 rfl rfl)
theorem dX5_isLike_113 : decode cX5_isLike 113 = .ok (.aload 6, 2) := dk_25 6 (dk_at dksX5_isLike_4 22 rfl rfl)
theorem dX5_isLike_115 : decode cX5_isLike 115 = .ok (.iconst 2, 1) := dk_5 (dk_at dksX5_isLike_5 0 rfl rfl)
theorem dX5_isLike_116 : decode cX5_isLike 116 = .ok (.iaload, 1) := dk_46 (dk_at dksX5_isLike_5 1 rfl rfl)
theorem dX5_isLike_117 : decode cX5_isLike 117 = .ok (.aload 7, 2) := dk_25 7 (dk_at dksX5_isLike_5 2 rfl rfl)
theorem dX5_isLike_119 : decode cX5_isLike 119 = .ok (.iconst 2, 1) := dk_5 (dk_at dksX5_isLike_5 4 rfl rfl)
theorem dX5_isLike_120 : decode cX5_isLike 120 = .ok (.iaload, 1) := dk_46 (dk_at dksX5_isLike_5 5 rfl rfl)
theorem dX5_isLike_121 : decode cX5_isLike 121 = .ok (.if_icmp .ne 7, 3) := dk_160 0 7 (dk_at dksX5_isLike_5 6 rfl rfl)
theorem dX5_isLike_124 : decode cX5_isLike 124 = .ok (.iconst 1, 1) := dk_4 (dk_at dksX5_isLike_5 9 rfl rfl)
theorem dX5_isLike_125 : decode cX5_isLike 125 = .ok (.goto 4, 3) := dk_167 0 4 (dk_at dksX5_isLike_5 10 rfl rfl)
theorem dX5_isLike_128 : decode cX5_isLike 128 = .ok (.iconst 0, 1) := dk_3 (dk_at dksX5_isLike_5 13 rfl rfl)
theorem dX5_isLike_129 : decode cX5_isLike 129 = .ok (.istore 4, 2) := dk_54 4 (dk_at dksX5_isLike_5 14 rfl rfl)
theorem dX5_isLike_131 : decode cX5_isLike 131 = .ok (.iinc 5 1, 3) := dk_132 5 1 (dk_at dksX5_isLike_5 16 rfl rfl)
theorem dX5_isLike_134 : decode cX5_isLike 134 = .ok (.goto (-92), 3) := dk_167 255 164 (dk_at dksX5_isLike_5 19 rfl rfl)
theorem dX5_isLike_137 : decode cX5_isLike 137 = .ok (.iload 4, 2) := dk_21 4 (dk_at dksX5_isLike_5 22 rfl rfl)
theorem dX5_isLike_139 : decode cX5_isLike 139 = .ok (.ireturn, 1) := dk_172 (dk_at dksX5_isLike_6 0 rfl rfl)
theorem q81 : (Jvm.Cond.initialized "Quirefold$Layout") ∈ lw_all := lw_g (lw_at lw_m1 28 rfl) rfl
theorem q148 : (Jvm.Cond.fieldLinkNest "Quirefold$Layout" (76 : Nat) "Quirefold" "story" "Ljava/util/List;" "Quirefold") ∈ lw_tbl := lw_at lw_m1 95 rfl
theorem q150 : (Jvm.Cond.fieldLinkNest "Quirefold$Layout" (64 : Nat) "Quirefold" "styles" "[LQuirefold$Style;" "Quirefold") ∈ lw_tbl := lw_at lw_m1 97 rfl
theorem q152 : (Jvm.Cond.fieldLinkNest "Quirefold$Layout" (57 : Nat) "Quirefold" "data" "[[I" "Quirefold") ∈ lw_tbl := lw_at lw_m1 99 rfl
theorem q154 : (Jvm.Cond.fieldLinkNest "Quirefold$Layout" (101 : Nat) "Quirefold" "gridWidth" "I" "Quirefold") ∈ lw_tbl := lw_at lw_m1 101 rfl
theorem q156 : (Jvm.Cond.fieldLinkNest "Quirefold$Layout" (153 : Nat) "Quirefold" "gridLines" "I" "Quirefold") ∈ lw_tbl := lw_at lw_m1 103 rfl
theorem q158 : (Jvm.Cond.fieldLinkNest "Quirefold$Layout" (173 : Nat) "Quirefold" "gridColumns" "I" "Quirefold") ∈ lw_tbl := lw_at lw_m1 105 rfl
theorem q593 : (Jvm.Cond.fieldLinkNest "Quirefold$Layout" (52 : Nat) "Quirefold$Token" "kind" "I" "Quirefold") ∈ lw_tbl := lw_at lw_m3 60 rfl
theorem q596 : (Jvm.Cond.fieldLinkNest "Quirefold$Layout" (61 : Nat) "Quirefold$Token" "a" "I" "Quirefold") ∈ lw_tbl := lw_at lw_m3 63 rfl
theorem q599 : (Jvm.Cond.fieldLinkNest "Quirefold$Layout" (68 : Nat) "Quirefold$Token" "style" "I" "Quirefold") ∈ lw_tbl := lw_at lw_m3 66 rfl
theorem q650 : (Jvm.Cond.selects "Quirefold$Layout" ({ cls := "java/lang/Object", name := "getClass", desc := "()Ljava/lang/Class;" } : Jvm.MethodName) ({ cls := "java/lang/Object", name := "getClass", desc := "()Ljava/lang/Class;" } : Jvm.MethodName)) ∈ lw_all := lw_g (lw_at lw_m3 117 rfl) rfl
theorem q759 : (Jvm.Cond.instantiable "Quirefold$Layout" (10 : Nat)) ∈ lw_all := lw_g (lw_at lw_m3 226 rfl) rfl
theorem q761 : (Jvm.Cond.instanceMethod ({ cls := "Quirefold$Layout", name := "<init>", desc := "(LQuirefold;I)V" } : Jvm.MethodName)) ∈ lw_all := lw_g (lw_at lw_m3 228 rfl) rfl
theorem q762 : (Jvm.Cond.code ({ cls := "Quirefold$Layout", name := "<init>", desc := "(LQuirefold;I)V" } : Jvm.MethodName) prog_2_method_1_code (4 : Nat) (Option.none : Option Jvm.ClassFile.FieldType)) ∈ lw_all := lw_g (lw_at lw_m3 229 rfl) rfl
theorem q763 : (Jvm.Cond.methodLink "Quirefold$Layout" (9 : Nat) ({ cls := "java/lang/Object", name := "<init>", desc := "()V" } : Jvm.MethodName)) ∈ lw_all := lw_g (lw_at lw_m3 230 rfl) rfl
theorem q764 : (Jvm.Cond.classLink "Quirefold$Layout" (15 : Nat) "java/util/ArrayList") ∈ lw_all := lw_g (lw_at lw_m3 231 rfl) rfl
theorem q765 : (Jvm.Cond.methodLink "Quirefold$Layout" (17 : Nat) ({ cls := "java/util/ArrayList", name := "<init>", desc := "()V" } : Jvm.MethodName)) ∈ lw_all := lw_g (lw_at lw_m3 232 rfl) rfl
theorem q766 : (Jvm.Cond.methodLink "Quirefold$Layout" (36 : Nat) ({ cls := "Quirefold$Layout", name := "makesLines", desc := "()V" } : Jvm.MethodName)) ∈ lw_all := lw_g (lw_at lw_m3 233 rfl) rfl
theorem q767 : (Jvm.Cond.privateMethod ({ cls := "Quirefold$Layout", name := "makesLines", desc := "()V" } : Jvm.MethodName)) ∈ lw_tbl := lw_at lw_m3 234 rfl
theorem q768 : (Jvm.Cond.instanceMethod ({ cls := "Quirefold$Layout", name := "makesLines", desc := "()V" } : Jvm.MethodName)) ∈ lw_all := lw_g (lw_at lw_m3 235 rfl) rfl
theorem q769 : (Jvm.Cond.code ({ cls := "Quirefold$Layout", name := "makesLines", desc := "()V" } : Jvm.MethodName) prog_2_method_4_code (6 : Nat) (Option.none : Option Jvm.ClassFile.FieldType)) ∈ lw_all := lw_g (lw_at lw_m3 236 rfl) rfl
theorem q770 : (Jvm.Cond.interfaceEntry "Quirefold$Layout" (79 : Nat)) ∈ lw_tbl := lw_at lw_m3 237 rfl
theorem q771 : (Jvm.Cond.methodLink "Quirefold$Layout" (79 : Nat) ({ cls := "java/util/List", name := "size", desc := "()I" } : Jvm.MethodName)) ∈ lw_all := lw_g (lw_at lw_m3 238 rfl) rfl
theorem q772 : (Jvm.Cond.interfaceEntry "Quirefold$Layout" (84 : Nat)) ∈ lw_tbl := lw_at lw_m3 239 rfl
theorem q773 : (Jvm.Cond.methodLink "Quirefold$Layout" (84 : Nat) ({ cls := "java/util/List", name := "get", desc := "(I)Ljava/lang/Object;" } : Jvm.MethodName)) ∈ lw_all := lw_g (lw_at lw_m4 0 rfl) rfl
theorem q785 : (Jvm.Cond.classLink "Quirefold$Layout" (53 : Nat) "Quirefold$Token") ∈ lw_all := lw_g (lw_at lw_m4 12 rfl) rfl
theorem q786 : (Jvm.Cond.methodLink "Quirefold$Layout" (88 : Nat) ({ cls := "Quirefold$Layout", name := "isPrinted", desc := "(LQuirefold$Token;)Z" } : Jvm.MethodName)) ∈ lw_all := lw_g (lw_at lw_m4 13 rfl) rfl
theorem q787 : (Jvm.Cond.privateMethod ({ cls := "Quirefold$Layout", name := "isPrinted", desc := "(LQuirefold$Token;)Z" } : Jvm.MethodName)) ∈ lw_tbl := lw_at lw_m4 14 rfl
theorem q788 : (Jvm.Cond.instanceMethod ({ cls := "Quirefold$Layout", name := "isPrinted", desc := "(LQuirefold$Token;)Z" } : Jvm.MethodName)) ∈ lw_all := lw_g (lw_at lw_m4 15 rfl) rfl
theorem q789 : (Jvm.Cond.code ({ cls := "Quirefold$Layout", name := "isPrinted", desc := "(LQuirefold$Token;)Z" } : Jvm.MethodName) prog_2_method_3_code (2 : Nat) (Option.some Jvm.ClassFile.FieldType.boolean)) ∈ lw_all := lw_g (lw_at lw_m4 16 rfl) rfl
theorem q790 : (Jvm.Cond.methodLink "Quirefold$Layout" (92 : Nat) ({ cls := "Quirefold$Layout", name := "widthOf", desc := "(LQuirefold$Token;)I" } : Jvm.MethodName)) ∈ lw_all := lw_g (lw_at lw_m4 17 rfl) rfl
theorem q791 : (Jvm.Cond.instanceMethod ({ cls := "Quirefold$Layout", name := "widthOf", desc := "(LQuirefold$Token;)I" } : Jvm.MethodName)) ∈ lw_all := lw_g (lw_at lw_m4 18 rfl) rfl
theorem q792 : (Jvm.Cond.selects "Quirefold$Layout" ({ cls := "Quirefold$Layout", name := "widthOf", desc := "(LQuirefold$Token;)I" } : Jvm.MethodName) ({ cls := "Quirefold$Layout", name := "widthOf", desc := "(LQuirefold$Token;)I" } : Jvm.MethodName)) ∈ lw_all := lw_g (lw_at lw_m4 19 rfl) rfl
theorem q793 : (Jvm.Cond.code ({ cls := "Quirefold$Layout", name := "widthOf", desc := "(LQuirefold$Token;)I" } : Jvm.MethodName) prog_2_method_2_code (3 : Nat) (Option.some Jvm.ClassFile.FieldType.int)) ∈ lw_all := lw_g (lw_at lw_m4 20 rfl) rfl
theorem q794 : (Jvm.Cond.methodLink "Quirefold$Layout" (71 : Nat) ({ cls := "Quirefold$Style", name := "extra", desc := "()I" } : Jvm.MethodName)) ∈ lw_all := lw_g (lw_at lw_m4 21 rfl) rfl
theorem q799 : (Jvm.Cond.classLink "Quirefold$Layout" (97 : Nat) "Quirefold$Line") ∈ lw_all := lw_g (lw_at lw_m4 26 rfl) rfl
theorem q801 : (Jvm.Cond.methodLink "Quirefold$Layout" (108 : Nat) ({ cls := "Quirefold$Line", name := "<init>", desc := "(Z)V" } : Jvm.MethodName)) ∈ lw_all := lw_g (lw_at lw_m4 28 rfl) rfl
theorem q808 : (Jvm.Cond.fieldLinkNest "Quirefold$Layout" (134 : Nat) "Quirefold$Line" "isHead" "Z" "Quirefold") ∈ lw_tbl := lw_at lw_m4 35 rfl
theorem q811 : (Jvm.Cond.fieldLinkNest "Quirefold$Layout" (115 : Nat) "Quirefold$Line" "printed" "Ljava/util/List;" "Quirefold") ∈ lw_tbl := lw_at lw_m4 38 rfl
theorem q814 : (Jvm.Cond.fieldLinkNest "Quirefold$Layout" (131 : Nat) "Quirefold$Line" "figures" "Ljava/util/List;" "Quirefold") ∈ lw_tbl := lw_at lw_m4 41 rfl
theorem q815 : (Jvm.Cond.fieldLinkNest "Quirefold$Layout" (96 : Nat) "Quirefold$Line" "width" "I" "Quirefold") ∈ lw_tbl := lw_at lw_m4 42 rfl
theorem q817 : (Jvm.Cond.fieldLinkNest "Quirefold$Layout" (128 : Nat) "Quirefold$Line" "notes" "I" "Quirefold") ∈ lw_tbl := lw_at lw_m4 44 rfl
theorem q818 : (Jvm.Cond.fieldLinkNest "Quirefold$Layout" (104 : Nat) "Quirefold$Line" "isKept" "Z" "Quirefold") ∈ lw_tbl := lw_at lw_m4 45 rfl
theorem q820 : (Jvm.Cond.fieldLinkNest "Quirefold$Layout" (170 : Nat) "Quirefold$Line" "column" "I" "Quirefold") ∈ lw_tbl := lw_at lw_m4 47 rfl
theorem q837 : (Jvm.Cond.interfaceEntry "Quirefold$Layout" (111 : Nat)) ∈ lw_tbl := lw_at lw_m4 64 rfl
theorem q838 : (Jvm.Cond.methodLink "Quirefold$Layout" (111 : Nat) ({ cls := "java/util/List", name := "add", desc := "(Ljava/lang/Object;)Z" } : Jvm.MethodName)) ∈ lw_all := lw_g (lw_at lw_m4 65 rfl) rfl
theorem q850 : (Jvm.Cond.methodLink "Quirefold$Layout" (118 : Nat) ({ cls := "java/lang/Integer", name := "valueOf", desc := "(I)Ljava/lang/Integer;" } : Jvm.MethodName)) ∈ lw_all := lw_g (lw_at lw_m4 77 rfl) rfl
theorem q870 : (Jvm.Cond.methodLink "Quirefold$Layout" (39 : Nat) ({ cls := "Quirefold$Layout", name := "hangs", desc := "()V" } : Jvm.MethodName)) ∈ lw_all := lw_g (lw_at lw_m4 97 rfl) rfl
theorem q871 : (Jvm.Cond.privateMethod ({ cls := "Quirefold$Layout", name := "hangs", desc := "()V" } : Jvm.MethodName)) ∈ lw_tbl := lw_at lw_m4 98 rfl
theorem q872 : (Jvm.Cond.instanceMethod ({ cls := "Quirefold$Layout", name := "hangs", desc := "()V" } : Jvm.MethodName)) ∈ lw_all := lw_g (lw_at lw_m4 99 rfl) rfl
theorem q873 : (Jvm.Cond.code ({ cls := "Quirefold$Layout", name := "hangs", desc := "()V" } : Jvm.MethodName) prog_2_method_5_code (4 : Nat) (Option.none : Option Jvm.ClassFile.FieldType)) ∈ lw_all := lw_g (lw_at lw_m4 100 rfl) rfl
theorem q874 : (Jvm.Cond.interfaceEntry "Quirefold$Layout" (124 : Nat)) ∈ lw_tbl := lw_at lw_m4 101 rfl
theorem q875 : (Jvm.Cond.methodLink "Quirefold$Layout" (124 : Nat) ({ cls := "java/util/List", name := "isEmpty", desc := "()Z" } : Jvm.MethodName)) ∈ lw_all := lw_g (lw_at lw_m4 102 rfl) rfl
theorem q883 : (Jvm.Cond.methodLink "Quirefold$Layout" (42 : Nat) ({ cls := "Quirefold$Layout", name := "fills", desc := "()V" } : Jvm.MethodName)) ∈ lw_all := lw_g (lw_at lw_m4 110 rfl) rfl
theorem q884 : (Jvm.Cond.privateMethod ({ cls := "Quirefold$Layout", name := "fills", desc := "()V" } : Jvm.MethodName)) ∈ lw_tbl := lw_at lw_m4 111 rfl
theorem q885 : (Jvm.Cond.instanceMethod ({ cls := "Quirefold$Layout", name := "fills", desc := "()V" } : Jvm.MethodName)) ∈ lw_all := lw_g (lw_at lw_m4 112 rfl) rfl
theorem q886 : (Jvm.Cond.code ({ cls := "Quirefold$Layout", name := "fills", desc := "()V" } : Jvm.MethodName) prog_2_method_9_code (5 : Nat) (Option.none : Option Jvm.ClassFile.FieldType)) ∈ lw_all := lw_g (lw_at lw_m4 113 rfl) rfl
theorem q887 : (Jvm.Cond.methodLink "Quirefold$Layout" (163 : Nat) ({ cls := "Quirefold$Layout", name := "begins", desc := "()V" } : Jvm.MethodName)) ∈ lw_all := lw_g (lw_at lw_m4 114 rfl) rfl
theorem q888 : (Jvm.Cond.privateMethod ({ cls := "Quirefold$Layout", name := "begins", desc := "()V" } : Jvm.MethodName)) ∈ lw_tbl := lw_at lw_m4 115 rfl
theorem q889 : (Jvm.Cond.instanceMethod ({ cls := "Quirefold$Layout", name := "begins", desc := "()V" } : Jvm.MethodName)) ∈ lw_all := lw_g (lw_at lw_m4 116 rfl) rfl
theorem q890 : (Jvm.Cond.code ({ cls := "Quirefold$Layout", name := "begins", desc := "()V" } : Jvm.MethodName) prog_2_method_7_code (1 : Nat) (Option.none : Option Jvm.ClassFile.FieldType)) ∈ lw_all := lw_g (lw_at lw_m4 117 rfl) rfl
theorem q891 : (Jvm.Cond.classLink "Quirefold$Layout" (119 : Nat) "java/lang/Integer") ∈ lw_all := lw_g (lw_at lw_m4 118 rfl) rfl
theorem q892 : (Jvm.Cond.methodLink "Quirefold$Layout" (150 : Nat) ({ cls := "java/lang/Integer", name := "intValue", desc := "()I" } : Jvm.MethodName)) ∈ lw_all := lw_g (lw_at lw_m4 119 rfl) rfl
theorem q896 : (Jvm.Cond.interfaceEntry "Quirefold$Layout" (156 : Nat)) ∈ lw_tbl := lw_at lw_m4 123 rfl
theorem q897 : (Jvm.Cond.methodLink "Quirefold$Layout" (156 : Nat) ({ cls := "java/util/List", name := "remove", desc := "(I)Ljava/lang/Object;" } : Jvm.MethodName)) ∈ lw_all := lw_g (lw_at lw_m4 124 rfl) rfl
theorem q898 : (Jvm.Cond.methodLink "Quirefold$Layout" (159 : Nat) ({ cls := "Quirefold$Layout", name := "tops", desc := "(I)V" } : Jvm.MethodName)) ∈ lw_all := lw_g (lw_at lw_m4 125 rfl) rfl
theorem q899 : (Jvm.Cond.privateMethod ({ cls := "Quirefold$Layout", name := "tops", desc := "(I)V" } : Jvm.MethodName)) ∈ lw_tbl := lw_at lw_m4 126 rfl
theorem q900 : (Jvm.Cond.instanceMethod ({ cls := "Quirefold$Layout", name := "tops", desc := "(I)V" } : Jvm.MethodName)) ∈ lw_all := lw_g (lw_at lw_m4 127 rfl) rfl
theorem q901 : (Jvm.Cond.code ({ cls := "Quirefold$Layout", name := "tops", desc := "(I)V" } : Jvm.MethodName) prog_2_method_8_code (2 : Nat) (Option.none : Option Jvm.ClassFile.FieldType)) ∈ lw_all := lw_g (lw_at lw_m4 128 rfl) rfl
theorem q902 : (Jvm.Cond.methodLink "Quirefold$Layout" (166 : Nat) ({ cls := "Quirefold$Layout", name := "needs", desc := "(IZ)I" } : Jvm.MethodName)) ∈ lw_all := lw_g (lw_at lw_m4 129 rfl) rfl
theorem q903 : (Jvm.Cond.instanceMethod ({ cls := "Quirefold$Layout", name := "needs", desc := "(IZ)I" } : Jvm.MethodName)) ∈ lw_all := lw_g (lw_at lw_m4 130 rfl) rfl
theorem q904 : (Jvm.Cond.selects "Quirefold$Layout" ({ cls := "Quirefold$Layout", name := "needs", desc := "(IZ)I" } : Jvm.MethodName) ({ cls := "Quirefold$Layout", name := "needs", desc := "(IZ)I" } : Jvm.MethodName)) ∈ lw_all := lw_g (lw_at lw_m4 131 rfl) rfl
theorem q905 : (Jvm.Cond.code ({ cls := "Quirefold$Layout", name := "needs", desc := "(IZ)I" } : Jvm.MethodName) prog_2_method_6_code (6 : Nat) (Option.some Jvm.ClassFile.FieldType.int)) ∈ lw_all := lw_g (lw_at lw_m4 132 rfl) rfl
theorem q906 : (Jvm.Cond.methodLink "Quirefold$Layout" (137 : Nat) ({ cls := "Quirefold$Line", name := "takes", desc := "(Z)I" } : Jvm.MethodName)) ∈ lw_all := lw_g (lw_at lw_m4 133 rfl) rfl
theorem q910 : (Jvm.Cond.methodLink "Quirefold$Layout" (45 : Nat) ({ cls := "Quirefold$Layout", name := "rests", desc := "()I" } : Jvm.MethodName)) ∈ lw_all := lw_g (lw_at lw_m4 137 rfl) rfl
theorem q911 : (Jvm.Cond.privateMethod ({ cls := "Quirefold$Layout", name := "rests", desc := "()I" } : Jvm.MethodName)) ∈ lw_tbl := lw_at lw_m4 138 rfl
theorem q912 : (Jvm.Cond.instanceMethod ({ cls := "Quirefold$Layout", name := "rests", desc := "()I" } : Jvm.MethodName)) ∈ lw_all := lw_g (lw_at lw_m4 139 rfl) rfl
theorem q913 : (Jvm.Cond.code ({ cls := "Quirefold$Layout", name := "rests", desc := "()I" } : Jvm.MethodName) prog_2_method_14_code (4 : Nat) (Option.some Jvm.ClassFile.FieldType.int)) ∈ lw_all := lw_g (lw_at lw_m4 140 rfl) rfl
theorem q914 : (Jvm.Cond.methodLink "Quirefold$Layout" (180 : Nat) ({ cls := "Quirefold$Layout", name := "frontBy", desc := "(I)I" } : Jvm.MethodName)) ∈ lw_all := lw_g (lw_at lw_m4 141 rfl) rfl
theorem q915 : (Jvm.Cond.privateMethod ({ cls := "Quirefold$Layout", name := "frontBy", desc := "(I)I" } : Jvm.MethodName)) ∈ lw_tbl := lw_at lw_m4 142 rfl
theorem q916 : (Jvm.Cond.instanceMethod ({ cls := "Quirefold$Layout", name := "frontBy", desc := "(I)I" } : Jvm.MethodName)) ∈ lw_all := lw_g (lw_at lw_m4 143 rfl) rfl
theorem q917 : (Jvm.Cond.code ({ cls := "Quirefold$Layout", name := "frontBy", desc := "(I)I" } : Jvm.MethodName) prog_2_method_13_code (7 : Nat) (Option.some Jvm.ClassFile.FieldType.int)) ∈ lw_all := lw_g (lw_at lw_m4 144 rfl) rfl
theorem q918 : (Jvm.Cond.methodLink "Quirefold$Layout" (176 : Nat) ({ cls := "Quirefold$Layout", name := "pageIn", desc := "(II)I" } : Jvm.MethodName)) ∈ lw_all := lw_g (lw_at lw_m4 145 rfl) rfl
theorem q919 : (Jvm.Cond.privateMethod ({ cls := "Quirefold$Layout", name := "pageIn", desc := "(II)I" } : Jvm.MethodName)) ∈ lw_tbl := lw_at lw_m4 146 rfl
theorem q920 : (Jvm.Cond.instanceMethod ({ cls := "Quirefold$Layout", name := "pageIn", desc := "(II)I" } : Jvm.MethodName)) ∈ lw_all := lw_g (lw_at lw_m4 147 rfl) rfl
theorem q921 : (Jvm.Cond.code ({ cls := "Quirefold$Layout", name := "pageIn", desc := "(II)I" } : Jvm.MethodName) prog_2_method_11_code (3 : Nat) (Option.some Jvm.ClassFile.FieldType.int)) ∈ lw_all := lw_g (lw_at lw_m4 148 rfl) rfl
theorem q922 : (Jvm.Cond.fieldLink "Quirefold$Layout" (32 : Nat) "Quirefold$Layout" "record" "I") ∈ lw_all := lw_g (lw_at lw_m4 149 rfl) rfl
theorem q923 : (Jvm.Cond.fieldLink "Quirefold$Layout" (18 : Nat) "Quirefold$Layout" "lines" "Ljava/util/List;") ∈ lw_all := lw_g (lw_at lw_m4 150 rfl) rfl
theorem q925 : (Jvm.Cond.fieldLink "Quirefold$Layout" (22 : Nat) "Quirefold$Layout" "lineOf" "[I") ∈ lw_all := lw_g (lw_at lw_m4 152 rfl) rfl
theorem q927 : (Jvm.Cond.fieldLink "Quirefold$Layout" (26 : Nat) "Quirefold$Layout" "columnOf" "[I") ∈ lw_all := lw_g (lw_at lw_m4 154 rfl) rfl
theorem q929 : (Jvm.Cond.fieldLink "Quirefold$Layout" (29 : Nat) "Quirefold$Layout" "waiting" "Ljava/util/List;") ∈ lw_all := lw_g (lw_at lw_m4 156 rfl) rfl
theorem q930 : (Jvm.Cond.fieldLink "Quirefold$Layout" (141 : Nat) "Quirefold$Layout" "columns" "I") ∈ lw_all := lw_g (lw_at lw_m4 157 rfl) rfl
theorem q931 : (Jvm.Cond.fieldLink "Quirefold$Layout" (144 : Nat) "Quirefold$Layout" "used" "I") ∈ lw_all := lw_g (lw_at lw_m4 158 rfl) rfl
theorem q932 : (Jvm.Cond.fieldLink "Quirefold$Layout" (147 : Nat) "Quirefold$Layout" "hasLine" "Z") ∈ lw_all := lw_g (lw_at lw_m4 159 rfl) rfl
theorem q933 : (Jvm.Cond.fieldLink "Quirefold$Layout" (49 : Nat) "Quirefold$Layout" "front" "I") ∈ lw_all := lw_g (lw_at lw_m4 160 rfl) rfl
theorem q935 : (Jvm.Cond.fieldLink "Quirefold$Layout" (3 : Nat) "Quirefold$Layout" "this$0" "LQuirefold;") ∈ lw_all := lw_g (lw_at lw_m4 162 rfl) rfl
theorem q936 : (Jvm.Cond.laysFinal "Quirefold$Layout" "Quirefold$Layout" "record" "I") ∈ lw_all := lw_g (lw_at lw_m4 163 rfl) rfl
theorem q937 : (Jvm.Cond.soleField "Quirefold$Layout" "record") ∈ lw_all := lw_g (lw_at lw_m4 164 rfl) rfl
theorem q938 : (Jvm.Cond.laysFinal "Quirefold$Layout" "Quirefold$Layout" "lines" "Ljava/util/List;") ∈ lw_all := lw_g (lw_at lw_m4 165 rfl) rfl
theorem q939 : (Jvm.Cond.soleField "Quirefold$Layout" "lines") ∈ lw_all := lw_g (lw_at lw_m4 166 rfl) rfl
theorem q940 : (Jvm.Cond.laysFinal "Quirefold$Layout" "Quirefold$Layout" "lineOf" "[I") ∈ lw_all := lw_g (lw_at lw_m4 167 rfl) rfl
theorem q941 : (Jvm.Cond.soleField "Quirefold$Layout" "lineOf") ∈ lw_all := lw_g (lw_at lw_m4 168 rfl) rfl
theorem q942 : (Jvm.Cond.laysFinal "Quirefold$Layout" "Quirefold$Layout" "columnOf" "[I") ∈ lw_all := lw_g (lw_at lw_m4 169 rfl) rfl
theorem q943 : (Jvm.Cond.soleField "Quirefold$Layout" "columnOf") ∈ lw_all := lw_g (lw_at lw_m4 170 rfl) rfl
theorem q944 : (Jvm.Cond.laysFinal "Quirefold$Layout" "Quirefold$Layout" "waiting" "Ljava/util/List;") ∈ lw_all := lw_g (lw_at lw_m4 171 rfl) rfl
theorem q945 : (Jvm.Cond.soleField "Quirefold$Layout" "waiting") ∈ lw_all := lw_g (lw_at lw_m4 172 rfl) rfl
theorem q946 : (Jvm.Cond.lays "Quirefold$Layout" "Quirefold$Layout" "columns" "I") ∈ lw_all := lw_g (lw_at lw_m4 173 rfl) rfl
theorem q947 : (Jvm.Cond.soleField "Quirefold$Layout" "columns") ∈ lw_all := lw_g (lw_at lw_m4 174 rfl) rfl
theorem q948 : (Jvm.Cond.lays "Quirefold$Layout" "Quirefold$Layout" "used" "I") ∈ lw_all := lw_g (lw_at lw_m4 175 rfl) rfl
theorem q949 : (Jvm.Cond.soleField "Quirefold$Layout" "used") ∈ lw_all := lw_g (lw_at lw_m4 176 rfl) rfl
theorem q950 : (Jvm.Cond.lays "Quirefold$Layout" "Quirefold$Layout" "hasLine" "Z") ∈ lw_all := lw_g (lw_at lw_m4 177 rfl) rfl
theorem q951 : (Jvm.Cond.soleField "Quirefold$Layout" "hasLine") ∈ lw_all := lw_g (lw_at lw_m4 178 rfl) rfl
theorem q952 : (Jvm.Cond.lays "Quirefold$Layout" "Quirefold$Layout" "front" "I") ∈ lw_all := lw_g (lw_at lw_m4 179 rfl) rfl
theorem q953 : (Jvm.Cond.soleField "Quirefold$Layout" "front") ∈ lw_all := lw_g (lw_at lw_m4 180 rfl) rfl
theorem q954 : (Jvm.Cond.laysFinal "Quirefold$Layout" "Quirefold$Layout" "this$0" "LQuirefold;") ∈ lw_all := lw_g (lw_at lw_m4 181 rfl) rfl
theorem q955 : (Jvm.Cond.soleField "Quirefold$Layout" "this$0") ∈ lw_all := lw_g (lw_at lw_m4 182 rfl) rfl
theorem q956 : (Jvm.Cond.superclass "Quirefold$Layout" "java/lang/Object") ∈ lw_all := lw_g (lw_at lw_m4 183 rfl) rfl
theorem q967 : (Jvm.Cond.instanceMethod ({ cls := "Quirefold$Layout", name := "rowsOf", desc := "(I)Ljava/util/List;" } : Jvm.MethodName)) ∈ lw_all := lw_g (lw_at lw_m4 194 rfl) rfl
theorem q968 : (Jvm.Cond.selects "Quirefold$Layout" ({ cls := "Quirefold$Layout", name := "rowsOf", desc := "(I)Ljava/util/List;" } : Jvm.MethodName) ({ cls := "Quirefold$Layout", name := "rowsOf", desc := "(I)Ljava/util/List;" } : Jvm.MethodName)) ∈ lw_all := lw_g (lw_at lw_m4 195 rfl) rfl
theorem q969 : (Jvm.Cond.code ({ cls := "Quirefold$Layout", name := "rowsOf", desc := "(I)Ljava/util/List;" } : Jvm.MethodName) prog_2_method_17_code (5 : Nat) (Option.some (Jvm.ClassFile.FieldType.object "java/util/List"))) ∈ lw_all := lw_g (lw_at lw_m4 196 rfl) rfl
theorem q970 : (Jvm.Cond.interfaceEntry "Quirefold$Layout" (192 : Nat)) ∈ lw_tbl := lw_at lw_m4 197 rfl
theorem q971 : (Jvm.Cond.methodLink "Quirefold$Layout" (192 : Nat) ({ cls := "java/util/List", name := "iterator", desc := "()Ljava/util/Iterator;" } : Jvm.MethodName)) ∈ lw_all := lw_g (lw_at lw_m4 198 rfl) rfl
theorem q998 : (Jvm.Cond.interfaceEntry "Quirefold$Layout" (196 : Nat)) ∈ lw_tbl := lw_at lw_m4 225 rfl
theorem q999 : (Jvm.Cond.methodLink "Quirefold$Layout" (196 : Nat) ({ cls := "java/util/Iterator", name := "hasNext", desc := "()Z" } : Jvm.MethodName)) ∈ lw_all := lw_g (lw_at lw_m4 226 rfl) rfl
theorem q1008 : (Jvm.Cond.interfaceEntry "Quirefold$Layout" (201 : Nat)) ∈ lw_tbl := lw_at lw_m4 235 rfl
theorem q1009 : (Jvm.Cond.methodLink "Quirefold$Layout" (201 : Nat) ({ cls := "java/util/Iterator", name := "next", desc := "()Ljava/lang/Object;" } : Jvm.MethodName)) ∈ lw_all := lw_g (lw_at lw_m4 236 rfl) rfl
theorem q1021 : (Jvm.Cond.methodLink "Quirefold$Layout" (184 : Nat) ({ cls := "Quirefold$Layout", name := "rowOf", desc := "(I)[I" } : Jvm.MethodName)) ∈ lw_all := lw_g (lw_at lw_m5 8 rfl) rfl
theorem q1022 : (Jvm.Cond.instanceMethod ({ cls := "Quirefold$Layout", name := "rowOf", desc := "(I)[I" } : Jvm.MethodName)) ∈ lw_all := lw_g (lw_at lw_m5 9 rfl) rfl
theorem q1023 : (Jvm.Cond.selects "Quirefold$Layout" ({ cls := "Quirefold$Layout", name := "rowOf", desc := "(I)[I" } : Jvm.MethodName) ({ cls := "Quirefold$Layout", name := "rowOf", desc := "(I)[I" } : Jvm.MethodName)) ∈ lw_all := lw_g (lw_at lw_m5 10 rfl) rfl
theorem q1024 : (Jvm.Cond.code ({ cls := "Quirefold$Layout", name := "rowOf", desc := "(I)[I" } : Jvm.MethodName) prog_2_method_16_code (4 : Nat) (Option.some (Jvm.ClassFile.FieldType.array Jvm.ClassFile.FieldType.int))) ∈ lw_all := lw_g (lw_at lw_m5 11 rfl) rfl
theorem q1025 : (Jvm.Cond.methodLink "Quirefold$Layout" (189 : Nat) ({ cls := "Quirefold$Style", name := "colour", desc := "()I" } : Jvm.MethodName)) ∈ lw_all := lw_g (lw_at lw_m5 12 rfl) rfl
theorem q1070 : (Jvm.Cond.instanceMethod ({ cls := "Quirefold$Layout", name := "page", desc := "(I)I" } : Jvm.MethodName)) ∈ lw_all := lw_g (lw_at lw_m5 57 rfl) rfl
theorem q1071 : (Jvm.Cond.selects "Quirefold$Layout" ({ cls := "Quirefold$Layout", name := "page", desc := "(I)I" } : Jvm.MethodName) ({ cls := "Quirefold$Layout", name := "page", desc := "(I)I" } : Jvm.MethodName)) ∈ lw_all := lw_g (lw_at lw_m5 58 rfl) rfl
theorem q1072 : (Jvm.Cond.code ({ cls := "Quirefold$Layout", name := "page", desc := "(I)I" } : Jvm.MethodName) prog_2_method_12_code (2 : Nat) (Option.some Jvm.ClassFile.FieldType.int)) ∈ lw_all := lw_g (lw_at lw_m5 59 rfl) rfl
theorem q1088 : (Jvm.Cond.instanceMethod ({ cls := "Quirefold$Layout", name := "bodyPages", desc := "()I" } : Jvm.MethodName)) ∈ lw_all := lw_g (lw_at lw_m5 75 rfl) rfl
theorem q1089 : (Jvm.Cond.selects "Quirefold$Layout" ({ cls := "Quirefold$Layout", name := "bodyPages", desc := "()I" } : Jvm.MethodName) ({ cls := "Quirefold$Layout", name := "bodyPages", desc := "()I" } : Jvm.MethodName)) ∈ lw_all := lw_g (lw_at lw_m5 76 rfl) rfl
theorem q1090 : (Jvm.Cond.code ({ cls := "Quirefold$Layout", name := "bodyPages", desc := "()I" } : Jvm.MethodName) prog_2_method_10_code (1 : Nat) (Option.some Jvm.ClassFile.FieldType.int)) ∈ lw_all := lw_g (lw_at lw_m5 77 rfl) rfl
theorem q1181 : (Jvm.Cond.instanceMethod ({ cls := "Quirefold$Layout", name := "isLike", desc := "(ILjava/util/List;)Z" } : Jvm.MethodName)) ∈ lw_all := lw_g (lw_at lw_m5 168 rfl) rfl
theorem q1182 : (Jvm.Cond.selects "Quirefold$Layout" ({ cls := "Quirefold$Layout", name := "isLike", desc := "(ILjava/util/List;)Z" } : Jvm.MethodName) ({ cls := "Quirefold$Layout", name := "isLike", desc := "(ILjava/util/List;)Z" } : Jvm.MethodName)) ∈ lw_all := lw_g (lw_at lw_m5 169 rfl) rfl
theorem q1183 : (Jvm.Cond.code ({ cls := "Quirefold$Layout", name := "isLike", desc := "(ILjava/util/List;)Z" } : Jvm.MethodName) prog_2_method_15_code (8 : Nat) (Option.some Jvm.ClassFile.FieldType.boolean)) ∈ lw_all := lw_g (lw_at lw_m5 170 rfl) rfl
theorem q1184 : (Jvm.Cond.classLink "Quirefold$Layout" (188 : Nat) "[I") ∈ lw_all := lw_g (lw_at lw_m5 171 rfl) rfl
theorem q1550 : (Jvm.Cond.castable "Quirefold$Layout" "java/lang/Object") ∈ lw_tbl := lw_at lw_m7 57 rfl
theorem in_X5 : ∀ w ∈ wsX50, w ∈ lw_all := lw_in wsX50 [936, 938, 940, 942, 944, 946, 948, 950, 952, 954] (by decide +kernel) (by decide +kernel)

/-! Quirefold$Line -/
set_option maxRecDepth 100000
def RX6 : String := "Quirefold$Line"
def TX6 : u_T := fun k => match k with
  | 0 => ("Quirefold$Line", "isHead", "Z", true)
  | 1 => ("Quirefold$Line", "printed", "Ljava/util/List;", true)
  | 2 => ("Quirefold$Line", "figures", "Ljava/util/List;", true)
  | 3 => ("Quirefold$Line", "width", "I", false)
  | 4 => ("Quirefold$Line", "notes", "I", false)
  | 5 => ("Quirefold$Line", "isKept", "Z", false)
  | _ => ("Quirefold$Line", "column", "I", false)
def tyX6 : Nat → FieldType := fun k => match k with
  | 0 => .boolean
  | 1 => .object "java/util/List"
  | 2 => .object "java/util/List"
  | 3 => .int
  | 4 => .int
  | 5 => .boolean
  | _ => .int
abbrev wsX60 : List Cond := u_ws RX6 TX6 7
theorem nmX6 : ∀ a, a < 7 → ∀ b, b < 7 → a ≠ b → (TX6 a).2.1 ≠ (TX6 b).2.1 := by decide +kernel
theorem tyX6_ok : ∀ k, k < 7 → parseFieldDescriptor (TX6 k).2.2.1 = some (tyX6 k) := by decide +kernel
abbrev cX6_init : ByteArray := prog_3_method_1_code
def yX6_init : MethodName := ⟨RX6, "<init>", "(Z)V"⟩
def dkwX6_init_1 : List UInt8 := [181, 0, 18, 42, 2, 181, 0, 21, 42, 27, 181, 0, 25, 177]
abbrev dktX6_init_1 : List UInt8 := dkwX6_init_1 ++ []
def dkwX6_init_0 : List UInt8 := [42, 183, 0, 3, 42, 187, 0, 9, 89, 183, 0, 11, 181, 0, 12, 42, 187, 0, 9, 89, 183, 0, 11]
abbrev dktX6_init_0 : List UInt8 := dkwX6_init_0 ++ dktX6_init_1
theorem dksX6_init_0 : cX6_init.data.toList.drop 0 = dktX6_init_0 := by decide +kernel
theorem dksX6_init_1 : cX6_init.data.toList.drop 23 = dktX6_init_1 := dk_seg dksX6_init_0 23 rfl rfl
theorem dX6_init_0 : decode cX6_init 0 = .ok (.aload_n 0, 1) := dk_42 (dk_at dksX6_init_0 0 rfl rfl)
theorem dX6_init_1 : decode cX6_init 1 = .ok (.invokespecial 3, 3) := dk_183 0 3 (dk_at dksX6_init_0 1 rfl rfl)
theorem dX6_init_4 : decode cX6_init 4 = .ok (.aload_n 0, 1) := dk_42 (dk_at dksX6_init_0 4 rfl rfl)
theorem dX6_init_5 : decode cX6_init 5 = .ok (.new 9, 3) := dk_187 0 9 (dk_at dksX6_init_0 5 rfl rfl)
theorem dX6_init_8 : decode cX6_init 8 = .ok (.dup, 1) := dk_89 (dk_at dksX6_init_0 8 rfl rfl)
theorem dX6_init_9 : decode cX6_init 9 = .ok (.invokespecial 11, 3) := dk_183 0 11 (dk_at dksX6_init_0 9 rfl rfl)
theorem dX6_init_12 : decode cX6_init 12 = .ok (.putfield 12, 3) := dk_181 0 12 (dk_at dksX6_init_0 12 rfl rfl)
theorem dX6_init_15 : decode cX6_init 15 = .ok (.aload_n 0, 1) := dk_42 (dk_at dksX6_init_0 15 rfl rfl)
theorem dX6_init_16 : decode cX6_init 16 = .ok (.new 9, 3) := dk_187 0 9 (dk_at dksX6_init_0 16 rfl rfl)
theorem dX6_init_19 : decode cX6_init 19 = .ok (.dup, 1) := dk_89 (dk_at dksX6_init_0 19 rfl rfl)
theorem dX6_init_20 : decode cX6_init 20 = .ok (.invokespecial 11, 3) := dk_183 0 11 (dk_at dksX6_init_0 20 rfl rfl)
theorem dX6_init_23 : decode cX6_init 23 = .ok (.putfield 18, 3) := dk_181 0 18 (dk_at dksX6_init_1 0 rfl rfl)
theorem dX6_init_26 : decode cX6_init 26 = .ok (.aload_n 0, 1) := dk_42 (dk_at dksX6_init_1 3 rfl rfl)
theorem dX6_init_27 : decode cX6_init 27 = .ok (.iconst (-1), 1) := dk_2 (dk_at dksX6_init_1 4 rfl rfl)
theorem dX6_init_28 : decode cX6_init 28 = .ok (.putfield 21, 3) := dk_181 0 21 (dk_at dksX6_init_1 5 rfl rfl)
theorem dX6_init_31 : decode cX6_init 31 = .ok (.aload_n 0, 1) := dk_42 (dk_at dksX6_init_1 8 rfl rfl)
theorem dX6_init_32 : decode cX6_init 32 = .ok (.iload_n 1, 1) := dk_27 (dk_at dksX6_init_1 9 rfl rfl)
theorem dX6_init_33 : decode cX6_init 33 = .ok (.putfield 25, 3) := dk_181 0 25 (dk_at dksX6_init_1 10 rfl rfl)
theorem dX6_init_36 : decode cX6_init 36 = .ok (.return_, 1) := dk_177 (dk_at dksX6_init_1 13 rfl rfl)
abbrev cX6_takes : ByteArray := prog_3_method_2_code
def yX6_takes : MethodName := ⟨RX6, "takes", "(Z)I"⟩
def dkwX6_takes_0 : List UInt8 := [4, 42, 180, 0, 29, 96, 42, 180, 0, 25, 153, 0, 11, 27, 153, 0, 7, 4, 167, 0, 4, 3, 96, 172]
abbrev dktX6_takes_0 : List UInt8 := dkwX6_takes_0 ++ []
theorem dksX6_takes_0 : cX6_takes.data.toList.drop 0 = dktX6_takes_0 := by decide +kernel
theorem dX6_takes_0 : decode cX6_takes 0 = .ok (.iconst 1, 1) := dk_4 (dk_at dksX6_takes_0 0 rfl rfl)
theorem dX6_takes_1 : decode cX6_takes 1 = .ok (.aload_n 0, 1) := dk_42 (dk_at dksX6_takes_0 1 rfl rfl)
theorem dX6_takes_2 : decode cX6_takes 2 = .ok (.getfield 29, 3) := dk_180 0 29 (dk_at dksX6_takes_0 2 rfl rfl)
theorem dX6_takes_5 : decode cX6_takes 5 = .ok (.iadd, 1) := dk_96 (dk_at dksX6_takes_0 5 rfl rfl)
theorem dX6_takes_6 : decode cX6_takes 6 = .ok (.aload_n 0, 1) := dk_42 (dk_at dksX6_takes_0 6 rfl rfl)
theorem dX6_takes_7 : decode cX6_takes 7 = .ok (.getfield 25, 3) := dk_180 0 25 (dk_at dksX6_takes_0 7 rfl rfl)
theorem dX6_takes_10 : decode cX6_takes 10 = .ok (.ifCond .eq 11, 3) := dk_153 0 11 (dk_at dksX6_takes_0 10 rfl rfl)
theorem dX6_takes_13 : decode cX6_takes 13 = .ok (.iload_n 1, 1) := dk_27 (dk_at dksX6_takes_0 13 rfl rfl)
theorem dX6_takes_14 : decode cX6_takes 14 = .ok (.ifCond .eq 7, 3) := dk_153 0 7 (dk_at dksX6_takes_0 14 rfl rfl)
theorem dX6_takes_17 : decode cX6_takes 17 = .ok (.iconst 1, 1) := dk_4 (dk_at dksX6_takes_0 17 rfl rfl)
theorem dX6_takes_18 : decode cX6_takes 18 = .ok (.goto 4, 3) := dk_167 0 4 (dk_at dksX6_takes_0 18 rfl rfl)
theorem dX6_takes_21 : decode cX6_takes 21 = .ok (.iconst 0, 1) := dk_3 (dk_at dksX6_takes_0 21 rfl rfl)
theorem dX6_takes_22 : decode cX6_takes 22 = .ok (.iadd, 1) := dk_96 (dk_at dksX6_takes_0 22 rfl rfl)
theorem dX6_takes_23 : decode cX6_takes 23 = .ok (.ireturn, 1) := dk_172 (dk_at dksX6_takes_0 23 rfl rfl)
theorem q82 : (Jvm.Cond.initialized "Quirefold$Line") ∈ lw_all := lw_g (lw_at lw_m1 29 rfl) rfl
theorem q651 : (Jvm.Cond.selects "Quirefold$Line" ({ cls := "java/lang/Object", name := "getClass", desc := "()Ljava/lang/Class;" } : Jvm.MethodName) ({ cls := "java/lang/Object", name := "getClass", desc := "()Ljava/lang/Class;" } : Jvm.MethodName)) ∈ lw_all := lw_g (lw_at lw_m3 118 rfl) rfl
theorem q800 : (Jvm.Cond.instantiable "Quirefold$Line" (7 : Nat)) ∈ lw_all := lw_g (lw_at lw_m4 27 rfl) rfl
theorem q802 : (Jvm.Cond.instanceMethod ({ cls := "Quirefold$Line", name := "<init>", desc := "(Z)V" } : Jvm.MethodName)) ∈ lw_all := lw_g (lw_at lw_m4 29 rfl) rfl
theorem q803 : (Jvm.Cond.code ({ cls := "Quirefold$Line", name := "<init>", desc := "(Z)V" } : Jvm.MethodName) prog_3_method_1_code (2 : Nat) (Option.none : Option Jvm.ClassFile.FieldType)) ∈ lw_all := lw_g (lw_at lw_m4 30 rfl) rfl
theorem q804 : (Jvm.Cond.methodLink "Quirefold$Line" (3 : Nat) ({ cls := "java/lang/Object", name := "<init>", desc := "()V" } : Jvm.MethodName)) ∈ lw_all := lw_g (lw_at lw_m4 31 rfl) rfl
theorem q805 : (Jvm.Cond.classLink "Quirefold$Line" (9 : Nat) "java/util/ArrayList") ∈ lw_all := lw_g (lw_at lw_m4 32 rfl) rfl
theorem q806 : (Jvm.Cond.methodLink "Quirefold$Line" (11 : Nat) ({ cls := "java/util/ArrayList", name := "<init>", desc := "()V" } : Jvm.MethodName)) ∈ lw_all := lw_g (lw_at lw_m4 33 rfl) rfl
theorem q807 : (Jvm.Cond.fieldLink "Quirefold$Line" (25 : Nat) "Quirefold$Line" "isHead" "Z") ∈ lw_all := lw_g (lw_at lw_m4 34 rfl) rfl
theorem q810 : (Jvm.Cond.fieldLink "Quirefold$Line" (12 : Nat) "Quirefold$Line" "printed" "Ljava/util/List;") ∈ lw_all := lw_g (lw_at lw_m4 37 rfl) rfl
theorem q813 : (Jvm.Cond.fieldLink "Quirefold$Line" (18 : Nat) "Quirefold$Line" "figures" "Ljava/util/List;") ∈ lw_all := lw_g (lw_at lw_m4 40 rfl) rfl
theorem q816 : (Jvm.Cond.fieldLink "Quirefold$Line" (29 : Nat) "Quirefold$Line" "notes" "I") ∈ lw_all := lw_g (lw_at lw_m4 43 rfl) rfl
theorem q819 : (Jvm.Cond.fieldLink "Quirefold$Line" (21 : Nat) "Quirefold$Line" "column" "I") ∈ lw_all := lw_g (lw_at lw_m4 46 rfl) rfl
theorem q822 : (Jvm.Cond.laysFinal "Quirefold$Line" "Quirefold$Line" "isHead" "Z") ∈ lw_all := lw_g (lw_at lw_m4 49 rfl) rfl
theorem q823 : (Jvm.Cond.soleField "Quirefold$Line" "isHead") ∈ lw_all := lw_g (lw_at lw_m4 50 rfl) rfl
theorem q824 : (Jvm.Cond.laysFinal "Quirefold$Line" "Quirefold$Line" "printed" "Ljava/util/List;") ∈ lw_all := lw_g (lw_at lw_m4 51 rfl) rfl
theorem q825 : (Jvm.Cond.soleField "Quirefold$Line" "printed") ∈ lw_all := lw_g (lw_at lw_m4 52 rfl) rfl
theorem q826 : (Jvm.Cond.laysFinal "Quirefold$Line" "Quirefold$Line" "figures" "Ljava/util/List;") ∈ lw_all := lw_g (lw_at lw_m4 53 rfl) rfl
theorem q827 : (Jvm.Cond.soleField "Quirefold$Line" "figures") ∈ lw_all := lw_g (lw_at lw_m4 54 rfl) rfl
theorem q828 : (Jvm.Cond.lays "Quirefold$Line" "Quirefold$Line" "width" "I") ∈ lw_all := lw_g (lw_at lw_m4 55 rfl) rfl
theorem q829 : (Jvm.Cond.soleField "Quirefold$Line" "width") ∈ lw_all := lw_g (lw_at lw_m4 56 rfl) rfl
theorem q830 : (Jvm.Cond.lays "Quirefold$Line" "Quirefold$Line" "notes" "I") ∈ lw_all := lw_g (lw_at lw_m4 57 rfl) rfl
theorem q831 : (Jvm.Cond.soleField "Quirefold$Line" "notes") ∈ lw_all := lw_g (lw_at lw_m4 58 rfl) rfl
theorem q832 : (Jvm.Cond.lays "Quirefold$Line" "Quirefold$Line" "isKept" "Z") ∈ lw_all := lw_g (lw_at lw_m4 59 rfl) rfl
theorem q833 : (Jvm.Cond.soleField "Quirefold$Line" "isKept") ∈ lw_all := lw_g (lw_at lw_m4 60 rfl) rfl
theorem q834 : (Jvm.Cond.lays "Quirefold$Line" "Quirefold$Line" "column" "I") ∈ lw_all := lw_g (lw_at lw_m4 61 rfl) rfl
theorem q835 : (Jvm.Cond.soleField "Quirefold$Line" "column") ∈ lw_all := lw_g (lw_at lw_m4 62 rfl) rfl
theorem q836 : (Jvm.Cond.superclass "Quirefold$Line" "java/lang/Object") ∈ lw_all := lw_g (lw_at lw_m4 63 rfl) rfl
theorem q907 : (Jvm.Cond.instanceMethod ({ cls := "Quirefold$Line", name := "takes", desc := "(Z)I" } : Jvm.MethodName)) ∈ lw_all := lw_g (lw_at lw_m4 134 rfl) rfl
theorem q908 : (Jvm.Cond.selects "Quirefold$Line" ({ cls := "Quirefold$Line", name := "takes", desc := "(Z)I" } : Jvm.MethodName) ({ cls := "Quirefold$Line", name := "takes", desc := "(Z)I" } : Jvm.MethodName)) ∈ lw_all := lw_g (lw_at lw_m4 135 rfl) rfl
theorem q909 : (Jvm.Cond.code ({ cls := "Quirefold$Line", name := "takes", desc := "(Z)I" } : Jvm.MethodName) prog_3_method_2_code (2 : Nat) (Option.some Jvm.ClassFile.FieldType.int)) ∈ lw_all := lw_g (lw_at lw_m4 136 rfl) rfl
theorem q1561 : (Jvm.Cond.castable "Quirefold$Line" "java/lang/Object") ∈ lw_tbl := lw_at lw_m7 68 rfl
theorem in_X6 : ∀ w ∈ wsX60, w ∈ lw_all := lw_in wsX60 [822, 824, 826, 828, 830, 832, 834] (by decide +kernel) (by decide +kernel)
