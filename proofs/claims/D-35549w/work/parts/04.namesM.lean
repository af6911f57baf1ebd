set_option maxRecDepth 100000
/-! QuirefoldModel -/
set_option maxRecDepth 100000
def RX3 : String := "QuirefoldModel"
def TX3 : u_T := fun k => match k with
  | 0 => ("QuirefoldModel", "many", "I", false)
  | 1 => ("QuirefoldModel", "kind", "[I", true)
  | 2 => ("QuirefoldModel", "number", "[I", true)
  | 3 => ("QuirefoldModel", "styleOf", "[I", true)
  | 4 => ("QuirefoldModel", "base", "[I", true)
  | 5 => ("QuirefoldModel", "extra", "[I", true)
  | 6 => ("QuirefoldModel", "colour", "[I", true)
  | 7 => ("QuirefoldModel", "data", "[I", true)
  | 8 => ("QuirefoldModel", "width", "I", false)
  | 9 => ("QuirefoldModel", "room", "I", false)
  | 10 => ("QuirefoldModel", "columns", "I", false)
  | 11 => ("QuirefoldModel", "sees", "[I", true)
  | 12 => ("QuirefoldModel", "signature", "I", false)
  | 13 => ("QuirefoldModel", "creep", "I", false)
  | 14 => ("QuirefoldModel", "lines", "I", false)
  | 15 => ("QuirefoldModel", "lineOf", "[I", true)
  | 16 => ("QuirefoldModel", "figureIn", "[I", true)
  | 17 => ("QuirefoldModel", "columnOf", "[I", true)
  | 18 => ("QuirefoldModel", "notes", "[I", true)
  | 19 => ("QuirefoldModel", "isHead", "[Z", true)
  | 20 => ("QuirefoldModel", "isFirst", "[Z", true)
  | 21 => ("QuirefoldModel", "isLong", "[Z", true)
  | 22 => ("QuirefoldModel", "all", "I", false)
  | 23 => ("QuirefoldModel", "front", "I", false)
  | 24 => ("QuirefoldModel", "rests", "Z", false)
  | 25 => ("QuirefoldModel", "waits", "[I", true)
  | 26 => ("QuirefoldModel", "waitsFrom", "I", false)
  | 27 => ("QuirefoldModel", "waitsTo", "I", false)
  | 28 => ("QuirefoldModel", "left", "I", false)
  | 29 => ("QuirefoldModel", "hasLine", "Z", false)
  | 30 => ("QuirefoldModel", "hasSome", "Z", false)
  | 31 => ("QuirefoldModel", "keptLines", "I", false)
  | 32 => ("QuirefoldModel", "keptFrom", "[I", true)
  | 33 => ("QuirefoldModel", "keptKind", "[I", true)
  | 34 => ("QuirefoldModel", "keptWidth", "[I", true)
  | 35 => ("QuirefoldModel", "keptColour", "[I", true)
  | 36 => ("QuirefoldModel", "isOn", "[Z", true)
  | _ => ("QuirefoldModel", "thrown", "I", false)
def tyX3 : Nat → FieldType := fun k => match k with
  | 0 => .int
  | 1 => .array .int
  | 2 => .array .int
  | 3 => .array .int
  | 4 => .array .int
  | 5 => .array .int
  | 6 => .array .int
  | 7 => .array .int
  | 8 => .int
  | 9 => .int
  | 10 => .int
  | 11 => .array .int
  | 12 => .int
  | 13 => .int
  | 14 => .int
  | 15 => .array .int
  | 16 => .array .int
  | 17 => .array .int
  | 18 => .array .int
  | 19 => .array .boolean
  | 20 => .array .boolean
  | 21 => .array .boolean
  | 22 => .int
  | 23 => .int
  | 24 => .boolean
  | 25 => .array .int
  | 26 => .int
  | 27 => .int
  | 28 => .int
  | 29 => .boolean
  | 30 => .boolean
  | 31 => .int
  | 32 => .array .int
  | 33 => .array .int
  | 34 => .array .int
  | 35 => .array .int
  | 36 => .array .boolean
  | _ => .int
abbrev wsX30 : List Cond := u_ws RX3 TX3 38
set_option maxRecDepth 100000 in
theorem nmX3 : ∀ a, a < 38 → ∀ b, b < 38 → a ≠ b → (TX3 a).2.1 ≠ (TX3 b).2.1 := by decide +kernel
set_option maxRecDepth 100000 in
theorem tyX3_ok : ∀ k, k < 38 → parseFieldDescriptor (TX3 k).2.2.1 = some (tyX3 k) := by decide +kernel
abbrev cX3_init : ByteArray := prog_7_method_1_code
def yX3_init : MethodName := ⟨RX3, "<init>", "()V"⟩
def dkwX3_init_13 : List UInt8 := [17, 1, 144, 188, 4, 181, 0, 87, 177]
abbrev dktX3_init_13 : List UInt8 := dkwX3_init_13 ++ []
def dkwX3_init_12 : List UInt8 := [188, 10, 181, 0, 78, 42, 16, 120, 188, 10, 181, 0, 81, 42, 16, 120, 188, 10, 181, 0, 84, 42]
abbrev dktX3_init_12 : List UInt8 := dkwX3_init_12 ++ dktX3_init_13
def dkwX3_init_11 : List UInt8 := [188, 4, 181, 0, 69, 42, 16, 120, 188, 10, 181, 0, 72, 42, 16, 121, 188, 10, 181, 0, 75, 42, 16, 120]
abbrev dktX3_init_11 : List UInt8 := dkwX3_init_11 ++ dktX3_init_12
def dkwX3_init_10 : List UInt8 := [188, 10, 181, 0, 59, 42, 16, 120, 188, 4, 181, 0, 62, 42, 16, 120, 188, 4, 181, 0, 66, 42, 16, 120]
abbrev dktX3_init_10 : List UInt8 := dkwX3_init_10 ++ dktX3_init_11
def dkwX3_init_9 : List UInt8 := [188, 10, 181, 0, 50, 42, 16, 120, 188, 10, 181, 0, 53, 42, 16, 120, 188, 10, 181, 0, 56, 42, 16, 120]
abbrev dktX3_init_9 : List UInt8 := dkwX3_init_9 ++ dktX3_init_10
def dkwX3_init_8 : List UInt8 := [79, 89, 16, 9, 2, 79, 181, 0, 41, 42, 16, 8, 181, 0, 44, 42, 4, 181, 0, 47, 42, 16, 120]
abbrev dktX3_init_8 : List UInt8 := dkwX3_init_8 ++ dktX3_init_9
def dkwX3_init_7 : List UInt8 := [2, 79, 89, 7, 2, 79, 89, 8, 2, 79, 89, 16, 6, 2, 79, 89, 16, 7, 2, 79, 89, 16, 8, 2]
abbrev dktX3_init_7 : List UInt8 := dkwX3_init_7 ++ dktX3_init_8
def dkwX3_init_6 : List UInt8 := [42, 4, 181, 0, 38, 42, 16, 10, 188, 10, 89, 3, 2, 79, 89, 4, 2, 79, 89, 5, 2, 79, 89, 6]
abbrev dktX3_init_6 : List UInt8 := dkwX3_init_6 ++ dktX3_init_7
def dkwX3_init_5 : List UInt8 := [2, 79, 181, 0, 25, 42, 16, 16, 188, 10, 181, 0, 28, 42, 16, 10, 181, 0, 31, 42, 8, 181, 0, 35]
abbrev dktX3_init_5 : List UInt8 := dkwX3_init_5 ++ dktX3_init_6
def dkwX3_init_4 : List UInt8 := [188, 10, 89, 3, 2, 79, 89, 4, 2, 79, 89, 5, 2, 79, 89, 6, 2, 79, 89, 7, 2, 79, 89, 8]
abbrev dktX3_init_4 : List UInt8 := dkwX3_init_4 ++ dktX3_init_5
def dkwX3_init_3 : List UInt8 := [2, 79, 89, 5, 2, 79, 89, 6, 2, 79, 89, 7, 2, 79, 89, 8, 2, 79, 181, 0, 22, 42, 16, 6]
abbrev dktX3_init_3 : List UInt8 := dkwX3_init_3 ++ dktX3_init_4
def dkwX3_init_2 : List UInt8 := [2, 79, 89, 7, 2, 79, 89, 8, 2, 79, 181, 0, 19, 42, 16, 6, 188, 10, 89, 3, 2, 79, 89, 4]
abbrev dktX3_init_2 : List UInt8 := dkwX3_init_2 ++ dktX3_init_3
def dkwX3_init_1 : List UInt8 := [188, 10, 181, 0, 16, 42, 16, 6, 188, 10, 89, 3, 2, 79, 89, 4, 2, 79, 89, 5, 2, 79, 89, 6]
abbrev dktX3_init_1 : List UInt8 := dkwX3_init_1 ++ dktX3_init_2
def dkwX3_init_0 : List UInt8 := [42, 183, 0, 1, 42, 16, 120, 188, 10, 181, 0, 7, 42, 16, 120, 188, 10, 181, 0, 13, 42, 16, 120]
abbrev dktX3_init_0 : List UInt8 := dkwX3_init_0 ++ dktX3_init_1
theorem dksX3_init_0 : cX3_init.data.toList.drop 0 = dktX3_init_0 := by decide +kernel
theorem dksX3_init_1 : cX3_init.data.toList.drop 23 = dktX3_init_1 := dk_seg dksX3_init_0 23 rfl rfl
theorem dksX3_init_2 : cX3_init.data.toList.drop 47 = dktX3_init_2 := dk_seg dksX3_init_1 24 rfl rfl
theorem dksX3_init_3 : cX3_init.data.toList.drop 71 = dktX3_init_3 := dk_seg dksX3_init_2 24 rfl rfl
theorem dksX3_init_4 : cX3_init.data.toList.drop 95 = dktX3_init_4 := dk_seg dksX3_init_3 24 rfl rfl
theorem dksX3_init_5 : cX3_init.data.toList.drop 119 = dktX3_init_5 := dk_seg dksX3_init_4 24 rfl rfl
theorem dksX3_init_6 : cX3_init.data.toList.drop 143 = dktX3_init_6 := dk_seg dksX3_init_5 24 rfl rfl
theorem dksX3_init_7 : cX3_init.data.toList.drop 167 = dktX3_init_7 := dk_seg dksX3_init_6 24 rfl rfl
theorem dksX3_init_8 : cX3_init.data.toList.drop 191 = dktX3_init_8 := dk_seg dksX3_init_7 24 rfl rfl
theorem dksX3_init_9 : cX3_init.data.toList.drop 214 = dktX3_init_9 := dk_seg dksX3_init_8 23 rfl rfl
theorem dksX3_init_10 : cX3_init.data.toList.drop 238 = dktX3_init_10 := dk_seg dksX3_init_9 24 rfl rfl
theorem dksX3_init_11 : cX3_init.data.toList.drop 262 = dktX3_init_11 := dk_seg dksX3_init_10 24 rfl rfl
theorem dksX3_init_12 : cX3_init.data.toList.drop 286 = dktX3_init_12 := dk_seg dksX3_init_11 24 rfl rfl
theorem dksX3_init_13 : cX3_init.data.toList.drop 308 = dktX3_init_13 := dk_seg dksX3_init_12 22 rfl rfl
theorem dX3_init_0 : decode cX3_init 0 = .ok (.aload_n 0, 1) := dk_42 (dk_at dksX3_init_0 0 rfl rfl)
theorem dX3_init_1 : decode cX3_init 1 = .ok (.invokespecial 1, 3) := dk_183 0 1 (dk_at dksX3_init_0 1 rfl rfl)
theorem dX3_init_4 : decode cX3_init 4 = .ok (.aload_n 0, 1) := dk_42 (dk_at dksX3_init_0 4 rfl rfl)
theorem dX3_init_5 : decode cX3_init 5 = .ok (.bipush 120, 2) := dk_16 120 (dk_at dksX3_init_0 5 rfl rfl)
theorem dX3_init_7 : decode cX3_init 7 = .ok (.newarray .int, 2) := dk_188_10 (dk_at dksX3_init_0 7 rfl rfl)
theorem dX3_init_9 : decode cX3_init 9 = .ok (.putfield 7, 3) := dk_181 0 7 (dk_at dksX3_init_0 9 rfl rfl)
theorem dX3_init_12 : decode cX3_init 12 = .ok (.aload_n 0, 1) := dk_42 (dk_at dksX3_init_0 12 rfl rfl)
theorem dX3_init_13 : decode cX3_init 13 = .ok (.bipush 120, 2) := dk_16 120 (dk_at dksX3_init_0 13 rfl rfl)
theorem dX3_init_15 : decode cX3_init 15 = .ok (.newarray .int, 2) := dk_188_10 (dk_at dksX3_init_0 15 rfl rfl)
theorem dX3_init_17 : decode cX3_init 17 = .ok (.putfield 13, 3) := dk_181 0 13 (dk_at dksX3_init_0 17 rfl rfl)
theorem dX3_init_20 : decode cX3_init 20 = .ok (.aload_n 0, 1) := dk_42 (dk_at dksX3_init_0 20 rfl rfl)
theorem dX3_init_21 : decode cX3_init 21 = .ok (.bipush 120, 2) := dk_16 120 (dk_at dksX3_init_0 21 rfl rfl)
theorem dX3_init_23 : decode cX3_init 23 = .ok (.newarray .int, 2) := dk_188_10 (dk_at dksX3_init_1 0 rfl rfl)
theorem dX3_init_25 : decode cX3_init 25 = .ok (.putfield 16, 3) := dk_181 0 16 (dk_at dksX3_init_1 2 rfl rfl)
theorem dX3_init_28 : decode cX3_init 28 = .ok (.aload_n 0, 1) := dk_42 (dk_at dksX3_init_1 5 rfl rfl)
theorem dX3_init_29 : decode cX3_init 29 = .ok (.bipush 6, 2) := dk_16 6 (dk_at dksX3_init_1 6 rfl rfl)
theorem dX3_init_31 : decode cX3_init 31 = .ok (.newarray .int, 2) := dk_188_10 (dk_at dksX3_init_1 8 rfl rfl)
theorem dX3_init_33 : decode cX3_init 33 = .ok (.dup, 1) := dk_89 (dk_at dksX3_init_1 10 rfl rfl)
theorem dX3_init_34 : decode cX3_init 34 = .ok (.iconst 0, 1) := dk_3 (dk_at dksX3_init_1 11 rfl rfl)
theorem dX3_init_35 : decode cX3_init 35 = .ok (.iconst (-1), 1) := dk_2 (dk_at dksX3_init_1 12 rfl rfl)
theorem dX3_init_36 : decode cX3_init 36 = .ok (.iastore, 1) := dk_79 (dk_at dksX3_init_1 13 rfl rfl)
theorem dX3_init_37 : decode cX3_init 37 = .ok (.dup, 1) := dk_89 (dk_at dksX3_init_1 14 rfl rfl)
theorem dX3_init_38 : decode cX3_init 38 = .ok (.iconst 1, 1) := dk_4 (dk_at dksX3_init_1 15 rfl rfl)
theorem dX3_init_39 : decode cX3_init 39 = .ok (.iconst (-1), 1) := dk_2 (dk_at dksX3_init_1 16 rfl rfl)
theorem dX3_init_40 : decode cX3_init 40 = .ok (.iastore, 1) := dk_79 (dk_at dksX3_init_1 17 rfl rfl)
theorem dX3_init_41 : decode cX3_init 41 = .ok (.dup, 1) := dk_89 (dk_at dksX3_init_1 18 rfl rfl)
theorem dX3_init_42 : decode cX3_init 42 = .ok (.iconst 2, 1) := dk_5 (dk_at dksX3_init_1 19 rfl rfl)
theorem dX3_init_43 : decode cX3_init 43 = .ok (.iconst (-1), 1) := dk_2 (dk_at dksX3_init_1 20 rfl rfl)
theorem dX3_init_44 : decode cX3_init 44 = .ok (.iastore, 1) := dk_79 (dk_at dksX3_init_1 21 rfl rfl)
theorem dX3_init_45 : decode cX3_init 45 = .ok (.dup, 1) := dk_89 (dk_at dksX3_init_1 22 rfl rfl)
theorem dX3_init_46 : decode cX3_init 46 = .ok (.iconst 3, 1) := dk_6 (dk_at dksX3_init_1 23 rfl rfl)
theorem dX3_init_47 : decode cX3_init 47 = .ok (.iconst (-1), 1) := dk_2 (dk_at dksX3_init_2 0 rfl rfl)
theorem dX3_init_48 : decode cX3_init 48 = .ok (.iastore, 1) := dk_79 (dk_at dksX3_init_2 1 rfl rfl)
theorem dX3_init_49 : decode cX3_init 49 = .ok (.dup, 1) := dk_89 (dk_at dksX3_init_2 2 rfl rfl)
theorem dX3_init_50 : decode cX3_init 50 = .ok (.iconst 4, 1) := dk_7 (dk_at dksX3_init_2 3 rfl rfl)
theorem dX3_init_51 : decode cX3_init 51 = .ok (.iconst (-1), 1) := dk_2 (dk_at dksX3_init_2 4 rfl rfl)
theorem dX3_init_52 : decode cX3_init 52 = .ok (.iastore, 1) := dk_79 (dk_at dksX3_init_2 5 rfl rfl)
theorem dX3_init_53 : decode cX3_init 53 = .ok (.dup, 1) := dk_89 (dk_at dksX3_init_2 6 rfl rfl)
theorem dX3_init_54 : decode cX3_init 54 = .ok (.iconst 5, 1) := dk_8 (dk_at dksX3_init_2 7 rfl rfl)
theorem dX3_init_55 : decode cX3_init 55 = .ok (.iconst (-1), 1) := dk_2 (dk_at dksX3_init_2 8 rfl rfl)
theorem dX3_init_56 : decode cX3_init 56 = .ok (.iastore, 1) := dk_79 (dk_at dksX3_init_2 9 rfl rfl)
theorem dX3_init_57 : decode cX3_init 57 = .ok (.putfield 19, 3) := dk_181 0 19 (dk_at dksX3_init_2 10 rfl rfl)
theorem dX3_init_60 : decode cX3_init 60 = .ok (.aload_n 0, 1) := dk_42 (dk_at dksX3_init_2 13 rfl rfl)
theorem dX3_init_61 : decode cX3_init 61 = .ok (.bipush 6, 2) := dk_16 6 (dk_at dksX3_init_2 14 rfl rfl)
theorem dX3_init_63 : decode cX3_init 63 = .ok (.newarray .int, 2) := dk_188_10 (dk_at dksX3_init_2 16 rfl rfl)
theorem dX3_init_65 : decode cX3_init 65 = .ok (.dup, 1) := dk_89 (dk_at dksX3_init_2 18 rfl rfl)
theorem dX3_init_66 : decode cX3_init 66 = .ok (.iconst 0, 1) := dk_3 (dk_at dksX3_init_2 19 rfl rfl)
theorem dX3_init_67 : decode cX3_init 67 = .ok (.iconst (-1), 1) := dk_2 (dk_at dksX3_init_2 20 rfl rfl)
theorem dX3_init_68 : decode cX3_init 68 = .ok (.iastore, 1) := dk_79 (dk_at dksX3_init_2 21 rfl rfl)
theorem dX3_init_69 : decode cX3_init 69 = .ok (.dup, 1) := dk_89 (dk_at dksX3_init_2 22 rfl rfl)
theorem dX3_init_70 : decode cX3_init 70 = .ok (.iconst 1, 1) := dk_4 (dk_at dksX3_init_2 23 rfl rfl)
theorem dX3_init_71 : decode cX3_init 71 = .ok (.iconst (-1), 1) := dk_2 (dk_at dksX3_init_3 0 rfl rfl)
theorem dX3_init_72 : decode cX3_init 72 = .ok (.iastore, 1) := dk_79 (dk_at dksX3_init_3 1 rfl rfl)
theorem dX3_init_73 : decode cX3_init 73 = .ok (.dup, 1) := dk_89 (dk_at dksX3_init_3 2 rfl rfl)
theorem dX3_init_74 : decode cX3_init 74 = .ok (.iconst 2, 1) := dk_5 (dk_at dksX3_init_3 3 rfl rfl)
theorem dX3_init_75 : decode cX3_init 75 = .ok (.iconst (-1), 1) := dk_2 (dk_at dksX3_init_3 4 rfl rfl)
theorem dX3_init_76 : decode cX3_init 76 = .ok (.iastore, 1) := dk_79 (dk_at dksX3_init_3 5 rfl rfl)
theorem dX3_init_77 : decode cX3_init 77 = .ok (.dup, 1) := dk_89 (dk_at dksX3_init_3 6 rfl rfl)
theorem dX3_init_78 : decode cX3_init 78 = .ok (.iconst 3, 1) := dk_6 (dk_at dksX3_init_3 7 rfl rfl)
theorem dX3_init_79 : decode cX3_init 79 = .ok (.iconst (-1), 1) := dk_2 (dk_at dksX3_init_3 8 rfl rfl)
theorem dX3_init_80 : decode cX3_init 80 = .ok (.iastore, 1) := dk_79 (dk_at dksX3_init_3 9 rfl rfl)
theorem dX3_init_81 : decode cX3_init 81 = .ok (.dup, 1) := dk_89 (dk_at dksX3_init_3 10 rfl rfl)
theorem dX3_init_82 : decode cX3_init 82 = .ok (.iconst 4, 1) := dk_7 (dk_at dksX3_init_3 11 rfl rfl)
theorem dX3_init_83 : decode cX3_init 83 = .ok (.iconst (-1), 1) := dk_2 (dk_at dksX3_init_3 12 rfl rfl)
theorem dX3_init_84 : decode cX3_init 84 = .ok (.iastore, 1) := dk_79 (dk_at dksX3_init_3 13 rfl rfl)
theorem dX3_init_85 : decode cX3_init 85 = .ok (.dup, 1) := dk_89 (dk_at dksX3_init_3 14 rfl rfl)
theorem dX3_init_86 : decode cX3_init 86 = .ok (.iconst 5, 1) := dk_8 (dk_at dksX3_init_3 15 rfl rfl)
theorem dX3_init_87 : decode cX3_init 87 = .ok (.iconst (-1), 1) := dk_2 (dk_at dksX3_init_3 16 rfl rfl)
theorem dX3_init_88 : decode cX3_init 88 = .ok (.iastore, 1) := dk_79 (dk_at dksX3_init_3 17 rfl rfl)
theorem dX3_init_89 : decode cX3_init 89 = .ok (.putfield 22, 3) := dk_181 0 22 (dk_at dksX3_init_3 18 rfl rfl)
theorem dX3_init_92 : decode cX3_init 92 = .ok (.aload_n 0, 1) := dk_42 (dk_at dksX3_init_3 21 rfl rfl)
theorem dX3_init_93 : decode cX3_init 93 = .ok (.bipush 6, 2) := dk_16 6 (dk_at dksX3_init_3 22 rfl rfl)
theorem dX3_init_95 : decode cX3_init 95 = .ok (.newarray .int, 2) := dk_188_10 (dk_at dksX3_init_4 0 rfl rfl)
theorem dX3_init_97 : decode cX3_init 97 = .ok (.dup, 1) := dk_89 (dk_at dksX3_init_4 2 rfl rfl)
theorem dX3_init_98 : decode cX3_init 98 = .ok (.iconst 0, 1) := dk_3 (dk_at dksX3_init_4 3 rfl rfl)
theorem dX3_init_99 : decode cX3_init 99 = .ok (.iconst (-1), 1) := dk_2 (dk_at dksX3_init_4 4 rfl rfl)
theorem dX3_init_100 : decode cX3_init 100 = .ok (.iastore, 1) := dk_79 (dk_at dksX3_init_4 5 rfl rfl)
theorem dX3_init_101 : decode cX3_init 101 = .ok (.dup, 1) := dk_89 (dk_at dksX3_init_4 6 rfl rfl)
theorem dX3_init_102 : decode cX3_init 102 = .ok (.iconst 1, 1) := dk_4 (dk_at dksX3_init_4 7 rfl rfl)
theorem dX3_init_103 : decode cX3_init 103 = .ok (.iconst (-1), 1) := dk_2 (dk_at dksX3_init_4 8 rfl rfl)
theorem dX3_init_104 : decode cX3_init 104 = .ok (.iastore, 1) := dk_79 (dk_at dksX3_init_4 9 rfl rfl)
theorem dX3_init_105 : decode cX3_init 105 = .ok (.dup, 1) := dk_89 (dk_at dksX3_init_4 10 rfl rfl)
theorem dX3_init_106 : decode cX3_init 106 = .ok (.iconst 2, 1) := dk_5 (dk_at dksX3_init_4 11 rfl rfl)
theorem dX3_init_107 : decode cX3_init 107 = .ok (.iconst (-1), 1) := dk_2 (dk_at dksX3_init_4 12 rfl rfl)
theorem dX3_init_108 : decode cX3_init 108 = .ok (.iastore, 1) := dk_79 (dk_at dksX3_init_4 13 rfl rfl)
theorem dX3_init_109 : decode cX3_init 109 = .ok (.dup, 1) := dk_89 (dk_at dksX3_init_4 14 rfl rfl)
theorem dX3_init_110 : decode cX3_init 110 = .ok (.iconst 3, 1) := dk_6 (dk_at dksX3_init_4 15 rfl rfl)
theorem dX3_init_111 : decode cX3_init 111 = .ok (.iconst (-1), 1) := dk_2 (dk_at dksX3_init_4 16 rfl rfl)
theorem dX3_init_112 : decode cX3_init 112 = .ok (.iastore, 1) := dk_79 (dk_at dksX3_init_4 17 rfl rfl)
theorem dX3_init_113 : decode cX3_init 113 = .ok (.dup, 1) := dk_89 (dk_at dksX3_init_4 18 rfl rfl)
theorem dX3_init_114 : decode cX3_init 114 = .ok (.iconst 4, 1) := dk_7 (dk_at dksX3_init_4 19 rfl rfl)
theorem dX3_init_115 : decode cX3_init 115 = .ok (.iconst (-1), 1) := dk_2 (dk_at dksX3_init_4 20 rfl rfl)
theorem dX3_init_116 : decode cX3_init 116 = .ok (.iastore, 1) := dk_79 (dk_at dksX3_init_4 21 rfl rfl)
theorem dX3_init_117 : decode cX3_init 117 = .ok (.dup, 1) := dk_89 (dk_at dksX3_init_4 22 rfl rfl)
theorem dX3_init_118 : decode cX3_init 118 = .ok (.iconst 5, 1) := dk_8 (dk_at dksX3_init_4 23 rfl rfl)
theorem dX3_init_119 : decode cX3_init 119 = .ok (.iconst (-1), 1) := dk_2 (dk_at dksX3_init_5 0 rfl rfl)
theorem dX3_init_120 : decode cX3_init 120 = .ok (.iastore, 1) := dk_79 (dk_at dksX3_init_5 1 rfl rfl)
theorem dX3_init_121 : decode cX3_init 121 = .ok (.putfield 25, 3) := dk_181 0 25 (dk_at dksX3_init_5 2 rfl rfl)
theorem dX3_init_124 : decode cX3_init 124 = .ok (.aload_n 0, 1) := dk_42 (dk_at dksX3_init_5 5 rfl rfl)
theorem dX3_init_125 : decode cX3_init 125 = .ok (.bipush 16, 2) := dk_16 16 (dk_at dksX3_init_5 6 rfl rfl)
theorem dX3_init_127 : decode cX3_init 127 = .ok (.newarray .int, 2) := dk_188_10 (dk_at dksX3_init_5 8 rfl rfl)
theorem dX3_init_129 : decode cX3_init 129 = .ok (.putfield 28, 3) := dk_181 0 28 (dk_at dksX3_init_5 10 rfl rfl)
theorem dX3_init_132 : decode cX3_init 132 = .ok (.aload_n 0, 1) := dk_42 (dk_at dksX3_init_5 13 rfl rfl)
theorem dX3_init_133 : decode cX3_init 133 = .ok (.bipush 10, 2) := dk_16 10 (dk_at dksX3_init_5 14 rfl rfl)
theorem dX3_init_135 : decode cX3_init 135 = .ok (.putfield 31, 3) := dk_181 0 31 (dk_at dksX3_init_5 16 rfl rfl)
theorem dX3_init_138 : decode cX3_init 138 = .ok (.aload_n 0, 1) := dk_42 (dk_at dksX3_init_5 19 rfl rfl)
theorem dX3_init_139 : decode cX3_init 139 = .ok (.iconst 5, 1) := dk_8 (dk_at dksX3_init_5 20 rfl rfl)
theorem dX3_init_140 : decode cX3_init 140 = .ok (.putfield 35, 3) := dk_181 0 35 (dk_at dksX3_init_5 21 rfl rfl)
theorem dX3_init_143 : decode cX3_init 143 = .ok (.aload_n 0, 1) := dk_42 (dk_at dksX3_init_6 0 rfl rfl)
theorem dX3_init_144 : decode cX3_init 144 = .ok (.iconst 1, 1) := dk_4 (dk_at dksX3_init_6 1 rfl rfl)
theorem dX3_init_145 : decode cX3_init 145 = .ok (.putfield 38, 3) := dk_181 0 38 (dk_at dksX3_init_6 2 rfl rfl)
theorem dX3_init_148 : decode cX3_init 148 = .ok (.aload_n 0, 1) := dk_42 (dk_at dksX3_init_6 5 rfl rfl)
theorem dX3_init_149 : decode cX3_init 149 = .ok (.bipush 10, 2) := dk_16 10 (dk_at dksX3_init_6 6 rfl rfl)
theorem dX3_init_151 : decode cX3_init 151 = .ok (.newarray .int, 2) := dk_188_10 (dk_at dksX3_init_6 8 rfl rfl)
theorem dX3_init_153 : decode cX3_init 153 = .ok (.dup, 1) := dk_89 (dk_at dksX3_init_6 10 rfl rfl)
theorem dX3_init_154 : decode cX3_init 154 = .ok (.iconst 0, 1) := dk_3 (dk_at dksX3_init_6 11 rfl rfl)
theorem dX3_init_155 : decode cX3_init 155 = .ok (.iconst (-1), 1) := dk_2 (dk_at dksX3_init_6 12 rfl rfl)
theorem dX3_init_156 : decode cX3_init 156 = .ok (.iastore, 1) := dk_79 (dk_at dksX3_init_6 13 rfl rfl)
theorem dX3_init_157 : decode cX3_init 157 = .ok (.dup, 1) := dk_89 (dk_at dksX3_init_6 14 rfl rfl)
theorem dX3_init_158 : decode cX3_init 158 = .ok (.iconst 1, 1) := dk_4 (dk_at dksX3_init_6 15 rfl rfl)
theorem dX3_init_159 : decode cX3_init 159 = .ok (.iconst (-1), 1) := dk_2 (dk_at dksX3_init_6 16 rfl rfl)
theorem dX3_init_160 : decode cX3_init 160 = .ok (.iastore, 1) := dk_79 (dk_at dksX3_init_6 17 rfl rfl)
theorem dX3_init_161 : decode cX3_init 161 = .ok (.dup, 1) := dk_89 (dk_at dksX3_init_6 18 rfl rfl)
theorem dX3_init_162 : decode cX3_init 162 = .ok (.iconst 2, 1) := dk_5 (dk_at dksX3_init_6 19 rfl rfl)
theorem dX3_init_163 : decode cX3_init 163 = .ok (.iconst (-1), 1) := dk_2 (dk_at dksX3_init_6 20 rfl rfl)
theorem dX3_init_164 : decode cX3_init 164 = .ok (.iastore, 1) := dk_79 (dk_at dksX3_init_6 21 rfl rfl)
theorem dX3_init_165 : decode cX3_init 165 = .ok (.dup, 1) := dk_89 (dk_at dksX3_init_6 22 rfl rfl)
theorem dX3_init_166 : decode cX3_init 166 = .ok (.iconst 3, 1) := dk_6 (dk_at dksX3_init_6 23 rfl rfl)
theorem dX3_init_167 : decode cX3_init 167 = .ok (.iconst (-1), 1) := dk_2 (dk_at dksX3_init_7 0 rfl rfl)
theorem dX3_init_168 : decode cX3_init 168 = .ok (.iastore, 1) := dk_79 (dk_at dksX3_init_7 1 rfl rfl)
theorem dX3_init_169 : decode cX3_init 169 = .ok (.dup, 1) := dk_89 (dk_at dksX3_init_7 2 rfl rfl)
theorem dX3_init_170 : decode cX3_init 170 = .ok (.iconst 4, 1) := dk_7 (dk_at dksX3_init_7 3 rfl rfl)
theorem dX3_init_171 : decode cX3_init 171 = .ok (.iconst (-1), 1) := dk_2 (dk_at dksX3_init_7 4 rfl rfl)
theorem dX3_init_172 : decode cX3_init 172 = .ok (.iastore, 1) := dk_79 (dk_at dksX3_init_7 5 rfl rfl)
theorem dX3_init_173 : decode cX3_init 173 = .ok (.dup, 1) := dk_89 (dk_at dksX3_init_7 6 rfl rfl)
theorem dX3_init_174 : decode cX3_init 174 = .ok (.iconst 5, 1) := dk_8 (dk_at dksX3_init_7 7 rfl rfl)
theorem dX3_init_175 : decode cX3_init 175 = .ok (.iconst (-1), 1) := dk_2 (dk_at dksX3_init_7 8 rfl rfl)
theorem dX3_init_176 : decode cX3_init 176 = .ok (.iastore, 1) := dk_79 (dk_at dksX3_init_7 9 rfl rfl)
theorem dX3_init_177 : decode cX3_init 177 = .ok (.dup, 1) := dk_89 (dk_at dksX3_init_7 10 rfl rfl)
theorem dX3_init_178 : decode cX3_init 178 = .ok (.bipush 6, 2) := dk_16 6 (dk_at dksX3_init_7 11 rfl rfl)
theorem dX3_init_180 : decode cX3_init 180 = .ok (.iconst (-1), 1) := dk_2 (dk_at dksX3_init_7 13 rfl rfl)
theorem dX3_init_181 : decode cX3_init 181 = .ok (.iastore, 1) := dk_79 (dk_at dksX3_init_7 14 rfl rfl)
theorem dX3_init_182 : decode cX3_init 182 = .ok (.dup, 1) := dk_89 (dk_at dksX3_init_7 15 rfl rfl)
theorem dX3_init_183 : decode cX3_init 183 = .ok (.bipush 7, 2) := dk_16 7 (dk_at dksX3_init_7 16 rfl rfl)
theorem dX3_init_185 : decode cX3_init 185 = .ok (.iconst (-1), 1) := dk_2 (dk_at dksX3_init_7 18 rfl rfl)
theorem dX3_init_186 : decode cX3_init 186 = .ok (.iastore, 1) := dk_79 (dk_at dksX3_init_7 19 rfl rfl)
theorem dX3_init_187 : decode cX3_init 187 = .ok (.dup, 1) := dk_89 (dk_at dksX3_init_7 20 rfl rfl)
theorem dX3_init_188 : decode cX3_init 188 = .ok (.bipush 8, 2) := dk_16 8 (dk_at dksX3_init_7 21 rfl rfl)
theorem dX3_init_190 : decode cX3_init 190 = .ok (.iconst (-1), 1) := dk_2 (dk_at dksX3_init_7 23 rfl rfl)
theorem dX3_init_191 : decode cX3_init 191 = .ok (.iastore, 1) := dk_79 (dk_at dksX3_init_8 0 rfl rfl)
theorem dX3_init_192 : decode cX3_init 192 = .ok (.dup, 1) := dk_89 (dk_at dksX3_init_8 1 rfl rfl)
theorem dX3_init_193 : decode cX3_init 193 = .ok (.bipush 9, 2) := dk_16 9 (dk_at dksX3_init_8 2 rfl rfl)
theorem dX3_init_195 : decode cX3_init 195 = .ok (.iconst (-1), 1) := dk_2 (dk_at dksX3_init_8 4 rfl rfl)
theorem dX3_init_196 : decode cX3_init 196 = .ok (.iastore, 1) := dk_79 (dk_at dksX3_init_8 5 rfl rfl)
theorem dX3_init_197 : decode cX3_init 197 = .ok (.putfield 41, 3) := dk_181 0 41 (dk_at dksX3_init_8 6 rfl rfl)
theorem dX3_init_200 : decode cX3_init 200 = .ok (.aload_n 0, 1) := dk_42 (dk_at dksX3_init_8 9 rfl rfl)
theorem dX3_init_201 : decode cX3_init 201 = .ok (.bipush 8, 2) := dk_16 8 (dk_at dksX3_init_8 10 rfl rfl)
theorem dX3_init_203 : decode cX3_init 203 = .ok (.putfield 44, 3) := dk_181 0 44 (dk_at dksX3_init_8 12 rfl rfl)
theorem dX3_init_206 : decode cX3_init 206 = .ok (.aload_n 0, 1) := dk_42 (dk_at dksX3_init_8 15 rfl rfl)
theorem dX3_init_207 : decode cX3_init 207 = .ok (.iconst 1, 1) := dk_4 (dk_at dksX3_init_8 16 rfl rfl)
theorem dX3_init_208 : decode cX3_init 208 = .ok (.putfield 47, 3) := dk_181 0 47 (dk_at dksX3_init_8 17 rfl rfl)
theorem dX3_init_211 : decode cX3_init 211 = .ok (.aload_n 0, 1) := dk_42 (dk_at dksX3_init_8 20 rfl rfl)
theorem dX3_init_212 : decode cX3_init 212 = .ok (.bipush 120, 2) := dk_16 120 (dk_at dksX3_init_8 21 rfl rfl)
theorem dX3_init_214 : decode cX3_init 214 = .ok (.newarray .int, 2) := dk_188_10 (dk_at dksX3_init_9 0 rfl rfl)
theorem dX3_init_216 : decode cX3_init 216 = .ok (.putfield 50, 3) := dk_181 0 50 (dk_at dksX3_init_9 2 rfl rfl)
theorem dX3_init_219 : decode cX3_init 219 = .ok (.aload_n 0, 1) := dk_42 (dk_at dksX3_init_9 5 rfl rfl)
theorem dX3_init_220 : decode cX3_init 220 = .ok (.bipush 120, 2) := dk_16 120 (dk_at dksX3_init_9 6 rfl rfl)
theorem dX3_init_222 : decode cX3_init 222 = .ok (.newarray .int, 2) := dk_188_10 (dk_at dksX3_init_9 8 rfl rfl)
theorem dX3_init_224 : decode cX3_init 224 = .ok (.putfield 53, 3) := dk_181 0 53 (dk_at dksX3_init_9 10 rfl rfl)
theorem dX3_init_227 : decode cX3_init 227 = .ok (.aload_n 0, 1) := dk_42 (dk_at dksX3_init_9 13 rfl rfl)
theorem dX3_init_228 : decode cX3_init 228 = .ok (.bipush 120, 2) := dk_16 120 (dk_at dksX3_init_9 14 rfl rfl)
theorem dX3_init_230 : decode cX3_init 230 = .ok (.newarray .int, 2) := dk_188_10 (dk_at dksX3_init_9 16 rfl rfl)
theorem dX3_init_232 : decode cX3_init 232 = .ok (.putfield 56, 3) := dk_181 0 56 (dk_at dksX3_init_9 18 rfl rfl)
theorem dX3_init_235 : decode cX3_init 235 = .ok (.aload_n 0, 1) := dk_42 (dk_at dksX3_init_9 21 rfl rfl)
theorem dX3_init_236 : decode cX3_init 236 = .ok (.bipush 120, 2) := dk_16 120 (dk_at dksX3_init_9 22 rfl rfl)
theorem dX3_init_238 : decode cX3_init 238 = .ok (.newarray .int, 2) := dk_188_10 (dk_at dksX3_init_10 0 rfl rfl)
theorem dX3_init_240 : decode cX3_init 240 = .ok (.putfield 59, 3) := dk_181 0 59 (dk_at dksX3_init_10 2 rfl rfl)
theorem dX3_init_243 : decode cX3_init 243 = .ok (.aload_n 0, 1) := dk_42 (dk_at dksX3_init_10 5 rfl rfl)
theorem dX3_init_244 : decode cX3_init 244 = .ok (.bipush 120, 2) := dk_16 120 (dk_at dksX3_init_10 6 rfl rfl)
theorem dX3_init_246 : decode cX3_init 246 = .ok (.newarray .boolean, 2) := dk_188_4 (dk_at dksX3_init_10 8 rfl rfl)
theorem dX3_init_248 : decode cX3_init 248 = .ok (.putfield 62, 3) := dk_181 0 62 (dk_at dksX3_init_10 10 rfl rfl)
theorem dX3_init_251 : decode cX3_init 251 = .ok (.aload_n 0, 1) := dk_42 (dk_at dksX3_init_10 13 rfl rfl)
theorem dX3_init_252 : decode cX3_init 252 = .ok (.bipush 120, 2) := dk_16 120 (dk_at dksX3_init_10 14 rfl rfl)
theorem dX3_init_254 : decode cX3_init 254 = .ok (.newarray .boolean, 2) := dk_188_4 (dk_at dksX3_init_10 16 rfl rfl)
theorem dX3_init_256 : decode cX3_init 256 = .ok (.putfield 66, 3) := dk_181 0 66 (dk_at dksX3_init_10 18 rfl rfl)
theorem dX3_init_259 : decode cX3_init 259 = .ok (.aload_n 0, 1) := dk_42 (dk_at dksX3_init_10 21 rfl rfl)
theorem dX3_init_260 : decode cX3_init 260 = .ok (.bipush 120, 2) := dk_16 120 (dk_at dksX3_init_10 22 rfl rfl)
theorem dX3_init_262 : decode cX3_init 262 = .ok (.newarray .boolean, 2) := dk_188_4 (dk_at dksX3_init_11 0 rfl rfl)
theorem dX3_init_264 : decode cX3_init 264 = .ok (.putfield 69, 3) := dk_181 0 69 (dk_at dksX3_init_11 2 rfl rfl)
theorem dX3_init_267 : decode cX3_init 267 = .ok (.aload_n 0, 1) := dk_42 (dk_at dksX3_init_11 5 rfl rfl)
theorem dX3_init_268 : decode cX3_init 268 = .ok (.bipush 120, 2) := dk_16 120 (dk_at dksX3_init_11 6 rfl rfl)
theorem dX3_init_270 : decode cX3_init 270 = .ok (.newarray .int, 2) := dk_188_10 (dk_at dksX3_init_11 8 rfl rfl)
theorem dX3_init_272 : decode cX3_init 272 = .ok (.putfield 72, 3) := dk_181 0 72 (dk_at dksX3_init_11 10 rfl rfl)
theorem dX3_init_275 : decode cX3_init 275 = .ok (.aload_n 0, 1) := dk_42 (dk_at dksX3_init_11 13 rfl rfl)
theorem dX3_init_276 : decode cX3_init 276 = .ok (.bipush 121, 2) := dk_16 121 (dk_at dksX3_init_11 14 rfl rfl)
theorem dX3_init_278 : decode cX3_init 278 = .ok (.newarray .int, 2) := dk_188_10 (dk_at dksX3_init_11 16 rfl rfl)
theorem dX3_init_280 : decode cX3_init 280 = .ok (.putfield 75, 3) := dk_181 0 75 (dk_at dksX3_init_11 18 rfl rfl)
theorem dX3_init_283 : decode cX3_init 283 = .ok (.aload_n 0, 1) := dk_42 (dk_at dksX3_init_11 21 rfl rfl)
theorem dX3_init_284 : decode cX3_init 284 = .ok (.bipush 120, 2) := dk_16 120 (dk_at dksX3_init_11 22 rfl rfl)
theorem dX3_init_286 : decode cX3_init 286 = .ok (.newarray .int, 2) := dk_188_10 (dk_at dksX3_init_12 0 rfl rfl)
theorem dX3_init_288 : decode cX3_init 288 = .ok (.putfield 78, 3) := dk_181 0 78 (dk_at dksX3_init_12 2 rfl rfl)
theorem dX3_init_291 : decode cX3_init 291 = .ok (.aload_n 0, 1) := dk_42 (dk_at dksX3_init_12 5 rfl rfl)
theorem dX3_init_292 : decode cX3_init 292 = .ok (.bipush 120, 2) := dk_16 120 (dk_at dksX3_init_12 6 rfl rfl)
theorem dX3_init_294 : decode cX3_init 294 = .ok (.newarray .int, 2) := dk_188_10 (dk_at dksX3_init_12 8 rfl rfl)
theorem dX3_init_296 : decode cX3_init 296 = .ok (.putfield 81, 3) := dk_181 0 81 (dk_at dksX3_init_12 10 rfl rfl)
theorem dX3_init_299 : decode cX3_init 299 = .ok (.aload_n 0, 1) := dk_42 (dk_at dksX3_init_12 13 rfl rfl)
theorem dX3_init_300 : decode cX3_init 300 = .ok (.bipush 120, 2) := dk_16 120 (dk_at dksX3_init_12 14 rfl rfl)
theorem dX3_init_302 : decode cX3_init 302 = .ok (.newarray .int, 2) := dk_188_10 (dk_at dksX3_init_12 16 rfl rfl)
theorem dX3_init_304 : decode cX3_init 304 = .ok (.putfield 84, 3) := dk_181 0 84 (dk_at dksX3_init_12 18 rfl rfl)
theorem dX3_init_307 : decode cX3_init 307 = .ok (.aload_n 0, 1) := dk_42 (dk_at dksX3_init_12 21 rfl rfl)
theorem dX3_init_308 : decode cX3_init 308 = .ok (.sipush 400, 3) := dk_17 1 144 (dk_at dksX3_init_13 0 rfl rfl)
theorem dX3_init_311 : decode cX3_init 311 = .ok (.newarray .boolean, 2) := dk_188_4 (dk_at dksX3_init_13 3 rfl rfl)
theorem dX3_init_313 : decode cX3_init 313 = .ok (.putfield 87, 3) := dk_181 0 87 (dk_at dksX3_init_13 5 rfl rfl)
theorem dX3_init_316 : decode cX3_init 316 = .ok (.return_, 1) := dk_177 (dk_at dksX3_init_13 8 rfl rfl)
abbrev cX3_thrown : ByteArray := prog_7_method_2_code
def yX3_thrown : MethodName := ⟨RX3, "thrown", "()I"⟩
theorem dX3_thrown_0 : decode cX3_thrown 0 = .ok (.aload_n 0, 1) := by decide +kernel
theorem dX3_thrown_1 : decode cX3_thrown 1 = .ok (.getfield 90, 3) := by decide +kernel
theorem dX3_thrown_4 : decode cX3_thrown 4 = .ok (.ireturn, 1) := by decide +kernel
abbrev cX3_put : ByteArray := prog_7_method_26_code
def yX3_put : MethodName := ⟨RX3, "put", "(IIII)I"⟩
def dkwX3_put_7 : List UInt8 := [181, 0, 100, 42, 180, 0, 100, 172]
abbrev dktX3_put_7 : List UInt8 := dkwX3_put_7 ++ []
def dkwX3_put_6 : List UInt8 := [79, 42, 180, 0, 13, 27, 29, 79, 42, 180, 0, 16, 27, 21, 4, 79, 42, 89, 180, 0, 100, 4, 96]
abbrev dktX3_put_6 : List UInt8 := dkwX3_put_6 ++ dktX3_put_7
def dkwX3_put_5 : List UInt8 := [21, 5, 42, 180, 0, 16, 21, 5, 4, 100, 46, 79, 132, 5, 255, 167, 255, 199, 42, 180, 0, 7, 27, 28]
abbrev dktX3_put_5 : List UInt8 := dkwX3_put_5 ++ dktX3_put_6
def dkwX3_put_4 : List UInt8 := [4, 100, 46, 79, 42, 180, 0, 13, 21, 5, 42, 180, 0, 13, 21, 5, 4, 100, 46, 79, 42, 180, 0, 16]
abbrev dktX3_put_4 : List UInt8 := dkwX3_put_4 ++ dktX3_put_5
def dkwX3_put_3 : List UInt8 := [42, 180, 0, 100, 54, 5, 21, 5, 27, 164, 0, 57, 42, 180, 0, 7, 21, 5, 42, 180, 0, 7, 21, 5]
abbrev dktX3_put_3 : List UInt8 := dkwX3_put_3 ++ dktX3_put_4
def dkwX3_put_2 : List UInt8 := [182, 0, 194, 172, 42, 180, 0, 100, 16, 120, 160, 0, 9, 42, 6, 182, 0, 194, 172, 42, 3, 181, 0, 90]
abbrev dktX3_put_2 : List UInt8 := dkwX3_put_2 ++ dktX3_put_3
def dkwX3_put_1 : List UInt8 := [20, 0, 197, 184, 0, 184, 153, 0, 14, 42, 28, 29, 21, 4, 182, 0, 199, 154, 0, 9, 42, 5]
abbrev dktX3_put_1 : List UInt8 := dkwX3_put_1 ++ dktX3_put_2
def dkwX3_put_0 : List UInt8 := [27, 133, 9, 42, 180, 0, 100, 133, 184, 0, 184, 154, 0, 9, 42, 4, 182, 0, 194, 172, 28, 133, 9]
abbrev dktX3_put_0 : List UInt8 := dkwX3_put_0 ++ dktX3_put_1
theorem dksX3_put_0 : cX3_put.data.toList.drop 0 = dktX3_put_0 := by decide +kernel
theorem dksX3_put_1 : cX3_put.data.toList.drop 23 = dktX3_put_1 := dk_seg dksX3_put_0 23 rfl rfl
theorem dksX3_put_2 : cX3_put.data.toList.drop 45 = dktX3_put_2 := dk_seg dksX3_put_1 22 rfl rfl
theorem dksX3_put_3 : cX3_put.data.toList.drop 69 = dktX3_put_3 := dk_seg dksX3_put_2 24 rfl rfl
theorem dksX3_put_4 : cX3_put.data.toList.drop 93 = dktX3_put_4 := dk_seg dksX3_put_3 24 rfl rfl
theorem dksX3_put_5 : cX3_put.data.toList.drop 117 = dktX3_put_5 := dk_seg dksX3_put_4 24 rfl rfl
theorem dksX3_put_6 : cX3_put.data.toList.drop 141 = dktX3_put_6 := dk_seg dksX3_put_5 24 rfl rfl
theorem dksX3_put_7 : cX3_put.data.toList.drop 164 = dktX3_put_7 := dk_seg dksX3_put_6 23 rfl rfl
theorem dX3_put_0 : decode cX3_put 0 = .ok (.iload_n 1, 1) := dk_27 (dk_at dksX3_put_0 0 rfl rfl)
theorem dX3_put_1 : decode cX3_put 1 = .ok (.i2l, 1) := dk_133 (dk_at dksX3_put_0 1 rfl rfl)
theorem dX3_put_2 : decode cX3_put 2 = .ok (.lconst 0, 1) := dk_9 (dk_at dksX3_put_0 2 rfl rfl)
theorem dX3_put_3 : decode cX3_put 3 = .ok (.aload_n 0, 1) := dk_42 (dk_at dksX3_put_0 3 rfl rfl)
theorem dX3_put_4 : decode cX3_put 4 = .ok (.getfield 100, 3) := dk_180 0 100 (dk_at dksX3_put_0 4 rfl rfl)
theorem dX3_put_7 : decode cX3_put 7 = .ok (.i2l, 1) := dk_133 (dk_at dksX3_put_0 7 rfl rfl)
theorem dX3_put_8 : decode cX3_put 8 = .ok (.invokestatic 184, 3) := dk_184 0 184 (dk_at dksX3_put_0 8 rfl rfl)
theorem dX3_put_11 : decode cX3_put 11 = .ok (.ifCond .ne 9, 3) := dk_154 0 9 (dk_at dksX3_put_0 11 rfl rfl)
theorem dX3_put_14 : decode cX3_put 14 = .ok (.aload_n 0, 1) := dk_42 (dk_at dksX3_put_0 14 rfl rfl)
theorem dX3_put_15 : decode cX3_put 15 = .ok (.iconst 1, 1) := dk_4 (dk_at dksX3_put_0 15 rfl rfl)
theorem dX3_put_16 : decode cX3_put 16 = .ok (.invokevirtual 194, 3) := dk_182 0 194 (dk_at dksX3_put_0 16 rfl rfl)
theorem dX3_put_19 : decode cX3_put 19 = .ok (.ireturn, 1) := dk_172 (dk_at dksX3_put_0 19 rfl rfl)
theorem dX3_put_20 : decode cX3_put 20 = .ok (.iload_n 2, 1) := dk_28 (dk_at dksX3_put_0 20 rfl rfl)
theorem dX3_put_21 : decode cX3_put 21 = .ok (.i2l, 1) := dk_133 (dk_at dksX3_put_0 21 rfl rfl)
theorem dX3_put_22 : decode cX3_put 22 = .ok (.lconst 0, 1) := dk_9 (dk_at dksX3_put_0 22 rfl rfl)
theorem dX3_put_23 : decode cX3_put 23 = .ok (.ldc2_w 197, 3) := dk_20 0 197 (dk_at dksX3_put_1 0 rfl rfl)
theorem dX3_put_26 : decode cX3_put 26 = .ok (.invokestatic 184, 3) := dk_184 0 184 (dk_at dksX3_put_1 3 rfl rfl)
theorem dX3_put_29 : decode cX3_put 29 = .ok (.ifCond .eq 14, 3) := dk_153 0 14 (dk_at dksX3_put_1 6 rfl rfl)
theorem dX3_put_32 : decode cX3_put 32 = .ok (.aload_n 0, 1) := dk_42 (dk_at dksX3_put_1 9 rfl rfl)
theorem dX3_put_33 : decode cX3_put 33 = .ok (.iload_n 2, 1) := dk_28 (dk_at dksX3_put_1 10 rfl rfl)
theorem dX3_put_34 : decode cX3_put 34 = .ok (.iload_n 3, 1) := dk_29 (dk_at dksX3_put_1 11 rfl rfl)
theorem dX3_put_35 : decode cX3_put 35 = .ok (.iload 4, 2) := dk_21 4 (dk_at dksX3_put_1 12 rfl rfl)
theorem dX3_put_37 : decode cX3_put 37 = .ok (.invokevirtual 199, 3) := dk_182 0 199 (dk_at dksX3_put_1 14 rfl rfl)
theorem dX3_put_40 : decode cX3_put 40 = .ok (.ifCond .ne 9, 3) := dk_154 0 9 (dk_at dksX3_put_1 17 rfl rfl)
theorem dX3_put_43 : decode cX3_put 43 = .ok (.aload_n 0, 1) := dk_42 (dk_at dksX3_put_1 20 rfl rfl)
theorem dX3_put_44 : decode cX3_put 44 = .ok (.iconst 2, 1) := dk_5 (dk_at dksX3_put_1 21 rfl rfl)
theorem dX3_put_45 : decode cX3_put 45 = .ok (.invokevirtual 194, 3) := dk_182 0 194 (dk_at dksX3_put_2 0 rfl rfl)
theorem dX3_put_48 : decode cX3_put 48 = .ok (.ireturn, 1) := dk_172 (dk_at dksX3_put_2 3 rfl rfl)
theorem dX3_put_49 : decode cX3_put 49 = .ok (.aload_n 0, 1) := dk_42 (dk_at dksX3_put_2 4 rfl rfl)
theorem dX3_put_50 : decode cX3_put 50 = .ok (.getfield 100, 3) := dk_180 0 100 (dk_at dksX3_put_2 5 rfl rfl)
theorem dX3_put_53 : decode cX3_put 53 = .ok (.bipush 120, 2) := dk_16 120 (dk_at dksX3_put_2 8 rfl rfl)
theorem dX3_put_55 : decode cX3_put 55 = .ok (.if_icmp .ne 9, 3) := dk_160 0 9 (dk_at dksX3_put_2 10 rfl rfl)
theorem dX3_put_58 : decode cX3_put 58 = .ok (.aload_n 0, 1) := dk_42 (dk_at dksX3_put_2 13 rfl rfl)
theorem dX3_put_59 : decode cX3_put 59 = .ok (.iconst 3, 1) := dk_6 (dk_at dksX3_put_2 14 rfl rfl)
theorem dX3_put_60 : decode cX3_put 60 = .ok (.invokevirtual 194, 3) := dk_182 0 194 (dk_at dksX3_put_2 15 rfl rfl)
theorem dX3_put_63 : decode cX3_put 63 = .ok (.ireturn, 1) := dk_172 (dk_at dksX3_put_2 18 rfl rfl)
theorem dX3_put_64 : decode cX3_put 64 = .ok (.aload_n 0, 1) := dk_42 (dk_at dksX3_put_2 19 rfl rfl)
theorem dX3_put_65 : decode cX3_put 65 = .ok (.iconst 0, 1) := dk_3 (dk_at dksX3_put_2 20 rfl rfl)
theorem dX3_put_66 : decode cX3_put 66 = .ok (.putfield 90, 3) := dk_181 0 90 (dk_at dksX3_put_2 21 rfl rfl)
theorem dX3_put_69 : decode cX3_put 69 = .ok (.aload_n 0, 1) := dk_42 (dk_at dksX3_put_3 0 rfl rfl)
theorem dX3_put_70 : decode cX3_put 70 = .ok (.getfield 100, 3) := dk_180 0 100 (dk_at dksX3_put_3 1 rfl rfl)
theorem dX3_put_73 : decode cX3_put 73 = .ok (.istore 5, 2) := dk_54 5 (dk_at dksX3_put_3 4 rfl rfl)
theorem dX3_put_75 : decode cX3_put 75 = .ok (.iload 5, 2) := dk_21 5 (dk_at dksX3_put_3 6 rfl rfl)
theorem dX3_put_77 : decode cX3_put 77 = .ok (.iload_n 1, 1) := dk_27 (dk_at dksX3_put_3 8 rfl rfl)
theorem dX3_put_78 : decode cX3_put 78 = .ok (.if_icmp .le 57, 3) := dk_164 0 57 (dk_at dksX3_put_3 9 rfl rfl)
theorem dX3_put_81 : decode cX3_put 81 = .ok (.aload_n 0, 1) := dk_42 (dk_at dksX3_put_3 12 rfl rfl)
theorem dX3_put_82 : decode cX3_put 82 = .ok (.getfield 7, 3) := dk_180 0 7 (dk_at dksX3_put_3 13 rfl rfl)
theorem dX3_put_85 : decode cX3_put 85 = .ok (.iload 5, 2) := dk_21 5 (dk_at dksX3_put_3 16 rfl rfl)
theorem dX3_put_87 : decode cX3_put 87 = .ok (.aload_n 0, 1) := dk_42 (dk_at dksX3_put_3 18 rfl rfl)
theorem dX3_put_88 : decode cX3_put 88 = .ok (.getfield 7, 3) := dk_180 0 7 (dk_at dksX3_put_3 19 rfl rfl)
theorem dX3_put_91 : decode cX3_put 91 = .ok (.iload 5, 2) := dk_21 5 (dk_at dksX3_put_3 22 rfl rfl)
theorem dX3_put_93 : decode cX3_put 93 = .ok (.iconst 1, 1) := dk_4 (dk_at dksX3_put_4 0 rfl rfl)
theorem dX3_put_94 : decode cX3_put 94 = .ok (.isub, 1) := dk_100 (dk_at dksX3_put_4 1 rfl rfl)
theorem dX3_put_95 : decode cX3_put 95 = .ok (.iaload, 1) := dk_46 (dk_at dksX3_put_4 2 rfl rfl)
theorem dX3_put_96 : decode cX3_put 96 = .ok (.iastore, 1) := dk_79 (dk_at dksX3_put_4 3 rfl rfl)
theorem dX3_put_97 : decode cX3_put 97 = .ok (.aload_n 0, 1) := dk_42 (dk_at dksX3_put_4 4 rfl rfl)
theorem dX3_put_98 : decode cX3_put 98 = .ok (.getfield 13, 3) := dk_180 0 13 (dk_at dksX3_put_4 5 rfl rfl)
theorem dX3_put_101 : decode cX3_put 101 = .ok (.iload 5, 2) := dk_21 5 (dk_at dksX3_put_4 8 rfl rfl)
theorem dX3_put_103 : decode cX3_put 103 = .ok (.aload_n 0, 1) := dk_42 (dk_at dksX3_put_4 10 rfl rfl)
theorem dX3_put_104 : decode cX3_put 104 = .ok (.getfield 13, 3) := dk_180 0 13 (dk_at dksX3_put_4 11 rfl rfl)
theorem dX3_put_107 : decode cX3_put 107 = .ok (.iload 5, 2) := dk_21 5 (dk_at dksX3_put_4 14 rfl rfl)
theorem dX3_put_109 : decode cX3_put 109 = .ok (.iconst 1, 1) := dk_4 (dk_at dksX3_put_4 16 rfl rfl)
theorem dX3_put_110 : decode cX3_put 110 = .ok (.isub, 1) := dk_100 (dk_at dksX3_put_4 17 rfl rfl)
theorem dX3_put_111 : decode cX3_put 111 = .ok (.iaload, 1) := dk_46 (dk_at dksX3_put_4 18 rfl rfl)
theorem dX3_put_112 : decode cX3_put 112 = .ok (.iastore, 1) := dk_79 (dk_at dksX3_put_4 19 rfl rfl)
theorem dX3_put_113 : decode cX3_put 113 = .ok (.aload_n 0, 1) := dk_42 (dk_at dksX3_put_4 20 rfl rfl)
theorem dX3_put_114 : decode cX3_put 114 = .ok (.getfield 16, 3) := dk_180 0 16 (dk_at dksX3_put_4 21 rfl rfl)
theorem dX3_put_117 : decode cX3_put 117 = .ok (.iload 5, 2) := dk_21 5 (dk_at dksX3_put_5 0 rfl rfl)
theorem dX3_put_119 : decode cX3_put 119 = .ok (.aload_n 0, 1) := dk_42 (dk_at dksX3_put_5 2 rfl rfl)
theorem dX3_put_120 : decode cX3_put 120 = .ok (.getfield 16, 3) := dk_180 0 16 (dk_at dksX3_put_5 3 rfl rfl)
theorem dX3_put_123 : decode cX3_put 123 = .ok (.iload 5, 2) := dk_21 5 (dk_at dksX3_put_5 6 rfl rfl)
theorem dX3_put_125 : decode cX3_put 125 = .ok (.iconst 1, 1) := dk_4 (dk_at dksX3_put_5 8 rfl rfl)
theorem dX3_put_126 : decode cX3_put 126 = .ok (.isub, 1) := dk_100 (dk_at dksX3_put_5 9 rfl rfl)
theorem dX3_put_127 : decode cX3_put 127 = .ok (.iaload, 1) := dk_46 (dk_at dksX3_put_5 10 rfl rfl)
theorem dX3_put_128 : decode cX3_put 128 = .ok (.iastore, 1) := dk_79 (dk_at dksX3_put_5 11 rfl rfl)
theorem dX3_put_129 : decode cX3_put 129 = .ok (.iinc 5 (-1), 3) := dk_132 5 255 (dk_at dksX3_put_5 12 rfl rfl)
theorem dX3_put_132 : decode cX3_put 132 = .ok (.goto (-57), 3) := dk_167 255 199 (dk_at dksX3_put_5 15 rfl rfl)
theorem dX3_put_135 : decode cX3_put 135 = .ok (.aload_n 0, 1) := dk_42 (dk_at dksX3_put_5 18 rfl rfl)
theorem dX3_put_136 : decode cX3_put 136 = .ok (.getfield 7, 3) := dk_180 0 7 (dk_at dksX3_put_5 19 rfl rfl)
theorem dX3_put_139 : decode cX3_put 139 = .ok (.iload_n 1, 1) := dk_27 (dk_at dksX3_put_5 22 rfl rfl)
theorem dX3_put_140 : decode cX3_put 140 = .ok (.iload_n 2, 1) := dk_28 (dk_at dksX3_put_5 23 rfl rfl)
theorem dX3_put_141 : decode cX3_put 141 = .ok (.iastore, 1) := dk_79 (dk_at dksX3_put_6 0 rfl rfl)
theorem dX3_put_142 : decode cX3_put 142 = .ok (.aload_n 0, 1) := dk_42 (dk_at dksX3_put_6 1 rfl rfl)
theorem dX3_put_143 : decode cX3_put 143 = .ok (.getfield 13, 3) := dk_180 0 13 (dk_at dksX3_put_6 2 rfl rfl)
theorem dX3_put_146 : decode cX3_put 146 = .ok (.iload_n 1, 1) := dk_27 (dk_at dksX3_put_6 5 rfl rfl)
theorem dX3_put_147 : decode cX3_put 147 = .ok (.iload_n 3, 1) := dk_29 (dk_at dksX3_put_6 6 rfl rfl)
theorem dX3_put_148 : decode cX3_put 148 = .ok (.iastore, 1) := dk_79 (dk_at dksX3_put_6 7 rfl rfl)
theorem dX3_put_149 : decode cX3_put 149 = .ok (.aload_n 0, 1) := dk_42 (dk_at dksX3_put_6 8 rfl rfl)
theorem dX3_put_150 : decode cX3_put 150 = .ok (.getfield 16, 3) := dk_180 0 16 (dk_at dksX3_put_6 9 rfl rfl)
theorem dX3_put_153 : decode cX3_put 153 = .ok (.iload_n 1, 1) := dk_27 (dk_at dksX3_put_6 12 rfl rfl)
theorem dX3_put_154 : decode cX3_put 154 = .ok (.iload 4, 2) := dk_21 4 (dk_at dksX3_put_6 13 rfl rfl)
theorem dX3_put_156 : decode cX3_put 156 = .ok (.iastore, 1) := dk_79 (dk_at dksX3_put_6 15 rfl rfl)
theorem dX3_put_157 : decode cX3_put 157 = .ok (.aload_n 0, 1) := dk_42 (dk_at dksX3_put_6 16 rfl rfl)
theorem dX3_put_158 : decode cX3_put 158 = .ok (.dup, 1) := dk_89 (dk_at dksX3_put_6 17 rfl rfl)
theorem dX3_put_159 : decode cX3_put 159 = .ok (.getfield 100, 3) := dk_180 0 100 (dk_at dksX3_put_6 18 rfl rfl)
theorem dX3_put_162 : decode cX3_put 162 = .ok (.iconst 1, 1) := dk_4 (dk_at dksX3_put_6 21 rfl rfl)
theorem dX3_put_163 : decode cX3_put 163 = .ok (.iadd, 1) := dk_96 (dk_at dksX3_put_6 22 rfl rfl)
theorem dX3_put_164 : decode cX3_put 164 = .ok (.putfield 100, 3) := dk_181 0 100 (dk_at dksX3_put_7 0 rfl rfl)
theorem dX3_put_167 : decode cX3_put 167 = .ok (.aload_n 0, 1) := dk_42 (dk_at dksX3_put_7 3 rfl rfl)
theorem dX3_put_168 : decode cX3_put 168 = .ok (.getfield 100, 3) := dk_180 0 100 (dk_at dksX3_put_7 4 rfl rfl)
theorem dX3_put_171 : decode cX3_put 171 = .ok (.ireturn, 1) := dk_172 (dk_at dksX3_put_7 7 rfl rfl)
abbrev cX3_in : ByteArray := prog_7_method_4_code
def yX3_in : MethodName := ⟨RX3, "in", "(JJJ)Z"⟩
def dkwX3_in_0 : List UInt8 := [30, 32, 148, 155, 0, 14, 30, 22, 4, 148, 157, 0, 7, 4, 167, 0, 4, 3, 172]
abbrev dktX3_in_0 : List UInt8 := dkwX3_in_0 ++ []
theorem dksX3_in_0 : cX3_in.data.toList.drop 0 = dktX3_in_0 := by decide +kernel
theorem dX3_in_0 : decode cX3_in 0 = .ok (.lload_n 0, 1) := dk_30 (dk_at dksX3_in_0 0 rfl rfl)
theorem dX3_in_1 : decode cX3_in 1 = .ok (.lload_n 2, 1) := dk_32 (dk_at dksX3_in_0 1 rfl rfl)
theorem dX3_in_2 : decode cX3_in 2 = .ok (.lcmp, 1) := dk_148 (dk_at dksX3_in_0 2 rfl rfl)
theorem dX3_in_3 : decode cX3_in 3 = .ok (.ifCond .lt 14, 3) := dk_155 0 14 (dk_at dksX3_in_0 3 rfl rfl)
theorem dX3_in_6 : decode cX3_in 6 = .ok (.lload_n 0, 1) := dk_30 (dk_at dksX3_in_0 6 rfl rfl)
theorem dX3_in_7 : decode cX3_in 7 = .ok (.lload 4, 2) := dk_22 4 (dk_at dksX3_in_0 7 rfl rfl)
theorem dX3_in_9 : decode cX3_in 9 = .ok (.lcmp, 1) := dk_148 (dk_at dksX3_in_0 9 rfl rfl)
theorem dX3_in_10 : decode cX3_in 10 = .ok (.ifCond .gt 7, 3) := dk_157 0 7 (dk_at dksX3_in_0 10 rfl rfl)
theorem dX3_in_13 : decode cX3_in 13 = .ok (.iconst 1, 1) := dk_4 (dk_at dksX3_in_0 13 rfl rfl)
theorem dX3_in_14 : decode cX3_in 14 = .ok (.goto 4, 3) := dk_167 0 4 (dk_at dksX3_in_0 14 rfl rfl)
theorem dX3_in_17 : decode cX3_in 17 = .ok (.iconst 0, 1) := dk_3 (dk_at dksX3_in_0 17 rfl rfl)
theorem dX3_in_18 : decode cX3_in 18 = .ok (.ireturn, 1) := dk_172 (dk_at dksX3_in_0 18 rfl rfl)
abbrev cX3_fails : ByteArray := prog_7_method_3_code
def yX3_fails : MethodName := ⟨RX3, "fails", "(I)I"⟩
def dkwX3_fails_0 : List UInt8 := [42, 27, 181, 0, 90, 3, 172]
abbrev dktX3_fails_0 : List UInt8 := dkwX3_fails_0 ++ []
theorem dksX3_fails_0 : cX3_fails.data.toList.drop 0 = dktX3_fails_0 := by decide +kernel
theorem dX3_fails_0 : decode cX3_fails 0 = .ok (.aload_n 0, 1) := dk_42 (dk_at dksX3_fails_0 0 rfl rfl)
theorem dX3_fails_1 : decode cX3_fails 1 = .ok (.iload_n 1, 1) := dk_27 (dk_at dksX3_fails_0 1 rfl rfl)
theorem dX3_fails_2 : decode cX3_fails 2 = .ok (.putfield 90, 3) := dk_181 0 90 (dk_at dksX3_fails_0 2 rfl rfl)
theorem dX3_fails_5 : decode cX3_fails 5 = .ok (.iconst 0, 1) := dk_3 (dk_at dksX3_fails_0 5 rfl rfl)
theorem dX3_fails_6 : decode cX3_fails 6 = .ok (.ireturn, 1) := dk_172 (dk_at dksX3_fails_0 6 rfl rfl)
abbrev cX3_isFine : ByteArray := prog_7_method_25_code
def yX3_isFine : MethodName := ⟨RX3, "isFine", "(III)Z"⟩
def dkwX3_isFine_5 : List UInt8 := [184, 0, 184, 172]
abbrev dktX3_isFine_5 : List UInt8 := dkwX3_isFine_5 ++ []
def dkwX3_isFine_4 : List UInt8 := [4, 167, 0, 4, 3, 172, 28, 133, 10, 20, 0, 192, 184, 0, 184, 172, 28, 133, 9, 20, 0, 188]
abbrev dktX3_isFine_4 : List UInt8 := dkwX3_isFine_4 ++ dktX3_isFine_5
def dkwX3_isFine_3 : List UInt8 := [28, 133, 10, 20, 0, 188, 184, 0, 184, 172, 28, 133, 9, 20, 0, 190, 184, 0, 184, 172, 28, 154, 0, 7]
abbrev dktX3_isFine_3 : List UInt8 := dkwX3_isFine_3 ++ dktX3_isFine_4
def dkwX3_isFine_2 : List UInt8 := [170, 0, 0, 0, 0, 0, 79, 0, 0, 0, 0, 0, 0, 0, 5, 0, 0, 0, 39, 0, 0, 0, 49, 0, 0, 0, 59, 0, 0, 0, 39, 0, 0, 0, 39, 0, 0, 0, 69]
abbrev dktX3_isFine_2 : List UInt8 := dkwX3_isFine_2 ++ dktX3_isFine_3
def dkwX3_isFine_1 : List UInt8 := [21, 4, 153, 0, 9, 20, 0, 182, 167, 0, 4, 9, 184, 0, 184, 154, 0, 5, 3, 172, 27]
abbrev dktX3_isFine_1 : List UInt8 := dkwX3_isFine_1 ++ dktX3_isFine_2
def dkwX3_isFine_0 : List UInt8 := [27, 153, 0, 13, 27, 4, 159, 0, 8, 27, 6, 160, 0, 7, 4, 167, 0, 4, 3, 54, 4, 29, 133, 9]
abbrev dktX3_isFine_0 : List UInt8 := dkwX3_isFine_0 ++ dktX3_isFine_1
theorem dksX3_isFine_0 : cX3_isFine.data.toList.drop 0 = dktX3_isFine_0 := by decide +kernel
theorem dksX3_isFine_1 : cX3_isFine.data.toList.drop 24 = dktX3_isFine_1 := dk_seg dksX3_isFine_0 24 rfl rfl
theorem dksX3_isFine_2 : cX3_isFine.data.toList.drop 45 = dktX3_isFine_2 := dk_seg dksX3_isFine_1 21 rfl rfl
theorem dksX3_isFine_3 : cX3_isFine.data.toList.drop 84 = dktX3_isFine_3 := dk_seg dksX3_isFine_2 39 rfl rfl
theorem dksX3_isFine_4 : cX3_isFine.data.toList.drop 108 = dktX3_isFine_4 := dk_seg dksX3_isFine_3 24 rfl rfl
theorem dksX3_isFine_5 : cX3_isFine.data.toList.drop 130 = dktX3_isFine_5 := dk_seg dksX3_isFine_4 22 rfl rfl
theorem dX3_isFine_0 : decode cX3_isFine 0 = .ok (.iload_n 1, 1) := dk_27 (dk_at dksX3_isFine_0 0 rfl rfl)
theorem dX3_isFine_1 : decode cX3_isFine 1 = .ok (.ifCond .eq 13, 3) := dk_153 0 13 (dk_at dksX3_isFine_0 1 rfl rfl)
theorem dX3_isFine_4 : decode cX3_isFine 4 = .ok (.iload_n 1, 1) := dk_27 (dk_at dksX3_isFine_0 4 rfl rfl)
theorem dX3_isFine_5 : decode cX3_isFine 5 = .ok (.iconst 1, 1) := dk_4 (dk_at dksX3_isFine_0 5 rfl rfl)
theorem dX3_isFine_6 : decode cX3_isFine 6 = .ok (.if_icmp .eq 8, 3) := dk_159 0 8 (dk_at dksX3_isFine_0 6 rfl rfl)
theorem dX3_isFine_9 : decode cX3_isFine 9 = .ok (.iload_n 1, 1) := dk_27 (dk_at dksX3_isFine_0 9 rfl rfl)
theorem dX3_isFine_10 : decode cX3_isFine 10 = .ok (.iconst 3, 1) := dk_6 (dk_at dksX3_isFine_0 10 rfl rfl)
theorem dX3_isFine_11 : decode cX3_isFine 11 = .ok (.if_icmp .ne 7, 3) := dk_160 0 7 (dk_at dksX3_isFine_0 11 rfl rfl)
theorem dX3_isFine_14 : decode cX3_isFine 14 = .ok (.iconst 1, 1) := dk_4 (dk_at dksX3_isFine_0 14 rfl rfl)
theorem dX3_isFine_15 : decode cX3_isFine 15 = .ok (.goto 4, 3) := dk_167 0 4 (dk_at dksX3_isFine_0 15 rfl rfl)
theorem dX3_isFine_18 : decode cX3_isFine 18 = .ok (.iconst 0, 1) := dk_3 (dk_at dksX3_isFine_0 18 rfl rfl)
theorem dX3_isFine_19 : decode cX3_isFine 19 = .ok (.istore 4, 2) := dk_54 4 (dk_at dksX3_isFine_0 19 rfl rfl)
theorem dX3_isFine_21 : decode cX3_isFine 21 = .ok (.iload_n 3, 1) := dk_29 (dk_at dksX3_isFine_0 21 rfl rfl)
theorem dX3_isFine_22 : decode cX3_isFine 22 = .ok (.i2l, 1) := dk_133 (dk_at dksX3_isFine_0 22 rfl rfl)
theorem dX3_isFine_23 : decode cX3_isFine 23 = .ok (.lconst 0, 1) := dk_9 (dk_at dksX3_isFine_0 23 rfl rfl)
theorem dX3_isFine_24 : decode cX3_isFine 24 = .ok (.iload 4, 2) := dk_21 4 (dk_at dksX3_isFine_1 0 rfl rfl)
theorem dX3_isFine_26 : decode cX3_isFine 26 = .ok (.ifCond .eq 9, 3) := dk_153 0 9 (dk_at dksX3_isFine_1 2 rfl rfl)
theorem dX3_isFine_29 : decode cX3_isFine 29 = .ok (.ldc2_w 182, 3) := dk_20 0 182 (dk_at dksX3_isFine_1 5 rfl rfl)
theorem dX3_isFine_32 : decode cX3_isFine 32 = .ok (.goto 4, 3) := dk_167 0 4 (dk_at dksX3_isFine_1 8 rfl rfl)
theorem dX3_isFine_35 : decode cX3_isFine 35 = .ok (.lconst 0, 1) := dk_9 (dk_at dksX3_isFine_1 11 rfl rfl)
theorem dX3_isFine_36 : decode cX3_isFine 36 = .ok (.invokestatic 184, 3) := dk_184 0 184 (dk_at dksX3_isFine_1 12 rfl rfl)
theorem dX3_isFine_39 : decode cX3_isFine 39 = .ok (.ifCond .ne 5, 3) := dk_154 0 5 (dk_at dksX3_isFine_1 15 rfl rfl)
theorem dX3_isFine_42 : decode cX3_isFine 42 = .ok (.iconst 0, 1) := dk_3 (dk_at dksX3_isFine_1 18 rfl rfl)
theorem dX3_isFine_43 : decode cX3_isFine 43 = .ok (.ireturn, 1) := dk_172 (dk_at dksX3_isFine_1 19 rfl rfl)
theorem dX3_isFine_44 : decode cX3_isFine 44 = .ok (.iload_n 1, 1) := dk_27 (dk_at dksX3_isFine_1 20 rfl rfl)
theorem dX3_isFine_45 : decode cX3_isFine 45 = .ok (.tableswitch 79 0 5 #[39, 49, 59, 39, 39, 69], 39) := by decide +kernel
theorem dX3_isFine_84 : decode cX3_isFine 84 = .ok (.iload_n 2, 1) := dk_28 (dk_at dksX3_isFine_3 0 rfl rfl)
theorem dX3_isFine_85 : decode cX3_isFine 85 = .ok (.i2l, 1) := dk_133 (dk_at dksX3_isFine_3 1 rfl rfl)
theorem dX3_isFine_86 : decode cX3_isFine 86 = .ok (.lconst 1, 1) := dk_10 (dk_at dksX3_isFine_3 2 rfl rfl)
theorem dX3_isFine_87 : decode cX3_isFine 87 = .ok (.ldc2_w 188, 3) := dk_20 0 188 (dk_at dksX3_isFine_3 3 rfl rfl)
theorem dX3_isFine_90 : decode cX3_isFine 90 = .ok (.invokestatic 184, 3) := dk_184 0 184 (dk_at dksX3_isFine_3 6 rfl rfl)
theorem dX3_isFine_93 : decode cX3_isFine 93 = .ok (.ireturn, 1) := dk_172 (dk_at dksX3_isFine_3 9 rfl rfl)
theorem dX3_isFine_94 : decode cX3_isFine 94 = .ok (.iload_n 2, 1) := dk_28 (dk_at dksX3_isFine_3 10 rfl rfl)
theorem dX3_isFine_95 : decode cX3_isFine 95 = .ok (.i2l, 1) := dk_133 (dk_at dksX3_isFine_3 11 rfl rfl)
theorem dX3_isFine_96 : decode cX3_isFine 96 = .ok (.lconst 0, 1) := dk_9 (dk_at dksX3_isFine_3 12 rfl rfl)
theorem dX3_isFine_97 : decode cX3_isFine 97 = .ok (.ldc2_w 190, 3) := dk_20 0 190 (dk_at dksX3_isFine_3 13 rfl rfl)
theorem dX3_isFine_100 : decode cX3_isFine 100 = .ok (.invokestatic 184, 3) := dk_184 0 184 (dk_at dksX3_isFine_3 16 rfl rfl)
theorem dX3_isFine_103 : decode cX3_isFine 103 = .ok (.ireturn, 1) := dk_172 (dk_at dksX3_isFine_3 19 rfl rfl)
theorem dX3_isFine_104 : decode cX3_isFine 104 = .ok (.iload_n 2, 1) := dk_28 (dk_at dksX3_isFine_3 20 rfl rfl)
theorem dX3_isFine_105 : decode cX3_isFine 105 = .ok (.ifCond .ne 7, 3) := dk_154 0 7 (dk_at dksX3_isFine_3 21 rfl rfl)
theorem dX3_isFine_108 : decode cX3_isFine 108 = .ok (.iconst 1, 1) := dk_4 (dk_at dksX3_isFine_4 0 rfl rfl)
theorem dX3_isFine_109 : decode cX3_isFine 109 = .ok (.goto 4, 3) := dk_167 0 4 (dk_at dksX3_isFine_4 1 rfl rfl)
theorem dX3_isFine_112 : decode cX3_isFine 112 = .ok (.iconst 0, 1) := dk_3 (dk_at dksX3_isFine_4 4 rfl rfl)
theorem dX3_isFine_113 : decode cX3_isFine 113 = .ok (.ireturn, 1) := dk_172 (dk_at dksX3_isFine_4 5 rfl rfl)
theorem dX3_isFine_114 : decode cX3_isFine 114 = .ok (.iload_n 2, 1) := dk_28 (dk_at dksX3_isFine_4 6 rfl rfl)
theorem dX3_isFine_115 : decode cX3_isFine 115 = .ok (.i2l, 1) := dk_133 (dk_at dksX3_isFine_4 7 rfl rfl)
theorem dX3_isFine_116 : decode cX3_isFine 116 = .ok (.lconst 1, 1) := dk_10 (dk_at dksX3_isFine_4 8 rfl rfl)
theorem dX3_isFine_117 : decode cX3_isFine 117 = .ok (.ldc2_w 192, 3) := dk_20 0 192 (dk_at dksX3_isFine_4 9 rfl rfl)
theorem dX3_isFine_120 : decode cX3_isFine 120 = .ok (.invokestatic 184, 3) := dk_184 0 184 (dk_at dksX3_isFine_4 12 rfl rfl)
theorem dX3_isFine_123 : decode cX3_isFine 123 = .ok (.ireturn, 1) := dk_172 (dk_at dksX3_isFine_4 15 rfl rfl)
theorem dX3_isFine_124 : decode cX3_isFine 124 = .ok (.iload_n 2, 1) := dk_28 (dk_at dksX3_isFine_4 16 rfl rfl)
theorem dX3_isFine_125 : decode cX3_isFine 125 = .ok (.i2l, 1) := dk_133 (dk_at dksX3_isFine_4 17 rfl rfl)
theorem dX3_isFine_126 : decode cX3_isFine 126 = .ok (.lconst 0, 1) := dk_9 (dk_at dksX3_isFine_4 18 rfl rfl)
theorem dX3_isFine_127 : decode cX3_isFine 127 = .ok (.ldc2_w 188, 3) := dk_20 0 188 (dk_at dksX3_isFine_4 19 rfl rfl)
theorem dX3_isFine_130 : decode cX3_isFine 130 = .ok (.invokestatic 184, 3) := dk_184 0 184 (dk_at dksX3_isFine_5 0 rfl rfl)
theorem dX3_isFine_133 : decode cX3_isFine 133 = .ok (.ireturn, 1) := dk_172 (dk_at dksX3_isFine_5 3 rfl rfl)
abbrev cX3_take : ByteArray := prog_7_method_27_code
def yX3_take : MethodName := ⟨RX3, "take", "(I)I"⟩
def dkwX3_take_4 : List UInt8 := [180, 0, 100, 172]
abbrev dktX3_take_4 : List UInt8 := dkwX3_take_4 ++ []
def dkwX3_take_3 : List UInt8 := [96, 46, 79, 42, 180, 0, 16, 28, 42, 180, 0, 16, 28, 4, 96, 46, 79, 132, 2, 1, 167, 255, 203, 42]
abbrev dktX3_take_3 : List UInt8 := dkwX3_take_3 ++ dktX3_take_4
def dkwX3_take_2 : List UInt8 := [180, 0, 7, 28, 42, 180, 0, 7, 28, 4, 96, 46, 79, 42, 180, 0, 13, 28, 42, 180, 0, 13, 28, 4]
abbrev dktX3_take_2 : List UInt8 := dkwX3_take_2 ++ dktX3_take_3
def dkwX3_take_1 : List UInt8 := [181, 0, 90, 42, 89, 180, 0, 100, 4, 100, 181, 0, 100, 27, 61, 28, 42, 180, 0, 100, 162, 0, 51, 42]
abbrev dktX3_take_1 : List UInt8 := dkwX3_take_1 ++ dktX3_take_2
def dkwX3_take_0 : List UInt8 := [27, 133, 9, 42, 180, 0, 100, 4, 100, 133, 184, 0, 184, 154, 0, 9, 42, 4, 182, 0, 194, 172, 42, 3]
abbrev dktX3_take_0 : List UInt8 := dkwX3_take_0 ++ dktX3_take_1
theorem dksX3_take_0 : cX3_take.data.toList.drop 0 = dktX3_take_0 := by decide +kernel
theorem dksX3_take_1 : cX3_take.data.toList.drop 24 = dktX3_take_1 := dk_seg dksX3_take_0 24 rfl rfl
theorem dksX3_take_2 : cX3_take.data.toList.drop 48 = dktX3_take_2 := dk_seg dksX3_take_1 24 rfl rfl
theorem dksX3_take_3 : cX3_take.data.toList.drop 72 = dktX3_take_3 := dk_seg dksX3_take_2 24 rfl rfl
theorem dksX3_take_4 : cX3_take.data.toList.drop 96 = dktX3_take_4 := dk_seg dksX3_take_3 24 rfl rfl
theorem dX3_take_0 : decode cX3_take 0 = .ok (.iload_n 1, 1) := dk_27 (dk_at dksX3_take_0 0 rfl rfl)
theorem dX3_take_1 : decode cX3_take 1 = .ok (.i2l, 1) := dk_133 (dk_at dksX3_take_0 1 rfl rfl)
theorem dX3_take_2 : decode cX3_take 2 = .ok (.lconst 0, 1) := dk_9 (dk_at dksX3_take_0 2 rfl rfl)
theorem dX3_take_3 : decode cX3_take 3 = .ok (.aload_n 0, 1) := dk_42 (dk_at dksX3_take_0 3 rfl rfl)
theorem dX3_take_4 : decode cX3_take 4 = .ok (.getfield 100, 3) := dk_180 0 100 (dk_at dksX3_take_0 4 rfl rfl)
theorem dX3_take_7 : decode cX3_take 7 = .ok (.iconst 1, 1) := dk_4 (dk_at dksX3_take_0 7 rfl rfl)
theorem dX3_take_8 : decode cX3_take 8 = .ok (.isub, 1) := dk_100 (dk_at dksX3_take_0 8 rfl rfl)
theorem dX3_take_9 : decode cX3_take 9 = .ok (.i2l, 1) := dk_133 (dk_at dksX3_take_0 9 rfl rfl)
theorem dX3_take_10 : decode cX3_take 10 = .ok (.invokestatic 184, 3) := dk_184 0 184 (dk_at dksX3_take_0 10 rfl rfl)
theorem dX3_take_13 : decode cX3_take 13 = .ok (.ifCond .ne 9, 3) := dk_154 0 9 (dk_at dksX3_take_0 13 rfl rfl)
theorem dX3_take_16 : decode cX3_take 16 = .ok (.aload_n 0, 1) := dk_42 (dk_at dksX3_take_0 16 rfl rfl)
theorem dX3_take_17 : decode cX3_take 17 = .ok (.iconst 1, 1) := dk_4 (dk_at dksX3_take_0 17 rfl rfl)
theorem dX3_take_18 : decode cX3_take 18 = .ok (.invokevirtual 194, 3) := dk_182 0 194 (dk_at dksX3_take_0 18 rfl rfl)
theorem dX3_take_21 : decode cX3_take 21 = .ok (.ireturn, 1) := dk_172 (dk_at dksX3_take_0 21 rfl rfl)
theorem dX3_take_22 : decode cX3_take 22 = .ok (.aload_n 0, 1) := dk_42 (dk_at dksX3_take_0 22 rfl rfl)
theorem dX3_take_23 : decode cX3_take 23 = .ok (.iconst 0, 1) := dk_3 (dk_at dksX3_take_0 23 rfl rfl)
theorem dX3_take_24 : decode cX3_take 24 = .ok (.putfield 90, 3) := dk_181 0 90 (dk_at dksX3_take_1 0 rfl rfl)
theorem dX3_take_27 : decode cX3_take 27 = .ok (.aload_n 0, 1) := dk_42 (dk_at dksX3_take_1 3 rfl rfl)
theorem dX3_take_28 : decode cX3_take 28 = .ok (.dup, 1) := dk_89 (dk_at dksX3_take_1 4 rfl rfl)
theorem dX3_take_29 : decode cX3_take 29 = .ok (.getfield 100, 3) := dk_180 0 100 (dk_at dksX3_take_1 5 rfl rfl)
theorem dX3_take_32 : decode cX3_take 32 = .ok (.iconst 1, 1) := dk_4 (dk_at dksX3_take_1 8 rfl rfl)
theorem dX3_take_33 : decode cX3_take 33 = .ok (.isub, 1) := dk_100 (dk_at dksX3_take_1 9 rfl rfl)
theorem dX3_take_34 : decode cX3_take 34 = .ok (.putfield 100, 3) := dk_181 0 100 (dk_at dksX3_take_1 10 rfl rfl)
theorem dX3_take_37 : decode cX3_take 37 = .ok (.iload_n 1, 1) := dk_27 (dk_at dksX3_take_1 13 rfl rfl)
theorem dX3_take_38 : decode cX3_take 38 = .ok (.istore_n 2, 1) := dk_61 (dk_at dksX3_take_1 14 rfl rfl)
theorem dX3_take_39 : decode cX3_take 39 = .ok (.iload_n 2, 1) := dk_28 (dk_at dksX3_take_1 15 rfl rfl)
theorem dX3_take_40 : decode cX3_take 40 = .ok (.aload_n 0, 1) := dk_42 (dk_at dksX3_take_1 16 rfl rfl)
theorem dX3_take_41 : decode cX3_take 41 = .ok (.getfield 100, 3) := dk_180 0 100 (dk_at dksX3_take_1 17 rfl rfl)
theorem dX3_take_44 : decode cX3_take 44 = .ok (.if_icmp .ge 51, 3) := dk_162 0 51 (dk_at dksX3_take_1 20 rfl rfl)
theorem dX3_take_47 : decode cX3_take 47 = .ok (.aload_n 0, 1) := dk_42 (dk_at dksX3_take_1 23 rfl rfl)
theorem dX3_take_48 : decode cX3_take 48 = .ok (.getfield 7, 3) := dk_180 0 7 (dk_at dksX3_take_2 0 rfl rfl)
theorem dX3_take_51 : decode cX3_take 51 = .ok (.iload_n 2, 1) := dk_28 (dk_at dksX3_take_2 3 rfl rfl)
theorem dX3_take_52 : decode cX3_take 52 = .ok (.aload_n 0, 1) := dk_42 (dk_at dksX3_take_2 4 rfl rfl)
theorem dX3_take_53 : decode cX3_take 53 = .ok (.getfield 7, 3) := dk_180 0 7 (dk_at dksX3_take_2 5 rfl rfl)
theorem dX3_take_56 : decode cX3_take 56 = .ok (.iload_n 2, 1) := dk_28 (dk_at dksX3_take_2 8 rfl rfl)
theorem dX3_take_57 : decode cX3_take 57 = .ok (.iconst 1, 1) := dk_4 (dk_at dksX3_take_2 9 rfl rfl)
theorem dX3_take_58 : decode cX3_take 58 = .ok (.iadd, 1) := dk_96 (dk_at dksX3_take_2 10 rfl rfl)
theorem dX3_take_59 : decode cX3_take 59 = .ok (.iaload, 1) := dk_46 (dk_at dksX3_take_2 11 rfl rfl)
theorem dX3_take_60 : decode cX3_take 60 = .ok (.iastore, 1) := dk_79 (dk_at dksX3_take_2 12 rfl rfl)
theorem dX3_take_61 : decode cX3_take 61 = .ok (.aload_n 0, 1) := dk_42 (dk_at dksX3_take_2 13 rfl rfl)
theorem dX3_take_62 : decode cX3_take 62 = .ok (.getfield 13, 3) := dk_180 0 13 (dk_at dksX3_take_2 14 rfl rfl)
theorem dX3_take_65 : decode cX3_take 65 = .ok (.iload_n 2, 1) := dk_28 (dk_at dksX3_take_2 17 rfl rfl)
theorem dX3_take_66 : decode cX3_take 66 = .ok (.aload_n 0, 1) := dk_42 (dk_at dksX3_take_2 18 rfl rfl)
theorem dX3_take_67 : decode cX3_take 67 = .ok (.getfield 13, 3) := dk_180 0 13 (dk_at dksX3_take_2 19 rfl rfl)
theorem dX3_take_70 : decode cX3_take 70 = .ok (.iload_n 2, 1) := dk_28 (dk_at dksX3_take_2 22 rfl rfl)
theorem dX3_take_71 : decode cX3_take 71 = .ok (.iconst 1, 1) := dk_4 (dk_at dksX3_take_2 23 rfl rfl)
theorem dX3_take_72 : decode cX3_take 72 = .ok (.iadd, 1) := dk_96 (dk_at dksX3_take_3 0 rfl rfl)
theorem dX3_take_73 : decode cX3_take 73 = .ok (.iaload, 1) := dk_46 (dk_at dksX3_take_3 1 rfl rfl)
theorem dX3_take_74 : decode cX3_take 74 = .ok (.iastore, 1) := dk_79 (dk_at dksX3_take_3 2 rfl rfl)
theorem dX3_take_75 : decode cX3_take 75 = .ok (.aload_n 0, 1) := dk_42 (dk_at dksX3_take_3 3 rfl rfl)
theorem dX3_take_76 : decode cX3_take 76 = .ok (.getfield 16, 3) := dk_180 0 16 (dk_at dksX3_take_3 4 rfl rfl)
theorem dX3_take_79 : decode cX3_take 79 = .ok (.iload_n 2, 1) := dk_28 (dk_at dksX3_take_3 7 rfl rfl)
theorem dX3_take_80 : decode cX3_take 80 = .ok (.aload_n 0, 1) := dk_42 (dk_at dksX3_take_3 8 rfl rfl)
theorem dX3_take_81 : decode cX3_take 81 = .ok (.getfield 16, 3) := dk_180 0 16 (dk_at dksX3_take_3 9 rfl rfl)
theorem dX3_take_84 : decode cX3_take 84 = .ok (.iload_n 2, 1) := dk_28 (dk_at dksX3_take_3 12 rfl rfl)
theorem dX3_take_85 : decode cX3_take 85 = .ok (.iconst 1, 1) := dk_4 (dk_at dksX3_take_3 13 rfl rfl)
theorem dX3_take_86 : decode cX3_take 86 = .ok (.iadd, 1) := dk_96 (dk_at dksX3_take_3 14 rfl rfl)
theorem dX3_take_87 : decode cX3_take 87 = .ok (.iaload, 1) := dk_46 (dk_at dksX3_take_3 15 rfl rfl)
theorem dX3_take_88 : decode cX3_take 88 = .ok (.iastore, 1) := dk_79 (dk_at dksX3_take_3 16 rfl rfl)
theorem dX3_take_89 : decode cX3_take 89 = .ok (.iinc 2 1, 3) := dk_132 2 1 (dk_at dksX3_take_3 17 rfl rfl)
theorem dX3_take_92 : decode cX3_take 92 = .ok (.goto (-53), 3) := dk_167 255 203 (dk_at dksX3_take_3 20 rfl rfl)
theorem dX3_take_95 : decode cX3_take 95 = .ok (.aload_n 0, 1) := dk_42 (dk_at dksX3_take_3 23 rfl rfl)
theorem dX3_take_96 : decode cX3_take 96 = .ok (.getfield 100, 3) := dk_180 0 100 (dk_at dksX3_take_4 0 rfl rfl)
theorem dX3_take_99 : decode cX3_take 99 = .ok (.ireturn, 1) := dk_172 (dk_at dksX3_take_4 3 rfl rfl)
abbrev cX3_style : ByteArray := prog_7_method_28_code
def yX3_style : MethodName := ⟨RX3, "style", "(IIII)V"⟩
def dkwX3_style_5 : List UInt8 := [42, 180, 0, 22, 27, 29, 79, 42, 180, 0, 25, 27, 21, 4, 79, 177]
abbrev dktX3_style_5 : List UInt8 := dkwX3_style_5 ++ []
def dkwX3_style_4 : List UInt8 := [21, 5, 2, 159, 0, 9, 42, 6, 181, 0, 90, 177, 42, 3, 181, 0, 90, 42, 180, 0, 19, 27, 28, 79]
abbrev dktX3_style_4 : List UInt8 := dkwX3_style_4 ++ dktX3_style_5
def dkwX3_style_3 : List UInt8 := [21, 5, 2, 159, 0, 21, 21, 5, 27, 159, 0, 15, 42, 180, 0, 19, 21, 5, 46, 54, 5, 167, 255, 235]
abbrev dktX3_style_3 : List UInt8 := dkwX3_style_3 ++ dktX3_style_4
def dkwX3_style_2 : List UInt8 := [21, 4, 133, 20, 0, 203, 20, 0, 190, 184, 0, 184, 154, 0, 9, 42, 5, 181, 0, 90, 177, 28, 54, 5]
abbrev dktX3_style_2 : List UInt8 := dkwX3_style_2 ++ dktX3_style_3
def dkwX3_style_1 : List UInt8 := [154, 0, 9, 42, 4, 181, 0, 90, 177, 29, 133, 20, 0, 203, 20, 0, 190, 184, 0, 184, 153, 0, 18]
abbrev dktX3_style_1 : List UInt8 := dkwX3_style_1 ++ dktX3_style_2
def dkwX3_style_0 : List UInt8 := [27, 133, 9, 20, 0, 182, 184, 0, 184, 153, 0, 17, 28, 133, 20, 0, 203, 20, 0, 182, 184, 0, 184]
abbrev dktX3_style_0 : List UInt8 := dkwX3_style_0 ++ dktX3_style_1
theorem dksX3_style_0 : cX3_style.data.toList.drop 0 = dktX3_style_0 := by decide +kernel
theorem dksX3_style_1 : cX3_style.data.toList.drop 23 = dktX3_style_1 := dk_seg dksX3_style_0 23 rfl rfl
theorem dksX3_style_2 : cX3_style.data.toList.drop 46 = dktX3_style_2 := dk_seg dksX3_style_1 23 rfl rfl
theorem dksX3_style_3 : cX3_style.data.toList.drop 70 = dktX3_style_3 := dk_seg dksX3_style_2 24 rfl rfl
theorem dksX3_style_4 : cX3_style.data.toList.drop 94 = dktX3_style_4 := dk_seg dksX3_style_3 24 rfl rfl
theorem dksX3_style_5 : cX3_style.data.toList.drop 118 = dktX3_style_5 := dk_seg dksX3_style_4 24 rfl rfl
theorem dX3_style_0 : decode cX3_style 0 = .ok (.iload_n 1, 1) := dk_27 (dk_at dksX3_style_0 0 rfl rfl)
theorem dX3_style_1 : decode cX3_style 1 = .ok (.i2l, 1) := dk_133 (dk_at dksX3_style_0 1 rfl rfl)
theorem dX3_style_2 : decode cX3_style 2 = .ok (.lconst 0, 1) := dk_9 (dk_at dksX3_style_0 2 rfl rfl)
theorem dX3_style_3 : decode cX3_style 3 = .ok (.ldc2_w 182, 3) := dk_20 0 182 (dk_at dksX3_style_0 3 rfl rfl)
theorem dX3_style_6 : decode cX3_style 6 = .ok (.invokestatic 184, 3) := dk_184 0 184 (dk_at dksX3_style_0 6 rfl rfl)
theorem dX3_style_9 : decode cX3_style 9 = .ok (.ifCond .eq 17, 3) := dk_153 0 17 (dk_at dksX3_style_0 9 rfl rfl)
theorem dX3_style_12 : decode cX3_style 12 = .ok (.iload_n 2, 1) := dk_28 (dk_at dksX3_style_0 12 rfl rfl)
theorem dX3_style_13 : decode cX3_style 13 = .ok (.i2l, 1) := dk_133 (dk_at dksX3_style_0 13 rfl rfl)
theorem dX3_style_14 : decode cX3_style 14 = .ok (.ldc2_w 203, 3) := dk_20 0 203 (dk_at dksX3_style_0 14 rfl rfl)
theorem dX3_style_17 : decode cX3_style 17 = .ok (.ldc2_w 182, 3) := dk_20 0 182 (dk_at dksX3_style_0 17 rfl rfl)
theorem dX3_style_20 : decode cX3_style 20 = .ok (.invokestatic 184, 3) := dk_184 0 184 (dk_at dksX3_style_0 20 rfl rfl)
theorem dX3_style_23 : decode cX3_style 23 = .ok (.ifCond .ne 9, 3) := dk_154 0 9 (dk_at dksX3_style_1 0 rfl rfl)
theorem dX3_style_26 : decode cX3_style 26 = .ok (.aload_n 0, 1) := dk_42 (dk_at dksX3_style_1 3 rfl rfl)
theorem dX3_style_27 : decode cX3_style 27 = .ok (.iconst 1, 1) := dk_4 (dk_at dksX3_style_1 4 rfl rfl)
theorem dX3_style_28 : decode cX3_style 28 = .ok (.putfield 90, 3) := dk_181 0 90 (dk_at dksX3_style_1 5 rfl rfl)
theorem dX3_style_31 : decode cX3_style 31 = .ok (.return_, 1) := dk_177 (dk_at dksX3_style_1 8 rfl rfl)
theorem dX3_style_32 : decode cX3_style 32 = .ok (.iload_n 3, 1) := dk_29 (dk_at dksX3_style_1 9 rfl rfl)
theorem dX3_style_33 : decode cX3_style 33 = .ok (.i2l, 1) := dk_133 (dk_at dksX3_style_1 10 rfl rfl)
theorem dX3_style_34 : decode cX3_style 34 = .ok (.ldc2_w 203, 3) := dk_20 0 203 (dk_at dksX3_style_1 11 rfl rfl)
theorem dX3_style_37 : decode cX3_style 37 = .ok (.ldc2_w 190, 3) := dk_20 0 190 (dk_at dksX3_style_1 14 rfl rfl)
theorem dX3_style_40 : decode cX3_style 40 = .ok (.invokestatic 184, 3) := dk_184 0 184 (dk_at dksX3_style_1 17 rfl rfl)
theorem dX3_style_43 : decode cX3_style 43 = .ok (.ifCond .eq 18, 3) := dk_153 0 18 (dk_at dksX3_style_1 20 rfl rfl)
theorem dX3_style_46 : decode cX3_style 46 = .ok (.iload 4, 2) := dk_21 4 (dk_at dksX3_style_2 0 rfl rfl)
theorem dX3_style_48 : decode cX3_style 48 = .ok (.i2l, 1) := dk_133 (dk_at dksX3_style_2 2 rfl rfl)
theorem dX3_style_49 : decode cX3_style 49 = .ok (.ldc2_w 203, 3) := dk_20 0 203 (dk_at dksX3_style_2 3 rfl rfl)
theorem dX3_style_52 : decode cX3_style 52 = .ok (.ldc2_w 190, 3) := dk_20 0 190 (dk_at dksX3_style_2 6 rfl rfl)
theorem dX3_style_55 : decode cX3_style 55 = .ok (.invokestatic 184, 3) := dk_184 0 184 (dk_at dksX3_style_2 9 rfl rfl)
theorem dX3_style_58 : decode cX3_style 58 = .ok (.ifCond .ne 9, 3) := dk_154 0 9 (dk_at dksX3_style_2 12 rfl rfl)
theorem dX3_style_61 : decode cX3_style 61 = .ok (.aload_n 0, 1) := dk_42 (dk_at dksX3_style_2 15 rfl rfl)
theorem dX3_style_62 : decode cX3_style 62 = .ok (.iconst 2, 1) := dk_5 (dk_at dksX3_style_2 16 rfl rfl)
theorem dX3_style_63 : decode cX3_style 63 = .ok (.putfield 90, 3) := dk_181 0 90 (dk_at dksX3_style_2 17 rfl rfl)
theorem dX3_style_66 : decode cX3_style 66 = .ok (.return_, 1) := dk_177 (dk_at dksX3_style_2 20 rfl rfl)
theorem dX3_style_67 : decode cX3_style 67 = .ok (.iload_n 2, 1) := dk_28 (dk_at dksX3_style_2 21 rfl rfl)
theorem dX3_style_68 : decode cX3_style 68 = .ok (.istore 5, 2) := dk_54 5 (dk_at dksX3_style_2 22 rfl rfl)
theorem dX3_style_70 : decode cX3_style 70 = .ok (.iload 5, 2) := dk_21 5 (dk_at dksX3_style_3 0 rfl rfl)
theorem dX3_style_72 : decode cX3_style 72 = .ok (.iconst (-1), 1) := dk_2 (dk_at dksX3_style_3 2 rfl rfl)
theorem dX3_style_73 : decode cX3_style 73 = .ok (.if_icmp .eq 21, 3) := dk_159 0 21 (dk_at dksX3_style_3 3 rfl rfl)
theorem dX3_style_76 : decode cX3_style 76 = .ok (.iload 5, 2) := dk_21 5 (dk_at dksX3_style_3 6 rfl rfl)
theorem dX3_style_78 : decode cX3_style 78 = .ok (.iload_n 1, 1) := dk_27 (dk_at dksX3_style_3 8 rfl rfl)
theorem dX3_style_79 : decode cX3_style 79 = .ok (.if_icmp .eq 15, 3) := dk_159 0 15 (dk_at dksX3_style_3 9 rfl rfl)
theorem dX3_style_82 : decode cX3_style 82 = .ok (.aload_n 0, 1) := dk_42 (dk_at dksX3_style_3 12 rfl rfl)
theorem dX3_style_83 : decode cX3_style 83 = .ok (.getfield 19, 3) := dk_180 0 19 (dk_at dksX3_style_3 13 rfl rfl)
theorem dX3_style_86 : decode cX3_style 86 = .ok (.iload 5, 2) := dk_21 5 (dk_at dksX3_style_3 16 rfl rfl)
theorem dX3_style_88 : decode cX3_style 88 = .ok (.iaload, 1) := dk_46 (dk_at dksX3_style_3 18 rfl rfl)
theorem dX3_style_89 : decode cX3_style 89 = .ok (.istore 5, 2) := dk_54 5 (dk_at dksX3_style_3 19 rfl rfl)
theorem dX3_style_91 : decode cX3_style 91 = .ok (.goto (-21), 3) := dk_167 255 235 (dk_at dksX3_style_3 21 rfl rfl)
theorem dX3_style_94 : decode cX3_style 94 = .ok (.iload 5, 2) := dk_21 5 (dk_at dksX3_style_4 0 rfl rfl)
theorem dX3_style_96 : decode cX3_style 96 = .ok (.iconst (-1), 1) := dk_2 (dk_at dksX3_style_4 2 rfl rfl)
theorem dX3_style_97 : decode cX3_style 97 = .ok (.if_icmp .eq 9, 3) := dk_159 0 9 (dk_at dksX3_style_4 3 rfl rfl)
theorem dX3_style_100 : decode cX3_style 100 = .ok (.aload_n 0, 1) := dk_42 (dk_at dksX3_style_4 6 rfl rfl)
theorem dX3_style_101 : decode cX3_style 101 = .ok (.iconst 3, 1) := dk_6 (dk_at dksX3_style_4 7 rfl rfl)
theorem dX3_style_102 : decode cX3_style 102 = .ok (.putfield 90, 3) := dk_181 0 90 (dk_at dksX3_style_4 8 rfl rfl)
theorem dX3_style_105 : decode cX3_style 105 = .ok (.return_, 1) := dk_177 (dk_at dksX3_style_4 11 rfl rfl)
theorem dX3_style_106 : decode cX3_style 106 = .ok (.aload_n 0, 1) := dk_42 (dk_at dksX3_style_4 12 rfl rfl)
theorem dX3_style_107 : decode cX3_style 107 = .ok (.iconst 0, 1) := dk_3 (dk_at dksX3_style_4 13 rfl rfl)
theorem dX3_style_108 : decode cX3_style 108 = .ok (.putfield 90, 3) := dk_181 0 90 (dk_at dksX3_style_4 14 rfl rfl)
theorem dX3_style_111 : decode cX3_style 111 = .ok (.aload_n 0, 1) := dk_42 (dk_at dksX3_style_4 17 rfl rfl)
theorem dX3_style_112 : decode cX3_style 112 = .ok (.getfield 19, 3) := dk_180 0 19 (dk_at dksX3_style_4 18 rfl rfl)
theorem dX3_style_115 : decode cX3_style 115 = .ok (.iload_n 1, 1) := dk_27 (dk_at dksX3_style_4 21 rfl rfl)
theorem dX3_style_116 : decode cX3_style 116 = .ok (.iload_n 2, 1) := dk_28 (dk_at dksX3_style_4 22 rfl rfl)
theorem dX3_style_117 : decode cX3_style 117 = .ok (.iastore, 1) := dk_79 (dk_at dksX3_style_4 23 rfl rfl)
theorem dX3_style_118 : decode cX3_style 118 = .ok (.aload_n 0, 1) := dk_42 (dk_at dksX3_style_5 0 rfl rfl)
theorem dX3_style_119 : decode cX3_style 119 = .ok (.getfield 22, 3) := dk_180 0 22 (dk_at dksX3_style_5 1 rfl rfl)
theorem dX3_style_122 : decode cX3_style 122 = .ok (.iload_n 1, 1) := dk_27 (dk_at dksX3_style_5 4 rfl rfl)
theorem dX3_style_123 : decode cX3_style 123 = .ok (.iload_n 3, 1) := dk_29 (dk_at dksX3_style_5 5 rfl rfl)
theorem dX3_style_124 : decode cX3_style 124 = .ok (.iastore, 1) := dk_79 (dk_at dksX3_style_5 6 rfl rfl)
theorem dX3_style_125 : decode cX3_style 125 = .ok (.aload_n 0, 1) := dk_42 (dk_at dksX3_style_5 7 rfl rfl)
theorem dX3_style_126 : decode cX3_style 126 = .ok (.getfield 25, 3) := dk_180 0 25 (dk_at dksX3_style_5 8 rfl rfl)
theorem dX3_style_129 : decode cX3_style 129 = .ok (.iload_n 1, 1) := dk_27 (dk_at dksX3_style_5 11 rfl rfl)
theorem dX3_style_130 : decode cX3_style 130 = .ok (.iload 4, 2) := dk_21 4 (dk_at dksX3_style_5 12 rfl rfl)
theorem dX3_style_132 : decode cX3_style 132 = .ok (.iastore, 1) := dk_79 (dk_at dksX3_style_5 14 rfl rfl)
theorem dX3_style_133 : decode cX3_style 133 = .ok (.return_, 1) := dk_177 (dk_at dksX3_style_5 15 rfl rfl)
abbrev cX3_data : ByteArray := prog_7_method_29_code
def yX3_data : MethodName := ⟨RX3, "data", "(III)I"⟩
def dkwX3_data_3 : List UInt8 := [28, 96, 29, 79, 21, 4, 172]
abbrev dktX3_data_3 : List UInt8 := dkwX3_data_3 ++ []
def dkwX3_data_2 : List UInt8 := [42, 3, 181, 0, 90, 42, 180, 0, 28, 7, 27, 104, 28, 96, 46, 54, 4, 42, 180, 0, 28, 7, 27, 104]
abbrev dktX3_data_2 : List UInt8 := dkwX3_data_2 ++ dktX3_data_3
def dkwX3_data_1 : List UInt8 := [42, 4, 182, 0, 194, 172, 29, 133, 9, 20, 0, 188, 184, 0, 184, 154, 0, 9, 42, 5, 182, 0, 194, 172]
abbrev dktX3_data_1 : List UInt8 := dkwX3_data_1 ++ dktX3_data_2
def dkwX3_data_0 : List UInt8 := [27, 133, 9, 20, 0, 190, 184, 0, 184, 153, 0, 15, 28, 133, 9, 20, 0, 190, 184, 0, 184, 154, 0, 9]
abbrev dktX3_data_0 : List UInt8 := dkwX3_data_0 ++ dktX3_data_1
theorem dksX3_data_0 : cX3_data.data.toList.drop 0 = dktX3_data_0 := by decide +kernel
theorem dksX3_data_1 : cX3_data.data.toList.drop 24 = dktX3_data_1 := dk_seg dksX3_data_0 24 rfl rfl
theorem dksX3_data_2 : cX3_data.data.toList.drop 48 = dktX3_data_2 := dk_seg dksX3_data_1 24 rfl rfl
theorem dksX3_data_3 : cX3_data.data.toList.drop 72 = dktX3_data_3 := dk_seg dksX3_data_2 24 rfl rfl
theorem dX3_data_0 : decode cX3_data 0 = .ok (.iload_n 1, 1) := dk_27 (dk_at dksX3_data_0 0 rfl rfl)
theorem dX3_data_1 : decode cX3_data 1 = .ok (.i2l, 1) := dk_133 (dk_at dksX3_data_0 1 rfl rfl)
theorem dX3_data_2 : decode cX3_data 2 = .ok (.lconst 0, 1) := dk_9 (dk_at dksX3_data_0 2 rfl rfl)
theorem dX3_data_3 : decode cX3_data 3 = .ok (.ldc2_w 190, 3) := dk_20 0 190 (dk_at dksX3_data_0 3 rfl rfl)
theorem dX3_data_6 : decode cX3_data 6 = .ok (.invokestatic 184, 3) := dk_184 0 184 (dk_at dksX3_data_0 6 rfl rfl)
theorem dX3_data_9 : decode cX3_data 9 = .ok (.ifCond .eq 15, 3) := dk_153 0 15 (dk_at dksX3_data_0 9 rfl rfl)
theorem dX3_data_12 : decode cX3_data 12 = .ok (.iload_n 2, 1) := dk_28 (dk_at dksX3_data_0 12 rfl rfl)
theorem dX3_data_13 : decode cX3_data 13 = .ok (.i2l, 1) := dk_133 (dk_at dksX3_data_0 13 rfl rfl)
theorem dX3_data_14 : decode cX3_data 14 = .ok (.lconst 0, 1) := dk_9 (dk_at dksX3_data_0 14 rfl rfl)
theorem dX3_data_15 : decode cX3_data 15 = .ok (.ldc2_w 190, 3) := dk_20 0 190 (dk_at dksX3_data_0 15 rfl rfl)
theorem dX3_data_18 : decode cX3_data 18 = .ok (.invokestatic 184, 3) := dk_184 0 184 (dk_at dksX3_data_0 18 rfl rfl)
theorem dX3_data_21 : decode cX3_data 21 = .ok (.ifCond .ne 9, 3) := dk_154 0 9 (dk_at dksX3_data_0 21 rfl rfl)
theorem dX3_data_24 : decode cX3_data 24 = .ok (.aload_n 0, 1) := dk_42 (dk_at dksX3_data_1 0 rfl rfl)
theorem dX3_data_25 : decode cX3_data 25 = .ok (.iconst 1, 1) := dk_4 (dk_at dksX3_data_1 1 rfl rfl)
theorem dX3_data_26 : decode cX3_data 26 = .ok (.invokevirtual 194, 3) := dk_182 0 194 (dk_at dksX3_data_1 2 rfl rfl)
theorem dX3_data_29 : decode cX3_data 29 = .ok (.ireturn, 1) := dk_172 (dk_at dksX3_data_1 5 rfl rfl)
theorem dX3_data_30 : decode cX3_data 30 = .ok (.iload_n 3, 1) := dk_29 (dk_at dksX3_data_1 6 rfl rfl)
theorem dX3_data_31 : decode cX3_data 31 = .ok (.i2l, 1) := dk_133 (dk_at dksX3_data_1 7 rfl rfl)
theorem dX3_data_32 : decode cX3_data 32 = .ok (.lconst 0, 1) := dk_9 (dk_at dksX3_data_1 8 rfl rfl)
theorem dX3_data_33 : decode cX3_data 33 = .ok (.ldc2_w 188, 3) := dk_20 0 188 (dk_at dksX3_data_1 9 rfl rfl)
theorem dX3_data_36 : decode cX3_data 36 = .ok (.invokestatic 184, 3) := dk_184 0 184 (dk_at dksX3_data_1 12 rfl rfl)
theorem dX3_data_39 : decode cX3_data 39 = .ok (.ifCond .ne 9, 3) := dk_154 0 9 (dk_at dksX3_data_1 15 rfl rfl)
theorem dX3_data_42 : decode cX3_data 42 = .ok (.aload_n 0, 1) := dk_42 (dk_at dksX3_data_1 18 rfl rfl)
theorem dX3_data_43 : decode cX3_data 43 = .ok (.iconst 2, 1) := dk_5 (dk_at dksX3_data_1 19 rfl rfl)
theorem dX3_data_44 : decode cX3_data 44 = .ok (.invokevirtual 194, 3) := dk_182 0 194 (dk_at dksX3_data_1 20 rfl rfl)
theorem dX3_data_47 : decode cX3_data 47 = .ok (.ireturn, 1) := dk_172 (dk_at dksX3_data_1 23 rfl rfl)
theorem dX3_data_48 : decode cX3_data 48 = .ok (.aload_n 0, 1) := dk_42 (dk_at dksX3_data_2 0 rfl rfl)
theorem dX3_data_49 : decode cX3_data 49 = .ok (.iconst 0, 1) := dk_3 (dk_at dksX3_data_2 1 rfl rfl)
theorem dX3_data_50 : decode cX3_data 50 = .ok (.putfield 90, 3) := dk_181 0 90 (dk_at dksX3_data_2 2 rfl rfl)
theorem dX3_data_53 : decode cX3_data 53 = .ok (.aload_n 0, 1) := dk_42 (dk_at dksX3_data_2 5 rfl rfl)
theorem dX3_data_54 : decode cX3_data 54 = .ok (.getfield 28, 3) := dk_180 0 28 (dk_at dksX3_data_2 6 rfl rfl)
theorem dX3_data_57 : decode cX3_data 57 = .ok (.iconst 4, 1) := dk_7 (dk_at dksX3_data_2 9 rfl rfl)
theorem dX3_data_58 : decode cX3_data 58 = .ok (.iload_n 1, 1) := dk_27 (dk_at dksX3_data_2 10 rfl rfl)
theorem dX3_data_59 : decode cX3_data 59 = .ok (.imul, 1) := dk_104 (dk_at dksX3_data_2 11 rfl rfl)
theorem dX3_data_60 : decode cX3_data 60 = .ok (.iload_n 2, 1) := dk_28 (dk_at dksX3_data_2 12 rfl rfl)
theorem dX3_data_61 : decode cX3_data 61 = .ok (.iadd, 1) := dk_96 (dk_at dksX3_data_2 13 rfl rfl)
theorem dX3_data_62 : decode cX3_data 62 = .ok (.iaload, 1) := dk_46 (dk_at dksX3_data_2 14 rfl rfl)
theorem dX3_data_63 : decode cX3_data 63 = .ok (.istore 4, 2) := dk_54 4 (dk_at dksX3_data_2 15 rfl rfl)
theorem dX3_data_65 : decode cX3_data 65 = .ok (.aload_n 0, 1) := dk_42 (dk_at dksX3_data_2 17 rfl rfl)
theorem dX3_data_66 : decode cX3_data 66 = .ok (.getfield 28, 3) := dk_180 0 28 (dk_at dksX3_data_2 18 rfl rfl)
theorem dX3_data_69 : decode cX3_data 69 = .ok (.iconst 4, 1) := dk_7 (dk_at dksX3_data_2 21 rfl rfl)
theorem dX3_data_70 : decode cX3_data 70 = .ok (.iload_n 1, 1) := dk_27 (dk_at dksX3_data_2 22 rfl rfl)
theorem dX3_data_71 : decode cX3_data 71 = .ok (.imul, 1) := dk_104 (dk_at dksX3_data_2 23 rfl rfl)
theorem dX3_data_72 : decode cX3_data 72 = .ok (.iload_n 2, 1) := dk_28 (dk_at dksX3_data_3 0 rfl rfl)
theorem dX3_data_73 : decode cX3_data 73 = .ok (.iadd, 1) := dk_96 (dk_at dksX3_data_3 1 rfl rfl)
theorem dX3_data_74 : decode cX3_data 74 = .ok (.iload_n 3, 1) := dk_29 (dk_at dksX3_data_3 2 rfl rfl)
theorem dX3_data_75 : decode cX3_data 75 = .ok (.iastore, 1) := dk_79 (dk_at dksX3_data_3 3 rfl rfl)
theorem dX3_data_76 : decode cX3_data 76 = .ok (.iload 4, 2) := dk_21 4 (dk_at dksX3_data_3 4 rfl rfl)
theorem dX3_data_78 : decode cX3_data 78 = .ok (.ireturn, 1) := dk_172 (dk_at dksX3_data_3 6 rfl rfl)
abbrev cX3_grid : ByteArray := prog_7_method_30_code
def yX3_grid : MethodName := ⟨RX3, "grid", "(III)V"⟩
def dkwX3_grid_2 : List UInt8 := [42, 3, 181, 0, 90, 42, 27, 181, 0, 31, 42, 28, 181, 0, 35, 42, 29, 181, 0, 38, 177]
abbrev dktX3_grid_2 : List UInt8 := dkwX3_grid_2 ++ []
def dkwX3_grid_1 : List UInt8 := [184, 0, 184, 153, 0, 15, 29, 133, 10, 20, 0, 207, 184, 0, 184, 154, 0, 9, 42, 4, 181, 0, 90, 177]
abbrev dktX3_grid_1 : List UInt8 := dkwX3_grid_1 ++ dktX3_grid_2
def dkwX3_grid_0 : List UInt8 := [27, 133, 20, 0, 182, 20, 0, 205, 184, 0, 184, 153, 0, 29, 28, 133, 20, 0, 190, 20, 0, 205]
abbrev dktX3_grid_0 : List UInt8 := dkwX3_grid_0 ++ dktX3_grid_1
theorem dksX3_grid_0 : cX3_grid.data.toList.drop 0 = dktX3_grid_0 := by decide +kernel
theorem dksX3_grid_1 : cX3_grid.data.toList.drop 22 = dktX3_grid_1 := dk_seg dksX3_grid_0 22 rfl rfl
theorem dksX3_grid_2 : cX3_grid.data.toList.drop 46 = dktX3_grid_2 := dk_seg dksX3_grid_1 24 rfl rfl
theorem dX3_grid_0 : decode cX3_grid 0 = .ok (.iload_n 1, 1) := dk_27 (dk_at dksX3_grid_0 0 rfl rfl)
theorem dX3_grid_1 : decode cX3_grid 1 = .ok (.i2l, 1) := dk_133 (dk_at dksX3_grid_0 1 rfl rfl)
theorem dX3_grid_2 : decode cX3_grid 2 = .ok (.ldc2_w 182, 3) := dk_20 0 182 (dk_at dksX3_grid_0 2 rfl rfl)
theorem dX3_grid_5 : decode cX3_grid 5 = .ok (.ldc2_w 205, 3) := dk_20 0 205 (dk_at dksX3_grid_0 5 rfl rfl)
theorem dX3_grid_8 : decode cX3_grid 8 = .ok (.invokestatic 184, 3) := dk_184 0 184 (dk_at dksX3_grid_0 8 rfl rfl)
theorem dX3_grid_11 : decode cX3_grid 11 = .ok (.ifCond .eq 29, 3) := dk_153 0 29 (dk_at dksX3_grid_0 11 rfl rfl)
theorem dX3_grid_14 : decode cX3_grid 14 = .ok (.iload_n 2, 1) := dk_28 (dk_at dksX3_grid_0 14 rfl rfl)
theorem dX3_grid_15 : decode cX3_grid 15 = .ok (.i2l, 1) := dk_133 (dk_at dksX3_grid_0 15 rfl rfl)
theorem dX3_grid_16 : decode cX3_grid 16 = .ok (.ldc2_w 190, 3) := dk_20 0 190 (dk_at dksX3_grid_0 16 rfl rfl)
theorem dX3_grid_19 : decode cX3_grid 19 = .ok (.ldc2_w 205, 3) := dk_20 0 205 (dk_at dksX3_grid_0 19 rfl rfl)
theorem dX3_grid_22 : decode cX3_grid 22 = .ok (.invokestatic 184, 3) := dk_184 0 184 (dk_at dksX3_grid_1 0 rfl rfl)
theorem dX3_grid_25 : decode cX3_grid 25 = .ok (.ifCond .eq 15, 3) := dk_153 0 15 (dk_at dksX3_grid_1 3 rfl rfl)
theorem dX3_grid_28 : decode cX3_grid 28 = .ok (.iload_n 3, 1) := dk_29 (dk_at dksX3_grid_1 6 rfl rfl)
theorem dX3_grid_29 : decode cX3_grid 29 = .ok (.i2l, 1) := dk_133 (dk_at dksX3_grid_1 7 rfl rfl)
theorem dX3_grid_30 : decode cX3_grid 30 = .ok (.lconst 1, 1) := dk_10 (dk_at dksX3_grid_1 8 rfl rfl)
theorem dX3_grid_31 : decode cX3_grid 31 = .ok (.ldc2_w 207, 3) := dk_20 0 207 (dk_at dksX3_grid_1 9 rfl rfl)
theorem dX3_grid_34 : decode cX3_grid 34 = .ok (.invokestatic 184, 3) := dk_184 0 184 (dk_at dksX3_grid_1 12 rfl rfl)
theorem dX3_grid_37 : decode cX3_grid 37 = .ok (.ifCond .ne 9, 3) := dk_154 0 9 (dk_at dksX3_grid_1 15 rfl rfl)
theorem dX3_grid_40 : decode cX3_grid 40 = .ok (.aload_n 0, 1) := dk_42 (dk_at dksX3_grid_1 18 rfl rfl)
theorem dX3_grid_41 : decode cX3_grid 41 = .ok (.iconst 1, 1) := dk_4 (dk_at dksX3_grid_1 19 rfl rfl)
theorem dX3_grid_42 : decode cX3_grid 42 = .ok (.putfield 90, 3) := dk_181 0 90 (dk_at dksX3_grid_1 20 rfl rfl)
theorem dX3_grid_45 : decode cX3_grid 45 = .ok (.return_, 1) := dk_177 (dk_at dksX3_grid_1 23 rfl rfl)
theorem dX3_grid_46 : decode cX3_grid 46 = .ok (.aload_n 0, 1) := dk_42 (dk_at dksX3_grid_2 0 rfl rfl)
theorem dX3_grid_47 : decode cX3_grid 47 = .ok (.iconst 0, 1) := dk_3 (dk_at dksX3_grid_2 1 rfl rfl)
theorem dX3_grid_48 : decode cX3_grid 48 = .ok (.putfield 90, 3) := dk_181 0 90 (dk_at dksX3_grid_2 2 rfl rfl)
theorem dX3_grid_51 : decode cX3_grid 51 = .ok (.aload_n 0, 1) := dk_42 (dk_at dksX3_grid_2 5 rfl rfl)
theorem dX3_grid_52 : decode cX3_grid 52 = .ok (.iload_n 1, 1) := dk_27 (dk_at dksX3_grid_2 6 rfl rfl)
theorem dX3_grid_53 : decode cX3_grid 53 = .ok (.putfield 31, 3) := dk_181 0 31 (dk_at dksX3_grid_2 7 rfl rfl)
theorem dX3_grid_56 : decode cX3_grid 56 = .ok (.aload_n 0, 1) := dk_42 (dk_at dksX3_grid_2 10 rfl rfl)
theorem dX3_grid_57 : decode cX3_grid 57 = .ok (.iload_n 2, 1) := dk_28 (dk_at dksX3_grid_2 11 rfl rfl)
theorem dX3_grid_58 : decode cX3_grid 58 = .ok (.putfield 35, 3) := dk_181 0 35 (dk_at dksX3_grid_2 12 rfl rfl)
theorem dX3_grid_61 : decode cX3_grid 61 = .ok (.aload_n 0, 1) := dk_42 (dk_at dksX3_grid_2 15 rfl rfl)
theorem dX3_grid_62 : decode cX3_grid 62 = .ok (.iload_n 3, 1) := dk_29 (dk_at dksX3_grid_2 16 rfl rfl)
theorem dX3_grid_63 : decode cX3_grid 63 = .ok (.putfield 38, 3) := dk_181 0 38 (dk_at dksX3_grid_2 17 rfl rfl)
theorem dX3_grid_66 : decode cX3_grid 66 = .ok (.return_, 1) := dk_177 (dk_at dksX3_grid_2 20 rfl rfl)
abbrev cX3_see : ByteArray := prog_7_method_32_code
def yX3_see : MethodName := ⟨RX3, "see", "(II)I"⟩
def dkwX3_see_3 : List UInt8 := [181, 0, 90, 42, 180, 0, 41, 27, 46, 54, 4, 42, 180, 0, 41, 27, 28, 79, 21, 4, 172]
abbrev dktX3_see_3 : List UInt8 := dkwX3_see_3 ++ []
def dkwX3_see_2 : List UInt8 := [180, 0, 41, 29, 46, 62, 167, 255, 239, 29, 2, 159, 0, 9, 42, 5, 182, 0, 194, 172, 42, 3]
abbrev dktX3_see_2 : List UInt8 := dkwX3_see_2 ++ dktX3_see_3
def dkwX3_see_1 : List UInt8 := [154, 0, 9, 42, 4, 182, 0, 194, 172, 28, 62, 29, 2, 159, 0, 18, 29, 27, 159, 0, 13, 42]
abbrev dktX3_see_1 : List UInt8 := dkwX3_see_1 ++ dktX3_see_2
def dkwX3_see_0 : List UInt8 := [27, 133, 9, 20, 0, 188, 184, 0, 184, 153, 0, 17, 28, 133, 20, 0, 203, 20, 0, 188, 184, 0, 184]
abbrev dktX3_see_0 : List UInt8 := dkwX3_see_0 ++ dktX3_see_1
theorem dksX3_see_0 : cX3_see.data.toList.drop 0 = dktX3_see_0 := by decide +kernel
theorem dksX3_see_1 : cX3_see.data.toList.drop 23 = dktX3_see_1 := dk_seg dksX3_see_0 23 rfl rfl
theorem dksX3_see_2 : cX3_see.data.toList.drop 45 = dktX3_see_2 := dk_seg dksX3_see_1 22 rfl rfl
theorem dksX3_see_3 : cX3_see.data.toList.drop 67 = dktX3_see_3 := dk_seg dksX3_see_2 22 rfl rfl
theorem dX3_see_0 : decode cX3_see 0 = .ok (.iload_n 1, 1) := dk_27 (dk_at dksX3_see_0 0 rfl rfl)
theorem dX3_see_1 : decode cX3_see 1 = .ok (.i2l, 1) := dk_133 (dk_at dksX3_see_0 1 rfl rfl)
theorem dX3_see_2 : decode cX3_see 2 = .ok (.lconst 0, 1) := dk_9 (dk_at dksX3_see_0 2 rfl rfl)
theorem dX3_see_3 : decode cX3_see 3 = .ok (.ldc2_w 188, 3) := dk_20 0 188 (dk_at dksX3_see_0 3 rfl rfl)
theorem dX3_see_6 : decode cX3_see 6 = .ok (.invokestatic 184, 3) := dk_184 0 184 (dk_at dksX3_see_0 6 rfl rfl)
theorem dX3_see_9 : decode cX3_see 9 = .ok (.ifCond .eq 17, 3) := dk_153 0 17 (dk_at dksX3_see_0 9 rfl rfl)
theorem dX3_see_12 : decode cX3_see 12 = .ok (.iload_n 2, 1) := dk_28 (dk_at dksX3_see_0 12 rfl rfl)
theorem dX3_see_13 : decode cX3_see 13 = .ok (.i2l, 1) := dk_133 (dk_at dksX3_see_0 13 rfl rfl)
theorem dX3_see_14 : decode cX3_see 14 = .ok (.ldc2_w 203, 3) := dk_20 0 203 (dk_at dksX3_see_0 14 rfl rfl)
theorem dX3_see_17 : decode cX3_see 17 = .ok (.ldc2_w 188, 3) := dk_20 0 188 (dk_at dksX3_see_0 17 rfl rfl)
theorem dX3_see_20 : decode cX3_see 20 = .ok (.invokestatic 184, 3) := dk_184 0 184 (dk_at dksX3_see_0 20 rfl rfl)
theorem dX3_see_23 : decode cX3_see 23 = .ok (.ifCond .ne 9, 3) := dk_154 0 9 (dk_at dksX3_see_1 0 rfl rfl)
theorem dX3_see_26 : decode cX3_see 26 = .ok (.aload_n 0, 1) := dk_42 (dk_at dksX3_see_1 3 rfl rfl)
theorem dX3_see_27 : decode cX3_see 27 = .ok (.iconst 1, 1) := dk_4 (dk_at dksX3_see_1 4 rfl rfl)
theorem dX3_see_28 : decode cX3_see 28 = .ok (.invokevirtual 194, 3) := dk_182 0 194 (dk_at dksX3_see_1 5 rfl rfl)
theorem dX3_see_31 : decode cX3_see 31 = .ok (.ireturn, 1) := dk_172 (dk_at dksX3_see_1 8 rfl rfl)
theorem dX3_see_32 : decode cX3_see 32 = .ok (.iload_n 2, 1) := dk_28 (dk_at dksX3_see_1 9 rfl rfl)
theorem dX3_see_33 : decode cX3_see 33 = .ok (.istore_n 3, 1) := dk_62 (dk_at dksX3_see_1 10 rfl rfl)
theorem dX3_see_34 : decode cX3_see 34 = .ok (.iload_n 3, 1) := dk_29 (dk_at dksX3_see_1 11 rfl rfl)
theorem dX3_see_35 : decode cX3_see 35 = .ok (.iconst (-1), 1) := dk_2 (dk_at dksX3_see_1 12 rfl rfl)
theorem dX3_see_36 : decode cX3_see 36 = .ok (.if_icmp .eq 18, 3) := dk_159 0 18 (dk_at dksX3_see_1 13 rfl rfl)
theorem dX3_see_39 : decode cX3_see 39 = .ok (.iload_n 3, 1) := dk_29 (dk_at dksX3_see_1 16 rfl rfl)
theorem dX3_see_40 : decode cX3_see 40 = .ok (.iload_n 1, 1) := dk_27 (dk_at dksX3_see_1 17 rfl rfl)
theorem dX3_see_41 : decode cX3_see 41 = .ok (.if_icmp .eq 13, 3) := dk_159 0 13 (dk_at dksX3_see_1 18 rfl rfl)
theorem dX3_see_44 : decode cX3_see 44 = .ok (.aload_n 0, 1) := dk_42 (dk_at dksX3_see_1 21 rfl rfl)
theorem dX3_see_45 : decode cX3_see 45 = .ok (.getfield 41, 3) := dk_180 0 41 (dk_at dksX3_see_2 0 rfl rfl)
theorem dX3_see_48 : decode cX3_see 48 = .ok (.iload_n 3, 1) := dk_29 (dk_at dksX3_see_2 3 rfl rfl)
theorem dX3_see_49 : decode cX3_see 49 = .ok (.iaload, 1) := dk_46 (dk_at dksX3_see_2 4 rfl rfl)
theorem dX3_see_50 : decode cX3_see 50 = .ok (.istore_n 3, 1) := dk_62 (dk_at dksX3_see_2 5 rfl rfl)
theorem dX3_see_51 : decode cX3_see 51 = .ok (.goto (-17), 3) := dk_167 255 239 (dk_at dksX3_see_2 6 rfl rfl)
theorem dX3_see_54 : decode cX3_see 54 = .ok (.iload_n 3, 1) := dk_29 (dk_at dksX3_see_2 9 rfl rfl)
theorem dX3_see_55 : decode cX3_see 55 = .ok (.iconst (-1), 1) := dk_2 (dk_at dksX3_see_2 10 rfl rfl)
theorem dX3_see_56 : decode cX3_see 56 = .ok (.if_icmp .eq 9, 3) := dk_159 0 9 (dk_at dksX3_see_2 11 rfl rfl)
theorem dX3_see_59 : decode cX3_see 59 = .ok (.aload_n 0, 1) := dk_42 (dk_at dksX3_see_2 14 rfl rfl)
theorem dX3_see_60 : decode cX3_see 60 = .ok (.iconst 2, 1) := dk_5 (dk_at dksX3_see_2 15 rfl rfl)
theorem dX3_see_61 : decode cX3_see 61 = .ok (.invokevirtual 194, 3) := dk_182 0 194 (dk_at dksX3_see_2 16 rfl rfl)
theorem dX3_see_64 : decode cX3_see 64 = .ok (.ireturn, 1) := dk_172 (dk_at dksX3_see_2 19 rfl rfl)
theorem dX3_see_65 : decode cX3_see 65 = .ok (.aload_n 0, 1) := dk_42 (dk_at dksX3_see_2 20 rfl rfl)
theorem dX3_see_66 : decode cX3_see 66 = .ok (.iconst 0, 1) := dk_3 (dk_at dksX3_see_2 21 rfl rfl)
theorem dX3_see_67 : decode cX3_see 67 = .ok (.putfield 90, 3) := dk_181 0 90 (dk_at dksX3_see_3 0 rfl rfl)
theorem dX3_see_70 : decode cX3_see 70 = .ok (.aload_n 0, 1) := dk_42 (dk_at dksX3_see_3 3 rfl rfl)
theorem dX3_see_71 : decode cX3_see 71 = .ok (.getfield 41, 3) := dk_180 0 41 (dk_at dksX3_see_3 4 rfl rfl)
theorem dX3_see_74 : decode cX3_see 74 = .ok (.iload_n 1, 1) := dk_27 (dk_at dksX3_see_3 7 rfl rfl)
theorem dX3_see_75 : decode cX3_see 75 = .ok (.iaload, 1) := dk_46 (dk_at dksX3_see_3 8 rfl rfl)
theorem dX3_see_76 : decode cX3_see 76 = .ok (.istore 4, 2) := dk_54 4 (dk_at dksX3_see_3 9 rfl rfl)
theorem dX3_see_78 : decode cX3_see 78 = .ok (.aload_n 0, 1) := dk_42 (dk_at dksX3_see_3 11 rfl rfl)
theorem dX3_see_79 : decode cX3_see 79 = .ok (.getfield 41, 3) := dk_180 0 41 (dk_at dksX3_see_3 12 rfl rfl)
theorem dX3_see_82 : decode cX3_see 82 = .ok (.iload_n 1, 1) := dk_27 (dk_at dksX3_see_3 15 rfl rfl)
theorem dX3_see_83 : decode cX3_see 83 = .ok (.iload_n 2, 1) := dk_28 (dk_at dksX3_see_3 16 rfl rfl)
theorem dX3_see_84 : decode cX3_see 84 = .ok (.iastore, 1) := dk_79 (dk_at dksX3_see_3 17 rfl rfl)
theorem dX3_see_85 : decode cX3_see 85 = .ok (.iload 4, 2) := dk_21 4 (dk_at dksX3_see_3 18 rfl rfl)
theorem dX3_see_87 : decode cX3_see 87 = .ok (.ireturn, 1) := dk_172 (dk_at dksX3_see_3 20 rfl rfl)
abbrev cX3_fold : ByteArray := prog_7_method_33_code
def yX3_fold : MethodName := ⟨RX3, "fold", "(II)V"⟩
def dkwX3_fold_2 : List UInt8 := [181, 0, 47, 177]
abbrev dktX3_fold_2 : List UInt8 := dkwX3_fold_2 ++ []
def dkwX3_fold_1 : List UInt8 := [184, 0, 184, 154, 0, 9, 42, 4, 181, 0, 90, 177, 42, 3, 181, 0, 90, 42, 27, 181, 0, 44, 42, 28]
abbrev dktX3_fold_1 : List UInt8 := dkwX3_fold_1 ++ dktX3_fold_2
def dkwX3_fold_0 : List UInt8 := [27, 7, 159, 0, 15, 27, 16, 8, 159, 0, 9, 27, 16, 16, 160, 0, 15, 28, 133, 9, 20, 0, 188]
abbrev dktX3_fold_0 : List UInt8 := dkwX3_fold_0 ++ dktX3_fold_1
theorem dksX3_fold_0 : cX3_fold.data.toList.drop 0 = dktX3_fold_0 := by decide +kernel
theorem dksX3_fold_1 : cX3_fold.data.toList.drop 23 = dktX3_fold_1 := dk_seg dksX3_fold_0 23 rfl rfl
theorem dksX3_fold_2 : cX3_fold.data.toList.drop 47 = dktX3_fold_2 := dk_seg dksX3_fold_1 24 rfl rfl
theorem dX3_fold_0 : decode cX3_fold 0 = .ok (.iload_n 1, 1) := dk_27 (dk_at dksX3_fold_0 0 rfl rfl)
theorem dX3_fold_1 : decode cX3_fold 1 = .ok (.iconst 4, 1) := dk_7 (dk_at dksX3_fold_0 1 rfl rfl)
theorem dX3_fold_2 : decode cX3_fold 2 = .ok (.if_icmp .eq 15, 3) := dk_159 0 15 (dk_at dksX3_fold_0 2 rfl rfl)
theorem dX3_fold_5 : decode cX3_fold 5 = .ok (.iload_n 1, 1) := dk_27 (dk_at dksX3_fold_0 5 rfl rfl)
theorem dX3_fold_6 : decode cX3_fold 6 = .ok (.bipush 8, 2) := dk_16 8 (dk_at dksX3_fold_0 6 rfl rfl)
theorem dX3_fold_8 : decode cX3_fold 8 = .ok (.if_icmp .eq 9, 3) := dk_159 0 9 (dk_at dksX3_fold_0 8 rfl rfl)
theorem dX3_fold_11 : decode cX3_fold 11 = .ok (.iload_n 1, 1) := dk_27 (dk_at dksX3_fold_0 11 rfl rfl)
theorem dX3_fold_12 : decode cX3_fold 12 = .ok (.bipush 16, 2) := dk_16 16 (dk_at dksX3_fold_0 12 rfl rfl)
theorem dX3_fold_14 : decode cX3_fold 14 = .ok (.if_icmp .ne 15, 3) := dk_160 0 15 (dk_at dksX3_fold_0 14 rfl rfl)
theorem dX3_fold_17 : decode cX3_fold 17 = .ok (.iload_n 2, 1) := dk_28 (dk_at dksX3_fold_0 17 rfl rfl)
theorem dX3_fold_18 : decode cX3_fold 18 = .ok (.i2l, 1) := dk_133 (dk_at dksX3_fold_0 18 rfl rfl)
theorem dX3_fold_19 : decode cX3_fold 19 = .ok (.lconst 0, 1) := dk_9 (dk_at dksX3_fold_0 19 rfl rfl)
theorem dX3_fold_20 : decode cX3_fold 20 = .ok (.ldc2_w 188, 3) := dk_20 0 188 (dk_at dksX3_fold_0 20 rfl rfl)
theorem dX3_fold_23 : decode cX3_fold 23 = .ok (.invokestatic 184, 3) := dk_184 0 184 (dk_at dksX3_fold_1 0 rfl rfl)
theorem dX3_fold_26 : decode cX3_fold 26 = .ok (.ifCond .ne 9, 3) := dk_154 0 9 (dk_at dksX3_fold_1 3 rfl rfl)
theorem dX3_fold_29 : decode cX3_fold 29 = .ok (.aload_n 0, 1) := dk_42 (dk_at dksX3_fold_1 6 rfl rfl)
theorem dX3_fold_30 : decode cX3_fold 30 = .ok (.iconst 1, 1) := dk_4 (dk_at dksX3_fold_1 7 rfl rfl)
theorem dX3_fold_31 : decode cX3_fold 31 = .ok (.putfield 90, 3) := dk_181 0 90 (dk_at dksX3_fold_1 8 rfl rfl)
theorem dX3_fold_34 : decode cX3_fold 34 = .ok (.return_, 1) := dk_177 (dk_at dksX3_fold_1 11 rfl rfl)
theorem dX3_fold_35 : decode cX3_fold 35 = .ok (.aload_n 0, 1) := dk_42 (dk_at dksX3_fold_1 12 rfl rfl)
theorem dX3_fold_36 : decode cX3_fold 36 = .ok (.iconst 0, 1) := dk_3 (dk_at dksX3_fold_1 13 rfl rfl)
theorem dX3_fold_37 : decode cX3_fold 37 = .ok (.putfield 90, 3) := dk_181 0 90 (dk_at dksX3_fold_1 14 rfl rfl)
theorem dX3_fold_40 : decode cX3_fold 40 = .ok (.aload_n 0, 1) := dk_42 (dk_at dksX3_fold_1 17 rfl rfl)
theorem dX3_fold_41 : decode cX3_fold 41 = .ok (.iload_n 1, 1) := dk_27 (dk_at dksX3_fold_1 18 rfl rfl)
theorem dX3_fold_42 : decode cX3_fold 42 = .ok (.putfield 44, 3) := dk_181 0 44 (dk_at dksX3_fold_1 19 rfl rfl)
theorem dX3_fold_45 : decode cX3_fold 45 = .ok (.aload_n 0, 1) := dk_42 (dk_at dksX3_fold_1 22 rfl rfl)
theorem dX3_fold_46 : decode cX3_fold 46 = .ok (.iload_n 2, 1) := dk_28 (dk_at dksX3_fold_1 23 rfl rfl)
theorem dX3_fold_47 : decode cX3_fold 47 = .ok (.putfield 47, 3) := dk_181 0 47 (dk_at dksX3_fold_2 0 rfl rfl)
theorem dX3_fold_50 : decode cX3_fold 50 = .ok (.return_, 1) := dk_177 (dk_at dksX3_fold_2 3 rfl rfl)
abbrev cX3_keep : ByteArray := prog_7_method_34_code
def yX3_keep : MethodName := ⟨RX3, "keep", "(I)I"⟩
def dkwX3_keep_6 : List UInt8 := [132, 3, 1, 167, 255, 154, 42, 180, 0, 75, 42, 180, 0, 97, 28, 79, 42, 180, 0, 97, 172]
abbrev dktX3_keep_6 : List UInt8 := dkwX3_keep_6 ++ []
def dkwX3_keep_5 : List UInt8 := [28, 42, 42, 180, 0, 16, 21, 4, 46, 182, 0, 212, 79, 132, 2, 1, 132, 4, 1, 167, 255, 178]
abbrev dktX3_keep_5 : List UInt8 := dkwX3_keep_5 ++ dktX3_keep_6
def dkwX3_keep_4 : List UInt8 := [180, 0, 7, 21, 4, 46, 79, 42, 180, 0, 81, 28, 42, 27, 21, 4, 182, 0, 111, 79, 42, 180, 0, 84]
abbrev dktX3_keep_4 : List UInt8 := dkwX3_keep_4 ++ dktX3_keep_5
def dkwX3_keep_3 : List UInt8 := [21, 4, 46, 29, 160, 0, 58, 42, 21, 4, 182, 0, 118, 154, 0, 49, 42, 180, 0, 78, 28, 42]
abbrev dktX3_keep_3 : List UInt8 := dkwX3_keep_3 ++ dktX3_keep_4
def dkwX3_keep_2 : List UInt8 := [42, 180, 0, 75, 29, 28, 79, 3, 54, 4, 21, 4, 42, 180, 0, 100, 162, 0, 75, 42, 180, 0, 50]
abbrev dktX3_keep_2 : List UInt8 := dkwX3_keep_2 ++ dktX3_keep_3
def dkwX3_keep_1 : List UInt8 := [27, 182, 0, 173, 42, 42, 180, 0, 97, 181, 0, 209, 3, 61, 3, 62, 29, 42, 180, 0, 97, 162, 0, 100]
abbrev dktX3_keep_1 : List UInt8 := dkwX3_keep_1 ++ dktX3_keep_2
def dkwX3_keep_0 : List UInt8 := [27, 133, 9, 20, 0, 190, 184, 0, 184, 154, 0, 9, 42, 4, 182, 0, 194, 172, 42, 3, 181, 0, 90, 42]
abbrev dktX3_keep_0 : List UInt8 := dkwX3_keep_0 ++ dktX3_keep_1
theorem dksX3_keep_0 : cX3_keep.data.toList.drop 0 = dktX3_keep_0 := by decide +kernel
theorem dksX3_keep_1 : cX3_keep.data.toList.drop 24 = dktX3_keep_1 := dk_seg dksX3_keep_0 24 rfl rfl
theorem dksX3_keep_2 : cX3_keep.data.toList.drop 48 = dktX3_keep_2 := dk_seg dksX3_keep_1 24 rfl rfl
theorem dksX3_keep_3 : cX3_keep.data.toList.drop 71 = dktX3_keep_3 := dk_seg dksX3_keep_2 23 rfl rfl
theorem dksX3_keep_4 : cX3_keep.data.toList.drop 93 = dktX3_keep_4 := dk_seg dksX3_keep_3 22 rfl rfl
theorem dksX3_keep_5 : cX3_keep.data.toList.drop 117 = dktX3_keep_5 := dk_seg dksX3_keep_4 24 rfl rfl
theorem dksX3_keep_6 : cX3_keep.data.toList.drop 139 = dktX3_keep_6 := dk_seg dksX3_keep_5 22 rfl rfl
theorem dX3_keep_0 : decode cX3_keep 0 = .ok (.iload_n 1, 1) := dk_27 (dk_at dksX3_keep_0 0 rfl rfl)
theorem dX3_keep_1 : decode cX3_keep 1 = .ok (.i2l, 1) := dk_133 (dk_at dksX3_keep_0 1 rfl rfl)
theorem dX3_keep_2 : decode cX3_keep 2 = .ok (.lconst 0, 1) := dk_9 (dk_at dksX3_keep_0 2 rfl rfl)
theorem dX3_keep_3 : decode cX3_keep 3 = .ok (.ldc2_w 190, 3) := dk_20 0 190 (dk_at dksX3_keep_0 3 rfl rfl)
theorem dX3_keep_6 : decode cX3_keep 6 = .ok (.invokestatic 184, 3) := dk_184 0 184 (dk_at dksX3_keep_0 6 rfl rfl)
theorem dX3_keep_9 : decode cX3_keep 9 = .ok (.ifCond .ne 9, 3) := dk_154 0 9 (dk_at dksX3_keep_0 9 rfl rfl)
theorem dX3_keep_12 : decode cX3_keep 12 = .ok (.aload_n 0, 1) := dk_42 (dk_at dksX3_keep_0 12 rfl rfl)
theorem dX3_keep_13 : decode cX3_keep 13 = .ok (.iconst 1, 1) := dk_4 (dk_at dksX3_keep_0 13 rfl rfl)
theorem dX3_keep_14 : decode cX3_keep 14 = .ok (.invokevirtual 194, 3) := dk_182 0 194 (dk_at dksX3_keep_0 14 rfl rfl)
theorem dX3_keep_17 : decode cX3_keep 17 = .ok (.ireturn, 1) := dk_172 (dk_at dksX3_keep_0 17 rfl rfl)
theorem dX3_keep_18 : decode cX3_keep 18 = .ok (.aload_n 0, 1) := dk_42 (dk_at dksX3_keep_0 18 rfl rfl)
theorem dX3_keep_19 : decode cX3_keep 19 = .ok (.iconst 0, 1) := dk_3 (dk_at dksX3_keep_0 19 rfl rfl)
theorem dX3_keep_20 : decode cX3_keep 20 = .ok (.putfield 90, 3) := dk_181 0 90 (dk_at dksX3_keep_0 20 rfl rfl)
theorem dX3_keep_23 : decode cX3_keep 23 = .ok (.aload_n 0, 1) := dk_42 (dk_at dksX3_keep_0 23 rfl rfl)
theorem dX3_keep_24 : decode cX3_keep 24 = .ok (.iload_n 1, 1) := dk_27 (dk_at dksX3_keep_1 0 rfl rfl)
theorem dX3_keep_25 : decode cX3_keep 25 = .ok (.invokevirtual 173, 3) := dk_182 0 173 (dk_at dksX3_keep_1 1 rfl rfl)
theorem dX3_keep_28 : decode cX3_keep 28 = .ok (.aload_n 0, 1) := dk_42 (dk_at dksX3_keep_1 4 rfl rfl)
theorem dX3_keep_29 : decode cX3_keep 29 = .ok (.aload_n 0, 1) := dk_42 (dk_at dksX3_keep_1 5 rfl rfl)
theorem dX3_keep_30 : decode cX3_keep 30 = .ok (.getfield 97, 3) := dk_180 0 97 (dk_at dksX3_keep_1 6 rfl rfl)
theorem dX3_keep_33 : decode cX3_keep 33 = .ok (.putfield 209, 3) := dk_181 0 209 (dk_at dksX3_keep_1 9 rfl rfl)
theorem dX3_keep_36 : decode cX3_keep 36 = .ok (.iconst 0, 1) := dk_3 (dk_at dksX3_keep_1 12 rfl rfl)
theorem dX3_keep_37 : decode cX3_keep 37 = .ok (.istore_n 2, 1) := dk_61 (dk_at dksX3_keep_1 13 rfl rfl)
theorem dX3_keep_38 : decode cX3_keep 38 = .ok (.iconst 0, 1) := dk_3 (dk_at dksX3_keep_1 14 rfl rfl)
theorem dX3_keep_39 : decode cX3_keep 39 = .ok (.istore_n 3, 1) := dk_62 (dk_at dksX3_keep_1 15 rfl rfl)
theorem dX3_keep_40 : decode cX3_keep 40 = .ok (.iload_n 3, 1) := dk_29 (dk_at dksX3_keep_1 16 rfl rfl)
theorem dX3_keep_41 : decode cX3_keep 41 = .ok (.aload_n 0, 1) := dk_42 (dk_at dksX3_keep_1 17 rfl rfl)
theorem dX3_keep_42 : decode cX3_keep 42 = .ok (.getfield 97, 3) := dk_180 0 97 (dk_at dksX3_keep_1 18 rfl rfl)
theorem dX3_keep_45 : decode cX3_keep 45 = .ok (.if_icmp .ge 100, 3) := dk_162 0 100 (dk_at dksX3_keep_1 21 rfl rfl)
theorem dX3_keep_48 : decode cX3_keep 48 = .ok (.aload_n 0, 1) := dk_42 (dk_at dksX3_keep_2 0 rfl rfl)
theorem dX3_keep_49 : decode cX3_keep 49 = .ok (.getfield 75, 3) := dk_180 0 75 (dk_at dksX3_keep_2 1 rfl rfl)
theorem dX3_keep_52 : decode cX3_keep 52 = .ok (.iload_n 3, 1) := dk_29 (dk_at dksX3_keep_2 4 rfl rfl)
theorem dX3_keep_53 : decode cX3_keep 53 = .ok (.iload_n 2, 1) := dk_28 (dk_at dksX3_keep_2 5 rfl rfl)
theorem dX3_keep_54 : decode cX3_keep 54 = .ok (.iastore, 1) := dk_79 (dk_at dksX3_keep_2 6 rfl rfl)
theorem dX3_keep_55 : decode cX3_keep 55 = .ok (.iconst 0, 1) := dk_3 (dk_at dksX3_keep_2 7 rfl rfl)
theorem dX3_keep_56 : decode cX3_keep 56 = .ok (.istore 4, 2) := dk_54 4 (dk_at dksX3_keep_2 8 rfl rfl)
theorem dX3_keep_58 : decode cX3_keep 58 = .ok (.iload 4, 2) := dk_21 4 (dk_at dksX3_keep_2 10 rfl rfl)
theorem dX3_keep_60 : decode cX3_keep 60 = .ok (.aload_n 0, 1) := dk_42 (dk_at dksX3_keep_2 12 rfl rfl)
theorem dX3_keep_61 : decode cX3_keep 61 = .ok (.getfield 100, 3) := dk_180 0 100 (dk_at dksX3_keep_2 13 rfl rfl)
theorem dX3_keep_64 : decode cX3_keep 64 = .ok (.if_icmp .ge 75, 3) := dk_162 0 75 (dk_at dksX3_keep_2 16 rfl rfl)
theorem dX3_keep_67 : decode cX3_keep 67 = .ok (.aload_n 0, 1) := dk_42 (dk_at dksX3_keep_2 19 rfl rfl)
theorem dX3_keep_68 : decode cX3_keep 68 = .ok (.getfield 50, 3) := dk_180 0 50 (dk_at dksX3_keep_2 20 rfl rfl)
theorem dX3_keep_71 : decode cX3_keep 71 = .ok (.iload 4, 2) := dk_21 4 (dk_at dksX3_keep_3 0 rfl rfl)
theorem dX3_keep_73 : decode cX3_keep 73 = .ok (.iaload, 1) := dk_46 (dk_at dksX3_keep_3 2 rfl rfl)
theorem dX3_keep_74 : decode cX3_keep 74 = .ok (.iload_n 3, 1) := dk_29 (dk_at dksX3_keep_3 3 rfl rfl)
theorem dX3_keep_75 : decode cX3_keep 75 = .ok (.if_icmp .ne 58, 3) := dk_160 0 58 (dk_at dksX3_keep_3 4 rfl rfl)
theorem dX3_keep_78 : decode cX3_keep 78 = .ok (.aload_n 0, 1) := dk_42 (dk_at dksX3_keep_3 7 rfl rfl)
theorem dX3_keep_79 : decode cX3_keep 79 = .ok (.iload 4, 2) := dk_21 4 (dk_at dksX3_keep_3 8 rfl rfl)
theorem dX3_keep_81 : decode cX3_keep 81 = .ok (.invokevirtual 118, 3) := dk_182 0 118 (dk_at dksX3_keep_3 10 rfl rfl)
theorem dX3_keep_84 : decode cX3_keep 84 = .ok (.ifCond .ne 49, 3) := dk_154 0 49 (dk_at dksX3_keep_3 13 rfl rfl)
theorem dX3_keep_87 : decode cX3_keep 87 = .ok (.aload_n 0, 1) := dk_42 (dk_at dksX3_keep_3 16 rfl rfl)
theorem dX3_keep_88 : decode cX3_keep 88 = .ok (.getfield 78, 3) := dk_180 0 78 (dk_at dksX3_keep_3 17 rfl rfl)
theorem dX3_keep_91 : decode cX3_keep 91 = .ok (.iload_n 2, 1) := dk_28 (dk_at dksX3_keep_3 20 rfl rfl)
theorem dX3_keep_92 : decode cX3_keep 92 = .ok (.aload_n 0, 1) := dk_42 (dk_at dksX3_keep_3 21 rfl rfl)
theorem dX3_keep_93 : decode cX3_keep 93 = .ok (.getfield 7, 3) := dk_180 0 7 (dk_at dksX3_keep_4 0 rfl rfl)
theorem dX3_keep_96 : decode cX3_keep 96 = .ok (.iload 4, 2) := dk_21 4 (dk_at dksX3_keep_4 3 rfl rfl)
theorem dX3_keep_98 : decode cX3_keep 98 = .ok (.iaload, 1) := dk_46 (dk_at dksX3_keep_4 5 rfl rfl)
theorem dX3_keep_99 : decode cX3_keep 99 = .ok (.iastore, 1) := dk_79 (dk_at dksX3_keep_4 6 rfl rfl)
theorem dX3_keep_100 : decode cX3_keep 100 = .ok (.aload_n 0, 1) := dk_42 (dk_at dksX3_keep_4 7 rfl rfl)
theorem dX3_keep_101 : decode cX3_keep 101 = .ok (.getfield 81, 3) := dk_180 0 81 (dk_at dksX3_keep_4 8 rfl rfl)
theorem dX3_keep_104 : decode cX3_keep 104 = .ok (.iload_n 2, 1) := dk_28 (dk_at dksX3_keep_4 11 rfl rfl)
theorem dX3_keep_105 : decode cX3_keep 105 = .ok (.aload_n 0, 1) := dk_42 (dk_at dksX3_keep_4 12 rfl rfl)
theorem dX3_keep_106 : decode cX3_keep 106 = .ok (.iload_n 1, 1) := dk_27 (dk_at dksX3_keep_4 13 rfl rfl)
theorem dX3_keep_107 : decode cX3_keep 107 = .ok (.iload 4, 2) := dk_21 4 (dk_at dksX3_keep_4 14 rfl rfl)
theorem dX3_keep_109 : decode cX3_keep 109 = .ok (.invokevirtual 111, 3) := dk_182 0 111 (dk_at dksX3_keep_4 16 rfl rfl)
theorem dX3_keep_112 : decode cX3_keep 112 = .ok (.iastore, 1) := dk_79 (dk_at dksX3_keep_4 19 rfl rfl)
theorem dX3_keep_113 : decode cX3_keep 113 = .ok (.aload_n 0, 1) := dk_42 (dk_at dksX3_keep_4 20 rfl rfl)
theorem dX3_keep_114 : decode cX3_keep 114 = .ok (.getfield 84, 3) := dk_180 0 84 (dk_at dksX3_keep_4 21 rfl rfl)
theorem dX3_keep_117 : decode cX3_keep 117 = .ok (.iload_n 2, 1) := dk_28 (dk_at dksX3_keep_5 0 rfl rfl)
theorem dX3_keep_118 : decode cX3_keep 118 = .ok (.aload_n 0, 1) := dk_42 (dk_at dksX3_keep_5 1 rfl rfl)
theorem dX3_keep_119 : decode cX3_keep 119 = .ok (.aload_n 0, 1) := dk_42 (dk_at dksX3_keep_5 2 rfl rfl)
theorem dX3_keep_120 : decode cX3_keep 120 = .ok (.getfield 16, 3) := dk_180 0 16 (dk_at dksX3_keep_5 3 rfl rfl)
theorem dX3_keep_123 : decode cX3_keep 123 = .ok (.iload 4, 2) := dk_21 4 (dk_at dksX3_keep_5 6 rfl rfl)
theorem dX3_keep_125 : decode cX3_keep 125 = .ok (.iaload, 1) := dk_46 (dk_at dksX3_keep_5 8 rfl rfl)
theorem dX3_keep_126 : decode cX3_keep 126 = .ok (.invokevirtual 212, 3) := dk_182 0 212 (dk_at dksX3_keep_5 9 rfl rfl)
theorem dX3_keep_129 : decode cX3_keep 129 = .ok (.iastore, 1) := dk_79 (dk_at dksX3_keep_5 12 rfl rfl)
theorem dX3_keep_130 : decode cX3_keep 130 = .ok (.iinc 2 1, 3) := dk_132 2 1 (dk_at dksX3_keep_5 13 rfl rfl)
theorem dX3_keep_133 : decode cX3_keep 133 = .ok (.iinc 4 1, 3) := dk_132 4 1 (dk_at dksX3_keep_5 16 rfl rfl)
theorem dX3_keep_136 : decode cX3_keep 136 = .ok (.goto (-78), 3) := dk_167 255 178 (dk_at dksX3_keep_5 19 rfl rfl)
theorem dX3_keep_139 : decode cX3_keep 139 = .ok (.iinc 3 1, 3) := dk_132 3 1 (dk_at dksX3_keep_6 0 rfl rfl)
theorem dX3_keep_142 : decode cX3_keep 142 = .ok (.goto (-102), 3) := dk_167 255 154 (dk_at dksX3_keep_6 3 rfl rfl)
theorem dX3_keep_145 : decode cX3_keep 145 = .ok (.aload_n 0, 1) := dk_42 (dk_at dksX3_keep_6 6 rfl rfl)
theorem dX3_keep_146 : decode cX3_keep 146 = .ok (.getfield 75, 3) := dk_180 0 75 (dk_at dksX3_keep_6 7 rfl rfl)
theorem dX3_keep_149 : decode cX3_keep 149 = .ok (.aload_n 0, 1) := dk_42 (dk_at dksX3_keep_6 10 rfl rfl)
theorem dX3_keep_150 : decode cX3_keep 150 = .ok (.getfield 97, 3) := dk_180 0 97 (dk_at dksX3_keep_6 11 rfl rfl)
theorem dX3_keep_153 : decode cX3_keep 153 = .ok (.iload_n 2, 1) := dk_28 (dk_at dksX3_keep_6 14 rfl rfl)
theorem dX3_keep_154 : decode cX3_keep 154 = .ok (.iastore, 1) := dk_79 (dk_at dksX3_keep_6 15 rfl rfl)
theorem dX3_keep_155 : decode cX3_keep 155 = .ok (.aload_n 0, 1) := dk_42 (dk_at dksX3_keep_6 16 rfl rfl)
theorem dX3_keep_156 : decode cX3_keep 156 = .ok (.getfield 97, 3) := dk_180 0 97 (dk_at dksX3_keep_6 17 rfl rfl)
theorem dX3_keep_159 : decode cX3_keep 159 = .ok (.ireturn, 1) := dk_172 (dk_at dksX3_keep_6 20 rfl rfl)
abbrev cX3_layLines : ByteArray := prog_7_method_11_code
def yX3_layLines : MethodName := ⟨RX3, "layLines", "(I)V"⟩
def dkwX3_layLines_8 : List UInt8 := [177]
abbrev dktX3_layLines_8 : List UInt8 := dkwX3_layLines_8 ++ []
def dkwX3_layLines_7 : List UInt8 := [61, 42, 180, 0, 50, 21, 5, 42, 180, 0, 97, 4, 100, 79, 132, 5, 1, 167, 255, 89, 42, 182, 0, 115]
abbrev dktX3_layLines_7 : List UInt8 := dkwX3_layLines_7 ++ dktX3_layLines_8
def dkwX3_layLines_6 : List UInt8 := [21, 6, 96, 96, 61, 167, 0, 20, 42, 3, 3, 182, 0, 103, 42, 180, 0, 69, 21, 4, 4, 84, 21, 6]
abbrev dktX3_layLines_6 : List UInt8 := dkwX3_layLines_6 ++ dktX3_layLines_7
def dkwX3_layLines_5 : List UInt8 := [21, 6, 61, 4, 62, 167, 0, 43, 28, 4, 96, 21, 6, 96, 42, 180, 0, 31, 163, 0, 13, 28, 4]
abbrev dktX3_layLines_5 : List UInt8 := dkwX3_layLines_5 ++ dktX3_layLines_6
def dkwX3_layLines_4 : List UInt8 := [21, 5, 182, 0, 111, 54, 6, 29, 154, 0, 23, 42, 180, 0, 97, 54, 4, 42, 3, 4, 182, 0, 103]
abbrev dktX3_layLines_4 : List UInt8 := dkwX3_layLines_4 ++ dktX3_layLines_5
def dkwX3_layLines_3 : List UInt8 := [21, 5, 42, 180, 0, 97, 4, 100, 79, 167, 0, 99, 42, 27, 21, 5, 182, 0, 107, 153, 0, 89, 42, 27]
abbrev dktX3_layLines_3 : List UInt8 := dkwX3_layLines_3 ++ dktX3_layLines_4
def dkwX3_layLines_2 : List UInt8 := [42, 180, 0, 7, 21, 5, 46, 6, 160, 0, 27, 3, 62, 42, 4, 4, 182, 0, 103, 42, 180, 0, 50]
abbrev dktX3_layLines_2 : List UInt8 := dkwX3_layLines_2 ++ dktX3_layLines_3
def dkwX3_layLines_1 : List UInt8 := [42, 180, 0, 50, 21, 5, 2, 79, 42, 180, 0, 7, 21, 5, 46, 5, 160, 0, 8, 3, 62, 167, 0, 134]
abbrev dktX3_layLines_1 : List UInt8 := dkwX3_layLines_1 ++ dktX3_layLines_2
def dkwX3_layLines_0 : List UInt8 := [42, 3, 181, 0, 97, 3, 61, 3, 62, 3, 54, 4, 3, 54, 5, 21, 5, 42, 180, 0, 100, 162, 0, 164]
abbrev dktX3_layLines_0 : List UInt8 := dkwX3_layLines_0 ++ dktX3_layLines_1
theorem dksX3_layLines_0 : cX3_layLines.data.toList.drop 0 = dktX3_layLines_0 := by decide +kernel
theorem dksX3_layLines_1 : cX3_layLines.data.toList.drop 24 = dktX3_layLines_1 := dk_seg dksX3_layLines_0 24 rfl rfl
theorem dksX3_layLines_2 : cX3_layLines.data.toList.drop 48 = dktX3_layLines_2 := dk_seg dksX3_layLines_1 24 rfl rfl
theorem dksX3_layLines_3 : cX3_layLines.data.toList.drop 71 = dktX3_layLines_3 := dk_seg dksX3_layLines_2 23 rfl rfl
theorem dksX3_layLines_4 : cX3_layLines.data.toList.drop 95 = dktX3_layLines_4 := dk_seg dksX3_layLines_3 24 rfl rfl
theorem dksX3_layLines_5 : cX3_layLines.data.toList.drop 118 = dktX3_layLines_5 := dk_seg dksX3_layLines_4 23 rfl rfl
theorem dksX3_layLines_6 : cX3_layLines.data.toList.drop 141 = dktX3_layLines_6 := dk_seg dksX3_layLines_5 23 rfl rfl
theorem dksX3_layLines_7 : cX3_layLines.data.toList.drop 165 = dktX3_layLines_7 := dk_seg dksX3_layLines_6 24 rfl rfl
theorem dksX3_layLines_8 : cX3_layLines.data.toList.drop 189 = dktX3_layLines_8 := dk_seg dksX3_layLines_7 24 rfl rfl
theorem dX3_layLines_0 : decode cX3_layLines 0 = .ok (.aload_n 0, 1) := dk_42 (dk_at dksX3_layLines_0 0 rfl rfl)
theorem dX3_layLines_1 : decode cX3_layLines 1 = .ok (.iconst 0, 1) := dk_3 (dk_at dksX3_layLines_0 1 rfl rfl)
theorem dX3_layLines_2 : decode cX3_layLines 2 = .ok (.putfield 97, 3) := dk_181 0 97 (dk_at dksX3_layLines_0 2 rfl rfl)
theorem dX3_layLines_5 : decode cX3_layLines 5 = .ok (.iconst 0, 1) := dk_3 (dk_at dksX3_layLines_0 5 rfl rfl)
theorem dX3_layLines_6 : decode cX3_layLines 6 = .ok (.istore_n 2, 1) := dk_61 (dk_at dksX3_layLines_0 6 rfl rfl)
theorem dX3_layLines_7 : decode cX3_layLines 7 = .ok (.iconst 0, 1) := dk_3 (dk_at dksX3_layLines_0 7 rfl rfl)
theorem dX3_layLines_8 : decode cX3_layLines 8 = .ok (.istore_n 3, 1) := dk_62 (dk_at dksX3_layLines_0 8 rfl rfl)
theorem dX3_layLines_9 : decode cX3_layLines 9 = .ok (.iconst 0, 1) := dk_3 (dk_at dksX3_layLines_0 9 rfl rfl)
theorem dX3_layLines_10 : decode cX3_layLines 10 = .ok (.istore 4, 2) := dk_54 4 (dk_at dksX3_layLines_0 10 rfl rfl)
theorem dX3_layLines_12 : decode cX3_layLines 12 = .ok (.iconst 0, 1) := dk_3 (dk_at dksX3_layLines_0 12 rfl rfl)
theorem dX3_layLines_13 : decode cX3_layLines 13 = .ok (.istore 5, 2) := dk_54 5 (dk_at dksX3_layLines_0 13 rfl rfl)
theorem dX3_layLines_15 : decode cX3_layLines 15 = .ok (.iload 5, 2) := dk_21 5 (dk_at dksX3_layLines_0 15 rfl rfl)
theorem dX3_layLines_17 : decode cX3_layLines 17 = .ok (.aload_n 0, 1) := dk_42 (dk_at dksX3_layLines_0 17 rfl rfl)
theorem dX3_layLines_18 : decode cX3_layLines 18 = .ok (.getfield 100, 3) := dk_180 0 100 (dk_at dksX3_layLines_0 18 rfl rfl)
theorem dX3_layLines_21 : decode cX3_layLines 21 = .ok (.if_icmp .ge 164, 3) := dk_162 0 164 (dk_at dksX3_layLines_0 21 rfl rfl)
theorem dX3_layLines_24 : decode cX3_layLines 24 = .ok (.aload_n 0, 1) := dk_42 (dk_at dksX3_layLines_1 0 rfl rfl)
theorem dX3_layLines_25 : decode cX3_layLines 25 = .ok (.getfield 50, 3) := dk_180 0 50 (dk_at dksX3_layLines_1 1 rfl rfl)
theorem dX3_layLines_28 : decode cX3_layLines 28 = .ok (.iload 5, 2) := dk_21 5 (dk_at dksX3_layLines_1 4 rfl rfl)
theorem dX3_layLines_30 : decode cX3_layLines 30 = .ok (.iconst (-1), 1) := dk_2 (dk_at dksX3_layLines_1 6 rfl rfl)
theorem dX3_layLines_31 : decode cX3_layLines 31 = .ok (.iastore, 1) := dk_79 (dk_at dksX3_layLines_1 7 rfl rfl)
theorem dX3_layLines_32 : decode cX3_layLines 32 = .ok (.aload_n 0, 1) := dk_42 (dk_at dksX3_layLines_1 8 rfl rfl)
theorem dX3_layLines_33 : decode cX3_layLines 33 = .ok (.getfield 7, 3) := dk_180 0 7 (dk_at dksX3_layLines_1 9 rfl rfl)
theorem dX3_layLines_36 : decode cX3_layLines 36 = .ok (.iload 5, 2) := dk_21 5 (dk_at dksX3_layLines_1 12 rfl rfl)
theorem dX3_layLines_38 : decode cX3_layLines 38 = .ok (.iaload, 1) := dk_46 (dk_at dksX3_layLines_1 14 rfl rfl)
theorem dX3_layLines_39 : decode cX3_layLines 39 = .ok (.iconst 2, 1) := dk_5 (dk_at dksX3_layLines_1 15 rfl rfl)
theorem dX3_layLines_40 : decode cX3_layLines 40 = .ok (.if_icmp .ne 8, 3) := dk_160 0 8 (dk_at dksX3_layLines_1 16 rfl rfl)
theorem dX3_layLines_43 : decode cX3_layLines 43 = .ok (.iconst 0, 1) := dk_3 (dk_at dksX3_layLines_1 19 rfl rfl)
theorem dX3_layLines_44 : decode cX3_layLines 44 = .ok (.istore_n 3, 1) := dk_62 (dk_at dksX3_layLines_1 20 rfl rfl)
theorem dX3_layLines_45 : decode cX3_layLines 45 = .ok (.goto 134, 3) := dk_167 0 134 (dk_at dksX3_layLines_1 21 rfl rfl)
theorem dX3_layLines_48 : decode cX3_layLines 48 = .ok (.aload_n 0, 1) := dk_42 (dk_at dksX3_layLines_2 0 rfl rfl)
theorem dX3_layLines_49 : decode cX3_layLines 49 = .ok (.getfield 7, 3) := dk_180 0 7 (dk_at dksX3_layLines_2 1 rfl rfl)
theorem dX3_layLines_52 : decode cX3_layLines 52 = .ok (.iload 5, 2) := dk_21 5 (dk_at dksX3_layLines_2 4 rfl rfl)
theorem dX3_layLines_54 : decode cX3_layLines 54 = .ok (.iaload, 1) := dk_46 (dk_at dksX3_layLines_2 6 rfl rfl)
theorem dX3_layLines_55 : decode cX3_layLines 55 = .ok (.iconst 3, 1) := dk_6 (dk_at dksX3_layLines_2 7 rfl rfl)
theorem dX3_layLines_56 : decode cX3_layLines 56 = .ok (.if_icmp .ne 27, 3) := dk_160 0 27 (dk_at dksX3_layLines_2 8 rfl rfl)
theorem dX3_layLines_59 : decode cX3_layLines 59 = .ok (.iconst 0, 1) := dk_3 (dk_at dksX3_layLines_2 11 rfl rfl)
theorem dX3_layLines_60 : decode cX3_layLines 60 = .ok (.istore_n 3, 1) := dk_62 (dk_at dksX3_layLines_2 12 rfl rfl)
theorem dX3_layLines_61 : decode cX3_layLines 61 = .ok (.aload_n 0, 1) := dk_42 (dk_at dksX3_layLines_2 13 rfl rfl)
theorem dX3_layLines_62 : decode cX3_layLines 62 = .ok (.iconst 1, 1) := dk_4 (dk_at dksX3_layLines_2 14 rfl rfl)
theorem dX3_layLines_63 : decode cX3_layLines 63 = .ok (.iconst 1, 1) := dk_4 (dk_at dksX3_layLines_2 15 rfl rfl)
theorem dX3_layLines_64 : decode cX3_layLines 64 = .ok (.invokevirtual 103, 3) := dk_182 0 103 (dk_at dksX3_layLines_2 16 rfl rfl)
theorem dX3_layLines_67 : decode cX3_layLines 67 = .ok (.aload_n 0, 1) := dk_42 (dk_at dksX3_layLines_2 19 rfl rfl)
theorem dX3_layLines_68 : decode cX3_layLines 68 = .ok (.getfield 50, 3) := dk_180 0 50 (dk_at dksX3_layLines_2 20 rfl rfl)
theorem dX3_layLines_71 : decode cX3_layLines 71 = .ok (.iload 5, 2) := dk_21 5 (dk_at dksX3_layLines_3 0 rfl rfl)
theorem dX3_layLines_73 : decode cX3_layLines 73 = .ok (.aload_n 0, 1) := dk_42 (dk_at dksX3_layLines_3 2 rfl rfl)
theorem dX3_layLines_74 : decode cX3_layLines 74 = .ok (.getfield 97, 3) := dk_180 0 97 (dk_at dksX3_layLines_3 3 rfl rfl)
theorem dX3_layLines_77 : decode cX3_layLines 77 = .ok (.iconst 1, 1) := dk_4 (dk_at dksX3_layLines_3 6 rfl rfl)
theorem dX3_layLines_78 : decode cX3_layLines 78 = .ok (.isub, 1) := dk_100 (dk_at dksX3_layLines_3 7 rfl rfl)
theorem dX3_layLines_79 : decode cX3_layLines 79 = .ok (.iastore, 1) := dk_79 (dk_at dksX3_layLines_3 8 rfl rfl)
theorem dX3_layLines_80 : decode cX3_layLines 80 = .ok (.goto 99, 3) := dk_167 0 99 (dk_at dksX3_layLines_3 9 rfl rfl)
theorem dX3_layLines_83 : decode cX3_layLines 83 = .ok (.aload_n 0, 1) := dk_42 (dk_at dksX3_layLines_3 12 rfl rfl)
theorem dX3_layLines_84 : decode cX3_layLines 84 = .ok (.iload_n 1, 1) := dk_27 (dk_at dksX3_layLines_3 13 rfl rfl)
theorem dX3_layLines_85 : decode cX3_layLines 85 = .ok (.iload 5, 2) := dk_21 5 (dk_at dksX3_layLines_3 14 rfl rfl)
theorem dX3_layLines_87 : decode cX3_layLines 87 = .ok (.invokevirtual 107, 3) := dk_182 0 107 (dk_at dksX3_layLines_3 16 rfl rfl)
theorem dX3_layLines_90 : decode cX3_layLines 90 = .ok (.ifCond .eq 89, 3) := dk_153 0 89 (dk_at dksX3_layLines_3 19 rfl rfl)
theorem dX3_layLines_93 : decode cX3_layLines 93 = .ok (.aload_n 0, 1) := dk_42 (dk_at dksX3_layLines_3 22 rfl rfl)
theorem dX3_layLines_94 : decode cX3_layLines 94 = .ok (.iload_n 1, 1) := dk_27 (dk_at dksX3_layLines_3 23 rfl rfl)
theorem dX3_layLines_95 : decode cX3_layLines 95 = .ok (.iload 5, 2) := dk_21 5 (dk_at dksX3_layLines_4 0 rfl rfl)
theorem dX3_layLines_97 : decode cX3_layLines 97 = .ok (.invokevirtual 111, 3) := dk_182 0 111 (dk_at dksX3_layLines_4 2 rfl rfl)
theorem dX3_layLines_100 : decode cX3_layLines 100 = .ok (.istore 6, 2) := dk_54 6 (dk_at dksX3_layLines_4 5 rfl rfl)
theorem dX3_layLines_102 : decode cX3_layLines 102 = .ok (.iload_n 3, 1) := dk_29 (dk_at dksX3_layLines_4 7 rfl rfl)
theorem dX3_layLines_103 : decode cX3_layLines 103 = .ok (.ifCond .ne 23, 3) := dk_154 0 23 (dk_at dksX3_layLines_4 8 rfl rfl)
theorem dX3_layLines_106 : decode cX3_layLines 106 = .ok (.aload_n 0, 1) := dk_42 (dk_at dksX3_layLines_4 11 rfl rfl)
theorem dX3_layLines_107 : decode cX3_layLines 107 = .ok (.getfield 97, 3) := dk_180 0 97 (dk_at dksX3_layLines_4 12 rfl rfl)
theorem dX3_layLines_110 : decode cX3_layLines 110 = .ok (.istore 4, 2) := dk_54 4 (dk_at dksX3_layLines_4 15 rfl rfl)
theorem dX3_layLines_112 : decode cX3_layLines 112 = .ok (.aload_n 0, 1) := dk_42 (dk_at dksX3_layLines_4 17 rfl rfl)
theorem dX3_layLines_113 : decode cX3_layLines 113 = .ok (.iconst 0, 1) := dk_3 (dk_at dksX3_layLines_4 18 rfl rfl)
theorem dX3_layLines_114 : decode cX3_layLines 114 = .ok (.iconst 1, 1) := dk_4 (dk_at dksX3_layLines_4 19 rfl rfl)
theorem dX3_layLines_115 : decode cX3_layLines 115 = .ok (.invokevirtual 103, 3) := dk_182 0 103 (dk_at dksX3_layLines_4 20 rfl rfl)
theorem dX3_layLines_118 : decode cX3_layLines 118 = .ok (.iload 6, 2) := dk_21 6 (dk_at dksX3_layLines_5 0 rfl rfl)
theorem dX3_layLines_120 : decode cX3_layLines 120 = .ok (.istore_n 2, 1) := dk_61 (dk_at dksX3_layLines_5 2 rfl rfl)
theorem dX3_layLines_121 : decode cX3_layLines 121 = .ok (.iconst 1, 1) := dk_4 (dk_at dksX3_layLines_5 3 rfl rfl)
theorem dX3_layLines_122 : decode cX3_layLines 122 = .ok (.istore_n 3, 1) := dk_62 (dk_at dksX3_layLines_5 4 rfl rfl)
theorem dX3_layLines_123 : decode cX3_layLines 123 = .ok (.goto 43, 3) := dk_167 0 43 (dk_at dksX3_layLines_5 5 rfl rfl)
theorem dX3_layLines_126 : decode cX3_layLines 126 = .ok (.iload_n 2, 1) := dk_28 (dk_at dksX3_layLines_5 8 rfl rfl)
theorem dX3_layLines_127 : decode cX3_layLines 127 = .ok (.iconst 1, 1) := dk_4 (dk_at dksX3_layLines_5 9 rfl rfl)
theorem dX3_layLines_128 : decode cX3_layLines 128 = .ok (.iadd, 1) := dk_96 (dk_at dksX3_layLines_5 10 rfl rfl)
theorem dX3_layLines_129 : decode cX3_layLines 129 = .ok (.iload 6, 2) := dk_21 6 (dk_at dksX3_layLines_5 11 rfl rfl)
theorem dX3_layLines_131 : decode cX3_layLines 131 = .ok (.iadd, 1) := dk_96 (dk_at dksX3_layLines_5 13 rfl rfl)
theorem dX3_layLines_132 : decode cX3_layLines 132 = .ok (.aload_n 0, 1) := dk_42 (dk_at dksX3_layLines_5 14 rfl rfl)
theorem dX3_layLines_133 : decode cX3_layLines 133 = .ok (.getfield 31, 3) := dk_180 0 31 (dk_at dksX3_layLines_5 15 rfl rfl)
theorem dX3_layLines_136 : decode cX3_layLines 136 = .ok (.if_icmp .gt 13, 3) := dk_163 0 13 (dk_at dksX3_layLines_5 18 rfl rfl)
theorem dX3_layLines_139 : decode cX3_layLines 139 = .ok (.iload_n 2, 1) := dk_28 (dk_at dksX3_layLines_5 21 rfl rfl)
theorem dX3_layLines_140 : decode cX3_layLines 140 = .ok (.iconst 1, 1) := dk_4 (dk_at dksX3_layLines_5 22 rfl rfl)
theorem dX3_layLines_141 : decode cX3_layLines 141 = .ok (.iload 6, 2) := dk_21 6 (dk_at dksX3_layLines_6 0 rfl rfl)
theorem dX3_layLines_143 : decode cX3_layLines 143 = .ok (.iadd, 1) := dk_96 (dk_at dksX3_layLines_6 2 rfl rfl)
theorem dX3_layLines_144 : decode cX3_layLines 144 = .ok (.iadd, 1) := dk_96 (dk_at dksX3_layLines_6 3 rfl rfl)
theorem dX3_layLines_145 : decode cX3_layLines 145 = .ok (.istore_n 2, 1) := dk_61 (dk_at dksX3_layLines_6 4 rfl rfl)
theorem dX3_layLines_146 : decode cX3_layLines 146 = .ok (.goto 20, 3) := dk_167 0 20 (dk_at dksX3_layLines_6 5 rfl rfl)
theorem dX3_layLines_149 : decode cX3_layLines 149 = .ok (.aload_n 0, 1) := dk_42 (dk_at dksX3_layLines_6 8 rfl rfl)
theorem dX3_layLines_150 : decode cX3_layLines 150 = .ok (.iconst 0, 1) := dk_3 (dk_at dksX3_layLines_6 9 rfl rfl)
theorem dX3_layLines_151 : decode cX3_layLines 151 = .ok (.iconst 0, 1) := dk_3 (dk_at dksX3_layLines_6 10 rfl rfl)
theorem dX3_layLines_152 : decode cX3_layLines 152 = .ok (.invokevirtual 103, 3) := dk_182 0 103 (dk_at dksX3_layLines_6 11 rfl rfl)
theorem dX3_layLines_155 : decode cX3_layLines 155 = .ok (.aload_n 0, 1) := dk_42 (dk_at dksX3_layLines_6 14 rfl rfl)
theorem dX3_layLines_156 : decode cX3_layLines 156 = .ok (.getfield 69, 3) := dk_180 0 69 (dk_at dksX3_layLines_6 15 rfl rfl)
theorem dX3_layLines_159 : decode cX3_layLines 159 = .ok (.iload 4, 2) := dk_21 4 (dk_at dksX3_layLines_6 18 rfl rfl)
theorem dX3_layLines_161 : decode cX3_layLines 161 = .ok (.iconst 1, 1) := dk_4 (dk_at dksX3_layLines_6 20 rfl rfl)
theorem dX3_layLines_162 : decode cX3_layLines 162 = .ok (.bastore, 1) := dk_84 (dk_at dksX3_layLines_6 21 rfl rfl)
theorem dX3_layLines_163 : decode cX3_layLines 163 = .ok (.iload 6, 2) := dk_21 6 (dk_at dksX3_layLines_6 22 rfl rfl)
theorem dX3_layLines_165 : decode cX3_layLines 165 = .ok (.istore_n 2, 1) := dk_61 (dk_at dksX3_layLines_7 0 rfl rfl)
theorem dX3_layLines_166 : decode cX3_layLines 166 = .ok (.aload_n 0, 1) := dk_42 (dk_at dksX3_layLines_7 1 rfl rfl)
theorem dX3_layLines_167 : decode cX3_layLines 167 = .ok (.getfield 50, 3) := dk_180 0 50 (dk_at dksX3_layLines_7 2 rfl rfl)
theorem dX3_layLines_170 : decode cX3_layLines 170 = .ok (.iload 5, 2) := dk_21 5 (dk_at dksX3_layLines_7 5 rfl rfl)
theorem dX3_layLines_172 : decode cX3_layLines 172 = .ok (.aload_n 0, 1) := dk_42 (dk_at dksX3_layLines_7 7 rfl rfl)
theorem dX3_layLines_173 : decode cX3_layLines 173 = .ok (.getfield 97, 3) := dk_180 0 97 (dk_at dksX3_layLines_7 8 rfl rfl)
theorem dX3_layLines_176 : decode cX3_layLines 176 = .ok (.iconst 1, 1) := dk_4 (dk_at dksX3_layLines_7 11 rfl rfl)
theorem dX3_layLines_177 : decode cX3_layLines 177 = .ok (.isub, 1) := dk_100 (dk_at dksX3_layLines_7 12 rfl rfl)
theorem dX3_layLines_178 : decode cX3_layLines 178 = .ok (.iastore, 1) := dk_79 (dk_at dksX3_layLines_7 13 rfl rfl)
theorem dX3_layLines_179 : decode cX3_layLines 179 = .ok (.iinc 5 1, 3) := dk_132 5 1 (dk_at dksX3_layLines_7 14 rfl rfl)
theorem dX3_layLines_182 : decode cX3_layLines 182 = .ok (.goto (-167), 3) := dk_167 255 89 (dk_at dksX3_layLines_7 17 rfl rfl)
theorem dX3_layLines_185 : decode cX3_layLines 185 = .ok (.aload_n 0, 1) := dk_42 (dk_at dksX3_layLines_7 20 rfl rfl)
theorem dX3_layLines_186 : decode cX3_layLines 186 = .ok (.invokevirtual 115, 3) := dk_182 0 115 (dk_at dksX3_layLines_7 21 rfl rfl)
theorem dX3_layLines_189 : decode cX3_layLines 189 = .ok (.return_, 1) := dk_177 (dk_at dksX3_layLines_8 0 rfl rfl)
abbrev cX3_newLine : ByteArray := prog_7_method_10_code
def yX3_newLine : MethodName := ⟨RX3, "newLine", "(ZZ)V"⟩
def dkwX3_newLine_2 : List UInt8 := [181, 0, 97, 177]
abbrev dktX3_newLine_2 : List UInt8 := dkwX3_newLine_2 ++ []
def dkwX3_newLine_1 : List UInt8 := [42, 180, 0, 97, 3, 84, 42, 180, 0, 59, 42, 180, 0, 97, 3, 79, 42, 89, 180, 0, 97, 4, 96]
abbrev dktX3_newLine_1 : List UInt8 := dkwX3_newLine_1 ++ dktX3_newLine_2
def dkwX3_newLine_0 : List UInt8 := [42, 180, 0, 62, 42, 180, 0, 97, 27, 84, 42, 180, 0, 66, 42, 180, 0, 97, 28, 84, 42, 180, 0, 69]
abbrev dktX3_newLine_0 : List UInt8 := dkwX3_newLine_0 ++ dktX3_newLine_1
theorem dksX3_newLine_0 : cX3_newLine.data.toList.drop 0 = dktX3_newLine_0 := by decide +kernel
theorem dksX3_newLine_1 : cX3_newLine.data.toList.drop 24 = dktX3_newLine_1 := dk_seg dksX3_newLine_0 24 rfl rfl
theorem dksX3_newLine_2 : cX3_newLine.data.toList.drop 47 = dktX3_newLine_2 := dk_seg dksX3_newLine_1 23 rfl rfl
theorem dX3_newLine_0 : decode cX3_newLine 0 = .ok (.aload_n 0, 1) := dk_42 (dk_at dksX3_newLine_0 0 rfl rfl)
theorem dX3_newLine_1 : decode cX3_newLine 1 = .ok (.getfield 62, 3) := dk_180 0 62 (dk_at dksX3_newLine_0 1 rfl rfl)
theorem dX3_newLine_4 : decode cX3_newLine 4 = .ok (.aload_n 0, 1) := dk_42 (dk_at dksX3_newLine_0 4 rfl rfl)
theorem dX3_newLine_5 : decode cX3_newLine 5 = .ok (.getfield 97, 3) := dk_180 0 97 (dk_at dksX3_newLine_0 5 rfl rfl)
theorem dX3_newLine_8 : decode cX3_newLine 8 = .ok (.iload_n 1, 1) := dk_27 (dk_at dksX3_newLine_0 8 rfl rfl)
theorem dX3_newLine_9 : decode cX3_newLine 9 = .ok (.bastore, 1) := dk_84 (dk_at dksX3_newLine_0 9 rfl rfl)
theorem dX3_newLine_10 : decode cX3_newLine 10 = .ok (.aload_n 0, 1) := dk_42 (dk_at dksX3_newLine_0 10 rfl rfl)
theorem dX3_newLine_11 : decode cX3_newLine 11 = .ok (.getfield 66, 3) := dk_180 0 66 (dk_at dksX3_newLine_0 11 rfl rfl)
theorem dX3_newLine_14 : decode cX3_newLine 14 = .ok (.aload_n 0, 1) := dk_42 (dk_at dksX3_newLine_0 14 rfl rfl)
theorem dX3_newLine_15 : decode cX3_newLine 15 = .ok (.getfield 97, 3) := dk_180 0 97 (dk_at dksX3_newLine_0 15 rfl rfl)
theorem dX3_newLine_18 : decode cX3_newLine 18 = .ok (.iload_n 2, 1) := dk_28 (dk_at dksX3_newLine_0 18 rfl rfl)
theorem dX3_newLine_19 : decode cX3_newLine 19 = .ok (.bastore, 1) := dk_84 (dk_at dksX3_newLine_0 19 rfl rfl)
theorem dX3_newLine_20 : decode cX3_newLine 20 = .ok (.aload_n 0, 1) := dk_42 (dk_at dksX3_newLine_0 20 rfl rfl)
theorem dX3_newLine_21 : decode cX3_newLine 21 = .ok (.getfield 69, 3) := dk_180 0 69 (dk_at dksX3_newLine_0 21 rfl rfl)
theorem dX3_newLine_24 : decode cX3_newLine 24 = .ok (.aload_n 0, 1) := dk_42 (dk_at dksX3_newLine_1 0 rfl rfl)
theorem dX3_newLine_25 : decode cX3_newLine 25 = .ok (.getfield 97, 3) := dk_180 0 97 (dk_at dksX3_newLine_1 1 rfl rfl)
theorem dX3_newLine_28 : decode cX3_newLine 28 = .ok (.iconst 0, 1) := dk_3 (dk_at dksX3_newLine_1 4 rfl rfl)
theorem dX3_newLine_29 : decode cX3_newLine 29 = .ok (.bastore, 1) := dk_84 (dk_at dksX3_newLine_1 5 rfl rfl)
theorem dX3_newLine_30 : decode cX3_newLine 30 = .ok (.aload_n 0, 1) := dk_42 (dk_at dksX3_newLine_1 6 rfl rfl)
theorem dX3_newLine_31 : decode cX3_newLine 31 = .ok (.getfield 59, 3) := dk_180 0 59 (dk_at dksX3_newLine_1 7 rfl rfl)
theorem dX3_newLine_34 : decode cX3_newLine 34 = .ok (.aload_n 0, 1) := dk_42 (dk_at dksX3_newLine_1 10 rfl rfl)
theorem dX3_newLine_35 : decode cX3_newLine 35 = .ok (.getfield 97, 3) := dk_180 0 97 (dk_at dksX3_newLine_1 11 rfl rfl)
theorem dX3_newLine_38 : decode cX3_newLine 38 = .ok (.iconst 0, 1) := dk_3 (dk_at dksX3_newLine_1 14 rfl rfl)
theorem dX3_newLine_39 : decode cX3_newLine 39 = .ok (.iastore, 1) := dk_79 (dk_at dksX3_newLine_1 15 rfl rfl)
theorem dX3_newLine_40 : decode cX3_newLine 40 = .ok (.aload_n 0, 1) := dk_42 (dk_at dksX3_newLine_1 16 rfl rfl)
theorem dX3_newLine_41 : decode cX3_newLine 41 = .ok (.dup, 1) := dk_89 (dk_at dksX3_newLine_1 17 rfl rfl)
theorem dX3_newLine_42 : decode cX3_newLine 42 = .ok (.getfield 97, 3) := dk_180 0 97 (dk_at dksX3_newLine_1 18 rfl rfl)
theorem dX3_newLine_45 : decode cX3_newLine 45 = .ok (.iconst 1, 1) := dk_4 (dk_at dksX3_newLine_1 21 rfl rfl)
theorem dX3_newLine_46 : decode cX3_newLine 46 = .ok (.iadd, 1) := dk_96 (dk_at dksX3_newLine_1 22 rfl rfl)
theorem dX3_newLine_47 : decode cX3_newLine 47 = .ok (.putfield 97, 3) := dk_181 0 97 (dk_at dksX3_newLine_2 0 rfl rfl)
theorem dX3_newLine_50 : decode cX3_newLine 50 = .ok (.return_, 1) := dk_177 (dk_at dksX3_newLine_2 3 rfl rfl)
abbrev cX3_isPrinted : ByteArray := prog_7_method_7_code
def yX3_isPrinted : MethodName := ⟨RX3, "isPrinted", "(II)Z"⟩
def dkwX3_isPrinted_2 : List UInt8 := [167, 0, 4, 3, 172]
abbrev dktX3_isPrinted_2 : List UInt8 := dkwX3_isPrinted_2 ++ []
def dkwX3_isPrinted_1 : List UInt8 := [46, 4, 160, 0, 25, 42, 180, 0, 28, 7, 27, 104, 42, 180, 0, 13, 28, 46, 96, 46, 158, 0, 7, 4]
abbrev dktX3_isPrinted_1 : List UInt8 := dkwX3_isPrinted_1 ++ dktX3_isPrinted_2
def dkwX3_isPrinted_0 : List UInt8 := [42, 180, 0, 7, 28, 46, 153, 0, 41, 42, 180, 0, 7, 28, 46, 6, 159, 0, 31, 42, 180, 0, 7, 28]
abbrev dktX3_isPrinted_0 : List UInt8 := dkwX3_isPrinted_0 ++ dktX3_isPrinted_1
theorem dksX3_isPrinted_0 : cX3_isPrinted.data.toList.drop 0 = dktX3_isPrinted_0 := by decide +kernel
theorem dksX3_isPrinted_1 : cX3_isPrinted.data.toList.drop 24 = dktX3_isPrinted_1 := dk_seg dksX3_isPrinted_0 24 rfl rfl
theorem dksX3_isPrinted_2 : cX3_isPrinted.data.toList.drop 48 = dktX3_isPrinted_2 := dk_seg dksX3_isPrinted_1 24 rfl rfl
theorem dX3_isPrinted_0 : decode cX3_isPrinted 0 = .ok (.aload_n 0, 1) := dk_42 (dk_at dksX3_isPrinted_0 0 rfl rfl)
theorem dX3_isPrinted_1 : decode cX3_isPrinted 1 = .ok (.getfield 7, 3) := dk_180 0 7 (dk_at dksX3_isPrinted_0 1 rfl rfl)
theorem dX3_isPrinted_4 : decode cX3_isPrinted 4 = .ok (.iload_n 2, 1) := dk_28 (dk_at dksX3_isPrinted_0 4 rfl rfl)
theorem dX3_isPrinted_5 : decode cX3_isPrinted 5 = .ok (.iaload, 1) := dk_46 (dk_at dksX3_isPrinted_0 5 rfl rfl)
theorem dX3_isPrinted_6 : decode cX3_isPrinted 6 = .ok (.ifCond .eq 41, 3) := dk_153 0 41 (dk_at dksX3_isPrinted_0 6 rfl rfl)
theorem dX3_isPrinted_9 : decode cX3_isPrinted 9 = .ok (.aload_n 0, 1) := dk_42 (dk_at dksX3_isPrinted_0 9 rfl rfl)
theorem dX3_isPrinted_10 : decode cX3_isPrinted 10 = .ok (.getfield 7, 3) := dk_180 0 7 (dk_at dksX3_isPrinted_0 10 rfl rfl)
theorem dX3_isPrinted_13 : decode cX3_isPrinted 13 = .ok (.iload_n 2, 1) := dk_28 (dk_at dksX3_isPrinted_0 13 rfl rfl)
theorem dX3_isPrinted_14 : decode cX3_isPrinted 14 = .ok (.iaload, 1) := dk_46 (dk_at dksX3_isPrinted_0 14 rfl rfl)
theorem dX3_isPrinted_15 : decode cX3_isPrinted 15 = .ok (.iconst 3, 1) := dk_6 (dk_at dksX3_isPrinted_0 15 rfl rfl)
theorem dX3_isPrinted_16 : decode cX3_isPrinted 16 = .ok (.if_icmp .eq 31, 3) := dk_159 0 31 (dk_at dksX3_isPrinted_0 16 rfl rfl)
theorem dX3_isPrinted_19 : decode cX3_isPrinted 19 = .ok (.aload_n 0, 1) := dk_42 (dk_at dksX3_isPrinted_0 19 rfl rfl)
theorem dX3_isPrinted_20 : decode cX3_isPrinted 20 = .ok (.getfield 7, 3) := dk_180 0 7 (dk_at dksX3_isPrinted_0 20 rfl rfl)
theorem dX3_isPrinted_23 : decode cX3_isPrinted 23 = .ok (.iload_n 2, 1) := dk_28 (dk_at dksX3_isPrinted_0 23 rfl rfl)
theorem dX3_isPrinted_24 : decode cX3_isPrinted 24 = .ok (.iaload, 1) := dk_46 (dk_at dksX3_isPrinted_1 0 rfl rfl)
theorem dX3_isPrinted_25 : decode cX3_isPrinted 25 = .ok (.iconst 1, 1) := dk_4 (dk_at dksX3_isPrinted_1 1 rfl rfl)
theorem dX3_isPrinted_26 : decode cX3_isPrinted 26 = .ok (.if_icmp .ne 25, 3) := dk_160 0 25 (dk_at dksX3_isPrinted_1 2 rfl rfl)
theorem dX3_isPrinted_29 : decode cX3_isPrinted 29 = .ok (.aload_n 0, 1) := dk_42 (dk_at dksX3_isPrinted_1 5 rfl rfl)
theorem dX3_isPrinted_30 : decode cX3_isPrinted 30 = .ok (.getfield 28, 3) := dk_180 0 28 (dk_at dksX3_isPrinted_1 6 rfl rfl)
theorem dX3_isPrinted_33 : decode cX3_isPrinted 33 = .ok (.iconst 4, 1) := dk_7 (dk_at dksX3_isPrinted_1 9 rfl rfl)
theorem dX3_isPrinted_34 : decode cX3_isPrinted 34 = .ok (.iload_n 1, 1) := dk_27 (dk_at dksX3_isPrinted_1 10 rfl rfl)
theorem dX3_isPrinted_35 : decode cX3_isPrinted 35 = .ok (.imul, 1) := dk_104 (dk_at dksX3_isPrinted_1 11 rfl rfl)
theorem dX3_isPrinted_36 : decode cX3_isPrinted 36 = .ok (.aload_n 0, 1) := dk_42 (dk_at dksX3_isPrinted_1 12 rfl rfl)
theorem dX3_isPrinted_37 : decode cX3_isPrinted 37 = .ok (.getfield 13, 3) := dk_180 0 13 (dk_at dksX3_isPrinted_1 13 rfl rfl)
theorem dX3_isPrinted_40 : decode cX3_isPrinted 40 = .ok (.iload_n 2, 1) := dk_28 (dk_at dksX3_isPrinted_1 16 rfl rfl)
theorem dX3_isPrinted_41 : decode cX3_isPrinted 41 = .ok (.iaload, 1) := dk_46 (dk_at dksX3_isPrinted_1 17 rfl rfl)
theorem dX3_isPrinted_42 : decode cX3_isPrinted 42 = .ok (.iadd, 1) := dk_96 (dk_at dksX3_isPrinted_1 18 rfl rfl)
theorem dX3_isPrinted_43 : decode cX3_isPrinted 43 = .ok (.iaload, 1) := dk_46 (dk_at dksX3_isPrinted_1 19 rfl rfl)
theorem dX3_isPrinted_44 : decode cX3_isPrinted 44 = .ok (.ifCond .le 7, 3) := dk_158 0 7 (dk_at dksX3_isPrinted_1 20 rfl rfl)
theorem dX3_isPrinted_47 : decode cX3_isPrinted 47 = .ok (.iconst 1, 1) := dk_4 (dk_at dksX3_isPrinted_1 23 rfl rfl)
theorem dX3_isPrinted_48 : decode cX3_isPrinted 48 = .ok (.goto 4, 3) := dk_167 0 4 (dk_at dksX3_isPrinted_2 0 rfl rfl)
theorem dX3_isPrinted_51 : decode cX3_isPrinted 51 = .ok (.iconst 0, 1) := dk_3 (dk_at dksX3_isPrinted_2 3 rfl rfl)
theorem dX3_isPrinted_52 : decode cX3_isPrinted 52 = .ok (.ireturn, 1) := dk_172 (dk_at dksX3_isPrinted_2 4 rfl rfl)
abbrev cX3_wide : ByteArray := prog_7_method_8_code
def yX3_wide : MethodName := ⟨RX3, "wide", "(II)I"⟩
def dkwX3_wide_1 : List UInt8 := [46, 167, 0, 9, 42, 180, 0, 13, 28, 46, 42, 42, 180, 0, 16, 28, 46, 182, 0, 93, 96, 172]
abbrev dktX3_wide_1 : List UInt8 := dkwX3_wide_1 ++ []
def dkwX3_wide_0 : List UInt8 := [42, 180, 0, 7, 28, 46, 4, 160, 0, 21, 42, 180, 0, 28, 7, 27, 104, 42, 180, 0, 13, 28, 46, 96]
abbrev dktX3_wide_0 : List UInt8 := dkwX3_wide_0 ++ dktX3_wide_1
theorem dksX3_wide_0 : cX3_wide.data.toList.drop 0 = dktX3_wide_0 := by decide +kernel
theorem dksX3_wide_1 : cX3_wide.data.toList.drop 24 = dktX3_wide_1 := dk_seg dksX3_wide_0 24 rfl rfl
theorem dX3_wide_0 : decode cX3_wide 0 = .ok (.aload_n 0, 1) := dk_42 (dk_at dksX3_wide_0 0 rfl rfl)
theorem dX3_wide_1 : decode cX3_wide 1 = .ok (.getfield 7, 3) := dk_180 0 7 (dk_at dksX3_wide_0 1 rfl rfl)
theorem dX3_wide_4 : decode cX3_wide 4 = .ok (.iload_n 2, 1) := dk_28 (dk_at dksX3_wide_0 4 rfl rfl)
theorem dX3_wide_5 : decode cX3_wide 5 = .ok (.iaload, 1) := dk_46 (dk_at dksX3_wide_0 5 rfl rfl)
theorem dX3_wide_6 : decode cX3_wide 6 = .ok (.iconst 1, 1) := dk_4 (dk_at dksX3_wide_0 6 rfl rfl)
theorem dX3_wide_7 : decode cX3_wide 7 = .ok (.if_icmp .ne 21, 3) := dk_160 0 21 (dk_at dksX3_wide_0 7 rfl rfl)
theorem dX3_wide_10 : decode cX3_wide 10 = .ok (.aload_n 0, 1) := dk_42 (dk_at dksX3_wide_0 10 rfl rfl)
theorem dX3_wide_11 : decode cX3_wide 11 = .ok (.getfield 28, 3) := dk_180 0 28 (dk_at dksX3_wide_0 11 rfl rfl)
theorem dX3_wide_14 : decode cX3_wide 14 = .ok (.iconst 4, 1) := dk_7 (dk_at dksX3_wide_0 14 rfl rfl)
theorem dX3_wide_15 : decode cX3_wide 15 = .ok (.iload_n 1, 1) := dk_27 (dk_at dksX3_wide_0 15 rfl rfl)
theorem dX3_wide_16 : decode cX3_wide 16 = .ok (.imul, 1) := dk_104 (dk_at dksX3_wide_0 16 rfl rfl)
theorem dX3_wide_17 : decode cX3_wide 17 = .ok (.aload_n 0, 1) := dk_42 (dk_at dksX3_wide_0 17 rfl rfl)
theorem dX3_wide_18 : decode cX3_wide 18 = .ok (.getfield 13, 3) := dk_180 0 13 (dk_at dksX3_wide_0 18 rfl rfl)
theorem dX3_wide_21 : decode cX3_wide 21 = .ok (.iload_n 2, 1) := dk_28 (dk_at dksX3_wide_0 21 rfl rfl)
theorem dX3_wide_22 : decode cX3_wide 22 = .ok (.iaload, 1) := dk_46 (dk_at dksX3_wide_0 22 rfl rfl)
theorem dX3_wide_23 : decode cX3_wide 23 = .ok (.iadd, 1) := dk_96 (dk_at dksX3_wide_0 23 rfl rfl)
theorem dX3_wide_24 : decode cX3_wide 24 = .ok (.iaload, 1) := dk_46 (dk_at dksX3_wide_1 0 rfl rfl)
theorem dX3_wide_25 : decode cX3_wide 25 = .ok (.goto 9, 3) := dk_167 0 9 (dk_at dksX3_wide_1 1 rfl rfl)
theorem dX3_wide_28 : decode cX3_wide 28 = .ok (.aload_n 0, 1) := dk_42 (dk_at dksX3_wide_1 4 rfl rfl)
theorem dX3_wide_29 : decode cX3_wide 29 = .ok (.getfield 13, 3) := dk_180 0 13 (dk_at dksX3_wide_1 5 rfl rfl)
theorem dX3_wide_32 : decode cX3_wide 32 = .ok (.iload_n 2, 1) := dk_28 (dk_at dksX3_wide_1 8 rfl rfl)
theorem dX3_wide_33 : decode cX3_wide 33 = .ok (.iaload, 1) := dk_46 (dk_at dksX3_wide_1 9 rfl rfl)
theorem dX3_wide_34 : decode cX3_wide 34 = .ok (.aload_n 0, 1) := dk_42 (dk_at dksX3_wide_1 10 rfl rfl)
theorem dX3_wide_35 : decode cX3_wide 35 = .ok (.aload_n 0, 1) := dk_42 (dk_at dksX3_wide_1 11 rfl rfl)
theorem dX3_wide_36 : decode cX3_wide 36 = .ok (.getfield 16, 3) := dk_180 0 16 (dk_at dksX3_wide_1 12 rfl rfl)
theorem dX3_wide_39 : decode cX3_wide 39 = .ok (.iload_n 2, 1) := dk_28 (dk_at dksX3_wide_1 15 rfl rfl)
theorem dX3_wide_40 : decode cX3_wide 40 = .ok (.iaload, 1) := dk_46 (dk_at dksX3_wide_1 16 rfl rfl)
theorem dX3_wide_41 : decode cX3_wide 41 = .ok (.invokevirtual 93, 3) := dk_182 0 93 (dk_at dksX3_wide_1 17 rfl rfl)
theorem dX3_wide_44 : decode cX3_wide 44 = .ok (.iadd, 1) := dk_96 (dk_at dksX3_wide_1 20 rfl rfl)
theorem dX3_wide_45 : decode cX3_wide 45 = .ok (.ireturn, 1) := dk_172 (dk_at dksX3_wide_1 21 rfl rfl)
abbrev cX3_extraOf : ByteArray := prog_7_method_5_code
def yX3_extraOf : MethodName := ⟨RX3, "extraOf", "(I)I"⟩
def dkwX3_extraOf_2 : List UInt8 := [180, 0, 22, 28, 46, 172]
abbrev dktX3_extraOf_2 : List UInt8 := dkwX3_extraOf_2 ++ []
def dkwX3_extraOf_1 : List UInt8 := [180, 0, 19, 28, 46, 61, 167, 255, 229, 42, 180, 0, 22, 28, 46, 2, 160, 0, 7, 3, 167, 0, 9, 42]
abbrev dktX3_extraOf_1 : List UInt8 := dkwX3_extraOf_1 ++ dktX3_extraOf_2
def dkwX3_extraOf_0 : List UInt8 := [27, 61, 42, 180, 0, 22, 28, 46, 2, 160, 0, 23, 42, 180, 0, 19, 28, 46, 2, 159, 0, 13, 42]
abbrev dktX3_extraOf_0 : List UInt8 := dkwX3_extraOf_0 ++ dktX3_extraOf_1
theorem dksX3_extraOf_0 : cX3_extraOf.data.toList.drop 0 = dktX3_extraOf_0 := by decide +kernel
theorem dksX3_extraOf_1 : cX3_extraOf.data.toList.drop 23 = dktX3_extraOf_1 := dk_seg dksX3_extraOf_0 23 rfl rfl
theorem dksX3_extraOf_2 : cX3_extraOf.data.toList.drop 47 = dktX3_extraOf_2 := dk_seg dksX3_extraOf_1 24 rfl rfl
theorem dX3_extraOf_0 : decode cX3_extraOf 0 = .ok (.iload_n 1, 1) := dk_27 (dk_at dksX3_extraOf_0 0 rfl rfl)
theorem dX3_extraOf_1 : decode cX3_extraOf 1 = .ok (.istore_n 2, 1) := dk_61 (dk_at dksX3_extraOf_0 1 rfl rfl)
theorem dX3_extraOf_2 : decode cX3_extraOf 2 = .ok (.aload_n 0, 1) := dk_42 (dk_at dksX3_extraOf_0 2 rfl rfl)
theorem dX3_extraOf_3 : decode cX3_extraOf 3 = .ok (.getfield 22, 3) := dk_180 0 22 (dk_at dksX3_extraOf_0 3 rfl rfl)
theorem dX3_extraOf_6 : decode cX3_extraOf 6 = .ok (.iload_n 2, 1) := dk_28 (dk_at dksX3_extraOf_0 6 rfl rfl)
theorem dX3_extraOf_7 : decode cX3_extraOf 7 = .ok (.iaload, 1) := dk_46 (dk_at dksX3_extraOf_0 7 rfl rfl)
theorem dX3_extraOf_8 : decode cX3_extraOf 8 = .ok (.iconst (-1), 1) := dk_2 (dk_at dksX3_extraOf_0 8 rfl rfl)
theorem dX3_extraOf_9 : decode cX3_extraOf 9 = .ok (.if_icmp .ne 23, 3) := dk_160 0 23 (dk_at dksX3_extraOf_0 9 rfl rfl)
theorem dX3_extraOf_12 : decode cX3_extraOf 12 = .ok (.aload_n 0, 1) := dk_42 (dk_at dksX3_extraOf_0 12 rfl rfl)
theorem dX3_extraOf_13 : decode cX3_extraOf 13 = .ok (.getfield 19, 3) := dk_180 0 19 (dk_at dksX3_extraOf_0 13 rfl rfl)
theorem dX3_extraOf_16 : decode cX3_extraOf 16 = .ok (.iload_n 2, 1) := dk_28 (dk_at dksX3_extraOf_0 16 rfl rfl)
theorem dX3_extraOf_17 : decode cX3_extraOf 17 = .ok (.iaload, 1) := dk_46 (dk_at dksX3_extraOf_0 17 rfl rfl)
theorem dX3_extraOf_18 : decode cX3_extraOf 18 = .ok (.iconst (-1), 1) := dk_2 (dk_at dksX3_extraOf_0 18 rfl rfl)
theorem dX3_extraOf_19 : decode cX3_extraOf 19 = .ok (.if_icmp .eq 13, 3) := dk_159 0 13 (dk_at dksX3_extraOf_0 19 rfl rfl)
theorem dX3_extraOf_22 : decode cX3_extraOf 22 = .ok (.aload_n 0, 1) := dk_42 (dk_at dksX3_extraOf_0 22 rfl rfl)
theorem dX3_extraOf_23 : decode cX3_extraOf 23 = .ok (.getfield 19, 3) := dk_180 0 19 (dk_at dksX3_extraOf_1 0 rfl rfl)
theorem dX3_extraOf_26 : decode cX3_extraOf 26 = .ok (.iload_n 2, 1) := dk_28 (dk_at dksX3_extraOf_1 3 rfl rfl)
theorem dX3_extraOf_27 : decode cX3_extraOf 27 = .ok (.iaload, 1) := dk_46 (dk_at dksX3_extraOf_1 4 rfl rfl)
theorem dX3_extraOf_28 : decode cX3_extraOf 28 = .ok (.istore_n 2, 1) := dk_61 (dk_at dksX3_extraOf_1 5 rfl rfl)
theorem dX3_extraOf_29 : decode cX3_extraOf 29 = .ok (.goto (-27), 3) := dk_167 255 229 (dk_at dksX3_extraOf_1 6 rfl rfl)
theorem dX3_extraOf_32 : decode cX3_extraOf 32 = .ok (.aload_n 0, 1) := dk_42 (dk_at dksX3_extraOf_1 9 rfl rfl)
theorem dX3_extraOf_33 : decode cX3_extraOf 33 = .ok (.getfield 22, 3) := dk_180 0 22 (dk_at dksX3_extraOf_1 10 rfl rfl)
theorem dX3_extraOf_36 : decode cX3_extraOf 36 = .ok (.iload_n 2, 1) := dk_28 (dk_at dksX3_extraOf_1 13 rfl rfl)
theorem dX3_extraOf_37 : decode cX3_extraOf 37 = .ok (.iaload, 1) := dk_46 (dk_at dksX3_extraOf_1 14 rfl rfl)
theorem dX3_extraOf_38 : decode cX3_extraOf 38 = .ok (.iconst (-1), 1) := dk_2 (dk_at dksX3_extraOf_1 15 rfl rfl)
theorem dX3_extraOf_39 : decode cX3_extraOf 39 = .ok (.if_icmp .ne 7, 3) := dk_160 0 7 (dk_at dksX3_extraOf_1 16 rfl rfl)
theorem dX3_extraOf_42 : decode cX3_extraOf 42 = .ok (.iconst 0, 1) := dk_3 (dk_at dksX3_extraOf_1 19 rfl rfl)
theorem dX3_extraOf_43 : decode cX3_extraOf 43 = .ok (.goto 9, 3) := dk_167 0 9 (dk_at dksX3_extraOf_1 20 rfl rfl)
theorem dX3_extraOf_46 : decode cX3_extraOf 46 = .ok (.aload_n 0, 1) := dk_42 (dk_at dksX3_extraOf_1 23 rfl rfl)
theorem dX3_extraOf_47 : decode cX3_extraOf 47 = .ok (.getfield 22, 3) := dk_180 0 22 (dk_at dksX3_extraOf_2 0 rfl rfl)
theorem dX3_extraOf_50 : decode cX3_extraOf 50 = .ok (.iload_n 2, 1) := dk_28 (dk_at dksX3_extraOf_2 3 rfl rfl)
theorem dX3_extraOf_51 : decode cX3_extraOf 51 = .ok (.iaload, 1) := dk_46 (dk_at dksX3_extraOf_2 4 rfl rfl)
theorem dX3_extraOf_52 : decode cX3_extraOf 52 = .ok (.ireturn, 1) := dk_172 (dk_at dksX3_extraOf_2 5 rfl rfl)
abbrev cX3_hang : ByteArray := prog_7_method_12_code
def yX3_hang : MethodName := ⟨RX3, "hang", "()V"⟩
def dkwX3_hang_3 : List UInt8 := [180, 0, 50, 28, 46, 2, 159, 0, 10, 42, 180, 0, 50, 28, 46, 60, 132, 2, 1, 167, 255, 180, 177]
abbrev dktX3_hang_3 : List UInt8 := dkwX3_hang_3 ++ []
def dkwX3_hang_2 : List UInt8 := [27, 2, 159, 0, 38, 42, 180, 0, 59, 27, 92, 46, 42, 180, 0, 13, 28, 46, 96, 79, 167, 0, 20, 42]
abbrev dktX3_hang_2 : List UInt8 := dkwX3_hang_2 ++ dktX3_hang_3
def dkwX3_hang_1 : List UInt8 := [28, 182, 0, 118, 153, 0, 43, 42, 180, 0, 50, 28, 27, 79, 42, 180, 0, 7, 28, 46, 8, 160, 0, 43]
abbrev dktX3_hang_1 : List UInt8 := dkwX3_hang_1 ++ dktX3_hang_2
def dkwX3_hang_0 : List UInt8 := [42, 180, 0, 97, 154, 0, 7, 2, 167, 0, 4, 3, 60, 3, 61, 28, 42, 180, 0, 100, 162, 0, 74, 42]
abbrev dktX3_hang_0 : List UInt8 := dkwX3_hang_0 ++ dktX3_hang_1
theorem dksX3_hang_0 : cX3_hang.data.toList.drop 0 = dktX3_hang_0 := by decide +kernel
theorem dksX3_hang_1 : cX3_hang.data.toList.drop 24 = dktX3_hang_1 := dk_seg dksX3_hang_0 24 rfl rfl
theorem dksX3_hang_2 : cX3_hang.data.toList.drop 48 = dktX3_hang_2 := dk_seg dksX3_hang_1 24 rfl rfl
theorem dksX3_hang_3 : cX3_hang.data.toList.drop 72 = dktX3_hang_3 := dk_seg dksX3_hang_2 24 rfl rfl
theorem dX3_hang_0 : decode cX3_hang 0 = .ok (.aload_n 0, 1) := dk_42 (dk_at dksX3_hang_0 0 rfl rfl)
theorem dX3_hang_1 : decode cX3_hang 1 = .ok (.getfield 97, 3) := dk_180 0 97 (dk_at dksX3_hang_0 1 rfl rfl)
theorem dX3_hang_4 : decode cX3_hang 4 = .ok (.ifCond .ne 7, 3) := dk_154 0 7 (dk_at dksX3_hang_0 4 rfl rfl)
theorem dX3_hang_7 : decode cX3_hang 7 = .ok (.iconst (-1), 1) := dk_2 (dk_at dksX3_hang_0 7 rfl rfl)
theorem dX3_hang_8 : decode cX3_hang 8 = .ok (.goto 4, 3) := dk_167 0 4 (dk_at dksX3_hang_0 8 rfl rfl)
theorem dX3_hang_11 : decode cX3_hang 11 = .ok (.iconst 0, 1) := dk_3 (dk_at dksX3_hang_0 11 rfl rfl)
theorem dX3_hang_12 : decode cX3_hang 12 = .ok (.istore_n 1, 1) := dk_60 (dk_at dksX3_hang_0 12 rfl rfl)
theorem dX3_hang_13 : decode cX3_hang 13 = .ok (.iconst 0, 1) := dk_3 (dk_at dksX3_hang_0 13 rfl rfl)
theorem dX3_hang_14 : decode cX3_hang 14 = .ok (.istore_n 2, 1) := dk_61 (dk_at dksX3_hang_0 14 rfl rfl)
theorem dX3_hang_15 : decode cX3_hang 15 = .ok (.iload_n 2, 1) := dk_28 (dk_at dksX3_hang_0 15 rfl rfl)
theorem dX3_hang_16 : decode cX3_hang 16 = .ok (.aload_n 0, 1) := dk_42 (dk_at dksX3_hang_0 16 rfl rfl)
theorem dX3_hang_17 : decode cX3_hang 17 = .ok (.getfield 100, 3) := dk_180 0 100 (dk_at dksX3_hang_0 17 rfl rfl)
theorem dX3_hang_20 : decode cX3_hang 20 = .ok (.if_icmp .ge 74, 3) := dk_162 0 74 (dk_at dksX3_hang_0 20 rfl rfl)
theorem dX3_hang_23 : decode cX3_hang 23 = .ok (.aload_n 0, 1) := dk_42 (dk_at dksX3_hang_0 23 rfl rfl)
theorem dX3_hang_24 : decode cX3_hang 24 = .ok (.iload_n 2, 1) := dk_28 (dk_at dksX3_hang_1 0 rfl rfl)
theorem dX3_hang_25 : decode cX3_hang 25 = .ok (.invokevirtual 118, 3) := dk_182 0 118 (dk_at dksX3_hang_1 1 rfl rfl)
theorem dX3_hang_28 : decode cX3_hang 28 = .ok (.ifCond .eq 43, 3) := dk_153 0 43 (dk_at dksX3_hang_1 4 rfl rfl)
theorem dX3_hang_31 : decode cX3_hang 31 = .ok (.aload_n 0, 1) := dk_42 (dk_at dksX3_hang_1 7 rfl rfl)
theorem dX3_hang_32 : decode cX3_hang 32 = .ok (.getfield 50, 3) := dk_180 0 50 (dk_at dksX3_hang_1 8 rfl rfl)
theorem dX3_hang_35 : decode cX3_hang 35 = .ok (.iload_n 2, 1) := dk_28 (dk_at dksX3_hang_1 11 rfl rfl)
theorem dX3_hang_36 : decode cX3_hang 36 = .ok (.iload_n 1, 1) := dk_27 (dk_at dksX3_hang_1 12 rfl rfl)
theorem dX3_hang_37 : decode cX3_hang 37 = .ok (.iastore, 1) := dk_79 (dk_at dksX3_hang_1 13 rfl rfl)
theorem dX3_hang_38 : decode cX3_hang 38 = .ok (.aload_n 0, 1) := dk_42 (dk_at dksX3_hang_1 14 rfl rfl)
theorem dX3_hang_39 : decode cX3_hang 39 = .ok (.getfield 7, 3) := dk_180 0 7 (dk_at dksX3_hang_1 15 rfl rfl)
theorem dX3_hang_42 : decode cX3_hang 42 = .ok (.iload_n 2, 1) := dk_28 (dk_at dksX3_hang_1 18 rfl rfl)
theorem dX3_hang_43 : decode cX3_hang 43 = .ok (.iaload, 1) := dk_46 (dk_at dksX3_hang_1 19 rfl rfl)
theorem dX3_hang_44 : decode cX3_hang 44 = .ok (.iconst 5, 1) := dk_8 (dk_at dksX3_hang_1 20 rfl rfl)
theorem dX3_hang_45 : decode cX3_hang 45 = .ok (.if_icmp .ne 43, 3) := dk_160 0 43 (dk_at dksX3_hang_1 21 rfl rfl)
theorem dX3_hang_48 : decode cX3_hang 48 = .ok (.iload_n 1, 1) := dk_27 (dk_at dksX3_hang_2 0 rfl rfl)
theorem dX3_hang_49 : decode cX3_hang 49 = .ok (.iconst (-1), 1) := dk_2 (dk_at dksX3_hang_2 1 rfl rfl)
theorem dX3_hang_50 : decode cX3_hang 50 = .ok (.if_icmp .eq 38, 3) := dk_159 0 38 (dk_at dksX3_hang_2 2 rfl rfl)
theorem dX3_hang_53 : decode cX3_hang 53 = .ok (.aload_n 0, 1) := dk_42 (dk_at dksX3_hang_2 5 rfl rfl)
theorem dX3_hang_54 : decode cX3_hang 54 = .ok (.getfield 59, 3) := dk_180 0 59 (dk_at dksX3_hang_2 6 rfl rfl)
theorem dX3_hang_57 : decode cX3_hang 57 = .ok (.iload_n 1, 1) := dk_27 (dk_at dksX3_hang_2 9 rfl rfl)
theorem dX3_hang_58 : decode cX3_hang 58 = .ok (.dup2, 1) := dk_92 (dk_at dksX3_hang_2 10 rfl rfl)
theorem dX3_hang_59 : decode cX3_hang 59 = .ok (.iaload, 1) := dk_46 (dk_at dksX3_hang_2 11 rfl rfl)
theorem dX3_hang_60 : decode cX3_hang 60 = .ok (.aload_n 0, 1) := dk_42 (dk_at dksX3_hang_2 12 rfl rfl)
theorem dX3_hang_61 : decode cX3_hang 61 = .ok (.getfield 13, 3) := dk_180 0 13 (dk_at dksX3_hang_2 13 rfl rfl)
theorem dX3_hang_64 : decode cX3_hang 64 = .ok (.iload_n 2, 1) := dk_28 (dk_at dksX3_hang_2 16 rfl rfl)
theorem dX3_hang_65 : decode cX3_hang 65 = .ok (.iaload, 1) := dk_46 (dk_at dksX3_hang_2 17 rfl rfl)
theorem dX3_hang_66 : decode cX3_hang 66 = .ok (.iadd, 1) := dk_96 (dk_at dksX3_hang_2 18 rfl rfl)
theorem dX3_hang_67 : decode cX3_hang 67 = .ok (.iastore, 1) := dk_79 (dk_at dksX3_hang_2 19 rfl rfl)
theorem dX3_hang_68 : decode cX3_hang 68 = .ok (.goto 20, 3) := dk_167 0 20 (dk_at dksX3_hang_2 20 rfl rfl)
theorem dX3_hang_71 : decode cX3_hang 71 = .ok (.aload_n 0, 1) := dk_42 (dk_at dksX3_hang_2 23 rfl rfl)
theorem dX3_hang_72 : decode cX3_hang 72 = .ok (.getfield 50, 3) := dk_180 0 50 (dk_at dksX3_hang_3 0 rfl rfl)
theorem dX3_hang_75 : decode cX3_hang 75 = .ok (.iload_n 2, 1) := dk_28 (dk_at dksX3_hang_3 3 rfl rfl)
theorem dX3_hang_76 : decode cX3_hang 76 = .ok (.iaload, 1) := dk_46 (dk_at dksX3_hang_3 4 rfl rfl)
theorem dX3_hang_77 : decode cX3_hang 77 = .ok (.iconst (-1), 1) := dk_2 (dk_at dksX3_hang_3 5 rfl rfl)
theorem dX3_hang_78 : decode cX3_hang 78 = .ok (.if_icmp .eq 10, 3) := dk_159 0 10 (dk_at dksX3_hang_3 6 rfl rfl)
theorem dX3_hang_81 : decode cX3_hang 81 = .ok (.aload_n 0, 1) := dk_42 (dk_at dksX3_hang_3 9 rfl rfl)
theorem dX3_hang_82 : decode cX3_hang 82 = .ok (.getfield 50, 3) := dk_180 0 50 (dk_at dksX3_hang_3 10 rfl rfl)
theorem dX3_hang_85 : decode cX3_hang 85 = .ok (.iload_n 2, 1) := dk_28 (dk_at dksX3_hang_3 13 rfl rfl)
theorem dX3_hang_86 : decode cX3_hang 86 = .ok (.iaload, 1) := dk_46 (dk_at dksX3_hang_3 14 rfl rfl)
theorem dX3_hang_87 : decode cX3_hang 87 = .ok (.istore_n 1, 1) := dk_60 (dk_at dksX3_hang_3 15 rfl rfl)
theorem dX3_hang_88 : decode cX3_hang 88 = .ok (.iinc 2 1, 3) := dk_132 2 1 (dk_at dksX3_hang_3 16 rfl rfl)
theorem dX3_hang_91 : decode cX3_hang 91 = .ok (.goto (-76), 3) := dk_167 255 180 (dk_at dksX3_hang_3 19 rfl rfl)
theorem dX3_hang_94 : decode cX3_hang 94 = .ok (.return_, 1) := dk_177 (dk_at dksX3_hang_3 22 rfl rfl)
abbrev cX3_hangs : ByteArray := prog_7_method_9_code
def yX3_hangs : MethodName := ⟨RX3, "hangs", "(I)Z"⟩
def dkwX3_hangs_1 : List UInt8 := [27, 46, 16, 6, 160, 0, 7, 4, 167, 0, 4, 3, 172]
abbrev dktX3_hangs_1 : List UInt8 := dkwX3_hangs_1 ++ []
def dkwX3_hangs_0 : List UInt8 := [42, 180, 0, 7, 27, 46, 7, 159, 0, 24, 42, 180, 0, 7, 27, 46, 8, 159, 0, 14, 42, 180, 0, 7]
abbrev dktX3_hangs_0 : List UInt8 := dkwX3_hangs_0 ++ dktX3_hangs_1
theorem dksX3_hangs_0 : cX3_hangs.data.toList.drop 0 = dktX3_hangs_0 := by decide +kernel
theorem dksX3_hangs_1 : cX3_hangs.data.toList.drop 24 = dktX3_hangs_1 := dk_seg dksX3_hangs_0 24 rfl rfl
theorem dX3_hangs_0 : decode cX3_hangs 0 = .ok (.aload_n 0, 1) := dk_42 (dk_at dksX3_hangs_0 0 rfl rfl)
theorem dX3_hangs_1 : decode cX3_hangs 1 = .ok (.getfield 7, 3) := dk_180 0 7 (dk_at dksX3_hangs_0 1 rfl rfl)
theorem dX3_hangs_4 : decode cX3_hangs 4 = .ok (.iload_n 1, 1) := dk_27 (dk_at dksX3_hangs_0 4 rfl rfl)
theorem dX3_hangs_5 : decode cX3_hangs 5 = .ok (.iaload, 1) := dk_46 (dk_at dksX3_hangs_0 5 rfl rfl)
theorem dX3_hangs_6 : decode cX3_hangs 6 = .ok (.iconst 4, 1) := dk_7 (dk_at dksX3_hangs_0 6 rfl rfl)
theorem dX3_hangs_7 : decode cX3_hangs 7 = .ok (.if_icmp .eq 24, 3) := dk_159 0 24 (dk_at dksX3_hangs_0 7 rfl rfl)
theorem dX3_hangs_10 : decode cX3_hangs 10 = .ok (.aload_n 0, 1) := dk_42 (dk_at dksX3_hangs_0 10 rfl rfl)
theorem dX3_hangs_11 : decode cX3_hangs 11 = .ok (.getfield 7, 3) := dk_180 0 7 (dk_at dksX3_hangs_0 11 rfl rfl)
theorem dX3_hangs_14 : decode cX3_hangs 14 = .ok (.iload_n 1, 1) := dk_27 (dk_at dksX3_hangs_0 14 rfl rfl)
theorem dX3_hangs_15 : decode cX3_hangs 15 = .ok (.iaload, 1) := dk_46 (dk_at dksX3_hangs_0 15 rfl rfl)
theorem dX3_hangs_16 : decode cX3_hangs 16 = .ok (.iconst 5, 1) := dk_8 (dk_at dksX3_hangs_0 16 rfl rfl)
theorem dX3_hangs_17 : decode cX3_hangs 17 = .ok (.if_icmp .eq 14, 3) := dk_159 0 14 (dk_at dksX3_hangs_0 17 rfl rfl)
theorem dX3_hangs_20 : decode cX3_hangs 20 = .ok (.aload_n 0, 1) := dk_42 (dk_at dksX3_hangs_0 20 rfl rfl)
theorem dX3_hangs_21 : decode cX3_hangs 21 = .ok (.getfield 7, 3) := dk_180 0 7 (dk_at dksX3_hangs_0 21 rfl rfl)
theorem dX3_hangs_24 : decode cX3_hangs 24 = .ok (.iload_n 1, 1) := dk_27 (dk_at dksX3_hangs_1 0 rfl rfl)
theorem dX3_hangs_25 : decode cX3_hangs 25 = .ok (.iaload, 1) := dk_46 (dk_at dksX3_hangs_1 1 rfl rfl)
theorem dX3_hangs_26 : decode cX3_hangs 26 = .ok (.bipush 6, 2) := dk_16 6 (dk_at dksX3_hangs_1 2 rfl rfl)
theorem dX3_hangs_28 : decode cX3_hangs 28 = .ok (.if_icmp .ne 7, 3) := dk_160 0 7 (dk_at dksX3_hangs_1 4 rfl rfl)
theorem dX3_hangs_31 : decode cX3_hangs 31 = .ok (.iconst 1, 1) := dk_4 (dk_at dksX3_hangs_1 7 rfl rfl)
theorem dX3_hangs_32 : decode cX3_hangs 32 = .ok (.goto 4, 3) := dk_167 0 4 (dk_at dksX3_hangs_1 8 rfl rfl)
theorem dX3_hangs_35 : decode cX3_hangs 35 = .ok (.iconst 0, 1) := dk_3 (dk_at dksX3_hangs_1 11 rfl rfl)
theorem dX3_hangs_36 : decode cX3_hangs 36 = .ok (.ireturn, 1) := dk_172 (dk_at dksX3_hangs_1 12 rfl rfl)
abbrev cX3_colourOf : ByteArray := prog_7_method_6_code
def yX3_colourOf : MethodName := ⟨RX3, "colourOf", "(I)I"⟩
def dkwX3_colourOf_2 : List UInt8 := [180, 0, 25, 28, 46, 172]
abbrev dktX3_colourOf_2 : List UInt8 := dkwX3_colourOf_2 ++ []
def dkwX3_colourOf_1 : List UInt8 := [180, 0, 19, 28, 46, 61, 167, 255, 229, 42, 180, 0, 25, 28, 46, 2, 160, 0, 7, 3, 167, 0, 9, 42]
abbrev dktX3_colourOf_1 : List UInt8 := dkwX3_colourOf_1 ++ dktX3_colourOf_2
def dkwX3_colourOf_0 : List UInt8 := [27, 61, 42, 180, 0, 25, 28, 46, 2, 160, 0, 23, 42, 180, 0, 19, 28, 46, 2, 159, 0, 13, 42]
abbrev dktX3_colourOf_0 : List UInt8 := dkwX3_colourOf_0 ++ dktX3_colourOf_1
theorem dksX3_colourOf_0 : cX3_colourOf.data.toList.drop 0 = dktX3_colourOf_0 := by decide +kernel
theorem dksX3_colourOf_1 : cX3_colourOf.data.toList.drop 23 = dktX3_colourOf_1 := dk_seg dksX3_colourOf_0 23 rfl rfl
theorem dksX3_colourOf_2 : cX3_colourOf.data.toList.drop 47 = dktX3_colourOf_2 := dk_seg dksX3_colourOf_1 24 rfl rfl
theorem dX3_colourOf_0 : decode cX3_colourOf 0 = .ok (.iload_n 1, 1) := dk_27 (dk_at dksX3_colourOf_0 0 rfl rfl)
theorem dX3_colourOf_1 : decode cX3_colourOf 1 = .ok (.istore_n 2, 1) := dk_61 (dk_at dksX3_colourOf_0 1 rfl rfl)
theorem dX3_colourOf_2 : decode cX3_colourOf 2 = .ok (.aload_n 0, 1) := dk_42 (dk_at dksX3_colourOf_0 2 rfl rfl)
theorem dX3_colourOf_3 : decode cX3_colourOf 3 = .ok (.getfield 25, 3) := dk_180 0 25 (dk_at dksX3_colourOf_0 3 rfl rfl)
theorem dX3_colourOf_6 : decode cX3_colourOf 6 = .ok (.iload_n 2, 1) := dk_28 (dk_at dksX3_colourOf_0 6 rfl rfl)
theorem dX3_colourOf_7 : decode cX3_colourOf 7 = .ok (.iaload, 1) := dk_46 (dk_at dksX3_colourOf_0 7 rfl rfl)
theorem dX3_colourOf_8 : decode cX3_colourOf 8 = .ok (.iconst (-1), 1) := dk_2 (dk_at dksX3_colourOf_0 8 rfl rfl)
theorem dX3_colourOf_9 : decode cX3_colourOf 9 = .ok (.if_icmp .ne 23, 3) := dk_160 0 23 (dk_at dksX3_colourOf_0 9 rfl rfl)
theorem dX3_colourOf_12 : decode cX3_colourOf 12 = .ok (.aload_n 0, 1) := dk_42 (dk_at dksX3_colourOf_0 12 rfl rfl)
theorem dX3_colourOf_13 : decode cX3_colourOf 13 = .ok (.getfield 19, 3) := dk_180 0 19 (dk_at dksX3_colourOf_0 13 rfl rfl)
theorem dX3_colourOf_16 : decode cX3_colourOf 16 = .ok (.iload_n 2, 1) := dk_28 (dk_at dksX3_colourOf_0 16 rfl rfl)
theorem dX3_colourOf_17 : decode cX3_colourOf 17 = .ok (.iaload, 1) := dk_46 (dk_at dksX3_colourOf_0 17 rfl rfl)
theorem dX3_colourOf_18 : decode cX3_colourOf 18 = .ok (.iconst (-1), 1) := dk_2 (dk_at dksX3_colourOf_0 18 rfl rfl)
theorem dX3_colourOf_19 : decode cX3_colourOf 19 = .ok (.if_icmp .eq 13, 3) := dk_159 0 13 (dk_at dksX3_colourOf_0 19 rfl rfl)
theorem dX3_colourOf_22 : decode cX3_colourOf 22 = .ok (.aload_n 0, 1) := dk_42 (dk_at dksX3_colourOf_0 22 rfl rfl)
theorem dX3_colourOf_23 : decode cX3_colourOf 23 = .ok (.getfield 19, 3) := dk_180 0 19 (dk_at dksX3_colourOf_1 0 rfl rfl)
theorem dX3_colourOf_26 : decode cX3_colourOf 26 = .ok (.iload_n 2, 1) := dk_28 (dk_at dksX3_colourOf_1 3 rfl rfl)
theorem dX3_colourOf_27 : decode cX3_colourOf 27 = .ok (.iaload, 1) := dk_46 (dk_at dksX3_colourOf_1 4 rfl rfl)
theorem dX3_colourOf_28 : decode cX3_colourOf 28 = .ok (.istore_n 2, 1) := dk_61 (dk_at dksX3_colourOf_1 5 rfl rfl)
theorem dX3_colourOf_29 : decode cX3_colourOf 29 = .ok (.goto (-27), 3) := dk_167 255 229 (dk_at dksX3_colourOf_1 6 rfl rfl)
theorem dX3_colourOf_32 : decode cX3_colourOf 32 = .ok (.aload_n 0, 1) := dk_42 (dk_at dksX3_colourOf_1 9 rfl rfl)
theorem dX3_colourOf_33 : decode cX3_colourOf 33 = .ok (.getfield 25, 3) := dk_180 0 25 (dk_at dksX3_colourOf_1 10 rfl rfl)
theorem dX3_colourOf_36 : decode cX3_colourOf 36 = .ok (.iload_n 2, 1) := dk_28 (dk_at dksX3_colourOf_1 13 rfl rfl)
theorem dX3_colourOf_37 : decode cX3_colourOf 37 = .ok (.iaload, 1) := dk_46 (dk_at dksX3_colourOf_1 14 rfl rfl)
theorem dX3_colourOf_38 : decode cX3_colourOf 38 = .ok (.iconst (-1), 1) := dk_2 (dk_at dksX3_colourOf_1 15 rfl rfl)
theorem dX3_colourOf_39 : decode cX3_colourOf 39 = .ok (.if_icmp .ne 7, 3) := dk_160 0 7 (dk_at dksX3_colourOf_1 16 rfl rfl)
theorem dX3_colourOf_42 : decode cX3_colourOf 42 = .ok (.iconst 0, 1) := dk_3 (dk_at dksX3_colourOf_1 19 rfl rfl)
theorem dX3_colourOf_43 : decode cX3_colourOf 43 = .ok (.goto 9, 3) := dk_167 0 9 (dk_at dksX3_colourOf_1 20 rfl rfl)
theorem dX3_colourOf_46 : decode cX3_colourOf 46 = .ok (.aload_n 0, 1) := dk_42 (dk_at dksX3_colourOf_1 23 rfl rfl)
theorem dX3_colourOf_47 : decode cX3_colourOf 47 = .ok (.getfield 25, 3) := dk_180 0 25 (dk_at dksX3_colourOf_2 0 rfl rfl)
theorem dX3_colourOf_50 : decode cX3_colourOf 50 = .ok (.iload_n 2, 1) := dk_28 (dk_at dksX3_colourOf_2 3 rfl rfl)
theorem dX3_colourOf_51 : decode cX3_colourOf 51 = .ok (.iaload, 1) := dk_46 (dk_at dksX3_colourOf_2 4 rfl rfl)
theorem dX3_colourOf_52 : decode cX3_colourOf 52 = .ok (.ireturn, 1) := dk_172 (dk_at dksX3_colourOf_2 5 rfl rfl)
abbrev cX3_lines : ByteArray := prog_7_method_35_code
def yX3_lines : MethodName := ⟨RX3, "lines", "(I)I"⟩
def dkwX3_lines_1 : List UInt8 := [27, 182, 0, 173, 42, 180, 0, 97, 172]
abbrev dktX3_lines_1 : List UInt8 := dkwX3_lines_1 ++ []
def dkwX3_lines_0 : List UInt8 := [27, 133, 9, 20, 0, 190, 184, 0, 184, 154, 0, 9, 42, 4, 182, 0, 194, 172, 42, 3, 181, 0, 90, 42]
abbrev dktX3_lines_0 : List UInt8 := dkwX3_lines_0 ++ dktX3_lines_1
theorem dksX3_lines_0 : cX3_lines.data.toList.drop 0 = dktX3_lines_0 := by decide +kernel
theorem dksX3_lines_1 : cX3_lines.data.toList.drop 24 = dktX3_lines_1 := dk_seg dksX3_lines_0 24 rfl rfl
theorem dX3_lines_0 : decode cX3_lines 0 = .ok (.iload_n 1, 1) := dk_27 (dk_at dksX3_lines_0 0 rfl rfl)
theorem dX3_lines_1 : decode cX3_lines 1 = .ok (.i2l, 1) := dk_133 (dk_at dksX3_lines_0 1 rfl rfl)
theorem dX3_lines_2 : decode cX3_lines 2 = .ok (.lconst 0, 1) := dk_9 (dk_at dksX3_lines_0 2 rfl rfl)
theorem dX3_lines_3 : decode cX3_lines 3 = .ok (.ldc2_w 190, 3) := dk_20 0 190 (dk_at dksX3_lines_0 3 rfl rfl)
theorem dX3_lines_6 : decode cX3_lines 6 = .ok (.invokestatic 184, 3) := dk_184 0 184 (dk_at dksX3_lines_0 6 rfl rfl)
theorem dX3_lines_9 : decode cX3_lines 9 = .ok (.ifCond .ne 9, 3) := dk_154 0 9 (dk_at dksX3_lines_0 9 rfl rfl)
theorem dX3_lines_12 : decode cX3_lines 12 = .ok (.aload_n 0, 1) := dk_42 (dk_at dksX3_lines_0 12 rfl rfl)
theorem dX3_lines_13 : decode cX3_lines 13 = .ok (.iconst 1, 1) := dk_4 (dk_at dksX3_lines_0 13 rfl rfl)
theorem dX3_lines_14 : decode cX3_lines 14 = .ok (.invokevirtual 194, 3) := dk_182 0 194 (dk_at dksX3_lines_0 14 rfl rfl)
theorem dX3_lines_17 : decode cX3_lines 17 = .ok (.ireturn, 1) := dk_172 (dk_at dksX3_lines_0 17 rfl rfl)
theorem dX3_lines_18 : decode cX3_lines 18 = .ok (.aload_n 0, 1) := dk_42 (dk_at dksX3_lines_0 18 rfl rfl)
theorem dX3_lines_19 : decode cX3_lines 19 = .ok (.iconst 0, 1) := dk_3 (dk_at dksX3_lines_0 19 rfl rfl)
theorem dX3_lines_20 : decode cX3_lines 20 = .ok (.putfield 90, 3) := dk_181 0 90 (dk_at dksX3_lines_0 20 rfl rfl)
theorem dX3_lines_23 : decode cX3_lines 23 = .ok (.aload_n 0, 1) := dk_42 (dk_at dksX3_lines_0 23 rfl rfl)
theorem dX3_lines_24 : decode cX3_lines 24 = .ok (.iload_n 1, 1) := dk_27 (dk_at dksX3_lines_1 0 rfl rfl)
theorem dX3_lines_25 : decode cX3_lines 25 = .ok (.invokevirtual 173, 3) := dk_182 0 173 (dk_at dksX3_lines_1 1 rfl rfl)
theorem dX3_lines_28 : decode cX3_lines 28 = .ok (.aload_n 0, 1) := dk_42 (dk_at dksX3_lines_1 4 rfl rfl)
theorem dX3_lines_29 : decode cX3_lines 29 = .ok (.getfield 97, 3) := dk_180 0 97 (dk_at dksX3_lines_1 5 rfl rfl)
theorem dX3_lines_32 : decode cX3_lines 32 = .ok (.ireturn, 1) := dk_172 (dk_at dksX3_lines_1 8 rfl rfl)
abbrev cX3_lineOf : ByteArray := prog_7_method_36_code
def yX3_lineOf : MethodName := ⟨RX3, "lineOf", "(II)I"⟩
def dkwX3_lineOf_2 : List UInt8 := [180, 0, 50, 28, 46, 172]
abbrev dktX3_lineOf_2 : List UInt8 := dkwX3_lineOf_2 ++ []
def dkwX3_lineOf_1 : List UInt8 := [184, 0, 184, 154, 0, 9, 42, 4, 182, 0, 194, 172, 42, 3, 181, 0, 90, 42, 27, 182, 0, 173, 42]
abbrev dktX3_lineOf_1 : List UInt8 := dkwX3_lineOf_1 ++ dktX3_lineOf_2
def dkwX3_lineOf_0 : List UInt8 := [27, 133, 9, 20, 0, 190, 184, 0, 184, 153, 0, 19, 28, 133, 9, 42, 180, 0, 100, 4, 100, 133]
abbrev dktX3_lineOf_0 : List UInt8 := dkwX3_lineOf_0 ++ dktX3_lineOf_1
theorem dksX3_lineOf_0 : cX3_lineOf.data.toList.drop 0 = dktX3_lineOf_0 := by decide +kernel
theorem dksX3_lineOf_1 : cX3_lineOf.data.toList.drop 22 = dktX3_lineOf_1 := dk_seg dksX3_lineOf_0 22 rfl rfl
theorem dksX3_lineOf_2 : cX3_lineOf.data.toList.drop 45 = dktX3_lineOf_2 := dk_seg dksX3_lineOf_1 23 rfl rfl
theorem dX3_lineOf_0 : decode cX3_lineOf 0 = .ok (.iload_n 1, 1) := dk_27 (dk_at dksX3_lineOf_0 0 rfl rfl)
theorem dX3_lineOf_1 : decode cX3_lineOf 1 = .ok (.i2l, 1) := dk_133 (dk_at dksX3_lineOf_0 1 rfl rfl)
theorem dX3_lineOf_2 : decode cX3_lineOf 2 = .ok (.lconst 0, 1) := dk_9 (dk_at dksX3_lineOf_0 2 rfl rfl)
theorem dX3_lineOf_3 : decode cX3_lineOf 3 = .ok (.ldc2_w 190, 3) := dk_20 0 190 (dk_at dksX3_lineOf_0 3 rfl rfl)
theorem dX3_lineOf_6 : decode cX3_lineOf 6 = .ok (.invokestatic 184, 3) := dk_184 0 184 (dk_at dksX3_lineOf_0 6 rfl rfl)
theorem dX3_lineOf_9 : decode cX3_lineOf 9 = .ok (.ifCond .eq 19, 3) := dk_153 0 19 (dk_at dksX3_lineOf_0 9 rfl rfl)
theorem dX3_lineOf_12 : decode cX3_lineOf 12 = .ok (.iload_n 2, 1) := dk_28 (dk_at dksX3_lineOf_0 12 rfl rfl)
theorem dX3_lineOf_13 : decode cX3_lineOf 13 = .ok (.i2l, 1) := dk_133 (dk_at dksX3_lineOf_0 13 rfl rfl)
theorem dX3_lineOf_14 : decode cX3_lineOf 14 = .ok (.lconst 0, 1) := dk_9 (dk_at dksX3_lineOf_0 14 rfl rfl)
theorem dX3_lineOf_15 : decode cX3_lineOf 15 = .ok (.aload_n 0, 1) := dk_42 (dk_at dksX3_lineOf_0 15 rfl rfl)
theorem dX3_lineOf_16 : decode cX3_lineOf 16 = .ok (.getfield 100, 3) := dk_180 0 100 (dk_at dksX3_lineOf_0 16 rfl rfl)
theorem dX3_lineOf_19 : decode cX3_lineOf 19 = .ok (.iconst 1, 1) := dk_4 (dk_at dksX3_lineOf_0 19 rfl rfl)
theorem dX3_lineOf_20 : decode cX3_lineOf 20 = .ok (.isub, 1) := dk_100 (dk_at dksX3_lineOf_0 20 rfl rfl)
theorem dX3_lineOf_21 : decode cX3_lineOf 21 = .ok (.i2l, 1) := dk_133 (dk_at dksX3_lineOf_0 21 rfl rfl)
theorem dX3_lineOf_22 : decode cX3_lineOf 22 = .ok (.invokestatic 184, 3) := dk_184 0 184 (dk_at dksX3_lineOf_1 0 rfl rfl)
theorem dX3_lineOf_25 : decode cX3_lineOf 25 = .ok (.ifCond .ne 9, 3) := dk_154 0 9 (dk_at dksX3_lineOf_1 3 rfl rfl)
theorem dX3_lineOf_28 : decode cX3_lineOf 28 = .ok (.aload_n 0, 1) := dk_42 (dk_at dksX3_lineOf_1 6 rfl rfl)
theorem dX3_lineOf_29 : decode cX3_lineOf 29 = .ok (.iconst 1, 1) := dk_4 (dk_at dksX3_lineOf_1 7 rfl rfl)
theorem dX3_lineOf_30 : decode cX3_lineOf 30 = .ok (.invokevirtual 194, 3) := dk_182 0 194 (dk_at dksX3_lineOf_1 8 rfl rfl)
theorem dX3_lineOf_33 : decode cX3_lineOf 33 = .ok (.ireturn, 1) := dk_172 (dk_at dksX3_lineOf_1 11 rfl rfl)
theorem dX3_lineOf_34 : decode cX3_lineOf 34 = .ok (.aload_n 0, 1) := dk_42 (dk_at dksX3_lineOf_1 12 rfl rfl)
theorem dX3_lineOf_35 : decode cX3_lineOf 35 = .ok (.iconst 0, 1) := dk_3 (dk_at dksX3_lineOf_1 13 rfl rfl)
theorem dX3_lineOf_36 : decode cX3_lineOf 36 = .ok (.putfield 90, 3) := dk_181 0 90 (dk_at dksX3_lineOf_1 14 rfl rfl)
theorem dX3_lineOf_39 : decode cX3_lineOf 39 = .ok (.aload_n 0, 1) := dk_42 (dk_at dksX3_lineOf_1 17 rfl rfl)
theorem dX3_lineOf_40 : decode cX3_lineOf 40 = .ok (.iload_n 1, 1) := dk_27 (dk_at dksX3_lineOf_1 18 rfl rfl)
theorem dX3_lineOf_41 : decode cX3_lineOf 41 = .ok (.invokevirtual 173, 3) := dk_182 0 173 (dk_at dksX3_lineOf_1 19 rfl rfl)
theorem dX3_lineOf_44 : decode cX3_lineOf 44 = .ok (.aload_n 0, 1) := dk_42 (dk_at dksX3_lineOf_1 22 rfl rfl)
theorem dX3_lineOf_45 : decode cX3_lineOf 45 = .ok (.getfield 50, 3) := dk_180 0 50 (dk_at dksX3_lineOf_2 0 rfl rfl)
theorem dX3_lineOf_48 : decode cX3_lineOf 48 = .ok (.iload_n 2, 1) := dk_28 (dk_at dksX3_lineOf_2 3 rfl rfl)
theorem dX3_lineOf_49 : decode cX3_lineOf 49 = .ok (.iaload, 1) := dk_46 (dk_at dksX3_lineOf_2 4 rfl rfl)
theorem dX3_lineOf_50 : decode cX3_lineOf 50 = .ok (.ireturn, 1) := dk_172 (dk_at dksX3_lineOf_2 5 rfl rfl)
abbrev cX3_columnOf : ByteArray := prog_7_method_37_code
def yX3_columnOf : MethodName := ⟨RX3, "columnOf", "(IZI)I"⟩
def dkwX3_columnOf_4 : List UInt8 := [42, 180, 0, 50, 29, 46, 2, 160, 0, 7, 2, 167, 0, 9, 42, 180, 0, 53, 29, 46, 172]
abbrev dktX3_columnOf_4 : List UInt8 := dkwX3_columnOf_4 ++ []
def dkwX3_columnOf_3 : List UInt8 := [42, 4, 182, 0, 194, 172, 42, 3, 181, 0, 90, 28, 153, 0, 12, 42, 180, 0, 56, 29, 46, 167, 0, 23]
abbrev dktX3_columnOf_3 : List UInt8 := dkwX3_columnOf_3 ++ dktX3_columnOf_4
def dkwX3_columnOf_2 : List UInt8 := [9, 42, 180, 0, 100, 4, 100, 133, 184, 0, 184, 153, 0, 13, 42, 180, 0, 7, 29, 46, 7, 159, 0, 9]
abbrev dktX3_columnOf_2 : List UInt8 := dkwX3_columnOf_2 ++ dktX3_columnOf_3
def dkwX3_columnOf_1 : List UInt8 := [153, 0, 22, 29, 133, 9, 42, 180, 0, 97, 4, 100, 133, 184, 0, 184, 154, 0, 38, 167, 0, 29, 29, 133]
abbrev dktX3_columnOf_1 : List UInt8 := dkwX3_columnOf_1 ++ dktX3_columnOf_2
def dkwX3_columnOf_0 : List UInt8 := [27, 133, 9, 20, 0, 190, 184, 0, 184, 154, 0, 9, 42, 4, 182, 0, 194, 172, 42, 27, 182, 0, 215, 28]
abbrev dktX3_columnOf_0 : List UInt8 := dkwX3_columnOf_0 ++ dktX3_columnOf_1
theorem dksX3_columnOf_0 : cX3_columnOf.data.toList.drop 0 = dktX3_columnOf_0 := by decide +kernel
theorem dksX3_columnOf_1 : cX3_columnOf.data.toList.drop 24 = dktX3_columnOf_1 := dk_seg dksX3_columnOf_0 24 rfl rfl
theorem dksX3_columnOf_2 : cX3_columnOf.data.toList.drop 48 = dktX3_columnOf_2 := dk_seg dksX3_columnOf_1 24 rfl rfl
theorem dksX3_columnOf_3 : cX3_columnOf.data.toList.drop 72 = dktX3_columnOf_3 := dk_seg dksX3_columnOf_2 24 rfl rfl
theorem dksX3_columnOf_4 : cX3_columnOf.data.toList.drop 96 = dktX3_columnOf_4 := dk_seg dksX3_columnOf_3 24 rfl rfl
theorem dX3_columnOf_0 : decode cX3_columnOf 0 = .ok (.iload_n 1, 1) := dk_27 (dk_at dksX3_columnOf_0 0 rfl rfl)
theorem dX3_columnOf_1 : decode cX3_columnOf 1 = .ok (.i2l, 1) := dk_133 (dk_at dksX3_columnOf_0 1 rfl rfl)
theorem dX3_columnOf_2 : decode cX3_columnOf 2 = .ok (.lconst 0, 1) := dk_9 (dk_at dksX3_columnOf_0 2 rfl rfl)
theorem dX3_columnOf_3 : decode cX3_columnOf 3 = .ok (.ldc2_w 190, 3) := dk_20 0 190 (dk_at dksX3_columnOf_0 3 rfl rfl)
theorem dX3_columnOf_6 : decode cX3_columnOf 6 = .ok (.invokestatic 184, 3) := dk_184 0 184 (dk_at dksX3_columnOf_0 6 rfl rfl)
theorem dX3_columnOf_9 : decode cX3_columnOf 9 = .ok (.ifCond .ne 9, 3) := dk_154 0 9 (dk_at dksX3_columnOf_0 9 rfl rfl)
theorem dX3_columnOf_12 : decode cX3_columnOf 12 = .ok (.aload_n 0, 1) := dk_42 (dk_at dksX3_columnOf_0 12 rfl rfl)
theorem dX3_columnOf_13 : decode cX3_columnOf 13 = .ok (.iconst 1, 1) := dk_4 (dk_at dksX3_columnOf_0 13 rfl rfl)
theorem dX3_columnOf_14 : decode cX3_columnOf 14 = .ok (.invokevirtual 194, 3) := dk_182 0 194 (dk_at dksX3_columnOf_0 14 rfl rfl)
theorem dX3_columnOf_17 : decode cX3_columnOf 17 = .ok (.ireturn, 1) := dk_172 (dk_at dksX3_columnOf_0 17 rfl rfl)
theorem dX3_columnOf_18 : decode cX3_columnOf 18 = .ok (.aload_n 0, 1) := dk_42 (dk_at dksX3_columnOf_0 18 rfl rfl)
theorem dX3_columnOf_19 : decode cX3_columnOf 19 = .ok (.iload_n 1, 1) := dk_27 (dk_at dksX3_columnOf_0 19 rfl rfl)
theorem dX3_columnOf_20 : decode cX3_columnOf 20 = .ok (.invokevirtual 215, 3) := dk_182 0 215 (dk_at dksX3_columnOf_0 20 rfl rfl)
theorem dX3_columnOf_23 : decode cX3_columnOf 23 = .ok (.iload_n 2, 1) := dk_28 (dk_at dksX3_columnOf_0 23 rfl rfl)
theorem dX3_columnOf_24 : decode cX3_columnOf 24 = .ok (.ifCond .eq 22, 3) := dk_153 0 22 (dk_at dksX3_columnOf_1 0 rfl rfl)
theorem dX3_columnOf_27 : decode cX3_columnOf 27 = .ok (.iload_n 3, 1) := dk_29 (dk_at dksX3_columnOf_1 3 rfl rfl)
theorem dX3_columnOf_28 : decode cX3_columnOf 28 = .ok (.i2l, 1) := dk_133 (dk_at dksX3_columnOf_1 4 rfl rfl)
theorem dX3_columnOf_29 : decode cX3_columnOf 29 = .ok (.lconst 0, 1) := dk_9 (dk_at dksX3_columnOf_1 5 rfl rfl)
theorem dX3_columnOf_30 : decode cX3_columnOf 30 = .ok (.aload_n 0, 1) := dk_42 (dk_at dksX3_columnOf_1 6 rfl rfl)
theorem dX3_columnOf_31 : decode cX3_columnOf 31 = .ok (.getfield 97, 3) := dk_180 0 97 (dk_at dksX3_columnOf_1 7 rfl rfl)
theorem dX3_columnOf_34 : decode cX3_columnOf 34 = .ok (.iconst 1, 1) := dk_4 (dk_at dksX3_columnOf_1 10 rfl rfl)
theorem dX3_columnOf_35 : decode cX3_columnOf 35 = .ok (.isub, 1) := dk_100 (dk_at dksX3_columnOf_1 11 rfl rfl)
theorem dX3_columnOf_36 : decode cX3_columnOf 36 = .ok (.i2l, 1) := dk_133 (dk_at dksX3_columnOf_1 12 rfl rfl)
theorem dX3_columnOf_37 : decode cX3_columnOf 37 = .ok (.invokestatic 184, 3) := dk_184 0 184 (dk_at dksX3_columnOf_1 13 rfl rfl)
theorem dX3_columnOf_40 : decode cX3_columnOf 40 = .ok (.ifCond .ne 38, 3) := dk_154 0 38 (dk_at dksX3_columnOf_1 16 rfl rfl)
theorem dX3_columnOf_43 : decode cX3_columnOf 43 = .ok (.goto 29, 3) := dk_167 0 29 (dk_at dksX3_columnOf_1 19 rfl rfl)
theorem dX3_columnOf_46 : decode cX3_columnOf 46 = .ok (.iload_n 3, 1) := dk_29 (dk_at dksX3_columnOf_1 22 rfl rfl)
theorem dX3_columnOf_47 : decode cX3_columnOf 47 = .ok (.i2l, 1) := dk_133 (dk_at dksX3_columnOf_1 23 rfl rfl)
theorem dX3_columnOf_48 : decode cX3_columnOf 48 = .ok (.lconst 0, 1) := dk_9 (dk_at dksX3_columnOf_2 0 rfl rfl)
theorem dX3_columnOf_49 : decode cX3_columnOf 49 = .ok (.aload_n 0, 1) := dk_42 (dk_at dksX3_columnOf_2 1 rfl rfl)
theorem dX3_columnOf_50 : decode cX3_columnOf 50 = .ok (.getfield 100, 3) := dk_180 0 100 (dk_at dksX3_columnOf_2 2 rfl rfl)
theorem dX3_columnOf_53 : decode cX3_columnOf 53 = .ok (.iconst 1, 1) := dk_4 (dk_at dksX3_columnOf_2 5 rfl rfl)
theorem dX3_columnOf_54 : decode cX3_columnOf 54 = .ok (.isub, 1) := dk_100 (dk_at dksX3_columnOf_2 6 rfl rfl)
theorem dX3_columnOf_55 : decode cX3_columnOf 55 = .ok (.i2l, 1) := dk_133 (dk_at dksX3_columnOf_2 7 rfl rfl)
theorem dX3_columnOf_56 : decode cX3_columnOf 56 = .ok (.invokestatic 184, 3) := dk_184 0 184 (dk_at dksX3_columnOf_2 8 rfl rfl)
theorem dX3_columnOf_59 : decode cX3_columnOf 59 = .ok (.ifCond .eq 13, 3) := dk_153 0 13 (dk_at dksX3_columnOf_2 11 rfl rfl)
theorem dX3_columnOf_62 : decode cX3_columnOf 62 = .ok (.aload_n 0, 1) := dk_42 (dk_at dksX3_columnOf_2 14 rfl rfl)
theorem dX3_columnOf_63 : decode cX3_columnOf 63 = .ok (.getfield 7, 3) := dk_180 0 7 (dk_at dksX3_columnOf_2 15 rfl rfl)
theorem dX3_columnOf_66 : decode cX3_columnOf 66 = .ok (.iload_n 3, 1) := dk_29 (dk_at dksX3_columnOf_2 18 rfl rfl)
theorem dX3_columnOf_67 : decode cX3_columnOf 67 = .ok (.iaload, 1) := dk_46 (dk_at dksX3_columnOf_2 19 rfl rfl)
theorem dX3_columnOf_68 : decode cX3_columnOf 68 = .ok (.iconst 4, 1) := dk_7 (dk_at dksX3_columnOf_2 20 rfl rfl)
theorem dX3_columnOf_69 : decode cX3_columnOf 69 = .ok (.if_icmp .eq 9, 3) := dk_159 0 9 (dk_at dksX3_columnOf_2 21 rfl rfl)
theorem dX3_columnOf_72 : decode cX3_columnOf 72 = .ok (.aload_n 0, 1) := dk_42 (dk_at dksX3_columnOf_3 0 rfl rfl)
theorem dX3_columnOf_73 : decode cX3_columnOf 73 = .ok (.iconst 1, 1) := dk_4 (dk_at dksX3_columnOf_3 1 rfl rfl)
theorem dX3_columnOf_74 : decode cX3_columnOf 74 = .ok (.invokevirtual 194, 3) := dk_182 0 194 (dk_at dksX3_columnOf_3 2 rfl rfl)
theorem dX3_columnOf_77 : decode cX3_columnOf 77 = .ok (.ireturn, 1) := dk_172 (dk_at dksX3_columnOf_3 5 rfl rfl)
theorem dX3_columnOf_78 : decode cX3_columnOf 78 = .ok (.aload_n 0, 1) := dk_42 (dk_at dksX3_columnOf_3 6 rfl rfl)
theorem dX3_columnOf_79 : decode cX3_columnOf 79 = .ok (.iconst 0, 1) := dk_3 (dk_at dksX3_columnOf_3 7 rfl rfl)
theorem dX3_columnOf_80 : decode cX3_columnOf 80 = .ok (.putfield 90, 3) := dk_181 0 90 (dk_at dksX3_columnOf_3 8 rfl rfl)
theorem dX3_columnOf_83 : decode cX3_columnOf 83 = .ok (.iload_n 2, 1) := dk_28 (dk_at dksX3_columnOf_3 11 rfl rfl)
theorem dX3_columnOf_84 : decode cX3_columnOf 84 = .ok (.ifCond .eq 12, 3) := dk_153 0 12 (dk_at dksX3_columnOf_3 12 rfl rfl)
theorem dX3_columnOf_87 : decode cX3_columnOf 87 = .ok (.aload_n 0, 1) := dk_42 (dk_at dksX3_columnOf_3 15 rfl rfl)
theorem dX3_columnOf_88 : decode cX3_columnOf 88 = .ok (.getfield 56, 3) := dk_180 0 56 (dk_at dksX3_columnOf_3 16 rfl rfl)
theorem dX3_columnOf_91 : decode cX3_columnOf 91 = .ok (.iload_n 3, 1) := dk_29 (dk_at dksX3_columnOf_3 19 rfl rfl)
theorem dX3_columnOf_92 : decode cX3_columnOf 92 = .ok (.iaload, 1) := dk_46 (dk_at dksX3_columnOf_3 20 rfl rfl)
theorem dX3_columnOf_93 : decode cX3_columnOf 93 = .ok (.goto 23, 3) := dk_167 0 23 (dk_at dksX3_columnOf_3 21 rfl rfl)
theorem dX3_columnOf_96 : decode cX3_columnOf 96 = .ok (.aload_n 0, 1) := dk_42 (dk_at dksX3_columnOf_4 0 rfl rfl)
theorem dX3_columnOf_97 : decode cX3_columnOf 97 = .ok (.getfield 50, 3) := dk_180 0 50 (dk_at dksX3_columnOf_4 1 rfl rfl)
theorem dX3_columnOf_100 : decode cX3_columnOf 100 = .ok (.iload_n 3, 1) := dk_29 (dk_at dksX3_columnOf_4 4 rfl rfl)
theorem dX3_columnOf_101 : decode cX3_columnOf 101 = .ok (.iaload, 1) := dk_46 (dk_at dksX3_columnOf_4 5 rfl rfl)
theorem dX3_columnOf_102 : decode cX3_columnOf 102 = .ok (.iconst (-1), 1) := dk_2 (dk_at dksX3_columnOf_4 6 rfl rfl)
theorem dX3_columnOf_103 : decode cX3_columnOf 103 = .ok (.if_icmp .ne 7, 3) := dk_160 0 7 (dk_at dksX3_columnOf_4 7 rfl rfl)
theorem dX3_columnOf_106 : decode cX3_columnOf 106 = .ok (.iconst (-1), 1) := dk_2 (dk_at dksX3_columnOf_4 10 rfl rfl)
theorem dX3_columnOf_107 : decode cX3_columnOf 107 = .ok (.goto 9, 3) := dk_167 0 9 (dk_at dksX3_columnOf_4 11 rfl rfl)
theorem dX3_columnOf_110 : decode cX3_columnOf 110 = .ok (.aload_n 0, 1) := dk_42 (dk_at dksX3_columnOf_4 14 rfl rfl)
theorem dX3_columnOf_111 : decode cX3_columnOf 111 = .ok (.getfield 53, 3) := dk_180 0 53 (dk_at dksX3_columnOf_4 15 rfl rfl)
theorem dX3_columnOf_114 : decode cX3_columnOf 114 = .ok (.iload_n 3, 1) := dk_29 (dk_at dksX3_columnOf_4 18 rfl rfl)
theorem dX3_columnOf_115 : decode cX3_columnOf 115 = .ok (.iaload, 1) := dk_46 (dk_at dksX3_columnOf_4 19 rfl rfl)
theorem dX3_columnOf_116 : decode cX3_columnOf 116 = .ok (.ireturn, 1) := dk_172 (dk_at dksX3_columnOf_4 20 rfl rfl)
abbrev cX3_lay : ByteArray := prog_7_method_23_code
def yX3_lay : MethodName := ⟨RX3, "lay", "(I)V"⟩
def dkwX3_lay_0 : List UInt8 := [42, 27, 182, 0, 173, 42, 182, 0, 176, 42, 182, 0, 179, 177]
abbrev dktX3_lay_0 : List UInt8 := dkwX3_lay_0 ++ []
theorem dksX3_lay_0 : cX3_lay.data.toList.drop 0 = dktX3_lay_0 := by decide +kernel
theorem dX3_lay_0 : decode cX3_lay 0 = .ok (.aload_n 0, 1) := dk_42 (dk_at dksX3_lay_0 0 rfl rfl)
theorem dX3_lay_1 : decode cX3_lay 1 = .ok (.iload_n 1, 1) := dk_27 (dk_at dksX3_lay_0 1 rfl rfl)
theorem dX3_lay_2 : decode cX3_lay 2 = .ok (.invokevirtual 173, 3) := dk_182 0 173 (dk_at dksX3_lay_0 2 rfl rfl)
theorem dX3_lay_5 : decode cX3_lay 5 = .ok (.aload_n 0, 1) := dk_42 (dk_at dksX3_lay_0 5 rfl rfl)
theorem dX3_lay_6 : decode cX3_lay 6 = .ok (.invokevirtual 176, 3) := dk_182 0 176 (dk_at dksX3_lay_0 6 rfl rfl)
theorem dX3_lay_9 : decode cX3_lay 9 = .ok (.aload_n 0, 1) := dk_42 (dk_at dksX3_lay_0 9 rfl rfl)
theorem dX3_lay_10 : decode cX3_lay 10 = .ok (.invokevirtual 179, 3) := dk_182 0 179 (dk_at dksX3_lay_0 10 rfl rfl)
theorem dX3_lay_13 : decode cX3_lay 13 = .ok (.return_, 1) := dk_177 (dk_at dksX3_lay_0 13 rfl rfl)
abbrev cX3_layColumns : ByteArray := prog_7_method_17_code
def yX3_layColumns : MethodName := ⟨RX3, "layColumns", "()V"⟩
def dkwX3_layColumns_9 : List UInt8 := [182, 0, 149, 167, 255, 241, 177]
abbrev dktX3_layColumns_9 : List UInt8 := dkwX3_layColumns_9 ++ []
def dkwX3_layColumns_8 : List UInt8 := [132, 2, 1, 167, 255, 173, 132, 1, 1, 167, 255, 87, 42, 180, 0, 139, 42, 180, 0, 142, 162, 0, 10, 42]
abbrev dktX3_layColumns_8 : List UInt8 := dkwX3_layColumns_8 ++ dktX3_layColumns_9
def dkwX3_layColumns_7 : List UInt8 := [167, 0, 23, 42, 180, 0, 72, 42, 180, 0, 142, 28, 79, 42, 89, 180, 0, 142, 4, 96, 181, 0, 142]
abbrev dktX3_layColumns_7 : List UInt8 := dkwX3_layColumns_7 ++ dktX3_layColumns_8
def dkwX3_layColumns_6 : List UInt8 := [180, 0, 142, 160, 0, 24, 42, 180, 0, 13, 28, 46, 42, 180, 0, 129, 163, 0, 11, 42, 28, 182, 0, 145]
abbrev dktX3_layColumns_6 : List UInt8 := dkwX3_layColumns_6 ++ dktX3_layColumns_7
def dkwX3_layColumns_5 : List UInt8 := [180, 0, 7, 28, 46, 7, 160, 0, 65, 42, 180, 0, 50, 28, 46, 27, 160, 0, 55, 42, 180, 0, 139, 42]
abbrev dktX3_layColumns_5 : List UInt8 := dkwX3_layColumns_5 ++ dktX3_layColumns_6
def dkwX3_layColumns_4 : List UInt8 := [181, 0, 129, 42, 4, 181, 0, 132, 42, 4, 181, 0, 136, 3, 61, 28, 42, 180, 0, 100, 162, 0, 81, 42]
abbrev dktX3_layColumns_4 : List UInt8 := dkwX3_layColumns_4 ++ dktX3_layColumns_5
def dkwX3_layColumns_3 : List UInt8 := [27, 42, 180, 0, 126, 4, 100, 79, 42, 89, 180, 0, 129, 42, 27, 42, 180, 0, 132, 182, 0, 122, 100]
abbrev dktX3_layColumns_3 : List UInt8 := dkwX3_layColumns_3 ++ dktX3_layColumns_4
def dkwX3_layColumns_2 : List UInt8 := [180, 0, 132, 182, 0, 152, 42, 180, 0, 129, 164, 0, 10, 42, 182, 0, 149, 167, 255, 229, 42, 180, 0, 56]
abbrev dktX3_layColumns_2 : List UInt8 := dkwX3_layColumns_2 ++ dktX3_layColumns_3
def dkwX3_layColumns_1 : List UInt8 := [182, 0, 149, 3, 60, 27, 42, 180, 0, 97, 162, 0, 167, 42, 180, 0, 136, 153, 0, 26, 42, 27, 42]
abbrev dktX3_layColumns_1 : List UInt8 := dkwX3_layColumns_1 ++ dktX3_layColumns_2
def dkwX3_layColumns_0 : List UInt8 := [42, 3, 181, 0, 126, 42, 3, 181, 0, 139, 42, 3, 181, 0, 142, 42, 180, 0, 97, 154, 0, 4, 177, 42]
abbrev dktX3_layColumns_0 : List UInt8 := dkwX3_layColumns_0 ++ dktX3_layColumns_1
theorem dksX3_layColumns_0 : cX3_layColumns.data.toList.drop 0 = dktX3_layColumns_0 := by decide +kernel
theorem dksX3_layColumns_1 : cX3_layColumns.data.toList.drop 24 = dktX3_layColumns_1 := dk_seg dksX3_layColumns_0 24 rfl rfl
theorem dksX3_layColumns_2 : cX3_layColumns.data.toList.drop 47 = dktX3_layColumns_2 := dk_seg dksX3_layColumns_1 23 rfl rfl
theorem dksX3_layColumns_3 : cX3_layColumns.data.toList.drop 71 = dktX3_layColumns_3 := dk_seg dksX3_layColumns_2 24 rfl rfl
theorem dksX3_layColumns_4 : cX3_layColumns.data.toList.drop 94 = dktX3_layColumns_4 := dk_seg dksX3_layColumns_3 23 rfl rfl
theorem dksX3_layColumns_5 : cX3_layColumns.data.toList.drop 118 = dktX3_layColumns_5 := dk_seg dksX3_layColumns_4 24 rfl rfl
theorem dksX3_layColumns_6 : cX3_layColumns.data.toList.drop 142 = dktX3_layColumns_6 := dk_seg dksX3_layColumns_5 24 rfl rfl
theorem dksX3_layColumns_7 : cX3_layColumns.data.toList.drop 166 = dktX3_layColumns_7 := dk_seg dksX3_layColumns_6 24 rfl rfl
theorem dksX3_layColumns_8 : cX3_layColumns.data.toList.drop 189 = dktX3_layColumns_8 := dk_seg dksX3_layColumns_7 23 rfl rfl
theorem dksX3_layColumns_9 : cX3_layColumns.data.toList.drop 213 = dktX3_layColumns_9 := dk_seg dksX3_layColumns_8 24 rfl rfl
theorem dX3_layColumns_0 : decode cX3_layColumns 0 = .ok (.aload_n 0, 1) := dk_42 (dk_at dksX3_layColumns_0 0 rfl rfl)
theorem dX3_layColumns_1 : decode cX3_layColumns 1 = .ok (.iconst 0, 1) := dk_3 (dk_at dksX3_layColumns_0 1 rfl rfl)
theorem dX3_layColumns_2 : decode cX3_layColumns 2 = .ok (.putfield 126, 3) := dk_181 0 126 (dk_at dksX3_layColumns_0 2 rfl rfl)
theorem dX3_layColumns_5 : decode cX3_layColumns 5 = .ok (.aload_n 0, 1) := dk_42 (dk_at dksX3_layColumns_0 5 rfl rfl)
theorem dX3_layColumns_6 : decode cX3_layColumns 6 = .ok (.iconst 0, 1) := dk_3 (dk_at dksX3_layColumns_0 6 rfl rfl)
theorem dX3_layColumns_7 : decode cX3_layColumns 7 = .ok (.putfield 139, 3) := dk_181 0 139 (dk_at dksX3_layColumns_0 7 rfl rfl)
theorem dX3_layColumns_10 : decode cX3_layColumns 10 = .ok (.aload_n 0, 1) := dk_42 (dk_at dksX3_layColumns_0 10 rfl rfl)
theorem dX3_layColumns_11 : decode cX3_layColumns 11 = .ok (.iconst 0, 1) := dk_3 (dk_at dksX3_layColumns_0 11 rfl rfl)
theorem dX3_layColumns_12 : decode cX3_layColumns 12 = .ok (.putfield 142, 3) := dk_181 0 142 (dk_at dksX3_layColumns_0 12 rfl rfl)
theorem dX3_layColumns_15 : decode cX3_layColumns 15 = .ok (.aload_n 0, 1) := dk_42 (dk_at dksX3_layColumns_0 15 rfl rfl)
theorem dX3_layColumns_16 : decode cX3_layColumns 16 = .ok (.getfield 97, 3) := dk_180 0 97 (dk_at dksX3_layColumns_0 16 rfl rfl)
theorem dX3_layColumns_19 : decode cX3_layColumns 19 = .ok (.ifCond .ne 4, 3) := dk_154 0 4 (dk_at dksX3_layColumns_0 19 rfl rfl)
theorem dX3_layColumns_22 : decode cX3_layColumns 22 = .ok (.return_, 1) := dk_177 (dk_at dksX3_layColumns_0 22 rfl rfl)
theorem dX3_layColumns_23 : decode cX3_layColumns 23 = .ok (.aload_n 0, 1) := dk_42 (dk_at dksX3_layColumns_0 23 rfl rfl)
theorem dX3_layColumns_24 : decode cX3_layColumns 24 = .ok (.invokevirtual 149, 3) := dk_182 0 149 (dk_at dksX3_layColumns_1 0 rfl rfl)
theorem dX3_layColumns_27 : decode cX3_layColumns 27 = .ok (.iconst 0, 1) := dk_3 (dk_at dksX3_layColumns_1 3 rfl rfl)
theorem dX3_layColumns_28 : decode cX3_layColumns 28 = .ok (.istore_n 1, 1) := dk_60 (dk_at dksX3_layColumns_1 4 rfl rfl)
theorem dX3_layColumns_29 : decode cX3_layColumns 29 = .ok (.iload_n 1, 1) := dk_27 (dk_at dksX3_layColumns_1 5 rfl rfl)
theorem dX3_layColumns_30 : decode cX3_layColumns 30 = .ok (.aload_n 0, 1) := dk_42 (dk_at dksX3_layColumns_1 6 rfl rfl)
theorem dX3_layColumns_31 : decode cX3_layColumns 31 = .ok (.getfield 97, 3) := dk_180 0 97 (dk_at dksX3_layColumns_1 7 rfl rfl)
theorem dX3_layColumns_34 : decode cX3_layColumns 34 = .ok (.if_icmp .ge 167, 3) := dk_162 0 167 (dk_at dksX3_layColumns_1 10 rfl rfl)
theorem dX3_layColumns_37 : decode cX3_layColumns 37 = .ok (.aload_n 0, 1) := dk_42 (dk_at dksX3_layColumns_1 13 rfl rfl)
theorem dX3_layColumns_38 : decode cX3_layColumns 38 = .ok (.getfield 136, 3) := dk_180 0 136 (dk_at dksX3_layColumns_1 14 rfl rfl)
theorem dX3_layColumns_41 : decode cX3_layColumns 41 = .ok (.ifCond .eq 26, 3) := dk_153 0 26 (dk_at dksX3_layColumns_1 17 rfl rfl)
theorem dX3_layColumns_44 : decode cX3_layColumns 44 = .ok (.aload_n 0, 1) := dk_42 (dk_at dksX3_layColumns_1 20 rfl rfl)
theorem dX3_layColumns_45 : decode cX3_layColumns 45 = .ok (.iload_n 1, 1) := dk_27 (dk_at dksX3_layColumns_1 21 rfl rfl)
theorem dX3_layColumns_46 : decode cX3_layColumns 46 = .ok (.aload_n 0, 1) := dk_42 (dk_at dksX3_layColumns_1 22 rfl rfl)
theorem dX3_layColumns_47 : decode cX3_layColumns 47 = .ok (.getfield 132, 3) := dk_180 0 132 (dk_at dksX3_layColumns_2 0 rfl rfl)
theorem dX3_layColumns_50 : decode cX3_layColumns 50 = .ok (.invokevirtual 152, 3) := dk_182 0 152 (dk_at dksX3_layColumns_2 3 rfl rfl)
theorem dX3_layColumns_53 : decode cX3_layColumns 53 = .ok (.aload_n 0, 1) := dk_42 (dk_at dksX3_layColumns_2 6 rfl rfl)
theorem dX3_layColumns_54 : decode cX3_layColumns 54 = .ok (.getfield 129, 3) := dk_180 0 129 (dk_at dksX3_layColumns_2 7 rfl rfl)
theorem dX3_layColumns_57 : decode cX3_layColumns 57 = .ok (.if_icmp .le 10, 3) := dk_164 0 10 (dk_at dksX3_layColumns_2 10 rfl rfl)
theorem dX3_layColumns_60 : decode cX3_layColumns 60 = .ok (.aload_n 0, 1) := dk_42 (dk_at dksX3_layColumns_2 13 rfl rfl)
theorem dX3_layColumns_61 : decode cX3_layColumns 61 = .ok (.invokevirtual 149, 3) := dk_182 0 149 (dk_at dksX3_layColumns_2 14 rfl rfl)
theorem dX3_layColumns_64 : decode cX3_layColumns 64 = .ok (.goto (-27), 3) := dk_167 255 229 (dk_at dksX3_layColumns_2 17 rfl rfl)
theorem dX3_layColumns_67 : decode cX3_layColumns 67 = .ok (.aload_n 0, 1) := dk_42 (dk_at dksX3_layColumns_2 20 rfl rfl)
theorem dX3_layColumns_68 : decode cX3_layColumns 68 = .ok (.getfield 56, 3) := dk_180 0 56 (dk_at dksX3_layColumns_2 21 rfl rfl)
theorem dX3_layColumns_71 : decode cX3_layColumns 71 = .ok (.iload_n 1, 1) := dk_27 (dk_at dksX3_layColumns_3 0 rfl rfl)
theorem dX3_layColumns_72 : decode cX3_layColumns 72 = .ok (.aload_n 0, 1) := dk_42 (dk_at dksX3_layColumns_3 1 rfl rfl)
theorem dX3_layColumns_73 : decode cX3_layColumns 73 = .ok (.getfield 126, 3) := dk_180 0 126 (dk_at dksX3_layColumns_3 2 rfl rfl)
theorem dX3_layColumns_76 : decode cX3_layColumns 76 = .ok (.iconst 1, 1) := dk_4 (dk_at dksX3_layColumns_3 5 rfl rfl)
theorem dX3_layColumns_77 : decode cX3_layColumns 77 = .ok (.isub, 1) := dk_100 (dk_at dksX3_layColumns_3 6 rfl rfl)
theorem dX3_layColumns_78 : decode cX3_layColumns 78 = .ok (.iastore, 1) := dk_79 (dk_at dksX3_layColumns_3 7 rfl rfl)
theorem dX3_layColumns_79 : decode cX3_layColumns 79 = .ok (.aload_n 0, 1) := dk_42 (dk_at dksX3_layColumns_3 8 rfl rfl)
theorem dX3_layColumns_80 : decode cX3_layColumns 80 = .ok (.dup, 1) := dk_89 (dk_at dksX3_layColumns_3 9 rfl rfl)
theorem dX3_layColumns_81 : decode cX3_layColumns 81 = .ok (.getfield 129, 3) := dk_180 0 129 (dk_at dksX3_layColumns_3 10 rfl rfl)
theorem dX3_layColumns_84 : decode cX3_layColumns 84 = .ok (.aload_n 0, 1) := dk_42 (dk_at dksX3_layColumns_3 13 rfl rfl)
theorem dX3_layColumns_85 : decode cX3_layColumns 85 = .ok (.iload_n 1, 1) := dk_27 (dk_at dksX3_layColumns_3 14 rfl rfl)
theorem dX3_layColumns_86 : decode cX3_layColumns 86 = .ok (.aload_n 0, 1) := dk_42 (dk_at dksX3_layColumns_3 15 rfl rfl)
theorem dX3_layColumns_87 : decode cX3_layColumns 87 = .ok (.getfield 132, 3) := dk_180 0 132 (dk_at dksX3_layColumns_3 16 rfl rfl)
theorem dX3_layColumns_90 : decode cX3_layColumns 90 = .ok (.invokevirtual 122, 3) := dk_182 0 122 (dk_at dksX3_layColumns_3 19 rfl rfl)
theorem dX3_layColumns_93 : decode cX3_layColumns 93 = .ok (.isub, 1) := dk_100 (dk_at dksX3_layColumns_3 22 rfl rfl)
theorem dX3_layColumns_94 : decode cX3_layColumns 94 = .ok (.putfield 129, 3) := dk_181 0 129 (dk_at dksX3_layColumns_4 0 rfl rfl)
theorem dX3_layColumns_97 : decode cX3_layColumns 97 = .ok (.aload_n 0, 1) := dk_42 (dk_at dksX3_layColumns_4 3 rfl rfl)
theorem dX3_layColumns_98 : decode cX3_layColumns 98 = .ok (.iconst 1, 1) := dk_4 (dk_at dksX3_layColumns_4 4 rfl rfl)
theorem dX3_layColumns_99 : decode cX3_layColumns 99 = .ok (.putfield 132, 3) := dk_181 0 132 (dk_at dksX3_layColumns_4 5 rfl rfl)
theorem dX3_layColumns_102 : decode cX3_layColumns 102 = .ok (.aload_n 0, 1) := dk_42 (dk_at dksX3_layColumns_4 8 rfl rfl)
theorem dX3_layColumns_103 : decode cX3_layColumns 103 = .ok (.iconst 1, 1) := dk_4 (dk_at dksX3_layColumns_4 9 rfl rfl)
theorem dX3_layColumns_104 : decode cX3_layColumns 104 = .ok (.putfield 136, 3) := dk_181 0 136 (dk_at dksX3_layColumns_4 10 rfl rfl)
theorem dX3_layColumns_107 : decode cX3_layColumns 107 = .ok (.iconst 0, 1) := dk_3 (dk_at dksX3_layColumns_4 13 rfl rfl)
theorem dX3_layColumns_108 : decode cX3_layColumns 108 = .ok (.istore_n 2, 1) := dk_61 (dk_at dksX3_layColumns_4 14 rfl rfl)
theorem dX3_layColumns_109 : decode cX3_layColumns 109 = .ok (.iload_n 2, 1) := dk_28 (dk_at dksX3_layColumns_4 15 rfl rfl)
theorem dX3_layColumns_110 : decode cX3_layColumns 110 = .ok (.aload_n 0, 1) := dk_42 (dk_at dksX3_layColumns_4 16 rfl rfl)
theorem dX3_layColumns_111 : decode cX3_layColumns 111 = .ok (.getfield 100, 3) := dk_180 0 100 (dk_at dksX3_layColumns_4 17 rfl rfl)
theorem dX3_layColumns_114 : decode cX3_layColumns 114 = .ok (.if_icmp .ge 81, 3) := dk_162 0 81 (dk_at dksX3_layColumns_4 20 rfl rfl)
theorem dX3_layColumns_117 : decode cX3_layColumns 117 = .ok (.aload_n 0, 1) := dk_42 (dk_at dksX3_layColumns_4 23 rfl rfl)
theorem dX3_layColumns_118 : decode cX3_layColumns 118 = .ok (.getfield 7, 3) := dk_180 0 7 (dk_at dksX3_layColumns_5 0 rfl rfl)
theorem dX3_layColumns_121 : decode cX3_layColumns 121 = .ok (.iload_n 2, 1) := dk_28 (dk_at dksX3_layColumns_5 3 rfl rfl)
theorem dX3_layColumns_122 : decode cX3_layColumns 122 = .ok (.iaload, 1) := dk_46 (dk_at dksX3_layColumns_5 4 rfl rfl)
theorem dX3_layColumns_123 : decode cX3_layColumns 123 = .ok (.iconst 4, 1) := dk_7 (dk_at dksX3_layColumns_5 5 rfl rfl)
theorem dX3_layColumns_124 : decode cX3_layColumns 124 = .ok (.if_icmp .ne 65, 3) := dk_160 0 65 (dk_at dksX3_layColumns_5 6 rfl rfl)
theorem dX3_layColumns_127 : decode cX3_layColumns 127 = .ok (.aload_n 0, 1) := dk_42 (dk_at dksX3_layColumns_5 9 rfl rfl)
theorem dX3_layColumns_128 : decode cX3_layColumns 128 = .ok (.getfield 50, 3) := dk_180 0 50 (dk_at dksX3_layColumns_5 10 rfl rfl)
theorem dX3_layColumns_131 : decode cX3_layColumns 131 = .ok (.iload_n 2, 1) := dk_28 (dk_at dksX3_layColumns_5 13 rfl rfl)
theorem dX3_layColumns_132 : decode cX3_layColumns 132 = .ok (.iaload, 1) := dk_46 (dk_at dksX3_layColumns_5 14 rfl rfl)
theorem dX3_layColumns_133 : decode cX3_layColumns 133 = .ok (.iload_n 1, 1) := dk_27 (dk_at dksX3_layColumns_5 15 rfl rfl)
theorem dX3_layColumns_134 : decode cX3_layColumns 134 = .ok (.if_icmp .ne 55, 3) := dk_160 0 55 (dk_at dksX3_layColumns_5 16 rfl rfl)
theorem dX3_layColumns_137 : decode cX3_layColumns 137 = .ok (.aload_n 0, 1) := dk_42 (dk_at dksX3_layColumns_5 19 rfl rfl)
theorem dX3_layColumns_138 : decode cX3_layColumns 138 = .ok (.getfield 139, 3) := dk_180 0 139 (dk_at dksX3_layColumns_5 20 rfl rfl)
theorem dX3_layColumns_141 : decode cX3_layColumns 141 = .ok (.aload_n 0, 1) := dk_42 (dk_at dksX3_layColumns_5 23 rfl rfl)
theorem dX3_layColumns_142 : decode cX3_layColumns 142 = .ok (.getfield 142, 3) := dk_180 0 142 (dk_at dksX3_layColumns_6 0 rfl rfl)
theorem dX3_layColumns_145 : decode cX3_layColumns 145 = .ok (.if_icmp .ne 24, 3) := dk_160 0 24 (dk_at dksX3_layColumns_6 3 rfl rfl)
theorem dX3_layColumns_148 : decode cX3_layColumns 148 = .ok (.aload_n 0, 1) := dk_42 (dk_at dksX3_layColumns_6 6 rfl rfl)
theorem dX3_layColumns_149 : decode cX3_layColumns 149 = .ok (.getfield 13, 3) := dk_180 0 13 (dk_at dksX3_layColumns_6 7 rfl rfl)
theorem dX3_layColumns_152 : decode cX3_layColumns 152 = .ok (.iload_n 2, 1) := dk_28 (dk_at dksX3_layColumns_6 10 rfl rfl)
theorem dX3_layColumns_153 : decode cX3_layColumns 153 = .ok (.iaload, 1) := dk_46 (dk_at dksX3_layColumns_6 11 rfl rfl)
theorem dX3_layColumns_154 : decode cX3_layColumns 154 = .ok (.aload_n 0, 1) := dk_42 (dk_at dksX3_layColumns_6 12 rfl rfl)
theorem dX3_layColumns_155 : decode cX3_layColumns 155 = .ok (.getfield 129, 3) := dk_180 0 129 (dk_at dksX3_layColumns_6 13 rfl rfl)
theorem dX3_layColumns_158 : decode cX3_layColumns 158 = .ok (.if_icmp .gt 11, 3) := dk_163 0 11 (dk_at dksX3_layColumns_6 16 rfl rfl)
theorem dX3_layColumns_161 : decode cX3_layColumns 161 = .ok (.aload_n 0, 1) := dk_42 (dk_at dksX3_layColumns_6 19 rfl rfl)
theorem dX3_layColumns_162 : decode cX3_layColumns 162 = .ok (.iload_n 2, 1) := dk_28 (dk_at dksX3_layColumns_6 20 rfl rfl)
theorem dX3_layColumns_163 : decode cX3_layColumns 163 = .ok (.invokevirtual 145, 3) := dk_182 0 145 (dk_at dksX3_layColumns_6 21 rfl rfl)
theorem dX3_layColumns_166 : decode cX3_layColumns 166 = .ok (.goto 23, 3) := dk_167 0 23 (dk_at dksX3_layColumns_7 0 rfl rfl)
theorem dX3_layColumns_169 : decode cX3_layColumns 169 = .ok (.aload_n 0, 1) := dk_42 (dk_at dksX3_layColumns_7 3 rfl rfl)
theorem dX3_layColumns_170 : decode cX3_layColumns 170 = .ok (.getfield 72, 3) := dk_180 0 72 (dk_at dksX3_layColumns_7 4 rfl rfl)
theorem dX3_layColumns_173 : decode cX3_layColumns 173 = .ok (.aload_n 0, 1) := dk_42 (dk_at dksX3_layColumns_7 7 rfl rfl)
theorem dX3_layColumns_174 : decode cX3_layColumns 174 = .ok (.getfield 142, 3) := dk_180 0 142 (dk_at dksX3_layColumns_7 8 rfl rfl)
theorem dX3_layColumns_177 : decode cX3_layColumns 177 = .ok (.iload_n 2, 1) := dk_28 (dk_at dksX3_layColumns_7 11 rfl rfl)
theorem dX3_layColumns_178 : decode cX3_layColumns 178 = .ok (.iastore, 1) := dk_79 (dk_at dksX3_layColumns_7 12 rfl rfl)
theorem dX3_layColumns_179 : decode cX3_layColumns 179 = .ok (.aload_n 0, 1) := dk_42 (dk_at dksX3_layColumns_7 13 rfl rfl)
theorem dX3_layColumns_180 : decode cX3_layColumns 180 = .ok (.dup, 1) := dk_89 (dk_at dksX3_layColumns_7 14 rfl rfl)
theorem dX3_layColumns_181 : decode cX3_layColumns 181 = .ok (.getfield 142, 3) := dk_180 0 142 (dk_at dksX3_layColumns_7 15 rfl rfl)
theorem dX3_layColumns_184 : decode cX3_layColumns 184 = .ok (.iconst 1, 1) := dk_4 (dk_at dksX3_layColumns_7 18 rfl rfl)
theorem dX3_layColumns_185 : decode cX3_layColumns 185 = .ok (.iadd, 1) := dk_96 (dk_at dksX3_layColumns_7 19 rfl rfl)
theorem dX3_layColumns_186 : decode cX3_layColumns 186 = .ok (.putfield 142, 3) := dk_181 0 142 (dk_at dksX3_layColumns_7 20 rfl rfl)
theorem dX3_layColumns_189 : decode cX3_layColumns 189 = .ok (.iinc 2 1, 3) := dk_132 2 1 (dk_at dksX3_layColumns_8 0 rfl rfl)
theorem dX3_layColumns_192 : decode cX3_layColumns 192 = .ok (.goto (-83), 3) := dk_167 255 173 (dk_at dksX3_layColumns_8 3 rfl rfl)
theorem dX3_layColumns_195 : decode cX3_layColumns 195 = .ok (.iinc 1 1, 3) := dk_132 1 1 (dk_at dksX3_layColumns_8 6 rfl rfl)
theorem dX3_layColumns_198 : decode cX3_layColumns 198 = .ok (.goto (-169), 3) := dk_167 255 87 (dk_at dksX3_layColumns_8 9 rfl rfl)
theorem dX3_layColumns_201 : decode cX3_layColumns 201 = .ok (.aload_n 0, 1) := dk_42 (dk_at dksX3_layColumns_8 12 rfl rfl)
theorem dX3_layColumns_202 : decode cX3_layColumns 202 = .ok (.getfield 139, 3) := dk_180 0 139 (dk_at dksX3_layColumns_8 13 rfl rfl)
theorem dX3_layColumns_205 : decode cX3_layColumns 205 = .ok (.aload_n 0, 1) := dk_42 (dk_at dksX3_layColumns_8 16 rfl rfl)
theorem dX3_layColumns_206 : decode cX3_layColumns 206 = .ok (.getfield 142, 3) := dk_180 0 142 (dk_at dksX3_layColumns_8 17 rfl rfl)
theorem dX3_layColumns_209 : decode cX3_layColumns 209 = .ok (.if_icmp .ge 10, 3) := dk_162 0 10 (dk_at dksX3_layColumns_8 20 rfl rfl)
theorem dX3_layColumns_212 : decode cX3_layColumns 212 = .ok (.aload_n 0, 1) := dk_42 (dk_at dksX3_layColumns_8 23 rfl rfl)
theorem dX3_layColumns_213 : decode cX3_layColumns 213 = .ok (.invokevirtual 149, 3) := dk_182 0 149 (dk_at dksX3_layColumns_9 0 rfl rfl)
theorem dX3_layColumns_216 : decode cX3_layColumns 216 = .ok (.goto (-15), 3) := dk_167 255 241 (dk_at dksX3_layColumns_9 3 rfl rfl)
theorem dX3_layColumns_219 : decode cX3_layColumns 219 = .ok (.return_, 1) := dk_177 (dk_at dksX3_layColumns_9 6 rfl rfl)
abbrev cX3_begins : ByteArray := prog_7_method_15_code
def yX3_begins : MethodName := ⟨RX3, "begins", "()V"⟩
def dkwX3_begins_3 : List UInt8 := [42, 180, 0, 139, 46, 182, 0, 145, 42, 89, 180, 0, 139, 4, 96, 181, 0, 139, 167, 255, 194, 177]
abbrev dktX3_begins_3 : List UInt8 := dkwX3_begins_3 ++ []
def dkwX3_begins_2 : List UInt8 := [180, 0, 139, 46, 46, 42, 180, 0, 129, 164, 0, 10, 42, 180, 0, 136, 154, 0, 29, 42, 42, 180, 0, 72]
abbrev dktX3_begins_2 : List UInt8 := dkwX3_begins_2 ++ dktX3_begins_3
def dkwX3_begins_1 : List UInt8 := [3, 181, 0, 136, 42, 180, 0, 139, 42, 180, 0, 142, 162, 0, 57, 42, 180, 0, 13, 42, 180, 0, 72, 42]
abbrev dktX3_begins_1 : List UInt8 := dkwX3_begins_1 ++ dktX3_begins_2
def dkwX3_begins_0 : List UInt8 := [42, 89, 180, 0, 126, 4, 96, 181, 0, 126, 42, 42, 180, 0, 35, 181, 0, 129, 42, 3, 181, 0, 132, 42]
abbrev dktX3_begins_0 : List UInt8 := dkwX3_begins_0 ++ dktX3_begins_1
theorem dksX3_begins_0 : cX3_begins.data.toList.drop 0 = dktX3_begins_0 := by decide +kernel
theorem dksX3_begins_1 : cX3_begins.data.toList.drop 24 = dktX3_begins_1 := dk_seg dksX3_begins_0 24 rfl rfl
theorem dksX3_begins_2 : cX3_begins.data.toList.drop 48 = dktX3_begins_2 := dk_seg dksX3_begins_1 24 rfl rfl
theorem dksX3_begins_3 : cX3_begins.data.toList.drop 72 = dktX3_begins_3 := dk_seg dksX3_begins_2 24 rfl rfl
theorem dX3_begins_0 : decode cX3_begins 0 = .ok (.aload_n 0, 1) := dk_42 (dk_at dksX3_begins_0 0 rfl rfl)
theorem dX3_begins_1 : decode cX3_begins 1 = .ok (.dup, 1) := dk_89 (dk_at dksX3_begins_0 1 rfl rfl)
theorem dX3_begins_2 : decode cX3_begins 2 = .ok (.getfield 126, 3) := dk_180 0 126 (dk_at dksX3_begins_0 2 rfl rfl)
theorem dX3_begins_5 : decode cX3_begins 5 = .ok (.iconst 1, 1) := dk_4 (dk_at dksX3_begins_0 5 rfl rfl)
theorem dX3_begins_6 : decode cX3_begins 6 = .ok (.iadd, 1) := dk_96 (dk_at dksX3_begins_0 6 rfl rfl)
theorem dX3_begins_7 : decode cX3_begins 7 = .ok (.putfield 126, 3) := dk_181 0 126 (dk_at dksX3_begins_0 7 rfl rfl)
theorem dX3_begins_10 : decode cX3_begins 10 = .ok (.aload_n 0, 1) := dk_42 (dk_at dksX3_begins_0 10 rfl rfl)
theorem dX3_begins_11 : decode cX3_begins 11 = .ok (.aload_n 0, 1) := dk_42 (dk_at dksX3_begins_0 11 rfl rfl)
theorem dX3_begins_12 : decode cX3_begins 12 = .ok (.getfield 35, 3) := dk_180 0 35 (dk_at dksX3_begins_0 12 rfl rfl)
theorem dX3_begins_15 : decode cX3_begins 15 = .ok (.putfield 129, 3) := dk_181 0 129 (dk_at dksX3_begins_0 15 rfl rfl)
theorem dX3_begins_18 : decode cX3_begins 18 = .ok (.aload_n 0, 1) := dk_42 (dk_at dksX3_begins_0 18 rfl rfl)
theorem dX3_begins_19 : decode cX3_begins 19 = .ok (.iconst 0, 1) := dk_3 (dk_at dksX3_begins_0 19 rfl rfl)
theorem dX3_begins_20 : decode cX3_begins 20 = .ok (.putfield 132, 3) := dk_181 0 132 (dk_at dksX3_begins_0 20 rfl rfl)
theorem dX3_begins_23 : decode cX3_begins 23 = .ok (.aload_n 0, 1) := dk_42 (dk_at dksX3_begins_0 23 rfl rfl)
theorem dX3_begins_24 : decode cX3_begins 24 = .ok (.iconst 0, 1) := dk_3 (dk_at dksX3_begins_1 0 rfl rfl)
theorem dX3_begins_25 : decode cX3_begins 25 = .ok (.putfield 136, 3) := dk_181 0 136 (dk_at dksX3_begins_1 1 rfl rfl)
theorem dX3_begins_28 : decode cX3_begins 28 = .ok (.aload_n 0, 1) := dk_42 (dk_at dksX3_begins_1 4 rfl rfl)
theorem dX3_begins_29 : decode cX3_begins 29 = .ok (.getfield 139, 3) := dk_180 0 139 (dk_at dksX3_begins_1 5 rfl rfl)
theorem dX3_begins_32 : decode cX3_begins 32 = .ok (.aload_n 0, 1) := dk_42 (dk_at dksX3_begins_1 8 rfl rfl)
theorem dX3_begins_33 : decode cX3_begins 33 = .ok (.getfield 142, 3) := dk_180 0 142 (dk_at dksX3_begins_1 9 rfl rfl)
theorem dX3_begins_36 : decode cX3_begins 36 = .ok (.if_icmp .ge 57, 3) := dk_162 0 57 (dk_at dksX3_begins_1 12 rfl rfl)
theorem dX3_begins_39 : decode cX3_begins 39 = .ok (.aload_n 0, 1) := dk_42 (dk_at dksX3_begins_1 15 rfl rfl)
theorem dX3_begins_40 : decode cX3_begins 40 = .ok (.getfield 13, 3) := dk_180 0 13 (dk_at dksX3_begins_1 16 rfl rfl)
theorem dX3_begins_43 : decode cX3_begins 43 = .ok (.aload_n 0, 1) := dk_42 (dk_at dksX3_begins_1 19 rfl rfl)
theorem dX3_begins_44 : decode cX3_begins 44 = .ok (.getfield 72, 3) := dk_180 0 72 (dk_at dksX3_begins_1 20 rfl rfl)
theorem dX3_begins_47 : decode cX3_begins 47 = .ok (.aload_n 0, 1) := dk_42 (dk_at dksX3_begins_1 23 rfl rfl)
theorem dX3_begins_48 : decode cX3_begins 48 = .ok (.getfield 139, 3) := dk_180 0 139 (dk_at dksX3_begins_2 0 rfl rfl)
theorem dX3_begins_51 : decode cX3_begins 51 = .ok (.iaload, 1) := dk_46 (dk_at dksX3_begins_2 3 rfl rfl)
theorem dX3_begins_52 : decode cX3_begins 52 = .ok (.iaload, 1) := dk_46 (dk_at dksX3_begins_2 4 rfl rfl)
theorem dX3_begins_53 : decode cX3_begins 53 = .ok (.aload_n 0, 1) := dk_42 (dk_at dksX3_begins_2 5 rfl rfl)
theorem dX3_begins_54 : decode cX3_begins 54 = .ok (.getfield 129, 3) := dk_180 0 129 (dk_at dksX3_begins_2 6 rfl rfl)
theorem dX3_begins_57 : decode cX3_begins 57 = .ok (.if_icmp .le 10, 3) := dk_164 0 10 (dk_at dksX3_begins_2 9 rfl rfl)
theorem dX3_begins_60 : decode cX3_begins 60 = .ok (.aload_n 0, 1) := dk_42 (dk_at dksX3_begins_2 12 rfl rfl)
theorem dX3_begins_61 : decode cX3_begins 61 = .ok (.getfield 136, 3) := dk_180 0 136 (dk_at dksX3_begins_2 13 rfl rfl)
theorem dX3_begins_64 : decode cX3_begins 64 = .ok (.ifCond .ne 29, 3) := dk_154 0 29 (dk_at dksX3_begins_2 16 rfl rfl)
theorem dX3_begins_67 : decode cX3_begins 67 = .ok (.aload_n 0, 1) := dk_42 (dk_at dksX3_begins_2 19 rfl rfl)
theorem dX3_begins_68 : decode cX3_begins 68 = .ok (.aload_n 0, 1) := dk_42 (dk_at dksX3_begins_2 20 rfl rfl)
theorem dX3_begins_69 : decode cX3_begins 69 = .ok (.getfield 72, 3) := dk_180 0 72 (dk_at dksX3_begins_2 21 rfl rfl)
theorem dX3_begins_72 : decode cX3_begins 72 = .ok (.aload_n 0, 1) := dk_42 (dk_at dksX3_begins_3 0 rfl rfl)
theorem dX3_begins_73 : decode cX3_begins 73 = .ok (.getfield 139, 3) := dk_180 0 139 (dk_at dksX3_begins_3 1 rfl rfl)
theorem dX3_begins_76 : decode cX3_begins 76 = .ok (.iaload, 1) := dk_46 (dk_at dksX3_begins_3 4 rfl rfl)
theorem dX3_begins_77 : decode cX3_begins 77 = .ok (.invokevirtual 145, 3) := dk_182 0 145 (dk_at dksX3_begins_3 5 rfl rfl)
theorem dX3_begins_80 : decode cX3_begins 80 = .ok (.aload_n 0, 1) := dk_42 (dk_at dksX3_begins_3 8 rfl rfl)
theorem dX3_begins_81 : decode cX3_begins 81 = .ok (.dup, 1) := dk_89 (dk_at dksX3_begins_3 9 rfl rfl)
theorem dX3_begins_82 : decode cX3_begins 82 = .ok (.getfield 139, 3) := dk_180 0 139 (dk_at dksX3_begins_3 10 rfl rfl)
theorem dX3_begins_85 : decode cX3_begins 85 = .ok (.iconst 1, 1) := dk_4 (dk_at dksX3_begins_3 13 rfl rfl)
theorem dX3_begins_86 : decode cX3_begins 86 = .ok (.iadd, 1) := dk_96 (dk_at dksX3_begins_3 14 rfl rfl)
theorem dX3_begins_87 : decode cX3_begins 87 = .ok (.putfield 139, 3) := dk_181 0 139 (dk_at dksX3_begins_3 15 rfl rfl)
theorem dX3_begins_90 : decode cX3_begins 90 = .ok (.goto (-62), 3) := dk_167 255 194 (dk_at dksX3_begins_3 18 rfl rfl)
theorem dX3_begins_93 : decode cX3_begins 93 = .ok (.return_, 1) := dk_177 (dk_at dksX3_begins_3 21 rfl rfl)
abbrev cX3_tops : ByteArray := prog_7_method_16_code
def yX3_tops : MethodName := ⟨RX3, "tops", "(I)V"⟩
def dkwX3_tops_1 : List UInt8 := [181, 0, 129, 42, 4, 181, 0, 136, 177]
abbrev dktX3_tops_1 : List UInt8 := dkwX3_tops_1 ++ []
def dkwX3_tops_0 : List UInt8 := [42, 180, 0, 53, 27, 42, 180, 0, 126, 4, 100, 79, 42, 89, 180, 0, 129, 42, 180, 0, 13, 27, 46, 100]
abbrev dktX3_tops_0 : List UInt8 := dkwX3_tops_0 ++ dktX3_tops_1
theorem dksX3_tops_0 : cX3_tops.data.toList.drop 0 = dktX3_tops_0 := by decide +kernel
theorem dksX3_tops_1 : cX3_tops.data.toList.drop 24 = dktX3_tops_1 := dk_seg dksX3_tops_0 24 rfl rfl
theorem dX3_tops_0 : decode cX3_tops 0 = .ok (.aload_n 0, 1) := dk_42 (dk_at dksX3_tops_0 0 rfl rfl)
theorem dX3_tops_1 : decode cX3_tops 1 = .ok (.getfield 53, 3) := dk_180 0 53 (dk_at dksX3_tops_0 1 rfl rfl)
theorem dX3_tops_4 : decode cX3_tops 4 = .ok (.iload_n 1, 1) := dk_27 (dk_at dksX3_tops_0 4 rfl rfl)
theorem dX3_tops_5 : decode cX3_tops 5 = .ok (.aload_n 0, 1) := dk_42 (dk_at dksX3_tops_0 5 rfl rfl)
theorem dX3_tops_6 : decode cX3_tops 6 = .ok (.getfield 126, 3) := dk_180 0 126 (dk_at dksX3_tops_0 6 rfl rfl)
theorem dX3_tops_9 : decode cX3_tops 9 = .ok (.iconst 1, 1) := dk_4 (dk_at dksX3_tops_0 9 rfl rfl)
theorem dX3_tops_10 : decode cX3_tops 10 = .ok (.isub, 1) := dk_100 (dk_at dksX3_tops_0 10 rfl rfl)
theorem dX3_tops_11 : decode cX3_tops 11 = .ok (.iastore, 1) := dk_79 (dk_at dksX3_tops_0 11 rfl rfl)
theorem dX3_tops_12 : decode cX3_tops 12 = .ok (.aload_n 0, 1) := dk_42 (dk_at dksX3_tops_0 12 rfl rfl)
theorem dX3_tops_13 : decode cX3_tops 13 = .ok (.dup, 1) := dk_89 (dk_at dksX3_tops_0 13 rfl rfl)
theorem dX3_tops_14 : decode cX3_tops 14 = .ok (.getfield 129, 3) := dk_180 0 129 (dk_at dksX3_tops_0 14 rfl rfl)
theorem dX3_tops_17 : decode cX3_tops 17 = .ok (.aload_n 0, 1) := dk_42 (dk_at dksX3_tops_0 17 rfl rfl)
theorem dX3_tops_18 : decode cX3_tops 18 = .ok (.getfield 13, 3) := dk_180 0 13 (dk_at dksX3_tops_0 18 rfl rfl)
theorem dX3_tops_21 : decode cX3_tops 21 = .ok (.iload_n 1, 1) := dk_27 (dk_at dksX3_tops_0 21 rfl rfl)
theorem dX3_tops_22 : decode cX3_tops 22 = .ok (.iaload, 1) := dk_46 (dk_at dksX3_tops_0 22 rfl rfl)
theorem dX3_tops_23 : decode cX3_tops 23 = .ok (.isub, 1) := dk_100 (dk_at dksX3_tops_0 23 rfl rfl)
theorem dX3_tops_24 : decode cX3_tops 24 = .ok (.putfield 129, 3) := dk_181 0 129 (dk_at dksX3_tops_1 0 rfl rfl)
theorem dX3_tops_27 : decode cX3_tops 27 = .ok (.aload_n 0, 1) := dk_42 (dk_at dksX3_tops_1 3 rfl rfl)
theorem dX3_tops_28 : decode cX3_tops 28 = .ok (.iconst 1, 1) := dk_4 (dk_at dksX3_tops_1 4 rfl rfl)
theorem dX3_tops_29 : decode cX3_tops 29 = .ok (.putfield 136, 3) := dk_181 0 136 (dk_at dksX3_tops_1 5 rfl rfl)
theorem dX3_tops_32 : decode cX3_tops 32 = .ok (.return_, 1) := dk_177 (dk_at dksX3_tops_1 8 rfl rfl)
abbrev cX3_needs : ByteArray := prog_7_method_14_code
def yX3_needs : MethodName := ⟨RX3, "needs", "(IZ)I"⟩
def dkwX3_needs_5 : List UInt8 := [182, 0, 122, 96, 62, 29, 172]
abbrev dktX3_needs_5 : List UInt8 := dkwX3_needs_5 ++ []
def dkwX3_needs_4 : List UInt8 := [4, 96, 51, 153, 0, 25, 42, 180, 0, 69, 27, 4, 96, 51, 153, 0, 14, 29, 42, 27, 5, 96, 4]
abbrev dktX3_needs_4 : List UInt8 := dkwX3_needs_4 ++ dktX3_needs_5
def dkwX3_needs_3 : List UInt8 := [180, 0, 62, 27, 51, 153, 0, 47, 42, 180, 0, 62, 27, 4, 96, 51, 154, 0, 36, 42, 180, 0, 66, 27]
abbrev dktX3_needs_3 : List UInt8 := dkwX3_needs_3 ++ dktX3_needs_4
def dkwX3_needs_2 : List UInt8 := [27, 4, 96, 42, 180, 0, 97, 162, 0, 67, 29, 42, 27, 4, 96, 4, 182, 0, 122, 96, 62, 42]
abbrev dktX3_needs_2 : List UInt8 := dkwX3_needs_2 ++ dktX3_needs_3
def dkwX3_needs_1 : List UInt8 := [153, 0, 16, 42, 180, 0, 69, 27, 51, 153, 0, 7, 4, 167, 0, 4, 3, 54, 4, 21, 4, 153, 0, 77]
abbrev dktX3_needs_1 : List UInt8 := dkwX3_needs_1 ++ dktX3_needs_2
def dkwX3_needs_0 : List UInt8 := [42, 27, 28, 182, 0, 122, 62, 42, 180, 0, 62, 27, 51, 154, 0, 21, 42, 180, 0, 66, 27, 51]
abbrev dktX3_needs_0 : List UInt8 := dkwX3_needs_0 ++ dktX3_needs_1
theorem dksX3_needs_0 : cX3_needs.data.toList.drop 0 = dktX3_needs_0 := by decide +kernel
theorem dksX3_needs_1 : cX3_needs.data.toList.drop 22 = dktX3_needs_1 := dk_seg dksX3_needs_0 22 rfl rfl
theorem dksX3_needs_2 : cX3_needs.data.toList.drop 46 = dktX3_needs_2 := dk_seg dksX3_needs_1 24 rfl rfl
theorem dksX3_needs_3 : cX3_needs.data.toList.drop 68 = dktX3_needs_3 := dk_seg dksX3_needs_2 22 rfl rfl
theorem dksX3_needs_4 : cX3_needs.data.toList.drop 92 = dktX3_needs_4 := dk_seg dksX3_needs_3 24 rfl rfl
theorem dksX3_needs_5 : cX3_needs.data.toList.drop 115 = dktX3_needs_5 := dk_seg dksX3_needs_4 23 rfl rfl
theorem dX3_needs_0 : decode cX3_needs 0 = .ok (.aload_n 0, 1) := dk_42 (dk_at dksX3_needs_0 0 rfl rfl)
theorem dX3_needs_1 : decode cX3_needs 1 = .ok (.iload_n 1, 1) := dk_27 (dk_at dksX3_needs_0 1 rfl rfl)
theorem dX3_needs_2 : decode cX3_needs 2 = .ok (.iload_n 2, 1) := dk_28 (dk_at dksX3_needs_0 2 rfl rfl)
theorem dX3_needs_3 : decode cX3_needs 3 = .ok (.invokevirtual 122, 3) := dk_182 0 122 (dk_at dksX3_needs_0 3 rfl rfl)
theorem dX3_needs_6 : decode cX3_needs 6 = .ok (.istore_n 3, 1) := dk_62 (dk_at dksX3_needs_0 6 rfl rfl)
theorem dX3_needs_7 : decode cX3_needs 7 = .ok (.aload_n 0, 1) := dk_42 (dk_at dksX3_needs_0 7 rfl rfl)
theorem dX3_needs_8 : decode cX3_needs 8 = .ok (.getfield 62, 3) := dk_180 0 62 (dk_at dksX3_needs_0 8 rfl rfl)
theorem dX3_needs_11 : decode cX3_needs 11 = .ok (.iload_n 1, 1) := dk_27 (dk_at dksX3_needs_0 11 rfl rfl)
theorem dX3_needs_12 : decode cX3_needs 12 = .ok (.baload, 1) := dk_51 (dk_at dksX3_needs_0 12 rfl rfl)
theorem dX3_needs_13 : decode cX3_needs 13 = .ok (.ifCond .ne 21, 3) := dk_154 0 21 (dk_at dksX3_needs_0 13 rfl rfl)
theorem dX3_needs_16 : decode cX3_needs 16 = .ok (.aload_n 0, 1) := dk_42 (dk_at dksX3_needs_0 16 rfl rfl)
theorem dX3_needs_17 : decode cX3_needs 17 = .ok (.getfield 66, 3) := dk_180 0 66 (dk_at dksX3_needs_0 17 rfl rfl)
theorem dX3_needs_20 : decode cX3_needs 20 = .ok (.iload_n 1, 1) := dk_27 (dk_at dksX3_needs_0 20 rfl rfl)
theorem dX3_needs_21 : decode cX3_needs 21 = .ok (.baload, 1) := dk_51 (dk_at dksX3_needs_0 21 rfl rfl)
theorem dX3_needs_22 : decode cX3_needs 22 = .ok (.ifCond .eq 16, 3) := dk_153 0 16 (dk_at dksX3_needs_1 0 rfl rfl)
theorem dX3_needs_25 : decode cX3_needs 25 = .ok (.aload_n 0, 1) := dk_42 (dk_at dksX3_needs_1 3 rfl rfl)
theorem dX3_needs_26 : decode cX3_needs 26 = .ok (.getfield 69, 3) := dk_180 0 69 (dk_at dksX3_needs_1 4 rfl rfl)
theorem dX3_needs_29 : decode cX3_needs 29 = .ok (.iload_n 1, 1) := dk_27 (dk_at dksX3_needs_1 7 rfl rfl)
theorem dX3_needs_30 : decode cX3_needs 30 = .ok (.baload, 1) := dk_51 (dk_at dksX3_needs_1 8 rfl rfl)
theorem dX3_needs_31 : decode cX3_needs 31 = .ok (.ifCond .eq 7, 3) := dk_153 0 7 (dk_at dksX3_needs_1 9 rfl rfl)
theorem dX3_needs_34 : decode cX3_needs 34 = .ok (.iconst 1, 1) := dk_4 (dk_at dksX3_needs_1 12 rfl rfl)
theorem dX3_needs_35 : decode cX3_needs 35 = .ok (.goto 4, 3) := dk_167 0 4 (dk_at dksX3_needs_1 13 rfl rfl)
theorem dX3_needs_38 : decode cX3_needs 38 = .ok (.iconst 0, 1) := dk_3 (dk_at dksX3_needs_1 16 rfl rfl)
theorem dX3_needs_39 : decode cX3_needs 39 = .ok (.istore 4, 2) := dk_54 4 (dk_at dksX3_needs_1 17 rfl rfl)
theorem dX3_needs_41 : decode cX3_needs 41 = .ok (.iload 4, 2) := dk_21 4 (dk_at dksX3_needs_1 19 rfl rfl)
theorem dX3_needs_43 : decode cX3_needs 43 = .ok (.ifCond .eq 77, 3) := dk_153 0 77 (dk_at dksX3_needs_1 21 rfl rfl)
theorem dX3_needs_46 : decode cX3_needs 46 = .ok (.iload_n 1, 1) := dk_27 (dk_at dksX3_needs_2 0 rfl rfl)
theorem dX3_needs_47 : decode cX3_needs 47 = .ok (.iconst 1, 1) := dk_4 (dk_at dksX3_needs_2 1 rfl rfl)
theorem dX3_needs_48 : decode cX3_needs 48 = .ok (.iadd, 1) := dk_96 (dk_at dksX3_needs_2 2 rfl rfl)
theorem dX3_needs_49 : decode cX3_needs 49 = .ok (.aload_n 0, 1) := dk_42 (dk_at dksX3_needs_2 3 rfl rfl)
theorem dX3_needs_50 : decode cX3_needs 50 = .ok (.getfield 97, 3) := dk_180 0 97 (dk_at dksX3_needs_2 4 rfl rfl)
theorem dX3_needs_53 : decode cX3_needs 53 = .ok (.if_icmp .ge 67, 3) := dk_162 0 67 (dk_at dksX3_needs_2 7 rfl rfl)
theorem dX3_needs_56 : decode cX3_needs 56 = .ok (.iload_n 3, 1) := dk_29 (dk_at dksX3_needs_2 10 rfl rfl)
theorem dX3_needs_57 : decode cX3_needs 57 = .ok (.aload_n 0, 1) := dk_42 (dk_at dksX3_needs_2 11 rfl rfl)
theorem dX3_needs_58 : decode cX3_needs 58 = .ok (.iload_n 1, 1) := dk_27 (dk_at dksX3_needs_2 12 rfl rfl)
theorem dX3_needs_59 : decode cX3_needs 59 = .ok (.iconst 1, 1) := dk_4 (dk_at dksX3_needs_2 13 rfl rfl)
theorem dX3_needs_60 : decode cX3_needs 60 = .ok (.iadd, 1) := dk_96 (dk_at dksX3_needs_2 14 rfl rfl)
theorem dX3_needs_61 : decode cX3_needs 61 = .ok (.iconst 1, 1) := dk_4 (dk_at dksX3_needs_2 15 rfl rfl)
theorem dX3_needs_62 : decode cX3_needs 62 = .ok (.invokevirtual 122, 3) := dk_182 0 122 (dk_at dksX3_needs_2 16 rfl rfl)
theorem dX3_needs_65 : decode cX3_needs 65 = .ok (.iadd, 1) := dk_96 (dk_at dksX3_needs_2 19 rfl rfl)
theorem dX3_needs_66 : decode cX3_needs 66 = .ok (.istore_n 3, 1) := dk_62 (dk_at dksX3_needs_2 20 rfl rfl)
theorem dX3_needs_67 : decode cX3_needs 67 = .ok (.aload_n 0, 1) := dk_42 (dk_at dksX3_needs_2 21 rfl rfl)
theorem dX3_needs_68 : decode cX3_needs 68 = .ok (.getfield 62, 3) := dk_180 0 62 (dk_at dksX3_needs_3 0 rfl rfl)
theorem dX3_needs_71 : decode cX3_needs 71 = .ok (.iload_n 1, 1) := dk_27 (dk_at dksX3_needs_3 3 rfl rfl)
theorem dX3_needs_72 : decode cX3_needs 72 = .ok (.baload, 1) := dk_51 (dk_at dksX3_needs_3 4 rfl rfl)
theorem dX3_needs_73 : decode cX3_needs 73 = .ok (.ifCond .eq 47, 3) := dk_153 0 47 (dk_at dksX3_needs_3 5 rfl rfl)
theorem dX3_needs_76 : decode cX3_needs 76 = .ok (.aload_n 0, 1) := dk_42 (dk_at dksX3_needs_3 8 rfl rfl)
theorem dX3_needs_77 : decode cX3_needs 77 = .ok (.getfield 62, 3) := dk_180 0 62 (dk_at dksX3_needs_3 9 rfl rfl)
theorem dX3_needs_80 : decode cX3_needs 80 = .ok (.iload_n 1, 1) := dk_27 (dk_at dksX3_needs_3 12 rfl rfl)
theorem dX3_needs_81 : decode cX3_needs 81 = .ok (.iconst 1, 1) := dk_4 (dk_at dksX3_needs_3 13 rfl rfl)
theorem dX3_needs_82 : decode cX3_needs 82 = .ok (.iadd, 1) := dk_96 (dk_at dksX3_needs_3 14 rfl rfl)
theorem dX3_needs_83 : decode cX3_needs 83 = .ok (.baload, 1) := dk_51 (dk_at dksX3_needs_3 15 rfl rfl)
theorem dX3_needs_84 : decode cX3_needs 84 = .ok (.ifCond .ne 36, 3) := dk_154 0 36 (dk_at dksX3_needs_3 16 rfl rfl)
theorem dX3_needs_87 : decode cX3_needs 87 = .ok (.aload_n 0, 1) := dk_42 (dk_at dksX3_needs_3 19 rfl rfl)
theorem dX3_needs_88 : decode cX3_needs 88 = .ok (.getfield 66, 3) := dk_180 0 66 (dk_at dksX3_needs_3 20 rfl rfl)
theorem dX3_needs_91 : decode cX3_needs 91 = .ok (.iload_n 1, 1) := dk_27 (dk_at dksX3_needs_3 23 rfl rfl)
theorem dX3_needs_92 : decode cX3_needs 92 = .ok (.iconst 1, 1) := dk_4 (dk_at dksX3_needs_4 0 rfl rfl)
theorem dX3_needs_93 : decode cX3_needs 93 = .ok (.iadd, 1) := dk_96 (dk_at dksX3_needs_4 1 rfl rfl)
theorem dX3_needs_94 : decode cX3_needs 94 = .ok (.baload, 1) := dk_51 (dk_at dksX3_needs_4 2 rfl rfl)
theorem dX3_needs_95 : decode cX3_needs 95 = .ok (.ifCond .eq 25, 3) := dk_153 0 25 (dk_at dksX3_needs_4 3 rfl rfl)
theorem dX3_needs_98 : decode cX3_needs 98 = .ok (.aload_n 0, 1) := dk_42 (dk_at dksX3_needs_4 6 rfl rfl)
theorem dX3_needs_99 : decode cX3_needs 99 = .ok (.getfield 69, 3) := dk_180 0 69 (dk_at dksX3_needs_4 7 rfl rfl)
theorem dX3_needs_102 : decode cX3_needs 102 = .ok (.iload_n 1, 1) := dk_27 (dk_at dksX3_needs_4 10 rfl rfl)
theorem dX3_needs_103 : decode cX3_needs 103 = .ok (.iconst 1, 1) := dk_4 (dk_at dksX3_needs_4 11 rfl rfl)
theorem dX3_needs_104 : decode cX3_needs 104 = .ok (.iadd, 1) := dk_96 (dk_at dksX3_needs_4 12 rfl rfl)
theorem dX3_needs_105 : decode cX3_needs 105 = .ok (.baload, 1) := dk_51 (dk_at dksX3_needs_4 13 rfl rfl)
theorem dX3_needs_106 : decode cX3_needs 106 = .ok (.ifCond .eq 14, 3) := dk_153 0 14 (dk_at dksX3_needs_4 14 rfl rfl)
theorem dX3_needs_109 : decode cX3_needs 109 = .ok (.iload_n 3, 1) := dk_29 (dk_at dksX3_needs_4 17 rfl rfl)
theorem dX3_needs_110 : decode cX3_needs 110 = .ok (.aload_n 0, 1) := dk_42 (dk_at dksX3_needs_4 18 rfl rfl)
theorem dX3_needs_111 : decode cX3_needs 111 = .ok (.iload_n 1, 1) := dk_27 (dk_at dksX3_needs_4 19 rfl rfl)
theorem dX3_needs_112 : decode cX3_needs 112 = .ok (.iconst 2, 1) := dk_5 (dk_at dksX3_needs_4 20 rfl rfl)
theorem dX3_needs_113 : decode cX3_needs 113 = .ok (.iadd, 1) := dk_96 (dk_at dksX3_needs_4 21 rfl rfl)
theorem dX3_needs_114 : decode cX3_needs 114 = .ok (.iconst 1, 1) := dk_4 (dk_at dksX3_needs_4 22 rfl rfl)
theorem dX3_needs_115 : decode cX3_needs 115 = .ok (.invokevirtual 122, 3) := dk_182 0 122 (dk_at dksX3_needs_5 0 rfl rfl)
theorem dX3_needs_118 : decode cX3_needs 118 = .ok (.iadd, 1) := dk_96 (dk_at dksX3_needs_5 3 rfl rfl)
theorem dX3_needs_119 : decode cX3_needs 119 = .ok (.istore_n 3, 1) := dk_62 (dk_at dksX3_needs_5 4 rfl rfl)
theorem dX3_needs_120 : decode cX3_needs 120 = .ok (.iload_n 3, 1) := dk_29 (dk_at dksX3_needs_5 5 rfl rfl)
theorem dX3_needs_121 : decode cX3_needs 121 = .ok (.ireturn, 1) := dk_172 (dk_at dksX3_needs_5 6 rfl rfl)
abbrev cX3_takes : ByteArray := prog_7_method_13_code
def yX3_takes : MethodName := ⟨RX3, "takes", "(IZ)I"⟩
def dkwX3_takes_1 : List UInt8 := [167, 0, 4, 3, 96, 172]
abbrev dktX3_takes_1 : List UInt8 := dkwX3_takes_1 ++ []
def dkwX3_takes_0 : List UInt8 := [4, 42, 180, 0, 59, 27, 46, 96, 42, 180, 0, 62, 27, 51, 153, 0, 11, 28, 153, 0, 7, 4]
abbrev dktX3_takes_0 : List UInt8 := dkwX3_takes_0 ++ dktX3_takes_1
theorem dksX3_takes_0 : cX3_takes.data.toList.drop 0 = dktX3_takes_0 := by decide +kernel
theorem dksX3_takes_1 : cX3_takes.data.toList.drop 22 = dktX3_takes_1 := dk_seg dksX3_takes_0 22 rfl rfl
theorem dX3_takes_0 : decode cX3_takes 0 = .ok (.iconst 1, 1) := dk_4 (dk_at dksX3_takes_0 0 rfl rfl)
theorem dX3_takes_1 : decode cX3_takes 1 = .ok (.aload_n 0, 1) := dk_42 (dk_at dksX3_takes_0 1 rfl rfl)
theorem dX3_takes_2 : decode cX3_takes 2 = .ok (.getfield 59, 3) := dk_180 0 59 (dk_at dksX3_takes_0 2 rfl rfl)
theorem dX3_takes_5 : decode cX3_takes 5 = .ok (.iload_n 1, 1) := dk_27 (dk_at dksX3_takes_0 5 rfl rfl)
theorem dX3_takes_6 : decode cX3_takes 6 = .ok (.iaload, 1) := dk_46 (dk_at dksX3_takes_0 6 rfl rfl)
theorem dX3_takes_7 : decode cX3_takes 7 = .ok (.iadd, 1) := dk_96 (dk_at dksX3_takes_0 7 rfl rfl)
theorem dX3_takes_8 : decode cX3_takes 8 = .ok (.aload_n 0, 1) := dk_42 (dk_at dksX3_takes_0 8 rfl rfl)
theorem dX3_takes_9 : decode cX3_takes 9 = .ok (.getfield 62, 3) := dk_180 0 62 (dk_at dksX3_takes_0 9 rfl rfl)
theorem dX3_takes_12 : decode cX3_takes 12 = .ok (.iload_n 1, 1) := dk_27 (dk_at dksX3_takes_0 12 rfl rfl)
theorem dX3_takes_13 : decode cX3_takes 13 = .ok (.baload, 1) := dk_51 (dk_at dksX3_takes_0 13 rfl rfl)
theorem dX3_takes_14 : decode cX3_takes 14 = .ok (.ifCond .eq 11, 3) := dk_153 0 11 (dk_at dksX3_takes_0 14 rfl rfl)
theorem dX3_takes_17 : decode cX3_takes 17 = .ok (.iload_n 2, 1) := dk_28 (dk_at dksX3_takes_0 17 rfl rfl)
theorem dX3_takes_18 : decode cX3_takes 18 = .ok (.ifCond .eq 7, 3) := dk_153 0 7 (dk_at dksX3_takes_0 18 rfl rfl)
theorem dX3_takes_21 : decode cX3_takes 21 = .ok (.iconst 1, 1) := dk_4 (dk_at dksX3_takes_0 21 rfl rfl)
theorem dX3_takes_22 : decode cX3_takes 22 = .ok (.goto 4, 3) := dk_167 0 4 (dk_at dksX3_takes_1 0 rfl rfl)
theorem dX3_takes_25 : decode cX3_takes 25 = .ok (.iconst 0, 1) := dk_3 (dk_at dksX3_takes_1 3 rfl rfl)
theorem dX3_takes_26 : decode cX3_takes 26 = .ok (.iadd, 1) := dk_96 (dk_at dksX3_takes_1 4 rfl rfl)
theorem dX3_takes_27 : decode cX3_takes 27 = .ok (.ireturn, 1) := dk_172 (dk_at dksX3_takes_1 5 rfl rfl)
abbrev cX3_layFront : ByteArray := prog_7_method_22_code
def yX3_layFront : MethodName := ⟨RX3, "layFront", "()V"⟩
def dkwX3_layFront_2 : List UInt8 := [167, 0, 4, 3, 181, 0, 167, 42, 28, 181, 0, 164, 132, 1, 1, 167, 255, 209, 177]
abbrev dktX3_layFront_2 : List UInt8 := dkwX3_layFront_2 ++ []
def dkwX3_layFront_1 : List UInt8 := [154, 0, 40, 42, 42, 180, 0, 164, 182, 0, 170, 61, 42, 28, 42, 180, 0, 164, 160, 0, 7, 4]
abbrev dktX3_layFront_1 : List UInt8 := dkwX3_layFront_1 ++ dktX3_layFront_2
def dkwX3_layFront_0 : List UInt8 := [42, 3, 181, 0, 164, 42, 3, 181, 0, 167, 3, 60, 27, 16, 10, 162, 0, 47, 42, 180, 0, 167]
abbrev dktX3_layFront_0 : List UInt8 := dkwX3_layFront_0 ++ dktX3_layFront_1
theorem dksX3_layFront_0 : cX3_layFront.data.toList.drop 0 = dktX3_layFront_0 := by decide +kernel
theorem dksX3_layFront_1 : cX3_layFront.data.toList.drop 22 = dktX3_layFront_1 := dk_seg dksX3_layFront_0 22 rfl rfl
theorem dksX3_layFront_2 : cX3_layFront.data.toList.drop 44 = dktX3_layFront_2 := dk_seg dksX3_layFront_1 22 rfl rfl
theorem dX3_layFront_0 : decode cX3_layFront 0 = .ok (.aload_n 0, 1) := dk_42 (dk_at dksX3_layFront_0 0 rfl rfl)
theorem dX3_layFront_1 : decode cX3_layFront 1 = .ok (.iconst 0, 1) := dk_3 (dk_at dksX3_layFront_0 1 rfl rfl)
theorem dX3_layFront_2 : decode cX3_layFront 2 = .ok (.putfield 164, 3) := dk_181 0 164 (dk_at dksX3_layFront_0 2 rfl rfl)
theorem dX3_layFront_5 : decode cX3_layFront 5 = .ok (.aload_n 0, 1) := dk_42 (dk_at dksX3_layFront_0 5 rfl rfl)
theorem dX3_layFront_6 : decode cX3_layFront 6 = .ok (.iconst 0, 1) := dk_3 (dk_at dksX3_layFront_0 6 rfl rfl)
theorem dX3_layFront_7 : decode cX3_layFront 7 = .ok (.putfield 167, 3) := dk_181 0 167 (dk_at dksX3_layFront_0 7 rfl rfl)
theorem dX3_layFront_10 : decode cX3_layFront 10 = .ok (.iconst 0, 1) := dk_3 (dk_at dksX3_layFront_0 10 rfl rfl)
theorem dX3_layFront_11 : decode cX3_layFront 11 = .ok (.istore_n 1, 1) := dk_60 (dk_at dksX3_layFront_0 11 rfl rfl)
theorem dX3_layFront_12 : decode cX3_layFront 12 = .ok (.iload_n 1, 1) := dk_27 (dk_at dksX3_layFront_0 12 rfl rfl)
theorem dX3_layFront_13 : decode cX3_layFront 13 = .ok (.bipush 10, 2) := dk_16 10 (dk_at dksX3_layFront_0 13 rfl rfl)
theorem dX3_layFront_15 : decode cX3_layFront 15 = .ok (.if_icmp .ge 47, 3) := dk_162 0 47 (dk_at dksX3_layFront_0 15 rfl rfl)
theorem dX3_layFront_18 : decode cX3_layFront 18 = .ok (.aload_n 0, 1) := dk_42 (dk_at dksX3_layFront_0 18 rfl rfl)
theorem dX3_layFront_19 : decode cX3_layFront 19 = .ok (.getfield 167, 3) := dk_180 0 167 (dk_at dksX3_layFront_0 19 rfl rfl)
theorem dX3_layFront_22 : decode cX3_layFront 22 = .ok (.ifCond .ne 40, 3) := dk_154 0 40 (dk_at dksX3_layFront_1 0 rfl rfl)
theorem dX3_layFront_25 : decode cX3_layFront 25 = .ok (.aload_n 0, 1) := dk_42 (dk_at dksX3_layFront_1 3 rfl rfl)
theorem dX3_layFront_26 : decode cX3_layFront 26 = .ok (.aload_n 0, 1) := dk_42 (dk_at dksX3_layFront_1 4 rfl rfl)
theorem dX3_layFront_27 : decode cX3_layFront 27 = .ok (.getfield 164, 3) := dk_180 0 164 (dk_at dksX3_layFront_1 5 rfl rfl)
theorem dX3_layFront_30 : decode cX3_layFront 30 = .ok (.invokevirtual 170, 3) := dk_182 0 170 (dk_at dksX3_layFront_1 8 rfl rfl)
theorem dX3_layFront_33 : decode cX3_layFront 33 = .ok (.istore_n 2, 1) := dk_61 (dk_at dksX3_layFront_1 11 rfl rfl)
theorem dX3_layFront_34 : decode cX3_layFront 34 = .ok (.aload_n 0, 1) := dk_42 (dk_at dksX3_layFront_1 12 rfl rfl)
theorem dX3_layFront_35 : decode cX3_layFront 35 = .ok (.iload_n 2, 1) := dk_28 (dk_at dksX3_layFront_1 13 rfl rfl)
theorem dX3_layFront_36 : decode cX3_layFront 36 = .ok (.aload_n 0, 1) := dk_42 (dk_at dksX3_layFront_1 14 rfl rfl)
theorem dX3_layFront_37 : decode cX3_layFront 37 = .ok (.getfield 164, 3) := dk_180 0 164 (dk_at dksX3_layFront_1 15 rfl rfl)
theorem dX3_layFront_40 : decode cX3_layFront 40 = .ok (.if_icmp .ne 7, 3) := dk_160 0 7 (dk_at dksX3_layFront_1 18 rfl rfl)
theorem dX3_layFront_43 : decode cX3_layFront 43 = .ok (.iconst 1, 1) := dk_4 (dk_at dksX3_layFront_1 21 rfl rfl)
theorem dX3_layFront_44 : decode cX3_layFront 44 = .ok (.goto 4, 3) := dk_167 0 4 (dk_at dksX3_layFront_2 0 rfl rfl)
theorem dX3_layFront_47 : decode cX3_layFront 47 = .ok (.iconst 0, 1) := dk_3 (dk_at dksX3_layFront_2 3 rfl rfl)
theorem dX3_layFront_48 : decode cX3_layFront 48 = .ok (.putfield 167, 3) := dk_181 0 167 (dk_at dksX3_layFront_2 4 rfl rfl)
theorem dX3_layFront_51 : decode cX3_layFront 51 = .ok (.aload_n 0, 1) := dk_42 (dk_at dksX3_layFront_2 7 rfl rfl)
theorem dX3_layFront_52 : decode cX3_layFront 52 = .ok (.iload_n 2, 1) := dk_28 (dk_at dksX3_layFront_2 8 rfl rfl)
theorem dX3_layFront_53 : decode cX3_layFront 53 = .ok (.putfield 164, 3) := dk_181 0 164 (dk_at dksX3_layFront_2 9 rfl rfl)
theorem dX3_layFront_56 : decode cX3_layFront 56 = .ok (.iinc 1 1, 3) := dk_132 1 1 (dk_at dksX3_layFront_2 12 rfl rfl)
theorem dX3_layFront_59 : decode cX3_layFront 59 = .ok (.goto (-47), 3) := dk_167 255 209 (dk_at dksX3_layFront_2 15 rfl rfl)
theorem dX3_layFront_62 : decode cX3_layFront 62 = .ok (.return_, 1) := dk_177 (dk_at dksX3_layFront_2 18 rfl rfl)
abbrev cX3_frontBy : ByteArray := prog_7_method_21_code
def yX3_frontBy : MethodName := ⟨RX3, "frontBy", "(I)I"⟩
def dkwX3_frontBy_3 : List UInt8 := [182, 0, 161, 54, 4, 21, 4, 21, 4, 5, 112, 96, 172]
abbrev dktX3_frontBy_3 : List UInt8 := dkwX3_frontBy_3 ++ []
def dkwX3_frontBy_2 : List UInt8 := [164, 0, 11, 132, 2, 1, 42, 180, 0, 35, 62, 29, 21, 5, 100, 62, 132, 4, 1, 167, 255, 199, 42, 28]
abbrev dktX3_frontBy_2 : List UInt8 := dkwX3_frontBy_2 ++ dktX3_frontBy_3
def dkwX3_frontBy_1 : List UInt8 := [153, 0, 38, 42, 21, 4, 27, 182, 0, 155, 184, 0, 158, 54, 5, 28, 153, 0, 9, 21, 5, 29]
abbrev dktX3_frontBy_1 : List UInt8 := dkwX3_frontBy_1 ++ dktX3_frontBy_2
def dkwX3_frontBy_0 : List UInt8 := [3, 61, 3, 62, 3, 54, 4, 21, 4, 42, 180, 0, 97, 162, 0, 54, 42, 180, 0, 62, 21, 4, 51]
abbrev dktX3_frontBy_0 : List UInt8 := dkwX3_frontBy_0 ++ dktX3_frontBy_1
theorem dksX3_frontBy_0 : cX3_frontBy.data.toList.drop 0 = dktX3_frontBy_0 := by decide +kernel
theorem dksX3_frontBy_1 : cX3_frontBy.data.toList.drop 23 = dktX3_frontBy_1 := dk_seg dksX3_frontBy_0 23 rfl rfl
theorem dksX3_frontBy_2 : cX3_frontBy.data.toList.drop 45 = dktX3_frontBy_2 := dk_seg dksX3_frontBy_1 22 rfl rfl
theorem dksX3_frontBy_3 : cX3_frontBy.data.toList.drop 69 = dktX3_frontBy_3 := dk_seg dksX3_frontBy_2 24 rfl rfl
theorem dX3_frontBy_0 : decode cX3_frontBy 0 = .ok (.iconst 0, 1) := dk_3 (dk_at dksX3_frontBy_0 0 rfl rfl)
theorem dX3_frontBy_1 : decode cX3_frontBy 1 = .ok (.istore_n 2, 1) := dk_61 (dk_at dksX3_frontBy_0 1 rfl rfl)
theorem dX3_frontBy_2 : decode cX3_frontBy 2 = .ok (.iconst 0, 1) := dk_3 (dk_at dksX3_frontBy_0 2 rfl rfl)
theorem dX3_frontBy_3 : decode cX3_frontBy 3 = .ok (.istore_n 3, 1) := dk_62 (dk_at dksX3_frontBy_0 3 rfl rfl)
theorem dX3_frontBy_4 : decode cX3_frontBy 4 = .ok (.iconst 0, 1) := dk_3 (dk_at dksX3_frontBy_0 4 rfl rfl)
theorem dX3_frontBy_5 : decode cX3_frontBy 5 = .ok (.istore 4, 2) := dk_54 4 (dk_at dksX3_frontBy_0 5 rfl rfl)
theorem dX3_frontBy_7 : decode cX3_frontBy 7 = .ok (.iload 4, 2) := dk_21 4 (dk_at dksX3_frontBy_0 7 rfl rfl)
theorem dX3_frontBy_9 : decode cX3_frontBy 9 = .ok (.aload_n 0, 1) := dk_42 (dk_at dksX3_frontBy_0 9 rfl rfl)
theorem dX3_frontBy_10 : decode cX3_frontBy 10 = .ok (.getfield 97, 3) := dk_180 0 97 (dk_at dksX3_frontBy_0 10 rfl rfl)
theorem dX3_frontBy_13 : decode cX3_frontBy 13 = .ok (.if_icmp .ge 54, 3) := dk_162 0 54 (dk_at dksX3_frontBy_0 13 rfl rfl)
theorem dX3_frontBy_16 : decode cX3_frontBy 16 = .ok (.aload_n 0, 1) := dk_42 (dk_at dksX3_frontBy_0 16 rfl rfl)
theorem dX3_frontBy_17 : decode cX3_frontBy 17 = .ok (.getfield 62, 3) := dk_180 0 62 (dk_at dksX3_frontBy_0 17 rfl rfl)
theorem dX3_frontBy_20 : decode cX3_frontBy 20 = .ok (.iload 4, 2) := dk_21 4 (dk_at dksX3_frontBy_0 20 rfl rfl)
theorem dX3_frontBy_22 : decode cX3_frontBy 22 = .ok (.baload, 1) := dk_51 (dk_at dksX3_frontBy_0 22 rfl rfl)
theorem dX3_frontBy_23 : decode cX3_frontBy 23 = .ok (.ifCond .eq 38, 3) := dk_153 0 38 (dk_at dksX3_frontBy_1 0 rfl rfl)
theorem dX3_frontBy_26 : decode cX3_frontBy 26 = .ok (.aload_n 0, 1) := dk_42 (dk_at dksX3_frontBy_1 3 rfl rfl)
theorem dX3_frontBy_27 : decode cX3_frontBy 27 = .ok (.iload 4, 2) := dk_21 4 (dk_at dksX3_frontBy_1 4 rfl rfl)
theorem dX3_frontBy_29 : decode cX3_frontBy 29 = .ok (.iload_n 1, 1) := dk_27 (dk_at dksX3_frontBy_1 6 rfl rfl)
theorem dX3_frontBy_30 : decode cX3_frontBy 30 = .ok (.invokevirtual 155, 3) := dk_182 0 155 (dk_at dksX3_frontBy_1 7 rfl rfl)
theorem dX3_frontBy_33 : decode cX3_frontBy 33 = .ok (.invokestatic 158, 3) := dk_184 0 158 (dk_at dksX3_frontBy_1 10 rfl rfl)
theorem dX3_frontBy_36 : decode cX3_frontBy 36 = .ok (.istore 5, 2) := dk_54 5 (dk_at dksX3_frontBy_1 13 rfl rfl)
theorem dX3_frontBy_38 : decode cX3_frontBy 38 = .ok (.iload_n 2, 1) := dk_28 (dk_at dksX3_frontBy_1 15 rfl rfl)
theorem dX3_frontBy_39 : decode cX3_frontBy 39 = .ok (.ifCond .eq 9, 3) := dk_153 0 9 (dk_at dksX3_frontBy_1 16 rfl rfl)
theorem dX3_frontBy_42 : decode cX3_frontBy 42 = .ok (.iload 5, 2) := dk_21 5 (dk_at dksX3_frontBy_1 19 rfl rfl)
theorem dX3_frontBy_44 : decode cX3_frontBy 44 = .ok (.iload_n 3, 1) := dk_29 (dk_at dksX3_frontBy_1 21 rfl rfl)
theorem dX3_frontBy_45 : decode cX3_frontBy 45 = .ok (.if_icmp .le 11, 3) := dk_164 0 11 (dk_at dksX3_frontBy_2 0 rfl rfl)
theorem dX3_frontBy_48 : decode cX3_frontBy 48 = .ok (.iinc 2 1, 3) := dk_132 2 1 (dk_at dksX3_frontBy_2 3 rfl rfl)
theorem dX3_frontBy_51 : decode cX3_frontBy 51 = .ok (.aload_n 0, 1) := dk_42 (dk_at dksX3_frontBy_2 6 rfl rfl)
theorem dX3_frontBy_52 : decode cX3_frontBy 52 = .ok (.getfield 35, 3) := dk_180 0 35 (dk_at dksX3_frontBy_2 7 rfl rfl)
theorem dX3_frontBy_55 : decode cX3_frontBy 55 = .ok (.istore_n 3, 1) := dk_62 (dk_at dksX3_frontBy_2 10 rfl rfl)
theorem dX3_frontBy_56 : decode cX3_frontBy 56 = .ok (.iload_n 3, 1) := dk_29 (dk_at dksX3_frontBy_2 11 rfl rfl)
theorem dX3_frontBy_57 : decode cX3_frontBy 57 = .ok (.iload 5, 2) := dk_21 5 (dk_at dksX3_frontBy_2 12 rfl rfl)
theorem dX3_frontBy_59 : decode cX3_frontBy 59 = .ok (.isub, 1) := dk_100 (dk_at dksX3_frontBy_2 14 rfl rfl)
theorem dX3_frontBy_60 : decode cX3_frontBy 60 = .ok (.istore_n 3, 1) := dk_62 (dk_at dksX3_frontBy_2 15 rfl rfl)
theorem dX3_frontBy_61 : decode cX3_frontBy 61 = .ok (.iinc 4 1, 3) := dk_132 4 1 (dk_at dksX3_frontBy_2 16 rfl rfl)
theorem dX3_frontBy_64 : decode cX3_frontBy 64 = .ok (.goto (-57), 3) := dk_167 255 199 (dk_at dksX3_frontBy_2 19 rfl rfl)
theorem dX3_frontBy_67 : decode cX3_frontBy 67 = .ok (.aload_n 0, 1) := dk_42 (dk_at dksX3_frontBy_2 22 rfl rfl)
theorem dX3_frontBy_68 : decode cX3_frontBy 68 = .ok (.iload_n 2, 1) := dk_28 (dk_at dksX3_frontBy_2 23 rfl rfl)
theorem dX3_frontBy_69 : decode cX3_frontBy 69 = .ok (.invokevirtual 161, 3) := dk_182 0 161 (dk_at dksX3_frontBy_3 0 rfl rfl)
theorem dX3_frontBy_72 : decode cX3_frontBy 72 = .ok (.istore 4, 2) := dk_54 4 (dk_at dksX3_frontBy_3 3 rfl rfl)
theorem dX3_frontBy_74 : decode cX3_frontBy 74 = .ok (.iload 4, 2) := dk_21 4 (dk_at dksX3_frontBy_3 5 rfl rfl)
theorem dX3_frontBy_76 : decode cX3_frontBy 76 = .ok (.iload 4, 2) := dk_21 4 (dk_at dksX3_frontBy_3 7 rfl rfl)
theorem dX3_frontBy_78 : decode cX3_frontBy 78 = .ok (.iconst 2, 1) := dk_5 (dk_at dksX3_frontBy_3 9 rfl rfl)
theorem dX3_frontBy_79 : decode cX3_frontBy 79 = .ok (.irem, 1) := dk_112 (dk_at dksX3_frontBy_3 10 rfl rfl)
theorem dX3_frontBy_80 : decode cX3_frontBy 80 = .ok (.iadd, 1) := dk_96 (dk_at dksX3_frontBy_3 11 rfl rfl)
theorem dX3_frontBy_81 : decode cX3_frontBy 81 = .ok (.ireturn, 1) := dk_172 (dk_at dksX3_frontBy_3 12 rfl rfl)
abbrev cX3_pageBy : ByteArray := prog_7_method_19_code
def yX3_pageBy : MethodName := ⟨RX3, "pageBy", "(II)I"⟩
def dkwX3_pageBy_0 : List UInt8 := [28, 4, 96, 42, 180, 0, 56, 27, 46, 42, 180, 0, 38, 108, 96, 172]
abbrev dktX3_pageBy_0 : List UInt8 := dkwX3_pageBy_0 ++ []
theorem dksX3_pageBy_0 : cX3_pageBy.data.toList.drop 0 = dktX3_pageBy_0 := by decide +kernel
theorem dX3_pageBy_0 : decode cX3_pageBy 0 = .ok (.iload_n 2, 1) := dk_28 (dk_at dksX3_pageBy_0 0 rfl rfl)
theorem dX3_pageBy_1 : decode cX3_pageBy 1 = .ok (.iconst 1, 1) := dk_4 (dk_at dksX3_pageBy_0 1 rfl rfl)
theorem dX3_pageBy_2 : decode cX3_pageBy 2 = .ok (.iadd, 1) := dk_96 (dk_at dksX3_pageBy_0 2 rfl rfl)
theorem dX3_pageBy_3 : decode cX3_pageBy 3 = .ok (.aload_n 0, 1) := dk_42 (dk_at dksX3_pageBy_0 3 rfl rfl)
theorem dX3_pageBy_4 : decode cX3_pageBy 4 = .ok (.getfield 56, 3) := dk_180 0 56 (dk_at dksX3_pageBy_0 4 rfl rfl)
theorem dX3_pageBy_7 : decode cX3_pageBy 7 = .ok (.iload_n 1, 1) := dk_27 (dk_at dksX3_pageBy_0 7 rfl rfl)
theorem dX3_pageBy_8 : decode cX3_pageBy 8 = .ok (.iaload, 1) := dk_46 (dk_at dksX3_pageBy_0 8 rfl rfl)
theorem dX3_pageBy_9 : decode cX3_pageBy 9 = .ok (.aload_n 0, 1) := dk_42 (dk_at dksX3_pageBy_0 9 rfl rfl)
theorem dX3_pageBy_10 : decode cX3_pageBy 10 = .ok (.getfield 38, 3) := dk_180 0 38 (dk_at dksX3_pageBy_0 10 rfl rfl)
theorem dX3_pageBy_13 : decode cX3_pageBy 13 = .ok (.idiv, 1) := dk_108 (dk_at dksX3_pageBy_0 13 rfl rfl)
theorem dX3_pageBy_14 : decode cX3_pageBy 14 = .ok (.iadd, 1) := dk_96 (dk_at dksX3_pageBy_0 14 rfl rfl)
theorem dX3_pageBy_15 : decode cX3_pageBy 15 = .ok (.ireturn, 1) := dk_172 (dk_at dksX3_pageBy_0 15 rfl rfl)
abbrev cX3_figures : ByteArray := prog_7_method_20_code
def yX3_figures : MethodName := ⟨RX3, "figures", "(I)I"⟩
def dkwX3_figures_1 : List UInt8 := [162, 0, 7, 6, 167, 0, 4, 7, 172]
abbrev dktX3_figures_1 : List UInt8 := dkwX3_figures_1 ++ []
def dkwX3_figures_0 : List UInt8 := [26, 16, 10, 162, 0, 7, 4, 167, 0, 25, 26, 16, 100, 162, 0, 7, 5, 167, 0, 15, 26, 17, 3, 232]
abbrev dktX3_figures_0 : List UInt8 := dkwX3_figures_0 ++ dktX3_figures_1
theorem dksX3_figures_0 : cX3_figures.data.toList.drop 0 = dktX3_figures_0 := by decide +kernel
theorem dksX3_figures_1 : cX3_figures.data.toList.drop 24 = dktX3_figures_1 := dk_seg dksX3_figures_0 24 rfl rfl
theorem dX3_figures_0 : decode cX3_figures 0 = .ok (.iload_n 0, 1) := dk_26 (dk_at dksX3_figures_0 0 rfl rfl)
theorem dX3_figures_1 : decode cX3_figures 1 = .ok (.bipush 10, 2) := dk_16 10 (dk_at dksX3_figures_0 1 rfl rfl)
theorem dX3_figures_3 : decode cX3_figures 3 = .ok (.if_icmp .ge 7, 3) := dk_162 0 7 (dk_at dksX3_figures_0 3 rfl rfl)
theorem dX3_figures_6 : decode cX3_figures 6 = .ok (.iconst 1, 1) := dk_4 (dk_at dksX3_figures_0 6 rfl rfl)
theorem dX3_figures_7 : decode cX3_figures 7 = .ok (.goto 25, 3) := dk_167 0 25 (dk_at dksX3_figures_0 7 rfl rfl)
theorem dX3_figures_10 : decode cX3_figures 10 = .ok (.iload_n 0, 1) := dk_26 (dk_at dksX3_figures_0 10 rfl rfl)
theorem dX3_figures_11 : decode cX3_figures 11 = .ok (.bipush 100, 2) := dk_16 100 (dk_at dksX3_figures_0 11 rfl rfl)
theorem dX3_figures_13 : decode cX3_figures 13 = .ok (.if_icmp .ge 7, 3) := dk_162 0 7 (dk_at dksX3_figures_0 13 rfl rfl)
theorem dX3_figures_16 : decode cX3_figures 16 = .ok (.iconst 2, 1) := dk_5 (dk_at dksX3_figures_0 16 rfl rfl)
theorem dX3_figures_17 : decode cX3_figures 17 = .ok (.goto 15, 3) := dk_167 0 15 (dk_at dksX3_figures_0 17 rfl rfl)
theorem dX3_figures_20 : decode cX3_figures 20 = .ok (.iload_n 0, 1) := dk_26 (dk_at dksX3_figures_0 20 rfl rfl)
theorem dX3_figures_21 : decode cX3_figures 21 = .ok (.sipush 1000, 3) := dk_17 3 232 (dk_at dksX3_figures_0 21 rfl rfl)
theorem dX3_figures_24 : decode cX3_figures 24 = .ok (.if_icmp .ge 7, 3) := dk_162 0 7 (dk_at dksX3_figures_1 0 rfl rfl)
theorem dX3_figures_27 : decode cX3_figures 27 = .ok (.iconst 3, 1) := dk_6 (dk_at dksX3_figures_1 3 rfl rfl)
theorem dX3_figures_28 : decode cX3_figures 28 = .ok (.goto 4, 3) := dk_167 0 4 (dk_at dksX3_figures_1 4 rfl rfl)
theorem dX3_figures_31 : decode cX3_figures 31 = .ok (.iconst 4, 1) := dk_7 (dk_at dksX3_figures_1 7 rfl rfl)
theorem dX3_figures_32 : decode cX3_figures 32 = .ok (.ireturn, 1) := dk_172 (dk_at dksX3_figures_1 8 rfl rfl)
abbrev cX3_pagesOf : ByteArray := prog_7_method_18_code
def yX3_pagesOf : MethodName := ⟨RX3, "pagesOf", "(I)I"⟩
def dkwX3_pagesOf_0 : List UInt8 := [27, 42, 180, 0, 38, 96, 4, 100, 42, 180, 0, 38, 108, 172]
abbrev dktX3_pagesOf_0 : List UInt8 := dkwX3_pagesOf_0 ++ []
theorem dksX3_pagesOf_0 : cX3_pagesOf.data.toList.drop 0 = dktX3_pagesOf_0 := by decide +kernel
theorem dX3_pagesOf_0 : decode cX3_pagesOf 0 = .ok (.iload_n 1, 1) := dk_27 (dk_at dksX3_pagesOf_0 0 rfl rfl)
theorem dX3_pagesOf_1 : decode cX3_pagesOf 1 = .ok (.aload_n 0, 1) := dk_42 (dk_at dksX3_pagesOf_0 1 rfl rfl)
theorem dX3_pagesOf_2 : decode cX3_pagesOf 2 = .ok (.getfield 38, 3) := dk_180 0 38 (dk_at dksX3_pagesOf_0 2 rfl rfl)
theorem dX3_pagesOf_5 : decode cX3_pagesOf 5 = .ok (.iadd, 1) := dk_96 (dk_at dksX3_pagesOf_0 5 rfl rfl)
theorem dX3_pagesOf_6 : decode cX3_pagesOf 6 = .ok (.iconst 1, 1) := dk_4 (dk_at dksX3_pagesOf_0 6 rfl rfl)
theorem dX3_pagesOf_7 : decode cX3_pagesOf 7 = .ok (.isub, 1) := dk_100 (dk_at dksX3_pagesOf_0 7 rfl rfl)
theorem dX3_pagesOf_8 : decode cX3_pagesOf 8 = .ok (.aload_n 0, 1) := dk_42 (dk_at dksX3_pagesOf_0 8 rfl rfl)
theorem dX3_pagesOf_9 : decode cX3_pagesOf 9 = .ok (.getfield 38, 3) := dk_180 0 38 (dk_at dksX3_pagesOf_0 9 rfl rfl)
theorem dX3_pagesOf_12 : decode cX3_pagesOf 12 = .ok (.idiv, 1) := dk_108 (dk_at dksX3_pagesOf_0 12 rfl rfl)
theorem dX3_pagesOf_13 : decode cX3_pagesOf 13 = .ok (.ireturn, 1) := dk_172 (dk_at dksX3_pagesOf_0 13 rfl rfl)
abbrev cX3_pageOf : ByteArray := prog_7_method_38_code
def yX3_pageOf : MethodName := ⟨RX3, "pageOf", "(II)I"⟩
def dkwX3_pageOf_2 : List UInt8 := [181, 0, 90, 42, 28, 182, 0, 218, 172]
abbrev dktX3_pageOf_2 : List UInt8 := dkwX3_pageOf_2 ++ []
def dkwX3_pageOf_1 : List UInt8 := [133, 9, 42, 180, 0, 97, 4, 100, 133, 184, 0, 184, 154, 0, 9, 42, 4, 182, 0, 194, 172, 42, 3]
abbrev dktX3_pageOf_1 : List UInt8 := dkwX3_pageOf_1 ++ dktX3_pageOf_2
def dkwX3_pageOf_0 : List UInt8 := [27, 133, 9, 20, 0, 190, 184, 0, 184, 154, 0, 9, 42, 4, 182, 0, 194, 172, 42, 27, 182, 0, 215, 28]
abbrev dktX3_pageOf_0 : List UInt8 := dkwX3_pageOf_0 ++ dktX3_pageOf_1
theorem dksX3_pageOf_0 : cX3_pageOf.data.toList.drop 0 = dktX3_pageOf_0 := by decide +kernel
theorem dksX3_pageOf_1 : cX3_pageOf.data.toList.drop 24 = dktX3_pageOf_1 := dk_seg dksX3_pageOf_0 24 rfl rfl
theorem dksX3_pageOf_2 : cX3_pageOf.data.toList.drop 47 = dktX3_pageOf_2 := dk_seg dksX3_pageOf_1 23 rfl rfl
theorem dX3_pageOf_0 : decode cX3_pageOf 0 = .ok (.iload_n 1, 1) := dk_27 (dk_at dksX3_pageOf_0 0 rfl rfl)
theorem dX3_pageOf_1 : decode cX3_pageOf 1 = .ok (.i2l, 1) := dk_133 (dk_at dksX3_pageOf_0 1 rfl rfl)
theorem dX3_pageOf_2 : decode cX3_pageOf 2 = .ok (.lconst 0, 1) := dk_9 (dk_at dksX3_pageOf_0 2 rfl rfl)
theorem dX3_pageOf_3 : decode cX3_pageOf 3 = .ok (.ldc2_w 190, 3) := dk_20 0 190 (dk_at dksX3_pageOf_0 3 rfl rfl)
theorem dX3_pageOf_6 : decode cX3_pageOf 6 = .ok (.invokestatic 184, 3) := dk_184 0 184 (dk_at dksX3_pageOf_0 6 rfl rfl)
theorem dX3_pageOf_9 : decode cX3_pageOf 9 = .ok (.ifCond .ne 9, 3) := dk_154 0 9 (dk_at dksX3_pageOf_0 9 rfl rfl)
theorem dX3_pageOf_12 : decode cX3_pageOf 12 = .ok (.aload_n 0, 1) := dk_42 (dk_at dksX3_pageOf_0 12 rfl rfl)
theorem dX3_pageOf_13 : decode cX3_pageOf 13 = .ok (.iconst 1, 1) := dk_4 (dk_at dksX3_pageOf_0 13 rfl rfl)
theorem dX3_pageOf_14 : decode cX3_pageOf 14 = .ok (.invokevirtual 194, 3) := dk_182 0 194 (dk_at dksX3_pageOf_0 14 rfl rfl)
theorem dX3_pageOf_17 : decode cX3_pageOf 17 = .ok (.ireturn, 1) := dk_172 (dk_at dksX3_pageOf_0 17 rfl rfl)
theorem dX3_pageOf_18 : decode cX3_pageOf 18 = .ok (.aload_n 0, 1) := dk_42 (dk_at dksX3_pageOf_0 18 rfl rfl)
theorem dX3_pageOf_19 : decode cX3_pageOf 19 = .ok (.iload_n 1, 1) := dk_27 (dk_at dksX3_pageOf_0 19 rfl rfl)
theorem dX3_pageOf_20 : decode cX3_pageOf 20 = .ok (.invokevirtual 215, 3) := dk_182 0 215 (dk_at dksX3_pageOf_0 20 rfl rfl)
theorem dX3_pageOf_23 : decode cX3_pageOf 23 = .ok (.iload_n 2, 1) := dk_28 (dk_at dksX3_pageOf_0 23 rfl rfl)
theorem dX3_pageOf_24 : decode cX3_pageOf 24 = .ok (.i2l, 1) := dk_133 (dk_at dksX3_pageOf_1 0 rfl rfl)
theorem dX3_pageOf_25 : decode cX3_pageOf 25 = .ok (.lconst 0, 1) := dk_9 (dk_at dksX3_pageOf_1 1 rfl rfl)
theorem dX3_pageOf_26 : decode cX3_pageOf 26 = .ok (.aload_n 0, 1) := dk_42 (dk_at dksX3_pageOf_1 2 rfl rfl)
theorem dX3_pageOf_27 : decode cX3_pageOf 27 = .ok (.getfield 97, 3) := dk_180 0 97 (dk_at dksX3_pageOf_1 3 rfl rfl)
theorem dX3_pageOf_30 : decode cX3_pageOf 30 = .ok (.iconst 1, 1) := dk_4 (dk_at dksX3_pageOf_1 6 rfl rfl)
theorem dX3_pageOf_31 : decode cX3_pageOf 31 = .ok (.isub, 1) := dk_100 (dk_at dksX3_pageOf_1 7 rfl rfl)
theorem dX3_pageOf_32 : decode cX3_pageOf 32 = .ok (.i2l, 1) := dk_133 (dk_at dksX3_pageOf_1 8 rfl rfl)
theorem dX3_pageOf_33 : decode cX3_pageOf 33 = .ok (.invokestatic 184, 3) := dk_184 0 184 (dk_at dksX3_pageOf_1 9 rfl rfl)
theorem dX3_pageOf_36 : decode cX3_pageOf 36 = .ok (.ifCond .ne 9, 3) := dk_154 0 9 (dk_at dksX3_pageOf_1 12 rfl rfl)
theorem dX3_pageOf_39 : decode cX3_pageOf 39 = .ok (.aload_n 0, 1) := dk_42 (dk_at dksX3_pageOf_1 15 rfl rfl)
theorem dX3_pageOf_40 : decode cX3_pageOf 40 = .ok (.iconst 1, 1) := dk_4 (dk_at dksX3_pageOf_1 16 rfl rfl)
theorem dX3_pageOf_41 : decode cX3_pageOf 41 = .ok (.invokevirtual 194, 3) := dk_182 0 194 (dk_at dksX3_pageOf_1 17 rfl rfl)
theorem dX3_pageOf_44 : decode cX3_pageOf 44 = .ok (.ireturn, 1) := dk_172 (dk_at dksX3_pageOf_1 20 rfl rfl)
theorem dX3_pageOf_45 : decode cX3_pageOf 45 = .ok (.aload_n 0, 1) := dk_42 (dk_at dksX3_pageOf_1 21 rfl rfl)
theorem dX3_pageOf_46 : decode cX3_pageOf 46 = .ok (.iconst 0, 1) := dk_3 (dk_at dksX3_pageOf_1 22 rfl rfl)
theorem dX3_pageOf_47 : decode cX3_pageOf 47 = .ok (.putfield 90, 3) := dk_181 0 90 (dk_at dksX3_pageOf_2 0 rfl rfl)
theorem dX3_pageOf_50 : decode cX3_pageOf 50 = .ok (.aload_n 0, 1) := dk_42 (dk_at dksX3_pageOf_2 3 rfl rfl)
theorem dX3_pageOf_51 : decode cX3_pageOf 51 = .ok (.iload_n 2, 1) := dk_28 (dk_at dksX3_pageOf_2 4 rfl rfl)
theorem dX3_pageOf_52 : decode cX3_pageOf 52 = .ok (.invokevirtual 218, 3) := dk_182 0 218 (dk_at dksX3_pageOf_2 5 rfl rfl)
theorem dX3_pageOf_55 : decode cX3_pageOf 55 = .ok (.ireturn, 1) := dk_172 (dk_at dksX3_pageOf_2 8 rfl rfl)
abbrev cX3_page : ByteArray := prog_7_method_24_code
def yX3_page : MethodName := ⟨RX3, "page", "(I)I"⟩
def dkwX3_page_0 : List UInt8 := [42, 180, 0, 167, 153, 0, 15, 42, 27, 42, 180, 0, 164, 182, 0, 155, 167, 0, 4, 2, 172]
abbrev dktX3_page_0 : List UInt8 := dkwX3_page_0 ++ []
theorem dksX3_page_0 : cX3_page.data.toList.drop 0 = dktX3_page_0 := by decide +kernel
theorem dX3_page_0 : decode cX3_page 0 = .ok (.aload_n 0, 1) := dk_42 (dk_at dksX3_page_0 0 rfl rfl)
theorem dX3_page_1 : decode cX3_page 1 = .ok (.getfield 167, 3) := dk_180 0 167 (dk_at dksX3_page_0 1 rfl rfl)
theorem dX3_page_4 : decode cX3_page 4 = .ok (.ifCond .eq 15, 3) := dk_153 0 15 (dk_at dksX3_page_0 4 rfl rfl)
theorem dX3_page_7 : decode cX3_page 7 = .ok (.aload_n 0, 1) := dk_42 (dk_at dksX3_page_0 7 rfl rfl)
theorem dX3_page_8 : decode cX3_page 8 = .ok (.iload_n 1, 1) := dk_27 (dk_at dksX3_page_0 8 rfl rfl)
theorem dX3_page_9 : decode cX3_page 9 = .ok (.aload_n 0, 1) := dk_42 (dk_at dksX3_page_0 9 rfl rfl)
theorem dX3_page_10 : decode cX3_page 10 = .ok (.getfield 164, 3) := dk_180 0 164 (dk_at dksX3_page_0 10 rfl rfl)
theorem dX3_page_13 : decode cX3_page 13 = .ok (.invokevirtual 155, 3) := dk_182 0 155 (dk_at dksX3_page_0 13 rfl rfl)
theorem dX3_page_16 : decode cX3_page 16 = .ok (.goto 4, 3) := dk_167 0 4 (dk_at dksX3_page_0 16 rfl rfl)
theorem dX3_page_19 : decode cX3_page 19 = .ok (.iconst (-1), 1) := dk_2 (dk_at dksX3_page_0 19 rfl rfl)
theorem dX3_page_20 : decode cX3_page 20 = .ok (.ireturn, 1) := dk_172 (dk_at dksX3_page_0 20 rfl rfl)
abbrev cX3_pageAnew : ByteArray := prog_7_method_39_code
def yX3_pageAnew : MethodName := ⟨RX3, "pageAnew", "(II)I"⟩
def dkwX3_pageAnew_0 : List UInt8 := [42, 27, 28, 182, 0, 221, 172]
abbrev dktX3_pageAnew_0 : List UInt8 := dkwX3_pageAnew_0 ++ []
theorem dksX3_pageAnew_0 : cX3_pageAnew.data.toList.drop 0 = dktX3_pageAnew_0 := by decide +kernel
theorem dX3_pageAnew_0 : decode cX3_pageAnew 0 = .ok (.aload_n 0, 1) := dk_42 (dk_at dksX3_pageAnew_0 0 rfl rfl)
theorem dX3_pageAnew_1 : decode cX3_pageAnew 1 = .ok (.iload_n 1, 1) := dk_27 (dk_at dksX3_pageAnew_0 1 rfl rfl)
theorem dX3_pageAnew_2 : decode cX3_pageAnew 2 = .ok (.iload_n 2, 1) := dk_28 (dk_at dksX3_pageAnew_0 2 rfl rfl)
theorem dX3_pageAnew_3 : decode cX3_pageAnew 3 = .ok (.invokevirtual 221, 3) := dk_182 0 221 (dk_at dksX3_pageAnew_0 3 rfl rfl)
theorem dX3_pageAnew_6 : decode cX3_pageAnew 6 = .ok (.ireturn, 1) := dk_172 (dk_at dksX3_pageAnew_0 6 rfl rfl)
abbrev cX3_pages : ByteArray := prog_7_method_40_code
def yX3_pages : MethodName := ⟨RX3, "pages", "(I)I"⟩
def dkwX3_pages_2 : List UInt8 := [167, 0, 4, 2, 172]
abbrev dktX3_pages_2 : List UInt8 := dkwX3_pages_2 ++ []
def dkwX3_pages_1 : List UInt8 := [27, 182, 0, 215, 42, 180, 0, 167, 153, 0, 19, 42, 180, 0, 164, 42, 42, 180, 0, 126, 182, 0, 161, 96]
abbrev dktX3_pages_1 : List UInt8 := dkwX3_pages_1 ++ dktX3_pages_2
def dkwX3_pages_0 : List UInt8 := [27, 133, 9, 20, 0, 190, 184, 0, 184, 154, 0, 9, 42, 4, 182, 0, 194, 172, 42, 3, 181, 0, 90, 42]
abbrev dktX3_pages_0 : List UInt8 := dkwX3_pages_0 ++ dktX3_pages_1
theorem dksX3_pages_0 : cX3_pages.data.toList.drop 0 = dktX3_pages_0 := by decide +kernel
theorem dksX3_pages_1 : cX3_pages.data.toList.drop 24 = dktX3_pages_1 := dk_seg dksX3_pages_0 24 rfl rfl
theorem dksX3_pages_2 : cX3_pages.data.toList.drop 48 = dktX3_pages_2 := dk_seg dksX3_pages_1 24 rfl rfl
theorem dX3_pages_0 : decode cX3_pages 0 = .ok (.iload_n 1, 1) := dk_27 (dk_at dksX3_pages_0 0 rfl rfl)
theorem dX3_pages_1 : decode cX3_pages 1 = .ok (.i2l, 1) := dk_133 (dk_at dksX3_pages_0 1 rfl rfl)
theorem dX3_pages_2 : decode cX3_pages 2 = .ok (.lconst 0, 1) := dk_9 (dk_at dksX3_pages_0 2 rfl rfl)
theorem dX3_pages_3 : decode cX3_pages 3 = .ok (.ldc2_w 190, 3) := dk_20 0 190 (dk_at dksX3_pages_0 3 rfl rfl)
theorem dX3_pages_6 : decode cX3_pages 6 = .ok (.invokestatic 184, 3) := dk_184 0 184 (dk_at dksX3_pages_0 6 rfl rfl)
theorem dX3_pages_9 : decode cX3_pages 9 = .ok (.ifCond .ne 9, 3) := dk_154 0 9 (dk_at dksX3_pages_0 9 rfl rfl)
theorem dX3_pages_12 : decode cX3_pages 12 = .ok (.aload_n 0, 1) := dk_42 (dk_at dksX3_pages_0 12 rfl rfl)
theorem dX3_pages_13 : decode cX3_pages 13 = .ok (.iconst 1, 1) := dk_4 (dk_at dksX3_pages_0 13 rfl rfl)
theorem dX3_pages_14 : decode cX3_pages 14 = .ok (.invokevirtual 194, 3) := dk_182 0 194 (dk_at dksX3_pages_0 14 rfl rfl)
theorem dX3_pages_17 : decode cX3_pages 17 = .ok (.ireturn, 1) := dk_172 (dk_at dksX3_pages_0 17 rfl rfl)
theorem dX3_pages_18 : decode cX3_pages 18 = .ok (.aload_n 0, 1) := dk_42 (dk_at dksX3_pages_0 18 rfl rfl)
theorem dX3_pages_19 : decode cX3_pages 19 = .ok (.iconst 0, 1) := dk_3 (dk_at dksX3_pages_0 19 rfl rfl)
theorem dX3_pages_20 : decode cX3_pages 20 = .ok (.putfield 90, 3) := dk_181 0 90 (dk_at dksX3_pages_0 20 rfl rfl)
theorem dX3_pages_23 : decode cX3_pages 23 = .ok (.aload_n 0, 1) := dk_42 (dk_at dksX3_pages_0 23 rfl rfl)
theorem dX3_pages_24 : decode cX3_pages 24 = .ok (.iload_n 1, 1) := dk_27 (dk_at dksX3_pages_1 0 rfl rfl)
theorem dX3_pages_25 : decode cX3_pages 25 = .ok (.invokevirtual 215, 3) := dk_182 0 215 (dk_at dksX3_pages_1 1 rfl rfl)
theorem dX3_pages_28 : decode cX3_pages 28 = .ok (.aload_n 0, 1) := dk_42 (dk_at dksX3_pages_1 4 rfl rfl)
theorem dX3_pages_29 : decode cX3_pages 29 = .ok (.getfield 167, 3) := dk_180 0 167 (dk_at dksX3_pages_1 5 rfl rfl)
theorem dX3_pages_32 : decode cX3_pages 32 = .ok (.ifCond .eq 19, 3) := dk_153 0 19 (dk_at dksX3_pages_1 8 rfl rfl)
theorem dX3_pages_35 : decode cX3_pages 35 = .ok (.aload_n 0, 1) := dk_42 (dk_at dksX3_pages_1 11 rfl rfl)
theorem dX3_pages_36 : decode cX3_pages 36 = .ok (.getfield 164, 3) := dk_180 0 164 (dk_at dksX3_pages_1 12 rfl rfl)
theorem dX3_pages_39 : decode cX3_pages 39 = .ok (.aload_n 0, 1) := dk_42 (dk_at dksX3_pages_1 15 rfl rfl)
theorem dX3_pages_40 : decode cX3_pages 40 = .ok (.aload_n 0, 1) := dk_42 (dk_at dksX3_pages_1 16 rfl rfl)
theorem dX3_pages_41 : decode cX3_pages 41 = .ok (.getfield 126, 3) := dk_180 0 126 (dk_at dksX3_pages_1 17 rfl rfl)
theorem dX3_pages_44 : decode cX3_pages 44 = .ok (.invokevirtual 161, 3) := dk_182 0 161 (dk_at dksX3_pages_1 20 rfl rfl)
theorem dX3_pages_47 : decode cX3_pages 47 = .ok (.iadd, 1) := dk_96 (dk_at dksX3_pages_1 23 rfl rfl)
theorem dX3_pages_48 : decode cX3_pages 48 = .ok (.goto 4, 3) := dk_167 0 4 (dk_at dksX3_pages_2 0 rfl rfl)
theorem dX3_pages_51 : decode cX3_pages 51 = .ok (.iconst (-1), 1) := dk_2 (dk_at dksX3_pages_2 3 rfl rfl)
theorem dX3_pages_52 : decode cX3_pages 52 = .ok (.ireturn, 1) := dk_172 (dk_at dksX3_pages_2 4 rfl rfl)
abbrev cX3_front : ByteArray := prog_7_method_41_code
def yX3_front : MethodName := ⟨RX3, "front", "(I)I"⟩
def dkwX3_front_1 : List UInt8 := [27, 182, 0, 215, 42, 180, 0, 167, 153, 0, 10, 42, 180, 0, 164, 167, 0, 4, 2, 172]
abbrev dktX3_front_1 : List UInt8 := dkwX3_front_1 ++ []
def dkwX3_front_0 : List UInt8 := [27, 133, 9, 20, 0, 190, 184, 0, 184, 154, 0, 9, 42, 4, 182, 0, 194, 172, 42, 3, 181, 0, 90, 42]
abbrev dktX3_front_0 : List UInt8 := dkwX3_front_0 ++ dktX3_front_1
theorem dksX3_front_0 : cX3_front.data.toList.drop 0 = dktX3_front_0 := by decide +kernel
theorem dksX3_front_1 : cX3_front.data.toList.drop 24 = dktX3_front_1 := dk_seg dksX3_front_0 24 rfl rfl
theorem dX3_front_0 : decode cX3_front 0 = .ok (.iload_n 1, 1) := dk_27 (dk_at dksX3_front_0 0 rfl rfl)
theorem dX3_front_1 : decode cX3_front 1 = .ok (.i2l, 1) := dk_133 (dk_at dksX3_front_0 1 rfl rfl)
theorem dX3_front_2 : decode cX3_front 2 = .ok (.lconst 0, 1) := dk_9 (dk_at dksX3_front_0 2 rfl rfl)
theorem dX3_front_3 : decode cX3_front 3 = .ok (.ldc2_w 190, 3) := dk_20 0 190 (dk_at dksX3_front_0 3 rfl rfl)
theorem dX3_front_6 : decode cX3_front 6 = .ok (.invokestatic 184, 3) := dk_184 0 184 (dk_at dksX3_front_0 6 rfl rfl)
theorem dX3_front_9 : decode cX3_front 9 = .ok (.ifCond .ne 9, 3) := dk_154 0 9 (dk_at dksX3_front_0 9 rfl rfl)
theorem dX3_front_12 : decode cX3_front 12 = .ok (.aload_n 0, 1) := dk_42 (dk_at dksX3_front_0 12 rfl rfl)
theorem dX3_front_13 : decode cX3_front 13 = .ok (.iconst 1, 1) := dk_4 (dk_at dksX3_front_0 13 rfl rfl)
theorem dX3_front_14 : decode cX3_front 14 = .ok (.invokevirtual 194, 3) := dk_182 0 194 (dk_at dksX3_front_0 14 rfl rfl)
theorem dX3_front_17 : decode cX3_front 17 = .ok (.ireturn, 1) := dk_172 (dk_at dksX3_front_0 17 rfl rfl)
theorem dX3_front_18 : decode cX3_front 18 = .ok (.aload_n 0, 1) := dk_42 (dk_at dksX3_front_0 18 rfl rfl)
theorem dX3_front_19 : decode cX3_front 19 = .ok (.iconst 0, 1) := dk_3 (dk_at dksX3_front_0 19 rfl rfl)
theorem dX3_front_20 : decode cX3_front 20 = .ok (.putfield 90, 3) := dk_181 0 90 (dk_at dksX3_front_0 20 rfl rfl)
theorem dX3_front_23 : decode cX3_front 23 = .ok (.aload_n 0, 1) := dk_42 (dk_at dksX3_front_0 23 rfl rfl)
theorem dX3_front_24 : decode cX3_front 24 = .ok (.iload_n 1, 1) := dk_27 (dk_at dksX3_front_1 0 rfl rfl)
theorem dX3_front_25 : decode cX3_front 25 = .ok (.invokevirtual 215, 3) := dk_182 0 215 (dk_at dksX3_front_1 1 rfl rfl)
theorem dX3_front_28 : decode cX3_front 28 = .ok (.aload_n 0, 1) := dk_42 (dk_at dksX3_front_1 4 rfl rfl)
theorem dX3_front_29 : decode cX3_front 29 = .ok (.getfield 167, 3) := dk_180 0 167 (dk_at dksX3_front_1 5 rfl rfl)
theorem dX3_front_32 : decode cX3_front 32 = .ok (.ifCond .eq 10, 3) := dk_153 0 10 (dk_at dksX3_front_1 8 rfl rfl)
theorem dX3_front_35 : decode cX3_front 35 = .ok (.aload_n 0, 1) := dk_42 (dk_at dksX3_front_1 11 rfl rfl)
theorem dX3_front_36 : decode cX3_front 36 = .ok (.getfield 164, 3) := dk_180 0 164 (dk_at dksX3_front_1 12 rfl rfl)
theorem dX3_front_39 : decode cX3_front 39 = .ok (.goto 4, 3) := dk_167 0 4 (dk_at dksX3_front_1 15 rfl rfl)
theorem dX3_front_42 : decode cX3_front 42 = .ok (.iconst (-1), 1) := dk_2 (dk_at dksX3_front_1 18 rfl rfl)
theorem dX3_front_43 : decode cX3_front 43 = .ok (.ireturn, 1) := dk_172 (dk_at dksX3_front_1 19 rfl rfl)
abbrev cX3_entry : ByteArray := prog_7_method_42_code
def yX3_entry : MethodName := ⟨RX3, "entry", "(II)I"⟩
def dkwX3_entry_3 : List UInt8 := [167, 0, 5, 21, 4, 54, 4, 132, 3, 1, 132, 5, 1, 167, 255, 213, 21, 4, 172]
abbrev dktX3_entry_3 : List UInt8 := dkwX3_entry_3 ++ []
def dkwX3_entry_2 : List UInt8 := [162, 0, 40, 42, 180, 0, 62, 21, 5, 51, 153, 0, 24, 29, 28, 160, 0, 12, 42, 21, 5, 182, 0, 218]
abbrev dktX3_entry_2 : List UInt8 := dkwX3_entry_2 ++ dktX3_entry_3
def dkwX3_entry_1 : List UInt8 := [181, 0, 90, 42, 27, 182, 0, 215, 3, 62, 2, 54, 4, 3, 54, 5, 21, 5, 42, 180, 0, 97]
abbrev dktX3_entry_1 : List UInt8 := dkwX3_entry_1 ++ dktX3_entry_2
def dkwX3_entry_0 : List UInt8 := [27, 133, 9, 20, 0, 190, 184, 0, 184, 153, 0, 7, 28, 156, 0, 9, 42, 4, 182, 0, 194, 172, 42, 3]
abbrev dktX3_entry_0 : List UInt8 := dkwX3_entry_0 ++ dktX3_entry_1
theorem dksX3_entry_0 : cX3_entry.data.toList.drop 0 = dktX3_entry_0 := by decide +kernel
theorem dksX3_entry_1 : cX3_entry.data.toList.drop 24 = dktX3_entry_1 := dk_seg dksX3_entry_0 24 rfl rfl
theorem dksX3_entry_2 : cX3_entry.data.toList.drop 46 = dktX3_entry_2 := dk_seg dksX3_entry_1 22 rfl rfl
theorem dksX3_entry_3 : cX3_entry.data.toList.drop 70 = dktX3_entry_3 := dk_seg dksX3_entry_2 24 rfl rfl
theorem dX3_entry_0 : decode cX3_entry 0 = .ok (.iload_n 1, 1) := dk_27 (dk_at dksX3_entry_0 0 rfl rfl)
theorem dX3_entry_1 : decode cX3_entry 1 = .ok (.i2l, 1) := dk_133 (dk_at dksX3_entry_0 1 rfl rfl)
theorem dX3_entry_2 : decode cX3_entry 2 = .ok (.lconst 0, 1) := dk_9 (dk_at dksX3_entry_0 2 rfl rfl)
theorem dX3_entry_3 : decode cX3_entry 3 = .ok (.ldc2_w 190, 3) := dk_20 0 190 (dk_at dksX3_entry_0 3 rfl rfl)
theorem dX3_entry_6 : decode cX3_entry 6 = .ok (.invokestatic 184, 3) := dk_184 0 184 (dk_at dksX3_entry_0 6 rfl rfl)
theorem dX3_entry_9 : decode cX3_entry 9 = .ok (.ifCond .eq 7, 3) := dk_153 0 7 (dk_at dksX3_entry_0 9 rfl rfl)
theorem dX3_entry_12 : decode cX3_entry 12 = .ok (.iload_n 2, 1) := dk_28 (dk_at dksX3_entry_0 12 rfl rfl)
theorem dX3_entry_13 : decode cX3_entry 13 = .ok (.ifCond .ge 9, 3) := dk_156 0 9 (dk_at dksX3_entry_0 13 rfl rfl)
theorem dX3_entry_16 : decode cX3_entry 16 = .ok (.aload_n 0, 1) := dk_42 (dk_at dksX3_entry_0 16 rfl rfl)
theorem dX3_entry_17 : decode cX3_entry 17 = .ok (.iconst 1, 1) := dk_4 (dk_at dksX3_entry_0 17 rfl rfl)
theorem dX3_entry_18 : decode cX3_entry 18 = .ok (.invokevirtual 194, 3) := dk_182 0 194 (dk_at dksX3_entry_0 18 rfl rfl)
theorem dX3_entry_21 : decode cX3_entry 21 = .ok (.ireturn, 1) := dk_172 (dk_at dksX3_entry_0 21 rfl rfl)
theorem dX3_entry_22 : decode cX3_entry 22 = .ok (.aload_n 0, 1) := dk_42 (dk_at dksX3_entry_0 22 rfl rfl)
theorem dX3_entry_23 : decode cX3_entry 23 = .ok (.iconst 0, 1) := dk_3 (dk_at dksX3_entry_0 23 rfl rfl)
theorem dX3_entry_24 : decode cX3_entry 24 = .ok (.putfield 90, 3) := dk_181 0 90 (dk_at dksX3_entry_1 0 rfl rfl)
theorem dX3_entry_27 : decode cX3_entry 27 = .ok (.aload_n 0, 1) := dk_42 (dk_at dksX3_entry_1 3 rfl rfl)
theorem dX3_entry_28 : decode cX3_entry 28 = .ok (.iload_n 1, 1) := dk_27 (dk_at dksX3_entry_1 4 rfl rfl)
theorem dX3_entry_29 : decode cX3_entry 29 = .ok (.invokevirtual 215, 3) := dk_182 0 215 (dk_at dksX3_entry_1 5 rfl rfl)
theorem dX3_entry_32 : decode cX3_entry 32 = .ok (.iconst 0, 1) := dk_3 (dk_at dksX3_entry_1 8 rfl rfl)
theorem dX3_entry_33 : decode cX3_entry 33 = .ok (.istore_n 3, 1) := dk_62 (dk_at dksX3_entry_1 9 rfl rfl)
theorem dX3_entry_34 : decode cX3_entry 34 = .ok (.iconst (-1), 1) := dk_2 (dk_at dksX3_entry_1 10 rfl rfl)
theorem dX3_entry_35 : decode cX3_entry 35 = .ok (.istore 4, 2) := dk_54 4 (dk_at dksX3_entry_1 11 rfl rfl)
theorem dX3_entry_37 : decode cX3_entry 37 = .ok (.iconst 0, 1) := dk_3 (dk_at dksX3_entry_1 13 rfl rfl)
theorem dX3_entry_38 : decode cX3_entry 38 = .ok (.istore 5, 2) := dk_54 5 (dk_at dksX3_entry_1 14 rfl rfl)
theorem dX3_entry_40 : decode cX3_entry 40 = .ok (.iload 5, 2) := dk_21 5 (dk_at dksX3_entry_1 16 rfl rfl)
theorem dX3_entry_42 : decode cX3_entry 42 = .ok (.aload_n 0, 1) := dk_42 (dk_at dksX3_entry_1 18 rfl rfl)
theorem dX3_entry_43 : decode cX3_entry 43 = .ok (.getfield 97, 3) := dk_180 0 97 (dk_at dksX3_entry_1 19 rfl rfl)
theorem dX3_entry_46 : decode cX3_entry 46 = .ok (.if_icmp .ge 40, 3) := dk_162 0 40 (dk_at dksX3_entry_2 0 rfl rfl)
theorem dX3_entry_49 : decode cX3_entry 49 = .ok (.aload_n 0, 1) := dk_42 (dk_at dksX3_entry_2 3 rfl rfl)
theorem dX3_entry_50 : decode cX3_entry 50 = .ok (.getfield 62, 3) := dk_180 0 62 (dk_at dksX3_entry_2 4 rfl rfl)
theorem dX3_entry_53 : decode cX3_entry 53 = .ok (.iload 5, 2) := dk_21 5 (dk_at dksX3_entry_2 7 rfl rfl)
theorem dX3_entry_55 : decode cX3_entry 55 = .ok (.baload, 1) := dk_51 (dk_at dksX3_entry_2 9 rfl rfl)
theorem dX3_entry_56 : decode cX3_entry 56 = .ok (.ifCond .eq 24, 3) := dk_153 0 24 (dk_at dksX3_entry_2 10 rfl rfl)
theorem dX3_entry_59 : decode cX3_entry 59 = .ok (.iload_n 3, 1) := dk_29 (dk_at dksX3_entry_2 13 rfl rfl)
theorem dX3_entry_60 : decode cX3_entry 60 = .ok (.iload_n 2, 1) := dk_28 (dk_at dksX3_entry_2 14 rfl rfl)
theorem dX3_entry_61 : decode cX3_entry 61 = .ok (.if_icmp .ne 12, 3) := dk_160 0 12 (dk_at dksX3_entry_2 15 rfl rfl)
theorem dX3_entry_64 : decode cX3_entry 64 = .ok (.aload_n 0, 1) := dk_42 (dk_at dksX3_entry_2 18 rfl rfl)
theorem dX3_entry_65 : decode cX3_entry 65 = .ok (.iload 5, 2) := dk_21 5 (dk_at dksX3_entry_2 19 rfl rfl)
theorem dX3_entry_67 : decode cX3_entry 67 = .ok (.invokevirtual 218, 3) := dk_182 0 218 (dk_at dksX3_entry_2 21 rfl rfl)
theorem dX3_entry_70 : decode cX3_entry 70 = .ok (.goto 5, 3) := dk_167 0 5 (dk_at dksX3_entry_3 0 rfl rfl)
theorem dX3_entry_73 : decode cX3_entry 73 = .ok (.iload 4, 2) := dk_21 4 (dk_at dksX3_entry_3 3 rfl rfl)
theorem dX3_entry_75 : decode cX3_entry 75 = .ok (.istore 4, 2) := dk_54 4 (dk_at dksX3_entry_3 5 rfl rfl)
theorem dX3_entry_77 : decode cX3_entry 77 = .ok (.iinc 3 1, 3) := dk_132 3 1 (dk_at dksX3_entry_3 7 rfl rfl)
theorem dX3_entry_80 : decode cX3_entry 80 = .ok (.iinc 5 1, 3) := dk_132 5 1 (dk_at dksX3_entry_3 10 rfl rfl)
theorem dX3_entry_83 : decode cX3_entry 83 = .ok (.goto (-43), 3) := dk_167 255 213 (dk_at dksX3_entry_3 13 rfl rfl)
theorem dX3_entry_86 : decode cX3_entry 86 = .ok (.iload 4, 2) := dk_21 4 (dk_at dksX3_entry_3 16 rfl rfl)
theorem dX3_entry_88 : decode cX3_entry 88 = .ok (.ireturn, 1) := dk_172 (dk_at dksX3_entry_3 18 rfl rfl)
abbrev cX3_index : ByteArray := prog_7_method_44_code
def yX3_index : MethodName := ⟨RX3, "index", "(III)I"⟩
def dkwX3_index_11 : List UInt8 := [100, 5, 161, 0, 10, 21, 6, 4, 96, 167, 0, 7, 21, 5, 4, 96, 54, 5, 167, 255, 122, 2, 172]
abbrev dktX3_index_11 : List UInt8 := dkwX3_index_11 ++ []
def dkwX3_index_10 : List UInt8 := [21, 4, 42, 180, 0, 87, 21, 5, 51, 153, 0, 7, 4, 167, 0, 4, 3, 96, 54, 4, 21, 6, 21, 5]
abbrev dktX3_index_10 : List UInt8 := dkwX3_index_10 ++ dktX3_index_11
def dkwX3_index_9 : List UInt8 := [5, 161, 0, 15, 17, 3, 232, 21, 5, 104, 21, 6, 96, 167, 0, 9, 17, 3, 233, 21, 5, 104, 172]
abbrev dktX3_index_9 : List UInt8 := dkwX3_index_9 ++ dktX3_index_10
def dkwX3_index_8 : List UInt8 := [167, 255, 223, 42, 180, 0, 87, 21, 5, 51, 153, 0, 37, 21, 4, 29, 160, 0, 31, 21, 6, 21, 5, 100]
abbrev dktX3_index_8 : List UInt8 := dkwX3_index_8 ++ dktX3_index_9
def dkwX3_index_7 : List UInt8 := [180, 0, 87, 21, 6, 4, 96, 51, 153, 0, 17, 21, 6, 17, 1, 142, 162, 0, 9, 132, 6, 1]
abbrev dktX3_index_7 : List UInt8 := dkwX3_index_7 ++ dktX3_index_8
def dkwX3_index_6 : List UInt8 := [21, 5, 17, 1, 143, 162, 0, 132, 21, 5, 54, 6, 42, 180, 0, 87, 21, 5, 51, 153, 0, 29, 42]
abbrev dktX3_index_6 : List UInt8 := dkwX3_index_6 ++ dktX3_index_7
def dkwX3_index_5 : List UInt8 := [180, 0, 50, 21, 4, 46, 182, 0, 218, 4, 84, 132, 4, 1, 167, 255, 217, 3, 54, 4, 4, 54, 5]
abbrev dktX3_index_5 : List UInt8 := dkwX3_index_5 ++ dktX3_index_6
def dkwX3_index_4 : List UInt8 := [180, 0, 100, 162, 0, 36, 42, 21, 4, 28, 182, 0, 227, 153, 0, 20, 42, 180, 0, 87, 42, 42]
abbrev dktX3_index_4 : List UInt8 := dkwX3_index_4 ++ dktX3_index_5
def dkwX3_index_3 : List UInt8 := [162, 0, 17, 42, 180, 0, 87, 21, 4, 3, 84, 132, 4, 1, 167, 255, 237, 3, 54, 4, 21, 4, 42]
abbrev dktX3_index_3 : List UInt8 := dkwX3_index_3 ++ dktX3_index_4
def dkwX3_index_2 : List UInt8 := [28, 46, 2, 160, 0, 10, 42, 180, 0, 167, 154, 0, 5, 2, 172, 3, 54, 4, 21, 4, 17, 1, 144]
abbrev dktX3_index_2 : List UInt8 := dkwX3_index_2 ++ dktX3_index_3
def dkwX3_index_1 : List UInt8 := [29, 156, 0, 9, 42, 4, 182, 0, 194, 172, 42, 3, 181, 0, 90, 42, 27, 182, 0, 215, 42, 180, 0, 41]
abbrev dktX3_index_1 : List UInt8 := dkwX3_index_1 ++ dktX3_index_2
def dkwX3_index_0 : List UInt8 := [27, 133, 9, 20, 0, 190, 184, 0, 184, 153, 0, 19, 28, 133, 9, 20, 0, 188, 184, 0, 184, 153, 0, 7]
abbrev dktX3_index_0 : List UInt8 := dkwX3_index_0 ++ dktX3_index_1
theorem dksX3_index_0 : cX3_index.data.toList.drop 0 = dktX3_index_0 := by decide +kernel
theorem dksX3_index_1 : cX3_index.data.toList.drop 24 = dktX3_index_1 := dk_seg dksX3_index_0 24 rfl rfl
theorem dksX3_index_2 : cX3_index.data.toList.drop 48 = dktX3_index_2 := dk_seg dksX3_index_1 24 rfl rfl
theorem dksX3_index_3 : cX3_index.data.toList.drop 71 = dktX3_index_3 := dk_seg dksX3_index_2 23 rfl rfl
theorem dksX3_index_4 : cX3_index.data.toList.drop 94 = dktX3_index_4 := dk_seg dksX3_index_3 23 rfl rfl
theorem dksX3_index_5 : cX3_index.data.toList.drop 116 = dktX3_index_5 := dk_seg dksX3_index_4 22 rfl rfl
theorem dksX3_index_6 : cX3_index.data.toList.drop 139 = dktX3_index_6 := dk_seg dksX3_index_5 23 rfl rfl
theorem dksX3_index_7 : cX3_index.data.toList.drop 162 = dktX3_index_7 := dk_seg dksX3_index_6 23 rfl rfl
theorem dksX3_index_8 : cX3_index.data.toList.drop 184 = dktX3_index_8 := dk_seg dksX3_index_7 22 rfl rfl
theorem dksX3_index_9 : cX3_index.data.toList.drop 208 = dktX3_index_9 := dk_seg dksX3_index_8 24 rfl rfl
theorem dksX3_index_10 : cX3_index.data.toList.drop 231 = dktX3_index_10 := dk_seg dksX3_index_9 23 rfl rfl
theorem dksX3_index_11 : cX3_index.data.toList.drop 255 = dktX3_index_11 := dk_seg dksX3_index_10 24 rfl rfl
theorem dX3_index_0 : decode cX3_index 0 = .ok (.iload_n 1, 1) := dk_27 (dk_at dksX3_index_0 0 rfl rfl)
theorem dX3_index_1 : decode cX3_index 1 = .ok (.i2l, 1) := dk_133 (dk_at dksX3_index_0 1 rfl rfl)
theorem dX3_index_2 : decode cX3_index 2 = .ok (.lconst 0, 1) := dk_9 (dk_at dksX3_index_0 2 rfl rfl)
theorem dX3_index_3 : decode cX3_index 3 = .ok (.ldc2_w 190, 3) := dk_20 0 190 (dk_at dksX3_index_0 3 rfl rfl)
theorem dX3_index_6 : decode cX3_index 6 = .ok (.invokestatic 184, 3) := dk_184 0 184 (dk_at dksX3_index_0 6 rfl rfl)
theorem dX3_index_9 : decode cX3_index 9 = .ok (.ifCond .eq 19, 3) := dk_153 0 19 (dk_at dksX3_index_0 9 rfl rfl)
theorem dX3_index_12 : decode cX3_index 12 = .ok (.iload_n 2, 1) := dk_28 (dk_at dksX3_index_0 12 rfl rfl)
theorem dX3_index_13 : decode cX3_index 13 = .ok (.i2l, 1) := dk_133 (dk_at dksX3_index_0 13 rfl rfl)
theorem dX3_index_14 : decode cX3_index 14 = .ok (.lconst 0, 1) := dk_9 (dk_at dksX3_index_0 14 rfl rfl)
theorem dX3_index_15 : decode cX3_index 15 = .ok (.ldc2_w 188, 3) := dk_20 0 188 (dk_at dksX3_index_0 15 rfl rfl)
theorem dX3_index_18 : decode cX3_index 18 = .ok (.invokestatic 184, 3) := dk_184 0 184 (dk_at dksX3_index_0 18 rfl rfl)
theorem dX3_index_21 : decode cX3_index 21 = .ok (.ifCond .eq 7, 3) := dk_153 0 7 (dk_at dksX3_index_0 21 rfl rfl)
theorem dX3_index_24 : decode cX3_index 24 = .ok (.iload_n 3, 1) := dk_29 (dk_at dksX3_index_1 0 rfl rfl)
theorem dX3_index_25 : decode cX3_index 25 = .ok (.ifCond .ge 9, 3) := dk_156 0 9 (dk_at dksX3_index_1 1 rfl rfl)
theorem dX3_index_28 : decode cX3_index 28 = .ok (.aload_n 0, 1) := dk_42 (dk_at dksX3_index_1 4 rfl rfl)
theorem dX3_index_29 : decode cX3_index 29 = .ok (.iconst 1, 1) := dk_4 (dk_at dksX3_index_1 5 rfl rfl)
theorem dX3_index_30 : decode cX3_index 30 = .ok (.invokevirtual 194, 3) := dk_182 0 194 (dk_at dksX3_index_1 6 rfl rfl)
theorem dX3_index_33 : decode cX3_index 33 = .ok (.ireturn, 1) := dk_172 (dk_at dksX3_index_1 9 rfl rfl)
theorem dX3_index_34 : decode cX3_index 34 = .ok (.aload_n 0, 1) := dk_42 (dk_at dksX3_index_1 10 rfl rfl)
theorem dX3_index_35 : decode cX3_index 35 = .ok (.iconst 0, 1) := dk_3 (dk_at dksX3_index_1 11 rfl rfl)
theorem dX3_index_36 : decode cX3_index 36 = .ok (.putfield 90, 3) := dk_181 0 90 (dk_at dksX3_index_1 12 rfl rfl)
theorem dX3_index_39 : decode cX3_index 39 = .ok (.aload_n 0, 1) := dk_42 (dk_at dksX3_index_1 15 rfl rfl)
theorem dX3_index_40 : decode cX3_index 40 = .ok (.iload_n 1, 1) := dk_27 (dk_at dksX3_index_1 16 rfl rfl)
theorem dX3_index_41 : decode cX3_index 41 = .ok (.invokevirtual 215, 3) := dk_182 0 215 (dk_at dksX3_index_1 17 rfl rfl)
theorem dX3_index_44 : decode cX3_index 44 = .ok (.aload_n 0, 1) := dk_42 (dk_at dksX3_index_1 20 rfl rfl)
theorem dX3_index_45 : decode cX3_index 45 = .ok (.getfield 41, 3) := dk_180 0 41 (dk_at dksX3_index_1 21 rfl rfl)
theorem dX3_index_48 : decode cX3_index 48 = .ok (.iload_n 2, 1) := dk_28 (dk_at dksX3_index_2 0 rfl rfl)
theorem dX3_index_49 : decode cX3_index 49 = .ok (.iaload, 1) := dk_46 (dk_at dksX3_index_2 1 rfl rfl)
theorem dX3_index_50 : decode cX3_index 50 = .ok (.iconst (-1), 1) := dk_2 (dk_at dksX3_index_2 2 rfl rfl)
theorem dX3_index_51 : decode cX3_index 51 = .ok (.if_icmp .ne 10, 3) := dk_160 0 10 (dk_at dksX3_index_2 3 rfl rfl)
theorem dX3_index_54 : decode cX3_index 54 = .ok (.aload_n 0, 1) := dk_42 (dk_at dksX3_index_2 6 rfl rfl)
theorem dX3_index_55 : decode cX3_index 55 = .ok (.getfield 167, 3) := dk_180 0 167 (dk_at dksX3_index_2 7 rfl rfl)
theorem dX3_index_58 : decode cX3_index 58 = .ok (.ifCond .ne 5, 3) := dk_154 0 5 (dk_at dksX3_index_2 10 rfl rfl)
theorem dX3_index_61 : decode cX3_index 61 = .ok (.iconst (-1), 1) := dk_2 (dk_at dksX3_index_2 13 rfl rfl)
theorem dX3_index_62 : decode cX3_index 62 = .ok (.ireturn, 1) := dk_172 (dk_at dksX3_index_2 14 rfl rfl)
theorem dX3_index_63 : decode cX3_index 63 = .ok (.iconst 0, 1) := dk_3 (dk_at dksX3_index_2 15 rfl rfl)
theorem dX3_index_64 : decode cX3_index 64 = .ok (.istore 4, 2) := dk_54 4 (dk_at dksX3_index_2 16 rfl rfl)
theorem dX3_index_66 : decode cX3_index 66 = .ok (.iload 4, 2) := dk_21 4 (dk_at dksX3_index_2 18 rfl rfl)
theorem dX3_index_68 : decode cX3_index 68 = .ok (.sipush 400, 3) := dk_17 1 144 (dk_at dksX3_index_2 20 rfl rfl)
theorem dX3_index_71 : decode cX3_index 71 = .ok (.if_icmp .ge 17, 3) := dk_162 0 17 (dk_at dksX3_index_3 0 rfl rfl)
theorem dX3_index_74 : decode cX3_index 74 = .ok (.aload_n 0, 1) := dk_42 (dk_at dksX3_index_3 3 rfl rfl)
theorem dX3_index_75 : decode cX3_index 75 = .ok (.getfield 87, 3) := dk_180 0 87 (dk_at dksX3_index_3 4 rfl rfl)
theorem dX3_index_78 : decode cX3_index 78 = .ok (.iload 4, 2) := dk_21 4 (dk_at dksX3_index_3 7 rfl rfl)
theorem dX3_index_80 : decode cX3_index 80 = .ok (.iconst 0, 1) := dk_3 (dk_at dksX3_index_3 9 rfl rfl)
theorem dX3_index_81 : decode cX3_index 81 = .ok (.bastore, 1) := dk_84 (dk_at dksX3_index_3 10 rfl rfl)
theorem dX3_index_82 : decode cX3_index 82 = .ok (.iinc 4 1, 3) := dk_132 4 1 (dk_at dksX3_index_3 11 rfl rfl)
theorem dX3_index_85 : decode cX3_index 85 = .ok (.goto (-19), 3) := dk_167 255 237 (dk_at dksX3_index_3 14 rfl rfl)
theorem dX3_index_88 : decode cX3_index 88 = .ok (.iconst 0, 1) := dk_3 (dk_at dksX3_index_3 17 rfl rfl)
theorem dX3_index_89 : decode cX3_index 89 = .ok (.istore 4, 2) := dk_54 4 (dk_at dksX3_index_3 18 rfl rfl)
theorem dX3_index_91 : decode cX3_index 91 = .ok (.iload 4, 2) := dk_21 4 (dk_at dksX3_index_3 20 rfl rfl)
theorem dX3_index_93 : decode cX3_index 93 = .ok (.aload_n 0, 1) := dk_42 (dk_at dksX3_index_3 22 rfl rfl)
theorem dX3_index_94 : decode cX3_index 94 = .ok (.getfield 100, 3) := dk_180 0 100 (dk_at dksX3_index_4 0 rfl rfl)
theorem dX3_index_97 : decode cX3_index 97 = .ok (.if_icmp .ge 36, 3) := dk_162 0 36 (dk_at dksX3_index_4 3 rfl rfl)
theorem dX3_index_100 : decode cX3_index 100 = .ok (.aload_n 0, 1) := dk_42 (dk_at dksX3_index_4 6 rfl rfl)
theorem dX3_index_101 : decode cX3_index 101 = .ok (.iload 4, 2) := dk_21 4 (dk_at dksX3_index_4 7 rfl rfl)
theorem dX3_index_103 : decode cX3_index 103 = .ok (.iload_n 2, 1) := dk_28 (dk_at dksX3_index_4 9 rfl rfl)
theorem dX3_index_104 : decode cX3_index 104 = .ok (.invokevirtual 227, 3) := dk_182 0 227 (dk_at dksX3_index_4 10 rfl rfl)
theorem dX3_index_107 : decode cX3_index 107 = .ok (.ifCond .eq 20, 3) := dk_153 0 20 (dk_at dksX3_index_4 13 rfl rfl)
theorem dX3_index_110 : decode cX3_index 110 = .ok (.aload_n 0, 1) := dk_42 (dk_at dksX3_index_4 16 rfl rfl)
theorem dX3_index_111 : decode cX3_index 111 = .ok (.getfield 87, 3) := dk_180 0 87 (dk_at dksX3_index_4 17 rfl rfl)
theorem dX3_index_114 : decode cX3_index 114 = .ok (.aload_n 0, 1) := dk_42 (dk_at dksX3_index_4 20 rfl rfl)
theorem dX3_index_115 : decode cX3_index 115 = .ok (.aload_n 0, 1) := dk_42 (dk_at dksX3_index_4 21 rfl rfl)
theorem dX3_index_116 : decode cX3_index 116 = .ok (.getfield 50, 3) := dk_180 0 50 (dk_at dksX3_index_5 0 rfl rfl)
theorem dX3_index_119 : decode cX3_index 119 = .ok (.iload 4, 2) := dk_21 4 (dk_at dksX3_index_5 3 rfl rfl)
theorem dX3_index_121 : decode cX3_index 121 = .ok (.iaload, 1) := dk_46 (dk_at dksX3_index_5 5 rfl rfl)
theorem dX3_index_122 : decode cX3_index 122 = .ok (.invokevirtual 218, 3) := dk_182 0 218 (dk_at dksX3_index_5 6 rfl rfl)
theorem dX3_index_125 : decode cX3_index 125 = .ok (.iconst 1, 1) := dk_4 (dk_at dksX3_index_5 9 rfl rfl)
theorem dX3_index_126 : decode cX3_index 126 = .ok (.bastore, 1) := dk_84 (dk_at dksX3_index_5 10 rfl rfl)
theorem dX3_index_127 : decode cX3_index 127 = .ok (.iinc 4 1, 3) := dk_132 4 1 (dk_at dksX3_index_5 11 rfl rfl)
theorem dX3_index_130 : decode cX3_index 130 = .ok (.goto (-39), 3) := dk_167 255 217 (dk_at dksX3_index_5 14 rfl rfl)
theorem dX3_index_133 : decode cX3_index 133 = .ok (.iconst 0, 1) := dk_3 (dk_at dksX3_index_5 17 rfl rfl)
theorem dX3_index_134 : decode cX3_index 134 = .ok (.istore 4, 2) := dk_54 4 (dk_at dksX3_index_5 18 rfl rfl)
theorem dX3_index_136 : decode cX3_index 136 = .ok (.iconst 1, 1) := dk_4 (dk_at dksX3_index_5 20 rfl rfl)
theorem dX3_index_137 : decode cX3_index 137 = .ok (.istore 5, 2) := dk_54 5 (dk_at dksX3_index_5 21 rfl rfl)
theorem dX3_index_139 : decode cX3_index 139 = .ok (.iload 5, 2) := dk_21 5 (dk_at dksX3_index_6 0 rfl rfl)
theorem dX3_index_141 : decode cX3_index 141 = .ok (.sipush 399, 3) := dk_17 1 143 (dk_at dksX3_index_6 2 rfl rfl)
theorem dX3_index_144 : decode cX3_index 144 = .ok (.if_icmp .ge 132, 3) := dk_162 0 132 (dk_at dksX3_index_6 5 rfl rfl)
theorem dX3_index_147 : decode cX3_index 147 = .ok (.iload 5, 2) := dk_21 5 (dk_at dksX3_index_6 8 rfl rfl)
theorem dX3_index_149 : decode cX3_index 149 = .ok (.istore 6, 2) := dk_54 6 (dk_at dksX3_index_6 10 rfl rfl)
theorem dX3_index_151 : decode cX3_index 151 = .ok (.aload_n 0, 1) := dk_42 (dk_at dksX3_index_6 12 rfl rfl)
theorem dX3_index_152 : decode cX3_index 152 = .ok (.getfield 87, 3) := dk_180 0 87 (dk_at dksX3_index_6 13 rfl rfl)
theorem dX3_index_155 : decode cX3_index 155 = .ok (.iload 5, 2) := dk_21 5 (dk_at dksX3_index_6 16 rfl rfl)
theorem dX3_index_157 : decode cX3_index 157 = .ok (.baload, 1) := dk_51 (dk_at dksX3_index_6 18 rfl rfl)
theorem dX3_index_158 : decode cX3_index 158 = .ok (.ifCond .eq 29, 3) := dk_153 0 29 (dk_at dksX3_index_6 19 rfl rfl)
theorem dX3_index_161 : decode cX3_index 161 = .ok (.aload_n 0, 1) := dk_42 (dk_at dksX3_index_6 22 rfl rfl)
theorem dX3_index_162 : decode cX3_index 162 = .ok (.getfield 87, 3) := dk_180 0 87 (dk_at dksX3_index_7 0 rfl rfl)
theorem dX3_index_165 : decode cX3_index 165 = .ok (.iload 6, 2) := dk_21 6 (dk_at dksX3_index_7 3 rfl rfl)
theorem dX3_index_167 : decode cX3_index 167 = .ok (.iconst 1, 1) := dk_4 (dk_at dksX3_index_7 5 rfl rfl)
theorem dX3_index_168 : decode cX3_index 168 = .ok (.iadd, 1) := dk_96 (dk_at dksX3_index_7 6 rfl rfl)
theorem dX3_index_169 : decode cX3_index 169 = .ok (.baload, 1) := dk_51 (dk_at dksX3_index_7 7 rfl rfl)
theorem dX3_index_170 : decode cX3_index 170 = .ok (.ifCond .eq 17, 3) := dk_153 0 17 (dk_at dksX3_index_7 8 rfl rfl)
theorem dX3_index_173 : decode cX3_index 173 = .ok (.iload 6, 2) := dk_21 6 (dk_at dksX3_index_7 11 rfl rfl)
theorem dX3_index_175 : decode cX3_index 175 = .ok (.sipush 398, 3) := dk_17 1 142 (dk_at dksX3_index_7 13 rfl rfl)
theorem dX3_index_178 : decode cX3_index 178 = .ok (.if_icmp .ge 9, 3) := dk_162 0 9 (dk_at dksX3_index_7 16 rfl rfl)
theorem dX3_index_181 : decode cX3_index 181 = .ok (.iinc 6 1, 3) := dk_132 6 1 (dk_at dksX3_index_7 19 rfl rfl)
theorem dX3_index_184 : decode cX3_index 184 = .ok (.goto (-33), 3) := dk_167 255 223 (dk_at dksX3_index_8 0 rfl rfl)
theorem dX3_index_187 : decode cX3_index 187 = .ok (.aload_n 0, 1) := dk_42 (dk_at dksX3_index_8 3 rfl rfl)
theorem dX3_index_188 : decode cX3_index 188 = .ok (.getfield 87, 3) := dk_180 0 87 (dk_at dksX3_index_8 4 rfl rfl)
theorem dX3_index_191 : decode cX3_index 191 = .ok (.iload 5, 2) := dk_21 5 (dk_at dksX3_index_8 7 rfl rfl)
theorem dX3_index_193 : decode cX3_index 193 = .ok (.baload, 1) := dk_51 (dk_at dksX3_index_8 9 rfl rfl)
theorem dX3_index_194 : decode cX3_index 194 = .ok (.ifCond .eq 37, 3) := dk_153 0 37 (dk_at dksX3_index_8 10 rfl rfl)
theorem dX3_index_197 : decode cX3_index 197 = .ok (.iload 4, 2) := dk_21 4 (dk_at dksX3_index_8 13 rfl rfl)
theorem dX3_index_199 : decode cX3_index 199 = .ok (.iload_n 3, 1) := dk_29 (dk_at dksX3_index_8 15 rfl rfl)
theorem dX3_index_200 : decode cX3_index 200 = .ok (.if_icmp .ne 31, 3) := dk_160 0 31 (dk_at dksX3_index_8 16 rfl rfl)
theorem dX3_index_203 : decode cX3_index 203 = .ok (.iload 6, 2) := dk_21 6 (dk_at dksX3_index_8 19 rfl rfl)
theorem dX3_index_205 : decode cX3_index 205 = .ok (.iload 5, 2) := dk_21 5 (dk_at dksX3_index_8 21 rfl rfl)
theorem dX3_index_207 : decode cX3_index 207 = .ok (.isub, 1) := dk_100 (dk_at dksX3_index_8 23 rfl rfl)
theorem dX3_index_208 : decode cX3_index 208 = .ok (.iconst 2, 1) := dk_5 (dk_at dksX3_index_9 0 rfl rfl)
theorem dX3_index_209 : decode cX3_index 209 = .ok (.if_icmp .lt 15, 3) := dk_161 0 15 (dk_at dksX3_index_9 1 rfl rfl)
theorem dX3_index_212 : decode cX3_index 212 = .ok (.sipush 1000, 3) := dk_17 3 232 (dk_at dksX3_index_9 4 rfl rfl)
theorem dX3_index_215 : decode cX3_index 215 = .ok (.iload 5, 2) := dk_21 5 (dk_at dksX3_index_9 7 rfl rfl)
theorem dX3_index_217 : decode cX3_index 217 = .ok (.imul, 1) := dk_104 (dk_at dksX3_index_9 9 rfl rfl)
theorem dX3_index_218 : decode cX3_index 218 = .ok (.iload 6, 2) := dk_21 6 (dk_at dksX3_index_9 10 rfl rfl)
theorem dX3_index_220 : decode cX3_index 220 = .ok (.iadd, 1) := dk_96 (dk_at dksX3_index_9 12 rfl rfl)
theorem dX3_index_221 : decode cX3_index 221 = .ok (.goto 9, 3) := dk_167 0 9 (dk_at dksX3_index_9 13 rfl rfl)
theorem dX3_index_224 : decode cX3_index 224 = .ok (.sipush 1001, 3) := dk_17 3 233 (dk_at dksX3_index_9 16 rfl rfl)
theorem dX3_index_227 : decode cX3_index 227 = .ok (.iload 5, 2) := dk_21 5 (dk_at dksX3_index_9 19 rfl rfl)
theorem dX3_index_229 : decode cX3_index 229 = .ok (.imul, 1) := dk_104 (dk_at dksX3_index_9 21 rfl rfl)
theorem dX3_index_230 : decode cX3_index 230 = .ok (.ireturn, 1) := dk_172 (dk_at dksX3_index_9 22 rfl rfl)
theorem dX3_index_231 : decode cX3_index 231 = .ok (.iload 4, 2) := dk_21 4 (dk_at dksX3_index_10 0 rfl rfl)
theorem dX3_index_233 : decode cX3_index 233 = .ok (.aload_n 0, 1) := dk_42 (dk_at dksX3_index_10 2 rfl rfl)
theorem dX3_index_234 : decode cX3_index 234 = .ok (.getfield 87, 3) := dk_180 0 87 (dk_at dksX3_index_10 3 rfl rfl)
theorem dX3_index_237 : decode cX3_index 237 = .ok (.iload 5, 2) := dk_21 5 (dk_at dksX3_index_10 6 rfl rfl)
theorem dX3_index_239 : decode cX3_index 239 = .ok (.baload, 1) := dk_51 (dk_at dksX3_index_10 8 rfl rfl)
theorem dX3_index_240 : decode cX3_index 240 = .ok (.ifCond .eq 7, 3) := dk_153 0 7 (dk_at dksX3_index_10 9 rfl rfl)
theorem dX3_index_243 : decode cX3_index 243 = .ok (.iconst 1, 1) := dk_4 (dk_at dksX3_index_10 12 rfl rfl)
theorem dX3_index_244 : decode cX3_index 244 = .ok (.goto 4, 3) := dk_167 0 4 (dk_at dksX3_index_10 13 rfl rfl)
theorem dX3_index_247 : decode cX3_index 247 = .ok (.iconst 0, 1) := dk_3 (dk_at dksX3_index_10 16 rfl rfl)
theorem dX3_index_248 : decode cX3_index 248 = .ok (.iadd, 1) := dk_96 (dk_at dksX3_index_10 17 rfl rfl)
theorem dX3_index_249 : decode cX3_index 249 = .ok (.istore 4, 2) := dk_54 4 (dk_at dksX3_index_10 18 rfl rfl)
theorem dX3_index_251 : decode cX3_index 251 = .ok (.iload 6, 2) := dk_21 6 (dk_at dksX3_index_10 20 rfl rfl)
theorem dX3_index_253 : decode cX3_index 253 = .ok (.iload 5, 2) := dk_21 5 (dk_at dksX3_index_10 22 rfl rfl)
theorem dX3_index_255 : decode cX3_index 255 = .ok (.isub, 1) := dk_100 (dk_at dksX3_index_11 0 rfl rfl)
theorem dX3_index_256 : decode cX3_index 256 = .ok (.iconst 2, 1) := dk_5 (dk_at dksX3_index_11 1 rfl rfl)
theorem dX3_index_257 : decode cX3_index 257 = .ok (.if_icmp .lt 10, 3) := dk_161 0 10 (dk_at dksX3_index_11 2 rfl rfl)
theorem dX3_index_260 : decode cX3_index 260 = .ok (.iload 6, 2) := dk_21 6 (dk_at dksX3_index_11 5 rfl rfl)
theorem dX3_index_262 : decode cX3_index 262 = .ok (.iconst 1, 1) := dk_4 (dk_at dksX3_index_11 7 rfl rfl)
theorem dX3_index_263 : decode cX3_index 263 = .ok (.iadd, 1) := dk_96 (dk_at dksX3_index_11 8 rfl rfl)
theorem dX3_index_264 : decode cX3_index 264 = .ok (.goto 7, 3) := dk_167 0 7 (dk_at dksX3_index_11 9 rfl rfl)
theorem dX3_index_267 : decode cX3_index 267 = .ok (.iload 5, 2) := dk_21 5 (dk_at dksX3_index_11 12 rfl rfl)
theorem dX3_index_269 : decode cX3_index 269 = .ok (.iconst 1, 1) := dk_4 (dk_at dksX3_index_11 14 rfl rfl)
theorem dX3_index_270 : decode cX3_index 270 = .ok (.iadd, 1) := dk_96 (dk_at dksX3_index_11 15 rfl rfl)
theorem dX3_index_271 : decode cX3_index 271 = .ok (.istore 5, 2) := dk_54 5 (dk_at dksX3_index_11 16 rfl rfl)
theorem dX3_index_273 : decode cX3_index 273 = .ok (.goto (-134), 3) := dk_167 255 122 (dk_at dksX3_index_11 18 rfl rfl)
theorem dX3_index_276 : decode cX3_index 276 = .ok (.iconst (-1), 1) := dk_2 (dk_at dksX3_index_11 21 rfl rfl)
theorem dX3_index_277 : decode cX3_index 277 = .ok (.ireturn, 1) := dk_172 (dk_at dksX3_index_11 22 rfl rfl)
abbrev cX3_counts : ByteArray := prog_7_method_43_code
def yX3_counts : MethodName := ⟨RX3, "counts", "(II)Z"⟩
def dkwX3_counts_1 : List UInt8 := [180, 0, 13, 27, 46, 182, 0, 224, 28, 160, 0, 7, 4, 167, 0, 4, 3, 172]
abbrev dktX3_counts_1 : List UInt8 := dkwX3_counts_1 ++ []
def dkwX3_counts_0 : List UInt8 := [42, 180, 0, 7, 27, 46, 16, 6, 160, 0, 31, 42, 180, 0, 50, 27, 46, 2, 159, 0, 21, 42, 42]
abbrev dktX3_counts_0 : List UInt8 := dkwX3_counts_0 ++ dktX3_counts_1
theorem dksX3_counts_0 : cX3_counts.data.toList.drop 0 = dktX3_counts_0 := by decide +kernel
theorem dksX3_counts_1 : cX3_counts.data.toList.drop 23 = dktX3_counts_1 := dk_seg dksX3_counts_0 23 rfl rfl
theorem dX3_counts_0 : decode cX3_counts 0 = .ok (.aload_n 0, 1) := dk_42 (dk_at dksX3_counts_0 0 rfl rfl)
theorem dX3_counts_1 : decode cX3_counts 1 = .ok (.getfield 7, 3) := dk_180 0 7 (dk_at dksX3_counts_0 1 rfl rfl)
theorem dX3_counts_4 : decode cX3_counts 4 = .ok (.iload_n 1, 1) := dk_27 (dk_at dksX3_counts_0 4 rfl rfl)
theorem dX3_counts_5 : decode cX3_counts 5 = .ok (.iaload, 1) := dk_46 (dk_at dksX3_counts_0 5 rfl rfl)
theorem dX3_counts_6 : decode cX3_counts 6 = .ok (.bipush 6, 2) := dk_16 6 (dk_at dksX3_counts_0 6 rfl rfl)
theorem dX3_counts_8 : decode cX3_counts 8 = .ok (.if_icmp .ne 31, 3) := dk_160 0 31 (dk_at dksX3_counts_0 8 rfl rfl)
theorem dX3_counts_11 : decode cX3_counts 11 = .ok (.aload_n 0, 1) := dk_42 (dk_at dksX3_counts_0 11 rfl rfl)
theorem dX3_counts_12 : decode cX3_counts 12 = .ok (.getfield 50, 3) := dk_180 0 50 (dk_at dksX3_counts_0 12 rfl rfl)
theorem dX3_counts_15 : decode cX3_counts 15 = .ok (.iload_n 1, 1) := dk_27 (dk_at dksX3_counts_0 15 rfl rfl)
theorem dX3_counts_16 : decode cX3_counts 16 = .ok (.iaload, 1) := dk_46 (dk_at dksX3_counts_0 16 rfl rfl)
theorem dX3_counts_17 : decode cX3_counts 17 = .ok (.iconst (-1), 1) := dk_2 (dk_at dksX3_counts_0 17 rfl rfl)
theorem dX3_counts_18 : decode cX3_counts 18 = .ok (.if_icmp .eq 21, 3) := dk_159 0 21 (dk_at dksX3_counts_0 18 rfl rfl)
theorem dX3_counts_21 : decode cX3_counts 21 = .ok (.aload_n 0, 1) := dk_42 (dk_at dksX3_counts_0 21 rfl rfl)
theorem dX3_counts_22 : decode cX3_counts 22 = .ok (.aload_n 0, 1) := dk_42 (dk_at dksX3_counts_0 22 rfl rfl)
theorem dX3_counts_23 : decode cX3_counts 23 = .ok (.getfield 13, 3) := dk_180 0 13 (dk_at dksX3_counts_1 0 rfl rfl)
theorem dX3_counts_26 : decode cX3_counts 26 = .ok (.iload_n 1, 1) := dk_27 (dk_at dksX3_counts_1 3 rfl rfl)
theorem dX3_counts_27 : decode cX3_counts 27 = .ok (.iaload, 1) := dk_46 (dk_at dksX3_counts_1 4 rfl rfl)
theorem dX3_counts_28 : decode cX3_counts 28 = .ok (.invokevirtual 224, 3) := dk_182 0 224 (dk_at dksX3_counts_1 5 rfl rfl)
theorem dX3_counts_31 : decode cX3_counts 31 = .ok (.iload_n 2, 1) := dk_28 (dk_at dksX3_counts_1 8 rfl rfl)
theorem dX3_counts_32 : decode cX3_counts 32 = .ok (.if_icmp .ne 7, 3) := dk_160 0 7 (dk_at dksX3_counts_1 9 rfl rfl)
theorem dX3_counts_35 : decode cX3_counts 35 = .ok (.iconst 1, 1) := dk_4 (dk_at dksX3_counts_1 12 rfl rfl)
theorem dX3_counts_36 : decode cX3_counts 36 = .ok (.goto 4, 3) := dk_167 0 4 (dk_at dksX3_counts_1 13 rfl rfl)
theorem dX3_counts_39 : decode cX3_counts 39 = .ok (.iconst 0, 1) := dk_3 (dk_at dksX3_counts_1 16 rfl rfl)
theorem dX3_counts_40 : decode cX3_counts 40 = .ok (.ireturn, 1) := dk_172 (dk_at dksX3_counts_1 17 rfl rfl)
abbrev cX3_lastOf : ByteArray := prog_7_method_31_code
def yX3_lastOf : MethodName := ⟨RX3, "lastOf", "(I)I"⟩
def dkwX3_lastOf_0 : List UInt8 := [27, 61, 42, 180, 0, 41, 28, 46, 2, 159, 0, 13, 42, 180, 0, 41, 28, 46, 61, 167, 255, 239, 28, 172]
abbrev dktX3_lastOf_0 : List UInt8 := dkwX3_lastOf_0 ++ []
theorem dksX3_lastOf_0 : cX3_lastOf.data.toList.drop 0 = dktX3_lastOf_0 := by decide +kernel
theorem dX3_lastOf_0 : decode cX3_lastOf 0 = .ok (.iload_n 1, 1) := dk_27 (dk_at dksX3_lastOf_0 0 rfl rfl)
theorem dX3_lastOf_1 : decode cX3_lastOf 1 = .ok (.istore_n 2, 1) := dk_61 (dk_at dksX3_lastOf_0 1 rfl rfl)
theorem dX3_lastOf_2 : decode cX3_lastOf 2 = .ok (.aload_n 0, 1) := dk_42 (dk_at dksX3_lastOf_0 2 rfl rfl)
theorem dX3_lastOf_3 : decode cX3_lastOf 3 = .ok (.getfield 41, 3) := dk_180 0 41 (dk_at dksX3_lastOf_0 3 rfl rfl)
theorem dX3_lastOf_6 : decode cX3_lastOf 6 = .ok (.iload_n 2, 1) := dk_28 (dk_at dksX3_lastOf_0 6 rfl rfl)
theorem dX3_lastOf_7 : decode cX3_lastOf 7 = .ok (.iaload, 1) := dk_46 (dk_at dksX3_lastOf_0 7 rfl rfl)
theorem dX3_lastOf_8 : decode cX3_lastOf 8 = .ok (.iconst (-1), 1) := dk_2 (dk_at dksX3_lastOf_0 8 rfl rfl)
theorem dX3_lastOf_9 : decode cX3_lastOf 9 = .ok (.if_icmp .eq 13, 3) := dk_159 0 13 (dk_at dksX3_lastOf_0 9 rfl rfl)
theorem dX3_lastOf_12 : decode cX3_lastOf 12 = .ok (.aload_n 0, 1) := dk_42 (dk_at dksX3_lastOf_0 12 rfl rfl)
theorem dX3_lastOf_13 : decode cX3_lastOf 13 = .ok (.getfield 41, 3) := dk_180 0 41 (dk_at dksX3_lastOf_0 13 rfl rfl)
theorem dX3_lastOf_16 : decode cX3_lastOf 16 = .ok (.iload_n 2, 1) := dk_28 (dk_at dksX3_lastOf_0 16 rfl rfl)
theorem dX3_lastOf_17 : decode cX3_lastOf 17 = .ok (.iaload, 1) := dk_46 (dk_at dksX3_lastOf_0 17 rfl rfl)
theorem dX3_lastOf_18 : decode cX3_lastOf 18 = .ok (.istore_n 2, 1) := dk_61 (dk_at dksX3_lastOf_0 18 rfl rfl)
theorem dX3_lastOf_19 : decode cX3_lastOf 19 = .ok (.goto (-17), 3) := dk_167 255 239 (dk_at dksX3_lastOf_0 19 rfl rfl)
theorem dX3_lastOf_22 : decode cX3_lastOf 22 = .ok (.iload_n 2, 1) := dk_28 (dk_at dksX3_lastOf_0 22 rfl rfl)
theorem dX3_lastOf_23 : decode cX3_lastOf 23 = .ok (.ireturn, 1) := dk_172 (dk_at dksX3_lastOf_0 23 rfl rfl)
abbrev cX3_sheet : ByteArray := prog_7_method_48_code
def yX3_sheet : MethodName := ⟨RX3, "sheet", "(II)I"⟩
def dkwX3_sheet_6 : List UInt8 := [180, 0, 47, 104, 172]
abbrev dktX3_sheet_6 : List UInt8 := dkwX3_sheet_6 ++ []
def dkwX3_sheet_5 : List UInt8 := [180, 0, 44, 5, 21, 4, 104, 100, 4, 100, 160, 0, 7, 4, 167, 0, 4, 3, 172, 21, 4, 42]
abbrev dktX3_sheet_5 : List UInt8 := dkwX3_sheet_5 ++ dktX3_sheet_6
def dkwX3_sheet_4 : List UInt8 := [42, 27, 182, 0, 235, 172, 42, 27, 182, 0, 238, 172, 29, 5, 21, 4, 104, 4, 96, 159, 0, 18, 29, 42]
abbrev dktX3_sheet_4 : List UInt8 := dkwX3_sheet_4 ++ dktX3_sheet_5
def dkwX3_sheet_3 : List UInt8 := [170, 0, 0, 0, 0, 69, 0, 0, 0, 0, 0, 0, 0, 2, 0, 0, 0, 26, 0, 0, 0, 32, 0, 0, 0, 38]
abbrev dktX3_sheet_3 : List UInt8 := dkwX3_sheet_3 ++ dktX3_sheet_4
def dkwX3_sheet_2 : List UInt8 := [182, 0, 230, 54, 4, 28]
abbrev dktX3_sheet_2 : List UInt8 := dkwX3_sheet_2 ++ dktX3_sheet_3
def dkwX3_sheet_1 : List UInt8 := [42, 4, 182, 0, 194, 172, 42, 3, 181, 0, 90, 27, 4, 100, 42, 180, 0, 44, 112, 4, 96, 62, 42, 27]
abbrev dktX3_sheet_1 : List UInt8 := dkwX3_sheet_1 ++ dktX3_sheet_2
def dkwX3_sheet_0 : List UInt8 := [27, 133, 10, 20, 0, 233, 184, 0, 184, 153, 0, 15, 28, 133, 9, 20, 0, 190, 184, 0, 184, 154, 0, 9]
abbrev dktX3_sheet_0 : List UInt8 := dkwX3_sheet_0 ++ dktX3_sheet_1
theorem dksX3_sheet_0 : cX3_sheet.data.toList.drop 0 = dktX3_sheet_0 := by decide +kernel
theorem dksX3_sheet_1 : cX3_sheet.data.toList.drop 24 = dktX3_sheet_1 := dk_seg dksX3_sheet_0 24 rfl rfl
theorem dksX3_sheet_2 : cX3_sheet.data.toList.drop 48 = dktX3_sheet_2 := dk_seg dksX3_sheet_1 24 rfl rfl
theorem dksX3_sheet_3 : cX3_sheet.data.toList.drop 54 = dktX3_sheet_3 := dk_seg dksX3_sheet_2 6 rfl rfl
theorem dksX3_sheet_4 : cX3_sheet.data.toList.drop 80 = dktX3_sheet_4 := dk_seg dksX3_sheet_3 26 rfl rfl
theorem dksX3_sheet_5 : cX3_sheet.data.toList.drop 104 = dktX3_sheet_5 := dk_seg dksX3_sheet_4 24 rfl rfl
theorem dksX3_sheet_6 : cX3_sheet.data.toList.drop 126 = dktX3_sheet_6 := dk_seg dksX3_sheet_5 22 rfl rfl
theorem dX3_sheet_0 : decode cX3_sheet 0 = .ok (.iload_n 1, 1) := dk_27 (dk_at dksX3_sheet_0 0 rfl rfl)
theorem dX3_sheet_1 : decode cX3_sheet 1 = .ok (.i2l, 1) := dk_133 (dk_at dksX3_sheet_0 1 rfl rfl)
theorem dX3_sheet_2 : decode cX3_sheet 2 = .ok (.lconst 1, 1) := dk_10 (dk_at dksX3_sheet_0 2 rfl rfl)
theorem dX3_sheet_3 : decode cX3_sheet 3 = .ok (.ldc2_w 233, 3) := dk_20 0 233 (dk_at dksX3_sheet_0 3 rfl rfl)
theorem dX3_sheet_6 : decode cX3_sheet 6 = .ok (.invokestatic 184, 3) := dk_184 0 184 (dk_at dksX3_sheet_0 6 rfl rfl)
theorem dX3_sheet_9 : decode cX3_sheet 9 = .ok (.ifCond .eq 15, 3) := dk_153 0 15 (dk_at dksX3_sheet_0 9 rfl rfl)
theorem dX3_sheet_12 : decode cX3_sheet 12 = .ok (.iload_n 2, 1) := dk_28 (dk_at dksX3_sheet_0 12 rfl rfl)
theorem dX3_sheet_13 : decode cX3_sheet 13 = .ok (.i2l, 1) := dk_133 (dk_at dksX3_sheet_0 13 rfl rfl)
theorem dX3_sheet_14 : decode cX3_sheet 14 = .ok (.lconst 0, 1) := dk_9 (dk_at dksX3_sheet_0 14 rfl rfl)
theorem dX3_sheet_15 : decode cX3_sheet 15 = .ok (.ldc2_w 190, 3) := dk_20 0 190 (dk_at dksX3_sheet_0 15 rfl rfl)
theorem dX3_sheet_18 : decode cX3_sheet 18 = .ok (.invokestatic 184, 3) := dk_184 0 184 (dk_at dksX3_sheet_0 18 rfl rfl)
theorem dX3_sheet_21 : decode cX3_sheet 21 = .ok (.ifCond .ne 9, 3) := dk_154 0 9 (dk_at dksX3_sheet_0 21 rfl rfl)
theorem dX3_sheet_24 : decode cX3_sheet 24 = .ok (.aload_n 0, 1) := dk_42 (dk_at dksX3_sheet_1 0 rfl rfl)
theorem dX3_sheet_25 : decode cX3_sheet 25 = .ok (.iconst 1, 1) := dk_4 (dk_at dksX3_sheet_1 1 rfl rfl)
theorem dX3_sheet_26 : decode cX3_sheet 26 = .ok (.invokevirtual 194, 3) := dk_182 0 194 (dk_at dksX3_sheet_1 2 rfl rfl)
theorem dX3_sheet_29 : decode cX3_sheet 29 = .ok (.ireturn, 1) := dk_172 (dk_at dksX3_sheet_1 5 rfl rfl)
theorem dX3_sheet_30 : decode cX3_sheet 30 = .ok (.aload_n 0, 1) := dk_42 (dk_at dksX3_sheet_1 6 rfl rfl)
theorem dX3_sheet_31 : decode cX3_sheet 31 = .ok (.iconst 0, 1) := dk_3 (dk_at dksX3_sheet_1 7 rfl rfl)
theorem dX3_sheet_32 : decode cX3_sheet 32 = .ok (.putfield 90, 3) := dk_181 0 90 (dk_at dksX3_sheet_1 8 rfl rfl)
theorem dX3_sheet_35 : decode cX3_sheet 35 = .ok (.iload_n 1, 1) := dk_27 (dk_at dksX3_sheet_1 11 rfl rfl)
theorem dX3_sheet_36 : decode cX3_sheet 36 = .ok (.iconst 1, 1) := dk_4 (dk_at dksX3_sheet_1 12 rfl rfl)
theorem dX3_sheet_37 : decode cX3_sheet 37 = .ok (.isub, 1) := dk_100 (dk_at dksX3_sheet_1 13 rfl rfl)
theorem dX3_sheet_38 : decode cX3_sheet 38 = .ok (.aload_n 0, 1) := dk_42 (dk_at dksX3_sheet_1 14 rfl rfl)
theorem dX3_sheet_39 : decode cX3_sheet 39 = .ok (.getfield 44, 3) := dk_180 0 44 (dk_at dksX3_sheet_1 15 rfl rfl)
theorem dX3_sheet_42 : decode cX3_sheet 42 = .ok (.irem, 1) := dk_112 (dk_at dksX3_sheet_1 18 rfl rfl)
theorem dX3_sheet_43 : decode cX3_sheet 43 = .ok (.iconst 1, 1) := dk_4 (dk_at dksX3_sheet_1 19 rfl rfl)
theorem dX3_sheet_44 : decode cX3_sheet 44 = .ok (.iadd, 1) := dk_96 (dk_at dksX3_sheet_1 20 rfl rfl)
theorem dX3_sheet_45 : decode cX3_sheet 45 = .ok (.istore_n 3, 1) := dk_62 (dk_at dksX3_sheet_1 21 rfl rfl)
theorem dX3_sheet_46 : decode cX3_sheet 46 = .ok (.aload_n 0, 1) := dk_42 (dk_at dksX3_sheet_1 22 rfl rfl)
theorem dX3_sheet_47 : decode cX3_sheet 47 = .ok (.iload_n 1, 1) := dk_27 (dk_at dksX3_sheet_1 23 rfl rfl)
theorem dX3_sheet_48 : decode cX3_sheet 48 = .ok (.invokevirtual 230, 3) := dk_182 0 230 (dk_at dksX3_sheet_2 0 rfl rfl)
theorem dX3_sheet_51 : decode cX3_sheet 51 = .ok (.istore 4, 2) := dk_54 4 (dk_at dksX3_sheet_2 3 rfl rfl)
theorem dX3_sheet_53 : decode cX3_sheet 53 = .ok (.iload_n 2, 1) := dk_28 (dk_at dksX3_sheet_2 5 rfl rfl)
theorem dX3_sheet_54 : decode cX3_sheet 54 = .ok (.tableswitch 69 0 2 #[26, 32, 38], 26) := by decide +kernel
theorem dX3_sheet_80 : decode cX3_sheet 80 = .ok (.aload_n 0, 1) := dk_42 (dk_at dksX3_sheet_4 0 rfl rfl)
theorem dX3_sheet_81 : decode cX3_sheet 81 = .ok (.iload_n 1, 1) := dk_27 (dk_at dksX3_sheet_4 1 rfl rfl)
theorem dX3_sheet_82 : decode cX3_sheet 82 = .ok (.invokevirtual 235, 3) := dk_182 0 235 (dk_at dksX3_sheet_4 2 rfl rfl)
theorem dX3_sheet_85 : decode cX3_sheet 85 = .ok (.ireturn, 1) := dk_172 (dk_at dksX3_sheet_4 5 rfl rfl)
theorem dX3_sheet_86 : decode cX3_sheet 86 = .ok (.aload_n 0, 1) := dk_42 (dk_at dksX3_sheet_4 6 rfl rfl)
theorem dX3_sheet_87 : decode cX3_sheet 87 = .ok (.iload_n 1, 1) := dk_27 (dk_at dksX3_sheet_4 7 rfl rfl)
theorem dX3_sheet_88 : decode cX3_sheet 88 = .ok (.invokevirtual 238, 3) := dk_182 0 238 (dk_at dksX3_sheet_4 8 rfl rfl)
theorem dX3_sheet_91 : decode cX3_sheet 91 = .ok (.ireturn, 1) := dk_172 (dk_at dksX3_sheet_4 11 rfl rfl)
theorem dX3_sheet_92 : decode cX3_sheet 92 = .ok (.iload_n 3, 1) := dk_29 (dk_at dksX3_sheet_4 12 rfl rfl)
theorem dX3_sheet_93 : decode cX3_sheet 93 = .ok (.iconst 2, 1) := dk_5 (dk_at dksX3_sheet_4 13 rfl rfl)
theorem dX3_sheet_94 : decode cX3_sheet 94 = .ok (.iload 4, 2) := dk_21 4 (dk_at dksX3_sheet_4 14 rfl rfl)
theorem dX3_sheet_96 : decode cX3_sheet 96 = .ok (.imul, 1) := dk_104 (dk_at dksX3_sheet_4 16 rfl rfl)
theorem dX3_sheet_97 : decode cX3_sheet 97 = .ok (.iconst 1, 1) := dk_4 (dk_at dksX3_sheet_4 17 rfl rfl)
theorem dX3_sheet_98 : decode cX3_sheet 98 = .ok (.iadd, 1) := dk_96 (dk_at dksX3_sheet_4 18 rfl rfl)
theorem dX3_sheet_99 : decode cX3_sheet 99 = .ok (.if_icmp .eq 18, 3) := dk_159 0 18 (dk_at dksX3_sheet_4 19 rfl rfl)
theorem dX3_sheet_102 : decode cX3_sheet 102 = .ok (.iload_n 3, 1) := dk_29 (dk_at dksX3_sheet_4 22 rfl rfl)
theorem dX3_sheet_103 : decode cX3_sheet 103 = .ok (.aload_n 0, 1) := dk_42 (dk_at dksX3_sheet_4 23 rfl rfl)
theorem dX3_sheet_104 : decode cX3_sheet 104 = .ok (.getfield 44, 3) := dk_180 0 44 (dk_at dksX3_sheet_5 0 rfl rfl)
theorem dX3_sheet_107 : decode cX3_sheet 107 = .ok (.iconst 2, 1) := dk_5 (dk_at dksX3_sheet_5 3 rfl rfl)
theorem dX3_sheet_108 : decode cX3_sheet 108 = .ok (.iload 4, 2) := dk_21 4 (dk_at dksX3_sheet_5 4 rfl rfl)
theorem dX3_sheet_110 : decode cX3_sheet 110 = .ok (.imul, 1) := dk_104 (dk_at dksX3_sheet_5 6 rfl rfl)
theorem dX3_sheet_111 : decode cX3_sheet 111 = .ok (.isub, 1) := dk_100 (dk_at dksX3_sheet_5 7 rfl rfl)
theorem dX3_sheet_112 : decode cX3_sheet 112 = .ok (.iconst 1, 1) := dk_4 (dk_at dksX3_sheet_5 8 rfl rfl)
theorem dX3_sheet_113 : decode cX3_sheet 113 = .ok (.isub, 1) := dk_100 (dk_at dksX3_sheet_5 9 rfl rfl)
theorem dX3_sheet_114 : decode cX3_sheet 114 = .ok (.if_icmp .ne 7, 3) := dk_160 0 7 (dk_at dksX3_sheet_5 10 rfl rfl)
theorem dX3_sheet_117 : decode cX3_sheet 117 = .ok (.iconst 1, 1) := dk_4 (dk_at dksX3_sheet_5 13 rfl rfl)
theorem dX3_sheet_118 : decode cX3_sheet 118 = .ok (.goto 4, 3) := dk_167 0 4 (dk_at dksX3_sheet_5 14 rfl rfl)
theorem dX3_sheet_121 : decode cX3_sheet 121 = .ok (.iconst 0, 1) := dk_3 (dk_at dksX3_sheet_5 17 rfl rfl)
theorem dX3_sheet_122 : decode cX3_sheet 122 = .ok (.ireturn, 1) := dk_172 (dk_at dksX3_sheet_5 18 rfl rfl)
theorem dX3_sheet_123 : decode cX3_sheet 123 = .ok (.iload 4, 2) := dk_21 4 (dk_at dksX3_sheet_5 19 rfl rfl)
theorem dX3_sheet_125 : decode cX3_sheet 125 = .ok (.aload_n 0, 1) := dk_42 (dk_at dksX3_sheet_5 21 rfl rfl)
theorem dX3_sheet_126 : decode cX3_sheet 126 = .ok (.getfield 47, 3) := dk_180 0 47 (dk_at dksX3_sheet_6 0 rfl rfl)
theorem dX3_sheet_129 : decode cX3_sheet 129 = .ok (.imul, 1) := dk_104 (dk_at dksX3_sheet_6 3 rfl rfl)
theorem dX3_sheet_130 : decode cX3_sheet 130 = .ok (.ireturn, 1) := dk_172 (dk_at dksX3_sheet_6 4 rfl rfl)
abbrev cX3_within : ByteArray := prog_7_method_45_code
def yX3_within : MethodName := ⟨RX3, "within", "(I)I"⟩
def dkwX3_within_1 : List UInt8 := [5, 108, 167, 0, 11, 42, 180, 0, 44, 28, 100, 5, 108, 172]
abbrev dktX3_within_1 : List UInt8 := dkwX3_within_1 ++ []
def dkwX3_within_0 : List UInt8 := [27, 4, 100, 42, 180, 0, 44, 112, 4, 96, 61, 28, 42, 180, 0, 44, 5, 108, 163, 0, 11, 28, 4, 100]
abbrev dktX3_within_0 : List UInt8 := dkwX3_within_0 ++ dktX3_within_1
theorem dksX3_within_0 : cX3_within.data.toList.drop 0 = dktX3_within_0 := by decide +kernel
theorem dksX3_within_1 : cX3_within.data.toList.drop 24 = dktX3_within_1 := dk_seg dksX3_within_0 24 rfl rfl
theorem dX3_within_0 : decode cX3_within 0 = .ok (.iload_n 1, 1) := dk_27 (dk_at dksX3_within_0 0 rfl rfl)
theorem dX3_within_1 : decode cX3_within 1 = .ok (.iconst 1, 1) := dk_4 (dk_at dksX3_within_0 1 rfl rfl)
theorem dX3_within_2 : decode cX3_within 2 = .ok (.isub, 1) := dk_100 (dk_at dksX3_within_0 2 rfl rfl)
theorem dX3_within_3 : decode cX3_within 3 = .ok (.aload_n 0, 1) := dk_42 (dk_at dksX3_within_0 3 rfl rfl)
theorem dX3_within_4 : decode cX3_within 4 = .ok (.getfield 44, 3) := dk_180 0 44 (dk_at dksX3_within_0 4 rfl rfl)
theorem dX3_within_7 : decode cX3_within 7 = .ok (.irem, 1) := dk_112 (dk_at dksX3_within_0 7 rfl rfl)
theorem dX3_within_8 : decode cX3_within 8 = .ok (.iconst 1, 1) := dk_4 (dk_at dksX3_within_0 8 rfl rfl)
theorem dX3_within_9 : decode cX3_within 9 = .ok (.iadd, 1) := dk_96 (dk_at dksX3_within_0 9 rfl rfl)
theorem dX3_within_10 : decode cX3_within 10 = .ok (.istore_n 2, 1) := dk_61 (dk_at dksX3_within_0 10 rfl rfl)
theorem dX3_within_11 : decode cX3_within 11 = .ok (.iload_n 2, 1) := dk_28 (dk_at dksX3_within_0 11 rfl rfl)
theorem dX3_within_12 : decode cX3_within 12 = .ok (.aload_n 0, 1) := dk_42 (dk_at dksX3_within_0 12 rfl rfl)
theorem dX3_within_13 : decode cX3_within 13 = .ok (.getfield 44, 3) := dk_180 0 44 (dk_at dksX3_within_0 13 rfl rfl)
theorem dX3_within_16 : decode cX3_within 16 = .ok (.iconst 2, 1) := dk_5 (dk_at dksX3_within_0 16 rfl rfl)
theorem dX3_within_17 : decode cX3_within 17 = .ok (.idiv, 1) := dk_108 (dk_at dksX3_within_0 17 rfl rfl)
theorem dX3_within_18 : decode cX3_within 18 = .ok (.if_icmp .gt 11, 3) := dk_163 0 11 (dk_at dksX3_within_0 18 rfl rfl)
theorem dX3_within_21 : decode cX3_within 21 = .ok (.iload_n 2, 1) := dk_28 (dk_at dksX3_within_0 21 rfl rfl)
theorem dX3_within_22 : decode cX3_within 22 = .ok (.iconst 1, 1) := dk_4 (dk_at dksX3_within_0 22 rfl rfl)
theorem dX3_within_23 : decode cX3_within 23 = .ok (.isub, 1) := dk_100 (dk_at dksX3_within_0 23 rfl rfl)
theorem dX3_within_24 : decode cX3_within 24 = .ok (.iconst 2, 1) := dk_5 (dk_at dksX3_within_1 0 rfl rfl)
theorem dX3_within_25 : decode cX3_within 25 = .ok (.idiv, 1) := dk_108 (dk_at dksX3_within_1 1 rfl rfl)
theorem dX3_within_26 : decode cX3_within 26 = .ok (.goto 11, 3) := dk_167 0 11 (dk_at dksX3_within_1 2 rfl rfl)
theorem dX3_within_29 : decode cX3_within 29 = .ok (.aload_n 0, 1) := dk_42 (dk_at dksX3_within_1 5 rfl rfl)
theorem dX3_within_30 : decode cX3_within 30 = .ok (.getfield 44, 3) := dk_180 0 44 (dk_at dksX3_within_1 6 rfl rfl)
theorem dX3_within_33 : decode cX3_within 33 = .ok (.iload_n 2, 1) := dk_28 (dk_at dksX3_within_1 9 rfl rfl)
theorem dX3_within_34 : decode cX3_within 34 = .ok (.isub, 1) := dk_100 (dk_at dksX3_within_1 10 rfl rfl)
theorem dX3_within_35 : decode cX3_within 35 = .ok (.iconst 2, 1) := dk_5 (dk_at dksX3_within_1 11 rfl rfl)
theorem dX3_within_36 : decode cX3_within 36 = .ok (.idiv, 1) := dk_108 (dk_at dksX3_within_1 12 rfl rfl)
theorem dX3_within_37 : decode cX3_within 37 = .ok (.ireturn, 1) := dk_172 (dk_at dksX3_within_1 13 rfl rfl)
abbrev cX3_sheetOf : ByteArray := prog_7_method_46_code
def yX3_sheetOf : MethodName := ⟨RX3, "sheetOf", "(I)I"⟩
def dkwX3_sheetOf_0 : List UInt8 := [27, 4, 100, 42, 180, 0, 44, 108, 42, 180, 0, 44, 7, 108, 104, 42, 27, 182, 0, 230, 96, 172]
abbrev dktX3_sheetOf_0 : List UInt8 := dkwX3_sheetOf_0 ++ []
theorem dksX3_sheetOf_0 : cX3_sheetOf.data.toList.drop 0 = dktX3_sheetOf_0 := by decide +kernel
theorem dX3_sheetOf_0 : decode cX3_sheetOf 0 = .ok (.iload_n 1, 1) := dk_27 (dk_at dksX3_sheetOf_0 0 rfl rfl)
theorem dX3_sheetOf_1 : decode cX3_sheetOf 1 = .ok (.iconst 1, 1) := dk_4 (dk_at dksX3_sheetOf_0 1 rfl rfl)
theorem dX3_sheetOf_2 : decode cX3_sheetOf 2 = .ok (.isub, 1) := dk_100 (dk_at dksX3_sheetOf_0 2 rfl rfl)
theorem dX3_sheetOf_3 : decode cX3_sheetOf 3 = .ok (.aload_n 0, 1) := dk_42 (dk_at dksX3_sheetOf_0 3 rfl rfl)
theorem dX3_sheetOf_4 : decode cX3_sheetOf 4 = .ok (.getfield 44, 3) := dk_180 0 44 (dk_at dksX3_sheetOf_0 4 rfl rfl)
theorem dX3_sheetOf_7 : decode cX3_sheetOf 7 = .ok (.idiv, 1) := dk_108 (dk_at dksX3_sheetOf_0 7 rfl rfl)
theorem dX3_sheetOf_8 : decode cX3_sheetOf 8 = .ok (.aload_n 0, 1) := dk_42 (dk_at dksX3_sheetOf_0 8 rfl rfl)
theorem dX3_sheetOf_9 : decode cX3_sheetOf 9 = .ok (.getfield 44, 3) := dk_180 0 44 (dk_at dksX3_sheetOf_0 9 rfl rfl)
theorem dX3_sheetOf_12 : decode cX3_sheetOf 12 = .ok (.iconst 4, 1) := dk_7 (dk_at dksX3_sheetOf_0 12 rfl rfl)
theorem dX3_sheetOf_13 : decode cX3_sheetOf 13 = .ok (.idiv, 1) := dk_108 (dk_at dksX3_sheetOf_0 13 rfl rfl)
theorem dX3_sheetOf_14 : decode cX3_sheetOf 14 = .ok (.imul, 1) := dk_104 (dk_at dksX3_sheetOf_0 14 rfl rfl)
theorem dX3_sheetOf_15 : decode cX3_sheetOf 15 = .ok (.aload_n 0, 1) := dk_42 (dk_at dksX3_sheetOf_0 15 rfl rfl)
theorem dX3_sheetOf_16 : decode cX3_sheetOf 16 = .ok (.iload_n 1, 1) := dk_27 (dk_at dksX3_sheetOf_0 16 rfl rfl)
theorem dX3_sheetOf_17 : decode cX3_sheetOf 17 = .ok (.invokevirtual 230, 3) := dk_182 0 230 (dk_at dksX3_sheetOf_0 17 rfl rfl)
theorem dX3_sheetOf_20 : decode cX3_sheetOf 20 = .ok (.iadd, 1) := dk_96 (dk_at dksX3_sheetOf_0 20 rfl rfl)
theorem dX3_sheetOf_21 : decode cX3_sheetOf 21 = .ok (.ireturn, 1) := dk_172 (dk_at dksX3_sheetOf_0 21 rfl rfl)
abbrev cX3_sideOf : ByteArray := prog_7_method_47_code
def yX3_sideOf : MethodName := ⟨RX3, "sideOf", "(I)I"⟩
def dkwX3_sideOf_1 : List UInt8 := [104, 100, 159, 0, 12, 28, 5, 29, 104, 4, 96, 160, 0, 7, 3, 167, 0, 4, 4, 172]
abbrev dktX3_sideOf_1 : List UInt8 := dkwX3_sideOf_1 ++ []
def dkwX3_sideOf_0 : List UInt8 := [27, 4, 100, 42, 180, 0, 44, 112, 4, 96, 61, 42, 27, 182, 0, 230, 62, 28, 42, 180, 0, 44, 5, 29]
abbrev dktX3_sideOf_0 : List UInt8 := dkwX3_sideOf_0 ++ dktX3_sideOf_1
theorem dksX3_sideOf_0 : cX3_sideOf.data.toList.drop 0 = dktX3_sideOf_0 := by decide +kernel
theorem dksX3_sideOf_1 : cX3_sideOf.data.toList.drop 24 = dktX3_sideOf_1 := dk_seg dksX3_sideOf_0 24 rfl rfl
theorem dX3_sideOf_0 : decode cX3_sideOf 0 = .ok (.iload_n 1, 1) := dk_27 (dk_at dksX3_sideOf_0 0 rfl rfl)
theorem dX3_sideOf_1 : decode cX3_sideOf 1 = .ok (.iconst 1, 1) := dk_4 (dk_at dksX3_sideOf_0 1 rfl rfl)
theorem dX3_sideOf_2 : decode cX3_sideOf 2 = .ok (.isub, 1) := dk_100 (dk_at dksX3_sideOf_0 2 rfl rfl)
theorem dX3_sideOf_3 : decode cX3_sideOf 3 = .ok (.aload_n 0, 1) := dk_42 (dk_at dksX3_sideOf_0 3 rfl rfl)
theorem dX3_sideOf_4 : decode cX3_sideOf 4 = .ok (.getfield 44, 3) := dk_180 0 44 (dk_at dksX3_sideOf_0 4 rfl rfl)
theorem dX3_sideOf_7 : decode cX3_sideOf 7 = .ok (.irem, 1) := dk_112 (dk_at dksX3_sideOf_0 7 rfl rfl)
theorem dX3_sideOf_8 : decode cX3_sideOf 8 = .ok (.iconst 1, 1) := dk_4 (dk_at dksX3_sideOf_0 8 rfl rfl)
theorem dX3_sideOf_9 : decode cX3_sideOf 9 = .ok (.iadd, 1) := dk_96 (dk_at dksX3_sideOf_0 9 rfl rfl)
theorem dX3_sideOf_10 : decode cX3_sideOf 10 = .ok (.istore_n 2, 1) := dk_61 (dk_at dksX3_sideOf_0 10 rfl rfl)
theorem dX3_sideOf_11 : decode cX3_sideOf 11 = .ok (.aload_n 0, 1) := dk_42 (dk_at dksX3_sideOf_0 11 rfl rfl)
theorem dX3_sideOf_12 : decode cX3_sideOf 12 = .ok (.iload_n 1, 1) := dk_27 (dk_at dksX3_sideOf_0 12 rfl rfl)
theorem dX3_sideOf_13 : decode cX3_sideOf 13 = .ok (.invokevirtual 230, 3) := dk_182 0 230 (dk_at dksX3_sideOf_0 13 rfl rfl)
theorem dX3_sideOf_16 : decode cX3_sideOf 16 = .ok (.istore_n 3, 1) := dk_62 (dk_at dksX3_sideOf_0 16 rfl rfl)
theorem dX3_sideOf_17 : decode cX3_sideOf 17 = .ok (.iload_n 2, 1) := dk_28 (dk_at dksX3_sideOf_0 17 rfl rfl)
theorem dX3_sideOf_18 : decode cX3_sideOf 18 = .ok (.aload_n 0, 1) := dk_42 (dk_at dksX3_sideOf_0 18 rfl rfl)
theorem dX3_sideOf_19 : decode cX3_sideOf 19 = .ok (.getfield 44, 3) := dk_180 0 44 (dk_at dksX3_sideOf_0 19 rfl rfl)
theorem dX3_sideOf_22 : decode cX3_sideOf 22 = .ok (.iconst 2, 1) := dk_5 (dk_at dksX3_sideOf_0 22 rfl rfl)
theorem dX3_sideOf_23 : decode cX3_sideOf 23 = .ok (.iload_n 3, 1) := dk_29 (dk_at dksX3_sideOf_0 23 rfl rfl)
theorem dX3_sideOf_24 : decode cX3_sideOf 24 = .ok (.imul, 1) := dk_104 (dk_at dksX3_sideOf_1 0 rfl rfl)
theorem dX3_sideOf_25 : decode cX3_sideOf 25 = .ok (.isub, 1) := dk_100 (dk_at dksX3_sideOf_1 1 rfl rfl)
theorem dX3_sideOf_26 : decode cX3_sideOf 26 = .ok (.if_icmp .eq 12, 3) := dk_159 0 12 (dk_at dksX3_sideOf_1 2 rfl rfl)
theorem dX3_sideOf_29 : decode cX3_sideOf 29 = .ok (.iload_n 2, 1) := dk_28 (dk_at dksX3_sideOf_1 5 rfl rfl)
theorem dX3_sideOf_30 : decode cX3_sideOf 30 = .ok (.iconst 2, 1) := dk_5 (dk_at dksX3_sideOf_1 6 rfl rfl)
theorem dX3_sideOf_31 : decode cX3_sideOf 31 = .ok (.iload_n 3, 1) := dk_29 (dk_at dksX3_sideOf_1 7 rfl rfl)
theorem dX3_sideOf_32 : decode cX3_sideOf 32 = .ok (.imul, 1) := dk_104 (dk_at dksX3_sideOf_1 8 rfl rfl)
theorem dX3_sideOf_33 : decode cX3_sideOf 33 = .ok (.iconst 1, 1) := dk_4 (dk_at dksX3_sideOf_1 9 rfl rfl)
theorem dX3_sideOf_34 : decode cX3_sideOf 34 = .ok (.iadd, 1) := dk_96 (dk_at dksX3_sideOf_1 10 rfl rfl)
theorem dX3_sideOf_35 : decode cX3_sideOf 35 = .ok (.if_icmp .ne 7, 3) := dk_160 0 7 (dk_at dksX3_sideOf_1 11 rfl rfl)
theorem dX3_sideOf_38 : decode cX3_sideOf 38 = .ok (.iconst 0, 1) := dk_3 (dk_at dksX3_sideOf_1 14 rfl rfl)
theorem dX3_sideOf_39 : decode cX3_sideOf 39 = .ok (.goto 4, 3) := dk_167 0 4 (dk_at dksX3_sideOf_1 15 rfl rfl)
theorem dX3_sideOf_42 : decode cX3_sideOf 42 = .ok (.iconst 1, 1) := dk_4 (dk_at dksX3_sideOf_1 18 rfl rfl)
theorem dX3_sideOf_43 : decode cX3_sideOf 43 = .ok (.ireturn, 1) := dk_172 (dk_at dksX3_sideOf_1 19 rfl rfl)
abbrev cX3_plate : ByteArray := prog_7_method_49_code
def yX3_plate : MethodName := ⟨RX3, "plate", "(IIII)I"⟩
def dkwX3_plate_7 : List UInt8 := [132, 6, 1, 167, 255, 158, 21, 5, 172]
abbrev dktX3_plate_7 : List UInt8 := dkwX3_plate_7 ++ []
def dkwX3_plate_6 : List UInt8 := [28, 160, 0, 17, 42, 21, 7, 182, 0, 238, 29, 160, 0, 7, 4, 167, 0, 4, 3, 96, 54, 5]
abbrev dktX3_plate_6 : List UInt8 := dkwX3_plate_6 ++ dktX3_plate_7
def dkwX3_plate_5 : List UInt8 := [160, 0, 46, 42, 42, 180, 0, 50, 21, 6, 46, 182, 0, 218, 54, 7, 21, 5, 42, 21, 7, 182, 0, 235]
abbrev dktX3_plate_5 : List UInt8 := dkwX3_plate_5 ++ dktX3_plate_6
def dkwX3_plate_4 : List UInt8 := [42, 21, 6, 182, 0, 118, 154, 0, 62, 42, 42, 180, 0, 16, 21, 6, 46, 182, 0, 212, 21, 4]
abbrev dktX3_plate_4 : List UInt8 := dkwX3_plate_4 ++ dktX3_plate_5
def dkwX3_plate_3 : List UInt8 := [180, 0, 100, 162, 0, 95, 42, 180, 0, 167, 153, 0, 88, 42, 180, 0, 50, 21, 6, 46, 2, 159, 0, 71]
abbrev dktX3_plate_3 : List UInt8 := dkwX3_plate_3 ++ dktX3_plate_4
def dkwX3_plate_2 : List UInt8 := [4, 182, 0, 194, 172, 42, 3, 181, 0, 90, 42, 27, 182, 0, 215, 3, 54, 5, 3, 54, 6, 21, 6, 42]
abbrev dktX3_plate_2 : List UInt8 := dkwX3_plate_2 ++ dktX3_plate_3
def dkwX3_plate_1 : List UInt8 := [29, 133, 9, 10, 184, 0, 184, 153, 0, 16, 21, 4, 133, 9, 20, 0, 190, 184, 0, 184, 154, 0, 9, 42]
abbrev dktX3_plate_1 : List UInt8 := dkwX3_plate_1 ++ dktX3_plate_2
def dkwX3_plate_0 : List UInt8 := [27, 133, 9, 20, 0, 190, 184, 0, 184, 153, 0, 38, 28, 133, 9, 20, 0, 241, 184, 0, 184, 153, 0, 26]
abbrev dktX3_plate_0 : List UInt8 := dkwX3_plate_0 ++ dktX3_plate_1
theorem dksX3_plate_0 : cX3_plate.data.toList.drop 0 = dktX3_plate_0 := by decide +kernel
theorem dksX3_plate_1 : cX3_plate.data.toList.drop 24 = dktX3_plate_1 := dk_seg dksX3_plate_0 24 rfl rfl
theorem dksX3_plate_2 : cX3_plate.data.toList.drop 48 = dktX3_plate_2 := dk_seg dksX3_plate_1 24 rfl rfl
theorem dksX3_plate_3 : cX3_plate.data.toList.drop 72 = dktX3_plate_3 := dk_seg dksX3_plate_2 24 rfl rfl
theorem dksX3_plate_4 : cX3_plate.data.toList.drop 96 = dktX3_plate_4 := dk_seg dksX3_plate_3 24 rfl rfl
theorem dksX3_plate_5 : cX3_plate.data.toList.drop 118 = dktX3_plate_5 := dk_seg dksX3_plate_4 22 rfl rfl
theorem dksX3_plate_6 : cX3_plate.data.toList.drop 142 = dktX3_plate_6 := dk_seg dksX3_plate_5 24 rfl rfl
theorem dksX3_plate_7 : cX3_plate.data.toList.drop 164 = dktX3_plate_7 := dk_seg dksX3_plate_6 22 rfl rfl
theorem dX3_plate_0 : decode cX3_plate 0 = .ok (.iload_n 1, 1) := dk_27 (dk_at dksX3_plate_0 0 rfl rfl)
theorem dX3_plate_1 : decode cX3_plate 1 = .ok (.i2l, 1) := dk_133 (dk_at dksX3_plate_0 1 rfl rfl)
theorem dX3_plate_2 : decode cX3_plate 2 = .ok (.lconst 0, 1) := dk_9 (dk_at dksX3_plate_0 2 rfl rfl)
theorem dX3_plate_3 : decode cX3_plate 3 = .ok (.ldc2_w 190, 3) := dk_20 0 190 (dk_at dksX3_plate_0 3 rfl rfl)
theorem dX3_plate_6 : decode cX3_plate 6 = .ok (.invokestatic 184, 3) := dk_184 0 184 (dk_at dksX3_plate_0 6 rfl rfl)
theorem dX3_plate_9 : decode cX3_plate 9 = .ok (.ifCond .eq 38, 3) := dk_153 0 38 (dk_at dksX3_plate_0 9 rfl rfl)
theorem dX3_plate_12 : decode cX3_plate 12 = .ok (.iload_n 2, 1) := dk_28 (dk_at dksX3_plate_0 12 rfl rfl)
theorem dX3_plate_13 : decode cX3_plate 13 = .ok (.i2l, 1) := dk_133 (dk_at dksX3_plate_0 13 rfl rfl)
theorem dX3_plate_14 : decode cX3_plate 14 = .ok (.lconst 0, 1) := dk_9 (dk_at dksX3_plate_0 14 rfl rfl)
theorem dX3_plate_15 : decode cX3_plate 15 = .ok (.ldc2_w 241, 3) := dk_20 0 241 (dk_at dksX3_plate_0 15 rfl rfl)
theorem dX3_plate_18 : decode cX3_plate 18 = .ok (.invokestatic 184, 3) := dk_184 0 184 (dk_at dksX3_plate_0 18 rfl rfl)
theorem dX3_plate_21 : decode cX3_plate 21 = .ok (.ifCond .eq 26, 3) := dk_153 0 26 (dk_at dksX3_plate_0 21 rfl rfl)
theorem dX3_plate_24 : decode cX3_plate 24 = .ok (.iload_n 3, 1) := dk_29 (dk_at dksX3_plate_1 0 rfl rfl)
theorem dX3_plate_25 : decode cX3_plate 25 = .ok (.i2l, 1) := dk_133 (dk_at dksX3_plate_1 1 rfl rfl)
theorem dX3_plate_26 : decode cX3_plate 26 = .ok (.lconst 0, 1) := dk_9 (dk_at dksX3_plate_1 2 rfl rfl)
theorem dX3_plate_27 : decode cX3_plate 27 = .ok (.lconst 1, 1) := dk_10 (dk_at dksX3_plate_1 3 rfl rfl)
theorem dX3_plate_28 : decode cX3_plate 28 = .ok (.invokestatic 184, 3) := dk_184 0 184 (dk_at dksX3_plate_1 4 rfl rfl)
theorem dX3_plate_31 : decode cX3_plate 31 = .ok (.ifCond .eq 16, 3) := dk_153 0 16 (dk_at dksX3_plate_1 7 rfl rfl)
theorem dX3_plate_34 : decode cX3_plate 34 = .ok (.iload 4, 2) := dk_21 4 (dk_at dksX3_plate_1 10 rfl rfl)
theorem dX3_plate_36 : decode cX3_plate 36 = .ok (.i2l, 1) := dk_133 (dk_at dksX3_plate_1 12 rfl rfl)
theorem dX3_plate_37 : decode cX3_plate 37 = .ok (.lconst 0, 1) := dk_9 (dk_at dksX3_plate_1 13 rfl rfl)
theorem dX3_plate_38 : decode cX3_plate 38 = .ok (.ldc2_w 190, 3) := dk_20 0 190 (dk_at dksX3_plate_1 14 rfl rfl)
theorem dX3_plate_41 : decode cX3_plate 41 = .ok (.invokestatic 184, 3) := dk_184 0 184 (dk_at dksX3_plate_1 17 rfl rfl)
theorem dX3_plate_44 : decode cX3_plate 44 = .ok (.ifCond .ne 9, 3) := dk_154 0 9 (dk_at dksX3_plate_1 20 rfl rfl)
theorem dX3_plate_47 : decode cX3_plate 47 = .ok (.aload_n 0, 1) := dk_42 (dk_at dksX3_plate_1 23 rfl rfl)
theorem dX3_plate_48 : decode cX3_plate 48 = .ok (.iconst 1, 1) := dk_4 (dk_at dksX3_plate_2 0 rfl rfl)
theorem dX3_plate_49 : decode cX3_plate 49 = .ok (.invokevirtual 194, 3) := dk_182 0 194 (dk_at dksX3_plate_2 1 rfl rfl)
theorem dX3_plate_52 : decode cX3_plate 52 = .ok (.ireturn, 1) := dk_172 (dk_at dksX3_plate_2 4 rfl rfl)
theorem dX3_plate_53 : decode cX3_plate 53 = .ok (.aload_n 0, 1) := dk_42 (dk_at dksX3_plate_2 5 rfl rfl)
theorem dX3_plate_54 : decode cX3_plate 54 = .ok (.iconst 0, 1) := dk_3 (dk_at dksX3_plate_2 6 rfl rfl)
theorem dX3_plate_55 : decode cX3_plate 55 = .ok (.putfield 90, 3) := dk_181 0 90 (dk_at dksX3_plate_2 7 rfl rfl)
theorem dX3_plate_58 : decode cX3_plate 58 = .ok (.aload_n 0, 1) := dk_42 (dk_at dksX3_plate_2 10 rfl rfl)
theorem dX3_plate_59 : decode cX3_plate 59 = .ok (.iload_n 1, 1) := dk_27 (dk_at dksX3_plate_2 11 rfl rfl)
theorem dX3_plate_60 : decode cX3_plate 60 = .ok (.invokevirtual 215, 3) := dk_182 0 215 (dk_at dksX3_plate_2 12 rfl rfl)
theorem dX3_plate_63 : decode cX3_plate 63 = .ok (.iconst 0, 1) := dk_3 (dk_at dksX3_plate_2 15 rfl rfl)
theorem dX3_plate_64 : decode cX3_plate 64 = .ok (.istore 5, 2) := dk_54 5 (dk_at dksX3_plate_2 16 rfl rfl)
theorem dX3_plate_66 : decode cX3_plate 66 = .ok (.iconst 0, 1) := dk_3 (dk_at dksX3_plate_2 18 rfl rfl)
theorem dX3_plate_67 : decode cX3_plate 67 = .ok (.istore 6, 2) := dk_54 6 (dk_at dksX3_plate_2 19 rfl rfl)
theorem dX3_plate_69 : decode cX3_plate 69 = .ok (.iload 6, 2) := dk_21 6 (dk_at dksX3_plate_2 21 rfl rfl)
theorem dX3_plate_71 : decode cX3_plate 71 = .ok (.aload_n 0, 1) := dk_42 (dk_at dksX3_plate_2 23 rfl rfl)
theorem dX3_plate_72 : decode cX3_plate 72 = .ok (.getfield 100, 3) := dk_180 0 100 (dk_at dksX3_plate_3 0 rfl rfl)
theorem dX3_plate_75 : decode cX3_plate 75 = .ok (.if_icmp .ge 95, 3) := dk_162 0 95 (dk_at dksX3_plate_3 3 rfl rfl)
theorem dX3_plate_78 : decode cX3_plate 78 = .ok (.aload_n 0, 1) := dk_42 (dk_at dksX3_plate_3 6 rfl rfl)
theorem dX3_plate_79 : decode cX3_plate 79 = .ok (.getfield 167, 3) := dk_180 0 167 (dk_at dksX3_plate_3 7 rfl rfl)
theorem dX3_plate_82 : decode cX3_plate 82 = .ok (.ifCond .eq 88, 3) := dk_153 0 88 (dk_at dksX3_plate_3 10 rfl rfl)
theorem dX3_plate_85 : decode cX3_plate 85 = .ok (.aload_n 0, 1) := dk_42 (dk_at dksX3_plate_3 13 rfl rfl)
theorem dX3_plate_86 : decode cX3_plate 86 = .ok (.getfield 50, 3) := dk_180 0 50 (dk_at dksX3_plate_3 14 rfl rfl)
theorem dX3_plate_89 : decode cX3_plate 89 = .ok (.iload 6, 2) := dk_21 6 (dk_at dksX3_plate_3 17 rfl rfl)
theorem dX3_plate_91 : decode cX3_plate 91 = .ok (.iaload, 1) := dk_46 (dk_at dksX3_plate_3 19 rfl rfl)
theorem dX3_plate_92 : decode cX3_plate 92 = .ok (.iconst (-1), 1) := dk_2 (dk_at dksX3_plate_3 20 rfl rfl)
theorem dX3_plate_93 : decode cX3_plate 93 = .ok (.if_icmp .eq 71, 3) := dk_159 0 71 (dk_at dksX3_plate_3 21 rfl rfl)
theorem dX3_plate_96 : decode cX3_plate 96 = .ok (.aload_n 0, 1) := dk_42 (dk_at dksX3_plate_4 0 rfl rfl)
theorem dX3_plate_97 : decode cX3_plate 97 = .ok (.iload 6, 2) := dk_21 6 (dk_at dksX3_plate_4 1 rfl rfl)
theorem dX3_plate_99 : decode cX3_plate 99 = .ok (.invokevirtual 118, 3) := dk_182 0 118 (dk_at dksX3_plate_4 3 rfl rfl)
theorem dX3_plate_102 : decode cX3_plate 102 = .ok (.ifCond .ne 62, 3) := dk_154 0 62 (dk_at dksX3_plate_4 6 rfl rfl)
theorem dX3_plate_105 : decode cX3_plate 105 = .ok (.aload_n 0, 1) := dk_42 (dk_at dksX3_plate_4 9 rfl rfl)
theorem dX3_plate_106 : decode cX3_plate 106 = .ok (.aload_n 0, 1) := dk_42 (dk_at dksX3_plate_4 10 rfl rfl)
theorem dX3_plate_107 : decode cX3_plate 107 = .ok (.getfield 16, 3) := dk_180 0 16 (dk_at dksX3_plate_4 11 rfl rfl)
theorem dX3_plate_110 : decode cX3_plate 110 = .ok (.iload 6, 2) := dk_21 6 (dk_at dksX3_plate_4 14 rfl rfl)
theorem dX3_plate_112 : decode cX3_plate 112 = .ok (.iaload, 1) := dk_46 (dk_at dksX3_plate_4 16 rfl rfl)
theorem dX3_plate_113 : decode cX3_plate 113 = .ok (.invokevirtual 212, 3) := dk_182 0 212 (dk_at dksX3_plate_4 17 rfl rfl)
theorem dX3_plate_116 : decode cX3_plate 116 = .ok (.iload 4, 2) := dk_21 4 (dk_at dksX3_plate_4 20 rfl rfl)
theorem dX3_plate_118 : decode cX3_plate 118 = .ok (.if_icmp .ne 46, 3) := dk_160 0 46 (dk_at dksX3_plate_5 0 rfl rfl)
theorem dX3_plate_121 : decode cX3_plate 121 = .ok (.aload_n 0, 1) := dk_42 (dk_at dksX3_plate_5 3 rfl rfl)
theorem dX3_plate_122 : decode cX3_plate 122 = .ok (.aload_n 0, 1) := dk_42 (dk_at dksX3_plate_5 4 rfl rfl)
theorem dX3_plate_123 : decode cX3_plate 123 = .ok (.getfield 50, 3) := dk_180 0 50 (dk_at dksX3_plate_5 5 rfl rfl)
theorem dX3_plate_126 : decode cX3_plate 126 = .ok (.iload 6, 2) := dk_21 6 (dk_at dksX3_plate_5 8 rfl rfl)
theorem dX3_plate_128 : decode cX3_plate 128 = .ok (.iaload, 1) := dk_46 (dk_at dksX3_plate_5 10 rfl rfl)
theorem dX3_plate_129 : decode cX3_plate 129 = .ok (.invokevirtual 218, 3) := dk_182 0 218 (dk_at dksX3_plate_5 11 rfl rfl)
theorem dX3_plate_132 : decode cX3_plate 132 = .ok (.istore 7, 2) := dk_54 7 (dk_at dksX3_plate_5 14 rfl rfl)
theorem dX3_plate_134 : decode cX3_plate 134 = .ok (.iload 5, 2) := dk_21 5 (dk_at dksX3_plate_5 16 rfl rfl)
theorem dX3_plate_136 : decode cX3_plate 136 = .ok (.aload_n 0, 1) := dk_42 (dk_at dksX3_plate_5 18 rfl rfl)
theorem dX3_plate_137 : decode cX3_plate 137 = .ok (.iload 7, 2) := dk_21 7 (dk_at dksX3_plate_5 19 rfl rfl)
theorem dX3_plate_139 : decode cX3_plate 139 = .ok (.invokevirtual 235, 3) := dk_182 0 235 (dk_at dksX3_plate_5 21 rfl rfl)
theorem dX3_plate_142 : decode cX3_plate 142 = .ok (.iload_n 2, 1) := dk_28 (dk_at dksX3_plate_6 0 rfl rfl)
theorem dX3_plate_143 : decode cX3_plate 143 = .ok (.if_icmp .ne 17, 3) := dk_160 0 17 (dk_at dksX3_plate_6 1 rfl rfl)
theorem dX3_plate_146 : decode cX3_plate 146 = .ok (.aload_n 0, 1) := dk_42 (dk_at dksX3_plate_6 4 rfl rfl)
theorem dX3_plate_147 : decode cX3_plate 147 = .ok (.iload 7, 2) := dk_21 7 (dk_at dksX3_plate_6 5 rfl rfl)
theorem dX3_plate_149 : decode cX3_plate 149 = .ok (.invokevirtual 238, 3) := dk_182 0 238 (dk_at dksX3_plate_6 7 rfl rfl)
theorem dX3_plate_152 : decode cX3_plate 152 = .ok (.iload_n 3, 1) := dk_29 (dk_at dksX3_plate_6 10 rfl rfl)
theorem dX3_plate_153 : decode cX3_plate 153 = .ok (.if_icmp .ne 7, 3) := dk_160 0 7 (dk_at dksX3_plate_6 11 rfl rfl)
theorem dX3_plate_156 : decode cX3_plate 156 = .ok (.iconst 1, 1) := dk_4 (dk_at dksX3_plate_6 14 rfl rfl)
theorem dX3_plate_157 : decode cX3_plate 157 = .ok (.goto 4, 3) := dk_167 0 4 (dk_at dksX3_plate_6 15 rfl rfl)
theorem dX3_plate_160 : decode cX3_plate 160 = .ok (.iconst 0, 1) := dk_3 (dk_at dksX3_plate_6 18 rfl rfl)
theorem dX3_plate_161 : decode cX3_plate 161 = .ok (.iadd, 1) := dk_96 (dk_at dksX3_plate_6 19 rfl rfl)
theorem dX3_plate_162 : decode cX3_plate 162 = .ok (.istore 5, 2) := dk_54 5 (dk_at dksX3_plate_6 20 rfl rfl)
theorem dX3_plate_164 : decode cX3_plate 164 = .ok (.iinc 6 1, 3) := dk_132 6 1 (dk_at dksX3_plate_7 0 rfl rfl)
theorem dX3_plate_167 : decode cX3_plate 167 = .ok (.goto (-98), 3) := dk_167 255 158 (dk_at dksX3_plate_7 3 rfl rfl)
theorem dX3_plate_170 : decode cX3_plate 170 = .ok (.iload 5, 2) := dk_21 5 (dk_at dksX3_plate_7 6 rfl rfl)
theorem dX3_plate_172 : decode cX3_plate 172 = .ok (.ireturn, 1) := dk_172 (dk_at dksX3_plate_7 8 rfl rfl)
abbrev cX3_faults : ByteArray := prog_7_method_51_code
def yX3_faults : MethodName := ⟨RX3, "faults", "(II)I"⟩
def dkwX3_faults_11 : List UInt8 := [153, 0, 7, 3, 167, 0, 8, 4, 167, 0, 4, 29, 172]
abbrev dktX3_faults_11 : List UInt8 := dkwX3_faults_11 ++ []
def dkwX3_faults_10 : List UInt8 := [4, 167, 0, 4, 3, 96, 62, 132, 4, 1, 167, 255, 209, 28, 6, 160, 0, 18, 42, 180, 0, 167]
abbrev dktX3_faults_10 : List UInt8 := dkwX3_faults_10 ++ dktX3_faults_11
def dkwX3_faults_9 : List UInt8 := [42, 180, 0, 41, 21, 4, 46, 2, 159, 0, 20, 42, 42, 21, 4, 182, 0, 224, 182, 0, 243, 154, 0, 7]
abbrev dktX3_faults_9 : List UInt8 := dkwX3_faults_9 ++ dktX3_faults_10
def dkwX3_faults_8 : List UInt8 := [96, 62, 132, 4, 1, 167, 255, 206, 3, 54, 4, 21, 4, 16, 10, 162, 0, 46, 28, 7, 160, 0, 41, 29]
abbrev dktX3_faults_8 : List UInt8 := dkwX3_faults_8 ++ dktX3_faults_9
def dkwX3_faults_7 : List UInt8 := [46, 7, 160, 0, 21, 42, 180, 0, 13, 21, 4, 46, 42, 180, 0, 35, 164, 0, 7, 4, 167, 0, 4, 3]
abbrev dktX3_faults_7 : List UInt8 := dkwX3_faults_7 ++ dktX3_faults_8
def dkwX3_faults_6 : List UInt8 := [3, 54, 4, 21, 4, 42, 180, 0, 100, 162, 0, 47, 28, 5, 160, 0, 42, 29, 42, 180, 0, 7, 21, 4]
abbrev dktX3_faults_6 : List UInt8 := dkwX3_faults_6 ++ dktX3_faults_7
def dkwX3_faults_5 : List UInt8 := [3, 182, 0, 152, 42, 180, 0, 35, 164, 0, 7, 4, 167, 0, 4, 3, 96, 62, 132, 4, 1, 167, 255, 217]
abbrev dktX3_faults_5 : List UInt8 := dkwX3_faults_5 ++ dktX3_faults_6
def dkwX3_faults_4 : List UInt8 := [167, 255, 208, 3, 54, 4, 21, 4, 42, 180, 0, 97, 162, 0, 36, 28, 4, 160, 0, 31, 29, 42, 21, 4]
abbrev dktX3_faults_4 : List UInt8 := dkwX3_faults_4 ++ dktX3_faults_5
def dkwX3_faults_3 : List UInt8 := [21, 4, 182, 0, 111, 42, 180, 0, 31, 164, 0, 7, 4, 167, 0, 4, 3, 96, 62, 132, 4, 1]
abbrev dktX3_faults_3 : List UInt8 := dkwX3_faults_3 ++ dktX3_faults_4
def dkwX3_faults_2 : List UInt8 := [180, 0, 100, 162, 0, 45, 28, 154, 0, 41, 29, 42, 27, 21, 4, 182, 0, 107, 153, 0, 21, 42, 27]
abbrev dktX3_faults_2 : List UInt8 := dkwX3_faults_2 ++ dktX3_faults_3
def dkwX3_faults_1 : List UInt8 := [42, 4, 182, 0, 194, 172, 42, 3, 181, 0, 90, 42, 27, 182, 0, 215, 3, 62, 3, 54, 4, 21, 4, 42]
abbrev dktX3_faults_1 : List UInt8 := dkwX3_faults_1 ++ dktX3_faults_2
def dkwX3_faults_0 : List UInt8 := [27, 133, 9, 20, 0, 190, 184, 0, 184, 153, 0, 15, 28, 133, 9, 20, 0, 192, 184, 0, 184, 154, 0, 9]
abbrev dktX3_faults_0 : List UInt8 := dkwX3_faults_0 ++ dktX3_faults_1
theorem dksX3_faults_0 : cX3_faults.data.toList.drop 0 = dktX3_faults_0 := by decide +kernel
theorem dksX3_faults_1 : cX3_faults.data.toList.drop 24 = dktX3_faults_1 := dk_seg dksX3_faults_0 24 rfl rfl
theorem dksX3_faults_2 : cX3_faults.data.toList.drop 48 = dktX3_faults_2 := dk_seg dksX3_faults_1 24 rfl rfl
theorem dksX3_faults_3 : cX3_faults.data.toList.drop 71 = dktX3_faults_3 := dk_seg dksX3_faults_2 23 rfl rfl
theorem dksX3_faults_4 : cX3_faults.data.toList.drop 93 = dktX3_faults_4 := dk_seg dksX3_faults_3 22 rfl rfl
theorem dksX3_faults_5 : cX3_faults.data.toList.drop 117 = dktX3_faults_5 := dk_seg dksX3_faults_4 24 rfl rfl
theorem dksX3_faults_6 : cX3_faults.data.toList.drop 141 = dktX3_faults_6 := dk_seg dksX3_faults_5 24 rfl rfl
theorem dksX3_faults_7 : cX3_faults.data.toList.drop 165 = dktX3_faults_7 := dk_seg dksX3_faults_6 24 rfl rfl
theorem dksX3_faults_8 : cX3_faults.data.toList.drop 189 = dktX3_faults_8 := dk_seg dksX3_faults_7 24 rfl rfl
theorem dksX3_faults_9 : cX3_faults.data.toList.drop 213 = dktX3_faults_9 := dk_seg dksX3_faults_8 24 rfl rfl
theorem dksX3_faults_10 : cX3_faults.data.toList.drop 237 = dktX3_faults_10 := dk_seg dksX3_faults_9 24 rfl rfl
theorem dksX3_faults_11 : cX3_faults.data.toList.drop 259 = dktX3_faults_11 := dk_seg dksX3_faults_10 22 rfl rfl
theorem dX3_faults_0 : decode cX3_faults 0 = .ok (.iload_n 1, 1) := dk_27 (dk_at dksX3_faults_0 0 rfl rfl)
theorem dX3_faults_1 : decode cX3_faults 1 = .ok (.i2l, 1) := dk_133 (dk_at dksX3_faults_0 1 rfl rfl)
theorem dX3_faults_2 : decode cX3_faults 2 = .ok (.lconst 0, 1) := dk_9 (dk_at dksX3_faults_0 2 rfl rfl)
theorem dX3_faults_3 : decode cX3_faults 3 = .ok (.ldc2_w 190, 3) := dk_20 0 190 (dk_at dksX3_faults_0 3 rfl rfl)
theorem dX3_faults_6 : decode cX3_faults 6 = .ok (.invokestatic 184, 3) := dk_184 0 184 (dk_at dksX3_faults_0 6 rfl rfl)
theorem dX3_faults_9 : decode cX3_faults 9 = .ok (.ifCond .eq 15, 3) := dk_153 0 15 (dk_at dksX3_faults_0 9 rfl rfl)
theorem dX3_faults_12 : decode cX3_faults 12 = .ok (.iload_n 2, 1) := dk_28 (dk_at dksX3_faults_0 12 rfl rfl)
theorem dX3_faults_13 : decode cX3_faults 13 = .ok (.i2l, 1) := dk_133 (dk_at dksX3_faults_0 13 rfl rfl)
theorem dX3_faults_14 : decode cX3_faults 14 = .ok (.lconst 0, 1) := dk_9 (dk_at dksX3_faults_0 14 rfl rfl)
theorem dX3_faults_15 : decode cX3_faults 15 = .ok (.ldc2_w 192, 3) := dk_20 0 192 (dk_at dksX3_faults_0 15 rfl rfl)
theorem dX3_faults_18 : decode cX3_faults 18 = .ok (.invokestatic 184, 3) := dk_184 0 184 (dk_at dksX3_faults_0 18 rfl rfl)
theorem dX3_faults_21 : decode cX3_faults 21 = .ok (.ifCond .ne 9, 3) := dk_154 0 9 (dk_at dksX3_faults_0 21 rfl rfl)
theorem dX3_faults_24 : decode cX3_faults 24 = .ok (.aload_n 0, 1) := dk_42 (dk_at dksX3_faults_1 0 rfl rfl)
theorem dX3_faults_25 : decode cX3_faults 25 = .ok (.iconst 1, 1) := dk_4 (dk_at dksX3_faults_1 1 rfl rfl)
theorem dX3_faults_26 : decode cX3_faults 26 = .ok (.invokevirtual 194, 3) := dk_182 0 194 (dk_at dksX3_faults_1 2 rfl rfl)
theorem dX3_faults_29 : decode cX3_faults 29 = .ok (.ireturn, 1) := dk_172 (dk_at dksX3_faults_1 5 rfl rfl)
theorem dX3_faults_30 : decode cX3_faults 30 = .ok (.aload_n 0, 1) := dk_42 (dk_at dksX3_faults_1 6 rfl rfl)
theorem dX3_faults_31 : decode cX3_faults 31 = .ok (.iconst 0, 1) := dk_3 (dk_at dksX3_faults_1 7 rfl rfl)
theorem dX3_faults_32 : decode cX3_faults 32 = .ok (.putfield 90, 3) := dk_181 0 90 (dk_at dksX3_faults_1 8 rfl rfl)
theorem dX3_faults_35 : decode cX3_faults 35 = .ok (.aload_n 0, 1) := dk_42 (dk_at dksX3_faults_1 11 rfl rfl)
theorem dX3_faults_36 : decode cX3_faults 36 = .ok (.iload_n 1, 1) := dk_27 (dk_at dksX3_faults_1 12 rfl rfl)
theorem dX3_faults_37 : decode cX3_faults 37 = .ok (.invokevirtual 215, 3) := dk_182 0 215 (dk_at dksX3_faults_1 13 rfl rfl)
theorem dX3_faults_40 : decode cX3_faults 40 = .ok (.iconst 0, 1) := dk_3 (dk_at dksX3_faults_1 16 rfl rfl)
theorem dX3_faults_41 : decode cX3_faults 41 = .ok (.istore_n 3, 1) := dk_62 (dk_at dksX3_faults_1 17 rfl rfl)
theorem dX3_faults_42 : decode cX3_faults 42 = .ok (.iconst 0, 1) := dk_3 (dk_at dksX3_faults_1 18 rfl rfl)
theorem dX3_faults_43 : decode cX3_faults 43 = .ok (.istore 4, 2) := dk_54 4 (dk_at dksX3_faults_1 19 rfl rfl)
theorem dX3_faults_45 : decode cX3_faults 45 = .ok (.iload 4, 2) := dk_21 4 (dk_at dksX3_faults_1 21 rfl rfl)
theorem dX3_faults_47 : decode cX3_faults 47 = .ok (.aload_n 0, 1) := dk_42 (dk_at dksX3_faults_1 23 rfl rfl)
theorem dX3_faults_48 : decode cX3_faults 48 = .ok (.getfield 100, 3) := dk_180 0 100 (dk_at dksX3_faults_2 0 rfl rfl)
theorem dX3_faults_51 : decode cX3_faults 51 = .ok (.if_icmp .ge 45, 3) := dk_162 0 45 (dk_at dksX3_faults_2 3 rfl rfl)
theorem dX3_faults_54 : decode cX3_faults 54 = .ok (.iload_n 2, 1) := dk_28 (dk_at dksX3_faults_2 6 rfl rfl)
theorem dX3_faults_55 : decode cX3_faults 55 = .ok (.ifCond .ne 41, 3) := dk_154 0 41 (dk_at dksX3_faults_2 7 rfl rfl)
theorem dX3_faults_58 : decode cX3_faults 58 = .ok (.iload_n 3, 1) := dk_29 (dk_at dksX3_faults_2 10 rfl rfl)
theorem dX3_faults_59 : decode cX3_faults 59 = .ok (.aload_n 0, 1) := dk_42 (dk_at dksX3_faults_2 11 rfl rfl)
theorem dX3_faults_60 : decode cX3_faults 60 = .ok (.iload_n 1, 1) := dk_27 (dk_at dksX3_faults_2 12 rfl rfl)
theorem dX3_faults_61 : decode cX3_faults 61 = .ok (.iload 4, 2) := dk_21 4 (dk_at dksX3_faults_2 13 rfl rfl)
theorem dX3_faults_63 : decode cX3_faults 63 = .ok (.invokevirtual 107, 3) := dk_182 0 107 (dk_at dksX3_faults_2 15 rfl rfl)
theorem dX3_faults_66 : decode cX3_faults 66 = .ok (.ifCond .eq 21, 3) := dk_153 0 21 (dk_at dksX3_faults_2 18 rfl rfl)
theorem dX3_faults_69 : decode cX3_faults 69 = .ok (.aload_n 0, 1) := dk_42 (dk_at dksX3_faults_2 21 rfl rfl)
theorem dX3_faults_70 : decode cX3_faults 70 = .ok (.iload_n 1, 1) := dk_27 (dk_at dksX3_faults_2 22 rfl rfl)
theorem dX3_faults_71 : decode cX3_faults 71 = .ok (.iload 4, 2) := dk_21 4 (dk_at dksX3_faults_3 0 rfl rfl)
theorem dX3_faults_73 : decode cX3_faults 73 = .ok (.invokevirtual 111, 3) := dk_182 0 111 (dk_at dksX3_faults_3 2 rfl rfl)
theorem dX3_faults_76 : decode cX3_faults 76 = .ok (.aload_n 0, 1) := dk_42 (dk_at dksX3_faults_3 5 rfl rfl)
theorem dX3_faults_77 : decode cX3_faults 77 = .ok (.getfield 31, 3) := dk_180 0 31 (dk_at dksX3_faults_3 6 rfl rfl)
theorem dX3_faults_80 : decode cX3_faults 80 = .ok (.if_icmp .le 7, 3) := dk_164 0 7 (dk_at dksX3_faults_3 9 rfl rfl)
theorem dX3_faults_83 : decode cX3_faults 83 = .ok (.iconst 1, 1) := dk_4 (dk_at dksX3_faults_3 12 rfl rfl)
theorem dX3_faults_84 : decode cX3_faults 84 = .ok (.goto 4, 3) := dk_167 0 4 (dk_at dksX3_faults_3 13 rfl rfl)
theorem dX3_faults_87 : decode cX3_faults 87 = .ok (.iconst 0, 1) := dk_3 (dk_at dksX3_faults_3 16 rfl rfl)
theorem dX3_faults_88 : decode cX3_faults 88 = .ok (.iadd, 1) := dk_96 (dk_at dksX3_faults_3 17 rfl rfl)
theorem dX3_faults_89 : decode cX3_faults 89 = .ok (.istore_n 3, 1) := dk_62 (dk_at dksX3_faults_3 18 rfl rfl)
theorem dX3_faults_90 : decode cX3_faults 90 = .ok (.iinc 4 1, 3) := dk_132 4 1 (dk_at dksX3_faults_3 19 rfl rfl)
theorem dX3_faults_93 : decode cX3_faults 93 = .ok (.goto (-48), 3) := dk_167 255 208 (dk_at dksX3_faults_4 0 rfl rfl)
theorem dX3_faults_96 : decode cX3_faults 96 = .ok (.iconst 0, 1) := dk_3 (dk_at dksX3_faults_4 3 rfl rfl)
theorem dX3_faults_97 : decode cX3_faults 97 = .ok (.istore 4, 2) := dk_54 4 (dk_at dksX3_faults_4 4 rfl rfl)
theorem dX3_faults_99 : decode cX3_faults 99 = .ok (.iload 4, 2) := dk_21 4 (dk_at dksX3_faults_4 6 rfl rfl)
theorem dX3_faults_101 : decode cX3_faults 101 = .ok (.aload_n 0, 1) := dk_42 (dk_at dksX3_faults_4 8 rfl rfl)
theorem dX3_faults_102 : decode cX3_faults 102 = .ok (.getfield 97, 3) := dk_180 0 97 (dk_at dksX3_faults_4 9 rfl rfl)
theorem dX3_faults_105 : decode cX3_faults 105 = .ok (.if_icmp .ge 36, 3) := dk_162 0 36 (dk_at dksX3_faults_4 12 rfl rfl)
theorem dX3_faults_108 : decode cX3_faults 108 = .ok (.iload_n 2, 1) := dk_28 (dk_at dksX3_faults_4 15 rfl rfl)
theorem dX3_faults_109 : decode cX3_faults 109 = .ok (.iconst 1, 1) := dk_4 (dk_at dksX3_faults_4 16 rfl rfl)
theorem dX3_faults_110 : decode cX3_faults 110 = .ok (.if_icmp .ne 31, 3) := dk_160 0 31 (dk_at dksX3_faults_4 17 rfl rfl)
theorem dX3_faults_113 : decode cX3_faults 113 = .ok (.iload_n 3, 1) := dk_29 (dk_at dksX3_faults_4 20 rfl rfl)
theorem dX3_faults_114 : decode cX3_faults 114 = .ok (.aload_n 0, 1) := dk_42 (dk_at dksX3_faults_4 21 rfl rfl)
theorem dX3_faults_115 : decode cX3_faults 115 = .ok (.iload 4, 2) := dk_21 4 (dk_at dksX3_faults_4 22 rfl rfl)
theorem dX3_faults_117 : decode cX3_faults 117 = .ok (.iconst 0, 1) := dk_3 (dk_at dksX3_faults_5 0 rfl rfl)
theorem dX3_faults_118 : decode cX3_faults 118 = .ok (.invokevirtual 152, 3) := dk_182 0 152 (dk_at dksX3_faults_5 1 rfl rfl)
theorem dX3_faults_121 : decode cX3_faults 121 = .ok (.aload_n 0, 1) := dk_42 (dk_at dksX3_faults_5 4 rfl rfl)
theorem dX3_faults_122 : decode cX3_faults 122 = .ok (.getfield 35, 3) := dk_180 0 35 (dk_at dksX3_faults_5 5 rfl rfl)
theorem dX3_faults_125 : decode cX3_faults 125 = .ok (.if_icmp .le 7, 3) := dk_164 0 7 (dk_at dksX3_faults_5 8 rfl rfl)
theorem dX3_faults_128 : decode cX3_faults 128 = .ok (.iconst 1, 1) := dk_4 (dk_at dksX3_faults_5 11 rfl rfl)
theorem dX3_faults_129 : decode cX3_faults 129 = .ok (.goto 4, 3) := dk_167 0 4 (dk_at dksX3_faults_5 12 rfl rfl)
theorem dX3_faults_132 : decode cX3_faults 132 = .ok (.iconst 0, 1) := dk_3 (dk_at dksX3_faults_5 15 rfl rfl)
theorem dX3_faults_133 : decode cX3_faults 133 = .ok (.iadd, 1) := dk_96 (dk_at dksX3_faults_5 16 rfl rfl)
theorem dX3_faults_134 : decode cX3_faults 134 = .ok (.istore_n 3, 1) := dk_62 (dk_at dksX3_faults_5 17 rfl rfl)
theorem dX3_faults_135 : decode cX3_faults 135 = .ok (.iinc 4 1, 3) := dk_132 4 1 (dk_at dksX3_faults_5 18 rfl rfl)
theorem dX3_faults_138 : decode cX3_faults 138 = .ok (.goto (-39), 3) := dk_167 255 217 (dk_at dksX3_faults_5 21 rfl rfl)
theorem dX3_faults_141 : decode cX3_faults 141 = .ok (.iconst 0, 1) := dk_3 (dk_at dksX3_faults_6 0 rfl rfl)
theorem dX3_faults_142 : decode cX3_faults 142 = .ok (.istore 4, 2) := dk_54 4 (dk_at dksX3_faults_6 1 rfl rfl)
theorem dX3_faults_144 : decode cX3_faults 144 = .ok (.iload 4, 2) := dk_21 4 (dk_at dksX3_faults_6 3 rfl rfl)
theorem dX3_faults_146 : decode cX3_faults 146 = .ok (.aload_n 0, 1) := dk_42 (dk_at dksX3_faults_6 5 rfl rfl)
theorem dX3_faults_147 : decode cX3_faults 147 = .ok (.getfield 100, 3) := dk_180 0 100 (dk_at dksX3_faults_6 6 rfl rfl)
theorem dX3_faults_150 : decode cX3_faults 150 = .ok (.if_icmp .ge 47, 3) := dk_162 0 47 (dk_at dksX3_faults_6 9 rfl rfl)
theorem dX3_faults_153 : decode cX3_faults 153 = .ok (.iload_n 2, 1) := dk_28 (dk_at dksX3_faults_6 12 rfl rfl)
theorem dX3_faults_154 : decode cX3_faults 154 = .ok (.iconst 2, 1) := dk_5 (dk_at dksX3_faults_6 13 rfl rfl)
theorem dX3_faults_155 : decode cX3_faults 155 = .ok (.if_icmp .ne 42, 3) := dk_160 0 42 (dk_at dksX3_faults_6 14 rfl rfl)
theorem dX3_faults_158 : decode cX3_faults 158 = .ok (.iload_n 3, 1) := dk_29 (dk_at dksX3_faults_6 17 rfl rfl)
theorem dX3_faults_159 : decode cX3_faults 159 = .ok (.aload_n 0, 1) := dk_42 (dk_at dksX3_faults_6 18 rfl rfl)
theorem dX3_faults_160 : decode cX3_faults 160 = .ok (.getfield 7, 3) := dk_180 0 7 (dk_at dksX3_faults_6 19 rfl rfl)
theorem dX3_faults_163 : decode cX3_faults 163 = .ok (.iload 4, 2) := dk_21 4 (dk_at dksX3_faults_6 22 rfl rfl)
theorem dX3_faults_165 : decode cX3_faults 165 = .ok (.iaload, 1) := dk_46 (dk_at dksX3_faults_7 0 rfl rfl)
theorem dX3_faults_166 : decode cX3_faults 166 = .ok (.iconst 4, 1) := dk_7 (dk_at dksX3_faults_7 1 rfl rfl)
theorem dX3_faults_167 : decode cX3_faults 167 = .ok (.if_icmp .ne 21, 3) := dk_160 0 21 (dk_at dksX3_faults_7 2 rfl rfl)
theorem dX3_faults_170 : decode cX3_faults 170 = .ok (.aload_n 0, 1) := dk_42 (dk_at dksX3_faults_7 5 rfl rfl)
theorem dX3_faults_171 : decode cX3_faults 171 = .ok (.getfield 13, 3) := dk_180 0 13 (dk_at dksX3_faults_7 6 rfl rfl)
theorem dX3_faults_174 : decode cX3_faults 174 = .ok (.iload 4, 2) := dk_21 4 (dk_at dksX3_faults_7 9 rfl rfl)
theorem dX3_faults_176 : decode cX3_faults 176 = .ok (.iaload, 1) := dk_46 (dk_at dksX3_faults_7 11 rfl rfl)
theorem dX3_faults_177 : decode cX3_faults 177 = .ok (.aload_n 0, 1) := dk_42 (dk_at dksX3_faults_7 12 rfl rfl)
theorem dX3_faults_178 : decode cX3_faults 178 = .ok (.getfield 35, 3) := dk_180 0 35 (dk_at dksX3_faults_7 13 rfl rfl)
theorem dX3_faults_181 : decode cX3_faults 181 = .ok (.if_icmp .le 7, 3) := dk_164 0 7 (dk_at dksX3_faults_7 16 rfl rfl)
theorem dX3_faults_184 : decode cX3_faults 184 = .ok (.iconst 1, 1) := dk_4 (dk_at dksX3_faults_7 19 rfl rfl)
theorem dX3_faults_185 : decode cX3_faults 185 = .ok (.goto 4, 3) := dk_167 0 4 (dk_at dksX3_faults_7 20 rfl rfl)
theorem dX3_faults_188 : decode cX3_faults 188 = .ok (.iconst 0, 1) := dk_3 (dk_at dksX3_faults_7 23 rfl rfl)
theorem dX3_faults_189 : decode cX3_faults 189 = .ok (.iadd, 1) := dk_96 (dk_at dksX3_faults_8 0 rfl rfl)
theorem dX3_faults_190 : decode cX3_faults 190 = .ok (.istore_n 3, 1) := dk_62 (dk_at dksX3_faults_8 1 rfl rfl)
theorem dX3_faults_191 : decode cX3_faults 191 = .ok (.iinc 4 1, 3) := dk_132 4 1 (dk_at dksX3_faults_8 2 rfl rfl)
theorem dX3_faults_194 : decode cX3_faults 194 = .ok (.goto (-50), 3) := dk_167 255 206 (dk_at dksX3_faults_8 5 rfl rfl)
theorem dX3_faults_197 : decode cX3_faults 197 = .ok (.iconst 0, 1) := dk_3 (dk_at dksX3_faults_8 8 rfl rfl)
theorem dX3_faults_198 : decode cX3_faults 198 = .ok (.istore 4, 2) := dk_54 4 (dk_at dksX3_faults_8 9 rfl rfl)
theorem dX3_faults_200 : decode cX3_faults 200 = .ok (.iload 4, 2) := dk_21 4 (dk_at dksX3_faults_8 11 rfl rfl)
theorem dX3_faults_202 : decode cX3_faults 202 = .ok (.bipush 10, 2) := dk_16 10 (dk_at dksX3_faults_8 13 rfl rfl)
theorem dX3_faults_204 : decode cX3_faults 204 = .ok (.if_icmp .ge 46, 3) := dk_162 0 46 (dk_at dksX3_faults_8 15 rfl rfl)
theorem dX3_faults_207 : decode cX3_faults 207 = .ok (.iload_n 2, 1) := dk_28 (dk_at dksX3_faults_8 18 rfl rfl)
theorem dX3_faults_208 : decode cX3_faults 208 = .ok (.iconst 4, 1) := dk_7 (dk_at dksX3_faults_8 19 rfl rfl)
theorem dX3_faults_209 : decode cX3_faults 209 = .ok (.if_icmp .ne 41, 3) := dk_160 0 41 (dk_at dksX3_faults_8 20 rfl rfl)
theorem dX3_faults_212 : decode cX3_faults 212 = .ok (.iload_n 3, 1) := dk_29 (dk_at dksX3_faults_8 23 rfl rfl)
theorem dX3_faults_213 : decode cX3_faults 213 = .ok (.aload_n 0, 1) := dk_42 (dk_at dksX3_faults_9 0 rfl rfl)
theorem dX3_faults_214 : decode cX3_faults 214 = .ok (.getfield 41, 3) := dk_180 0 41 (dk_at dksX3_faults_9 1 rfl rfl)
theorem dX3_faults_217 : decode cX3_faults 217 = .ok (.iload 4, 2) := dk_21 4 (dk_at dksX3_faults_9 4 rfl rfl)
theorem dX3_faults_219 : decode cX3_faults 219 = .ok (.iaload, 1) := dk_46 (dk_at dksX3_faults_9 6 rfl rfl)
theorem dX3_faults_220 : decode cX3_faults 220 = .ok (.iconst (-1), 1) := dk_2 (dk_at dksX3_faults_9 7 rfl rfl)
theorem dX3_faults_221 : decode cX3_faults 221 = .ok (.if_icmp .eq 20, 3) := dk_159 0 20 (dk_at dksX3_faults_9 8 rfl rfl)
theorem dX3_faults_224 : decode cX3_faults 224 = .ok (.aload_n 0, 1) := dk_42 (dk_at dksX3_faults_9 11 rfl rfl)
theorem dX3_faults_225 : decode cX3_faults 225 = .ok (.aload_n 0, 1) := dk_42 (dk_at dksX3_faults_9 12 rfl rfl)
theorem dX3_faults_226 : decode cX3_faults 226 = .ok (.iload 4, 2) := dk_21 4 (dk_at dksX3_faults_9 13 rfl rfl)
theorem dX3_faults_228 : decode cX3_faults 228 = .ok (.invokevirtual 224, 3) := dk_182 0 224 (dk_at dksX3_faults_9 15 rfl rfl)
theorem dX3_faults_231 : decode cX3_faults 231 = .ok (.invokevirtual 243, 3) := dk_182 0 243 (dk_at dksX3_faults_9 18 rfl rfl)
theorem dX3_faults_234 : decode cX3_faults 234 = .ok (.ifCond .ne 7, 3) := dk_154 0 7 (dk_at dksX3_faults_9 21 rfl rfl)
theorem dX3_faults_237 : decode cX3_faults 237 = .ok (.iconst 1, 1) := dk_4 (dk_at dksX3_faults_10 0 rfl rfl)
theorem dX3_faults_238 : decode cX3_faults 238 = .ok (.goto 4, 3) := dk_167 0 4 (dk_at dksX3_faults_10 1 rfl rfl)
theorem dX3_faults_241 : decode cX3_faults 241 = .ok (.iconst 0, 1) := dk_3 (dk_at dksX3_faults_10 4 rfl rfl)
theorem dX3_faults_242 : decode cX3_faults 242 = .ok (.iadd, 1) := dk_96 (dk_at dksX3_faults_10 5 rfl rfl)
theorem dX3_faults_243 : decode cX3_faults 243 = .ok (.istore_n 3, 1) := dk_62 (dk_at dksX3_faults_10 6 rfl rfl)
theorem dX3_faults_244 : decode cX3_faults 244 = .ok (.iinc 4 1, 3) := dk_132 4 1 (dk_at dksX3_faults_10 7 rfl rfl)
theorem dX3_faults_247 : decode cX3_faults 247 = .ok (.goto (-47), 3) := dk_167 255 209 (dk_at dksX3_faults_10 10 rfl rfl)
theorem dX3_faults_250 : decode cX3_faults 250 = .ok (.iload_n 2, 1) := dk_28 (dk_at dksX3_faults_10 13 rfl rfl)
theorem dX3_faults_251 : decode cX3_faults 251 = .ok (.iconst 3, 1) := dk_6 (dk_at dksX3_faults_10 14 rfl rfl)
theorem dX3_faults_252 : decode cX3_faults 252 = .ok (.if_icmp .ne 18, 3) := dk_160 0 18 (dk_at dksX3_faults_10 15 rfl rfl)
theorem dX3_faults_255 : decode cX3_faults 255 = .ok (.aload_n 0, 1) := dk_42 (dk_at dksX3_faults_10 18 rfl rfl)
theorem dX3_faults_256 : decode cX3_faults 256 = .ok (.getfield 167, 3) := dk_180 0 167 (dk_at dksX3_faults_10 19 rfl rfl)
theorem dX3_faults_259 : decode cX3_faults 259 = .ok (.ifCond .eq 7, 3) := dk_153 0 7 (dk_at dksX3_faults_11 0 rfl rfl)
theorem dX3_faults_262 : decode cX3_faults 262 = .ok (.iconst 0, 1) := dk_3 (dk_at dksX3_faults_11 3 rfl rfl)
theorem dX3_faults_263 : decode cX3_faults 263 = .ok (.goto 8, 3) := dk_167 0 8 (dk_at dksX3_faults_11 4 rfl rfl)
theorem dX3_faults_266 : decode cX3_faults 266 = .ok (.iconst 1, 1) := dk_4 (dk_at dksX3_faults_11 7 rfl rfl)
theorem dX3_faults_267 : decode cX3_faults 267 = .ok (.goto 4, 3) := dk_167 0 4 (dk_at dksX3_faults_11 8 rfl rfl)
theorem dX3_faults_270 : decode cX3_faults 270 = .ok (.iload_n 3, 1) := dk_29 (dk_at dksX3_faults_11 11 rfl rfl)
theorem dX3_faults_271 : decode cX3_faults 271 = .ok (.ireturn, 1) := dk_172 (dk_at dksX3_faults_11 12 rfl rfl)
abbrev cX3_isMarked : ByteArray := prog_7_method_50_code
def yX3_isMarked : MethodName := ⟨RX3, "isMarked", "(I)Z"⟩
def dkwX3_isMarked_1 : List UInt8 := [167, 255, 236, 28, 172]
abbrev dktX3_isMarked_1 : List UInt8 := dkwX3_isMarked_1 ++ []
def dkwX3_isMarked_0 : List UInt8 := [3, 61, 3, 62, 29, 42, 180, 0, 100, 162, 0, 18, 28, 42, 29, 27, 182, 0, 227, 128, 61, 132, 3, 1]
abbrev dktX3_isMarked_0 : List UInt8 := dkwX3_isMarked_0 ++ dktX3_isMarked_1
theorem dksX3_isMarked_0 : cX3_isMarked.data.toList.drop 0 = dktX3_isMarked_0 := by decide +kernel
theorem dksX3_isMarked_1 : cX3_isMarked.data.toList.drop 24 = dktX3_isMarked_1 := dk_seg dksX3_isMarked_0 24 rfl rfl
theorem dX3_isMarked_0 : decode cX3_isMarked 0 = .ok (.iconst 0, 1) := dk_3 (dk_at dksX3_isMarked_0 0 rfl rfl)
theorem dX3_isMarked_1 : decode cX3_isMarked 1 = .ok (.istore_n 2, 1) := dk_61 (dk_at dksX3_isMarked_0 1 rfl rfl)
theorem dX3_isMarked_2 : decode cX3_isMarked 2 = .ok (.iconst 0, 1) := dk_3 (dk_at dksX3_isMarked_0 2 rfl rfl)
theorem dX3_isMarked_3 : decode cX3_isMarked 3 = .ok (.istore_n 3, 1) := dk_62 (dk_at dksX3_isMarked_0 3 rfl rfl)
theorem dX3_isMarked_4 : decode cX3_isMarked 4 = .ok (.iload_n 3, 1) := dk_29 (dk_at dksX3_isMarked_0 4 rfl rfl)
theorem dX3_isMarked_5 : decode cX3_isMarked 5 = .ok (.aload_n 0, 1) := dk_42 (dk_at dksX3_isMarked_0 5 rfl rfl)
theorem dX3_isMarked_6 : decode cX3_isMarked 6 = .ok (.getfield 100, 3) := dk_180 0 100 (dk_at dksX3_isMarked_0 6 rfl rfl)
theorem dX3_isMarked_9 : decode cX3_isMarked 9 = .ok (.if_icmp .ge 18, 3) := dk_162 0 18 (dk_at dksX3_isMarked_0 9 rfl rfl)
theorem dX3_isMarked_12 : decode cX3_isMarked 12 = .ok (.iload_n 2, 1) := dk_28 (dk_at dksX3_isMarked_0 12 rfl rfl)
theorem dX3_isMarked_13 : decode cX3_isMarked 13 = .ok (.aload_n 0, 1) := dk_42 (dk_at dksX3_isMarked_0 13 rfl rfl)
theorem dX3_isMarked_14 : decode cX3_isMarked 14 = .ok (.iload_n 3, 1) := dk_29 (dk_at dksX3_isMarked_0 14 rfl rfl)
theorem dX3_isMarked_15 : decode cX3_isMarked 15 = .ok (.iload_n 1, 1) := dk_27 (dk_at dksX3_isMarked_0 15 rfl rfl)
theorem dX3_isMarked_16 : decode cX3_isMarked 16 = .ok (.invokevirtual 227, 3) := dk_182 0 227 (dk_at dksX3_isMarked_0 16 rfl rfl)
theorem dX3_isMarked_19 : decode cX3_isMarked 19 = .ok (.ior, 1) := dk_128 (dk_at dksX3_isMarked_0 19 rfl rfl)
theorem dX3_isMarked_20 : decode cX3_isMarked 20 = .ok (.istore_n 2, 1) := dk_61 (dk_at dksX3_isMarked_0 20 rfl rfl)
theorem dX3_isMarked_21 : decode cX3_isMarked 21 = .ok (.iinc 3 1, 3) := dk_132 3 1 (dk_at dksX3_isMarked_0 21 rfl rfl)
theorem dX3_isMarked_24 : decode cX3_isMarked 24 = .ok (.goto (-20), 3) := dk_167 255 236 (dk_at dksX3_isMarked_1 0 rfl rfl)
theorem dX3_isMarked_27 : decode cX3_isMarked 27 = .ok (.iload_n 2, 1) := dk_28 (dk_at dksX3_isMarked_1 3 rfl rfl)
theorem dX3_isMarked_28 : decode cX3_isMarked 28 = .ok (.ireturn, 1) := dk_172 (dk_at dksX3_isMarked_1 4 rfl rfl)
abbrev cX3_isNew : ByteArray := prog_7_method_55_code
def yX3_isNew : MethodName := ⟨RX3, "isNew", "(II)Z"⟩
def dkwX3_isNew_6 : List UInt8 := [167, 255, 226, 29, 21, 4, 162, 0, 7, 4, 167, 0, 4, 3, 172]
abbrev dktX3_isNew_6 : List UInt8 := dkwX3_isNew_6 ++ []
def dkwX3_isNew_5 : List UInt8 := [21, 4, 42, 27, 28, 21, 5, 182, 0, 253, 153, 0, 7, 4, 167, 0, 4, 3, 96, 54, 4, 132, 5, 1]
abbrev dktX3_isNew_5 : List UInt8 := dkwX3_isNew_5 ++ dktX3_isNew_6
def dkwX3_isNew_4 : List UInt8 := [167, 0, 4, 3, 96, 62, 132, 4, 1, 167, 255, 211, 3, 54, 4, 3, 54, 5, 21, 5, 28, 163, 0, 30]
abbrev dktX3_isNew_4 : List UInt8 := dkwX3_isNew_4 ++ dktX3_isNew_5
def dkwX3_isNew_3 : List UInt8 := [180, 0, 75, 21, 4, 46, 42, 180, 0, 75, 21, 4, 4, 96, 46, 182, 0, 249, 153, 0, 7, 4]
abbrev dktX3_isNew_3 : List UInt8 := dkwX3_isNew_3 ++ dktX3_isNew_4
def dkwX3_isNew_2 : List UInt8 := [3, 181, 0, 90, 3, 62, 3, 54, 4, 21, 4, 42, 180, 0, 209, 162, 0, 42, 29, 42, 27, 28, 42]
abbrev dktX3_isNew_2 : List UInt8 := dkwX3_isNew_2 ++ dktX3_isNew_3
def dkwX3_isNew_1 : List UInt8 := [28, 133, 9, 42, 180, 0, 97, 4, 100, 133, 184, 0, 184, 154, 0, 10, 42, 4, 181, 0, 90, 3, 172, 42]
abbrev dktX3_isNew_1 : List UInt8 := dkwX3_isNew_1 ++ dktX3_isNew_2
def dkwX3_isNew_0 : List UInt8 := [27, 133, 9, 20, 0, 190, 184, 0, 184, 154, 0, 10, 42, 4, 181, 0, 90, 3, 172, 42, 27, 182, 0, 173]
abbrev dktX3_isNew_0 : List UInt8 := dkwX3_isNew_0 ++ dktX3_isNew_1
theorem dksX3_isNew_0 : cX3_isNew.data.toList.drop 0 = dktX3_isNew_0 := by decide +kernel
theorem dksX3_isNew_1 : cX3_isNew.data.toList.drop 24 = dktX3_isNew_1 := dk_seg dksX3_isNew_0 24 rfl rfl
theorem dksX3_isNew_2 : cX3_isNew.data.toList.drop 48 = dktX3_isNew_2 := dk_seg dksX3_isNew_1 24 rfl rfl
theorem dksX3_isNew_3 : cX3_isNew.data.toList.drop 71 = dktX3_isNew_3 := dk_seg dksX3_isNew_2 23 rfl rfl
theorem dksX3_isNew_4 : cX3_isNew.data.toList.drop 93 = dktX3_isNew_4 := dk_seg dksX3_isNew_3 22 rfl rfl
theorem dksX3_isNew_5 : cX3_isNew.data.toList.drop 117 = dktX3_isNew_5 := dk_seg dksX3_isNew_4 24 rfl rfl
theorem dksX3_isNew_6 : cX3_isNew.data.toList.drop 141 = dktX3_isNew_6 := dk_seg dksX3_isNew_5 24 rfl rfl
theorem dX3_isNew_0 : decode cX3_isNew 0 = .ok (.iload_n 1, 1) := dk_27 (dk_at dksX3_isNew_0 0 rfl rfl)
theorem dX3_isNew_1 : decode cX3_isNew 1 = .ok (.i2l, 1) := dk_133 (dk_at dksX3_isNew_0 1 rfl rfl)
theorem dX3_isNew_2 : decode cX3_isNew 2 = .ok (.lconst 0, 1) := dk_9 (dk_at dksX3_isNew_0 2 rfl rfl)
theorem dX3_isNew_3 : decode cX3_isNew 3 = .ok (.ldc2_w 190, 3) := dk_20 0 190 (dk_at dksX3_isNew_0 3 rfl rfl)
theorem dX3_isNew_6 : decode cX3_isNew 6 = .ok (.invokestatic 184, 3) := dk_184 0 184 (dk_at dksX3_isNew_0 6 rfl rfl)
theorem dX3_isNew_9 : decode cX3_isNew 9 = .ok (.ifCond .ne 10, 3) := dk_154 0 10 (dk_at dksX3_isNew_0 9 rfl rfl)
theorem dX3_isNew_12 : decode cX3_isNew 12 = .ok (.aload_n 0, 1) := dk_42 (dk_at dksX3_isNew_0 12 rfl rfl)
theorem dX3_isNew_13 : decode cX3_isNew 13 = .ok (.iconst 1, 1) := dk_4 (dk_at dksX3_isNew_0 13 rfl rfl)
theorem dX3_isNew_14 : decode cX3_isNew 14 = .ok (.putfield 90, 3) := dk_181 0 90 (dk_at dksX3_isNew_0 14 rfl rfl)
theorem dX3_isNew_17 : decode cX3_isNew 17 = .ok (.iconst 0, 1) := dk_3 (dk_at dksX3_isNew_0 17 rfl rfl)
theorem dX3_isNew_18 : decode cX3_isNew 18 = .ok (.ireturn, 1) := dk_172 (dk_at dksX3_isNew_0 18 rfl rfl)
theorem dX3_isNew_19 : decode cX3_isNew 19 = .ok (.aload_n 0, 1) := dk_42 (dk_at dksX3_isNew_0 19 rfl rfl)
theorem dX3_isNew_20 : decode cX3_isNew 20 = .ok (.iload_n 1, 1) := dk_27 (dk_at dksX3_isNew_0 20 rfl rfl)
theorem dX3_isNew_21 : decode cX3_isNew 21 = .ok (.invokevirtual 173, 3) := dk_182 0 173 (dk_at dksX3_isNew_0 21 rfl rfl)
theorem dX3_isNew_24 : decode cX3_isNew 24 = .ok (.iload_n 2, 1) := dk_28 (dk_at dksX3_isNew_1 0 rfl rfl)
theorem dX3_isNew_25 : decode cX3_isNew 25 = .ok (.i2l, 1) := dk_133 (dk_at dksX3_isNew_1 1 rfl rfl)
theorem dX3_isNew_26 : decode cX3_isNew 26 = .ok (.lconst 0, 1) := dk_9 (dk_at dksX3_isNew_1 2 rfl rfl)
theorem dX3_isNew_27 : decode cX3_isNew 27 = .ok (.aload_n 0, 1) := dk_42 (dk_at dksX3_isNew_1 3 rfl rfl)
theorem dX3_isNew_28 : decode cX3_isNew 28 = .ok (.getfield 97, 3) := dk_180 0 97 (dk_at dksX3_isNew_1 4 rfl rfl)
theorem dX3_isNew_31 : decode cX3_isNew 31 = .ok (.iconst 1, 1) := dk_4 (dk_at dksX3_isNew_1 7 rfl rfl)
theorem dX3_isNew_32 : decode cX3_isNew 32 = .ok (.isub, 1) := dk_100 (dk_at dksX3_isNew_1 8 rfl rfl)
theorem dX3_isNew_33 : decode cX3_isNew 33 = .ok (.i2l, 1) := dk_133 (dk_at dksX3_isNew_1 9 rfl rfl)
theorem dX3_isNew_34 : decode cX3_isNew 34 = .ok (.invokestatic 184, 3) := dk_184 0 184 (dk_at dksX3_isNew_1 10 rfl rfl)
theorem dX3_isNew_37 : decode cX3_isNew 37 = .ok (.ifCond .ne 10, 3) := dk_154 0 10 (dk_at dksX3_isNew_1 13 rfl rfl)
theorem dX3_isNew_40 : decode cX3_isNew 40 = .ok (.aload_n 0, 1) := dk_42 (dk_at dksX3_isNew_1 16 rfl rfl)
theorem dX3_isNew_41 : decode cX3_isNew 41 = .ok (.iconst 1, 1) := dk_4 (dk_at dksX3_isNew_1 17 rfl rfl)
theorem dX3_isNew_42 : decode cX3_isNew 42 = .ok (.putfield 90, 3) := dk_181 0 90 (dk_at dksX3_isNew_1 18 rfl rfl)
theorem dX3_isNew_45 : decode cX3_isNew 45 = .ok (.iconst 0, 1) := dk_3 (dk_at dksX3_isNew_1 21 rfl rfl)
theorem dX3_isNew_46 : decode cX3_isNew 46 = .ok (.ireturn, 1) := dk_172 (dk_at dksX3_isNew_1 22 rfl rfl)
theorem dX3_isNew_47 : decode cX3_isNew 47 = .ok (.aload_n 0, 1) := dk_42 (dk_at dksX3_isNew_1 23 rfl rfl)
theorem dX3_isNew_48 : decode cX3_isNew 48 = .ok (.iconst 0, 1) := dk_3 (dk_at dksX3_isNew_2 0 rfl rfl)
theorem dX3_isNew_49 : decode cX3_isNew 49 = .ok (.putfield 90, 3) := dk_181 0 90 (dk_at dksX3_isNew_2 1 rfl rfl)
theorem dX3_isNew_52 : decode cX3_isNew 52 = .ok (.iconst 0, 1) := dk_3 (dk_at dksX3_isNew_2 4 rfl rfl)
theorem dX3_isNew_53 : decode cX3_isNew 53 = .ok (.istore_n 3, 1) := dk_62 (dk_at dksX3_isNew_2 5 rfl rfl)
theorem dX3_isNew_54 : decode cX3_isNew 54 = .ok (.iconst 0, 1) := dk_3 (dk_at dksX3_isNew_2 6 rfl rfl)
theorem dX3_isNew_55 : decode cX3_isNew 55 = .ok (.istore 4, 2) := dk_54 4 (dk_at dksX3_isNew_2 7 rfl rfl)
theorem dX3_isNew_57 : decode cX3_isNew 57 = .ok (.iload 4, 2) := dk_21 4 (dk_at dksX3_isNew_2 9 rfl rfl)
theorem dX3_isNew_59 : decode cX3_isNew 59 = .ok (.aload_n 0, 1) := dk_42 (dk_at dksX3_isNew_2 11 rfl rfl)
theorem dX3_isNew_60 : decode cX3_isNew 60 = .ok (.getfield 209, 3) := dk_180 0 209 (dk_at dksX3_isNew_2 12 rfl rfl)
theorem dX3_isNew_63 : decode cX3_isNew 63 = .ok (.if_icmp .ge 42, 3) := dk_162 0 42 (dk_at dksX3_isNew_2 15 rfl rfl)
theorem dX3_isNew_66 : decode cX3_isNew 66 = .ok (.iload_n 3, 1) := dk_29 (dk_at dksX3_isNew_2 18 rfl rfl)
theorem dX3_isNew_67 : decode cX3_isNew 67 = .ok (.aload_n 0, 1) := dk_42 (dk_at dksX3_isNew_2 19 rfl rfl)
theorem dX3_isNew_68 : decode cX3_isNew 68 = .ok (.iload_n 1, 1) := dk_27 (dk_at dksX3_isNew_2 20 rfl rfl)
theorem dX3_isNew_69 : decode cX3_isNew 69 = .ok (.iload_n 2, 1) := dk_28 (dk_at dksX3_isNew_2 21 rfl rfl)
theorem dX3_isNew_70 : decode cX3_isNew 70 = .ok (.aload_n 0, 1) := dk_42 (dk_at dksX3_isNew_2 22 rfl rfl)
theorem dX3_isNew_71 : decode cX3_isNew 71 = .ok (.getfield 75, 3) := dk_180 0 75 (dk_at dksX3_isNew_3 0 rfl rfl)
theorem dX3_isNew_74 : decode cX3_isNew 74 = .ok (.iload 4, 2) := dk_21 4 (dk_at dksX3_isNew_3 3 rfl rfl)
theorem dX3_isNew_76 : decode cX3_isNew 76 = .ok (.iaload, 1) := dk_46 (dk_at dksX3_isNew_3 5 rfl rfl)
theorem dX3_isNew_77 : decode cX3_isNew 77 = .ok (.aload_n 0, 1) := dk_42 (dk_at dksX3_isNew_3 6 rfl rfl)
theorem dX3_isNew_78 : decode cX3_isNew 78 = .ok (.getfield 75, 3) := dk_180 0 75 (dk_at dksX3_isNew_3 7 rfl rfl)
theorem dX3_isNew_81 : decode cX3_isNew 81 = .ok (.iload 4, 2) := dk_21 4 (dk_at dksX3_isNew_3 10 rfl rfl)
theorem dX3_isNew_83 : decode cX3_isNew 83 = .ok (.iconst 1, 1) := dk_4 (dk_at dksX3_isNew_3 12 rfl rfl)
theorem dX3_isNew_84 : decode cX3_isNew 84 = .ok (.iadd, 1) := dk_96 (dk_at dksX3_isNew_3 13 rfl rfl)
theorem dX3_isNew_85 : decode cX3_isNew 85 = .ok (.iaload, 1) := dk_46 (dk_at dksX3_isNew_3 14 rfl rfl)
theorem dX3_isNew_86 : decode cX3_isNew 86 = .ok (.invokevirtual 249, 3) := dk_182 0 249 (dk_at dksX3_isNew_3 15 rfl rfl)
theorem dX3_isNew_89 : decode cX3_isNew 89 = .ok (.ifCond .eq 7, 3) := dk_153 0 7 (dk_at dksX3_isNew_3 18 rfl rfl)
theorem dX3_isNew_92 : decode cX3_isNew 92 = .ok (.iconst 1, 1) := dk_4 (dk_at dksX3_isNew_3 21 rfl rfl)
theorem dX3_isNew_93 : decode cX3_isNew 93 = .ok (.goto 4, 3) := dk_167 0 4 (dk_at dksX3_isNew_4 0 rfl rfl)
theorem dX3_isNew_96 : decode cX3_isNew 96 = .ok (.iconst 0, 1) := dk_3 (dk_at dksX3_isNew_4 3 rfl rfl)
theorem dX3_isNew_97 : decode cX3_isNew 97 = .ok (.iadd, 1) := dk_96 (dk_at dksX3_isNew_4 4 rfl rfl)
theorem dX3_isNew_98 : decode cX3_isNew 98 = .ok (.istore_n 3, 1) := dk_62 (dk_at dksX3_isNew_4 5 rfl rfl)
theorem dX3_isNew_99 : decode cX3_isNew 99 = .ok (.iinc 4 1, 3) := dk_132 4 1 (dk_at dksX3_isNew_4 6 rfl rfl)
theorem dX3_isNew_102 : decode cX3_isNew 102 = .ok (.goto (-45), 3) := dk_167 255 211 (dk_at dksX3_isNew_4 9 rfl rfl)
theorem dX3_isNew_105 : decode cX3_isNew 105 = .ok (.iconst 0, 1) := dk_3 (dk_at dksX3_isNew_4 12 rfl rfl)
theorem dX3_isNew_106 : decode cX3_isNew 106 = .ok (.istore 4, 2) := dk_54 4 (dk_at dksX3_isNew_4 13 rfl rfl)
theorem dX3_isNew_108 : decode cX3_isNew 108 = .ok (.iconst 0, 1) := dk_3 (dk_at dksX3_isNew_4 15 rfl rfl)
theorem dX3_isNew_109 : decode cX3_isNew 109 = .ok (.istore 5, 2) := dk_54 5 (dk_at dksX3_isNew_4 16 rfl rfl)
theorem dX3_isNew_111 : decode cX3_isNew 111 = .ok (.iload 5, 2) := dk_21 5 (dk_at dksX3_isNew_4 18 rfl rfl)
theorem dX3_isNew_113 : decode cX3_isNew 113 = .ok (.iload_n 2, 1) := dk_28 (dk_at dksX3_isNew_4 20 rfl rfl)
theorem dX3_isNew_114 : decode cX3_isNew 114 = .ok (.if_icmp .gt 30, 3) := dk_163 0 30 (dk_at dksX3_isNew_4 21 rfl rfl)
theorem dX3_isNew_117 : decode cX3_isNew 117 = .ok (.iload 4, 2) := dk_21 4 (dk_at dksX3_isNew_5 0 rfl rfl)
theorem dX3_isNew_119 : decode cX3_isNew 119 = .ok (.aload_n 0, 1) := dk_42 (dk_at dksX3_isNew_5 2 rfl rfl)
theorem dX3_isNew_120 : decode cX3_isNew 120 = .ok (.iload_n 1, 1) := dk_27 (dk_at dksX3_isNew_5 3 rfl rfl)
theorem dX3_isNew_121 : decode cX3_isNew 121 = .ok (.iload_n 2, 1) := dk_28 (dk_at dksX3_isNew_5 4 rfl rfl)
theorem dX3_isNew_122 : decode cX3_isNew 122 = .ok (.iload 5, 2) := dk_21 5 (dk_at dksX3_isNew_5 5 rfl rfl)
theorem dX3_isNew_124 : decode cX3_isNew 124 = .ok (.invokevirtual 253, 3) := dk_182 0 253 (dk_at dksX3_isNew_5 7 rfl rfl)
theorem dX3_isNew_127 : decode cX3_isNew 127 = .ok (.ifCond .eq 7, 3) := dk_153 0 7 (dk_at dksX3_isNew_5 10 rfl rfl)
theorem dX3_isNew_130 : decode cX3_isNew 130 = .ok (.iconst 1, 1) := dk_4 (dk_at dksX3_isNew_5 13 rfl rfl)
theorem dX3_isNew_131 : decode cX3_isNew 131 = .ok (.goto 4, 3) := dk_167 0 4 (dk_at dksX3_isNew_5 14 rfl rfl)
theorem dX3_isNew_134 : decode cX3_isNew 134 = .ok (.iconst 0, 1) := dk_3 (dk_at dksX3_isNew_5 17 rfl rfl)
theorem dX3_isNew_135 : decode cX3_isNew 135 = .ok (.iadd, 1) := dk_96 (dk_at dksX3_isNew_5 18 rfl rfl)
theorem dX3_isNew_136 : decode cX3_isNew 136 = .ok (.istore 4, 2) := dk_54 4 (dk_at dksX3_isNew_5 19 rfl rfl)
theorem dX3_isNew_138 : decode cX3_isNew 138 = .ok (.iinc 5 1, 3) := dk_132 5 1 (dk_at dksX3_isNew_5 21 rfl rfl)
theorem dX3_isNew_141 : decode cX3_isNew 141 = .ok (.goto (-30), 3) := dk_167 255 226 (dk_at dksX3_isNew_6 0 rfl rfl)
theorem dX3_isNew_144 : decode cX3_isNew 144 = .ok (.iload_n 3, 1) := dk_29 (dk_at dksX3_isNew_6 3 rfl rfl)
theorem dX3_isNew_145 : decode cX3_isNew 145 = .ok (.iload 4, 2) := dk_21 4 (dk_at dksX3_isNew_6 4 rfl rfl)
theorem dX3_isNew_147 : decode cX3_isNew 147 = .ok (.if_icmp .ge 7, 3) := dk_162 0 7 (dk_at dksX3_isNew_6 6 rfl rfl)
theorem dX3_isNew_150 : decode cX3_isNew 150 = .ok (.iconst 1, 1) := dk_4 (dk_at dksX3_isNew_6 9 rfl rfl)
theorem dX3_isNew_151 : decode cX3_isNew 151 = .ok (.goto 4, 3) := dk_167 0 4 (dk_at dksX3_isNew_6 10 rfl rfl)
theorem dX3_isNew_154 : decode cX3_isNew 154 = .ok (.iconst 0, 1) := dk_3 (dk_at dksX3_isNew_6 13 rfl rfl)
theorem dX3_isNew_155 : decode cX3_isNew 155 = .ok (.ireturn, 1) := dk_172 (dk_at dksX3_isNew_6 14 rfl rfl)
abbrev cX3_isKept : ByteArray := prog_7_method_52_code
def yX3_isKept : MethodName := ⟨RX3, "isKept", "(IIII)Z"⟩
def dkwX3_isKept_5 : List UInt8 := [167, 0, 4, 3, 172]
abbrev dktX3_isKept_5 : List UInt8 := dkwX3_isKept_5 ++ []
def dkwX3_isKept_4 : List UInt8 := [159, 0, 5, 3, 172, 132, 5, 1, 132, 6, 1, 167, 255, 157, 21, 5, 21, 4, 160, 0, 7, 4]
abbrev dktX3_isKept_4 : List UInt8 := dkwX3_isKept_4 ++ dktX3_isKept_5
def dkwX3_isKept_3 : List UInt8 := [182, 0, 111, 160, 0, 24, 42, 180, 0, 84, 21, 5, 46, 42, 42, 180, 0, 16, 21, 6, 46, 182, 0, 212]
abbrev dktX3_isKept_3 : List UInt8 := dkwX3_isKept_3 ++ dktX3_isKept_4
def dkwX3_isKept_2 : List UInt8 := [21, 5, 46, 42, 180, 0, 7, 21, 6, 46, 160, 0, 41, 42, 180, 0, 81, 21, 5, 46, 42, 27, 21, 6]
abbrev dktX3_isKept_2 : List UInt8 := dkwX3_isKept_2 ++ dktX3_isKept_3
def dkwX3_isKept_1 : List UInt8 := [160, 0, 79, 42, 21, 6, 182, 0, 118, 154, 0, 70, 21, 5, 21, 4, 159, 0, 58, 42, 180, 0, 78]
abbrev dktX3_isKept_1 : List UInt8 := dkwX3_isKept_1 ++ dktX3_isKept_2
def dkwX3_isKept_0 : List UInt8 := [29, 54, 5, 3, 54, 6, 21, 6, 42, 180, 0, 100, 162, 0, 96, 42, 180, 0, 50, 21, 6, 46, 28]
abbrev dktX3_isKept_0 : List UInt8 := dkwX3_isKept_0 ++ dktX3_isKept_1
theorem dksX3_isKept_0 : cX3_isKept.data.toList.drop 0 = dktX3_isKept_0 := by decide +kernel
theorem dksX3_isKept_1 : cX3_isKept.data.toList.drop 23 = dktX3_isKept_1 := dk_seg dksX3_isKept_0 23 rfl rfl
theorem dksX3_isKept_2 : cX3_isKept.data.toList.drop 46 = dktX3_isKept_2 := dk_seg dksX3_isKept_1 23 rfl rfl
theorem dksX3_isKept_3 : cX3_isKept.data.toList.drop 70 = dktX3_isKept_3 := dk_seg dksX3_isKept_2 24 rfl rfl
theorem dksX3_isKept_4 : cX3_isKept.data.toList.drop 94 = dktX3_isKept_4 := dk_seg dksX3_isKept_3 24 rfl rfl
theorem dksX3_isKept_5 : cX3_isKept.data.toList.drop 116 = dktX3_isKept_5 := dk_seg dksX3_isKept_4 22 rfl rfl
theorem dX3_isKept_0 : decode cX3_isKept 0 = .ok (.iload_n 3, 1) := dk_29 (dk_at dksX3_isKept_0 0 rfl rfl)
theorem dX3_isKept_1 : decode cX3_isKept 1 = .ok (.istore 5, 2) := dk_54 5 (dk_at dksX3_isKept_0 1 rfl rfl)
theorem dX3_isKept_3 : decode cX3_isKept 3 = .ok (.iconst 0, 1) := dk_3 (dk_at dksX3_isKept_0 3 rfl rfl)
theorem dX3_isKept_4 : decode cX3_isKept 4 = .ok (.istore 6, 2) := dk_54 6 (dk_at dksX3_isKept_0 4 rfl rfl)
theorem dX3_isKept_6 : decode cX3_isKept 6 = .ok (.iload 6, 2) := dk_21 6 (dk_at dksX3_isKept_0 6 rfl rfl)
theorem dX3_isKept_8 : decode cX3_isKept 8 = .ok (.aload_n 0, 1) := dk_42 (dk_at dksX3_isKept_0 8 rfl rfl)
theorem dX3_isKept_9 : decode cX3_isKept 9 = .ok (.getfield 100, 3) := dk_180 0 100 (dk_at dksX3_isKept_0 9 rfl rfl)
theorem dX3_isKept_12 : decode cX3_isKept 12 = .ok (.if_icmp .ge 96, 3) := dk_162 0 96 (dk_at dksX3_isKept_0 12 rfl rfl)
theorem dX3_isKept_15 : decode cX3_isKept 15 = .ok (.aload_n 0, 1) := dk_42 (dk_at dksX3_isKept_0 15 rfl rfl)
theorem dX3_isKept_16 : decode cX3_isKept 16 = .ok (.getfield 50, 3) := dk_180 0 50 (dk_at dksX3_isKept_0 16 rfl rfl)
theorem dX3_isKept_19 : decode cX3_isKept 19 = .ok (.iload 6, 2) := dk_21 6 (dk_at dksX3_isKept_0 19 rfl rfl)
theorem dX3_isKept_21 : decode cX3_isKept 21 = .ok (.iaload, 1) := dk_46 (dk_at dksX3_isKept_0 21 rfl rfl)
theorem dX3_isKept_22 : decode cX3_isKept 22 = .ok (.iload_n 2, 1) := dk_28 (dk_at dksX3_isKept_0 22 rfl rfl)
theorem dX3_isKept_23 : decode cX3_isKept 23 = .ok (.if_icmp .ne 79, 3) := dk_160 0 79 (dk_at dksX3_isKept_1 0 rfl rfl)
theorem dX3_isKept_26 : decode cX3_isKept 26 = .ok (.aload_n 0, 1) := dk_42 (dk_at dksX3_isKept_1 3 rfl rfl)
theorem dX3_isKept_27 : decode cX3_isKept 27 = .ok (.iload 6, 2) := dk_21 6 (dk_at dksX3_isKept_1 4 rfl rfl)
theorem dX3_isKept_29 : decode cX3_isKept 29 = .ok (.invokevirtual 118, 3) := dk_182 0 118 (dk_at dksX3_isKept_1 6 rfl rfl)
theorem dX3_isKept_32 : decode cX3_isKept 32 = .ok (.ifCond .ne 70, 3) := dk_154 0 70 (dk_at dksX3_isKept_1 9 rfl rfl)
theorem dX3_isKept_35 : decode cX3_isKept 35 = .ok (.iload 5, 2) := dk_21 5 (dk_at dksX3_isKept_1 12 rfl rfl)
theorem dX3_isKept_37 : decode cX3_isKept 37 = .ok (.iload 4, 2) := dk_21 4 (dk_at dksX3_isKept_1 14 rfl rfl)
theorem dX3_isKept_39 : decode cX3_isKept 39 = .ok (.if_icmp .eq 58, 3) := dk_159 0 58 (dk_at dksX3_isKept_1 16 rfl rfl)
theorem dX3_isKept_42 : decode cX3_isKept 42 = .ok (.aload_n 0, 1) := dk_42 (dk_at dksX3_isKept_1 19 rfl rfl)
theorem dX3_isKept_43 : decode cX3_isKept 43 = .ok (.getfield 78, 3) := dk_180 0 78 (dk_at dksX3_isKept_1 20 rfl rfl)
theorem dX3_isKept_46 : decode cX3_isKept 46 = .ok (.iload 5, 2) := dk_21 5 (dk_at dksX3_isKept_2 0 rfl rfl)
theorem dX3_isKept_48 : decode cX3_isKept 48 = .ok (.iaload, 1) := dk_46 (dk_at dksX3_isKept_2 2 rfl rfl)
theorem dX3_isKept_49 : decode cX3_isKept 49 = .ok (.aload_n 0, 1) := dk_42 (dk_at dksX3_isKept_2 3 rfl rfl)
theorem dX3_isKept_50 : decode cX3_isKept 50 = .ok (.getfield 7, 3) := dk_180 0 7 (dk_at dksX3_isKept_2 4 rfl rfl)
theorem dX3_isKept_53 : decode cX3_isKept 53 = .ok (.iload 6, 2) := dk_21 6 (dk_at dksX3_isKept_2 7 rfl rfl)
theorem dX3_isKept_55 : decode cX3_isKept 55 = .ok (.iaload, 1) := dk_46 (dk_at dksX3_isKept_2 9 rfl rfl)
theorem dX3_isKept_56 : decode cX3_isKept 56 = .ok (.if_icmp .ne 41, 3) := dk_160 0 41 (dk_at dksX3_isKept_2 10 rfl rfl)
theorem dX3_isKept_59 : decode cX3_isKept 59 = .ok (.aload_n 0, 1) := dk_42 (dk_at dksX3_isKept_2 13 rfl rfl)
theorem dX3_isKept_60 : decode cX3_isKept 60 = .ok (.getfield 81, 3) := dk_180 0 81 (dk_at dksX3_isKept_2 14 rfl rfl)
theorem dX3_isKept_63 : decode cX3_isKept 63 = .ok (.iload 5, 2) := dk_21 5 (dk_at dksX3_isKept_2 17 rfl rfl)
theorem dX3_isKept_65 : decode cX3_isKept 65 = .ok (.iaload, 1) := dk_46 (dk_at dksX3_isKept_2 19 rfl rfl)
theorem dX3_isKept_66 : decode cX3_isKept 66 = .ok (.aload_n 0, 1) := dk_42 (dk_at dksX3_isKept_2 20 rfl rfl)
theorem dX3_isKept_67 : decode cX3_isKept 67 = .ok (.iload_n 1, 1) := dk_27 (dk_at dksX3_isKept_2 21 rfl rfl)
theorem dX3_isKept_68 : decode cX3_isKept 68 = .ok (.iload 6, 2) := dk_21 6 (dk_at dksX3_isKept_2 22 rfl rfl)
theorem dX3_isKept_70 : decode cX3_isKept 70 = .ok (.invokevirtual 111, 3) := dk_182 0 111 (dk_at dksX3_isKept_3 0 rfl rfl)
theorem dX3_isKept_73 : decode cX3_isKept 73 = .ok (.if_icmp .ne 24, 3) := dk_160 0 24 (dk_at dksX3_isKept_3 3 rfl rfl)
theorem dX3_isKept_76 : decode cX3_isKept 76 = .ok (.aload_n 0, 1) := dk_42 (dk_at dksX3_isKept_3 6 rfl rfl)
theorem dX3_isKept_77 : decode cX3_isKept 77 = .ok (.getfield 84, 3) := dk_180 0 84 (dk_at dksX3_isKept_3 7 rfl rfl)
theorem dX3_isKept_80 : decode cX3_isKept 80 = .ok (.iload 5, 2) := dk_21 5 (dk_at dksX3_isKept_3 10 rfl rfl)
theorem dX3_isKept_82 : decode cX3_isKept 82 = .ok (.iaload, 1) := dk_46 (dk_at dksX3_isKept_3 12 rfl rfl)
theorem dX3_isKept_83 : decode cX3_isKept 83 = .ok (.aload_n 0, 1) := dk_42 (dk_at dksX3_isKept_3 13 rfl rfl)
theorem dX3_isKept_84 : decode cX3_isKept 84 = .ok (.aload_n 0, 1) := dk_42 (dk_at dksX3_isKept_3 14 rfl rfl)
theorem dX3_isKept_85 : decode cX3_isKept 85 = .ok (.getfield 16, 3) := dk_180 0 16 (dk_at dksX3_isKept_3 15 rfl rfl)
theorem dX3_isKept_88 : decode cX3_isKept 88 = .ok (.iload 6, 2) := dk_21 6 (dk_at dksX3_isKept_3 18 rfl rfl)
theorem dX3_isKept_90 : decode cX3_isKept 90 = .ok (.iaload, 1) := dk_46 (dk_at dksX3_isKept_3 20 rfl rfl)
theorem dX3_isKept_91 : decode cX3_isKept 91 = .ok (.invokevirtual 212, 3) := dk_182 0 212 (dk_at dksX3_isKept_3 21 rfl rfl)
theorem dX3_isKept_94 : decode cX3_isKept 94 = .ok (.if_icmp .eq 5, 3) := dk_159 0 5 (dk_at dksX3_isKept_4 0 rfl rfl)
theorem dX3_isKept_97 : decode cX3_isKept 97 = .ok (.iconst 0, 1) := dk_3 (dk_at dksX3_isKept_4 3 rfl rfl)
theorem dX3_isKept_98 : decode cX3_isKept 98 = .ok (.ireturn, 1) := dk_172 (dk_at dksX3_isKept_4 4 rfl rfl)
theorem dX3_isKept_99 : decode cX3_isKept 99 = .ok (.iinc 5 1, 3) := dk_132 5 1 (dk_at dksX3_isKept_4 5 rfl rfl)
theorem dX3_isKept_102 : decode cX3_isKept 102 = .ok (.iinc 6 1, 3) := dk_132 6 1 (dk_at dksX3_isKept_4 8 rfl rfl)
theorem dX3_isKept_105 : decode cX3_isKept 105 = .ok (.goto (-99), 3) := dk_167 255 157 (dk_at dksX3_isKept_4 11 rfl rfl)
theorem dX3_isKept_108 : decode cX3_isKept 108 = .ok (.iload 5, 2) := dk_21 5 (dk_at dksX3_isKept_4 14 rfl rfl)
theorem dX3_isKept_110 : decode cX3_isKept 110 = .ok (.iload 4, 2) := dk_21 4 (dk_at dksX3_isKept_4 16 rfl rfl)
theorem dX3_isKept_112 : decode cX3_isKept 112 = .ok (.if_icmp .ne 7, 3) := dk_160 0 7 (dk_at dksX3_isKept_4 18 rfl rfl)
theorem dX3_isKept_115 : decode cX3_isKept 115 = .ok (.iconst 1, 1) := dk_4 (dk_at dksX3_isKept_4 21 rfl rfl)
theorem dX3_isKept_116 : decode cX3_isKept 116 = .ok (.goto 4, 3) := dk_167 0 4 (dk_at dksX3_isKept_5 0 rfl rfl)
theorem dX3_isKept_119 : decode cX3_isKept 119 = .ok (.iconst 0, 1) := dk_3 (dk_at dksX3_isKept_5 3 rfl rfl)
theorem dX3_isKept_120 : decode cX3_isKept 120 = .ok (.ireturn, 1) := dk_172 (dk_at dksX3_isKept_5 4 rfl rfl)
abbrev cX3_areAlike : ByteArray := prog_7_method_54_code
def yX3_areAlike : MethodName := ⟨RX3, "areAlike", "(III)Z"⟩
def dkwX3_areAlike_6 : List UInt8 := [180, 0, 100, 161, 0, 16, 21, 5, 42, 180, 0, 100, 161, 0, 7, 4, 167, 0, 4, 3, 172]
abbrev dktX3_areAlike_6 : List UInt8 := dkwX3_areAlike_6 ++ []
def dkwX3_areAlike_5 : List UInt8 := [54, 4, 42, 29, 21, 5, 4, 96, 182, 0, 246, 54, 5, 167, 255, 145, 21, 6, 153, 0, 25, 21, 4, 42]
abbrev dktX3_areAlike_5 : List UInt8 := dkwX3_areAlike_5 ++ dktX3_areAlike_6
def dkwX3_areAlike_4 : List UInt8 := [46, 182, 0, 212, 160, 0, 7, 4, 167, 0, 4, 3, 54, 6, 42, 28, 21, 4, 4, 96, 182, 0, 246]
abbrev dktX3_areAlike_4 : List UInt8 := dkwX3_areAlike_4 ++ dktX3_areAlike_5
def dkwX3_areAlike_3 : List UInt8 := [182, 0, 111, 160, 0, 32, 42, 42, 180, 0, 16, 21, 4, 46, 182, 0, 212, 42, 42, 180, 0, 16, 21, 5]
abbrev dktX3_areAlike_3 : List UInt8 := dkwX3_areAlike_3 ++ dktX3_areAlike_4
def dkwX3_areAlike_2 : List UInt8 := [46, 42, 180, 0, 7, 21, 5, 46, 160, 0, 49, 42, 27, 21, 4, 182, 0, 111, 42, 27, 21, 5]
abbrev dktX3_areAlike_2 : List UInt8 := dkwX3_areAlike_2 ++ dktX3_areAlike_3
def dkwX3_areAlike_1 : List UInt8 := [21, 4, 42, 180, 0, 100, 162, 0, 103, 21, 5, 42, 180, 0, 100, 162, 0, 94, 42, 180, 0, 7, 21, 4]
abbrev dktX3_areAlike_1 : List UInt8 := dkwX3_areAlike_1 ++ dktX3_areAlike_2
def dkwX3_areAlike_0 : List UInt8 := [42, 28, 3, 182, 0, 246, 54, 4, 42, 29, 3, 182, 0, 246, 54, 5, 4, 54, 6, 21, 6, 153, 0, 112]
abbrev dktX3_areAlike_0 : List UInt8 := dkwX3_areAlike_0 ++ dktX3_areAlike_1
theorem dksX3_areAlike_0 : cX3_areAlike.data.toList.drop 0 = dktX3_areAlike_0 := by decide +kernel
theorem dksX3_areAlike_1 : cX3_areAlike.data.toList.drop 24 = dktX3_areAlike_1 := dk_seg dksX3_areAlike_0 24 rfl rfl
theorem dksX3_areAlike_2 : cX3_areAlike.data.toList.drop 48 = dktX3_areAlike_2 := dk_seg dksX3_areAlike_1 24 rfl rfl
theorem dksX3_areAlike_3 : cX3_areAlike.data.toList.drop 70 = dktX3_areAlike_3 := dk_seg dksX3_areAlike_2 22 rfl rfl
theorem dksX3_areAlike_4 : cX3_areAlike.data.toList.drop 94 = dktX3_areAlike_4 := dk_seg dksX3_areAlike_3 24 rfl rfl
theorem dksX3_areAlike_5 : cX3_areAlike.data.toList.drop 117 = dktX3_areAlike_5 := dk_seg dksX3_areAlike_4 23 rfl rfl
theorem dksX3_areAlike_6 : cX3_areAlike.data.toList.drop 141 = dktX3_areAlike_6 := dk_seg dksX3_areAlike_5 24 rfl rfl
theorem dX3_areAlike_0 : decode cX3_areAlike 0 = .ok (.aload_n 0, 1) := dk_42 (dk_at dksX3_areAlike_0 0 rfl rfl)
theorem dX3_areAlike_1 : decode cX3_areAlike 1 = .ok (.iload_n 2, 1) := dk_28 (dk_at dksX3_areAlike_0 1 rfl rfl)
theorem dX3_areAlike_2 : decode cX3_areAlike 2 = .ok (.iconst 0, 1) := dk_3 (dk_at dksX3_areAlike_0 2 rfl rfl)
theorem dX3_areAlike_3 : decode cX3_areAlike 3 = .ok (.invokevirtual 246, 3) := dk_182 0 246 (dk_at dksX3_areAlike_0 3 rfl rfl)
theorem dX3_areAlike_6 : decode cX3_areAlike 6 = .ok (.istore 4, 2) := dk_54 4 (dk_at dksX3_areAlike_0 6 rfl rfl)
theorem dX3_areAlike_8 : decode cX3_areAlike 8 = .ok (.aload_n 0, 1) := dk_42 (dk_at dksX3_areAlike_0 8 rfl rfl)
theorem dX3_areAlike_9 : decode cX3_areAlike 9 = .ok (.iload_n 3, 1) := dk_29 (dk_at dksX3_areAlike_0 9 rfl rfl)
theorem dX3_areAlike_10 : decode cX3_areAlike 10 = .ok (.iconst 0, 1) := dk_3 (dk_at dksX3_areAlike_0 10 rfl rfl)
theorem dX3_areAlike_11 : decode cX3_areAlike 11 = .ok (.invokevirtual 246, 3) := dk_182 0 246 (dk_at dksX3_areAlike_0 11 rfl rfl)
theorem dX3_areAlike_14 : decode cX3_areAlike 14 = .ok (.istore 5, 2) := dk_54 5 (dk_at dksX3_areAlike_0 14 rfl rfl)
theorem dX3_areAlike_16 : decode cX3_areAlike 16 = .ok (.iconst 1, 1) := dk_4 (dk_at dksX3_areAlike_0 16 rfl rfl)
theorem dX3_areAlike_17 : decode cX3_areAlike 17 = .ok (.istore 6, 2) := dk_54 6 (dk_at dksX3_areAlike_0 17 rfl rfl)
theorem dX3_areAlike_19 : decode cX3_areAlike 19 = .ok (.iload 6, 2) := dk_21 6 (dk_at dksX3_areAlike_0 19 rfl rfl)
theorem dX3_areAlike_21 : decode cX3_areAlike 21 = .ok (.ifCond .eq 112, 3) := dk_153 0 112 (dk_at dksX3_areAlike_0 21 rfl rfl)
theorem dX3_areAlike_24 : decode cX3_areAlike 24 = .ok (.iload 4, 2) := dk_21 4 (dk_at dksX3_areAlike_1 0 rfl rfl)
theorem dX3_areAlike_26 : decode cX3_areAlike 26 = .ok (.aload_n 0, 1) := dk_42 (dk_at dksX3_areAlike_1 2 rfl rfl)
theorem dX3_areAlike_27 : decode cX3_areAlike 27 = .ok (.getfield 100, 3) := dk_180 0 100 (dk_at dksX3_areAlike_1 3 rfl rfl)
theorem dX3_areAlike_30 : decode cX3_areAlike 30 = .ok (.if_icmp .ge 103, 3) := dk_162 0 103 (dk_at dksX3_areAlike_1 6 rfl rfl)
theorem dX3_areAlike_33 : decode cX3_areAlike 33 = .ok (.iload 5, 2) := dk_21 5 (dk_at dksX3_areAlike_1 9 rfl rfl)
theorem dX3_areAlike_35 : decode cX3_areAlike 35 = .ok (.aload_n 0, 1) := dk_42 (dk_at dksX3_areAlike_1 11 rfl rfl)
theorem dX3_areAlike_36 : decode cX3_areAlike 36 = .ok (.getfield 100, 3) := dk_180 0 100 (dk_at dksX3_areAlike_1 12 rfl rfl)
theorem dX3_areAlike_39 : decode cX3_areAlike 39 = .ok (.if_icmp .ge 94, 3) := dk_162 0 94 (dk_at dksX3_areAlike_1 15 rfl rfl)
theorem dX3_areAlike_42 : decode cX3_areAlike 42 = .ok (.aload_n 0, 1) := dk_42 (dk_at dksX3_areAlike_1 18 rfl rfl)
theorem dX3_areAlike_43 : decode cX3_areAlike 43 = .ok (.getfield 7, 3) := dk_180 0 7 (dk_at dksX3_areAlike_1 19 rfl rfl)
theorem dX3_areAlike_46 : decode cX3_areAlike 46 = .ok (.iload 4, 2) := dk_21 4 (dk_at dksX3_areAlike_1 22 rfl rfl)
theorem dX3_areAlike_48 : decode cX3_areAlike 48 = .ok (.iaload, 1) := dk_46 (dk_at dksX3_areAlike_2 0 rfl rfl)
theorem dX3_areAlike_49 : decode cX3_areAlike 49 = .ok (.aload_n 0, 1) := dk_42 (dk_at dksX3_areAlike_2 1 rfl rfl)
theorem dX3_areAlike_50 : decode cX3_areAlike 50 = .ok (.getfield 7, 3) := dk_180 0 7 (dk_at dksX3_areAlike_2 2 rfl rfl)
theorem dX3_areAlike_53 : decode cX3_areAlike 53 = .ok (.iload 5, 2) := dk_21 5 (dk_at dksX3_areAlike_2 5 rfl rfl)
theorem dX3_areAlike_55 : decode cX3_areAlike 55 = .ok (.iaload, 1) := dk_46 (dk_at dksX3_areAlike_2 7 rfl rfl)
theorem dX3_areAlike_56 : decode cX3_areAlike 56 = .ok (.if_icmp .ne 49, 3) := dk_160 0 49 (dk_at dksX3_areAlike_2 8 rfl rfl)
theorem dX3_areAlike_59 : decode cX3_areAlike 59 = .ok (.aload_n 0, 1) := dk_42 (dk_at dksX3_areAlike_2 11 rfl rfl)
theorem dX3_areAlike_60 : decode cX3_areAlike 60 = .ok (.iload_n 1, 1) := dk_27 (dk_at dksX3_areAlike_2 12 rfl rfl)
theorem dX3_areAlike_61 : decode cX3_areAlike 61 = .ok (.iload 4, 2) := dk_21 4 (dk_at dksX3_areAlike_2 13 rfl rfl)
theorem dX3_areAlike_63 : decode cX3_areAlike 63 = .ok (.invokevirtual 111, 3) := dk_182 0 111 (dk_at dksX3_areAlike_2 15 rfl rfl)
theorem dX3_areAlike_66 : decode cX3_areAlike 66 = .ok (.aload_n 0, 1) := dk_42 (dk_at dksX3_areAlike_2 18 rfl rfl)
theorem dX3_areAlike_67 : decode cX3_areAlike 67 = .ok (.iload_n 1, 1) := dk_27 (dk_at dksX3_areAlike_2 19 rfl rfl)
theorem dX3_areAlike_68 : decode cX3_areAlike 68 = .ok (.iload 5, 2) := dk_21 5 (dk_at dksX3_areAlike_2 20 rfl rfl)
theorem dX3_areAlike_70 : decode cX3_areAlike 70 = .ok (.invokevirtual 111, 3) := dk_182 0 111 (dk_at dksX3_areAlike_3 0 rfl rfl)
theorem dX3_areAlike_73 : decode cX3_areAlike 73 = .ok (.if_icmp .ne 32, 3) := dk_160 0 32 (dk_at dksX3_areAlike_3 3 rfl rfl)
theorem dX3_areAlike_76 : decode cX3_areAlike 76 = .ok (.aload_n 0, 1) := dk_42 (dk_at dksX3_areAlike_3 6 rfl rfl)
theorem dX3_areAlike_77 : decode cX3_areAlike 77 = .ok (.aload_n 0, 1) := dk_42 (dk_at dksX3_areAlike_3 7 rfl rfl)
theorem dX3_areAlike_78 : decode cX3_areAlike 78 = .ok (.getfield 16, 3) := dk_180 0 16 (dk_at dksX3_areAlike_3 8 rfl rfl)
theorem dX3_areAlike_81 : decode cX3_areAlike 81 = .ok (.iload 4, 2) := dk_21 4 (dk_at dksX3_areAlike_3 11 rfl rfl)
theorem dX3_areAlike_83 : decode cX3_areAlike 83 = .ok (.iaload, 1) := dk_46 (dk_at dksX3_areAlike_3 13 rfl rfl)
theorem dX3_areAlike_84 : decode cX3_areAlike 84 = .ok (.invokevirtual 212, 3) := dk_182 0 212 (dk_at dksX3_areAlike_3 14 rfl rfl)
theorem dX3_areAlike_87 : decode cX3_areAlike 87 = .ok (.aload_n 0, 1) := dk_42 (dk_at dksX3_areAlike_3 17 rfl rfl)
theorem dX3_areAlike_88 : decode cX3_areAlike 88 = .ok (.aload_n 0, 1) := dk_42 (dk_at dksX3_areAlike_3 18 rfl rfl)
theorem dX3_areAlike_89 : decode cX3_areAlike 89 = .ok (.getfield 16, 3) := dk_180 0 16 (dk_at dksX3_areAlike_3 19 rfl rfl)
theorem dX3_areAlike_92 : decode cX3_areAlike 92 = .ok (.iload 5, 2) := dk_21 5 (dk_at dksX3_areAlike_3 22 rfl rfl)
theorem dX3_areAlike_94 : decode cX3_areAlike 94 = .ok (.iaload, 1) := dk_46 (dk_at dksX3_areAlike_4 0 rfl rfl)
theorem dX3_areAlike_95 : decode cX3_areAlike 95 = .ok (.invokevirtual 212, 3) := dk_182 0 212 (dk_at dksX3_areAlike_4 1 rfl rfl)
theorem dX3_areAlike_98 : decode cX3_areAlike 98 = .ok (.if_icmp .ne 7, 3) := dk_160 0 7 (dk_at dksX3_areAlike_4 4 rfl rfl)
theorem dX3_areAlike_101 : decode cX3_areAlike 101 = .ok (.iconst 1, 1) := dk_4 (dk_at dksX3_areAlike_4 7 rfl rfl)
theorem dX3_areAlike_102 : decode cX3_areAlike 102 = .ok (.goto 4, 3) := dk_167 0 4 (dk_at dksX3_areAlike_4 8 rfl rfl)
theorem dX3_areAlike_105 : decode cX3_areAlike 105 = .ok (.iconst 0, 1) := dk_3 (dk_at dksX3_areAlike_4 11 rfl rfl)
theorem dX3_areAlike_106 : decode cX3_areAlike 106 = .ok (.istore 6, 2) := dk_54 6 (dk_at dksX3_areAlike_4 12 rfl rfl)
theorem dX3_areAlike_108 : decode cX3_areAlike 108 = .ok (.aload_n 0, 1) := dk_42 (dk_at dksX3_areAlike_4 14 rfl rfl)
theorem dX3_areAlike_109 : decode cX3_areAlike 109 = .ok (.iload_n 2, 1) := dk_28 (dk_at dksX3_areAlike_4 15 rfl rfl)
theorem dX3_areAlike_110 : decode cX3_areAlike 110 = .ok (.iload 4, 2) := dk_21 4 (dk_at dksX3_areAlike_4 16 rfl rfl)
theorem dX3_areAlike_112 : decode cX3_areAlike 112 = .ok (.iconst 1, 1) := dk_4 (dk_at dksX3_areAlike_4 18 rfl rfl)
theorem dX3_areAlike_113 : decode cX3_areAlike 113 = .ok (.iadd, 1) := dk_96 (dk_at dksX3_areAlike_4 19 rfl rfl)
theorem dX3_areAlike_114 : decode cX3_areAlike 114 = .ok (.invokevirtual 246, 3) := dk_182 0 246 (dk_at dksX3_areAlike_4 20 rfl rfl)
theorem dX3_areAlike_117 : decode cX3_areAlike 117 = .ok (.istore 4, 2) := dk_54 4 (dk_at dksX3_areAlike_5 0 rfl rfl)
theorem dX3_areAlike_119 : decode cX3_areAlike 119 = .ok (.aload_n 0, 1) := dk_42 (dk_at dksX3_areAlike_5 2 rfl rfl)
theorem dX3_areAlike_120 : decode cX3_areAlike 120 = .ok (.iload_n 3, 1) := dk_29 (dk_at dksX3_areAlike_5 3 rfl rfl)
theorem dX3_areAlike_121 : decode cX3_areAlike 121 = .ok (.iload 5, 2) := dk_21 5 (dk_at dksX3_areAlike_5 4 rfl rfl)
theorem dX3_areAlike_123 : decode cX3_areAlike 123 = .ok (.iconst 1, 1) := dk_4 (dk_at dksX3_areAlike_5 6 rfl rfl)
theorem dX3_areAlike_124 : decode cX3_areAlike 124 = .ok (.iadd, 1) := dk_96 (dk_at dksX3_areAlike_5 7 rfl rfl)
theorem dX3_areAlike_125 : decode cX3_areAlike 125 = .ok (.invokevirtual 246, 3) := dk_182 0 246 (dk_at dksX3_areAlike_5 8 rfl rfl)
theorem dX3_areAlike_128 : decode cX3_areAlike 128 = .ok (.istore 5, 2) := dk_54 5 (dk_at dksX3_areAlike_5 11 rfl rfl)
theorem dX3_areAlike_130 : decode cX3_areAlike 130 = .ok (.goto (-111), 3) := dk_167 255 145 (dk_at dksX3_areAlike_5 13 rfl rfl)
theorem dX3_areAlike_133 : decode cX3_areAlike 133 = .ok (.iload 6, 2) := dk_21 6 (dk_at dksX3_areAlike_5 16 rfl rfl)
theorem dX3_areAlike_135 : decode cX3_areAlike 135 = .ok (.ifCond .eq 25, 3) := dk_153 0 25 (dk_at dksX3_areAlike_5 18 rfl rfl)
theorem dX3_areAlike_138 : decode cX3_areAlike 138 = .ok (.iload 4, 2) := dk_21 4 (dk_at dksX3_areAlike_5 21 rfl rfl)
theorem dX3_areAlike_140 : decode cX3_areAlike 140 = .ok (.aload_n 0, 1) := dk_42 (dk_at dksX3_areAlike_5 23 rfl rfl)
theorem dX3_areAlike_141 : decode cX3_areAlike 141 = .ok (.getfield 100, 3) := dk_180 0 100 (dk_at dksX3_areAlike_6 0 rfl rfl)
theorem dX3_areAlike_144 : decode cX3_areAlike 144 = .ok (.if_icmp .lt 16, 3) := dk_161 0 16 (dk_at dksX3_areAlike_6 3 rfl rfl)
theorem dX3_areAlike_147 : decode cX3_areAlike 147 = .ok (.iload 5, 2) := dk_21 5 (dk_at dksX3_areAlike_6 6 rfl rfl)
theorem dX3_areAlike_149 : decode cX3_areAlike 149 = .ok (.aload_n 0, 1) := dk_42 (dk_at dksX3_areAlike_6 8 rfl rfl)
theorem dX3_areAlike_150 : decode cX3_areAlike 150 = .ok (.getfield 100, 3) := dk_180 0 100 (dk_at dksX3_areAlike_6 9 rfl rfl)
theorem dX3_areAlike_153 : decode cX3_areAlike 153 = .ok (.if_icmp .lt 7, 3) := dk_161 0 7 (dk_at dksX3_areAlike_6 12 rfl rfl)
theorem dX3_areAlike_156 : decode cX3_areAlike 156 = .ok (.iconst 1, 1) := dk_4 (dk_at dksX3_areAlike_6 15 rfl rfl)
theorem dX3_areAlike_157 : decode cX3_areAlike 157 = .ok (.goto 4, 3) := dk_167 0 4 (dk_at dksX3_areAlike_6 16 rfl rfl)
theorem dX3_areAlike_160 : decode cX3_areAlike 160 = .ok (.iconst 0, 1) := dk_3 (dk_at dksX3_areAlike_6 19 rfl rfl)
theorem dX3_areAlike_161 : decode cX3_areAlike 161 = .ok (.ireturn, 1) := dk_172 (dk_at dksX3_areAlike_6 20 rfl rfl)
abbrev cX3_nextOn : ByteArray := prog_7_method_53_code
def yX3_nextOn : MethodName := ⟨RX3, "nextOn", "(II)I"⟩
def dkwX3_nextOn_1 : List UInt8 := [182, 0, 118, 153, 0, 9, 132, 3, 1, 167, 255, 227, 29, 172]
abbrev dktX3_nextOn_1 : List UInt8 := dkwX3_nextOn_1 ++ []
def dkwX3_nextOn_0 : List UInt8 := [28, 62, 29, 42, 180, 0, 100, 162, 0, 27, 42, 180, 0, 50, 29, 46, 27, 160, 0, 11, 42, 29]
abbrev dktX3_nextOn_0 : List UInt8 := dkwX3_nextOn_0 ++ dktX3_nextOn_1
theorem dksX3_nextOn_0 : cX3_nextOn.data.toList.drop 0 = dktX3_nextOn_0 := by decide +kernel
theorem dksX3_nextOn_1 : cX3_nextOn.data.toList.drop 22 = dktX3_nextOn_1 := dk_seg dksX3_nextOn_0 22 rfl rfl
theorem dX3_nextOn_0 : decode cX3_nextOn 0 = .ok (.iload_n 2, 1) := dk_28 (dk_at dksX3_nextOn_0 0 rfl rfl)
theorem dX3_nextOn_1 : decode cX3_nextOn 1 = .ok (.istore_n 3, 1) := dk_62 (dk_at dksX3_nextOn_0 1 rfl rfl)
theorem dX3_nextOn_2 : decode cX3_nextOn 2 = .ok (.iload_n 3, 1) := dk_29 (dk_at dksX3_nextOn_0 2 rfl rfl)
theorem dX3_nextOn_3 : decode cX3_nextOn 3 = .ok (.aload_n 0, 1) := dk_42 (dk_at dksX3_nextOn_0 3 rfl rfl)
theorem dX3_nextOn_4 : decode cX3_nextOn 4 = .ok (.getfield 100, 3) := dk_180 0 100 (dk_at dksX3_nextOn_0 4 rfl rfl)
theorem dX3_nextOn_7 : decode cX3_nextOn 7 = .ok (.if_icmp .ge 27, 3) := dk_162 0 27 (dk_at dksX3_nextOn_0 7 rfl rfl)
theorem dX3_nextOn_10 : decode cX3_nextOn 10 = .ok (.aload_n 0, 1) := dk_42 (dk_at dksX3_nextOn_0 10 rfl rfl)
theorem dX3_nextOn_11 : decode cX3_nextOn 11 = .ok (.getfield 50, 3) := dk_180 0 50 (dk_at dksX3_nextOn_0 11 rfl rfl)
theorem dX3_nextOn_14 : decode cX3_nextOn 14 = .ok (.iload_n 3, 1) := dk_29 (dk_at dksX3_nextOn_0 14 rfl rfl)
theorem dX3_nextOn_15 : decode cX3_nextOn 15 = .ok (.iaload, 1) := dk_46 (dk_at dksX3_nextOn_0 15 rfl rfl)
theorem dX3_nextOn_16 : decode cX3_nextOn 16 = .ok (.iload_n 1, 1) := dk_27 (dk_at dksX3_nextOn_0 16 rfl rfl)
theorem dX3_nextOn_17 : decode cX3_nextOn 17 = .ok (.if_icmp .ne 11, 3) := dk_160 0 11 (dk_at dksX3_nextOn_0 17 rfl rfl)
theorem dX3_nextOn_20 : decode cX3_nextOn 20 = .ok (.aload_n 0, 1) := dk_42 (dk_at dksX3_nextOn_0 20 rfl rfl)
theorem dX3_nextOn_21 : decode cX3_nextOn 21 = .ok (.iload_n 3, 1) := dk_29 (dk_at dksX3_nextOn_0 21 rfl rfl)
theorem dX3_nextOn_22 : decode cX3_nextOn 22 = .ok (.invokevirtual 118, 3) := dk_182 0 118 (dk_at dksX3_nextOn_1 0 rfl rfl)
theorem dX3_nextOn_25 : decode cX3_nextOn 25 = .ok (.ifCond .eq 9, 3) := dk_153 0 9 (dk_at dksX3_nextOn_1 3 rfl rfl)
theorem dX3_nextOn_28 : decode cX3_nextOn 28 = .ok (.iinc 3 1, 3) := dk_132 3 1 (dk_at dksX3_nextOn_1 6 rfl rfl)
theorem dX3_nextOn_31 : decode cX3_nextOn 31 = .ok (.goto (-29), 3) := dk_167 255 227 (dk_at dksX3_nextOn_1 9 rfl rfl)
theorem dX3_nextOn_34 : decode cX3_nextOn 34 = .ok (.iload_n 3, 1) := dk_29 (dk_at dksX3_nextOn_1 12 rfl rfl)
theorem dX3_nextOn_35 : decode cX3_nextOn 35 = .ok (.ireturn, 1) := dk_172 (dk_at dksX3_nextOn_1 13 rfl rfl)
abbrev cX3_tokens : ByteArray := prog_7_method_56_code
def yX3_tokens : MethodName := ⟨RX3, "tokens", "()I"⟩
def dkwX3_tokens_0 : List UInt8 := [42, 3, 181, 0, 90, 42, 180, 0, 100, 172]
abbrev dktX3_tokens_0 : List UInt8 := dkwX3_tokens_0 ++ []
theorem dksX3_tokens_0 : cX3_tokens.data.toList.drop 0 = dktX3_tokens_0 := by decide +kernel
theorem dX3_tokens_0 : decode cX3_tokens 0 = .ok (.aload_n 0, 1) := dk_42 (dk_at dksX3_tokens_0 0 rfl rfl)
theorem dX3_tokens_1 : decode cX3_tokens 1 = .ok (.iconst 0, 1) := dk_3 (dk_at dksX3_tokens_0 1 rfl rfl)
theorem dX3_tokens_2 : decode cX3_tokens 2 = .ok (.putfield 90, 3) := dk_181 0 90 (dk_at dksX3_tokens_0 2 rfl rfl)
theorem dX3_tokens_5 : decode cX3_tokens 5 = .ok (.aload_n 0, 1) := dk_42 (dk_at dksX3_tokens_0 5 rfl rfl)
theorem dX3_tokens_6 : decode cX3_tokens 6 = .ok (.getfield 100, 3) := dk_180 0 100 (dk_at dksX3_tokens_0 6 rfl rfl)
theorem dX3_tokens_9 : decode cX3_tokens 9 = .ok (.ireturn, 1) := dk_172 (dk_at dksX3_tokens_0 9 rfl rfl)
theorem q59 : (Jvm.Cond.initialized "QuirefoldModel") ∈ lw_all := lw_g (lw_at lw_m1 6 rfl) rfl
theorem q654 : (Jvm.Cond.selects "QuirefoldModel" ({ cls := "java/lang/Object", name := "getClass", desc := "()Ljava/lang/Class;" } : Jvm.MethodName) ({ cls := "java/lang/Object", name := "getClass", desc := "()Ljava/lang/Class;" } : Jvm.MethodName)) ∈ lw_all := lw_g (lw_at lw_m3 121 rfl) rfl
theorem q1187 : (Jvm.Cond.instantiable "QuirefoldModel" (38 : Nat)) ∈ lw_all := lw_g (lw_at lw_m5 174 rfl) rfl
theorem q1189 : (Jvm.Cond.instanceMethod ({ cls := "QuirefoldModel", name := "<init>", desc := "()V" } : Jvm.MethodName)) ∈ lw_all := lw_g (lw_at lw_m5 176 rfl) rfl
theorem q1190 : (Jvm.Cond.code ({ cls := "QuirefoldModel", name := "<init>", desc := "()V" } : Jvm.MethodName) prog_7_method_1_code (1 : Nat) (Option.none : Option Jvm.ClassFile.FieldType)) ∈ lw_all := lw_g (lw_at lw_m5 177 rfl) rfl
theorem q1191 : (Jvm.Cond.methodLink "QuirefoldModel" (1 : Nat) ({ cls := "java/lang/Object", name := "<init>", desc := "()V" } : Jvm.MethodName)) ∈ lw_all := lw_g (lw_at lw_m5 178 rfl) rfl
theorem q1192 : (Jvm.Cond.fieldLink "QuirefoldModel" (100 : Nat) "QuirefoldModel" "many" "I") ∈ lw_all := lw_g (lw_at lw_m5 179 rfl) rfl
theorem q1193 : (Jvm.Cond.fieldLink "QuirefoldModel" (7 : Nat) "QuirefoldModel" "kind" "[I") ∈ lw_all := lw_g (lw_at lw_m5 180 rfl) rfl
theorem q1194 : (Jvm.Cond.fieldLink "QuirefoldModel" (13 : Nat) "QuirefoldModel" "number" "[I") ∈ lw_all := lw_g (lw_at lw_m5 181 rfl) rfl
theorem q1195 : (Jvm.Cond.fieldLink "QuirefoldModel" (16 : Nat) "QuirefoldModel" "styleOf" "[I") ∈ lw_all := lw_g (lw_at lw_m5 182 rfl) rfl
theorem q1196 : (Jvm.Cond.fieldLink "QuirefoldModel" (19 : Nat) "QuirefoldModel" "base" "[I") ∈ lw_all := lw_g (lw_at lw_m5 183 rfl) rfl
theorem q1197 : (Jvm.Cond.fieldLink "QuirefoldModel" (22 : Nat) "QuirefoldModel" "extra" "[I") ∈ lw_all := lw_g (lw_at lw_m5 184 rfl) rfl
theorem q1198 : (Jvm.Cond.fieldLink "QuirefoldModel" (25 : Nat) "QuirefoldModel" "colour" "[I") ∈ lw_all := lw_g (lw_at lw_m5 185 rfl) rfl
theorem q1199 : (Jvm.Cond.fieldLink "QuirefoldModel" (28 : Nat) "QuirefoldModel" "data" "[I") ∈ lw_all := lw_g (lw_at lw_m5 186 rfl) rfl
theorem q1200 : (Jvm.Cond.fieldLink "QuirefoldModel" (31 : Nat) "QuirefoldModel" "width" "I") ∈ lw_all := lw_g (lw_at lw_m5 187 rfl) rfl
theorem q1201 : (Jvm.Cond.fieldLink "QuirefoldModel" (35 : Nat) "QuirefoldModel" "room" "I") ∈ lw_all := lw_g (lw_at lw_m5 188 rfl) rfl
theorem q1202 : (Jvm.Cond.fieldLink "QuirefoldModel" (38 : Nat) "QuirefoldModel" "columns" "I") ∈ lw_all := lw_g (lw_at lw_m5 189 rfl) rfl
theorem q1203 : (Jvm.Cond.fieldLink "QuirefoldModel" (41 : Nat) "QuirefoldModel" "sees" "[I") ∈ lw_all := lw_g (lw_at lw_m5 190 rfl) rfl
theorem q1204 : (Jvm.Cond.fieldLink "QuirefoldModel" (44 : Nat) "QuirefoldModel" "signature" "I") ∈ lw_all := lw_g (lw_at lw_m5 191 rfl) rfl
theorem q1205 : (Jvm.Cond.fieldLink "QuirefoldModel" (47 : Nat) "QuirefoldModel" "creep" "I") ∈ lw_all := lw_g (lw_at lw_m5 192 rfl) rfl
theorem q1206 : (Jvm.Cond.fieldLink "QuirefoldModel" (97 : Nat) "QuirefoldModel" "lines" "I") ∈ lw_all := lw_g (lw_at lw_m5 193 rfl) rfl
theorem q1207 : (Jvm.Cond.fieldLink "QuirefoldModel" (50 : Nat) "QuirefoldModel" "lineOf" "[I") ∈ lw_all := lw_g (lw_at lw_m5 194 rfl) rfl
theorem q1208 : (Jvm.Cond.fieldLink "QuirefoldModel" (53 : Nat) "QuirefoldModel" "figureIn" "[I") ∈ lw_all := lw_g (lw_at lw_m5 195 rfl) rfl
theorem q1209 : (Jvm.Cond.fieldLink "QuirefoldModel" (56 : Nat) "QuirefoldModel" "columnOf" "[I") ∈ lw_all := lw_g (lw_at lw_m5 196 rfl) rfl
theorem q1210 : (Jvm.Cond.fieldLink "QuirefoldModel" (59 : Nat) "QuirefoldModel" "notes" "[I") ∈ lw_all := lw_g (lw_at lw_m5 197 rfl) rfl
theorem q1211 : (Jvm.Cond.fieldLink "QuirefoldModel" (62 : Nat) "QuirefoldModel" "isHead" "[Z") ∈ lw_all := lw_g (lw_at lw_m5 198 rfl) rfl
theorem q1212 : (Jvm.Cond.fieldLink "QuirefoldModel" (66 : Nat) "QuirefoldModel" "isFirst" "[Z") ∈ lw_all := lw_g (lw_at lw_m5 199 rfl) rfl
theorem q1213 : (Jvm.Cond.fieldLink "QuirefoldModel" (69 : Nat) "QuirefoldModel" "isLong" "[Z") ∈ lw_all := lw_g (lw_at lw_m5 200 rfl) rfl
theorem q1214 : (Jvm.Cond.fieldLink "QuirefoldModel" (126 : Nat) "QuirefoldModel" "all" "I") ∈ lw_all := lw_g (lw_at lw_m5 201 rfl) rfl
theorem q1215 : (Jvm.Cond.fieldLink "QuirefoldModel" (164 : Nat) "QuirefoldModel" "front" "I") ∈ lw_all := lw_g (lw_at lw_m5 202 rfl) rfl
theorem q1216 : (Jvm.Cond.fieldLink "QuirefoldModel" (167 : Nat) "QuirefoldModel" "rests" "Z") ∈ lw_all := lw_g (lw_at lw_m5 203 rfl) rfl
theorem q1217 : (Jvm.Cond.fieldLink "QuirefoldModel" (72 : Nat) "QuirefoldModel" "waits" "[I") ∈ lw_all := lw_g (lw_at lw_m5 204 rfl) rfl
theorem q1218 : (Jvm.Cond.fieldLink "QuirefoldModel" (139 : Nat) "QuirefoldModel" "waitsFrom" "I") ∈ lw_all := lw_g (lw_at lw_m5 205 rfl) rfl
theorem q1219 : (Jvm.Cond.fieldLink "QuirefoldModel" (142 : Nat) "QuirefoldModel" "waitsTo" "I") ∈ lw_all := lw_g (lw_at lw_m5 206 rfl) rfl
theorem q1220 : (Jvm.Cond.fieldLink "QuirefoldModel" (129 : Nat) "QuirefoldModel" "left" "I") ∈ lw_all := lw_g (lw_at lw_m5 207 rfl) rfl
theorem q1221 : (Jvm.Cond.fieldLink "QuirefoldModel" (132 : Nat) "QuirefoldModel" "hasLine" "Z") ∈ lw_all := lw_g (lw_at lw_m5 208 rfl) rfl
theorem q1222 : (Jvm.Cond.fieldLink "QuirefoldModel" (136 : Nat) "QuirefoldModel" "hasSome" "Z") ∈ lw_all := lw_g (lw_at lw_m5 209 rfl) rfl
theorem q1223 : (Jvm.Cond.fieldLink "QuirefoldModel" (209 : Nat) "QuirefoldModel" "keptLines" "I") ∈ lw_all := lw_g (lw_at lw_m5 210 rfl) rfl
theorem q1224 : (Jvm.Cond.fieldLink "QuirefoldModel" (75 : Nat) "QuirefoldModel" "keptFrom" "[I") ∈ lw_all := lw_g (lw_at lw_m5 211 rfl) rfl
theorem q1225 : (Jvm.Cond.fieldLink "QuirefoldModel" (78 : Nat) "QuirefoldModel" "keptKind" "[I") ∈ lw_all := lw_g (lw_at lw_m5 212 rfl) rfl
theorem q1226 : (Jvm.Cond.fieldLink "QuirefoldModel" (81 : Nat) "QuirefoldModel" "keptWidth" "[I") ∈ lw_all := lw_g (lw_at lw_m5 213 rfl) rfl
theorem q1227 : (Jvm.Cond.fieldLink "QuirefoldModel" (84 : Nat) "QuirefoldModel" "keptColour" "[I") ∈ lw_all := lw_g (lw_at lw_m5 214 rfl) rfl
theorem q1228 : (Jvm.Cond.fieldLink "QuirefoldModel" (87 : Nat) "QuirefoldModel" "isOn" "[Z") ∈ lw_all := lw_g (lw_at lw_m5 215 rfl) rfl
theorem q1229 : (Jvm.Cond.fieldLink "QuirefoldModel" (90 : Nat) "QuirefoldModel" "thrown" "I") ∈ lw_all := lw_g (lw_at lw_m5 216 rfl) rfl
theorem q1230 : (Jvm.Cond.lays "QuirefoldModel" "QuirefoldModel" "many" "I") ∈ lw_all := lw_g (lw_at lw_m5 217 rfl) rfl
theorem q1231 : (Jvm.Cond.soleField "QuirefoldModel" "many") ∈ lw_all := lw_g (lw_at lw_m5 218 rfl) rfl
theorem q1232 : (Jvm.Cond.laysFinal "QuirefoldModel" "QuirefoldModel" "kind" "[I") ∈ lw_all := lw_g (lw_at lw_m5 219 rfl) rfl
theorem q1233 : (Jvm.Cond.soleField "QuirefoldModel" "kind") ∈ lw_all := lw_g (lw_at lw_m5 220 rfl) rfl
theorem q1234 : (Jvm.Cond.laysFinal "QuirefoldModel" "QuirefoldModel" "number" "[I") ∈ lw_all := lw_g (lw_at lw_m5 221 rfl) rfl
theorem q1235 : (Jvm.Cond.soleField "QuirefoldModel" "number") ∈ lw_all := lw_g (lw_at lw_m5 222 rfl) rfl
theorem q1236 : (Jvm.Cond.laysFinal "QuirefoldModel" "QuirefoldModel" "styleOf" "[I") ∈ lw_all := lw_g (lw_at lw_m5 223 rfl) rfl
theorem q1237 : (Jvm.Cond.soleField "QuirefoldModel" "styleOf") ∈ lw_all := lw_g (lw_at lw_m5 224 rfl) rfl
theorem q1238 : (Jvm.Cond.laysFinal "QuirefoldModel" "QuirefoldModel" "base" "[I") ∈ lw_all := lw_g (lw_at lw_m5 225 rfl) rfl
theorem q1239 : (Jvm.Cond.soleField "QuirefoldModel" "base") ∈ lw_all := lw_g (lw_at lw_m5 226 rfl) rfl
theorem q1240 : (Jvm.Cond.laysFinal "QuirefoldModel" "QuirefoldModel" "extra" "[I") ∈ lw_all := lw_g (lw_at lw_m5 227 rfl) rfl
theorem q1241 : (Jvm.Cond.soleField "QuirefoldModel" "extra") ∈ lw_all := lw_g (lw_at lw_m5 228 rfl) rfl
theorem q1242 : (Jvm.Cond.laysFinal "QuirefoldModel" "QuirefoldModel" "colour" "[I") ∈ lw_all := lw_g (lw_at lw_m5 229 rfl) rfl
theorem q1243 : (Jvm.Cond.soleField "QuirefoldModel" "colour") ∈ lw_all := lw_g (lw_at lw_m5 230 rfl) rfl
theorem q1244 : (Jvm.Cond.laysFinal "QuirefoldModel" "QuirefoldModel" "data" "[I") ∈ lw_all := lw_g (lw_at lw_m5 231 rfl) rfl
theorem q1245 : (Jvm.Cond.soleField "QuirefoldModel" "data") ∈ lw_all := lw_g (lw_at lw_m5 232 rfl) rfl
theorem q1246 : (Jvm.Cond.lays "QuirefoldModel" "QuirefoldModel" "width" "I") ∈ lw_all := lw_g (lw_at lw_m5 233 rfl) rfl
theorem q1247 : (Jvm.Cond.soleField "QuirefoldModel" "width") ∈ lw_all := lw_g (lw_at lw_m5 234 rfl) rfl
theorem q1248 : (Jvm.Cond.lays "QuirefoldModel" "QuirefoldModel" "room" "I") ∈ lw_all := lw_g (lw_at lw_m5 235 rfl) rfl
theorem q1249 : (Jvm.Cond.soleField "QuirefoldModel" "room") ∈ lw_all := lw_g (lw_at lw_m5 236 rfl) rfl
theorem q1250 : (Jvm.Cond.lays "QuirefoldModel" "QuirefoldModel" "columns" "I") ∈ lw_all := lw_g (lw_at lw_m5 237 rfl) rfl
theorem q1251 : (Jvm.Cond.soleField "QuirefoldModel" "columns") ∈ lw_all := lw_g (lw_at lw_m5 238 rfl) rfl
theorem q1252 : (Jvm.Cond.laysFinal "QuirefoldModel" "QuirefoldModel" "sees" "[I") ∈ lw_all := lw_g (lw_at lw_m5 239 rfl) rfl
theorem q1253 : (Jvm.Cond.soleField "QuirefoldModel" "sees") ∈ lw_all := lw_g (lw_at lw_m6 0 rfl) rfl
theorem q1254 : (Jvm.Cond.lays "QuirefoldModel" "QuirefoldModel" "signature" "I") ∈ lw_all := lw_g (lw_at lw_m6 1 rfl) rfl
theorem q1255 : (Jvm.Cond.soleField "QuirefoldModel" "signature") ∈ lw_all := lw_g (lw_at lw_m6 2 rfl) rfl
theorem q1256 : (Jvm.Cond.lays "QuirefoldModel" "QuirefoldModel" "creep" "I") ∈ lw_all := lw_g (lw_at lw_m6 3 rfl) rfl
theorem q1257 : (Jvm.Cond.soleField "QuirefoldModel" "creep") ∈ lw_all := lw_g (lw_at lw_m6 4 rfl) rfl
theorem q1258 : (Jvm.Cond.lays "QuirefoldModel" "QuirefoldModel" "lines" "I") ∈ lw_all := lw_g (lw_at lw_m6 5 rfl) rfl
theorem q1259 : (Jvm.Cond.soleField "QuirefoldModel" "lines") ∈ lw_all := lw_g (lw_at lw_m6 6 rfl) rfl
theorem q1260 : (Jvm.Cond.laysFinal "QuirefoldModel" "QuirefoldModel" "lineOf" "[I") ∈ lw_all := lw_g (lw_at lw_m6 7 rfl) rfl
theorem q1261 : (Jvm.Cond.soleField "QuirefoldModel" "lineOf") ∈ lw_all := lw_g (lw_at lw_m6 8 rfl) rfl
theorem q1262 : (Jvm.Cond.laysFinal "QuirefoldModel" "QuirefoldModel" "figureIn" "[I") ∈ lw_all := lw_g (lw_at lw_m6 9 rfl) rfl
theorem q1263 : (Jvm.Cond.soleField "QuirefoldModel" "figureIn") ∈ lw_all := lw_g (lw_at lw_m6 10 rfl) rfl
theorem q1264 : (Jvm.Cond.laysFinal "QuirefoldModel" "QuirefoldModel" "columnOf" "[I") ∈ lw_all := lw_g (lw_at lw_m6 11 rfl) rfl
theorem q1265 : (Jvm.Cond.soleField "QuirefoldModel" "columnOf") ∈ lw_all := lw_g (lw_at lw_m6 12 rfl) rfl
theorem q1266 : (Jvm.Cond.laysFinal "QuirefoldModel" "QuirefoldModel" "notes" "[I") ∈ lw_all := lw_g (lw_at lw_m6 13 rfl) rfl
theorem q1267 : (Jvm.Cond.soleField "QuirefoldModel" "notes") ∈ lw_all := lw_g (lw_at lw_m6 14 rfl) rfl
theorem q1268 : (Jvm.Cond.laysFinal "QuirefoldModel" "QuirefoldModel" "isHead" "[Z") ∈ lw_all := lw_g (lw_at lw_m6 15 rfl) rfl
theorem q1269 : (Jvm.Cond.soleField "QuirefoldModel" "isHead") ∈ lw_all := lw_g (lw_at lw_m6 16 rfl) rfl
theorem q1270 : (Jvm.Cond.laysFinal "QuirefoldModel" "QuirefoldModel" "isFirst" "[Z") ∈ lw_all := lw_g (lw_at lw_m6 17 rfl) rfl
theorem q1271 : (Jvm.Cond.soleField "QuirefoldModel" "isFirst") ∈ lw_all := lw_g (lw_at lw_m6 18 rfl) rfl
theorem q1272 : (Jvm.Cond.laysFinal "QuirefoldModel" "QuirefoldModel" "isLong" "[Z") ∈ lw_all := lw_g (lw_at lw_m6 19 rfl) rfl
theorem q1273 : (Jvm.Cond.soleField "QuirefoldModel" "isLong") ∈ lw_all := lw_g (lw_at lw_m6 20 rfl) rfl
theorem q1274 : (Jvm.Cond.lays "QuirefoldModel" "QuirefoldModel" "all" "I") ∈ lw_all := lw_g (lw_at lw_m6 21 rfl) rfl
theorem q1275 : (Jvm.Cond.soleField "QuirefoldModel" "all") ∈ lw_all := lw_g (lw_at lw_m6 22 rfl) rfl
theorem q1276 : (Jvm.Cond.lays "QuirefoldModel" "QuirefoldModel" "front" "I") ∈ lw_all := lw_g (lw_at lw_m6 23 rfl) rfl
theorem q1277 : (Jvm.Cond.soleField "QuirefoldModel" "front") ∈ lw_all := lw_g (lw_at lw_m6 24 rfl) rfl
theorem q1278 : (Jvm.Cond.lays "QuirefoldModel" "QuirefoldModel" "rests" "Z") ∈ lw_all := lw_g (lw_at lw_m6 25 rfl) rfl
theorem q1279 : (Jvm.Cond.soleField "QuirefoldModel" "rests") ∈ lw_all := lw_g (lw_at lw_m6 26 rfl) rfl
theorem q1280 : (Jvm.Cond.laysFinal "QuirefoldModel" "QuirefoldModel" "waits" "[I") ∈ lw_all := lw_g (lw_at lw_m6 27 rfl) rfl
theorem q1281 : (Jvm.Cond.soleField "QuirefoldModel" "waits") ∈ lw_all := lw_g (lw_at lw_m6 28 rfl) rfl
theorem q1282 : (Jvm.Cond.lays "QuirefoldModel" "QuirefoldModel" "waitsFrom" "I") ∈ lw_all := lw_g (lw_at lw_m6 29 rfl) rfl
theorem q1283 : (Jvm.Cond.soleField "QuirefoldModel" "waitsFrom") ∈ lw_all := lw_g (lw_at lw_m6 30 rfl) rfl
theorem q1284 : (Jvm.Cond.lays "QuirefoldModel" "QuirefoldModel" "waitsTo" "I") ∈ lw_all := lw_g (lw_at lw_m6 31 rfl) rfl
theorem q1285 : (Jvm.Cond.soleField "QuirefoldModel" "waitsTo") ∈ lw_all := lw_g (lw_at lw_m6 32 rfl) rfl
theorem q1286 : (Jvm.Cond.lays "QuirefoldModel" "QuirefoldModel" "left" "I") ∈ lw_all := lw_g (lw_at lw_m6 33 rfl) rfl
theorem q1287 : (Jvm.Cond.soleField "QuirefoldModel" "left") ∈ lw_all := lw_g (lw_at lw_m6 34 rfl) rfl
theorem q1288 : (Jvm.Cond.lays "QuirefoldModel" "QuirefoldModel" "hasLine" "Z") ∈ lw_all := lw_g (lw_at lw_m6 35 rfl) rfl
theorem q1289 : (Jvm.Cond.soleField "QuirefoldModel" "hasLine") ∈ lw_all := lw_g (lw_at lw_m6 36 rfl) rfl
theorem q1290 : (Jvm.Cond.lays "QuirefoldModel" "QuirefoldModel" "hasSome" "Z") ∈ lw_all := lw_g (lw_at lw_m6 37 rfl) rfl
theorem q1291 : (Jvm.Cond.soleField "QuirefoldModel" "hasSome") ∈ lw_all := lw_g (lw_at lw_m6 38 rfl) rfl
theorem q1292 : (Jvm.Cond.lays "QuirefoldModel" "QuirefoldModel" "keptLines" "I") ∈ lw_all := lw_g (lw_at lw_m6 39 rfl) rfl
theorem q1293 : (Jvm.Cond.soleField "QuirefoldModel" "keptLines") ∈ lw_all := lw_g (lw_at lw_m6 40 rfl) rfl
theorem q1294 : (Jvm.Cond.laysFinal "QuirefoldModel" "QuirefoldModel" "keptFrom" "[I") ∈ lw_all := lw_g (lw_at lw_m6 41 rfl) rfl
theorem q1295 : (Jvm.Cond.soleField "QuirefoldModel" "keptFrom") ∈ lw_all := lw_g (lw_at lw_m6 42 rfl) rfl
theorem q1296 : (Jvm.Cond.laysFinal "QuirefoldModel" "QuirefoldModel" "keptKind" "[I") ∈ lw_all := lw_g (lw_at lw_m6 43 rfl) rfl
theorem q1297 : (Jvm.Cond.soleField "QuirefoldModel" "keptKind") ∈ lw_all := lw_g (lw_at lw_m6 44 rfl) rfl
theorem q1298 : (Jvm.Cond.laysFinal "QuirefoldModel" "QuirefoldModel" "keptWidth" "[I") ∈ lw_all := lw_g (lw_at lw_m6 45 rfl) rfl
theorem q1299 : (Jvm.Cond.soleField "QuirefoldModel" "keptWidth") ∈ lw_all := lw_g (lw_at lw_m6 46 rfl) rfl
theorem q1300 : (Jvm.Cond.laysFinal "QuirefoldModel" "QuirefoldModel" "keptColour" "[I") ∈ lw_all := lw_g (lw_at lw_m6 47 rfl) rfl
theorem q1301 : (Jvm.Cond.soleField "QuirefoldModel" "keptColour") ∈ lw_all := lw_g (lw_at lw_m6 48 rfl) rfl
theorem q1302 : (Jvm.Cond.laysFinal "QuirefoldModel" "QuirefoldModel" "isOn" "[Z") ∈ lw_all := lw_g (lw_at lw_m6 49 rfl) rfl
theorem q1303 : (Jvm.Cond.soleField "QuirefoldModel" "isOn") ∈ lw_all := lw_g (lw_at lw_m6 50 rfl) rfl
theorem q1304 : (Jvm.Cond.lays "QuirefoldModel" "QuirefoldModel" "thrown" "I") ∈ lw_all := lw_g (lw_at lw_m6 51 rfl) rfl
theorem q1305 : (Jvm.Cond.soleField "QuirefoldModel" "thrown") ∈ lw_all := lw_g (lw_at lw_m6 52 rfl) rfl
theorem q1306 : (Jvm.Cond.superclass "QuirefoldModel" "java/lang/Object") ∈ lw_all := lw_g (lw_at lw_m6 53 rfl) rfl
theorem q1309 : (Jvm.Cond.instanceMethod ({ cls := "QuirefoldModel", name := "thrown", desc := "()I" } : Jvm.MethodName)) ∈ lw_all := lw_g (lw_at lw_m6 56 rfl) rfl
theorem q1310 : (Jvm.Cond.selects "QuirefoldModel" ({ cls := "QuirefoldModel", name := "thrown", desc := "()I" } : Jvm.MethodName) ({ cls := "QuirefoldModel", name := "thrown", desc := "()I" } : Jvm.MethodName)) ∈ lw_all := lw_g (lw_at lw_m6 57 rfl) rfl
theorem q1311 : (Jvm.Cond.code ({ cls := "QuirefoldModel", name := "thrown", desc := "()I" } : Jvm.MethodName) prog_7_method_2_code (1 : Nat) (Option.some Jvm.ClassFile.FieldType.int)) ∈ lw_all := lw_g (lw_at lw_m6 58 rfl) rfl
theorem q1313 : (Jvm.Cond.instanceMethod ({ cls := "QuirefoldModel", name := "put", desc := "(IIII)I" } : Jvm.MethodName)) ∈ lw_all := lw_g (lw_at lw_m6 60 rfl) rfl
theorem q1314 : (Jvm.Cond.selects "QuirefoldModel" ({ cls := "QuirefoldModel", name := "put", desc := "(IIII)I" } : Jvm.MethodName) ({ cls := "QuirefoldModel", name := "put", desc := "(IIII)I" } : Jvm.MethodName)) ∈ lw_all := lw_g (lw_at lw_m6 61 rfl) rfl
theorem q1315 : (Jvm.Cond.code ({ cls := "QuirefoldModel", name := "put", desc := "(IIII)I" } : Jvm.MethodName) prog_7_method_26_code (6 : Nat) (Option.some Jvm.ClassFile.FieldType.int)) ∈ lw_all := lw_g (lw_at lw_m6 62 rfl) rfl
theorem q1316 : (Jvm.Cond.methodLink "QuirefoldModel" (184 : Nat) ({ cls := "QuirefoldModel", name := "in", desc := "(JJJ)Z" } : Jvm.MethodName)) ∈ lw_all := lw_g (lw_at lw_m6 63 rfl) rfl
theorem q1317 : (Jvm.Cond.static ({ cls := "QuirefoldModel", name := "in", desc := "(JJJ)Z" } : Jvm.MethodName)) ∈ lw_all := lw_g (lw_at lw_m6 64 rfl) rfl
theorem q1318 : (Jvm.Cond.code ({ cls := "QuirefoldModel", name := "in", desc := "(JJJ)Z" } : Jvm.MethodName) prog_7_method_4_code (6 : Nat) (Option.some Jvm.ClassFile.FieldType.boolean)) ∈ lw_all := lw_g (lw_at lw_m6 65 rfl) rfl
theorem q1319 : (Jvm.Cond.methodLink "QuirefoldModel" (194 : Nat) ({ cls := "QuirefoldModel", name := "fails", desc := "(I)I" } : Jvm.MethodName)) ∈ lw_all := lw_g (lw_at lw_m6 66 rfl) rfl
theorem q1320 : (Jvm.Cond.privateMethod ({ cls := "QuirefoldModel", name := "fails", desc := "(I)I" } : Jvm.MethodName)) ∈ lw_tbl := lw_at lw_m6 67 rfl
theorem q1321 : (Jvm.Cond.instanceMethod ({ cls := "QuirefoldModel", name := "fails", desc := "(I)I" } : Jvm.MethodName)) ∈ lw_all := lw_g (lw_at lw_m6 68 rfl) rfl
theorem q1322 : (Jvm.Cond.code ({ cls := "QuirefoldModel", name := "fails", desc := "(I)I" } : Jvm.MethodName) prog_7_method_3_code (2 : Nat) (Option.some Jvm.ClassFile.FieldType.int)) ∈ lw_all := lw_g (lw_at lw_m6 69 rfl) rfl
theorem q1323 : (Jvm.Cond.constantLong "QuirefoldModel" (197 : Nat) (6 : Int64)) ∈ lw_all := lw_g (lw_at lw_m6 70 rfl) rfl
theorem q1324 : (Jvm.Cond.methodLink "QuirefoldModel" (199 : Nat) ({ cls := "QuirefoldModel", name := "isFine", desc := "(III)Z" } : Jvm.MethodName)) ∈ lw_all := lw_g (lw_at lw_m6 71 rfl) rfl
theorem q1325 : (Jvm.Cond.privateMethod ({ cls := "QuirefoldModel", name := "isFine", desc := "(III)Z" } : Jvm.MethodName)) ∈ lw_tbl := lw_at lw_m6 72 rfl
theorem q1326 : (Jvm.Cond.instanceMethod ({ cls := "QuirefoldModel", name := "isFine", desc := "(III)Z" } : Jvm.MethodName)) ∈ lw_all := lw_g (lw_at lw_m6 73 rfl) rfl
theorem q1327 : (Jvm.Cond.code ({ cls := "QuirefoldModel", name := "isFine", desc := "(III)Z" } : Jvm.MethodName) prog_7_method_25_code (5 : Nat) (Option.some Jvm.ClassFile.FieldType.boolean)) ∈ lw_all := lw_g (lw_at lw_m6 74 rfl) rfl
theorem q1328 : (Jvm.Cond.constantLong "QuirefoldModel" (182 : Nat) (5 : Int64)) ∈ lw_all := lw_g (lw_at lw_m6 75 rfl) rfl
theorem q1329 : (Jvm.Cond.constantLong "QuirefoldModel" (188 : Nat) (9 : Int64)) ∈ lw_all := lw_g (lw_at lw_m6 76 rfl) rfl
theorem q1330 : (Jvm.Cond.constantLong "QuirefoldModel" (190 : Nat) (3 : Int64)) ∈ lw_all := lw_g (lw_at lw_m6 77 rfl) rfl
theorem q1331 : (Jvm.Cond.constantLong "QuirefoldModel" (192 : Nat) (4 : Int64)) ∈ lw_all := lw_g (lw_at lw_m6 78 rfl) rfl
theorem q1333 : (Jvm.Cond.instanceMethod ({ cls := "QuirefoldModel", name := "take", desc := "(I)I" } : Jvm.MethodName)) ∈ lw_all := lw_g (lw_at lw_m6 80 rfl) rfl
theorem q1334 : (Jvm.Cond.selects "QuirefoldModel" ({ cls := "QuirefoldModel", name := "take", desc := "(I)I" } : Jvm.MethodName) ({ cls := "QuirefoldModel", name := "take", desc := "(I)I" } : Jvm.MethodName)) ∈ lw_all := lw_g (lw_at lw_m6 81 rfl) rfl
theorem q1335 : (Jvm.Cond.code ({ cls := "QuirefoldModel", name := "take", desc := "(I)I" } : Jvm.MethodName) prog_7_method_27_code (3 : Nat) (Option.some Jvm.ClassFile.FieldType.int)) ∈ lw_all := lw_g (lw_at lw_m6 82 rfl) rfl
theorem q1337 : (Jvm.Cond.instanceMethod ({ cls := "QuirefoldModel", name := "style", desc := "(IIII)V" } : Jvm.MethodName)) ∈ lw_all := lw_g (lw_at lw_m6 84 rfl) rfl
theorem q1338 : (Jvm.Cond.selects "QuirefoldModel" ({ cls := "QuirefoldModel", name := "style", desc := "(IIII)V" } : Jvm.MethodName) ({ cls := "QuirefoldModel", name := "style", desc := "(IIII)V" } : Jvm.MethodName)) ∈ lw_all := lw_g (lw_at lw_m6 85 rfl) rfl
theorem q1339 : (Jvm.Cond.code ({ cls := "QuirefoldModel", name := "style", desc := "(IIII)V" } : Jvm.MethodName) prog_7_method_28_code (6 : Nat) (Option.none : Option Jvm.ClassFile.FieldType)) ∈ lw_all := lw_g (lw_at lw_m6 86 rfl) rfl
theorem q1340 : (Jvm.Cond.constantLong "QuirefoldModel" (203 : Nat) (-1 : Int64)) ∈ lw_all := lw_g (lw_at lw_m6 87 rfl) rfl
theorem q1342 : (Jvm.Cond.instanceMethod ({ cls := "QuirefoldModel", name := "data", desc := "(III)I" } : Jvm.MethodName)) ∈ lw_all := lw_g (lw_at lw_m6 89 rfl) rfl
theorem q1343 : (Jvm.Cond.selects "QuirefoldModel" ({ cls := "QuirefoldModel", name := "data", desc := "(III)I" } : Jvm.MethodName) ({ cls := "QuirefoldModel", name := "data", desc := "(III)I" } : Jvm.MethodName)) ∈ lw_all := lw_g (lw_at lw_m6 90 rfl) rfl
theorem q1344 : (Jvm.Cond.code ({ cls := "QuirefoldModel", name := "data", desc := "(III)I" } : Jvm.MethodName) prog_7_method_29_code (5 : Nat) (Option.some Jvm.ClassFile.FieldType.int)) ∈ lw_all := lw_g (lw_at lw_m6 91 rfl) rfl
theorem q1346 : (Jvm.Cond.instanceMethod ({ cls := "QuirefoldModel", name := "grid", desc := "(III)V" } : Jvm.MethodName)) ∈ lw_all := lw_g (lw_at lw_m6 93 rfl) rfl
theorem q1347 : (Jvm.Cond.selects "QuirefoldModel" ({ cls := "QuirefoldModel", name := "grid", desc := "(III)V" } : Jvm.MethodName) ({ cls := "QuirefoldModel", name := "grid", desc := "(III)V" } : Jvm.MethodName)) ∈ lw_all := lw_g (lw_at lw_m6 94 rfl) rfl
theorem q1348 : (Jvm.Cond.code ({ cls := "QuirefoldModel", name := "grid", desc := "(III)V" } : Jvm.MethodName) prog_7_method_30_code (4 : Nat) (Option.none : Option Jvm.ClassFile.FieldType)) ∈ lw_all := lw_g (lw_at lw_m6 95 rfl) rfl
theorem q1349 : (Jvm.Cond.constantLong "QuirefoldModel" (205 : Nat) (20 : Int64)) ∈ lw_all := lw_g (lw_at lw_m6 96 rfl) rfl
theorem q1350 : (Jvm.Cond.constantLong "QuirefoldModel" (207 : Nat) (2 : Int64)) ∈ lw_all := lw_g (lw_at lw_m6 97 rfl) rfl
theorem q1352 : (Jvm.Cond.instanceMethod ({ cls := "QuirefoldModel", name := "see", desc := "(II)I" } : Jvm.MethodName)) ∈ lw_all := lw_g (lw_at lw_m6 99 rfl) rfl
theorem q1353 : (Jvm.Cond.selects "QuirefoldModel" ({ cls := "QuirefoldModel", name := "see", desc := "(II)I" } : Jvm.MethodName) ({ cls := "QuirefoldModel", name := "see", desc := "(II)I" } : Jvm.MethodName)) ∈ lw_all := lw_g (lw_at lw_m6 100 rfl) rfl
theorem q1354 : (Jvm.Cond.code ({ cls := "QuirefoldModel", name := "see", desc := "(II)I" } : Jvm.MethodName) prog_7_method_32_code (5 : Nat) (Option.some Jvm.ClassFile.FieldType.int)) ∈ lw_all := lw_g (lw_at lw_m6 101 rfl) rfl
theorem q1356 : (Jvm.Cond.instanceMethod ({ cls := "QuirefoldModel", name := "fold", desc := "(II)V" } : Jvm.MethodName)) ∈ lw_all := lw_g (lw_at lw_m6 103 rfl) rfl
theorem q1357 : (Jvm.Cond.selects "QuirefoldModel" ({ cls := "QuirefoldModel", name := "fold", desc := "(II)V" } : Jvm.MethodName) ({ cls := "QuirefoldModel", name := "fold", desc := "(II)V" } : Jvm.MethodName)) ∈ lw_all := lw_g (lw_at lw_m6 104 rfl) rfl
theorem q1358 : (Jvm.Cond.code ({ cls := "QuirefoldModel", name := "fold", desc := "(II)V" } : Jvm.MethodName) prog_7_method_33_code (3 : Nat) (Option.none : Option Jvm.ClassFile.FieldType)) ∈ lw_all := lw_g (lw_at lw_m6 105 rfl) rfl
theorem q1360 : (Jvm.Cond.instanceMethod ({ cls := "QuirefoldModel", name := "keep", desc := "(I)I" } : Jvm.MethodName)) ∈ lw_all := lw_g (lw_at lw_m6 107 rfl) rfl
theorem q1361 : (Jvm.Cond.selects "QuirefoldModel" ({ cls := "QuirefoldModel", name := "keep", desc := "(I)I" } : Jvm.MethodName) ({ cls := "QuirefoldModel", name := "keep", desc := "(I)I" } : Jvm.MethodName)) ∈ lw_all := lw_g (lw_at lw_m6 108 rfl) rfl
theorem q1362 : (Jvm.Cond.code ({ cls := "QuirefoldModel", name := "keep", desc := "(I)I" } : Jvm.MethodName) prog_7_method_34_code (5 : Nat) (Option.some Jvm.ClassFile.FieldType.int)) ∈ lw_all := lw_g (lw_at lw_m6 109 rfl) rfl
theorem q1363 : (Jvm.Cond.methodLink "QuirefoldModel" (173 : Nat) ({ cls := "QuirefoldModel", name := "layLines", desc := "(I)V" } : Jvm.MethodName)) ∈ lw_all := lw_g (lw_at lw_m6 110 rfl) rfl
theorem q1364 : (Jvm.Cond.privateMethod ({ cls := "QuirefoldModel", name := "layLines", desc := "(I)V" } : Jvm.MethodName)) ∈ lw_tbl := lw_at lw_m6 111 rfl
theorem q1365 : (Jvm.Cond.instanceMethod ({ cls := "QuirefoldModel", name := "layLines", desc := "(I)V" } : Jvm.MethodName)) ∈ lw_all := lw_g (lw_at lw_m6 112 rfl) rfl
theorem q1366 : (Jvm.Cond.code ({ cls := "QuirefoldModel", name := "layLines", desc := "(I)V" } : Jvm.MethodName) prog_7_method_11_code (7 : Nat) (Option.none : Option Jvm.ClassFile.FieldType)) ∈ lw_all := lw_g (lw_at lw_m6 113 rfl) rfl
theorem q1367 : (Jvm.Cond.methodLink "QuirefoldModel" (103 : Nat) ({ cls := "QuirefoldModel", name := "newLine", desc := "(ZZ)V" } : Jvm.MethodName)) ∈ lw_all := lw_g (lw_at lw_m6 114 rfl) rfl
theorem q1368 : (Jvm.Cond.privateMethod ({ cls := "QuirefoldModel", name := "newLine", desc := "(ZZ)V" } : Jvm.MethodName)) ∈ lw_tbl := lw_at lw_m6 115 rfl
theorem q1369 : (Jvm.Cond.instanceMethod ({ cls := "QuirefoldModel", name := "newLine", desc := "(ZZ)V" } : Jvm.MethodName)) ∈ lw_all := lw_g (lw_at lw_m6 116 rfl) rfl
theorem q1370 : (Jvm.Cond.code ({ cls := "QuirefoldModel", name := "newLine", desc := "(ZZ)V" } : Jvm.MethodName) prog_7_method_10_code (3 : Nat) (Option.none : Option Jvm.ClassFile.FieldType)) ∈ lw_all := lw_g (lw_at lw_m6 117 rfl) rfl
theorem q1371 : (Jvm.Cond.methodLink "QuirefoldModel" (107 : Nat) ({ cls := "QuirefoldModel", name := "isPrinted", desc := "(II)Z" } : Jvm.MethodName)) ∈ lw_all := lw_g (lw_at lw_m6 118 rfl) rfl
theorem q1372 : (Jvm.Cond.privateMethod ({ cls := "QuirefoldModel", name := "isPrinted", desc := "(II)Z" } : Jvm.MethodName)) ∈ lw_tbl := lw_at lw_m6 119 rfl
theorem q1373 : (Jvm.Cond.instanceMethod ({ cls := "QuirefoldModel", name := "isPrinted", desc := "(II)Z" } : Jvm.MethodName)) ∈ lw_all := lw_g (lw_at lw_m6 120 rfl) rfl
theorem q1374 : (Jvm.Cond.code ({ cls := "QuirefoldModel", name := "isPrinted", desc := "(II)Z" } : Jvm.MethodName) prog_7_method_7_code (3 : Nat) (Option.some Jvm.ClassFile.FieldType.boolean)) ∈ lw_all := lw_g (lw_at lw_m6 121 rfl) rfl
theorem q1375 : (Jvm.Cond.methodLink "QuirefoldModel" (111 : Nat) ({ cls := "QuirefoldModel", name := "wide", desc := "(II)I" } : Jvm.MethodName)) ∈ lw_all := lw_g (lw_at lw_m6 122 rfl) rfl
theorem q1376 : (Jvm.Cond.privateMethod ({ cls := "QuirefoldModel", name := "wide", desc := "(II)I" } : Jvm.MethodName)) ∈ lw_tbl := lw_at lw_m6 123 rfl
theorem q1377 : (Jvm.Cond.instanceMethod ({ cls := "QuirefoldModel", name := "wide", desc := "(II)I" } : Jvm.MethodName)) ∈ lw_all := lw_g (lw_at lw_m6 124 rfl) rfl
theorem q1378 : (Jvm.Cond.code ({ cls := "QuirefoldModel", name := "wide", desc := "(II)I" } : Jvm.MethodName) prog_7_method_8_code (3 : Nat) (Option.some Jvm.ClassFile.FieldType.int)) ∈ lw_all := lw_g (lw_at lw_m6 125 rfl) rfl
theorem q1379 : (Jvm.Cond.methodLink "QuirefoldModel" (93 : Nat) ({ cls := "QuirefoldModel", name := "extraOf", desc := "(I)I" } : Jvm.MethodName)) ∈ lw_all := lw_g (lw_at lw_m6 126 rfl) rfl
theorem q1380 : (Jvm.Cond.privateMethod ({ cls := "QuirefoldModel", name := "extraOf", desc := "(I)I" } : Jvm.MethodName)) ∈ lw_tbl := lw_at lw_m6 127 rfl
theorem q1381 : (Jvm.Cond.instanceMethod ({ cls := "QuirefoldModel", name := "extraOf", desc := "(I)I" } : Jvm.MethodName)) ∈ lw_all := lw_g (lw_at lw_m6 128 rfl) rfl
theorem q1382 : (Jvm.Cond.code ({ cls := "QuirefoldModel", name := "extraOf", desc := "(I)I" } : Jvm.MethodName) prog_7_method_5_code (3 : Nat) (Option.some Jvm.ClassFile.FieldType.int)) ∈ lw_all := lw_g (lw_at lw_m6 129 rfl) rfl
theorem q1383 : (Jvm.Cond.methodLink "QuirefoldModel" (115 : Nat) ({ cls := "QuirefoldModel", name := "hang", desc := "()V" } : Jvm.MethodName)) ∈ lw_all := lw_g (lw_at lw_m6 130 rfl) rfl
theorem q1384 : (Jvm.Cond.privateMethod ({ cls := "QuirefoldModel", name := "hang", desc := "()V" } : Jvm.MethodName)) ∈ lw_tbl := lw_at lw_m6 131 rfl
theorem q1385 : (Jvm.Cond.instanceMethod ({ cls := "QuirefoldModel", name := "hang", desc := "()V" } : Jvm.MethodName)) ∈ lw_all := lw_g (lw_at lw_m6 132 rfl) rfl
theorem q1386 : (Jvm.Cond.code ({ cls := "QuirefoldModel", name := "hang", desc := "()V" } : Jvm.MethodName) prog_7_method_12_code (3 : Nat) (Option.none : Option Jvm.ClassFile.FieldType)) ∈ lw_all := lw_g (lw_at lw_m6 133 rfl) rfl
theorem q1387 : (Jvm.Cond.methodLink "QuirefoldModel" (118 : Nat) ({ cls := "QuirefoldModel", name := "hangs", desc := "(I)Z" } : Jvm.MethodName)) ∈ lw_all := lw_g (lw_at lw_m6 134 rfl) rfl
theorem q1388 : (Jvm.Cond.privateMethod ({ cls := "QuirefoldModel", name := "hangs", desc := "(I)Z" } : Jvm.MethodName)) ∈ lw_tbl := lw_at lw_m6 135 rfl
theorem q1389 : (Jvm.Cond.instanceMethod ({ cls := "QuirefoldModel", name := "hangs", desc := "(I)Z" } : Jvm.MethodName)) ∈ lw_all := lw_g (lw_at lw_m6 136 rfl) rfl
theorem q1390 : (Jvm.Cond.code ({ cls := "QuirefoldModel", name := "hangs", desc := "(I)Z" } : Jvm.MethodName) prog_7_method_9_code (2 : Nat) (Option.some Jvm.ClassFile.FieldType.boolean)) ∈ lw_all := lw_g (lw_at lw_m6 137 rfl) rfl
theorem q1391 : (Jvm.Cond.methodLink "QuirefoldModel" (212 : Nat) ({ cls := "QuirefoldModel", name := "colourOf", desc := "(I)I" } : Jvm.MethodName)) ∈ lw_all := lw_g (lw_at lw_m6 138 rfl) rfl
theorem q1392 : (Jvm.Cond.privateMethod ({ cls := "QuirefoldModel", name := "colourOf", desc := "(I)I" } : Jvm.MethodName)) ∈ lw_tbl := lw_at lw_m6 139 rfl
theorem q1393 : (Jvm.Cond.instanceMethod ({ cls := "QuirefoldModel", name := "colourOf", desc := "(I)I" } : Jvm.MethodName)) ∈ lw_all := lw_g (lw_at lw_m6 140 rfl) rfl
theorem q1394 : (Jvm.Cond.code ({ cls := "QuirefoldModel", name := "colourOf", desc := "(I)I" } : Jvm.MethodName) prog_7_method_6_code (3 : Nat) (Option.some Jvm.ClassFile.FieldType.int)) ∈ lw_all := lw_g (lw_at lw_m6 141 rfl) rfl
theorem q1396 : (Jvm.Cond.instanceMethod ({ cls := "QuirefoldModel", name := "lines", desc := "(I)I" } : Jvm.MethodName)) ∈ lw_all := lw_g (lw_at lw_m6 143 rfl) rfl
theorem q1397 : (Jvm.Cond.selects "QuirefoldModel" ({ cls := "QuirefoldModel", name := "lines", desc := "(I)I" } : Jvm.MethodName) ({ cls := "QuirefoldModel", name := "lines", desc := "(I)I" } : Jvm.MethodName)) ∈ lw_all := lw_g (lw_at lw_m6 144 rfl) rfl
theorem q1398 : (Jvm.Cond.code ({ cls := "QuirefoldModel", name := "lines", desc := "(I)I" } : Jvm.MethodName) prog_7_method_35_code (2 : Nat) (Option.some Jvm.ClassFile.FieldType.int)) ∈ lw_all := lw_g (lw_at lw_m6 145 rfl) rfl
theorem q1400 : (Jvm.Cond.instanceMethod ({ cls := "QuirefoldModel", name := "lineOf", desc := "(II)I" } : Jvm.MethodName)) ∈ lw_all := lw_g (lw_at lw_m6 147 rfl) rfl
theorem q1401 : (Jvm.Cond.selects "QuirefoldModel" ({ cls := "QuirefoldModel", name := "lineOf", desc := "(II)I" } : Jvm.MethodName) ({ cls := "QuirefoldModel", name := "lineOf", desc := "(II)I" } : Jvm.MethodName)) ∈ lw_all := lw_g (lw_at lw_m6 148 rfl) rfl
theorem q1402 : (Jvm.Cond.code ({ cls := "QuirefoldModel", name := "lineOf", desc := "(II)I" } : Jvm.MethodName) prog_7_method_36_code (3 : Nat) (Option.some Jvm.ClassFile.FieldType.int)) ∈ lw_all := lw_g (lw_at lw_m6 149 rfl) rfl
theorem q1404 : (Jvm.Cond.instanceMethod ({ cls := "QuirefoldModel", name := "columnOf", desc := "(IZI)I" } : Jvm.MethodName)) ∈ lw_all := lw_g (lw_at lw_m6 151 rfl) rfl
theorem q1405 : (Jvm.Cond.selects "QuirefoldModel" ({ cls := "QuirefoldModel", name := "columnOf", desc := "(IZI)I" } : Jvm.MethodName) ({ cls := "QuirefoldModel", name := "columnOf", desc := "(IZI)I" } : Jvm.MethodName)) ∈ lw_all := lw_g (lw_at lw_m6 152 rfl) rfl
theorem q1406 : (Jvm.Cond.code ({ cls := "QuirefoldModel", name := "columnOf", desc := "(IZI)I" } : Jvm.MethodName) prog_7_method_37_code (4 : Nat) (Option.some Jvm.ClassFile.FieldType.int)) ∈ lw_all := lw_g (lw_at lw_m6 153 rfl) rfl
theorem q1407 : (Jvm.Cond.methodLink "QuirefoldModel" (215 : Nat) ({ cls := "QuirefoldModel", name := "lay", desc := "(I)V" } : Jvm.MethodName)) ∈ lw_all := lw_g (lw_at lw_m6 154 rfl) rfl
theorem q1408 : (Jvm.Cond.privateMethod ({ cls := "QuirefoldModel", name := "lay", desc := "(I)V" } : Jvm.MethodName)) ∈ lw_tbl := lw_at lw_m6 155 rfl
theorem q1409 : (Jvm.Cond.instanceMethod ({ cls := "QuirefoldModel", name := "lay", desc := "(I)V" } : Jvm.MethodName)) ∈ lw_all := lw_g (lw_at lw_m6 156 rfl) rfl
theorem q1410 : (Jvm.Cond.code ({ cls := "QuirefoldModel", name := "lay", desc := "(I)V" } : Jvm.MethodName) prog_7_method_23_code (2 : Nat) (Option.none : Option Jvm.ClassFile.FieldType)) ∈ lw_all := lw_g (lw_at lw_m6 157 rfl) rfl
theorem q1411 : (Jvm.Cond.methodLink "QuirefoldModel" (176 : Nat) ({ cls := "QuirefoldModel", name := "layColumns", desc := "()V" } : Jvm.MethodName)) ∈ lw_all := lw_g (lw_at lw_m6 158 rfl) rfl
theorem q1412 : (Jvm.Cond.privateMethod ({ cls := "QuirefoldModel", name := "layColumns", desc := "()V" } : Jvm.MethodName)) ∈ lw_tbl := lw_at lw_m6 159 rfl
theorem q1413 : (Jvm.Cond.instanceMethod ({ cls := "QuirefoldModel", name := "layColumns", desc := "()V" } : Jvm.MethodName)) ∈ lw_all := lw_g (lw_at lw_m6 160 rfl) rfl
theorem q1414 : (Jvm.Cond.code ({ cls := "QuirefoldModel", name := "layColumns", desc := "()V" } : Jvm.MethodName) prog_7_method_17_code (3 : Nat) (Option.none : Option Jvm.ClassFile.FieldType)) ∈ lw_all := lw_g (lw_at lw_m6 161 rfl) rfl
theorem q1415 : (Jvm.Cond.methodLink "QuirefoldModel" (149 : Nat) ({ cls := "QuirefoldModel", name := "begins", desc := "()V" } : Jvm.MethodName)) ∈ lw_all := lw_g (lw_at lw_m6 162 rfl) rfl
theorem q1416 : (Jvm.Cond.privateMethod ({ cls := "QuirefoldModel", name := "begins", desc := "()V" } : Jvm.MethodName)) ∈ lw_tbl := lw_at lw_m6 163 rfl
theorem q1417 : (Jvm.Cond.instanceMethod ({ cls := "QuirefoldModel", name := "begins", desc := "()V" } : Jvm.MethodName)) ∈ lw_all := lw_g (lw_at lw_m6 164 rfl) rfl
theorem q1418 : (Jvm.Cond.code ({ cls := "QuirefoldModel", name := "begins", desc := "()V" } : Jvm.MethodName) prog_7_method_15_code (1 : Nat) (Option.none : Option Jvm.ClassFile.FieldType)) ∈ lw_all := lw_g (lw_at lw_m6 165 rfl) rfl
theorem q1419 : (Jvm.Cond.methodLink "QuirefoldModel" (145 : Nat) ({ cls := "QuirefoldModel", name := "tops", desc := "(I)V" } : Jvm.MethodName)) ∈ lw_all := lw_g (lw_at lw_m6 166 rfl) rfl
theorem q1420 : (Jvm.Cond.privateMethod ({ cls := "QuirefoldModel", name := "tops", desc := "(I)V" } : Jvm.MethodName)) ∈ lw_tbl := lw_at lw_m6 167 rfl
theorem q1421 : (Jvm.Cond.instanceMethod ({ cls := "QuirefoldModel", name := "tops", desc := "(I)V" } : Jvm.MethodName)) ∈ lw_all := lw_g (lw_at lw_m6 168 rfl) rfl
theorem q1422 : (Jvm.Cond.code ({ cls := "QuirefoldModel", name := "tops", desc := "(I)V" } : Jvm.MethodName) prog_7_method_16_code (2 : Nat) (Option.none : Option Jvm.ClassFile.FieldType)) ∈ lw_all := lw_g (lw_at lw_m6 169 rfl) rfl
theorem q1423 : (Jvm.Cond.methodLink "QuirefoldModel" (152 : Nat) ({ cls := "QuirefoldModel", name := "needs", desc := "(IZ)I" } : Jvm.MethodName)) ∈ lw_all := lw_g (lw_at lw_m6 170 rfl) rfl
theorem q1424 : (Jvm.Cond.privateMethod ({ cls := "QuirefoldModel", name := "needs", desc := "(IZ)I" } : Jvm.MethodName)) ∈ lw_tbl := lw_at lw_m6 171 rfl
theorem q1425 : (Jvm.Cond.instanceMethod ({ cls := "QuirefoldModel", name := "needs", desc := "(IZ)I" } : Jvm.MethodName)) ∈ lw_all := lw_g (lw_at lw_m6 172 rfl) rfl
theorem q1426 : (Jvm.Cond.code ({ cls := "QuirefoldModel", name := "needs", desc := "(IZ)I" } : Jvm.MethodName) prog_7_method_14_code (5 : Nat) (Option.some Jvm.ClassFile.FieldType.int)) ∈ lw_all := lw_g (lw_at lw_m6 173 rfl) rfl
theorem q1427 : (Jvm.Cond.methodLink "QuirefoldModel" (122 : Nat) ({ cls := "QuirefoldModel", name := "takes", desc := "(IZ)I" } : Jvm.MethodName)) ∈ lw_all := lw_g (lw_at lw_m6 174 rfl) rfl
theorem q1428 : (Jvm.Cond.privateMethod ({ cls := "QuirefoldModel", name := "takes", desc := "(IZ)I" } : Jvm.MethodName)) ∈ lw_tbl := lw_at lw_m6 175 rfl
theorem q1429 : (Jvm.Cond.instanceMethod ({ cls := "QuirefoldModel", name := "takes", desc := "(IZ)I" } : Jvm.MethodName)) ∈ lw_all := lw_g (lw_at lw_m6 176 rfl) rfl
theorem q1430 : (Jvm.Cond.code ({ cls := "QuirefoldModel", name := "takes", desc := "(IZ)I" } : Jvm.MethodName) prog_7_method_13_code (3 : Nat) (Option.some Jvm.ClassFile.FieldType.int)) ∈ lw_all := lw_g (lw_at lw_m6 177 rfl) rfl
theorem q1431 : (Jvm.Cond.methodLink "QuirefoldModel" (179 : Nat) ({ cls := "QuirefoldModel", name := "layFront", desc := "()V" } : Jvm.MethodName)) ∈ lw_all := lw_g (lw_at lw_m6 178 rfl) rfl
theorem q1432 : (Jvm.Cond.privateMethod ({ cls := "QuirefoldModel", name := "layFront", desc := "()V" } : Jvm.MethodName)) ∈ lw_tbl := lw_at lw_m6 179 rfl
theorem q1433 : (Jvm.Cond.instanceMethod ({ cls := "QuirefoldModel", name := "layFront", desc := "()V" } : Jvm.MethodName)) ∈ lw_all := lw_g (lw_at lw_m6 180 rfl) rfl
theorem q1434 : (Jvm.Cond.code ({ cls := "QuirefoldModel", name := "layFront", desc := "()V" } : Jvm.MethodName) prog_7_method_22_code (3 : Nat) (Option.none : Option Jvm.ClassFile.FieldType)) ∈ lw_all := lw_g (lw_at lw_m6 181 rfl) rfl
theorem q1435 : (Jvm.Cond.methodLink "QuirefoldModel" (170 : Nat) ({ cls := "QuirefoldModel", name := "frontBy", desc := "(I)I" } : Jvm.MethodName)) ∈ lw_all := lw_g (lw_at lw_m6 182 rfl) rfl
theorem q1436 : (Jvm.Cond.privateMethod ({ cls := "QuirefoldModel", name := "frontBy", desc := "(I)I" } : Jvm.MethodName)) ∈ lw_tbl := lw_at lw_m6 183 rfl
theorem q1437 : (Jvm.Cond.instanceMethod ({ cls := "QuirefoldModel", name := "frontBy", desc := "(I)I" } : Jvm.MethodName)) ∈ lw_all := lw_g (lw_at lw_m6 184 rfl) rfl
theorem q1438 : (Jvm.Cond.code ({ cls := "QuirefoldModel", name := "frontBy", desc := "(I)I" } : Jvm.MethodName) prog_7_method_21_code (6 : Nat) (Option.some Jvm.ClassFile.FieldType.int)) ∈ lw_all := lw_g (lw_at lw_m6 185 rfl) rfl
theorem q1439 : (Jvm.Cond.methodLink "QuirefoldModel" (155 : Nat) ({ cls := "QuirefoldModel", name := "pageBy", desc := "(II)I" } : Jvm.MethodName)) ∈ lw_all := lw_g (lw_at lw_m6 186 rfl) rfl
theorem q1440 : (Jvm.Cond.privateMethod ({ cls := "QuirefoldModel", name := "pageBy", desc := "(II)I" } : Jvm.MethodName)) ∈ lw_tbl := lw_at lw_m6 187 rfl
theorem q1441 : (Jvm.Cond.instanceMethod ({ cls := "QuirefoldModel", name := "pageBy", desc := "(II)I" } : Jvm.MethodName)) ∈ lw_all := lw_g (lw_at lw_m6 188 rfl) rfl
theorem q1442 : (Jvm.Cond.code ({ cls := "QuirefoldModel", name := "pageBy", desc := "(II)I" } : Jvm.MethodName) prog_7_method_19_code (3 : Nat) (Option.some Jvm.ClassFile.FieldType.int)) ∈ lw_all := lw_g (lw_at lw_m6 189 rfl) rfl
theorem q1443 : (Jvm.Cond.methodLink "QuirefoldModel" (158 : Nat) ({ cls := "QuirefoldModel", name := "figures", desc := "(I)I" } : Jvm.MethodName)) ∈ lw_all := lw_g (lw_at lw_m6 190 rfl) rfl
theorem q1444 : (Jvm.Cond.static ({ cls := "QuirefoldModel", name := "figures", desc := "(I)I" } : Jvm.MethodName)) ∈ lw_all := lw_g (lw_at lw_m6 191 rfl) rfl
theorem q1445 : (Jvm.Cond.code ({ cls := "QuirefoldModel", name := "figures", desc := "(I)I" } : Jvm.MethodName) prog_7_method_20_code (1 : Nat) (Option.some Jvm.ClassFile.FieldType.int)) ∈ lw_all := lw_g (lw_at lw_m6 192 rfl) rfl
theorem q1446 : (Jvm.Cond.methodLink "QuirefoldModel" (161 : Nat) ({ cls := "QuirefoldModel", name := "pagesOf", desc := "(I)I" } : Jvm.MethodName)) ∈ lw_all := lw_g (lw_at lw_m6 193 rfl) rfl
theorem q1447 : (Jvm.Cond.privateMethod ({ cls := "QuirefoldModel", name := "pagesOf", desc := "(I)I" } : Jvm.MethodName)) ∈ lw_tbl := lw_at lw_m6 194 rfl
theorem q1448 : (Jvm.Cond.instanceMethod ({ cls := "QuirefoldModel", name := "pagesOf", desc := "(I)I" } : Jvm.MethodName)) ∈ lw_all := lw_g (lw_at lw_m6 195 rfl) rfl
theorem q1449 : (Jvm.Cond.code ({ cls := "QuirefoldModel", name := "pagesOf", desc := "(I)I" } : Jvm.MethodName) prog_7_method_18_code (2 : Nat) (Option.some Jvm.ClassFile.FieldType.int)) ∈ lw_all := lw_g (lw_at lw_m6 196 rfl) rfl
theorem q1451 : (Jvm.Cond.instanceMethod ({ cls := "QuirefoldModel", name := "pageOf", desc := "(II)I" } : Jvm.MethodName)) ∈ lw_all := lw_g (lw_at lw_m6 198 rfl) rfl
theorem q1452 : (Jvm.Cond.selects "QuirefoldModel" ({ cls := "QuirefoldModel", name := "pageOf", desc := "(II)I" } : Jvm.MethodName) ({ cls := "QuirefoldModel", name := "pageOf", desc := "(II)I" } : Jvm.MethodName)) ∈ lw_all := lw_g (lw_at lw_m6 199 rfl) rfl
theorem q1453 : (Jvm.Cond.code ({ cls := "QuirefoldModel", name := "pageOf", desc := "(II)I" } : Jvm.MethodName) prog_7_method_38_code (3 : Nat) (Option.some Jvm.ClassFile.FieldType.int)) ∈ lw_all := lw_g (lw_at lw_m6 200 rfl) rfl
theorem q1454 : (Jvm.Cond.methodLink "QuirefoldModel" (218 : Nat) ({ cls := "QuirefoldModel", name := "page", desc := "(I)I" } : Jvm.MethodName)) ∈ lw_all := lw_g (lw_at lw_m6 201 rfl) rfl
theorem q1455 : (Jvm.Cond.privateMethod ({ cls := "QuirefoldModel", name := "page", desc := "(I)I" } : Jvm.MethodName)) ∈ lw_tbl := lw_at lw_m6 202 rfl
theorem q1456 : (Jvm.Cond.instanceMethod ({ cls := "QuirefoldModel", name := "page", desc := "(I)I" } : Jvm.MethodName)) ∈ lw_all := lw_g (lw_at lw_m6 203 rfl) rfl
theorem q1457 : (Jvm.Cond.code ({ cls := "QuirefoldModel", name := "page", desc := "(I)I" } : Jvm.MethodName) prog_7_method_24_code (2 : Nat) (Option.some Jvm.ClassFile.FieldType.int)) ∈ lw_all := lw_g (lw_at lw_m6 204 rfl) rfl
theorem q1459 : (Jvm.Cond.instanceMethod ({ cls := "QuirefoldModel", name := "pageAnew", desc := "(II)I" } : Jvm.MethodName)) ∈ lw_all := lw_g (lw_at lw_m6 206 rfl) rfl
theorem q1460 : (Jvm.Cond.selects "QuirefoldModel" ({ cls := "QuirefoldModel", name := "pageAnew", desc := "(II)I" } : Jvm.MethodName) ({ cls := "QuirefoldModel", name := "pageAnew", desc := "(II)I" } : Jvm.MethodName)) ∈ lw_all := lw_g (lw_at lw_m6 207 rfl) rfl
theorem q1461 : (Jvm.Cond.code ({ cls := "QuirefoldModel", name := "pageAnew", desc := "(II)I" } : Jvm.MethodName) prog_7_method_39_code (3 : Nat) (Option.some Jvm.ClassFile.FieldType.int)) ∈ lw_all := lw_g (lw_at lw_m6 208 rfl) rfl
theorem q1462 : (Jvm.Cond.methodLink "QuirefoldModel" (221 : Nat) ({ cls := "QuirefoldModel", name := "pageOf", desc := "(II)I" } : Jvm.MethodName)) ∈ lw_all := lw_g (lw_at lw_m6 209 rfl) rfl
theorem q1464 : (Jvm.Cond.instanceMethod ({ cls := "QuirefoldModel", name := "pages", desc := "(I)I" } : Jvm.MethodName)) ∈ lw_all := lw_g (lw_at lw_m6 211 rfl) rfl
theorem q1465 : (Jvm.Cond.selects "QuirefoldModel" ({ cls := "QuirefoldModel", name := "pages", desc := "(I)I" } : Jvm.MethodName) ({ cls := "QuirefoldModel", name := "pages", desc := "(I)I" } : Jvm.MethodName)) ∈ lw_all := lw_g (lw_at lw_m6 212 rfl) rfl
theorem q1466 : (Jvm.Cond.code ({ cls := "QuirefoldModel", name := "pages", desc := "(I)I" } : Jvm.MethodName) prog_7_method_40_code (2 : Nat) (Option.some Jvm.ClassFile.FieldType.int)) ∈ lw_all := lw_g (lw_at lw_m6 213 rfl) rfl
theorem q1468 : (Jvm.Cond.instanceMethod ({ cls := "QuirefoldModel", name := "front", desc := "(I)I" } : Jvm.MethodName)) ∈ lw_all := lw_g (lw_at lw_m6 215 rfl) rfl
theorem q1469 : (Jvm.Cond.selects "QuirefoldModel" ({ cls := "QuirefoldModel", name := "front", desc := "(I)I" } : Jvm.MethodName) ({ cls := "QuirefoldModel", name := "front", desc := "(I)I" } : Jvm.MethodName)) ∈ lw_all := lw_g (lw_at lw_m6 216 rfl) rfl
theorem q1470 : (Jvm.Cond.code ({ cls := "QuirefoldModel", name := "front", desc := "(I)I" } : Jvm.MethodName) prog_7_method_41_code (2 : Nat) (Option.some Jvm.ClassFile.FieldType.int)) ∈ lw_all := lw_g (lw_at lw_m6 217 rfl) rfl
theorem q1472 : (Jvm.Cond.instanceMethod ({ cls := "QuirefoldModel", name := "entry", desc := "(II)I" } : Jvm.MethodName)) ∈ lw_all := lw_g (lw_at lw_m6 219 rfl) rfl
theorem q1473 : (Jvm.Cond.selects "QuirefoldModel" ({ cls := "QuirefoldModel", name := "entry", desc := "(II)I" } : Jvm.MethodName) ({ cls := "QuirefoldModel", name := "entry", desc := "(II)I" } : Jvm.MethodName)) ∈ lw_all := lw_g (lw_at lw_m6 220 rfl) rfl
theorem q1474 : (Jvm.Cond.code ({ cls := "QuirefoldModel", name := "entry", desc := "(II)I" } : Jvm.MethodName) prog_7_method_42_code (6 : Nat) (Option.some Jvm.ClassFile.FieldType.int)) ∈ lw_all := lw_g (lw_at lw_m6 221 rfl) rfl
theorem q1476 : (Jvm.Cond.instanceMethod ({ cls := "QuirefoldModel", name := "index", desc := "(III)I" } : Jvm.MethodName)) ∈ lw_all := lw_g (lw_at lw_m6 223 rfl) rfl
theorem q1477 : (Jvm.Cond.selects "QuirefoldModel" ({ cls := "QuirefoldModel", name := "index", desc := "(III)I" } : Jvm.MethodName) ({ cls := "QuirefoldModel", name := "index", desc := "(III)I" } : Jvm.MethodName)) ∈ lw_all := lw_g (lw_at lw_m6 224 rfl) rfl
theorem q1478 : (Jvm.Cond.code ({ cls := "QuirefoldModel", name := "index", desc := "(III)I" } : Jvm.MethodName) prog_7_method_44_code (7 : Nat) (Option.some Jvm.ClassFile.FieldType.int)) ∈ lw_all := lw_g (lw_at lw_m6 225 rfl) rfl
theorem q1479 : (Jvm.Cond.methodLink "QuirefoldModel" (227 : Nat) ({ cls := "QuirefoldModel", name := "counts", desc := "(II)Z" } : Jvm.MethodName)) ∈ lw_all := lw_g (lw_at lw_m6 226 rfl) rfl
theorem q1480 : (Jvm.Cond.privateMethod ({ cls := "QuirefoldModel", name := "counts", desc := "(II)Z" } : Jvm.MethodName)) ∈ lw_tbl := lw_at lw_m6 227 rfl
theorem q1481 : (Jvm.Cond.instanceMethod ({ cls := "QuirefoldModel", name := "counts", desc := "(II)Z" } : Jvm.MethodName)) ∈ lw_all := lw_g (lw_at lw_m6 228 rfl) rfl
theorem q1482 : (Jvm.Cond.code ({ cls := "QuirefoldModel", name := "counts", desc := "(II)Z" } : Jvm.MethodName) prog_7_method_43_code (3 : Nat) (Option.some Jvm.ClassFile.FieldType.boolean)) ∈ lw_all := lw_g (lw_at lw_m6 229 rfl) rfl
theorem q1483 : (Jvm.Cond.methodLink "QuirefoldModel" (224 : Nat) ({ cls := "QuirefoldModel", name := "lastOf", desc := "(I)I" } : Jvm.MethodName)) ∈ lw_all := lw_g (lw_at lw_m6 230 rfl) rfl
theorem q1484 : (Jvm.Cond.privateMethod ({ cls := "QuirefoldModel", name := "lastOf", desc := "(I)I" } : Jvm.MethodName)) ∈ lw_tbl := lw_at lw_m6 231 rfl
theorem q1485 : (Jvm.Cond.instanceMethod ({ cls := "QuirefoldModel", name := "lastOf", desc := "(I)I" } : Jvm.MethodName)) ∈ lw_all := lw_g (lw_at lw_m6 232 rfl) rfl
theorem q1486 : (Jvm.Cond.code ({ cls := "QuirefoldModel", name := "lastOf", desc := "(I)I" } : Jvm.MethodName) prog_7_method_31_code (3 : Nat) (Option.some Jvm.ClassFile.FieldType.int)) ∈ lw_all := lw_g (lw_at lw_m6 233 rfl) rfl
theorem q1488 : (Jvm.Cond.instanceMethod ({ cls := "QuirefoldModel", name := "sheet", desc := "(II)I" } : Jvm.MethodName)) ∈ lw_all := lw_g (lw_at lw_m6 235 rfl) rfl
theorem q1489 : (Jvm.Cond.selects "QuirefoldModel" ({ cls := "QuirefoldModel", name := "sheet", desc := "(II)I" } : Jvm.MethodName) ({ cls := "QuirefoldModel", name := "sheet", desc := "(II)I" } : Jvm.MethodName)) ∈ lw_all := lw_g (lw_at lw_m6 236 rfl) rfl
theorem q1490 : (Jvm.Cond.code ({ cls := "QuirefoldModel", name := "sheet", desc := "(II)I" } : Jvm.MethodName) prog_7_method_48_code (5 : Nat) (Option.some Jvm.ClassFile.FieldType.int)) ∈ lw_all := lw_g (lw_at lw_m6 237 rfl) rfl
theorem q1491 : (Jvm.Cond.constantLong "QuirefoldModel" (233 : Nat) (999 : Int64)) ∈ lw_all := lw_g (lw_at lw_m6 238 rfl) rfl
theorem q1492 : (Jvm.Cond.methodLink "QuirefoldModel" (230 : Nat) ({ cls := "QuirefoldModel", name := "within", desc := "(I)I" } : Jvm.MethodName)) ∈ lw_all := lw_g (lw_at lw_m6 239 rfl) rfl
theorem q1493 : (Jvm.Cond.privateMethod ({ cls := "QuirefoldModel", name := "within", desc := "(I)I" } : Jvm.MethodName)) ∈ lw_tbl := lw_at lw_m7 0 rfl
theorem q1494 : (Jvm.Cond.instanceMethod ({ cls := "QuirefoldModel", name := "within", desc := "(I)I" } : Jvm.MethodName)) ∈ lw_all := lw_g (lw_at lw_m7 1 rfl) rfl
theorem q1495 : (Jvm.Cond.code ({ cls := "QuirefoldModel", name := "within", desc := "(I)I" } : Jvm.MethodName) prog_7_method_45_code (3 : Nat) (Option.some Jvm.ClassFile.FieldType.int)) ∈ lw_all := lw_g (lw_at lw_m7 2 rfl) rfl
theorem q1496 : (Jvm.Cond.methodLink "QuirefoldModel" (235 : Nat) ({ cls := "QuirefoldModel", name := "sheetOf", desc := "(I)I" } : Jvm.MethodName)) ∈ lw_all := lw_g (lw_at lw_m7 3 rfl) rfl
theorem q1497 : (Jvm.Cond.privateMethod ({ cls := "QuirefoldModel", name := "sheetOf", desc := "(I)I" } : Jvm.MethodName)) ∈ lw_tbl := lw_at lw_m7 4 rfl
theorem q1498 : (Jvm.Cond.instanceMethod ({ cls := "QuirefoldModel", name := "sheetOf", desc := "(I)I" } : Jvm.MethodName)) ∈ lw_all := lw_g (lw_at lw_m7 5 rfl) rfl
theorem q1499 : (Jvm.Cond.code ({ cls := "QuirefoldModel", name := "sheetOf", desc := "(I)I" } : Jvm.MethodName) prog_7_method_46_code (2 : Nat) (Option.some Jvm.ClassFile.FieldType.int)) ∈ lw_all := lw_g (lw_at lw_m7 6 rfl) rfl
theorem q1500 : (Jvm.Cond.methodLink "QuirefoldModel" (238 : Nat) ({ cls := "QuirefoldModel", name := "sideOf", desc := "(I)I" } : Jvm.MethodName)) ∈ lw_all := lw_g (lw_at lw_m7 7 rfl) rfl
theorem q1501 : (Jvm.Cond.privateMethod ({ cls := "QuirefoldModel", name := "sideOf", desc := "(I)I" } : Jvm.MethodName)) ∈ lw_tbl := lw_at lw_m7 8 rfl
theorem q1502 : (Jvm.Cond.instanceMethod ({ cls := "QuirefoldModel", name := "sideOf", desc := "(I)I" } : Jvm.MethodName)) ∈ lw_all := lw_g (lw_at lw_m7 9 rfl) rfl
theorem q1503 : (Jvm.Cond.code ({ cls := "QuirefoldModel", name := "sideOf", desc := "(I)I" } : Jvm.MethodName) prog_7_method_47_code (4 : Nat) (Option.some Jvm.ClassFile.FieldType.int)) ∈ lw_all := lw_g (lw_at lw_m7 10 rfl) rfl
theorem q1505 : (Jvm.Cond.instanceMethod ({ cls := "QuirefoldModel", name := "plate", desc := "(IIII)I" } : Jvm.MethodName)) ∈ lw_all := lw_g (lw_at lw_m7 12 rfl) rfl
theorem q1506 : (Jvm.Cond.selects "QuirefoldModel" ({ cls := "QuirefoldModel", name := "plate", desc := "(IIII)I" } : Jvm.MethodName) ({ cls := "QuirefoldModel", name := "plate", desc := "(IIII)I" } : Jvm.MethodName)) ∈ lw_all := lw_g (lw_at lw_m7 13 rfl) rfl
theorem q1507 : (Jvm.Cond.code ({ cls := "QuirefoldModel", name := "plate", desc := "(IIII)I" } : Jvm.MethodName) prog_7_method_49_code (8 : Nat) (Option.some Jvm.ClassFile.FieldType.int)) ∈ lw_all := lw_g (lw_at lw_m7 14 rfl) rfl
theorem q1508 : (Jvm.Cond.constantLong "QuirefoldModel" (241 : Nat) (249 : Int64)) ∈ lw_all := lw_g (lw_at lw_m7 15 rfl) rfl
theorem q1510 : (Jvm.Cond.instanceMethod ({ cls := "QuirefoldModel", name := "faults", desc := "(II)I" } : Jvm.MethodName)) ∈ lw_all := lw_g (lw_at lw_m7 17 rfl) rfl
theorem q1511 : (Jvm.Cond.selects "QuirefoldModel" ({ cls := "QuirefoldModel", name := "faults", desc := "(II)I" } : Jvm.MethodName) ({ cls := "QuirefoldModel", name := "faults", desc := "(II)I" } : Jvm.MethodName)) ∈ lw_all := lw_g (lw_at lw_m7 18 rfl) rfl
theorem q1512 : (Jvm.Cond.code ({ cls := "QuirefoldModel", name := "faults", desc := "(II)I" } : Jvm.MethodName) prog_7_method_51_code (5 : Nat) (Option.some Jvm.ClassFile.FieldType.int)) ∈ lw_all := lw_g (lw_at lw_m7 19 rfl) rfl
theorem q1513 : (Jvm.Cond.methodLink "QuirefoldModel" (243 : Nat) ({ cls := "QuirefoldModel", name := "isMarked", desc := "(I)Z" } : Jvm.MethodName)) ∈ lw_all := lw_g (lw_at lw_m7 20 rfl) rfl
theorem q1514 : (Jvm.Cond.privateMethod ({ cls := "QuirefoldModel", name := "isMarked", desc := "(I)Z" } : Jvm.MethodName)) ∈ lw_tbl := lw_at lw_m7 21 rfl
theorem q1515 : (Jvm.Cond.instanceMethod ({ cls := "QuirefoldModel", name := "isMarked", desc := "(I)Z" } : Jvm.MethodName)) ∈ lw_all := lw_g (lw_at lw_m7 22 rfl) rfl
theorem q1516 : (Jvm.Cond.code ({ cls := "QuirefoldModel", name := "isMarked", desc := "(I)Z" } : Jvm.MethodName) prog_7_method_50_code (4 : Nat) (Option.some Jvm.ClassFile.FieldType.boolean)) ∈ lw_all := lw_g (lw_at lw_m7 23 rfl) rfl
theorem q1518 : (Jvm.Cond.instanceMethod ({ cls := "QuirefoldModel", name := "isNew", desc := "(II)Z" } : Jvm.MethodName)) ∈ lw_all := lw_g (lw_at lw_m7 25 rfl) rfl
theorem q1519 : (Jvm.Cond.selects "QuirefoldModel" ({ cls := "QuirefoldModel", name := "isNew", desc := "(II)Z" } : Jvm.MethodName) ({ cls := "QuirefoldModel", name := "isNew", desc := "(II)Z" } : Jvm.MethodName)) ∈ lw_all := lw_g (lw_at lw_m7 26 rfl) rfl
theorem q1520 : (Jvm.Cond.code ({ cls := "QuirefoldModel", name := "isNew", desc := "(II)Z" } : Jvm.MethodName) prog_7_method_55_code (6 : Nat) (Option.some Jvm.ClassFile.FieldType.boolean)) ∈ lw_all := lw_g (lw_at lw_m7 27 rfl) rfl
theorem q1521 : (Jvm.Cond.methodLink "QuirefoldModel" (249 : Nat) ({ cls := "QuirefoldModel", name := "isKept", desc := "(IIII)Z" } : Jvm.MethodName)) ∈ lw_all := lw_g (lw_at lw_m7 28 rfl) rfl
theorem q1522 : (Jvm.Cond.privateMethod ({ cls := "QuirefoldModel", name := "isKept", desc := "(IIII)Z" } : Jvm.MethodName)) ∈ lw_tbl := lw_at lw_m7 29 rfl
theorem q1523 : (Jvm.Cond.instanceMethod ({ cls := "QuirefoldModel", name := "isKept", desc := "(IIII)Z" } : Jvm.MethodName)) ∈ lw_all := lw_g (lw_at lw_m7 30 rfl) rfl
theorem q1524 : (Jvm.Cond.code ({ cls := "QuirefoldModel", name := "isKept", desc := "(IIII)Z" } : Jvm.MethodName) prog_7_method_52_code (7 : Nat) (Option.some Jvm.ClassFile.FieldType.boolean)) ∈ lw_all := lw_g (lw_at lw_m7 31 rfl) rfl
theorem q1525 : (Jvm.Cond.methodLink "QuirefoldModel" (253 : Nat) ({ cls := "QuirefoldModel", name := "areAlike", desc := "(III)Z" } : Jvm.MethodName)) ∈ lw_all := lw_g (lw_at lw_m7 32 rfl) rfl
theorem q1526 : (Jvm.Cond.privateMethod ({ cls := "QuirefoldModel", name := "areAlike", desc := "(III)Z" } : Jvm.MethodName)) ∈ lw_tbl := lw_at lw_m7 33 rfl
theorem q1527 : (Jvm.Cond.instanceMethod ({ cls := "QuirefoldModel", name := "areAlike", desc := "(III)Z" } : Jvm.MethodName)) ∈ lw_all := lw_g (lw_at lw_m7 34 rfl) rfl
theorem q1528 : (Jvm.Cond.code ({ cls := "QuirefoldModel", name := "areAlike", desc := "(III)Z" } : Jvm.MethodName) prog_7_method_54_code (7 : Nat) (Option.some Jvm.ClassFile.FieldType.boolean)) ∈ lw_all := lw_g (lw_at lw_m7 35 rfl) rfl
theorem q1529 : (Jvm.Cond.methodLink "QuirefoldModel" (246 : Nat) ({ cls := "QuirefoldModel", name := "nextOn", desc := "(II)I" } : Jvm.MethodName)) ∈ lw_all := lw_g (lw_at lw_m7 36 rfl) rfl
theorem q1530 : (Jvm.Cond.privateMethod ({ cls := "QuirefoldModel", name := "nextOn", desc := "(II)I" } : Jvm.MethodName)) ∈ lw_tbl := lw_at lw_m7 37 rfl
theorem q1531 : (Jvm.Cond.instanceMethod ({ cls := "QuirefoldModel", name := "nextOn", desc := "(II)I" } : Jvm.MethodName)) ∈ lw_all := lw_g (lw_at lw_m7 38 rfl) rfl
theorem q1532 : (Jvm.Cond.code ({ cls := "QuirefoldModel", name := "nextOn", desc := "(II)I" } : Jvm.MethodName) prog_7_method_53_code (4 : Nat) (Option.some Jvm.ClassFile.FieldType.int)) ∈ lw_all := lw_g (lw_at lw_m7 39 rfl) rfl
theorem q1534 : (Jvm.Cond.instanceMethod ({ cls := "QuirefoldModel", name := "tokens", desc := "()I" } : Jvm.MethodName)) ∈ lw_all := lw_g (lw_at lw_m7 41 rfl) rfl
theorem q1535 : (Jvm.Cond.selects "QuirefoldModel" ({ cls := "QuirefoldModel", name := "tokens", desc := "()I" } : Jvm.MethodName) ({ cls := "QuirefoldModel", name := "tokens", desc := "()I" } : Jvm.MethodName)) ∈ lw_all := lw_g (lw_at lw_m7 42 rfl) rfl
theorem q1536 : (Jvm.Cond.code ({ cls := "QuirefoldModel", name := "tokens", desc := "()I" } : Jvm.MethodName) prog_7_method_56_code (1 : Nat) (Option.some Jvm.ClassFile.FieldType.int)) ∈ lw_all := lw_g (lw_at lw_m7 43 rfl) rfl
theorem q1553 : (Jvm.Cond.castable "QuirefoldModel" "java/lang/Object") ∈ lw_tbl := lw_at lw_m7 60 rfl
theorem in_X3 : ∀ w ∈ wsX30, w ∈ lw_all := lw_in wsX30 [1230, 1232, 1234, 1236, 1238, 1240, 1242, 1244, 1246, 1248, 1250, 1252, 1254, 1256, 1258, 1260, 1262, 1264, 1266, 1268, 1270, 1272, 1274, 1276, 1278, 1280, 1282, 1284, 1286, 1288, 1290, 1292, 1294, 1296, 1298, 1300, 1302, 1304] (by decide +kernel) (by decide +kernel)
