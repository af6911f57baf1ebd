set_option maxRecDepth 100000
/-! the start, by leaves of the premises -/
abbrev sT : Cond := Jvm.Cond.and given_1 narrow_1
theorem lf_d1 : (flatC sT)[5]? = some (Jvm.Cond.arrayOf (Jvm.Term.static "java/util/ArrayList" "DEFAULTCAPACITY_EMPTY_ELEMENTDATA" "[Ljava/lang/Object;") (Jvm.ClassFile.FieldType.object "java/lang/Object")) := by decide +kernel
theorem lf_d2 : (flatC sT)[6]? = some (Jvm.Cond.exactly (Jvm.Term.static "java/util/ArrayList" "DEFAULTCAPACITY_EMPTY_ELEMENTDATA" "[Ljava/lang/Object;") "[Ljava/lang/Object;") := by decide +kernel
theorem lf_d3 : (flatC sT)[7]? = some (Jvm.Cond.eq (Jvm.Term.length (Jvm.Term.static "java/util/ArrayList" "DEFAULTCAPACITY_EMPTY_ELEMENTDATA" "[Ljava/lang/Object;")) (Jvm.Term.int (0 : Int32))) := by decide +kernel
theorem lf_t1 : (flatC sT)[8]? = some (Jvm.Cond.isRef (Jvm.Term.static "java/lang/Throwable" "UNASSIGNED_STACK" "[Ljava/lang/StackTraceElement;")) := by decide +kernel
theorem lf_t2 : (flatC sT)[9]? = some (Jvm.Cond.isRef (Jvm.Term.static "java/lang/Throwable" "SUPPRESSED_SENTINEL" "Ljava/util/List;")) := by decide +kernel
theorem lf_c1 : (flatC sT)[10]? = some (Jvm.Cond.eq (Jvm.Term.static "java/lang/String" "COMPACT_STRINGS" "Z") (Jvm.Term.int (1 : Int32))) := by decide +kernel
theorem lf_mi : (flatC sT)[297]? = some (Jvm.Cond.isRef (Jvm.Term.mirror "[Ljava/lang/Object;")) := by decide +kernel
theorem lf_h1 : (flatC sT)[221]? = some (Jvm.Cond.eq (Jvm.Term.static "java/lang/Integer$IntegerCache" "high" "I") (Jvm.Term.int (127 : Int32))) := by decide +kernel
theorem lf_o1 : (flatC sT)[16]? = some (Jvm.Cond.arrayOf (Jvm.Term.static "java/lang/Integer" "DigitOnes" "[B") Jvm.ClassFile.FieldType.byte) := by decide +kernel
theorem lf_o2 : (flatC sT)[17]? = some (Jvm.Cond.eq (Jvm.Term.length (Jvm.Term.static "java/lang/Integer" "DigitOnes" "[B")) (Jvm.Term.int (100 : Int32))) := by decide +kernel
theorem lf_o3 : (flatC sT)[652]? = some (Jvm.Cond.exactly (Jvm.Term.static "java/lang/Integer" "DigitOnes" "[B") "[B") := by decide +kernel
theorem lf_o4 : ∀ j, j < 100 → (flatC sT)[18 + j]? = some (Jvm.Cond.eq (Jvm.Term.elem (Jvm.Term.static "java/lang/Integer" "DigitOnes" "[B") (Jvm.Term.int (Int32.ofNat j))) (Jvm.Term.int (Int32.ofNat (48 + j % 10)))) := by decide +kernel
theorem lf_n1 : (flatC sT)[119]? = some (Jvm.Cond.arrayOf (Jvm.Term.static "java/lang/Integer" "DigitTens" "[B") Jvm.ClassFile.FieldType.byte) := by decide +kernel
theorem lf_n2 : (flatC sT)[120]? = some (Jvm.Cond.eq (Jvm.Term.length (Jvm.Term.static "java/lang/Integer" "DigitTens" "[B")) (Jvm.Term.int (100 : Int32))) := by decide +kernel
theorem lf_n3 : (flatC sT)[653]? = some (Jvm.Cond.exactly (Jvm.Term.static "java/lang/Integer" "DigitTens" "[B") "[B") := by decide +kernel
theorem lf_n4 : ∀ j, j < 100 → (flatC sT)[121 + j]? = some (Jvm.Cond.eq (Jvm.Term.elem (Jvm.Term.static "java/lang/Integer" "DigitTens" "[B") (Jvm.Term.int (Int32.ofNat j))) (Jvm.Term.int (Int32.ofNat (48 + j / 10 % 10)))) := by decide +kernel
theorem lf_k1 : (flatC sT)[223]? = some (Jvm.Cond.arrayOf (Jvm.Term.static "java/lang/Integer$IntegerCache" "cache" "[Ljava/lang/Integer;") (Jvm.ClassFile.FieldType.object "java/lang/Integer")) := by decide +kernel
theorem lf_k2 : (flatC sT)[224]? = some (Jvm.Cond.eq (Jvm.Term.length (Jvm.Term.static "java/lang/Integer$IntegerCache" "cache" "[Ljava/lang/Integer;")) (Jvm.Term.int (256 : Int32))) := by decide +kernel
theorem lf_k3 : (flatC sT)[225]? = some (Jvm.Cond.all (Jvm.Term.static "java/lang/Integer$IntegerCache" "cache" "[Ljava/lang/Integer;") (Jvm.Cond.and (Jvm.Cond.exactly (Jvm.Term.elem (Jvm.Term.static "java/lang/Integer$IntegerCache" "cache" "[Ljava/lang/Integer;") (Jvm.Term.index (0 : Nat))) "java/lang/Integer") (Jvm.Cond.eq (Jvm.Term.field (Jvm.Term.elem (Jvm.Term.static "java/lang/Integer$IntegerCache" "cache" "[Ljava/lang/Integer;") (Jvm.Term.index (0 : Nat))) "java/lang/Integer" "value" "I") (Jvm.Term.sub (Jvm.Term.index (0 : Nat)) (Jvm.Term.int (128 : Int32)))))) := by decide +kernel
theorem lf_x0 : (flatC sT)[232]? = some (Jvm.Cond.not (Jvm.Cond.castable "java/lang/IllegalArgumentException" "java/lang/IndexOutOfBoundsException")) := by decide +kernel
theorem lf_x1 : (flatC sT)[233]? = some (Jvm.Cond.not (Jvm.Cond.castable "java/lang/IllegalStateException" "java/lang/IndexOutOfBoundsException")) := by decide +kernel
theorem lf_x2 : (flatC sT)[247]? = some (Jvm.Cond.not (Jvm.Cond.castable "java/lang/IllegalStateException" "java/lang/IllegalArgumentException")) := by decide +kernel
theorem ls0_0 : (flatC sT)[298]? = some (Jvm.Cond.exactly (Jvm.Term.string "Quirefold" (118 : Nat)) "java/lang/String") := by decide +kernel
theorem ls0_1 : (flatC sT)[299]? = some (Jvm.Cond.eq (Jvm.Term.field (Jvm.Term.string "Quirefold" (118 : Nat)) "java/lang/String" "coder" "B") (Jvm.Term.int (0 : Int32))) := by decide +kernel
theorem ls0_2 : (flatC sT)[300]? = some (Jvm.Cond.arrayOf (Jvm.Term.field (Jvm.Term.string "Quirefold" (118 : Nat)) "java/lang/String" "value" "[B") Jvm.ClassFile.FieldType.byte) := by decide +kernel
theorem ls0_3 : (flatC sT)[301]? = some (Jvm.Cond.eq (Jvm.Term.length (Jvm.Term.field (Jvm.Term.string "Quirefold" (118 : Nat)) "java/lang/String" "value" "[B")) (Jvm.Term.int (5 : Int32))) := by decide +kernel
abbrev lb0 : List Int32 := [112, 108, 97, 99, 101]
theorem ls0_4 : ∀ j, j < 5 → (flatC sT)[302 + j]? = some (Jvm.Cond.eq (Jvm.Term.elem (Jvm.Term.field (Jvm.Term.string "Quirefold" (118 : Nat)) "java/lang/String" "value" "[B") (Jvm.Term.int (Int32.ofNat j))) (Jvm.Term.int (lb0.getD j 0))) := by decide +kernel
theorem ls0_5 : (flatC sT)[654]? = some (Jvm.Cond.exactly (Jvm.Term.field (Jvm.Term.string "Quirefold" (118 : Nat)) "java/lang/String" "value" "[B") "[B") := by decide +kernel
theorem ls1_0 : (flatC sT)[307]? = some (Jvm.Cond.exactly (Jvm.Term.string "Quirefold" (62 : Nat)) "java/lang/String") := by decide +kernel
theorem ls1_1 : (flatC sT)[308]? = some (Jvm.Cond.eq (Jvm.Term.field (Jvm.Term.string "Quirefold" (62 : Nat)) "java/lang/String" "coder" "B") (Jvm.Term.int (0 : Int32))) := by decide +kernel
theorem ls1_2 : (flatC sT)[309]? = some (Jvm.Cond.arrayOf (Jvm.Term.field (Jvm.Term.string "Quirefold" (62 : Nat)) "java/lang/String" "value" "[B") Jvm.ClassFile.FieldType.byte) := by decide +kernel
theorem ls1_3 : (flatC sT)[310]? = some (Jvm.Cond.eq (Jvm.Term.length (Jvm.Term.field (Jvm.Term.string "Quirefold" (62 : Nat)) "java/lang/String" "value" "[B")) (Jvm.Term.int (3 : Int32))) := by decide +kernel
abbrev lb1 : List Int32 := [110, 111, 32]
theorem ls1_4 : ∀ j, j < 3 → (flatC sT)[311 + j]? = some (Jvm.Cond.eq (Jvm.Term.elem (Jvm.Term.field (Jvm.Term.string "Quirefold" (62 : Nat)) "java/lang/String" "value" "[B") (Jvm.Term.int (Int32.ofNat j))) (Jvm.Term.int (lb1.getD j 0))) := by decide +kernel
theorem ls1_5 : (flatC sT)[655]? = some (Jvm.Cond.exactly (Jvm.Term.field (Jvm.Term.string "Quirefold" (62 : Nat)) "java/lang/String" "value" "[B") "[B") := by decide +kernel
theorem ls2_0 : (flatC sT)[314]? = some (Jvm.Cond.exactly (Jvm.Term.string "Quirefold" (68 : Nat)) "java/lang/String") := by decide +kernel
theorem ls2_1 : (flatC sT)[315]? = some (Jvm.Cond.eq (Jvm.Term.field (Jvm.Term.string "Quirefold" (68 : Nat)) "java/lang/String" "coder" "B") (Jvm.Term.int (0 : Int32))) := by decide +kernel
theorem ls2_2 : (flatC sT)[316]? = some (Jvm.Cond.arrayOf (Jvm.Term.field (Jvm.Term.string "Quirefold" (68 : Nat)) "java/lang/String" "value" "[B") Jvm.ClassFile.FieldType.byte) := by decide +kernel
theorem ls2_3 : (flatC sT)[317]? = some (Jvm.Cond.eq (Jvm.Term.length (Jvm.Term.field (Jvm.Term.string "Quirefold" (68 : Nat)) "java/lang/String" "value" "[B")) (Jvm.Term.int (1 : Int32))) := by decide +kernel
abbrev lb2 : List Int32 := [32]
theorem ls2_4 : ∀ j, j < 1 → (flatC sT)[318 + j]? = some (Jvm.Cond.eq (Jvm.Term.elem (Jvm.Term.field (Jvm.Term.string "Quirefold" (68 : Nat)) "java/lang/String" "value" "[B") (Jvm.Term.int (Int32.ofNat j))) (Jvm.Term.int (lb2.getD j 0))) := by decide +kernel
theorem ls2_5 : (flatC sT)[656]? = some (Jvm.Cond.exactly (Jvm.Term.field (Jvm.Term.string "Quirefold" (68 : Nat)) "java/lang/String" "value" "[B") "[B") := by decide +kernel
theorem ls3_0 : (flatC sT)[326]? = some (Jvm.Cond.exactly (Jvm.Term.string "Quirefold" (82 : Nat)) "java/lang/String") := by decide +kernel
theorem ls3_1 : (flatC sT)[327]? = some (Jvm.Cond.eq (Jvm.Term.field (Jvm.Term.string "Quirefold" (82 : Nat)) "java/lang/String" "coder" "B") (Jvm.Term.int (0 : Int32))) := by decide +kernel
theorem ls3_2 : (flatC sT)[328]? = some (Jvm.Cond.arrayOf (Jvm.Term.field (Jvm.Term.string "Quirefold" (82 : Nat)) "java/lang/String" "value" "[B") Jvm.ClassFile.FieldType.byte) := by decide +kernel
theorem ls3_3 : (flatC sT)[329]? = some (Jvm.Cond.eq (Jvm.Term.length (Jvm.Term.field (Jvm.Term.string "Quirefold" (82 : Nat)) "java/lang/String" "value" "[B")) (Jvm.Term.int (13 : Int32))) := by decide +kernel
abbrev lb3 : List Int32 := [32, 105, 115, 32, 110, 111, 116, 32, 102, 114, 111, 109, 32]
theorem ls3_4 : ∀ j, j < 13 → (flatC sT)[330 + j]? = some (Jvm.Cond.eq (Jvm.Term.elem (Jvm.Term.field (Jvm.Term.string "Quirefold" (82 : Nat)) "java/lang/String" "value" "[B") (Jvm.Term.int (Int32.ofNat j))) (Jvm.Term.int (lb3.getD j 0))) := by decide +kernel
theorem ls3_5 : (flatC sT)[658]? = some (Jvm.Cond.exactly (Jvm.Term.field (Jvm.Term.string "Quirefold" (82 : Nat)) "java/lang/String" "value" "[B") "[B") := by decide +kernel
theorem ls4_0 : (flatC sT)[343]? = some (Jvm.Cond.exactly (Jvm.Term.string "Quirefold" (84 : Nat)) "java/lang/String") := by decide +kernel
theorem ls4_1 : (flatC sT)[344]? = some (Jvm.Cond.eq (Jvm.Term.field (Jvm.Term.string "Quirefold" (84 : Nat)) "java/lang/String" "coder" "B") (Jvm.Term.int (0 : Int32))) := by decide +kernel
theorem ls4_2 : (flatC sT)[345]? = some (Jvm.Cond.arrayOf (Jvm.Term.field (Jvm.Term.string "Quirefold" (84 : Nat)) "java/lang/String" "value" "[B") Jvm.ClassFile.FieldType.byte) := by decide +kernel
theorem ls4_3 : (flatC sT)[346]? = some (Jvm.Cond.eq (Jvm.Term.length (Jvm.Term.field (Jvm.Term.string "Quirefold" (84 : Nat)) "java/lang/String" "value" "[B")) (Jvm.Term.int (4 : Int32))) := by decide +kernel
abbrev lb4 : List Int32 := [32, 116, 111, 32]
theorem ls4_4 : ∀ j, j < 4 → (flatC sT)[347 + j]? = some (Jvm.Cond.eq (Jvm.Term.elem (Jvm.Term.field (Jvm.Term.string "Quirefold" (84 : Nat)) "java/lang/String" "value" "[B") (Jvm.Term.int (Int32.ofNat j))) (Jvm.Term.int (lb4.getD j 0))) := by decide +kernel
theorem ls4_5 : (flatC sT)[659]? = some (Jvm.Cond.exactly (Jvm.Term.field (Jvm.Term.string "Quirefold" (84 : Nat)) "java/lang/String" "value" "[B") "[B") := by decide +kernel
theorem ls5_0 : (flatC sT)[351]? = some (Jvm.Cond.exactly (Jvm.Term.string "Quirefold" (122 : Nat)) "java/lang/String") := by decide +kernel
theorem ls5_1 : (flatC sT)[352]? = some (Jvm.Cond.eq (Jvm.Term.field (Jvm.Term.string "Quirefold" (122 : Nat)) "java/lang/String" "coder" "B") (Jvm.Term.int (0 : Int32))) := by decide +kernel
theorem ls5_2 : (flatC sT)[353]? = some (Jvm.Cond.arrayOf (Jvm.Term.field (Jvm.Term.string "Quirefold" (122 : Nat)) "java/lang/String" "value" "[B") Jvm.ClassFile.FieldType.byte) := by decide +kernel
theorem ls5_3 : (flatC sT)[354]? = some (Jvm.Cond.eq (Jvm.Term.length (Jvm.Term.field (Jvm.Term.string "Quirefold" (122 : Nat)) "java/lang/String" "value" "[B")) (Jvm.Term.int (29 : Int32))) := by decide +kernel
abbrev lb5 : List Int32 := [116, 104, 101, 32, 115, 116, 111, 114, 121, 32, 104, 97, 115, 32, 116, 111, 111, 32, 109, 97, 110, 121, 32, 116, 111, 107, 101, 110, 115]
theorem ls5_4 : ∀ j, j < 29 → (flatC sT)[355 + j]? = some (Jvm.Cond.eq (Jvm.Term.elem (Jvm.Term.field (Jvm.Term.string "Quirefold" (122 : Nat)) "java/lang/String" "value" "[B") (Jvm.Term.int (Int32.ofNat j))) (Jvm.Term.int (lb5.getD j 0))) := by decide +kernel
theorem ls5_5 : (flatC sT)[660]? = some (Jvm.Cond.exactly (Jvm.Term.field (Jvm.Term.string "Quirefold" (122 : Nat)) "java/lang/String" "value" "[B") "[B") := by decide +kernel
theorem ls6_0 : (flatC sT)[407]? = some (Jvm.Cond.exactly (Jvm.Term.string "Quirefold" (139 : Nat)) "java/lang/String") := by decide +kernel
theorem ls6_1 : (flatC sT)[408]? = some (Jvm.Cond.eq (Jvm.Term.field (Jvm.Term.string "Quirefold" (139 : Nat)) "java/lang/String" "coder" "B") (Jvm.Term.int (0 : Int32))) := by decide +kernel
theorem ls6_2 : (flatC sT)[409]? = some (Jvm.Cond.arrayOf (Jvm.Term.field (Jvm.Term.string "Quirefold" (139 : Nat)) "java/lang/String" "value" "[B") Jvm.ClassFile.FieldType.byte) := by decide +kernel
theorem ls6_3 : (flatC sT)[410]? = some (Jvm.Cond.eq (Jvm.Term.length (Jvm.Term.field (Jvm.Term.string "Quirefold" (139 : Nat)) "java/lang/String" "value" "[B")) (Jvm.Term.int (5 : Int32))) := by decide +kernel
abbrev lb6 : List Int32 := [116, 111, 107, 101, 110]
theorem ls6_4 : ∀ j, j < 5 → (flatC sT)[411 + j]? = some (Jvm.Cond.eq (Jvm.Term.elem (Jvm.Term.field (Jvm.Term.string "Quirefold" (139 : Nat)) "java/lang/String" "value" "[B") (Jvm.Term.int (Int32.ofNat j))) (Jvm.Term.int (lb6.getD j 0))) := by decide +kernel
theorem ls6_5 : (flatC sT)[663]? = some (Jvm.Cond.exactly (Jvm.Term.field (Jvm.Term.string "Quirefold" (139 : Nat)) "java/lang/String" "value" "[B") "[B") := by decide +kernel
theorem ls7_0 : (flatC sT)[416]? = some (Jvm.Cond.exactly (Jvm.Term.string "Quirefold" (145 : Nat)) "java/lang/String") := by decide +kernel
theorem ls7_1 : (flatC sT)[417]? = some (Jvm.Cond.eq (Jvm.Term.field (Jvm.Term.string "Quirefold" (145 : Nat)) "java/lang/String" "coder" "B") (Jvm.Term.int (0 : Int32))) := by decide +kernel
theorem ls7_2 : (flatC sT)[418]? = some (Jvm.Cond.arrayOf (Jvm.Term.field (Jvm.Term.string "Quirefold" (145 : Nat)) "java/lang/String" "value" "[B") Jvm.ClassFile.FieldType.byte) := by decide +kernel
theorem ls7_3 : (flatC sT)[419]? = some (Jvm.Cond.eq (Jvm.Term.length (Jvm.Term.field (Jvm.Term.string "Quirefold" (145 : Nat)) "java/lang/String" "value" "[B")) (Jvm.Term.int (5 : Int32))) := by decide +kernel
abbrev lb7 : List Int32 := [115, 116, 121, 108, 101]
theorem ls7_4 : ∀ j, j < 5 → (flatC sT)[420 + j]? = some (Jvm.Cond.eq (Jvm.Term.elem (Jvm.Term.field (Jvm.Term.string "Quirefold" (145 : Nat)) "java/lang/String" "value" "[B") (Jvm.Term.int (Int32.ofNat j))) (Jvm.Term.int (lb7.getD j 0))) := by decide +kernel
theorem ls7_5 : (flatC sT)[664]? = some (Jvm.Cond.exactly (Jvm.Term.field (Jvm.Term.string "Quirefold" (145 : Nat)) "java/lang/String" "value" "[B") "[B") := by decide +kernel
theorem ls8_0 : (flatC sT)[425]? = some (Jvm.Cond.exactly (Jvm.Term.string "Quirefold" (151 : Nat)) "java/lang/String") := by decide +kernel
theorem ls8_1 : (flatC sT)[426]? = some (Jvm.Cond.eq (Jvm.Term.field (Jvm.Term.string "Quirefold" (151 : Nat)) "java/lang/String" "coder" "B") (Jvm.Term.int (0 : Int32))) := by decide +kernel
theorem ls8_2 : (flatC sT)[427]? = some (Jvm.Cond.arrayOf (Jvm.Term.field (Jvm.Term.string "Quirefold" (151 : Nat)) "java/lang/String" "value" "[B") Jvm.ClassFile.FieldType.byte) := by decide +kernel
theorem ls8_3 : (flatC sT)[428]? = some (Jvm.Cond.eq (Jvm.Term.length (Jvm.Term.field (Jvm.Term.string "Quirefold" (151 : Nat)) "java/lang/String" "value" "[B")) (Jvm.Term.int (30 : Int32))) := by decide +kernel
abbrev lb8 : List Int32 := [116, 104, 101, 32, 115, 116, 121, 108, 101, 32, 119, 111, 117, 108, 100, 32, 108, 101, 97, 100, 32, 116, 111, 32, 105, 116, 115, 101, 108, 102]
theorem ls8_4 : ∀ j, j < 30 → (flatC sT)[429 + j]? = some (Jvm.Cond.eq (Jvm.Term.elem (Jvm.Term.field (Jvm.Term.string "Quirefold" (151 : Nat)) "java/lang/String" "value" "[B") (Jvm.Term.int (Int32.ofNat j))) (Jvm.Term.int (lb8.getD j 0))) := by decide +kernel
theorem ls8_5 : (flatC sT)[665]? = some (Jvm.Cond.exactly (Jvm.Term.field (Jvm.Term.string "Quirefold" (151 : Nat)) "java/lang/String" "value" "[B") "[B") := by decide +kernel
theorem ls9_0 : (flatC sT)[459]? = some (Jvm.Cond.exactly (Jvm.Term.string "Quirefold" (90 : Nat)) "java/lang/String") := by decide +kernel
theorem ls9_1 : (flatC sT)[460]? = some (Jvm.Cond.eq (Jvm.Term.field (Jvm.Term.string "Quirefold" (90 : Nat)) "java/lang/String" "coder" "B") (Jvm.Term.int (0 : Int32))) := by decide +kernel
theorem ls9_2 : (flatC sT)[461]? = some (Jvm.Cond.arrayOf (Jvm.Term.field (Jvm.Term.string "Quirefold" (90 : Nat)) "java/lang/String" "value" "[B") Jvm.ClassFile.FieldType.byte) := by decide +kernel
theorem ls9_3 : (flatC sT)[462]? = some (Jvm.Cond.eq (Jvm.Term.length (Jvm.Term.field (Jvm.Term.string "Quirefold" (90 : Nat)) "java/lang/String" "value" "[B")) (Jvm.Term.int (6 : Int32))) := by decide +kernel
abbrev lb9 : List Int32 := [114, 101, 99, 111, 114, 100]
theorem ls9_4 : ∀ j, j < 6 → (flatC sT)[463 + j]? = some (Jvm.Cond.eq (Jvm.Term.elem (Jvm.Term.field (Jvm.Term.string "Quirefold" (90 : Nat)) "java/lang/String" "value" "[B") (Jvm.Term.int (Int32.ofNat j))) (Jvm.Term.int (lb9.getD j 0))) := by decide +kernel
theorem ls9_5 : (flatC sT)[666]? = some (Jvm.Cond.exactly (Jvm.Term.field (Jvm.Term.string "Quirefold" (90 : Nat)) "java/lang/String" "value" "[B") "[B") := by decide +kernel
theorem ls10_0 : (flatC sT)[469]? = some (Jvm.Cond.exactly (Jvm.Term.string "Quirefold" (159 : Nat)) "java/lang/String") := by decide +kernel
theorem ls10_1 : (flatC sT)[470]? = some (Jvm.Cond.eq (Jvm.Term.field (Jvm.Term.string "Quirefold" (159 : Nat)) "java/lang/String" "coder" "B") (Jvm.Term.int (0 : Int32))) := by decide +kernel
theorem ls10_2 : (flatC sT)[471]? = some (Jvm.Cond.arrayOf (Jvm.Term.field (Jvm.Term.string "Quirefold" (159 : Nat)) "java/lang/String" "value" "[B") Jvm.ClassFile.FieldType.byte) := by decide +kernel
theorem ls10_3 : (flatC sT)[472]? = some (Jvm.Cond.eq (Jvm.Term.length (Jvm.Term.field (Jvm.Term.string "Quirefold" (159 : Nat)) "java/lang/String" "value" "[B")) (Jvm.Term.int (8 : Int32))) := by decide +kernel
abbrev lb10 : List Int32 := [118, 97, 114, 105, 97, 98, 108, 101]
theorem ls10_4 : ∀ j, j < 8 → (flatC sT)[473 + j]? = some (Jvm.Cond.eq (Jvm.Term.elem (Jvm.Term.field (Jvm.Term.string "Quirefold" (159 : Nat)) "java/lang/String" "value" "[B") (Jvm.Term.int (Int32.ofNat j))) (Jvm.Term.int (lb10.getD j 0))) := by decide +kernel
theorem ls10_5 : (flatC sT)[667]? = some (Jvm.Cond.exactly (Jvm.Term.field (Jvm.Term.string "Quirefold" (159 : Nat)) "java/lang/String" "value" "[B") "[B") := by decide +kernel
theorem ls11_0 : (flatC sT)[481]? = some (Jvm.Cond.exactly (Jvm.Term.string "Quirefold" (161 : Nat)) "java/lang/String") := by decide +kernel
theorem ls11_1 : (flatC sT)[482]? = some (Jvm.Cond.eq (Jvm.Term.field (Jvm.Term.string "Quirefold" (161 : Nat)) "java/lang/String" "coder" "B") (Jvm.Term.int (0 : Int32))) := by decide +kernel
theorem ls11_2 : (flatC sT)[483]? = some (Jvm.Cond.arrayOf (Jvm.Term.field (Jvm.Term.string "Quirefold" (161 : Nat)) "java/lang/String" "value" "[B") Jvm.ClassFile.FieldType.byte) := by decide +kernel
theorem ls11_3 : (flatC sT)[484]? = some (Jvm.Cond.eq (Jvm.Term.length (Jvm.Term.field (Jvm.Term.string "Quirefold" (161 : Nat)) "java/lang/String" "value" "[B")) (Jvm.Term.int (4 : Int32))) := by decide +kernel
abbrev lb11 : List Int32 := [116, 101, 114, 109]
theorem ls11_4 : ∀ j, j < 4 → (flatC sT)[485 + j]? = some (Jvm.Cond.eq (Jvm.Term.elem (Jvm.Term.field (Jvm.Term.string "Quirefold" (161 : Nat)) "java/lang/String" "value" "[B") (Jvm.Term.int (Int32.ofNat j))) (Jvm.Term.int (lb11.getD j 0))) := by decide +kernel
theorem ls11_5 : (flatC sT)[668]? = some (Jvm.Cond.exactly (Jvm.Term.field (Jvm.Term.string "Quirefold" (161 : Nat)) "java/lang/String" "value" "[B") "[B") := by decide +kernel
theorem ls12_0 : (flatC sT)[489]? = some (Jvm.Cond.exactly (Jvm.Term.string "Quirefold" (163 : Nat)) "java/lang/String") := by decide +kernel
theorem ls12_1 : (flatC sT)[490]? = some (Jvm.Cond.eq (Jvm.Term.field (Jvm.Term.string "Quirefold" (163 : Nat)) "java/lang/String" "coder" "B") (Jvm.Term.int (0 : Int32))) := by decide +kernel
theorem ls12_2 : (flatC sT)[491]? = some (Jvm.Cond.arrayOf (Jvm.Term.field (Jvm.Term.string "Quirefold" (163 : Nat)) "java/lang/String" "value" "[B") Jvm.ClassFile.FieldType.byte) := by decide +kernel
theorem ls12_3 : (flatC sT)[492]? = some (Jvm.Cond.eq (Jvm.Term.length (Jvm.Term.field (Jvm.Term.string "Quirefold" (163 : Nat)) "java/lang/String" "value" "[B")) (Jvm.Term.int (29 : Int32))) := by decide +kernel
abbrev lb12 : List Int32 := [116, 104, 101, 32, 116, 101, 114, 109, 32, 119, 111, 117, 108, 100, 32, 108, 101, 97, 100, 32, 116, 111, 32, 105, 116, 115, 101, 108, 102]
theorem ls12_4 : ∀ j, j < 29 → (flatC sT)[493 + j]? = some (Jvm.Cond.eq (Jvm.Term.elem (Jvm.Term.field (Jvm.Term.string "Quirefold" (163 : Nat)) "java/lang/String" "value" "[B") (Jvm.Term.int (Int32.ofNat j))) (Jvm.Term.int (lb12.getD j 0))) := by decide +kernel
theorem ls12_5 : (flatC sT)[669]? = some (Jvm.Cond.exactly (Jvm.Term.field (Jvm.Term.string "Quirefold" (163 : Nat)) "java/lang/String" "value" "[B") "[B") := by decide +kernel
theorem ls13_0 : (flatC sT)[522]? = some (Jvm.Cond.exactly (Jvm.Term.string "Quirefold" (165 : Nat)) "java/lang/String") := by decide +kernel
theorem ls13_1 : (flatC sT)[523]? = some (Jvm.Cond.eq (Jvm.Term.field (Jvm.Term.string "Quirefold" (165 : Nat)) "java/lang/String" "coder" "B") (Jvm.Term.int (0 : Int32))) := by decide +kernel
theorem ls13_2 : (flatC sT)[524]? = some (Jvm.Cond.arrayOf (Jvm.Term.field (Jvm.Term.string "Quirefold" (165 : Nat)) "java/lang/String" "value" "[B") Jvm.ClassFile.FieldType.byte) := by decide +kernel
theorem ls13_3 : (flatC sT)[525]? = some (Jvm.Cond.eq (Jvm.Term.length (Jvm.Term.field (Jvm.Term.string "Quirefold" (165 : Nat)) "java/lang/String" "value" "[B")) (Jvm.Term.int (17 : Int32))) := by decide +kernel
abbrev lb13 : List Int32 := [110, 111, 32, 115, 105, 103, 110, 97, 116, 117, 114, 101, 32, 104, 97, 115, 32]
theorem ls13_4 : ∀ j, j < 17 → (flatC sT)[526 + j]? = some (Jvm.Cond.eq (Jvm.Term.elem (Jvm.Term.field (Jvm.Term.string "Quirefold" (165 : Nat)) "java/lang/String" "value" "[B") (Jvm.Term.int (Int32.ofNat j))) (Jvm.Term.int (lb13.getD j 0))) := by decide +kernel
theorem ls13_5 : (flatC sT)[670]? = some (Jvm.Cond.exactly (Jvm.Term.field (Jvm.Term.string "Quirefold" (165 : Nat)) "java/lang/String" "value" "[B") "[B") := by decide +kernel
theorem ls14_0 : (flatC sT)[543]? = some (Jvm.Cond.exactly (Jvm.Term.string "Quirefold" (167 : Nat)) "java/lang/String") := by decide +kernel
theorem ls14_1 : (flatC sT)[544]? = some (Jvm.Cond.eq (Jvm.Term.field (Jvm.Term.string "Quirefold" (167 : Nat)) "java/lang/String" "coder" "B") (Jvm.Term.int (0 : Int32))) := by decide +kernel
theorem ls14_2 : (flatC sT)[545]? = some (Jvm.Cond.arrayOf (Jvm.Term.field (Jvm.Term.string "Quirefold" (167 : Nat)) "java/lang/String" "value" "[B") Jvm.ClassFile.FieldType.byte) := by decide +kernel
theorem ls14_3 : (flatC sT)[546]? = some (Jvm.Cond.eq (Jvm.Term.length (Jvm.Term.field (Jvm.Term.string "Quirefold" (167 : Nat)) "java/lang/String" "value" "[B")) (Jvm.Term.int (6 : Int32))) := by decide +kernel
abbrev lb14 : List Int32 := [32, 112, 97, 103, 101, 115]
theorem ls14_4 : ∀ j, j < 6 → (flatC sT)[547 + j]? = some (Jvm.Cond.eq (Jvm.Term.elem (Jvm.Term.field (Jvm.Term.string "Quirefold" (167 : Nat)) "java/lang/String" "value" "[B") (Jvm.Term.int (Int32.ofNat j))) (Jvm.Term.int (lb14.getD j 0))) := by decide +kernel
theorem ls14_5 : (flatC sT)[671]? = some (Jvm.Cond.exactly (Jvm.Term.field (Jvm.Term.string "Quirefold" (167 : Nat)) "java/lang/String" "value" "[B") "[B") := by decide +kernel
theorem ls15_0 : (flatC sT)[553]? = some (Jvm.Cond.exactly (Jvm.Term.string "Quirefold" (112 : Nat)) "java/lang/String") := by decide +kernel
theorem ls15_1 : (flatC sT)[554]? = some (Jvm.Cond.eq (Jvm.Term.field (Jvm.Term.string "Quirefold" (112 : Nat)) "java/lang/String" "coder" "B") (Jvm.Term.int (0 : Int32))) := by decide +kernel
theorem ls15_2 : (flatC sT)[555]? = some (Jvm.Cond.arrayOf (Jvm.Term.field (Jvm.Term.string "Quirefold" (112 : Nat)) "java/lang/String" "value" "[B") Jvm.ClassFile.FieldType.byte) := by decide +kernel
theorem ls15_3 : (flatC sT)[556]? = some (Jvm.Cond.eq (Jvm.Term.length (Jvm.Term.field (Jvm.Term.string "Quirefold" (112 : Nat)) "java/lang/String" "value" "[B")) (Jvm.Term.int (4 : Int32))) := by decide +kernel
abbrev lb15 : List Int32 := [108, 105, 110, 101]
theorem ls15_4 : ∀ j, j < 4 → (flatC sT)[557 + j]? = some (Jvm.Cond.eq (Jvm.Term.elem (Jvm.Term.field (Jvm.Term.string "Quirefold" (112 : Nat)) "java/lang/String" "value" "[B") (Jvm.Term.int (Int32.ofNat j))) (Jvm.Term.int (lb15.getD j 0))) := by decide +kernel
theorem ls15_5 : (flatC sT)[672]? = some (Jvm.Cond.exactly (Jvm.Term.field (Jvm.Term.string "Quirefold" (112 : Nat)) "java/lang/String" "value" "[B") "[B") := by decide +kernel
theorem ls16_0 : (flatC sT)[561]? = some (Jvm.Cond.exactly (Jvm.Term.string "Quirefold" (193 : Nat)) "java/lang/String") := by decide +kernel
theorem ls16_1 : (flatC sT)[562]? = some (Jvm.Cond.eq (Jvm.Term.field (Jvm.Term.string "Quirefold" (193 : Nat)) "java/lang/String" "coder" "B") (Jvm.Term.int (0 : Int32))) := by decide +kernel
theorem ls16_2 : (flatC sT)[563]? = some (Jvm.Cond.arrayOf (Jvm.Term.field (Jvm.Term.string "Quirefold" (193 : Nat)) "java/lang/String" "value" "[B") Jvm.ClassFile.FieldType.byte) := by decide +kernel
theorem ls16_3 : (flatC sT)[564]? = some (Jvm.Cond.eq (Jvm.Term.length (Jvm.Term.field (Jvm.Term.string "Quirefold" (193 : Nat)) "java/lang/String" "value" "[B")) (Jvm.Term.int (10 : Int32))) := by decide +kernel
abbrev lb16 : List Int32 := [110, 111, 32, 102, 105, 103, 117, 114, 101, 32]
theorem ls16_4 : ∀ j, j < 10 → (flatC sT)[565 + j]? = some (Jvm.Cond.eq (Jvm.Term.elem (Jvm.Term.field (Jvm.Term.string "Quirefold" (193 : Nat)) "java/lang/String" "value" "[B") (Jvm.Term.int (Int32.ofNat j))) (Jvm.Term.int (lb16.getD j 0))) := by decide +kernel
theorem ls16_5 : (flatC sT)[673]? = some (Jvm.Cond.exactly (Jvm.Term.field (Jvm.Term.string "Quirefold" (193 : Nat)) "java/lang/String" "value" "[B") "[B") := by decide +kernel
theorem ls17_0 : (flatC sT)[575]? = some (Jvm.Cond.exactly (Jvm.Term.string "Quirefold" (211 : Nat)) "java/lang/String") := by decide +kernel
theorem ls17_1 : (flatC sT)[576]? = some (Jvm.Cond.eq (Jvm.Term.field (Jvm.Term.string "Quirefold" (211 : Nat)) "java/lang/String" "coder" "B") (Jvm.Term.int (0 : Int32))) := by decide +kernel
theorem ls17_2 : (flatC sT)[577]? = some (Jvm.Cond.arrayOf (Jvm.Term.field (Jvm.Term.string "Quirefold" (211 : Nat)) "java/lang/String" "value" "[B") Jvm.ClassFile.FieldType.byte) := by decide +kernel
theorem ls17_3 : (flatC sT)[578]? = some (Jvm.Cond.eq (Jvm.Term.length (Jvm.Term.field (Jvm.Term.string "Quirefold" (211 : Nat)) "java/lang/String" "value" "[B")) (Jvm.Term.int (9 : Int32))) := by decide +kernel
abbrev lb17 : List Int32 := [110, 111, 32, 101, 110, 116, 114, 121, 32]
theorem ls17_4 : ∀ j, j < 9 → (flatC sT)[579 + j]? = some (Jvm.Cond.eq (Jvm.Term.elem (Jvm.Term.field (Jvm.Term.string "Quirefold" (211 : Nat)) "java/lang/String" "value" "[B") (Jvm.Term.int (Int32.ofNat j))) (Jvm.Term.int (lb17.getD j 0))) := by decide +kernel
theorem ls17_5 : (flatC sT)[674]? = some (Jvm.Cond.exactly (Jvm.Term.field (Jvm.Term.string "Quirefold" (211 : Nat)) "java/lang/String" "value" "[B") "[B") := by decide +kernel
theorem ls18_0 : (flatC sT)[588]? = some (Jvm.Cond.exactly (Jvm.Term.string "Quirefold" (236 : Nat)) "java/lang/String") := by decide +kernel
theorem ls18_1 : (flatC sT)[589]? = some (Jvm.Cond.eq (Jvm.Term.field (Jvm.Term.string "Quirefold" (236 : Nat)) "java/lang/String" "coder" "B") (Jvm.Term.int (0 : Int32))) := by decide +kernel
theorem ls18_2 : (flatC sT)[590]? = some (Jvm.Cond.arrayOf (Jvm.Term.field (Jvm.Term.string "Quirefold" (236 : Nat)) "java/lang/String" "value" "[B") Jvm.ClassFile.FieldType.byte) := by decide +kernel
theorem ls18_3 : (flatC sT)[591]? = some (Jvm.Cond.eq (Jvm.Term.length (Jvm.Term.field (Jvm.Term.string "Quirefold" (236 : Nat)) "java/lang/String" "value" "[B")) (Jvm.Term.int (8 : Int32))) := by decide +kernel
abbrev lb18 : List Int32 := [110, 111, 32, 112, 97, 114, 116, 32]
theorem ls18_4 : ∀ j, j < 8 → (flatC sT)[592 + j]? = some (Jvm.Cond.eq (Jvm.Term.elem (Jvm.Term.field (Jvm.Term.string "Quirefold" (236 : Nat)) "java/lang/String" "value" "[B") (Jvm.Term.int (Int32.ofNat j))) (Jvm.Term.int (lb18.getD j 0))) := by decide +kernel
theorem ls18_5 : (flatC sT)[675]? = some (Jvm.Cond.exactly (Jvm.Term.field (Jvm.Term.string "Quirefold" (236 : Nat)) "java/lang/String" "value" "[B") "[B") := by decide +kernel
theorem ls19_0 : (flatC sT)[600]? = some (Jvm.Cond.exactly (Jvm.Term.string "Quirefold" (248 : Nat)) "java/lang/String") := by decide +kernel
theorem ls19_1 : (flatC sT)[601]? = some (Jvm.Cond.eq (Jvm.Term.field (Jvm.Term.string "Quirefold" (248 : Nat)) "java/lang/String" "coder" "B") (Jvm.Term.int (0 : Int32))) := by decide +kernel
theorem ls19_2 : (flatC sT)[602]? = some (Jvm.Cond.arrayOf (Jvm.Term.field (Jvm.Term.string "Quirefold" (248 : Nat)) "java/lang/String" "value" "[B") Jvm.ClassFile.FieldType.byte) := by decide +kernel
theorem ls19_3 : (flatC sT)[603]? = some (Jvm.Cond.eq (Jvm.Term.length (Jvm.Term.field (Jvm.Term.string "Quirefold" (248 : Nat)) "java/lang/String" "value" "[B")) (Jvm.Term.int (4 : Int32))) := by decide +kernel
abbrev lb19 : List Int32 := [112, 97, 103, 101]
theorem ls19_4 : ∀ j, j < 4 → (flatC sT)[604 + j]? = some (Jvm.Cond.eq (Jvm.Term.elem (Jvm.Term.field (Jvm.Term.string "Quirefold" (248 : Nat)) "java/lang/String" "value" "[B") (Jvm.Term.int (Int32.ofNat j))) (Jvm.Term.int (lb19.getD j 0))) := by decide +kernel
theorem ls19_5 : (flatC sT)[676]? = some (Jvm.Cond.exactly (Jvm.Term.field (Jvm.Term.string "Quirefold" (248 : Nat)) "java/lang/String" "value" "[B") "[B") := by decide +kernel
theorem ls20_0 : (flatC sT)[608]? = some (Jvm.Cond.exactly (Jvm.Term.string "Quirefold" (249 : Nat)) "java/lang/String") := by decide +kernel
theorem ls20_1 : (flatC sT)[609]? = some (Jvm.Cond.eq (Jvm.Term.field (Jvm.Term.string "Quirefold" (249 : Nat)) "java/lang/String" "coder" "B") (Jvm.Term.int (0 : Int32))) := by decide +kernel
theorem ls20_2 : (flatC sT)[610]? = some (Jvm.Cond.arrayOf (Jvm.Term.field (Jvm.Term.string "Quirefold" (249 : Nat)) "java/lang/String" "value" "[B") Jvm.ClassFile.FieldType.byte) := by decide +kernel
theorem ls20_3 : (flatC sT)[611]? = some (Jvm.Cond.eq (Jvm.Term.length (Jvm.Term.field (Jvm.Term.string "Quirefold" (249 : Nat)) "java/lang/String" "value" "[B")) (Jvm.Term.int (5 : Int32))) := by decide +kernel
abbrev lb20 : List Int32 := [116, 104, 105, 110, 103]
theorem ls20_4 : ∀ j, j < 5 → (flatC sT)[612 + j]? = some (Jvm.Cond.eq (Jvm.Term.elem (Jvm.Term.field (Jvm.Term.string "Quirefold" (249 : Nat)) "java/lang/String" "value" "[B") (Jvm.Term.int (Int32.ofNat j))) (Jvm.Term.int (lb20.getD j 0))) := by decide +kernel
theorem ls20_5 : (flatC sT)[677]? = some (Jvm.Cond.exactly (Jvm.Term.field (Jvm.Term.string "Quirefold" (249 : Nat)) "java/lang/String" "value" "[B") "[B") := by decide +kernel
theorem ls21_0 : (flatC sT)[617]? = some (Jvm.Cond.exactly (Jvm.Term.string "Quirefold" (254 : Nat)) "java/lang/String") := by decide +kernel
theorem ls21_1 : (flatC sT)[618]? = some (Jvm.Cond.eq (Jvm.Term.field (Jvm.Term.string "Quirefold" (254 : Nat)) "java/lang/String" "coder" "B") (Jvm.Term.int (0 : Int32))) := by decide +kernel
theorem ls21_2 : (flatC sT)[619]? = some (Jvm.Cond.arrayOf (Jvm.Term.field (Jvm.Term.string "Quirefold" (254 : Nat)) "java/lang/String" "value" "[B") Jvm.ClassFile.FieldType.byte) := by decide +kernel
theorem ls21_3 : (flatC sT)[620]? = some (Jvm.Cond.eq (Jvm.Term.length (Jvm.Term.field (Jvm.Term.string "Quirefold" (254 : Nat)) "java/lang/String" "value" "[B")) (Jvm.Term.int (5 : Int32))) := by decide +kernel
abbrev lb21 : List Int32 := [115, 104, 101, 101, 116]
theorem ls21_4 : ∀ j, j < 5 → (flatC sT)[621 + j]? = some (Jvm.Cond.eq (Jvm.Term.elem (Jvm.Term.field (Jvm.Term.string "Quirefold" (254 : Nat)) "java/lang/String" "value" "[B") (Jvm.Term.int (Int32.ofNat j))) (Jvm.Term.int (lb21.getD j 0))) := by decide +kernel
theorem ls21_5 : (flatC sT)[678]? = some (Jvm.Cond.exactly (Jvm.Term.field (Jvm.Term.string "Quirefold" (254 : Nat)) "java/lang/String" "value" "[B") "[B") := by decide +kernel
theorem ls22_0 : (flatC sT)[626]? = some (Jvm.Cond.exactly (Jvm.Term.string "Quirefold" (256 : Nat)) "java/lang/String") := by decide +kernel
theorem ls22_1 : (flatC sT)[627]? = some (Jvm.Cond.eq (Jvm.Term.field (Jvm.Term.string "Quirefold" (256 : Nat)) "java/lang/String" "coder" "B") (Jvm.Term.int (0 : Int32))) := by decide +kernel
theorem ls22_2 : (flatC sT)[628]? = some (Jvm.Cond.arrayOf (Jvm.Term.field (Jvm.Term.string "Quirefold" (256 : Nat)) "java/lang/String" "value" "[B") Jvm.ClassFile.FieldType.byte) := by decide +kernel
theorem ls22_3 : (flatC sT)[629]? = some (Jvm.Cond.eq (Jvm.Term.length (Jvm.Term.field (Jvm.Term.string "Quirefold" (256 : Nat)) "java/lang/String" "value" "[B")) (Jvm.Term.int (4 : Int32))) := by decide +kernel
abbrev lb22 : List Int32 := [115, 105, 100, 101]
theorem ls22_4 : ∀ j, j < 4 → (flatC sT)[630 + j]? = some (Jvm.Cond.eq (Jvm.Term.elem (Jvm.Term.field (Jvm.Term.string "Quirefold" (256 : Nat)) "java/lang/String" "value" "[B") (Jvm.Term.int (Int32.ofNat j))) (Jvm.Term.int (lb22.getD j 0))) := by decide +kernel
theorem ls22_5 : (flatC sT)[679]? = some (Jvm.Cond.exactly (Jvm.Term.field (Jvm.Term.string "Quirefold" (256 : Nat)) "java/lang/String" "value" "[B") "[B") := by decide +kernel
theorem ls23_0 : (flatC sT)[634]? = some (Jvm.Cond.exactly (Jvm.Term.string "Quirefold" (258 : Nat)) "java/lang/String") := by decide +kernel
theorem ls23_1 : (flatC sT)[635]? = some (Jvm.Cond.eq (Jvm.Term.field (Jvm.Term.string "Quirefold" (258 : Nat)) "java/lang/String" "coder" "B") (Jvm.Term.int (0 : Int32))) := by decide +kernel
theorem ls23_2 : (flatC sT)[636]? = some (Jvm.Cond.arrayOf (Jvm.Term.field (Jvm.Term.string "Quirefold" (258 : Nat)) "java/lang/String" "value" "[B") Jvm.ClassFile.FieldType.byte) := by decide +kernel
theorem ls23_3 : (flatC sT)[637]? = some (Jvm.Cond.eq (Jvm.Term.length (Jvm.Term.field (Jvm.Term.string "Quirefold" (258 : Nat)) "java/lang/String" "value" "[B")) (Jvm.Term.int (6 : Int32))) := by decide +kernel
abbrev lb23 : List Int32 := [99, 111, 108, 111, 117, 114]
theorem ls23_4 : ∀ j, j < 6 → (flatC sT)[638 + j]? = some (Jvm.Cond.eq (Jvm.Term.elem (Jvm.Term.field (Jvm.Term.string "Quirefold" (258 : Nat)) "java/lang/String" "value" "[B") (Jvm.Term.int (Int32.ofNat j))) (Jvm.Term.int (lb23.getD j 0))) := by decide +kernel
theorem ls23_5 : (flatC sT)[680]? = some (Jvm.Cond.exactly (Jvm.Term.field (Jvm.Term.string "Quirefold" (258 : Nat)) "java/lang/String" "value" "[B") "[B") := by decide +kernel
theorem ls24_0 : (flatC sT)[644]? = some (Jvm.Cond.exactly (Jvm.Term.string "Quirefold" (279 : Nat)) "java/lang/String") := by decide +kernel
theorem ls24_1 : (flatC sT)[645]? = some (Jvm.Cond.eq (Jvm.Term.field (Jvm.Term.string "Quirefold" (279 : Nat)) "java/lang/String" "coder" "B") (Jvm.Term.int (0 : Int32))) := by decide +kernel
theorem ls24_2 : (flatC sT)[646]? = some (Jvm.Cond.arrayOf (Jvm.Term.field (Jvm.Term.string "Quirefold" (279 : Nat)) "java/lang/String" "value" "[B") Jvm.ClassFile.FieldType.byte) := by decide +kernel
theorem ls24_3 : (flatC sT)[647]? = some (Jvm.Cond.eq (Jvm.Term.length (Jvm.Term.field (Jvm.Term.string "Quirefold" (279 : Nat)) "java/lang/String" "value" "[B")) (Jvm.Term.int (4 : Int32))) := by decide +kernel
abbrev lb24 : List Int32 := [107, 105, 110, 100]
theorem ls24_4 : ∀ j, j < 4 → (flatC sT)[648 + j]? = some (Jvm.Cond.eq (Jvm.Term.elem (Jvm.Term.field (Jvm.Term.string "Quirefold" (279 : Nat)) "java/lang/String" "value" "[B") (Jvm.Term.int (Int32.ofNat j))) (Jvm.Term.int (lb24.getD j 0))) := by decide +kernel
theorem ls24_5 : (flatC sT)[681]? = some (Jvm.Cond.exactly (Jvm.Term.field (Jvm.Term.string "Quirefold" (279 : Nat)) "java/lang/String" "value" "[B") "[B") := by decide +kernel
