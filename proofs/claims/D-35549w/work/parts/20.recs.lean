set_option maxRecDepth 100000
theorem nf_y_IhasNext : y_IhasNext.cls ≠ "java/lang/invoke/MethodHandle" ∧ y_IhasNext.cls ≠ "java/lang/invoke/VarHandle" ∧ (parseMethodDescriptor y_IhasNext.desc).map (fun d => d.parameters.length) = some 0 := by decide +kernel
theorem nf_y_Inext : y_Inext.cls ≠ "java/lang/invoke/MethodHandle" ∧ y_Inext.cls ≠ "java/lang/invoke/VarHandle" ∧ (parseMethodDescriptor y_Inext.desc).map (fun d => d.parameters.length) = some 0 := by decide +kernel
theorem nf_y_Ladd : y_Ladd.cls ≠ "java/lang/invoke/MethodHandle" ∧ y_Ladd.cls ≠ "java/lang/invoke/VarHandle" ∧ (parseMethodDescriptor y_Ladd.desc).map (fun d => d.parameters.length) = some 1 := by decide +kernel
theorem nf_y_Ladd2 : y_Ladd2.cls ≠ "java/lang/invoke/MethodHandle" ∧ y_Ladd2.cls ≠ "java/lang/invoke/VarHandle" ∧ (parseMethodDescriptor y_Ladd2.desc).map (fun d => d.parameters.length) = some 2 := by decide +kernel
theorem nf_y_Lclear : y_Lclear.cls ≠ "java/lang/invoke/MethodHandle" ∧ y_Lclear.cls ≠ "java/lang/invoke/VarHandle" ∧ (parseMethodDescriptor y_Lclear.desc).map (fun d => d.parameters.length) = some 0 := by decide +kernel
theorem nf_y_Lget : y_Lget.cls ≠ "java/lang/invoke/MethodHandle" ∧ y_Lget.cls ≠ "java/lang/invoke/VarHandle" ∧ (parseMethodDescriptor y_Lget.desc).map (fun d => d.parameters.length) = some 1 := by decide +kernel
theorem nf_y_LisEmpty : y_LisEmpty.cls ≠ "java/lang/invoke/MethodHandle" ∧ y_LisEmpty.cls ≠ "java/lang/invoke/VarHandle" ∧ (parseMethodDescriptor y_LisEmpty.desc).map (fun d => d.parameters.length) = some 0 := by decide +kernel
theorem nf_y_Literator : y_Literator.cls ≠ "java/lang/invoke/MethodHandle" ∧ y_Literator.cls ≠ "java/lang/invoke/VarHandle" ∧ (parseMethodDescriptor y_Literator.desc).map (fun d => d.parameters.length) = some 0 := by decide +kernel
theorem nf_y_Lremove : y_Lremove.cls ≠ "java/lang/invoke/MethodHandle" ∧ y_Lremove.cls ≠ "java/lang/invoke/VarHandle" ∧ (parseMethodDescriptor y_Lremove.desc).map (fun d => d.parameters.length) = some 1 := by decide +kernel
theorem nf_y_Lsize : y_Lsize.cls ≠ "java/lang/invoke/MethodHandle" ∧ y_Lsize.cls ≠ "java/lang/invoke/VarHandle" ∧ (parseMethodDescriptor y_Lsize.desc).map (fun d => d.parameters.length) = some 0 := by decide +kernel
theorem fw_J2_size : (RJ2, y_Lsize, yJ2_size) ∈ qFW := List.mem_of_getElem? (i := 0) rfl
theorem fw_J2_add : (RJ2, y_Ladd2, yJ2_add) ∈ qFW := List.mem_of_getElem? (i := 1) rfl
theorem fw_J2_remove : (RJ2, y_Lremove, yJ2_remove) ∈ qFW := List.mem_of_getElem? (i := 2) rfl
theorem fw_J2_get : (RJ2, y_Lget, yJ2_get) ∈ qFW := List.mem_of_getElem? (i := 3) rfl
theorem fw_J2_add_2 : (RJ2, y_Ladd, yJ2_add_2) ∈ qFW := List.mem_of_getElem? (i := 4) rfl
theorem fw_J2_isEmpty : (RJ2, y_LisEmpty, yJ2_isEmpty) ∈ qFW := List.mem_of_getElem? (i := 5) rfl
theorem fw_J2_clear : (RJ2, y_Lclear, yJ2_clear) ∈ qFW := List.mem_of_getElem? (i := 6) rfl
theorem fw_J2_iterator : (RJ2, y_Literator, yJ2_iterator) ∈ qFW := List.mem_of_getElem? (i := 7) rfl
theorem fw_J22_hasNext : (RJ22, y_IhasNext, yJ22_hasNext) ∈ qFW := List.mem_of_getElem? (i := 8) rfl
theorem fw_J22_next : (RJ22, y_Inext, yJ22_next) ∈ qFW := List.mem_of_getElem? (i := 9) rfl
theorem pv_J9_newCapacity : yJ9_newCapacity ∈ qPV := List.mem_of_getElem? (i := 0) rfl
theorem pv_J9_putStringAt : yJ9_putStringAt ∈ qPV := List.mem_of_getElem? (i := 1) rfl
theorem pv_J9_inflateIfNeededFor : yJ9_inflateIfNeededFor ∈ qPV := List.mem_of_getElem? (i := 2) rfl
theorem pv_J9_ensureCapacityInternal : yJ9_ensureCapacityInternal ∈ qPV := List.mem_of_getElem? (i := 3) rfl
abbrev m_J0_init : qM := (1, yJ0_init, RJ0, cJ0_init, 1, none, [])
theorem nk_J0_init : yJ0_init.cls ≠ "java/lang/invoke/MethodHandle" ∧ yJ0_init.cls ≠ "java/lang/invoke/VarHandle" ∧ (parseMethodDescriptor yJ0_init.desc).map (fun d => d.parameters.length) = some 0 := by decide +kernel
theorem pl_J0_init : plainName yJ0_init.cls = true := by decide +kernel
abbrev m_J1_init : qM := (2, yJ1_init, RJ1, cJ1_init, 1, none, [])
theorem nk_J1_init : yJ1_init.cls ≠ "java/lang/invoke/MethodHandle" ∧ yJ1_init.cls ≠ "java/lang/invoke/VarHandle" ∧ (parseMethodDescriptor yJ1_init.desc).map (fun d => d.parameters.length) = some 0 := by decide +kernel
theorem pl_J1_init : plainName yJ1_init.cls = true := by decide +kernel
abbrev m_J12_newLength : qM := (2, yJ12_newLength, RJ12, cJ12_newLength, 4, some .int, [])
theorem nk_J12_newLength : yJ12_newLength.cls ≠ "java/lang/invoke/MethodHandle" ∧ yJ12_newLength.cls ≠ "java/lang/invoke/VarHandle" ∧ (parseMethodDescriptor yJ12_newLength.desc).map (fun d => d.parameters.length) = some 3 := by decide +kernel
theorem pl_J12_newLength : plainName yJ12_newLength.cls = true := by decide +kernel
abbrev m_J15_checkIndex : qM := (1, yJ15_checkIndex, RJ15, cJ15_checkIndex, 3, some .int, [])
theorem nk_J15_checkIndex : yJ15_checkIndex.cls ≠ "java/lang/invoke/MethodHandle" ∧ yJ15_checkIndex.cls ≠ "java/lang/invoke/VarHandle" ∧ (parseMethodDescriptor yJ15_checkIndex.desc).map (fun d => d.parameters.length) = some 3 := by decide +kernel
theorem pl_J15_checkIndex : plainName yJ15_checkIndex.cls = true := by decide +kernel
abbrev m_J21_checkIndex : qM := (2, yJ21_checkIndex, RJ21, cJ21_checkIndex, 2, some .int, [])
theorem nk_J21_checkIndex : yJ21_checkIndex.cls ≠ "java/lang/invoke/MethodHandle" ∧ yJ21_checkIndex.cls ≠ "java/lang/invoke/VarHandle" ∧ (parseMethodDescriptor yJ21_checkIndex.desc).map (fun d => d.parameters.length) = some 2 := by decide +kernel
theorem pl_J21_checkIndex : plainName yJ21_checkIndex.cls = true := by decide +kernel
abbrev m_J2_size : qM := (1, yJ2_size, RJ2, cJ2_size, 1, some .int, [])
theorem nk_J2_size : yJ2_size.cls ≠ "java/lang/invoke/MethodHandle" ∧ yJ2_size.cls ≠ "java/lang/invoke/VarHandle" ∧ (parseMethodDescriptor yJ2_size.desc).map (fun d => d.parameters.length) = some 0 := by decide +kernel
theorem pl_J2_size : plainName yJ2_size.cls = true := by decide +kernel
abbrev m_J2_fastRemove : qM := (1, yJ2_fastRemove, RJ2, cJ2_fastRemove, 4, none, [])
theorem nk_J2_fastRemove : yJ2_fastRemove.cls ≠ "java/lang/invoke/MethodHandle" ∧ yJ2_fastRemove.cls ≠ "java/lang/invoke/VarHandle" ∧ (parseMethodDescriptor yJ2_fastRemove.desc).map (fun d => d.parameters.length) = some 2 := by decide +kernel
theorem pl_J2_fastRemove : plainName yJ2_fastRemove.cls = true := by decide +kernel
abbrev m_J2_elementData : qM := (1, yJ2_elementData, RJ2, cJ2_elementData, 2, some (.object "java/lang/Object"), [])
theorem nk_J2_elementData : yJ2_elementData.cls ≠ "java/lang/invoke/MethodHandle" ∧ yJ2_elementData.cls ≠ "java/lang/invoke/VarHandle" ∧ (parseMethodDescriptor yJ2_elementData.desc).map (fun d => d.parameters.length) = some 1 := by decide +kernel
theorem pl_J2_elementData : plainName yJ2_elementData.cls = true := by decide +kernel
abbrev m_J2_isEmpty : qM := (1, yJ2_isEmpty, RJ2, cJ2_isEmpty, 1, some .boolean, [])
theorem nk_J2_isEmpty : yJ2_isEmpty.cls ≠ "java/lang/invoke/MethodHandle" ∧ yJ2_isEmpty.cls ≠ "java/lang/invoke/VarHandle" ∧ (parseMethodDescriptor yJ2_isEmpty.desc).map (fun d => d.parameters.length) = some 0 := by decide +kernel
theorem pl_J2_isEmpty : plainName yJ2_isEmpty.cls = true := by decide +kernel
abbrev m_J2_clear : qM := (1, yJ2_clear, RJ2, cJ2_clear, 4, none, [])
theorem nk_J2_clear : yJ2_clear.cls ≠ "java/lang/invoke/MethodHandle" ∧ yJ2_clear.cls ≠ "java/lang/invoke/VarHandle" ∧ (parseMethodDescriptor yJ2_clear.desc).map (fun d => d.parameters.length) = some 0 := by decide +kernel
theorem pl_J2_clear : plainName yJ2_clear.cls = true := by decide +kernel
abbrev m_J2_iterator : qM := (2, yJ2_iterator, RJ2, cJ2_iterator, 1, some (.object "java/util/Iterator"), [])
theorem nk_J2_iterator : yJ2_iterator.cls ≠ "java/lang/invoke/MethodHandle" ∧ yJ2_iterator.cls ≠ "java/lang/invoke/VarHandle" ∧ (parseMethodDescriptor yJ2_iterator.desc).map (fun d => d.parameters.length) = some 0 := by decide +kernel
theorem pl_J2_iterator : plainName yJ2_iterator.cls = true := by decide +kernel
abbrev m_J2_init : qM := (3, yJ2_init, RJ2, cJ2_init, 1, none, [])
theorem nk_J2_init : yJ2_init.cls ≠ "java/lang/invoke/MethodHandle" ∧ yJ2_init.cls ≠ "java/lang/invoke/VarHandle" ∧ (parseMethodDescriptor yJ2_init.desc).map (fun d => d.parameters.length) = some 0 := by decide +kernel
theorem pl_J2_init : plainName yJ2_init.cls = true := by decide +kernel
abbrev m_J2_remove : qM := (3, yJ2_remove, RJ2, cJ2_remove, 4, some (.object "java/lang/Object"), [])
theorem nk_J2_remove : yJ2_remove.cls ≠ "java/lang/invoke/MethodHandle" ∧ yJ2_remove.cls ≠ "java/lang/invoke/VarHandle" ∧ (parseMethodDescriptor yJ2_remove.desc).map (fun d => d.parameters.length) = some 1 := by decide +kernel
theorem pl_J2_remove : plainName yJ2_remove.cls = true := by decide +kernel
abbrev m_J2_get : qM := (3, yJ2_get, RJ2, cJ2_get, 2, some (.object "java/lang/Object"), [])
theorem nk_J2_get : yJ2_get.cls ≠ "java/lang/invoke/MethodHandle" ∧ yJ2_get.cls ≠ "java/lang/invoke/VarHandle" ∧ (parseMethodDescriptor yJ2_get.desc).map (fun d => d.parameters.length) = some 1 := by decide +kernel
theorem pl_J2_get : plainName yJ2_get.cls = true := by decide +kernel
abbrev m_J2_grow_2 : qM := (4, yJ2_grow_2, RJ2, cJ2_grow_2, 4, some (.array (.object "java/lang/Object")), [])
theorem nk_J2_grow_2 : yJ2_grow_2.cls ≠ "java/lang/invoke/MethodHandle" ∧ yJ2_grow_2.cls ≠ "java/lang/invoke/VarHandle" ∧ (parseMethodDescriptor yJ2_grow_2.desc).map (fun d => d.parameters.length) = some 1 := by decide +kernel
theorem pl_J2_grow_2 : plainName yJ2_grow_2.cls = true := by decide +kernel
abbrev m_J2_grow : qM := (5, yJ2_grow, RJ2, cJ2_grow, 1, some (.array (.object "java/lang/Object")), [])
theorem nk_J2_grow : yJ2_grow.cls ≠ "java/lang/invoke/MethodHandle" ∧ yJ2_grow.cls ≠ "java/lang/invoke/VarHandle" ∧ (parseMethodDescriptor yJ2_grow.desc).map (fun d => d.parameters.length) = some 0 := by decide +kernel
theorem pl_J2_grow : plainName yJ2_grow.cls = true := by decide +kernel
abbrev m_J2_add_3 : qM := (6, yJ2_add_3, RJ2, cJ2_add_3, 4, none, [])
theorem nk_J2_add_3 : yJ2_add_3.cls ≠ "java/lang/invoke/MethodHandle" ∧ yJ2_add_3.cls ≠ "java/lang/invoke/VarHandle" ∧ (parseMethodDescriptor yJ2_add_3.desc).map (fun d => d.parameters.length) = some 3 := by decide +kernel
theorem pl_J2_add_3 : plainName yJ2_add_3.cls = true := by decide +kernel
abbrev m_J2_add_2 : qM := (7, yJ2_add_2, RJ2, cJ2_add_2, 2, some .boolean, [])
theorem nk_J2_add_2 : yJ2_add_2.cls ≠ "java/lang/invoke/MethodHandle" ∧ yJ2_add_2.cls ≠ "java/lang/invoke/VarHandle" ∧ (parseMethodDescriptor yJ2_add_2.desc).map (fun d => d.parameters.length) = some 1 := by decide +kernel
theorem pl_J2_add_2 : plainName yJ2_add_2.cls = true := by decide +kernel
abbrev m_J2_rangeCheckForAdd : qM := (10, yJ2_rangeCheckForAdd, RJ2, cJ2_rangeCheckForAdd, 2, none, [])
theorem nk_J2_rangeCheckForAdd : yJ2_rangeCheckForAdd.cls ≠ "java/lang/invoke/MethodHandle" ∧ yJ2_rangeCheckForAdd.cls ≠ "java/lang/invoke/VarHandle" ∧ (parseMethodDescriptor yJ2_rangeCheckForAdd.desc).map (fun d => d.parameters.length) = some 1 := by decide +kernel
theorem pl_J2_rangeCheckForAdd : plainName yJ2_rangeCheckForAdd.cls = true := by decide +kernel
abbrev m_J2_add : qM := (11, yJ2_add, RJ2, cJ2_add, 5, none, [])
theorem nk_J2_add : yJ2_add.cls ≠ "java/lang/invoke/MethodHandle" ∧ yJ2_add.cls ≠ "java/lang/invoke/VarHandle" ∧ (parseMethodDescriptor yJ2_add.desc).map (fun d => d.parameters.length) = some 2 := by decide +kernel
theorem pl_J2_add : plainName yJ2_add.cls = true := by decide +kernel
abbrev m_J22_init : qM := (1, yJ22_init, RJ22, cJ22_init, 2, none, [])
theorem nk_J22_init : yJ22_init.cls ≠ "java/lang/invoke/MethodHandle" ∧ yJ22_init.cls ≠ "java/lang/invoke/VarHandle" ∧ (parseMethodDescriptor yJ22_init.desc).map (fun d => d.parameters.length) = some 1 := by decide +kernel
theorem pl_J22_init : plainName yJ22_init.cls = true := by decide +kernel
abbrev m_J22_hasNext : qM := (1, yJ22_hasNext, RJ22, cJ22_hasNext, 1, some .boolean, [])
theorem nk_J22_hasNext : yJ22_hasNext.cls ≠ "java/lang/invoke/MethodHandle" ∧ yJ22_hasNext.cls ≠ "java/lang/invoke/VarHandle" ∧ (parseMethodDescriptor yJ22_hasNext.desc).map (fun d => d.parameters.length) = some 0 := by decide +kernel
theorem pl_J22_hasNext : plainName yJ22_hasNext.cls = true := by decide +kernel
abbrev m_J22_checkForComodification : qM := (1, yJ22_checkForComodification, RJ22, cJ22_checkForComodification, 1, none, [])
theorem nk_J22_checkForComodification : yJ22_checkForComodification.cls ≠ "java/lang/invoke/MethodHandle" ∧ yJ22_checkForComodification.cls ≠ "java/lang/invoke/VarHandle" ∧ (parseMethodDescriptor yJ22_checkForComodification.desc).map (fun d => d.parameters.length) = some 0 := by decide +kernel
theorem pl_J22_checkForComodification : plainName yJ22_checkForComodification.cls = true := by decide +kernel
abbrev m_J22_next : qM := (2, yJ22_next, RJ22, cJ22_next, 3, some (.object "java/lang/Object"), [])
theorem nk_J22_next : yJ22_next.cls ≠ "java/lang/invoke/MethodHandle" ∧ yJ22_next.cls ≠ "java/lang/invoke/VarHandle" ∧ (parseMethodDescriptor yJ22_next.desc).map (fun d => d.parameters.length) = some 0 := by decide +kernel
theorem pl_J22_next : plainName yJ22_next.cls = true := by decide +kernel
abbrev m_J17_init : qM := (1, yJ17_init, RJ17, cJ17_init, 1, none, [])
theorem nk_J17_init : yJ17_init.cls ≠ "java/lang/invoke/MethodHandle" ∧ yJ17_init.cls ≠ "java/lang/invoke/VarHandle" ∧ (parseMethodDescriptor yJ17_init.desc).map (fun d => d.parameters.length) = some 0 := by decide +kernel
theorem pl_J17_init : plainName yJ17_init.cls = true := by decide +kernel
abbrev m_J18_stringSize : qM := (1, yJ18_stringSize, RJ18, cJ18_stringSize, 4, some .int, [])
theorem nk_J18_stringSize : yJ18_stringSize.cls ≠ "java/lang/invoke/MethodHandle" ∧ yJ18_stringSize.cls ≠ "java/lang/invoke/VarHandle" ∧ (parseMethodDescriptor yJ18_stringSize.desc).map (fun d => d.parameters.length) = some 1 := by decide +kernel
theorem pl_J18_stringSize : plainName yJ18_stringSize.cls = true := by decide +kernel
abbrev m_J18_getChars : qM := (1, yJ18_getChars, RJ18, cJ18_getChars, 7, some .int, [])
theorem nk_J18_getChars : yJ18_getChars.cls ≠ "java/lang/invoke/MethodHandle" ∧ yJ18_getChars.cls ≠ "java/lang/invoke/VarHandle" ∧ (parseMethodDescriptor yJ18_getChars.desc).map (fun d => d.parameters.length) = some 3 := by decide +kernel
theorem pl_J18_getChars : plainName yJ18_getChars.cls = true := by decide +kernel
abbrev m_J18_intValue : qM := (1, yJ18_intValue, RJ18, cJ18_intValue, 1, some .int, [])
theorem nk_J18_intValue : yJ18_intValue.cls ≠ "java/lang/invoke/MethodHandle" ∧ yJ18_intValue.cls ≠ "java/lang/invoke/VarHandle" ∧ (parseMethodDescriptor yJ18_intValue.desc).map (fun d => d.parameters.length) = some 0 := by decide +kernel
theorem pl_J18_intValue : plainName yJ18_intValue.cls = true := by decide +kernel
abbrev m_J18_init : qM := (2, yJ18_init, RJ18, cJ18_init, 2, none, [])
theorem nk_J18_init : yJ18_init.cls ≠ "java/lang/invoke/MethodHandle" ∧ yJ18_init.cls ≠ "java/lang/invoke/VarHandle" ∧ (parseMethodDescriptor yJ18_init.desc).map (fun d => d.parameters.length) = some 1 := by decide +kernel
theorem pl_J18_init : plainName yJ18_init.cls = true := by decide +kernel
abbrev m_J18_valueOf : qM := (3, yJ18_valueOf, RJ18, cJ18_valueOf, 1, some (.object "java/lang/Integer"), [])
theorem nk_J18_valueOf : yJ18_valueOf.cls ≠ "java/lang/invoke/MethodHandle" ∧ yJ18_valueOf.cls ≠ "java/lang/invoke/VarHandle" ∧ (parseMethodDescriptor yJ18_valueOf.desc).map (fun d => d.parameters.length) = some 1 := by decide +kernel
theorem pl_J18_valueOf : plainName yJ18_valueOf.cls = true := by decide +kernel
abbrev m_J14_copyOf : qM := (2, yJ14_copyOf, RJ14, cJ14_copyOf, 3, some (.array .byte), [])
theorem nk_J14_copyOf : yJ14_copyOf.cls ≠ "java/lang/invoke/MethodHandle" ∧ yJ14_copyOf.cls ≠ "java/lang/invoke/VarHandle" ∧ (parseMethodDescriptor yJ14_copyOf.desc).map (fun d => d.parameters.length) = some 2 := by decide +kernel
theorem pl_J14_copyOf : plainName yJ14_copyOf.cls = true := by decide +kernel
abbrev m_J14_copyOf_3 : qM := (2, yJ14_copyOf_3, RJ14, cJ14_copyOf_3, 4, some (.array (.object "java/lang/Object")), [])
theorem nk_J14_copyOf_3 : yJ14_copyOf_3.cls ≠ "java/lang/invoke/MethodHandle" ∧ yJ14_copyOf_3.cls ≠ "java/lang/invoke/VarHandle" ∧ (parseMethodDescriptor yJ14_copyOf_3.desc).map (fun d => d.parameters.length) = some 3 := by decide +kernel
theorem pl_J14_copyOf_3 : plainName yJ14_copyOf_3.cls = true := by decide +kernel
abbrev m_J14_copyOf_2 : qM := (3, yJ14_copyOf_2, RJ14, cJ14_copyOf_2, 2, some (.array (.object "java/lang/Object")), [])
theorem nk_J14_copyOf_2 : yJ14_copyOf_2.cls ≠ "java/lang/invoke/MethodHandle" ∧ yJ14_copyOf_2.cls ≠ "java/lang/invoke/VarHandle" ∧ (parseMethodDescriptor yJ14_copyOf_2.desc).map (fun d => d.parameters.length) = some 2 := by decide +kernel
theorem pl_J14_copyOf_2 : plainName yJ14_copyOf_2.cls = true := by decide +kernel
abbrev m_J14_checkLength : qM := (10, yJ14_checkLength, RJ14, cJ14_checkLength, 2, none, [])
theorem nk_J14_checkLength : yJ14_checkLength.cls ≠ "java/lang/invoke/MethodHandle" ∧ yJ14_checkLength.cls ≠ "java/lang/invoke/VarHandle" ∧ (parseMethodDescriptor yJ14_checkLength.desc).map (fun d => d.parameters.length) = some 2 := by decide +kernel
theorem pl_J14_checkLength : plainName yJ14_checkLength.cls = true := by decide +kernel
abbrev m_J14_copyOfRangeByte : qM := (11, yJ14_copyOfRangeByte, RJ14, cJ14_copyOfRangeByte, 5, some (.array .byte), [])
theorem nk_J14_copyOfRangeByte : yJ14_copyOfRangeByte.cls ≠ "java/lang/invoke/MethodHandle" ∧ yJ14_copyOfRangeByte.cls ≠ "java/lang/invoke/VarHandle" ∧ (parseMethodDescriptor yJ14_copyOfRangeByte.desc).map (fun d => d.parameters.length) = some 3 := by decide +kernel
theorem pl_J14_copyOfRangeByte : plainName yJ14_copyOfRangeByte.cls = true := by decide +kernel
abbrev m_J14_copyOfRange : qM := (12, yJ14_copyOfRange, RJ14, cJ14_copyOfRange, 3, some (.array .byte), [])
theorem nk_J14_copyOfRange : yJ14_copyOfRange.cls ≠ "java/lang/invoke/MethodHandle" ∧ yJ14_copyOfRange.cls ≠ "java/lang/invoke/VarHandle" ∧ (parseMethodDescriptor yJ14_copyOfRange.desc).map (fun d => d.parameters.length) = some 3 := by decide +kernel
theorem pl_J14_copyOfRange : plainName yJ14_copyOfRange.cls = true := by decide +kernel
abbrev m_J8_coder : qM := (1, yJ8_coder, RJ8, cJ8_coder, 1, some .byte, [])
theorem nk_J8_coder : yJ8_coder.cls ≠ "java/lang/invoke/MethodHandle" ∧ yJ8_coder.cls ≠ "java/lang/invoke/VarHandle" ∧ (parseMethodDescriptor yJ8_coder.desc).map (fun d => d.parameters.length) = some 0 := by decide +kernel
theorem pl_J8_coder : plainName yJ8_coder.cls = true := by decide +kernel
abbrev m_J8_length : qM := (2, yJ8_length, RJ8, cJ8_length, 1, some .int, [])
theorem nk_J8_length : yJ8_length.cls ≠ "java/lang/invoke/MethodHandle" ∧ yJ8_length.cls ≠ "java/lang/invoke/VarHandle" ∧ (parseMethodDescriptor yJ8_length.desc).map (fun d => d.parameters.length) = some 0 := by decide +kernel
theorem pl_J8_length : plainName yJ8_length.cls = true := by decide +kernel
abbrev m_J8_getBytes : qM := (2, yJ8_getBytes, RJ8, cJ8_getBytes, 4, none, [])
theorem nk_J8_getBytes : yJ8_getBytes.cls ≠ "java/lang/invoke/MethodHandle" ∧ yJ8_getBytes.cls ≠ "java/lang/invoke/VarHandle" ∧ (parseMethodDescriptor yJ8_getBytes.desc).map (fun d => d.parameters.length) = some 3 := by decide +kernel
theorem pl_J8_getBytes : plainName yJ8_getBytes.cls = true := by decide +kernel
abbrev m_J8_init_2 : qM := (13, yJ8_init_2, RJ8, cJ8_init_2, 5, none, [])
theorem nk_J8_init_2 : yJ8_init_2.cls ≠ "java/lang/invoke/MethodHandle" ∧ yJ8_init_2.cls ≠ "java/lang/invoke/VarHandle" ∧ (parseMethodDescriptor yJ8_init_2.desc).map (fun d => d.parameters.length) = some 2 := by decide +kernel
theorem pl_J8_init_2 : plainName yJ8_init_2.cls = true := by decide +kernel
abbrev m_J8_init : qM := (14, yJ8_init, RJ8, cJ8_init, 2, none, [])
theorem nk_J8_init : yJ8_init.cls ≠ "java/lang/invoke/MethodHandle" ∧ yJ8_init.cls ≠ "java/lang/invoke/VarHandle" ∧ (parseMethodDescriptor yJ8_init.desc).map (fun d => d.parameters.length) = some 1 := by decide +kernel
theorem pl_J8_init : plainName yJ8_init.cls = true := by decide +kernel
abbrev m_J9_init : qM := (1, yJ9_init, RJ9, cJ9_init, 2, none, [])
theorem nk_J9_init : yJ9_init.cls ≠ "java/lang/invoke/MethodHandle" ∧ yJ9_init.cls ≠ "java/lang/invoke/VarHandle" ∧ (parseMethodDescriptor yJ9_init.desc).map (fun d => d.parameters.length) = some 1 := by decide +kernel
theorem pl_J9_init : plainName yJ9_init.cls = true := by decide +kernel
abbrev m_J9_isLatin1 : qM := (1, yJ9_isLatin1, RJ9, cJ9_isLatin1, 1, some .boolean, [])
theorem nk_J9_isLatin1 : yJ9_isLatin1.cls ≠ "java/lang/invoke/MethodHandle" ∧ yJ9_isLatin1.cls ≠ "java/lang/invoke/VarHandle" ∧ (parseMethodDescriptor yJ9_isLatin1.desc).map (fun d => d.parameters.length) = some 0 := by decide +kernel
theorem pl_J9_isLatin1 : plainName yJ9_isLatin1.cls = true := by decide +kernel
abbrev m_J9_getValue : qM := (1, yJ9_getValue, RJ9, cJ9_getValue, 1, some (.array .byte), [])
theorem nk_J9_getValue : yJ9_getValue.cls ≠ "java/lang/invoke/MethodHandle" ∧ yJ9_getValue.cls ≠ "java/lang/invoke/VarHandle" ∧ (parseMethodDescriptor yJ9_getValue.desc).map (fun d => d.parameters.length) = some 0 := by decide +kernel
theorem pl_J9_getValue : plainName yJ9_getValue.cls = true := by decide +kernel
abbrev m_J9_length : qM := (1, yJ9_length, RJ9, cJ9_length, 1, some .int, [])
theorem nk_J9_length : yJ9_length.cls ≠ "java/lang/invoke/MethodHandle" ∧ yJ9_length.cls ≠ "java/lang/invoke/VarHandle" ∧ (parseMethodDescriptor yJ9_length.desc).map (fun d => d.parameters.length) = some 0 := by decide +kernel
theorem pl_J9_length : plainName yJ9_length.cls = true := by decide +kernel
abbrev m_J9_inflateIfNeededFor : qM := (2, yJ9_inflateIfNeededFor, RJ9, cJ9_inflateIfNeededFor, 2, none, [])
theorem nk_J9_inflateIfNeededFor : yJ9_inflateIfNeededFor.cls ≠ "java/lang/invoke/MethodHandle" ∧ yJ9_inflateIfNeededFor.cls ≠ "java/lang/invoke/VarHandle" ∧ (parseMethodDescriptor yJ9_inflateIfNeededFor.desc).map (fun d => d.parameters.length) = some 1 := by decide +kernel
theorem pl_J9_inflateIfNeededFor : plainName yJ9_inflateIfNeededFor.cls = true := by decide +kernel
abbrev m_J9_newCapacity : qM := (3, yJ9_newCapacity, RJ9, cJ9_newCapacity, 6, some .int, [])
theorem nk_J9_newCapacity : yJ9_newCapacity.cls ≠ "java/lang/invoke/MethodHandle" ∧ yJ9_newCapacity.cls ≠ "java/lang/invoke/VarHandle" ∧ (parseMethodDescriptor yJ9_newCapacity.desc).map (fun d => d.parameters.length) = some 1 := by decide +kernel
theorem pl_J9_newCapacity : plainName yJ9_newCapacity.cls = true := by decide +kernel
abbrev m_J9_putStringAt : qM := (3, yJ9_putStringAt, RJ9, cJ9_putStringAt, 3, none, [])
theorem nk_J9_putStringAt : yJ9_putStringAt.cls ≠ "java/lang/invoke/MethodHandle" ∧ yJ9_putStringAt.cls ≠ "java/lang/invoke/VarHandle" ∧ (parseMethodDescriptor yJ9_putStringAt.desc).map (fun d => d.parameters.length) = some 2 := by decide +kernel
theorem pl_J9_putStringAt : plainName yJ9_putStringAt.cls = true := by decide +kernel
abbrev m_J9_ensureCapacityInternal : qM := (4, yJ9_ensureCapacityInternal, RJ9, cJ9_ensureCapacityInternal, 3, none, [])
theorem nk_J9_ensureCapacityInternal : yJ9_ensureCapacityInternal.cls ≠ "java/lang/invoke/MethodHandle" ∧ yJ9_ensureCapacityInternal.cls ≠ "java/lang/invoke/VarHandle" ∧ (parseMethodDescriptor yJ9_ensureCapacityInternal.desc).map (fun d => d.parameters.length) = some 1 := by decide +kernel
theorem pl_J9_ensureCapacityInternal : plainName yJ9_ensureCapacityInternal.cls = true := by decide +kernel
abbrev m_J9_append : qM := (5, yJ9_append, RJ9, cJ9_append, 3, some (.object "java/lang/AbstractStringBuilder"), [])
theorem nk_J9_append : yJ9_append.cls ≠ "java/lang/invoke/MethodHandle" ∧ yJ9_append.cls ≠ "java/lang/invoke/VarHandle" ∧ (parseMethodDescriptor yJ9_append.desc).map (fun d => d.parameters.length) = some 1 := by decide +kernel
theorem pl_J9_append : plainName yJ9_append.cls = true := by decide +kernel
abbrev m_J9_append_2 : qM := (5, yJ9_append_2, RJ9, cJ9_append_2, 4, some (.object "java/lang/AbstractStringBuilder"), [])
theorem nk_J9_append_2 : yJ9_append_2.cls ≠ "java/lang/invoke/MethodHandle" ∧ yJ9_append_2.cls ≠ "java/lang/invoke/VarHandle" ∧ (parseMethodDescriptor yJ9_append_2.desc).map (fun d => d.parameters.length) = some 1 := by decide +kernel
theorem pl_J9_append_2 : plainName yJ9_append_2.cls = true := by decide +kernel
abbrev m_J10_init : qM := (2, yJ10_init, RJ10, cJ10_init, 1, none, [])
theorem nk_J10_init : yJ10_init.cls ≠ "java/lang/invoke/MethodHandle" ∧ yJ10_init.cls ≠ "java/lang/invoke/VarHandle" ∧ (parseMethodDescriptor yJ10_init.desc).map (fun d => d.parameters.length) = some 0 := by decide +kernel
theorem pl_J10_init : plainName yJ10_init.cls = true := by decide +kernel
abbrev m_J10_length : qM := (2, yJ10_length, RJ10, cJ10_length, 1, some .int, [])
theorem nk_J10_length : yJ10_length.cls ≠ "java/lang/invoke/MethodHandle" ∧ yJ10_length.cls ≠ "java/lang/invoke/VarHandle" ∧ (parseMethodDescriptor yJ10_length.desc).map (fun d => d.parameters.length) = some 0 := by decide +kernel
theorem pl_J10_length : plainName yJ10_length.cls = true := by decide +kernel
abbrev m_J10_append : qM := (6, yJ10_append, RJ10, cJ10_append, 2, some (.object "java/lang/StringBuilder"), [])
theorem nk_J10_append : yJ10_append.cls ≠ "java/lang/invoke/MethodHandle" ∧ yJ10_append.cls ≠ "java/lang/invoke/VarHandle" ∧ (parseMethodDescriptor yJ10_append.desc).map (fun d => d.parameters.length) = some 1 := by decide +kernel
theorem pl_J10_append : plainName yJ10_append.cls = true := by decide +kernel
abbrev m_J10_append_2 : qM := (6, yJ10_append_2, RJ10, cJ10_append_2, 2, some (.object "java/lang/StringBuilder"), [])
theorem nk_J10_append_2 : yJ10_append_2.cls ≠ "java/lang/invoke/MethodHandle" ∧ yJ10_append_2.cls ≠ "java/lang/invoke/VarHandle" ∧ (parseMethodDescriptor yJ10_append_2.desc).map (fun d => d.parameters.length) = some 1 := by decide +kernel
theorem pl_J10_append_2 : plainName yJ10_append_2.cls = true := by decide +kernel
abbrev m_J10_toString : qM := (15, yJ10_toString, RJ10, cJ10_toString, 1, some (.object "java/lang/String"), [])
theorem nk_J10_toString : yJ10_toString.cls ≠ "java/lang/invoke/MethodHandle" ∧ yJ10_toString.cls ≠ "java/lang/invoke/VarHandle" ∧ (parseMethodDescriptor yJ10_toString.desc).map (fun d => d.parameters.length) = some 0 := by decide +kernel
theorem pl_J10_toString : plainName yJ10_toString.cls = true := by decide +kernel
abbrev m_X2_init : qM := (1, yX2_init, RX2, cX2_init, 1, none, [])
theorem nk_X2_init : yX2_init.cls ≠ "java/lang/invoke/MethodHandle" ∧ yX2_init.cls ≠ "java/lang/invoke/VarHandle" ∧ (parseMethodDescriptor yX2_init.desc).map (fun d => d.parameters.length) = some 0 := by decide +kernel
theorem pl_X2_init : plainName yX2_init.cls = true := by decide +kernel
abbrev m_X2_extra (d : Nat) : qM := (d + 1, yX2_extra, RX2, cX2_extra, 1, some .int, [])
theorem nk_X2_extra : yX2_extra.cls ≠ "java/lang/invoke/MethodHandle" ∧ yX2_extra.cls ≠ "java/lang/invoke/VarHandle" ∧ (parseMethodDescriptor yX2_extra.desc).map (fun d => d.parameters.length) = some 0 := by decide +kernel
theorem pl_X2_extra : plainName yX2_extra.cls = true := by decide +kernel
abbrev m_X2_colour (d : Nat) : qM := (d + 1, yX2_colour, RX2, cX2_colour, 1, some .int, [])
theorem nk_X2_colour : yX2_colour.cls ≠ "java/lang/invoke/MethodHandle" ∧ yX2_colour.cls ≠ "java/lang/invoke/VarHandle" ∧ (parseMethodDescriptor yX2_colour.desc).map (fun d => d.parameters.length) = some 0 := by decide +kernel
theorem pl_X2_colour : plainName yX2_colour.cls = true := by decide +kernel
abbrev m_X4_init : qM := (1, yX4_init, RX4, cX4_init, 4, none, [])
theorem nk_X4_init : yX4_init.cls ≠ "java/lang/invoke/MethodHandle" ∧ yX4_init.cls ≠ "java/lang/invoke/VarHandle" ∧ (parseMethodDescriptor yX4_init.desc).map (fun d => d.parameters.length) = some 3 := by decide +kernel
theorem pl_X4_init : plainName yX4_init.cls = true := by decide +kernel
abbrev m_X6_takes : qM := (1, yX6_takes, RX6, cX6_takes, 2, some .int, [])
theorem nk_X6_takes : yX6_takes.cls ≠ "java/lang/invoke/MethodHandle" ∧ yX6_takes.cls ≠ "java/lang/invoke/VarHandle" ∧ (parseMethodDescriptor yX6_takes.desc).map (fun d => d.parameters.length) = some 1 := by decide +kernel
theorem pl_X6_takes : plainName yX6_takes.cls = true := by decide +kernel
abbrev m_X6_init : qM := (4, yX6_init, RX6, cX6_init, 2, none, [])
theorem nk_X6_init : yX6_init.cls ≠ "java/lang/invoke/MethodHandle" ∧ yX6_init.cls ≠ "java/lang/invoke/VarHandle" ∧ (parseMethodDescriptor yX6_init.desc).map (fun d => d.parameters.length) = some 1 := by decide +kernel
theorem pl_X6_init : plainName yX6_init.cls = true := by decide +kernel
abbrev m_X5_isPrinted : qM := (1, yX5_isPrinted, RX5, cX5_isPrinted, 2, some .boolean, [])
theorem nk_X5_isPrinted : yX5_isPrinted.cls ≠ "java/lang/invoke/MethodHandle" ∧ yX5_isPrinted.cls ≠ "java/lang/invoke/VarHandle" ∧ (parseMethodDescriptor yX5_isPrinted.desc).map (fun d => d.parameters.length) = some 1 := by decide +kernel
theorem pl_X5_isPrinted : plainName yX5_isPrinted.cls = true := by decide +kernel
abbrev m_X5_bodyPages : qM := (1, yX5_bodyPages, RX5, cX5_bodyPages, 1, some .int, [])
theorem nk_X5_bodyPages : yX5_bodyPages.cls ≠ "java/lang/invoke/MethodHandle" ∧ yX5_bodyPages.cls ≠ "java/lang/invoke/VarHandle" ∧ (parseMethodDescriptor yX5_bodyPages.desc).map (fun d => d.parameters.length) = some 0 := by decide +kernel
theorem pl_X5_bodyPages : plainName yX5_bodyPages.cls = true := by decide +kernel
abbrev m_X5_tops : qM := (4, yX5_tops, RX5, cX5_tops, 2, none, [])
theorem nk_X5_tops : yX5_tops.cls ≠ "java/lang/invoke/MethodHandle" ∧ yX5_tops.cls ≠ "java/lang/invoke/VarHandle" ∧ (parseMethodDescriptor yX5_tops.desc).map (fun d => d.parameters.length) = some 1 := by decide +kernel
theorem pl_X5_tops : plainName yX5_tops.cls = true := by decide +kernel
abbrev m_X5_needs : qM := (4, yX5_needs, RX5, cX5_needs, 6, some .int, [])
theorem nk_X5_needs : yX5_needs.cls ≠ "java/lang/invoke/MethodHandle" ∧ yX5_needs.cls ≠ "java/lang/invoke/VarHandle" ∧ (parseMethodDescriptor yX5_needs.desc).map (fun d => d.parameters.length) = some 2 := by decide +kernel
theorem pl_X5_needs : plainName yX5_needs.cls = true := by decide +kernel
abbrev m_X5_pageIn : qM := (4, yX5_pageIn, RX5, cX5_pageIn, 3, some .int, [])
theorem nk_X5_pageIn : yX5_pageIn.cls ≠ "java/lang/invoke/MethodHandle" ∧ yX5_pageIn.cls ≠ "java/lang/invoke/VarHandle" ∧ (parseMethodDescriptor yX5_pageIn.desc).map (fun d => d.parameters.length) = some 2 := by decide +kernel
theorem pl_X5_pageIn : plainName yX5_pageIn.cls = true := by decide +kernel
abbrev m_X5_begins : qM := (5, yX5_begins, RX5, cX5_begins, 1, none, [])
theorem nk_X5_begins : yX5_begins.cls ≠ "java/lang/invoke/MethodHandle" ∧ yX5_begins.cls ≠ "java/lang/invoke/VarHandle" ∧ (parseMethodDescriptor yX5_begins.desc).map (fun d => d.parameters.length) = some 0 := by decide +kernel
theorem pl_X5_begins : plainName yX5_begins.cls = true := by decide +kernel
abbrev m_X5_frontBy : qM := (5, yX5_frontBy, RX5, cX5_frontBy, 7, some .int, [])
theorem nk_X5_frontBy : yX5_frontBy.cls ≠ "java/lang/invoke/MethodHandle" ∧ yX5_frontBy.cls ≠ "java/lang/invoke/VarHandle" ∧ (parseMethodDescriptor yX5_frontBy.desc).map (fun d => d.parameters.length) = some 1 := by decide +kernel
theorem pl_X5_frontBy : plainName yX5_frontBy.cls = true := by decide +kernel
abbrev m_X5_page : qM := (5, yX5_page, RX5, cX5_page, 2, some .int, [])
theorem nk_X5_page : yX5_page.cls ≠ "java/lang/invoke/MethodHandle" ∧ yX5_page.cls ≠ "java/lang/invoke/VarHandle" ∧ (parseMethodDescriptor yX5_page.desc).map (fun d => d.parameters.length) = some 1 := by decide +kernel
theorem pl_X5_page : plainName yX5_page.cls = true := by decide +kernel
abbrev m_X5_rests : qM := (6, yX5_rests, RX5, cX5_rests, 4, some .int, [])
theorem nk_X5_rests : yX5_rests.cls ≠ "java/lang/invoke/MethodHandle" ∧ yX5_rests.cls ≠ "java/lang/invoke/VarHandle" ∧ (parseMethodDescriptor yX5_rests.desc).map (fun d => d.parameters.length) = some 0 := by decide +kernel
theorem pl_X5_rests : plainName yX5_rests.cls = true := by decide +kernel
abbrev m_X5_hangs : qM := (8, yX5_hangs, RX5, cX5_hangs, 4, none, [])
theorem nk_X5_hangs : yX5_hangs.cls ≠ "java/lang/invoke/MethodHandle" ∧ yX5_hangs.cls ≠ "java/lang/invoke/VarHandle" ∧ (parseMethodDescriptor yX5_hangs.desc).map (fun d => d.parameters.length) = some 0 := by decide +kernel
theorem pl_X5_hangs : plainName yX5_hangs.cls = true := by decide +kernel
abbrev m_X5_fills : qM := (8, yX5_fills, RX5, cX5_fills, 5, none, [])
theorem nk_X5_fills : yX5_fills.cls ≠ "java/lang/invoke/MethodHandle" ∧ yX5_fills.cls ≠ "java/lang/invoke/VarHandle" ∧ (parseMethodDescriptor yX5_fills.desc).map (fun d => d.parameters.length) = some 0 := by decide +kernel
theorem pl_X5_fills : plainName yX5_fills.cls = true := by decide +kernel
abbrev m_X5_widthOf : qM := (10, yX5_widthOf, RX5, cX5_widthOf, 3, some .int, [])
theorem nk_X5_widthOf : yX5_widthOf.cls ≠ "java/lang/invoke/MethodHandle" ∧ yX5_widthOf.cls ≠ "java/lang/invoke/VarHandle" ∧ (parseMethodDescriptor yX5_widthOf.desc).map (fun d => d.parameters.length) = some 1 := by decide +kernel
theorem pl_X5_widthOf : plainName yX5_widthOf.cls = true := by decide +kernel
abbrev m_X5_makesLines : qM := (11, yX5_makesLines, RX5, cX5_makesLines, 6, none, [])
theorem nk_X5_makesLines : yX5_makesLines.cls ≠ "java/lang/invoke/MethodHandle" ∧ yX5_makesLines.cls ≠ "java/lang/invoke/VarHandle" ∧ (parseMethodDescriptor yX5_makesLines.desc).map (fun d => d.parameters.length) = some 0 := by decide +kernel
theorem pl_X5_makesLines : plainName yX5_makesLines.cls = true := by decide +kernel
abbrev m_X5_rowOf : qM := (11, yX5_rowOf, RX5, cX5_rowOf, 4, some (.array .int), [])
theorem nk_X5_rowOf : yX5_rowOf.cls ≠ "java/lang/invoke/MethodHandle" ∧ yX5_rowOf.cls ≠ "java/lang/invoke/VarHandle" ∧ (parseMethodDescriptor yX5_rowOf.desc).map (fun d => d.parameters.length) = some 1 := by decide +kernel
theorem pl_X5_rowOf : plainName yX5_rowOf.cls = true := by decide +kernel
abbrev m_X5_init : qM := (12, yX5_init, RX5, cX5_init, 4, none, [])
theorem nk_X5_init : yX5_init.cls ≠ "java/lang/invoke/MethodHandle" ∧ yX5_init.cls ≠ "java/lang/invoke/VarHandle" ∧ (parseMethodDescriptor yX5_init.desc).map (fun d => d.parameters.length) = some 2 := by decide +kernel
theorem pl_X5_init : plainName yX5_init.cls = true := by decide +kernel
abbrev m_X5_rowsOf : qM := (12, yX5_rowsOf, RX5, cX5_rowsOf, 5, some (.object "java/util/List"), [])
theorem nk_X5_rowsOf : yX5_rowsOf.cls ≠ "java/lang/invoke/MethodHandle" ∧ yX5_rowsOf.cls ≠ "java/lang/invoke/VarHandle" ∧ (parseMethodDescriptor yX5_rowsOf.desc).map (fun d => d.parameters.length) = some 1 := by decide +kernel
theorem pl_X5_rowsOf : plainName yX5_rowsOf.cls = true := by decide +kernel
abbrev m_X5_isLike : qM := (12, yX5_isLike, RX5, cX5_isLike, 8, some .boolean, [])
theorem nk_X5_isLike : yX5_isLike.cls ≠ "java/lang/invoke/MethodHandle" ∧ yX5_isLike.cls ≠ "java/lang/invoke/VarHandle" ∧ (parseMethodDescriptor yX5_isLike.desc).map (fun d => d.parameters.length) = some 2 := by decide +kernel
theorem pl_X5_isLike : plainName yX5_isLike.cls = true := by decide +kernel
abbrev m_X1_forgets : qM := (1, yX1_forgets, RX1, cX1_forgets, 2, none, [])
theorem nk_X1_forgets : yX1_forgets.cls ≠ "java/lang/invoke/MethodHandle" ∧ yX1_forgets.cls ≠ "java/lang/invoke/VarHandle" ∧ (parseMethodDescriptor yX1_forgets.desc).map (fun d => d.parameters.length) = some 0 := by decide +kernel
theorem pl_X1_forgets : plainName yX1_forgets.cls = true := by decide +kernel
abbrev m_X1_rootOf : qM := (1, yX1_rootOf, RX1, cX1_rootOf, 3, some .int, [])
theorem nk_X1_rootOf : yX1_rootOf.cls ≠ "java/lang/invoke/MethodHandle" ∧ yX1_rootOf.cls ≠ "java/lang/invoke/VarHandle" ∧ (parseMethodDescriptor yX1_rootOf.desc).map (fun d => d.parameters.length) = some 1 := by decide +kernel
theorem pl_X1_rootOf : plainName yX1_rootOf.cls = true := by decide +kernel
abbrev m_X1_tokens : qM := (2, yX1_tokens, RX1, cX1_tokens, 1, some .int, [])
theorem nk_X1_tokens : yX1_tokens.cls ≠ "java/lang/invoke/MethodHandle" ∧ yX1_tokens.cls ≠ "java/lang/invoke/VarHandle" ∧ (parseMethodDescriptor yX1_tokens.desc).map (fun d => d.parameters.length) = some 0 := by decide +kernel
theorem pl_X1_tokens : plainName yX1_tokens.cls = true := by decide +kernel
abbrev m_X1_sheetOf : qM := (2, yX1_sheetOf, RX1, cX1_sheetOf, 7, some .int, [])
theorem nk_X1_sheetOf : yX1_sheetOf.cls ≠ "java/lang/invoke/MethodHandle" ∧ yX1_sheetOf.cls ≠ "java/lang/invoke/VarHandle" ∧ (parseMethodDescriptor yX1_sheetOf.desc).map (fun d => d.parameters.length) = some 2 := by decide +kernel
theorem pl_X1_sheetOf : plainName yX1_sheetOf.cls = true := by decide +kernel
abbrev m_X1_init : qM := (4, yX1_init, RX1, cX1_init, 2, none, [])
theorem nk_X1_init : yX1_init.cls ≠ "java/lang/invoke/MethodHandle" ∧ yX1_init.cls ≠ "java/lang/invoke/VarHandle" ∧ (parseMethodDescriptor yX1_init.desc).map (fun d => d.parameters.length) = some 0 := by decide +kernel
theorem pl_X1_init : plainName yX1_init.cls = true := by decide +kernel
abbrev m_X1_marksOf : qM := (4, yX1_marksOf, RX1, cX1_marksOf, 5, some .int, [])
theorem nk_X1_marksOf : yX1_marksOf.cls ≠ "java/lang/invoke/MethodHandle" ∧ yX1_marksOf.cls ≠ "java/lang/invoke/VarHandle" ∧ (parseMethodDescriptor yX1_marksOf.desc).map (fun d => d.parameters.length) = some 2 := by decide +kernel
theorem pl_X1_marksOf : plainName yX1_marksOf.cls = true := by decide +kernel
abbrev m_X1_pagesOf : qM := (8, yX1_pagesOf, RX1, cX1_pagesOf, 8, some (.object "java/util/List"), [])
theorem nk_X1_pagesOf : yX1_pagesOf.cls ≠ "java/lang/invoke/MethodHandle" ∧ yX1_pagesOf.cls ≠ "java/lang/invoke/VarHandle" ∧ (parseMethodDescriptor yX1_pagesOf.desc).map (fun d => d.parameters.length) = some 2 := by decide +kernel
theorem pl_X1_pagesOf : plainName yX1_pagesOf.cls = true := by decide +kernel
abbrev m_X1_must : qM := (10, yX1_must, RX1, cX1_must, 2, none, [])
theorem nk_X1_must : yX1_must.cls ≠ "java/lang/invoke/MethodHandle" ∧ yX1_must.cls ≠ "java/lang/invoke/VarHandle" ∧ (parseMethodDescriptor yX1_must.desc).map (fun d => d.parameters.length) = some 2 := by decide +kernel
theorem pl_X1_must : plainName yX1_must.cls = true := by decide +kernel
abbrev m_X1_place : qM := (16, yX1_place, RX1, cX1_place, 3, some .int, [])
theorem nk_X1_place : yX1_place.cls ≠ "java/lang/invoke/MethodHandle" ∧ yX1_place.cls ≠ "java/lang/invoke/VarHandle" ∧ (parseMethodDescriptor yX1_place.desc).map (fun d => d.parameters.length) = some 3 := by decide +kernel
theorem pl_X1_place : plainName yX1_place.cls = true := by decide +kernel
abbrev m_X1_isWithin : qM := (16, yX1_isWithin, RX1, cX1_isWithin, 3, none, [])
theorem nk_X1_isWithin : yX1_isWithin.cls ≠ "java/lang/invoke/MethodHandle" ∧ yX1_isWithin.cls ≠ "java/lang/invoke/VarHandle" ∧ (parseMethodDescriptor yX1_isWithin.desc).map (fun d => d.parameters.length) = some 3 := by decide +kernel
theorem pl_X1_isWithin : plainName yX1_isWithin.cls = true := by decide +kernel
abbrev m_X1_isToken : qM := (17, yX1_isToken, RX1, cX1_isToken, 3, none, [])
theorem nk_X1_isToken : yX1_isToken.cls ≠ "java/lang/invoke/MethodHandle" ∧ yX1_isToken.cls ≠ "java/lang/invoke/VarHandle" ∧ (parseMethodDescriptor yX1_isToken.desc).map (fun d => d.parameters.length) = some 3 := by decide +kernel
theorem pl_X1_isToken : plainName yX1_isToken.cls = true := by decide +kernel
abbrev m_X1_take : qM := (17, yX1_take, RX1, cX1_take, 2, some .int, [])
theorem nk_X1_take : yX1_take.cls ≠ "java/lang/invoke/MethodHandle" ∧ yX1_take.cls ≠ "java/lang/invoke/VarHandle" ∧ (parseMethodDescriptor yX1_take.desc).map (fun d => d.parameters.length) = some 1 := by decide +kernel
theorem pl_X1_take : plainName yX1_take.cls = true := by decide +kernel
abbrev m_X1_style : qM := (17, yX1_style, RX1, cX1_style, 9, none, [])
theorem nk_X1_style : yX1_style.cls ≠ "java/lang/invoke/MethodHandle" ∧ yX1_style.cls ≠ "java/lang/invoke/VarHandle" ∧ (parseMethodDescriptor yX1_style.desc).map (fun d => d.parameters.length) = some 4 := by decide +kernel
theorem pl_X1_style : plainName yX1_style.cls = true := by decide +kernel
abbrev m_X1_data : qM := (17, yX1_data, RX1, cX1_data, 5, some .int, [])
theorem nk_X1_data : yX1_data.cls ≠ "java/lang/invoke/MethodHandle" ∧ yX1_data.cls ≠ "java/lang/invoke/VarHandle" ∧ (parseMethodDescriptor yX1_data.desc).map (fun d => d.parameters.length) = some 3 := by decide +kernel
theorem pl_X1_data : plainName yX1_data.cls = true := by decide +kernel
abbrev m_X1_grid : qM := (17, yX1_grid, RX1, cX1_grid, 4, none, [])
theorem nk_X1_grid : yX1_grid.cls ≠ "java/lang/invoke/MethodHandle" ∧ yX1_grid.cls ≠ "java/lang/invoke/VarHandle" ∧ (parseMethodDescriptor yX1_grid.desc).map (fun d => d.parameters.length) = some 3 := by decide +kernel
theorem pl_X1_grid : plainName yX1_grid.cls = true := by decide +kernel
abbrev m_X1_see : qM := (17, yX1_see, RX1, cX1_see, 5, some .int, [])
theorem nk_X1_see : yX1_see.cls ≠ "java/lang/invoke/MethodHandle" ∧ yX1_see.cls ≠ "java/lang/invoke/VarHandle" ∧ (parseMethodDescriptor yX1_see.desc).map (fun d => d.parameters.length) = some 2 := by decide +kernel
theorem pl_X1_see : plainName yX1_see.cls = true := by decide +kernel
abbrev m_X1_fold : qM := (17, yX1_fold, RX1, cX1_fold, 3, none, [])
theorem nk_X1_fold : yX1_fold.cls ≠ "java/lang/invoke/MethodHandle" ∧ yX1_fold.cls ≠ "java/lang/invoke/VarHandle" ∧ (parseMethodDescriptor yX1_fold.desc).map (fun d => d.parameters.length) = some 2 := by decide +kernel
theorem pl_X1_fold : plainName yX1_fold.cls = true := by decide +kernel
abbrev m_X1_layout : qM := (17, yX1_layout, RX1, cX1_layout, 2, some (.object "Quirefold$Layout"), [])
theorem nk_X1_layout : yX1_layout.cls ≠ "java/lang/invoke/MethodHandle" ∧ yX1_layout.cls ≠ "java/lang/invoke/VarHandle" ∧ (parseMethodDescriptor yX1_layout.desc).map (fun d => d.parameters.length) = some 1 := by decide +kernel
theorem pl_X1_layout : plainName yX1_layout.cls = true := by decide +kernel
abbrev m_X1_sheet : qM := (17, yX1_sheet, RX1, cX1_sheet, 3, some .int, [])
theorem nk_X1_sheet : yX1_sheet.cls ≠ "java/lang/invoke/MethodHandle" ∧ yX1_sheet.cls ≠ "java/lang/invoke/VarHandle" ∧ (parseMethodDescriptor yX1_sheet.desc).map (fun d => d.parameters.length) = some 2 := by decide +kernel
theorem pl_X1_sheet : plainName yX1_sheet.cls = true := by decide +kernel
abbrev m_X1_put : qM := (18, yX1_put, RX1, cX1_put, 5, some .int, [])
theorem nk_X1_put : yX1_put.cls ≠ "java/lang/invoke/MethodHandle" ∧ yX1_put.cls ≠ "java/lang/invoke/VarHandle" ∧ (parseMethodDescriptor yX1_put.desc).map (fun d => d.parameters.length) = some 4 := by decide +kernel
theorem pl_X1_put : plainName yX1_put.cls = true := by decide +kernel
abbrev m_X1_keep : qM := (18, yX1_keep, RX1, cX1_keep, 4, some .int, [])
theorem nk_X1_keep : yX1_keep.cls ≠ "java/lang/invoke/MethodHandle" ∧ yX1_keep.cls ≠ "java/lang/invoke/VarHandle" ∧ (parseMethodDescriptor yX1_keep.desc).map (fun d => d.parameters.length) = some 1 := by decide +kernel
theorem pl_X1_keep : plainName yX1_keep.cls = true := by decide +kernel
abbrev m_X1_lines : qM := (18, yX1_lines, RX1, cX1_lines, 2, some .int, [])
theorem nk_X1_lines : yX1_lines.cls ≠ "java/lang/invoke/MethodHandle" ∧ yX1_lines.cls ≠ "java/lang/invoke/VarHandle" ∧ (parseMethodDescriptor yX1_lines.desc).map (fun d => d.parameters.length) = some 1 := by decide +kernel
theorem pl_X1_lines : plainName yX1_lines.cls = true := by decide +kernel
abbrev m_X1_lineOf : qM := (18, yX1_lineOf, RX1, cX1_lineOf, 4, some .int, [])
theorem nk_X1_lineOf : yX1_lineOf.cls ≠ "java/lang/invoke/MethodHandle" ∧ yX1_lineOf.cls ≠ "java/lang/invoke/VarHandle" ∧ (parseMethodDescriptor yX1_lineOf.desc).map (fun d => d.parameters.length) = some 2 := by decide +kernel
theorem pl_X1_lineOf : plainName yX1_lineOf.cls = true := by decide +kernel
abbrev m_X1_columnOf : qM := (18, yX1_columnOf, RX1, cX1_columnOf, 5, some .int, [])
theorem nk_X1_columnOf : yX1_columnOf.cls ≠ "java/lang/invoke/MethodHandle" ∧ yX1_columnOf.cls ≠ "java/lang/invoke/VarHandle" ∧ (parseMethodDescriptor yX1_columnOf.desc).map (fun d => d.parameters.length) = some 3 := by decide +kernel
theorem pl_X1_columnOf : plainName yX1_columnOf.cls = true := by decide +kernel
abbrev m_X1_layout_2 : qM := (18, yX1_layout_2, RX1, cX1_layout_2, 4, some (.object "Quirefold$Layout"), [])
theorem nk_X1_layout_2 : yX1_layout_2.cls ≠ "java/lang/invoke/MethodHandle" ∧ yX1_layout_2.cls ≠ "java/lang/invoke/VarHandle" ∧ (parseMethodDescriptor yX1_layout_2.desc).map (fun d => d.parameters.length) = some 2 := by decide +kernel
theorem pl_X1_layout_2 : plainName yX1_layout_2.cls = true := by decide +kernel
abbrev m_X1_pages : qM := (18, yX1_pages, RX1, cX1_pages, 3, some .int, [])
theorem nk_X1_pages : yX1_pages.cls ≠ "java/lang/invoke/MethodHandle" ∧ yX1_pages.cls ≠ "java/lang/invoke/VarHandle" ∧ (parseMethodDescriptor yX1_pages.desc).map (fun d => d.parameters.length) = some 1 := by decide +kernel
theorem pl_X1_pages : plainName yX1_pages.cls = true := by decide +kernel
abbrev m_X1_front : qM := (18, yX1_front, RX1, cX1_front, 2, some .int, [])
theorem nk_X1_front : yX1_front.cls ≠ "java/lang/invoke/MethodHandle" ∧ yX1_front.cls ≠ "java/lang/invoke/VarHandle" ∧ (parseMethodDescriptor yX1_front.desc).map (fun d => d.parameters.length) = some 1 := by decide +kernel
theorem pl_X1_front : plainName yX1_front.cls = true := by decide +kernel
abbrev m_X1_entry : qM := (18, yX1_entry, RX1, cX1_entry, 6, some .int, [])
theorem nk_X1_entry : yX1_entry.cls ≠ "java/lang/invoke/MethodHandle" ∧ yX1_entry.cls ≠ "java/lang/invoke/VarHandle" ∧ (parseMethodDescriptor yX1_entry.desc).map (fun d => d.parameters.length) = some 2 := by decide +kernel
theorem pl_X1_entry : plainName yX1_entry.cls = true := by decide +kernel
abbrev m_X1_index : qM := (18, yX1_index, RX1, cX1_index, 9, some .int, [])
theorem nk_X1_index : yX1_index.cls ≠ "java/lang/invoke/MethodHandle" ∧ yX1_index.cls ≠ "java/lang/invoke/VarHandle" ∧ (parseMethodDescriptor yX1_index.desc).map (fun d => d.parameters.length) = some 3 := by decide +kernel
theorem pl_X1_index : plainName yX1_index.cls = true := by decide +kernel
abbrev m_X1_plate : qM := (18, yX1_plate, RX1, cX1_plate, 11, some .int, [])
theorem nk_X1_plate : yX1_plate.cls ≠ "java/lang/invoke/MethodHandle" ∧ yX1_plate.cls ≠ "java/lang/invoke/VarHandle" ∧ (parseMethodDescriptor yX1_plate.desc).map (fun d => d.parameters.length) = some 4 := by decide +kernel
theorem pl_X1_plate : plainName yX1_plate.cls = true := by decide +kernel
abbrev m_X1_faults : qM := (18, yX1_faults, RX1, cX1_faults, 7, some .int, [])
theorem nk_X1_faults : yX1_faults.cls ≠ "java/lang/invoke/MethodHandle" ∧ yX1_faults.cls ≠ "java/lang/invoke/VarHandle" ∧ (parseMethodDescriptor yX1_faults.desc).map (fun d => d.parameters.length) = some 2 := by decide +kernel
theorem pl_X1_faults : plainName yX1_faults.cls = true := by decide +kernel
abbrev m_X1_pageOf : qM := (19, yX1_pageOf, RX1, cX1_pageOf, 3, some .int, [])
theorem nk_X1_pageOf : yX1_pageOf.cls ≠ "java/lang/invoke/MethodHandle" ∧ yX1_pageOf.cls ≠ "java/lang/invoke/VarHandle" ∧ (parseMethodDescriptor yX1_pageOf.desc).map (fun d => d.parameters.length) = some 2 := by decide +kernel
theorem pl_X1_pageOf : plainName yX1_pageOf.cls = true := by decide +kernel
abbrev m_X1_pageAnew : qM := (19, yX1_pageAnew, RX1, cX1_pageAnew, 3, some .int, [])
theorem nk_X1_pageAnew : yX1_pageAnew.cls ≠ "java/lang/invoke/MethodHandle" ∧ yX1_pageAnew.cls ≠ "java/lang/invoke/VarHandle" ∧ (parseMethodDescriptor yX1_pageAnew.desc).map (fun d => d.parameters.length) = some 2 := by decide +kernel
theorem pl_X1_pageAnew : plainName yX1_pageAnew.cls = true := by decide +kernel
abbrev m_X1_isNew : qM := (19, yX1_isNew, RX1, cX1_isNew, 7, some .boolean, [])
theorem nk_X1_isNew : yX1_isNew.cls ≠ "java/lang/invoke/MethodHandle" ∧ yX1_isNew.cls ≠ "java/lang/invoke/VarHandle" ∧ (parseMethodDescriptor yX1_isNew.desc).map (fun d => d.parameters.length) = some 2 := by decide +kernel
theorem pl_X1_isNew : plainName yX1_isNew.cls = true := by decide +kernel
abbrev m_X3_init : qM := (1, yX3_init, RX3, cX3_init, 1, none, [])
theorem nk_X3_init : yX3_init.cls ≠ "java/lang/invoke/MethodHandle" ∧ yX3_init.cls ≠ "java/lang/invoke/VarHandle" ∧ (parseMethodDescriptor yX3_init.desc).map (fun d => d.parameters.length) = some 0 := by decide +kernel
theorem pl_X3_init : plainName yX3_init.cls = true := by decide +kernel
abbrev m_X3_thrown : qM := (1, yX3_thrown, RX3, cX3_thrown, 1, some .int, [])
theorem nk_X3_thrown : yX3_thrown.cls ≠ "java/lang/invoke/MethodHandle" ∧ yX3_thrown.cls ≠ "java/lang/invoke/VarHandle" ∧ (parseMethodDescriptor yX3_thrown.desc).map (fun d => d.parameters.length) = some 0 := by decide +kernel
theorem pl_X3_thrown : plainName yX3_thrown.cls = true := by decide +kernel
abbrev m_X3_in : qM := (1, yX3_in, RX3, cX3_in, 6, some .boolean, [])
theorem nk_X3_in : yX3_in.cls ≠ "java/lang/invoke/MethodHandle" ∧ yX3_in.cls ≠ "java/lang/invoke/VarHandle" ∧ (parseMethodDescriptor yX3_in.desc).map (fun d => d.parameters.length) = some 3 := by decide +kernel
theorem pl_X3_in : plainName yX3_in.cls = true := by decide +kernel
abbrev m_X3_fails : qM := (1, yX3_fails, RX3, cX3_fails, 2, some .int, [])
theorem nk_X3_fails : yX3_fails.cls ≠ "java/lang/invoke/MethodHandle" ∧ yX3_fails.cls ≠ "java/lang/invoke/VarHandle" ∧ (parseMethodDescriptor yX3_fails.desc).map (fun d => d.parameters.length) = some 1 := by decide +kernel
theorem pl_X3_fails : plainName yX3_fails.cls = true := by decide +kernel
abbrev m_X3_newLine : qM := (1, yX3_newLine, RX3, cX3_newLine, 3, none, [])
theorem nk_X3_newLine : yX3_newLine.cls ≠ "java/lang/invoke/MethodHandle" ∧ yX3_newLine.cls ≠ "java/lang/invoke/VarHandle" ∧ (parseMethodDescriptor yX3_newLine.desc).map (fun d => d.parameters.length) = some 2 := by decide +kernel
theorem pl_X3_newLine : plainName yX3_newLine.cls = true := by decide +kernel
abbrev m_X3_isPrinted : qM := (1, yX3_isPrinted, RX3, cX3_isPrinted, 3, some .boolean, [])
theorem nk_X3_isPrinted : yX3_isPrinted.cls ≠ "java/lang/invoke/MethodHandle" ∧ yX3_isPrinted.cls ≠ "java/lang/invoke/VarHandle" ∧ (parseMethodDescriptor yX3_isPrinted.desc).map (fun d => d.parameters.length) = some 2 := by decide +kernel
theorem pl_X3_isPrinted : plainName yX3_isPrinted.cls = true := by decide +kernel
abbrev m_X3_extraOf : qM := (1, yX3_extraOf, RX3, cX3_extraOf, 3, some .int, [])
theorem nk_X3_extraOf : yX3_extraOf.cls ≠ "java/lang/invoke/MethodHandle" ∧ yX3_extraOf.cls ≠ "java/lang/invoke/VarHandle" ∧ (parseMethodDescriptor yX3_extraOf.desc).map (fun d => d.parameters.length) = some 1 := by decide +kernel
theorem pl_X3_extraOf : plainName yX3_extraOf.cls = true := by decide +kernel
abbrev m_X3_hangs : qM := (1, yX3_hangs, RX3, cX3_hangs, 2, some .boolean, [])
theorem nk_X3_hangs : yX3_hangs.cls ≠ "java/lang/invoke/MethodHandle" ∧ yX3_hangs.cls ≠ "java/lang/invoke/VarHandle" ∧ (parseMethodDescriptor yX3_hangs.desc).map (fun d => d.parameters.length) = some 1 := by decide +kernel
theorem pl_X3_hangs : plainName yX3_hangs.cls = true := by decide +kernel
abbrev m_X3_colourOf : qM := (1, yX3_colourOf, RX3, cX3_colourOf, 3, some .int, [])
theorem nk_X3_colourOf : yX3_colourOf.cls ≠ "java/lang/invoke/MethodHandle" ∧ yX3_colourOf.cls ≠ "java/lang/invoke/VarHandle" ∧ (parseMethodDescriptor yX3_colourOf.desc).map (fun d => d.parameters.length) = some 1 := by decide +kernel
theorem pl_X3_colourOf : plainName yX3_colourOf.cls = true := by decide +kernel
abbrev m_X3_tops : qM := (1, yX3_tops, RX3, cX3_tops, 2, none, [])
theorem nk_X3_tops : yX3_tops.cls ≠ "java/lang/invoke/MethodHandle" ∧ yX3_tops.cls ≠ "java/lang/invoke/VarHandle" ∧ (parseMethodDescriptor yX3_tops.desc).map (fun d => d.parameters.length) = some 1 := by decide +kernel
theorem pl_X3_tops : plainName yX3_tops.cls = true := by decide +kernel
abbrev m_X3_takes : qM := (1, yX3_takes, RX3, cX3_takes, 3, some .int, [])
theorem nk_X3_takes : yX3_takes.cls ≠ "java/lang/invoke/MethodHandle" ∧ yX3_takes.cls ≠ "java/lang/invoke/VarHandle" ∧ (parseMethodDescriptor yX3_takes.desc).map (fun d => d.parameters.length) = some 2 := by decide +kernel
theorem pl_X3_takes : plainName yX3_takes.cls = true := by decide +kernel
abbrev m_X3_pageBy : qM := (1, yX3_pageBy, RX3, cX3_pageBy, 3, some .int, [])
theorem nk_X3_pageBy : yX3_pageBy.cls ≠ "java/lang/invoke/MethodHandle" ∧ yX3_pageBy.cls ≠ "java/lang/invoke/VarHandle" ∧ (parseMethodDescriptor yX3_pageBy.desc).map (fun d => d.parameters.length) = some 2 := by decide +kernel
theorem pl_X3_pageBy : plainName yX3_pageBy.cls = true := by decide +kernel
abbrev m_X3_figures : qM := (1, yX3_figures, RX3, cX3_figures, 1, some .int, [])
theorem nk_X3_figures : yX3_figures.cls ≠ "java/lang/invoke/MethodHandle" ∧ yX3_figures.cls ≠ "java/lang/invoke/VarHandle" ∧ (parseMethodDescriptor yX3_figures.desc).map (fun d => d.parameters.length) = some 1 := by decide +kernel
theorem pl_X3_figures : plainName yX3_figures.cls = true := by decide +kernel
abbrev m_X3_pagesOf : qM := (1, yX3_pagesOf, RX3, cX3_pagesOf, 2, some .int, [])
theorem nk_X3_pagesOf : yX3_pagesOf.cls ≠ "java/lang/invoke/MethodHandle" ∧ yX3_pagesOf.cls ≠ "java/lang/invoke/VarHandle" ∧ (parseMethodDescriptor yX3_pagesOf.desc).map (fun d => d.parameters.length) = some 1 := by decide +kernel
theorem pl_X3_pagesOf : plainName yX3_pagesOf.cls = true := by decide +kernel
abbrev m_X3_lastOf : qM := (1, yX3_lastOf, RX3, cX3_lastOf, 3, some .int, [])
theorem nk_X3_lastOf : yX3_lastOf.cls ≠ "java/lang/invoke/MethodHandle" ∧ yX3_lastOf.cls ≠ "java/lang/invoke/VarHandle" ∧ (parseMethodDescriptor yX3_lastOf.desc).map (fun d => d.parameters.length) = some 1 := by decide +kernel
theorem pl_X3_lastOf : plainName yX3_lastOf.cls = true := by decide +kernel
abbrev m_X3_within : qM := (1, yX3_within, RX3, cX3_within, 3, some .int, [])
theorem nk_X3_within : yX3_within.cls ≠ "java/lang/invoke/MethodHandle" ∧ yX3_within.cls ≠ "java/lang/invoke/VarHandle" ∧ (parseMethodDescriptor yX3_within.desc).map (fun d => d.parameters.length) = some 1 := by decide +kernel
theorem pl_X3_within : plainName yX3_within.cls = true := by decide +kernel
abbrev m_X3_tokens : qM := (1, yX3_tokens, RX3, cX3_tokens, 1, some .int, [])
theorem nk_X3_tokens : yX3_tokens.cls ≠ "java/lang/invoke/MethodHandle" ∧ yX3_tokens.cls ≠ "java/lang/invoke/VarHandle" ∧ (parseMethodDescriptor yX3_tokens.desc).map (fun d => d.parameters.length) = some 0 := by decide +kernel
theorem pl_X3_tokens : plainName yX3_tokens.cls = true := by decide +kernel
abbrev m_X3_isFine : qM := (2, yX3_isFine, RX3, cX3_isFine, 5, some .boolean, [])
theorem nk_X3_isFine : yX3_isFine.cls ≠ "java/lang/invoke/MethodHandle" ∧ yX3_isFine.cls ≠ "java/lang/invoke/VarHandle" ∧ (parseMethodDescriptor yX3_isFine.desc).map (fun d => d.parameters.length) = some 3 := by decide +kernel
theorem pl_X3_isFine : plainName yX3_isFine.cls = true := by decide +kernel
abbrev m_X3_take : qM := (2, yX3_take, RX3, cX3_take, 3, some .int, [])
theorem nk_X3_take : yX3_take.cls ≠ "java/lang/invoke/MethodHandle" ∧ yX3_take.cls ≠ "java/lang/invoke/VarHandle" ∧ (parseMethodDescriptor yX3_take.desc).map (fun d => d.parameters.length) = some 1 := by decide +kernel
theorem pl_X3_take : plainName yX3_take.cls = true := by decide +kernel
abbrev m_X3_style : qM := (2, yX3_style, RX3, cX3_style, 6, none, [])
theorem nk_X3_style : yX3_style.cls ≠ "java/lang/invoke/MethodHandle" ∧ yX3_style.cls ≠ "java/lang/invoke/VarHandle" ∧ (parseMethodDescriptor yX3_style.desc).map (fun d => d.parameters.length) = some 4 := by decide +kernel
theorem pl_X3_style : plainName yX3_style.cls = true := by decide +kernel
abbrev m_X3_data : qM := (2, yX3_data, RX3, cX3_data, 5, some .int, [])
theorem nk_X3_data : yX3_data.cls ≠ "java/lang/invoke/MethodHandle" ∧ yX3_data.cls ≠ "java/lang/invoke/VarHandle" ∧ (parseMethodDescriptor yX3_data.desc).map (fun d => d.parameters.length) = some 3 := by decide +kernel
theorem pl_X3_data : plainName yX3_data.cls = true := by decide +kernel
abbrev m_X3_grid : qM := (2, yX3_grid, RX3, cX3_grid, 4, none, [])
theorem nk_X3_grid : yX3_grid.cls ≠ "java/lang/invoke/MethodHandle" ∧ yX3_grid.cls ≠ "java/lang/invoke/VarHandle" ∧ (parseMethodDescriptor yX3_grid.desc).map (fun d => d.parameters.length) = some 3 := by decide +kernel
theorem pl_X3_grid : plainName yX3_grid.cls = true := by decide +kernel
abbrev m_X3_see : qM := (2, yX3_see, RX3, cX3_see, 5, some .int, [])
theorem nk_X3_see : yX3_see.cls ≠ "java/lang/invoke/MethodHandle" ∧ yX3_see.cls ≠ "java/lang/invoke/VarHandle" ∧ (parseMethodDescriptor yX3_see.desc).map (fun d => d.parameters.length) = some 2 := by decide +kernel
theorem pl_X3_see : plainName yX3_see.cls = true := by decide +kernel
abbrev m_X3_fold : qM := (2, yX3_fold, RX3, cX3_fold, 3, none, [])
theorem nk_X3_fold : yX3_fold.cls ≠ "java/lang/invoke/MethodHandle" ∧ yX3_fold.cls ≠ "java/lang/invoke/VarHandle" ∧ (parseMethodDescriptor yX3_fold.desc).map (fun d => d.parameters.length) = some 2 := by decide +kernel
theorem pl_X3_fold : plainName yX3_fold.cls = true := by decide +kernel
abbrev m_X3_wide : qM := (2, yX3_wide, RX3, cX3_wide, 3, some .int, [])
theorem nk_X3_wide : yX3_wide.cls ≠ "java/lang/invoke/MethodHandle" ∧ yX3_wide.cls ≠ "java/lang/invoke/VarHandle" ∧ (parseMethodDescriptor yX3_wide.desc).map (fun d => d.parameters.length) = some 2 := by decide +kernel
theorem pl_X3_wide : plainName yX3_wide.cls = true := by decide +kernel
abbrev m_X3_hang : qM := (2, yX3_hang, RX3, cX3_hang, 3, none, [])
theorem nk_X3_hang : yX3_hang.cls ≠ "java/lang/invoke/MethodHandle" ∧ yX3_hang.cls ≠ "java/lang/invoke/VarHandle" ∧ (parseMethodDescriptor yX3_hang.desc).map (fun d => d.parameters.length) = some 0 := by decide +kernel
theorem pl_X3_hang : plainName yX3_hang.cls = true := by decide +kernel
abbrev m_X3_begins : qM := (2, yX3_begins, RX3, cX3_begins, 1, none, [])
theorem nk_X3_begins : yX3_begins.cls ≠ "java/lang/invoke/MethodHandle" ∧ yX3_begins.cls ≠ "java/lang/invoke/VarHandle" ∧ (parseMethodDescriptor yX3_begins.desc).map (fun d => d.parameters.length) = some 0 := by decide +kernel
theorem pl_X3_begins : plainName yX3_begins.cls = true := by decide +kernel
abbrev m_X3_needs : qM := (2, yX3_needs, RX3, cX3_needs, 5, some .int, [])
theorem nk_X3_needs : yX3_needs.cls ≠ "java/lang/invoke/MethodHandle" ∧ yX3_needs.cls ≠ "java/lang/invoke/VarHandle" ∧ (parseMethodDescriptor yX3_needs.desc).map (fun d => d.parameters.length) = some 2 := by decide +kernel
theorem pl_X3_needs : plainName yX3_needs.cls = true := by decide +kernel
abbrev m_X3_frontBy : qM := (2, yX3_frontBy, RX3, cX3_frontBy, 6, some .int, [])
theorem nk_X3_frontBy : yX3_frontBy.cls ≠ "java/lang/invoke/MethodHandle" ∧ yX3_frontBy.cls ≠ "java/lang/invoke/VarHandle" ∧ (parseMethodDescriptor yX3_frontBy.desc).map (fun d => d.parameters.length) = some 1 := by decide +kernel
theorem pl_X3_frontBy : plainName yX3_frontBy.cls = true := by decide +kernel
abbrev m_X3_page : qM := (2, yX3_page, RX3, cX3_page, 2, some .int, [])
theorem nk_X3_page : yX3_page.cls ≠ "java/lang/invoke/MethodHandle" ∧ yX3_page.cls ≠ "java/lang/invoke/VarHandle" ∧ (parseMethodDescriptor yX3_page.desc).map (fun d => d.parameters.length) = some 1 := by decide +kernel
theorem pl_X3_page : plainName yX3_page.cls = true := by decide +kernel
abbrev m_X3_counts : qM := (2, yX3_counts, RX3, cX3_counts, 3, some .boolean, [])
theorem nk_X3_counts : yX3_counts.cls ≠ "java/lang/invoke/MethodHandle" ∧ yX3_counts.cls ≠ "java/lang/invoke/VarHandle" ∧ (parseMethodDescriptor yX3_counts.desc).map (fun d => d.parameters.length) = some 2 := by decide +kernel
theorem pl_X3_counts : plainName yX3_counts.cls = true := by decide +kernel
abbrev m_X3_sheetOf : qM := (2, yX3_sheetOf, RX3, cX3_sheetOf, 2, some .int, [])
theorem nk_X3_sheetOf : yX3_sheetOf.cls ≠ "java/lang/invoke/MethodHandle" ∧ yX3_sheetOf.cls ≠ "java/lang/invoke/VarHandle" ∧ (parseMethodDescriptor yX3_sheetOf.desc).map (fun d => d.parameters.length) = some 1 := by decide +kernel
theorem pl_X3_sheetOf : plainName yX3_sheetOf.cls = true := by decide +kernel
abbrev m_X3_sideOf : qM := (2, yX3_sideOf, RX3, cX3_sideOf, 4, some .int, [])
theorem nk_X3_sideOf : yX3_sideOf.cls ≠ "java/lang/invoke/MethodHandle" ∧ yX3_sideOf.cls ≠ "java/lang/invoke/VarHandle" ∧ (parseMethodDescriptor yX3_sideOf.desc).map (fun d => d.parameters.length) = some 1 := by decide +kernel
theorem pl_X3_sideOf : plainName yX3_sideOf.cls = true := by decide +kernel
abbrev m_X3_nextOn : qM := (2, yX3_nextOn, RX3, cX3_nextOn, 4, some .int, [])
theorem nk_X3_nextOn : yX3_nextOn.cls ≠ "java/lang/invoke/MethodHandle" ∧ yX3_nextOn.cls ≠ "java/lang/invoke/VarHandle" ∧ (parseMethodDescriptor yX3_nextOn.desc).map (fun d => d.parameters.length) = some 2 := by decide +kernel
theorem pl_X3_nextOn : plainName yX3_nextOn.cls = true := by decide +kernel
abbrev m_X3_put : qM := (3, yX3_put, RX3, cX3_put, 6, some .int, [])
theorem nk_X3_put : yX3_put.cls ≠ "java/lang/invoke/MethodHandle" ∧ yX3_put.cls ≠ "java/lang/invoke/VarHandle" ∧ (parseMethodDescriptor yX3_put.desc).map (fun d => d.parameters.length) = some 4 := by decide +kernel
theorem pl_X3_put : plainName yX3_put.cls = true := by decide +kernel
abbrev m_X3_layLines : qM := (3, yX3_layLines, RX3, cX3_layLines, 7, none, [])
theorem nk_X3_layLines : yX3_layLines.cls ≠ "java/lang/invoke/MethodHandle" ∧ yX3_layLines.cls ≠ "java/lang/invoke/VarHandle" ∧ (parseMethodDescriptor yX3_layLines.desc).map (fun d => d.parameters.length) = some 1 := by decide +kernel
theorem pl_X3_layLines : plainName yX3_layLines.cls = true := by decide +kernel
abbrev m_X3_layColumns : qM := (3, yX3_layColumns, RX3, cX3_layColumns, 3, none, [])
theorem nk_X3_layColumns : yX3_layColumns.cls ≠ "java/lang/invoke/MethodHandle" ∧ yX3_layColumns.cls ≠ "java/lang/invoke/VarHandle" ∧ (parseMethodDescriptor yX3_layColumns.desc).map (fun d => d.parameters.length) = some 0 := by decide +kernel
theorem pl_X3_layColumns : plainName yX3_layColumns.cls = true := by decide +kernel
abbrev m_X3_layFront : qM := (3, yX3_layFront, RX3, cX3_layFront, 3, none, [])
theorem nk_X3_layFront : yX3_layFront.cls ≠ "java/lang/invoke/MethodHandle" ∧ yX3_layFront.cls ≠ "java/lang/invoke/VarHandle" ∧ (parseMethodDescriptor yX3_layFront.desc).map (fun d => d.parameters.length) = some 0 := by decide +kernel
theorem pl_X3_layFront : plainName yX3_layFront.cls = true := by decide +kernel
abbrev m_X3_sheet : qM := (3, yX3_sheet, RX3, cX3_sheet, 5, some .int, [])
theorem nk_X3_sheet : yX3_sheet.cls ≠ "java/lang/invoke/MethodHandle" ∧ yX3_sheet.cls ≠ "java/lang/invoke/VarHandle" ∧ (parseMethodDescriptor yX3_sheet.desc).map (fun d => d.parameters.length) = some 2 := by decide +kernel
theorem pl_X3_sheet : plainName yX3_sheet.cls = true := by decide +kernel
abbrev m_X3_isMarked : qM := (3, yX3_isMarked, RX3, cX3_isMarked, 4, some .boolean, [])
theorem nk_X3_isMarked : yX3_isMarked.cls ≠ "java/lang/invoke/MethodHandle" ∧ yX3_isMarked.cls ≠ "java/lang/invoke/VarHandle" ∧ (parseMethodDescriptor yX3_isMarked.desc).map (fun d => d.parameters.length) = some 1 := by decide +kernel
theorem pl_X3_isMarked : plainName yX3_isMarked.cls = true := by decide +kernel
abbrev m_X3_isKept : qM := (3, yX3_isKept, RX3, cX3_isKept, 7, some .boolean, [])
theorem nk_X3_isKept : yX3_isKept.cls ≠ "java/lang/invoke/MethodHandle" ∧ yX3_isKept.cls ≠ "java/lang/invoke/VarHandle" ∧ (parseMethodDescriptor yX3_isKept.desc).map (fun d => d.parameters.length) = some 4 := by decide +kernel
theorem pl_X3_isKept : plainName yX3_isKept.cls = true := by decide +kernel
abbrev m_X3_areAlike : qM := (3, yX3_areAlike, RX3, cX3_areAlike, 7, some .boolean, [])
theorem nk_X3_areAlike : yX3_areAlike.cls ≠ "java/lang/invoke/MethodHandle" ∧ yX3_areAlike.cls ≠ "java/lang/invoke/VarHandle" ∧ (parseMethodDescriptor yX3_areAlike.desc).map (fun d => d.parameters.length) = some 3 := by decide +kernel
theorem pl_X3_areAlike : plainName yX3_areAlike.cls = true := by decide +kernel
abbrev m_X3_keep : qM := (4, yX3_keep, RX3, cX3_keep, 5, some .int, [])
theorem nk_X3_keep : yX3_keep.cls ≠ "java/lang/invoke/MethodHandle" ∧ yX3_keep.cls ≠ "java/lang/invoke/VarHandle" ∧ (parseMethodDescriptor yX3_keep.desc).map (fun d => d.parameters.length) = some 1 := by decide +kernel
theorem pl_X3_keep : plainName yX3_keep.cls = true := by decide +kernel
abbrev m_X3_lines : qM := (4, yX3_lines, RX3, cX3_lines, 2, some .int, [])
theorem nk_X3_lines : yX3_lines.cls ≠ "java/lang/invoke/MethodHandle" ∧ yX3_lines.cls ≠ "java/lang/invoke/VarHandle" ∧ (parseMethodDescriptor yX3_lines.desc).map (fun d => d.parameters.length) = some 1 := by decide +kernel
theorem pl_X3_lines : plainName yX3_lines.cls = true := by decide +kernel
abbrev m_X3_lineOf : qM := (4, yX3_lineOf, RX3, cX3_lineOf, 3, some .int, [])
theorem nk_X3_lineOf : yX3_lineOf.cls ≠ "java/lang/invoke/MethodHandle" ∧ yX3_lineOf.cls ≠ "java/lang/invoke/VarHandle" ∧ (parseMethodDescriptor yX3_lineOf.desc).map (fun d => d.parameters.length) = some 2 := by decide +kernel
theorem pl_X3_lineOf : plainName yX3_lineOf.cls = true := by decide +kernel
abbrev m_X3_lay : qM := (4, yX3_lay, RX3, cX3_lay, 2, none, [])
theorem nk_X3_lay : yX3_lay.cls ≠ "java/lang/invoke/MethodHandle" ∧ yX3_lay.cls ≠ "java/lang/invoke/VarHandle" ∧ (parseMethodDescriptor yX3_lay.desc).map (fun d => d.parameters.length) = some 1 := by decide +kernel
theorem pl_X3_lay : plainName yX3_lay.cls = true := by decide +kernel
abbrev m_X3_isNew : qM := (4, yX3_isNew, RX3, cX3_isNew, 6, some .boolean, [])
theorem nk_X3_isNew : yX3_isNew.cls ≠ "java/lang/invoke/MethodHandle" ∧ yX3_isNew.cls ≠ "java/lang/invoke/VarHandle" ∧ (parseMethodDescriptor yX3_isNew.desc).map (fun d => d.parameters.length) = some 2 := by decide +kernel
theorem pl_X3_isNew : plainName yX3_isNew.cls = true := by decide +kernel
abbrev m_X3_columnOf : qM := (5, yX3_columnOf, RX3, cX3_columnOf, 4, some .int, [])
theorem nk_X3_columnOf : yX3_columnOf.cls ≠ "java/lang/invoke/MethodHandle" ∧ yX3_columnOf.cls ≠ "java/lang/invoke/VarHandle" ∧ (parseMethodDescriptor yX3_columnOf.desc).map (fun d => d.parameters.length) = some 3 := by decide +kernel
theorem pl_X3_columnOf : plainName yX3_columnOf.cls = true := by decide +kernel
abbrev m_X3_pageOf : qM := (5, yX3_pageOf, RX3, cX3_pageOf, 3, some .int, [])
theorem nk_X3_pageOf : yX3_pageOf.cls ≠ "java/lang/invoke/MethodHandle" ∧ yX3_pageOf.cls ≠ "java/lang/invoke/VarHandle" ∧ (parseMethodDescriptor yX3_pageOf.desc).map (fun d => d.parameters.length) = some 2 := by decide +kernel
theorem pl_X3_pageOf : plainName yX3_pageOf.cls = true := by decide +kernel
abbrev m_X3_pages : qM := (5, yX3_pages, RX3, cX3_pages, 2, some .int, [])
theorem nk_X3_pages : yX3_pages.cls ≠ "java/lang/invoke/MethodHandle" ∧ yX3_pages.cls ≠ "java/lang/invoke/VarHandle" ∧ (parseMethodDescriptor yX3_pages.desc).map (fun d => d.parameters.length) = some 1 := by decide +kernel
theorem pl_X3_pages : plainName yX3_pages.cls = true := by decide +kernel
abbrev m_X3_front : qM := (5, yX3_front, RX3, cX3_front, 2, some .int, [])
theorem nk_X3_front : yX3_front.cls ≠ "java/lang/invoke/MethodHandle" ∧ yX3_front.cls ≠ "java/lang/invoke/VarHandle" ∧ (parseMethodDescriptor yX3_front.desc).map (fun d => d.parameters.length) = some 1 := by decide +kernel
theorem pl_X3_front : plainName yX3_front.cls = true := by decide +kernel
abbrev m_X3_entry : qM := (5, yX3_entry, RX3, cX3_entry, 6, some .int, [])
theorem nk_X3_entry : yX3_entry.cls ≠ "java/lang/invoke/MethodHandle" ∧ yX3_entry.cls ≠ "java/lang/invoke/VarHandle" ∧ (parseMethodDescriptor yX3_entry.desc).map (fun d => d.parameters.length) = some 2 := by decide +kernel
theorem pl_X3_entry : plainName yX3_entry.cls = true := by decide +kernel
abbrev m_X3_index : qM := (5, yX3_index, RX3, cX3_index, 7, some .int, [])
theorem nk_X3_index : yX3_index.cls ≠ "java/lang/invoke/MethodHandle" ∧ yX3_index.cls ≠ "java/lang/invoke/VarHandle" ∧ (parseMethodDescriptor yX3_index.desc).map (fun d => d.parameters.length) = some 3 := by decide +kernel
theorem pl_X3_index : plainName yX3_index.cls = true := by decide +kernel
abbrev m_X3_plate : qM := (5, yX3_plate, RX3, cX3_plate, 8, some .int, [])
theorem nk_X3_plate : yX3_plate.cls ≠ "java/lang/invoke/MethodHandle" ∧ yX3_plate.cls ≠ "java/lang/invoke/VarHandle" ∧ (parseMethodDescriptor yX3_plate.desc).map (fun d => d.parameters.length) = some 4 := by decide +kernel
theorem pl_X3_plate : plainName yX3_plate.cls = true := by decide +kernel
abbrev m_X3_faults : qM := (5, yX3_faults, RX3, cX3_faults, 5, some .int, [])
theorem nk_X3_faults : yX3_faults.cls ≠ "java/lang/invoke/MethodHandle" ∧ yX3_faults.cls ≠ "java/lang/invoke/VarHandle" ∧ (parseMethodDescriptor yX3_faults.desc).map (fun d => d.parameters.length) = some 2 := by decide +kernel
theorem pl_X3_faults : plainName yX3_faults.cls = true := by decide +kernel
abbrev m_X3_pageAnew : qM := (6, yX3_pageAnew, RX3, cX3_pageAnew, 3, some .int, [])
theorem nk_X3_pageAnew : yX3_pageAnew.cls ≠ "java/lang/invoke/MethodHandle" ∧ yX3_pageAnew.cls ≠ "java/lang/invoke/VarHandle" ∧ (parseMethodDescriptor yX3_pageAnew.desc).map (fun d => d.parameters.length) = some 2 := by decide +kernel
theorem pl_X3_pageAnew : plainName yX3_pageAnew.cls = true := by decide +kernel
abbrev m_X0_take : qM := (18, yX0_take, RX0, cX0_take, 4, some .int, [(0, 9, 12, 13)])
theorem nk_X0_take : yX0_take.cls ≠ "java/lang/invoke/MethodHandle" ∧ yX0_take.cls ≠ "java/lang/invoke/VarHandle" ∧ (parseMethodDescriptor yX0_take.desc).map (fun d => d.parameters.length) = some 3 := by decide +kernel
theorem pl_X0_take : plainName yX0_take.cls = true := by decide +kernel
abbrev m_X0_style : qM := (18, yX0_style, RX0, cX0_style, 6, some .int, [(0, 9, 12, 13), (0, 9, 16, 15), (0, 9, 20, 17)])
theorem nk_X0_style : yX0_style.cls ≠ "java/lang/invoke/MethodHandle" ∧ yX0_style.cls ≠ "java/lang/invoke/VarHandle" ∧ (parseMethodDescriptor yX0_style.desc).map (fun d => d.parameters.length) = some 5 := by decide +kernel
theorem pl_X0_style : plainName yX0_style.cls = true := by decide +kernel
abbrev m_X0_data : qM := (18, yX0_data, RX0, cX0_data, 6, some .int, [(0, 12, 15, 13), (0, 12, 19, 15)])
theorem nk_X0_data : yX0_data.cls ≠ "java/lang/invoke/MethodHandle" ∧ yX0_data.cls ≠ "java/lang/invoke/VarHandle" ∧ (parseMethodDescriptor yX0_data.desc).map (fun d => d.parameters.length) = some 5 := by decide +kernel
theorem pl_X0_data : plainName yX0_data.cls = true := by decide +kernel
abbrev m_X0_grid : qM := (18, yX0_grid, RX0, cX0_grid, 5, some .int, [(0, 7, 10, 15)])
theorem nk_X0_grid : yX0_grid.cls ≠ "java/lang/invoke/MethodHandle" ∧ yX0_grid.cls ≠ "java/lang/invoke/VarHandle" ∧ (parseMethodDescriptor yX0_grid.desc).map (fun d => d.parameters.length) = some 4 := by decide +kernel
theorem pl_X0_grid : plainName yX0_grid.cls = true := by decide +kernel
abbrev m_X0_see : qM := (18, yX0_see, RX0, cX0_see, 5, some .int, [(0, 10, 13, 13), (0, 10, 17, 17)])
theorem nk_X0_see : yX0_see.cls ≠ "java/lang/invoke/MethodHandle" ∧ yX0_see.cls ≠ "java/lang/invoke/VarHandle" ∧ (parseMethodDescriptor yX0_see.desc).map (fun d => d.parameters.length) = some 4 := by decide +kernel
theorem pl_X0_see : plainName yX0_see.cls = true := by decide +kernel
abbrev m_X0_fold : qM := (18, yX0_fold, RX0, cX0_fold, 4, some .int, [(0, 6, 9, 15)])
theorem nk_X0_fold : yX0_fold.cls ≠ "java/lang/invoke/MethodHandle" ∧ yX0_fold.cls ≠ "java/lang/invoke/VarHandle" ∧ (parseMethodDescriptor yX0_fold.desc).map (fun d => d.parameters.length) = some 3 := by decide +kernel
theorem pl_X0_fold : plainName yX0_fold.cls = true := by decide +kernel
abbrev m_X0_sheet : qM := (18, yX0_sheet, RX0, cX0_sheet, 5, some .int, [(0, 10, 13, 13)])
theorem nk_X0_sheet : yX0_sheet.cls ≠ "java/lang/invoke/MethodHandle" ∧ yX0_sheet.cls ≠ "java/lang/invoke/VarHandle" ∧ (parseMethodDescriptor yX0_sheet.desc).map (fun d => d.parameters.length) = some 4 := by decide +kernel
theorem pl_X0_sheet : plainName yX0_sheet.cls = true := by decide +kernel
abbrev m_X0_put : qM := (19, yX0_put, RX0, cX0_put, 7, some .int, [(0, 14, 17, 13), (0, 14, 21, 15), (0, 14, 25, 17)])
theorem nk_X0_put : yX0_put.cls ≠ "java/lang/invoke/MethodHandle" ∧ yX0_put.cls ≠ "java/lang/invoke/VarHandle" ∧ (parseMethodDescriptor yX0_put.desc).map (fun d => d.parameters.length) = some 6 := by decide +kernel
theorem pl_X0_put : plainName yX0_put.cls = true := by decide +kernel
abbrev m_X0_keep : qM := (19, yX0_keep, RX0, cX0_keep, 4, some .int, [(0, 9, 12, 13)])
theorem nk_X0_keep : yX0_keep.cls ≠ "java/lang/invoke/MethodHandle" ∧ yX0_keep.cls ≠ "java/lang/invoke/VarHandle" ∧ (parseMethodDescriptor yX0_keep.desc).map (fun d => d.parameters.length) = some 3 := by decide +kernel
theorem pl_X0_keep : plainName yX0_keep.cls = true := by decide +kernel
abbrev m_X0_lines : qM := (19, yX0_lines, RX0, cX0_lines, 4, some .int, [(0, 9, 12, 13)])
theorem nk_X0_lines : yX0_lines.cls ≠ "java/lang/invoke/MethodHandle" ∧ yX0_lines.cls ≠ "java/lang/invoke/VarHandle" ∧ (parseMethodDescriptor yX0_lines.desc).map (fun d => d.parameters.length) = some 3 := by decide +kernel
theorem pl_X0_lines : plainName yX0_lines.cls = true := by decide +kernel
abbrev m_X0_lineOf : qM := (19, yX0_lineOf, RX0, cX0_lineOf, 5, some .int, [(0, 10, 13, 13)])
theorem nk_X0_lineOf : yX0_lineOf.cls ≠ "java/lang/invoke/MethodHandle" ∧ yX0_lineOf.cls ≠ "java/lang/invoke/VarHandle" ∧ (parseMethodDescriptor yX0_lineOf.desc).map (fun d => d.parameters.length) = some 4 := by decide +kernel
theorem pl_X0_lineOf : plainName yX0_lineOf.cls = true := by decide +kernel
abbrev m_X0_columnOf : qM := (19, yX0_columnOf, RX0, cX0_columnOf, 6, some .int, [(0, 12, 15, 13)])
theorem nk_X0_columnOf : yX0_columnOf.cls ≠ "java/lang/invoke/MethodHandle" ∧ yX0_columnOf.cls ≠ "java/lang/invoke/VarHandle" ∧ (parseMethodDescriptor yX0_columnOf.desc).map (fun d => d.parameters.length) = some 5 := by decide +kernel
theorem pl_X0_columnOf : plainName yX0_columnOf.cls = true := by decide +kernel
abbrev m_X0_pages : qM := (19, yX0_pages, RX0, cX0_pages, 4, some .int, [(0, 9, 12, 13)])
theorem nk_X0_pages : yX0_pages.cls ≠ "java/lang/invoke/MethodHandle" ∧ yX0_pages.cls ≠ "java/lang/invoke/VarHandle" ∧ (parseMethodDescriptor yX0_pages.desc).map (fun d => d.parameters.length) = some 3 := by decide +kernel
theorem pl_X0_pages : plainName yX0_pages.cls = true := by decide +kernel
abbrev m_X0_front : qM := (19, yX0_front, RX0, cX0_front, 4, some .int, [(0, 9, 12, 13)])
theorem nk_X0_front : yX0_front.cls ≠ "java/lang/invoke/MethodHandle" ∧ yX0_front.cls ≠ "java/lang/invoke/VarHandle" ∧ (parseMethodDescriptor yX0_front.desc).map (fun d => d.parameters.length) = some 3 := by decide +kernel
theorem pl_X0_front : plainName yX0_front.cls = true := by decide +kernel
abbrev m_X0_entry : qM := (19, yX0_entry, RX0, cX0_entry, 5, some .int, [(0, 10, 13, 13)])
theorem nk_X0_entry : yX0_entry.cls ≠ "java/lang/invoke/MethodHandle" ∧ yX0_entry.cls ≠ "java/lang/invoke/VarHandle" ∧ (parseMethodDescriptor yX0_entry.desc).map (fun d => d.parameters.length) = some 4 := by decide +kernel
theorem pl_X0_entry : plainName yX0_entry.cls = true := by decide +kernel
abbrev m_X0_index : qM := (19, yX0_index, RX0, cX0_index, 6, some .int, [(0, 12, 15, 13)])
theorem nk_X0_index : yX0_index.cls ≠ "java/lang/invoke/MethodHandle" ∧ yX0_index.cls ≠ "java/lang/invoke/VarHandle" ∧ (parseMethodDescriptor yX0_index.desc).map (fun d => d.parameters.length) = some 5 := by decide +kernel
theorem pl_X0_index : plainName yX0_index.cls = true := by decide +kernel
abbrev m_X0_plate : qM := (19, yX0_plate, RX0, cX0_plate, 7, some .int, [(0, 14, 17, 13)])
theorem nk_X0_plate : yX0_plate.cls ≠ "java/lang/invoke/MethodHandle" ∧ yX0_plate.cls ≠ "java/lang/invoke/VarHandle" ∧ (parseMethodDescriptor yX0_plate.desc).map (fun d => d.parameters.length) = some 6 := by decide +kernel
theorem pl_X0_plate : plainName yX0_plate.cls = true := by decide +kernel
abbrev m_X0_faults : qM := (19, yX0_faults, RX0, cX0_faults, 5, some .int, [(0, 10, 13, 13)])
theorem nk_X0_faults : yX0_faults.cls ≠ "java/lang/invoke/MethodHandle" ∧ yX0_faults.cls ≠ "java/lang/invoke/VarHandle" ∧ (parseMethodDescriptor yX0_faults.desc).map (fun d => d.parameters.length) = some 4 := by decide +kernel
theorem pl_X0_faults : plainName yX0_faults.cls = true := by decide +kernel
abbrev m_X0_pageOf : qM := (20, yX0_pageOf, RX0, cX0_pageOf, 5, some .int, [(0, 10, 13, 13)])
theorem nk_X0_pageOf : yX0_pageOf.cls ≠ "java/lang/invoke/MethodHandle" ∧ yX0_pageOf.cls ≠ "java/lang/invoke/VarHandle" ∧ (parseMethodDescriptor yX0_pageOf.desc).map (fun d => d.parameters.length) = some 4 := by decide +kernel
theorem pl_X0_pageOf : plainName yX0_pageOf.cls = true := by decide +kernel
abbrev m_X0_pageAnew : qM := (20, yX0_pageAnew, RX0, cX0_pageAnew, 5, some .int, [(0, 10, 13, 13)])
theorem nk_X0_pageAnew : yX0_pageAnew.cls ≠ "java/lang/invoke/MethodHandle" ∧ yX0_pageAnew.cls ≠ "java/lang/invoke/VarHandle" ∧ (parseMethodDescriptor yX0_pageAnew.desc).map (fun d => d.parameters.length) = some 4 := by decide +kernel
theorem pl_X0_pageAnew : plainName yX0_pageAnew.cls = true := by decide +kernel
abbrev m_X0_isNew : qM := (20, yX0_isNew, RX0, cX0_isNew, 5, some .int, [(0, 17, 20, 13)])
theorem nk_X0_isNew : yX0_isNew.cls ≠ "java/lang/invoke/MethodHandle" ∧ yX0_isNew.cls ≠ "java/lang/invoke/VarHandle" ∧ (parseMethodDescriptor yX0_isNew.desc).map (fun d => d.parameters.length) = some 4 := by decide +kernel
theorem pl_X0_isNew : plainName yX0_isNew.cls = true := by decide +kernel
abbrev m_L_law : qM := (21, x, RX0, code, 7, some .boolean, [])
