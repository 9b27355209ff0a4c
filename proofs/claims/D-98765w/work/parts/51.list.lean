set_option maxRecDepth 100000
def RJ6 : String := "jdk/internal/util/Preconditions"
def RJ15 : String := "java/util/Objects"
abbrev cJ6_checkIndex : ByteArray := prog_44_method_11_code
def yJ6_checkIndex : MethodName := ⟨RJ6, "checkIndex", "(IILjava/util/function/BiFunction;)I"⟩
def dkwJ6_checkIndex_0 : List UInt8 := [26, 155, 0, 8, 26, 27, 161, 0, 10, 44, 26, 27, 184, 0, 95, 191, 26, 172]
abbrev dktJ6_checkIndex_0 : List UInt8 := dkwJ6_checkIndex_0 ++ []
theorem dksJ6_checkIndex_0 : cJ6_checkIndex.data.toList.drop 0 = dktJ6_checkIndex_0 := by decide +kernel
theorem dJ6_checkIndex_0 : decode cJ6_checkIndex 0 = .ok (.iload_n 0, 1) := dk_26 (dk_at dksJ6_checkIndex_0 0 rfl rfl)
theorem dJ6_checkIndex_1 : decode cJ6_checkIndex 1 = .ok (.ifCond .lt 8, 3) := dk_155 0 8 (dk_at dksJ6_checkIndex_0 1 rfl rfl)
theorem dJ6_checkIndex_4 : decode cJ6_checkIndex 4 = .ok (.iload_n 0, 1) := dk_26 (dk_at dksJ6_checkIndex_0 4 rfl rfl)
theorem dJ6_checkIndex_5 : decode cJ6_checkIndex 5 = .ok (.iload_n 1, 1) := dk_27 (dk_at dksJ6_checkIndex_0 5 rfl rfl)
theorem dJ6_checkIndex_6 : decode cJ6_checkIndex 6 = .ok (.if_icmp .lt 10, 3) := dk_161 0 10 (dk_at dksJ6_checkIndex_0 6 rfl rfl)
theorem dJ6_checkIndex_9 : decode cJ6_checkIndex 9 = .ok (.aload_n 2, 1) := dk_44 (dk_at dksJ6_checkIndex_0 9 rfl rfl)
theorem dJ6_checkIndex_10 : decode cJ6_checkIndex 10 = .ok (.iload_n 0, 1) := dk_26 (dk_at dksJ6_checkIndex_0 10 rfl rfl)
theorem dJ6_checkIndex_11 : decode cJ6_checkIndex 11 = .ok (.iload_n 1, 1) := dk_27 (dk_at dksJ6_checkIndex_0 11 rfl rfl)
theorem dJ6_checkIndex_12 : decode cJ6_checkIndex 12 = .ok (.invokestatic 95, 3) := dk_184 0 95 (dk_at dksJ6_checkIndex_0 12 rfl rfl)
theorem dJ6_checkIndex_15 : decode cJ6_checkIndex 15 = .ok (.athrow, 1) := dk_191 (dk_at dksJ6_checkIndex_0 15 rfl rfl)
theorem dJ6_checkIndex_16 : decode cJ6_checkIndex 16 = .ok (.iload_n 0, 1) := dk_26 (dk_at dksJ6_checkIndex_0 16 rfl rfl)
theorem dJ6_checkIndex_17 : decode cJ6_checkIndex 17 = .ok (.ireturn, 1) := dk_172 (dk_at dksJ6_checkIndex_0 17 rfl rfl)
theorem okJ6_checkIndex : wOkS yJ6_checkIndex cJ6_checkIndex 3 (some .int) 3 := ⟨q555, q152, q556, by decide, by decide, by decide +kernel⟩
abbrev cJ15_checkIndex : ByteArray := prog_40_method_17_code
def yJ15_checkIndex : MethodName := ⟨RJ15, "checkIndex", "(II)I"⟩
def dkwJ15_checkIndex_0 : List UInt8 := [26, 27, 1, 184, 0, 105, 172]
abbrev dktJ15_checkIndex_0 : List UInt8 := dkwJ15_checkIndex_0 ++ []
theorem dksJ15_checkIndex_0 : cJ15_checkIndex.data.toList.drop 0 = dktJ15_checkIndex_0 := by decide +kernel
theorem dJ15_checkIndex_0 : decode cJ15_checkIndex 0 = .ok (.iload_n 0, 1) := dk_26 (dk_at dksJ15_checkIndex_0 0 rfl rfl)
theorem dJ15_checkIndex_1 : decode cJ15_checkIndex 1 = .ok (.iload_n 1, 1) := dk_27 (dk_at dksJ15_checkIndex_0 1 rfl rfl)
theorem dJ15_checkIndex_2 : decode cJ15_checkIndex 2 = .ok (.aconst_null, 1) := dk_1 (dk_at dksJ15_checkIndex_0 2 rfl rfl)
theorem dJ15_checkIndex_3 : decode cJ15_checkIndex 3 = .ok (.invokestatic 105, 3) := dk_184 0 105 (dk_at dksJ15_checkIndex_0 3 rfl rfl)
theorem dJ15_checkIndex_6 : decode cJ15_checkIndex 6 = .ok (.ireturn, 1) := dk_172 (dk_at dksJ15_checkIndex_0 6 rfl rfl)
theorem okJ15_checkIndex : wOkS yJ15_checkIndex cJ15_checkIndex 2 (some .int) 2 := ⟨q1289, q163, q1290, by decide, by decide, by decide +kernel⟩
abbrev cJ2_size : ByteArray := prog_36_method_8_code
def yJ2_size : MethodName := ⟨RJ2, "size", "()I"⟩
theorem dJ2_size_0 : decode cJ2_size 0 = .ok (.aload_n 0, 1) := by decide +kernel
theorem dJ2_size_1 : decode cJ2_size 1 = .ok (.getfield 48, 3) := by decide +kernel
theorem dJ2_size_4 : decode cJ2_size 4 = .ok (.ireturn, 1) := by decide +kernel
theorem okJ2_size : wOkV yJ2_size cJ2_size 1 (some .int) 0 := ⟨q1214, q1215, q144, q1216, by decide, by decide, by decide +kernel⟩
abbrev cJ2_isEmpty : ByteArray := prog_36_method_9_code
def yJ2_isEmpty : MethodName := ⟨RJ2, "isEmpty", "()Z"⟩
def dkwJ2_isEmpty_0 : List UInt8 := [42, 180, 0, 48, 154, 0, 7, 4, 167, 0, 4, 3, 172]
abbrev dktJ2_isEmpty_0 : List UInt8 := dkwJ2_isEmpty_0 ++ []
theorem dksJ2_isEmpty_0 : cJ2_isEmpty.data.toList.drop 0 = dktJ2_isEmpty_0 := by decide +kernel
theorem dJ2_isEmpty_0 : decode cJ2_isEmpty 0 = .ok (.aload_n 0, 1) := dk_42 (dk_at dksJ2_isEmpty_0 0 rfl rfl)
theorem dJ2_isEmpty_1 : decode cJ2_isEmpty 1 = .ok (.getfield 48, 3) := dk_180 0 48 (dk_at dksJ2_isEmpty_0 1 rfl rfl)
theorem dJ2_isEmpty_4 : decode cJ2_isEmpty 4 = .ok (.ifCond .ne 7, 3) := dk_154 0 7 (dk_at dksJ2_isEmpty_0 4 rfl rfl)
theorem dJ2_isEmpty_7 : decode cJ2_isEmpty 7 = .ok (.iconst 1, 1) := dk_4 (dk_at dksJ2_isEmpty_0 7 rfl rfl)
theorem dJ2_isEmpty_8 : decode cJ2_isEmpty 8 = .ok (.goto 4, 3) := dk_167 0 4 (dk_at dksJ2_isEmpty_0 8 rfl rfl)
theorem dJ2_isEmpty_11 : decode cJ2_isEmpty 11 = .ok (.iconst 0, 1) := dk_3 (dk_at dksJ2_isEmpty_0 11 rfl rfl)
theorem dJ2_isEmpty_12 : decode cJ2_isEmpty 12 = .ok (.ireturn, 1) := dk_172 (dk_at dksJ2_isEmpty_0 12 rfl rfl)
theorem okJ2_isEmpty : wOkV yJ2_isEmpty cJ2_isEmpty 1 (some .boolean) 0 := ⟨q1301, q1302, q144, q1303, by decide, by decide, by decide +kernel⟩
abbrev cJ2_elementData : ByteArray := prog_36_method_18_code
def yJ2_elementData : MethodName := ⟨RJ2, "elementData", "(I)Ljava/lang/Object;"⟩
def dkwJ2_elementData_0 : List UInt8 := [42, 180, 0, 9, 27, 50, 176]
abbrev dktJ2_elementData_0 : List UInt8 := dkwJ2_elementData_0 ++ []
theorem dksJ2_elementData_0 : cJ2_elementData.data.toList.drop 0 = dktJ2_elementData_0 := by decide +kernel
theorem dJ2_elementData_0 : decode cJ2_elementData 0 = .ok (.aload_n 0, 1) := dk_42 (dk_at dksJ2_elementData_0 0 rfl rfl)
theorem dJ2_elementData_1 : decode cJ2_elementData 1 = .ok (.getfield 9, 3) := dk_180 0 9 (dk_at dksJ2_elementData_0 1 rfl rfl)
theorem dJ2_elementData_4 : decode cJ2_elementData 4 = .ok (.iload_n 1, 1) := dk_27 (dk_at dksJ2_elementData_0 4 rfl rfl)
theorem dJ2_elementData_5 : decode cJ2_elementData 5 = .ok (.aaload, 1) := dk_50 (dk_at dksJ2_elementData_0 5 rfl rfl)
theorem dJ2_elementData_6 : decode cJ2_elementData 6 = .ok (.areturn, 1) := dk_176 (dk_at dksJ2_elementData_0 6 rfl rfl)
theorem okJ2_elementData : wOkV yJ2_elementData cJ2_elementData 2 (some (.object "java/lang/Object")) 1 := ⟨q1293, q1294, q144, q1295, by decide, by decide, by decide +kernel⟩
abbrev cJ2_get : ByteArray := prog_36_method_20_code
def yJ2_get : MethodName := ⟨RJ2, "get", "(I)Ljava/lang/Object;"⟩
def dkwJ2_get_0 : List UInt8 := [27, 42, 180, 0, 48, 184, 0, 118, 87, 42, 27, 182, 0, 123, 176]
abbrev dktJ2_get_0 : List UInt8 := dkwJ2_get_0 ++ []
theorem dksJ2_get_0 : cJ2_get.data.toList.drop 0 = dktJ2_get_0 := by decide +kernel
theorem dJ2_get_0 : decode cJ2_get 0 = .ok (.iload_n 1, 1) := dk_27 (dk_at dksJ2_get_0 0 rfl rfl)
theorem dJ2_get_1 : decode cJ2_get 1 = .ok (.aload_n 0, 1) := dk_42 (dk_at dksJ2_get_0 1 rfl rfl)
theorem dJ2_get_2 : decode cJ2_get 2 = .ok (.getfield 48, 3) := dk_180 0 48 (dk_at dksJ2_get_0 2 rfl rfl)
theorem dJ2_get_5 : decode cJ2_get 5 = .ok (.invokestatic 118, 3) := dk_184 0 118 (dk_at dksJ2_get_0 5 rfl rfl)
theorem dJ2_get_8 : decode cJ2_get 8 = .ok (.pop, 1) := dk_87 (dk_at dksJ2_get_0 8 rfl rfl)
theorem dJ2_get_9 : decode cJ2_get 9 = .ok (.aload_n 0, 1) := dk_42 (dk_at dksJ2_get_0 9 rfl rfl)
theorem dJ2_get_10 : decode cJ2_get 10 = .ok (.iload_n 1, 1) := dk_27 (dk_at dksJ2_get_0 10 rfl rfl)
theorem dJ2_get_11 : decode cJ2_get 11 = .ok (.invokevirtual 123, 3) := dk_182 0 123 (dk_at dksJ2_get_0 11 rfl rfl)
theorem dJ2_get_14 : decode cJ2_get 14 = .ok (.areturn, 1) := dk_176 (dk_at dksJ2_get_0 14 rfl rfl)
theorem okJ2_get : wOkV yJ2_get cJ2_get 2 (some (.object "java/lang/Object")) 1 := ⟨q1305, q1306, q144, q1307, by decide, by decide, by decide +kernel⟩
abbrev cJ2_set : ByteArray := prog_36_method_23_code
def yJ2_set : MethodName := ⟨RJ2, "set", "(ILjava/lang/Object;)Ljava/lang/Object;"⟩
def dkwJ2_set_0 : List UInt8 := [27, 42, 180, 0, 48, 184, 0, 118, 87, 42, 27, 182, 0, 123, 78, 42, 180, 0, 9, 27, 44, 83, 45, 176]
abbrev dktJ2_set_0 : List UInt8 := dkwJ2_set_0 ++ []
theorem dksJ2_set_0 : cJ2_set.data.toList.drop 0 = dktJ2_set_0 := by decide +kernel
theorem dJ2_set_0 : decode cJ2_set 0 = .ok (.iload_n 1, 1) := dk_27 (dk_at dksJ2_set_0 0 rfl rfl)
theorem dJ2_set_1 : decode cJ2_set 1 = .ok (.aload_n 0, 1) := dk_42 (dk_at dksJ2_set_0 1 rfl rfl)
theorem dJ2_set_2 : decode cJ2_set 2 = .ok (.getfield 48, 3) := dk_180 0 48 (dk_at dksJ2_set_0 2 rfl rfl)
theorem dJ2_set_5 : decode cJ2_set 5 = .ok (.invokestatic 118, 3) := dk_184 0 118 (dk_at dksJ2_set_0 5 rfl rfl)
theorem dJ2_set_8 : decode cJ2_set 8 = .ok (.pop, 1) := dk_87 (dk_at dksJ2_set_0 8 rfl rfl)
theorem dJ2_set_9 : decode cJ2_set 9 = .ok (.aload_n 0, 1) := dk_42 (dk_at dksJ2_set_0 9 rfl rfl)
theorem dJ2_set_10 : decode cJ2_set 10 = .ok (.iload_n 1, 1) := dk_27 (dk_at dksJ2_set_0 10 rfl rfl)
theorem dJ2_set_11 : decode cJ2_set 11 = .ok (.invokevirtual 123, 3) := dk_182 0 123 (dk_at dksJ2_set_0 11 rfl rfl)
theorem dJ2_set_14 : decode cJ2_set 14 = .ok (.astore_n 3, 1) := dk_78 (dk_at dksJ2_set_0 14 rfl rfl)
theorem dJ2_set_15 : decode cJ2_set 15 = .ok (.aload_n 0, 1) := dk_42 (dk_at dksJ2_set_0 15 rfl rfl)
theorem dJ2_set_16 : decode cJ2_set 16 = .ok (.getfield 9, 3) := dk_180 0 9 (dk_at dksJ2_set_0 16 rfl rfl)
theorem dJ2_set_19 : decode cJ2_set 19 = .ok (.iload_n 1, 1) := dk_27 (dk_at dksJ2_set_0 19 rfl rfl)
theorem dJ2_set_20 : decode cJ2_set 20 = .ok (.aload_n 2, 1) := dk_44 (dk_at dksJ2_set_0 20 rfl rfl)
theorem dJ2_set_21 : decode cJ2_set 21 = .ok (.aastore, 1) := dk_83 (dk_at dksJ2_set_0 21 rfl rfl)
theorem dJ2_set_22 : decode cJ2_set 22 = .ok (.aload_n 3, 1) := dk_45 (dk_at dksJ2_set_0 22 rfl rfl)
theorem dJ2_set_23 : decode cJ2_set 23 = .ok (.areturn, 1) := dk_176 (dk_at dksJ2_set_0 23 rfl rfl)
theorem okJ2_set : wOkV yJ2_set cJ2_set 4 (some (.object "java/lang/Object")) 2 := ⟨q1285, q1286, q144, q1287, by decide, by decide, by decide +kernel⟩
abbrev cJ2_add_2 : ByteArray := prog_36_method_24_code
def yJ2_add_2 : MethodName := ⟨RJ2, "add", "(Ljava/lang/Object;[Ljava/lang/Object;I)V"⟩
def dkwJ2_add_2_0 : List UInt8 := [29, 44, 190, 160, 0, 8, 42, 182, 0, 129, 77, 44, 29, 43, 83, 42, 29, 4, 96, 181, 0, 48, 177]
abbrev dktJ2_add_2_0 : List UInt8 := dkwJ2_add_2_0 ++ []
theorem dksJ2_add_2_0 : cJ2_add_2.data.toList.drop 0 = dktJ2_add_2_0 := by decide +kernel
theorem dJ2_add_2_0 : decode cJ2_add_2 0 = .ok (.iload_n 3, 1) := dk_29 (dk_at dksJ2_add_2_0 0 rfl rfl)
theorem dJ2_add_2_1 : decode cJ2_add_2 1 = .ok (.aload_n 2, 1) := dk_44 (dk_at dksJ2_add_2_0 1 rfl rfl)
theorem dJ2_add_2_2 : decode cJ2_add_2 2 = .ok (.arraylength, 1) := dk_190 (dk_at dksJ2_add_2_0 2 rfl rfl)
theorem dJ2_add_2_3 : decode cJ2_add_2 3 = .ok (.if_icmp .ne 8, 3) := dk_160 0 8 (dk_at dksJ2_add_2_0 3 rfl rfl)
theorem dJ2_add_2_6 : decode cJ2_add_2 6 = .ok (.aload_n 0, 1) := dk_42 (dk_at dksJ2_add_2_0 6 rfl rfl)
theorem dJ2_add_2_7 : decode cJ2_add_2 7 = .ok (.invokevirtual 129, 3) := dk_182 0 129 (dk_at dksJ2_add_2_0 7 rfl rfl)
theorem dJ2_add_2_10 : decode cJ2_add_2 10 = .ok (.astore_n 2, 1) := dk_77 (dk_at dksJ2_add_2_0 10 rfl rfl)
theorem dJ2_add_2_11 : decode cJ2_add_2 11 = .ok (.aload_n 2, 1) := dk_44 (dk_at dksJ2_add_2_0 11 rfl rfl)
theorem dJ2_add_2_12 : decode cJ2_add_2 12 = .ok (.iload_n 3, 1) := dk_29 (dk_at dksJ2_add_2_0 12 rfl rfl)
theorem dJ2_add_2_13 : decode cJ2_add_2 13 = .ok (.aload_n 1, 1) := dk_43 (dk_at dksJ2_add_2_0 13 rfl rfl)
theorem dJ2_add_2_14 : decode cJ2_add_2 14 = .ok (.aastore, 1) := dk_83 (dk_at dksJ2_add_2_0 14 rfl rfl)
theorem dJ2_add_2_15 : decode cJ2_add_2 15 = .ok (.aload_n 0, 1) := dk_42 (dk_at dksJ2_add_2_0 15 rfl rfl)
theorem dJ2_add_2_16 : decode cJ2_add_2 16 = .ok (.iload_n 3, 1) := dk_29 (dk_at dksJ2_add_2_0 16 rfl rfl)
theorem dJ2_add_2_17 : decode cJ2_add_2 17 = .ok (.iconst 1, 1) := dk_4 (dk_at dksJ2_add_2_0 17 rfl rfl)
theorem dJ2_add_2_18 : decode cJ2_add_2 18 = .ok (.iadd, 1) := dk_96 (dk_at dksJ2_add_2_0 18 rfl rfl)
theorem dJ2_add_2_19 : decode cJ2_add_2 19 = .ok (.putfield 48, 3) := dk_181 0 48 (dk_at dksJ2_add_2_0 19 rfl rfl)
theorem dJ2_add_2_22 : decode cJ2_add_2 22 = .ok (.return_, 1) := dk_177 (dk_at dksJ2_add_2_0 22 rfl rfl)
theorem okJ2_add_2 : wOkV yJ2_add_2 cJ2_add_2 4 none 3 := ⟨q1223, qs65, q144, q1224, by decide, by decide, by decide +kernel⟩
abbrev cJ2_add : ByteArray := prog_36_method_25_code
def yJ2_add : MethodName := ⟨RJ2, "add", "(Ljava/lang/Object;)Z"⟩
def dkwJ2_add_1 : List UInt8 := [172]
abbrev dktJ2_add_1 : List UInt8 := dkwJ2_add_1 ++ []
def dkwJ2_add_0 : List UInt8 := [42, 89, 180, 0, 63, 4, 96, 181, 0, 63, 42, 43, 42, 180, 0, 9, 42, 180, 0, 48, 182, 0, 131, 4]
abbrev dktJ2_add_0 : List UInt8 := dkwJ2_add_0 ++ dktJ2_add_1
theorem dksJ2_add_0 : cJ2_add.data.toList.drop 0 = dktJ2_add_0 := by decide +kernel
theorem dksJ2_add_1 : cJ2_add.data.toList.drop 24 = dktJ2_add_1 := dk_seg dksJ2_add_0 24 rfl rfl
theorem dJ2_add_0 : decode cJ2_add 0 = .ok (.aload_n 0, 1) := dk_42 (dk_at dksJ2_add_0 0 rfl rfl)
theorem dJ2_add_1 : decode cJ2_add 1 = .ok (.dup, 1) := dk_89 (dk_at dksJ2_add_0 1 rfl rfl)
theorem dJ2_add_2 : decode cJ2_add 2 = .ok (.getfield 63, 3) := dk_180 0 63 (dk_at dksJ2_add_0 2 rfl rfl)
theorem dJ2_add_5 : decode cJ2_add 5 = .ok (.iconst 1, 1) := dk_4 (dk_at dksJ2_add_0 5 rfl rfl)
theorem dJ2_add_6 : decode cJ2_add 6 = .ok (.iadd, 1) := dk_96 (dk_at dksJ2_add_0 6 rfl rfl)
theorem dJ2_add_7 : decode cJ2_add 7 = .ok (.putfield 63, 3) := dk_181 0 63 (dk_at dksJ2_add_0 7 rfl rfl)
theorem dJ2_add_10 : decode cJ2_add 10 = .ok (.aload_n 0, 1) := dk_42 (dk_at dksJ2_add_0 10 rfl rfl)
theorem dJ2_add_11 : decode cJ2_add 11 = .ok (.aload_n 1, 1) := dk_43 (dk_at dksJ2_add_0 11 rfl rfl)
theorem dJ2_add_12 : decode cJ2_add 12 = .ok (.aload_n 0, 1) := dk_42 (dk_at dksJ2_add_0 12 rfl rfl)
theorem dJ2_add_13 : decode cJ2_add 13 = .ok (.getfield 9, 3) := dk_180 0 9 (dk_at dksJ2_add_0 13 rfl rfl)
theorem dJ2_add_16 : decode cJ2_add 16 = .ok (.aload_n 0, 1) := dk_42 (dk_at dksJ2_add_0 16 rfl rfl)
theorem dJ2_add_17 : decode cJ2_add 17 = .ok (.getfield 48, 3) := dk_180 0 48 (dk_at dksJ2_add_0 17 rfl rfl)
theorem dJ2_add_20 : decode cJ2_add 20 = .ok (.invokevirtual 131, 3) := dk_182 0 131 (dk_at dksJ2_add_0 20 rfl rfl)
theorem dJ2_add_23 : decode cJ2_add 23 = .ok (.iconst 1, 1) := dk_4 (dk_at dksJ2_add_0 23 rfl rfl)
theorem dJ2_add_24 : decode cJ2_add 24 = .ok (.ireturn, 1) := dk_172 (dk_at dksJ2_add_1 0 rfl rfl)
theorem okJ2_add : wOkV yJ2_add cJ2_add 2 (some .boolean) 1 := ⟨q1218, q1219, q144, q1220, by decide, by decide, by decide +kernel⟩
abbrev cJ2_grow_2 : ByteArray := prog_36_method_6_code
def yJ2_grow_2 : MethodName := ⟨RJ2, "grow", "(I)[Ljava/lang/Object;"⟩
def dkwJ2_grow_2_2 : List UInt8 := [27, 184, 0, 79, 189, 0, 7, 90, 181, 0, 9, 176]
abbrev dktJ2_grow_2_2 : List UInt8 := dkwJ2_grow_2_2 ++ []
def dkwJ2_grow_2_1 : List UInt8 := [28, 4, 122, 184, 0, 73, 62, 42, 42, 180, 0, 9, 29, 184, 0, 66, 90, 181, 0, 9, 176, 42, 16, 10]
abbrev dktJ2_grow_2_1 : List UInt8 := dkwJ2_grow_2_1 ++ dktJ2_grow_2_2
def dkwJ2_grow_2_0 : List UInt8 := [42, 180, 0, 9, 190, 61, 28, 157, 0, 13, 42, 180, 0, 9, 178, 0, 39, 165, 0, 28, 28, 27, 28, 100]
abbrev dktJ2_grow_2_0 : List UInt8 := dkwJ2_grow_2_0 ++ dktJ2_grow_2_1
theorem dksJ2_grow_2_0 : cJ2_grow_2.data.toList.drop 0 = dktJ2_grow_2_0 := by decide +kernel
theorem dksJ2_grow_2_1 : cJ2_grow_2.data.toList.drop 24 = dktJ2_grow_2_1 := dk_seg dksJ2_grow_2_0 24 rfl rfl
theorem dksJ2_grow_2_2 : cJ2_grow_2.data.toList.drop 48 = dktJ2_grow_2_2 := dk_seg dksJ2_grow_2_1 24 rfl rfl
theorem dJ2_grow_2_0 : decode cJ2_grow_2 0 = .ok (.aload_n 0, 1) := dk_42 (dk_at dksJ2_grow_2_0 0 rfl rfl)
theorem dJ2_grow_2_1 : decode cJ2_grow_2 1 = .ok (.getfield 9, 3) := dk_180 0 9 (dk_at dksJ2_grow_2_0 1 rfl rfl)
theorem dJ2_grow_2_4 : decode cJ2_grow_2 4 = .ok (.arraylength, 1) := dk_190 (dk_at dksJ2_grow_2_0 4 rfl rfl)
theorem dJ2_grow_2_5 : decode cJ2_grow_2 5 = .ok (.istore_n 2, 1) := dk_61 (dk_at dksJ2_grow_2_0 5 rfl rfl)
theorem dJ2_grow_2_6 : decode cJ2_grow_2 6 = .ok (.iload_n 2, 1) := dk_28 (dk_at dksJ2_grow_2_0 6 rfl rfl)
theorem dJ2_grow_2_7 : decode cJ2_grow_2 7 = .ok (.ifCond .gt 13, 3) := dk_157 0 13 (dk_at dksJ2_grow_2_0 7 rfl rfl)
theorem dJ2_grow_2_10 : decode cJ2_grow_2 10 = .ok (.aload_n 0, 1) := dk_42 (dk_at dksJ2_grow_2_0 10 rfl rfl)
theorem dJ2_grow_2_11 : decode cJ2_grow_2 11 = .ok (.getfield 9, 3) := dk_180 0 9 (dk_at dksJ2_grow_2_0 11 rfl rfl)
theorem dJ2_grow_2_14 : decode cJ2_grow_2 14 = .ok (.getstatic 39, 3) := dk_178 0 39 (dk_at dksJ2_grow_2_0 14 rfl rfl)
theorem dJ2_grow_2_17 : decode cJ2_grow_2 17 = .ok (.if_acmp .eq 28, 3) := dk_165 0 28 (dk_at dksJ2_grow_2_0 17 rfl rfl)
theorem dJ2_grow_2_20 : decode cJ2_grow_2 20 = .ok (.iload_n 2, 1) := dk_28 (dk_at dksJ2_grow_2_0 20 rfl rfl)
theorem dJ2_grow_2_21 : decode cJ2_grow_2 21 = .ok (.iload_n 1, 1) := dk_27 (dk_at dksJ2_grow_2_0 21 rfl rfl)
theorem dJ2_grow_2_22 : decode cJ2_grow_2 22 = .ok (.iload_n 2, 1) := dk_28 (dk_at dksJ2_grow_2_0 22 rfl rfl)
theorem dJ2_grow_2_23 : decode cJ2_grow_2 23 = .ok (.isub, 1) := dk_100 (dk_at dksJ2_grow_2_0 23 rfl rfl)
theorem dJ2_grow_2_24 : decode cJ2_grow_2 24 = .ok (.iload_n 2, 1) := dk_28 (dk_at dksJ2_grow_2_1 0 rfl rfl)
theorem dJ2_grow_2_25 : decode cJ2_grow_2 25 = .ok (.iconst 1, 1) := dk_4 (dk_at dksJ2_grow_2_1 1 rfl rfl)
theorem dJ2_grow_2_26 : decode cJ2_grow_2 26 = .ok (.ishr, 1) := dk_122 (dk_at dksJ2_grow_2_1 2 rfl rfl)
theorem dJ2_grow_2_27 : decode cJ2_grow_2 27 = .ok (.invokestatic 73, 3) := dk_184 0 73 (dk_at dksJ2_grow_2_1 3 rfl rfl)
theorem dJ2_grow_2_30 : decode cJ2_grow_2 30 = .ok (.istore_n 3, 1) := dk_62 (dk_at dksJ2_grow_2_1 6 rfl rfl)
theorem dJ2_grow_2_31 : decode cJ2_grow_2 31 = .ok (.aload_n 0, 1) := dk_42 (dk_at dksJ2_grow_2_1 7 rfl rfl)
theorem dJ2_grow_2_32 : decode cJ2_grow_2 32 = .ok (.aload_n 0, 1) := dk_42 (dk_at dksJ2_grow_2_1 8 rfl rfl)
theorem dJ2_grow_2_33 : decode cJ2_grow_2 33 = .ok (.getfield 9, 3) := dk_180 0 9 (dk_at dksJ2_grow_2_1 9 rfl rfl)
theorem dJ2_grow_2_36 : decode cJ2_grow_2 36 = .ok (.iload_n 3, 1) := dk_29 (dk_at dksJ2_grow_2_1 12 rfl rfl)
theorem dJ2_grow_2_37 : decode cJ2_grow_2 37 = .ok (.invokestatic 66, 3) := dk_184 0 66 (dk_at dksJ2_grow_2_1 13 rfl rfl)
theorem dJ2_grow_2_40 : decode cJ2_grow_2 40 = .ok (.dup_x1, 1) := dk_90 (dk_at dksJ2_grow_2_1 16 rfl rfl)
theorem dJ2_grow_2_41 : decode cJ2_grow_2 41 = .ok (.putfield 9, 3) := dk_181 0 9 (dk_at dksJ2_grow_2_1 17 rfl rfl)
theorem dJ2_grow_2_44 : decode cJ2_grow_2 44 = .ok (.areturn, 1) := dk_176 (dk_at dksJ2_grow_2_1 20 rfl rfl)
theorem dJ2_grow_2_45 : decode cJ2_grow_2 45 = .ok (.aload_n 0, 1) := dk_42 (dk_at dksJ2_grow_2_1 21 rfl rfl)
theorem dJ2_grow_2_46 : decode cJ2_grow_2 46 = .ok (.bipush 10, 2) := dk_16 10 (dk_at dksJ2_grow_2_1 22 rfl rfl)
theorem dJ2_grow_2_48 : decode cJ2_grow_2 48 = .ok (.iload_n 1, 1) := dk_27 (dk_at dksJ2_grow_2_2 0 rfl rfl)
theorem dJ2_grow_2_49 : decode cJ2_grow_2 49 = .ok (.invokestatic 79, 3) := dk_184 0 79 (dk_at dksJ2_grow_2_2 1 rfl rfl)
theorem dJ2_grow_2_52 : decode cJ2_grow_2 52 = .ok (.anewarray 7, 3) := dk_189 0 7 (dk_at dksJ2_grow_2_2 4 rfl rfl)
theorem dJ2_grow_2_55 : decode cJ2_grow_2 55 = .ok (.dup_x1, 1) := dk_90 (dk_at dksJ2_grow_2_2 7 rfl rfl)
theorem dJ2_grow_2_56 : decode cJ2_grow_2 56 = .ok (.putfield 9, 3) := dk_181 0 9 (dk_at dksJ2_grow_2_2 8 rfl rfl)
theorem dJ2_grow_2_59 : decode cJ2_grow_2 59 = .ok (.areturn, 1) := dk_176 (dk_at dksJ2_grow_2_2 11 rfl rfl)
theorem okJ2_grow_2 : wOkV yJ2_grow_2 cJ2_grow_2 4 (some (.array (.object "java/lang/Object"))) 1 := ⟨q1231, qs67, q144, q1232, by decide, by decide, by decide +kernel⟩
abbrev cJ2_grow : ByteArray := prog_36_method_7_code
def yJ2_grow : MethodName := ⟨RJ2, "grow", "()[Ljava/lang/Object;"⟩
def dkwJ2_grow_0 : List UInt8 := [42, 42, 180, 0, 48, 4, 96, 182, 0, 69, 176]
abbrev dktJ2_grow_0 : List UInt8 := dkwJ2_grow_0 ++ []
theorem dksJ2_grow_0 : cJ2_grow.data.toList.drop 0 = dktJ2_grow_0 := by decide +kernel
theorem dJ2_grow_0 : decode cJ2_grow 0 = .ok (.aload_n 0, 1) := dk_42 (dk_at dksJ2_grow_0 0 rfl rfl)
theorem dJ2_grow_1 : decode cJ2_grow 1 = .ok (.aload_n 0, 1) := dk_42 (dk_at dksJ2_grow_0 1 rfl rfl)
theorem dJ2_grow_2 : decode cJ2_grow 2 = .ok (.getfield 48, 3) := dk_180 0 48 (dk_at dksJ2_grow_0 2 rfl rfl)
theorem dJ2_grow_5 : decode cJ2_grow 5 = .ok (.iconst 1, 1) := dk_4 (dk_at dksJ2_grow_0 5 rfl rfl)
theorem dJ2_grow_6 : decode cJ2_grow 6 = .ok (.iadd, 1) := dk_96 (dk_at dksJ2_grow_0 6 rfl rfl)
theorem dJ2_grow_7 : decode cJ2_grow 7 = .ok (.invokevirtual 69, 3) := dk_182 0 69 (dk_at dksJ2_grow_0 7 rfl rfl)
theorem dJ2_grow_10 : decode cJ2_grow 10 = .ok (.areturn, 1) := dk_176 (dk_at dksJ2_grow_0 10 rfl rfl)
theorem okJ2_grow : wOkV yJ2_grow cJ2_grow 1 (some (.array (.object "java/lang/Object"))) 0 := ⟨q1227, qs66, q144, q1228, by decide, by decide, by decide +kernel⟩
abbrev wLo (c1 : Nat) : wCell := .inl (9, [(0, 0), (2, c1), (0, 0)])
/-- the list while its array is the static empty one, at the old address aE -/
abbrev wLoA (aE : Nat) : wCell := .inl (9, [(0, 0), (aE + 4, 0), (0, 0)])
def wRi (t i : Nat) : Option Nat := if wRd t i = 0 then none else some (wRd t i - 1)
theorem wRa_map {q : Nat → Nat} {t i : Nat} : wRa q t i = (wRi t i).map q := by
  unfold wRa wRi
  split <;> rfl
theorem wSame {sp : List wCell} {c : Nat} {d : wCell} (h : sp[c]? = some d) : sp = sp.set c d := by
  apply List.ext_getElem?
  intro i
  rw [List.getElem?_set]
  have hl := (List.getElem?_eq_some_iff.mp h).1
  by_cases hi : c = i
  · subst hi
    rw [if_pos rfl, if_pos hl, h]
  · rw [if_neg hi]
theorem tJ2_size (l : Launch) {D : va_G} {q : Nat → Nat} {ca : wCA} {sp : List wCell} {b : Nat} {f1 : Nat × Nat} (hb : sp[b]? = some (.inl (9, [(0, 0), f1, (0, 0)]))) (μ : wMem) : wMi l yJ2_size cJ2_size 1 (some .int) ({ frames := 0, cells := 0, slots := 0, locals := 0 } : Room) D vwCl sp q ca [.ref (q b)] μ (μ.1 b 2, μ) := by
  refine wMi_intro (by decide) (Nat.le_of_ble_eq_true rfl) ?_
  intro p e s m args below meth c A C
  refine wr_sub [(0, .ref (q b))] [0] rfl ?_
  refine wr_aload_n 0 C dJ2_size_0 0 rfl rfl ?_
  refine wr_getI 1 2 C dJ2_size_1 hb rfl in_J2 (by decide) rfl q317 ?_
  exact wr_iret 4 C dJ2_size_4 ⟨Nat.le_refl _, Nat.le_refl _⟩ rfl
theorem tJ2_isEmpty (l : Launch) {D : va_G} {q : Nat → Nat} {ca : wCA} {sp : List wCell} {b : Nat} {f1 : Nat × Nat} (hb : sp[b]? = some (.inl (9, [(0, 0), f1, (0, 0)]))) (μ : wMem) : wMi l yJ2_isEmpty cJ2_isEmpty 1 (some .boolean) ({ frames := 0, cells := 0, slots := 0, locals := 0 } : Room) D vwCl sp q ca [.ref (q b)] μ (if μ.1 b 2 = 0 then 1 else 0, μ) := by
  refine wMi_intro (by decide) (Nat.le_of_ble_eq_true rfl) ?_
  intro p e s m args below meth c A C
  refine wr_sub [(0, .ref (q b))] [0] rfl ?_
  refine wr_aload_n 0 C dJ2_isEmpty_0 0 rfl rfl ?_
  refine wr_getI 1 2 C dJ2_isEmpty_1 hb rfl in_J2 (by decide) rfl q317 ?_
  refine wr_if_ne 4 11 C dJ2_isEmpty_4 (by decide) (fun h => ?_) (fun h => ?_)
  · refine wr_iconst 11 C dJ2_isEmpty_11 (v := 0) rfl ?_
    exact wr_zret 12 C dJ2_isEmpty_12 rfl ⟨Nat.le_refl _, Nat.le_refl _⟩ (by rw [if_neg h])
  · refine wr_iconst 7 C dJ2_isEmpty_7 (v := 1) rfl ?_
    refine wr_goto 8 C dJ2_isEmpty_8 (tgt := 12) (by decide) ?_
    exact wr_zret 12 C dJ2_isEmpty_12 rfl ⟨Nat.le_refl _, Nat.le_refl _⟩ (by rw [if_pos h])
theorem tJ6_checkIndex (l : Launch) {D : va_G} {q : Nat → Nat} {ca : wCA} {sp : List wCell} {i k : Int32} (hi : ¬ i < 0) (hk : i < k) (μ : wMem) : wMi l yJ6_checkIndex cJ6_checkIndex 3 (some .int) ({ frames := 0, cells := 0, slots := 0, locals := 0 } : Room) D vwCl sp q ca [.int i, .int k, .null] μ (i, μ) := by
  refine wMi_intro (by decide) (Nat.le_of_ble_eq_true rfl) ?_
  intro p e s m args below meth c A C
  refine wr_sub [(0, .int i), (1, .int k)] [0, 1] rfl ?_
  refine wr_iload_n 0 C dJ6_checkIndex_0 0 rfl rfl ?_
  refine wr_if_lt 1 9 C dJ6_checkIndex_1 (by decide) (fun h => absurd h hi) (fun _ => ?_)
  refine wr_iload_n 4 C dJ6_checkIndex_4 0 rfl rfl ?_
  refine wr_iload_n 5 C dJ6_checkIndex_5 1 rfl rfl ?_
  refine wr_icmp_lt 6 16 C dJ6_checkIndex_6 (by decide) (fun _ => ?_) (fun h => absurd hk h)
  refine wr_iload_n 16 C dJ6_checkIndex_16 0 rfl rfl ?_
  exact wr_iret 17 C dJ6_checkIndex_17 ⟨Nat.le_refl _, Nat.le_refl _⟩ rfl
theorem tJ15_checkIndex (l : Launch) {D : va_G} {q : Nat → Nat} {ca : wCA} {sp : List wCell} {i k : Int32} (hi : ¬ i < 0) (hk : i < k) (μ : wMem) : wMi l yJ15_checkIndex cJ15_checkIndex 2 (some .int) ({ frames := 1, cells := 0, slots := 0, locals := 22 } : Room) D vwCl sp q ca [.int i, .int k] μ (i, μ) := by
  refine wMi_intro (by decide) (Nat.le_of_ble_eq_true rfl) ?_
  intro p e s m args below meth c A C
  refine wr_sub [(0, .int i), (1, .int k)] [0, 1] rfl ?_
  refine wr_iload_n 0 C dJ15_checkIndex_0 0 rfl rfl ?_
  refine wr_iload_n 1 C dJ15_checkIndex_1 1 rfl rfl ?_
  refine wr_aconst 2 C dJ15_checkIndex_2 ?_
  refine wr_Si (kc1 := 0) (ks1 := 0) (As := [.int i, .int k, .null]) 3 [] C dJ15_checkIndex_3 (tJ6_checkIndex l hi hk μ) okJ6_checkIndex q1291 ⟨rfl, rfl, Nat.le_of_ble_eq_true rfl, Nat.le_of_ble_eq_true rfl, Nat.le_of_ble_eq_true rfl, Nat.le_of_ble_eq_true rfl⟩ (Nat.le_of_ble_eq_true rfl) rfl ?_
  exact wr_iret 6 C dJ15_checkIndex_6 ⟨Nat.le_refl _, Nat.le_refl _⟩ rfl
theorem tJ2_elementData (l : Launch) {D : va_G} {q : Nat → Nat} {ca : wCA} {sp : List wCell} {b c1 : Nat} (hb : sp[b]? = some (wLo c1)) {t n t0 : Nat} (hs : sp[c1]? = some (.inr (t, n))) (h4 : 4 < t) (hty : (wTy ca)[t0]? = some (ca.1 t, .object "java/lang/Object")) {i : Int32} (hin : ok_in i n = true) (μ : wMem) : wMKq wZt l yJ2_elementData cJ2_elementData 2 (some (.object "java/lang/Object")) ({ frames := 0, cells := 0, slots := 0, locals := 0 } : Room) D vwCl sp sp q ca [.ref (q b), .int i] μ μ (wRi t i.toNatClampNeg) := by
  refine wMKq_intro (by decide) (Nat.le_of_ble_eq_true rfl) ?_
  intro p e s m args below meth c A C hZ
  refine wr_sub [(0, .ref (q b)), (1, .int i)] [0, 1] rfl ?_
  refine wr_aload_n 0 C dJ2_elementData_0 0 rfl rfl ?_
  refine wr_getR 1 1 C dJ2_elementData_1 hb rfl in_J2 (by decide) rfl q316 ?_
  refine wr_iload_n 4 C dJ2_elementData_4 1 rfl rfl ?_
  refine wr_aaldq 5 C dJ2_elementData_5 t0 hs h4 hty hin ?_
  exact wr_retqO 6 C dJ2_elementData_6 wRa_map ⟨Nat.le_refl _, Nat.le_refl _⟩ rfl (fun j hj => rfl)
theorem tJ2_get (l : Launch) {D : va_G} {q : Nat → Nat} {ca : wCA} {sp : List wCell} {b c1 : Nat} (hb : sp[b]? = some (wLo c1)) {t n t0 : Nat} (hs : sp[c1]? = some (.inr (t, n))) (h4 : 4 < t) (hty : (wTy ca)[t0]? = some (ca.1 t, .object "java/lang/Object")) {i : Int32} (hin : ok_in i n = true) (μ : wMem) (hi : ¬ i < 0) (hk : i < μ.1 b 2) : wMKq wZt l yJ2_get cJ2_get 2 (some (.object "java/lang/Object")) ({ frames := 2, cells := 0, slots := 0, locals := 43 } : Room) D vwCl sp sp q ca [.ref (q b), .int i] μ μ (wRi t i.toNatClampNeg) := by
  refine wMKq_intro (by decide) (Nat.le_of_ble_eq_true rfl) ?_
  intro p e s m args below meth c A C hZ
  have hbl : b < sp.length := (List.getElem?_eq_some_iff.mp hb).1
  refine wr_sub [(0, .ref (q b)), (1, .int i)] [0, 1] rfl ?_
  refine wr_iload_n 0 C dJ2_get_0 1 rfl rfl ?_
  refine wr_aload_n 1 C dJ2_get_1 0 rfl rfl ?_
  refine wr_getI 2 2 C dJ2_get_2 hb rfl in_J2 (by decide) rfl q317 ?_
  refine wr_Si (kc1 := 0) (ks1 := 0) (As := [.int i, .int (μ.1 b 2)]) 5 [] C dJ2_get_5 (tJ15_checkIndex l hi hk μ) okJ15_checkIndex q1288 ⟨rfl, rfl, Nat.le_of_ble_eq_true rfl, Nat.le_of_ble_eq_true rfl, Nat.le_of_ble_eq_true rfl, Nat.le_of_ble_eq_true rfl⟩ (Nat.le_of_ble_eq_true rfl) rfl ?_
  refine wr_pop 8 C dJ2_get_8 rfl ?_
  refine wr_aload_n 9 C dJ2_get_9 0 rfl rfl ?_
  refine wr_iload_n 10 C dJ2_get_10 1 rfl rfl ?_
  refine wr_VKq (kc1 := 0) (ks1 := 0) (As := [.int i]) (b := b) 11 [] C dJ2_get_11 (tJ2_elementData l hb hs h4 hty hin μ) okJ2_elementData q1292 hb rfl wZt_ok True.intro ⟨rfl, rfl, Nat.le_of_ble_eq_true rfl, Nat.le_of_ble_eq_true rfl, Nat.le_of_ble_eq_true rfl, Nat.le_of_ble_eq_true rfl⟩ (Nat.le_of_ble_eq_true rfl) rfl ?_
  intro q1 hq1 C1
  exact wr_retqO 14 C1 dJ2_get_14 rfl ⟨Nat.le_refl _, Nat.le_refl _⟩ rfl hq1
theorem tJ2_set (l : Launch) {D : va_G} {q : Nat → Nat} {ca : wCA} {sp : List wCell} {b c1 : Nat} (hb : sp[b]? = some (wLo c1)) {t n t0 : Nat} (hs : sp[c1]? = some (.inr (t, n))) (h4 : 4 < t) (hty : (wTy ca)[t0]? = some (ca.1 t, .object "java/lang/Object")) {i : Int32} (hin : ok_in i n = true) {x t' : Nat} {fs : List (Nat × Nat)} (hx : sp[x]? = some (.inl (1, fs))) (h4' : 4 < t') (hdg : ∀ j, wRd t' j = if j = i.toNatClampNeg then x + 1 else wRd t j) (hct : ca.1 t' = ca.1 t) (μ : wMem) (hi : ¬ i < 0) (hk : i < μ.1 b 2) : wMKq wZt l yJ2_set cJ2_set 4 (some (.object "java/lang/Object")) ({ frames := 2, cells := 0, slots := 0, locals := 43 } : Room) D vwCl sp (sp.set c1 (.inr (t', n))) q ca [.ref (q b), .int i, .ref (q x)] μ μ (wRi t i.toNatClampNeg) := by
  refine wMKq_intro (by decide) (Nat.le_of_ble_eq_true rfl) ?_
  intro p e s m args below meth c A C hZ
  have hbl : b < sp.length := (List.getElem?_eq_some_iff.mp hb).1
  have hxl : x < sp.length := (List.getElem?_eq_some_iff.mp hx).1
  have hcl1 : c1 < sp.length := (List.getElem?_eq_some_iff.mp hs).1
  refine wr_sub [(0, .ref (q b)), (1, .int i), (2, .ref (q x))] [0, 1, 2] rfl ?_
  refine wr_iload_n 0 C dJ2_set_0 1 rfl rfl ?_
  refine wr_aload_n 1 C dJ2_set_1 0 rfl rfl ?_
  refine wr_getI 2 2 C dJ2_set_2 hb rfl in_J2 (by decide) rfl q317 ?_
  refine wr_Si (kc1 := 0) (ks1 := 0) (As := [.int i, .int (μ.1 b 2)]) 5 [] C dJ2_set_5 (tJ15_checkIndex l hi hk μ) okJ15_checkIndex q1288 ⟨rfl, rfl, Nat.le_of_ble_eq_true rfl, Nat.le_of_ble_eq_true rfl, Nat.le_of_ble_eq_true rfl, Nat.le_of_ble_eq_true rfl⟩ (Nat.le_of_ble_eq_true rfl) rfl ?_
  refine wr_pop 8 C dJ2_set_8 rfl ?_
  refine wr_aload_n 9 C dJ2_set_9 0 rfl rfl ?_
  refine wr_iload_n 10 C dJ2_set_10 1 rfl rfl ?_
  refine wr_VKq (kc1 := 0) (ks1 := 0) (As := [.int i]) (b := b) 11 [] C dJ2_set_11 (tJ2_elementData l hb hs h4 hty hin μ) okJ2_elementData q1292 hb rfl wZt_ok True.intro ⟨rfl, rfl, Nat.le_of_ble_eq_true rfl, Nat.le_of_ble_eq_true rfl, Nat.le_of_ble_eq_true rfl, Nat.le_of_ble_eq_true rfl⟩ (Nat.le_of_ble_eq_true rfl) rfl ?_
  intro q1 hq1 C1
  rw [← hq1 b hbl, ← hq1 x hxl]
  refine wr_astore_nq 14 [(3, va_rf ((wRi t i.toNatClampNeg).map q1)), (0, .ref (q1 b)), (1, .int i), (2, .ref (q1 x))] C1 dJ2_set_14 rfl (by decide) rfl ?_
  refine wr_aload_n 15 C1 dJ2_set_15 1 rfl rfl ?_
  refine wr_getR 16 1 C1 dJ2_set_16 hb rfl in_J2 (by decide) rfl q316 ?_
  refine wr_iload_n 19 C1 dJ2_set_19 2 rfl rfl ?_
  refine wr_aload_n 20 C1 dJ2_set_20 3 rfl rfl ?_
  refine wr_aast 21 t0 (sp.set c1 (.inr (t', n))) C1 dJ2_set_21 hs ⟨h4, h4'⟩ hty hx rfl (C1.2.2.2.2.2.2.2.2.2.2.2.1.1 _ q2108 rfl) hin hdg hct rfl ?_
  intro C2
  refine wr_aload_nq 22 C2 dJ2_set_22 0 rfl rfl ?_
  exact wr_retqO 23 C2 dJ2_set_23 rfl ⟨Nat.le_refl _, Nat.le_refl _⟩ rfl hq1
theorem tJ2_add_2 (l : Launch) {D : va_G} {q : Nat → Nat} {ca : wCA} {sp : List wCell} {b c1 : Nat} (hb : sp[b]? = some (wLo c1)) {t n t0 : Nat} (hs : sp[c1]? = some (.inr (t, n))) (h4 : 4 < t) (hty : (wTy ca)[t0]? = some (ca.1 t, .object "java/lang/Object")) {i : Int32} (hin : ok_in i n = true) (hz : wRd t i.toNatClampNeg = 0) (hne : ¬ i = Int32.ofNat n) (μ : wMem) : wMv l yJ2_add_2 cJ2_add_2 4 none ({ frames := 0, cells := 0, slots := 0, locals := 0 } : Room) D vwCl sp q ca [.ref (q b), .null, .ref (q c1), .int i] μ (wSI μ b 2 (i + 1)) := by
  refine wMv_intro (by decide) (Nat.le_of_ble_eq_true rfl) ?_
  intro p e s m args below meth c A C
  refine wr_sub [(0, .ref (q b)), (1, .null), (2, .ref (q c1)), (3, .int i)] [0, 1, 2, 3] rfl ?_
  refine wr_iload_n 0 C dJ2_add_2_0 3 rfl rfl ?_
  refine wr_aload_n 1 C dJ2_add_2_1 2 rfl rfl ?_
  refine wr_len 2 C dJ2_add_2_2 t0 hs hty ?_
  refine wr_icmp_ne 3 11 C dJ2_add_2_3 (by decide) (fun _ => ?_) (fun h => absurd h hne)
  refine wr_aload_n 11 C dJ2_add_2_11 2 rfl rfl ?_
  refine wr_iload_n 12 C dJ2_add_2_12 3 rfl rfl ?_
  refine wr_aload_nq (r := none) 13 C dJ2_add_2_13 1 rfl rfl ?_
  refine wr_aastN 14 t0 sp C dJ2_add_2_14 hs ⟨h4, h4⟩ hty hin (fun j => by by_cases hj : j = i.toNatClampNeg <;> simp [hj, hz]) rfl (wSame hs) ?_
  intro C2
  refine wr_aload_n 15 C2 dJ2_add_2_15 0 rfl rfl ?_
  refine wr_iload_n 16 C2 dJ2_add_2_16 3 rfl rfl ?_
  refine wr_iconst 17 C2 dJ2_add_2_17 (v := 1) rfl ?_
  refine wr_iadd 18 C2 dJ2_add_2_18 ?_
  refine wr_putI 19 2 C2 dJ2_add_2_19 hb rfl in_J2 tyJ2 tyJ2_ok nmJ2 (by decide) rfl q317 rfl rfl rfl ?_
  exact wr_vret 22 C2 dJ2_add_2_22 ⟨Nat.le_refl _, Nat.le_refl _⟩ rfl
/-- the memory behind modCount++; behind add(null) -/
def wAdm (μ : wMem) (b : Nat) : wMem := wSI μ b 0 (μ.1 b 0 + 1)
def wAdd1 (μ : wMem) (b : Nat) : wMem := wSI (wAdm μ b) b 2 (μ.1 b 2 + 1)
theorem wAd0 {μ : wMem} {b : Nat} {v : Int32} : (wSI μ b 0 v).1 b 2 = μ.1 b 2 := by simp [wSI, va_up, upd]
theorem tJ2_add (l : Launch) {D : va_G} {q : Nat → Nat} {ca : wCA} {sp : List wCell} {b c1 : Nat} (hb : sp[b]? = some (wLo c1)) {t n t0 : Nat} (hs : sp[c1]? = some (.inr (t, n))) (h4 : 4 < t) (hty : (wTy ca)[t0]? = some (ca.1 t, .object "java/lang/Object")) (μ : wMem) (hin : ok_in (μ.1 b 2) n = true) (hz : wRd t (μ.1 b 2).toNatClampNeg = 0) (hne : ¬ μ.1 b 2 = Int32.ofNat n) : wMi l yJ2_add cJ2_add 2 (some .boolean) ({ frames := 1, cells := 0, slots := 0, locals := 23 } : Room) D vwCl sp q ca [.ref (q b), .null] μ (1, wAdd1 μ b) := by
  refine wMi_intro (by decide) (Nat.le_of_ble_eq_true rfl) ?_
  intro p e s m args below meth c A C
  refine wr_sub [(0, .ref (q b)), (1, .null)] [0, 1] rfl ?_
  refine wr_aload_n 0 C dJ2_add_0 0 rfl rfl ?_
  refine wr_dup 1 C dJ2_add_1 rfl ?_
  refine wr_getIS 2 0 C dJ2_add_2 hb rfl in_J2 (by decide) rfl q319 q320 ?_
  refine wr_iconst 5 C dJ2_add_5 (v := 1) rfl ?_
  refine wr_iadd 6 C dJ2_add_6 ?_
  refine wr_putIS 7 0 C dJ2_add_7 hb rfl in_J2 tyJ2 tyJ2_ok nmJ2 (by decide) rfl q319 q320 rfl rfl rfl ?_
  refine wr_aload_n 10 C dJ2_add_10 0 rfl rfl ?_
  refine wr_aload_nq (r := none) 11 C dJ2_add_11 1 rfl rfl ?_
  refine wr_aload_n 12 C dJ2_add_12 0 rfl rfl ?_
  refine wr_getR 13 1 C dJ2_add_13 hb rfl in_J2 (by decide) rfl q316 ?_
  refine wr_aload_n 16 C dJ2_add_16 0 rfl rfl ?_
  refine wr_getI 17 2 C dJ2_add_17 hb rfl in_J2 (by decide) rfl q317 ?_
  rw [wAd0]
  refine wr_Vv (kc1 := 0) (ks1 := 0) (As := [.null, .ref (q c1), .int (μ.1 b 2)]) (b := b) 20 [] C dJ2_add_20 (tJ2_add_2 l hb hs h4 hty hin hz hne (wAdm μ b)) okJ2_add_2 q1221 hb rfl ⟨rfl, rfl, Nat.le_of_ble_eq_true rfl, Nat.le_of_ble_eq_true rfl, Nat.le_of_ble_eq_true rfl, Nat.le_of_ble_eq_true rfl⟩ (Nat.le_of_ble_eq_true rfl) rfl ?_
  refine wr_iconst 23 C dJ2_add_23 (v := 1) rfl ?_
  exact wr_zret 24 C dJ2_add_24 rfl ⟨Nat.le_refl _, Nat.le_refl _⟩ rfl
abbrev wGr (sp : List wCell) (b : Nat) : List wCell := (sp ++ [Sum.inr (5, 10)]).set b (wLo sp.length)
theorem tJ2_grow_2 (l : Launch) {D : va_G} {q : Nat → Nat} {ca : wCA} {sp : List wCell} {b aE : Nat} (hb : sp[b]? = some (wLoA aE)) {t0 : Nat} (hty : (wTy ca)[t0]? = some (ca.1 5, .object "java/lang/Object")) (hno : wNoRef sp sp.length = true) (μ : wMem) : wMKq (wZl aE) l yJ2_grow_2 cJ2_grow_2 4 (some (.array (.object "java/lang/Object"))) ({ frames := 1, cells := 1, slots := 10, locals := 21 } : Room) D vwCl sp (wGr sp b) q ca [.ref (q b), .int 1] μ (wZ μ sp.length) (some sp.length) := by
  refine wMKq_intro (by decide) (Nat.le_of_ble_eq_true rfl) ?_
  intro p e s m args below meth c A C hZ
  have hbl : b < sp.length := (List.getElem?_eq_some_iff.mp hb).1
  have hbn : b ≠ sp.length := Nat.ne_of_lt hbl
  refine wr_sub [(0, .ref (q b)), (1, .int 1)] [0, 1] rfl ?_
  refine wr_aload_n 0 C dJ2_grow_2_0 0 rfl rfl ?_
  refine wr_getA 1 1 C dJ2_grow_2_1 hb rfl in_J2 (by decide) rfl q316 ?_
  refine wr_lenO 4 C dJ2_grow_2_4 hZ.2 ?_
  refine wr_istore_n 5 [(2, .int 0), (0, .ref (q b)), (1, .int 1)] C dJ2_grow_2_5 (x := 0) rfl rfl (by decide) rfl ?_
  refine wr_iload_n 6 C dJ2_grow_2_6 0 rfl rfl ?_
  refine wr_if_gt 7 20 C dJ2_grow_2_7 (by decide) (fun h => absurd h (by decide)) (fun _ => ?_)
  refine wr_aload_n 10 C dJ2_grow_2_10 1 rfl rfl ?_
  refine wr_getA 11 1 C dJ2_grow_2_11 hb rfl in_J2 (by decide) rfl q316 ?_
  refine wr_getsA 14 C dJ2_grow_2_14 hZ.1 q314 ?_
  refine wr_acmpT 17 45 C dJ2_grow_2_17 (by decide) ?_
  refine wr_aload_n 45 C dJ2_grow_2_45 1 rfl rfl ?_
  refine wr_bipush 46 C dJ2_grow_2_46 (v := 10) rfl ?_
  refine wr_iload_n 48 C dJ2_grow_2_48 2 rfl rfl ?_
  refine wr_mmax 49 C dJ2_grow_2_49 q1275 q1237 q149 q1238 ⟨Nat.le_of_ble_eq_true rfl, Nat.le_of_ble_eq_true rfl, Nat.le_of_ble_eq_true rfl, Nat.le_of_ble_eq_true rfl⟩ (Nat.le_of_ble_eq_true rfl) ?_
  refine wr_newq (N := 10) (kc1 := 1) (ks1 := 10) (t0 := t0) 5 (by decide) (fun j => by simp [wRd]) 52 C dJ2_grow_2_52 q1276 (by decide) hty (by decide) (by decide) (by decide) rfl rfl ⟨Nat.le_of_ble_eq_true rfl, Nat.le_of_ble_eq_true rfl⟩ sp.length rfl hno rfl (sp ++ [.inr (5, 10)]) rfl ?_
  intro q1 hq1 C1
  rw [← hq1 b hbn]
  refine wr_dupx1 55 C1 dJ2_grow_2_55 rfl rfl ?_
  refine wr_putR (c0 := b) (x := sp.length) 56 1 (wGr sp b) C1 dJ2_grow_2_56 (by rw [List.getElem?_append_left hbl]; exact hb) rfl in_J2 tyJ2 tyJ2_ok nmJ2 (by decide) (by show 1 < 3; decide) q316 rfl (fun _ => rfl) (fun _ => rfl) rfl ?_
  intro C2
  exact wr_retqA (r := some (q1 sp.length)) 59 C2 dJ2_grow_2_59 rfl ⟨Nat.le_of_ble_eq_true rfl, Nat.le_of_ble_eq_true rfl⟩ rfl (fun j hj => hq1 j (Nat.ne_of_lt hj))
theorem tJ2_grow (l : Launch) {D : va_G} {q : Nat → Nat} {ca : wCA} {sp : List wCell} {b aE : Nat} (hb : sp[b]? = some (wLoA aE)) {t0 : Nat} (hty : (wTy ca)[t0]? = some (ca.1 5, .object "java/lang/Object")) (hno : wNoRef sp sp.length = true) (μ : wMem) (h0 : μ.1 b 2 = 0) : wMKq (wZl aE) l yJ2_grow cJ2_grow 1 (some (.array (.object "java/lang/Object"))) ({ frames := 2, cells := 1, slots := 10, locals := 44 } : Room) D vwCl sp (wGr sp b) q ca [.ref (q b)] μ (wZ μ sp.length) (some sp.length) := by
  refine wMKq_intro (by decide) (Nat.le_of_ble_eq_true rfl) ?_
  intro p e s m args below meth c A C hZ
  have hbl : b < sp.length := (List.getElem?_eq_some_iff.mp hb).1
  refine wr_sub [(0, .ref (q b))] [0] rfl ?_
  refine wr_aload_n 0 C dJ2_grow_0 0 rfl rfl ?_
  refine wr_aload_n 1 C dJ2_grow_1 0 rfl rfl ?_
  refine wr_getI 2 2 C dJ2_grow_2 hb rfl in_J2 (by decide) rfl q317 ?_
  refine wr_iconst 5 C dJ2_grow_5 (v := 1) rfl ?_
  refine wr_iadd 6 C dJ2_grow_6 ?_
  have e1 : μ.1 b 2 + 1 = 1 := by rw [h0]; rfl
  rw [e1]
  refine wr_VKq (kc1 := 1) (ks1 := 10) (As := [.int 1]) (b := b) 7 [] C dJ2_grow_7 (tJ2_grow_2 l hb hty hno μ) okJ2_grow_2 q1229 hb rfl wZl_ok hZ ⟨rfl, rfl, Nat.le_of_ble_eq_true rfl, Nat.le_of_ble_eq_true rfl, Nat.le_of_ble_eq_true rfl, Nat.le_of_ble_eq_true rfl⟩ (Nat.le_of_ble_eq_true rfl) rfl ?_
  intro q1 hq1 C1
  exact wr_retqA (r := (some sp.length).map q1) 10 C1 dJ2_grow_10 rfl ⟨Nat.le_of_ble_eq_true rfl, Nat.le_of_ble_eq_true rfl⟩ rfl hq1
theorem wGr_new {sp : List wCell} {b : Nat} (hb : b < sp.length) : (wGr sp b)[sp.length]? = some (.inr (5, 10)) := by
  rw [List.getElem?_set_ne (Nat.ne_of_lt hb), List.getElem?_concat_length]
theorem wGr_at {sp : List wCell} {b : Nat} (hb : b < sp.length) : (wGr sp b)[b]? = some (wLo sp.length) := by
  rw [List.getElem?_set_self (by simp; omega)]
theorem tJ2_add_2g (l : Launch) {D : va_G} {q : Nat → Nat} {ca : wCA} {sp : List wCell} {b aE : Nat} (hb : sp[b]? = some (wLoA aE)) {t0 : Nat} (hty : (wTy ca)[t0]? = some (ca.1 5, .object "java/lang/Object")) (hno : wNoRef sp sp.length = true) (μ : wMem) (h0 : μ.1 b 2 = 0) : wMKv (wZl aE) l yJ2_add_2 cJ2_add_2 4 none ({ frames := 3, cells := 1, slots := 10, locals := 64 } : Room) D vwCl sp (wGr sp b) q ca [.ref (q b), .null, .ref aE, .int 0] μ (wSI (wZ μ sp.length) b 2 1) := by
  refine wMKv_intro (by decide) (Nat.le_of_ble_eq_true rfl) ?_
  intro p e s m args below meth c A C hZ
  have hbl : b < sp.length := (List.getElem?_eq_some_iff.mp hb).1
  refine wr_sub [(0, .ref (q b)), (1, .null), (2, .ref aE), (3, .int 0)] [0, 1, 2, 3] rfl ?_
  refine wr_iload_n 0 C dJ2_add_2_0 3 rfl rfl ?_
  refine wr_aload_n 1 C dJ2_add_2_1 2 rfl rfl ?_
  refine wr_lenO 2 C dJ2_add_2_2 hZ.2 ?_
  refine wr_icmp_ne 3 11 C dJ2_add_2_3 (by decide) (fun h => absurd rfl h) (fun _ => ?_)
  refine wr_aload_n 6 C dJ2_add_2_6 0 rfl rfl ?_
  refine wr_VKq (kc1 := 1) (ks1 := 10) (As := []) (b := b) 7 [] C dJ2_add_2_7 (tJ2_grow l hb hty hno μ h0) okJ2_grow q1225 hb rfl wZl_ok hZ ⟨rfl, rfl, Nat.le_of_ble_eq_true rfl, Nat.le_of_ble_eq_true rfl, Nat.le_of_ble_eq_true rfl, Nat.le_of_ble_eq_true rfl⟩ (Nat.le_of_ble_eq_true rfl) rfl ?_
  intro q1 hq1 C1
  rw [← hq1 b hbl]
  refine wr_astore_nq (r := (some sp.length).map q1) 10 [(2, .ref (q1 sp.length)), (0, .ref (q1 b)), (1, .null), (3, .int 0)] C1 dJ2_add_2_10 rfl (by decide) rfl ?_
  refine wr_aload_n 11 C1 dJ2_add_2_11 0 rfl rfl ?_
  refine wr_iload_n 12 C1 dJ2_add_2_12 3 rfl rfl ?_
  refine wr_aload_nq (r := none) 13 C1 dJ2_add_2_13 2 rfl rfl ?_
  refine wr_aastN 14 t0 (wGr sp b) C1 dJ2_add_2_14 (wGr_new hbl) ⟨by decide, by decide⟩ hty (by decide) (fun j => by by_cases hj : j = (0 : Int32).toNatClampNeg <;> simp [hj, wRd]) rfl (wSame (wGr_new hbl)) ?_
  intro C2
  refine wr_aload_n 15 C2 dJ2_add_2_15 1 rfl rfl ?_
  refine wr_iload_n 16 C2 dJ2_add_2_16 3 rfl rfl ?_
  refine wr_iconst 17 C2 dJ2_add_2_17 (v := 1) rfl ?_
  refine wr_iadd 18 C2 dJ2_add_2_18 ?_
  refine wr_putI (v := 1) 19 2 C2 dJ2_add_2_19 (wGr_at hbl) rfl in_J2 tyJ2 tyJ2_ok nmJ2 (by decide) rfl q317 rfl rfl rfl ?_
  exact wr_retv 22 C2 dJ2_add_2_22 ⟨Nat.le_of_ble_eq_true rfl, Nat.le_of_ble_eq_true rfl⟩ rfl hq1
theorem tJ2_addg (l : Launch) {D : va_G} {q : Nat → Nat} {ca : wCA} {sp : List wCell} {b aE : Nat} (hb : sp[b]? = some (wLoA aE)) {t0 : Nat} (hty : (wTy ca)[t0]? = some (ca.1 5, .object "java/lang/Object")) (hno : wNoRef sp sp.length = true) (μ : wMem) (h0 : μ.1 b 2 = 0) : wMKi (wZl aE) l yJ2_add cJ2_add 2 (some .boolean) ({ frames := 4, cells := 1, slots := 10, locals := 87 } : Room) D vwCl sp (wGr sp b) q ca [.ref (q b), .null] μ (wSI (wZ (wAdm μ b) sp.length) b 2 1) 1 := by
  refine wMKi_intro (by decide) (Nat.le_of_ble_eq_true rfl) ?_
  intro p e s m args below meth c A C hZ
  have hbl : b < sp.length := (List.getElem?_eq_some_iff.mp hb).1
  refine wr_sub [(0, .ref (q b)), (1, .null)] [0, 1] rfl ?_
  refine wr_aload_n 0 C dJ2_add_0 0 rfl rfl ?_
  refine wr_dup 1 C dJ2_add_1 rfl ?_
  refine wr_getIS 2 0 C dJ2_add_2 hb rfl in_J2 (by decide) rfl q319 q320 ?_
  refine wr_iconst 5 C dJ2_add_5 (v := 1) rfl ?_
  refine wr_iadd 6 C dJ2_add_6 ?_
  refine wr_putIS 7 0 C dJ2_add_7 hb rfl in_J2 tyJ2 tyJ2_ok nmJ2 (by decide) rfl q319 q320 rfl rfl rfl ?_
  refine wr_aload_n 10 C dJ2_add_10 0 rfl rfl ?_
  refine wr_aload_nq (r := none) 11 C dJ2_add_11 1 rfl rfl ?_
  refine wr_aload_n 12 C dJ2_add_12 0 rfl rfl ?_
  refine wr_getA 13 1 C dJ2_add_13 hb rfl in_J2 (by decide) rfl q316 ?_
  refine wr_aload_n 16 C dJ2_add_16 0 rfl rfl ?_
  refine wr_getI 17 2 C dJ2_add_17 hb rfl in_J2 (by decide) rfl q317 ?_
  rw [wAd0]
  rw [h0]
  refine wr_VKv (kc1 := 1) (ks1 := 10) (As := [.null, .ref aE, .int 0]) (b := b) 20 [] C dJ2_add_20 (tJ2_add_2g l hb hty hno (wAdm μ b) (wAd0.trans h0)) okJ2_add_2 q1221 hb rfl wZl_ok hZ ⟨rfl, rfl, Nat.le_of_ble_eq_true rfl, Nat.le_of_ble_eq_true rfl, Nat.le_of_ble_eq_true rfl, Nat.le_of_ble_eq_true rfl⟩ (Nat.le_of_ble_eq_true rfl) rfl ?_
  intro q1 hq1 C1
  refine wr_iconst 23 C1 dJ2_add_23 (v := 1) rfl ?_
  exact wr_retz 24 C1 dJ2_add_24 rfl ⟨Nat.le_of_ble_eq_true rfl, Nat.le_of_ble_eq_true rfl⟩ rfl hq1
