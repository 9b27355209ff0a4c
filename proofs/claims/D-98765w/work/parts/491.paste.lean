set_option maxRecDepth 100000
abbrev cX0_paste : ByteArray := prog_1_method_123_code
def yX0_paste : MethodName := ⟨RX0, "paste", "(IIIII)I"⟩
def dkwX0_paste_2 : List UInt8 := [16, 250, 172, 58, 6, 16, 248, 172, 58, 6, 16, 249, 172]
abbrev dktX0_paste_2 : List UInt8 := dkwX0_paste_2 ++ []
def dkwX0_paste_1 : List UInt8 := [180, 1, 205, 28, 42, 180, 0, 85, 29, 50, 180, 1, 205, 21, 4, 21, 5, 184, 1, 241, 3, 172, 58, 6]
abbrev dktX0_paste_1 : List UInt8 := dkwX0_paste_1 ++ dktX0_paste_2
def dkwX0_paste_0 : List UInt8 := [27, 184, 1, 123, 153, 0, 10, 29, 184, 1, 123, 154, 0, 6, 16, 254, 172, 42, 180, 0, 85, 27, 50]
abbrev dktX0_paste_0 : List UInt8 := dkwX0_paste_0 ++ dktX0_paste_1
theorem dksX0_paste_0 : cX0_paste.data.toList.drop 0 = dktX0_paste_0 := by decide +kernel
theorem dksX0_paste_1 : cX0_paste.data.toList.drop 23 = dktX0_paste_1 := dk_seg dksX0_paste_0 23 rfl rfl
theorem dksX0_paste_2 : cX0_paste.data.toList.drop 47 = dktX0_paste_2 := dk_seg dksX0_paste_1 24 rfl rfl
theorem dX0_paste_0 : decode cX0_paste 0 = .ok (.iload_n 1, 1) := dk_27 (dk_at dksX0_paste_0 0 rfl rfl)
theorem dX0_paste_1 : decode cX0_paste 1 = .ok (.invokestatic 379, 3) := dk_184 1 123 (dk_at dksX0_paste_0 1 rfl rfl)
theorem dX0_paste_4 : decode cX0_paste 4 = .ok (.ifCond .eq 10, 3) := dk_153 0 10 (dk_at dksX0_paste_0 4 rfl rfl)
theorem dX0_paste_7 : decode cX0_paste 7 = .ok (.iload_n 3, 1) := dk_29 (dk_at dksX0_paste_0 7 rfl rfl)
theorem dX0_paste_8 : decode cX0_paste 8 = .ok (.invokestatic 379, 3) := dk_184 1 123 (dk_at dksX0_paste_0 8 rfl rfl)
theorem dX0_paste_11 : decode cX0_paste 11 = .ok (.ifCond .ne 6, 3) := dk_154 0 6 (dk_at dksX0_paste_0 11 rfl rfl)
theorem dX0_paste_14 : decode cX0_paste 14 = .ok (.bipush (-2), 2) := dk_16 254 (dk_at dksX0_paste_0 14 rfl rfl)
theorem dX0_paste_16 : decode cX0_paste 16 = .ok (.ireturn, 1) := dk_172 (dk_at dksX0_paste_0 16 rfl rfl)
theorem dX0_paste_17 : decode cX0_paste 17 = .ok (.aload_n 0, 1) := dk_42 (dk_at dksX0_paste_0 17 rfl rfl)
theorem dX0_paste_18 : decode cX0_paste 18 = .ok (.getfield 85, 3) := dk_180 0 85 (dk_at dksX0_paste_0 18 rfl rfl)
theorem dX0_paste_21 : decode cX0_paste 21 = .ok (.iload_n 1, 1) := dk_27 (dk_at dksX0_paste_0 21 rfl rfl)
theorem dX0_paste_22 : decode cX0_paste 22 = .ok (.aaload, 1) := dk_50 (dk_at dksX0_paste_0 22 rfl rfl)
theorem dX0_paste_23 : decode cX0_paste 23 = .ok (.getfield 461, 3) := dk_180 1 205 (dk_at dksX0_paste_1 0 rfl rfl)
theorem dX0_paste_26 : decode cX0_paste 26 = .ok (.iload_n 2, 1) := dk_28 (dk_at dksX0_paste_1 3 rfl rfl)
theorem dX0_paste_27 : decode cX0_paste 27 = .ok (.aload_n 0, 1) := dk_42 (dk_at dksX0_paste_1 4 rfl rfl)
theorem dX0_paste_28 : decode cX0_paste 28 = .ok (.getfield 85, 3) := dk_180 0 85 (dk_at dksX0_paste_1 5 rfl rfl)
theorem dX0_paste_31 : decode cX0_paste 31 = .ok (.iload_n 3, 1) := dk_29 (dk_at dksX0_paste_1 8 rfl rfl)
theorem dX0_paste_32 : decode cX0_paste 32 = .ok (.aaload, 1) := dk_50 (dk_at dksX0_paste_1 9 rfl rfl)
theorem dX0_paste_33 : decode cX0_paste 33 = .ok (.getfield 461, 3) := dk_180 1 205 (dk_at dksX0_paste_1 10 rfl rfl)
theorem dX0_paste_36 : decode cX0_paste 36 = .ok (.iload 4, 2) := dk_21 4 (dk_at dksX0_paste_1 13 rfl rfl)
theorem dX0_paste_38 : decode cX0_paste 38 = .ok (.iload 5, 2) := dk_21 5 (dk_at dksX0_paste_1 15 rfl rfl)
theorem dX0_paste_40 : decode cX0_paste 40 = .ok (.invokestatic 497, 3) := dk_184 1 241 (dk_at dksX0_paste_1 17 rfl rfl)
theorem dX0_paste_43 : decode cX0_paste 43 = .ok (.iconst 0, 1) := dk_3 (dk_at dksX0_paste_1 20 rfl rfl)
theorem dX0_paste_44 : decode cX0_paste 44 = .ok (.ireturn, 1) := dk_172 (dk_at dksX0_paste_1 21 rfl rfl)
theorem dX0_paste_45 : decode cX0_paste 45 = .ok (.astore 6, 2) := dk_58 6 (dk_at dksX0_paste_1 22 rfl rfl)
theorem dX0_paste_47 : decode cX0_paste 47 = .ok (.bipush (-6), 2) := dk_16 250 (dk_at dksX0_paste_2 0 rfl rfl)
theorem dX0_paste_49 : decode cX0_paste 49 = .ok (.ireturn, 1) := dk_172 (dk_at dksX0_paste_2 2 rfl rfl)
theorem dX0_paste_50 : decode cX0_paste 50 = .ok (.astore 6, 2) := dk_58 6 (dk_at dksX0_paste_2 3 rfl rfl)
theorem dX0_paste_52 : decode cX0_paste 52 = .ok (.bipush (-8), 2) := dk_16 248 (dk_at dksX0_paste_2 5 rfl rfl)
theorem dX0_paste_54 : decode cX0_paste 54 = .ok (.ireturn, 1) := dk_172 (dk_at dksX0_paste_2 7 rfl rfl)
theorem dX0_paste_55 : decode cX0_paste 55 = .ok (.astore 6, 2) := dk_58 6 (dk_at dksX0_paste_2 8 rfl rfl)
theorem dX0_paste_57 : decode cX0_paste 57 = .ok (.bipush (-7), 2) := dk_16 249 (dk_at dksX0_paste_2 10 rfl rfl)
theorem dX0_paste_59 : decode cX0_paste 59 = .ok (.ireturn, 1) := dk_172 (dk_at dksX0_paste_2 12 rfl rfl)
abbrev hhX0_paste : List (Nat × Nat × Nat × Nat) := [(17, 44, 45, 385), (17, 44, 50, 503), (17, 44, 55, 505)]
theorem okX0_paste : wOkVW yX0_paste cX0_paste 7 (some .int) hhX0_paste 5 := ⟨q1372, q1373, q136, q1374, by decide, by decide, by decide +kernel⟩
abbrev ase_X : String := "java/lang/ArrayStoreException"
abbrev ase_N : List String := ["java/lang/RuntimeException", "java/lang/Exception"]
set_option maxHeartbeats 4000000 in
theorem ase_list : vx_atM ase_X ase_N = [Jvm.Cond.initialized "java/lang/Throwable", Jvm.Cond.superclass "java/lang/Throwable" "java/lang/Object", Jvm.Cond.instanceMethod ({ cls := "java/lang/Throwable", name := "fillInStackTrace", desc := "()Ljava/lang/Throwable;" } : Jvm.MethodName), Jvm.Cond.codeSync ({ cls := "java/lang/Throwable", name := "fillInStackTrace", desc := "()Ljava/lang/Throwable;" } : Jvm.MethodName) prog_31_method_18_code (1 : Nat) (Option.some (Jvm.ClassFile.FieldType.object "java/lang/Throwable")), Jvm.Cond.instanceMethod ({ cls := "java/lang/Throwable", name := "fillInStackTrace", desc := "(I)Ljava/lang/Throwable;" } : Jvm.MethodName), Jvm.Cond.native ({ cls := "java/lang/Throwable", name := "fillInStackTrace", desc := "(I)Ljava/lang/Throwable;" } : Jvm.MethodName), Jvm.Cond.instanceMethod ({ cls := "java/lang/Throwable", name := "<init>", desc := "()V" } : Jvm.MethodName), Jvm.Cond.code ({ cls := "java/lang/Throwable", name := "<init>", desc := "()V" } : Jvm.MethodName) prog_31_method_1_code (1 : Nat) (Option.none : Option Jvm.ClassFile.FieldType), Jvm.Cond.instanceMethod ({ cls := "java/lang/Object", name := "<init>", desc := "()V" } : Jvm.MethodName), Jvm.Cond.code ({ cls := "java/lang/Object", name := "<init>", desc := "()V" } : Jvm.MethodName) object_method_1_code (1 : Nat) (Option.none : Option Jvm.ClassFile.FieldType), Jvm.Cond.methodLink "java/lang/Throwable" (1 : Nat) ({ cls := "java/lang/Object", name := "<init>", desc := "()V" } : Jvm.MethodName), Jvm.Cond.methodLink "java/lang/Throwable" (27 : Nat) ({ cls := "java/lang/Throwable", name := "fillInStackTrace", desc := "()Ljava/lang/Throwable;" } : Jvm.MethodName), Jvm.Cond.methodLink "java/lang/Throwable" (202 : Nat) ({ cls := "java/lang/Throwable", name := "fillInStackTrace", desc := "(I)Ljava/lang/Throwable;" } : Jvm.MethodName), Jvm.Cond.fieldLink "java/lang/Throwable" (7 : Nat) "java/lang/Throwable" "cause" "Ljava/lang/Throwable;", Jvm.Cond.lays "java/lang/Throwable" "java/lang/Throwable" "cause" "Ljava/lang/Throwable;", Jvm.Cond.fieldLink "java/lang/Throwable" (17 : Nat) "java/lang/Throwable" "stackTrace" "[Ljava/lang/StackTraceElement;", Jvm.Cond.lays "java/lang/Throwable" "java/lang/Throwable" "stackTrace" "[Ljava/lang/StackTraceElement;", Jvm.Cond.fieldLink "java/lang/Throwable" (24 : Nat) "java/lang/Throwable" "suppressedExceptions" "Ljava/util/List;", Jvm.Cond.lays "java/lang/Throwable" "java/lang/Throwable" "suppressedExceptions" "Ljava/util/List;", Jvm.Cond.fieldLink "java/lang/Throwable" (13 : Nat) "java/lang/Throwable" "UNASSIGNED_STACK" "[Ljava/lang/StackTraceElement;", Jvm.Cond.fieldLink "java/lang/Throwable" (20 : Nat) "java/lang/Throwable" "SUPPRESSED_SENTINEL" "Ljava/util/List;", Jvm.Cond.lays "java/lang/Throwable" "java/lang/Throwable" "detailMessage" "Ljava/lang/String;", Jvm.Cond.instanceMethod ({ cls := "java/lang/Throwable", name := "<init>", desc := "(Ljava/lang/String;)V" } : Jvm.MethodName), Jvm.Cond.code ({ cls := "java/lang/Throwable", name := "<init>", desc := "(Ljava/lang/String;)V" } : Jvm.MethodName) prog_31_method_2_code (2 : Nat) (Option.none : Option Jvm.ClassFile.FieldType), Jvm.Cond.fieldLink "java/lang/Throwable" (31 : Nat) "java/lang/Throwable" "detailMessage" "Ljava/lang/String;", Jvm.Cond.lays "java/lang/Throwable" "java/lang/Throwable" "detailMessage" "Ljava/lang/String;", Jvm.Cond.instanceMethod ({ cls := "java/lang/ArrayStoreException", name := "<init>", desc := "(Ljava/lang/String;)V" } : Jvm.MethodName), Jvm.Cond.code ({ cls := "java/lang/ArrayStoreException", name := "<init>", desc := "(Ljava/lang/String;)V" } : Jvm.MethodName) prog_14_method_2_code (2 : Nat) (Option.none : Option Jvm.ClassFile.FieldType), Jvm.Cond.methodLink "java/lang/ArrayStoreException" (7 : Nat) ({ cls := "java/lang/RuntimeException", name := "<init>", desc := "(Ljava/lang/String;)V" } : Jvm.MethodName), Jvm.Cond.instanceMethod ({ cls := "java/lang/RuntimeException", name := "<init>", desc := "(Ljava/lang/String;)V" } : Jvm.MethodName), Jvm.Cond.declares ({ cls := "java/lang/RuntimeException", name := "<init>", desc := "(Ljava/lang/String;)V" } : Jvm.MethodName), Jvm.Cond.instanceMethod ({ cls := "java/lang/RuntimeException", name := "<init>", desc := "(Ljava/lang/String;)V" } : Jvm.MethodName), Jvm.Cond.code ({ cls := "java/lang/RuntimeException", name := "<init>", desc := "(Ljava/lang/String;)V" } : Jvm.MethodName) prog_26_method_2_code (2 : Nat) (Option.none : Option Jvm.ClassFile.FieldType), Jvm.Cond.methodLink "java/lang/RuntimeException" (7 : Nat) ({ cls := "java/lang/Exception", name := "<init>", desc := "(Ljava/lang/String;)V" } : Jvm.MethodName), Jvm.Cond.instanceMethod ({ cls := "java/lang/Exception", name := "<init>", desc := "(Ljava/lang/String;)V" } : Jvm.MethodName), Jvm.Cond.declares ({ cls := "java/lang/Exception", name := "<init>", desc := "(Ljava/lang/String;)V" } : Jvm.MethodName), Jvm.Cond.instanceMethod ({ cls := "java/lang/Exception", name := "<init>", desc := "(Ljava/lang/String;)V" } : Jvm.MethodName), Jvm.Cond.code ({ cls := "java/lang/Exception", name := "<init>", desc := "(Ljava/lang/String;)V" } : Jvm.MethodName) prog_19_method_2_code (2 : Nat) (Option.none : Option Jvm.ClassFile.FieldType), Jvm.Cond.methodLink "java/lang/Exception" (7 : Nat) ({ cls := "java/lang/Throwable", name := "<init>", desc := "(Ljava/lang/String;)V" } : Jvm.MethodName), Jvm.Cond.instanceMethod ({ cls := "java/lang/Throwable", name := "<init>", desc := "(Ljava/lang/String;)V" } : Jvm.MethodName), Jvm.Cond.declares ({ cls := "java/lang/Throwable", name := "<init>", desc := "(Ljava/lang/String;)V" } : Jvm.MethodName), Jvm.Cond.initialized "java/lang/String", Jvm.Cond.instantiable "java/lang/String" (4 : Nat), Jvm.Cond.arrayClass Jvm.ClassFile.FieldType.byte, Jvm.Cond.laysFinal "java/lang/String" "java/lang/String" "value" "[B", Jvm.Cond.laysFinal "java/lang/String" "java/lang/String" "coder" "B", Jvm.Cond.soleField "java/lang/String" "value", Jvm.Cond.soleField "java/lang/String" "coder", Jvm.Cond.initialized "java/lang/ArrayStoreException", Jvm.Cond.instantiable "java/lang/ArrayStoreException" (6 : Nat), Jvm.Cond.castable "java/lang/ArrayStoreException" "java/lang/ArrayStoreException", Jvm.Cond.selects "java/lang/ArrayStoreException" ({ cls := "java/lang/Throwable", name := "fillInStackTrace", desc := "(I)Ljava/lang/Throwable;" } : Jvm.MethodName) ({ cls := "java/lang/Throwable", name := "fillInStackTrace", desc := "(I)Ljava/lang/Throwable;" } : Jvm.MethodName), Jvm.Cond.selects "java/lang/ArrayStoreException" ({ cls := "java/lang/Throwable", name := "fillInStackTrace", desc := "()Ljava/lang/Throwable;" } : Jvm.MethodName) ({ cls := "java/lang/Throwable", name := "fillInStackTrace", desc := "()Ljava/lang/Throwable;" } : Jvm.MethodName), Jvm.Cond.lays "java/lang/ArrayStoreException" "java/lang/Throwable" "cause" "Ljava/lang/Throwable;", Jvm.Cond.lays "java/lang/ArrayStoreException" "java/lang/Throwable" "stackTrace" "[Ljava/lang/StackTraceElement;", Jvm.Cond.lays "java/lang/ArrayStoreException" "java/lang/Throwable" "suppressedExceptions" "Ljava/util/List;", Jvm.Cond.lays "java/lang/ArrayStoreException" "java/lang/Throwable" "detailMessage" "Ljava/lang/String;", Jvm.Cond.fieldLink "java/lang/Throwable" (198 : Nat) "java/lang/Throwable" "backtrace" "Ljava/lang/Object;", Jvm.Cond.lays "java/lang/Throwable" "java/lang/Throwable" "backtrace" "Ljava/lang/Object;", Jvm.Cond.lays "java/lang/ArrayStoreException" "java/lang/Throwable" "backtrace" "Ljava/lang/Object;"] := by decide +kernel
theorem ase_in0 : ∀ w ∈ ([Jvm.Cond.initialized "java/lang/Throwable", Jvm.Cond.superclass "java/lang/Throwable" "java/lang/Object", Jvm.Cond.instanceMethod ({ cls := "java/lang/Throwable", name := "fillInStackTrace", desc := "()Ljava/lang/Throwable;" } : Jvm.MethodName), Jvm.Cond.codeSync ({ cls := "java/lang/Throwable", name := "fillInStackTrace", desc := "()Ljava/lang/Throwable;" } : Jvm.MethodName) prog_31_method_18_code (1 : Nat) (Option.some (Jvm.ClassFile.FieldType.object "java/lang/Throwable")), Jvm.Cond.instanceMethod ({ cls := "java/lang/Throwable", name := "fillInStackTrace", desc := "(I)Ljava/lang/Throwable;" } : Jvm.MethodName), Jvm.Cond.native ({ cls := "java/lang/Throwable", name := "fillInStackTrace", desc := "(I)Ljava/lang/Throwable;" } : Jvm.MethodName), Jvm.Cond.instanceMethod ({ cls := "java/lang/Throwable", name := "<init>", desc := "()V" } : Jvm.MethodName), Jvm.Cond.code ({ cls := "java/lang/Throwable", name := "<init>", desc := "()V" } : Jvm.MethodName) prog_31_method_1_code (1 : Nat) (Option.none : Option Jvm.ClassFile.FieldType), Jvm.Cond.instanceMethod ({ cls := "java/lang/Object", name := "<init>", desc := "()V" } : Jvm.MethodName), Jvm.Cond.code ({ cls := "java/lang/Object", name := "<init>", desc := "()V" } : Jvm.MethodName) object_method_1_code (1 : Nat) (Option.none : Option Jvm.ClassFile.FieldType), Jvm.Cond.methodLink "java/lang/Throwable" (1 : Nat) ({ cls := "java/lang/Object", name := "<init>", desc := "()V" } : Jvm.MethodName), Jvm.Cond.methodLink "java/lang/Throwable" (27 : Nat) ({ cls := "java/lang/Throwable", name := "fillInStackTrace", desc := "()Ljava/lang/Throwable;" } : Jvm.MethodName), Jvm.Cond.methodLink "java/lang/Throwable" (202 : Nat) ({ cls := "java/lang/Throwable", name := "fillInStackTrace", desc := "(I)Ljava/lang/Throwable;" } : Jvm.MethodName), Jvm.Cond.fieldLink "java/lang/Throwable" (7 : Nat) "java/lang/Throwable" "cause" "Ljava/lang/Throwable;", Jvm.Cond.lays "java/lang/Throwable" "java/lang/Throwable" "cause" "Ljava/lang/Throwable;", Jvm.Cond.fieldLink "java/lang/Throwable" (17 : Nat) "java/lang/Throwable" "stackTrace" "[Ljava/lang/StackTraceElement;", Jvm.Cond.lays "java/lang/Throwable" "java/lang/Throwable" "stackTrace" "[Ljava/lang/StackTraceElement;", Jvm.Cond.fieldLink "java/lang/Throwable" (24 : Nat) "java/lang/Throwable" "suppressedExceptions" "Ljava/util/List;", Jvm.Cond.lays "java/lang/Throwable" "java/lang/Throwable" "suppressedExceptions" "Ljava/util/List;", Jvm.Cond.fieldLink "java/lang/Throwable" (13 : Nat) "java/lang/Throwable" "UNASSIGNED_STACK" "[Ljava/lang/StackTraceElement;", Jvm.Cond.fieldLink "java/lang/Throwable" (20 : Nat) "java/lang/Throwable" "SUPPRESSED_SENTINEL" "Ljava/util/List;", Jvm.Cond.lays "java/lang/Throwable" "java/lang/Throwable" "detailMessage" "Ljava/lang/String;", Jvm.Cond.instanceMethod ({ cls := "java/lang/Throwable", name := "<init>", desc := "(Ljava/lang/String;)V" } : Jvm.MethodName), Jvm.Cond.code ({ cls := "java/lang/Throwable", name := "<init>", desc := "(Ljava/lang/String;)V" } : Jvm.MethodName) prog_31_method_2_code (2 : Nat) (Option.none : Option Jvm.ClassFile.FieldType), Jvm.Cond.fieldLink "java/lang/Throwable" (31 : Nat) "java/lang/Throwable" "detailMessage" "Ljava/lang/String;", Jvm.Cond.lays "java/lang/Throwable" "java/lang/Throwable" "detailMessage" "Ljava/lang/String;", Jvm.Cond.instanceMethod ({ cls := "java/lang/ArrayStoreException", name := "<init>", desc := "(Ljava/lang/String;)V" } : Jvm.MethodName), Jvm.Cond.code ({ cls := "java/lang/ArrayStoreException", name := "<init>", desc := "(Ljava/lang/String;)V" } : Jvm.MethodName) prog_14_method_2_code (2 : Nat) (Option.none : Option Jvm.ClassFile.FieldType), Jvm.Cond.methodLink "java/lang/ArrayStoreException" (7 : Nat) ({ cls := "java/lang/RuntimeException", name := "<init>", desc := "(Ljava/lang/String;)V" } : Jvm.MethodName), Jvm.Cond.instanceMethod ({ cls := "java/lang/RuntimeException", name := "<init>", desc := "(Ljava/lang/String;)V" } : Jvm.MethodName), Jvm.Cond.declares ({ cls := "java/lang/RuntimeException", name := "<init>", desc := "(Ljava/lang/String;)V" } : Jvm.MethodName), Jvm.Cond.instanceMethod ({ cls := "java/lang/RuntimeException", name := "<init>", desc := "(Ljava/lang/String;)V" } : Jvm.MethodName), Jvm.Cond.code ({ cls := "java/lang/RuntimeException", name := "<init>", desc := "(Ljava/lang/String;)V" } : Jvm.MethodName) prog_26_method_2_code (2 : Nat) (Option.none : Option Jvm.ClassFile.FieldType), Jvm.Cond.methodLink "java/lang/RuntimeException" (7 : Nat) ({ cls := "java/lang/Exception", name := "<init>", desc := "(Ljava/lang/String;)V" } : Jvm.MethodName), Jvm.Cond.instanceMethod ({ cls := "java/lang/Exception", name := "<init>", desc := "(Ljava/lang/String;)V" } : Jvm.MethodName), Jvm.Cond.declares ({ cls := "java/lang/Exception", name := "<init>", desc := "(Ljava/lang/String;)V" } : Jvm.MethodName), Jvm.Cond.instanceMethod ({ cls := "java/lang/Exception", name := "<init>", desc := "(Ljava/lang/String;)V" } : Jvm.MethodName), Jvm.Cond.code ({ cls := "java/lang/Exception", name := "<init>", desc := "(Ljava/lang/String;)V" } : Jvm.MethodName) prog_19_method_2_code (2 : Nat) (Option.none : Option Jvm.ClassFile.FieldType), Jvm.Cond.methodLink "java/lang/Exception" (7 : Nat) ({ cls := "java/lang/Throwable", name := "<init>", desc := "(Ljava/lang/String;)V" } : Jvm.MethodName), Jvm.Cond.instanceMethod ({ cls := "java/lang/Throwable", name := "<init>", desc := "(Ljava/lang/String;)V" } : Jvm.MethodName), Jvm.Cond.declares ({ cls := "java/lang/Throwable", name := "<init>", desc := "(Ljava/lang/String;)V" } : Jvm.MethodName), Jvm.Cond.initialized "java/lang/String", Jvm.Cond.instantiable "java/lang/String" (4 : Nat), Jvm.Cond.arrayClass Jvm.ClassFile.FieldType.byte, Jvm.Cond.laysFinal "java/lang/String" "java/lang/String" "value" "[B", Jvm.Cond.laysFinal "java/lang/String" "java/lang/String" "coder" "B", Jvm.Cond.soleField "java/lang/String" "value", Jvm.Cond.soleField "java/lang/String" "coder", Jvm.Cond.initialized "java/lang/ArrayStoreException", Jvm.Cond.instantiable "java/lang/ArrayStoreException" (6 : Nat), Jvm.Cond.castable "java/lang/ArrayStoreException" "java/lang/ArrayStoreException", Jvm.Cond.selects "java/lang/ArrayStoreException" ({ cls := "java/lang/Throwable", name := "fillInStackTrace", desc := "(I)Ljava/lang/Throwable;" } : Jvm.MethodName) ({ cls := "java/lang/Throwable", name := "fillInStackTrace", desc := "(I)Ljava/lang/Throwable;" } : Jvm.MethodName), Jvm.Cond.selects "java/lang/ArrayStoreException" ({ cls := "java/lang/Throwable", name := "fillInStackTrace", desc := "()Ljava/lang/Throwable;" } : Jvm.MethodName) ({ cls := "java/lang/Throwable", name := "fillInStackTrace", desc := "()Ljava/lang/Throwable;" } : Jvm.MethodName), Jvm.Cond.lays "java/lang/ArrayStoreException" "java/lang/Throwable" "cause" "Ljava/lang/Throwable;", Jvm.Cond.lays "java/lang/ArrayStoreException" "java/lang/Throwable" "stackTrace" "[Ljava/lang/StackTraceElement;", Jvm.Cond.lays "java/lang/ArrayStoreException" "java/lang/Throwable" "suppressedExceptions" "Ljava/util/List;", Jvm.Cond.lays "java/lang/ArrayStoreException" "java/lang/Throwable" "detailMessage" "Ljava/lang/String;", Jvm.Cond.fieldLink "java/lang/Throwable" (198 : Nat) "java/lang/Throwable" "backtrace" "Ljava/lang/Object;", Jvm.Cond.lays "java/lang/Throwable" "java/lang/Throwable" "backtrace" "Ljava/lang/Object;", Jvm.Cond.lays "java/lang/ArrayStoreException" "java/lang/Throwable" "backtrace" "Ljava/lang/Object;"] : List Cond), wIn w :=
  wcons (Or.inl q154) (wcons (Or.inl q600) (wcons (Or.inl q609) (wcons (Or.inl q628) (wcons (Or.inl q631) (wcons (Or.inl q633) (wcons (Or.inl q601) (wcons (Or.inl q602) (wcons (Or.inl q174) (wcons (Or.inl q175) (wcons (Or.inl q603) (wcons (Or.inl q608) (wcons (Or.inl q629) (wcons (Or.inl q649) (wcons (Or.inl q590) (wcons (Or.inl q650) (wcons (Or.inl q592) (wcons (Or.inl q651) (wcons (Or.inl q594) (wcons (Or.inl q604) (wcons (Or.inl q606) (wcons (Or.inl q596) (wcons (Or.inl q1323) (wcons (Or.inl q1324) (wcons (Or.inl q648) (wcons (Or.inl q596) (wcons (Or.inl q1377) (wcons (Or.inl q1378) (wcons (Or.inl q1379) (wcons (Or.inl q1317) (wcons (Or.inr ⟨q1055, rfl⟩) (wcons (Or.inl q1317) (wcons (Or.inl q1318) (wcons (Or.inl q1319) (wcons (Or.inl q1320) (wcons (Or.inr ⟨q584, rfl⟩) (wcons (Or.inl q1320) (wcons (Or.inl q1321) (wcons (Or.inl q1322) (wcons (Or.inl q1323) (wcons (Or.inr ⟨q586, rfl⟩) (wcons (Or.inl q150) (wcons (Or.inl q1334) (wcons (Or.inl q263) (wcons (Or.inl q1335) (wcons (Or.inl q1337) (wcons (Or.inl q1336) (wcons (Or.inl q1338) (wcons (Or.inl q167) (wcons (Or.inl q1376) (wcons (Or.inr ⟨q1387, rfl⟩) (wcons (Or.inl q1388) (wcons (Or.inl q612) (wcons (Or.inl q1382) (wcons (Or.inl q1383) (wcons (Or.inl q1385) (wcons (Or.inl q1381) (wcons (Or.inl q599) (wcons (Or.inl q598) (wcons (Or.inl q1380) (fun w h => nomatch h))))))))))))))))))))))))))))))))))))))))))))))))))))))))))))
theorem ase_in : ∀ w ∈ vx_atM ase_X ase_N, wIn w := by rw [ase_list]; exact ase_in0
theorem ase_good : ∀ w ∈ vx_atM ase_X ase_N, vx_ot w = true := by
  have h : (vx_atM ase_X ase_N).all vx_ot = true := by decide +kernel
  exact fun w hw => List.all_eq_true.mp h w hw
theorem ase_fit : Bundle.fit ase_X = true ∧ (∀ n ∈ ase_N, Bundle.fit n = true) ∧ (ase_X == "java/lang/StackOverflowError") = false ∧ (ase_X == "java/lang/OutOfMemoryError") = false := by decide +kernel
/-- the type of the elements of a row of kind t -/
def wRt (t : Nat) : FieldType := if t = 0 then .int else if t = 1 then .long else if t = 2 then .byte else .short
theorem wRt_ty {ca : wCA} {t : Nat} (h : t = 2 ∨ t = 4 ∨ t = 0 ∨ t = 1) : (wTy ca)[t]? = some (ca.1 t, wRt t) := by
  rcases h with rfl | rfl | rfl | rfl <;> rfl
theorem wRt_ne {t u : Nat} (h : t = 2 ∨ t = 4 ∨ t = 0 ∨ t = 1) (g : u = 2 ∨ u = 4 ∨ u = 0 ∨ u = 1) (hne : t ≠ u) : ((refKind (wRt t) != refKind (wRt u)) || (!refKind (wRt t) && wRt t != wRt u)) = true := by
  rcases h with rfl | rfl | rfl | rfl <;> rcases g with rfl | rfl | rfl | rfl <;> first | exact absurd rfl hne | rfl
theorem ase_txt {t u : Nat} (h : t = 2 ∨ t = 4 ∨ t = 0 ∨ t = 1) (g : u = 2 ∨ u = 4 ∨ u = 0 ∨ u = 1) : ((toString "arraycopy: type mismatch: can not copy " ++ toString (Native.java_lang_System.arraycopy.kindName (wRt t)) ++ toString "[] into " ++ toString (Native.java_lang_System.arraycopy.kindName (wRt u)) ++ toString "[]") == notModelled) = false ∧ (stringBytes (stringToUtf16 (toString "arraycopy: type mismatch: can not copy " ++ toString (Native.java_lang_System.arraycopy.kindName (wRt t)) ++ toString "[] into " ++ toString (Native.java_lang_System.arraycopy.kindName (wRt u)) ++ toString "[]"))).size ≤ 80 := by
  rcases h with rfl | rfl | rfl | rfl <;> rcases g with rfl | rfl | rfl | rfl <;> exact ⟨by decide +kernel, by decide +kernel⟩
set_option maxHeartbeats 4000000 in
theorem tX0_paste_n1 (l : Launch) {D : va_G} {E : List wCell} {q : Nat → Nat} {ca : wCA} (hl : l.stackTraces = false) (hE : wSlots ca (spX ++ E)) (N : Nat) {a1 a2 a3 a4 a5 v1 v3 : Int32} (μ μ1 μ2 : wMem) (hi1 : ok_in a1 4 = true) (hi3 : ok_in a3 4 = true) (h1 : fX0_isSlot N a1 μ = some (v1, μ1)) (hv1 : ¬ v1 = 0) (h3 : fX0_isSlot N a3 μ1 = some (v3, μ2)) (hv3 : ¬ v3 = 0) {x1 : Nat} {f3 : Nat × Nat} (hb1 : (spX ++ E)[24 + a1.toNatClampNeg]? = some (.inl (5, [(3, x1)]))) (hf3 : f3.1 = 2 ∨ f3.1 = 3) (hb3 : (spX ++ E)[24 + a3.toNatClampNeg]? = some (.inl (5, [f3]))) : wMiWZ l yX0_paste cX0_paste 7 (some .int) hhX0_paste ({ frames := 9, cells := 1, slots := 8, locals := 10300 } : Room) D vwCl (spX ++ E) q ca [.ref (q 0), .int a1, .int a2, .int a3, .int a4, .int a5] μ (-6, μ2) := by
  obtain ⟨w, x3⟩ := f3
  rcases hf3 with hw | hw <;> (have hw : w = _ := hw; subst hw)
  · refine wMiWZ_intro (by decide) (Nat.le_of_ble_eq_true rfl) ?_
    intro p e s m args below meth c A C hZ hX
    refine wr_sub [(0, .ref (q 0)), (1, .int a1), (2, .int a2), (3, .int a3), (4, .int a4), (5, .int a5)] [0, 1, 2, 3, 4, 5] rfl ?_
    refine wr_iload_n 0 C dX0_paste_0 1 rfl rfl ?_
    refine wr_Si (kc1 := 0) (ks1 := 0) 1 [] C dX0_paste_1 (tX0_isSlot l N a1 μ (v1, μ1) h1) okX0_isSlot q1058 ⟨rfl, rfl, Nat.le_of_ble_eq_true rfl, Nat.le_of_ble_eq_true rfl, Nat.zero_le _, Nat.zero_le _⟩ (Nat.le_of_ble_eq_true rfl) rfl ?_
    refine wr_if_eq 4 14 C dX0_paste_4 (by decide) (fun c4 => absurd c4 hv1) (fun c4 => ?_)
    refine wr_iload_n 7 C dX0_paste_7 3 rfl rfl ?_
    refine wr_Si (kc1 := 0) (ks1 := 0) 8 [] C dX0_paste_8 (tX0_isSlot l N a3 μ1 (v3, μ2) h3) okX0_isSlot q1058 ⟨rfl, rfl, Nat.le_of_ble_eq_true rfl, Nat.le_of_ble_eq_true rfl, Nat.zero_le _, Nat.zero_le _⟩ (Nat.le_of_ble_eq_true rfl) rfl ?_
    refine wr_if_ne 11 17 C dX0_paste_11 (by decide) (fun c4 => ?_) (fun c4 => absurd c4 hv3)
    refine wr_aload_n 17 C dX0_paste_17 0 rfl rfl ?_
    refine geX_slots 18 C dX0_paste_18 ?_
    refine wr_iload_n 21 C dX0_paste_21 1 rfl rfl ?_
    refine wr_aaldD 22 C dX0_paste_22 5 hE.1 wRc_slots hE.2 hi1 (wRd_slots (ok_in4 hi1)) ?_
    refine wr_getNZ 23 0 C dX0_paste_23 hb1 rfl in_X5 (by decide) rfl q296 ?_
    refine wr_iload_n 26 C dX0_paste_26 2 rfl rfl ?_
    refine wr_aload_n 27 C dX0_paste_27 0 rfl rfl ?_
    refine geX_slots 28 C dX0_paste_28 ?_
    refine wr_iload_n 31 C dX0_paste_31 3 rfl rfl ?_
    refine wr_aaldD 32 C dX0_paste_32 5 hE.1 wRc_slots hE.2 hi3 (wRd_slots (ok_in4 hi3)) ?_
    refine wr_getNR 33 0 C dX0_paste_33 hb3 rfl in_X5 (by decide) rfl q296 ?_
    refine wr_iload 36 C dX0_paste_36 4 rfl ?_
    refine wr_iload 38 C dX0_paste_38 5 rfl ?_
    refine wr_copyN1 40 C dX0_paste_40 q1390 q1274 q1273 q162 (Or.inr ⟨_, rfl⟩) ⟨Nat.le_of_ble_eq_true rfl, by decide +kernel⟩ ?_
    intro H0 locs0 ls0 nf hnf e1 e2 e3
    refine wr_npeY 40 C hl hZ ⟨Nat.le_of_ble_eq_true rfl, by decide +kernel, Nat.le_of_ble_eq_true rfl, Nat.le_of_ble_eq_true rfl⟩ ?_ hnf e1 e2 e3
    intro H1 locs1 ls1 q9 ce g1 g2 g3 g4 g5 g6
    refine wr_catch 40 C [] ⟨17, 44, 45, 385⟩ [⟨17, 44, 50, 503⟩, ⟨17, 44, 55, 505⟩] (hX.trans rfl) (fun z hz => nomatch hz) (by decide) (by decide) q1031 q1053 (fun q9 => ?_) g1 g2 g3 g4 g5 g6
    refine wr_astore 45 [(6, .ref q9), (0, .ref (q 0)), (1, .int a1), (2, .int a2), (3, .int a3), (4, .int a4), (5, .int a5)] C dX0_paste_45 (x := q9) rfl (Nat.le_of_ble_eq_true rfl) rfl ?_
    refine wr_bipush 47 C dX0_paste_47 (v := (-6)) rfl ?_
    exact wr_iret 49 C dX0_paste_49 ⟨Nat.le_of_ble_eq_true rfl, Nat.le_of_ble_eq_true rfl⟩ rfl
  · refine wMiWZ_intro (by decide) (Nat.le_of_ble_eq_true rfl) ?_
    intro p e s m args below meth c A C hZ hX
    refine wr_sub [(0, .ref (q 0)), (1, .int a1), (2, .int a2), (3, .int a3), (4, .int a4), (5, .int a5)] [0, 1, 2, 3, 4, 5] rfl ?_
    refine wr_iload_n 0 C dX0_paste_0 1 rfl rfl ?_
    refine wr_Si (kc1 := 0) (ks1 := 0) 1 [] C dX0_paste_1 (tX0_isSlot l N a1 μ (v1, μ1) h1) okX0_isSlot q1058 ⟨rfl, rfl, Nat.le_of_ble_eq_true rfl, Nat.le_of_ble_eq_true rfl, Nat.zero_le _, Nat.zero_le _⟩ (Nat.le_of_ble_eq_true rfl) rfl ?_
    refine wr_if_eq 4 14 C dX0_paste_4 (by decide) (fun c4 => absurd c4 hv1) (fun c4 => ?_)
    refine wr_iload_n 7 C dX0_paste_7 3 rfl rfl ?_
    refine wr_Si (kc1 := 0) (ks1 := 0) 8 [] C dX0_paste_8 (tX0_isSlot l N a3 μ1 (v3, μ2) h3) okX0_isSlot q1058 ⟨rfl, rfl, Nat.le_of_ble_eq_true rfl, Nat.le_of_ble_eq_true rfl, Nat.zero_le _, Nat.zero_le _⟩ (Nat.le_of_ble_eq_true rfl) rfl ?_
    refine wr_if_ne 11 17 C dX0_paste_11 (by decide) (fun c4 => ?_) (fun c4 => absurd c4 hv3)
    refine wr_aload_n 17 C dX0_paste_17 0 rfl rfl ?_
    refine geX_slots 18 C dX0_paste_18 ?_
    refine wr_iload_n 21 C dX0_paste_21 1 rfl rfl ?_
    refine wr_aaldD 22 C dX0_paste_22 5 hE.1 wRc_slots hE.2 hi1 (wRd_slots (ok_in4 hi1)) ?_
    refine wr_getNZ 23 0 C dX0_paste_23 hb1 rfl in_X5 (by decide) rfl q296 ?_
    refine wr_iload_n 26 C dX0_paste_26 2 rfl rfl ?_
    refine wr_aload_n 27 C dX0_paste_27 0 rfl rfl ?_
    refine geX_slots 28 C dX0_paste_28 ?_
    refine wr_iload_n 31 C dX0_paste_31 3 rfl rfl ?_
    refine wr_aaldD 32 C dX0_paste_32 5 hE.1 wRc_slots hE.2 hi3 (wRd_slots (ok_in4 hi3)) ?_
    refine wr_getNZ 33 0 C dX0_paste_33 hb3 rfl in_X5 (by decide) rfl q296 ?_
    refine wr_iload 36 C dX0_paste_36 4 rfl ?_
    refine wr_iload 38 C dX0_paste_38 5 rfl ?_
    refine wr_copyN1 40 C dX0_paste_40 q1390 q1274 q1273 q162 (Or.inl rfl) ⟨Nat.le_of_ble_eq_true rfl, by decide +kernel⟩ ?_
    intro H0 locs0 ls0 nf hnf e1 e2 e3
    refine wr_npeY 40 C hl hZ ⟨Nat.le_of_ble_eq_true rfl, by decide +kernel, Nat.le_of_ble_eq_true rfl, Nat.le_of_ble_eq_true rfl⟩ ?_ hnf e1 e2 e3
    intro H1 locs1 ls1 q9 ce g1 g2 g3 g4 g5 g6
    refine wr_catch 40 C [] ⟨17, 44, 45, 385⟩ [⟨17, 44, 50, 503⟩, ⟨17, 44, 55, 505⟩] (hX.trans rfl) (fun z hz => nomatch hz) (by decide) (by decide) q1031 q1053 (fun q9 => ?_) g1 g2 g3 g4 g5 g6
    refine wr_astore 45 [(6, .ref q9), (0, .ref (q 0)), (1, .int a1), (2, .int a2), (3, .int a3), (4, .int a4), (5, .int a5)] C dX0_paste_45 (x := q9) rfl (Nat.le_of_ble_eq_true rfl) rfl ?_
    refine wr_bipush 47 C dX0_paste_47 (v := (-6)) rfl ?_
    exact wr_iret 49 C dX0_paste_49 ⟨Nat.le_of_ble_eq_true rfl, Nat.le_of_ble_eq_true rfl⟩ rfl
set_option maxHeartbeats 4000000 in
theorem tX0_paste_n2 (l : Launch) {D : va_G} {E : List wCell} {q : Nat → Nat} {ca : wCA} (hl : l.stackTraces = false) (hE : wSlots ca (spX ++ E)) (N : Nat) {a1 a2 a3 a4 a5 v1 v3 : Int32} (μ μ1 μ2 : wMem) (hi1 : ok_in a1 4 = true) (hi3 : ok_in a3 4 = true) (h1 : fX0_isSlot N a1 μ = some (v1, μ1)) (hv1 : ¬ v1 = 0) (h3 : fX0_isSlot N a3 μ1 = some (v3, μ2)) (hv3 : ¬ v3 = 0) {x3 c0 : Nat} (hb1 : (spX ++ E)[24 + a1.toNatClampNeg]? = some (.inl (5, [(2, c0)]))) (hb3 : (spX ++ E)[24 + a3.toNatClampNeg]? = some (.inl (5, [(3, x3)]))) : wMiWZ l yX0_paste cX0_paste 7 (some .int) hhX0_paste ({ frames := 9, cells := 1, slots := 8, locals := 10300 } : Room) D vwCl (spX ++ E) q ca [.ref (q 0), .int a1, .int a2, .int a3, .int a4, .int a5] μ (-6, μ2) := by
  refine wMiWZ_intro (by decide) (Nat.le_of_ble_eq_true rfl) ?_
  intro p e s m args below meth c A C hZ hX
  refine wr_sub [(0, .ref (q 0)), (1, .int a1), (2, .int a2), (3, .int a3), (4, .int a4), (5, .int a5)] [0, 1, 2, 3, 4, 5] rfl ?_
  refine wr_iload_n 0 C dX0_paste_0 1 rfl rfl ?_
  refine wr_Si (kc1 := 0) (ks1 := 0) 1 [] C dX0_paste_1 (tX0_isSlot l N a1 μ (v1, μ1) h1) okX0_isSlot q1058 ⟨rfl, rfl, Nat.le_of_ble_eq_true rfl, Nat.le_of_ble_eq_true rfl, Nat.zero_le _, Nat.zero_le _⟩ (Nat.le_of_ble_eq_true rfl) rfl ?_
  refine wr_if_eq 4 14 C dX0_paste_4 (by decide) (fun c4 => absurd c4 hv1) (fun c4 => ?_)
  refine wr_iload_n 7 C dX0_paste_7 3 rfl rfl ?_
  refine wr_Si (kc1 := 0) (ks1 := 0) 8 [] C dX0_paste_8 (tX0_isSlot l N a3 μ1 (v3, μ2) h3) okX0_isSlot q1058 ⟨rfl, rfl, Nat.le_of_ble_eq_true rfl, Nat.le_of_ble_eq_true rfl, Nat.zero_le _, Nat.zero_le _⟩ (Nat.le_of_ble_eq_true rfl) rfl ?_
  refine wr_if_ne 11 17 C dX0_paste_11 (by decide) (fun c4 => ?_) (fun c4 => absurd c4 hv3)
  refine wr_aload_n 17 C dX0_paste_17 0 rfl rfl ?_
  refine geX_slots 18 C dX0_paste_18 ?_
  refine wr_iload_n 21 C dX0_paste_21 1 rfl rfl ?_
  refine wr_aaldD 22 C dX0_paste_22 5 hE.1 wRc_slots hE.2 hi1 (wRd_slots (ok_in4 hi1)) ?_
  refine wr_getNR 23 0 C dX0_paste_23 hb1 rfl in_X5 (by decide) rfl q296 ?_
  refine wr_iload_n 26 C dX0_paste_26 2 rfl rfl ?_
  refine wr_aload_n 27 C dX0_paste_27 0 rfl rfl ?_
  refine geX_slots 28 C dX0_paste_28 ?_
  refine wr_iload_n 31 C dX0_paste_31 3 rfl rfl ?_
  refine wr_aaldD 32 C dX0_paste_32 5 hE.1 wRc_slots hE.2 hi3 (wRd_slots (ok_in4 hi3)) ?_
  refine wr_getNZ 33 0 C dX0_paste_33 hb3 rfl in_X5 (by decide) rfl q296 ?_
  refine wr_iload 36 C dX0_paste_36 4 rfl ?_
  refine wr_iload 38 C dX0_paste_38 5 rfl ?_
  refine wr_copyN2 40 C dX0_paste_40 q1390 q1274 q1273 q162 ⟨Nat.le_of_ble_eq_true rfl, by decide +kernel⟩ ?_
  intro H0 locs0 ls0 nf hnf e1 e2 e3
  refine wr_npeY 40 C hl hZ ⟨Nat.le_of_ble_eq_true rfl, by decide +kernel, Nat.le_of_ble_eq_true rfl, Nat.le_of_ble_eq_true rfl⟩ ?_ hnf e1 e2 e3
  intro H1 locs1 ls1 q9 ce g1 g2 g3 g4 g5 g6
  refine wr_catch 40 C [] ⟨17, 44, 45, 385⟩ [⟨17, 44, 50, 503⟩, ⟨17, 44, 55, 505⟩] (hX.trans rfl) (fun z hz => nomatch hz) (by decide) (by decide) q1031 q1053 (fun q9 => ?_) g1 g2 g3 g4 g5 g6
  refine wr_astore 45 [(6, .ref q9), (0, .ref (q 0)), (1, .int a1), (2, .int a2), (3, .int a3), (4, .int a4), (5, .int a5)] C dX0_paste_45 (x := q9) rfl (Nat.le_of_ble_eq_true rfl) rfl ?_
  refine wr_bipush 47 C dX0_paste_47 (v := (-6)) rfl ?_
  exact wr_iret 49 C dX0_paste_49 ⟨Nat.le_of_ble_eq_true rfl, Nat.le_of_ble_eq_true rfl⟩ rfl
set_option maxHeartbeats 4000000 in
theorem tX0_paste_ty (l : Launch) {D : va_G} {E : List wCell} {q : Nat → Nat} {ca : wCA} (hl : l.stackTraces = false) (hE : wSlots ca (spX ++ E)) (N : Nat) {a1 a2 a3 a4 a5 v1 v3 : Int32} (μ μ1 μ2 : wMem) (hi1 : ok_in a1 4 = true) (hi3 : ok_in a3 4 = true) (h1 : fX0_isSlot N a1 μ = some (v1, μ1)) (hv1 : ¬ v1 = 0) (h3 : fX0_isSlot N a3 μ1 = some (v3, μ2)) (hv3 : ¬ v3 = 0) {c0 t0 n0 c1 t1 n1 : Nat} (hb1 : (spX ++ E)[24 + a1.toNatClampNeg]? = some (.inl (5, [(2, c0)]))) (hb3 : (spX ++ E)[24 + a3.toNatClampNeg]? = some (.inl (5, [(2, c1)]))) (hr1 : wRow (spX ++ E) c0 t0 n0) (hr3 : wRow (spX ++ E) c1 t1 n1) (hne : t0 ≠ t1) : wMiWZ l yX0_paste cX0_paste 7 (some .int) hhX0_paste ({ frames := 9, cells := 3, slots := 90, locals := 10300 } : Room) D vwCl (spX ++ E) q ca [.ref (q 0), .int a1, .int a2, .int a3, .int a4, .int a5] μ (-8, μ2) := by
  refine wMiWZ_intro (by decide) (Nat.le_of_ble_eq_true rfl) ?_
  intro p e s m args below meth c A C hZ hX
  refine wr_sub [(0, .ref (q 0)), (1, .int a1), (2, .int a2), (3, .int a3), (4, .int a4), (5, .int a5)] [0, 1, 2, 3, 4, 5] rfl ?_
  refine wr_iload_n 0 C dX0_paste_0 1 rfl rfl ?_
  refine wr_Si (kc1 := 0) (ks1 := 0) 1 [] C dX0_paste_1 (tX0_isSlot l N a1 μ (v1, μ1) h1) okX0_isSlot q1058 ⟨rfl, rfl, Nat.le_of_ble_eq_true rfl, Nat.le_of_ble_eq_true rfl, Nat.zero_le _, Nat.zero_le _⟩ (Nat.le_of_ble_eq_true rfl) rfl ?_
  refine wr_if_eq 4 14 C dX0_paste_4 (by decide) (fun c4 => absurd c4 hv1) (fun c4 => ?_)
  refine wr_iload_n 7 C dX0_paste_7 3 rfl rfl ?_
  refine wr_Si (kc1 := 0) (ks1 := 0) 8 [] C dX0_paste_8 (tX0_isSlot l N a3 μ1 (v3, μ2) h3) okX0_isSlot q1058 ⟨rfl, rfl, Nat.le_of_ble_eq_true rfl, Nat.le_of_ble_eq_true rfl, Nat.zero_le _, Nat.zero_le _⟩ (Nat.le_of_ble_eq_true rfl) rfl ?_
  refine wr_if_ne 11 17 C dX0_paste_11 (by decide) (fun c4 => ?_) (fun c4 => absurd c4 hv3)
  refine wr_aload_n 17 C dX0_paste_17 0 rfl rfl ?_
  refine geX_slots 18 C dX0_paste_18 ?_
  refine wr_iload_n 21 C dX0_paste_21 1 rfl rfl ?_
  refine wr_aaldD 22 C dX0_paste_22 5 hE.1 wRc_slots hE.2 hi1 (wRd_slots (ok_in4 hi1)) ?_
  refine wr_getNR 23 0 C dX0_paste_23 hb1 rfl in_X5 (by decide) rfl q296 ?_
  refine wr_iload_n 26 C dX0_paste_26 2 rfl rfl ?_
  refine wr_aload_n 27 C dX0_paste_27 0 rfl rfl ?_
  refine geX_slots 28 C dX0_paste_28 ?_
  refine wr_iload_n 31 C dX0_paste_31 3 rfl rfl ?_
  refine wr_aaldD 32 C dX0_paste_32 5 hE.1 wRc_slots hE.2 hi3 (wRd_slots (ok_in4 hi3)) ?_
  refine wr_getNR 33 0 C dX0_paste_33 hb3 rfl in_X5 (by decide) rfl q296 ?_
  refine wr_iload 36 C dX0_paste_36 4 rfl ?_
  refine wr_iload 38 C dX0_paste_38 5 rfl ?_
  refine wr_copyT 40 t0 t1 C dX0_paste_40 q1390 q1274 q1273 q162 hr1.1 hr3.1 (wRt_ty hr1.2) (wRt_ty hr3.2) (wRt_ne hr1.2 hr3.2 hne) ⟨Nat.le_of_ble_eq_true rfl, by decide +kernel⟩ ?_
  intro H0 locs0 ls0 nf hnf e1 e2 e3
  refine wr_msgY (X := ase_X) (names := ase_N) (nb := 80) 40 C hl hZ ase_in ase_good ase_fit (ase_txt hr1.2 hr3.2).1 (ase_txt hr1.2 hr3.2).2 ⟨by decide, by decide, by decide +kernel, by decide, Nat.le_of_ble_eq_true rfl, Nat.le_of_ble_eq_true rfl⟩ ?_ hnf e1 e2 e3
  intro H1 locs1 ls1 q9 ce g1 g2 g3 g4 g5 g6
  refine wr_catchX 40 C [⟨17, 44, 45, 385⟩] ⟨17, 44, 50, 503⟩ [⟨17, 44, 55, 505⟩] (hX.trans rfl) (fun z hz => by obtain rfl := List.mem_singleton.mp hz; exact Or.inr ⟨by decide, _, q1031, by decide⟩) (by decide) (by decide) q1375 q1387 (fun q9 => ?_) g1 g2 g3 g4 g5 g6
  refine wr_astore 50 [(6, .ref q9), (0, .ref (q 0)), (1, .int a1), (2, .int a2), (3, .int a3), (4, .int a4), (5, .int a5)] C dX0_paste_50 (x := q9) rfl (Nat.le_of_ble_eq_true rfl) rfl ?_
  refine wr_bipush 52 C dX0_paste_52 (v := (-8)) rfl ?_
  exact wr_iret 54 C dX0_paste_54 ⟨Nat.le_of_ble_eq_true rfl, Nat.le_of_ble_eq_true rfl⟩ rfl
theorem ts_self (s : String) : toString s = s := rfl
theorem cp_modelled (w : String) : (("arraycopy: " ++ w) == notModelled) = false := by
  rw [beq_eq_false_iff_ne]
  intro h
  have h2 := congrArg String.toList h
  have h3 : ("arraycopy: " ++ w).toList = 'a' :: ("rraycopy: ".toList ++ w.toList) := by
    simp only [String.toList_append]
    rfl
  rw [h3] at h2
  have h4 : notModelled.toList = Char.ofNat 0 :: " a message that is not modelled".toList := by decide
  rw [h4] at h2
  simp at h2
theorem int_print {z : Int} (h1 : -(2 : Int) ^ 32 ≤ z) (h2 : z < 2 ^ 32) : (toString z).toList.length ≤ 11 := by
  show (Int.repr z).toList.length ≤ 11
  cases h : z with
  | ofNat m =>
    rw [h] at h2
    have h2' : (m : Int) < 2 ^ 32 := h2
    have := nat_print (n := m) (by omega)
    show (toString m).toList.length ≤ 11
    omega
  | negSucc m =>
    rw [h] at h1
    have h1' : -(2 : Int) ^ 32 ≤ -((m : Int) + 1) := by simpa [Int.negSucc_eq] using h1
    have := nat_print (n := m.succ) (by omega)
    show ("-" ++ toString m.succ).toList.length ≤ 11
    rw [String.toList_append, List.length_append]
    have h0 : "-".toList.length = 1 := by decide
    omega
theorem cp_len {y0 y1 : FieldType} {n0 n1 : Nat} {a b n : Int32} {w : String} (k0 : (Native.java_lang_System.arraycopy.kindName y0).toList.length ≤ 5) (k1 : (Native.java_lang_System.arraycopy.kindName y1).toList.length ≤ 5) (h0 : n0 < 2 ^ 31) (h1 : n1 < 2 ^ 31) (hf : copyFault y0 y1 n0 n1 a b n = some w) : w.toList.length ≤ 80 := by
  have l1 : "source index ".toList.length = 13 := by decide
  have l2 : "destination index ".toList.length = 18 := by decide
  have l3 : "length ".toList.length = 7 := by decide
  have l4 : " is negative".toList.length = 12 := by decide
  have l5 : "last source index ".toList.length = 18 := by decide
  have l6 : "last destination index ".toList.length = 23 := by decide
  have l7 : " out of bounds for ".toList.length = 19 := by decide
  have l8 : "[".toList.length = 1 := by decide
  have l9 : "]".toList.length = 1 := by decide
  have l0 : "".toList.length = 0 := by decide
  have p1 := int32_print a
  have p2 := int32_print b
  have p3 := int32_print n
  have p4 := nat_print (n := n0) (by omega)
  have p5 := nat_print (n := n1) (by omega)
  have q1 := Int32.toInt_lt a
  have q2 := Int32.le_toInt a
  have q3 := Int32.toInt_lt b
  have q4 := Int32.le_toInt b
  have q5 := Int32.toInt_lt n
  have q6 := Int32.le_toInt n
  have p6 := int_print (z := a.toInt + n.toInt) (by omega) (by omega)
  have p7 := int_print (z := b.toInt + n.toInt) (by omega) (by omega)
  unfold copyFault at hf
  split at hf
  · obtain rfl := Option.some.inj hf
    simp only [ts_self, String.toList_append, List.length_append]
    omega
  split at hf
  · obtain rfl := Option.some.inj hf
    simp only [ts_self, String.toList_append, List.length_append]
    omega
  split at hf
  · obtain rfl := Option.some.inj hf
    simp only [ts_self, String.toList_append, List.length_append]
    omega
  split at hf
  · obtain rfl := Option.some.inj hf
    simp only [ts_self, String.toList_append, List.length_append]
    omega
  split at hf
  · obtain rfl := Option.some.inj hf
    simp only [ts_self, String.toList_append, List.length_append]
    omega
  · cases hf
theorem wRt_kind {t : Nat} (h : t = 2 ∨ t = 4 ∨ t = 0 ∨ t = 1) : (Native.java_lang_System.arraycopy.kindName (wRt t)).toList.length ≤ 5 := by
  rcases h with rfl | rfl | rfl | rfl <;> decide
theorem wRt_eq {t : Nat} (h : t = 2 ∨ t = 4 ∨ t = 0 ∨ t = 1) : ((refKind (wRt t) != refKind (wRt t)) || (!refKind (wRt t) && wRt t != wRt t)) = false := by
  rcases h with rfl | rfl | rfl | rfl <;> rfl
theorem cp_bytes {t n0 n1 : Nat} {a b n : Int32} {w : String} (h : t = 2 ∨ t = 4 ∨ t = 0 ∨ t = 1) (h0 : n0 < 2 ^ 31) (h1 : n1 < 2 ^ 31) (hf : copyFault (wRt t) (wRt t) n0 n1 a b n = some w) : (stringBytes (stringToUtf16 ("arraycopy: " ++ w))).size ≤ 364 := by
  have b1 := stringBytes_size_le (stringToUtf16 ("arraycopy: " ++ w))
  have b2 := utf16_size_le ("arraycopy: " ++ w)
  have b3 := cp_len (wRt_kind h) (wRt_kind h) h0 h1 hf
  rw [String.toList_append, List.length_append] at b2
  have b4 : "arraycopy: ".toList.length = 11 := by decide
  omega
set_option maxHeartbeats 4000000 in
theorem tX0_paste_out (l : Launch) {D : va_G} {E : List wCell} {q : Nat → Nat} {ca : wCA} (hl : l.stackTraces = false) (hE : wSlots ca (spX ++ E)) (N : Nat) {a1 a2 a3 a4 a5 v1 v3 : Int32} (μ μ1 μ2 : wMem) (hi1 : ok_in a1 4 = true) (hi3 : ok_in a3 4 = true) (h1 : fX0_isSlot N a1 μ = some (v1, μ1)) (hv1 : ¬ v1 = 0) (h3 : fX0_isSlot N a3 μ1 = some (v3, μ2)) (hv3 : ¬ v3 = 0) {c0 t n0 c1 n1 : Nat} {w : String} (hb1 : (spX ++ E)[24 + a1.toNatClampNeg]? = some (.inl (5, [(2, c0)]))) (hb3 : (spX ++ E)[24 + a3.toNatClampNeg]? = some (.inl (5, [(2, c1)]))) (hr1 : wRow (spX ++ E) c0 t n0) (hr3 : wRow (spX ++ E) c1 t n1) (hn0 : n0 < 2 ^ 31) (hn1 : n1 < 2 ^ 31) (hf : copyFault (wRt t) (wRt t) n0 n1 a2 a4 a5 = some w) : wMiWZ l yX0_paste cX0_paste 7 (some .int) hhX0_paste ({ frames := 9, cells := 3, slots := 374, locals := 10300 } : Room) D vwCl (spX ++ E) q ca [.ref (q 0), .int a1, .int a2, .int a3, .int a4, .int a5] μ (-7, μ2) := by
  refine wMiWZ_intro (by decide) (Nat.le_of_ble_eq_true rfl) ?_
  intro p e s m args below meth c A C hZ hX
  refine wr_sub [(0, .ref (q 0)), (1, .int a1), (2, .int a2), (3, .int a3), (4, .int a4), (5, .int a5)] [0, 1, 2, 3, 4, 5] rfl ?_
  refine wr_iload_n 0 C dX0_paste_0 1 rfl rfl ?_
  refine wr_Si (kc1 := 0) (ks1 := 0) 1 [] C dX0_paste_1 (tX0_isSlot l N a1 μ (v1, μ1) h1) okX0_isSlot q1058 ⟨rfl, rfl, Nat.le_of_ble_eq_true rfl, Nat.le_of_ble_eq_true rfl, Nat.zero_le _, Nat.zero_le _⟩ (Nat.le_of_ble_eq_true rfl) rfl ?_
  refine wr_if_eq 4 14 C dX0_paste_4 (by decide) (fun c4 => absurd c4 hv1) (fun c4 => ?_)
  refine wr_iload_n 7 C dX0_paste_7 3 rfl rfl ?_
  refine wr_Si (kc1 := 0) (ks1 := 0) 8 [] C dX0_paste_8 (tX0_isSlot l N a3 μ1 (v3, μ2) h3) okX0_isSlot q1058 ⟨rfl, rfl, Nat.le_of_ble_eq_true rfl, Nat.le_of_ble_eq_true rfl, Nat.zero_le _, Nat.zero_le _⟩ (Nat.le_of_ble_eq_true rfl) rfl ?_
  refine wr_if_ne 11 17 C dX0_paste_11 (by decide) (fun c4 => ?_) (fun c4 => absurd c4 hv3)
  refine wr_aload_n 17 C dX0_paste_17 0 rfl rfl ?_
  refine geX_slots 18 C dX0_paste_18 ?_
  refine wr_iload_n 21 C dX0_paste_21 1 rfl rfl ?_
  refine wr_aaldD 22 C dX0_paste_22 5 hE.1 wRc_slots hE.2 hi1 (wRd_slots (ok_in4 hi1)) ?_
  refine wr_getNR 23 0 C dX0_paste_23 hb1 rfl in_X5 (by decide) rfl q296 ?_
  refine wr_iload_n 26 C dX0_paste_26 2 rfl rfl ?_
  refine wr_aload_n 27 C dX0_paste_27 0 rfl rfl ?_
  refine geX_slots 28 C dX0_paste_28 ?_
  refine wr_iload_n 31 C dX0_paste_31 3 rfl rfl ?_
  refine wr_aaldD 32 C dX0_paste_32 5 hE.1 wRc_slots hE.2 hi3 (wRd_slots (ok_in4 hi3)) ?_
  refine wr_getNR 33 0 C dX0_paste_33 hb3 rfl in_X5 (by decide) rfl q296 ?_
  refine wr_iload 36 C dX0_paste_36 4 rfl ?_
  refine wr_iload 38 C dX0_paste_38 5 rfl ?_
  refine wr_copyB 40 t t C dX0_paste_40 q1390 q1274 q1273 q162 hr1.1 hr3.1 (wRt_ty hr1.2) (wRt_ty hr3.2) (wRt_eq hr1.2) hf ⟨Nat.le_of_ble_eq_true rfl, by decide +kernel⟩ ?_
  intro H0 locs0 ls0 nf hnf e1 e2 e3
  refine wr_msgY (X := aio_X) (names := aio_N) (nb := 364) 40 C hl hZ aio_in aio_good aio_fit (cp_modelled w) (cp_bytes hr1.2 hn0 hn1 hf) ⟨by decide, by decide, by decide +kernel, by decide, Nat.le_of_ble_eq_true rfl, Nat.le_of_ble_eq_true rfl⟩ ?_ hnf e1 e2 e3
  intro H1 locs1 ls1 q9 ce g1 g2 g3 g4 g5 g6
  refine wr_catchX 40 C [⟨17, 44, 45, 385⟩, ⟨17, 44, 50, 503⟩] ⟨17, 44, 55, 505⟩ [] (hX.trans rfl) (fun z hz => ?_) (by decide) (by decide) q1389 q2105 (fun q9 => ?_) g1 g2 g3 g4 g5 g6
  · rcases List.mem_cons.mp hz with rfl | hz
    · exact Or.inr ⟨by decide, _, q1031, by decide⟩
    · obtain rfl := List.mem_singleton.mp hz; exact Or.inr ⟨by decide, _, q1375, by decide⟩
  refine wr_astore 55 [(6, .ref q9), (0, .ref (q 0)), (1, .int a1), (2, .int a2), (3, .int a3), (4, .int a4), (5, .int a5)] C dX0_paste_55 (x := q9) rfl (Nat.le_of_ble_eq_true rfl) rfl ?_
  refine wr_bipush 57 C dX0_paste_57 (v := (-7)) rfl ?_
  exact wr_iret 59 C dX0_paste_59 ⟨Nat.le_of_ble_eq_true rfl, Nat.le_of_ble_eq_true rfl⟩ rfl
set_option maxHeartbeats 4000000 in
theorem tX0_paste_b1 (l : Launch) {D : va_G} {E : List wCell} {q : Nat → Nat} {ca : wCA} (N : Nat) {a1 a2 a3 a4 a5 v1 v3 : Int32} (μ μ1 μ2 : wMem) (h1 : fX0_isSlot N a1 μ = some (v1, μ1)) (hv1 : v1 = 0) : wMiWZ l yX0_paste cX0_paste 7 (some .int) hhX0_paste ({ frames := 9, cells := 0, slots := 0, locals := 10300 } : Room) D vwCl (spX ++ E) q ca [.ref (q 0), .int a1, .int a2, .int a3, .int a4, .int a5] μ ((-2), μ1) := by
  refine wMiWZ_intro (by decide) (Nat.le_of_ble_eq_true rfl) ?_
  intro p e s m args below meth c A C hZ hX
  refine wr_sub [(0, .ref (q 0)), (1, .int a1), (2, .int a2), (3, .int a3), (4, .int a4), (5, .int a5)] [0, 1, 2, 3, 4, 5] rfl ?_
  refine wr_iload_n 0 C dX0_paste_0 1 rfl rfl ?_
  refine wr_Si (kc1 := 0) (ks1 := 0) 1 [] C dX0_paste_1 (tX0_isSlot l N a1 μ (v1, μ1) h1) okX0_isSlot q1058 ⟨rfl, rfl, Nat.le_of_ble_eq_true rfl, Nat.le_of_ble_eq_true rfl, Nat.zero_le _, Nat.zero_le _⟩ (Nat.le_of_ble_eq_true rfl) rfl ?_
  refine wr_if_eq 4 14 C dX0_paste_4 (by decide) (fun c4 => ?_) (fun c4 => absurd hv1 c4)
  refine wr_bipush 14 C dX0_paste_14 (v := (-2)) rfl ?_
  exact wr_iret 16 C dX0_paste_16 ⟨Nat.zero_le _, Nat.zero_le _⟩ rfl
set_option maxHeartbeats 4000000 in
theorem tX0_paste_b2 (l : Launch) {D : va_G} {E : List wCell} {q : Nat → Nat} {ca : wCA} (N : Nat) {a1 a2 a3 a4 a5 v1 v3 : Int32} (μ μ1 μ2 : wMem) (h1 : fX0_isSlot N a1 μ = some (v1, μ1)) (hv1 : ¬ v1 = 0) (h3 : fX0_isSlot N a3 μ1 = some (v3, μ2)) (hv3 : v3 = 0) : wMiWZ l yX0_paste cX0_paste 7 (some .int) hhX0_paste ({ frames := 9, cells := 0, slots := 0, locals := 10300 } : Room) D vwCl (spX ++ E) q ca [.ref (q 0), .int a1, .int a2, .int a3, .int a4, .int a5] μ ((-2), μ2) := by
  refine wMiWZ_intro (by decide) (Nat.le_of_ble_eq_true rfl) ?_
  intro p e s m args below meth c A C hZ hX
  refine wr_sub [(0, .ref (q 0)), (1, .int a1), (2, .int a2), (3, .int a3), (4, .int a4), (5, .int a5)] [0, 1, 2, 3, 4, 5] rfl ?_
  refine wr_iload_n 0 C dX0_paste_0 1 rfl rfl ?_
  refine wr_Si (kc1 := 0) (ks1 := 0) 1 [] C dX0_paste_1 (tX0_isSlot l N a1 μ (v1, μ1) h1) okX0_isSlot q1058 ⟨rfl, rfl, Nat.le_of_ble_eq_true rfl, Nat.le_of_ble_eq_true rfl, Nat.zero_le _, Nat.zero_le _⟩ (Nat.le_of_ble_eq_true rfl) rfl ?_
  refine wr_if_eq 4 14 C dX0_paste_4 (by decide) (fun c4 => absurd c4 hv1) (fun c4 => ?_)
  refine wr_iload_n 7 C dX0_paste_7 3 rfl rfl ?_
  refine wr_Si (kc1 := 0) (ks1 := 0) 8 [] C dX0_paste_8 (tX0_isSlot l N a3 μ1 (v3, μ2) h3) okX0_isSlot q1058 ⟨rfl, rfl, Nat.le_of_ble_eq_true rfl, Nat.le_of_ble_eq_true rfl, Nat.zero_le _, Nat.zero_le _⟩ (Nat.le_of_ble_eq_true rfl) rfl ?_
  refine wr_if_ne 11 17 C dX0_paste_11 (by decide) (fun c4 => absurd hv3 c4) (fun c4 => ?_)
  refine wr_bipush 14 C dX0_paste_14 (v := (-2)) rfl ?_
  exact wr_iret 16 C dX0_paste_16 ⟨Nat.zero_le _, Nat.zero_le _⟩ rfl
theorem wr_copyB8 {p : Program} {l : Launch} {e : Env} {R : Room} {s : State} {m : MethodId} {args : Array Value} {below : List Frame} {meth : Method} {c : Code} {cc : ByteArray} {own : String} {nL : Nat} {ret : Option FieldType} {D : va_G} {cl : List vw_C} {sp : List wCell} {q : Nat → Nat} {ca : wCA} {A : Nat → Prop} {Q : State → Prop} {kc ks : Nat} {μ : wMem} {lv : List (Nat × Value)} {st : List Value} {c0 c1 n0 n1 ix : Nat} {a b n : Int32} {μ1 : wMem} (pc : Nat) (C : wC p R s m args meth c cc own nL ret D cl sp q ca A) (hd : decode cc pc = .ok (.invokestatic ix, 3)) (hl : Cond.methodLink own ix arraycopyName ∈ lw_all) (hnat : Cond.native arraycopyName ∈ lw_all) (hstat : Cond.static arraycopyName ∈ lw_all) (hini : Cond.initialized "java/lang/System" ∈ lw_all) (hfit : ∀ i, i < n.toNatClampNeg → fits .byte (.int (μ.1 c0 (a.toNatClampNeg + i))) = true) (hs0 : sp[c0]? = some (.inr (2, n0))) (hs1 : sp[c1]? = some (.inr (2, n1))) (h1 : ¬ a < 0 ∧ ¬ b < 0 ∧ ¬ n < 0 ∧ a.toNatClampNeg + n.toNatClampNeg ≤ n0 ∧ b.toNatClampNeg + n.toNatClampNeg ≤ n1) (hF : 1 ≤ R.frames ∧ (st.map fun v => v.category).sum + 18 ≤ R.locals) (hμ : μ1 = wCpy μ c0 c1 a.toNatClampNeg b.toNatClampNeg n.toNatClampNeg) (k : wJ p l e R s m args below meth c nL D cl sp q ca A Q kc ks μ1 (pc + 3) lv st) : wJ p l e R s m args below meth c nL D cl sp q ca A Q kc ks μ pc lv (.int n :: .int b :: .ref (q c1) :: .int a :: .ref (q c0) :: st) :=
  fun H locs ls g1 g2 g3 => va_copyi C.1 C.2.1 (C.2.2.1.trans g3.1.symm) C.2.2.2.1 (C.2.2.2.2.1 _ hl) (C.2.2.2.2.1 _ hnat) (C.2.2.2.2.1 _ hstat) (C.2.2.2.2.1 _ hini) C.2.2.2.2.2.1 g1 (wWs_D C.2.2.2.2.2.2.2.2.1 C.2.2.2.2.2.2.2.2.2.1 μ) g2 c0 c1 2 2 (ty := .byte) (wWs_get hs0) (wWs_get hs1) rfl rfl rfl h1.1 h1.2.1 h1.2.2.1 h1.2.2.2.1 h1.2.2.2.2 hfit hF.1 hF.2 hd (fun H1 locs1 e1 e2 e3 => k H1 locs1 ls (by
    have hw : (wWs sp q ca μ).set c1 (q c1, .inl (ca.1 2, n1, .inl (va_cpy (μ.1 c0) (μ.1 c1) a.toNatClampNeg b.toNatClampNeg n.toNatClampNeg))) = wWs sp q ca μ1 := by
      rw [hμ]
      exact wWs_set hs1 (by simp [wCv, wCpy, va_up]) (fun k d h => wCv_up h)
    rw [← hw]; exact e1) e3 g3)
theorem wr_copyS16 {p : Program} {l : Launch} {e : Env} {R : Room} {s : State} {m : MethodId} {args : Array Value} {below : List Frame} {meth : Method} {c : Code} {cc : ByteArray} {own : String} {nL : Nat} {ret : Option FieldType} {D : va_G} {cl : List vw_C} {sp : List wCell} {q : Nat → Nat} {ca : wCA} {A : Nat → Prop} {Q : State → Prop} {kc ks : Nat} {μ : wMem} {lv : List (Nat × Value)} {st : List Value} {c0 c1 n0 n1 ix : Nat} {a b n : Int32} {μ1 : wMem} (pc : Nat) (C : wC p R s m args meth c cc own nL ret D cl sp q ca A) (hd : decode cc pc = .ok (.invokestatic ix, 3)) (hl : Cond.methodLink own ix arraycopyName ∈ lw_all) (hnat : Cond.native arraycopyName ∈ lw_all) (hstat : Cond.static arraycopyName ∈ lw_all) (hini : Cond.initialized "java/lang/System" ∈ lw_all) (hfit : ∀ i, i < n.toNatClampNeg → fits .short (.int (μ.1 c0 (a.toNatClampNeg + i))) = true) (hs0 : sp[c0]? = some (.inr (4, n0))) (hs1 : sp[c1]? = some (.inr (4, n1))) (h1 : ¬ a < 0 ∧ ¬ b < 0 ∧ ¬ n < 0 ∧ a.toNatClampNeg + n.toNatClampNeg ≤ n0 ∧ b.toNatClampNeg + n.toNatClampNeg ≤ n1) (hF : 1 ≤ R.frames ∧ (st.map fun v => v.category).sum + 18 ≤ R.locals) (hμ : μ1 = wCpy μ c0 c1 a.toNatClampNeg b.toNatClampNeg n.toNatClampNeg) (k : wJ p l e R s m args below meth c nL D cl sp q ca A Q kc ks μ1 (pc + 3) lv st) : wJ p l e R s m args below meth c nL D cl sp q ca A Q kc ks μ pc lv (.int n :: .int b :: .ref (q c1) :: .int a :: .ref (q c0) :: st) :=
  fun H locs ls g1 g2 g3 => va_copyi C.1 C.2.1 (C.2.2.1.trans g3.1.symm) C.2.2.2.1 (C.2.2.2.2.1 _ hl) (C.2.2.2.2.1 _ hnat) (C.2.2.2.2.1 _ hstat) (C.2.2.2.2.1 _ hini) C.2.2.2.2.2.1 g1 (wWs_D C.2.2.2.2.2.2.2.2.1 C.2.2.2.2.2.2.2.2.2.1 μ) g2 c0 c1 4 4 (ty := .short) (wWs_get hs0) (wWs_get hs1) rfl rfl rfl h1.1 h1.2.1 h1.2.2.1 h1.2.2.2.1 h1.2.2.2.2 hfit hF.1 hF.2 hd (fun H1 locs1 e1 e2 e3 => k H1 locs1 ls (by
    have hw : (wWs sp q ca μ).set c1 (q c1, .inl (ca.1 4, n1, .inl (va_cpy (μ.1 c0) (μ.1 c1) a.toNatClampNeg b.toNatClampNeg n.toNatClampNeg))) = wWs sp q ca μ1 := by
      rw [hμ]
      exact wWs_set hs1 (by simp [wCv, wCpy, va_up]) (fun k d h => wCv_up h)
    rw [← hw]; exact e1) e3 g3)
def wCpyL (μ : wMem) (c0 c1 a b n : Nat) : wMem := (μ.1, va_up μ.2 c1 (va_cpy (μ.2 c0) (μ.2 c1) a b n))
theorem wCv_upL {q : Nat → Nat} {ca : wCA} {μ : wMem} {c k : Nat} {f : Nat → Int64} {d : wCell} (h : k ≠ c) : wCv q ca (μ.1, va_up μ.2 c f) k d = wCv q ca μ k d := by
  have hf : ∀ j g, wFv q (μ.1, va_up μ.2 c f) k j g = wFv q μ k j g := by
    intro j g
    unfold wFv va_up
    split <;> simp [h]
  cases d with
  | inl o => simp [wCv, wFs, hf]
  | inr a => simp [wCv, va_up, h]
theorem wr_copyL {p : Program} {l : Launch} {e : Env} {R : Room} {s : State} {m : MethodId} {args : Array Value} {below : List Frame} {meth : Method} {c : Code} {cc : ByteArray} {own : String} {nL : Nat} {ret : Option FieldType} {D : va_G} {cl : List vw_C} {sp : List wCell} {q : Nat → Nat} {ca : wCA} {A : Nat → Prop} {Q : State → Prop} {kc ks : Nat} {μ : wMem} {lv : List (Nat × Value)} {st : List Value} {c0 c1 n0 n1 ix : Nat} {a b n : Int32} {μ1 : wMem} (pc : Nat) (C : wC p R s m args meth c cc own nL ret D cl sp q ca A) (hd : decode cc pc = .ok (.invokestatic ix, 3)) (hl : Cond.methodLink own ix arraycopyName ∈ lw_all) (hnat : Cond.native arraycopyName ∈ lw_all) (hstat : Cond.static arraycopyName ∈ lw_all) (hini : Cond.initialized "java/lang/System" ∈ lw_all) (hs0 : sp[c0]? = some (.inr (1, n0))) (hs1 : sp[c1]? = some (.inr (1, n1))) (h1 : ¬ a < 0 ∧ ¬ b < 0 ∧ ¬ n < 0 ∧ a.toNatClampNeg + n.toNatClampNeg ≤ n0 ∧ b.toNatClampNeg + n.toNatClampNeg ≤ n1) (hF : 1 ≤ R.frames ∧ (st.map fun v => v.category).sum + 18 ≤ R.locals) (hμ : μ1 = wCpyL μ c0 c1 a.toNatClampNeg b.toNatClampNeg n.toNatClampNeg) (k : wJ p l e R s m args below meth c nL D cl sp q ca A Q kc ks μ1 (pc + 3) lv st) : wJ p l e R s m args below meth c nL D cl sp q ca A Q kc ks μ pc lv (.int n :: .int b :: .ref (q c1) :: .int a :: .ref (q c0) :: st) :=
  fun H locs ls g1 g2 g3 => va_copyl C.1 C.2.1 (C.2.2.1.trans g3.1.symm) C.2.2.2.1 (C.2.2.2.2.1 _ hl) (C.2.2.2.2.1 _ hnat) (C.2.2.2.2.1 _ hstat) (C.2.2.2.2.1 _ hini) C.2.2.2.2.2.1 g1 (wWs_D C.2.2.2.2.2.2.2.2.1 C.2.2.2.2.2.2.2.2.2.1 μ) g2 c0 c1 1 1 (ty := .long) (wWs_get hs0) (wWs_get hs1) rfl rfl rfl h1.1 h1.2.1 h1.2.2.1 h1.2.2.2.1 h1.2.2.2.2 (fun _ _ => rfl) hF.1 hF.2 hd (fun H1 locs1 e1 e2 e3 => k H1 locs1 ls (by
    have hw : (wWs sp q ca μ).set c1 (q c1, .inl (ca.1 1, n1, .inr (.inl (va_cpy (μ.2 c0) (μ.2 c1) a.toNatClampNeg b.toNatClampNeg n.toNatClampNeg)))) = wWs sp q ca μ1 := by
      rw [hμ]
      exact wWs_set hs1 (by simp [wCv, wCpyL, va_up]) (fun k d h => wCv_upL h)
    rw [← hw]; exact e1) e3 g3)
set_option maxHeartbeats 4000000 in
theorem tX0_paste_i (l : Launch) {D : va_G} {E : List wCell} {q : Nat → Nat} {ca : wCA} (hl : l.stackTraces = false) (hE : wSlots ca (spX ++ E)) (N : Nat) {a1 a2 a3 a4 a5 v1 v3 : Int32} (μ μ1 μ2 : wMem) (hi1 : ok_in a1 4 = true) (hi3 : ok_in a3 4 = true) (h1 : fX0_isSlot N a1 μ = some (v1, μ1)) (hv1 : ¬ v1 = 0) (h3 : fX0_isSlot N a3 μ1 = some (v3, μ2)) (hv3 : ¬ v3 = 0) {c0 n0 c1 n1 : Nat} (hb1 : (spX ++ E)[24 + a1.toNatClampNeg]? = some (.inl (5, [(2, c0)]))) (hb3 : (spX ++ E)[24 + a3.toNatClampNeg]? = some (.inl (5, [(2, c1)]))) (hs0 : (spX ++ E)[c0]? = some (.inr (0, n0))) (hs1 : (spX ++ E)[c1]? = some (.inr (0, n1))) (hin : ¬ a2 < 0 ∧ ¬ a4 < 0 ∧ ¬ a5 < 0 ∧ a2.toNatClampNeg + a5.toNatClampNeg ≤ n0 ∧ a4.toNatClampNeg + a5.toNatClampNeg ≤ n1) : wMiWZ l yX0_paste cX0_paste 7 (some .int) hhX0_paste ({ frames := 9, cells := 0, slots := 0, locals := 10300 } : Room) D vwCl (spX ++ E) q ca [.ref (q 0), .int a1, .int a2, .int a3, .int a4, .int a5] μ (0, wCpy μ2 c0 c1 a2.toNatClampNeg a4.toNatClampNeg a5.toNatClampNeg) := by
  refine wMiWZ_intro (by decide) (Nat.le_of_ble_eq_true rfl) ?_
  intro p e s m args below meth c A C hZ hX
  refine wr_sub [(0, .ref (q 0)), (1, .int a1), (2, .int a2), (3, .int a3), (4, .int a4), (5, .int a5)] [0, 1, 2, 3, 4, 5] rfl ?_
  refine wr_iload_n 0 C dX0_paste_0 1 rfl rfl ?_
  refine wr_Si (kc1 := 0) (ks1 := 0) 1 [] C dX0_paste_1 (tX0_isSlot l N a1 μ (v1, μ1) h1) okX0_isSlot q1058 ⟨rfl, rfl, Nat.le_of_ble_eq_true rfl, Nat.le_of_ble_eq_true rfl, Nat.zero_le _, Nat.zero_le _⟩ (Nat.le_of_ble_eq_true rfl) rfl ?_
  refine wr_if_eq 4 14 C dX0_paste_4 (by decide) (fun c4 => absurd c4 hv1) (fun c4 => ?_)
  refine wr_iload_n 7 C dX0_paste_7 3 rfl rfl ?_
  refine wr_Si (kc1 := 0) (ks1 := 0) 8 [] C dX0_paste_8 (tX0_isSlot l N a3 μ1 (v3, μ2) h3) okX0_isSlot q1058 ⟨rfl, rfl, Nat.le_of_ble_eq_true rfl, Nat.le_of_ble_eq_true rfl, Nat.zero_le _, Nat.zero_le _⟩ (Nat.le_of_ble_eq_true rfl) rfl ?_
  refine wr_if_ne 11 17 C dX0_paste_11 (by decide) (fun c4 => ?_) (fun c4 => absurd c4 hv3)
  refine wr_aload_n 17 C dX0_paste_17 0 rfl rfl ?_
  refine geX_slots 18 C dX0_paste_18 ?_
  refine wr_iload_n 21 C dX0_paste_21 1 rfl rfl ?_
  refine wr_aaldD 22 C dX0_paste_22 5 hE.1 wRc_slots hE.2 hi1 (wRd_slots (ok_in4 hi1)) ?_
  refine wr_getNR 23 0 C dX0_paste_23 hb1 rfl in_X5 (by decide) rfl q296 ?_
  refine wr_iload_n 26 C dX0_paste_26 2 rfl rfl ?_
  refine wr_aload_n 27 C dX0_paste_27 0 rfl rfl ?_
  refine geX_slots 28 C dX0_paste_28 ?_
  refine wr_iload_n 31 C dX0_paste_31 3 rfl rfl ?_
  refine wr_aaldD 32 C dX0_paste_32 5 hE.1 wRc_slots hE.2 hi3 (wRd_slots (ok_in4 hi3)) ?_
  refine wr_getNR 33 0 C dX0_paste_33 hb3 rfl in_X5 (by decide) rfl q296 ?_
  refine wr_iload 36 C dX0_paste_36 4 rfl ?_
  refine wr_iload 38 C dX0_paste_38 5 rfl ?_
  refine wr_copyI 40 C dX0_paste_40 q1390 q1274 q1273 q162 hs0 hs1 hin ⟨Nat.le_of_ble_eq_true rfl, by decide +kernel⟩ rfl ?_
  refine wr_iconst 43 C dX0_paste_43 (v := 0) rfl ?_
  exact wr_iret 44 C dX0_paste_44 ⟨Nat.zero_le _, Nat.zero_le _⟩ rfl
set_option maxHeartbeats 4000000 in
theorem tX0_paste_b (l : Launch) {D : va_G} {E : List wCell} {q : Nat → Nat} {ca : wCA} (hl : l.stackTraces = false) (hE : wSlots ca (spX ++ E)) (N : Nat) {a1 a2 a3 a4 a5 v1 v3 : Int32} (μ μ1 μ2 : wMem) (hi1 : ok_in a1 4 = true) (hi3 : ok_in a3 4 = true) (h1 : fX0_isSlot N a1 μ = some (v1, μ1)) (hv1 : ¬ v1 = 0) (h3 : fX0_isSlot N a3 μ1 = some (v3, μ2)) (hv3 : ¬ v3 = 0) {c0 n0 c1 n1 : Nat} (hb1 : (spX ++ E)[24 + a1.toNatClampNeg]? = some (.inl (5, [(2, c0)]))) (hb3 : (spX ++ E)[24 + a3.toNatClampNeg]? = some (.inl (5, [(2, c1)]))) (hs0 : (spX ++ E)[c0]? = some (.inr (2, n0))) (hs1 : (spX ++ E)[c1]? = some (.inr (2, n1))) (hfit : ∀ i, i < a5.toNatClampNeg → fits .byte (.int (μ2.1 c0 (a2.toNatClampNeg + i))) = true) (hin : ¬ a2 < 0 ∧ ¬ a4 < 0 ∧ ¬ a5 < 0 ∧ a2.toNatClampNeg + a5.toNatClampNeg ≤ n0 ∧ a4.toNatClampNeg + a5.toNatClampNeg ≤ n1) : wMiWZ l yX0_paste cX0_paste 7 (some .int) hhX0_paste ({ frames := 9, cells := 0, slots := 0, locals := 10300 } : Room) D vwCl (spX ++ E) q ca [.ref (q 0), .int a1, .int a2, .int a3, .int a4, .int a5] μ (0, wCpy μ2 c0 c1 a2.toNatClampNeg a4.toNatClampNeg a5.toNatClampNeg) := by
  refine wMiWZ_intro (by decide) (Nat.le_of_ble_eq_true rfl) ?_
  intro p e s m args below meth c A C hZ hX
  refine wr_sub [(0, .ref (q 0)), (1, .int a1), (2, .int a2), (3, .int a3), (4, .int a4), (5, .int a5)] [0, 1, 2, 3, 4, 5] rfl ?_
  refine wr_iload_n 0 C dX0_paste_0 1 rfl rfl ?_
  refine wr_Si (kc1 := 0) (ks1 := 0) 1 [] C dX0_paste_1 (tX0_isSlot l N a1 μ (v1, μ1) h1) okX0_isSlot q1058 ⟨rfl, rfl, Nat.le_of_ble_eq_true rfl, Nat.le_of_ble_eq_true rfl, Nat.zero_le _, Nat.zero_le _⟩ (Nat.le_of_ble_eq_true rfl) rfl ?_
  refine wr_if_eq 4 14 C dX0_paste_4 (by decide) (fun c4 => absurd c4 hv1) (fun c4 => ?_)
  refine wr_iload_n 7 C dX0_paste_7 3 rfl rfl ?_
  refine wr_Si (kc1 := 0) (ks1 := 0) 8 [] C dX0_paste_8 (tX0_isSlot l N a3 μ1 (v3, μ2) h3) okX0_isSlot q1058 ⟨rfl, rfl, Nat.le_of_ble_eq_true rfl, Nat.le_of_ble_eq_true rfl, Nat.zero_le _, Nat.zero_le _⟩ (Nat.le_of_ble_eq_true rfl) rfl ?_
  refine wr_if_ne 11 17 C dX0_paste_11 (by decide) (fun c4 => ?_) (fun c4 => absurd c4 hv3)
  refine wr_aload_n 17 C dX0_paste_17 0 rfl rfl ?_
  refine geX_slots 18 C dX0_paste_18 ?_
  refine wr_iload_n 21 C dX0_paste_21 1 rfl rfl ?_
  refine wr_aaldD 22 C dX0_paste_22 5 hE.1 wRc_slots hE.2 hi1 (wRd_slots (ok_in4 hi1)) ?_
  refine wr_getNR 23 0 C dX0_paste_23 hb1 rfl in_X5 (by decide) rfl q296 ?_
  refine wr_iload_n 26 C dX0_paste_26 2 rfl rfl ?_
  refine wr_aload_n 27 C dX0_paste_27 0 rfl rfl ?_
  refine geX_slots 28 C dX0_paste_28 ?_
  refine wr_iload_n 31 C dX0_paste_31 3 rfl rfl ?_
  refine wr_aaldD 32 C dX0_paste_32 5 hE.1 wRc_slots hE.2 hi3 (wRd_slots (ok_in4 hi3)) ?_
  refine wr_getNR 33 0 C dX0_paste_33 hb3 rfl in_X5 (by decide) rfl q296 ?_
  refine wr_iload 36 C dX0_paste_36 4 rfl ?_
  refine wr_iload 38 C dX0_paste_38 5 rfl ?_
  refine wr_copyB8 40 C dX0_paste_40 q1390 q1274 q1273 q162 hfit hs0 hs1 hin ⟨Nat.le_of_ble_eq_true rfl, by decide +kernel⟩ rfl ?_
  refine wr_iconst 43 C dX0_paste_43 (v := 0) rfl ?_
  exact wr_iret 44 C dX0_paste_44 ⟨Nat.zero_le _, Nat.zero_le _⟩ rfl
set_option maxHeartbeats 4000000 in
theorem tX0_paste_s (l : Launch) {D : va_G} {E : List wCell} {q : Nat → Nat} {ca : wCA} (hl : l.stackTraces = false) (hE : wSlots ca (spX ++ E)) (N : Nat) {a1 a2 a3 a4 a5 v1 v3 : Int32} (μ μ1 μ2 : wMem) (hi1 : ok_in a1 4 = true) (hi3 : ok_in a3 4 = true) (h1 : fX0_isSlot N a1 μ = some (v1, μ1)) (hv1 : ¬ v1 = 0) (h3 : fX0_isSlot N a3 μ1 = some (v3, μ2)) (hv3 : ¬ v3 = 0) {c0 n0 c1 n1 : Nat} (hb1 : (spX ++ E)[24 + a1.toNatClampNeg]? = some (.inl (5, [(2, c0)]))) (hb3 : (spX ++ E)[24 + a3.toNatClampNeg]? = some (.inl (5, [(2, c1)]))) (hs0 : (spX ++ E)[c0]? = some (.inr (4, n0))) (hs1 : (spX ++ E)[c1]? = some (.inr (4, n1))) (hfit : ∀ i, i < a5.toNatClampNeg → fits .short (.int (μ2.1 c0 (a2.toNatClampNeg + i))) = true) (hin : ¬ a2 < 0 ∧ ¬ a4 < 0 ∧ ¬ a5 < 0 ∧ a2.toNatClampNeg + a5.toNatClampNeg ≤ n0 ∧ a4.toNatClampNeg + a5.toNatClampNeg ≤ n1) : wMiWZ l yX0_paste cX0_paste 7 (some .int) hhX0_paste ({ frames := 9, cells := 0, slots := 0, locals := 10300 } : Room) D vwCl (spX ++ E) q ca [.ref (q 0), .int a1, .int a2, .int a3, .int a4, .int a5] μ (0, wCpy μ2 c0 c1 a2.toNatClampNeg a4.toNatClampNeg a5.toNatClampNeg) := by
  refine wMiWZ_intro (by decide) (Nat.le_of_ble_eq_true rfl) ?_
  intro p e s m args below meth c A C hZ hX
  refine wr_sub [(0, .ref (q 0)), (1, .int a1), (2, .int a2), (3, .int a3), (4, .int a4), (5, .int a5)] [0, 1, 2, 3, 4, 5] rfl ?_
  refine wr_iload_n 0 C dX0_paste_0 1 rfl rfl ?_
  refine wr_Si (kc1 := 0) (ks1 := 0) 1 [] C dX0_paste_1 (tX0_isSlot l N a1 μ (v1, μ1) h1) okX0_isSlot q1058 ⟨rfl, rfl, Nat.le_of_ble_eq_true rfl, Nat.le_of_ble_eq_true rfl, Nat.zero_le _, Nat.zero_le _⟩ (Nat.le_of_ble_eq_true rfl) rfl ?_
  refine wr_if_eq 4 14 C dX0_paste_4 (by decide) (fun c4 => absurd c4 hv1) (fun c4 => ?_)
  refine wr_iload_n 7 C dX0_paste_7 3 rfl rfl ?_
  refine wr_Si (kc1 := 0) (ks1 := 0) 8 [] C dX0_paste_8 (tX0_isSlot l N a3 μ1 (v3, μ2) h3) okX0_isSlot q1058 ⟨rfl, rfl, Nat.le_of_ble_eq_true rfl, Nat.le_of_ble_eq_true rfl, Nat.zero_le _, Nat.zero_le _⟩ (Nat.le_of_ble_eq_true rfl) rfl ?_
  refine wr_if_ne 11 17 C dX0_paste_11 (by decide) (fun c4 => ?_) (fun c4 => absurd c4 hv3)
  refine wr_aload_n 17 C dX0_paste_17 0 rfl rfl ?_
  refine geX_slots 18 C dX0_paste_18 ?_
  refine wr_iload_n 21 C dX0_paste_21 1 rfl rfl ?_
  refine wr_aaldD 22 C dX0_paste_22 5 hE.1 wRc_slots hE.2 hi1 (wRd_slots (ok_in4 hi1)) ?_
  refine wr_getNR 23 0 C dX0_paste_23 hb1 rfl in_X5 (by decide) rfl q296 ?_
  refine wr_iload_n 26 C dX0_paste_26 2 rfl rfl ?_
  refine wr_aload_n 27 C dX0_paste_27 0 rfl rfl ?_
  refine geX_slots 28 C dX0_paste_28 ?_
  refine wr_iload_n 31 C dX0_paste_31 3 rfl rfl ?_
  refine wr_aaldD 32 C dX0_paste_32 5 hE.1 wRc_slots hE.2 hi3 (wRd_slots (ok_in4 hi3)) ?_
  refine wr_getNR 33 0 C dX0_paste_33 hb3 rfl in_X5 (by decide) rfl q296 ?_
  refine wr_iload 36 C dX0_paste_36 4 rfl ?_
  refine wr_iload 38 C dX0_paste_38 5 rfl ?_
  refine wr_copyS16 40 C dX0_paste_40 q1390 q1274 q1273 q162 hfit hs0 hs1 hin ⟨Nat.le_of_ble_eq_true rfl, by decide +kernel⟩ rfl ?_
  refine wr_iconst 43 C dX0_paste_43 (v := 0) rfl ?_
  exact wr_iret 44 C dX0_paste_44 ⟨Nat.zero_le _, Nat.zero_le _⟩ rfl
set_option maxHeartbeats 4000000 in
theorem tX0_paste_l (l : Launch) {D : va_G} {E : List wCell} {q : Nat → Nat} {ca : wCA} (hl : l.stackTraces = false) (hE : wSlots ca (spX ++ E)) (N : Nat) {a1 a2 a3 a4 a5 v1 v3 : Int32} (μ μ1 μ2 : wMem) (hi1 : ok_in a1 4 = true) (hi3 : ok_in a3 4 = true) (h1 : fX0_isSlot N a1 μ = some (v1, μ1)) (hv1 : ¬ v1 = 0) (h3 : fX0_isSlot N a3 μ1 = some (v3, μ2)) (hv3 : ¬ v3 = 0) {c0 n0 c1 n1 : Nat} (hb1 : (spX ++ E)[24 + a1.toNatClampNeg]? = some (.inl (5, [(2, c0)]))) (hb3 : (spX ++ E)[24 + a3.toNatClampNeg]? = some (.inl (5, [(2, c1)]))) (hs0 : (spX ++ E)[c0]? = some (.inr (1, n0))) (hs1 : (spX ++ E)[c1]? = some (.inr (1, n1))) (hin : ¬ a2 < 0 ∧ ¬ a4 < 0 ∧ ¬ a5 < 0 ∧ a2.toNatClampNeg + a5.toNatClampNeg ≤ n0 ∧ a4.toNatClampNeg + a5.toNatClampNeg ≤ n1) : wMiWZ l yX0_paste cX0_paste 7 (some .int) hhX0_paste ({ frames := 9, cells := 0, slots := 0, locals := 10300 } : Room) D vwCl (spX ++ E) q ca [.ref (q 0), .int a1, .int a2, .int a3, .int a4, .int a5] μ (0, wCpyL μ2 c0 c1 a2.toNatClampNeg a4.toNatClampNeg a5.toNatClampNeg) := by
  refine wMiWZ_intro (by decide) (Nat.le_of_ble_eq_true rfl) ?_
  intro p e s m args below meth c A C hZ hX
  refine wr_sub [(0, .ref (q 0)), (1, .int a1), (2, .int a2), (3, .int a3), (4, .int a4), (5, .int a5)] [0, 1, 2, 3, 4, 5] rfl ?_
  refine wr_iload_n 0 C dX0_paste_0 1 rfl rfl ?_
  refine wr_Si (kc1 := 0) (ks1 := 0) 1 [] C dX0_paste_1 (tX0_isSlot l N a1 μ (v1, μ1) h1) okX0_isSlot q1058 ⟨rfl, rfl, Nat.le_of_ble_eq_true rfl, Nat.le_of_ble_eq_true rfl, Nat.zero_le _, Nat.zero_le _⟩ (Nat.le_of_ble_eq_true rfl) rfl ?_
  refine wr_if_eq 4 14 C dX0_paste_4 (by decide) (fun c4 => absurd c4 hv1) (fun c4 => ?_)
  refine wr_iload_n 7 C dX0_paste_7 3 rfl rfl ?_
  refine wr_Si (kc1 := 0) (ks1 := 0) 8 [] C dX0_paste_8 (tX0_isSlot l N a3 μ1 (v3, μ2) h3) okX0_isSlot q1058 ⟨rfl, rfl, Nat.le_of_ble_eq_true rfl, Nat.le_of_ble_eq_true rfl, Nat.zero_le _, Nat.zero_le _⟩ (Nat.le_of_ble_eq_true rfl) rfl ?_
  refine wr_if_ne 11 17 C dX0_paste_11 (by decide) (fun c4 => ?_) (fun c4 => absurd c4 hv3)
  refine wr_aload_n 17 C dX0_paste_17 0 rfl rfl ?_
  refine geX_slots 18 C dX0_paste_18 ?_
  refine wr_iload_n 21 C dX0_paste_21 1 rfl rfl ?_
  refine wr_aaldD 22 C dX0_paste_22 5 hE.1 wRc_slots hE.2 hi1 (wRd_slots (ok_in4 hi1)) ?_
  refine wr_getNR 23 0 C dX0_paste_23 hb1 rfl in_X5 (by decide) rfl q296 ?_
  refine wr_iload_n 26 C dX0_paste_26 2 rfl rfl ?_
  refine wr_aload_n 27 C dX0_paste_27 0 rfl rfl ?_
  refine geX_slots 28 C dX0_paste_28 ?_
  refine wr_iload_n 31 C dX0_paste_31 3 rfl rfl ?_
  refine wr_aaldD 32 C dX0_paste_32 5 hE.1 wRc_slots hE.2 hi3 (wRd_slots (ok_in4 hi3)) ?_
  refine wr_getNR 33 0 C dX0_paste_33 hb3 rfl in_X5 (by decide) rfl q296 ?_
  refine wr_iload 36 C dX0_paste_36 4 rfl ?_
  refine wr_iload 38 C dX0_paste_38 5 rfl ?_
  refine wr_copyL 40 C dX0_paste_40 q1390 q1274 q1273 q162 hs0 hs1 hin ⟨Nat.le_of_ble_eq_true rfl, by decide +kernel⟩ rfl ?_
  refine wr_iconst 43 C dX0_paste_43 (v := 0) rfl ?_
  exact wr_iret 44 C dX0_paste_44 ⟨Nat.zero_le _, Nat.zero_le _⟩ rfl
