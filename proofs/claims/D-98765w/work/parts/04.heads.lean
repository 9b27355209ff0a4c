set_option maxRecDepth 100000
def RX0 : String := "OnePassport"
def TX0 : u_T := fun k => match k with
  | 0 => ("OnePassport", "family", "LOnePassport$Family;", false)
  | 1 => ("OnePassport", "tape", "[B", true)
  | 2 => ("OnePassport", "taped", "I", false)
  | 3 => ("OnePassport", "faultKind", "I", false)
  | 4 => ("OnePassport", "faultPlace", "I", false)
  | 5 => ("OnePassport", "over", "I", false)
  | 6 => ("OnePassport", "side", "I", false)
  | 7 => ("OnePassport", "marks", "I", false)
  | 8 => ("OnePassport", "last", "[I", true)
  | 9 => ("OnePassport", "days", "I", false)
  | 10 => ("OnePassport", "risks", "I", false)
  | 11 => ("OnePassport", "lieMany", "I", false)
  | 12 => ("OnePassport", "lieLast", "I", false)
  | 13 => ("OnePassport", "byDays", "LOnePassport$Days;", true)
  | 14 => ("OnePassport", "byRisk", "LOnePassport$Risk;", true)
  | 15 => ("OnePassport", "byCrossings", "LOnePassport$Crossings;", true)
  | 16 => ("OnePassport", "far", "[I", true)
  | 17 => ("OnePassport", "heap", "[I", true)
  | 18 => ("OnePassport", "at", "[I", true)
  | 19 => ("OnePassport", "settled", "[I", true)
  | 20 => ("OnePassport", "heaped", "I", false)
  | 21 => ("OnePassport", "settledMany", "I", false)
  | 22 => ("OnePassport", "isOn", "[Z", true)
  | 23 => ("OnePassport", "total", "I", false)
  | 24 => ("OnePassport", "ways", "[J", true)
  | 25 => ("OnePassport", "dare", "[I", true)
  | 26 => ("OnePassport", "leads", "[Z", true)
  | 27 => ("OnePassport", "had", "[I", true)
  | 28 => ("OnePassport", "stampMany", "I", false)
  | 29 => ("OnePassport", "overAll", "I", false)
  | 30 => ("OnePassport", "overSome", "I", false)
  | 31 => ("OnePassport", "caughtAt", "I", false)
  | 32 => ("OnePassport", "slots", "[LOnePassport$Slot;", true)
  | _ => ("OnePassport", "images", "Ljava/util/ArrayList;", true)
def tyX0 : Nat → FieldType := fun k => match k with
  | 0 => .object "OnePassport$Family"
  | 1 => .array .byte
  | 2 => .int
  | 3 => .int
  | 4 => .int
  | 5 => .int
  | 6 => .int
  | 7 => .int
  | 8 => .array .int
  | 9 => .int
  | 10 => .int
  | 11 => .int
  | 12 => .int
  | 13 => .object "OnePassport$Days"
  | 14 => .object "OnePassport$Risk"
  | 15 => .object "OnePassport$Crossings"
  | 16 => .array .int
  | 17 => .array .int
  | 18 => .array .int
  | 19 => .array .int
  | 20 => .int
  | 21 => .int
  | 22 => .array .boolean
  | 23 => .int
  | 24 => .array .long
  | 25 => .array .int
  | 26 => .array .boolean
  | 27 => .array .int
  | 28 => .int
  | 29 => .int
  | 30 => .int
  | 31 => .int
  | 32 => .array (.object "OnePassport$Slot")
  | _ => .object "java/util/ArrayList"
abbrev wsX00 : List Cond := u_ws RX0 TX0 34
set_option maxRecDepth 100000 in
theorem nmX0 : ∀ a, a < 34 → ∀ b, b < 34 → a ≠ b → (TX0 a).2.1 ≠ (TX0 b).2.1 := by decide +kernel
set_option maxRecDepth 100000 in
theorem tyX0_ok : ∀ k, k < 34 → parseFieldDescriptor (TX0 k).2.2.1 = some (tyX0 k) := by decide +kernel
def RX1 : String := "OnePassport$Family"
def TX1 : u_T := fun k => match k with
  | 0 => ("OnePassport$Family", "loaf", "I", false)
  | 1 => ("OnePassport$Family", "lines", "I", false)
  | 2 => ("OnePassport$Family", "persons", "I", false)
  | 3 => ("OnePassport$Family", "posts", "I", false)
  | 4 => ("OnePassport$Family", "children", "I", false)
  | 5 => ("OnePassport$Family", "stay", "I", false)
  | 6 => ("OnePassport$Family", "acts", "I", false)
  | 7 => ("OnePassport$Family", "compares", "Z", false)
  | 8 => ("OnePassport$Family", "like", "[I", true)
  | 9 => ("OnePassport$Family", "nose", "[I", true)
  | 10 => ("OnePassport$Family", "strict", "[I", true)
  | 11 => ("OnePassport$Family", "keen", "[I", true)
  | 12 => ("OnePassport$Family", "looks", "[I", true)
  | _ => ("OnePassport$Family", "act", "[I", true)
def tyX1 : Nat → FieldType := fun k => match k with
  | 0 => .int
  | 1 => .int
  | 2 => .int
  | 3 => .int
  | 4 => .int
  | 5 => .int
  | 6 => .int
  | 7 => .boolean
  | 8 => .array .int
  | 9 => .array .int
  | 10 => .array .int
  | 11 => .array .int
  | 12 => .array .int
  | _ => .array .int
abbrev wsX10 : List Cond := u_ws RX1 TX1 14
set_option maxRecDepth 100000 in
theorem nmX1 : ∀ a, a < 14 → ∀ b, b < 14 → a ≠ b → (TX1 a).2.1 ≠ (TX1 b).2.1 := by decide +kernel
set_option maxRecDepth 100000 in
theorem tyX1_ok : ∀ k, k < 14 → parseFieldDescriptor (TX1 k).2.2.1 = some (tyX1 k) := by decide +kernel
def RX2 : String := "OnePassport$Days"
def TX2 : u_T := fun k => match k with
  | _ => ("OnePassport$Days", "this$0", "LOnePassport;", true)
def tyX2 : Nat → FieldType := fun k => match k with
  | _ => .object "OnePassport"
abbrev wsX20 : List Cond := u_ws RX2 TX2 1
theorem nmX2 : ∀ a, a < 1 → ∀ b, b < 1 → a ≠ b → (TX2 a).2.1 ≠ (TX2 b).2.1 := by decide +kernel
theorem tyX2_ok : ∀ k, k < 1 → parseFieldDescriptor (TX2 k).2.2.1 = some (tyX2 k) := by decide +kernel
def RX3 : String := "OnePassport$Risk"
def TX3 : u_T := fun k => match k with
  | 0 => ("OnePassport$Days", "this$0", "LOnePassport;", true)
  | _ => ("OnePassport$Risk", "this$0", "LOnePassport;", true)
def tyX3 : Nat → FieldType := fun k => match k with
  | 0 => .object "OnePassport"
  | _ => .object "OnePassport"
abbrev wsX30 : List Cond := u_ws RX3 TX3 2
-- two fields of one name: no nmX3
theorem tyX3_ok : ∀ k, k < 2 → parseFieldDescriptor (TX3 k).2.2.1 = some (tyX3 k) := by decide +kernel
def RX4 : String := "OnePassport$Crossings"
def TX4 : u_T := fun k => match k with
  | 0 => ("OnePassport$Days", "this$0", "LOnePassport;", true)
  | _ => ("OnePassport$Crossings", "this$0", "LOnePassport;", true)
def tyX4 : Nat → FieldType := fun k => match k with
  | 0 => .object "OnePassport"
  | _ => .object "OnePassport"
abbrev wsX40 : List Cond := u_ws RX4 TX4 2
-- two fields of one name: no nmX4
theorem tyX4_ok : ∀ k, k < 2 → parseFieldDescriptor (TX4 k).2.2.1 = some (tyX4 k) := by decide +kernel
def RX5 : String := "OnePassport$Slot"
def TX5 : u_T := fun k => match k with
  | _ => ("OnePassport$Slot", "row", "Ljava/lang/Object;", false)
def tyX5 : Nat → FieldType := fun k => match k with
  | _ => .object "java/lang/Object"
abbrev wsX50 : List Cond := u_ws RX5 TX5 1
theorem nmX5 : ∀ a, a < 1 → ∀ b, b < 1 → a ≠ b → (TX5 a).2.1 ≠ (TX5 b).2.1 := by decide +kernel
theorem tyX5_ok : ∀ k, k < 1 → parseFieldDescriptor (TX5 k).2.2.1 = some (tyX5 k) := by decide +kernel
def RX6 : String := "OnePassportModel"
def TX6 : u_T := fun k => match k with
  | 0 => ("OnePassportModel", "thrown", "I", false)
  | 1 => ("OnePassportModel", "width", "[I", true)
  | 2 => ("OnePassportModel", "many", "[I", true)
  | 3 => ("OnePassportModel", "cells", "[J", true)
  | 4 => ("OnePassportModel", "moved", "[J", true)
  | 5 => ("OnePassportModel", "tape", "[B", true)
  | 6 => ("OnePassportModel", "taped", "I", false)
  | 7 => ("OnePassportModel", "at", "I", false)
  | 8 => ("OnePassportModel", "token", "I", false)
  | 9 => ("OnePassportModel", "place", "I", false)
  | 10 => ("OnePassportModel", "value", "I", false)
  | 11 => ("OnePassportModel", "word", "J", false)
  | 12 => ("OnePassportModel", "bad", "I", false)
  | 13 => ("OnePassportModel", "badPlace", "I", false)
  | 14 => ("OnePassportModel", "fault", "I", false)
  | 15 => ("OnePassportModel", "faultPlace", "I", false)
  | 16 => ("OnePassportModel", "lines", "[I", true)
  | 17 => ("OnePassportModel", "has", "[I", true)
  | 18 => ("OnePassportModel", "like", "[I", true)
  | 19 => ("OnePassportModel", "nose", "[I", true)
  | 20 => ("OnePassportModel", "post", "[I", true)
  | 21 => ("OnePassportModel", "act", "[I", true)
  | 22 => ("OnePassportModel", "isKept", "[Z", true)
  | 23 => ("OnePassportModel", "over", "I", false)
  | 24 => ("OnePassportModel", "side", "I", false)
  | 25 => ("OnePassportModel", "zero", "I", false)
  | 26 => ("OnePassportModel", "one", "I", false)
  | 27 => ("OnePassportModel", "marks", "I", false)
  | 28 => ("OnePassportModel", "daysNow", "I", false)
  | 29 => ("OnePassportModel", "riskNow", "I", false)
  | 30 => ("OnePassportModel", "stampMany", "I", false)
  | 31 => ("OnePassportModel", "stamp", "[I", true)
  | 32 => ("OnePassportModel", "seen", "[Z", true)
  | 33 => ("OnePassportModel", "list", "[I", true)
  | 34 => ("OnePassportModel", "listed", "I", false)
  | 35 => ("OnePassportModel", "least", "[I", true)
  | 36 => ("OnePassportModel", "sought", "I", false)
  | 37 => ("OnePassportModel", "soughtSet", "I", false)
  | 38 => ("OnePassportModel", "counted", "I", false)
  | 39 => ("OnePassportModel", "row", "[I", true)
  | 40 => ("OnePassportModel", "rowMany", "I", false)
  | 41 => ("OnePassportModel", "waysOf", "[J", true)
  | 42 => ("OnePassportModel", "darkOf", "[I", true)
  | 43 => ("OnePassportModel", "allOf", "[I", true)
  | 44 => ("OnePassportModel", "someOf", "[I", true)
  | 45 => ("OnePassportModel", "hadAt", "[I", true)
  | 46 => ("OnePassportModel", "come", "[Z", true)
  | _ => ("OnePassportModel", "overThen", "I", false)
def tyX6 : Nat → FieldType := fun k => match k with
  | 0 => .int
  | 1 => .array .int
  | 2 => .array .int
  | 3 => .array .long
  | 4 => .array .long
  | 5 => .array .byte
  | 6 => .int
  | 7 => .int
  | 8 => .int
  | 9 => .int
  | 10 => .int
  | 11 => .long
  | 12 => .int
  | 13 => .int
  | 14 => .int
  | 15 => .int
  | 16 => .array .int
  | 17 => .array .int
  | 18 => .array .int
  | 19 => .array .int
  | 20 => .array .int
  | 21 => .array .int
  | 22 => .array .boolean
  | 23 => .int
  | 24 => .int
  | 25 => .int
  | 26 => .int
  | 27 => .int
  | 28 => .int
  | 29 => .int
  | 30 => .int
  | 31 => .array .int
  | 32 => .array .boolean
  | 33 => .array .int
  | 34 => .int
  | 35 => .array .int
  | 36 => .int
  | 37 => .int
  | 38 => .int
  | 39 => .array .int
  | 40 => .int
  | 41 => .array .long
  | 42 => .array .int
  | 43 => .array .int
  | 44 => .array .int
  | 45 => .array .int
  | 46 => .array .boolean
  | _ => .int
abbrev wsX60 : List Cond := u_ws RX6 TX6 48
set_option maxRecDepth 100000 in
theorem nmX6 : ∀ a, a < 48 → ∀ b, b < 48 → a ≠ b → (TX6 a).2.1 ≠ (TX6 b).2.1 := by decide +kernel
set_option maxRecDepth 100000 in
theorem tyX6_ok : ∀ k, k < 48 → parseFieldDescriptor (TX6 k).2.2.1 = some (tyX6 k) := by decide +kernel
def RX7 : String := "OnePassport$Reader"
def TX7 : u_T := fun k => match k with
  | 0 => ("OnePassport$Reader", "size", "I", true)
  | 1 => ("OnePassport$Reader", "family", "LOnePassport$Family;", true)
  | 2 => ("OnePassport$Reader", "at", "I", false)
  | 3 => ("OnePassport$Reader", "from", "I", false)
  | 4 => ("OnePassport$Reader", "value", "I", false)
  | 5 => ("OnePassport$Reader", "token", "LOnePassport$Token;", false)
  | _ => ("OnePassport$Reader", "this$0", "LOnePassport;", true)
def tyX7 : Nat → FieldType := fun k => match k with
  | 0 => .int
  | 1 => .object "OnePassport$Family"
  | 2 => .int
  | 3 => .int
  | 4 => .int
  | 5 => .object "OnePassport$Token"
  | _ => .object "OnePassport"
abbrev wsX70 : List Cond := u_ws RX7 TX7 7
theorem nmX7 : ∀ a, a < 7 → ∀ b, b < 7 → a ≠ b → (TX7 a).2.1 ≠ (TX7 b).2.1 := by decide +kernel
theorem tyX7_ok : ∀ k, k < 7 → parseFieldDescriptor (TX7 k).2.2.1 = some (tyX7 k) := by decide +kernel
def RX8 : String := "OnePassport$Fault"
def TX8 : u_T := fun k => match k with
  | 0 => ("java/lang/Throwable", "cause", "Ljava/lang/Throwable;", false)
  | 1 => ("java/lang/Throwable", "stackTrace", "[Ljava/lang/StackTraceElement;", false)
  | 2 => ("java/lang/Throwable", "suppressedExceptions", "Ljava/util/List;", false)
  | 3 => ("java/lang/Throwable", "detailMessage", "Ljava/lang/String;", false)
  | 4 => ("java/lang/Throwable", "backtrace", "Ljava/lang/Object;", false)
  | 5 => ("java/lang/Throwable", "depth", "I", false)
  | 6 => ("OnePassport$Fault", "kind", "I", true)
  | _ => ("OnePassport$Fault", "place", "I", true)
def tyX8 : Nat → FieldType := fun k => match k with
  | 0 => .object "java/lang/Throwable"
  | 1 => .array (.object "java/lang/StackTraceElement")
  | 2 => .object "java/util/List"
  | 3 => .object "java/lang/String"
  | 4 => .object "java/lang/Object"
  | 5 => .int
  | 6 => .int
  | _ => .int
abbrev wsX80 : List Cond := u_ws RX8 TX8 8
theorem nmX8 : ∀ a, a < 8 → ∀ b, b < 8 → a ≠ b → (TX8 a).2.1 ≠ (TX8 b).2.1 := by decide +kernel
theorem tyX8_ok : ∀ k, k < 8 → parseFieldDescriptor (TX8 k).2.2.1 = some (tyX8 k) := by decide +kernel
def RJ2 : String := "java/util/ArrayList"
def TJ2 : u_T := fun k => match k with
  | 0 => ("java/util/AbstractList", "modCount", "I", false)
  | 1 => ("java/util/ArrayList", "elementData", "[Ljava/lang/Object;", false)
  | _ => ("java/util/ArrayList", "size", "I", false)
def tyJ2 : Nat → FieldType := fun k => match k with
  | 0 => .int
  | 1 => .array (.object "java/lang/Object")
  | _ => .int
abbrev wsJ20 : List Cond := u_ws RJ2 TJ2 3
theorem nmJ2 : ∀ a, a < 3 → ∀ b, b < 3 → a ≠ b → (TJ2 a).2.1 ≠ (TJ2 b).2.1 := by decide +kernel
theorem tyJ2_ok : ∀ k, k < 3 → parseFieldDescriptor (TJ2 k).2.2.1 = some (tyJ2 k) := by decide +kernel
def RJ3 : String := "java/lang/Math"
def RJ10 : String := "java/lang/Integer"
theorem q142 : (Jvm.Cond.initialized "java/util/AbstractCollection") ∈ lw_all := lw_g (lw_at lw_m1 7 rfl) rfl
theorem q311 : (Jvm.Cond.instanceMethod ({ cls := "java/util/AbstractCollection", name := "<init>", desc := "()V" } : Jvm.MethodName)) ∈ lw_all := lw_g (lw_at lw_m1 176 rfl) rfl
theorem q312 : (Jvm.Cond.code ({ cls := "java/util/AbstractCollection", name := "<init>", desc := "()V" } : Jvm.MethodName) prog_34_method_1_code (1 : Nat) (Option.none : Option Jvm.ClassFile.FieldType)) ∈ lw_all := lw_g (lw_at lw_m1 177 rfl) rfl
theorem q313 : (Jvm.Cond.methodLink "java/util/AbstractCollection" (1 : Nat) ({ cls := "java/lang/Object", name := "<init>", desc := "()V" } : Jvm.MethodName)) ∈ lw_all := lw_g (lw_at lw_m1 178 rfl) rfl
theorem q143 : (Jvm.Cond.initialized "java/util/AbstractList") ∈ lw_all := lw_g (lw_at lw_m1 8 rfl) rfl
theorem q308 : (Jvm.Cond.instanceMethod ({ cls := "java/util/AbstractList", name := "<init>", desc := "()V" } : Jvm.MethodName)) ∈ lw_all := lw_g (lw_at lw_m1 173 rfl) rfl
theorem q309 : (Jvm.Cond.code ({ cls := "java/util/AbstractList", name := "<init>", desc := "()V" } : Jvm.MethodName) prog_35_method_1_code (1 : Nat) (Option.none : Option Jvm.ClassFile.FieldType)) ∈ lw_all := lw_g (lw_at lw_m1 174 rfl) rfl
theorem q310 : (Jvm.Cond.methodLink "java/util/AbstractList" (1 : Nat) ({ cls := "java/util/AbstractCollection", name := "<init>", desc := "()V" } : Jvm.MethodName)) ∈ lw_all := lw_g (lw_at lw_m1 175 rfl) rfl
theorem q318 : (Jvm.Cond.fieldLink "java/util/AbstractList" (7 : Nat) "java/util/AbstractList" "modCount" "I") ∈ lw_all := lw_g (lw_at lw_m1 183 rfl) rfl
theorem q326 : (Jvm.Cond.soleField "java/util/AbstractList" "modCount") ∈ lw_all := lw_g (lw_at lw_m1 191 rfl) rfl
theorem q157 : (Jvm.Cond.initialized "java/lang/Integer") ∈ lw_all := lw_g (lw_at lw_m1 22 rfl) rfl
theorem q1018 : (Jvm.Cond.static ({ cls := "java/lang/Integer", name := "bitCount", desc := "(I)I" } : Jvm.MethodName)) ∈ lw_all := lw_g (lw_at lw_m4 163 rfl) rfl
theorem q1019 : (Jvm.Cond.code ({ cls := "java/lang/Integer", name := "bitCount", desc := "(I)I" } : Jvm.MethodName) prog_21_method_49_code (1 : Nat) (Option.some Jvm.ClassFile.FieldType.int)) ∈ lw_all := lw_g (lw_at lw_m4 164 rfl) rfl
theorem q1020 : (Jvm.Cond.constant "java/lang/Integer" (265 : Nat) (1431655765 : Int32)) ∈ lw_all := lw_g (lw_at lw_m4 165 rfl) rfl
theorem q1021 : (Jvm.Cond.constant "java/lang/Integer" (266 : Nat) (858993459 : Int32)) ∈ lw_all := lw_g (lw_at lw_m4 166 rfl) rfl
theorem q1022 : (Jvm.Cond.constant "java/lang/Integer" (267 : Nat) (252645135 : Int32)) ∈ lw_all := lw_g (lw_at lw_m4 167 rfl) rfl
theorem q158 : (Jvm.Cond.initialized "java/lang/RuntimeException") ∈ lw_all := lw_g (lw_at lw_m1 23 rfl) rfl
theorem q623 : (Jvm.Cond.sameMethod "java/lang/RuntimeException" "java/lang/Throwable" "fillInStackTrace" "()Ljava/lang/Throwable;") ∈ lw_all := lw_g (lw_at lw_m3 8 rfl) rfl
theorem q626 : (Jvm.Cond.superclass "java/lang/RuntimeException" "java/lang/Exception") ∈ lw_all := lw_g (lw_at lw_m3 11 rfl) rfl
theorem q1035 : (Jvm.Cond.instanceMethod ({ cls := "java/lang/RuntimeException", name := "<init>", desc := "()V" } : Jvm.MethodName)) ∈ lw_all := lw_g (lw_at lw_m4 180 rfl) rfl
theorem q1036 : (Jvm.Cond.code ({ cls := "java/lang/RuntimeException", name := "<init>", desc := "()V" } : Jvm.MethodName) prog_26_method_1_code (1 : Nat) (Option.none : Option Jvm.ClassFile.FieldType)) ∈ lw_all := lw_g (lw_at lw_m4 181 rfl) rfl
theorem q1037 : (Jvm.Cond.methodLink "java/lang/RuntimeException" (1 : Nat) ({ cls := "java/lang/Exception", name := "<init>", desc := "()V" } : Jvm.MethodName)) ∈ lw_all := lw_g (lw_at lw_m4 182 rfl) rfl
theorem q1054 : (Jvm.Cond.declares ({ cls := "java/lang/RuntimeException", name := "<init>", desc := "()V" } : Jvm.MethodName)) ∈ lw_tbl := lw_at lw_m4 199 rfl
theorem q1055 : (Jvm.Cond.declares ({ cls := "java/lang/RuntimeException", name := "<init>", desc := "(Ljava/lang/String;)V" } : Jvm.MethodName)) ∈ lw_tbl := lw_at lw_m4 200 rfl
theorem q1057 : (Jvm.Cond.castable "java/lang/RuntimeException" "java/lang/Throwable") ∈ lw_tbl := lw_at lw_m4 202 rfl
theorem q1317 : (Jvm.Cond.instanceMethod ({ cls := "java/lang/RuntimeException", name := "<init>", desc := "(Ljava/lang/String;)V" } : Jvm.MethodName)) ∈ lw_all := lw_g (lw_at lw_m5 222 rfl) rfl
theorem q1318 : (Jvm.Cond.code ({ cls := "java/lang/RuntimeException", name := "<init>", desc := "(Ljava/lang/String;)V" } : Jvm.MethodName) prog_26_method_2_code (2 : Nat) (Option.none : Option Jvm.ClassFile.FieldType)) ∈ lw_all := lw_g (lw_at lw_m5 223 rfl) rfl
theorem q1319 : (Jvm.Cond.methodLink "java/lang/RuntimeException" (7 : Nat) ({ cls := "java/lang/Exception", name := "<init>", desc := "(Ljava/lang/String;)V" } : Jvm.MethodName)) ∈ lw_all := lw_g (lw_at lw_m5 224 rfl) rfl
theorem q159 : (Jvm.Cond.initialized "java/lang/NullPointerException") ∈ lw_all := lw_g (lw_at lw_m1 24 rfl) rfl
theorem q614 : (Jvm.Cond.selects "java/lang/NullPointerException" ({ cls := "java/lang/Throwable", name := "fillInStackTrace", desc := "()Ljava/lang/Throwable;" } : Jvm.MethodName) ({ cls := "java/lang/NullPointerException", name := "fillInStackTrace", desc := "()Ljava/lang/Throwable;" } : Jvm.MethodName)) ∈ lw_all := lw_g (lw_at lw_m2 239 rfl) rfl
theorem q615 : (Jvm.Cond.instanceMethod ({ cls := "java/lang/NullPointerException", name := "fillInStackTrace", desc := "()Ljava/lang/Throwable;" } : Jvm.MethodName)) ∈ lw_all := lw_g (lw_at lw_m3 0 rfl) rfl
theorem q616 : (Jvm.Cond.codeSync ({ cls := "java/lang/NullPointerException", name := "fillInStackTrace", desc := "()Ljava/lang/Throwable;" } : Jvm.MethodName) prog_25_method_3_code (1 : Nat) (Option.some (Jvm.ClassFile.FieldType.object "java/lang/Throwable"))) ∈ lw_all := lw_g (lw_at lw_m3 1 rfl) rfl
theorem q617 : (Jvm.Cond.methodLink "java/lang/NullPointerException" (16 : Nat) ({ cls := "java/lang/NullPointerException", name := "getExtendedNPEMessage", desc := "()Ljava/lang/String;" } : Jvm.MethodName)) ∈ lw_all := lw_g (lw_at lw_m3 2 rfl) rfl
theorem q618 : (Jvm.Cond.privateMethod ({ cls := "java/lang/NullPointerException", name := "getExtendedNPEMessage", desc := "()Ljava/lang/String;" } : Jvm.MethodName)) ∈ lw_tbl := lw_at lw_m3 3 rfl
theorem q619 : (Jvm.Cond.instanceMethod ({ cls := "java/lang/NullPointerException", name := "getExtendedNPEMessage", desc := "()Ljava/lang/String;" } : Jvm.MethodName)) ∈ lw_all := lw_g (lw_at lw_m3 4 rfl) rfl
theorem q620 : (Jvm.Cond.instantiable "java/lang/NullPointerException" (8 : Nat)) ∈ lw_all := lw_g (lw_at lw_m3 5 rfl) rfl
theorem q621 : (Jvm.Cond.native ({ cls := "java/lang/NullPointerException", name := "getExtendedNPEMessage", desc := "()Ljava/lang/String;" } : Jvm.MethodName)) ∈ lw_all := lw_g (lw_at lw_m3 6 rfl) rfl
theorem q622 : (Jvm.Cond.methodLink "java/lang/NullPointerException" (24 : Nat) ({ cls := "java/lang/RuntimeException", name := "fillInStackTrace", desc := "()Ljava/lang/Throwable;" } : Jvm.MethodName)) ∈ lw_all := lw_g (lw_at lw_m3 7 rfl) rfl
theorem q625 : (Jvm.Cond.superclass "java/lang/NullPointerException" "java/lang/RuntimeException") ∈ lw_all := lw_g (lw_at lw_m3 10 rfl) rfl
theorem q1032 : (Jvm.Cond.instanceMethod ({ cls := "java/lang/NullPointerException", name := "<init>", desc := "()V" } : Jvm.MethodName)) ∈ lw_all := lw_g (lw_at lw_m4 177 rfl) rfl
theorem q1033 : (Jvm.Cond.code ({ cls := "java/lang/NullPointerException", name := "<init>", desc := "()V" } : Jvm.MethodName) prog_25_method_1_code (1 : Nat) (Option.none : Option Jvm.ClassFile.FieldType)) ∈ lw_all := lw_g (lw_at lw_m4 178 rfl) rfl
theorem q1034 : (Jvm.Cond.methodLink "java/lang/NullPointerException" (1 : Nat) ({ cls := "java/lang/RuntimeException", name := "<init>", desc := "()V" } : Jvm.MethodName)) ∈ lw_all := lw_g (lw_at lw_m4 179 rfl) rfl
theorem q1041 : (Jvm.Cond.fieldLink "java/lang/NullPointerException" (10 : Nat) "java/lang/NullPointerException" "extendedMessageState" "I") ∈ lw_all := lw_g (lw_at lw_m4 186 rfl) rfl
theorem q1042 : (Jvm.Cond.fieldLink "java/lang/NullPointerException" (20 : Nat) "java/lang/NullPointerException" "extendedMessage" "Ljava/lang/String;") ∈ lw_all := lw_g (lw_at lw_m4 187 rfl) rfl
theorem q1043 : (Jvm.Cond.lays "java/lang/NullPointerException" "java/lang/NullPointerException" "extendedMessageState" "I") ∈ lw_all := lw_g (lw_at lw_m4 188 rfl) rfl
theorem q1044 : (Jvm.Cond.soleField "java/lang/NullPointerException" "extendedMessageState") ∈ lw_all := lw_g (lw_at lw_m4 189 rfl) rfl
theorem q1045 : (Jvm.Cond.lays "java/lang/NullPointerException" "java/lang/NullPointerException" "extendedMessage" "Ljava/lang/String;") ∈ lw_all := lw_g (lw_at lw_m4 190 rfl) rfl
theorem q1046 : (Jvm.Cond.soleField "java/lang/NullPointerException" "extendedMessage") ∈ lw_all := lw_g (lw_at lw_m4 191 rfl) rfl
theorem q1047 : (Jvm.Cond.lays "java/lang/NullPointerException" "java/lang/Throwable" "backtrace" "Ljava/lang/Object;") ∈ lw_all := lw_g (lw_at lw_m4 192 rfl) rfl
theorem q1048 : (Jvm.Cond.lays "java/lang/NullPointerException" "java/lang/Throwable" "detailMessage" "Ljava/lang/String;") ∈ lw_all := lw_g (lw_at lw_m4 193 rfl) rfl
theorem q1049 : (Jvm.Cond.lays "java/lang/NullPointerException" "java/lang/Throwable" "cause" "Ljava/lang/Throwable;") ∈ lw_all := lw_g (lw_at lw_m4 194 rfl) rfl
theorem q1050 : (Jvm.Cond.lays "java/lang/NullPointerException" "java/lang/Throwable" "stackTrace" "[Ljava/lang/StackTraceElement;") ∈ lw_all := lw_g (lw_at lw_m4 195 rfl) rfl
theorem q1051 : (Jvm.Cond.lays "java/lang/NullPointerException" "java/lang/Throwable" "depth" "I") ∈ lw_all := lw_g (lw_at lw_m4 196 rfl) rfl
theorem q1052 : (Jvm.Cond.lays "java/lang/NullPointerException" "java/lang/Throwable" "suppressedExceptions" "Ljava/util/List;") ∈ lw_all := lw_g (lw_at lw_m4 197 rfl) rfl
theorem q1053 : (Jvm.Cond.castable "java/lang/NullPointerException" "java/lang/NullPointerException") ∈ lw_tbl := lw_at lw_m4 198 rfl
theorem q1056 : (Jvm.Cond.selects "java/lang/NullPointerException" ({ cls := "java/lang/Throwable", name := "fillInStackTrace", desc := "(I)Ljava/lang/Throwable;" } : Jvm.MethodName) ({ cls := "java/lang/Throwable", name := "fillInStackTrace", desc := "(I)Ljava/lang/Throwable;" } : Jvm.MethodName)) ∈ lw_all := lw_g (lw_at lw_m4 201 rfl) rfl
theorem q1262 : (Jvm.Cond.selects "java/lang/NullPointerException" ({ cls := "java/lang/Object", name := "getClass", desc := "()Ljava/lang/Class;" } : Jvm.MethodName) ({ cls := "java/lang/Object", name := "getClass", desc := "()Ljava/lang/Class;" } : Jvm.MethodName)) ∈ lw_all := lw_g (lw_at lw_m5 167 rfl) rfl
theorem q2117 : (Jvm.Cond.castable "java/lang/NullPointerException" "java/lang/Object") ∈ lw_tbl := lw_at lw_m9 62 rfl
theorem q160 : (Jvm.Cond.initialized "jdk/internal/util/ArraysSupport") ∈ lw_all := lw_g (lw_at lw_m1 25 rfl) rfl
theorem q1234 : (Jvm.Cond.static ({ cls := "jdk/internal/util/ArraysSupport", name := "newLength", desc := "(III)I" } : Jvm.MethodName)) ∈ lw_all := lw_g (lw_at lw_m5 139 rfl) rfl
theorem q1235 : (Jvm.Cond.code ({ cls := "jdk/internal/util/ArraysSupport", name := "newLength", desc := "(III)I" } : Jvm.MethodName) prog_43_method_27_code (4 : Nat) (Option.some Jvm.ClassFile.FieldType.int)) ∈ lw_all := lw_g (lw_at lw_m5 140 rfl) rfl
theorem q1236 : (Jvm.Cond.methodLink "jdk/internal/util/ArraysSupport" (194 : Nat) ({ cls := "java/lang/Math", name := "max", desc := "(II)I" } : Jvm.MethodName)) ∈ lw_all := lw_g (lw_at lw_m5 141 rfl) rfl
theorem q1239 : (Jvm.Cond.constant "jdk/internal/util/ArraysSupport" (200 : Nat) (2147483639 : Int32)) ∈ lw_all := lw_g (lw_at lw_m5 144 rfl) rfl
theorem q1240 : (Jvm.Cond.methodLink "jdk/internal/util/ArraysSupport" (201 : Nat) ({ cls := "jdk/internal/util/ArraysSupport", name := "hugeLength", desc := "(II)I" } : Jvm.MethodName)) ∈ lw_all := lw_g (lw_at lw_m5 145 rfl) rfl
theorem q1241 : (Jvm.Cond.static ({ cls := "jdk/internal/util/ArraysSupport", name := "hugeLength", desc := "(II)I" } : Jvm.MethodName)) ∈ lw_all := lw_g (lw_at lw_m5 146 rfl) rfl
theorem q1242 : (Jvm.Cond.code ({ cls := "jdk/internal/util/ArraysSupport", name := "hugeLength", desc := "(II)I" } : Jvm.MethodName) prog_43_method_28_code (3 : Nat) (Option.some Jvm.ClassFile.FieldType.int)) ∈ lw_all := lw_g (lw_at lw_m5 147 rfl) rfl
theorem q161 : (Jvm.Cond.initialized "java/util/Arrays") ∈ lw_all := lw_g (lw_at lw_m1 26 rfl) rfl
theorem q1244 : (Jvm.Cond.static ({ cls := "java/util/Arrays", name := "copyOf", desc := "([Ljava/lang/Object;I)[Ljava/lang/Object;" } : Jvm.MethodName)) ∈ lw_all := lw_g (lw_at lw_m5 149 rfl) rfl
theorem q1245 : (Jvm.Cond.code ({ cls := "java/util/Arrays", name := "copyOf", desc := "([Ljava/lang/Object;I)[Ljava/lang/Object;" } : Jvm.MethodName) prog_37_method_119_code (2 : Nat) (Option.some (Jvm.ClassFile.FieldType.array (Jvm.ClassFile.FieldType.object "java/lang/Object")))) ∈ lw_all := lw_g (lw_at lw_m5 150 rfl) rfl
theorem q1246 : (Jvm.Cond.methodLink "java/util/Arrays" (86 : Nat) ({ cls := "java/lang/Object", name := "getClass", desc := "()Ljava/lang/Class;" } : Jvm.MethodName)) ∈ lw_all := lw_g (lw_at lw_m5 151 rfl) rfl
theorem q1265 : (Jvm.Cond.methodLink "java/util/Arrays" (300 : Nat) ({ cls := "java/util/Arrays", name := "copyOf", desc := "([Ljava/lang/Object;ILjava/lang/Class;)[Ljava/lang/Object;" } : Jvm.MethodName)) ∈ lw_all := lw_g (lw_at lw_m5 170 rfl) rfl
theorem q1266 : (Jvm.Cond.static ({ cls := "java/util/Arrays", name := "copyOf", desc := "([Ljava/lang/Object;ILjava/lang/Class;)[Ljava/lang/Object;" } : Jvm.MethodName)) ∈ lw_all := lw_g (lw_at lw_m5 171 rfl) rfl
theorem q1267 : (Jvm.Cond.code ({ cls := "java/util/Arrays", name := "copyOf", desc := "([Ljava/lang/Object;ILjava/lang/Class;)[Ljava/lang/Object;" } : Jvm.MethodName) prog_37_method_120_code (4 : Nat) (Option.some (Jvm.ClassFile.FieldType.array (Jvm.ClassFile.FieldType.object "java/lang/Object")))) ∈ lw_all := lw_g (lw_at lw_m5 172 rfl) rfl
theorem q1268 : (Jvm.Cond.classLink "java/util/Arrays" (110 : Nat) "[Ljava/lang/Object;") ∈ lw_all := lw_g (lw_at lw_m5 173 rfl) rfl
theorem q1270 : (Jvm.Cond.classLink "java/util/Arrays" (2 : Nat) "java/lang/Object") ∈ lw_all := lw_g (lw_at lw_m5 175 rfl) rfl
theorem q1271 : (Jvm.Cond.methodLink "java/util/Arrays" (304 : Nat) ({ cls := "java/lang/Math", name := "min", desc := "(II)I" } : Jvm.MethodName)) ∈ lw_all := lw_g (lw_at lw_m5 176 rfl) rfl
theorem q1272 : (Jvm.Cond.methodLink "java/util/Arrays" (150 : Nat) ({ cls := "java/lang/System", name := "arraycopy", desc := "(Ljava/lang/Object;ILjava/lang/Object;II)V" } : Jvm.MethodName)) ∈ lw_all := lw_g (lw_at lw_m5 177 rfl) rfl
theorem q163 : (Jvm.Cond.initialized "java/util/Objects") ∈ lw_all := lw_g (lw_at lw_m1 28 rfl) rfl
theorem q1289 : (Jvm.Cond.static ({ cls := "java/util/Objects", name := "checkIndex", desc := "(II)I" } : Jvm.MethodName)) ∈ lw_all := lw_g (lw_at lw_m5 194 rfl) rfl
theorem q1290 : (Jvm.Cond.code ({ cls := "java/util/Objects", name := "checkIndex", desc := "(II)I" } : Jvm.MethodName) prog_40_method_17_code (2 : Nat) (Option.some Jvm.ClassFile.FieldType.int)) ∈ lw_all := lw_g (lw_at lw_m5 195 rfl) rfl
theorem q1291 : (Jvm.Cond.methodLink "java/util/Objects" (105 : Nat) ({ cls := "jdk/internal/util/Preconditions", name := "checkIndex", desc := "(IILjava/util/function/BiFunction;)I" } : Jvm.MethodName)) ∈ lw_all := lw_g (lw_at lw_m5 196 rfl) rfl
theorem q164 : (Jvm.Cond.initialized "java/lang/NegativeArraySizeException") ∈ lw_all := lw_g (lw_at lw_m1 29 rfl) rfl
theorem q613 : (Jvm.Cond.selects "java/lang/NegativeArraySizeException" ({ cls := "java/lang/Throwable", name := "fillInStackTrace", desc := "()Ljava/lang/Throwable;" } : Jvm.MethodName) ({ cls := "java/lang/Throwable", name := "fillInStackTrace", desc := "()Ljava/lang/Throwable;" } : Jvm.MethodName)) ∈ lw_all := lw_g (lw_at lw_m2 238 rfl) rfl
theorem q1261 : (Jvm.Cond.selects "java/lang/NegativeArraySizeException" ({ cls := "java/lang/Object", name := "getClass", desc := "()Ljava/lang/Class;" } : Jvm.MethodName) ({ cls := "java/lang/Object", name := "getClass", desc := "()Ljava/lang/Class;" } : Jvm.MethodName)) ∈ lw_all := lw_g (lw_at lw_m5 166 rfl) rfl
theorem q1313 : (Jvm.Cond.instantiable "java/lang/NegativeArraySizeException" (6 : Nat)) ∈ lw_all := lw_g (lw_at lw_m5 218 rfl) rfl
theorem q1314 : (Jvm.Cond.instanceMethod ({ cls := "java/lang/NegativeArraySizeException", name := "<init>", desc := "(Ljava/lang/String;)V" } : Jvm.MethodName)) ∈ lw_all := lw_g (lw_at lw_m5 219 rfl) rfl
theorem q1315 : (Jvm.Cond.code ({ cls := "java/lang/NegativeArraySizeException", name := "<init>", desc := "(Ljava/lang/String;)V" } : Jvm.MethodName) prog_24_method_2_code (2 : Nat) (Option.none : Option Jvm.ClassFile.FieldType)) ∈ lw_all := lw_g (lw_at lw_m5 220 rfl) rfl
theorem q1316 : (Jvm.Cond.methodLink "java/lang/NegativeArraySizeException" (7 : Nat) ({ cls := "java/lang/RuntimeException", name := "<init>", desc := "(Ljava/lang/String;)V" } : Jvm.MethodName)) ∈ lw_all := lw_g (lw_at lw_m5 221 rfl) rfl
theorem q1325 : (Jvm.Cond.lays "java/lang/NegativeArraySizeException" "java/lang/Throwable" "backtrace" "Ljava/lang/Object;") ∈ lw_all := lw_g (lw_at lw_m5 230 rfl) rfl
theorem q1326 : (Jvm.Cond.lays "java/lang/NegativeArraySizeException" "java/lang/Throwable" "detailMessage" "Ljava/lang/String;") ∈ lw_all := lw_g (lw_at lw_m5 231 rfl) rfl
theorem q1327 : (Jvm.Cond.lays "java/lang/NegativeArraySizeException" "java/lang/Throwable" "cause" "Ljava/lang/Throwable;") ∈ lw_all := lw_g (lw_at lw_m5 232 rfl) rfl
theorem q1328 : (Jvm.Cond.lays "java/lang/NegativeArraySizeException" "java/lang/Throwable" "stackTrace" "[Ljava/lang/StackTraceElement;") ∈ lw_all := lw_g (lw_at lw_m5 233 rfl) rfl
theorem q1329 : (Jvm.Cond.lays "java/lang/NegativeArraySizeException" "java/lang/Throwable" "depth" "I") ∈ lw_all := lw_g (lw_at lw_m5 234 rfl) rfl
theorem q1330 : (Jvm.Cond.lays "java/lang/NegativeArraySizeException" "java/lang/Throwable" "suppressedExceptions" "Ljava/util/List;") ∈ lw_all := lw_g (lw_at lw_m5 235 rfl) rfl
theorem q1331 : (Jvm.Cond.superclass "java/lang/NegativeArraySizeException" "java/lang/RuntimeException") ∈ lw_all := lw_g (lw_at lw_m5 236 rfl) rfl
theorem q1332 : (Jvm.Cond.castable "java/lang/NegativeArraySizeException" "java/lang/NegativeArraySizeException") ∈ lw_tbl := lw_at lw_m5 237 rfl
theorem q1333 : (Jvm.Cond.selects "java/lang/NegativeArraySizeException" ({ cls := "java/lang/Throwable", name := "fillInStackTrace", desc := "(I)Ljava/lang/Throwable;" } : Jvm.MethodName) ({ cls := "java/lang/Throwable", name := "fillInStackTrace", desc := "(I)Ljava/lang/Throwable;" } : Jvm.MethodName)) ∈ lw_all := lw_g (lw_at lw_m5 238 rfl) rfl
theorem q2118 : (Jvm.Cond.castable "java/lang/NegativeArraySizeException" "java/lang/Object") ∈ lw_tbl := lw_at lw_m9 63 rfl
theorem q165 : (Jvm.Cond.initialized "java/lang/IndexOutOfBoundsException") ∈ lw_all := lw_g (lw_at lw_m1 30 rfl) rfl
theorem q1353 : (Jvm.Cond.instanceMethod ({ cls := "java/lang/IndexOutOfBoundsException", name := "<init>", desc := "(Ljava/lang/String;)V" } : Jvm.MethodName)) ∈ lw_all := lw_g (lw_at lw_m6 18 rfl) rfl
theorem q1354 : (Jvm.Cond.code ({ cls := "java/lang/IndexOutOfBoundsException", name := "<init>", desc := "(Ljava/lang/String;)V" } : Jvm.MethodName) prog_20_method_2_code (2 : Nat) (Option.none : Option Jvm.ClassFile.FieldType)) ∈ lw_all := lw_g (lw_at lw_m6 19 rfl) rfl
theorem q1355 : (Jvm.Cond.methodLink "java/lang/IndexOutOfBoundsException" (7 : Nat) ({ cls := "java/lang/RuntimeException", name := "<init>", desc := "(Ljava/lang/String;)V" } : Jvm.MethodName)) ∈ lw_all := lw_g (lw_at lw_m6 20 rfl) rfl
theorem q1364 : (Jvm.Cond.declares ({ cls := "java/lang/IndexOutOfBoundsException", name := "<init>", desc := "()V" } : Jvm.MethodName)) ∈ lw_tbl := lw_at lw_m6 29 rfl
theorem q1365 : (Jvm.Cond.declares ({ cls := "java/lang/IndexOutOfBoundsException", name := "<init>", desc := "(Ljava/lang/String;)V" } : Jvm.MethodName)) ∈ lw_tbl := lw_at lw_m6 30 rfl
theorem q166 : (Jvm.Cond.initialized "java/lang/ArrayIndexOutOfBoundsException") ∈ lw_all := lw_g (lw_at lw_m1 31 rfl) rfl
theorem q611 : (Jvm.Cond.selects "java/lang/ArrayIndexOutOfBoundsException" ({ cls := "java/lang/Throwable", name := "fillInStackTrace", desc := "()Ljava/lang/Throwable;" } : Jvm.MethodName) ({ cls := "java/lang/Throwable", name := "fillInStackTrace", desc := "()Ljava/lang/Throwable;" } : Jvm.MethodName)) ∈ lw_all := lw_g (lw_at lw_m2 236 rfl) rfl
theorem q1259 : (Jvm.Cond.selects "java/lang/ArrayIndexOutOfBoundsException" ({ cls := "java/lang/Object", name := "getClass", desc := "()Ljava/lang/Class;" } : Jvm.MethodName) ({ cls := "java/lang/Object", name := "getClass", desc := "()Ljava/lang/Class;" } : Jvm.MethodName)) ∈ lw_all := lw_g (lw_at lw_m5 164 rfl) rfl
theorem q1349 : (Jvm.Cond.instantiable "java/lang/ArrayIndexOutOfBoundsException" (6 : Nat)) ∈ lw_all := lw_g (lw_at lw_m6 14 rfl) rfl
theorem q1350 : (Jvm.Cond.instanceMethod ({ cls := "java/lang/ArrayIndexOutOfBoundsException", name := "<init>", desc := "(Ljava/lang/String;)V" } : Jvm.MethodName)) ∈ lw_all := lw_g (lw_at lw_m6 15 rfl) rfl
theorem q1351 : (Jvm.Cond.code ({ cls := "java/lang/ArrayIndexOutOfBoundsException", name := "<init>", desc := "(Ljava/lang/String;)V" } : Jvm.MethodName) prog_13_method_2_code (2 : Nat) (Option.none : Option Jvm.ClassFile.FieldType)) ∈ lw_all := lw_g (lw_at lw_m6 16 rfl) rfl
theorem q1352 : (Jvm.Cond.methodLink "java/lang/ArrayIndexOutOfBoundsException" (7 : Nat) ({ cls := "java/lang/IndexOutOfBoundsException", name := "<init>", desc := "(Ljava/lang/String;)V" } : Jvm.MethodName)) ∈ lw_all := lw_g (lw_at lw_m6 17 rfl) rfl
theorem q1356 : (Jvm.Cond.lays "java/lang/ArrayIndexOutOfBoundsException" "java/lang/Throwable" "backtrace" "Ljava/lang/Object;") ∈ lw_all := lw_g (lw_at lw_m6 21 rfl) rfl
theorem q1357 : (Jvm.Cond.lays "java/lang/ArrayIndexOutOfBoundsException" "java/lang/Throwable" "detailMessage" "Ljava/lang/String;") ∈ lw_all := lw_g (lw_at lw_m6 22 rfl) rfl
theorem q1358 : (Jvm.Cond.lays "java/lang/ArrayIndexOutOfBoundsException" "java/lang/Throwable" "cause" "Ljava/lang/Throwable;") ∈ lw_all := lw_g (lw_at lw_m6 23 rfl) rfl
theorem q1359 : (Jvm.Cond.lays "java/lang/ArrayIndexOutOfBoundsException" "java/lang/Throwable" "stackTrace" "[Ljava/lang/StackTraceElement;") ∈ lw_all := lw_g (lw_at lw_m6 24 rfl) rfl
theorem q1360 : (Jvm.Cond.lays "java/lang/ArrayIndexOutOfBoundsException" "java/lang/Throwable" "depth" "I") ∈ lw_all := lw_g (lw_at lw_m6 25 rfl) rfl
theorem q1361 : (Jvm.Cond.lays "java/lang/ArrayIndexOutOfBoundsException" "java/lang/Throwable" "suppressedExceptions" "Ljava/util/List;") ∈ lw_all := lw_g (lw_at lw_m6 26 rfl) rfl
theorem q1362 : (Jvm.Cond.superclass "java/lang/ArrayIndexOutOfBoundsException" "java/lang/IndexOutOfBoundsException") ∈ lw_all := lw_g (lw_at lw_m6 27 rfl) rfl
theorem q1363 : (Jvm.Cond.castable "java/lang/ArrayIndexOutOfBoundsException" "java/lang/ArrayIndexOutOfBoundsException") ∈ lw_tbl := lw_at lw_m6 28 rfl
theorem q1366 : (Jvm.Cond.selects "java/lang/ArrayIndexOutOfBoundsException" ({ cls := "java/lang/Throwable", name := "fillInStackTrace", desc := "(I)Ljava/lang/Throwable;" } : Jvm.MethodName) ({ cls := "java/lang/Throwable", name := "fillInStackTrace", desc := "(I)Ljava/lang/Throwable;" } : Jvm.MethodName)) ∈ lw_all := lw_g (lw_at lw_m6 31 rfl) rfl
theorem q2105 : (Jvm.Cond.castable "java/lang/ArrayIndexOutOfBoundsException" "java/lang/IndexOutOfBoundsException") ∈ lw_tbl := lw_at lw_m9 50 rfl
theorem q2119 : (Jvm.Cond.castable "java/lang/ArrayIndexOutOfBoundsException" "java/lang/Object") ∈ lw_tbl := lw_at lw_m9 64 rfl
theorem q167 : (Jvm.Cond.initialized "java/lang/ArrayStoreException") ∈ lw_all := lw_g (lw_at lw_m1 32 rfl) rfl
theorem q612 : (Jvm.Cond.selects "java/lang/ArrayStoreException" ({ cls := "java/lang/Throwable", name := "fillInStackTrace", desc := "()Ljava/lang/Throwable;" } : Jvm.MethodName) ({ cls := "java/lang/Throwable", name := "fillInStackTrace", desc := "()Ljava/lang/Throwable;" } : Jvm.MethodName)) ∈ lw_all := lw_g (lw_at lw_m2 237 rfl) rfl
theorem q1260 : (Jvm.Cond.selects "java/lang/ArrayStoreException" ({ cls := "java/lang/Object", name := "getClass", desc := "()Ljava/lang/Class;" } : Jvm.MethodName) ({ cls := "java/lang/Object", name := "getClass", desc := "()Ljava/lang/Class;" } : Jvm.MethodName)) ∈ lw_all := lw_g (lw_at lw_m5 165 rfl) rfl
theorem q1376 : (Jvm.Cond.instantiable "java/lang/ArrayStoreException" (6 : Nat)) ∈ lw_all := lw_g (lw_at lw_m6 41 rfl) rfl
theorem q1377 : (Jvm.Cond.instanceMethod ({ cls := "java/lang/ArrayStoreException", name := "<init>", desc := "(Ljava/lang/String;)V" } : Jvm.MethodName)) ∈ lw_all := lw_g (lw_at lw_m6 42 rfl) rfl
theorem q1378 : (Jvm.Cond.code ({ cls := "java/lang/ArrayStoreException", name := "<init>", desc := "(Ljava/lang/String;)V" } : Jvm.MethodName) prog_14_method_2_code (2 : Nat) (Option.none : Option Jvm.ClassFile.FieldType)) ∈ lw_all := lw_g (lw_at lw_m6 43 rfl) rfl
theorem q1379 : (Jvm.Cond.methodLink "java/lang/ArrayStoreException" (7 : Nat) ({ cls := "java/lang/RuntimeException", name := "<init>", desc := "(Ljava/lang/String;)V" } : Jvm.MethodName)) ∈ lw_all := lw_g (lw_at lw_m6 44 rfl) rfl
theorem q1380 : (Jvm.Cond.lays "java/lang/ArrayStoreException" "java/lang/Throwable" "backtrace" "Ljava/lang/Object;") ∈ lw_all := lw_g (lw_at lw_m6 45 rfl) rfl
theorem q1381 : (Jvm.Cond.lays "java/lang/ArrayStoreException" "java/lang/Throwable" "detailMessage" "Ljava/lang/String;") ∈ lw_all := lw_g (lw_at lw_m6 46 rfl) rfl
theorem q1382 : (Jvm.Cond.lays "java/lang/ArrayStoreException" "java/lang/Throwable" "cause" "Ljava/lang/Throwable;") ∈ lw_all := lw_g (lw_at lw_m6 47 rfl) rfl
theorem q1383 : (Jvm.Cond.lays "java/lang/ArrayStoreException" "java/lang/Throwable" "stackTrace" "[Ljava/lang/StackTraceElement;") ∈ lw_all := lw_g (lw_at lw_m6 48 rfl) rfl
theorem q1384 : (Jvm.Cond.lays "java/lang/ArrayStoreException" "java/lang/Throwable" "depth" "I") ∈ lw_all := lw_g (lw_at lw_m6 49 rfl) rfl
theorem q1385 : (Jvm.Cond.lays "java/lang/ArrayStoreException" "java/lang/Throwable" "suppressedExceptions" "Ljava/util/List;") ∈ lw_all := lw_g (lw_at lw_m6 50 rfl) rfl
theorem q1386 : (Jvm.Cond.superclass "java/lang/ArrayStoreException" "java/lang/RuntimeException") ∈ lw_all := lw_g (lw_at lw_m6 51 rfl) rfl
theorem q1387 : (Jvm.Cond.castable "java/lang/ArrayStoreException" "java/lang/ArrayStoreException") ∈ lw_tbl := lw_at lw_m6 52 rfl
theorem q1388 : (Jvm.Cond.selects "java/lang/ArrayStoreException" ({ cls := "java/lang/Throwable", name := "fillInStackTrace", desc := "(I)Ljava/lang/Throwable;" } : Jvm.MethodName) ({ cls := "java/lang/Throwable", name := "fillInStackTrace", desc := "(I)Ljava/lang/Throwable;" } : Jvm.MethodName)) ∈ lw_all := lw_g (lw_at lw_m6 53 rfl) rfl
theorem q2120 : (Jvm.Cond.castable "java/lang/ArrayStoreException" "java/lang/Object") ∈ lw_tbl := lw_at lw_m9 65 rfl
theorem q144 : (Jvm.Cond.initialized "java/util/ArrayList") ∈ lw_all := lw_g (lw_at lw_m1 9 rfl) rfl
theorem q303 : (Jvm.Cond.instantiable "java/util/ArrayList" (3 : Nat)) ∈ lw_all := lw_g (lw_at lw_m1 168 rfl) rfl
theorem q305 : (Jvm.Cond.instanceMethod ({ cls := "java/util/ArrayList", name := "<init>", desc := "()V" } : Jvm.MethodName)) ∈ lw_all := lw_g (lw_at lw_m1 170 rfl) rfl
theorem q306 : (Jvm.Cond.code ({ cls := "java/util/ArrayList", name := "<init>", desc := "()V" } : Jvm.MethodName) prog_36_method_2_code (1 : Nat) (Option.none : Option Jvm.ClassFile.FieldType)) ∈ lw_all := lw_g (lw_at lw_m1 171 rfl) rfl
theorem q307 : (Jvm.Cond.methodLink "java/util/ArrayList" (1 : Nat) ({ cls := "java/util/AbstractList", name := "<init>", desc := "()V" } : Jvm.MethodName)) ∈ lw_all := lw_g (lw_at lw_m1 172 rfl) rfl
theorem q314 : (Jvm.Cond.fieldLink "java/util/ArrayList" (39 : Nat) "java/util/ArrayList" "DEFAULTCAPACITY_EMPTY_ELEMENTDATA" "[Ljava/lang/Object;") ∈ lw_all := lw_g (lw_at lw_m1 179 rfl) rfl
theorem q315 : (Jvm.Cond.laysStatic "java/util/ArrayList" "DEFAULTCAPACITY_EMPTY_ELEMENTDATA" "[Ljava/lang/Object;") ∈ lw_tbl := lw_at lw_m1 180 rfl
theorem q316 : (Jvm.Cond.fieldLink "java/util/ArrayList" (9 : Nat) "java/util/ArrayList" "elementData" "[Ljava/lang/Object;") ∈ lw_all := lw_g (lw_at lw_m1 181 rfl) rfl
theorem q317 : (Jvm.Cond.fieldLink "java/util/ArrayList" (48 : Nat) "java/util/ArrayList" "size" "I") ∈ lw_all := lw_g (lw_at lw_m1 182 rfl) rfl
theorem q319 : (Jvm.Cond.fieldLink "java/util/ArrayList" (63 : Nat) "java/util/ArrayList" "modCount" "I") ∈ lw_all := lw_g (lw_at lw_m1 184 rfl) rfl
theorem q320 : (Jvm.Cond.sameField "java/util/ArrayList" "java/util/AbstractList" "modCount" "I") ∈ lw_all := lw_g (lw_at lw_m1 185 rfl) rfl
theorem q321 : (Jvm.Cond.lays "java/util/ArrayList" "java/util/ArrayList" "elementData" "[Ljava/lang/Object;") ∈ lw_all := lw_g (lw_at lw_m1 186 rfl) rfl
theorem q322 : (Jvm.Cond.soleField "java/util/ArrayList" "elementData") ∈ lw_all := lw_g (lw_at lw_m1 187 rfl) rfl
theorem q323 : (Jvm.Cond.lays "java/util/ArrayList" "java/util/ArrayList" "size" "I") ∈ lw_all := lw_g (lw_at lw_m1 188 rfl) rfl
theorem q324 : (Jvm.Cond.soleField "java/util/ArrayList" "size") ∈ lw_all := lw_g (lw_at lw_m1 189 rfl) rfl
theorem q325 : (Jvm.Cond.lays "java/util/ArrayList" "java/util/AbstractList" "modCount" "I") ∈ lw_all := lw_g (lw_at lw_m1 190 rfl) rfl
theorem q327 : (Jvm.Cond.superclass "java/util/ArrayList" "java/util/AbstractList") ∈ lw_all := lw_g (lw_at lw_m1 192 rfl) rfl
theorem q1214 : (Jvm.Cond.instanceMethod ({ cls := "java/util/ArrayList", name := "size", desc := "()I" } : Jvm.MethodName)) ∈ lw_all := lw_g (lw_at lw_m5 119 rfl) rfl
theorem q1215 : (Jvm.Cond.selects "java/util/ArrayList" ({ cls := "java/util/ArrayList", name := "size", desc := "()I" } : Jvm.MethodName) ({ cls := "java/util/ArrayList", name := "size", desc := "()I" } : Jvm.MethodName)) ∈ lw_all := lw_g (lw_at lw_m5 120 rfl) rfl
theorem q1216 : (Jvm.Cond.code ({ cls := "java/util/ArrayList", name := "size", desc := "()I" } : Jvm.MethodName) prog_36_method_8_code (1 : Nat) (Option.some Jvm.ClassFile.FieldType.int)) ∈ lw_all := lw_g (lw_at lw_m5 121 rfl) rfl
theorem q1218 : (Jvm.Cond.instanceMethod ({ cls := "java/util/ArrayList", name := "add", desc := "(Ljava/lang/Object;)Z" } : Jvm.MethodName)) ∈ lw_all := lw_g (lw_at lw_m5 123 rfl) rfl
theorem q1219 : (Jvm.Cond.selects "java/util/ArrayList" ({ cls := "java/util/ArrayList", name := "add", desc := "(Ljava/lang/Object;)Z" } : Jvm.MethodName) ({ cls := "java/util/ArrayList", name := "add", desc := "(Ljava/lang/Object;)Z" } : Jvm.MethodName)) ∈ lw_all := lw_g (lw_at lw_m5 124 rfl) rfl
theorem q1220 : (Jvm.Cond.code ({ cls := "java/util/ArrayList", name := "add", desc := "(Ljava/lang/Object;)Z" } : Jvm.MethodName) prog_36_method_25_code (2 : Nat) (Option.some Jvm.ClassFile.FieldType.boolean)) ∈ lw_all := lw_g (lw_at lw_m5 125 rfl) rfl
theorem q1221 : (Jvm.Cond.methodLink "java/util/ArrayList" (131 : Nat) ({ cls := "java/util/ArrayList", name := "add", desc := "(Ljava/lang/Object;[Ljava/lang/Object;I)V" } : Jvm.MethodName)) ∈ lw_all := lw_g (lw_at lw_m5 126 rfl) rfl
theorem q1222 : (Jvm.Cond.privateMethod ({ cls := "java/util/ArrayList", name := "add", desc := "(Ljava/lang/Object;[Ljava/lang/Object;I)V" } : Jvm.MethodName)) ∈ lw_tbl := lw_at lw_m5 127 rfl
theorem q1223 : (Jvm.Cond.instanceMethod ({ cls := "java/util/ArrayList", name := "add", desc := "(Ljava/lang/Object;[Ljava/lang/Object;I)V" } : Jvm.MethodName)) ∈ lw_all := lw_g (lw_at lw_m5 128 rfl) rfl
theorem q1224 : (Jvm.Cond.code ({ cls := "java/util/ArrayList", name := "add", desc := "(Ljava/lang/Object;[Ljava/lang/Object;I)V" } : Jvm.MethodName) prog_36_method_24_code (4 : Nat) (Option.none : Option Jvm.ClassFile.FieldType)) ∈ lw_all := lw_g (lw_at lw_m5 129 rfl) rfl
theorem q1225 : (Jvm.Cond.methodLink "java/util/ArrayList" (129 : Nat) ({ cls := "java/util/ArrayList", name := "grow", desc := "()[Ljava/lang/Object;" } : Jvm.MethodName)) ∈ lw_all := lw_g (lw_at lw_m5 130 rfl) rfl
theorem q1226 : (Jvm.Cond.privateMethod ({ cls := "java/util/ArrayList", name := "grow", desc := "()[Ljava/lang/Object;" } : Jvm.MethodName)) ∈ lw_tbl := lw_at lw_m5 131 rfl
theorem q1227 : (Jvm.Cond.instanceMethod ({ cls := "java/util/ArrayList", name := "grow", desc := "()[Ljava/lang/Object;" } : Jvm.MethodName)) ∈ lw_all := lw_g (lw_at lw_m5 132 rfl) rfl
theorem q1228 : (Jvm.Cond.code ({ cls := "java/util/ArrayList", name := "grow", desc := "()[Ljava/lang/Object;" } : Jvm.MethodName) prog_36_method_7_code (1 : Nat) (Option.some (Jvm.ClassFile.FieldType.array (Jvm.ClassFile.FieldType.object "java/lang/Object")))) ∈ lw_all := lw_g (lw_at lw_m5 133 rfl) rfl
theorem q1229 : (Jvm.Cond.methodLink "java/util/ArrayList" (69 : Nat) ({ cls := "java/util/ArrayList", name := "grow", desc := "(I)[Ljava/lang/Object;" } : Jvm.MethodName)) ∈ lw_all := lw_g (lw_at lw_m5 134 rfl) rfl
theorem q1230 : (Jvm.Cond.privateMethod ({ cls := "java/util/ArrayList", name := "grow", desc := "(I)[Ljava/lang/Object;" } : Jvm.MethodName)) ∈ lw_tbl := lw_at lw_m5 135 rfl
theorem q1231 : (Jvm.Cond.instanceMethod ({ cls := "java/util/ArrayList", name := "grow", desc := "(I)[Ljava/lang/Object;" } : Jvm.MethodName)) ∈ lw_all := lw_g (lw_at lw_m5 136 rfl) rfl
theorem q1232 : (Jvm.Cond.code ({ cls := "java/util/ArrayList", name := "grow", desc := "(I)[Ljava/lang/Object;" } : Jvm.MethodName) prog_36_method_6_code (4 : Nat) (Option.some (Jvm.ClassFile.FieldType.array (Jvm.ClassFile.FieldType.object "java/lang/Object")))) ∈ lw_all := lw_g (lw_at lw_m5 137 rfl) rfl
theorem q1233 : (Jvm.Cond.methodLink "java/util/ArrayList" (73 : Nat) ({ cls := "jdk/internal/util/ArraysSupport", name := "newLength", desc := "(III)I" } : Jvm.MethodName)) ∈ lw_all := lw_g (lw_at lw_m5 138 rfl) rfl
theorem q1243 : (Jvm.Cond.methodLink "java/util/ArrayList" (66 : Nat) ({ cls := "java/util/Arrays", name := "copyOf", desc := "([Ljava/lang/Object;I)[Ljava/lang/Object;" } : Jvm.MethodName)) ∈ lw_all := lw_g (lw_at lw_m5 148 rfl) rfl
theorem q1263 : (Jvm.Cond.selects "java/util/ArrayList" ({ cls := "java/lang/Object", name := "getClass", desc := "()Ljava/lang/Class;" } : Jvm.MethodName) ({ cls := "java/lang/Object", name := "getClass", desc := "()Ljava/lang/Class;" } : Jvm.MethodName)) ∈ lw_all := lw_g (lw_at lw_m5 168 rfl) rfl
theorem q1275 : (Jvm.Cond.methodLink "java/util/ArrayList" (79 : Nat) ({ cls := "java/lang/Math", name := "max", desc := "(II)I" } : Jvm.MethodName)) ∈ lw_all := lw_g (lw_at lw_m5 180 rfl) rfl
theorem q1276 : (Jvm.Cond.classLink "java/util/ArrayList" (7 : Nat) "java/lang/Object") ∈ lw_all := lw_g (lw_at lw_m5 181 rfl) rfl
theorem q1285 : (Jvm.Cond.instanceMethod ({ cls := "java/util/ArrayList", name := "set", desc := "(ILjava/lang/Object;)Ljava/lang/Object;" } : Jvm.MethodName)) ∈ lw_all := lw_g (lw_at lw_m5 190 rfl) rfl
theorem q1286 : (Jvm.Cond.selects "java/util/ArrayList" ({ cls := "java/util/ArrayList", name := "set", desc := "(ILjava/lang/Object;)Ljava/lang/Object;" } : Jvm.MethodName) ({ cls := "java/util/ArrayList", name := "set", desc := "(ILjava/lang/Object;)Ljava/lang/Object;" } : Jvm.MethodName)) ∈ lw_all := lw_g (lw_at lw_m5 191 rfl) rfl
theorem q1287 : (Jvm.Cond.code ({ cls := "java/util/ArrayList", name := "set", desc := "(ILjava/lang/Object;)Ljava/lang/Object;" } : Jvm.MethodName) prog_36_method_23_code (4 : Nat) (Option.some (Jvm.ClassFile.FieldType.object "java/lang/Object"))) ∈ lw_all := lw_g (lw_at lw_m5 192 rfl) rfl
theorem q1288 : (Jvm.Cond.methodLink "java/util/ArrayList" (118 : Nat) ({ cls := "java/util/Objects", name := "checkIndex", desc := "(II)I" } : Jvm.MethodName)) ∈ lw_all := lw_g (lw_at lw_m5 193 rfl) rfl
theorem q1292 : (Jvm.Cond.methodLink "java/util/ArrayList" (123 : Nat) ({ cls := "java/util/ArrayList", name := "elementData", desc := "(I)Ljava/lang/Object;" } : Jvm.MethodName)) ∈ lw_all := lw_g (lw_at lw_m5 197 rfl) rfl
theorem q1293 : (Jvm.Cond.instanceMethod ({ cls := "java/util/ArrayList", name := "elementData", desc := "(I)Ljava/lang/Object;" } : Jvm.MethodName)) ∈ lw_all := lw_g (lw_at lw_m5 198 rfl) rfl
theorem q1294 : (Jvm.Cond.selects "java/util/ArrayList" ({ cls := "java/util/ArrayList", name := "elementData", desc := "(I)Ljava/lang/Object;" } : Jvm.MethodName) ({ cls := "java/util/ArrayList", name := "elementData", desc := "(I)Ljava/lang/Object;" } : Jvm.MethodName)) ∈ lw_all := lw_g (lw_at lw_m5 199 rfl) rfl
theorem q1295 : (Jvm.Cond.code ({ cls := "java/util/ArrayList", name := "elementData", desc := "(I)Ljava/lang/Object;" } : Jvm.MethodName) prog_36_method_18_code (2 : Nat) (Option.some (Jvm.ClassFile.FieldType.object "java/lang/Object"))) ∈ lw_all := lw_g (lw_at lw_m5 200 rfl) rfl
theorem q1301 : (Jvm.Cond.instanceMethod ({ cls := "java/util/ArrayList", name := "isEmpty", desc := "()Z" } : Jvm.MethodName)) ∈ lw_all := lw_g (lw_at lw_m5 206 rfl) rfl
theorem q1302 : (Jvm.Cond.selects "java/util/ArrayList" ({ cls := "java/util/ArrayList", name := "isEmpty", desc := "()Z" } : Jvm.MethodName) ({ cls := "java/util/ArrayList", name := "isEmpty", desc := "()Z" } : Jvm.MethodName)) ∈ lw_all := lw_g (lw_at lw_m5 207 rfl) rfl
theorem q1303 : (Jvm.Cond.code ({ cls := "java/util/ArrayList", name := "isEmpty", desc := "()Z" } : Jvm.MethodName) prog_36_method_9_code (1 : Nat) (Option.some Jvm.ClassFile.FieldType.boolean)) ∈ lw_all := lw_g (lw_at lw_m5 208 rfl) rfl
theorem q1305 : (Jvm.Cond.instanceMethod ({ cls := "java/util/ArrayList", name := "get", desc := "(I)Ljava/lang/Object;" } : Jvm.MethodName)) ∈ lw_all := lw_g (lw_at lw_m5 210 rfl) rfl
theorem q1306 : (Jvm.Cond.selects "java/util/ArrayList" ({ cls := "java/util/ArrayList", name := "get", desc := "(I)Ljava/lang/Object;" } : Jvm.MethodName) ({ cls := "java/util/ArrayList", name := "get", desc := "(I)Ljava/lang/Object;" } : Jvm.MethodName)) ∈ lw_all := lw_g (lw_at lw_m5 211 rfl) rfl
theorem q1307 : (Jvm.Cond.code ({ cls := "java/util/ArrayList", name := "get", desc := "(I)Ljava/lang/Object;" } : Jvm.MethodName) prog_36_method_20_code (2 : Nat) (Option.some (Jvm.ClassFile.FieldType.object "java/lang/Object"))) ∈ lw_all := lw_g (lw_at lw_m5 212 rfl) rfl
theorem q2112 : (Jvm.Cond.castable "java/util/ArrayList" "java/lang/Object") ∈ lw_tbl := lw_at lw_m9 57 rfl
theorem in_J2 : ∀ w ∈ wsJ20, w ∈ lw_all := lw_in wsJ20 [325, 321, 323] (by decide +kernel) (by decide +kernel)
theorem q174 : (Jvm.Cond.instanceMethod ({ cls := "java/lang/Object", name := "<init>", desc := "()V" } : Jvm.MethodName)) ∈ lw_all := lw_g (lw_at lw_m1 39 rfl) rfl
theorem q175 : (Jvm.Cond.code ({ cls := "java/lang/Object", name := "<init>", desc := "()V" } : Jvm.MethodName) object_method_1_code (1 : Nat) (Option.none : Option Jvm.ClassFile.FieldType)) ∈ lw_all := lw_g (lw_at lw_m1 40 rfl) rfl
theorem q1247 : (Jvm.Cond.instanceMethod ({ cls := "java/lang/Object", name := "getClass", desc := "()Ljava/lang/Class;" } : Jvm.MethodName)) ∈ lw_all := lw_g (lw_at lw_m5 152 rfl) rfl
theorem q1248 : (Jvm.Cond.sameMethod "java/lang/Object" "java/lang/Object" "getClass" "()Ljava/lang/Class;") ∈ lw_all := lw_g (lw_at lw_m5 153 rfl) rfl
theorem q1264 : (Jvm.Cond.native ({ cls := "java/lang/Object", name := "getClass", desc := "()Ljava/lang/Class;" } : Jvm.MethodName)) ∈ lw_all := lw_g (lw_at lw_m5 169 rfl) rfl
theorem q2104 : (Jvm.Cond.initialized "java/lang/Object") ∈ lw_all := lw_g (lw_at lw_m9 49 rfl) rfl
theorem q2125 : (Jvm.Cond.declares ({ cls := "java/lang/Object", name := "getClass", desc := "()Ljava/lang/Class;" } : Jvm.MethodName)) ∈ lw_tbl := lw_at lw_m9 70 rfl
theorem q149 : (Jvm.Cond.initialized "java/lang/Math") ∈ lw_all := lw_g (lw_at lw_m1 14 rfl) rfl
theorem q477 : (Jvm.Cond.static ({ cls := "java/lang/Math", name := "min", desc := "(II)I" } : Jvm.MethodName)) ∈ lw_all := lw_g (lw_at lw_m2 102 rfl) rfl
theorem q478 : (Jvm.Cond.code ({ cls := "java/lang/Math", name := "min", desc := "(II)I" } : Jvm.MethodName) prog_23_method_69_code (2 : Nat) (Option.some Jvm.ClassFile.FieldType.int)) ∈ lw_all := lw_g (lw_at lw_m2 103 rfl) rfl
theorem q728 : (Jvm.Cond.static ({ cls := "java/lang/Math", name := "abs", desc := "(I)I" } : Jvm.MethodName)) ∈ lw_all := lw_g (lw_at lw_m3 113 rfl) rfl
theorem q729 : (Jvm.Cond.code ({ cls := "java/lang/Math", name := "abs", desc := "(I)I" } : Jvm.MethodName) prog_23_method_59_code (1 : Nat) (Option.some Jvm.ClassFile.FieldType.int)) ∈ lw_all := lw_g (lw_at lw_m3 114 rfl) rfl
theorem q1237 : (Jvm.Cond.static ({ cls := "java/lang/Math", name := "max", desc := "(II)I" } : Jvm.MethodName)) ∈ lw_all := lw_g (lw_at lw_m5 142 rfl) rfl
theorem q1238 : (Jvm.Cond.code ({ cls := "java/lang/Math", name := "max", desc := "(II)I" } : Jvm.MethodName) prog_23_method_65_code (2 : Nat) (Option.some Jvm.ClassFile.FieldType.int)) ∈ lw_all := lw_g (lw_at lw_m5 143 rfl) rfl
theorem q150 : (Jvm.Cond.initialized "java/lang/String") ∈ lw_all := lw_g (lw_at lw_m1 15 rfl) rfl
theorem q529 : (Jvm.Cond.instanceMethod ({ cls := "java/lang/String", name := "length", desc := "()I" } : Jvm.MethodName)) ∈ lw_all := lw_g (lw_at lw_m2 154 rfl) rfl
theorem q530 : (Jvm.Cond.selects "java/lang/String" ({ cls := "java/lang/String", name := "length", desc := "()I" } : Jvm.MethodName) ({ cls := "java/lang/String", name := "length", desc := "()I" } : Jvm.MethodName)) ∈ lw_all := lw_g (lw_at lw_m2 155 rfl) rfl
theorem q531 : (Jvm.Cond.code ({ cls := "java/lang/String", name := "length", desc := "()I" } : Jvm.MethodName) prog_27_method_54_code (1 : Nat) (Option.some Jvm.ClassFile.FieldType.int)) ∈ lw_all := lw_g (lw_at lw_m2 156 rfl) rfl
theorem q532 : (Jvm.Cond.methodLink "java/lang/String" (335 : Nat) ({ cls := "java/lang/String", name := "coder", desc := "()B" } : Jvm.MethodName)) ∈ lw_all := lw_g (lw_at lw_m2 157 rfl) rfl
theorem q533 : (Jvm.Cond.instanceMethod ({ cls := "java/lang/String", name := "coder", desc := "()B" } : Jvm.MethodName)) ∈ lw_all := lw_g (lw_at lw_m2 158 rfl) rfl
theorem q534 : (Jvm.Cond.selects "java/lang/String" ({ cls := "java/lang/String", name := "coder", desc := "()B" } : Jvm.MethodName) ({ cls := "java/lang/String", name := "coder", desc := "()B" } : Jvm.MethodName)) ∈ lw_all := lw_g (lw_at lw_m2 159 rfl) rfl
theorem q535 : (Jvm.Cond.code ({ cls := "java/lang/String", name := "coder", desc := "()B" } : Jvm.MethodName) prog_27_method_152_code (1 : Nat) (Option.some Jvm.ClassFile.FieldType.byte)) ∈ lw_all := lw_g (lw_at lw_m2 160 rfl) rfl
theorem q536 : (Jvm.Cond.fieldLink "java/lang/String" (38 : Nat) "java/lang/String" "COMPACT_STRINGS" "Z") ∈ lw_all := lw_g (lw_at lw_m2 161 rfl) rfl
theorem q537 : (Jvm.Cond.laysStatic "java/lang/String" "COMPACT_STRINGS" "Z") ∈ lw_tbl := lw_at lw_m2 162 rfl
theorem q539 : (Jvm.Cond.instanceMethod ({ cls := "java/lang/String", name := "charAt", desc := "(I)C" } : Jvm.MethodName)) ∈ lw_all := lw_g (lw_at lw_m2 164 rfl) rfl
theorem q540 : (Jvm.Cond.selects "java/lang/String" ({ cls := "java/lang/String", name := "charAt", desc := "(I)C" } : Jvm.MethodName) ({ cls := "java/lang/String", name := "charAt", desc := "(I)C" } : Jvm.MethodName)) ∈ lw_all := lw_g (lw_at lw_m2 165 rfl) rfl
theorem q541 : (Jvm.Cond.code ({ cls := "java/lang/String", name := "charAt", desc := "(I)C" } : Jvm.MethodName) prog_27_method_56_code (2 : Nat) (Option.some Jvm.ClassFile.FieldType.char)) ∈ lw_all := lw_g (lw_at lw_m2 166 rfl) rfl
theorem q542 : (Jvm.Cond.methodLink "java/lang/String" (492 : Nat) ({ cls := "java/lang/String", name := "isLatin1", desc := "()Z" } : Jvm.MethodName)) ∈ lw_all := lw_g (lw_at lw_m2 167 rfl) rfl
theorem q543 : (Jvm.Cond.instanceMethod ({ cls := "java/lang/String", name := "isLatin1", desc := "()Z" } : Jvm.MethodName)) ∈ lw_all := lw_g (lw_at lw_m2 168 rfl) rfl
theorem q544 : (Jvm.Cond.selects "java/lang/String" ({ cls := "java/lang/String", name := "isLatin1", desc := "()Z" } : Jvm.MethodName) ({ cls := "java/lang/String", name := "isLatin1", desc := "()Z" } : Jvm.MethodName)) ∈ lw_all := lw_g (lw_at lw_m2 169 rfl) rfl
theorem q545 : (Jvm.Cond.code ({ cls := "java/lang/String", name := "isLatin1", desc := "()Z" } : Jvm.MethodName) prog_27_method_154_code (1 : Nat) (Option.some Jvm.ClassFile.FieldType.boolean)) ∈ lw_all := lw_g (lw_at lw_m2 170 rfl) rfl
theorem q546 : (Jvm.Cond.methodLink "java/lang/String" (495 : Nat) ({ cls := "java/lang/StringLatin1", name := "charAt", desc := "([BI)C" } : Jvm.MethodName)) ∈ lw_all := lw_g (lw_at lw_m2 171 rfl) rfl
theorem q550 : (Jvm.Cond.static ({ cls := "java/lang/String", name := "checkIndex", desc := "(II)V" } : Jvm.MethodName)) ∈ lw_all := lw_g (lw_at lw_m2 175 rfl) rfl
theorem q551 : (Jvm.Cond.code ({ cls := "java/lang/String", name := "checkIndex", desc := "(II)V" } : Jvm.MethodName) prog_27_method_155_code (2 : Nat) (Option.none : Option Jvm.ClassFile.FieldType)) ∈ lw_all := lw_g (lw_at lw_m2 176 rfl) rfl
theorem q552 : (Jvm.Cond.fieldLink "java/lang/String" (1053 : Nat) "jdk/internal/util/Preconditions" "SIOOBE_FORMATTER" "Ljava/util/function/BiFunction;") ∈ lw_all := lw_g (lw_at lw_m2 177 rfl) rfl
theorem q554 : (Jvm.Cond.methodLink "java/lang/String" (1059 : Nat) ({ cls := "jdk/internal/util/Preconditions", name := "checkIndex", desc := "(IILjava/util/function/BiFunction;)I" } : Jvm.MethodName)) ∈ lw_all := lw_g (lw_at lw_m2 179 rfl) rfl
theorem q557 : (Jvm.Cond.methodLink "java/lang/String" (498 : Nat) ({ cls := "java/lang/StringUTF16", name := "charAt", desc := "([BI)C" } : Jvm.MethodName)) ∈ lw_all := lw_g (lw_at lw_m2 182 rfl) rfl
theorem q1334 : (Jvm.Cond.instantiable "java/lang/String" (4 : Nat)) ∈ lw_all := lw_g (lw_at lw_m5 239 rfl) rfl
theorem q1335 : (Jvm.Cond.laysFinal "java/lang/String" "java/lang/String" "value" "[B") ∈ lw_all := lw_g (lw_at lw_m6 0 rfl) rfl
theorem q1336 : (Jvm.Cond.soleField "java/lang/String" "value") ∈ lw_all := lw_g (lw_at lw_m6 1 rfl) rfl
theorem q1337 : (Jvm.Cond.laysFinal "java/lang/String" "java/lang/String" "coder" "B") ∈ lw_all := lw_g (lw_at lw_m6 2 rfl) rfl
theorem q1338 : (Jvm.Cond.soleField "java/lang/String" "coder") ∈ lw_all := lw_g (lw_at lw_m6 3 rfl) rfl
theorem q2122 : (Jvm.Cond.castable "java/lang/String" "java/lang/Object") ∈ lw_tbl := lw_at lw_m9 67 rfl
theorem q2133 : (Jvm.Cond.fieldLink "java/lang/String" (9 : Nat) "java/lang/String" "value" "[B") ∈ lw_all := lw_g (lw_at lw_m9 78 rfl) rfl
theorem q2134 : (Jvm.Cond.fieldLink "java/lang/String" (15 : Nat) "java/lang/String" "coder" "B") ∈ lw_all := lw_g (lw_at lw_m9 79 rfl) rfl
theorem q151 : (Jvm.Cond.initialized "java/lang/StringLatin1") ∈ lw_all := lw_g (lw_at lw_m1 16 rfl) rfl
theorem q547 : (Jvm.Cond.static ({ cls := "java/lang/StringLatin1", name := "charAt", desc := "([BI)C" } : Jvm.MethodName)) ∈ lw_all := lw_g (lw_at lw_m2 172 rfl) rfl
theorem q548 : (Jvm.Cond.code ({ cls := "java/lang/StringLatin1", name := "charAt", desc := "([BI)C" } : Jvm.MethodName) prog_28_method_2_code (2 : Nat) (Option.some Jvm.ClassFile.FieldType.char)) ∈ lw_all := lw_g (lw_at lw_m2 173 rfl) rfl
theorem q549 : (Jvm.Cond.methodLink "java/lang/StringLatin1" (9 : Nat) ({ cls := "java/lang/String", name := "checkIndex", desc := "(II)V" } : Jvm.MethodName)) ∈ lw_all := lw_g (lw_at lw_m2 174 rfl) rfl
theorem q152 : (Jvm.Cond.initialized "jdk/internal/util/Preconditions") ∈ lw_all := lw_g (lw_at lw_m1 17 rfl) rfl
theorem q553 : (Jvm.Cond.laysStatic "jdk/internal/util/Preconditions" "SIOOBE_FORMATTER" "Ljava/util/function/BiFunction;") ∈ lw_tbl := lw_at lw_m2 178 rfl
theorem q555 : (Jvm.Cond.static ({ cls := "jdk/internal/util/Preconditions", name := "checkIndex", desc := "(IILjava/util/function/BiFunction;)I" } : Jvm.MethodName)) ∈ lw_all := lw_g (lw_at lw_m2 180 rfl) rfl
theorem q556 : (Jvm.Cond.code ({ cls := "jdk/internal/util/Preconditions", name := "checkIndex", desc := "(IILjava/util/function/BiFunction;)I" } : Jvm.MethodName) prog_44_method_11_code (3 : Nat) (Option.some Jvm.ClassFile.FieldType.int)) ∈ lw_all := lw_g (lw_at lw_m2 181 rfl) rfl
theorem q153 : (Jvm.Cond.initialized "java/lang/StringUTF16") ∈ lw_all := lw_g (lw_at lw_m1 18 rfl) rfl
theorem q558 : (Jvm.Cond.static ({ cls := "java/lang/StringUTF16", name := "charAt", desc := "([BI)C" } : Jvm.MethodName)) ∈ lw_all := lw_g (lw_at lw_m2 183 rfl) rfl
theorem q559 : (Jvm.Cond.code ({ cls := "java/lang/StringUTF16", name := "charAt", desc := "([BI)C" } : Jvm.MethodName) prog_29_method_83_code (2 : Nat) (Option.some Jvm.ClassFile.FieldType.char)) ∈ lw_all := lw_g (lw_at lw_m2 184 rfl) rfl
theorem q560 : (Jvm.Cond.methodLink "java/lang/StringUTF16" (67 : Nat) ({ cls := "java/lang/StringUTF16", name := "checkIndex", desc := "(I[B)V" } : Jvm.MethodName)) ∈ lw_all := lw_g (lw_at lw_m2 185 rfl) rfl
theorem q561 : (Jvm.Cond.static ({ cls := "java/lang/StringUTF16", name := "checkIndex", desc := "(I[B)V" } : Jvm.MethodName)) ∈ lw_all := lw_g (lw_at lw_m2 186 rfl) rfl
theorem q562 : (Jvm.Cond.code ({ cls := "java/lang/StringUTF16", name := "checkIndex", desc := "(I[B)V" } : Jvm.MethodName) prog_29_method_91_code (2 : Nat) (Option.none : Option Jvm.ClassFile.FieldType)) ∈ lw_all := lw_g (lw_at lw_m2 187 rfl) rfl
theorem q563 : (Jvm.Cond.methodLink "java/lang/StringUTF16" (48 : Nat) ({ cls := "java/lang/StringUTF16", name := "length", desc := "([B)I" } : Jvm.MethodName)) ∈ lw_all := lw_g (lw_at lw_m2 188 rfl) rfl
theorem q564 : (Jvm.Cond.static ({ cls := "java/lang/StringUTF16", name := "length", desc := "([B)I" } : Jvm.MethodName)) ∈ lw_all := lw_g (lw_at lw_m2 189 rfl) rfl
theorem q565 : (Jvm.Cond.code ({ cls := "java/lang/StringUTF16", name := "length", desc := "([B)I" } : Jvm.MethodName) prog_29_method_6_code (1 : Nat) (Option.some Jvm.ClassFile.FieldType.int)) ∈ lw_all := lw_g (lw_at lw_m2 190 rfl) rfl
theorem q566 : (Jvm.Cond.methodLink "java/lang/StringUTF16" (414 : Nat) ({ cls := "java/lang/String", name := "checkIndex", desc := "(II)V" } : Jvm.MethodName)) ∈ lw_all := lw_g (lw_at lw_m2 191 rfl) rfl
theorem q567 : (Jvm.Cond.methodLink "java/lang/StringUTF16" (71 : Nat) ({ cls := "java/lang/StringUTF16", name := "getChar", desc := "([BI)C" } : Jvm.MethodName)) ∈ lw_all := lw_g (lw_at lw_m2 192 rfl) rfl
theorem q568 : (Jvm.Cond.static ({ cls := "java/lang/StringUTF16", name := "getChar", desc := "([BI)C" } : Jvm.MethodName)) ∈ lw_all := lw_g (lw_at lw_m2 193 rfl) rfl
theorem q569 : (Jvm.Cond.code ({ cls := "java/lang/StringUTF16", name := "getChar", desc := "([BI)C" } : Jvm.MethodName) prog_29_method_5_code (2 : Nat) (Option.some Jvm.ClassFile.FieldType.char)) ∈ lw_all := lw_g (lw_at lw_m2 194 rfl) rfl
theorem q570 : (Jvm.Cond.fieldLink "java/lang/StringUTF16" (44 : Nat) "java/lang/StringUTF16" "$assertionsDisabled" "Z") ∈ lw_all := lw_g (lw_at lw_m2 195 rfl) rfl
theorem q571 : (Jvm.Cond.laysStatic "java/lang/StringUTF16" "$assertionsDisabled" "Z") ∈ lw_tbl := lw_at lw_m2 196 rfl
theorem q572 : (Jvm.Cond.fieldLink "java/lang/StringUTF16" (59 : Nat) "java/lang/StringUTF16" "HI_BYTE_SHIFT" "I") ∈ lw_all := lw_g (lw_at lw_m2 197 rfl) rfl
theorem q573 : (Jvm.Cond.laysStatic "java/lang/StringUTF16" "HI_BYTE_SHIFT" "I") ∈ lw_tbl := lw_at lw_m2 198 rfl
theorem q574 : (Jvm.Cond.fieldLink "java/lang/StringUTF16" (63 : Nat) "java/lang/StringUTF16" "LO_BYTE_SHIFT" "I") ∈ lw_all := lw_g (lw_at lw_m2 199 rfl) rfl
theorem q575 : (Jvm.Cond.laysStatic "java/lang/StringUTF16" "LO_BYTE_SHIFT" "I") ∈ lw_tbl := lw_at lw_m2 200 rfl
theorem q154 : (Jvm.Cond.initialized "java/lang/Throwable") ∈ lw_all := lw_g (lw_at lw_m1 19 rfl) rfl
theorem q585 : (Jvm.Cond.declares ({ cls := "java/lang/Throwable", name := "<init>", desc := "()V" } : Jvm.MethodName)) ∈ lw_tbl := lw_at lw_m2 210 rfl
theorem q586 : (Jvm.Cond.declares ({ cls := "java/lang/Throwable", name := "<init>", desc := "(Ljava/lang/String;)V" } : Jvm.MethodName)) ∈ lw_tbl := lw_at lw_m2 211 rfl
theorem q590 : (Jvm.Cond.lays "java/lang/Throwable" "java/lang/Throwable" "cause" "Ljava/lang/Throwable;") ∈ lw_all := lw_g (lw_at lw_m2 215 rfl) rfl
theorem q592 : (Jvm.Cond.lays "java/lang/Throwable" "java/lang/Throwable" "stackTrace" "[Ljava/lang/StackTraceElement;") ∈ lw_all := lw_g (lw_at lw_m2 217 rfl) rfl
theorem q594 : (Jvm.Cond.lays "java/lang/Throwable" "java/lang/Throwable" "suppressedExceptions" "Ljava/util/List;") ∈ lw_all := lw_g (lw_at lw_m2 219 rfl) rfl
theorem q596 : (Jvm.Cond.lays "java/lang/Throwable" "java/lang/Throwable" "detailMessage" "Ljava/lang/String;") ∈ lw_all := lw_g (lw_at lw_m2 221 rfl) rfl
theorem q598 : (Jvm.Cond.lays "java/lang/Throwable" "java/lang/Throwable" "backtrace" "Ljava/lang/Object;") ∈ lw_all := lw_g (lw_at lw_m2 223 rfl) rfl
theorem q599 : (Jvm.Cond.fieldLink "java/lang/Throwable" (198 : Nat) "java/lang/Throwable" "backtrace" "Ljava/lang/Object;") ∈ lw_all := lw_g (lw_at lw_m2 224 rfl) rfl
theorem q600 : (Jvm.Cond.superclass "java/lang/Throwable" "java/lang/Object") ∈ lw_all := lw_g (lw_at lw_m2 225 rfl) rfl
theorem q601 : (Jvm.Cond.instanceMethod ({ cls := "java/lang/Throwable", name := "<init>", desc := "()V" } : Jvm.MethodName)) ∈ lw_all := lw_g (lw_at lw_m2 226 rfl) rfl
theorem q602 : (Jvm.Cond.code ({ cls := "java/lang/Throwable", name := "<init>", desc := "()V" } : Jvm.MethodName) prog_31_method_1_code (1 : Nat) (Option.none : Option Jvm.ClassFile.FieldType)) ∈ lw_all := lw_g (lw_at lw_m2 227 rfl) rfl
theorem q603 : (Jvm.Cond.methodLink "java/lang/Throwable" (1 : Nat) ({ cls := "java/lang/Object", name := "<init>", desc := "()V" } : Jvm.MethodName)) ∈ lw_all := lw_g (lw_at lw_m2 228 rfl) rfl
theorem q604 : (Jvm.Cond.fieldLink "java/lang/Throwable" (13 : Nat) "java/lang/Throwable" "UNASSIGNED_STACK" "[Ljava/lang/StackTraceElement;") ∈ lw_all := lw_g (lw_at lw_m2 229 rfl) rfl
theorem q605 : (Jvm.Cond.laysStatic "java/lang/Throwable" "UNASSIGNED_STACK" "[Ljava/lang/StackTraceElement;") ∈ lw_tbl := lw_at lw_m2 230 rfl
theorem q606 : (Jvm.Cond.fieldLink "java/lang/Throwable" (20 : Nat) "java/lang/Throwable" "SUPPRESSED_SENTINEL" "Ljava/util/List;") ∈ lw_all := lw_g (lw_at lw_m2 231 rfl) rfl
theorem q607 : (Jvm.Cond.laysStatic "java/lang/Throwable" "SUPPRESSED_SENTINEL" "Ljava/util/List;") ∈ lw_tbl := lw_at lw_m2 232 rfl
theorem q608 : (Jvm.Cond.methodLink "java/lang/Throwable" (27 : Nat) ({ cls := "java/lang/Throwable", name := "fillInStackTrace", desc := "()Ljava/lang/Throwable;" } : Jvm.MethodName)) ∈ lw_all := lw_g (lw_at lw_m2 233 rfl) rfl
theorem q609 : (Jvm.Cond.instanceMethod ({ cls := "java/lang/Throwable", name := "fillInStackTrace", desc := "()Ljava/lang/Throwable;" } : Jvm.MethodName)) ∈ lw_all := lw_g (lw_at lw_m2 234 rfl) rfl
theorem q610 : (Jvm.Cond.sameMethod "java/lang/Throwable" "java/lang/Throwable" "fillInStackTrace" "()Ljava/lang/Throwable;") ∈ lw_all := lw_g (lw_at lw_m2 235 rfl) rfl
theorem q624 : (Jvm.Cond.declares ({ cls := "java/lang/Throwable", name := "fillInStackTrace", desc := "()Ljava/lang/Throwable;" } : Jvm.MethodName)) ∈ lw_tbl := lw_at lw_m3 9 rfl
theorem q628 : (Jvm.Cond.codeSync ({ cls := "java/lang/Throwable", name := "fillInStackTrace", desc := "()Ljava/lang/Throwable;" } : Jvm.MethodName) prog_31_method_18_code (1 : Nat) (Option.some (Jvm.ClassFile.FieldType.object "java/lang/Throwable"))) ∈ lw_all := lw_g (lw_at lw_m3 13 rfl) rfl
theorem q629 : (Jvm.Cond.methodLink "java/lang/Throwable" (202 : Nat) ({ cls := "java/lang/Throwable", name := "fillInStackTrace", desc := "(I)Ljava/lang/Throwable;" } : Jvm.MethodName)) ∈ lw_all := lw_g (lw_at lw_m3 14 rfl) rfl
theorem q630 : (Jvm.Cond.privateMethod ({ cls := "java/lang/Throwable", name := "fillInStackTrace", desc := "(I)Ljava/lang/Throwable;" } : Jvm.MethodName)) ∈ lw_tbl := lw_at lw_m3 15 rfl
theorem q631 : (Jvm.Cond.instanceMethod ({ cls := "java/lang/Throwable", name := "fillInStackTrace", desc := "(I)Ljava/lang/Throwable;" } : Jvm.MethodName)) ∈ lw_all := lw_g (lw_at lw_m3 16 rfl) rfl
theorem q632 : (Jvm.Cond.instantiable "java/lang/Throwable" (6 : Nat)) ∈ lw_all := lw_g (lw_at lw_m3 17 rfl) rfl
theorem q633 : (Jvm.Cond.native ({ cls := "java/lang/Throwable", name := "fillInStackTrace", desc := "(I)Ljava/lang/Throwable;" } : Jvm.MethodName)) ∈ lw_all := lw_g (lw_at lw_m3 18 rfl) rfl
theorem q641 : (Jvm.Cond.instanceMethod ({ cls := "java/lang/Throwable", name := "<init>", desc := "(Ljava/lang/String;Ljava/lang/Throwable;ZZ)V" } : Jvm.MethodName)) ∈ lw_all := lw_g (lw_at lw_m3 26 rfl) rfl
theorem q642 : (Jvm.Cond.code ({ cls := "java/lang/Throwable", name := "<init>", desc := "(Ljava/lang/String;Ljava/lang/Throwable;ZZ)V" } : Jvm.MethodName) prog_31_method_5_code (5 : Nat) (Option.none : Option Jvm.ClassFile.FieldType)) ∈ lw_all := lw_g (lw_at lw_m3 27 rfl) rfl
theorem q647 : (Jvm.Cond.fieldLink "java/lang/Throwable" (198 : Nat) "java/lang/Throwable" "backtrace" "Ljava/lang/Object;") ∈ lw_all := lw_g (lw_at lw_m3 32 rfl) rfl
theorem q648 : (Jvm.Cond.fieldLink "java/lang/Throwable" (31 : Nat) "java/lang/Throwable" "detailMessage" "Ljava/lang/String;") ∈ lw_all := lw_g (lw_at lw_m3 33 rfl) rfl
theorem q649 : (Jvm.Cond.fieldLink "java/lang/Throwable" (7 : Nat) "java/lang/Throwable" "cause" "Ljava/lang/Throwable;") ∈ lw_all := lw_g (lw_at lw_m3 34 rfl) rfl
theorem q650 : (Jvm.Cond.fieldLink "java/lang/Throwable" (17 : Nat) "java/lang/Throwable" "stackTrace" "[Ljava/lang/StackTraceElement;") ∈ lw_all := lw_g (lw_at lw_m3 35 rfl) rfl
theorem q651 : (Jvm.Cond.fieldLink "java/lang/Throwable" (24 : Nat) "java/lang/Throwable" "suppressedExceptions" "Ljava/util/List;") ∈ lw_all := lw_g (lw_at lw_m3 36 rfl) rfl
theorem q656 : (Jvm.Cond.soleField "java/lang/Throwable" "backtrace") ∈ lw_all := lw_g (lw_at lw_m3 41 rfl) rfl
theorem q657 : (Jvm.Cond.soleField "java/lang/Throwable" "detailMessage") ∈ lw_all := lw_g (lw_at lw_m3 42 rfl) rfl
theorem q658 : (Jvm.Cond.soleField "java/lang/Throwable" "cause") ∈ lw_all := lw_g (lw_at lw_m3 43 rfl) rfl
theorem q659 : (Jvm.Cond.soleField "java/lang/Throwable" "stackTrace") ∈ lw_all := lw_g (lw_at lw_m3 44 rfl) rfl
theorem q661 : (Jvm.Cond.soleField "java/lang/Throwable" "depth") ∈ lw_all := lw_g (lw_at lw_m3 46 rfl) rfl
theorem q662 : (Jvm.Cond.soleField "java/lang/Throwable" "suppressedExceptions") ∈ lw_all := lw_g (lw_at lw_m3 47 rfl) rfl
theorem q1323 : (Jvm.Cond.instanceMethod ({ cls := "java/lang/Throwable", name := "<init>", desc := "(Ljava/lang/String;)V" } : Jvm.MethodName)) ∈ lw_all := lw_g (lw_at lw_m5 228 rfl) rfl
theorem q1324 : (Jvm.Cond.code ({ cls := "java/lang/Throwable", name := "<init>", desc := "(Ljava/lang/String;)V" } : Jvm.MethodName) prog_31_method_2_code (2 : Nat) (Option.none : Option Jvm.ClassFile.FieldType)) ∈ lw_all := lw_g (lw_at lw_m5 229 rfl) rfl
theorem q2103 : (Jvm.Cond.sameMethod "java/lang/Throwable" "java/lang/Throwable" "fillInStackTrace" "(I)Ljava/lang/Throwable;") ∈ lw_all := lw_g (lw_at lw_m9 48 rfl) rfl
theorem q2121 : (Jvm.Cond.castable "java/lang/Throwable" "java/lang/Object") ∈ lw_tbl := lw_at lw_m9 66 rfl
theorem q155 : (Jvm.Cond.initialized "java/lang/Exception") ∈ lw_all := lw_g (lw_at lw_m1 20 rfl) rfl
theorem q583 : (Jvm.Cond.declares ({ cls := "java/lang/Exception", name := "<init>", desc := "()V" } : Jvm.MethodName)) ∈ lw_tbl := lw_at lw_m2 208 rfl
theorem q584 : (Jvm.Cond.declares ({ cls := "java/lang/Exception", name := "<init>", desc := "(Ljava/lang/String;)V" } : Jvm.MethodName)) ∈ lw_tbl := lw_at lw_m2 209 rfl
theorem q627 : (Jvm.Cond.superclass "java/lang/Exception" "java/lang/Throwable") ∈ lw_all := lw_g (lw_at lw_m3 12 rfl) rfl
theorem q638 : (Jvm.Cond.instanceMethod ({ cls := "java/lang/Exception", name := "<init>", desc := "(Ljava/lang/String;Ljava/lang/Throwable;ZZ)V" } : Jvm.MethodName)) ∈ lw_all := lw_g (lw_at lw_m3 23 rfl) rfl
theorem q639 : (Jvm.Cond.code ({ cls := "java/lang/Exception", name := "<init>", desc := "(Ljava/lang/String;Ljava/lang/Throwable;ZZ)V" } : Jvm.MethodName) prog_19_method_5_code (5 : Nat) (Option.none : Option Jvm.ClassFile.FieldType)) ∈ lw_all := lw_g (lw_at lw_m3 24 rfl) rfl
theorem q640 : (Jvm.Cond.methodLink "java/lang/Exception" (16 : Nat) ({ cls := "java/lang/Throwable", name := "<init>", desc := "(Ljava/lang/String;Ljava/lang/Throwable;ZZ)V" } : Jvm.MethodName)) ∈ lw_all := lw_g (lw_at lw_m3 25 rfl) rfl
theorem q1038 : (Jvm.Cond.instanceMethod ({ cls := "java/lang/Exception", name := "<init>", desc := "()V" } : Jvm.MethodName)) ∈ lw_all := lw_g (lw_at lw_m4 183 rfl) rfl
theorem q1039 : (Jvm.Cond.code ({ cls := "java/lang/Exception", name := "<init>", desc := "()V" } : Jvm.MethodName) prog_19_method_1_code (1 : Nat) (Option.none : Option Jvm.ClassFile.FieldType)) ∈ lw_all := lw_g (lw_at lw_m4 184 rfl) rfl
theorem q1040 : (Jvm.Cond.methodLink "java/lang/Exception" (1 : Nat) ({ cls := "java/lang/Throwable", name := "<init>", desc := "()V" } : Jvm.MethodName)) ∈ lw_all := lw_g (lw_at lw_m4 185 rfl) rfl
theorem q1320 : (Jvm.Cond.instanceMethod ({ cls := "java/lang/Exception", name := "<init>", desc := "(Ljava/lang/String;)V" } : Jvm.MethodName)) ∈ lw_all := lw_g (lw_at lw_m5 225 rfl) rfl
theorem q1321 : (Jvm.Cond.code ({ cls := "java/lang/Exception", name := "<init>", desc := "(Ljava/lang/String;)V" } : Jvm.MethodName) prog_19_method_2_code (2 : Nat) (Option.none : Option Jvm.ClassFile.FieldType)) ∈ lw_all := lw_g (lw_at lw_m5 226 rfl) rfl
theorem q1322 : (Jvm.Cond.methodLink "java/lang/Exception" (7 : Nat) ({ cls := "java/lang/Throwable", name := "<init>", desc := "(Ljava/lang/String;)V" } : Jvm.MethodName)) ∈ lw_all := lw_g (lw_at lw_m5 227 rfl) rfl
theorem q136 : (Jvm.Cond.initialized "OnePassport") ∈ lw_all := lw_g (lw_at lw_m1 1 rfl) rfl
theorem q169 : (Jvm.Cond.instantiable "OnePassport" (34 : Nat)) ∈ lw_all := lw_g (lw_at lw_m1 34 rfl) rfl
theorem q171 : (Jvm.Cond.instanceMethod ({ cls := "OnePassport", name := "<init>", desc := "()V" } : Jvm.MethodName)) ∈ lw_all := lw_g (lw_at lw_m1 36 rfl) rfl
theorem q172 : (Jvm.Cond.code ({ cls := "OnePassport", name := "<init>", desc := "()V" } : Jvm.MethodName) prog_1_method_3_code (1 : Nat) (Option.none : Option Jvm.ClassFile.FieldType)) ∈ lw_all := lw_g (lw_at lw_m1 37 rfl) rfl
theorem q173 : (Jvm.Cond.methodLink "OnePassport" (3 : Nat) ({ cls := "java/lang/Object", name := "<init>", desc := "()V" } : Jvm.MethodName)) ∈ lw_all := lw_g (lw_at lw_m1 38 rfl) rfl
theorem q176 : (Jvm.Cond.classLink "OnePassport" (9 : Nat) "OnePassport$Family") ∈ lw_all := lw_g (lw_at lw_m1 41 rfl) rfl
theorem q178 : (Jvm.Cond.methodLinkNest "OnePassport" (11 : Nat) ({ cls := "OnePassport$Family", name := "<init>", desc := "()V" } : Jvm.MethodName) "OnePassport") ∈ lw_tbl := lw_at lw_m1 43 rfl
theorem q185 : (Jvm.Cond.fieldLinkNest "OnePassport" (240 : Nat) "OnePassport$Family" "loaf" "I" "OnePassport") ∈ lw_tbl := lw_at lw_m1 50 rfl
theorem q187 : (Jvm.Cond.fieldLinkNest "OnePassport" (117 : Nat) "OnePassport$Family" "lines" "I" "OnePassport") ∈ lw_tbl := lw_at lw_m1 52 rfl
theorem q191 : (Jvm.Cond.fieldLinkNest "OnePassport" (128 : Nat) "OnePassport$Family" "persons" "I" "OnePassport") ∈ lw_tbl := lw_at lw_m1 56 rfl
theorem q194 : (Jvm.Cond.fieldLinkNest "OnePassport" (131 : Nat) "OnePassport$Family" "posts" "I" "OnePassport") ∈ lw_tbl := lw_at lw_m1 59 rfl
theorem q197 : (Jvm.Cond.fieldLinkNest "OnePassport" (168 : Nat) "OnePassport$Family" "children" "I" "OnePassport") ∈ lw_tbl := lw_at lw_m1 62 rfl
theorem q200 : (Jvm.Cond.fieldLinkNest "OnePassport" (219 : Nat) "OnePassport$Family" "stay" "I" "OnePassport") ∈ lw_tbl := lw_at lw_m1 65 rfl
theorem q202 : (Jvm.Cond.fieldLinkNest "OnePassport" (231 : Nat) "OnePassport$Family" "acts" "I" "OnePassport") ∈ lw_tbl := lw_at lw_m1 67 rfl
theorem q205 : (Jvm.Cond.fieldLinkNest "OnePassport" (211 : Nat) "OnePassport$Family" "compares" "Z" "OnePassport") ∈ lw_tbl := lw_at lw_m1 70 rfl
theorem q208 : (Jvm.Cond.fieldLinkNest "OnePassport" (140 : Nat) "OnePassport$Family" "like" "[I" "OnePassport") ∈ lw_tbl := lw_at lw_m1 73 rfl
theorem q211 : (Jvm.Cond.fieldLinkNest "OnePassport" (153 : Nat) "OnePassport$Family" "nose" "[I" "OnePassport") ∈ lw_tbl := lw_at lw_m1 76 rfl
theorem q214 : (Jvm.Cond.fieldLinkNest "OnePassport" (143 : Nat) "OnePassport$Family" "strict" "[I" "OnePassport") ∈ lw_tbl := lw_at lw_m1 79 rfl
theorem q217 : (Jvm.Cond.fieldLinkNest "OnePassport" (162 : Nat) "OnePassport$Family" "keen" "[I" "OnePassport") ∈ lw_tbl := lw_at lw_m1 82 rfl
theorem q220 : (Jvm.Cond.fieldLinkNest "OnePassport" (188 : Nat) "OnePassport$Family" "looks" "[I" "OnePassport") ∈ lw_tbl := lw_at lw_m1 85 rfl
theorem q222 : (Jvm.Cond.fieldLinkNest "OnePassport" (234 : Nat) "OnePassport$Family" "act" "[I" "OnePassport") ∈ lw_tbl := lw_at lw_m1 87 rfl
theorem q253 : (Jvm.Cond.classLink "OnePassport" (28 : Nat) "OnePassport$Days") ∈ lw_all := lw_g (lw_at lw_m1 118 rfl) rfl
theorem q255 : (Jvm.Cond.methodLinkNest "OnePassport" (30 : Nat) ({ cls := "OnePassport$Days", name := "<init>", desc := "(LOnePassport;)V" } : Jvm.MethodName) "OnePassport") ∈ lw_tbl := lw_at lw_m1 120 rfl
theorem q264 : (Jvm.Cond.classLink "OnePassport" (37 : Nat) "OnePassport$Risk") ∈ lw_all := lw_g (lw_at lw_m1 129 rfl) rfl
theorem q266 : (Jvm.Cond.methodLinkNest "OnePassport" (39 : Nat) ({ cls := "OnePassport$Risk", name := "<init>", desc := "(LOnePassport;)V" } : Jvm.MethodName) "OnePassport") ∈ lw_tbl := lw_at lw_m1 131 rfl
theorem q275 : (Jvm.Cond.classLink "OnePassport" (44 : Nat) "OnePassport$Crossings") ∈ lw_all := lw_g (lw_at lw_m1 140 rfl) rfl
theorem q277 : (Jvm.Cond.methodLinkNest "OnePassport" (46 : Nat) ({ cls := "OnePassport$Crossings", name := "<init>", desc := "(LOnePassport;)V" } : Jvm.MethodName) "OnePassport") ∈ lw_tbl := lw_at lw_m1 142 rfl
theorem q286 : (Jvm.Cond.constant "OnePassport" (51 : Nat) (100352 : Int32)) ∈ lw_all := lw_g (lw_at lw_m1 151 rfl) rfl
theorem q287 : (Jvm.Cond.constant "OnePassport" (68 : Nat) (40768 : Int32)) ∈ lw_all := lw_g (lw_at lw_m1 152 rfl) rfl
theorem q288 : (Jvm.Cond.classLink "OnePassport" (82 : Nat) "OnePassport$Slot") ∈ lw_all := lw_g (lw_at lw_m1 153 rfl) rfl
theorem q291 : (Jvm.Cond.methodLinkNest "OnePassport" (84 : Nat) ({ cls := "OnePassport$Slot", name := "<init>", desc := "()V" } : Jvm.MethodName) "OnePassport") ∈ lw_tbl := lw_at lw_m1 156 rfl
theorem q296 : (Jvm.Cond.fieldLinkNest "OnePassport" (461 : Nat) "OnePassport$Slot" "row" "Ljava/lang/Object;" "OnePassport") ∈ lw_tbl := lw_at lw_m1 161 rfl
theorem q302 : (Jvm.Cond.classLink "OnePassport" (89 : Nat) "java/util/ArrayList") ∈ lw_all := lw_g (lw_at lw_m1 167 rfl) rfl
theorem q304 : (Jvm.Cond.methodLink "OnePassport" (91 : Nat) ({ cls := "java/util/ArrayList", name := "<init>", desc := "()V" } : Jvm.MethodName)) ∈ lw_all := lw_g (lw_at lw_m1 169 rfl) rfl
theorem q329 : (Jvm.Cond.fieldLink "OnePassport" (12 : Nat) "OnePassport" "family" "LOnePassport$Family;") ∈ lw_all := lw_g (lw_at lw_m1 194 rfl) rfl
theorem q331 : (Jvm.Cond.fieldLink "OnePassport" (16 : Nat) "OnePassport" "tape" "[B") ∈ lw_all := lw_g (lw_at lw_m1 196 rfl) rfl
theorem q333 : (Jvm.Cond.fieldLink "OnePassport" (96 : Nat) "OnePassport" "taped" "I") ∈ lw_all := lw_g (lw_at lw_m1 198 rfl) rfl
theorem q334 : (Jvm.Cond.fieldLink "OnePassport" (114 : Nat) "OnePassport" "faultKind" "I") ∈ lw_all := lw_g (lw_at lw_m1 199 rfl) rfl
theorem q335 : (Jvm.Cond.fieldLink "OnePassport" (20 : Nat) "OnePassport" "faultPlace" "I") ∈ lw_all := lw_g (lw_at lw_m1 200 rfl) rfl
theorem q336 : (Jvm.Cond.fieldLink "OnePassport" (179 : Nat) "OnePassport" "over" "I") ∈ lw_all := lw_g (lw_at lw_m1 201 rfl) rfl
theorem q337 : (Jvm.Cond.fieldLink "OnePassport" (182 : Nat) "OnePassport" "side" "I") ∈ lw_all := lw_g (lw_at lw_m1 202 rfl) rfl
theorem q338 : (Jvm.Cond.fieldLink "OnePassport" (185 : Nat) "OnePassport" "marks" "I") ∈ lw_all := lw_g (lw_at lw_m1 203 rfl) rfl
theorem q339 : (Jvm.Cond.fieldLink "OnePassport" (24 : Nat) "OnePassport" "last" "[I") ∈ lw_all := lw_g (lw_at lw_m1 204 rfl) rfl
theorem q340 : (Jvm.Cond.fieldLink "OnePassport" (225 : Nat) "OnePassport" "days" "I") ∈ lw_all := lw_g (lw_at lw_m1 205 rfl) rfl
theorem q341 : (Jvm.Cond.fieldLink "OnePassport" (228 : Nat) "OnePassport" "risks" "I") ∈ lw_all := lw_g (lw_at lw_m1 206 rfl) rfl
theorem q342 : (Jvm.Cond.fieldLink "OnePassport" (259 : Nat) "OnePassport" "lieMany" "I") ∈ lw_all := lw_g (lw_at lw_m1 207 rfl) rfl
theorem q343 : (Jvm.Cond.fieldLink "OnePassport" (262 : Nat) "OnePassport" "lieLast" "I") ∈ lw_all := lw_g (lw_at lw_m1 208 rfl) rfl
theorem q344 : (Jvm.Cond.fieldLink "OnePassport" (33 : Nat) "OnePassport" "byDays" "LOnePassport$Days;") ∈ lw_all := lw_g (lw_at lw_m1 209 rfl) rfl
theorem q345 : (Jvm.Cond.fieldLink "OnePassport" (40 : Nat) "OnePassport" "byRisk" "LOnePassport$Risk;") ∈ lw_all := lw_g (lw_at lw_m1 210 rfl) rfl
theorem q346 : (Jvm.Cond.fieldLink "OnePassport" (47 : Nat) "OnePassport" "byCrossings" "LOnePassport$Crossings;") ∈ lw_all := lw_g (lw_at lw_m1 211 rfl) rfl
theorem q347 : (Jvm.Cond.fieldLink "OnePassport" (52 : Nat) "OnePassport" "far" "[I") ∈ lw_all := lw_g (lw_at lw_m1 212 rfl) rfl
theorem q348 : (Jvm.Cond.fieldLink "OnePassport" (55 : Nat) "OnePassport" "heap" "[I") ∈ lw_all := lw_g (lw_at lw_m1 213 rfl) rfl
theorem q349 : (Jvm.Cond.fieldLink "OnePassport" (58 : Nat) "OnePassport" "at" "[I") ∈ lw_all := lw_g (lw_at lw_m1 214 rfl) rfl
theorem q350 : (Jvm.Cond.fieldLink "OnePassport" (61 : Nat) "OnePassport" "settled" "[I") ∈ lw_all := lw_g (lw_at lw_m1 215 rfl) rfl
theorem q351 : (Jvm.Cond.fieldLink "OnePassport" (288 : Nat) "OnePassport" "heaped" "I") ∈ lw_all := lw_g (lw_at lw_m1 216 rfl) rfl
theorem q352 : (Jvm.Cond.fieldLink "OnePassport" (295 : Nat) "OnePassport" "settledMany" "I") ∈ lw_all := lw_g (lw_at lw_m1 217 rfl) rfl
theorem q353 : (Jvm.Cond.fieldLink "OnePassport" (64 : Nat) "OnePassport" "isOn" "[Z") ∈ lw_all := lw_g (lw_at lw_m1 218 rfl) rfl
theorem q354 : (Jvm.Cond.fieldLink "OnePassport" (327 : Nat) "OnePassport" "total" "I") ∈ lw_all := lw_g (lw_at lw_m1 219 rfl) rfl
theorem q355 : (Jvm.Cond.fieldLink "OnePassport" (69 : Nat) "OnePassport" "ways" "[J") ∈ lw_all := lw_g (lw_at lw_m1 220 rfl) rfl
theorem q356 : (Jvm.Cond.fieldLink "OnePassport" (73 : Nat) "OnePassport" "dare" "[I") ∈ lw_all := lw_g (lw_at lw_m1 221 rfl) rfl
theorem q357 : (Jvm.Cond.fieldLink "OnePassport" (76 : Nat) "OnePassport" "leads" "[Z") ∈ lw_all := lw_g (lw_at lw_m1 222 rfl) rfl
theorem q358 : (Jvm.Cond.fieldLink "OnePassport" (79 : Nat) "OnePassport" "had" "[I") ∈ lw_all := lw_g (lw_at lw_m1 223 rfl) rfl
theorem q359 : (Jvm.Cond.fieldLink "OnePassport" (396 : Nat) "OnePassport" "stampMany" "I") ∈ lw_all := lw_g (lw_at lw_m1 224 rfl) rfl
theorem q360 : (Jvm.Cond.fieldLink "OnePassport" (409 : Nat) "OnePassport" "overAll" "I") ∈ lw_all := lw_g (lw_at lw_m1 225 rfl) rfl
theorem q361 : (Jvm.Cond.fieldLink "OnePassport" (412 : Nat) "OnePassport" "overSome" "I") ∈ lw_all := lw_g (lw_at lw_m1 226 rfl) rfl
theorem q362 : (Jvm.Cond.fieldLink "OnePassport" (439 : Nat) "OnePassport" "caughtAt" "I") ∈ lw_all := lw_g (lw_at lw_m1 227 rfl) rfl
theorem q363 : (Jvm.Cond.fieldLink "OnePassport" (85 : Nat) "OnePassport" "slots" "[LOnePassport$Slot;") ∈ lw_all := lw_g (lw_at lw_m1 228 rfl) rfl
theorem q364 : (Jvm.Cond.fieldLink "OnePassport" (92 : Nat) "OnePassport" "images" "Ljava/util/ArrayList;") ∈ lw_all := lw_g (lw_at lw_m1 229 rfl) rfl
theorem q365 : (Jvm.Cond.lays "OnePassport" "OnePassport" "family" "LOnePassport$Family;") ∈ lw_all := lw_g (lw_at lw_m1 230 rfl) rfl
theorem q366 : (Jvm.Cond.soleField "OnePassport" "family") ∈ lw_all := lw_g (lw_at lw_m1 231 rfl) rfl
theorem q367 : (Jvm.Cond.laysFinal "OnePassport" "OnePassport" "tape" "[B") ∈ lw_all := lw_g (lw_at lw_m1 232 rfl) rfl
theorem q368 : (Jvm.Cond.soleField "OnePassport" "tape") ∈ lw_all := lw_g (lw_at lw_m1 233 rfl) rfl
theorem q369 : (Jvm.Cond.lays "OnePassport" "OnePassport" "taped" "I") ∈ lw_all := lw_g (lw_at lw_m1 234 rfl) rfl
theorem q370 : (Jvm.Cond.soleField "OnePassport" "taped") ∈ lw_all := lw_g (lw_at lw_m1 235 rfl) rfl
theorem q371 : (Jvm.Cond.lays "OnePassport" "OnePassport" "faultKind" "I") ∈ lw_all := lw_g (lw_at lw_m1 236 rfl) rfl
theorem q372 : (Jvm.Cond.soleField "OnePassport" "faultKind") ∈ lw_all := lw_g (lw_at lw_m1 237 rfl) rfl
theorem q373 : (Jvm.Cond.lays "OnePassport" "OnePassport" "faultPlace" "I") ∈ lw_all := lw_g (lw_at lw_m1 238 rfl) rfl
theorem q374 : (Jvm.Cond.soleField "OnePassport" "faultPlace") ∈ lw_all := lw_g (lw_at lw_m1 239 rfl) rfl
theorem q375 : (Jvm.Cond.lays "OnePassport" "OnePassport" "over" "I") ∈ lw_all := lw_g (lw_at lw_m2 0 rfl) rfl
theorem q376 : (Jvm.Cond.soleField "OnePassport" "over") ∈ lw_all := lw_g (lw_at lw_m2 1 rfl) rfl
theorem q377 : (Jvm.Cond.lays "OnePassport" "OnePassport" "side" "I") ∈ lw_all := lw_g (lw_at lw_m2 2 rfl) rfl
theorem q378 : (Jvm.Cond.soleField "OnePassport" "side") ∈ lw_all := lw_g (lw_at lw_m2 3 rfl) rfl
theorem q379 : (Jvm.Cond.lays "OnePassport" "OnePassport" "marks" "I") ∈ lw_all := lw_g (lw_at lw_m2 4 rfl) rfl
theorem q380 : (Jvm.Cond.soleField "OnePassport" "marks") ∈ lw_all := lw_g (lw_at lw_m2 5 rfl) rfl
theorem q381 : (Jvm.Cond.laysFinal "OnePassport" "OnePassport" "last" "[I") ∈ lw_all := lw_g (lw_at lw_m2 6 rfl) rfl
theorem q382 : (Jvm.Cond.soleField "OnePassport" "last") ∈ lw_all := lw_g (lw_at lw_m2 7 rfl) rfl
theorem q383 : (Jvm.Cond.lays "OnePassport" "OnePassport" "days" "I") ∈ lw_all := lw_g (lw_at lw_m2 8 rfl) rfl
theorem q384 : (Jvm.Cond.soleField "OnePassport" "days") ∈ lw_all := lw_g (lw_at lw_m2 9 rfl) rfl
theorem q385 : (Jvm.Cond.lays "OnePassport" "OnePassport" "risks" "I") ∈ lw_all := lw_g (lw_at lw_m2 10 rfl) rfl
theorem q386 : (Jvm.Cond.soleField "OnePassport" "risks") ∈ lw_all := lw_g (lw_at lw_m2 11 rfl) rfl
theorem q387 : (Jvm.Cond.lays "OnePassport" "OnePassport" "lieMany" "I") ∈ lw_all := lw_g (lw_at lw_m2 12 rfl) rfl
theorem q388 : (Jvm.Cond.soleField "OnePassport" "lieMany") ∈ lw_all := lw_g (lw_at lw_m2 13 rfl) rfl
theorem q389 : (Jvm.Cond.lays "OnePassport" "OnePassport" "lieLast" "I") ∈ lw_all := lw_g (lw_at lw_m2 14 rfl) rfl
theorem q390 : (Jvm.Cond.soleField "OnePassport" "lieLast") ∈ lw_all := lw_g (lw_at lw_m2 15 rfl) rfl
theorem q391 : (Jvm.Cond.laysFinal "OnePassport" "OnePassport" "byDays" "LOnePassport$Days;") ∈ lw_all := lw_g (lw_at lw_m2 16 rfl) rfl
theorem q392 : (Jvm.Cond.soleField "OnePassport" "byDays") ∈ lw_all := lw_g (lw_at lw_m2 17 rfl) rfl
theorem q393 : (Jvm.Cond.laysFinal "OnePassport" "OnePassport" "byRisk" "LOnePassport$Risk;") ∈ lw_all := lw_g (lw_at lw_m2 18 rfl) rfl
theorem q394 : (Jvm.Cond.soleField "OnePassport" "byRisk") ∈ lw_all := lw_g (lw_at lw_m2 19 rfl) rfl
theorem q395 : (Jvm.Cond.laysFinal "OnePassport" "OnePassport" "byCrossings" "LOnePassport$Crossings;") ∈ lw_all := lw_g (lw_at lw_m2 20 rfl) rfl
theorem q396 : (Jvm.Cond.soleField "OnePassport" "byCrossings") ∈ lw_all := lw_g (lw_at lw_m2 21 rfl) rfl
theorem q397 : (Jvm.Cond.laysFinal "OnePassport" "OnePassport" "far" "[I") ∈ lw_all := lw_g (lw_at lw_m2 22 rfl) rfl
theorem q398 : (Jvm.Cond.soleField "OnePassport" "far") ∈ lw_all := lw_g (lw_at lw_m2 23 rfl) rfl
theorem q399 : (Jvm.Cond.laysFinal "OnePassport" "OnePassport" "heap" "[I") ∈ lw_all := lw_g (lw_at lw_m2 24 rfl) rfl
theorem q400 : (Jvm.Cond.soleField "OnePassport" "heap") ∈ lw_all := lw_g (lw_at lw_m2 25 rfl) rfl
theorem q401 : (Jvm.Cond.laysFinal "OnePassport" "OnePassport" "at" "[I") ∈ lw_all := lw_g (lw_at lw_m2 26 rfl) rfl
theorem q402 : (Jvm.Cond.soleField "OnePassport" "at") ∈ lw_all := lw_g (lw_at lw_m2 27 rfl) rfl
theorem q403 : (Jvm.Cond.laysFinal "OnePassport" "OnePassport" "settled" "[I") ∈ lw_all := lw_g (lw_at lw_m2 28 rfl) rfl
theorem q404 : (Jvm.Cond.soleField "OnePassport" "settled") ∈ lw_all := lw_g (lw_at lw_m2 29 rfl) rfl
theorem q405 : (Jvm.Cond.lays "OnePassport" "OnePassport" "heaped" "I") ∈ lw_all := lw_g (lw_at lw_m2 30 rfl) rfl
theorem q406 : (Jvm.Cond.soleField "OnePassport" "heaped") ∈ lw_all := lw_g (lw_at lw_m2 31 rfl) rfl
theorem q407 : (Jvm.Cond.lays "OnePassport" "OnePassport" "settledMany" "I") ∈ lw_all := lw_g (lw_at lw_m2 32 rfl) rfl
theorem q408 : (Jvm.Cond.soleField "OnePassport" "settledMany") ∈ lw_all := lw_g (lw_at lw_m2 33 rfl) rfl
theorem q409 : (Jvm.Cond.laysFinal "OnePassport" "OnePassport" "isOn" "[Z") ∈ lw_all := lw_g (lw_at lw_m2 34 rfl) rfl
theorem q410 : (Jvm.Cond.soleField "OnePassport" "isOn") ∈ lw_all := lw_g (lw_at lw_m2 35 rfl) rfl
theorem q411 : (Jvm.Cond.lays "OnePassport" "OnePassport" "total" "I") ∈ lw_all := lw_g (lw_at lw_m2 36 rfl) rfl
theorem q412 : (Jvm.Cond.soleField "OnePassport" "total") ∈ lw_all := lw_g (lw_at lw_m2 37 rfl) rfl
theorem q413 : (Jvm.Cond.laysFinal "OnePassport" "OnePassport" "ways" "[J") ∈ lw_all := lw_g (lw_at lw_m2 38 rfl) rfl
theorem q414 : (Jvm.Cond.soleField "OnePassport" "ways") ∈ lw_all := lw_g (lw_at lw_m2 39 rfl) rfl
theorem q415 : (Jvm.Cond.laysFinal "OnePassport" "OnePassport" "dare" "[I") ∈ lw_all := lw_g (lw_at lw_m2 40 rfl) rfl
theorem q416 : (Jvm.Cond.soleField "OnePassport" "dare") ∈ lw_all := lw_g (lw_at lw_m2 41 rfl) rfl
theorem q417 : (Jvm.Cond.laysFinal "OnePassport" "OnePassport" "leads" "[Z") ∈ lw_all := lw_g (lw_at lw_m2 42 rfl) rfl
theorem q418 : (Jvm.Cond.soleField "OnePassport" "leads") ∈ lw_all := lw_g (lw_at lw_m2 43 rfl) rfl
theorem q419 : (Jvm.Cond.laysFinal "OnePassport" "OnePassport" "had" "[I") ∈ lw_all := lw_g (lw_at lw_m2 44 rfl) rfl
theorem q420 : (Jvm.Cond.soleField "OnePassport" "had") ∈ lw_all := lw_g (lw_at lw_m2 45 rfl) rfl
theorem q421 : (Jvm.Cond.lays "OnePassport" "OnePassport" "stampMany" "I") ∈ lw_all := lw_g (lw_at lw_m2 46 rfl) rfl
theorem q422 : (Jvm.Cond.soleField "OnePassport" "stampMany") ∈ lw_all := lw_g (lw_at lw_m2 47 rfl) rfl
theorem q423 : (Jvm.Cond.lays "OnePassport" "OnePassport" "overAll" "I") ∈ lw_all := lw_g (lw_at lw_m2 48 rfl) rfl
theorem q424 : (Jvm.Cond.soleField "OnePassport" "overAll") ∈ lw_all := lw_g (lw_at lw_m2 49 rfl) rfl
theorem q425 : (Jvm.Cond.lays "OnePassport" "OnePassport" "overSome" "I") ∈ lw_all := lw_g (lw_at lw_m2 50 rfl) rfl
theorem q426 : (Jvm.Cond.soleField "OnePassport" "overSome") ∈ lw_all := lw_g (lw_at lw_m2 51 rfl) rfl
theorem q427 : (Jvm.Cond.lays "OnePassport" "OnePassport" "caughtAt" "I") ∈ lw_all := lw_g (lw_at lw_m2 52 rfl) rfl
theorem q428 : (Jvm.Cond.soleField "OnePassport" "caughtAt") ∈ lw_all := lw_g (lw_at lw_m2 53 rfl) rfl
theorem q429 : (Jvm.Cond.laysFinal "OnePassport" "OnePassport" "slots" "[LOnePassport$Slot;") ∈ lw_all := lw_g (lw_at lw_m2 54 rfl) rfl
theorem q430 : (Jvm.Cond.soleField "OnePassport" "slots") ∈ lw_all := lw_g (lw_at lw_m2 55 rfl) rfl
theorem q431 : (Jvm.Cond.laysFinal "OnePassport" "OnePassport" "images" "Ljava/util/ArrayList;") ∈ lw_all := lw_g (lw_at lw_m2 56 rfl) rfl
theorem q432 : (Jvm.Cond.soleField "OnePassport" "images") ∈ lw_all := lw_g (lw_at lw_m2 57 rfl) rfl
theorem q433 : (Jvm.Cond.superclass "OnePassport" "java/lang/Object") ∈ lw_all := lw_g (lw_at lw_m2 58 rfl) rfl
theorem q435 : (Jvm.Cond.instanceMethod ({ cls := "OnePassport", name := "feed", desc := "(IIIII)I" } : Jvm.MethodName)) ∈ lw_all := lw_g (lw_at lw_m2 60 rfl) rfl
theorem q436 : (Jvm.Cond.selects "OnePassport" ({ cls := "OnePassport", name := "feed", desc := "(IIIII)I" } : Jvm.MethodName) ({ cls := "OnePassport", name := "feed", desc := "(IIIII)I" } : Jvm.MethodName)) ∈ lw_all := lw_g (lw_at lw_m2 61 rfl) rfl
theorem q437 : (Jvm.Cond.code ({ cls := "OnePassport", name := "feed", desc := "(IIIII)I" } : Jvm.MethodName) prog_1_method_5_code (6 : Nat) (Option.some Jvm.ClassFile.FieldType.int)) ∈ lw_all := lw_g (lw_at lw_m2 62 rfl) rfl
theorem q438 : (Jvm.Cond.methodLink "OnePassport" (99 : Nat) ({ cls := "OnePassport", name := "puts", desc := "(I)V" } : Jvm.MethodName)) ∈ lw_all := lw_g (lw_at lw_m2 63 rfl) rfl
theorem q439 : (Jvm.Cond.privateMethod ({ cls := "OnePassport", name := "puts", desc := "(I)V" } : Jvm.MethodName)) ∈ lw_tbl := lw_at lw_m2 64 rfl
theorem q440 : (Jvm.Cond.instanceMethod ({ cls := "OnePassport", name := "puts", desc := "(I)V" } : Jvm.MethodName)) ∈ lw_all := lw_g (lw_at lw_m2 65 rfl) rfl
theorem q441 : (Jvm.Cond.code ({ cls := "OnePassport", name := "puts", desc := "(I)V" } : Jvm.MethodName) prog_1_method_4_code (3 : Nat) (Option.none : Option Jvm.ClassFile.FieldType)) ∈ lw_all := lw_g (lw_at lw_m2 66 rfl) rfl
theorem q443 : (Jvm.Cond.instanceMethod ({ cls := "OnePassport", name := "end", desc := "(I)I" } : Jvm.MethodName)) ∈ lw_all := lw_g (lw_at lw_m2 68 rfl) rfl
theorem q444 : (Jvm.Cond.selects "OnePassport" ({ cls := "OnePassport", name := "end", desc := "(I)I" } : Jvm.MethodName) ({ cls := "OnePassport", name := "end", desc := "(I)I" } : Jvm.MethodName)) ∈ lw_all := lw_g (lw_at lw_m2 69 rfl) rfl
theorem q445 : (Jvm.Cond.code ({ cls := "OnePassport", name := "end", desc := "(I)I" } : Jvm.MethodName) prog_1_method_6_code (2 : Nat) (Option.some Jvm.ClassFile.FieldType.int)) ∈ lw_all := lw_g (lw_at lw_m2 70 rfl) rfl
theorem q446 : (Jvm.Cond.methodLink "OnePassport" (103 : Nat) ({ cls := "OnePassport", name := "isIn", desc := "(JJJ)Z" } : Jvm.MethodName)) ∈ lw_all := lw_g (lw_at lw_m2 71 rfl) rfl
theorem q447 : (Jvm.Cond.static ({ cls := "OnePassport", name := "isIn", desc := "(JJJ)Z" } : Jvm.MethodName)) ∈ lw_all := lw_g (lw_at lw_m2 72 rfl) rfl
theorem q448 : (Jvm.Cond.code ({ cls := "OnePassport", name := "isIn", desc := "(JJJ)Z" } : Jvm.MethodName) prog_1_method_1_code (6 : Nat) (Option.some Jvm.ClassFile.FieldType.boolean)) ∈ lw_all := lw_g (lw_at lw_m2 73 rfl) rfl
theorem q450 : (Jvm.Cond.instanceMethod ({ cls := "OnePassport", name := "family", desc := "()I" } : Jvm.MethodName)) ∈ lw_all := lw_g (lw_at lw_m2 75 rfl) rfl
theorem q451 : (Jvm.Cond.selects "OnePassport" ({ cls := "OnePassport", name := "family", desc := "()I" } : Jvm.MethodName) ({ cls := "OnePassport", name := "family", desc := "()I" } : Jvm.MethodName)) ∈ lw_all := lw_g (lw_at lw_m2 76 rfl) rfl
theorem q452 : (Jvm.Cond.codeWith ({ cls := "OnePassport", name := "family", desc := "()I" } : Jvm.MethodName) prog_1_method_7_code (4 : Nat) (Option.some Jvm.ClassFile.FieldType.int) [((0 : Nat), (33 : Nat), (40 : Nat), (120 : Nat)), ((0 : Nat), (33 : Nat), (67 : Nat), (0 : Nat)), ((40 : Nat), (60 : Nat), (67 : Nat), (0 : Nat))]) ∈ lw_all := lw_g (lw_at lw_m2 77 rfl) rfl
theorem q453 : (Jvm.Cond.classLink "OnePassport" (120 : Nat) "OnePassport$Fault") ∈ lw_all := lw_g (lw_at lw_m2 78 rfl) rfl
theorem q454 : (Jvm.Cond.classLink "OnePassport" (107 : Nat) "OnePassport$Reader") ∈ lw_all := lw_g (lw_at lw_m2 79 rfl) rfl
theorem q456 : (Jvm.Cond.methodLink "OnePassport" (109 : Nat) ({ cls := "OnePassport$Reader", name := "<init>", desc := "(LOnePassport;)V" } : Jvm.MethodName)) ∈ lw_all := lw_g (lw_at lw_m2 81 rfl) rfl
theorem q507 : (Jvm.Cond.methodLink "OnePassport" (110 : Nat) ({ cls := "OnePassport$Reader", name := "read", desc := "()LOnePassport$Family;" } : Jvm.MethodName)) ∈ lw_all := lw_g (lw_at lw_m2 132 rfl) rfl
theorem q644 : (Jvm.Cond.fieldLinkNest "OnePassport" (122 : Nat) "OnePassport$Fault" "kind" "I" "OnePassport") ∈ lw_tbl := lw_at lw_m3 29 rfl
theorem q646 : (Jvm.Cond.fieldLinkNest "OnePassport" (125 : Nat) "OnePassport$Fault" "place" "I" "OnePassport") ∈ lw_tbl := lw_at lw_m3 31 rfl
theorem q682 : (Jvm.Cond.static ({ cls := "OnePassport", name := "has", desc := "(II)Z" } : Jvm.MethodName)) ∈ lw_all := lw_g (lw_at lw_m3 67 rfl) rfl
theorem q683 : (Jvm.Cond.code ({ cls := "OnePassport", name := "has", desc := "(II)Z" } : Jvm.MethodName) prog_1_method_2_code (2 : Nat) (Option.some Jvm.ClassFile.FieldType.boolean)) ∈ lw_all := lw_g (lw_at lw_m3 68 rfl) rfl
theorem q695 : (Jvm.Cond.instanceMethod ({ cls := "OnePassport", name := "fault", desc := "(I)I" } : Jvm.MethodName)) ∈ lw_all := lw_g (lw_at lw_m3 80 rfl) rfl
theorem q696 : (Jvm.Cond.selects "OnePassport" ({ cls := "OnePassport", name := "fault", desc := "(I)I" } : Jvm.MethodName) ({ cls := "OnePassport", name := "fault", desc := "(I)I" } : Jvm.MethodName)) ∈ lw_all := lw_g (lw_at lw_m3 81 rfl) rfl
theorem q697 : (Jvm.Cond.code ({ cls := "OnePassport", name := "fault", desc := "(I)I" } : Jvm.MethodName) prog_1_method_8_code (2 : Nat) (Option.some Jvm.ClassFile.FieldType.int)) ∈ lw_all := lw_g (lw_at lw_m3 82 rfl) rfl
theorem q699 : (Jvm.Cond.instanceMethod ({ cls := "OnePassport", name := "risk", desc := "(II)I" } : Jvm.MethodName)) ∈ lw_all := lw_g (lw_at lw_m3 84 rfl) rfl
theorem q700 : (Jvm.Cond.selects "OnePassport" ({ cls := "OnePassport", name := "risk", desc := "(II)I" } : Jvm.MethodName) ({ cls := "OnePassport", name := "risk", desc := "(II)I" } : Jvm.MethodName)) ∈ lw_all := lw_g (lw_at lw_m3 85 rfl) rfl
theorem q701 : (Jvm.Cond.code ({ cls := "OnePassport", name := "risk", desc := "(II)I" } : Jvm.MethodName) prog_1_method_17_code (3 : Nat) (Option.some Jvm.ClassFile.FieldType.int)) ∈ lw_all := lw_g (lw_at lw_m3 86 rfl) rfl
theorem q702 : (Jvm.Cond.methodLink "OnePassport" (134 : Nat) ({ cls := "OnePassport", name := "isPerson", desc := "(I)Z" } : Jvm.MethodName)) ∈ lw_all := lw_g (lw_at lw_m3 87 rfl) rfl
theorem q703 : (Jvm.Cond.privateMethod ({ cls := "OnePassport", name := "isPerson", desc := "(I)Z" } : Jvm.MethodName)) ∈ lw_tbl := lw_at lw_m3 88 rfl
theorem q704 : (Jvm.Cond.instanceMethod ({ cls := "OnePassport", name := "isPerson", desc := "(I)Z" } : Jvm.MethodName)) ∈ lw_all := lw_g (lw_at lw_m3 89 rfl) rfl
theorem q705 : (Jvm.Cond.code ({ cls := "OnePassport", name := "isPerson", desc := "(I)Z" } : Jvm.MethodName) prog_1_method_10_code (2 : Nat) (Option.some Jvm.ClassFile.FieldType.boolean)) ∈ lw_all := lw_g (lw_at lw_m3 90 rfl) rfl
theorem q706 : (Jvm.Cond.methodLink "OnePassport" (146 : Nat) ({ cls := "OnePassport", name := "isPost", desc := "(I)Z" } : Jvm.MethodName)) ∈ lw_all := lw_g (lw_at lw_m3 91 rfl) rfl
theorem q707 : (Jvm.Cond.privateMethod ({ cls := "OnePassport", name := "isPost", desc := "(I)Z" } : Jvm.MethodName)) ∈ lw_tbl := lw_at lw_m3 92 rfl
theorem q708 : (Jvm.Cond.instanceMethod ({ cls := "OnePassport", name := "isPost", desc := "(I)Z" } : Jvm.MethodName)) ∈ lw_all := lw_g (lw_at lw_m3 93 rfl) rfl
theorem q709 : (Jvm.Cond.code ({ cls := "OnePassport", name := "isPost", desc := "(I)Z" } : Jvm.MethodName) prog_1_method_11_code (2 : Nat) (Option.some Jvm.ClassFile.FieldType.boolean)) ∈ lw_all := lw_g (lw_at lw_m3 94 rfl) rfl
theorem q710 : (Jvm.Cond.methodLink "OnePassport" (149 : Nat) ({ cls := "OnePassport", name := "riskOf", desc := "(II)I" } : Jvm.MethodName)) ∈ lw_all := lw_g (lw_at lw_m3 95 rfl) rfl
theorem q711 : (Jvm.Cond.privateMethod ({ cls := "OnePassport", name := "riskOf", desc := "(II)I" } : Jvm.MethodName)) ∈ lw_tbl := lw_at lw_m3 96 rfl
theorem q712 : (Jvm.Cond.instanceMethod ({ cls := "OnePassport", name := "riskOf", desc := "(II)I" } : Jvm.MethodName)) ∈ lw_all := lw_g (lw_at lw_m3 97 rfl) rfl
theorem q713 : (Jvm.Cond.code ({ cls := "OnePassport", name := "riskOf", desc := "(II)I" } : Jvm.MethodName) prog_1_method_16_code (3 : Nat) (Option.some Jvm.ClassFile.FieldType.int)) ∈ lw_all := lw_g (lw_at lw_m3 98 rfl) rfl
theorem q715 : (Jvm.Cond.instanceMethod ({ cls := "OnePassport", name := "after", desc := "(II)I" } : Jvm.MethodName)) ∈ lw_all := lw_g (lw_at lw_m3 100 rfl) rfl
theorem q716 : (Jvm.Cond.selects "OnePassport" ({ cls := "OnePassport", name := "after", desc := "(II)I" } : Jvm.MethodName) ({ cls := "OnePassport", name := "after", desc := "(II)I" } : Jvm.MethodName)) ∈ lw_all := lw_g (lw_at lw_m3 101 rfl) rfl
theorem q717 : (Jvm.Cond.code ({ cls := "OnePassport", name := "after", desc := "(II)I" } : Jvm.MethodName) prog_1_method_19_code (5 : Nat) (Option.some Jvm.ClassFile.FieldType.int)) ∈ lw_all := lw_g (lw_at lw_m3 102 rfl) rfl
theorem q718 : (Jvm.Cond.methodLink "OnePassport" (165 : Nat) ({ cls := "OnePassport", name := "isPersonOrNone", desc := "(I)Z" } : Jvm.MethodName)) ∈ lw_all := lw_g (lw_at lw_m3 103 rfl) rfl
theorem q719 : (Jvm.Cond.privateMethod ({ cls := "OnePassport", name := "isPersonOrNone", desc := "(I)Z" } : Jvm.MethodName)) ∈ lw_tbl := lw_at lw_m3 104 rfl
theorem q720 : (Jvm.Cond.instanceMethod ({ cls := "OnePassport", name := "isPersonOrNone", desc := "(I)Z" } : Jvm.MethodName)) ∈ lw_all := lw_g (lw_at lw_m3 105 rfl) rfl
theorem q721 : (Jvm.Cond.code ({ cls := "OnePassport", name := "isPersonOrNone", desc := "(I)Z" } : Jvm.MethodName) prog_1_method_12_code (2 : Nat) (Option.some Jvm.ClassFile.FieldType.boolean)) ∈ lw_all := lw_g (lw_at lw_m3 106 rfl) rfl
theorem q722 : (Jvm.Cond.methodLink "OnePassport" (171 : Nat) ({ cls := "OnePassport", name := "has", desc := "(II)Z" } : Jvm.MethodName)) ∈ lw_all := lw_g (lw_at lw_m3 107 rfl) rfl
theorem q723 : (Jvm.Cond.methodLink "OnePassport" (175 : Nat) ({ cls := "OnePassport", name := "mayBehind", desc := "(III)Z" } : Jvm.MethodName)) ∈ lw_all := lw_g (lw_at lw_m3 108 rfl) rfl
theorem q724 : (Jvm.Cond.privateMethod ({ cls := "OnePassport", name := "mayBehind", desc := "(III)Z" } : Jvm.MethodName)) ∈ lw_tbl := lw_at lw_m3 109 rfl
theorem q725 : (Jvm.Cond.instanceMethod ({ cls := "OnePassport", name := "mayBehind", desc := "(III)Z" } : Jvm.MethodName)) ∈ lw_all := lw_g (lw_at lw_m3 110 rfl) rfl
theorem q726 : (Jvm.Cond.code ({ cls := "OnePassport", name := "mayBehind", desc := "(III)Z" } : Jvm.MethodName) prog_1_method_18_code (4 : Nat) (Option.some Jvm.ClassFile.FieldType.boolean)) ∈ lw_all := lw_g (lw_at lw_m3 111 rfl) rfl
theorem q727 : (Jvm.Cond.methodLink "OnePassport" (156 : Nat) ({ cls := "java/lang/Math", name := "abs", desc := "(I)I" } : Jvm.MethodName)) ∈ lw_all := lw_g (lw_at lw_m3 112 rfl) rfl
theorem q731 : (Jvm.Cond.instanceMethod ({ cls := "OnePassport", name := "person", desc := "(II)I" } : Jvm.MethodName)) ∈ lw_all := lw_g (lw_at lw_m3 116 rfl) rfl
theorem q732 : (Jvm.Cond.selects "OnePassport" ({ cls := "OnePassport", name := "person", desc := "(II)I" } : Jvm.MethodName) ({ cls := "OnePassport", name := "person", desc := "(II)I" } : Jvm.MethodName)) ∈ lw_all := lw_g (lw_at lw_m3 117 rfl) rfl
theorem q733 : (Jvm.Cond.code ({ cls := "OnePassport", name := "person", desc := "(II)I" } : Jvm.MethodName) prog_1_method_34_code (3 : Nat) (Option.some Jvm.ClassFile.FieldType.int)) ∈ lw_all := lw_g (lw_at lw_m3 118 rfl) rfl
theorem q734 : (Jvm.Cond.methodLink "OnePassport" (246 : Nat) ({ cls := "OnePassport", name := "isOneOf", desc := "(II)Z" } : Jvm.MethodName)) ∈ lw_all := lw_g (lw_at lw_m3 119 rfl) rfl
theorem q735 : (Jvm.Cond.static ({ cls := "OnePassport", name := "isOneOf", desc := "(II)Z" } : Jvm.MethodName)) ∈ lw_all := lw_g (lw_at lw_m3 120 rfl) rfl
theorem q736 : (Jvm.Cond.code ({ cls := "OnePassport", name := "isOneOf", desc := "(II)Z" } : Jvm.MethodName) prog_1_method_13_code (2 : Nat) (Option.some Jvm.ClassFile.FieldType.boolean)) ∈ lw_all := lw_g (lw_at lw_m3 121 rfl) rfl
theorem q737 : (Jvm.Cond.methodLink "OnePassport" (249 : Nat) ({ cls := "OnePassport", name := "asItIs", desc := "()V" } : Jvm.MethodName)) ∈ lw_all := lw_g (lw_at lw_m3 122 rfl) rfl
theorem q738 : (Jvm.Cond.privateMethod ({ cls := "OnePassport", name := "asItIs", desc := "()V" } : Jvm.MethodName)) ∈ lw_tbl := lw_at lw_m3 123 rfl
theorem q739 : (Jvm.Cond.instanceMethod ({ cls := "OnePassport", name := "asItIs", desc := "()V" } : Jvm.MethodName)) ∈ lw_all := lw_g (lw_at lw_m3 124 rfl) rfl
theorem q740 : (Jvm.Cond.code ({ cls := "OnePassport", name := "asItIs", desc := "()V" } : Jvm.MethodName) prog_1_method_32_code (2 : Nat) (Option.none : Option Jvm.ClassFile.FieldType)) ∈ lw_all := lw_g (lw_at lw_m3 125 rfl) rfl
theorem q741 : (Jvm.Cond.methodLink "OnePassport" (222 : Nat) ({ cls := "OnePassport", name := "asAtFirst", desc := "()V" } : Jvm.MethodName)) ∈ lw_all := lw_g (lw_at lw_m3 126 rfl) rfl
theorem q742 : (Jvm.Cond.privateMethod ({ cls := "OnePassport", name := "asAtFirst", desc := "()V" } : Jvm.MethodName)) ∈ lw_tbl := lw_at lw_m3 127 rfl
theorem q743 : (Jvm.Cond.instanceMethod ({ cls := "OnePassport", name := "asAtFirst", desc := "()V" } : Jvm.MethodName)) ∈ lw_all := lw_g (lw_at lw_m3 128 rfl) rfl
theorem q744 : (Jvm.Cond.code ({ cls := "OnePassport", name := "asAtFirst", desc := "()V" } : Jvm.MethodName) prog_1_method_20_code (1 : Nat) (Option.none : Option Jvm.ClassFile.FieldType)) ∈ lw_all := lw_g (lw_at lw_m3 129 rfl) rfl
theorem q745 : (Jvm.Cond.methodLink "OnePassport" (237 : Nat) ({ cls := "OnePassport", name := "does0", desc := "(I)V" } : Jvm.MethodName)) ∈ lw_all := lw_g (lw_at lw_m3 130 rfl) rfl
theorem q746 : (Jvm.Cond.privateMethod ({ cls := "OnePassport", name := "does0", desc := "(I)V" } : Jvm.MethodName)) ∈ lw_tbl := lw_at lw_m3 131 rfl
theorem q747 : (Jvm.Cond.instanceMethod ({ cls := "OnePassport", name := "does0", desc := "(I)V" } : Jvm.MethodName)) ∈ lw_all := lw_g (lw_at lw_m3 132 rfl) rfl
theorem q748 : (Jvm.Cond.code ({ cls := "OnePassport", name := "does0", desc := "(I)V" } : Jvm.MethodName) prog_1_method_33_code (2 : Nat) (Option.none : Option Jvm.ClassFile.FieldType)) ∈ lw_all := lw_g (lw_at lw_m3 133 rfl) rfl
theorem q749 : (Jvm.Cond.methodLink "OnePassport" (204 : Nat) ({ cls := "OnePassport", name := "personIn", desc := "(I)I" } : Jvm.MethodName)) ∈ lw_all := lw_g (lw_at lw_m3 134 rfl) rfl
theorem q750 : (Jvm.Cond.static ({ cls := "OnePassport", name := "personIn", desc := "(I)I" } : Jvm.MethodName)) ∈ lw_all := lw_g (lw_at lw_m3 135 rfl) rfl
theorem q751 : (Jvm.Cond.code ({ cls := "OnePassport", name := "personIn", desc := "(I)I" } : Jvm.MethodName) prog_1_method_27_code (1 : Nat) (Option.some Jvm.ClassFile.FieldType.int)) ∈ lw_all := lw_g (lw_at lw_m3 136 rfl) rfl
theorem q752 : (Jvm.Cond.methodLink "OnePassport" (198 : Nat) ({ cls := "OnePassport", name := "postIn", desc := "(I)I" } : Jvm.MethodName)) ∈ lw_all := lw_g (lw_at lw_m3 137 rfl) rfl
theorem q753 : (Jvm.Cond.static ({ cls := "OnePassport", name := "postIn", desc := "(I)I" } : Jvm.MethodName)) ∈ lw_all := lw_g (lw_at lw_m3 138 rfl) rfl
theorem q754 : (Jvm.Cond.code ({ cls := "OnePassport", name := "postIn", desc := "(I)I" } : Jvm.MethodName) prog_1_method_25_code (1 : Nat) (Option.some Jvm.ClassFile.FieldType.int)) ∈ lw_all := lw_g (lw_at lw_m3 139 rfl) rfl
theorem q755 : (Jvm.Cond.methodLink "OnePassport" (243 : Nat) ({ cls := "OnePassport", name := "does", desc := "(I)V" } : Jvm.MethodName)) ∈ lw_all := lw_g (lw_at lw_m3 140 rfl) rfl
theorem q756 : (Jvm.Cond.privateMethod ({ cls := "OnePassport", name := "does", desc := "(I)V" } : Jvm.MethodName)) ∈ lw_tbl := lw_at lw_m3 141 rfl
theorem q757 : (Jvm.Cond.instanceMethod ({ cls := "OnePassport", name := "does", desc := "(I)V" } : Jvm.MethodName)) ∈ lw_all := lw_g (lw_at lw_m3 142 rfl) rfl
theorem q758 : (Jvm.Cond.code ({ cls := "OnePassport", name := "does", desc := "(I)V" } : Jvm.MethodName) prog_1_method_30_code (3 : Nat) (Option.none : Option Jvm.ClassFile.FieldType)) ∈ lw_all := lw_g (lw_at lw_m3 143 rfl) rfl
theorem q759 : (Jvm.Cond.methodLink "OnePassport" (201 : Nat) ({ cls := "OnePassport", name := "childIn", desc := "(I)I" } : Jvm.MethodName)) ∈ lw_all := lw_g (lw_at lw_m3 144 rfl) rfl
theorem q760 : (Jvm.Cond.static ({ cls := "OnePassport", name := "childIn", desc := "(I)I" } : Jvm.MethodName)) ∈ lw_all := lw_g (lw_at lw_m3 145 rfl) rfl
theorem q761 : (Jvm.Cond.code ({ cls := "OnePassport", name := "childIn", desc := "(I)I" } : Jvm.MethodName) prog_1_method_26_code (1 : Nat) (Option.some Jvm.ClassFile.FieldType.int)) ∈ lw_all := lw_g (lw_at lw_m3 146 rfl) rfl
theorem q763 : (Jvm.Cond.instanceMethod ({ cls := "OnePassport", name := "post", desc := "(II)I" } : Jvm.MethodName)) ∈ lw_all := lw_g (lw_at lw_m3 148 rfl) rfl
theorem q764 : (Jvm.Cond.selects "OnePassport" ({ cls := "OnePassport", name := "post", desc := "(II)I" } : Jvm.MethodName) ({ cls := "OnePassport", name := "post", desc := "(II)I" } : Jvm.MethodName)) ∈ lw_all := lw_g (lw_at lw_m3 149 rfl) rfl
theorem q765 : (Jvm.Cond.code ({ cls := "OnePassport", name := "post", desc := "(II)I" } : Jvm.MethodName) prog_1_method_35_code (3 : Nat) (Option.some Jvm.ClassFile.FieldType.int)) ∈ lw_all := lw_g (lw_at lw_m3 150 rfl) rfl
theorem q767 : (Jvm.Cond.instanceMethod ({ cls := "OnePassport", name := "now", desc := "(I)I" } : Jvm.MethodName)) ∈ lw_all := lw_g (lw_at lw_m3 152 rfl) rfl
theorem q768 : (Jvm.Cond.selects "OnePassport" ({ cls := "OnePassport", name := "now", desc := "(I)I" } : Jvm.MethodName) ({ cls := "OnePassport", name := "now", desc := "(I)I" } : Jvm.MethodName)) ∈ lw_all := lw_g (lw_at lw_m3 153 rfl) rfl
theorem q769 : (Jvm.Cond.code ({ cls := "OnePassport", name := "now", desc := "(I)I" } : Jvm.MethodName) prog_1_method_37_code (2 : Nat) (Option.some Jvm.ClassFile.FieldType.int)) ∈ lw_all := lw_g (lw_at lw_m3 154 rfl) rfl
theorem q770 : (Jvm.Cond.methodLink "OnePassport" (252 : Nat) ({ cls := "OnePassport", name := "isFamily", desc := "()Z" } : Jvm.MethodName)) ∈ lw_all := lw_g (lw_at lw_m3 155 rfl) rfl
theorem q771 : (Jvm.Cond.privateMethod ({ cls := "OnePassport", name := "isFamily", desc := "()Z" } : Jvm.MethodName)) ∈ lw_tbl := lw_at lw_m3 156 rfl
theorem q772 : (Jvm.Cond.instanceMethod ({ cls := "OnePassport", name := "isFamily", desc := "()Z" } : Jvm.MethodName)) ∈ lw_all := lw_g (lw_at lw_m3 157 rfl) rfl
theorem q773 : (Jvm.Cond.code ({ cls := "OnePassport", name := "isFamily", desc := "()Z" } : Jvm.MethodName) prog_1_method_9_code (1 : Nat) (Option.some Jvm.ClassFile.FieldType.boolean)) ∈ lw_all := lw_g (lw_at lw_m3 158 rfl) rfl
theorem q774 : (Jvm.Cond.methodLink "OnePassport" (256 : Nat) ({ cls := "OnePassport", name := "stampsNow", desc := "()I" } : Jvm.MethodName)) ∈ lw_all := lw_g (lw_at lw_m3 159 rfl) rfl
theorem q775 : (Jvm.Cond.privateMethod ({ cls := "OnePassport", name := "stampsNow", desc := "()I" } : Jvm.MethodName)) ∈ lw_tbl := lw_at lw_m3 160 rfl
theorem q776 : (Jvm.Cond.instanceMethod ({ cls := "OnePassport", name := "stampsNow", desc := "()I" } : Jvm.MethodName)) ∈ lw_all := lw_g (lw_at lw_m3 161 rfl) rfl
theorem q777 : (Jvm.Cond.code ({ cls := "OnePassport", name := "stampsNow", desc := "()I" } : Jvm.MethodName) prog_1_method_36_code (3 : Nat) (Option.some Jvm.ClassFile.FieldType.int)) ∈ lw_all := lw_g (lw_at lw_m3 162 rfl) rfl
theorem q779 : (Jvm.Cond.instanceMethod ({ cls := "OnePassport", name := "stamp", desc := "(I)I" } : Jvm.MethodName)) ∈ lw_all := lw_g (lw_at lw_m3 164 rfl) rfl
theorem q780 : (Jvm.Cond.selects "OnePassport" ({ cls := "OnePassport", name := "stamp", desc := "(I)I" } : Jvm.MethodName) ({ cls := "OnePassport", name := "stamp", desc := "(I)I" } : Jvm.MethodName)) ∈ lw_all := lw_g (lw_at lw_m3 165 rfl) rfl
theorem q781 : (Jvm.Cond.code ({ cls := "OnePassport", name := "stamp", desc := "(I)I" } : Jvm.MethodName) prog_1_method_38_code (5 : Nat) (Option.some Jvm.ClassFile.FieldType.int)) ∈ lw_all := lw_g (lw_at lw_m3 166 rfl) rfl
theorem q783 : (Jvm.Cond.instanceMethod ({ cls := "OnePassport", name := "lies", desc := "()I" } : Jvm.MethodName)) ∈ lw_all := lw_g (lw_at lw_m3 168 rfl) rfl
theorem q784 : (Jvm.Cond.selects "OnePassport" ({ cls := "OnePassport", name := "lies", desc := "()I" } : Jvm.MethodName) ({ cls := "OnePassport", name := "lies", desc := "()I" } : Jvm.MethodName)) ∈ lw_all := lw_g (lw_at lw_m3 169 rfl) rfl
theorem q785 : (Jvm.Cond.code ({ cls := "OnePassport", name := "lies", desc := "()I" } : Jvm.MethodName) prog_1_method_40_code (2 : Nat) (Option.some Jvm.ClassFile.FieldType.int)) ∈ lw_all := lw_g (lw_at lw_m3 170 rfl) rfl
theorem q786 : (Jvm.Cond.methodLink "OnePassport" (265 : Nat) ({ cls := "OnePassport", name := "liesBy", desc := "(I)V" } : Jvm.MethodName)) ∈ lw_all := lw_g (lw_at lw_m3 171 rfl) rfl
theorem q787 : (Jvm.Cond.privateMethod ({ cls := "OnePassport", name := "liesBy", desc := "(I)V" } : Jvm.MethodName)) ∈ lw_tbl := lw_at lw_m3 172 rfl
theorem q788 : (Jvm.Cond.instanceMethod ({ cls := "OnePassport", name := "liesBy", desc := "(I)V" } : Jvm.MethodName)) ∈ lw_all := lw_g (lw_at lw_m3 173 rfl) rfl
theorem q789 : (Jvm.Cond.code ({ cls := "OnePassport", name := "liesBy", desc := "(I)V" } : Jvm.MethodName) prog_1_method_39_code (2 : Nat) (Option.none : Option Jvm.ClassFile.FieldType)) ∈ lw_all := lw_g (lw_at lw_m3 174 rfl) rfl
theorem q791 : (Jvm.Cond.instanceMethod ({ cls := "OnePassport", name := "why", desc := "(III)I" } : Jvm.MethodName)) ∈ lw_all := lw_g (lw_at lw_m3 176 rfl) rfl
theorem q792 : (Jvm.Cond.selects "OnePassport" ({ cls := "OnePassport", name := "why", desc := "(III)I" } : Jvm.MethodName) ({ cls := "OnePassport", name := "why", desc := "(III)I" } : Jvm.MethodName)) ∈ lw_all := lw_g (lw_at lw_m3 177 rfl) rfl
theorem q793 : (Jvm.Cond.code ({ cls := "OnePassport", name := "why", desc := "(III)I" } : Jvm.MethodName) prog_1_method_42_code (4 : Nat) (Option.some Jvm.ClassFile.FieldType.int)) ∈ lw_all := lw_g (lw_at lw_m3 178 rfl) rfl
theorem q794 : (Jvm.Cond.methodLink "OnePassport" (268 : Nat) ({ cls := "OnePassport", name := "isCrossing", desc := "(III)Z" } : Jvm.MethodName)) ∈ lw_all := lw_g (lw_at lw_m3 179 rfl) rfl
theorem q795 : (Jvm.Cond.privateMethod ({ cls := "OnePassport", name := "isCrossing", desc := "(III)Z" } : Jvm.MethodName)) ∈ lw_tbl := lw_at lw_m3 180 rfl
theorem q796 : (Jvm.Cond.instanceMethod ({ cls := "OnePassport", name := "isCrossing", desc := "(III)Z" } : Jvm.MethodName)) ∈ lw_all := lw_g (lw_at lw_m3 181 rfl) rfl
theorem q797 : (Jvm.Cond.code ({ cls := "OnePassport", name := "isCrossing", desc := "(III)Z" } : Jvm.MethodName) prog_1_method_41_code (4 : Nat) (Option.some Jvm.ClassFile.FieldType.boolean)) ∈ lw_all := lw_g (lw_at lw_m3 182 rfl) rfl
theorem q798 : (Jvm.Cond.methodLink "OnePassport" (207 : Nat) ({ cls := "OnePassport", name := "whyNot", desc := "(III)I" } : Jvm.MethodName)) ∈ lw_all := lw_g (lw_at lw_m3 183 rfl) rfl
theorem q799 : (Jvm.Cond.privateMethod ({ cls := "OnePassport", name := "whyNot", desc := "(III)I" } : Jvm.MethodName)) ∈ lw_tbl := lw_at lw_m3 184 rfl
theorem q800 : (Jvm.Cond.instanceMethod ({ cls := "OnePassport", name := "whyNot", desc := "(III)I" } : Jvm.MethodName)) ∈ lw_all := lw_g (lw_at lw_m3 185 rfl) rfl
theorem q801 : (Jvm.Cond.code ({ cls := "OnePassport", name := "whyNot", desc := "(III)I" } : Jvm.MethodName) prog_1_method_24_code (4 : Nat) (Option.some Jvm.ClassFile.FieldType.int)) ∈ lw_all := lw_g (lw_at lw_m3 186 rfl) rfl
theorem q802 : (Jvm.Cond.methodLink "OnePassport" (191 : Nat) ({ cls := "OnePassport", name := "fitsMarks", desc := "(I)Z" } : Jvm.MethodName)) ∈ lw_all := lw_g (lw_at lw_m3 187 rfl) rfl
theorem q803 : (Jvm.Cond.privateMethod ({ cls := "OnePassport", name := "fitsMarks", desc := "(I)Z" } : Jvm.MethodName)) ∈ lw_tbl := lw_at lw_m3 188 rfl
theorem q804 : (Jvm.Cond.instanceMethod ({ cls := "OnePassport", name := "fitsMarks", desc := "(I)Z" } : Jvm.MethodName)) ∈ lw_all := lw_g (lw_at lw_m3 189 rfl) rfl
theorem q805 : (Jvm.Cond.code ({ cls := "OnePassport", name := "fitsMarks", desc := "(I)Z" } : Jvm.MethodName) prog_1_method_23_code (5 : Nat) (Option.some Jvm.ClassFile.FieldType.boolean)) ∈ lw_all := lw_g (lw_at lw_m3 190 rfl) rfl
theorem q807 : (Jvm.Cond.instanceMethod ({ cls := "OnePassport", name := "cross", desc := "(III)I" } : Jvm.MethodName)) ∈ lw_all := lw_g (lw_at lw_m3 192 rfl) rfl
theorem q808 : (Jvm.Cond.selects "OnePassport" ({ cls := "OnePassport", name := "cross", desc := "(III)I" } : Jvm.MethodName) ({ cls := "OnePassport", name := "cross", desc := "(III)I" } : Jvm.MethodName)) ∈ lw_all := lw_g (lw_at lw_m3 193 rfl) rfl
theorem q809 : (Jvm.Cond.code ({ cls := "OnePassport", name := "cross", desc := "(III)I" } : Jvm.MethodName) prog_1_method_44_code (4 : Nat) (Option.some Jvm.ClassFile.FieldType.int)) ∈ lw_all := lw_g (lw_at lw_m3 194 rfl) rfl
theorem q810 : (Jvm.Cond.methodLink "OnePassport" (271 : Nat) ({ cls := "OnePassport", name := "keeps", desc := "(I)I" } : Jvm.MethodName)) ∈ lw_all := lw_g (lw_at lw_m3 195 rfl) rfl
theorem q811 : (Jvm.Cond.privateMethod ({ cls := "OnePassport", name := "keeps", desc := "(I)I" } : Jvm.MethodName)) ∈ lw_tbl := lw_at lw_m3 196 rfl
theorem q812 : (Jvm.Cond.instanceMethod ({ cls := "OnePassport", name := "keeps", desc := "(I)I" } : Jvm.MethodName)) ∈ lw_all := lw_g (lw_at lw_m3 197 rfl) rfl
theorem q813 : (Jvm.Cond.code ({ cls := "OnePassport", name := "keeps", desc := "(I)I" } : Jvm.MethodName) prog_1_method_43_code (2 : Nat) (Option.some Jvm.ClassFile.FieldType.int)) ∈ lw_all := lw_g (lw_at lw_m3 198 rfl) rfl
theorem q815 : (Jvm.Cond.instanceMethod ({ cls := "OnePassport", name := "loaf", desc := "()I" } : Jvm.MethodName)) ∈ lw_all := lw_g (lw_at lw_m3 200 rfl) rfl
theorem q816 : (Jvm.Cond.selects "OnePassport" ({ cls := "OnePassport", name := "loaf", desc := "()I" } : Jvm.MethodName) ({ cls := "OnePassport", name := "loaf", desc := "()I" } : Jvm.MethodName)) ∈ lw_all := lw_g (lw_at lw_m3 201 rfl) rfl
theorem q817 : (Jvm.Cond.code ({ cls := "OnePassport", name := "loaf", desc := "()I" } : Jvm.MethodName) prog_1_method_45_code (1 : Nat) (Option.some Jvm.ClassFile.FieldType.int)) ∈ lw_all := lw_g (lw_at lw_m3 202 rfl) rfl
theorem q819 : (Jvm.Cond.instanceMethod ({ cls := "OnePassport", name := "undo", desc := "()I" } : Jvm.MethodName)) ∈ lw_all := lw_g (lw_at lw_m3 204 rfl) rfl
theorem q820 : (Jvm.Cond.selects "OnePassport" ({ cls := "OnePassport", name := "undo", desc := "()I" } : Jvm.MethodName) ({ cls := "OnePassport", name := "undo", desc := "()I" } : Jvm.MethodName)) ∈ lw_all := lw_g (lw_at lw_m3 205 rfl) rfl
theorem q821 : (Jvm.Cond.code ({ cls := "OnePassport", name := "undo", desc := "()I" } : Jvm.MethodName) prog_1_method_46_code (1 : Nat) (Option.some Jvm.ClassFile.FieldType.int)) ∈ lw_all := lw_g (lw_at lw_m3 206 rfl) rfl
theorem q823 : (Jvm.Cond.instanceMethod ({ cls := "OnePassport", name := "anew", desc := "()I" } : Jvm.MethodName)) ∈ lw_all := lw_g (lw_at lw_m3 208 rfl) rfl
theorem q824 : (Jvm.Cond.selects "OnePassport" ({ cls := "OnePassport", name := "anew", desc := "()I" } : Jvm.MethodName) ({ cls := "OnePassport", name := "anew", desc := "()I" } : Jvm.MethodName)) ∈ lw_all := lw_g (lw_at lw_m3 209 rfl) rfl
theorem q825 : (Jvm.Cond.code ({ cls := "OnePassport", name := "anew", desc := "()I" } : Jvm.MethodName) prog_1_method_47_code (2 : Nat) (Option.some Jvm.ClassFile.FieldType.int)) ∈ lw_all := lw_g (lw_at lw_m3 210 rfl) rfl
theorem q827 : (Jvm.Cond.instanceMethod ({ cls := "OnePassport", name := "act", desc := "(I)I" } : Jvm.MethodName)) ∈ lw_all := lw_g (lw_at lw_m3 212 rfl) rfl
theorem q828 : (Jvm.Cond.selects "OnePassport" ({ cls := "OnePassport", name := "act", desc := "(I)I" } : Jvm.MethodName) ({ cls := "OnePassport", name := "act", desc := "(I)I" } : Jvm.MethodName)) ∈ lw_all := lw_g (lw_at lw_m3 213 rfl) rfl
theorem q829 : (Jvm.Cond.code ({ cls := "OnePassport", name := "act", desc := "(I)I" } : Jvm.MethodName) prog_1_method_48_code (2 : Nat) (Option.some Jvm.ClassFile.FieldType.int)) ∈ lw_all := lw_g (lw_at lw_m3 214 rfl) rfl
theorem q831 : (Jvm.Cond.instanceMethod ({ cls := "OnePassport", name := "acts", desc := "()I" } : Jvm.MethodName)) ∈ lw_all := lw_g (lw_at lw_m3 216 rfl) rfl
theorem q832 : (Jvm.Cond.selects "OnePassport" ({ cls := "OnePassport", name := "acts", desc := "()I" } : Jvm.MethodName) ({ cls := "OnePassport", name := "acts", desc := "()I" } : Jvm.MethodName)) ∈ lw_all := lw_g (lw_at lw_m3 217 rfl) rfl
theorem q833 : (Jvm.Cond.code ({ cls := "OnePassport", name := "acts", desc := "()I" } : Jvm.MethodName) prog_1_method_50_code (3 : Nat) (Option.some Jvm.ClassFile.FieldType.int)) ∈ lw_all := lw_g (lw_at lw_m3 218 rfl) rfl
theorem q834 : (Jvm.Cond.methodLink "OnePassport" (281 : Nat) ({ cls := "OnePassport", name := "nextAct", desc := "(I)I" } : Jvm.MethodName)) ∈ lw_all := lw_g (lw_at lw_m3 219 rfl) rfl
theorem q835 : (Jvm.Cond.privateMethod ({ cls := "OnePassport", name := "nextAct", desc := "(I)I" } : Jvm.MethodName)) ∈ lw_tbl := lw_at lw_m3 220 rfl
theorem q836 : (Jvm.Cond.instanceMethod ({ cls := "OnePassport", name := "nextAct", desc := "(I)I" } : Jvm.MethodName)) ∈ lw_all := lw_g (lw_at lw_m3 221 rfl) rfl
theorem q837 : (Jvm.Cond.code ({ cls := "OnePassport", name := "nextAct", desc := "(I)I" } : Jvm.MethodName) prog_1_method_49_code (3 : Nat) (Option.some Jvm.ClassFile.FieldType.int)) ∈ lw_all := lw_g (lw_at lw_m3 222 rfl) rfl
theorem q838 : (Jvm.Cond.methodLink "OnePassport" (274 : Nat) ({ cls := "OnePassport", name := "isAct", desc := "(J)Z" } : Jvm.MethodName)) ∈ lw_all := lw_g (lw_at lw_m3 223 rfl) rfl
theorem q839 : (Jvm.Cond.privateMethod ({ cls := "OnePassport", name := "isAct", desc := "(J)Z" } : Jvm.MethodName)) ∈ lw_tbl := lw_at lw_m3 224 rfl
theorem q840 : (Jvm.Cond.instanceMethod ({ cls := "OnePassport", name := "isAct", desc := "(J)Z" } : Jvm.MethodName)) ∈ lw_all := lw_g (lw_at lw_m3 225 rfl) rfl
theorem q841 : (Jvm.Cond.code ({ cls := "OnePassport", name := "isAct", desc := "(J)Z" } : Jvm.MethodName) prog_1_method_28_code (3 : Nat) (Option.some Jvm.ClassFile.FieldType.boolean)) ∈ lw_all := lw_g (lw_at lw_m3 226 rfl) rfl
theorem q842 : (Jvm.Cond.constantLong "OnePassport" (194 : Nat) (200 : Int64)) ∈ lw_all := lw_g (lw_at lw_m3 227 rfl) rfl
theorem q843 : (Jvm.Cond.constantLong "OnePassport" (196 : Nat) (199 : Int64)) ∈ lw_all := lw_g (lw_at lw_m3 228 rfl) rfl
theorem q844 : (Jvm.Cond.methodLink "OnePassport" (278 : Nat) ({ cls := "OnePassport", name := "can", desc := "(I)Z" } : Jvm.MethodName)) ∈ lw_all := lw_g (lw_at lw_m3 229 rfl) rfl
theorem q845 : (Jvm.Cond.privateMethod ({ cls := "OnePassport", name := "can", desc := "(I)Z" } : Jvm.MethodName)) ∈ lw_tbl := lw_at lw_m3 230 rfl
theorem q846 : (Jvm.Cond.instanceMethod ({ cls := "OnePassport", name := "can", desc := "(I)Z" } : Jvm.MethodName)) ∈ lw_all := lw_g (lw_at lw_m3 231 rfl) rfl
theorem q847 : (Jvm.Cond.code ({ cls := "OnePassport", name := "can", desc := "(I)Z" } : Jvm.MethodName) prog_1_method_29_code (2 : Nat) (Option.some Jvm.ClassFile.FieldType.boolean)) ∈ lw_all := lw_g (lw_at lw_m3 232 rfl) rfl
theorem q849 : (Jvm.Cond.instanceMethod ({ cls := "OnePassport", name := "may", desc := "(I)I" } : Jvm.MethodName)) ∈ lw_all := lw_g (lw_at lw_m3 234 rfl) rfl
theorem q850 : (Jvm.Cond.selects "OnePassport" ({ cls := "OnePassport", name := "may", desc := "(I)I" } : Jvm.MethodName) ({ cls := "OnePassport", name := "may", desc := "(I)I" } : Jvm.MethodName)) ∈ lw_all := lw_g (lw_at lw_m3 235 rfl) rfl
theorem q851 : (Jvm.Cond.code ({ cls := "OnePassport", name := "may", desc := "(I)I" } : Jvm.MethodName) prog_1_method_51_code (4 : Nat) (Option.some Jvm.ClassFile.FieldType.int)) ∈ lw_all := lw_g (lw_at lw_m3 236 rfl) rfl
theorem q853 : (Jvm.Cond.instanceMethod ({ cls := "OnePassport", name := "days", desc := "()I" } : Jvm.MethodName)) ∈ lw_all := lw_g (lw_at lw_m3 238 rfl) rfl
theorem q854 : (Jvm.Cond.selects "OnePassport" ({ cls := "OnePassport", name := "days", desc := "()I" } : Jvm.MethodName) ({ cls := "OnePassport", name := "days", desc := "()I" } : Jvm.MethodName)) ∈ lw_all := lw_g (lw_at lw_m3 239 rfl) rfl
theorem q855 : (Jvm.Cond.code ({ cls := "OnePassport", name := "days", desc := "()I" } : Jvm.MethodName) prog_1_method_64_code (1 : Nat) (Option.some Jvm.ClassFile.FieldType.int)) ∈ lw_all := lw_g (lw_at lw_m4 0 rfl) rfl
theorem q856 : (Jvm.Cond.methodLink "OnePassport" (323 : Nat) ({ cls := "OnePassport", name := "costNow", desc := "(LOnePassport$Days;)I" } : Jvm.MethodName)) ∈ lw_all := lw_g (lw_at lw_m4 1 rfl) rfl
theorem q857 : (Jvm.Cond.privateMethod ({ cls := "OnePassport", name := "costNow", desc := "(LOnePassport$Days;)I" } : Jvm.MethodName)) ∈ lw_tbl := lw_at lw_m4 2 rfl
theorem q858 : (Jvm.Cond.instanceMethod ({ cls := "OnePassport", name := "costNow", desc := "(LOnePassport$Days;)I" } : Jvm.MethodName)) ∈ lw_all := lw_g (lw_at lw_m4 3 rfl) rfl
theorem q859 : (Jvm.Cond.code ({ cls := "OnePassport", name := "costNow", desc := "(LOnePassport$Days;)I" } : Jvm.MethodName) prog_1_method_58_code (2 : Nat) (Option.some Jvm.ClassFile.FieldType.int)) ∈ lw_all := lw_g (lw_at lw_m4 4 rfl) rfl
theorem q860 : (Jvm.Cond.methodLink "OnePassport" (316 : Nat) ({ cls := "OnePassport", name := "settles", desc := "(LOnePassport$Days;)V" } : Jvm.MethodName)) ∈ lw_all := lw_g (lw_at lw_m4 5 rfl) rfl
theorem q861 : (Jvm.Cond.privateMethod ({ cls := "OnePassport", name := "settles", desc := "(LOnePassport$Days;)V" } : Jvm.MethodName)) ∈ lw_tbl := lw_at lw_m4 6 rfl
theorem q862 : (Jvm.Cond.instanceMethod ({ cls := "OnePassport", name := "settles", desc := "(LOnePassport$Days;)V" } : Jvm.MethodName)) ∈ lw_all := lw_g (lw_at lw_m4 7 rfl) rfl
theorem q863 : (Jvm.Cond.code ({ cls := "OnePassport", name := "settles", desc := "(LOnePassport$Days;)V" } : Jvm.MethodName) prog_1_method_56_code (4 : Nat) (Option.none : Option Jvm.ClassFile.FieldType)) ∈ lw_all := lw_g (lw_at lw_m4 8 rfl) rfl
theorem q864 : (Jvm.Cond.constant "OnePassport" (291 : Nat) (1000000000 : Int32)) ∈ lw_all := lw_g (lw_at lw_m4 9 rfl) rfl
theorem q865 : (Jvm.Cond.methodLink "OnePassport" (298 : Nat) ({ cls := "OnePassport", name := "state", desc := "()I" } : Jvm.MethodName)) ∈ lw_all := lw_g (lw_at lw_m4 10 rfl) rfl
theorem q866 : (Jvm.Cond.privateMethod ({ cls := "OnePassport", name := "state", desc := "()I" } : Jvm.MethodName)) ∈ lw_tbl := lw_at lw_m4 11 rfl
theorem q867 : (Jvm.Cond.instanceMethod ({ cls := "OnePassport", name := "state", desc := "()I" } : Jvm.MethodName)) ∈ lw_all := lw_g (lw_at lw_m4 12 rfl) rfl
theorem q868 : (Jvm.Cond.code ({ cls := "OnePassport", name := "state", desc := "()I" } : Jvm.MethodName) prog_1_method_21_code (1 : Nat) (Option.some Jvm.ClassFile.FieldType.int)) ∈ lw_all := lw_g (lw_at lw_m4 13 rfl) rfl
theorem q869 : (Jvm.Cond.methodLink "OnePassport" (301 : Nat) ({ cls := "OnePassport", name := "comes", desc := "(II)V" } : Jvm.MethodName)) ∈ lw_all := lw_g (lw_at lw_m4 14 rfl) rfl
theorem q870 : (Jvm.Cond.privateMethod ({ cls := "OnePassport", name := "comes", desc := "(II)V" } : Jvm.MethodName)) ∈ lw_tbl := lw_at lw_m4 15 rfl
theorem q871 : (Jvm.Cond.instanceMethod ({ cls := "OnePassport", name := "comes", desc := "(II)V" } : Jvm.MethodName)) ∈ lw_all := lw_g (lw_at lw_m4 16 rfl) rfl
theorem q872 : (Jvm.Cond.code ({ cls := "OnePassport", name := "comes", desc := "(II)V" } : Jvm.MethodName) prog_1_method_55_code (3 : Nat) (Option.none : Option Jvm.ClassFile.FieldType)) ∈ lw_all := lw_g (lw_at lw_m4 17 rfl) rfl
theorem q873 : (Jvm.Cond.methodLink "OnePassport" (292 : Nat) ({ cls := "OnePassport", name := "rises", desc := "(I)V" } : Jvm.MethodName)) ∈ lw_all := lw_g (lw_at lw_m4 18 rfl) rfl
theorem q874 : (Jvm.Cond.privateMethod ({ cls := "OnePassport", name := "rises", desc := "(I)V" } : Jvm.MethodName)) ∈ lw_tbl := lw_at lw_m4 19 rfl
theorem q875 : (Jvm.Cond.instanceMethod ({ cls := "OnePassport", name := "rises", desc := "(I)V" } : Jvm.MethodName)) ∈ lw_all := lw_g (lw_at lw_m4 20 rfl) rfl
theorem q876 : (Jvm.Cond.code ({ cls := "OnePassport", name := "rises", desc := "(I)V" } : Jvm.MethodName) prog_1_method_53_code (3 : Nat) (Option.none : Option Jvm.ClassFile.FieldType)) ∈ lw_all := lw_g (lw_at lw_m4 21 rfl) rfl
theorem q877 : (Jvm.Cond.methodLink "OnePassport" (284 : Nat) ({ cls := "OnePassport", name := "swaps", desc := "(II)V" } : Jvm.MethodName)) ∈ lw_all := lw_g (lw_at lw_m4 22 rfl) rfl
theorem q878 : (Jvm.Cond.privateMethod ({ cls := "OnePassport", name := "swaps", desc := "(II)V" } : Jvm.MethodName)) ∈ lw_tbl := lw_at lw_m4 23 rfl
theorem q879 : (Jvm.Cond.instanceMethod ({ cls := "OnePassport", name := "swaps", desc := "(II)V" } : Jvm.MethodName)) ∈ lw_all := lw_g (lw_at lw_m4 24 rfl) rfl
theorem q880 : (Jvm.Cond.code ({ cls := "OnePassport", name := "swaps", desc := "(II)V" } : Jvm.MethodName) prog_1_method_52_code (4 : Nat) (Option.none : Option Jvm.ClassFile.FieldType)) ∈ lw_all := lw_g (lw_at lw_m4 25 rfl) rfl
theorem q881 : (Jvm.Cond.methodLink "OnePassport" (304 : Nat) ({ cls := "OnePassport", name := "sinks", desc := "()V" } : Jvm.MethodName)) ∈ lw_all := lw_g (lw_at lw_m4 26 rfl) rfl
theorem q882 : (Jvm.Cond.privateMethod ({ cls := "OnePassport", name := "sinks", desc := "()V" } : Jvm.MethodName)) ∈ lw_tbl := lw_at lw_m4 27 rfl
theorem q883 : (Jvm.Cond.instanceMethod ({ cls := "OnePassport", name := "sinks", desc := "()V" } : Jvm.MethodName)) ∈ lw_all := lw_g (lw_at lw_m4 28 rfl) rfl
theorem q884 : (Jvm.Cond.code ({ cls := "OnePassport", name := "sinks", desc := "()V" } : Jvm.MethodName) prog_1_method_54_code (3 : Nat) (Option.none : Option Jvm.ClassFile.FieldType)) ∈ lw_all := lw_g (lw_at lw_m4 29 rfl) rfl
theorem q885 : (Jvm.Cond.methodLink "OnePassport" (307 : Nat) ({ cls := "OnePassport", name := "be", desc := "(I)V" } : Jvm.MethodName)) ∈ lw_all := lw_g (lw_at lw_m4 30 rfl) rfl
theorem q886 : (Jvm.Cond.privateMethod ({ cls := "OnePassport", name := "be", desc := "(I)V" } : Jvm.MethodName)) ∈ lw_tbl := lw_at lw_m4 31 rfl
theorem q887 : (Jvm.Cond.instanceMethod ({ cls := "OnePassport", name := "be", desc := "(I)V" } : Jvm.MethodName)) ∈ lw_all := lw_g (lw_at lw_m4 32 rfl) rfl
theorem q888 : (Jvm.Cond.code ({ cls := "OnePassport", name := "be", desc := "(I)V" } : Jvm.MethodName) prog_1_method_22_code (2 : Nat) (Option.none : Option Jvm.ClassFile.FieldType)) ∈ lw_all := lw_g (lw_at lw_m4 33 rfl) rfl
theorem q889 : (Jvm.Cond.methodLink "OnePassport" (310 : Nat) ({ cls := "OnePassport$Days", name := "of", desc := "(I)I" } : Jvm.MethodName)) ∈ lw_all := lw_g (lw_at lw_m4 34 rfl) rfl
theorem q904 : (Jvm.Cond.methodLink "OnePassport" (320 : Nat) ({ cls := "OnePassport", name := "nearestEnd", desc := "()I" } : Jvm.MethodName)) ∈ lw_all := lw_g (lw_at lw_m4 49 rfl) rfl
theorem q905 : (Jvm.Cond.privateMethod ({ cls := "OnePassport", name := "nearestEnd", desc := "()I" } : Jvm.MethodName)) ∈ lw_tbl := lw_at lw_m4 50 rfl
theorem q906 : (Jvm.Cond.instanceMethod ({ cls := "OnePassport", name := "nearestEnd", desc := "()I" } : Jvm.MethodName)) ∈ lw_all := lw_g (lw_at lw_m4 51 rfl) rfl
theorem q907 : (Jvm.Cond.code ({ cls := "OnePassport", name := "nearestEnd", desc := "()I" } : Jvm.MethodName) prog_1_method_57_code (2 : Nat) (Option.some Jvm.ClassFile.FieldType.int)) ∈ lw_all := lw_g (lw_at lw_m4 52 rfl) rfl
theorem q908 : (Jvm.Cond.methodLink "OnePassport" (313 : Nat) ({ cls := "OnePassport", name := "isEnd", desc := "()Z" } : Jvm.MethodName)) ∈ lw_all := lw_g (lw_at lw_m4 53 rfl) rfl
theorem q909 : (Jvm.Cond.privateMethod ({ cls := "OnePassport", name := "isEnd", desc := "()Z" } : Jvm.MethodName)) ∈ lw_tbl := lw_at lw_m4 54 rfl
theorem q910 : (Jvm.Cond.instanceMethod ({ cls := "OnePassport", name := "isEnd", desc := "()Z" } : Jvm.MethodName)) ∈ lw_all := lw_g (lw_at lw_m4 55 rfl) rfl
theorem q911 : (Jvm.Cond.code ({ cls := "OnePassport", name := "isEnd", desc := "()Z" } : Jvm.MethodName) prog_1_method_31_code (1 : Nat) (Option.some Jvm.ClassFile.FieldType.boolean)) ∈ lw_all := lw_g (lw_at lw_m4 56 rfl) rfl
theorem q912 : (Jvm.Cond.methodLink "OnePassport" (215 : Nat) ({ cls := "OnePassport", name := "all", desc := "()I" } : Jvm.MethodName)) ∈ lw_all := lw_g (lw_at lw_m4 57 rfl) rfl
theorem q913 : (Jvm.Cond.privateMethod ({ cls := "OnePassport", name := "all", desc := "()I" } : Jvm.MethodName)) ∈ lw_tbl := lw_at lw_m4 58 rfl
theorem q914 : (Jvm.Cond.instanceMethod ({ cls := "OnePassport", name := "all", desc := "()I" } : Jvm.MethodName)) ∈ lw_all := lw_g (lw_at lw_m4 59 rfl) rfl
theorem q915 : (Jvm.Cond.code ({ cls := "OnePassport", name := "all", desc := "()I" } : Jvm.MethodName) prog_1_method_15_code (1 : Nat) (Option.some Jvm.ClassFile.FieldType.int)) ∈ lw_all := lw_g (lw_at lw_m4 60 rfl) rfl
theorem q916 : (Jvm.Cond.methodLink "OnePassport" (339 : Nat) ({ cls := "OnePassport", name := "orNone", desc := "(I)I" } : Jvm.MethodName)) ∈ lw_all := lw_g (lw_at lw_m4 61 rfl) rfl
theorem q917 : (Jvm.Cond.static ({ cls := "OnePassport", name := "orNone", desc := "(I)I" } : Jvm.MethodName)) ∈ lw_all := lw_g (lw_at lw_m4 62 rfl) rfl
theorem q918 : (Jvm.Cond.code ({ cls := "OnePassport", name := "orNone", desc := "(I)I" } : Jvm.MethodName) prog_1_method_63_code (1 : Nat) (Option.some Jvm.ClassFile.FieldType.int)) ∈ lw_all := lw_g (lw_at lw_m4 63 rfl) rfl
theorem q920 : (Jvm.Cond.instanceMethod ({ cls := "OnePassport", name := "plan", desc := "(I)I" } : Jvm.MethodName)) ∈ lw_all := lw_g (lw_at lw_m4 65 rfl) rfl
theorem q921 : (Jvm.Cond.selects "OnePassport" ({ cls := "OnePassport", name := "plan", desc := "(I)I" } : Jvm.MethodName) ({ cls := "OnePassport", name := "plan", desc := "(I)I" } : Jvm.MethodName)) ∈ lw_all := lw_g (lw_at lw_m4 66 rfl) rfl
theorem q922 : (Jvm.Cond.code ({ cls := "OnePassport", name := "plan", desc := "(I)I" } : Jvm.MethodName) prog_1_method_65_code (2 : Nat) (Option.some Jvm.ClassFile.FieldType.int)) ∈ lw_all := lw_g (lw_at lw_m4 67 rfl) rfl
theorem q923 : (Jvm.Cond.methodLink "OnePassport" (342 : Nat) ({ cls := "OnePassport", name := "rowAct", desc := "(LOnePassport$Days;I)I" } : Jvm.MethodName)) ∈ lw_all := lw_g (lw_at lw_m4 68 rfl) rfl
theorem q924 : (Jvm.Cond.privateMethod ({ cls := "OnePassport", name := "rowAct", desc := "(LOnePassport$Days;I)I" } : Jvm.MethodName)) ∈ lw_tbl := lw_at lw_m4 69 rfl
theorem q925 : (Jvm.Cond.instanceMethod ({ cls := "OnePassport", name := "rowAct", desc := "(LOnePassport$Days;I)I" } : Jvm.MethodName)) ∈ lw_all := lw_g (lw_at lw_m4 70 rfl) rfl
theorem q926 : (Jvm.Cond.code ({ cls := "OnePassport", name := "rowAct", desc := "(LOnePassport$Days;I)I" } : Jvm.MethodName) prog_1_method_62_code (5 : Nat) (Option.some Jvm.ClassFile.FieldType.int)) ∈ lw_all := lw_g (lw_at lw_m4 71 rfl) rfl
theorem q927 : (Jvm.Cond.methodLink "OnePassport" (333 : Nat) ({ cls := "OnePassport", name := "marks", desc := "(LOnePassport$Days;)Z" } : Jvm.MethodName)) ∈ lw_all := lw_g (lw_at lw_m4 72 rfl) rfl
theorem q928 : (Jvm.Cond.privateMethod ({ cls := "OnePassport", name := "marks", desc := "(LOnePassport$Days;)Z" } : Jvm.MethodName)) ∈ lw_tbl := lw_at lw_m4 73 rfl
theorem q929 : (Jvm.Cond.instanceMethod ({ cls := "OnePassport", name := "marks", desc := "(LOnePassport$Days;)Z" } : Jvm.MethodName)) ∈ lw_all := lw_g (lw_at lw_m4 74 rfl) rfl
theorem q930 : (Jvm.Cond.code ({ cls := "OnePassport", name := "marks", desc := "(LOnePassport$Days;)Z" } : Jvm.MethodName) prog_1_method_60_code (7 : Nat) (Option.some Jvm.ClassFile.FieldType.boolean)) ∈ lw_all := lw_g (lw_at lw_m4 75 rfl) rfl
theorem q931 : (Jvm.Cond.methodLink "OnePassport" (330 : Nat) ({ cls := "OnePassport", name := "nextBy", desc := "(I)I" } : Jvm.MethodName)) ∈ lw_all := lw_g (lw_at lw_m4 76 rfl) rfl
theorem q932 : (Jvm.Cond.privateMethod ({ cls := "OnePassport", name := "nextBy", desc := "(I)I" } : Jvm.MethodName)) ∈ lw_tbl := lw_at lw_m4 77 rfl
theorem q933 : (Jvm.Cond.instanceMethod ({ cls := "OnePassport", name := "nextBy", desc := "(I)I" } : Jvm.MethodName)) ∈ lw_all := lw_g (lw_at lw_m4 78 rfl) rfl
theorem q934 : (Jvm.Cond.code ({ cls := "OnePassport", name := "nextBy", desc := "(I)I" } : Jvm.MethodName) prog_1_method_59_code (2 : Nat) (Option.some Jvm.ClassFile.FieldType.int)) ∈ lw_all := lw_g (lw_at lw_m4 79 rfl) rfl
theorem q935 : (Jvm.Cond.methodLink "OnePassport" (336 : Nat) ({ cls := "OnePassport", name := "step", desc := "(LOnePassport$Days;)I" } : Jvm.MethodName)) ∈ lw_all := lw_g (lw_at lw_m4 80 rfl) rfl
theorem q936 : (Jvm.Cond.privateMethod ({ cls := "OnePassport", name := "step", desc := "(LOnePassport$Days;)I" } : Jvm.MethodName)) ∈ lw_tbl := lw_at lw_m4 81 rfl
theorem q937 : (Jvm.Cond.instanceMethod ({ cls := "OnePassport", name := "step", desc := "(LOnePassport$Days;)I" } : Jvm.MethodName)) ∈ lw_all := lw_g (lw_at lw_m4 82 rfl) rfl
theorem q938 : (Jvm.Cond.code ({ cls := "OnePassport", name := "step", desc := "(LOnePassport$Days;)I" } : Jvm.MethodName) prog_1_method_61_code (5 : Nat) (Option.some Jvm.ClassFile.FieldType.int)) ∈ lw_all := lw_g (lw_at lw_m4 83 rfl) rfl
theorem q940 : (Jvm.Cond.instanceMethod ({ cls := "OnePassport", name := "surest", desc := "()I" } : Jvm.MethodName)) ∈ lw_all := lw_g (lw_at lw_m4 85 rfl) rfl
theorem q941 : (Jvm.Cond.selects "OnePassport" ({ cls := "OnePassport", name := "surest", desc := "()I" } : Jvm.MethodName) ({ cls := "OnePassport", name := "surest", desc := "()I" } : Jvm.MethodName)) ∈ lw_all := lw_g (lw_at lw_m4 86 rfl) rfl
theorem q942 : (Jvm.Cond.code ({ cls := "OnePassport", name := "surest", desc := "()I" } : Jvm.MethodName) prog_1_method_67_code (1 : Nat) (Option.some Jvm.ClassFile.FieldType.int)) ∈ lw_all := lw_g (lw_at lw_m4 87 rfl) rfl
theorem q943 : (Jvm.Cond.methodLink "OnePassport" (346 : Nat) ({ cls := "OnePassport", name := "surestNow", desc := "()I" } : Jvm.MethodName)) ∈ lw_all := lw_g (lw_at lw_m4 88 rfl) rfl
theorem q944 : (Jvm.Cond.privateMethod ({ cls := "OnePassport", name := "surestNow", desc := "()I" } : Jvm.MethodName)) ∈ lw_tbl := lw_at lw_m4 89 rfl
theorem q945 : (Jvm.Cond.instanceMethod ({ cls := "OnePassport", name := "surestNow", desc := "()I" } : Jvm.MethodName)) ∈ lw_all := lw_g (lw_at lw_m4 90 rfl) rfl
theorem q946 : (Jvm.Cond.code ({ cls := "OnePassport", name := "surestNow", desc := "()I" } : Jvm.MethodName) prog_1_method_66_code (2 : Nat) (Option.some Jvm.ClassFile.FieldType.int)) ∈ lw_all := lw_g (lw_at lw_m4 91 rfl) rfl
theorem q948 : (Jvm.Cond.instanceMethod ({ cls := "OnePassport", name := "surely", desc := "(I)I" } : Jvm.MethodName)) ∈ lw_all := lw_g (lw_at lw_m4 93 rfl) rfl
theorem q949 : (Jvm.Cond.selects "OnePassport" ({ cls := "OnePassport", name := "surely", desc := "(I)I" } : Jvm.MethodName) ({ cls := "OnePassport", name := "surely", desc := "(I)I" } : Jvm.MethodName)) ∈ lw_all := lw_g (lw_at lw_m4 94 rfl) rfl
theorem q950 : (Jvm.Cond.code ({ cls := "OnePassport", name := "surely", desc := "(I)I" } : Jvm.MethodName) prog_1_method_68_code (2 : Nat) (Option.some Jvm.ClassFile.FieldType.int)) ∈ lw_all := lw_g (lw_at lw_m4 95 rfl) rfl
theorem q952 : (Jvm.Cond.instanceMethod ({ cls := "OnePassport", name := "slowly", desc := "()I" } : Jvm.MethodName)) ∈ lw_all := lw_g (lw_at lw_m4 97 rfl) rfl
theorem q953 : (Jvm.Cond.selects "OnePassport" ({ cls := "OnePassport", name := "slowly", desc := "()I" } : Jvm.MethodName) ({ cls := "OnePassport", name := "slowly", desc := "()I" } : Jvm.MethodName)) ∈ lw_all := lw_g (lw_at lw_m4 98 rfl) rfl
theorem q954 : (Jvm.Cond.code ({ cls := "OnePassport", name := "slowly", desc := "()I" } : Jvm.MethodName) prog_1_method_69_code (2 : Nat) (Option.some Jvm.ClassFile.FieldType.int)) ∈ lw_all := lw_g (lw_at lw_m4 99 rfl) rfl
theorem q956 : (Jvm.Cond.instanceMethod ({ cls := "OnePassport", name := "crossings", desc := "()I" } : Jvm.MethodName)) ∈ lw_all := lw_g (lw_at lw_m4 101 rfl) rfl
theorem q957 : (Jvm.Cond.selects "OnePassport" ({ cls := "OnePassport", name := "crossings", desc := "()I" } : Jvm.MethodName) ({ cls := "OnePassport", name := "crossings", desc := "()I" } : Jvm.MethodName)) ∈ lw_all := lw_g (lw_at lw_m4 102 rfl) rfl
theorem q958 : (Jvm.Cond.code ({ cls := "OnePassport", name := "crossings", desc := "()I" } : Jvm.MethodName) prog_1_method_70_code (2 : Nat) (Option.some Jvm.ClassFile.FieldType.int)) ∈ lw_all := lw_g (lw_at lw_m4 103 rfl) rfl
theorem q960 : (Jvm.Cond.instanceMethod ({ cls := "OnePassport", name := "moves", desc := "()I" } : Jvm.MethodName)) ∈ lw_all := lw_g (lw_at lw_m4 105 rfl) rfl
theorem q961 : (Jvm.Cond.selects "OnePassport" ({ cls := "OnePassport", name := "moves", desc := "()I" } : Jvm.MethodName) ({ cls := "OnePassport", name := "moves", desc := "()I" } : Jvm.MethodName)) ∈ lw_all := lw_g (lw_at lw_m4 106 rfl) rfl
theorem q962 : (Jvm.Cond.code ({ cls := "OnePassport", name := "moves", desc := "()I" } : Jvm.MethodName) prog_1_method_71_code (2 : Nat) (Option.some Jvm.ClassFile.FieldType.int)) ∈ lw_all := lw_g (lw_at lw_m4 107 rfl) rfl
theorem q964 : (Jvm.Cond.instanceMethod ({ cls := "OnePassport", name := "chance", desc := "(I)J" } : Jvm.MethodName)) ∈ lw_all := lw_g (lw_at lw_m4 109 rfl) rfl
theorem q965 : (Jvm.Cond.selects "OnePassport" ({ cls := "OnePassport", name := "chance", desc := "(I)J" } : Jvm.MethodName) ({ cls := "OnePassport", name := "chance", desc := "(I)J" } : Jvm.MethodName)) ∈ lw_all := lw_g (lw_at lw_m4 110 rfl) rfl
theorem q966 : (Jvm.Cond.code ({ cls := "OnePassport", name := "chance", desc := "(I)J" } : Jvm.MethodName) prog_1_method_73_code (8 : Nat) (Option.some Jvm.ClassFile.FieldType.long)) ∈ lw_all := lw_g (lw_at lw_m4 111 rfl) rfl
theorem q967 : (Jvm.Cond.constantLong "OnePassport" (349 : Nat) (-2 : Int64)) ∈ lw_all := lw_g (lw_at lw_m4 112 rfl) rfl
theorem q968 : (Jvm.Cond.constantLong "OnePassport" (351 : Nat) (-1 : Int64)) ∈ lw_all := lw_g (lw_at lw_m4 113 rfl) rfl
theorem q969 : (Jvm.Cond.constantLong "OnePassport" (353 : Nat) (100 : Int64)) ∈ lw_all := lw_g (lw_at lw_m4 114 rfl) rfl
theorem q970 : (Jvm.Cond.methodLink "OnePassport" (355 : Nat) ({ cls := "OnePassport", name := "divisor", desc := "(JJ)J" } : Jvm.MethodName)) ∈ lw_all := lw_g (lw_at lw_m4 115 rfl) rfl
theorem q971 : (Jvm.Cond.static ({ cls := "OnePassport", name := "divisor", desc := "(JJ)J" } : Jvm.MethodName)) ∈ lw_all := lw_g (lw_at lw_m4 116 rfl) rfl
theorem q972 : (Jvm.Cond.code ({ cls := "OnePassport", name := "divisor", desc := "(JJ)J" } : Jvm.MethodName) prog_1_method_72_code (10 : Nat) (Option.some Jvm.ClassFile.FieldType.long)) ∈ lw_all := lw_g (lw_at lw_m4 117 rfl) rfl
theorem q974 : (Jvm.Cond.instanceMethod ({ cls := "OnePassport", name := "states", desc := "()I" } : Jvm.MethodName)) ∈ lw_all := lw_g (lw_at lw_m4 119 rfl) rfl
theorem q975 : (Jvm.Cond.selects "OnePassport" ({ cls := "OnePassport", name := "states", desc := "()I" } : Jvm.MethodName) ({ cls := "OnePassport", name := "states", desc := "()I" } : Jvm.MethodName)) ∈ lw_all := lw_g (lw_at lw_m4 120 rfl) rfl
theorem q976 : (Jvm.Cond.code ({ cls := "OnePassport", name := "states", desc := "()I" } : Jvm.MethodName) prog_1_method_75_code (1 : Nat) (Option.some Jvm.ClassFile.FieldType.int)) ∈ lw_all := lw_g (lw_at lw_m4 121 rfl) rfl
theorem q977 : (Jvm.Cond.methodLink "OnePassport" (359 : Nat) ({ cls := "OnePassport", name := "settlesAll", desc := "()V" } : Jvm.MethodName)) ∈ lw_all := lw_g (lw_at lw_m4 122 rfl) rfl
theorem q978 : (Jvm.Cond.privateMethod ({ cls := "OnePassport", name := "settlesAll", desc := "()V" } : Jvm.MethodName)) ∈ lw_tbl := lw_at lw_m4 123 rfl
theorem q979 : (Jvm.Cond.instanceMethod ({ cls := "OnePassport", name := "settlesAll", desc := "()V" } : Jvm.MethodName)) ∈ lw_all := lw_g (lw_at lw_m4 124 rfl) rfl
theorem q980 : (Jvm.Cond.code ({ cls := "OnePassport", name := "settlesAll", desc := "()V" } : Jvm.MethodName) prog_1_method_74_code (1 : Nat) (Option.none : Option Jvm.ClassFile.FieldType)) ∈ lw_all := lw_g (lw_at lw_m4 125 rfl) rfl
theorem q982 : (Jvm.Cond.instanceMethod ({ cls := "OnePassport", name := "hopeful", desc := "()I" } : Jvm.MethodName)) ∈ lw_all := lw_g (lw_at lw_m4 127 rfl) rfl
theorem q983 : (Jvm.Cond.selects "OnePassport" ({ cls := "OnePassport", name := "hopeful", desc := "()I" } : Jvm.MethodName) ({ cls := "OnePassport", name := "hopeful", desc := "()I" } : Jvm.MethodName)) ∈ lw_all := lw_g (lw_at lw_m4 128 rfl) rfl
theorem q984 : (Jvm.Cond.code ({ cls := "OnePassport", name := "hopeful", desc := "()I" } : Jvm.MethodName) prog_1_method_76_code (5 : Nat) (Option.some Jvm.ClassFile.FieldType.int)) ∈ lw_all := lw_g (lw_at lw_m4 129 rfl) rfl
theorem q985 : (Jvm.Cond.methodLink "OnePassport" (362 : Nat) ({ cls := "OnePassport", name := "leadsOn", desc := "(I)Z" } : Jvm.MethodName)) ∈ lw_all := lw_g (lw_at lw_m4 130 rfl) rfl
theorem q986 : (Jvm.Cond.privateMethod ({ cls := "OnePassport", name := "leadsOn", desc := "(I)Z" } : Jvm.MethodName)) ∈ lw_tbl := lw_at lw_m4 131 rfl
theorem q987 : (Jvm.Cond.instanceMethod ({ cls := "OnePassport", name := "leadsOn", desc := "(I)Z" } : Jvm.MethodName)) ∈ lw_all := lw_g (lw_at lw_m4 132 rfl) rfl
theorem q988 : (Jvm.Cond.code ({ cls := "OnePassport", name := "leadsOn", desc := "(I)Z" } : Jvm.MethodName) prog_1_method_77_code (4 : Nat) (Option.some Jvm.ClassFile.FieldType.boolean)) ∈ lw_all := lw_g (lw_at lw_m4 133 rfl) rfl
theorem q990 : (Jvm.Cond.instanceMethod ({ cls := "OnePassport", name := "till", desc := "(I)I" } : Jvm.MethodName)) ∈ lw_all := lw_g (lw_at lw_m4 135 rfl) rfl
theorem q991 : (Jvm.Cond.selects "OnePassport" ({ cls := "OnePassport", name := "till", desc := "(I)I" } : Jvm.MethodName) ({ cls := "OnePassport", name := "till", desc := "(I)I" } : Jvm.MethodName)) ∈ lw_all := lw_g (lw_at lw_m4 136 rfl) rfl
theorem q992 : (Jvm.Cond.code ({ cls := "OnePassport", name := "till", desc := "(I)I" } : Jvm.MethodName) prog_1_method_79_code (3 : Nat) (Option.some Jvm.ClassFile.FieldType.int)) ∈ lw_all := lw_g (lw_at lw_m4 137 rfl) rfl
theorem q993 : (Jvm.Cond.methodLink "OnePassport" (365 : Nat) ({ cls := "OnePassport", name := "isSet", desc := "(I)Z" } : Jvm.MethodName)) ∈ lw_all := lw_g (lw_at lw_m4 138 rfl) rfl
theorem q994 : (Jvm.Cond.privateMethod ({ cls := "OnePassport", name := "isSet", desc := "(I)Z" } : Jvm.MethodName)) ∈ lw_tbl := lw_at lw_m4 139 rfl
theorem q995 : (Jvm.Cond.instanceMethod ({ cls := "OnePassport", name := "isSet", desc := "(I)Z" } : Jvm.MethodName)) ∈ lw_all := lw_g (lw_at lw_m4 140 rfl) rfl
theorem q996 : (Jvm.Cond.code ({ cls := "OnePassport", name := "isSet", desc := "(I)Z" } : Jvm.MethodName) prog_1_method_78_code (2 : Nat) (Option.some Jvm.ClassFile.FieldType.boolean)) ∈ lw_all := lw_g (lw_at lw_m4 141 rfl) rfl
theorem q998 : (Jvm.Cond.instanceMethod ({ cls := "OnePassport", name := "over", desc := "(I)I" } : Jvm.MethodName)) ∈ lw_all := lw_g (lw_at lw_m4 143 rfl) rfl
theorem q999 : (Jvm.Cond.selects "OnePassport" ({ cls := "OnePassport", name := "over", desc := "(I)I" } : Jvm.MethodName) ({ cls := "OnePassport", name := "over", desc := "(I)I" } : Jvm.MethodName)) ∈ lw_all := lw_g (lw_at lw_m4 144 rfl) rfl
theorem q1000 : (Jvm.Cond.code ({ cls := "OnePassport", name := "over", desc := "(I)I" } : Jvm.MethodName) prog_1_method_80_code (3 : Nat) (Option.some Jvm.ClassFile.FieldType.int)) ∈ lw_all := lw_g (lw_at lw_m4 145 rfl) rfl
theorem q1002 : (Jvm.Cond.instanceMethod ({ cls := "OnePassport", name := "never", desc := "()I" } : Jvm.MethodName)) ∈ lw_all := lw_g (lw_at lw_m4 147 rfl) rfl
theorem q1003 : (Jvm.Cond.selects "OnePassport" ({ cls := "OnePassport", name := "never", desc := "()I" } : Jvm.MethodName) ({ cls := "OnePassport", name := "never", desc := "()I" } : Jvm.MethodName)) ∈ lw_all := lw_g (lw_at lw_m4 148 rfl) rfl
theorem q1004 : (Jvm.Cond.code ({ cls := "OnePassport", name := "never", desc := "()I" } : Jvm.MethodName) prog_1_method_81_code (3 : Nat) (Option.some Jvm.ClassFile.FieldType.int)) ∈ lw_all := lw_g (lw_at lw_m4 149 rfl) rfl
theorem q1006 : (Jvm.Cond.instanceMethod ({ cls := "OnePassport", name := "lost", desc := "(I)I" } : Jvm.MethodName)) ∈ lw_all := lw_g (lw_at lw_m4 151 rfl) rfl
theorem q1007 : (Jvm.Cond.selects "OnePassport" ({ cls := "OnePassport", name := "lost", desc := "(I)I" } : Jvm.MethodName) ({ cls := "OnePassport", name := "lost", desc := "(I)I" } : Jvm.MethodName)) ∈ lw_all := lw_g (lw_at lw_m4 152 rfl) rfl
theorem q1008 : (Jvm.Cond.code ({ cls := "OnePassport", name := "lost", desc := "(I)I" } : Jvm.MethodName) prog_1_method_82_code (4 : Nat) (Option.some Jvm.ClassFile.FieldType.int)) ∈ lw_all := lw_g (lw_at lw_m4 153 rfl) rfl
theorem q1010 : (Jvm.Cond.instanceMethod ({ cls := "OnePassport", name := "worst", desc := "()I" } : Jvm.MethodName)) ∈ lw_all := lw_g (lw_at lw_m4 155 rfl) rfl
theorem q1011 : (Jvm.Cond.selects "OnePassport" ({ cls := "OnePassport", name := "worst", desc := "()I" } : Jvm.MethodName) ({ cls := "OnePassport", name := "worst", desc := "()I" } : Jvm.MethodName)) ∈ lw_all := lw_g (lw_at lw_m4 156 rfl) rfl
theorem q1012 : (Jvm.Cond.code ({ cls := "OnePassport", name := "worst", desc := "()I" } : Jvm.MethodName) prog_1_method_84_code (5 : Nat) (Option.some Jvm.ClassFile.FieldType.int)) ∈ lw_all := lw_g (lw_at lw_m4 157 rfl) rfl
theorem q1013 : (Jvm.Cond.methodLink "OnePassport" (373 : Nat) ({ cls := "OnePassport", name := "wrong", desc := "()I" } : Jvm.MethodName)) ∈ lw_all := lw_g (lw_at lw_m4 158 rfl) rfl
theorem q1014 : (Jvm.Cond.privateMethod ({ cls := "OnePassport", name := "wrong", desc := "()I" } : Jvm.MethodName)) ∈ lw_tbl := lw_at lw_m4 159 rfl
theorem q1015 : (Jvm.Cond.instanceMethod ({ cls := "OnePassport", name := "wrong", desc := "()I" } : Jvm.MethodName)) ∈ lw_all := lw_g (lw_at lw_m4 160 rfl) rfl
theorem q1016 : (Jvm.Cond.code ({ cls := "OnePassport", name := "wrong", desc := "()I" } : Jvm.MethodName) prog_1_method_83_code (1 : Nat) (Option.some Jvm.ClassFile.FieldType.int)) ∈ lw_all := lw_g (lw_at lw_m4 161 rfl) rfl
theorem q1017 : (Jvm.Cond.methodLink "OnePassport" (368 : Nat) ({ cls := "java/lang/Integer", name := "bitCount", desc := "(I)I" } : Jvm.MethodName)) ∈ lw_all := lw_g (lw_at lw_m4 162 rfl) rfl
theorem q1024 : (Jvm.Cond.instanceMethod ({ cls := "OnePassport", name := "judge", desc := "(I)I" } : Jvm.MethodName)) ∈ lw_all := lw_g (lw_at lw_m4 169 rfl) rfl
theorem q1025 : (Jvm.Cond.selects "OnePassport" ({ cls := "OnePassport", name := "judge", desc := "(I)I" } : Jvm.MethodName) ({ cls := "OnePassport", name := "judge", desc := "(I)I" } : Jvm.MethodName)) ∈ lw_all := lw_g (lw_at lw_m4 170 rfl) rfl
theorem q1026 : (Jvm.Cond.code ({ cls := "OnePassport", name := "judge", desc := "(I)I" } : Jvm.MethodName) prog_1_method_88_code (3 : Nat) (Option.some Jvm.ClassFile.FieldType.int)) ∈ lw_all := lw_g (lw_at lw_m4 171 rfl) rfl
theorem q1027 : (Jvm.Cond.methodLink "OnePassport" (390 : Nat) ({ cls := "OnePassport", name := "asksRow", desc := "(I)I" } : Jvm.MethodName)) ∈ lw_all := lw_g (lw_at lw_m4 172 rfl) rfl
theorem q1028 : (Jvm.Cond.privateMethod ({ cls := "OnePassport", name := "asksRow", desc := "(I)I" } : Jvm.MethodName)) ∈ lw_tbl := lw_at lw_m4 173 rfl
theorem q1029 : (Jvm.Cond.instanceMethod ({ cls := "OnePassport", name := "asksRow", desc := "(I)I" } : Jvm.MethodName)) ∈ lw_all := lw_g (lw_at lw_m4 174 rfl) rfl
theorem q1030 : (Jvm.Cond.codeWith ({ cls := "OnePassport", name := "asksRow", desc := "(I)I" } : Jvm.MethodName) prog_1_method_86_code (4 : Nat) (Option.some Jvm.ClassFile.FieldType.int) [((17 : Nat), (53 : Nat), (62 : Nat), (385 : Nat)), ((54 : Nat), (61 : Nat), (62 : Nat), (385 : Nat))]) ∈ lw_all := lw_g (lw_at lw_m4 175 rfl) rfl
theorem q1031 : (Jvm.Cond.classLink "OnePassport" (385 : Nat) "java/lang/NullPointerException") ∈ lw_all := lw_g (lw_at lw_m4 176 rfl) rfl
theorem q1058 : (Jvm.Cond.methodLink "OnePassport" (379 : Nat) ({ cls := "OnePassport", name := "isSlot", desc := "(I)Z" } : Jvm.MethodName)) ∈ lw_all := lw_g (lw_at lw_m4 203 rfl) rfl
theorem q1059 : (Jvm.Cond.static ({ cls := "OnePassport", name := "isSlot", desc := "(I)Z" } : Jvm.MethodName)) ∈ lw_all := lw_g (lw_at lw_m4 204 rfl) rfl
theorem q1060 : (Jvm.Cond.code ({ cls := "OnePassport", name := "isSlot", desc := "(I)Z" } : Jvm.MethodName) prog_1_method_117_code (1 : Nat) (Option.some Jvm.ClassFile.FieldType.boolean)) ∈ lw_all := lw_g (lw_at lw_m4 205 rfl) rfl
theorem q1061 : (Jvm.Cond.constantLong "OnePassport" (459 : Nat) (3 : Int64)) ∈ lw_all := lw_g (lw_at lw_m4 206 rfl) rfl
theorem q1062 : (Jvm.Cond.methodLink "OnePassport" (382 : Nat) ({ cls := "OnePassport$Slot", name := "size", desc := "()I" } : Jvm.MethodName)) ∈ lw_all := lw_g (lw_at lw_m4 207 rfl) rfl
theorem q1070 : (Jvm.Cond.methodLink "OnePassport" (376 : Nat) ({ cls := "OnePassport$Slot", name := "at", desc := "(I)J" } : Jvm.MethodName)) ∈ lw_all := lw_g (lw_at lw_m4 215 rfl) rfl
theorem q1074 : (Jvm.Cond.methodLink "OnePassport" (393 : Nat) ({ cls := "OnePassport", name := "goesBy", desc := "(I)I" } : Jvm.MethodName)) ∈ lw_all := lw_g (lw_at lw_m4 219 rfl) rfl
theorem q1075 : (Jvm.Cond.privateMethod ({ cls := "OnePassport", name := "goesBy", desc := "(I)I" } : Jvm.MethodName)) ∈ lw_tbl := lw_at lw_m4 220 rfl
theorem q1076 : (Jvm.Cond.instanceMethod ({ cls := "OnePassport", name := "goesBy", desc := "(I)I" } : Jvm.MethodName)) ∈ lw_all := lw_g (lw_at lw_m4 221 rfl) rfl
theorem q1077 : (Jvm.Cond.code ({ cls := "OnePassport", name := "goesBy", desc := "(I)I" } : Jvm.MethodName) prog_1_method_87_code (3 : Nat) (Option.some Jvm.ClassFile.FieldType.int)) ∈ lw_all := lw_g (lw_at lw_m4 222 rfl) rfl
theorem q1078 : (Jvm.Cond.methodLink "OnePassport" (387 : Nat) ({ cls := "OnePassport", name := "number", desc := "(II)I" } : Jvm.MethodName)) ∈ lw_all := lw_g (lw_at lw_m4 223 rfl) rfl
theorem q1079 : (Jvm.Cond.privateMethod ({ cls := "OnePassport", name := "number", desc := "(II)I" } : Jvm.MethodName)) ∈ lw_tbl := lw_at lw_m4 224 rfl
theorem q1080 : (Jvm.Cond.instanceMethod ({ cls := "OnePassport", name := "number", desc := "(II)I" } : Jvm.MethodName)) ∈ lw_all := lw_g (lw_at lw_m4 225 rfl) rfl
theorem q1081 : (Jvm.Cond.code ({ cls := "OnePassport", name := "number", desc := "(II)I" } : Jvm.MethodName) prog_1_method_85_code (3 : Nat) (Option.some Jvm.ClassFile.FieldType.int)) ∈ lw_all := lw_g (lw_at lw_m4 226 rfl) rfl
theorem q1083 : (Jvm.Cond.instanceMethod ({ cls := "OnePassport", name := "there", desc := "(I)I" } : Jvm.MethodName)) ∈ lw_all := lw_g (lw_at lw_m4 228 rfl) rfl
theorem q1084 : (Jvm.Cond.selects "OnePassport" ({ cls := "OnePassport", name := "there", desc := "(I)I" } : Jvm.MethodName) ({ cls := "OnePassport", name := "there", desc := "(I)I" } : Jvm.MethodName)) ∈ lw_all := lw_g (lw_at lw_m4 229 rfl) rfl
theorem q1085 : (Jvm.Cond.code ({ cls := "OnePassport", name := "there", desc := "(I)I" } : Jvm.MethodName) prog_1_method_89_code (3 : Nat) (Option.some Jvm.ClassFile.FieldType.int)) ∈ lw_all := lw_g (lw_at lw_m4 230 rfl) rfl
theorem q1087 : (Jvm.Cond.instanceMethod ({ cls := "OnePassport", name := "takes", desc := "(I)I" } : Jvm.MethodName)) ∈ lw_all := lw_g (lw_at lw_m4 232 rfl) rfl
theorem q1088 : (Jvm.Cond.selects "OnePassport" ({ cls := "OnePassport", name := "takes", desc := "(I)I" } : Jvm.MethodName) ({ cls := "OnePassport", name := "takes", desc := "(I)I" } : Jvm.MethodName)) ∈ lw_all := lw_g (lw_at lw_m4 233 rfl) rfl
theorem q1089 : (Jvm.Cond.code ({ cls := "OnePassport", name := "takes", desc := "(I)I" } : Jvm.MethodName) prog_1_method_90_code (3 : Nat) (Option.some Jvm.ClassFile.FieldType.int)) ∈ lw_all := lw_g (lw_at lw_m4 234 rfl) rfl
theorem q1091 : (Jvm.Cond.instanceMethod ({ cls := "OnePassport", name := "dares", desc := "(I)I" } : Jvm.MethodName)) ∈ lw_all := lw_g (lw_at lw_m4 236 rfl) rfl
theorem q1092 : (Jvm.Cond.selects "OnePassport" ({ cls := "OnePassport", name := "dares", desc := "(I)I" } : Jvm.MethodName) ({ cls := "OnePassport", name := "dares", desc := "(I)I" } : Jvm.MethodName)) ∈ lw_all := lw_g (lw_at lw_m4 237 rfl) rfl
theorem q1093 : (Jvm.Cond.code ({ cls := "OnePassport", name := "dares", desc := "(I)I" } : Jvm.MethodName) prog_1_method_91_code (3 : Nat) (Option.some Jvm.ClassFile.FieldType.int)) ∈ lw_all := lw_g (lw_at lw_m4 238 rfl) rfl
theorem q1095 : (Jvm.Cond.instanceMethod ({ cls := "OnePassport", name := "lied", desc := "(I)I" } : Jvm.MethodName)) ∈ lw_all := lw_g (lw_at lw_m5 0 rfl) rfl
theorem q1096 : (Jvm.Cond.selects "OnePassport" ({ cls := "OnePassport", name := "lied", desc := "(I)I" } : Jvm.MethodName) ({ cls := "OnePassport", name := "lied", desc := "(I)I" } : Jvm.MethodName)) ∈ lw_all := lw_g (lw_at lw_m5 1 rfl) rfl
theorem q1097 : (Jvm.Cond.code ({ cls := "OnePassport", name := "lied", desc := "(I)I" } : Jvm.MethodName) prog_1_method_92_code (3 : Nat) (Option.some Jvm.ClassFile.FieldType.int)) ∈ lw_all := lw_g (lw_at lw_m5 2 rfl) rfl
theorem q1099 : (Jvm.Cond.instanceMethod ({ cls := "OnePassport", name := "stamped", desc := "(I)J" } : Jvm.MethodName)) ∈ lw_all := lw_g (lw_at lw_m5 4 rfl) rfl
theorem q1100 : (Jvm.Cond.selects "OnePassport" ({ cls := "OnePassport", name := "stamped", desc := "(I)J" } : Jvm.MethodName) ({ cls := "OnePassport", name := "stamped", desc := "(I)J" } : Jvm.MethodName)) ∈ lw_all := lw_g (lw_at lw_m5 5 rfl) rfl
theorem q1101 : (Jvm.Cond.code ({ cls := "OnePassport", name := "stamped", desc := "(I)J" } : Jvm.MethodName) prog_1_method_101_code (6 : Nat) (Option.some Jvm.ClassFile.FieldType.long)) ∈ lw_all := lw_g (lw_at lw_m5 6 rfl) rfl
theorem q1102 : (Jvm.Cond.methodLink "OnePassport" (427 : Nat) ({ cls := "OnePassport", name := "asksStamps", desc := "(IZ)I" } : Jvm.MethodName)) ∈ lw_all := lw_g (lw_at lw_m5 7 rfl) rfl
theorem q1103 : (Jvm.Cond.privateMethod ({ cls := "OnePassport", name := "asksStamps", desc := "(IZ)I" } : Jvm.MethodName)) ∈ lw_tbl := lw_at lw_m5 8 rfl
theorem q1104 : (Jvm.Cond.instanceMethod ({ cls := "OnePassport", name := "asksStamps", desc := "(IZ)I" } : Jvm.MethodName)) ∈ lw_all := lw_g (lw_at lw_m5 9 rfl) rfl
theorem q1105 : (Jvm.Cond.codeWith ({ cls := "OnePassport", name := "asksStamps", desc := "(IZ)I" } : Jvm.MethodName) prog_1_method_93_code (5 : Nat) (Option.some Jvm.ClassFile.FieldType.int) [((21 : Nat), (104 : Nat), (127 : Nat), (385 : Nat)), ((105 : Nat), (119 : Nat), (127 : Nat), (385 : Nat)), ((120 : Nat), (126 : Nat), (127 : Nat), (385 : Nat))]) ∈ lw_all := lw_g (lw_at lw_m5 10 rfl) rfl
theorem q1106 : (Jvm.Cond.methodLink "OnePassport" (431 : Nat) ({ cls := "OnePassport", name := "goesThrough", desc := "(I)V" } : Jvm.MethodName)) ∈ lw_all := lw_g (lw_at lw_m5 11 rfl) rfl
theorem q1107 : (Jvm.Cond.privateMethod ({ cls := "OnePassport", name := "goesThrough", desc := "(I)V" } : Jvm.MethodName)) ∈ lw_tbl := lw_at lw_m5 12 rfl
theorem q1108 : (Jvm.Cond.instanceMethod ({ cls := "OnePassport", name := "goesThrough", desc := "(I)V" } : Jvm.MethodName)) ∈ lw_all := lw_g (lw_at lw_m5 13 rfl) rfl
theorem q1109 : (Jvm.Cond.code ({ cls := "OnePassport", name := "goesThrough", desc := "(I)V" } : Jvm.MethodName) prog_1_method_97_code (4 : Nat) (Option.none : Option Jvm.ClassFile.FieldType)) ∈ lw_all := lw_g (lw_at lw_m5 14 rfl) rfl
theorem q1110 : (Jvm.Cond.methodLink "OnePassport" (399 : Nat) ({ cls := "OnePassport", name := "scene", desc := "()I" } : Jvm.MethodName)) ∈ lw_all := lw_g (lw_at lw_m5 15 rfl) rfl
theorem q1111 : (Jvm.Cond.privateMethod ({ cls := "OnePassport", name := "scene", desc := "()I" } : Jvm.MethodName)) ∈ lw_tbl := lw_at lw_m5 16 rfl
theorem q1112 : (Jvm.Cond.instanceMethod ({ cls := "OnePassport", name := "scene", desc := "()I" } : Jvm.MethodName)) ∈ lw_all := lw_g (lw_at lw_m5 17 rfl) rfl
theorem q1113 : (Jvm.Cond.code ({ cls := "OnePassport", name := "scene", desc := "()I" } : Jvm.MethodName) prog_1_method_94_code (1 : Nat) (Option.some Jvm.ClassFile.FieldType.int)) ∈ lw_all := lw_g (lw_at lw_m5 18 rfl) rfl
theorem q1114 : (Jvm.Cond.methodLink "OnePassport" (402 : Nat) ({ cls := "OnePassport", name := "spot", desc := "(II)I" } : Jvm.MethodName)) ∈ lw_all := lw_g (lw_at lw_m5 19 rfl) rfl
theorem q1115 : (Jvm.Cond.static ({ cls := "OnePassport", name := "spot", desc := "(II)I" } : Jvm.MethodName)) ∈ lw_all := lw_g (lw_at lw_m5 20 rfl) rfl
theorem q1116 : (Jvm.Cond.code ({ cls := "OnePassport", name := "spot", desc := "(II)I" } : Jvm.MethodName) prog_1_method_96_code (2 : Nat) (Option.some Jvm.ClassFile.FieldType.int)) ∈ lw_all := lw_g (lw_at lw_m5 21 rfl) rfl
theorem q1117 : (Jvm.Cond.methodLink "OnePassport" (405 : Nat) ({ cls := "OnePassport", name := "goesOn", desc := "(III)V" } : Jvm.MethodName)) ∈ lw_all := lw_g (lw_at lw_m5 22 rfl) rfl
theorem q1118 : (Jvm.Cond.privateMethod ({ cls := "OnePassport", name := "goesOn", desc := "(III)V" } : Jvm.MethodName)) ∈ lw_tbl := lw_at lw_m5 23 rfl
theorem q1119 : (Jvm.Cond.instanceMethod ({ cls := "OnePassport", name := "goesOn", desc := "(III)V" } : Jvm.MethodName)) ∈ lw_all := lw_g (lw_at lw_m5 24 rfl) rfl
theorem q1120 : (Jvm.Cond.code ({ cls := "OnePassport", name := "goesOn", desc := "(III)V" } : Jvm.MethodName) prog_1_method_99_code (6 : Nat) (Option.none : Option Jvm.ClassFile.FieldType)) ∈ lw_all := lw_g (lw_at lw_m5 25 rfl) rfl
theorem q1121 : (Jvm.Cond.methodLink "OnePassport" (418 : Nat) ({ cls := "OnePassport", name := "firstBy", desc := "(II)I" } : Jvm.MethodName)) ∈ lw_all := lw_g (lw_at lw_m5 26 rfl) rfl
theorem q1122 : (Jvm.Cond.privateMethod ({ cls := "OnePassport", name := "firstBy", desc := "(II)I" } : Jvm.MethodName)) ∈ lw_tbl := lw_at lw_m5 27 rfl
theorem q1123 : (Jvm.Cond.instanceMethod ({ cls := "OnePassport", name := "firstBy", desc := "(II)I" } : Jvm.MethodName)) ∈ lw_all := lw_g (lw_at lw_m5 28 rfl) rfl
theorem q1124 : (Jvm.Cond.code ({ cls := "OnePassport", name := "firstBy", desc := "(II)I" } : Jvm.MethodName) prog_1_method_98_code (3 : Nat) (Option.some Jvm.ClassFile.FieldType.int)) ∈ lw_all := lw_g (lw_at lw_m5 29 rfl) rfl
theorem q1125 : (Jvm.Cond.methodLink "OnePassport" (421 : Nat) ({ cls := "OnePassport", name := "beScene", desc := "(III)V" } : Jvm.MethodName)) ∈ lw_all := lw_g (lw_at lw_m5 30 rfl) rfl
theorem q1126 : (Jvm.Cond.privateMethod ({ cls := "OnePassport", name := "beScene", desc := "(III)V" } : Jvm.MethodName)) ∈ lw_tbl := lw_at lw_m5 31 rfl
theorem q1127 : (Jvm.Cond.instanceMethod ({ cls := "OnePassport", name := "beScene", desc := "(III)V" } : Jvm.MethodName)) ∈ lw_all := lw_g (lw_at lw_m5 32 rfl) rfl
theorem q1128 : (Jvm.Cond.code ({ cls := "OnePassport", name := "beScene", desc := "(III)V" } : Jvm.MethodName) prog_1_method_95_code (5 : Nat) (Option.none : Option Jvm.ClassFile.FieldType)) ∈ lw_all := lw_g (lw_at lw_m5 33 rfl) rfl
theorem q1129 : (Jvm.Cond.methodLink "OnePassport" (424 : Nat) ({ cls := "java/lang/Math", name := "min", desc := "(II)I" } : Jvm.MethodName)) ∈ lw_all := lw_g (lw_at lw_m5 34 rfl) rfl
theorem q1130 : (Jvm.Cond.methodLink "OnePassport" (415 : Nat) ({ cls := "OnePassport", name := "comesBack", desc := "(III)V" } : Jvm.MethodName)) ∈ lw_all := lw_g (lw_at lw_m5 35 rfl) rfl
theorem q1131 : (Jvm.Cond.privateMethod ({ cls := "OnePassport", name := "comesBack", desc := "(III)V" } : Jvm.MethodName)) ∈ lw_tbl := lw_at lw_m5 36 rfl
theorem q1132 : (Jvm.Cond.instanceMethod ({ cls := "OnePassport", name := "comesBack", desc := "(III)V" } : Jvm.MethodName)) ∈ lw_all := lw_g (lw_at lw_m5 37 rfl) rfl
theorem q1133 : (Jvm.Cond.code ({ cls := "OnePassport", name := "comesBack", desc := "(III)V" } : Jvm.MethodName) prog_1_method_100_code (5 : Nat) (Option.none : Option Jvm.ClassFile.FieldType)) ∈ lw_all := lw_g (lw_at lw_m5 38 rfl) rfl
theorem q1135 : (Jvm.Cond.instanceMethod ({ cls := "OnePassport", name := "had", desc := "(II)I" } : Jvm.MethodName)) ∈ lw_all := lw_g (lw_at lw_m5 40 rfl) rfl
theorem q1136 : (Jvm.Cond.selects "OnePassport" ({ cls := "OnePassport", name := "had", desc := "(II)I" } : Jvm.MethodName) ({ cls := "OnePassport", name := "had", desc := "(II)I" } : Jvm.MethodName)) ∈ lw_all := lw_g (lw_at lw_m5 41 rfl) rfl
theorem q1137 : (Jvm.Cond.code ({ cls := "OnePassport", name := "had", desc := "(II)I" } : Jvm.MethodName) prog_1_method_102_code (4 : Nat) (Option.some Jvm.ClassFile.FieldType.int)) ∈ lw_all := lw_g (lw_at lw_m5 42 rfl) rfl
theorem q1139 : (Jvm.Cond.instanceMethod ({ cls := "OnePassport", name := "sure", desc := "(II)I" } : Jvm.MethodName)) ∈ lw_all := lw_g (lw_at lw_m5 44 rfl) rfl
theorem q1140 : (Jvm.Cond.selects "OnePassport" ({ cls := "OnePassport", name := "sure", desc := "(II)I" } : Jvm.MethodName) ({ cls := "OnePassport", name := "sure", desc := "(II)I" } : Jvm.MethodName)) ∈ lw_all := lw_g (lw_at lw_m5 45 rfl) rfl
theorem q1141 : (Jvm.Cond.code ({ cls := "OnePassport", name := "sure", desc := "(II)I" } : Jvm.MethodName) prog_1_method_103_code (6 : Nat) (Option.some Jvm.ClassFile.FieldType.int)) ∈ lw_all := lw_g (lw_at lw_m5 46 rfl) rfl
theorem q1143 : (Jvm.Cond.instanceMethod ({ cls := "OnePassport", name := "dared", desc := "(I)I" } : Jvm.MethodName)) ∈ lw_all := lw_g (lw_at lw_m5 48 rfl) rfl
theorem q1144 : (Jvm.Cond.selects "OnePassport" ({ cls := "OnePassport", name := "dared", desc := "(I)I" } : Jvm.MethodName) ({ cls := "OnePassport", name := "dared", desc := "(I)I" } : Jvm.MethodName)) ∈ lw_all := lw_g (lw_at lw_m5 49 rfl) rfl
theorem q1145 : (Jvm.Cond.code ({ cls := "OnePassport", name := "dared", desc := "(I)I" } : Jvm.MethodName) prog_1_method_104_code (5 : Nat) (Option.some Jvm.ClassFile.FieldType.int)) ∈ lw_all := lw_g (lw_at lw_m5 50 rfl) rfl
theorem q1147 : (Jvm.Cond.instanceMethod ({ cls := "OnePassport", name := "alone", desc := "(II)I" } : Jvm.MethodName)) ∈ lw_all := lw_g (lw_at lw_m5 52 rfl) rfl
theorem q1148 : (Jvm.Cond.selects "OnePassport" ({ cls := "OnePassport", name := "alone", desc := "(II)I" } : Jvm.MethodName) ({ cls := "OnePassport", name := "alone", desc := "(II)I" } : Jvm.MethodName)) ∈ lw_all := lw_g (lw_at lw_m5 53 rfl) rfl
theorem q1149 : (Jvm.Cond.code ({ cls := "OnePassport", name := "alone", desc := "(II)I" } : Jvm.MethodName) prog_1_method_105_code (3 : Nat) (Option.some Jvm.ClassFile.FieldType.int)) ∈ lw_all := lw_g (lw_at lw_m5 54 rfl) rfl
theorem q1150 : (Jvm.Cond.constantLong "OnePassport" (434 : Nat) (12 : Int64)) ∈ lw_all := lw_g (lw_at lw_m5 55 rfl) rfl
theorem q1152 : (Jvm.Cond.instanceMethod ({ cls := "OnePassport", name := "worth", desc := "(II)I" } : Jvm.MethodName)) ∈ lw_all := lw_g (lw_at lw_m5 57 rfl) rfl
theorem q1153 : (Jvm.Cond.selects "OnePassport" ({ cls := "OnePassport", name := "worth", desc := "(II)I" } : Jvm.MethodName) ({ cls := "OnePassport", name := "worth", desc := "(II)I" } : Jvm.MethodName)) ∈ lw_all := lw_g (lw_at lw_m5 58 rfl) rfl
theorem q1154 : (Jvm.Cond.code ({ cls := "OnePassport", name := "worth", desc := "(II)I" } : Jvm.MethodName) prog_1_method_107_code (3 : Nat) (Option.some Jvm.ClassFile.FieldType.int)) ∈ lw_all := lw_g (lw_at lw_m5 59 rfl) rfl
theorem q1155 : (Jvm.Cond.methodLink "OnePassport" (436 : Nat) ({ cls := "OnePassport", name := "worthOf", desc := "(II)I" } : Jvm.MethodName)) ∈ lw_all := lw_g (lw_at lw_m5 60 rfl) rfl
theorem q1156 : (Jvm.Cond.privateMethod ({ cls := "OnePassport", name := "worthOf", desc := "(II)I" } : Jvm.MethodName)) ∈ lw_tbl := lw_at lw_m5 61 rfl
theorem q1157 : (Jvm.Cond.instanceMethod ({ cls := "OnePassport", name := "worthOf", desc := "(II)I" } : Jvm.MethodName)) ∈ lw_all := lw_g (lw_at lw_m5 62 rfl) rfl
theorem q1158 : (Jvm.Cond.code ({ cls := "OnePassport", name := "worthOf", desc := "(II)I" } : Jvm.MethodName) prog_1_method_106_code (6 : Nat) (Option.some Jvm.ClassFile.FieldType.int)) ∈ lw_all := lw_g (lw_at lw_m5 63 rfl) rfl
theorem q1160 : (Jvm.Cond.instanceMethod ({ cls := "OnePassport", name := "whom", desc := "(I)I" } : Jvm.MethodName)) ∈ lw_all := lw_g (lw_at lw_m5 65 rfl) rfl
theorem q1161 : (Jvm.Cond.selects "OnePassport" ({ cls := "OnePassport", name := "whom", desc := "(I)I" } : Jvm.MethodName) ({ cls := "OnePassport", name := "whom", desc := "(I)I" } : Jvm.MethodName)) ∈ lw_all := lw_g (lw_at lw_m5 66 rfl) rfl
theorem q1162 : (Jvm.Cond.code ({ cls := "OnePassport", name := "whom", desc := "(I)I" } : Jvm.MethodName) prog_1_method_108_code (6 : Nat) (Option.some Jvm.ClassFile.FieldType.int)) ∈ lw_all := lw_g (lw_at lw_m5 67 rfl) rfl
theorem q1164 : (Jvm.Cond.instanceMethod ({ cls := "OnePassport", name := "blur", desc := "(I)I" } : Jvm.MethodName)) ∈ lw_all := lw_g (lw_at lw_m5 69 rfl) rfl
theorem q1165 : (Jvm.Cond.selects "OnePassport" ({ cls := "OnePassport", name := "blur", desc := "(I)I" } : Jvm.MethodName) ({ cls := "OnePassport", name := "blur", desc := "(I)I" } : Jvm.MethodName)) ∈ lw_all := lw_g (lw_at lw_m5 70 rfl) rfl
theorem q1166 : (Jvm.Cond.code ({ cls := "OnePassport", name := "blur", desc := "(I)I" } : Jvm.MethodName) prog_1_method_109_code (5 : Nat) (Option.some Jvm.ClassFile.FieldType.int)) ∈ lw_all := lw_g (lw_at lw_m5 71 rfl) rfl
theorem q1168 : (Jvm.Cond.instanceMethod ({ cls := "OnePassport", name := "looks", desc := "(I)I" } : Jvm.MethodName)) ∈ lw_all := lw_g (lw_at lw_m5 73 rfl) rfl
theorem q1169 : (Jvm.Cond.selects "OnePassport" ({ cls := "OnePassport", name := "looks", desc := "(I)I" } : Jvm.MethodName) ({ cls := "OnePassport", name := "looks", desc := "(I)I" } : Jvm.MethodName)) ∈ lw_all := lw_g (lw_at lw_m5 74 rfl) rfl
theorem q1170 : (Jvm.Cond.code ({ cls := "OnePassport", name := "looks", desc := "(I)I" } : Jvm.MethodName) prog_1_method_110_code (5 : Nat) (Option.some Jvm.ClassFile.FieldType.int)) ∈ lw_all := lw_g (lw_at lw_m5 75 rfl) rfl
theorem q1172 : (Jvm.Cond.instanceMethod ({ cls := "OnePassport", name := "drawn", desc := "(II)I" } : Jvm.MethodName)) ∈ lw_all := lw_g (lw_at lw_m5 77 rfl) rfl
theorem q1173 : (Jvm.Cond.selects "OnePassport" ({ cls := "OnePassport", name := "drawn", desc := "(II)I" } : Jvm.MethodName) ({ cls := "OnePassport", name := "drawn", desc := "(II)I" } : Jvm.MethodName)) ∈ lw_all := lw_g (lw_at lw_m5 78 rfl) rfl
theorem q1174 : (Jvm.Cond.code ({ cls := "OnePassport", name := "drawn", desc := "(II)I" } : Jvm.MethodName) prog_1_method_112_code (3 : Nat) (Option.some Jvm.ClassFile.FieldType.int)) ∈ lw_all := lw_g (lw_at lw_m5 79 rfl) rfl
theorem q1175 : (Jvm.Cond.methodLink "OnePassport" (450 : Nat) ({ cls := "OnePassport", name := "isSeed", desc := "(I)Z" } : Jvm.MethodName)) ∈ lw_all := lw_g (lw_at lw_m5 80 rfl) rfl
theorem q1176 : (Jvm.Cond.static ({ cls := "OnePassport", name := "isSeed", desc := "(I)Z" } : Jvm.MethodName)) ∈ lw_all := lw_g (lw_at lw_m5 81 rfl) rfl
theorem q1177 : (Jvm.Cond.code ({ cls := "OnePassport", name := "isSeed", desc := "(I)Z" } : Jvm.MethodName) prog_1_method_14_code (1 : Nat) (Option.some Jvm.ClassFile.FieldType.boolean)) ∈ lw_all := lw_g (lw_at lw_m5 82 rfl) rfl
theorem q1178 : (Jvm.Cond.constantLong "OnePassport" (138 : Nat) (2000000000 : Int64)) ∈ lw_all := lw_g (lw_at lw_m5 83 rfl) rfl
theorem q1179 : (Jvm.Cond.methodLink "OnePassport" (453 : Nat) ({ cls := "OnePassport", name := "goesTrip", desc := "(J)V" } : Jvm.MethodName)) ∈ lw_all := lw_g (lw_at lw_m5 84 rfl) rfl
theorem q1180 : (Jvm.Cond.privateMethod ({ cls := "OnePassport", name := "goesTrip", desc := "(J)V" } : Jvm.MethodName)) ∈ lw_tbl := lw_at lw_m5 85 rfl
theorem q1181 : (Jvm.Cond.instanceMethod ({ cls := "OnePassport", name := "goesTrip", desc := "(J)V" } : Jvm.MethodName)) ∈ lw_all := lw_g (lw_at lw_m5 86 rfl) rfl
theorem q1182 : (Jvm.Cond.code ({ cls := "OnePassport", name := "goesTrip", desc := "(J)V" } : Jvm.MethodName) prog_1_method_111_code (7 : Nat) (Option.none : Option Jvm.ClassFile.FieldType)) ∈ lw_all := lw_g (lw_at lw_m5 87 rfl) rfl
theorem q1183 : (Jvm.Cond.constantLong "OnePassport" (442 : Nat) (1103515245 : Int64)) ∈ lw_all := lw_g (lw_at lw_m5 88 rfl) rfl
theorem q1184 : (Jvm.Cond.constantLong "OnePassport" (444 : Nat) (12345 : Int64)) ∈ lw_all := lw_g (lw_at lw_m5 89 rfl) rfl
theorem q1185 : (Jvm.Cond.constantLong "OnePassport" (446 : Nat) (2147483648 : Int64)) ∈ lw_all := lw_g (lw_at lw_m5 90 rfl) rfl
theorem q1186 : (Jvm.Cond.constantLong "OnePassport" (448 : Nat) (65536 : Int64)) ∈ lw_all := lw_g (lw_at lw_m5 91 rfl) rfl
theorem q1188 : (Jvm.Cond.instanceMethod ({ cls := "OnePassport", name := "luck", desc := "(II)I" } : Jvm.MethodName)) ∈ lw_all := lw_g (lw_at lw_m5 93 rfl) rfl
theorem q1189 : (Jvm.Cond.selects "OnePassport" ({ cls := "OnePassport", name := "luck", desc := "(II)I" } : Jvm.MethodName) ({ cls := "OnePassport", name := "luck", desc := "(II)I" } : Jvm.MethodName)) ∈ lw_all := lw_g (lw_at lw_m5 94 rfl) rfl
theorem q1190 : (Jvm.Cond.code ({ cls := "OnePassport", name := "luck", desc := "(II)I" } : Jvm.MethodName) prog_1_method_113_code (5 : Nat) (Option.some Jvm.ClassFile.FieldType.int)) ∈ lw_all := lw_g (lw_at lw_m5 95 rfl) rfl
theorem q1191 : (Jvm.Cond.constantLong "OnePassport" (457 : Nat) (20 : Int64)) ∈ lw_all := lw_g (lw_at lw_m5 96 rfl) rfl
theorem q1193 : (Jvm.Cond.instanceMethod ({ cls := "OnePassport", name := "grow", desc := "(II)I" } : Jvm.MethodName)) ∈ lw_all := lw_g (lw_at lw_m5 98 rfl) rfl
theorem q1194 : (Jvm.Cond.selects "OnePassport" ({ cls := "OnePassport", name := "grow", desc := "(II)I" } : Jvm.MethodName) ({ cls := "OnePassport", name := "grow", desc := "(II)I" } : Jvm.MethodName)) ∈ lw_all := lw_g (lw_at lw_m5 99 rfl) rfl
theorem q1195 : (Jvm.Cond.code ({ cls := "OnePassport", name := "grow", desc := "(II)I" } : Jvm.MethodName) prog_1_method_114_code (4 : Nat) (Option.some Jvm.ClassFile.FieldType.int)) ∈ lw_all := lw_g (lw_at lw_m5 100 rfl) rfl
theorem q1197 : (Jvm.Cond.instanceMethod ({ cls := "OnePassport", name := "guard", desc := "(II)I" } : Jvm.MethodName)) ∈ lw_all := lw_g (lw_at lw_m5 102 rfl) rfl
theorem q1198 : (Jvm.Cond.selects "OnePassport" ({ cls := "OnePassport", name := "guard", desc := "(II)I" } : Jvm.MethodName) ({ cls := "OnePassport", name := "guard", desc := "(II)I" } : Jvm.MethodName)) ∈ lw_all := lw_g (lw_at lw_m5 103 rfl) rfl
theorem q1199 : (Jvm.Cond.code ({ cls := "OnePassport", name := "guard", desc := "(II)I" } : Jvm.MethodName) prog_1_method_115_code (4 : Nat) (Option.some Jvm.ClassFile.FieldType.int)) ∈ lw_all := lw_g (lw_at lw_m5 104 rfl) rfl
theorem q1201 : (Jvm.Cond.instanceMethod ({ cls := "OnePassport", name := "stay", desc := "(II)I" } : Jvm.MethodName)) ∈ lw_all := lw_g (lw_at lw_m5 106 rfl) rfl
theorem q1202 : (Jvm.Cond.selects "OnePassport" ({ cls := "OnePassport", name := "stay", desc := "(II)I" } : Jvm.MethodName) ({ cls := "OnePassport", name := "stay", desc := "(II)I" } : Jvm.MethodName)) ∈ lw_all := lw_g (lw_at lw_m5 107 rfl) rfl
theorem q1203 : (Jvm.Cond.code ({ cls := "OnePassport", name := "stay", desc := "(II)I" } : Jvm.MethodName) prog_1_method_116_code (4 : Nat) (Option.some Jvm.ClassFile.FieldType.int)) ∈ lw_all := lw_g (lw_at lw_m5 108 rfl) rfl
theorem q1205 : (Jvm.Cond.instanceMethod ({ cls := "OnePassport", name := "count", desc := "(I)I" } : Jvm.MethodName)) ∈ lw_all := lw_g (lw_at lw_m5 110 rfl) rfl
theorem q1206 : (Jvm.Cond.selects "OnePassport" ({ cls := "OnePassport", name := "count", desc := "(I)I" } : Jvm.MethodName) ({ cls := "OnePassport", name := "count", desc := "(I)I" } : Jvm.MethodName)) ∈ lw_all := lw_g (lw_at lw_m5 111 rfl) rfl
theorem q1207 : (Jvm.Cond.code ({ cls := "OnePassport", name := "count", desc := "(I)I" } : Jvm.MethodName) prog_1_method_118_code (4 : Nat) (Option.some Jvm.ClassFile.FieldType.int)) ∈ lw_all := lw_g (lw_at lw_m5 112 rfl) rfl
theorem q1209 : (Jvm.Cond.instanceMethod ({ cls := "OnePassport", name := "image", desc := "(I)I" } : Jvm.MethodName)) ∈ lw_all := lw_g (lw_at lw_m5 114 rfl) rfl
theorem q1210 : (Jvm.Cond.selects "OnePassport" ({ cls := "OnePassport", name := "image", desc := "(I)I" } : Jvm.MethodName) ({ cls := "OnePassport", name := "image", desc := "(I)I" } : Jvm.MethodName)) ∈ lw_all := lw_g (lw_at lw_m5 115 rfl) rfl
theorem q1211 : (Jvm.Cond.code ({ cls := "OnePassport", name := "image", desc := "(I)I" } : Jvm.MethodName) prog_1_method_119_code (2 : Nat) (Option.some Jvm.ClassFile.FieldType.int)) ∈ lw_all := lw_g (lw_at lw_m5 116 rfl) rfl
theorem q1212 : (Jvm.Cond.constantLong "OnePassport" (465 : Nat) (2 : Int64)) ∈ lw_all := lw_g (lw_at lw_m5 117 rfl) rfl
theorem q1213 : (Jvm.Cond.methodLink "OnePassport" (467 : Nat) ({ cls := "java/util/ArrayList", name := "size", desc := "()I" } : Jvm.MethodName)) ∈ lw_all := lw_g (lw_at lw_m5 118 rfl) rfl
theorem q1217 : (Jvm.Cond.methodLink "OnePassport" (468 : Nat) ({ cls := "java/util/ArrayList", name := "add", desc := "(Ljava/lang/Object;)Z" } : Jvm.MethodName)) ∈ lw_all := lw_g (lw_at lw_m5 122 rfl) rfl
theorem q1249 : (Jvm.Cond.selects "OnePassport" ({ cls := "java/lang/Object", name := "getClass", desc := "()Ljava/lang/Class;" } : Jvm.MethodName) ({ cls := "java/lang/Object", name := "getClass", desc := "()Ljava/lang/Class;" } : Jvm.MethodName)) ∈ lw_all := lw_g (lw_at lw_m5 154 rfl) rfl
theorem q1277 : (Jvm.Cond.methodLink "OnePassport" (472 : Nat) ({ cls := "OnePassport$Family", name := "copy", desc := "()LOnePassport$Family;" } : Jvm.MethodName)) ∈ lw_all := lw_g (lw_at lw_m5 182 rfl) rfl
theorem q1284 : (Jvm.Cond.methodLink "OnePassport" (475 : Nat) ({ cls := "java/util/ArrayList", name := "set", desc := "(ILjava/lang/Object;)Ljava/lang/Object;" } : Jvm.MethodName)) ∈ lw_all := lw_g (lw_at lw_m5 189 rfl) rfl
theorem q1297 : (Jvm.Cond.instanceMethod ({ cls := "OnePassport", name := "back", desc := "(I)I" } : Jvm.MethodName)) ∈ lw_all := lw_g (lw_at lw_m5 202 rfl) rfl
theorem q1298 : (Jvm.Cond.selects "OnePassport" ({ cls := "OnePassport", name := "back", desc := "(I)I" } : Jvm.MethodName) ({ cls := "OnePassport", name := "back", desc := "(I)I" } : Jvm.MethodName)) ∈ lw_all := lw_g (lw_at lw_m5 203 rfl) rfl
theorem q1299 : (Jvm.Cond.code ({ cls := "OnePassport", name := "back", desc := "(I)I" } : Jvm.MethodName) prog_1_method_120_code (2 : Nat) (Option.some Jvm.ClassFile.FieldType.int)) ∈ lw_all := lw_g (lw_at lw_m5 204 rfl) rfl
theorem q1300 : (Jvm.Cond.methodLink "OnePassport" (479 : Nat) ({ cls := "java/util/ArrayList", name := "isEmpty", desc := "()Z" } : Jvm.MethodName)) ∈ lw_all := lw_g (lw_at lw_m5 205 rfl) rfl
theorem q1304 : (Jvm.Cond.methodLink "OnePassport" (482 : Nat) ({ cls := "java/util/ArrayList", name := "get", desc := "(I)Ljava/lang/Object;" } : Jvm.MethodName)) ∈ lw_all := lw_g (lw_at lw_m5 209 rfl) rfl
theorem q1309 : (Jvm.Cond.instanceMethod ({ cls := "OnePassport", name := "row", desc := "(III)I" } : Jvm.MethodName)) ∈ lw_all := lw_g (lw_at lw_m5 214 rfl) rfl
theorem q1310 : (Jvm.Cond.selects "OnePassport" ({ cls := "OnePassport", name := "row", desc := "(III)I" } : Jvm.MethodName) ({ cls := "OnePassport", name := "row", desc := "(III)I" } : Jvm.MethodName)) ∈ lw_all := lw_g (lw_at lw_m5 215 rfl) rfl
theorem q1311 : (Jvm.Cond.codeWith ({ cls := "OnePassport", name := "row", desc := "(III)I" } : Jvm.MethodName) prog_1_method_121_code (5 : Nat) (Option.some Jvm.ClassFile.FieldType.int) [((28 : Nat), (40 : Nat), (41 : Nat), (489 : Nat))]) ∈ lw_all := lw_g (lw_at lw_m5 216 rfl) rfl
theorem q1312 : (Jvm.Cond.classLink "OnePassport" (489 : Nat) "java/lang/NegativeArraySizeException") ∈ lw_all := lw_g (lw_at lw_m5 217 rfl) rfl
theorem q1339 : (Jvm.Cond.methodLink "OnePassport" (486 : Nat) ({ cls := "OnePassport$Slot", name := "make", desc := "(II)V" } : Jvm.MethodName)) ∈ lw_all := lw_g (lw_at lw_m6 4 rfl) rfl
theorem q1345 : (Jvm.Cond.instanceMethod ({ cls := "OnePassport", name := "write", desc := "(IIJ)I" } : Jvm.MethodName)) ∈ lw_all := lw_g (lw_at lw_m6 10 rfl) rfl
theorem q1346 : (Jvm.Cond.selects "OnePassport" ({ cls := "OnePassport", name := "write", desc := "(IIJ)I" } : Jvm.MethodName) ({ cls := "OnePassport", name := "write", desc := "(IIJ)I" } : Jvm.MethodName)) ∈ lw_all := lw_g (lw_at lw_m6 11 rfl) rfl
theorem q1347 : (Jvm.Cond.codeWith ({ cls := "OnePassport", name := "write", desc := "(IIJ)I" } : Jvm.MethodName) prog_1_method_122_code (6 : Nat) (Option.some Jvm.ClassFile.FieldType.int) [((10 : Nat), (22 : Nat), (23 : Nat), (385 : Nat)), ((10 : Nat), (22 : Nat), (28 : Nat), (495 : Nat))]) ∈ lw_all := lw_g (lw_at lw_m6 12 rfl) rfl
theorem q1348 : (Jvm.Cond.classLink "OnePassport" (495 : Nat) "java/lang/ArrayIndexOutOfBoundsException") ∈ lw_all := lw_g (lw_at lw_m6 13 rfl) rfl
theorem q1367 : (Jvm.Cond.methodLink "OnePassport" (491 : Nat) ({ cls := "OnePassport$Slot", name := "put", desc := "(IJ)V" } : Jvm.MethodName)) ∈ lw_all := lw_g (lw_at lw_m6 32 rfl) rfl
theorem q1372 : (Jvm.Cond.instanceMethod ({ cls := "OnePassport", name := "paste", desc := "(IIIII)I" } : Jvm.MethodName)) ∈ lw_all := lw_g (lw_at lw_m6 37 rfl) rfl
theorem q1373 : (Jvm.Cond.selects "OnePassport" ({ cls := "OnePassport", name := "paste", desc := "(IIIII)I" } : Jvm.MethodName) ({ cls := "OnePassport", name := "paste", desc := "(IIIII)I" } : Jvm.MethodName)) ∈ lw_all := lw_g (lw_at lw_m6 38 rfl) rfl
theorem q1374 : (Jvm.Cond.codeWith ({ cls := "OnePassport", name := "paste", desc := "(IIIII)I" } : Jvm.MethodName) prog_1_method_123_code (7 : Nat) (Option.some Jvm.ClassFile.FieldType.int) [((17 : Nat), (44 : Nat), (45 : Nat), (385 : Nat)), ((17 : Nat), (44 : Nat), (50 : Nat), (503 : Nat)), ((17 : Nat), (44 : Nat), (55 : Nat), (505 : Nat))]) ∈ lw_all := lw_g (lw_at lw_m6 39 rfl) rfl
theorem q1375 : (Jvm.Cond.classLink "OnePassport" (503 : Nat) "java/lang/ArrayStoreException") ∈ lw_all := lw_g (lw_at lw_m6 40 rfl) rfl
theorem q1389 : (Jvm.Cond.classLink "OnePassport" (505 : Nat) "java/lang/IndexOutOfBoundsException") ∈ lw_all := lw_g (lw_at lw_m6 54 rfl) rfl
theorem q1390 : (Jvm.Cond.methodLink "OnePassport" (497 : Nat) ({ cls := "java/lang/System", name := "arraycopy", desc := "(Ljava/lang/Object;ILjava/lang/Object;II)V" } : Jvm.MethodName)) ∈ lw_all := lw_g (lw_at lw_m6 55 rfl) rfl
theorem q2107 : (Jvm.Cond.castable "OnePassport" "java/lang/Object") ∈ lw_tbl := lw_at lw_m9 52 rfl
theorem in_X0 : ∀ w ∈ wsX00, w ∈ lw_all := lw_in wsX00 [365, 367, 369, 371, 373, 375, 377, 379, 381, 383, 385, 387, 389, 391, 393, 395, 397, 399, 401, 403, 405, 407, 409, 411, 413, 415, 417, 419, 421, 423, 425, 427, 429, 431] (by decide +kernel) (by decide +kernel)
theorem q137 : (Jvm.Cond.initialized "OnePassport$Family") ∈ lw_all := lw_g (lw_at lw_m1 2 rfl) rfl
theorem q177 : (Jvm.Cond.instantiable "OnePassport$Family" (14 : Nat)) ∈ lw_all := lw_g (lw_at lw_m1 42 rfl) rfl
theorem q179 : (Jvm.Cond.instanceMethod ({ cls := "OnePassport$Family", name := "<init>", desc := "()V" } : Jvm.MethodName)) ∈ lw_all := lw_g (lw_at lw_m1 44 rfl) rfl
theorem q180 : (Jvm.Cond.code ({ cls := "OnePassport$Family", name := "<init>", desc := "()V" } : Jvm.MethodName) prog_4_method_1_code (1 : Nat) (Option.none : Option Jvm.ClassFile.FieldType)) ∈ lw_all := lw_g (lw_at lw_m1 45 rfl) rfl
theorem q181 : (Jvm.Cond.methodLink "OnePassport$Family" (3 : Nat) ({ cls := "java/lang/Object", name := "<init>", desc := "()V" } : Jvm.MethodName)) ∈ lw_all := lw_g (lw_at lw_m1 46 rfl) rfl
theorem q182 : (Jvm.Cond.fieldLink "OnePassport$Family" (31 : Nat) "OnePassport$Family" "loaf" "I") ∈ lw_all := lw_g (lw_at lw_m1 47 rfl) rfl
theorem q186 : (Jvm.Cond.fieldLink "OnePassport$Family" (35 : Nat) "OnePassport$Family" "lines" "I") ∈ lw_all := lw_g (lw_at lw_m1 51 rfl) rfl
theorem q189 : (Jvm.Cond.fieldLink "OnePassport$Family" (38 : Nat) "OnePassport$Family" "persons" "I") ∈ lw_all := lw_g (lw_at lw_m1 54 rfl) rfl
theorem q192 : (Jvm.Cond.fieldLink "OnePassport$Family" (41 : Nat) "OnePassport$Family" "posts" "I") ∈ lw_all := lw_g (lw_at lw_m1 57 rfl) rfl
theorem q195 : (Jvm.Cond.fieldLink "OnePassport$Family" (44 : Nat) "OnePassport$Family" "children" "I") ∈ lw_all := lw_g (lw_at lw_m1 60 rfl) rfl
theorem q198 : (Jvm.Cond.fieldLink "OnePassport$Family" (47 : Nat) "OnePassport$Family" "stay" "I") ∈ lw_all := lw_g (lw_at lw_m1 63 rfl) rfl
theorem q201 : (Jvm.Cond.fieldLink "OnePassport$Family" (50 : Nat) "OnePassport$Family" "acts" "I") ∈ lw_all := lw_g (lw_at lw_m1 66 rfl) rfl
theorem q203 : (Jvm.Cond.fieldLink "OnePassport$Family" (53 : Nat) "OnePassport$Family" "compares" "Z") ∈ lw_all := lw_g (lw_at lw_m1 68 rfl) rfl
theorem q206 : (Jvm.Cond.fieldLink "OnePassport$Family" (9 : Nat) "OnePassport$Family" "like" "[I") ∈ lw_all := lw_g (lw_at lw_m1 71 rfl) rfl
theorem q209 : (Jvm.Cond.fieldLink "OnePassport$Family" (15 : Nat) "OnePassport$Family" "nose" "[I") ∈ lw_all := lw_g (lw_at lw_m1 74 rfl) rfl
theorem q212 : (Jvm.Cond.fieldLink "OnePassport$Family" (18 : Nat) "OnePassport$Family" "strict" "[I") ∈ lw_all := lw_g (lw_at lw_m1 77 rfl) rfl
theorem q215 : (Jvm.Cond.fieldLink "OnePassport$Family" (21 : Nat) "OnePassport$Family" "keen" "[I") ∈ lw_all := lw_g (lw_at lw_m1 80 rfl) rfl
theorem q218 : (Jvm.Cond.fieldLink "OnePassport$Family" (24 : Nat) "OnePassport$Family" "looks" "[I") ∈ lw_all := lw_g (lw_at lw_m1 83 rfl) rfl
theorem q221 : (Jvm.Cond.fieldLink "OnePassport$Family" (27 : Nat) "OnePassport$Family" "act" "[I") ∈ lw_all := lw_g (lw_at lw_m1 86 rfl) rfl
theorem q223 : (Jvm.Cond.lays "OnePassport$Family" "OnePassport$Family" "loaf" "I") ∈ lw_all := lw_g (lw_at lw_m1 88 rfl) rfl
theorem q224 : (Jvm.Cond.soleField "OnePassport$Family" "loaf") ∈ lw_all := lw_g (lw_at lw_m1 89 rfl) rfl
theorem q225 : (Jvm.Cond.lays "OnePassport$Family" "OnePassport$Family" "lines" "I") ∈ lw_all := lw_g (lw_at lw_m1 90 rfl) rfl
theorem q226 : (Jvm.Cond.soleField "OnePassport$Family" "lines") ∈ lw_all := lw_g (lw_at lw_m1 91 rfl) rfl
theorem q227 : (Jvm.Cond.lays "OnePassport$Family" "OnePassport$Family" "persons" "I") ∈ lw_all := lw_g (lw_at lw_m1 92 rfl) rfl
theorem q228 : (Jvm.Cond.soleField "OnePassport$Family" "persons") ∈ lw_all := lw_g (lw_at lw_m1 93 rfl) rfl
theorem q229 : (Jvm.Cond.lays "OnePassport$Family" "OnePassport$Family" "posts" "I") ∈ lw_all := lw_g (lw_at lw_m1 94 rfl) rfl
theorem q230 : (Jvm.Cond.soleField "OnePassport$Family" "posts") ∈ lw_all := lw_g (lw_at lw_m1 95 rfl) rfl
theorem q231 : (Jvm.Cond.lays "OnePassport$Family" "OnePassport$Family" "children" "I") ∈ lw_all := lw_g (lw_at lw_m1 96 rfl) rfl
theorem q232 : (Jvm.Cond.soleField "OnePassport$Family" "children") ∈ lw_all := lw_g (lw_at lw_m1 97 rfl) rfl
theorem q233 : (Jvm.Cond.lays "OnePassport$Family" "OnePassport$Family" "stay" "I") ∈ lw_all := lw_g (lw_at lw_m1 98 rfl) rfl
theorem q234 : (Jvm.Cond.soleField "OnePassport$Family" "stay") ∈ lw_all := lw_g (lw_at lw_m1 99 rfl) rfl
theorem q235 : (Jvm.Cond.lays "OnePassport$Family" "OnePassport$Family" "acts" "I") ∈ lw_all := lw_g (lw_at lw_m1 100 rfl) rfl
theorem q236 : (Jvm.Cond.soleField "OnePassport$Family" "acts") ∈ lw_all := lw_g (lw_at lw_m1 101 rfl) rfl
theorem q237 : (Jvm.Cond.lays "OnePassport$Family" "OnePassport$Family" "compares" "Z") ∈ lw_all := lw_g (lw_at lw_m1 102 rfl) rfl
theorem q238 : (Jvm.Cond.soleField "OnePassport$Family" "compares") ∈ lw_all := lw_g (lw_at lw_m1 103 rfl) rfl
theorem q239 : (Jvm.Cond.laysFinal "OnePassport$Family" "OnePassport$Family" "like" "[I") ∈ lw_all := lw_g (lw_at lw_m1 104 rfl) rfl
theorem q240 : (Jvm.Cond.soleField "OnePassport$Family" "like") ∈ lw_all := lw_g (lw_at lw_m1 105 rfl) rfl
theorem q241 : (Jvm.Cond.laysFinal "OnePassport$Family" "OnePassport$Family" "nose" "[I") ∈ lw_all := lw_g (lw_at lw_m1 106 rfl) rfl
theorem q242 : (Jvm.Cond.soleField "OnePassport$Family" "nose") ∈ lw_all := lw_g (lw_at lw_m1 107 rfl) rfl
theorem q243 : (Jvm.Cond.laysFinal "OnePassport$Family" "OnePassport$Family" "strict" "[I") ∈ lw_all := lw_g (lw_at lw_m1 108 rfl) rfl
theorem q244 : (Jvm.Cond.soleField "OnePassport$Family" "strict") ∈ lw_all := lw_g (lw_at lw_m1 109 rfl) rfl
theorem q245 : (Jvm.Cond.laysFinal "OnePassport$Family" "OnePassport$Family" "keen" "[I") ∈ lw_all := lw_g (lw_at lw_m1 110 rfl) rfl
theorem q246 : (Jvm.Cond.soleField "OnePassport$Family" "keen") ∈ lw_all := lw_g (lw_at lw_m1 111 rfl) rfl
theorem q247 : (Jvm.Cond.laysFinal "OnePassport$Family" "OnePassport$Family" "looks" "[I") ∈ lw_all := lw_g (lw_at lw_m1 112 rfl) rfl
theorem q248 : (Jvm.Cond.soleField "OnePassport$Family" "looks") ∈ lw_all := lw_g (lw_at lw_m1 113 rfl) rfl
theorem q249 : (Jvm.Cond.laysFinal "OnePassport$Family" "OnePassport$Family" "act" "[I") ∈ lw_all := lw_g (lw_at lw_m1 114 rfl) rfl
theorem q250 : (Jvm.Cond.soleField "OnePassport$Family" "act") ∈ lw_all := lw_g (lw_at lw_m1 115 rfl) rfl
theorem q251 : (Jvm.Cond.superclass "OnePassport$Family" "java/lang/Object") ∈ lw_all := lw_g (lw_at lw_m1 116 rfl) rfl
theorem q1252 : (Jvm.Cond.selects "OnePassport$Family" ({ cls := "java/lang/Object", name := "getClass", desc := "()Ljava/lang/Class;" } : Jvm.MethodName) ({ cls := "java/lang/Object", name := "getClass", desc := "()Ljava/lang/Class;" } : Jvm.MethodName)) ∈ lw_all := lw_g (lw_at lw_m5 157 rfl) rfl
theorem q1278 : (Jvm.Cond.instanceMethod ({ cls := "OnePassport$Family", name := "copy", desc := "()LOnePassport$Family;" } : Jvm.MethodName)) ∈ lw_all := lw_g (lw_at lw_m5 183 rfl) rfl
theorem q1279 : (Jvm.Cond.selects "OnePassport$Family" ({ cls := "OnePassport$Family", name := "copy", desc := "()LOnePassport$Family;" } : Jvm.MethodName) ({ cls := "OnePassport$Family", name := "copy", desc := "()LOnePassport$Family;" } : Jvm.MethodName)) ∈ lw_all := lw_g (lw_at lw_m5 184 rfl) rfl
theorem q1280 : (Jvm.Cond.code ({ cls := "OnePassport$Family", name := "copy", desc := "()LOnePassport$Family;" } : Jvm.MethodName) prog_4_method_2_code (2 : Nat) (Option.some (Jvm.ClassFile.FieldType.object "OnePassport$Family"))) ∈ lw_all := lw_g (lw_at lw_m5 185 rfl) rfl
theorem q1281 : (Jvm.Cond.classLink "OnePassport$Family" (10 : Nat) "OnePassport$Family") ∈ lw_all := lw_g (lw_at lw_m5 186 rfl) rfl
theorem q1282 : (Jvm.Cond.methodLink "OnePassport$Family" (30 : Nat) ({ cls := "OnePassport$Family", name := "<init>", desc := "()V" } : Jvm.MethodName)) ∈ lw_all := lw_g (lw_at lw_m5 187 rfl) rfl
theorem q1283 : (Jvm.Cond.methodLink "OnePassport$Family" (57 : Nat) ({ cls := "java/lang/System", name := "arraycopy", desc := "(Ljava/lang/Object;ILjava/lang/Object;II)V" } : Jvm.MethodName)) ∈ lw_all := lw_g (lw_at lw_m5 188 rfl) rfl
theorem q2108 : (Jvm.Cond.castable "OnePassport$Family" "java/lang/Object") ∈ lw_tbl := lw_at lw_m9 53 rfl
theorem in_X1 : ∀ w ∈ wsX10, w ∈ lw_all := lw_in wsX10 [223, 225, 227, 229, 231, 233, 235, 237, 239, 241, 243, 245, 247, 249] (by decide +kernel) (by decide +kernel)
theorem q138 : (Jvm.Cond.initialized "OnePassport$Days") ∈ lw_all := lw_g (lw_at lw_m1 3 rfl) rfl
theorem q183 : (Jvm.Cond.fieldLinkNest "OnePassport$Days" (19 : Nat) "OnePassport$Family" "loaf" "I" "OnePassport") ∈ lw_tbl := lw_at lw_m1 48 rfl
theorem q254 : (Jvm.Cond.instantiable "OnePassport$Days" (1 : Nat)) ∈ lw_all := lw_g (lw_at lw_m1 119 rfl) rfl
theorem q256 : (Jvm.Cond.instanceMethod ({ cls := "OnePassport$Days", name := "<init>", desc := "(LOnePassport;)V" } : Jvm.MethodName)) ∈ lw_all := lw_g (lw_at lw_m1 121 rfl) rfl
theorem q257 : (Jvm.Cond.code ({ cls := "OnePassport$Days", name := "<init>", desc := "(LOnePassport;)V" } : Jvm.MethodName) prog_3_method_1_code (2 : Nat) (Option.none : Option Jvm.ClassFile.FieldType)) ∈ lw_all := lw_g (lw_at lw_m1 122 rfl) rfl
theorem q258 : (Jvm.Cond.methodLink "OnePassport$Days" (9 : Nat) ({ cls := "java/lang/Object", name := "<init>", desc := "()V" } : Jvm.MethodName)) ∈ lw_all := lw_g (lw_at lw_m1 123 rfl) rfl
theorem q259 : (Jvm.Cond.fieldLink "OnePassport$Days" (3 : Nat) "OnePassport$Days" "this$0" "LOnePassport;") ∈ lw_all := lw_g (lw_at lw_m1 124 rfl) rfl
theorem q260 : (Jvm.Cond.laysFinal "OnePassport$Days" "OnePassport$Days" "this$0" "LOnePassport;") ∈ lw_all := lw_g (lw_at lw_m1 125 rfl) rfl
theorem q261 : (Jvm.Cond.soleField "OnePassport$Days" "this$0") ∈ lw_all := lw_g (lw_at lw_m1 126 rfl) rfl
theorem q262 : (Jvm.Cond.superclass "OnePassport$Days" "java/lang/Object") ∈ lw_all := lw_g (lw_at lw_m1 127 rfl) rfl
theorem q328 : (Jvm.Cond.fieldLinkNest "OnePassport$Days" (15 : Nat) "OnePassport" "family" "LOnePassport$Family;" "OnePassport") ∈ lw_tbl := lw_at lw_m1 193 rfl
theorem q890 : (Jvm.Cond.instanceMethod ({ cls := "OnePassport$Days", name := "of", desc := "(I)I" } : Jvm.MethodName)) ∈ lw_all := lw_g (lw_at lw_m4 35 rfl) rfl
theorem q891 : (Jvm.Cond.selects "OnePassport$Days" ({ cls := "OnePassport$Days", name := "of", desc := "(I)I" } : Jvm.MethodName) ({ cls := "OnePassport$Days", name := "of", desc := "(I)I" } : Jvm.MethodName)) ∈ lw_all := lw_g (lw_at lw_m4 36 rfl) rfl
theorem q892 : (Jvm.Cond.sameMethod "OnePassport$Days" "OnePassport$Days" "of" "(I)I") ∈ lw_all := lw_g (lw_at lw_m4 37 rfl) rfl
theorem q900 : (Jvm.Cond.code ({ cls := "OnePassport$Days", name := "of", desc := "(I)I" } : Jvm.MethodName) prog_3_method_2_code (2 : Nat) (Option.some Jvm.ClassFile.FieldType.int)) ∈ lw_all := lw_g (lw_at lw_m4 45 rfl) rfl
theorem q1251 : (Jvm.Cond.selects "OnePassport$Days" ({ cls := "java/lang/Object", name := "getClass", desc := "()Ljava/lang/Class;" } : Jvm.MethodName) ({ cls := "java/lang/Object", name := "getClass", desc := "()Ljava/lang/Class;" } : Jvm.MethodName)) ∈ lw_all := lw_g (lw_at lw_m5 156 rfl) rfl
theorem q2109 : (Jvm.Cond.castable "OnePassport$Days" "java/lang/Object") ∈ lw_tbl := lw_at lw_m9 54 rfl
theorem in_X2 : ∀ w ∈ wsX20, w ∈ lw_all := lw_in wsX20 [260] (by decide +kernel) (by decide +kernel)
theorem q139 : (Jvm.Cond.initialized "OnePassport$Risk") ∈ lw_all := lw_g (lw_at lw_m1 4 rfl) rfl
theorem q265 : (Jvm.Cond.instantiable "OnePassport$Risk" (2 : Nat)) ∈ lw_all := lw_g (lw_at lw_m1 130 rfl) rfl
theorem q267 : (Jvm.Cond.instanceMethod ({ cls := "OnePassport$Risk", name := "<init>", desc := "(LOnePassport;)V" } : Jvm.MethodName)) ∈ lw_all := lw_g (lw_at lw_m1 132 rfl) rfl
theorem q268 : (Jvm.Cond.code ({ cls := "OnePassport$Risk", name := "<init>", desc := "(LOnePassport;)V" } : Jvm.MethodName) prog_7_method_1_code (2 : Nat) (Option.none : Option Jvm.ClassFile.FieldType)) ∈ lw_all := lw_g (lw_at lw_m1 133 rfl) rfl
theorem q269 : (Jvm.Cond.methodLinkNest "OnePassport$Risk" (9 : Nat) ({ cls := "OnePassport$Days", name := "<init>", desc := "(LOnePassport;)V" } : Jvm.MethodName) "OnePassport") ∈ lw_tbl := lw_at lw_m1 134 rfl
theorem q270 : (Jvm.Cond.fieldLink "OnePassport$Risk" (3 : Nat) "OnePassport$Risk" "this$0" "LOnePassport;") ∈ lw_all := lw_g (lw_at lw_m1 135 rfl) rfl
theorem q271 : (Jvm.Cond.laysFinal "OnePassport$Risk" "OnePassport$Risk" "this$0" "LOnePassport;") ∈ lw_all := lw_g (lw_at lw_m1 136 rfl) rfl
theorem q272 : (Jvm.Cond.soleField "OnePassport$Risk" "this$0") ∈ lw_all := lw_g (lw_at lw_m1 137 rfl) rfl
theorem q273 : (Jvm.Cond.laysFinal "OnePassport$Risk" "OnePassport$Days" "this$0" "LOnePassport;") ∈ lw_all := lw_g (lw_at lw_m1 138 rfl) rfl
theorem q274 : (Jvm.Cond.superclass "OnePassport$Risk" "OnePassport$Days") ∈ lw_all := lw_g (lw_at lw_m1 139 rfl) rfl
theorem q896 : (Jvm.Cond.selects "OnePassport$Risk" ({ cls := "OnePassport$Days", name := "of", desc := "(I)I" } : Jvm.MethodName) ({ cls := "OnePassport$Risk", name := "of", desc := "(I)I" } : Jvm.MethodName)) ∈ lw_all := lw_g (lw_at lw_m4 41 rfl) rfl
theorem q897 : (Jvm.Cond.instanceMethod ({ cls := "OnePassport$Risk", name := "of", desc := "(I)I" } : Jvm.MethodName)) ∈ lw_all := lw_g (lw_at lw_m4 42 rfl) rfl
theorem q898 : (Jvm.Cond.code ({ cls := "OnePassport$Risk", name := "of", desc := "(I)I" } : Jvm.MethodName) prog_7_method_2_code (2 : Nat) (Option.some Jvm.ClassFile.FieldType.int)) ∈ lw_all := lw_g (lw_at lw_m4 43 rfl) rfl
theorem q899 : (Jvm.Cond.methodLink "OnePassport$Risk" (15 : Nat) ({ cls := "OnePassport$Days", name := "of", desc := "(I)I" } : Jvm.MethodName)) ∈ lw_all := lw_g (lw_at lw_m4 44 rfl) rfl
theorem q901 : (Jvm.Cond.methodLinkNest "OnePassport$Risk" (19 : Nat) ({ cls := "OnePassport", name := "personIn", desc := "(I)I" } : Jvm.MethodName) "OnePassport") ∈ lw_tbl := lw_at lw_m4 46 rfl
theorem q902 : (Jvm.Cond.methodLinkNest "OnePassport$Risk" (22 : Nat) ({ cls := "OnePassport", name := "postIn", desc := "(I)I" } : Jvm.MethodName) "OnePassport") ∈ lw_tbl := lw_at lw_m4 47 rfl
theorem q903 : (Jvm.Cond.methodLinkNest "OnePassport$Risk" (25 : Nat) ({ cls := "OnePassport", name := "riskOf", desc := "(II)I" } : Jvm.MethodName) "OnePassport") ∈ lw_tbl := lw_at lw_m4 48 rfl
theorem q1255 : (Jvm.Cond.selects "OnePassport$Risk" ({ cls := "java/lang/Object", name := "getClass", desc := "()Ljava/lang/Class;" } : Jvm.MethodName) ({ cls := "java/lang/Object", name := "getClass", desc := "()Ljava/lang/Class;" } : Jvm.MethodName)) ∈ lw_all := lw_g (lw_at lw_m5 160 rfl) rfl
theorem q2110 : (Jvm.Cond.castable "OnePassport$Risk" "java/lang/Object") ∈ lw_tbl := lw_at lw_m9 55 rfl
theorem in_X3 : ∀ w ∈ wsX30, w ∈ lw_all := lw_in wsX30 [273, 271] (by decide +kernel) (by decide +kernel)
theorem q140 : (Jvm.Cond.initialized "OnePassport$Crossings") ∈ lw_all := lw_g (lw_at lw_m1 5 rfl) rfl
theorem q276 : (Jvm.Cond.instantiable "OnePassport$Crossings" (2 : Nat)) ∈ lw_all := lw_g (lw_at lw_m1 141 rfl) rfl
theorem q278 : (Jvm.Cond.instanceMethod ({ cls := "OnePassport$Crossings", name := "<init>", desc := "(LOnePassport;)V" } : Jvm.MethodName)) ∈ lw_all := lw_g (lw_at lw_m1 143 rfl) rfl
theorem q279 : (Jvm.Cond.code ({ cls := "OnePassport$Crossings", name := "<init>", desc := "(LOnePassport;)V" } : Jvm.MethodName) prog_2_method_1_code (2 : Nat) (Option.none : Option Jvm.ClassFile.FieldType)) ∈ lw_all := lw_g (lw_at lw_m1 144 rfl) rfl
theorem q280 : (Jvm.Cond.methodLinkNest "OnePassport$Crossings" (9 : Nat) ({ cls := "OnePassport$Days", name := "<init>", desc := "(LOnePassport;)V" } : Jvm.MethodName) "OnePassport") ∈ lw_tbl := lw_at lw_m1 145 rfl
theorem q281 : (Jvm.Cond.fieldLink "OnePassport$Crossings" (3 : Nat) "OnePassport$Crossings" "this$0" "LOnePassport;") ∈ lw_all := lw_g (lw_at lw_m1 146 rfl) rfl
theorem q282 : (Jvm.Cond.laysFinal "OnePassport$Crossings" "OnePassport$Crossings" "this$0" "LOnePassport;") ∈ lw_all := lw_g (lw_at lw_m1 147 rfl) rfl
theorem q283 : (Jvm.Cond.soleField "OnePassport$Crossings" "this$0") ∈ lw_all := lw_g (lw_at lw_m1 148 rfl) rfl
theorem q284 : (Jvm.Cond.laysFinal "OnePassport$Crossings" "OnePassport$Days" "this$0" "LOnePassport;") ∈ lw_all := lw_g (lw_at lw_m1 149 rfl) rfl
theorem q285 : (Jvm.Cond.superclass "OnePassport$Crossings" "OnePassport$Days") ∈ lw_all := lw_g (lw_at lw_m1 150 rfl) rfl
theorem q893 : (Jvm.Cond.selects "OnePassport$Crossings" ({ cls := "OnePassport$Days", name := "of", desc := "(I)I" } : Jvm.MethodName) ({ cls := "OnePassport$Crossings", name := "of", desc := "(I)I" } : Jvm.MethodName)) ∈ lw_all := lw_g (lw_at lw_m4 38 rfl) rfl
theorem q894 : (Jvm.Cond.instanceMethod ({ cls := "OnePassport$Crossings", name := "of", desc := "(I)I" } : Jvm.MethodName)) ∈ lw_all := lw_g (lw_at lw_m4 39 rfl) rfl
theorem q895 : (Jvm.Cond.code ({ cls := "OnePassport$Crossings", name := "of", desc := "(I)I" } : Jvm.MethodName) prog_2_method_2_code (2 : Nat) (Option.some Jvm.ClassFile.FieldType.int)) ∈ lw_all := lw_g (lw_at lw_m4 40 rfl) rfl
theorem q1250 : (Jvm.Cond.selects "OnePassport$Crossings" ({ cls := "java/lang/Object", name := "getClass", desc := "()Ljava/lang/Class;" } : Jvm.MethodName) ({ cls := "java/lang/Object", name := "getClass", desc := "()Ljava/lang/Class;" } : Jvm.MethodName)) ∈ lw_all := lw_g (lw_at lw_m5 155 rfl) rfl
theorem q2111 : (Jvm.Cond.castable "OnePassport$Crossings" "java/lang/Object") ∈ lw_tbl := lw_at lw_m9 56 rfl
theorem in_X4 : ∀ w ∈ wsX40, w ∈ lw_all := lw_in wsX40 [284, 282] (by decide +kernel) (by decide +kernel)
theorem q141 : (Jvm.Cond.initialized "OnePassport$Slot") ∈ lw_all := lw_g (lw_at lw_m1 6 rfl) rfl
theorem q290 : (Jvm.Cond.instantiable "OnePassport$Slot" (1 : Nat)) ∈ lw_all := lw_g (lw_at lw_m1 155 rfl) rfl
theorem q292 : (Jvm.Cond.instanceMethod ({ cls := "OnePassport$Slot", name := "<init>", desc := "()V" } : Jvm.MethodName)) ∈ lw_all := lw_g (lw_at lw_m1 157 rfl) rfl
theorem q293 : (Jvm.Cond.code ({ cls := "OnePassport$Slot", name := "<init>", desc := "()V" } : Jvm.MethodName) prog_8_method_1_code (1 : Nat) (Option.none : Option Jvm.ClassFile.FieldType)) ∈ lw_all := lw_g (lw_at lw_m1 158 rfl) rfl
theorem q294 : (Jvm.Cond.methodLink "OnePassport$Slot" (1 : Nat) ({ cls := "java/lang/Object", name := "<init>", desc := "()V" } : Jvm.MethodName)) ∈ lw_all := lw_g (lw_at lw_m1 159 rfl) rfl
theorem q295 : (Jvm.Cond.fieldLink "OnePassport$Slot" (7 : Nat) "OnePassport$Slot" "row" "Ljava/lang/Object;") ∈ lw_all := lw_g (lw_at lw_m1 160 rfl) rfl
theorem q297 : (Jvm.Cond.lays "OnePassport$Slot" "OnePassport$Slot" "row" "Ljava/lang/Object;") ∈ lw_all := lw_g (lw_at lw_m1 162 rfl) rfl
theorem q298 : (Jvm.Cond.soleField "OnePassport$Slot" "row") ∈ lw_all := lw_g (lw_at lw_m1 163 rfl) rfl
theorem q299 : (Jvm.Cond.superclass "OnePassport$Slot" "java/lang/Object") ∈ lw_all := lw_g (lw_at lw_m1 164 rfl) rfl
theorem q1063 : (Jvm.Cond.instanceMethod ({ cls := "OnePassport$Slot", name := "size", desc := "()I" } : Jvm.MethodName)) ∈ lw_all := lw_g (lw_at lw_m4 208 rfl) rfl
theorem q1064 : (Jvm.Cond.selects "OnePassport$Slot" ({ cls := "OnePassport$Slot", name := "size", desc := "()I" } : Jvm.MethodName) ({ cls := "OnePassport$Slot", name := "size", desc := "()I" } : Jvm.MethodName)) ∈ lw_all := lw_g (lw_at lw_m4 209 rfl) rfl
theorem q1065 : (Jvm.Cond.code ({ cls := "OnePassport$Slot", name := "size", desc := "()I" } : Jvm.MethodName) prog_8_method_3_code (1 : Nat) (Option.some Jvm.ClassFile.FieldType.int)) ∈ lw_all := lw_g (lw_at lw_m4 210 rfl) rfl
theorem q1066 : (Jvm.Cond.classLink "OnePassport$Slot" (13 : Nat) "[B") ∈ lw_all := lw_g (lw_at lw_m4 211 rfl) rfl
theorem q1067 : (Jvm.Cond.classLink "OnePassport$Slot" (15 : Nat) "[S") ∈ lw_all := lw_g (lw_at lw_m4 212 rfl) rfl
theorem q1068 : (Jvm.Cond.classLink "OnePassport$Slot" (17 : Nat) "[I") ∈ lw_all := lw_g (lw_at lw_m4 213 rfl) rfl
theorem q1069 : (Jvm.Cond.classLink "OnePassport$Slot" (19 : Nat) "[J") ∈ lw_all := lw_g (lw_at lw_m4 214 rfl) rfl
theorem q1071 : (Jvm.Cond.instanceMethod ({ cls := "OnePassport$Slot", name := "at", desc := "(I)J" } : Jvm.MethodName)) ∈ lw_all := lw_g (lw_at lw_m4 216 rfl) rfl
theorem q1072 : (Jvm.Cond.selects "OnePassport$Slot" ({ cls := "OnePassport$Slot", name := "at", desc := "(I)J" } : Jvm.MethodName) ({ cls := "OnePassport$Slot", name := "at", desc := "(I)J" } : Jvm.MethodName)) ∈ lw_all := lw_g (lw_at lw_m4 217 rfl) rfl
theorem q1073 : (Jvm.Cond.code ({ cls := "OnePassport$Slot", name := "at", desc := "(I)J" } : Jvm.MethodName) prog_8_method_4_code (2 : Nat) (Option.some Jvm.ClassFile.FieldType.long)) ∈ lw_all := lw_g (lw_at lw_m4 218 rfl) rfl
theorem q1256 : (Jvm.Cond.selects "OnePassport$Slot" ({ cls := "java/lang/Object", name := "getClass", desc := "()Ljava/lang/Class;" } : Jvm.MethodName) ({ cls := "java/lang/Object", name := "getClass", desc := "()Ljava/lang/Class;" } : Jvm.MethodName)) ∈ lw_all := lw_g (lw_at lw_m5 161 rfl) rfl
theorem q1340 : (Jvm.Cond.instanceMethod ({ cls := "OnePassport$Slot", name := "make", desc := "(II)V" } : Jvm.MethodName)) ∈ lw_all := lw_g (lw_at lw_m6 5 rfl) rfl
theorem q1341 : (Jvm.Cond.selects "OnePassport$Slot" ({ cls := "OnePassport$Slot", name := "make", desc := "(II)V" } : Jvm.MethodName) ({ cls := "OnePassport$Slot", name := "make", desc := "(II)V" } : Jvm.MethodName)) ∈ lw_all := lw_g (lw_at lw_m6 6 rfl) rfl
theorem q1342 : (Jvm.Cond.code ({ cls := "OnePassport$Slot", name := "make", desc := "(II)V" } : Jvm.MethodName) prog_8_method_2_code (3 : Nat) (Option.none : Option Jvm.ClassFile.FieldType)) ∈ lw_all := lw_g (lw_at lw_m6 7 rfl) rfl
theorem q1368 : (Jvm.Cond.instanceMethod ({ cls := "OnePassport$Slot", name := "put", desc := "(IJ)V" } : Jvm.MethodName)) ∈ lw_all := lw_g (lw_at lw_m6 33 rfl) rfl
theorem q1369 : (Jvm.Cond.selects "OnePassport$Slot" ({ cls := "OnePassport$Slot", name := "put", desc := "(IJ)V" } : Jvm.MethodName) ({ cls := "OnePassport$Slot", name := "put", desc := "(IJ)V" } : Jvm.MethodName)) ∈ lw_all := lw_g (lw_at lw_m6 34 rfl) rfl
theorem q1370 : (Jvm.Cond.code ({ cls := "OnePassport$Slot", name := "put", desc := "(IJ)V" } : Jvm.MethodName) prog_8_method_5_code (4 : Nat) (Option.none : Option Jvm.ClassFile.FieldType)) ∈ lw_all := lw_g (lw_at lw_m6 35 rfl) rfl
theorem q2106 : (Jvm.Cond.castable "OnePassport$Slot" "java/lang/Object") ∈ lw_tbl := lw_at lw_m9 51 rfl
theorem in_X5 : ∀ w ∈ wsX50, w ∈ lw_all := lw_in wsX50 [297] (by decide +kernel) (by decide +kernel)
theorem q145 : (Jvm.Cond.initialized "OnePassportModel") ∈ lw_all := lw_g (lw_at lw_m1 10 rfl) rfl
theorem q1258 : (Jvm.Cond.selects "OnePassportModel" ({ cls := "java/lang/Object", name := "getClass", desc := "()Ljava/lang/Class;" } : Jvm.MethodName) ({ cls := "java/lang/Object", name := "getClass", desc := "()Ljava/lang/Class;" } : Jvm.MethodName)) ∈ lw_all := lw_g (lw_at lw_m5 163 rfl) rfl
theorem q1392 : (Jvm.Cond.instantiable "OnePassportModel" (48 : Nat)) ∈ lw_all := lw_g (lw_at lw_m6 57 rfl) rfl
theorem q1394 : (Jvm.Cond.instanceMethod ({ cls := "OnePassportModel", name := "<init>", desc := "()V" } : Jvm.MethodName)) ∈ lw_all := lw_g (lw_at lw_m6 59 rfl) rfl
theorem q1395 : (Jvm.Cond.code ({ cls := "OnePassportModel", name := "<init>", desc := "()V" } : Jvm.MethodName) prog_11_method_1_code (2 : Nat) (Option.none : Option Jvm.ClassFile.FieldType)) ∈ lw_all := lw_g (lw_at lw_m6 60 rfl) rfl
theorem q1396 : (Jvm.Cond.methodLink "OnePassportModel" (1 : Nat) ({ cls := "java/lang/Object", name := "<init>", desc := "()V" } : Jvm.MethodName)) ∈ lw_all := lw_g (lw_at lw_m6 61 rfl) rfl
theorem q1397 : (Jvm.Cond.constant "OnePassportModel" (56 : Nat) (94080 : Int32)) ∈ lw_all := lw_g (lw_at lw_m6 62 rfl) rfl
theorem q1398 : (Jvm.Cond.constant "OnePassportModel" (69 : Nat) (40768 : Int32)) ∈ lw_all := lw_g (lw_at lw_m6 63 rfl) rfl
theorem q1399 : (Jvm.Cond.fieldLink "OnePassportModel" (88 : Nat) "OnePassportModel" "thrown" "I") ∈ lw_all := lw_g (lw_at lw_m6 64 rfl) rfl
theorem q1400 : (Jvm.Cond.fieldLink "OnePassportModel" (7 : Nat) "OnePassportModel" "width" "[I") ∈ lw_all := lw_g (lw_at lw_m6 65 rfl) rfl
theorem q1401 : (Jvm.Cond.fieldLink "OnePassportModel" (13 : Nat) "OnePassportModel" "many" "[I") ∈ lw_all := lw_g (lw_at lw_m6 66 rfl) rfl
theorem q1402 : (Jvm.Cond.fieldLink "OnePassportModel" (16 : Nat) "OnePassportModel" "cells" "[J") ∈ lw_all := lw_g (lw_at lw_m6 67 rfl) rfl
theorem q1403 : (Jvm.Cond.fieldLink "OnePassportModel" (20 : Nat) "OnePassportModel" "moved" "[J") ∈ lw_all := lw_g (lw_at lw_m6 68 rfl) rfl
theorem q1404 : (Jvm.Cond.fieldLink "OnePassportModel" (23 : Nat) "OnePassportModel" "tape" "[B") ∈ lw_all := lw_g (lw_at lw_m6 69 rfl) rfl
theorem q1405 : (Jvm.Cond.fieldLink "OnePassportModel" (105 : Nat) "OnePassportModel" "taped" "I") ∈ lw_all := lw_g (lw_at lw_m6 70 rfl) rfl
theorem q1406 : (Jvm.Cond.fieldLink "OnePassportModel" (112 : Nat) "OnePassportModel" "at" "I") ∈ lw_all := lw_g (lw_at lw_m6 71 rfl) rfl
theorem q1407 : (Jvm.Cond.fieldLink "OnePassportModel" (129 : Nat) "OnePassportModel" "token" "I") ∈ lw_all := lw_g (lw_at lw_m6 72 rfl) rfl
theorem q1408 : (Jvm.Cond.fieldLink "OnePassportModel" (119 : Nat) "OnePassportModel" "place" "I") ∈ lw_all := lw_g (lw_at lw_m6 73 rfl) rfl
theorem q1409 : (Jvm.Cond.fieldLink "OnePassportModel" (122 : Nat) "OnePassportModel" "value" "I") ∈ lw_all := lw_g (lw_at lw_m6 74 rfl) rfl
theorem q1410 : (Jvm.Cond.fieldLink "OnePassportModel" (125 : Nat) "OnePassportModel" "word" "J") ∈ lw_all := lw_g (lw_at lw_m6 75 rfl) rfl
theorem q1411 : (Jvm.Cond.fieldLink "OnePassportModel" (140 : Nat) "OnePassportModel" "bad" "I") ∈ lw_all := lw_g (lw_at lw_m6 76 rfl) rfl
theorem q1412 : (Jvm.Cond.fieldLink "OnePassportModel" (143 : Nat) "OnePassportModel" "badPlace" "I") ∈ lw_all := lw_g (lw_at lw_m6 77 rfl) rfl
theorem q1413 : (Jvm.Cond.fieldLink "OnePassportModel" (167 : Nat) "OnePassportModel" "fault" "I") ∈ lw_all := lw_g (lw_at lw_m6 78 rfl) rfl
theorem q1414 : (Jvm.Cond.fieldLink "OnePassportModel" (27 : Nat) "OnePassportModel" "faultPlace" "I") ∈ lw_all := lw_g (lw_at lw_m6 79 rfl) rfl
theorem q1415 : (Jvm.Cond.fieldLink "OnePassportModel" (31 : Nat) "OnePassportModel" "lines" "[I") ∈ lw_all := lw_g (lw_at lw_m6 80 rfl) rfl
theorem q1416 : (Jvm.Cond.fieldLink "OnePassportModel" (34 : Nat) "OnePassportModel" "has" "[I") ∈ lw_all := lw_g (lw_at lw_m6 81 rfl) rfl
theorem q1417 : (Jvm.Cond.fieldLink "OnePassportModel" (37 : Nat) "OnePassportModel" "like" "[I") ∈ lw_all := lw_g (lw_at lw_m6 82 rfl) rfl
theorem q1418 : (Jvm.Cond.fieldLink "OnePassportModel" (40 : Nat) "OnePassportModel" "nose" "[I") ∈ lw_all := lw_g (lw_at lw_m6 83 rfl) rfl
theorem q1419 : (Jvm.Cond.fieldLink "OnePassportModel" (43 : Nat) "OnePassportModel" "post" "[I") ∈ lw_all := lw_g (lw_at lw_m6 84 rfl) rfl
theorem q1420 : (Jvm.Cond.fieldLink "OnePassportModel" (46 : Nat) "OnePassportModel" "act" "[I") ∈ lw_all := lw_g (lw_at lw_m6 85 rfl) rfl
theorem q1421 : (Jvm.Cond.fieldLink "OnePassportModel" (49 : Nat) "OnePassportModel" "isKept" "[Z") ∈ lw_all := lw_g (lw_at lw_m6 86 rfl) rfl
theorem q1422 : (Jvm.Cond.fieldLink "OnePassportModel" (238 : Nat) "OnePassportModel" "over" "I") ∈ lw_all := lw_g (lw_at lw_m6 87 rfl) rfl
theorem q1423 : (Jvm.Cond.fieldLink "OnePassportModel" (241 : Nat) "OnePassportModel" "side" "I") ∈ lw_all := lw_g (lw_at lw_m6 88 rfl) rfl
theorem q1424 : (Jvm.Cond.fieldLink "OnePassportModel" (244 : Nat) "OnePassportModel" "zero" "I") ∈ lw_all := lw_g (lw_at lw_m6 89 rfl) rfl
theorem q1425 : (Jvm.Cond.fieldLink "OnePassportModel" (247 : Nat) "OnePassportModel" "one" "I") ∈ lw_all := lw_g (lw_at lw_m6 90 rfl) rfl
theorem q1426 : (Jvm.Cond.fieldLink "OnePassportModel" (250 : Nat) "OnePassportModel" "marks" "I") ∈ lw_all := lw_g (lw_at lw_m6 91 rfl) rfl
theorem q1427 : (Jvm.Cond.fieldLink "OnePassportModel" (291 : Nat) "OnePassportModel" "daysNow" "I") ∈ lw_all := lw_g (lw_at lw_m6 92 rfl) rfl
theorem q1428 : (Jvm.Cond.fieldLink "OnePassportModel" (294 : Nat) "OnePassportModel" "riskNow" "I") ∈ lw_all := lw_g (lw_at lw_m6 93 rfl) rfl
theorem q1429 : (Jvm.Cond.fieldLink "OnePassportModel" (297 : Nat) "OnePassportModel" "stampMany" "I") ∈ lw_all := lw_g (lw_at lw_m6 94 rfl) rfl
theorem q1430 : (Jvm.Cond.fieldLink "OnePassportModel" (53 : Nat) "OnePassportModel" "stamp" "[I") ∈ lw_all := lw_g (lw_at lw_m6 95 rfl) rfl
theorem q1431 : (Jvm.Cond.fieldLink "OnePassportModel" (57 : Nat) "OnePassportModel" "seen" "[Z") ∈ lw_all := lw_g (lw_at lw_m6 96 rfl) rfl
theorem q1432 : (Jvm.Cond.fieldLink "OnePassportModel" (60 : Nat) "OnePassportModel" "list" "[I") ∈ lw_all := lw_g (lw_at lw_m6 97 rfl) rfl
theorem q1433 : (Jvm.Cond.fieldLink "OnePassportModel" (339 : Nat) "OnePassportModel" "listed" "I") ∈ lw_all := lw_g (lw_at lw_m6 98 rfl) rfl
theorem q1434 : (Jvm.Cond.fieldLink "OnePassportModel" (63 : Nat) "OnePassportModel" "least" "[I") ∈ lw_all := lw_g (lw_at lw_m6 99 rfl) rfl
theorem q1435 : (Jvm.Cond.fieldLink "OnePassportModel" (345 : Nat) "OnePassportModel" "sought" "I") ∈ lw_all := lw_g (lw_at lw_m6 100 rfl) rfl
theorem q1436 : (Jvm.Cond.fieldLink "OnePassportModel" (348 : Nat) "OnePassportModel" "soughtSet" "I") ∈ lw_all := lw_g (lw_at lw_m6 101 rfl) rfl
theorem q1437 : (Jvm.Cond.fieldLink "OnePassportModel" (351 : Nat) "OnePassportModel" "counted" "I") ∈ lw_all := lw_g (lw_at lw_m6 102 rfl) rfl
theorem q1438 : (Jvm.Cond.fieldLink "OnePassportModel" (66 : Nat) "OnePassportModel" "row" "[I") ∈ lw_all := lw_g (lw_at lw_m6 103 rfl) rfl
theorem q1439 : (Jvm.Cond.fieldLink "OnePassportModel" (373 : Nat) "OnePassportModel" "rowMany" "I") ∈ lw_all := lw_g (lw_at lw_m6 104 rfl) rfl
theorem q1440 : (Jvm.Cond.fieldLink "OnePassportModel" (70 : Nat) "OnePassportModel" "waysOf" "[J") ∈ lw_all := lw_g (lw_at lw_m6 105 rfl) rfl
theorem q1441 : (Jvm.Cond.fieldLink "OnePassportModel" (73 : Nat) "OnePassportModel" "darkOf" "[I") ∈ lw_all := lw_g (lw_at lw_m6 106 rfl) rfl
theorem q1442 : (Jvm.Cond.fieldLink "OnePassportModel" (76 : Nat) "OnePassportModel" "allOf" "[I") ∈ lw_all := lw_g (lw_at lw_m6 107 rfl) rfl
theorem q1443 : (Jvm.Cond.fieldLink "OnePassportModel" (79 : Nat) "OnePassportModel" "someOf" "[I") ∈ lw_all := lw_g (lw_at lw_m6 108 rfl) rfl
theorem q1444 : (Jvm.Cond.fieldLink "OnePassportModel" (82 : Nat) "OnePassportModel" "hadAt" "[I") ∈ lw_all := lw_g (lw_at lw_m6 109 rfl) rfl
theorem q1445 : (Jvm.Cond.fieldLink "OnePassportModel" (85 : Nat) "OnePassportModel" "come" "[Z") ∈ lw_all := lw_g (lw_at lw_m6 110 rfl) rfl
theorem q1446 : (Jvm.Cond.fieldLink "OnePassportModel" (445 : Nat) "OnePassportModel" "overThen" "I") ∈ lw_all := lw_g (lw_at lw_m6 111 rfl) rfl
theorem q1447 : (Jvm.Cond.lays "OnePassportModel" "OnePassportModel" "thrown" "I") ∈ lw_all := lw_g (lw_at lw_m6 112 rfl) rfl
theorem q1448 : (Jvm.Cond.soleField "OnePassportModel" "thrown") ∈ lw_all := lw_g (lw_at lw_m6 113 rfl) rfl
theorem q1449 : (Jvm.Cond.laysFinal "OnePassportModel" "OnePassportModel" "width" "[I") ∈ lw_all := lw_g (lw_at lw_m6 114 rfl) rfl
theorem q1450 : (Jvm.Cond.soleField "OnePassportModel" "width") ∈ lw_all := lw_g (lw_at lw_m6 115 rfl) rfl
theorem q1451 : (Jvm.Cond.laysFinal "OnePassportModel" "OnePassportModel" "many" "[I") ∈ lw_all := lw_g (lw_at lw_m6 116 rfl) rfl
theorem q1452 : (Jvm.Cond.soleField "OnePassportModel" "many") ∈ lw_all := lw_g (lw_at lw_m6 117 rfl) rfl
theorem q1453 : (Jvm.Cond.laysFinal "OnePassportModel" "OnePassportModel" "cells" "[J") ∈ lw_all := lw_g (lw_at lw_m6 118 rfl) rfl
theorem q1454 : (Jvm.Cond.soleField "OnePassportModel" "cells") ∈ lw_all := lw_g (lw_at lw_m6 119 rfl) rfl
theorem q1455 : (Jvm.Cond.laysFinal "OnePassportModel" "OnePassportModel" "moved" "[J") ∈ lw_all := lw_g (lw_at lw_m6 120 rfl) rfl
theorem q1456 : (Jvm.Cond.soleField "OnePassportModel" "moved") ∈ lw_all := lw_g (lw_at lw_m6 121 rfl) rfl
theorem q1457 : (Jvm.Cond.laysFinal "OnePassportModel" "OnePassportModel" "tape" "[B") ∈ lw_all := lw_g (lw_at lw_m6 122 rfl) rfl
theorem q1458 : (Jvm.Cond.soleField "OnePassportModel" "tape") ∈ lw_all := lw_g (lw_at lw_m6 123 rfl) rfl
theorem q1459 : (Jvm.Cond.lays "OnePassportModel" "OnePassportModel" "taped" "I") ∈ lw_all := lw_g (lw_at lw_m6 124 rfl) rfl
theorem q1460 : (Jvm.Cond.soleField "OnePassportModel" "taped") ∈ lw_all := lw_g (lw_at lw_m6 125 rfl) rfl
theorem q1461 : (Jvm.Cond.lays "OnePassportModel" "OnePassportModel" "at" "I") ∈ lw_all := lw_g (lw_at lw_m6 126 rfl) rfl
theorem q1462 : (Jvm.Cond.soleField "OnePassportModel" "at") ∈ lw_all := lw_g (lw_at lw_m6 127 rfl) rfl
theorem q1463 : (Jvm.Cond.lays "OnePassportModel" "OnePassportModel" "token" "I") ∈ lw_all := lw_g (lw_at lw_m6 128 rfl) rfl
theorem q1464 : (Jvm.Cond.soleField "OnePassportModel" "token") ∈ lw_all := lw_g (lw_at lw_m6 129 rfl) rfl
theorem q1465 : (Jvm.Cond.lays "OnePassportModel" "OnePassportModel" "place" "I") ∈ lw_all := lw_g (lw_at lw_m6 130 rfl) rfl
theorem q1466 : (Jvm.Cond.soleField "OnePassportModel" "place") ∈ lw_all := lw_g (lw_at lw_m6 131 rfl) rfl
theorem q1467 : (Jvm.Cond.lays "OnePassportModel" "OnePassportModel" "value" "I") ∈ lw_all := lw_g (lw_at lw_m6 132 rfl) rfl
theorem q1468 : (Jvm.Cond.soleField "OnePassportModel" "value") ∈ lw_all := lw_g (lw_at lw_m6 133 rfl) rfl
theorem q1469 : (Jvm.Cond.lays "OnePassportModel" "OnePassportModel" "word" "J") ∈ lw_all := lw_g (lw_at lw_m6 134 rfl) rfl
theorem q1470 : (Jvm.Cond.soleField "OnePassportModel" "word") ∈ lw_all := lw_g (lw_at lw_m6 135 rfl) rfl
theorem q1471 : (Jvm.Cond.lays "OnePassportModel" "OnePassportModel" "bad" "I") ∈ lw_all := lw_g (lw_at lw_m6 136 rfl) rfl
theorem q1472 : (Jvm.Cond.soleField "OnePassportModel" "bad") ∈ lw_all := lw_g (lw_at lw_m6 137 rfl) rfl
theorem q1473 : (Jvm.Cond.lays "OnePassportModel" "OnePassportModel" "badPlace" "I") ∈ lw_all := lw_g (lw_at lw_m6 138 rfl) rfl
theorem q1474 : (Jvm.Cond.soleField "OnePassportModel" "badPlace") ∈ lw_all := lw_g (lw_at lw_m6 139 rfl) rfl
theorem q1475 : (Jvm.Cond.lays "OnePassportModel" "OnePassportModel" "fault" "I") ∈ lw_all := lw_g (lw_at lw_m6 140 rfl) rfl
theorem q1476 : (Jvm.Cond.soleField "OnePassportModel" "fault") ∈ lw_all := lw_g (lw_at lw_m6 141 rfl) rfl
theorem q1477 : (Jvm.Cond.lays "OnePassportModel" "OnePassportModel" "faultPlace" "I") ∈ lw_all := lw_g (lw_at lw_m6 142 rfl) rfl
theorem q1478 : (Jvm.Cond.soleField "OnePassportModel" "faultPlace") ∈ lw_all := lw_g (lw_at lw_m6 143 rfl) rfl
theorem q1479 : (Jvm.Cond.laysFinal "OnePassportModel" "OnePassportModel" "lines" "[I") ∈ lw_all := lw_g (lw_at lw_m6 144 rfl) rfl
theorem q1480 : (Jvm.Cond.soleField "OnePassportModel" "lines") ∈ lw_all := lw_g (lw_at lw_m6 145 rfl) rfl
theorem q1481 : (Jvm.Cond.laysFinal "OnePassportModel" "OnePassportModel" "has" "[I") ∈ lw_all := lw_g (lw_at lw_m6 146 rfl) rfl
theorem q1482 : (Jvm.Cond.soleField "OnePassportModel" "has") ∈ lw_all := lw_g (lw_at lw_m6 147 rfl) rfl
theorem q1483 : (Jvm.Cond.laysFinal "OnePassportModel" "OnePassportModel" "like" "[I") ∈ lw_all := lw_g (lw_at lw_m6 148 rfl) rfl
theorem q1484 : (Jvm.Cond.soleField "OnePassportModel" "like") ∈ lw_all := lw_g (lw_at lw_m6 149 rfl) rfl
theorem q1485 : (Jvm.Cond.laysFinal "OnePassportModel" "OnePassportModel" "nose" "[I") ∈ lw_all := lw_g (lw_at lw_m6 150 rfl) rfl
theorem q1486 : (Jvm.Cond.soleField "OnePassportModel" "nose") ∈ lw_all := lw_g (lw_at lw_m6 151 rfl) rfl
theorem q1487 : (Jvm.Cond.laysFinal "OnePassportModel" "OnePassportModel" "post" "[I") ∈ lw_all := lw_g (lw_at lw_m6 152 rfl) rfl
theorem q1488 : (Jvm.Cond.soleField "OnePassportModel" "post") ∈ lw_all := lw_g (lw_at lw_m6 153 rfl) rfl
theorem q1489 : (Jvm.Cond.laysFinal "OnePassportModel" "OnePassportModel" "act" "[I") ∈ lw_all := lw_g (lw_at lw_m6 154 rfl) rfl
theorem q1490 : (Jvm.Cond.soleField "OnePassportModel" "act") ∈ lw_all := lw_g (lw_at lw_m6 155 rfl) rfl
theorem q1491 : (Jvm.Cond.laysFinal "OnePassportModel" "OnePassportModel" "isKept" "[Z") ∈ lw_all := lw_g (lw_at lw_m6 156 rfl) rfl
theorem q1492 : (Jvm.Cond.soleField "OnePassportModel" "isKept") ∈ lw_all := lw_g (lw_at lw_m6 157 rfl) rfl
theorem q1493 : (Jvm.Cond.lays "OnePassportModel" "OnePassportModel" "over" "I") ∈ lw_all := lw_g (lw_at lw_m6 158 rfl) rfl
theorem q1494 : (Jvm.Cond.soleField "OnePassportModel" "over") ∈ lw_all := lw_g (lw_at lw_m6 159 rfl) rfl
theorem q1495 : (Jvm.Cond.lays "OnePassportModel" "OnePassportModel" "side" "I") ∈ lw_all := lw_g (lw_at lw_m6 160 rfl) rfl
theorem q1496 : (Jvm.Cond.soleField "OnePassportModel" "side") ∈ lw_all := lw_g (lw_at lw_m6 161 rfl) rfl
theorem q1497 : (Jvm.Cond.lays "OnePassportModel" "OnePassportModel" "zero" "I") ∈ lw_all := lw_g (lw_at lw_m6 162 rfl) rfl
theorem q1498 : (Jvm.Cond.soleField "OnePassportModel" "zero") ∈ lw_all := lw_g (lw_at lw_m6 163 rfl) rfl
theorem q1499 : (Jvm.Cond.lays "OnePassportModel" "OnePassportModel" "one" "I") ∈ lw_all := lw_g (lw_at lw_m6 164 rfl) rfl
theorem q1500 : (Jvm.Cond.soleField "OnePassportModel" "one") ∈ lw_all := lw_g (lw_at lw_m6 165 rfl) rfl
theorem q1501 : (Jvm.Cond.lays "OnePassportModel" "OnePassportModel" "marks" "I") ∈ lw_all := lw_g (lw_at lw_m6 166 rfl) rfl
theorem q1502 : (Jvm.Cond.soleField "OnePassportModel" "marks") ∈ lw_all := lw_g (lw_at lw_m6 167 rfl) rfl
theorem q1503 : (Jvm.Cond.lays "OnePassportModel" "OnePassportModel" "daysNow" "I") ∈ lw_all := lw_g (lw_at lw_m6 168 rfl) rfl
theorem q1504 : (Jvm.Cond.soleField "OnePassportModel" "daysNow") ∈ lw_all := lw_g (lw_at lw_m6 169 rfl) rfl
theorem q1505 : (Jvm.Cond.lays "OnePassportModel" "OnePassportModel" "riskNow" "I") ∈ lw_all := lw_g (lw_at lw_m6 170 rfl) rfl
theorem q1506 : (Jvm.Cond.soleField "OnePassportModel" "riskNow") ∈ lw_all := lw_g (lw_at lw_m6 171 rfl) rfl
theorem q1507 : (Jvm.Cond.lays "OnePassportModel" "OnePassportModel" "stampMany" "I") ∈ lw_all := lw_g (lw_at lw_m6 172 rfl) rfl
theorem q1508 : (Jvm.Cond.soleField "OnePassportModel" "stampMany") ∈ lw_all := lw_g (lw_at lw_m6 173 rfl) rfl
theorem q1509 : (Jvm.Cond.laysFinal "OnePassportModel" "OnePassportModel" "stamp" "[I") ∈ lw_all := lw_g (lw_at lw_m6 174 rfl) rfl
theorem q1510 : (Jvm.Cond.soleField "OnePassportModel" "stamp") ∈ lw_all := lw_g (lw_at lw_m6 175 rfl) rfl
theorem q1511 : (Jvm.Cond.laysFinal "OnePassportModel" "OnePassportModel" "seen" "[Z") ∈ lw_all := lw_g (lw_at lw_m6 176 rfl) rfl
theorem q1512 : (Jvm.Cond.soleField "OnePassportModel" "seen") ∈ lw_all := lw_g (lw_at lw_m6 177 rfl) rfl
theorem q1513 : (Jvm.Cond.laysFinal "OnePassportModel" "OnePassportModel" "list" "[I") ∈ lw_all := lw_g (lw_at lw_m6 178 rfl) rfl
theorem q1514 : (Jvm.Cond.soleField "OnePassportModel" "list") ∈ lw_all := lw_g (lw_at lw_m6 179 rfl) rfl
theorem q1515 : (Jvm.Cond.lays "OnePassportModel" "OnePassportModel" "listed" "I") ∈ lw_all := lw_g (lw_at lw_m6 180 rfl) rfl
theorem q1516 : (Jvm.Cond.soleField "OnePassportModel" "listed") ∈ lw_all := lw_g (lw_at lw_m6 181 rfl) rfl
theorem q1517 : (Jvm.Cond.laysFinal "OnePassportModel" "OnePassportModel" "least" "[I") ∈ lw_all := lw_g (lw_at lw_m6 182 rfl) rfl
theorem q1518 : (Jvm.Cond.soleField "OnePassportModel" "least") ∈ lw_all := lw_g (lw_at lw_m6 183 rfl) rfl
theorem q1519 : (Jvm.Cond.lays "OnePassportModel" "OnePassportModel" "sought" "I") ∈ lw_all := lw_g (lw_at lw_m6 184 rfl) rfl
theorem q1520 : (Jvm.Cond.soleField "OnePassportModel" "sought") ∈ lw_all := lw_g (lw_at lw_m6 185 rfl) rfl
theorem q1521 : (Jvm.Cond.lays "OnePassportModel" "OnePassportModel" "soughtSet" "I") ∈ lw_all := lw_g (lw_at lw_m6 186 rfl) rfl
theorem q1522 : (Jvm.Cond.soleField "OnePassportModel" "soughtSet") ∈ lw_all := lw_g (lw_at lw_m6 187 rfl) rfl
theorem q1523 : (Jvm.Cond.lays "OnePassportModel" "OnePassportModel" "counted" "I") ∈ lw_all := lw_g (lw_at lw_m6 188 rfl) rfl
theorem q1524 : (Jvm.Cond.soleField "OnePassportModel" "counted") ∈ lw_all := lw_g (lw_at lw_m6 189 rfl) rfl
theorem q1525 : (Jvm.Cond.laysFinal "OnePassportModel" "OnePassportModel" "row" "[I") ∈ lw_all := lw_g (lw_at lw_m6 190 rfl) rfl
theorem q1526 : (Jvm.Cond.soleField "OnePassportModel" "row") ∈ lw_all := lw_g (lw_at lw_m6 191 rfl) rfl
theorem q1527 : (Jvm.Cond.lays "OnePassportModel" "OnePassportModel" "rowMany" "I") ∈ lw_all := lw_g (lw_at lw_m6 192 rfl) rfl
theorem q1528 : (Jvm.Cond.soleField "OnePassportModel" "rowMany") ∈ lw_all := lw_g (lw_at lw_m6 193 rfl) rfl
theorem q1529 : (Jvm.Cond.laysFinal "OnePassportModel" "OnePassportModel" "waysOf" "[J") ∈ lw_all := lw_g (lw_at lw_m6 194 rfl) rfl
theorem q1530 : (Jvm.Cond.soleField "OnePassportModel" "waysOf") ∈ lw_all := lw_g (lw_at lw_m6 195 rfl) rfl
theorem q1531 : (Jvm.Cond.laysFinal "OnePassportModel" "OnePassportModel" "darkOf" "[I") ∈ lw_all := lw_g (lw_at lw_m6 196 rfl) rfl
theorem q1532 : (Jvm.Cond.soleField "OnePassportModel" "darkOf") ∈ lw_all := lw_g (lw_at lw_m6 197 rfl) rfl
theorem q1533 : (Jvm.Cond.laysFinal "OnePassportModel" "OnePassportModel" "allOf" "[I") ∈ lw_all := lw_g (lw_at lw_m6 198 rfl) rfl
theorem q1534 : (Jvm.Cond.soleField "OnePassportModel" "allOf") ∈ lw_all := lw_g (lw_at lw_m6 199 rfl) rfl
theorem q1535 : (Jvm.Cond.laysFinal "OnePassportModel" "OnePassportModel" "someOf" "[I") ∈ lw_all := lw_g (lw_at lw_m6 200 rfl) rfl
theorem q1536 : (Jvm.Cond.soleField "OnePassportModel" "someOf") ∈ lw_all := lw_g (lw_at lw_m6 201 rfl) rfl
theorem q1537 : (Jvm.Cond.laysFinal "OnePassportModel" "OnePassportModel" "hadAt" "[I") ∈ lw_all := lw_g (lw_at lw_m6 202 rfl) rfl
theorem q1538 : (Jvm.Cond.soleField "OnePassportModel" "hadAt") ∈ lw_all := lw_g (lw_at lw_m6 203 rfl) rfl
theorem q1539 : (Jvm.Cond.laysFinal "OnePassportModel" "OnePassportModel" "come" "[Z") ∈ lw_all := lw_g (lw_at lw_m6 204 rfl) rfl
theorem q1540 : (Jvm.Cond.soleField "OnePassportModel" "come") ∈ lw_all := lw_g (lw_at lw_m6 205 rfl) rfl
theorem q1541 : (Jvm.Cond.lays "OnePassportModel" "OnePassportModel" "overThen" "I") ∈ lw_all := lw_g (lw_at lw_m6 206 rfl) rfl
theorem q1542 : (Jvm.Cond.soleField "OnePassportModel" "overThen") ∈ lw_all := lw_g (lw_at lw_m6 207 rfl) rfl
theorem q1543 : (Jvm.Cond.superclass "OnePassportModel" "java/lang/Object") ∈ lw_all := lw_g (lw_at lw_m6 208 rfl) rfl
theorem q1545 : (Jvm.Cond.instanceMethod ({ cls := "OnePassportModel", name := "row", desc := "(III)I" } : Jvm.MethodName)) ∈ lw_all := lw_g (lw_at lw_m6 210 rfl) rfl
theorem q1546 : (Jvm.Cond.selects "OnePassportModel" ({ cls := "OnePassportModel", name := "row", desc := "(III)I" } : Jvm.MethodName) ({ cls := "OnePassportModel", name := "row", desc := "(III)I" } : Jvm.MethodName)) ∈ lw_all := lw_g (lw_at lw_m6 211 rfl) rfl
theorem q1547 : (Jvm.Cond.code ({ cls := "OnePassportModel", name := "row", desc := "(III)I" } : Jvm.MethodName) prog_11_method_5_code (5 : Nat) (Option.some Jvm.ClassFile.FieldType.int)) ∈ lw_all := lw_g (lw_at lw_m6 212 rfl) rfl
theorem q1548 : (Jvm.Cond.methodLink "OnePassportModel" (97 : Nat) ({ cls := "OnePassportModel", name := "isSlot", desc := "(I)Z" } : Jvm.MethodName)) ∈ lw_all := lw_g (lw_at lw_m6 213 rfl) rfl
theorem q1549 : (Jvm.Cond.static ({ cls := "OnePassportModel", name := "isSlot", desc := "(I)Z" } : Jvm.MethodName)) ∈ lw_all := lw_g (lw_at lw_m6 214 rfl) rfl
theorem q1550 : (Jvm.Cond.code ({ cls := "OnePassportModel", name := "isSlot", desc := "(I)Z" } : Jvm.MethodName) prog_11_method_4_code (1 : Nat) (Option.some Jvm.ClassFile.FieldType.boolean)) ∈ lw_all := lw_g (lw_at lw_m6 215 rfl) rfl
theorem q1551 : (Jvm.Cond.constantLong "OnePassportModel" (91 : Nat) (3 : Int64)) ∈ lw_all := lw_g (lw_at lw_m6 216 rfl) rfl
theorem q1552 : (Jvm.Cond.methodLink "OnePassportModel" (93 : Nat) ({ cls := "OnePassportModel", name := "in", desc := "(JJJ)Z" } : Jvm.MethodName)) ∈ lw_all := lw_g (lw_at lw_m6 217 rfl) rfl
theorem q1553 : (Jvm.Cond.static ({ cls := "OnePassportModel", name := "in", desc := "(JJJ)Z" } : Jvm.MethodName)) ∈ lw_all := lw_g (lw_at lw_m6 218 rfl) rfl
theorem q1554 : (Jvm.Cond.code ({ cls := "OnePassportModel", name := "in", desc := "(JJJ)Z" } : Jvm.MethodName) prog_11_method_3_code (6 : Nat) (Option.some Jvm.ClassFile.FieldType.boolean)) ∈ lw_all := lw_g (lw_at lw_m6 219 rfl) rfl
theorem q1556 : (Jvm.Cond.instanceMethod ({ cls := "OnePassportModel", name := "write", desc := "(IIJ)I" } : Jvm.MethodName)) ∈ lw_all := lw_g (lw_at lw_m6 221 rfl) rfl
theorem q1557 : (Jvm.Cond.selects "OnePassportModel" ({ cls := "OnePassportModel", name := "write", desc := "(IIJ)I" } : Jvm.MethodName) ({ cls := "OnePassportModel", name := "write", desc := "(IIJ)I" } : Jvm.MethodName)) ∈ lw_all := lw_g (lw_at lw_m6 222 rfl) rfl
theorem q1558 : (Jvm.Cond.code ({ cls := "OnePassportModel", name := "write", desc := "(IIJ)I" } : Jvm.MethodName) prog_11_method_7_code (5 : Nat) (Option.some Jvm.ClassFile.FieldType.int)) ∈ lw_all := lw_g (lw_at lw_m6 223 rfl) rfl
theorem q1559 : (Jvm.Cond.methodLink "OnePassportModel" (101 : Nat) ({ cls := "OnePassportModel", name := "cut", desc := "(JI)J" } : Jvm.MethodName)) ∈ lw_all := lw_g (lw_at lw_m6 224 rfl) rfl
theorem q1560 : (Jvm.Cond.static ({ cls := "OnePassportModel", name := "cut", desc := "(JI)J" } : Jvm.MethodName)) ∈ lw_all := lw_g (lw_at lw_m6 225 rfl) rfl
theorem q1561 : (Jvm.Cond.code ({ cls := "OnePassportModel", name := "cut", desc := "(JI)J" } : Jvm.MethodName) prog_11_method_6_code (3 : Nat) (Option.some Jvm.ClassFile.FieldType.long)) ∈ lw_all := lw_g (lw_at lw_m6 226 rfl) rfl
theorem q1563 : (Jvm.Cond.instanceMethod ({ cls := "OnePassportModel", name := "paste", desc := "(IIIII)I" } : Jvm.MethodName)) ∈ lw_all := lw_g (lw_at lw_m6 228 rfl) rfl
theorem q1564 : (Jvm.Cond.selects "OnePassportModel" ({ cls := "OnePassportModel", name := "paste", desc := "(IIIII)I" } : Jvm.MethodName) ({ cls := "OnePassportModel", name := "paste", desc := "(IIIII)I" } : Jvm.MethodName)) ∈ lw_all := lw_g (lw_at lw_m6 229 rfl) rfl
theorem q1565 : (Jvm.Cond.code ({ cls := "OnePassportModel", name := "paste", desc := "(IIIII)I" } : Jvm.MethodName) prog_11_method_8_code (7 : Nat) (Option.some Jvm.ClassFile.FieldType.int)) ∈ lw_all := lw_g (lw_at lw_m6 230 rfl) rfl
theorem q1567 : (Jvm.Cond.instanceMethod ({ cls := "OnePassportModel", name := "feed", desc := "(IIIII)I" } : Jvm.MethodName)) ∈ lw_all := lw_g (lw_at lw_m6 232 rfl) rfl
theorem q1568 : (Jvm.Cond.selects "OnePassportModel" ({ cls := "OnePassportModel", name := "feed", desc := "(IIIII)I" } : Jvm.MethodName) ({ cls := "OnePassportModel", name := "feed", desc := "(IIIII)I" } : Jvm.MethodName)) ∈ lw_all := lw_g (lw_at lw_m6 233 rfl) rfl
theorem q1569 : (Jvm.Cond.code ({ cls := "OnePassportModel", name := "feed", desc := "(IIIII)I" } : Jvm.MethodName) prog_11_method_9_code (6 : Nat) (Option.some Jvm.ClassFile.FieldType.int)) ∈ lw_all := lw_g (lw_at lw_m6 234 rfl) rfl
theorem q1570 : (Jvm.Cond.methodLink "OnePassportModel" (108 : Nat) ({ cls := "OnePassportModel", name := "four", desc := "(I)V" } : Jvm.MethodName)) ∈ lw_all := lw_g (lw_at lw_m6 235 rfl) rfl
theorem q1571 : (Jvm.Cond.privateMethod ({ cls := "OnePassportModel", name := "four", desc := "(I)V" } : Jvm.MethodName)) ∈ lw_tbl := lw_at lw_m6 236 rfl
theorem q1572 : (Jvm.Cond.instanceMethod ({ cls := "OnePassportModel", name := "four", desc := "(I)V" } : Jvm.MethodName)) ∈ lw_all := lw_g (lw_at lw_m6 237 rfl) rfl
theorem q1573 : (Jvm.Cond.code ({ cls := "OnePassportModel", name := "four", desc := "(I)V" } : Jvm.MethodName) prog_11_method_10_code (3 : Nat) (Option.none : Option Jvm.ClassFile.FieldType)) ∈ lw_all := lw_g (lw_at lw_m6 238 rfl) rfl
theorem q1575 : (Jvm.Cond.instanceMethod ({ cls := "OnePassportModel", name := "end", desc := "(I)I" } : Jvm.MethodName)) ∈ lw_all := lw_g (lw_at lw_m7 0 rfl) rfl
theorem q1576 : (Jvm.Cond.selects "OnePassportModel" ({ cls := "OnePassportModel", name := "end", desc := "(I)I" } : Jvm.MethodName) ({ cls := "OnePassportModel", name := "end", desc := "(I)I" } : Jvm.MethodName)) ∈ lw_all := lw_g (lw_at lw_m7 1 rfl) rfl
theorem q1577 : (Jvm.Cond.code ({ cls := "OnePassportModel", name := "end", desc := "(I)I" } : Jvm.MethodName) prog_11_method_11_code (2 : Nat) (Option.some Jvm.ClassFile.FieldType.int)) ∈ lw_all := lw_g (lw_at lw_m7 2 rfl) rfl
theorem q1579 : (Jvm.Cond.instanceMethod ({ cls := "OnePassportModel", name := "fault", desc := "(I)I" } : Jvm.MethodName)) ∈ lw_all := lw_g (lw_at lw_m7 4 rfl) rfl
theorem q1580 : (Jvm.Cond.selects "OnePassportModel" ({ cls := "OnePassportModel", name := "fault", desc := "(I)I" } : Jvm.MethodName) ({ cls := "OnePassportModel", name := "fault", desc := "(I)I" } : Jvm.MethodName)) ∈ lw_all := lw_g (lw_at lw_m7 5 rfl) rfl
theorem q1581 : (Jvm.Cond.code ({ cls := "OnePassportModel", name := "fault", desc := "(I)I" } : Jvm.MethodName) prog_11_method_24_code (2 : Nat) (Option.some Jvm.ClassFile.FieldType.int)) ∈ lw_all := lw_g (lw_at lw_m7 6 rfl) rfl
theorem q1583 : (Jvm.Cond.instanceMethod ({ cls := "OnePassportModel", name := "family", desc := "()I" } : Jvm.MethodName)) ∈ lw_all := lw_g (lw_at lw_m7 8 rfl) rfl
theorem q1584 : (Jvm.Cond.selects "OnePassportModel" ({ cls := "OnePassportModel", name := "family", desc := "()I" } : Jvm.MethodName) ({ cls := "OnePassportModel", name := "family", desc := "()I" } : Jvm.MethodName)) ∈ lw_all := lw_g (lw_at lw_m7 9 rfl) rfl
theorem q1585 : (Jvm.Cond.code ({ cls := "OnePassportModel", name := "family", desc := "()I" } : Jvm.MethodName) prog_11_method_30_code (1 : Nat) (Option.some Jvm.ClassFile.FieldType.int)) ∈ lw_all := lw_g (lw_at lw_m7 10 rfl) rfl
theorem q1586 : (Jvm.Cond.methodLink "OnePassportModel" (210 : Nat) ({ cls := "OnePassportModel", name := "clears", desc := "()V" } : Jvm.MethodName)) ∈ lw_all := lw_g (lw_at lw_m7 11 rfl) rfl
theorem q1587 : (Jvm.Cond.privateMethod ({ cls := "OnePassportModel", name := "clears", desc := "()V" } : Jvm.MethodName)) ∈ lw_tbl := lw_at lw_m7 12 rfl
theorem q1588 : (Jvm.Cond.instanceMethod ({ cls := "OnePassportModel", name := "clears", desc := "()V" } : Jvm.MethodName)) ∈ lw_all := lw_g (lw_at lw_m7 13 rfl) rfl
theorem q1589 : (Jvm.Cond.code ({ cls := "OnePassportModel", name := "clears", desc := "()V" } : Jvm.MethodName) prog_11_method_29_code (2 : Nat) (Option.none : Option Jvm.ClassFile.FieldType)) ∈ lw_all := lw_g (lw_at lw_m7 14 rfl) rfl
theorem q1590 : (Jvm.Cond.methodLink "OnePassportModel" (193 : Nat) ({ cls := "OnePassportModel", name := "tells", desc := "(II)V" } : Jvm.MethodName)) ∈ lw_all := lw_g (lw_at lw_m7 15 rfl) rfl
theorem q1591 : (Jvm.Cond.privateMethod ({ cls := "OnePassportModel", name := "tells", desc := "(II)V" } : Jvm.MethodName)) ∈ lw_tbl := lw_at lw_m7 16 rfl
theorem q1592 : (Jvm.Cond.instanceMethod ({ cls := "OnePassportModel", name := "tells", desc := "(II)V" } : Jvm.MethodName)) ∈ lw_all := lw_g (lw_at lw_m7 17 rfl) rfl
theorem q1593 : (Jvm.Cond.code ({ cls := "OnePassportModel", name := "tells", desc := "(II)V" } : Jvm.MethodName) prog_11_method_26_code (3 : Nat) (Option.none : Option Jvm.ClassFile.FieldType)) ∈ lw_all := lw_g (lw_at lw_m7 18 rfl) rfl
theorem q1594 : (Jvm.Cond.methodLink "OnePassportModel" (213 : Nat) ({ cls := "OnePassportModel", name := "begins", desc := "()V" } : Jvm.MethodName)) ∈ lw_all := lw_g (lw_at lw_m7 19 rfl) rfl
theorem q1595 : (Jvm.Cond.privateMethod ({ cls := "OnePassportModel", name := "begins", desc := "()V" } : Jvm.MethodName)) ∈ lw_tbl := lw_at lw_m7 20 rfl
theorem q1596 : (Jvm.Cond.instanceMethod ({ cls := "OnePassportModel", name := "begins", desc := "()V" } : Jvm.MethodName)) ∈ lw_all := lw_g (lw_at lw_m7 21 rfl) rfl
theorem q1597 : (Jvm.Cond.code ({ cls := "OnePassportModel", name := "begins", desc := "()V" } : Jvm.MethodName) prog_11_method_22_code (1 : Nat) (Option.none : Option Jvm.ClassFile.FieldType)) ∈ lw_all := lw_g (lw_at lw_m7 22 rfl) rfl
theorem q1598 : (Jvm.Cond.methodLink "OnePassportModel" (150 : Nat) ({ cls := "OnePassportModel", name := "next", desc := "()V" } : Jvm.MethodName)) ∈ lw_all := lw_g (lw_at lw_m7 23 rfl) rfl
theorem q1599 : (Jvm.Cond.privateMethod ({ cls := "OnePassportModel", name := "next", desc := "()V" } : Jvm.MethodName)) ∈ lw_tbl := lw_at lw_m7 24 rfl
theorem q1600 : (Jvm.Cond.instanceMethod ({ cls := "OnePassportModel", name := "next", desc := "()V" } : Jvm.MethodName)) ∈ lw_all := lw_g (lw_at lw_m7 25 rfl) rfl
theorem q1601 : (Jvm.Cond.code ({ cls := "OnePassportModel", name := "next", desc := "()V" } : Jvm.MethodName) prog_11_method_13_code (2 : Nat) (Option.none : Option Jvm.ClassFile.FieldType)) ∈ lw_all := lw_g (lw_at lw_m7 26 rfl) rfl
theorem q1602 : (Jvm.Cond.methodLink "OnePassportModel" (115 : Nat) ({ cls := "OnePassportModel", name := "isByte", desc := "(III)Z" } : Jvm.MethodName)) ∈ lw_all := lw_g (lw_at lw_m7 27 rfl) rfl
theorem q1603 : (Jvm.Cond.privateMethod ({ cls := "OnePassportModel", name := "isByte", desc := "(III)Z" } : Jvm.MethodName)) ∈ lw_tbl := lw_at lw_m7 28 rfl
theorem q1604 : (Jvm.Cond.instanceMethod ({ cls := "OnePassportModel", name := "isByte", desc := "(III)Z" } : Jvm.MethodName)) ∈ lw_all := lw_g (lw_at lw_m7 29 rfl) rfl
theorem q1605 : (Jvm.Cond.code ({ cls := "OnePassportModel", name := "isByte", desc := "(III)Z" } : Jvm.MethodName) prog_11_method_12_code (4 : Nat) (Option.some Jvm.ClassFile.FieldType.boolean)) ∈ lw_all := lw_g (lw_at lw_m7 30 rfl) rfl
theorem q1606 : (Jvm.Cond.constantLong "OnePassportModel" (132 : Nat) (-1 : Int64)) ∈ lw_all := lw_g (lw_at lw_m7 31 rfl) rfl
theorem q1607 : (Jvm.Cond.constantLong "OnePassportModel" (134 : Nat) (27 : Int64)) ∈ lw_all := lw_g (lw_at lw_m7 32 rfl) rfl
theorem q1608 : (Jvm.Cond.constantLong "OnePassportModel" (136 : Nat) (96 : Int64)) ∈ lw_all := lw_g (lw_at lw_m7 33 rfl) rfl
theorem q1609 : (Jvm.Cond.constant "OnePassportModel" (138 : Nat) (100000 : Int32)) ∈ lw_all := lw_g (lw_at lw_m7 34 rfl) rfl
theorem q1610 : (Jvm.Cond.constant "OnePassportModel" (139 : Nat) (1000000 : Int32)) ∈ lw_all := lw_g (lw_at lw_m7 35 rfl) rfl
theorem q1611 : (Jvm.Cond.methodLink "OnePassportModel" (181 : Nat) ({ cls := "OnePassportModel", name := "isGood", desc := "()Z" } : Jvm.MethodName)) ∈ lw_all := lw_g (lw_at lw_m7 36 rfl) rfl
theorem q1612 : (Jvm.Cond.privateMethod ({ cls := "OnePassportModel", name := "isGood", desc := "()Z" } : Jvm.MethodName)) ∈ lw_tbl := lw_at lw_m7 37 rfl
theorem q1613 : (Jvm.Cond.instanceMethod ({ cls := "OnePassportModel", name := "isGood", desc := "()Z" } : Jvm.MethodName)) ∈ lw_all := lw_g (lw_at lw_m7 38 rfl) rfl
theorem q1614 : (Jvm.Cond.code ({ cls := "OnePassportModel", name := "isGood", desc := "()Z" } : Jvm.MethodName) prog_11_method_14_code (1 : Nat) (Option.some Jvm.ClassFile.FieldType.boolean)) ∈ lw_all := lw_g (lw_at lw_m7 39 rfl) rfl
theorem q1615 : (Jvm.Cond.constantLong "OnePassportModel" (216 : Nat) (86887672 : Int64)) ∈ lw_all := lw_g (lw_at lw_m7 40 rfl) rfl
theorem q1616 : (Jvm.Cond.methodLink "OnePassportModel" (159 : Nat) ({ cls := "OnePassportModel", name := "asks", desc := "(J)V" } : Jvm.MethodName)) ∈ lw_all := lw_g (lw_at lw_m7 41 rfl) rfl
theorem q1617 : (Jvm.Cond.privateMethod ({ cls := "OnePassportModel", name := "asks", desc := "(J)V" } : Jvm.MethodName)) ∈ lw_tbl := lw_at lw_m7 42 rfl
theorem q1618 : (Jvm.Cond.instanceMethod ({ cls := "OnePassportModel", name := "asks", desc := "(J)V" } : Jvm.MethodName)) ∈ lw_all := lw_g (lw_at lw_m7 43 rfl) rfl
theorem q1619 : (Jvm.Cond.code ({ cls := "OnePassportModel", name := "asks", desc := "(J)V" } : Jvm.MethodName) prog_11_method_18_code (3 : Nat) (Option.none : Option Jvm.ClassFile.FieldType)) ∈ lw_all := lw_g (lw_at lw_m7 44 rfl) rfl
theorem q1620 : (Jvm.Cond.methodLink "OnePassportModel" (153 : Nat) ({ cls := "OnePassportModel", name := "takes", desc := "(J)Z" } : Jvm.MethodName)) ∈ lw_all := lw_g (lw_at lw_m7 45 rfl) rfl
theorem q1621 : (Jvm.Cond.privateMethod ({ cls := "OnePassportModel", name := "takes", desc := "(J)Z" } : Jvm.MethodName)) ∈ lw_tbl := lw_at lw_m7 46 rfl
theorem q1622 : (Jvm.Cond.instanceMethod ({ cls := "OnePassportModel", name := "takes", desc := "(J)Z" } : Jvm.MethodName)) ∈ lw_all := lw_g (lw_at lw_m7 47 rfl) rfl
theorem q1623 : (Jvm.Cond.code ({ cls := "OnePassportModel", name := "takes", desc := "(J)Z" } : Jvm.MethodName) prog_11_method_17_code (3 : Nat) (Option.some Jvm.ClassFile.FieldType.boolean)) ∈ lw_all := lw_g (lw_at lw_m7 48 rfl) rfl
theorem q1624 : (Jvm.Cond.methodLink "OnePassportModel" (146 : Nat) ({ cls := "OnePassportModel", name := "is", desc := "(J)Z" } : Jvm.MethodName)) ∈ lw_all := lw_g (lw_at lw_m7 49 rfl) rfl
theorem q1625 : (Jvm.Cond.privateMethod ({ cls := "OnePassportModel", name := "is", desc := "(J)Z" } : Jvm.MethodName)) ∈ lw_tbl := lw_at lw_m7 50 rfl
theorem q1626 : (Jvm.Cond.instanceMethod ({ cls := "OnePassportModel", name := "is", desc := "(J)Z" } : Jvm.MethodName)) ∈ lw_all := lw_g (lw_at lw_m7 51 rfl) rfl
theorem q1627 : (Jvm.Cond.code ({ cls := "OnePassportModel", name := "is", desc := "(J)Z" } : Jvm.MethodName) prog_11_method_16_code (3 : Nat) (Option.some Jvm.ClassFile.FieldType.boolean)) ∈ lw_all := lw_g (lw_at lw_m7 52 rfl) rfl
theorem q1628 : (Jvm.Cond.methodLink "OnePassportModel" (156 : Nat) ({ cls := "OnePassportModel", name := "fails", desc := "(I)V" } : Jvm.MethodName)) ∈ lw_all := lw_g (lw_at lw_m7 53 rfl) rfl
theorem q1629 : (Jvm.Cond.privateMethod ({ cls := "OnePassportModel", name := "fails", desc := "(I)V" } : Jvm.MethodName)) ∈ lw_tbl := lw_at lw_m7 54 rfl
theorem q1630 : (Jvm.Cond.instanceMethod ({ cls := "OnePassportModel", name := "fails", desc := "(I)V" } : Jvm.MethodName)) ∈ lw_all := lw_g (lw_at lw_m7 55 rfl) rfl
theorem q1631 : (Jvm.Cond.code ({ cls := "OnePassportModel", name := "fails", desc := "(I)V" } : Jvm.MethodName) prog_11_method_15_code (2 : Nat) (Option.none : Option Jvm.ClassFile.FieldType)) ∈ lw_all := lw_g (lw_at lw_m7 56 rfl) rfl
theorem q1632 : (Jvm.Cond.constantLong "OnePassportModel" (218 : Nat) (247164 : Int64)) ∈ lw_all := lw_g (lw_at lw_m7 57 rfl) rfl
theorem q1633 : (Jvm.Cond.methodLink "OnePassportModel" (176 : Nat) ({ cls := "OnePassportModel", name := "number", desc := "(JII)I" } : Jvm.MethodName)) ∈ lw_all := lw_g (lw_at lw_m7 58 rfl) rfl
theorem q1634 : (Jvm.Cond.privateMethod ({ cls := "OnePassportModel", name := "number", desc := "(JII)I" } : Jvm.MethodName)) ∈ lw_tbl := lw_at lw_m7 59 rfl
theorem q1635 : (Jvm.Cond.instanceMethod ({ cls := "OnePassportModel", name := "number", desc := "(JII)I" } : Jvm.MethodName)) ∈ lw_all := lw_g (lw_at lw_m7 60 rfl) rfl
theorem q1636 : (Jvm.Cond.code ({ cls := "OnePassportModel", name := "number", desc := "(JII)I" } : Jvm.MethodName) prog_11_method_20_code (5 : Nat) (Option.some Jvm.ClassFile.FieldType.int)) ∈ lw_all := lw_g (lw_at lw_m7 61 rfl) rfl
theorem q1637 : (Jvm.Cond.methodLink "OnePassportModel" (163 : Nat) ({ cls := "OnePassportModel", name := "number", desc := "(II)I" } : Jvm.MethodName)) ∈ lw_all := lw_g (lw_at lw_m7 62 rfl) rfl
theorem q1638 : (Jvm.Cond.privateMethod ({ cls := "OnePassportModel", name := "number", desc := "(II)I" } : Jvm.MethodName)) ∈ lw_tbl := lw_at lw_m7 63 rfl
theorem q1639 : (Jvm.Cond.instanceMethod ({ cls := "OnePassportModel", name := "number", desc := "(II)I" } : Jvm.MethodName)) ∈ lw_all := lw_g (lw_at lw_m7 64 rfl) rfl
theorem q1640 : (Jvm.Cond.code ({ cls := "OnePassportModel", name := "number", desc := "(II)I" } : Jvm.MethodName) prog_11_method_19_code (4 : Nat) (Option.some Jvm.ClassFile.FieldType.int)) ∈ lw_all := lw_g (lw_at lw_m7 65 rfl) rfl
theorem q1641 : (Jvm.Cond.constantLong "OnePassportModel" (220 : Nat) (1384719953 : Int64)) ∈ lw_all := lw_g (lw_at lw_m7 66 rfl) rfl
theorem q1642 : (Jvm.Cond.methodLink "OnePassportModel" (222 : Nat) ({ cls := "OnePassportModel", name := "line", desc := "()V" } : Jvm.MethodName)) ∈ lw_all := lw_g (lw_at lw_m7 67 rfl) rfl
theorem q1643 : (Jvm.Cond.privateMethod ({ cls := "OnePassportModel", name := "line", desc := "()V" } : Jvm.MethodName)) ∈ lw_tbl := lw_at lw_m7 68 rfl
theorem q1644 : (Jvm.Cond.instanceMethod ({ cls := "OnePassportModel", name := "line", desc := "()V" } : Jvm.MethodName)) ∈ lw_all := lw_g (lw_at lw_m7 69 rfl) rfl
theorem q1645 : (Jvm.Cond.code ({ cls := "OnePassportModel", name := "line", desc := "()V" } : Jvm.MethodName) prog_11_method_28_code (4 : Nat) (Option.none : Option Jvm.ClassFile.FieldType)) ∈ lw_all := lw_g (lw_at lw_m7 70 rfl) rfl
theorem q1646 : (Jvm.Cond.constantLong "OnePassportModel" (197 : Nat) (232608281 : Int64)) ∈ lw_all := lw_g (lw_at lw_m7 71 rfl) rfl
theorem q1647 : (Jvm.Cond.constantLong "OnePassportModel" (199 : Nat) (326396 : Int64)) ∈ lw_all := lw_g (lw_at lw_m7 72 rfl) rfl
theorem q1648 : (Jvm.Cond.methodLink "OnePassportModel" (170 : Nat) ({ cls := "OnePassportModel", name := "hasRead", desc := "(I)I" } : Jvm.MethodName)) ∈ lw_all := lw_g (lw_at lw_m7 73 rfl) rfl
theorem q1649 : (Jvm.Cond.privateMethod ({ cls := "OnePassportModel", name := "hasRead", desc := "(I)I" } : Jvm.MethodName)) ∈ lw_tbl := lw_at lw_m7 74 rfl
theorem q1650 : (Jvm.Cond.instanceMethod ({ cls := "OnePassportModel", name := "hasRead", desc := "(I)I" } : Jvm.MethodName)) ∈ lw_all := lw_g (lw_at lw_m7 75 rfl) rfl
theorem q1651 : (Jvm.Cond.code ({ cls := "OnePassportModel", name := "hasRead", desc := "(I)I" } : Jvm.MethodName) prog_11_method_25_code (2 : Nat) (Option.some Jvm.ClassFile.FieldType.int)) ∈ lw_all := lw_g (lw_at lw_m7 76 rfl) rfl
theorem q1652 : (Jvm.Cond.methodLink "OnePassportModel" (201 : Nat) ({ cls := "OnePassportModel", name := "personLine", desc := "()V" } : Jvm.MethodName)) ∈ lw_all := lw_g (lw_at lw_m7 77 rfl) rfl
theorem q1653 : (Jvm.Cond.privateMethod ({ cls := "OnePassportModel", name := "personLine", desc := "()V" } : Jvm.MethodName)) ∈ lw_tbl := lw_at lw_m7 78 rfl
theorem q1654 : (Jvm.Cond.instanceMethod ({ cls := "OnePassportModel", name := "personLine", desc := "()V" } : Jvm.MethodName)) ∈ lw_all := lw_g (lw_at lw_m7 79 rfl) rfl
theorem q1655 : (Jvm.Cond.code ({ cls := "OnePassportModel", name := "personLine", desc := "()V" } : Jvm.MethodName) prog_11_method_27_code (4 : Nat) (Option.none : Option Jvm.ClassFile.FieldType)) ∈ lw_all := lw_g (lw_at lw_m7 80 rfl) rfl
theorem q1656 : (Jvm.Cond.constantLong "OnePassportModel" (174 : Nat) (243059 : Int64)) ∈ lw_all := lw_g (lw_at lw_m7 81 rfl) rfl
theorem q1657 : (Jvm.Cond.constantLong "OnePassportModel" (179 : Nat) (287015 : Int64)) ∈ lw_all := lw_g (lw_at lw_m7 82 rfl) rfl
theorem q1658 : (Jvm.Cond.constantLong "OnePassportModel" (185 : Nat) (1758676 : Int64)) ∈ lw_all := lw_g (lw_at lw_m7 83 rfl) rfl
theorem q1659 : (Jvm.Cond.constantLong "OnePassportModel" (187 : Nat) (10492462 : Int64)) ∈ lw_all := lw_g (lw_at lw_m7 84 rfl) rfl
theorem q1660 : (Jvm.Cond.methodLink "OnePassportModel" (189 : Nat) ({ cls := "OnePassportModel", name := "isBit", desc := "(II)Z" } : Jvm.MethodName)) ∈ lw_all := lw_g (lw_at lw_m7 85 rfl) rfl
theorem q1661 : (Jvm.Cond.static ({ cls := "OnePassportModel", name := "isBit", desc := "(II)Z" } : Jvm.MethodName)) ∈ lw_all := lw_g (lw_at lw_m7 86 rfl) rfl
theorem q1662 : (Jvm.Cond.code ({ cls := "OnePassportModel", name := "isBit", desc := "(II)Z" } : Jvm.MethodName) prog_11_method_36_code (2 : Nat) (Option.some Jvm.ClassFile.FieldType.boolean)) ∈ lw_all := lw_g (lw_at lw_m7 87 rfl) rfl
theorem q1663 : (Jvm.Cond.constantLong "OnePassportModel" (204 : Nat) (283619009 : Int64)) ∈ lw_all := lw_g (lw_at lw_m7 88 rfl) rfl
theorem q1664 : (Jvm.Cond.constantLong "OnePassportModel" (206 : Nat) (220307 : Int64)) ∈ lw_all := lw_g (lw_at lw_m7 89 rfl) rfl
theorem q1665 : (Jvm.Cond.constantLong "OnePassportModel" (208 : Nat) (6683788 : Int64)) ∈ lw_all := lw_g (lw_at lw_m7 90 rfl) rfl
theorem q1666 : (Jvm.Cond.methodLink "OnePassportModel" (225 : Nat) ({ cls := "OnePassportModel", name := "ends", desc := "()V" } : Jvm.MethodName)) ∈ lw_all := lw_g (lw_at lw_m7 91 rfl) rfl
theorem q1667 : (Jvm.Cond.privateMethod ({ cls := "OnePassportModel", name := "ends", desc := "()V" } : Jvm.MethodName)) ∈ lw_tbl := lw_at lw_m7 92 rfl
theorem q1668 : (Jvm.Cond.instanceMethod ({ cls := "OnePassportModel", name := "ends", desc := "()V" } : Jvm.MethodName)) ∈ lw_all := lw_g (lw_at lw_m7 93 rfl) rfl
theorem q1669 : (Jvm.Cond.code ({ cls := "OnePassportModel", name := "ends", desc := "()V" } : Jvm.MethodName) prog_11_method_21_code (1 : Nat) (Option.none : Option Jvm.ClassFile.FieldType)) ∈ lw_all := lw_g (lw_at lw_m7 94 rfl) rfl
theorem q1670 : (Jvm.Cond.methodLink "OnePassportModel" (228 : Nat) ({ cls := "OnePassportModel", name := "isOver", desc := "()V" } : Jvm.MethodName)) ∈ lw_all := lw_g (lw_at lw_m7 95 rfl) rfl
theorem q1671 : (Jvm.Cond.privateMethod ({ cls := "OnePassportModel", name := "isOver", desc := "()V" } : Jvm.MethodName)) ∈ lw_tbl := lw_at lw_m7 96 rfl
theorem q1672 : (Jvm.Cond.instanceMethod ({ cls := "OnePassportModel", name := "isOver", desc := "()V" } : Jvm.MethodName)) ∈ lw_all := lw_g (lw_at lw_m7 97 rfl) rfl
theorem q1673 : (Jvm.Cond.code ({ cls := "OnePassportModel", name := "isOver", desc := "()V" } : Jvm.MethodName) prog_11_method_23_code (1 : Nat) (Option.none : Option Jvm.ClassFile.FieldType)) ∈ lw_all := lw_g (lw_at lw_m7 98 rfl) rfl
theorem q1674 : (Jvm.Cond.methodLink "OnePassportModel" (231 : Nat) ({ cls := "OnePassportModel", name := "copyFamily", desc := "(II)V" } : Jvm.MethodName)) ∈ lw_all := lw_g (lw_at lw_m7 99 rfl) rfl
theorem q1675 : (Jvm.Cond.privateMethod ({ cls := "OnePassportModel", name := "copyFamily", desc := "(II)V" } : Jvm.MethodName)) ∈ lw_tbl := lw_at lw_m7 100 rfl
theorem q1676 : (Jvm.Cond.instanceMethod ({ cls := "OnePassportModel", name := "copyFamily", desc := "(II)V" } : Jvm.MethodName)) ∈ lw_all := lw_g (lw_at lw_m7 101 rfl) rfl
theorem q1677 : (Jvm.Cond.code ({ cls := "OnePassportModel", name := "copyFamily", desc := "(II)V" } : Jvm.MethodName) prog_11_method_32_code (3 : Nat) (Option.none : Option Jvm.ClassFile.FieldType)) ∈ lw_all := lw_g (lw_at lw_m7 102 rfl) rfl
theorem q1678 : (Jvm.Cond.methodLink "OnePassportModel" (234 : Nat) ({ cls := "OnePassportModel", name := "copyRow", desc := "([IIII)V" } : Jvm.MethodName)) ∈ lw_all := lw_g (lw_at lw_m7 103 rfl) rfl
theorem q1679 : (Jvm.Cond.static ({ cls := "OnePassportModel", name := "copyRow", desc := "([IIII)V" } : Jvm.MethodName)) ∈ lw_all := lw_g (lw_at lw_m7 104 rfl) rfl
theorem q1680 : (Jvm.Cond.code ({ cls := "OnePassportModel", name := "copyRow", desc := "([IIII)V" } : Jvm.MethodName) prog_11_method_31_code (5 : Nat) (Option.none : Option Jvm.ClassFile.FieldType)) ∈ lw_all := lw_g (lw_at lw_m7 105 rfl) rfl
theorem q1682 : (Jvm.Cond.instanceMethod ({ cls := "OnePassportModel", name := "person", desc := "(II)I" } : Jvm.MethodName)) ∈ lw_all := lw_g (lw_at lw_m7 107 rfl) rfl
theorem q1683 : (Jvm.Cond.selects "OnePassportModel" ({ cls := "OnePassportModel", name := "person", desc := "(II)I" } : Jvm.MethodName) ({ cls := "OnePassportModel", name := "person", desc := "(II)I" } : Jvm.MethodName)) ∈ lw_all := lw_g (lw_at lw_m7 108 rfl) rfl
theorem q1684 : (Jvm.Cond.code ({ cls := "OnePassportModel", name := "person", desc := "(II)I" } : Jvm.MethodName) prog_11_method_56_code (3 : Nat) (Option.some Jvm.ClassFile.FieldType.int)) ∈ lw_all := lw_g (lw_at lw_m7 109 rfl) rfl
theorem q1685 : (Jvm.Cond.methodLink "OnePassportModel" (312 : Nat) ({ cls := "OnePassportModel", name := "isPerson", desc := "(I)Z" } : Jvm.MethodName)) ∈ lw_all := lw_g (lw_at lw_m7 110 rfl) rfl
theorem q1686 : (Jvm.Cond.privateMethod ({ cls := "OnePassportModel", name := "isPerson", desc := "(I)Z" } : Jvm.MethodName)) ∈ lw_tbl := lw_at lw_m7 111 rfl
theorem q1687 : (Jvm.Cond.instanceMethod ({ cls := "OnePassportModel", name := "isPerson", desc := "(I)Z" } : Jvm.MethodName)) ∈ lw_all := lw_g (lw_at lw_m7 112 rfl) rfl
theorem q1688 : (Jvm.Cond.code ({ cls := "OnePassportModel", name := "isPerson", desc := "(I)Z" } : Jvm.MethodName) prog_11_method_34_code (2 : Nat) (Option.some Jvm.ClassFile.FieldType.boolean)) ∈ lw_all := lw_g (lw_at lw_m7 113 rfl) rfl
theorem q1689 : (Jvm.Cond.constantLong "OnePassportModel" (315 : Nat) (4 : Int64)) ∈ lw_all := lw_g (lw_at lw_m7 114 rfl) rfl
theorem q1690 : (Jvm.Cond.methodLink "OnePassportModel" (317 : Nat) ({ cls := "OnePassportModel", name := "lays", desc := "()V" } : Jvm.MethodName)) ∈ lw_all := lw_g (lw_at lw_m7 115 rfl) rfl
theorem q1691 : (Jvm.Cond.privateMethod ({ cls := "OnePassportModel", name := "lays", desc := "()V" } : Jvm.MethodName)) ∈ lw_tbl := lw_at lw_m7 116 rfl
theorem q1692 : (Jvm.Cond.instanceMethod ({ cls := "OnePassportModel", name := "lays", desc := "()V" } : Jvm.MethodName)) ∈ lw_all := lw_g (lw_at lw_m7 117 rfl) rfl
theorem q1693 : (Jvm.Cond.code ({ cls := "OnePassportModel", name := "lays", desc := "()V" } : Jvm.MethodName) prog_11_method_54_code (2 : Nat) (Option.none : Option Jvm.ClassFile.FieldType)) ∈ lw_all := lw_g (lw_at lw_m7 118 rfl) rfl
theorem q1694 : (Jvm.Cond.methodLink "OnePassportModel" (306 : Nat) ({ cls := "OnePassportModel", name := "start", desc := "()V" } : Jvm.MethodName)) ∈ lw_all := lw_g (lw_at lw_m7 119 rfl) rfl
theorem q1695 : (Jvm.Cond.privateMethod ({ cls := "OnePassportModel", name := "start", desc := "()V" } : Jvm.MethodName)) ∈ lw_tbl := lw_at lw_m7 120 rfl
theorem q1696 : (Jvm.Cond.instanceMethod ({ cls := "OnePassportModel", name := "start", desc := "()V" } : Jvm.MethodName)) ∈ lw_all := lw_g (lw_at lw_m7 121 rfl) rfl
theorem q1697 : (Jvm.Cond.code ({ cls := "OnePassportModel", name := "start", desc := "()V" } : Jvm.MethodName) prog_11_method_52_code (1 : Nat) (Option.none : Option Jvm.ClassFile.FieldType)) ∈ lw_all := lw_g (lw_at lw_m7 122 rfl) rfl
theorem q1698 : (Jvm.Cond.methodLink "OnePassportModel" (288 : Nat) ({ cls := "OnePassportModel", name := "begin", desc := "(I)V" } : Jvm.MethodName)) ∈ lw_all := lw_g (lw_at lw_m7 123 rfl) rfl
theorem q1699 : (Jvm.Cond.privateMethod ({ cls := "OnePassportModel", name := "begin", desc := "(I)V" } : Jvm.MethodName)) ∈ lw_tbl := lw_at lw_m7 124 rfl
theorem q1700 : (Jvm.Cond.instanceMethod ({ cls := "OnePassportModel", name := "begin", desc := "(I)V" } : Jvm.MethodName)) ∈ lw_all := lw_g (lw_at lw_m7 125 rfl) rfl
theorem q1701 : (Jvm.Cond.code ({ cls := "OnePassportModel", name := "begin", desc := "(I)V" } : Jvm.MethodName) prog_11_method_40_code (2 : Nat) (Option.none : Option Jvm.ClassFile.FieldType)) ∈ lw_all := lw_g (lw_at lw_m7 126 rfl) rfl
theorem q1702 : (Jvm.Cond.methodLink "OnePassportModel" (309 : Nat) ({ cls := "OnePassportModel", name := "goes", desc := "(I)V" } : Jvm.MethodName)) ∈ lw_all := lw_g (lw_at lw_m7 127 rfl) rfl
theorem q1703 : (Jvm.Cond.privateMethod ({ cls := "OnePassportModel", name := "goes", desc := "(I)V" } : Jvm.MethodName)) ∈ lw_tbl := lw_at lw_m7 128 rfl
theorem q1704 : (Jvm.Cond.instanceMethod ({ cls := "OnePassportModel", name := "goes", desc := "(I)V" } : Jvm.MethodName)) ∈ lw_all := lw_g (lw_at lw_m7 129 rfl) rfl
theorem q1705 : (Jvm.Cond.code ({ cls := "OnePassportModel", name := "goes", desc := "(I)V" } : Jvm.MethodName) prog_11_method_53_code (2 : Nat) (Option.none : Option Jvm.ClassFile.FieldType)) ∈ lw_all := lw_g (lw_at lw_m7 130 rfl) rfl
theorem q1706 : (Jvm.Cond.methodLink "OnePassportModel" (300 : Nat) ({ cls := "OnePassportModel", name := "riskOf", desc := "(II)I" } : Jvm.MethodName)) ∈ lw_all := lw_g (lw_at lw_m7 131 rfl) rfl
theorem q1707 : (Jvm.Cond.privateMethod ({ cls := "OnePassportModel", name := "riskOf", desc := "(II)I" } : Jvm.MethodName)) ∈ lw_tbl := lw_at lw_m7 132 rfl
theorem q1708 : (Jvm.Cond.instanceMethod ({ cls := "OnePassportModel", name := "riskOf", desc := "(II)I" } : Jvm.MethodName)) ∈ lw_all := lw_g (lw_at lw_m7 133 rfl) rfl
theorem q1709 : (Jvm.Cond.code ({ cls := "OnePassportModel", name := "riskOf", desc := "(II)I" } : Jvm.MethodName) prog_11_method_38_code (3 : Nat) (Option.some Jvm.ClassFile.FieldType.int)) ∈ lw_all := lw_g (lw_at lw_m7 134 rfl) rfl
theorem q1710 : (Jvm.Cond.methodLink "OnePassportModel" (303 : Nat) ({ cls := "OnePassportModel", name := "does", desc := "(I)V" } : Jvm.MethodName)) ∈ lw_all := lw_g (lw_at lw_m7 135 rfl) rfl
theorem q1711 : (Jvm.Cond.privateMethod ({ cls := "OnePassportModel", name := "does", desc := "(I)V" } : Jvm.MethodName)) ∈ lw_tbl := lw_at lw_m7 136 rfl
theorem q1712 : (Jvm.Cond.instanceMethod ({ cls := "OnePassportModel", name := "does", desc := "(I)V" } : Jvm.MethodName)) ∈ lw_all := lw_g (lw_at lw_m7 137 rfl) rfl
theorem q1713 : (Jvm.Cond.code ({ cls := "OnePassportModel", name := "does", desc := "(I)V" } : Jvm.MethodName) prog_11_method_50_code (2 : Nat) (Option.none : Option Jvm.ClassFile.FieldType)) ∈ lw_all := lw_g (lw_at lw_m7 138 rfl) rfl
theorem q1714 : (Jvm.Cond.methodLink "OnePassportModel" (278 : Nat) ({ cls := "OnePassportModel", name := "crosses", desc := "(III)V" } : Jvm.MethodName)) ∈ lw_all := lw_g (lw_at lw_m7 139 rfl) rfl
theorem q1715 : (Jvm.Cond.privateMethod ({ cls := "OnePassportModel", name := "crosses", desc := "(III)V" } : Jvm.MethodName)) ∈ lw_tbl := lw_at lw_m7 140 rfl
theorem q1716 : (Jvm.Cond.instanceMethod ({ cls := "OnePassportModel", name := "crosses", desc := "(III)V" } : Jvm.MethodName)) ∈ lw_all := lw_g (lw_at lw_m7 141 rfl) rfl
theorem q1717 : (Jvm.Cond.code ({ cls := "OnePassportModel", name := "crosses", desc := "(III)V" } : Jvm.MethodName) prog_11_method_47_code (6 : Nat) (Option.none : Option Jvm.ClassFile.FieldType)) ∈ lw_all := lw_g (lw_at lw_m7 142 rfl) rfl
theorem q1718 : (Jvm.Cond.methodLink "OnePassportModel" (253 : Nat) ({ cls := "OnePassportModel", name := "sideOf", desc := "(I)I" } : Jvm.MethodName)) ∈ lw_all := lw_g (lw_at lw_m7 143 rfl) rfl
theorem q1719 : (Jvm.Cond.privateMethod ({ cls := "OnePassportModel", name := "sideOf", desc := "(I)I" } : Jvm.MethodName)) ∈ lw_tbl := lw_at lw_m7 144 rfl
theorem q1720 : (Jvm.Cond.instanceMethod ({ cls := "OnePassportModel", name := "sideOf", desc := "(I)I" } : Jvm.MethodName)) ∈ lw_all := lw_g (lw_at lw_m7 145 rfl) rfl
theorem q1721 : (Jvm.Cond.code ({ cls := "OnePassportModel", name := "sideOf", desc := "(I)I" } : Jvm.MethodName) prog_11_method_43_code (2 : Nat) (Option.some Jvm.ClassFile.FieldType.int)) ∈ lw_all := lw_g (lw_at lw_m7 146 rfl) rfl
theorem q1722 : (Jvm.Cond.methodLink "OnePassportModel" (266 : Nat) ({ cls := "OnePassportModel", name := "marks", desc := "(I)V" } : Jvm.MethodName)) ∈ lw_all := lw_g (lw_at lw_m7 147 rfl) rfl
theorem q1723 : (Jvm.Cond.privateMethod ({ cls := "OnePassportModel", name := "marks", desc := "(I)V" } : Jvm.MethodName)) ∈ lw_tbl := lw_at lw_m7 148 rfl
theorem q1724 : (Jvm.Cond.instanceMethod ({ cls := "OnePassportModel", name := "marks", desc := "(I)V" } : Jvm.MethodName)) ∈ lw_all := lw_g (lw_at lw_m7 149 rfl) rfl
theorem q1725 : (Jvm.Cond.code ({ cls := "OnePassportModel", name := "marks", desc := "(I)V" } : Jvm.MethodName) prog_11_method_46_code (5 : Nat) (Option.none : Option Jvm.ClassFile.FieldType)) ∈ lw_all := lw_g (lw_at lw_m7 150 rfl) rfl
theorem q1727 : (Jvm.Cond.instanceMethod ({ cls := "OnePassportModel", name := "post", desc := "(II)I" } : Jvm.MethodName)) ∈ lw_all := lw_g (lw_at lw_m7 152 rfl) rfl
theorem q1728 : (Jvm.Cond.selects "OnePassportModel" ({ cls := "OnePassportModel", name := "post", desc := "(II)I" } : Jvm.MethodName) ({ cls := "OnePassportModel", name := "post", desc := "(II)I" } : Jvm.MethodName)) ∈ lw_all := lw_g (lw_at lw_m7 153 rfl) rfl
theorem q1729 : (Jvm.Cond.code ({ cls := "OnePassportModel", name := "post", desc := "(II)I" } : Jvm.MethodName) prog_11_method_57_code (3 : Nat) (Option.some Jvm.ClassFile.FieldType.int)) ∈ lw_all := lw_g (lw_at lw_m7 154 rfl) rfl
theorem q1730 : (Jvm.Cond.methodLink "OnePassportModel" (320 : Nat) ({ cls := "OnePassportModel", name := "isPost", desc := "(I)Z" } : Jvm.MethodName)) ∈ lw_all := lw_g (lw_at lw_m7 155 rfl) rfl
theorem q1731 : (Jvm.Cond.privateMethod ({ cls := "OnePassportModel", name := "isPost", desc := "(I)Z" } : Jvm.MethodName)) ∈ lw_tbl := lw_at lw_m7 156 rfl
theorem q1732 : (Jvm.Cond.instanceMethod ({ cls := "OnePassportModel", name := "isPost", desc := "(I)Z" } : Jvm.MethodName)) ∈ lw_all := lw_g (lw_at lw_m7 157 rfl) rfl
theorem q1733 : (Jvm.Cond.code ({ cls := "OnePassportModel", name := "isPost", desc := "(I)Z" } : Jvm.MethodName) prog_11_method_35_code (2 : Nat) (Option.some Jvm.ClassFile.FieldType.boolean)) ∈ lw_all := lw_g (lw_at lw_m7 158 rfl) rfl
theorem q1735 : (Jvm.Cond.instanceMethod ({ cls := "OnePassportModel", name := "risk", desc := "(II)I" } : Jvm.MethodName)) ∈ lw_all := lw_g (lw_at lw_m7 160 rfl) rfl
theorem q1736 : (Jvm.Cond.selects "OnePassportModel" ({ cls := "OnePassportModel", name := "risk", desc := "(II)I" } : Jvm.MethodName) ({ cls := "OnePassportModel", name := "risk", desc := "(II)I" } : Jvm.MethodName)) ∈ lw_all := lw_g (lw_at lw_m7 161 rfl) rfl
theorem q1737 : (Jvm.Cond.code ({ cls := "OnePassportModel", name := "risk", desc := "(II)I" } : Jvm.MethodName) prog_11_method_58_code (3 : Nat) (Option.some Jvm.ClassFile.FieldType.int)) ∈ lw_all := lw_g (lw_at lw_m7 162 rfl) rfl
theorem q1739 : (Jvm.Cond.instanceMethod ({ cls := "OnePassportModel", name := "after", desc := "(II)I" } : Jvm.MethodName)) ∈ lw_all := lw_g (lw_at lw_m7 164 rfl) rfl
theorem q1740 : (Jvm.Cond.selects "OnePassportModel" ({ cls := "OnePassportModel", name := "after", desc := "(II)I" } : Jvm.MethodName) ({ cls := "OnePassportModel", name := "after", desc := "(II)I" } : Jvm.MethodName)) ∈ lw_all := lw_g (lw_at lw_m7 165 rfl) rfl
theorem q1741 : (Jvm.Cond.code ({ cls := "OnePassportModel", name := "after", desc := "(II)I" } : Jvm.MethodName) prog_11_method_59_code (5 : Nat) (Option.some Jvm.ClassFile.FieldType.int)) ∈ lw_all := lw_g (lw_at lw_m7 166 rfl) rfl
theorem q1742 : (Jvm.Cond.methodLink "OnePassportModel" (256 : Nat) ({ cls := "OnePassportModel", name := "noses", desc := "(III)Z" } : Jvm.MethodName)) ∈ lw_all := lw_g (lw_at lw_m7 167 rfl) rfl
theorem q1743 : (Jvm.Cond.privateMethod ({ cls := "OnePassportModel", name := "noses", desc := "(III)Z" } : Jvm.MethodName)) ∈ lw_tbl := lw_at lw_m7 168 rfl
theorem q1744 : (Jvm.Cond.instanceMethod ({ cls := "OnePassportModel", name := "noses", desc := "(III)Z" } : Jvm.MethodName)) ∈ lw_all := lw_g (lw_at lw_m7 169 rfl) rfl
theorem q1745 : (Jvm.Cond.code ({ cls := "OnePassportModel", name := "noses", desc := "(III)Z" } : Jvm.MethodName) prog_11_method_41_code (5 : Nat) (Option.some Jvm.ClassFile.FieldType.boolean)) ∈ lw_all := lw_g (lw_at lw_m7 170 rfl) rfl
theorem q1747 : (Jvm.Cond.instanceMethod ({ cls := "OnePassportModel", name := "now", desc := "(I)I" } : Jvm.MethodName)) ∈ lw_all := lw_g (lw_at lw_m7 172 rfl) rfl
theorem q1748 : (Jvm.Cond.selects "OnePassportModel" ({ cls := "OnePassportModel", name := "now", desc := "(I)I" } : Jvm.MethodName) ({ cls := "OnePassportModel", name := "now", desc := "(I)I" } : Jvm.MethodName)) ∈ lw_all := lw_g (lw_at lw_m7 173 rfl) rfl
theorem q1749 : (Jvm.Cond.code ({ cls := "OnePassportModel", name := "now", desc := "(I)I" } : Jvm.MethodName) prog_11_method_60_code (2 : Nat) (Option.some Jvm.ClassFile.FieldType.int)) ∈ lw_all := lw_g (lw_at lw_m7 174 rfl) rfl
theorem q1750 : (Jvm.Cond.methodLink "OnePassportModel" (323 : Nat) ({ cls := "OnePassportModel", name := "isFamily", desc := "()Z" } : Jvm.MethodName)) ∈ lw_all := lw_g (lw_at lw_m7 175 rfl) rfl
theorem q1751 : (Jvm.Cond.privateMethod ({ cls := "OnePassportModel", name := "isFamily", desc := "()Z" } : Jvm.MethodName)) ∈ lw_tbl := lw_at lw_m7 176 rfl
theorem q1752 : (Jvm.Cond.instanceMethod ({ cls := "OnePassportModel", name := "isFamily", desc := "()Z" } : Jvm.MethodName)) ∈ lw_all := lw_g (lw_at lw_m7 177 rfl) rfl
theorem q1753 : (Jvm.Cond.code ({ cls := "OnePassportModel", name := "isFamily", desc := "()Z" } : Jvm.MethodName) prog_11_method_33_code (1 : Nat) (Option.some Jvm.ClassFile.FieldType.boolean)) ∈ lw_all := lw_g (lw_at lw_m7 178 rfl) rfl
theorem q1755 : (Jvm.Cond.instanceMethod ({ cls := "OnePassportModel", name := "stamp", desc := "(I)I" } : Jvm.MethodName)) ∈ lw_all := lw_g (lw_at lw_m7 180 rfl) rfl
theorem q1756 : (Jvm.Cond.selects "OnePassportModel" ({ cls := "OnePassportModel", name := "stamp", desc := "(I)I" } : Jvm.MethodName) ({ cls := "OnePassportModel", name := "stamp", desc := "(I)I" } : Jvm.MethodName)) ∈ lw_all := lw_g (lw_at lw_m7 181 rfl) rfl
theorem q1757 : (Jvm.Cond.code ({ cls := "OnePassportModel", name := "stamp", desc := "(I)I" } : Jvm.MethodName) prog_11_method_61_code (2 : Nat) (Option.some Jvm.ClassFile.FieldType.int)) ∈ lw_all := lw_g (lw_at lw_m7 182 rfl) rfl
theorem q1759 : (Jvm.Cond.instanceMethod ({ cls := "OnePassportModel", name := "lies", desc := "()I" } : Jvm.MethodName)) ∈ lw_all := lw_g (lw_at lw_m7 184 rfl) rfl
theorem q1760 : (Jvm.Cond.selects "OnePassportModel" ({ cls := "OnePassportModel", name := "lies", desc := "()I" } : Jvm.MethodName) ({ cls := "OnePassportModel", name := "lies", desc := "()I" } : Jvm.MethodName)) ∈ lw_all := lw_g (lw_at lw_m7 185 rfl) rfl
theorem q1761 : (Jvm.Cond.code ({ cls := "OnePassportModel", name := "lies", desc := "()I" } : Jvm.MethodName) prog_11_method_62_code (1 : Nat) (Option.some Jvm.ClassFile.FieldType.int)) ∈ lw_all := lw_g (lw_at lw_m7 186 rfl) rfl
theorem q1762 : (Jvm.Cond.methodLink "OnePassportModel" (326 : Nat) ({ cls := "OnePassportModel", name := "liesNow", desc := "()I" } : Jvm.MethodName)) ∈ lw_all := lw_g (lw_at lw_m7 187 rfl) rfl
theorem q1763 : (Jvm.Cond.privateMethod ({ cls := "OnePassportModel", name := "liesNow", desc := "()I" } : Jvm.MethodName)) ∈ lw_tbl := lw_at lw_m7 188 rfl
theorem q1764 : (Jvm.Cond.instanceMethod ({ cls := "OnePassportModel", name := "liesNow", desc := "()I" } : Jvm.MethodName)) ∈ lw_all := lw_g (lw_at lw_m7 189 rfl) rfl
theorem q1765 : (Jvm.Cond.code ({ cls := "OnePassportModel", name := "liesNow", desc := "()I" } : Jvm.MethodName) prog_11_method_55_code (3 : Nat) (Option.some Jvm.ClassFile.FieldType.int)) ∈ lw_all := lw_g (lw_at lw_m7 190 rfl) rfl
theorem q1767 : (Jvm.Cond.instanceMethod ({ cls := "OnePassportModel", name := "why", desc := "(III)I" } : Jvm.MethodName)) ∈ lw_all := lw_g (lw_at lw_m7 192 rfl) rfl
theorem q1768 : (Jvm.Cond.selects "OnePassportModel" ({ cls := "OnePassportModel", name := "why", desc := "(III)I" } : Jvm.MethodName) ({ cls := "OnePassportModel", name := "why", desc := "(III)I" } : Jvm.MethodName)) ∈ lw_all := lw_g (lw_at lw_m7 193 rfl) rfl
theorem q1769 : (Jvm.Cond.code ({ cls := "OnePassportModel", name := "why", desc := "(III)I" } : Jvm.MethodName) prog_11_method_64_code (4 : Nat) (Option.some Jvm.ClassFile.FieldType.int)) ∈ lw_all := lw_g (lw_at lw_m7 194 rfl) rfl
theorem q1770 : (Jvm.Cond.methodLink "OnePassportModel" (330 : Nat) ({ cls := "OnePassportModel", name := "isCrossing", desc := "(III)Z" } : Jvm.MethodName)) ∈ lw_all := lw_g (lw_at lw_m7 195 rfl) rfl
theorem q1771 : (Jvm.Cond.privateMethod ({ cls := "OnePassportModel", name := "isCrossing", desc := "(III)Z" } : Jvm.MethodName)) ∈ lw_tbl := lw_at lw_m7 196 rfl
theorem q1772 : (Jvm.Cond.instanceMethod ({ cls := "OnePassportModel", name := "isCrossing", desc := "(III)Z" } : Jvm.MethodName)) ∈ lw_all := lw_g (lw_at lw_m7 197 rfl) rfl
theorem q1773 : (Jvm.Cond.code ({ cls := "OnePassportModel", name := "isCrossing", desc := "(III)Z" } : Jvm.MethodName) prog_11_method_63_code (4 : Nat) (Option.some Jvm.ClassFile.FieldType.boolean)) ∈ lw_all := lw_g (lw_at lw_m7 198 rfl) rfl
theorem q1774 : (Jvm.Cond.methodLink "OnePassportModel" (274 : Nat) ({ cls := "OnePassportModel", name := "whyOf", desc := "(III)I" } : Jvm.MethodName)) ∈ lw_all := lw_g (lw_at lw_m7 199 rfl) rfl
theorem q1775 : (Jvm.Cond.privateMethod ({ cls := "OnePassportModel", name := "whyOf", desc := "(III)I" } : Jvm.MethodName)) ∈ lw_tbl := lw_at lw_m7 200 rfl
theorem q1776 : (Jvm.Cond.instanceMethod ({ cls := "OnePassportModel", name := "whyOf", desc := "(III)I" } : Jvm.MethodName)) ∈ lw_all := lw_g (lw_at lw_m7 201 rfl) rfl
theorem q1777 : (Jvm.Cond.code ({ cls := "OnePassportModel", name := "whyOf", desc := "(III)I" } : Jvm.MethodName) prog_11_method_45_code (4 : Nat) (Option.some Jvm.ClassFile.FieldType.int)) ∈ lw_all := lw_g (lw_at lw_m7 202 rfl) rfl
theorem q1778 : (Jvm.Cond.methodLink "OnePassportModel" (262 : Nat) ({ cls := "OnePassportModel", name := "whyElse", desc := "(IIII)I" } : Jvm.MethodName)) ∈ lw_all := lw_g (lw_at lw_m7 203 rfl) rfl
theorem q1779 : (Jvm.Cond.privateMethod ({ cls := "OnePassportModel", name := "whyElse", desc := "(IIII)I" } : Jvm.MethodName)) ∈ lw_tbl := lw_at lw_m7 204 rfl
theorem q1780 : (Jvm.Cond.instanceMethod ({ cls := "OnePassportModel", name := "whyElse", desc := "(IIII)I" } : Jvm.MethodName)) ∈ lw_all := lw_g (lw_at lw_m7 205 rfl) rfl
theorem q1781 : (Jvm.Cond.code ({ cls := "OnePassportModel", name := "whyElse", desc := "(IIII)I" } : Jvm.MethodName) prog_11_method_44_code (5 : Nat) (Option.some Jvm.ClassFile.FieldType.int)) ∈ lw_all := lw_g (lw_at lw_m7 206 rfl) rfl
theorem q1782 : (Jvm.Cond.methodLink "OnePassportModel" (259 : Nat) ({ cls := "OnePassportModel", name := "stamps", desc := "(II)Z" } : Jvm.MethodName)) ∈ lw_all := lw_g (lw_at lw_m7 207 rfl) rfl
theorem q1783 : (Jvm.Cond.privateMethod ({ cls := "OnePassportModel", name := "stamps", desc := "(II)Z" } : Jvm.MethodName)) ∈ lw_tbl := lw_at lw_m7 208 rfl
theorem q1784 : (Jvm.Cond.instanceMethod ({ cls := "OnePassportModel", name := "stamps", desc := "(II)Z" } : Jvm.MethodName)) ∈ lw_all := lw_g (lw_at lw_m7 209 rfl) rfl
theorem q1785 : (Jvm.Cond.code ({ cls := "OnePassportModel", name := "stamps", desc := "(II)Z" } : Jvm.MethodName) prog_11_method_42_code (7 : Nat) (Option.some Jvm.ClassFile.FieldType.boolean)) ∈ lw_all := lw_g (lw_at lw_m7 210 rfl) rfl
theorem q1787 : (Jvm.Cond.instanceMethod ({ cls := "OnePassportModel", name := "cross", desc := "(III)I" } : Jvm.MethodName)) ∈ lw_all := lw_g (lw_at lw_m7 212 rfl) rfl
theorem q1788 : (Jvm.Cond.selects "OnePassportModel" ({ cls := "OnePassportModel", name := "cross", desc := "(III)I" } : Jvm.MethodName) ({ cls := "OnePassportModel", name := "cross", desc := "(III)I" } : Jvm.MethodName)) ∈ lw_all := lw_g (lw_at lw_m7 213 rfl) rfl
theorem q1789 : (Jvm.Cond.code ({ cls := "OnePassportModel", name := "cross", desc := "(III)I" } : Jvm.MethodName) prog_11_method_66_code (4 : Nat) (Option.some Jvm.ClassFile.FieldType.int)) ∈ lw_all := lw_g (lw_at lw_m7 214 rfl) rfl
theorem q1790 : (Jvm.Cond.methodLink "OnePassportModel" (333 : Nat) ({ cls := "OnePassportModel", name := "adds", desc := "(I)I" } : Jvm.MethodName)) ∈ lw_all := lw_g (lw_at lw_m7 215 rfl) rfl
theorem q1791 : (Jvm.Cond.privateMethod ({ cls := "OnePassportModel", name := "adds", desc := "(I)I" } : Jvm.MethodName)) ∈ lw_tbl := lw_at lw_m7 216 rfl
theorem q1792 : (Jvm.Cond.instanceMethod ({ cls := "OnePassportModel", name := "adds", desc := "(I)I" } : Jvm.MethodName)) ∈ lw_all := lw_g (lw_at lw_m7 217 rfl) rfl
theorem q1793 : (Jvm.Cond.code ({ cls := "OnePassportModel", name := "adds", desc := "(I)I" } : Jvm.MethodName) prog_11_method_65_code (2 : Nat) (Option.some Jvm.ClassFile.FieldType.int)) ∈ lw_all := lw_g (lw_at lw_m7 218 rfl) rfl
theorem q1795 : (Jvm.Cond.instanceMethod ({ cls := "OnePassportModel", name := "loaf", desc := "()I" } : Jvm.MethodName)) ∈ lw_all := lw_g (lw_at lw_m7 220 rfl) rfl
theorem q1796 : (Jvm.Cond.selects "OnePassportModel" ({ cls := "OnePassportModel", name := "loaf", desc := "()I" } : Jvm.MethodName) ({ cls := "OnePassportModel", name := "loaf", desc := "()I" } : Jvm.MethodName)) ∈ lw_all := lw_g (lw_at lw_m7 221 rfl) rfl
theorem q1797 : (Jvm.Cond.code ({ cls := "OnePassportModel", name := "loaf", desc := "()I" } : Jvm.MethodName) prog_11_method_67_code (1 : Nat) (Option.some Jvm.ClassFile.FieldType.int)) ∈ lw_all := lw_g (lw_at lw_m7 222 rfl) rfl
theorem q1799 : (Jvm.Cond.instanceMethod ({ cls := "OnePassportModel", name := "undo", desc := "()I" } : Jvm.MethodName)) ∈ lw_all := lw_g (lw_at lw_m7 224 rfl) rfl
theorem q1800 : (Jvm.Cond.selects "OnePassportModel" ({ cls := "OnePassportModel", name := "undo", desc := "()I" } : Jvm.MethodName) ({ cls := "OnePassportModel", name := "undo", desc := "()I" } : Jvm.MethodName)) ∈ lw_all := lw_g (lw_at lw_m7 225 rfl) rfl
theorem q1801 : (Jvm.Cond.code ({ cls := "OnePassportModel", name := "undo", desc := "()I" } : Jvm.MethodName) prog_11_method_68_code (1 : Nat) (Option.some Jvm.ClassFile.FieldType.int)) ∈ lw_all := lw_g (lw_at lw_m7 226 rfl) rfl
theorem q1803 : (Jvm.Cond.instanceMethod ({ cls := "OnePassportModel", name := "anew", desc := "()I" } : Jvm.MethodName)) ∈ lw_all := lw_g (lw_at lw_m7 228 rfl) rfl
theorem q1804 : (Jvm.Cond.selects "OnePassportModel" ({ cls := "OnePassportModel", name := "anew", desc := "()I" } : Jvm.MethodName) ({ cls := "OnePassportModel", name := "anew", desc := "()I" } : Jvm.MethodName)) ∈ lw_all := lw_g (lw_at lw_m7 229 rfl) rfl
theorem q1805 : (Jvm.Cond.code ({ cls := "OnePassportModel", name := "anew", desc := "()I" } : Jvm.MethodName) prog_11_method_69_code (2 : Nat) (Option.some Jvm.ClassFile.FieldType.int)) ∈ lw_all := lw_g (lw_at lw_m7 230 rfl) rfl
theorem q1807 : (Jvm.Cond.instanceMethod ({ cls := "OnePassportModel", name := "act", desc := "(I)I" } : Jvm.MethodName)) ∈ lw_all := lw_g (lw_at lw_m7 232 rfl) rfl
theorem q1808 : (Jvm.Cond.selects "OnePassportModel" ({ cls := "OnePassportModel", name := "act", desc := "(I)I" } : Jvm.MethodName) ({ cls := "OnePassportModel", name := "act", desc := "(I)I" } : Jvm.MethodName)) ∈ lw_all := lw_g (lw_at lw_m7 233 rfl) rfl
theorem q1809 : (Jvm.Cond.code ({ cls := "OnePassportModel", name := "act", desc := "(I)I" } : Jvm.MethodName) prog_11_method_70_code (2 : Nat) (Option.some Jvm.ClassFile.FieldType.int)) ∈ lw_all := lw_g (lw_at lw_m7 234 rfl) rfl
theorem q1811 : (Jvm.Cond.instanceMethod ({ cls := "OnePassportModel", name := "acts", desc := "()I" } : Jvm.MethodName)) ∈ lw_all := lw_g (lw_at lw_m7 236 rfl) rfl
theorem q1812 : (Jvm.Cond.selects "OnePassportModel" ({ cls := "OnePassportModel", name := "acts", desc := "()I" } : Jvm.MethodName) ({ cls := "OnePassportModel", name := "acts", desc := "()I" } : Jvm.MethodName)) ∈ lw_all := lw_g (lw_at lw_m7 237 rfl) rfl
theorem q1813 : (Jvm.Cond.code ({ cls := "OnePassportModel", name := "acts", desc := "()I" } : Jvm.MethodName) prog_11_method_71_code (3 : Nat) (Option.some Jvm.ClassFile.FieldType.int)) ∈ lw_all := lw_g (lw_at lw_m7 238 rfl) rfl
theorem q1814 : (Jvm.Cond.methodLink "OnePassportModel" (336 : Nat) ({ cls := "OnePassportModel", name := "nextAct", desc := "(I)I" } : Jvm.MethodName)) ∈ lw_all := lw_g (lw_at lw_m7 239 rfl) rfl
theorem q1815 : (Jvm.Cond.privateMethod ({ cls := "OnePassportModel", name := "nextAct", desc := "(I)I" } : Jvm.MethodName)) ∈ lw_tbl := lw_at lw_m8 0 rfl
theorem q1816 : (Jvm.Cond.instanceMethod ({ cls := "OnePassportModel", name := "nextAct", desc := "(I)I" } : Jvm.MethodName)) ∈ lw_all := lw_g (lw_at lw_m8 1 rfl) rfl
theorem q1817 : (Jvm.Cond.code ({ cls := "OnePassportModel", name := "nextAct", desc := "(I)I" } : Jvm.MethodName) prog_11_method_51_code (3 : Nat) (Option.some Jvm.ClassFile.FieldType.int)) ∈ lw_all := lw_g (lw_at lw_m8 2 rfl) rfl
theorem q1818 : (Jvm.Cond.methodLink "OnePassportModel" (282 : Nat) ({ cls := "OnePassportModel", name := "isActNumber", desc := "(J)Z" } : Jvm.MethodName)) ∈ lw_all := lw_g (lw_at lw_m8 3 rfl) rfl
theorem q1819 : (Jvm.Cond.privateMethod ({ cls := "OnePassportModel", name := "isActNumber", desc := "(J)Z" } : Jvm.MethodName)) ∈ lw_tbl := lw_at lw_m8 4 rfl
theorem q1820 : (Jvm.Cond.instanceMethod ({ cls := "OnePassportModel", name := "isActNumber", desc := "(J)Z" } : Jvm.MethodName)) ∈ lw_all := lw_g (lw_at lw_m8 5 rfl) rfl
theorem q1821 : (Jvm.Cond.code ({ cls := "OnePassportModel", name := "isActNumber", desc := "(J)Z" } : Jvm.MethodName) prog_11_method_48_code (3 : Nat) (Option.some Jvm.ClassFile.FieldType.boolean)) ∈ lw_all := lw_g (lw_at lw_m8 6 rfl) rfl
theorem q1822 : (Jvm.Cond.constantLong "OnePassportModel" (268 : Nat) (200 : Int64)) ∈ lw_all := lw_g (lw_at lw_m8 7 rfl) rfl
theorem q1823 : (Jvm.Cond.constantLong "OnePassportModel" (270 : Nat) (100 : Int64)) ∈ lw_all := lw_g (lw_at lw_m8 8 rfl) rfl
theorem q1824 : (Jvm.Cond.constantLong "OnePassportModel" (272 : Nat) (10 : Int64)) ∈ lw_all := lw_g (lw_at lw_m8 9 rfl) rfl
theorem q1825 : (Jvm.Cond.methodLink "OnePassportModel" (285 : Nat) ({ cls := "OnePassportModel", name := "mayAct", desc := "(I)Z" } : Jvm.MethodName)) ∈ lw_all := lw_g (lw_at lw_m8 10 rfl) rfl
theorem q1826 : (Jvm.Cond.privateMethod ({ cls := "OnePassportModel", name := "mayAct", desc := "(I)Z" } : Jvm.MethodName)) ∈ lw_tbl := lw_at lw_m8 11 rfl
theorem q1827 : (Jvm.Cond.instanceMethod ({ cls := "OnePassportModel", name := "mayAct", desc := "(I)Z" } : Jvm.MethodName)) ∈ lw_all := lw_g (lw_at lw_m8 12 rfl) rfl
theorem q1828 : (Jvm.Cond.code ({ cls := "OnePassportModel", name := "mayAct", desc := "(I)Z" } : Jvm.MethodName) prog_11_method_49_code (2 : Nat) (Option.some Jvm.ClassFile.FieldType.boolean)) ∈ lw_all := lw_g (lw_at lw_m8 13 rfl) rfl
theorem q1830 : (Jvm.Cond.instanceMethod ({ cls := "OnePassportModel", name := "may", desc := "(I)I" } : Jvm.MethodName)) ∈ lw_all := lw_g (lw_at lw_m8 15 rfl) rfl
theorem q1831 : (Jvm.Cond.selects "OnePassportModel" ({ cls := "OnePassportModel", name := "may", desc := "(I)I" } : Jvm.MethodName) ({ cls := "OnePassportModel", name := "may", desc := "(I)I" } : Jvm.MethodName)) ∈ lw_all := lw_g (lw_at lw_m8 16 rfl) rfl
theorem q1832 : (Jvm.Cond.code ({ cls := "OnePassportModel", name := "may", desc := "(I)I" } : Jvm.MethodName) prog_11_method_72_code (4 : Nat) (Option.some Jvm.ClassFile.FieldType.int)) ∈ lw_all := lw_g (lw_at lw_m8 17 rfl) rfl
theorem q1834 : (Jvm.Cond.instanceMethod ({ cls := "OnePassportModel", name := "days", desc := "()I" } : Jvm.MethodName)) ∈ lw_all := lw_g (lw_at lw_m8 19 rfl) rfl
theorem q1835 : (Jvm.Cond.selects "OnePassportModel" ({ cls := "OnePassportModel", name := "days", desc := "()I" } : Jvm.MethodName) ({ cls := "OnePassportModel", name := "days", desc := "()I" } : Jvm.MethodName)) ∈ lw_all := lw_g (lw_at lw_m8 20 rfl) rfl
theorem q1836 : (Jvm.Cond.code ({ cls := "OnePassportModel", name := "days", desc := "()I" } : Jvm.MethodName) prog_11_method_81_code (2 : Nat) (Option.some Jvm.ClassFile.FieldType.int)) ∈ lw_all := lw_g (lw_at lw_m8 21 rfl) rfl
theorem q1837 : (Jvm.Cond.methodLink "OnePassportModel" (376 : Nat) ({ cls := "OnePassportModel", name := "seeksNow", desc := "(III)I" } : Jvm.MethodName)) ∈ lw_all := lw_g (lw_at lw_m8 22 rfl) rfl
theorem q1838 : (Jvm.Cond.privateMethod ({ cls := "OnePassportModel", name := "seeksNow", desc := "(III)I" } : Jvm.MethodName)) ∈ lw_tbl := lw_at lw_m8 23 rfl
theorem q1839 : (Jvm.Cond.instanceMethod ({ cls := "OnePassportModel", name := "seeksNow", desc := "(III)I" } : Jvm.MethodName)) ∈ lw_all := lw_g (lw_at lw_m8 24 rfl) rfl
theorem q1840 : (Jvm.Cond.code ({ cls := "OnePassportModel", name := "seeksNow", desc := "(III)I" } : Jvm.MethodName) prog_11_method_79_code (5 : Nat) (Option.some Jvm.ClassFile.FieldType.int)) ∈ lw_all := lw_g (lw_at lw_m8 25 rfl) rfl
theorem q1841 : (Jvm.Cond.methodLink "OnePassportModel" (342 : Nat) ({ cls := "OnePassportModel", name := "numberOf", desc := "()I" } : Jvm.MethodName)) ∈ lw_all := lw_g (lw_at lw_m8 26 rfl) rfl
theorem q1842 : (Jvm.Cond.privateMethod ({ cls := "OnePassportModel", name := "numberOf", desc := "()I" } : Jvm.MethodName)) ∈ lw_tbl := lw_at lw_m8 27 rfl
theorem q1843 : (Jvm.Cond.instanceMethod ({ cls := "OnePassportModel", name := "numberOf", desc := "()I" } : Jvm.MethodName)) ∈ lw_all := lw_g (lw_at lw_m8 28 rfl) rfl
theorem q1844 : (Jvm.Cond.code ({ cls := "OnePassportModel", name := "numberOf", desc := "()I" } : Jvm.MethodName) prog_11_method_39_code (1 : Nat) (Option.some Jvm.ClassFile.FieldType.int)) ∈ lw_all := lw_g (lw_at lw_m8 29 rfl) rfl
theorem q1845 : (Jvm.Cond.methodLink "OnePassportModel" (367 : Nat) ({ cls := "OnePassportModel", name := "explores", desc := "(I)V" } : Jvm.MethodName)) ∈ lw_all := lw_g (lw_at lw_m8 30 rfl) rfl
theorem q1846 : (Jvm.Cond.privateMethod ({ cls := "OnePassportModel", name := "explores", desc := "(I)V" } : Jvm.MethodName)) ∈ lw_tbl := lw_at lw_m8 31 rfl
theorem q1847 : (Jvm.Cond.instanceMethod ({ cls := "OnePassportModel", name := "explores", desc := "(I)V" } : Jvm.MethodName)) ∈ lw_all := lw_g (lw_at lw_m8 32 rfl) rfl
theorem q1848 : (Jvm.Cond.code ({ cls := "OnePassportModel", name := "explores", desc := "(I)V" } : Jvm.MethodName) prog_11_method_73_code (5 : Nat) (Option.none : Option Jvm.ClassFile.FieldType)) ∈ lw_all := lw_g (lw_at lw_m8 33 rfl) rfl
theorem q1849 : (Jvm.Cond.methodLink "OnePassportModel" (370 : Nat) ({ cls := "OnePassportModel", name := "seeks", desc := "(III)V" } : Jvm.MethodName)) ∈ lw_all := lw_g (lw_at lw_m8 34 rfl) rfl
theorem q1850 : (Jvm.Cond.privateMethod ({ cls := "OnePassportModel", name := "seeks", desc := "(III)V" } : Jvm.MethodName)) ∈ lw_tbl := lw_at lw_m8 35 rfl
theorem q1851 : (Jvm.Cond.instanceMethod ({ cls := "OnePassportModel", name := "seeks", desc := "(III)V" } : Jvm.MethodName)) ∈ lw_all := lw_g (lw_at lw_m8 36 rfl) rfl
theorem q1852 : (Jvm.Cond.code ({ cls := "OnePassportModel", name := "seeks", desc := "(III)V" } : Jvm.MethodName) prog_11_method_76_code (6 : Nat) (Option.none : Option Jvm.ClassFile.FieldType)) ∈ lw_all := lw_g (lw_at lw_m8 37 rfl) rfl
theorem q1853 : (Jvm.Cond.methodLink "OnePassportModel" (354 : Nat) ({ cls := "OnePassportModel", name := "isSought", desc := "()Z" } : Jvm.MethodName)) ∈ lw_all := lw_g (lw_at lw_m8 38 rfl) rfl
theorem q1854 : (Jvm.Cond.privateMethod ({ cls := "OnePassportModel", name := "isSought", desc := "()Z" } : Jvm.MethodName)) ∈ lw_tbl := lw_at lw_m8 39 rfl
theorem q1855 : (Jvm.Cond.instanceMethod ({ cls := "OnePassportModel", name := "isSought", desc := "()Z" } : Jvm.MethodName)) ∈ lw_all := lw_g (lw_at lw_m8 40 rfl) rfl
theorem q1856 : (Jvm.Cond.code ({ cls := "OnePassportModel", name := "isSought", desc := "()Z" } : Jvm.MethodName) prog_11_method_74_code (1 : Nat) (Option.some Jvm.ClassFile.FieldType.boolean)) ∈ lw_all := lw_g (lw_at lw_m8 41 rfl) rfl
theorem q1857 : (Jvm.Cond.constant "OnePassportModel" (357 : Nat) (2000000000 : Int32)) ∈ lw_all := lw_g (lw_at lw_m8 42 rfl) rfl
theorem q1858 : (Jvm.Cond.methodLink "OnePassportModel" (358 : Nat) ({ cls := "OnePassportModel", name := "betters", desc := "(I)Z" } : Jvm.MethodName)) ∈ lw_all := lw_g (lw_at lw_m8 43 rfl) rfl
theorem q1859 : (Jvm.Cond.privateMethod ({ cls := "OnePassportModel", name := "betters", desc := "(I)Z" } : Jvm.MethodName)) ∈ lw_tbl := lw_at lw_m8 44 rfl
theorem q1860 : (Jvm.Cond.instanceMethod ({ cls := "OnePassportModel", name := "betters", desc := "(I)Z" } : Jvm.MethodName)) ∈ lw_all := lw_g (lw_at lw_m8 45 rfl) rfl
theorem q1861 : (Jvm.Cond.code ({ cls := "OnePassportModel", name := "betters", desc := "(I)Z" } : Jvm.MethodName) prog_11_method_77_code (5 : Nat) (Option.some Jvm.ClassFile.FieldType.boolean)) ∈ lw_all := lw_g (lw_at lw_m8 46 rfl) rfl
theorem q1862 : (Jvm.Cond.methodLink "OnePassportModel" (361 : Nat) ({ cls := "OnePassportModel", name := "costBy", desc := "(I)I" } : Jvm.MethodName)) ∈ lw_all := lw_g (lw_at lw_m8 47 rfl) rfl
theorem q1863 : (Jvm.Cond.privateMethod ({ cls := "OnePassportModel", name := "costBy", desc := "(I)I" } : Jvm.MethodName)) ∈ lw_tbl := lw_at lw_m8 48 rfl
theorem q1864 : (Jvm.Cond.instanceMethod ({ cls := "OnePassportModel", name := "costBy", desc := "(I)I" } : Jvm.MethodName)) ∈ lw_all := lw_g (lw_at lw_m8 49 rfl) rfl
theorem q1865 : (Jvm.Cond.code ({ cls := "OnePassportModel", name := "costBy", desc := "(I)I" } : Jvm.MethodName) prog_11_method_78_code (3 : Nat) (Option.some Jvm.ClassFile.FieldType.int)) ∈ lw_all := lw_g (lw_at lw_m8 50 rfl) rfl
theorem q1866 : (Jvm.Cond.methodLink "OnePassportModel" (364 : Nat) ({ cls := "OnePassportModel", name := "costOf", desc := "(I)I" } : Jvm.MethodName)) ∈ lw_all := lw_g (lw_at lw_m8 51 rfl) rfl
theorem q1867 : (Jvm.Cond.privateMethod ({ cls := "OnePassportModel", name := "costOf", desc := "(I)I" } : Jvm.MethodName)) ∈ lw_tbl := lw_at lw_m8 52 rfl
theorem q1868 : (Jvm.Cond.instanceMethod ({ cls := "OnePassportModel", name := "costOf", desc := "(I)I" } : Jvm.MethodName)) ∈ lw_all := lw_g (lw_at lw_m8 53 rfl) rfl
theorem q1869 : (Jvm.Cond.code ({ cls := "OnePassportModel", name := "costOf", desc := "(I)I" } : Jvm.MethodName) prog_11_method_75_code (3 : Nat) (Option.some Jvm.ClassFile.FieldType.int)) ∈ lw_all := lw_g (lw_at lw_m8 54 rfl) rfl
theorem q1871 : (Jvm.Cond.instanceMethod ({ cls := "OnePassportModel", name := "plan", desc := "(I)I" } : Jvm.MethodName)) ∈ lw_all := lw_g (lw_at lw_m8 56 rfl) rfl
theorem q1872 : (Jvm.Cond.selects "OnePassportModel" ({ cls := "OnePassportModel", name := "plan", desc := "(I)I" } : Jvm.MethodName) ({ cls := "OnePassportModel", name := "plan", desc := "(I)I" } : Jvm.MethodName)) ∈ lw_all := lw_g (lw_at lw_m8 57 rfl) rfl
theorem q1873 : (Jvm.Cond.code ({ cls := "OnePassportModel", name := "plan", desc := "(I)I" } : Jvm.MethodName) prog_11_method_83_code (2 : Nat) (Option.some Jvm.ClassFile.FieldType.int)) ∈ lw_all := lw_g (lw_at lw_m8 58 rfl) rfl
theorem q1874 : (Jvm.Cond.methodLink "OnePassportModel" (382 : Nat) ({ cls := "OnePassportModel", name := "isRow", desc := "(I)Z" } : Jvm.MethodName)) ∈ lw_all := lw_g (lw_at lw_m8 59 rfl) rfl
theorem q1875 : (Jvm.Cond.privateMethod ({ cls := "OnePassportModel", name := "isRow", desc := "(I)Z" } : Jvm.MethodName)) ∈ lw_tbl := lw_at lw_m8 60 rfl
theorem q1876 : (Jvm.Cond.instanceMethod ({ cls := "OnePassportModel", name := "isRow", desc := "(I)Z" } : Jvm.MethodName)) ∈ lw_all := lw_g (lw_at lw_m8 61 rfl) rfl
theorem q1877 : (Jvm.Cond.code ({ cls := "OnePassportModel", name := "isRow", desc := "(I)Z" } : Jvm.MethodName) prog_11_method_82_code (2 : Nat) (Option.some Jvm.ClassFile.FieldType.boolean)) ∈ lw_all := lw_g (lw_at lw_m8 62 rfl) rfl
theorem q1878 : (Jvm.Cond.methodLink "OnePassportModel" (379 : Nat) ({ cls := "OnePassportModel", name := "laysRow", desc := "()V" } : Jvm.MethodName)) ∈ lw_all := lw_g (lw_at lw_m8 63 rfl) rfl
theorem q1879 : (Jvm.Cond.privateMethod ({ cls := "OnePassportModel", name := "laysRow", desc := "()V" } : Jvm.MethodName)) ∈ lw_tbl := lw_at lw_m8 64 rfl
theorem q1880 : (Jvm.Cond.instanceMethod ({ cls := "OnePassportModel", name := "laysRow", desc := "()V" } : Jvm.MethodName)) ∈ lw_all := lw_g (lw_at lw_m8 65 rfl) rfl
theorem q1881 : (Jvm.Cond.code ({ cls := "OnePassportModel", name := "laysRow", desc := "()V" } : Jvm.MethodName) prog_11_method_80_code (3 : Nat) (Option.none : Option Jvm.ClassFile.FieldType)) ∈ lw_all := lw_g (lw_at lw_m8 66 rfl) rfl
theorem q1883 : (Jvm.Cond.instanceMethod ({ cls := "OnePassportModel", name := "surest", desc := "()I" } : Jvm.MethodName)) ∈ lw_all := lw_g (lw_at lw_m8 68 rfl) rfl
theorem q1884 : (Jvm.Cond.selects "OnePassportModel" ({ cls := "OnePassportModel", name := "surest", desc := "()I" } : Jvm.MethodName) ({ cls := "OnePassportModel", name := "surest", desc := "()I" } : Jvm.MethodName)) ∈ lw_all := lw_g (lw_at lw_m8 69 rfl) rfl
theorem q1885 : (Jvm.Cond.code ({ cls := "OnePassportModel", name := "surest", desc := "()I" } : Jvm.MethodName) prog_11_method_84_code (2 : Nat) (Option.some Jvm.ClassFile.FieldType.int)) ∈ lw_all := lw_g (lw_at lw_m8 70 rfl) rfl
theorem q1887 : (Jvm.Cond.instanceMethod ({ cls := "OnePassportModel", name := "surely", desc := "(I)I" } : Jvm.MethodName)) ∈ lw_all := lw_g (lw_at lw_m8 72 rfl) rfl
theorem q1888 : (Jvm.Cond.selects "OnePassportModel" ({ cls := "OnePassportModel", name := "surely", desc := "(I)I" } : Jvm.MethodName) ({ cls := "OnePassportModel", name := "surely", desc := "(I)I" } : Jvm.MethodName)) ∈ lw_all := lw_g (lw_at lw_m8 73 rfl) rfl
theorem q1889 : (Jvm.Cond.code ({ cls := "OnePassportModel", name := "surely", desc := "(I)I" } : Jvm.MethodName) prog_11_method_85_code (2 : Nat) (Option.some Jvm.ClassFile.FieldType.int)) ∈ lw_all := lw_g (lw_at lw_m8 74 rfl) rfl
theorem q1891 : (Jvm.Cond.instanceMethod ({ cls := "OnePassportModel", name := "slowly", desc := "()I" } : Jvm.MethodName)) ∈ lw_all := lw_g (lw_at lw_m8 76 rfl) rfl
theorem q1892 : (Jvm.Cond.selects "OnePassportModel" ({ cls := "OnePassportModel", name := "slowly", desc := "()I" } : Jvm.MethodName) ({ cls := "OnePassportModel", name := "slowly", desc := "()I" } : Jvm.MethodName)) ∈ lw_all := lw_g (lw_at lw_m8 77 rfl) rfl
theorem q1893 : (Jvm.Cond.code ({ cls := "OnePassportModel", name := "slowly", desc := "()I" } : Jvm.MethodName) prog_11_method_86_code (2 : Nat) (Option.some Jvm.ClassFile.FieldType.int)) ∈ lw_all := lw_g (lw_at lw_m8 78 rfl) rfl
theorem q1895 : (Jvm.Cond.instanceMethod ({ cls := "OnePassportModel", name := "crossings", desc := "()I" } : Jvm.MethodName)) ∈ lw_all := lw_g (lw_at lw_m8 80 rfl) rfl
theorem q1896 : (Jvm.Cond.selects "OnePassportModel" ({ cls := "OnePassportModel", name := "crossings", desc := "()I" } : Jvm.MethodName) ({ cls := "OnePassportModel", name := "crossings", desc := "()I" } : Jvm.MethodName)) ∈ lw_all := lw_g (lw_at lw_m8 81 rfl) rfl
theorem q1897 : (Jvm.Cond.code ({ cls := "OnePassportModel", name := "crossings", desc := "()I" } : Jvm.MethodName) prog_11_method_87_code (2 : Nat) (Option.some Jvm.ClassFile.FieldType.int)) ∈ lw_all := lw_g (lw_at lw_m8 82 rfl) rfl
theorem q1899 : (Jvm.Cond.instanceMethod ({ cls := "OnePassportModel", name := "moves", desc := "()I" } : Jvm.MethodName)) ∈ lw_all := lw_g (lw_at lw_m8 84 rfl) rfl
theorem q1900 : (Jvm.Cond.selects "OnePassportModel" ({ cls := "OnePassportModel", name := "moves", desc := "()I" } : Jvm.MethodName) ({ cls := "OnePassportModel", name := "moves", desc := "()I" } : Jvm.MethodName)) ∈ lw_all := lw_g (lw_at lw_m8 85 rfl) rfl
theorem q1901 : (Jvm.Cond.code ({ cls := "OnePassportModel", name := "moves", desc := "()I" } : Jvm.MethodName) prog_11_method_88_code (2 : Nat) (Option.some Jvm.ClassFile.FieldType.int)) ∈ lw_all := lw_g (lw_at lw_m8 86 rfl) rfl
theorem q1903 : (Jvm.Cond.instanceMethod ({ cls := "OnePassportModel", name := "chance", desc := "(I)J" } : Jvm.MethodName)) ∈ lw_all := lw_g (lw_at lw_m8 88 rfl) rfl
theorem q1904 : (Jvm.Cond.selects "OnePassportModel" ({ cls := "OnePassportModel", name := "chance", desc := "(I)J" } : Jvm.MethodName) ({ cls := "OnePassportModel", name := "chance", desc := "(I)J" } : Jvm.MethodName)) ∈ lw_all := lw_g (lw_at lw_m8 89 rfl) rfl
theorem q1905 : (Jvm.Cond.code ({ cls := "OnePassportModel", name := "chance", desc := "(I)J" } : Jvm.MethodName) prog_11_method_90_code (8 : Nat) (Option.some Jvm.ClassFile.FieldType.long)) ∈ lw_all := lw_g (lw_at lw_m8 90 rfl) rfl
theorem q1906 : (Jvm.Cond.constantLong "OnePassportModel" (389 : Nat) (-2 : Int64)) ∈ lw_all := lw_g (lw_at lw_m8 91 rfl) rfl
theorem q1907 : (Jvm.Cond.methodLink "OnePassportModel" (385 : Nat) ({ cls := "OnePassportModel", name := "common", desc := "(JJ)J" } : Jvm.MethodName)) ∈ lw_all := lw_g (lw_at lw_m8 92 rfl) rfl
theorem q1908 : (Jvm.Cond.static ({ cls := "OnePassportModel", name := "common", desc := "(JJ)J" } : Jvm.MethodName)) ∈ lw_all := lw_g (lw_at lw_m8 93 rfl) rfl
theorem q1909 : (Jvm.Cond.code ({ cls := "OnePassportModel", name := "common", desc := "(JJ)J" } : Jvm.MethodName) prog_11_method_89_code (4 : Nat) (Option.some Jvm.ClassFile.FieldType.long)) ∈ lw_all := lw_g (lw_at lw_m8 94 rfl) rfl
theorem q1911 : (Jvm.Cond.instanceMethod ({ cls := "OnePassportModel", name := "states", desc := "()I" } : Jvm.MethodName)) ∈ lw_all := lw_g (lw_at lw_m8 96 rfl) rfl
theorem q1912 : (Jvm.Cond.selects "OnePassportModel" ({ cls := "OnePassportModel", name := "states", desc := "()I" } : Jvm.MethodName) ({ cls := "OnePassportModel", name := "states", desc := "()I" } : Jvm.MethodName)) ∈ lw_all := lw_g (lw_at lw_m8 97 rfl) rfl
theorem q1913 : (Jvm.Cond.code ({ cls := "OnePassportModel", name := "states", desc := "()I" } : Jvm.MethodName) prog_11_method_91_code (1 : Nat) (Option.some Jvm.ClassFile.FieldType.int)) ∈ lw_all := lw_g (lw_at lw_m8 98 rfl) rfl
theorem q1915 : (Jvm.Cond.instanceMethod ({ cls := "OnePassportModel", name := "hopeful", desc := "()I" } : Jvm.MethodName)) ∈ lw_all := lw_g (lw_at lw_m8 100 rfl) rfl
theorem q1916 : (Jvm.Cond.selects "OnePassportModel" ({ cls := "OnePassportModel", name := "hopeful", desc := "()I" } : Jvm.MethodName) ({ cls := "OnePassportModel", name := "hopeful", desc := "()I" } : Jvm.MethodName)) ∈ lw_all := lw_g (lw_at lw_m8 101 rfl) rfl
theorem q1917 : (Jvm.Cond.code ({ cls := "OnePassportModel", name := "hopeful", desc := "()I" } : Jvm.MethodName) prog_11_method_92_code (3 : Nat) (Option.some Jvm.ClassFile.FieldType.int)) ∈ lw_all := lw_g (lw_at lw_m8 102 rfl) rfl
theorem q1919 : (Jvm.Cond.instanceMethod ({ cls := "OnePassportModel", name := "till", desc := "(I)I" } : Jvm.MethodName)) ∈ lw_all := lw_g (lw_at lw_m8 104 rfl) rfl
theorem q1920 : (Jvm.Cond.selects "OnePassportModel" ({ cls := "OnePassportModel", name := "till", desc := "(I)I" } : Jvm.MethodName) ({ cls := "OnePassportModel", name := "till", desc := "(I)I" } : Jvm.MethodName)) ∈ lw_all := lw_g (lw_at lw_m8 105 rfl) rfl
theorem q1921 : (Jvm.Cond.code ({ cls := "OnePassportModel", name := "till", desc := "(I)I" } : Jvm.MethodName) prog_11_method_94_code (3 : Nat) (Option.some Jvm.ClassFile.FieldType.int)) ∈ lw_all := lw_g (lw_at lw_m8 106 rfl) rfl
theorem q1922 : (Jvm.Cond.methodLink "OnePassportModel" (391 : Nat) ({ cls := "OnePassportModel", name := "isSet", desc := "(I)Z" } : Jvm.MethodName)) ∈ lw_all := lw_g (lw_at lw_m8 107 rfl) rfl
theorem q1923 : (Jvm.Cond.privateMethod ({ cls := "OnePassportModel", name := "isSet", desc := "(I)Z" } : Jvm.MethodName)) ∈ lw_tbl := lw_at lw_m8 108 rfl
theorem q1924 : (Jvm.Cond.instanceMethod ({ cls := "OnePassportModel", name := "isSet", desc := "(I)Z" } : Jvm.MethodName)) ∈ lw_all := lw_g (lw_at lw_m8 109 rfl) rfl
theorem q1925 : (Jvm.Cond.code ({ cls := "OnePassportModel", name := "isSet", desc := "(I)Z" } : Jvm.MethodName) prog_11_method_93_code (2 : Nat) (Option.some Jvm.ClassFile.FieldType.boolean)) ∈ lw_all := lw_g (lw_at lw_m8 110 rfl) rfl
theorem q1927 : (Jvm.Cond.instanceMethod ({ cls := "OnePassportModel", name := "over", desc := "(I)I" } : Jvm.MethodName)) ∈ lw_all := lw_g (lw_at lw_m8 112 rfl) rfl
theorem q1928 : (Jvm.Cond.selects "OnePassportModel" ({ cls := "OnePassportModel", name := "over", desc := "(I)I" } : Jvm.MethodName) ({ cls := "OnePassportModel", name := "over", desc := "(I)I" } : Jvm.MethodName)) ∈ lw_all := lw_g (lw_at lw_m8 113 rfl) rfl
theorem q1929 : (Jvm.Cond.code ({ cls := "OnePassportModel", name := "over", desc := "(I)I" } : Jvm.MethodName) prog_11_method_95_code (3 : Nat) (Option.some Jvm.ClassFile.FieldType.int)) ∈ lw_all := lw_g (lw_at lw_m8 114 rfl) rfl
theorem q1931 : (Jvm.Cond.instanceMethod ({ cls := "OnePassportModel", name := "never", desc := "()I" } : Jvm.MethodName)) ∈ lw_all := lw_g (lw_at lw_m8 116 rfl) rfl
theorem q1932 : (Jvm.Cond.selects "OnePassportModel" ({ cls := "OnePassportModel", name := "never", desc := "()I" } : Jvm.MethodName) ({ cls := "OnePassportModel", name := "never", desc := "()I" } : Jvm.MethodName)) ∈ lw_all := lw_g (lw_at lw_m8 117 rfl) rfl
theorem q1933 : (Jvm.Cond.code ({ cls := "OnePassportModel", name := "never", desc := "()I" } : Jvm.MethodName) prog_11_method_96_code (3 : Nat) (Option.some Jvm.ClassFile.FieldType.int)) ∈ lw_all := lw_g (lw_at lw_m8 118 rfl) rfl
theorem q1935 : (Jvm.Cond.instanceMethod ({ cls := "OnePassportModel", name := "lost", desc := "(I)I" } : Jvm.MethodName)) ∈ lw_all := lw_g (lw_at lw_m8 120 rfl) rfl
theorem q1936 : (Jvm.Cond.selects "OnePassportModel" ({ cls := "OnePassportModel", name := "lost", desc := "(I)I" } : Jvm.MethodName) ({ cls := "OnePassportModel", name := "lost", desc := "(I)I" } : Jvm.MethodName)) ∈ lw_all := lw_g (lw_at lw_m8 121 rfl) rfl
theorem q1937 : (Jvm.Cond.code ({ cls := "OnePassportModel", name := "lost", desc := "(I)I" } : Jvm.MethodName) prog_11_method_98_code (2 : Nat) (Option.some Jvm.ClassFile.FieldType.int)) ∈ lw_all := lw_g (lw_at lw_m8 122 rfl) rfl
theorem q1938 : (Jvm.Cond.methodLink "OnePassportModel" (394 : Nat) ({ cls := "OnePassportModel", name := "overBehind", desc := "(I)I" } : Jvm.MethodName)) ∈ lw_all := lw_g (lw_at lw_m8 123 rfl) rfl
theorem q1939 : (Jvm.Cond.privateMethod ({ cls := "OnePassportModel", name := "overBehind", desc := "(I)I" } : Jvm.MethodName)) ∈ lw_tbl := lw_at lw_m8 124 rfl
theorem q1940 : (Jvm.Cond.instanceMethod ({ cls := "OnePassportModel", name := "overBehind", desc := "(I)I" } : Jvm.MethodName)) ∈ lw_all := lw_g (lw_at lw_m8 125 rfl) rfl
theorem q1941 : (Jvm.Cond.code ({ cls := "OnePassportModel", name := "overBehind", desc := "(I)I" } : Jvm.MethodName) prog_11_method_97_code (3 : Nat) (Option.some Jvm.ClassFile.FieldType.int)) ∈ lw_all := lw_g (lw_at lw_m8 126 rfl) rfl
theorem q1943 : (Jvm.Cond.instanceMethod ({ cls := "OnePassportModel", name := "worst", desc := "()I" } : Jvm.MethodName)) ∈ lw_all := lw_g (lw_at lw_m8 128 rfl) rfl
theorem q1944 : (Jvm.Cond.selects "OnePassportModel" ({ cls := "OnePassportModel", name := "worst", desc := "()I" } : Jvm.MethodName) ({ cls := "OnePassportModel", name := "worst", desc := "()I" } : Jvm.MethodName)) ∈ lw_all := lw_g (lw_at lw_m8 129 rfl) rfl
theorem q1945 : (Jvm.Cond.code ({ cls := "OnePassportModel", name := "worst", desc := "()I" } : Jvm.MethodName) prog_11_method_99_code (6 : Nat) (Option.some Jvm.ClassFile.FieldType.int)) ∈ lw_all := lw_g (lw_at lw_m8 130 rfl) rfl
theorem q1946 : (Jvm.Cond.methodLink "OnePassportModel" (397 : Nat) ({ cls := "OnePassportModel", name := "sizeOf", desc := "(I)I" } : Jvm.MethodName)) ∈ lw_all := lw_g (lw_at lw_m8 131 rfl) rfl
theorem q1947 : (Jvm.Cond.static ({ cls := "OnePassportModel", name := "sizeOf", desc := "(I)I" } : Jvm.MethodName)) ∈ lw_all := lw_g (lw_at lw_m8 132 rfl) rfl
theorem q1948 : (Jvm.Cond.code ({ cls := "OnePassportModel", name := "sizeOf", desc := "(I)I" } : Jvm.MethodName) prog_11_method_37_code (3 : Nat) (Option.some Jvm.ClassFile.FieldType.int)) ∈ lw_all := lw_g (lw_at lw_m8 133 rfl) rfl
theorem q1950 : (Jvm.Cond.instanceMethod ({ cls := "OnePassportModel", name := "judge", desc := "(I)I" } : Jvm.MethodName)) ∈ lw_all := lw_g (lw_at lw_m8 135 rfl) rfl
theorem q1951 : (Jvm.Cond.selects "OnePassportModel" ({ cls := "OnePassportModel", name := "judge", desc := "(I)I" } : Jvm.MethodName) ({ cls := "OnePassportModel", name := "judge", desc := "(I)I" } : Jvm.MethodName)) ∈ lw_all := lw_g (lw_at lw_m8 136 rfl) rfl
theorem q1952 : (Jvm.Cond.code ({ cls := "OnePassportModel", name := "judge", desc := "(I)I" } : Jvm.MethodName) prog_11_method_103_code (3 : Nat) (Option.some Jvm.ClassFile.FieldType.int)) ∈ lw_all := lw_g (lw_at lw_m8 137 rfl) rfl
theorem q1953 : (Jvm.Cond.methodLink "OnePassportModel" (404 : Nat) ({ cls := "OnePassportModel", name := "whyNot", desc := "(I)I" } : Jvm.MethodName)) ∈ lw_all := lw_g (lw_at lw_m8 138 rfl) rfl
theorem q1954 : (Jvm.Cond.privateMethod ({ cls := "OnePassportModel", name := "whyNot", desc := "(I)I" } : Jvm.MethodName)) ∈ lw_tbl := lw_at lw_m8 139 rfl
theorem q1955 : (Jvm.Cond.instanceMethod ({ cls := "OnePassportModel", name := "whyNot", desc := "(I)I" } : Jvm.MethodName)) ∈ lw_all := lw_g (lw_at lw_m8 140 rfl) rfl
theorem q1956 : (Jvm.Cond.code ({ cls := "OnePassportModel", name := "whyNot", desc := "(I)I" } : Jvm.MethodName) prog_11_method_101_code (3 : Nat) (Option.some Jvm.ClassFile.FieldType.int)) ∈ lw_all := lw_g (lw_at lw_m8 141 rfl) rfl
theorem q1957 : (Jvm.Cond.methodLink "OnePassportModel" (400 : Nat) ({ cls := "OnePassportModel", name := "cellOf", desc := "(II)J" } : Jvm.MethodName)) ∈ lw_all := lw_g (lw_at lw_m8 142 rfl) rfl
theorem q1958 : (Jvm.Cond.privateMethod ({ cls := "OnePassportModel", name := "cellOf", desc := "(II)J" } : Jvm.MethodName)) ∈ lw_tbl := lw_at lw_m8 143 rfl
theorem q1959 : (Jvm.Cond.instanceMethod ({ cls := "OnePassportModel", name := "cellOf", desc := "(II)J" } : Jvm.MethodName)) ∈ lw_all := lw_g (lw_at lw_m8 144 rfl) rfl
theorem q1960 : (Jvm.Cond.code ({ cls := "OnePassportModel", name := "cellOf", desc := "(II)J" } : Jvm.MethodName) prog_11_method_100_code (3 : Nat) (Option.some Jvm.ClassFile.FieldType.long)) ∈ lw_all := lw_g (lw_at lw_m8 145 rfl) rfl
theorem q1961 : (Jvm.Cond.methodLink "OnePassportModel" (407 : Nat) ({ cls := "OnePassportModel", name := "judges", desc := "(I)I" } : Jvm.MethodName)) ∈ lw_all := lw_g (lw_at lw_m8 146 rfl) rfl
theorem q1962 : (Jvm.Cond.privateMethod ({ cls := "OnePassportModel", name := "judges", desc := "(I)I" } : Jvm.MethodName)) ∈ lw_tbl := lw_at lw_m8 147 rfl
theorem q1963 : (Jvm.Cond.instanceMethod ({ cls := "OnePassportModel", name := "judges", desc := "(I)I" } : Jvm.MethodName)) ∈ lw_all := lw_g (lw_at lw_m8 148 rfl) rfl
theorem q1964 : (Jvm.Cond.code ({ cls := "OnePassportModel", name := "judges", desc := "(I)I" } : Jvm.MethodName) prog_11_method_102_code (3 : Nat) (Option.some Jvm.ClassFile.FieldType.int)) ∈ lw_all := lw_g (lw_at lw_m8 149 rfl) rfl
theorem q1966 : (Jvm.Cond.instanceMethod ({ cls := "OnePassportModel", name := "there", desc := "(I)I" } : Jvm.MethodName)) ∈ lw_all := lw_g (lw_at lw_m8 151 rfl) rfl
theorem q1967 : (Jvm.Cond.selects "OnePassportModel" ({ cls := "OnePassportModel", name := "there", desc := "(I)I" } : Jvm.MethodName) ({ cls := "OnePassportModel", name := "there", desc := "(I)I" } : Jvm.MethodName)) ∈ lw_all := lw_g (lw_at lw_m8 152 rfl) rfl
theorem q1968 : (Jvm.Cond.code ({ cls := "OnePassportModel", name := "there", desc := "(I)I" } : Jvm.MethodName) prog_11_method_105_code (2 : Nat) (Option.some Jvm.ClassFile.FieldType.int)) ∈ lw_all := lw_g (lw_at lw_m8 153 rfl) rfl
theorem q1969 : (Jvm.Cond.methodLink "OnePassportModel" (410 : Nat) ({ cls := "OnePassportModel", name := "judged", desc := "(II)I" } : Jvm.MethodName)) ∈ lw_all := lw_g (lw_at lw_m8 154 rfl) rfl
theorem q1970 : (Jvm.Cond.privateMethod ({ cls := "OnePassportModel", name := "judged", desc := "(II)I" } : Jvm.MethodName)) ∈ lw_tbl := lw_at lw_m8 155 rfl
theorem q1971 : (Jvm.Cond.instanceMethod ({ cls := "OnePassportModel", name := "judged", desc := "(II)I" } : Jvm.MethodName)) ∈ lw_all := lw_g (lw_at lw_m8 156 rfl) rfl
theorem q1972 : (Jvm.Cond.code ({ cls := "OnePassportModel", name := "judged", desc := "(II)I" } : Jvm.MethodName) prog_11_method_104_code (4 : Nat) (Option.some Jvm.ClassFile.FieldType.int)) ∈ lw_all := lw_g (lw_at lw_m8 157 rfl) rfl
theorem q1974 : (Jvm.Cond.instanceMethod ({ cls := "OnePassportModel", name := "takes", desc := "(I)I" } : Jvm.MethodName)) ∈ lw_all := lw_g (lw_at lw_m8 159 rfl) rfl
theorem q1975 : (Jvm.Cond.selects "OnePassportModel" ({ cls := "OnePassportModel", name := "takes", desc := "(I)I" } : Jvm.MethodName) ({ cls := "OnePassportModel", name := "takes", desc := "(I)I" } : Jvm.MethodName)) ∈ lw_all := lw_g (lw_at lw_m8 160 rfl) rfl
theorem q1976 : (Jvm.Cond.code ({ cls := "OnePassportModel", name := "takes", desc := "(I)I" } : Jvm.MethodName) prog_11_method_106_code (2 : Nat) (Option.some Jvm.ClassFile.FieldType.int)) ∈ lw_all := lw_g (lw_at lw_m8 161 rfl) rfl
theorem q1978 : (Jvm.Cond.instanceMethod ({ cls := "OnePassportModel", name := "dares", desc := "(I)I" } : Jvm.MethodName)) ∈ lw_all := lw_g (lw_at lw_m8 163 rfl) rfl
theorem q1979 : (Jvm.Cond.selects "OnePassportModel" ({ cls := "OnePassportModel", name := "dares", desc := "(I)I" } : Jvm.MethodName) ({ cls := "OnePassportModel", name := "dares", desc := "(I)I" } : Jvm.MethodName)) ∈ lw_all := lw_g (lw_at lw_m8 164 rfl) rfl
theorem q1980 : (Jvm.Cond.code ({ cls := "OnePassportModel", name := "dares", desc := "(I)I" } : Jvm.MethodName) prog_11_method_107_code (2 : Nat) (Option.some Jvm.ClassFile.FieldType.int)) ∈ lw_all := lw_g (lw_at lw_m8 165 rfl) rfl
theorem q1982 : (Jvm.Cond.instanceMethod ({ cls := "OnePassportModel", name := "lied", desc := "(I)I" } : Jvm.MethodName)) ∈ lw_all := lw_g (lw_at lw_m8 167 rfl) rfl
theorem q1983 : (Jvm.Cond.selects "OnePassportModel" ({ cls := "OnePassportModel", name := "lied", desc := "(I)I" } : Jvm.MethodName) ({ cls := "OnePassportModel", name := "lied", desc := "(I)I" } : Jvm.MethodName)) ∈ lw_all := lw_g (lw_at lw_m8 168 rfl) rfl
theorem q1984 : (Jvm.Cond.code ({ cls := "OnePassportModel", name := "lied", desc := "(I)I" } : Jvm.MethodName) prog_11_method_108_code (2 : Nat) (Option.some Jvm.ClassFile.FieldType.int)) ∈ lw_all := lw_g (lw_at lw_m8 169 rfl) rfl
theorem q1986 : (Jvm.Cond.instanceMethod ({ cls := "OnePassportModel", name := "stamped", desc := "(I)J" } : Jvm.MethodName)) ∈ lw_all := lw_g (lw_at lw_m8 171 rfl) rfl
theorem q1987 : (Jvm.Cond.selects "OnePassportModel" ({ cls := "OnePassportModel", name := "stamped", desc := "(I)J" } : Jvm.MethodName) ({ cls := "OnePassportModel", name := "stamped", desc := "(I)J" } : Jvm.MethodName)) ∈ lw_all := lw_g (lw_at lw_m8 172 rfl) rfl
theorem q1988 : (Jvm.Cond.code ({ cls := "OnePassportModel", name := "stamped", desc := "(I)J" } : Jvm.MethodName) prog_11_method_114_code (3 : Nat) (Option.some Jvm.ClassFile.FieldType.long)) ∈ lw_all := lw_g (lw_at lw_m8 173 rfl) rfl
theorem q1989 : (Jvm.Cond.methodLink "OnePassportModel" (424 : Nat) ({ cls := "OnePassportModel", name := "whyNoStamps", desc := "(I)I" } : Jvm.MethodName)) ∈ lw_all := lw_g (lw_at lw_m8 174 rfl) rfl
theorem q1990 : (Jvm.Cond.privateMethod ({ cls := "OnePassportModel", name := "whyNoStamps", desc := "(I)I" } : Jvm.MethodName)) ∈ lw_tbl := lw_at lw_m8 175 rfl
theorem q1991 : (Jvm.Cond.instanceMethod ({ cls := "OnePassportModel", name := "whyNoStamps", desc := "(I)I" } : Jvm.MethodName)) ∈ lw_all := lw_g (lw_at lw_m8 176 rfl) rfl
theorem q1992 : (Jvm.Cond.code ({ cls := "OnePassportModel", name := "whyNoStamps", desc := "(I)I" } : Jvm.MethodName) prog_11_method_109_code (5 : Nat) (Option.some Jvm.ClassFile.FieldType.int)) ∈ lw_all := lw_g (lw_at lw_m8 177 rfl) rfl
theorem q1993 : (Jvm.Cond.constantLong "OnePassportModel" (413 : Nat) (11 : Int64)) ∈ lw_all := lw_g (lw_at lw_m8 178 rfl) rfl
theorem q1994 : (Jvm.Cond.methodLink "OnePassportModel" (427 : Nat) ({ cls := "OnePassportModel", name := "laysStamps", desc := "(I)V" } : Jvm.MethodName)) ∈ lw_all := lw_g (lw_at lw_m8 179 rfl) rfl
theorem q1995 : (Jvm.Cond.privateMethod ({ cls := "OnePassportModel", name := "laysStamps", desc := "(I)V" } : Jvm.MethodName)) ∈ lw_tbl := lw_at lw_m8 180 rfl
theorem q1996 : (Jvm.Cond.instanceMethod ({ cls := "OnePassportModel", name := "laysStamps", desc := "(I)V" } : Jvm.MethodName)) ∈ lw_all := lw_g (lw_at lw_m8 181 rfl) rfl
theorem q1997 : (Jvm.Cond.code ({ cls := "OnePassportModel", name := "laysStamps", desc := "(I)V" } : Jvm.MethodName) prog_11_method_113_code (3 : Nat) (Option.none : Option Jvm.ClassFile.FieldType)) ∈ lw_all := lw_g (lw_at lw_m8 182 rfl) rfl
theorem q1998 : (Jvm.Cond.methodLink "OnePassportModel" (421 : Nat) ({ cls := "OnePassportModel", name := "completes", desc := "(II)I" } : Jvm.MethodName)) ∈ lw_all := lw_g (lw_at lw_m8 183 rfl) rfl
theorem q1999 : (Jvm.Cond.privateMethod ({ cls := "OnePassportModel", name := "completes", desc := "(II)I" } : Jvm.MethodName)) ∈ lw_tbl := lw_at lw_m8 184 rfl
theorem q2000 : (Jvm.Cond.instanceMethod ({ cls := "OnePassportModel", name := "completes", desc := "(II)I" } : Jvm.MethodName)) ∈ lw_all := lw_g (lw_at lw_m8 185 rfl) rfl
theorem q2001 : (Jvm.Cond.code ({ cls := "OnePassportModel", name := "completes", desc := "(II)I" } : Jvm.MethodName) prog_11_method_112_code (13 : Nat) (Option.some Jvm.ClassFile.FieldType.int)) ∈ lw_all := lw_g (lw_at lw_m8 186 rfl) rfl
theorem q2002 : (Jvm.Cond.methodLink "OnePassportModel" (415 : Nat) ({ cls := "OnePassportModel", name := "kindOf", desc := "()I" } : Jvm.MethodName)) ∈ lw_all := lw_g (lw_at lw_m8 187 rfl) rfl
theorem q2003 : (Jvm.Cond.privateMethod ({ cls := "OnePassportModel", name := "kindOf", desc := "()I" } : Jvm.MethodName)) ∈ lw_tbl := lw_at lw_m8 188 rfl
theorem q2004 : (Jvm.Cond.instanceMethod ({ cls := "OnePassportModel", name := "kindOf", desc := "()I" } : Jvm.MethodName)) ∈ lw_all := lw_g (lw_at lw_m8 189 rfl) rfl
theorem q2005 : (Jvm.Cond.code ({ cls := "OnePassportModel", name := "kindOf", desc := "()I" } : Jvm.MethodName) prog_11_method_111_code (1 : Nat) (Option.some Jvm.ClassFile.FieldType.int)) ∈ lw_all := lw_g (lw_at lw_m8 190 rfl) rfl
theorem q2006 : (Jvm.Cond.methodLink "OnePassportModel" (418 : Nat) ({ cls := "OnePassportModel", name := "looksAt", desc := "(II)Z" } : Jvm.MethodName)) ∈ lw_all := lw_g (lw_at lw_m8 191 rfl) rfl
theorem q2007 : (Jvm.Cond.privateMethod ({ cls := "OnePassportModel", name := "looksAt", desc := "(II)Z" } : Jvm.MethodName)) ∈ lw_tbl := lw_at lw_m8 192 rfl
theorem q2008 : (Jvm.Cond.instanceMethod ({ cls := "OnePassportModel", name := "looksAt", desc := "(II)Z" } : Jvm.MethodName)) ∈ lw_all := lw_g (lw_at lw_m8 193 rfl) rfl
theorem q2009 : (Jvm.Cond.code ({ cls := "OnePassportModel", name := "looksAt", desc := "(II)Z" } : Jvm.MethodName) prog_11_method_110_code (5 : Nat) (Option.some Jvm.ClassFile.FieldType.boolean)) ∈ lw_all := lw_g (lw_at lw_m8 194 rfl) rfl
theorem q2011 : (Jvm.Cond.instanceMethod ({ cls := "OnePassportModel", name := "had", desc := "(II)I" } : Jvm.MethodName)) ∈ lw_all := lw_g (lw_at lw_m8 196 rfl) rfl
theorem q2012 : (Jvm.Cond.selects "OnePassportModel" ({ cls := "OnePassportModel", name := "had", desc := "(II)I" } : Jvm.MethodName) ({ cls := "OnePassportModel", name := "had", desc := "(II)I" } : Jvm.MethodName)) ∈ lw_all := lw_g (lw_at lw_m8 197 rfl) rfl
theorem q2013 : (Jvm.Cond.code ({ cls := "OnePassportModel", name := "had", desc := "(II)I" } : Jvm.MethodName) prog_11_method_117_code (4 : Nat) (Option.some Jvm.ClassFile.FieldType.int)) ∈ lw_all := lw_g (lw_at lw_m8 198 rfl) rfl
theorem q2014 : (Jvm.Cond.methodLink "OnePassportModel" (434 : Nat) ({ cls := "OnePassportModel", name := "laysHad", desc := "(I)V" } : Jvm.MethodName)) ∈ lw_all := lw_g (lw_at lw_m8 199 rfl) rfl
theorem q2015 : (Jvm.Cond.privateMethod ({ cls := "OnePassportModel", name := "laysHad", desc := "(I)V" } : Jvm.MethodName)) ∈ lw_tbl := lw_at lw_m8 200 rfl
theorem q2016 : (Jvm.Cond.instanceMethod ({ cls := "OnePassportModel", name := "laysHad", desc := "(I)V" } : Jvm.MethodName)) ∈ lw_all := lw_g (lw_at lw_m8 201 rfl) rfl
theorem q2017 : (Jvm.Cond.code ({ cls := "OnePassportModel", name := "laysHad", desc := "(I)V" } : Jvm.MethodName) prog_11_method_115_code (6 : Nat) (Option.none : Option Jvm.ClassFile.FieldType)) ∈ lw_all := lw_g (lw_at lw_m8 202 rfl) rfl
theorem q2018 : (Jvm.Cond.methodLink "OnePassportModel" (430 : Nat) ({ cls := "OnePassportModel", name := "goesOn", desc := "(IIII)V" } : Jvm.MethodName)) ∈ lw_all := lw_g (lw_at lw_m8 203 rfl) rfl
theorem q2019 : (Jvm.Cond.privateMethod ({ cls := "OnePassportModel", name := "goesOn", desc := "(IIII)V" } : Jvm.MethodName)) ∈ lw_tbl := lw_at lw_m8 204 rfl
theorem q2020 : (Jvm.Cond.instanceMethod ({ cls := "OnePassportModel", name := "goesOn", desc := "(IIII)V" } : Jvm.MethodName)) ∈ lw_all := lw_g (lw_at lw_m8 205 rfl) rfl
theorem q2021 : (Jvm.Cond.code ({ cls := "OnePassportModel", name := "goesOn", desc := "(IIII)V" } : Jvm.MethodName) prog_11_method_116_code (8 : Nat) (Option.none : Option Jvm.ClassFile.FieldType)) ∈ lw_all := lw_g (lw_at lw_m8 206 rfl) rfl
theorem q2023 : (Jvm.Cond.instanceMethod ({ cls := "OnePassportModel", name := "sure", desc := "(II)I" } : Jvm.MethodName)) ∈ lw_all := lw_g (lw_at lw_m8 208 rfl) rfl
theorem q2024 : (Jvm.Cond.selects "OnePassportModel" ({ cls := "OnePassportModel", name := "sure", desc := "(II)I" } : Jvm.MethodName) ({ cls := "OnePassportModel", name := "sure", desc := "(II)I" } : Jvm.MethodName)) ∈ lw_all := lw_g (lw_at lw_m8 209 rfl) rfl
theorem q2025 : (Jvm.Cond.code ({ cls := "OnePassportModel", name := "sure", desc := "(II)I" } : Jvm.MethodName) prog_11_method_118_code (4 : Nat) (Option.some Jvm.ClassFile.FieldType.int)) ∈ lw_all := lw_g (lw_at lw_m8 210 rfl) rfl
theorem q2027 : (Jvm.Cond.instanceMethod ({ cls := "OnePassportModel", name := "dared", desc := "(I)I" } : Jvm.MethodName)) ∈ lw_all := lw_g (lw_at lw_m8 212 rfl) rfl
theorem q2028 : (Jvm.Cond.selects "OnePassportModel" ({ cls := "OnePassportModel", name := "dared", desc := "(I)I" } : Jvm.MethodName) ({ cls := "OnePassportModel", name := "dared", desc := "(I)I" } : Jvm.MethodName)) ∈ lw_all := lw_g (lw_at lw_m8 213 rfl) rfl
theorem q2029 : (Jvm.Cond.code ({ cls := "OnePassportModel", name := "dared", desc := "(I)I" } : Jvm.MethodName) prog_11_method_119_code (3 : Nat) (Option.some Jvm.ClassFile.FieldType.int)) ∈ lw_all := lw_g (lw_at lw_m8 214 rfl) rfl
theorem q2031 : (Jvm.Cond.instanceMethod ({ cls := "OnePassportModel", name := "alone", desc := "(II)I" } : Jvm.MethodName)) ∈ lw_all := lw_g (lw_at lw_m8 216 rfl) rfl
theorem q2032 : (Jvm.Cond.selects "OnePassportModel" ({ cls := "OnePassportModel", name := "alone", desc := "(II)I" } : Jvm.MethodName) ({ cls := "OnePassportModel", name := "alone", desc := "(II)I" } : Jvm.MethodName)) ∈ lw_all := lw_g (lw_at lw_m8 217 rfl) rfl
theorem q2033 : (Jvm.Cond.code ({ cls := "OnePassportModel", name := "alone", desc := "(II)I" } : Jvm.MethodName) prog_11_method_120_code (3 : Nat) (Option.some Jvm.ClassFile.FieldType.int)) ∈ lw_all := lw_g (lw_at lw_m8 218 rfl) rfl
theorem q2034 : (Jvm.Cond.constantLong "OnePassportModel" (437 : Nat) (12 : Int64)) ∈ lw_all := lw_g (lw_at lw_m8 219 rfl) rfl
theorem q2036 : (Jvm.Cond.instanceMethod ({ cls := "OnePassportModel", name := "worth", desc := "(II)I" } : Jvm.MethodName)) ∈ lw_all := lw_g (lw_at lw_m8 221 rfl) rfl
theorem q2037 : (Jvm.Cond.selects "OnePassportModel" ({ cls := "OnePassportModel", name := "worth", desc := "(II)I" } : Jvm.MethodName) ({ cls := "OnePassportModel", name := "worth", desc := "(II)I" } : Jvm.MethodName)) ∈ lw_all := lw_g (lw_at lw_m8 222 rfl) rfl
theorem q2038 : (Jvm.Cond.code ({ cls := "OnePassportModel", name := "worth", desc := "(II)I" } : Jvm.MethodName) prog_11_method_122_code (4 : Nat) (Option.some Jvm.ClassFile.FieldType.int)) ∈ lw_all := lw_g (lw_at lw_m8 223 rfl) rfl
theorem q2039 : (Jvm.Cond.methodLink "OnePassportModel" (439 : Nat) ({ cls := "OnePassportModel", name := "surestBy", desc := "(II)I" } : Jvm.MethodName)) ∈ lw_all := lw_g (lw_at lw_m8 224 rfl) rfl
theorem q2040 : (Jvm.Cond.privateMethod ({ cls := "OnePassportModel", name := "surestBy", desc := "(II)I" } : Jvm.MethodName)) ∈ lw_tbl := lw_at lw_m8 225 rfl
theorem q2041 : (Jvm.Cond.instanceMethod ({ cls := "OnePassportModel", name := "surestBy", desc := "(II)I" } : Jvm.MethodName)) ∈ lw_all := lw_g (lw_at lw_m8 226 rfl) rfl
theorem q2042 : (Jvm.Cond.code ({ cls := "OnePassportModel", name := "surestBy", desc := "(II)I" } : Jvm.MethodName) prog_11_method_121_code (5 : Nat) (Option.some Jvm.ClassFile.FieldType.int)) ∈ lw_all := lw_g (lw_at lw_m8 227 rfl) rfl
theorem q2044 : (Jvm.Cond.instanceMethod ({ cls := "OnePassportModel", name := "whom", desc := "(I)I" } : Jvm.MethodName)) ∈ lw_all := lw_g (lw_at lw_m8 229 rfl) rfl
theorem q2045 : (Jvm.Cond.selects "OnePassportModel" ({ cls := "OnePassportModel", name := "whom", desc := "(I)I" } : Jvm.MethodName) ({ cls := "OnePassportModel", name := "whom", desc := "(I)I" } : Jvm.MethodName)) ∈ lw_all := lw_g (lw_at lw_m8 230 rfl) rfl
theorem q2046 : (Jvm.Cond.code ({ cls := "OnePassportModel", name := "whom", desc := "(I)I" } : Jvm.MethodName) prog_11_method_123_code (7 : Nat) (Option.some Jvm.ClassFile.FieldType.int)) ∈ lw_all := lw_g (lw_at lw_m8 231 rfl) rfl
theorem q2048 : (Jvm.Cond.instanceMethod ({ cls := "OnePassportModel", name := "blur", desc := "(I)I" } : Jvm.MethodName)) ∈ lw_all := lw_g (lw_at lw_m8 233 rfl) rfl
theorem q2049 : (Jvm.Cond.selects "OnePassportModel" ({ cls := "OnePassportModel", name := "blur", desc := "(I)I" } : Jvm.MethodName) ({ cls := "OnePassportModel", name := "blur", desc := "(I)I" } : Jvm.MethodName)) ∈ lw_all := lw_g (lw_at lw_m8 234 rfl) rfl
theorem q2050 : (Jvm.Cond.code ({ cls := "OnePassportModel", name := "blur", desc := "(I)I" } : Jvm.MethodName) prog_11_method_125_code (5 : Nat) (Option.some Jvm.ClassFile.FieldType.int)) ∈ lw_all := lw_g (lw_at lw_m8 235 rfl) rfl
theorem q2051 : (Jvm.Cond.methodLink "OnePassportModel" (442 : Nat) ({ cls := "OnePassportModel", name := "isHope", desc := "()Z" } : Jvm.MethodName)) ∈ lw_all := lw_g (lw_at lw_m8 236 rfl) rfl
theorem q2052 : (Jvm.Cond.privateMethod ({ cls := "OnePassportModel", name := "isHope", desc := "()Z" } : Jvm.MethodName)) ∈ lw_tbl := lw_at lw_m8 237 rfl
theorem q2053 : (Jvm.Cond.instanceMethod ({ cls := "OnePassportModel", name := "isHope", desc := "()Z" } : Jvm.MethodName)) ∈ lw_all := lw_g (lw_at lw_m8 238 rfl) rfl
theorem q2054 : (Jvm.Cond.code ({ cls := "OnePassportModel", name := "isHope", desc := "()Z" } : Jvm.MethodName) prog_11_method_124_code (1 : Nat) (Option.some Jvm.ClassFile.FieldType.boolean)) ∈ lw_all := lw_g (lw_at lw_m8 239 rfl) rfl
theorem q2056 : (Jvm.Cond.instanceMethod ({ cls := "OnePassportModel", name := "looks", desc := "(I)I" } : Jvm.MethodName)) ∈ lw_all := lw_g (lw_at lw_m9 1 rfl) rfl
theorem q2057 : (Jvm.Cond.selects "OnePassportModel" ({ cls := "OnePassportModel", name := "looks", desc := "(I)I" } : Jvm.MethodName) ({ cls := "OnePassportModel", name := "looks", desc := "(I)I" } : Jvm.MethodName)) ∈ lw_all := lw_g (lw_at lw_m9 2 rfl) rfl
theorem q2058 : (Jvm.Cond.code ({ cls := "OnePassportModel", name := "looks", desc := "(I)I" } : Jvm.MethodName) prog_11_method_126_code (5 : Nat) (Option.some Jvm.ClassFile.FieldType.int)) ∈ lw_all := lw_g (lw_at lw_m9 3 rfl) rfl
theorem q2060 : (Jvm.Cond.instanceMethod ({ cls := "OnePassportModel", name := "drawn", desc := "(II)I" } : Jvm.MethodName)) ∈ lw_all := lw_g (lw_at lw_m9 5 rfl) rfl
theorem q2061 : (Jvm.Cond.selects "OnePassportModel" ({ cls := "OnePassportModel", name := "drawn", desc := "(II)I" } : Jvm.MethodName) ({ cls := "OnePassportModel", name := "drawn", desc := "(II)I" } : Jvm.MethodName)) ∈ lw_all := lw_g (lw_at lw_m9 6 rfl) rfl
theorem q2062 : (Jvm.Cond.code ({ cls := "OnePassportModel", name := "drawn", desc := "(II)I" } : Jvm.MethodName) prog_11_method_128_code (4 : Nat) (Option.some Jvm.ClassFile.FieldType.int)) ∈ lw_all := lw_g (lw_at lw_m9 7 rfl) rfl
theorem q2063 : (Jvm.Cond.constantLong "OnePassportModel" (456 : Nat) (2000000000 : Int64)) ∈ lw_all := lw_g (lw_at lw_m9 8 rfl) rfl
theorem q2064 : (Jvm.Cond.methodLink "OnePassportModel" (458 : Nat) ({ cls := "OnePassportModel", name := "draws", desc := "(J)I" } : Jvm.MethodName)) ∈ lw_all := lw_g (lw_at lw_m9 9 rfl) rfl
theorem q2065 : (Jvm.Cond.privateMethod ({ cls := "OnePassportModel", name := "draws", desc := "(J)I" } : Jvm.MethodName)) ∈ lw_tbl := lw_at lw_m9 10 rfl
theorem q2066 : (Jvm.Cond.instanceMethod ({ cls := "OnePassportModel", name := "draws", desc := "(J)I" } : Jvm.MethodName)) ∈ lw_all := lw_g (lw_at lw_m9 11 rfl) rfl
theorem q2067 : (Jvm.Cond.code ({ cls := "OnePassportModel", name := "draws", desc := "(J)I" } : Jvm.MethodName) prog_11_method_127_code (6 : Nat) (Option.some Jvm.ClassFile.FieldType.int)) ∈ lw_all := lw_g (lw_at lw_m9 12 rfl) rfl
theorem q2068 : (Jvm.Cond.constantLong "OnePassportModel" (448 : Nat) (1103515245 : Int64)) ∈ lw_all := lw_g (lw_at lw_m9 13 rfl) rfl
theorem q2069 : (Jvm.Cond.constantLong "OnePassportModel" (450 : Nat) (12345 : Int64)) ∈ lw_all := lw_g (lw_at lw_m9 14 rfl) rfl
theorem q2070 : (Jvm.Cond.constantLong "OnePassportModel" (452 : Nat) (2147483648 : Int64)) ∈ lw_all := lw_g (lw_at lw_m9 15 rfl) rfl
theorem q2071 : (Jvm.Cond.constantLong "OnePassportModel" (454 : Nat) (65536 : Int64)) ∈ lw_all := lw_g (lw_at lw_m9 16 rfl) rfl
theorem q2073 : (Jvm.Cond.instanceMethod ({ cls := "OnePassportModel", name := "luck", desc := "(II)I" } : Jvm.MethodName)) ∈ lw_all := lw_g (lw_at lw_m9 18 rfl) rfl
theorem q2074 : (Jvm.Cond.selects "OnePassportModel" ({ cls := "OnePassportModel", name := "luck", desc := "(II)I" } : Jvm.MethodName) ({ cls := "OnePassportModel", name := "luck", desc := "(II)I" } : Jvm.MethodName)) ∈ lw_all := lw_g (lw_at lw_m9 19 rfl) rfl
theorem q2075 : (Jvm.Cond.code ({ cls := "OnePassportModel", name := "luck", desc := "(II)I" } : Jvm.MethodName) prog_11_method_129_code (5 : Nat) (Option.some Jvm.ClassFile.FieldType.int)) ∈ lw_all := lw_g (lw_at lw_m9 20 rfl) rfl
theorem q2076 : (Jvm.Cond.constantLong "OnePassportModel" (462 : Nat) (20 : Int64)) ∈ lw_all := lw_g (lw_at lw_m9 21 rfl) rfl
theorem q2078 : (Jvm.Cond.instanceMethod ({ cls := "OnePassportModel", name := "grow", desc := "(II)I" } : Jvm.MethodName)) ∈ lw_all := lw_g (lw_at lw_m9 23 rfl) rfl
theorem q2079 : (Jvm.Cond.selects "OnePassportModel" ({ cls := "OnePassportModel", name := "grow", desc := "(II)I" } : Jvm.MethodName) ({ cls := "OnePassportModel", name := "grow", desc := "(II)I" } : Jvm.MethodName)) ∈ lw_all := lw_g (lw_at lw_m9 24 rfl) rfl
theorem q2080 : (Jvm.Cond.code ({ cls := "OnePassportModel", name := "grow", desc := "(II)I" } : Jvm.MethodName) prog_11_method_130_code (4 : Nat) (Option.some Jvm.ClassFile.FieldType.int)) ∈ lw_all := lw_g (lw_at lw_m9 25 rfl) rfl
theorem q2082 : (Jvm.Cond.instanceMethod ({ cls := "OnePassportModel", name := "guard", desc := "(II)I" } : Jvm.MethodName)) ∈ lw_all := lw_g (lw_at lw_m9 27 rfl) rfl
theorem q2083 : (Jvm.Cond.selects "OnePassportModel" ({ cls := "OnePassportModel", name := "guard", desc := "(II)I" } : Jvm.MethodName) ({ cls := "OnePassportModel", name := "guard", desc := "(II)I" } : Jvm.MethodName)) ∈ lw_all := lw_g (lw_at lw_m9 28 rfl) rfl
theorem q2084 : (Jvm.Cond.code ({ cls := "OnePassportModel", name := "guard", desc := "(II)I" } : Jvm.MethodName) prog_11_method_131_code (4 : Nat) (Option.some Jvm.ClassFile.FieldType.int)) ∈ lw_all := lw_g (lw_at lw_m9 29 rfl) rfl
theorem q2086 : (Jvm.Cond.instanceMethod ({ cls := "OnePassportModel", name := "stay", desc := "(II)I" } : Jvm.MethodName)) ∈ lw_all := lw_g (lw_at lw_m9 31 rfl) rfl
theorem q2087 : (Jvm.Cond.selects "OnePassportModel" ({ cls := "OnePassportModel", name := "stay", desc := "(II)I" } : Jvm.MethodName) ({ cls := "OnePassportModel", name := "stay", desc := "(II)I" } : Jvm.MethodName)) ∈ lw_all := lw_g (lw_at lw_m9 32 rfl) rfl
theorem q2088 : (Jvm.Cond.code ({ cls := "OnePassportModel", name := "stay", desc := "(II)I" } : Jvm.MethodName) prog_11_method_132_code (4 : Nat) (Option.some Jvm.ClassFile.FieldType.int)) ∈ lw_all := lw_g (lw_at lw_m9 33 rfl) rfl
theorem q2090 : (Jvm.Cond.instanceMethod ({ cls := "OnePassportModel", name := "count", desc := "(I)I" } : Jvm.MethodName)) ∈ lw_all := lw_g (lw_at lw_m9 35 rfl) rfl
theorem q2091 : (Jvm.Cond.selects "OnePassportModel" ({ cls := "OnePassportModel", name := "count", desc := "(I)I" } : Jvm.MethodName) ({ cls := "OnePassportModel", name := "count", desc := "(I)I" } : Jvm.MethodName)) ∈ lw_all := lw_g (lw_at lw_m9 36 rfl) rfl
theorem q2092 : (Jvm.Cond.code ({ cls := "OnePassportModel", name := "count", desc := "(I)I" } : Jvm.MethodName) prog_11_method_133_code (4 : Nat) (Option.some Jvm.ClassFile.FieldType.int)) ∈ lw_all := lw_g (lw_at lw_m9 37 rfl) rfl
theorem q2094 : (Jvm.Cond.instanceMethod ({ cls := "OnePassportModel", name := "image", desc := "(I)I" } : Jvm.MethodName)) ∈ lw_all := lw_g (lw_at lw_m9 39 rfl) rfl
theorem q2095 : (Jvm.Cond.selects "OnePassportModel" ({ cls := "OnePassportModel", name := "image", desc := "(I)I" } : Jvm.MethodName) ({ cls := "OnePassportModel", name := "image", desc := "(I)I" } : Jvm.MethodName)) ∈ lw_all := lw_g (lw_at lw_m9 40 rfl) rfl
theorem q2096 : (Jvm.Cond.code ({ cls := "OnePassportModel", name := "image", desc := "(I)I" } : Jvm.MethodName) prog_11_method_134_code (2 : Nat) (Option.some Jvm.ClassFile.FieldType.int)) ∈ lw_all := lw_g (lw_at lw_m9 41 rfl) rfl
theorem q2097 : (Jvm.Cond.constantLong "OnePassportModel" (464 : Nat) (2 : Int64)) ∈ lw_all := lw_g (lw_at lw_m9 42 rfl) rfl
theorem q2099 : (Jvm.Cond.instanceMethod ({ cls := "OnePassportModel", name := "back", desc := "(I)I" } : Jvm.MethodName)) ∈ lw_all := lw_g (lw_at lw_m9 44 rfl) rfl
theorem q2100 : (Jvm.Cond.selects "OnePassportModel" ({ cls := "OnePassportModel", name := "back", desc := "(I)I" } : Jvm.MethodName) ({ cls := "OnePassportModel", name := "back", desc := "(I)I" } : Jvm.MethodName)) ∈ lw_all := lw_g (lw_at lw_m9 45 rfl) rfl
theorem q2101 : (Jvm.Cond.code ({ cls := "OnePassportModel", name := "back", desc := "(I)I" } : Jvm.MethodName) prog_11_method_135_code (2 : Nat) (Option.some Jvm.ClassFile.FieldType.int)) ∈ lw_all := lw_g (lw_at lw_m9 46 rfl) rfl
theorem q2113 : (Jvm.Cond.castable "OnePassportModel" "java/lang/Object") ∈ lw_tbl := lw_at lw_m9 58 rfl
theorem in_X6 : ∀ w ∈ wsX60, w ∈ lw_all := lw_in wsX60 [1447, 1449, 1451, 1453, 1455, 1457, 1459, 1461, 1463, 1465, 1467, 1469, 1471, 1473, 1475, 1477, 1479, 1481, 1483, 1485, 1487, 1489, 1491, 1493, 1495, 1497, 1499, 1501, 1503, 1505, 1507, 1509, 1511, 1513, 1515, 1517, 1519, 1521, 1523, 1525, 1527, 1529, 1531, 1533, 1535, 1537, 1539, 1541] (by decide +kernel) (by decide +kernel)
theorem q146 : (Jvm.Cond.initialized "OnePassport$Reader") ∈ lw_all := lw_g (lw_at lw_m1 11 rfl) rfl
theorem q184 : (Jvm.Cond.fieldLinkNest "OnePassport$Reader" (161 : Nat) "OnePassport$Family" "loaf" "I" "OnePassport") ∈ lw_tbl := lw_at lw_m1 49 rfl
theorem q188 : (Jvm.Cond.fieldLinkNest "OnePassport$Reader" (155 : Nat) "OnePassport$Family" "lines" "I" "OnePassport") ∈ lw_tbl := lw_at lw_m1 53 rfl
theorem q190 : (Jvm.Cond.fieldLinkNest "OnePassport$Reader" (111 : Nat) "OnePassport$Family" "persons" "I" "OnePassport") ∈ lw_tbl := lw_at lw_m1 55 rfl
theorem q193 : (Jvm.Cond.fieldLinkNest "OnePassport$Reader" (140 : Nat) "OnePassport$Family" "posts" "I" "OnePassport") ∈ lw_tbl := lw_at lw_m1 58 rfl
theorem q196 : (Jvm.Cond.fieldLinkNest "OnePassport$Reader" (127 : Nat) "OnePassport$Family" "children" "I" "OnePassport") ∈ lw_tbl := lw_at lw_m1 61 rfl
theorem q199 : (Jvm.Cond.fieldLinkNest "OnePassport$Reader" (135 : Nat) "OnePassport$Family" "stay" "I" "OnePassport") ∈ lw_tbl := lw_at lw_m1 64 rfl
theorem q204 : (Jvm.Cond.fieldLinkNest "OnePassport$Reader" (165 : Nat) "OnePassport$Family" "compares" "Z" "OnePassport") ∈ lw_tbl := lw_at lw_m1 69 rfl
theorem q207 : (Jvm.Cond.fieldLinkNest "OnePassport$Reader" (114 : Nat) "OnePassport$Family" "like" "[I" "OnePassport") ∈ lw_tbl := lw_at lw_m1 72 rfl
theorem q210 : (Jvm.Cond.fieldLinkNest "OnePassport$Reader" (123 : Nat) "OnePassport$Family" "nose" "[I" "OnePassport") ∈ lw_tbl := lw_at lw_m1 75 rfl
theorem q213 : (Jvm.Cond.fieldLinkNest "OnePassport$Reader" (143 : Nat) "OnePassport$Family" "strict" "[I" "OnePassport") ∈ lw_tbl := lw_at lw_m1 78 rfl
theorem q216 : (Jvm.Cond.fieldLinkNest "OnePassport$Reader" (147 : Nat) "OnePassport$Family" "keen" "[I" "OnePassport") ∈ lw_tbl := lw_at lw_m1 81 rfl
theorem q219 : (Jvm.Cond.fieldLinkNest "OnePassport$Reader" (151 : Nat) "OnePassport$Family" "looks" "[I" "OnePassport") ∈ lw_tbl := lw_at lw_m1 84 rfl
theorem q330 : (Jvm.Cond.fieldLinkNest "OnePassport$Reader" (44 : Nat) "OnePassport" "tape" "[B" "OnePassport") ∈ lw_tbl := lw_at lw_m1 195 rfl
theorem q332 : (Jvm.Cond.fieldLinkNest "OnePassport$Reader" (15 : Nat) "OnePassport" "taped" "I" "OnePassport") ∈ lw_tbl := lw_at lw_m1 197 rfl
theorem q455 : (Jvm.Cond.instantiable "OnePassport$Reader" (7 : Nat)) ∈ lw_all := lw_g (lw_at lw_m2 80 rfl) rfl
theorem q457 : (Jvm.Cond.instanceMethod ({ cls := "OnePassport$Reader", name := "<init>", desc := "(LOnePassport;)V" } : Jvm.MethodName)) ∈ lw_all := lw_g (lw_at lw_m2 82 rfl) rfl
theorem q458 : (Jvm.Cond.code ({ cls := "OnePassport$Reader", name := "<init>", desc := "(LOnePassport;)V" } : Jvm.MethodName) prog_6_method_1_code (2 : Nat) (Option.none : Option Jvm.ClassFile.FieldType)) ∈ lw_all := lw_g (lw_at lw_m2 83 rfl) rfl
theorem q459 : (Jvm.Cond.methodLink "OnePassport$Reader" (9 : Nat) ({ cls := "java/lang/Object", name := "<init>", desc := "()V" } : Jvm.MethodName)) ∈ lw_all := lw_g (lw_at lw_m2 84 rfl) rfl
theorem q460 : (Jvm.Cond.classLink "OnePassport$Reader" (22 : Nat) "OnePassport$Family") ∈ lw_all := lw_g (lw_at lw_m2 85 rfl) rfl
theorem q461 : (Jvm.Cond.methodLinkNest "OnePassport$Reader" (24 : Nat) ({ cls := "OnePassport$Family", name := "<init>", desc := "()V" } : Jvm.MethodName) "OnePassport") ∈ lw_tbl := lw_at lw_m2 86 rfl
theorem q462 : (Jvm.Cond.fieldLink "OnePassport$Reader" (29 : Nat) "OnePassport$Token" "END" "LOnePassport$Token;") ∈ lw_all := lw_g (lw_at lw_m2 87 rfl) rfl
theorem q464 : (Jvm.Cond.methodLink "OnePassport$Reader" (38 : Nat) ({ cls := "OnePassport$Reader", name := "next", desc := "()V" } : Jvm.MethodName)) ∈ lw_all := lw_g (lw_at lw_m2 89 rfl) rfl
theorem q465 : (Jvm.Cond.privateMethod ({ cls := "OnePassport$Reader", name := "next", desc := "()V" } : Jvm.MethodName)) ∈ lw_tbl := lw_at lw_m2 90 rfl
theorem q466 : (Jvm.Cond.instanceMethod ({ cls := "OnePassport$Reader", name := "next", desc := "()V" } : Jvm.MethodName)) ∈ lw_all := lw_g (lw_at lw_m2 91 rfl) rfl
theorem q467 : (Jvm.Cond.code ({ cls := "OnePassport$Reader", name := "next", desc := "()V" } : Jvm.MethodName) prog_6_method_3_code (1 : Nat) (Option.none : Option Jvm.ClassFile.FieldType)) ∈ lw_all := lw_g (lw_at lw_m2 92 rfl) rfl
theorem q468 : (Jvm.Cond.methodLink "OnePassport$Reader" (55 : Nat) ({ cls := "OnePassport$Reader", name := "isNext", desc := "(II)Z" } : Jvm.MethodName)) ∈ lw_all := lw_g (lw_at lw_m2 93 rfl) rfl
theorem q469 : (Jvm.Cond.privateMethod ({ cls := "OnePassport$Reader", name := "isNext", desc := "(II)Z" } : Jvm.MethodName)) ∈ lw_tbl := lw_at lw_m2 94 rfl
theorem q470 : (Jvm.Cond.instanceMethod ({ cls := "OnePassport$Reader", name := "isNext", desc := "(II)Z" } : Jvm.MethodName)) ∈ lw_all := lw_g (lw_at lw_m2 95 rfl) rfl
theorem q471 : (Jvm.Cond.code ({ cls := "OnePassport$Reader", name := "isNext", desc := "(II)Z" } : Jvm.MethodName) prog_6_method_2_code (3 : Nat) (Option.some Jvm.ClassFile.FieldType.boolean)) ∈ lw_all := lw_g (lw_at lw_m2 96 rfl) rfl
theorem q472 : (Jvm.Cond.methodLinkNest "OnePassport$Reader" (48 : Nat) ({ cls := "OnePassport", name := "isIn", desc := "(JJJ)Z" } : Jvm.MethodName) "OnePassport") ∈ lw_tbl := lw_at lw_m2 97 rfl
theorem q473 : (Jvm.Cond.fieldLink "OnePassport$Reader" (59 : Nat) "OnePassport$Token" "WORD" "LOnePassport$Token;") ∈ lw_all := lw_g (lw_at lw_m2 98 rfl) rfl
theorem q475 : (Jvm.Cond.constant "OnePassport$Reader" (65 : Nat) (99999 : Int32)) ∈ lw_all := lw_g (lw_at lw_m2 100 rfl) rfl
theorem q476 : (Jvm.Cond.methodLink "OnePassport$Reader" (66 : Nat) ({ cls := "java/lang/Math", name := "min", desc := "(II)I" } : Jvm.MethodName)) ∈ lw_all := lw_g (lw_at lw_m2 101 rfl) rfl
theorem q479 : (Jvm.Cond.fieldLink "OnePassport$Reader" (72 : Nat) "OnePassport$Token" "NUMBER" "LOnePassport$Token;") ∈ lw_all := lw_g (lw_at lw_m2 104 rfl) rfl
theorem q481 : (Jvm.Cond.fieldLink "OnePassport$Reader" (75 : Nat) "OnePassport$Token" "STOP" "LOnePassport$Token;") ∈ lw_all := lw_g (lw_at lw_m2 106 rfl) rfl
theorem q483 : (Jvm.Cond.fieldLink "OnePassport$Reader" (78 : Nat) "OnePassport$Token" "NONE" "LOnePassport$Token;") ∈ lw_all := lw_g (lw_at lw_m2 108 rfl) rfl
theorem q485 : (Jvm.Cond.fieldLink "OnePassport$Reader" (19 : Nat) "OnePassport$Reader" "size" "I") ∈ lw_all := lw_g (lw_at lw_m2 110 rfl) rfl
theorem q486 : (Jvm.Cond.fieldLink "OnePassport$Reader" (25 : Nat) "OnePassport$Reader" "family" "LOnePassport$Family;") ∈ lw_all := lw_g (lw_at lw_m2 111 rfl) rfl
theorem q487 : (Jvm.Cond.fieldLink "OnePassport$Reader" (41 : Nat) "OnePassport$Reader" "at" "I") ∈ lw_all := lw_g (lw_at lw_m2 112 rfl) rfl
theorem q488 : (Jvm.Cond.fieldLink "OnePassport$Reader" (52 : Nat) "OnePassport$Reader" "from" "I") ∈ lw_all := lw_g (lw_at lw_m2 113 rfl) rfl
theorem q489 : (Jvm.Cond.fieldLink "OnePassport$Reader" (62 : Nat) "OnePassport$Reader" "value" "I") ∈ lw_all := lw_g (lw_at lw_m2 114 rfl) rfl
theorem q490 : (Jvm.Cond.fieldLink "OnePassport$Reader" (35 : Nat) "OnePassport$Reader" "token" "LOnePassport$Token;") ∈ lw_all := lw_g (lw_at lw_m2 115 rfl) rfl
theorem q491 : (Jvm.Cond.fieldLink "OnePassport$Reader" (3 : Nat) "OnePassport$Reader" "this$0" "LOnePassport;") ∈ lw_all := lw_g (lw_at lw_m2 116 rfl) rfl
theorem q492 : (Jvm.Cond.laysFinal "OnePassport$Reader" "OnePassport$Reader" "size" "I") ∈ lw_all := lw_g (lw_at lw_m2 117 rfl) rfl
theorem q493 : (Jvm.Cond.soleField "OnePassport$Reader" "size") ∈ lw_all := lw_g (lw_at lw_m2 118 rfl) rfl
theorem q494 : (Jvm.Cond.laysFinal "OnePassport$Reader" "OnePassport$Reader" "family" "LOnePassport$Family;") ∈ lw_all := lw_g (lw_at lw_m2 119 rfl) rfl
theorem q495 : (Jvm.Cond.soleField "OnePassport$Reader" "family") ∈ lw_all := lw_g (lw_at lw_m2 120 rfl) rfl
theorem q496 : (Jvm.Cond.lays "OnePassport$Reader" "OnePassport$Reader" "at" "I") ∈ lw_all := lw_g (lw_at lw_m2 121 rfl) rfl
theorem q497 : (Jvm.Cond.soleField "OnePassport$Reader" "at") ∈ lw_all := lw_g (lw_at lw_m2 122 rfl) rfl
theorem q498 : (Jvm.Cond.lays "OnePassport$Reader" "OnePassport$Reader" "from" "I") ∈ lw_all := lw_g (lw_at lw_m2 123 rfl) rfl
theorem q499 : (Jvm.Cond.soleField "OnePassport$Reader" "from") ∈ lw_all := lw_g (lw_at lw_m2 124 rfl) rfl
theorem q500 : (Jvm.Cond.lays "OnePassport$Reader" "OnePassport$Reader" "value" "I") ∈ lw_all := lw_g (lw_at lw_m2 125 rfl) rfl
theorem q501 : (Jvm.Cond.soleField "OnePassport$Reader" "value") ∈ lw_all := lw_g (lw_at lw_m2 126 rfl) rfl
theorem q502 : (Jvm.Cond.lays "OnePassport$Reader" "OnePassport$Reader" "token" "LOnePassport$Token;") ∈ lw_all := lw_g (lw_at lw_m2 127 rfl) rfl
theorem q503 : (Jvm.Cond.soleField "OnePassport$Reader" "token") ∈ lw_all := lw_g (lw_at lw_m2 128 rfl) rfl
theorem q504 : (Jvm.Cond.laysFinal "OnePassport$Reader" "OnePassport$Reader" "this$0" "LOnePassport;") ∈ lw_all := lw_g (lw_at lw_m2 129 rfl) rfl
theorem q505 : (Jvm.Cond.soleField "OnePassport$Reader" "this$0") ∈ lw_all := lw_g (lw_at lw_m2 130 rfl) rfl
theorem q506 : (Jvm.Cond.superclass "OnePassport$Reader" "java/lang/Object") ∈ lw_all := lw_g (lw_at lw_m2 131 rfl) rfl
theorem q508 : (Jvm.Cond.instanceMethod ({ cls := "OnePassport$Reader", name := "read", desc := "()LOnePassport$Family;" } : Jvm.MethodName)) ∈ lw_all := lw_g (lw_at lw_m2 133 rfl) rfl
theorem q509 : (Jvm.Cond.selects "OnePassport$Reader" ({ cls := "OnePassport$Reader", name := "read", desc := "()LOnePassport$Family;" } : Jvm.MethodName) ({ cls := "OnePassport$Reader", name := "read", desc := "()LOnePassport$Family;" } : Jvm.MethodName)) ∈ lw_all := lw_g (lw_at lw_m2 134 rfl) rfl
theorem q510 : (Jvm.Cond.code ({ cls := "OnePassport$Reader", name := "read", desc := "()LOnePassport$Family;" } : Jvm.MethodName) prog_6_method_13_code (1 : Nat) (Option.some (Jvm.ClassFile.FieldType.object "OnePassport$Family"))) ∈ lw_all := lw_g (lw_at lw_m2 135 rfl) rfl
theorem q511 : (Jvm.Cond.methodLink "OnePassport$Reader" (182 : Nat) ({ cls := "OnePassport$Reader", name := "line", desc := "()V" } : Jvm.MethodName)) ∈ lw_all := lw_g (lw_at lw_m2 136 rfl) rfl
theorem q512 : (Jvm.Cond.privateMethod ({ cls := "OnePassport$Reader", name := "line", desc := "()V" } : Jvm.MethodName)) ∈ lw_tbl := lw_at lw_m2 137 rfl
theorem q513 : (Jvm.Cond.instanceMethod ({ cls := "OnePassport$Reader", name := "line", desc := "()V" } : Jvm.MethodName)) ∈ lw_all := lw_g (lw_at lw_m2 138 rfl) rfl
theorem q514 : (Jvm.Cond.code ({ cls := "OnePassport$Reader", name := "line", desc := "()V" } : Jvm.MethodName) prog_6_method_12_code (1 : Nat) (Option.none : Option Jvm.ClassFile.FieldType)) ∈ lw_all := lw_g (lw_at lw_m2 139 rfl) rfl
theorem q515 : (Jvm.Cond.stringRef "OnePassport$Reader" (158 : Nat) "family") ∈ lw_tbl := lw_at lw_m2 140 rfl
theorem q516 : (Jvm.Cond.methodLink "OnePassport$Reader" (107 : Nat) ({ cls := "OnePassport$Reader", name := "needs", desc := "(Ljava/lang/String;)V" } : Jvm.MethodName)) ∈ lw_all := lw_g (lw_at lw_m2 141 rfl) rfl
theorem q517 : (Jvm.Cond.privateMethod ({ cls := "OnePassport$Reader", name := "needs", desc := "(Ljava/lang/String;)V" } : Jvm.MethodName)) ∈ lw_tbl := lw_at lw_m2 142 rfl
theorem q518 : (Jvm.Cond.instanceMethod ({ cls := "OnePassport$Reader", name := "needs", desc := "(Ljava/lang/String;)V" } : Jvm.MethodName)) ∈ lw_all := lw_g (lw_at lw_m2 143 rfl) rfl
theorem q519 : (Jvm.Cond.code ({ cls := "OnePassport$Reader", name := "needs", desc := "(Ljava/lang/String;)V" } : Jvm.MethodName) prog_6_method_7_code (2 : Nat) (Option.none : Option Jvm.ClassFile.FieldType)) ∈ lw_all := lw_g (lw_at lw_m2 144 rfl) rfl
theorem q520 : (Jvm.Cond.methodLink "OnePassport$Reader" (100 : Nat) ({ cls := "OnePassport$Reader", name := "takes", desc := "(Ljava/lang/String;)Z" } : Jvm.MethodName)) ∈ lw_all := lw_g (lw_at lw_m2 145 rfl) rfl
theorem q521 : (Jvm.Cond.privateMethod ({ cls := "OnePassport$Reader", name := "takes", desc := "(Ljava/lang/String;)Z" } : Jvm.MethodName)) ∈ lw_tbl := lw_at lw_m2 146 rfl
theorem q522 : (Jvm.Cond.instanceMethod ({ cls := "OnePassport$Reader", name := "takes", desc := "(Ljava/lang/String;)Z" } : Jvm.MethodName)) ∈ lw_all := lw_g (lw_at lw_m2 147 rfl) rfl
theorem q523 : (Jvm.Cond.code ({ cls := "OnePassport$Reader", name := "takes", desc := "(Ljava/lang/String;)Z" } : Jvm.MethodName) prog_6_method_6_code (3 : Nat) (Option.some Jvm.ClassFile.FieldType.boolean)) ∈ lw_all := lw_g (lw_at lw_m2 148 rfl) rfl
theorem q524 : (Jvm.Cond.methodLink "OnePassport$Reader" (96 : Nat) ({ cls := "OnePassport$Reader", name := "is", desc := "(Ljava/lang/String;)Z" } : Jvm.MethodName)) ∈ lw_all := lw_g (lw_at lw_m2 149 rfl) rfl
theorem q525 : (Jvm.Cond.privateMethod ({ cls := "OnePassport$Reader", name := "is", desc := "(Ljava/lang/String;)Z" } : Jvm.MethodName)) ∈ lw_tbl := lw_at lw_m2 150 rfl
theorem q526 : (Jvm.Cond.instanceMethod ({ cls := "OnePassport$Reader", name := "is", desc := "(Ljava/lang/String;)Z" } : Jvm.MethodName)) ∈ lw_all := lw_g (lw_at lw_m2 151 rfl) rfl
theorem q527 : (Jvm.Cond.code ({ cls := "OnePassport$Reader", name := "is", desc := "(Ljava/lang/String;)Z" } : Jvm.MethodName) prog_6_method_5_code (3 : Nat) (Option.some Jvm.ClassFile.FieldType.boolean)) ∈ lw_all := lw_g (lw_at lw_m2 152 rfl) rfl
theorem q528 : (Jvm.Cond.methodLink "OnePassport$Reader" (86 : Nat) ({ cls := "java/lang/String", name := "length", desc := "()I" } : Jvm.MethodName)) ∈ lw_all := lw_g (lw_at lw_m2 153 rfl) rfl
theorem q538 : (Jvm.Cond.methodLink "OnePassport$Reader" (92 : Nat) ({ cls := "java/lang/String", name := "charAt", desc := "(I)C" } : Jvm.MethodName)) ∈ lw_all := lw_g (lw_at lw_m2 163 rfl) rfl
theorem q576 : (Jvm.Cond.methodLink "OnePassport$Reader" (103 : Nat) ({ cls := "OnePassport$Reader", name := "wrong", desc := "(I)LOnePassport$Fault;" } : Jvm.MethodName)) ∈ lw_all := lw_g (lw_at lw_m2 201 rfl) rfl
theorem q577 : (Jvm.Cond.privateMethod ({ cls := "OnePassport$Reader", name := "wrong", desc := "(I)LOnePassport$Fault;" } : Jvm.MethodName)) ∈ lw_tbl := lw_at lw_m2 202 rfl
theorem q578 : (Jvm.Cond.instanceMethod ({ cls := "OnePassport$Reader", name := "wrong", desc := "(I)LOnePassport$Fault;" } : Jvm.MethodName)) ∈ lw_all := lw_g (lw_at lw_m2 203 rfl) rfl
theorem q579 : (Jvm.Cond.code ({ cls := "OnePassport$Reader", name := "wrong", desc := "(I)LOnePassport$Fault;" } : Jvm.MethodName) prog_6_method_4_code (2 : Nat) (Option.some (Jvm.ClassFile.FieldType.object "OnePassport$Fault"))) ∈ lw_all := lw_g (lw_at lw_m2 204 rfl) rfl
theorem q580 : (Jvm.Cond.classLink "OnePassport$Reader" (81 : Nat) "OnePassport$Fault") ∈ lw_all := lw_g (lw_at lw_m2 205 rfl) rfl
theorem q634 : (Jvm.Cond.methodLink "OnePassport$Reader" (83 : Nat) ({ cls := "OnePassport$Fault", name := "<init>", desc := "(II)V" } : Jvm.MethodName)) ∈ lw_all := lw_g (lw_at lw_m3 19 rfl) rfl
theorem q664 : (Jvm.Cond.stringRef "OnePassport$Reader" (159 : Nat) "loaf") ∈ lw_tbl := lw_at lw_m3 49 rfl
theorem q665 : (Jvm.Cond.methodLink "OnePassport$Reader" (119 : Nat) ({ cls := "OnePassport$Reader", name := "told", desc := "(Ljava/lang/String;II)I" } : Jvm.MethodName)) ∈ lw_all := lw_g (lw_at lw_m3 50 rfl) rfl
theorem q666 : (Jvm.Cond.privateMethod ({ cls := "OnePassport$Reader", name := "told", desc := "(Ljava/lang/String;II)I" } : Jvm.MethodName)) ∈ lw_tbl := lw_at lw_m3 51 rfl
theorem q667 : (Jvm.Cond.instanceMethod ({ cls := "OnePassport$Reader", name := "told", desc := "(Ljava/lang/String;II)I" } : Jvm.MethodName)) ∈ lw_all := lw_g (lw_at lw_m3 52 rfl) rfl
theorem q668 : (Jvm.Cond.code ({ cls := "OnePassport$Reader", name := "told", desc := "(Ljava/lang/String;II)I" } : Jvm.MethodName) prog_6_method_8_code (5 : Nat) (Option.some Jvm.ClassFile.FieldType.int)) ∈ lw_all := lw_g (lw_at lw_m3 53 rfl) rfl
theorem q669 : (Jvm.Cond.stringRef "OnePassport$Reader" (163 : Nat) "compare") ∈ lw_tbl := lw_at lw_m3 54 rfl
theorem q670 : (Jvm.Cond.stringRef "OnePassport$Reader" (169 : Nat) "person") ∈ lw_tbl := lw_at lw_m3 55 rfl
theorem q671 : (Jvm.Cond.methodLink "OnePassport$Reader" (171 : Nat) ({ cls := "OnePassport$Reader", name := "takes", desc := "(Ljava/lang/String;Z)Z" } : Jvm.MethodName)) ∈ lw_all := lw_g (lw_at lw_m3 56 rfl) rfl
theorem q672 : (Jvm.Cond.privateMethod ({ cls := "OnePassport$Reader", name := "takes", desc := "(Ljava/lang/String;Z)Z" } : Jvm.MethodName)) ∈ lw_tbl := lw_at lw_m3 57 rfl
theorem q673 : (Jvm.Cond.instanceMethod ({ cls := "OnePassport$Reader", name := "takes", desc := "(Ljava/lang/String;Z)Z" } : Jvm.MethodName)) ∈ lw_all := lw_g (lw_at lw_m3 58 rfl) rfl
theorem q674 : (Jvm.Cond.code ({ cls := "OnePassport$Reader", name := "takes", desc := "(Ljava/lang/String;Z)Z" } : Jvm.MethodName) prog_6_method_11_code (3 : Nat) (Option.some Jvm.ClassFile.FieldType.boolean)) ∈ lw_all := lw_g (lw_at lw_m3 59 rfl) rfl
theorem q675 : (Jvm.Cond.methodLink "OnePassport$Reader" (174 : Nat) ({ cls := "OnePassport$Reader", name := "newPerson", desc := "()V" } : Jvm.MethodName)) ∈ lw_all := lw_g (lw_at lw_m3 60 rfl) rfl
theorem q676 : (Jvm.Cond.privateMethod ({ cls := "OnePassport$Reader", name := "newPerson", desc := "()V" } : Jvm.MethodName)) ∈ lw_tbl := lw_at lw_m3 61 rfl
theorem q677 : (Jvm.Cond.instanceMethod ({ cls := "OnePassport$Reader", name := "newPerson", desc := "()V" } : Jvm.MethodName)) ∈ lw_all := lw_g (lw_at lw_m3 62 rfl) rfl
theorem q678 : (Jvm.Cond.code ({ cls := "OnePassport$Reader", name := "newPerson", desc := "()V" } : Jvm.MethodName) prog_6_method_9_code (2 : Nat) (Option.none : Option Jvm.ClassFile.FieldType)) ∈ lw_all := lw_g (lw_at lw_m3 63 rfl) rfl
theorem q679 : (Jvm.Cond.stringRef "OnePassport$Reader" (118 : Nat) "like") ∈ lw_tbl := lw_at lw_m3 64 rfl
theorem q680 : (Jvm.Cond.stringRef "OnePassport$Reader" (126 : Nat) "nose") ∈ lw_tbl := lw_at lw_m3 65 rfl
theorem q681 : (Jvm.Cond.methodLinkNest "OnePassport$Reader" (130 : Nat) ({ cls := "OnePassport", name := "has", desc := "(II)Z" } : Jvm.MethodName) "OnePassport") ∈ lw_tbl := lw_at lw_m3 66 rfl
theorem q684 : (Jvm.Cond.stringRef "OnePassport$Reader" (133 : Nat) "child") ∈ lw_tbl := lw_at lw_m3 69 rfl
theorem q685 : (Jvm.Cond.stringRef "OnePassport$Reader" (138 : Nat) "stays") ∈ lw_tbl := lw_at lw_m3 70 rfl
theorem q686 : (Jvm.Cond.stringRef "OnePassport$Reader" (177 : Nat) "post") ∈ lw_tbl := lw_at lw_m3 71 rfl
theorem q687 : (Jvm.Cond.methodLink "OnePassport$Reader" (179 : Nat) ({ cls := "OnePassport$Reader", name := "newPost", desc := "()V" } : Jvm.MethodName)) ∈ lw_all := lw_g (lw_at lw_m3 72 rfl) rfl
theorem q688 : (Jvm.Cond.privateMethod ({ cls := "OnePassport$Reader", name := "newPost", desc := "()V" } : Jvm.MethodName)) ∈ lw_tbl := lw_at lw_m3 73 rfl
theorem q689 : (Jvm.Cond.instanceMethod ({ cls := "OnePassport$Reader", name := "newPost", desc := "()V" } : Jvm.MethodName)) ∈ lw_all := lw_g (lw_at lw_m3 74 rfl) rfl
theorem q690 : (Jvm.Cond.code ({ cls := "OnePassport$Reader", name := "newPost", desc := "()V" } : Jvm.MethodName) prog_6_method_10_code (2 : Nat) (Option.none : Option Jvm.ClassFile.FieldType)) ∈ lw_all := lw_g (lw_at lw_m3 75 rfl) rfl
theorem q691 : (Jvm.Cond.stringRef "OnePassport$Reader" (146 : Nat) "strict") ∈ lw_tbl := lw_at lw_m3 76 rfl
theorem q692 : (Jvm.Cond.stringRef "OnePassport$Reader" (150 : Nat) "keen") ∈ lw_tbl := lw_at lw_m3 77 rfl
theorem q693 : (Jvm.Cond.stringRef "OnePassport$Reader" (154 : Nat) "looks") ∈ lw_tbl := lw_at lw_m3 78 rfl
theorem q1254 : (Jvm.Cond.selects "OnePassport$Reader" ({ cls := "java/lang/Object", name := "getClass", desc := "()Ljava/lang/Class;" } : Jvm.MethodName) ({ cls := "java/lang/Object", name := "getClass", desc := "()Ljava/lang/Class;" } : Jvm.MethodName)) ∈ lw_all := lw_g (lw_at lw_m5 159 rfl) rfl
theorem q2114 : (Jvm.Cond.castable "OnePassport$Reader" "java/lang/Object") ∈ lw_tbl := lw_at lw_m9 59 rfl
theorem in_X7 : ∀ w ∈ wsX70, w ∈ lw_all := lw_in wsX70 [492, 494, 496, 498, 500, 502, 504] (by decide +kernel) (by decide +kernel)
theorem q156 : (Jvm.Cond.initialized "OnePassport$Fault") ∈ lw_all := lw_g (lw_at lw_m1 21 rfl) rfl
theorem q581 : (Jvm.Cond.instantiable "OnePassport$Fault" (8 : Nat)) ∈ lw_all := lw_g (lw_at lw_m2 206 rfl) rfl
theorem q582 : (Jvm.Cond.castable "OnePassport$Fault" "OnePassport$Fault") ∈ lw_tbl := lw_at lw_m2 207 rfl
theorem q587 : (Jvm.Cond.selects "OnePassport$Fault" ({ cls := "java/lang/Throwable", name := "fillInStackTrace", desc := "(I)Ljava/lang/Throwable;" } : Jvm.MethodName) ({ cls := "java/lang/Throwable", name := "fillInStackTrace", desc := "(I)Ljava/lang/Throwable;" } : Jvm.MethodName)) ∈ lw_all := lw_g (lw_at lw_m2 212 rfl) rfl
theorem q588 : (Jvm.Cond.selects "OnePassport$Fault" ({ cls := "java/lang/Throwable", name := "fillInStackTrace", desc := "()Ljava/lang/Throwable;" } : Jvm.MethodName) ({ cls := "java/lang/Throwable", name := "fillInStackTrace", desc := "()Ljava/lang/Throwable;" } : Jvm.MethodName)) ∈ lw_all := lw_g (lw_at lw_m2 213 rfl) rfl
theorem q589 : (Jvm.Cond.lays "OnePassport$Fault" "java/lang/Throwable" "cause" "Ljava/lang/Throwable;") ∈ lw_all := lw_g (lw_at lw_m2 214 rfl) rfl
theorem q591 : (Jvm.Cond.lays "OnePassport$Fault" "java/lang/Throwable" "stackTrace" "[Ljava/lang/StackTraceElement;") ∈ lw_all := lw_g (lw_at lw_m2 216 rfl) rfl
theorem q593 : (Jvm.Cond.lays "OnePassport$Fault" "java/lang/Throwable" "suppressedExceptions" "Ljava/util/List;") ∈ lw_all := lw_g (lw_at lw_m2 218 rfl) rfl
theorem q595 : (Jvm.Cond.lays "OnePassport$Fault" "java/lang/Throwable" "detailMessage" "Ljava/lang/String;") ∈ lw_all := lw_g (lw_at lw_m2 220 rfl) rfl
theorem q597 : (Jvm.Cond.lays "OnePassport$Fault" "java/lang/Throwable" "backtrace" "Ljava/lang/Object;") ∈ lw_all := lw_g (lw_at lw_m2 222 rfl) rfl
theorem q635 : (Jvm.Cond.instanceMethod ({ cls := "OnePassport$Fault", name := "<init>", desc := "(II)V" } : Jvm.MethodName)) ∈ lw_all := lw_g (lw_at lw_m3 20 rfl) rfl
theorem q636 : (Jvm.Cond.code ({ cls := "OnePassport$Fault", name := "<init>", desc := "(II)V" } : Jvm.MethodName) prog_5_method_1_code (3 : Nat) (Option.none : Option Jvm.ClassFile.FieldType)) ∈ lw_all := lw_g (lw_at lw_m3 21 rfl) rfl
theorem q637 : (Jvm.Cond.methodLink "OnePassport$Fault" (1 : Nat) ({ cls := "java/lang/Exception", name := "<init>", desc := "(Ljava/lang/String;Ljava/lang/Throwable;ZZ)V" } : Jvm.MethodName)) ∈ lw_all := lw_g (lw_at lw_m3 22 rfl) rfl
theorem q643 : (Jvm.Cond.fieldLink "OnePassport$Fault" (7 : Nat) "OnePassport$Fault" "kind" "I") ∈ lw_all := lw_g (lw_at lw_m3 28 rfl) rfl
theorem q645 : (Jvm.Cond.fieldLink "OnePassport$Fault" (13 : Nat) "OnePassport$Fault" "place" "I") ∈ lw_all := lw_g (lw_at lw_m3 30 rfl) rfl
theorem q652 : (Jvm.Cond.laysFinal "OnePassport$Fault" "OnePassport$Fault" "kind" "I") ∈ lw_all := lw_g (lw_at lw_m3 37 rfl) rfl
theorem q653 : (Jvm.Cond.soleField "OnePassport$Fault" "kind") ∈ lw_all := lw_g (lw_at lw_m3 38 rfl) rfl
theorem q654 : (Jvm.Cond.laysFinal "OnePassport$Fault" "OnePassport$Fault" "place" "I") ∈ lw_all := lw_g (lw_at lw_m3 39 rfl) rfl
theorem q655 : (Jvm.Cond.soleField "OnePassport$Fault" "place") ∈ lw_all := lw_g (lw_at lw_m3 40 rfl) rfl
theorem q660 : (Jvm.Cond.lays "OnePassport$Fault" "java/lang/Throwable" "depth" "I") ∈ lw_all := lw_g (lw_at lw_m3 45 rfl) rfl
theorem q663 : (Jvm.Cond.superclass "OnePassport$Fault" "java/lang/Exception") ∈ lw_all := lw_g (lw_at lw_m3 48 rfl) rfl
theorem q1253 : (Jvm.Cond.selects "OnePassport$Fault" ({ cls := "java/lang/Object", name := "getClass", desc := "()Ljava/lang/Class;" } : Jvm.MethodName) ({ cls := "java/lang/Object", name := "getClass", desc := "()Ljava/lang/Class;" } : Jvm.MethodName)) ∈ lw_all := lw_g (lw_at lw_m5 158 rfl) rfl
theorem q2116 : (Jvm.Cond.castable "OnePassport$Fault" "java/lang/Object") ∈ lw_tbl := lw_at lw_m9 61 rfl
theorem in_X8 : ∀ w ∈ wsX80, w ∈ lw_all := lw_in wsX80 [589, 591, 593, 595, 597, 660, 652, 654] (by decide +kernel) (by decide +kernel)
theorem q135 : (Jvm.Cond.initialized "OnePassportLaw") ∈ lw_all := lw_g (lw_at lw_m1 0 rfl) rfl
theorem q168 : (Jvm.Cond.classLink "OnePassportLaw" (7 : Nat) "OnePassport") ∈ lw_all := lw_g (lw_at lw_m1 33 rfl) rfl
theorem q170 : (Jvm.Cond.methodLink "OnePassportLaw" (9 : Nat) ({ cls := "OnePassport", name := "<init>", desc := "()V" } : Jvm.MethodName)) ∈ lw_all := lw_g (lw_at lw_m1 35 rfl) rfl
theorem q434 : (Jvm.Cond.methodLink "OnePassportLaw" (13 : Nat) ({ cls := "OnePassport", name := "feed", desc := "(IIIII)I" } : Jvm.MethodName)) ∈ lw_all := lw_g (lw_at lw_m2 59 rfl) rfl
theorem q442 : (Jvm.Cond.methodLink "OnePassportLaw" (18 : Nat) ({ cls := "OnePassport", name := "end", desc := "(I)I" } : Jvm.MethodName)) ∈ lw_all := lw_g (lw_at lw_m2 67 rfl) rfl
theorem q449 : (Jvm.Cond.methodLink "OnePassportLaw" (23 : Nat) ({ cls := "OnePassport", name := "family", desc := "()I" } : Jvm.MethodName)) ∈ lw_all := lw_g (lw_at lw_m2 74 rfl) rfl
theorem q694 : (Jvm.Cond.methodLink "OnePassportLaw" (28 : Nat) ({ cls := "OnePassport", name := "fault", desc := "(I)I" } : Jvm.MethodName)) ∈ lw_all := lw_g (lw_at lw_m3 79 rfl) rfl
theorem q698 : (Jvm.Cond.methodLink "OnePassportLaw" (41 : Nat) ({ cls := "OnePassport", name := "risk", desc := "(II)I" } : Jvm.MethodName)) ∈ lw_all := lw_g (lw_at lw_m3 83 rfl) rfl
theorem q714 : (Jvm.Cond.methodLink "OnePassportLaw" (45 : Nat) ({ cls := "OnePassport", name := "after", desc := "(II)I" } : Jvm.MethodName)) ∈ lw_all := lw_g (lw_at lw_m3 99 rfl) rfl
theorem q730 : (Jvm.Cond.methodLink "OnePassportLaw" (32 : Nat) ({ cls := "OnePassport", name := "person", desc := "(II)I" } : Jvm.MethodName)) ∈ lw_all := lw_g (lw_at lw_m3 115 rfl) rfl
theorem q762 : (Jvm.Cond.methodLink "OnePassportLaw" (37 : Nat) ({ cls := "OnePassport", name := "post", desc := "(II)I" } : Jvm.MethodName)) ∈ lw_all := lw_g (lw_at lw_m3 147 rfl) rfl
theorem q766 : (Jvm.Cond.methodLink "OnePassportLaw" (49 : Nat) ({ cls := "OnePassport", name := "now", desc := "(I)I" } : Jvm.MethodName)) ∈ lw_all := lw_g (lw_at lw_m3 151 rfl) rfl
theorem q778 : (Jvm.Cond.methodLink "OnePassportLaw" (53 : Nat) ({ cls := "OnePassport", name := "stamp", desc := "(I)I" } : Jvm.MethodName)) ∈ lw_all := lw_g (lw_at lw_m3 163 rfl) rfl
theorem q782 : (Jvm.Cond.methodLink "OnePassportLaw" (57 : Nat) ({ cls := "OnePassport", name := "lies", desc := "()I" } : Jvm.MethodName)) ∈ lw_all := lw_g (lw_at lw_m3 167 rfl) rfl
theorem q790 : (Jvm.Cond.methodLink "OnePassportLaw" (61 : Nat) ({ cls := "OnePassport", name := "why", desc := "(III)I" } : Jvm.MethodName)) ∈ lw_all := lw_g (lw_at lw_m3 175 rfl) rfl
theorem q806 : (Jvm.Cond.methodLink "OnePassportLaw" (66 : Nat) ({ cls := "OnePassport", name := "cross", desc := "(III)I" } : Jvm.MethodName)) ∈ lw_all := lw_g (lw_at lw_m3 191 rfl) rfl
theorem q814 : (Jvm.Cond.methodLink "OnePassportLaw" (70 : Nat) ({ cls := "OnePassport", name := "loaf", desc := "()I" } : Jvm.MethodName)) ∈ lw_all := lw_g (lw_at lw_m3 199 rfl) rfl
theorem q818 : (Jvm.Cond.methodLink "OnePassportLaw" (74 : Nat) ({ cls := "OnePassport", name := "undo", desc := "()I" } : Jvm.MethodName)) ∈ lw_all := lw_g (lw_at lw_m3 203 rfl) rfl
theorem q822 : (Jvm.Cond.methodLink "OnePassportLaw" (78 : Nat) ({ cls := "OnePassport", name := "anew", desc := "()I" } : Jvm.MethodName)) ∈ lw_all := lw_g (lw_at lw_m3 207 rfl) rfl
theorem q826 : (Jvm.Cond.methodLink "OnePassportLaw" (82 : Nat) ({ cls := "OnePassport", name := "act", desc := "(I)I" } : Jvm.MethodName)) ∈ lw_all := lw_g (lw_at lw_m3 211 rfl) rfl
theorem q830 : (Jvm.Cond.methodLink "OnePassportLaw" (86 : Nat) ({ cls := "OnePassport", name := "acts", desc := "()I" } : Jvm.MethodName)) ∈ lw_all := lw_g (lw_at lw_m3 215 rfl) rfl
theorem q848 : (Jvm.Cond.methodLink "OnePassportLaw" (90 : Nat) ({ cls := "OnePassport", name := "may", desc := "(I)I" } : Jvm.MethodName)) ∈ lw_all := lw_g (lw_at lw_m3 233 rfl) rfl
theorem q852 : (Jvm.Cond.methodLink "OnePassportLaw" (94 : Nat) ({ cls := "OnePassport", name := "days", desc := "()I" } : Jvm.MethodName)) ∈ lw_all := lw_g (lw_at lw_m3 237 rfl) rfl
theorem q919 : (Jvm.Cond.methodLink "OnePassportLaw" (98 : Nat) ({ cls := "OnePassport", name := "plan", desc := "(I)I" } : Jvm.MethodName)) ∈ lw_all := lw_g (lw_at lw_m4 64 rfl) rfl
theorem q939 : (Jvm.Cond.methodLink "OnePassportLaw" (102 : Nat) ({ cls := "OnePassport", name := "surest", desc := "()I" } : Jvm.MethodName)) ∈ lw_all := lw_g (lw_at lw_m4 84 rfl) rfl
theorem q947 : (Jvm.Cond.methodLink "OnePassportLaw" (106 : Nat) ({ cls := "OnePassport", name := "surely", desc := "(I)I" } : Jvm.MethodName)) ∈ lw_all := lw_g (lw_at lw_m4 92 rfl) rfl
theorem q951 : (Jvm.Cond.methodLink "OnePassportLaw" (110 : Nat) ({ cls := "OnePassport", name := "slowly", desc := "()I" } : Jvm.MethodName)) ∈ lw_all := lw_g (lw_at lw_m4 96 rfl) rfl
theorem q955 : (Jvm.Cond.methodLink "OnePassportLaw" (114 : Nat) ({ cls := "OnePassport", name := "crossings", desc := "()I" } : Jvm.MethodName)) ∈ lw_all := lw_g (lw_at lw_m4 100 rfl) rfl
theorem q959 : (Jvm.Cond.methodLink "OnePassportLaw" (118 : Nat) ({ cls := "OnePassport", name := "moves", desc := "()I" } : Jvm.MethodName)) ∈ lw_all := lw_g (lw_at lw_m4 104 rfl) rfl
theorem q963 : (Jvm.Cond.methodLink "OnePassportLaw" (122 : Nat) ({ cls := "OnePassport", name := "chance", desc := "(I)J" } : Jvm.MethodName)) ∈ lw_all := lw_g (lw_at lw_m4 108 rfl) rfl
theorem q973 : (Jvm.Cond.methodLink "OnePassportLaw" (127 : Nat) ({ cls := "OnePassport", name := "states", desc := "()I" } : Jvm.MethodName)) ∈ lw_all := lw_g (lw_at lw_m4 118 rfl) rfl
theorem q981 : (Jvm.Cond.methodLink "OnePassportLaw" (131 : Nat) ({ cls := "OnePassport", name := "hopeful", desc := "()I" } : Jvm.MethodName)) ∈ lw_all := lw_g (lw_at lw_m4 126 rfl) rfl
theorem q989 : (Jvm.Cond.methodLink "OnePassportLaw" (135 : Nat) ({ cls := "OnePassport", name := "till", desc := "(I)I" } : Jvm.MethodName)) ∈ lw_all := lw_g (lw_at lw_m4 134 rfl) rfl
theorem q997 : (Jvm.Cond.methodLink "OnePassportLaw" (139 : Nat) ({ cls := "OnePassport", name := "over", desc := "(I)I" } : Jvm.MethodName)) ∈ lw_all := lw_g (lw_at lw_m4 142 rfl) rfl
theorem q1001 : (Jvm.Cond.methodLink "OnePassportLaw" (143 : Nat) ({ cls := "OnePassport", name := "never", desc := "()I" } : Jvm.MethodName)) ∈ lw_all := lw_g (lw_at lw_m4 146 rfl) rfl
theorem q1005 : (Jvm.Cond.methodLink "OnePassportLaw" (147 : Nat) ({ cls := "OnePassport", name := "lost", desc := "(I)I" } : Jvm.MethodName)) ∈ lw_all := lw_g (lw_at lw_m4 150 rfl) rfl
theorem q1009 : (Jvm.Cond.methodLink "OnePassportLaw" (151 : Nat) ({ cls := "OnePassport", name := "worst", desc := "()I" } : Jvm.MethodName)) ∈ lw_all := lw_g (lw_at lw_m4 154 rfl) rfl
theorem q1023 : (Jvm.Cond.methodLink "OnePassportLaw" (155 : Nat) ({ cls := "OnePassport", name := "judge", desc := "(I)I" } : Jvm.MethodName)) ∈ lw_all := lw_g (lw_at lw_m4 168 rfl) rfl
theorem q1082 : (Jvm.Cond.methodLink "OnePassportLaw" (159 : Nat) ({ cls := "OnePassport", name := "there", desc := "(I)I" } : Jvm.MethodName)) ∈ lw_all := lw_g (lw_at lw_m4 227 rfl) rfl
theorem q1086 : (Jvm.Cond.methodLink "OnePassportLaw" (163 : Nat) ({ cls := "OnePassport", name := "takes", desc := "(I)I" } : Jvm.MethodName)) ∈ lw_all := lw_g (lw_at lw_m4 231 rfl) rfl
theorem q1090 : (Jvm.Cond.methodLink "OnePassportLaw" (167 : Nat) ({ cls := "OnePassport", name := "dares", desc := "(I)I" } : Jvm.MethodName)) ∈ lw_all := lw_g (lw_at lw_m4 235 rfl) rfl
theorem q1094 : (Jvm.Cond.methodLink "OnePassportLaw" (171 : Nat) ({ cls := "OnePassport", name := "lied", desc := "(I)I" } : Jvm.MethodName)) ∈ lw_all := lw_g (lw_at lw_m4 239 rfl) rfl
theorem q1098 : (Jvm.Cond.methodLink "OnePassportLaw" (175 : Nat) ({ cls := "OnePassport", name := "stamped", desc := "(I)J" } : Jvm.MethodName)) ∈ lw_all := lw_g (lw_at lw_m5 3 rfl) rfl
theorem q1134 : (Jvm.Cond.methodLink "OnePassportLaw" (179 : Nat) ({ cls := "OnePassport", name := "had", desc := "(II)I" } : Jvm.MethodName)) ∈ lw_all := lw_g (lw_at lw_m5 39 rfl) rfl
theorem q1138 : (Jvm.Cond.methodLink "OnePassportLaw" (183 : Nat) ({ cls := "OnePassport", name := "sure", desc := "(II)I" } : Jvm.MethodName)) ∈ lw_all := lw_g (lw_at lw_m5 43 rfl) rfl
theorem q1142 : (Jvm.Cond.methodLink "OnePassportLaw" (187 : Nat) ({ cls := "OnePassport", name := "dared", desc := "(I)I" } : Jvm.MethodName)) ∈ lw_all := lw_g (lw_at lw_m5 47 rfl) rfl
theorem q1146 : (Jvm.Cond.methodLink "OnePassportLaw" (191 : Nat) ({ cls := "OnePassport", name := "alone", desc := "(II)I" } : Jvm.MethodName)) ∈ lw_all := lw_g (lw_at lw_m5 51 rfl) rfl
theorem q1151 : (Jvm.Cond.methodLink "OnePassportLaw" (195 : Nat) ({ cls := "OnePassport", name := "worth", desc := "(II)I" } : Jvm.MethodName)) ∈ lw_all := lw_g (lw_at lw_m5 56 rfl) rfl
theorem q1159 : (Jvm.Cond.methodLink "OnePassportLaw" (199 : Nat) ({ cls := "OnePassport", name := "whom", desc := "(I)I" } : Jvm.MethodName)) ∈ lw_all := lw_g (lw_at lw_m5 64 rfl) rfl
theorem q1163 : (Jvm.Cond.methodLink "OnePassportLaw" (203 : Nat) ({ cls := "OnePassport", name := "blur", desc := "(I)I" } : Jvm.MethodName)) ∈ lw_all := lw_g (lw_at lw_m5 68 rfl) rfl
theorem q1167 : (Jvm.Cond.methodLink "OnePassportLaw" (207 : Nat) ({ cls := "OnePassport", name := "looks", desc := "(I)I" } : Jvm.MethodName)) ∈ lw_all := lw_g (lw_at lw_m5 72 rfl) rfl
theorem q1171 : (Jvm.Cond.methodLink "OnePassportLaw" (211 : Nat) ({ cls := "OnePassport", name := "drawn", desc := "(II)I" } : Jvm.MethodName)) ∈ lw_all := lw_g (lw_at lw_m5 76 rfl) rfl
theorem q1187 : (Jvm.Cond.methodLink "OnePassportLaw" (215 : Nat) ({ cls := "OnePassport", name := "luck", desc := "(II)I" } : Jvm.MethodName)) ∈ lw_all := lw_g (lw_at lw_m5 92 rfl) rfl
theorem q1192 : (Jvm.Cond.methodLink "OnePassportLaw" (219 : Nat) ({ cls := "OnePassport", name := "grow", desc := "(II)I" } : Jvm.MethodName)) ∈ lw_all := lw_g (lw_at lw_m5 97 rfl) rfl
theorem q1196 : (Jvm.Cond.methodLink "OnePassportLaw" (223 : Nat) ({ cls := "OnePassport", name := "guard", desc := "(II)I" } : Jvm.MethodName)) ∈ lw_all := lw_g (lw_at lw_m5 101 rfl) rfl
theorem q1200 : (Jvm.Cond.methodLink "OnePassportLaw" (227 : Nat) ({ cls := "OnePassport", name := "stay", desc := "(II)I" } : Jvm.MethodName)) ∈ lw_all := lw_g (lw_at lw_m5 105 rfl) rfl
theorem q1204 : (Jvm.Cond.methodLink "OnePassportLaw" (231 : Nat) ({ cls := "OnePassport", name := "count", desc := "(I)I" } : Jvm.MethodName)) ∈ lw_all := lw_g (lw_at lw_m5 109 rfl) rfl
theorem q1208 : (Jvm.Cond.methodLink "OnePassportLaw" (235 : Nat) ({ cls := "OnePassport", name := "image", desc := "(I)I" } : Jvm.MethodName)) ∈ lw_all := lw_g (lw_at lw_m5 113 rfl) rfl
theorem q1296 : (Jvm.Cond.methodLink "OnePassportLaw" (239 : Nat) ({ cls := "OnePassport", name := "back", desc := "(I)I" } : Jvm.MethodName)) ∈ lw_all := lw_g (lw_at lw_m5 201 rfl) rfl
theorem q1308 : (Jvm.Cond.methodLink "OnePassportLaw" (243 : Nat) ({ cls := "OnePassport", name := "row", desc := "(III)I" } : Jvm.MethodName)) ∈ lw_all := lw_g (lw_at lw_m5 213 rfl) rfl
theorem q1344 : (Jvm.Cond.methodLink "OnePassportLaw" (249 : Nat) ({ cls := "OnePassport", name := "write", desc := "(IIJ)I" } : Jvm.MethodName)) ∈ lw_all := lw_g (lw_at lw_m6 9 rfl) rfl
theorem q1371 : (Jvm.Cond.methodLink "OnePassportLaw" (254 : Nat) ({ cls := "OnePassport", name := "paste", desc := "(IIIII)I" } : Jvm.MethodName)) ∈ lw_all := lw_g (lw_at lw_m6 36 rfl) rfl
theorem q1391 : (Jvm.Cond.classLink "OnePassportLaw" (10 : Nat) "OnePassportModel") ∈ lw_all := lw_g (lw_at lw_m6 56 rfl) rfl
theorem q1393 : (Jvm.Cond.methodLink "OnePassportLaw" (12 : Nat) ({ cls := "OnePassportModel", name := "<init>", desc := "()V" } : Jvm.MethodName)) ∈ lw_all := lw_g (lw_at lw_m6 58 rfl) rfl
theorem q1544 : (Jvm.Cond.methodLink "OnePassportLaw" (246 : Nat) ({ cls := "OnePassportModel", name := "row", desc := "(III)I" } : Jvm.MethodName)) ∈ lw_all := lw_g (lw_at lw_m6 209 rfl) rfl
theorem q1555 : (Jvm.Cond.methodLink "OnePassportLaw" (253 : Nat) ({ cls := "OnePassportModel", name := "write", desc := "(IIJ)I" } : Jvm.MethodName)) ∈ lw_all := lw_g (lw_at lw_m6 220 rfl) rfl
theorem q1562 : (Jvm.Cond.methodLink "OnePassportLaw" (257 : Nat) ({ cls := "OnePassportModel", name := "paste", desc := "(IIIII)I" } : Jvm.MethodName)) ∈ lw_all := lw_g (lw_at lw_m6 227 rfl) rfl
theorem q1566 : (Jvm.Cond.methodLink "OnePassportLaw" (17 : Nat) ({ cls := "OnePassportModel", name := "feed", desc := "(IIIII)I" } : Jvm.MethodName)) ∈ lw_all := lw_g (lw_at lw_m6 231 rfl) rfl
theorem q1574 : (Jvm.Cond.methodLink "OnePassportLaw" (22 : Nat) ({ cls := "OnePassportModel", name := "end", desc := "(I)I" } : Jvm.MethodName)) ∈ lw_all := lw_g (lw_at lw_m6 239 rfl) rfl
theorem q1578 : (Jvm.Cond.methodLink "OnePassportLaw" (31 : Nat) ({ cls := "OnePassportModel", name := "fault", desc := "(I)I" } : Jvm.MethodName)) ∈ lw_all := lw_g (lw_at lw_m7 3 rfl) rfl
theorem q1582 : (Jvm.Cond.methodLink "OnePassportLaw" (27 : Nat) ({ cls := "OnePassportModel", name := "family", desc := "()I" } : Jvm.MethodName)) ∈ lw_all := lw_g (lw_at lw_m7 7 rfl) rfl
theorem q1681 : (Jvm.Cond.methodLink "OnePassportLaw" (36 : Nat) ({ cls := "OnePassportModel", name := "person", desc := "(II)I" } : Jvm.MethodName)) ∈ lw_all := lw_g (lw_at lw_m7 106 rfl) rfl
theorem q1726 : (Jvm.Cond.methodLink "OnePassportLaw" (40 : Nat) ({ cls := "OnePassportModel", name := "post", desc := "(II)I" } : Jvm.MethodName)) ∈ lw_all := lw_g (lw_at lw_m7 151 rfl) rfl
theorem q1734 : (Jvm.Cond.methodLink "OnePassportLaw" (44 : Nat) ({ cls := "OnePassportModel", name := "risk", desc := "(II)I" } : Jvm.MethodName)) ∈ lw_all := lw_g (lw_at lw_m7 159 rfl) rfl
theorem q1738 : (Jvm.Cond.methodLink "OnePassportLaw" (48 : Nat) ({ cls := "OnePassportModel", name := "after", desc := "(II)I" } : Jvm.MethodName)) ∈ lw_all := lw_g (lw_at lw_m7 163 rfl) rfl
theorem q1746 : (Jvm.Cond.methodLink "OnePassportLaw" (52 : Nat) ({ cls := "OnePassportModel", name := "now", desc := "(I)I" } : Jvm.MethodName)) ∈ lw_all := lw_g (lw_at lw_m7 171 rfl) rfl
theorem q1754 : (Jvm.Cond.methodLink "OnePassportLaw" (56 : Nat) ({ cls := "OnePassportModel", name := "stamp", desc := "(I)I" } : Jvm.MethodName)) ∈ lw_all := lw_g (lw_at lw_m7 179 rfl) rfl
theorem q1758 : (Jvm.Cond.methodLink "OnePassportLaw" (60 : Nat) ({ cls := "OnePassportModel", name := "lies", desc := "()I" } : Jvm.MethodName)) ∈ lw_all := lw_g (lw_at lw_m7 183 rfl) rfl
theorem q1766 : (Jvm.Cond.methodLink "OnePassportLaw" (65 : Nat) ({ cls := "OnePassportModel", name := "why", desc := "(III)I" } : Jvm.MethodName)) ∈ lw_all := lw_g (lw_at lw_m7 191 rfl) rfl
theorem q1786 : (Jvm.Cond.methodLink "OnePassportLaw" (69 : Nat) ({ cls := "OnePassportModel", name := "cross", desc := "(III)I" } : Jvm.MethodName)) ∈ lw_all := lw_g (lw_at lw_m7 211 rfl) rfl
theorem q1794 : (Jvm.Cond.methodLink "OnePassportLaw" (73 : Nat) ({ cls := "OnePassportModel", name := "loaf", desc := "()I" } : Jvm.MethodName)) ∈ lw_all := lw_g (lw_at lw_m7 219 rfl) rfl
theorem q1798 : (Jvm.Cond.methodLink "OnePassportLaw" (77 : Nat) ({ cls := "OnePassportModel", name := "undo", desc := "()I" } : Jvm.MethodName)) ∈ lw_all := lw_g (lw_at lw_m7 223 rfl) rfl
theorem q1802 : (Jvm.Cond.methodLink "OnePassportLaw" (81 : Nat) ({ cls := "OnePassportModel", name := "anew", desc := "()I" } : Jvm.MethodName)) ∈ lw_all := lw_g (lw_at lw_m7 227 rfl) rfl
theorem q1806 : (Jvm.Cond.methodLink "OnePassportLaw" (85 : Nat) ({ cls := "OnePassportModel", name := "act", desc := "(I)I" } : Jvm.MethodName)) ∈ lw_all := lw_g (lw_at lw_m7 231 rfl) rfl
theorem q1810 : (Jvm.Cond.methodLink "OnePassportLaw" (89 : Nat) ({ cls := "OnePassportModel", name := "acts", desc := "()I" } : Jvm.MethodName)) ∈ lw_all := lw_g (lw_at lw_m7 235 rfl) rfl
theorem q1829 : (Jvm.Cond.methodLink "OnePassportLaw" (93 : Nat) ({ cls := "OnePassportModel", name := "may", desc := "(I)I" } : Jvm.MethodName)) ∈ lw_all := lw_g (lw_at lw_m8 14 rfl) rfl
theorem q1833 : (Jvm.Cond.methodLink "OnePassportLaw" (97 : Nat) ({ cls := "OnePassportModel", name := "days", desc := "()I" } : Jvm.MethodName)) ∈ lw_all := lw_g (lw_at lw_m8 18 rfl) rfl
theorem q1870 : (Jvm.Cond.methodLink "OnePassportLaw" (101 : Nat) ({ cls := "OnePassportModel", name := "plan", desc := "(I)I" } : Jvm.MethodName)) ∈ lw_all := lw_g (lw_at lw_m8 55 rfl) rfl
theorem q1882 : (Jvm.Cond.methodLink "OnePassportLaw" (105 : Nat) ({ cls := "OnePassportModel", name := "surest", desc := "()I" } : Jvm.MethodName)) ∈ lw_all := lw_g (lw_at lw_m8 67 rfl) rfl
theorem q1886 : (Jvm.Cond.methodLink "OnePassportLaw" (109 : Nat) ({ cls := "OnePassportModel", name := "surely", desc := "(I)I" } : Jvm.MethodName)) ∈ lw_all := lw_g (lw_at lw_m8 71 rfl) rfl
theorem q1890 : (Jvm.Cond.methodLink "OnePassportLaw" (113 : Nat) ({ cls := "OnePassportModel", name := "slowly", desc := "()I" } : Jvm.MethodName)) ∈ lw_all := lw_g (lw_at lw_m8 75 rfl) rfl
theorem q1894 : (Jvm.Cond.methodLink "OnePassportLaw" (117 : Nat) ({ cls := "OnePassportModel", name := "crossings", desc := "()I" } : Jvm.MethodName)) ∈ lw_all := lw_g (lw_at lw_m8 79 rfl) rfl
theorem q1898 : (Jvm.Cond.methodLink "OnePassportLaw" (121 : Nat) ({ cls := "OnePassportModel", name := "moves", desc := "()I" } : Jvm.MethodName)) ∈ lw_all := lw_g (lw_at lw_m8 83 rfl) rfl
theorem q1902 : (Jvm.Cond.methodLink "OnePassportLaw" (126 : Nat) ({ cls := "OnePassportModel", name := "chance", desc := "(I)J" } : Jvm.MethodName)) ∈ lw_all := lw_g (lw_at lw_m8 87 rfl) rfl
theorem q1910 : (Jvm.Cond.methodLink "OnePassportLaw" (130 : Nat) ({ cls := "OnePassportModel", name := "states", desc := "()I" } : Jvm.MethodName)) ∈ lw_all := lw_g (lw_at lw_m8 95 rfl) rfl
theorem q1914 : (Jvm.Cond.methodLink "OnePassportLaw" (134 : Nat) ({ cls := "OnePassportModel", name := "hopeful", desc := "()I" } : Jvm.MethodName)) ∈ lw_all := lw_g (lw_at lw_m8 99 rfl) rfl
theorem q1918 : (Jvm.Cond.methodLink "OnePassportLaw" (138 : Nat) ({ cls := "OnePassportModel", name := "till", desc := "(I)I" } : Jvm.MethodName)) ∈ lw_all := lw_g (lw_at lw_m8 103 rfl) rfl
theorem q1926 : (Jvm.Cond.methodLink "OnePassportLaw" (142 : Nat) ({ cls := "OnePassportModel", name := "over", desc := "(I)I" } : Jvm.MethodName)) ∈ lw_all := lw_g (lw_at lw_m8 111 rfl) rfl
theorem q1930 : (Jvm.Cond.methodLink "OnePassportLaw" (146 : Nat) ({ cls := "OnePassportModel", name := "never", desc := "()I" } : Jvm.MethodName)) ∈ lw_all := lw_g (lw_at lw_m8 115 rfl) rfl
theorem q1934 : (Jvm.Cond.methodLink "OnePassportLaw" (150 : Nat) ({ cls := "OnePassportModel", name := "lost", desc := "(I)I" } : Jvm.MethodName)) ∈ lw_all := lw_g (lw_at lw_m8 119 rfl) rfl
theorem q1942 : (Jvm.Cond.methodLink "OnePassportLaw" (154 : Nat) ({ cls := "OnePassportModel", name := "worst", desc := "()I" } : Jvm.MethodName)) ∈ lw_all := lw_g (lw_at lw_m8 127 rfl) rfl
theorem q1949 : (Jvm.Cond.methodLink "OnePassportLaw" (158 : Nat) ({ cls := "OnePassportModel", name := "judge", desc := "(I)I" } : Jvm.MethodName)) ∈ lw_all := lw_g (lw_at lw_m8 134 rfl) rfl
theorem q1965 : (Jvm.Cond.methodLink "OnePassportLaw" (162 : Nat) ({ cls := "OnePassportModel", name := "there", desc := "(I)I" } : Jvm.MethodName)) ∈ lw_all := lw_g (lw_at lw_m8 150 rfl) rfl
theorem q1973 : (Jvm.Cond.methodLink "OnePassportLaw" (166 : Nat) ({ cls := "OnePassportModel", name := "takes", desc := "(I)I" } : Jvm.MethodName)) ∈ lw_all := lw_g (lw_at lw_m8 158 rfl) rfl
theorem q1977 : (Jvm.Cond.methodLink "OnePassportLaw" (170 : Nat) ({ cls := "OnePassportModel", name := "dares", desc := "(I)I" } : Jvm.MethodName)) ∈ lw_all := lw_g (lw_at lw_m8 162 rfl) rfl
theorem q1981 : (Jvm.Cond.methodLink "OnePassportLaw" (174 : Nat) ({ cls := "OnePassportModel", name := "lied", desc := "(I)I" } : Jvm.MethodName)) ∈ lw_all := lw_g (lw_at lw_m8 166 rfl) rfl
theorem q1985 : (Jvm.Cond.methodLink "OnePassportLaw" (178 : Nat) ({ cls := "OnePassportModel", name := "stamped", desc := "(I)J" } : Jvm.MethodName)) ∈ lw_all := lw_g (lw_at lw_m8 170 rfl) rfl
theorem q2010 : (Jvm.Cond.methodLink "OnePassportLaw" (182 : Nat) ({ cls := "OnePassportModel", name := "had", desc := "(II)I" } : Jvm.MethodName)) ∈ lw_all := lw_g (lw_at lw_m8 195 rfl) rfl
theorem q2022 : (Jvm.Cond.methodLink "OnePassportLaw" (186 : Nat) ({ cls := "OnePassportModel", name := "sure", desc := "(II)I" } : Jvm.MethodName)) ∈ lw_all := lw_g (lw_at lw_m8 207 rfl) rfl
theorem q2026 : (Jvm.Cond.methodLink "OnePassportLaw" (190 : Nat) ({ cls := "OnePassportModel", name := "dared", desc := "(I)I" } : Jvm.MethodName)) ∈ lw_all := lw_g (lw_at lw_m8 211 rfl) rfl
theorem q2030 : (Jvm.Cond.methodLink "OnePassportLaw" (194 : Nat) ({ cls := "OnePassportModel", name := "alone", desc := "(II)I" } : Jvm.MethodName)) ∈ lw_all := lw_g (lw_at lw_m8 215 rfl) rfl
theorem q2035 : (Jvm.Cond.methodLink "OnePassportLaw" (198 : Nat) ({ cls := "OnePassportModel", name := "worth", desc := "(II)I" } : Jvm.MethodName)) ∈ lw_all := lw_g (lw_at lw_m8 220 rfl) rfl
theorem q2043 : (Jvm.Cond.methodLink "OnePassportLaw" (202 : Nat) ({ cls := "OnePassportModel", name := "whom", desc := "(I)I" } : Jvm.MethodName)) ∈ lw_all := lw_g (lw_at lw_m8 228 rfl) rfl
theorem q2047 : (Jvm.Cond.methodLink "OnePassportLaw" (206 : Nat) ({ cls := "OnePassportModel", name := "blur", desc := "(I)I" } : Jvm.MethodName)) ∈ lw_all := lw_g (lw_at lw_m8 232 rfl) rfl
theorem q2055 : (Jvm.Cond.methodLink "OnePassportLaw" (210 : Nat) ({ cls := "OnePassportModel", name := "looks", desc := "(I)I" } : Jvm.MethodName)) ∈ lw_all := lw_g (lw_at lw_m9 0 rfl) rfl
theorem q2059 : (Jvm.Cond.methodLink "OnePassportLaw" (214 : Nat) ({ cls := "OnePassportModel", name := "drawn", desc := "(II)I" } : Jvm.MethodName)) ∈ lw_all := lw_g (lw_at lw_m9 4 rfl) rfl
theorem q2072 : (Jvm.Cond.methodLink "OnePassportLaw" (218 : Nat) ({ cls := "OnePassportModel", name := "luck", desc := "(II)I" } : Jvm.MethodName)) ∈ lw_all := lw_g (lw_at lw_m9 17 rfl) rfl
theorem q2077 : (Jvm.Cond.methodLink "OnePassportLaw" (222 : Nat) ({ cls := "OnePassportModel", name := "grow", desc := "(II)I" } : Jvm.MethodName)) ∈ lw_all := lw_g (lw_at lw_m9 22 rfl) rfl
theorem q2081 : (Jvm.Cond.methodLink "OnePassportLaw" (226 : Nat) ({ cls := "OnePassportModel", name := "guard", desc := "(II)I" } : Jvm.MethodName)) ∈ lw_all := lw_g (lw_at lw_m9 26 rfl) rfl
theorem q2085 : (Jvm.Cond.methodLink "OnePassportLaw" (230 : Nat) ({ cls := "OnePassportModel", name := "stay", desc := "(II)I" } : Jvm.MethodName)) ∈ lw_all := lw_g (lw_at lw_m9 30 rfl) rfl
theorem q2089 : (Jvm.Cond.methodLink "OnePassportLaw" (234 : Nat) ({ cls := "OnePassportModel", name := "count", desc := "(I)I" } : Jvm.MethodName)) ∈ lw_all := lw_g (lw_at lw_m9 34 rfl) rfl
theorem q2093 : (Jvm.Cond.methodLink "OnePassportLaw" (238 : Nat) ({ cls := "OnePassportModel", name := "image", desc := "(I)I" } : Jvm.MethodName)) ∈ lw_all := lw_g (lw_at lw_m9 38 rfl) rfl
theorem q2098 : (Jvm.Cond.methodLink "OnePassportLaw" (242 : Nat) ({ cls := "OnePassportModel", name := "back", desc := "(I)I" } : Jvm.MethodName)) ∈ lw_all := lw_g (lw_at lw_m9 43 rfl) rfl
theorem q2102 : (Jvm.Cond.constantLong "OnePassportLaw" (247 : Nat) (4294967295 : Int64)) ∈ lw_all := lw_g (lw_at lw_m9 47 rfl) rfl
theorem q148 : (Jvm.Cond.initialized "OnePassport$Token") ∈ lw_all := lw_g (lw_at lw_m1 13 rfl) rfl
theorem q463 : (Jvm.Cond.laysStatic "OnePassport$Token" "END" "LOnePassport$Token;") ∈ lw_tbl := lw_at lw_m2 88 rfl
theorem q474 : (Jvm.Cond.laysStatic "OnePassport$Token" "WORD" "LOnePassport$Token;") ∈ lw_tbl := lw_at lw_m2 99 rfl
theorem q480 : (Jvm.Cond.laysStatic "OnePassport$Token" "NUMBER" "LOnePassport$Token;") ∈ lw_tbl := lw_at lw_m2 105 rfl
theorem q482 : (Jvm.Cond.laysStatic "OnePassport$Token" "STOP" "LOnePassport$Token;") ∈ lw_tbl := lw_at lw_m2 107 rfl
theorem q484 : (Jvm.Cond.laysStatic "OnePassport$Token" "NONE" "LOnePassport$Token;") ∈ lw_tbl := lw_at lw_m2 109 rfl
theorem q1257 : (Jvm.Cond.selects "OnePassport$Token" ({ cls := "java/lang/Object", name := "getClass", desc := "()Ljava/lang/Class;" } : Jvm.MethodName) ({ cls := "java/lang/Object", name := "getClass", desc := "()Ljava/lang/Class;" } : Jvm.MethodName)) ∈ lw_all := lw_g (lw_at lw_m5 162 rfl) rfl
theorem q2115 : (Jvm.Cond.castable "OnePassport$Token" "java/lang/Object") ∈ lw_tbl := lw_at lw_m9 60 rfl
theorem q2127 : (Jvm.Cond.castable "[B" "java/lang/Object") ∈ lw_tbl := lw_at lw_m9 72 rfl
theorem q2126 : (Jvm.Cond.castable "[I" "java/lang/Object") ∈ lw_tbl := lw_at lw_m9 71 rfl
theorem q2130 : (Jvm.Cond.castable "[J" "java/lang/Object") ∈ lw_tbl := lw_at lw_m9 75 rfl
theorem q2128 : (Jvm.Cond.castable "[LOnePassport$Slot;" "java/lang/Object") ∈ lw_tbl := lw_at lw_m9 73 rfl
theorem q2123 : (Jvm.Cond.sameMethod "[Ljava/lang/Object;" "java/lang/Object" "getClass" "()Ljava/lang/Class;") ∈ lw_all := lw_g (lw_at lw_m9 68 rfl) rfl
theorem q2124 : (Jvm.Cond.selects "[Ljava/lang/Object;" ({ cls := "java/lang/Object", name := "getClass", desc := "()Ljava/lang/Class;" } : Jvm.MethodName) ({ cls := "java/lang/Object", name := "getClass", desc := "()Ljava/lang/Class;" } : Jvm.MethodName)) ∈ lw_all := lw_g (lw_at lw_m9 69 rfl) rfl
theorem q2131 : (Jvm.Cond.castable "[Ljava/lang/Object;" "java/lang/Object") ∈ lw_tbl := lw_at lw_m9 76 rfl
theorem q2132 : (Jvm.Cond.castable "[S" "java/lang/Object") ∈ lw_tbl := lw_at lw_m9 77 rfl
theorem q2129 : (Jvm.Cond.castable "[Z" "java/lang/Object") ∈ lw_tbl := lw_at lw_m9 74 rfl
theorem q147 : (Jvm.Cond.initialized "java/lang/Enum") ∈ lw_all := lw_g (lw_at lw_m1 12 rfl) rfl
theorem q162 : (Jvm.Cond.initialized "java/lang/System") ∈ lw_all := lw_g (lw_at lw_m1 27 rfl) rfl
theorem q1273 : (Jvm.Cond.static ({ cls := "java/lang/System", name := "arraycopy", desc := "(Ljava/lang/Object;ILjava/lang/Object;II)V" } : Jvm.MethodName)) ∈ lw_all := lw_g (lw_at lw_m5 178 rfl) rfl
theorem q1274 : (Jvm.Cond.native ({ cls := "java/lang/System", name := "arraycopy", desc := "(Ljava/lang/Object;ILjava/lang/Object;II)V" } : Jvm.MethodName)) ∈ lw_all := lw_g (lw_at lw_m5 179 rfl) rfl
theorem q252 : (Jvm.Cond.arrayClass Jvm.ClassFile.FieldType.int) ∈ lw_all := lw_g (lw_at lw_m1 117 rfl) rfl
theorem q263 : (Jvm.Cond.arrayClass Jvm.ClassFile.FieldType.byte) ∈ lw_all := lw_g (lw_at lw_m1 128 rfl) rfl
theorem q289 : (Jvm.Cond.arrayOver (Jvm.ClassFile.FieldType.object "OnePassport$Slot")) ∈ lw_tbl := lw_at lw_m1 154 rfl
theorem q300 : (Jvm.Cond.arrayClass Jvm.ClassFile.FieldType.boolean) ∈ lw_all := lw_g (lw_at lw_m1 165 rfl) rfl
theorem q301 : (Jvm.Cond.arrayClass Jvm.ClassFile.FieldType.long) ∈ lw_all := lw_g (lw_at lw_m1 166 rfl) rfl
theorem q1269 : (Jvm.Cond.arrayOver (Jvm.ClassFile.FieldType.object "java/lang/Object")) ∈ lw_tbl := lw_at lw_m5 174 rfl
theorem q1343 : (Jvm.Cond.arrayClass Jvm.ClassFile.FieldType.short) ∈ lw_all := lw_g (lw_at lw_m6 8 rfl) rfl
/-- the classes of the worlds, by number -/
abbrev vwCl : List vw_C := [(RX0, TX0, 34), (RX1, TX1, 14), (RX2, TX2, 1), (RX3, TX3, 2), (RX4, TX4, 2), (RX5, TX5, 1), (RX6, TX6, 48), (RX7, TX7, 7), (RX8, TX8, 8), (RJ2, TJ2, 3)]
def spM : List wCell := [.inl (6, [(0, 0), (2, 1), (2, 2), (2, 3), (2, 4), (2, 5), (0, 0), (0, 0), (0, 0), (0, 0), (0, 0), (1, 0), (0, 0), (0, 0), (0, 0), (0, 0), (2, 6), (2, 7), (2, 8), (2, 9), (2, 10), (2, 11), (2, 12), (0, 0), (0, 0), (0, 0), (0, 0), (0, 0), (0, 0), (0, 0), (0, 0), (2, 13), (2, 14), (2, 15), (0, 0), (2, 16), (0, 0), (0, 0), (0, 0), (2, 17), (0, 0), (2, 18), (2, 19), (2, 20), (2, 21), (2, 22), (2, 23), (0, 0)]), .inr (0, 4), .inr (0, 4), .inr (1, 240), .inr (1, 60), .inr (2, 600), .inr (0, 5), .inr (0, 35), .inr (0, 30), .inr (0, 30), .inr (0, 30), .inr (0, 200), .inr (3, 3), .inr (0, 60), .inr (3, 94080), .inr (0, 94080), .inr (0, 94080), .inr (0, 400), .inr (1, 40768), .inr (0, 40768), .inr (0, 40768), .inr (0, 40768), .inr (0, 12), .inr (3, 40768)]
theorem spM_0 {E : List wCell} : (spM ++ E)[0]? = some (.inl (6, [(0, 0), (2, 1), (2, 2), (2, 3), (2, 4), (2, 5), (0, 0), (0, 0), (0, 0), (0, 0), (0, 0), (1, 0), (0, 0), (0, 0), (0, 0), (0, 0), (2, 6), (2, 7), (2, 8), (2, 9), (2, 10), (2, 11), (2, 12), (0, 0), (0, 0), (0, 0), (0, 0), (0, 0), (0, 0), (0, 0), (0, 0), (2, 13), (2, 14), (2, 15), (0, 0), (2, 16), (0, 0), (0, 0), (0, 0), (2, 17), (0, 0), (2, 18), (2, 19), (2, 20), (2, 21), (2, 22), (2, 23), (0, 0)])) := rfl
theorem spM_1 {E : List wCell} : (spM ++ E)[1]? = some (.inr (0, 4)) := rfl
theorem spM_2 {E : List wCell} : (spM ++ E)[2]? = some (.inr (0, 4)) := rfl
theorem spM_3 {E : List wCell} : (spM ++ E)[3]? = some (.inr (1, 240)) := rfl
theorem spM_4 {E : List wCell} : (spM ++ E)[4]? = some (.inr (1, 60)) := rfl
theorem spM_5 {E : List wCell} : (spM ++ E)[5]? = some (.inr (2, 600)) := rfl
theorem spM_6 {E : List wCell} : (spM ++ E)[6]? = some (.inr (0, 5)) := rfl
theorem spM_7 {E : List wCell} : (spM ++ E)[7]? = some (.inr (0, 35)) := rfl
theorem spM_8 {E : List wCell} : (spM ++ E)[8]? = some (.inr (0, 30)) := rfl
theorem spM_9 {E : List wCell} : (spM ++ E)[9]? = some (.inr (0, 30)) := rfl
theorem spM_10 {E : List wCell} : (spM ++ E)[10]? = some (.inr (0, 30)) := rfl
theorem spM_11 {E : List wCell} : (spM ++ E)[11]? = some (.inr (0, 200)) := rfl
theorem spM_12 {E : List wCell} : (spM ++ E)[12]? = some (.inr (3, 3)) := rfl
theorem spM_13 {E : List wCell} : (spM ++ E)[13]? = some (.inr (0, 60)) := rfl
theorem spM_14 {E : List wCell} : (spM ++ E)[14]? = some (.inr (3, 94080)) := rfl
theorem spM_15 {E : List wCell} : (spM ++ E)[15]? = some (.inr (0, 94080)) := rfl
theorem spM_16 {E : List wCell} : (spM ++ E)[16]? = some (.inr (0, 94080)) := rfl
theorem spM_17 {E : List wCell} : (spM ++ E)[17]? = some (.inr (0, 400)) := rfl
theorem spM_18 {E : List wCell} : (spM ++ E)[18]? = some (.inr (1, 40768)) := rfl
theorem spM_19 {E : List wCell} : (spM ++ E)[19]? = some (.inr (0, 40768)) := rfl
theorem spM_20 {E : List wCell} : (spM ++ E)[20]? = some (.inr (0, 40768)) := rfl
theorem spM_21 {E : List wCell} : (spM ++ E)[21]? = some (.inr (0, 40768)) := rfl
theorem spM_22 {E : List wCell} : (spM ++ E)[22]? = some (.inr (0, 12)) := rfl
theorem spM_23 {E : List wCell} : (spM ++ E)[23]? = some (.inr (3, 40768)) := rfl
def spX : List wCell := [.inl (0, [(2, 1), (2, 8), (0, 0), (0, 0), (0, 0), (0, 0), (0, 0), (0, 0), (2, 9), (0, 0), (0, 0), (0, 0), (0, 0), (2, 19), (2, 20), (2, 21), (2, 10), (2, 11), (2, 12), (2, 13), (0, 0), (0, 0), (2, 14), (0, 0), (2, 15), (2, 16), (2, 17), (2, 18), (0, 0), (0, 0), (0, 0), (0, 0), (2, 22), (2, 23)]), .inl (1, [(0, 0), (0, 0), (0, 0), (0, 0), (0, 0), (0, 0), (0, 0), (0, 0), (2, 2), (2, 3), (2, 4), (2, 5), (2, 6), (2, 7)]), .inr (0, 6), .inr (0, 6), .inr (0, 2), .inr (0, 2), .inr (0, 2), .inr (0, 40), .inr (2, 600), .inr (0, 2), .inr (0, 100352), .inr (0, 100352), .inr (0, 100352), .inr (0, 100352), .inr (3, 100352), .inr (1, 40768), .inr (0, 40768), .inr (3, 40768), .inr (0, 12), .inl (2, [(2, 0)]), .inl (3, [(2, 0), (2, 0)]), .inl (4, [(2, 0), (2, 0)])]
theorem spX_0 {E : List wCell} : (spX ++ E)[0]? = some (.inl (0, [(2, 1), (2, 8), (0, 0), (0, 0), (0, 0), (0, 0), (0, 0), (0, 0), (2, 9), (0, 0), (0, 0), (0, 0), (0, 0), (2, 19), (2, 20), (2, 21), (2, 10), (2, 11), (2, 12), (2, 13), (0, 0), (0, 0), (2, 14), (0, 0), (2, 15), (2, 16), (2, 17), (2, 18), (0, 0), (0, 0), (0, 0), (0, 0), (2, 22), (2, 23)])) := rfl
theorem spX_1 {E : List wCell} : (spX ++ E)[1]? = some (.inl (1, [(0, 0), (0, 0), (0, 0), (0, 0), (0, 0), (0, 0), (0, 0), (0, 0), (2, 2), (2, 3), (2, 4), (2, 5), (2, 6), (2, 7)])) := rfl
theorem spX_2 {E : List wCell} : (spX ++ E)[2]? = some (.inr (0, 6)) := rfl
theorem spX_3 {E : List wCell} : (spX ++ E)[3]? = some (.inr (0, 6)) := rfl
theorem spX_4 {E : List wCell} : (spX ++ E)[4]? = some (.inr (0, 2)) := rfl
theorem spX_5 {E : List wCell} : (spX ++ E)[5]? = some (.inr (0, 2)) := rfl
theorem spX_6 {E : List wCell} : (spX ++ E)[6]? = some (.inr (0, 2)) := rfl
theorem spX_7 {E : List wCell} : (spX ++ E)[7]? = some (.inr (0, 40)) := rfl
theorem spX_8 {E : List wCell} : (spX ++ E)[8]? = some (.inr (2, 600)) := rfl
theorem spX_9 {E : List wCell} : (spX ++ E)[9]? = some (.inr (0, 2)) := rfl
theorem spX_10 {E : List wCell} : (spX ++ E)[10]? = some (.inr (0, 100352)) := rfl
theorem spX_11 {E : List wCell} : (spX ++ E)[11]? = some (.inr (0, 100352)) := rfl
theorem spX_12 {E : List wCell} : (spX ++ E)[12]? = some (.inr (0, 100352)) := rfl
theorem spX_13 {E : List wCell} : (spX ++ E)[13]? = some (.inr (0, 100352)) := rfl
theorem spX_14 {E : List wCell} : (spX ++ E)[14]? = some (.inr (3, 100352)) := rfl
theorem spX_15 {E : List wCell} : (spX ++ E)[15]? = some (.inr (1, 40768)) := rfl
theorem spX_16 {E : List wCell} : (spX ++ E)[16]? = some (.inr (0, 40768)) := rfl
theorem spX_17 {E : List wCell} : (spX ++ E)[17]? = some (.inr (3, 40768)) := rfl
theorem spX_18 {E : List wCell} : (spX ++ E)[18]? = some (.inr (0, 12)) := rfl
theorem spX_19 {E : List wCell} : (spX ++ E)[19]? = some (.inl (2, [(2, 0)])) := rfl
theorem spX_20 {E : List wCell} : (spX ++ E)[20]? = some (.inl (3, [(2, 0), (2, 0)])) := rfl
theorem spX_21 {E : List wCell} : (spX ++ E)[21]? = some (.inl (4, [(2, 0), (2, 0)])) := rfl
