/-! java/util/AbstractCollection -/
set_option maxRecDepth 100000
def RJ0 : String := "java/util/AbstractCollection"
abbrev cJ0_init : ByteArray := prog_40_method_1_code
def yJ0_init : MethodName := ⟨RJ0, "<init>", "()V"⟩
theorem dJ0_init_0 : decode cJ0_init 0 = .ok (.aload_n 0, 1) := by decide +kernel
theorem dJ0_init_1 : decode cJ0_init 1 = .ok (.invokespecial 1, 3) := by decide +kernel
theorem dJ0_init_4 : decode cJ0_init 4 = .ok (.return_, 1) := by decide +kernel
abbrev cJ0_addAll : ByteArray := prog_40_method_12_code
def yJ0_addAll : MethodName := ⟨RJ0, "addAll", "(Ljava/util/Collection;)Z"⟩
def dkwJ0_addAll_1 : List UInt8 := [58, 4, 42, 25, 4, 182, 0, 82, 153, 0, 5, 4, 61, 167, 255, 228, 28, 172]
abbrev dktJ0_addAll_1 : List UInt8 := dkwJ0_addAll_1 ++ []
def dkwJ0_addAll_0 : List UInt8 := [3, 61, 43, 185, 0, 76, 1, 0, 78, 45, 185, 0, 17, 1, 0, 153, 0, 25, 45, 185, 0, 23, 1, 0]
abbrev dktJ0_addAll_0 : List UInt8 := dkwJ0_addAll_0 ++ dktJ0_addAll_1
theorem dksJ0_addAll_0 : cJ0_addAll.data.toList.drop 0 = dktJ0_addAll_0 := by decide +kernel
theorem dksJ0_addAll_1 : cJ0_addAll.data.toList.drop 24 = dktJ0_addAll_1 := dk_seg dksJ0_addAll_0 24 rfl rfl
theorem dJ0_addAll_0 : decode cJ0_addAll 0 = .ok (.iconst 0, 1) := dk_3 (dk_at dksJ0_addAll_0 0 rfl rfl)
theorem dJ0_addAll_1 : decode cJ0_addAll 1 = .ok (.istore_n 2, 1) := dk_61 (dk_at dksJ0_addAll_0 1 rfl rfl)
theorem dJ0_addAll_2 : decode cJ0_addAll 2 = .ok (.aload_n 1, 1) := dk_43 (dk_at dksJ0_addAll_0 2 rfl rfl)
theorem dJ0_addAll_3 : decode cJ0_addAll 3 = .ok (.invokeinterface 76 1, 5) := by decide +kernel
theorem dJ0_addAll_8 : decode cJ0_addAll 8 = .ok (.astore_n 3, 1) := dk_78 (dk_at dksJ0_addAll_0 8 rfl rfl)
theorem dJ0_addAll_9 : decode cJ0_addAll 9 = .ok (.aload_n 3, 1) := dk_45 (dk_at dksJ0_addAll_0 9 rfl rfl)
theorem dJ0_addAll_10 : decode cJ0_addAll 10 = .ok (.invokeinterface 17 1, 5) := by decide +kernel
theorem dJ0_addAll_15 : decode cJ0_addAll 15 = .ok (.ifCond .eq 25, 3) := dk_153 0 25 (dk_at dksJ0_addAll_0 15 rfl rfl)
theorem dJ0_addAll_18 : decode cJ0_addAll 18 = .ok (.aload_n 3, 1) := dk_45 (dk_at dksJ0_addAll_0 18 rfl rfl)
theorem dJ0_addAll_19 : decode cJ0_addAll 19 = .ok (.invokeinterface 23 1, 5) := by decide +kernel
theorem dJ0_addAll_24 : decode cJ0_addAll 24 = .ok (.astore 4, 2) := dk_58 4 (dk_at dksJ0_addAll_1 0 rfl rfl)
theorem dJ0_addAll_26 : decode cJ0_addAll 26 = .ok (.aload_n 0, 1) := dk_42 (dk_at dksJ0_addAll_1 2 rfl rfl)
theorem dJ0_addAll_27 : decode cJ0_addAll 27 = .ok (.aload 4, 2) := dk_25 4 (dk_at dksJ0_addAll_1 3 rfl rfl)
theorem dJ0_addAll_29 : decode cJ0_addAll 29 = .ok (.invokevirtual 82, 3) := dk_182 0 82 (dk_at dksJ0_addAll_1 5 rfl rfl)
theorem dJ0_addAll_32 : decode cJ0_addAll 32 = .ok (.ifCond .eq 5, 3) := dk_153 0 5 (dk_at dksJ0_addAll_1 8 rfl rfl)
theorem dJ0_addAll_35 : decode cJ0_addAll 35 = .ok (.iconst 1, 1) := dk_4 (dk_at dksJ0_addAll_1 11 rfl rfl)
theorem dJ0_addAll_36 : decode cJ0_addAll 36 = .ok (.istore_n 2, 1) := dk_61 (dk_at dksJ0_addAll_1 12 rfl rfl)
theorem dJ0_addAll_37 : decode cJ0_addAll 37 = .ok (.goto (-28), 3) := dk_167 255 228 (dk_at dksJ0_addAll_1 13 rfl rfl)
theorem dJ0_addAll_40 : decode cJ0_addAll 40 = .ok (.iload_n 2, 1) := dk_28 (dk_at dksJ0_addAll_1 16 rfl rfl)
theorem dJ0_addAll_41 : decode cJ0_addAll 41 = .ok (.ireturn, 1) := dk_172 (dk_at dksJ0_addAll_1 17 rfl rfl)
theorem q49 : (Jvm.Cond.initialized "java/util/AbstractCollection") ∈ lw_all := lw_g (lw_at lw_m1 3 rfl) rfl
theorem q143 : (Jvm.Cond.instanceMethod ({ cls := "java/util/AbstractCollection", name := "<init>", desc := "()V" } : Jvm.MethodName)) ∈ lw_all := lw_g (lw_at lw_m1 97 rfl) rfl
theorem q144 : (Jvm.Cond.code ({ cls := "java/util/AbstractCollection", name := "<init>", desc := "()V" } : Jvm.MethodName) prog_40_method_1_code (1 : Nat) (Option.none : Option Jvm.ClassFile.FieldType)) ∈ lw_all := lw_g (lw_at lw_m1 98 rfl) rfl
theorem q145 : (Jvm.Cond.methodLink "java/util/AbstractCollection" (1 : Nat) ({ cls := "java/lang/Object", name := "<init>", desc := "()V" } : Jvm.MethodName)) ∈ lw_all := lw_g (lw_at lw_m1 99 rfl) rfl
theorem q1368 : (Jvm.Cond.declares ({ cls := "java/util/AbstractCollection", name := "addAll", desc := "(Ljava/util/Collection;)Z" } : Jvm.MethodName)) ∈ lw_tbl := lw_at lw_m6 122 rfl
theorem q1370 : (Jvm.Cond.instanceMethod ({ cls := "java/util/AbstractCollection", name := "addAll", desc := "(Ljava/util/Collection;)Z" } : Jvm.MethodName)) ∈ lw_all := lw_g (lw_at lw_m6 124 rfl) rfl
theorem q1371 : (Jvm.Cond.code ({ cls := "java/util/AbstractCollection", name := "addAll", desc := "(Ljava/util/Collection;)Z" } : Jvm.MethodName) prog_40_method_12_code (5 : Nat) (Option.some Jvm.ClassFile.FieldType.boolean)) ∈ lw_all := lw_g (lw_at lw_m6 125 rfl) rfl
theorem q1372 : (Jvm.Cond.interfaceEntry "java/util/AbstractCollection" (76 : Nat)) ∈ lw_tbl := lw_at lw_m6 126 rfl
theorem q1373 : (Jvm.Cond.methodLink "java/util/AbstractCollection" (76 : Nat) ({ cls := "java/util/Collection", name := "iterator", desc := "()Ljava/util/Iterator;" } : Jvm.MethodName)) ∈ lw_all := lw_g (lw_at lw_m6 127 rfl) rfl
theorem q1379 : (Jvm.Cond.interfaceEntry "java/util/AbstractCollection" (17 : Nat)) ∈ lw_tbl := lw_at lw_m6 133 rfl
theorem q1380 : (Jvm.Cond.methodLink "java/util/AbstractCollection" (17 : Nat) ({ cls := "java/util/Iterator", name := "hasNext", desc := "()Z" } : Jvm.MethodName)) ∈ lw_all := lw_g (lw_at lw_m6 134 rfl) rfl
theorem q1381 : (Jvm.Cond.interfaceEntry "java/util/AbstractCollection" (23 : Nat)) ∈ lw_tbl := lw_at lw_m6 135 rfl
theorem q1382 : (Jvm.Cond.methodLink "java/util/AbstractCollection" (23 : Nat) ({ cls := "java/util/Iterator", name := "next", desc := "()Ljava/lang/Object;" } : Jvm.MethodName)) ∈ lw_all := lw_g (lw_at lw_m6 136 rfl) rfl
theorem q1383 : (Jvm.Cond.methodLink "java/util/AbstractCollection" (82 : Nat) ({ cls := "java/util/AbstractCollection", name := "add", desc := "(Ljava/lang/Object;)Z" } : Jvm.MethodName)) ∈ lw_all := lw_g (lw_at lw_m6 137 rfl) rfl
theorem q1384 : (Jvm.Cond.instanceMethod ({ cls := "java/util/AbstractCollection", name := "add", desc := "(Ljava/lang/Object;)Z" } : Jvm.MethodName)) ∈ lw_all := lw_g (lw_at lw_m6 138 rfl) rfl
theorem q1385 : (Jvm.Cond.sameMethod "java/util/AbstractCollection" "java/util/AbstractCollection" "add" "(Ljava/lang/Object;)Z") ∈ lw_all := lw_g (lw_at lw_m6 139 rfl) rfl
theorem q1389 : (Jvm.Cond.code ({ cls := "java/util/AbstractCollection", name := "add", desc := "(Ljava/lang/Object;)Z" } : Jvm.MethodName) prog_40_method_9_code (2 : Nat) (Option.some Jvm.ClassFile.FieldType.boolean)) ∈ lw_all := lw_g (lw_at lw_m6 143 rfl) rfl

/-! java/util/AbstractList -/
set_option maxRecDepth 100000
def RJ1 : String := "java/util/AbstractList"
abbrev cJ1_init : ByteArray := prog_41_method_1_code
def yJ1_init : MethodName := ⟨RJ1, "<init>", "()V"⟩
def dkwJ1_init_0 : List UInt8 := [42, 183, 0, 1, 42, 3, 181, 0, 7, 177]
abbrev dktJ1_init_0 : List UInt8 := dkwJ1_init_0 ++ []
theorem dksJ1_init_0 : cJ1_init.data.toList.drop 0 = dktJ1_init_0 := by decide +kernel
theorem dJ1_init_0 : decode cJ1_init 0 = .ok (.aload_n 0, 1) := dk_42 (dk_at dksJ1_init_0 0 rfl rfl)
theorem dJ1_init_1 : decode cJ1_init 1 = .ok (.invokespecial 1, 3) := dk_183 0 1 (dk_at dksJ1_init_0 1 rfl rfl)
theorem dJ1_init_4 : decode cJ1_init 4 = .ok (.aload_n 0, 1) := dk_42 (dk_at dksJ1_init_0 4 rfl rfl)
theorem dJ1_init_5 : decode cJ1_init 5 = .ok (.iconst 0, 1) := dk_3 (dk_at dksJ1_init_0 5 rfl rfl)
theorem dJ1_init_6 : decode cJ1_init 6 = .ok (.putfield 7, 3) := dk_181 0 7 (dk_at dksJ1_init_0 6 rfl rfl)
theorem dJ1_init_9 : decode cJ1_init 9 = .ok (.return_, 1) := dk_177 (dk_at dksJ1_init_0 9 rfl rfl)
theorem q50 : (Jvm.Cond.initialized "java/util/AbstractList") ∈ lw_all := lw_g (lw_at lw_m1 4 rfl) rfl
theorem q140 : (Jvm.Cond.instanceMethod ({ cls := "java/util/AbstractList", name := "<init>", desc := "()V" } : Jvm.MethodName)) ∈ lw_all := lw_g (lw_at lw_m1 94 rfl) rfl
theorem q141 : (Jvm.Cond.code ({ cls := "java/util/AbstractList", name := "<init>", desc := "()V" } : Jvm.MethodName) prog_41_method_1_code (1 : Nat) (Option.none : Option Jvm.ClassFile.FieldType)) ∈ lw_all := lw_g (lw_at lw_m1 95 rfl) rfl
theorem q142 : (Jvm.Cond.methodLink "java/util/AbstractList" (1 : Nat) ({ cls := "java/util/AbstractCollection", name := "<init>", desc := "()V" } : Jvm.MethodName)) ∈ lw_all := lw_g (lw_at lw_m1 96 rfl) rfl
theorem q152 : (Jvm.Cond.fieldLink "java/util/AbstractList" (7 : Nat) "java/util/AbstractList" "modCount" "I") ∈ lw_all := lw_g (lw_at lw_m1 106 rfl) rfl
theorem q161 : (Jvm.Cond.soleField "java/util/AbstractList" "modCount") ∈ lw_all := lw_g (lw_at lw_m1 115 rfl) rfl

/-! java/lang/IndexOutOfBoundsException -/
set_option maxRecDepth 100000
def RJ10 : String := "java/lang/IndexOutOfBoundsException"
def TJ10 : u_T := fun k => match k with
  | 0 => ("java/lang/Throwable", "cause", "Ljava/lang/Throwable;", false)
  | 1 => ("java/lang/Throwable", "stackTrace", "[Ljava/lang/StackTraceElement;", false)
  | 2 => ("java/lang/Throwable", "suppressedExceptions", "Ljava/util/List;", false)
  | 3 => ("java/lang/Throwable", "detailMessage", "Ljava/lang/String;", false)
  | 4 => ("java/lang/Throwable", "backtrace", "Ljava/lang/Object;", false)
  | _ => ("java/lang/Throwable", "depth", "I", false)
def tyJ10 : Nat → FieldType := fun k => match k with
  | 0 => .object "java/lang/Throwable"
  | 1 => .array (.object "java/lang/StackTraceElement")
  | 2 => .object "java/util/List"
  | 3 => .object "java/lang/String"
  | 4 => .object "java/lang/Object"
  | _ => .int
abbrev wsJ100 : List Cond := u_ws RJ10 TJ10 6
theorem nmJ10 : ∀ a, a < 6 → ∀ b, b < 6 → a ≠ b → (TJ10 a).2.1 ≠ (TJ10 b).2.1 := by decide +kernel
theorem tyJ10_ok : ∀ k, k < 6 → parseFieldDescriptor (TJ10 k).2.2.1 = some (tyJ10 k) := by decide +kernel
theorem q62 : (Jvm.Cond.initialized "java/lang/IndexOutOfBoundsException") ∈ lw_all := lw_g (lw_at lw_m1 16 rfl) rfl
theorem q498 : (Jvm.Cond.selects "java/lang/IndexOutOfBoundsException" ({ cls := "java/lang/Throwable", name := "fillInStackTrace", desc := "()Ljava/lang/Throwable;" } : Jvm.MethodName) ({ cls := "java/lang/Throwable", name := "fillInStackTrace", desc := "()Ljava/lang/Throwable;" } : Jvm.MethodName)) ∈ lw_all := lw_g (lw_at lw_m2 212 rfl) rfl
theorem q991 : (Jvm.Cond.selects "java/lang/IndexOutOfBoundsException" ({ cls := "java/lang/Object", name := "getClass", desc := "()Ljava/lang/Class;" } : Jvm.MethodName) ({ cls := "java/lang/Object", name := "getClass", desc := "()Ljava/lang/Class;" } : Jvm.MethodName)) ∈ lw_all := lw_g (lw_at lw_m4 225 rfl) rfl
theorem q1317 : (Jvm.Cond.selects "java/lang/IndexOutOfBoundsException" ({ cls := "java/lang/Object", name := "equals", desc := "(Ljava/lang/Object;)Z" } : Jvm.MethodName) ({ cls := "java/lang/Object", name := "equals", desc := "(Ljava/lang/Object;)Z" } : Jvm.MethodName)) ∈ lw_all := lw_g (lw_at lw_m6 71 rfl) rfl
theorem q1481 : (Jvm.Cond.instantiable "java/lang/IndexOutOfBoundsException" (6 : Nat)) ∈ lw_all := lw_g (lw_at lw_m6 235 rfl) rfl
theorem q1482 : (Jvm.Cond.castable "java/lang/IndexOutOfBoundsException" "java/lang/IndexOutOfBoundsException") ∈ lw_tbl := lw_at lw_m6 236 rfl
theorem q1483 : (Jvm.Cond.selects "java/lang/IndexOutOfBoundsException" ({ cls := "java/lang/Throwable", name := "fillInStackTrace", desc := "(I)Ljava/lang/Throwable;" } : Jvm.MethodName) ({ cls := "java/lang/Throwable", name := "fillInStackTrace", desc := "(I)Ljava/lang/Throwable;" } : Jvm.MethodName)) ∈ lw_all := lw_g (lw_at lw_m6 237 rfl) rfl
theorem q1484 : (Jvm.Cond.lays "java/lang/IndexOutOfBoundsException" "java/lang/Throwable" "cause" "Ljava/lang/Throwable;") ∈ lw_all := lw_g (lw_at lw_m6 238 rfl) rfl
theorem q1485 : (Jvm.Cond.lays "java/lang/IndexOutOfBoundsException" "java/lang/Throwable" "stackTrace" "[Ljava/lang/StackTraceElement;") ∈ lw_all := lw_g (lw_at lw_m6 239 rfl) rfl
theorem q1486 : (Jvm.Cond.lays "java/lang/IndexOutOfBoundsException" "java/lang/Throwable" "suppressedExceptions" "Ljava/util/List;") ∈ lw_all := lw_g (lw_at lw_m7 0 rfl) rfl
theorem q1487 : (Jvm.Cond.lays "java/lang/IndexOutOfBoundsException" "java/lang/Throwable" "detailMessage" "Ljava/lang/String;") ∈ lw_all := lw_g (lw_at lw_m7 1 rfl) rfl
theorem q1488 : (Jvm.Cond.lays "java/lang/IndexOutOfBoundsException" "java/lang/Throwable" "backtrace" "Ljava/lang/Object;") ∈ lw_all := lw_g (lw_at lw_m7 2 rfl) rfl
theorem q1490 : (Jvm.Cond.instanceMethod ({ cls := "java/lang/IndexOutOfBoundsException", name := "<init>", desc := "()V" } : Jvm.MethodName)) ∈ lw_all := lw_g (lw_at lw_m7 4 rfl) rfl
theorem q1491 : (Jvm.Cond.code ({ cls := "java/lang/IndexOutOfBoundsException", name := "<init>", desc := "()V" } : Jvm.MethodName) prog_23_method_1_code (1 : Nat) (Option.none : Option Jvm.ClassFile.FieldType)) ∈ lw_all := lw_g (lw_at lw_m7 5 rfl) rfl
theorem q1492 : (Jvm.Cond.methodLink "java/lang/IndexOutOfBoundsException" (1 : Nat) ({ cls := "java/lang/RuntimeException", name := "<init>", desc := "()V" } : Jvm.MethodName)) ∈ lw_all := lw_g (lw_at lw_m7 6 rfl) rfl
theorem q1499 : (Jvm.Cond.lays "java/lang/IndexOutOfBoundsException" "java/lang/Throwable" "depth" "I") ∈ lw_all := lw_g (lw_at lw_m7 13 rfl) rfl
theorem q1500 : (Jvm.Cond.superclass "java/lang/IndexOutOfBoundsException" "java/lang/RuntimeException") ∈ lw_all := lw_g (lw_at lw_m7 14 rfl) rfl
theorem q1793 : (Jvm.Cond.instanceMethod ({ cls := "java/lang/IndexOutOfBoundsException", name := "<init>", desc := "(Ljava/lang/String;)V" } : Jvm.MethodName)) ∈ lw_all := lw_g (lw_at lw_m8 67 rfl) rfl
theorem q1794 : (Jvm.Cond.code ({ cls := "java/lang/IndexOutOfBoundsException", name := "<init>", desc := "(Ljava/lang/String;)V" } : Jvm.MethodName) prog_23_method_2_code (2 : Nat) (Option.none : Option Jvm.ClassFile.FieldType)) ∈ lw_all := lw_g (lw_at lw_m8 68 rfl) rfl
theorem q1795 : (Jvm.Cond.methodLink "java/lang/IndexOutOfBoundsException" (7 : Nat) ({ cls := "java/lang/RuntimeException", name := "<init>", desc := "(Ljava/lang/String;)V" } : Jvm.MethodName)) ∈ lw_all := lw_g (lw_at lw_m8 69 rfl) rfl
theorem q1804 : (Jvm.Cond.declares ({ cls := "java/lang/IndexOutOfBoundsException", name := "<init>", desc := "()V" } : Jvm.MethodName)) ∈ lw_tbl := lw_at lw_m8 78 rfl
theorem q1805 : (Jvm.Cond.declares ({ cls := "java/lang/IndexOutOfBoundsException", name := "<init>", desc := "(Ljava/lang/String;)V" } : Jvm.MethodName)) ∈ lw_tbl := lw_at lw_m8 79 rfl
theorem q2377 : (Jvm.Cond.castable "java/lang/IndexOutOfBoundsException" "java/lang/Object") ∈ lw_tbl := lw_at lw_m10 171 rfl
theorem in_J10 : ∀ w ∈ wsJ100, w ∈ lw_all := lw_in wsJ100 [1484, 1485, 1486, 1487, 1488, 1499] (by decide +kernel) (by decide +kernel)

/-! jdk/internal/util/Preconditions -/
set_option maxRecDepth 100000
def RJ12 : String := "jdk/internal/util/Preconditions"
abbrev cJ12_checkIndex : ByteArray := prog_73_method_11_code
def yJ12_checkIndex : MethodName := ⟨RJ12, "checkIndex", "(IILjava/util/function/BiFunction;)I"⟩
def dkwJ12_checkIndex_0 : List UInt8 := [26, 155, 0, 8, 26, 27, 161, 0, 10, 44, 26, 27, 184, 0, 95, 191, 26, 172]
abbrev dktJ12_checkIndex_0 : List UInt8 := dkwJ12_checkIndex_0 ++ []
theorem dksJ12_checkIndex_0 : cJ12_checkIndex.data.toList.drop 0 = dktJ12_checkIndex_0 := by decide +kernel
theorem dJ12_checkIndex_0 : decode cJ12_checkIndex 0 = .ok (.iload_n 0, 1) := dk_26 (dk_at dksJ12_checkIndex_0 0 rfl rfl)
theorem dJ12_checkIndex_1 : decode cJ12_checkIndex 1 = .ok (.ifCond .lt 8, 3) := dk_155 0 8 (dk_at dksJ12_checkIndex_0 1 rfl rfl)
theorem dJ12_checkIndex_4 : decode cJ12_checkIndex 4 = .ok (.iload_n 0, 1) := dk_26 (dk_at dksJ12_checkIndex_0 4 rfl rfl)
theorem dJ12_checkIndex_5 : decode cJ12_checkIndex 5 = .ok (.iload_n 1, 1) := dk_27 (dk_at dksJ12_checkIndex_0 5 rfl rfl)
theorem dJ12_checkIndex_6 : decode cJ12_checkIndex 6 = .ok (.if_icmp .lt 10, 3) := dk_161 0 10 (dk_at dksJ12_checkIndex_0 6 rfl rfl)
theorem dJ12_checkIndex_9 : decode cJ12_checkIndex 9 = .ok (.aload_n 2, 1) := dk_44 (dk_at dksJ12_checkIndex_0 9 rfl rfl)
theorem dJ12_checkIndex_10 : decode cJ12_checkIndex 10 = .ok (.iload_n 0, 1) := dk_26 (dk_at dksJ12_checkIndex_0 10 rfl rfl)
theorem dJ12_checkIndex_11 : decode cJ12_checkIndex 11 = .ok (.iload_n 1, 1) := dk_27 (dk_at dksJ12_checkIndex_0 11 rfl rfl)
theorem dJ12_checkIndex_12 : decode cJ12_checkIndex 12 = .ok (.invokestatic 95, 3) := dk_184 0 95 (dk_at dksJ12_checkIndex_0 12 rfl rfl)
theorem dJ12_checkIndex_15 : decode cJ12_checkIndex 15 = .ok (.athrow, 1) := dk_191 (dk_at dksJ12_checkIndex_0 15 rfl rfl)
theorem dJ12_checkIndex_16 : decode cJ12_checkIndex 16 = .ok (.iload_n 0, 1) := dk_26 (dk_at dksJ12_checkIndex_0 16 rfl rfl)
theorem dJ12_checkIndex_17 : decode cJ12_checkIndex 17 = .ok (.ireturn, 1) := dk_172 (dk_at dksJ12_checkIndex_0 17 rfl rfl)
abbrev cJ12_checkFromToIndex : ByteArray := prog_73_method_12_code
def yJ12_checkFromToIndex : MethodName := ⟨RJ12, "checkFromToIndex", "(IIILjava/util/function/BiFunction;)I"⟩
def dkwJ12_checkFromToIndex_0 : List UInt8 := [26, 155, 0, 13, 26, 27, 163, 0, 8, 27, 28, 164, 0, 11, 45, 26, 27, 28, 184, 0, 99, 191, 26, 172]
abbrev dktJ12_checkFromToIndex_0 : List UInt8 := dkwJ12_checkFromToIndex_0 ++ []
theorem dksJ12_checkFromToIndex_0 : cJ12_checkFromToIndex.data.toList.drop 0 = dktJ12_checkFromToIndex_0 := by decide +kernel
theorem dJ12_checkFromToIndex_0 : decode cJ12_checkFromToIndex 0 = .ok (.iload_n 0, 1) := dk_26 (dk_at dksJ12_checkFromToIndex_0 0 rfl rfl)
theorem dJ12_checkFromToIndex_1 : decode cJ12_checkFromToIndex 1 = .ok (.ifCond .lt 13, 3) := dk_155 0 13 (dk_at dksJ12_checkFromToIndex_0 1 rfl rfl)
theorem dJ12_checkFromToIndex_4 : decode cJ12_checkFromToIndex 4 = .ok (.iload_n 0, 1) := dk_26 (dk_at dksJ12_checkFromToIndex_0 4 rfl rfl)
theorem dJ12_checkFromToIndex_5 : decode cJ12_checkFromToIndex 5 = .ok (.iload_n 1, 1) := dk_27 (dk_at dksJ12_checkFromToIndex_0 5 rfl rfl)
theorem dJ12_checkFromToIndex_6 : decode cJ12_checkFromToIndex 6 = .ok (.if_icmp .gt 8, 3) := dk_163 0 8 (dk_at dksJ12_checkFromToIndex_0 6 rfl rfl)
theorem dJ12_checkFromToIndex_9 : decode cJ12_checkFromToIndex 9 = .ok (.iload_n 1, 1) := dk_27 (dk_at dksJ12_checkFromToIndex_0 9 rfl rfl)
theorem dJ12_checkFromToIndex_10 : decode cJ12_checkFromToIndex 10 = .ok (.iload_n 2, 1) := dk_28 (dk_at dksJ12_checkFromToIndex_0 10 rfl rfl)
theorem dJ12_checkFromToIndex_11 : decode cJ12_checkFromToIndex 11 = .ok (.if_icmp .le 11, 3) := dk_164 0 11 (dk_at dksJ12_checkFromToIndex_0 11 rfl rfl)
theorem dJ12_checkFromToIndex_14 : decode cJ12_checkFromToIndex 14 = .ok (.aload_n 3, 1) := dk_45 (dk_at dksJ12_checkFromToIndex_0 14 rfl rfl)
theorem dJ12_checkFromToIndex_15 : decode cJ12_checkFromToIndex 15 = .ok (.iload_n 0, 1) := dk_26 (dk_at dksJ12_checkFromToIndex_0 15 rfl rfl)
theorem dJ12_checkFromToIndex_16 : decode cJ12_checkFromToIndex 16 = .ok (.iload_n 1, 1) := dk_27 (dk_at dksJ12_checkFromToIndex_0 16 rfl rfl)
theorem dJ12_checkFromToIndex_17 : decode cJ12_checkFromToIndex 17 = .ok (.iload_n 2, 1) := dk_28 (dk_at dksJ12_checkFromToIndex_0 17 rfl rfl)
theorem dJ12_checkFromToIndex_18 : decode cJ12_checkFromToIndex 18 = .ok (.invokestatic 99, 3) := dk_184 0 99 (dk_at dksJ12_checkFromToIndex_0 18 rfl rfl)
theorem dJ12_checkFromToIndex_21 : decode cJ12_checkFromToIndex 21 = .ok (.athrow, 1) := dk_191 (dk_at dksJ12_checkFromToIndex_0 21 rfl rfl)
theorem dJ12_checkFromToIndex_22 : decode cJ12_checkFromToIndex 22 = .ok (.iload_n 0, 1) := dk_26 (dk_at dksJ12_checkFromToIndex_0 22 rfl rfl)
theorem dJ12_checkFromToIndex_23 : decode cJ12_checkFromToIndex 23 = .ok (.ireturn, 1) := dk_172 (dk_at dksJ12_checkFromToIndex_0 23 rfl rfl)
theorem q64 : (Jvm.Cond.initialized "jdk/internal/util/Preconditions") ∈ lw_all := lw_g (lw_at lw_m1 18 rfl) rfl
theorem q325 : (Jvm.Cond.laysStatic "jdk/internal/util/Preconditions" "SIOOBE_FORMATTER" "Ljava/util/function/BiFunction;") ∈ lw_tbl := lw_at lw_m2 39 rfl
theorem q327 : (Jvm.Cond.static ({ cls := "jdk/internal/util/Preconditions", name := "checkIndex", desc := "(IILjava/util/function/BiFunction;)I" } : Jvm.MethodName)) ∈ lw_all := lw_g (lw_at lw_m2 41 rfl) rfl
theorem q328 : (Jvm.Cond.code ({ cls := "jdk/internal/util/Preconditions", name := "checkIndex", desc := "(IILjava/util/function/BiFunction;)I" } : Jvm.MethodName) prog_73_method_11_code (3 : Nat) (Option.some Jvm.ClassFile.FieldType.int)) ∈ lw_all := lw_g (lw_at lw_m2 42 rfl) rfl
theorem q570 : (Jvm.Cond.static ({ cls := "jdk/internal/util/Preconditions", name := "checkFromToIndex", desc := "(IIILjava/util/function/BiFunction;)I" } : Jvm.MethodName)) ∈ lw_all := lw_g (lw_at lw_m3 44 rfl) rfl
theorem q571 : (Jvm.Cond.code ({ cls := "jdk/internal/util/Preconditions", name := "checkFromToIndex", desc := "(IIILjava/util/function/BiFunction;)I" } : Jvm.MethodName) prog_73_method_12_code (4 : Nat) (Option.some Jvm.ClassFile.FieldType.int)) ∈ lw_all := lw_g (lw_at lw_m3 45 rfl) rfl
theorem q622 : (Jvm.Cond.static ({ cls := "jdk/internal/util/Preconditions", name := "checkFromIndexSize", desc := "(IIILjava/util/function/BiFunction;)I" } : Jvm.MethodName)) ∈ lw_all := lw_g (lw_at lw_m3 96 rfl) rfl
theorem q623 : (Jvm.Cond.code ({ cls := "jdk/internal/util/Preconditions", name := "checkFromIndexSize", desc := "(IIILjava/util/function/BiFunction;)I" } : Jvm.MethodName) prog_73_method_13_code (4 : Nat) (Option.some Jvm.ClassFile.FieldType.int)) ∈ lw_all := lw_g (lw_at lw_m3 97 rfl) rfl
theorem q1665 : (Jvm.Cond.laysStatic "jdk/internal/util/Preconditions" "IOOBE_FORMATTER" "Ljava/util/function/BiFunction;") ∈ lw_tbl := lw_at lw_m7 179 rfl

/-! jdk/internal/util/ArraysSupport -/
set_option maxRecDepth 100000
def RJ13 : String := "jdk/internal/util/ArraysSupport"
abbrev cJ13_newLength : ByteArray := prog_72_method_27_code
def yJ13_newLength : MethodName := ⟨RJ13, "newLength", "(III)I"⟩
def dkwJ13_newLength_1 : List UInt8 := [184, 0, 201, 172]
abbrev dktJ13_newLength_1 : List UInt8 := dkwJ13_newLength_1 ++ []
def dkwJ13_newLength_0 : List UInt8 := [26, 27, 28, 184, 0, 194, 96, 62, 3, 29, 162, 0, 11, 29, 18, 200, 163, 0, 5, 29, 172, 26, 27]
abbrev dktJ13_newLength_0 : List UInt8 := dkwJ13_newLength_0 ++ dktJ13_newLength_1
theorem dksJ13_newLength_0 : cJ13_newLength.data.toList.drop 0 = dktJ13_newLength_0 := by decide +kernel
theorem dksJ13_newLength_1 : cJ13_newLength.data.toList.drop 23 = dktJ13_newLength_1 := dk_seg dksJ13_newLength_0 23 rfl rfl
theorem dJ13_newLength_0 : decode cJ13_newLength 0 = .ok (.iload_n 0, 1) := dk_26 (dk_at dksJ13_newLength_0 0 rfl rfl)
theorem dJ13_newLength_1 : decode cJ13_newLength 1 = .ok (.iload_n 1, 1) := dk_27 (dk_at dksJ13_newLength_0 1 rfl rfl)
theorem dJ13_newLength_2 : decode cJ13_newLength 2 = .ok (.iload_n 2, 1) := dk_28 (dk_at dksJ13_newLength_0 2 rfl rfl)
theorem dJ13_newLength_3 : decode cJ13_newLength 3 = .ok (.invokestatic 194, 3) := dk_184 0 194 (dk_at dksJ13_newLength_0 3 rfl rfl)
theorem dJ13_newLength_6 : decode cJ13_newLength 6 = .ok (.iadd, 1) := dk_96 (dk_at dksJ13_newLength_0 6 rfl rfl)
theorem dJ13_newLength_7 : decode cJ13_newLength 7 = .ok (.istore_n 3, 1) := dk_62 (dk_at dksJ13_newLength_0 7 rfl rfl)
theorem dJ13_newLength_8 : decode cJ13_newLength 8 = .ok (.iconst 0, 1) := dk_3 (dk_at dksJ13_newLength_0 8 rfl rfl)
theorem dJ13_newLength_9 : decode cJ13_newLength 9 = .ok (.iload_n 3, 1) := dk_29 (dk_at dksJ13_newLength_0 9 rfl rfl)
theorem dJ13_newLength_10 : decode cJ13_newLength 10 = .ok (.if_icmp .ge 11, 3) := dk_162 0 11 (dk_at dksJ13_newLength_0 10 rfl rfl)
theorem dJ13_newLength_13 : decode cJ13_newLength 13 = .ok (.iload_n 3, 1) := dk_29 (dk_at dksJ13_newLength_0 13 rfl rfl)
theorem dJ13_newLength_14 : decode cJ13_newLength 14 = .ok (.ldc 200, 2) := dk_18 200 (dk_at dksJ13_newLength_0 14 rfl rfl)
theorem dJ13_newLength_16 : decode cJ13_newLength 16 = .ok (.if_icmp .gt 5, 3) := dk_163 0 5 (dk_at dksJ13_newLength_0 16 rfl rfl)
theorem dJ13_newLength_19 : decode cJ13_newLength 19 = .ok (.iload_n 3, 1) := dk_29 (dk_at dksJ13_newLength_0 19 rfl rfl)
theorem dJ13_newLength_20 : decode cJ13_newLength 20 = .ok (.ireturn, 1) := dk_172 (dk_at dksJ13_newLength_0 20 rfl rfl)
theorem dJ13_newLength_21 : decode cJ13_newLength 21 = .ok (.iload_n 0, 1) := dk_26 (dk_at dksJ13_newLength_0 21 rfl rfl)
theorem dJ13_newLength_22 : decode cJ13_newLength 22 = .ok (.iload_n 1, 1) := dk_27 (dk_at dksJ13_newLength_0 22 rfl rfl)
theorem dJ13_newLength_23 : decode cJ13_newLength 23 = .ok (.invokestatic 201, 3) := dk_184 0 201 (dk_at dksJ13_newLength_1 0 rfl rfl)
theorem dJ13_newLength_26 : decode cJ13_newLength 26 = .ok (.ireturn, 1) := dk_172 (dk_at dksJ13_newLength_1 3 rfl rfl)
abbrev cJ13_mismatch : ByteArray := prog_72_method_13_code
def yJ13_mismatch : MethodName := ⟨RJ13, "mismatch", "([B[BI)I"⟩
def dkwJ13_mismatch_3 : List UInt8 := [172]
abbrev dktJ13_mismatch_3 : List UInt8 := dkwJ13_mismatch_3 ++ []
def dkwJ13_mismatch_2 : List UInt8 := [62, 29, 28, 162, 0, 20, 42, 29, 51, 43, 29, 51, 159, 0, 5, 29, 172, 132, 3, 1, 167, 255, 237, 2]
abbrev dktJ13_mismatch_2 : List UInt8 := dkwJ13_mismatch_2 ++ dktJ13_mismatch_3
def dkwJ13_mismatch_1 : List UInt8 := [43, 178, 0, 126, 133, 28, 178, 0, 129, 184, 0, 122, 62, 29, 155, 0, 5, 29, 172, 28, 29, 2, 130, 100]
abbrev dktJ13_mismatch_1 : List UInt8 := dkwJ13_mismatch_1 ++ dktJ13_mismatch_2
def dkwJ13_mismatch_0 : List UInt8 := [3, 62, 28, 16, 7, 164, 0, 44, 42, 3, 51, 43, 3, 51, 159, 0, 5, 3, 172, 42, 178, 0, 126, 133]
abbrev dktJ13_mismatch_0 : List UInt8 := dkwJ13_mismatch_0 ++ dktJ13_mismatch_1
theorem dksJ13_mismatch_0 : cJ13_mismatch.data.toList.drop 0 = dktJ13_mismatch_0 := by decide +kernel
theorem dksJ13_mismatch_1 : cJ13_mismatch.data.toList.drop 24 = dktJ13_mismatch_1 := dk_seg dksJ13_mismatch_0 24 rfl rfl
theorem dksJ13_mismatch_2 : cJ13_mismatch.data.toList.drop 48 = dktJ13_mismatch_2 := dk_seg dksJ13_mismatch_1 24 rfl rfl
theorem dksJ13_mismatch_3 : cJ13_mismatch.data.toList.drop 72 = dktJ13_mismatch_3 := dk_seg dksJ13_mismatch_2 24 rfl rfl
theorem dJ13_mismatch_0 : decode cJ13_mismatch 0 = .ok (.iconst 0, 1) := dk_3 (dk_at dksJ13_mismatch_0 0 rfl rfl)
theorem dJ13_mismatch_1 : decode cJ13_mismatch 1 = .ok (.istore_n 3, 1) := dk_62 (dk_at dksJ13_mismatch_0 1 rfl rfl)
theorem dJ13_mismatch_2 : decode cJ13_mismatch 2 = .ok (.iload_n 2, 1) := dk_28 (dk_at dksJ13_mismatch_0 2 rfl rfl)
theorem dJ13_mismatch_3 : decode cJ13_mismatch 3 = .ok (.bipush 7, 2) := dk_16 7 (dk_at dksJ13_mismatch_0 3 rfl rfl)
theorem dJ13_mismatch_5 : decode cJ13_mismatch 5 = .ok (.if_icmp .le 44, 3) := dk_164 0 44 (dk_at dksJ13_mismatch_0 5 rfl rfl)
theorem dJ13_mismatch_8 : decode cJ13_mismatch 8 = .ok (.aload_n 0, 1) := dk_42 (dk_at dksJ13_mismatch_0 8 rfl rfl)
theorem dJ13_mismatch_9 : decode cJ13_mismatch 9 = .ok (.iconst 0, 1) := dk_3 (dk_at dksJ13_mismatch_0 9 rfl rfl)
theorem dJ13_mismatch_10 : decode cJ13_mismatch 10 = .ok (.baload, 1) := dk_51 (dk_at dksJ13_mismatch_0 10 rfl rfl)
theorem dJ13_mismatch_11 : decode cJ13_mismatch 11 = .ok (.aload_n 1, 1) := dk_43 (dk_at dksJ13_mismatch_0 11 rfl rfl)
theorem dJ13_mismatch_12 : decode cJ13_mismatch 12 = .ok (.iconst 0, 1) := dk_3 (dk_at dksJ13_mismatch_0 12 rfl rfl)
theorem dJ13_mismatch_13 : decode cJ13_mismatch 13 = .ok (.baload, 1) := dk_51 (dk_at dksJ13_mismatch_0 13 rfl rfl)
theorem dJ13_mismatch_14 : decode cJ13_mismatch 14 = .ok (.if_icmp .eq 5, 3) := dk_159 0 5 (dk_at dksJ13_mismatch_0 14 rfl rfl)
theorem dJ13_mismatch_17 : decode cJ13_mismatch 17 = .ok (.iconst 0, 1) := dk_3 (dk_at dksJ13_mismatch_0 17 rfl rfl)
theorem dJ13_mismatch_18 : decode cJ13_mismatch 18 = .ok (.ireturn, 1) := dk_172 (dk_at dksJ13_mismatch_0 18 rfl rfl)
theorem dJ13_mismatch_19 : decode cJ13_mismatch 19 = .ok (.aload_n 0, 1) := dk_42 (dk_at dksJ13_mismatch_0 19 rfl rfl)
theorem dJ13_mismatch_20 : decode cJ13_mismatch 20 = .ok (.getstatic 126, 3) := dk_178 0 126 (dk_at dksJ13_mismatch_0 20 rfl rfl)
theorem dJ13_mismatch_23 : decode cJ13_mismatch 23 = .ok (.i2l, 1) := dk_133 (dk_at dksJ13_mismatch_0 23 rfl rfl)
theorem dJ13_mismatch_24 : decode cJ13_mismatch 24 = .ok (.aload_n 1, 1) := dk_43 (dk_at dksJ13_mismatch_1 0 rfl rfl)
theorem dJ13_mismatch_25 : decode cJ13_mismatch 25 = .ok (.getstatic 126, 3) := dk_178 0 126 (dk_at dksJ13_mismatch_1 1 rfl rfl)
theorem dJ13_mismatch_28 : decode cJ13_mismatch 28 = .ok (.i2l, 1) := dk_133 (dk_at dksJ13_mismatch_1 4 rfl rfl)
theorem dJ13_mismatch_29 : decode cJ13_mismatch 29 = .ok (.iload_n 2, 1) := dk_28 (dk_at dksJ13_mismatch_1 5 rfl rfl)
theorem dJ13_mismatch_30 : decode cJ13_mismatch 30 = .ok (.getstatic 129, 3) := dk_178 0 129 (dk_at dksJ13_mismatch_1 6 rfl rfl)
theorem dJ13_mismatch_33 : decode cJ13_mismatch 33 = .ok (.invokestatic 122, 3) := dk_184 0 122 (dk_at dksJ13_mismatch_1 9 rfl rfl)
theorem dJ13_mismatch_36 : decode cJ13_mismatch 36 = .ok (.istore_n 3, 1) := dk_62 (dk_at dksJ13_mismatch_1 12 rfl rfl)
theorem dJ13_mismatch_37 : decode cJ13_mismatch 37 = .ok (.iload_n 3, 1) := dk_29 (dk_at dksJ13_mismatch_1 13 rfl rfl)
theorem dJ13_mismatch_38 : decode cJ13_mismatch 38 = .ok (.ifCond .lt 5, 3) := dk_155 0 5 (dk_at dksJ13_mismatch_1 14 rfl rfl)
theorem dJ13_mismatch_41 : decode cJ13_mismatch 41 = .ok (.iload_n 3, 1) := dk_29 (dk_at dksJ13_mismatch_1 17 rfl rfl)
theorem dJ13_mismatch_42 : decode cJ13_mismatch 42 = .ok (.ireturn, 1) := dk_172 (dk_at dksJ13_mismatch_1 18 rfl rfl)
theorem dJ13_mismatch_43 : decode cJ13_mismatch 43 = .ok (.iload_n 2, 1) := dk_28 (dk_at dksJ13_mismatch_1 19 rfl rfl)
theorem dJ13_mismatch_44 : decode cJ13_mismatch 44 = .ok (.iload_n 3, 1) := dk_29 (dk_at dksJ13_mismatch_1 20 rfl rfl)
theorem dJ13_mismatch_45 : decode cJ13_mismatch 45 = .ok (.iconst (-1), 1) := dk_2 (dk_at dksJ13_mismatch_1 21 rfl rfl)
theorem dJ13_mismatch_46 : decode cJ13_mismatch 46 = .ok (.ixor, 1) := dk_130 (dk_at dksJ13_mismatch_1 22 rfl rfl)
theorem dJ13_mismatch_47 : decode cJ13_mismatch 47 = .ok (.isub, 1) := dk_100 (dk_at dksJ13_mismatch_1 23 rfl rfl)
theorem dJ13_mismatch_48 : decode cJ13_mismatch 48 = .ok (.istore_n 3, 1) := dk_62 (dk_at dksJ13_mismatch_2 0 rfl rfl)
theorem dJ13_mismatch_49 : decode cJ13_mismatch 49 = .ok (.iload_n 3, 1) := dk_29 (dk_at dksJ13_mismatch_2 1 rfl rfl)
theorem dJ13_mismatch_50 : decode cJ13_mismatch 50 = .ok (.iload_n 2, 1) := dk_28 (dk_at dksJ13_mismatch_2 2 rfl rfl)
theorem dJ13_mismatch_51 : decode cJ13_mismatch 51 = .ok (.if_icmp .ge 20, 3) := dk_162 0 20 (dk_at dksJ13_mismatch_2 3 rfl rfl)
theorem dJ13_mismatch_54 : decode cJ13_mismatch 54 = .ok (.aload_n 0, 1) := dk_42 (dk_at dksJ13_mismatch_2 6 rfl rfl)
theorem dJ13_mismatch_55 : decode cJ13_mismatch 55 = .ok (.iload_n 3, 1) := dk_29 (dk_at dksJ13_mismatch_2 7 rfl rfl)
theorem dJ13_mismatch_56 : decode cJ13_mismatch 56 = .ok (.baload, 1) := dk_51 (dk_at dksJ13_mismatch_2 8 rfl rfl)
theorem dJ13_mismatch_57 : decode cJ13_mismatch 57 = .ok (.aload_n 1, 1) := dk_43 (dk_at dksJ13_mismatch_2 9 rfl rfl)
theorem dJ13_mismatch_58 : decode cJ13_mismatch 58 = .ok (.iload_n 3, 1) := dk_29 (dk_at dksJ13_mismatch_2 10 rfl rfl)
theorem dJ13_mismatch_59 : decode cJ13_mismatch 59 = .ok (.baload, 1) := dk_51 (dk_at dksJ13_mismatch_2 11 rfl rfl)
theorem dJ13_mismatch_60 : decode cJ13_mismatch 60 = .ok (.if_icmp .eq 5, 3) := dk_159 0 5 (dk_at dksJ13_mismatch_2 12 rfl rfl)
theorem dJ13_mismatch_63 : decode cJ13_mismatch 63 = .ok (.iload_n 3, 1) := dk_29 (dk_at dksJ13_mismatch_2 15 rfl rfl)
theorem dJ13_mismatch_64 : decode cJ13_mismatch 64 = .ok (.ireturn, 1) := dk_172 (dk_at dksJ13_mismatch_2 16 rfl rfl)
theorem dJ13_mismatch_65 : decode cJ13_mismatch 65 = .ok (.iinc 3 1, 3) := dk_132 3 1 (dk_at dksJ13_mismatch_2 17 rfl rfl)
theorem dJ13_mismatch_68 : decode cJ13_mismatch 68 = .ok (.goto (-19), 3) := dk_167 255 237 (dk_at dksJ13_mismatch_2 20 rfl rfl)
theorem dJ13_mismatch_71 : decode cJ13_mismatch 71 = .ok (.iconst (-1), 1) := dk_2 (dk_at dksJ13_mismatch_2 23 rfl rfl)
theorem dJ13_mismatch_72 : decode cJ13_mismatch 72 = .ok (.ireturn, 1) := dk_172 (dk_at dksJ13_mismatch_3 0 rfl rfl)
abbrev cJ13_mismatch_2 : ByteArray := prog_72_method_14_code
def yJ13_mismatch_2 : MethodName := ⟨RJ13, "mismatch", "([BI[BII)I"⟩
def dkwJ13_mismatch_2_4 : List UInt8 := [132, 5, 1, 167, 255, 228, 2, 172]
abbrev dktJ13_mismatch_2_4 : List UInt8 := dkwJ13_mismatch_2_4 ++ []
def dkwJ13_mismatch_2_3 : List UInt8 := [21, 4, 162, 0, 27, 42, 27, 21, 5, 96, 51, 44, 29, 21, 5, 96, 51, 159, 0, 6, 21, 5, 172]
abbrev dktJ13_mismatch_2_3 : List UInt8 := dkwJ13_mismatch_2_3 ++ dktJ13_mismatch_2_4
def dkwJ13_mismatch_2_2 : List UInt8 := [184, 0, 122, 54, 5, 21, 5, 155, 0, 6, 21, 5, 172, 21, 4, 21, 5, 2, 130, 100, 54, 5, 21, 5]
abbrev dktJ13_mismatch_2_2 : List UInt8 := dkwJ13_mismatch_2_2 ++ dktJ13_mismatch_2_3
def dkwJ13_mismatch_2_1 : List UInt8 := [27, 96, 54, 6, 178, 0, 126, 29, 96, 54, 7, 42, 21, 6, 133, 44, 21, 7, 133, 21, 4, 178, 0, 129]
abbrev dktJ13_mismatch_2_1 : List UInt8 := dkwJ13_mismatch_2_1 ++ dktJ13_mismatch_2_2
def dkwJ13_mismatch_2_0 : List UInt8 := [3, 54, 5, 21, 4, 16, 7, 164, 0, 63, 42, 27, 51, 44, 29, 51, 159, 0, 5, 3, 172, 178, 0, 126]
abbrev dktJ13_mismatch_2_0 : List UInt8 := dkwJ13_mismatch_2_0 ++ dktJ13_mismatch_2_1
theorem dksJ13_mismatch_2_0 : cJ13_mismatch_2.data.toList.drop 0 = dktJ13_mismatch_2_0 := by decide +kernel
theorem dksJ13_mismatch_2_1 : cJ13_mismatch_2.data.toList.drop 24 = dktJ13_mismatch_2_1 := dk_seg dksJ13_mismatch_2_0 24 rfl rfl
theorem dksJ13_mismatch_2_2 : cJ13_mismatch_2.data.toList.drop 48 = dktJ13_mismatch_2_2 := dk_seg dksJ13_mismatch_2_1 24 rfl rfl
theorem dksJ13_mismatch_2_3 : cJ13_mismatch_2.data.toList.drop 72 = dktJ13_mismatch_2_3 := dk_seg dksJ13_mismatch_2_2 24 rfl rfl
theorem dksJ13_mismatch_2_4 : cJ13_mismatch_2.data.toList.drop 95 = dktJ13_mismatch_2_4 := dk_seg dksJ13_mismatch_2_3 23 rfl rfl
theorem dJ13_mismatch_2_0 : decode cJ13_mismatch_2 0 = .ok (.iconst 0, 1) := dk_3 (dk_at dksJ13_mismatch_2_0 0 rfl rfl)
theorem dJ13_mismatch_2_1 : decode cJ13_mismatch_2 1 = .ok (.istore 5, 2) := dk_54 5 (dk_at dksJ13_mismatch_2_0 1 rfl rfl)
theorem dJ13_mismatch_2_3 : decode cJ13_mismatch_2 3 = .ok (.iload 4, 2) := dk_21 4 (dk_at dksJ13_mismatch_2_0 3 rfl rfl)
theorem dJ13_mismatch_2_5 : decode cJ13_mismatch_2 5 = .ok (.bipush 7, 2) := dk_16 7 (dk_at dksJ13_mismatch_2_0 5 rfl rfl)
theorem dJ13_mismatch_2_7 : decode cJ13_mismatch_2 7 = .ok (.if_icmp .le 63, 3) := dk_164 0 63 (dk_at dksJ13_mismatch_2_0 7 rfl rfl)
theorem dJ13_mismatch_2_10 : decode cJ13_mismatch_2 10 = .ok (.aload_n 0, 1) := dk_42 (dk_at dksJ13_mismatch_2_0 10 rfl rfl)
theorem dJ13_mismatch_2_11 : decode cJ13_mismatch_2 11 = .ok (.iload_n 1, 1) := dk_27 (dk_at dksJ13_mismatch_2_0 11 rfl rfl)
theorem dJ13_mismatch_2_12 : decode cJ13_mismatch_2 12 = .ok (.baload, 1) := dk_51 (dk_at dksJ13_mismatch_2_0 12 rfl rfl)
theorem dJ13_mismatch_2_13 : decode cJ13_mismatch_2 13 = .ok (.aload_n 2, 1) := dk_44 (dk_at dksJ13_mismatch_2_0 13 rfl rfl)
theorem dJ13_mismatch_2_14 : decode cJ13_mismatch_2 14 = .ok (.iload_n 3, 1) := dk_29 (dk_at dksJ13_mismatch_2_0 14 rfl rfl)
theorem dJ13_mismatch_2_15 : decode cJ13_mismatch_2 15 = .ok (.baload, 1) := dk_51 (dk_at dksJ13_mismatch_2_0 15 rfl rfl)
theorem dJ13_mismatch_2_16 : decode cJ13_mismatch_2 16 = .ok (.if_icmp .eq 5, 3) := dk_159 0 5 (dk_at dksJ13_mismatch_2_0 16 rfl rfl)
theorem dJ13_mismatch_2_19 : decode cJ13_mismatch_2 19 = .ok (.iconst 0, 1) := dk_3 (dk_at dksJ13_mismatch_2_0 19 rfl rfl)
theorem dJ13_mismatch_2_20 : decode cJ13_mismatch_2 20 = .ok (.ireturn, 1) := dk_172 (dk_at dksJ13_mismatch_2_0 20 rfl rfl)
theorem dJ13_mismatch_2_21 : decode cJ13_mismatch_2 21 = .ok (.getstatic 126, 3) := dk_178 0 126 (dk_at dksJ13_mismatch_2_0 21 rfl rfl)
theorem dJ13_mismatch_2_24 : decode cJ13_mismatch_2 24 = .ok (.iload_n 1, 1) := dk_27 (dk_at dksJ13_mismatch_2_1 0 rfl rfl)
theorem dJ13_mismatch_2_25 : decode cJ13_mismatch_2 25 = .ok (.iadd, 1) := dk_96 (dk_at dksJ13_mismatch_2_1 1 rfl rfl)
theorem dJ13_mismatch_2_26 : decode cJ13_mismatch_2 26 = .ok (.istore 6, 2) := dk_54 6 (dk_at dksJ13_mismatch_2_1 2 rfl rfl)
theorem dJ13_mismatch_2_28 : decode cJ13_mismatch_2 28 = .ok (.getstatic 126, 3) := dk_178 0 126 (dk_at dksJ13_mismatch_2_1 4 rfl rfl)
theorem dJ13_mismatch_2_31 : decode cJ13_mismatch_2 31 = .ok (.iload_n 3, 1) := dk_29 (dk_at dksJ13_mismatch_2_1 7 rfl rfl)
theorem dJ13_mismatch_2_32 : decode cJ13_mismatch_2 32 = .ok (.iadd, 1) := dk_96 (dk_at dksJ13_mismatch_2_1 8 rfl rfl)
theorem dJ13_mismatch_2_33 : decode cJ13_mismatch_2 33 = .ok (.istore 7, 2) := dk_54 7 (dk_at dksJ13_mismatch_2_1 9 rfl rfl)
theorem dJ13_mismatch_2_35 : decode cJ13_mismatch_2 35 = .ok (.aload_n 0, 1) := dk_42 (dk_at dksJ13_mismatch_2_1 11 rfl rfl)
theorem dJ13_mismatch_2_36 : decode cJ13_mismatch_2 36 = .ok (.iload 6, 2) := dk_21 6 (dk_at dksJ13_mismatch_2_1 12 rfl rfl)
theorem dJ13_mismatch_2_38 : decode cJ13_mismatch_2 38 = .ok (.i2l, 1) := dk_133 (dk_at dksJ13_mismatch_2_1 14 rfl rfl)
theorem dJ13_mismatch_2_39 : decode cJ13_mismatch_2 39 = .ok (.aload_n 2, 1) := dk_44 (dk_at dksJ13_mismatch_2_1 15 rfl rfl)
theorem dJ13_mismatch_2_40 : decode cJ13_mismatch_2 40 = .ok (.iload 7, 2) := dk_21 7 (dk_at dksJ13_mismatch_2_1 16 rfl rfl)
theorem dJ13_mismatch_2_42 : decode cJ13_mismatch_2 42 = .ok (.i2l, 1) := dk_133 (dk_at dksJ13_mismatch_2_1 18 rfl rfl)
theorem dJ13_mismatch_2_43 : decode cJ13_mismatch_2 43 = .ok (.iload 4, 2) := dk_21 4 (dk_at dksJ13_mismatch_2_1 19 rfl rfl)
theorem dJ13_mismatch_2_45 : decode cJ13_mismatch_2 45 = .ok (.getstatic 129, 3) := dk_178 0 129 (dk_at dksJ13_mismatch_2_1 21 rfl rfl)
theorem dJ13_mismatch_2_48 : decode cJ13_mismatch_2 48 = .ok (.invokestatic 122, 3) := dk_184 0 122 (dk_at dksJ13_mismatch_2_2 0 rfl rfl)
theorem dJ13_mismatch_2_51 : decode cJ13_mismatch_2 51 = .ok (.istore 5, 2) := dk_54 5 (dk_at dksJ13_mismatch_2_2 3 rfl rfl)
theorem dJ13_mismatch_2_53 : decode cJ13_mismatch_2 53 = .ok (.iload 5, 2) := dk_21 5 (dk_at dksJ13_mismatch_2_2 5 rfl rfl)
theorem dJ13_mismatch_2_55 : decode cJ13_mismatch_2 55 = .ok (.ifCond .lt 6, 3) := dk_155 0 6 (dk_at dksJ13_mismatch_2_2 7 rfl rfl)
theorem dJ13_mismatch_2_58 : decode cJ13_mismatch_2 58 = .ok (.iload 5, 2) := dk_21 5 (dk_at dksJ13_mismatch_2_2 10 rfl rfl)
theorem dJ13_mismatch_2_60 : decode cJ13_mismatch_2 60 = .ok (.ireturn, 1) := dk_172 (dk_at dksJ13_mismatch_2_2 12 rfl rfl)
theorem dJ13_mismatch_2_61 : decode cJ13_mismatch_2 61 = .ok (.iload 4, 2) := dk_21 4 (dk_at dksJ13_mismatch_2_2 13 rfl rfl)
theorem dJ13_mismatch_2_63 : decode cJ13_mismatch_2 63 = .ok (.iload 5, 2) := dk_21 5 (dk_at dksJ13_mismatch_2_2 15 rfl rfl)
theorem dJ13_mismatch_2_65 : decode cJ13_mismatch_2 65 = .ok (.iconst (-1), 1) := dk_2 (dk_at dksJ13_mismatch_2_2 17 rfl rfl)
theorem dJ13_mismatch_2_66 : decode cJ13_mismatch_2 66 = .ok (.ixor, 1) := dk_130 (dk_at dksJ13_mismatch_2_2 18 rfl rfl)
theorem dJ13_mismatch_2_67 : decode cJ13_mismatch_2 67 = .ok (.isub, 1) := dk_100 (dk_at dksJ13_mismatch_2_2 19 rfl rfl)
theorem dJ13_mismatch_2_68 : decode cJ13_mismatch_2 68 = .ok (.istore 5, 2) := dk_54 5 (dk_at dksJ13_mismatch_2_2 20 rfl rfl)
theorem dJ13_mismatch_2_70 : decode cJ13_mismatch_2 70 = .ok (.iload 5, 2) := dk_21 5 (dk_at dksJ13_mismatch_2_2 22 rfl rfl)
theorem dJ13_mismatch_2_72 : decode cJ13_mismatch_2 72 = .ok (.iload 4, 2) := dk_21 4 (dk_at dksJ13_mismatch_2_3 0 rfl rfl)
theorem dJ13_mismatch_2_74 : decode cJ13_mismatch_2 74 = .ok (.if_icmp .ge 27, 3) := dk_162 0 27 (dk_at dksJ13_mismatch_2_3 2 rfl rfl)
theorem dJ13_mismatch_2_77 : decode cJ13_mismatch_2 77 = .ok (.aload_n 0, 1) := dk_42 (dk_at dksJ13_mismatch_2_3 5 rfl rfl)
theorem dJ13_mismatch_2_78 : decode cJ13_mismatch_2 78 = .ok (.iload_n 1, 1) := dk_27 (dk_at dksJ13_mismatch_2_3 6 rfl rfl)
theorem dJ13_mismatch_2_79 : decode cJ13_mismatch_2 79 = .ok (.iload 5, 2) := dk_21 5 (dk_at dksJ13_mismatch_2_3 7 rfl rfl)
theorem dJ13_mismatch_2_81 : decode cJ13_mismatch_2 81 = .ok (.iadd, 1) := dk_96 (dk_at dksJ13_mismatch_2_3 9 rfl rfl)
theorem dJ13_mismatch_2_82 : decode cJ13_mismatch_2 82 = .ok (.baload, 1) := dk_51 (dk_at dksJ13_mismatch_2_3 10 rfl rfl)
theorem dJ13_mismatch_2_83 : decode cJ13_mismatch_2 83 = .ok (.aload_n 2, 1) := dk_44 (dk_at dksJ13_mismatch_2_3 11 rfl rfl)
theorem dJ13_mismatch_2_84 : decode cJ13_mismatch_2 84 = .ok (.iload_n 3, 1) := dk_29 (dk_at dksJ13_mismatch_2_3 12 rfl rfl)
theorem dJ13_mismatch_2_85 : decode cJ13_mismatch_2 85 = .ok (.iload 5, 2) := dk_21 5 (dk_at dksJ13_mismatch_2_3 13 rfl rfl)
theorem dJ13_mismatch_2_87 : decode cJ13_mismatch_2 87 = .ok (.iadd, 1) := dk_96 (dk_at dksJ13_mismatch_2_3 15 rfl rfl)
theorem dJ13_mismatch_2_88 : decode cJ13_mismatch_2 88 = .ok (.baload, 1) := dk_51 (dk_at dksJ13_mismatch_2_3 16 rfl rfl)
theorem dJ13_mismatch_2_89 : decode cJ13_mismatch_2 89 = .ok (.if_icmp .eq 6, 3) := dk_159 0 6 (dk_at dksJ13_mismatch_2_3 17 rfl rfl)
theorem dJ13_mismatch_2_92 : decode cJ13_mismatch_2 92 = .ok (.iload 5, 2) := dk_21 5 (dk_at dksJ13_mismatch_2_3 20 rfl rfl)
theorem dJ13_mismatch_2_94 : decode cJ13_mismatch_2 94 = .ok (.ireturn, 1) := dk_172 (dk_at dksJ13_mismatch_2_3 22 rfl rfl)
theorem dJ13_mismatch_2_95 : decode cJ13_mismatch_2 95 = .ok (.iinc 5 1, 3) := dk_132 5 1 (dk_at dksJ13_mismatch_2_4 0 rfl rfl)
theorem dJ13_mismatch_2_98 : decode cJ13_mismatch_2 98 = .ok (.goto (-28), 3) := dk_167 255 228 (dk_at dksJ13_mismatch_2_4 3 rfl rfl)
theorem dJ13_mismatch_2_101 : decode cJ13_mismatch_2 101 = .ok (.iconst (-1), 1) := dk_2 (dk_at dksJ13_mismatch_2_4 6 rfl rfl)
theorem dJ13_mismatch_2_102 : decode cJ13_mismatch_2 102 = .ok (.ireturn, 1) := dk_172 (dk_at dksJ13_mismatch_2_4 7 rfl rfl)
theorem q65 : (Jvm.Cond.initialized "jdk/internal/util/ArraysSupport") ∈ lw_all := lw_g (lw_at lw_m1 19 rfl) rfl
theorem q528 : (Jvm.Cond.static ({ cls := "jdk/internal/util/ArraysSupport", name := "newLength", desc := "(III)I" } : Jvm.MethodName)) ∈ lw_all := lw_g (lw_at lw_m3 2 rfl) rfl
theorem q529 : (Jvm.Cond.code ({ cls := "jdk/internal/util/ArraysSupport", name := "newLength", desc := "(III)I" } : Jvm.MethodName) prog_72_method_27_code (4 : Nat) (Option.some Jvm.ClassFile.FieldType.int)) ∈ lw_all := lw_g (lw_at lw_m3 3 rfl) rfl
theorem q530 : (Jvm.Cond.methodLink "jdk/internal/util/ArraysSupport" (194 : Nat) ({ cls := "java/lang/Math", name := "max", desc := "(II)I" } : Jvm.MethodName)) ∈ lw_all := lw_g (lw_at lw_m3 4 rfl) rfl
theorem q533 : (Jvm.Cond.constant "jdk/internal/util/ArraysSupport" (200 : Nat) (2147483639 : Int32)) ∈ lw_all := lw_g (lw_at lw_m3 7 rfl) rfl
theorem q534 : (Jvm.Cond.methodLink "jdk/internal/util/ArraysSupport" (201 : Nat) ({ cls := "jdk/internal/util/ArraysSupport", name := "hugeLength", desc := "(II)I" } : Jvm.MethodName)) ∈ lw_all := lw_g (lw_at lw_m3 8 rfl) rfl
theorem q535 : (Jvm.Cond.static ({ cls := "jdk/internal/util/ArraysSupport", name := "hugeLength", desc := "(II)I" } : Jvm.MethodName)) ∈ lw_all := lw_g (lw_at lw_m3 9 rfl) rfl
theorem q536 : (Jvm.Cond.code ({ cls := "jdk/internal/util/ArraysSupport", name := "hugeLength", desc := "(II)I" } : Jvm.MethodName) prog_72_method_28_code (3 : Nat) (Option.some Jvm.ClassFile.FieldType.int)) ∈ lw_all := lw_g (lw_at lw_m3 10 rfl) rfl
theorem q728 : (Jvm.Cond.static ({ cls := "jdk/internal/util/ArraysSupport", name := "mismatch", desc := "([B[BI)I" } : Jvm.MethodName)) ∈ lw_all := lw_g (lw_at lw_m3 202 rfl) rfl
theorem q729 : (Jvm.Cond.code ({ cls := "jdk/internal/util/ArraysSupport", name := "mismatch", desc := "([B[BI)I" } : Jvm.MethodName) prog_72_method_13_code (4 : Nat) (Option.some Jvm.ClassFile.FieldType.int)) ∈ lw_all := lw_g (lw_at lw_m3 203 rfl) rfl
theorem q730 : (Jvm.Cond.fieldLink "jdk/internal/util/ArraysSupport" (126 : Nat) "jdk/internal/misc/Unsafe" "ARRAY_BYTE_BASE_OFFSET" "I") ∈ lw_all := lw_g (lw_at lw_m3 204 rfl) rfl
theorem q732 : (Jvm.Cond.fieldLink "jdk/internal/util/ArraysSupport" (129 : Nat) "jdk/internal/util/ArraysSupport" "LOG2_ARRAY_BYTE_INDEX_SCALE" "I") ∈ lw_all := lw_g (lw_at lw_m3 206 rfl) rfl
theorem q733 : (Jvm.Cond.laysStatic "jdk/internal/util/ArraysSupport" "LOG2_ARRAY_BYTE_INDEX_SCALE" "I") ∈ lw_tbl := lw_at lw_m3 207 rfl
theorem q734 : (Jvm.Cond.methodLink "jdk/internal/util/ArraysSupport" (122 : Nat) ({ cls := "jdk/internal/util/ArraysSupport", name := "vectorizedMismatch", desc := "(Ljava/lang/Object;JLjava/lang/Object;JII)I" } : Jvm.MethodName)) ∈ lw_all := lw_g (lw_at lw_m3 208 rfl) rfl
theorem q735 : (Jvm.Cond.static ({ cls := "jdk/internal/util/ArraysSupport", name := "vectorizedMismatch", desc := "(Ljava/lang/Object;JLjava/lang/Object;JII)I" } : Jvm.MethodName)) ∈ lw_all := lw_g (lw_at lw_m3 209 rfl) rfl
theorem q736 : (Jvm.Cond.code ({ cls := "jdk/internal/util/ArraysSupport", name := "vectorizedMismatch", desc := "(Ljava/lang/Object;JLjava/lang/Object;JII)I" } : Jvm.MethodName) prog_72_method_3_code (19 : Nat) (Option.some Jvm.ClassFile.FieldType.int)) ∈ lw_all := lw_g (lw_at lw_m3 210 rfl) rfl
theorem q737 : (Jvm.Cond.fieldLink "jdk/internal/util/ArraysSupport" (20 : Nat) "jdk/internal/util/ArraysSupport" "LOG2_ARRAY_LONG_INDEX_SCALE" "I") ∈ lw_all := lw_g (lw_at lw_m3 211 rfl) rfl
theorem q738 : (Jvm.Cond.laysStatic "jdk/internal/util/ArraysSupport" "LOG2_ARRAY_LONG_INDEX_SCALE" "I") ∈ lw_tbl := lw_at lw_m3 212 rfl
theorem q739 : (Jvm.Cond.fieldLink "jdk/internal/util/ArraysSupport" (26 : Nat) "jdk/internal/util/ArraysSupport" "U" "Ljdk/internal/misc/Unsafe;") ∈ lw_all := lw_g (lw_at lw_m3 213 rfl) rfl
theorem q740 : (Jvm.Cond.laysStatic "jdk/internal/util/ArraysSupport" "U" "Ljdk/internal/misc/Unsafe;") ∈ lw_tbl := lw_at lw_m3 214 rfl
theorem q741 : (Jvm.Cond.methodLink "jdk/internal/util/ArraysSupport" (30 : Nat) ({ cls := "jdk/internal/misc/Unsafe", name := "getLongUnaligned", desc := "(Ljava/lang/Object;J)J" } : Jvm.MethodName)) ∈ lw_all := lw_g (lw_at lw_m3 215 rfl) rfl
theorem q793 : (Jvm.Cond.fieldLink "jdk/internal/util/ArraysSupport" (36 : Nat) "jdk/internal/util/ArraysSupport" "BIG_ENDIAN" "Z") ∈ lw_all := lw_g (lw_at lw_m4 27 rfl) rfl
theorem q794 : (Jvm.Cond.laysStatic "jdk/internal/util/ArraysSupport" "BIG_ENDIAN" "Z") ∈ lw_tbl := lw_at lw_m4 28 rfl
theorem q795 : (Jvm.Cond.methodLink "jdk/internal/util/ArraysSupport" (40 : Nat) ({ cls := "java/lang/Long", name := "numberOfLeadingZeros", desc := "(J)I" } : Jvm.MethodName)) ∈ lw_all := lw_g (lw_at lw_m4 29 rfl) rfl
theorem q802 : (Jvm.Cond.fieldLink "jdk/internal/util/ArraysSupport" (46 : Nat) "jdk/internal/util/ArraysSupport" "LOG2_BYTE_BIT_SIZE" "I") ∈ lw_all := lw_g (lw_at lw_m4 36 rfl) rfl
theorem q803 : (Jvm.Cond.laysStatic "jdk/internal/util/ArraysSupport" "LOG2_BYTE_BIT_SIZE" "I") ∈ lw_tbl := lw_at lw_m4 37 rfl
theorem q804 : (Jvm.Cond.methodLink "jdk/internal/util/ArraysSupport" (49 : Nat) ({ cls := "java/lang/Long", name := "numberOfTrailingZeros", desc := "(J)I" } : Jvm.MethodName)) ∈ lw_all := lw_g (lw_at lw_m4 38 rfl) rfl
theorem q810 : (Jvm.Cond.fieldLink "jdk/internal/util/ArraysSupport" (51 : Nat) "jdk/internal/util/ArraysSupport" "LOG2_ARRAY_INT_INDEX_SCALE" "I") ∈ lw_all := lw_g (lw_at lw_m4 44 rfl) rfl
theorem q811 : (Jvm.Cond.laysStatic "jdk/internal/util/ArraysSupport" "LOG2_ARRAY_INT_INDEX_SCALE" "I") ∈ lw_tbl := lw_at lw_m4 45 rfl
theorem q812 : (Jvm.Cond.methodLink "jdk/internal/util/ArraysSupport" (54 : Nat) ({ cls := "jdk/internal/misc/Unsafe", name := "getIntUnaligned", desc := "(Ljava/lang/Object;J)I" } : Jvm.MethodName)) ∈ lw_all := lw_g (lw_at lw_m4 46 rfl) rfl
theorem q829 : (Jvm.Cond.methodLink "jdk/internal/util/ArraysSupport" (58 : Nat) ({ cls := "java/lang/Integer", name := "numberOfLeadingZeros", desc := "(I)I" } : Jvm.MethodName)) ∈ lw_all := lw_g (lw_at lw_m4 63 rfl) rfl
theorem q830 : (Jvm.Cond.methodLink "jdk/internal/util/ArraysSupport" (11 : Nat) ({ cls := "java/lang/Integer", name := "numberOfTrailingZeros", desc := "(I)I" } : Jvm.MethodName)) ∈ lw_all := lw_g (lw_at lw_m4 64 rfl) rfl
theorem q1097 : (Jvm.Cond.static ({ cls := "jdk/internal/util/ArraysSupport", name := "mismatch", desc := "([BI[BII)I" } : Jvm.MethodName)) ∈ lw_all := lw_g (lw_at lw_m5 91 rfl) rfl
theorem q1098 : (Jvm.Cond.code ({ cls := "jdk/internal/util/ArraysSupport", name := "mismatch", desc := "([BI[BII)I" } : Jvm.MethodName) prog_72_method_14_code (8 : Nat) (Option.some Jvm.ClassFile.FieldType.int)) ∈ lw_all := lw_g (lw_at lw_m5 92 rfl) rfl

/-! java/lang/Math -/
set_option maxRecDepth 100000
def RJ14 : String := "java/lang/Math"
abbrev cJ14_min : ByteArray := prog_27_method_69_code
def yJ14_min : MethodName := ⟨RJ14, "min", "(II)I"⟩
def dkwJ14_min_0 : List UInt8 := [26, 27, 163, 0, 7, 26, 167, 0, 4, 27, 172]
abbrev dktJ14_min_0 : List UInt8 := dkwJ14_min_0 ++ []
theorem dksJ14_min_0 : cJ14_min.data.toList.drop 0 = dktJ14_min_0 := by decide +kernel
theorem dJ14_min_0 : decode cJ14_min 0 = .ok (.iload_n 0, 1) := dk_26 (dk_at dksJ14_min_0 0 rfl rfl)
theorem dJ14_min_1 : decode cJ14_min 1 = .ok (.iload_n 1, 1) := dk_27 (dk_at dksJ14_min_0 1 rfl rfl)
theorem dJ14_min_2 : decode cJ14_min 2 = .ok (.if_icmp .gt 7, 3) := dk_163 0 7 (dk_at dksJ14_min_0 2 rfl rfl)
theorem dJ14_min_5 : decode cJ14_min 5 = .ok (.iload_n 0, 1) := dk_26 (dk_at dksJ14_min_0 5 rfl rfl)
theorem dJ14_min_6 : decode cJ14_min 6 = .ok (.goto 4, 3) := dk_167 0 4 (dk_at dksJ14_min_0 6 rfl rfl)
theorem dJ14_min_9 : decode cJ14_min 9 = .ok (.iload_n 1, 1) := dk_27 (dk_at dksJ14_min_0 9 rfl rfl)
theorem dJ14_min_10 : decode cJ14_min 10 = .ok (.ireturn, 1) := dk_172 (dk_at dksJ14_min_0 10 rfl rfl)
abbrev cJ14_max : ByteArray := prog_27_method_65_code
def yJ14_max : MethodName := ⟨RJ14, "max", "(II)I"⟩
def dkwJ14_max_0 : List UInt8 := [26, 27, 161, 0, 7, 26, 167, 0, 4, 27, 172]
abbrev dktJ14_max_0 : List UInt8 := dkwJ14_max_0 ++ []
theorem dksJ14_max_0 : cJ14_max.data.toList.drop 0 = dktJ14_max_0 := by decide +kernel
theorem dJ14_max_0 : decode cJ14_max 0 = .ok (.iload_n 0, 1) := dk_26 (dk_at dksJ14_max_0 0 rfl rfl)
theorem dJ14_max_1 : decode cJ14_max 1 = .ok (.iload_n 1, 1) := dk_27 (dk_at dksJ14_max_0 1 rfl rfl)
theorem dJ14_max_2 : decode cJ14_max 2 = .ok (.if_icmp .lt 7, 3) := dk_161 0 7 (dk_at dksJ14_max_0 2 rfl rfl)
theorem dJ14_max_5 : decode cJ14_max 5 = .ok (.iload_n 0, 1) := dk_26 (dk_at dksJ14_max_0 5 rfl rfl)
theorem dJ14_max_6 : decode cJ14_max 6 = .ok (.goto 4, 3) := dk_167 0 4 (dk_at dksJ14_max_0 6 rfl rfl)
theorem dJ14_max_9 : decode cJ14_max 9 = .ok (.iload_n 1, 1) := dk_27 (dk_at dksJ14_max_0 9 rfl rfl)
theorem dJ14_max_10 : decode cJ14_max 10 = .ok (.ireturn, 1) := dk_172 (dk_at dksJ14_max_0 10 rfl rfl)
abbrev cJ14_min_2 : ByteArray := prog_27_method_70_code
def yJ14_min_2 : MethodName := ⟨RJ14, "min", "(JJ)J"⟩
def dkwJ14_min_2_0 : List UInt8 := [30, 32, 148, 157, 0, 7, 30, 167, 0, 4, 32, 173]
abbrev dktJ14_min_2_0 : List UInt8 := dkwJ14_min_2_0 ++ []
theorem dksJ14_min_2_0 : cJ14_min_2.data.toList.drop 0 = dktJ14_min_2_0 := by decide +kernel
theorem dJ14_min_2_0 : decode cJ14_min_2 0 = .ok (.lload_n 0, 1) := dk_30 (dk_at dksJ14_min_2_0 0 rfl rfl)
theorem dJ14_min_2_1 : decode cJ14_min_2 1 = .ok (.lload_n 2, 1) := dk_32 (dk_at dksJ14_min_2_0 1 rfl rfl)
theorem dJ14_min_2_2 : decode cJ14_min_2 2 = .ok (.lcmp, 1) := dk_148 (dk_at dksJ14_min_2_0 2 rfl rfl)
theorem dJ14_min_2_3 : decode cJ14_min_2 3 = .ok (.ifCond .gt 7, 3) := dk_157 0 7 (dk_at dksJ14_min_2_0 3 rfl rfl)
theorem dJ14_min_2_6 : decode cJ14_min_2 6 = .ok (.lload_n 0, 1) := dk_30 (dk_at dksJ14_min_2_0 6 rfl rfl)
theorem dJ14_min_2_7 : decode cJ14_min_2 7 = .ok (.goto 4, 3) := dk_167 0 4 (dk_at dksJ14_min_2_0 7 rfl rfl)
theorem dJ14_min_2_10 : decode cJ14_min_2 10 = .ok (.lload_n 2, 1) := dk_32 (dk_at dksJ14_min_2_0 10 rfl rfl)
theorem dJ14_min_2_11 : decode cJ14_min_2 11 = .ok (.lreturn, 1) := dk_173 (dk_at dksJ14_min_2_0 11 rfl rfl)
theorem q66 : (Jvm.Cond.initialized "java/lang/Math") ∈ lw_all := lw_g (lw_at lw_m1 20 rfl) rfl
theorem q319 : (Jvm.Cond.static ({ cls := "java/lang/Math", name := "min", desc := "(II)I" } : Jvm.MethodName)) ∈ lw_all := lw_g (lw_at lw_m2 33 rfl) rfl
theorem q320 : (Jvm.Cond.code ({ cls := "java/lang/Math", name := "min", desc := "(II)I" } : Jvm.MethodName) prog_27_method_69_code (2 : Nat) (Option.some Jvm.ClassFile.FieldType.int)) ∈ lw_all := lw_g (lw_at lw_m2 34 rfl) rfl
theorem q531 : (Jvm.Cond.static ({ cls := "java/lang/Math", name := "max", desc := "(II)I" } : Jvm.MethodName)) ∈ lw_all := lw_g (lw_at lw_m3 5 rfl) rfl
theorem q532 : (Jvm.Cond.code ({ cls := "java/lang/Math", name := "max", desc := "(II)I" } : Jvm.MethodName) prog_27_method_65_code (2 : Nat) (Option.some Jvm.ClassFile.FieldType.int)) ∈ lw_all := lw_g (lw_at lw_m3 6 rfl) rfl
theorem q1782 : (Jvm.Cond.static ({ cls := "java/lang/Math", name := "min", desc := "(JJ)J" } : Jvm.MethodName)) ∈ lw_all := lw_g (lw_at lw_m8 56 rfl) rfl
theorem q1783 : (Jvm.Cond.code ({ cls := "java/lang/Math", name := "min", desc := "(JJ)J" } : Jvm.MethodName) prog_27_method_70_code (4 : Nat) (Option.some Jvm.ClassFile.FieldType.long)) ∈ lw_all := lw_g (lw_at lw_m8 57 rfl) rfl

/-! java/util/Arrays -/
set_option maxRecDepth 100000
def RJ15 : String := "java/util/Arrays"
abbrev cJ15_copyOfRange : ByteArray := prog_46_method_132_code
def yJ15_copyOfRange : MethodName := ⟨RJ15, "copyOfRange", "([BII)[B"⟩
def dkwJ15_copyOfRange_1 : List UInt8 := [176]
abbrev dktJ15_copyOfRange_1 : List UInt8 := dkwJ15_copyOfRange_1 ++ []
def dkwJ15_copyOfRange_0 : List UInt8 := [27, 154, 0, 9, 28, 42, 190, 159, 0, 10, 42, 27, 28, 184, 1, 83, 176, 42, 182, 1, 54, 192, 1, 55]
abbrev dktJ15_copyOfRange_0 : List UInt8 := dkwJ15_copyOfRange_0 ++ dktJ15_copyOfRange_1
theorem dksJ15_copyOfRange_0 : cJ15_copyOfRange.data.toList.drop 0 = dktJ15_copyOfRange_0 := by decide +kernel
theorem dksJ15_copyOfRange_1 : cJ15_copyOfRange.data.toList.drop 24 = dktJ15_copyOfRange_1 := dk_seg dksJ15_copyOfRange_0 24 rfl rfl
theorem dJ15_copyOfRange_0 : decode cJ15_copyOfRange 0 = .ok (.iload_n 1, 1) := dk_27 (dk_at dksJ15_copyOfRange_0 0 rfl rfl)
theorem dJ15_copyOfRange_1 : decode cJ15_copyOfRange 1 = .ok (.ifCond .ne 9, 3) := dk_154 0 9 (dk_at dksJ15_copyOfRange_0 1 rfl rfl)
theorem dJ15_copyOfRange_4 : decode cJ15_copyOfRange 4 = .ok (.iload_n 2, 1) := dk_28 (dk_at dksJ15_copyOfRange_0 4 rfl rfl)
theorem dJ15_copyOfRange_5 : decode cJ15_copyOfRange 5 = .ok (.aload_n 0, 1) := dk_42 (dk_at dksJ15_copyOfRange_0 5 rfl rfl)
theorem dJ15_copyOfRange_6 : decode cJ15_copyOfRange 6 = .ok (.arraylength, 1) := dk_190 (dk_at dksJ15_copyOfRange_0 6 rfl rfl)
theorem dJ15_copyOfRange_7 : decode cJ15_copyOfRange 7 = .ok (.if_icmp .eq 10, 3) := dk_159 0 10 (dk_at dksJ15_copyOfRange_0 7 rfl rfl)
theorem dJ15_copyOfRange_10 : decode cJ15_copyOfRange 10 = .ok (.aload_n 0, 1) := dk_42 (dk_at dksJ15_copyOfRange_0 10 rfl rfl)
theorem dJ15_copyOfRange_11 : decode cJ15_copyOfRange 11 = .ok (.iload_n 1, 1) := dk_27 (dk_at dksJ15_copyOfRange_0 11 rfl rfl)
theorem dJ15_copyOfRange_12 : decode cJ15_copyOfRange 12 = .ok (.iload_n 2, 1) := dk_28 (dk_at dksJ15_copyOfRange_0 12 rfl rfl)
theorem dJ15_copyOfRange_13 : decode cJ15_copyOfRange 13 = .ok (.invokestatic 339, 3) := dk_184 1 83 (dk_at dksJ15_copyOfRange_0 13 rfl rfl)
theorem dJ15_copyOfRange_16 : decode cJ15_copyOfRange 16 = .ok (.areturn, 1) := dk_176 (dk_at dksJ15_copyOfRange_0 16 rfl rfl)
theorem dJ15_copyOfRange_17 : decode cJ15_copyOfRange 17 = .ok (.aload_n 0, 1) := dk_42 (dk_at dksJ15_copyOfRange_0 17 rfl rfl)
theorem dJ15_copyOfRange_18 : decode cJ15_copyOfRange 18 = .ok (.invokevirtual 310, 3) := dk_182 1 54 (dk_at dksJ15_copyOfRange_0 18 rfl rfl)
theorem dJ15_copyOfRange_21 : decode cJ15_copyOfRange 21 = .ok (.checkcast 311, 3) := dk_192 1 55 (dk_at dksJ15_copyOfRange_0 21 rfl rfl)
theorem dJ15_copyOfRange_24 : decode cJ15_copyOfRange 24 = .ok (.areturn, 1) := dk_176 (dk_at dksJ15_copyOfRange_1 0 rfl rfl)
abbrev cJ15_copyOfRangeByte : ByteArray := prog_46_method_133_code
def yJ15_copyOfRangeByte : MethodName := ⟨RJ15, "copyOfRangeByte", "([BII)[B"⟩
def dkwJ15_copyOfRangeByte_1 : List UInt8 := [184, 1, 48, 184, 0, 150, 25, 4, 176]
abbrev dktJ15_copyOfRangeByte_1 : List UInt8 := dkwJ15_copyOfRangeByte_1 ++ []
def dkwJ15_copyOfRangeByte_0 : List UInt8 := [27, 28, 184, 1, 87, 28, 27, 100, 62, 29, 188, 8, 58, 4, 42, 27, 25, 4, 3, 42, 190, 27, 100, 29]
abbrev dktJ15_copyOfRangeByte_0 : List UInt8 := dkwJ15_copyOfRangeByte_0 ++ dktJ15_copyOfRangeByte_1
theorem dksJ15_copyOfRangeByte_0 : cJ15_copyOfRangeByte.data.toList.drop 0 = dktJ15_copyOfRangeByte_0 := by decide +kernel
theorem dksJ15_copyOfRangeByte_1 : cJ15_copyOfRangeByte.data.toList.drop 24 = dktJ15_copyOfRangeByte_1 := dk_seg dksJ15_copyOfRangeByte_0 24 rfl rfl
theorem dJ15_copyOfRangeByte_0 : decode cJ15_copyOfRangeByte 0 = .ok (.iload_n 1, 1) := dk_27 (dk_at dksJ15_copyOfRangeByte_0 0 rfl rfl)
theorem dJ15_copyOfRangeByte_1 : decode cJ15_copyOfRangeByte 1 = .ok (.iload_n 2, 1) := dk_28 (dk_at dksJ15_copyOfRangeByte_0 1 rfl rfl)
theorem dJ15_copyOfRangeByte_2 : decode cJ15_copyOfRangeByte 2 = .ok (.invokestatic 343, 3) := dk_184 1 87 (dk_at dksJ15_copyOfRangeByte_0 2 rfl rfl)
theorem dJ15_copyOfRangeByte_5 : decode cJ15_copyOfRangeByte 5 = .ok (.iload_n 2, 1) := dk_28 (dk_at dksJ15_copyOfRangeByte_0 5 rfl rfl)
theorem dJ15_copyOfRangeByte_6 : decode cJ15_copyOfRangeByte 6 = .ok (.iload_n 1, 1) := dk_27 (dk_at dksJ15_copyOfRangeByte_0 6 rfl rfl)
theorem dJ15_copyOfRangeByte_7 : decode cJ15_copyOfRangeByte 7 = .ok (.isub, 1) := dk_100 (dk_at dksJ15_copyOfRangeByte_0 7 rfl rfl)
theorem dJ15_copyOfRangeByte_8 : decode cJ15_copyOfRangeByte 8 = .ok (.istore_n 3, 1) := dk_62 (dk_at dksJ15_copyOfRangeByte_0 8 rfl rfl)
theorem dJ15_copyOfRangeByte_9 : decode cJ15_copyOfRangeByte 9 = .ok (.iload_n 3, 1) := dk_29 (dk_at dksJ15_copyOfRangeByte_0 9 rfl rfl)
theorem dJ15_copyOfRangeByte_10 : decode cJ15_copyOfRangeByte 10 = .ok (.newarray .byte, 2) := dk_188_8 (dk_at dksJ15_copyOfRangeByte_0 10 rfl rfl)
theorem dJ15_copyOfRangeByte_12 : decode cJ15_copyOfRangeByte 12 = .ok (.astore 4, 2) := dk_58 4 (dk_at dksJ15_copyOfRangeByte_0 12 rfl rfl)
theorem dJ15_copyOfRangeByte_14 : decode cJ15_copyOfRangeByte 14 = .ok (.aload_n 0, 1) := dk_42 (dk_at dksJ15_copyOfRangeByte_0 14 rfl rfl)
theorem dJ15_copyOfRangeByte_15 : decode cJ15_copyOfRangeByte 15 = .ok (.iload_n 1, 1) := dk_27 (dk_at dksJ15_copyOfRangeByte_0 15 rfl rfl)
theorem dJ15_copyOfRangeByte_16 : decode cJ15_copyOfRangeByte 16 = .ok (.aload 4, 2) := dk_25 4 (dk_at dksJ15_copyOfRangeByte_0 16 rfl rfl)
theorem dJ15_copyOfRangeByte_18 : decode cJ15_copyOfRangeByte 18 = .ok (.iconst 0, 1) := dk_3 (dk_at dksJ15_copyOfRangeByte_0 18 rfl rfl)
theorem dJ15_copyOfRangeByte_19 : decode cJ15_copyOfRangeByte 19 = .ok (.aload_n 0, 1) := dk_42 (dk_at dksJ15_copyOfRangeByte_0 19 rfl rfl)
theorem dJ15_copyOfRangeByte_20 : decode cJ15_copyOfRangeByte 20 = .ok (.arraylength, 1) := dk_190 (dk_at dksJ15_copyOfRangeByte_0 20 rfl rfl)
theorem dJ15_copyOfRangeByte_21 : decode cJ15_copyOfRangeByte 21 = .ok (.iload_n 1, 1) := dk_27 (dk_at dksJ15_copyOfRangeByte_0 21 rfl rfl)
theorem dJ15_copyOfRangeByte_22 : decode cJ15_copyOfRangeByte 22 = .ok (.isub, 1) := dk_100 (dk_at dksJ15_copyOfRangeByte_0 22 rfl rfl)
theorem dJ15_copyOfRangeByte_23 : decode cJ15_copyOfRangeByte 23 = .ok (.iload_n 3, 1) := dk_29 (dk_at dksJ15_copyOfRangeByte_0 23 rfl rfl)
theorem dJ15_copyOfRangeByte_24 : decode cJ15_copyOfRangeByte 24 = .ok (.invokestatic 304, 3) := dk_184 1 48 (dk_at dksJ15_copyOfRangeByte_1 0 rfl rfl)
theorem dJ15_copyOfRangeByte_27 : decode cJ15_copyOfRangeByte 27 = .ok (.invokestatic 150, 3) := dk_184 0 150 (dk_at dksJ15_copyOfRangeByte_1 3 rfl rfl)
theorem dJ15_copyOfRangeByte_30 : decode cJ15_copyOfRangeByte 30 = .ok (.aload 4, 2) := dk_25 4 (dk_at dksJ15_copyOfRangeByte_1 6 rfl rfl)
theorem dJ15_copyOfRangeByte_32 : decode cJ15_copyOfRangeByte 32 = .ok (.areturn, 1) := dk_176 (dk_at dksJ15_copyOfRangeByte_1 8 rfl rfl)
abbrev cJ15_checkLength : ByteArray := prog_46_method_131_code
def yJ15_checkLength : MethodName := ⟨RJ15, "checkLength", "(II)V"⟩
def dkwJ15_checkLength_1 : List UInt8 := [182, 0, 50, 27, 182, 0, 54, 182, 0, 61, 183, 0, 65, 191, 177]
abbrev dktJ15_checkLength_1 : List UInt8 := dkwJ15_checkLength_1 ++ []
def dkwJ15_checkLength_0 : List UInt8 := [27, 26, 162, 0, 35, 187, 0, 43, 89, 187, 0, 45, 89, 183, 0, 47, 26, 182, 0, 54, 19, 1, 81]
abbrev dktJ15_checkLength_0 : List UInt8 := dkwJ15_checkLength_0 ++ dktJ15_checkLength_1
theorem dksJ15_checkLength_0 : cJ15_checkLength.data.toList.drop 0 = dktJ15_checkLength_0 := by decide +kernel
theorem dksJ15_checkLength_1 : cJ15_checkLength.data.toList.drop 23 = dktJ15_checkLength_1 := dk_seg dksJ15_checkLength_0 23 rfl rfl
theorem dJ15_checkLength_0 : decode cJ15_checkLength 0 = .ok (.iload_n 1, 1) := dk_27 (dk_at dksJ15_checkLength_0 0 rfl rfl)
theorem dJ15_checkLength_1 : decode cJ15_checkLength 1 = .ok (.iload_n 0, 1) := dk_26 (dk_at dksJ15_checkLength_0 1 rfl rfl)
theorem dJ15_checkLength_2 : decode cJ15_checkLength 2 = .ok (.if_icmp .ge 35, 3) := dk_162 0 35 (dk_at dksJ15_checkLength_0 2 rfl rfl)
theorem dJ15_checkLength_5 : decode cJ15_checkLength 5 = .ok (.new 43, 3) := dk_187 0 43 (dk_at dksJ15_checkLength_0 5 rfl rfl)
theorem dJ15_checkLength_8 : decode cJ15_checkLength 8 = .ok (.dup, 1) := dk_89 (dk_at dksJ15_checkLength_0 8 rfl rfl)
theorem dJ15_checkLength_9 : decode cJ15_checkLength 9 = .ok (.new 45, 3) := dk_187 0 45 (dk_at dksJ15_checkLength_0 9 rfl rfl)
theorem dJ15_checkLength_12 : decode cJ15_checkLength 12 = .ok (.dup, 1) := dk_89 (dk_at dksJ15_checkLength_0 12 rfl rfl)
theorem dJ15_checkLength_13 : decode cJ15_checkLength 13 = .ok (.invokespecial 47, 3) := dk_183 0 47 (dk_at dksJ15_checkLength_0 13 rfl rfl)
theorem dJ15_checkLength_16 : decode cJ15_checkLength 16 = .ok (.iload_n 0, 1) := dk_26 (dk_at dksJ15_checkLength_0 16 rfl rfl)
theorem dJ15_checkLength_17 : decode cJ15_checkLength 17 = .ok (.invokevirtual 54, 3) := dk_182 0 54 (dk_at dksJ15_checkLength_0 17 rfl rfl)
theorem dJ15_checkLength_20 : decode cJ15_checkLength 20 = .ok (.ldc_w 337, 3) := dk_19 1 81 (dk_at dksJ15_checkLength_0 20 rfl rfl)
theorem dJ15_checkLength_23 : decode cJ15_checkLength 23 = .ok (.invokevirtual 50, 3) := dk_182 0 50 (dk_at dksJ15_checkLength_1 0 rfl rfl)
theorem dJ15_checkLength_26 : decode cJ15_checkLength 26 = .ok (.iload_n 1, 1) := dk_27 (dk_at dksJ15_checkLength_1 3 rfl rfl)
theorem dJ15_checkLength_27 : decode cJ15_checkLength 27 = .ok (.invokevirtual 54, 3) := dk_182 0 54 (dk_at dksJ15_checkLength_1 4 rfl rfl)
theorem dJ15_checkLength_30 : decode cJ15_checkLength 30 = .ok (.invokevirtual 61, 3) := dk_182 0 61 (dk_at dksJ15_checkLength_1 7 rfl rfl)
theorem dJ15_checkLength_33 : decode cJ15_checkLength 33 = .ok (.invokespecial 65, 3) := dk_183 0 65 (dk_at dksJ15_checkLength_1 10 rfl rfl)
theorem dJ15_checkLength_36 : decode cJ15_checkLength 36 = .ok (.athrow, 1) := dk_191 (dk_at dksJ15_checkLength_1 13 rfl rfl)
theorem dJ15_checkLength_37 : decode cJ15_checkLength 37 = .ok (.return_, 1) := dk_177 (dk_at dksJ15_checkLength_1 14 rfl rfl)
abbrev cJ15_copyOf : ByteArray := prog_46_method_121_code
def yJ15_copyOf : MethodName := ⟨RJ15, "copyOf", "([BI)[B"⟩
def dkwJ15_copyOf_1 : List UInt8 := [27, 184, 1, 48, 184, 0, 150, 44, 176]
abbrev dktJ15_copyOf_1 : List UInt8 := dkwJ15_copyOf_1 ++ []
def dkwJ15_copyOf_0 : List UInt8 := [27, 42, 190, 160, 0, 11, 42, 182, 1, 54, 192, 1, 55, 176, 27, 188, 8, 77, 42, 3, 44, 3, 42, 190]
abbrev dktJ15_copyOf_0 : List UInt8 := dkwJ15_copyOf_0 ++ dktJ15_copyOf_1
theorem dksJ15_copyOf_0 : cJ15_copyOf.data.toList.drop 0 = dktJ15_copyOf_0 := by decide +kernel
theorem dksJ15_copyOf_1 : cJ15_copyOf.data.toList.drop 24 = dktJ15_copyOf_1 := dk_seg dksJ15_copyOf_0 24 rfl rfl
theorem dJ15_copyOf_0 : decode cJ15_copyOf 0 = .ok (.iload_n 1, 1) := dk_27 (dk_at dksJ15_copyOf_0 0 rfl rfl)
theorem dJ15_copyOf_1 : decode cJ15_copyOf 1 = .ok (.aload_n 0, 1) := dk_42 (dk_at dksJ15_copyOf_0 1 rfl rfl)
theorem dJ15_copyOf_2 : decode cJ15_copyOf 2 = .ok (.arraylength, 1) := dk_190 (dk_at dksJ15_copyOf_0 2 rfl rfl)
theorem dJ15_copyOf_3 : decode cJ15_copyOf 3 = .ok (.if_icmp .ne 11, 3) := dk_160 0 11 (dk_at dksJ15_copyOf_0 3 rfl rfl)
theorem dJ15_copyOf_6 : decode cJ15_copyOf 6 = .ok (.aload_n 0, 1) := dk_42 (dk_at dksJ15_copyOf_0 6 rfl rfl)
theorem dJ15_copyOf_7 : decode cJ15_copyOf 7 = .ok (.invokevirtual 310, 3) := dk_182 1 54 (dk_at dksJ15_copyOf_0 7 rfl rfl)
theorem dJ15_copyOf_10 : decode cJ15_copyOf 10 = .ok (.checkcast 311, 3) := dk_192 1 55 (dk_at dksJ15_copyOf_0 10 rfl rfl)
theorem dJ15_copyOf_13 : decode cJ15_copyOf 13 = .ok (.areturn, 1) := dk_176 (dk_at dksJ15_copyOf_0 13 rfl rfl)
theorem dJ15_copyOf_14 : decode cJ15_copyOf 14 = .ok (.iload_n 1, 1) := dk_27 (dk_at dksJ15_copyOf_0 14 rfl rfl)
theorem dJ15_copyOf_15 : decode cJ15_copyOf 15 = .ok (.newarray .byte, 2) := dk_188_8 (dk_at dksJ15_copyOf_0 15 rfl rfl)
theorem dJ15_copyOf_17 : decode cJ15_copyOf 17 = .ok (.astore_n 2, 1) := dk_77 (dk_at dksJ15_copyOf_0 17 rfl rfl)
theorem dJ15_copyOf_18 : decode cJ15_copyOf 18 = .ok (.aload_n 0, 1) := dk_42 (dk_at dksJ15_copyOf_0 18 rfl rfl)
theorem dJ15_copyOf_19 : decode cJ15_copyOf 19 = .ok (.iconst 0, 1) := dk_3 (dk_at dksJ15_copyOf_0 19 rfl rfl)
theorem dJ15_copyOf_20 : decode cJ15_copyOf 20 = .ok (.aload_n 2, 1) := dk_44 (dk_at dksJ15_copyOf_0 20 rfl rfl)
theorem dJ15_copyOf_21 : decode cJ15_copyOf 21 = .ok (.iconst 0, 1) := dk_3 (dk_at dksJ15_copyOf_0 21 rfl rfl)
theorem dJ15_copyOf_22 : decode cJ15_copyOf 22 = .ok (.aload_n 0, 1) := dk_42 (dk_at dksJ15_copyOf_0 22 rfl rfl)
theorem dJ15_copyOf_23 : decode cJ15_copyOf 23 = .ok (.arraylength, 1) := dk_190 (dk_at dksJ15_copyOf_0 23 rfl rfl)
theorem dJ15_copyOf_24 : decode cJ15_copyOf 24 = .ok (.iload_n 1, 1) := dk_27 (dk_at dksJ15_copyOf_1 0 rfl rfl)
theorem dJ15_copyOf_25 : decode cJ15_copyOf 25 = .ok (.invokestatic 304, 3) := dk_184 1 48 (dk_at dksJ15_copyOf_1 1 rfl rfl)
theorem dJ15_copyOf_28 : decode cJ15_copyOf 28 = .ok (.invokestatic 150, 3) := dk_184 0 150 (dk_at dksJ15_copyOf_1 4 rfl rfl)
theorem dJ15_copyOf_31 : decode cJ15_copyOf 31 = .ok (.aload_n 2, 1) := dk_44 (dk_at dksJ15_copyOf_1 7 rfl rfl)
theorem dJ15_copyOf_32 : decode cJ15_copyOf 32 = .ok (.areturn, 1) := dk_176 (dk_at dksJ15_copyOf_1 8 rfl rfl)
abbrev cJ15_copyOf_2 : ByteArray := prog_46_method_119_code
def yJ15_copyOf_2 : MethodName := ⟨RJ15, "copyOf", "([Ljava/lang/Object;I)[Ljava/lang/Object;"⟩
def dkwJ15_copyOf_2_0 : List UInt8 := [42, 27, 42, 182, 0, 86, 184, 1, 44, 176]
abbrev dktJ15_copyOf_2_0 : List UInt8 := dkwJ15_copyOf_2_0 ++ []
theorem dksJ15_copyOf_2_0 : cJ15_copyOf_2.data.toList.drop 0 = dktJ15_copyOf_2_0 := by decide +kernel
theorem dJ15_copyOf_2_0 : decode cJ15_copyOf_2 0 = .ok (.aload_n 0, 1) := dk_42 (dk_at dksJ15_copyOf_2_0 0 rfl rfl)
theorem dJ15_copyOf_2_1 : decode cJ15_copyOf_2 1 = .ok (.iload_n 1, 1) := dk_27 (dk_at dksJ15_copyOf_2_0 1 rfl rfl)
theorem dJ15_copyOf_2_2 : decode cJ15_copyOf_2 2 = .ok (.aload_n 0, 1) := dk_42 (dk_at dksJ15_copyOf_2_0 2 rfl rfl)
theorem dJ15_copyOf_2_3 : decode cJ15_copyOf_2 3 = .ok (.invokevirtual 86, 3) := dk_182 0 86 (dk_at dksJ15_copyOf_2_0 3 rfl rfl)
theorem dJ15_copyOf_2_6 : decode cJ15_copyOf_2 6 = .ok (.invokestatic 300, 3) := dk_184 1 44 (dk_at dksJ15_copyOf_2_0 6 rfl rfl)
theorem dJ15_copyOf_2_9 : decode cJ15_copyOf_2 9 = .ok (.areturn, 1) := dk_176 (dk_at dksJ15_copyOf_2_0 9 rfl rfl)
abbrev cJ15_copyOf_3 : ByteArray := prog_46_method_120_code
def yJ15_copyOf_3 : MethodName := ⟨RJ15, "copyOf", "([Ljava/lang/Object;ILjava/lang/Class;)[Ljava/lang/Object;"⟩
def dkwJ15_copyOf_3_1 : List UInt8 := [78, 42, 3, 45, 3, 42, 190, 27, 184, 1, 48, 184, 0, 150, 45, 176]
abbrev dktJ15_copyOf_3_1 : List UInt8 := dkwJ15_copyOf_3_1 ++ []
def dkwJ15_copyOf_3_0 : List UInt8 := [44, 18, 110, 166, 0, 10, 27, 189, 0, 2, 167, 0, 14, 44, 182, 0, 90, 27, 184, 0, 95, 192, 0, 110]
abbrev dktJ15_copyOf_3_0 : List UInt8 := dkwJ15_copyOf_3_0 ++ dktJ15_copyOf_3_1
theorem dksJ15_copyOf_3_0 : cJ15_copyOf_3.data.toList.drop 0 = dktJ15_copyOf_3_0 := by decide +kernel
theorem dksJ15_copyOf_3_1 : cJ15_copyOf_3.data.toList.drop 24 = dktJ15_copyOf_3_1 := dk_seg dksJ15_copyOf_3_0 24 rfl rfl
theorem dJ15_copyOf_3_0 : decode cJ15_copyOf_3 0 = .ok (.aload_n 2, 1) := dk_44 (dk_at dksJ15_copyOf_3_0 0 rfl rfl)
theorem dJ15_copyOf_3_1 : decode cJ15_copyOf_3 1 = .ok (.ldc 110, 2) := dk_18 110 (dk_at dksJ15_copyOf_3_0 1 rfl rfl)
theorem dJ15_copyOf_3_3 : decode cJ15_copyOf_3 3 = .ok (.if_acmp .ne 10, 3) := dk_166 0 10 (dk_at dksJ15_copyOf_3_0 3 rfl rfl)
theorem dJ15_copyOf_3_6 : decode cJ15_copyOf_3 6 = .ok (.iload_n 1, 1) := dk_27 (dk_at dksJ15_copyOf_3_0 6 rfl rfl)
theorem dJ15_copyOf_3_7 : decode cJ15_copyOf_3 7 = .ok (.anewarray 2, 3) := dk_189 0 2 (dk_at dksJ15_copyOf_3_0 7 rfl rfl)
theorem dJ15_copyOf_3_10 : decode cJ15_copyOf_3 10 = .ok (.goto 14, 3) := dk_167 0 14 (dk_at dksJ15_copyOf_3_0 10 rfl rfl)
theorem dJ15_copyOf_3_13 : decode cJ15_copyOf_3 13 = .ok (.aload_n 2, 1) := dk_44 (dk_at dksJ15_copyOf_3_0 13 rfl rfl)
theorem dJ15_copyOf_3_14 : decode cJ15_copyOf_3 14 = .ok (.invokevirtual 90, 3) := dk_182 0 90 (dk_at dksJ15_copyOf_3_0 14 rfl rfl)
theorem dJ15_copyOf_3_17 : decode cJ15_copyOf_3 17 = .ok (.iload_n 1, 1) := dk_27 (dk_at dksJ15_copyOf_3_0 17 rfl rfl)
theorem dJ15_copyOf_3_18 : decode cJ15_copyOf_3 18 = .ok (.invokestatic 95, 3) := dk_184 0 95 (dk_at dksJ15_copyOf_3_0 18 rfl rfl)
theorem dJ15_copyOf_3_21 : decode cJ15_copyOf_3 21 = .ok (.checkcast 110, 3) := dk_192 0 110 (dk_at dksJ15_copyOf_3_0 21 rfl rfl)
theorem dJ15_copyOf_3_24 : decode cJ15_copyOf_3 24 = .ok (.astore_n 3, 1) := dk_78 (dk_at dksJ15_copyOf_3_1 0 rfl rfl)
theorem dJ15_copyOf_3_25 : decode cJ15_copyOf_3 25 = .ok (.aload_n 0, 1) := dk_42 (dk_at dksJ15_copyOf_3_1 1 rfl rfl)
theorem dJ15_copyOf_3_26 : decode cJ15_copyOf_3 26 = .ok (.iconst 0, 1) := dk_3 (dk_at dksJ15_copyOf_3_1 2 rfl rfl)
theorem dJ15_copyOf_3_27 : decode cJ15_copyOf_3 27 = .ok (.aload_n 3, 1) := dk_45 (dk_at dksJ15_copyOf_3_1 3 rfl rfl)
theorem dJ15_copyOf_3_28 : decode cJ15_copyOf_3 28 = .ok (.iconst 0, 1) := dk_3 (dk_at dksJ15_copyOf_3_1 4 rfl rfl)
theorem dJ15_copyOf_3_29 : decode cJ15_copyOf_3 29 = .ok (.aload_n 0, 1) := dk_42 (dk_at dksJ15_copyOf_3_1 5 rfl rfl)
theorem dJ15_copyOf_3_30 : decode cJ15_copyOf_3 30 = .ok (.arraylength, 1) := dk_190 (dk_at dksJ15_copyOf_3_1 6 rfl rfl)
theorem dJ15_copyOf_3_31 : decode cJ15_copyOf_3 31 = .ok (.iload_n 1, 1) := dk_27 (dk_at dksJ15_copyOf_3_1 7 rfl rfl)
theorem dJ15_copyOf_3_32 : decode cJ15_copyOf_3 32 = .ok (.invokestatic 304, 3) := dk_184 1 48 (dk_at dksJ15_copyOf_3_1 8 rfl rfl)
theorem dJ15_copyOf_3_35 : decode cJ15_copyOf_3 35 = .ok (.invokestatic 150, 3) := dk_184 0 150 (dk_at dksJ15_copyOf_3_1 11 rfl rfl)
theorem dJ15_copyOf_3_38 : decode cJ15_copyOf_3 38 = .ok (.aload_n 3, 1) := dk_45 (dk_at dksJ15_copyOf_3_1 14 rfl rfl)
theorem dJ15_copyOf_3_39 : decode cJ15_copyOf_3 39 = .ok (.areturn, 1) := dk_176 (dk_at dksJ15_copyOf_3_1 15 rfl rfl)
theorem q67 : (Jvm.Cond.initialized "java/util/Arrays") ∈ lw_all := lw_g (lw_at lw_m1 21 rfl) rfl
theorem q455 : (Jvm.Cond.static ({ cls := "java/util/Arrays", name := "copyOfRange", desc := "([BII)[B" } : Jvm.MethodName)) ∈ lw_all := lw_g (lw_at lw_m2 169 rfl) rfl
theorem q456 : (Jvm.Cond.code ({ cls := "java/util/Arrays", name := "copyOfRange", desc := "([BII)[B" } : Jvm.MethodName) prog_46_method_132_code (3 : Nat) (Option.some (Jvm.ClassFile.FieldType.array Jvm.ClassFile.FieldType.byte))) ∈ lw_all := lw_g (lw_at lw_m2 170 rfl) rfl
theorem q457 : (Jvm.Cond.methodLink "java/util/Arrays" (339 : Nat) ({ cls := "java/util/Arrays", name := "copyOfRangeByte", desc := "([BII)[B" } : Jvm.MethodName)) ∈ lw_all := lw_g (lw_at lw_m2 171 rfl) rfl
theorem q458 : (Jvm.Cond.static ({ cls := "java/util/Arrays", name := "copyOfRangeByte", desc := "([BII)[B" } : Jvm.MethodName)) ∈ lw_all := lw_g (lw_at lw_m2 172 rfl) rfl
theorem q459 : (Jvm.Cond.code ({ cls := "java/util/Arrays", name := "copyOfRangeByte", desc := "([BII)[B" } : Jvm.MethodName) prog_46_method_133_code (5 : Nat) (Option.some (Jvm.ClassFile.FieldType.array Jvm.ClassFile.FieldType.byte))) ∈ lw_all := lw_g (lw_at lw_m2 173 rfl) rfl
theorem q460 : (Jvm.Cond.methodLink "java/util/Arrays" (343 : Nat) ({ cls := "java/util/Arrays", name := "checkLength", desc := "(II)V" } : Jvm.MethodName)) ∈ lw_all := lw_g (lw_at lw_m2 174 rfl) rfl
theorem q461 : (Jvm.Cond.static ({ cls := "java/util/Arrays", name := "checkLength", desc := "(II)V" } : Jvm.MethodName)) ∈ lw_all := lw_g (lw_at lw_m2 175 rfl) rfl
theorem q462 : (Jvm.Cond.code ({ cls := "java/util/Arrays", name := "checkLength", desc := "(II)V" } : Jvm.MethodName) prog_46_method_131_code (2 : Nat) (Option.none : Option Jvm.ClassFile.FieldType)) ∈ lw_all := lw_g (lw_at lw_m2 176 rfl) rfl
theorem q463 : (Jvm.Cond.classLink "java/util/Arrays" (43 : Nat) "java/lang/IllegalArgumentException") ∈ lw_all := lw_g (lw_at lw_m2 177 rfl) rfl
theorem q507 : (Jvm.Cond.classLink "java/util/Arrays" (45 : Nat) "java/lang/StringBuilder") ∈ lw_all := lw_g (lw_at lw_m2 221 rfl) rfl
theorem q508 : (Jvm.Cond.methodLink "java/util/Arrays" (47 : Nat) ({ cls := "java/lang/StringBuilder", name := "<init>", desc := "()V" } : Jvm.MethodName)) ∈ lw_all := lw_g (lw_at lw_m2 222 rfl) rfl
theorem q509 : (Jvm.Cond.methodLink "java/util/Arrays" (54 : Nat) ({ cls := "java/lang/StringBuilder", name := "append", desc := "(I)Ljava/lang/StringBuilder;" } : Jvm.MethodName)) ∈ lw_all := lw_g (lw_at lw_m2 223 rfl) rfl
theorem q539 : (Jvm.Cond.static ({ cls := "java/util/Arrays", name := "copyOf", desc := "([BI)[B" } : Jvm.MethodName)) ∈ lw_all := lw_g (lw_at lw_m3 13 rfl) rfl
theorem q540 : (Jvm.Cond.code ({ cls := "java/util/Arrays", name := "copyOf", desc := "([BI)[B" } : Jvm.MethodName) prog_46_method_121_code (3 : Nat) (Option.some (Jvm.ClassFile.FieldType.array Jvm.ClassFile.FieldType.byte))) ∈ lw_all := lw_g (lw_at lw_m3 14 rfl) rfl
theorem q541 : (Jvm.Cond.methodLink "java/util/Arrays" (310 : Nat) ({ cls := "[B", name := "clone", desc := "()Ljava/lang/Object;" } : Jvm.MethodName)) ∈ lw_all := lw_g (lw_at lw_m3 15 rfl) rfl
theorem q547 : (Jvm.Cond.classLink "java/util/Arrays" (311 : Nat) "[B") ∈ lw_all := lw_g (lw_at lw_m3 21 rfl) rfl
theorem q548 : (Jvm.Cond.methodLink "java/util/Arrays" (304 : Nat) ({ cls := "java/lang/Math", name := "min", desc := "(II)I" } : Jvm.MethodName)) ∈ lw_all := lw_g (lw_at lw_m3 22 rfl) rfl
theorem q549 : (Jvm.Cond.methodLink "java/util/Arrays" (150 : Nat) ({ cls := "java/lang/System", name := "arraycopy", desc := "(Ljava/lang/Object;ILjava/lang/Object;II)V" } : Jvm.MethodName)) ∈ lw_all := lw_g (lw_at lw_m3 23 rfl) rfl
theorem q580 : (Jvm.Cond.stringRef "java/util/Arrays" (337 : Nat) " > ") ∈ lw_tbl := lw_at lw_m3 54 rfl
theorem q581 : (Jvm.Cond.methodLink "java/util/Arrays" (50 : Nat) ({ cls := "java/lang/StringBuilder", name := "append", desc := "(Ljava/lang/String;)Ljava/lang/StringBuilder;" } : Jvm.MethodName)) ∈ lw_all := lw_g (lw_at lw_m3 55 rfl) rfl
theorem q630 : (Jvm.Cond.methodLink "java/util/Arrays" (61 : Nat) ({ cls := "java/lang/StringBuilder", name := "toString", desc := "()Ljava/lang/String;" } : Jvm.MethodName)) ∈ lw_all := lw_g (lw_at lw_m3 104 rfl) rfl
theorem q631 : (Jvm.Cond.methodLink "java/util/Arrays" (65 : Nat) ({ cls := "java/lang/IllegalArgumentException", name := "<init>", desc := "(Ljava/lang/String;)V" } : Jvm.MethodName)) ∈ lw_all := lw_g (lw_at lw_m3 105 rfl) rfl
theorem q974 : (Jvm.Cond.static ({ cls := "java/util/Arrays", name := "copyOf", desc := "([Ljava/lang/Object;I)[Ljava/lang/Object;" } : Jvm.MethodName)) ∈ lw_all := lw_g (lw_at lw_m4 208 rfl) rfl
theorem q975 : (Jvm.Cond.code ({ cls := "java/util/Arrays", name := "copyOf", desc := "([Ljava/lang/Object;I)[Ljava/lang/Object;" } : Jvm.MethodName) prog_46_method_119_code (2 : Nat) (Option.some (Jvm.ClassFile.FieldType.array (Jvm.ClassFile.FieldType.object "java/lang/Object")))) ∈ lw_all := lw_g (lw_at lw_m4 209 rfl) rfl
theorem q976 : (Jvm.Cond.methodLink "java/util/Arrays" (86 : Nat) ({ cls := "java/lang/Object", name := "getClass", desc := "()Ljava/lang/Class;" } : Jvm.MethodName)) ∈ lw_all := lw_g (lw_at lw_m4 210 rfl) rfl
theorem q1005 : (Jvm.Cond.methodLink "java/util/Arrays" (300 : Nat) ({ cls := "java/util/Arrays", name := "copyOf", desc := "([Ljava/lang/Object;ILjava/lang/Class;)[Ljava/lang/Object;" } : Jvm.MethodName)) ∈ lw_all := lw_g (lw_at lw_m4 239 rfl) rfl
theorem q1006 : (Jvm.Cond.static ({ cls := "java/util/Arrays", name := "copyOf", desc := "([Ljava/lang/Object;ILjava/lang/Class;)[Ljava/lang/Object;" } : Jvm.MethodName)) ∈ lw_all := lw_g (lw_at lw_m5 0 rfl) rfl
theorem q1007 : (Jvm.Cond.code ({ cls := "java/util/Arrays", name := "copyOf", desc := "([Ljava/lang/Object;ILjava/lang/Class;)[Ljava/lang/Object;" } : Jvm.MethodName) prog_46_method_120_code (4 : Nat) (Option.some (Jvm.ClassFile.FieldType.array (Jvm.ClassFile.FieldType.object "java/lang/Object")))) ∈ lw_all := lw_g (lw_at lw_m5 1 rfl) rfl
theorem q1008 : (Jvm.Cond.classLink "java/util/Arrays" (110 : Nat) "[Ljava/lang/Object;") ∈ lw_all := lw_g (lw_at lw_m5 2 rfl) rfl
theorem q1010 : (Jvm.Cond.classLink "java/util/Arrays" (2 : Nat) "java/lang/Object") ∈ lw_all := lw_g (lw_at lw_m5 4 rfl) rfl
theorem q2033 : (Jvm.Cond.static ({ cls := "java/util/Arrays", name := "fill", desc := "([BIIB)V" } : Jvm.MethodName)) ∈ lw_all := lw_g (lw_at lw_m9 67 rfl) rfl
theorem q2034 : (Jvm.Cond.code ({ cls := "java/util/Arrays", name := "fill", desc := "([BIIB)V" } : Jvm.MethodName) prog_46_method_110_code (5 : Nat) (Option.none : Option Jvm.ClassFile.FieldType)) ∈ lw_all := lw_g (lw_at lw_m9 68 rfl) rfl
theorem q2035 : (Jvm.Cond.methodLink "java/util/Arrays" (13 : Nat) ({ cls := "java/util/Arrays", name := "rangeCheck", desc := "(III)V" } : Jvm.MethodName)) ∈ lw_all := lw_g (lw_at lw_m9 69 rfl) rfl
theorem q2036 : (Jvm.Cond.static ({ cls := "java/util/Arrays", name := "rangeCheck", desc := "(III)V" } : Jvm.MethodName)) ∈ lw_all := lw_g (lw_at lw_m9 70 rfl) rfl
theorem q2037 : (Jvm.Cond.code ({ cls := "java/util/Arrays", name := "rangeCheck", desc := "(III)V" } : Jvm.MethodName) prog_46_method_30_code (3 : Nat) (Option.none : Option Jvm.ClassFile.FieldType)) ∈ lw_all := lw_g (lw_at lw_m9 71 rfl) rfl
theorem q2038 : (Jvm.Cond.stringRef "java/util/Arrays" (48 : Nat) "fromIndex(") ∈ lw_tbl := lw_at lw_m9 72 rfl
theorem q2039 : (Jvm.Cond.stringRef "java/util/Arrays" (57 : Nat) ") > toIndex(") ∈ lw_tbl := lw_at lw_m9 73 rfl
theorem q2040 : (Jvm.Cond.stringRef "java/util/Arrays" (59 : Nat) ")") ∈ lw_tbl := lw_at lw_m9 74 rfl
theorem q2041 : (Jvm.Cond.classLink "java/util/Arrays" (68 : Nat) "java/lang/ArrayIndexOutOfBoundsException") ∈ lw_all := lw_g (lw_at lw_m9 75 rfl) rfl
theorem q2042 : (Jvm.Cond.methodLink "java/util/Arrays" (70 : Nat) ({ cls := "java/lang/ArrayIndexOutOfBoundsException", name := "<init>", desc := "(I)V" } : Jvm.MethodName)) ∈ lw_all := lw_g (lw_at lw_m9 76 rfl) rfl

/-! java/lang/StringLatin1 -/
set_option maxRecDepth 100000
def RJ16 : String := "java/lang/StringLatin1"
abbrev cJ16_charAt : ByteArray := prog_34_method_2_code
def yJ16_charAt : MethodName := ⟨RJ16, "charAt", "([BI)C"⟩
def dkwJ16_charAt_0 : List UInt8 := [27, 42, 190, 184, 0, 9, 42, 27, 51, 17, 0, 255, 126, 146, 172]
abbrev dktJ16_charAt_0 : List UInt8 := dkwJ16_charAt_0 ++ []
theorem dksJ16_charAt_0 : cJ16_charAt.data.toList.drop 0 = dktJ16_charAt_0 := by decide +kernel
theorem dJ16_charAt_0 : decode cJ16_charAt 0 = .ok (.iload_n 1, 1) := dk_27 (dk_at dksJ16_charAt_0 0 rfl rfl)
theorem dJ16_charAt_1 : decode cJ16_charAt 1 = .ok (.aload_n 0, 1) := dk_42 (dk_at dksJ16_charAt_0 1 rfl rfl)
theorem dJ16_charAt_2 : decode cJ16_charAt 2 = .ok (.arraylength, 1) := dk_190 (dk_at dksJ16_charAt_0 2 rfl rfl)
theorem dJ16_charAt_3 : decode cJ16_charAt 3 = .ok (.invokestatic 9, 3) := dk_184 0 9 (dk_at dksJ16_charAt_0 3 rfl rfl)
theorem dJ16_charAt_6 : decode cJ16_charAt 6 = .ok (.aload_n 0, 1) := dk_42 (dk_at dksJ16_charAt_0 6 rfl rfl)
theorem dJ16_charAt_7 : decode cJ16_charAt 7 = .ok (.iload_n 1, 1) := dk_27 (dk_at dksJ16_charAt_0 7 rfl rfl)
theorem dJ16_charAt_8 : decode cJ16_charAt 8 = .ok (.baload, 1) := dk_51 (dk_at dksJ16_charAt_0 8 rfl rfl)
theorem dJ16_charAt_9 : decode cJ16_charAt 9 = .ok (.sipush 255, 3) := dk_17 0 255 (dk_at dksJ16_charAt_0 9 rfl rfl)
theorem dJ16_charAt_12 : decode cJ16_charAt 12 = .ok (.iand, 1) := dk_126 (dk_at dksJ16_charAt_0 12 rfl rfl)
theorem dJ16_charAt_13 : decode cJ16_charAt 13 = .ok (.i2c, 1) := dk_146 (dk_at dksJ16_charAt_0 13 rfl rfl)
theorem dJ16_charAt_14 : decode cJ16_charAt 14 = .ok (.ireturn, 1) := dk_172 (dk_at dksJ16_charAt_0 14 rfl rfl)
abbrev cJ16_compareTo : ByteArray := prog_34_method_14_code
def yJ16_compareTo : MethodName := ⟨RJ16, "compareTo", "([B[B)I"⟩
def dkwJ16_compareTo_0 : List UInt8 := [42, 190, 61, 43, 190, 62, 42, 43, 28, 29, 184, 0, 34, 172]
abbrev dktJ16_compareTo_0 : List UInt8 := dkwJ16_compareTo_0 ++ []
theorem dksJ16_compareTo_0 : cJ16_compareTo.data.toList.drop 0 = dktJ16_compareTo_0 := by decide +kernel
theorem dJ16_compareTo_0 : decode cJ16_compareTo 0 = .ok (.aload_n 0, 1) := dk_42 (dk_at dksJ16_compareTo_0 0 rfl rfl)
theorem dJ16_compareTo_1 : decode cJ16_compareTo 1 = .ok (.arraylength, 1) := dk_190 (dk_at dksJ16_compareTo_0 1 rfl rfl)
theorem dJ16_compareTo_2 : decode cJ16_compareTo 2 = .ok (.istore_n 2, 1) := dk_61 (dk_at dksJ16_compareTo_0 2 rfl rfl)
theorem dJ16_compareTo_3 : decode cJ16_compareTo 3 = .ok (.aload_n 1, 1) := dk_43 (dk_at dksJ16_compareTo_0 3 rfl rfl)
theorem dJ16_compareTo_4 : decode cJ16_compareTo 4 = .ok (.arraylength, 1) := dk_190 (dk_at dksJ16_compareTo_0 4 rfl rfl)
theorem dJ16_compareTo_5 : decode cJ16_compareTo 5 = .ok (.istore_n 3, 1) := dk_62 (dk_at dksJ16_compareTo_0 5 rfl rfl)
theorem dJ16_compareTo_6 : decode cJ16_compareTo 6 = .ok (.aload_n 0, 1) := dk_42 (dk_at dksJ16_compareTo_0 6 rfl rfl)
theorem dJ16_compareTo_7 : decode cJ16_compareTo 7 = .ok (.aload_n 1, 1) := dk_43 (dk_at dksJ16_compareTo_0 7 rfl rfl)
theorem dJ16_compareTo_8 : decode cJ16_compareTo 8 = .ok (.iload_n 2, 1) := dk_28 (dk_at dksJ16_compareTo_0 8 rfl rfl)
theorem dJ16_compareTo_9 : decode cJ16_compareTo 9 = .ok (.iload_n 3, 1) := dk_29 (dk_at dksJ16_compareTo_0 9 rfl rfl)
theorem dJ16_compareTo_10 : decode cJ16_compareTo 10 = .ok (.invokestatic 34, 3) := dk_184 0 34 (dk_at dksJ16_compareTo_0 10 rfl rfl)
theorem dJ16_compareTo_13 : decode cJ16_compareTo 13 = .ok (.ireturn, 1) := dk_172 (dk_at dksJ16_compareTo_0 13 rfl rfl)
abbrev cJ16_compareTo_2 : ByteArray := prog_34_method_15_code
def yJ16_compareTo_2 : MethodName := ⟨RJ16, "compareTo", "([B[BII)I"⟩
def dkwJ16_compareTo_2_1 : List UInt8 := [167, 0, 16, 42, 21, 5, 184, 0, 50, 43, 21, 5, 184, 0, 50, 100, 172]
abbrev dktJ16_compareTo_2_1 : List UInt8 := dkwJ16_compareTo_2_1 ++ []
def dkwJ16_compareTo_2_0 : List UInt8 := [28, 29, 184, 0, 38, 54, 4, 42, 43, 21, 4, 184, 0, 44, 54, 5, 21, 5, 156, 0, 9, 28, 29, 100]
abbrev dktJ16_compareTo_2_0 : List UInt8 := dkwJ16_compareTo_2_0 ++ dktJ16_compareTo_2_1
theorem dksJ16_compareTo_2_0 : cJ16_compareTo_2.data.toList.drop 0 = dktJ16_compareTo_2_0 := by decide +kernel
theorem dksJ16_compareTo_2_1 : cJ16_compareTo_2.data.toList.drop 24 = dktJ16_compareTo_2_1 := dk_seg dksJ16_compareTo_2_0 24 rfl rfl
theorem dJ16_compareTo_2_0 : decode cJ16_compareTo_2 0 = .ok (.iload_n 2, 1) := dk_28 (dk_at dksJ16_compareTo_2_0 0 rfl rfl)
theorem dJ16_compareTo_2_1 : decode cJ16_compareTo_2 1 = .ok (.iload_n 3, 1) := dk_29 (dk_at dksJ16_compareTo_2_0 1 rfl rfl)
theorem dJ16_compareTo_2_2 : decode cJ16_compareTo_2 2 = .ok (.invokestatic 38, 3) := dk_184 0 38 (dk_at dksJ16_compareTo_2_0 2 rfl rfl)
theorem dJ16_compareTo_2_5 : decode cJ16_compareTo_2 5 = .ok (.istore 4, 2) := dk_54 4 (dk_at dksJ16_compareTo_2_0 5 rfl rfl)
theorem dJ16_compareTo_2_7 : decode cJ16_compareTo_2 7 = .ok (.aload_n 0, 1) := dk_42 (dk_at dksJ16_compareTo_2_0 7 rfl rfl)
theorem dJ16_compareTo_2_8 : decode cJ16_compareTo_2 8 = .ok (.aload_n 1, 1) := dk_43 (dk_at dksJ16_compareTo_2_0 8 rfl rfl)
theorem dJ16_compareTo_2_9 : decode cJ16_compareTo_2 9 = .ok (.iload 4, 2) := dk_21 4 (dk_at dksJ16_compareTo_2_0 9 rfl rfl)
theorem dJ16_compareTo_2_11 : decode cJ16_compareTo_2 11 = .ok (.invokestatic 44, 3) := dk_184 0 44 (dk_at dksJ16_compareTo_2_0 11 rfl rfl)
theorem dJ16_compareTo_2_14 : decode cJ16_compareTo_2 14 = .ok (.istore 5, 2) := dk_54 5 (dk_at dksJ16_compareTo_2_0 14 rfl rfl)
theorem dJ16_compareTo_2_16 : decode cJ16_compareTo_2 16 = .ok (.iload 5, 2) := dk_21 5 (dk_at dksJ16_compareTo_2_0 16 rfl rfl)
theorem dJ16_compareTo_2_18 : decode cJ16_compareTo_2 18 = .ok (.ifCond .ge 9, 3) := dk_156 0 9 (dk_at dksJ16_compareTo_2_0 18 rfl rfl)
theorem dJ16_compareTo_2_21 : decode cJ16_compareTo_2 21 = .ok (.iload_n 2, 1) := dk_28 (dk_at dksJ16_compareTo_2_0 21 rfl rfl)
theorem dJ16_compareTo_2_22 : decode cJ16_compareTo_2 22 = .ok (.iload_n 3, 1) := dk_29 (dk_at dksJ16_compareTo_2_0 22 rfl rfl)
theorem dJ16_compareTo_2_23 : decode cJ16_compareTo_2 23 = .ok (.isub, 1) := dk_100 (dk_at dksJ16_compareTo_2_0 23 rfl rfl)
theorem dJ16_compareTo_2_24 : decode cJ16_compareTo_2 24 = .ok (.goto 16, 3) := dk_167 0 16 (dk_at dksJ16_compareTo_2_1 0 rfl rfl)
theorem dJ16_compareTo_2_27 : decode cJ16_compareTo_2 27 = .ok (.aload_n 0, 1) := dk_42 (dk_at dksJ16_compareTo_2_1 3 rfl rfl)
theorem dJ16_compareTo_2_28 : decode cJ16_compareTo_2 28 = .ok (.iload 5, 2) := dk_21 5 (dk_at dksJ16_compareTo_2_1 4 rfl rfl)
theorem dJ16_compareTo_2_30 : decode cJ16_compareTo_2 30 = .ok (.invokestatic 50, 3) := dk_184 0 50 (dk_at dksJ16_compareTo_2_1 6 rfl rfl)
theorem dJ16_compareTo_2_33 : decode cJ16_compareTo_2 33 = .ok (.aload_n 1, 1) := dk_43 (dk_at dksJ16_compareTo_2_1 9 rfl rfl)
theorem dJ16_compareTo_2_34 : decode cJ16_compareTo_2 34 = .ok (.iload 5, 2) := dk_21 5 (dk_at dksJ16_compareTo_2_1 10 rfl rfl)
theorem dJ16_compareTo_2_36 : decode cJ16_compareTo_2 36 = .ok (.invokestatic 50, 3) := dk_184 0 50 (dk_at dksJ16_compareTo_2_1 12 rfl rfl)
theorem dJ16_compareTo_2_39 : decode cJ16_compareTo_2 39 = .ok (.isub, 1) := dk_100 (dk_at dksJ16_compareTo_2_1 15 rfl rfl)
theorem dJ16_compareTo_2_40 : decode cJ16_compareTo_2 40 = .ok (.ireturn, 1) := dk_172 (dk_at dksJ16_compareTo_2_1 16 rfl rfl)
abbrev cJ16_getChar : ByteArray := prog_34_method_44_code
def yJ16_getChar : MethodName := ⟨RJ16, "getChar", "([BI)C"⟩
def dkwJ16_getChar_0 : List UInt8 := [42, 27, 51, 17, 0, 255, 126, 146, 172]
abbrev dktJ16_getChar_0 : List UInt8 := dkwJ16_getChar_0 ++ []
theorem dksJ16_getChar_0 : cJ16_getChar.data.toList.drop 0 = dktJ16_getChar_0 := by decide +kernel
theorem dJ16_getChar_0 : decode cJ16_getChar 0 = .ok (.aload_n 0, 1) := dk_42 (dk_at dksJ16_getChar_0 0 rfl rfl)
theorem dJ16_getChar_1 : decode cJ16_getChar 1 = .ok (.iload_n 1, 1) := dk_27 (dk_at dksJ16_getChar_0 1 rfl rfl)
theorem dJ16_getChar_2 : decode cJ16_getChar 2 = .ok (.baload, 1) := dk_51 (dk_at dksJ16_getChar_0 2 rfl rfl)
theorem dJ16_getChar_3 : decode cJ16_getChar 3 = .ok (.sipush 255, 3) := dk_17 0 255 (dk_at dksJ16_getChar_0 3 rfl rfl)
theorem dJ16_getChar_6 : decode cJ16_getChar 6 = .ok (.iand, 1) := dk_126 (dk_at dksJ16_getChar_0 6 rfl rfl)
theorem dJ16_getChar_7 : decode cJ16_getChar 7 = .ok (.i2c, 1) := dk_146 (dk_at dksJ16_getChar_0 7 rfl rfl)
theorem dJ16_getChar_8 : decode cJ16_getChar 8 = .ok (.ireturn, 1) := dk_172 (dk_at dksJ16_getChar_0 8 rfl rfl)
abbrev cJ16_equals : ByteArray := prog_34_method_13_code
def yJ16_equals : MethodName := ⟨RJ16, "equals", "([B[B)Z"⟩
def dkwJ16_equals_1 : List UInt8 := [3, 172, 132, 2, 1, 167, 255, 236, 4, 172, 3, 172]
abbrev dktJ16_equals_1 : List UInt8 := dkwJ16_equals_1 ++ []
def dkwJ16_equals_0 : List UInt8 := [42, 190, 43, 190, 160, 0, 30, 3, 61, 28, 42, 190, 162, 0, 20, 42, 28, 51, 43, 28, 51, 159, 0, 5]
abbrev dktJ16_equals_0 : List UInt8 := dkwJ16_equals_0 ++ dktJ16_equals_1
theorem dksJ16_equals_0 : cJ16_equals.data.toList.drop 0 = dktJ16_equals_0 := by decide +kernel
theorem dksJ16_equals_1 : cJ16_equals.data.toList.drop 24 = dktJ16_equals_1 := dk_seg dksJ16_equals_0 24 rfl rfl
theorem dJ16_equals_0 : decode cJ16_equals 0 = .ok (.aload_n 0, 1) := dk_42 (dk_at dksJ16_equals_0 0 rfl rfl)
theorem dJ16_equals_1 : decode cJ16_equals 1 = .ok (.arraylength, 1) := dk_190 (dk_at dksJ16_equals_0 1 rfl rfl)
theorem dJ16_equals_2 : decode cJ16_equals 2 = .ok (.aload_n 1, 1) := dk_43 (dk_at dksJ16_equals_0 2 rfl rfl)
theorem dJ16_equals_3 : decode cJ16_equals 3 = .ok (.arraylength, 1) := dk_190 (dk_at dksJ16_equals_0 3 rfl rfl)
theorem dJ16_equals_4 : decode cJ16_equals 4 = .ok (.if_icmp .ne 30, 3) := dk_160 0 30 (dk_at dksJ16_equals_0 4 rfl rfl)
theorem dJ16_equals_7 : decode cJ16_equals 7 = .ok (.iconst 0, 1) := dk_3 (dk_at dksJ16_equals_0 7 rfl rfl)
theorem dJ16_equals_8 : decode cJ16_equals 8 = .ok (.istore_n 2, 1) := dk_61 (dk_at dksJ16_equals_0 8 rfl rfl)
theorem dJ16_equals_9 : decode cJ16_equals 9 = .ok (.iload_n 2, 1) := dk_28 (dk_at dksJ16_equals_0 9 rfl rfl)
theorem dJ16_equals_10 : decode cJ16_equals 10 = .ok (.aload_n 0, 1) := dk_42 (dk_at dksJ16_equals_0 10 rfl rfl)
theorem dJ16_equals_11 : decode cJ16_equals 11 = .ok (.arraylength, 1) := dk_190 (dk_at dksJ16_equals_0 11 rfl rfl)
theorem dJ16_equals_12 : decode cJ16_equals 12 = .ok (.if_icmp .ge 20, 3) := dk_162 0 20 (dk_at dksJ16_equals_0 12 rfl rfl)
theorem dJ16_equals_15 : decode cJ16_equals 15 = .ok (.aload_n 0, 1) := dk_42 (dk_at dksJ16_equals_0 15 rfl rfl)
theorem dJ16_equals_16 : decode cJ16_equals 16 = .ok (.iload_n 2, 1) := dk_28 (dk_at dksJ16_equals_0 16 rfl rfl)
theorem dJ16_equals_17 : decode cJ16_equals 17 = .ok (.baload, 1) := dk_51 (dk_at dksJ16_equals_0 17 rfl rfl)
theorem dJ16_equals_18 : decode cJ16_equals 18 = .ok (.aload_n 1, 1) := dk_43 (dk_at dksJ16_equals_0 18 rfl rfl)
theorem dJ16_equals_19 : decode cJ16_equals 19 = .ok (.iload_n 2, 1) := dk_28 (dk_at dksJ16_equals_0 19 rfl rfl)
theorem dJ16_equals_20 : decode cJ16_equals 20 = .ok (.baload, 1) := dk_51 (dk_at dksJ16_equals_0 20 rfl rfl)
theorem dJ16_equals_21 : decode cJ16_equals 21 = .ok (.if_icmp .eq 5, 3) := dk_159 0 5 (dk_at dksJ16_equals_0 21 rfl rfl)
theorem dJ16_equals_24 : decode cJ16_equals 24 = .ok (.iconst 0, 1) := dk_3 (dk_at dksJ16_equals_1 0 rfl rfl)
theorem dJ16_equals_25 : decode cJ16_equals 25 = .ok (.ireturn, 1) := dk_172 (dk_at dksJ16_equals_1 1 rfl rfl)
theorem dJ16_equals_26 : decode cJ16_equals 26 = .ok (.iinc 2 1, 3) := dk_132 2 1 (dk_at dksJ16_equals_1 2 rfl rfl)
theorem dJ16_equals_29 : decode cJ16_equals 29 = .ok (.goto (-20), 3) := dk_167 255 236 (dk_at dksJ16_equals_1 5 rfl rfl)
theorem dJ16_equals_32 : decode cJ16_equals 32 = .ok (.iconst 1, 1) := dk_4 (dk_at dksJ16_equals_1 8 rfl rfl)
theorem dJ16_equals_33 : decode cJ16_equals 33 = .ok (.ireturn, 1) := dk_172 (dk_at dksJ16_equals_1 9 rfl rfl)
theorem dJ16_equals_34 : decode cJ16_equals 34 = .ok (.iconst 0, 1) := dk_3 (dk_at dksJ16_equals_1 10 rfl rfl)
theorem dJ16_equals_35 : decode cJ16_equals 35 = .ok (.ireturn, 1) := dk_172 (dk_at dksJ16_equals_1 11 rfl rfl)
abbrev cJ16_newString : ByteArray := prog_34_method_47_code
def yJ16_newString : MethodName := ⟨RJ16, "newString", "([BII)Ljava/lang/String;"⟩
def dkwJ16_newString_0 : List UInt8 := [28, 154, 0, 6, 18, 151, 176, 187, 0, 1, 89, 42, 27, 27, 28, 96, 184, 0, 232, 3, 183, 0, 112, 176]
abbrev dktJ16_newString_0 : List UInt8 := dkwJ16_newString_0 ++ []
theorem dksJ16_newString_0 : cJ16_newString.data.toList.drop 0 = dktJ16_newString_0 := by decide +kernel
theorem dJ16_newString_0 : decode cJ16_newString 0 = .ok (.iload_n 2, 1) := dk_28 (dk_at dksJ16_newString_0 0 rfl rfl)
theorem dJ16_newString_1 : decode cJ16_newString 1 = .ok (.ifCond .ne 6, 3) := dk_154 0 6 (dk_at dksJ16_newString_0 1 rfl rfl)
theorem dJ16_newString_4 : decode cJ16_newString 4 = .ok (.ldc 151, 2) := dk_18 151 (dk_at dksJ16_newString_0 4 rfl rfl)
theorem dJ16_newString_6 : decode cJ16_newString 6 = .ok (.areturn, 1) := dk_176 (dk_at dksJ16_newString_0 6 rfl rfl)
theorem dJ16_newString_7 : decode cJ16_newString 7 = .ok (.new 1, 3) := dk_187 0 1 (dk_at dksJ16_newString_0 7 rfl rfl)
theorem dJ16_newString_10 : decode cJ16_newString 10 = .ok (.dup, 1) := dk_89 (dk_at dksJ16_newString_0 10 rfl rfl)
theorem dJ16_newString_11 : decode cJ16_newString 11 = .ok (.aload_n 0, 1) := dk_42 (dk_at dksJ16_newString_0 11 rfl rfl)
theorem dJ16_newString_12 : decode cJ16_newString 12 = .ok (.iload_n 1, 1) := dk_27 (dk_at dksJ16_newString_0 12 rfl rfl)
theorem dJ16_newString_13 : decode cJ16_newString 13 = .ok (.iload_n 1, 1) := dk_27 (dk_at dksJ16_newString_0 13 rfl rfl)
theorem dJ16_newString_14 : decode cJ16_newString 14 = .ok (.iload_n 2, 1) := dk_28 (dk_at dksJ16_newString_0 14 rfl rfl)
theorem dJ16_newString_15 : decode cJ16_newString 15 = .ok (.iadd, 1) := dk_96 (dk_at dksJ16_newString_0 15 rfl rfl)
theorem dJ16_newString_16 : decode cJ16_newString 16 = .ok (.invokestatic 232, 3) := dk_184 0 232 (dk_at dksJ16_newString_0 16 rfl rfl)
theorem dJ16_newString_19 : decode cJ16_newString 19 = .ok (.iconst 0, 1) := dk_3 (dk_at dksJ16_newString_0 19 rfl rfl)
theorem dJ16_newString_20 : decode cJ16_newString 20 = .ok (.invokespecial 112, 3) := dk_183 0 112 (dk_at dksJ16_newString_0 20 rfl rfl)
theorem dJ16_newString_23 : decode cJ16_newString 23 = .ok (.areturn, 1) := dk_176 (dk_at dksJ16_newString_0 23 rfl rfl)
abbrev cJ16_canEncode : ByteArray := prog_34_method_3_code
def yJ16_canEncode : MethodName := ⟨RJ16, "canEncode", "(C)Z"⟩
def dkwJ16_canEncode_0 : List UInt8 := [26, 17, 0, 255, 163, 0, 7, 4, 167, 0, 4, 3, 172]
abbrev dktJ16_canEncode_0 : List UInt8 := dkwJ16_canEncode_0 ++ []
theorem dksJ16_canEncode_0 : cJ16_canEncode.data.toList.drop 0 = dktJ16_canEncode_0 := by decide +kernel
theorem dJ16_canEncode_0 : decode cJ16_canEncode 0 = .ok (.iload_n 0, 1) := dk_26 (dk_at dksJ16_canEncode_0 0 rfl rfl)
theorem dJ16_canEncode_1 : decode cJ16_canEncode 1 = .ok (.sipush 255, 3) := dk_17 0 255 (dk_at dksJ16_canEncode_0 1 rfl rfl)
theorem dJ16_canEncode_4 : decode cJ16_canEncode 4 = .ok (.if_icmp .gt 7, 3) := dk_163 0 7 (dk_at dksJ16_canEncode_0 4 rfl rfl)
theorem dJ16_canEncode_7 : decode cJ16_canEncode 7 = .ok (.iconst 1, 1) := dk_4 (dk_at dksJ16_canEncode_0 7 rfl rfl)
theorem dJ16_canEncode_8 : decode cJ16_canEncode 8 = .ok (.goto 4, 3) := dk_167 0 4 (dk_at dksJ16_canEncode_0 8 rfl rfl)
theorem dJ16_canEncode_11 : decode cJ16_canEncode 11 = .ok (.iconst 0, 1) := dk_3 (dk_at dksJ16_canEncode_0 11 rfl rfl)
theorem dJ16_canEncode_12 : decode cJ16_canEncode 12 = .ok (.ireturn, 1) := dk_172 (dk_at dksJ16_canEncode_0 12 rfl rfl)
theorem q69 : (Jvm.Cond.initialized "java/lang/StringLatin1") ∈ lw_all := lw_g (lw_at lw_m1 23 rfl) rfl
theorem q358 : (Jvm.Cond.static ({ cls := "java/lang/StringLatin1", name := "charAt", desc := "([BI)C" } : Jvm.MethodName)) ∈ lw_all := lw_g (lw_at lw_m2 72 rfl) rfl
theorem q359 : (Jvm.Cond.code ({ cls := "java/lang/StringLatin1", name := "charAt", desc := "([BI)C" } : Jvm.MethodName) prog_34_method_2_code (2 : Nat) (Option.some Jvm.ClassFile.FieldType.char)) ∈ lw_all := lw_g (lw_at lw_m2 73 rfl) rfl
theorem q360 : (Jvm.Cond.methodLink "java/lang/StringLatin1" (9 : Nat) ({ cls := "java/lang/String", name := "checkIndex", desc := "(II)V" } : Jvm.MethodName)) ∈ lw_all := lw_g (lw_at lw_m2 74 rfl) rfl
theorem q610 : (Jvm.Cond.static ({ cls := "java/lang/StringLatin1", name := "inflate", desc := "([BI[BII)V" } : Jvm.MethodName)) ∈ lw_all := lw_g (lw_at lw_m3 84 rfl) rfl
theorem q611 : (Jvm.Cond.code ({ cls := "java/lang/StringLatin1", name := "inflate", desc := "([BI[BII)V" } : Jvm.MethodName) prog_34_method_50_code (5 : Nat) (Option.none : Option Jvm.ClassFile.FieldType)) ∈ lw_all := lw_g (lw_at lw_m3 85 rfl) rfl
theorem q612 : (Jvm.Cond.methodLink "java/lang/StringLatin1" (240 : Nat) ({ cls := "java/lang/StringUTF16", name := "inflate", desc := "([BI[BII)V" } : Jvm.MethodName)) ∈ lw_all := lw_g (lw_at lw_m3 86 rfl) rfl
theorem q721 : (Jvm.Cond.static ({ cls := "java/lang/StringLatin1", name := "compareTo", desc := "([B[B)I" } : Jvm.MethodName)) ∈ lw_all := lw_g (lw_at lw_m3 195 rfl) rfl
theorem q722 : (Jvm.Cond.code ({ cls := "java/lang/StringLatin1", name := "compareTo", desc := "([B[B)I" } : Jvm.MethodName) prog_34_method_14_code (4 : Nat) (Option.some Jvm.ClassFile.FieldType.int)) ∈ lw_all := lw_g (lw_at lw_m3 196 rfl) rfl
theorem q723 : (Jvm.Cond.methodLink "java/lang/StringLatin1" (34 : Nat) ({ cls := "java/lang/StringLatin1", name := "compareTo", desc := "([B[BII)I" } : Jvm.MethodName)) ∈ lw_all := lw_g (lw_at lw_m3 197 rfl) rfl
theorem q724 : (Jvm.Cond.static ({ cls := "java/lang/StringLatin1", name := "compareTo", desc := "([B[BII)I" } : Jvm.MethodName)) ∈ lw_all := lw_g (lw_at lw_m3 198 rfl) rfl
theorem q725 : (Jvm.Cond.code ({ cls := "java/lang/StringLatin1", name := "compareTo", desc := "([B[BII)I" } : Jvm.MethodName) prog_34_method_15_code (6 : Nat) (Option.some Jvm.ClassFile.FieldType.int)) ∈ lw_all := lw_g (lw_at lw_m3 199 rfl) rfl
theorem q726 : (Jvm.Cond.methodLink "java/lang/StringLatin1" (38 : Nat) ({ cls := "java/lang/Math", name := "min", desc := "(II)I" } : Jvm.MethodName)) ∈ lw_all := lw_g (lw_at lw_m3 200 rfl) rfl
theorem q727 : (Jvm.Cond.methodLink "java/lang/StringLatin1" (44 : Nat) ({ cls := "jdk/internal/util/ArraysSupport", name := "mismatch", desc := "([B[BI)I" } : Jvm.MethodName)) ∈ lw_all := lw_g (lw_at lw_m3 201 rfl) rfl
theorem q831 : (Jvm.Cond.methodLink "java/lang/StringLatin1" (50 : Nat) ({ cls := "java/lang/StringLatin1", name := "getChar", desc := "([BI)C" } : Jvm.MethodName)) ∈ lw_all := lw_g (lw_at lw_m4 65 rfl) rfl
theorem q832 : (Jvm.Cond.static ({ cls := "java/lang/StringLatin1", name := "getChar", desc := "([BI)C" } : Jvm.MethodName)) ∈ lw_all := lw_g (lw_at lw_m4 66 rfl) rfl
theorem q833 : (Jvm.Cond.code ({ cls := "java/lang/StringLatin1", name := "getChar", desc := "([BI)C" } : Jvm.MethodName) prog_34_method_44_code (2 : Nat) (Option.some Jvm.ClassFile.FieldType.char)) ∈ lw_all := lw_g (lw_at lw_m4 67 rfl) rfl
theorem q842 : (Jvm.Cond.static ({ cls := "java/lang/StringLatin1", name := "compareToUTF16", desc := "([B[B)I" } : Jvm.MethodName)) ∈ lw_all := lw_g (lw_at lw_m4 76 rfl) rfl
theorem q843 : (Jvm.Cond.code ({ cls := "java/lang/StringLatin1", name := "compareToUTF16", desc := "([B[B)I" } : Jvm.MethodName) prog_34_method_16_code (4 : Nat) (Option.some Jvm.ClassFile.FieldType.int)) ∈ lw_all := lw_g (lw_at lw_m4 77 rfl) rfl
theorem q844 : (Jvm.Cond.methodLink "java/lang/StringLatin1" (54 : Nat) ({ cls := "java/lang/StringLatin1", name := "length", desc := "([B)I" } : Jvm.MethodName)) ∈ lw_all := lw_g (lw_at lw_m4 78 rfl) rfl
theorem q845 : (Jvm.Cond.static ({ cls := "java/lang/StringLatin1", name := "length", desc := "([B)I" } : Jvm.MethodName)) ∈ lw_all := lw_g (lw_at lw_m4 79 rfl) rfl
theorem q846 : (Jvm.Cond.code ({ cls := "java/lang/StringLatin1", name := "length", desc := "([B)I" } : Jvm.MethodName) prog_34_method_5_code (1 : Nat) (Option.some Jvm.ClassFile.FieldType.int)) ∈ lw_all := lw_g (lw_at lw_m4 80 rfl) rfl
theorem q847 : (Jvm.Cond.methodLink "java/lang/StringLatin1" (58 : Nat) ({ cls := "java/lang/StringUTF16", name := "length", desc := "([B)I" } : Jvm.MethodName)) ∈ lw_all := lw_g (lw_at lw_m4 81 rfl) rfl
theorem q848 : (Jvm.Cond.methodLink "java/lang/StringLatin1" (59 : Nat) ({ cls := "java/lang/StringLatin1", name := "compareToUTF16Values", desc := "([B[BII)I" } : Jvm.MethodName)) ∈ lw_all := lw_g (lw_at lw_m4 82 rfl) rfl
theorem q849 : (Jvm.Cond.static ({ cls := "java/lang/StringLatin1", name := "compareToUTF16Values", desc := "([B[BII)I" } : Jvm.MethodName)) ∈ lw_all := lw_g (lw_at lw_m4 83 rfl) rfl
theorem q850 : (Jvm.Cond.code ({ cls := "java/lang/StringLatin1", name := "compareToUTF16Values", desc := "([B[BII)I" } : Jvm.MethodName) prog_34_method_18_code (8 : Nat) (Option.some Jvm.ClassFile.FieldType.int)) ∈ lw_all := lw_g (lw_at lw_m4 84 rfl) rfl
theorem q851 : (Jvm.Cond.methodLink "java/lang/StringLatin1" (65 : Nat) ({ cls := "java/lang/StringUTF16", name := "getChar", desc := "([BI)C" } : Jvm.MethodName)) ∈ lw_all := lw_g (lw_at lw_m4 85 rfl) rfl
theorem q881 : (Jvm.Cond.static ({ cls := "java/lang/StringLatin1", name := "compareToUTF16", desc := "([B[BII)I" } : Jvm.MethodName)) ∈ lw_all := lw_g (lw_at lw_m4 115 rfl) rfl
theorem q882 : (Jvm.Cond.code ({ cls := "java/lang/StringLatin1", name := "compareToUTF16", desc := "([B[BII)I" } : Jvm.MethodName) prog_34_method_17_code (4 : Nat) (Option.some Jvm.ClassFile.FieldType.int)) ∈ lw_all := lw_g (lw_at lw_m4 116 rfl) rfl
theorem q883 : (Jvm.Cond.methodLink "java/lang/StringLatin1" (62 : Nat) ({ cls := "java/lang/String", name := "checkOffset", desc := "(II)V" } : Jvm.MethodName)) ∈ lw_all := lw_g (lw_at lw_m4 117 rfl) rfl
theorem q1085 : (Jvm.Cond.static ({ cls := "java/lang/StringLatin1", name := "equals", desc := "([B[B)Z" } : Jvm.MethodName)) ∈ lw_all := lw_g (lw_at lw_m5 79 rfl) rfl
theorem q1086 : (Jvm.Cond.code ({ cls := "java/lang/StringLatin1", name := "equals", desc := "([B[B)Z" } : Jvm.MethodName) prog_34_method_13_code (3 : Nat) (Option.some Jvm.ClassFile.FieldType.boolean)) ∈ lw_all := lw_g (lw_at lw_m5 80 rfl) rfl
theorem q1111 : (Jvm.Cond.static ({ cls := "java/lang/StringLatin1", name := "newString", desc := "([BII)Ljava/lang/String;" } : Jvm.MethodName)) ∈ lw_all := lw_g (lw_at lw_m5 105 rfl) rfl
theorem q1112 : (Jvm.Cond.code ({ cls := "java/lang/StringLatin1", name := "newString", desc := "([BII)Ljava/lang/String;" } : Jvm.MethodName) prog_34_method_47_code (3 : Nat) (Option.some (Jvm.ClassFile.FieldType.object "java/lang/String"))) ∈ lw_all := lw_g (lw_at lw_m5 106 rfl) rfl
theorem q1113 : (Jvm.Cond.stringRef "java/lang/StringLatin1" (151 : Nat) "") ∈ lw_tbl := lw_at lw_m5 107 rfl
theorem q1114 : (Jvm.Cond.classLink "java/lang/StringLatin1" (1 : Nat) "java/lang/String") ∈ lw_all := lw_g (lw_at lw_m5 108 rfl) rfl
theorem q1115 : (Jvm.Cond.methodLink "java/lang/StringLatin1" (232 : Nat) ({ cls := "java/util/Arrays", name := "copyOfRange", desc := "([BII)[B" } : Jvm.MethodName)) ∈ lw_all := lw_g (lw_at lw_m5 109 rfl) rfl
theorem q1116 : (Jvm.Cond.methodLink "java/lang/StringLatin1" (112 : Nat) ({ cls := "java/lang/String", name := "<init>", desc := "([BB)V" } : Jvm.MethodName)) ∈ lw_all := lw_g (lw_at lw_m5 110 rfl) rfl
theorem q1449 : (Jvm.Cond.static ({ cls := "java/lang/StringLatin1", name := "canEncode", desc := "(C)Z" } : Jvm.MethodName)) ∈ lw_all := lw_g (lw_at lw_m6 203 rfl) rfl
theorem q1450 : (Jvm.Cond.code ({ cls := "java/lang/StringLatin1", name := "canEncode", desc := "(C)Z" } : Jvm.MethodName) prog_34_method_3_code (1 : Nat) (Option.some Jvm.ClassFile.FieldType.boolean)) ∈ lw_all := lw_g (lw_at lw_m6 204 rfl) rfl
theorem q2030 : (Jvm.Cond.static ({ cls := "java/lang/StringLatin1", name := "fillNull", desc := "([BII)V" } : Jvm.MethodName)) ∈ lw_all := lw_g (lw_at lw_m9 64 rfl) rfl
theorem q2031 : (Jvm.Cond.code ({ cls := "java/lang/StringLatin1", name := "fillNull", desc := "([BII)V" } : Jvm.MethodName) prog_34_method_48_code (3 : Nat) (Option.none : Option Jvm.ClassFile.FieldType)) ∈ lw_all := lw_g (lw_at lw_m9 65 rfl) rfl
theorem q2032 : (Jvm.Cond.methodLink "java/lang/StringLatin1" (236 : Nat) ({ cls := "java/util/Arrays", name := "fill", desc := "([BIIB)V" } : Jvm.MethodName)) ∈ lw_all := lw_g (lw_at lw_m9 66 rfl) rfl

/-! java/lang/IllegalArgumentException -/
set_option maxRecDepth 100000
def RJ17 : String := "java/lang/IllegalArgumentException"
def TJ17 : u_T := fun k => match k with
  | 0 => ("java/lang/Throwable", "cause", "Ljava/lang/Throwable;", false)
  | 1 => ("java/lang/Throwable", "stackTrace", "[Ljava/lang/StackTraceElement;", false)
  | 2 => ("java/lang/Throwable", "suppressedExceptions", "Ljava/util/List;", false)
  | 3 => ("java/lang/Throwable", "detailMessage", "Ljava/lang/String;", false)
  | 4 => ("java/lang/Throwable", "backtrace", "Ljava/lang/Object;", false)
  | _ => ("java/lang/Throwable", "depth", "I", false)
def tyJ17 : Nat → FieldType := fun k => match k with
  | 0 => .object "java/lang/Throwable"
  | 1 => .array (.object "java/lang/StackTraceElement")
  | 2 => .object "java/util/List"
  | 3 => .object "java/lang/String"
  | 4 => .object "java/lang/Object"
  | _ => .int
abbrev wsJ170 : List Cond := u_ws RJ17 TJ17 6
theorem nmJ17 : ∀ a, a < 6 → ∀ b, b < 6 → a ≠ b → (TJ17 a).2.1 ≠ (TJ17 b).2.1 := by decide +kernel
theorem tyJ17_ok : ∀ k, k < 6 → parseFieldDescriptor (TJ17 k).2.2.1 = some (tyJ17 k) := by decide +kernel
theorem q70 : (Jvm.Cond.initialized "java/lang/IllegalArgumentException") ∈ lw_all := lw_g (lw_at lw_m1 24 rfl) rfl
theorem q464 : (Jvm.Cond.instantiable "java/lang/IllegalArgumentException" (6 : Nat)) ∈ lw_all := lw_g (lw_at lw_m2 178 rfl) rfl
theorem q465 : (Jvm.Cond.castable "java/lang/IllegalArgumentException" "java/lang/IllegalArgumentException") ∈ lw_tbl := lw_at lw_m2 179 rfl
theorem q472 : (Jvm.Cond.selects "java/lang/IllegalArgumentException" ({ cls := "java/lang/Throwable", name := "fillInStackTrace", desc := "(I)Ljava/lang/Throwable;" } : Jvm.MethodName) ({ cls := "java/lang/Throwable", name := "fillInStackTrace", desc := "(I)Ljava/lang/Throwable;" } : Jvm.MethodName)) ∈ lw_all := lw_g (lw_at lw_m2 186 rfl) rfl
theorem q473 : (Jvm.Cond.selects "java/lang/IllegalArgumentException" ({ cls := "java/lang/Throwable", name := "fillInStackTrace", desc := "()Ljava/lang/Throwable;" } : Jvm.MethodName) ({ cls := "java/lang/Throwable", name := "fillInStackTrace", desc := "()Ljava/lang/Throwable;" } : Jvm.MethodName)) ∈ lw_all := lw_g (lw_at lw_m2 187 rfl) rfl
theorem q474 : (Jvm.Cond.lays "java/lang/IllegalArgumentException" "java/lang/Throwable" "cause" "Ljava/lang/Throwable;") ∈ lw_all := lw_g (lw_at lw_m2 188 rfl) rfl
theorem q476 : (Jvm.Cond.lays "java/lang/IllegalArgumentException" "java/lang/Throwable" "stackTrace" "[Ljava/lang/StackTraceElement;") ∈ lw_all := lw_g (lw_at lw_m2 190 rfl) rfl
theorem q478 : (Jvm.Cond.lays "java/lang/IllegalArgumentException" "java/lang/Throwable" "suppressedExceptions" "Ljava/util/List;") ∈ lw_all := lw_g (lw_at lw_m2 192 rfl) rfl
theorem q480 : (Jvm.Cond.lays "java/lang/IllegalArgumentException" "java/lang/Throwable" "detailMessage" "Ljava/lang/String;") ∈ lw_all := lw_g (lw_at lw_m2 194 rfl) rfl
theorem q482 : (Jvm.Cond.lays "java/lang/IllegalArgumentException" "java/lang/Throwable" "backtrace" "Ljava/lang/Object;") ∈ lw_all := lw_g (lw_at lw_m2 196 rfl) rfl
theorem q632 : (Jvm.Cond.instanceMethod ({ cls := "java/lang/IllegalArgumentException", name := "<init>", desc := "(Ljava/lang/String;)V" } : Jvm.MethodName)) ∈ lw_all := lw_g (lw_at lw_m3 106 rfl) rfl
theorem q633 : (Jvm.Cond.code ({ cls := "java/lang/IllegalArgumentException", name := "<init>", desc := "(Ljava/lang/String;)V" } : Jvm.MethodName) prog_21_method_2_code (2 : Nat) (Option.none : Option Jvm.ClassFile.FieldType)) ∈ lw_all := lw_g (lw_at lw_m3 107 rfl) rfl
theorem q634 : (Jvm.Cond.methodLink "java/lang/IllegalArgumentException" (7 : Nat) ({ cls := "java/lang/RuntimeException", name := "<init>", desc := "(Ljava/lang/String;)V" } : Jvm.MethodName)) ∈ lw_all := lw_g (lw_at lw_m3 108 rfl) rfl
theorem q652 : (Jvm.Cond.lays "java/lang/IllegalArgumentException" "java/lang/Throwable" "depth" "I") ∈ lw_all := lw_g (lw_at lw_m3 126 rfl) rfl
theorem q655 : (Jvm.Cond.superclass "java/lang/IllegalArgumentException" "java/lang/RuntimeException") ∈ lw_all := lw_g (lw_at lw_m3 129 rfl) rfl
theorem q989 : (Jvm.Cond.selects "java/lang/IllegalArgumentException" ({ cls := "java/lang/Object", name := "getClass", desc := "()Ljava/lang/Class;" } : Jvm.MethodName) ({ cls := "java/lang/Object", name := "getClass", desc := "()Ljava/lang/Class;" } : Jvm.MethodName)) ∈ lw_all := lw_g (lw_at lw_m4 223 rfl) rfl
theorem q1315 : (Jvm.Cond.selects "java/lang/IllegalArgumentException" ({ cls := "java/lang/Object", name := "equals", desc := "(Ljava/lang/Object;)Z" } : Jvm.MethodName) ({ cls := "java/lang/Object", name := "equals", desc := "(Ljava/lang/Object;)Z" } : Jvm.MethodName)) ∈ lw_all := lw_g (lw_at lw_m6 69 rfl) rfl
theorem q1520 : (Jvm.Cond.declares ({ cls := "java/lang/IllegalArgumentException", name := "<init>", desc := "()V" } : Jvm.MethodName)) ∈ lw_tbl := lw_at lw_m7 34 rfl
theorem q1521 : (Jvm.Cond.declares ({ cls := "java/lang/IllegalArgumentException", name := "<init>", desc := "(Ljava/lang/String;)V" } : Jvm.MethodName)) ∈ lw_tbl := lw_at lw_m7 35 rfl
theorem q1817 : (Jvm.Cond.instanceMethod ({ cls := "java/lang/IllegalArgumentException", name := "<init>", desc := "()V" } : Jvm.MethodName)) ∈ lw_all := lw_g (lw_at lw_m8 91 rfl) rfl
theorem q1818 : (Jvm.Cond.code ({ cls := "java/lang/IllegalArgumentException", name := "<init>", desc := "()V" } : Jvm.MethodName) prog_21_method_1_code (1 : Nat) (Option.none : Option Jvm.ClassFile.FieldType)) ∈ lw_all := lw_g (lw_at lw_m8 92 rfl) rfl
theorem q1819 : (Jvm.Cond.methodLink "java/lang/IllegalArgumentException" (1 : Nat) ({ cls := "java/lang/RuntimeException", name := "<init>", desc := "()V" } : Jvm.MethodName)) ∈ lw_all := lw_g (lw_at lw_m8 93 rfl) rfl
theorem q2378 : (Jvm.Cond.castable "java/lang/IllegalArgumentException" "java/lang/Object") ∈ lw_tbl := lw_at lw_m10 172 rfl
theorem in_J17 : ∀ w ∈ wsJ170, w ∈ lw_all := lw_in wsJ170 [474, 476, 478, 480, 482, 652] (by decide +kernel) (by decide +kernel)

/-! java/lang/Integer -/
set_option maxRecDepth 100000
def RJ18 : String := "java/lang/Integer"
abbrev cJ18_parseInt : ByteArray := prog_24_method_16_code
def yJ18_parseInt : MethodName := ⟨RJ18, "parseInt", "(Ljava/lang/String;)I"⟩
def dkwJ18_parseInt_0 : List UInt8 := [42, 16, 10, 184, 0, 156, 172]
abbrev dktJ18_parseInt_0 : List UInt8 := dkwJ18_parseInt_0 ++ []
theorem dksJ18_parseInt_0 : cJ18_parseInt.data.toList.drop 0 = dktJ18_parseInt_0 := by decide +kernel
theorem dJ18_parseInt_0 : decode cJ18_parseInt 0 = .ok (.aload_n 0, 1) := dk_42 (dk_at dksJ18_parseInt_0 0 rfl rfl)
theorem dJ18_parseInt_1 : decode cJ18_parseInt 1 = .ok (.bipush 10, 2) := dk_16 10 (dk_at dksJ18_parseInt_0 1 rfl rfl)
theorem dJ18_parseInt_3 : decode cJ18_parseInt 3 = .ok (.invokestatic 156, 3) := dk_184 0 156 (dk_at dksJ18_parseInt_0 3 rfl rfl)
theorem dJ18_parseInt_6 : decode cJ18_parseInt 6 = .ok (.ireturn, 1) := dk_172 (dk_at dksJ18_parseInt_0 6 rfl rfl)
abbrev cJ18_parseInt_2 : ByteArray := prog_24_method_14_code
def yJ18_parseInt_2 : MethodName := ⟨RJ18, "parseInt", "(Ljava/lang/String;I)I"⟩
def dkwJ18_parseInt_2_11 : List UInt8 := [21, 8, 116, 172, 42, 27, 184, 0, 128, 191]
abbrev dktJ18_parseInt_2_11 : List UInt8 := dkwJ18_parseInt_2_11 ++ []
def dkwJ18_parseInt_2_10 : List UInt8 := [184, 0, 128, 191, 21, 8, 21, 9, 100, 54, 8, 167, 255, 189, 28, 153, 0, 8, 21, 8, 167, 0, 6]
abbrev dktJ18_parseInt_2_10 : List UInt8 := dkwJ18_parseInt_2_10 ++ dktJ18_parseInt_2_11
def dkwJ18_parseInt_2_9 : List UInt8 := [184, 0, 128, 191, 21, 8, 27, 104, 54, 8, 21, 8, 21, 5, 21, 9, 96, 162, 0, 9, 42, 27]
abbrev dktJ18_parseInt_2_9 : List UInt8 := dkwJ18_parseInt_2_9 ++ dktJ18_parseInt_2_10
def dkwJ18_parseInt_2_8 : List UInt8 := [182, 0, 123, 27, 184, 0, 132, 54, 9, 21, 9, 155, 0, 10, 21, 8, 21, 7, 162, 0, 9, 42, 27]
abbrev dktJ18_parseInt_2_8 : List UInt8 := dkwJ18_parseInt_2_8 ++ dktJ18_parseInt_2_9
def dkwJ18_parseInt_2_7 : List UInt8 := [132, 3, 1, 21, 5, 27, 108, 54, 7, 3, 54, 8, 29, 21, 4, 162, 0, 67, 42, 29, 132, 3, 1]
abbrev dktJ18_parseInt_2_7 : List UInt8 := dkwJ18_parseInt_2_7 ++ dktJ18_parseInt_2_8
def dkwJ18_parseInt_2_6 : List UInt8 := [16, 43, 159, 0, 9, 42, 27, 184, 0, 128, 191, 21, 4, 4, 160, 0, 9, 42, 27, 184, 0, 128, 191]
abbrev dktJ18_parseInt_2_6 : List UInt8 := dkwJ18_parseInt_2_6 ++ dktJ18_parseInt_2_7
def dkwJ18_parseInt_2_5 : List UInt8 := [16, 48, 162, 0, 47, 21, 6, 16, 45, 160, 0, 12, 4, 61, 18, 127, 54, 5, 167, 0, 16, 21, 6]
abbrev dktJ18_parseInt_2_5 : List UInt8 := dkwJ18_parseInt_2_5 ++ dktJ18_parseInt_2_6
def dkwJ18_parseInt_2_4 : List UInt8 := [182, 0, 118, 54, 4, 18, 122, 54, 5, 21, 4, 158, 0, 153, 42, 3, 182, 0, 123, 54, 6, 21, 6]
abbrev dktJ18_parseInt_2_4 : List UInt8 := dkwJ18_parseInt_2_4 ++ dktJ18_parseInt_2_5
def dkwJ18_parseInt_2_3 : List UInt8 := [182, 0, 104, 27, 182, 0, 108, 18, 116, 182, 0, 104, 182, 0, 113, 183, 0, 94, 191, 3, 61, 3, 62, 42]
abbrev dktJ18_parseInt_2_3 : List UInt8 := dkwJ18_parseInt_2_3 ++ dktJ18_parseInt_2_4
def dkwJ18_parseInt_2_2 : List UInt8 := [183, 0, 94, 191, 27, 16, 36, 164, 0, 35, 187, 0, 90, 89, 187, 0, 97, 89, 183, 0, 99, 18, 102]
abbrev dktJ18_parseInt_2_2 : List UInt8 := dkwJ18_parseInt_2_2 ++ dktJ18_parseInt_2_3
def dkwJ18_parseInt_2_1 : List UInt8 := [187, 0, 97, 89, 183, 0, 99, 18, 102, 182, 0, 104, 27, 182, 0, 108, 18, 111, 182, 0, 104, 182, 0, 113]
abbrev dktJ18_parseInt_2_1 : List UInt8 := dkwJ18_parseInt_2_1 ++ dktJ18_parseInt_2_2
def dkwJ18_parseInt_2_0 : List UInt8 := [42, 199, 0, 13, 187, 0, 90, 89, 18, 92, 183, 0, 94, 191, 27, 5, 162, 0, 35, 187, 0, 90, 89]
abbrev dktJ18_parseInt_2_0 : List UInt8 := dkwJ18_parseInt_2_0 ++ dktJ18_parseInt_2_1
theorem dksJ18_parseInt_2_0 : cJ18_parseInt_2.data.toList.drop 0 = dktJ18_parseInt_2_0 := by decide +kernel
theorem dksJ18_parseInt_2_1 : cJ18_parseInt_2.data.toList.drop 23 = dktJ18_parseInt_2_1 := dk_seg dksJ18_parseInt_2_0 23 rfl rfl
theorem dksJ18_parseInt_2_2 : cJ18_parseInt_2.data.toList.drop 47 = dktJ18_parseInt_2_2 := dk_seg dksJ18_parseInt_2_1 24 rfl rfl
theorem dksJ18_parseInt_2_3 : cJ18_parseInt_2.data.toList.drop 70 = dktJ18_parseInt_2_3 := dk_seg dksJ18_parseInt_2_2 23 rfl rfl
theorem dksJ18_parseInt_2_4 : cJ18_parseInt_2.data.toList.drop 94 = dktJ18_parseInt_2_4 := dk_seg dksJ18_parseInt_2_3 24 rfl rfl
theorem dksJ18_parseInt_2_5 : cJ18_parseInt_2.data.toList.drop 117 = dktJ18_parseInt_2_5 := dk_seg dksJ18_parseInt_2_4 23 rfl rfl
theorem dksJ18_parseInt_2_6 : cJ18_parseInt_2.data.toList.drop 140 = dktJ18_parseInt_2_6 := dk_seg dksJ18_parseInt_2_5 23 rfl rfl
theorem dksJ18_parseInt_2_7 : cJ18_parseInt_2.data.toList.drop 163 = dktJ18_parseInt_2_7 := dk_seg dksJ18_parseInt_2_6 23 rfl rfl
theorem dksJ18_parseInt_2_8 : cJ18_parseInt_2.data.toList.drop 186 = dktJ18_parseInt_2_8 := dk_seg dksJ18_parseInt_2_7 23 rfl rfl
theorem dksJ18_parseInt_2_9 : cJ18_parseInt_2.data.toList.drop 209 = dktJ18_parseInt_2_9 := dk_seg dksJ18_parseInt_2_8 23 rfl rfl
theorem dksJ18_parseInt_2_10 : cJ18_parseInt_2.data.toList.drop 231 = dktJ18_parseInt_2_10 := dk_seg dksJ18_parseInt_2_9 22 rfl rfl
theorem dksJ18_parseInt_2_11 : cJ18_parseInt_2.data.toList.drop 254 = dktJ18_parseInt_2_11 := dk_seg dksJ18_parseInt_2_10 23 rfl rfl
theorem dJ18_parseInt_2_0 : decode cJ18_parseInt_2 0 = .ok (.aload_n 0, 1) := dk_42 (dk_at dksJ18_parseInt_2_0 0 rfl rfl)
theorem dJ18_parseInt_2_1 : decode cJ18_parseInt_2 1 = .ok (.ifnonnull 13, 3) := dk_199 0 13 (dk_at dksJ18_parseInt_2_0 1 rfl rfl)
theorem dJ18_parseInt_2_4 : decode cJ18_parseInt_2 4 = .ok (.new 90, 3) := dk_187 0 90 (dk_at dksJ18_parseInt_2_0 4 rfl rfl)
theorem dJ18_parseInt_2_7 : decode cJ18_parseInt_2 7 = .ok (.dup, 1) := dk_89 (dk_at dksJ18_parseInt_2_0 7 rfl rfl)
theorem dJ18_parseInt_2_8 : decode cJ18_parseInt_2 8 = .ok (.ldc 92, 2) := dk_18 92 (dk_at dksJ18_parseInt_2_0 8 rfl rfl)
theorem dJ18_parseInt_2_10 : decode cJ18_parseInt_2 10 = .ok (.invokespecial 94, 3) := dk_183 0 94 (dk_at dksJ18_parseInt_2_0 10 rfl rfl)
theorem dJ18_parseInt_2_13 : decode cJ18_parseInt_2 13 = .ok (.athrow, 1) := dk_191 (dk_at dksJ18_parseInt_2_0 13 rfl rfl)
theorem dJ18_parseInt_2_14 : decode cJ18_parseInt_2 14 = .ok (.iload_n 1, 1) := dk_27 (dk_at dksJ18_parseInt_2_0 14 rfl rfl)
theorem dJ18_parseInt_2_15 : decode cJ18_parseInt_2 15 = .ok (.iconst 2, 1) := dk_5 (dk_at dksJ18_parseInt_2_0 15 rfl rfl)
theorem dJ18_parseInt_2_16 : decode cJ18_parseInt_2 16 = .ok (.if_icmp .ge 35, 3) := dk_162 0 35 (dk_at dksJ18_parseInt_2_0 16 rfl rfl)
theorem dJ18_parseInt_2_19 : decode cJ18_parseInt_2 19 = .ok (.new 90, 3) := dk_187 0 90 (dk_at dksJ18_parseInt_2_0 19 rfl rfl)
theorem dJ18_parseInt_2_22 : decode cJ18_parseInt_2 22 = .ok (.dup, 1) := dk_89 (dk_at dksJ18_parseInt_2_0 22 rfl rfl)
theorem dJ18_parseInt_2_23 : decode cJ18_parseInt_2 23 = .ok (.new 97, 3) := dk_187 0 97 (dk_at dksJ18_parseInt_2_1 0 rfl rfl)
theorem dJ18_parseInt_2_26 : decode cJ18_parseInt_2 26 = .ok (.dup, 1) := dk_89 (dk_at dksJ18_parseInt_2_1 3 rfl rfl)
theorem dJ18_parseInt_2_27 : decode cJ18_parseInt_2 27 = .ok (.invokespecial 99, 3) := dk_183 0 99 (dk_at dksJ18_parseInt_2_1 4 rfl rfl)
theorem dJ18_parseInt_2_30 : decode cJ18_parseInt_2 30 = .ok (.ldc 102, 2) := dk_18 102 (dk_at dksJ18_parseInt_2_1 7 rfl rfl)
theorem dJ18_parseInt_2_32 : decode cJ18_parseInt_2 32 = .ok (.invokevirtual 104, 3) := dk_182 0 104 (dk_at dksJ18_parseInt_2_1 9 rfl rfl)
theorem dJ18_parseInt_2_35 : decode cJ18_parseInt_2 35 = .ok (.iload_n 1, 1) := dk_27 (dk_at dksJ18_parseInt_2_1 12 rfl rfl)
theorem dJ18_parseInt_2_36 : decode cJ18_parseInt_2 36 = .ok (.invokevirtual 108, 3) := dk_182 0 108 (dk_at dksJ18_parseInt_2_1 13 rfl rfl)
theorem dJ18_parseInt_2_39 : decode cJ18_parseInt_2 39 = .ok (.ldc 111, 2) := dk_18 111 (dk_at dksJ18_parseInt_2_1 16 rfl rfl)
theorem dJ18_parseInt_2_41 : decode cJ18_parseInt_2 41 = .ok (.invokevirtual 104, 3) := dk_182 0 104 (dk_at dksJ18_parseInt_2_1 18 rfl rfl)
theorem dJ18_parseInt_2_44 : decode cJ18_parseInt_2 44 = .ok (.invokevirtual 113, 3) := dk_182 0 113 (dk_at dksJ18_parseInt_2_1 21 rfl rfl)
theorem dJ18_parseInt_2_47 : decode cJ18_parseInt_2 47 = .ok (.invokespecial 94, 3) := dk_183 0 94 (dk_at dksJ18_parseInt_2_2 0 rfl rfl)
theorem dJ18_parseInt_2_50 : decode cJ18_parseInt_2 50 = .ok (.athrow, 1) := dk_191 (dk_at dksJ18_parseInt_2_2 3 rfl rfl)
theorem dJ18_parseInt_2_51 : decode cJ18_parseInt_2 51 = .ok (.iload_n 1, 1) := dk_27 (dk_at dksJ18_parseInt_2_2 4 rfl rfl)
theorem dJ18_parseInt_2_52 : decode cJ18_parseInt_2 52 = .ok (.bipush 36, 2) := dk_16 36 (dk_at dksJ18_parseInt_2_2 5 rfl rfl)
theorem dJ18_parseInt_2_54 : decode cJ18_parseInt_2 54 = .ok (.if_icmp .le 35, 3) := dk_164 0 35 (dk_at dksJ18_parseInt_2_2 7 rfl rfl)
theorem dJ18_parseInt_2_57 : decode cJ18_parseInt_2 57 = .ok (.new 90, 3) := dk_187 0 90 (dk_at dksJ18_parseInt_2_2 10 rfl rfl)
theorem dJ18_parseInt_2_60 : decode cJ18_parseInt_2 60 = .ok (.dup, 1) := dk_89 (dk_at dksJ18_parseInt_2_2 13 rfl rfl)
theorem dJ18_parseInt_2_61 : decode cJ18_parseInt_2 61 = .ok (.new 97, 3) := dk_187 0 97 (dk_at dksJ18_parseInt_2_2 14 rfl rfl)
theorem dJ18_parseInt_2_64 : decode cJ18_parseInt_2 64 = .ok (.dup, 1) := dk_89 (dk_at dksJ18_parseInt_2_2 17 rfl rfl)
theorem dJ18_parseInt_2_65 : decode cJ18_parseInt_2 65 = .ok (.invokespecial 99, 3) := dk_183 0 99 (dk_at dksJ18_parseInt_2_2 18 rfl rfl)
theorem dJ18_parseInt_2_68 : decode cJ18_parseInt_2 68 = .ok (.ldc 102, 2) := dk_18 102 (dk_at dksJ18_parseInt_2_2 21 rfl rfl)
theorem dJ18_parseInt_2_70 : decode cJ18_parseInt_2 70 = .ok (.invokevirtual 104, 3) := dk_182 0 104 (dk_at dksJ18_parseInt_2_3 0 rfl rfl)
theorem dJ18_parseInt_2_73 : decode cJ18_parseInt_2 73 = .ok (.iload_n 1, 1) := dk_27 (dk_at dksJ18_parseInt_2_3 3 rfl rfl)
theorem dJ18_parseInt_2_74 : decode cJ18_parseInt_2 74 = .ok (.invokevirtual 108, 3) := dk_182 0 108 (dk_at dksJ18_parseInt_2_3 4 rfl rfl)
theorem dJ18_parseInt_2_77 : decode cJ18_parseInt_2 77 = .ok (.ldc 116, 2) := dk_18 116 (dk_at dksJ18_parseInt_2_3 7 rfl rfl)
theorem dJ18_parseInt_2_79 : decode cJ18_parseInt_2 79 = .ok (.invokevirtual 104, 3) := dk_182 0 104 (dk_at dksJ18_parseInt_2_3 9 rfl rfl)
theorem dJ18_parseInt_2_82 : decode cJ18_parseInt_2 82 = .ok (.invokevirtual 113, 3) := dk_182 0 113 (dk_at dksJ18_parseInt_2_3 12 rfl rfl)
theorem dJ18_parseInt_2_85 : decode cJ18_parseInt_2 85 = .ok (.invokespecial 94, 3) := dk_183 0 94 (dk_at dksJ18_parseInt_2_3 15 rfl rfl)
theorem dJ18_parseInt_2_88 : decode cJ18_parseInt_2 88 = .ok (.athrow, 1) := dk_191 (dk_at dksJ18_parseInt_2_3 18 rfl rfl)
theorem dJ18_parseInt_2_89 : decode cJ18_parseInt_2 89 = .ok (.iconst 0, 1) := dk_3 (dk_at dksJ18_parseInt_2_3 19 rfl rfl)
theorem dJ18_parseInt_2_90 : decode cJ18_parseInt_2 90 = .ok (.istore_n 2, 1) := dk_61 (dk_at dksJ18_parseInt_2_3 20 rfl rfl)
theorem dJ18_parseInt_2_91 : decode cJ18_parseInt_2 91 = .ok (.iconst 0, 1) := dk_3 (dk_at dksJ18_parseInt_2_3 21 rfl rfl)
theorem dJ18_parseInt_2_92 : decode cJ18_parseInt_2 92 = .ok (.istore_n 3, 1) := dk_62 (dk_at dksJ18_parseInt_2_3 22 rfl rfl)
theorem dJ18_parseInt_2_93 : decode cJ18_parseInt_2 93 = .ok (.aload_n 0, 1) := dk_42 (dk_at dksJ18_parseInt_2_3 23 rfl rfl)
theorem dJ18_parseInt_2_94 : decode cJ18_parseInt_2 94 = .ok (.invokevirtual 118, 3) := dk_182 0 118 (dk_at dksJ18_parseInt_2_4 0 rfl rfl)
theorem dJ18_parseInt_2_97 : decode cJ18_parseInt_2 97 = .ok (.istore 4, 2) := dk_54 4 (dk_at dksJ18_parseInt_2_4 3 rfl rfl)
theorem dJ18_parseInt_2_99 : decode cJ18_parseInt_2 99 = .ok (.ldc 122, 2) := dk_18 122 (dk_at dksJ18_parseInt_2_4 5 rfl rfl)
theorem dJ18_parseInt_2_101 : decode cJ18_parseInt_2 101 = .ok (.istore 5, 2) := dk_54 5 (dk_at dksJ18_parseInt_2_4 7 rfl rfl)
theorem dJ18_parseInt_2_103 : decode cJ18_parseInt_2 103 = .ok (.iload 4, 2) := dk_21 4 (dk_at dksJ18_parseInt_2_4 9 rfl rfl)
theorem dJ18_parseInt_2_105 : decode cJ18_parseInt_2 105 = .ok (.ifCond .le 153, 3) := dk_158 0 153 (dk_at dksJ18_parseInt_2_4 11 rfl rfl)
theorem dJ18_parseInt_2_108 : decode cJ18_parseInt_2 108 = .ok (.aload_n 0, 1) := dk_42 (dk_at dksJ18_parseInt_2_4 14 rfl rfl)
theorem dJ18_parseInt_2_109 : decode cJ18_parseInt_2 109 = .ok (.iconst 0, 1) := dk_3 (dk_at dksJ18_parseInt_2_4 15 rfl rfl)
theorem dJ18_parseInt_2_110 : decode cJ18_parseInt_2 110 = .ok (.invokevirtual 123, 3) := dk_182 0 123 (dk_at dksJ18_parseInt_2_4 16 rfl rfl)
theorem dJ18_parseInt_2_113 : decode cJ18_parseInt_2 113 = .ok (.istore 6, 2) := dk_54 6 (dk_at dksJ18_parseInt_2_4 19 rfl rfl)
theorem dJ18_parseInt_2_115 : decode cJ18_parseInt_2 115 = .ok (.iload 6, 2) := dk_21 6 (dk_at dksJ18_parseInt_2_4 21 rfl rfl)
theorem dJ18_parseInt_2_117 : decode cJ18_parseInt_2 117 = .ok (.bipush 48, 2) := dk_16 48 (dk_at dksJ18_parseInt_2_5 0 rfl rfl)
theorem dJ18_parseInt_2_119 : decode cJ18_parseInt_2 119 = .ok (.if_icmp .ge 47, 3) := dk_162 0 47 (dk_at dksJ18_parseInt_2_5 2 rfl rfl)
theorem dJ18_parseInt_2_122 : decode cJ18_parseInt_2 122 = .ok (.iload 6, 2) := dk_21 6 (dk_at dksJ18_parseInt_2_5 5 rfl rfl)
theorem dJ18_parseInt_2_124 : decode cJ18_parseInt_2 124 = .ok (.bipush 45, 2) := dk_16 45 (dk_at dksJ18_parseInt_2_5 7 rfl rfl)
theorem dJ18_parseInt_2_126 : decode cJ18_parseInt_2 126 = .ok (.if_icmp .ne 12, 3) := dk_160 0 12 (dk_at dksJ18_parseInt_2_5 9 rfl rfl)
theorem dJ18_parseInt_2_129 : decode cJ18_parseInt_2 129 = .ok (.iconst 1, 1) := dk_4 (dk_at dksJ18_parseInt_2_5 12 rfl rfl)
theorem dJ18_parseInt_2_130 : decode cJ18_parseInt_2 130 = .ok (.istore_n 2, 1) := dk_61 (dk_at dksJ18_parseInt_2_5 13 rfl rfl)
theorem dJ18_parseInt_2_131 : decode cJ18_parseInt_2 131 = .ok (.ldc 127, 2) := dk_18 127 (dk_at dksJ18_parseInt_2_5 14 rfl rfl)
theorem dJ18_parseInt_2_133 : decode cJ18_parseInt_2 133 = .ok (.istore 5, 2) := dk_54 5 (dk_at dksJ18_parseInt_2_5 16 rfl rfl)
theorem dJ18_parseInt_2_135 : decode cJ18_parseInt_2 135 = .ok (.goto 16, 3) := dk_167 0 16 (dk_at dksJ18_parseInt_2_5 18 rfl rfl)
theorem dJ18_parseInt_2_138 : decode cJ18_parseInt_2 138 = .ok (.iload 6, 2) := dk_21 6 (dk_at dksJ18_parseInt_2_5 21 rfl rfl)
theorem dJ18_parseInt_2_140 : decode cJ18_parseInt_2 140 = .ok (.bipush 43, 2) := dk_16 43 (dk_at dksJ18_parseInt_2_6 0 rfl rfl)
theorem dJ18_parseInt_2_142 : decode cJ18_parseInt_2 142 = .ok (.if_icmp .eq 9, 3) := dk_159 0 9 (dk_at dksJ18_parseInt_2_6 2 rfl rfl)
theorem dJ18_parseInt_2_145 : decode cJ18_parseInt_2 145 = .ok (.aload_n 0, 1) := dk_42 (dk_at dksJ18_parseInt_2_6 5 rfl rfl)
theorem dJ18_parseInt_2_146 : decode cJ18_parseInt_2 146 = .ok (.iload_n 1, 1) := dk_27 (dk_at dksJ18_parseInt_2_6 6 rfl rfl)
theorem dJ18_parseInt_2_147 : decode cJ18_parseInt_2 147 = .ok (.invokestatic 128, 3) := dk_184 0 128 (dk_at dksJ18_parseInt_2_6 7 rfl rfl)
theorem dJ18_parseInt_2_150 : decode cJ18_parseInt_2 150 = .ok (.athrow, 1) := dk_191 (dk_at dksJ18_parseInt_2_6 10 rfl rfl)
theorem dJ18_parseInt_2_151 : decode cJ18_parseInt_2 151 = .ok (.iload 4, 2) := dk_21 4 (dk_at dksJ18_parseInt_2_6 11 rfl rfl)
theorem dJ18_parseInt_2_153 : decode cJ18_parseInt_2 153 = .ok (.iconst 1, 1) := dk_4 (dk_at dksJ18_parseInt_2_6 13 rfl rfl)
theorem dJ18_parseInt_2_154 : decode cJ18_parseInt_2 154 = .ok (.if_icmp .ne 9, 3) := dk_160 0 9 (dk_at dksJ18_parseInt_2_6 14 rfl rfl)
theorem dJ18_parseInt_2_157 : decode cJ18_parseInt_2 157 = .ok (.aload_n 0, 1) := dk_42 (dk_at dksJ18_parseInt_2_6 17 rfl rfl)
theorem dJ18_parseInt_2_158 : decode cJ18_parseInt_2 158 = .ok (.iload_n 1, 1) := dk_27 (dk_at dksJ18_parseInt_2_6 18 rfl rfl)
theorem dJ18_parseInt_2_159 : decode cJ18_parseInt_2 159 = .ok (.invokestatic 128, 3) := dk_184 0 128 (dk_at dksJ18_parseInt_2_6 19 rfl rfl)
theorem dJ18_parseInt_2_162 : decode cJ18_parseInt_2 162 = .ok (.athrow, 1) := dk_191 (dk_at dksJ18_parseInt_2_6 22 rfl rfl)
theorem dJ18_parseInt_2_163 : decode cJ18_parseInt_2 163 = .ok (.iinc 3 1, 3) := dk_132 3 1 (dk_at dksJ18_parseInt_2_7 0 rfl rfl)
theorem dJ18_parseInt_2_166 : decode cJ18_parseInt_2 166 = .ok (.iload 5, 2) := dk_21 5 (dk_at dksJ18_parseInt_2_7 3 rfl rfl)
theorem dJ18_parseInt_2_168 : decode cJ18_parseInt_2 168 = .ok (.iload_n 1, 1) := dk_27 (dk_at dksJ18_parseInt_2_7 5 rfl rfl)
theorem dJ18_parseInt_2_169 : decode cJ18_parseInt_2 169 = .ok (.idiv, 1) := dk_108 (dk_at dksJ18_parseInt_2_7 6 rfl rfl)
theorem dJ18_parseInt_2_170 : decode cJ18_parseInt_2 170 = .ok (.istore 7, 2) := dk_54 7 (dk_at dksJ18_parseInt_2_7 7 rfl rfl)
theorem dJ18_parseInt_2_172 : decode cJ18_parseInt_2 172 = .ok (.iconst 0, 1) := dk_3 (dk_at dksJ18_parseInt_2_7 9 rfl rfl)
theorem dJ18_parseInt_2_173 : decode cJ18_parseInt_2 173 = .ok (.istore 8, 2) := dk_54 8 (dk_at dksJ18_parseInt_2_7 10 rfl rfl)
theorem dJ18_parseInt_2_175 : decode cJ18_parseInt_2 175 = .ok (.iload_n 3, 1) := dk_29 (dk_at dksJ18_parseInt_2_7 12 rfl rfl)
theorem dJ18_parseInt_2_176 : decode cJ18_parseInt_2 176 = .ok (.iload 4, 2) := dk_21 4 (dk_at dksJ18_parseInt_2_7 13 rfl rfl)
theorem dJ18_parseInt_2_178 : decode cJ18_parseInt_2 178 = .ok (.if_icmp .ge 67, 3) := dk_162 0 67 (dk_at dksJ18_parseInt_2_7 15 rfl rfl)
theorem dJ18_parseInt_2_181 : decode cJ18_parseInt_2 181 = .ok (.aload_n 0, 1) := dk_42 (dk_at dksJ18_parseInt_2_7 18 rfl rfl)
theorem dJ18_parseInt_2_182 : decode cJ18_parseInt_2 182 = .ok (.iload_n 3, 1) := dk_29 (dk_at dksJ18_parseInt_2_7 19 rfl rfl)
theorem dJ18_parseInt_2_183 : decode cJ18_parseInt_2 183 = .ok (.iinc 3 1, 3) := dk_132 3 1 (dk_at dksJ18_parseInt_2_7 20 rfl rfl)
theorem dJ18_parseInt_2_186 : decode cJ18_parseInt_2 186 = .ok (.invokevirtual 123, 3) := dk_182 0 123 (dk_at dksJ18_parseInt_2_8 0 rfl rfl)
theorem dJ18_parseInt_2_189 : decode cJ18_parseInt_2 189 = .ok (.iload_n 1, 1) := dk_27 (dk_at dksJ18_parseInt_2_8 3 rfl rfl)
theorem dJ18_parseInt_2_190 : decode cJ18_parseInt_2 190 = .ok (.invokestatic 132, 3) := dk_184 0 132 (dk_at dksJ18_parseInt_2_8 4 rfl rfl)
theorem dJ18_parseInt_2_193 : decode cJ18_parseInt_2 193 = .ok (.istore 9, 2) := dk_54 9 (dk_at dksJ18_parseInt_2_8 7 rfl rfl)
theorem dJ18_parseInt_2_195 : decode cJ18_parseInt_2 195 = .ok (.iload 9, 2) := dk_21 9 (dk_at dksJ18_parseInt_2_8 9 rfl rfl)
theorem dJ18_parseInt_2_197 : decode cJ18_parseInt_2 197 = .ok (.ifCond .lt 10, 3) := dk_155 0 10 (dk_at dksJ18_parseInt_2_8 11 rfl rfl)
theorem dJ18_parseInt_2_200 : decode cJ18_parseInt_2 200 = .ok (.iload 8, 2) := dk_21 8 (dk_at dksJ18_parseInt_2_8 14 rfl rfl)
theorem dJ18_parseInt_2_202 : decode cJ18_parseInt_2 202 = .ok (.iload 7, 2) := dk_21 7 (dk_at dksJ18_parseInt_2_8 16 rfl rfl)
theorem dJ18_parseInt_2_204 : decode cJ18_parseInt_2 204 = .ok (.if_icmp .ge 9, 3) := dk_162 0 9 (dk_at dksJ18_parseInt_2_8 18 rfl rfl)
theorem dJ18_parseInt_2_207 : decode cJ18_parseInt_2 207 = .ok (.aload_n 0, 1) := dk_42 (dk_at dksJ18_parseInt_2_8 21 rfl rfl)
theorem dJ18_parseInt_2_208 : decode cJ18_parseInt_2 208 = .ok (.iload_n 1, 1) := dk_27 (dk_at dksJ18_parseInt_2_8 22 rfl rfl)
theorem dJ18_parseInt_2_209 : decode cJ18_parseInt_2 209 = .ok (.invokestatic 128, 3) := dk_184 0 128 (dk_at dksJ18_parseInt_2_9 0 rfl rfl)
theorem dJ18_parseInt_2_212 : decode cJ18_parseInt_2 212 = .ok (.athrow, 1) := dk_191 (dk_at dksJ18_parseInt_2_9 3 rfl rfl)
theorem dJ18_parseInt_2_213 : decode cJ18_parseInt_2 213 = .ok (.iload 8, 2) := dk_21 8 (dk_at dksJ18_parseInt_2_9 4 rfl rfl)
theorem dJ18_parseInt_2_215 : decode cJ18_parseInt_2 215 = .ok (.iload_n 1, 1) := dk_27 (dk_at dksJ18_parseInt_2_9 6 rfl rfl)
theorem dJ18_parseInt_2_216 : decode cJ18_parseInt_2 216 = .ok (.imul, 1) := dk_104 (dk_at dksJ18_parseInt_2_9 7 rfl rfl)
theorem dJ18_parseInt_2_217 : decode cJ18_parseInt_2 217 = .ok (.istore 8, 2) := dk_54 8 (dk_at dksJ18_parseInt_2_9 8 rfl rfl)
theorem dJ18_parseInt_2_219 : decode cJ18_parseInt_2 219 = .ok (.iload 8, 2) := dk_21 8 (dk_at dksJ18_parseInt_2_9 10 rfl rfl)
theorem dJ18_parseInt_2_221 : decode cJ18_parseInt_2 221 = .ok (.iload 5, 2) := dk_21 5 (dk_at dksJ18_parseInt_2_9 12 rfl rfl)
theorem dJ18_parseInt_2_223 : decode cJ18_parseInt_2 223 = .ok (.iload 9, 2) := dk_21 9 (dk_at dksJ18_parseInt_2_9 14 rfl rfl)
theorem dJ18_parseInt_2_225 : decode cJ18_parseInt_2 225 = .ok (.iadd, 1) := dk_96 (dk_at dksJ18_parseInt_2_9 16 rfl rfl)
theorem dJ18_parseInt_2_226 : decode cJ18_parseInt_2 226 = .ok (.if_icmp .ge 9, 3) := dk_162 0 9 (dk_at dksJ18_parseInt_2_9 17 rfl rfl)
theorem dJ18_parseInt_2_229 : decode cJ18_parseInt_2 229 = .ok (.aload_n 0, 1) := dk_42 (dk_at dksJ18_parseInt_2_9 20 rfl rfl)
theorem dJ18_parseInt_2_230 : decode cJ18_parseInt_2 230 = .ok (.iload_n 1, 1) := dk_27 (dk_at dksJ18_parseInt_2_9 21 rfl rfl)
theorem dJ18_parseInt_2_231 : decode cJ18_parseInt_2 231 = .ok (.invokestatic 128, 3) := dk_184 0 128 (dk_at dksJ18_parseInt_2_10 0 rfl rfl)
theorem dJ18_parseInt_2_234 : decode cJ18_parseInt_2 234 = .ok (.athrow, 1) := dk_191 (dk_at dksJ18_parseInt_2_10 3 rfl rfl)
theorem dJ18_parseInt_2_235 : decode cJ18_parseInt_2 235 = .ok (.iload 8, 2) := dk_21 8 (dk_at dksJ18_parseInt_2_10 4 rfl rfl)
theorem dJ18_parseInt_2_237 : decode cJ18_parseInt_2 237 = .ok (.iload 9, 2) := dk_21 9 (dk_at dksJ18_parseInt_2_10 6 rfl rfl)
theorem dJ18_parseInt_2_239 : decode cJ18_parseInt_2 239 = .ok (.isub, 1) := dk_100 (dk_at dksJ18_parseInt_2_10 8 rfl rfl)
theorem dJ18_parseInt_2_240 : decode cJ18_parseInt_2 240 = .ok (.istore 8, 2) := dk_54 8 (dk_at dksJ18_parseInt_2_10 9 rfl rfl)
theorem dJ18_parseInt_2_242 : decode cJ18_parseInt_2 242 = .ok (.goto (-67), 3) := dk_167 255 189 (dk_at dksJ18_parseInt_2_10 11 rfl rfl)
theorem dJ18_parseInt_2_245 : decode cJ18_parseInt_2 245 = .ok (.iload_n 2, 1) := dk_28 (dk_at dksJ18_parseInt_2_10 14 rfl rfl)
theorem dJ18_parseInt_2_246 : decode cJ18_parseInt_2 246 = .ok (.ifCond .eq 8, 3) := dk_153 0 8 (dk_at dksJ18_parseInt_2_10 15 rfl rfl)
theorem dJ18_parseInt_2_249 : decode cJ18_parseInt_2 249 = .ok (.iload 8, 2) := dk_21 8 (dk_at dksJ18_parseInt_2_10 18 rfl rfl)
theorem dJ18_parseInt_2_251 : decode cJ18_parseInt_2 251 = .ok (.goto 6, 3) := dk_167 0 6 (dk_at dksJ18_parseInt_2_10 20 rfl rfl)
theorem dJ18_parseInt_2_254 : decode cJ18_parseInt_2 254 = .ok (.iload 8, 2) := dk_21 8 (dk_at dksJ18_parseInt_2_11 0 rfl rfl)
theorem dJ18_parseInt_2_256 : decode cJ18_parseInt_2 256 = .ok (.ineg, 1) := dk_116 (dk_at dksJ18_parseInt_2_11 2 rfl rfl)
theorem dJ18_parseInt_2_257 : decode cJ18_parseInt_2 257 = .ok (.ireturn, 1) := dk_172 (dk_at dksJ18_parseInt_2_11 3 rfl rfl)
theorem dJ18_parseInt_2_258 : decode cJ18_parseInt_2 258 = .ok (.aload_n 0, 1) := dk_42 (dk_at dksJ18_parseInt_2_11 4 rfl rfl)
theorem dJ18_parseInt_2_259 : decode cJ18_parseInt_2 259 = .ok (.iload_n 1, 1) := dk_27 (dk_at dksJ18_parseInt_2_11 5 rfl rfl)
theorem dJ18_parseInt_2_260 : decode cJ18_parseInt_2 260 = .ok (.invokestatic 128, 3) := dk_184 0 128 (dk_at dksJ18_parseInt_2_11 6 rfl rfl)
theorem dJ18_parseInt_2_263 : decode cJ18_parseInt_2 263 = .ok (.athrow, 1) := dk_191 (dk_at dksJ18_parseInt_2_11 9 rfl rfl)
theorem q72 : (Jvm.Cond.initialized "java/lang/Integer") ∈ lw_all := lw_g (lw_at lw_m1 26 rfl) rfl
theorem q517 : (Jvm.Cond.static ({ cls := "java/lang/Integer", name := "stringSize", desc := "(I)I" } : Jvm.MethodName)) ∈ lw_all := lw_g (lw_at lw_m2 231 rfl) rfl
theorem q518 : (Jvm.Cond.code ({ cls := "java/lang/Integer", name := "stringSize", desc := "(I)I" } : Jvm.MethodName) prog_24_method_13_code (4 : Nat) (Option.some Jvm.ClassFile.FieldType.int)) ∈ lw_all := lw_g (lw_at lw_m2 232 rfl) rfl
theorem q554 : (Jvm.Cond.static ({ cls := "java/lang/Integer", name := "getChars", desc := "(II[B)I" } : Jvm.MethodName)) ∈ lw_all := lw_g (lw_at lw_m3 28 rfl) rfl
theorem q555 : (Jvm.Cond.code ({ cls := "java/lang/Integer", name := "getChars", desc := "(II[B)I" } : Jvm.MethodName) prog_24_method_12_code (7 : Nat) (Option.some Jvm.ClassFile.FieldType.int)) ∈ lw_all := lw_g (lw_at lw_m3 29 rfl) rfl
theorem q556 : (Jvm.Cond.fieldLink "java/lang/Integer" (83 : Nat) "java/lang/Integer" "DigitOnes" "[B") ∈ lw_all := lw_g (lw_at lw_m3 30 rfl) rfl
theorem q557 : (Jvm.Cond.laysStatic "java/lang/Integer" "DigitOnes" "[B") ∈ lw_tbl := lw_at lw_m3 31 rfl
theorem q558 : (Jvm.Cond.fieldLink "java/lang/Integer" (87 : Nat) "java/lang/Integer" "DigitTens" "[B") ∈ lw_all := lw_g (lw_at lw_m3 32 rfl) rfl
theorem q559 : (Jvm.Cond.laysStatic "java/lang/Integer" "DigitTens" "[B") ∈ lw_tbl := lw_at lw_m3 33 rfl
theorem q799 : (Jvm.Cond.static ({ cls := "java/lang/Integer", name := "numberOfLeadingZeros", desc := "(I)I" } : Jvm.MethodName)) ∈ lw_all := lw_g (lw_at lw_m4 33 rfl) rfl
theorem q800 : (Jvm.Cond.code ({ cls := "java/lang/Integer", name := "numberOfLeadingZeros", desc := "(I)I" } : Jvm.MethodName) prog_24_method_47_code (2 : Nat) (Option.some Jvm.ClassFile.FieldType.int)) ∈ lw_all := lw_g (lw_at lw_m4 34 rfl) rfl
theorem q801 : (Jvm.Cond.constant "java/lang/Integer" (264 : Nat) (65536 : Int32)) ∈ lw_all := lw_g (lw_at lw_m4 35 rfl) rfl
theorem q808 : (Jvm.Cond.static ({ cls := "java/lang/Integer", name := "numberOfTrailingZeros", desc := "(I)I" } : Jvm.MethodName)) ∈ lw_all := lw_g (lw_at lw_m4 42 rfl) rfl
theorem q809 : (Jvm.Cond.code ({ cls := "java/lang/Integer", name := "numberOfTrailingZeros", desc := "(I)I" } : Jvm.MethodName) prog_24_method_48_code (2 : Nat) (Option.some Jvm.ClassFile.FieldType.int)) ∈ lw_all := lw_g (lw_at lw_m4 43 rfl) rfl
theorem q1512 : (Jvm.Cond.static ({ cls := "java/lang/Integer", name := "parseInt", desc := "(Ljava/lang/String;)I" } : Jvm.MethodName)) ∈ lw_all := lw_g (lw_at lw_m7 26 rfl) rfl
theorem q1513 : (Jvm.Cond.code ({ cls := "java/lang/Integer", name := "parseInt", desc := "(Ljava/lang/String;)I" } : Jvm.MethodName) prog_24_method_16_code (1 : Nat) (Option.some Jvm.ClassFile.FieldType.int)) ∈ lw_all := lw_g (lw_at lw_m7 27 rfl) rfl
theorem q1514 : (Jvm.Cond.methodLink "java/lang/Integer" (156 : Nat) ({ cls := "java/lang/Integer", name := "parseInt", desc := "(Ljava/lang/String;I)I" } : Jvm.MethodName)) ∈ lw_all := lw_g (lw_at lw_m7 28 rfl) rfl
theorem q1515 : (Jvm.Cond.static ({ cls := "java/lang/Integer", name := "parseInt", desc := "(Ljava/lang/String;I)I" } : Jvm.MethodName)) ∈ lw_all := lw_g (lw_at lw_m7 29 rfl) rfl
theorem q1516 : (Jvm.Cond.code ({ cls := "java/lang/Integer", name := "parseInt", desc := "(Ljava/lang/String;I)I" } : Jvm.MethodName) prog_24_method_14_code (10 : Nat) (Option.some Jvm.ClassFile.FieldType.int)) ∈ lw_all := lw_g (lw_at lw_m7 30 rfl) rfl
theorem q1517 : (Jvm.Cond.classLink "java/lang/Integer" (90 : Nat) "java/lang/NumberFormatException") ∈ lw_all := lw_g (lw_at lw_m7 31 rfl) rfl
theorem q1528 : (Jvm.Cond.stringRef "java/lang/Integer" (92 : Nat) "Cannot parse null string") ∈ lw_tbl := lw_at lw_m7 42 rfl
theorem q1529 : (Jvm.Cond.methodLink "java/lang/Integer" (94 : Nat) ({ cls := "java/lang/NumberFormatException", name := "<init>", desc := "(Ljava/lang/String;)V" } : Jvm.MethodName)) ∈ lw_all := lw_g (lw_at lw_m7 43 rfl) rfl
theorem q1535 : (Jvm.Cond.classLink "java/lang/Integer" (97 : Nat) "java/lang/StringBuilder") ∈ lw_all := lw_g (lw_at lw_m7 49 rfl) rfl
theorem q1536 : (Jvm.Cond.methodLink "java/lang/Integer" (99 : Nat) ({ cls := "java/lang/StringBuilder", name := "<init>", desc := "()V" } : Jvm.MethodName)) ∈ lw_all := lw_g (lw_at lw_m7 50 rfl) rfl
theorem q1537 : (Jvm.Cond.stringRef "java/lang/Integer" (102 : Nat) "radix ") ∈ lw_tbl := lw_at lw_m7 51 rfl
theorem q1538 : (Jvm.Cond.methodLink "java/lang/Integer" (104 : Nat) ({ cls := "java/lang/StringBuilder", name := "append", desc := "(Ljava/lang/String;)Ljava/lang/StringBuilder;" } : Jvm.MethodName)) ∈ lw_all := lw_g (lw_at lw_m7 52 rfl) rfl
theorem q1539 : (Jvm.Cond.methodLink "java/lang/Integer" (108 : Nat) ({ cls := "java/lang/StringBuilder", name := "append", desc := "(I)Ljava/lang/StringBuilder;" } : Jvm.MethodName)) ∈ lw_all := lw_g (lw_at lw_m7 53 rfl) rfl
theorem q1540 : (Jvm.Cond.stringRef "java/lang/Integer" (111 : Nat) " less than Character.MIN_RADIX") ∈ lw_tbl := lw_at lw_m7 54 rfl
theorem q1541 : (Jvm.Cond.methodLink "java/lang/Integer" (113 : Nat) ({ cls := "java/lang/StringBuilder", name := "toString", desc := "()Ljava/lang/String;" } : Jvm.MethodName)) ∈ lw_all := lw_g (lw_at lw_m7 55 rfl) rfl
theorem q1542 : (Jvm.Cond.stringRef "java/lang/Integer" (116 : Nat) " greater than Character.MAX_RADIX") ∈ lw_tbl := lw_at lw_m7 56 rfl
theorem q1543 : (Jvm.Cond.methodLink "java/lang/Integer" (118 : Nat) ({ cls := "java/lang/String", name := "length", desc := "()I" } : Jvm.MethodName)) ∈ lw_all := lw_g (lw_at lw_m7 57 rfl) rfl
theorem q1544 : (Jvm.Cond.constant "java/lang/Integer" (122 : Nat) (-2147483647 : Int32)) ∈ lw_all := lw_g (lw_at lw_m7 58 rfl) rfl
theorem q1545 : (Jvm.Cond.methodLink "java/lang/Integer" (123 : Nat) ({ cls := "java/lang/String", name := "charAt", desc := "(I)C" } : Jvm.MethodName)) ∈ lw_all := lw_g (lw_at lw_m7 59 rfl) rfl
theorem q1546 : (Jvm.Cond.constant "java/lang/Integer" (127 : Nat) (-2147483648 : Int32)) ∈ lw_all := lw_g (lw_at lw_m7 60 rfl) rfl
theorem q1547 : (Jvm.Cond.methodLink "java/lang/Integer" (128 : Nat) ({ cls := "java/lang/NumberFormatException", name := "forInputString", desc := "(Ljava/lang/String;I)Ljava/lang/NumberFormatException;" } : Jvm.MethodName)) ∈ lw_all := lw_g (lw_at lw_m7 61 rfl) rfl
theorem q1561 : (Jvm.Cond.methodLink "java/lang/Integer" (132 : Nat) ({ cls := "java/lang/Character", name := "digit", desc := "(CI)I" } : Jvm.MethodName)) ∈ lw_all := lw_g (lw_at lw_m7 75 rfl) rfl

/-! java/util/ArrayList -/
set_option maxRecDepth 100000
def RJ2 : String := "java/util/ArrayList"
def TJ2 : u_T := fun k => match k with
  | 0 => ("java/util/AbstractList", "modCount", "I", false)
  | 1 => ("java/util/ArrayList", "elementData", "[Ljava/lang/Object;", false)
  | _ => ("java/util/ArrayList", "size", "I", false)
def tyJ2 : Nat → FieldType := fun k => match k with
  | 0 => .int
  | 1 => .array (.object "java/lang/Object")
  | _ => .int
abbrev wsJ20 : List Cond := u_ws RJ2 TJ2 3
theorem nmJ2 : ∀ a, a < 3 → ∀ b, b < 3 → a ≠ b → (TJ2 a).2.1 ≠ (TJ2 b).2.1 := by decide +kernel
theorem tyJ2_ok : ∀ k, k < 3 → parseFieldDescriptor (TJ2 k).2.2.1 = some (tyJ2 k) := by decide +kernel
abbrev cJ2_init : ByteArray := prog_44_method_2_code
def yJ2_init : MethodName := ⟨RJ2, "<init>", "()V"⟩
def dkwJ2_init_0 : List UInt8 := [42, 183, 0, 1, 42, 178, 0, 39, 181, 0, 9, 177]
abbrev dktJ2_init_0 : List UInt8 := dkwJ2_init_0 ++ []
theorem dksJ2_init_0 : cJ2_init.data.toList.drop 0 = dktJ2_init_0 := by decide +kernel
theorem dJ2_init_0 : decode cJ2_init 0 = .ok (.aload_n 0, 1) := dk_42 (dk_at dksJ2_init_0 0 rfl rfl)
theorem dJ2_init_1 : decode cJ2_init 1 = .ok (.invokespecial 1, 3) := dk_183 0 1 (dk_at dksJ2_init_0 1 rfl rfl)
theorem dJ2_init_4 : decode cJ2_init 4 = .ok (.aload_n 0, 1) := dk_42 (dk_at dksJ2_init_0 4 rfl rfl)
theorem dJ2_init_5 : decode cJ2_init 5 = .ok (.getstatic 39, 3) := dk_178 0 39 (dk_at dksJ2_init_0 5 rfl rfl)
theorem dJ2_init_8 : decode cJ2_init 8 = .ok (.putfield 9, 3) := dk_181 0 9 (dk_at dksJ2_init_0 8 rfl rfl)
theorem dJ2_init_11 : decode cJ2_init 11 = .ok (.return_, 1) := dk_177 (dk_at dksJ2_init_0 11 rfl rfl)
abbrev cJ2_add : ByteArray := prog_44_method_25_code
def yJ2_add : MethodName := ⟨RJ2, "add", "(Ljava/lang/Object;)Z"⟩
def dkwJ2_add_1 : List UInt8 := [172]
abbrev dktJ2_add_1 : List UInt8 := dkwJ2_add_1 ++ []
def dkwJ2_add_0 : List UInt8 := [42, 89, 180, 0, 63, 4, 96, 181, 0, 63, 42, 43, 42, 180, 0, 9, 42, 180, 0, 48, 182, 0, 131, 4]
abbrev dktJ2_add_0 : List UInt8 := dkwJ2_add_0 ++ dktJ2_add_1
theorem dksJ2_add_0 : cJ2_add.data.toList.drop 0 = dktJ2_add_0 := by decide +kernel
theorem dksJ2_add_1 : cJ2_add.data.toList.drop 24 = dktJ2_add_1 := dk_seg dksJ2_add_0 24 rfl rfl
theorem dJ2_add_0 : decode cJ2_add 0 = .ok (.aload_n 0, 1) := dk_42 (dk_at dksJ2_add_0 0 rfl rfl)
theorem dJ2_add_1 : decode cJ2_add 1 = .ok (.dup, 1) := dk_89 (dk_at dksJ2_add_0 1 rfl rfl)
theorem dJ2_add_2 : decode cJ2_add 2 = .ok (.getfield 63, 3) := dk_180 0 63 (dk_at dksJ2_add_0 2 rfl rfl)
theorem dJ2_add_5 : decode cJ2_add 5 = .ok (.iconst 1, 1) := dk_4 (dk_at dksJ2_add_0 5 rfl rfl)
theorem dJ2_add_6 : decode cJ2_add 6 = .ok (.iadd, 1) := dk_96 (dk_at dksJ2_add_0 6 rfl rfl)
theorem dJ2_add_7 : decode cJ2_add 7 = .ok (.putfield 63, 3) := dk_181 0 63 (dk_at dksJ2_add_0 7 rfl rfl)
theorem dJ2_add_10 : decode cJ2_add 10 = .ok (.aload_n 0, 1) := dk_42 (dk_at dksJ2_add_0 10 rfl rfl)
theorem dJ2_add_11 : decode cJ2_add 11 = .ok (.aload_n 1, 1) := dk_43 (dk_at dksJ2_add_0 11 rfl rfl)
theorem dJ2_add_12 : decode cJ2_add 12 = .ok (.aload_n 0, 1) := dk_42 (dk_at dksJ2_add_0 12 rfl rfl)
theorem dJ2_add_13 : decode cJ2_add 13 = .ok (.getfield 9, 3) := dk_180 0 9 (dk_at dksJ2_add_0 13 rfl rfl)
theorem dJ2_add_16 : decode cJ2_add 16 = .ok (.aload_n 0, 1) := dk_42 (dk_at dksJ2_add_0 16 rfl rfl)
theorem dJ2_add_17 : decode cJ2_add 17 = .ok (.getfield 48, 3) := dk_180 0 48 (dk_at dksJ2_add_0 17 rfl rfl)
theorem dJ2_add_20 : decode cJ2_add 20 = .ok (.invokevirtual 131, 3) := dk_182 0 131 (dk_at dksJ2_add_0 20 rfl rfl)
theorem dJ2_add_23 : decode cJ2_add 23 = .ok (.iconst 1, 1) := dk_4 (dk_at dksJ2_add_0 23 rfl rfl)
theorem dJ2_add_24 : decode cJ2_add 24 = .ok (.ireturn, 1) := dk_172 (dk_at dksJ2_add_1 0 rfl rfl)
abbrev cJ2_add_2 : ByteArray := prog_44_method_24_code
def yJ2_add_2 : MethodName := ⟨RJ2, "add", "(Ljava/lang/Object;[Ljava/lang/Object;I)V"⟩
def dkwJ2_add_2_0 : List UInt8 := [29, 44, 190, 160, 0, 8, 42, 182, 0, 129, 77, 44, 29, 43, 83, 42, 29, 4, 96, 181, 0, 48, 177]
abbrev dktJ2_add_2_0 : List UInt8 := dkwJ2_add_2_0 ++ []
theorem dksJ2_add_2_0 : cJ2_add_2.data.toList.drop 0 = dktJ2_add_2_0 := by decide +kernel
theorem dJ2_add_2_0 : decode cJ2_add_2 0 = .ok (.iload_n 3, 1) := dk_29 (dk_at dksJ2_add_2_0 0 rfl rfl)
theorem dJ2_add_2_1 : decode cJ2_add_2 1 = .ok (.aload_n 2, 1) := dk_44 (dk_at dksJ2_add_2_0 1 rfl rfl)
theorem dJ2_add_2_2 : decode cJ2_add_2 2 = .ok (.arraylength, 1) := dk_190 (dk_at dksJ2_add_2_0 2 rfl rfl)
theorem dJ2_add_2_3 : decode cJ2_add_2 3 = .ok (.if_icmp .ne 8, 3) := dk_160 0 8 (dk_at dksJ2_add_2_0 3 rfl rfl)
theorem dJ2_add_2_6 : decode cJ2_add_2 6 = .ok (.aload_n 0, 1) := dk_42 (dk_at dksJ2_add_2_0 6 rfl rfl)
theorem dJ2_add_2_7 : decode cJ2_add_2 7 = .ok (.invokevirtual 129, 3) := dk_182 0 129 (dk_at dksJ2_add_2_0 7 rfl rfl)
theorem dJ2_add_2_10 : decode cJ2_add_2 10 = .ok (.astore_n 2, 1) := dk_77 (dk_at dksJ2_add_2_0 10 rfl rfl)
theorem dJ2_add_2_11 : decode cJ2_add_2 11 = .ok (.aload_n 2, 1) := dk_44 (dk_at dksJ2_add_2_0 11 rfl rfl)
theorem dJ2_add_2_12 : decode cJ2_add_2 12 = .ok (.iload_n 3, 1) := dk_29 (dk_at dksJ2_add_2_0 12 rfl rfl)
theorem dJ2_add_2_13 : decode cJ2_add_2 13 = .ok (.aload_n 1, 1) := dk_43 (dk_at dksJ2_add_2_0 13 rfl rfl)
theorem dJ2_add_2_14 : decode cJ2_add_2 14 = .ok (.aastore, 1) := dk_83 (dk_at dksJ2_add_2_0 14 rfl rfl)
theorem dJ2_add_2_15 : decode cJ2_add_2 15 = .ok (.aload_n 0, 1) := dk_42 (dk_at dksJ2_add_2_0 15 rfl rfl)
theorem dJ2_add_2_16 : decode cJ2_add_2 16 = .ok (.iload_n 3, 1) := dk_29 (dk_at dksJ2_add_2_0 16 rfl rfl)
theorem dJ2_add_2_17 : decode cJ2_add_2 17 = .ok (.iconst 1, 1) := dk_4 (dk_at dksJ2_add_2_0 17 rfl rfl)
theorem dJ2_add_2_18 : decode cJ2_add_2 18 = .ok (.iadd, 1) := dk_96 (dk_at dksJ2_add_2_0 18 rfl rfl)
theorem dJ2_add_2_19 : decode cJ2_add_2 19 = .ok (.putfield 48, 3) := dk_181 0 48 (dk_at dksJ2_add_2_0 19 rfl rfl)
theorem dJ2_add_2_22 : decode cJ2_add_2 22 = .ok (.return_, 1) := dk_177 (dk_at dksJ2_add_2_0 22 rfl rfl)
abbrev cJ2_grow : ByteArray := prog_44_method_7_code
def yJ2_grow : MethodName := ⟨RJ2, "grow", "()[Ljava/lang/Object;"⟩
def dkwJ2_grow_0 : List UInt8 := [42, 42, 180, 0, 48, 4, 96, 182, 0, 69, 176]
abbrev dktJ2_grow_0 : List UInt8 := dkwJ2_grow_0 ++ []
theorem dksJ2_grow_0 : cJ2_grow.data.toList.drop 0 = dktJ2_grow_0 := by decide +kernel
theorem dJ2_grow_0 : decode cJ2_grow 0 = .ok (.aload_n 0, 1) := dk_42 (dk_at dksJ2_grow_0 0 rfl rfl)
theorem dJ2_grow_1 : decode cJ2_grow 1 = .ok (.aload_n 0, 1) := dk_42 (dk_at dksJ2_grow_0 1 rfl rfl)
theorem dJ2_grow_2 : decode cJ2_grow 2 = .ok (.getfield 48, 3) := dk_180 0 48 (dk_at dksJ2_grow_0 2 rfl rfl)
theorem dJ2_grow_5 : decode cJ2_grow 5 = .ok (.iconst 1, 1) := dk_4 (dk_at dksJ2_grow_0 5 rfl rfl)
theorem dJ2_grow_6 : decode cJ2_grow 6 = .ok (.iadd, 1) := dk_96 (dk_at dksJ2_grow_0 6 rfl rfl)
theorem dJ2_grow_7 : decode cJ2_grow 7 = .ok (.invokevirtual 69, 3) := dk_182 0 69 (dk_at dksJ2_grow_0 7 rfl rfl)
theorem dJ2_grow_10 : decode cJ2_grow 10 = .ok (.areturn, 1) := dk_176 (dk_at dksJ2_grow_0 10 rfl rfl)
abbrev cJ2_grow_2 : ByteArray := prog_44_method_6_code
def yJ2_grow_2 : MethodName := ⟨RJ2, "grow", "(I)[Ljava/lang/Object;"⟩
def dkwJ2_grow_2_2 : List UInt8 := [27, 184, 0, 79, 189, 0, 7, 90, 181, 0, 9, 176]
abbrev dktJ2_grow_2_2 : List UInt8 := dkwJ2_grow_2_2 ++ []
def dkwJ2_grow_2_1 : List UInt8 := [28, 4, 122, 184, 0, 73, 62, 42, 42, 180, 0, 9, 29, 184, 0, 66, 90, 181, 0, 9, 176, 42, 16, 10]
abbrev dktJ2_grow_2_1 : List UInt8 := dkwJ2_grow_2_1 ++ dktJ2_grow_2_2
def dkwJ2_grow_2_0 : List UInt8 := [42, 180, 0, 9, 190, 61, 28, 157, 0, 13, 42, 180, 0, 9, 178, 0, 39, 165, 0, 28, 28, 27, 28, 100]
abbrev dktJ2_grow_2_0 : List UInt8 := dkwJ2_grow_2_0 ++ dktJ2_grow_2_1
theorem dksJ2_grow_2_0 : cJ2_grow_2.data.toList.drop 0 = dktJ2_grow_2_0 := by decide +kernel
theorem dksJ2_grow_2_1 : cJ2_grow_2.data.toList.drop 24 = dktJ2_grow_2_1 := dk_seg dksJ2_grow_2_0 24 rfl rfl
theorem dksJ2_grow_2_2 : cJ2_grow_2.data.toList.drop 48 = dktJ2_grow_2_2 := dk_seg dksJ2_grow_2_1 24 rfl rfl
theorem dJ2_grow_2_0 : decode cJ2_grow_2 0 = .ok (.aload_n 0, 1) := dk_42 (dk_at dksJ2_grow_2_0 0 rfl rfl)
theorem dJ2_grow_2_1 : decode cJ2_grow_2 1 = .ok (.getfield 9, 3) := dk_180 0 9 (dk_at dksJ2_grow_2_0 1 rfl rfl)
theorem dJ2_grow_2_4 : decode cJ2_grow_2 4 = .ok (.arraylength, 1) := dk_190 (dk_at dksJ2_grow_2_0 4 rfl rfl)
theorem dJ2_grow_2_5 : decode cJ2_grow_2 5 = .ok (.istore_n 2, 1) := dk_61 (dk_at dksJ2_grow_2_0 5 rfl rfl)
theorem dJ2_grow_2_6 : decode cJ2_grow_2 6 = .ok (.iload_n 2, 1) := dk_28 (dk_at dksJ2_grow_2_0 6 rfl rfl)
theorem dJ2_grow_2_7 : decode cJ2_grow_2 7 = .ok (.ifCond .gt 13, 3) := dk_157 0 13 (dk_at dksJ2_grow_2_0 7 rfl rfl)
theorem dJ2_grow_2_10 : decode cJ2_grow_2 10 = .ok (.aload_n 0, 1) := dk_42 (dk_at dksJ2_grow_2_0 10 rfl rfl)
theorem dJ2_grow_2_11 : decode cJ2_grow_2 11 = .ok (.getfield 9, 3) := dk_180 0 9 (dk_at dksJ2_grow_2_0 11 rfl rfl)
theorem dJ2_grow_2_14 : decode cJ2_grow_2 14 = .ok (.getstatic 39, 3) := dk_178 0 39 (dk_at dksJ2_grow_2_0 14 rfl rfl)
theorem dJ2_grow_2_17 : decode cJ2_grow_2 17 = .ok (.if_acmp .eq 28, 3) := dk_165 0 28 (dk_at dksJ2_grow_2_0 17 rfl rfl)
theorem dJ2_grow_2_20 : decode cJ2_grow_2 20 = .ok (.iload_n 2, 1) := dk_28 (dk_at dksJ2_grow_2_0 20 rfl rfl)
theorem dJ2_grow_2_21 : decode cJ2_grow_2 21 = .ok (.iload_n 1, 1) := dk_27 (dk_at dksJ2_grow_2_0 21 rfl rfl)
theorem dJ2_grow_2_22 : decode cJ2_grow_2 22 = .ok (.iload_n 2, 1) := dk_28 (dk_at dksJ2_grow_2_0 22 rfl rfl)
theorem dJ2_grow_2_23 : decode cJ2_grow_2 23 = .ok (.isub, 1) := dk_100 (dk_at dksJ2_grow_2_0 23 rfl rfl)
theorem dJ2_grow_2_24 : decode cJ2_grow_2 24 = .ok (.iload_n 2, 1) := dk_28 (dk_at dksJ2_grow_2_1 0 rfl rfl)
theorem dJ2_grow_2_25 : decode cJ2_grow_2 25 = .ok (.iconst 1, 1) := dk_4 (dk_at dksJ2_grow_2_1 1 rfl rfl)
theorem dJ2_grow_2_26 : decode cJ2_grow_2 26 = .ok (.ishr, 1) := dk_122 (dk_at dksJ2_grow_2_1 2 rfl rfl)
theorem dJ2_grow_2_27 : decode cJ2_grow_2 27 = .ok (.invokestatic 73, 3) := dk_184 0 73 (dk_at dksJ2_grow_2_1 3 rfl rfl)
theorem dJ2_grow_2_30 : decode cJ2_grow_2 30 = .ok (.istore_n 3, 1) := dk_62 (dk_at dksJ2_grow_2_1 6 rfl rfl)
theorem dJ2_grow_2_31 : decode cJ2_grow_2 31 = .ok (.aload_n 0, 1) := dk_42 (dk_at dksJ2_grow_2_1 7 rfl rfl)
theorem dJ2_grow_2_32 : decode cJ2_grow_2 32 = .ok (.aload_n 0, 1) := dk_42 (dk_at dksJ2_grow_2_1 8 rfl rfl)
theorem dJ2_grow_2_33 : decode cJ2_grow_2 33 = .ok (.getfield 9, 3) := dk_180 0 9 (dk_at dksJ2_grow_2_1 9 rfl rfl)
theorem dJ2_grow_2_36 : decode cJ2_grow_2 36 = .ok (.iload_n 3, 1) := dk_29 (dk_at dksJ2_grow_2_1 12 rfl rfl)
theorem dJ2_grow_2_37 : decode cJ2_grow_2 37 = .ok (.invokestatic 66, 3) := dk_184 0 66 (dk_at dksJ2_grow_2_1 13 rfl rfl)
theorem dJ2_grow_2_40 : decode cJ2_grow_2 40 = .ok (.dup_x1, 1) := dk_90 (dk_at dksJ2_grow_2_1 16 rfl rfl)
theorem dJ2_grow_2_41 : decode cJ2_grow_2 41 = .ok (.putfield 9, 3) := dk_181 0 9 (dk_at dksJ2_grow_2_1 17 rfl rfl)
theorem dJ2_grow_2_44 : decode cJ2_grow_2 44 = .ok (.areturn, 1) := dk_176 (dk_at dksJ2_grow_2_1 20 rfl rfl)
theorem dJ2_grow_2_45 : decode cJ2_grow_2 45 = .ok (.aload_n 0, 1) := dk_42 (dk_at dksJ2_grow_2_1 21 rfl rfl)
theorem dJ2_grow_2_46 : decode cJ2_grow_2 46 = .ok (.bipush 10, 2) := dk_16 10 (dk_at dksJ2_grow_2_1 22 rfl rfl)
theorem dJ2_grow_2_48 : decode cJ2_grow_2 48 = .ok (.iload_n 1, 1) := dk_27 (dk_at dksJ2_grow_2_2 0 rfl rfl)
theorem dJ2_grow_2_49 : decode cJ2_grow_2 49 = .ok (.invokestatic 79, 3) := dk_184 0 79 (dk_at dksJ2_grow_2_2 1 rfl rfl)
theorem dJ2_grow_2_52 : decode cJ2_grow_2 52 = .ok (.anewarray 7, 3) := dk_189 0 7 (dk_at dksJ2_grow_2_2 4 rfl rfl)
theorem dJ2_grow_2_55 : decode cJ2_grow_2 55 = .ok (.dup_x1, 1) := dk_90 (dk_at dksJ2_grow_2_2 7 rfl rfl)
theorem dJ2_grow_2_56 : decode cJ2_grow_2 56 = .ok (.putfield 9, 3) := dk_181 0 9 (dk_at dksJ2_grow_2_2 8 rfl rfl)
theorem dJ2_grow_2_59 : decode cJ2_grow_2 59 = .ok (.areturn, 1) := dk_176 (dk_at dksJ2_grow_2_2 11 rfl rfl)
abbrev cJ2_iterator : ByteArray := prog_44_method_55_code
def yJ2_iterator : MethodName := ⟨RJ2, "iterator", "()Ljava/util/Iterator;"⟩
def dkwJ2_iterator_0 : List UInt8 := [187, 1, 11, 89, 42, 183, 1, 13, 176]
abbrev dktJ2_iterator_0 : List UInt8 := dkwJ2_iterator_0 ++ []
theorem dksJ2_iterator_0 : cJ2_iterator.data.toList.drop 0 = dktJ2_iterator_0 := by decide +kernel
theorem dJ2_iterator_0 : decode cJ2_iterator 0 = .ok (.new 267, 3) := dk_187 1 11 (dk_at dksJ2_iterator_0 0 rfl rfl)
theorem dJ2_iterator_3 : decode cJ2_iterator 3 = .ok (.dup, 1) := dk_89 (dk_at dksJ2_iterator_0 3 rfl rfl)
theorem dJ2_iterator_4 : decode cJ2_iterator 4 = .ok (.aload_n 0, 1) := dk_42 (dk_at dksJ2_iterator_0 4 rfl rfl)
theorem dJ2_iterator_5 : decode cJ2_iterator 5 = .ok (.invokespecial 269, 3) := dk_183 1 13 (dk_at dksJ2_iterator_0 5 rfl rfl)
theorem dJ2_iterator_8 : decode cJ2_iterator 8 = .ok (.areturn, 1) := dk_176 (dk_at dksJ2_iterator_0 8 rfl rfl)
abbrev cJ2_size : ByteArray := prog_44_method_8_code
def yJ2_size : MethodName := ⟨RJ2, "size", "()I"⟩
theorem dJ2_size_0 : decode cJ2_size 0 = .ok (.aload_n 0, 1) := by decide +kernel
theorem dJ2_size_1 : decode cJ2_size 1 = .ok (.getfield 48, 3) := by decide +kernel
theorem dJ2_size_4 : decode cJ2_size 4 = .ok (.ireturn, 1) := by decide +kernel
abbrev cJ2_get : ByteArray := prog_44_method_20_code
def yJ2_get : MethodName := ⟨RJ2, "get", "(I)Ljava/lang/Object;"⟩
def dkwJ2_get_0 : List UInt8 := [27, 42, 180, 0, 48, 184, 0, 118, 87, 42, 27, 182, 0, 123, 176]
abbrev dktJ2_get_0 : List UInt8 := dkwJ2_get_0 ++ []
theorem dksJ2_get_0 : cJ2_get.data.toList.drop 0 = dktJ2_get_0 := by decide +kernel
theorem dJ2_get_0 : decode cJ2_get 0 = .ok (.iload_n 1, 1) := dk_27 (dk_at dksJ2_get_0 0 rfl rfl)
theorem dJ2_get_1 : decode cJ2_get 1 = .ok (.aload_n 0, 1) := dk_42 (dk_at dksJ2_get_0 1 rfl rfl)
theorem dJ2_get_2 : decode cJ2_get 2 = .ok (.getfield 48, 3) := dk_180 0 48 (dk_at dksJ2_get_0 2 rfl rfl)
theorem dJ2_get_5 : decode cJ2_get 5 = .ok (.invokestatic 118, 3) := dk_184 0 118 (dk_at dksJ2_get_0 5 rfl rfl)
theorem dJ2_get_8 : decode cJ2_get 8 = .ok (.pop, 1) := dk_87 (dk_at dksJ2_get_0 8 rfl rfl)
theorem dJ2_get_9 : decode cJ2_get 9 = .ok (.aload_n 0, 1) := dk_42 (dk_at dksJ2_get_0 9 rfl rfl)
theorem dJ2_get_10 : decode cJ2_get 10 = .ok (.iload_n 1, 1) := dk_27 (dk_at dksJ2_get_0 10 rfl rfl)
theorem dJ2_get_11 : decode cJ2_get 11 = .ok (.invokevirtual 123, 3) := dk_182 0 123 (dk_at dksJ2_get_0 11 rfl rfl)
theorem dJ2_get_14 : decode cJ2_get 14 = .ok (.areturn, 1) := dk_176 (dk_at dksJ2_get_0 14 rfl rfl)
abbrev cJ2_elementData : ByteArray := prog_44_method_18_code
def yJ2_elementData : MethodName := ⟨RJ2, "elementData", "(I)Ljava/lang/Object;"⟩
def dkwJ2_elementData_0 : List UInt8 := [42, 180, 0, 9, 27, 50, 176]
abbrev dktJ2_elementData_0 : List UInt8 := dkwJ2_elementData_0 ++ []
theorem dksJ2_elementData_0 : cJ2_elementData.data.toList.drop 0 = dktJ2_elementData_0 := by decide +kernel
theorem dJ2_elementData_0 : decode cJ2_elementData 0 = .ok (.aload_n 0, 1) := dk_42 (dk_at dksJ2_elementData_0 0 rfl rfl)
theorem dJ2_elementData_1 : decode cJ2_elementData 1 = .ok (.getfield 9, 3) := dk_180 0 9 (dk_at dksJ2_elementData_0 1 rfl rfl)
theorem dJ2_elementData_4 : decode cJ2_elementData 4 = .ok (.iload_n 1, 1) := dk_27 (dk_at dksJ2_elementData_0 4 rfl rfl)
theorem dJ2_elementData_5 : decode cJ2_elementData 5 = .ok (.aaload, 1) := dk_50 (dk_at dksJ2_elementData_0 5 rfl rfl)
theorem dJ2_elementData_6 : decode cJ2_elementData 6 = .ok (.areturn, 1) := dk_176 (dk_at dksJ2_elementData_0 6 rfl rfl)
theorem q51 : (Jvm.Cond.initialized "java/util/ArrayList") ∈ lw_all := lw_g (lw_at lw_m1 5 rfl) rfl
theorem q135 : (Jvm.Cond.instantiable "java/util/ArrayList" (3 : Nat)) ∈ lw_all := lw_g (lw_at lw_m1 89 rfl) rfl
theorem q137 : (Jvm.Cond.instanceMethod ({ cls := "java/util/ArrayList", name := "<init>", desc := "()V" } : Jvm.MethodName)) ∈ lw_all := lw_g (lw_at lw_m1 91 rfl) rfl
theorem q138 : (Jvm.Cond.code ({ cls := "java/util/ArrayList", name := "<init>", desc := "()V" } : Jvm.MethodName) prog_44_method_2_code (1 : Nat) (Option.none : Option Jvm.ClassFile.FieldType)) ∈ lw_all := lw_g (lw_at lw_m1 92 rfl) rfl
theorem q139 : (Jvm.Cond.methodLink "java/util/ArrayList" (1 : Nat) ({ cls := "java/util/AbstractList", name := "<init>", desc := "()V" } : Jvm.MethodName)) ∈ lw_all := lw_g (lw_at lw_m1 93 rfl) rfl
theorem q146 : (Jvm.Cond.fieldLink "java/util/ArrayList" (39 : Nat) "java/util/ArrayList" "DEFAULTCAPACITY_EMPTY_ELEMENTDATA" "[Ljava/lang/Object;") ∈ lw_all := lw_g (lw_at lw_m1 100 rfl) rfl
theorem q147 : (Jvm.Cond.laysStatic "java/util/ArrayList" "DEFAULTCAPACITY_EMPTY_ELEMENTDATA" "[Ljava/lang/Object;") ∈ lw_tbl := lw_at lw_m1 101 rfl
theorem q148 : (Jvm.Cond.fieldLink "java/util/ArrayList" (9 : Nat) "java/util/ArrayList" "elementData" "[Ljava/lang/Object;") ∈ lw_all := lw_g (lw_at lw_m1 102 rfl) rfl
theorem q151 : (Jvm.Cond.fieldLink "java/util/ArrayList" (48 : Nat) "java/util/ArrayList" "size" "I") ∈ lw_all := lw_g (lw_at lw_m1 105 rfl) rfl
theorem q154 : (Jvm.Cond.sameField "java/util/ArrayList" "java/util/AbstractList" "modCount" "I") ∈ lw_all := lw_g (lw_at lw_m1 108 rfl) rfl
theorem q155 : (Jvm.Cond.fieldLink "java/util/ArrayList" (63 : Nat) "java/util/ArrayList" "modCount" "I") ∈ lw_all := lw_g (lw_at lw_m1 109 rfl) rfl
theorem q156 : (Jvm.Cond.lays "java/util/ArrayList" "java/util/ArrayList" "elementData" "[Ljava/lang/Object;") ∈ lw_all := lw_g (lw_at lw_m1 110 rfl) rfl
theorem q157 : (Jvm.Cond.soleField "java/util/ArrayList" "elementData") ∈ lw_all := lw_g (lw_at lw_m1 111 rfl) rfl
theorem q158 : (Jvm.Cond.lays "java/util/ArrayList" "java/util/ArrayList" "size" "I") ∈ lw_all := lw_g (lw_at lw_m1 112 rfl) rfl
theorem q159 : (Jvm.Cond.soleField "java/util/ArrayList" "size") ∈ lw_all := lw_g (lw_at lw_m1 113 rfl) rfl
theorem q160 : (Jvm.Cond.lays "java/util/ArrayList" "java/util/AbstractList" "modCount" "I") ∈ lw_all := lw_g (lw_at lw_m1 114 rfl) rfl
theorem q162 : (Jvm.Cond.superclass "java/util/ArrayList" "java/util/AbstractList") ∈ lw_all := lw_g (lw_at lw_m1 116 rfl) rfl
theorem q957 : (Jvm.Cond.instanceMethod ({ cls := "java/util/ArrayList", name := "add", desc := "(Ljava/lang/Object;)Z" } : Jvm.MethodName)) ∈ lw_all := lw_g (lw_at lw_m4 191 rfl) rfl
theorem q958 : (Jvm.Cond.selects "java/util/ArrayList" ({ cls := "java/util/ArrayList", name := "add", desc := "(Ljava/lang/Object;)Z" } : Jvm.MethodName) ({ cls := "java/util/ArrayList", name := "add", desc := "(Ljava/lang/Object;)Z" } : Jvm.MethodName)) ∈ lw_all := lw_g (lw_at lw_m4 192 rfl) rfl
theorem q959 : (Jvm.Cond.code ({ cls := "java/util/ArrayList", name := "add", desc := "(Ljava/lang/Object;)Z" } : Jvm.MethodName) prog_44_method_25_code (2 : Nat) (Option.some Jvm.ClassFile.FieldType.boolean)) ∈ lw_all := lw_g (lw_at lw_m4 193 rfl) rfl
theorem q960 : (Jvm.Cond.methodLink "java/util/ArrayList" (131 : Nat) ({ cls := "java/util/ArrayList", name := "add", desc := "(Ljava/lang/Object;[Ljava/lang/Object;I)V" } : Jvm.MethodName)) ∈ lw_all := lw_g (lw_at lw_m4 194 rfl) rfl
theorem q961 : (Jvm.Cond.privateMethod ({ cls := "java/util/ArrayList", name := "add", desc := "(Ljava/lang/Object;[Ljava/lang/Object;I)V" } : Jvm.MethodName)) ∈ lw_tbl := lw_at lw_m4 195 rfl
theorem q962 : (Jvm.Cond.instanceMethod ({ cls := "java/util/ArrayList", name := "add", desc := "(Ljava/lang/Object;[Ljava/lang/Object;I)V" } : Jvm.MethodName)) ∈ lw_all := lw_g (lw_at lw_m4 196 rfl) rfl
theorem q963 : (Jvm.Cond.code ({ cls := "java/util/ArrayList", name := "add", desc := "(Ljava/lang/Object;[Ljava/lang/Object;I)V" } : Jvm.MethodName) prog_44_method_24_code (4 : Nat) (Option.none : Option Jvm.ClassFile.FieldType)) ∈ lw_all := lw_g (lw_at lw_m4 197 rfl) rfl
theorem q964 : (Jvm.Cond.methodLink "java/util/ArrayList" (129 : Nat) ({ cls := "java/util/ArrayList", name := "grow", desc := "()[Ljava/lang/Object;" } : Jvm.MethodName)) ∈ lw_all := lw_g (lw_at lw_m4 198 rfl) rfl
theorem q965 : (Jvm.Cond.privateMethod ({ cls := "java/util/ArrayList", name := "grow", desc := "()[Ljava/lang/Object;" } : Jvm.MethodName)) ∈ lw_tbl := lw_at lw_m4 199 rfl
theorem q966 : (Jvm.Cond.instanceMethod ({ cls := "java/util/ArrayList", name := "grow", desc := "()[Ljava/lang/Object;" } : Jvm.MethodName)) ∈ lw_all := lw_g (lw_at lw_m4 200 rfl) rfl
theorem q967 : (Jvm.Cond.code ({ cls := "java/util/ArrayList", name := "grow", desc := "()[Ljava/lang/Object;" } : Jvm.MethodName) prog_44_method_7_code (1 : Nat) (Option.some (Jvm.ClassFile.FieldType.array (Jvm.ClassFile.FieldType.object "java/lang/Object")))) ∈ lw_all := lw_g (lw_at lw_m4 201 rfl) rfl
theorem q968 : (Jvm.Cond.methodLink "java/util/ArrayList" (69 : Nat) ({ cls := "java/util/ArrayList", name := "grow", desc := "(I)[Ljava/lang/Object;" } : Jvm.MethodName)) ∈ lw_all := lw_g (lw_at lw_m4 202 rfl) rfl
theorem q969 : (Jvm.Cond.privateMethod ({ cls := "java/util/ArrayList", name := "grow", desc := "(I)[Ljava/lang/Object;" } : Jvm.MethodName)) ∈ lw_tbl := lw_at lw_m4 203 rfl
theorem q970 : (Jvm.Cond.instanceMethod ({ cls := "java/util/ArrayList", name := "grow", desc := "(I)[Ljava/lang/Object;" } : Jvm.MethodName)) ∈ lw_all := lw_g (lw_at lw_m4 204 rfl) rfl
theorem q971 : (Jvm.Cond.code ({ cls := "java/util/ArrayList", name := "grow", desc := "(I)[Ljava/lang/Object;" } : Jvm.MethodName) prog_44_method_6_code (4 : Nat) (Option.some (Jvm.ClassFile.FieldType.array (Jvm.ClassFile.FieldType.object "java/lang/Object")))) ∈ lw_all := lw_g (lw_at lw_m4 205 rfl) rfl
theorem q972 : (Jvm.Cond.methodLink "java/util/ArrayList" (73 : Nat) ({ cls := "jdk/internal/util/ArraysSupport", name := "newLength", desc := "(III)I" } : Jvm.MethodName)) ∈ lw_all := lw_g (lw_at lw_m4 206 rfl) rfl
theorem q973 : (Jvm.Cond.methodLink "java/util/ArrayList" (66 : Nat) ({ cls := "java/util/Arrays", name := "copyOf", desc := "([Ljava/lang/Object;I)[Ljava/lang/Object;" } : Jvm.MethodName)) ∈ lw_all := lw_g (lw_at lw_m4 207 rfl) rfl
theorem q996 : (Jvm.Cond.selects "java/util/ArrayList" ({ cls := "java/lang/Object", name := "getClass", desc := "()Ljava/lang/Class;" } : Jvm.MethodName) ({ cls := "java/lang/Object", name := "getClass", desc := "()Ljava/lang/Class;" } : Jvm.MethodName)) ∈ lw_all := lw_g (lw_at lw_m4 230 rfl) rfl
theorem q1011 : (Jvm.Cond.methodLink "java/util/ArrayList" (79 : Nat) ({ cls := "java/lang/Math", name := "max", desc := "(II)I" } : Jvm.MethodName)) ∈ lw_all := lw_g (lw_at lw_m5 5 rfl) rfl
theorem q1012 : (Jvm.Cond.classLink "java/util/ArrayList" (7 : Nat) "java/lang/Object") ∈ lw_all := lw_g (lw_at lw_m5 6 rfl) rfl
theorem q1014 : (Jvm.Cond.instanceMethod ({ cls := "java/util/ArrayList", name := "iterator", desc := "()Ljava/util/Iterator;" } : Jvm.MethodName)) ∈ lw_all := lw_g (lw_at lw_m5 8 rfl) rfl
theorem q1015 : (Jvm.Cond.selects "java/util/ArrayList" ({ cls := "java/util/ArrayList", name := "iterator", desc := "()Ljava/util/Iterator;" } : Jvm.MethodName) ({ cls := "java/util/ArrayList", name := "iterator", desc := "()Ljava/util/Iterator;" } : Jvm.MethodName)) ∈ lw_all := lw_g (lw_at lw_m5 9 rfl) rfl
theorem q1016 : (Jvm.Cond.code ({ cls := "java/util/ArrayList", name := "iterator", desc := "()Ljava/util/Iterator;" } : Jvm.MethodName) prog_44_method_55_code (1 : Nat) (Option.some (Jvm.ClassFile.FieldType.object "java/util/Iterator"))) ∈ lw_all := lw_g (lw_at lw_m5 10 rfl) rfl
theorem q1017 : (Jvm.Cond.classLink "java/util/ArrayList" (267 : Nat) "java/util/ArrayList$Itr") ∈ lw_all := lw_g (lw_at lw_m5 11 rfl) rfl
theorem q1019 : (Jvm.Cond.methodLink "java/util/ArrayList" (269 : Nat) ({ cls := "java/util/ArrayList$Itr", name := "<init>", desc := "(Ljava/util/ArrayList;)V" } : Jvm.MethodName)) ∈ lw_all := lw_g (lw_at lw_m5 13 rfl) rfl
theorem q1168 : (Jvm.Cond.castable "java/util/ArrayList" "java/lang/Iterable") ∈ lw_tbl := lw_at lw_m5 162 rfl
theorem q1169 : (Jvm.Cond.selects "java/util/ArrayList" ({ cls := "java/lang/Iterable", name := "iterator", desc := "()Ljava/util/Iterator;" } : Jvm.MethodName) ({ cls := "java/util/ArrayList", name := "iterator", desc := "()Ljava/util/Iterator;" } : Jvm.MethodName)) ∈ lw_all := lw_g (lw_at lw_m5 163 rfl) rfl
theorem q1170 : (Jvm.Cond.unhidden "java/util/ArrayList" "iterator" "()Ljava/util/Iterator;") ∈ lw_tbl := lw_at lw_m5 164 rfl
theorem q1171 : (Jvm.Cond.publicMethod ({ cls := "java/util/ArrayList", name := "iterator", desc := "()Ljava/util/Iterator;" } : Jvm.MethodName)) ∈ lw_tbl := lw_at lw_m5 165 rfl
theorem q1254 : (Jvm.Cond.castable "java/util/ArrayList" "java/util/Collection") ∈ lw_tbl := lw_at lw_m6 8 rfl
theorem q1255 : (Jvm.Cond.selects "java/util/ArrayList" ({ cls := "java/util/Collection", name := "size", desc := "()I" } : Jvm.MethodName) ({ cls := "java/util/ArrayList", name := "size", desc := "()I" } : Jvm.MethodName)) ∈ lw_all := lw_g (lw_at lw_m6 9 rfl) rfl
theorem q1256 : (Jvm.Cond.unhidden "java/util/ArrayList" "size" "()I") ∈ lw_tbl := lw_at lw_m6 10 rfl
theorem q1257 : (Jvm.Cond.instanceMethod ({ cls := "java/util/ArrayList", name := "size", desc := "()I" } : Jvm.MethodName)) ∈ lw_all := lw_g (lw_at lw_m6 11 rfl) rfl
theorem q1258 : (Jvm.Cond.publicMethod ({ cls := "java/util/ArrayList", name := "size", desc := "()I" } : Jvm.MethodName)) ∈ lw_tbl := lw_at lw_m6 12 rfl
theorem q1259 : (Jvm.Cond.code ({ cls := "java/util/ArrayList", name := "size", desc := "()I" } : Jvm.MethodName) prog_44_method_8_code (1 : Nat) (Option.some Jvm.ClassFile.FieldType.int)) ∈ lw_all := lw_g (lw_at lw_m6 13 rfl) rfl
theorem q1376 : (Jvm.Cond.selects "java/util/ArrayList" ({ cls := "java/util/Collection", name := "iterator", desc := "()Ljava/util/Iterator;" } : Jvm.MethodName) ({ cls := "java/util/ArrayList", name := "iterator", desc := "()Ljava/util/Iterator;" } : Jvm.MethodName)) ∈ lw_all := lw_g (lw_at lw_m6 130 rfl) rfl
theorem q1386 : (Jvm.Cond.selects "java/util/ArrayList" ({ cls := "java/util/AbstractCollection", name := "add", desc := "(Ljava/lang/Object;)Z" } : Jvm.MethodName) ({ cls := "java/util/ArrayList", name := "add", desc := "(Ljava/lang/Object;)Z" } : Jvm.MethodName)) ∈ lw_all := lw_g (lw_at lw_m6 140 rfl) rfl
theorem q1946 : (Jvm.Cond.instanceMethod ({ cls := "java/util/ArrayList", name := "get", desc := "(I)Ljava/lang/Object;" } : Jvm.MethodName)) ∈ lw_all := lw_g (lw_at lw_m8 220 rfl) rfl
theorem q1947 : (Jvm.Cond.selects "java/util/ArrayList" ({ cls := "java/util/ArrayList", name := "get", desc := "(I)Ljava/lang/Object;" } : Jvm.MethodName) ({ cls := "java/util/ArrayList", name := "get", desc := "(I)Ljava/lang/Object;" } : Jvm.MethodName)) ∈ lw_all := lw_g (lw_at lw_m8 221 rfl) rfl
theorem q1948 : (Jvm.Cond.code ({ cls := "java/util/ArrayList", name := "get", desc := "(I)Ljava/lang/Object;" } : Jvm.MethodName) prog_44_method_20_code (2 : Nat) (Option.some (Jvm.ClassFile.FieldType.object "java/lang/Object"))) ∈ lw_all := lw_g (lw_at lw_m8 222 rfl) rfl
theorem q1949 : (Jvm.Cond.methodLink "java/util/ArrayList" (118 : Nat) ({ cls := "java/util/Objects", name := "checkIndex", desc := "(II)I" } : Jvm.MethodName)) ∈ lw_all := lw_g (lw_at lw_m8 223 rfl) rfl
theorem q1953 : (Jvm.Cond.methodLink "java/util/ArrayList" (123 : Nat) ({ cls := "java/util/ArrayList", name := "elementData", desc := "(I)Ljava/lang/Object;" } : Jvm.MethodName)) ∈ lw_all := lw_g (lw_at lw_m8 227 rfl) rfl
theorem q1954 : (Jvm.Cond.instanceMethod ({ cls := "java/util/ArrayList", name := "elementData", desc := "(I)Ljava/lang/Object;" } : Jvm.MethodName)) ∈ lw_all := lw_g (lw_at lw_m8 228 rfl) rfl
theorem q1955 : (Jvm.Cond.selects "java/util/ArrayList" ({ cls := "java/util/ArrayList", name := "elementData", desc := "(I)Ljava/lang/Object;" } : Jvm.MethodName) ({ cls := "java/util/ArrayList", name := "elementData", desc := "(I)Ljava/lang/Object;" } : Jvm.MethodName)) ∈ lw_all := lw_g (lw_at lw_m8 229 rfl) rfl
theorem q1956 : (Jvm.Cond.code ({ cls := "java/util/ArrayList", name := "elementData", desc := "(I)Ljava/lang/Object;" } : Jvm.MethodName) prog_44_method_18_code (2 : Nat) (Option.some (Jvm.ClassFile.FieldType.object "java/lang/Object"))) ∈ lw_all := lw_g (lw_at lw_m8 230 rfl) rfl
theorem q2351 : (Jvm.Cond.selects "java/util/ArrayList" ({ cls := "java/util/ArrayList", name := "size", desc := "()I" } : Jvm.MethodName) ({ cls := "java/util/ArrayList", name := "size", desc := "()I" } : Jvm.MethodName)) ∈ lw_all := lw_g (lw_at lw_m10 145 rfl) rfl
theorem q2372 : (Jvm.Cond.castable "java/util/ArrayList" "java/lang/Object") ∈ lw_tbl := lw_at lw_m10 166 rfl
theorem in_J2 : ∀ w ∈ wsJ20, w ∈ lw_all := lw_in wsJ20 [160, 156, 158] (by decide +kernel) (by decide +kernel)

/-! java/lang/Character -/
set_option maxRecDepth 100000
def RJ20 : String := "java/lang/Character"
abbrev cJ20_digit : ByteArray := prog_15_method_79_code
def yJ20_digit : MethodName := ⟨RJ20, "digit", "(CI)I"⟩
def dkwJ20_digit_0 : List UInt8 := [26, 27, 184, 0, 248, 172]
abbrev dktJ20_digit_0 : List UInt8 := dkwJ20_digit_0 ++ []
theorem dksJ20_digit_0 : cJ20_digit.data.toList.drop 0 = dktJ20_digit_0 := by decide +kernel
theorem dJ20_digit_0 : decode cJ20_digit 0 = .ok (.iload_n 0, 1) := dk_26 (dk_at dksJ20_digit_0 0 rfl rfl)
theorem dJ20_digit_1 : decode cJ20_digit 1 = .ok (.iload_n 1, 1) := dk_27 (dk_at dksJ20_digit_0 1 rfl rfl)
theorem dJ20_digit_2 : decode cJ20_digit 2 = .ok (.invokestatic 248, 3) := dk_184 0 248 (dk_at dksJ20_digit_0 2 rfl rfl)
theorem dJ20_digit_5 : decode cJ20_digit 5 = .ok (.ireturn, 1) := dk_172 (dk_at dksJ20_digit_0 5 rfl rfl)
abbrev cJ20_digit_2 : ByteArray := prog_15_method_80_code
def yJ20_digit_2 : MethodName := ⟨RJ20, "digit", "(II)I"⟩
def dkwJ20_digit_2_0 : List UInt8 := [26, 184, 0, 158, 26, 27, 182, 0, 252, 172]
abbrev dktJ20_digit_2_0 : List UInt8 := dkwJ20_digit_2_0 ++ []
theorem dksJ20_digit_2_0 : cJ20_digit_2.data.toList.drop 0 = dktJ20_digit_2_0 := by decide +kernel
theorem dJ20_digit_2_0 : decode cJ20_digit_2 0 = .ok (.iload_n 0, 1) := dk_26 (dk_at dksJ20_digit_2_0 0 rfl rfl)
theorem dJ20_digit_2_1 : decode cJ20_digit_2 1 = .ok (.invokestatic 158, 3) := dk_184 0 158 (dk_at dksJ20_digit_2_0 1 rfl rfl)
theorem dJ20_digit_2_4 : decode cJ20_digit_2 4 = .ok (.iload_n 0, 1) := dk_26 (dk_at dksJ20_digit_2_0 4 rfl rfl)
theorem dJ20_digit_2_5 : decode cJ20_digit_2 5 = .ok (.iload_n 1, 1) := dk_27 (dk_at dksJ20_digit_2_0 5 rfl rfl)
theorem dJ20_digit_2_6 : decode cJ20_digit_2 6 = .ok (.invokevirtual 252, 3) := dk_182 0 252 (dk_at dksJ20_digit_2_0 6 rfl rfl)
theorem dJ20_digit_2_9 : decode cJ20_digit_2 9 = .ok (.ireturn, 1) := dk_172 (dk_at dksJ20_digit_2_0 9 rfl rfl)
theorem q74 : (Jvm.Cond.initialized "java/lang/Character") ∈ lw_all := lw_g (lw_at lw_m1 28 rfl) rfl
theorem q1562 : (Jvm.Cond.static ({ cls := "java/lang/Character", name := "digit", desc := "(CI)I" } : Jvm.MethodName)) ∈ lw_all := lw_g (lw_at lw_m7 76 rfl) rfl
theorem q1563 : (Jvm.Cond.code ({ cls := "java/lang/Character", name := "digit", desc := "(CI)I" } : Jvm.MethodName) prog_15_method_79_code (2 : Nat) (Option.some Jvm.ClassFile.FieldType.int)) ∈ lw_all := lw_g (lw_at lw_m7 77 rfl) rfl
theorem q1564 : (Jvm.Cond.methodLink "java/lang/Character" (248 : Nat) ({ cls := "java/lang/Character", name := "digit", desc := "(II)I" } : Jvm.MethodName)) ∈ lw_all := lw_g (lw_at lw_m7 78 rfl) rfl
theorem q1565 : (Jvm.Cond.static ({ cls := "java/lang/Character", name := "digit", desc := "(II)I" } : Jvm.MethodName)) ∈ lw_all := lw_g (lw_at lw_m7 79 rfl) rfl
theorem q1566 : (Jvm.Cond.code ({ cls := "java/lang/Character", name := "digit", desc := "(II)I" } : Jvm.MethodName) prog_15_method_80_code (2 : Nat) (Option.some Jvm.ClassFile.FieldType.int)) ∈ lw_all := lw_g (lw_at lw_m7 80 rfl) rfl
theorem q1567 : (Jvm.Cond.methodLink "java/lang/Character" (158 : Nat) ({ cls := "java/lang/CharacterData", name := "of", desc := "(I)Ljava/lang/CharacterData;" } : Jvm.MethodName)) ∈ lw_all := lw_g (lw_at lw_m7 81 rfl) rfl
theorem q1572 : (Jvm.Cond.methodLink "java/lang/Character" (252 : Nat) ({ cls := "java/lang/CharacterData", name := "digit", desc := "(II)I" } : Jvm.MethodName)) ∈ lw_all := lw_g (lw_at lw_m7 86 rfl) rfl

/-! java/lang/CharacterData -/
set_option maxRecDepth 100000
def RJ21 : String := "java/lang/CharacterData"
abbrev cJ21_of : ByteArray := prog_16_method_30_code
def yJ21_of : MethodName := ⟨RJ21, "of", "(I)Ljava/lang/CharacterData;"⟩
def dkwJ21_of_3 : List UInt8 := [178, 0, 35, 167, 0, 12, 178, 0, 38, 167, 0, 6, 178, 0, 41, 176]
abbrev dktJ21_of_3 : List UInt8 := dkwJ21_of_3 ++ []
def dkwJ21_of_2 : List UInt8 := [178, 0, 19, 167, 0, 36, 178, 0, 24, 167, 0, 30, 178, 0, 29, 167, 0, 24, 178, 0, 32, 167, 0, 18]
abbrev dktJ21_of_2 : List UInt8 := dkwJ21_of_2 ++ dktJ21_of_3
def dkwJ21_of_1 : List UInt8 := [170, 0, 0, 0, 117, 0, 0, 0, 0, 0, 0, 0, 16, 0, 0, 0, 81, 0, 0, 0, 87, 0, 0, 0, 93, 0, 0, 0, 99, 0, 0, 0, 117, 0, 0, 0, 117, 0, 0, 0, 117, 0, 0, 0, 117, 0, 0, 0, 117, 0, 0, 0, 117, 0, 0, 0, 117, 0, 0, 0, 117, 0, 0, 0, 117, 0, 0, 0, 117, 0, 0, 0, 105, 0, 0, 0, 111, 0, 0, 0, 111]
abbrev dktJ21_of_1 : List UInt8 := dkwJ21_of_1 ++ dktJ21_of_2
def dkwJ21_of_0 : List UInt8 := [26, 16, 8, 124, 154, 0, 7, 178, 0, 13, 176, 26, 16, 16, 124]
abbrev dktJ21_of_0 : List UInt8 := dkwJ21_of_0 ++ dktJ21_of_1
theorem dksJ21_of_0 : cJ21_of.data.toList.drop 0 = dktJ21_of_0 := by decide +kernel
theorem dksJ21_of_1 : cJ21_of.data.toList.drop 15 = dktJ21_of_1 := dk_seg dksJ21_of_0 15 rfl rfl
theorem dksJ21_of_2 : cJ21_of.data.toList.drop 96 = dktJ21_of_2 := dk_seg dksJ21_of_1 81 rfl rfl
theorem dksJ21_of_3 : cJ21_of.data.toList.drop 120 = dktJ21_of_3 := dk_seg dksJ21_of_2 24 rfl rfl
theorem dJ21_of_0 : decode cJ21_of 0 = .ok (.iload_n 0, 1) := dk_26 (dk_at dksJ21_of_0 0 rfl rfl)
theorem dJ21_of_1 : decode cJ21_of 1 = .ok (.bipush 8, 2) := dk_16 8 (dk_at dksJ21_of_0 1 rfl rfl)
theorem dJ21_of_3 : decode cJ21_of 3 = .ok (.iushr, 1) := dk_124 (dk_at dksJ21_of_0 3 rfl rfl)
theorem dJ21_of_4 : decode cJ21_of 4 = .ok (.ifCond .ne 7, 3) := dk_154 0 7 (dk_at dksJ21_of_0 4 rfl rfl)
theorem dJ21_of_7 : decode cJ21_of 7 = .ok (.getstatic 13, 3) := dk_178 0 13 (dk_at dksJ21_of_0 7 rfl rfl)
theorem dJ21_of_10 : decode cJ21_of 10 = .ok (.areturn, 1) := dk_176 (dk_at dksJ21_of_0 10 rfl rfl)
theorem dJ21_of_11 : decode cJ21_of 11 = .ok (.iload_n 0, 1) := dk_26 (dk_at dksJ21_of_0 11 rfl rfl)
theorem dJ21_of_12 : decode cJ21_of 12 = .ok (.bipush 16, 2) := dk_16 16 (dk_at dksJ21_of_0 12 rfl rfl)
theorem dJ21_of_14 : decode cJ21_of 14 = .ok (.iushr, 1) := dk_124 (dk_at dksJ21_of_0 14 rfl rfl)
theorem dJ21_of_15 : decode cJ21_of 15 = .ok (.tableswitch 117 0 16 #[81, 87, 93, 99, 117, 117, 117, 117, 117, 117, 117, 117, 117, 117, 105, 111, 111], 81) := by decide +kernel
theorem dJ21_of_96 : decode cJ21_of 96 = .ok (.getstatic 19, 3) := dk_178 0 19 (dk_at dksJ21_of_2 0 rfl rfl)
theorem dJ21_of_99 : decode cJ21_of 99 = .ok (.goto 36, 3) := dk_167 0 36 (dk_at dksJ21_of_2 3 rfl rfl)
theorem dJ21_of_102 : decode cJ21_of 102 = .ok (.getstatic 24, 3) := dk_178 0 24 (dk_at dksJ21_of_2 6 rfl rfl)
theorem dJ21_of_105 : decode cJ21_of 105 = .ok (.goto 30, 3) := dk_167 0 30 (dk_at dksJ21_of_2 9 rfl rfl)
theorem dJ21_of_108 : decode cJ21_of 108 = .ok (.getstatic 29, 3) := dk_178 0 29 (dk_at dksJ21_of_2 12 rfl rfl)
theorem dJ21_of_111 : decode cJ21_of 111 = .ok (.goto 24, 3) := dk_167 0 24 (dk_at dksJ21_of_2 15 rfl rfl)
theorem dJ21_of_114 : decode cJ21_of 114 = .ok (.getstatic 32, 3) := dk_178 0 32 (dk_at dksJ21_of_2 18 rfl rfl)
theorem dJ21_of_117 : decode cJ21_of 117 = .ok (.goto 18, 3) := dk_167 0 18 (dk_at dksJ21_of_2 21 rfl rfl)
theorem dJ21_of_120 : decode cJ21_of 120 = .ok (.getstatic 35, 3) := dk_178 0 35 (dk_at dksJ21_of_3 0 rfl rfl)
theorem dJ21_of_123 : decode cJ21_of 123 = .ok (.goto 12, 3) := dk_167 0 12 (dk_at dksJ21_of_3 3 rfl rfl)
theorem dJ21_of_126 : decode cJ21_of 126 = .ok (.getstatic 38, 3) := dk_178 0 38 (dk_at dksJ21_of_3 6 rfl rfl)
theorem dJ21_of_129 : decode cJ21_of 129 = .ok (.goto 6, 3) := dk_167 0 6 (dk_at dksJ21_of_3 9 rfl rfl)
theorem dJ21_of_132 : decode cJ21_of 132 = .ok (.getstatic 41, 3) := dk_178 0 41 (dk_at dksJ21_of_3 12 rfl rfl)
theorem dJ21_of_135 : decode cJ21_of 135 = .ok (.areturn, 1) := dk_176 (dk_at dksJ21_of_3 15 rfl rfl)
theorem q75 : (Jvm.Cond.initialized "java/lang/CharacterData") ∈ lw_all := lw_g (lw_at lw_m1 29 rfl) rfl
theorem q1568 : (Jvm.Cond.static ({ cls := "java/lang/CharacterData", name := "of", desc := "(I)Ljava/lang/CharacterData;" } : Jvm.MethodName)) ∈ lw_all := lw_g (lw_at lw_m7 82 rfl) rfl
theorem q1569 : (Jvm.Cond.code ({ cls := "java/lang/CharacterData", name := "of", desc := "(I)Ljava/lang/CharacterData;" } : Jvm.MethodName) prog_16_method_30_code (1 : Nat) (Option.some (Jvm.ClassFile.FieldType.object "java/lang/CharacterData"))) ∈ lw_all := lw_g (lw_at lw_m7 83 rfl) rfl
theorem q1570 : (Jvm.Cond.fieldLink "java/lang/CharacterData" (13 : Nat) "java/lang/CharacterDataLatin1" "instance" "Ljava/lang/CharacterDataLatin1;") ∈ lw_all := lw_g (lw_at lw_m7 84 rfl) rfl
theorem q1573 : (Jvm.Cond.declares ({ cls := "java/lang/CharacterData", name := "digit", desc := "(II)I" } : Jvm.MethodName)) ∈ lw_tbl := lw_at lw_m7 87 rfl
theorem q1574 : (Jvm.Cond.sameMethod "java/lang/CharacterData" "java/lang/CharacterData" "digit" "(II)I") ∈ lw_all := lw_g (lw_at lw_m7 88 rfl) rfl

/-! java/lang/CharacterDataLatin1 -/
set_option maxRecDepth 100000
def RJ22 : String := "java/lang/CharacterDataLatin1"
abbrev cJ22_digit : ByteArray := prog_17_method_24_code
def yJ22_digit : MethodName := ⟨RJ22, "digit", "(II)I"⟩
def dkwJ22_digit_1 : List UInt8 := [163, 0, 7, 29, 167, 0, 4, 2, 172]
abbrev dktJ22_digit_1 : List UInt8 := dkwJ22_digit_1 ++ []
def dkwJ22_digit_0 : List UInt8 := [178, 0, 25, 27, 51, 62, 29, 155, 0, 23, 29, 28, 162, 0, 18, 28, 5, 161, 0, 13, 28, 16, 36]
abbrev dktJ22_digit_0 : List UInt8 := dkwJ22_digit_0 ++ dktJ22_digit_1
theorem dksJ22_digit_0 : cJ22_digit.data.toList.drop 0 = dktJ22_digit_0 := by decide +kernel
theorem dksJ22_digit_1 : cJ22_digit.data.toList.drop 23 = dktJ22_digit_1 := dk_seg dksJ22_digit_0 23 rfl rfl
theorem dJ22_digit_0 : decode cJ22_digit 0 = .ok (.getstatic 25, 3) := dk_178 0 25 (dk_at dksJ22_digit_0 0 rfl rfl)
theorem dJ22_digit_3 : decode cJ22_digit 3 = .ok (.iload_n 1, 1) := dk_27 (dk_at dksJ22_digit_0 3 rfl rfl)
theorem dJ22_digit_4 : decode cJ22_digit 4 = .ok (.baload, 1) := dk_51 (dk_at dksJ22_digit_0 4 rfl rfl)
theorem dJ22_digit_5 : decode cJ22_digit 5 = .ok (.istore_n 3, 1) := dk_62 (dk_at dksJ22_digit_0 5 rfl rfl)
theorem dJ22_digit_6 : decode cJ22_digit 6 = .ok (.iload_n 3, 1) := dk_29 (dk_at dksJ22_digit_0 6 rfl rfl)
theorem dJ22_digit_7 : decode cJ22_digit 7 = .ok (.ifCond .lt 23, 3) := dk_155 0 23 (dk_at dksJ22_digit_0 7 rfl rfl)
theorem dJ22_digit_10 : decode cJ22_digit 10 = .ok (.iload_n 3, 1) := dk_29 (dk_at dksJ22_digit_0 10 rfl rfl)
theorem dJ22_digit_11 : decode cJ22_digit 11 = .ok (.iload_n 2, 1) := dk_28 (dk_at dksJ22_digit_0 11 rfl rfl)
theorem dJ22_digit_12 : decode cJ22_digit 12 = .ok (.if_icmp .ge 18, 3) := dk_162 0 18 (dk_at dksJ22_digit_0 12 rfl rfl)
theorem dJ22_digit_15 : decode cJ22_digit 15 = .ok (.iload_n 2, 1) := dk_28 (dk_at dksJ22_digit_0 15 rfl rfl)
theorem dJ22_digit_16 : decode cJ22_digit 16 = .ok (.iconst 2, 1) := dk_5 (dk_at dksJ22_digit_0 16 rfl rfl)
theorem dJ22_digit_17 : decode cJ22_digit 17 = .ok (.if_icmp .lt 13, 3) := dk_161 0 13 (dk_at dksJ22_digit_0 17 rfl rfl)
theorem dJ22_digit_20 : decode cJ22_digit 20 = .ok (.iload_n 2, 1) := dk_28 (dk_at dksJ22_digit_0 20 rfl rfl)
theorem dJ22_digit_21 : decode cJ22_digit 21 = .ok (.bipush 36, 2) := dk_16 36 (dk_at dksJ22_digit_0 21 rfl rfl)
theorem dJ22_digit_23 : decode cJ22_digit 23 = .ok (.if_icmp .gt 7, 3) := dk_163 0 7 (dk_at dksJ22_digit_1 0 rfl rfl)
theorem dJ22_digit_26 : decode cJ22_digit 26 = .ok (.iload_n 3, 1) := dk_29 (dk_at dksJ22_digit_1 3 rfl rfl)
theorem dJ22_digit_27 : decode cJ22_digit 27 = .ok (.goto 4, 3) := dk_167 0 4 (dk_at dksJ22_digit_1 4 rfl rfl)
theorem dJ22_digit_30 : decode cJ22_digit 30 = .ok (.iconst (-1), 1) := dk_2 (dk_at dksJ22_digit_1 7 rfl rfl)
theorem dJ22_digit_31 : decode cJ22_digit 31 = .ok (.ireturn, 1) := dk_172 (dk_at dksJ22_digit_1 8 rfl rfl)
theorem q76 : (Jvm.Cond.initialized "java/lang/CharacterDataLatin1") ∈ lw_all := lw_g (lw_at lw_m1 30 rfl) rfl
theorem q988 : (Jvm.Cond.selects "java/lang/CharacterDataLatin1" ({ cls := "java/lang/Object", name := "getClass", desc := "()Ljava/lang/Class;" } : Jvm.MethodName) ({ cls := "java/lang/Object", name := "getClass", desc := "()Ljava/lang/Class;" } : Jvm.MethodName)) ∈ lw_all := lw_g (lw_at lw_m4 222 rfl) rfl
theorem q1314 : (Jvm.Cond.selects "java/lang/CharacterDataLatin1" ({ cls := "java/lang/Object", name := "equals", desc := "(Ljava/lang/Object;)Z" } : Jvm.MethodName) ({ cls := "java/lang/Object", name := "equals", desc := "(Ljava/lang/Object;)Z" } : Jvm.MethodName)) ∈ lw_all := lw_g (lw_at lw_m6 68 rfl) rfl
theorem q1571 : (Jvm.Cond.laysStatic "java/lang/CharacterDataLatin1" "instance" "Ljava/lang/CharacterDataLatin1;") ∈ lw_tbl := lw_at lw_m7 85 rfl
theorem q1575 : (Jvm.Cond.selects "java/lang/CharacterDataLatin1" ({ cls := "java/lang/CharacterData", name := "digit", desc := "(II)I" } : Jvm.MethodName) ({ cls := "java/lang/CharacterDataLatin1", name := "digit", desc := "(II)I" } : Jvm.MethodName)) ∈ lw_all := lw_g (lw_at lw_m7 89 rfl) rfl
theorem q1576 : (Jvm.Cond.instanceMethod ({ cls := "java/lang/CharacterDataLatin1", name := "digit", desc := "(II)I" } : Jvm.MethodName)) ∈ lw_all := lw_g (lw_at lw_m7 90 rfl) rfl
theorem q1577 : (Jvm.Cond.code ({ cls := "java/lang/CharacterDataLatin1", name := "digit", desc := "(II)I" } : Jvm.MethodName) prog_17_method_24_code (4 : Nat) (Option.some Jvm.ClassFile.FieldType.int)) ∈ lw_all := lw_g (lw_at lw_m7 91 rfl) rfl
theorem q1578 : (Jvm.Cond.fieldLink "java/lang/CharacterDataLatin1" (25 : Nat) "java/lang/CharacterDataLatin1" "DIGITS" "[B") ∈ lw_all := lw_g (lw_at lw_m7 92 rfl) rfl
theorem q1579 : (Jvm.Cond.laysStatic "java/lang/CharacterDataLatin1" "DIGITS" "[B") ∈ lw_tbl := lw_at lw_m7 93 rfl
theorem q2381 : (Jvm.Cond.castable "java/lang/CharacterDataLatin1" "java/lang/Object") ∈ lw_tbl := lw_at lw_m10 175 rfl

/-! java/util/AbstractSet -/
set_option maxRecDepth 100000
def RJ23 : String := "java/util/AbstractSet"
abbrev cJ23_init : ByteArray := prog_43_method_1_code
def yJ23_init : MethodName := ⟨RJ23, "<init>", "()V"⟩
theorem dJ23_init_0 : decode cJ23_init 0 = .ok (.aload_n 0, 1) := by decide +kernel
theorem dJ23_init_1 : decode cJ23_init 1 = .ok (.invokespecial 1, 3) := by decide +kernel
theorem dJ23_init_4 : decode cJ23_init 4 = .ok (.return_, 1) := by decide +kernel
theorem q77 : (Jvm.Cond.initialized "java/util/AbstractSet") ∈ lw_all := lw_g (lw_at lw_m1 31 rfl) rfl
theorem q419 : (Jvm.Cond.instanceMethod ({ cls := "java/util/AbstractSet", name := "<init>", desc := "()V" } : Jvm.MethodName)) ∈ lw_all := lw_g (lw_at lw_m2 133 rfl) rfl
theorem q420 : (Jvm.Cond.code ({ cls := "java/util/AbstractSet", name := "<init>", desc := "()V" } : Jvm.MethodName) prog_43_method_1_code (1 : Nat) (Option.none : Option Jvm.ClassFile.FieldType)) ∈ lw_all := lw_g (lw_at lw_m2 134 rfl) rfl
theorem q421 : (Jvm.Cond.methodLink "java/util/AbstractSet" (1 : Nat) ({ cls := "java/util/AbstractCollection", name := "<init>", desc := "()V" } : Jvm.MethodName)) ∈ lw_all := lw_g (lw_at lw_m2 135 rfl) rfl
theorem q1367 : (Jvm.Cond.sameMethod "java/util/AbstractSet" "java/util/AbstractCollection" "addAll" "(Ljava/util/Collection;)Z") ∈ lw_all := lw_g (lw_at lw_m6 121 rfl) rfl
theorem q1369 : (Jvm.Cond.superclass "java/util/AbstractSet" "java/util/AbstractCollection") ∈ lw_all := lw_g (lw_at lw_m6 123 rfl) rfl

/-! java/util/TreeSet -/
set_option maxRecDepth 100000
def RJ24 : String := "java/util/TreeSet"
def TJ24 : u_T := fun k => match k with
  | _ => ("java/util/TreeSet", "m", "Ljava/util/NavigableMap;", false)
def tyJ24 : Nat → FieldType := fun k => match k with
  | _ => .object "java/util/NavigableMap"
abbrev wsJ240 : List Cond := u_ws RJ24 TJ24 1
theorem nmJ24 : ∀ a, a < 1 → ∀ b, b < 1 → a ≠ b → (TJ24 a).2.1 ≠ (TJ24 b).2.1 := by decide +kernel
theorem tyJ24_ok : ∀ k, k < 1 → parseFieldDescriptor (TJ24 k).2.2.1 = some (tyJ24 k) := by decide +kernel
abbrev cJ24_init : ByteArray := prog_69_method_2_code
def yJ24_init : MethodName := ⟨RJ24, "<init>", "()V"⟩
def dkwJ24_init_0 : List UInt8 := [42, 187, 0, 13, 89, 183, 0, 15, 183, 0, 16, 177]
abbrev dktJ24_init_0 : List UInt8 := dkwJ24_init_0 ++ []
theorem dksJ24_init_0 : cJ24_init.data.toList.drop 0 = dktJ24_init_0 := by decide +kernel
theorem dJ24_init_0 : decode cJ24_init 0 = .ok (.aload_n 0, 1) := dk_42 (dk_at dksJ24_init_0 0 rfl rfl)
theorem dJ24_init_1 : decode cJ24_init 1 = .ok (.new 13, 3) := dk_187 0 13 (dk_at dksJ24_init_0 1 rfl rfl)
theorem dJ24_init_4 : decode cJ24_init 4 = .ok (.dup, 1) := dk_89 (dk_at dksJ24_init_0 4 rfl rfl)
theorem dJ24_init_5 : decode cJ24_init 5 = .ok (.invokespecial 15, 3) := dk_183 0 15 (dk_at dksJ24_init_0 5 rfl rfl)
theorem dJ24_init_8 : decode cJ24_init 8 = .ok (.invokespecial 16, 3) := dk_183 0 16 (dk_at dksJ24_init_0 8 rfl rfl)
theorem dJ24_init_11 : decode cJ24_init 11 = .ok (.return_, 1) := dk_177 (dk_at dksJ24_init_0 11 rfl rfl)
abbrev cJ24_init_2 : ByteArray := prog_69_method_1_code
def yJ24_init_2 : MethodName := ⟨RJ24, "<init>", "(Ljava/util/NavigableMap;)V"⟩
def dkwJ24_init_2_0 : List UInt8 := [42, 183, 0, 1, 42, 43, 181, 0, 7, 177]
abbrev dktJ24_init_2_0 : List UInt8 := dkwJ24_init_2_0 ++ []
theorem dksJ24_init_2_0 : cJ24_init_2.data.toList.drop 0 = dktJ24_init_2_0 := by decide +kernel
theorem dJ24_init_2_0 : decode cJ24_init_2 0 = .ok (.aload_n 0, 1) := dk_42 (dk_at dksJ24_init_2_0 0 rfl rfl)
theorem dJ24_init_2_1 : decode cJ24_init_2 1 = .ok (.invokespecial 1, 3) := dk_183 0 1 (dk_at dksJ24_init_2_0 1 rfl rfl)
theorem dJ24_init_2_4 : decode cJ24_init_2 4 = .ok (.aload_n 0, 1) := dk_42 (dk_at dksJ24_init_2_0 4 rfl rfl)
theorem dJ24_init_2_5 : decode cJ24_init_2 5 = .ok (.aload_n 1, 1) := dk_43 (dk_at dksJ24_init_2_0 5 rfl rfl)
theorem dJ24_init_2_6 : decode cJ24_init_2 6 = .ok (.putfield 7, 3) := dk_181 0 7 (dk_at dksJ24_init_2_0 6 rfl rfl)
theorem dJ24_init_2_9 : decode cJ24_init_2 9 = .ok (.return_, 1) := dk_177 (dk_at dksJ24_init_2_0 9 rfl rfl)
abbrev cJ24_add : ByteArray := prog_69_method_12_code
def yJ24_add : MethodName := ⟨RJ24, "add", "(Ljava/lang/Object;)Z"⟩
def dkwJ24_add_0 : List UInt8 := [42, 180, 0, 7, 43, 178, 0, 65, 185, 0, 69, 3, 0, 199, 0, 7, 4, 167, 0, 4, 3, 172]
abbrev dktJ24_add_0 : List UInt8 := dkwJ24_add_0 ++ []
theorem dksJ24_add_0 : cJ24_add.data.toList.drop 0 = dktJ24_add_0 := by decide +kernel
theorem dJ24_add_0 : decode cJ24_add 0 = .ok (.aload_n 0, 1) := dk_42 (dk_at dksJ24_add_0 0 rfl rfl)
theorem dJ24_add_1 : decode cJ24_add 1 = .ok (.getfield 7, 3) := dk_180 0 7 (dk_at dksJ24_add_0 1 rfl rfl)
theorem dJ24_add_4 : decode cJ24_add 4 = .ok (.aload_n 1, 1) := dk_43 (dk_at dksJ24_add_0 4 rfl rfl)
theorem dJ24_add_5 : decode cJ24_add 5 = .ok (.getstatic 65, 3) := dk_178 0 65 (dk_at dksJ24_add_0 5 rfl rfl)
theorem dJ24_add_8 : decode cJ24_add 8 = .ok (.invokeinterface 69 3, 5) := by decide +kernel
theorem dJ24_add_13 : decode cJ24_add 13 = .ok (.ifnonnull 7, 3) := dk_199 0 7 (dk_at dksJ24_add_0 13 rfl rfl)
theorem dJ24_add_16 : decode cJ24_add 16 = .ok (.iconst 1, 1) := dk_4 (dk_at dksJ24_add_0 16 rfl rfl)
theorem dJ24_add_17 : decode cJ24_add 17 = .ok (.goto 4, 3) := dk_167 0 4 (dk_at dksJ24_add_0 17 rfl rfl)
theorem dJ24_add_20 : decode cJ24_add 20 = .ok (.iconst 0, 1) := dk_3 (dk_at dksJ24_add_0 20 rfl rfl)
theorem dJ24_add_21 : decode cJ24_add 21 = .ok (.ireturn, 1) := dk_172 (dk_at dksJ24_add_0 21 rfl rfl)
abbrev cJ24_size : ByteArray := prog_69_method_9_code
def yJ24_size : MethodName := ⟨RJ24, "size", "()I"⟩
def dkwJ24_size_0 : List UInt8 := [42, 180, 0, 7, 185, 0, 53, 1, 0, 172]
abbrev dktJ24_size_0 : List UInt8 := dkwJ24_size_0 ++ []
theorem dksJ24_size_0 : cJ24_size.data.toList.drop 0 = dktJ24_size_0 := by decide +kernel
theorem dJ24_size_0 : decode cJ24_size 0 = .ok (.aload_n 0, 1) := dk_42 (dk_at dksJ24_size_0 0 rfl rfl)
theorem dJ24_size_1 : decode cJ24_size 1 = .ok (.getfield 7, 3) := dk_180 0 7 (dk_at dksJ24_size_0 1 rfl rfl)
theorem dJ24_size_4 : decode cJ24_size 4 = .ok (.invokeinterface 53 1, 5) := by decide +kernel
theorem dJ24_size_9 : decode cJ24_size 9 = .ok (.ireturn, 1) := dk_172 (dk_at dksJ24_size_0 9 rfl rfl)
abbrev cJ24_contains : ByteArray := prog_69_method_11_code
def yJ24_contains : MethodName := ⟨RJ24, "contains", "(Ljava/lang/Object;)Z"⟩
def dkwJ24_contains_0 : List UInt8 := [42, 180, 0, 7, 43, 185, 0, 61, 2, 0, 172]
abbrev dktJ24_contains_0 : List UInt8 := dkwJ24_contains_0 ++ []
theorem dksJ24_contains_0 : cJ24_contains.data.toList.drop 0 = dktJ24_contains_0 := by decide +kernel
theorem dJ24_contains_0 : decode cJ24_contains 0 = .ok (.aload_n 0, 1) := dk_42 (dk_at dksJ24_contains_0 0 rfl rfl)
theorem dJ24_contains_1 : decode cJ24_contains 1 = .ok (.getfield 7, 3) := dk_180 0 7 (dk_at dksJ24_contains_0 1 rfl rfl)
theorem dJ24_contains_4 : decode cJ24_contains 4 = .ok (.aload_n 1, 1) := dk_43 (dk_at dksJ24_contains_0 4 rfl rfl)
theorem dJ24_contains_5 : decode cJ24_contains 5 = .ok (.invokeinterface 61 2, 5) := by decide +kernel
theorem dJ24_contains_10 : decode cJ24_contains 10 = .ok (.ireturn, 1) := dk_172 (dk_at dksJ24_contains_0 10 rfl rfl)
abbrev cJ24_iterator : ByteArray := prog_69_method_6_code
def yJ24_iterator : MethodName := ⟨RJ24, "iterator", "()Ljava/util/Iterator;"⟩
def dkwJ24_iterator_0 : List UInt8 := [42, 180, 0, 7, 185, 0, 34, 1, 0, 185, 0, 40, 1, 0, 176]
abbrev dktJ24_iterator_0 : List UInt8 := dkwJ24_iterator_0 ++ []
theorem dksJ24_iterator_0 : cJ24_iterator.data.toList.drop 0 = dktJ24_iterator_0 := by decide +kernel
theorem dJ24_iterator_0 : decode cJ24_iterator 0 = .ok (.aload_n 0, 1) := dk_42 (dk_at dksJ24_iterator_0 0 rfl rfl)
theorem dJ24_iterator_1 : decode cJ24_iterator 1 = .ok (.getfield 7, 3) := dk_180 0 7 (dk_at dksJ24_iterator_0 1 rfl rfl)
theorem dJ24_iterator_4 : decode cJ24_iterator 4 = .ok (.invokeinterface 34 1, 5) := by decide +kernel
theorem dJ24_iterator_9 : decode cJ24_iterator 9 = .ok (.invokeinterface 40 1, 5) := by decide +kernel
theorem dJ24_iterator_14 : decode cJ24_iterator 14 = .ok (.areturn, 1) := dk_176 (dk_at dksJ24_iterator_0 14 rfl rfl)
abbrev cJ24_addAll : ByteArray := prog_69_method_15_code
def yJ24_addAll : MethodName := ⟨RJ24, "addAll", "(Ljava/util/Collection;)Z"⟩
def dkwJ24_addAll_3 : List UInt8 := [178, 0, 65, 182, 0, 90, 4, 172, 42, 43, 183, 0, 94, 172]
abbrev dktJ24_addAll_3 : List UInt8 := dkwJ24_addAll_3 ++ []
def dkwJ24_addAll_2 : List UInt8 := [192, 0, 28, 78, 45, 185, 0, 27, 1, 0, 44, 182, 0, 83, 184, 0, 84, 153, 0, 13, 44, 45]
abbrev dktJ24_addAll_2 : List UInt8 := dkwJ24_addAll_2 ++ dktJ24_addAll_3
def dkwJ24_addAll_1 : List UInt8 := [193, 0, 28, 153, 0, 51, 42, 180, 0, 7, 78, 45, 193, 0, 13, 153, 0, 39, 45, 192, 0, 13, 77, 43]
abbrev dktJ24_addAll_1 : List UInt8 := dkwJ24_addAll_1 ++ dktJ24_addAll_2
def dkwJ24_addAll_0 : List UInt8 := [42, 180, 0, 7, 185, 0, 53, 1, 0, 154, 0, 67, 43, 185, 0, 80, 1, 0, 158, 0, 58, 43]
abbrev dktJ24_addAll_0 : List UInt8 := dkwJ24_addAll_0 ++ dktJ24_addAll_1
theorem dksJ24_addAll_0 : cJ24_addAll.data.toList.drop 0 = dktJ24_addAll_0 := by decide +kernel
theorem dksJ24_addAll_1 : cJ24_addAll.data.toList.drop 22 = dktJ24_addAll_1 := dk_seg dksJ24_addAll_0 22 rfl rfl
theorem dksJ24_addAll_2 : cJ24_addAll.data.toList.drop 46 = dktJ24_addAll_2 := dk_seg dksJ24_addAll_1 24 rfl rfl
theorem dksJ24_addAll_3 : cJ24_addAll.data.toList.drop 68 = dktJ24_addAll_3 := dk_seg dksJ24_addAll_2 22 rfl rfl
theorem dJ24_addAll_0 : decode cJ24_addAll 0 = .ok (.aload_n 0, 1) := dk_42 (dk_at dksJ24_addAll_0 0 rfl rfl)
theorem dJ24_addAll_1 : decode cJ24_addAll 1 = .ok (.getfield 7, 3) := dk_180 0 7 (dk_at dksJ24_addAll_0 1 rfl rfl)
theorem dJ24_addAll_4 : decode cJ24_addAll 4 = .ok (.invokeinterface 53 1, 5) := by decide +kernel
theorem dJ24_addAll_9 : decode cJ24_addAll 9 = .ok (.ifCond .ne 67, 3) := dk_154 0 67 (dk_at dksJ24_addAll_0 9 rfl rfl)
theorem dJ24_addAll_12 : decode cJ24_addAll 12 = .ok (.aload_n 1, 1) := dk_43 (dk_at dksJ24_addAll_0 12 rfl rfl)
theorem dJ24_addAll_13 : decode cJ24_addAll 13 = .ok (.invokeinterface 80 1, 5) := by decide +kernel
theorem dJ24_addAll_18 : decode cJ24_addAll 18 = .ok (.ifCond .le 58, 3) := dk_158 0 58 (dk_at dksJ24_addAll_0 18 rfl rfl)
theorem dJ24_addAll_21 : decode cJ24_addAll 21 = .ok (.aload_n 1, 1) := dk_43 (dk_at dksJ24_addAll_0 21 rfl rfl)
theorem dJ24_addAll_22 : decode cJ24_addAll 22 = .ok (.instanceof 28, 3) := dk_193 0 28 (dk_at dksJ24_addAll_1 0 rfl rfl)
theorem dJ24_addAll_25 : decode cJ24_addAll 25 = .ok (.ifCond .eq 51, 3) := dk_153 0 51 (dk_at dksJ24_addAll_1 3 rfl rfl)
theorem dJ24_addAll_28 : decode cJ24_addAll 28 = .ok (.aload_n 0, 1) := dk_42 (dk_at dksJ24_addAll_1 6 rfl rfl)
theorem dJ24_addAll_29 : decode cJ24_addAll 29 = .ok (.getfield 7, 3) := dk_180 0 7 (dk_at dksJ24_addAll_1 7 rfl rfl)
theorem dJ24_addAll_32 : decode cJ24_addAll 32 = .ok (.astore_n 3, 1) := dk_78 (dk_at dksJ24_addAll_1 10 rfl rfl)
theorem dJ24_addAll_33 : decode cJ24_addAll 33 = .ok (.aload_n 3, 1) := dk_45 (dk_at dksJ24_addAll_1 11 rfl rfl)
theorem dJ24_addAll_34 : decode cJ24_addAll 34 = .ok (.instanceof 13, 3) := dk_193 0 13 (dk_at dksJ24_addAll_1 12 rfl rfl)
theorem dJ24_addAll_37 : decode cJ24_addAll 37 = .ok (.ifCond .eq 39, 3) := dk_153 0 39 (dk_at dksJ24_addAll_1 15 rfl rfl)
theorem dJ24_addAll_40 : decode cJ24_addAll 40 = .ok (.aload_n 3, 1) := dk_45 (dk_at dksJ24_addAll_1 18 rfl rfl)
theorem dJ24_addAll_41 : decode cJ24_addAll 41 = .ok (.checkcast 13, 3) := dk_192 0 13 (dk_at dksJ24_addAll_1 19 rfl rfl)
theorem dJ24_addAll_44 : decode cJ24_addAll 44 = .ok (.astore_n 2, 1) := dk_77 (dk_at dksJ24_addAll_1 22 rfl rfl)
theorem dJ24_addAll_45 : decode cJ24_addAll 45 = .ok (.aload_n 1, 1) := dk_43 (dk_at dksJ24_addAll_1 23 rfl rfl)
theorem dJ24_addAll_46 : decode cJ24_addAll 46 = .ok (.checkcast 28, 3) := dk_192 0 28 (dk_at dksJ24_addAll_2 0 rfl rfl)
theorem dJ24_addAll_49 : decode cJ24_addAll 49 = .ok (.astore_n 3, 1) := dk_78 (dk_at dksJ24_addAll_2 3 rfl rfl)
theorem dJ24_addAll_50 : decode cJ24_addAll 50 = .ok (.aload_n 3, 1) := dk_45 (dk_at dksJ24_addAll_2 4 rfl rfl)
theorem dJ24_addAll_51 : decode cJ24_addAll 51 = .ok (.invokeinterface 27 1, 5) := by decide +kernel
theorem dJ24_addAll_56 : decode cJ24_addAll 56 = .ok (.aload_n 2, 1) := dk_44 (dk_at dksJ24_addAll_2 10 rfl rfl)
theorem dJ24_addAll_57 : decode cJ24_addAll 57 = .ok (.invokevirtual 83, 3) := dk_182 0 83 (dk_at dksJ24_addAll_2 11 rfl rfl)
theorem dJ24_addAll_60 : decode cJ24_addAll 60 = .ok (.invokestatic 84, 3) := dk_184 0 84 (dk_at dksJ24_addAll_2 14 rfl rfl)
theorem dJ24_addAll_63 : decode cJ24_addAll 63 = .ok (.ifCond .eq 13, 3) := dk_153 0 13 (dk_at dksJ24_addAll_2 17 rfl rfl)
theorem dJ24_addAll_66 : decode cJ24_addAll 66 = .ok (.aload_n 2, 1) := dk_44 (dk_at dksJ24_addAll_2 20 rfl rfl)
theorem dJ24_addAll_67 : decode cJ24_addAll 67 = .ok (.aload_n 3, 1) := dk_45 (dk_at dksJ24_addAll_2 21 rfl rfl)
theorem dJ24_addAll_68 : decode cJ24_addAll 68 = .ok (.getstatic 65, 3) := dk_178 0 65 (dk_at dksJ24_addAll_3 0 rfl rfl)
theorem dJ24_addAll_71 : decode cJ24_addAll 71 = .ok (.invokevirtual 90, 3) := dk_182 0 90 (dk_at dksJ24_addAll_3 3 rfl rfl)
theorem dJ24_addAll_74 : decode cJ24_addAll 74 = .ok (.iconst 1, 1) := dk_4 (dk_at dksJ24_addAll_3 6 rfl rfl)
theorem dJ24_addAll_75 : decode cJ24_addAll 75 = .ok (.ireturn, 1) := dk_172 (dk_at dksJ24_addAll_3 7 rfl rfl)
theorem dJ24_addAll_76 : decode cJ24_addAll 76 = .ok (.aload_n 0, 1) := dk_42 (dk_at dksJ24_addAll_3 8 rfl rfl)
theorem dJ24_addAll_77 : decode cJ24_addAll 77 = .ok (.aload_n 1, 1) := dk_43 (dk_at dksJ24_addAll_3 9 rfl rfl)
theorem dJ24_addAll_78 : decode cJ24_addAll 78 = .ok (.invokespecial 94, 3) := dk_183 0 94 (dk_at dksJ24_addAll_3 10 rfl rfl)
theorem dJ24_addAll_81 : decode cJ24_addAll 81 = .ok (.ireturn, 1) := dk_172 (dk_at dksJ24_addAll_3 13 rfl rfl)
theorem q78 : (Jvm.Cond.initialized "java/util/TreeSet") ∈ lw_all := lw_g (lw_at lw_m1 32 rfl) rfl
theorem q377 : (Jvm.Cond.instantiable "java/util/TreeSet" (1 : Nat)) ∈ lw_all := lw_g (lw_at lw_m2 91 rfl) rfl
theorem q379 : (Jvm.Cond.instanceMethod ({ cls := "java/util/TreeSet", name := "<init>", desc := "()V" } : Jvm.MethodName)) ∈ lw_all := lw_g (lw_at lw_m2 93 rfl) rfl
theorem q380 : (Jvm.Cond.code ({ cls := "java/util/TreeSet", name := "<init>", desc := "()V" } : Jvm.MethodName) prog_69_method_2_code (1 : Nat) (Option.none : Option Jvm.ClassFile.FieldType)) ∈ lw_all := lw_g (lw_at lw_m2 94 rfl) rfl
theorem q381 : (Jvm.Cond.classLink "java/util/TreeSet" (13 : Nat) "java/util/TreeMap") ∈ lw_all := lw_g (lw_at lw_m2 95 rfl) rfl
theorem q383 : (Jvm.Cond.methodLink "java/util/TreeSet" (15 : Nat) ({ cls := "java/util/TreeMap", name := "<init>", desc := "()V" } : Jvm.MethodName)) ∈ lw_all := lw_g (lw_at lw_m2 97 rfl) rfl
theorem q415 : (Jvm.Cond.methodLink "java/util/TreeSet" (16 : Nat) ({ cls := "java/util/TreeSet", name := "<init>", desc := "(Ljava/util/NavigableMap;)V" } : Jvm.MethodName)) ∈ lw_all := lw_g (lw_at lw_m2 129 rfl) rfl
theorem q416 : (Jvm.Cond.instanceMethod ({ cls := "java/util/TreeSet", name := "<init>", desc := "(Ljava/util/NavigableMap;)V" } : Jvm.MethodName)) ∈ lw_all := lw_g (lw_at lw_m2 130 rfl) rfl
theorem q417 : (Jvm.Cond.code ({ cls := "java/util/TreeSet", name := "<init>", desc := "(Ljava/util/NavigableMap;)V" } : Jvm.MethodName) prog_69_method_1_code (2 : Nat) (Option.none : Option Jvm.ClassFile.FieldType)) ∈ lw_all := lw_g (lw_at lw_m2 131 rfl) rfl
theorem q418 : (Jvm.Cond.methodLink "java/util/TreeSet" (1 : Nat) ({ cls := "java/util/AbstractSet", name := "<init>", desc := "()V" } : Jvm.MethodName)) ∈ lw_all := lw_g (lw_at lw_m2 132 rfl) rfl
theorem q422 : (Jvm.Cond.fieldLink "java/util/TreeSet" (7 : Nat) "java/util/TreeSet" "m" "Ljava/util/NavigableMap;") ∈ lw_all := lw_g (lw_at lw_m2 136 rfl) rfl
theorem q423 : (Jvm.Cond.lays "java/util/TreeSet" "java/util/TreeSet" "m" "Ljava/util/NavigableMap;") ∈ lw_all := lw_g (lw_at lw_m2 137 rfl) rfl
theorem q424 : (Jvm.Cond.soleField "java/util/TreeSet" "m") ∈ lw_all := lw_g (lw_at lw_m2 138 rfl) rfl
theorem q425 : (Jvm.Cond.superclass "java/util/TreeSet" "java/util/AbstractSet") ∈ lw_all := lw_g (lw_at lw_m2 139 rfl) rfl
theorem q678 : (Jvm.Cond.instanceMethod ({ cls := "java/util/TreeSet", name := "add", desc := "(Ljava/lang/Object;)Z" } : Jvm.MethodName)) ∈ lw_all := lw_g (lw_at lw_m3 152 rfl) rfl
theorem q679 : (Jvm.Cond.selects "java/util/TreeSet" ({ cls := "java/util/TreeSet", name := "add", desc := "(Ljava/lang/Object;)Z" } : Jvm.MethodName) ({ cls := "java/util/TreeSet", name := "add", desc := "(Ljava/lang/Object;)Z" } : Jvm.MethodName)) ∈ lw_all := lw_g (lw_at lw_m3 153 rfl) rfl
theorem q680 : (Jvm.Cond.code ({ cls := "java/util/TreeSet", name := "add", desc := "(Ljava/lang/Object;)Z" } : Jvm.MethodName) prog_69_method_12_code (2 : Nat) (Option.some Jvm.ClassFile.FieldType.boolean)) ∈ lw_all := lw_g (lw_at lw_m3 154 rfl) rfl
theorem q681 : (Jvm.Cond.fieldLink "java/util/TreeSet" (65 : Nat) "java/util/TreeSet" "PRESENT" "Ljava/lang/Object;") ∈ lw_all := lw_g (lw_at lw_m3 155 rfl) rfl
theorem q682 : (Jvm.Cond.laysStatic "java/util/TreeSet" "PRESENT" "Ljava/lang/Object;") ∈ lw_tbl := lw_at lw_m3 156 rfl
theorem q683 : (Jvm.Cond.interfaceEntry "java/util/TreeSet" (69 : Nat)) ∈ lw_tbl := lw_at lw_m3 157 rfl
theorem q1002 : (Jvm.Cond.selects "java/util/TreeSet" ({ cls := "java/lang/Object", name := "getClass", desc := "()Ljava/lang/Class;" } : Jvm.MethodName) ({ cls := "java/lang/Object", name := "getClass", desc := "()Ljava/lang/Class;" } : Jvm.MethodName)) ∈ lw_all := lw_g (lw_at lw_m4 236 rfl) rfl
theorem q1129 : (Jvm.Cond.instanceMethod ({ cls := "java/util/TreeSet", name := "size", desc := "()I" } : Jvm.MethodName)) ∈ lw_all := lw_g (lw_at lw_m5 123 rfl) rfl
theorem q1130 : (Jvm.Cond.selects "java/util/TreeSet" ({ cls := "java/util/TreeSet", name := "size", desc := "()I" } : Jvm.MethodName) ({ cls := "java/util/TreeSet", name := "size", desc := "()I" } : Jvm.MethodName)) ∈ lw_all := lw_g (lw_at lw_m5 124 rfl) rfl
theorem q1131 : (Jvm.Cond.code ({ cls := "java/util/TreeSet", name := "size", desc := "()I" } : Jvm.MethodName) prog_69_method_9_code (1 : Nat) (Option.some Jvm.ClassFile.FieldType.int)) ∈ lw_all := lw_g (lw_at lw_m5 125 rfl) rfl
theorem q1132 : (Jvm.Cond.interfaceEntry "java/util/TreeSet" (53 : Nat)) ∈ lw_tbl := lw_at lw_m5 126 rfl
theorem q1142 : (Jvm.Cond.instanceMethod ({ cls := "java/util/TreeSet", name := "contains", desc := "(Ljava/lang/Object;)Z" } : Jvm.MethodName)) ∈ lw_all := lw_g (lw_at lw_m5 136 rfl) rfl
theorem q1143 : (Jvm.Cond.selects "java/util/TreeSet" ({ cls := "java/util/TreeSet", name := "contains", desc := "(Ljava/lang/Object;)Z" } : Jvm.MethodName) ({ cls := "java/util/TreeSet", name := "contains", desc := "(Ljava/lang/Object;)Z" } : Jvm.MethodName)) ∈ lw_all := lw_g (lw_at lw_m5 137 rfl) rfl
theorem q1144 : (Jvm.Cond.code ({ cls := "java/util/TreeSet", name := "contains", desc := "(Ljava/lang/Object;)Z" } : Jvm.MethodName) prog_69_method_11_code (2 : Nat) (Option.some Jvm.ClassFile.FieldType.boolean)) ∈ lw_all := lw_g (lw_at lw_m5 138 rfl) rfl
theorem q1145 : (Jvm.Cond.interfaceEntry "java/util/TreeSet" (61 : Nat)) ∈ lw_tbl := lw_at lw_m5 139 rfl
theorem q1213 : (Jvm.Cond.castable "java/util/TreeSet" "java/lang/Iterable") ∈ lw_tbl := lw_at lw_m5 207 rfl
theorem q1214 : (Jvm.Cond.selects "java/util/TreeSet" ({ cls := "java/lang/Iterable", name := "iterator", desc := "()Ljava/util/Iterator;" } : Jvm.MethodName) ({ cls := "java/util/TreeSet", name := "iterator", desc := "()Ljava/util/Iterator;" } : Jvm.MethodName)) ∈ lw_all := lw_g (lw_at lw_m5 208 rfl) rfl
theorem q1215 : (Jvm.Cond.unhidden "java/util/TreeSet" "iterator" "()Ljava/util/Iterator;") ∈ lw_tbl := lw_at lw_m5 209 rfl
theorem q1216 : (Jvm.Cond.instanceMethod ({ cls := "java/util/TreeSet", name := "iterator", desc := "()Ljava/util/Iterator;" } : Jvm.MethodName)) ∈ lw_all := lw_g (lw_at lw_m5 210 rfl) rfl
theorem q1217 : (Jvm.Cond.publicMethod ({ cls := "java/util/TreeSet", name := "iterator", desc := "()Ljava/util/Iterator;" } : Jvm.MethodName)) ∈ lw_tbl := lw_at lw_m5 211 rfl
theorem q1218 : (Jvm.Cond.code ({ cls := "java/util/TreeSet", name := "iterator", desc := "()Ljava/util/Iterator;" } : Jvm.MethodName) prog_69_method_6_code (1 : Nat) (Option.some (Jvm.ClassFile.FieldType.object "java/util/Iterator"))) ∈ lw_all := lw_g (lw_at lw_m5 212 rfl) rfl
theorem q1219 : (Jvm.Cond.interfaceEntry "java/util/TreeSet" (34 : Nat)) ∈ lw_tbl := lw_at lw_m5 213 rfl
theorem q1220 : (Jvm.Cond.methodLink "java/util/TreeSet" (34 : Nat) ({ cls := "java/util/NavigableMap", name := "navigableKeySet", desc := "()Ljava/util/NavigableSet;" } : Jvm.MethodName)) ∈ lw_all := lw_g (lw_at lw_m5 214 rfl) rfl
theorem q1238 : (Jvm.Cond.interfaceEntry "java/util/TreeSet" (40 : Nat)) ∈ lw_tbl := lw_at lw_m5 232 rfl
theorem q1239 : (Jvm.Cond.methodLink "java/util/TreeSet" (40 : Nat) ({ cls := "java/util/NavigableSet", name := "iterator", desc := "()Ljava/util/Iterator;" } : Jvm.MethodName)) ∈ lw_all := lw_g (lw_at lw_m5 233 rfl) rfl
theorem q1244 : (Jvm.Cond.castable "java/util/TreeSet" "java/util/NavigableSet") ∈ lw_tbl := lw_at lw_m5 238 rfl
theorem q1245 : (Jvm.Cond.selects "java/util/TreeSet" ({ cls := "java/util/NavigableSet", name := "iterator", desc := "()Ljava/util/Iterator;" } : Jvm.MethodName) ({ cls := "java/util/TreeSet", name := "iterator", desc := "()Ljava/util/Iterator;" } : Jvm.MethodName)) ∈ lw_all := lw_g (lw_at lw_m5 239 rfl) rfl
theorem q1247 : (Jvm.Cond.instanceMethod ({ cls := "java/util/TreeSet", name := "addAll", desc := "(Ljava/util/Collection;)Z" } : Jvm.MethodName)) ∈ lw_all := lw_g (lw_at lw_m6 1 rfl) rfl
theorem q1248 : (Jvm.Cond.selects "java/util/TreeSet" ({ cls := "java/util/TreeSet", name := "addAll", desc := "(Ljava/util/Collection;)Z" } : Jvm.MethodName) ({ cls := "java/util/TreeSet", name := "addAll", desc := "(Ljava/util/Collection;)Z" } : Jvm.MethodName)) ∈ lw_all := lw_g (lw_at lw_m6 2 rfl) rfl
theorem q1249 : (Jvm.Cond.code ({ cls := "java/util/TreeSet", name := "addAll", desc := "(Ljava/util/Collection;)Z" } : Jvm.MethodName) prog_69_method_15_code (4 : Nat) (Option.some Jvm.ClassFile.FieldType.boolean)) ∈ lw_all := lw_g (lw_at lw_m6 3 rfl) rfl
theorem q1250 : (Jvm.Cond.interfaceEntry "java/util/TreeSet" (80 : Nat)) ∈ lw_tbl := lw_at lw_m6 4 rfl
theorem q1251 : (Jvm.Cond.methodLink "java/util/TreeSet" (80 : Nat) ({ cls := "java/util/Collection", name := "size", desc := "()I" } : Jvm.MethodName)) ∈ lw_all := lw_g (lw_at lw_m6 5 rfl) rfl
theorem q1267 : (Jvm.Cond.castable "java/util/TreeSet" "java/util/Collection") ∈ lw_tbl := lw_at lw_m6 21 rfl
theorem q1268 : (Jvm.Cond.selects "java/util/TreeSet" ({ cls := "java/util/Collection", name := "size", desc := "()I" } : Jvm.MethodName) ({ cls := "java/util/TreeSet", name := "size", desc := "()I" } : Jvm.MethodName)) ∈ lw_all := lw_g (lw_at lw_m6 22 rfl) rfl
theorem q1269 : (Jvm.Cond.unhidden "java/util/TreeSet" "size" "()I") ∈ lw_tbl := lw_at lw_m6 23 rfl
theorem q1270 : (Jvm.Cond.publicMethod ({ cls := "java/util/TreeSet", name := "size", desc := "()I" } : Jvm.MethodName)) ∈ lw_tbl := lw_at lw_m6 24 rfl
theorem q1271 : (Jvm.Cond.classLink "java/util/TreeSet" (28 : Nat) "java/util/SortedSet") ∈ lw_all := lw_g (lw_at lw_m6 25 rfl) rfl
theorem q1272 : (Jvm.Cond.interfaceEntry "java/util/TreeSet" (27 : Nat)) ∈ lw_tbl := lw_at lw_m6 26 rfl
theorem q1273 : (Jvm.Cond.methodLink "java/util/TreeSet" (27 : Nat) ({ cls := "java/util/SortedSet", name := "comparator", desc := "()Ljava/util/Comparator;" } : Jvm.MethodName)) ∈ lw_all := lw_g (lw_at lw_m6 27 rfl) rfl
theorem q1290 : (Jvm.Cond.castable "java/util/TreeSet" "java/util/SortedSet") ∈ lw_tbl := lw_at lw_m6 44 rfl
theorem q1291 : (Jvm.Cond.selects "java/util/TreeSet" ({ cls := "java/util/SortedSet", name := "comparator", desc := "()Ljava/util/Comparator;" } : Jvm.MethodName) ({ cls := "java/util/TreeSet", name := "comparator", desc := "()Ljava/util/Comparator;" } : Jvm.MethodName)) ∈ lw_all := lw_g (lw_at lw_m6 45 rfl) rfl
theorem q1292 : (Jvm.Cond.unhidden "java/util/TreeSet" "comparator" "()Ljava/util/Comparator;") ∈ lw_tbl := lw_at lw_m6 46 rfl
theorem q1293 : (Jvm.Cond.instanceMethod ({ cls := "java/util/TreeSet", name := "comparator", desc := "()Ljava/util/Comparator;" } : Jvm.MethodName)) ∈ lw_all := lw_g (lw_at lw_m6 47 rfl) rfl
theorem q1294 : (Jvm.Cond.publicMethod ({ cls := "java/util/TreeSet", name := "comparator", desc := "()Ljava/util/Comparator;" } : Jvm.MethodName)) ∈ lw_tbl := lw_at lw_m6 48 rfl
theorem q1295 : (Jvm.Cond.code ({ cls := "java/util/TreeSet", name := "comparator", desc := "()Ljava/util/Comparator;" } : Jvm.MethodName) prog_69_method_22_code (1 : Nat) (Option.some (Jvm.ClassFile.FieldType.object "java/util/Comparator"))) ∈ lw_all := lw_g (lw_at lw_m6 49 rfl) rfl
theorem q1296 : (Jvm.Cond.interfaceEntry "java/util/TreeSet" (117 : Nat)) ∈ lw_tbl := lw_at lw_m6 50 rfl
theorem q1297 : (Jvm.Cond.methodLink "java/util/TreeSet" (83 : Nat) ({ cls := "java/util/TreeMap", name := "comparator", desc := "()Ljava/util/Comparator;" } : Jvm.MethodName)) ∈ lw_all := lw_g (lw_at lw_m6 51 rfl) rfl
theorem q1298 : (Jvm.Cond.methodLink "java/util/TreeSet" (84 : Nat) ({ cls := "java/util/Objects", name := "equals", desc := "(Ljava/lang/Object;Ljava/lang/Object;)Z" } : Jvm.MethodName)) ∈ lw_all := lw_g (lw_at lw_m6 52 rfl) rfl
theorem q1324 : (Jvm.Cond.methodLink "java/util/TreeSet" (90 : Nat) ({ cls := "java/util/TreeMap", name := "addAllForTreeSet", desc := "(Ljava/util/SortedSet;Ljava/lang/Object;)V" } : Jvm.MethodName)) ∈ lw_all := lw_g (lw_at lw_m6 78 rfl) rfl
theorem q1366 : (Jvm.Cond.methodLink "java/util/TreeSet" (94 : Nat) ({ cls := "java/util/AbstractSet", name := "addAll", desc := "(Ljava/util/Collection;)Z" } : Jvm.MethodName)) ∈ lw_all := lw_g (lw_at lw_m6 120 rfl) rfl
theorem q1378 : (Jvm.Cond.selects "java/util/TreeSet" ({ cls := "java/util/Collection", name := "iterator", desc := "()Ljava/util/Iterator;" } : Jvm.MethodName) ({ cls := "java/util/TreeSet", name := "iterator", desc := "()Ljava/util/Iterator;" } : Jvm.MethodName)) ∈ lw_all := lw_g (lw_at lw_m6 132 rfl) rfl
theorem q1388 : (Jvm.Cond.selects "java/util/TreeSet" ({ cls := "java/util/AbstractCollection", name := "add", desc := "(Ljava/lang/Object;)Z" } : Jvm.MethodName) ({ cls := "java/util/TreeSet", name := "add", desc := "(Ljava/lang/Object;)Z" } : Jvm.MethodName)) ∈ lw_all := lw_g (lw_at lw_m6 142 rfl) rfl
theorem q2382 : (Jvm.Cond.castable "java/util/TreeSet" "java/lang/Object") ∈ lw_tbl := lw_at lw_m10 176 rfl
theorem in_J24 : ∀ w ∈ wsJ240, w ∈ lw_all := lw_in wsJ240 [423] (by decide +kernel) (by decide +kernel)

/-! java/util/AbstractMap -/
set_option maxRecDepth 100000
def RJ25 : String := "java/util/AbstractMap"
abbrev cJ25_init : ByteArray := prog_42_method_1_code
def yJ25_init : MethodName := ⟨RJ25, "<init>", "()V"⟩
theorem dJ25_init_0 : decode cJ25_init 0 = .ok (.aload_n 0, 1) := by decide +kernel
theorem dJ25_init_1 : decode cJ25_init 1 = .ok (.invokespecial 1, 3) := by decide +kernel
theorem dJ25_init_4 : decode cJ25_init 4 = .ok (.return_, 1) := by decide +kernel
theorem q79 : (Jvm.Cond.initialized "java/util/AbstractMap") ∈ lw_all := lw_g (lw_at lw_m1 33 rfl) rfl
theorem q387 : (Jvm.Cond.instanceMethod ({ cls := "java/util/AbstractMap", name := "<init>", desc := "()V" } : Jvm.MethodName)) ∈ lw_all := lw_g (lw_at lw_m2 101 rfl) rfl
theorem q388 : (Jvm.Cond.code ({ cls := "java/util/AbstractMap", name := "<init>", desc := "()V" } : Jvm.MethodName) prog_42_method_1_code (1 : Nat) (Option.none : Option Jvm.ClassFile.FieldType)) ∈ lw_all := lw_g (lw_at lw_m2 102 rfl) rfl
theorem q389 : (Jvm.Cond.methodLink "java/util/AbstractMap" (1 : Nat) ({ cls := "java/lang/Object", name := "<init>", desc := "()V" } : Jvm.MethodName)) ∈ lw_all := lw_g (lw_at lw_m2 103 rfl) rfl
theorem q411 : (Jvm.Cond.soleField "java/util/AbstractMap" "keySet") ∈ lw_all := lw_g (lw_at lw_m2 125 rfl) rfl
theorem q413 : (Jvm.Cond.soleField "java/util/AbstractMap" "values") ∈ lw_all := lw_g (lw_at lw_m2 127 rfl) rfl

/-! java/util/TreeMap -/
set_option maxRecDepth 100000
def RJ26 : String := "java/util/TreeMap"
def TJ26 : u_T := fun k => match k with
  | 0 => ("java/util/AbstractMap", "keySet", "Ljava/util/Set;", false)
  | 1 => ("java/util/AbstractMap", "values", "Ljava/util/Collection;", false)
  | 2 => ("java/util/TreeMap", "comparator", "Ljava/util/Comparator;", true)
  | 3 => ("java/util/TreeMap", "root", "Ljava/util/TreeMap$Entry;", false)
  | 4 => ("java/util/TreeMap", "size", "I", false)
  | 5 => ("java/util/TreeMap", "modCount", "I", false)
  | 6 => ("java/util/TreeMap", "entrySet", "Ljava/util/TreeMap$EntrySet;", false)
  | 7 => ("java/util/TreeMap", "navigableKeySet", "Ljava/util/TreeMap$KeySet;", false)
  | _ => ("java/util/TreeMap", "descendingMap", "Ljava/util/NavigableMap;", false)
def tyJ26 : Nat → FieldType := fun k => match k with
  | 0 => .object "java/util/Set"
  | 1 => .object "java/util/Collection"
  | 2 => .object "java/util/Comparator"
  | 3 => .object "java/util/TreeMap$Entry"
  | 4 => .int
  | 5 => .int
  | 6 => .object "java/util/TreeMap$EntrySet"
  | 7 => .object "java/util/TreeMap$KeySet"
  | _ => .object "java/util/NavigableMap"
abbrev wsJ260 : List Cond := u_ws RJ26 TJ26 9
theorem nmJ26 : ∀ a, a < 9 → ∀ b, b < 9 → a ≠ b → (TJ26 a).2.1 ≠ (TJ26 b).2.1 := by decide +kernel
theorem tyJ26_ok : ∀ k, k < 9 → parseFieldDescriptor (TJ26 k).2.2.1 = some (tyJ26 k) := by decide +kernel
abbrev cJ26_init : ByteArray := prog_63_method_1_code
def yJ26_init : MethodName := ⟨RJ26, "<init>", "()V"⟩
def dkwJ26_init_0 : List UInt8 := [42, 183, 0, 1, 42, 3, 181, 0, 7, 42, 3, 181, 0, 13, 42, 1, 181, 0, 16, 177]
abbrev dktJ26_init_0 : List UInt8 := dkwJ26_init_0 ++ []
theorem dksJ26_init_0 : cJ26_init.data.toList.drop 0 = dktJ26_init_0 := by decide +kernel
theorem dJ26_init_0 : decode cJ26_init 0 = .ok (.aload_n 0, 1) := dk_42 (dk_at dksJ26_init_0 0 rfl rfl)
theorem dJ26_init_1 : decode cJ26_init 1 = .ok (.invokespecial 1, 3) := dk_183 0 1 (dk_at dksJ26_init_0 1 rfl rfl)
theorem dJ26_init_4 : decode cJ26_init 4 = .ok (.aload_n 0, 1) := dk_42 (dk_at dksJ26_init_0 4 rfl rfl)
theorem dJ26_init_5 : decode cJ26_init 5 = .ok (.iconst 0, 1) := dk_3 (dk_at dksJ26_init_0 5 rfl rfl)
theorem dJ26_init_6 : decode cJ26_init 6 = .ok (.putfield 7, 3) := dk_181 0 7 (dk_at dksJ26_init_0 6 rfl rfl)
theorem dJ26_init_9 : decode cJ26_init 9 = .ok (.aload_n 0, 1) := dk_42 (dk_at dksJ26_init_0 9 rfl rfl)
theorem dJ26_init_10 : decode cJ26_init 10 = .ok (.iconst 0, 1) := dk_3 (dk_at dksJ26_init_0 10 rfl rfl)
theorem dJ26_init_11 : decode cJ26_init 11 = .ok (.putfield 13, 3) := dk_181 0 13 (dk_at dksJ26_init_0 11 rfl rfl)
theorem dJ26_init_14 : decode cJ26_init 14 = .ok (.aload_n 0, 1) := dk_42 (dk_at dksJ26_init_0 14 rfl rfl)
theorem dJ26_init_15 : decode cJ26_init 15 = .ok (.aconst_null, 1) := dk_1 (dk_at dksJ26_init_0 15 rfl rfl)
theorem dJ26_init_16 : decode cJ26_init 16 = .ok (.putfield 16, 3) := dk_181 0 16 (dk_at dksJ26_init_0 16 rfl rfl)
theorem dJ26_init_19 : decode cJ26_init 19 = .ok (.return_, 1) := dk_177 (dk_at dksJ26_init_0 19 rfl rfl)
abbrev cJ26_put : ByteArray := prog_63_method_21_code
def yJ26_put : MethodName := ⟨RJ26, "put", "(Ljava/lang/Object;Ljava/lang/Object;)Ljava/lang/Object;"⟩
def dkwJ26_put_0 : List UInt8 := [42, 43, 44, 4, 182, 0, 127, 176]
abbrev dktJ26_put_0 : List UInt8 := dkwJ26_put_0 ++ []
theorem dksJ26_put_0 : cJ26_put.data.toList.drop 0 = dktJ26_put_0 := by decide +kernel
theorem dJ26_put_0 : decode cJ26_put 0 = .ok (.aload_n 0, 1) := dk_42 (dk_at dksJ26_put_0 0 rfl rfl)
theorem dJ26_put_1 : decode cJ26_put 1 = .ok (.aload_n 1, 1) := dk_43 (dk_at dksJ26_put_0 1 rfl rfl)
theorem dJ26_put_2 : decode cJ26_put 2 = .ok (.aload_n 2, 1) := dk_44 (dk_at dksJ26_put_0 2 rfl rfl)
theorem dJ26_put_3 : decode cJ26_put 3 = .ok (.iconst 1, 1) := dk_4 (dk_at dksJ26_put_0 3 rfl rfl)
theorem dJ26_put_4 : decode cJ26_put 4 = .ok (.invokevirtual 127, 3) := dk_182 0 127 (dk_at dksJ26_put_0 4 rfl rfl)
theorem dJ26_put_7 : decode cJ26_put 7 = .ok (.areturn, 1) := dk_176 (dk_at dksJ26_put_0 7 rfl rfl)
abbrev cJ26_put_2 : ByteArray := prog_63_method_31_code
def yJ26_put_2 : MethodName := ⟨RJ26, "put", "(Ljava/lang/Object;Ljava/lang/Object;Z)Ljava/lang/Object;"⟩
def dkwJ26_put_2_9 : List UInt8 := [4, 167, 0, 4, 3, 182, 0, 139, 1, 176]
abbrev dktJ26_put_2_9 : List UInt8 := dkwJ26_put_2_9 ++ []
def dkwJ26_put_2_8 : List UInt8 := [25, 4, 44, 181, 0, 58, 25, 9, 176, 25, 4, 199, 255, 181, 42, 43, 44, 25, 6, 21, 5, 156, 0, 7]
abbrev dktJ26_put_2_8 : List UInt8 := dkwJ26_put_2_8 ++ dktJ26_put_2_9
def dkwJ26_put_2_7 : List UInt8 := [180, 0, 114, 58, 4, 167, 0, 28, 25, 4, 180, 0, 58, 58, 9, 29, 154, 0, 8, 25, 9, 199, 0, 9]
abbrev dktJ26_put_2_7 : List UInt8 := dkwJ26_put_2_7 ++ dktJ26_put_2_8
def dkwJ26_put_2_6 : List UInt8 := [21, 5, 156, 0, 13, 25, 4, 180, 0, 111, 58, 4, 167, 0, 43, 21, 5, 158, 0, 13, 25, 4]
abbrev dktJ26_put_2_6 : List UInt8 := dkwJ26_put_2_6 ++ dktJ26_put_2_7
def dkwJ26_put_2_5 : List UInt8 := [192, 0, 99, 58, 8, 25, 4, 58, 6, 25, 8, 25, 4, 180, 0, 105, 185, 0, 107, 2, 0, 54, 5]
abbrev dktJ26_put_2_5 : List UInt8 := dkwJ26_put_2_5 ++ dktJ26_put_2_6
def dkwJ26_put_2_4 : List UInt8 := [25, 4, 44, 181, 0, 58, 25, 8, 176, 25, 4, 199, 255, 180, 167, 0, 92, 43, 184, 0, 95, 87, 43]
abbrev dktJ26_put_2_4 : List UInt8 := dkwJ26_put_2_4 ++ dktJ26_put_2_5
def dkwJ26_put_2_3 : List UInt8 := [180, 0, 114, 58, 4, 167, 0, 28, 25, 4, 180, 0, 58, 58, 8, 29, 154, 0, 8, 25, 8, 199, 0, 9]
abbrev dktJ26_put_2_3 : List UInt8 := dkwJ26_put_2_3 ++ dktJ26_put_2_4
def dkwJ26_put_2_2 : List UInt8 := [54, 5, 21, 5, 156, 0, 13, 25, 4, 180, 0, 111, 58, 4, 167, 0, 43, 21, 5, 158, 0, 13, 25, 4]
abbrev dktJ26_put_2_2 : List UInt8 := dkwJ26_put_2_2 ++ dktJ26_put_2_3
def dkwJ26_put_2_1 : List UInt8 := [58, 7, 25, 7, 198, 0, 85, 25, 4, 58, 6, 25, 7, 43, 25, 4, 180, 0, 105, 185, 0, 117, 3, 0]
abbrev dktJ26_put_2_1 : List UInt8 := dkwJ26_put_2_1 ++ dktJ26_put_2_2
def dkwJ26_put_2_0 : List UInt8 := [42, 180, 0, 101, 58, 4, 25, 4, 199, 0, 11, 42, 43, 44, 182, 0, 135, 1, 176, 42, 180, 0, 16]
abbrev dktJ26_put_2_0 : List UInt8 := dkwJ26_put_2_0 ++ dktJ26_put_2_1
theorem dksJ26_put_2_0 : cJ26_put_2.data.toList.drop 0 = dktJ26_put_2_0 := by decide +kernel
theorem dksJ26_put_2_1 : cJ26_put_2.data.toList.drop 23 = dktJ26_put_2_1 := dk_seg dksJ26_put_2_0 23 rfl rfl
theorem dksJ26_put_2_2 : cJ26_put_2.data.toList.drop 47 = dktJ26_put_2_2 := dk_seg dksJ26_put_2_1 24 rfl rfl
theorem dksJ26_put_2_3 : cJ26_put_2.data.toList.drop 71 = dktJ26_put_2_3 := dk_seg dksJ26_put_2_2 24 rfl rfl
theorem dksJ26_put_2_4 : cJ26_put_2.data.toList.drop 95 = dktJ26_put_2_4 := dk_seg dksJ26_put_2_3 24 rfl rfl
theorem dksJ26_put_2_5 : cJ26_put_2.data.toList.drop 118 = dktJ26_put_2_5 := dk_seg dksJ26_put_2_4 23 rfl rfl
theorem dksJ26_put_2_6 : cJ26_put_2.data.toList.drop 141 = dktJ26_put_2_6 := dk_seg dksJ26_put_2_5 23 rfl rfl
theorem dksJ26_put_2_7 : cJ26_put_2.data.toList.drop 163 = dktJ26_put_2_7 := dk_seg dksJ26_put_2_6 22 rfl rfl
theorem dksJ26_put_2_8 : cJ26_put_2.data.toList.drop 187 = dktJ26_put_2_8 := dk_seg dksJ26_put_2_7 24 rfl rfl
theorem dksJ26_put_2_9 : cJ26_put_2.data.toList.drop 211 = dktJ26_put_2_9 := dk_seg dksJ26_put_2_8 24 rfl rfl
theorem dJ26_put_2_0 : decode cJ26_put_2 0 = .ok (.aload_n 0, 1) := dk_42 (dk_at dksJ26_put_2_0 0 rfl rfl)
theorem dJ26_put_2_1 : decode cJ26_put_2 1 = .ok (.getfield 101, 3) := dk_180 0 101 (dk_at dksJ26_put_2_0 1 rfl rfl)
theorem dJ26_put_2_4 : decode cJ26_put_2 4 = .ok (.astore 4, 2) := dk_58 4 (dk_at dksJ26_put_2_0 4 rfl rfl)
theorem dJ26_put_2_6 : decode cJ26_put_2 6 = .ok (.aload 4, 2) := dk_25 4 (dk_at dksJ26_put_2_0 6 rfl rfl)
theorem dJ26_put_2_8 : decode cJ26_put_2 8 = .ok (.ifnonnull 11, 3) := dk_199 0 11 (dk_at dksJ26_put_2_0 8 rfl rfl)
theorem dJ26_put_2_11 : decode cJ26_put_2 11 = .ok (.aload_n 0, 1) := dk_42 (dk_at dksJ26_put_2_0 11 rfl rfl)
theorem dJ26_put_2_12 : decode cJ26_put_2 12 = .ok (.aload_n 1, 1) := dk_43 (dk_at dksJ26_put_2_0 12 rfl rfl)
theorem dJ26_put_2_13 : decode cJ26_put_2 13 = .ok (.aload_n 2, 1) := dk_44 (dk_at dksJ26_put_2_0 13 rfl rfl)
theorem dJ26_put_2_14 : decode cJ26_put_2 14 = .ok (.invokevirtual 135, 3) := dk_182 0 135 (dk_at dksJ26_put_2_0 14 rfl rfl)
theorem dJ26_put_2_17 : decode cJ26_put_2 17 = .ok (.aconst_null, 1) := dk_1 (dk_at dksJ26_put_2_0 17 rfl rfl)
theorem dJ26_put_2_18 : decode cJ26_put_2 18 = .ok (.areturn, 1) := dk_176 (dk_at dksJ26_put_2_0 18 rfl rfl)
theorem dJ26_put_2_19 : decode cJ26_put_2 19 = .ok (.aload_n 0, 1) := dk_42 (dk_at dksJ26_put_2_0 19 rfl rfl)
theorem dJ26_put_2_20 : decode cJ26_put_2 20 = .ok (.getfield 16, 3) := dk_180 0 16 (dk_at dksJ26_put_2_0 20 rfl rfl)
theorem dJ26_put_2_23 : decode cJ26_put_2 23 = .ok (.astore 7, 2) := dk_58 7 (dk_at dksJ26_put_2_1 0 rfl rfl)
theorem dJ26_put_2_25 : decode cJ26_put_2 25 = .ok (.aload 7, 2) := dk_25 7 (dk_at dksJ26_put_2_1 2 rfl rfl)
theorem dJ26_put_2_27 : decode cJ26_put_2 27 = .ok (.ifnull 85, 3) := dk_198 0 85 (dk_at dksJ26_put_2_1 4 rfl rfl)
theorem dJ26_put_2_30 : decode cJ26_put_2 30 = .ok (.aload 4, 2) := dk_25 4 (dk_at dksJ26_put_2_1 7 rfl rfl)
theorem dJ26_put_2_32 : decode cJ26_put_2 32 = .ok (.astore 6, 2) := dk_58 6 (dk_at dksJ26_put_2_1 9 rfl rfl)
theorem dJ26_put_2_34 : decode cJ26_put_2 34 = .ok (.aload 7, 2) := dk_25 7 (dk_at dksJ26_put_2_1 11 rfl rfl)
theorem dJ26_put_2_36 : decode cJ26_put_2 36 = .ok (.aload_n 1, 1) := dk_43 (dk_at dksJ26_put_2_1 13 rfl rfl)
theorem dJ26_put_2_37 : decode cJ26_put_2 37 = .ok (.aload 4, 2) := dk_25 4 (dk_at dksJ26_put_2_1 14 rfl rfl)
theorem dJ26_put_2_39 : decode cJ26_put_2 39 = .ok (.getfield 105, 3) := dk_180 0 105 (dk_at dksJ26_put_2_1 16 rfl rfl)
theorem dJ26_put_2_42 : decode cJ26_put_2 42 = .ok (.invokeinterface 117 3, 5) := by decide +kernel
theorem dJ26_put_2_47 : decode cJ26_put_2 47 = .ok (.istore 5, 2) := dk_54 5 (dk_at dksJ26_put_2_2 0 rfl rfl)
theorem dJ26_put_2_49 : decode cJ26_put_2 49 = .ok (.iload 5, 2) := dk_21 5 (dk_at dksJ26_put_2_2 2 rfl rfl)
theorem dJ26_put_2_51 : decode cJ26_put_2 51 = .ok (.ifCond .ge 13, 3) := dk_156 0 13 (dk_at dksJ26_put_2_2 4 rfl rfl)
theorem dJ26_put_2_54 : decode cJ26_put_2 54 = .ok (.aload 4, 2) := dk_25 4 (dk_at dksJ26_put_2_2 7 rfl rfl)
theorem dJ26_put_2_56 : decode cJ26_put_2 56 = .ok (.getfield 111, 3) := dk_180 0 111 (dk_at dksJ26_put_2_2 9 rfl rfl)
theorem dJ26_put_2_59 : decode cJ26_put_2 59 = .ok (.astore 4, 2) := dk_58 4 (dk_at dksJ26_put_2_2 12 rfl rfl)
theorem dJ26_put_2_61 : decode cJ26_put_2 61 = .ok (.goto 43, 3) := dk_167 0 43 (dk_at dksJ26_put_2_2 14 rfl rfl)
theorem dJ26_put_2_64 : decode cJ26_put_2 64 = .ok (.iload 5, 2) := dk_21 5 (dk_at dksJ26_put_2_2 17 rfl rfl)
theorem dJ26_put_2_66 : decode cJ26_put_2 66 = .ok (.ifCond .le 13, 3) := dk_158 0 13 (dk_at dksJ26_put_2_2 19 rfl rfl)
theorem dJ26_put_2_69 : decode cJ26_put_2 69 = .ok (.aload 4, 2) := dk_25 4 (dk_at dksJ26_put_2_2 22 rfl rfl)
theorem dJ26_put_2_71 : decode cJ26_put_2 71 = .ok (.getfield 114, 3) := dk_180 0 114 (dk_at dksJ26_put_2_3 0 rfl rfl)
theorem dJ26_put_2_74 : decode cJ26_put_2 74 = .ok (.astore 4, 2) := dk_58 4 (dk_at dksJ26_put_2_3 3 rfl rfl)
theorem dJ26_put_2_76 : decode cJ26_put_2 76 = .ok (.goto 28, 3) := dk_167 0 28 (dk_at dksJ26_put_2_3 5 rfl rfl)
theorem dJ26_put_2_79 : decode cJ26_put_2 79 = .ok (.aload 4, 2) := dk_25 4 (dk_at dksJ26_put_2_3 8 rfl rfl)
theorem dJ26_put_2_81 : decode cJ26_put_2 81 = .ok (.getfield 58, 3) := dk_180 0 58 (dk_at dksJ26_put_2_3 10 rfl rfl)
theorem dJ26_put_2_84 : decode cJ26_put_2 84 = .ok (.astore 8, 2) := dk_58 8 (dk_at dksJ26_put_2_3 13 rfl rfl)
theorem dJ26_put_2_86 : decode cJ26_put_2 86 = .ok (.iload_n 3, 1) := dk_29 (dk_at dksJ26_put_2_3 15 rfl rfl)
theorem dJ26_put_2_87 : decode cJ26_put_2 87 = .ok (.ifCond .ne 8, 3) := dk_154 0 8 (dk_at dksJ26_put_2_3 16 rfl rfl)
theorem dJ26_put_2_90 : decode cJ26_put_2 90 = .ok (.aload 8, 2) := dk_25 8 (dk_at dksJ26_put_2_3 19 rfl rfl)
theorem dJ26_put_2_92 : decode cJ26_put_2 92 = .ok (.ifnonnull 9, 3) := dk_199 0 9 (dk_at dksJ26_put_2_3 21 rfl rfl)
theorem dJ26_put_2_95 : decode cJ26_put_2 95 = .ok (.aload 4, 2) := dk_25 4 (dk_at dksJ26_put_2_4 0 rfl rfl)
theorem dJ26_put_2_97 : decode cJ26_put_2 97 = .ok (.aload_n 2, 1) := dk_44 (dk_at dksJ26_put_2_4 2 rfl rfl)
theorem dJ26_put_2_98 : decode cJ26_put_2 98 = .ok (.putfield 58, 3) := dk_181 0 58 (dk_at dksJ26_put_2_4 3 rfl rfl)
theorem dJ26_put_2_101 : decode cJ26_put_2 101 = .ok (.aload 8, 2) := dk_25 8 (dk_at dksJ26_put_2_4 6 rfl rfl)
theorem dJ26_put_2_103 : decode cJ26_put_2 103 = .ok (.areturn, 1) := dk_176 (dk_at dksJ26_put_2_4 8 rfl rfl)
theorem dJ26_put_2_104 : decode cJ26_put_2 104 = .ok (.aload 4, 2) := dk_25 4 (dk_at dksJ26_put_2_4 9 rfl rfl)
theorem dJ26_put_2_106 : decode cJ26_put_2 106 = .ok (.ifnonnull (-76), 3) := dk_199 255 180 (dk_at dksJ26_put_2_4 11 rfl rfl)
theorem dJ26_put_2_109 : decode cJ26_put_2 109 = .ok (.goto 92, 3) := dk_167 0 92 (dk_at dksJ26_put_2_4 14 rfl rfl)
theorem dJ26_put_2_112 : decode cJ26_put_2 112 = .ok (.aload_n 1, 1) := dk_43 (dk_at dksJ26_put_2_4 17 rfl rfl)
theorem dJ26_put_2_113 : decode cJ26_put_2 113 = .ok (.invokestatic 95, 3) := dk_184 0 95 (dk_at dksJ26_put_2_4 18 rfl rfl)
theorem dJ26_put_2_116 : decode cJ26_put_2 116 = .ok (.pop, 1) := dk_87 (dk_at dksJ26_put_2_4 21 rfl rfl)
theorem dJ26_put_2_117 : decode cJ26_put_2 117 = .ok (.aload_n 1, 1) := dk_43 (dk_at dksJ26_put_2_4 22 rfl rfl)
theorem dJ26_put_2_118 : decode cJ26_put_2 118 = .ok (.checkcast 99, 3) := dk_192 0 99 (dk_at dksJ26_put_2_5 0 rfl rfl)
theorem dJ26_put_2_121 : decode cJ26_put_2 121 = .ok (.astore 8, 2) := dk_58 8 (dk_at dksJ26_put_2_5 3 rfl rfl)
theorem dJ26_put_2_123 : decode cJ26_put_2 123 = .ok (.aload 4, 2) := dk_25 4 (dk_at dksJ26_put_2_5 5 rfl rfl)
theorem dJ26_put_2_125 : decode cJ26_put_2 125 = .ok (.astore 6, 2) := dk_58 6 (dk_at dksJ26_put_2_5 7 rfl rfl)
theorem dJ26_put_2_127 : decode cJ26_put_2 127 = .ok (.aload 8, 2) := dk_25 8 (dk_at dksJ26_put_2_5 9 rfl rfl)
theorem dJ26_put_2_129 : decode cJ26_put_2 129 = .ok (.aload 4, 2) := dk_25 4 (dk_at dksJ26_put_2_5 11 rfl rfl)
theorem dJ26_put_2_131 : decode cJ26_put_2 131 = .ok (.getfield 105, 3) := dk_180 0 105 (dk_at dksJ26_put_2_5 13 rfl rfl)
theorem dJ26_put_2_134 : decode cJ26_put_2 134 = .ok (.invokeinterface 107 2, 5) := by decide +kernel
theorem dJ26_put_2_139 : decode cJ26_put_2 139 = .ok (.istore 5, 2) := dk_54 5 (dk_at dksJ26_put_2_5 21 rfl rfl)
theorem dJ26_put_2_141 : decode cJ26_put_2 141 = .ok (.iload 5, 2) := dk_21 5 (dk_at dksJ26_put_2_6 0 rfl rfl)
theorem dJ26_put_2_143 : decode cJ26_put_2 143 = .ok (.ifCond .ge 13, 3) := dk_156 0 13 (dk_at dksJ26_put_2_6 2 rfl rfl)
theorem dJ26_put_2_146 : decode cJ26_put_2 146 = .ok (.aload 4, 2) := dk_25 4 (dk_at dksJ26_put_2_6 5 rfl rfl)
theorem dJ26_put_2_148 : decode cJ26_put_2 148 = .ok (.getfield 111, 3) := dk_180 0 111 (dk_at dksJ26_put_2_6 7 rfl rfl)
theorem dJ26_put_2_151 : decode cJ26_put_2 151 = .ok (.astore 4, 2) := dk_58 4 (dk_at dksJ26_put_2_6 10 rfl rfl)
theorem dJ26_put_2_153 : decode cJ26_put_2 153 = .ok (.goto 43, 3) := dk_167 0 43 (dk_at dksJ26_put_2_6 12 rfl rfl)
theorem dJ26_put_2_156 : decode cJ26_put_2 156 = .ok (.iload 5, 2) := dk_21 5 (dk_at dksJ26_put_2_6 15 rfl rfl)
theorem dJ26_put_2_158 : decode cJ26_put_2 158 = .ok (.ifCond .le 13, 3) := dk_158 0 13 (dk_at dksJ26_put_2_6 17 rfl rfl)
theorem dJ26_put_2_161 : decode cJ26_put_2 161 = .ok (.aload 4, 2) := dk_25 4 (dk_at dksJ26_put_2_6 20 rfl rfl)
theorem dJ26_put_2_163 : decode cJ26_put_2 163 = .ok (.getfield 114, 3) := dk_180 0 114 (dk_at dksJ26_put_2_7 0 rfl rfl)
theorem dJ26_put_2_166 : decode cJ26_put_2 166 = .ok (.astore 4, 2) := dk_58 4 (dk_at dksJ26_put_2_7 3 rfl rfl)
theorem dJ26_put_2_168 : decode cJ26_put_2 168 = .ok (.goto 28, 3) := dk_167 0 28 (dk_at dksJ26_put_2_7 5 rfl rfl)
theorem dJ26_put_2_171 : decode cJ26_put_2 171 = .ok (.aload 4, 2) := dk_25 4 (dk_at dksJ26_put_2_7 8 rfl rfl)
theorem dJ26_put_2_173 : decode cJ26_put_2 173 = .ok (.getfield 58, 3) := dk_180 0 58 (dk_at dksJ26_put_2_7 10 rfl rfl)
theorem dJ26_put_2_176 : decode cJ26_put_2 176 = .ok (.astore 9, 2) := dk_58 9 (dk_at dksJ26_put_2_7 13 rfl rfl)
theorem dJ26_put_2_178 : decode cJ26_put_2 178 = .ok (.iload_n 3, 1) := dk_29 (dk_at dksJ26_put_2_7 15 rfl rfl)
theorem dJ26_put_2_179 : decode cJ26_put_2 179 = .ok (.ifCond .ne 8, 3) := dk_154 0 8 (dk_at dksJ26_put_2_7 16 rfl rfl)
theorem dJ26_put_2_182 : decode cJ26_put_2 182 = .ok (.aload 9, 2) := dk_25 9 (dk_at dksJ26_put_2_7 19 rfl rfl)
theorem dJ26_put_2_184 : decode cJ26_put_2 184 = .ok (.ifnonnull 9, 3) := dk_199 0 9 (dk_at dksJ26_put_2_7 21 rfl rfl)
theorem dJ26_put_2_187 : decode cJ26_put_2 187 = .ok (.aload 4, 2) := dk_25 4 (dk_at dksJ26_put_2_8 0 rfl rfl)
theorem dJ26_put_2_189 : decode cJ26_put_2 189 = .ok (.aload_n 2, 1) := dk_44 (dk_at dksJ26_put_2_8 2 rfl rfl)
theorem dJ26_put_2_190 : decode cJ26_put_2 190 = .ok (.putfield 58, 3) := dk_181 0 58 (dk_at dksJ26_put_2_8 3 rfl rfl)
theorem dJ26_put_2_193 : decode cJ26_put_2 193 = .ok (.aload 9, 2) := dk_25 9 (dk_at dksJ26_put_2_8 6 rfl rfl)
theorem dJ26_put_2_195 : decode cJ26_put_2 195 = .ok (.areturn, 1) := dk_176 (dk_at dksJ26_put_2_8 8 rfl rfl)
theorem dJ26_put_2_196 : decode cJ26_put_2 196 = .ok (.aload 4, 2) := dk_25 4 (dk_at dksJ26_put_2_8 9 rfl rfl)
theorem dJ26_put_2_198 : decode cJ26_put_2 198 = .ok (.ifnonnull (-75), 3) := dk_199 255 181 (dk_at dksJ26_put_2_8 11 rfl rfl)
theorem dJ26_put_2_201 : decode cJ26_put_2 201 = .ok (.aload_n 0, 1) := dk_42 (dk_at dksJ26_put_2_8 14 rfl rfl)
theorem dJ26_put_2_202 : decode cJ26_put_2 202 = .ok (.aload_n 1, 1) := dk_43 (dk_at dksJ26_put_2_8 15 rfl rfl)
theorem dJ26_put_2_203 : decode cJ26_put_2 203 = .ok (.aload_n 2, 1) := dk_44 (dk_at dksJ26_put_2_8 16 rfl rfl)
theorem dJ26_put_2_204 : decode cJ26_put_2 204 = .ok (.aload 6, 2) := dk_25 6 (dk_at dksJ26_put_2_8 17 rfl rfl)
theorem dJ26_put_2_206 : decode cJ26_put_2 206 = .ok (.iload 5, 2) := dk_21 5 (dk_at dksJ26_put_2_8 19 rfl rfl)
theorem dJ26_put_2_208 : decode cJ26_put_2 208 = .ok (.ifCond .ge 7, 3) := dk_156 0 7 (dk_at dksJ26_put_2_8 21 rfl rfl)
theorem dJ26_put_2_211 : decode cJ26_put_2 211 = .ok (.iconst 1, 1) := dk_4 (dk_at dksJ26_put_2_9 0 rfl rfl)
theorem dJ26_put_2_212 : decode cJ26_put_2 212 = .ok (.goto 4, 3) := dk_167 0 4 (dk_at dksJ26_put_2_9 1 rfl rfl)
theorem dJ26_put_2_215 : decode cJ26_put_2 215 = .ok (.iconst 0, 1) := dk_3 (dk_at dksJ26_put_2_9 4 rfl rfl)
theorem dJ26_put_2_216 : decode cJ26_put_2 216 = .ok (.invokevirtual 139, 3) := dk_182 0 139 (dk_at dksJ26_put_2_9 5 rfl rfl)
theorem dJ26_put_2_219 : decode cJ26_put_2 219 = .ok (.aconst_null, 1) := dk_1 (dk_at dksJ26_put_2_9 8 rfl rfl)
theorem dJ26_put_2_220 : decode cJ26_put_2 220 = .ok (.areturn, 1) := dk_176 (dk_at dksJ26_put_2_9 9 rfl rfl)
abbrev cJ26_addEntryToEmptyMap : ByteArray := prog_63_method_30_code
def yJ26_addEntryToEmptyMap : MethodName := ⟨RJ26, "addEntryToEmptyMap", "(Ljava/lang/Object;Ljava/lang/Object;)V"⟩
def dkwJ26_addEntryToEmptyMap_1 : List UInt8 := [181, 0, 7, 42, 89, 180, 0, 13, 4, 96, 181, 0, 13, 177]
abbrev dktJ26_addEntryToEmptyMap_1 : List UInt8 := dkwJ26_addEntryToEmptyMap_1 ++ []
def dkwJ26_addEntryToEmptyMap_0 : List UInt8 := [42, 43, 43, 182, 0, 123, 87, 42, 187, 0, 59, 89, 43, 44, 1, 183, 0, 167, 181, 0, 101, 42, 4]
abbrev dktJ26_addEntryToEmptyMap_0 : List UInt8 := dkwJ26_addEntryToEmptyMap_0 ++ dktJ26_addEntryToEmptyMap_1
theorem dksJ26_addEntryToEmptyMap_0 : cJ26_addEntryToEmptyMap.data.toList.drop 0 = dktJ26_addEntryToEmptyMap_0 := by decide +kernel
theorem dksJ26_addEntryToEmptyMap_1 : cJ26_addEntryToEmptyMap.data.toList.drop 23 = dktJ26_addEntryToEmptyMap_1 := dk_seg dksJ26_addEntryToEmptyMap_0 23 rfl rfl
theorem dJ26_addEntryToEmptyMap_0 : decode cJ26_addEntryToEmptyMap 0 = .ok (.aload_n 0, 1) := dk_42 (dk_at dksJ26_addEntryToEmptyMap_0 0 rfl rfl)
theorem dJ26_addEntryToEmptyMap_1 : decode cJ26_addEntryToEmptyMap 1 = .ok (.aload_n 1, 1) := dk_43 (dk_at dksJ26_addEntryToEmptyMap_0 1 rfl rfl)
theorem dJ26_addEntryToEmptyMap_2 : decode cJ26_addEntryToEmptyMap 2 = .ok (.aload_n 1, 1) := dk_43 (dk_at dksJ26_addEntryToEmptyMap_0 2 rfl rfl)
theorem dJ26_addEntryToEmptyMap_3 : decode cJ26_addEntryToEmptyMap 3 = .ok (.invokevirtual 123, 3) := dk_182 0 123 (dk_at dksJ26_addEntryToEmptyMap_0 3 rfl rfl)
theorem dJ26_addEntryToEmptyMap_6 : decode cJ26_addEntryToEmptyMap 6 = .ok (.pop, 1) := dk_87 (dk_at dksJ26_addEntryToEmptyMap_0 6 rfl rfl)
theorem dJ26_addEntryToEmptyMap_7 : decode cJ26_addEntryToEmptyMap 7 = .ok (.aload_n 0, 1) := dk_42 (dk_at dksJ26_addEntryToEmptyMap_0 7 rfl rfl)
theorem dJ26_addEntryToEmptyMap_8 : decode cJ26_addEntryToEmptyMap 8 = .ok (.new 59, 3) := dk_187 0 59 (dk_at dksJ26_addEntryToEmptyMap_0 8 rfl rfl)
theorem dJ26_addEntryToEmptyMap_11 : decode cJ26_addEntryToEmptyMap 11 = .ok (.dup, 1) := dk_89 (dk_at dksJ26_addEntryToEmptyMap_0 11 rfl rfl)
theorem dJ26_addEntryToEmptyMap_12 : decode cJ26_addEntryToEmptyMap 12 = .ok (.aload_n 1, 1) := dk_43 (dk_at dksJ26_addEntryToEmptyMap_0 12 rfl rfl)
theorem dJ26_addEntryToEmptyMap_13 : decode cJ26_addEntryToEmptyMap 13 = .ok (.aload_n 2, 1) := dk_44 (dk_at dksJ26_addEntryToEmptyMap_0 13 rfl rfl)
theorem dJ26_addEntryToEmptyMap_14 : decode cJ26_addEntryToEmptyMap 14 = .ok (.aconst_null, 1) := dk_1 (dk_at dksJ26_addEntryToEmptyMap_0 14 rfl rfl)
theorem dJ26_addEntryToEmptyMap_15 : decode cJ26_addEntryToEmptyMap 15 = .ok (.invokespecial 167, 3) := dk_183 0 167 (dk_at dksJ26_addEntryToEmptyMap_0 15 rfl rfl)
theorem dJ26_addEntryToEmptyMap_18 : decode cJ26_addEntryToEmptyMap 18 = .ok (.putfield 101, 3) := dk_181 0 101 (dk_at dksJ26_addEntryToEmptyMap_0 18 rfl rfl)
theorem dJ26_addEntryToEmptyMap_21 : decode cJ26_addEntryToEmptyMap 21 = .ok (.aload_n 0, 1) := dk_42 (dk_at dksJ26_addEntryToEmptyMap_0 21 rfl rfl)
theorem dJ26_addEntryToEmptyMap_22 : decode cJ26_addEntryToEmptyMap 22 = .ok (.iconst 1, 1) := dk_4 (dk_at dksJ26_addEntryToEmptyMap_0 22 rfl rfl)
theorem dJ26_addEntryToEmptyMap_23 : decode cJ26_addEntryToEmptyMap 23 = .ok (.putfield 7, 3) := dk_181 0 7 (dk_at dksJ26_addEntryToEmptyMap_1 0 rfl rfl)
theorem dJ26_addEntryToEmptyMap_26 : decode cJ26_addEntryToEmptyMap 26 = .ok (.aload_n 0, 1) := dk_42 (dk_at dksJ26_addEntryToEmptyMap_1 3 rfl rfl)
theorem dJ26_addEntryToEmptyMap_27 : decode cJ26_addEntryToEmptyMap 27 = .ok (.dup, 1) := dk_89 (dk_at dksJ26_addEntryToEmptyMap_1 4 rfl rfl)
theorem dJ26_addEntryToEmptyMap_28 : decode cJ26_addEntryToEmptyMap 28 = .ok (.getfield 13, 3) := dk_180 0 13 (dk_at dksJ26_addEntryToEmptyMap_1 5 rfl rfl)
theorem dJ26_addEntryToEmptyMap_31 : decode cJ26_addEntryToEmptyMap 31 = .ok (.iconst 1, 1) := dk_4 (dk_at dksJ26_addEntryToEmptyMap_1 8 rfl rfl)
theorem dJ26_addEntryToEmptyMap_32 : decode cJ26_addEntryToEmptyMap 32 = .ok (.iadd, 1) := dk_96 (dk_at dksJ26_addEntryToEmptyMap_1 9 rfl rfl)
theorem dJ26_addEntryToEmptyMap_33 : decode cJ26_addEntryToEmptyMap 33 = .ok (.putfield 13, 3) := dk_181 0 13 (dk_at dksJ26_addEntryToEmptyMap_1 10 rfl rfl)
theorem dJ26_addEntryToEmptyMap_36 : decode cJ26_addEntryToEmptyMap 36 = .ok (.return_, 1) := dk_177 (dk_at dksJ26_addEntryToEmptyMap_1 13 rfl rfl)
abbrev cJ26_compare : ByteArray := prog_63_method_67_code
def yJ26_compare : MethodName := ⟨RJ26, "compare", "(Ljava/lang/Object;Ljava/lang/Object;)I"⟩
def dkwJ26_compare_1 : List UInt8 := [43, 44, 185, 0, 117, 3, 0, 172]
abbrev dktJ26_compare_1 : List UInt8 := dkwJ26_compare_1 ++ []
def dkwJ26_compare_0 : List UInt8 := [42, 180, 0, 16, 199, 0, 16, 43, 192, 0, 99, 44, 185, 0, 107, 2, 0, 167, 0, 14, 42, 180, 0, 16]
abbrev dktJ26_compare_0 : List UInt8 := dkwJ26_compare_0 ++ dktJ26_compare_1
theorem dksJ26_compare_0 : cJ26_compare.data.toList.drop 0 = dktJ26_compare_0 := by decide +kernel
theorem dksJ26_compare_1 : cJ26_compare.data.toList.drop 24 = dktJ26_compare_1 := dk_seg dksJ26_compare_0 24 rfl rfl
theorem dJ26_compare_0 : decode cJ26_compare 0 = .ok (.aload_n 0, 1) := dk_42 (dk_at dksJ26_compare_0 0 rfl rfl)
theorem dJ26_compare_1 : decode cJ26_compare 1 = .ok (.getfield 16, 3) := dk_180 0 16 (dk_at dksJ26_compare_0 1 rfl rfl)
theorem dJ26_compare_4 : decode cJ26_compare 4 = .ok (.ifnonnull 16, 3) := dk_199 0 16 (dk_at dksJ26_compare_0 4 rfl rfl)
theorem dJ26_compare_7 : decode cJ26_compare 7 = .ok (.aload_n 1, 1) := dk_43 (dk_at dksJ26_compare_0 7 rfl rfl)
theorem dJ26_compare_8 : decode cJ26_compare 8 = .ok (.checkcast 99, 3) := dk_192 0 99 (dk_at dksJ26_compare_0 8 rfl rfl)
theorem dJ26_compare_11 : decode cJ26_compare 11 = .ok (.aload_n 2, 1) := dk_44 (dk_at dksJ26_compare_0 11 rfl rfl)
theorem dJ26_compare_12 : decode cJ26_compare 12 = .ok (.invokeinterface 107 2, 5) := by decide +kernel
theorem dJ26_compare_17 : decode cJ26_compare 17 = .ok (.goto 14, 3) := dk_167 0 14 (dk_at dksJ26_compare_0 17 rfl rfl)
theorem dJ26_compare_20 : decode cJ26_compare 20 = .ok (.aload_n 0, 1) := dk_42 (dk_at dksJ26_compare_0 20 rfl rfl)
theorem dJ26_compare_21 : decode cJ26_compare 21 = .ok (.getfield 16, 3) := dk_180 0 16 (dk_at dksJ26_compare_0 21 rfl rfl)
theorem dJ26_compare_24 : decode cJ26_compare 24 = .ok (.aload_n 1, 1) := dk_43 (dk_at dksJ26_compare_1 0 rfl rfl)
theorem dJ26_compare_25 : decode cJ26_compare 25 = .ok (.aload_n 2, 1) := dk_44 (dk_at dksJ26_compare_1 1 rfl rfl)
theorem dJ26_compare_26 : decode cJ26_compare 26 = .ok (.invokeinterface 117 3, 5) := by decide +kernel
theorem dJ26_compare_31 : decode cJ26_compare 31 = .ok (.ireturn, 1) := dk_172 (dk_at dksJ26_compare_1 7 rfl rfl)
abbrev cJ26_addEntry : ByteArray := prog_63_method_29_code
def yJ26_addEntry : MethodName := ⟨RJ26, "addEntry", "(Ljava/lang/Object;Ljava/lang/Object;Ljava/util/TreeMap$Entry;Z)V"⟩
def dkwJ26_addEntry_2 : List UInt8 := [181, 0, 7, 42, 89, 180, 0, 13, 4, 96, 181, 0, 13, 177]
abbrev dktJ26_addEntry_2 : List UInt8 := dkwJ26_addEntry_2 ++ []
def dkwJ26_addEntry_1 : List UInt8 := [167, 0, 9, 45, 25, 5, 181, 0, 114, 42, 25, 5, 182, 0, 170, 42, 89, 180, 0, 7, 4, 96]
abbrev dktJ26_addEntry_1 : List UInt8 := dkwJ26_addEntry_1 ++ dktJ26_addEntry_2
def dkwJ26_addEntry_0 : List UInt8 := [187, 0, 59, 89, 43, 44, 45, 183, 0, 167, 58, 5, 21, 4, 153, 0, 12, 45, 25, 5, 181, 0, 111]
abbrev dktJ26_addEntry_0 : List UInt8 := dkwJ26_addEntry_0 ++ dktJ26_addEntry_1
theorem dksJ26_addEntry_0 : cJ26_addEntry.data.toList.drop 0 = dktJ26_addEntry_0 := by decide +kernel
theorem dksJ26_addEntry_1 : cJ26_addEntry.data.toList.drop 23 = dktJ26_addEntry_1 := dk_seg dksJ26_addEntry_0 23 rfl rfl
theorem dksJ26_addEntry_2 : cJ26_addEntry.data.toList.drop 45 = dktJ26_addEntry_2 := dk_seg dksJ26_addEntry_1 22 rfl rfl
theorem dJ26_addEntry_0 : decode cJ26_addEntry 0 = .ok (.new 59, 3) := dk_187 0 59 (dk_at dksJ26_addEntry_0 0 rfl rfl)
theorem dJ26_addEntry_3 : decode cJ26_addEntry 3 = .ok (.dup, 1) := dk_89 (dk_at dksJ26_addEntry_0 3 rfl rfl)
theorem dJ26_addEntry_4 : decode cJ26_addEntry 4 = .ok (.aload_n 1, 1) := dk_43 (dk_at dksJ26_addEntry_0 4 rfl rfl)
theorem dJ26_addEntry_5 : decode cJ26_addEntry 5 = .ok (.aload_n 2, 1) := dk_44 (dk_at dksJ26_addEntry_0 5 rfl rfl)
theorem dJ26_addEntry_6 : decode cJ26_addEntry 6 = .ok (.aload_n 3, 1) := dk_45 (dk_at dksJ26_addEntry_0 6 rfl rfl)
theorem dJ26_addEntry_7 : decode cJ26_addEntry 7 = .ok (.invokespecial 167, 3) := dk_183 0 167 (dk_at dksJ26_addEntry_0 7 rfl rfl)
theorem dJ26_addEntry_10 : decode cJ26_addEntry 10 = .ok (.astore 5, 2) := dk_58 5 (dk_at dksJ26_addEntry_0 10 rfl rfl)
theorem dJ26_addEntry_12 : decode cJ26_addEntry 12 = .ok (.iload 4, 2) := dk_21 4 (dk_at dksJ26_addEntry_0 12 rfl rfl)
theorem dJ26_addEntry_14 : decode cJ26_addEntry 14 = .ok (.ifCond .eq 12, 3) := dk_153 0 12 (dk_at dksJ26_addEntry_0 14 rfl rfl)
theorem dJ26_addEntry_17 : decode cJ26_addEntry 17 = .ok (.aload_n 3, 1) := dk_45 (dk_at dksJ26_addEntry_0 17 rfl rfl)
theorem dJ26_addEntry_18 : decode cJ26_addEntry 18 = .ok (.aload 5, 2) := dk_25 5 (dk_at dksJ26_addEntry_0 18 rfl rfl)
theorem dJ26_addEntry_20 : decode cJ26_addEntry 20 = .ok (.putfield 111, 3) := dk_181 0 111 (dk_at dksJ26_addEntry_0 20 rfl rfl)
theorem dJ26_addEntry_23 : decode cJ26_addEntry 23 = .ok (.goto 9, 3) := dk_167 0 9 (dk_at dksJ26_addEntry_1 0 rfl rfl)
theorem dJ26_addEntry_26 : decode cJ26_addEntry 26 = .ok (.aload_n 3, 1) := dk_45 (dk_at dksJ26_addEntry_1 3 rfl rfl)
theorem dJ26_addEntry_27 : decode cJ26_addEntry 27 = .ok (.aload 5, 2) := dk_25 5 (dk_at dksJ26_addEntry_1 4 rfl rfl)
theorem dJ26_addEntry_29 : decode cJ26_addEntry 29 = .ok (.putfield 114, 3) := dk_181 0 114 (dk_at dksJ26_addEntry_1 6 rfl rfl)
theorem dJ26_addEntry_32 : decode cJ26_addEntry 32 = .ok (.aload_n 0, 1) := dk_42 (dk_at dksJ26_addEntry_1 9 rfl rfl)
theorem dJ26_addEntry_33 : decode cJ26_addEntry 33 = .ok (.aload 5, 2) := dk_25 5 (dk_at dksJ26_addEntry_1 10 rfl rfl)
theorem dJ26_addEntry_35 : decode cJ26_addEntry 35 = .ok (.invokevirtual 170, 3) := dk_182 0 170 (dk_at dksJ26_addEntry_1 12 rfl rfl)
theorem dJ26_addEntry_38 : decode cJ26_addEntry 38 = .ok (.aload_n 0, 1) := dk_42 (dk_at dksJ26_addEntry_1 15 rfl rfl)
theorem dJ26_addEntry_39 : decode cJ26_addEntry 39 = .ok (.dup, 1) := dk_89 (dk_at dksJ26_addEntry_1 16 rfl rfl)
theorem dJ26_addEntry_40 : decode cJ26_addEntry 40 = .ok (.getfield 7, 3) := dk_180 0 7 (dk_at dksJ26_addEntry_1 17 rfl rfl)
theorem dJ26_addEntry_43 : decode cJ26_addEntry 43 = .ok (.iconst 1, 1) := dk_4 (dk_at dksJ26_addEntry_1 20 rfl rfl)
theorem dJ26_addEntry_44 : decode cJ26_addEntry 44 = .ok (.iadd, 1) := dk_96 (dk_at dksJ26_addEntry_1 21 rfl rfl)
theorem dJ26_addEntry_45 : decode cJ26_addEntry 45 = .ok (.putfield 7, 3) := dk_181 0 7 (dk_at dksJ26_addEntry_2 0 rfl rfl)
theorem dJ26_addEntry_48 : decode cJ26_addEntry 48 = .ok (.aload_n 0, 1) := dk_42 (dk_at dksJ26_addEntry_2 3 rfl rfl)
theorem dJ26_addEntry_49 : decode cJ26_addEntry 49 = .ok (.dup, 1) := dk_89 (dk_at dksJ26_addEntry_2 4 rfl rfl)
theorem dJ26_addEntry_50 : decode cJ26_addEntry 50 = .ok (.getfield 13, 3) := dk_180 0 13 (dk_at dksJ26_addEntry_2 5 rfl rfl)
theorem dJ26_addEntry_53 : decode cJ26_addEntry 53 = .ok (.iconst 1, 1) := dk_4 (dk_at dksJ26_addEntry_2 8 rfl rfl)
theorem dJ26_addEntry_54 : decode cJ26_addEntry 54 = .ok (.iadd, 1) := dk_96 (dk_at dksJ26_addEntry_2 9 rfl rfl)
theorem dJ26_addEntry_55 : decode cJ26_addEntry 55 = .ok (.putfield 13, 3) := dk_181 0 13 (dk_at dksJ26_addEntry_2 10 rfl rfl)
theorem dJ26_addEntry_58 : decode cJ26_addEntry 58 = .ok (.return_, 1) := dk_177 (dk_at dksJ26_addEntry_2 13 rfl rfl)
abbrev cJ26_fixAfterInsertion : ByteArray := prog_63_method_83_code
def yJ26_fixAfterInsertion : MethodName := ⟨RJ26, "fixAfterInsertion", "(Ljava/util/TreeMap$Entry;)V"⟩
def dkwJ26_fixAfterInsertion_11 : List UInt8 := [42, 180, 0, 101, 4, 181, 1, 34, 177]
abbrev dktJ26_fixAfterInsertion_11 : List UInt8 := dkwJ26_fixAfterInsertion_11 ++ []
def dkwJ26_fixAfterInsertion_10 : List UInt8 := [184, 1, 38, 184, 1, 38, 3, 184, 1, 51, 42, 43, 184, 1, 38, 184, 1, 38, 182, 1, 55, 167, 255, 6]
abbrev dktJ26_fixAfterInsertion_10 : List UInt8 := dkwJ26_fixAfterInsertion_10 ++ dktJ26_fixAfterInsertion_11
def dkwJ26_fixAfterInsertion_9 : List UInt8 := [166, 0, 13, 43, 184, 1, 38, 76, 42, 43, 182, 1, 58, 43, 184, 1, 38, 4, 184, 1, 51, 43]
abbrev dktJ26_fixAfterInsertion_9 : List UInt8 := dkwJ26_fixAfterInsertion_9 ++ dktJ26_fixAfterInsertion_10
def dkwJ26_fixAfterInsertion_8 : List UInt8 := [184, 1, 51, 43, 184, 1, 38, 184, 1, 38, 76, 167, 0, 54, 43, 43, 184, 1, 38, 184, 1, 41]
abbrev dktJ26_fixAfterInsertion_8 : List UInt8 := dkwJ26_fixAfterInsertion_8 ++ dktJ26_fixAfterInsertion_9
def dkwJ26_fixAfterInsertion_7 : List UInt8 := [154, 0, 38, 43, 184, 1, 38, 4, 184, 1, 51, 44, 4, 184, 1, 51, 43, 184, 1, 38, 184, 1, 38, 3]
abbrev dktJ26_fixAfterInsertion_7 : List UInt8 := dkwJ26_fixAfterInsertion_7 ++ dktJ26_fixAfterInsertion_8
def dkwJ26_fixAfterInsertion_6 : List UInt8 := [184, 1, 38, 182, 1, 58, 167, 255, 113, 43, 184, 1, 38, 184, 1, 38, 184, 1, 41, 77, 44, 184, 1, 47]
abbrev dktJ26_fixAfterInsertion_6 : List UInt8 := dkwJ26_fixAfterInsertion_6 ++ dktJ26_fixAfterInsertion_7
def dkwJ26_fixAfterInsertion_5 : List UInt8 := [43, 184, 1, 38, 4, 184, 1, 51, 43, 184, 1, 38, 184, 1, 38, 3, 184, 1, 51, 42, 43, 184, 1, 38]
abbrev dktJ26_fixAfterInsertion_5 : List UInt8 := dkwJ26_fixAfterInsertion_5 ++ dktJ26_fixAfterInsertion_6
def dkwJ26_fixAfterInsertion_4 : List UInt8 := [167, 0, 54, 43, 43, 184, 1, 38, 184, 1, 44, 166, 0, 13, 43, 184, 1, 38, 76, 42, 43, 182, 1, 55]
abbrev dktJ26_fixAfterInsertion_4 : List UInt8 := dkwJ26_fixAfterInsertion_4 ++ dktJ26_fixAfterInsertion_5
def dkwJ26_fixAfterInsertion_3 : List UInt8 := [184, 1, 51, 43, 184, 1, 38, 184, 1, 38, 3, 184, 1, 51, 43, 184, 1, 38, 184, 1, 38, 76]
abbrev dktJ26_fixAfterInsertion_3 : List UInt8 := dkwJ26_fixAfterInsertion_3 ++ dktJ26_fixAfterInsertion_4
def dkwJ26_fixAfterInsertion_2 : List UInt8 := [184, 1, 38, 184, 1, 44, 77, 44, 184, 1, 47, 154, 0, 38, 43, 184, 1, 38, 4, 184, 1, 51, 44, 4]
abbrev dktJ26_fixAfterInsertion_2 : List UInt8 := dkwJ26_fixAfterInsertion_2 ++ dktJ26_fixAfterInsertion_3
def dkwJ26_fixAfterInsertion_1 : List UInt8 := [154, 0, 234, 43, 184, 1, 38, 43, 184, 1, 38, 184, 1, 38, 184, 1, 41, 166, 0, 110, 43, 184, 1, 38]
abbrev dktJ26_fixAfterInsertion_1 : List UInt8 := dkwJ26_fixAfterInsertion_1 ++ dktJ26_fixAfterInsertion_2
def dkwJ26_fixAfterInsertion_0 : List UInt8 := [43, 3, 181, 1, 34, 43, 198, 0, 252, 43, 42, 180, 0, 101, 165, 0, 244, 43, 180, 0, 124, 180, 1, 34]
abbrev dktJ26_fixAfterInsertion_0 : List UInt8 := dkwJ26_fixAfterInsertion_0 ++ dktJ26_fixAfterInsertion_1
theorem dksJ26_fixAfterInsertion_0 : cJ26_fixAfterInsertion.data.toList.drop 0 = dktJ26_fixAfterInsertion_0 := by decide +kernel
theorem dksJ26_fixAfterInsertion_1 : cJ26_fixAfterInsertion.data.toList.drop 24 = dktJ26_fixAfterInsertion_1 := dk_seg dksJ26_fixAfterInsertion_0 24 rfl rfl
theorem dksJ26_fixAfterInsertion_2 : cJ26_fixAfterInsertion.data.toList.drop 48 = dktJ26_fixAfterInsertion_2 := dk_seg dksJ26_fixAfterInsertion_1 24 rfl rfl
theorem dksJ26_fixAfterInsertion_3 : cJ26_fixAfterInsertion.data.toList.drop 72 = dktJ26_fixAfterInsertion_3 := dk_seg dksJ26_fixAfterInsertion_2 24 rfl rfl
theorem dksJ26_fixAfterInsertion_4 : cJ26_fixAfterInsertion.data.toList.drop 94 = dktJ26_fixAfterInsertion_4 := dk_seg dksJ26_fixAfterInsertion_3 22 rfl rfl
theorem dksJ26_fixAfterInsertion_5 : cJ26_fixAfterInsertion.data.toList.drop 118 = dktJ26_fixAfterInsertion_5 := dk_seg dksJ26_fixAfterInsertion_4 24 rfl rfl
theorem dksJ26_fixAfterInsertion_6 : cJ26_fixAfterInsertion.data.toList.drop 142 = dktJ26_fixAfterInsertion_6 := dk_seg dksJ26_fixAfterInsertion_5 24 rfl rfl
theorem dksJ26_fixAfterInsertion_7 : cJ26_fixAfterInsertion.data.toList.drop 166 = dktJ26_fixAfterInsertion_7 := dk_seg dksJ26_fixAfterInsertion_6 24 rfl rfl
theorem dksJ26_fixAfterInsertion_8 : cJ26_fixAfterInsertion.data.toList.drop 190 = dktJ26_fixAfterInsertion_8 := dk_seg dksJ26_fixAfterInsertion_7 24 rfl rfl
theorem dksJ26_fixAfterInsertion_9 : cJ26_fixAfterInsertion.data.toList.drop 212 = dktJ26_fixAfterInsertion_9 := dk_seg dksJ26_fixAfterInsertion_8 22 rfl rfl
theorem dksJ26_fixAfterInsertion_10 : cJ26_fixAfterInsertion.data.toList.drop 234 = dktJ26_fixAfterInsertion_10 := dk_seg dksJ26_fixAfterInsertion_9 22 rfl rfl
theorem dksJ26_fixAfterInsertion_11 : cJ26_fixAfterInsertion.data.toList.drop 258 = dktJ26_fixAfterInsertion_11 := dk_seg dksJ26_fixAfterInsertion_10 24 rfl rfl
theorem dJ26_fixAfterInsertion_0 : decode cJ26_fixAfterInsertion 0 = .ok (.aload_n 1, 1) := dk_43 (dk_at dksJ26_fixAfterInsertion_0 0 rfl rfl)
theorem dJ26_fixAfterInsertion_1 : decode cJ26_fixAfterInsertion 1 = .ok (.iconst 0, 1) := dk_3 (dk_at dksJ26_fixAfterInsertion_0 1 rfl rfl)
theorem dJ26_fixAfterInsertion_2 : decode cJ26_fixAfterInsertion 2 = .ok (.putfield 290, 3) := dk_181 1 34 (dk_at dksJ26_fixAfterInsertion_0 2 rfl rfl)
theorem dJ26_fixAfterInsertion_5 : decode cJ26_fixAfterInsertion 5 = .ok (.aload_n 1, 1) := dk_43 (dk_at dksJ26_fixAfterInsertion_0 5 rfl rfl)
theorem dJ26_fixAfterInsertion_6 : decode cJ26_fixAfterInsertion 6 = .ok (.ifnull 252, 3) := dk_198 0 252 (dk_at dksJ26_fixAfterInsertion_0 6 rfl rfl)
theorem dJ26_fixAfterInsertion_9 : decode cJ26_fixAfterInsertion 9 = .ok (.aload_n 1, 1) := dk_43 (dk_at dksJ26_fixAfterInsertion_0 9 rfl rfl)
theorem dJ26_fixAfterInsertion_10 : decode cJ26_fixAfterInsertion 10 = .ok (.aload_n 0, 1) := dk_42 (dk_at dksJ26_fixAfterInsertion_0 10 rfl rfl)
theorem dJ26_fixAfterInsertion_11 : decode cJ26_fixAfterInsertion 11 = .ok (.getfield 101, 3) := dk_180 0 101 (dk_at dksJ26_fixAfterInsertion_0 11 rfl rfl)
theorem dJ26_fixAfterInsertion_14 : decode cJ26_fixAfterInsertion 14 = .ok (.if_acmp .eq 244, 3) := dk_165 0 244 (dk_at dksJ26_fixAfterInsertion_0 14 rfl rfl)
theorem dJ26_fixAfterInsertion_17 : decode cJ26_fixAfterInsertion 17 = .ok (.aload_n 1, 1) := dk_43 (dk_at dksJ26_fixAfterInsertion_0 17 rfl rfl)
theorem dJ26_fixAfterInsertion_18 : decode cJ26_fixAfterInsertion 18 = .ok (.getfield 124, 3) := dk_180 0 124 (dk_at dksJ26_fixAfterInsertion_0 18 rfl rfl)
theorem dJ26_fixAfterInsertion_21 : decode cJ26_fixAfterInsertion 21 = .ok (.getfield 290, 3) := dk_180 1 34 (dk_at dksJ26_fixAfterInsertion_0 21 rfl rfl)
theorem dJ26_fixAfterInsertion_24 : decode cJ26_fixAfterInsertion 24 = .ok (.ifCond .ne 234, 3) := dk_154 0 234 (dk_at dksJ26_fixAfterInsertion_1 0 rfl rfl)
theorem dJ26_fixAfterInsertion_27 : decode cJ26_fixAfterInsertion 27 = .ok (.aload_n 1, 1) := dk_43 (dk_at dksJ26_fixAfterInsertion_1 3 rfl rfl)
theorem dJ26_fixAfterInsertion_28 : decode cJ26_fixAfterInsertion 28 = .ok (.invokestatic 294, 3) := dk_184 1 38 (dk_at dksJ26_fixAfterInsertion_1 4 rfl rfl)
theorem dJ26_fixAfterInsertion_31 : decode cJ26_fixAfterInsertion 31 = .ok (.aload_n 1, 1) := dk_43 (dk_at dksJ26_fixAfterInsertion_1 7 rfl rfl)
theorem dJ26_fixAfterInsertion_32 : decode cJ26_fixAfterInsertion 32 = .ok (.invokestatic 294, 3) := dk_184 1 38 (dk_at dksJ26_fixAfterInsertion_1 8 rfl rfl)
theorem dJ26_fixAfterInsertion_35 : decode cJ26_fixAfterInsertion 35 = .ok (.invokestatic 294, 3) := dk_184 1 38 (dk_at dksJ26_fixAfterInsertion_1 11 rfl rfl)
theorem dJ26_fixAfterInsertion_38 : decode cJ26_fixAfterInsertion 38 = .ok (.invokestatic 297, 3) := dk_184 1 41 (dk_at dksJ26_fixAfterInsertion_1 14 rfl rfl)
theorem dJ26_fixAfterInsertion_41 : decode cJ26_fixAfterInsertion 41 = .ok (.if_acmp .ne 110, 3) := dk_166 0 110 (dk_at dksJ26_fixAfterInsertion_1 17 rfl rfl)
theorem dJ26_fixAfterInsertion_44 : decode cJ26_fixAfterInsertion 44 = .ok (.aload_n 1, 1) := dk_43 (dk_at dksJ26_fixAfterInsertion_1 20 rfl rfl)
theorem dJ26_fixAfterInsertion_45 : decode cJ26_fixAfterInsertion 45 = .ok (.invokestatic 294, 3) := dk_184 1 38 (dk_at dksJ26_fixAfterInsertion_1 21 rfl rfl)
theorem dJ26_fixAfterInsertion_48 : decode cJ26_fixAfterInsertion 48 = .ok (.invokestatic 294, 3) := dk_184 1 38 (dk_at dksJ26_fixAfterInsertion_2 0 rfl rfl)
theorem dJ26_fixAfterInsertion_51 : decode cJ26_fixAfterInsertion 51 = .ok (.invokestatic 300, 3) := dk_184 1 44 (dk_at dksJ26_fixAfterInsertion_2 3 rfl rfl)
theorem dJ26_fixAfterInsertion_54 : decode cJ26_fixAfterInsertion 54 = .ok (.astore_n 2, 1) := dk_77 (dk_at dksJ26_fixAfterInsertion_2 6 rfl rfl)
theorem dJ26_fixAfterInsertion_55 : decode cJ26_fixAfterInsertion 55 = .ok (.aload_n 2, 1) := dk_44 (dk_at dksJ26_fixAfterInsertion_2 7 rfl rfl)
theorem dJ26_fixAfterInsertion_56 : decode cJ26_fixAfterInsertion 56 = .ok (.invokestatic 303, 3) := dk_184 1 47 (dk_at dksJ26_fixAfterInsertion_2 8 rfl rfl)
theorem dJ26_fixAfterInsertion_59 : decode cJ26_fixAfterInsertion 59 = .ok (.ifCond .ne 38, 3) := dk_154 0 38 (dk_at dksJ26_fixAfterInsertion_2 11 rfl rfl)
theorem dJ26_fixAfterInsertion_62 : decode cJ26_fixAfterInsertion 62 = .ok (.aload_n 1, 1) := dk_43 (dk_at dksJ26_fixAfterInsertion_2 14 rfl rfl)
theorem dJ26_fixAfterInsertion_63 : decode cJ26_fixAfterInsertion 63 = .ok (.invokestatic 294, 3) := dk_184 1 38 (dk_at dksJ26_fixAfterInsertion_2 15 rfl rfl)
theorem dJ26_fixAfterInsertion_66 : decode cJ26_fixAfterInsertion 66 = .ok (.iconst 1, 1) := dk_4 (dk_at dksJ26_fixAfterInsertion_2 18 rfl rfl)
theorem dJ26_fixAfterInsertion_67 : decode cJ26_fixAfterInsertion 67 = .ok (.invokestatic 307, 3) := dk_184 1 51 (dk_at dksJ26_fixAfterInsertion_2 19 rfl rfl)
theorem dJ26_fixAfterInsertion_70 : decode cJ26_fixAfterInsertion 70 = .ok (.aload_n 2, 1) := dk_44 (dk_at dksJ26_fixAfterInsertion_2 22 rfl rfl)
theorem dJ26_fixAfterInsertion_71 : decode cJ26_fixAfterInsertion 71 = .ok (.iconst 1, 1) := dk_4 (dk_at dksJ26_fixAfterInsertion_2 23 rfl rfl)
theorem dJ26_fixAfterInsertion_72 : decode cJ26_fixAfterInsertion 72 = .ok (.invokestatic 307, 3) := dk_184 1 51 (dk_at dksJ26_fixAfterInsertion_3 0 rfl rfl)
theorem dJ26_fixAfterInsertion_75 : decode cJ26_fixAfterInsertion 75 = .ok (.aload_n 1, 1) := dk_43 (dk_at dksJ26_fixAfterInsertion_3 3 rfl rfl)
theorem dJ26_fixAfterInsertion_76 : decode cJ26_fixAfterInsertion 76 = .ok (.invokestatic 294, 3) := dk_184 1 38 (dk_at dksJ26_fixAfterInsertion_3 4 rfl rfl)
theorem dJ26_fixAfterInsertion_79 : decode cJ26_fixAfterInsertion 79 = .ok (.invokestatic 294, 3) := dk_184 1 38 (dk_at dksJ26_fixAfterInsertion_3 7 rfl rfl)
theorem dJ26_fixAfterInsertion_82 : decode cJ26_fixAfterInsertion 82 = .ok (.iconst 0, 1) := dk_3 (dk_at dksJ26_fixAfterInsertion_3 10 rfl rfl)
theorem dJ26_fixAfterInsertion_83 : decode cJ26_fixAfterInsertion 83 = .ok (.invokestatic 307, 3) := dk_184 1 51 (dk_at dksJ26_fixAfterInsertion_3 11 rfl rfl)
theorem dJ26_fixAfterInsertion_86 : decode cJ26_fixAfterInsertion 86 = .ok (.aload_n 1, 1) := dk_43 (dk_at dksJ26_fixAfterInsertion_3 14 rfl rfl)
theorem dJ26_fixAfterInsertion_87 : decode cJ26_fixAfterInsertion 87 = .ok (.invokestatic 294, 3) := dk_184 1 38 (dk_at dksJ26_fixAfterInsertion_3 15 rfl rfl)
theorem dJ26_fixAfterInsertion_90 : decode cJ26_fixAfterInsertion 90 = .ok (.invokestatic 294, 3) := dk_184 1 38 (dk_at dksJ26_fixAfterInsertion_3 18 rfl rfl)
theorem dJ26_fixAfterInsertion_93 : decode cJ26_fixAfterInsertion 93 = .ok (.astore_n 1, 1) := dk_76 (dk_at dksJ26_fixAfterInsertion_3 21 rfl rfl)
theorem dJ26_fixAfterInsertion_94 : decode cJ26_fixAfterInsertion 94 = .ok (.goto 54, 3) := dk_167 0 54 (dk_at dksJ26_fixAfterInsertion_4 0 rfl rfl)
theorem dJ26_fixAfterInsertion_97 : decode cJ26_fixAfterInsertion 97 = .ok (.aload_n 1, 1) := dk_43 (dk_at dksJ26_fixAfterInsertion_4 3 rfl rfl)
theorem dJ26_fixAfterInsertion_98 : decode cJ26_fixAfterInsertion 98 = .ok (.aload_n 1, 1) := dk_43 (dk_at dksJ26_fixAfterInsertion_4 4 rfl rfl)
theorem dJ26_fixAfterInsertion_99 : decode cJ26_fixAfterInsertion 99 = .ok (.invokestatic 294, 3) := dk_184 1 38 (dk_at dksJ26_fixAfterInsertion_4 5 rfl rfl)
theorem dJ26_fixAfterInsertion_102 : decode cJ26_fixAfterInsertion 102 = .ok (.invokestatic 300, 3) := dk_184 1 44 (dk_at dksJ26_fixAfterInsertion_4 8 rfl rfl)
theorem dJ26_fixAfterInsertion_105 : decode cJ26_fixAfterInsertion 105 = .ok (.if_acmp .ne 13, 3) := dk_166 0 13 (dk_at dksJ26_fixAfterInsertion_4 11 rfl rfl)
theorem dJ26_fixAfterInsertion_108 : decode cJ26_fixAfterInsertion 108 = .ok (.aload_n 1, 1) := dk_43 (dk_at dksJ26_fixAfterInsertion_4 14 rfl rfl)
theorem dJ26_fixAfterInsertion_109 : decode cJ26_fixAfterInsertion 109 = .ok (.invokestatic 294, 3) := dk_184 1 38 (dk_at dksJ26_fixAfterInsertion_4 15 rfl rfl)
theorem dJ26_fixAfterInsertion_112 : decode cJ26_fixAfterInsertion 112 = .ok (.astore_n 1, 1) := dk_76 (dk_at dksJ26_fixAfterInsertion_4 18 rfl rfl)
theorem dJ26_fixAfterInsertion_113 : decode cJ26_fixAfterInsertion 113 = .ok (.aload_n 0, 1) := dk_42 (dk_at dksJ26_fixAfterInsertion_4 19 rfl rfl)
theorem dJ26_fixAfterInsertion_114 : decode cJ26_fixAfterInsertion 114 = .ok (.aload_n 1, 1) := dk_43 (dk_at dksJ26_fixAfterInsertion_4 20 rfl rfl)
theorem dJ26_fixAfterInsertion_115 : decode cJ26_fixAfterInsertion 115 = .ok (.invokevirtual 311, 3) := dk_182 1 55 (dk_at dksJ26_fixAfterInsertion_4 21 rfl rfl)
theorem dJ26_fixAfterInsertion_118 : decode cJ26_fixAfterInsertion 118 = .ok (.aload_n 1, 1) := dk_43 (dk_at dksJ26_fixAfterInsertion_5 0 rfl rfl)
theorem dJ26_fixAfterInsertion_119 : decode cJ26_fixAfterInsertion 119 = .ok (.invokestatic 294, 3) := dk_184 1 38 (dk_at dksJ26_fixAfterInsertion_5 1 rfl rfl)
theorem dJ26_fixAfterInsertion_122 : decode cJ26_fixAfterInsertion 122 = .ok (.iconst 1, 1) := dk_4 (dk_at dksJ26_fixAfterInsertion_5 4 rfl rfl)
theorem dJ26_fixAfterInsertion_123 : decode cJ26_fixAfterInsertion 123 = .ok (.invokestatic 307, 3) := dk_184 1 51 (dk_at dksJ26_fixAfterInsertion_5 5 rfl rfl)
theorem dJ26_fixAfterInsertion_126 : decode cJ26_fixAfterInsertion 126 = .ok (.aload_n 1, 1) := dk_43 (dk_at dksJ26_fixAfterInsertion_5 8 rfl rfl)
theorem dJ26_fixAfterInsertion_127 : decode cJ26_fixAfterInsertion 127 = .ok (.invokestatic 294, 3) := dk_184 1 38 (dk_at dksJ26_fixAfterInsertion_5 9 rfl rfl)
theorem dJ26_fixAfterInsertion_130 : decode cJ26_fixAfterInsertion 130 = .ok (.invokestatic 294, 3) := dk_184 1 38 (dk_at dksJ26_fixAfterInsertion_5 12 rfl rfl)
theorem dJ26_fixAfterInsertion_133 : decode cJ26_fixAfterInsertion 133 = .ok (.iconst 0, 1) := dk_3 (dk_at dksJ26_fixAfterInsertion_5 15 rfl rfl)
theorem dJ26_fixAfterInsertion_134 : decode cJ26_fixAfterInsertion 134 = .ok (.invokestatic 307, 3) := dk_184 1 51 (dk_at dksJ26_fixAfterInsertion_5 16 rfl rfl)
theorem dJ26_fixAfterInsertion_137 : decode cJ26_fixAfterInsertion 137 = .ok (.aload_n 0, 1) := dk_42 (dk_at dksJ26_fixAfterInsertion_5 19 rfl rfl)
theorem dJ26_fixAfterInsertion_138 : decode cJ26_fixAfterInsertion 138 = .ok (.aload_n 1, 1) := dk_43 (dk_at dksJ26_fixAfterInsertion_5 20 rfl rfl)
theorem dJ26_fixAfterInsertion_139 : decode cJ26_fixAfterInsertion 139 = .ok (.invokestatic 294, 3) := dk_184 1 38 (dk_at dksJ26_fixAfterInsertion_5 21 rfl rfl)
theorem dJ26_fixAfterInsertion_142 : decode cJ26_fixAfterInsertion 142 = .ok (.invokestatic 294, 3) := dk_184 1 38 (dk_at dksJ26_fixAfterInsertion_6 0 rfl rfl)
theorem dJ26_fixAfterInsertion_145 : decode cJ26_fixAfterInsertion 145 = .ok (.invokevirtual 314, 3) := dk_182 1 58 (dk_at dksJ26_fixAfterInsertion_6 3 rfl rfl)
theorem dJ26_fixAfterInsertion_148 : decode cJ26_fixAfterInsertion 148 = .ok (.goto (-143), 3) := dk_167 255 113 (dk_at dksJ26_fixAfterInsertion_6 6 rfl rfl)
theorem dJ26_fixAfterInsertion_151 : decode cJ26_fixAfterInsertion 151 = .ok (.aload_n 1, 1) := dk_43 (dk_at dksJ26_fixAfterInsertion_6 9 rfl rfl)
theorem dJ26_fixAfterInsertion_152 : decode cJ26_fixAfterInsertion 152 = .ok (.invokestatic 294, 3) := dk_184 1 38 (dk_at dksJ26_fixAfterInsertion_6 10 rfl rfl)
theorem dJ26_fixAfterInsertion_155 : decode cJ26_fixAfterInsertion 155 = .ok (.invokestatic 294, 3) := dk_184 1 38 (dk_at dksJ26_fixAfterInsertion_6 13 rfl rfl)
theorem dJ26_fixAfterInsertion_158 : decode cJ26_fixAfterInsertion 158 = .ok (.invokestatic 297, 3) := dk_184 1 41 (dk_at dksJ26_fixAfterInsertion_6 16 rfl rfl)
theorem dJ26_fixAfterInsertion_161 : decode cJ26_fixAfterInsertion 161 = .ok (.astore_n 2, 1) := dk_77 (dk_at dksJ26_fixAfterInsertion_6 19 rfl rfl)
theorem dJ26_fixAfterInsertion_162 : decode cJ26_fixAfterInsertion 162 = .ok (.aload_n 2, 1) := dk_44 (dk_at dksJ26_fixAfterInsertion_6 20 rfl rfl)
theorem dJ26_fixAfterInsertion_163 : decode cJ26_fixAfterInsertion 163 = .ok (.invokestatic 303, 3) := dk_184 1 47 (dk_at dksJ26_fixAfterInsertion_6 21 rfl rfl)
theorem dJ26_fixAfterInsertion_166 : decode cJ26_fixAfterInsertion 166 = .ok (.ifCond .ne 38, 3) := dk_154 0 38 (dk_at dksJ26_fixAfterInsertion_7 0 rfl rfl)
theorem dJ26_fixAfterInsertion_169 : decode cJ26_fixAfterInsertion 169 = .ok (.aload_n 1, 1) := dk_43 (dk_at dksJ26_fixAfterInsertion_7 3 rfl rfl)
theorem dJ26_fixAfterInsertion_170 : decode cJ26_fixAfterInsertion 170 = .ok (.invokestatic 294, 3) := dk_184 1 38 (dk_at dksJ26_fixAfterInsertion_7 4 rfl rfl)
theorem dJ26_fixAfterInsertion_173 : decode cJ26_fixAfterInsertion 173 = .ok (.iconst 1, 1) := dk_4 (dk_at dksJ26_fixAfterInsertion_7 7 rfl rfl)
theorem dJ26_fixAfterInsertion_174 : decode cJ26_fixAfterInsertion 174 = .ok (.invokestatic 307, 3) := dk_184 1 51 (dk_at dksJ26_fixAfterInsertion_7 8 rfl rfl)
theorem dJ26_fixAfterInsertion_177 : decode cJ26_fixAfterInsertion 177 = .ok (.aload_n 2, 1) := dk_44 (dk_at dksJ26_fixAfterInsertion_7 11 rfl rfl)
theorem dJ26_fixAfterInsertion_178 : decode cJ26_fixAfterInsertion 178 = .ok (.iconst 1, 1) := dk_4 (dk_at dksJ26_fixAfterInsertion_7 12 rfl rfl)
theorem dJ26_fixAfterInsertion_179 : decode cJ26_fixAfterInsertion 179 = .ok (.invokestatic 307, 3) := dk_184 1 51 (dk_at dksJ26_fixAfterInsertion_7 13 rfl rfl)
theorem dJ26_fixAfterInsertion_182 : decode cJ26_fixAfterInsertion 182 = .ok (.aload_n 1, 1) := dk_43 (dk_at dksJ26_fixAfterInsertion_7 16 rfl rfl)
theorem dJ26_fixAfterInsertion_183 : decode cJ26_fixAfterInsertion 183 = .ok (.invokestatic 294, 3) := dk_184 1 38 (dk_at dksJ26_fixAfterInsertion_7 17 rfl rfl)
theorem dJ26_fixAfterInsertion_186 : decode cJ26_fixAfterInsertion 186 = .ok (.invokestatic 294, 3) := dk_184 1 38 (dk_at dksJ26_fixAfterInsertion_7 20 rfl rfl)
theorem dJ26_fixAfterInsertion_189 : decode cJ26_fixAfterInsertion 189 = .ok (.iconst 0, 1) := dk_3 (dk_at dksJ26_fixAfterInsertion_7 23 rfl rfl)
theorem dJ26_fixAfterInsertion_190 : decode cJ26_fixAfterInsertion 190 = .ok (.invokestatic 307, 3) := dk_184 1 51 (dk_at dksJ26_fixAfterInsertion_8 0 rfl rfl)
theorem dJ26_fixAfterInsertion_193 : decode cJ26_fixAfterInsertion 193 = .ok (.aload_n 1, 1) := dk_43 (dk_at dksJ26_fixAfterInsertion_8 3 rfl rfl)
theorem dJ26_fixAfterInsertion_194 : decode cJ26_fixAfterInsertion 194 = .ok (.invokestatic 294, 3) := dk_184 1 38 (dk_at dksJ26_fixAfterInsertion_8 4 rfl rfl)
theorem dJ26_fixAfterInsertion_197 : decode cJ26_fixAfterInsertion 197 = .ok (.invokestatic 294, 3) := dk_184 1 38 (dk_at dksJ26_fixAfterInsertion_8 7 rfl rfl)
theorem dJ26_fixAfterInsertion_200 : decode cJ26_fixAfterInsertion 200 = .ok (.astore_n 1, 1) := dk_76 (dk_at dksJ26_fixAfterInsertion_8 10 rfl rfl)
theorem dJ26_fixAfterInsertion_201 : decode cJ26_fixAfterInsertion 201 = .ok (.goto 54, 3) := dk_167 0 54 (dk_at dksJ26_fixAfterInsertion_8 11 rfl rfl)
theorem dJ26_fixAfterInsertion_204 : decode cJ26_fixAfterInsertion 204 = .ok (.aload_n 1, 1) := dk_43 (dk_at dksJ26_fixAfterInsertion_8 14 rfl rfl)
theorem dJ26_fixAfterInsertion_205 : decode cJ26_fixAfterInsertion 205 = .ok (.aload_n 1, 1) := dk_43 (dk_at dksJ26_fixAfterInsertion_8 15 rfl rfl)
theorem dJ26_fixAfterInsertion_206 : decode cJ26_fixAfterInsertion 206 = .ok (.invokestatic 294, 3) := dk_184 1 38 (dk_at dksJ26_fixAfterInsertion_8 16 rfl rfl)
theorem dJ26_fixAfterInsertion_209 : decode cJ26_fixAfterInsertion 209 = .ok (.invokestatic 297, 3) := dk_184 1 41 (dk_at dksJ26_fixAfterInsertion_8 19 rfl rfl)
theorem dJ26_fixAfterInsertion_212 : decode cJ26_fixAfterInsertion 212 = .ok (.if_acmp .ne 13, 3) := dk_166 0 13 (dk_at dksJ26_fixAfterInsertion_9 0 rfl rfl)
theorem dJ26_fixAfterInsertion_215 : decode cJ26_fixAfterInsertion 215 = .ok (.aload_n 1, 1) := dk_43 (dk_at dksJ26_fixAfterInsertion_9 3 rfl rfl)
theorem dJ26_fixAfterInsertion_216 : decode cJ26_fixAfterInsertion 216 = .ok (.invokestatic 294, 3) := dk_184 1 38 (dk_at dksJ26_fixAfterInsertion_9 4 rfl rfl)
theorem dJ26_fixAfterInsertion_219 : decode cJ26_fixAfterInsertion 219 = .ok (.astore_n 1, 1) := dk_76 (dk_at dksJ26_fixAfterInsertion_9 7 rfl rfl)
theorem dJ26_fixAfterInsertion_220 : decode cJ26_fixAfterInsertion 220 = .ok (.aload_n 0, 1) := dk_42 (dk_at dksJ26_fixAfterInsertion_9 8 rfl rfl)
theorem dJ26_fixAfterInsertion_221 : decode cJ26_fixAfterInsertion 221 = .ok (.aload_n 1, 1) := dk_43 (dk_at dksJ26_fixAfterInsertion_9 9 rfl rfl)
theorem dJ26_fixAfterInsertion_222 : decode cJ26_fixAfterInsertion 222 = .ok (.invokevirtual 314, 3) := dk_182 1 58 (dk_at dksJ26_fixAfterInsertion_9 10 rfl rfl)
theorem dJ26_fixAfterInsertion_225 : decode cJ26_fixAfterInsertion 225 = .ok (.aload_n 1, 1) := dk_43 (dk_at dksJ26_fixAfterInsertion_9 13 rfl rfl)
theorem dJ26_fixAfterInsertion_226 : decode cJ26_fixAfterInsertion 226 = .ok (.invokestatic 294, 3) := dk_184 1 38 (dk_at dksJ26_fixAfterInsertion_9 14 rfl rfl)
theorem dJ26_fixAfterInsertion_229 : decode cJ26_fixAfterInsertion 229 = .ok (.iconst 1, 1) := dk_4 (dk_at dksJ26_fixAfterInsertion_9 17 rfl rfl)
theorem dJ26_fixAfterInsertion_230 : decode cJ26_fixAfterInsertion 230 = .ok (.invokestatic 307, 3) := dk_184 1 51 (dk_at dksJ26_fixAfterInsertion_9 18 rfl rfl)
theorem dJ26_fixAfterInsertion_233 : decode cJ26_fixAfterInsertion 233 = .ok (.aload_n 1, 1) := dk_43 (dk_at dksJ26_fixAfterInsertion_9 21 rfl rfl)
theorem dJ26_fixAfterInsertion_234 : decode cJ26_fixAfterInsertion 234 = .ok (.invokestatic 294, 3) := dk_184 1 38 (dk_at dksJ26_fixAfterInsertion_10 0 rfl rfl)
theorem dJ26_fixAfterInsertion_237 : decode cJ26_fixAfterInsertion 237 = .ok (.invokestatic 294, 3) := dk_184 1 38 (dk_at dksJ26_fixAfterInsertion_10 3 rfl rfl)
theorem dJ26_fixAfterInsertion_240 : decode cJ26_fixAfterInsertion 240 = .ok (.iconst 0, 1) := dk_3 (dk_at dksJ26_fixAfterInsertion_10 6 rfl rfl)
theorem dJ26_fixAfterInsertion_241 : decode cJ26_fixAfterInsertion 241 = .ok (.invokestatic 307, 3) := dk_184 1 51 (dk_at dksJ26_fixAfterInsertion_10 7 rfl rfl)
theorem dJ26_fixAfterInsertion_244 : decode cJ26_fixAfterInsertion 244 = .ok (.aload_n 0, 1) := dk_42 (dk_at dksJ26_fixAfterInsertion_10 10 rfl rfl)
theorem dJ26_fixAfterInsertion_245 : decode cJ26_fixAfterInsertion 245 = .ok (.aload_n 1, 1) := dk_43 (dk_at dksJ26_fixAfterInsertion_10 11 rfl rfl)
theorem dJ26_fixAfterInsertion_246 : decode cJ26_fixAfterInsertion 246 = .ok (.invokestatic 294, 3) := dk_184 1 38 (dk_at dksJ26_fixAfterInsertion_10 12 rfl rfl)
theorem dJ26_fixAfterInsertion_249 : decode cJ26_fixAfterInsertion 249 = .ok (.invokestatic 294, 3) := dk_184 1 38 (dk_at dksJ26_fixAfterInsertion_10 15 rfl rfl)
theorem dJ26_fixAfterInsertion_252 : decode cJ26_fixAfterInsertion 252 = .ok (.invokevirtual 311, 3) := dk_182 1 55 (dk_at dksJ26_fixAfterInsertion_10 18 rfl rfl)
theorem dJ26_fixAfterInsertion_255 : decode cJ26_fixAfterInsertion 255 = .ok (.goto (-250), 3) := dk_167 255 6 (dk_at dksJ26_fixAfterInsertion_10 21 rfl rfl)
theorem dJ26_fixAfterInsertion_258 : decode cJ26_fixAfterInsertion 258 = .ok (.aload_n 0, 1) := dk_42 (dk_at dksJ26_fixAfterInsertion_11 0 rfl rfl)
theorem dJ26_fixAfterInsertion_259 : decode cJ26_fixAfterInsertion 259 = .ok (.getfield 101, 3) := dk_180 0 101 (dk_at dksJ26_fixAfterInsertion_11 1 rfl rfl)
theorem dJ26_fixAfterInsertion_262 : decode cJ26_fixAfterInsertion 262 = .ok (.iconst 1, 1) := dk_4 (dk_at dksJ26_fixAfterInsertion_11 4 rfl rfl)
theorem dJ26_fixAfterInsertion_263 : decode cJ26_fixAfterInsertion 263 = .ok (.putfield 290, 3) := dk_181 1 34 (dk_at dksJ26_fixAfterInsertion_11 5 rfl rfl)
theorem dJ26_fixAfterInsertion_266 : decode cJ26_fixAfterInsertion 266 = .ok (.return_, 1) := dk_177 (dk_at dksJ26_fixAfterInsertion_11 8 rfl rfl)
abbrev cJ26_parentOf : ByteArray := prog_63_method_77_code
def yJ26_parentOf : MethodName := ⟨RJ26, "parentOf", "(Ljava/util/TreeMap$Entry;)Ljava/util/TreeMap$Entry;"⟩
def dkwJ26_parentOf_0 : List UInt8 := [42, 199, 0, 7, 1, 167, 0, 7, 42, 180, 0, 124, 176]
abbrev dktJ26_parentOf_0 : List UInt8 := dkwJ26_parentOf_0 ++ []
theorem dksJ26_parentOf_0 : cJ26_parentOf.data.toList.drop 0 = dktJ26_parentOf_0 := by decide +kernel
theorem dJ26_parentOf_0 : decode cJ26_parentOf 0 = .ok (.aload_n 0, 1) := dk_42 (dk_at dksJ26_parentOf_0 0 rfl rfl)
theorem dJ26_parentOf_1 : decode cJ26_parentOf 1 = .ok (.ifnonnull 7, 3) := dk_199 0 7 (dk_at dksJ26_parentOf_0 1 rfl rfl)
theorem dJ26_parentOf_4 : decode cJ26_parentOf 4 = .ok (.aconst_null, 1) := dk_1 (dk_at dksJ26_parentOf_0 4 rfl rfl)
theorem dJ26_parentOf_5 : decode cJ26_parentOf 5 = .ok (.goto 7, 3) := dk_167 0 7 (dk_at dksJ26_parentOf_0 5 rfl rfl)
theorem dJ26_parentOf_8 : decode cJ26_parentOf 8 = .ok (.aload_n 0, 1) := dk_42 (dk_at dksJ26_parentOf_0 8 rfl rfl)
theorem dJ26_parentOf_9 : decode cJ26_parentOf 9 = .ok (.getfield 124, 3) := dk_180 0 124 (dk_at dksJ26_parentOf_0 9 rfl rfl)
theorem dJ26_parentOf_12 : decode cJ26_parentOf 12 = .ok (.areturn, 1) := dk_176 (dk_at dksJ26_parentOf_0 12 rfl rfl)
abbrev cJ26_leftOf : ByteArray := prog_63_method_79_code
def yJ26_leftOf : MethodName := ⟨RJ26, "leftOf", "(Ljava/util/TreeMap$Entry;)Ljava/util/TreeMap$Entry;"⟩
def dkwJ26_leftOf_0 : List UInt8 := [42, 199, 0, 7, 1, 167, 0, 7, 42, 180, 0, 111, 176]
abbrev dktJ26_leftOf_0 : List UInt8 := dkwJ26_leftOf_0 ++ []
theorem dksJ26_leftOf_0 : cJ26_leftOf.data.toList.drop 0 = dktJ26_leftOf_0 := by decide +kernel
theorem dJ26_leftOf_0 : decode cJ26_leftOf 0 = .ok (.aload_n 0, 1) := dk_42 (dk_at dksJ26_leftOf_0 0 rfl rfl)
theorem dJ26_leftOf_1 : decode cJ26_leftOf 1 = .ok (.ifnonnull 7, 3) := dk_199 0 7 (dk_at dksJ26_leftOf_0 1 rfl rfl)
theorem dJ26_leftOf_4 : decode cJ26_leftOf 4 = .ok (.aconst_null, 1) := dk_1 (dk_at dksJ26_leftOf_0 4 rfl rfl)
theorem dJ26_leftOf_5 : decode cJ26_leftOf 5 = .ok (.goto 7, 3) := dk_167 0 7 (dk_at dksJ26_leftOf_0 5 rfl rfl)
theorem dJ26_leftOf_8 : decode cJ26_leftOf 8 = .ok (.aload_n 0, 1) := dk_42 (dk_at dksJ26_leftOf_0 8 rfl rfl)
theorem dJ26_leftOf_9 : decode cJ26_leftOf 9 = .ok (.getfield 111, 3) := dk_180 0 111 (dk_at dksJ26_leftOf_0 9 rfl rfl)
theorem dJ26_leftOf_12 : decode cJ26_leftOf 12 = .ok (.areturn, 1) := dk_176 (dk_at dksJ26_leftOf_0 12 rfl rfl)
abbrev cJ26_rightOf : ByteArray := prog_63_method_80_code
def yJ26_rightOf : MethodName := ⟨RJ26, "rightOf", "(Ljava/util/TreeMap$Entry;)Ljava/util/TreeMap$Entry;"⟩
def dkwJ26_rightOf_0 : List UInt8 := [42, 199, 0, 7, 1, 167, 0, 7, 42, 180, 0, 114, 176]
abbrev dktJ26_rightOf_0 : List UInt8 := dkwJ26_rightOf_0 ++ []
theorem dksJ26_rightOf_0 : cJ26_rightOf.data.toList.drop 0 = dktJ26_rightOf_0 := by decide +kernel
theorem dJ26_rightOf_0 : decode cJ26_rightOf 0 = .ok (.aload_n 0, 1) := dk_42 (dk_at dksJ26_rightOf_0 0 rfl rfl)
theorem dJ26_rightOf_1 : decode cJ26_rightOf 1 = .ok (.ifnonnull 7, 3) := dk_199 0 7 (dk_at dksJ26_rightOf_0 1 rfl rfl)
theorem dJ26_rightOf_4 : decode cJ26_rightOf 4 = .ok (.aconst_null, 1) := dk_1 (dk_at dksJ26_rightOf_0 4 rfl rfl)
theorem dJ26_rightOf_5 : decode cJ26_rightOf 5 = .ok (.goto 7, 3) := dk_167 0 7 (dk_at dksJ26_rightOf_0 5 rfl rfl)
theorem dJ26_rightOf_8 : decode cJ26_rightOf 8 = .ok (.aload_n 0, 1) := dk_42 (dk_at dksJ26_rightOf_0 8 rfl rfl)
theorem dJ26_rightOf_9 : decode cJ26_rightOf 9 = .ok (.getfield 114, 3) := dk_180 0 114 (dk_at dksJ26_rightOf_0 9 rfl rfl)
theorem dJ26_rightOf_12 : decode cJ26_rightOf 12 = .ok (.areturn, 1) := dk_176 (dk_at dksJ26_rightOf_0 12 rfl rfl)
abbrev cJ26_colorOf : ByteArray := prog_63_method_76_code
def yJ26_colorOf : MethodName := ⟨RJ26, "colorOf", "(Ljava/util/TreeMap$Entry;)Z"⟩
def dkwJ26_colorOf_0 : List UInt8 := [42, 199, 0, 7, 4, 167, 0, 7, 42, 180, 1, 34, 172]
abbrev dktJ26_colorOf_0 : List UInt8 := dkwJ26_colorOf_0 ++ []
theorem dksJ26_colorOf_0 : cJ26_colorOf.data.toList.drop 0 = dktJ26_colorOf_0 := by decide +kernel
theorem dJ26_colorOf_0 : decode cJ26_colorOf 0 = .ok (.aload_n 0, 1) := dk_42 (dk_at dksJ26_colorOf_0 0 rfl rfl)
theorem dJ26_colorOf_1 : decode cJ26_colorOf 1 = .ok (.ifnonnull 7, 3) := dk_199 0 7 (dk_at dksJ26_colorOf_0 1 rfl rfl)
theorem dJ26_colorOf_4 : decode cJ26_colorOf 4 = .ok (.iconst 1, 1) := dk_4 (dk_at dksJ26_colorOf_0 4 rfl rfl)
theorem dJ26_colorOf_5 : decode cJ26_colorOf 5 = .ok (.goto 7, 3) := dk_167 0 7 (dk_at dksJ26_colorOf_0 5 rfl rfl)
theorem dJ26_colorOf_8 : decode cJ26_colorOf 8 = .ok (.aload_n 0, 1) := dk_42 (dk_at dksJ26_colorOf_0 8 rfl rfl)
theorem dJ26_colorOf_9 : decode cJ26_colorOf 9 = .ok (.getfield 290, 3) := dk_180 1 34 (dk_at dksJ26_colorOf_0 9 rfl rfl)
theorem dJ26_colorOf_12 : decode cJ26_colorOf 12 = .ok (.ireturn, 1) := dk_172 (dk_at dksJ26_colorOf_0 12 rfl rfl)
abbrev cJ26_setColor : ByteArray := prog_63_method_78_code
def yJ26_setColor : MethodName := ⟨RJ26, "setColor", "(Ljava/util/TreeMap$Entry;Z)V"⟩
def dkwJ26_setColor_0 : List UInt8 := [42, 198, 0, 8, 42, 27, 181, 1, 34, 177]
abbrev dktJ26_setColor_0 : List UInt8 := dkwJ26_setColor_0 ++ []
theorem dksJ26_setColor_0 : cJ26_setColor.data.toList.drop 0 = dktJ26_setColor_0 := by decide +kernel
theorem dJ26_setColor_0 : decode cJ26_setColor 0 = .ok (.aload_n 0, 1) := dk_42 (dk_at dksJ26_setColor_0 0 rfl rfl)
theorem dJ26_setColor_1 : decode cJ26_setColor 1 = .ok (.ifnull 8, 3) := dk_198 0 8 (dk_at dksJ26_setColor_0 1 rfl rfl)
theorem dJ26_setColor_4 : decode cJ26_setColor 4 = .ok (.aload_n 0, 1) := dk_42 (dk_at dksJ26_setColor_0 4 rfl rfl)
theorem dJ26_setColor_5 : decode cJ26_setColor 5 = .ok (.iload_n 1, 1) := dk_27 (dk_at dksJ26_setColor_0 5 rfl rfl)
theorem dJ26_setColor_6 : decode cJ26_setColor 6 = .ok (.putfield 290, 3) := dk_181 1 34 (dk_at dksJ26_setColor_0 6 rfl rfl)
theorem dJ26_setColor_9 : decode cJ26_setColor 9 = .ok (.return_, 1) := dk_177 (dk_at dksJ26_setColor_0 9 rfl rfl)
abbrev cJ26_rotateLeft : ByteArray := prog_63_method_81_code
def yJ26_rotateLeft : MethodName := ⟨RJ26, "rotateLeft", "(Ljava/util/TreeMap$Entry;)V"⟩
def dkwJ26_rotateLeft_4 : List UInt8 := [177]
abbrev dktJ26_rotateLeft_4 : List UInt8 := dkwJ26_rotateLeft_4 ++ []
def dkwJ26_rotateLeft_3 : List UInt8 := [181, 0, 111, 167, 0, 11, 43, 180, 0, 124, 44, 181, 0, 114, 44, 43, 181, 0, 111, 43, 44, 181, 0, 124]
abbrev dktJ26_rotateLeft_3 : List UInt8 := dkwJ26_rotateLeft_3 ++ dktJ26_rotateLeft_4
def dkwJ26_rotateLeft_2 : List UInt8 := [44, 181, 0, 101, 167, 0, 33, 43, 180, 0, 124, 180, 0, 111, 43, 166, 0, 14, 43, 180, 0, 124, 44]
abbrev dktJ26_rotateLeft_2 : List UInt8 := dkwJ26_rotateLeft_2 ++ dktJ26_rotateLeft_3
def dkwJ26_rotateLeft_1 : List UInt8 := [44, 180, 0, 111, 43, 181, 0, 124, 44, 43, 180, 0, 124, 181, 0, 124, 43, 180, 0, 124, 199, 0, 11, 42]
abbrev dktJ26_rotateLeft_1 : List UInt8 := dkwJ26_rotateLeft_1 ++ dktJ26_rotateLeft_2
def dkwJ26_rotateLeft_0 : List UInt8 := [43, 198, 0, 94, 43, 180, 0, 114, 77, 43, 44, 180, 0, 111, 181, 0, 114, 44, 180, 0, 111, 198, 0, 11]
abbrev dktJ26_rotateLeft_0 : List UInt8 := dkwJ26_rotateLeft_0 ++ dktJ26_rotateLeft_1
theorem dksJ26_rotateLeft_0 : cJ26_rotateLeft.data.toList.drop 0 = dktJ26_rotateLeft_0 := by decide +kernel
theorem dksJ26_rotateLeft_1 : cJ26_rotateLeft.data.toList.drop 24 = dktJ26_rotateLeft_1 := dk_seg dksJ26_rotateLeft_0 24 rfl rfl
theorem dksJ26_rotateLeft_2 : cJ26_rotateLeft.data.toList.drop 48 = dktJ26_rotateLeft_2 := dk_seg dksJ26_rotateLeft_1 24 rfl rfl
theorem dksJ26_rotateLeft_3 : cJ26_rotateLeft.data.toList.drop 71 = dktJ26_rotateLeft_3 := dk_seg dksJ26_rotateLeft_2 23 rfl rfl
theorem dksJ26_rotateLeft_4 : cJ26_rotateLeft.data.toList.drop 95 = dktJ26_rotateLeft_4 := dk_seg dksJ26_rotateLeft_3 24 rfl rfl
theorem dJ26_rotateLeft_0 : decode cJ26_rotateLeft 0 = .ok (.aload_n 1, 1) := dk_43 (dk_at dksJ26_rotateLeft_0 0 rfl rfl)
theorem dJ26_rotateLeft_1 : decode cJ26_rotateLeft 1 = .ok (.ifnull 94, 3) := dk_198 0 94 (dk_at dksJ26_rotateLeft_0 1 rfl rfl)
theorem dJ26_rotateLeft_4 : decode cJ26_rotateLeft 4 = .ok (.aload_n 1, 1) := dk_43 (dk_at dksJ26_rotateLeft_0 4 rfl rfl)
theorem dJ26_rotateLeft_5 : decode cJ26_rotateLeft 5 = .ok (.getfield 114, 3) := dk_180 0 114 (dk_at dksJ26_rotateLeft_0 5 rfl rfl)
theorem dJ26_rotateLeft_8 : decode cJ26_rotateLeft 8 = .ok (.astore_n 2, 1) := dk_77 (dk_at dksJ26_rotateLeft_0 8 rfl rfl)
theorem dJ26_rotateLeft_9 : decode cJ26_rotateLeft 9 = .ok (.aload_n 1, 1) := dk_43 (dk_at dksJ26_rotateLeft_0 9 rfl rfl)
theorem dJ26_rotateLeft_10 : decode cJ26_rotateLeft 10 = .ok (.aload_n 2, 1) := dk_44 (dk_at dksJ26_rotateLeft_0 10 rfl rfl)
theorem dJ26_rotateLeft_11 : decode cJ26_rotateLeft 11 = .ok (.getfield 111, 3) := dk_180 0 111 (dk_at dksJ26_rotateLeft_0 11 rfl rfl)
theorem dJ26_rotateLeft_14 : decode cJ26_rotateLeft 14 = .ok (.putfield 114, 3) := dk_181 0 114 (dk_at dksJ26_rotateLeft_0 14 rfl rfl)
theorem dJ26_rotateLeft_17 : decode cJ26_rotateLeft 17 = .ok (.aload_n 2, 1) := dk_44 (dk_at dksJ26_rotateLeft_0 17 rfl rfl)
theorem dJ26_rotateLeft_18 : decode cJ26_rotateLeft 18 = .ok (.getfield 111, 3) := dk_180 0 111 (dk_at dksJ26_rotateLeft_0 18 rfl rfl)
theorem dJ26_rotateLeft_21 : decode cJ26_rotateLeft 21 = .ok (.ifnull 11, 3) := dk_198 0 11 (dk_at dksJ26_rotateLeft_0 21 rfl rfl)
theorem dJ26_rotateLeft_24 : decode cJ26_rotateLeft 24 = .ok (.aload_n 2, 1) := dk_44 (dk_at dksJ26_rotateLeft_1 0 rfl rfl)
theorem dJ26_rotateLeft_25 : decode cJ26_rotateLeft 25 = .ok (.getfield 111, 3) := dk_180 0 111 (dk_at dksJ26_rotateLeft_1 1 rfl rfl)
theorem dJ26_rotateLeft_28 : decode cJ26_rotateLeft 28 = .ok (.aload_n 1, 1) := dk_43 (dk_at dksJ26_rotateLeft_1 4 rfl rfl)
theorem dJ26_rotateLeft_29 : decode cJ26_rotateLeft 29 = .ok (.putfield 124, 3) := dk_181 0 124 (dk_at dksJ26_rotateLeft_1 5 rfl rfl)
theorem dJ26_rotateLeft_32 : decode cJ26_rotateLeft 32 = .ok (.aload_n 2, 1) := dk_44 (dk_at dksJ26_rotateLeft_1 8 rfl rfl)
theorem dJ26_rotateLeft_33 : decode cJ26_rotateLeft 33 = .ok (.aload_n 1, 1) := dk_43 (dk_at dksJ26_rotateLeft_1 9 rfl rfl)
theorem dJ26_rotateLeft_34 : decode cJ26_rotateLeft 34 = .ok (.getfield 124, 3) := dk_180 0 124 (dk_at dksJ26_rotateLeft_1 10 rfl rfl)
theorem dJ26_rotateLeft_37 : decode cJ26_rotateLeft 37 = .ok (.putfield 124, 3) := dk_181 0 124 (dk_at dksJ26_rotateLeft_1 13 rfl rfl)
theorem dJ26_rotateLeft_40 : decode cJ26_rotateLeft 40 = .ok (.aload_n 1, 1) := dk_43 (dk_at dksJ26_rotateLeft_1 16 rfl rfl)
theorem dJ26_rotateLeft_41 : decode cJ26_rotateLeft 41 = .ok (.getfield 124, 3) := dk_180 0 124 (dk_at dksJ26_rotateLeft_1 17 rfl rfl)
theorem dJ26_rotateLeft_44 : decode cJ26_rotateLeft 44 = .ok (.ifnonnull 11, 3) := dk_199 0 11 (dk_at dksJ26_rotateLeft_1 20 rfl rfl)
theorem dJ26_rotateLeft_47 : decode cJ26_rotateLeft 47 = .ok (.aload_n 0, 1) := dk_42 (dk_at dksJ26_rotateLeft_1 23 rfl rfl)
theorem dJ26_rotateLeft_48 : decode cJ26_rotateLeft 48 = .ok (.aload_n 2, 1) := dk_44 (dk_at dksJ26_rotateLeft_2 0 rfl rfl)
theorem dJ26_rotateLeft_49 : decode cJ26_rotateLeft 49 = .ok (.putfield 101, 3) := dk_181 0 101 (dk_at dksJ26_rotateLeft_2 1 rfl rfl)
theorem dJ26_rotateLeft_52 : decode cJ26_rotateLeft 52 = .ok (.goto 33, 3) := dk_167 0 33 (dk_at dksJ26_rotateLeft_2 4 rfl rfl)
theorem dJ26_rotateLeft_55 : decode cJ26_rotateLeft 55 = .ok (.aload_n 1, 1) := dk_43 (dk_at dksJ26_rotateLeft_2 7 rfl rfl)
theorem dJ26_rotateLeft_56 : decode cJ26_rotateLeft 56 = .ok (.getfield 124, 3) := dk_180 0 124 (dk_at dksJ26_rotateLeft_2 8 rfl rfl)
theorem dJ26_rotateLeft_59 : decode cJ26_rotateLeft 59 = .ok (.getfield 111, 3) := dk_180 0 111 (dk_at dksJ26_rotateLeft_2 11 rfl rfl)
theorem dJ26_rotateLeft_62 : decode cJ26_rotateLeft 62 = .ok (.aload_n 1, 1) := dk_43 (dk_at dksJ26_rotateLeft_2 14 rfl rfl)
theorem dJ26_rotateLeft_63 : decode cJ26_rotateLeft 63 = .ok (.if_acmp .ne 14, 3) := dk_166 0 14 (dk_at dksJ26_rotateLeft_2 15 rfl rfl)
theorem dJ26_rotateLeft_66 : decode cJ26_rotateLeft 66 = .ok (.aload_n 1, 1) := dk_43 (dk_at dksJ26_rotateLeft_2 18 rfl rfl)
theorem dJ26_rotateLeft_67 : decode cJ26_rotateLeft 67 = .ok (.getfield 124, 3) := dk_180 0 124 (dk_at dksJ26_rotateLeft_2 19 rfl rfl)
theorem dJ26_rotateLeft_70 : decode cJ26_rotateLeft 70 = .ok (.aload_n 2, 1) := dk_44 (dk_at dksJ26_rotateLeft_2 22 rfl rfl)
theorem dJ26_rotateLeft_71 : decode cJ26_rotateLeft 71 = .ok (.putfield 111, 3) := dk_181 0 111 (dk_at dksJ26_rotateLeft_3 0 rfl rfl)
theorem dJ26_rotateLeft_74 : decode cJ26_rotateLeft 74 = .ok (.goto 11, 3) := dk_167 0 11 (dk_at dksJ26_rotateLeft_3 3 rfl rfl)
theorem dJ26_rotateLeft_77 : decode cJ26_rotateLeft 77 = .ok (.aload_n 1, 1) := dk_43 (dk_at dksJ26_rotateLeft_3 6 rfl rfl)
theorem dJ26_rotateLeft_78 : decode cJ26_rotateLeft 78 = .ok (.getfield 124, 3) := dk_180 0 124 (dk_at dksJ26_rotateLeft_3 7 rfl rfl)
theorem dJ26_rotateLeft_81 : decode cJ26_rotateLeft 81 = .ok (.aload_n 2, 1) := dk_44 (dk_at dksJ26_rotateLeft_3 10 rfl rfl)
theorem dJ26_rotateLeft_82 : decode cJ26_rotateLeft 82 = .ok (.putfield 114, 3) := dk_181 0 114 (dk_at dksJ26_rotateLeft_3 11 rfl rfl)
theorem dJ26_rotateLeft_85 : decode cJ26_rotateLeft 85 = .ok (.aload_n 2, 1) := dk_44 (dk_at dksJ26_rotateLeft_3 14 rfl rfl)
theorem dJ26_rotateLeft_86 : decode cJ26_rotateLeft 86 = .ok (.aload_n 1, 1) := dk_43 (dk_at dksJ26_rotateLeft_3 15 rfl rfl)
theorem dJ26_rotateLeft_87 : decode cJ26_rotateLeft 87 = .ok (.putfield 111, 3) := dk_181 0 111 (dk_at dksJ26_rotateLeft_3 16 rfl rfl)
theorem dJ26_rotateLeft_90 : decode cJ26_rotateLeft 90 = .ok (.aload_n 1, 1) := dk_43 (dk_at dksJ26_rotateLeft_3 19 rfl rfl)
theorem dJ26_rotateLeft_91 : decode cJ26_rotateLeft 91 = .ok (.aload_n 2, 1) := dk_44 (dk_at dksJ26_rotateLeft_3 20 rfl rfl)
theorem dJ26_rotateLeft_92 : decode cJ26_rotateLeft 92 = .ok (.putfield 124, 3) := dk_181 0 124 (dk_at dksJ26_rotateLeft_3 21 rfl rfl)
theorem dJ26_rotateLeft_95 : decode cJ26_rotateLeft 95 = .ok (.return_, 1) := dk_177 (dk_at dksJ26_rotateLeft_4 0 rfl rfl)
abbrev cJ26_rotateRight : ByteArray := prog_63_method_82_code
def yJ26_rotateRight : MethodName := ⟨RJ26, "rotateRight", "(Ljava/util/TreeMap$Entry;)V"⟩
def dkwJ26_rotateRight_4 : List UInt8 := [177]
abbrev dktJ26_rotateRight_4 : List UInt8 := dkwJ26_rotateRight_4 ++ []
def dkwJ26_rotateRight_3 : List UInt8 := [181, 0, 114, 167, 0, 11, 43, 180, 0, 124, 44, 181, 0, 111, 44, 43, 181, 0, 114, 43, 44, 181, 0, 124]
abbrev dktJ26_rotateRight_3 : List UInt8 := dkwJ26_rotateRight_3 ++ dktJ26_rotateRight_4
def dkwJ26_rotateRight_2 : List UInt8 := [44, 181, 0, 101, 167, 0, 33, 43, 180, 0, 124, 180, 0, 114, 43, 166, 0, 14, 43, 180, 0, 124, 44]
abbrev dktJ26_rotateRight_2 : List UInt8 := dkwJ26_rotateRight_2 ++ dktJ26_rotateRight_3
def dkwJ26_rotateRight_1 : List UInt8 := [44, 180, 0, 114, 43, 181, 0, 124, 44, 43, 180, 0, 124, 181, 0, 124, 43, 180, 0, 124, 199, 0, 11, 42]
abbrev dktJ26_rotateRight_1 : List UInt8 := dkwJ26_rotateRight_1 ++ dktJ26_rotateRight_2
def dkwJ26_rotateRight_0 : List UInt8 := [43, 198, 0, 94, 43, 180, 0, 111, 77, 43, 44, 180, 0, 114, 181, 0, 111, 44, 180, 0, 114, 198, 0, 11]
abbrev dktJ26_rotateRight_0 : List UInt8 := dkwJ26_rotateRight_0 ++ dktJ26_rotateRight_1
theorem dksJ26_rotateRight_0 : cJ26_rotateRight.data.toList.drop 0 = dktJ26_rotateRight_0 := by decide +kernel
theorem dksJ26_rotateRight_1 : cJ26_rotateRight.data.toList.drop 24 = dktJ26_rotateRight_1 := dk_seg dksJ26_rotateRight_0 24 rfl rfl
theorem dksJ26_rotateRight_2 : cJ26_rotateRight.data.toList.drop 48 = dktJ26_rotateRight_2 := dk_seg dksJ26_rotateRight_1 24 rfl rfl
theorem dksJ26_rotateRight_3 : cJ26_rotateRight.data.toList.drop 71 = dktJ26_rotateRight_3 := dk_seg dksJ26_rotateRight_2 23 rfl rfl
theorem dksJ26_rotateRight_4 : cJ26_rotateRight.data.toList.drop 95 = dktJ26_rotateRight_4 := dk_seg dksJ26_rotateRight_3 24 rfl rfl
theorem dJ26_rotateRight_0 : decode cJ26_rotateRight 0 = .ok (.aload_n 1, 1) := dk_43 (dk_at dksJ26_rotateRight_0 0 rfl rfl)
theorem dJ26_rotateRight_1 : decode cJ26_rotateRight 1 = .ok (.ifnull 94, 3) := dk_198 0 94 (dk_at dksJ26_rotateRight_0 1 rfl rfl)
theorem dJ26_rotateRight_4 : decode cJ26_rotateRight 4 = .ok (.aload_n 1, 1) := dk_43 (dk_at dksJ26_rotateRight_0 4 rfl rfl)
theorem dJ26_rotateRight_5 : decode cJ26_rotateRight 5 = .ok (.getfield 111, 3) := dk_180 0 111 (dk_at dksJ26_rotateRight_0 5 rfl rfl)
theorem dJ26_rotateRight_8 : decode cJ26_rotateRight 8 = .ok (.astore_n 2, 1) := dk_77 (dk_at dksJ26_rotateRight_0 8 rfl rfl)
theorem dJ26_rotateRight_9 : decode cJ26_rotateRight 9 = .ok (.aload_n 1, 1) := dk_43 (dk_at dksJ26_rotateRight_0 9 rfl rfl)
theorem dJ26_rotateRight_10 : decode cJ26_rotateRight 10 = .ok (.aload_n 2, 1) := dk_44 (dk_at dksJ26_rotateRight_0 10 rfl rfl)
theorem dJ26_rotateRight_11 : decode cJ26_rotateRight 11 = .ok (.getfield 114, 3) := dk_180 0 114 (dk_at dksJ26_rotateRight_0 11 rfl rfl)
theorem dJ26_rotateRight_14 : decode cJ26_rotateRight 14 = .ok (.putfield 111, 3) := dk_181 0 111 (dk_at dksJ26_rotateRight_0 14 rfl rfl)
theorem dJ26_rotateRight_17 : decode cJ26_rotateRight 17 = .ok (.aload_n 2, 1) := dk_44 (dk_at dksJ26_rotateRight_0 17 rfl rfl)
theorem dJ26_rotateRight_18 : decode cJ26_rotateRight 18 = .ok (.getfield 114, 3) := dk_180 0 114 (dk_at dksJ26_rotateRight_0 18 rfl rfl)
theorem dJ26_rotateRight_21 : decode cJ26_rotateRight 21 = .ok (.ifnull 11, 3) := dk_198 0 11 (dk_at dksJ26_rotateRight_0 21 rfl rfl)
theorem dJ26_rotateRight_24 : decode cJ26_rotateRight 24 = .ok (.aload_n 2, 1) := dk_44 (dk_at dksJ26_rotateRight_1 0 rfl rfl)
theorem dJ26_rotateRight_25 : decode cJ26_rotateRight 25 = .ok (.getfield 114, 3) := dk_180 0 114 (dk_at dksJ26_rotateRight_1 1 rfl rfl)
theorem dJ26_rotateRight_28 : decode cJ26_rotateRight 28 = .ok (.aload_n 1, 1) := dk_43 (dk_at dksJ26_rotateRight_1 4 rfl rfl)
theorem dJ26_rotateRight_29 : decode cJ26_rotateRight 29 = .ok (.putfield 124, 3) := dk_181 0 124 (dk_at dksJ26_rotateRight_1 5 rfl rfl)
theorem dJ26_rotateRight_32 : decode cJ26_rotateRight 32 = .ok (.aload_n 2, 1) := dk_44 (dk_at dksJ26_rotateRight_1 8 rfl rfl)
theorem dJ26_rotateRight_33 : decode cJ26_rotateRight 33 = .ok (.aload_n 1, 1) := dk_43 (dk_at dksJ26_rotateRight_1 9 rfl rfl)
theorem dJ26_rotateRight_34 : decode cJ26_rotateRight 34 = .ok (.getfield 124, 3) := dk_180 0 124 (dk_at dksJ26_rotateRight_1 10 rfl rfl)
theorem dJ26_rotateRight_37 : decode cJ26_rotateRight 37 = .ok (.putfield 124, 3) := dk_181 0 124 (dk_at dksJ26_rotateRight_1 13 rfl rfl)
theorem dJ26_rotateRight_40 : decode cJ26_rotateRight 40 = .ok (.aload_n 1, 1) := dk_43 (dk_at dksJ26_rotateRight_1 16 rfl rfl)
theorem dJ26_rotateRight_41 : decode cJ26_rotateRight 41 = .ok (.getfield 124, 3) := dk_180 0 124 (dk_at dksJ26_rotateRight_1 17 rfl rfl)
theorem dJ26_rotateRight_44 : decode cJ26_rotateRight 44 = .ok (.ifnonnull 11, 3) := dk_199 0 11 (dk_at dksJ26_rotateRight_1 20 rfl rfl)
theorem dJ26_rotateRight_47 : decode cJ26_rotateRight 47 = .ok (.aload_n 0, 1) := dk_42 (dk_at dksJ26_rotateRight_1 23 rfl rfl)
theorem dJ26_rotateRight_48 : decode cJ26_rotateRight 48 = .ok (.aload_n 2, 1) := dk_44 (dk_at dksJ26_rotateRight_2 0 rfl rfl)
theorem dJ26_rotateRight_49 : decode cJ26_rotateRight 49 = .ok (.putfield 101, 3) := dk_181 0 101 (dk_at dksJ26_rotateRight_2 1 rfl rfl)
theorem dJ26_rotateRight_52 : decode cJ26_rotateRight 52 = .ok (.goto 33, 3) := dk_167 0 33 (dk_at dksJ26_rotateRight_2 4 rfl rfl)
theorem dJ26_rotateRight_55 : decode cJ26_rotateRight 55 = .ok (.aload_n 1, 1) := dk_43 (dk_at dksJ26_rotateRight_2 7 rfl rfl)
theorem dJ26_rotateRight_56 : decode cJ26_rotateRight 56 = .ok (.getfield 124, 3) := dk_180 0 124 (dk_at dksJ26_rotateRight_2 8 rfl rfl)
theorem dJ26_rotateRight_59 : decode cJ26_rotateRight 59 = .ok (.getfield 114, 3) := dk_180 0 114 (dk_at dksJ26_rotateRight_2 11 rfl rfl)
theorem dJ26_rotateRight_62 : decode cJ26_rotateRight 62 = .ok (.aload_n 1, 1) := dk_43 (dk_at dksJ26_rotateRight_2 14 rfl rfl)
theorem dJ26_rotateRight_63 : decode cJ26_rotateRight 63 = .ok (.if_acmp .ne 14, 3) := dk_166 0 14 (dk_at dksJ26_rotateRight_2 15 rfl rfl)
theorem dJ26_rotateRight_66 : decode cJ26_rotateRight 66 = .ok (.aload_n 1, 1) := dk_43 (dk_at dksJ26_rotateRight_2 18 rfl rfl)
theorem dJ26_rotateRight_67 : decode cJ26_rotateRight 67 = .ok (.getfield 124, 3) := dk_180 0 124 (dk_at dksJ26_rotateRight_2 19 rfl rfl)
theorem dJ26_rotateRight_70 : decode cJ26_rotateRight 70 = .ok (.aload_n 2, 1) := dk_44 (dk_at dksJ26_rotateRight_2 22 rfl rfl)
theorem dJ26_rotateRight_71 : decode cJ26_rotateRight 71 = .ok (.putfield 114, 3) := dk_181 0 114 (dk_at dksJ26_rotateRight_3 0 rfl rfl)
theorem dJ26_rotateRight_74 : decode cJ26_rotateRight 74 = .ok (.goto 11, 3) := dk_167 0 11 (dk_at dksJ26_rotateRight_3 3 rfl rfl)
theorem dJ26_rotateRight_77 : decode cJ26_rotateRight 77 = .ok (.aload_n 1, 1) := dk_43 (dk_at dksJ26_rotateRight_3 6 rfl rfl)
theorem dJ26_rotateRight_78 : decode cJ26_rotateRight 78 = .ok (.getfield 124, 3) := dk_180 0 124 (dk_at dksJ26_rotateRight_3 7 rfl rfl)
theorem dJ26_rotateRight_81 : decode cJ26_rotateRight 81 = .ok (.aload_n 2, 1) := dk_44 (dk_at dksJ26_rotateRight_3 10 rfl rfl)
theorem dJ26_rotateRight_82 : decode cJ26_rotateRight 82 = .ok (.putfield 111, 3) := dk_181 0 111 (dk_at dksJ26_rotateRight_3 11 rfl rfl)
theorem dJ26_rotateRight_85 : decode cJ26_rotateRight 85 = .ok (.aload_n 2, 1) := dk_44 (dk_at dksJ26_rotateRight_3 14 rfl rfl)
theorem dJ26_rotateRight_86 : decode cJ26_rotateRight 86 = .ok (.aload_n 1, 1) := dk_43 (dk_at dksJ26_rotateRight_3 15 rfl rfl)
theorem dJ26_rotateRight_87 : decode cJ26_rotateRight 87 = .ok (.putfield 114, 3) := dk_181 0 114 (dk_at dksJ26_rotateRight_3 16 rfl rfl)
theorem dJ26_rotateRight_90 : decode cJ26_rotateRight 90 = .ok (.aload_n 1, 1) := dk_43 (dk_at dksJ26_rotateRight_3 19 rfl rfl)
theorem dJ26_rotateRight_91 : decode cJ26_rotateRight 91 = .ok (.aload_n 2, 1) := dk_44 (dk_at dksJ26_rotateRight_3 20 rfl rfl)
theorem dJ26_rotateRight_92 : decode cJ26_rotateRight 92 = .ok (.putfield 124, 3) := dk_181 0 124 (dk_at dksJ26_rotateRight_3 21 rfl rfl)
theorem dJ26_rotateRight_95 : decode cJ26_rotateRight 95 = .ok (.return_, 1) := dk_177 (dk_at dksJ26_rotateRight_4 0 rfl rfl)
abbrev cJ26_successor : ByteArray := prog_63_method_74_code
def yJ26_successor : MethodName := ⟨RJ26, "successor", "(Ljava/util/TreeMap$Entry;)Ljava/util/TreeMap$Entry;"⟩
def dkwJ26_successor_2 : List UInt8 := [44, 43, 180, 0, 114, 166, 0, 13, 43, 77, 43, 180, 0, 124, 76, 167, 255, 237, 43, 176]
abbrev dktJ26_successor_2 : List UInt8 := dkwJ26_successor_2 ++ []
def dkwJ26_successor_1 : List UInt8 := [198, 0, 11, 43, 180, 0, 111, 76, 167, 255, 244, 43, 176, 42, 180, 0, 124, 76, 42, 77, 43, 198, 0, 21]
abbrev dktJ26_successor_1 : List UInt8 := dkwJ26_successor_1 ++ dktJ26_successor_2
def dkwJ26_successor_0 : List UInt8 := [42, 199, 0, 5, 1, 176, 42, 180, 0, 114, 198, 0, 25, 42, 180, 0, 114, 76, 43, 180, 0, 111]
abbrev dktJ26_successor_0 : List UInt8 := dkwJ26_successor_0 ++ dktJ26_successor_1
theorem dksJ26_successor_0 : cJ26_successor.data.toList.drop 0 = dktJ26_successor_0 := by decide +kernel
theorem dksJ26_successor_1 : cJ26_successor.data.toList.drop 22 = dktJ26_successor_1 := dk_seg dksJ26_successor_0 22 rfl rfl
theorem dksJ26_successor_2 : cJ26_successor.data.toList.drop 46 = dktJ26_successor_2 := dk_seg dksJ26_successor_1 24 rfl rfl
theorem dJ26_successor_0 : decode cJ26_successor 0 = .ok (.aload_n 0, 1) := dk_42 (dk_at dksJ26_successor_0 0 rfl rfl)
theorem dJ26_successor_1 : decode cJ26_successor 1 = .ok (.ifnonnull 5, 3) := dk_199 0 5 (dk_at dksJ26_successor_0 1 rfl rfl)
theorem dJ26_successor_4 : decode cJ26_successor 4 = .ok (.aconst_null, 1) := dk_1 (dk_at dksJ26_successor_0 4 rfl rfl)
theorem dJ26_successor_5 : decode cJ26_successor 5 = .ok (.areturn, 1) := dk_176 (dk_at dksJ26_successor_0 5 rfl rfl)
theorem dJ26_successor_6 : decode cJ26_successor 6 = .ok (.aload_n 0, 1) := dk_42 (dk_at dksJ26_successor_0 6 rfl rfl)
theorem dJ26_successor_7 : decode cJ26_successor 7 = .ok (.getfield 114, 3) := dk_180 0 114 (dk_at dksJ26_successor_0 7 rfl rfl)
theorem dJ26_successor_10 : decode cJ26_successor 10 = .ok (.ifnull 25, 3) := dk_198 0 25 (dk_at dksJ26_successor_0 10 rfl rfl)
theorem dJ26_successor_13 : decode cJ26_successor 13 = .ok (.aload_n 0, 1) := dk_42 (dk_at dksJ26_successor_0 13 rfl rfl)
theorem dJ26_successor_14 : decode cJ26_successor 14 = .ok (.getfield 114, 3) := dk_180 0 114 (dk_at dksJ26_successor_0 14 rfl rfl)
theorem dJ26_successor_17 : decode cJ26_successor 17 = .ok (.astore_n 1, 1) := dk_76 (dk_at dksJ26_successor_0 17 rfl rfl)
theorem dJ26_successor_18 : decode cJ26_successor 18 = .ok (.aload_n 1, 1) := dk_43 (dk_at dksJ26_successor_0 18 rfl rfl)
theorem dJ26_successor_19 : decode cJ26_successor 19 = .ok (.getfield 111, 3) := dk_180 0 111 (dk_at dksJ26_successor_0 19 rfl rfl)
theorem dJ26_successor_22 : decode cJ26_successor 22 = .ok (.ifnull 11, 3) := dk_198 0 11 (dk_at dksJ26_successor_1 0 rfl rfl)
theorem dJ26_successor_25 : decode cJ26_successor 25 = .ok (.aload_n 1, 1) := dk_43 (dk_at dksJ26_successor_1 3 rfl rfl)
theorem dJ26_successor_26 : decode cJ26_successor 26 = .ok (.getfield 111, 3) := dk_180 0 111 (dk_at dksJ26_successor_1 4 rfl rfl)
theorem dJ26_successor_29 : decode cJ26_successor 29 = .ok (.astore_n 1, 1) := dk_76 (dk_at dksJ26_successor_1 7 rfl rfl)
theorem dJ26_successor_30 : decode cJ26_successor 30 = .ok (.goto (-12), 3) := dk_167 255 244 (dk_at dksJ26_successor_1 8 rfl rfl)
theorem dJ26_successor_33 : decode cJ26_successor 33 = .ok (.aload_n 1, 1) := dk_43 (dk_at dksJ26_successor_1 11 rfl rfl)
theorem dJ26_successor_34 : decode cJ26_successor 34 = .ok (.areturn, 1) := dk_176 (dk_at dksJ26_successor_1 12 rfl rfl)
theorem dJ26_successor_35 : decode cJ26_successor 35 = .ok (.aload_n 0, 1) := dk_42 (dk_at dksJ26_successor_1 13 rfl rfl)
theorem dJ26_successor_36 : decode cJ26_successor 36 = .ok (.getfield 124, 3) := dk_180 0 124 (dk_at dksJ26_successor_1 14 rfl rfl)
theorem dJ26_successor_39 : decode cJ26_successor 39 = .ok (.astore_n 1, 1) := dk_76 (dk_at dksJ26_successor_1 17 rfl rfl)
theorem dJ26_successor_40 : decode cJ26_successor 40 = .ok (.aload_n 0, 1) := dk_42 (dk_at dksJ26_successor_1 18 rfl rfl)
theorem dJ26_successor_41 : decode cJ26_successor 41 = .ok (.astore_n 2, 1) := dk_77 (dk_at dksJ26_successor_1 19 rfl rfl)
theorem dJ26_successor_42 : decode cJ26_successor 42 = .ok (.aload_n 1, 1) := dk_43 (dk_at dksJ26_successor_1 20 rfl rfl)
theorem dJ26_successor_43 : decode cJ26_successor 43 = .ok (.ifnull 21, 3) := dk_198 0 21 (dk_at dksJ26_successor_1 21 rfl rfl)
theorem dJ26_successor_46 : decode cJ26_successor 46 = .ok (.aload_n 2, 1) := dk_44 (dk_at dksJ26_successor_2 0 rfl rfl)
theorem dJ26_successor_47 : decode cJ26_successor 47 = .ok (.aload_n 1, 1) := dk_43 (dk_at dksJ26_successor_2 1 rfl rfl)
theorem dJ26_successor_48 : decode cJ26_successor 48 = .ok (.getfield 114, 3) := dk_180 0 114 (dk_at dksJ26_successor_2 2 rfl rfl)
theorem dJ26_successor_51 : decode cJ26_successor 51 = .ok (.if_acmp .ne 13, 3) := dk_166 0 13 (dk_at dksJ26_successor_2 5 rfl rfl)
theorem dJ26_successor_54 : decode cJ26_successor 54 = .ok (.aload_n 1, 1) := dk_43 (dk_at dksJ26_successor_2 8 rfl rfl)
theorem dJ26_successor_55 : decode cJ26_successor 55 = .ok (.astore_n 2, 1) := dk_77 (dk_at dksJ26_successor_2 9 rfl rfl)
theorem dJ26_successor_56 : decode cJ26_successor 56 = .ok (.aload_n 1, 1) := dk_43 (dk_at dksJ26_successor_2 10 rfl rfl)
theorem dJ26_successor_57 : decode cJ26_successor 57 = .ok (.getfield 124, 3) := dk_180 0 124 (dk_at dksJ26_successor_2 11 rfl rfl)
theorem dJ26_successor_60 : decode cJ26_successor 60 = .ok (.astore_n 1, 1) := dk_76 (dk_at dksJ26_successor_2 14 rfl rfl)
theorem dJ26_successor_61 : decode cJ26_successor 61 = .ok (.goto (-19), 3) := dk_167 255 237 (dk_at dksJ26_successor_2 15 rfl rfl)
theorem dJ26_successor_64 : decode cJ26_successor 64 = .ok (.aload_n 1, 1) := dk_43 (dk_at dksJ26_successor_2 18 rfl rfl)
theorem dJ26_successor_65 : decode cJ26_successor 65 = .ok (.areturn, 1) := dk_176 (dk_at dksJ26_successor_2 19 rfl rfl)
abbrev cJ26_size : ByteArray := prog_63_method_5_code
def yJ26_size : MethodName := ⟨RJ26, "size", "()I"⟩
theorem dJ26_size_0 : decode cJ26_size 0 = .ok (.aload_n 0, 1) := by decide +kernel
theorem dJ26_size_1 : decode cJ26_size 1 = .ok (.getfield 7, 3) := by decide +kernel
theorem dJ26_size_4 : decode cJ26_size 4 = .ok (.ireturn, 1) := by decide +kernel
abbrev cJ26_containsKey : ByteArray := prog_63_method_6_code
def yJ26_containsKey : MethodName := ⟨RJ26, "containsKey", "(Ljava/lang/Object;)Z"⟩
def dkwJ26_containsKey_0 : List UInt8 := [42, 43, 182, 0, 50, 198, 0, 7, 4, 167, 0, 4, 3, 172]
abbrev dktJ26_containsKey_0 : List UInt8 := dkwJ26_containsKey_0 ++ []
theorem dksJ26_containsKey_0 : cJ26_containsKey.data.toList.drop 0 = dktJ26_containsKey_0 := by decide +kernel
theorem dJ26_containsKey_0 : decode cJ26_containsKey 0 = .ok (.aload_n 0, 1) := dk_42 (dk_at dksJ26_containsKey_0 0 rfl rfl)
theorem dJ26_containsKey_1 : decode cJ26_containsKey 1 = .ok (.aload_n 1, 1) := dk_43 (dk_at dksJ26_containsKey_0 1 rfl rfl)
theorem dJ26_containsKey_2 : decode cJ26_containsKey 2 = .ok (.invokevirtual 50, 3) := dk_182 0 50 (dk_at dksJ26_containsKey_0 2 rfl rfl)
theorem dJ26_containsKey_5 : decode cJ26_containsKey 5 = .ok (.ifnull 7, 3) := dk_198 0 7 (dk_at dksJ26_containsKey_0 5 rfl rfl)
theorem dJ26_containsKey_8 : decode cJ26_containsKey 8 = .ok (.iconst 1, 1) := dk_4 (dk_at dksJ26_containsKey_0 8 rfl rfl)
theorem dJ26_containsKey_9 : decode cJ26_containsKey 9 = .ok (.goto 4, 3) := dk_167 0 4 (dk_at dksJ26_containsKey_0 9 rfl rfl)
theorem dJ26_containsKey_12 : decode cJ26_containsKey 12 = .ok (.iconst 0, 1) := dk_3 (dk_at dksJ26_containsKey_0 12 rfl rfl)
theorem dJ26_containsKey_13 : decode cJ26_containsKey 13 = .ok (.ireturn, 1) := dk_172 (dk_at dksJ26_containsKey_0 13 rfl rfl)
abbrev cJ26_getEntry : ByteArray := prog_63_method_15_code
def yJ26_getEntry : MethodName := ⟨RJ26, "getEntry", "(Ljava/lang/Object;)Ljava/util/TreeMap$Entry;"⟩
def dkwJ26_getEntry_3 : List UInt8 := [45, 176, 167, 255, 212, 1, 176]
abbrev dktJ26_getEntry_3 : List UInt8 := dkwJ26_getEntry_3 ++ []
def dkwJ26_getEntry_2 : List UInt8 := [156, 0, 11, 45, 180, 0, 111, 78, 167, 0, 18, 21, 4, 158, 0, 11, 45, 180, 0, 114, 78, 167, 0, 5]
abbrev dktJ26_getEntry_2 : List UInt8 := dkwJ26_getEntry_2 ++ dktJ26_getEntry_3
def dkwJ26_getEntry_1 : List UInt8 := [180, 0, 101, 78, 45, 198, 0, 46, 44, 45, 180, 0, 105, 185, 0, 107, 2, 0, 54, 4, 21, 4]
abbrev dktJ26_getEntry_1 : List UInt8 := dkwJ26_getEntry_1 ++ dktJ26_getEntry_2
def dkwJ26_getEntry_0 : List UInt8 := [42, 180, 0, 16, 198, 0, 9, 42, 43, 182, 0, 92, 176, 43, 184, 0, 95, 87, 43, 192, 0, 99, 77, 42]
abbrev dktJ26_getEntry_0 : List UInt8 := dkwJ26_getEntry_0 ++ dktJ26_getEntry_1
theorem dksJ26_getEntry_0 : cJ26_getEntry.data.toList.drop 0 = dktJ26_getEntry_0 := by decide +kernel
theorem dksJ26_getEntry_1 : cJ26_getEntry.data.toList.drop 24 = dktJ26_getEntry_1 := dk_seg dksJ26_getEntry_0 24 rfl rfl
theorem dksJ26_getEntry_2 : cJ26_getEntry.data.toList.drop 46 = dktJ26_getEntry_2 := dk_seg dksJ26_getEntry_1 22 rfl rfl
theorem dksJ26_getEntry_3 : cJ26_getEntry.data.toList.drop 70 = dktJ26_getEntry_3 := dk_seg dksJ26_getEntry_2 24 rfl rfl
theorem dJ26_getEntry_0 : decode cJ26_getEntry 0 = .ok (.aload_n 0, 1) := dk_42 (dk_at dksJ26_getEntry_0 0 rfl rfl)
theorem dJ26_getEntry_1 : decode cJ26_getEntry 1 = .ok (.getfield 16, 3) := dk_180 0 16 (dk_at dksJ26_getEntry_0 1 rfl rfl)
theorem dJ26_getEntry_4 : decode cJ26_getEntry 4 = .ok (.ifnull 9, 3) := dk_198 0 9 (dk_at dksJ26_getEntry_0 4 rfl rfl)
theorem dJ26_getEntry_7 : decode cJ26_getEntry 7 = .ok (.aload_n 0, 1) := dk_42 (dk_at dksJ26_getEntry_0 7 rfl rfl)
theorem dJ26_getEntry_8 : decode cJ26_getEntry 8 = .ok (.aload_n 1, 1) := dk_43 (dk_at dksJ26_getEntry_0 8 rfl rfl)
theorem dJ26_getEntry_9 : decode cJ26_getEntry 9 = .ok (.invokevirtual 92, 3) := dk_182 0 92 (dk_at dksJ26_getEntry_0 9 rfl rfl)
theorem dJ26_getEntry_12 : decode cJ26_getEntry 12 = .ok (.areturn, 1) := dk_176 (dk_at dksJ26_getEntry_0 12 rfl rfl)
theorem dJ26_getEntry_13 : decode cJ26_getEntry 13 = .ok (.aload_n 1, 1) := dk_43 (dk_at dksJ26_getEntry_0 13 rfl rfl)
theorem dJ26_getEntry_14 : decode cJ26_getEntry 14 = .ok (.invokestatic 95, 3) := dk_184 0 95 (dk_at dksJ26_getEntry_0 14 rfl rfl)
theorem dJ26_getEntry_17 : decode cJ26_getEntry 17 = .ok (.pop, 1) := dk_87 (dk_at dksJ26_getEntry_0 17 rfl rfl)
theorem dJ26_getEntry_18 : decode cJ26_getEntry 18 = .ok (.aload_n 1, 1) := dk_43 (dk_at dksJ26_getEntry_0 18 rfl rfl)
theorem dJ26_getEntry_19 : decode cJ26_getEntry 19 = .ok (.checkcast 99, 3) := dk_192 0 99 (dk_at dksJ26_getEntry_0 19 rfl rfl)
theorem dJ26_getEntry_22 : decode cJ26_getEntry 22 = .ok (.astore_n 2, 1) := dk_77 (dk_at dksJ26_getEntry_0 22 rfl rfl)
theorem dJ26_getEntry_23 : decode cJ26_getEntry 23 = .ok (.aload_n 0, 1) := dk_42 (dk_at dksJ26_getEntry_0 23 rfl rfl)
theorem dJ26_getEntry_24 : decode cJ26_getEntry 24 = .ok (.getfield 101, 3) := dk_180 0 101 (dk_at dksJ26_getEntry_1 0 rfl rfl)
theorem dJ26_getEntry_27 : decode cJ26_getEntry 27 = .ok (.astore_n 3, 1) := dk_78 (dk_at dksJ26_getEntry_1 3 rfl rfl)
theorem dJ26_getEntry_28 : decode cJ26_getEntry 28 = .ok (.aload_n 3, 1) := dk_45 (dk_at dksJ26_getEntry_1 4 rfl rfl)
theorem dJ26_getEntry_29 : decode cJ26_getEntry 29 = .ok (.ifnull 46, 3) := dk_198 0 46 (dk_at dksJ26_getEntry_1 5 rfl rfl)
theorem dJ26_getEntry_32 : decode cJ26_getEntry 32 = .ok (.aload_n 2, 1) := dk_44 (dk_at dksJ26_getEntry_1 8 rfl rfl)
theorem dJ26_getEntry_33 : decode cJ26_getEntry 33 = .ok (.aload_n 3, 1) := dk_45 (dk_at dksJ26_getEntry_1 9 rfl rfl)
theorem dJ26_getEntry_34 : decode cJ26_getEntry 34 = .ok (.getfield 105, 3) := dk_180 0 105 (dk_at dksJ26_getEntry_1 10 rfl rfl)
theorem dJ26_getEntry_37 : decode cJ26_getEntry 37 = .ok (.invokeinterface 107 2, 5) := by decide +kernel
theorem dJ26_getEntry_42 : decode cJ26_getEntry 42 = .ok (.istore 4, 2) := dk_54 4 (dk_at dksJ26_getEntry_1 18 rfl rfl)
theorem dJ26_getEntry_44 : decode cJ26_getEntry 44 = .ok (.iload 4, 2) := dk_21 4 (dk_at dksJ26_getEntry_1 20 rfl rfl)
theorem dJ26_getEntry_46 : decode cJ26_getEntry 46 = .ok (.ifCond .ge 11, 3) := dk_156 0 11 (dk_at dksJ26_getEntry_2 0 rfl rfl)
theorem dJ26_getEntry_49 : decode cJ26_getEntry 49 = .ok (.aload_n 3, 1) := dk_45 (dk_at dksJ26_getEntry_2 3 rfl rfl)
theorem dJ26_getEntry_50 : decode cJ26_getEntry 50 = .ok (.getfield 111, 3) := dk_180 0 111 (dk_at dksJ26_getEntry_2 4 rfl rfl)
theorem dJ26_getEntry_53 : decode cJ26_getEntry 53 = .ok (.astore_n 3, 1) := dk_78 (dk_at dksJ26_getEntry_2 7 rfl rfl)
theorem dJ26_getEntry_54 : decode cJ26_getEntry 54 = .ok (.goto 18, 3) := dk_167 0 18 (dk_at dksJ26_getEntry_2 8 rfl rfl)
theorem dJ26_getEntry_57 : decode cJ26_getEntry 57 = .ok (.iload 4, 2) := dk_21 4 (dk_at dksJ26_getEntry_2 11 rfl rfl)
theorem dJ26_getEntry_59 : decode cJ26_getEntry 59 = .ok (.ifCond .le 11, 3) := dk_158 0 11 (dk_at dksJ26_getEntry_2 13 rfl rfl)
theorem dJ26_getEntry_62 : decode cJ26_getEntry 62 = .ok (.aload_n 3, 1) := dk_45 (dk_at dksJ26_getEntry_2 16 rfl rfl)
theorem dJ26_getEntry_63 : decode cJ26_getEntry 63 = .ok (.getfield 114, 3) := dk_180 0 114 (dk_at dksJ26_getEntry_2 17 rfl rfl)
theorem dJ26_getEntry_66 : decode cJ26_getEntry 66 = .ok (.astore_n 3, 1) := dk_78 (dk_at dksJ26_getEntry_2 20 rfl rfl)
theorem dJ26_getEntry_67 : decode cJ26_getEntry 67 = .ok (.goto 5, 3) := dk_167 0 5 (dk_at dksJ26_getEntry_2 21 rfl rfl)
theorem dJ26_getEntry_70 : decode cJ26_getEntry 70 = .ok (.aload_n 3, 1) := dk_45 (dk_at dksJ26_getEntry_3 0 rfl rfl)
theorem dJ26_getEntry_71 : decode cJ26_getEntry 71 = .ok (.areturn, 1) := dk_176 (dk_at dksJ26_getEntry_3 1 rfl rfl)
theorem dJ26_getEntry_72 : decode cJ26_getEntry 72 = .ok (.goto (-44), 3) := dk_167 255 212 (dk_at dksJ26_getEntry_3 2 rfl rfl)
theorem dJ26_getEntry_75 : decode cJ26_getEntry 75 = .ok (.aconst_null, 1) := dk_1 (dk_at dksJ26_getEntry_3 5 rfl rfl)
theorem dJ26_getEntry_76 : decode cJ26_getEntry 76 = .ok (.areturn, 1) := dk_176 (dk_at dksJ26_getEntry_3 6 rfl rfl)
abbrev cJ26_keyIterator : ByteArray := prog_63_method_65_code
def yJ26_keyIterator : MethodName := ⟨RJ26, "keyIterator", "()Ljava/util/Iterator;"⟩
def dkwJ26_keyIterator_0 : List UInt8 := [187, 1, 13, 89, 42, 42, 182, 0, 54, 183, 1, 15, 176]
abbrev dktJ26_keyIterator_0 : List UInt8 := dkwJ26_keyIterator_0 ++ []
theorem dksJ26_keyIterator_0 : cJ26_keyIterator.data.toList.drop 0 = dktJ26_keyIterator_0 := by decide +kernel
theorem dJ26_keyIterator_0 : decode cJ26_keyIterator 0 = .ok (.new 269, 3) := dk_187 1 13 (dk_at dksJ26_keyIterator_0 0 rfl rfl)
theorem dJ26_keyIterator_3 : decode cJ26_keyIterator 3 = .ok (.dup, 1) := dk_89 (dk_at dksJ26_keyIterator_0 3 rfl rfl)
theorem dJ26_keyIterator_4 : decode cJ26_keyIterator 4 = .ok (.aload_n 0, 1) := dk_42 (dk_at dksJ26_keyIterator_0 4 rfl rfl)
theorem dJ26_keyIterator_5 : decode cJ26_keyIterator 5 = .ok (.aload_n 0, 1) := dk_42 (dk_at dksJ26_keyIterator_0 5 rfl rfl)
theorem dJ26_keyIterator_6 : decode cJ26_keyIterator 6 = .ok (.invokevirtual 54, 3) := dk_182 0 54 (dk_at dksJ26_keyIterator_0 6 rfl rfl)
theorem dJ26_keyIterator_9 : decode cJ26_keyIterator 9 = .ok (.invokespecial 271, 3) := dk_183 1 15 (dk_at dksJ26_keyIterator_0 9 rfl rfl)
theorem dJ26_keyIterator_12 : decode cJ26_keyIterator 12 = .ok (.areturn, 1) := dk_176 (dk_at dksJ26_keyIterator_0 12 rfl rfl)
abbrev cJ26_getFirstEntry : ByteArray := prog_63_method_72_code
def yJ26_getFirstEntry : MethodName := ⟨RJ26, "getFirstEntry", "()Ljava/util/TreeMap$Entry;"⟩
def dkwJ26_getFirstEntry_1 : List UInt8 := [43, 176]
abbrev dktJ26_getFirstEntry_1 : List UInt8 := dkwJ26_getFirstEntry_1 ++ []
def dkwJ26_getFirstEntry_0 : List UInt8 := [42, 180, 0, 101, 76, 43, 198, 0, 18, 43, 180, 0, 111, 198, 0, 11, 43, 180, 0, 111, 76, 167, 255, 244]
abbrev dktJ26_getFirstEntry_0 : List UInt8 := dkwJ26_getFirstEntry_0 ++ dktJ26_getFirstEntry_1
theorem dksJ26_getFirstEntry_0 : cJ26_getFirstEntry.data.toList.drop 0 = dktJ26_getFirstEntry_0 := by decide +kernel
theorem dksJ26_getFirstEntry_1 : cJ26_getFirstEntry.data.toList.drop 24 = dktJ26_getFirstEntry_1 := dk_seg dksJ26_getFirstEntry_0 24 rfl rfl
theorem dJ26_getFirstEntry_0 : decode cJ26_getFirstEntry 0 = .ok (.aload_n 0, 1) := dk_42 (dk_at dksJ26_getFirstEntry_0 0 rfl rfl)
theorem dJ26_getFirstEntry_1 : decode cJ26_getFirstEntry 1 = .ok (.getfield 101, 3) := dk_180 0 101 (dk_at dksJ26_getFirstEntry_0 1 rfl rfl)
theorem dJ26_getFirstEntry_4 : decode cJ26_getFirstEntry 4 = .ok (.astore_n 1, 1) := dk_76 (dk_at dksJ26_getFirstEntry_0 4 rfl rfl)
theorem dJ26_getFirstEntry_5 : decode cJ26_getFirstEntry 5 = .ok (.aload_n 1, 1) := dk_43 (dk_at dksJ26_getFirstEntry_0 5 rfl rfl)
theorem dJ26_getFirstEntry_6 : decode cJ26_getFirstEntry 6 = .ok (.ifnull 18, 3) := dk_198 0 18 (dk_at dksJ26_getFirstEntry_0 6 rfl rfl)
theorem dJ26_getFirstEntry_9 : decode cJ26_getFirstEntry 9 = .ok (.aload_n 1, 1) := dk_43 (dk_at dksJ26_getFirstEntry_0 9 rfl rfl)
theorem dJ26_getFirstEntry_10 : decode cJ26_getFirstEntry 10 = .ok (.getfield 111, 3) := dk_180 0 111 (dk_at dksJ26_getFirstEntry_0 10 rfl rfl)
theorem dJ26_getFirstEntry_13 : decode cJ26_getFirstEntry 13 = .ok (.ifnull 11, 3) := dk_198 0 11 (dk_at dksJ26_getFirstEntry_0 13 rfl rfl)
theorem dJ26_getFirstEntry_16 : decode cJ26_getFirstEntry 16 = .ok (.aload_n 1, 1) := dk_43 (dk_at dksJ26_getFirstEntry_0 16 rfl rfl)
theorem dJ26_getFirstEntry_17 : decode cJ26_getFirstEntry 17 = .ok (.getfield 111, 3) := dk_180 0 111 (dk_at dksJ26_getFirstEntry_0 17 rfl rfl)
theorem dJ26_getFirstEntry_20 : decode cJ26_getFirstEntry 20 = .ok (.astore_n 1, 1) := dk_76 (dk_at dksJ26_getFirstEntry_0 20 rfl rfl)
theorem dJ26_getFirstEntry_21 : decode cJ26_getFirstEntry 21 = .ok (.goto (-12), 3) := dk_167 255 244 (dk_at dksJ26_getFirstEntry_0 21 rfl rfl)
theorem dJ26_getFirstEntry_24 : decode cJ26_getFirstEntry 24 = .ok (.aload_n 1, 1) := dk_43 (dk_at dksJ26_getFirstEntry_1 0 rfl rfl)
theorem dJ26_getFirstEntry_25 : decode cJ26_getFirstEntry 25 = .ok (.areturn, 1) := dk_176 (dk_at dksJ26_getFirstEntry_1 1 rfl rfl)
abbrev cJ26_navigableKeySet : ByteArray := prog_63_method_50_code
def yJ26_navigableKeySet : MethodName := ⟨RJ26, "navigableKeySet", "()Ljava/util/NavigableSet;"⟩
def dkwJ26_navigableKeySet_1 : List UInt8 := [181, 0, 191, 176]
abbrev dktJ26_navigableKeySet_1 : List UInt8 := dkwJ26_navigableKeySet_1 ++ []
def dkwJ26_navigableKeySet_0 : List UInt8 := [42, 180, 0, 191, 76, 43, 198, 0, 7, 43, 167, 0, 16, 42, 187, 0, 222, 89, 42, 183, 0, 224, 90]
abbrev dktJ26_navigableKeySet_0 : List UInt8 := dkwJ26_navigableKeySet_0 ++ dktJ26_navigableKeySet_1
theorem dksJ26_navigableKeySet_0 : cJ26_navigableKeySet.data.toList.drop 0 = dktJ26_navigableKeySet_0 := by decide +kernel
theorem dksJ26_navigableKeySet_1 : cJ26_navigableKeySet.data.toList.drop 23 = dktJ26_navigableKeySet_1 := dk_seg dksJ26_navigableKeySet_0 23 rfl rfl
theorem dJ26_navigableKeySet_0 : decode cJ26_navigableKeySet 0 = .ok (.aload_n 0, 1) := dk_42 (dk_at dksJ26_navigableKeySet_0 0 rfl rfl)
theorem dJ26_navigableKeySet_1 : decode cJ26_navigableKeySet 1 = .ok (.getfield 191, 3) := dk_180 0 191 (dk_at dksJ26_navigableKeySet_0 1 rfl rfl)
theorem dJ26_navigableKeySet_4 : decode cJ26_navigableKeySet 4 = .ok (.astore_n 1, 1) := dk_76 (dk_at dksJ26_navigableKeySet_0 4 rfl rfl)
theorem dJ26_navigableKeySet_5 : decode cJ26_navigableKeySet 5 = .ok (.aload_n 1, 1) := dk_43 (dk_at dksJ26_navigableKeySet_0 5 rfl rfl)
theorem dJ26_navigableKeySet_6 : decode cJ26_navigableKeySet 6 = .ok (.ifnull 7, 3) := dk_198 0 7 (dk_at dksJ26_navigableKeySet_0 6 rfl rfl)
theorem dJ26_navigableKeySet_9 : decode cJ26_navigableKeySet 9 = .ok (.aload_n 1, 1) := dk_43 (dk_at dksJ26_navigableKeySet_0 9 rfl rfl)
theorem dJ26_navigableKeySet_10 : decode cJ26_navigableKeySet 10 = .ok (.goto 16, 3) := dk_167 0 16 (dk_at dksJ26_navigableKeySet_0 10 rfl rfl)
theorem dJ26_navigableKeySet_13 : decode cJ26_navigableKeySet 13 = .ok (.aload_n 0, 1) := dk_42 (dk_at dksJ26_navigableKeySet_0 13 rfl rfl)
theorem dJ26_navigableKeySet_14 : decode cJ26_navigableKeySet 14 = .ok (.new 222, 3) := dk_187 0 222 (dk_at dksJ26_navigableKeySet_0 14 rfl rfl)
theorem dJ26_navigableKeySet_17 : decode cJ26_navigableKeySet 17 = .ok (.dup, 1) := dk_89 (dk_at dksJ26_navigableKeySet_0 17 rfl rfl)
theorem dJ26_navigableKeySet_18 : decode cJ26_navigableKeySet 18 = .ok (.aload_n 0, 1) := dk_42 (dk_at dksJ26_navigableKeySet_0 18 rfl rfl)
theorem dJ26_navigableKeySet_19 : decode cJ26_navigableKeySet 19 = .ok (.invokespecial 224, 3) := dk_183 0 224 (dk_at dksJ26_navigableKeySet_0 19 rfl rfl)
theorem dJ26_navigableKeySet_22 : decode cJ26_navigableKeySet 22 = .ok (.dup_x1, 1) := dk_90 (dk_at dksJ26_navigableKeySet_0 22 rfl rfl)
theorem dJ26_navigableKeySet_23 : decode cJ26_navigableKeySet 23 = .ok (.putfield 191, 3) := dk_181 0 191 (dk_at dksJ26_navigableKeySet_1 0 rfl rfl)
theorem dJ26_navigableKeySet_26 : decode cJ26_navigableKeySet 26 = .ok (.areturn, 1) := dk_176 (dk_at dksJ26_navigableKeySet_1 3 rfl rfl)
theorem q80 : (Jvm.Cond.initialized "java/util/TreeMap") ∈ lw_all := lw_g (lw_at lw_m1 34 rfl) rfl
theorem q382 : (Jvm.Cond.instantiable "java/util/TreeMap" (9 : Nat)) ∈ lw_all := lw_g (lw_at lw_m2 96 rfl) rfl
theorem q384 : (Jvm.Cond.instanceMethod ({ cls := "java/util/TreeMap", name := "<init>", desc := "()V" } : Jvm.MethodName)) ∈ lw_all := lw_g (lw_at lw_m2 98 rfl) rfl
theorem q385 : (Jvm.Cond.code ({ cls := "java/util/TreeMap", name := "<init>", desc := "()V" } : Jvm.MethodName) prog_63_method_1_code (1 : Nat) (Option.none : Option Jvm.ClassFile.FieldType)) ∈ lw_all := lw_g (lw_at lw_m2 99 rfl) rfl
theorem q386 : (Jvm.Cond.methodLink "java/util/TreeMap" (1 : Nat) ({ cls := "java/util/AbstractMap", name := "<init>", desc := "()V" } : Jvm.MethodName)) ∈ lw_all := lw_g (lw_at lw_m2 100 rfl) rfl
theorem q390 : (Jvm.Cond.fieldLink "java/util/TreeMap" (16 : Nat) "java/util/TreeMap" "comparator" "Ljava/util/Comparator;") ∈ lw_all := lw_g (lw_at lw_m2 104 rfl) rfl
theorem q391 : (Jvm.Cond.fieldLink "java/util/TreeMap" (101 : Nat) "java/util/TreeMap" "root" "Ljava/util/TreeMap$Entry;") ∈ lw_all := lw_g (lw_at lw_m2 105 rfl) rfl
theorem q392 : (Jvm.Cond.fieldLink "java/util/TreeMap" (7 : Nat) "java/util/TreeMap" "size" "I") ∈ lw_all := lw_g (lw_at lw_m2 106 rfl) rfl
theorem q393 : (Jvm.Cond.fieldLink "java/util/TreeMap" (13 : Nat) "java/util/TreeMap" "modCount" "I") ∈ lw_all := lw_g (lw_at lw_m2 107 rfl) rfl
theorem q395 : (Jvm.Cond.fieldLink "java/util/TreeMap" (191 : Nat) "java/util/TreeMap" "navigableKeySet" "Ljava/util/TreeMap$KeySet;") ∈ lw_all := lw_g (lw_at lw_m2 109 rfl) rfl
theorem q396 : (Jvm.Cond.laysFinal "java/util/TreeMap" "java/util/TreeMap" "comparator" "Ljava/util/Comparator;") ∈ lw_all := lw_g (lw_at lw_m2 110 rfl) rfl
theorem q397 : (Jvm.Cond.soleField "java/util/TreeMap" "comparator") ∈ lw_all := lw_g (lw_at lw_m2 111 rfl) rfl
theorem q398 : (Jvm.Cond.lays "java/util/TreeMap" "java/util/TreeMap" "root" "Ljava/util/TreeMap$Entry;") ∈ lw_all := lw_g (lw_at lw_m2 112 rfl) rfl
theorem q399 : (Jvm.Cond.soleField "java/util/TreeMap" "root") ∈ lw_all := lw_g (lw_at lw_m2 113 rfl) rfl
theorem q400 : (Jvm.Cond.lays "java/util/TreeMap" "java/util/TreeMap" "size" "I") ∈ lw_all := lw_g (lw_at lw_m2 114 rfl) rfl
theorem q401 : (Jvm.Cond.soleField "java/util/TreeMap" "size") ∈ lw_all := lw_g (lw_at lw_m2 115 rfl) rfl
theorem q402 : (Jvm.Cond.lays "java/util/TreeMap" "java/util/TreeMap" "modCount" "I") ∈ lw_all := lw_g (lw_at lw_m2 116 rfl) rfl
theorem q403 : (Jvm.Cond.soleField "java/util/TreeMap" "modCount") ∈ lw_all := lw_g (lw_at lw_m2 117 rfl) rfl
theorem q404 : (Jvm.Cond.lays "java/util/TreeMap" "java/util/TreeMap" "entrySet" "Ljava/util/TreeMap$EntrySet;") ∈ lw_all := lw_g (lw_at lw_m2 118 rfl) rfl
theorem q405 : (Jvm.Cond.soleField "java/util/TreeMap" "entrySet") ∈ lw_all := lw_g (lw_at lw_m2 119 rfl) rfl
theorem q406 : (Jvm.Cond.lays "java/util/TreeMap" "java/util/TreeMap" "navigableKeySet" "Ljava/util/TreeMap$KeySet;") ∈ lw_all := lw_g (lw_at lw_m2 120 rfl) rfl
theorem q407 : (Jvm.Cond.soleField "java/util/TreeMap" "navigableKeySet") ∈ lw_all := lw_g (lw_at lw_m2 121 rfl) rfl
theorem q408 : (Jvm.Cond.lays "java/util/TreeMap" "java/util/TreeMap" "descendingMap" "Ljava/util/NavigableMap;") ∈ lw_all := lw_g (lw_at lw_m2 122 rfl) rfl
theorem q409 : (Jvm.Cond.soleField "java/util/TreeMap" "descendingMap") ∈ lw_all := lw_g (lw_at lw_m2 123 rfl) rfl
theorem q410 : (Jvm.Cond.lays "java/util/TreeMap" "java/util/AbstractMap" "keySet" "Ljava/util/Set;") ∈ lw_all := lw_g (lw_at lw_m2 124 rfl) rfl
theorem q412 : (Jvm.Cond.lays "java/util/TreeMap" "java/util/AbstractMap" "values" "Ljava/util/Collection;") ∈ lw_all := lw_g (lw_at lw_m2 126 rfl) rfl
theorem q414 : (Jvm.Cond.superclass "java/util/TreeMap" "java/util/AbstractMap") ∈ lw_all := lw_g (lw_at lw_m2 128 rfl) rfl
theorem q686 : (Jvm.Cond.castable "java/util/TreeMap" "java/util/NavigableMap") ∈ lw_tbl := lw_at lw_m3 160 rfl
theorem q687 : (Jvm.Cond.selects "java/util/TreeMap" ({ cls := "java/util/Map", name := "put", desc := "(Ljava/lang/Object;Ljava/lang/Object;)Ljava/lang/Object;" } : Jvm.MethodName) ({ cls := "java/util/TreeMap", name := "put", desc := "(Ljava/lang/Object;Ljava/lang/Object;)Ljava/lang/Object;" } : Jvm.MethodName)) ∈ lw_all := lw_g (lw_at lw_m3 161 rfl) rfl
theorem q688 : (Jvm.Cond.unhidden "java/util/TreeMap" "put" "(Ljava/lang/Object;Ljava/lang/Object;)Ljava/lang/Object;") ∈ lw_tbl := lw_at lw_m3 162 rfl
theorem q689 : (Jvm.Cond.instanceMethod ({ cls := "java/util/TreeMap", name := "put", desc := "(Ljava/lang/Object;Ljava/lang/Object;)Ljava/lang/Object;" } : Jvm.MethodName)) ∈ lw_all := lw_g (lw_at lw_m3 163 rfl) rfl
theorem q690 : (Jvm.Cond.publicMethod ({ cls := "java/util/TreeMap", name := "put", desc := "(Ljava/lang/Object;Ljava/lang/Object;)Ljava/lang/Object;" } : Jvm.MethodName)) ∈ lw_tbl := lw_at lw_m3 164 rfl
theorem q691 : (Jvm.Cond.code ({ cls := "java/util/TreeMap", name := "put", desc := "(Ljava/lang/Object;Ljava/lang/Object;)Ljava/lang/Object;" } : Jvm.MethodName) prog_63_method_21_code (3 : Nat) (Option.some (Jvm.ClassFile.FieldType.object "java/lang/Object"))) ∈ lw_all := lw_g (lw_at lw_m3 165 rfl) rfl
theorem q692 : (Jvm.Cond.methodLink "java/util/TreeMap" (127 : Nat) ({ cls := "java/util/TreeMap", name := "put", desc := "(Ljava/lang/Object;Ljava/lang/Object;Z)Ljava/lang/Object;" } : Jvm.MethodName)) ∈ lw_all := lw_g (lw_at lw_m3 166 rfl) rfl
theorem q693 : (Jvm.Cond.privateMethod ({ cls := "java/util/TreeMap", name := "put", desc := "(Ljava/lang/Object;Ljava/lang/Object;Z)Ljava/lang/Object;" } : Jvm.MethodName)) ∈ lw_tbl := lw_at lw_m3 167 rfl
theorem q694 : (Jvm.Cond.instanceMethod ({ cls := "java/util/TreeMap", name := "put", desc := "(Ljava/lang/Object;Ljava/lang/Object;Z)Ljava/lang/Object;" } : Jvm.MethodName)) ∈ lw_all := lw_g (lw_at lw_m3 168 rfl) rfl
theorem q695 : (Jvm.Cond.code ({ cls := "java/util/TreeMap", name := "put", desc := "(Ljava/lang/Object;Ljava/lang/Object;Z)Ljava/lang/Object;" } : Jvm.MethodName) prog_63_method_31_code (10 : Nat) (Option.some (Jvm.ClassFile.FieldType.object "java/lang/Object"))) ∈ lw_all := lw_g (lw_at lw_m3 169 rfl) rfl
theorem q696 : (Jvm.Cond.methodLink "java/util/TreeMap" (135 : Nat) ({ cls := "java/util/TreeMap", name := "addEntryToEmptyMap", desc := "(Ljava/lang/Object;Ljava/lang/Object;)V" } : Jvm.MethodName)) ∈ lw_all := lw_g (lw_at lw_m3 170 rfl) rfl
theorem q697 : (Jvm.Cond.privateMethod ({ cls := "java/util/TreeMap", name := "addEntryToEmptyMap", desc := "(Ljava/lang/Object;Ljava/lang/Object;)V" } : Jvm.MethodName)) ∈ lw_tbl := lw_at lw_m3 171 rfl
theorem q698 : (Jvm.Cond.instanceMethod ({ cls := "java/util/TreeMap", name := "addEntryToEmptyMap", desc := "(Ljava/lang/Object;Ljava/lang/Object;)V" } : Jvm.MethodName)) ∈ lw_all := lw_g (lw_at lw_m3 172 rfl) rfl
theorem q699 : (Jvm.Cond.code ({ cls := "java/util/TreeMap", name := "addEntryToEmptyMap", desc := "(Ljava/lang/Object;Ljava/lang/Object;)V" } : Jvm.MethodName) prog_63_method_30_code (3 : Nat) (Option.none : Option Jvm.ClassFile.FieldType)) ∈ lw_all := lw_g (lw_at lw_m3 173 rfl) rfl
theorem q700 : (Jvm.Cond.methodLink "java/util/TreeMap" (123 : Nat) ({ cls := "java/util/TreeMap", name := "compare", desc := "(Ljava/lang/Object;Ljava/lang/Object;)I" } : Jvm.MethodName)) ∈ lw_all := lw_g (lw_at lw_m3 174 rfl) rfl
theorem q701 : (Jvm.Cond.instanceMethod ({ cls := "java/util/TreeMap", name := "compare", desc := "(Ljava/lang/Object;Ljava/lang/Object;)I" } : Jvm.MethodName)) ∈ lw_all := lw_g (lw_at lw_m3 175 rfl) rfl
theorem q702 : (Jvm.Cond.selects "java/util/TreeMap" ({ cls := "java/util/TreeMap", name := "compare", desc := "(Ljava/lang/Object;Ljava/lang/Object;)I" } : Jvm.MethodName) ({ cls := "java/util/TreeMap", name := "compare", desc := "(Ljava/lang/Object;Ljava/lang/Object;)I" } : Jvm.MethodName)) ∈ lw_all := lw_g (lw_at lw_m3 176 rfl) rfl
theorem q703 : (Jvm.Cond.code ({ cls := "java/util/TreeMap", name := "compare", desc := "(Ljava/lang/Object;Ljava/lang/Object;)I" } : Jvm.MethodName) prog_63_method_67_code (3 : Nat) (Option.some Jvm.ClassFile.FieldType.int)) ∈ lw_all := lw_g (lw_at lw_m3 177 rfl) rfl
theorem q704 : (Jvm.Cond.classLink "java/util/TreeMap" (99 : Nat) "java/lang/Comparable") ∈ lw_all := lw_g (lw_at lw_m3 178 rfl) rfl
theorem q705 : (Jvm.Cond.interfaceEntry "java/util/TreeMap" (107 : Nat)) ∈ lw_tbl := lw_at lw_m3 179 rfl
theorem q706 : (Jvm.Cond.methodLink "java/util/TreeMap" (107 : Nat) ({ cls := "java/lang/Comparable", name := "compareTo", desc := "(Ljava/lang/Object;)I" } : Jvm.MethodName)) ∈ lw_all := lw_g (lw_at lw_m3 180 rfl) rfl
theorem q888 : (Jvm.Cond.interfaceEntry "java/util/TreeMap" (117 : Nat)) ∈ lw_tbl := lw_at lw_m4 122 rfl
theorem q889 : (Jvm.Cond.methodLink "java/util/TreeMap" (117 : Nat) ({ cls := "java/util/Comparator", name := "compare", desc := "(Ljava/lang/Object;Ljava/lang/Object;)I" } : Jvm.MethodName)) ∈ lw_all := lw_g (lw_at lw_m4 123 rfl) rfl
theorem q892 : (Jvm.Cond.classLink "java/util/TreeMap" (59 : Nat) "java/util/TreeMap$Entry") ∈ lw_all := lw_g (lw_at lw_m4 126 rfl) rfl
theorem q894 : (Jvm.Cond.methodLink "java/util/TreeMap" (167 : Nat) ({ cls := "java/util/TreeMap$Entry", name := "<init>", desc := "(Ljava/lang/Object;Ljava/lang/Object;Ljava/util/TreeMap$Entry;)V" } : Jvm.MethodName)) ∈ lw_all := lw_g (lw_at lw_m4 128 rfl) rfl
theorem q900 : (Jvm.Cond.fieldLink "java/util/TreeMap" (105 : Nat) "java/util/TreeMap$Entry" "key" "Ljava/lang/Object;") ∈ lw_all := lw_g (lw_at lw_m4 134 rfl) rfl
theorem q902 : (Jvm.Cond.fieldLink "java/util/TreeMap" (58 : Nat) "java/util/TreeMap$Entry" "value" "Ljava/lang/Object;") ∈ lw_all := lw_g (lw_at lw_m4 136 rfl) rfl
theorem q903 : (Jvm.Cond.fieldLink "java/util/TreeMap" (111 : Nat) "java/util/TreeMap$Entry" "left" "Ljava/util/TreeMap$Entry;") ∈ lw_all := lw_g (lw_at lw_m4 137 rfl) rfl
theorem q904 : (Jvm.Cond.fieldLink "java/util/TreeMap" (114 : Nat) "java/util/TreeMap$Entry" "right" "Ljava/util/TreeMap$Entry;") ∈ lw_all := lw_g (lw_at lw_m4 138 rfl) rfl
theorem q906 : (Jvm.Cond.fieldLink "java/util/TreeMap" (124 : Nat) "java/util/TreeMap$Entry" "parent" "Ljava/util/TreeMap$Entry;") ∈ lw_all := lw_g (lw_at lw_m4 140 rfl) rfl
theorem q908 : (Jvm.Cond.fieldLink "java/util/TreeMap" (290 : Nat) "java/util/TreeMap$Entry" "color" "Z") ∈ lw_all := lw_g (lw_at lw_m4 142 rfl) rfl
theorem q922 : (Jvm.Cond.methodLink "java/util/TreeMap" (95 : Nat) ({ cls := "java/util/Objects", name := "requireNonNull", desc := "(Ljava/lang/Object;)Ljava/lang/Object;" } : Jvm.MethodName)) ∈ lw_all := lw_g (lw_at lw_m4 156 rfl) rfl
theorem q925 : (Jvm.Cond.methodLink "java/util/TreeMap" (139 : Nat) ({ cls := "java/util/TreeMap", name := "addEntry", desc := "(Ljava/lang/Object;Ljava/lang/Object;Ljava/util/TreeMap$Entry;Z)V" } : Jvm.MethodName)) ∈ lw_all := lw_g (lw_at lw_m4 159 rfl) rfl
theorem q926 : (Jvm.Cond.privateMethod ({ cls := "java/util/TreeMap", name := "addEntry", desc := "(Ljava/lang/Object;Ljava/lang/Object;Ljava/util/TreeMap$Entry;Z)V" } : Jvm.MethodName)) ∈ lw_tbl := lw_at lw_m4 160 rfl
theorem q927 : (Jvm.Cond.instanceMethod ({ cls := "java/util/TreeMap", name := "addEntry", desc := "(Ljava/lang/Object;Ljava/lang/Object;Ljava/util/TreeMap$Entry;Z)V" } : Jvm.MethodName)) ∈ lw_all := lw_g (lw_at lw_m4 161 rfl) rfl
theorem q928 : (Jvm.Cond.code ({ cls := "java/util/TreeMap", name := "addEntry", desc := "(Ljava/lang/Object;Ljava/lang/Object;Ljava/util/TreeMap$Entry;Z)V" } : Jvm.MethodName) prog_63_method_29_code (6 : Nat) (Option.none : Option Jvm.ClassFile.FieldType)) ∈ lw_all := lw_g (lw_at lw_m4 162 rfl) rfl
theorem q929 : (Jvm.Cond.methodLink "java/util/TreeMap" (170 : Nat) ({ cls := "java/util/TreeMap", name := "fixAfterInsertion", desc := "(Ljava/util/TreeMap$Entry;)V" } : Jvm.MethodName)) ∈ lw_all := lw_g (lw_at lw_m4 163 rfl) rfl
theorem q930 : (Jvm.Cond.privateMethod ({ cls := "java/util/TreeMap", name := "fixAfterInsertion", desc := "(Ljava/util/TreeMap$Entry;)V" } : Jvm.MethodName)) ∈ lw_tbl := lw_at lw_m4 164 rfl
theorem q931 : (Jvm.Cond.instanceMethod ({ cls := "java/util/TreeMap", name := "fixAfterInsertion", desc := "(Ljava/util/TreeMap$Entry;)V" } : Jvm.MethodName)) ∈ lw_all := lw_g (lw_at lw_m4 165 rfl) rfl
theorem q932 : (Jvm.Cond.code ({ cls := "java/util/TreeMap", name := "fixAfterInsertion", desc := "(Ljava/util/TreeMap$Entry;)V" } : Jvm.MethodName) prog_63_method_83_code (3 : Nat) (Option.none : Option Jvm.ClassFile.FieldType)) ∈ lw_all := lw_g (lw_at lw_m4 166 rfl) rfl
theorem q933 : (Jvm.Cond.methodLink "java/util/TreeMap" (294 : Nat) ({ cls := "java/util/TreeMap", name := "parentOf", desc := "(Ljava/util/TreeMap$Entry;)Ljava/util/TreeMap$Entry;" } : Jvm.MethodName)) ∈ lw_all := lw_g (lw_at lw_m4 167 rfl) rfl
theorem q934 : (Jvm.Cond.static ({ cls := "java/util/TreeMap", name := "parentOf", desc := "(Ljava/util/TreeMap$Entry;)Ljava/util/TreeMap$Entry;" } : Jvm.MethodName)) ∈ lw_all := lw_g (lw_at lw_m4 168 rfl) rfl
theorem q935 : (Jvm.Cond.code ({ cls := "java/util/TreeMap", name := "parentOf", desc := "(Ljava/util/TreeMap$Entry;)Ljava/util/TreeMap$Entry;" } : Jvm.MethodName) prog_63_method_77_code (1 : Nat) (Option.some (Jvm.ClassFile.FieldType.object "java/util/TreeMap$Entry"))) ∈ lw_all := lw_g (lw_at lw_m4 169 rfl) rfl
theorem q936 : (Jvm.Cond.methodLink "java/util/TreeMap" (297 : Nat) ({ cls := "java/util/TreeMap", name := "leftOf", desc := "(Ljava/util/TreeMap$Entry;)Ljava/util/TreeMap$Entry;" } : Jvm.MethodName)) ∈ lw_all := lw_g (lw_at lw_m4 170 rfl) rfl
theorem q937 : (Jvm.Cond.static ({ cls := "java/util/TreeMap", name := "leftOf", desc := "(Ljava/util/TreeMap$Entry;)Ljava/util/TreeMap$Entry;" } : Jvm.MethodName)) ∈ lw_all := lw_g (lw_at lw_m4 171 rfl) rfl
theorem q938 : (Jvm.Cond.code ({ cls := "java/util/TreeMap", name := "leftOf", desc := "(Ljava/util/TreeMap$Entry;)Ljava/util/TreeMap$Entry;" } : Jvm.MethodName) prog_63_method_79_code (1 : Nat) (Option.some (Jvm.ClassFile.FieldType.object "java/util/TreeMap$Entry"))) ∈ lw_all := lw_g (lw_at lw_m4 172 rfl) rfl
theorem q939 : (Jvm.Cond.methodLink "java/util/TreeMap" (300 : Nat) ({ cls := "java/util/TreeMap", name := "rightOf", desc := "(Ljava/util/TreeMap$Entry;)Ljava/util/TreeMap$Entry;" } : Jvm.MethodName)) ∈ lw_all := lw_g (lw_at lw_m4 173 rfl) rfl
theorem q940 : (Jvm.Cond.static ({ cls := "java/util/TreeMap", name := "rightOf", desc := "(Ljava/util/TreeMap$Entry;)Ljava/util/TreeMap$Entry;" } : Jvm.MethodName)) ∈ lw_all := lw_g (lw_at lw_m4 174 rfl) rfl
theorem q941 : (Jvm.Cond.code ({ cls := "java/util/TreeMap", name := "rightOf", desc := "(Ljava/util/TreeMap$Entry;)Ljava/util/TreeMap$Entry;" } : Jvm.MethodName) prog_63_method_80_code (1 : Nat) (Option.some (Jvm.ClassFile.FieldType.object "java/util/TreeMap$Entry"))) ∈ lw_all := lw_g (lw_at lw_m4 175 rfl) rfl
theorem q942 : (Jvm.Cond.methodLink "java/util/TreeMap" (303 : Nat) ({ cls := "java/util/TreeMap", name := "colorOf", desc := "(Ljava/util/TreeMap$Entry;)Z" } : Jvm.MethodName)) ∈ lw_all := lw_g (lw_at lw_m4 176 rfl) rfl
theorem q943 : (Jvm.Cond.static ({ cls := "java/util/TreeMap", name := "colorOf", desc := "(Ljava/util/TreeMap$Entry;)Z" } : Jvm.MethodName)) ∈ lw_all := lw_g (lw_at lw_m4 177 rfl) rfl
theorem q944 : (Jvm.Cond.code ({ cls := "java/util/TreeMap", name := "colorOf", desc := "(Ljava/util/TreeMap$Entry;)Z" } : Jvm.MethodName) prog_63_method_76_code (1 : Nat) (Option.some Jvm.ClassFile.FieldType.boolean)) ∈ lw_all := lw_g (lw_at lw_m4 178 rfl) rfl
theorem q945 : (Jvm.Cond.methodLink "java/util/TreeMap" (307 : Nat) ({ cls := "java/util/TreeMap", name := "setColor", desc := "(Ljava/util/TreeMap$Entry;Z)V" } : Jvm.MethodName)) ∈ lw_all := lw_g (lw_at lw_m4 179 rfl) rfl
theorem q946 : (Jvm.Cond.static ({ cls := "java/util/TreeMap", name := "setColor", desc := "(Ljava/util/TreeMap$Entry;Z)V" } : Jvm.MethodName)) ∈ lw_all := lw_g (lw_at lw_m4 180 rfl) rfl
theorem q947 : (Jvm.Cond.code ({ cls := "java/util/TreeMap", name := "setColor", desc := "(Ljava/util/TreeMap$Entry;Z)V" } : Jvm.MethodName) prog_63_method_78_code (2 : Nat) (Option.none : Option Jvm.ClassFile.FieldType)) ∈ lw_all := lw_g (lw_at lw_m4 181 rfl) rfl
theorem q948 : (Jvm.Cond.methodLink "java/util/TreeMap" (311 : Nat) ({ cls := "java/util/TreeMap", name := "rotateLeft", desc := "(Ljava/util/TreeMap$Entry;)V" } : Jvm.MethodName)) ∈ lw_all := lw_g (lw_at lw_m4 182 rfl) rfl
theorem q949 : (Jvm.Cond.privateMethod ({ cls := "java/util/TreeMap", name := "rotateLeft", desc := "(Ljava/util/TreeMap$Entry;)V" } : Jvm.MethodName)) ∈ lw_tbl := lw_at lw_m4 183 rfl
theorem q950 : (Jvm.Cond.instanceMethod ({ cls := "java/util/TreeMap", name := "rotateLeft", desc := "(Ljava/util/TreeMap$Entry;)V" } : Jvm.MethodName)) ∈ lw_all := lw_g (lw_at lw_m4 184 rfl) rfl
theorem q951 : (Jvm.Cond.code ({ cls := "java/util/TreeMap", name := "rotateLeft", desc := "(Ljava/util/TreeMap$Entry;)V" } : Jvm.MethodName) prog_63_method_81_code (3 : Nat) (Option.none : Option Jvm.ClassFile.FieldType)) ∈ lw_all := lw_g (lw_at lw_m4 185 rfl) rfl
theorem q952 : (Jvm.Cond.methodLink "java/util/TreeMap" (314 : Nat) ({ cls := "java/util/TreeMap", name := "rotateRight", desc := "(Ljava/util/TreeMap$Entry;)V" } : Jvm.MethodName)) ∈ lw_all := lw_g (lw_at lw_m4 186 rfl) rfl
theorem q953 : (Jvm.Cond.privateMethod ({ cls := "java/util/TreeMap", name := "rotateRight", desc := "(Ljava/util/TreeMap$Entry;)V" } : Jvm.MethodName)) ∈ lw_tbl := lw_at lw_m4 187 rfl
theorem q954 : (Jvm.Cond.instanceMethod ({ cls := "java/util/TreeMap", name := "rotateRight", desc := "(Ljava/util/TreeMap$Entry;)V" } : Jvm.MethodName)) ∈ lw_all := lw_g (lw_at lw_m4 188 rfl) rfl
theorem q955 : (Jvm.Cond.code ({ cls := "java/util/TreeMap", name := "rotateRight", desc := "(Ljava/util/TreeMap$Entry;)V" } : Jvm.MethodName) prog_63_method_82_code (3 : Nat) (Option.none : Option Jvm.ClassFile.FieldType)) ∈ lw_all := lw_g (lw_at lw_m4 189 rfl) rfl
theorem q998 : (Jvm.Cond.selects "java/util/TreeMap" ({ cls := "java/lang/Object", name := "getClass", desc := "()Ljava/lang/Class;" } : Jvm.MethodName) ({ cls := "java/lang/Object", name := "getClass", desc := "()Ljava/lang/Class;" } : Jvm.MethodName)) ∈ lw_all := lw_g (lw_at lw_m4 232 rfl) rfl
theorem q1077 : (Jvm.Cond.static ({ cls := "java/util/TreeMap", name := "successor", desc := "(Ljava/util/TreeMap$Entry;)Ljava/util/TreeMap$Entry;" } : Jvm.MethodName)) ∈ lw_all := lw_g (lw_at lw_m5 71 rfl) rfl
theorem q1078 : (Jvm.Cond.code ({ cls := "java/util/TreeMap", name := "successor", desc := "(Ljava/util/TreeMap$Entry;)Ljava/util/TreeMap$Entry;" } : Jvm.MethodName) prog_63_method_74_code (3 : Nat) (Option.some (Jvm.ClassFile.FieldType.object "java/util/TreeMap$Entry"))) ∈ lw_all := lw_g (lw_at lw_m5 72 rfl) rfl
theorem q1135 : (Jvm.Cond.selects "java/util/TreeMap" ({ cls := "java/util/Map", name := "size", desc := "()I" } : Jvm.MethodName) ({ cls := "java/util/TreeMap", name := "size", desc := "()I" } : Jvm.MethodName)) ∈ lw_all := lw_g (lw_at lw_m5 129 rfl) rfl
theorem q1136 : (Jvm.Cond.unhidden "java/util/TreeMap" "size" "()I") ∈ lw_tbl := lw_at lw_m5 130 rfl
theorem q1137 : (Jvm.Cond.instanceMethod ({ cls := "java/util/TreeMap", name := "size", desc := "()I" } : Jvm.MethodName)) ∈ lw_all := lw_g (lw_at lw_m5 131 rfl) rfl
theorem q1138 : (Jvm.Cond.publicMethod ({ cls := "java/util/TreeMap", name := "size", desc := "()I" } : Jvm.MethodName)) ∈ lw_tbl := lw_at lw_m5 132 rfl
theorem q1139 : (Jvm.Cond.code ({ cls := "java/util/TreeMap", name := "size", desc := "()I" } : Jvm.MethodName) prog_63_method_5_code (1 : Nat) (Option.some Jvm.ClassFile.FieldType.int)) ∈ lw_all := lw_g (lw_at lw_m5 133 rfl) rfl
theorem q1148 : (Jvm.Cond.selects "java/util/TreeMap" ({ cls := "java/util/Map", name := "containsKey", desc := "(Ljava/lang/Object;)Z" } : Jvm.MethodName) ({ cls := "java/util/TreeMap", name := "containsKey", desc := "(Ljava/lang/Object;)Z" } : Jvm.MethodName)) ∈ lw_all := lw_g (lw_at lw_m5 142 rfl) rfl
theorem q1149 : (Jvm.Cond.unhidden "java/util/TreeMap" "containsKey" "(Ljava/lang/Object;)Z") ∈ lw_tbl := lw_at lw_m5 143 rfl
theorem q1150 : (Jvm.Cond.instanceMethod ({ cls := "java/util/TreeMap", name := "containsKey", desc := "(Ljava/lang/Object;)Z" } : Jvm.MethodName)) ∈ lw_all := lw_g (lw_at lw_m5 144 rfl) rfl
theorem q1151 : (Jvm.Cond.publicMethod ({ cls := "java/util/TreeMap", name := "containsKey", desc := "(Ljava/lang/Object;)Z" } : Jvm.MethodName)) ∈ lw_tbl := lw_at lw_m5 145 rfl
theorem q1152 : (Jvm.Cond.code ({ cls := "java/util/TreeMap", name := "containsKey", desc := "(Ljava/lang/Object;)Z" } : Jvm.MethodName) prog_63_method_6_code (2 : Nat) (Option.some Jvm.ClassFile.FieldType.boolean)) ∈ lw_all := lw_g (lw_at lw_m5 146 rfl) rfl
theorem q1153 : (Jvm.Cond.methodLink "java/util/TreeMap" (50 : Nat) ({ cls := "java/util/TreeMap", name := "getEntry", desc := "(Ljava/lang/Object;)Ljava/util/TreeMap$Entry;" } : Jvm.MethodName)) ∈ lw_all := lw_g (lw_at lw_m5 147 rfl) rfl
theorem q1154 : (Jvm.Cond.instanceMethod ({ cls := "java/util/TreeMap", name := "getEntry", desc := "(Ljava/lang/Object;)Ljava/util/TreeMap$Entry;" } : Jvm.MethodName)) ∈ lw_all := lw_g (lw_at lw_m5 148 rfl) rfl
theorem q1155 : (Jvm.Cond.selects "java/util/TreeMap" ({ cls := "java/util/TreeMap", name := "getEntry", desc := "(Ljava/lang/Object;)Ljava/util/TreeMap$Entry;" } : Jvm.MethodName) ({ cls := "java/util/TreeMap", name := "getEntry", desc := "(Ljava/lang/Object;)Ljava/util/TreeMap$Entry;" } : Jvm.MethodName)) ∈ lw_all := lw_g (lw_at lw_m5 149 rfl) rfl
theorem q1156 : (Jvm.Cond.code ({ cls := "java/util/TreeMap", name := "getEntry", desc := "(Ljava/lang/Object;)Ljava/util/TreeMap$Entry;" } : Jvm.MethodName) prog_63_method_15_code (5 : Nat) (Option.some (Jvm.ClassFile.FieldType.object "java/util/TreeMap$Entry"))) ∈ lw_all := lw_g (lw_at lw_m5 150 rfl) rfl
theorem q1157 : (Jvm.Cond.methodLink "java/util/TreeMap" (92 : Nat) ({ cls := "java/util/TreeMap", name := "getEntryUsingComparator", desc := "(Ljava/lang/Object;)Ljava/util/TreeMap$Entry;" } : Jvm.MethodName)) ∈ lw_all := lw_g (lw_at lw_m5 151 rfl) rfl
theorem q1158 : (Jvm.Cond.instanceMethod ({ cls := "java/util/TreeMap", name := "getEntryUsingComparator", desc := "(Ljava/lang/Object;)Ljava/util/TreeMap$Entry;" } : Jvm.MethodName)) ∈ lw_all := lw_g (lw_at lw_m5 152 rfl) rfl
theorem q1159 : (Jvm.Cond.selects "java/util/TreeMap" ({ cls := "java/util/TreeMap", name := "getEntryUsingComparator", desc := "(Ljava/lang/Object;)Ljava/util/TreeMap$Entry;" } : Jvm.MethodName) ({ cls := "java/util/TreeMap", name := "getEntryUsingComparator", desc := "(Ljava/lang/Object;)Ljava/util/TreeMap$Entry;" } : Jvm.MethodName)) ∈ lw_all := lw_g (lw_at lw_m5 153 rfl) rfl
theorem q1160 : (Jvm.Cond.code ({ cls := "java/util/TreeMap", name := "getEntryUsingComparator", desc := "(Ljava/lang/Object;)Ljava/util/TreeMap$Entry;" } : Jvm.MethodName) prog_63_method_16_code (6 : Nat) (Option.some (Jvm.ClassFile.FieldType.object "java/util/TreeMap$Entry"))) ∈ lw_all := lw_g (lw_at lw_m5 154 rfl) rfl
theorem q1180 : (Jvm.Cond.instanceMethod ({ cls := "java/util/TreeMap", name := "keyIterator", desc := "()Ljava/util/Iterator;" } : Jvm.MethodName)) ∈ lw_all := lw_g (lw_at lw_m5 174 rfl) rfl
theorem q1181 : (Jvm.Cond.selects "java/util/TreeMap" ({ cls := "java/util/TreeMap", name := "keyIterator", desc := "()Ljava/util/Iterator;" } : Jvm.MethodName) ({ cls := "java/util/TreeMap", name := "keyIterator", desc := "()Ljava/util/Iterator;" } : Jvm.MethodName)) ∈ lw_all := lw_g (lw_at lw_m5 175 rfl) rfl
theorem q1182 : (Jvm.Cond.code ({ cls := "java/util/TreeMap", name := "keyIterator", desc := "()Ljava/util/Iterator;" } : Jvm.MethodName) prog_63_method_65_code (1 : Nat) (Option.some (Jvm.ClassFile.FieldType.object "java/util/Iterator"))) ∈ lw_all := lw_g (lw_at lw_m5 176 rfl) rfl
theorem q1183 : (Jvm.Cond.classLink "java/util/TreeMap" (269 : Nat) "java/util/TreeMap$KeyIterator") ∈ lw_all := lw_g (lw_at lw_m5 177 rfl) rfl
theorem q1185 : (Jvm.Cond.methodLink "java/util/TreeMap" (54 : Nat) ({ cls := "java/util/TreeMap", name := "getFirstEntry", desc := "()Ljava/util/TreeMap$Entry;" } : Jvm.MethodName)) ∈ lw_all := lw_g (lw_at lw_m5 179 rfl) rfl
theorem q1186 : (Jvm.Cond.instanceMethod ({ cls := "java/util/TreeMap", name := "getFirstEntry", desc := "()Ljava/util/TreeMap$Entry;" } : Jvm.MethodName)) ∈ lw_all := lw_g (lw_at lw_m5 180 rfl) rfl
theorem q1187 : (Jvm.Cond.selects "java/util/TreeMap" ({ cls := "java/util/TreeMap", name := "getFirstEntry", desc := "()Ljava/util/TreeMap$Entry;" } : Jvm.MethodName) ({ cls := "java/util/TreeMap", name := "getFirstEntry", desc := "()Ljava/util/TreeMap$Entry;" } : Jvm.MethodName)) ∈ lw_all := lw_g (lw_at lw_m5 181 rfl) rfl
theorem q1188 : (Jvm.Cond.code ({ cls := "java/util/TreeMap", name := "getFirstEntry", desc := "()Ljava/util/TreeMap$Entry;" } : Jvm.MethodName) prog_63_method_72_code (2 : Nat) (Option.some (Jvm.ClassFile.FieldType.object "java/util/TreeMap$Entry"))) ∈ lw_all := lw_g (lw_at lw_m5 182 rfl) rfl
theorem q1189 : (Jvm.Cond.methodLink "java/util/TreeMap" (271 : Nat) ({ cls := "java/util/TreeMap$KeyIterator", name := "<init>", desc := "(Ljava/util/TreeMap;Ljava/util/TreeMap$Entry;)V" } : Jvm.MethodName)) ∈ lw_all := lw_g (lw_at lw_m5 183 rfl) rfl
theorem q1223 : (Jvm.Cond.selects "java/util/TreeMap" ({ cls := "java/util/NavigableMap", name := "navigableKeySet", desc := "()Ljava/util/NavigableSet;" } : Jvm.MethodName) ({ cls := "java/util/TreeMap", name := "navigableKeySet", desc := "()Ljava/util/NavigableSet;" } : Jvm.MethodName)) ∈ lw_all := lw_g (lw_at lw_m5 217 rfl) rfl
theorem q1224 : (Jvm.Cond.unhidden "java/util/TreeMap" "navigableKeySet" "()Ljava/util/NavigableSet;") ∈ lw_tbl := lw_at lw_m5 218 rfl
theorem q1225 : (Jvm.Cond.instanceMethod ({ cls := "java/util/TreeMap", name := "navigableKeySet", desc := "()Ljava/util/NavigableSet;" } : Jvm.MethodName)) ∈ lw_all := lw_g (lw_at lw_m5 219 rfl) rfl
theorem q1226 : (Jvm.Cond.publicMethod ({ cls := "java/util/TreeMap", name := "navigableKeySet", desc := "()Ljava/util/NavigableSet;" } : Jvm.MethodName)) ∈ lw_tbl := lw_at lw_m5 220 rfl
theorem q1227 : (Jvm.Cond.code ({ cls := "java/util/TreeMap", name := "navigableKeySet", desc := "()Ljava/util/NavigableSet;" } : Jvm.MethodName) prog_63_method_50_code (2 : Nat) (Option.some (Jvm.ClassFile.FieldType.object "java/util/NavigableSet"))) ∈ lw_all := lw_g (lw_at lw_m5 221 rfl) rfl
theorem q1228 : (Jvm.Cond.classLink "java/util/TreeMap" (222 : Nat) "java/util/TreeMap$KeySet") ∈ lw_all := lw_g (lw_at lw_m5 222 rfl) rfl
theorem q1230 : (Jvm.Cond.methodLink "java/util/TreeMap" (224 : Nat) ({ cls := "java/util/TreeMap$KeySet", name := "<init>", desc := "(Ljava/util/NavigableMap;)V" } : Jvm.MethodName)) ∈ lw_all := lw_g (lw_at lw_m5 224 rfl) rfl
theorem q1285 : (Jvm.Cond.selects "java/util/TreeMap" ({ cls := "java/util/SortedMap", name := "comparator", desc := "()Ljava/util/Comparator;" } : Jvm.MethodName) ({ cls := "java/util/TreeMap", name := "comparator", desc := "()Ljava/util/Comparator;" } : Jvm.MethodName)) ∈ lw_all := lw_g (lw_at lw_m6 39 rfl) rfl
theorem q1286 : (Jvm.Cond.unhidden "java/util/TreeMap" "comparator" "()Ljava/util/Comparator;") ∈ lw_tbl := lw_at lw_m6 40 rfl
theorem q1287 : (Jvm.Cond.instanceMethod ({ cls := "java/util/TreeMap", name := "comparator", desc := "()Ljava/util/Comparator;" } : Jvm.MethodName)) ∈ lw_all := lw_g (lw_at lw_m6 41 rfl) rfl
theorem q1288 : (Jvm.Cond.publicMethod ({ cls := "java/util/TreeMap", name := "comparator", desc := "()Ljava/util/Comparator;" } : Jvm.MethodName)) ∈ lw_tbl := lw_at lw_m6 42 rfl
theorem q1289 : (Jvm.Cond.code ({ cls := "java/util/TreeMap", name := "comparator", desc := "()Ljava/util/Comparator;" } : Jvm.MethodName) prog_63_method_9_code (1 : Nat) (Option.some (Jvm.ClassFile.FieldType.object "java/util/Comparator"))) ∈ lw_all := lw_g (lw_at lw_m6 43 rfl) rfl
theorem q1325 : (Jvm.Cond.instanceMethod ({ cls := "java/util/TreeMap", name := "addAllForTreeSet", desc := "(Ljava/util/SortedSet;Ljava/lang/Object;)V" } : Jvm.MethodName)) ∈ lw_all := lw_g (lw_at lw_m6 79 rfl) rfl
theorem q1326 : (Jvm.Cond.selects "java/util/TreeMap" ({ cls := "java/util/TreeMap", name := "addAllForTreeSet", desc := "(Ljava/util/SortedSet;Ljava/lang/Object;)V" } : Jvm.MethodName) ({ cls := "java/util/TreeMap", name := "addAllForTreeSet", desc := "(Ljava/util/SortedSet;Ljava/lang/Object;)V" } : Jvm.MethodName)) ∈ lw_all := lw_g (lw_at lw_m6 80 rfl) rfl
theorem q1327 : (Jvm.Cond.codeWith ({ cls := "java/util/TreeMap", name := "addAllForTreeSet", desc := "(Ljava/util/SortedSet;Ljava/lang/Object;)V" } : Jvm.MethodName) prog_63_method_89_code (4 : Nat) (Option.none : Option Jvm.ClassFile.FieldType) [((0 : Nat), (18 : Nat), (21 : Nat), (46 : Nat)), ((0 : Nat), (18 : Nat), (21 : Nat), (48 : Nat))]) ∈ lw_all := lw_g (lw_at lw_m6 81 rfl) rfl
theorem q1328 : (Jvm.Cond.interfaceEntry "java/util/TreeMap" (358 : Nat)) ∈ lw_tbl := lw_at lw_m6 82 rfl
theorem q1330 : (Jvm.Cond.interfaceEntry "java/util/TreeMap" (361 : Nat)) ∈ lw_tbl := lw_at lw_m6 84 rfl
theorem q1332 : (Jvm.Cond.methodLink "java/util/TreeMap" (42 : Nat) ({ cls := "java/util/TreeMap", name := "buildFromSorted", desc := "(ILjava/util/Iterator;Ljava/io/ObjectInputStream;Ljava/lang/Object;)V" } : Jvm.MethodName)) ∈ lw_all := lw_g (lw_at lw_m6 86 rfl) rfl
theorem q1333 : (Jvm.Cond.privateMethod ({ cls := "java/util/TreeMap", name := "buildFromSorted", desc := "(ILjava/util/Iterator;Ljava/io/ObjectInputStream;Ljava/lang/Object;)V" } : Jvm.MethodName)) ∈ lw_tbl := lw_at lw_m6 87 rfl
theorem q1334 : (Jvm.Cond.instanceMethod ({ cls := "java/util/TreeMap", name := "buildFromSorted", desc := "(ILjava/util/Iterator;Ljava/io/ObjectInputStream;Ljava/lang/Object;)V" } : Jvm.MethodName)) ∈ lw_all := lw_g (lw_at lw_m6 88 rfl) rfl
theorem q1335 : (Jvm.Cond.code ({ cls := "java/util/TreeMap", name := "buildFromSorted", desc := "(ILjava/util/Iterator;Ljava/io/ObjectInputStream;Ljava/lang/Object;)V" } : Jvm.MethodName) prog_63_method_90_code (5 : Nat) (Option.none : Option Jvm.ClassFile.FieldType)) ∈ lw_all := lw_g (lw_at lw_m6 89 rfl) rfl
theorem q1336 : (Jvm.Cond.methodLink "java/util/TreeMap" (362 : Nat) ({ cls := "java/util/TreeMap", name := "computeRedLevel", desc := "(I)I" } : Jvm.MethodName)) ∈ lw_all := lw_g (lw_at lw_m6 90 rfl) rfl
theorem q1337 : (Jvm.Cond.static ({ cls := "java/util/TreeMap", name := "computeRedLevel", desc := "(I)I" } : Jvm.MethodName)) ∈ lw_all := lw_g (lw_at lw_m6 91 rfl) rfl
theorem q1338 : (Jvm.Cond.code ({ cls := "java/util/TreeMap", name := "computeRedLevel", desc := "(I)I" } : Jvm.MethodName) prog_63_method_92_code (1 : Nat) (Option.some Jvm.ClassFile.FieldType.int)) ∈ lw_all := lw_g (lw_at lw_m6 92 rfl) rfl
theorem q1339 : (Jvm.Cond.methodLink "java/util/TreeMap" (372 : Nat) ({ cls := "java/lang/Integer", name := "numberOfLeadingZeros", desc := "(I)I" } : Jvm.MethodName)) ∈ lw_all := lw_g (lw_at lw_m6 93 rfl) rfl
theorem q1340 : (Jvm.Cond.methodLink "java/util/TreeMap" (366 : Nat) ({ cls := "java/util/TreeMap", name := "buildFromSorted", desc := "(IIIILjava/util/Iterator;Ljava/io/ObjectInputStream;Ljava/lang/Object;)Ljava/util/TreeMap$Entry;" } : Jvm.MethodName)) ∈ lw_all := lw_g (lw_at lw_m6 94 rfl) rfl
theorem q1341 : (Jvm.Cond.privateMethod ({ cls := "java/util/TreeMap", name := "buildFromSorted", desc := "(IIIILjava/util/Iterator;Ljava/io/ObjectInputStream;Ljava/lang/Object;)Ljava/util/TreeMap$Entry;" } : Jvm.MethodName)) ∈ lw_tbl := lw_at lw_m6 95 rfl
theorem q1342 : (Jvm.Cond.instanceMethod ({ cls := "java/util/TreeMap", name := "buildFromSorted", desc := "(IIIILjava/util/Iterator;Ljava/io/ObjectInputStream;Ljava/lang/Object;)Ljava/util/TreeMap$Entry;" } : Jvm.MethodName)) ∈ lw_all := lw_g (lw_at lw_m6 96 rfl) rfl
theorem q1343 : (Jvm.Cond.code ({ cls := "java/util/TreeMap", name := "buildFromSorted", desc := "(IIIILjava/util/Iterator;Ljava/io/ObjectInputStream;Ljava/lang/Object;)Ljava/util/TreeMap$Entry;" } : Jvm.MethodName) prog_63_method_91_code (14 : Nat) (Option.some (Jvm.ClassFile.FieldType.object "java/util/TreeMap$Entry"))) ∈ lw_all := lw_g (lw_at lw_m6 97 rfl) rfl
theorem q1344 : (Jvm.Cond.interfaceEntry "java/util/TreeMap" (335 : Nat)) ∈ lw_tbl := lw_at lw_m6 98 rfl
theorem q1345 : (Jvm.Cond.methodLink "java/util/TreeMap" (335 : Nat) ({ cls := "java/util/Iterator", name := "next", desc := "()Ljava/lang/Object;" } : Jvm.MethodName)) ∈ lw_all := lw_g (lw_at lw_m6 99 rfl) rfl
theorem q1346 : (Jvm.Cond.classLink "java/util/TreeMap" (338 : Nat) "java/util/Map$Entry") ∈ lw_all := lw_g (lw_at lw_m6 100 rfl) rfl
theorem q1347 : (Jvm.Cond.interfaceEntry "java/util/TreeMap" (340 : Nat)) ∈ lw_tbl := lw_at lw_m6 101 rfl
theorem q1348 : (Jvm.Cond.methodLink "java/util/TreeMap" (340 : Nat) ({ cls := "java/util/Map$Entry", name := "getKey", desc := "()Ljava/lang/Object;" } : Jvm.MethodName)) ∈ lw_all := lw_g (lw_at lw_m6 102 rfl) rfl
theorem q1357 : (Jvm.Cond.interfaceEntry "java/util/TreeMap" (347 : Nat)) ∈ lw_tbl := lw_at lw_m6 111 rfl
theorem q1358 : (Jvm.Cond.methodLink "java/util/TreeMap" (347 : Nat) ({ cls := "java/util/Map$Entry", name := "getValue", desc := "()Ljava/lang/Object;" } : Jvm.MethodName)) ∈ lw_all := lw_g (lw_at lw_m6 112 rfl) rfl
theorem q2348 : (Jvm.Cond.selects "java/util/TreeMap" ({ cls := "java/util/TreeMap", name := "comparator", desc := "()Ljava/util/Comparator;" } : Jvm.MethodName) ({ cls := "java/util/TreeMap", name := "comparator", desc := "()Ljava/util/Comparator;" } : Jvm.MethodName)) ∈ lw_all := lw_g (lw_at lw_m10 142 rfl) rfl
theorem q2383 : (Jvm.Cond.castable "java/util/TreeMap" "java/lang/Object") ∈ lw_tbl := lw_at lw_m10 177 rfl
theorem in_J26 : ∀ w ∈ wsJ260, w ∈ lw_all := lw_in wsJ260 [410, 412, 396, 398, 400, 402, 404, 406, 408] (by decide +kernel) (by decide +kernel)

/-! java/util/TreeMap$Entry -/
set_option maxRecDepth 100000
def RJ29 : String := "java/util/TreeMap$Entry"
def TJ29 : u_T := fun k => match k with
  | 0 => ("java/util/TreeMap$Entry", "key", "Ljava/lang/Object;", false)
  | 1 => ("java/util/TreeMap$Entry", "value", "Ljava/lang/Object;", false)
  | 2 => ("java/util/TreeMap$Entry", "left", "Ljava/util/TreeMap$Entry;", false)
  | 3 => ("java/util/TreeMap$Entry", "right", "Ljava/util/TreeMap$Entry;", false)
  | 4 => ("java/util/TreeMap$Entry", "parent", "Ljava/util/TreeMap$Entry;", false)
  | _ => ("java/util/TreeMap$Entry", "color", "Z", false)
def tyJ29 : Nat → FieldType := fun k => match k with
  | 0 => .object "java/lang/Object"
  | 1 => .object "java/lang/Object"
  | 2 => .object "java/util/TreeMap$Entry"
  | 3 => .object "java/util/TreeMap$Entry"
  | 4 => .object "java/util/TreeMap$Entry"
  | _ => .boolean
abbrev wsJ290 : List Cond := u_ws RJ29 TJ29 6
theorem nmJ29 : ∀ a, a < 6 → ∀ b, b < 6 → a ≠ b → (TJ29 a).2.1 ≠ (TJ29 b).2.1 := by decide +kernel
theorem tyJ29_ok : ∀ k, k < 6 → parseFieldDescriptor (TJ29 k).2.2.1 = some (tyJ29 k) := by decide +kernel
abbrev cJ29_init : ByteArray := prog_64_method_1_code
def yJ29_init : MethodName := ⟨RJ29, "<init>", "(Ljava/lang/Object;Ljava/lang/Object;Ljava/util/TreeMap$Entry;)V"⟩
def dkwJ29_init_1 : List UInt8 := [177]
abbrev dktJ29_init_1 : List UInt8 := dkwJ29_init_1 ++ []
def dkwJ29_init_0 : List UInt8 := [42, 183, 0, 3, 42, 4, 181, 0, 9, 42, 43, 181, 0, 15, 42, 44, 181, 0, 19, 42, 45, 181, 0, 22]
abbrev dktJ29_init_0 : List UInt8 := dkwJ29_init_0 ++ dktJ29_init_1
theorem dksJ29_init_0 : cJ29_init.data.toList.drop 0 = dktJ29_init_0 := by decide +kernel
theorem dksJ29_init_1 : cJ29_init.data.toList.drop 24 = dktJ29_init_1 := dk_seg dksJ29_init_0 24 rfl rfl
theorem dJ29_init_0 : decode cJ29_init 0 = .ok (.aload_n 0, 1) := dk_42 (dk_at dksJ29_init_0 0 rfl rfl)
theorem dJ29_init_1 : decode cJ29_init 1 = .ok (.invokespecial 3, 3) := dk_183 0 3 (dk_at dksJ29_init_0 1 rfl rfl)
theorem dJ29_init_4 : decode cJ29_init 4 = .ok (.aload_n 0, 1) := dk_42 (dk_at dksJ29_init_0 4 rfl rfl)
theorem dJ29_init_5 : decode cJ29_init 5 = .ok (.iconst 1, 1) := dk_4 (dk_at dksJ29_init_0 5 rfl rfl)
theorem dJ29_init_6 : decode cJ29_init 6 = .ok (.putfield 9, 3) := dk_181 0 9 (dk_at dksJ29_init_0 6 rfl rfl)
theorem dJ29_init_9 : decode cJ29_init 9 = .ok (.aload_n 0, 1) := dk_42 (dk_at dksJ29_init_0 9 rfl rfl)
theorem dJ29_init_10 : decode cJ29_init 10 = .ok (.aload_n 1, 1) := dk_43 (dk_at dksJ29_init_0 10 rfl rfl)
theorem dJ29_init_11 : decode cJ29_init 11 = .ok (.putfield 15, 3) := dk_181 0 15 (dk_at dksJ29_init_0 11 rfl rfl)
theorem dJ29_init_14 : decode cJ29_init 14 = .ok (.aload_n 0, 1) := dk_42 (dk_at dksJ29_init_0 14 rfl rfl)
theorem dJ29_init_15 : decode cJ29_init 15 = .ok (.aload_n 2, 1) := dk_44 (dk_at dksJ29_init_0 15 rfl rfl)
theorem dJ29_init_16 : decode cJ29_init 16 = .ok (.putfield 19, 3) := dk_181 0 19 (dk_at dksJ29_init_0 16 rfl rfl)
theorem dJ29_init_19 : decode cJ29_init 19 = .ok (.aload_n 0, 1) := dk_42 (dk_at dksJ29_init_0 19 rfl rfl)
theorem dJ29_init_20 : decode cJ29_init 20 = .ok (.aload_n 3, 1) := dk_45 (dk_at dksJ29_init_0 20 rfl rfl)
theorem dJ29_init_21 : decode cJ29_init 21 = .ok (.putfield 22, 3) := dk_181 0 22 (dk_at dksJ29_init_0 21 rfl rfl)
theorem dJ29_init_24 : decode cJ29_init 24 = .ok (.return_, 1) := dk_177 (dk_at dksJ29_init_1 0 rfl rfl)
theorem q84 : (Jvm.Cond.initialized "java/util/TreeMap$Entry") ∈ lw_all := lw_g (lw_at lw_m1 38 rfl) rfl
theorem q893 : (Jvm.Cond.instantiable "java/util/TreeMap$Entry" (6 : Nat)) ∈ lw_all := lw_g (lw_at lw_m4 127 rfl) rfl
theorem q895 : (Jvm.Cond.instanceMethod ({ cls := "java/util/TreeMap$Entry", name := "<init>", desc := "(Ljava/lang/Object;Ljava/lang/Object;Ljava/util/TreeMap$Entry;)V" } : Jvm.MethodName)) ∈ lw_all := lw_g (lw_at lw_m4 129 rfl) rfl
theorem q896 : (Jvm.Cond.code ({ cls := "java/util/TreeMap$Entry", name := "<init>", desc := "(Ljava/lang/Object;Ljava/lang/Object;Ljava/util/TreeMap$Entry;)V" } : Jvm.MethodName) prog_64_method_1_code (4 : Nat) (Option.none : Option Jvm.ClassFile.FieldType)) ∈ lw_all := lw_g (lw_at lw_m4 130 rfl) rfl
theorem q897 : (Jvm.Cond.methodLink "java/util/TreeMap$Entry" (3 : Nat) ({ cls := "java/lang/Object", name := "<init>", desc := "()V" } : Jvm.MethodName)) ∈ lw_all := lw_g (lw_at lw_m4 131 rfl) rfl
theorem q898 : (Jvm.Cond.fieldLink "java/util/TreeMap$Entry" (15 : Nat) "java/util/TreeMap$Entry" "key" "Ljava/lang/Object;") ∈ lw_all := lw_g (lw_at lw_m4 132 rfl) rfl
theorem q901 : (Jvm.Cond.fieldLink "java/util/TreeMap$Entry" (19 : Nat) "java/util/TreeMap$Entry" "value" "Ljava/lang/Object;") ∈ lw_all := lw_g (lw_at lw_m4 135 rfl) rfl
theorem q905 : (Jvm.Cond.fieldLink "java/util/TreeMap$Entry" (22 : Nat) "java/util/TreeMap$Entry" "parent" "Ljava/util/TreeMap$Entry;") ∈ lw_all := lw_g (lw_at lw_m4 139 rfl) rfl
theorem q907 : (Jvm.Cond.fieldLink "java/util/TreeMap$Entry" (9 : Nat) "java/util/TreeMap$Entry" "color" "Z") ∈ lw_all := lw_g (lw_at lw_m4 141 rfl) rfl
theorem q909 : (Jvm.Cond.lays "java/util/TreeMap$Entry" "java/util/TreeMap$Entry" "key" "Ljava/lang/Object;") ∈ lw_all := lw_g (lw_at lw_m4 143 rfl) rfl
theorem q910 : (Jvm.Cond.soleField "java/util/TreeMap$Entry" "key") ∈ lw_all := lw_g (lw_at lw_m4 144 rfl) rfl
theorem q911 : (Jvm.Cond.lays "java/util/TreeMap$Entry" "java/util/TreeMap$Entry" "value" "Ljava/lang/Object;") ∈ lw_all := lw_g (lw_at lw_m4 145 rfl) rfl
theorem q912 : (Jvm.Cond.soleField "java/util/TreeMap$Entry" "value") ∈ lw_all := lw_g (lw_at lw_m4 146 rfl) rfl
theorem q913 : (Jvm.Cond.lays "java/util/TreeMap$Entry" "java/util/TreeMap$Entry" "left" "Ljava/util/TreeMap$Entry;") ∈ lw_all := lw_g (lw_at lw_m4 147 rfl) rfl
theorem q914 : (Jvm.Cond.soleField "java/util/TreeMap$Entry" "left") ∈ lw_all := lw_g (lw_at lw_m4 148 rfl) rfl
theorem q915 : (Jvm.Cond.lays "java/util/TreeMap$Entry" "java/util/TreeMap$Entry" "right" "Ljava/util/TreeMap$Entry;") ∈ lw_all := lw_g (lw_at lw_m4 149 rfl) rfl
theorem q916 : (Jvm.Cond.soleField "java/util/TreeMap$Entry" "right") ∈ lw_all := lw_g (lw_at lw_m4 150 rfl) rfl
theorem q917 : (Jvm.Cond.lays "java/util/TreeMap$Entry" "java/util/TreeMap$Entry" "parent" "Ljava/util/TreeMap$Entry;") ∈ lw_all := lw_g (lw_at lw_m4 151 rfl) rfl
theorem q918 : (Jvm.Cond.soleField "java/util/TreeMap$Entry" "parent") ∈ lw_all := lw_g (lw_at lw_m4 152 rfl) rfl
theorem q919 : (Jvm.Cond.lays "java/util/TreeMap$Entry" "java/util/TreeMap$Entry" "color" "Z") ∈ lw_all := lw_g (lw_at lw_m4 153 rfl) rfl
theorem q920 : (Jvm.Cond.soleField "java/util/TreeMap$Entry" "color") ∈ lw_all := lw_g (lw_at lw_m4 154 rfl) rfl
theorem q921 : (Jvm.Cond.superclass "java/util/TreeMap$Entry" "java/lang/Object") ∈ lw_all := lw_g (lw_at lw_m4 155 rfl) rfl
theorem q999 : (Jvm.Cond.selects "java/util/TreeMap$Entry" ({ cls := "java/lang/Object", name := "getClass", desc := "()Ljava/lang/Class;" } : Jvm.MethodName) ({ cls := "java/lang/Object", name := "getClass", desc := "()Ljava/lang/Class;" } : Jvm.MethodName)) ∈ lw_all := lw_g (lw_at lw_m4 233 rfl) rfl
theorem q1351 : (Jvm.Cond.castable "java/util/TreeMap$Entry" "java/util/Map$Entry") ∈ lw_tbl := lw_at lw_m6 105 rfl
theorem q1352 : (Jvm.Cond.selects "java/util/TreeMap$Entry" ({ cls := "java/util/Map$Entry", name := "getKey", desc := "()Ljava/lang/Object;" } : Jvm.MethodName) ({ cls := "java/util/TreeMap$Entry", name := "getKey", desc := "()Ljava/lang/Object;" } : Jvm.MethodName)) ∈ lw_all := lw_g (lw_at lw_m6 106 rfl) rfl
theorem q1353 : (Jvm.Cond.unhidden "java/util/TreeMap$Entry" "getKey" "()Ljava/lang/Object;") ∈ lw_tbl := lw_at lw_m6 107 rfl
theorem q1354 : (Jvm.Cond.instanceMethod ({ cls := "java/util/TreeMap$Entry", name := "getKey", desc := "()Ljava/lang/Object;" } : Jvm.MethodName)) ∈ lw_all := lw_g (lw_at lw_m6 108 rfl) rfl
theorem q1355 : (Jvm.Cond.publicMethod ({ cls := "java/util/TreeMap$Entry", name := "getKey", desc := "()Ljava/lang/Object;" } : Jvm.MethodName)) ∈ lw_tbl := lw_at lw_m6 109 rfl
theorem q1356 : (Jvm.Cond.code ({ cls := "java/util/TreeMap$Entry", name := "getKey", desc := "()Ljava/lang/Object;" } : Jvm.MethodName) prog_64_method_2_code (1 : Nat) (Option.some (Jvm.ClassFile.FieldType.object "java/lang/Object"))) ∈ lw_all := lw_g (lw_at lw_m6 110 rfl) rfl
theorem q1361 : (Jvm.Cond.selects "java/util/TreeMap$Entry" ({ cls := "java/util/Map$Entry", name := "getValue", desc := "()Ljava/lang/Object;" } : Jvm.MethodName) ({ cls := "java/util/TreeMap$Entry", name := "getValue", desc := "()Ljava/lang/Object;" } : Jvm.MethodName)) ∈ lw_all := lw_g (lw_at lw_m6 115 rfl) rfl
theorem q1362 : (Jvm.Cond.unhidden "java/util/TreeMap$Entry" "getValue" "()Ljava/lang/Object;") ∈ lw_tbl := lw_at lw_m6 116 rfl
theorem q1363 : (Jvm.Cond.instanceMethod ({ cls := "java/util/TreeMap$Entry", name := "getValue", desc := "()Ljava/lang/Object;" } : Jvm.MethodName)) ∈ lw_all := lw_g (lw_at lw_m6 117 rfl) rfl
theorem q1364 : (Jvm.Cond.publicMethod ({ cls := "java/util/TreeMap$Entry", name := "getValue", desc := "()Ljava/lang/Object;" } : Jvm.MethodName)) ∈ lw_tbl := lw_at lw_m6 118 rfl
theorem q1365 : (Jvm.Cond.code ({ cls := "java/util/TreeMap$Entry", name := "getValue", desc := "()Ljava/lang/Object;" } : Jvm.MethodName) prog_64_method_3_code (1 : Nat) (Option.some (Jvm.ClassFile.FieldType.object "java/lang/Object"))) ∈ lw_all := lw_g (lw_at lw_m6 119 rfl) rfl
theorem q2385 : (Jvm.Cond.castable "java/util/TreeMap$Entry" "java/lang/Object") ∈ lw_tbl := lw_at lw_m10 179 rfl
theorem in_J29 : ∀ w ∈ wsJ290, w ∈ lw_all := lw_in wsJ290 [909, 911, 913, 915, 917, 919] (by decide +kernel) (by decide +kernel)

/-! java/lang/AbstractStringBuilder -/
set_option maxRecDepth 100000
def RJ3 : String := "java/lang/AbstractStringBuilder"
abbrev cJ3_init : ByteArray := prog_11_method_2_code
def yJ3_init : MethodName := ⟨RJ3, "<init>", "(I)V"⟩
def dkwJ3_init_1 : List UInt8 := [167, 0, 16, 42, 27, 184, 0, 26, 181, 0, 15, 42, 4, 181, 0, 22, 177]
abbrev dktJ3_init_1 : List UInt8 := dkwJ3_init_1 ++ []
def dkwJ3_init_0 : List UInt8 := [42, 183, 0, 3, 178, 0, 18, 153, 0, 18, 42, 27, 188, 8, 181, 0, 15, 42, 3, 181, 0, 22]
abbrev dktJ3_init_0 : List UInt8 := dkwJ3_init_0 ++ dktJ3_init_1
theorem dksJ3_init_0 : cJ3_init.data.toList.drop 0 = dktJ3_init_0 := by decide +kernel
theorem dksJ3_init_1 : cJ3_init.data.toList.drop 22 = dktJ3_init_1 := dk_seg dksJ3_init_0 22 rfl rfl
theorem dJ3_init_0 : decode cJ3_init 0 = .ok (.aload_n 0, 1) := dk_42 (dk_at dksJ3_init_0 0 rfl rfl)
theorem dJ3_init_1 : decode cJ3_init 1 = .ok (.invokespecial 3, 3) := dk_183 0 3 (dk_at dksJ3_init_0 1 rfl rfl)
theorem dJ3_init_4 : decode cJ3_init 4 = .ok (.getstatic 18, 3) := dk_178 0 18 (dk_at dksJ3_init_0 4 rfl rfl)
theorem dJ3_init_7 : decode cJ3_init 7 = .ok (.ifCond .eq 18, 3) := dk_153 0 18 (dk_at dksJ3_init_0 7 rfl rfl)
theorem dJ3_init_10 : decode cJ3_init 10 = .ok (.aload_n 0, 1) := dk_42 (dk_at dksJ3_init_0 10 rfl rfl)
theorem dJ3_init_11 : decode cJ3_init 11 = .ok (.iload_n 1, 1) := dk_27 (dk_at dksJ3_init_0 11 rfl rfl)
theorem dJ3_init_12 : decode cJ3_init 12 = .ok (.newarray .byte, 2) := dk_188_8 (dk_at dksJ3_init_0 12 rfl rfl)
theorem dJ3_init_14 : decode cJ3_init 14 = .ok (.putfield 15, 3) := dk_181 0 15 (dk_at dksJ3_init_0 14 rfl rfl)
theorem dJ3_init_17 : decode cJ3_init 17 = .ok (.aload_n 0, 1) := dk_42 (dk_at dksJ3_init_0 17 rfl rfl)
theorem dJ3_init_18 : decode cJ3_init 18 = .ok (.iconst 0, 1) := dk_3 (dk_at dksJ3_init_0 18 rfl rfl)
theorem dJ3_init_19 : decode cJ3_init 19 = .ok (.putfield 22, 3) := dk_181 0 22 (dk_at dksJ3_init_0 19 rfl rfl)
theorem dJ3_init_22 : decode cJ3_init 22 = .ok (.goto 16, 3) := dk_167 0 16 (dk_at dksJ3_init_1 0 rfl rfl)
theorem dJ3_init_25 : decode cJ3_init 25 = .ok (.aload_n 0, 1) := dk_42 (dk_at dksJ3_init_1 3 rfl rfl)
theorem dJ3_init_26 : decode cJ3_init 26 = .ok (.iload_n 1, 1) := dk_27 (dk_at dksJ3_init_1 4 rfl rfl)
theorem dJ3_init_27 : decode cJ3_init 27 = .ok (.invokestatic 26, 3) := dk_184 0 26 (dk_at dksJ3_init_1 5 rfl rfl)
theorem dJ3_init_30 : decode cJ3_init 30 = .ok (.putfield 15, 3) := dk_181 0 15 (dk_at dksJ3_init_1 8 rfl rfl)
theorem dJ3_init_33 : decode cJ3_init 33 = .ok (.aload_n 0, 1) := dk_42 (dk_at dksJ3_init_1 11 rfl rfl)
theorem dJ3_init_34 : decode cJ3_init 34 = .ok (.iconst 1, 1) := dk_4 (dk_at dksJ3_init_1 12 rfl rfl)
theorem dJ3_init_35 : decode cJ3_init 35 = .ok (.putfield 22, 3) := dk_181 0 22 (dk_at dksJ3_init_1 13 rfl rfl)
theorem dJ3_init_38 : decode cJ3_init 38 = .ok (.return_, 1) := dk_177 (dk_at dksJ3_init_1 16 rfl rfl)
abbrev cJ3_length : ByteArray := prog_11_method_6_code
def yJ3_length : MethodName := ⟨RJ3, "length", "()I"⟩
theorem dJ3_length_0 : decode cJ3_length 0 = .ok (.aload_n 0, 1) := by decide +kernel
theorem dJ3_length_1 : decode cJ3_length 1 = .ok (.getfield 79, 3) := by decide +kernel
theorem dJ3_length_4 : decode cJ3_length 4 = .ok (.ireturn, 1) := by decide +kernel
abbrev cJ3_charAt : ByteArray := prog_11_method_14_code
def yJ3_charAt : MethodName := ⟨RJ3, "charAt", "(I)C"⟩
def dkwJ3_charAt_1 : List UInt8 := [21, 4, 184, 0, 144, 28, 154, 0, 12, 45, 27, 51, 17, 0, 255, 126, 146, 172, 45, 27, 184, 0, 148, 172]
abbrev dktJ3_charAt_1 : List UInt8 := dkwJ3_charAt_1 ++ []
def dkwJ3_charAt_0 : List UInt8 := [42, 180, 0, 22, 61, 42, 180, 0, 15, 78, 42, 180, 0, 79, 45, 190, 28, 122, 184, 0, 138, 54, 4, 27]
abbrev dktJ3_charAt_0 : List UInt8 := dkwJ3_charAt_0 ++ dktJ3_charAt_1
theorem dksJ3_charAt_0 : cJ3_charAt.data.toList.drop 0 = dktJ3_charAt_0 := by decide +kernel
theorem dksJ3_charAt_1 : cJ3_charAt.data.toList.drop 24 = dktJ3_charAt_1 := dk_seg dksJ3_charAt_0 24 rfl rfl
theorem dJ3_charAt_0 : decode cJ3_charAt 0 = .ok (.aload_n 0, 1) := dk_42 (dk_at dksJ3_charAt_0 0 rfl rfl)
theorem dJ3_charAt_1 : decode cJ3_charAt 1 = .ok (.getfield 22, 3) := dk_180 0 22 (dk_at dksJ3_charAt_0 1 rfl rfl)
theorem dJ3_charAt_4 : decode cJ3_charAt 4 = .ok (.istore_n 2, 1) := dk_61 (dk_at dksJ3_charAt_0 4 rfl rfl)
theorem dJ3_charAt_5 : decode cJ3_charAt 5 = .ok (.aload_n 0, 1) := dk_42 (dk_at dksJ3_charAt_0 5 rfl rfl)
theorem dJ3_charAt_6 : decode cJ3_charAt 6 = .ok (.getfield 15, 3) := dk_180 0 15 (dk_at dksJ3_charAt_0 6 rfl rfl)
theorem dJ3_charAt_9 : decode cJ3_charAt 9 = .ok (.astore_n 3, 1) := dk_78 (dk_at dksJ3_charAt_0 9 rfl rfl)
theorem dJ3_charAt_10 : decode cJ3_charAt 10 = .ok (.aload_n 0, 1) := dk_42 (dk_at dksJ3_charAt_0 10 rfl rfl)
theorem dJ3_charAt_11 : decode cJ3_charAt 11 = .ok (.getfield 79, 3) := dk_180 0 79 (dk_at dksJ3_charAt_0 11 rfl rfl)
theorem dJ3_charAt_14 : decode cJ3_charAt 14 = .ok (.aload_n 3, 1) := dk_45 (dk_at dksJ3_charAt_0 14 rfl rfl)
theorem dJ3_charAt_15 : decode cJ3_charAt 15 = .ok (.arraylength, 1) := dk_190 (dk_at dksJ3_charAt_0 15 rfl rfl)
theorem dJ3_charAt_16 : decode cJ3_charAt 16 = .ok (.iload_n 2, 1) := dk_28 (dk_at dksJ3_charAt_0 16 rfl rfl)
theorem dJ3_charAt_17 : decode cJ3_charAt 17 = .ok (.ishr, 1) := dk_122 (dk_at dksJ3_charAt_0 17 rfl rfl)
theorem dJ3_charAt_18 : decode cJ3_charAt 18 = .ok (.invokestatic 138, 3) := dk_184 0 138 (dk_at dksJ3_charAt_0 18 rfl rfl)
theorem dJ3_charAt_21 : decode cJ3_charAt 21 = .ok (.istore 4, 2) := dk_54 4 (dk_at dksJ3_charAt_0 21 rfl rfl)
theorem dJ3_charAt_23 : decode cJ3_charAt 23 = .ok (.iload_n 1, 1) := dk_27 (dk_at dksJ3_charAt_0 23 rfl rfl)
theorem dJ3_charAt_24 : decode cJ3_charAt 24 = .ok (.iload 4, 2) := dk_21 4 (dk_at dksJ3_charAt_1 0 rfl rfl)
theorem dJ3_charAt_26 : decode cJ3_charAt 26 = .ok (.invokestatic 144, 3) := dk_184 0 144 (dk_at dksJ3_charAt_1 2 rfl rfl)
theorem dJ3_charAt_29 : decode cJ3_charAt 29 = .ok (.iload_n 2, 1) := dk_28 (dk_at dksJ3_charAt_1 5 rfl rfl)
theorem dJ3_charAt_30 : decode cJ3_charAt 30 = .ok (.ifCond .ne 12, 3) := dk_154 0 12 (dk_at dksJ3_charAt_1 6 rfl rfl)
theorem dJ3_charAt_33 : decode cJ3_charAt 33 = .ok (.aload_n 3, 1) := dk_45 (dk_at dksJ3_charAt_1 9 rfl rfl)
theorem dJ3_charAt_34 : decode cJ3_charAt 34 = .ok (.iload_n 1, 1) := dk_27 (dk_at dksJ3_charAt_1 10 rfl rfl)
theorem dJ3_charAt_35 : decode cJ3_charAt 35 = .ok (.baload, 1) := dk_51 (dk_at dksJ3_charAt_1 11 rfl rfl)
theorem dJ3_charAt_36 : decode cJ3_charAt 36 = .ok (.sipush 255, 3) := dk_17 0 255 (dk_at dksJ3_charAt_1 12 rfl rfl)
theorem dJ3_charAt_39 : decode cJ3_charAt 39 = .ok (.iand, 1) := dk_126 (dk_at dksJ3_charAt_1 15 rfl rfl)
theorem dJ3_charAt_40 : decode cJ3_charAt 40 = .ok (.i2c, 1) := dk_146 (dk_at dksJ3_charAt_1 16 rfl rfl)
theorem dJ3_charAt_41 : decode cJ3_charAt 41 = .ok (.ireturn, 1) := dk_172 (dk_at dksJ3_charAt_1 17 rfl rfl)
theorem dJ3_charAt_42 : decode cJ3_charAt 42 = .ok (.aload_n 3, 1) := dk_45 (dk_at dksJ3_charAt_1 18 rfl rfl)
theorem dJ3_charAt_43 : decode cJ3_charAt 43 = .ok (.iload_n 1, 1) := dk_27 (dk_at dksJ3_charAt_1 19 rfl rfl)
theorem dJ3_charAt_44 : decode cJ3_charAt 44 = .ok (.invokestatic 148, 3) := dk_184 0 148 (dk_at dksJ3_charAt_1 20 rfl rfl)
theorem dJ3_charAt_47 : decode cJ3_charAt 47 = .ok (.ireturn, 1) := dk_172 (dk_at dksJ3_charAt_1 23 rfl rfl)
abbrev cJ3_getValue : ByteArray := prog_11_method_64_code
def yJ3_getValue : MethodName := ⟨RJ3, "getValue", "()[B"⟩
theorem dJ3_getValue_0 : decode cJ3_getValue 0 = .ok (.aload_n 0, 1) := by decide +kernel
theorem dJ3_getValue_1 : decode cJ3_getValue 1 = .ok (.getfield 15, 3) := by decide +kernel
theorem dJ3_getValue_4 : decode cJ3_getValue 4 = .ok (.areturn, 1) := by decide +kernel
abbrev cJ3_isLatin1 : ByteArray := prog_11_method_68_code
def yJ3_isLatin1 : MethodName := ⟨RJ3, "isLatin1", "()Z"⟩
def dkwJ3_isLatin1_0 : List UInt8 := [178, 0, 18, 153, 0, 14, 42, 180, 0, 22, 154, 0, 7, 4, 167, 0, 4, 3, 172]
abbrev dktJ3_isLatin1_0 : List UInt8 := dkwJ3_isLatin1_0 ++ []
theorem dksJ3_isLatin1_0 : cJ3_isLatin1.data.toList.drop 0 = dktJ3_isLatin1_0 := by decide +kernel
theorem dJ3_isLatin1_0 : decode cJ3_isLatin1 0 = .ok (.getstatic 18, 3) := dk_178 0 18 (dk_at dksJ3_isLatin1_0 0 rfl rfl)
theorem dJ3_isLatin1_3 : decode cJ3_isLatin1 3 = .ok (.ifCond .eq 14, 3) := dk_153 0 14 (dk_at dksJ3_isLatin1_0 3 rfl rfl)
theorem dJ3_isLatin1_6 : decode cJ3_isLatin1 6 = .ok (.aload_n 0, 1) := dk_42 (dk_at dksJ3_isLatin1_0 6 rfl rfl)
theorem dJ3_isLatin1_7 : decode cJ3_isLatin1 7 = .ok (.getfield 22, 3) := dk_180 0 22 (dk_at dksJ3_isLatin1_0 7 rfl rfl)
theorem dJ3_isLatin1_10 : decode cJ3_isLatin1 10 = .ok (.ifCond .ne 7, 3) := dk_154 0 7 (dk_at dksJ3_isLatin1_0 10 rfl rfl)
theorem dJ3_isLatin1_13 : decode cJ3_isLatin1 13 = .ok (.iconst 1, 1) := dk_4 (dk_at dksJ3_isLatin1_0 13 rfl rfl)
theorem dJ3_isLatin1_14 : decode cJ3_isLatin1 14 = .ok (.goto 4, 3) := dk_167 0 4 (dk_at dksJ3_isLatin1_0 14 rfl rfl)
theorem dJ3_isLatin1_17 : decode cJ3_isLatin1 17 = .ok (.iconst 0, 1) := dk_3 (dk_at dksJ3_isLatin1_0 17 rfl rfl)
theorem dJ3_isLatin1_18 : decode cJ3_isLatin1 18 = .ok (.ireturn, 1) := dk_172 (dk_at dksJ3_isLatin1_0 18 rfl rfl)
abbrev cJ3_ensureCapacityInternal : ByteArray := prog_11_method_9_code
def yJ3_ensureCapacityInternal : MethodName := ⟨RJ3, "ensureCapacityInternal", "(I)V"⟩
def dkwJ3_ensureCapacityInternal_1 : List UInt8 := [182, 0, 104, 42, 180, 0, 22, 120, 184, 0, 108, 181, 0, 15, 177]
abbrev dktJ3_ensureCapacityInternal_1 : List UInt8 := dkwJ3_ensureCapacityInternal_1 ++ []
def dkwJ3_ensureCapacityInternal_0 : List UInt8 := [42, 180, 0, 15, 190, 42, 180, 0, 22, 122, 61, 27, 28, 100, 158, 0, 24, 42, 42, 180, 0, 15, 42, 27]
abbrev dktJ3_ensureCapacityInternal_0 : List UInt8 := dkwJ3_ensureCapacityInternal_0 ++ dktJ3_ensureCapacityInternal_1
theorem dksJ3_ensureCapacityInternal_0 : cJ3_ensureCapacityInternal.data.toList.drop 0 = dktJ3_ensureCapacityInternal_0 := by decide +kernel
theorem dksJ3_ensureCapacityInternal_1 : cJ3_ensureCapacityInternal.data.toList.drop 24 = dktJ3_ensureCapacityInternal_1 := dk_seg dksJ3_ensureCapacityInternal_0 24 rfl rfl
theorem dJ3_ensureCapacityInternal_0 : decode cJ3_ensureCapacityInternal 0 = .ok (.aload_n 0, 1) := dk_42 (dk_at dksJ3_ensureCapacityInternal_0 0 rfl rfl)
theorem dJ3_ensureCapacityInternal_1 : decode cJ3_ensureCapacityInternal 1 = .ok (.getfield 15, 3) := dk_180 0 15 (dk_at dksJ3_ensureCapacityInternal_0 1 rfl rfl)
theorem dJ3_ensureCapacityInternal_4 : decode cJ3_ensureCapacityInternal 4 = .ok (.arraylength, 1) := dk_190 (dk_at dksJ3_ensureCapacityInternal_0 4 rfl rfl)
theorem dJ3_ensureCapacityInternal_5 : decode cJ3_ensureCapacityInternal 5 = .ok (.aload_n 0, 1) := dk_42 (dk_at dksJ3_ensureCapacityInternal_0 5 rfl rfl)
theorem dJ3_ensureCapacityInternal_6 : decode cJ3_ensureCapacityInternal 6 = .ok (.getfield 22, 3) := dk_180 0 22 (dk_at dksJ3_ensureCapacityInternal_0 6 rfl rfl)
theorem dJ3_ensureCapacityInternal_9 : decode cJ3_ensureCapacityInternal 9 = .ok (.ishr, 1) := dk_122 (dk_at dksJ3_ensureCapacityInternal_0 9 rfl rfl)
theorem dJ3_ensureCapacityInternal_10 : decode cJ3_ensureCapacityInternal 10 = .ok (.istore_n 2, 1) := dk_61 (dk_at dksJ3_ensureCapacityInternal_0 10 rfl rfl)
theorem dJ3_ensureCapacityInternal_11 : decode cJ3_ensureCapacityInternal 11 = .ok (.iload_n 1, 1) := dk_27 (dk_at dksJ3_ensureCapacityInternal_0 11 rfl rfl)
theorem dJ3_ensureCapacityInternal_12 : decode cJ3_ensureCapacityInternal 12 = .ok (.iload_n 2, 1) := dk_28 (dk_at dksJ3_ensureCapacityInternal_0 12 rfl rfl)
theorem dJ3_ensureCapacityInternal_13 : decode cJ3_ensureCapacityInternal 13 = .ok (.isub, 1) := dk_100 (dk_at dksJ3_ensureCapacityInternal_0 13 rfl rfl)
theorem dJ3_ensureCapacityInternal_14 : decode cJ3_ensureCapacityInternal 14 = .ok (.ifCond .le 24, 3) := dk_158 0 24 (dk_at dksJ3_ensureCapacityInternal_0 14 rfl rfl)
theorem dJ3_ensureCapacityInternal_17 : decode cJ3_ensureCapacityInternal 17 = .ok (.aload_n 0, 1) := dk_42 (dk_at dksJ3_ensureCapacityInternal_0 17 rfl rfl)
theorem dJ3_ensureCapacityInternal_18 : decode cJ3_ensureCapacityInternal 18 = .ok (.aload_n 0, 1) := dk_42 (dk_at dksJ3_ensureCapacityInternal_0 18 rfl rfl)
theorem dJ3_ensureCapacityInternal_19 : decode cJ3_ensureCapacityInternal 19 = .ok (.getfield 15, 3) := dk_180 0 15 (dk_at dksJ3_ensureCapacityInternal_0 19 rfl rfl)
theorem dJ3_ensureCapacityInternal_22 : decode cJ3_ensureCapacityInternal 22 = .ok (.aload_n 0, 1) := dk_42 (dk_at dksJ3_ensureCapacityInternal_0 22 rfl rfl)
theorem dJ3_ensureCapacityInternal_23 : decode cJ3_ensureCapacityInternal 23 = .ok (.iload_n 1, 1) := dk_27 (dk_at dksJ3_ensureCapacityInternal_0 23 rfl rfl)
theorem dJ3_ensureCapacityInternal_24 : decode cJ3_ensureCapacityInternal 24 = .ok (.invokevirtual 104, 3) := dk_182 0 104 (dk_at dksJ3_ensureCapacityInternal_1 0 rfl rfl)
theorem dJ3_ensureCapacityInternal_27 : decode cJ3_ensureCapacityInternal 27 = .ok (.aload_n 0, 1) := dk_42 (dk_at dksJ3_ensureCapacityInternal_1 3 rfl rfl)
theorem dJ3_ensureCapacityInternal_28 : decode cJ3_ensureCapacityInternal 28 = .ok (.getfield 22, 3) := dk_180 0 22 (dk_at dksJ3_ensureCapacityInternal_1 4 rfl rfl)
theorem dJ3_ensureCapacityInternal_31 : decode cJ3_ensureCapacityInternal 31 = .ok (.ishl, 1) := dk_120 (dk_at dksJ3_ensureCapacityInternal_1 7 rfl rfl)
theorem dJ3_ensureCapacityInternal_32 : decode cJ3_ensureCapacityInternal 32 = .ok (.invokestatic 108, 3) := dk_184 0 108 (dk_at dksJ3_ensureCapacityInternal_1 8 rfl rfl)
theorem dJ3_ensureCapacityInternal_35 : decode cJ3_ensureCapacityInternal 35 = .ok (.putfield 15, 3) := dk_181 0 15 (dk_at dksJ3_ensureCapacityInternal_1 11 rfl rfl)
theorem dJ3_ensureCapacityInternal_38 : decode cJ3_ensureCapacityInternal 38 = .ok (.return_, 1) := dk_177 (dk_at dksJ3_ensureCapacityInternal_1 14 rfl rfl)
abbrev cJ3_newCapacity : ByteArray := prog_11_method_10_code
def yJ3_newCapacity : MethodName := ⟨RJ3, "newCapacity", "(I)I"⟩
def dkwJ3_newCapacity_2 : List UInt8 := [183, 0, 124, 191, 21, 5, 42, 180, 0, 22, 122, 172]
abbrev dktJ3_newCapacity_2 : List UInt8 := dkwJ3_newCapacity_2 ++ []
def dkwJ3_newCapacity_1 : List UInt8 := [180, 0, 22, 120, 96, 184, 0, 114, 54, 5, 21, 5, 18, 39, 160, 0, 13, 187, 0, 120, 89, 18, 122]
abbrev dktJ3_newCapacity_1 : List UInt8 := dkwJ3_newCapacity_1 ++ dktJ3_newCapacity_2
def dkwJ3_newCapacity_0 : List UInt8 := [42, 180, 0, 15, 190, 61, 27, 42, 180, 0, 22, 120, 62, 29, 28, 100, 54, 4, 28, 21, 4, 28, 5, 42]
abbrev dktJ3_newCapacity_0 : List UInt8 := dkwJ3_newCapacity_0 ++ dktJ3_newCapacity_1
theorem dksJ3_newCapacity_0 : cJ3_newCapacity.data.toList.drop 0 = dktJ3_newCapacity_0 := by decide +kernel
theorem dksJ3_newCapacity_1 : cJ3_newCapacity.data.toList.drop 24 = dktJ3_newCapacity_1 := dk_seg dksJ3_newCapacity_0 24 rfl rfl
theorem dksJ3_newCapacity_2 : cJ3_newCapacity.data.toList.drop 47 = dktJ3_newCapacity_2 := dk_seg dksJ3_newCapacity_1 23 rfl rfl
theorem dJ3_newCapacity_0 : decode cJ3_newCapacity 0 = .ok (.aload_n 0, 1) := dk_42 (dk_at dksJ3_newCapacity_0 0 rfl rfl)
theorem dJ3_newCapacity_1 : decode cJ3_newCapacity 1 = .ok (.getfield 15, 3) := dk_180 0 15 (dk_at dksJ3_newCapacity_0 1 rfl rfl)
theorem dJ3_newCapacity_4 : decode cJ3_newCapacity 4 = .ok (.arraylength, 1) := dk_190 (dk_at dksJ3_newCapacity_0 4 rfl rfl)
theorem dJ3_newCapacity_5 : decode cJ3_newCapacity 5 = .ok (.istore_n 2, 1) := dk_61 (dk_at dksJ3_newCapacity_0 5 rfl rfl)
theorem dJ3_newCapacity_6 : decode cJ3_newCapacity 6 = .ok (.iload_n 1, 1) := dk_27 (dk_at dksJ3_newCapacity_0 6 rfl rfl)
theorem dJ3_newCapacity_7 : decode cJ3_newCapacity 7 = .ok (.aload_n 0, 1) := dk_42 (dk_at dksJ3_newCapacity_0 7 rfl rfl)
theorem dJ3_newCapacity_8 : decode cJ3_newCapacity 8 = .ok (.getfield 22, 3) := dk_180 0 22 (dk_at dksJ3_newCapacity_0 8 rfl rfl)
theorem dJ3_newCapacity_11 : decode cJ3_newCapacity 11 = .ok (.ishl, 1) := dk_120 (dk_at dksJ3_newCapacity_0 11 rfl rfl)
theorem dJ3_newCapacity_12 : decode cJ3_newCapacity 12 = .ok (.istore_n 3, 1) := dk_62 (dk_at dksJ3_newCapacity_0 12 rfl rfl)
theorem dJ3_newCapacity_13 : decode cJ3_newCapacity 13 = .ok (.iload_n 3, 1) := dk_29 (dk_at dksJ3_newCapacity_0 13 rfl rfl)
theorem dJ3_newCapacity_14 : decode cJ3_newCapacity 14 = .ok (.iload_n 2, 1) := dk_28 (dk_at dksJ3_newCapacity_0 14 rfl rfl)
theorem dJ3_newCapacity_15 : decode cJ3_newCapacity 15 = .ok (.isub, 1) := dk_100 (dk_at dksJ3_newCapacity_0 15 rfl rfl)
theorem dJ3_newCapacity_16 : decode cJ3_newCapacity 16 = .ok (.istore 4, 2) := dk_54 4 (dk_at dksJ3_newCapacity_0 16 rfl rfl)
theorem dJ3_newCapacity_18 : decode cJ3_newCapacity 18 = .ok (.iload_n 2, 1) := dk_28 (dk_at dksJ3_newCapacity_0 18 rfl rfl)
theorem dJ3_newCapacity_19 : decode cJ3_newCapacity 19 = .ok (.iload 4, 2) := dk_21 4 (dk_at dksJ3_newCapacity_0 19 rfl rfl)
theorem dJ3_newCapacity_21 : decode cJ3_newCapacity 21 = .ok (.iload_n 2, 1) := dk_28 (dk_at dksJ3_newCapacity_0 21 rfl rfl)
theorem dJ3_newCapacity_22 : decode cJ3_newCapacity 22 = .ok (.iconst 2, 1) := dk_5 (dk_at dksJ3_newCapacity_0 22 rfl rfl)
theorem dJ3_newCapacity_23 : decode cJ3_newCapacity 23 = .ok (.aload_n 0, 1) := dk_42 (dk_at dksJ3_newCapacity_0 23 rfl rfl)
theorem dJ3_newCapacity_24 : decode cJ3_newCapacity 24 = .ok (.getfield 22, 3) := dk_180 0 22 (dk_at dksJ3_newCapacity_1 0 rfl rfl)
theorem dJ3_newCapacity_27 : decode cJ3_newCapacity 27 = .ok (.ishl, 1) := dk_120 (dk_at dksJ3_newCapacity_1 3 rfl rfl)
theorem dJ3_newCapacity_28 : decode cJ3_newCapacity 28 = .ok (.iadd, 1) := dk_96 (dk_at dksJ3_newCapacity_1 4 rfl rfl)
theorem dJ3_newCapacity_29 : decode cJ3_newCapacity 29 = .ok (.invokestatic 114, 3) := dk_184 0 114 (dk_at dksJ3_newCapacity_1 5 rfl rfl)
theorem dJ3_newCapacity_32 : decode cJ3_newCapacity 32 = .ok (.istore 5, 2) := dk_54 5 (dk_at dksJ3_newCapacity_1 8 rfl rfl)
theorem dJ3_newCapacity_34 : decode cJ3_newCapacity 34 = .ok (.iload 5, 2) := dk_21 5 (dk_at dksJ3_newCapacity_1 10 rfl rfl)
theorem dJ3_newCapacity_36 : decode cJ3_newCapacity 36 = .ok (.ldc 39, 2) := dk_18 39 (dk_at dksJ3_newCapacity_1 12 rfl rfl)
theorem dJ3_newCapacity_38 : decode cJ3_newCapacity 38 = .ok (.if_icmp .ne 13, 3) := dk_160 0 13 (dk_at dksJ3_newCapacity_1 14 rfl rfl)
theorem dJ3_newCapacity_41 : decode cJ3_newCapacity 41 = .ok (.new 120, 3) := dk_187 0 120 (dk_at dksJ3_newCapacity_1 17 rfl rfl)
theorem dJ3_newCapacity_44 : decode cJ3_newCapacity 44 = .ok (.dup, 1) := dk_89 (dk_at dksJ3_newCapacity_1 20 rfl rfl)
theorem dJ3_newCapacity_45 : decode cJ3_newCapacity 45 = .ok (.ldc 122, 2) := dk_18 122 (dk_at dksJ3_newCapacity_1 21 rfl rfl)
theorem dJ3_newCapacity_47 : decode cJ3_newCapacity 47 = .ok (.invokespecial 124, 3) := dk_183 0 124 (dk_at dksJ3_newCapacity_2 0 rfl rfl)
theorem dJ3_newCapacity_50 : decode cJ3_newCapacity 50 = .ok (.athrow, 1) := dk_191 (dk_at dksJ3_newCapacity_2 3 rfl rfl)
theorem dJ3_newCapacity_51 : decode cJ3_newCapacity 51 = .ok (.iload 5, 2) := dk_21 5 (dk_at dksJ3_newCapacity_2 4 rfl rfl)
theorem dJ3_newCapacity_53 : decode cJ3_newCapacity 53 = .ok (.aload_n 0, 1) := dk_42 (dk_at dksJ3_newCapacity_2 6 rfl rfl)
theorem dJ3_newCapacity_54 : decode cJ3_newCapacity 54 = .ok (.getfield 22, 3) := dk_180 0 22 (dk_at dksJ3_newCapacity_2 7 rfl rfl)
theorem dJ3_newCapacity_57 : decode cJ3_newCapacity 57 = .ok (.ishr, 1) := dk_122 (dk_at dksJ3_newCapacity_2 10 rfl rfl)
theorem dJ3_newCapacity_58 : decode cJ3_newCapacity 58 = .ok (.ireturn, 1) := dk_172 (dk_at dksJ3_newCapacity_2 11 rfl rfl)
abbrev cJ3_append_2 : ByteArray := prog_11_method_22_code
def yJ3_append_2 : MethodName := ⟨RJ3, "append", "(Ljava/lang/String;)Ljava/lang/AbstractStringBuilder;"⟩
def dkwJ3_append_2_1 : List UInt8 := [42, 42, 180, 0, 79, 43, 182, 0, 208, 42, 89, 180, 0, 79, 28, 96, 181, 0, 79, 42, 176]
abbrev dktJ3_append_2_1 : List UInt8 := dkwJ3_append_2_1 ++ []
def dkwJ3_append_2_0 : List UInt8 := [43, 199, 0, 8, 42, 182, 0, 204, 176, 43, 182, 0, 32, 61, 42, 42, 180, 0, 79, 28, 96, 182, 0, 100]
abbrev dktJ3_append_2_0 : List UInt8 := dkwJ3_append_2_0 ++ dktJ3_append_2_1
theorem dksJ3_append_2_0 : cJ3_append_2.data.toList.drop 0 = dktJ3_append_2_0 := by decide +kernel
theorem dksJ3_append_2_1 : cJ3_append_2.data.toList.drop 24 = dktJ3_append_2_1 := dk_seg dksJ3_append_2_0 24 rfl rfl
theorem dJ3_append_2_0 : decode cJ3_append_2 0 = .ok (.aload_n 1, 1) := dk_43 (dk_at dksJ3_append_2_0 0 rfl rfl)
theorem dJ3_append_2_1 : decode cJ3_append_2 1 = .ok (.ifnonnull 8, 3) := dk_199 0 8 (dk_at dksJ3_append_2_0 1 rfl rfl)
theorem dJ3_append_2_4 : decode cJ3_append_2 4 = .ok (.aload_n 0, 1) := dk_42 (dk_at dksJ3_append_2_0 4 rfl rfl)
theorem dJ3_append_2_5 : decode cJ3_append_2 5 = .ok (.invokevirtual 204, 3) := dk_182 0 204 (dk_at dksJ3_append_2_0 5 rfl rfl)
theorem dJ3_append_2_8 : decode cJ3_append_2 8 = .ok (.areturn, 1) := dk_176 (dk_at dksJ3_append_2_0 8 rfl rfl)
theorem dJ3_append_2_9 : decode cJ3_append_2 9 = .ok (.aload_n 1, 1) := dk_43 (dk_at dksJ3_append_2_0 9 rfl rfl)
theorem dJ3_append_2_10 : decode cJ3_append_2 10 = .ok (.invokevirtual 32, 3) := dk_182 0 32 (dk_at dksJ3_append_2_0 10 rfl rfl)
theorem dJ3_append_2_13 : decode cJ3_append_2 13 = .ok (.istore_n 2, 1) := dk_61 (dk_at dksJ3_append_2_0 13 rfl rfl)
theorem dJ3_append_2_14 : decode cJ3_append_2 14 = .ok (.aload_n 0, 1) := dk_42 (dk_at dksJ3_append_2_0 14 rfl rfl)
theorem dJ3_append_2_15 : decode cJ3_append_2 15 = .ok (.aload_n 0, 1) := dk_42 (dk_at dksJ3_append_2_0 15 rfl rfl)
theorem dJ3_append_2_16 : decode cJ3_append_2 16 = .ok (.getfield 79, 3) := dk_180 0 79 (dk_at dksJ3_append_2_0 16 rfl rfl)
theorem dJ3_append_2_19 : decode cJ3_append_2 19 = .ok (.iload_n 2, 1) := dk_28 (dk_at dksJ3_append_2_0 19 rfl rfl)
theorem dJ3_append_2_20 : decode cJ3_append_2 20 = .ok (.iadd, 1) := dk_96 (dk_at dksJ3_append_2_0 20 rfl rfl)
theorem dJ3_append_2_21 : decode cJ3_append_2 21 = .ok (.invokevirtual 100, 3) := dk_182 0 100 (dk_at dksJ3_append_2_0 21 rfl rfl)
theorem dJ3_append_2_24 : decode cJ3_append_2 24 = .ok (.aload_n 0, 1) := dk_42 (dk_at dksJ3_append_2_1 0 rfl rfl)
theorem dJ3_append_2_25 : decode cJ3_append_2 25 = .ok (.aload_n 0, 1) := dk_42 (dk_at dksJ3_append_2_1 1 rfl rfl)
theorem dJ3_append_2_26 : decode cJ3_append_2 26 = .ok (.getfield 79, 3) := dk_180 0 79 (dk_at dksJ3_append_2_1 2 rfl rfl)
theorem dJ3_append_2_29 : decode cJ3_append_2 29 = .ok (.aload_n 1, 1) := dk_43 (dk_at dksJ3_append_2_1 5 rfl rfl)
theorem dJ3_append_2_30 : decode cJ3_append_2 30 = .ok (.invokevirtual 208, 3) := dk_182 0 208 (dk_at dksJ3_append_2_1 6 rfl rfl)
theorem dJ3_append_2_33 : decode cJ3_append_2 33 = .ok (.aload_n 0, 1) := dk_42 (dk_at dksJ3_append_2_1 9 rfl rfl)
theorem dJ3_append_2_34 : decode cJ3_append_2 34 = .ok (.dup, 1) := dk_89 (dk_at dksJ3_append_2_1 10 rfl rfl)
theorem dJ3_append_2_35 : decode cJ3_append_2 35 = .ok (.getfield 79, 3) := dk_180 0 79 (dk_at dksJ3_append_2_1 11 rfl rfl)
theorem dJ3_append_2_38 : decode cJ3_append_2 38 = .ok (.iload_n 2, 1) := dk_28 (dk_at dksJ3_append_2_1 14 rfl rfl)
theorem dJ3_append_2_39 : decode cJ3_append_2 39 = .ok (.iadd, 1) := dk_96 (dk_at dksJ3_append_2_1 15 rfl rfl)
theorem dJ3_append_2_40 : decode cJ3_append_2 40 = .ok (.putfield 79, 3) := dk_181 0 79 (dk_at dksJ3_append_2_1 16 rfl rfl)
theorem dJ3_append_2_43 : decode cJ3_append_2 43 = .ok (.aload_n 0, 1) := dk_42 (dk_at dksJ3_append_2_1 19 rfl rfl)
theorem dJ3_append_2_44 : decode cJ3_append_2 44 = .ok (.areturn, 1) := dk_176 (dk_at dksJ3_append_2_1 20 rfl rfl)
abbrev cJ3_putStringAt : ByteArray := prog_11_method_73_code
def yJ3_putStringAt : MethodName := ⟨RJ3, "putStringAt", "(ILjava/lang/String;)V"⟩
def dkwJ3_putStringAt_0 : List UInt8 := [42, 44, 182, 1, 141, 44, 42, 180, 0, 15, 27, 42, 180, 0, 22, 182, 1, 143, 177]
abbrev dktJ3_putStringAt_0 : List UInt8 := dkwJ3_putStringAt_0 ++ []
theorem dksJ3_putStringAt_0 : cJ3_putStringAt.data.toList.drop 0 = dktJ3_putStringAt_0 := by decide +kernel
theorem dJ3_putStringAt_0 : decode cJ3_putStringAt 0 = .ok (.aload_n 0, 1) := dk_42 (dk_at dksJ3_putStringAt_0 0 rfl rfl)
theorem dJ3_putStringAt_1 : decode cJ3_putStringAt 1 = .ok (.aload_n 2, 1) := dk_44 (dk_at dksJ3_putStringAt_0 1 rfl rfl)
theorem dJ3_putStringAt_2 : decode cJ3_putStringAt 2 = .ok (.invokevirtual 397, 3) := dk_182 1 141 (dk_at dksJ3_putStringAt_0 2 rfl rfl)
theorem dJ3_putStringAt_5 : decode cJ3_putStringAt 5 = .ok (.aload_n 2, 1) := dk_44 (dk_at dksJ3_putStringAt_0 5 rfl rfl)
theorem dJ3_putStringAt_6 : decode cJ3_putStringAt 6 = .ok (.aload_n 0, 1) := dk_42 (dk_at dksJ3_putStringAt_0 6 rfl rfl)
theorem dJ3_putStringAt_7 : decode cJ3_putStringAt 7 = .ok (.getfield 15, 3) := dk_180 0 15 (dk_at dksJ3_putStringAt_0 7 rfl rfl)
theorem dJ3_putStringAt_10 : decode cJ3_putStringAt 10 = .ok (.iload_n 1, 1) := dk_27 (dk_at dksJ3_putStringAt_0 10 rfl rfl)
theorem dJ3_putStringAt_11 : decode cJ3_putStringAt 11 = .ok (.aload_n 0, 1) := dk_42 (dk_at dksJ3_putStringAt_0 11 rfl rfl)
theorem dJ3_putStringAt_12 : decode cJ3_putStringAt 12 = .ok (.getfield 22, 3) := dk_180 0 22 (dk_at dksJ3_putStringAt_0 12 rfl rfl)
theorem dJ3_putStringAt_15 : decode cJ3_putStringAt 15 = .ok (.invokevirtual 399, 3) := dk_182 1 143 (dk_at dksJ3_putStringAt_0 15 rfl rfl)
theorem dJ3_putStringAt_18 : decode cJ3_putStringAt 18 = .ok (.return_, 1) := dk_177 (dk_at dksJ3_putStringAt_0 18 rfl rfl)
abbrev cJ3_inflateIfNeededFor : ByteArray := prog_11_method_71_code
def yJ3_inflateIfNeededFor : MethodName := ⟨RJ3, "inflateIfNeededFor", "(Ljava/lang/String;)V"⟩
def dkwJ3_inflateIfNeededFor_0 : List UInt8 := [178, 0, 18, 153, 0, 18, 42, 180, 0, 22, 43, 182, 0, 40, 159, 0, 7, 42, 182, 0, 195, 177]
abbrev dktJ3_inflateIfNeededFor_0 : List UInt8 := dkwJ3_inflateIfNeededFor_0 ++ []
theorem dksJ3_inflateIfNeededFor_0 : cJ3_inflateIfNeededFor.data.toList.drop 0 = dktJ3_inflateIfNeededFor_0 := by decide +kernel
theorem dJ3_inflateIfNeededFor_0 : decode cJ3_inflateIfNeededFor 0 = .ok (.getstatic 18, 3) := dk_178 0 18 (dk_at dksJ3_inflateIfNeededFor_0 0 rfl rfl)
theorem dJ3_inflateIfNeededFor_3 : decode cJ3_inflateIfNeededFor 3 = .ok (.ifCond .eq 18, 3) := dk_153 0 18 (dk_at dksJ3_inflateIfNeededFor_0 3 rfl rfl)
theorem dJ3_inflateIfNeededFor_6 : decode cJ3_inflateIfNeededFor 6 = .ok (.aload_n 0, 1) := dk_42 (dk_at dksJ3_inflateIfNeededFor_0 6 rfl rfl)
theorem dJ3_inflateIfNeededFor_7 : decode cJ3_inflateIfNeededFor 7 = .ok (.getfield 22, 3) := dk_180 0 22 (dk_at dksJ3_inflateIfNeededFor_0 7 rfl rfl)
theorem dJ3_inflateIfNeededFor_10 : decode cJ3_inflateIfNeededFor 10 = .ok (.aload_n 1, 1) := dk_43 (dk_at dksJ3_inflateIfNeededFor_0 10 rfl rfl)
theorem dJ3_inflateIfNeededFor_11 : decode cJ3_inflateIfNeededFor 11 = .ok (.invokevirtual 40, 3) := dk_182 0 40 (dk_at dksJ3_inflateIfNeededFor_0 11 rfl rfl)
theorem dJ3_inflateIfNeededFor_14 : decode cJ3_inflateIfNeededFor 14 = .ok (.if_icmp .eq 7, 3) := dk_159 0 7 (dk_at dksJ3_inflateIfNeededFor_0 14 rfl rfl)
theorem dJ3_inflateIfNeededFor_17 : decode cJ3_inflateIfNeededFor 17 = .ok (.aload_n 0, 1) := dk_42 (dk_at dksJ3_inflateIfNeededFor_0 17 rfl rfl)
theorem dJ3_inflateIfNeededFor_18 : decode cJ3_inflateIfNeededFor 18 = .ok (.invokevirtual 195, 3) := dk_182 0 195 (dk_at dksJ3_inflateIfNeededFor_0 18 rfl rfl)
theorem dJ3_inflateIfNeededFor_21 : decode cJ3_inflateIfNeededFor 21 = .ok (.return_, 1) := dk_177 (dk_at dksJ3_inflateIfNeededFor_0 21 rfl rfl)
abbrev cJ3_insert : ByteArray := prog_11_method_51_code
def yJ3_insert : MethodName := ⟨RJ3, "insert", "(IC)Ljava/lang/AbstractStringBuilder;"⟩
def dkwJ3_insert_3 : List UInt8 := [180, 0, 15, 27, 28, 184, 0, 197, 42, 176]
abbrev dktJ3_insert_3 : List UInt8 := dkwJ3_insert_3 ++ []
def dkwJ3_insert_2 : List UInt8 := [42, 180, 0, 15, 27, 28, 145, 84, 167, 0, 23, 42, 182, 0, 83, 153, 0, 7, 42, 182, 0, 195, 42]
abbrev dktJ3_insert_2 : List UInt8 := dkwJ3_insert_2 ++ dktJ3_insert_3
def dkwJ3_insert_1 : List UInt8 := [42, 89, 180, 0, 79, 4, 96, 181, 0, 79, 42, 182, 0, 83, 153, 0, 21, 28, 184, 0, 191, 153, 0, 14]
abbrev dktJ3_insert_1 : List UInt8 := dkwJ3_insert_1 ++ dktJ3_insert_2
def dkwJ3_insert_0 : List UInt8 := [27, 42, 180, 0, 79, 184, 1, 59, 42, 42, 180, 0, 79, 4, 96, 182, 0, 100, 42, 27, 4, 182, 1, 27]
abbrev dktJ3_insert_0 : List UInt8 := dkwJ3_insert_0 ++ dktJ3_insert_1
theorem dksJ3_insert_0 : cJ3_insert.data.toList.drop 0 = dktJ3_insert_0 := by decide +kernel
theorem dksJ3_insert_1 : cJ3_insert.data.toList.drop 24 = dktJ3_insert_1 := dk_seg dksJ3_insert_0 24 rfl rfl
theorem dksJ3_insert_2 : cJ3_insert.data.toList.drop 48 = dktJ3_insert_2 := dk_seg dksJ3_insert_1 24 rfl rfl
theorem dksJ3_insert_3 : cJ3_insert.data.toList.drop 71 = dktJ3_insert_3 := dk_seg dksJ3_insert_2 23 rfl rfl
theorem dJ3_insert_0 : decode cJ3_insert 0 = .ok (.iload_n 1, 1) := dk_27 (dk_at dksJ3_insert_0 0 rfl rfl)
theorem dJ3_insert_1 : decode cJ3_insert 1 = .ok (.aload_n 0, 1) := dk_42 (dk_at dksJ3_insert_0 1 rfl rfl)
theorem dJ3_insert_2 : decode cJ3_insert 2 = .ok (.getfield 79, 3) := dk_180 0 79 (dk_at dksJ3_insert_0 2 rfl rfl)
theorem dJ3_insert_5 : decode cJ3_insert 5 = .ok (.invokestatic 315, 3) := dk_184 1 59 (dk_at dksJ3_insert_0 5 rfl rfl)
theorem dJ3_insert_8 : decode cJ3_insert 8 = .ok (.aload_n 0, 1) := dk_42 (dk_at dksJ3_insert_0 8 rfl rfl)
theorem dJ3_insert_9 : decode cJ3_insert 9 = .ok (.aload_n 0, 1) := dk_42 (dk_at dksJ3_insert_0 9 rfl rfl)
theorem dJ3_insert_10 : decode cJ3_insert 10 = .ok (.getfield 79, 3) := dk_180 0 79 (dk_at dksJ3_insert_0 10 rfl rfl)
theorem dJ3_insert_13 : decode cJ3_insert 13 = .ok (.iconst 1, 1) := dk_4 (dk_at dksJ3_insert_0 13 rfl rfl)
theorem dJ3_insert_14 : decode cJ3_insert 14 = .ok (.iadd, 1) := dk_96 (dk_at dksJ3_insert_0 14 rfl rfl)
theorem dJ3_insert_15 : decode cJ3_insert 15 = .ok (.invokevirtual 100, 3) := dk_182 0 100 (dk_at dksJ3_insert_0 15 rfl rfl)
theorem dJ3_insert_18 : decode cJ3_insert 18 = .ok (.aload_n 0, 1) := dk_42 (dk_at dksJ3_insert_0 18 rfl rfl)
theorem dJ3_insert_19 : decode cJ3_insert 19 = .ok (.iload_n 1, 1) := dk_27 (dk_at dksJ3_insert_0 19 rfl rfl)
theorem dJ3_insert_20 : decode cJ3_insert 20 = .ok (.iconst 1, 1) := dk_4 (dk_at dksJ3_insert_0 20 rfl rfl)
theorem dJ3_insert_21 : decode cJ3_insert 21 = .ok (.invokevirtual 283, 3) := dk_182 1 27 (dk_at dksJ3_insert_0 21 rfl rfl)
theorem dJ3_insert_24 : decode cJ3_insert 24 = .ok (.aload_n 0, 1) := dk_42 (dk_at dksJ3_insert_1 0 rfl rfl)
theorem dJ3_insert_25 : decode cJ3_insert 25 = .ok (.dup, 1) := dk_89 (dk_at dksJ3_insert_1 1 rfl rfl)
theorem dJ3_insert_26 : decode cJ3_insert 26 = .ok (.getfield 79, 3) := dk_180 0 79 (dk_at dksJ3_insert_1 2 rfl rfl)
theorem dJ3_insert_29 : decode cJ3_insert 29 = .ok (.iconst 1, 1) := dk_4 (dk_at dksJ3_insert_1 5 rfl rfl)
theorem dJ3_insert_30 : decode cJ3_insert 30 = .ok (.iadd, 1) := dk_96 (dk_at dksJ3_insert_1 6 rfl rfl)
theorem dJ3_insert_31 : decode cJ3_insert 31 = .ok (.putfield 79, 3) := dk_181 0 79 (dk_at dksJ3_insert_1 7 rfl rfl)
theorem dJ3_insert_34 : decode cJ3_insert 34 = .ok (.aload_n 0, 1) := dk_42 (dk_at dksJ3_insert_1 10 rfl rfl)
theorem dJ3_insert_35 : decode cJ3_insert 35 = .ok (.invokevirtual 83, 3) := dk_182 0 83 (dk_at dksJ3_insert_1 11 rfl rfl)
theorem dJ3_insert_38 : decode cJ3_insert 38 = .ok (.ifCond .eq 21, 3) := dk_153 0 21 (dk_at dksJ3_insert_1 14 rfl rfl)
theorem dJ3_insert_41 : decode cJ3_insert 41 = .ok (.iload_n 2, 1) := dk_28 (dk_at dksJ3_insert_1 17 rfl rfl)
theorem dJ3_insert_42 : decode cJ3_insert 42 = .ok (.invokestatic 191, 3) := dk_184 0 191 (dk_at dksJ3_insert_1 18 rfl rfl)
theorem dJ3_insert_45 : decode cJ3_insert 45 = .ok (.ifCond .eq 14, 3) := dk_153 0 14 (dk_at dksJ3_insert_1 21 rfl rfl)
theorem dJ3_insert_48 : decode cJ3_insert 48 = .ok (.aload_n 0, 1) := dk_42 (dk_at dksJ3_insert_2 0 rfl rfl)
theorem dJ3_insert_49 : decode cJ3_insert 49 = .ok (.getfield 15, 3) := dk_180 0 15 (dk_at dksJ3_insert_2 1 rfl rfl)
theorem dJ3_insert_52 : decode cJ3_insert 52 = .ok (.iload_n 1, 1) := dk_27 (dk_at dksJ3_insert_2 4 rfl rfl)
theorem dJ3_insert_53 : decode cJ3_insert 53 = .ok (.iload_n 2, 1) := dk_28 (dk_at dksJ3_insert_2 5 rfl rfl)
theorem dJ3_insert_54 : decode cJ3_insert 54 = .ok (.i2b, 1) := dk_145 (dk_at dksJ3_insert_2 6 rfl rfl)
theorem dJ3_insert_55 : decode cJ3_insert 55 = .ok (.bastore, 1) := dk_84 (dk_at dksJ3_insert_2 7 rfl rfl)
theorem dJ3_insert_56 : decode cJ3_insert 56 = .ok (.goto 23, 3) := dk_167 0 23 (dk_at dksJ3_insert_2 8 rfl rfl)
theorem dJ3_insert_59 : decode cJ3_insert 59 = .ok (.aload_n 0, 1) := dk_42 (dk_at dksJ3_insert_2 11 rfl rfl)
theorem dJ3_insert_60 : decode cJ3_insert 60 = .ok (.invokevirtual 83, 3) := dk_182 0 83 (dk_at dksJ3_insert_2 12 rfl rfl)
theorem dJ3_insert_63 : decode cJ3_insert 63 = .ok (.ifCond .eq 7, 3) := dk_153 0 7 (dk_at dksJ3_insert_2 15 rfl rfl)
theorem dJ3_insert_66 : decode cJ3_insert 66 = .ok (.aload_n 0, 1) := dk_42 (dk_at dksJ3_insert_2 18 rfl rfl)
theorem dJ3_insert_67 : decode cJ3_insert 67 = .ok (.invokevirtual 195, 3) := dk_182 0 195 (dk_at dksJ3_insert_2 19 rfl rfl)
theorem dJ3_insert_70 : decode cJ3_insert 70 = .ok (.aload_n 0, 1) := dk_42 (dk_at dksJ3_insert_2 22 rfl rfl)
theorem dJ3_insert_71 : decode cJ3_insert 71 = .ok (.getfield 15, 3) := dk_180 0 15 (dk_at dksJ3_insert_3 0 rfl rfl)
theorem dJ3_insert_74 : decode cJ3_insert 74 = .ok (.iload_n 1, 1) := dk_27 (dk_at dksJ3_insert_3 3 rfl rfl)
theorem dJ3_insert_75 : decode cJ3_insert 75 = .ok (.iload_n 2, 1) := dk_28 (dk_at dksJ3_insert_3 4 rfl rfl)
theorem dJ3_insert_76 : decode cJ3_insert 76 = .ok (.invokestatic 197, 3) := dk_184 0 197 (dk_at dksJ3_insert_3 5 rfl rfl)
theorem dJ3_insert_79 : decode cJ3_insert 79 = .ok (.aload_n 0, 1) := dk_42 (dk_at dksJ3_insert_3 8 rfl rfl)
theorem dJ3_insert_80 : decode cJ3_insert 80 = .ok (.areturn, 1) := dk_176 (dk_at dksJ3_insert_3 9 rfl rfl)
abbrev cJ3_shift : ByteArray := prog_11_method_43_code
def yJ3_shift : MethodName := ⟨RJ3, "shift", "(II)V"⟩
def dkwJ3_shift_1 : List UInt8 := [180, 0, 79, 27, 100, 42, 180, 0, 22, 120, 184, 1, 53, 177]
abbrev dktJ3_shift_1 : List UInt8 := dkwJ3_shift_1 ++ []
def dkwJ3_shift_0 : List UInt8 := [42, 180, 0, 15, 27, 42, 180, 0, 22, 120, 42, 180, 0, 15, 27, 28, 96, 42, 180, 0, 22, 120, 42]
abbrev dktJ3_shift_0 : List UInt8 := dkwJ3_shift_0 ++ dktJ3_shift_1
theorem dksJ3_shift_0 : cJ3_shift.data.toList.drop 0 = dktJ3_shift_0 := by decide +kernel
theorem dksJ3_shift_1 : cJ3_shift.data.toList.drop 23 = dktJ3_shift_1 := dk_seg dksJ3_shift_0 23 rfl rfl
theorem dJ3_shift_0 : decode cJ3_shift 0 = .ok (.aload_n 0, 1) := dk_42 (dk_at dksJ3_shift_0 0 rfl rfl)
theorem dJ3_shift_1 : decode cJ3_shift 1 = .ok (.getfield 15, 3) := dk_180 0 15 (dk_at dksJ3_shift_0 1 rfl rfl)
theorem dJ3_shift_4 : decode cJ3_shift 4 = .ok (.iload_n 1, 1) := dk_27 (dk_at dksJ3_shift_0 4 rfl rfl)
theorem dJ3_shift_5 : decode cJ3_shift 5 = .ok (.aload_n 0, 1) := dk_42 (dk_at dksJ3_shift_0 5 rfl rfl)
theorem dJ3_shift_6 : decode cJ3_shift 6 = .ok (.getfield 22, 3) := dk_180 0 22 (dk_at dksJ3_shift_0 6 rfl rfl)
theorem dJ3_shift_9 : decode cJ3_shift 9 = .ok (.ishl, 1) := dk_120 (dk_at dksJ3_shift_0 9 rfl rfl)
theorem dJ3_shift_10 : decode cJ3_shift 10 = .ok (.aload_n 0, 1) := dk_42 (dk_at dksJ3_shift_0 10 rfl rfl)
theorem dJ3_shift_11 : decode cJ3_shift 11 = .ok (.getfield 15, 3) := dk_180 0 15 (dk_at dksJ3_shift_0 11 rfl rfl)
theorem dJ3_shift_14 : decode cJ3_shift 14 = .ok (.iload_n 1, 1) := dk_27 (dk_at dksJ3_shift_0 14 rfl rfl)
theorem dJ3_shift_15 : decode cJ3_shift 15 = .ok (.iload_n 2, 1) := dk_28 (dk_at dksJ3_shift_0 15 rfl rfl)
theorem dJ3_shift_16 : decode cJ3_shift 16 = .ok (.iadd, 1) := dk_96 (dk_at dksJ3_shift_0 16 rfl rfl)
theorem dJ3_shift_17 : decode cJ3_shift 17 = .ok (.aload_n 0, 1) := dk_42 (dk_at dksJ3_shift_0 17 rfl rfl)
theorem dJ3_shift_18 : decode cJ3_shift 18 = .ok (.getfield 22, 3) := dk_180 0 22 (dk_at dksJ3_shift_0 18 rfl rfl)
theorem dJ3_shift_21 : decode cJ3_shift 21 = .ok (.ishl, 1) := dk_120 (dk_at dksJ3_shift_0 21 rfl rfl)
theorem dJ3_shift_22 : decode cJ3_shift 22 = .ok (.aload_n 0, 1) := dk_42 (dk_at dksJ3_shift_0 22 rfl rfl)
theorem dJ3_shift_23 : decode cJ3_shift 23 = .ok (.getfield 79, 3) := dk_180 0 79 (dk_at dksJ3_shift_1 0 rfl rfl)
theorem dJ3_shift_26 : decode cJ3_shift 26 = .ok (.iload_n 1, 1) := dk_27 (dk_at dksJ3_shift_1 3 rfl rfl)
theorem dJ3_shift_27 : decode cJ3_shift 27 = .ok (.isub, 1) := dk_100 (dk_at dksJ3_shift_1 4 rfl rfl)
theorem dJ3_shift_28 : decode cJ3_shift 28 = .ok (.aload_n 0, 1) := dk_42 (dk_at dksJ3_shift_1 5 rfl rfl)
theorem dJ3_shift_29 : decode cJ3_shift 29 = .ok (.getfield 22, 3) := dk_180 0 22 (dk_at dksJ3_shift_1 6 rfl rfl)
theorem dJ3_shift_32 : decode cJ3_shift 32 = .ok (.ishl, 1) := dk_120 (dk_at dksJ3_shift_1 9 rfl rfl)
theorem dJ3_shift_33 : decode cJ3_shift 33 = .ok (.invokestatic 309, 3) := dk_184 1 53 (dk_at dksJ3_shift_1 10 rfl rfl)
theorem dJ3_shift_36 : decode cJ3_shift 36 = .ok (.return_, 1) := dk_177 (dk_at dksJ3_shift_1 13 rfl rfl)
abbrev cJ3_substring : ByteArray := prog_11_method_42_code
def yJ3_substring : MethodName := ⟨RJ3, "substring", "(II)Ljava/lang/String;"⟩
def dkwJ3_substring_1 : List UInt8 := [27, 28, 27, 100, 184, 1, 48, 176, 42, 180, 0, 15, 27, 28, 27, 100, 184, 1, 52, 176]
abbrev dktJ3_substring_1 : List UInt8 := dkwJ3_substring_1 ++ []
def dkwJ3_substring_0 : List UInt8 := [27, 28, 42, 180, 0, 79, 178, 0, 179, 184, 0, 161, 87, 42, 182, 0, 83, 153, 0, 15, 42, 180, 0, 15]
abbrev dktJ3_substring_0 : List UInt8 := dkwJ3_substring_0 ++ dktJ3_substring_1
theorem dksJ3_substring_0 : cJ3_substring.data.toList.drop 0 = dktJ3_substring_0 := by decide +kernel
theorem dksJ3_substring_1 : cJ3_substring.data.toList.drop 24 = dktJ3_substring_1 := dk_seg dksJ3_substring_0 24 rfl rfl
theorem dJ3_substring_0 : decode cJ3_substring 0 = .ok (.iload_n 1, 1) := dk_27 (dk_at dksJ3_substring_0 0 rfl rfl)
theorem dJ3_substring_1 : decode cJ3_substring 1 = .ok (.iload_n 2, 1) := dk_28 (dk_at dksJ3_substring_0 1 rfl rfl)
theorem dJ3_substring_2 : decode cJ3_substring 2 = .ok (.aload_n 0, 1) := dk_42 (dk_at dksJ3_substring_0 2 rfl rfl)
theorem dJ3_substring_3 : decode cJ3_substring 3 = .ok (.getfield 79, 3) := dk_180 0 79 (dk_at dksJ3_substring_0 3 rfl rfl)
theorem dJ3_substring_6 : decode cJ3_substring 6 = .ok (.getstatic 179, 3) := dk_178 0 179 (dk_at dksJ3_substring_0 6 rfl rfl)
theorem dJ3_substring_9 : decode cJ3_substring 9 = .ok (.invokestatic 161, 3) := dk_184 0 161 (dk_at dksJ3_substring_0 9 rfl rfl)
theorem dJ3_substring_12 : decode cJ3_substring 12 = .ok (.pop, 1) := dk_87 (dk_at dksJ3_substring_0 12 rfl rfl)
theorem dJ3_substring_13 : decode cJ3_substring 13 = .ok (.aload_n 0, 1) := dk_42 (dk_at dksJ3_substring_0 13 rfl rfl)
theorem dJ3_substring_14 : decode cJ3_substring 14 = .ok (.invokevirtual 83, 3) := dk_182 0 83 (dk_at dksJ3_substring_0 14 rfl rfl)
theorem dJ3_substring_17 : decode cJ3_substring 17 = .ok (.ifCond .eq 15, 3) := dk_153 0 15 (dk_at dksJ3_substring_0 17 rfl rfl)
theorem dJ3_substring_20 : decode cJ3_substring 20 = .ok (.aload_n 0, 1) := dk_42 (dk_at dksJ3_substring_0 20 rfl rfl)
theorem dJ3_substring_21 : decode cJ3_substring 21 = .ok (.getfield 15, 3) := dk_180 0 15 (dk_at dksJ3_substring_0 21 rfl rfl)
theorem dJ3_substring_24 : decode cJ3_substring 24 = .ok (.iload_n 1, 1) := dk_27 (dk_at dksJ3_substring_1 0 rfl rfl)
theorem dJ3_substring_25 : decode cJ3_substring 25 = .ok (.iload_n 2, 1) := dk_28 (dk_at dksJ3_substring_1 1 rfl rfl)
theorem dJ3_substring_26 : decode cJ3_substring 26 = .ok (.iload_n 1, 1) := dk_27 (dk_at dksJ3_substring_1 2 rfl rfl)
theorem dJ3_substring_27 : decode cJ3_substring 27 = .ok (.isub, 1) := dk_100 (dk_at dksJ3_substring_1 3 rfl rfl)
theorem dJ3_substring_28 : decode cJ3_substring 28 = .ok (.invokestatic 304, 3) := dk_184 1 48 (dk_at dksJ3_substring_1 4 rfl rfl)
theorem dJ3_substring_31 : decode cJ3_substring 31 = .ok (.areturn, 1) := dk_176 (dk_at dksJ3_substring_1 7 rfl rfl)
theorem dJ3_substring_32 : decode cJ3_substring 32 = .ok (.aload_n 0, 1) := dk_42 (dk_at dksJ3_substring_1 8 rfl rfl)
theorem dJ3_substring_33 : decode cJ3_substring 33 = .ok (.getfield 15, 3) := dk_180 0 15 (dk_at dksJ3_substring_1 9 rfl rfl)
theorem dJ3_substring_36 : decode cJ3_substring 36 = .ok (.iload_n 1, 1) := dk_27 (dk_at dksJ3_substring_1 12 rfl rfl)
theorem dJ3_substring_37 : decode cJ3_substring 37 = .ok (.iload_n 2, 1) := dk_28 (dk_at dksJ3_substring_1 13 rfl rfl)
theorem dJ3_substring_38 : decode cJ3_substring 38 = .ok (.iload_n 1, 1) := dk_27 (dk_at dksJ3_substring_1 14 rfl rfl)
theorem dJ3_substring_39 : decode cJ3_substring 39 = .ok (.isub, 1) := dk_100 (dk_at dksJ3_substring_1 15 rfl rfl)
theorem dJ3_substring_40 : decode cJ3_substring 40 = .ok (.invokestatic 308, 3) := dk_184 1 52 (dk_at dksJ3_substring_1 16 rfl rfl)
theorem dJ3_substring_43 : decode cJ3_substring 43 = .ok (.areturn, 1) := dk_176 (dk_at dksJ3_substring_1 19 rfl rfl)
abbrev cJ3_append_3 : ByteArray := prog_11_method_25_code
def yJ3_append_3 : MethodName := ⟨RJ3, "append", "(Ljava/lang/CharSequence;)Ljava/lang/AbstractStringBuilder;"⟩
def dkwJ3_append_3_2 : List UInt8 := [185, 0, 47, 1, 0, 182, 0, 223, 176]
abbrev dktJ3_append_3_2 : List UInt8 := dkwJ3_append_3_2 ++ []
def dkwJ3_append_3_1 : List UInt8 := [176, 43, 193, 0, 10, 153, 0, 12, 42, 43, 192, 0, 10, 182, 0, 212, 176, 42, 43, 3, 43]
abbrev dktJ3_append_3_1 : List UInt8 := dkwJ3_append_3_1 ++ dktJ3_append_3_2
def dkwJ3_append_3_0 : List UInt8 := [43, 199, 0, 8, 42, 182, 0, 204, 176, 43, 193, 0, 1, 153, 0, 12, 42, 43, 192, 0, 1, 182, 0, 43]
abbrev dktJ3_append_3_0 : List UInt8 := dkwJ3_append_3_0 ++ dktJ3_append_3_1
theorem dksJ3_append_3_0 : cJ3_append_3.data.toList.drop 0 = dktJ3_append_3_0 := by decide +kernel
theorem dksJ3_append_3_1 : cJ3_append_3.data.toList.drop 24 = dktJ3_append_3_1 := dk_seg dksJ3_append_3_0 24 rfl rfl
theorem dksJ3_append_3_2 : cJ3_append_3.data.toList.drop 45 = dktJ3_append_3_2 := dk_seg dksJ3_append_3_1 21 rfl rfl
theorem dJ3_append_3_0 : decode cJ3_append_3 0 = .ok (.aload_n 1, 1) := dk_43 (dk_at dksJ3_append_3_0 0 rfl rfl)
theorem dJ3_append_3_1 : decode cJ3_append_3 1 = .ok (.ifnonnull 8, 3) := dk_199 0 8 (dk_at dksJ3_append_3_0 1 rfl rfl)
theorem dJ3_append_3_4 : decode cJ3_append_3 4 = .ok (.aload_n 0, 1) := dk_42 (dk_at dksJ3_append_3_0 4 rfl rfl)
theorem dJ3_append_3_5 : decode cJ3_append_3 5 = .ok (.invokevirtual 204, 3) := dk_182 0 204 (dk_at dksJ3_append_3_0 5 rfl rfl)
theorem dJ3_append_3_8 : decode cJ3_append_3 8 = .ok (.areturn, 1) := dk_176 (dk_at dksJ3_append_3_0 8 rfl rfl)
theorem dJ3_append_3_9 : decode cJ3_append_3 9 = .ok (.aload_n 1, 1) := dk_43 (dk_at dksJ3_append_3_0 9 rfl rfl)
theorem dJ3_append_3_10 : decode cJ3_append_3 10 = .ok (.instanceof 1, 3) := dk_193 0 1 (dk_at dksJ3_append_3_0 10 rfl rfl)
theorem dJ3_append_3_13 : decode cJ3_append_3 13 = .ok (.ifCond .eq 12, 3) := dk_153 0 12 (dk_at dksJ3_append_3_0 13 rfl rfl)
theorem dJ3_append_3_16 : decode cJ3_append_3 16 = .ok (.aload_n 0, 1) := dk_42 (dk_at dksJ3_append_3_0 16 rfl rfl)
theorem dJ3_append_3_17 : decode cJ3_append_3 17 = .ok (.aload_n 1, 1) := dk_43 (dk_at dksJ3_append_3_0 17 rfl rfl)
theorem dJ3_append_3_18 : decode cJ3_append_3 18 = .ok (.checkcast 1, 3) := dk_192 0 1 (dk_at dksJ3_append_3_0 18 rfl rfl)
theorem dJ3_append_3_21 : decode cJ3_append_3 21 = .ok (.invokevirtual 43, 3) := dk_182 0 43 (dk_at dksJ3_append_3_0 21 rfl rfl)
theorem dJ3_append_3_24 : decode cJ3_append_3 24 = .ok (.areturn, 1) := dk_176 (dk_at dksJ3_append_3_1 0 rfl rfl)
theorem dJ3_append_3_25 : decode cJ3_append_3 25 = .ok (.aload_n 1, 1) := dk_43 (dk_at dksJ3_append_3_1 1 rfl rfl)
theorem dJ3_append_3_26 : decode cJ3_append_3 26 = .ok (.instanceof 10, 3) := dk_193 0 10 (dk_at dksJ3_append_3_1 2 rfl rfl)
theorem dJ3_append_3_29 : decode cJ3_append_3 29 = .ok (.ifCond .eq 12, 3) := dk_153 0 12 (dk_at dksJ3_append_3_1 5 rfl rfl)
theorem dJ3_append_3_32 : decode cJ3_append_3 32 = .ok (.aload_n 0, 1) := dk_42 (dk_at dksJ3_append_3_1 8 rfl rfl)
theorem dJ3_append_3_33 : decode cJ3_append_3 33 = .ok (.aload_n 1, 1) := dk_43 (dk_at dksJ3_append_3_1 9 rfl rfl)
theorem dJ3_append_3_34 : decode cJ3_append_3 34 = .ok (.checkcast 10, 3) := dk_192 0 10 (dk_at dksJ3_append_3_1 10 rfl rfl)
theorem dJ3_append_3_37 : decode cJ3_append_3 37 = .ok (.invokevirtual 212, 3) := dk_182 0 212 (dk_at dksJ3_append_3_1 13 rfl rfl)
theorem dJ3_append_3_40 : decode cJ3_append_3 40 = .ok (.areturn, 1) := dk_176 (dk_at dksJ3_append_3_1 16 rfl rfl)
theorem dJ3_append_3_41 : decode cJ3_append_3 41 = .ok (.aload_n 0, 1) := dk_42 (dk_at dksJ3_append_3_1 17 rfl rfl)
theorem dJ3_append_3_42 : decode cJ3_append_3 42 = .ok (.aload_n 1, 1) := dk_43 (dk_at dksJ3_append_3_1 18 rfl rfl)
theorem dJ3_append_3_43 : decode cJ3_append_3 43 = .ok (.iconst 0, 1) := dk_3 (dk_at dksJ3_append_3_1 19 rfl rfl)
theorem dJ3_append_3_44 : decode cJ3_append_3 44 = .ok (.aload_n 1, 1) := dk_43 (dk_at dksJ3_append_3_1 20 rfl rfl)
theorem dJ3_append_3_45 : decode cJ3_append_3 45 = .ok (.invokeinterface 47 1, 5) := by decide +kernel
theorem dJ3_append_3_50 : decode cJ3_append_3 50 = .ok (.invokevirtual 223, 3) := dk_182 0 223 (dk_at dksJ3_append_3_2 5 rfl rfl)
theorem dJ3_append_3_53 : decode cJ3_append_3 53 = .ok (.areturn, 1) := dk_176 (dk_at dksJ3_append_3_2 8 rfl rfl)
abbrev cJ3_append_6 : ByteArray := prog_11_method_31_code
def yJ3_append_6 : MethodName := ⟨RJ3, "append", "(C)Ljava/lang/AbstractStringBuilder;"⟩
def dkwJ3_append_6_3 : List UInt8 := [181, 0, 79, 27, 184, 0, 197, 42, 176]
abbrev dktJ3_append_6_3 : List UInt8 := dkwJ3_append_6_3 ++ []
def dkwJ3_append_6_2 : List UInt8 := [182, 0, 83, 153, 0, 7, 42, 182, 0, 195, 42, 180, 0, 15, 42, 89, 180, 0, 79, 90, 4, 96]
abbrev dktJ3_append_6_2 : List UInt8 := dkwJ3_append_6_2 ++ dktJ3_append_6_3
def dkwJ3_append_6_1 : List UInt8 := [42, 180, 0, 15, 42, 89, 180, 0, 79, 90, 4, 96, 181, 0, 79, 27, 145, 84, 167, 0, 33, 42]
abbrev dktJ3_append_6_1 : List UInt8 := dkwJ3_append_6_1 ++ dktJ3_append_6_2
def dkwJ3_append_6_0 : List UInt8 := [42, 42, 180, 0, 79, 4, 96, 182, 0, 100, 42, 182, 0, 83, 153, 0, 31, 27, 184, 0, 191, 153, 0, 24]
abbrev dktJ3_append_6_0 : List UInt8 := dkwJ3_append_6_0 ++ dktJ3_append_6_1
theorem dksJ3_append_6_0 : cJ3_append_6.data.toList.drop 0 = dktJ3_append_6_0 := by decide +kernel
theorem dksJ3_append_6_1 : cJ3_append_6.data.toList.drop 24 = dktJ3_append_6_1 := dk_seg dksJ3_append_6_0 24 rfl rfl
theorem dksJ3_append_6_2 : cJ3_append_6.data.toList.drop 46 = dktJ3_append_6_2 := dk_seg dksJ3_append_6_1 22 rfl rfl
theorem dksJ3_append_6_3 : cJ3_append_6.data.toList.drop 68 = dktJ3_append_6_3 := dk_seg dksJ3_append_6_2 22 rfl rfl
theorem dJ3_append_6_0 : decode cJ3_append_6 0 = .ok (.aload_n 0, 1) := dk_42 (dk_at dksJ3_append_6_0 0 rfl rfl)
theorem dJ3_append_6_1 : decode cJ3_append_6 1 = .ok (.aload_n 0, 1) := dk_42 (dk_at dksJ3_append_6_0 1 rfl rfl)
theorem dJ3_append_6_2 : decode cJ3_append_6 2 = .ok (.getfield 79, 3) := dk_180 0 79 (dk_at dksJ3_append_6_0 2 rfl rfl)
theorem dJ3_append_6_5 : decode cJ3_append_6 5 = .ok (.iconst 1, 1) := dk_4 (dk_at dksJ3_append_6_0 5 rfl rfl)
theorem dJ3_append_6_6 : decode cJ3_append_6 6 = .ok (.iadd, 1) := dk_96 (dk_at dksJ3_append_6_0 6 rfl rfl)
theorem dJ3_append_6_7 : decode cJ3_append_6 7 = .ok (.invokevirtual 100, 3) := dk_182 0 100 (dk_at dksJ3_append_6_0 7 rfl rfl)
theorem dJ3_append_6_10 : decode cJ3_append_6 10 = .ok (.aload_n 0, 1) := dk_42 (dk_at dksJ3_append_6_0 10 rfl rfl)
theorem dJ3_append_6_11 : decode cJ3_append_6 11 = .ok (.invokevirtual 83, 3) := dk_182 0 83 (dk_at dksJ3_append_6_0 11 rfl rfl)
theorem dJ3_append_6_14 : decode cJ3_append_6 14 = .ok (.ifCond .eq 31, 3) := dk_153 0 31 (dk_at dksJ3_append_6_0 14 rfl rfl)
theorem dJ3_append_6_17 : decode cJ3_append_6 17 = .ok (.iload_n 1, 1) := dk_27 (dk_at dksJ3_append_6_0 17 rfl rfl)
theorem dJ3_append_6_18 : decode cJ3_append_6 18 = .ok (.invokestatic 191, 3) := dk_184 0 191 (dk_at dksJ3_append_6_0 18 rfl rfl)
theorem dJ3_append_6_21 : decode cJ3_append_6 21 = .ok (.ifCond .eq 24, 3) := dk_153 0 24 (dk_at dksJ3_append_6_0 21 rfl rfl)
theorem dJ3_append_6_24 : decode cJ3_append_6 24 = .ok (.aload_n 0, 1) := dk_42 (dk_at dksJ3_append_6_1 0 rfl rfl)
theorem dJ3_append_6_25 : decode cJ3_append_6 25 = .ok (.getfield 15, 3) := dk_180 0 15 (dk_at dksJ3_append_6_1 1 rfl rfl)
theorem dJ3_append_6_28 : decode cJ3_append_6 28 = .ok (.aload_n 0, 1) := dk_42 (dk_at dksJ3_append_6_1 4 rfl rfl)
theorem dJ3_append_6_29 : decode cJ3_append_6 29 = .ok (.dup, 1) := dk_89 (dk_at dksJ3_append_6_1 5 rfl rfl)
theorem dJ3_append_6_30 : decode cJ3_append_6 30 = .ok (.getfield 79, 3) := dk_180 0 79 (dk_at dksJ3_append_6_1 6 rfl rfl)
theorem dJ3_append_6_33 : decode cJ3_append_6 33 = .ok (.dup_x1, 1) := dk_90 (dk_at dksJ3_append_6_1 9 rfl rfl)
theorem dJ3_append_6_34 : decode cJ3_append_6 34 = .ok (.iconst 1, 1) := dk_4 (dk_at dksJ3_append_6_1 10 rfl rfl)
theorem dJ3_append_6_35 : decode cJ3_append_6 35 = .ok (.iadd, 1) := dk_96 (dk_at dksJ3_append_6_1 11 rfl rfl)
theorem dJ3_append_6_36 : decode cJ3_append_6 36 = .ok (.putfield 79, 3) := dk_181 0 79 (dk_at dksJ3_append_6_1 12 rfl rfl)
theorem dJ3_append_6_39 : decode cJ3_append_6 39 = .ok (.iload_n 1, 1) := dk_27 (dk_at dksJ3_append_6_1 15 rfl rfl)
theorem dJ3_append_6_40 : decode cJ3_append_6 40 = .ok (.i2b, 1) := dk_145 (dk_at dksJ3_append_6_1 16 rfl rfl)
theorem dJ3_append_6_41 : decode cJ3_append_6 41 = .ok (.bastore, 1) := dk_84 (dk_at dksJ3_append_6_1 17 rfl rfl)
theorem dJ3_append_6_42 : decode cJ3_append_6 42 = .ok (.goto 33, 3) := dk_167 0 33 (dk_at dksJ3_append_6_1 18 rfl rfl)
theorem dJ3_append_6_45 : decode cJ3_append_6 45 = .ok (.aload_n 0, 1) := dk_42 (dk_at dksJ3_append_6_1 21 rfl rfl)
theorem dJ3_append_6_46 : decode cJ3_append_6 46 = .ok (.invokevirtual 83, 3) := dk_182 0 83 (dk_at dksJ3_append_6_2 0 rfl rfl)
theorem dJ3_append_6_49 : decode cJ3_append_6 49 = .ok (.ifCond .eq 7, 3) := dk_153 0 7 (dk_at dksJ3_append_6_2 3 rfl rfl)
theorem dJ3_append_6_52 : decode cJ3_append_6 52 = .ok (.aload_n 0, 1) := dk_42 (dk_at dksJ3_append_6_2 6 rfl rfl)
theorem dJ3_append_6_53 : decode cJ3_append_6 53 = .ok (.invokevirtual 195, 3) := dk_182 0 195 (dk_at dksJ3_append_6_2 7 rfl rfl)
theorem dJ3_append_6_56 : decode cJ3_append_6 56 = .ok (.aload_n 0, 1) := dk_42 (dk_at dksJ3_append_6_2 10 rfl rfl)
theorem dJ3_append_6_57 : decode cJ3_append_6 57 = .ok (.getfield 15, 3) := dk_180 0 15 (dk_at dksJ3_append_6_2 11 rfl rfl)
theorem dJ3_append_6_60 : decode cJ3_append_6 60 = .ok (.aload_n 0, 1) := dk_42 (dk_at dksJ3_append_6_2 14 rfl rfl)
theorem dJ3_append_6_61 : decode cJ3_append_6 61 = .ok (.dup, 1) := dk_89 (dk_at dksJ3_append_6_2 15 rfl rfl)
theorem dJ3_append_6_62 : decode cJ3_append_6 62 = .ok (.getfield 79, 3) := dk_180 0 79 (dk_at dksJ3_append_6_2 16 rfl rfl)
theorem dJ3_append_6_65 : decode cJ3_append_6 65 = .ok (.dup_x1, 1) := dk_90 (dk_at dksJ3_append_6_2 19 rfl rfl)
theorem dJ3_append_6_66 : decode cJ3_append_6 66 = .ok (.iconst 1, 1) := dk_4 (dk_at dksJ3_append_6_2 20 rfl rfl)
theorem dJ3_append_6_67 : decode cJ3_append_6 67 = .ok (.iadd, 1) := dk_96 (dk_at dksJ3_append_6_2 21 rfl rfl)
theorem dJ3_append_6_68 : decode cJ3_append_6 68 = .ok (.putfield 79, 3) := dk_181 0 79 (dk_at dksJ3_append_6_3 0 rfl rfl)
theorem dJ3_append_6_71 : decode cJ3_append_6 71 = .ok (.iload_n 1, 1) := dk_27 (dk_at dksJ3_append_6_3 3 rfl rfl)
theorem dJ3_append_6_72 : decode cJ3_append_6 72 = .ok (.invokestatic 197, 3) := dk_184 0 197 (dk_at dksJ3_append_6_3 4 rfl rfl)
theorem dJ3_append_6_75 : decode cJ3_append_6 75 = .ok (.aload_n 0, 1) := dk_42 (dk_at dksJ3_append_6_3 7 rfl rfl)
theorem dJ3_append_6_76 : decode cJ3_append_6 76 = .ok (.areturn, 1) := dk_176 (dk_at dksJ3_append_6_3 8 rfl rfl)
abbrev cJ3_setCharAt : ByteArray := prog_11_method_20_code
def yJ3_setCharAt : MethodName := ⟨RJ3, "setCharAt", "(IC)V"⟩
def dkwJ3_setCharAt_2 : List UInt8 := [180, 0, 15, 27, 28, 184, 0, 197, 42, 4, 181, 0, 73, 177]
abbrev dktJ3_setCharAt_2 : List UInt8 := dkwJ3_setCharAt_2 ++ []
def dkwJ3_setCharAt_1 : List UInt8 := [180, 0, 15, 27, 28, 145, 84, 167, 0, 28, 42, 182, 0, 83, 153, 0, 7, 42, 182, 0, 195, 42]
abbrev dktJ3_setCharAt_1 : List UInt8 := dkwJ3_setCharAt_1 ++ dktJ3_setCharAt_2
def dkwJ3_setCharAt_0 : List UInt8 := [27, 42, 180, 0, 79, 184, 0, 144, 42, 182, 0, 83, 153, 0, 21, 28, 184, 0, 191, 153, 0, 14, 42]
abbrev dktJ3_setCharAt_0 : List UInt8 := dkwJ3_setCharAt_0 ++ dktJ3_setCharAt_1
theorem dksJ3_setCharAt_0 : cJ3_setCharAt.data.toList.drop 0 = dktJ3_setCharAt_0 := by decide +kernel
theorem dksJ3_setCharAt_1 : cJ3_setCharAt.data.toList.drop 23 = dktJ3_setCharAt_1 := dk_seg dksJ3_setCharAt_0 23 rfl rfl
theorem dksJ3_setCharAt_2 : cJ3_setCharAt.data.toList.drop 45 = dktJ3_setCharAt_2 := dk_seg dksJ3_setCharAt_1 22 rfl rfl
theorem dJ3_setCharAt_0 : decode cJ3_setCharAt 0 = .ok (.iload_n 1, 1) := dk_27 (dk_at dksJ3_setCharAt_0 0 rfl rfl)
theorem dJ3_setCharAt_1 : decode cJ3_setCharAt 1 = .ok (.aload_n 0, 1) := dk_42 (dk_at dksJ3_setCharAt_0 1 rfl rfl)
theorem dJ3_setCharAt_2 : decode cJ3_setCharAt 2 = .ok (.getfield 79, 3) := dk_180 0 79 (dk_at dksJ3_setCharAt_0 2 rfl rfl)
theorem dJ3_setCharAt_5 : decode cJ3_setCharAt 5 = .ok (.invokestatic 144, 3) := dk_184 0 144 (dk_at dksJ3_setCharAt_0 5 rfl rfl)
theorem dJ3_setCharAt_8 : decode cJ3_setCharAt 8 = .ok (.aload_n 0, 1) := dk_42 (dk_at dksJ3_setCharAt_0 8 rfl rfl)
theorem dJ3_setCharAt_9 : decode cJ3_setCharAt 9 = .ok (.invokevirtual 83, 3) := dk_182 0 83 (dk_at dksJ3_setCharAt_0 9 rfl rfl)
theorem dJ3_setCharAt_12 : decode cJ3_setCharAt 12 = .ok (.ifCond .eq 21, 3) := dk_153 0 21 (dk_at dksJ3_setCharAt_0 12 rfl rfl)
theorem dJ3_setCharAt_15 : decode cJ3_setCharAt 15 = .ok (.iload_n 2, 1) := dk_28 (dk_at dksJ3_setCharAt_0 15 rfl rfl)
theorem dJ3_setCharAt_16 : decode cJ3_setCharAt 16 = .ok (.invokestatic 191, 3) := dk_184 0 191 (dk_at dksJ3_setCharAt_0 16 rfl rfl)
theorem dJ3_setCharAt_19 : decode cJ3_setCharAt 19 = .ok (.ifCond .eq 14, 3) := dk_153 0 14 (dk_at dksJ3_setCharAt_0 19 rfl rfl)
theorem dJ3_setCharAt_22 : decode cJ3_setCharAt 22 = .ok (.aload_n 0, 1) := dk_42 (dk_at dksJ3_setCharAt_0 22 rfl rfl)
theorem dJ3_setCharAt_23 : decode cJ3_setCharAt 23 = .ok (.getfield 15, 3) := dk_180 0 15 (dk_at dksJ3_setCharAt_1 0 rfl rfl)
theorem dJ3_setCharAt_26 : decode cJ3_setCharAt 26 = .ok (.iload_n 1, 1) := dk_27 (dk_at dksJ3_setCharAt_1 3 rfl rfl)
theorem dJ3_setCharAt_27 : decode cJ3_setCharAt 27 = .ok (.iload_n 2, 1) := dk_28 (dk_at dksJ3_setCharAt_1 4 rfl rfl)
theorem dJ3_setCharAt_28 : decode cJ3_setCharAt 28 = .ok (.i2b, 1) := dk_145 (dk_at dksJ3_setCharAt_1 5 rfl rfl)
theorem dJ3_setCharAt_29 : decode cJ3_setCharAt 29 = .ok (.bastore, 1) := dk_84 (dk_at dksJ3_setCharAt_1 6 rfl rfl)
theorem dJ3_setCharAt_30 : decode cJ3_setCharAt 30 = .ok (.goto 28, 3) := dk_167 0 28 (dk_at dksJ3_setCharAt_1 7 rfl rfl)
theorem dJ3_setCharAt_33 : decode cJ3_setCharAt 33 = .ok (.aload_n 0, 1) := dk_42 (dk_at dksJ3_setCharAt_1 10 rfl rfl)
theorem dJ3_setCharAt_34 : decode cJ3_setCharAt 34 = .ok (.invokevirtual 83, 3) := dk_182 0 83 (dk_at dksJ3_setCharAt_1 11 rfl rfl)
theorem dJ3_setCharAt_37 : decode cJ3_setCharAt 37 = .ok (.ifCond .eq 7, 3) := dk_153 0 7 (dk_at dksJ3_setCharAt_1 14 rfl rfl)
theorem dJ3_setCharAt_40 : decode cJ3_setCharAt 40 = .ok (.aload_n 0, 1) := dk_42 (dk_at dksJ3_setCharAt_1 17 rfl rfl)
theorem dJ3_setCharAt_41 : decode cJ3_setCharAt 41 = .ok (.invokevirtual 195, 3) := dk_182 0 195 (dk_at dksJ3_setCharAt_1 18 rfl rfl)
theorem dJ3_setCharAt_44 : decode cJ3_setCharAt 44 = .ok (.aload_n 0, 1) := dk_42 (dk_at dksJ3_setCharAt_1 21 rfl rfl)
theorem dJ3_setCharAt_45 : decode cJ3_setCharAt 45 = .ok (.getfield 15, 3) := dk_180 0 15 (dk_at dksJ3_setCharAt_2 0 rfl rfl)
theorem dJ3_setCharAt_48 : decode cJ3_setCharAt 48 = .ok (.iload_n 1, 1) := dk_27 (dk_at dksJ3_setCharAt_2 3 rfl rfl)
theorem dJ3_setCharAt_49 : decode cJ3_setCharAt 49 = .ok (.iload_n 2, 1) := dk_28 (dk_at dksJ3_setCharAt_2 4 rfl rfl)
theorem dJ3_setCharAt_50 : decode cJ3_setCharAt 50 = .ok (.invokestatic 197, 3) := dk_184 0 197 (dk_at dksJ3_setCharAt_2 5 rfl rfl)
theorem dJ3_setCharAt_53 : decode cJ3_setCharAt 53 = .ok (.aload_n 0, 1) := dk_42 (dk_at dksJ3_setCharAt_2 8 rfl rfl)
theorem dJ3_setCharAt_54 : decode cJ3_setCharAt 54 = .ok (.iconst 1, 1) := dk_4 (dk_at dksJ3_setCharAt_2 9 rfl rfl)
theorem dJ3_setCharAt_55 : decode cJ3_setCharAt 55 = .ok (.putfield 73, 3) := dk_181 0 73 (dk_at dksJ3_setCharAt_2 10 rfl rfl)
theorem dJ3_setCharAt_58 : decode cJ3_setCharAt 58 = .ok (.return_, 1) := dk_177 (dk_at dksJ3_setCharAt_2 13 rfl rfl)
abbrev cJ3_setLength : ByteArray := prog_11_method_13_code
def yJ3_setLength : MethodName := ⟨RJ3, "setLength", "(I)V"⟩
def dkwJ3_setLength_3 : List UInt8 := [164, 0, 8, 42, 4, 181, 0, 73, 42, 27, 181, 0, 79, 177]
abbrev dktJ3_setLength_3 : List UInt8 := dkwJ3_setLength_3 ++ []
def dkwJ3_setLength_2 : List UInt8 := [167, 0, 31, 42, 180, 0, 15, 42, 180, 0, 79, 27, 184, 0, 137, 167, 0, 16, 42, 180, 0, 79, 27]
abbrev dktJ3_setLength_2 : List UInt8 := dkwJ3_setLength_2 ++ dktJ3_setLength_3
def dkwJ3_setLength_1 : List UInt8 := [162, 0, 40, 42, 182, 0, 83, 153, 0, 18, 42, 180, 0, 15, 42, 180, 0, 79, 27, 184, 0, 133]
abbrev dktJ3_setLength_1 : List UInt8 := dkwJ3_setLength_1 ++ dktJ3_setLength_2
def dkwJ3_setLength_0 : List UInt8 := [27, 156, 0, 12, 187, 0, 129, 89, 27, 183, 0, 131, 191, 42, 27, 182, 0, 100, 42, 180, 0, 79, 27]
abbrev dktJ3_setLength_0 : List UInt8 := dkwJ3_setLength_0 ++ dktJ3_setLength_1
theorem dksJ3_setLength_0 : cJ3_setLength.data.toList.drop 0 = dktJ3_setLength_0 := by decide +kernel
theorem dksJ3_setLength_1 : cJ3_setLength.data.toList.drop 23 = dktJ3_setLength_1 := dk_seg dksJ3_setLength_0 23 rfl rfl
theorem dksJ3_setLength_2 : cJ3_setLength.data.toList.drop 45 = dktJ3_setLength_2 := dk_seg dksJ3_setLength_1 22 rfl rfl
theorem dksJ3_setLength_3 : cJ3_setLength.data.toList.drop 68 = dktJ3_setLength_3 := dk_seg dksJ3_setLength_2 23 rfl rfl
theorem dJ3_setLength_0 : decode cJ3_setLength 0 = .ok (.iload_n 1, 1) := dk_27 (dk_at dksJ3_setLength_0 0 rfl rfl)
theorem dJ3_setLength_1 : decode cJ3_setLength 1 = .ok (.ifCond .ge 12, 3) := dk_156 0 12 (dk_at dksJ3_setLength_0 1 rfl rfl)
theorem dJ3_setLength_4 : decode cJ3_setLength 4 = .ok (.new 129, 3) := dk_187 0 129 (dk_at dksJ3_setLength_0 4 rfl rfl)
theorem dJ3_setLength_7 : decode cJ3_setLength 7 = .ok (.dup, 1) := dk_89 (dk_at dksJ3_setLength_0 7 rfl rfl)
theorem dJ3_setLength_8 : decode cJ3_setLength 8 = .ok (.iload_n 1, 1) := dk_27 (dk_at dksJ3_setLength_0 8 rfl rfl)
theorem dJ3_setLength_9 : decode cJ3_setLength 9 = .ok (.invokespecial 131, 3) := dk_183 0 131 (dk_at dksJ3_setLength_0 9 rfl rfl)
theorem dJ3_setLength_12 : decode cJ3_setLength 12 = .ok (.athrow, 1) := dk_191 (dk_at dksJ3_setLength_0 12 rfl rfl)
theorem dJ3_setLength_13 : decode cJ3_setLength 13 = .ok (.aload_n 0, 1) := dk_42 (dk_at dksJ3_setLength_0 13 rfl rfl)
theorem dJ3_setLength_14 : decode cJ3_setLength 14 = .ok (.iload_n 1, 1) := dk_27 (dk_at dksJ3_setLength_0 14 rfl rfl)
theorem dJ3_setLength_15 : decode cJ3_setLength 15 = .ok (.invokevirtual 100, 3) := dk_182 0 100 (dk_at dksJ3_setLength_0 15 rfl rfl)
theorem dJ3_setLength_18 : decode cJ3_setLength 18 = .ok (.aload_n 0, 1) := dk_42 (dk_at dksJ3_setLength_0 18 rfl rfl)
theorem dJ3_setLength_19 : decode cJ3_setLength 19 = .ok (.getfield 79, 3) := dk_180 0 79 (dk_at dksJ3_setLength_0 19 rfl rfl)
theorem dJ3_setLength_22 : decode cJ3_setLength 22 = .ok (.iload_n 1, 1) := dk_27 (dk_at dksJ3_setLength_0 22 rfl rfl)
theorem dJ3_setLength_23 : decode cJ3_setLength 23 = .ok (.if_icmp .ge 40, 3) := dk_162 0 40 (dk_at dksJ3_setLength_1 0 rfl rfl)
theorem dJ3_setLength_26 : decode cJ3_setLength 26 = .ok (.aload_n 0, 1) := dk_42 (dk_at dksJ3_setLength_1 3 rfl rfl)
theorem dJ3_setLength_27 : decode cJ3_setLength 27 = .ok (.invokevirtual 83, 3) := dk_182 0 83 (dk_at dksJ3_setLength_1 4 rfl rfl)
theorem dJ3_setLength_30 : decode cJ3_setLength 30 = .ok (.ifCond .eq 18, 3) := dk_153 0 18 (dk_at dksJ3_setLength_1 7 rfl rfl)
theorem dJ3_setLength_33 : decode cJ3_setLength 33 = .ok (.aload_n 0, 1) := dk_42 (dk_at dksJ3_setLength_1 10 rfl rfl)
theorem dJ3_setLength_34 : decode cJ3_setLength 34 = .ok (.getfield 15, 3) := dk_180 0 15 (dk_at dksJ3_setLength_1 11 rfl rfl)
theorem dJ3_setLength_37 : decode cJ3_setLength 37 = .ok (.aload_n 0, 1) := dk_42 (dk_at dksJ3_setLength_1 14 rfl rfl)
theorem dJ3_setLength_38 : decode cJ3_setLength 38 = .ok (.getfield 79, 3) := dk_180 0 79 (dk_at dksJ3_setLength_1 15 rfl rfl)
theorem dJ3_setLength_41 : decode cJ3_setLength 41 = .ok (.iload_n 1, 1) := dk_27 (dk_at dksJ3_setLength_1 18 rfl rfl)
theorem dJ3_setLength_42 : decode cJ3_setLength 42 = .ok (.invokestatic 133, 3) := dk_184 0 133 (dk_at dksJ3_setLength_1 19 rfl rfl)
theorem dJ3_setLength_45 : decode cJ3_setLength 45 = .ok (.goto 31, 3) := dk_167 0 31 (dk_at dksJ3_setLength_2 0 rfl rfl)
theorem dJ3_setLength_48 : decode cJ3_setLength 48 = .ok (.aload_n 0, 1) := dk_42 (dk_at dksJ3_setLength_2 3 rfl rfl)
theorem dJ3_setLength_49 : decode cJ3_setLength 49 = .ok (.getfield 15, 3) := dk_180 0 15 (dk_at dksJ3_setLength_2 4 rfl rfl)
theorem dJ3_setLength_52 : decode cJ3_setLength 52 = .ok (.aload_n 0, 1) := dk_42 (dk_at dksJ3_setLength_2 7 rfl rfl)
theorem dJ3_setLength_53 : decode cJ3_setLength 53 = .ok (.getfield 79, 3) := dk_180 0 79 (dk_at dksJ3_setLength_2 8 rfl rfl)
theorem dJ3_setLength_56 : decode cJ3_setLength 56 = .ok (.iload_n 1, 1) := dk_27 (dk_at dksJ3_setLength_2 11 rfl rfl)
theorem dJ3_setLength_57 : decode cJ3_setLength 57 = .ok (.invokestatic 137, 3) := dk_184 0 137 (dk_at dksJ3_setLength_2 12 rfl rfl)
theorem dJ3_setLength_60 : decode cJ3_setLength 60 = .ok (.goto 16, 3) := dk_167 0 16 (dk_at dksJ3_setLength_2 15 rfl rfl)
theorem dJ3_setLength_63 : decode cJ3_setLength 63 = .ok (.aload_n 0, 1) := dk_42 (dk_at dksJ3_setLength_2 18 rfl rfl)
theorem dJ3_setLength_64 : decode cJ3_setLength 64 = .ok (.getfield 79, 3) := dk_180 0 79 (dk_at dksJ3_setLength_2 19 rfl rfl)
theorem dJ3_setLength_67 : decode cJ3_setLength 67 = .ok (.iload_n 1, 1) := dk_27 (dk_at dksJ3_setLength_2 22 rfl rfl)
theorem dJ3_setLength_68 : decode cJ3_setLength 68 = .ok (.if_icmp .le 8, 3) := dk_164 0 8 (dk_at dksJ3_setLength_3 0 rfl rfl)
theorem dJ3_setLength_71 : decode cJ3_setLength 71 = .ok (.aload_n 0, 1) := dk_42 (dk_at dksJ3_setLength_3 3 rfl rfl)
theorem dJ3_setLength_72 : decode cJ3_setLength 72 = .ok (.iconst 1, 1) := dk_4 (dk_at dksJ3_setLength_3 4 rfl rfl)
theorem dJ3_setLength_73 : decode cJ3_setLength 73 = .ok (.putfield 73, 3) := dk_181 0 73 (dk_at dksJ3_setLength_3 5 rfl rfl)
theorem dJ3_setLength_76 : decode cJ3_setLength 76 = .ok (.aload_n 0, 1) := dk_42 (dk_at dksJ3_setLength_3 8 rfl rfl)
theorem dJ3_setLength_77 : decode cJ3_setLength 77 = .ok (.iload_n 1, 1) := dk_27 (dk_at dksJ3_setLength_3 9 rfl rfl)
theorem dJ3_setLength_78 : decode cJ3_setLength 78 = .ok (.putfield 79, 3) := dk_181 0 79 (dk_at dksJ3_setLength_3 10 rfl rfl)
theorem dJ3_setLength_81 : decode cJ3_setLength 81 = .ok (.return_, 1) := dk_177 (dk_at dksJ3_setLength_3 13 rfl rfl)
theorem q52 : (Jvm.Cond.initialized "java/lang/AbstractStringBuilder") ∈ lw_all := lw_g (lw_at lw_m1 6 rfl) rfl
theorem q169 : (Jvm.Cond.instanceMethod ({ cls := "java/lang/AbstractStringBuilder", name := "<init>", desc := "(I)V" } : Jvm.MethodName)) ∈ lw_all := lw_g (lw_at lw_m1 123 rfl) rfl
theorem q170 : (Jvm.Cond.code ({ cls := "java/lang/AbstractStringBuilder", name := "<init>", desc := "(I)V" } : Jvm.MethodName) prog_11_method_2_code (2 : Nat) (Option.none : Option Jvm.ClassFile.FieldType)) ∈ lw_all := lw_g (lw_at lw_m1 124 rfl) rfl
theorem q171 : (Jvm.Cond.methodLink "java/lang/AbstractStringBuilder" (3 : Nat) ({ cls := "java/lang/Object", name := "<init>", desc := "()V" } : Jvm.MethodName)) ∈ lw_all := lw_g (lw_at lw_m1 125 rfl) rfl
theorem q172 : (Jvm.Cond.fieldLink "java/lang/AbstractStringBuilder" (18 : Nat) "java/lang/String" "COMPACT_STRINGS" "Z") ∈ lw_all := lw_g (lw_at lw_m1 126 rfl) rfl
theorem q174 : (Jvm.Cond.methodLink "java/lang/AbstractStringBuilder" (26 : Nat) ({ cls := "java/lang/StringUTF16", name := "newBytesFor", desc := "(I)[B" } : Jvm.MethodName)) ∈ lw_all := lw_g (lw_at lw_m1 128 rfl) rfl
theorem q181 : (Jvm.Cond.fieldLink "java/lang/AbstractStringBuilder" (15 : Nat) "java/lang/AbstractStringBuilder" "value" "[B") ∈ lw_all := lw_g (lw_at lw_m1 135 rfl) rfl
theorem q182 : (Jvm.Cond.fieldLink "java/lang/AbstractStringBuilder" (22 : Nat) "java/lang/AbstractStringBuilder" "coder" "B") ∈ lw_all := lw_g (lw_at lw_m1 136 rfl) rfl
theorem q183 : (Jvm.Cond.fieldLink "java/lang/AbstractStringBuilder" (73 : Nat) "java/lang/AbstractStringBuilder" "maybeLatin1" "Z") ∈ lw_all := lw_g (lw_at lw_m1 137 rfl) rfl
theorem q185 : (Jvm.Cond.fieldLink "java/lang/AbstractStringBuilder" (79 : Nat) "java/lang/AbstractStringBuilder" "count" "I") ∈ lw_all := lw_g (lw_at lw_m1 139 rfl) rfl
theorem q187 : (Jvm.Cond.soleField "java/lang/AbstractStringBuilder" "value") ∈ lw_all := lw_g (lw_at lw_m1 141 rfl) rfl
theorem q189 : (Jvm.Cond.soleField "java/lang/AbstractStringBuilder" "coder") ∈ lw_all := lw_g (lw_at lw_m1 143 rfl) rfl
theorem q191 : (Jvm.Cond.soleField "java/lang/AbstractStringBuilder" "maybeLatin1") ∈ lw_all := lw_g (lw_at lw_m1 145 rfl) rfl
theorem q193 : (Jvm.Cond.soleField "java/lang/AbstractStringBuilder" "count") ∈ lw_all := lw_g (lw_at lw_m1 147 rfl) rfl
theorem q277 : (Jvm.Cond.instanceMethod ({ cls := "java/lang/AbstractStringBuilder", name := "length", desc := "()I" } : Jvm.MethodName)) ∈ lw_all := lw_g (lw_at lw_m1 231 rfl) rfl
theorem q278 : (Jvm.Cond.code ({ cls := "java/lang/AbstractStringBuilder", name := "length", desc := "()I" } : Jvm.MethodName) prog_11_method_6_code (1 : Nat) (Option.some Jvm.ClassFile.FieldType.int)) ∈ lw_all := lw_g (lw_at lw_m1 232 rfl) rfl
theorem q316 : (Jvm.Cond.instanceMethod ({ cls := "java/lang/AbstractStringBuilder", name := "charAt", desc := "(I)C" } : Jvm.MethodName)) ∈ lw_all := lw_g (lw_at lw_m2 30 rfl) rfl
theorem q317 : (Jvm.Cond.code ({ cls := "java/lang/AbstractStringBuilder", name := "charAt", desc := "(I)C" } : Jvm.MethodName) prog_11_method_14_code (5 : Nat) (Option.some Jvm.ClassFile.FieldType.char)) ∈ lw_all := lw_g (lw_at lw_m2 31 rfl) rfl
theorem q318 : (Jvm.Cond.methodLink "java/lang/AbstractStringBuilder" (138 : Nat) ({ cls := "java/lang/Math", name := "min", desc := "(II)I" } : Jvm.MethodName)) ∈ lw_all := lw_g (lw_at lw_m2 32 rfl) rfl
theorem q321 : (Jvm.Cond.methodLink "java/lang/AbstractStringBuilder" (144 : Nat) ({ cls := "java/lang/String", name := "checkIndex", desc := "(II)V" } : Jvm.MethodName)) ∈ lw_all := lw_g (lw_at lw_m2 35 rfl) rfl
theorem q329 : (Jvm.Cond.methodLink "java/lang/AbstractStringBuilder" (148 : Nat) ({ cls := "java/lang/StringUTF16", name := "getChar", desc := "([BI)C" } : Jvm.MethodName)) ∈ lw_all := lw_g (lw_at lw_m2 43 rfl) rfl
theorem q444 : (Jvm.Cond.instanceMethod ({ cls := "java/lang/AbstractStringBuilder", name := "getValue", desc := "()[B" } : Jvm.MethodName)) ∈ lw_all := lw_g (lw_at lw_m2 158 rfl) rfl
theorem q445 : (Jvm.Cond.sameMethod "java/lang/AbstractStringBuilder" "java/lang/AbstractStringBuilder" "getValue" "()[B") ∈ lw_all := lw_g (lw_at lw_m2 159 rfl) rfl
theorem q447 : (Jvm.Cond.code ({ cls := "java/lang/AbstractStringBuilder", name := "getValue", desc := "()[B" } : Jvm.MethodName) prog_11_method_64_code (1 : Nat) (Option.some (Jvm.ClassFile.FieldType.array Jvm.ClassFile.FieldType.byte))) ∈ lw_all := lw_g (lw_at lw_m2 161 rfl) rfl
theorem q450 : (Jvm.Cond.instanceMethod ({ cls := "java/lang/AbstractStringBuilder", name := "isLatin1", desc := "()Z" } : Jvm.MethodName)) ∈ lw_all := lw_g (lw_at lw_m2 164 rfl) rfl
theorem q451 : (Jvm.Cond.sameMethod "java/lang/AbstractStringBuilder" "java/lang/AbstractStringBuilder" "isLatin1" "()Z") ∈ lw_all := lw_g (lw_at lw_m2 165 rfl) rfl
theorem q453 : (Jvm.Cond.code ({ cls := "java/lang/AbstractStringBuilder", name := "isLatin1", desc := "()Z" } : Jvm.MethodName) prog_11_method_68_code (1 : Nat) (Option.some Jvm.ClassFile.FieldType.boolean)) ∈ lw_all := lw_g (lw_at lw_m2 167 rfl) rfl
theorem q514 : (Jvm.Cond.instanceMethod ({ cls := "java/lang/AbstractStringBuilder", name := "append", desc := "(I)Ljava/lang/AbstractStringBuilder;" } : Jvm.MethodName)) ∈ lw_all := lw_g (lw_at lw_m2 228 rfl) rfl
theorem q515 : (Jvm.Cond.code ({ cls := "java/lang/AbstractStringBuilder", name := "append", desc := "(I)Ljava/lang/AbstractStringBuilder;" } : Jvm.MethodName) prog_11_method_32_code (4 : Nat) (Option.some (Jvm.ClassFile.FieldType.object "java/lang/AbstractStringBuilder"))) ∈ lw_all := lw_g (lw_at lw_m2 229 rfl) rfl
theorem q516 : (Jvm.Cond.methodLink "java/lang/AbstractStringBuilder" (245 : Nat) ({ cls := "java/lang/Integer", name := "stringSize", desc := "(I)I" } : Jvm.MethodName)) ∈ lw_all := lw_g (lw_at lw_m2 230 rfl) rfl
theorem q519 : (Jvm.Cond.methodLink "java/lang/AbstractStringBuilder" (100 : Nat) ({ cls := "java/lang/AbstractStringBuilder", name := "ensureCapacityInternal", desc := "(I)V" } : Jvm.MethodName)) ∈ lw_all := lw_g (lw_at lw_m2 233 rfl) rfl
theorem q520 : (Jvm.Cond.privateMethod ({ cls := "java/lang/AbstractStringBuilder", name := "ensureCapacityInternal", desc := "(I)V" } : Jvm.MethodName)) ∈ lw_tbl := lw_at lw_m2 234 rfl
theorem q521 : (Jvm.Cond.instanceMethod ({ cls := "java/lang/AbstractStringBuilder", name := "ensureCapacityInternal", desc := "(I)V" } : Jvm.MethodName)) ∈ lw_all := lw_g (lw_at lw_m2 235 rfl) rfl
theorem q522 : (Jvm.Cond.code ({ cls := "java/lang/AbstractStringBuilder", name := "ensureCapacityInternal", desc := "(I)V" } : Jvm.MethodName) prog_11_method_9_code (3 : Nat) (Option.none : Option Jvm.ClassFile.FieldType)) ∈ lw_all := lw_g (lw_at lw_m2 236 rfl) rfl
theorem q523 : (Jvm.Cond.methodLink "java/lang/AbstractStringBuilder" (104 : Nat) ({ cls := "java/lang/AbstractStringBuilder", name := "newCapacity", desc := "(I)I" } : Jvm.MethodName)) ∈ lw_all := lw_g (lw_at lw_m2 237 rfl) rfl
theorem q524 : (Jvm.Cond.privateMethod ({ cls := "java/lang/AbstractStringBuilder", name := "newCapacity", desc := "(I)I" } : Jvm.MethodName)) ∈ lw_tbl := lw_at lw_m2 238 rfl
theorem q525 : (Jvm.Cond.instanceMethod ({ cls := "java/lang/AbstractStringBuilder", name := "newCapacity", desc := "(I)I" } : Jvm.MethodName)) ∈ lw_all := lw_g (lw_at lw_m2 239 rfl) rfl
theorem q526 : (Jvm.Cond.code ({ cls := "java/lang/AbstractStringBuilder", name := "newCapacity", desc := "(I)I" } : Jvm.MethodName) prog_11_method_10_code (6 : Nat) (Option.some Jvm.ClassFile.FieldType.int)) ∈ lw_all := lw_g (lw_at lw_m3 0 rfl) rfl
theorem q527 : (Jvm.Cond.methodLink "java/lang/AbstractStringBuilder" (114 : Nat) ({ cls := "jdk/internal/util/ArraysSupport", name := "newLength", desc := "(III)I" } : Jvm.MethodName)) ∈ lw_all := lw_g (lw_at lw_m3 1 rfl) rfl
theorem q537 : (Jvm.Cond.constant "java/lang/AbstractStringBuilder" (39 : Nat) (2147483647 : Int32)) ∈ lw_all := lw_g (lw_at lw_m3 11 rfl) rfl
theorem q538 : (Jvm.Cond.methodLink "java/lang/AbstractStringBuilder" (108 : Nat) ({ cls := "java/util/Arrays", name := "copyOf", desc := "([BI)[B" } : Jvm.MethodName)) ∈ lw_all := lw_g (lw_at lw_m3 12 rfl) rfl
theorem q552 : (Jvm.Cond.methodLink "java/lang/AbstractStringBuilder" (83 : Nat) ({ cls := "java/lang/AbstractStringBuilder", name := "isLatin1", desc := "()Z" } : Jvm.MethodName)) ∈ lw_all := lw_g (lw_at lw_m3 26 rfl) rfl
theorem q553 : (Jvm.Cond.methodLink "java/lang/AbstractStringBuilder" (248 : Nat) ({ cls := "java/lang/Integer", name := "getChars", desc := "(II[B)I" } : Jvm.MethodName)) ∈ lw_all := lw_g (lw_at lw_m3 27 rfl) rfl
theorem q560 : (Jvm.Cond.methodLink "java/lang/AbstractStringBuilder" (251 : Nat) ({ cls := "java/lang/StringUTF16", name := "getChars", desc := "(III[B)I" } : Jvm.MethodName)) ∈ lw_all := lw_g (lw_at lw_m3 34 rfl) rfl
theorem q586 : (Jvm.Cond.instanceMethod ({ cls := "java/lang/AbstractStringBuilder", name := "append", desc := "(Ljava/lang/String;)Ljava/lang/AbstractStringBuilder;" } : Jvm.MethodName)) ∈ lw_all := lw_g (lw_at lw_m3 60 rfl) rfl
theorem q587 : (Jvm.Cond.code ({ cls := "java/lang/AbstractStringBuilder", name := "append", desc := "(Ljava/lang/String;)Ljava/lang/AbstractStringBuilder;" } : Jvm.MethodName) prog_11_method_22_code (3 : Nat) (Option.some (Jvm.ClassFile.FieldType.object "java/lang/AbstractStringBuilder"))) ∈ lw_all := lw_g (lw_at lw_m3 61 rfl) rfl
theorem q588 : (Jvm.Cond.methodLink "java/lang/AbstractStringBuilder" (204 : Nat) ({ cls := "java/lang/AbstractStringBuilder", name := "appendNull", desc := "()Ljava/lang/AbstractStringBuilder;" } : Jvm.MethodName)) ∈ lw_all := lw_g (lw_at lw_m3 62 rfl) rfl
theorem q589 : (Jvm.Cond.privateMethod ({ cls := "java/lang/AbstractStringBuilder", name := "appendNull", desc := "()Ljava/lang/AbstractStringBuilder;" } : Jvm.MethodName)) ∈ lw_tbl := lw_at lw_m3 63 rfl
theorem q590 : (Jvm.Cond.instanceMethod ({ cls := "java/lang/AbstractStringBuilder", name := "appendNull", desc := "()Ljava/lang/AbstractStringBuilder;" } : Jvm.MethodName)) ∈ lw_all := lw_g (lw_at lw_m3 64 rfl) rfl
theorem q591 : (Jvm.Cond.code ({ cls := "java/lang/AbstractStringBuilder", name := "appendNull", desc := "()Ljava/lang/AbstractStringBuilder;" } : Jvm.MethodName) prog_11_method_26_code (3 : Nat) (Option.some (Jvm.ClassFile.FieldType.object "java/lang/AbstractStringBuilder"))) ∈ lw_all := lw_g (lw_at lw_m3 65 rfl) rfl
theorem q592 : (Jvm.Cond.methodLink "java/lang/AbstractStringBuilder" (226 : Nat) ({ cls := "java/lang/StringUTF16", name := "putCharsAt", desc := "([BICCCC)I" } : Jvm.MethodName)) ∈ lw_all := lw_g (lw_at lw_m3 66 rfl) rfl
theorem q595 : (Jvm.Cond.methodLink "java/lang/AbstractStringBuilder" (32 : Nat) ({ cls := "java/lang/String", name := "length", desc := "()I" } : Jvm.MethodName)) ∈ lw_all := lw_g (lw_at lw_m3 69 rfl) rfl
theorem q596 : (Jvm.Cond.methodLink "java/lang/AbstractStringBuilder" (208 : Nat) ({ cls := "java/lang/AbstractStringBuilder", name := "putStringAt", desc := "(ILjava/lang/String;)V" } : Jvm.MethodName)) ∈ lw_all := lw_g (lw_at lw_m3 70 rfl) rfl
theorem q597 : (Jvm.Cond.privateMethod ({ cls := "java/lang/AbstractStringBuilder", name := "putStringAt", desc := "(ILjava/lang/String;)V" } : Jvm.MethodName)) ∈ lw_tbl := lw_at lw_m3 71 rfl
theorem q598 : (Jvm.Cond.instanceMethod ({ cls := "java/lang/AbstractStringBuilder", name := "putStringAt", desc := "(ILjava/lang/String;)V" } : Jvm.MethodName)) ∈ lw_all := lw_g (lw_at lw_m3 72 rfl) rfl
theorem q599 : (Jvm.Cond.code ({ cls := "java/lang/AbstractStringBuilder", name := "putStringAt", desc := "(ILjava/lang/String;)V" } : Jvm.MethodName) prog_11_method_73_code (3 : Nat) (Option.none : Option Jvm.ClassFile.FieldType)) ∈ lw_all := lw_g (lw_at lw_m3 73 rfl) rfl
theorem q600 : (Jvm.Cond.methodLink "java/lang/AbstractStringBuilder" (397 : Nat) ({ cls := "java/lang/AbstractStringBuilder", name := "inflateIfNeededFor", desc := "(Ljava/lang/String;)V" } : Jvm.MethodName)) ∈ lw_all := lw_g (lw_at lw_m3 74 rfl) rfl
theorem q601 : (Jvm.Cond.privateMethod ({ cls := "java/lang/AbstractStringBuilder", name := "inflateIfNeededFor", desc := "(Ljava/lang/String;)V" } : Jvm.MethodName)) ∈ lw_tbl := lw_at lw_m3 75 rfl
theorem q602 : (Jvm.Cond.instanceMethod ({ cls := "java/lang/AbstractStringBuilder", name := "inflateIfNeededFor", desc := "(Ljava/lang/String;)V" } : Jvm.MethodName)) ∈ lw_all := lw_g (lw_at lw_m3 76 rfl) rfl
theorem q603 : (Jvm.Cond.code ({ cls := "java/lang/AbstractStringBuilder", name := "inflateIfNeededFor", desc := "(Ljava/lang/String;)V" } : Jvm.MethodName) prog_11_method_71_code (2 : Nat) (Option.none : Option Jvm.ClassFile.FieldType)) ∈ lw_all := lw_g (lw_at lw_m3 77 rfl) rfl
theorem q604 : (Jvm.Cond.methodLink "java/lang/AbstractStringBuilder" (40 : Nat) ({ cls := "java/lang/String", name := "coder", desc := "()B" } : Jvm.MethodName)) ∈ lw_all := lw_g (lw_at lw_m3 78 rfl) rfl
theorem q605 : (Jvm.Cond.methodLink "java/lang/AbstractStringBuilder" (195 : Nat) ({ cls := "java/lang/AbstractStringBuilder", name := "inflate", desc := "()V" } : Jvm.MethodName)) ∈ lw_all := lw_g (lw_at lw_m3 79 rfl) rfl
theorem q606 : (Jvm.Cond.privateMethod ({ cls := "java/lang/AbstractStringBuilder", name := "inflate", desc := "()V" } : Jvm.MethodName)) ∈ lw_tbl := lw_at lw_m3 80 rfl
theorem q607 : (Jvm.Cond.instanceMethod ({ cls := "java/lang/AbstractStringBuilder", name := "inflate", desc := "()V" } : Jvm.MethodName)) ∈ lw_all := lw_g (lw_at lw_m3 81 rfl) rfl
theorem q608 : (Jvm.Cond.code ({ cls := "java/lang/AbstractStringBuilder", name := "inflate", desc := "()V" } : Jvm.MethodName) prog_11_method_11_code (2 : Nat) (Option.none : Option Jvm.ClassFile.FieldType)) ∈ lw_all := lw_g (lw_at lw_m3 82 rfl) rfl
theorem q609 : (Jvm.Cond.methodLink "java/lang/AbstractStringBuilder" (125 : Nat) ({ cls := "java/lang/StringLatin1", name := "inflate", desc := "([BI[BII)V" } : Jvm.MethodName)) ∈ lw_all := lw_g (lw_at lw_m3 83 rfl) rfl
theorem q624 : (Jvm.Cond.methodLink "java/lang/AbstractStringBuilder" (399 : Nat) ({ cls := "java/lang/String", name := "getBytes", desc := "([BIB)V" } : Jvm.MethodName)) ∈ lw_all := lw_g (lw_at lw_m3 98 rfl) rfl
theorem q868 : (Jvm.Cond.instanceMethod ({ cls := "java/lang/AbstractStringBuilder", name := "compareTo", desc := "(Ljava/lang/AbstractStringBuilder;)I" } : Jvm.MethodName)) ∈ lw_all := lw_g (lw_at lw_m4 102 rfl) rfl
theorem q869 : (Jvm.Cond.code ({ cls := "java/lang/AbstractStringBuilder", name := "compareTo", desc := "(Ljava/lang/AbstractStringBuilder;)I" } : Jvm.MethodName) prog_11_method_5_code (6 : Nat) (Option.some Jvm.ClassFile.FieldType.int)) ∈ lw_all := lw_g (lw_at lw_m4 103 rfl) rfl
theorem q870 : (Jvm.Cond.methodLink "java/lang/AbstractStringBuilder" (87 : Nat) ({ cls := "java/lang/StringLatin1", name := "compareTo", desc := "([B[BII)I" } : Jvm.MethodName)) ∈ lw_all := lw_g (lw_at lw_m4 104 rfl) rfl
theorem q871 : (Jvm.Cond.methodLink "java/lang/AbstractStringBuilder" (93 : Nat) ({ cls := "java/lang/StringUTF16", name := "compareTo", desc := "([B[BII)I" } : Jvm.MethodName)) ∈ lw_all := lw_g (lw_at lw_m4 105 rfl) rfl
theorem q880 : (Jvm.Cond.methodLink "java/lang/AbstractStringBuilder" (94 : Nat) ({ cls := "java/lang/StringLatin1", name := "compareToUTF16", desc := "([B[BII)I" } : Jvm.MethodName)) ∈ lw_all := lw_g (lw_at lw_m4 114 rfl) rfl
theorem q884 : (Jvm.Cond.methodLink "java/lang/AbstractStringBuilder" (97 : Nat) ({ cls := "java/lang/StringUTF16", name := "compareToLatin1", desc := "([B[BII)I" } : Jvm.MethodName)) ∈ lw_all := lw_g (lw_at lw_m4 118 rfl) rfl
theorem q1440 : (Jvm.Cond.instanceMethod ({ cls := "java/lang/AbstractStringBuilder", name := "insert", desc := "(IC)Ljava/lang/AbstractStringBuilder;" } : Jvm.MethodName)) ∈ lw_all := lw_g (lw_at lw_m6 194 rfl) rfl
theorem q1441 : (Jvm.Cond.code ({ cls := "java/lang/AbstractStringBuilder", name := "insert", desc := "(IC)Ljava/lang/AbstractStringBuilder;" } : Jvm.MethodName) prog_11_method_51_code (3 : Nat) (Option.some (Jvm.ClassFile.FieldType.object "java/lang/AbstractStringBuilder"))) ∈ lw_all := lw_g (lw_at lw_m6 195 rfl) rfl
theorem q1442 : (Jvm.Cond.methodLink "java/lang/AbstractStringBuilder" (315 : Nat) ({ cls := "java/lang/String", name := "checkOffset", desc := "(II)V" } : Jvm.MethodName)) ∈ lw_all := lw_g (lw_at lw_m6 196 rfl) rfl
theorem q1443 : (Jvm.Cond.methodLink "java/lang/AbstractStringBuilder" (283 : Nat) ({ cls := "java/lang/AbstractStringBuilder", name := "shift", desc := "(II)V" } : Jvm.MethodName)) ∈ lw_all := lw_g (lw_at lw_m6 197 rfl) rfl
theorem q1444 : (Jvm.Cond.privateMethod ({ cls := "java/lang/AbstractStringBuilder", name := "shift", desc := "(II)V" } : Jvm.MethodName)) ∈ lw_tbl := lw_at lw_m6 198 rfl
theorem q1445 : (Jvm.Cond.instanceMethod ({ cls := "java/lang/AbstractStringBuilder", name := "shift", desc := "(II)V" } : Jvm.MethodName)) ∈ lw_all := lw_g (lw_at lw_m6 199 rfl) rfl
theorem q1446 : (Jvm.Cond.code ({ cls := "java/lang/AbstractStringBuilder", name := "shift", desc := "(II)V" } : Jvm.MethodName) prog_11_method_43_code (3 : Nat) (Option.none : Option Jvm.ClassFile.FieldType)) ∈ lw_all := lw_g (lw_at lw_m6 200 rfl) rfl
theorem q1447 : (Jvm.Cond.methodLink "java/lang/AbstractStringBuilder" (309 : Nat) ({ cls := "java/lang/System", name := "arraycopy", desc := "(Ljava/lang/Object;ILjava/lang/Object;II)V" } : Jvm.MethodName)) ∈ lw_all := lw_g (lw_at lw_m6 201 rfl) rfl
theorem q1448 : (Jvm.Cond.methodLink "java/lang/AbstractStringBuilder" (191 : Nat) ({ cls := "java/lang/StringLatin1", name := "canEncode", desc := "(C)Z" } : Jvm.MethodName)) ∈ lw_all := lw_g (lw_at lw_m6 202 rfl) rfl
theorem q1451 : (Jvm.Cond.methodLink "java/lang/AbstractStringBuilder" (197 : Nat) ({ cls := "java/lang/StringUTF16", name := "putCharSB", desc := "([BII)V" } : Jvm.MethodName)) ∈ lw_all := lw_g (lw_at lw_m6 205 rfl) rfl
theorem q1607 : (Jvm.Cond.instanceMethod ({ cls := "java/lang/AbstractStringBuilder", name := "substring", desc := "(II)Ljava/lang/String;" } : Jvm.MethodName)) ∈ lw_all := lw_g (lw_at lw_m7 121 rfl) rfl
theorem q1608 : (Jvm.Cond.code ({ cls := "java/lang/AbstractStringBuilder", name := "substring", desc := "(II)Ljava/lang/String;" } : Jvm.MethodName) prog_11_method_42_code (3 : Nat) (Option.some (Jvm.ClassFile.FieldType.object "java/lang/String"))) ∈ lw_all := lw_g (lw_at lw_m7 122 rfl) rfl
theorem q1609 : (Jvm.Cond.fieldLink "java/lang/AbstractStringBuilder" (179 : Nat) "jdk/internal/util/Preconditions" "SIOOBE_FORMATTER" "Ljava/util/function/BiFunction;") ∈ lw_all := lw_g (lw_at lw_m7 123 rfl) rfl
theorem q1610 : (Jvm.Cond.methodLink "java/lang/AbstractStringBuilder" (161 : Nat) ({ cls := "jdk/internal/util/Preconditions", name := "checkFromToIndex", desc := "(IIILjava/util/function/BiFunction;)I" } : Jvm.MethodName)) ∈ lw_all := lw_g (lw_at lw_m7 124 rfl) rfl
theorem q1611 : (Jvm.Cond.methodLink "java/lang/AbstractStringBuilder" (304 : Nat) ({ cls := "java/lang/StringLatin1", name := "newString", desc := "([BII)Ljava/lang/String;" } : Jvm.MethodName)) ∈ lw_all := lw_g (lw_at lw_m7 125 rfl) rfl
theorem q1612 : (Jvm.Cond.methodLink "java/lang/AbstractStringBuilder" (308 : Nat) ({ cls := "java/lang/StringUTF16", name := "newString", desc := "([BII)Ljava/lang/String;" } : Jvm.MethodName)) ∈ lw_all := lw_g (lw_at lw_m7 126 rfl) rfl
theorem q1621 : (Jvm.Cond.instanceMethod ({ cls := "java/lang/AbstractStringBuilder", name := "append", desc := "(Ljava/lang/CharSequence;)Ljava/lang/AbstractStringBuilder;" } : Jvm.MethodName)) ∈ lw_all := lw_g (lw_at lw_m7 135 rfl) rfl
theorem q1622 : (Jvm.Cond.code ({ cls := "java/lang/AbstractStringBuilder", name := "append", desc := "(Ljava/lang/CharSequence;)Ljava/lang/AbstractStringBuilder;" } : Jvm.MethodName) prog_11_method_25_code (2 : Nat) (Option.some (Jvm.ClassFile.FieldType.object "java/lang/AbstractStringBuilder"))) ∈ lw_all := lw_g (lw_at lw_m7 136 rfl) rfl
theorem q1623 : (Jvm.Cond.classLink "java/lang/AbstractStringBuilder" (1 : Nat) "java/lang/String") ∈ lw_all := lw_g (lw_at lw_m7 137 rfl) rfl
theorem q1624 : (Jvm.Cond.methodLink "java/lang/AbstractStringBuilder" (43 : Nat) ({ cls := "java/lang/AbstractStringBuilder", name := "append", desc := "(Ljava/lang/String;)Ljava/lang/AbstractStringBuilder;" } : Jvm.MethodName)) ∈ lw_all := lw_g (lw_at lw_m7 138 rfl) rfl
theorem q1628 : (Jvm.Cond.classLink "java/lang/AbstractStringBuilder" (10 : Nat) "java/lang/AbstractStringBuilder") ∈ lw_all := lw_g (lw_at lw_m7 142 rfl) rfl
theorem q1629 : (Jvm.Cond.methodLink "java/lang/AbstractStringBuilder" (212 : Nat) ({ cls := "java/lang/AbstractStringBuilder", name := "append", desc := "(Ljava/lang/AbstractStringBuilder;)Ljava/lang/AbstractStringBuilder;" } : Jvm.MethodName)) ∈ lw_all := lw_g (lw_at lw_m7 143 rfl) rfl
theorem q1630 : (Jvm.Cond.instanceMethod ({ cls := "java/lang/AbstractStringBuilder", name := "append", desc := "(Ljava/lang/AbstractStringBuilder;)Ljava/lang/AbstractStringBuilder;" } : Jvm.MethodName)) ∈ lw_all := lw_g (lw_at lw_m7 144 rfl) rfl
theorem q1631 : (Jvm.Cond.sameMethod "java/lang/AbstractStringBuilder" "java/lang/AbstractStringBuilder" "append" "(Ljava/lang/AbstractStringBuilder;)Ljava/lang/AbstractStringBuilder;") ∈ lw_all := lw_g (lw_at lw_m7 145 rfl) rfl
theorem q1633 : (Jvm.Cond.code ({ cls := "java/lang/AbstractStringBuilder", name := "append", desc := "(Ljava/lang/AbstractStringBuilder;)Ljava/lang/AbstractStringBuilder;" } : Jvm.MethodName) prog_11_method_24_code (3 : Nat) (Option.some (Jvm.ClassFile.FieldType.object "java/lang/AbstractStringBuilder"))) ∈ lw_all := lw_g (lw_at lw_m7 147 rfl) rfl
theorem q1634 : (Jvm.Cond.methodLink "java/lang/AbstractStringBuilder" (160 : Nat) ({ cls := "java/lang/AbstractStringBuilder", name := "length", desc := "()I" } : Jvm.MethodName)) ∈ lw_all := lw_g (lw_at lw_m7 148 rfl) rfl
theorem q1635 : (Jvm.Cond.methodLink "java/lang/AbstractStringBuilder" (215 : Nat) ({ cls := "java/lang/AbstractStringBuilder", name := "inflateIfNeededFor", desc := "(Ljava/lang/AbstractStringBuilder;)V" } : Jvm.MethodName)) ∈ lw_all := lw_g (lw_at lw_m7 149 rfl) rfl
theorem q1636 : (Jvm.Cond.privateMethod ({ cls := "java/lang/AbstractStringBuilder", name := "inflateIfNeededFor", desc := "(Ljava/lang/AbstractStringBuilder;)V" } : Jvm.MethodName)) ∈ lw_tbl := lw_at lw_m7 150 rfl
theorem q1637 : (Jvm.Cond.instanceMethod ({ cls := "java/lang/AbstractStringBuilder", name := "inflateIfNeededFor", desc := "(Ljava/lang/AbstractStringBuilder;)V" } : Jvm.MethodName)) ∈ lw_all := lw_g (lw_at lw_m7 151 rfl) rfl
theorem q1638 : (Jvm.Cond.code ({ cls := "java/lang/AbstractStringBuilder", name := "inflateIfNeededFor", desc := "(Ljava/lang/AbstractStringBuilder;)V" } : Jvm.MethodName) prog_11_method_72_code (2 : Nat) (Option.none : Option Jvm.ClassFile.FieldType)) ∈ lw_all := lw_g (lw_at lw_m7 152 rfl) rfl
theorem q1639 : (Jvm.Cond.methodLink "java/lang/AbstractStringBuilder" (70 : Nat) ({ cls := "java/lang/AbstractStringBuilder", name := "getCoder", desc := "()B" } : Jvm.MethodName)) ∈ lw_all := lw_g (lw_at lw_m7 153 rfl) rfl
theorem q1640 : (Jvm.Cond.instanceMethod ({ cls := "java/lang/AbstractStringBuilder", name := "getCoder", desc := "()B" } : Jvm.MethodName)) ∈ lw_all := lw_g (lw_at lw_m7 154 rfl) rfl
theorem q1641 : (Jvm.Cond.sameMethod "java/lang/AbstractStringBuilder" "java/lang/AbstractStringBuilder" "getCoder" "()B") ∈ lw_all := lw_g (lw_at lw_m7 155 rfl) rfl
theorem q1643 : (Jvm.Cond.code ({ cls := "java/lang/AbstractStringBuilder", name := "getCoder", desc := "()B" } : Jvm.MethodName) prog_11_method_67_code (1 : Nat) (Option.some Jvm.ClassFile.FieldType.byte)) ∈ lw_all := lw_g (lw_at lw_m7 157 rfl) rfl
theorem q1644 : (Jvm.Cond.methodLink "java/lang/AbstractStringBuilder" (219 : Nat) ({ cls := "java/lang/AbstractStringBuilder", name := "getBytes", desc := "([BIB)V" } : Jvm.MethodName)) ∈ lw_all := lw_g (lw_at lw_m7 158 rfl) rfl
theorem q1645 : (Jvm.Cond.instanceMethod ({ cls := "java/lang/AbstractStringBuilder", name := "getBytes", desc := "([BIB)V" } : Jvm.MethodName)) ∈ lw_all := lw_g (lw_at lw_m7 159 rfl) rfl
theorem q1646 : (Jvm.Cond.sameMethod "java/lang/AbstractStringBuilder" "java/lang/AbstractStringBuilder" "getBytes" "([BIB)V") ∈ lw_all := lw_g (lw_at lw_m7 160 rfl) rfl
theorem q1648 : (Jvm.Cond.code ({ cls := "java/lang/AbstractStringBuilder", name := "getBytes", desc := "([BIB)V" } : Jvm.MethodName) prog_11_method_65_code (4 : Nat) (Option.none : Option Jvm.ClassFile.FieldType)) ∈ lw_all := lw_g (lw_at lw_m7 162 rfl) rfl
theorem q1649 : (Jvm.Cond.interfaceEntry "java/lang/AbstractStringBuilder" (47 : Nat)) ∈ lw_tbl := lw_at lw_m7 163 rfl
theorem q1650 : (Jvm.Cond.methodLink "java/lang/AbstractStringBuilder" (47 : Nat) ({ cls := "java/lang/CharSequence", name := "length", desc := "()I" } : Jvm.MethodName)) ∈ lw_all := lw_g (lw_at lw_m7 164 rfl) rfl
theorem q1651 : (Jvm.Cond.methodLink "java/lang/AbstractStringBuilder" (223 : Nat) ({ cls := "java/lang/AbstractStringBuilder", name := "append", desc := "(Ljava/lang/CharSequence;II)Ljava/lang/AbstractStringBuilder;" } : Jvm.MethodName)) ∈ lw_all := lw_g (lw_at lw_m7 165 rfl) rfl
theorem q1652 : (Jvm.Cond.instanceMethod ({ cls := "java/lang/AbstractStringBuilder", name := "append", desc := "(Ljava/lang/CharSequence;II)Ljava/lang/AbstractStringBuilder;" } : Jvm.MethodName)) ∈ lw_all := lw_g (lw_at lw_m7 166 rfl) rfl
theorem q1653 : (Jvm.Cond.sameMethod "java/lang/AbstractStringBuilder" "java/lang/AbstractStringBuilder" "append" "(Ljava/lang/CharSequence;II)Ljava/lang/AbstractStringBuilder;") ∈ lw_all := lw_g (lw_at lw_m7 167 rfl) rfl
theorem q1662 : (Jvm.Cond.code ({ cls := "java/lang/AbstractStringBuilder", name := "append", desc := "(Ljava/lang/CharSequence;II)Ljava/lang/AbstractStringBuilder;" } : Jvm.MethodName) prog_11_method_27_code (5 : Nat) (Option.some (Jvm.ClassFile.FieldType.object "java/lang/AbstractStringBuilder"))) ∈ lw_all := lw_g (lw_at lw_m7 176 rfl) rfl
theorem q1663 : (Jvm.Cond.stringRef "java/lang/AbstractStringBuilder" (230 : Nat) "null") ∈ lw_tbl := lw_at lw_m7 177 rfl
theorem q1664 : (Jvm.Cond.fieldLink "java/lang/AbstractStringBuilder" (183 : Nat) "jdk/internal/util/Preconditions" "IOOBE_FORMATTER" "Ljava/util/function/BiFunction;") ∈ lw_all := lw_g (lw_at lw_m7 178 rfl) rfl
theorem q1666 : (Jvm.Cond.methodLink "java/lang/AbstractStringBuilder" (232 : Nat) ({ cls := "java/lang/AbstractStringBuilder", name := "appendChars", desc := "(Ljava/lang/String;II)V" } : Jvm.MethodName)) ∈ lw_all := lw_g (lw_at lw_m7 180 rfl) rfl
theorem q1667 : (Jvm.Cond.privateMethod ({ cls := "java/lang/AbstractStringBuilder", name := "appendChars", desc := "(Ljava/lang/String;II)V" } : Jvm.MethodName)) ∈ lw_tbl := lw_at lw_m7 181 rfl
theorem q1668 : (Jvm.Cond.instanceMethod ({ cls := "java/lang/AbstractStringBuilder", name := "appendChars", desc := "(Ljava/lang/String;II)V" } : Jvm.MethodName)) ∈ lw_all := lw_g (lw_at lw_m7 182 rfl) rfl
theorem q1669 : (Jvm.Cond.code ({ cls := "java/lang/AbstractStringBuilder", name := "appendChars", desc := "(Ljava/lang/String;II)V" } : Jvm.MethodName) prog_11_method_75_code (8 : Nat) (Option.none : Option Jvm.ClassFile.FieldType)) ∈ lw_all := lw_g (lw_at lw_m7 183 rfl) rfl
theorem q1670 : (Jvm.Cond.methodLink "java/lang/AbstractStringBuilder" (400 : Nat) ({ cls := "java/lang/String", name := "isLatin1", desc := "()Z" } : Jvm.MethodName)) ∈ lw_all := lw_g (lw_at lw_m7 184 rfl) rfl
theorem q1671 : (Jvm.Cond.methodLink "java/lang/AbstractStringBuilder" (401 : Nat) ({ cls := "java/lang/String", name := "value", desc := "()[B" } : Jvm.MethodName)) ∈ lw_all := lw_g (lw_at lw_m7 185 rfl) rfl
theorem q1675 : (Jvm.Cond.methodLink "java/lang/AbstractStringBuilder" (404 : Nat) ({ cls := "java/lang/String", name := "charAt", desc := "(I)C" } : Jvm.MethodName)) ∈ lw_all := lw_g (lw_at lw_m7 189 rfl) rfl
theorem q1676 : (Jvm.Cond.methodLink "java/lang/AbstractStringBuilder" (394 : Nat) ({ cls := "java/lang/StringUTF16", name := "putCharsSB", desc := "([BILjava/lang/CharSequence;II)V" } : Jvm.MethodName)) ∈ lw_all := lw_g (lw_at lw_m7 190 rfl) rfl
theorem q1681 : (Jvm.Cond.methodLink "java/lang/AbstractStringBuilder" (236 : Nat) ({ cls := "java/lang/AbstractStringBuilder", name := "appendChars", desc := "(Ljava/lang/CharSequence;II)V" } : Jvm.MethodName)) ∈ lw_all := lw_g (lw_at lw_m7 195 rfl) rfl
theorem q1682 : (Jvm.Cond.privateMethod ({ cls := "java/lang/AbstractStringBuilder", name := "appendChars", desc := "(Ljava/lang/CharSequence;II)V" } : Jvm.MethodName)) ∈ lw_tbl := lw_at lw_m7 196 rfl
theorem q1683 : (Jvm.Cond.instanceMethod ({ cls := "java/lang/AbstractStringBuilder", name := "appendChars", desc := "(Ljava/lang/CharSequence;II)V" } : Jvm.MethodName)) ∈ lw_all := lw_g (lw_at lw_m7 197 rfl) rfl
theorem q1684 : (Jvm.Cond.code ({ cls := "java/lang/AbstractStringBuilder", name := "appendChars", desc := "(Ljava/lang/CharSequence;II)V" } : Jvm.MethodName) prog_11_method_76_code (8 : Nat) (Option.none : Option Jvm.ClassFile.FieldType)) ∈ lw_all := lw_g (lw_at lw_m7 198 rfl) rfl
theorem q1685 : (Jvm.Cond.interfaceEntry "java/lang/AbstractStringBuilder" (390 : Nat)) ∈ lw_tbl := lw_at lw_m7 199 rfl
theorem q1686 : (Jvm.Cond.methodLink "java/lang/AbstractStringBuilder" (390 : Nat) ({ cls := "java/lang/CharSequence", name := "charAt", desc := "(I)C" } : Jvm.MethodName)) ∈ lw_all := lw_g (lw_at lw_m7 200 rfl) rfl
theorem q1693 : (Jvm.Cond.instanceMethod ({ cls := "java/lang/AbstractStringBuilder", name := "append", desc := "(C)Ljava/lang/AbstractStringBuilder;" } : Jvm.MethodName)) ∈ lw_all := lw_g (lw_at lw_m7 207 rfl) rfl
theorem q1694 : (Jvm.Cond.code ({ cls := "java/lang/AbstractStringBuilder", name := "append", desc := "(C)Ljava/lang/AbstractStringBuilder;" } : Jvm.MethodName) prog_11_method_31_code (2 : Nat) (Option.some (Jvm.ClassFile.FieldType.object "java/lang/AbstractStringBuilder"))) ∈ lw_all := lw_g (lw_at lw_m7 208 rfl) rfl
theorem q1980 : (Jvm.Cond.instanceMethod ({ cls := "java/lang/AbstractStringBuilder", name := "setCharAt", desc := "(IC)V" } : Jvm.MethodName)) ∈ lw_all := lw_g (lw_at lw_m9 14 rfl) rfl
theorem q1981 : (Jvm.Cond.code ({ cls := "java/lang/AbstractStringBuilder", name := "setCharAt", desc := "(IC)V" } : Jvm.MethodName) prog_11_method_20_code (3 : Nat) (Option.none : Option Jvm.ClassFile.FieldType)) ∈ lw_all := lw_g (lw_at lw_m9 15 rfl) rfl
theorem q2008 : (Jvm.Cond.instanceMethod ({ cls := "java/lang/AbstractStringBuilder", name := "setLength", desc := "(I)V" } : Jvm.MethodName)) ∈ lw_all := lw_g (lw_at lw_m9 42 rfl) rfl
theorem q2009 : (Jvm.Cond.code ({ cls := "java/lang/AbstractStringBuilder", name := "setLength", desc := "(I)V" } : Jvm.MethodName) prog_11_method_13_code (2 : Nat) (Option.none : Option Jvm.ClassFile.FieldType)) ∈ lw_all := lw_g (lw_at lw_m9 43 rfl) rfl
theorem q2010 : (Jvm.Cond.classLink "java/lang/AbstractStringBuilder" (129 : Nat) "java/lang/StringIndexOutOfBoundsException") ∈ lw_all := lw_g (lw_at lw_m9 44 rfl) rfl
theorem q2012 : (Jvm.Cond.methodLink "java/lang/AbstractStringBuilder" (131 : Nat) ({ cls := "java/lang/StringIndexOutOfBoundsException", name := "<init>", desc := "(I)V" } : Jvm.MethodName)) ∈ lw_all := lw_g (lw_at lw_m9 46 rfl) rfl
theorem q2029 : (Jvm.Cond.methodLink "java/lang/AbstractStringBuilder" (133 : Nat) ({ cls := "java/lang/StringLatin1", name := "fillNull", desc := "([BII)V" } : Jvm.MethodName)) ∈ lw_all := lw_g (lw_at lw_m9 63 rfl) rfl
theorem q2051 : (Jvm.Cond.methodLink "java/lang/AbstractStringBuilder" (137 : Nat) ({ cls := "java/lang/StringUTF16", name := "fillNull", desc := "([BII)V" } : Jvm.MethodName)) ∈ lw_all := lw_g (lw_at lw_m9 85 rfl) rfl
theorem q2334 : (Jvm.Cond.sameMethod "java/lang/AbstractStringBuilder" "java/lang/AbstractStringBuilder" "length" "()I") ∈ lw_all := lw_g (lw_at lw_m10 128 rfl) rfl
theorem q2335 : (Jvm.Cond.sameMethod "java/lang/AbstractStringBuilder" "java/lang/AbstractStringBuilder" "charAt" "(I)C") ∈ lw_all := lw_g (lw_at lw_m10 129 rfl) rfl
theorem q2338 : (Jvm.Cond.sameMethod "java/lang/AbstractStringBuilder" "java/lang/AbstractStringBuilder" "append" "(I)Ljava/lang/AbstractStringBuilder;") ∈ lw_all := lw_g (lw_at lw_m10 132 rfl) rfl
theorem q2339 : (Jvm.Cond.sameMethod "java/lang/AbstractStringBuilder" "java/lang/AbstractStringBuilder" "ensureCapacityInternal" "(I)V") ∈ lw_all := lw_g (lw_at lw_m10 133 rfl) rfl
theorem q2340 : (Jvm.Cond.sameMethod "java/lang/AbstractStringBuilder" "java/lang/AbstractStringBuilder" "newCapacity" "(I)I") ∈ lw_all := lw_g (lw_at lw_m10 134 rfl) rfl
theorem q2341 : (Jvm.Cond.sameMethod "java/lang/AbstractStringBuilder" "java/lang/AbstractStringBuilder" "append" "(Ljava/lang/String;)Ljava/lang/AbstractStringBuilder;") ∈ lw_all := lw_g (lw_at lw_m10 135 rfl) rfl
theorem q2342 : (Jvm.Cond.sameMethod "java/lang/AbstractStringBuilder" "java/lang/AbstractStringBuilder" "appendNull" "()Ljava/lang/AbstractStringBuilder;") ∈ lw_all := lw_g (lw_at lw_m10 136 rfl) rfl
theorem q2344 : (Jvm.Cond.sameMethod "java/lang/AbstractStringBuilder" "java/lang/AbstractStringBuilder" "putStringAt" "(ILjava/lang/String;)V") ∈ lw_all := lw_g (lw_at lw_m10 138 rfl) rfl
theorem q2345 : (Jvm.Cond.sameMethod "java/lang/AbstractStringBuilder" "java/lang/AbstractStringBuilder" "inflateIfNeededFor" "(Ljava/lang/String;)V") ∈ lw_all := lw_g (lw_at lw_m10 139 rfl) rfl
theorem q2346 : (Jvm.Cond.sameMethod "java/lang/AbstractStringBuilder" "java/lang/AbstractStringBuilder" "inflate" "()V") ∈ lw_all := lw_g (lw_at lw_m10 140 rfl) rfl
theorem q2347 : (Jvm.Cond.sameMethod "java/lang/AbstractStringBuilder" "java/lang/AbstractStringBuilder" "compareTo" "(Ljava/lang/AbstractStringBuilder;)I") ∈ lw_all := lw_g (lw_at lw_m10 141 rfl) rfl
theorem q2349 : (Jvm.Cond.sameMethod "java/lang/AbstractStringBuilder" "java/lang/AbstractStringBuilder" "insert" "(IC)Ljava/lang/AbstractStringBuilder;") ∈ lw_all := lw_g (lw_at lw_m10 143 rfl) rfl
theorem q2350 : (Jvm.Cond.sameMethod "java/lang/AbstractStringBuilder" "java/lang/AbstractStringBuilder" "shift" "(II)V") ∈ lw_all := lw_g (lw_at lw_m10 144 rfl) rfl
theorem q2353 : (Jvm.Cond.sameMethod "java/lang/AbstractStringBuilder" "java/lang/AbstractStringBuilder" "substring" "(II)Ljava/lang/String;") ∈ lw_all := lw_g (lw_at lw_m10 147 rfl) rfl
theorem q2354 : (Jvm.Cond.sameMethod "java/lang/AbstractStringBuilder" "java/lang/AbstractStringBuilder" "append" "(Ljava/lang/CharSequence;)Ljava/lang/AbstractStringBuilder;") ∈ lw_all := lw_g (lw_at lw_m10 148 rfl) rfl
theorem q2356 : (Jvm.Cond.sameMethod "java/lang/AbstractStringBuilder" "java/lang/AbstractStringBuilder" "inflateIfNeededFor" "(Ljava/lang/AbstractStringBuilder;)V") ∈ lw_all := lw_g (lw_at lw_m10 150 rfl) rfl
theorem q2357 : (Jvm.Cond.sameMethod "java/lang/AbstractStringBuilder" "java/lang/AbstractStringBuilder" "appendChars" "(Ljava/lang/String;II)V") ∈ lw_all := lw_g (lw_at lw_m10 151 rfl) rfl
theorem q2358 : (Jvm.Cond.sameMethod "java/lang/AbstractStringBuilder" "java/lang/AbstractStringBuilder" "appendChars" "(Ljava/lang/CharSequence;II)V") ∈ lw_all := lw_g (lw_at lw_m10 152 rfl) rfl
theorem q2359 : (Jvm.Cond.sameMethod "java/lang/AbstractStringBuilder" "java/lang/AbstractStringBuilder" "append" "(C)Ljava/lang/AbstractStringBuilder;") ∈ lw_all := lw_g (lw_at lw_m10 153 rfl) rfl
theorem q2360 : (Jvm.Cond.sameMethod "java/lang/AbstractStringBuilder" "java/lang/AbstractStringBuilder" "setCharAt" "(IC)V") ∈ lw_all := lw_g (lw_at lw_m10 154 rfl) rfl
theorem q2361 : (Jvm.Cond.sameMethod "java/lang/AbstractStringBuilder" "java/lang/AbstractStringBuilder" "setLength" "(I)V") ∈ lw_all := lw_g (lw_at lw_m10 155 rfl) rfl

/-! java/util/Objects -/
set_option maxRecDepth 100000
def RJ30 : String := "java/util/Objects"
abbrev cJ30_requireNonNull : ByteArray := prog_55_method_10_code
def yJ30_requireNonNull : MethodName := ⟨RJ30, "requireNonNull", "(Ljava/lang/Object;)Ljava/lang/Object;"⟩
def dkwJ30_requireNonNull_0 : List UInt8 := [42, 199, 0, 11, 187, 0, 84, 89, 183, 0, 86, 191, 42, 176]
abbrev dktJ30_requireNonNull_0 : List UInt8 := dkwJ30_requireNonNull_0 ++ []
theorem dksJ30_requireNonNull_0 : cJ30_requireNonNull.data.toList.drop 0 = dktJ30_requireNonNull_0 := by decide +kernel
theorem dJ30_requireNonNull_0 : decode cJ30_requireNonNull 0 = .ok (.aload_n 0, 1) := dk_42 (dk_at dksJ30_requireNonNull_0 0 rfl rfl)
theorem dJ30_requireNonNull_1 : decode cJ30_requireNonNull 1 = .ok (.ifnonnull 11, 3) := dk_199 0 11 (dk_at dksJ30_requireNonNull_0 1 rfl rfl)
theorem dJ30_requireNonNull_4 : decode cJ30_requireNonNull 4 = .ok (.new 84, 3) := dk_187 0 84 (dk_at dksJ30_requireNonNull_0 4 rfl rfl)
theorem dJ30_requireNonNull_7 : decode cJ30_requireNonNull 7 = .ok (.dup, 1) := dk_89 (dk_at dksJ30_requireNonNull_0 7 rfl rfl)
theorem dJ30_requireNonNull_8 : decode cJ30_requireNonNull 8 = .ok (.invokespecial 86, 3) := dk_183 0 86 (dk_at dksJ30_requireNonNull_0 8 rfl rfl)
theorem dJ30_requireNonNull_11 : decode cJ30_requireNonNull 11 = .ok (.athrow, 1) := dk_191 (dk_at dksJ30_requireNonNull_0 11 rfl rfl)
theorem dJ30_requireNonNull_12 : decode cJ30_requireNonNull 12 = .ok (.aload_n 0, 1) := dk_42 (dk_at dksJ30_requireNonNull_0 12 rfl rfl)
theorem dJ30_requireNonNull_13 : decode cJ30_requireNonNull 13 = .ok (.areturn, 1) := dk_176 (dk_at dksJ30_requireNonNull_0 13 rfl rfl)
abbrev cJ30_checkIndex : ByteArray := prog_55_method_17_code
def yJ30_checkIndex : MethodName := ⟨RJ30, "checkIndex", "(II)I"⟩
def dkwJ30_checkIndex_0 : List UInt8 := [26, 27, 1, 184, 0, 105, 172]
abbrev dktJ30_checkIndex_0 : List UInt8 := dkwJ30_checkIndex_0 ++ []
theorem dksJ30_checkIndex_0 : cJ30_checkIndex.data.toList.drop 0 = dktJ30_checkIndex_0 := by decide +kernel
theorem dJ30_checkIndex_0 : decode cJ30_checkIndex 0 = .ok (.iload_n 0, 1) := dk_26 (dk_at dksJ30_checkIndex_0 0 rfl rfl)
theorem dJ30_checkIndex_1 : decode cJ30_checkIndex 1 = .ok (.iload_n 1, 1) := dk_27 (dk_at dksJ30_checkIndex_0 1 rfl rfl)
theorem dJ30_checkIndex_2 : decode cJ30_checkIndex 2 = .ok (.aconst_null, 1) := dk_1 (dk_at dksJ30_checkIndex_0 2 rfl rfl)
theorem dJ30_checkIndex_3 : decode cJ30_checkIndex 3 = .ok (.invokestatic 105, 3) := dk_184 0 105 (dk_at dksJ30_checkIndex_0 3 rfl rfl)
theorem dJ30_checkIndex_6 : decode cJ30_checkIndex 6 = .ok (.ireturn, 1) := dk_172 (dk_at dksJ30_checkIndex_0 6 rfl rfl)
theorem q85 : (Jvm.Cond.initialized "java/util/Objects") ∈ lw_all := lw_g (lw_at lw_m1 39 rfl) rfl
theorem q923 : (Jvm.Cond.static ({ cls := "java/util/Objects", name := "requireNonNull", desc := "(Ljava/lang/Object;)Ljava/lang/Object;" } : Jvm.MethodName)) ∈ lw_all := lw_g (lw_at lw_m4 157 rfl) rfl
theorem q924 : (Jvm.Cond.code ({ cls := "java/util/Objects", name := "requireNonNull", desc := "(Ljava/lang/Object;)Ljava/lang/Object;" } : Jvm.MethodName) prog_55_method_10_code (1 : Nat) (Option.some (Jvm.ClassFile.FieldType.object "java/lang/Object"))) ∈ lw_all := lw_g (lw_at lw_m4 158 rfl) rfl
theorem q1299 : (Jvm.Cond.static ({ cls := "java/util/Objects", name := "equals", desc := "(Ljava/lang/Object;Ljava/lang/Object;)Z" } : Jvm.MethodName)) ∈ lw_all := lw_g (lw_at lw_m6 53 rfl) rfl
theorem q1300 : (Jvm.Cond.code ({ cls := "java/util/Objects", name := "equals", desc := "(Ljava/lang/Object;Ljava/lang/Object;)Z" } : Jvm.MethodName) prog_55_method_2_code (2 : Nat) (Option.some Jvm.ClassFile.FieldType.boolean)) ∈ lw_all := lw_g (lw_at lw_m6 54 rfl) rfl
theorem q1302 : (Jvm.Cond.methodLink "java/util/Objects" (14 : Nat) ({ cls := "java/lang/Object", name := "equals", desc := "(Ljava/lang/Object;)Z" } : Jvm.MethodName)) ∈ lw_all := lw_g (lw_at lw_m6 56 rfl) rfl
theorem q1950 : (Jvm.Cond.static ({ cls := "java/util/Objects", name := "checkIndex", desc := "(II)I" } : Jvm.MethodName)) ∈ lw_all := lw_g (lw_at lw_m8 224 rfl) rfl
theorem q1951 : (Jvm.Cond.code ({ cls := "java/util/Objects", name := "checkIndex", desc := "(II)I" } : Jvm.MethodName) prog_55_method_17_code (2 : Nat) (Option.some Jvm.ClassFile.FieldType.int)) ∈ lw_all := lw_g (lw_at lw_m8 225 rfl) rfl
theorem q1952 : (Jvm.Cond.methodLink "java/util/Objects" (105 : Nat) ({ cls := "jdk/internal/util/Preconditions", name := "checkIndex", desc := "(IILjava/util/function/BiFunction;)I" } : Jvm.MethodName)) ∈ lw_all := lw_g (lw_at lw_m8 226 rfl) rfl

/-! java/util/ArrayList$Itr -/
set_option maxRecDepth 100000
def RJ31 : String := "java/util/ArrayList$Itr"
def TJ31 : u_T := fun k => match k with
  | 0 => ("java/util/ArrayList$Itr", "cursor", "I", false)
  | 1 => ("java/util/ArrayList$Itr", "lastRet", "I", false)
  | 2 => ("java/util/ArrayList$Itr", "expectedModCount", "I", false)
  | _ => ("java/util/ArrayList$Itr", "this$0", "Ljava/util/ArrayList;", true)
def tyJ31 : Nat → FieldType := fun k => match k with
  | 0 => .int
  | 1 => .int
  | 2 => .int
  | _ => .object "java/util/ArrayList"
abbrev wsJ310 : List Cond := u_ws RJ31 TJ31 4
theorem nmJ31 : ∀ a, a < 4 → ∀ b, b < 4 → a ≠ b → (TJ31 a).2.1 ≠ (TJ31 b).2.1 := by decide +kernel
theorem tyJ31_ok : ∀ k, k < 4 → parseFieldDescriptor (TJ31 k).2.2.1 = some (tyJ31 k) := by decide +kernel
abbrev cJ31_init : ByteArray := prog_45_method_1_code
def yJ31_init : MethodName := ⟨RJ31, "<init>", "(Ljava/util/ArrayList;)V"⟩
def dkwJ31_init_1 : List UInt8 := [181, 0, 22, 177]
abbrev dktJ31_init_1 : List UInt8 := dkwJ31_init_1 ++ []
def dkwJ31_init_0 : List UInt8 := [42, 43, 181, 0, 1, 42, 183, 0, 7, 42, 2, 181, 0, 13, 42, 42, 180, 0, 1, 180, 0, 17]
abbrev dktJ31_init_0 : List UInt8 := dkwJ31_init_0 ++ dktJ31_init_1
theorem dksJ31_init_0 : cJ31_init.data.toList.drop 0 = dktJ31_init_0 := by decide +kernel
theorem dksJ31_init_1 : cJ31_init.data.toList.drop 22 = dktJ31_init_1 := dk_seg dksJ31_init_0 22 rfl rfl
theorem dJ31_init_0 : decode cJ31_init 0 = .ok (.aload_n 0, 1) := dk_42 (dk_at dksJ31_init_0 0 rfl rfl)
theorem dJ31_init_1 : decode cJ31_init 1 = .ok (.aload_n 1, 1) := dk_43 (dk_at dksJ31_init_0 1 rfl rfl)
theorem dJ31_init_2 : decode cJ31_init 2 = .ok (.putfield 1, 3) := dk_181 0 1 (dk_at dksJ31_init_0 2 rfl rfl)
theorem dJ31_init_5 : decode cJ31_init 5 = .ok (.aload_n 0, 1) := dk_42 (dk_at dksJ31_init_0 5 rfl rfl)
theorem dJ31_init_6 : decode cJ31_init 6 = .ok (.invokespecial 7, 3) := dk_183 0 7 (dk_at dksJ31_init_0 6 rfl rfl)
theorem dJ31_init_9 : decode cJ31_init 9 = .ok (.aload_n 0, 1) := dk_42 (dk_at dksJ31_init_0 9 rfl rfl)
theorem dJ31_init_10 : decode cJ31_init 10 = .ok (.iconst (-1), 1) := dk_2 (dk_at dksJ31_init_0 10 rfl rfl)
theorem dJ31_init_11 : decode cJ31_init 11 = .ok (.putfield 13, 3) := dk_181 0 13 (dk_at dksJ31_init_0 11 rfl rfl)
theorem dJ31_init_14 : decode cJ31_init 14 = .ok (.aload_n 0, 1) := dk_42 (dk_at dksJ31_init_0 14 rfl rfl)
theorem dJ31_init_15 : decode cJ31_init 15 = .ok (.aload_n 0, 1) := dk_42 (dk_at dksJ31_init_0 15 rfl rfl)
theorem dJ31_init_16 : decode cJ31_init 16 = .ok (.getfield 1, 3) := dk_180 0 1 (dk_at dksJ31_init_0 16 rfl rfl)
theorem dJ31_init_19 : decode cJ31_init 19 = .ok (.getfield 17, 3) := dk_180 0 17 (dk_at dksJ31_init_0 19 rfl rfl)
theorem dJ31_init_22 : decode cJ31_init 22 = .ok (.putfield 22, 3) := dk_181 0 22 (dk_at dksJ31_init_1 0 rfl rfl)
theorem dJ31_init_25 : decode cJ31_init 25 = .ok (.return_, 1) := dk_177 (dk_at dksJ31_init_1 3 rfl rfl)
abbrev cJ31_hasNext : ByteArray := prog_45_method_2_code
def yJ31_hasNext : MethodName := ⟨RJ31, "hasNext", "()Z"⟩
def dkwJ31_hasNext_0 : List UInt8 := [42, 180, 0, 25, 42, 180, 0, 1, 180, 0, 28, 159, 0, 7, 4, 167, 0, 4, 3, 172]
abbrev dktJ31_hasNext_0 : List UInt8 := dkwJ31_hasNext_0 ++ []
theorem dksJ31_hasNext_0 : cJ31_hasNext.data.toList.drop 0 = dktJ31_hasNext_0 := by decide +kernel
theorem dJ31_hasNext_0 : decode cJ31_hasNext 0 = .ok (.aload_n 0, 1) := dk_42 (dk_at dksJ31_hasNext_0 0 rfl rfl)
theorem dJ31_hasNext_1 : decode cJ31_hasNext 1 = .ok (.getfield 25, 3) := dk_180 0 25 (dk_at dksJ31_hasNext_0 1 rfl rfl)
theorem dJ31_hasNext_4 : decode cJ31_hasNext 4 = .ok (.aload_n 0, 1) := dk_42 (dk_at dksJ31_hasNext_0 4 rfl rfl)
theorem dJ31_hasNext_5 : decode cJ31_hasNext 5 = .ok (.getfield 1, 3) := dk_180 0 1 (dk_at dksJ31_hasNext_0 5 rfl rfl)
theorem dJ31_hasNext_8 : decode cJ31_hasNext 8 = .ok (.getfield 28, 3) := dk_180 0 28 (dk_at dksJ31_hasNext_0 8 rfl rfl)
theorem dJ31_hasNext_11 : decode cJ31_hasNext 11 = .ok (.if_icmp .eq 7, 3) := dk_159 0 7 (dk_at dksJ31_hasNext_0 11 rfl rfl)
theorem dJ31_hasNext_14 : decode cJ31_hasNext 14 = .ok (.iconst 1, 1) := dk_4 (dk_at dksJ31_hasNext_0 14 rfl rfl)
theorem dJ31_hasNext_15 : decode cJ31_hasNext 15 = .ok (.goto 4, 3) := dk_167 0 4 (dk_at dksJ31_hasNext_0 15 rfl rfl)
theorem dJ31_hasNext_18 : decode cJ31_hasNext 18 = .ok (.iconst 0, 1) := dk_3 (dk_at dksJ31_hasNext_0 18 rfl rfl)
theorem dJ31_hasNext_19 : decode cJ31_hasNext 19 = .ok (.ireturn, 1) := dk_172 (dk_at dksJ31_hasNext_0 19 rfl rfl)
abbrev cJ31_next : ByteArray := prog_45_method_3_code
def yJ31_next : MethodName := ⟨RJ31, "next", "()Ljava/lang/Object;"⟩
def dkwJ31_next_2 : List UInt8 := [183, 0, 43, 191, 42, 27, 4, 96, 181, 0, 25, 44, 42, 27, 90, 181, 0, 13, 50, 176]
abbrev dktJ31_next_2 : List UInt8 := dkwJ31_next_2 ++ []
def dkwJ31_next_1 : List UInt8 := [183, 0, 36, 191, 42, 180, 0, 1, 180, 0, 37, 77, 27, 44, 190, 161, 0, 11, 187, 0, 41, 89]
abbrev dktJ31_next_1 : List UInt8 := dkwJ31_next_1 ++ dktJ31_next_2
def dkwJ31_next_0 : List UInt8 := [42, 182, 0, 31, 42, 180, 0, 25, 60, 27, 42, 180, 0, 1, 180, 0, 28, 161, 0, 11, 187, 0, 34, 89]
abbrev dktJ31_next_0 : List UInt8 := dkwJ31_next_0 ++ dktJ31_next_1
theorem dksJ31_next_0 : cJ31_next.data.toList.drop 0 = dktJ31_next_0 := by decide +kernel
theorem dksJ31_next_1 : cJ31_next.data.toList.drop 24 = dktJ31_next_1 := dk_seg dksJ31_next_0 24 rfl rfl
theorem dksJ31_next_2 : cJ31_next.data.toList.drop 46 = dktJ31_next_2 := dk_seg dksJ31_next_1 22 rfl rfl
theorem dJ31_next_0 : decode cJ31_next 0 = .ok (.aload_n 0, 1) := dk_42 (dk_at dksJ31_next_0 0 rfl rfl)
theorem dJ31_next_1 : decode cJ31_next 1 = .ok (.invokevirtual 31, 3) := dk_182 0 31 (dk_at dksJ31_next_0 1 rfl rfl)
theorem dJ31_next_4 : decode cJ31_next 4 = .ok (.aload_n 0, 1) := dk_42 (dk_at dksJ31_next_0 4 rfl rfl)
theorem dJ31_next_5 : decode cJ31_next 5 = .ok (.getfield 25, 3) := dk_180 0 25 (dk_at dksJ31_next_0 5 rfl rfl)
theorem dJ31_next_8 : decode cJ31_next 8 = .ok (.istore_n 1, 1) := dk_60 (dk_at dksJ31_next_0 8 rfl rfl)
theorem dJ31_next_9 : decode cJ31_next 9 = .ok (.iload_n 1, 1) := dk_27 (dk_at dksJ31_next_0 9 rfl rfl)
theorem dJ31_next_10 : decode cJ31_next 10 = .ok (.aload_n 0, 1) := dk_42 (dk_at dksJ31_next_0 10 rfl rfl)
theorem dJ31_next_11 : decode cJ31_next 11 = .ok (.getfield 1, 3) := dk_180 0 1 (dk_at dksJ31_next_0 11 rfl rfl)
theorem dJ31_next_14 : decode cJ31_next 14 = .ok (.getfield 28, 3) := dk_180 0 28 (dk_at dksJ31_next_0 14 rfl rfl)
theorem dJ31_next_17 : decode cJ31_next 17 = .ok (.if_icmp .lt 11, 3) := dk_161 0 11 (dk_at dksJ31_next_0 17 rfl rfl)
theorem dJ31_next_20 : decode cJ31_next 20 = .ok (.new 34, 3) := dk_187 0 34 (dk_at dksJ31_next_0 20 rfl rfl)
theorem dJ31_next_23 : decode cJ31_next 23 = .ok (.dup, 1) := dk_89 (dk_at dksJ31_next_0 23 rfl rfl)
theorem dJ31_next_24 : decode cJ31_next 24 = .ok (.invokespecial 36, 3) := dk_183 0 36 (dk_at dksJ31_next_1 0 rfl rfl)
theorem dJ31_next_27 : decode cJ31_next 27 = .ok (.athrow, 1) := dk_191 (dk_at dksJ31_next_1 3 rfl rfl)
theorem dJ31_next_28 : decode cJ31_next 28 = .ok (.aload_n 0, 1) := dk_42 (dk_at dksJ31_next_1 4 rfl rfl)
theorem dJ31_next_29 : decode cJ31_next 29 = .ok (.getfield 1, 3) := dk_180 0 1 (dk_at dksJ31_next_1 5 rfl rfl)
theorem dJ31_next_32 : decode cJ31_next 32 = .ok (.getfield 37, 3) := dk_180 0 37 (dk_at dksJ31_next_1 8 rfl rfl)
theorem dJ31_next_35 : decode cJ31_next 35 = .ok (.astore_n 2, 1) := dk_77 (dk_at dksJ31_next_1 11 rfl rfl)
theorem dJ31_next_36 : decode cJ31_next 36 = .ok (.iload_n 1, 1) := dk_27 (dk_at dksJ31_next_1 12 rfl rfl)
theorem dJ31_next_37 : decode cJ31_next 37 = .ok (.aload_n 2, 1) := dk_44 (dk_at dksJ31_next_1 13 rfl rfl)
theorem dJ31_next_38 : decode cJ31_next 38 = .ok (.arraylength, 1) := dk_190 (dk_at dksJ31_next_1 14 rfl rfl)
theorem dJ31_next_39 : decode cJ31_next 39 = .ok (.if_icmp .lt 11, 3) := dk_161 0 11 (dk_at dksJ31_next_1 15 rfl rfl)
theorem dJ31_next_42 : decode cJ31_next 42 = .ok (.new 41, 3) := dk_187 0 41 (dk_at dksJ31_next_1 18 rfl rfl)
theorem dJ31_next_45 : decode cJ31_next 45 = .ok (.dup, 1) := dk_89 (dk_at dksJ31_next_1 21 rfl rfl)
theorem dJ31_next_46 : decode cJ31_next 46 = .ok (.invokespecial 43, 3) := dk_183 0 43 (dk_at dksJ31_next_2 0 rfl rfl)
theorem dJ31_next_49 : decode cJ31_next 49 = .ok (.athrow, 1) := dk_191 (dk_at dksJ31_next_2 3 rfl rfl)
theorem dJ31_next_50 : decode cJ31_next 50 = .ok (.aload_n 0, 1) := dk_42 (dk_at dksJ31_next_2 4 rfl rfl)
theorem dJ31_next_51 : decode cJ31_next 51 = .ok (.iload_n 1, 1) := dk_27 (dk_at dksJ31_next_2 5 rfl rfl)
theorem dJ31_next_52 : decode cJ31_next 52 = .ok (.iconst 1, 1) := dk_4 (dk_at dksJ31_next_2 6 rfl rfl)
theorem dJ31_next_53 : decode cJ31_next 53 = .ok (.iadd, 1) := dk_96 (dk_at dksJ31_next_2 7 rfl rfl)
theorem dJ31_next_54 : decode cJ31_next 54 = .ok (.putfield 25, 3) := dk_181 0 25 (dk_at dksJ31_next_2 8 rfl rfl)
theorem dJ31_next_57 : decode cJ31_next 57 = .ok (.aload_n 2, 1) := dk_44 (dk_at dksJ31_next_2 11 rfl rfl)
theorem dJ31_next_58 : decode cJ31_next 58 = .ok (.aload_n 0, 1) := dk_42 (dk_at dksJ31_next_2 12 rfl rfl)
theorem dJ31_next_59 : decode cJ31_next 59 = .ok (.iload_n 1, 1) := dk_27 (dk_at dksJ31_next_2 13 rfl rfl)
theorem dJ31_next_60 : decode cJ31_next 60 = .ok (.dup_x1, 1) := dk_90 (dk_at dksJ31_next_2 14 rfl rfl)
theorem dJ31_next_61 : decode cJ31_next 61 = .ok (.putfield 13, 3) := dk_181 0 13 (dk_at dksJ31_next_2 15 rfl rfl)
theorem dJ31_next_64 : decode cJ31_next 64 = .ok (.aaload, 1) := dk_50 (dk_at dksJ31_next_2 18 rfl rfl)
theorem dJ31_next_65 : decode cJ31_next 65 = .ok (.areturn, 1) := dk_176 (dk_at dksJ31_next_2 19 rfl rfl)
abbrev cJ31_checkForComodification : ByteArray := prog_45_method_6_code
def yJ31_checkForComodification : MethodName := ⟨RJ31, "checkForComodification", "()V"⟩
def dkwJ31_checkForComodification_0 : List UInt8 := [42, 180, 0, 1, 180, 0, 17, 42, 180, 0, 22, 159, 0, 11, 187, 0, 41, 89, 183, 0, 43, 191, 177]
abbrev dktJ31_checkForComodification_0 : List UInt8 := dkwJ31_checkForComodification_0 ++ []
theorem dksJ31_checkForComodification_0 : cJ31_checkForComodification.data.toList.drop 0 = dktJ31_checkForComodification_0 := by decide +kernel
theorem dJ31_checkForComodification_0 : decode cJ31_checkForComodification 0 = .ok (.aload_n 0, 1) := dk_42 (dk_at dksJ31_checkForComodification_0 0 rfl rfl)
theorem dJ31_checkForComodification_1 : decode cJ31_checkForComodification 1 = .ok (.getfield 1, 3) := dk_180 0 1 (dk_at dksJ31_checkForComodification_0 1 rfl rfl)
theorem dJ31_checkForComodification_4 : decode cJ31_checkForComodification 4 = .ok (.getfield 17, 3) := dk_180 0 17 (dk_at dksJ31_checkForComodification_0 4 rfl rfl)
theorem dJ31_checkForComodification_7 : decode cJ31_checkForComodification 7 = .ok (.aload_n 0, 1) := dk_42 (dk_at dksJ31_checkForComodification_0 7 rfl rfl)
theorem dJ31_checkForComodification_8 : decode cJ31_checkForComodification 8 = .ok (.getfield 22, 3) := dk_180 0 22 (dk_at dksJ31_checkForComodification_0 8 rfl rfl)
theorem dJ31_checkForComodification_11 : decode cJ31_checkForComodification 11 = .ok (.if_icmp .eq 11, 3) := dk_159 0 11 (dk_at dksJ31_checkForComodification_0 11 rfl rfl)
theorem dJ31_checkForComodification_14 : decode cJ31_checkForComodification 14 = .ok (.new 41, 3) := dk_187 0 41 (dk_at dksJ31_checkForComodification_0 14 rfl rfl)
theorem dJ31_checkForComodification_17 : decode cJ31_checkForComodification 17 = .ok (.dup, 1) := dk_89 (dk_at dksJ31_checkForComodification_0 17 rfl rfl)
theorem dJ31_checkForComodification_18 : decode cJ31_checkForComodification 18 = .ok (.invokespecial 43, 3) := dk_183 0 43 (dk_at dksJ31_checkForComodification_0 18 rfl rfl)
theorem dJ31_checkForComodification_21 : decode cJ31_checkForComodification 21 = .ok (.athrow, 1) := dk_191 (dk_at dksJ31_checkForComodification_0 21 rfl rfl)
theorem dJ31_checkForComodification_22 : decode cJ31_checkForComodification 22 = .ok (.return_, 1) := dk_177 (dk_at dksJ31_checkForComodification_0 22 rfl rfl)
theorem q86 : (Jvm.Cond.initialized "java/util/ArrayList$Itr") ∈ lw_all := lw_g (lw_at lw_m1 40 rfl) rfl
theorem q149 : (Jvm.Cond.fieldLink "java/util/ArrayList$Itr" (37 : Nat) "java/util/ArrayList" "elementData" "[Ljava/lang/Object;") ∈ lw_all := lw_g (lw_at lw_m1 103 rfl) rfl
theorem q150 : (Jvm.Cond.fieldLinkNest "java/util/ArrayList$Itr" (28 : Nat) "java/util/ArrayList" "size" "I" "java/util/ArrayList") ∈ lw_tbl := lw_at lw_m1 104 rfl
theorem q153 : (Jvm.Cond.fieldLink "java/util/ArrayList$Itr" (17 : Nat) "java/util/ArrayList" "modCount" "I") ∈ lw_all := lw_g (lw_at lw_m1 107 rfl) rfl
theorem q997 : (Jvm.Cond.selects "java/util/ArrayList$Itr" ({ cls := "java/lang/Object", name := "getClass", desc := "()Ljava/lang/Class;" } : Jvm.MethodName) ({ cls := "java/lang/Object", name := "getClass", desc := "()Ljava/lang/Class;" } : Jvm.MethodName)) ∈ lw_all := lw_g (lw_at lw_m4 231 rfl) rfl
theorem q1018 : (Jvm.Cond.instantiable "java/util/ArrayList$Itr" (4 : Nat)) ∈ lw_all := lw_g (lw_at lw_m5 12 rfl) rfl
theorem q1020 : (Jvm.Cond.instanceMethod ({ cls := "java/util/ArrayList$Itr", name := "<init>", desc := "(Ljava/util/ArrayList;)V" } : Jvm.MethodName)) ∈ lw_all := lw_g (lw_at lw_m5 14 rfl) rfl
theorem q1021 : (Jvm.Cond.code ({ cls := "java/util/ArrayList$Itr", name := "<init>", desc := "(Ljava/util/ArrayList;)V" } : Jvm.MethodName) prog_45_method_1_code (2 : Nat) (Option.none : Option Jvm.ClassFile.FieldType)) ∈ lw_all := lw_g (lw_at lw_m5 15 rfl) rfl
theorem q1022 : (Jvm.Cond.methodLink "java/util/ArrayList$Itr" (7 : Nat) ({ cls := "java/lang/Object", name := "<init>", desc := "()V" } : Jvm.MethodName)) ∈ lw_all := lw_g (lw_at lw_m5 16 rfl) rfl
theorem q1023 : (Jvm.Cond.fieldLink "java/util/ArrayList$Itr" (25 : Nat) "java/util/ArrayList$Itr" "cursor" "I") ∈ lw_all := lw_g (lw_at lw_m5 17 rfl) rfl
theorem q1024 : (Jvm.Cond.fieldLink "java/util/ArrayList$Itr" (13 : Nat) "java/util/ArrayList$Itr" "lastRet" "I") ∈ lw_all := lw_g (lw_at lw_m5 18 rfl) rfl
theorem q1025 : (Jvm.Cond.fieldLink "java/util/ArrayList$Itr" (22 : Nat) "java/util/ArrayList$Itr" "expectedModCount" "I") ∈ lw_all := lw_g (lw_at lw_m5 19 rfl) rfl
theorem q1026 : (Jvm.Cond.fieldLink "java/util/ArrayList$Itr" (1 : Nat) "java/util/ArrayList$Itr" "this$0" "Ljava/util/ArrayList;") ∈ lw_all := lw_g (lw_at lw_m5 20 rfl) rfl
theorem q1027 : (Jvm.Cond.lays "java/util/ArrayList$Itr" "java/util/ArrayList$Itr" "cursor" "I") ∈ lw_all := lw_g (lw_at lw_m5 21 rfl) rfl
theorem q1028 : (Jvm.Cond.soleField "java/util/ArrayList$Itr" "cursor") ∈ lw_all := lw_g (lw_at lw_m5 22 rfl) rfl
theorem q1029 : (Jvm.Cond.lays "java/util/ArrayList$Itr" "java/util/ArrayList$Itr" "lastRet" "I") ∈ lw_all := lw_g (lw_at lw_m5 23 rfl) rfl
theorem q1030 : (Jvm.Cond.soleField "java/util/ArrayList$Itr" "lastRet") ∈ lw_all := lw_g (lw_at lw_m5 24 rfl) rfl
theorem q1031 : (Jvm.Cond.lays "java/util/ArrayList$Itr" "java/util/ArrayList$Itr" "expectedModCount" "I") ∈ lw_all := lw_g (lw_at lw_m5 25 rfl) rfl
theorem q1032 : (Jvm.Cond.soleField "java/util/ArrayList$Itr" "expectedModCount") ∈ lw_all := lw_g (lw_at lw_m5 26 rfl) rfl
theorem q1033 : (Jvm.Cond.laysFinal "java/util/ArrayList$Itr" "java/util/ArrayList$Itr" "this$0" "Ljava/util/ArrayList;") ∈ lw_all := lw_g (lw_at lw_m5 27 rfl) rfl
theorem q1034 : (Jvm.Cond.soleField "java/util/ArrayList$Itr" "this$0") ∈ lw_all := lw_g (lw_at lw_m5 28 rfl) rfl
theorem q1035 : (Jvm.Cond.superclass "java/util/ArrayList$Itr" "java/lang/Object") ∈ lw_all := lw_g (lw_at lw_m5 29 rfl) rfl
theorem q1040 : (Jvm.Cond.castable "java/util/ArrayList$Itr" "java/util/Iterator") ∈ lw_tbl := lw_at lw_m5 34 rfl
theorem q1041 : (Jvm.Cond.selects "java/util/ArrayList$Itr" ({ cls := "java/util/Iterator", name := "hasNext", desc := "()Z" } : Jvm.MethodName) ({ cls := "java/util/ArrayList$Itr", name := "hasNext", desc := "()Z" } : Jvm.MethodName)) ∈ lw_all := lw_g (lw_at lw_m5 35 rfl) rfl
theorem q1042 : (Jvm.Cond.unhidden "java/util/ArrayList$Itr" "hasNext" "()Z") ∈ lw_tbl := lw_at lw_m5 36 rfl
theorem q1043 : (Jvm.Cond.instanceMethod ({ cls := "java/util/ArrayList$Itr", name := "hasNext", desc := "()Z" } : Jvm.MethodName)) ∈ lw_all := lw_g (lw_at lw_m5 37 rfl) rfl
theorem q1044 : (Jvm.Cond.publicMethod ({ cls := "java/util/ArrayList$Itr", name := "hasNext", desc := "()Z" } : Jvm.MethodName)) ∈ lw_tbl := lw_at lw_m5 38 rfl
theorem q1045 : (Jvm.Cond.code ({ cls := "java/util/ArrayList$Itr", name := "hasNext", desc := "()Z" } : Jvm.MethodName) prog_45_method_2_code (1 : Nat) (Option.some Jvm.ClassFile.FieldType.boolean)) ∈ lw_all := lw_g (lw_at lw_m5 39 rfl) rfl
theorem q1056 : (Jvm.Cond.selects "java/util/ArrayList$Itr" ({ cls := "java/util/Iterator", name := "next", desc := "()Ljava/lang/Object;" } : Jvm.MethodName) ({ cls := "java/util/ArrayList$Itr", name := "next", desc := "()Ljava/lang/Object;" } : Jvm.MethodName)) ∈ lw_all := lw_g (lw_at lw_m5 50 rfl) rfl
theorem q1057 : (Jvm.Cond.unhidden "java/util/ArrayList$Itr" "next" "()Ljava/lang/Object;") ∈ lw_tbl := lw_at lw_m5 51 rfl
theorem q1058 : (Jvm.Cond.instanceMethod ({ cls := "java/util/ArrayList$Itr", name := "next", desc := "()Ljava/lang/Object;" } : Jvm.MethodName)) ∈ lw_all := lw_g (lw_at lw_m5 52 rfl) rfl
theorem q1059 : (Jvm.Cond.publicMethod ({ cls := "java/util/ArrayList$Itr", name := "next", desc := "()Ljava/lang/Object;" } : Jvm.MethodName)) ∈ lw_tbl := lw_at lw_m5 53 rfl
theorem q1060 : (Jvm.Cond.code ({ cls := "java/util/ArrayList$Itr", name := "next", desc := "()Ljava/lang/Object;" } : Jvm.MethodName) prog_45_method_3_code (3 : Nat) (Option.some (Jvm.ClassFile.FieldType.object "java/lang/Object"))) ∈ lw_all := lw_g (lw_at lw_m5 54 rfl) rfl
theorem q1061 : (Jvm.Cond.methodLink "java/util/ArrayList$Itr" (31 : Nat) ({ cls := "java/util/ArrayList$Itr", name := "checkForComodification", desc := "()V" } : Jvm.MethodName)) ∈ lw_all := lw_g (lw_at lw_m5 55 rfl) rfl
theorem q1062 : (Jvm.Cond.instanceMethod ({ cls := "java/util/ArrayList$Itr", name := "checkForComodification", desc := "()V" } : Jvm.MethodName)) ∈ lw_all := lw_g (lw_at lw_m5 56 rfl) rfl
theorem q1063 : (Jvm.Cond.selects "java/util/ArrayList$Itr" ({ cls := "java/util/ArrayList$Itr", name := "checkForComodification", desc := "()V" } : Jvm.MethodName) ({ cls := "java/util/ArrayList$Itr", name := "checkForComodification", desc := "()V" } : Jvm.MethodName)) ∈ lw_all := lw_g (lw_at lw_m5 57 rfl) rfl
theorem q1064 : (Jvm.Cond.code ({ cls := "java/util/ArrayList$Itr", name := "checkForComodification", desc := "()V" } : Jvm.MethodName) prog_45_method_6_code (1 : Nat) (Option.none : Option Jvm.ClassFile.FieldType)) ∈ lw_all := lw_g (lw_at lw_m5 58 rfl) rfl
theorem q2386 : (Jvm.Cond.castable "java/util/ArrayList$Itr" "java/lang/Object") ∈ lw_tbl := lw_at lw_m10 180 rfl
theorem in_J31 : ∀ w ∈ wsJ310, w ∈ lw_all := lw_in wsJ310 [1027, 1029, 1031, 1033] (by decide +kernel) (by decide +kernel)

/-! java/util/TreeMap$PrivateEntryIterator -/
set_option maxRecDepth 100000
def RJ32 : String := "java/util/TreeMap$PrivateEntryIterator"
abbrev cJ32_hasNext : ByteArray := prog_68_method_2_code
def yJ32_hasNext : MethodName := ⟨RJ32, "hasNext", "()Z"⟩
def dkwJ32_hasNext_0 : List UInt8 := [42, 180, 0, 26, 198, 0, 7, 4, 167, 0, 4, 3, 172]
abbrev dktJ32_hasNext_0 : List UInt8 := dkwJ32_hasNext_0 ++ []
theorem dksJ32_hasNext_0 : cJ32_hasNext.data.toList.drop 0 = dktJ32_hasNext_0 := by decide +kernel
theorem dJ32_hasNext_0 : decode cJ32_hasNext 0 = .ok (.aload_n 0, 1) := dk_42 (dk_at dksJ32_hasNext_0 0 rfl rfl)
theorem dJ32_hasNext_1 : decode cJ32_hasNext 1 = .ok (.getfield 26, 3) := dk_180 0 26 (dk_at dksJ32_hasNext_0 1 rfl rfl)
theorem dJ32_hasNext_4 : decode cJ32_hasNext 4 = .ok (.ifnull 7, 3) := dk_198 0 7 (dk_at dksJ32_hasNext_0 4 rfl rfl)
theorem dJ32_hasNext_7 : decode cJ32_hasNext 7 = .ok (.iconst 1, 1) := dk_4 (dk_at dksJ32_hasNext_0 7 rfl rfl)
theorem dJ32_hasNext_8 : decode cJ32_hasNext 8 = .ok (.goto 4, 3) := dk_167 0 4 (dk_at dksJ32_hasNext_0 8 rfl rfl)
theorem dJ32_hasNext_11 : decode cJ32_hasNext 11 = .ok (.iconst 0, 1) := dk_3 (dk_at dksJ32_hasNext_0 11 rfl rfl)
theorem dJ32_hasNext_12 : decode cJ32_hasNext 12 = .ok (.ireturn, 1) := dk_172 (dk_at dksJ32_hasNext_0 12 rfl rfl)
abbrev cJ32_nextEntry : ByteArray := prog_68_method_3_code
def yJ32_nextEntry : MethodName := ⟨RJ32, "nextEntry", "()Ljava/util/TreeMap$Entry;"⟩
def dkwJ32_nextEntry_2 : List UInt8 := [43, 181, 0, 22, 43, 176]
abbrev dktJ32_nextEntry_2 : List UInt8 := dkwJ32_nextEntry_2 ++ []
def dkwJ32_nextEntry_1 : List UInt8 := [42, 180, 0, 19, 159, 0, 11, 187, 0, 32, 89, 183, 0, 34, 191, 42, 43, 184, 0, 35, 181, 0, 26, 42]
abbrev dktJ32_nextEntry_1 : List UInt8 := dkwJ32_nextEntry_1 ++ dktJ32_nextEntry_2
def dkwJ32_nextEntry_0 : List UInt8 := [42, 180, 0, 26, 76, 43, 199, 0, 11, 187, 0, 29, 89, 183, 0, 31, 191, 42, 180, 0, 1, 180, 0, 13]
abbrev dktJ32_nextEntry_0 : List UInt8 := dkwJ32_nextEntry_0 ++ dktJ32_nextEntry_1
theorem dksJ32_nextEntry_0 : cJ32_nextEntry.data.toList.drop 0 = dktJ32_nextEntry_0 := by decide +kernel
theorem dksJ32_nextEntry_1 : cJ32_nextEntry.data.toList.drop 24 = dktJ32_nextEntry_1 := dk_seg dksJ32_nextEntry_0 24 rfl rfl
theorem dksJ32_nextEntry_2 : cJ32_nextEntry.data.toList.drop 48 = dktJ32_nextEntry_2 := dk_seg dksJ32_nextEntry_1 24 rfl rfl
theorem dJ32_nextEntry_0 : decode cJ32_nextEntry 0 = .ok (.aload_n 0, 1) := dk_42 (dk_at dksJ32_nextEntry_0 0 rfl rfl)
theorem dJ32_nextEntry_1 : decode cJ32_nextEntry 1 = .ok (.getfield 26, 3) := dk_180 0 26 (dk_at dksJ32_nextEntry_0 1 rfl rfl)
theorem dJ32_nextEntry_4 : decode cJ32_nextEntry 4 = .ok (.astore_n 1, 1) := dk_76 (dk_at dksJ32_nextEntry_0 4 rfl rfl)
theorem dJ32_nextEntry_5 : decode cJ32_nextEntry 5 = .ok (.aload_n 1, 1) := dk_43 (dk_at dksJ32_nextEntry_0 5 rfl rfl)
theorem dJ32_nextEntry_6 : decode cJ32_nextEntry 6 = .ok (.ifnonnull 11, 3) := dk_199 0 11 (dk_at dksJ32_nextEntry_0 6 rfl rfl)
theorem dJ32_nextEntry_9 : decode cJ32_nextEntry 9 = .ok (.new 29, 3) := dk_187 0 29 (dk_at dksJ32_nextEntry_0 9 rfl rfl)
theorem dJ32_nextEntry_12 : decode cJ32_nextEntry 12 = .ok (.dup, 1) := dk_89 (dk_at dksJ32_nextEntry_0 12 rfl rfl)
theorem dJ32_nextEntry_13 : decode cJ32_nextEntry 13 = .ok (.invokespecial 31, 3) := dk_183 0 31 (dk_at dksJ32_nextEntry_0 13 rfl rfl)
theorem dJ32_nextEntry_16 : decode cJ32_nextEntry 16 = .ok (.athrow, 1) := dk_191 (dk_at dksJ32_nextEntry_0 16 rfl rfl)
theorem dJ32_nextEntry_17 : decode cJ32_nextEntry 17 = .ok (.aload_n 0, 1) := dk_42 (dk_at dksJ32_nextEntry_0 17 rfl rfl)
theorem dJ32_nextEntry_18 : decode cJ32_nextEntry 18 = .ok (.getfield 1, 3) := dk_180 0 1 (dk_at dksJ32_nextEntry_0 18 rfl rfl)
theorem dJ32_nextEntry_21 : decode cJ32_nextEntry 21 = .ok (.getfield 13, 3) := dk_180 0 13 (dk_at dksJ32_nextEntry_0 21 rfl rfl)
theorem dJ32_nextEntry_24 : decode cJ32_nextEntry 24 = .ok (.aload_n 0, 1) := dk_42 (dk_at dksJ32_nextEntry_1 0 rfl rfl)
theorem dJ32_nextEntry_25 : decode cJ32_nextEntry 25 = .ok (.getfield 19, 3) := dk_180 0 19 (dk_at dksJ32_nextEntry_1 1 rfl rfl)
theorem dJ32_nextEntry_28 : decode cJ32_nextEntry 28 = .ok (.if_icmp .eq 11, 3) := dk_159 0 11 (dk_at dksJ32_nextEntry_1 4 rfl rfl)
theorem dJ32_nextEntry_31 : decode cJ32_nextEntry 31 = .ok (.new 32, 3) := dk_187 0 32 (dk_at dksJ32_nextEntry_1 7 rfl rfl)
theorem dJ32_nextEntry_34 : decode cJ32_nextEntry 34 = .ok (.dup, 1) := dk_89 (dk_at dksJ32_nextEntry_1 10 rfl rfl)
theorem dJ32_nextEntry_35 : decode cJ32_nextEntry 35 = .ok (.invokespecial 34, 3) := dk_183 0 34 (dk_at dksJ32_nextEntry_1 11 rfl rfl)
theorem dJ32_nextEntry_38 : decode cJ32_nextEntry 38 = .ok (.athrow, 1) := dk_191 (dk_at dksJ32_nextEntry_1 14 rfl rfl)
theorem dJ32_nextEntry_39 : decode cJ32_nextEntry 39 = .ok (.aload_n 0, 1) := dk_42 (dk_at dksJ32_nextEntry_1 15 rfl rfl)
theorem dJ32_nextEntry_40 : decode cJ32_nextEntry 40 = .ok (.aload_n 1, 1) := dk_43 (dk_at dksJ32_nextEntry_1 16 rfl rfl)
theorem dJ32_nextEntry_41 : decode cJ32_nextEntry 41 = .ok (.invokestatic 35, 3) := dk_184 0 35 (dk_at dksJ32_nextEntry_1 17 rfl rfl)
theorem dJ32_nextEntry_44 : decode cJ32_nextEntry 44 = .ok (.putfield 26, 3) := dk_181 0 26 (dk_at dksJ32_nextEntry_1 20 rfl rfl)
theorem dJ32_nextEntry_47 : decode cJ32_nextEntry 47 = .ok (.aload_n 0, 1) := dk_42 (dk_at dksJ32_nextEntry_1 23 rfl rfl)
theorem dJ32_nextEntry_48 : decode cJ32_nextEntry 48 = .ok (.aload_n 1, 1) := dk_43 (dk_at dksJ32_nextEntry_2 0 rfl rfl)
theorem dJ32_nextEntry_49 : decode cJ32_nextEntry 49 = .ok (.putfield 22, 3) := dk_181 0 22 (dk_at dksJ32_nextEntry_2 1 rfl rfl)
theorem dJ32_nextEntry_52 : decode cJ32_nextEntry 52 = .ok (.aload_n 1, 1) := dk_43 (dk_at dksJ32_nextEntry_2 4 rfl rfl)
theorem dJ32_nextEntry_53 : decode cJ32_nextEntry 53 = .ok (.areturn, 1) := dk_176 (dk_at dksJ32_nextEntry_2 5 rfl rfl)
abbrev cJ32_init : ByteArray := prog_68_method_1_code
def yJ32_init : MethodName := ⟨RJ32, "<init>", "(Ljava/util/TreeMap;Ljava/util/TreeMap$Entry;)V"⟩
def dkwJ32_init_1 : List UInt8 := [181, 0, 26, 177]
abbrev dktJ32_init_1 : List UInt8 := dkwJ32_init_1 ++ []
def dkwJ32_init_0 : List UInt8 := [42, 43, 181, 0, 1, 42, 183, 0, 7, 42, 43, 180, 0, 13, 181, 0, 19, 42, 1, 181, 0, 22, 42, 44]
abbrev dktJ32_init_0 : List UInt8 := dkwJ32_init_0 ++ dktJ32_init_1
theorem dksJ32_init_0 : cJ32_init.data.toList.drop 0 = dktJ32_init_0 := by decide +kernel
theorem dksJ32_init_1 : cJ32_init.data.toList.drop 24 = dktJ32_init_1 := dk_seg dksJ32_init_0 24 rfl rfl
theorem dJ32_init_0 : decode cJ32_init 0 = .ok (.aload_n 0, 1) := dk_42 (dk_at dksJ32_init_0 0 rfl rfl)
theorem dJ32_init_1 : decode cJ32_init 1 = .ok (.aload_n 1, 1) := dk_43 (dk_at dksJ32_init_0 1 rfl rfl)
theorem dJ32_init_2 : decode cJ32_init 2 = .ok (.putfield 1, 3) := dk_181 0 1 (dk_at dksJ32_init_0 2 rfl rfl)
theorem dJ32_init_5 : decode cJ32_init 5 = .ok (.aload_n 0, 1) := dk_42 (dk_at dksJ32_init_0 5 rfl rfl)
theorem dJ32_init_6 : decode cJ32_init 6 = .ok (.invokespecial 7, 3) := dk_183 0 7 (dk_at dksJ32_init_0 6 rfl rfl)
theorem dJ32_init_9 : decode cJ32_init 9 = .ok (.aload_n 0, 1) := dk_42 (dk_at dksJ32_init_0 9 rfl rfl)
theorem dJ32_init_10 : decode cJ32_init 10 = .ok (.aload_n 1, 1) := dk_43 (dk_at dksJ32_init_0 10 rfl rfl)
theorem dJ32_init_11 : decode cJ32_init 11 = .ok (.getfield 13, 3) := dk_180 0 13 (dk_at dksJ32_init_0 11 rfl rfl)
theorem dJ32_init_14 : decode cJ32_init 14 = .ok (.putfield 19, 3) := dk_181 0 19 (dk_at dksJ32_init_0 14 rfl rfl)
theorem dJ32_init_17 : decode cJ32_init 17 = .ok (.aload_n 0, 1) := dk_42 (dk_at dksJ32_init_0 17 rfl rfl)
theorem dJ32_init_18 : decode cJ32_init 18 = .ok (.aconst_null, 1) := dk_1 (dk_at dksJ32_init_0 18 rfl rfl)
theorem dJ32_init_19 : decode cJ32_init 19 = .ok (.putfield 22, 3) := dk_181 0 22 (dk_at dksJ32_init_0 19 rfl rfl)
theorem dJ32_init_22 : decode cJ32_init 22 = .ok (.aload_n 0, 1) := dk_42 (dk_at dksJ32_init_0 22 rfl rfl)
theorem dJ32_init_23 : decode cJ32_init 23 = .ok (.aload_n 2, 1) := dk_44 (dk_at dksJ32_init_0 23 rfl rfl)
theorem dJ32_init_24 : decode cJ32_init 24 = .ok (.putfield 26, 3) := dk_181 0 26 (dk_at dksJ32_init_1 0 rfl rfl)
theorem dJ32_init_27 : decode cJ32_init 27 = .ok (.return_, 1) := dk_177 (dk_at dksJ32_init_1 3 rfl rfl)
theorem q87 : (Jvm.Cond.initialized "java/util/TreeMap$PrivateEntryIterator") ∈ lw_all := lw_g (lw_at lw_m1 41 rfl) rfl
theorem q394 : (Jvm.Cond.fieldLinkNest "java/util/TreeMap$PrivateEntryIterator" (13 : Nat) "java/util/TreeMap" "modCount" "I" "java/util/TreeMap") ∈ lw_tbl := lw_at lw_m2 108 rfl
theorem q1049 : (Jvm.Cond.instanceMethod ({ cls := "java/util/TreeMap$PrivateEntryIterator", name := "hasNext", desc := "()Z" } : Jvm.MethodName)) ∈ lw_all := lw_g (lw_at lw_m5 43 rfl) rfl
theorem q1050 : (Jvm.Cond.publicMethod ({ cls := "java/util/TreeMap$PrivateEntryIterator", name := "hasNext", desc := "()Z" } : Jvm.MethodName)) ∈ lw_tbl := lw_at lw_m5 44 rfl
theorem q1051 : (Jvm.Cond.code ({ cls := "java/util/TreeMap$PrivateEntryIterator", name := "hasNext", desc := "()Z" } : Jvm.MethodName) prog_68_method_2_code (1 : Nat) (Option.some Jvm.ClassFile.FieldType.boolean)) ∈ lw_all := lw_g (lw_at lw_m5 45 rfl) rfl
theorem q1072 : (Jvm.Cond.declares ({ cls := "java/util/TreeMap$PrivateEntryIterator", name := "nextEntry", desc := "()Ljava/util/TreeMap$Entry;" } : Jvm.MethodName)) ∈ lw_tbl := lw_at lw_m5 66 rfl
theorem q1074 : (Jvm.Cond.instanceMethod ({ cls := "java/util/TreeMap$PrivateEntryIterator", name := "nextEntry", desc := "()Ljava/util/TreeMap$Entry;" } : Jvm.MethodName)) ∈ lw_all := lw_g (lw_at lw_m5 68 rfl) rfl
theorem q1075 : (Jvm.Cond.code ({ cls := "java/util/TreeMap$PrivateEntryIterator", name := "nextEntry", desc := "()Ljava/util/TreeMap$Entry;" } : Jvm.MethodName) prog_68_method_3_code (2 : Nat) (Option.some (Jvm.ClassFile.FieldType.object "java/util/TreeMap$Entry"))) ∈ lw_all := lw_g (lw_at lw_m5 69 rfl) rfl
theorem q1076 : (Jvm.Cond.methodLink "java/util/TreeMap$PrivateEntryIterator" (35 : Nat) ({ cls := "java/util/TreeMap", name := "successor", desc := "(Ljava/util/TreeMap$Entry;)Ljava/util/TreeMap$Entry;" } : Jvm.MethodName)) ∈ lw_all := lw_g (lw_at lw_m5 70 rfl) rfl
theorem q1193 : (Jvm.Cond.instanceMethod ({ cls := "java/util/TreeMap$PrivateEntryIterator", name := "<init>", desc := "(Ljava/util/TreeMap;Ljava/util/TreeMap$Entry;)V" } : Jvm.MethodName)) ∈ lw_all := lw_g (lw_at lw_m5 187 rfl) rfl
theorem q1194 : (Jvm.Cond.code ({ cls := "java/util/TreeMap$PrivateEntryIterator", name := "<init>", desc := "(Ljava/util/TreeMap;Ljava/util/TreeMap$Entry;)V" } : Jvm.MethodName) prog_68_method_1_code (3 : Nat) (Option.none : Option Jvm.ClassFile.FieldType)) ∈ lw_all := lw_g (lw_at lw_m5 188 rfl) rfl
theorem q1195 : (Jvm.Cond.methodLink "java/util/TreeMap$PrivateEntryIterator" (7 : Nat) ({ cls := "java/lang/Object", name := "<init>", desc := "()V" } : Jvm.MethodName)) ∈ lw_all := lw_g (lw_at lw_m5 189 rfl) rfl
theorem q1196 : (Jvm.Cond.fieldLink "java/util/TreeMap$PrivateEntryIterator" (26 : Nat) "java/util/TreeMap$PrivateEntryIterator" "next" "Ljava/util/TreeMap$Entry;") ∈ lw_all := lw_g (lw_at lw_m5 190 rfl) rfl
theorem q1197 : (Jvm.Cond.fieldLink "java/util/TreeMap$PrivateEntryIterator" (22 : Nat) "java/util/TreeMap$PrivateEntryIterator" "lastReturned" "Ljava/util/TreeMap$Entry;") ∈ lw_all := lw_g (lw_at lw_m5 191 rfl) rfl
theorem q1198 : (Jvm.Cond.fieldLink "java/util/TreeMap$PrivateEntryIterator" (19 : Nat) "java/util/TreeMap$PrivateEntryIterator" "expectedModCount" "I") ∈ lw_all := lw_g (lw_at lw_m5 192 rfl) rfl
theorem q1199 : (Jvm.Cond.fieldLink "java/util/TreeMap$PrivateEntryIterator" (1 : Nat) "java/util/TreeMap$PrivateEntryIterator" "this$0" "Ljava/util/TreeMap;") ∈ lw_all := lw_g (lw_at lw_m5 193 rfl) rfl
theorem q1201 : (Jvm.Cond.soleField "java/util/TreeMap$PrivateEntryIterator" "next") ∈ lw_all := lw_g (lw_at lw_m5 195 rfl) rfl
theorem q1203 : (Jvm.Cond.soleField "java/util/TreeMap$PrivateEntryIterator" "lastReturned") ∈ lw_all := lw_g (lw_at lw_m5 197 rfl) rfl
theorem q1205 : (Jvm.Cond.soleField "java/util/TreeMap$PrivateEntryIterator" "expectedModCount") ∈ lw_all := lw_g (lw_at lw_m5 199 rfl) rfl
theorem q1207 : (Jvm.Cond.soleField "java/util/TreeMap$PrivateEntryIterator" "this$0") ∈ lw_all := lw_g (lw_at lw_m5 201 rfl) rfl

/-! java/util/TreeMap$KeyIterator -/
set_option maxRecDepth 100000
def RJ33 : String := "java/util/TreeMap$KeyIterator"
def TJ33 : u_T := fun k => match k with
  | 0 => ("java/util/TreeMap$PrivateEntryIterator", "next", "Ljava/util/TreeMap$Entry;", false)
  | 1 => ("java/util/TreeMap$PrivateEntryIterator", "lastReturned", "Ljava/util/TreeMap$Entry;", false)
  | 2 => ("java/util/TreeMap$PrivateEntryIterator", "expectedModCount", "I", false)
  | _ => ("java/util/TreeMap$PrivateEntryIterator", "this$0", "Ljava/util/TreeMap;", true)
def tyJ33 : Nat → FieldType := fun k => match k with
  | 0 => .object "java/util/TreeMap$Entry"
  | 1 => .object "java/util/TreeMap$Entry"
  | 2 => .int
  | _ => .object "java/util/TreeMap"
abbrev wsJ330 : List Cond := u_ws RJ33 TJ33 4
theorem nmJ33 : ∀ a, a < 4 → ∀ b, b < 4 → a ≠ b → (TJ33 a).2.1 ≠ (TJ33 b).2.1 := by decide +kernel
theorem tyJ33_ok : ∀ k, k < 4 → parseFieldDescriptor (TJ33 k).2.2.1 = some (tyJ33 k) := by decide +kernel
abbrev cJ33_next : ByteArray := prog_65_method_2_code
def yJ33_next : MethodName := ⟨RJ33, "next", "()Ljava/lang/Object;"⟩
def dkwJ33_next_0 : List UInt8 := [42, 182, 0, 7, 180, 0, 13, 176]
abbrev dktJ33_next_0 : List UInt8 := dkwJ33_next_0 ++ []
theorem dksJ33_next_0 : cJ33_next.data.toList.drop 0 = dktJ33_next_0 := by decide +kernel
theorem dJ33_next_0 : decode cJ33_next 0 = .ok (.aload_n 0, 1) := dk_42 (dk_at dksJ33_next_0 0 rfl rfl)
theorem dJ33_next_1 : decode cJ33_next 1 = .ok (.invokevirtual 7, 3) := dk_182 0 7 (dk_at dksJ33_next_0 1 rfl rfl)
theorem dJ33_next_4 : decode cJ33_next 4 = .ok (.getfield 13, 3) := dk_180 0 13 (dk_at dksJ33_next_0 4 rfl rfl)
theorem dJ33_next_7 : decode cJ33_next 7 = .ok (.areturn, 1) := dk_176 (dk_at dksJ33_next_0 7 rfl rfl)
abbrev cJ33_init : ByteArray := prog_65_method_1_code
def yJ33_init : MethodName := ⟨RJ33, "<init>", "(Ljava/util/TreeMap;Ljava/util/TreeMap$Entry;)V"⟩
def dkwJ33_init_0 : List UInt8 := [42, 43, 44, 183, 0, 1, 177]
abbrev dktJ33_init_0 : List UInt8 := dkwJ33_init_0 ++ []
theorem dksJ33_init_0 : cJ33_init.data.toList.drop 0 = dktJ33_init_0 := by decide +kernel
theorem dJ33_init_0 : decode cJ33_init 0 = .ok (.aload_n 0, 1) := dk_42 (dk_at dksJ33_init_0 0 rfl rfl)
theorem dJ33_init_1 : decode cJ33_init 1 = .ok (.aload_n 1, 1) := dk_43 (dk_at dksJ33_init_0 1 rfl rfl)
theorem dJ33_init_2 : decode cJ33_init 2 = .ok (.aload_n 2, 1) := dk_44 (dk_at dksJ33_init_0 2 rfl rfl)
theorem dJ33_init_3 : decode cJ33_init 3 = .ok (.invokespecial 1, 3) := dk_183 0 1 (dk_at dksJ33_init_0 3 rfl rfl)
theorem dJ33_init_6 : decode cJ33_init 6 = .ok (.return_, 1) := dk_177 (dk_at dksJ33_init_0 6 rfl rfl)
theorem q88 : (Jvm.Cond.initialized "java/util/TreeMap$KeyIterator") ∈ lw_all := lw_g (lw_at lw_m1 42 rfl) rfl
theorem q899 : (Jvm.Cond.fieldLink "java/util/TreeMap$KeyIterator" (13 : Nat) "java/util/TreeMap$Entry" "key" "Ljava/lang/Object;") ∈ lw_all := lw_g (lw_at lw_m4 133 rfl) rfl
theorem q1000 : (Jvm.Cond.selects "java/util/TreeMap$KeyIterator" ({ cls := "java/lang/Object", name := "getClass", desc := "()Ljava/lang/Class;" } : Jvm.MethodName) ({ cls := "java/lang/Object", name := "getClass", desc := "()Ljava/lang/Class;" } : Jvm.MethodName)) ∈ lw_all := lw_g (lw_at lw_m4 234 rfl) rfl
theorem q1046 : (Jvm.Cond.castable "java/util/TreeMap$KeyIterator" "java/util/Iterator") ∈ lw_tbl := lw_at lw_m5 40 rfl
theorem q1047 : (Jvm.Cond.selects "java/util/TreeMap$KeyIterator" ({ cls := "java/util/Iterator", name := "hasNext", desc := "()Z" } : Jvm.MethodName) ({ cls := "java/util/TreeMap$PrivateEntryIterator", name := "hasNext", desc := "()Z" } : Jvm.MethodName)) ∈ lw_all := lw_g (lw_at lw_m5 41 rfl) rfl
theorem q1048 : (Jvm.Cond.unhidden "java/util/TreeMap$KeyIterator" "hasNext" "()Z") ∈ lw_tbl := lw_at lw_m5 42 rfl
theorem q1065 : (Jvm.Cond.selects "java/util/TreeMap$KeyIterator" ({ cls := "java/util/Iterator", name := "next", desc := "()Ljava/lang/Object;" } : Jvm.MethodName) ({ cls := "java/util/TreeMap$KeyIterator", name := "next", desc := "()Ljava/lang/Object;" } : Jvm.MethodName)) ∈ lw_all := lw_g (lw_at lw_m5 59 rfl) rfl
theorem q1066 : (Jvm.Cond.unhidden "java/util/TreeMap$KeyIterator" "next" "()Ljava/lang/Object;") ∈ lw_tbl := lw_at lw_m5 60 rfl
theorem q1067 : (Jvm.Cond.instanceMethod ({ cls := "java/util/TreeMap$KeyIterator", name := "next", desc := "()Ljava/lang/Object;" } : Jvm.MethodName)) ∈ lw_all := lw_g (lw_at lw_m5 61 rfl) rfl
theorem q1068 : (Jvm.Cond.publicMethod ({ cls := "java/util/TreeMap$KeyIterator", name := "next", desc := "()Ljava/lang/Object;" } : Jvm.MethodName)) ∈ lw_tbl := lw_at lw_m5 62 rfl
theorem q1069 : (Jvm.Cond.code ({ cls := "java/util/TreeMap$KeyIterator", name := "next", desc := "()Ljava/lang/Object;" } : Jvm.MethodName) prog_65_method_2_code (1 : Nat) (Option.some (Jvm.ClassFile.FieldType.object "java/lang/Object"))) ∈ lw_all := lw_g (lw_at lw_m5 63 rfl) rfl
theorem q1070 : (Jvm.Cond.methodLink "java/util/TreeMap$KeyIterator" (7 : Nat) ({ cls := "java/util/TreeMap$KeyIterator", name := "nextEntry", desc := "()Ljava/util/TreeMap$Entry;" } : Jvm.MethodName)) ∈ lw_all := lw_g (lw_at lw_m5 64 rfl) rfl
theorem q1071 : (Jvm.Cond.sameMethod "java/util/TreeMap$KeyIterator" "java/util/TreeMap$PrivateEntryIterator" "nextEntry" "()Ljava/util/TreeMap$Entry;") ∈ lw_all := lw_g (lw_at lw_m5 65 rfl) rfl
theorem q1073 : (Jvm.Cond.selects "java/util/TreeMap$KeyIterator" ({ cls := "java/util/TreeMap$KeyIterator", name := "nextEntry", desc := "()Ljava/util/TreeMap$Entry;" } : Jvm.MethodName) ({ cls := "java/util/TreeMap$PrivateEntryIterator", name := "nextEntry", desc := "()Ljava/util/TreeMap$Entry;" } : Jvm.MethodName)) ∈ lw_all := lw_g (lw_at lw_m5 67 rfl) rfl
theorem q1184 : (Jvm.Cond.instantiable "java/util/TreeMap$KeyIterator" (4 : Nat)) ∈ lw_all := lw_g (lw_at lw_m5 178 rfl) rfl
theorem q1190 : (Jvm.Cond.instanceMethod ({ cls := "java/util/TreeMap$KeyIterator", name := "<init>", desc := "(Ljava/util/TreeMap;Ljava/util/TreeMap$Entry;)V" } : Jvm.MethodName)) ∈ lw_all := lw_g (lw_at lw_m5 184 rfl) rfl
theorem q1191 : (Jvm.Cond.code ({ cls := "java/util/TreeMap$KeyIterator", name := "<init>", desc := "(Ljava/util/TreeMap;Ljava/util/TreeMap$Entry;)V" } : Jvm.MethodName) prog_65_method_1_code (3 : Nat) (Option.none : Option Jvm.ClassFile.FieldType)) ∈ lw_all := lw_g (lw_at lw_m5 185 rfl) rfl
theorem q1192 : (Jvm.Cond.methodLink "java/util/TreeMap$KeyIterator" (1 : Nat) ({ cls := "java/util/TreeMap$PrivateEntryIterator", name := "<init>", desc := "(Ljava/util/TreeMap;Ljava/util/TreeMap$Entry;)V" } : Jvm.MethodName)) ∈ lw_all := lw_g (lw_at lw_m5 186 rfl) rfl
theorem q1200 : (Jvm.Cond.lays "java/util/TreeMap$KeyIterator" "java/util/TreeMap$PrivateEntryIterator" "next" "Ljava/util/TreeMap$Entry;") ∈ lw_all := lw_g (lw_at lw_m5 194 rfl) rfl
theorem q1202 : (Jvm.Cond.lays "java/util/TreeMap$KeyIterator" "java/util/TreeMap$PrivateEntryIterator" "lastReturned" "Ljava/util/TreeMap$Entry;") ∈ lw_all := lw_g (lw_at lw_m5 196 rfl) rfl
theorem q1204 : (Jvm.Cond.lays "java/util/TreeMap$KeyIterator" "java/util/TreeMap$PrivateEntryIterator" "expectedModCount" "I") ∈ lw_all := lw_g (lw_at lw_m5 198 rfl) rfl
theorem q1206 : (Jvm.Cond.laysFinal "java/util/TreeMap$KeyIterator" "java/util/TreeMap$PrivateEntryIterator" "this$0" "Ljava/util/TreeMap;") ∈ lw_all := lw_g (lw_at lw_m5 200 rfl) rfl
theorem q1208 : (Jvm.Cond.superclass "java/util/TreeMap$KeyIterator" "java/util/TreeMap$PrivateEntryIterator") ∈ lw_all := lw_g (lw_at lw_m5 202 rfl) rfl
theorem q2388 : (Jvm.Cond.castable "java/util/TreeMap$KeyIterator" "java/lang/Object") ∈ lw_tbl := lw_at lw_m10 182 rfl
theorem in_J33 : ∀ w ∈ wsJ330, w ∈ lw_all := lw_in wsJ330 [1200, 1202, 1204, 1206] (by decide +kernel) (by decide +kernel)

/-! java/util/TreeMap$KeySet -/
set_option maxRecDepth 100000
def RJ34 : String := "java/util/TreeMap$KeySet"
def TJ34 : u_T := fun k => match k with
  | _ => ("java/util/TreeMap$KeySet", "m", "Ljava/util/NavigableMap;", true)
def tyJ34 : Nat → FieldType := fun k => match k with
  | _ => .object "java/util/NavigableMap"
abbrev wsJ340 : List Cond := u_ws RJ34 TJ34 1
theorem nmJ34 : ∀ a, a < 1 → ∀ b, b < 1 → a ≠ b → (TJ34 a).2.1 ≠ (TJ34 b).2.1 := by decide +kernel
theorem tyJ34_ok : ∀ k, k < 1 → parseFieldDescriptor (TJ34 k).2.2.1 = some (tyJ34 k) := by decide +kernel
abbrev cJ34_iterator : ByteArray := prog_66_method_2_code
def yJ34_iterator : MethodName := ⟨RJ34, "iterator", "()Ljava/util/Iterator;"⟩
def dkwJ34_iterator_1 : List UInt8 := [180, 0, 7, 192, 0, 19, 182, 0, 21, 176]
abbrev dktJ34_iterator_1 : List UInt8 := dkwJ34_iterator_1 ++ []
def dkwJ34_iterator_0 : List UInt8 := [42, 180, 0, 7, 193, 0, 13, 153, 0, 14, 42, 180, 0, 7, 192, 0, 13, 182, 0, 15, 176, 42]
abbrev dktJ34_iterator_0 : List UInt8 := dkwJ34_iterator_0 ++ dktJ34_iterator_1
theorem dksJ34_iterator_0 : cJ34_iterator.data.toList.drop 0 = dktJ34_iterator_0 := by decide +kernel
theorem dksJ34_iterator_1 : cJ34_iterator.data.toList.drop 22 = dktJ34_iterator_1 := dk_seg dksJ34_iterator_0 22 rfl rfl
theorem dJ34_iterator_0 : decode cJ34_iterator 0 = .ok (.aload_n 0, 1) := dk_42 (dk_at dksJ34_iterator_0 0 rfl rfl)
theorem dJ34_iterator_1 : decode cJ34_iterator 1 = .ok (.getfield 7, 3) := dk_180 0 7 (dk_at dksJ34_iterator_0 1 rfl rfl)
theorem dJ34_iterator_4 : decode cJ34_iterator 4 = .ok (.instanceof 13, 3) := dk_193 0 13 (dk_at dksJ34_iterator_0 4 rfl rfl)
theorem dJ34_iterator_7 : decode cJ34_iterator 7 = .ok (.ifCond .eq 14, 3) := dk_153 0 14 (dk_at dksJ34_iterator_0 7 rfl rfl)
theorem dJ34_iterator_10 : decode cJ34_iterator 10 = .ok (.aload_n 0, 1) := dk_42 (dk_at dksJ34_iterator_0 10 rfl rfl)
theorem dJ34_iterator_11 : decode cJ34_iterator 11 = .ok (.getfield 7, 3) := dk_180 0 7 (dk_at dksJ34_iterator_0 11 rfl rfl)
theorem dJ34_iterator_14 : decode cJ34_iterator 14 = .ok (.checkcast 13, 3) := dk_192 0 13 (dk_at dksJ34_iterator_0 14 rfl rfl)
theorem dJ34_iterator_17 : decode cJ34_iterator 17 = .ok (.invokevirtual 15, 3) := dk_182 0 15 (dk_at dksJ34_iterator_0 17 rfl rfl)
theorem dJ34_iterator_20 : decode cJ34_iterator 20 = .ok (.areturn, 1) := dk_176 (dk_at dksJ34_iterator_0 20 rfl rfl)
theorem dJ34_iterator_21 : decode cJ34_iterator 21 = .ok (.aload_n 0, 1) := dk_42 (dk_at dksJ34_iterator_0 21 rfl rfl)
theorem dJ34_iterator_22 : decode cJ34_iterator 22 = .ok (.getfield 7, 3) := dk_180 0 7 (dk_at dksJ34_iterator_1 0 rfl rfl)
theorem dJ34_iterator_25 : decode cJ34_iterator 25 = .ok (.checkcast 19, 3) := dk_192 0 19 (dk_at dksJ34_iterator_1 3 rfl rfl)
theorem dJ34_iterator_28 : decode cJ34_iterator 28 = .ok (.invokevirtual 21, 3) := dk_182 0 21 (dk_at dksJ34_iterator_1 6 rfl rfl)
theorem dJ34_iterator_31 : decode cJ34_iterator 31 = .ok (.areturn, 1) := dk_176 (dk_at dksJ34_iterator_1 9 rfl rfl)
abbrev cJ34_init : ByteArray := prog_66_method_1_code
def yJ34_init : MethodName := ⟨RJ34, "<init>", "(Ljava/util/NavigableMap;)V"⟩
def dkwJ34_init_0 : List UInt8 := [42, 183, 0, 1, 42, 43, 181, 0, 7, 177]
abbrev dktJ34_init_0 : List UInt8 := dkwJ34_init_0 ++ []
theorem dksJ34_init_0 : cJ34_init.data.toList.drop 0 = dktJ34_init_0 := by decide +kernel
theorem dJ34_init_0 : decode cJ34_init 0 = .ok (.aload_n 0, 1) := dk_42 (dk_at dksJ34_init_0 0 rfl rfl)
theorem dJ34_init_1 : decode cJ34_init 1 = .ok (.invokespecial 1, 3) := dk_183 0 1 (dk_at dksJ34_init_0 1 rfl rfl)
theorem dJ34_init_4 : decode cJ34_init 4 = .ok (.aload_n 0, 1) := dk_42 (dk_at dksJ34_init_0 4 rfl rfl)
theorem dJ34_init_5 : decode cJ34_init 5 = .ok (.aload_n 1, 1) := dk_43 (dk_at dksJ34_init_0 5 rfl rfl)
theorem dJ34_init_6 : decode cJ34_init 6 = .ok (.putfield 7, 3) := dk_181 0 7 (dk_at dksJ34_init_0 6 rfl rfl)
theorem dJ34_init_9 : decode cJ34_init 9 = .ok (.return_, 1) := dk_177 (dk_at dksJ34_init_0 9 rfl rfl)
abbrev cJ34_size : ByteArray := prog_66_method_4_code
def yJ34_size : MethodName := ⟨RJ34, "size", "()I"⟩
def dkwJ34_size_0 : List UInt8 := [42, 180, 0, 7, 185, 0, 26, 1, 0, 172]
abbrev dktJ34_size_0 : List UInt8 := dkwJ34_size_0 ++ []
theorem dksJ34_size_0 : cJ34_size.data.toList.drop 0 = dktJ34_size_0 := by decide +kernel
theorem dJ34_size_0 : decode cJ34_size 0 = .ok (.aload_n 0, 1) := dk_42 (dk_at dksJ34_size_0 0 rfl rfl)
theorem dJ34_size_1 : decode cJ34_size 1 = .ok (.getfield 7, 3) := dk_180 0 7 (dk_at dksJ34_size_0 1 rfl rfl)
theorem dJ34_size_4 : decode cJ34_size 4 = .ok (.invokeinterface 26 1, 5) := by decide +kernel
theorem dJ34_size_9 : decode cJ34_size 9 = .ok (.ireturn, 1) := dk_172 (dk_at dksJ34_size_0 9 rfl rfl)
theorem q89 : (Jvm.Cond.initialized "java/util/TreeMap$KeySet") ∈ lw_all := lw_g (lw_at lw_m1 43 rfl) rfl
theorem q1001 : (Jvm.Cond.selects "java/util/TreeMap$KeySet" ({ cls := "java/lang/Object", name := "getClass", desc := "()Ljava/lang/Class;" } : Jvm.MethodName) ({ cls := "java/lang/Object", name := "getClass", desc := "()Ljava/lang/Class;" } : Jvm.MethodName)) ∈ lw_all := lw_g (lw_at lw_m4 235 rfl) rfl
theorem q1172 : (Jvm.Cond.castable "java/util/TreeMap$KeySet" "java/lang/Iterable") ∈ lw_tbl := lw_at lw_m5 166 rfl
theorem q1173 : (Jvm.Cond.selects "java/util/TreeMap$KeySet" ({ cls := "java/lang/Iterable", name := "iterator", desc := "()Ljava/util/Iterator;" } : Jvm.MethodName) ({ cls := "java/util/TreeMap$KeySet", name := "iterator", desc := "()Ljava/util/Iterator;" } : Jvm.MethodName)) ∈ lw_all := lw_g (lw_at lw_m5 167 rfl) rfl
theorem q1174 : (Jvm.Cond.unhidden "java/util/TreeMap$KeySet" "iterator" "()Ljava/util/Iterator;") ∈ lw_tbl := lw_at lw_m5 168 rfl
theorem q1175 : (Jvm.Cond.instanceMethod ({ cls := "java/util/TreeMap$KeySet", name := "iterator", desc := "()Ljava/util/Iterator;" } : Jvm.MethodName)) ∈ lw_all := lw_g (lw_at lw_m5 169 rfl) rfl
theorem q1176 : (Jvm.Cond.publicMethod ({ cls := "java/util/TreeMap$KeySet", name := "iterator", desc := "()Ljava/util/Iterator;" } : Jvm.MethodName)) ∈ lw_tbl := lw_at lw_m5 170 rfl
theorem q1177 : (Jvm.Cond.code ({ cls := "java/util/TreeMap$KeySet", name := "iterator", desc := "()Ljava/util/Iterator;" } : Jvm.MethodName) prog_66_method_2_code (1 : Nat) (Option.some (Jvm.ClassFile.FieldType.object "java/util/Iterator"))) ∈ lw_all := lw_g (lw_at lw_m5 171 rfl) rfl
theorem q1178 : (Jvm.Cond.classLink "java/util/TreeMap$KeySet" (13 : Nat) "java/util/TreeMap") ∈ lw_all := lw_g (lw_at lw_m5 172 rfl) rfl
theorem q1179 : (Jvm.Cond.methodLink "java/util/TreeMap$KeySet" (15 : Nat) ({ cls := "java/util/TreeMap", name := "keyIterator", desc := "()Ljava/util/Iterator;" } : Jvm.MethodName)) ∈ lw_all := lw_g (lw_at lw_m5 173 rfl) rfl
theorem q1209 : (Jvm.Cond.classLink "java/util/TreeMap$KeySet" (19 : Nat) "java/util/TreeMap$NavigableSubMap") ∈ lw_all := lw_g (lw_at lw_m5 203 rfl) rfl
theorem q1210 : (Jvm.Cond.methodLink "java/util/TreeMap$KeySet" (21 : Nat) ({ cls := "java/util/TreeMap$NavigableSubMap", name := "keyIterator", desc := "()Ljava/util/Iterator;" } : Jvm.MethodName)) ∈ lw_all := lw_g (lw_at lw_m5 204 rfl) rfl
theorem q1229 : (Jvm.Cond.instantiable "java/util/TreeMap$KeySet" (1 : Nat)) ∈ lw_all := lw_g (lw_at lw_m5 223 rfl) rfl
theorem q1231 : (Jvm.Cond.instanceMethod ({ cls := "java/util/TreeMap$KeySet", name := "<init>", desc := "(Ljava/util/NavigableMap;)V" } : Jvm.MethodName)) ∈ lw_all := lw_g (lw_at lw_m5 225 rfl) rfl
theorem q1232 : (Jvm.Cond.code ({ cls := "java/util/TreeMap$KeySet", name := "<init>", desc := "(Ljava/util/NavigableMap;)V" } : Jvm.MethodName) prog_66_method_1_code (2 : Nat) (Option.none : Option Jvm.ClassFile.FieldType)) ∈ lw_all := lw_g (lw_at lw_m5 226 rfl) rfl
theorem q1233 : (Jvm.Cond.methodLink "java/util/TreeMap$KeySet" (1 : Nat) ({ cls := "java/util/AbstractSet", name := "<init>", desc := "()V" } : Jvm.MethodName)) ∈ lw_all := lw_g (lw_at lw_m5 227 rfl) rfl
theorem q1234 : (Jvm.Cond.fieldLink "java/util/TreeMap$KeySet" (7 : Nat) "java/util/TreeMap$KeySet" "m" "Ljava/util/NavigableMap;") ∈ lw_all := lw_g (lw_at lw_m5 228 rfl) rfl
theorem q1235 : (Jvm.Cond.laysFinal "java/util/TreeMap$KeySet" "java/util/TreeMap$KeySet" "m" "Ljava/util/NavigableMap;") ∈ lw_all := lw_g (lw_at lw_m5 229 rfl) rfl
theorem q1236 : (Jvm.Cond.soleField "java/util/TreeMap$KeySet" "m") ∈ lw_all := lw_g (lw_at lw_m5 230 rfl) rfl
theorem q1237 : (Jvm.Cond.superclass "java/util/TreeMap$KeySet" "java/util/AbstractSet") ∈ lw_all := lw_g (lw_at lw_m5 231 rfl) rfl
theorem q1242 : (Jvm.Cond.castable "java/util/TreeMap$KeySet" "java/util/NavigableSet") ∈ lw_tbl := lw_at lw_m5 236 rfl
theorem q1243 : (Jvm.Cond.selects "java/util/TreeMap$KeySet" ({ cls := "java/util/NavigableSet", name := "iterator", desc := "()Ljava/util/Iterator;" } : Jvm.MethodName) ({ cls := "java/util/TreeMap$KeySet", name := "iterator", desc := "()Ljava/util/Iterator;" } : Jvm.MethodName)) ∈ lw_all := lw_g (lw_at lw_m5 237 rfl) rfl
theorem q1260 : (Jvm.Cond.castable "java/util/TreeMap$KeySet" "java/util/Collection") ∈ lw_tbl := lw_at lw_m6 14 rfl
theorem q1261 : (Jvm.Cond.selects "java/util/TreeMap$KeySet" ({ cls := "java/util/Collection", name := "size", desc := "()I" } : Jvm.MethodName) ({ cls := "java/util/TreeMap$KeySet", name := "size", desc := "()I" } : Jvm.MethodName)) ∈ lw_all := lw_g (lw_at lw_m6 15 rfl) rfl
theorem q1262 : (Jvm.Cond.unhidden "java/util/TreeMap$KeySet" "size" "()I") ∈ lw_tbl := lw_at lw_m6 16 rfl
theorem q1263 : (Jvm.Cond.instanceMethod ({ cls := "java/util/TreeMap$KeySet", name := "size", desc := "()I" } : Jvm.MethodName)) ∈ lw_all := lw_g (lw_at lw_m6 17 rfl) rfl
theorem q1264 : (Jvm.Cond.publicMethod ({ cls := "java/util/TreeMap$KeySet", name := "size", desc := "()I" } : Jvm.MethodName)) ∈ lw_tbl := lw_at lw_m6 18 rfl
theorem q1265 : (Jvm.Cond.code ({ cls := "java/util/TreeMap$KeySet", name := "size", desc := "()I" } : Jvm.MethodName) prog_66_method_4_code (1 : Nat) (Option.some Jvm.ClassFile.FieldType.int)) ∈ lw_all := lw_g (lw_at lw_m6 19 rfl) rfl
theorem q1266 : (Jvm.Cond.interfaceEntry "java/util/TreeMap$KeySet" (26 : Nat)) ∈ lw_tbl := lw_at lw_m6 20 rfl
theorem q1276 : (Jvm.Cond.castable "java/util/TreeMap$KeySet" "java/util/SortedSet") ∈ lw_tbl := lw_at lw_m6 30 rfl
theorem q1277 : (Jvm.Cond.selects "java/util/TreeMap$KeySet" ({ cls := "java/util/SortedSet", name := "comparator", desc := "()Ljava/util/Comparator;" } : Jvm.MethodName) ({ cls := "java/util/TreeMap$KeySet", name := "comparator", desc := "()Ljava/util/Comparator;" } : Jvm.MethodName)) ∈ lw_all := lw_g (lw_at lw_m6 31 rfl) rfl
theorem q1278 : (Jvm.Cond.unhidden "java/util/TreeMap$KeySet" "comparator" "()Ljava/util/Comparator;") ∈ lw_tbl := lw_at lw_m6 32 rfl
theorem q1279 : (Jvm.Cond.instanceMethod ({ cls := "java/util/TreeMap$KeySet", name := "comparator", desc := "()Ljava/util/Comparator;" } : Jvm.MethodName)) ∈ lw_all := lw_g (lw_at lw_m6 33 rfl) rfl
theorem q1280 : (Jvm.Cond.publicMethod ({ cls := "java/util/TreeMap$KeySet", name := "comparator", desc := "()Ljava/util/Comparator;" } : Jvm.MethodName)) ∈ lw_tbl := lw_at lw_m6 34 rfl
theorem q1281 : (Jvm.Cond.code ({ cls := "java/util/TreeMap$KeySet", name := "comparator", desc := "()Ljava/util/Comparator;" } : Jvm.MethodName) prog_66_method_14_code (1 : Nat) (Option.some (Jvm.ClassFile.FieldType.object "java/util/Comparator"))) ∈ lw_all := lw_g (lw_at lw_m6 35 rfl) rfl
theorem q1282 : (Jvm.Cond.interfaceEntry "java/util/TreeMap$KeySet" (63 : Nat)) ∈ lw_tbl := lw_at lw_m6 36 rfl
theorem q1377 : (Jvm.Cond.selects "java/util/TreeMap$KeySet" ({ cls := "java/util/Collection", name := "iterator", desc := "()Ljava/util/Iterator;" } : Jvm.MethodName) ({ cls := "java/util/TreeMap$KeySet", name := "iterator", desc := "()Ljava/util/Iterator;" } : Jvm.MethodName)) ∈ lw_all := lw_g (lw_at lw_m6 131 rfl) rfl
theorem q1387 : (Jvm.Cond.selects "java/util/TreeMap$KeySet" ({ cls := "java/util/AbstractCollection", name := "add", desc := "(Ljava/lang/Object;)Z" } : Jvm.MethodName) ({ cls := "java/util/AbstractCollection", name := "add", desc := "(Ljava/lang/Object;)Z" } : Jvm.MethodName)) ∈ lw_all := lw_g (lw_at lw_m6 141 rfl) rfl
theorem q2387 : (Jvm.Cond.castable "java/util/TreeMap$KeySet" "java/lang/Object") ∈ lw_tbl := lw_at lw_m10 181 rfl
theorem in_J34 : ∀ w ∈ wsJ340, w ∈ lw_all := lw_in wsJ340 [1235] (by decide +kernel) (by decide +kernel)

/-! java/lang/IllegalStateException -/
set_option maxRecDepth 100000
def RJ35 : String := "java/lang/IllegalStateException"
def TJ35 : u_T := fun k => match k with
  | 0 => ("java/lang/Throwable", "cause", "Ljava/lang/Throwable;", false)
  | 1 => ("java/lang/Throwable", "stackTrace", "[Ljava/lang/StackTraceElement;", false)
  | 2 => ("java/lang/Throwable", "suppressedExceptions", "Ljava/util/List;", false)
  | 3 => ("java/lang/Throwable", "detailMessage", "Ljava/lang/String;", false)
  | 4 => ("java/lang/Throwable", "backtrace", "Ljava/lang/Object;", false)
  | _ => ("java/lang/Throwable", "depth", "I", false)
def tyJ35 : Nat → FieldType := fun k => match k with
  | 0 => .object "java/lang/Throwable"
  | 1 => .array (.object "java/lang/StackTraceElement")
  | 2 => .object "java/util/List"
  | 3 => .object "java/lang/String"
  | 4 => .object "java/lang/Object"
  | _ => .int
abbrev wsJ350 : List Cond := u_ws RJ35 TJ35 6
theorem nmJ35 : ∀ a, a < 6 → ∀ b, b < 6 → a ≠ b → (TJ35 a).2.1 ≠ (TJ35 b).2.1 := by decide +kernel
theorem tyJ35_ok : ∀ k, k < 6 → parseFieldDescriptor (TJ35 k).2.2.1 = some (tyJ35 k) := by decide +kernel
theorem q90 : (Jvm.Cond.initialized "java/lang/IllegalStateException") ∈ lw_all := lw_g (lw_at lw_m1 44 rfl) rfl
theorem q497 : (Jvm.Cond.selects "java/lang/IllegalStateException" ({ cls := "java/lang/Throwable", name := "fillInStackTrace", desc := "()Ljava/lang/Throwable;" } : Jvm.MethodName) ({ cls := "java/lang/Throwable", name := "fillInStackTrace", desc := "()Ljava/lang/Throwable;" } : Jvm.MethodName)) ∈ lw_all := lw_g (lw_at lw_m2 211 rfl) rfl
theorem q990 : (Jvm.Cond.selects "java/lang/IllegalStateException" ({ cls := "java/lang/Object", name := "getClass", desc := "()Ljava/lang/Class;" } : Jvm.MethodName) ({ cls := "java/lang/Object", name := "getClass", desc := "()Ljava/lang/Class;" } : Jvm.MethodName)) ∈ lw_all := lw_g (lw_at lw_m4 224 rfl) rfl
theorem q1316 : (Jvm.Cond.selects "java/lang/IllegalStateException" ({ cls := "java/lang/Object", name := "equals", desc := "(Ljava/lang/Object;)Z" } : Jvm.MethodName) ({ cls := "java/lang/Object", name := "equals", desc := "(Ljava/lang/Object;)Z" } : Jvm.MethodName)) ∈ lw_all := lw_g (lw_at lw_m6 70 rfl) rfl
theorem q1871 : (Jvm.Cond.instantiable "java/lang/IllegalStateException" (6 : Nat)) ∈ lw_all := lw_g (lw_at lw_m8 145 rfl) rfl
theorem q1872 : (Jvm.Cond.castable "java/lang/IllegalStateException" "java/lang/IllegalStateException") ∈ lw_tbl := lw_at lw_m8 146 rfl
theorem q1873 : (Jvm.Cond.selects "java/lang/IllegalStateException" ({ cls := "java/lang/Throwable", name := "fillInStackTrace", desc := "(I)Ljava/lang/Throwable;" } : Jvm.MethodName) ({ cls := "java/lang/Throwable", name := "fillInStackTrace", desc := "(I)Ljava/lang/Throwable;" } : Jvm.MethodName)) ∈ lw_all := lw_g (lw_at lw_m8 147 rfl) rfl
theorem q1874 : (Jvm.Cond.lays "java/lang/IllegalStateException" "java/lang/Throwable" "cause" "Ljava/lang/Throwable;") ∈ lw_all := lw_g (lw_at lw_m8 148 rfl) rfl
theorem q1875 : (Jvm.Cond.lays "java/lang/IllegalStateException" "java/lang/Throwable" "stackTrace" "[Ljava/lang/StackTraceElement;") ∈ lw_all := lw_g (lw_at lw_m8 149 rfl) rfl
theorem q1876 : (Jvm.Cond.lays "java/lang/IllegalStateException" "java/lang/Throwable" "suppressedExceptions" "Ljava/util/List;") ∈ lw_all := lw_g (lw_at lw_m8 150 rfl) rfl
theorem q1877 : (Jvm.Cond.lays "java/lang/IllegalStateException" "java/lang/Throwable" "detailMessage" "Ljava/lang/String;") ∈ lw_all := lw_g (lw_at lw_m8 151 rfl) rfl
theorem q1878 : (Jvm.Cond.lays "java/lang/IllegalStateException" "java/lang/Throwable" "backtrace" "Ljava/lang/Object;") ∈ lw_all := lw_g (lw_at lw_m8 152 rfl) rfl
theorem q1880 : (Jvm.Cond.instanceMethod ({ cls := "java/lang/IllegalStateException", name := "<init>", desc := "()V" } : Jvm.MethodName)) ∈ lw_all := lw_g (lw_at lw_m8 154 rfl) rfl
theorem q1881 : (Jvm.Cond.code ({ cls := "java/lang/IllegalStateException", name := "<init>", desc := "()V" } : Jvm.MethodName) prog_22_method_1_code (1 : Nat) (Option.none : Option Jvm.ClassFile.FieldType)) ∈ lw_all := lw_g (lw_at lw_m8 155 rfl) rfl
theorem q1882 : (Jvm.Cond.methodLink "java/lang/IllegalStateException" (1 : Nat) ({ cls := "java/lang/RuntimeException", name := "<init>", desc := "()V" } : Jvm.MethodName)) ∈ lw_all := lw_g (lw_at lw_m8 156 rfl) rfl
theorem q1883 : (Jvm.Cond.lays "java/lang/IllegalStateException" "java/lang/Throwable" "depth" "I") ∈ lw_all := lw_g (lw_at lw_m8 157 rfl) rfl
theorem q1884 : (Jvm.Cond.superclass "java/lang/IllegalStateException" "java/lang/RuntimeException") ∈ lw_all := lw_g (lw_at lw_m8 158 rfl) rfl
theorem q2389 : (Jvm.Cond.castable "java/lang/IllegalStateException" "java/lang/Object") ∈ lw_tbl := lw_at lw_m10 183 rfl
theorem in_J35 : ∀ w ∈ wsJ350, w ∈ lw_all := lw_in wsJ350 [1874, 1875, 1876, 1877, 1878, 1883] (by decide +kernel) (by decide +kernel)

/-! java/lang/Object -/
set_option maxRecDepth 100000
def RJ37 : String := "java/lang/Object"
theorem q101 : (Jvm.Cond.instanceMethod ({ cls := "java/lang/Object", name := "<init>", desc := "()V" } : Jvm.MethodName)) ∈ lw_all := lw_g (lw_at lw_m1 55 rfl) rfl
theorem q102 : (Jvm.Cond.code ({ cls := "java/lang/Object", name := "<init>", desc := "()V" } : Jvm.MethodName) object_method_1_code (1 : Nat) (Option.none : Option Jvm.ClassFile.FieldType)) ∈ lw_all := lw_g (lw_at lw_m1 56 rfl) rfl
theorem q543 : (Jvm.Cond.native ({ cls := "java/lang/Object", name := "clone", desc := "()Ljava/lang/Object;" } : Jvm.MethodName)) ∈ lw_all := lw_g (lw_at lw_m3 17 rfl) rfl
theorem q544 : (Jvm.Cond.instanceMethod ({ cls := "java/lang/Object", name := "clone", desc := "()Ljava/lang/Object;" } : Jvm.MethodName)) ∈ lw_all := lw_g (lw_at lw_m3 18 rfl) rfl
theorem q977 : (Jvm.Cond.instanceMethod ({ cls := "java/lang/Object", name := "getClass", desc := "()Ljava/lang/Class;" } : Jvm.MethodName)) ∈ lw_all := lw_g (lw_at lw_m4 211 rfl) rfl
theorem q978 : (Jvm.Cond.sameMethod "java/lang/Object" "java/lang/Object" "getClass" "()Ljava/lang/Class;") ∈ lw_all := lw_g (lw_at lw_m4 212 rfl) rfl
theorem q1004 : (Jvm.Cond.native ({ cls := "java/lang/Object", name := "getClass", desc := "()Ljava/lang/Class;" } : Jvm.MethodName)) ∈ lw_all := lw_g (lw_at lw_m4 238 rfl) rfl
theorem q1301 : (Jvm.Cond.declares ({ cls := "java/lang/Object", name := "equals", desc := "(Ljava/lang/Object;)Z" } : Jvm.MethodName)) ∈ lw_tbl := lw_at lw_m6 55 rfl
theorem q1303 : (Jvm.Cond.instanceMethod ({ cls := "java/lang/Object", name := "equals", desc := "(Ljava/lang/Object;)Z" } : Jvm.MethodName)) ∈ lw_all := lw_g (lw_at lw_m6 57 rfl) rfl
theorem q1304 : (Jvm.Cond.sameMethod "java/lang/Object" "java/lang/Object" "equals" "(Ljava/lang/Object;)Z") ∈ lw_all := lw_g (lw_at lw_m6 58 rfl) rfl
theorem q1323 : (Jvm.Cond.code ({ cls := "java/lang/Object", name := "equals", desc := "(Ljava/lang/Object;)Z" } : Jvm.MethodName) object_method_4_code (2 : Nat) (Option.some Jvm.ClassFile.FieldType.boolean)) ∈ lw_all := lw_g (lw_at lw_m6 77 rfl) rfl
theorem q2362 : (Jvm.Cond.initialized "java/lang/Object") ∈ lw_all := lw_g (lw_at lw_m10 156 rfl) rfl
theorem q2367 : (Jvm.Cond.selects "java/lang/Object" ({ cls := "java/lang/Object", name := "equals", desc := "(Ljava/lang/Object;)Z" } : Jvm.MethodName) ({ cls := "java/lang/Object", name := "equals", desc := "(Ljava/lang/Object;)Z" } : Jvm.MethodName)) ∈ lw_all := lw_g (lw_at lw_m10 161 rfl) rfl
theorem q2396 : (Jvm.Cond.declares ({ cls := "java/lang/Object", name := "getClass", desc := "()Ljava/lang/Class;" } : Jvm.MethodName)) ∈ lw_tbl := lw_at lw_m10 190 rfl

/-! java/lang/StringBuilder -/
set_option maxRecDepth 100000
def RJ4 : String := "java/lang/StringBuilder"
def TJ4 : u_T := fun k => match k with
  | 0 => ("java/lang/AbstractStringBuilder", "value", "[B", false)
  | 1 => ("java/lang/AbstractStringBuilder", "coder", "B", false)
  | 2 => ("java/lang/AbstractStringBuilder", "maybeLatin1", "Z", false)
  | _ => ("java/lang/AbstractStringBuilder", "count", "I", false)
def tyJ4 : Nat → FieldType := fun k => match k with
  | 0 => .array .byte
  | 1 => .byte
  | 2 => .boolean
  | _ => .int
abbrev wsJ40 : List Cond := u_ws RJ4 TJ4 4
theorem nmJ4 : ∀ a, a < 4 → ∀ b, b < 4 → a ≠ b → (TJ4 a).2.1 ≠ (TJ4 b).2.1 := by decide +kernel
theorem tyJ4_ok : ∀ k, k < 4 → parseFieldDescriptor (TJ4 k).2.2.1 = some (tyJ4 k) := by decide +kernel
abbrev cJ4_init : ByteArray := prog_32_method_1_code
def yJ4_init : MethodName := ⟨RJ4, "<init>", "()V"⟩
def dkwJ4_init_0 : List UInt8 := [42, 16, 16, 183, 0, 1, 177]
abbrev dktJ4_init_0 : List UInt8 := dkwJ4_init_0 ++ []
theorem dksJ4_init_0 : cJ4_init.data.toList.drop 0 = dktJ4_init_0 := by decide +kernel
theorem dJ4_init_0 : decode cJ4_init 0 = .ok (.aload_n 0, 1) := dk_42 (dk_at dksJ4_init_0 0 rfl rfl)
theorem dJ4_init_1 : decode cJ4_init 1 = .ok (.bipush 16, 2) := dk_16 16 (dk_at dksJ4_init_0 1 rfl rfl)
theorem dJ4_init_3 : decode cJ4_init 3 = .ok (.invokespecial 1, 3) := dk_183 0 1 (dk_at dksJ4_init_0 3 rfl rfl)
theorem dJ4_init_6 : decode cJ4_init 6 = .ok (.return_, 1) := dk_177 (dk_at dksJ4_init_0 6 rfl rfl)
abbrev cJ4_length : ByteArray := prog_32_method_93_code
def yJ4_length : MethodName := ⟨RJ4, "length", "()I"⟩
theorem dJ4_length_0 : decode cJ4_length 0 = .ok (.aload_n 0, 1) := by decide +kernel
theorem dJ4_length_1 : decode cJ4_length 1 = .ok (.invokespecial 343, 3) := by decide +kernel
theorem dJ4_length_4 : decode cJ4_length 4 = .ok (.ireturn, 1) := by decide +kernel
abbrev cJ4_charAt : ByteArray := prog_32_method_88_code
def yJ4_charAt : MethodName := ⟨RJ4, "charAt", "(I)C"⟩
def dkwJ4_charAt_0 : List UInt8 := [42, 27, 183, 1, 73, 172]
abbrev dktJ4_charAt_0 : List UInt8 := dkwJ4_charAt_0 ++ []
theorem dksJ4_charAt_0 : cJ4_charAt.data.toList.drop 0 = dktJ4_charAt_0 := by decide +kernel
theorem dJ4_charAt_0 : decode cJ4_charAt 0 = .ok (.aload_n 0, 1) := dk_42 (dk_at dksJ4_charAt_0 0 rfl rfl)
theorem dJ4_charAt_1 : decode cJ4_charAt 1 = .ok (.iload_n 1, 1) := dk_27 (dk_at dksJ4_charAt_0 1 rfl rfl)
theorem dJ4_charAt_2 : decode cJ4_charAt 2 = .ok (.invokespecial 329, 3) := dk_183 1 73 (dk_at dksJ4_charAt_0 2 rfl rfl)
theorem dJ4_charAt_5 : decode cJ4_charAt 5 = .ok (.ireturn, 1) := dk_172 (dk_at dksJ4_charAt_0 5 rfl rfl)
abbrev cJ4_toString : ByteArray := prog_32_method_42_code
def yJ4_toString : MethodName := ⟨RJ4, "toString", "()Ljava/lang/String;"⟩
def dkwJ4_toString_0 : List UInt8 := [187, 0, 18, 89, 42, 183, 0, 137, 176]
abbrev dktJ4_toString_0 : List UInt8 := dkwJ4_toString_0 ++ []
theorem dksJ4_toString_0 : cJ4_toString.data.toList.drop 0 = dktJ4_toString_0 := by decide +kernel
theorem dJ4_toString_0 : decode cJ4_toString 0 = .ok (.new 18, 3) := dk_187 0 18 (dk_at dksJ4_toString_0 0 rfl rfl)
theorem dJ4_toString_3 : decode cJ4_toString 3 = .ok (.dup, 1) := dk_89 (dk_at dksJ4_toString_0 3 rfl rfl)
theorem dJ4_toString_4 : decode cJ4_toString 4 = .ok (.aload_n 0, 1) := dk_42 (dk_at dksJ4_toString_0 4 rfl rfl)
theorem dJ4_toString_5 : decode cJ4_toString 5 = .ok (.invokespecial 137, 3) := dk_183 0 137 (dk_at dksJ4_toString_0 5 rfl rfl)
theorem dJ4_toString_8 : decode cJ4_toString 8 = .ok (.areturn, 1) := dk_176 (dk_at dksJ4_toString_0 8 rfl rfl)
abbrev cJ4_append_2 : ByteArray := prog_32_method_7_code
def yJ4_append_2 : MethodName := ⟨RJ4, "append", "(Ljava/lang/String;)Ljava/lang/StringBuilder;"⟩
def dkwJ4_append_2_0 : List UInt8 := [42, 43, 183, 0, 29, 87, 42, 176]
abbrev dktJ4_append_2_0 : List UInt8 := dkwJ4_append_2_0 ++ []
theorem dksJ4_append_2_0 : cJ4_append_2.data.toList.drop 0 = dktJ4_append_2_0 := by decide +kernel
theorem dJ4_append_2_0 : decode cJ4_append_2 0 = .ok (.aload_n 0, 1) := dk_42 (dk_at dksJ4_append_2_0 0 rfl rfl)
theorem dJ4_append_2_1 : decode cJ4_append_2 1 = .ok (.aload_n 1, 1) := dk_43 (dk_at dksJ4_append_2_0 1 rfl rfl)
theorem dJ4_append_2_2 : decode cJ4_append_2 2 = .ok (.invokespecial 29, 3) := dk_183 0 29 (dk_at dksJ4_append_2_0 2 rfl rfl)
theorem dJ4_append_2_5 : decode cJ4_append_2 5 = .ok (.pop, 1) := dk_87 (dk_at dksJ4_append_2_0 5 rfl rfl)
theorem dJ4_append_2_6 : decode cJ4_append_2 6 = .ok (.aload_n 0, 1) := dk_42 (dk_at dksJ4_append_2_0 6 rfl rfl)
theorem dJ4_append_2_7 : decode cJ4_append_2 7 = .ok (.areturn, 1) := dk_176 (dk_at dksJ4_append_2_0 7 rfl rfl)
abbrev cJ4_insert : ByteArray := prog_32_method_30_code
def yJ4_insert : MethodName := ⟨RJ4, "insert", "(IC)Ljava/lang/StringBuilder;"⟩
def dkwJ4_insert_0 : List UInt8 := [42, 27, 28, 183, 0, 101, 87, 42, 176]
abbrev dktJ4_insert_0 : List UInt8 := dkwJ4_insert_0 ++ []
theorem dksJ4_insert_0 : cJ4_insert.data.toList.drop 0 = dktJ4_insert_0 := by decide +kernel
theorem dJ4_insert_0 : decode cJ4_insert 0 = .ok (.aload_n 0, 1) := dk_42 (dk_at dksJ4_insert_0 0 rfl rfl)
theorem dJ4_insert_1 : decode cJ4_insert 1 = .ok (.iload_n 1, 1) := dk_27 (dk_at dksJ4_insert_0 1 rfl rfl)
theorem dJ4_insert_2 : decode cJ4_insert 2 = .ok (.iload_n 2, 1) := dk_28 (dk_at dksJ4_insert_0 2 rfl rfl)
theorem dJ4_insert_3 : decode cJ4_insert 3 = .ok (.invokespecial 101, 3) := dk_183 0 101 (dk_at dksJ4_insert_0 3 rfl rfl)
theorem dJ4_insert_6 : decode cJ4_insert 6 = .ok (.pop, 1) := dk_87 (dk_at dksJ4_insert_0 6 rfl rfl)
theorem dJ4_insert_7 : decode cJ4_insert 7 = .ok (.aload_n 0, 1) := dk_42 (dk_at dksJ4_insert_0 7 rfl rfl)
theorem dJ4_insert_8 : decode cJ4_insert 8 = .ok (.areturn, 1) := dk_176 (dk_at dksJ4_insert_0 8 rfl rfl)
abbrev cJ4_substring : ByteArray := prog_32_method_62_code
def yJ4_substring : MethodName := ⟨RJ4, "substring", "(II)Ljava/lang/String;"⟩
def dkwJ4_substring_0 : List UInt8 := [42, 27, 28, 183, 0, 252, 176]
abbrev dktJ4_substring_0 : List UInt8 := dkwJ4_substring_0 ++ []
theorem dksJ4_substring_0 : cJ4_substring.data.toList.drop 0 = dktJ4_substring_0 := by decide +kernel
theorem dJ4_substring_0 : decode cJ4_substring 0 = .ok (.aload_n 0, 1) := dk_42 (dk_at dksJ4_substring_0 0 rfl rfl)
theorem dJ4_substring_1 : decode cJ4_substring 1 = .ok (.iload_n 1, 1) := dk_27 (dk_at dksJ4_substring_0 1 rfl rfl)
theorem dJ4_substring_2 : decode cJ4_substring 2 = .ok (.iload_n 2, 1) := dk_28 (dk_at dksJ4_substring_0 2 rfl rfl)
theorem dJ4_substring_3 : decode cJ4_substring 3 = .ok (.invokespecial 252, 3) := dk_183 0 252 (dk_at dksJ4_substring_0 3 rfl rfl)
theorem dJ4_substring_6 : decode cJ4_substring 6 = .ok (.areturn, 1) := dk_176 (dk_at dksJ4_substring_0 6 rfl rfl)
abbrev cJ4_append_3 : ByteArray := prog_32_method_9_code
def yJ4_append_3 : MethodName := ⟨RJ4, "append", "(Ljava/lang/CharSequence;)Ljava/lang/StringBuilder;"⟩
def dkwJ4_append_3_0 : List UInt8 := [42, 43, 183, 0, 35, 87, 42, 176]
abbrev dktJ4_append_3_0 : List UInt8 := dkwJ4_append_3_0 ++ []
theorem dksJ4_append_3_0 : cJ4_append_3.data.toList.drop 0 = dktJ4_append_3_0 := by decide +kernel
theorem dJ4_append_3_0 : decode cJ4_append_3 0 = .ok (.aload_n 0, 1) := dk_42 (dk_at dksJ4_append_3_0 0 rfl rfl)
theorem dJ4_append_3_1 : decode cJ4_append_3 1 = .ok (.aload_n 1, 1) := dk_43 (dk_at dksJ4_append_3_0 1 rfl rfl)
theorem dJ4_append_3_2 : decode cJ4_append_3 2 = .ok (.invokespecial 35, 3) := dk_183 0 35 (dk_at dksJ4_append_3_0 2 rfl rfl)
theorem dJ4_append_3_5 : decode cJ4_append_3 5 = .ok (.pop, 1) := dk_87 (dk_at dksJ4_append_3_0 5 rfl rfl)
theorem dJ4_append_3_6 : decode cJ4_append_3 6 = .ok (.aload_n 0, 1) := dk_42 (dk_at dksJ4_append_3_0 6 rfl rfl)
theorem dJ4_append_3_7 : decode cJ4_append_3 7 = .ok (.areturn, 1) := dk_176 (dk_at dksJ4_append_3_0 7 rfl rfl)
abbrev cJ4_append_4 : ByteArray := prog_32_method_80_code
def yJ4_append_4 : MethodName := ⟨RJ4, "append", "(Ljava/lang/String;)Ljava/lang/AbstractStringBuilder;"⟩
def dkwJ4_append_4_0 : List UInt8 := [42, 43, 182, 0, 23, 176]
abbrev dktJ4_append_4_0 : List UInt8 := dkwJ4_append_4_0 ++ []
theorem dksJ4_append_4_0 : cJ4_append_4.data.toList.drop 0 = dktJ4_append_4_0 := by decide +kernel
theorem dJ4_append_4_0 : decode cJ4_append_4 0 = .ok (.aload_n 0, 1) := dk_42 (dk_at dksJ4_append_4_0 0 rfl rfl)
theorem dJ4_append_4_1 : decode cJ4_append_4 1 = .ok (.aload_n 1, 1) := dk_43 (dk_at dksJ4_append_4_0 1 rfl rfl)
theorem dJ4_append_4_2 : decode cJ4_append_4 2 = .ok (.invokevirtual 23, 3) := dk_182 0 23 (dk_at dksJ4_append_4_0 2 rfl rfl)
theorem dJ4_append_4_5 : decode cJ4_append_4 5 = .ok (.areturn, 1) := dk_176 (dk_at dksJ4_append_4_0 5 rfl rfl)
abbrev cJ4_append_7 : ByteArray := prog_32_method_14_code
def yJ4_append_7 : MethodName := ⟨RJ4, "append", "(C)Ljava/lang/StringBuilder;"⟩
def dkwJ4_append_7_0 : List UInt8 := [42, 27, 183, 0, 50, 87, 42, 176]
abbrev dktJ4_append_7_0 : List UInt8 := dkwJ4_append_7_0 ++ []
theorem dksJ4_append_7_0 : cJ4_append_7.data.toList.drop 0 = dktJ4_append_7_0 := by decide +kernel
theorem dJ4_append_7_0 : decode cJ4_append_7 0 = .ok (.aload_n 0, 1) := dk_42 (dk_at dksJ4_append_7_0 0 rfl rfl)
theorem dJ4_append_7_1 : decode cJ4_append_7 1 = .ok (.iload_n 1, 1) := dk_27 (dk_at dksJ4_append_7_0 1 rfl rfl)
theorem dJ4_append_7_2 : decode cJ4_append_7 2 = .ok (.invokespecial 50, 3) := dk_183 0 50 (dk_at dksJ4_append_7_0 2 rfl rfl)
theorem dJ4_append_7_5 : decode cJ4_append_7 5 = .ok (.pop, 1) := dk_87 (dk_at dksJ4_append_7_0 5 rfl rfl)
theorem dJ4_append_7_6 : decode cJ4_append_7 6 = .ok (.aload_n 0, 1) := dk_42 (dk_at dksJ4_append_7_0 6 rfl rfl)
theorem dJ4_append_7_7 : decode cJ4_append_7 7 = .ok (.areturn, 1) := dk_176 (dk_at dksJ4_append_7_0 7 rfl rfl)
abbrev cJ4_setCharAt : ByteArray := prog_32_method_82_code
def yJ4_setCharAt : MethodName := ⟨RJ4, "setCharAt", "(IC)V"⟩
def dkwJ4_setCharAt_0 : List UInt8 := [42, 27, 28, 183, 1, 52, 177]
abbrev dktJ4_setCharAt_0 : List UInt8 := dkwJ4_setCharAt_0 ++ []
theorem dksJ4_setCharAt_0 : cJ4_setCharAt.data.toList.drop 0 = dktJ4_setCharAt_0 := by decide +kernel
theorem dJ4_setCharAt_0 : decode cJ4_setCharAt 0 = .ok (.aload_n 0, 1) := dk_42 (dk_at dksJ4_setCharAt_0 0 rfl rfl)
theorem dJ4_setCharAt_1 : decode cJ4_setCharAt 1 = .ok (.iload_n 1, 1) := dk_27 (dk_at dksJ4_setCharAt_0 1 rfl rfl)
theorem dJ4_setCharAt_2 : decode cJ4_setCharAt 2 = .ok (.iload_n 2, 1) := dk_28 (dk_at dksJ4_setCharAt_0 2 rfl rfl)
theorem dJ4_setCharAt_3 : decode cJ4_setCharAt 3 = .ok (.invokespecial 308, 3) := dk_183 1 52 (dk_at dksJ4_setCharAt_0 3 rfl rfl)
theorem dJ4_setCharAt_6 : decode cJ4_setCharAt 6 = .ok (.return_, 1) := dk_177 (dk_at dksJ4_setCharAt_0 6 rfl rfl)
abbrev cJ4_setLength : ByteArray := prog_32_method_89_code
def yJ4_setLength : MethodName := ⟨RJ4, "setLength", "(I)V"⟩
def dkwJ4_setLength_0 : List UInt8 := [42, 27, 183, 1, 77, 177]
abbrev dktJ4_setLength_0 : List UInt8 := dkwJ4_setLength_0 ++ []
theorem dksJ4_setLength_0 : cJ4_setLength.data.toList.drop 0 = dktJ4_setLength_0 := by decide +kernel
theorem dJ4_setLength_0 : decode cJ4_setLength 0 = .ok (.aload_n 0, 1) := dk_42 (dk_at dksJ4_setLength_0 0 rfl rfl)
theorem dJ4_setLength_1 : decode cJ4_setLength 1 = .ok (.iload_n 1, 1) := dk_27 (dk_at dksJ4_setLength_0 1 rfl rfl)
theorem dJ4_setLength_2 : decode cJ4_setLength 2 = .ok (.invokespecial 333, 3) := dk_183 1 77 (dk_at dksJ4_setLength_0 2 rfl rfl)
theorem dJ4_setLength_5 : decode cJ4_setLength 5 = .ok (.return_, 1) := dk_177 (dk_at dksJ4_setLength_0 5 rfl rfl)
theorem q53 : (Jvm.Cond.initialized "java/lang/StringBuilder") ∈ lw_all := lw_g (lw_at lw_m1 7 rfl) rfl
theorem q164 : (Jvm.Cond.instantiable "java/lang/StringBuilder" (4 : Nat)) ∈ lw_all := lw_g (lw_at lw_m1 118 rfl) rfl
theorem q166 : (Jvm.Cond.instanceMethod ({ cls := "java/lang/StringBuilder", name := "<init>", desc := "()V" } : Jvm.MethodName)) ∈ lw_all := lw_g (lw_at lw_m1 120 rfl) rfl
theorem q167 : (Jvm.Cond.code ({ cls := "java/lang/StringBuilder", name := "<init>", desc := "()V" } : Jvm.MethodName) prog_32_method_1_code (1 : Nat) (Option.none : Option Jvm.ClassFile.FieldType)) ∈ lw_all := lw_g (lw_at lw_m1 121 rfl) rfl
theorem q168 : (Jvm.Cond.methodLink "java/lang/StringBuilder" (1 : Nat) ({ cls := "java/lang/AbstractStringBuilder", name := "<init>", desc := "(I)V" } : Jvm.MethodName)) ∈ lw_all := lw_g (lw_at lw_m1 122 rfl) rfl
theorem q186 : (Jvm.Cond.lays "java/lang/StringBuilder" "java/lang/AbstractStringBuilder" "value" "[B") ∈ lw_all := lw_g (lw_at lw_m1 140 rfl) rfl
theorem q188 : (Jvm.Cond.lays "java/lang/StringBuilder" "java/lang/AbstractStringBuilder" "coder" "B") ∈ lw_all := lw_g (lw_at lw_m1 142 rfl) rfl
theorem q190 : (Jvm.Cond.lays "java/lang/StringBuilder" "java/lang/AbstractStringBuilder" "maybeLatin1" "Z") ∈ lw_all := lw_g (lw_at lw_m1 144 rfl) rfl
theorem q192 : (Jvm.Cond.lays "java/lang/StringBuilder" "java/lang/AbstractStringBuilder" "count" "I") ∈ lw_all := lw_g (lw_at lw_m1 146 rfl) rfl
theorem q194 : (Jvm.Cond.superclass "java/lang/StringBuilder" "java/lang/AbstractStringBuilder") ∈ lw_all := lw_g (lw_at lw_m1 148 rfl) rfl
theorem q273 : (Jvm.Cond.instanceMethod ({ cls := "java/lang/StringBuilder", name := "length", desc := "()I" } : Jvm.MethodName)) ∈ lw_all := lw_g (lw_at lw_m1 227 rfl) rfl
theorem q274 : (Jvm.Cond.selects "java/lang/StringBuilder" ({ cls := "java/lang/StringBuilder", name := "length", desc := "()I" } : Jvm.MethodName) ({ cls := "java/lang/StringBuilder", name := "length", desc := "()I" } : Jvm.MethodName)) ∈ lw_all := lw_g (lw_at lw_m1 228 rfl) rfl
theorem q275 : (Jvm.Cond.code ({ cls := "java/lang/StringBuilder", name := "length", desc := "()I" } : Jvm.MethodName) prog_32_method_93_code (1 : Nat) (Option.some Jvm.ClassFile.FieldType.int)) ∈ lw_all := lw_g (lw_at lw_m1 229 rfl) rfl
theorem q276 : (Jvm.Cond.methodLink "java/lang/StringBuilder" (343 : Nat) ({ cls := "java/lang/AbstractStringBuilder", name := "length", desc := "()I" } : Jvm.MethodName)) ∈ lw_all := lw_g (lw_at lw_m1 230 rfl) rfl
theorem q302 : (Jvm.Cond.castable "java/lang/StringBuilder" "java/lang/CharSequence") ∈ lw_tbl := lw_at lw_m2 16 rfl
theorem q303 : (Jvm.Cond.selects "java/lang/StringBuilder" ({ cls := "java/lang/CharSequence", name := "length", desc := "()I" } : Jvm.MethodName) ({ cls := "java/lang/StringBuilder", name := "length", desc := "()I" } : Jvm.MethodName)) ∈ lw_all := lw_g (lw_at lw_m2 17 rfl) rfl
theorem q304 : (Jvm.Cond.unhidden "java/lang/StringBuilder" "length" "()I") ∈ lw_tbl := lw_at lw_m2 18 rfl
theorem q305 : (Jvm.Cond.publicMethod ({ cls := "java/lang/StringBuilder", name := "length", desc := "()I" } : Jvm.MethodName)) ∈ lw_tbl := lw_at lw_m2 19 rfl
theorem q312 : (Jvm.Cond.instanceMethod ({ cls := "java/lang/StringBuilder", name := "charAt", desc := "(I)C" } : Jvm.MethodName)) ∈ lw_all := lw_g (lw_at lw_m2 26 rfl) rfl
theorem q313 : (Jvm.Cond.selects "java/lang/StringBuilder" ({ cls := "java/lang/StringBuilder", name := "charAt", desc := "(I)C" } : Jvm.MethodName) ({ cls := "java/lang/StringBuilder", name := "charAt", desc := "(I)C" } : Jvm.MethodName)) ∈ lw_all := lw_g (lw_at lw_m2 27 rfl) rfl
theorem q314 : (Jvm.Cond.code ({ cls := "java/lang/StringBuilder", name := "charAt", desc := "(I)C" } : Jvm.MethodName) prog_32_method_88_code (2 : Nat) (Option.some Jvm.ClassFile.FieldType.char)) ∈ lw_all := lw_g (lw_at lw_m2 28 rfl) rfl
theorem q315 : (Jvm.Cond.methodLink "java/lang/StringBuilder" (329 : Nat) ({ cls := "java/lang/AbstractStringBuilder", name := "charAt", desc := "(I)C" } : Jvm.MethodName)) ∈ lw_all := lw_g (lw_at lw_m2 29 rfl) rfl
theorem q369 : (Jvm.Cond.selects "java/lang/StringBuilder" ({ cls := "java/lang/CharSequence", name := "charAt", desc := "(I)C" } : Jvm.MethodName) ({ cls := "java/lang/StringBuilder", name := "charAt", desc := "(I)C" } : Jvm.MethodName)) ∈ lw_all := lw_g (lw_at lw_m2 83 rfl) rfl
theorem q370 : (Jvm.Cond.unhidden "java/lang/StringBuilder" "charAt" "(I)C") ∈ lw_tbl := lw_at lw_m2 84 rfl
theorem q371 : (Jvm.Cond.publicMethod ({ cls := "java/lang/StringBuilder", name := "charAt", desc := "(I)C" } : Jvm.MethodName)) ∈ lw_tbl := lw_at lw_m2 85 rfl
theorem q431 : (Jvm.Cond.instanceMethod ({ cls := "java/lang/StringBuilder", name := "toString", desc := "()Ljava/lang/String;" } : Jvm.MethodName)) ∈ lw_all := lw_g (lw_at lw_m2 145 rfl) rfl
theorem q432 : (Jvm.Cond.selects "java/lang/StringBuilder" ({ cls := "java/lang/StringBuilder", name := "toString", desc := "()Ljava/lang/String;" } : Jvm.MethodName) ({ cls := "java/lang/StringBuilder", name := "toString", desc := "()Ljava/lang/String;" } : Jvm.MethodName)) ∈ lw_all := lw_g (lw_at lw_m2 146 rfl) rfl
theorem q433 : (Jvm.Cond.code ({ cls := "java/lang/StringBuilder", name := "toString", desc := "()Ljava/lang/String;" } : Jvm.MethodName) prog_32_method_42_code (1 : Nat) (Option.some (Jvm.ClassFile.FieldType.object "java/lang/String"))) ∈ lw_all := lw_g (lw_at lw_m2 147 rfl) rfl
theorem q434 : (Jvm.Cond.classLink "java/lang/StringBuilder" (18 : Nat) "java/lang/String") ∈ lw_all := lw_g (lw_at lw_m2 148 rfl) rfl
theorem q436 : (Jvm.Cond.methodLink "java/lang/StringBuilder" (137 : Nat) ({ cls := "java/lang/String", name := "<init>", desc := "(Ljava/lang/StringBuilder;)V" } : Jvm.MethodName)) ∈ lw_all := lw_g (lw_at lw_m2 150 rfl) rfl
theorem q446 : (Jvm.Cond.selects "java/lang/StringBuilder" ({ cls := "java/lang/AbstractStringBuilder", name := "getValue", desc := "()[B" } : Jvm.MethodName) ({ cls := "java/lang/AbstractStringBuilder", name := "getValue", desc := "()[B" } : Jvm.MethodName)) ∈ lw_all := lw_g (lw_at lw_m2 160 rfl) rfl
theorem q452 : (Jvm.Cond.selects "java/lang/StringBuilder" ({ cls := "java/lang/AbstractStringBuilder", name := "isLatin1", desc := "()Z" } : Jvm.MethodName) ({ cls := "java/lang/AbstractStringBuilder", name := "isLatin1", desc := "()Z" } : Jvm.MethodName)) ∈ lw_all := lw_g (lw_at lw_m2 166 rfl) rfl
theorem q510 : (Jvm.Cond.instanceMethod ({ cls := "java/lang/StringBuilder", name := "append", desc := "(I)Ljava/lang/StringBuilder;" } : Jvm.MethodName)) ∈ lw_all := lw_g (lw_at lw_m2 224 rfl) rfl
theorem q511 : (Jvm.Cond.selects "java/lang/StringBuilder" ({ cls := "java/lang/StringBuilder", name := "append", desc := "(I)Ljava/lang/StringBuilder;" } : Jvm.MethodName) ({ cls := "java/lang/StringBuilder", name := "append", desc := "(I)Ljava/lang/StringBuilder;" } : Jvm.MethodName)) ∈ lw_all := lw_g (lw_at lw_m2 225 rfl) rfl
theorem q512 : (Jvm.Cond.code ({ cls := "java/lang/StringBuilder", name := "append", desc := "(I)Ljava/lang/StringBuilder;" } : Jvm.MethodName) prog_32_method_15_code (2 : Nat) (Option.some (Jvm.ClassFile.FieldType.object "java/lang/StringBuilder"))) ∈ lw_all := lw_g (lw_at lw_m2 226 rfl) rfl
theorem q513 : (Jvm.Cond.methodLink "java/lang/StringBuilder" (53 : Nat) ({ cls := "java/lang/AbstractStringBuilder", name := "append", desc := "(I)Ljava/lang/AbstractStringBuilder;" } : Jvm.MethodName)) ∈ lw_all := lw_g (lw_at lw_m2 227 rfl) rfl
theorem q582 : (Jvm.Cond.instanceMethod ({ cls := "java/lang/StringBuilder", name := "append", desc := "(Ljava/lang/String;)Ljava/lang/StringBuilder;" } : Jvm.MethodName)) ∈ lw_all := lw_g (lw_at lw_m3 56 rfl) rfl
theorem q583 : (Jvm.Cond.selects "java/lang/StringBuilder" ({ cls := "java/lang/StringBuilder", name := "append", desc := "(Ljava/lang/String;)Ljava/lang/StringBuilder;" } : Jvm.MethodName) ({ cls := "java/lang/StringBuilder", name := "append", desc := "(Ljava/lang/String;)Ljava/lang/StringBuilder;" } : Jvm.MethodName)) ∈ lw_all := lw_g (lw_at lw_m3 57 rfl) rfl
theorem q584 : (Jvm.Cond.code ({ cls := "java/lang/StringBuilder", name := "append", desc := "(Ljava/lang/String;)Ljava/lang/StringBuilder;" } : Jvm.MethodName) prog_32_method_7_code (2 : Nat) (Option.some (Jvm.ClassFile.FieldType.object "java/lang/StringBuilder"))) ∈ lw_all := lw_g (lw_at lw_m3 58 rfl) rfl
theorem q585 : (Jvm.Cond.methodLink "java/lang/StringBuilder" (29 : Nat) ({ cls := "java/lang/AbstractStringBuilder", name := "append", desc := "(Ljava/lang/String;)Ljava/lang/AbstractStringBuilder;" } : Jvm.MethodName)) ∈ lw_all := lw_g (lw_at lw_m3 59 rfl) rfl
theorem q856 : (Jvm.Cond.castable "java/lang/StringBuilder" "java/lang/Comparable") ∈ lw_tbl := lw_at lw_m4 90 rfl
theorem q857 : (Jvm.Cond.selects "java/lang/StringBuilder" ({ cls := "java/lang/Comparable", name := "compareTo", desc := "(Ljava/lang/Object;)I" } : Jvm.MethodName) ({ cls := "java/lang/StringBuilder", name := "compareTo", desc := "(Ljava/lang/Object;)I" } : Jvm.MethodName)) ∈ lw_all := lw_g (lw_at lw_m4 91 rfl) rfl
theorem q858 : (Jvm.Cond.unhidden "java/lang/StringBuilder" "compareTo" "(Ljava/lang/Object;)I") ∈ lw_tbl := lw_at lw_m4 92 rfl
theorem q859 : (Jvm.Cond.instanceMethod ({ cls := "java/lang/StringBuilder", name := "compareTo", desc := "(Ljava/lang/Object;)I" } : Jvm.MethodName)) ∈ lw_all := lw_g (lw_at lw_m4 93 rfl) rfl
theorem q860 : (Jvm.Cond.publicMethod ({ cls := "java/lang/StringBuilder", name := "compareTo", desc := "(Ljava/lang/Object;)I" } : Jvm.MethodName)) ∈ lw_tbl := lw_at lw_m4 94 rfl
theorem q861 : (Jvm.Cond.code ({ cls := "java/lang/StringBuilder", name := "compareTo", desc := "(Ljava/lang/Object;)I" } : Jvm.MethodName) prog_32_method_97_code (2 : Nat) (Option.some Jvm.ClassFile.FieldType.int)) ∈ lw_all := lw_g (lw_at lw_m4 95 rfl) rfl
theorem q862 : (Jvm.Cond.classLink "java/lang/StringBuilder" (24 : Nat) "java/lang/StringBuilder") ∈ lw_all := lw_g (lw_at lw_m4 96 rfl) rfl
theorem q863 : (Jvm.Cond.methodLink "java/lang/StringBuilder" (346 : Nat) ({ cls := "java/lang/StringBuilder", name := "compareTo", desc := "(Ljava/lang/StringBuilder;)I" } : Jvm.MethodName)) ∈ lw_all := lw_g (lw_at lw_m4 97 rfl) rfl
theorem q864 : (Jvm.Cond.instanceMethod ({ cls := "java/lang/StringBuilder", name := "compareTo", desc := "(Ljava/lang/StringBuilder;)I" } : Jvm.MethodName)) ∈ lw_all := lw_g (lw_at lw_m4 98 rfl) rfl
theorem q865 : (Jvm.Cond.selects "java/lang/StringBuilder" ({ cls := "java/lang/StringBuilder", name := "compareTo", desc := "(Ljava/lang/StringBuilder;)I" } : Jvm.MethodName) ({ cls := "java/lang/StringBuilder", name := "compareTo", desc := "(Ljava/lang/StringBuilder;)I" } : Jvm.MethodName)) ∈ lw_all := lw_g (lw_at lw_m4 99 rfl) rfl
theorem q866 : (Jvm.Cond.code ({ cls := "java/lang/StringBuilder", name := "compareTo", desc := "(Ljava/lang/StringBuilder;)I" } : Jvm.MethodName) prog_32_method_5_code (2 : Nat) (Option.some Jvm.ClassFile.FieldType.int)) ∈ lw_all := lw_g (lw_at lw_m4 100 rfl) rfl
theorem q867 : (Jvm.Cond.methodLink "java/lang/StringBuilder" (13 : Nat) ({ cls := "java/lang/AbstractStringBuilder", name := "compareTo", desc := "(Ljava/lang/AbstractStringBuilder;)I" } : Jvm.MethodName)) ∈ lw_all := lw_g (lw_at lw_m4 101 rfl) rfl
theorem q994 : (Jvm.Cond.selects "java/lang/StringBuilder" ({ cls := "java/lang/Object", name := "getClass", desc := "()Ljava/lang/Class;" } : Jvm.MethodName) ({ cls := "java/lang/Object", name := "getClass", desc := "()Ljava/lang/Class;" } : Jvm.MethodName)) ∈ lw_all := lw_g (lw_at lw_m4 228 rfl) rfl
theorem q1320 : (Jvm.Cond.selects "java/lang/StringBuilder" ({ cls := "java/lang/Object", name := "equals", desc := "(Ljava/lang/Object;)Z" } : Jvm.MethodName) ({ cls := "java/lang/Object", name := "equals", desc := "(Ljava/lang/Object;)Z" } : Jvm.MethodName)) ∈ lw_all := lw_g (lw_at lw_m6 74 rfl) rfl
theorem q1436 : (Jvm.Cond.instanceMethod ({ cls := "java/lang/StringBuilder", name := "insert", desc := "(IC)Ljava/lang/StringBuilder;" } : Jvm.MethodName)) ∈ lw_all := lw_g (lw_at lw_m6 190 rfl) rfl
theorem q1437 : (Jvm.Cond.selects "java/lang/StringBuilder" ({ cls := "java/lang/StringBuilder", name := "insert", desc := "(IC)Ljava/lang/StringBuilder;" } : Jvm.MethodName) ({ cls := "java/lang/StringBuilder", name := "insert", desc := "(IC)Ljava/lang/StringBuilder;" } : Jvm.MethodName)) ∈ lw_all := lw_g (lw_at lw_m6 191 rfl) rfl
theorem q1438 : (Jvm.Cond.code ({ cls := "java/lang/StringBuilder", name := "insert", desc := "(IC)Ljava/lang/StringBuilder;" } : Jvm.MethodName) prog_32_method_30_code (3 : Nat) (Option.some (Jvm.ClassFile.FieldType.object "java/lang/StringBuilder"))) ∈ lw_all := lw_g (lw_at lw_m6 192 rfl) rfl
theorem q1439 : (Jvm.Cond.methodLink "java/lang/StringBuilder" (101 : Nat) ({ cls := "java/lang/AbstractStringBuilder", name := "insert", desc := "(IC)Ljava/lang/AbstractStringBuilder;" } : Jvm.MethodName)) ∈ lw_all := lw_g (lw_at lw_m6 193 rfl) rfl
theorem q1603 : (Jvm.Cond.instanceMethod ({ cls := "java/lang/StringBuilder", name := "substring", desc := "(II)Ljava/lang/String;" } : Jvm.MethodName)) ∈ lw_all := lw_g (lw_at lw_m7 117 rfl) rfl
theorem q1604 : (Jvm.Cond.selects "java/lang/StringBuilder" ({ cls := "java/lang/StringBuilder", name := "substring", desc := "(II)Ljava/lang/String;" } : Jvm.MethodName) ({ cls := "java/lang/StringBuilder", name := "substring", desc := "(II)Ljava/lang/String;" } : Jvm.MethodName)) ∈ lw_all := lw_g (lw_at lw_m7 118 rfl) rfl
theorem q1605 : (Jvm.Cond.code ({ cls := "java/lang/StringBuilder", name := "substring", desc := "(II)Ljava/lang/String;" } : Jvm.MethodName) prog_32_method_62_code (3 : Nat) (Option.some (Jvm.ClassFile.FieldType.object "java/lang/String"))) ∈ lw_all := lw_g (lw_at lw_m7 119 rfl) rfl
theorem q1606 : (Jvm.Cond.methodLink "java/lang/StringBuilder" (252 : Nat) ({ cls := "java/lang/AbstractStringBuilder", name := "substring", desc := "(II)Ljava/lang/String;" } : Jvm.MethodName)) ∈ lw_all := lw_g (lw_at lw_m7 120 rfl) rfl
theorem q1617 : (Jvm.Cond.instanceMethod ({ cls := "java/lang/StringBuilder", name := "append", desc := "(Ljava/lang/CharSequence;)Ljava/lang/StringBuilder;" } : Jvm.MethodName)) ∈ lw_all := lw_g (lw_at lw_m7 131 rfl) rfl
theorem q1618 : (Jvm.Cond.selects "java/lang/StringBuilder" ({ cls := "java/lang/StringBuilder", name := "append", desc := "(Ljava/lang/CharSequence;)Ljava/lang/StringBuilder;" } : Jvm.MethodName) ({ cls := "java/lang/StringBuilder", name := "append", desc := "(Ljava/lang/CharSequence;)Ljava/lang/StringBuilder;" } : Jvm.MethodName)) ∈ lw_all := lw_g (lw_at lw_m7 132 rfl) rfl
theorem q1619 : (Jvm.Cond.code ({ cls := "java/lang/StringBuilder", name := "append", desc := "(Ljava/lang/CharSequence;)Ljava/lang/StringBuilder;" } : Jvm.MethodName) prog_32_method_9_code (2 : Nat) (Option.some (Jvm.ClassFile.FieldType.object "java/lang/StringBuilder"))) ∈ lw_all := lw_g (lw_at lw_m7 133 rfl) rfl
theorem q1620 : (Jvm.Cond.methodLink "java/lang/StringBuilder" (35 : Nat) ({ cls := "java/lang/AbstractStringBuilder", name := "append", desc := "(Ljava/lang/CharSequence;)Ljava/lang/AbstractStringBuilder;" } : Jvm.MethodName)) ∈ lw_all := lw_g (lw_at lw_m7 134 rfl) rfl
theorem q1625 : (Jvm.Cond.instanceMethod ({ cls := "java/lang/StringBuilder", name := "append", desc := "(Ljava/lang/String;)Ljava/lang/AbstractStringBuilder;" } : Jvm.MethodName)) ∈ lw_all := lw_g (lw_at lw_m7 139 rfl) rfl
theorem q1626 : (Jvm.Cond.code ({ cls := "java/lang/StringBuilder", name := "append", desc := "(Ljava/lang/String;)Ljava/lang/AbstractStringBuilder;" } : Jvm.MethodName) prog_32_method_80_code (2 : Nat) (Option.some (Jvm.ClassFile.FieldType.object "java/lang/AbstractStringBuilder"))) ∈ lw_all := lw_g (lw_at lw_m7 140 rfl) rfl
theorem q1627 : (Jvm.Cond.methodLink "java/lang/StringBuilder" (23 : Nat) ({ cls := "java/lang/StringBuilder", name := "append", desc := "(Ljava/lang/String;)Ljava/lang/StringBuilder;" } : Jvm.MethodName)) ∈ lw_all := lw_g (lw_at lw_m7 141 rfl) rfl
theorem q1632 : (Jvm.Cond.selects "java/lang/StringBuilder" ({ cls := "java/lang/AbstractStringBuilder", name := "append", desc := "(Ljava/lang/AbstractStringBuilder;)Ljava/lang/AbstractStringBuilder;" } : Jvm.MethodName) ({ cls := "java/lang/AbstractStringBuilder", name := "append", desc := "(Ljava/lang/AbstractStringBuilder;)Ljava/lang/AbstractStringBuilder;" } : Jvm.MethodName)) ∈ lw_all := lw_g (lw_at lw_m7 146 rfl) rfl
theorem q1642 : (Jvm.Cond.selects "java/lang/StringBuilder" ({ cls := "java/lang/AbstractStringBuilder", name := "getCoder", desc := "()B" } : Jvm.MethodName) ({ cls := "java/lang/AbstractStringBuilder", name := "getCoder", desc := "()B" } : Jvm.MethodName)) ∈ lw_all := lw_g (lw_at lw_m7 156 rfl) rfl
theorem q1647 : (Jvm.Cond.selects "java/lang/StringBuilder" ({ cls := "java/lang/AbstractStringBuilder", name := "getBytes", desc := "([BIB)V" } : Jvm.MethodName) ({ cls := "java/lang/AbstractStringBuilder", name := "getBytes", desc := "([BIB)V" } : Jvm.MethodName)) ∈ lw_all := lw_g (lw_at lw_m7 161 rfl) rfl
theorem q1654 : (Jvm.Cond.selects "java/lang/StringBuilder" ({ cls := "java/lang/AbstractStringBuilder", name := "append", desc := "(Ljava/lang/CharSequence;II)Ljava/lang/AbstractStringBuilder;" } : Jvm.MethodName) ({ cls := "java/lang/StringBuilder", name := "append", desc := "(Ljava/lang/CharSequence;II)Ljava/lang/AbstractStringBuilder;" } : Jvm.MethodName)) ∈ lw_all := lw_g (lw_at lw_m7 168 rfl) rfl
theorem q1655 : (Jvm.Cond.instanceMethod ({ cls := "java/lang/StringBuilder", name := "append", desc := "(Ljava/lang/CharSequence;II)Ljava/lang/AbstractStringBuilder;" } : Jvm.MethodName)) ∈ lw_all := lw_g (lw_at lw_m7 169 rfl) rfl
theorem q1656 : (Jvm.Cond.code ({ cls := "java/lang/StringBuilder", name := "append", desc := "(Ljava/lang/CharSequence;II)Ljava/lang/AbstractStringBuilder;" } : Jvm.MethodName) prog_32_method_77_code (4 : Nat) (Option.some (Jvm.ClassFile.FieldType.object "java/lang/AbstractStringBuilder"))) ∈ lw_all := lw_g (lw_at lw_m7 170 rfl) rfl
theorem q1657 : (Jvm.Cond.methodLink "java/lang/StringBuilder" (296 : Nat) ({ cls := "java/lang/StringBuilder", name := "append", desc := "(Ljava/lang/CharSequence;II)Ljava/lang/StringBuilder;" } : Jvm.MethodName)) ∈ lw_all := lw_g (lw_at lw_m7 171 rfl) rfl
theorem q1658 : (Jvm.Cond.instanceMethod ({ cls := "java/lang/StringBuilder", name := "append", desc := "(Ljava/lang/CharSequence;II)Ljava/lang/StringBuilder;" } : Jvm.MethodName)) ∈ lw_all := lw_g (lw_at lw_m7 172 rfl) rfl
theorem q1659 : (Jvm.Cond.selects "java/lang/StringBuilder" ({ cls := "java/lang/StringBuilder", name := "append", desc := "(Ljava/lang/CharSequence;II)Ljava/lang/StringBuilder;" } : Jvm.MethodName) ({ cls := "java/lang/StringBuilder", name := "append", desc := "(Ljava/lang/CharSequence;II)Ljava/lang/StringBuilder;" } : Jvm.MethodName)) ∈ lw_all := lw_g (lw_at lw_m7 173 rfl) rfl
theorem q1660 : (Jvm.Cond.code ({ cls := "java/lang/StringBuilder", name := "append", desc := "(Ljava/lang/CharSequence;II)Ljava/lang/StringBuilder;" } : Jvm.MethodName) prog_32_method_10_code (4 : Nat) (Option.some (Jvm.ClassFile.FieldType.object "java/lang/StringBuilder"))) ∈ lw_all := lw_g (lw_at lw_m7 174 rfl) rfl
theorem q1661 : (Jvm.Cond.methodLink "java/lang/StringBuilder" (38 : Nat) ({ cls := "java/lang/AbstractStringBuilder", name := "append", desc := "(Ljava/lang/CharSequence;II)Ljava/lang/AbstractStringBuilder;" } : Jvm.MethodName)) ∈ lw_all := lw_g (lw_at lw_m7 175 rfl) rfl
theorem q1689 : (Jvm.Cond.instanceMethod ({ cls := "java/lang/StringBuilder", name := "append", desc := "(C)Ljava/lang/StringBuilder;" } : Jvm.MethodName)) ∈ lw_all := lw_g (lw_at lw_m7 203 rfl) rfl
theorem q1690 : (Jvm.Cond.selects "java/lang/StringBuilder" ({ cls := "java/lang/StringBuilder", name := "append", desc := "(C)Ljava/lang/StringBuilder;" } : Jvm.MethodName) ({ cls := "java/lang/StringBuilder", name := "append", desc := "(C)Ljava/lang/StringBuilder;" } : Jvm.MethodName)) ∈ lw_all := lw_g (lw_at lw_m7 204 rfl) rfl
theorem q1691 : (Jvm.Cond.code ({ cls := "java/lang/StringBuilder", name := "append", desc := "(C)Ljava/lang/StringBuilder;" } : Jvm.MethodName) prog_32_method_14_code (2 : Nat) (Option.some (Jvm.ClassFile.FieldType.object "java/lang/StringBuilder"))) ∈ lw_all := lw_g (lw_at lw_m7 205 rfl) rfl
theorem q1692 : (Jvm.Cond.methodLink "java/lang/StringBuilder" (50 : Nat) ({ cls := "java/lang/AbstractStringBuilder", name := "append", desc := "(C)Ljava/lang/AbstractStringBuilder;" } : Jvm.MethodName)) ∈ lw_all := lw_g (lw_at lw_m7 206 rfl) rfl
theorem q1976 : (Jvm.Cond.instanceMethod ({ cls := "java/lang/StringBuilder", name := "setCharAt", desc := "(IC)V" } : Jvm.MethodName)) ∈ lw_all := lw_g (lw_at lw_m9 10 rfl) rfl
theorem q1977 : (Jvm.Cond.selects "java/lang/StringBuilder" ({ cls := "java/lang/StringBuilder", name := "setCharAt", desc := "(IC)V" } : Jvm.MethodName) ({ cls := "java/lang/StringBuilder", name := "setCharAt", desc := "(IC)V" } : Jvm.MethodName)) ∈ lw_all := lw_g (lw_at lw_m9 11 rfl) rfl
theorem q1978 : (Jvm.Cond.code ({ cls := "java/lang/StringBuilder", name := "setCharAt", desc := "(IC)V" } : Jvm.MethodName) prog_32_method_82_code (3 : Nat) (Option.none : Option Jvm.ClassFile.FieldType)) ∈ lw_all := lw_g (lw_at lw_m9 12 rfl) rfl
theorem q1979 : (Jvm.Cond.methodLink "java/lang/StringBuilder" (308 : Nat) ({ cls := "java/lang/AbstractStringBuilder", name := "setCharAt", desc := "(IC)V" } : Jvm.MethodName)) ∈ lw_all := lw_g (lw_at lw_m9 13 rfl) rfl
theorem q2004 : (Jvm.Cond.instanceMethod ({ cls := "java/lang/StringBuilder", name := "setLength", desc := "(I)V" } : Jvm.MethodName)) ∈ lw_all := lw_g (lw_at lw_m9 38 rfl) rfl
theorem q2005 : (Jvm.Cond.selects "java/lang/StringBuilder" ({ cls := "java/lang/StringBuilder", name := "setLength", desc := "(I)V" } : Jvm.MethodName) ({ cls := "java/lang/StringBuilder", name := "setLength", desc := "(I)V" } : Jvm.MethodName)) ∈ lw_all := lw_g (lw_at lw_m9 39 rfl) rfl
theorem q2006 : (Jvm.Cond.code ({ cls := "java/lang/StringBuilder", name := "setLength", desc := "(I)V" } : Jvm.MethodName) prog_32_method_89_code (2 : Nat) (Option.none : Option Jvm.ClassFile.FieldType)) ∈ lw_all := lw_g (lw_at lw_m9 40 rfl) rfl
theorem q2007 : (Jvm.Cond.methodLink "java/lang/StringBuilder" (333 : Nat) ({ cls := "java/lang/AbstractStringBuilder", name := "setLength", desc := "(I)V" } : Jvm.MethodName)) ∈ lw_all := lw_g (lw_at lw_m9 41 rfl) rfl
theorem q2336 : (Jvm.Cond.selects "java/lang/StringBuilder" ({ cls := "java/lang/AbstractStringBuilder", name := "length", desc := "()I" } : Jvm.MethodName) ({ cls := "java/lang/StringBuilder", name := "length", desc := "()I" } : Jvm.MethodName)) ∈ lw_all := lw_g (lw_at lw_m10 130 rfl) rfl
theorem q2355 : (Jvm.Cond.selects "java/lang/StringBuilder" ({ cls := "java/lang/AbstractStringBuilder", name := "append", desc := "(Ljava/lang/String;)Ljava/lang/AbstractStringBuilder;" } : Jvm.MethodName) ({ cls := "java/lang/StringBuilder", name := "append", desc := "(Ljava/lang/String;)Ljava/lang/AbstractStringBuilder;" } : Jvm.MethodName)) ∈ lw_all := lw_g (lw_at lw_m10 149 rfl) rfl
theorem q2366 : (Jvm.Cond.castable "java/lang/StringBuilder" "java/lang/AbstractStringBuilder") ∈ lw_tbl := lw_at lw_m10 160 rfl
theorem q2373 : (Jvm.Cond.castable "java/lang/StringBuilder" "java/lang/Object") ∈ lw_tbl := lw_at lw_m10 167 rfl
theorem in_J4 : ∀ w ∈ wsJ40, w ∈ lw_all := lw_in wsJ40 [186, 188, 190, 192] (by decide +kernel) (by decide +kernel)

/-! java/lang/String -/
set_option maxRecDepth 100000
def RJ5 : String := "java/lang/String"
def TJ5 : u_T := fun k => match k with
  | 0 => ("java/lang/String", "value", "[B", true)
  | 1 => ("java/lang/String", "coder", "B", true)
  | 2 => ("java/lang/String", "hash", "I", false)
  | _ => ("java/lang/String", "hashIsZero", "Z", false)
def tyJ5 : Nat → FieldType := fun k => match k with
  | 0 => .array .byte
  | 1 => .byte
  | 2 => .int
  | _ => .boolean
abbrev wsJ50 : List Cond := u_ws RJ5 TJ5 4
theorem nmJ5 : ∀ a, a < 4 → ∀ b, b < 4 → a ≠ b → (TJ5 a).2.1 ≠ (TJ5 b).2.1 := by decide +kernel
theorem tyJ5_ok : ∀ k, k < 4 → parseFieldDescriptor (TJ5 k).2.2.1 = some (tyJ5 k) := by decide +kernel
abbrev cJ5_length : ByteArray := prog_31_method_54_code
def yJ5_length : MethodName := ⟨RJ5, "length", "()I"⟩
def dkwJ5_length_0 : List UInt8 := [42, 180, 0, 9, 190, 42, 182, 1, 79, 122, 172]
abbrev dktJ5_length_0 : List UInt8 := dkwJ5_length_0 ++ []
theorem dksJ5_length_0 : cJ5_length.data.toList.drop 0 = dktJ5_length_0 := by decide +kernel
theorem dJ5_length_0 : decode cJ5_length 0 = .ok (.aload_n 0, 1) := dk_42 (dk_at dksJ5_length_0 0 rfl rfl)
theorem dJ5_length_1 : decode cJ5_length 1 = .ok (.getfield 9, 3) := dk_180 0 9 (dk_at dksJ5_length_0 1 rfl rfl)
theorem dJ5_length_4 : decode cJ5_length 4 = .ok (.arraylength, 1) := dk_190 (dk_at dksJ5_length_0 4 rfl rfl)
theorem dJ5_length_5 : decode cJ5_length 5 = .ok (.aload_n 0, 1) := dk_42 (dk_at dksJ5_length_0 5 rfl rfl)
theorem dJ5_length_6 : decode cJ5_length 6 = .ok (.invokevirtual 335, 3) := dk_182 1 79 (dk_at dksJ5_length_0 6 rfl rfl)
theorem dJ5_length_9 : decode cJ5_length 9 = .ok (.ishr, 1) := dk_122 (dk_at dksJ5_length_0 9 rfl rfl)
theorem dJ5_length_10 : decode cJ5_length 10 = .ok (.ireturn, 1) := dk_172 (dk_at dksJ5_length_0 10 rfl rfl)
abbrev cJ5_coder : ByteArray := prog_31_method_152_code
def yJ5_coder : MethodName := ⟨RJ5, "coder", "()B"⟩
def dkwJ5_coder_0 : List UInt8 := [178, 0, 38, 153, 0, 10, 42, 180, 0, 15, 167, 0, 4, 4, 172]
abbrev dktJ5_coder_0 : List UInt8 := dkwJ5_coder_0 ++ []
theorem dksJ5_coder_0 : cJ5_coder.data.toList.drop 0 = dktJ5_coder_0 := by decide +kernel
theorem dJ5_coder_0 : decode cJ5_coder 0 = .ok (.getstatic 38, 3) := dk_178 0 38 (dk_at dksJ5_coder_0 0 rfl rfl)
theorem dJ5_coder_3 : decode cJ5_coder 3 = .ok (.ifCond .eq 10, 3) := dk_153 0 10 (dk_at dksJ5_coder_0 3 rfl rfl)
theorem dJ5_coder_6 : decode cJ5_coder 6 = .ok (.aload_n 0, 1) := dk_42 (dk_at dksJ5_coder_0 6 rfl rfl)
theorem dJ5_coder_7 : decode cJ5_coder 7 = .ok (.getfield 15, 3) := dk_180 0 15 (dk_at dksJ5_coder_0 7 rfl rfl)
theorem dJ5_coder_10 : decode cJ5_coder 10 = .ok (.goto 4, 3) := dk_167 0 4 (dk_at dksJ5_coder_0 10 rfl rfl)
theorem dJ5_coder_13 : decode cJ5_coder 13 = .ok (.iconst 1, 1) := dk_4 (dk_at dksJ5_coder_0 13 rfl rfl)
theorem dJ5_coder_14 : decode cJ5_coder 14 = .ok (.ireturn, 1) := dk_172 (dk_at dksJ5_coder_0 14 rfl rfl)
abbrev cJ5_checkIndex : ByteArray := prog_31_method_155_code
def yJ5_checkIndex : MethodName := ⟨RJ5, "checkIndex", "(II)V"⟩
def dkwJ5_checkIndex_0 : List UInt8 := [26, 27, 178, 4, 29, 184, 4, 35, 87, 177]
abbrev dktJ5_checkIndex_0 : List UInt8 := dkwJ5_checkIndex_0 ++ []
theorem dksJ5_checkIndex_0 : cJ5_checkIndex.data.toList.drop 0 = dktJ5_checkIndex_0 := by decide +kernel
theorem dJ5_checkIndex_0 : decode cJ5_checkIndex 0 = .ok (.iload_n 0, 1) := dk_26 (dk_at dksJ5_checkIndex_0 0 rfl rfl)
theorem dJ5_checkIndex_1 : decode cJ5_checkIndex 1 = .ok (.iload_n 1, 1) := dk_27 (dk_at dksJ5_checkIndex_0 1 rfl rfl)
theorem dJ5_checkIndex_2 : decode cJ5_checkIndex 2 = .ok (.getstatic 1053, 3) := dk_178 4 29 (dk_at dksJ5_checkIndex_0 2 rfl rfl)
theorem dJ5_checkIndex_5 : decode cJ5_checkIndex 5 = .ok (.invokestatic 1059, 3) := dk_184 4 35 (dk_at dksJ5_checkIndex_0 5 rfl rfl)
theorem dJ5_checkIndex_8 : decode cJ5_checkIndex 8 = .ok (.pop, 1) := dk_87 (dk_at dksJ5_checkIndex_0 8 rfl rfl)
theorem dJ5_checkIndex_9 : decode cJ5_checkIndex 9 = .ok (.return_, 1) := dk_177 (dk_at dksJ5_checkIndex_0 9 rfl rfl)
abbrev cJ5_charAt : ByteArray := prog_31_method_56_code
def yJ5_charAt : MethodName := ⟨RJ5, "charAt", "(I)C"⟩
def dkwJ5_charAt_1 : List UInt8 := [172]
abbrev dktJ5_charAt_1 : List UInt8 := dkwJ5_charAt_1 ++ []
def dkwJ5_charAt_0 : List UInt8 := [42, 182, 1, 236, 153, 0, 12, 42, 180, 0, 9, 27, 184, 1, 239, 172, 42, 180, 0, 9, 27, 184, 1, 242]
abbrev dktJ5_charAt_0 : List UInt8 := dkwJ5_charAt_0 ++ dktJ5_charAt_1
theorem dksJ5_charAt_0 : cJ5_charAt.data.toList.drop 0 = dktJ5_charAt_0 := by decide +kernel
theorem dksJ5_charAt_1 : cJ5_charAt.data.toList.drop 24 = dktJ5_charAt_1 := dk_seg dksJ5_charAt_0 24 rfl rfl
theorem dJ5_charAt_0 : decode cJ5_charAt 0 = .ok (.aload_n 0, 1) := dk_42 (dk_at dksJ5_charAt_0 0 rfl rfl)
theorem dJ5_charAt_1 : decode cJ5_charAt 1 = .ok (.invokevirtual 492, 3) := dk_182 1 236 (dk_at dksJ5_charAt_0 1 rfl rfl)
theorem dJ5_charAt_4 : decode cJ5_charAt 4 = .ok (.ifCond .eq 12, 3) := dk_153 0 12 (dk_at dksJ5_charAt_0 4 rfl rfl)
theorem dJ5_charAt_7 : decode cJ5_charAt 7 = .ok (.aload_n 0, 1) := dk_42 (dk_at dksJ5_charAt_0 7 rfl rfl)
theorem dJ5_charAt_8 : decode cJ5_charAt 8 = .ok (.getfield 9, 3) := dk_180 0 9 (dk_at dksJ5_charAt_0 8 rfl rfl)
theorem dJ5_charAt_11 : decode cJ5_charAt 11 = .ok (.iload_n 1, 1) := dk_27 (dk_at dksJ5_charAt_0 11 rfl rfl)
theorem dJ5_charAt_12 : decode cJ5_charAt 12 = .ok (.invokestatic 495, 3) := dk_184 1 239 (dk_at dksJ5_charAt_0 12 rfl rfl)
theorem dJ5_charAt_15 : decode cJ5_charAt 15 = .ok (.ireturn, 1) := dk_172 (dk_at dksJ5_charAt_0 15 rfl rfl)
theorem dJ5_charAt_16 : decode cJ5_charAt 16 = .ok (.aload_n 0, 1) := dk_42 (dk_at dksJ5_charAt_0 16 rfl rfl)
theorem dJ5_charAt_17 : decode cJ5_charAt 17 = .ok (.getfield 9, 3) := dk_180 0 9 (dk_at dksJ5_charAt_0 17 rfl rfl)
theorem dJ5_charAt_20 : decode cJ5_charAt 20 = .ok (.iload_n 1, 1) := dk_27 (dk_at dksJ5_charAt_0 20 rfl rfl)
theorem dJ5_charAt_21 : decode cJ5_charAt 21 = .ok (.invokestatic 498, 3) := dk_184 1 242 (dk_at dksJ5_charAt_0 21 rfl rfl)
theorem dJ5_charAt_24 : decode cJ5_charAt 24 = .ok (.ireturn, 1) := dk_172 (dk_at dksJ5_charAt_1 0 rfl rfl)
abbrev cJ5_isLatin1 : ByteArray := prog_31_method_154_code
def yJ5_isLatin1 : MethodName := ⟨RJ5, "isLatin1", "()Z"⟩
def dkwJ5_isLatin1_0 : List UInt8 := [178, 0, 38, 153, 0, 14, 42, 180, 0, 15, 154, 0, 7, 4, 167, 0, 4, 3, 172]
abbrev dktJ5_isLatin1_0 : List UInt8 := dkwJ5_isLatin1_0 ++ []
theorem dksJ5_isLatin1_0 : cJ5_isLatin1.data.toList.drop 0 = dktJ5_isLatin1_0 := by decide +kernel
theorem dJ5_isLatin1_0 : decode cJ5_isLatin1 0 = .ok (.getstatic 38, 3) := dk_178 0 38 (dk_at dksJ5_isLatin1_0 0 rfl rfl)
theorem dJ5_isLatin1_3 : decode cJ5_isLatin1 3 = .ok (.ifCond .eq 14, 3) := dk_153 0 14 (dk_at dksJ5_isLatin1_0 3 rfl rfl)
theorem dJ5_isLatin1_6 : decode cJ5_isLatin1 6 = .ok (.aload_n 0, 1) := dk_42 (dk_at dksJ5_isLatin1_0 6 rfl rfl)
theorem dJ5_isLatin1_7 : decode cJ5_isLatin1 7 = .ok (.getfield 15, 3) := dk_180 0 15 (dk_at dksJ5_isLatin1_0 7 rfl rfl)
theorem dJ5_isLatin1_10 : decode cJ5_isLatin1 10 = .ok (.ifCond .ne 7, 3) := dk_154 0 7 (dk_at dksJ5_isLatin1_0 10 rfl rfl)
theorem dJ5_isLatin1_13 : decode cJ5_isLatin1 13 = .ok (.iconst 1, 1) := dk_4 (dk_at dksJ5_isLatin1_0 13 rfl rfl)
theorem dJ5_isLatin1_14 : decode cJ5_isLatin1 14 = .ok (.goto 4, 3) := dk_167 0 4 (dk_at dksJ5_isLatin1_0 14 rfl rfl)
theorem dJ5_isLatin1_17 : decode cJ5_isLatin1 17 = .ok (.iconst 0, 1) := dk_3 (dk_at dksJ5_isLatin1_0 17 rfl rfl)
theorem dJ5_isLatin1_18 : decode cJ5_isLatin1 18 = .ok (.ireturn, 1) := dk_172 (dk_at dksJ5_isLatin1_0 18 rfl rfl)
abbrev cJ5_init : ByteArray := prog_31_method_53_code
def yJ5_init : MethodName := ⟨RJ5, "<init>", "(Ljava/lang/StringBuilder;)V"⟩
def dkwJ5_init_0 : List UInt8 := [42, 43, 1, 183, 1, 233, 177]
abbrev dktJ5_init_0 : List UInt8 := dkwJ5_init_0 ++ []
theorem dksJ5_init_0 : cJ5_init.data.toList.drop 0 = dktJ5_init_0 := by decide +kernel
theorem dJ5_init_0 : decode cJ5_init 0 = .ok (.aload_n 0, 1) := dk_42 (dk_at dksJ5_init_0 0 rfl rfl)
theorem dJ5_init_1 : decode cJ5_init 1 = .ok (.aload_n 1, 1) := dk_43 (dk_at dksJ5_init_0 1 rfl rfl)
theorem dJ5_init_2 : decode cJ5_init 2 = .ok (.aconst_null, 1) := dk_1 (dk_at dksJ5_init_0 2 rfl rfl)
theorem dJ5_init_3 : decode cJ5_init 3 = .ok (.invokespecial 489, 3) := dk_183 1 233 (dk_at dksJ5_init_0 3 rfl rfl)
theorem dJ5_init_6 : decode cJ5_init 6 = .ok (.return_, 1) := dk_177 (dk_at dksJ5_init_0 6 rfl rfl)
abbrev cJ5_init_2 : ByteArray := prog_31_method_150_code
def yJ5_init_2 : MethodName := ⟨RJ5, "<init>", "(Ljava/lang/AbstractStringBuilder;Ljava/lang/Void;)V"⟩
def dkwJ5_init_2_4 : List UInt8 := [181, 0, 9, 177]
abbrev dktJ5_init_2_4 : List UInt8 := dkwJ5_init_2_4 ++ []
def dkwJ5_init_2_3 : List UInt8 := [184, 0, 47, 181, 0, 15, 177, 42, 4, 181, 0, 15, 42, 45, 3, 21, 4, 4, 120, 184, 0, 54]
abbrev dktJ5_init_2_3 : List UInt8 := dkwJ5_init_2_3 ++ dktJ5_init_2_4
def dkwJ5_init_2_2 : List UInt8 := [180, 4, 24, 153, 0, 28, 42, 45, 3, 21, 4, 184, 4, 27, 181, 0, 9, 42, 42, 180, 0, 9, 21, 4]
abbrev dktJ5_init_2_2 : List UInt8 := dkwJ5_init_2_2 ++ dktJ5_init_2_3
def dkwJ5_init_2_1 : List UInt8 := [181, 0, 15, 42, 45, 3, 21, 4, 184, 0, 54, 181, 0, 9, 167, 0, 59, 178, 0, 38, 153, 0, 35, 43]
abbrev dktJ5_init_2_1 : List UInt8 := dkwJ5_init_2_1 ++ dktJ5_init_2_2
def dkwJ5_init_2_0 : List UInt8 := [42, 183, 0, 1, 43, 182, 2, 40, 78, 43, 182, 2, 37, 54, 4, 43, 182, 4, 23, 153, 0, 22, 42, 3]
abbrev dktJ5_init_2_0 : List UInt8 := dkwJ5_init_2_0 ++ dktJ5_init_2_1
theorem dksJ5_init_2_0 : cJ5_init_2.data.toList.drop 0 = dktJ5_init_2_0 := by decide +kernel
theorem dksJ5_init_2_1 : cJ5_init_2.data.toList.drop 24 = dktJ5_init_2_1 := dk_seg dksJ5_init_2_0 24 rfl rfl
theorem dksJ5_init_2_2 : cJ5_init_2.data.toList.drop 48 = dktJ5_init_2_2 := dk_seg dksJ5_init_2_1 24 rfl rfl
theorem dksJ5_init_2_3 : cJ5_init_2.data.toList.drop 72 = dktJ5_init_2_3 := dk_seg dksJ5_init_2_2 24 rfl rfl
theorem dksJ5_init_2_4 : cJ5_init_2.data.toList.drop 94 = dktJ5_init_2_4 := dk_seg dksJ5_init_2_3 22 rfl rfl
theorem dJ5_init_2_0 : decode cJ5_init_2 0 = .ok (.aload_n 0, 1) := dk_42 (dk_at dksJ5_init_2_0 0 rfl rfl)
theorem dJ5_init_2_1 : decode cJ5_init_2 1 = .ok (.invokespecial 1, 3) := dk_183 0 1 (dk_at dksJ5_init_2_0 1 rfl rfl)
theorem dJ5_init_2_4 : decode cJ5_init_2 4 = .ok (.aload_n 1, 1) := dk_43 (dk_at dksJ5_init_2_0 4 rfl rfl)
theorem dJ5_init_2_5 : decode cJ5_init_2 5 = .ok (.invokevirtual 552, 3) := dk_182 2 40 (dk_at dksJ5_init_2_0 5 rfl rfl)
theorem dJ5_init_2_8 : decode cJ5_init_2 8 = .ok (.astore_n 3, 1) := dk_78 (dk_at dksJ5_init_2_0 8 rfl rfl)
theorem dJ5_init_2_9 : decode cJ5_init_2 9 = .ok (.aload_n 1, 1) := dk_43 (dk_at dksJ5_init_2_0 9 rfl rfl)
theorem dJ5_init_2_10 : decode cJ5_init_2 10 = .ok (.invokevirtual 549, 3) := dk_182 2 37 (dk_at dksJ5_init_2_0 10 rfl rfl)
theorem dJ5_init_2_13 : decode cJ5_init_2 13 = .ok (.istore 4, 2) := dk_54 4 (dk_at dksJ5_init_2_0 13 rfl rfl)
theorem dJ5_init_2_15 : decode cJ5_init_2 15 = .ok (.aload_n 1, 1) := dk_43 (dk_at dksJ5_init_2_0 15 rfl rfl)
theorem dJ5_init_2_16 : decode cJ5_init_2 16 = .ok (.invokevirtual 1047, 3) := dk_182 4 23 (dk_at dksJ5_init_2_0 16 rfl rfl)
theorem dJ5_init_2_19 : decode cJ5_init_2 19 = .ok (.ifCond .eq 22, 3) := dk_153 0 22 (dk_at dksJ5_init_2_0 19 rfl rfl)
theorem dJ5_init_2_22 : decode cJ5_init_2 22 = .ok (.aload_n 0, 1) := dk_42 (dk_at dksJ5_init_2_0 22 rfl rfl)
theorem dJ5_init_2_23 : decode cJ5_init_2 23 = .ok (.iconst 0, 1) := dk_3 (dk_at dksJ5_init_2_0 23 rfl rfl)
theorem dJ5_init_2_24 : decode cJ5_init_2 24 = .ok (.putfield 15, 3) := dk_181 0 15 (dk_at dksJ5_init_2_1 0 rfl rfl)
theorem dJ5_init_2_27 : decode cJ5_init_2 27 = .ok (.aload_n 0, 1) := dk_42 (dk_at dksJ5_init_2_1 3 rfl rfl)
theorem dJ5_init_2_28 : decode cJ5_init_2 28 = .ok (.aload_n 3, 1) := dk_45 (dk_at dksJ5_init_2_1 4 rfl rfl)
theorem dJ5_init_2_29 : decode cJ5_init_2 29 = .ok (.iconst 0, 1) := dk_3 (dk_at dksJ5_init_2_1 5 rfl rfl)
theorem dJ5_init_2_30 : decode cJ5_init_2 30 = .ok (.iload 4, 2) := dk_21 4 (dk_at dksJ5_init_2_1 6 rfl rfl)
theorem dJ5_init_2_32 : decode cJ5_init_2 32 = .ok (.invokestatic 54, 3) := dk_184 0 54 (dk_at dksJ5_init_2_1 8 rfl rfl)
theorem dJ5_init_2_35 : decode cJ5_init_2 35 = .ok (.putfield 9, 3) := dk_181 0 9 (dk_at dksJ5_init_2_1 11 rfl rfl)
theorem dJ5_init_2_38 : decode cJ5_init_2 38 = .ok (.goto 59, 3) := dk_167 0 59 (dk_at dksJ5_init_2_1 14 rfl rfl)
theorem dJ5_init_2_41 : decode cJ5_init_2 41 = .ok (.getstatic 38, 3) := dk_178 0 38 (dk_at dksJ5_init_2_1 17 rfl rfl)
theorem dJ5_init_2_44 : decode cJ5_init_2 44 = .ok (.ifCond .eq 35, 3) := dk_153 0 35 (dk_at dksJ5_init_2_1 20 rfl rfl)
theorem dJ5_init_2_47 : decode cJ5_init_2 47 = .ok (.aload_n 1, 1) := dk_43 (dk_at dksJ5_init_2_1 23 rfl rfl)
theorem dJ5_init_2_48 : decode cJ5_init_2 48 = .ok (.getfield 1048, 3) := dk_180 4 24 (dk_at dksJ5_init_2_2 0 rfl rfl)
theorem dJ5_init_2_51 : decode cJ5_init_2 51 = .ok (.ifCond .eq 28, 3) := dk_153 0 28 (dk_at dksJ5_init_2_2 3 rfl rfl)
theorem dJ5_init_2_54 : decode cJ5_init_2 54 = .ok (.aload_n 0, 1) := dk_42 (dk_at dksJ5_init_2_2 6 rfl rfl)
theorem dJ5_init_2_55 : decode cJ5_init_2 55 = .ok (.aload_n 3, 1) := dk_45 (dk_at dksJ5_init_2_2 7 rfl rfl)
theorem dJ5_init_2_56 : decode cJ5_init_2 56 = .ok (.iconst 0, 1) := dk_3 (dk_at dksJ5_init_2_2 8 rfl rfl)
theorem dJ5_init_2_57 : decode cJ5_init_2 57 = .ok (.iload 4, 2) := dk_21 4 (dk_at dksJ5_init_2_2 9 rfl rfl)
theorem dJ5_init_2_59 : decode cJ5_init_2 59 = .ok (.invokestatic 1051, 3) := dk_184 4 27 (dk_at dksJ5_init_2_2 11 rfl rfl)
theorem dJ5_init_2_62 : decode cJ5_init_2 62 = .ok (.putfield 9, 3) := dk_181 0 9 (dk_at dksJ5_init_2_2 14 rfl rfl)
theorem dJ5_init_2_65 : decode cJ5_init_2 65 = .ok (.aload_n 0, 1) := dk_42 (dk_at dksJ5_init_2_2 17 rfl rfl)
theorem dJ5_init_2_66 : decode cJ5_init_2 66 = .ok (.aload_n 0, 1) := dk_42 (dk_at dksJ5_init_2_2 18 rfl rfl)
theorem dJ5_init_2_67 : decode cJ5_init_2 67 = .ok (.getfield 9, 3) := dk_180 0 9 (dk_at dksJ5_init_2_2 19 rfl rfl)
theorem dJ5_init_2_70 : decode cJ5_init_2 70 = .ok (.iload 4, 2) := dk_21 4 (dk_at dksJ5_init_2_2 22 rfl rfl)
theorem dJ5_init_2_72 : decode cJ5_init_2 72 = .ok (.invokestatic 47, 3) := dk_184 0 47 (dk_at dksJ5_init_2_3 0 rfl rfl)
theorem dJ5_init_2_75 : decode cJ5_init_2 75 = .ok (.putfield 15, 3) := dk_181 0 15 (dk_at dksJ5_init_2_3 3 rfl rfl)
theorem dJ5_init_2_78 : decode cJ5_init_2 78 = .ok (.return_, 1) := dk_177 (dk_at dksJ5_init_2_3 6 rfl rfl)
theorem dJ5_init_2_79 : decode cJ5_init_2 79 = .ok (.aload_n 0, 1) := dk_42 (dk_at dksJ5_init_2_3 7 rfl rfl)
theorem dJ5_init_2_80 : decode cJ5_init_2 80 = .ok (.iconst 1, 1) := dk_4 (dk_at dksJ5_init_2_3 8 rfl rfl)
theorem dJ5_init_2_81 : decode cJ5_init_2 81 = .ok (.putfield 15, 3) := dk_181 0 15 (dk_at dksJ5_init_2_3 9 rfl rfl)
theorem dJ5_init_2_84 : decode cJ5_init_2 84 = .ok (.aload_n 0, 1) := dk_42 (dk_at dksJ5_init_2_3 12 rfl rfl)
theorem dJ5_init_2_85 : decode cJ5_init_2 85 = .ok (.aload_n 3, 1) := dk_45 (dk_at dksJ5_init_2_3 13 rfl rfl)
theorem dJ5_init_2_86 : decode cJ5_init_2 86 = .ok (.iconst 0, 1) := dk_3 (dk_at dksJ5_init_2_3 14 rfl rfl)
theorem dJ5_init_2_87 : decode cJ5_init_2 87 = .ok (.iload 4, 2) := dk_21 4 (dk_at dksJ5_init_2_3 15 rfl rfl)
theorem dJ5_init_2_89 : decode cJ5_init_2 89 = .ok (.iconst 1, 1) := dk_4 (dk_at dksJ5_init_2_3 17 rfl rfl)
theorem dJ5_init_2_90 : decode cJ5_init_2 90 = .ok (.ishl, 1) := dk_120 (dk_at dksJ5_init_2_3 18 rfl rfl)
theorem dJ5_init_2_91 : decode cJ5_init_2 91 = .ok (.invokestatic 54, 3) := dk_184 0 54 (dk_at dksJ5_init_2_3 19 rfl rfl)
theorem dJ5_init_2_94 : decode cJ5_init_2 94 = .ok (.putfield 9, 3) := dk_181 0 9 (dk_at dksJ5_init_2_4 0 rfl rfl)
theorem dJ5_init_2_97 : decode cJ5_init_2 97 = .ok (.return_, 1) := dk_177 (dk_at dksJ5_init_2_4 3 rfl rfl)
abbrev cJ5_checkBoundsBeginEnd : ByteArray := prog_31_method_158_code
def yJ5_checkBoundsBeginEnd : MethodName := ⟨RJ5, "checkBoundsBeginEnd", "(III)V"⟩
def dkwJ5_checkBoundsBeginEnd_0 : List UInt8 := [26, 27, 28, 178, 4, 29, 184, 4, 38, 87, 177]
abbrev dktJ5_checkBoundsBeginEnd_0 : List UInt8 := dkwJ5_checkBoundsBeginEnd_0 ++ []
theorem dksJ5_checkBoundsBeginEnd_0 : cJ5_checkBoundsBeginEnd.data.toList.drop 0 = dktJ5_checkBoundsBeginEnd_0 := by decide +kernel
theorem dJ5_checkBoundsBeginEnd_0 : decode cJ5_checkBoundsBeginEnd 0 = .ok (.iload_n 0, 1) := dk_26 (dk_at dksJ5_checkBoundsBeginEnd_0 0 rfl rfl)
theorem dJ5_checkBoundsBeginEnd_1 : decode cJ5_checkBoundsBeginEnd 1 = .ok (.iload_n 1, 1) := dk_27 (dk_at dksJ5_checkBoundsBeginEnd_0 1 rfl rfl)
theorem dJ5_checkBoundsBeginEnd_2 : decode cJ5_checkBoundsBeginEnd 2 = .ok (.iload_n 2, 1) := dk_28 (dk_at dksJ5_checkBoundsBeginEnd_0 2 rfl rfl)
theorem dJ5_checkBoundsBeginEnd_3 : decode cJ5_checkBoundsBeginEnd 3 = .ok (.getstatic 1053, 3) := dk_178 4 29 (dk_at dksJ5_checkBoundsBeginEnd_0 3 rfl rfl)
theorem dJ5_checkBoundsBeginEnd_6 : decode cJ5_checkBoundsBeginEnd 6 = .ok (.invokestatic 1062, 3) := dk_184 4 38 (dk_at dksJ5_checkBoundsBeginEnd_0 6 rfl rfl)
theorem dJ5_checkBoundsBeginEnd_9 : decode cJ5_checkBoundsBeginEnd 9 = .ok (.pop, 1) := dk_87 (dk_at dksJ5_checkBoundsBeginEnd_0 9 rfl rfl)
theorem dJ5_checkBoundsBeginEnd_10 : decode cJ5_checkBoundsBeginEnd 10 = .ok (.return_, 1) := dk_177 (dk_at dksJ5_checkBoundsBeginEnd_0 10 rfl rfl)
abbrev cJ5_getBytes : ByteArray := prog_31_method_147_code
def yJ5_getBytes : MethodName := ⟨RJ5, "getBytes", "([BIB)V"⟩
def dkwJ5_getBytes_1 : List UInt8 := [184, 0, 212, 167, 0, 18, 42, 180, 0, 9, 3, 43, 28, 42, 180, 0, 9, 190, 184, 0, 106, 177]
abbrev dktJ5_getBytes_1 : List UInt8 := dkwJ5_getBytes_1 ++ []
def dkwJ5_getBytes_0 : List UInt8 := [42, 182, 1, 79, 29, 160, 0, 23, 42, 180, 0, 9, 3, 43, 28, 29, 120, 42, 180, 0, 9, 190]
abbrev dktJ5_getBytes_0 : List UInt8 := dkwJ5_getBytes_0 ++ dktJ5_getBytes_1
theorem dksJ5_getBytes_0 : cJ5_getBytes.data.toList.drop 0 = dktJ5_getBytes_0 := by decide +kernel
theorem dksJ5_getBytes_1 : cJ5_getBytes.data.toList.drop 22 = dktJ5_getBytes_1 := dk_seg dksJ5_getBytes_0 22 rfl rfl
theorem dJ5_getBytes_0 : decode cJ5_getBytes 0 = .ok (.aload_n 0, 1) := dk_42 (dk_at dksJ5_getBytes_0 0 rfl rfl)
theorem dJ5_getBytes_1 : decode cJ5_getBytes 1 = .ok (.invokevirtual 335, 3) := dk_182 1 79 (dk_at dksJ5_getBytes_0 1 rfl rfl)
theorem dJ5_getBytes_4 : decode cJ5_getBytes 4 = .ok (.iload_n 3, 1) := dk_29 (dk_at dksJ5_getBytes_0 4 rfl rfl)
theorem dJ5_getBytes_5 : decode cJ5_getBytes 5 = .ok (.if_icmp .ne 23, 3) := dk_160 0 23 (dk_at dksJ5_getBytes_0 5 rfl rfl)
theorem dJ5_getBytes_8 : decode cJ5_getBytes 8 = .ok (.aload_n 0, 1) := dk_42 (dk_at dksJ5_getBytes_0 8 rfl rfl)
theorem dJ5_getBytes_9 : decode cJ5_getBytes 9 = .ok (.getfield 9, 3) := dk_180 0 9 (dk_at dksJ5_getBytes_0 9 rfl rfl)
theorem dJ5_getBytes_12 : decode cJ5_getBytes 12 = .ok (.iconst 0, 1) := dk_3 (dk_at dksJ5_getBytes_0 12 rfl rfl)
theorem dJ5_getBytes_13 : decode cJ5_getBytes 13 = .ok (.aload_n 1, 1) := dk_43 (dk_at dksJ5_getBytes_0 13 rfl rfl)
theorem dJ5_getBytes_14 : decode cJ5_getBytes 14 = .ok (.iload_n 2, 1) := dk_28 (dk_at dksJ5_getBytes_0 14 rfl rfl)
theorem dJ5_getBytes_15 : decode cJ5_getBytes 15 = .ok (.iload_n 3, 1) := dk_29 (dk_at dksJ5_getBytes_0 15 rfl rfl)
theorem dJ5_getBytes_16 : decode cJ5_getBytes 16 = .ok (.ishl, 1) := dk_120 (dk_at dksJ5_getBytes_0 16 rfl rfl)
theorem dJ5_getBytes_17 : decode cJ5_getBytes 17 = .ok (.aload_n 0, 1) := dk_42 (dk_at dksJ5_getBytes_0 17 rfl rfl)
theorem dJ5_getBytes_18 : decode cJ5_getBytes 18 = .ok (.getfield 9, 3) := dk_180 0 9 (dk_at dksJ5_getBytes_0 18 rfl rfl)
theorem dJ5_getBytes_21 : decode cJ5_getBytes 21 = .ok (.arraylength, 1) := dk_190 (dk_at dksJ5_getBytes_0 21 rfl rfl)
theorem dJ5_getBytes_22 : decode cJ5_getBytes 22 = .ok (.invokestatic 212, 3) := dk_184 0 212 (dk_at dksJ5_getBytes_1 0 rfl rfl)
theorem dJ5_getBytes_25 : decode cJ5_getBytes 25 = .ok (.goto 18, 3) := dk_167 0 18 (dk_at dksJ5_getBytes_1 3 rfl rfl)
theorem dJ5_getBytes_28 : decode cJ5_getBytes 28 = .ok (.aload_n 0, 1) := dk_42 (dk_at dksJ5_getBytes_1 6 rfl rfl)
theorem dJ5_getBytes_29 : decode cJ5_getBytes 29 = .ok (.getfield 9, 3) := dk_180 0 9 (dk_at dksJ5_getBytes_1 7 rfl rfl)
theorem dJ5_getBytes_32 : decode cJ5_getBytes 32 = .ok (.iconst 0, 1) := dk_3 (dk_at dksJ5_getBytes_1 10 rfl rfl)
theorem dJ5_getBytes_33 : decode cJ5_getBytes 33 = .ok (.aload_n 1, 1) := dk_43 (dk_at dksJ5_getBytes_1 11 rfl rfl)
theorem dJ5_getBytes_34 : decode cJ5_getBytes 34 = .ok (.iload_n 2, 1) := dk_28 (dk_at dksJ5_getBytes_1 12 rfl rfl)
theorem dJ5_getBytes_35 : decode cJ5_getBytes 35 = .ok (.aload_n 0, 1) := dk_42 (dk_at dksJ5_getBytes_1 13 rfl rfl)
theorem dJ5_getBytes_36 : decode cJ5_getBytes 36 = .ok (.getfield 9, 3) := dk_180 0 9 (dk_at dksJ5_getBytes_1 14 rfl rfl)
theorem dJ5_getBytes_39 : decode cJ5_getBytes 39 = .ok (.arraylength, 1) := dk_190 (dk_at dksJ5_getBytes_1 17 rfl rfl)
theorem dJ5_getBytes_40 : decode cJ5_getBytes 40 = .ok (.invokestatic 106, 3) := dk_184 0 106 (dk_at dksJ5_getBytes_1 18 rfl rfl)
theorem dJ5_getBytes_43 : decode cJ5_getBytes 43 = .ok (.return_, 1) := dk_177 (dk_at dksJ5_getBytes_1 21 rfl rfl)
abbrev cJ5_compareTo : ByteArray := prog_31_method_162_code
def yJ5_compareTo : MethodName := ⟨RJ5, "compareTo", "(Ljava/lang/Object;)I"⟩
def dkwJ5_compareTo_0 : List UInt8 := [42, 43, 192, 0, 10, 182, 4, 60, 172]
abbrev dktJ5_compareTo_0 : List UInt8 := dkwJ5_compareTo_0 ++ []
theorem dksJ5_compareTo_0 : cJ5_compareTo.data.toList.drop 0 = dktJ5_compareTo_0 := by decide +kernel
theorem dJ5_compareTo_0 : decode cJ5_compareTo 0 = .ok (.aload_n 0, 1) := dk_42 (dk_at dksJ5_compareTo_0 0 rfl rfl)
theorem dJ5_compareTo_1 : decode cJ5_compareTo 1 = .ok (.aload_n 1, 1) := dk_43 (dk_at dksJ5_compareTo_0 1 rfl rfl)
theorem dJ5_compareTo_2 : decode cJ5_compareTo 2 = .ok (.checkcast 10, 3) := dk_192 0 10 (dk_at dksJ5_compareTo_0 2 rfl rfl)
theorem dJ5_compareTo_5 : decode cJ5_compareTo 5 = .ok (.invokevirtual 1084, 3) := dk_182 4 60 (dk_at dksJ5_compareTo_0 5 rfl rfl)
theorem dJ5_compareTo_8 : decode cJ5_compareTo 8 = .ok (.ireturn, 1) := dk_172 (dk_at dksJ5_compareTo_0 8 rfl rfl)
abbrev cJ5_compareTo_2 : ByteArray := prog_31_method_71_code
def yJ5_compareTo_2 : MethodName := ⟨RJ5, "compareTo", "(Ljava/lang/String;)I"⟩
def dkwJ5_compareTo_2_2 : List UInt8 := [154, 0, 11, 44, 45, 184, 2, 79, 167, 0, 8, 44, 45, 184, 2, 82, 172]
abbrev dktJ5_compareTo_2_2 : List UInt8 := dkwJ5_compareTo_2_2 ++ []
def dkwJ5_compareTo_2_1 : List UInt8 := [160, 0, 22, 21, 4, 154, 0, 11, 44, 45, 184, 2, 74, 167, 0, 8, 44, 45, 184, 2, 78, 172, 21, 4]
abbrev dktJ5_compareTo_2_1 : List UInt8 := dkwJ5_compareTo_2_1 ++ dktJ5_compareTo_2_2
def dkwJ5_compareTo_2_0 : List UInt8 := [42, 180, 0, 9, 77, 43, 180, 0, 9, 78, 42, 182, 1, 79, 54, 4, 21, 4, 43, 182, 1, 79]
abbrev dktJ5_compareTo_2_0 : List UInt8 := dkwJ5_compareTo_2_0 ++ dktJ5_compareTo_2_1
theorem dksJ5_compareTo_2_0 : cJ5_compareTo_2.data.toList.drop 0 = dktJ5_compareTo_2_0 := by decide +kernel
theorem dksJ5_compareTo_2_1 : cJ5_compareTo_2.data.toList.drop 22 = dktJ5_compareTo_2_1 := dk_seg dksJ5_compareTo_2_0 22 rfl rfl
theorem dksJ5_compareTo_2_2 : cJ5_compareTo_2.data.toList.drop 46 = dktJ5_compareTo_2_2 := dk_seg dksJ5_compareTo_2_1 24 rfl rfl
theorem dJ5_compareTo_2_0 : decode cJ5_compareTo_2 0 = .ok (.aload_n 0, 1) := dk_42 (dk_at dksJ5_compareTo_2_0 0 rfl rfl)
theorem dJ5_compareTo_2_1 : decode cJ5_compareTo_2 1 = .ok (.getfield 9, 3) := dk_180 0 9 (dk_at dksJ5_compareTo_2_0 1 rfl rfl)
theorem dJ5_compareTo_2_4 : decode cJ5_compareTo_2 4 = .ok (.astore_n 2, 1) := dk_77 (dk_at dksJ5_compareTo_2_0 4 rfl rfl)
theorem dJ5_compareTo_2_5 : decode cJ5_compareTo_2 5 = .ok (.aload_n 1, 1) := dk_43 (dk_at dksJ5_compareTo_2_0 5 rfl rfl)
theorem dJ5_compareTo_2_6 : decode cJ5_compareTo_2 6 = .ok (.getfield 9, 3) := dk_180 0 9 (dk_at dksJ5_compareTo_2_0 6 rfl rfl)
theorem dJ5_compareTo_2_9 : decode cJ5_compareTo_2 9 = .ok (.astore_n 3, 1) := dk_78 (dk_at dksJ5_compareTo_2_0 9 rfl rfl)
theorem dJ5_compareTo_2_10 : decode cJ5_compareTo_2 10 = .ok (.aload_n 0, 1) := dk_42 (dk_at dksJ5_compareTo_2_0 10 rfl rfl)
theorem dJ5_compareTo_2_11 : decode cJ5_compareTo_2 11 = .ok (.invokevirtual 335, 3) := dk_182 1 79 (dk_at dksJ5_compareTo_2_0 11 rfl rfl)
theorem dJ5_compareTo_2_14 : decode cJ5_compareTo_2 14 = .ok (.istore 4, 2) := dk_54 4 (dk_at dksJ5_compareTo_2_0 14 rfl rfl)
theorem dJ5_compareTo_2_16 : decode cJ5_compareTo_2 16 = .ok (.iload 4, 2) := dk_21 4 (dk_at dksJ5_compareTo_2_0 16 rfl rfl)
theorem dJ5_compareTo_2_18 : decode cJ5_compareTo_2 18 = .ok (.aload_n 1, 1) := dk_43 (dk_at dksJ5_compareTo_2_0 18 rfl rfl)
theorem dJ5_compareTo_2_19 : decode cJ5_compareTo_2 19 = .ok (.invokevirtual 335, 3) := dk_182 1 79 (dk_at dksJ5_compareTo_2_0 19 rfl rfl)
theorem dJ5_compareTo_2_22 : decode cJ5_compareTo_2 22 = .ok (.if_icmp .ne 22, 3) := dk_160 0 22 (dk_at dksJ5_compareTo_2_1 0 rfl rfl)
theorem dJ5_compareTo_2_25 : decode cJ5_compareTo_2 25 = .ok (.iload 4, 2) := dk_21 4 (dk_at dksJ5_compareTo_2_1 3 rfl rfl)
theorem dJ5_compareTo_2_27 : decode cJ5_compareTo_2 27 = .ok (.ifCond .ne 11, 3) := dk_154 0 11 (dk_at dksJ5_compareTo_2_1 5 rfl rfl)
theorem dJ5_compareTo_2_30 : decode cJ5_compareTo_2 30 = .ok (.aload_n 2, 1) := dk_44 (dk_at dksJ5_compareTo_2_1 8 rfl rfl)
theorem dJ5_compareTo_2_31 : decode cJ5_compareTo_2 31 = .ok (.aload_n 3, 1) := dk_45 (dk_at dksJ5_compareTo_2_1 9 rfl rfl)
theorem dJ5_compareTo_2_32 : decode cJ5_compareTo_2 32 = .ok (.invokestatic 586, 3) := dk_184 2 74 (dk_at dksJ5_compareTo_2_1 10 rfl rfl)
theorem dJ5_compareTo_2_35 : decode cJ5_compareTo_2 35 = .ok (.goto 8, 3) := dk_167 0 8 (dk_at dksJ5_compareTo_2_1 13 rfl rfl)
theorem dJ5_compareTo_2_38 : decode cJ5_compareTo_2 38 = .ok (.aload_n 2, 1) := dk_44 (dk_at dksJ5_compareTo_2_1 16 rfl rfl)
theorem dJ5_compareTo_2_39 : decode cJ5_compareTo_2 39 = .ok (.aload_n 3, 1) := dk_45 (dk_at dksJ5_compareTo_2_1 17 rfl rfl)
theorem dJ5_compareTo_2_40 : decode cJ5_compareTo_2 40 = .ok (.invokestatic 590, 3) := dk_184 2 78 (dk_at dksJ5_compareTo_2_1 18 rfl rfl)
theorem dJ5_compareTo_2_43 : decode cJ5_compareTo_2 43 = .ok (.ireturn, 1) := dk_172 (dk_at dksJ5_compareTo_2_1 21 rfl rfl)
theorem dJ5_compareTo_2_44 : decode cJ5_compareTo_2 44 = .ok (.iload 4, 2) := dk_21 4 (dk_at dksJ5_compareTo_2_1 22 rfl rfl)
theorem dJ5_compareTo_2_46 : decode cJ5_compareTo_2 46 = .ok (.ifCond .ne 11, 3) := dk_154 0 11 (dk_at dksJ5_compareTo_2_2 0 rfl rfl)
theorem dJ5_compareTo_2_49 : decode cJ5_compareTo_2 49 = .ok (.aload_n 2, 1) := dk_44 (dk_at dksJ5_compareTo_2_2 3 rfl rfl)
theorem dJ5_compareTo_2_50 : decode cJ5_compareTo_2 50 = .ok (.aload_n 3, 1) := dk_45 (dk_at dksJ5_compareTo_2_2 4 rfl rfl)
theorem dJ5_compareTo_2_51 : decode cJ5_compareTo_2 51 = .ok (.invokestatic 591, 3) := dk_184 2 79 (dk_at dksJ5_compareTo_2_2 5 rfl rfl)
theorem dJ5_compareTo_2_54 : decode cJ5_compareTo_2 54 = .ok (.goto 8, 3) := dk_167 0 8 (dk_at dksJ5_compareTo_2_2 8 rfl rfl)
theorem dJ5_compareTo_2_57 : decode cJ5_compareTo_2 57 = .ok (.aload_n 2, 1) := dk_44 (dk_at dksJ5_compareTo_2_2 11 rfl rfl)
theorem dJ5_compareTo_2_58 : decode cJ5_compareTo_2 58 = .ok (.aload_n 3, 1) := dk_45 (dk_at dksJ5_compareTo_2_2 12 rfl rfl)
theorem dJ5_compareTo_2_59 : decode cJ5_compareTo_2 59 = .ok (.invokestatic 594, 3) := dk_184 2 82 (dk_at dksJ5_compareTo_2_2 13 rfl rfl)
theorem dJ5_compareTo_2_62 : decode cJ5_compareTo_2 62 = .ok (.ireturn, 1) := dk_172 (dk_at dksJ5_compareTo_2_2 16 rfl rfl)
abbrev cJ5_checkOffset : ByteArray := prog_31_method_156_code
def yJ5_checkOffset : MethodName := ⟨RJ5, "checkOffset", "(II)V"⟩
def dkwJ5_checkOffset_0 : List UInt8 := [26, 27, 27, 178, 4, 29, 184, 4, 38, 87, 177]
abbrev dktJ5_checkOffset_0 : List UInt8 := dkwJ5_checkOffset_0 ++ []
theorem dksJ5_checkOffset_0 : cJ5_checkOffset.data.toList.drop 0 = dktJ5_checkOffset_0 := by decide +kernel
theorem dJ5_checkOffset_0 : decode cJ5_checkOffset 0 = .ok (.iload_n 0, 1) := dk_26 (dk_at dksJ5_checkOffset_0 0 rfl rfl)
theorem dJ5_checkOffset_1 : decode cJ5_checkOffset 1 = .ok (.iload_n 1, 1) := dk_27 (dk_at dksJ5_checkOffset_0 1 rfl rfl)
theorem dJ5_checkOffset_2 : decode cJ5_checkOffset 2 = .ok (.iload_n 1, 1) := dk_27 (dk_at dksJ5_checkOffset_0 2 rfl rfl)
theorem dJ5_checkOffset_3 : decode cJ5_checkOffset 3 = .ok (.getstatic 1053, 3) := dk_178 4 29 (dk_at dksJ5_checkOffset_0 3 rfl rfl)
theorem dJ5_checkOffset_6 : decode cJ5_checkOffset 6 = .ok (.invokestatic 1062, 3) := dk_184 4 38 (dk_at dksJ5_checkOffset_0 6 rfl rfl)
theorem dJ5_checkOffset_9 : decode cJ5_checkOffset 9 = .ok (.pop, 1) := dk_87 (dk_at dksJ5_checkOffset_0 9 rfl rfl)
theorem dJ5_checkOffset_10 : decode cJ5_checkOffset 10 = .ok (.return_, 1) := dk_177 (dk_at dksJ5_checkOffset_0 10 rfl rfl)
abbrev cJ5_equals : ByteArray := prog_31_method_66_code
def yJ5_equals : MethodName := ⟨RJ5, "equals", "(Ljava/lang/Object;)Z"⟩
def dkwJ5_equals_2 : List UInt8 := [184, 2, 29, 153, 0, 7, 4, 167, 0, 4, 3, 172]
abbrev dktJ5_equals_2 : List UInt8 := dkwJ5_equals_2 ++ []
def dkwJ5_equals_1 : List UInt8 := [153, 0, 14, 42, 180, 0, 15, 44, 180, 0, 15, 160, 0, 21, 42, 180, 0, 9, 44, 180, 0, 9]
abbrev dktJ5_equals_1 : List UInt8 := dkwJ5_equals_1 ++ dktJ5_equals_2
def dkwJ5_equals_0 : List UInt8 := [42, 43, 166, 0, 5, 4, 172, 43, 193, 0, 10, 153, 0, 43, 43, 192, 0, 10, 77, 178, 0, 38]
abbrev dktJ5_equals_0 : List UInt8 := dkwJ5_equals_0 ++ dktJ5_equals_1
theorem dksJ5_equals_0 : cJ5_equals.data.toList.drop 0 = dktJ5_equals_0 := by decide +kernel
theorem dksJ5_equals_1 : cJ5_equals.data.toList.drop 22 = dktJ5_equals_1 := dk_seg dksJ5_equals_0 22 rfl rfl
theorem dksJ5_equals_2 : cJ5_equals.data.toList.drop 44 = dktJ5_equals_2 := dk_seg dksJ5_equals_1 22 rfl rfl
theorem dJ5_equals_0 : decode cJ5_equals 0 = .ok (.aload_n 0, 1) := dk_42 (dk_at dksJ5_equals_0 0 rfl rfl)
theorem dJ5_equals_1 : decode cJ5_equals 1 = .ok (.aload_n 1, 1) := dk_43 (dk_at dksJ5_equals_0 1 rfl rfl)
theorem dJ5_equals_2 : decode cJ5_equals 2 = .ok (.if_acmp .ne 5, 3) := dk_166 0 5 (dk_at dksJ5_equals_0 2 rfl rfl)
theorem dJ5_equals_5 : decode cJ5_equals 5 = .ok (.iconst 1, 1) := dk_4 (dk_at dksJ5_equals_0 5 rfl rfl)
theorem dJ5_equals_6 : decode cJ5_equals 6 = .ok (.ireturn, 1) := dk_172 (dk_at dksJ5_equals_0 6 rfl rfl)
theorem dJ5_equals_7 : decode cJ5_equals 7 = .ok (.aload_n 1, 1) := dk_43 (dk_at dksJ5_equals_0 7 rfl rfl)
theorem dJ5_equals_8 : decode cJ5_equals 8 = .ok (.instanceof 10, 3) := dk_193 0 10 (dk_at dksJ5_equals_0 8 rfl rfl)
theorem dJ5_equals_11 : decode cJ5_equals 11 = .ok (.ifCond .eq 43, 3) := dk_153 0 43 (dk_at dksJ5_equals_0 11 rfl rfl)
theorem dJ5_equals_14 : decode cJ5_equals 14 = .ok (.aload_n 1, 1) := dk_43 (dk_at dksJ5_equals_0 14 rfl rfl)
theorem dJ5_equals_15 : decode cJ5_equals 15 = .ok (.checkcast 10, 3) := dk_192 0 10 (dk_at dksJ5_equals_0 15 rfl rfl)
theorem dJ5_equals_18 : decode cJ5_equals 18 = .ok (.astore_n 2, 1) := dk_77 (dk_at dksJ5_equals_0 18 rfl rfl)
theorem dJ5_equals_19 : decode cJ5_equals 19 = .ok (.getstatic 38, 3) := dk_178 0 38 (dk_at dksJ5_equals_0 19 rfl rfl)
theorem dJ5_equals_22 : decode cJ5_equals 22 = .ok (.ifCond .eq 14, 3) := dk_153 0 14 (dk_at dksJ5_equals_1 0 rfl rfl)
theorem dJ5_equals_25 : decode cJ5_equals 25 = .ok (.aload_n 0, 1) := dk_42 (dk_at dksJ5_equals_1 3 rfl rfl)
theorem dJ5_equals_26 : decode cJ5_equals 26 = .ok (.getfield 15, 3) := dk_180 0 15 (dk_at dksJ5_equals_1 4 rfl rfl)
theorem dJ5_equals_29 : decode cJ5_equals 29 = .ok (.aload_n 2, 1) := dk_44 (dk_at dksJ5_equals_1 7 rfl rfl)
theorem dJ5_equals_30 : decode cJ5_equals 30 = .ok (.getfield 15, 3) := dk_180 0 15 (dk_at dksJ5_equals_1 8 rfl rfl)
theorem dJ5_equals_33 : decode cJ5_equals 33 = .ok (.if_icmp .ne 21, 3) := dk_160 0 21 (dk_at dksJ5_equals_1 11 rfl rfl)
theorem dJ5_equals_36 : decode cJ5_equals 36 = .ok (.aload_n 0, 1) := dk_42 (dk_at dksJ5_equals_1 14 rfl rfl)
theorem dJ5_equals_37 : decode cJ5_equals 37 = .ok (.getfield 9, 3) := dk_180 0 9 (dk_at dksJ5_equals_1 15 rfl rfl)
theorem dJ5_equals_40 : decode cJ5_equals 40 = .ok (.aload_n 2, 1) := dk_44 (dk_at dksJ5_equals_1 18 rfl rfl)
theorem dJ5_equals_41 : decode cJ5_equals 41 = .ok (.getfield 9, 3) := dk_180 0 9 (dk_at dksJ5_equals_1 19 rfl rfl)
theorem dJ5_equals_44 : decode cJ5_equals 44 = .ok (.invokestatic 541, 3) := dk_184 2 29 (dk_at dksJ5_equals_2 0 rfl rfl)
theorem dJ5_equals_47 : decode cJ5_equals 47 = .ok (.ifCond .eq 7, 3) := dk_153 0 7 (dk_at dksJ5_equals_2 3 rfl rfl)
theorem dJ5_equals_50 : decode cJ5_equals 50 = .ok (.iconst 1, 1) := dk_4 (dk_at dksJ5_equals_2 6 rfl rfl)
theorem dJ5_equals_51 : decode cJ5_equals 51 = .ok (.goto 4, 3) := dk_167 0 4 (dk_at dksJ5_equals_2 7 rfl rfl)
theorem dJ5_equals_54 : decode cJ5_equals 54 = .ok (.iconst 0, 1) := dk_3 (dk_at dksJ5_equals_2 10 rfl rfl)
theorem dJ5_equals_55 : decode cJ5_equals 55 = .ok (.ireturn, 1) := dk_172 (dk_at dksJ5_equals_2 11 rfl rfl)
abbrev cJ5_startsWith : ByteArray := prog_31_method_76_code
def yJ5_startsWith : MethodName := ⟨RJ5, "startsWith", "(Ljava/lang/String;)Z"⟩
def dkwJ5_startsWith_0 : List UInt8 := [42, 43, 3, 182, 2, 112, 172]
abbrev dktJ5_startsWith_0 : List UInt8 := dkwJ5_startsWith_0 ++ []
theorem dksJ5_startsWith_0 : cJ5_startsWith.data.toList.drop 0 = dktJ5_startsWith_0 := by decide +kernel
theorem dJ5_startsWith_0 : decode cJ5_startsWith 0 = .ok (.aload_n 0, 1) := dk_42 (dk_at dksJ5_startsWith_0 0 rfl rfl)
theorem dJ5_startsWith_1 : decode cJ5_startsWith 1 = .ok (.aload_n 1, 1) := dk_43 (dk_at dksJ5_startsWith_0 1 rfl rfl)
theorem dJ5_startsWith_2 : decode cJ5_startsWith 2 = .ok (.iconst 0, 1) := dk_3 (dk_at dksJ5_startsWith_0 2 rfl rfl)
theorem dJ5_startsWith_3 : decode cJ5_startsWith 3 = .ok (.invokevirtual 624, 3) := dk_182 2 112 (dk_at dksJ5_startsWith_0 3 rfl rfl)
theorem dJ5_startsWith_6 : decode cJ5_startsWith 6 = .ok (.ireturn, 1) := dk_172 (dk_at dksJ5_startsWith_0 6 rfl rfl)
abbrev cJ5_startsWith_2 : ByteArray := prog_31_method_75_code
def yJ5_startsWith_2 : MethodName := ⟨RJ5, "startsWith", "(Ljava/lang/String;I)Z"⟩
def dkwJ5_startsWith_2_5 : List UInt8 := [159, 255, 229, 3, 172, 4, 172]
abbrev dktJ5_startsWith_2_5 : List UInt8 := dkwJ5_startsWith_2_5 ++ []
def dkwJ5_startsWith_2_4 : List UInt8 := [162, 0, 28, 45, 28, 132, 2, 1, 184, 1, 104, 25, 4, 21, 5, 132, 5, 1, 51, 17, 0, 255, 126]
abbrev dktJ5_startsWith_2_4 : List UInt8 := dkwJ5_startsWith_2_4 ++ dktJ5_startsWith_2_5
def dkwJ5_startsWith_2_3 : List UInt8 := [184, 2, 95, 156, 0, 7, 4, 167, 0, 4, 3, 172, 21, 7, 154, 0, 5, 3, 172, 21, 5, 21, 6]
abbrev dktJ5_startsWith_2_3 : List UInt8 := dkwJ5_startsWith_2_3 ++ dktJ5_startsWith_2_4
def dkwJ5_startsWith_2_2 : List UInt8 := [182, 1, 79, 160, 0, 32, 21, 7, 4, 160, 0, 7, 28, 4, 120, 61, 45, 28, 25, 4, 3, 21, 6]
abbrev dktJ5_startsWith_2_2 : List UInt8 := dkwJ5_startsWith_2_2 ++ dktJ5_startsWith_2_3
def dkwJ5_startsWith_2_1 : List UInt8 := [43, 180, 0, 9, 58, 4, 3, 54, 5, 25, 4, 190, 54, 6, 42, 182, 1, 79, 54, 7, 21, 7, 43]
abbrev dktJ5_startsWith_2_1 : List UInt8 := dkwJ5_startsWith_2_1 ++ dktJ5_startsWith_2_2
def dkwJ5_startsWith_2_0 : List UInt8 := [28, 155, 0, 16, 28, 42, 182, 1, 249, 43, 182, 1, 249, 100, 164, 0, 5, 3, 172, 42, 180, 0, 9, 78]
abbrev dktJ5_startsWith_2_0 : List UInt8 := dkwJ5_startsWith_2_0 ++ dktJ5_startsWith_2_1
theorem dksJ5_startsWith_2_0 : cJ5_startsWith_2.data.toList.drop 0 = dktJ5_startsWith_2_0 := by decide +kernel
theorem dksJ5_startsWith_2_1 : cJ5_startsWith_2.data.toList.drop 24 = dktJ5_startsWith_2_1 := dk_seg dksJ5_startsWith_2_0 24 rfl rfl
theorem dksJ5_startsWith_2_2 : cJ5_startsWith_2.data.toList.drop 47 = dktJ5_startsWith_2_2 := dk_seg dksJ5_startsWith_2_1 23 rfl rfl
theorem dksJ5_startsWith_2_3 : cJ5_startsWith_2.data.toList.drop 70 = dktJ5_startsWith_2_3 := dk_seg dksJ5_startsWith_2_2 23 rfl rfl
theorem dksJ5_startsWith_2_4 : cJ5_startsWith_2.data.toList.drop 93 = dktJ5_startsWith_2_4 := dk_seg dksJ5_startsWith_2_3 23 rfl rfl
theorem dksJ5_startsWith_2_5 : cJ5_startsWith_2.data.toList.drop 116 = dktJ5_startsWith_2_5 := dk_seg dksJ5_startsWith_2_4 23 rfl rfl
theorem dJ5_startsWith_2_0 : decode cJ5_startsWith_2 0 = .ok (.iload_n 2, 1) := dk_28 (dk_at dksJ5_startsWith_2_0 0 rfl rfl)
theorem dJ5_startsWith_2_1 : decode cJ5_startsWith_2 1 = .ok (.ifCond .lt 16, 3) := dk_155 0 16 (dk_at dksJ5_startsWith_2_0 1 rfl rfl)
theorem dJ5_startsWith_2_4 : decode cJ5_startsWith_2 4 = .ok (.iload_n 2, 1) := dk_28 (dk_at dksJ5_startsWith_2_0 4 rfl rfl)
theorem dJ5_startsWith_2_5 : decode cJ5_startsWith_2 5 = .ok (.aload_n 0, 1) := dk_42 (dk_at dksJ5_startsWith_2_0 5 rfl rfl)
theorem dJ5_startsWith_2_6 : decode cJ5_startsWith_2 6 = .ok (.invokevirtual 505, 3) := dk_182 1 249 (dk_at dksJ5_startsWith_2_0 6 rfl rfl)
theorem dJ5_startsWith_2_9 : decode cJ5_startsWith_2 9 = .ok (.aload_n 1, 1) := dk_43 (dk_at dksJ5_startsWith_2_0 9 rfl rfl)
theorem dJ5_startsWith_2_10 : decode cJ5_startsWith_2 10 = .ok (.invokevirtual 505, 3) := dk_182 1 249 (dk_at dksJ5_startsWith_2_0 10 rfl rfl)
theorem dJ5_startsWith_2_13 : decode cJ5_startsWith_2 13 = .ok (.isub, 1) := dk_100 (dk_at dksJ5_startsWith_2_0 13 rfl rfl)
theorem dJ5_startsWith_2_14 : decode cJ5_startsWith_2 14 = .ok (.if_icmp .le 5, 3) := dk_164 0 5 (dk_at dksJ5_startsWith_2_0 14 rfl rfl)
theorem dJ5_startsWith_2_17 : decode cJ5_startsWith_2 17 = .ok (.iconst 0, 1) := dk_3 (dk_at dksJ5_startsWith_2_0 17 rfl rfl)
theorem dJ5_startsWith_2_18 : decode cJ5_startsWith_2 18 = .ok (.ireturn, 1) := dk_172 (dk_at dksJ5_startsWith_2_0 18 rfl rfl)
theorem dJ5_startsWith_2_19 : decode cJ5_startsWith_2 19 = .ok (.aload_n 0, 1) := dk_42 (dk_at dksJ5_startsWith_2_0 19 rfl rfl)
theorem dJ5_startsWith_2_20 : decode cJ5_startsWith_2 20 = .ok (.getfield 9, 3) := dk_180 0 9 (dk_at dksJ5_startsWith_2_0 20 rfl rfl)
theorem dJ5_startsWith_2_23 : decode cJ5_startsWith_2 23 = .ok (.astore_n 3, 1) := dk_78 (dk_at dksJ5_startsWith_2_0 23 rfl rfl)
theorem dJ5_startsWith_2_24 : decode cJ5_startsWith_2 24 = .ok (.aload_n 1, 1) := dk_43 (dk_at dksJ5_startsWith_2_1 0 rfl rfl)
theorem dJ5_startsWith_2_25 : decode cJ5_startsWith_2 25 = .ok (.getfield 9, 3) := dk_180 0 9 (dk_at dksJ5_startsWith_2_1 1 rfl rfl)
theorem dJ5_startsWith_2_28 : decode cJ5_startsWith_2 28 = .ok (.astore 4, 2) := dk_58 4 (dk_at dksJ5_startsWith_2_1 4 rfl rfl)
theorem dJ5_startsWith_2_30 : decode cJ5_startsWith_2 30 = .ok (.iconst 0, 1) := dk_3 (dk_at dksJ5_startsWith_2_1 6 rfl rfl)
theorem dJ5_startsWith_2_31 : decode cJ5_startsWith_2 31 = .ok (.istore 5, 2) := dk_54 5 (dk_at dksJ5_startsWith_2_1 7 rfl rfl)
theorem dJ5_startsWith_2_33 : decode cJ5_startsWith_2 33 = .ok (.aload 4, 2) := dk_25 4 (dk_at dksJ5_startsWith_2_1 9 rfl rfl)
theorem dJ5_startsWith_2_35 : decode cJ5_startsWith_2 35 = .ok (.arraylength, 1) := dk_190 (dk_at dksJ5_startsWith_2_1 11 rfl rfl)
theorem dJ5_startsWith_2_36 : decode cJ5_startsWith_2 36 = .ok (.istore 6, 2) := dk_54 6 (dk_at dksJ5_startsWith_2_1 12 rfl rfl)
theorem dJ5_startsWith_2_38 : decode cJ5_startsWith_2 38 = .ok (.aload_n 0, 1) := dk_42 (dk_at dksJ5_startsWith_2_1 14 rfl rfl)
theorem dJ5_startsWith_2_39 : decode cJ5_startsWith_2 39 = .ok (.invokevirtual 335, 3) := dk_182 1 79 (dk_at dksJ5_startsWith_2_1 15 rfl rfl)
theorem dJ5_startsWith_2_42 : decode cJ5_startsWith_2 42 = .ok (.istore 7, 2) := dk_54 7 (dk_at dksJ5_startsWith_2_1 18 rfl rfl)
theorem dJ5_startsWith_2_44 : decode cJ5_startsWith_2 44 = .ok (.iload 7, 2) := dk_21 7 (dk_at dksJ5_startsWith_2_1 20 rfl rfl)
theorem dJ5_startsWith_2_46 : decode cJ5_startsWith_2 46 = .ok (.aload_n 1, 1) := dk_43 (dk_at dksJ5_startsWith_2_1 22 rfl rfl)
theorem dJ5_startsWith_2_47 : decode cJ5_startsWith_2 47 = .ok (.invokevirtual 335, 3) := dk_182 1 79 (dk_at dksJ5_startsWith_2_2 0 rfl rfl)
theorem dJ5_startsWith_2_50 : decode cJ5_startsWith_2 50 = .ok (.if_icmp .ne 32, 3) := dk_160 0 32 (dk_at dksJ5_startsWith_2_2 3 rfl rfl)
theorem dJ5_startsWith_2_53 : decode cJ5_startsWith_2 53 = .ok (.iload 7, 2) := dk_21 7 (dk_at dksJ5_startsWith_2_2 6 rfl rfl)
theorem dJ5_startsWith_2_55 : decode cJ5_startsWith_2 55 = .ok (.iconst 1, 1) := dk_4 (dk_at dksJ5_startsWith_2_2 8 rfl rfl)
theorem dJ5_startsWith_2_56 : decode cJ5_startsWith_2 56 = .ok (.if_icmp .ne 7, 3) := dk_160 0 7 (dk_at dksJ5_startsWith_2_2 9 rfl rfl)
theorem dJ5_startsWith_2_59 : decode cJ5_startsWith_2 59 = .ok (.iload_n 2, 1) := dk_28 (dk_at dksJ5_startsWith_2_2 12 rfl rfl)
theorem dJ5_startsWith_2_60 : decode cJ5_startsWith_2 60 = .ok (.iconst 1, 1) := dk_4 (dk_at dksJ5_startsWith_2_2 13 rfl rfl)
theorem dJ5_startsWith_2_61 : decode cJ5_startsWith_2 61 = .ok (.ishl, 1) := dk_120 (dk_at dksJ5_startsWith_2_2 14 rfl rfl)
theorem dJ5_startsWith_2_62 : decode cJ5_startsWith_2 62 = .ok (.istore_n 2, 1) := dk_61 (dk_at dksJ5_startsWith_2_2 15 rfl rfl)
theorem dJ5_startsWith_2_63 : decode cJ5_startsWith_2 63 = .ok (.aload_n 3, 1) := dk_45 (dk_at dksJ5_startsWith_2_2 16 rfl rfl)
theorem dJ5_startsWith_2_64 : decode cJ5_startsWith_2 64 = .ok (.iload_n 2, 1) := dk_28 (dk_at dksJ5_startsWith_2_2 17 rfl rfl)
theorem dJ5_startsWith_2_65 : decode cJ5_startsWith_2 65 = .ok (.aload 4, 2) := dk_25 4 (dk_at dksJ5_startsWith_2_2 18 rfl rfl)
theorem dJ5_startsWith_2_67 : decode cJ5_startsWith_2 67 = .ok (.iconst 0, 1) := dk_3 (dk_at dksJ5_startsWith_2_2 20 rfl rfl)
theorem dJ5_startsWith_2_68 : decode cJ5_startsWith_2 68 = .ok (.iload 6, 2) := dk_21 6 (dk_at dksJ5_startsWith_2_2 21 rfl rfl)
theorem dJ5_startsWith_2_70 : decode cJ5_startsWith_2 70 = .ok (.invokestatic 607, 3) := dk_184 2 95 (dk_at dksJ5_startsWith_2_3 0 rfl rfl)
theorem dJ5_startsWith_2_73 : decode cJ5_startsWith_2 73 = .ok (.ifCond .ge 7, 3) := dk_156 0 7 (dk_at dksJ5_startsWith_2_3 3 rfl rfl)
theorem dJ5_startsWith_2_76 : decode cJ5_startsWith_2 76 = .ok (.iconst 1, 1) := dk_4 (dk_at dksJ5_startsWith_2_3 6 rfl rfl)
theorem dJ5_startsWith_2_77 : decode cJ5_startsWith_2 77 = .ok (.goto 4, 3) := dk_167 0 4 (dk_at dksJ5_startsWith_2_3 7 rfl rfl)
theorem dJ5_startsWith_2_80 : decode cJ5_startsWith_2 80 = .ok (.iconst 0, 1) := dk_3 (dk_at dksJ5_startsWith_2_3 10 rfl rfl)
theorem dJ5_startsWith_2_81 : decode cJ5_startsWith_2 81 = .ok (.ireturn, 1) := dk_172 (dk_at dksJ5_startsWith_2_3 11 rfl rfl)
theorem dJ5_startsWith_2_82 : decode cJ5_startsWith_2 82 = .ok (.iload 7, 2) := dk_21 7 (dk_at dksJ5_startsWith_2_3 12 rfl rfl)
theorem dJ5_startsWith_2_84 : decode cJ5_startsWith_2 84 = .ok (.ifCond .ne 5, 3) := dk_154 0 5 (dk_at dksJ5_startsWith_2_3 14 rfl rfl)
theorem dJ5_startsWith_2_87 : decode cJ5_startsWith_2 87 = .ok (.iconst 0, 1) := dk_3 (dk_at dksJ5_startsWith_2_3 17 rfl rfl)
theorem dJ5_startsWith_2_88 : decode cJ5_startsWith_2 88 = .ok (.ireturn, 1) := dk_172 (dk_at dksJ5_startsWith_2_3 18 rfl rfl)
theorem dJ5_startsWith_2_89 : decode cJ5_startsWith_2 89 = .ok (.iload 5, 2) := dk_21 5 (dk_at dksJ5_startsWith_2_3 19 rfl rfl)
theorem dJ5_startsWith_2_91 : decode cJ5_startsWith_2 91 = .ok (.iload 6, 2) := dk_21 6 (dk_at dksJ5_startsWith_2_3 21 rfl rfl)
theorem dJ5_startsWith_2_93 : decode cJ5_startsWith_2 93 = .ok (.if_icmp .ge 28, 3) := dk_162 0 28 (dk_at dksJ5_startsWith_2_4 0 rfl rfl)
theorem dJ5_startsWith_2_96 : decode cJ5_startsWith_2 96 = .ok (.aload_n 3, 1) := dk_45 (dk_at dksJ5_startsWith_2_4 3 rfl rfl)
theorem dJ5_startsWith_2_97 : decode cJ5_startsWith_2 97 = .ok (.iload_n 2, 1) := dk_28 (dk_at dksJ5_startsWith_2_4 4 rfl rfl)
theorem dJ5_startsWith_2_98 : decode cJ5_startsWith_2 98 = .ok (.iinc 2 1, 3) := dk_132 2 1 (dk_at dksJ5_startsWith_2_4 5 rfl rfl)
theorem dJ5_startsWith_2_101 : decode cJ5_startsWith_2 101 = .ok (.invokestatic 360, 3) := dk_184 1 104 (dk_at dksJ5_startsWith_2_4 8 rfl rfl)
theorem dJ5_startsWith_2_104 : decode cJ5_startsWith_2 104 = .ok (.aload 4, 2) := dk_25 4 (dk_at dksJ5_startsWith_2_4 11 rfl rfl)
theorem dJ5_startsWith_2_106 : decode cJ5_startsWith_2 106 = .ok (.iload 5, 2) := dk_21 5 (dk_at dksJ5_startsWith_2_4 13 rfl rfl)
theorem dJ5_startsWith_2_108 : decode cJ5_startsWith_2 108 = .ok (.iinc 5 1, 3) := dk_132 5 1 (dk_at dksJ5_startsWith_2_4 15 rfl rfl)
theorem dJ5_startsWith_2_111 : decode cJ5_startsWith_2 111 = .ok (.baload, 1) := dk_51 (dk_at dksJ5_startsWith_2_4 18 rfl rfl)
theorem dJ5_startsWith_2_112 : decode cJ5_startsWith_2 112 = .ok (.sipush 255, 3) := dk_17 0 255 (dk_at dksJ5_startsWith_2_4 19 rfl rfl)
theorem dJ5_startsWith_2_115 : decode cJ5_startsWith_2 115 = .ok (.iand, 1) := dk_126 (dk_at dksJ5_startsWith_2_4 22 rfl rfl)
theorem dJ5_startsWith_2_116 : decode cJ5_startsWith_2 116 = .ok (.if_icmp .eq (-27), 3) := dk_159 255 229 (dk_at dksJ5_startsWith_2_5 0 rfl rfl)
theorem dJ5_startsWith_2_119 : decode cJ5_startsWith_2 119 = .ok (.iconst 0, 1) := dk_3 (dk_at dksJ5_startsWith_2_5 3 rfl rfl)
theorem dJ5_startsWith_2_120 : decode cJ5_startsWith_2 120 = .ok (.ireturn, 1) := dk_172 (dk_at dksJ5_startsWith_2_5 4 rfl rfl)
theorem dJ5_startsWith_2_121 : decode cJ5_startsWith_2 121 = .ok (.iconst 1, 1) := dk_4 (dk_at dksJ5_startsWith_2_5 5 rfl rfl)
theorem dJ5_startsWith_2_122 : decode cJ5_startsWith_2 122 = .ok (.ireturn, 1) := dk_172 (dk_at dksJ5_startsWith_2_5 6 rfl rfl)
abbrev cJ5_substring : ByteArray := prog_31_method_91_code
def yJ5_substring : MethodName := ⟨RJ5, "substring", "(I)Ljava/lang/String;"⟩
def dkwJ5_substring_0 : List UInt8 := [42, 27, 42, 182, 1, 249, 182, 2, 169, 176]
abbrev dktJ5_substring_0 : List UInt8 := dkwJ5_substring_0 ++ []
theorem dksJ5_substring_0 : cJ5_substring.data.toList.drop 0 = dktJ5_substring_0 := by decide +kernel
theorem dJ5_substring_0 : decode cJ5_substring 0 = .ok (.aload_n 0, 1) := dk_42 (dk_at dksJ5_substring_0 0 rfl rfl)
theorem dJ5_substring_1 : decode cJ5_substring 1 = .ok (.iload_n 1, 1) := dk_27 (dk_at dksJ5_substring_0 1 rfl rfl)
theorem dJ5_substring_2 : decode cJ5_substring 2 = .ok (.aload_n 0, 1) := dk_42 (dk_at dksJ5_substring_0 2 rfl rfl)
theorem dJ5_substring_3 : decode cJ5_substring 3 = .ok (.invokevirtual 505, 3) := dk_182 1 249 (dk_at dksJ5_substring_0 3 rfl rfl)
theorem dJ5_substring_6 : decode cJ5_substring 6 = .ok (.invokevirtual 681, 3) := dk_182 2 169 (dk_at dksJ5_substring_0 6 rfl rfl)
theorem dJ5_substring_9 : decode cJ5_substring 9 = .ok (.areturn, 1) := dk_176 (dk_at dksJ5_substring_0 9 rfl rfl)
abbrev cJ5_substring_2 : ByteArray := prog_31_method_92_code
def yJ5_substring_2 : MethodName := ⟨RJ5, "substring", "(II)Ljava/lang/String;"⟩
def dkwJ5_substring_2_2 : List UInt8 := [180, 0, 9, 27, 21, 4, 184, 2, 177, 176]
abbrev dktJ5_substring_2_2 : List UInt8 := dkwJ5_substring_2_2 ++ []
def dkwJ5_substring_2_1 : List UInt8 := [100, 54, 4, 42, 182, 1, 236, 153, 0, 16, 42, 180, 0, 9, 27, 21, 4, 184, 2, 173, 167, 0, 13, 42]
abbrev dktJ5_substring_2_1 : List UInt8 := dkwJ5_substring_2_1 ++ dktJ5_substring_2_2
def dkwJ5_substring_2_0 : List UInt8 := [42, 182, 1, 249, 62, 27, 28, 29, 184, 2, 9, 27, 154, 0, 10, 28, 29, 160, 0, 5, 42, 176, 28, 27]
abbrev dktJ5_substring_2_0 : List UInt8 := dkwJ5_substring_2_0 ++ dktJ5_substring_2_1
theorem dksJ5_substring_2_0 : cJ5_substring_2.data.toList.drop 0 = dktJ5_substring_2_0 := by decide +kernel
theorem dksJ5_substring_2_1 : cJ5_substring_2.data.toList.drop 24 = dktJ5_substring_2_1 := dk_seg dksJ5_substring_2_0 24 rfl rfl
theorem dksJ5_substring_2_2 : cJ5_substring_2.data.toList.drop 48 = dktJ5_substring_2_2 := dk_seg dksJ5_substring_2_1 24 rfl rfl
theorem dJ5_substring_2_0 : decode cJ5_substring_2 0 = .ok (.aload_n 0, 1) := dk_42 (dk_at dksJ5_substring_2_0 0 rfl rfl)
theorem dJ5_substring_2_1 : decode cJ5_substring_2 1 = .ok (.invokevirtual 505, 3) := dk_182 1 249 (dk_at dksJ5_substring_2_0 1 rfl rfl)
theorem dJ5_substring_2_4 : decode cJ5_substring_2 4 = .ok (.istore_n 3, 1) := dk_62 (dk_at dksJ5_substring_2_0 4 rfl rfl)
theorem dJ5_substring_2_5 : decode cJ5_substring_2 5 = .ok (.iload_n 1, 1) := dk_27 (dk_at dksJ5_substring_2_0 5 rfl rfl)
theorem dJ5_substring_2_6 : decode cJ5_substring_2 6 = .ok (.iload_n 2, 1) := dk_28 (dk_at dksJ5_substring_2_0 6 rfl rfl)
theorem dJ5_substring_2_7 : decode cJ5_substring_2 7 = .ok (.iload_n 3, 1) := dk_29 (dk_at dksJ5_substring_2_0 7 rfl rfl)
theorem dJ5_substring_2_8 : decode cJ5_substring_2 8 = .ok (.invokestatic 521, 3) := dk_184 2 9 (dk_at dksJ5_substring_2_0 8 rfl rfl)
theorem dJ5_substring_2_11 : decode cJ5_substring_2 11 = .ok (.iload_n 1, 1) := dk_27 (dk_at dksJ5_substring_2_0 11 rfl rfl)
theorem dJ5_substring_2_12 : decode cJ5_substring_2 12 = .ok (.ifCond .ne 10, 3) := dk_154 0 10 (dk_at dksJ5_substring_2_0 12 rfl rfl)
theorem dJ5_substring_2_15 : decode cJ5_substring_2 15 = .ok (.iload_n 2, 1) := dk_28 (dk_at dksJ5_substring_2_0 15 rfl rfl)
theorem dJ5_substring_2_16 : decode cJ5_substring_2 16 = .ok (.iload_n 3, 1) := dk_29 (dk_at dksJ5_substring_2_0 16 rfl rfl)
theorem dJ5_substring_2_17 : decode cJ5_substring_2 17 = .ok (.if_icmp .ne 5, 3) := dk_160 0 5 (dk_at dksJ5_substring_2_0 17 rfl rfl)
theorem dJ5_substring_2_20 : decode cJ5_substring_2 20 = .ok (.aload_n 0, 1) := dk_42 (dk_at dksJ5_substring_2_0 20 rfl rfl)
theorem dJ5_substring_2_21 : decode cJ5_substring_2 21 = .ok (.areturn, 1) := dk_176 (dk_at dksJ5_substring_2_0 21 rfl rfl)
theorem dJ5_substring_2_22 : decode cJ5_substring_2 22 = .ok (.iload_n 2, 1) := dk_28 (dk_at dksJ5_substring_2_0 22 rfl rfl)
theorem dJ5_substring_2_23 : decode cJ5_substring_2 23 = .ok (.iload_n 1, 1) := dk_27 (dk_at dksJ5_substring_2_0 23 rfl rfl)
theorem dJ5_substring_2_24 : decode cJ5_substring_2 24 = .ok (.isub, 1) := dk_100 (dk_at dksJ5_substring_2_1 0 rfl rfl)
theorem dJ5_substring_2_25 : decode cJ5_substring_2 25 = .ok (.istore 4, 2) := dk_54 4 (dk_at dksJ5_substring_2_1 1 rfl rfl)
theorem dJ5_substring_2_27 : decode cJ5_substring_2 27 = .ok (.aload_n 0, 1) := dk_42 (dk_at dksJ5_substring_2_1 3 rfl rfl)
theorem dJ5_substring_2_28 : decode cJ5_substring_2 28 = .ok (.invokevirtual 492, 3) := dk_182 1 236 (dk_at dksJ5_substring_2_1 4 rfl rfl)
theorem dJ5_substring_2_31 : decode cJ5_substring_2 31 = .ok (.ifCond .eq 16, 3) := dk_153 0 16 (dk_at dksJ5_substring_2_1 7 rfl rfl)
theorem dJ5_substring_2_34 : decode cJ5_substring_2 34 = .ok (.aload_n 0, 1) := dk_42 (dk_at dksJ5_substring_2_1 10 rfl rfl)
theorem dJ5_substring_2_35 : decode cJ5_substring_2 35 = .ok (.getfield 9, 3) := dk_180 0 9 (dk_at dksJ5_substring_2_1 11 rfl rfl)
theorem dJ5_substring_2_38 : decode cJ5_substring_2 38 = .ok (.iload_n 1, 1) := dk_27 (dk_at dksJ5_substring_2_1 14 rfl rfl)
theorem dJ5_substring_2_39 : decode cJ5_substring_2 39 = .ok (.iload 4, 2) := dk_21 4 (dk_at dksJ5_substring_2_1 15 rfl rfl)
theorem dJ5_substring_2_41 : decode cJ5_substring_2 41 = .ok (.invokestatic 685, 3) := dk_184 2 173 (dk_at dksJ5_substring_2_1 17 rfl rfl)
theorem dJ5_substring_2_44 : decode cJ5_substring_2 44 = .ok (.goto 13, 3) := dk_167 0 13 (dk_at dksJ5_substring_2_1 20 rfl rfl)
theorem dJ5_substring_2_47 : decode cJ5_substring_2 47 = .ok (.aload_n 0, 1) := dk_42 (dk_at dksJ5_substring_2_1 23 rfl rfl)
theorem dJ5_substring_2_48 : decode cJ5_substring_2 48 = .ok (.getfield 9, 3) := dk_180 0 9 (dk_at dksJ5_substring_2_2 0 rfl rfl)
theorem dJ5_substring_2_51 : decode cJ5_substring_2 51 = .ok (.iload_n 1, 1) := dk_27 (dk_at dksJ5_substring_2_2 3 rfl rfl)
theorem dJ5_substring_2_52 : decode cJ5_substring_2 52 = .ok (.iload 4, 2) := dk_21 4 (dk_at dksJ5_substring_2_2 4 rfl rfl)
theorem dJ5_substring_2_54 : decode cJ5_substring_2 54 = .ok (.invokestatic 689, 3) := dk_184 2 177 (dk_at dksJ5_substring_2_2 6 rfl rfl)
theorem dJ5_substring_2_57 : decode cJ5_substring_2 57 = .ok (.areturn, 1) := dk_176 (dk_at dksJ5_substring_2_2 9 rfl rfl)
abbrev cJ5_init_3 : ByteArray := prog_31_method_151_code
def yJ5_init_3 : MethodName := ⟨RJ5, "<init>", "([BB)V"⟩
def dkwJ5_init_3_0 : List UInt8 := [42, 183, 0, 1, 42, 43, 181, 0, 9, 42, 28, 181, 0, 15, 177]
abbrev dktJ5_init_3_0 : List UInt8 := dkwJ5_init_3_0 ++ []
theorem dksJ5_init_3_0 : cJ5_init_3.data.toList.drop 0 = dktJ5_init_3_0 := by decide +kernel
theorem dJ5_init_3_0 : decode cJ5_init_3 0 = .ok (.aload_n 0, 1) := dk_42 (dk_at dksJ5_init_3_0 0 rfl rfl)
theorem dJ5_init_3_1 : decode cJ5_init_3 1 = .ok (.invokespecial 1, 3) := dk_183 0 1 (dk_at dksJ5_init_3_0 1 rfl rfl)
theorem dJ5_init_3_4 : decode cJ5_init_3 4 = .ok (.aload_n 0, 1) := dk_42 (dk_at dksJ5_init_3_0 4 rfl rfl)
theorem dJ5_init_3_5 : decode cJ5_init_3 5 = .ok (.aload_n 1, 1) := dk_43 (dk_at dksJ5_init_3_0 5 rfl rfl)
theorem dJ5_init_3_6 : decode cJ5_init_3 6 = .ok (.putfield 9, 3) := dk_181 0 9 (dk_at dksJ5_init_3_0 6 rfl rfl)
theorem dJ5_init_3_9 : decode cJ5_init_3 9 = .ok (.aload_n 0, 1) := dk_42 (dk_at dksJ5_init_3_0 9 rfl rfl)
theorem dJ5_init_3_10 : decode cJ5_init_3 10 = .ok (.iload_n 2, 1) := dk_28 (dk_at dksJ5_init_3_0 10 rfl rfl)
theorem dJ5_init_3_11 : decode cJ5_init_3 11 = .ok (.putfield 15, 3) := dk_181 0 15 (dk_at dksJ5_init_3_0 11 rfl rfl)
theorem dJ5_init_3_14 : decode cJ5_init_3 14 = .ok (.return_, 1) := dk_177 (dk_at dksJ5_init_3_0 14 rfl rfl)
theorem q54 : (Jvm.Cond.initialized "java/lang/String") ∈ lw_all := lw_g (lw_at lw_m1 8 rfl) rfl
theorem q173 : (Jvm.Cond.laysStatic "java/lang/String" "COMPACT_STRINGS" "Z") ∈ lw_tbl := lw_at lw_m1 127 rfl
theorem q184 : (Jvm.Cond.fieldLink "java/lang/String" (1048 : Nat) "java/lang/AbstractStringBuilder" "maybeLatin1" "Z") ∈ lw_all := lw_g (lw_at lw_m1 138 rfl) rfl
theorem q291 : (Jvm.Cond.castable "java/lang/String" "java/lang/CharSequence") ∈ lw_tbl := lw_at lw_m2 5 rfl
theorem q292 : (Jvm.Cond.selects "java/lang/String" ({ cls := "java/lang/CharSequence", name := "length", desc := "()I" } : Jvm.MethodName) ({ cls := "java/lang/String", name := "length", desc := "()I" } : Jvm.MethodName)) ∈ lw_all := lw_g (lw_at lw_m2 6 rfl) rfl
theorem q293 : (Jvm.Cond.unhidden "java/lang/String" "length" "()I") ∈ lw_tbl := lw_at lw_m2 7 rfl
theorem q294 : (Jvm.Cond.instanceMethod ({ cls := "java/lang/String", name := "length", desc := "()I" } : Jvm.MethodName)) ∈ lw_all := lw_g (lw_at lw_m2 8 rfl) rfl
theorem q295 : (Jvm.Cond.publicMethod ({ cls := "java/lang/String", name := "length", desc := "()I" } : Jvm.MethodName)) ∈ lw_tbl := lw_at lw_m2 9 rfl
theorem q296 : (Jvm.Cond.code ({ cls := "java/lang/String", name := "length", desc := "()I" } : Jvm.MethodName) prog_31_method_54_code (1 : Nat) (Option.some Jvm.ClassFile.FieldType.int)) ∈ lw_all := lw_g (lw_at lw_m2 10 rfl) rfl
theorem q297 : (Jvm.Cond.methodLink "java/lang/String" (335 : Nat) ({ cls := "java/lang/String", name := "coder", desc := "()B" } : Jvm.MethodName)) ∈ lw_all := lw_g (lw_at lw_m2 11 rfl) rfl
theorem q298 : (Jvm.Cond.instanceMethod ({ cls := "java/lang/String", name := "coder", desc := "()B" } : Jvm.MethodName)) ∈ lw_all := lw_g (lw_at lw_m2 12 rfl) rfl
theorem q299 : (Jvm.Cond.selects "java/lang/String" ({ cls := "java/lang/String", name := "coder", desc := "()B" } : Jvm.MethodName) ({ cls := "java/lang/String", name := "coder", desc := "()B" } : Jvm.MethodName)) ∈ lw_all := lw_g (lw_at lw_m2 13 rfl) rfl
theorem q300 : (Jvm.Cond.code ({ cls := "java/lang/String", name := "coder", desc := "()B" } : Jvm.MethodName) prog_31_method_152_code (1 : Nat) (Option.some Jvm.ClassFile.FieldType.byte)) ∈ lw_all := lw_g (lw_at lw_m2 14 rfl) rfl
theorem q301 : (Jvm.Cond.fieldLink "java/lang/String" (38 : Nat) "java/lang/String" "COMPACT_STRINGS" "Z") ∈ lw_all := lw_g (lw_at lw_m2 15 rfl) rfl
theorem q322 : (Jvm.Cond.static ({ cls := "java/lang/String", name := "checkIndex", desc := "(II)V" } : Jvm.MethodName)) ∈ lw_all := lw_g (lw_at lw_m2 36 rfl) rfl
theorem q323 : (Jvm.Cond.code ({ cls := "java/lang/String", name := "checkIndex", desc := "(II)V" } : Jvm.MethodName) prog_31_method_155_code (2 : Nat) (Option.none : Option Jvm.ClassFile.FieldType)) ∈ lw_all := lw_g (lw_at lw_m2 37 rfl) rfl
theorem q324 : (Jvm.Cond.fieldLink "java/lang/String" (1053 : Nat) "jdk/internal/util/Preconditions" "SIOOBE_FORMATTER" "Ljava/util/function/BiFunction;") ∈ lw_all := lw_g (lw_at lw_m2 38 rfl) rfl
theorem q326 : (Jvm.Cond.methodLink "java/lang/String" (1059 : Nat) ({ cls := "jdk/internal/util/Preconditions", name := "checkIndex", desc := "(IILjava/util/function/BiFunction;)I" } : Jvm.MethodName)) ∈ lw_all := lw_g (lw_at lw_m2 40 rfl) rfl
theorem q348 : (Jvm.Cond.selects "java/lang/String" ({ cls := "java/lang/CharSequence", name := "charAt", desc := "(I)C" } : Jvm.MethodName) ({ cls := "java/lang/String", name := "charAt", desc := "(I)C" } : Jvm.MethodName)) ∈ lw_all := lw_g (lw_at lw_m2 62 rfl) rfl
theorem q349 : (Jvm.Cond.unhidden "java/lang/String" "charAt" "(I)C") ∈ lw_tbl := lw_at lw_m2 63 rfl
theorem q350 : (Jvm.Cond.instanceMethod ({ cls := "java/lang/String", name := "charAt", desc := "(I)C" } : Jvm.MethodName)) ∈ lw_all := lw_g (lw_at lw_m2 64 rfl) rfl
theorem q351 : (Jvm.Cond.publicMethod ({ cls := "java/lang/String", name := "charAt", desc := "(I)C" } : Jvm.MethodName)) ∈ lw_tbl := lw_at lw_m2 65 rfl
theorem q352 : (Jvm.Cond.code ({ cls := "java/lang/String", name := "charAt", desc := "(I)C" } : Jvm.MethodName) prog_31_method_56_code (2 : Nat) (Option.some Jvm.ClassFile.FieldType.char)) ∈ lw_all := lw_g (lw_at lw_m2 66 rfl) rfl
theorem q353 : (Jvm.Cond.methodLink "java/lang/String" (492 : Nat) ({ cls := "java/lang/String", name := "isLatin1", desc := "()Z" } : Jvm.MethodName)) ∈ lw_all := lw_g (lw_at lw_m2 67 rfl) rfl
theorem q354 : (Jvm.Cond.instanceMethod ({ cls := "java/lang/String", name := "isLatin1", desc := "()Z" } : Jvm.MethodName)) ∈ lw_all := lw_g (lw_at lw_m2 68 rfl) rfl
theorem q355 : (Jvm.Cond.selects "java/lang/String" ({ cls := "java/lang/String", name := "isLatin1", desc := "()Z" } : Jvm.MethodName) ({ cls := "java/lang/String", name := "isLatin1", desc := "()Z" } : Jvm.MethodName)) ∈ lw_all := lw_g (lw_at lw_m2 69 rfl) rfl
theorem q356 : (Jvm.Cond.code ({ cls := "java/lang/String", name := "isLatin1", desc := "()Z" } : Jvm.MethodName) prog_31_method_154_code (1 : Nat) (Option.some Jvm.ClassFile.FieldType.boolean)) ∈ lw_all := lw_g (lw_at lw_m2 70 rfl) rfl
theorem q357 : (Jvm.Cond.methodLink "java/lang/String" (495 : Nat) ({ cls := "java/lang/StringLatin1", name := "charAt", desc := "([BI)C" } : Jvm.MethodName)) ∈ lw_all := lw_g (lw_at lw_m2 71 rfl) rfl
theorem q361 : (Jvm.Cond.methodLink "java/lang/String" (498 : Nat) ({ cls := "java/lang/StringUTF16", name := "charAt", desc := "([BI)C" } : Jvm.MethodName)) ∈ lw_all := lw_g (lw_at lw_m2 75 rfl) rfl
theorem q435 : (Jvm.Cond.instantiable "java/lang/String" (4 : Nat)) ∈ lw_all := lw_g (lw_at lw_m2 149 rfl) rfl
theorem q437 : (Jvm.Cond.instanceMethod ({ cls := "java/lang/String", name := "<init>", desc := "(Ljava/lang/StringBuilder;)V" } : Jvm.MethodName)) ∈ lw_all := lw_g (lw_at lw_m2 151 rfl) rfl
theorem q438 : (Jvm.Cond.code ({ cls := "java/lang/String", name := "<init>", desc := "(Ljava/lang/StringBuilder;)V" } : Jvm.MethodName) prog_31_method_53_code (2 : Nat) (Option.none : Option Jvm.ClassFile.FieldType)) ∈ lw_all := lw_g (lw_at lw_m2 152 rfl) rfl
theorem q439 : (Jvm.Cond.methodLink "java/lang/String" (489 : Nat) ({ cls := "java/lang/String", name := "<init>", desc := "(Ljava/lang/AbstractStringBuilder;Ljava/lang/Void;)V" } : Jvm.MethodName)) ∈ lw_all := lw_g (lw_at lw_m2 153 rfl) rfl
theorem q440 : (Jvm.Cond.instanceMethod ({ cls := "java/lang/String", name := "<init>", desc := "(Ljava/lang/AbstractStringBuilder;Ljava/lang/Void;)V" } : Jvm.MethodName)) ∈ lw_all := lw_g (lw_at lw_m2 154 rfl) rfl
theorem q441 : (Jvm.Cond.code ({ cls := "java/lang/String", name := "<init>", desc := "(Ljava/lang/AbstractStringBuilder;Ljava/lang/Void;)V" } : Jvm.MethodName) prog_31_method_150_code (5 : Nat) (Option.none : Option Jvm.ClassFile.FieldType)) ∈ lw_all := lw_g (lw_at lw_m2 155 rfl) rfl
theorem q442 : (Jvm.Cond.methodLink "java/lang/String" (1 : Nat) ({ cls := "java/lang/Object", name := "<init>", desc := "()V" } : Jvm.MethodName)) ∈ lw_all := lw_g (lw_at lw_m2 156 rfl) rfl
theorem q443 : (Jvm.Cond.methodLink "java/lang/String" (552 : Nat) ({ cls := "java/lang/AbstractStringBuilder", name := "getValue", desc := "()[B" } : Jvm.MethodName)) ∈ lw_all := lw_g (lw_at lw_m2 157 rfl) rfl
theorem q448 : (Jvm.Cond.methodLink "java/lang/String" (549 : Nat) ({ cls := "java/lang/AbstractStringBuilder", name := "length", desc := "()I" } : Jvm.MethodName)) ∈ lw_all := lw_g (lw_at lw_m2 162 rfl) rfl
theorem q449 : (Jvm.Cond.methodLink "java/lang/String" (1047 : Nat) ({ cls := "java/lang/AbstractStringBuilder", name := "isLatin1", desc := "()Z" } : Jvm.MethodName)) ∈ lw_all := lw_g (lw_at lw_m2 163 rfl) rfl
theorem q454 : (Jvm.Cond.methodLink "java/lang/String" (54 : Nat) ({ cls := "java/util/Arrays", name := "copyOfRange", desc := "([BII)[B" } : Jvm.MethodName)) ∈ lw_all := lw_g (lw_at lw_m2 168 rfl) rfl
theorem q567 : (Jvm.Cond.static ({ cls := "java/lang/String", name := "checkBoundsBeginEnd", desc := "(III)V" } : Jvm.MethodName)) ∈ lw_all := lw_g (lw_at lw_m3 41 rfl) rfl
theorem q568 : (Jvm.Cond.code ({ cls := "java/lang/String", name := "checkBoundsBeginEnd", desc := "(III)V" } : Jvm.MethodName) prog_31_method_158_code (3 : Nat) (Option.none : Option Jvm.ClassFile.FieldType)) ∈ lw_all := lw_g (lw_at lw_m3 42 rfl) rfl
theorem q569 : (Jvm.Cond.methodLink "java/lang/String" (1062 : Nat) ({ cls := "jdk/internal/util/Preconditions", name := "checkFromToIndex", desc := "(IIILjava/util/function/BiFunction;)I" } : Jvm.MethodName)) ∈ lw_all := lw_g (lw_at lw_m3 43 rfl) rfl
theorem q619 : (Jvm.Cond.static ({ cls := "java/lang/String", name := "checkBoundsOffCount", desc := "(III)I" } : Jvm.MethodName)) ∈ lw_all := lw_g (lw_at lw_m3 93 rfl) rfl
theorem q620 : (Jvm.Cond.code ({ cls := "java/lang/String", name := "checkBoundsOffCount", desc := "(III)I" } : Jvm.MethodName) prog_31_method_157_code (3 : Nat) (Option.some Jvm.ClassFile.FieldType.int)) ∈ lw_all := lw_g (lw_at lw_m3 94 rfl) rfl
theorem q621 : (Jvm.Cond.methodLink "java/lang/String" (1065 : Nat) ({ cls := "jdk/internal/util/Preconditions", name := "checkFromIndexSize", desc := "(IIILjava/util/function/BiFunction;)I" } : Jvm.MethodName)) ∈ lw_all := lw_g (lw_at lw_m3 95 rfl) rfl
theorem q625 : (Jvm.Cond.instanceMethod ({ cls := "java/lang/String", name := "getBytes", desc := "([BIB)V" } : Jvm.MethodName)) ∈ lw_all := lw_g (lw_at lw_m3 99 rfl) rfl
theorem q626 : (Jvm.Cond.selects "java/lang/String" ({ cls := "java/lang/String", name := "getBytes", desc := "([BIB)V" } : Jvm.MethodName) ({ cls := "java/lang/String", name := "getBytes", desc := "([BIB)V" } : Jvm.MethodName)) ∈ lw_all := lw_g (lw_at lw_m3 100 rfl) rfl
theorem q627 : (Jvm.Cond.code ({ cls := "java/lang/String", name := "getBytes", desc := "([BIB)V" } : Jvm.MethodName) prog_31_method_147_code (4 : Nat) (Option.none : Option Jvm.ClassFile.FieldType)) ∈ lw_all := lw_g (lw_at lw_m3 101 rfl) rfl
theorem q628 : (Jvm.Cond.methodLink "java/lang/String" (212 : Nat) ({ cls := "java/lang/System", name := "arraycopy", desc := "(Ljava/lang/Object;ILjava/lang/Object;II)V" } : Jvm.MethodName)) ∈ lw_all := lw_g (lw_at lw_m3 102 rfl) rfl
theorem q629 : (Jvm.Cond.methodLink "java/lang/String" (106 : Nat) ({ cls := "java/lang/StringLatin1", name := "inflate", desc := "([BI[BII)V" } : Jvm.MethodName)) ∈ lw_all := lw_g (lw_at lw_m3 103 rfl) rfl
theorem q656 : (Jvm.Cond.methodLink "java/lang/String" (1051 : Nat) ({ cls := "java/lang/StringUTF16", name := "compress", desc := "([BII)[B" } : Jvm.MethodName)) ∈ lw_all := lw_g (lw_at lw_m3 130 rfl) rfl
theorem q663 : (Jvm.Cond.methodLink "java/lang/String" (47 : Nat) ({ cls := "java/lang/StringUTF16", name := "coderFromArrayLen", desc := "([BI)B" } : Jvm.MethodName)) ∈ lw_all := lw_g (lw_at lw_m3 137 rfl) rfl
theorem q666 : (Jvm.Cond.fieldLink "java/lang/String" (9 : Nat) "java/lang/String" "value" "[B") ∈ lw_all := lw_g (lw_at lw_m3 140 rfl) rfl
theorem q667 : (Jvm.Cond.fieldLink "java/lang/String" (15 : Nat) "java/lang/String" "coder" "B") ∈ lw_all := lw_g (lw_at lw_m3 141 rfl) rfl
theorem q668 : (Jvm.Cond.laysFinal "java/lang/String" "java/lang/String" "value" "[B") ∈ lw_all := lw_g (lw_at lw_m3 142 rfl) rfl
theorem q669 : (Jvm.Cond.soleField "java/lang/String" "value") ∈ lw_all := lw_g (lw_at lw_m3 143 rfl) rfl
theorem q670 : (Jvm.Cond.laysFinal "java/lang/String" "java/lang/String" "coder" "B") ∈ lw_all := lw_g (lw_at lw_m3 144 rfl) rfl
theorem q671 : (Jvm.Cond.soleField "java/lang/String" "coder") ∈ lw_all := lw_g (lw_at lw_m3 145 rfl) rfl
theorem q672 : (Jvm.Cond.lays "java/lang/String" "java/lang/String" "hash" "I") ∈ lw_all := lw_g (lw_at lw_m3 146 rfl) rfl
theorem q673 : (Jvm.Cond.soleField "java/lang/String" "hash") ∈ lw_all := lw_g (lw_at lw_m3 147 rfl) rfl
theorem q674 : (Jvm.Cond.lays "java/lang/String" "java/lang/String" "hashIsZero" "Z") ∈ lw_all := lw_g (lw_at lw_m3 148 rfl) rfl
theorem q675 : (Jvm.Cond.soleField "java/lang/String" "hashIsZero") ∈ lw_all := lw_g (lw_at lw_m3 149 rfl) rfl
theorem q676 : (Jvm.Cond.superclass "java/lang/String" "java/lang/Object") ∈ lw_all := lw_g (lw_at lw_m3 150 rfl) rfl
theorem q709 : (Jvm.Cond.castable "java/lang/String" "java/lang/Comparable") ∈ lw_tbl := lw_at lw_m3 183 rfl
theorem q710 : (Jvm.Cond.selects "java/lang/String" ({ cls := "java/lang/Comparable", name := "compareTo", desc := "(Ljava/lang/Object;)I" } : Jvm.MethodName) ({ cls := "java/lang/String", name := "compareTo", desc := "(Ljava/lang/Object;)I" } : Jvm.MethodName)) ∈ lw_all := lw_g (lw_at lw_m3 184 rfl) rfl
theorem q711 : (Jvm.Cond.unhidden "java/lang/String" "compareTo" "(Ljava/lang/Object;)I") ∈ lw_tbl := lw_at lw_m3 185 rfl
theorem q712 : (Jvm.Cond.instanceMethod ({ cls := "java/lang/String", name := "compareTo", desc := "(Ljava/lang/Object;)I" } : Jvm.MethodName)) ∈ lw_all := lw_g (lw_at lw_m3 186 rfl) rfl
theorem q713 : (Jvm.Cond.publicMethod ({ cls := "java/lang/String", name := "compareTo", desc := "(Ljava/lang/Object;)I" } : Jvm.MethodName)) ∈ lw_tbl := lw_at lw_m3 187 rfl
theorem q714 : (Jvm.Cond.code ({ cls := "java/lang/String", name := "compareTo", desc := "(Ljava/lang/Object;)I" } : Jvm.MethodName) prog_31_method_162_code (2 : Nat) (Option.some Jvm.ClassFile.FieldType.int)) ∈ lw_all := lw_g (lw_at lw_m3 188 rfl) rfl
theorem q715 : (Jvm.Cond.classLink "java/lang/String" (10 : Nat) "java/lang/String") ∈ lw_all := lw_g (lw_at lw_m3 189 rfl) rfl
theorem q716 : (Jvm.Cond.methodLink "java/lang/String" (1084 : Nat) ({ cls := "java/lang/String", name := "compareTo", desc := "(Ljava/lang/String;)I" } : Jvm.MethodName)) ∈ lw_all := lw_g (lw_at lw_m3 190 rfl) rfl
theorem q717 : (Jvm.Cond.instanceMethod ({ cls := "java/lang/String", name := "compareTo", desc := "(Ljava/lang/String;)I" } : Jvm.MethodName)) ∈ lw_all := lw_g (lw_at lw_m3 191 rfl) rfl
theorem q718 : (Jvm.Cond.selects "java/lang/String" ({ cls := "java/lang/String", name := "compareTo", desc := "(Ljava/lang/String;)I" } : Jvm.MethodName) ({ cls := "java/lang/String", name := "compareTo", desc := "(Ljava/lang/String;)I" } : Jvm.MethodName)) ∈ lw_all := lw_g (lw_at lw_m3 192 rfl) rfl
theorem q719 : (Jvm.Cond.code ({ cls := "java/lang/String", name := "compareTo", desc := "(Ljava/lang/String;)I" } : Jvm.MethodName) prog_31_method_71_code (5 : Nat) (Option.some Jvm.ClassFile.FieldType.int)) ∈ lw_all := lw_g (lw_at lw_m3 193 rfl) rfl
theorem q720 : (Jvm.Cond.methodLink "java/lang/String" (586 : Nat) ({ cls := "java/lang/StringLatin1", name := "compareTo", desc := "([B[B)I" } : Jvm.MethodName)) ∈ lw_all := lw_g (lw_at lw_m3 194 rfl) rfl
theorem q834 : (Jvm.Cond.methodLink "java/lang/String" (590 : Nat) ({ cls := "java/lang/StringUTF16", name := "compareTo", desc := "([B[B)I" } : Jvm.MethodName)) ∈ lw_all := lw_g (lw_at lw_m4 68 rfl) rfl
theorem q841 : (Jvm.Cond.methodLink "java/lang/String" (591 : Nat) ({ cls := "java/lang/StringLatin1", name := "compareToUTF16", desc := "([B[B)I" } : Jvm.MethodName)) ∈ lw_all := lw_g (lw_at lw_m4 75 rfl) rfl
theorem q852 : (Jvm.Cond.methodLink "java/lang/String" (594 : Nat) ({ cls := "java/lang/StringUTF16", name := "compareToLatin1", desc := "([B[B)I" } : Jvm.MethodName)) ∈ lw_all := lw_g (lw_at lw_m4 86 rfl) rfl
theorem q878 : (Jvm.Cond.static ({ cls := "java/lang/String", name := "checkOffset", desc := "(II)V" } : Jvm.MethodName)) ∈ lw_all := lw_g (lw_at lw_m4 112 rfl) rfl
theorem q879 : (Jvm.Cond.code ({ cls := "java/lang/String", name := "checkOffset", desc := "(II)V" } : Jvm.MethodName) prog_31_method_156_code (2 : Nat) (Option.none : Option Jvm.ClassFile.FieldType)) ∈ lw_all := lw_g (lw_at lw_m4 113 rfl) rfl
theorem q993 : (Jvm.Cond.selects "java/lang/String" ({ cls := "java/lang/Object", name := "getClass", desc := "()Ljava/lang/Class;" } : Jvm.MethodName) ({ cls := "java/lang/Object", name := "getClass", desc := "()Ljava/lang/Class;" } : Jvm.MethodName)) ∈ lw_all := lw_g (lw_at lw_m4 227 rfl) rfl
theorem q1081 : (Jvm.Cond.instanceMethod ({ cls := "java/lang/String", name := "equals", desc := "(Ljava/lang/Object;)Z" } : Jvm.MethodName)) ∈ lw_all := lw_g (lw_at lw_m5 75 rfl) rfl
theorem q1082 : (Jvm.Cond.selects "java/lang/String" ({ cls := "java/lang/String", name := "equals", desc := "(Ljava/lang/Object;)Z" } : Jvm.MethodName) ({ cls := "java/lang/String", name := "equals", desc := "(Ljava/lang/Object;)Z" } : Jvm.MethodName)) ∈ lw_all := lw_g (lw_at lw_m5 76 rfl) rfl
theorem q1083 : (Jvm.Cond.code ({ cls := "java/lang/String", name := "equals", desc := "(Ljava/lang/Object;)Z" } : Jvm.MethodName) prog_31_method_66_code (3 : Nat) (Option.some Jvm.ClassFile.FieldType.boolean)) ∈ lw_all := lw_g (lw_at lw_m5 77 rfl) rfl
theorem q1084 : (Jvm.Cond.methodLink "java/lang/String" (541 : Nat) ({ cls := "java/lang/StringLatin1", name := "equals", desc := "([B[B)Z" } : Jvm.MethodName)) ∈ lw_all := lw_g (lw_at lw_m5 78 rfl) rfl
theorem q1088 : (Jvm.Cond.instanceMethod ({ cls := "java/lang/String", name := "startsWith", desc := "(Ljava/lang/String;)Z" } : Jvm.MethodName)) ∈ lw_all := lw_g (lw_at lw_m5 82 rfl) rfl
theorem q1089 : (Jvm.Cond.selects "java/lang/String" ({ cls := "java/lang/String", name := "startsWith", desc := "(Ljava/lang/String;)Z" } : Jvm.MethodName) ({ cls := "java/lang/String", name := "startsWith", desc := "(Ljava/lang/String;)Z" } : Jvm.MethodName)) ∈ lw_all := lw_g (lw_at lw_m5 83 rfl) rfl
theorem q1090 : (Jvm.Cond.code ({ cls := "java/lang/String", name := "startsWith", desc := "(Ljava/lang/String;)Z" } : Jvm.MethodName) prog_31_method_76_code (2 : Nat) (Option.some Jvm.ClassFile.FieldType.boolean)) ∈ lw_all := lw_g (lw_at lw_m5 84 rfl) rfl
theorem q1091 : (Jvm.Cond.methodLink "java/lang/String" (624 : Nat) ({ cls := "java/lang/String", name := "startsWith", desc := "(Ljava/lang/String;I)Z" } : Jvm.MethodName)) ∈ lw_all := lw_g (lw_at lw_m5 85 rfl) rfl
theorem q1092 : (Jvm.Cond.instanceMethod ({ cls := "java/lang/String", name := "startsWith", desc := "(Ljava/lang/String;I)Z" } : Jvm.MethodName)) ∈ lw_all := lw_g (lw_at lw_m5 86 rfl) rfl
theorem q1093 : (Jvm.Cond.selects "java/lang/String" ({ cls := "java/lang/String", name := "startsWith", desc := "(Ljava/lang/String;I)Z" } : Jvm.MethodName) ({ cls := "java/lang/String", name := "startsWith", desc := "(Ljava/lang/String;I)Z" } : Jvm.MethodName)) ∈ lw_all := lw_g (lw_at lw_m5 87 rfl) rfl
theorem q1094 : (Jvm.Cond.code ({ cls := "java/lang/String", name := "startsWith", desc := "(Ljava/lang/String;I)Z" } : Jvm.MethodName) prog_31_method_75_code (8 : Nat) (Option.some Jvm.ClassFile.FieldType.boolean)) ∈ lw_all := lw_g (lw_at lw_m5 88 rfl) rfl
theorem q1095 : (Jvm.Cond.methodLink "java/lang/String" (505 : Nat) ({ cls := "java/lang/String", name := "length", desc := "()I" } : Jvm.MethodName)) ∈ lw_all := lw_g (lw_at lw_m5 89 rfl) rfl
theorem q1096 : (Jvm.Cond.methodLink "java/lang/String" (607 : Nat) ({ cls := "jdk/internal/util/ArraysSupport", name := "mismatch", desc := "([BI[BII)I" } : Jvm.MethodName)) ∈ lw_all := lw_g (lw_at lw_m5 90 rfl) rfl
theorem q1099 : (Jvm.Cond.methodLink "java/lang/String" (360 : Nat) ({ cls := "java/lang/StringUTF16", name := "getChar", desc := "([BI)C" } : Jvm.MethodName)) ∈ lw_all := lw_g (lw_at lw_m5 93 rfl) rfl
theorem q1102 : (Jvm.Cond.instanceMethod ({ cls := "java/lang/String", name := "substring", desc := "(I)Ljava/lang/String;" } : Jvm.MethodName)) ∈ lw_all := lw_g (lw_at lw_m5 96 rfl) rfl
theorem q1103 : (Jvm.Cond.selects "java/lang/String" ({ cls := "java/lang/String", name := "substring", desc := "(I)Ljava/lang/String;" } : Jvm.MethodName) ({ cls := "java/lang/String", name := "substring", desc := "(I)Ljava/lang/String;" } : Jvm.MethodName)) ∈ lw_all := lw_g (lw_at lw_m5 97 rfl) rfl
theorem q1104 : (Jvm.Cond.code ({ cls := "java/lang/String", name := "substring", desc := "(I)Ljava/lang/String;" } : Jvm.MethodName) prog_31_method_91_code (2 : Nat) (Option.some (Jvm.ClassFile.FieldType.object "java/lang/String"))) ∈ lw_all := lw_g (lw_at lw_m5 98 rfl) rfl
theorem q1105 : (Jvm.Cond.methodLink "java/lang/String" (681 : Nat) ({ cls := "java/lang/String", name := "substring", desc := "(II)Ljava/lang/String;" } : Jvm.MethodName)) ∈ lw_all := lw_g (lw_at lw_m5 99 rfl) rfl
theorem q1106 : (Jvm.Cond.instanceMethod ({ cls := "java/lang/String", name := "substring", desc := "(II)Ljava/lang/String;" } : Jvm.MethodName)) ∈ lw_all := lw_g (lw_at lw_m5 100 rfl) rfl
theorem q1107 : (Jvm.Cond.selects "java/lang/String" ({ cls := "java/lang/String", name := "substring", desc := "(II)Ljava/lang/String;" } : Jvm.MethodName) ({ cls := "java/lang/String", name := "substring", desc := "(II)Ljava/lang/String;" } : Jvm.MethodName)) ∈ lw_all := lw_g (lw_at lw_m5 101 rfl) rfl
theorem q1108 : (Jvm.Cond.code ({ cls := "java/lang/String", name := "substring", desc := "(II)Ljava/lang/String;" } : Jvm.MethodName) prog_31_method_92_code (5 : Nat) (Option.some (Jvm.ClassFile.FieldType.object "java/lang/String"))) ∈ lw_all := lw_g (lw_at lw_m5 102 rfl) rfl
theorem q1109 : (Jvm.Cond.methodLink "java/lang/String" (521 : Nat) ({ cls := "java/lang/String", name := "checkBoundsBeginEnd", desc := "(III)V" } : Jvm.MethodName)) ∈ lw_all := lw_g (lw_at lw_m5 103 rfl) rfl
theorem q1110 : (Jvm.Cond.methodLink "java/lang/String" (685 : Nat) ({ cls := "java/lang/StringLatin1", name := "newString", desc := "([BII)Ljava/lang/String;" } : Jvm.MethodName)) ∈ lw_all := lw_g (lw_at lw_m5 104 rfl) rfl
theorem q1117 : (Jvm.Cond.instanceMethod ({ cls := "java/lang/String", name := "<init>", desc := "([BB)V" } : Jvm.MethodName)) ∈ lw_all := lw_g (lw_at lw_m5 111 rfl) rfl
theorem q1118 : (Jvm.Cond.code ({ cls := "java/lang/String", name := "<init>", desc := "([BB)V" } : Jvm.MethodName) prog_31_method_151_code (3 : Nat) (Option.none : Option Jvm.ClassFile.FieldType)) ∈ lw_all := lw_g (lw_at lw_m5 112 rfl) rfl
theorem q1119 : (Jvm.Cond.methodLink "java/lang/String" (689 : Nat) ({ cls := "java/lang/StringUTF16", name := "newString", desc := "([BII)Ljava/lang/String;" } : Jvm.MethodName)) ∈ lw_all := lw_g (lw_at lw_m5 113 rfl) rfl
theorem q1319 : (Jvm.Cond.selects "java/lang/String" ({ cls := "java/lang/Object", name := "equals", desc := "(Ljava/lang/Object;)Z" } : Jvm.MethodName) ({ cls := "java/lang/String", name := "equals", desc := "(Ljava/lang/Object;)Z" } : Jvm.MethodName)) ∈ lw_all := lw_g (lw_at lw_m6 73 rfl) rfl
theorem q1672 : (Jvm.Cond.instanceMethod ({ cls := "java/lang/String", name := "value", desc := "()[B" } : Jvm.MethodName)) ∈ lw_all := lw_g (lw_at lw_m7 186 rfl) rfl
theorem q1673 : (Jvm.Cond.selects "java/lang/String" ({ cls := "java/lang/String", name := "value", desc := "()[B" } : Jvm.MethodName) ({ cls := "java/lang/String", name := "value", desc := "()[B" } : Jvm.MethodName)) ∈ lw_all := lw_g (lw_at lw_m7 187 rfl) rfl
theorem q1674 : (Jvm.Cond.code ({ cls := "java/lang/String", name := "value", desc := "()[B" } : Jvm.MethodName) prog_31_method_153_code (1 : Nat) (Option.some (Jvm.ClassFile.FieldType.array Jvm.ClassFile.FieldType.byte))) ∈ lw_all := lw_g (lw_at lw_m7 188 rfl) rfl
theorem q2343 : (Jvm.Cond.selects "java/lang/String" ({ cls := "java/lang/String", name := "length", desc := "()I" } : Jvm.MethodName) ({ cls := "java/lang/String", name := "length", desc := "()I" } : Jvm.MethodName)) ∈ lw_all := lw_g (lw_at lw_m10 137 rfl) rfl
theorem q2352 : (Jvm.Cond.selects "java/lang/String" ({ cls := "java/lang/String", name := "charAt", desc := "(I)C" } : Jvm.MethodName) ({ cls := "java/lang/String", name := "charAt", desc := "(I)C" } : Jvm.MethodName)) ∈ lw_all := lw_g (lw_at lw_m10 146 rfl) rfl
theorem q2379 : (Jvm.Cond.castable "java/lang/String" "java/lang/Object") ∈ lw_tbl := lw_at lw_m10 173 rfl
theorem in_J5 : ∀ w ∈ wsJ50, w ∈ lw_all := lw_in wsJ50 [668, 670, 672, 674] (by decide +kernel) (by decide +kernel)

/-! java/lang/Throwable -/
set_option maxRecDepth 100000
def RJ7 : String := "java/lang/Throwable"
def TJ7 : u_T := fun k => match k with
  | 0 => ("java/lang/Throwable", "cause", "Ljava/lang/Throwable;", false)
  | 1 => ("java/lang/Throwable", "stackTrace", "[Ljava/lang/StackTraceElement;", false)
  | 2 => ("java/lang/Throwable", "suppressedExceptions", "Ljava/util/List;", false)
  | 3 => ("java/lang/Throwable", "detailMessage", "Ljava/lang/String;", false)
  | _ => ("java/lang/Throwable", "backtrace", "Ljava/lang/Object;", false)
def tyJ7 : Nat → FieldType := fun k => match k with
  | 0 => .object "java/lang/Throwable"
  | 1 => .array (.object "java/lang/StackTraceElement")
  | 2 => .object "java/util/List"
  | 3 => .object "java/lang/String"
  | _ => .object "java/lang/Object"
abbrev wsJ70 : List Cond := u_ws RJ7 TJ7 5
theorem nmJ7 : ∀ a, a < 5 → ∀ b, b < 5 → a ≠ b → (TJ7 a).2.1 ≠ (TJ7 b).2.1 := by decide +kernel
theorem tyJ7_ok : ∀ k, k < 5 → parseFieldDescriptor (TJ7 k).2.2.1 = some (tyJ7 k) := by decide +kernel
theorem q59 : (Jvm.Cond.initialized "java/lang/Throwable") ∈ lw_all := lw_g (lw_at lw_m1 13 rfl) rfl
theorem q470 : (Jvm.Cond.declares ({ cls := "java/lang/Throwable", name := "<init>", desc := "()V" } : Jvm.MethodName)) ∈ lw_tbl := lw_at lw_m2 184 rfl
theorem q471 : (Jvm.Cond.declares ({ cls := "java/lang/Throwable", name := "<init>", desc := "(Ljava/lang/String;)V" } : Jvm.MethodName)) ∈ lw_tbl := lw_at lw_m2 185 rfl
theorem q475 : (Jvm.Cond.lays "java/lang/Throwable" "java/lang/Throwable" "cause" "Ljava/lang/Throwable;") ∈ lw_all := lw_g (lw_at lw_m2 189 rfl) rfl
theorem q477 : (Jvm.Cond.lays "java/lang/Throwable" "java/lang/Throwable" "stackTrace" "[Ljava/lang/StackTraceElement;") ∈ lw_all := lw_g (lw_at lw_m2 191 rfl) rfl
theorem q479 : (Jvm.Cond.lays "java/lang/Throwable" "java/lang/Throwable" "suppressedExceptions" "Ljava/util/List;") ∈ lw_all := lw_g (lw_at lw_m2 193 rfl) rfl
theorem q481 : (Jvm.Cond.lays "java/lang/Throwable" "java/lang/Throwable" "detailMessage" "Ljava/lang/String;") ∈ lw_all := lw_g (lw_at lw_m2 195 rfl) rfl
theorem q483 : (Jvm.Cond.lays "java/lang/Throwable" "java/lang/Throwable" "backtrace" "Ljava/lang/Object;") ∈ lw_all := lw_g (lw_at lw_m2 197 rfl) rfl
theorem q484 : (Jvm.Cond.fieldLink "java/lang/Throwable" (198 : Nat) "java/lang/Throwable" "backtrace" "Ljava/lang/Object;") ∈ lw_all := lw_g (lw_at lw_m2 198 rfl) rfl
theorem q485 : (Jvm.Cond.superclass "java/lang/Throwable" "java/lang/Object") ∈ lw_all := lw_g (lw_at lw_m2 199 rfl) rfl
theorem q486 : (Jvm.Cond.instanceMethod ({ cls := "java/lang/Throwable", name := "<init>", desc := "()V" } : Jvm.MethodName)) ∈ lw_all := lw_g (lw_at lw_m2 200 rfl) rfl
theorem q487 : (Jvm.Cond.code ({ cls := "java/lang/Throwable", name := "<init>", desc := "()V" } : Jvm.MethodName) prog_37_method_1_code (1 : Nat) (Option.none : Option Jvm.ClassFile.FieldType)) ∈ lw_all := lw_g (lw_at lw_m2 201 rfl) rfl
theorem q488 : (Jvm.Cond.methodLink "java/lang/Throwable" (1 : Nat) ({ cls := "java/lang/Object", name := "<init>", desc := "()V" } : Jvm.MethodName)) ∈ lw_all := lw_g (lw_at lw_m2 202 rfl) rfl
theorem q489 : (Jvm.Cond.fieldLink "java/lang/Throwable" (13 : Nat) "java/lang/Throwable" "UNASSIGNED_STACK" "[Ljava/lang/StackTraceElement;") ∈ lw_all := lw_g (lw_at lw_m2 203 rfl) rfl
theorem q490 : (Jvm.Cond.laysStatic "java/lang/Throwable" "UNASSIGNED_STACK" "[Ljava/lang/StackTraceElement;") ∈ lw_tbl := lw_at lw_m2 204 rfl
theorem q491 : (Jvm.Cond.fieldLink "java/lang/Throwable" (20 : Nat) "java/lang/Throwable" "SUPPRESSED_SENTINEL" "Ljava/util/List;") ∈ lw_all := lw_g (lw_at lw_m2 205 rfl) rfl
theorem q492 : (Jvm.Cond.laysStatic "java/lang/Throwable" "SUPPRESSED_SENTINEL" "Ljava/util/List;") ∈ lw_tbl := lw_at lw_m2 206 rfl
theorem q493 : (Jvm.Cond.methodLink "java/lang/Throwable" (27 : Nat) ({ cls := "java/lang/Throwable", name := "fillInStackTrace", desc := "()Ljava/lang/Throwable;" } : Jvm.MethodName)) ∈ lw_all := lw_g (lw_at lw_m2 207 rfl) rfl
theorem q494 : (Jvm.Cond.instanceMethod ({ cls := "java/lang/Throwable", name := "fillInStackTrace", desc := "()Ljava/lang/Throwable;" } : Jvm.MethodName)) ∈ lw_all := lw_g (lw_at lw_m2 208 rfl) rfl
theorem q495 : (Jvm.Cond.sameMethod "java/lang/Throwable" "java/lang/Throwable" "fillInStackTrace" "()Ljava/lang/Throwable;") ∈ lw_all := lw_g (lw_at lw_m2 209 rfl) rfl
theorem q501 : (Jvm.Cond.codeSync ({ cls := "java/lang/Throwable", name := "fillInStackTrace", desc := "()Ljava/lang/Throwable;" } : Jvm.MethodName) prog_37_method_18_code (1 : Nat) (Option.some (Jvm.ClassFile.FieldType.object "java/lang/Throwable"))) ∈ lw_all := lw_g (lw_at lw_m2 215 rfl) rfl
theorem q502 : (Jvm.Cond.methodLink "java/lang/Throwable" (202 : Nat) ({ cls := "java/lang/Throwable", name := "fillInStackTrace", desc := "(I)Ljava/lang/Throwable;" } : Jvm.MethodName)) ∈ lw_all := lw_g (lw_at lw_m2 216 rfl) rfl
theorem q503 : (Jvm.Cond.privateMethod ({ cls := "java/lang/Throwable", name := "fillInStackTrace", desc := "(I)Ljava/lang/Throwable;" } : Jvm.MethodName)) ∈ lw_tbl := lw_at lw_m2 217 rfl
theorem q504 : (Jvm.Cond.instanceMethod ({ cls := "java/lang/Throwable", name := "fillInStackTrace", desc := "(I)Ljava/lang/Throwable;" } : Jvm.MethodName)) ∈ lw_all := lw_g (lw_at lw_m2 218 rfl) rfl
theorem q505 : (Jvm.Cond.instantiable "java/lang/Throwable" (6 : Nat)) ∈ lw_all := lw_g (lw_at lw_m2 219 rfl) rfl
theorem q506 : (Jvm.Cond.native ({ cls := "java/lang/Throwable", name := "fillInStackTrace", desc := "(I)Ljava/lang/Throwable;" } : Jvm.MethodName)) ∈ lw_all := lw_g (lw_at lw_m2 220 rfl) rfl
theorem q641 : (Jvm.Cond.instanceMethod ({ cls := "java/lang/Throwable", name := "<init>", desc := "(Ljava/lang/String;)V" } : Jvm.MethodName)) ∈ lw_all := lw_g (lw_at lw_m3 115 rfl) rfl
theorem q642 : (Jvm.Cond.code ({ cls := "java/lang/Throwable", name := "<init>", desc := "(Ljava/lang/String;)V" } : Jvm.MethodName) prog_37_method_2_code (2 : Nat) (Option.none : Option Jvm.ClassFile.FieldType)) ∈ lw_all := lw_g (lw_at lw_m3 116 rfl) rfl
theorem q643 : (Jvm.Cond.fieldLink "java/lang/Throwable" (198 : Nat) "java/lang/Throwable" "backtrace" "Ljava/lang/Object;") ∈ lw_all := lw_g (lw_at lw_m3 117 rfl) rfl
theorem q644 : (Jvm.Cond.fieldLink "java/lang/Throwable" (31 : Nat) "java/lang/Throwable" "detailMessage" "Ljava/lang/String;") ∈ lw_all := lw_g (lw_at lw_m3 118 rfl) rfl
theorem q645 : (Jvm.Cond.fieldLink "java/lang/Throwable" (7 : Nat) "java/lang/Throwable" "cause" "Ljava/lang/Throwable;") ∈ lw_all := lw_g (lw_at lw_m3 119 rfl) rfl
theorem q646 : (Jvm.Cond.fieldLink "java/lang/Throwable" (17 : Nat) "java/lang/Throwable" "stackTrace" "[Ljava/lang/StackTraceElement;") ∈ lw_all := lw_g (lw_at lw_m3 120 rfl) rfl
theorem q647 : (Jvm.Cond.fieldLink "java/lang/Throwable" (24 : Nat) "java/lang/Throwable" "suppressedExceptions" "Ljava/util/List;") ∈ lw_all := lw_g (lw_at lw_m3 121 rfl) rfl
theorem q648 : (Jvm.Cond.soleField "java/lang/Throwable" "backtrace") ∈ lw_all := lw_g (lw_at lw_m3 122 rfl) rfl
theorem q649 : (Jvm.Cond.soleField "java/lang/Throwable" "detailMessage") ∈ lw_all := lw_g (lw_at lw_m3 123 rfl) rfl
theorem q650 : (Jvm.Cond.soleField "java/lang/Throwable" "cause") ∈ lw_all := lw_g (lw_at lw_m3 124 rfl) rfl
theorem q651 : (Jvm.Cond.soleField "java/lang/Throwable" "stackTrace") ∈ lw_all := lw_g (lw_at lw_m3 125 rfl) rfl
theorem q653 : (Jvm.Cond.soleField "java/lang/Throwable" "depth") ∈ lw_all := lw_g (lw_at lw_m3 127 rfl) rfl
theorem q654 : (Jvm.Cond.soleField "java/lang/Throwable" "suppressedExceptions") ∈ lw_all := lw_g (lw_at lw_m3 128 rfl) rfl
theorem q2337 : (Jvm.Cond.sameMethod "java/lang/Throwable" "java/lang/Throwable" "fillInStackTrace" "(I)Ljava/lang/Throwable;") ∈ lw_all := lw_g (lw_at lw_m10 131 rfl) rfl
theorem q2393 : (Jvm.Cond.castable "java/lang/Throwable" "java/lang/Object") ∈ lw_tbl := lw_at lw_m10 187 rfl
theorem in_J7 : ∀ w ∈ wsJ70, w ∈ lw_all := lw_in wsJ70 [475, 477, 479, 481, 483] (by decide +kernel) (by decide +kernel)

/-! java/lang/Exception -/
set_option maxRecDepth 100000
def RJ8 : String := "java/lang/Exception"
theorem q60 : (Jvm.Cond.initialized "java/lang/Exception") ∈ lw_all := lw_g (lw_at lw_m1 14 rfl) rfl
theorem q468 : (Jvm.Cond.declares ({ cls := "java/lang/Exception", name := "<init>", desc := "()V" } : Jvm.MethodName)) ∈ lw_tbl := lw_at lw_m2 182 rfl
theorem q469 : (Jvm.Cond.declares ({ cls := "java/lang/Exception", name := "<init>", desc := "(Ljava/lang/String;)V" } : Jvm.MethodName)) ∈ lw_tbl := lw_at lw_m2 183 rfl
theorem q638 : (Jvm.Cond.instanceMethod ({ cls := "java/lang/Exception", name := "<init>", desc := "(Ljava/lang/String;)V" } : Jvm.MethodName)) ∈ lw_all := lw_g (lw_at lw_m3 112 rfl) rfl
theorem q639 : (Jvm.Cond.code ({ cls := "java/lang/Exception", name := "<init>", desc := "(Ljava/lang/String;)V" } : Jvm.MethodName) prog_20_method_2_code (2 : Nat) (Option.none : Option Jvm.ClassFile.FieldType)) ∈ lw_all := lw_g (lw_at lw_m3 113 rfl) rfl
theorem q640 : (Jvm.Cond.methodLink "java/lang/Exception" (7 : Nat) ({ cls := "java/lang/Throwable", name := "<init>", desc := "(Ljava/lang/String;)V" } : Jvm.MethodName)) ∈ lw_all := lw_g (lw_at lw_m3 114 rfl) rfl
theorem q1496 : (Jvm.Cond.instanceMethod ({ cls := "java/lang/Exception", name := "<init>", desc := "()V" } : Jvm.MethodName)) ∈ lw_all := lw_g (lw_at lw_m7 10 rfl) rfl
theorem q1497 : (Jvm.Cond.code ({ cls := "java/lang/Exception", name := "<init>", desc := "()V" } : Jvm.MethodName) prog_20_method_1_code (1 : Nat) (Option.none : Option Jvm.ClassFile.FieldType)) ∈ lw_all := lw_g (lw_at lw_m7 11 rfl) rfl
theorem q1498 : (Jvm.Cond.methodLink "java/lang/Exception" (1 : Nat) ({ cls := "java/lang/Throwable", name := "<init>", desc := "()V" } : Jvm.MethodName)) ∈ lw_all := lw_g (lw_at lw_m7 12 rfl) rfl

/-! java/lang/RuntimeException -/
set_option maxRecDepth 100000
def RJ9 : String := "java/lang/RuntimeException"
theorem q61 : (Jvm.Cond.initialized "java/lang/RuntimeException") ∈ lw_all := lw_g (lw_at lw_m1 15 rfl) rfl
theorem q466 : (Jvm.Cond.declares ({ cls := "java/lang/RuntimeException", name := "<init>", desc := "()V" } : Jvm.MethodName)) ∈ lw_tbl := lw_at lw_m2 180 rfl
theorem q467 : (Jvm.Cond.declares ({ cls := "java/lang/RuntimeException", name := "<init>", desc := "(Ljava/lang/String;)V" } : Jvm.MethodName)) ∈ lw_tbl := lw_at lw_m2 181 rfl
theorem q635 : (Jvm.Cond.instanceMethod ({ cls := "java/lang/RuntimeException", name := "<init>", desc := "(Ljava/lang/String;)V" } : Jvm.MethodName)) ∈ lw_all := lw_g (lw_at lw_m3 109 rfl) rfl
theorem q636 : (Jvm.Cond.code ({ cls := "java/lang/RuntimeException", name := "<init>", desc := "(Ljava/lang/String;)V" } : Jvm.MethodName) prog_30_method_2_code (2 : Nat) (Option.none : Option Jvm.ClassFile.FieldType)) ∈ lw_all := lw_g (lw_at lw_m3 110 rfl) rfl
theorem q637 : (Jvm.Cond.methodLink "java/lang/RuntimeException" (7 : Nat) ({ cls := "java/lang/Exception", name := "<init>", desc := "(Ljava/lang/String;)V" } : Jvm.MethodName)) ∈ lw_all := lw_g (lw_at lw_m3 111 rfl) rfl
theorem q1493 : (Jvm.Cond.instanceMethod ({ cls := "java/lang/RuntimeException", name := "<init>", desc := "()V" } : Jvm.MethodName)) ∈ lw_all := lw_g (lw_at lw_m7 7 rfl) rfl
theorem q1494 : (Jvm.Cond.code ({ cls := "java/lang/RuntimeException", name := "<init>", desc := "()V" } : Jvm.MethodName) prog_30_method_1_code (1 : Nat) (Option.none : Option Jvm.ClassFile.FieldType)) ∈ lw_all := lw_g (lw_at lw_m7 8 rfl) rfl
theorem q1495 : (Jvm.Cond.methodLink "java/lang/RuntimeException" (1 : Nat) ({ cls := "java/lang/Exception", name := "<init>", desc := "()V" } : Jvm.MethodName)) ∈ lw_all := lw_g (lw_at lw_m7 9 rfl) rfl

theorem q63 : (Jvm.Cond.initialized "java/lang/ArrayIndexOutOfBoundsException") ∈ lw_all := lw_g (lw_at lw_m1 17 rfl) rfl
theorem q496 : (Jvm.Cond.selects "java/lang/ArrayIndexOutOfBoundsException" ({ cls := "java/lang/Throwable", name := "fillInStackTrace", desc := "()Ljava/lang/Throwable;" } : Jvm.MethodName) ({ cls := "java/lang/Throwable", name := "fillInStackTrace", desc := "()Ljava/lang/Throwable;" } : Jvm.MethodName)) ∈ lw_all := lw_g (lw_at lw_m2 210 rfl) rfl
theorem q987 : (Jvm.Cond.selects "java/lang/ArrayIndexOutOfBoundsException" ({ cls := "java/lang/Object", name := "getClass", desc := "()Ljava/lang/Class;" } : Jvm.MethodName) ({ cls := "java/lang/Object", name := "getClass", desc := "()Ljava/lang/Class;" } : Jvm.MethodName)) ∈ lw_all := lw_g (lw_at lw_m4 221 rfl) rfl
theorem q1313 : (Jvm.Cond.selects "java/lang/ArrayIndexOutOfBoundsException" ({ cls := "java/lang/Object", name := "equals", desc := "(Ljava/lang/Object;)Z" } : Jvm.MethodName) ({ cls := "java/lang/Object", name := "equals", desc := "(Ljava/lang/Object;)Z" } : Jvm.MethodName)) ∈ lw_all := lw_g (lw_at lw_m6 67 rfl) rfl
theorem q1789 : (Jvm.Cond.instantiable "java/lang/ArrayIndexOutOfBoundsException" (6 : Nat)) ∈ lw_all := lw_g (lw_at lw_m8 63 rfl) rfl
theorem q1790 : (Jvm.Cond.instanceMethod ({ cls := "java/lang/ArrayIndexOutOfBoundsException", name := "<init>", desc := "(Ljava/lang/String;)V" } : Jvm.MethodName)) ∈ lw_all := lw_g (lw_at lw_m8 64 rfl) rfl
theorem q1791 : (Jvm.Cond.code ({ cls := "java/lang/ArrayIndexOutOfBoundsException", name := "<init>", desc := "(Ljava/lang/String;)V" } : Jvm.MethodName) prog_13_method_2_code (2 : Nat) (Option.none : Option Jvm.ClassFile.FieldType)) ∈ lw_all := lw_g (lw_at lw_m8 65 rfl) rfl
theorem q1792 : (Jvm.Cond.methodLink "java/lang/ArrayIndexOutOfBoundsException" (7 : Nat) ({ cls := "java/lang/IndexOutOfBoundsException", name := "<init>", desc := "(Ljava/lang/String;)V" } : Jvm.MethodName)) ∈ lw_all := lw_g (lw_at lw_m8 66 rfl) rfl
theorem q1796 : (Jvm.Cond.lays "java/lang/ArrayIndexOutOfBoundsException" "java/lang/Throwable" "backtrace" "Ljava/lang/Object;") ∈ lw_all := lw_g (lw_at lw_m8 70 rfl) rfl
theorem q1797 : (Jvm.Cond.lays "java/lang/ArrayIndexOutOfBoundsException" "java/lang/Throwable" "detailMessage" "Ljava/lang/String;") ∈ lw_all := lw_g (lw_at lw_m8 71 rfl) rfl
theorem q1798 : (Jvm.Cond.lays "java/lang/ArrayIndexOutOfBoundsException" "java/lang/Throwable" "cause" "Ljava/lang/Throwable;") ∈ lw_all := lw_g (lw_at lw_m8 72 rfl) rfl
theorem q1799 : (Jvm.Cond.lays "java/lang/ArrayIndexOutOfBoundsException" "java/lang/Throwable" "stackTrace" "[Ljava/lang/StackTraceElement;") ∈ lw_all := lw_g (lw_at lw_m8 73 rfl) rfl
theorem q1800 : (Jvm.Cond.lays "java/lang/ArrayIndexOutOfBoundsException" "java/lang/Throwable" "depth" "I") ∈ lw_all := lw_g (lw_at lw_m8 74 rfl) rfl
theorem q1801 : (Jvm.Cond.lays "java/lang/ArrayIndexOutOfBoundsException" "java/lang/Throwable" "suppressedExceptions" "Ljava/util/List;") ∈ lw_all := lw_g (lw_at lw_m8 75 rfl) rfl
theorem q1802 : (Jvm.Cond.superclass "java/lang/ArrayIndexOutOfBoundsException" "java/lang/IndexOutOfBoundsException") ∈ lw_all := lw_g (lw_at lw_m8 76 rfl) rfl
theorem q1803 : (Jvm.Cond.castable "java/lang/ArrayIndexOutOfBoundsException" "java/lang/ArrayIndexOutOfBoundsException") ∈ lw_tbl := lw_at lw_m8 77 rfl
theorem q1806 : (Jvm.Cond.selects "java/lang/ArrayIndexOutOfBoundsException" ({ cls := "java/lang/Throwable", name := "fillInStackTrace", desc := "(I)Ljava/lang/Throwable;" } : Jvm.MethodName) ({ cls := "java/lang/Throwable", name := "fillInStackTrace", desc := "(I)Ljava/lang/Throwable;" } : Jvm.MethodName)) ∈ lw_all := lw_g (lw_at lw_m8 80 rfl) rfl
theorem q2043 : (Jvm.Cond.instanceMethod ({ cls := "java/lang/ArrayIndexOutOfBoundsException", name := "<init>", desc := "(I)V" } : Jvm.MethodName)) ∈ lw_all := lw_g (lw_at lw_m9 77 rfl) rfl
theorem q2044 : (Jvm.Cond.code ({ cls := "java/lang/ArrayIndexOutOfBoundsException", name := "<init>", desc := "(I)V" } : Jvm.MethodName) prog_13_method_3_code (2 : Nat) (Option.none : Option Jvm.ClassFile.FieldType)) ∈ lw_all := lw_g (lw_at lw_m9 78 rfl) rfl
theorem q2045 : (Jvm.Cond.classLink "java/lang/ArrayIndexOutOfBoundsException" (10 : Nat) "java/lang/StringBuilder") ∈ lw_all := lw_g (lw_at lw_m9 79 rfl) rfl
theorem q2046 : (Jvm.Cond.methodLink "java/lang/ArrayIndexOutOfBoundsException" (12 : Nat) ({ cls := "java/lang/StringBuilder", name := "<init>", desc := "()V" } : Jvm.MethodName)) ∈ lw_all := lw_g (lw_at lw_m9 80 rfl) rfl
theorem q2047 : (Jvm.Cond.stringRef "java/lang/ArrayIndexOutOfBoundsException" (13 : Nat) "Array index out of range: ") ∈ lw_tbl := lw_at lw_m9 81 rfl
theorem q2048 : (Jvm.Cond.methodLink "java/lang/ArrayIndexOutOfBoundsException" (15 : Nat) ({ cls := "java/lang/StringBuilder", name := "append", desc := "(Ljava/lang/String;)Ljava/lang/StringBuilder;" } : Jvm.MethodName)) ∈ lw_all := lw_g (lw_at lw_m9 82 rfl) rfl
theorem q2049 : (Jvm.Cond.methodLink "java/lang/ArrayIndexOutOfBoundsException" (19 : Nat) ({ cls := "java/lang/StringBuilder", name := "append", desc := "(I)Ljava/lang/StringBuilder;" } : Jvm.MethodName)) ∈ lw_all := lw_g (lw_at lw_m9 83 rfl) rfl
theorem q2050 : (Jvm.Cond.methodLink "java/lang/ArrayIndexOutOfBoundsException" (22 : Nat) ({ cls := "java/lang/StringBuilder", name := "toString", desc := "()Ljava/lang/String;" } : Jvm.MethodName)) ∈ lw_all := lw_g (lw_at lw_m9 84 rfl) rfl
theorem q2363 : (Jvm.Cond.castable "java/lang/ArrayIndexOutOfBoundsException" "java/lang/IndexOutOfBoundsException") ∈ lw_tbl := lw_at lw_m10 157 rfl
theorem q2376 : (Jvm.Cond.castable "java/lang/ArrayIndexOutOfBoundsException" "java/lang/Object") ∈ lw_tbl := lw_at lw_m10 170 rfl
theorem q73 : (Jvm.Cond.initialized "java/lang/NumberFormatException") ∈ lw_all := lw_g (lw_at lw_m1 27 rfl) rfl
theorem q499 : (Jvm.Cond.selects "java/lang/NumberFormatException" ({ cls := "java/lang/Throwable", name := "fillInStackTrace", desc := "()Ljava/lang/Throwable;" } : Jvm.MethodName) ({ cls := "java/lang/Throwable", name := "fillInStackTrace", desc := "()Ljava/lang/Throwable;" } : Jvm.MethodName)) ∈ lw_all := lw_g (lw_at lw_m2 213 rfl) rfl
theorem q992 : (Jvm.Cond.selects "java/lang/NumberFormatException" ({ cls := "java/lang/Object", name := "getClass", desc := "()Ljava/lang/Class;" } : Jvm.MethodName) ({ cls := "java/lang/Object", name := "getClass", desc := "()Ljava/lang/Class;" } : Jvm.MethodName)) ∈ lw_all := lw_g (lw_at lw_m4 226 rfl) rfl
theorem q1318 : (Jvm.Cond.selects "java/lang/NumberFormatException" ({ cls := "java/lang/Object", name := "equals", desc := "(Ljava/lang/Object;)Z" } : Jvm.MethodName) ({ cls := "java/lang/Object", name := "equals", desc := "(Ljava/lang/Object;)Z" } : Jvm.MethodName)) ∈ lw_all := lw_g (lw_at lw_m6 72 rfl) rfl
theorem q1518 : (Jvm.Cond.instantiable "java/lang/NumberFormatException" (6 : Nat)) ∈ lw_all := lw_g (lw_at lw_m7 32 rfl) rfl
theorem q1519 : (Jvm.Cond.castable "java/lang/NumberFormatException" "java/lang/NumberFormatException") ∈ lw_tbl := lw_at lw_m7 33 rfl
theorem q1522 : (Jvm.Cond.selects "java/lang/NumberFormatException" ({ cls := "java/lang/Throwable", name := "fillInStackTrace", desc := "(I)Ljava/lang/Throwable;" } : Jvm.MethodName) ({ cls := "java/lang/Throwable", name := "fillInStackTrace", desc := "(I)Ljava/lang/Throwable;" } : Jvm.MethodName)) ∈ lw_all := lw_g (lw_at lw_m7 36 rfl) rfl
theorem q1523 : (Jvm.Cond.lays "java/lang/NumberFormatException" "java/lang/Throwable" "cause" "Ljava/lang/Throwable;") ∈ lw_all := lw_g (lw_at lw_m7 37 rfl) rfl
theorem q1524 : (Jvm.Cond.lays "java/lang/NumberFormatException" "java/lang/Throwable" "stackTrace" "[Ljava/lang/StackTraceElement;") ∈ lw_all := lw_g (lw_at lw_m7 38 rfl) rfl
theorem q1525 : (Jvm.Cond.lays "java/lang/NumberFormatException" "java/lang/Throwable" "suppressedExceptions" "Ljava/util/List;") ∈ lw_all := lw_g (lw_at lw_m7 39 rfl) rfl
theorem q1526 : (Jvm.Cond.lays "java/lang/NumberFormatException" "java/lang/Throwable" "detailMessage" "Ljava/lang/String;") ∈ lw_all := lw_g (lw_at lw_m7 40 rfl) rfl
theorem q1527 : (Jvm.Cond.lays "java/lang/NumberFormatException" "java/lang/Throwable" "backtrace" "Ljava/lang/Object;") ∈ lw_all := lw_g (lw_at lw_m7 41 rfl) rfl
theorem q1530 : (Jvm.Cond.instanceMethod ({ cls := "java/lang/NumberFormatException", name := "<init>", desc := "(Ljava/lang/String;)V" } : Jvm.MethodName)) ∈ lw_all := lw_g (lw_at lw_m7 44 rfl) rfl
theorem q1531 : (Jvm.Cond.code ({ cls := "java/lang/NumberFormatException", name := "<init>", desc := "(Ljava/lang/String;)V" } : Jvm.MethodName) prog_29_method_2_code (2 : Nat) (Option.none : Option Jvm.ClassFile.FieldType)) ∈ lw_all := lw_g (lw_at lw_m7 45 rfl) rfl
theorem q1532 : (Jvm.Cond.methodLink "java/lang/NumberFormatException" (7 : Nat) ({ cls := "java/lang/IllegalArgumentException", name := "<init>", desc := "(Ljava/lang/String;)V" } : Jvm.MethodName)) ∈ lw_all := lw_g (lw_at lw_m7 46 rfl) rfl
theorem q1533 : (Jvm.Cond.lays "java/lang/NumberFormatException" "java/lang/Throwable" "depth" "I") ∈ lw_all := lw_g (lw_at lw_m7 47 rfl) rfl
theorem q1534 : (Jvm.Cond.superclass "java/lang/NumberFormatException" "java/lang/IllegalArgumentException") ∈ lw_all := lw_g (lw_at lw_m7 48 rfl) rfl
theorem q1548 : (Jvm.Cond.static ({ cls := "java/lang/NumberFormatException", name := "forInputString", desc := "(Ljava/lang/String;I)Ljava/lang/NumberFormatException;" } : Jvm.MethodName)) ∈ lw_all := lw_g (lw_at lw_m7 62 rfl) rfl
theorem q1549 : (Jvm.Cond.code ({ cls := "java/lang/NumberFormatException", name := "forInputString", desc := "(Ljava/lang/String;I)Ljava/lang/NumberFormatException;" } : Jvm.MethodName) prog_29_method_3_code (2 : Nat) (Option.some (Jvm.ClassFile.FieldType.object "java/lang/NumberFormatException"))) ∈ lw_all := lw_g (lw_at lw_m7 63 rfl) rfl
theorem q1550 : (Jvm.Cond.classLink "java/lang/NumberFormatException" (10 : Nat) "java/lang/NumberFormatException") ∈ lw_all := lw_g (lw_at lw_m7 64 rfl) rfl
theorem q1551 : (Jvm.Cond.classLink "java/lang/NumberFormatException" (12 : Nat) "java/lang/StringBuilder") ∈ lw_all := lw_g (lw_at lw_m7 65 rfl) rfl
theorem q1552 : (Jvm.Cond.methodLink "java/lang/NumberFormatException" (14 : Nat) ({ cls := "java/lang/StringBuilder", name := "<init>", desc := "()V" } : Jvm.MethodName)) ∈ lw_all := lw_g (lw_at lw_m7 66 rfl) rfl
theorem q1553 : (Jvm.Cond.stringRef "java/lang/NumberFormatException" (15 : Nat) "For input string: \"") ∈ lw_tbl := lw_at lw_m7 67 rfl
theorem q1554 : (Jvm.Cond.methodLink "java/lang/NumberFormatException" (17 : Nat) ({ cls := "java/lang/StringBuilder", name := "append", desc := "(Ljava/lang/String;)Ljava/lang/StringBuilder;" } : Jvm.MethodName)) ∈ lw_all := lw_g (lw_at lw_m7 68 rfl) rfl
theorem q1555 : (Jvm.Cond.stringRef "java/lang/NumberFormatException" (21 : Nat) "\"") ∈ lw_tbl := lw_at lw_m7 69 rfl
theorem q1556 : (Jvm.Cond.stringRef "java/lang/NumberFormatException" (23 : Nat) "") ∈ lw_tbl := lw_at lw_m7 70 rfl
theorem q1557 : (Jvm.Cond.stringRef "java/lang/NumberFormatException" (25 : Nat) " under radix ") ∈ lw_tbl := lw_at lw_m7 71 rfl
theorem q1558 : (Jvm.Cond.methodLink "java/lang/NumberFormatException" (27 : Nat) ({ cls := "java/lang/StringBuilder", name := "append", desc := "(I)Ljava/lang/StringBuilder;" } : Jvm.MethodName)) ∈ lw_all := lw_g (lw_at lw_m7 72 rfl) rfl
theorem q1559 : (Jvm.Cond.methodLink "java/lang/NumberFormatException" (30 : Nat) ({ cls := "java/lang/StringBuilder", name := "toString", desc := "()Ljava/lang/String;" } : Jvm.MethodName)) ∈ lw_all := lw_g (lw_at lw_m7 73 rfl) rfl
theorem q1560 : (Jvm.Cond.methodLink "java/lang/NumberFormatException" (34 : Nat) ({ cls := "java/lang/NumberFormatException", name := "<init>", desc := "(Ljava/lang/String;)V" } : Jvm.MethodName)) ∈ lw_all := lw_g (lw_at lw_m7 74 rfl) rfl
theorem q2365 : (Jvm.Cond.castable "java/lang/NumberFormatException" "java/lang/IllegalArgumentException") ∈ lw_tbl := lw_at lw_m10 159 rfl
theorem q2380 : (Jvm.Cond.castable "java/lang/NumberFormatException" "java/lang/Object") ∈ lw_tbl := lw_at lw_m10 174 rfl
theorem q81 : (Jvm.Cond.initialized "jdk/internal/misc/Unsafe") ∈ lw_all := lw_g (lw_at lw_m1 35 rfl) rfl
theorem q731 : (Jvm.Cond.laysStatic "jdk/internal/misc/Unsafe" "ARRAY_BYTE_BASE_OFFSET" "I") ∈ lw_tbl := lw_at lw_m3 205 rfl
theorem q742 : (Jvm.Cond.instanceMethod ({ cls := "jdk/internal/misc/Unsafe", name := "getLongUnaligned", desc := "(Ljava/lang/Object;J)J" } : Jvm.MethodName)) ∈ lw_all := lw_g (lw_at lw_m3 216 rfl) rfl
theorem q743 : (Jvm.Cond.selects "jdk/internal/misc/Unsafe" ({ cls := "jdk/internal/misc/Unsafe", name := "getLongUnaligned", desc := "(Ljava/lang/Object;J)J" } : Jvm.MethodName) ({ cls := "jdk/internal/misc/Unsafe", name := "getLongUnaligned", desc := "(Ljava/lang/Object;J)J" } : Jvm.MethodName)) ∈ lw_all := lw_g (lw_at lw_m3 217 rfl) rfl
theorem q744 : (Jvm.Cond.code ({ cls := "jdk/internal/misc/Unsafe", name := "getLongUnaligned", desc := "(Ljava/lang/Object;J)J" } : Jvm.MethodName) prog_70_method_334_code (4 : Nat) (Option.some Jvm.ClassFile.FieldType.long)) ∈ lw_all := lw_g (lw_at lw_m3 218 rfl) rfl
theorem q745 : (Jvm.Cond.constantLong "jdk/internal/misc/Unsafe" (696 : Nat) (7 : Int64)) ∈ lw_all := lw_g (lw_at lw_m3 219 rfl) rfl
theorem q746 : (Jvm.Cond.methodLink "jdk/internal/misc/Unsafe" (27 : Nat) ({ cls := "jdk/internal/misc/Unsafe", name := "getLong", desc := "(Ljava/lang/Object;J)J" } : Jvm.MethodName)) ∈ lw_all := lw_g (lw_at lw_m3 220 rfl) rfl
theorem q747 : (Jvm.Cond.instanceMethod ({ cls := "jdk/internal/misc/Unsafe", name := "getLong", desc := "(Ljava/lang/Object;J)J" } : Jvm.MethodName)) ∈ lw_all := lw_g (lw_at lw_m3 221 rfl) rfl
theorem q748 : (Jvm.Cond.selects "jdk/internal/misc/Unsafe" ({ cls := "jdk/internal/misc/Unsafe", name := "getLong", desc := "(Ljava/lang/Object;J)J" } : Jvm.MethodName) ({ cls := "jdk/internal/misc/Unsafe", name := "getLong", desc := "(Ljava/lang/Object;J)J" } : Jvm.MethodName)) ∈ lw_all := lw_g (lw_at lw_m3 222 rfl) rfl
theorem q749 : (Jvm.Cond.native ({ cls := "jdk/internal/misc/Unsafe", name := "getLong", desc := "(Ljava/lang/Object;J)J" } : Jvm.MethodName)) ∈ lw_all := lw_g (lw_at lw_m3 223 rfl) rfl
theorem q750 : (Jvm.Cond.constantLong "jdk/internal/misc/Unsafe" (349 : Nat) (3 : Int64)) ∈ lw_all := lw_g (lw_at lw_m3 224 rfl) rfl
theorem q751 : (Jvm.Cond.methodLink "jdk/internal/misc/Unsafe" (17 : Nat) ({ cls := "jdk/internal/misc/Unsafe", name := "getInt", desc := "(Ljava/lang/Object;J)I" } : Jvm.MethodName)) ∈ lw_all := lw_g (lw_at lw_m3 225 rfl) rfl
theorem q752 : (Jvm.Cond.instanceMethod ({ cls := "jdk/internal/misc/Unsafe", name := "getInt", desc := "(Ljava/lang/Object;J)I" } : Jvm.MethodName)) ∈ lw_all := lw_g (lw_at lw_m3 226 rfl) rfl
theorem q753 : (Jvm.Cond.selects "jdk/internal/misc/Unsafe" ({ cls := "jdk/internal/misc/Unsafe", name := "getInt", desc := "(Ljava/lang/Object;J)I" } : Jvm.MethodName) ({ cls := "jdk/internal/misc/Unsafe", name := "getInt", desc := "(Ljava/lang/Object;J)I" } : Jvm.MethodName)) ∈ lw_all := lw_g (lw_at lw_m3 227 rfl) rfl
theorem q754 : (Jvm.Cond.native ({ cls := "jdk/internal/misc/Unsafe", name := "getInt", desc := "(Ljava/lang/Object;J)I" } : Jvm.MethodName)) ∈ lw_all := lw_g (lw_at lw_m3 228 rfl) rfl
theorem q755 : (Jvm.Cond.constantLong "jdk/internal/misc/Unsafe" (205 : Nat) (4 : Int64)) ∈ lw_all := lw_g (lw_at lw_m3 229 rfl) rfl
theorem q756 : (Jvm.Cond.methodLink "jdk/internal/misc/Unsafe" (698 : Nat) ({ cls := "jdk/internal/misc/Unsafe", name := "makeLong", desc := "(II)J" } : Jvm.MethodName)) ∈ lw_all := lw_g (lw_at lw_m3 230 rfl) rfl
theorem q757 : (Jvm.Cond.static ({ cls := "jdk/internal/misc/Unsafe", name := "makeLong", desc := "(II)J" } : Jvm.MethodName)) ∈ lw_all := lw_g (lw_at lw_m3 231 rfl) rfl
theorem q758 : (Jvm.Cond.code ({ cls := "jdk/internal/misc/Unsafe", name := "makeLong", desc := "(II)J" } : Jvm.MethodName) prog_70_method_353_code (2 : Nat) (Option.some Jvm.ClassFile.FieldType.long)) ∈ lw_all := lw_g (lw_at lw_m3 232 rfl) rfl
theorem q759 : (Jvm.Cond.methodLink "jdk/internal/misc/Unsafe" (791 : Nat) ({ cls := "jdk/internal/misc/Unsafe", name := "toUnsignedLong", desc := "(I)J" } : Jvm.MethodName)) ∈ lw_all := lw_g (lw_at lw_m3 233 rfl) rfl
theorem q760 : (Jvm.Cond.static ({ cls := "jdk/internal/misc/Unsafe", name := "toUnsignedLong", desc := "(I)J" } : Jvm.MethodName)) ∈ lw_all := lw_g (lw_at lw_m3 234 rfl) rfl
theorem q761 : (Jvm.Cond.code ({ cls := "jdk/internal/misc/Unsafe", name := "toUnsignedLong", desc := "(I)J" } : Jvm.MethodName) prog_70_method_370_code (1 : Nat) (Option.some Jvm.ClassFile.FieldType.long)) ∈ lw_all := lw_g (lw_at lw_m3 235 rfl) rfl
theorem q762 : (Jvm.Cond.constantLong "jdk/internal/misc/Unsafe" (812 : Nat) (4294967295 : Int64)) ∈ lw_all := lw_g (lw_at lw_m3 236 rfl) rfl
theorem q763 : (Jvm.Cond.methodLink "jdk/internal/misc/Unsafe" (784 : Nat) ({ cls := "jdk/internal/misc/Unsafe", name := "pickPos", desc := "(II)I" } : Jvm.MethodName)) ∈ lw_all := lw_g (lw_at lw_m3 237 rfl) rfl
theorem q764 : (Jvm.Cond.static ({ cls := "jdk/internal/misc/Unsafe", name := "pickPos", desc := "(II)I" } : Jvm.MethodName)) ∈ lw_all := lw_g (lw_at lw_m3 238 rfl) rfl
theorem q765 : (Jvm.Cond.code ({ cls := "jdk/internal/misc/Unsafe", name := "pickPos", desc := "(II)I" } : Jvm.MethodName) prog_70_method_350_code (2 : Nat) (Option.some Jvm.ClassFile.FieldType.int)) ∈ lw_all := lw_g (lw_at lw_m3 239 rfl) rfl
theorem q766 : (Jvm.Cond.fieldLink "jdk/internal/misc/Unsafe" (351 : Nat) "jdk/internal/misc/UnsafeConstants" "BIG_ENDIAN" "Z") ∈ lw_all := lw_g (lw_at lw_m4 0 rfl) rfl
theorem q768 : (Jvm.Cond.methodLink "jdk/internal/misc/Unsafe" (47 : Nat) ({ cls := "jdk/internal/misc/Unsafe", name := "getShort", desc := "(Ljava/lang/Object;J)S" } : Jvm.MethodName)) ∈ lw_all := lw_g (lw_at lw_m4 2 rfl) rfl
theorem q769 : (Jvm.Cond.instanceMethod ({ cls := "jdk/internal/misc/Unsafe", name := "getShort", desc := "(Ljava/lang/Object;J)S" } : Jvm.MethodName)) ∈ lw_all := lw_g (lw_at lw_m4 3 rfl) rfl
theorem q770 : (Jvm.Cond.selects "jdk/internal/misc/Unsafe" ({ cls := "jdk/internal/misc/Unsafe", name := "getShort", desc := "(Ljava/lang/Object;J)S" } : Jvm.MethodName) ({ cls := "jdk/internal/misc/Unsafe", name := "getShort", desc := "(Ljava/lang/Object;J)S" } : Jvm.MethodName)) ∈ lw_all := lw_g (lw_at lw_m4 4 rfl) rfl
theorem q771 : (Jvm.Cond.native ({ cls := "jdk/internal/misc/Unsafe", name := "getShort", desc := "(Ljava/lang/Object;J)S" } : Jvm.MethodName)) ∈ lw_all := lw_g (lw_at lw_m4 5 rfl) rfl
theorem q772 : (Jvm.Cond.constantLong "jdk/internal/misc/Unsafe" (203 : Nat) (2 : Int64)) ∈ lw_all := lw_g (lw_at lw_m4 6 rfl) rfl
theorem q773 : (Jvm.Cond.constantLong "jdk/internal/misc/Unsafe" (702 : Nat) (6 : Int64)) ∈ lw_all := lw_g (lw_at lw_m4 7 rfl) rfl
theorem q774 : (Jvm.Cond.methodLink "jdk/internal/misc/Unsafe" (704 : Nat) ({ cls := "jdk/internal/misc/Unsafe", name := "makeLong", desc := "(SSSS)J" } : Jvm.MethodName)) ∈ lw_all := lw_g (lw_at lw_m4 8 rfl) rfl
theorem q775 : (Jvm.Cond.static ({ cls := "jdk/internal/misc/Unsafe", name := "makeLong", desc := "(SSSS)J" } : Jvm.MethodName)) ∈ lw_all := lw_g (lw_at lw_m4 9 rfl) rfl
theorem q776 : (Jvm.Cond.code ({ cls := "jdk/internal/misc/Unsafe", name := "makeLong", desc := "(SSSS)J" } : Jvm.MethodName) prog_70_method_352_code (4 : Nat) (Option.some Jvm.ClassFile.FieldType.long)) ∈ lw_all := lw_g (lw_at lw_m4 10 rfl) rfl
theorem q777 : (Jvm.Cond.methodLink "jdk/internal/misc/Unsafe" (788 : Nat) ({ cls := "jdk/internal/misc/Unsafe", name := "toUnsignedLong", desc := "(S)J" } : Jvm.MethodName)) ∈ lw_all := lw_g (lw_at lw_m4 11 rfl) rfl
theorem q778 : (Jvm.Cond.static ({ cls := "jdk/internal/misc/Unsafe", name := "toUnsignedLong", desc := "(S)J" } : Jvm.MethodName)) ∈ lw_all := lw_g (lw_at lw_m4 12 rfl) rfl
theorem q779 : (Jvm.Cond.code ({ cls := "jdk/internal/misc/Unsafe", name := "toUnsignedLong", desc := "(S)J" } : Jvm.MethodName) prog_70_method_369_code (1 : Nat) (Option.some Jvm.ClassFile.FieldType.long)) ∈ lw_all := lw_g (lw_at lw_m4 13 rfl) rfl
theorem q780 : (Jvm.Cond.constantLong "jdk/internal/misc/Unsafe" (810 : Nat) (65535 : Int64)) ∈ lw_all := lw_g (lw_at lw_m4 14 rfl) rfl
theorem q781 : (Jvm.Cond.methodLink "jdk/internal/misc/Unsafe" (39 : Nat) ({ cls := "jdk/internal/misc/Unsafe", name := "getByte", desc := "(Ljava/lang/Object;J)B" } : Jvm.MethodName)) ∈ lw_all := lw_g (lw_at lw_m4 15 rfl) rfl
theorem q782 : (Jvm.Cond.instanceMethod ({ cls := "jdk/internal/misc/Unsafe", name := "getByte", desc := "(Ljava/lang/Object;J)B" } : Jvm.MethodName)) ∈ lw_all := lw_g (lw_at lw_m4 16 rfl) rfl
theorem q783 : (Jvm.Cond.selects "jdk/internal/misc/Unsafe" ({ cls := "jdk/internal/misc/Unsafe", name := "getByte", desc := "(Ljava/lang/Object;J)B" } : Jvm.MethodName) ({ cls := "jdk/internal/misc/Unsafe", name := "getByte", desc := "(Ljava/lang/Object;J)B" } : Jvm.MethodName)) ∈ lw_all := lw_g (lw_at lw_m4 17 rfl) rfl
theorem q784 : (Jvm.Cond.native ({ cls := "jdk/internal/misc/Unsafe", name := "getByte", desc := "(Ljava/lang/Object;J)B" } : Jvm.MethodName)) ∈ lw_all := lw_g (lw_at lw_m4 18 rfl) rfl
theorem q785 : (Jvm.Cond.constantLong "jdk/internal/misc/Unsafe" (707 : Nat) (5 : Int64)) ∈ lw_all := lw_g (lw_at lw_m4 19 rfl) rfl
theorem q786 : (Jvm.Cond.methodLink "jdk/internal/misc/Unsafe" (709 : Nat) ({ cls := "jdk/internal/misc/Unsafe", name := "makeLong", desc := "(BBBBBBBB)J" } : Jvm.MethodName)) ∈ lw_all := lw_g (lw_at lw_m4 20 rfl) rfl
theorem q787 : (Jvm.Cond.static ({ cls := "jdk/internal/misc/Unsafe", name := "makeLong", desc := "(BBBBBBBB)J" } : Jvm.MethodName)) ∈ lw_all := lw_g (lw_at lw_m4 21 rfl) rfl
theorem q788 : (Jvm.Cond.code ({ cls := "jdk/internal/misc/Unsafe", name := "makeLong", desc := "(BBBBBBBB)J" } : Jvm.MethodName) prog_70_method_351_code (8 : Nat) (Option.some Jvm.ClassFile.FieldType.long)) ∈ lw_all := lw_g (lw_at lw_m4 22 rfl) rfl
theorem q789 : (Jvm.Cond.methodLink "jdk/internal/misc/Unsafe" (781 : Nat) ({ cls := "jdk/internal/misc/Unsafe", name := "toUnsignedLong", desc := "(B)J" } : Jvm.MethodName)) ∈ lw_all := lw_g (lw_at lw_m4 23 rfl) rfl
theorem q790 : (Jvm.Cond.static ({ cls := "jdk/internal/misc/Unsafe", name := "toUnsignedLong", desc := "(B)J" } : Jvm.MethodName)) ∈ lw_all := lw_g (lw_at lw_m4 24 rfl) rfl
theorem q791 : (Jvm.Cond.code ({ cls := "jdk/internal/misc/Unsafe", name := "toUnsignedLong", desc := "(B)J" } : Jvm.MethodName) prog_70_method_368_code (1 : Nat) (Option.some Jvm.ClassFile.FieldType.long)) ∈ lw_all := lw_g (lw_at lw_m4 25 rfl) rfl
theorem q792 : (Jvm.Cond.constantLong "jdk/internal/misc/Unsafe" (808 : Nat) (255 : Int64)) ∈ lw_all := lw_g (lw_at lw_m4 26 rfl) rfl
theorem q813 : (Jvm.Cond.instanceMethod ({ cls := "jdk/internal/misc/Unsafe", name := "getIntUnaligned", desc := "(Ljava/lang/Object;J)I" } : Jvm.MethodName)) ∈ lw_all := lw_g (lw_at lw_m4 47 rfl) rfl
theorem q814 : (Jvm.Cond.selects "jdk/internal/misc/Unsafe" ({ cls := "jdk/internal/misc/Unsafe", name := "getIntUnaligned", desc := "(Ljava/lang/Object;J)I" } : Jvm.MethodName) ({ cls := "jdk/internal/misc/Unsafe", name := "getIntUnaligned", desc := "(Ljava/lang/Object;J)I" } : Jvm.MethodName)) ∈ lw_all := lw_g (lw_at lw_m4 48 rfl) rfl
theorem q815 : (Jvm.Cond.code ({ cls := "jdk/internal/misc/Unsafe", name := "getIntUnaligned", desc := "(Ljava/lang/Object;J)I" } : Jvm.MethodName) prog_70_method_336_code (4 : Nat) (Option.some Jvm.ClassFile.FieldType.int)) ∈ lw_all := lw_g (lw_at lw_m4 49 rfl) rfl
theorem q816 : (Jvm.Cond.methodLink "jdk/internal/misc/Unsafe" (719 : Nat) ({ cls := "jdk/internal/misc/Unsafe", name := "makeInt", desc := "(SS)I" } : Jvm.MethodName)) ∈ lw_all := lw_g (lw_at lw_m4 50 rfl) rfl
theorem q817 : (Jvm.Cond.static ({ cls := "jdk/internal/misc/Unsafe", name := "makeInt", desc := "(SS)I" } : Jvm.MethodName)) ∈ lw_all := lw_g (lw_at lw_m4 51 rfl) rfl
theorem q818 : (Jvm.Cond.code ({ cls := "jdk/internal/misc/Unsafe", name := "makeInt", desc := "(SS)I" } : Jvm.MethodName) prog_70_method_354_code (2 : Nat) (Option.some Jvm.ClassFile.FieldType.int)) ∈ lw_all := lw_g (lw_at lw_m4 52 rfl) rfl
theorem q819 : (Jvm.Cond.methodLink "jdk/internal/misc/Unsafe" (792 : Nat) ({ cls := "jdk/internal/misc/Unsafe", name := "toUnsignedInt", desc := "(S)I" } : Jvm.MethodName)) ∈ lw_all := lw_g (lw_at lw_m4 53 rfl) rfl
theorem q820 : (Jvm.Cond.static ({ cls := "jdk/internal/misc/Unsafe", name := "toUnsignedInt", desc := "(S)I" } : Jvm.MethodName)) ∈ lw_all := lw_g (lw_at lw_m4 54 rfl) rfl
theorem q821 : (Jvm.Cond.code ({ cls := "jdk/internal/misc/Unsafe", name := "toUnsignedInt", desc := "(S)I" } : Jvm.MethodName) prog_70_method_367_code (1 : Nat) (Option.some Jvm.ClassFile.FieldType.int)) ∈ lw_all := lw_g (lw_at lw_m4 55 rfl) rfl
theorem q822 : (Jvm.Cond.constant "jdk/internal/misc/Unsafe" (374 : Nat) (65535 : Int32)) ∈ lw_all := lw_g (lw_at lw_m4 56 rfl) rfl
theorem q823 : (Jvm.Cond.methodLink "jdk/internal/misc/Unsafe" (723 : Nat) ({ cls := "jdk/internal/misc/Unsafe", name := "makeInt", desc := "(BBBB)I" } : Jvm.MethodName)) ∈ lw_all := lw_g (lw_at lw_m4 57 rfl) rfl
theorem q824 : (Jvm.Cond.static ({ cls := "jdk/internal/misc/Unsafe", name := "makeInt", desc := "(BBBB)I" } : Jvm.MethodName)) ∈ lw_all := lw_g (lw_at lw_m4 58 rfl) rfl
theorem q825 : (Jvm.Cond.code ({ cls := "jdk/internal/misc/Unsafe", name := "makeInt", desc := "(BBBB)I" } : Jvm.MethodName) prog_70_method_355_code (4 : Nat) (Option.some Jvm.ClassFile.FieldType.int)) ∈ lw_all := lw_g (lw_at lw_m4 59 rfl) rfl
theorem q826 : (Jvm.Cond.methodLink "jdk/internal/misc/Unsafe" (796 : Nat) ({ cls := "jdk/internal/misc/Unsafe", name := "toUnsignedInt", desc := "(B)I" } : Jvm.MethodName)) ∈ lw_all := lw_g (lw_at lw_m4 60 rfl) rfl
theorem q827 : (Jvm.Cond.static ({ cls := "jdk/internal/misc/Unsafe", name := "toUnsignedInt", desc := "(B)I" } : Jvm.MethodName)) ∈ lw_all := lw_g (lw_at lw_m4 61 rfl) rfl
theorem q828 : (Jvm.Cond.code ({ cls := "jdk/internal/misc/Unsafe", name := "toUnsignedInt", desc := "(B)I" } : Jvm.MethodName) prog_70_method_366_code (1 : Nat) (Option.some Jvm.ClassFile.FieldType.int)) ∈ lw_all := lw_g (lw_at lw_m4 62 rfl) rfl
theorem q1003 : (Jvm.Cond.selects "jdk/internal/misc/Unsafe" ({ cls := "java/lang/Object", name := "getClass", desc := "()Ljava/lang/Class;" } : Jvm.MethodName) ({ cls := "java/lang/Object", name := "getClass", desc := "()Ljava/lang/Class;" } : Jvm.MethodName)) ∈ lw_all := lw_g (lw_at lw_m4 237 rfl) rfl
theorem q1322 : (Jvm.Cond.selects "jdk/internal/misc/Unsafe" ({ cls := "java/lang/Object", name := "equals", desc := "(Ljava/lang/Object;)Z" } : Jvm.MethodName) ({ cls := "java/lang/Object", name := "equals", desc := "(Ljava/lang/Object;)Z" } : Jvm.MethodName)) ∈ lw_all := lw_g (lw_at lw_m6 76 rfl) rfl
theorem q2384 : (Jvm.Cond.castable "jdk/internal/misc/Unsafe" "java/lang/Object") ∈ lw_tbl := lw_at lw_m10 178 rfl
theorem q83 : (Jvm.Cond.initialized "java/lang/Long") ∈ lw_all := lw_g (lw_at lw_m1 37 rfl) rfl
theorem q796 : (Jvm.Cond.static ({ cls := "java/lang/Long", name := "numberOfLeadingZeros", desc := "(J)I" } : Jvm.MethodName)) ∈ lw_all := lw_g (lw_at lw_m4 30 rfl) rfl
theorem q797 : (Jvm.Cond.code ({ cls := "java/lang/Long", name := "numberOfLeadingZeros", desc := "(J)I" } : Jvm.MethodName) prog_26_method_48_code (3 : Nat) (Option.some Jvm.ClassFile.FieldType.int)) ∈ lw_all := lw_g (lw_at lw_m4 31 rfl) rfl
theorem q798 : (Jvm.Cond.methodLink "java/lang/Long" (308 : Nat) ({ cls := "java/lang/Integer", name := "numberOfLeadingZeros", desc := "(I)I" } : Jvm.MethodName)) ∈ lw_all := lw_g (lw_at lw_m4 32 rfl) rfl
theorem q805 : (Jvm.Cond.static ({ cls := "java/lang/Long", name := "numberOfTrailingZeros", desc := "(J)I" } : Jvm.MethodName)) ∈ lw_all := lw_g (lw_at lw_m4 39 rfl) rfl
theorem q806 : (Jvm.Cond.code ({ cls := "java/lang/Long", name := "numberOfTrailingZeros", desc := "(J)I" } : Jvm.MethodName) prog_26_method_49_code (3 : Nat) (Option.some Jvm.ClassFile.FieldType.int)) ∈ lw_all := lw_g (lw_at lw_m4 40 rfl) rfl
theorem q807 : (Jvm.Cond.methodLink "java/lang/Long" (311 : Nat) ({ cls := "java/lang/Integer", name := "numberOfTrailingZeros", desc := "(I)I" } : Jvm.MethodName)) ∈ lw_all := lw_g (lw_at lw_m4 41 rfl) rfl
theorem q94 : (Jvm.Cond.initialized "java/lang/StringIndexOutOfBoundsException") ∈ lw_all := lw_g (lw_at lw_m1 48 rfl) rfl
theorem q500 : (Jvm.Cond.selects "java/lang/StringIndexOutOfBoundsException" ({ cls := "java/lang/Throwable", name := "fillInStackTrace", desc := "()Ljava/lang/Throwable;" } : Jvm.MethodName) ({ cls := "java/lang/Throwable", name := "fillInStackTrace", desc := "()Ljava/lang/Throwable;" } : Jvm.MethodName)) ∈ lw_all := lw_g (lw_at lw_m2 214 rfl) rfl
theorem q995 : (Jvm.Cond.selects "java/lang/StringIndexOutOfBoundsException" ({ cls := "java/lang/Object", name := "getClass", desc := "()Ljava/lang/Class;" } : Jvm.MethodName) ({ cls := "java/lang/Object", name := "getClass", desc := "()Ljava/lang/Class;" } : Jvm.MethodName)) ∈ lw_all := lw_g (lw_at lw_m4 229 rfl) rfl
theorem q1321 : (Jvm.Cond.selects "java/lang/StringIndexOutOfBoundsException" ({ cls := "java/lang/Object", name := "equals", desc := "(Ljava/lang/Object;)Z" } : Jvm.MethodName) ({ cls := "java/lang/Object", name := "equals", desc := "(Ljava/lang/Object;)Z" } : Jvm.MethodName)) ∈ lw_all := lw_g (lw_at lw_m6 75 rfl) rfl
theorem q2011 : (Jvm.Cond.instantiable "java/lang/StringIndexOutOfBoundsException" (6 : Nat)) ∈ lw_all := lw_g (lw_at lw_m9 45 rfl) rfl
theorem q2013 : (Jvm.Cond.instanceMethod ({ cls := "java/lang/StringIndexOutOfBoundsException", name := "<init>", desc := "(I)V" } : Jvm.MethodName)) ∈ lw_all := lw_g (lw_at lw_m9 47 rfl) rfl
theorem q2014 : (Jvm.Cond.code ({ cls := "java/lang/StringIndexOutOfBoundsException", name := "<init>", desc := "(I)V" } : Jvm.MethodName) prog_33_method_3_code (2 : Nat) (Option.none : Option Jvm.ClassFile.FieldType)) ∈ lw_all := lw_g (lw_at lw_m9 48 rfl) rfl
theorem q2015 : (Jvm.Cond.classLink "java/lang/StringIndexOutOfBoundsException" (10 : Nat) "java/lang/StringBuilder") ∈ lw_all := lw_g (lw_at lw_m9 49 rfl) rfl
theorem q2016 : (Jvm.Cond.methodLink "java/lang/StringIndexOutOfBoundsException" (12 : Nat) ({ cls := "java/lang/StringBuilder", name := "<init>", desc := "()V" } : Jvm.MethodName)) ∈ lw_all := lw_g (lw_at lw_m9 50 rfl) rfl
theorem q2017 : (Jvm.Cond.stringRef "java/lang/StringIndexOutOfBoundsException" (13 : Nat) "String index out of range: ") ∈ lw_tbl := lw_at lw_m9 51 rfl
theorem q2018 : (Jvm.Cond.methodLink "java/lang/StringIndexOutOfBoundsException" (15 : Nat) ({ cls := "java/lang/StringBuilder", name := "append", desc := "(Ljava/lang/String;)Ljava/lang/StringBuilder;" } : Jvm.MethodName)) ∈ lw_all := lw_g (lw_at lw_m9 52 rfl) rfl
theorem q2019 : (Jvm.Cond.methodLink "java/lang/StringIndexOutOfBoundsException" (19 : Nat) ({ cls := "java/lang/StringBuilder", name := "append", desc := "(I)Ljava/lang/StringBuilder;" } : Jvm.MethodName)) ∈ lw_all := lw_g (lw_at lw_m9 53 rfl) rfl
theorem q2020 : (Jvm.Cond.methodLink "java/lang/StringIndexOutOfBoundsException" (22 : Nat) ({ cls := "java/lang/StringBuilder", name := "toString", desc := "()Ljava/lang/String;" } : Jvm.MethodName)) ∈ lw_all := lw_g (lw_at lw_m9 54 rfl) rfl
theorem q2021 : (Jvm.Cond.methodLink "java/lang/StringIndexOutOfBoundsException" (7 : Nat) ({ cls := "java/lang/IndexOutOfBoundsException", name := "<init>", desc := "(Ljava/lang/String;)V" } : Jvm.MethodName)) ∈ lw_all := lw_g (lw_at lw_m9 55 rfl) rfl
theorem q2022 : (Jvm.Cond.lays "java/lang/StringIndexOutOfBoundsException" "java/lang/Throwable" "backtrace" "Ljava/lang/Object;") ∈ lw_all := lw_g (lw_at lw_m9 56 rfl) rfl
theorem q2023 : (Jvm.Cond.lays "java/lang/StringIndexOutOfBoundsException" "java/lang/Throwable" "detailMessage" "Ljava/lang/String;") ∈ lw_all := lw_g (lw_at lw_m9 57 rfl) rfl
theorem q2024 : (Jvm.Cond.lays "java/lang/StringIndexOutOfBoundsException" "java/lang/Throwable" "cause" "Ljava/lang/Throwable;") ∈ lw_all := lw_g (lw_at lw_m9 58 rfl) rfl
theorem q2025 : (Jvm.Cond.lays "java/lang/StringIndexOutOfBoundsException" "java/lang/Throwable" "stackTrace" "[Ljava/lang/StackTraceElement;") ∈ lw_all := lw_g (lw_at lw_m9 59 rfl) rfl
theorem q2026 : (Jvm.Cond.lays "java/lang/StringIndexOutOfBoundsException" "java/lang/Throwable" "depth" "I") ∈ lw_all := lw_g (lw_at lw_m9 60 rfl) rfl
theorem q2027 : (Jvm.Cond.lays "java/lang/StringIndexOutOfBoundsException" "java/lang/Throwable" "suppressedExceptions" "Ljava/util/List;") ∈ lw_all := lw_g (lw_at lw_m9 61 rfl) rfl
theorem q2028 : (Jvm.Cond.superclass "java/lang/StringIndexOutOfBoundsException" "java/lang/IndexOutOfBoundsException") ∈ lw_all := lw_g (lw_at lw_m9 62 rfl) rfl
theorem q2364 : (Jvm.Cond.castable "java/lang/StringIndexOutOfBoundsException" "java/lang/IndexOutOfBoundsException") ∈ lw_tbl := lw_at lw_m10 158 rfl
theorem q2392 : (Jvm.Cond.castable "java/lang/StringIndexOutOfBoundsException" "java/lang/Object") ∈ lw_tbl := lw_at lw_m10 186 rfl
theorem q55 : (Jvm.Cond.initialized "java/lang/StringUTF16") ∈ lw_all := lw_g (lw_at lw_m1 9 rfl) rfl
theorem q175 : (Jvm.Cond.static ({ cls := "java/lang/StringUTF16", name := "newBytesFor", desc := "(I)[B" } : Jvm.MethodName)) ∈ lw_all := lw_g (lw_at lw_m1 129 rfl) rfl
theorem q176 : (Jvm.Cond.code ({ cls := "java/lang/StringUTF16", name := "newBytesFor", desc := "(I)[B" } : Jvm.MethodName) prog_35_method_2_code (1 : Nat) (Option.some (Jvm.ClassFile.FieldType.array Jvm.ClassFile.FieldType.byte))) ∈ lw_all := lw_g (lw_at lw_m1 130 rfl) rfl
theorem q177 : (Jvm.Cond.methodLink "java/lang/StringUTF16" (11 : Nat) ({ cls := "java/lang/StringUTF16", name := "newBytesLength", desc := "(I)I" } : Jvm.MethodName)) ∈ lw_all := lw_g (lw_at lw_m1 131 rfl) rfl
theorem q178 : (Jvm.Cond.static ({ cls := "java/lang/StringUTF16", name := "newBytesLength", desc := "(I)I" } : Jvm.MethodName)) ∈ lw_all := lw_g (lw_at lw_m1 132 rfl) rfl
theorem q179 : (Jvm.Cond.code ({ cls := "java/lang/StringUTF16", name := "newBytesLength", desc := "(I)I" } : Jvm.MethodName) prog_35_method_3_code (1 : Nat) (Option.some Jvm.ClassFile.FieldType.int)) ∈ lw_all := lw_g (lw_at lw_m1 133 rfl) rfl
theorem q180 : (Jvm.Cond.constant "java/lang/StringUTF16" (20 : Nat) (1073741823 : Int32)) ∈ lw_all := lw_g (lw_at lw_m1 134 rfl) rfl
theorem q330 : (Jvm.Cond.static ({ cls := "java/lang/StringUTF16", name := "getChar", desc := "([BI)C" } : Jvm.MethodName)) ∈ lw_all := lw_g (lw_at lw_m2 44 rfl) rfl
theorem q331 : (Jvm.Cond.code ({ cls := "java/lang/StringUTF16", name := "getChar", desc := "([BI)C" } : Jvm.MethodName) prog_35_method_5_code (2 : Nat) (Option.some Jvm.ClassFile.FieldType.char)) ∈ lw_all := lw_g (lw_at lw_m2 45 rfl) rfl
theorem q332 : (Jvm.Cond.fieldLink "java/lang/StringUTF16" (44 : Nat) "java/lang/StringUTF16" "$assertionsDisabled" "Z") ∈ lw_all := lw_g (lw_at lw_m2 46 rfl) rfl
theorem q333 : (Jvm.Cond.laysStatic "java/lang/StringUTF16" "$assertionsDisabled" "Z") ∈ lw_tbl := lw_at lw_m2 47 rfl
theorem q334 : (Jvm.Cond.methodLink "java/lang/StringUTF16" (48 : Nat) ({ cls := "java/lang/StringUTF16", name := "length", desc := "([B)I" } : Jvm.MethodName)) ∈ lw_all := lw_g (lw_at lw_m2 48 rfl) rfl
theorem q335 : (Jvm.Cond.static ({ cls := "java/lang/StringUTF16", name := "length", desc := "([B)I" } : Jvm.MethodName)) ∈ lw_all := lw_g (lw_at lw_m2 49 rfl) rfl
theorem q336 : (Jvm.Cond.code ({ cls := "java/lang/StringUTF16", name := "length", desc := "([B)I" } : Jvm.MethodName) prog_35_method_6_code (1 : Nat) (Option.some Jvm.ClassFile.FieldType.int)) ∈ lw_all := lw_g (lw_at lw_m2 50 rfl) rfl
theorem q337 : (Jvm.Cond.fieldLink "java/lang/StringUTF16" (59 : Nat) "java/lang/StringUTF16" "HI_BYTE_SHIFT" "I") ∈ lw_all := lw_g (lw_at lw_m2 51 rfl) rfl
theorem q338 : (Jvm.Cond.laysStatic "java/lang/StringUTF16" "HI_BYTE_SHIFT" "I") ∈ lw_tbl := lw_at lw_m2 52 rfl
theorem q339 : (Jvm.Cond.fieldLink "java/lang/StringUTF16" (63 : Nat) "java/lang/StringUTF16" "LO_BYTE_SHIFT" "I") ∈ lw_all := lw_g (lw_at lw_m2 53 rfl) rfl
theorem q340 : (Jvm.Cond.laysStatic "java/lang/StringUTF16" "LO_BYTE_SHIFT" "I") ∈ lw_tbl := lw_at lw_m2 54 rfl
theorem q362 : (Jvm.Cond.static ({ cls := "java/lang/StringUTF16", name := "charAt", desc := "([BI)C" } : Jvm.MethodName)) ∈ lw_all := lw_g (lw_at lw_m2 76 rfl) rfl
theorem q363 : (Jvm.Cond.code ({ cls := "java/lang/StringUTF16", name := "charAt", desc := "([BI)C" } : Jvm.MethodName) prog_35_method_83_code (2 : Nat) (Option.some Jvm.ClassFile.FieldType.char)) ∈ lw_all := lw_g (lw_at lw_m2 77 rfl) rfl
theorem q364 : (Jvm.Cond.methodLink "java/lang/StringUTF16" (67 : Nat) ({ cls := "java/lang/StringUTF16", name := "checkIndex", desc := "(I[B)V" } : Jvm.MethodName)) ∈ lw_all := lw_g (lw_at lw_m2 78 rfl) rfl
theorem q365 : (Jvm.Cond.static ({ cls := "java/lang/StringUTF16", name := "checkIndex", desc := "(I[B)V" } : Jvm.MethodName)) ∈ lw_all := lw_g (lw_at lw_m2 79 rfl) rfl
theorem q366 : (Jvm.Cond.code ({ cls := "java/lang/StringUTF16", name := "checkIndex", desc := "(I[B)V" } : Jvm.MethodName) prog_35_method_91_code (2 : Nat) (Option.none : Option Jvm.ClassFile.FieldType)) ∈ lw_all := lw_g (lw_at lw_m2 80 rfl) rfl
theorem q367 : (Jvm.Cond.methodLink "java/lang/StringUTF16" (414 : Nat) ({ cls := "java/lang/String", name := "checkIndex", desc := "(II)V" } : Jvm.MethodName)) ∈ lw_all := lw_g (lw_at lw_m2 81 rfl) rfl
theorem q368 : (Jvm.Cond.methodLink "java/lang/StringUTF16" (71 : Nat) ({ cls := "java/lang/StringUTF16", name := "getChar", desc := "([BI)C" } : Jvm.MethodName)) ∈ lw_all := lw_g (lw_at lw_m2 82 rfl) rfl
theorem q561 : (Jvm.Cond.static ({ cls := "java/lang/StringUTF16", name := "getChars", desc := "(III[B)I" } : Jvm.MethodName)) ∈ lw_all := lw_g (lw_at lw_m3 35 rfl) rfl
theorem q562 : (Jvm.Cond.code ({ cls := "java/lang/StringUTF16", name := "getChars", desc := "(III[B)I" } : Jvm.MethodName) prog_35_method_77_code (5 : Nat) (Option.some Jvm.ClassFile.FieldType.int)) ∈ lw_all := lw_g (lw_at lw_m3 36 rfl) rfl
theorem q563 : (Jvm.Cond.methodLink "java/lang/StringUTF16" (96 : Nat) ({ cls := "java/lang/StringUTF16", name := "checkBoundsBeginEnd", desc := "(II[B)V" } : Jvm.MethodName)) ∈ lw_all := lw_g (lw_at lw_m3 37 rfl) rfl
theorem q564 : (Jvm.Cond.static ({ cls := "java/lang/StringUTF16", name := "checkBoundsBeginEnd", desc := "(II[B)V" } : Jvm.MethodName)) ∈ lw_all := lw_g (lw_at lw_m3 38 rfl) rfl
theorem q565 : (Jvm.Cond.code ({ cls := "java/lang/StringUTF16", name := "checkBoundsBeginEnd", desc := "(II[B)V" } : Jvm.MethodName) prog_35_method_93_code (3 : Nat) (Option.none : Option Jvm.ClassFile.FieldType)) ∈ lw_all := lw_g (lw_at lw_m3 39 rfl) rfl
theorem q566 : (Jvm.Cond.methodLink "java/lang/StringUTF16" (241 : Nat) ({ cls := "java/lang/String", name := "checkBoundsBeginEnd", desc := "(III)V" } : Jvm.MethodName)) ∈ lw_all := lw_g (lw_at lw_m3 40 rfl) rfl
theorem q572 : (Jvm.Cond.methodLink "java/lang/StringUTF16" (393 : Nat) ({ cls := "java/lang/StringUTF16", name := "getChars", desc := "(II[B)I" } : Jvm.MethodName)) ∈ lw_all := lw_g (lw_at lw_m3 46 rfl) rfl
theorem q573 : (Jvm.Cond.static ({ cls := "java/lang/StringUTF16", name := "getChars", desc := "(II[B)I" } : Jvm.MethodName)) ∈ lw_all := lw_g (lw_at lw_m3 47 rfl) rfl
theorem q574 : (Jvm.Cond.code ({ cls := "java/lang/StringUTF16", name := "getChars", desc := "(II[B)I" } : Jvm.MethodName) prog_35_method_89_code (7 : Nat) (Option.some Jvm.ClassFile.FieldType.int)) ∈ lw_all := lw_g (lw_at lw_m3 48 rfl) rfl
theorem q575 : (Jvm.Cond.fieldLink "java/lang/StringUTF16" (403 : Nat) "java/lang/Integer" "DigitOnes" "[B") ∈ lw_all := lw_g (lw_at lw_m3 49 rfl) rfl
theorem q576 : (Jvm.Cond.methodLink "java/lang/StringUTF16" (111 : Nat) ({ cls := "java/lang/StringUTF16", name := "putChar", desc := "([BII)V" } : Jvm.MethodName)) ∈ lw_all := lw_g (lw_at lw_m3 50 rfl) rfl
theorem q577 : (Jvm.Cond.static ({ cls := "java/lang/StringUTF16", name := "putChar", desc := "([BII)V" } : Jvm.MethodName)) ∈ lw_all := lw_g (lw_at lw_m3 51 rfl) rfl
theorem q578 : (Jvm.Cond.code ({ cls := "java/lang/StringUTF16", name := "putChar", desc := "([BII)V" } : Jvm.MethodName) prog_35_method_4_code (3 : Nat) (Option.none : Option Jvm.ClassFile.FieldType)) ∈ lw_all := lw_g (lw_at lw_m3 52 rfl) rfl
theorem q579 : (Jvm.Cond.fieldLink "java/lang/StringUTF16" (407 : Nat) "java/lang/Integer" "DigitTens" "[B") ∈ lw_all := lw_g (lw_at lw_m3 53 rfl) rfl
theorem q593 : (Jvm.Cond.static ({ cls := "java/lang/StringUTF16", name := "putCharsAt", desc := "([BICCCC)I" } : Jvm.MethodName)) ∈ lw_all := lw_g (lw_at lw_m3 67 rfl) rfl
theorem q594 : (Jvm.Cond.code ({ cls := "java/lang/StringUTF16", name := "putCharsAt", desc := "([BICCCC)I" } : Jvm.MethodName) prog_35_method_81_code (7 : Nat) (Option.some Jvm.ClassFile.FieldType.int)) ∈ lw_all := lw_g (lw_at lw_m3 68 rfl) rfl
theorem q613 : (Jvm.Cond.static ({ cls := "java/lang/StringUTF16", name := "inflate", desc := "([BI[BII)V" } : Jvm.MethodName)) ∈ lw_all := lw_g (lw_at lw_m3 87 rfl) rfl
theorem q614 : (Jvm.Cond.code ({ cls := "java/lang/StringUTF16", name := "inflate", desc := "([BI[BII)V" } : Jvm.MethodName) prog_35_method_86_code (6 : Nat) (Option.none : Option Jvm.ClassFile.FieldType)) ∈ lw_all := lw_g (lw_at lw_m3 88 rfl) rfl
theorem q615 : (Jvm.Cond.methodLink "java/lang/StringUTF16" (173 : Nat) ({ cls := "java/lang/StringUTF16", name := "checkBoundsOffCount", desc := "(II[B)V" } : Jvm.MethodName)) ∈ lw_all := lw_g (lw_at lw_m3 89 rfl) rfl
theorem q616 : (Jvm.Cond.static ({ cls := "java/lang/StringUTF16", name := "checkBoundsOffCount", desc := "(II[B)V" } : Jvm.MethodName)) ∈ lw_all := lw_g (lw_at lw_m3 90 rfl) rfl
theorem q617 : (Jvm.Cond.code ({ cls := "java/lang/StringUTF16", name := "checkBoundsOffCount", desc := "(II[B)V" } : Jvm.MethodName) prog_35_method_94_code (3 : Nat) (Option.none : Option Jvm.ClassFile.FieldType)) ∈ lw_all := lw_g (lw_at lw_m3 91 rfl) rfl
theorem q618 : (Jvm.Cond.methodLink "java/lang/StringUTF16" (419 : Nat) ({ cls := "java/lang/String", name := "checkBoundsOffCount", desc := "(III)I" } : Jvm.MethodName)) ∈ lw_all := lw_g (lw_at lw_m3 92 rfl) rfl
theorem q657 : (Jvm.Cond.static ({ cls := "java/lang/StringUTF16", name := "compress", desc := "([BII)[B" } : Jvm.MethodName)) ∈ lw_all := lw_g (lw_at lw_m3 131 rfl) rfl
theorem q658 : (Jvm.Cond.code ({ cls := "java/lang/StringUTF16", name := "compress", desc := "([BII)[B" } : Jvm.MethodName) prog_35_method_17_code (6 : Nat) (Option.some (Jvm.ClassFile.FieldType.array Jvm.ClassFile.FieldType.byte))) ∈ lw_all := lw_g (lw_at lw_m3 132 rfl) rfl
theorem q659 : (Jvm.Cond.methodLink "java/lang/StringUTF16" (123 : Nat) ({ cls := "java/lang/StringUTF16", name := "compress", desc := "([BI[BII)I" } : Jvm.MethodName)) ∈ lw_all := lw_g (lw_at lw_m3 133 rfl) rfl
theorem q660 : (Jvm.Cond.static ({ cls := "java/lang/StringUTF16", name := "compress", desc := "([BI[BII)I" } : Jvm.MethodName)) ∈ lw_all := lw_g (lw_at lw_m3 134 rfl) rfl
theorem q661 : (Jvm.Cond.code ({ cls := "java/lang/StringUTF16", name := "compress", desc := "([BI[BII)I" } : Jvm.MethodName) prog_35_method_22_code (7 : Nat) (Option.some Jvm.ClassFile.FieldType.int)) ∈ lw_all := lw_g (lw_at lw_m3 135 rfl) rfl
theorem q662 : (Jvm.Cond.methodLink "java/lang/StringUTF16" (126 : Nat) ({ cls := "java/util/Arrays", name := "copyOfRange", desc := "([BII)[B" } : Jvm.MethodName)) ∈ lw_all := lw_g (lw_at lw_m3 136 rfl) rfl
theorem q664 : (Jvm.Cond.static ({ cls := "java/lang/StringUTF16", name := "coderFromArrayLen", desc := "([BI)B" } : Jvm.MethodName)) ∈ lw_all := lw_g (lw_at lw_m3 138 rfl) rfl
theorem q665 : (Jvm.Cond.code ({ cls := "java/lang/StringUTF16", name := "coderFromArrayLen", desc := "([BI)B" } : Jvm.MethodName) prog_35_method_15_code (2 : Nat) (Option.some Jvm.ClassFile.FieldType.byte)) ∈ lw_all := lw_g (lw_at lw_m3 139 rfl) rfl
theorem q835 : (Jvm.Cond.static ({ cls := "java/lang/StringUTF16", name := "compareTo", desc := "([B[B)I" } : Jvm.MethodName)) ∈ lw_all := lw_g (lw_at lw_m4 69 rfl) rfl
theorem q836 : (Jvm.Cond.code ({ cls := "java/lang/StringUTF16", name := "compareTo", desc := "([B[B)I" } : Jvm.MethodName) prog_35_method_29_code (4 : Nat) (Option.some Jvm.ClassFile.FieldType.int)) ∈ lw_all := lw_g (lw_at lw_m4 70 rfl) rfl
theorem q837 : (Jvm.Cond.methodLink "java/lang/StringUTF16" (176 : Nat) ({ cls := "java/lang/StringUTF16", name := "compareValues", desc := "([B[BII)I" } : Jvm.MethodName)) ∈ lw_all := lw_g (lw_at lw_m4 71 rfl) rfl
theorem q838 : (Jvm.Cond.static ({ cls := "java/lang/StringUTF16", name := "compareValues", desc := "([B[BII)I" } : Jvm.MethodName)) ∈ lw_all := lw_g (lw_at lw_m4 72 rfl) rfl
theorem q839 : (Jvm.Cond.code ({ cls := "java/lang/StringUTF16", name := "compareValues", desc := "([B[BII)I" } : Jvm.MethodName) prog_35_method_31_code (8 : Nat) (Option.some Jvm.ClassFile.FieldType.int)) ∈ lw_all := lw_g (lw_at lw_m4 73 rfl) rfl
theorem q840 : (Jvm.Cond.methodLink "java/lang/StringUTF16" (183 : Nat) ({ cls := "java/lang/Math", name := "min", desc := "(II)I" } : Jvm.MethodName)) ∈ lw_all := lw_g (lw_at lw_m4 74 rfl) rfl
theorem q853 : (Jvm.Cond.static ({ cls := "java/lang/StringUTF16", name := "compareToLatin1", desc := "([B[B)I" } : Jvm.MethodName)) ∈ lw_all := lw_g (lw_at lw_m4 87 rfl) rfl
theorem q854 : (Jvm.Cond.code ({ cls := "java/lang/StringUTF16", name := "compareToLatin1", desc := "([B[B)I" } : Jvm.MethodName) prog_35_method_32_code (2 : Nat) (Option.some Jvm.ClassFile.FieldType.int)) ∈ lw_all := lw_g (lw_at lw_m4 88 rfl) rfl
theorem q855 : (Jvm.Cond.methodLink "java/lang/StringUTF16" (189 : Nat) ({ cls := "java/lang/StringLatin1", name := "compareToUTF16", desc := "([B[B)I" } : Jvm.MethodName)) ∈ lw_all := lw_g (lw_at lw_m4 89 rfl) rfl
theorem q872 : (Jvm.Cond.static ({ cls := "java/lang/StringUTF16", name := "compareTo", desc := "([B[BII)I" } : Jvm.MethodName)) ∈ lw_all := lw_g (lw_at lw_m4 106 rfl) rfl
theorem q873 : (Jvm.Cond.code ({ cls := "java/lang/StringUTF16", name := "compareTo", desc := "([B[BII)I" } : Jvm.MethodName) prog_35_method_30_code (4 : Nat) (Option.some Jvm.ClassFile.FieldType.int)) ∈ lw_all := lw_g (lw_at lw_m4 107 rfl) rfl
theorem q874 : (Jvm.Cond.methodLink "java/lang/StringUTF16" (180 : Nat) ({ cls := "java/lang/StringUTF16", name := "checkOffset", desc := "(I[B)V" } : Jvm.MethodName)) ∈ lw_all := lw_g (lw_at lw_m4 108 rfl) rfl
theorem q875 : (Jvm.Cond.static ({ cls := "java/lang/StringUTF16", name := "checkOffset", desc := "(I[B)V" } : Jvm.MethodName)) ∈ lw_all := lw_g (lw_at lw_m4 109 rfl) rfl
theorem q876 : (Jvm.Cond.code ({ cls := "java/lang/StringUTF16", name := "checkOffset", desc := "(I[B)V" } : Jvm.MethodName) prog_35_method_92_code (2 : Nat) (Option.none : Option Jvm.ClassFile.FieldType)) ∈ lw_all := lw_g (lw_at lw_m4 110 rfl) rfl
theorem q877 : (Jvm.Cond.methodLink "java/lang/StringUTF16" (417 : Nat) ({ cls := "java/lang/String", name := "checkOffset", desc := "(II)V" } : Jvm.MethodName)) ∈ lw_all := lw_g (lw_at lw_m4 111 rfl) rfl
theorem q885 : (Jvm.Cond.static ({ cls := "java/lang/StringUTF16", name := "compareToLatin1", desc := "([B[BII)I" } : Jvm.MethodName)) ∈ lw_all := lw_g (lw_at lw_m4 119 rfl) rfl
theorem q886 : (Jvm.Cond.code ({ cls := "java/lang/StringUTF16", name := "compareToLatin1", desc := "([B[BII)I" } : Jvm.MethodName) prog_35_method_33_code (4 : Nat) (Option.some Jvm.ClassFile.FieldType.int)) ∈ lw_all := lw_g (lw_at lw_m4 120 rfl) rfl
theorem q887 : (Jvm.Cond.methodLink "java/lang/StringUTF16" (193 : Nat) ({ cls := "java/lang/StringLatin1", name := "compareToUTF16", desc := "([B[BII)I" } : Jvm.MethodName)) ∈ lw_all := lw_g (lw_at lw_m4 121 rfl) rfl
theorem q1120 : (Jvm.Cond.static ({ cls := "java/lang/StringUTF16", name := "newString", desc := "([BII)Ljava/lang/String;" } : Jvm.MethodName)) ∈ lw_all := lw_g (lw_at lw_m5 114 rfl) rfl
theorem q1121 : (Jvm.Cond.code ({ cls := "java/lang/StringUTF16", name := "newString", desc := "([BII)Ljava/lang/String;" } : Jvm.MethodName) prog_35_method_69_code (5 : Nat) (Option.some (Jvm.ClassFile.FieldType.object "java/lang/String"))) ∈ lw_all := lw_g (lw_at lw_m5 115 rfl) rfl
theorem q1122 : (Jvm.Cond.stringRef "java/lang/StringUTF16" (295 : Nat) "") ∈ lw_tbl := lw_at lw_m5 116 rfl
theorem q1123 : (Jvm.Cond.fieldLink "java/lang/StringUTF16" (251 : Nat) "java/lang/String" "COMPACT_STRINGS" "Z") ∈ lw_all := lw_g (lw_at lw_m5 117 rfl) rfl
theorem q1124 : (Jvm.Cond.methodLink "java/lang/StringUTF16" (257 : Nat) ({ cls := "java/lang/StringUTF16", name := "compress", desc := "([BII)[B" } : Jvm.MethodName)) ∈ lw_all := lw_g (lw_at lw_m5 118 rfl) rfl
theorem q1125 : (Jvm.Cond.methodLink "java/lang/StringUTF16" (259 : Nat) ({ cls := "java/lang/StringUTF16", name := "coderFromArrayLen", desc := "([BI)B" } : Jvm.MethodName)) ∈ lw_all := lw_g (lw_at lw_m5 119 rfl) rfl
theorem q1126 : (Jvm.Cond.classLink "java/lang/StringUTF16" (3 : Nat) "java/lang/String") ∈ lw_all := lw_g (lw_at lw_m5 120 rfl) rfl
theorem q1127 : (Jvm.Cond.methodLink "java/lang/StringUTF16" (263 : Nat) ({ cls := "java/lang/String", name := "<init>", desc := "([BB)V" } : Jvm.MethodName)) ∈ lw_all := lw_g (lw_at lw_m5 121 rfl) rfl
theorem q1452 : (Jvm.Cond.static ({ cls := "java/lang/StringUTF16", name := "putCharSB", desc := "([BII)V" } : Jvm.MethodName)) ∈ lw_all := lw_g (lw_at lw_m6 206 rfl) rfl
theorem q1453 : (Jvm.Cond.code ({ cls := "java/lang/StringUTF16", name := "putCharSB", desc := "([BII)V" } : Jvm.MethodName) prog_35_method_71_code (3 : Nat) (Option.none : Option Jvm.ClassFile.FieldType)) ∈ lw_all := lw_g (lw_at lw_m6 207 rfl) rfl
theorem q1677 : (Jvm.Cond.static ({ cls := "java/lang/StringUTF16", name := "putCharsSB", desc := "([BILjava/lang/CharSequence;II)V" } : Jvm.MethodName)) ∈ lw_all := lw_g (lw_at lw_m7 191 rfl) rfl
theorem q1678 : (Jvm.Cond.code ({ cls := "java/lang/StringUTF16", name := "putCharsSB", desc := "([BILjava/lang/CharSequence;II)V" } : Jvm.MethodName) prog_35_method_73_code (6 : Nat) (Option.none : Option Jvm.ClassFile.FieldType)) ∈ lw_all := lw_g (lw_at lw_m7 192 rfl) rfl
theorem q1679 : (Jvm.Cond.interfaceEntry "java/lang/StringUTF16" (388 : Nat)) ∈ lw_tbl := lw_at lw_m7 193 rfl
theorem q1680 : (Jvm.Cond.methodLink "java/lang/StringUTF16" (388 : Nat) ({ cls := "java/lang/CharSequence", name := "charAt", desc := "(I)C" } : Jvm.MethodName)) ∈ lw_all := lw_g (lw_at lw_m7 194 rfl) rfl
theorem q2052 : (Jvm.Cond.static ({ cls := "java/lang/StringUTF16", name := "fillNull", desc := "([BII)V" } : Jvm.MethodName)) ∈ lw_all := lw_g (lw_at lw_m9 86 rfl) rfl
theorem q2053 : (Jvm.Cond.code ({ cls := "java/lang/StringUTF16", name := "fillNull", desc := "([BII)V" } : Jvm.MethodName) prog_35_method_70_code (3 : Nat) (Option.none : Option Jvm.ClassFile.FieldType)) ∈ lw_all := lw_g (lw_at lw_m9 87 rfl) rfl
theorem q2054 : (Jvm.Cond.methodLink "java/lang/StringUTF16" (380 : Nat) ({ cls := "java/util/Arrays", name := "fill", desc := "([BIIB)V" } : Jvm.MethodName)) ∈ lw_all := lw_g (lw_at lw_m9 88 rfl) rfl
theorem q542 : (Jvm.Cond.sameMethod "[B" "java/lang/Object" "clone" "()Ljava/lang/Object;") ∈ lw_all := lw_g (lw_at lw_m3 16 rfl) rfl
set_option maxRecDepth 100000
theorem q545 : (Jvm.Cond.selects "[B" ({ cls := "[B", name := "clone", desc := "()Ljava/lang/Object;" } : Jvm.MethodName) ({ cls := "java/lang/Object", name := "clone", desc := "()Ljava/lang/Object;" } : Jvm.MethodName)) ∈ lw_all := lw_g (lw_at lw_m3 19 rfl) rfl
theorem q546 : (Jvm.Cond.castable "[B" "java/lang/Cloneable") ∈ lw_tbl := lw_at lw_m3 20 rfl
theorem q2400 : (Jvm.Cond.castable "[B" "java/lang/Object") ∈ lw_tbl := lw_at lw_m10 194 rfl

theorem q2399 : (Jvm.Cond.castable "[I" "java/lang/Object") ∈ lw_tbl := lw_at lw_m10 193 rfl
set_option maxRecDepth 100000

theorem q2404 : (Jvm.Cond.castable "[J" "java/lang/Object") ∈ lw_tbl := lw_at lw_m10 198 rfl
set_option maxRecDepth 100000

theorem q2397 : (Jvm.Cond.castable "[LKnotLetters$Letter;" "java/lang/Object") ∈ lw_tbl := lw_at lw_m10 191 rfl
set_option maxRecDepth 100000

theorem q2402 : (Jvm.Cond.castable "[LKnotLetters$Reading;" "java/lang/Object") ∈ lw_tbl := lw_at lw_m10 196 rfl
set_option maxRecDepth 100000

theorem q2394 : (Jvm.Cond.sameMethod "[Ljava/lang/Object;" "java/lang/Object" "getClass" "()Ljava/lang/Class;") ∈ lw_all := lw_g (lw_at lw_m10 188 rfl) rfl
set_option maxRecDepth 100000
theorem q2395 : (Jvm.Cond.selects "[Ljava/lang/Object;" ({ cls := "java/lang/Object", name := "getClass", desc := "()Ljava/lang/Class;" } : Jvm.MethodName) ({ cls := "java/lang/Object", name := "getClass", desc := "()Ljava/lang/Class;" } : Jvm.MethodName)) ∈ lw_all := lw_g (lw_at lw_m10 189 rfl) rfl
theorem q2401 : (Jvm.Cond.castable "[Ljava/lang/Object;" "java/lang/Object") ∈ lw_tbl := lw_at lw_m10 195 rfl

theorem q2403 : (Jvm.Cond.castable "[Z" "java/lang/Object") ∈ lw_tbl := lw_at lw_m10 197 rfl
set_option maxRecDepth 100000

theorem q2398 : (Jvm.Cond.castable "[[I" "java/lang/Object") ∈ lw_tbl := lw_at lw_m10 192 rfl
set_option maxRecDepth 100000

theorem q285 : (Jvm.Cond.interfaceMethod "java/lang/CharSequence" "java/lang/CharSequence" "length" "()I") ∈ lw_tbl := lw_at lw_m1 239 rfl
set_option maxRecDepth 100000
theorem q286 : (Jvm.Cond.declares ({ cls := "java/lang/CharSequence", name := "length", desc := "()I" } : Jvm.MethodName)) ∈ lw_tbl := lw_at lw_m2 0 rfl
theorem q343 : (Jvm.Cond.interfaceMethod "java/lang/CharSequence" "java/lang/CharSequence" "charAt" "(I)C") ∈ lw_tbl := lw_at lw_m2 57 rfl
theorem q344 : (Jvm.Cond.declares ({ cls := "java/lang/CharSequence", name := "charAt", desc := "(I)C" } : Jvm.MethodName)) ∈ lw_tbl := lw_at lw_m2 58 rfl

theorem q707 : (Jvm.Cond.interfaceMethod "java/lang/Comparable" "java/lang/Comparable" "compareTo" "(Ljava/lang/Object;)I") ∈ lw_tbl := lw_at lw_m3 181 rfl
set_option maxRecDepth 100000
theorem q708 : (Jvm.Cond.declares ({ cls := "java/lang/Comparable", name := "compareTo", desc := "(Ljava/lang/Object;)I" } : Jvm.MethodName)) ∈ lw_tbl := lw_at lw_m3 182 rfl

theorem q1166 : (Jvm.Cond.interfaceMethod "java/lang/Iterable" "java/lang/Iterable" "iterator" "()Ljava/util/Iterator;") ∈ lw_tbl := lw_at lw_m5 160 rfl
set_option maxRecDepth 100000
theorem q1167 : (Jvm.Cond.declares ({ cls := "java/lang/Iterable", name := "iterator", desc := "()Ljava/util/Iterator;" } : Jvm.MethodName)) ∈ lw_tbl := lw_at lw_m5 161 rfl
theorem q1331 : (Jvm.Cond.publicMethod ({ cls := "java/lang/Iterable", name := "iterator", desc := "()Ljava/util/Iterator;" } : Jvm.MethodName)) ∈ lw_tbl := lw_at lw_m6 85 rfl

theorem q71 : (Jvm.Cond.initialized "java/lang/Number") ∈ lw_all := lw_g (lw_at lw_m1 25 rfl) rfl
set_option maxRecDepth 100000

theorem q68 : (Jvm.Cond.initialized "java/lang/System") ∈ lw_all := lw_g (lw_at lw_m1 22 rfl) rfl
set_option maxRecDepth 100000
theorem q550 : (Jvm.Cond.static ({ cls := "java/lang/System", name := "arraycopy", desc := "(Ljava/lang/Object;ILjava/lang/Object;II)V" } : Jvm.MethodName)) ∈ lw_all := lw_g (lw_at lw_m3 24 rfl) rfl
theorem q551 : (Jvm.Cond.native ({ cls := "java/lang/System", name := "arraycopy", desc := "(Ljava/lang/Object;ILjava/lang/Object;II)V" } : Jvm.MethodName)) ∈ lw_all := lw_g (lw_at lw_m3 25 rfl) rfl

theorem q1252 : (Jvm.Cond.interfaceMethod "java/util/Collection" "java/util/Collection" "size" "()I") ∈ lw_tbl := lw_at lw_m6 6 rfl
set_option maxRecDepth 100000
theorem q1253 : (Jvm.Cond.declares ({ cls := "java/util/Collection", name := "size", desc := "()I" } : Jvm.MethodName)) ∈ lw_tbl := lw_at lw_m6 7 rfl
theorem q1329 : (Jvm.Cond.publicMethod ({ cls := "java/util/Collection", name := "size", desc := "()I" } : Jvm.MethodName)) ∈ lw_tbl := lw_at lw_m6 83 rfl
theorem q1374 : (Jvm.Cond.interfaceMethod "java/util/Collection" "java/util/Collection" "iterator" "()Ljava/util/Iterator;") ∈ lw_tbl := lw_at lw_m6 128 rfl
theorem q1375 : (Jvm.Cond.declares ({ cls := "java/util/Collection", name := "iterator", desc := "()Ljava/util/Iterator;" } : Jvm.MethodName)) ∈ lw_tbl := lw_at lw_m6 129 rfl

theorem q890 : (Jvm.Cond.interfaceMethod "java/util/Comparator" "java/util/Comparator" "compare" "(Ljava/lang/Object;Ljava/lang/Object;)I") ∈ lw_tbl := lw_at lw_m4 124 rfl
set_option maxRecDepth 100000
theorem q891 : (Jvm.Cond.declares ({ cls := "java/util/Comparator", name := "compare", desc := "(Ljava/lang/Object;Ljava/lang/Object;)I" } : Jvm.MethodName)) ∈ lw_tbl := lw_at lw_m4 125 rfl

theorem q1038 : (Jvm.Cond.interfaceMethod "java/util/Iterator" "java/util/Iterator" "hasNext" "()Z") ∈ lw_tbl := lw_at lw_m5 32 rfl
set_option maxRecDepth 100000
theorem q1039 : (Jvm.Cond.declares ({ cls := "java/util/Iterator", name := "hasNext", desc := "()Z" } : Jvm.MethodName)) ∈ lw_tbl := lw_at lw_m5 33 rfl
theorem q1054 : (Jvm.Cond.interfaceMethod "java/util/Iterator" "java/util/Iterator" "next" "()Ljava/lang/Object;") ∈ lw_tbl := lw_at lw_m5 48 rfl
theorem q1055 : (Jvm.Cond.declares ({ cls := "java/util/Iterator", name := "next", desc := "()Ljava/lang/Object;" } : Jvm.MethodName)) ∈ lw_tbl := lw_at lw_m5 49 rfl

theorem q684 : (Jvm.Cond.publicMethod ({ cls := "java/util/Map", name := "put", desc := "(Ljava/lang/Object;Ljava/lang/Object;)Ljava/lang/Object;" } : Jvm.MethodName)) ∈ lw_tbl := lw_at lw_m3 158 rfl
set_option maxRecDepth 100000
theorem q685 : (Jvm.Cond.declares ({ cls := "java/util/Map", name := "put", desc := "(Ljava/lang/Object;Ljava/lang/Object;)Ljava/lang/Object;" } : Jvm.MethodName)) ∈ lw_tbl := lw_at lw_m3 159 rfl
theorem q1133 : (Jvm.Cond.publicMethod ({ cls := "java/util/Map", name := "size", desc := "()I" } : Jvm.MethodName)) ∈ lw_tbl := lw_at lw_m5 127 rfl
theorem q1134 : (Jvm.Cond.declares ({ cls := "java/util/Map", name := "size", desc := "()I" } : Jvm.MethodName)) ∈ lw_tbl := lw_at lw_m5 128 rfl
theorem q1146 : (Jvm.Cond.publicMethod ({ cls := "java/util/Map", name := "containsKey", desc := "(Ljava/lang/Object;)Z" } : Jvm.MethodName)) ∈ lw_tbl := lw_at lw_m5 140 rfl
theorem q1147 : (Jvm.Cond.declares ({ cls := "java/util/Map", name := "containsKey", desc := "(Ljava/lang/Object;)Z" } : Jvm.MethodName)) ∈ lw_tbl := lw_at lw_m5 141 rfl

theorem q1349 : (Jvm.Cond.interfaceMethod "java/util/Map$Entry" "java/util/Map$Entry" "getKey" "()Ljava/lang/Object;") ∈ lw_tbl := lw_at lw_m6 103 rfl
set_option maxRecDepth 100000
theorem q1350 : (Jvm.Cond.declares ({ cls := "java/util/Map$Entry", name := "getKey", desc := "()Ljava/lang/Object;" } : Jvm.MethodName)) ∈ lw_tbl := lw_at lw_m6 104 rfl
theorem q1359 : (Jvm.Cond.interfaceMethod "java/util/Map$Entry" "java/util/Map$Entry" "getValue" "()Ljava/lang/Object;") ∈ lw_tbl := lw_at lw_m6 113 rfl
theorem q1360 : (Jvm.Cond.declares ({ cls := "java/util/Map$Entry", name := "getValue", desc := "()Ljava/lang/Object;" } : Jvm.MethodName)) ∈ lw_tbl := lw_at lw_m6 114 rfl

theorem q1221 : (Jvm.Cond.interfaceMethod "java/util/NavigableMap" "java/util/NavigableMap" "navigableKeySet" "()Ljava/util/NavigableSet;") ∈ lw_tbl := lw_at lw_m5 215 rfl
set_option maxRecDepth 100000
theorem q1222 : (Jvm.Cond.declares ({ cls := "java/util/NavigableMap", name := "navigableKeySet", desc := "()Ljava/util/NavigableSet;" } : Jvm.MethodName)) ∈ lw_tbl := lw_at lw_m5 216 rfl

theorem q1240 : (Jvm.Cond.interfaceMethod "java/util/NavigableSet" "java/util/NavigableSet" "iterator" "()Ljava/util/Iterator;") ∈ lw_tbl := lw_at lw_m5 234 rfl
set_option maxRecDepth 100000
theorem q1241 : (Jvm.Cond.declares ({ cls := "java/util/NavigableSet", name := "iterator", desc := "()Ljava/util/Iterator;" } : Jvm.MethodName)) ∈ lw_tbl := lw_at lw_m5 235 rfl

theorem q1283 : (Jvm.Cond.publicMethod ({ cls := "java/util/SortedMap", name := "comparator", desc := "()Ljava/util/Comparator;" } : Jvm.MethodName)) ∈ lw_tbl := lw_at lw_m6 37 rfl
set_option maxRecDepth 100000
theorem q1284 : (Jvm.Cond.declares ({ cls := "java/util/SortedMap", name := "comparator", desc := "()Ljava/util/Comparator;" } : Jvm.MethodName)) ∈ lw_tbl := lw_at lw_m6 38 rfl

theorem q1274 : (Jvm.Cond.interfaceMethod "java/util/SortedSet" "java/util/SortedSet" "comparator" "()Ljava/util/Comparator;") ∈ lw_tbl := lw_at lw_m6 28 rfl
set_option maxRecDepth 100000
theorem q1275 : (Jvm.Cond.declares ({ cls := "java/util/SortedSet", name := "comparator", desc := "()Ljava/util/Comparator;" } : Jvm.MethodName)) ∈ lw_tbl := lw_at lw_m6 29 rfl

theorem q1211 : (Jvm.Cond.declares ({ cls := "java/util/TreeMap$NavigableSubMap", name := "keyIterator", desc := "()Ljava/util/Iterator;" } : Jvm.MethodName)) ∈ lw_tbl := lw_at lw_m5 205 rfl
set_option maxRecDepth 100000
theorem q1212 : (Jvm.Cond.selects "java/util/TreeMap$NavigableSubMap" ({ cls := "java/util/TreeMap$NavigableSubMap", name := "keyIterator", desc := "()Ljava/util/Iterator;" } : Jvm.MethodName) ({ cls := "java/util/TreeMap$NavigableSubMap", name := "keyIterator", desc := "()Ljava/util/Iterator;" } : Jvm.MethodName)) ∈ lw_all := lw_g (lw_at lw_m5 206 rfl) rfl

theorem q82 : (Jvm.Cond.initialized "jdk/internal/misc/UnsafeConstants") ∈ lw_all := lw_g (lw_at lw_m1 36 rfl) rfl
set_option maxRecDepth 100000
theorem q767 : (Jvm.Cond.laysStatic "jdk/internal/misc/UnsafeConstants" "BIG_ENDIAN" "Z") ∈ lw_tbl := lw_at lw_m4 1 rfl

theorem q104 : (Jvm.Cond.arrayOver (Jvm.ClassFile.FieldType.object "KnotLetters$Letter")) ∈ lw_tbl := lw_at lw_m1 58 rfl
set_option maxRecDepth 100000
theorem q112 : (Jvm.Cond.arrayOver (Jvm.ClassFile.FieldType.array Jvm.ClassFile.FieldType.int)) ∈ lw_tbl := lw_at lw_m1 66 rfl
theorem q133 : (Jvm.Cond.arrayClass Jvm.ClassFile.FieldType.int) ∈ lw_all := lw_g (lw_at lw_m1 87 rfl) rfl
theorem q195 : (Jvm.Cond.arrayClass Jvm.ClassFile.FieldType.byte) ∈ lw_all := lw_g (lw_at lw_m1 149 rfl) rfl
theorem q1009 : (Jvm.Cond.arrayOver (Jvm.ClassFile.FieldType.object "java/lang/Object")) ∈ lw_tbl := lw_at lw_m5 3 rfl
theorem q1700 : (Jvm.Cond.arrayOver (Jvm.ClassFile.FieldType.object "KnotLetters$Reading")) ∈ lw_tbl := lw_at lw_m7 214 rfl
theorem q2190 : (Jvm.Cond.arrayClass Jvm.ClassFile.FieldType.boolean) ∈ lw_all := lw_g (lw_at lw_m9 224 rfl) rfl
theorem q2333 : (Jvm.Cond.arrayClass Jvm.ClassFile.FieldType.long) ∈ lw_all := lw_g (lw_at lw_m10 127 rfl) rfl

