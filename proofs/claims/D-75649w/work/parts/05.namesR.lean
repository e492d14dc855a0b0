/-! java/util/AbstractCollection -/
set_option maxRecDepth 100000
def RJ0 : String := "java/util/AbstractCollection"
abbrev cJ0_init : ByteArray := prog_42_method_1_code
def yJ0_init : MethodName := ⟨RJ0, "<init>", "()V"⟩
theorem dJ0_init_0 : decode cJ0_init 0 = .ok (.aload_n 0, 1) := by decide +kernel
theorem dJ0_init_1 : decode cJ0_init 1 = .ok (.invokespecial 1, 3) := by decide +kernel
theorem dJ0_init_4 : decode cJ0_init 4 = .ok (.return_, 1) := by decide +kernel
theorem q132 : (Jvm.Cond.initialized "java/util/AbstractCollection") ∈ lw_all := lw_g (lw_at lw_m1 3 rfl) rfl
theorem q193 : (Jvm.Cond.instanceMethod ({ cls := "java/util/AbstractCollection", name := "<init>", desc := "()V" } : Jvm.MethodName)) ∈ lw_all := lw_g (lw_at lw_m1 64 rfl) rfl
theorem q194 : (Jvm.Cond.code ({ cls := "java/util/AbstractCollection", name := "<init>", desc := "()V" } : Jvm.MethodName) prog_42_method_1_code (1 : Nat) (Option.none : Option Jvm.ClassFile.FieldType)) ∈ lw_all := lw_g (lw_at lw_m1 65 rfl) rfl
theorem q195 : (Jvm.Cond.methodLink "java/util/AbstractCollection" (1 : Nat) ({ cls := "java/lang/Object", name := "<init>", desc := "()V" } : Jvm.MethodName)) ∈ lw_all := lw_g (lw_at lw_m1 66 rfl) rfl

/-! java/util/AbstractList -/
set_option maxRecDepth 100000
def RJ1 : String := "java/util/AbstractList"
abbrev cJ1_init : ByteArray := prog_43_method_1_code
def yJ1_init : MethodName := ⟨RJ1, "<init>", "()V"⟩
def dkwJ1_init_0 : List UInt8 := [42, 183, 0, 1, 42, 3, 181, 0, 7, 177]
abbrev dktJ1_init_0 : List UInt8 := dkwJ1_init_0 ++ []
theorem dksJ1_init_0 : cJ1_init.data.toList.drop 0 = dktJ1_init_0 := by decide +kernel
theorem dJ1_init_0 : decode cJ1_init 0 = .ok (.aload_n 0, 1) := dk_42 (dk_at dksJ1_init_0 0 rfl rfl)
theorem dJ1_init_1 : decode cJ1_init 1 = .ok (.invokespecial 1, 3) := dk_183 0 1 (dk_at dksJ1_init_0 1 rfl rfl)
theorem dJ1_init_4 : decode cJ1_init 4 = .ok (.aload_n 0, 1) := dk_42 (dk_at dksJ1_init_0 4 rfl rfl)
theorem dJ1_init_5 : decode cJ1_init 5 = .ok (.iconst 0, 1) := dk_3 (dk_at dksJ1_init_0 5 rfl rfl)
theorem dJ1_init_6 : decode cJ1_init 6 = .ok (.putfield 7, 3) := dk_181 0 7 (dk_at dksJ1_init_0 6 rfl rfl)
theorem dJ1_init_9 : decode cJ1_init 9 = .ok (.return_, 1) := dk_177 (dk_at dksJ1_init_0 9 rfl rfl)
theorem q133 : (Jvm.Cond.initialized "java/util/AbstractList") ∈ lw_all := lw_g (lw_at lw_m1 4 rfl) rfl
theorem q190 : (Jvm.Cond.instanceMethod ({ cls := "java/util/AbstractList", name := "<init>", desc := "()V" } : Jvm.MethodName)) ∈ lw_all := lw_g (lw_at lw_m1 61 rfl) rfl
theorem q191 : (Jvm.Cond.code ({ cls := "java/util/AbstractList", name := "<init>", desc := "()V" } : Jvm.MethodName) prog_43_method_1_code (1 : Nat) (Option.none : Option Jvm.ClassFile.FieldType)) ∈ lw_all := lw_g (lw_at lw_m1 62 rfl) rfl
theorem q192 : (Jvm.Cond.methodLink "java/util/AbstractList" (1 : Nat) ({ cls := "java/util/AbstractCollection", name := "<init>", desc := "()V" } : Jvm.MethodName)) ∈ lw_all := lw_g (lw_at lw_m1 63 rfl) rfl
theorem q200 : (Jvm.Cond.fieldLink "java/util/AbstractList" (7 : Nat) "java/util/AbstractList" "modCount" "I") ∈ lw_all := lw_g (lw_at lw_m1 71 rfl) rfl
theorem q208 : (Jvm.Cond.soleField "java/util/AbstractList" "modCount") ∈ lw_all := lw_g (lw_at lw_m1 79 rfl) rfl

/-! java/lang/ArrayIndexOutOfBoundsException -/
set_option maxRecDepth 100000
def RJ10 : String := "java/lang/ArrayIndexOutOfBoundsException"
def TJ10 : u_T := fun k => match k with
  | 0 => ("java/lang/Throwable", "backtrace", "Ljava/lang/Object;", false)
  | 1 => ("java/lang/Throwable", "detailMessage", "Ljava/lang/String;", false)
  | 2 => ("java/lang/Throwable", "cause", "Ljava/lang/Throwable;", false)
  | 3 => ("java/lang/Throwable", "stackTrace", "[Ljava/lang/StackTraceElement;", false)
  | 4 => ("java/lang/Throwable", "depth", "I", false)
  | _ => ("java/lang/Throwable", "suppressedExceptions", "Ljava/util/List;", false)
def tyJ10 : Nat → FieldType := fun k => match k with
  | 0 => .object "java/lang/Object"
  | 1 => .object "java/lang/String"
  | 2 => .object "java/lang/Throwable"
  | 3 => .array (.object "java/lang/StackTraceElement")
  | 4 => .int
  | _ => .object "java/util/List"
abbrev wsJ100 : List Cond := u_ws RJ10 TJ10 6
theorem nmJ10 : ∀ a, a < 6 → ∀ b, b < 6 → a ≠ b → (TJ10 a).2.1 ≠ (TJ10 b).2.1 := by decide +kernel
theorem tyJ10_ok : ∀ k, k < 6 → parseFieldDescriptor (TJ10 k).2.2.1 = some (tyJ10 k) := by decide +kernel
abbrev cJ10_init : ByteArray := prog_26_method_2_code
def yJ10_init : MethodName := ⟨RJ10, "<init>", "(Ljava/lang/String;)V"⟩
def dkwJ10_init_0 : List UInt8 := [42, 43, 183, 0, 7, 177]
abbrev dktJ10_init_0 : List UInt8 := dkwJ10_init_0 ++ []
theorem dksJ10_init_0 : cJ10_init.data.toList.drop 0 = dktJ10_init_0 := by decide +kernel
theorem dJ10_init_0 : decode cJ10_init 0 = .ok (.aload_n 0, 1) := dk_42 (dk_at dksJ10_init_0 0 rfl rfl)
theorem dJ10_init_1 : decode cJ10_init 1 = .ok (.aload_n 1, 1) := dk_43 (dk_at dksJ10_init_0 1 rfl rfl)
theorem dJ10_init_2 : decode cJ10_init 2 = .ok (.invokespecial 7, 3) := dk_183 0 7 (dk_at dksJ10_init_0 2 rfl rfl)
theorem dJ10_init_5 : decode cJ10_init 5 = .ok (.return_, 1) := dk_177 (dk_at dksJ10_init_0 5 rfl rfl)
theorem q147 : (Jvm.Cond.initialized "java/lang/ArrayIndexOutOfBoundsException") ∈ lw_all := lw_g (lw_at lw_m1 18 rfl) rfl
theorem q626 : (Jvm.Cond.instantiable "java/lang/ArrayIndexOutOfBoundsException" (6 : Nat)) ∈ lw_all := lw_g (lw_at lw_m3 17 rfl) rfl
theorem q627 : (Jvm.Cond.instanceMethod ({ cls := "java/lang/ArrayIndexOutOfBoundsException", name := "<init>", desc := "(Ljava/lang/String;)V" } : Jvm.MethodName)) ∈ lw_all := lw_g (lw_at lw_m3 18 rfl) rfl
theorem q628 : (Jvm.Cond.code ({ cls := "java/lang/ArrayIndexOutOfBoundsException", name := "<init>", desc := "(Ljava/lang/String;)V" } : Jvm.MethodName) prog_26_method_2_code (2 : Nat) (Option.none : Option Jvm.ClassFile.FieldType)) ∈ lw_all := lw_g (lw_at lw_m3 19 rfl) rfl
theorem q629 : (Jvm.Cond.methodLink "java/lang/ArrayIndexOutOfBoundsException" (7 : Nat) ({ cls := "java/lang/IndexOutOfBoundsException", name := "<init>", desc := "(Ljava/lang/String;)V" } : Jvm.MethodName)) ∈ lw_all := lw_g (lw_at lw_m3 20 rfl) rfl
theorem q650 : (Jvm.Cond.selects "java/lang/ArrayIndexOutOfBoundsException" ({ cls := "java/lang/Throwable", name := "fillInStackTrace", desc := "()Ljava/lang/Throwable;" } : Jvm.MethodName) ({ cls := "java/lang/Throwable", name := "fillInStackTrace", desc := "()Ljava/lang/Throwable;" } : Jvm.MethodName)) ∈ lw_all := lw_g (lw_at lw_m3 41 rfl) rfl
theorem q662 : (Jvm.Cond.lays "java/lang/ArrayIndexOutOfBoundsException" "java/lang/Throwable" "backtrace" "Ljava/lang/Object;") ∈ lw_all := lw_g (lw_at lw_m3 53 rfl) rfl
theorem q664 : (Jvm.Cond.lays "java/lang/ArrayIndexOutOfBoundsException" "java/lang/Throwable" "detailMessage" "Ljava/lang/String;") ∈ lw_all := lw_g (lw_at lw_m3 55 rfl) rfl
theorem q666 : (Jvm.Cond.lays "java/lang/ArrayIndexOutOfBoundsException" "java/lang/Throwable" "cause" "Ljava/lang/Throwable;") ∈ lw_all := lw_g (lw_at lw_m3 57 rfl) rfl
theorem q668 : (Jvm.Cond.lays "java/lang/ArrayIndexOutOfBoundsException" "java/lang/Throwable" "stackTrace" "[Ljava/lang/StackTraceElement;") ∈ lw_all := lw_g (lw_at lw_m3 59 rfl) rfl
theorem q670 : (Jvm.Cond.lays "java/lang/ArrayIndexOutOfBoundsException" "java/lang/Throwable" "depth" "I") ∈ lw_all := lw_g (lw_at lw_m3 61 rfl) rfl
theorem q672 : (Jvm.Cond.lays "java/lang/ArrayIndexOutOfBoundsException" "java/lang/Throwable" "suppressedExceptions" "Ljava/util/List;") ∈ lw_all := lw_g (lw_at lw_m3 63 rfl) rfl
theorem q674 : (Jvm.Cond.superclass "java/lang/ArrayIndexOutOfBoundsException" "java/lang/IndexOutOfBoundsException") ∈ lw_all := lw_g (lw_at lw_m3 65 rfl) rfl
theorem q675 : (Jvm.Cond.castable "java/lang/ArrayIndexOutOfBoundsException" "java/lang/ArrayIndexOutOfBoundsException") ∈ lw_tbl := lw_at lw_m3 66 rfl
theorem q684 : (Jvm.Cond.selects "java/lang/ArrayIndexOutOfBoundsException" ({ cls := "java/lang/Throwable", name := "fillInStackTrace", desc := "(I)Ljava/lang/Throwable;" } : Jvm.MethodName) ({ cls := "java/lang/Throwable", name := "fillInStackTrace", desc := "(I)Ljava/lang/Throwable;" } : Jvm.MethodName)) ∈ lw_all := lw_g (lw_at lw_m3 75 rfl) rfl
theorem q1244 : (Jvm.Cond.selects "java/lang/ArrayIndexOutOfBoundsException" ({ cls := "java/lang/Object", name := "getClass", desc := "()Ljava/lang/Class;" } : Jvm.MethodName) ({ cls := "java/lang/Object", name := "getClass", desc := "()Ljava/lang/Class;" } : Jvm.MethodName)) ∈ lw_all := lw_g (lw_at lw_m5 155 rfl) rfl
theorem q2323 : (Jvm.Cond.castable "java/lang/ArrayIndexOutOfBoundsException" "java/lang/Object") ∈ lw_tbl := lw_at lw_m10 34 rfl
theorem in_J10 : ∀ w ∈ wsJ100, w ∈ lw_all := lw_in wsJ100 [662, 664, 666, 668, 670, 672] (by decide +kernel) (by decide +kernel)

/-! java/lang/String -/
set_option maxRecDepth 100000
def RJ11 : String := "java/lang/String"
def TJ11 : u_T := fun k => match k with
  | 0 => ("java/lang/String", "value", "[B", true)
  | _ => ("java/lang/String", "coder", "B", true)
def tyJ11 : Nat → FieldType := fun k => match k with
  | 0 => .array .byte
  | _ => .byte
abbrev wsJ110 : List Cond := u_ws RJ11 TJ11 2
theorem nmJ11 : ∀ a, a < 2 → ∀ b, b < 2 → a ≠ b → (TJ11 a).2.1 ≠ (TJ11 b).2.1 := by decide +kernel
theorem tyJ11_ok : ∀ k, k < 2 → parseFieldDescriptor (TJ11 k).2.2.1 = some (tyJ11 k) := by decide +kernel
abbrev cJ11_length : ByteArray := prog_35_method_54_code
def yJ11_length : MethodName := ⟨RJ11, "length", "()I"⟩
def dkwJ11_length_0 : List UInt8 := [42, 180, 0, 9, 190, 42, 182, 1, 79, 122, 172]
abbrev dktJ11_length_0 : List UInt8 := dkwJ11_length_0 ++ []
theorem dksJ11_length_0 : cJ11_length.data.toList.drop 0 = dktJ11_length_0 := by decide +kernel
theorem dJ11_length_0 : decode cJ11_length 0 = .ok (.aload_n 0, 1) := dk_42 (dk_at dksJ11_length_0 0 rfl rfl)
theorem dJ11_length_1 : decode cJ11_length 1 = .ok (.getfield 9, 3) := dk_180 0 9 (dk_at dksJ11_length_0 1 rfl rfl)
theorem dJ11_length_4 : decode cJ11_length 4 = .ok (.arraylength, 1) := dk_190 (dk_at dksJ11_length_0 4 rfl rfl)
theorem dJ11_length_5 : decode cJ11_length 5 = .ok (.aload_n 0, 1) := dk_42 (dk_at dksJ11_length_0 5 rfl rfl)
theorem dJ11_length_6 : decode cJ11_length 6 = .ok (.invokevirtual 335, 3) := dk_182 1 79 (dk_at dksJ11_length_0 6 rfl rfl)
theorem dJ11_length_9 : decode cJ11_length 9 = .ok (.ishr, 1) := dk_122 (dk_at dksJ11_length_0 9 rfl rfl)
theorem dJ11_length_10 : decode cJ11_length 10 = .ok (.ireturn, 1) := dk_172 (dk_at dksJ11_length_0 10 rfl rfl)
abbrev cJ11_coder : ByteArray := prog_35_method_152_code
def yJ11_coder : MethodName := ⟨RJ11, "coder", "()B"⟩
def dkwJ11_coder_0 : List UInt8 := [178, 0, 38, 153, 0, 10, 42, 180, 0, 15, 167, 0, 4, 4, 172]
abbrev dktJ11_coder_0 : List UInt8 := dkwJ11_coder_0 ++ []
theorem dksJ11_coder_0 : cJ11_coder.data.toList.drop 0 = dktJ11_coder_0 := by decide +kernel
theorem dJ11_coder_0 : decode cJ11_coder 0 = .ok (.getstatic 38, 3) := dk_178 0 38 (dk_at dksJ11_coder_0 0 rfl rfl)
theorem dJ11_coder_3 : decode cJ11_coder 3 = .ok (.ifCond .eq 10, 3) := dk_153 0 10 (dk_at dksJ11_coder_0 3 rfl rfl)
theorem dJ11_coder_6 : decode cJ11_coder 6 = .ok (.aload_n 0, 1) := dk_42 (dk_at dksJ11_coder_0 6 rfl rfl)
theorem dJ11_coder_7 : decode cJ11_coder 7 = .ok (.getfield 15, 3) := dk_180 0 15 (dk_at dksJ11_coder_0 7 rfl rfl)
theorem dJ11_coder_10 : decode cJ11_coder 10 = .ok (.goto 4, 3) := dk_167 0 4 (dk_at dksJ11_coder_0 10 rfl rfl)
theorem dJ11_coder_13 : decode cJ11_coder 13 = .ok (.iconst 1, 1) := dk_4 (dk_at dksJ11_coder_0 13 rfl rfl)
theorem dJ11_coder_14 : decode cJ11_coder 14 = .ok (.ireturn, 1) := dk_172 (dk_at dksJ11_coder_0 14 rfl rfl)
abbrev cJ11_charAt : ByteArray := prog_35_method_56_code
def yJ11_charAt : MethodName := ⟨RJ11, "charAt", "(I)C"⟩
def dkwJ11_charAt_1 : List UInt8 := [172]
abbrev dktJ11_charAt_1 : List UInt8 := dkwJ11_charAt_1 ++ []
def dkwJ11_charAt_0 : List UInt8 := [42, 182, 1, 236, 153, 0, 12, 42, 180, 0, 9, 27, 184, 1, 239, 172, 42, 180, 0, 9, 27, 184, 1, 242]
abbrev dktJ11_charAt_0 : List UInt8 := dkwJ11_charAt_0 ++ dktJ11_charAt_1
theorem dksJ11_charAt_0 : cJ11_charAt.data.toList.drop 0 = dktJ11_charAt_0 := by decide +kernel
theorem dksJ11_charAt_1 : cJ11_charAt.data.toList.drop 24 = dktJ11_charAt_1 := dk_seg dksJ11_charAt_0 24 rfl rfl
theorem dJ11_charAt_0 : decode cJ11_charAt 0 = .ok (.aload_n 0, 1) := dk_42 (dk_at dksJ11_charAt_0 0 rfl rfl)
theorem dJ11_charAt_1 : decode cJ11_charAt 1 = .ok (.invokevirtual 492, 3) := dk_182 1 236 (dk_at dksJ11_charAt_0 1 rfl rfl)
theorem dJ11_charAt_4 : decode cJ11_charAt 4 = .ok (.ifCond .eq 12, 3) := dk_153 0 12 (dk_at dksJ11_charAt_0 4 rfl rfl)
theorem dJ11_charAt_7 : decode cJ11_charAt 7 = .ok (.aload_n 0, 1) := dk_42 (dk_at dksJ11_charAt_0 7 rfl rfl)
theorem dJ11_charAt_8 : decode cJ11_charAt 8 = .ok (.getfield 9, 3) := dk_180 0 9 (dk_at dksJ11_charAt_0 8 rfl rfl)
theorem dJ11_charAt_11 : decode cJ11_charAt 11 = .ok (.iload_n 1, 1) := dk_27 (dk_at dksJ11_charAt_0 11 rfl rfl)
theorem dJ11_charAt_12 : decode cJ11_charAt 12 = .ok (.invokestatic 495, 3) := dk_184 1 239 (dk_at dksJ11_charAt_0 12 rfl rfl)
theorem dJ11_charAt_15 : decode cJ11_charAt 15 = .ok (.ireturn, 1) := dk_172 (dk_at dksJ11_charAt_0 15 rfl rfl)
theorem dJ11_charAt_16 : decode cJ11_charAt 16 = .ok (.aload_n 0, 1) := dk_42 (dk_at dksJ11_charAt_0 16 rfl rfl)
theorem dJ11_charAt_17 : decode cJ11_charAt 17 = .ok (.getfield 9, 3) := dk_180 0 9 (dk_at dksJ11_charAt_0 17 rfl rfl)
theorem dJ11_charAt_20 : decode cJ11_charAt 20 = .ok (.iload_n 1, 1) := dk_27 (dk_at dksJ11_charAt_0 20 rfl rfl)
theorem dJ11_charAt_21 : decode cJ11_charAt 21 = .ok (.invokestatic 498, 3) := dk_184 1 242 (dk_at dksJ11_charAt_0 21 rfl rfl)
theorem dJ11_charAt_24 : decode cJ11_charAt 24 = .ok (.ireturn, 1) := dk_172 (dk_at dksJ11_charAt_1 0 rfl rfl)
abbrev cJ11_isLatin1 : ByteArray := prog_35_method_154_code
def yJ11_isLatin1 : MethodName := ⟨RJ11, "isLatin1", "()Z"⟩
def dkwJ11_isLatin1_0 : List UInt8 := [178, 0, 38, 153, 0, 14, 42, 180, 0, 15, 154, 0, 7, 4, 167, 0, 4, 3, 172]
abbrev dktJ11_isLatin1_0 : List UInt8 := dkwJ11_isLatin1_0 ++ []
theorem dksJ11_isLatin1_0 : cJ11_isLatin1.data.toList.drop 0 = dktJ11_isLatin1_0 := by decide +kernel
theorem dJ11_isLatin1_0 : decode cJ11_isLatin1 0 = .ok (.getstatic 38, 3) := dk_178 0 38 (dk_at dksJ11_isLatin1_0 0 rfl rfl)
theorem dJ11_isLatin1_3 : decode cJ11_isLatin1 3 = .ok (.ifCond .eq 14, 3) := dk_153 0 14 (dk_at dksJ11_isLatin1_0 3 rfl rfl)
theorem dJ11_isLatin1_6 : decode cJ11_isLatin1 6 = .ok (.aload_n 0, 1) := dk_42 (dk_at dksJ11_isLatin1_0 6 rfl rfl)
theorem dJ11_isLatin1_7 : decode cJ11_isLatin1 7 = .ok (.getfield 15, 3) := dk_180 0 15 (dk_at dksJ11_isLatin1_0 7 rfl rfl)
theorem dJ11_isLatin1_10 : decode cJ11_isLatin1 10 = .ok (.ifCond .ne 7, 3) := dk_154 0 7 (dk_at dksJ11_isLatin1_0 10 rfl rfl)
theorem dJ11_isLatin1_13 : decode cJ11_isLatin1 13 = .ok (.iconst 1, 1) := dk_4 (dk_at dksJ11_isLatin1_0 13 rfl rfl)
theorem dJ11_isLatin1_14 : decode cJ11_isLatin1 14 = .ok (.goto 4, 3) := dk_167 0 4 (dk_at dksJ11_isLatin1_0 14 rfl rfl)
theorem dJ11_isLatin1_17 : decode cJ11_isLatin1 17 = .ok (.iconst 0, 1) := dk_3 (dk_at dksJ11_isLatin1_0 17 rfl rfl)
theorem dJ11_isLatin1_18 : decode cJ11_isLatin1 18 = .ok (.ireturn, 1) := dk_172 (dk_at dksJ11_isLatin1_0 18 rfl rfl)
abbrev cJ11_checkIndex : ByteArray := prog_35_method_155_code
def yJ11_checkIndex : MethodName := ⟨RJ11, "checkIndex", "(II)V"⟩
def dkwJ11_checkIndex_0 : List UInt8 := [26, 27, 178, 4, 29, 184, 4, 35, 87, 177]
abbrev dktJ11_checkIndex_0 : List UInt8 := dkwJ11_checkIndex_0 ++ []
theorem dksJ11_checkIndex_0 : cJ11_checkIndex.data.toList.drop 0 = dktJ11_checkIndex_0 := by decide +kernel
theorem dJ11_checkIndex_0 : decode cJ11_checkIndex 0 = .ok (.iload_n 0, 1) := dk_26 (dk_at dksJ11_checkIndex_0 0 rfl rfl)
theorem dJ11_checkIndex_1 : decode cJ11_checkIndex 1 = .ok (.iload_n 1, 1) := dk_27 (dk_at dksJ11_checkIndex_0 1 rfl rfl)
theorem dJ11_checkIndex_2 : decode cJ11_checkIndex 2 = .ok (.getstatic 1053, 3) := dk_178 4 29 (dk_at dksJ11_checkIndex_0 2 rfl rfl)
theorem dJ11_checkIndex_5 : decode cJ11_checkIndex 5 = .ok (.invokestatic 1059, 3) := dk_184 4 35 (dk_at dksJ11_checkIndex_0 5 rfl rfl)
theorem dJ11_checkIndex_8 : decode cJ11_checkIndex 8 = .ok (.pop, 1) := dk_87 (dk_at dksJ11_checkIndex_0 8 rfl rfl)
theorem dJ11_checkIndex_9 : decode cJ11_checkIndex 9 = .ok (.return_, 1) := dk_177 (dk_at dksJ11_checkIndex_0 9 rfl rfl)
theorem q148 : (Jvm.Cond.initialized "java/lang/String") ∈ lw_all := lw_g (lw_at lw_m1 19 rfl) rfl
theorem q694 : (Jvm.Cond.instantiable "java/lang/String" (4 : Nat)) ∈ lw_all := lw_g (lw_at lw_m3 85 rfl) rfl
theorem q695 : (Jvm.Cond.laysFinal "java/lang/String" "java/lang/String" "value" "[B") ∈ lw_all := lw_g (lw_at lw_m3 86 rfl) rfl
theorem q696 : (Jvm.Cond.soleField "java/lang/String" "value") ∈ lw_all := lw_g (lw_at lw_m3 87 rfl) rfl
theorem q697 : (Jvm.Cond.laysFinal "java/lang/String" "java/lang/String" "coder" "B") ∈ lw_all := lw_g (lw_at lw_m3 88 rfl) rfl
theorem q698 : (Jvm.Cond.soleField "java/lang/String" "coder") ∈ lw_all := lw_g (lw_at lw_m3 89 rfl) rfl
theorem q854 : (Jvm.Cond.instanceMethod ({ cls := "java/lang/String", name := "length", desc := "()I" } : Jvm.MethodName)) ∈ lw_all := lw_g (lw_at lw_m4 5 rfl) rfl
theorem q855 : (Jvm.Cond.selects "java/lang/String" ({ cls := "java/lang/String", name := "length", desc := "()I" } : Jvm.MethodName) ({ cls := "java/lang/String", name := "length", desc := "()I" } : Jvm.MethodName)) ∈ lw_all := lw_g (lw_at lw_m4 6 rfl) rfl
theorem q856 : (Jvm.Cond.code ({ cls := "java/lang/String", name := "length", desc := "()I" } : Jvm.MethodName) prog_35_method_54_code (1 : Nat) (Option.some Jvm.ClassFile.FieldType.int)) ∈ lw_all := lw_g (lw_at lw_m4 7 rfl) rfl
theorem q857 : (Jvm.Cond.methodLink "java/lang/String" (335 : Nat) ({ cls := "java/lang/String", name := "coder", desc := "()B" } : Jvm.MethodName)) ∈ lw_all := lw_g (lw_at lw_m4 8 rfl) rfl
theorem q858 : (Jvm.Cond.instanceMethod ({ cls := "java/lang/String", name := "coder", desc := "()B" } : Jvm.MethodName)) ∈ lw_all := lw_g (lw_at lw_m4 9 rfl) rfl
theorem q859 : (Jvm.Cond.selects "java/lang/String" ({ cls := "java/lang/String", name := "coder", desc := "()B" } : Jvm.MethodName) ({ cls := "java/lang/String", name := "coder", desc := "()B" } : Jvm.MethodName)) ∈ lw_all := lw_g (lw_at lw_m4 10 rfl) rfl
theorem q860 : (Jvm.Cond.code ({ cls := "java/lang/String", name := "coder", desc := "()B" } : Jvm.MethodName) prog_35_method_152_code (1 : Nat) (Option.some Jvm.ClassFile.FieldType.byte)) ∈ lw_all := lw_g (lw_at lw_m4 11 rfl) rfl
theorem q861 : (Jvm.Cond.fieldLink "java/lang/String" (38 : Nat) "java/lang/String" "COMPACT_STRINGS" "Z") ∈ lw_all := lw_g (lw_at lw_m4 12 rfl) rfl
theorem q862 : (Jvm.Cond.laysStatic "java/lang/String" "COMPACT_STRINGS" "Z") ∈ lw_tbl := lw_at lw_m4 13 rfl
theorem q864 : (Jvm.Cond.instanceMethod ({ cls := "java/lang/String", name := "charAt", desc := "(I)C" } : Jvm.MethodName)) ∈ lw_all := lw_g (lw_at lw_m4 15 rfl) rfl
theorem q865 : (Jvm.Cond.selects "java/lang/String" ({ cls := "java/lang/String", name := "charAt", desc := "(I)C" } : Jvm.MethodName) ({ cls := "java/lang/String", name := "charAt", desc := "(I)C" } : Jvm.MethodName)) ∈ lw_all := lw_g (lw_at lw_m4 16 rfl) rfl
theorem q866 : (Jvm.Cond.code ({ cls := "java/lang/String", name := "charAt", desc := "(I)C" } : Jvm.MethodName) prog_35_method_56_code (2 : Nat) (Option.some Jvm.ClassFile.FieldType.char)) ∈ lw_all := lw_g (lw_at lw_m4 17 rfl) rfl
theorem q867 : (Jvm.Cond.methodLink "java/lang/String" (492 : Nat) ({ cls := "java/lang/String", name := "isLatin1", desc := "()Z" } : Jvm.MethodName)) ∈ lw_all := lw_g (lw_at lw_m4 18 rfl) rfl
theorem q868 : (Jvm.Cond.instanceMethod ({ cls := "java/lang/String", name := "isLatin1", desc := "()Z" } : Jvm.MethodName)) ∈ lw_all := lw_g (lw_at lw_m4 19 rfl) rfl
theorem q869 : (Jvm.Cond.selects "java/lang/String" ({ cls := "java/lang/String", name := "isLatin1", desc := "()Z" } : Jvm.MethodName) ({ cls := "java/lang/String", name := "isLatin1", desc := "()Z" } : Jvm.MethodName)) ∈ lw_all := lw_g (lw_at lw_m4 20 rfl) rfl
theorem q870 : (Jvm.Cond.code ({ cls := "java/lang/String", name := "isLatin1", desc := "()Z" } : Jvm.MethodName) prog_35_method_154_code (1 : Nat) (Option.some Jvm.ClassFile.FieldType.boolean)) ∈ lw_all := lw_g (lw_at lw_m4 21 rfl) rfl
theorem q871 : (Jvm.Cond.methodLink "java/lang/String" (495 : Nat) ({ cls := "java/lang/StringLatin1", name := "charAt", desc := "([BI)C" } : Jvm.MethodName)) ∈ lw_all := lw_g (lw_at lw_m4 22 rfl) rfl
theorem q875 : (Jvm.Cond.static ({ cls := "java/lang/String", name := "checkIndex", desc := "(II)V" } : Jvm.MethodName)) ∈ lw_all := lw_g (lw_at lw_m4 26 rfl) rfl
theorem q876 : (Jvm.Cond.code ({ cls := "java/lang/String", name := "checkIndex", desc := "(II)V" } : Jvm.MethodName) prog_35_method_155_code (2 : Nat) (Option.none : Option Jvm.ClassFile.FieldType)) ∈ lw_all := lw_g (lw_at lw_m4 27 rfl) rfl
theorem q877 : (Jvm.Cond.fieldLink "java/lang/String" (1053 : Nat) "jdk/internal/util/Preconditions" "SIOOBE_FORMATTER" "Ljava/util/function/BiFunction;") ∈ lw_all := lw_g (lw_at lw_m4 28 rfl) rfl
theorem q879 : (Jvm.Cond.methodLink "java/lang/String" (1059 : Nat) ({ cls := "jdk/internal/util/Preconditions", name := "checkIndex", desc := "(IILjava/util/function/BiFunction;)I" } : Jvm.MethodName)) ∈ lw_all := lw_g (lw_at lw_m4 30 rfl) rfl
theorem q880 : (Jvm.Cond.methodLink "java/lang/String" (498 : Nat) ({ cls := "java/lang/StringUTF16", name := "charAt", desc := "([BI)C" } : Jvm.MethodName)) ∈ lw_all := lw_g (lw_at lw_m4 31 rfl) rfl
theorem q2314 : (Jvm.Cond.castable "java/lang/String" "java/lang/Object") ∈ lw_tbl := lw_at lw_m10 25 rfl
theorem q2358 : (Jvm.Cond.fieldLink "java/lang/String" (9 : Nat) "java/lang/String" "value" "[B") ∈ lw_all := lw_g (lw_at lw_m10 69 rfl) rfl
theorem q2359 : (Jvm.Cond.fieldLink "java/lang/String" (15 : Nat) "java/lang/String" "coder" "B") ∈ lw_all := lw_g (lw_at lw_m10 70 rfl) rfl
theorem in_J11 : ∀ w ∈ wsJ110, w ∈ lw_all := lw_in wsJ110 [695, 697] (by decide +kernel) (by decide +kernel)

/-! java/lang/StringLatin1 -/
set_option maxRecDepth 100000
def RJ12 : String := "java/lang/StringLatin1"
abbrev cJ12_charAt : ByteArray := prog_36_method_2_code
def yJ12_charAt : MethodName := ⟨RJ12, "charAt", "([BI)C"⟩
def dkwJ12_charAt_0 : List UInt8 := [27, 42, 190, 184, 0, 9, 42, 27, 51, 17, 0, 255, 126, 146, 172]
abbrev dktJ12_charAt_0 : List UInt8 := dkwJ12_charAt_0 ++ []
theorem dksJ12_charAt_0 : cJ12_charAt.data.toList.drop 0 = dktJ12_charAt_0 := by decide +kernel
theorem dJ12_charAt_0 : decode cJ12_charAt 0 = .ok (.iload_n 1, 1) := dk_27 (dk_at dksJ12_charAt_0 0 rfl rfl)
theorem dJ12_charAt_1 : decode cJ12_charAt 1 = .ok (.aload_n 0, 1) := dk_42 (dk_at dksJ12_charAt_0 1 rfl rfl)
theorem dJ12_charAt_2 : decode cJ12_charAt 2 = .ok (.arraylength, 1) := dk_190 (dk_at dksJ12_charAt_0 2 rfl rfl)
theorem dJ12_charAt_3 : decode cJ12_charAt 3 = .ok (.invokestatic 9, 3) := dk_184 0 9 (dk_at dksJ12_charAt_0 3 rfl rfl)
theorem dJ12_charAt_6 : decode cJ12_charAt 6 = .ok (.aload_n 0, 1) := dk_42 (dk_at dksJ12_charAt_0 6 rfl rfl)
theorem dJ12_charAt_7 : decode cJ12_charAt 7 = .ok (.iload_n 1, 1) := dk_27 (dk_at dksJ12_charAt_0 7 rfl rfl)
theorem dJ12_charAt_8 : decode cJ12_charAt 8 = .ok (.baload, 1) := dk_51 (dk_at dksJ12_charAt_0 8 rfl rfl)
theorem dJ12_charAt_9 : decode cJ12_charAt 9 = .ok (.sipush 255, 3) := dk_17 0 255 (dk_at dksJ12_charAt_0 9 rfl rfl)
theorem dJ12_charAt_12 : decode cJ12_charAt 12 = .ok (.iand, 1) := dk_126 (dk_at dksJ12_charAt_0 12 rfl rfl)
theorem dJ12_charAt_13 : decode cJ12_charAt 13 = .ok (.i2c, 1) := dk_146 (dk_at dksJ12_charAt_0 13 rfl rfl)
theorem dJ12_charAt_14 : decode cJ12_charAt 14 = .ok (.ireturn, 1) := dk_172 (dk_at dksJ12_charAt_0 14 rfl rfl)
theorem q153 : (Jvm.Cond.initialized "java/lang/StringLatin1") ∈ lw_all := lw_g (lw_at lw_m1 24 rfl) rfl
theorem q872 : (Jvm.Cond.static ({ cls := "java/lang/StringLatin1", name := "charAt", desc := "([BI)C" } : Jvm.MethodName)) ∈ lw_all := lw_g (lw_at lw_m4 23 rfl) rfl
theorem q873 : (Jvm.Cond.code ({ cls := "java/lang/StringLatin1", name := "charAt", desc := "([BI)C" } : Jvm.MethodName) prog_36_method_2_code (2 : Nat) (Option.some Jvm.ClassFile.FieldType.char)) ∈ lw_all := lw_g (lw_at lw_m4 24 rfl) rfl
theorem q874 : (Jvm.Cond.methodLink "java/lang/StringLatin1" (9 : Nat) ({ cls := "java/lang/String", name := "checkIndex", desc := "(II)V" } : Jvm.MethodName)) ∈ lw_all := lw_g (lw_at lw_m4 25 rfl) rfl

/-! java/lang/StringUTF16 -/
set_option maxRecDepth 100000
def RJ13 : String := "java/lang/StringUTF16"
abbrev cJ13_charAt : ByteArray := prog_37_method_83_code
def yJ13_charAt : MethodName := ⟨RJ13, "charAt", "([BI)C"⟩
def dkwJ13_charAt_0 : List UInt8 := [27, 42, 184, 0, 67, 42, 27, 184, 0, 71, 172]
abbrev dktJ13_charAt_0 : List UInt8 := dkwJ13_charAt_0 ++ []
theorem dksJ13_charAt_0 : cJ13_charAt.data.toList.drop 0 = dktJ13_charAt_0 := by decide +kernel
theorem dJ13_charAt_0 : decode cJ13_charAt 0 = .ok (.iload_n 1, 1) := dk_27 (dk_at dksJ13_charAt_0 0 rfl rfl)
theorem dJ13_charAt_1 : decode cJ13_charAt 1 = .ok (.aload_n 0, 1) := dk_42 (dk_at dksJ13_charAt_0 1 rfl rfl)
theorem dJ13_charAt_2 : decode cJ13_charAt 2 = .ok (.invokestatic 67, 3) := dk_184 0 67 (dk_at dksJ13_charAt_0 2 rfl rfl)
theorem dJ13_charAt_5 : decode cJ13_charAt 5 = .ok (.aload_n 0, 1) := dk_42 (dk_at dksJ13_charAt_0 5 rfl rfl)
theorem dJ13_charAt_6 : decode cJ13_charAt 6 = .ok (.iload_n 1, 1) := dk_27 (dk_at dksJ13_charAt_0 6 rfl rfl)
theorem dJ13_charAt_7 : decode cJ13_charAt 7 = .ok (.invokestatic 71, 3) := dk_184 0 71 (dk_at dksJ13_charAt_0 7 rfl rfl)
theorem dJ13_charAt_10 : decode cJ13_charAt 10 = .ok (.ireturn, 1) := dk_172 (dk_at dksJ13_charAt_0 10 rfl rfl)
abbrev cJ13_checkIndex : ByteArray := prog_37_method_91_code
def yJ13_checkIndex : MethodName := ⟨RJ13, "checkIndex", "(I[B)V"⟩
def dkwJ13_checkIndex_0 : List UInt8 := [26, 43, 184, 0, 48, 184, 1, 158, 177]
abbrev dktJ13_checkIndex_0 : List UInt8 := dkwJ13_checkIndex_0 ++ []
theorem dksJ13_checkIndex_0 : cJ13_checkIndex.data.toList.drop 0 = dktJ13_checkIndex_0 := by decide +kernel
theorem dJ13_checkIndex_0 : decode cJ13_checkIndex 0 = .ok (.iload_n 0, 1) := dk_26 (dk_at dksJ13_checkIndex_0 0 rfl rfl)
theorem dJ13_checkIndex_1 : decode cJ13_checkIndex 1 = .ok (.aload_n 1, 1) := dk_43 (dk_at dksJ13_checkIndex_0 1 rfl rfl)
theorem dJ13_checkIndex_2 : decode cJ13_checkIndex 2 = .ok (.invokestatic 48, 3) := dk_184 0 48 (dk_at dksJ13_checkIndex_0 2 rfl rfl)
theorem dJ13_checkIndex_5 : decode cJ13_checkIndex 5 = .ok (.invokestatic 414, 3) := dk_184 1 158 (dk_at dksJ13_checkIndex_0 5 rfl rfl)
theorem dJ13_checkIndex_8 : decode cJ13_checkIndex 8 = .ok (.return_, 1) := dk_177 (dk_at dksJ13_checkIndex_0 8 rfl rfl)
abbrev cJ13_length : ByteArray := prog_37_method_6_code
def yJ13_length : MethodName := ⟨RJ13, "length", "([B)I"⟩
def dkwJ13_length_0 : List UInt8 := [42, 190, 4, 122, 172]
abbrev dktJ13_length_0 : List UInt8 := dkwJ13_length_0 ++ []
theorem dksJ13_length_0 : cJ13_length.data.toList.drop 0 = dktJ13_length_0 := by decide +kernel
theorem dJ13_length_0 : decode cJ13_length 0 = .ok (.aload_n 0, 1) := dk_42 (dk_at dksJ13_length_0 0 rfl rfl)
theorem dJ13_length_1 : decode cJ13_length 1 = .ok (.arraylength, 1) := dk_190 (dk_at dksJ13_length_0 1 rfl rfl)
theorem dJ13_length_2 : decode cJ13_length 2 = .ok (.iconst 1, 1) := dk_4 (dk_at dksJ13_length_0 2 rfl rfl)
theorem dJ13_length_3 : decode cJ13_length 3 = .ok (.ishr, 1) := dk_122 (dk_at dksJ13_length_0 3 rfl rfl)
theorem dJ13_length_4 : decode cJ13_length 4 = .ok (.ireturn, 1) := dk_172 (dk_at dksJ13_length_0 4 rfl rfl)
abbrev cJ13_getChar : ByteArray := prog_37_method_5_code
def yJ13_getChar : MethodName := ⟨RJ13, "getChar", "([BI)C"⟩
def dkwJ13_getChar_2 : List UInt8 := [51, 17, 0, 255, 126, 178, 0, 63, 120, 128, 146, 172]
abbrev dktJ13_getChar_2 : List UInt8 := dkwJ13_getChar_2 ++ []
def dkwJ13_getChar_1 : List UInt8 := [183, 0, 56, 191, 27, 4, 120, 60, 42, 27, 132, 1, 1, 51, 17, 0, 255, 126, 178, 0, 59, 120, 42, 27]
abbrev dktJ13_getChar_1 : List UInt8 := dkwJ13_getChar_1 ++ dktJ13_getChar_2
def dkwJ13_getChar_0 : List UInt8 := [178, 0, 44, 154, 0, 25, 27, 155, 0, 11, 27, 42, 184, 0, 48, 161, 0, 13, 187, 0, 52, 89, 18, 54]
abbrev dktJ13_getChar_0 : List UInt8 := dkwJ13_getChar_0 ++ dktJ13_getChar_1
theorem dksJ13_getChar_0 : cJ13_getChar.data.toList.drop 0 = dktJ13_getChar_0 := by decide +kernel
theorem dksJ13_getChar_1 : cJ13_getChar.data.toList.drop 24 = dktJ13_getChar_1 := dk_seg dksJ13_getChar_0 24 rfl rfl
theorem dksJ13_getChar_2 : cJ13_getChar.data.toList.drop 48 = dktJ13_getChar_2 := dk_seg dksJ13_getChar_1 24 rfl rfl
theorem dJ13_getChar_0 : decode cJ13_getChar 0 = .ok (.getstatic 44, 3) := dk_178 0 44 (dk_at dksJ13_getChar_0 0 rfl rfl)
theorem dJ13_getChar_3 : decode cJ13_getChar 3 = .ok (.ifCond .ne 25, 3) := dk_154 0 25 (dk_at dksJ13_getChar_0 3 rfl rfl)
theorem dJ13_getChar_6 : decode cJ13_getChar 6 = .ok (.iload_n 1, 1) := dk_27 (dk_at dksJ13_getChar_0 6 rfl rfl)
theorem dJ13_getChar_7 : decode cJ13_getChar 7 = .ok (.ifCond .lt 11, 3) := dk_155 0 11 (dk_at dksJ13_getChar_0 7 rfl rfl)
theorem dJ13_getChar_10 : decode cJ13_getChar 10 = .ok (.iload_n 1, 1) := dk_27 (dk_at dksJ13_getChar_0 10 rfl rfl)
theorem dJ13_getChar_11 : decode cJ13_getChar 11 = .ok (.aload_n 0, 1) := dk_42 (dk_at dksJ13_getChar_0 11 rfl rfl)
theorem dJ13_getChar_12 : decode cJ13_getChar 12 = .ok (.invokestatic 48, 3) := dk_184 0 48 (dk_at dksJ13_getChar_0 12 rfl rfl)
theorem dJ13_getChar_15 : decode cJ13_getChar 15 = .ok (.if_icmp .lt 13, 3) := dk_161 0 13 (dk_at dksJ13_getChar_0 15 rfl rfl)
theorem dJ13_getChar_18 : decode cJ13_getChar 18 = .ok (.new 52, 3) := dk_187 0 52 (dk_at dksJ13_getChar_0 18 rfl rfl)
theorem dJ13_getChar_21 : decode cJ13_getChar 21 = .ok (.dup, 1) := dk_89 (dk_at dksJ13_getChar_0 21 rfl rfl)
theorem dJ13_getChar_22 : decode cJ13_getChar 22 = .ok (.ldc 54, 2) := dk_18 54 (dk_at dksJ13_getChar_0 22 rfl rfl)
theorem dJ13_getChar_24 : decode cJ13_getChar 24 = .ok (.invokespecial 56, 3) := dk_183 0 56 (dk_at dksJ13_getChar_1 0 rfl rfl)
theorem dJ13_getChar_27 : decode cJ13_getChar 27 = .ok (.athrow, 1) := dk_191 (dk_at dksJ13_getChar_1 3 rfl rfl)
theorem dJ13_getChar_28 : decode cJ13_getChar 28 = .ok (.iload_n 1, 1) := dk_27 (dk_at dksJ13_getChar_1 4 rfl rfl)
theorem dJ13_getChar_29 : decode cJ13_getChar 29 = .ok (.iconst 1, 1) := dk_4 (dk_at dksJ13_getChar_1 5 rfl rfl)
theorem dJ13_getChar_30 : decode cJ13_getChar 30 = .ok (.ishl, 1) := dk_120 (dk_at dksJ13_getChar_1 6 rfl rfl)
theorem dJ13_getChar_31 : decode cJ13_getChar 31 = .ok (.istore_n 1, 1) := dk_60 (dk_at dksJ13_getChar_1 7 rfl rfl)
theorem dJ13_getChar_32 : decode cJ13_getChar 32 = .ok (.aload_n 0, 1) := dk_42 (dk_at dksJ13_getChar_1 8 rfl rfl)
theorem dJ13_getChar_33 : decode cJ13_getChar 33 = .ok (.iload_n 1, 1) := dk_27 (dk_at dksJ13_getChar_1 9 rfl rfl)
theorem dJ13_getChar_34 : decode cJ13_getChar 34 = .ok (.iinc 1 1, 3) := dk_132 1 1 (dk_at dksJ13_getChar_1 10 rfl rfl)
theorem dJ13_getChar_37 : decode cJ13_getChar 37 = .ok (.baload, 1) := dk_51 (dk_at dksJ13_getChar_1 13 rfl rfl)
theorem dJ13_getChar_38 : decode cJ13_getChar 38 = .ok (.sipush 255, 3) := dk_17 0 255 (dk_at dksJ13_getChar_1 14 rfl rfl)
theorem dJ13_getChar_41 : decode cJ13_getChar 41 = .ok (.iand, 1) := dk_126 (dk_at dksJ13_getChar_1 17 rfl rfl)
theorem dJ13_getChar_42 : decode cJ13_getChar 42 = .ok (.getstatic 59, 3) := dk_178 0 59 (dk_at dksJ13_getChar_1 18 rfl rfl)
theorem dJ13_getChar_45 : decode cJ13_getChar 45 = .ok (.ishl, 1) := dk_120 (dk_at dksJ13_getChar_1 21 rfl rfl)
theorem dJ13_getChar_46 : decode cJ13_getChar 46 = .ok (.aload_n 0, 1) := dk_42 (dk_at dksJ13_getChar_1 22 rfl rfl)
theorem dJ13_getChar_47 : decode cJ13_getChar 47 = .ok (.iload_n 1, 1) := dk_27 (dk_at dksJ13_getChar_1 23 rfl rfl)
theorem dJ13_getChar_48 : decode cJ13_getChar 48 = .ok (.baload, 1) := dk_51 (dk_at dksJ13_getChar_2 0 rfl rfl)
theorem dJ13_getChar_49 : decode cJ13_getChar 49 = .ok (.sipush 255, 3) := dk_17 0 255 (dk_at dksJ13_getChar_2 1 rfl rfl)
theorem dJ13_getChar_52 : decode cJ13_getChar 52 = .ok (.iand, 1) := dk_126 (dk_at dksJ13_getChar_2 4 rfl rfl)
theorem dJ13_getChar_53 : decode cJ13_getChar 53 = .ok (.getstatic 63, 3) := dk_178 0 63 (dk_at dksJ13_getChar_2 5 rfl rfl)
theorem dJ13_getChar_56 : decode cJ13_getChar 56 = .ok (.ishl, 1) := dk_120 (dk_at dksJ13_getChar_2 8 rfl rfl)
theorem dJ13_getChar_57 : decode cJ13_getChar 57 = .ok (.ior, 1) := dk_128 (dk_at dksJ13_getChar_2 9 rfl rfl)
theorem dJ13_getChar_58 : decode cJ13_getChar 58 = .ok (.i2c, 1) := dk_146 (dk_at dksJ13_getChar_2 10 rfl rfl)
theorem dJ13_getChar_59 : decode cJ13_getChar 59 = .ok (.ireturn, 1) := dk_172 (dk_at dksJ13_getChar_2 11 rfl rfl)
theorem q154 : (Jvm.Cond.initialized "java/lang/StringUTF16") ∈ lw_all := lw_g (lw_at lw_m1 25 rfl) rfl
theorem q881 : (Jvm.Cond.static ({ cls := "java/lang/StringUTF16", name := "charAt", desc := "([BI)C" } : Jvm.MethodName)) ∈ lw_all := lw_g (lw_at lw_m4 32 rfl) rfl
theorem q882 : (Jvm.Cond.code ({ cls := "java/lang/StringUTF16", name := "charAt", desc := "([BI)C" } : Jvm.MethodName) prog_37_method_83_code (2 : Nat) (Option.some Jvm.ClassFile.FieldType.char)) ∈ lw_all := lw_g (lw_at lw_m4 33 rfl) rfl
theorem q883 : (Jvm.Cond.methodLink "java/lang/StringUTF16" (67 : Nat) ({ cls := "java/lang/StringUTF16", name := "checkIndex", desc := "(I[B)V" } : Jvm.MethodName)) ∈ lw_all := lw_g (lw_at lw_m4 34 rfl) rfl
theorem q884 : (Jvm.Cond.static ({ cls := "java/lang/StringUTF16", name := "checkIndex", desc := "(I[B)V" } : Jvm.MethodName)) ∈ lw_all := lw_g (lw_at lw_m4 35 rfl) rfl
theorem q885 : (Jvm.Cond.code ({ cls := "java/lang/StringUTF16", name := "checkIndex", desc := "(I[B)V" } : Jvm.MethodName) prog_37_method_91_code (2 : Nat) (Option.none : Option Jvm.ClassFile.FieldType)) ∈ lw_all := lw_g (lw_at lw_m4 36 rfl) rfl
theorem q886 : (Jvm.Cond.methodLink "java/lang/StringUTF16" (48 : Nat) ({ cls := "java/lang/StringUTF16", name := "length", desc := "([B)I" } : Jvm.MethodName)) ∈ lw_all := lw_g (lw_at lw_m4 37 rfl) rfl
theorem q887 : (Jvm.Cond.static ({ cls := "java/lang/StringUTF16", name := "length", desc := "([B)I" } : Jvm.MethodName)) ∈ lw_all := lw_g (lw_at lw_m4 38 rfl) rfl
theorem q888 : (Jvm.Cond.code ({ cls := "java/lang/StringUTF16", name := "length", desc := "([B)I" } : Jvm.MethodName) prog_37_method_6_code (1 : Nat) (Option.some Jvm.ClassFile.FieldType.int)) ∈ lw_all := lw_g (lw_at lw_m4 39 rfl) rfl
theorem q889 : (Jvm.Cond.methodLink "java/lang/StringUTF16" (414 : Nat) ({ cls := "java/lang/String", name := "checkIndex", desc := "(II)V" } : Jvm.MethodName)) ∈ lw_all := lw_g (lw_at lw_m4 40 rfl) rfl
theorem q890 : (Jvm.Cond.methodLink "java/lang/StringUTF16" (71 : Nat) ({ cls := "java/lang/StringUTF16", name := "getChar", desc := "([BI)C" } : Jvm.MethodName)) ∈ lw_all := lw_g (lw_at lw_m4 41 rfl) rfl
theorem q891 : (Jvm.Cond.static ({ cls := "java/lang/StringUTF16", name := "getChar", desc := "([BI)C" } : Jvm.MethodName)) ∈ lw_all := lw_g (lw_at lw_m4 42 rfl) rfl
theorem q892 : (Jvm.Cond.code ({ cls := "java/lang/StringUTF16", name := "getChar", desc := "([BI)C" } : Jvm.MethodName) prog_37_method_5_code (2 : Nat) (Option.some Jvm.ClassFile.FieldType.char)) ∈ lw_all := lw_g (lw_at lw_m4 43 rfl) rfl
theorem q893 : (Jvm.Cond.fieldLink "java/lang/StringUTF16" (44 : Nat) "java/lang/StringUTF16" "$assertionsDisabled" "Z") ∈ lw_all := lw_g (lw_at lw_m4 44 rfl) rfl
theorem q894 : (Jvm.Cond.laysStatic "java/lang/StringUTF16" "$assertionsDisabled" "Z") ∈ lw_tbl := lw_at lw_m4 45 rfl
theorem q895 : (Jvm.Cond.fieldLink "java/lang/StringUTF16" (59 : Nat) "java/lang/StringUTF16" "HI_BYTE_SHIFT" "I") ∈ lw_all := lw_g (lw_at lw_m4 46 rfl) rfl
theorem q896 : (Jvm.Cond.laysStatic "java/lang/StringUTF16" "HI_BYTE_SHIFT" "I") ∈ lw_tbl := lw_at lw_m4 47 rfl
theorem q897 : (Jvm.Cond.fieldLink "java/lang/StringUTF16" (63 : Nat) "java/lang/StringUTF16" "LO_BYTE_SHIFT" "I") ∈ lw_all := lw_g (lw_at lw_m4 48 rfl) rfl
theorem q898 : (Jvm.Cond.laysStatic "java/lang/StringUTF16" "LO_BYTE_SHIFT" "I") ∈ lw_tbl := lw_at lw_m4 49 rfl

/-! jdk/internal/util/ArraysSupport -/
set_option maxRecDepth 100000
def RJ14 : String := "jdk/internal/util/ArraysSupport"
abbrev cJ14_newLength : ByteArray := prog_51_method_27_code
def yJ14_newLength : MethodName := ⟨RJ14, "newLength", "(III)I"⟩
def dkwJ14_newLength_1 : List UInt8 := [184, 0, 201, 172]
abbrev dktJ14_newLength_1 : List UInt8 := dkwJ14_newLength_1 ++ []
def dkwJ14_newLength_0 : List UInt8 := [26, 27, 28, 184, 0, 194, 96, 62, 3, 29, 162, 0, 11, 29, 18, 200, 163, 0, 5, 29, 172, 26, 27]
abbrev dktJ14_newLength_0 : List UInt8 := dkwJ14_newLength_0 ++ dktJ14_newLength_1
theorem dksJ14_newLength_0 : cJ14_newLength.data.toList.drop 0 = dktJ14_newLength_0 := by decide +kernel
theorem dksJ14_newLength_1 : cJ14_newLength.data.toList.drop 23 = dktJ14_newLength_1 := dk_seg dksJ14_newLength_0 23 rfl rfl
theorem dJ14_newLength_0 : decode cJ14_newLength 0 = .ok (.iload_n 0, 1) := dk_26 (dk_at dksJ14_newLength_0 0 rfl rfl)
theorem dJ14_newLength_1 : decode cJ14_newLength 1 = .ok (.iload_n 1, 1) := dk_27 (dk_at dksJ14_newLength_0 1 rfl rfl)
theorem dJ14_newLength_2 : decode cJ14_newLength 2 = .ok (.iload_n 2, 1) := dk_28 (dk_at dksJ14_newLength_0 2 rfl rfl)
theorem dJ14_newLength_3 : decode cJ14_newLength 3 = .ok (.invokestatic 194, 3) := dk_184 0 194 (dk_at dksJ14_newLength_0 3 rfl rfl)
theorem dJ14_newLength_6 : decode cJ14_newLength 6 = .ok (.iadd, 1) := dk_96 (dk_at dksJ14_newLength_0 6 rfl rfl)
theorem dJ14_newLength_7 : decode cJ14_newLength 7 = .ok (.istore_n 3, 1) := dk_62 (dk_at dksJ14_newLength_0 7 rfl rfl)
theorem dJ14_newLength_8 : decode cJ14_newLength 8 = .ok (.iconst 0, 1) := dk_3 (dk_at dksJ14_newLength_0 8 rfl rfl)
theorem dJ14_newLength_9 : decode cJ14_newLength 9 = .ok (.iload_n 3, 1) := dk_29 (dk_at dksJ14_newLength_0 9 rfl rfl)
theorem dJ14_newLength_10 : decode cJ14_newLength 10 = .ok (.if_icmp .ge 11, 3) := dk_162 0 11 (dk_at dksJ14_newLength_0 10 rfl rfl)
theorem dJ14_newLength_13 : decode cJ14_newLength 13 = .ok (.iload_n 3, 1) := dk_29 (dk_at dksJ14_newLength_0 13 rfl rfl)
theorem dJ14_newLength_14 : decode cJ14_newLength 14 = .ok (.ldc 200, 2) := dk_18 200 (dk_at dksJ14_newLength_0 14 rfl rfl)
theorem dJ14_newLength_16 : decode cJ14_newLength 16 = .ok (.if_icmp .gt 5, 3) := dk_163 0 5 (dk_at dksJ14_newLength_0 16 rfl rfl)
theorem dJ14_newLength_19 : decode cJ14_newLength 19 = .ok (.iload_n 3, 1) := dk_29 (dk_at dksJ14_newLength_0 19 rfl rfl)
theorem dJ14_newLength_20 : decode cJ14_newLength 20 = .ok (.ireturn, 1) := dk_172 (dk_at dksJ14_newLength_0 20 rfl rfl)
theorem dJ14_newLength_21 : decode cJ14_newLength 21 = .ok (.iload_n 0, 1) := dk_26 (dk_at dksJ14_newLength_0 21 rfl rfl)
theorem dJ14_newLength_22 : decode cJ14_newLength 22 = .ok (.iload_n 1, 1) := dk_27 (dk_at dksJ14_newLength_0 22 rfl rfl)
theorem dJ14_newLength_23 : decode cJ14_newLength 23 = .ok (.invokestatic 201, 3) := dk_184 0 201 (dk_at dksJ14_newLength_1 0 rfl rfl)
theorem dJ14_newLength_26 : decode cJ14_newLength 26 = .ok (.ireturn, 1) := dk_172 (dk_at dksJ14_newLength_1 3 rfl rfl)
abbrev cJ14_hugeLength : ByteArray := prog_51_method_28_code
def yJ14_hugeLength : MethodName := ⟨RJ14, "hugeLength", "(II)I"⟩
def dkwJ14_hugeLength_2 : List UInt8 := [191, 28, 18, 200, 163, 0, 6, 18, 200, 172, 28, 172]
abbrev dktJ14_hugeLength_2 : List UInt8 := dkwJ14_hugeLength_2 ++ []
def dkwJ14_hugeLength_1 : List UInt8 := [26, 182, 0, 98, 18, 208, 182, 0, 94, 27, 182, 0, 98, 18, 210, 182, 0, 94, 182, 0, 101, 183, 0, 212]
abbrev dktJ14_hugeLength_1 : List UInt8 := dkwJ14_hugeLength_1 ++ dktJ14_hugeLength_2
def dkwJ14_hugeLength_0 : List UInt8 := [26, 27, 96, 61, 28, 156, 0, 44, 187, 0, 204, 89, 187, 0, 89, 89, 183, 0, 91, 18, 206, 182, 0, 94]
abbrev dktJ14_hugeLength_0 : List UInt8 := dkwJ14_hugeLength_0 ++ dktJ14_hugeLength_1
theorem dksJ14_hugeLength_0 : cJ14_hugeLength.data.toList.drop 0 = dktJ14_hugeLength_0 := by decide +kernel
theorem dksJ14_hugeLength_1 : cJ14_hugeLength.data.toList.drop 24 = dktJ14_hugeLength_1 := dk_seg dksJ14_hugeLength_0 24 rfl rfl
theorem dksJ14_hugeLength_2 : cJ14_hugeLength.data.toList.drop 48 = dktJ14_hugeLength_2 := dk_seg dksJ14_hugeLength_1 24 rfl rfl
theorem dJ14_hugeLength_0 : decode cJ14_hugeLength 0 = .ok (.iload_n 0, 1) := dk_26 (dk_at dksJ14_hugeLength_0 0 rfl rfl)
theorem dJ14_hugeLength_1 : decode cJ14_hugeLength 1 = .ok (.iload_n 1, 1) := dk_27 (dk_at dksJ14_hugeLength_0 1 rfl rfl)
theorem dJ14_hugeLength_2 : decode cJ14_hugeLength 2 = .ok (.iadd, 1) := dk_96 (dk_at dksJ14_hugeLength_0 2 rfl rfl)
theorem dJ14_hugeLength_3 : decode cJ14_hugeLength 3 = .ok (.istore_n 2, 1) := dk_61 (dk_at dksJ14_hugeLength_0 3 rfl rfl)
theorem dJ14_hugeLength_4 : decode cJ14_hugeLength 4 = .ok (.iload_n 2, 1) := dk_28 (dk_at dksJ14_hugeLength_0 4 rfl rfl)
theorem dJ14_hugeLength_5 : decode cJ14_hugeLength 5 = .ok (.ifCond .ge 44, 3) := dk_156 0 44 (dk_at dksJ14_hugeLength_0 5 rfl rfl)
theorem dJ14_hugeLength_8 : decode cJ14_hugeLength 8 = .ok (.new 204, 3) := dk_187 0 204 (dk_at dksJ14_hugeLength_0 8 rfl rfl)
theorem dJ14_hugeLength_11 : decode cJ14_hugeLength 11 = .ok (.dup, 1) := dk_89 (dk_at dksJ14_hugeLength_0 11 rfl rfl)
theorem dJ14_hugeLength_12 : decode cJ14_hugeLength 12 = .ok (.new 89, 3) := dk_187 0 89 (dk_at dksJ14_hugeLength_0 12 rfl rfl)
theorem dJ14_hugeLength_15 : decode cJ14_hugeLength 15 = .ok (.dup, 1) := dk_89 (dk_at dksJ14_hugeLength_0 15 rfl rfl)
theorem dJ14_hugeLength_16 : decode cJ14_hugeLength 16 = .ok (.invokespecial 91, 3) := dk_183 0 91 (dk_at dksJ14_hugeLength_0 16 rfl rfl)
theorem dJ14_hugeLength_19 : decode cJ14_hugeLength 19 = .ok (.ldc 206, 2) := dk_18 206 (dk_at dksJ14_hugeLength_0 19 rfl rfl)
theorem dJ14_hugeLength_21 : decode cJ14_hugeLength 21 = .ok (.invokevirtual 94, 3) := dk_182 0 94 (dk_at dksJ14_hugeLength_0 21 rfl rfl)
theorem dJ14_hugeLength_24 : decode cJ14_hugeLength 24 = .ok (.iload_n 0, 1) := dk_26 (dk_at dksJ14_hugeLength_1 0 rfl rfl)
theorem dJ14_hugeLength_25 : decode cJ14_hugeLength 25 = .ok (.invokevirtual 98, 3) := dk_182 0 98 (dk_at dksJ14_hugeLength_1 1 rfl rfl)
theorem dJ14_hugeLength_28 : decode cJ14_hugeLength 28 = .ok (.ldc 208, 2) := dk_18 208 (dk_at dksJ14_hugeLength_1 4 rfl rfl)
theorem dJ14_hugeLength_30 : decode cJ14_hugeLength 30 = .ok (.invokevirtual 94, 3) := dk_182 0 94 (dk_at dksJ14_hugeLength_1 6 rfl rfl)
theorem dJ14_hugeLength_33 : decode cJ14_hugeLength 33 = .ok (.iload_n 1, 1) := dk_27 (dk_at dksJ14_hugeLength_1 9 rfl rfl)
theorem dJ14_hugeLength_34 : decode cJ14_hugeLength 34 = .ok (.invokevirtual 98, 3) := dk_182 0 98 (dk_at dksJ14_hugeLength_1 10 rfl rfl)
theorem dJ14_hugeLength_37 : decode cJ14_hugeLength 37 = .ok (.ldc 210, 2) := dk_18 210 (dk_at dksJ14_hugeLength_1 13 rfl rfl)
theorem dJ14_hugeLength_39 : decode cJ14_hugeLength 39 = .ok (.invokevirtual 94, 3) := dk_182 0 94 (dk_at dksJ14_hugeLength_1 15 rfl rfl)
theorem dJ14_hugeLength_42 : decode cJ14_hugeLength 42 = .ok (.invokevirtual 101, 3) := dk_182 0 101 (dk_at dksJ14_hugeLength_1 18 rfl rfl)
theorem dJ14_hugeLength_45 : decode cJ14_hugeLength 45 = .ok (.invokespecial 212, 3) := dk_183 0 212 (dk_at dksJ14_hugeLength_1 21 rfl rfl)
theorem dJ14_hugeLength_48 : decode cJ14_hugeLength 48 = .ok (.athrow, 1) := dk_191 (dk_at dksJ14_hugeLength_2 0 rfl rfl)
theorem dJ14_hugeLength_49 : decode cJ14_hugeLength 49 = .ok (.iload_n 2, 1) := dk_28 (dk_at dksJ14_hugeLength_2 1 rfl rfl)
theorem dJ14_hugeLength_50 : decode cJ14_hugeLength 50 = .ok (.ldc 200, 2) := dk_18 200 (dk_at dksJ14_hugeLength_2 2 rfl rfl)
theorem dJ14_hugeLength_52 : decode cJ14_hugeLength 52 = .ok (.if_icmp .gt 6, 3) := dk_163 0 6 (dk_at dksJ14_hugeLength_2 4 rfl rfl)
theorem dJ14_hugeLength_55 : decode cJ14_hugeLength 55 = .ok (.ldc 200, 2) := dk_18 200 (dk_at dksJ14_hugeLength_2 7 rfl rfl)
theorem dJ14_hugeLength_57 : decode cJ14_hugeLength 57 = .ok (.ireturn, 1) := dk_172 (dk_at dksJ14_hugeLength_2 9 rfl rfl)
theorem dJ14_hugeLength_58 : decode cJ14_hugeLength 58 = .ok (.iload_n 2, 1) := dk_28 (dk_at dksJ14_hugeLength_2 10 rfl rfl)
theorem dJ14_hugeLength_59 : decode cJ14_hugeLength 59 = .ok (.ireturn, 1) := dk_172 (dk_at dksJ14_hugeLength_2 11 rfl rfl)
theorem q166 : (Jvm.Cond.initialized "jdk/internal/util/ArraysSupport") ∈ lw_all := lw_g (lw_at lw_m1 37 rfl) rfl
theorem q1209 : (Jvm.Cond.static ({ cls := "jdk/internal/util/ArraysSupport", name := "newLength", desc := "(III)I" } : Jvm.MethodName)) ∈ lw_all := lw_g (lw_at lw_m5 120 rfl) rfl
theorem q1210 : (Jvm.Cond.code ({ cls := "jdk/internal/util/ArraysSupport", name := "newLength", desc := "(III)I" } : Jvm.MethodName) prog_51_method_27_code (4 : Nat) (Option.some Jvm.ClassFile.FieldType.int)) ∈ lw_all := lw_g (lw_at lw_m5 121 rfl) rfl
theorem q1211 : (Jvm.Cond.methodLink "jdk/internal/util/ArraysSupport" (194 : Nat) ({ cls := "java/lang/Math", name := "max", desc := "(II)I" } : Jvm.MethodName)) ∈ lw_all := lw_g (lw_at lw_m5 122 rfl) rfl
theorem q1214 : (Jvm.Cond.constant "jdk/internal/util/ArraysSupport" (200 : Nat) (2147483639 : Int32)) ∈ lw_all := lw_g (lw_at lw_m5 125 rfl) rfl
theorem q1215 : (Jvm.Cond.methodLink "jdk/internal/util/ArraysSupport" (201 : Nat) ({ cls := "jdk/internal/util/ArraysSupport", name := "hugeLength", desc := "(II)I" } : Jvm.MethodName)) ∈ lw_all := lw_g (lw_at lw_m5 126 rfl) rfl
theorem q1216 : (Jvm.Cond.static ({ cls := "jdk/internal/util/ArraysSupport", name := "hugeLength", desc := "(II)I" } : Jvm.MethodName)) ∈ lw_all := lw_g (lw_at lw_m5 127 rfl) rfl
theorem q1217 : (Jvm.Cond.code ({ cls := "jdk/internal/util/ArraysSupport", name := "hugeLength", desc := "(II)I" } : Jvm.MethodName) prog_51_method_28_code (3 : Nat) (Option.some Jvm.ClassFile.FieldType.int)) ∈ lw_all := lw_g (lw_at lw_m5 128 rfl) rfl

/-! java/util/Arrays -/
set_option maxRecDepth 100000
def RJ15 : String := "java/util/Arrays"
abbrev cJ15_copyOf : ByteArray := prog_45_method_119_code
def yJ15_copyOf : MethodName := ⟨RJ15, "copyOf", "([Ljava/lang/Object;I)[Ljava/lang/Object;"⟩
def dkwJ15_copyOf_0 : List UInt8 := [42, 27, 42, 182, 0, 86, 184, 1, 44, 176]
abbrev dktJ15_copyOf_0 : List UInt8 := dkwJ15_copyOf_0 ++ []
theorem dksJ15_copyOf_0 : cJ15_copyOf.data.toList.drop 0 = dktJ15_copyOf_0 := by decide +kernel
theorem dJ15_copyOf_0 : decode cJ15_copyOf 0 = .ok (.aload_n 0, 1) := dk_42 (dk_at dksJ15_copyOf_0 0 rfl rfl)
theorem dJ15_copyOf_1 : decode cJ15_copyOf 1 = .ok (.iload_n 1, 1) := dk_27 (dk_at dksJ15_copyOf_0 1 rfl rfl)
theorem dJ15_copyOf_2 : decode cJ15_copyOf 2 = .ok (.aload_n 0, 1) := dk_42 (dk_at dksJ15_copyOf_0 2 rfl rfl)
theorem dJ15_copyOf_3 : decode cJ15_copyOf 3 = .ok (.invokevirtual 86, 3) := dk_182 0 86 (dk_at dksJ15_copyOf_0 3 rfl rfl)
theorem dJ15_copyOf_6 : decode cJ15_copyOf 6 = .ok (.invokestatic 300, 3) := dk_184 1 44 (dk_at dksJ15_copyOf_0 6 rfl rfl)
theorem dJ15_copyOf_9 : decode cJ15_copyOf 9 = .ok (.areturn, 1) := dk_176 (dk_at dksJ15_copyOf_0 9 rfl rfl)
abbrev cJ15_copyOf_2 : ByteArray := prog_45_method_120_code
def yJ15_copyOf_2 : MethodName := ⟨RJ15, "copyOf", "([Ljava/lang/Object;ILjava/lang/Class;)[Ljava/lang/Object;"⟩
def dkwJ15_copyOf_2_1 : List UInt8 := [78, 42, 3, 45, 3, 42, 190, 27, 184, 1, 48, 184, 0, 150, 45, 176]
abbrev dktJ15_copyOf_2_1 : List UInt8 := dkwJ15_copyOf_2_1 ++ []
def dkwJ15_copyOf_2_0 : List UInt8 := [44, 18, 110, 166, 0, 10, 27, 189, 0, 2, 167, 0, 14, 44, 182, 0, 90, 27, 184, 0, 95, 192, 0, 110]
abbrev dktJ15_copyOf_2_0 : List UInt8 := dkwJ15_copyOf_2_0 ++ dktJ15_copyOf_2_1
theorem dksJ15_copyOf_2_0 : cJ15_copyOf_2.data.toList.drop 0 = dktJ15_copyOf_2_0 := by decide +kernel
theorem dksJ15_copyOf_2_1 : cJ15_copyOf_2.data.toList.drop 24 = dktJ15_copyOf_2_1 := dk_seg dksJ15_copyOf_2_0 24 rfl rfl
theorem dJ15_copyOf_2_0 : decode cJ15_copyOf_2 0 = .ok (.aload_n 2, 1) := dk_44 (dk_at dksJ15_copyOf_2_0 0 rfl rfl)
theorem dJ15_copyOf_2_1 : decode cJ15_copyOf_2 1 = .ok (.ldc 110, 2) := dk_18 110 (dk_at dksJ15_copyOf_2_0 1 rfl rfl)
theorem dJ15_copyOf_2_3 : decode cJ15_copyOf_2 3 = .ok (.if_acmp .ne 10, 3) := dk_166 0 10 (dk_at dksJ15_copyOf_2_0 3 rfl rfl)
theorem dJ15_copyOf_2_6 : decode cJ15_copyOf_2 6 = .ok (.iload_n 1, 1) := dk_27 (dk_at dksJ15_copyOf_2_0 6 rfl rfl)
theorem dJ15_copyOf_2_7 : decode cJ15_copyOf_2 7 = .ok (.anewarray 2, 3) := dk_189 0 2 (dk_at dksJ15_copyOf_2_0 7 rfl rfl)
theorem dJ15_copyOf_2_10 : decode cJ15_copyOf_2 10 = .ok (.goto 14, 3) := dk_167 0 14 (dk_at dksJ15_copyOf_2_0 10 rfl rfl)
theorem dJ15_copyOf_2_13 : decode cJ15_copyOf_2 13 = .ok (.aload_n 2, 1) := dk_44 (dk_at dksJ15_copyOf_2_0 13 rfl rfl)
theorem dJ15_copyOf_2_14 : decode cJ15_copyOf_2 14 = .ok (.invokevirtual 90, 3) := dk_182 0 90 (dk_at dksJ15_copyOf_2_0 14 rfl rfl)
theorem dJ15_copyOf_2_17 : decode cJ15_copyOf_2 17 = .ok (.iload_n 1, 1) := dk_27 (dk_at dksJ15_copyOf_2_0 17 rfl rfl)
theorem dJ15_copyOf_2_18 : decode cJ15_copyOf_2 18 = .ok (.invokestatic 95, 3) := dk_184 0 95 (dk_at dksJ15_copyOf_2_0 18 rfl rfl)
theorem dJ15_copyOf_2_21 : decode cJ15_copyOf_2 21 = .ok (.checkcast 110, 3) := dk_192 0 110 (dk_at dksJ15_copyOf_2_0 21 rfl rfl)
theorem dJ15_copyOf_2_24 : decode cJ15_copyOf_2 24 = .ok (.astore_n 3, 1) := dk_78 (dk_at dksJ15_copyOf_2_1 0 rfl rfl)
theorem dJ15_copyOf_2_25 : decode cJ15_copyOf_2 25 = .ok (.aload_n 0, 1) := dk_42 (dk_at dksJ15_copyOf_2_1 1 rfl rfl)
theorem dJ15_copyOf_2_26 : decode cJ15_copyOf_2 26 = .ok (.iconst 0, 1) := dk_3 (dk_at dksJ15_copyOf_2_1 2 rfl rfl)
theorem dJ15_copyOf_2_27 : decode cJ15_copyOf_2 27 = .ok (.aload_n 3, 1) := dk_45 (dk_at dksJ15_copyOf_2_1 3 rfl rfl)
theorem dJ15_copyOf_2_28 : decode cJ15_copyOf_2 28 = .ok (.iconst 0, 1) := dk_3 (dk_at dksJ15_copyOf_2_1 4 rfl rfl)
theorem dJ15_copyOf_2_29 : decode cJ15_copyOf_2 29 = .ok (.aload_n 0, 1) := dk_42 (dk_at dksJ15_copyOf_2_1 5 rfl rfl)
theorem dJ15_copyOf_2_30 : decode cJ15_copyOf_2 30 = .ok (.arraylength, 1) := dk_190 (dk_at dksJ15_copyOf_2_1 6 rfl rfl)
theorem dJ15_copyOf_2_31 : decode cJ15_copyOf_2 31 = .ok (.iload_n 1, 1) := dk_27 (dk_at dksJ15_copyOf_2_1 7 rfl rfl)
theorem dJ15_copyOf_2_32 : decode cJ15_copyOf_2 32 = .ok (.invokestatic 304, 3) := dk_184 1 48 (dk_at dksJ15_copyOf_2_1 8 rfl rfl)
theorem dJ15_copyOf_2_35 : decode cJ15_copyOf_2 35 = .ok (.invokestatic 150, 3) := dk_184 0 150 (dk_at dksJ15_copyOf_2_1 11 rfl rfl)
theorem dJ15_copyOf_2_38 : decode cJ15_copyOf_2 38 = .ok (.aload_n 3, 1) := dk_45 (dk_at dksJ15_copyOf_2_1 14 rfl rfl)
theorem dJ15_copyOf_2_39 : decode cJ15_copyOf_2 39 = .ok (.areturn, 1) := dk_176 (dk_at dksJ15_copyOf_2_1 15 rfl rfl)
theorem q167 : (Jvm.Cond.initialized "java/util/Arrays") ∈ lw_all := lw_g (lw_at lw_m1 38 rfl) rfl
theorem q1219 : (Jvm.Cond.static ({ cls := "java/util/Arrays", name := "copyOf", desc := "([Ljava/lang/Object;I)[Ljava/lang/Object;" } : Jvm.MethodName)) ∈ lw_all := lw_g (lw_at lw_m5 130 rfl) rfl
theorem q1220 : (Jvm.Cond.code ({ cls := "java/util/Arrays", name := "copyOf", desc := "([Ljava/lang/Object;I)[Ljava/lang/Object;" } : Jvm.MethodName) prog_45_method_119_code (2 : Nat) (Option.some (Jvm.ClassFile.FieldType.array (Jvm.ClassFile.FieldType.object "java/lang/Object")))) ∈ lw_all := lw_g (lw_at lw_m5 131 rfl) rfl
theorem q1221 : (Jvm.Cond.methodLink "java/util/Arrays" (86 : Nat) ({ cls := "java/lang/Object", name := "getClass", desc := "()Ljava/lang/Class;" } : Jvm.MethodName)) ∈ lw_all := lw_g (lw_at lw_m5 132 rfl) rfl
theorem q1247 : (Jvm.Cond.methodLink "java/util/Arrays" (300 : Nat) ({ cls := "java/util/Arrays", name := "copyOf", desc := "([Ljava/lang/Object;ILjava/lang/Class;)[Ljava/lang/Object;" } : Jvm.MethodName)) ∈ lw_all := lw_g (lw_at lw_m5 158 rfl) rfl
theorem q1248 : (Jvm.Cond.static ({ cls := "java/util/Arrays", name := "copyOf", desc := "([Ljava/lang/Object;ILjava/lang/Class;)[Ljava/lang/Object;" } : Jvm.MethodName)) ∈ lw_all := lw_g (lw_at lw_m5 159 rfl) rfl
theorem q1249 : (Jvm.Cond.code ({ cls := "java/util/Arrays", name := "copyOf", desc := "([Ljava/lang/Object;ILjava/lang/Class;)[Ljava/lang/Object;" } : Jvm.MethodName) prog_45_method_120_code (4 : Nat) (Option.some (Jvm.ClassFile.FieldType.array (Jvm.ClassFile.FieldType.object "java/lang/Object")))) ∈ lw_all := lw_g (lw_at lw_m5 160 rfl) rfl
theorem q1250 : (Jvm.Cond.classLink "java/util/Arrays" (110 : Nat) "[Ljava/lang/Object;") ∈ lw_all := lw_g (lw_at lw_m5 161 rfl) rfl
theorem q1252 : (Jvm.Cond.classLink "java/util/Arrays" (2 : Nat) "java/lang/Object") ∈ lw_all := lw_g (lw_at lw_m5 163 rfl) rfl
theorem q1253 : (Jvm.Cond.methodLink "java/util/Arrays" (304 : Nat) ({ cls := "java/lang/Math", name := "min", desc := "(II)I" } : Jvm.MethodName)) ∈ lw_all := lw_g (lw_at lw_m5 164 rfl) rfl
theorem q1254 : (Jvm.Cond.methodLink "java/util/Arrays" (150 : Nat) ({ cls := "java/lang/System", name := "arraycopy", desc := "(Ljava/lang/Object;ILjava/lang/Object;II)V" } : Jvm.MethodName)) ∈ lw_all := lw_g (lw_at lw_m5 165 rfl) rfl

/-! java/lang/Object -/
set_option maxRecDepth 100000
def RJ16 : String := "java/lang/Object"
abbrev cJ16_init : ByteArray := object_method_1_code
def yJ16_init : MethodName := ⟨RJ16, "<init>", "()V"⟩
theorem dJ16_init_0 : decode cJ16_init 0 = .ok (.return_, 1) := by decide +kernel
theorem q176 : (Jvm.Cond.instanceMethod ({ cls := "java/lang/Object", name := "<init>", desc := "()V" } : Jvm.MethodName)) ∈ lw_all := lw_g (lw_at lw_m1 47 rfl) rfl
theorem q177 : (Jvm.Cond.code ({ cls := "java/lang/Object", name := "<init>", desc := "()V" } : Jvm.MethodName) object_method_1_code (1 : Nat) (Option.none : Option Jvm.ClassFile.FieldType)) ∈ lw_all := lw_g (lw_at lw_m1 48 rfl) rfl
theorem q1222 : (Jvm.Cond.instanceMethod ({ cls := "java/lang/Object", name := "getClass", desc := "()Ljava/lang/Class;" } : Jvm.MethodName)) ∈ lw_all := lw_g (lw_at lw_m5 133 rfl) rfl
theorem q1223 : (Jvm.Cond.sameMethod "java/lang/Object" "java/lang/Object" "getClass" "()Ljava/lang/Class;") ∈ lw_all := lw_g (lw_at lw_m5 134 rfl) rfl
theorem q1246 : (Jvm.Cond.native ({ cls := "java/lang/Object", name := "getClass", desc := "()Ljava/lang/Class;" } : Jvm.MethodName)) ∈ lw_all := lw_g (lw_at lw_m5 157 rfl) rfl
theorem q2310 : (Jvm.Cond.initialized "java/lang/Object") ∈ lw_all := lw_g (lw_at lw_m10 21 rfl) rfl
theorem q2341 : (Jvm.Cond.declares ({ cls := "java/lang/Object", name := "getClass", desc := "()Ljava/lang/Class;" } : Jvm.MethodName)) ∈ lw_tbl := lw_at lw_m10 52 rfl

/-! java/util/ArrayList -/
set_option maxRecDepth 100000
def RJ2 : String := "java/util/ArrayList"
def TJ2 : u_T := fun k => match k with
  | 0 => ("java/util/AbstractList", "modCount", "I", false)
  | 1 => ("java/util/ArrayList", "elementData", "[Ljava/lang/Object;", false)
  | _ => ("java/util/ArrayList", "size", "I", false)
def tyJ2 : Nat → FieldType := fun k => match k with
  | 0 => .int
  | 1 => .array (.object "java/lang/Object")
  | _ => .int
abbrev wsJ20 : List Cond := u_ws RJ2 TJ2 3
theorem nmJ2 : ∀ a, a < 3 → ∀ b, b < 3 → a ≠ b → (TJ2 a).2.1 ≠ (TJ2 b).2.1 := by decide +kernel
theorem tyJ2_ok : ∀ k, k < 3 → parseFieldDescriptor (TJ2 k).2.2.1 = some (tyJ2 k) := by decide +kernel
abbrev cJ2_init : ByteArray := prog_44_method_2_code
def yJ2_init : MethodName := ⟨RJ2, "<init>", "()V"⟩
def dkwJ2_init_0 : List UInt8 := [42, 183, 0, 1, 42, 178, 0, 39, 181, 0, 9, 177]
abbrev dktJ2_init_0 : List UInt8 := dkwJ2_init_0 ++ []
theorem dksJ2_init_0 : cJ2_init.data.toList.drop 0 = dktJ2_init_0 := by decide +kernel
theorem dJ2_init_0 : decode cJ2_init 0 = .ok (.aload_n 0, 1) := dk_42 (dk_at dksJ2_init_0 0 rfl rfl)
theorem dJ2_init_1 : decode cJ2_init 1 = .ok (.invokespecial 1, 3) := dk_183 0 1 (dk_at dksJ2_init_0 1 rfl rfl)
theorem dJ2_init_4 : decode cJ2_init 4 = .ok (.aload_n 0, 1) := dk_42 (dk_at dksJ2_init_0 4 rfl rfl)
theorem dJ2_init_5 : decode cJ2_init 5 = .ok (.getstatic 39, 3) := dk_178 0 39 (dk_at dksJ2_init_0 5 rfl rfl)
theorem dJ2_init_8 : decode cJ2_init 8 = .ok (.putfield 9, 3) := dk_181 0 9 (dk_at dksJ2_init_0 8 rfl rfl)
theorem dJ2_init_11 : decode cJ2_init 11 = .ok (.return_, 1) := dk_177 (dk_at dksJ2_init_0 11 rfl rfl)
abbrev cJ2_get : ByteArray := prog_44_method_20_code
def yJ2_get : MethodName := ⟨RJ2, "get", "(I)Ljava/lang/Object;"⟩
def dkwJ2_get_0 : List UInt8 := [27, 42, 180, 0, 48, 184, 0, 118, 87, 42, 27, 182, 0, 123, 176]
abbrev dktJ2_get_0 : List UInt8 := dkwJ2_get_0 ++ []
theorem dksJ2_get_0 : cJ2_get.data.toList.drop 0 = dktJ2_get_0 := by decide +kernel
theorem dJ2_get_0 : decode cJ2_get 0 = .ok (.iload_n 1, 1) := dk_27 (dk_at dksJ2_get_0 0 rfl rfl)
theorem dJ2_get_1 : decode cJ2_get 1 = .ok (.aload_n 0, 1) := dk_42 (dk_at dksJ2_get_0 1 rfl rfl)
theorem dJ2_get_2 : decode cJ2_get 2 = .ok (.getfield 48, 3) := dk_180 0 48 (dk_at dksJ2_get_0 2 rfl rfl)
theorem dJ2_get_5 : decode cJ2_get 5 = .ok (.invokestatic 118, 3) := dk_184 0 118 (dk_at dksJ2_get_0 5 rfl rfl)
theorem dJ2_get_8 : decode cJ2_get 8 = .ok (.pop, 1) := dk_87 (dk_at dksJ2_get_0 8 rfl rfl)
theorem dJ2_get_9 : decode cJ2_get 9 = .ok (.aload_n 0, 1) := dk_42 (dk_at dksJ2_get_0 9 rfl rfl)
theorem dJ2_get_10 : decode cJ2_get 10 = .ok (.iload_n 1, 1) := dk_27 (dk_at dksJ2_get_0 10 rfl rfl)
theorem dJ2_get_11 : decode cJ2_get 11 = .ok (.invokevirtual 123, 3) := dk_182 0 123 (dk_at dksJ2_get_0 11 rfl rfl)
theorem dJ2_get_14 : decode cJ2_get 14 = .ok (.areturn, 1) := dk_176 (dk_at dksJ2_get_0 14 rfl rfl)
abbrev cJ2_elementData : ByteArray := prog_44_method_18_code
def yJ2_elementData : MethodName := ⟨RJ2, "elementData", "(I)Ljava/lang/Object;"⟩
def dkwJ2_elementData_0 : List UInt8 := [42, 180, 0, 9, 27, 50, 176]
abbrev dktJ2_elementData_0 : List UInt8 := dkwJ2_elementData_0 ++ []
theorem dksJ2_elementData_0 : cJ2_elementData.data.toList.drop 0 = dktJ2_elementData_0 := by decide +kernel
theorem dJ2_elementData_0 : decode cJ2_elementData 0 = .ok (.aload_n 0, 1) := dk_42 (dk_at dksJ2_elementData_0 0 rfl rfl)
theorem dJ2_elementData_1 : decode cJ2_elementData 1 = .ok (.getfield 9, 3) := dk_180 0 9 (dk_at dksJ2_elementData_0 1 rfl rfl)
theorem dJ2_elementData_4 : decode cJ2_elementData 4 = .ok (.iload_n 1, 1) := dk_27 (dk_at dksJ2_elementData_0 4 rfl rfl)
theorem dJ2_elementData_5 : decode cJ2_elementData 5 = .ok (.aaload, 1) := dk_50 (dk_at dksJ2_elementData_0 5 rfl rfl)
theorem dJ2_elementData_6 : decode cJ2_elementData 6 = .ok (.areturn, 1) := dk_176 (dk_at dksJ2_elementData_0 6 rfl rfl)
abbrev cJ2_size : ByteArray := prog_44_method_8_code
def yJ2_size : MethodName := ⟨RJ2, "size", "()I"⟩
theorem dJ2_size_0 : decode cJ2_size 0 = .ok (.aload_n 0, 1) := by decide +kernel
theorem dJ2_size_1 : decode cJ2_size 1 = .ok (.getfield 48, 3) := by decide +kernel
theorem dJ2_size_4 : decode cJ2_size 4 = .ok (.ireturn, 1) := by decide +kernel
abbrev cJ2_add : ByteArray := prog_44_method_25_code
def yJ2_add : MethodName := ⟨RJ2, "add", "(Ljava/lang/Object;)Z"⟩
def dkwJ2_add_1 : List UInt8 := [172]
abbrev dktJ2_add_1 : List UInt8 := dkwJ2_add_1 ++ []
def dkwJ2_add_0 : List UInt8 := [42, 89, 180, 0, 63, 4, 96, 181, 0, 63, 42, 43, 42, 180, 0, 9, 42, 180, 0, 48, 182, 0, 131, 4]
abbrev dktJ2_add_0 : List UInt8 := dkwJ2_add_0 ++ dktJ2_add_1
theorem dksJ2_add_0 : cJ2_add.data.toList.drop 0 = dktJ2_add_0 := by decide +kernel
theorem dksJ2_add_1 : cJ2_add.data.toList.drop 24 = dktJ2_add_1 := dk_seg dksJ2_add_0 24 rfl rfl
theorem dJ2_add_0 : decode cJ2_add 0 = .ok (.aload_n 0, 1) := dk_42 (dk_at dksJ2_add_0 0 rfl rfl)
theorem dJ2_add_1 : decode cJ2_add 1 = .ok (.dup, 1) := dk_89 (dk_at dksJ2_add_0 1 rfl rfl)
theorem dJ2_add_2 : decode cJ2_add 2 = .ok (.getfield 63, 3) := dk_180 0 63 (dk_at dksJ2_add_0 2 rfl rfl)
theorem dJ2_add_5 : decode cJ2_add 5 = .ok (.iconst 1, 1) := dk_4 (dk_at dksJ2_add_0 5 rfl rfl)
theorem dJ2_add_6 : decode cJ2_add 6 = .ok (.iadd, 1) := dk_96 (dk_at dksJ2_add_0 6 rfl rfl)
theorem dJ2_add_7 : decode cJ2_add 7 = .ok (.putfield 63, 3) := dk_181 0 63 (dk_at dksJ2_add_0 7 rfl rfl)
theorem dJ2_add_10 : decode cJ2_add 10 = .ok (.aload_n 0, 1) := dk_42 (dk_at dksJ2_add_0 10 rfl rfl)
theorem dJ2_add_11 : decode cJ2_add 11 = .ok (.aload_n 1, 1) := dk_43 (dk_at dksJ2_add_0 11 rfl rfl)
theorem dJ2_add_12 : decode cJ2_add 12 = .ok (.aload_n 0, 1) := dk_42 (dk_at dksJ2_add_0 12 rfl rfl)
theorem dJ2_add_13 : decode cJ2_add 13 = .ok (.getfield 9, 3) := dk_180 0 9 (dk_at dksJ2_add_0 13 rfl rfl)
theorem dJ2_add_16 : decode cJ2_add 16 = .ok (.aload_n 0, 1) := dk_42 (dk_at dksJ2_add_0 16 rfl rfl)
theorem dJ2_add_17 : decode cJ2_add 17 = .ok (.getfield 48, 3) := dk_180 0 48 (dk_at dksJ2_add_0 17 rfl rfl)
theorem dJ2_add_20 : decode cJ2_add 20 = .ok (.invokevirtual 131, 3) := dk_182 0 131 (dk_at dksJ2_add_0 20 rfl rfl)
theorem dJ2_add_23 : decode cJ2_add 23 = .ok (.iconst 1, 1) := dk_4 (dk_at dksJ2_add_0 23 rfl rfl)
theorem dJ2_add_24 : decode cJ2_add 24 = .ok (.ireturn, 1) := dk_172 (dk_at dksJ2_add_1 0 rfl rfl)
abbrev cJ2_add_2 : ByteArray := prog_44_method_24_code
def yJ2_add_2 : MethodName := ⟨RJ2, "add", "(Ljava/lang/Object;[Ljava/lang/Object;I)V"⟩
def dkwJ2_add_2_0 : List UInt8 := [29, 44, 190, 160, 0, 8, 42, 182, 0, 129, 77, 44, 29, 43, 83, 42, 29, 4, 96, 181, 0, 48, 177]
abbrev dktJ2_add_2_0 : List UInt8 := dkwJ2_add_2_0 ++ []
theorem dksJ2_add_2_0 : cJ2_add_2.data.toList.drop 0 = dktJ2_add_2_0 := by decide +kernel
theorem dJ2_add_2_0 : decode cJ2_add_2 0 = .ok (.iload_n 3, 1) := dk_29 (dk_at dksJ2_add_2_0 0 rfl rfl)
theorem dJ2_add_2_1 : decode cJ2_add_2 1 = .ok (.aload_n 2, 1) := dk_44 (dk_at dksJ2_add_2_0 1 rfl rfl)
theorem dJ2_add_2_2 : decode cJ2_add_2 2 = .ok (.arraylength, 1) := dk_190 (dk_at dksJ2_add_2_0 2 rfl rfl)
theorem dJ2_add_2_3 : decode cJ2_add_2 3 = .ok (.if_icmp .ne 8, 3) := dk_160 0 8 (dk_at dksJ2_add_2_0 3 rfl rfl)
theorem dJ2_add_2_6 : decode cJ2_add_2 6 = .ok (.aload_n 0, 1) := dk_42 (dk_at dksJ2_add_2_0 6 rfl rfl)
theorem dJ2_add_2_7 : decode cJ2_add_2 7 = .ok (.invokevirtual 129, 3) := dk_182 0 129 (dk_at dksJ2_add_2_0 7 rfl rfl)
theorem dJ2_add_2_10 : decode cJ2_add_2 10 = .ok (.astore_n 2, 1) := dk_77 (dk_at dksJ2_add_2_0 10 rfl rfl)
theorem dJ2_add_2_11 : decode cJ2_add_2 11 = .ok (.aload_n 2, 1) := dk_44 (dk_at dksJ2_add_2_0 11 rfl rfl)
theorem dJ2_add_2_12 : decode cJ2_add_2 12 = .ok (.iload_n 3, 1) := dk_29 (dk_at dksJ2_add_2_0 12 rfl rfl)
theorem dJ2_add_2_13 : decode cJ2_add_2 13 = .ok (.aload_n 1, 1) := dk_43 (dk_at dksJ2_add_2_0 13 rfl rfl)
theorem dJ2_add_2_14 : decode cJ2_add_2 14 = .ok (.aastore, 1) := dk_83 (dk_at dksJ2_add_2_0 14 rfl rfl)
theorem dJ2_add_2_15 : decode cJ2_add_2 15 = .ok (.aload_n 0, 1) := dk_42 (dk_at dksJ2_add_2_0 15 rfl rfl)
theorem dJ2_add_2_16 : decode cJ2_add_2 16 = .ok (.iload_n 3, 1) := dk_29 (dk_at dksJ2_add_2_0 16 rfl rfl)
theorem dJ2_add_2_17 : decode cJ2_add_2 17 = .ok (.iconst 1, 1) := dk_4 (dk_at dksJ2_add_2_0 17 rfl rfl)
theorem dJ2_add_2_18 : decode cJ2_add_2 18 = .ok (.iadd, 1) := dk_96 (dk_at dksJ2_add_2_0 18 rfl rfl)
theorem dJ2_add_2_19 : decode cJ2_add_2 19 = .ok (.putfield 48, 3) := dk_181 0 48 (dk_at dksJ2_add_2_0 19 rfl rfl)
theorem dJ2_add_2_22 : decode cJ2_add_2 22 = .ok (.return_, 1) := dk_177 (dk_at dksJ2_add_2_0 22 rfl rfl)
abbrev cJ2_grow : ByteArray := prog_44_method_7_code
def yJ2_grow : MethodName := ⟨RJ2, "grow", "()[Ljava/lang/Object;"⟩
def dkwJ2_grow_0 : List UInt8 := [42, 42, 180, 0, 48, 4, 96, 182, 0, 69, 176]
abbrev dktJ2_grow_0 : List UInt8 := dkwJ2_grow_0 ++ []
theorem dksJ2_grow_0 : cJ2_grow.data.toList.drop 0 = dktJ2_grow_0 := by decide +kernel
theorem dJ2_grow_0 : decode cJ2_grow 0 = .ok (.aload_n 0, 1) := dk_42 (dk_at dksJ2_grow_0 0 rfl rfl)
theorem dJ2_grow_1 : decode cJ2_grow 1 = .ok (.aload_n 0, 1) := dk_42 (dk_at dksJ2_grow_0 1 rfl rfl)
theorem dJ2_grow_2 : decode cJ2_grow 2 = .ok (.getfield 48, 3) := dk_180 0 48 (dk_at dksJ2_grow_0 2 rfl rfl)
theorem dJ2_grow_5 : decode cJ2_grow 5 = .ok (.iconst 1, 1) := dk_4 (dk_at dksJ2_grow_0 5 rfl rfl)
theorem dJ2_grow_6 : decode cJ2_grow 6 = .ok (.iadd, 1) := dk_96 (dk_at dksJ2_grow_0 6 rfl rfl)
theorem dJ2_grow_7 : decode cJ2_grow 7 = .ok (.invokevirtual 69, 3) := dk_182 0 69 (dk_at dksJ2_grow_0 7 rfl rfl)
theorem dJ2_grow_10 : decode cJ2_grow 10 = .ok (.areturn, 1) := dk_176 (dk_at dksJ2_grow_0 10 rfl rfl)
abbrev cJ2_grow_2 : ByteArray := prog_44_method_6_code
def yJ2_grow_2 : MethodName := ⟨RJ2, "grow", "(I)[Ljava/lang/Object;"⟩
def dkwJ2_grow_2_2 : List UInt8 := [27, 184, 0, 79, 189, 0, 7, 90, 181, 0, 9, 176]
abbrev dktJ2_grow_2_2 : List UInt8 := dkwJ2_grow_2_2 ++ []
def dkwJ2_grow_2_1 : List UInt8 := [28, 4, 122, 184, 0, 73, 62, 42, 42, 180, 0, 9, 29, 184, 0, 66, 90, 181, 0, 9, 176, 42, 16, 10]
abbrev dktJ2_grow_2_1 : List UInt8 := dkwJ2_grow_2_1 ++ dktJ2_grow_2_2
def dkwJ2_grow_2_0 : List UInt8 := [42, 180, 0, 9, 190, 61, 28, 157, 0, 13, 42, 180, 0, 9, 178, 0, 39, 165, 0, 28, 28, 27, 28, 100]
abbrev dktJ2_grow_2_0 : List UInt8 := dkwJ2_grow_2_0 ++ dktJ2_grow_2_1
theorem dksJ2_grow_2_0 : cJ2_grow_2.data.toList.drop 0 = dktJ2_grow_2_0 := by decide +kernel
theorem dksJ2_grow_2_1 : cJ2_grow_2.data.toList.drop 24 = dktJ2_grow_2_1 := dk_seg dksJ2_grow_2_0 24 rfl rfl
theorem dksJ2_grow_2_2 : cJ2_grow_2.data.toList.drop 48 = dktJ2_grow_2_2 := dk_seg dksJ2_grow_2_1 24 rfl rfl
theorem dJ2_grow_2_0 : decode cJ2_grow_2 0 = .ok (.aload_n 0, 1) := dk_42 (dk_at dksJ2_grow_2_0 0 rfl rfl)
theorem dJ2_grow_2_1 : decode cJ2_grow_2 1 = .ok (.getfield 9, 3) := dk_180 0 9 (dk_at dksJ2_grow_2_0 1 rfl rfl)
theorem dJ2_grow_2_4 : decode cJ2_grow_2 4 = .ok (.arraylength, 1) := dk_190 (dk_at dksJ2_grow_2_0 4 rfl rfl)
theorem dJ2_grow_2_5 : decode cJ2_grow_2 5 = .ok (.istore_n 2, 1) := dk_61 (dk_at dksJ2_grow_2_0 5 rfl rfl)
theorem dJ2_grow_2_6 : decode cJ2_grow_2 6 = .ok (.iload_n 2, 1) := dk_28 (dk_at dksJ2_grow_2_0 6 rfl rfl)
theorem dJ2_grow_2_7 : decode cJ2_grow_2 7 = .ok (.ifCond .gt 13, 3) := dk_157 0 13 (dk_at dksJ2_grow_2_0 7 rfl rfl)
theorem dJ2_grow_2_10 : decode cJ2_grow_2 10 = .ok (.aload_n 0, 1) := dk_42 (dk_at dksJ2_grow_2_0 10 rfl rfl)
theorem dJ2_grow_2_11 : decode cJ2_grow_2 11 = .ok (.getfield 9, 3) := dk_180 0 9 (dk_at dksJ2_grow_2_0 11 rfl rfl)
theorem dJ2_grow_2_14 : decode cJ2_grow_2 14 = .ok (.getstatic 39, 3) := dk_178 0 39 (dk_at dksJ2_grow_2_0 14 rfl rfl)
theorem dJ2_grow_2_17 : decode cJ2_grow_2 17 = .ok (.if_acmp .eq 28, 3) := dk_165 0 28 (dk_at dksJ2_grow_2_0 17 rfl rfl)
theorem dJ2_grow_2_20 : decode cJ2_grow_2 20 = .ok (.iload_n 2, 1) := dk_28 (dk_at dksJ2_grow_2_0 20 rfl rfl)
theorem dJ2_grow_2_21 : decode cJ2_grow_2 21 = .ok (.iload_n 1, 1) := dk_27 (dk_at dksJ2_grow_2_0 21 rfl rfl)
theorem dJ2_grow_2_22 : decode cJ2_grow_2 22 = .ok (.iload_n 2, 1) := dk_28 (dk_at dksJ2_grow_2_0 22 rfl rfl)
theorem dJ2_grow_2_23 : decode cJ2_grow_2 23 = .ok (.isub, 1) := dk_100 (dk_at dksJ2_grow_2_0 23 rfl rfl)
theorem dJ2_grow_2_24 : decode cJ2_grow_2 24 = .ok (.iload_n 2, 1) := dk_28 (dk_at dksJ2_grow_2_1 0 rfl rfl)
theorem dJ2_grow_2_25 : decode cJ2_grow_2 25 = .ok (.iconst 1, 1) := dk_4 (dk_at dksJ2_grow_2_1 1 rfl rfl)
theorem dJ2_grow_2_26 : decode cJ2_grow_2 26 = .ok (.ishr, 1) := dk_122 (dk_at dksJ2_grow_2_1 2 rfl rfl)
theorem dJ2_grow_2_27 : decode cJ2_grow_2 27 = .ok (.invokestatic 73, 3) := dk_184 0 73 (dk_at dksJ2_grow_2_1 3 rfl rfl)
theorem dJ2_grow_2_30 : decode cJ2_grow_2 30 = .ok (.istore_n 3, 1) := dk_62 (dk_at dksJ2_grow_2_1 6 rfl rfl)
theorem dJ2_grow_2_31 : decode cJ2_grow_2 31 = .ok (.aload_n 0, 1) := dk_42 (dk_at dksJ2_grow_2_1 7 rfl rfl)
theorem dJ2_grow_2_32 : decode cJ2_grow_2 32 = .ok (.aload_n 0, 1) := dk_42 (dk_at dksJ2_grow_2_1 8 rfl rfl)
theorem dJ2_grow_2_33 : decode cJ2_grow_2 33 = .ok (.getfield 9, 3) := dk_180 0 9 (dk_at dksJ2_grow_2_1 9 rfl rfl)
theorem dJ2_grow_2_36 : decode cJ2_grow_2 36 = .ok (.iload_n 3, 1) := dk_29 (dk_at dksJ2_grow_2_1 12 rfl rfl)
theorem dJ2_grow_2_37 : decode cJ2_grow_2 37 = .ok (.invokestatic 66, 3) := dk_184 0 66 (dk_at dksJ2_grow_2_1 13 rfl rfl)
theorem dJ2_grow_2_40 : decode cJ2_grow_2 40 = .ok (.dup_x1, 1) := dk_90 (dk_at dksJ2_grow_2_1 16 rfl rfl)
theorem dJ2_grow_2_41 : decode cJ2_grow_2 41 = .ok (.putfield 9, 3) := dk_181 0 9 (dk_at dksJ2_grow_2_1 17 rfl rfl)
theorem dJ2_grow_2_44 : decode cJ2_grow_2 44 = .ok (.areturn, 1) := dk_176 (dk_at dksJ2_grow_2_1 20 rfl rfl)
theorem dJ2_grow_2_45 : decode cJ2_grow_2 45 = .ok (.aload_n 0, 1) := dk_42 (dk_at dksJ2_grow_2_1 21 rfl rfl)
theorem dJ2_grow_2_46 : decode cJ2_grow_2 46 = .ok (.bipush 10, 2) := dk_16 10 (dk_at dksJ2_grow_2_1 22 rfl rfl)
theorem dJ2_grow_2_48 : decode cJ2_grow_2 48 = .ok (.iload_n 1, 1) := dk_27 (dk_at dksJ2_grow_2_2 0 rfl rfl)
theorem dJ2_grow_2_49 : decode cJ2_grow_2 49 = .ok (.invokestatic 79, 3) := dk_184 0 79 (dk_at dksJ2_grow_2_2 1 rfl rfl)
theorem dJ2_grow_2_52 : decode cJ2_grow_2 52 = .ok (.anewarray 7, 3) := dk_189 0 7 (dk_at dksJ2_grow_2_2 4 rfl rfl)
theorem dJ2_grow_2_55 : decode cJ2_grow_2 55 = .ok (.dup_x1, 1) := dk_90 (dk_at dksJ2_grow_2_2 7 rfl rfl)
theorem dJ2_grow_2_56 : decode cJ2_grow_2 56 = .ok (.putfield 9, 3) := dk_181 0 9 (dk_at dksJ2_grow_2_2 8 rfl rfl)
theorem dJ2_grow_2_59 : decode cJ2_grow_2 59 = .ok (.areturn, 1) := dk_176 (dk_at dksJ2_grow_2_2 11 rfl rfl)
abbrev cJ2_addAll : ByteArray := prog_44_method_41_code
def yJ2_addAll : MethodName := ⟨RJ2, "addAll", "(Ljava/util/Collection;)Z"⟩
def dkwJ2_addAll_3 : List UInt8 := [181, 0, 48, 4, 172]
abbrev dktJ2_addAll_3 : List UInt8 := dkwJ2_addAll_3 ++ []
def dkwJ2_addAll_2 : List UInt8 := [21, 5, 29, 96, 182, 0, 69, 58, 4, 44, 3, 25, 4, 21, 5, 29, 184, 0, 112, 42, 21, 5, 29, 96]
abbrev dktJ2_addAll_2 : List UInt8 := dkwJ2_addAll_2 ++ dktJ2_addAll_3
def dkwJ2_addAll_1 : List UInt8 := [3, 172, 29, 42, 180, 0, 9, 89, 58, 4, 190, 42, 180, 0, 48, 89, 54, 5, 100, 164, 0, 13, 42]
abbrev dktJ2_addAll_1 : List UInt8 := dkwJ2_addAll_1 ++ dktJ2_addAll_2
def dkwJ2_addAll_0 : List UInt8 := [43, 185, 0, 42, 1, 0, 77, 42, 89, 180, 0, 63, 4, 96, 181, 0, 63, 44, 190, 62, 29, 154, 0, 5]
abbrev dktJ2_addAll_0 : List UInt8 := dkwJ2_addAll_0 ++ dktJ2_addAll_1
theorem dksJ2_addAll_0 : cJ2_addAll.data.toList.drop 0 = dktJ2_addAll_0 := by decide +kernel
theorem dksJ2_addAll_1 : cJ2_addAll.data.toList.drop 24 = dktJ2_addAll_1 := dk_seg dksJ2_addAll_0 24 rfl rfl
theorem dksJ2_addAll_2 : cJ2_addAll.data.toList.drop 47 = dktJ2_addAll_2 := dk_seg dksJ2_addAll_1 23 rfl rfl
theorem dksJ2_addAll_3 : cJ2_addAll.data.toList.drop 71 = dktJ2_addAll_3 := dk_seg dksJ2_addAll_2 24 rfl rfl
theorem dJ2_addAll_0 : decode cJ2_addAll 0 = .ok (.aload_n 1, 1) := dk_43 (dk_at dksJ2_addAll_0 0 rfl rfl)
theorem dJ2_addAll_1 : decode cJ2_addAll 1 = .ok (.invokeinterface 42 1, 5) := by decide +kernel
theorem dJ2_addAll_6 : decode cJ2_addAll 6 = .ok (.astore_n 2, 1) := dk_77 (dk_at dksJ2_addAll_0 6 rfl rfl)
theorem dJ2_addAll_7 : decode cJ2_addAll 7 = .ok (.aload_n 0, 1) := dk_42 (dk_at dksJ2_addAll_0 7 rfl rfl)
theorem dJ2_addAll_8 : decode cJ2_addAll 8 = .ok (.dup, 1) := dk_89 (dk_at dksJ2_addAll_0 8 rfl rfl)
theorem dJ2_addAll_9 : decode cJ2_addAll 9 = .ok (.getfield 63, 3) := dk_180 0 63 (dk_at dksJ2_addAll_0 9 rfl rfl)
theorem dJ2_addAll_12 : decode cJ2_addAll 12 = .ok (.iconst 1, 1) := dk_4 (dk_at dksJ2_addAll_0 12 rfl rfl)
theorem dJ2_addAll_13 : decode cJ2_addAll 13 = .ok (.iadd, 1) := dk_96 (dk_at dksJ2_addAll_0 13 rfl rfl)
theorem dJ2_addAll_14 : decode cJ2_addAll 14 = .ok (.putfield 63, 3) := dk_181 0 63 (dk_at dksJ2_addAll_0 14 rfl rfl)
theorem dJ2_addAll_17 : decode cJ2_addAll 17 = .ok (.aload_n 2, 1) := dk_44 (dk_at dksJ2_addAll_0 17 rfl rfl)
theorem dJ2_addAll_18 : decode cJ2_addAll 18 = .ok (.arraylength, 1) := dk_190 (dk_at dksJ2_addAll_0 18 rfl rfl)
theorem dJ2_addAll_19 : decode cJ2_addAll 19 = .ok (.istore_n 3, 1) := dk_62 (dk_at dksJ2_addAll_0 19 rfl rfl)
theorem dJ2_addAll_20 : decode cJ2_addAll 20 = .ok (.iload_n 3, 1) := dk_29 (dk_at dksJ2_addAll_0 20 rfl rfl)
theorem dJ2_addAll_21 : decode cJ2_addAll 21 = .ok (.ifCond .ne 5, 3) := dk_154 0 5 (dk_at dksJ2_addAll_0 21 rfl rfl)
theorem dJ2_addAll_24 : decode cJ2_addAll 24 = .ok (.iconst 0, 1) := dk_3 (dk_at dksJ2_addAll_1 0 rfl rfl)
theorem dJ2_addAll_25 : decode cJ2_addAll 25 = .ok (.ireturn, 1) := dk_172 (dk_at dksJ2_addAll_1 1 rfl rfl)
theorem dJ2_addAll_26 : decode cJ2_addAll 26 = .ok (.iload_n 3, 1) := dk_29 (dk_at dksJ2_addAll_1 2 rfl rfl)
theorem dJ2_addAll_27 : decode cJ2_addAll 27 = .ok (.aload_n 0, 1) := dk_42 (dk_at dksJ2_addAll_1 3 rfl rfl)
theorem dJ2_addAll_28 : decode cJ2_addAll 28 = .ok (.getfield 9, 3) := dk_180 0 9 (dk_at dksJ2_addAll_1 4 rfl rfl)
theorem dJ2_addAll_31 : decode cJ2_addAll 31 = .ok (.dup, 1) := dk_89 (dk_at dksJ2_addAll_1 7 rfl rfl)
theorem dJ2_addAll_32 : decode cJ2_addAll 32 = .ok (.astore 4, 2) := dk_58 4 (dk_at dksJ2_addAll_1 8 rfl rfl)
theorem dJ2_addAll_34 : decode cJ2_addAll 34 = .ok (.arraylength, 1) := dk_190 (dk_at dksJ2_addAll_1 10 rfl rfl)
theorem dJ2_addAll_35 : decode cJ2_addAll 35 = .ok (.aload_n 0, 1) := dk_42 (dk_at dksJ2_addAll_1 11 rfl rfl)
theorem dJ2_addAll_36 : decode cJ2_addAll 36 = .ok (.getfield 48, 3) := dk_180 0 48 (dk_at dksJ2_addAll_1 12 rfl rfl)
theorem dJ2_addAll_39 : decode cJ2_addAll 39 = .ok (.dup, 1) := dk_89 (dk_at dksJ2_addAll_1 15 rfl rfl)
theorem dJ2_addAll_40 : decode cJ2_addAll 40 = .ok (.istore 5, 2) := dk_54 5 (dk_at dksJ2_addAll_1 16 rfl rfl)
theorem dJ2_addAll_42 : decode cJ2_addAll 42 = .ok (.isub, 1) := dk_100 (dk_at dksJ2_addAll_1 18 rfl rfl)
theorem dJ2_addAll_43 : decode cJ2_addAll 43 = .ok (.if_icmp .le 13, 3) := dk_164 0 13 (dk_at dksJ2_addAll_1 19 rfl rfl)
theorem dJ2_addAll_46 : decode cJ2_addAll 46 = .ok (.aload_n 0, 1) := dk_42 (dk_at dksJ2_addAll_1 22 rfl rfl)
theorem dJ2_addAll_47 : decode cJ2_addAll 47 = .ok (.iload 5, 2) := dk_21 5 (dk_at dksJ2_addAll_2 0 rfl rfl)
theorem dJ2_addAll_49 : decode cJ2_addAll 49 = .ok (.iload_n 3, 1) := dk_29 (dk_at dksJ2_addAll_2 2 rfl rfl)
theorem dJ2_addAll_50 : decode cJ2_addAll 50 = .ok (.iadd, 1) := dk_96 (dk_at dksJ2_addAll_2 3 rfl rfl)
theorem dJ2_addAll_51 : decode cJ2_addAll 51 = .ok (.invokevirtual 69, 3) := dk_182 0 69 (dk_at dksJ2_addAll_2 4 rfl rfl)
theorem dJ2_addAll_54 : decode cJ2_addAll 54 = .ok (.astore 4, 2) := dk_58 4 (dk_at dksJ2_addAll_2 7 rfl rfl)
theorem dJ2_addAll_56 : decode cJ2_addAll 56 = .ok (.aload_n 2, 1) := dk_44 (dk_at dksJ2_addAll_2 9 rfl rfl)
theorem dJ2_addAll_57 : decode cJ2_addAll 57 = .ok (.iconst 0, 1) := dk_3 (dk_at dksJ2_addAll_2 10 rfl rfl)
theorem dJ2_addAll_58 : decode cJ2_addAll 58 = .ok (.aload 4, 2) := dk_25 4 (dk_at dksJ2_addAll_2 11 rfl rfl)
theorem dJ2_addAll_60 : decode cJ2_addAll 60 = .ok (.iload 5, 2) := dk_21 5 (dk_at dksJ2_addAll_2 13 rfl rfl)
theorem dJ2_addAll_62 : decode cJ2_addAll 62 = .ok (.iload_n 3, 1) := dk_29 (dk_at dksJ2_addAll_2 15 rfl rfl)
theorem dJ2_addAll_63 : decode cJ2_addAll 63 = .ok (.invokestatic 112, 3) := dk_184 0 112 (dk_at dksJ2_addAll_2 16 rfl rfl)
theorem dJ2_addAll_66 : decode cJ2_addAll 66 = .ok (.aload_n 0, 1) := dk_42 (dk_at dksJ2_addAll_2 19 rfl rfl)
theorem dJ2_addAll_67 : decode cJ2_addAll 67 = .ok (.iload 5, 2) := dk_21 5 (dk_at dksJ2_addAll_2 20 rfl rfl)
theorem dJ2_addAll_69 : decode cJ2_addAll 69 = .ok (.iload_n 3, 1) := dk_29 (dk_at dksJ2_addAll_2 22 rfl rfl)
theorem dJ2_addAll_70 : decode cJ2_addAll 70 = .ok (.iadd, 1) := dk_96 (dk_at dksJ2_addAll_2 23 rfl rfl)
theorem dJ2_addAll_71 : decode cJ2_addAll 71 = .ok (.putfield 48, 3) := dk_181 0 48 (dk_at dksJ2_addAll_3 0 rfl rfl)
theorem dJ2_addAll_74 : decode cJ2_addAll 74 = .ok (.iconst 1, 1) := dk_4 (dk_at dksJ2_addAll_3 3 rfl rfl)
theorem dJ2_addAll_75 : decode cJ2_addAll 75 = .ok (.ireturn, 1) := dk_172 (dk_at dksJ2_addAll_3 4 rfl rfl)
abbrev cJ2_toArray : ByteArray := prog_44_method_16_code
def yJ2_toArray : MethodName := ⟨RJ2, "toArray", "()[Ljava/lang/Object;"⟩
def dkwJ2_toArray_0 : List UInt8 := [42, 180, 0, 9, 42, 180, 0, 48, 184, 0, 66, 176]
abbrev dktJ2_toArray_0 : List UInt8 := dkwJ2_toArray_0 ++ []
theorem dksJ2_toArray_0 : cJ2_toArray.data.toList.drop 0 = dktJ2_toArray_0 := by decide +kernel
theorem dJ2_toArray_0 : decode cJ2_toArray 0 = .ok (.aload_n 0, 1) := dk_42 (dk_at dksJ2_toArray_0 0 rfl rfl)
theorem dJ2_toArray_1 : decode cJ2_toArray 1 = .ok (.getfield 9, 3) := dk_180 0 9 (dk_at dksJ2_toArray_0 1 rfl rfl)
theorem dJ2_toArray_4 : decode cJ2_toArray 4 = .ok (.aload_n 0, 1) := dk_42 (dk_at dksJ2_toArray_0 4 rfl rfl)
theorem dJ2_toArray_5 : decode cJ2_toArray 5 = .ok (.getfield 48, 3) := dk_180 0 48 (dk_at dksJ2_toArray_0 5 rfl rfl)
theorem dJ2_toArray_8 : decode cJ2_toArray 8 = .ok (.invokestatic 66, 3) := dk_184 0 66 (dk_at dksJ2_toArray_0 8 rfl rfl)
theorem dJ2_toArray_11 : decode cJ2_toArray 11 = .ok (.areturn, 1) := dk_176 (dk_at dksJ2_toArray_0 11 rfl rfl)
theorem q134 : (Jvm.Cond.initialized "java/util/ArrayList") ∈ lw_all := lw_g (lw_at lw_m1 5 rfl) rfl
theorem q185 : (Jvm.Cond.instantiable "java/util/ArrayList" (3 : Nat)) ∈ lw_all := lw_g (lw_at lw_m1 56 rfl) rfl
theorem q187 : (Jvm.Cond.instanceMethod ({ cls := "java/util/ArrayList", name := "<init>", desc := "()V" } : Jvm.MethodName)) ∈ lw_all := lw_g (lw_at lw_m1 58 rfl) rfl
theorem q188 : (Jvm.Cond.code ({ cls := "java/util/ArrayList", name := "<init>", desc := "()V" } : Jvm.MethodName) prog_44_method_2_code (1 : Nat) (Option.none : Option Jvm.ClassFile.FieldType)) ∈ lw_all := lw_g (lw_at lw_m1 59 rfl) rfl
theorem q189 : (Jvm.Cond.methodLink "java/util/ArrayList" (1 : Nat) ({ cls := "java/util/AbstractList", name := "<init>", desc := "()V" } : Jvm.MethodName)) ∈ lw_all := lw_g (lw_at lw_m1 60 rfl) rfl
theorem q196 : (Jvm.Cond.fieldLink "java/util/ArrayList" (39 : Nat) "java/util/ArrayList" "DEFAULTCAPACITY_EMPTY_ELEMENTDATA" "[Ljava/lang/Object;") ∈ lw_all := lw_g (lw_at lw_m1 67 rfl) rfl
theorem q197 : (Jvm.Cond.laysStatic "java/util/ArrayList" "DEFAULTCAPACITY_EMPTY_ELEMENTDATA" "[Ljava/lang/Object;") ∈ lw_tbl := lw_at lw_m1 68 rfl
theorem q198 : (Jvm.Cond.fieldLink "java/util/ArrayList" (9 : Nat) "java/util/ArrayList" "elementData" "[Ljava/lang/Object;") ∈ lw_all := lw_g (lw_at lw_m1 69 rfl) rfl
theorem q199 : (Jvm.Cond.fieldLink "java/util/ArrayList" (48 : Nat) "java/util/ArrayList" "size" "I") ∈ lw_all := lw_g (lw_at lw_m1 70 rfl) rfl
theorem q201 : (Jvm.Cond.fieldLink "java/util/ArrayList" (63 : Nat) "java/util/ArrayList" "modCount" "I") ∈ lw_all := lw_g (lw_at lw_m1 72 rfl) rfl
theorem q202 : (Jvm.Cond.sameField "java/util/ArrayList" "java/util/AbstractList" "modCount" "I") ∈ lw_all := lw_g (lw_at lw_m1 73 rfl) rfl
theorem q203 : (Jvm.Cond.lays "java/util/ArrayList" "java/util/ArrayList" "elementData" "[Ljava/lang/Object;") ∈ lw_all := lw_g (lw_at lw_m1 74 rfl) rfl
theorem q204 : (Jvm.Cond.soleField "java/util/ArrayList" "elementData") ∈ lw_all := lw_g (lw_at lw_m1 75 rfl) rfl
theorem q205 : (Jvm.Cond.lays "java/util/ArrayList" "java/util/ArrayList" "size" "I") ∈ lw_all := lw_g (lw_at lw_m1 76 rfl) rfl
theorem q206 : (Jvm.Cond.soleField "java/util/ArrayList" "size") ∈ lw_all := lw_g (lw_at lw_m1 77 rfl) rfl
theorem q207 : (Jvm.Cond.lays "java/util/ArrayList" "java/util/AbstractList" "modCount" "I") ∈ lw_all := lw_g (lw_at lw_m1 78 rfl) rfl
theorem q209 : (Jvm.Cond.superclass "java/util/ArrayList" "java/util/AbstractList") ∈ lw_all := lw_g (lw_at lw_m1 80 rfl) rfl
theorem q501 : (Jvm.Cond.instanceMethod ({ cls := "java/util/ArrayList", name := "get", desc := "(I)Ljava/lang/Object;" } : Jvm.MethodName)) ∈ lw_all := lw_g (lw_at lw_m2 132 rfl) rfl
theorem q502 : (Jvm.Cond.selects "java/util/ArrayList" ({ cls := "java/util/ArrayList", name := "get", desc := "(I)Ljava/lang/Object;" } : Jvm.MethodName) ({ cls := "java/util/ArrayList", name := "get", desc := "(I)Ljava/lang/Object;" } : Jvm.MethodName)) ∈ lw_all := lw_g (lw_at lw_m2 133 rfl) rfl
theorem q503 : (Jvm.Cond.code ({ cls := "java/util/ArrayList", name := "get", desc := "(I)Ljava/lang/Object;" } : Jvm.MethodName) prog_44_method_20_code (2 : Nat) (Option.some (Jvm.ClassFile.FieldType.object "java/lang/Object"))) ∈ lw_all := lw_g (lw_at lw_m2 134 rfl) rfl
theorem q504 : (Jvm.Cond.methodLink "java/util/ArrayList" (118 : Nat) ({ cls := "java/util/Objects", name := "checkIndex", desc := "(II)I" } : Jvm.MethodName)) ∈ lw_all := lw_g (lw_at lw_m2 135 rfl) rfl
theorem q510 : (Jvm.Cond.methodLink "java/util/ArrayList" (123 : Nat) ({ cls := "java/util/ArrayList", name := "elementData", desc := "(I)Ljava/lang/Object;" } : Jvm.MethodName)) ∈ lw_all := lw_g (lw_at lw_m2 141 rfl) rfl
theorem q511 : (Jvm.Cond.instanceMethod ({ cls := "java/util/ArrayList", name := "elementData", desc := "(I)Ljava/lang/Object;" } : Jvm.MethodName)) ∈ lw_all := lw_g (lw_at lw_m2 142 rfl) rfl
theorem q512 : (Jvm.Cond.selects "java/util/ArrayList" ({ cls := "java/util/ArrayList", name := "elementData", desc := "(I)Ljava/lang/Object;" } : Jvm.MethodName) ({ cls := "java/util/ArrayList", name := "elementData", desc := "(I)Ljava/lang/Object;" } : Jvm.MethodName)) ∈ lw_all := lw_g (lw_at lw_m2 143 rfl) rfl
theorem q513 : (Jvm.Cond.code ({ cls := "java/util/ArrayList", name := "elementData", desc := "(I)Ljava/lang/Object;" } : Jvm.MethodName) prog_44_method_18_code (2 : Nat) (Option.some (Jvm.ClassFile.FieldType.object "java/lang/Object"))) ∈ lw_all := lw_g (lw_at lw_m2 144 rfl) rfl
theorem q715 : (Jvm.Cond.instanceMethod ({ cls := "java/util/ArrayList", name := "size", desc := "()I" } : Jvm.MethodName)) ∈ lw_all := lw_g (lw_at lw_m3 106 rfl) rfl
theorem q716 : (Jvm.Cond.selects "java/util/ArrayList" ({ cls := "java/util/ArrayList", name := "size", desc := "()I" } : Jvm.MethodName) ({ cls := "java/util/ArrayList", name := "size", desc := "()I" } : Jvm.MethodName)) ∈ lw_all := lw_g (lw_at lw_m3 107 rfl) rfl
theorem q717 : (Jvm.Cond.code ({ cls := "java/util/ArrayList", name := "size", desc := "()I" } : Jvm.MethodName) prog_44_method_8_code (1 : Nat) (Option.some Jvm.ClassFile.FieldType.int)) ∈ lw_all := lw_g (lw_at lw_m3 108 rfl) rfl
theorem q1193 : (Jvm.Cond.instanceMethod ({ cls := "java/util/ArrayList", name := "add", desc := "(Ljava/lang/Object;)Z" } : Jvm.MethodName)) ∈ lw_all := lw_g (lw_at lw_m5 104 rfl) rfl
theorem q1194 : (Jvm.Cond.selects "java/util/ArrayList" ({ cls := "java/util/ArrayList", name := "add", desc := "(Ljava/lang/Object;)Z" } : Jvm.MethodName) ({ cls := "java/util/ArrayList", name := "add", desc := "(Ljava/lang/Object;)Z" } : Jvm.MethodName)) ∈ lw_all := lw_g (lw_at lw_m5 105 rfl) rfl
theorem q1195 : (Jvm.Cond.code ({ cls := "java/util/ArrayList", name := "add", desc := "(Ljava/lang/Object;)Z" } : Jvm.MethodName) prog_44_method_25_code (2 : Nat) (Option.some Jvm.ClassFile.FieldType.boolean)) ∈ lw_all := lw_g (lw_at lw_m5 106 rfl) rfl
theorem q1196 : (Jvm.Cond.methodLink "java/util/ArrayList" (131 : Nat) ({ cls := "java/util/ArrayList", name := "add", desc := "(Ljava/lang/Object;[Ljava/lang/Object;I)V" } : Jvm.MethodName)) ∈ lw_all := lw_g (lw_at lw_m5 107 rfl) rfl
theorem q1197 : (Jvm.Cond.privateMethod ({ cls := "java/util/ArrayList", name := "add", desc := "(Ljava/lang/Object;[Ljava/lang/Object;I)V" } : Jvm.MethodName)) ∈ lw_tbl := lw_at lw_m5 108 rfl
theorem q1198 : (Jvm.Cond.instanceMethod ({ cls := "java/util/ArrayList", name := "add", desc := "(Ljava/lang/Object;[Ljava/lang/Object;I)V" } : Jvm.MethodName)) ∈ lw_all := lw_g (lw_at lw_m5 109 rfl) rfl
theorem q1199 : (Jvm.Cond.code ({ cls := "java/util/ArrayList", name := "add", desc := "(Ljava/lang/Object;[Ljava/lang/Object;I)V" } : Jvm.MethodName) prog_44_method_24_code (4 : Nat) (Option.none : Option Jvm.ClassFile.FieldType)) ∈ lw_all := lw_g (lw_at lw_m5 110 rfl) rfl
theorem q1200 : (Jvm.Cond.methodLink "java/util/ArrayList" (129 : Nat) ({ cls := "java/util/ArrayList", name := "grow", desc := "()[Ljava/lang/Object;" } : Jvm.MethodName)) ∈ lw_all := lw_g (lw_at lw_m5 111 rfl) rfl
theorem q1201 : (Jvm.Cond.privateMethod ({ cls := "java/util/ArrayList", name := "grow", desc := "()[Ljava/lang/Object;" } : Jvm.MethodName)) ∈ lw_tbl := lw_at lw_m5 112 rfl
theorem q1202 : (Jvm.Cond.instanceMethod ({ cls := "java/util/ArrayList", name := "grow", desc := "()[Ljava/lang/Object;" } : Jvm.MethodName)) ∈ lw_all := lw_g (lw_at lw_m5 113 rfl) rfl
theorem q1203 : (Jvm.Cond.code ({ cls := "java/util/ArrayList", name := "grow", desc := "()[Ljava/lang/Object;" } : Jvm.MethodName) prog_44_method_7_code (1 : Nat) (Option.some (Jvm.ClassFile.FieldType.array (Jvm.ClassFile.FieldType.object "java/lang/Object")))) ∈ lw_all := lw_g (lw_at lw_m5 114 rfl) rfl
theorem q1204 : (Jvm.Cond.methodLink "java/util/ArrayList" (69 : Nat) ({ cls := "java/util/ArrayList", name := "grow", desc := "(I)[Ljava/lang/Object;" } : Jvm.MethodName)) ∈ lw_all := lw_g (lw_at lw_m5 115 rfl) rfl
theorem q1205 : (Jvm.Cond.privateMethod ({ cls := "java/util/ArrayList", name := "grow", desc := "(I)[Ljava/lang/Object;" } : Jvm.MethodName)) ∈ lw_tbl := lw_at lw_m5 116 rfl
theorem q1206 : (Jvm.Cond.instanceMethod ({ cls := "java/util/ArrayList", name := "grow", desc := "(I)[Ljava/lang/Object;" } : Jvm.MethodName)) ∈ lw_all := lw_g (lw_at lw_m5 117 rfl) rfl
theorem q1207 : (Jvm.Cond.code ({ cls := "java/util/ArrayList", name := "grow", desc := "(I)[Ljava/lang/Object;" } : Jvm.MethodName) prog_44_method_6_code (4 : Nat) (Option.some (Jvm.ClassFile.FieldType.array (Jvm.ClassFile.FieldType.object "java/lang/Object")))) ∈ lw_all := lw_g (lw_at lw_m5 118 rfl) rfl
theorem q1208 : (Jvm.Cond.methodLink "java/util/ArrayList" (73 : Nat) ({ cls := "jdk/internal/util/ArraysSupport", name := "newLength", desc := "(III)I" } : Jvm.MethodName)) ∈ lw_all := lw_g (lw_at lw_m5 119 rfl) rfl
theorem q1218 : (Jvm.Cond.methodLink "java/util/ArrayList" (66 : Nat) ({ cls := "java/util/Arrays", name := "copyOf", desc := "([Ljava/lang/Object;I)[Ljava/lang/Object;" } : Jvm.MethodName)) ∈ lw_all := lw_g (lw_at lw_m5 129 rfl) rfl
theorem q1245 : (Jvm.Cond.selects "java/util/ArrayList" ({ cls := "java/lang/Object", name := "getClass", desc := "()Ljava/lang/Class;" } : Jvm.MethodName) ({ cls := "java/lang/Object", name := "getClass", desc := "()Ljava/lang/Class;" } : Jvm.MethodName)) ∈ lw_all := lw_g (lw_at lw_m5 156 rfl) rfl
theorem q1255 : (Jvm.Cond.methodLink "java/util/ArrayList" (79 : Nat) ({ cls := "java/lang/Math", name := "max", desc := "(II)I" } : Jvm.MethodName)) ∈ lw_all := lw_g (lw_at lw_m5 166 rfl) rfl
theorem q1256 : (Jvm.Cond.classLink "java/util/ArrayList" (7 : Nat) "java/lang/Object") ∈ lw_all := lw_g (lw_at lw_m5 167 rfl) rfl
theorem q1566 : (Jvm.Cond.instanceMethod ({ cls := "java/util/ArrayList", name := "addAll", desc := "(Ljava/util/Collection;)Z" } : Jvm.MethodName)) ∈ lw_all := lw_g (lw_at lw_m6 237 rfl) rfl
theorem q1567 : (Jvm.Cond.selects "java/util/ArrayList" ({ cls := "java/util/ArrayList", name := "addAll", desc := "(Ljava/util/Collection;)Z" } : Jvm.MethodName) ({ cls := "java/util/ArrayList", name := "addAll", desc := "(Ljava/util/Collection;)Z" } : Jvm.MethodName)) ∈ lw_all := lw_g (lw_at lw_m6 238 rfl) rfl
theorem q1568 : (Jvm.Cond.code ({ cls := "java/util/ArrayList", name := "addAll", desc := "(Ljava/util/Collection;)Z" } : Jvm.MethodName) prog_44_method_41_code (6 : Nat) (Option.some Jvm.ClassFile.FieldType.boolean)) ∈ lw_all := lw_g (lw_at lw_m6 239 rfl) rfl
theorem q1569 : (Jvm.Cond.interfaceEntry "java/util/ArrayList" (42 : Nat)) ∈ lw_tbl := lw_at lw_m7 0 rfl
theorem q1570 : (Jvm.Cond.methodLink "java/util/ArrayList" (42 : Nat) ({ cls := "java/util/Collection", name := "toArray", desc := "()[Ljava/lang/Object;" } : Jvm.MethodName)) ∈ lw_all := lw_g (lw_at lw_m7 1 rfl) rfl
theorem q1573 : (Jvm.Cond.castable "java/util/ArrayList" "java/util/Collection") ∈ lw_tbl := lw_at lw_m7 4 rfl
theorem q1574 : (Jvm.Cond.selects "java/util/ArrayList" ({ cls := "java/util/Collection", name := "toArray", desc := "()[Ljava/lang/Object;" } : Jvm.MethodName) ({ cls := "java/util/ArrayList", name := "toArray", desc := "()[Ljava/lang/Object;" } : Jvm.MethodName)) ∈ lw_all := lw_g (lw_at lw_m7 5 rfl) rfl
theorem q1575 : (Jvm.Cond.unhidden "java/util/ArrayList" "toArray" "()[Ljava/lang/Object;") ∈ lw_tbl := lw_at lw_m7 6 rfl
theorem q1576 : (Jvm.Cond.instanceMethod ({ cls := "java/util/ArrayList", name := "toArray", desc := "()[Ljava/lang/Object;" } : Jvm.MethodName)) ∈ lw_all := lw_g (lw_at lw_m7 7 rfl) rfl
theorem q1577 : (Jvm.Cond.publicMethod ({ cls := "java/util/ArrayList", name := "toArray", desc := "()[Ljava/lang/Object;" } : Jvm.MethodName)) ∈ lw_tbl := lw_at lw_m7 8 rfl
theorem q1578 : (Jvm.Cond.code ({ cls := "java/util/ArrayList", name := "toArray", desc := "()[Ljava/lang/Object;" } : Jvm.MethodName) prog_44_method_16_code (1 : Nat) (Option.some (Jvm.ClassFile.FieldType.array (Jvm.ClassFile.FieldType.object "java/lang/Object")))) ∈ lw_all := lw_g (lw_at lw_m7 9 rfl) rfl
theorem q1579 : (Jvm.Cond.methodLink "java/util/ArrayList" (112 : Nat) ({ cls := "java/lang/System", name := "arraycopy", desc := "(Ljava/lang/Object;ILjava/lang/Object;II)V" } : Jvm.MethodName)) ∈ lw_all := lw_g (lw_at lw_m7 10 rfl) rfl
theorem q2318 : (Jvm.Cond.castable "java/util/ArrayList" "java/lang/Object") ∈ lw_tbl := lw_at lw_m10 29 rfl
theorem in_J2 : ∀ w ∈ wsJ20, w ∈ lw_all := lw_in wsJ20 [207, 203, 205] (by decide +kernel) (by decide +kernel)

/-! java/lang/Math -/
set_option maxRecDepth 100000
def RJ3 : String := "java/lang/Math"
abbrev cJ3_min : ByteArray := prog_33_method_69_code
def yJ3_min : MethodName := ⟨RJ3, "min", "(II)I"⟩
def dkwJ3_min_0 : List UInt8 := [26, 27, 163, 0, 7, 26, 167, 0, 4, 27, 172]
abbrev dktJ3_min_0 : List UInt8 := dkwJ3_min_0 ++ []
theorem dksJ3_min_0 : cJ3_min.data.toList.drop 0 = dktJ3_min_0 := by decide +kernel
theorem dJ3_min_0 : decode cJ3_min 0 = .ok (.iload_n 0, 1) := dk_26 (dk_at dksJ3_min_0 0 rfl rfl)
theorem dJ3_min_1 : decode cJ3_min 1 = .ok (.iload_n 1, 1) := dk_27 (dk_at dksJ3_min_0 1 rfl rfl)
theorem dJ3_min_2 : decode cJ3_min 2 = .ok (.if_icmp .gt 7, 3) := dk_163 0 7 (dk_at dksJ3_min_0 2 rfl rfl)
theorem dJ3_min_5 : decode cJ3_min 5 = .ok (.iload_n 0, 1) := dk_26 (dk_at dksJ3_min_0 5 rfl rfl)
theorem dJ3_min_6 : decode cJ3_min 6 = .ok (.goto 4, 3) := dk_167 0 4 (dk_at dksJ3_min_0 6 rfl rfl)
theorem dJ3_min_9 : decode cJ3_min 9 = .ok (.iload_n 1, 1) := dk_27 (dk_at dksJ3_min_0 9 rfl rfl)
theorem dJ3_min_10 : decode cJ3_min 10 = .ok (.ireturn, 1) := dk_172 (dk_at dksJ3_min_0 10 rfl rfl)
abbrev cJ3_abs : ByteArray := prog_33_method_59_code
def yJ3_abs : MethodName := ⟨RJ3, "abs", "(I)I"⟩
def dkwJ3_abs_0 : List UInt8 := [26, 156, 0, 8, 26, 116, 167, 0, 4, 26, 172]
abbrev dktJ3_abs_0 : List UInt8 := dkwJ3_abs_0 ++ []
theorem dksJ3_abs_0 : cJ3_abs.data.toList.drop 0 = dktJ3_abs_0 := by decide +kernel
theorem dJ3_abs_0 : decode cJ3_abs 0 = .ok (.iload_n 0, 1) := dk_26 (dk_at dksJ3_abs_0 0 rfl rfl)
theorem dJ3_abs_1 : decode cJ3_abs 1 = .ok (.ifCond .ge 8, 3) := dk_156 0 8 (dk_at dksJ3_abs_0 1 rfl rfl)
theorem dJ3_abs_4 : decode cJ3_abs 4 = .ok (.iload_n 0, 1) := dk_26 (dk_at dksJ3_abs_0 4 rfl rfl)
theorem dJ3_abs_5 : decode cJ3_abs 5 = .ok (.ineg, 1) := dk_116 (dk_at dksJ3_abs_0 5 rfl rfl)
theorem dJ3_abs_6 : decode cJ3_abs 6 = .ok (.goto 4, 3) := dk_167 0 4 (dk_at dksJ3_abs_0 6 rfl rfl)
theorem dJ3_abs_9 : decode cJ3_abs 9 = .ok (.iload_n 0, 1) := dk_26 (dk_at dksJ3_abs_0 9 rfl rfl)
theorem dJ3_abs_10 : decode cJ3_abs 10 = .ok (.ireturn, 1) := dk_172 (dk_at dksJ3_abs_0 10 rfl rfl)
abbrev cJ3_min_2 : ByteArray := prog_33_method_70_code
def yJ3_min_2 : MethodName := ⟨RJ3, "min", "(JJ)J"⟩
def dkwJ3_min_2_0 : List UInt8 := [30, 32, 148, 157, 0, 7, 30, 167, 0, 4, 32, 173]
abbrev dktJ3_min_2_0 : List UInt8 := dkwJ3_min_2_0 ++ []
theorem dksJ3_min_2_0 : cJ3_min_2.data.toList.drop 0 = dktJ3_min_2_0 := by decide +kernel
theorem dJ3_min_2_0 : decode cJ3_min_2 0 = .ok (.lload_n 0, 1) := dk_30 (dk_at dksJ3_min_2_0 0 rfl rfl)
theorem dJ3_min_2_1 : decode cJ3_min_2 1 = .ok (.lload_n 2, 1) := dk_32 (dk_at dksJ3_min_2_0 1 rfl rfl)
theorem dJ3_min_2_2 : decode cJ3_min_2 2 = .ok (.lcmp, 1) := dk_148 (dk_at dksJ3_min_2_0 2 rfl rfl)
theorem dJ3_min_2_3 : decode cJ3_min_2 3 = .ok (.ifCond .gt 7, 3) := dk_157 0 7 (dk_at dksJ3_min_2_0 3 rfl rfl)
theorem dJ3_min_2_6 : decode cJ3_min_2 6 = .ok (.lload_n 0, 1) := dk_30 (dk_at dksJ3_min_2_0 6 rfl rfl)
theorem dJ3_min_2_7 : decode cJ3_min_2 7 = .ok (.goto 4, 3) := dk_167 0 4 (dk_at dksJ3_min_2_0 7 rfl rfl)
theorem dJ3_min_2_10 : decode cJ3_min_2 10 = .ok (.lload_n 2, 1) := dk_32 (dk_at dksJ3_min_2_0 10 rfl rfl)
theorem dJ3_min_2_11 : decode cJ3_min_2 11 = .ok (.lreturn, 1) := dk_173 (dk_at dksJ3_min_2_0 11 rfl rfl)
abbrev cJ3_max : ByteArray := prog_33_method_66_code
def yJ3_max : MethodName := ⟨RJ3, "max", "(JJ)J"⟩
def dkwJ3_max_0 : List UInt8 := [30, 32, 148, 155, 0, 7, 30, 167, 0, 4, 32, 173]
abbrev dktJ3_max_0 : List UInt8 := dkwJ3_max_0 ++ []
theorem dksJ3_max_0 : cJ3_max.data.toList.drop 0 = dktJ3_max_0 := by decide +kernel
theorem dJ3_max_0 : decode cJ3_max 0 = .ok (.lload_n 0, 1) := dk_30 (dk_at dksJ3_max_0 0 rfl rfl)
theorem dJ3_max_1 : decode cJ3_max 1 = .ok (.lload_n 2, 1) := dk_32 (dk_at dksJ3_max_0 1 rfl rfl)
theorem dJ3_max_2 : decode cJ3_max 2 = .ok (.lcmp, 1) := dk_148 (dk_at dksJ3_max_0 2 rfl rfl)
theorem dJ3_max_3 : decode cJ3_max 3 = .ok (.ifCond .lt 7, 3) := dk_155 0 7 (dk_at dksJ3_max_0 3 rfl rfl)
theorem dJ3_max_6 : decode cJ3_max 6 = .ok (.lload_n 0, 1) := dk_30 (dk_at dksJ3_max_0 6 rfl rfl)
theorem dJ3_max_7 : decode cJ3_max 7 = .ok (.goto 4, 3) := dk_167 0 4 (dk_at dksJ3_max_0 7 rfl rfl)
theorem dJ3_max_10 : decode cJ3_max 10 = .ok (.lload_n 2, 1) := dk_32 (dk_at dksJ3_max_0 10 rfl rfl)
theorem dJ3_max_11 : decode cJ3_max 11 = .ok (.lreturn, 1) := dk_173 (dk_at dksJ3_max_0 11 rfl rfl)
abbrev cJ3_max_2 : ByteArray := prog_33_method_65_code
def yJ3_max_2 : MethodName := ⟨RJ3, "max", "(II)I"⟩
def dkwJ3_max_2_0 : List UInt8 := [26, 27, 161, 0, 7, 26, 167, 0, 4, 27, 172]
abbrev dktJ3_max_2_0 : List UInt8 := dkwJ3_max_2_0 ++ []
theorem dksJ3_max_2_0 : cJ3_max_2.data.toList.drop 0 = dktJ3_max_2_0 := by decide +kernel
theorem dJ3_max_2_0 : decode cJ3_max_2 0 = .ok (.iload_n 0, 1) := dk_26 (dk_at dksJ3_max_2_0 0 rfl rfl)
theorem dJ3_max_2_1 : decode cJ3_max_2 1 = .ok (.iload_n 1, 1) := dk_27 (dk_at dksJ3_max_2_0 1 rfl rfl)
theorem dJ3_max_2_2 : decode cJ3_max_2 2 = .ok (.if_icmp .lt 7, 3) := dk_161 0 7 (dk_at dksJ3_max_2_0 2 rfl rfl)
theorem dJ3_max_2_5 : decode cJ3_max_2 5 = .ok (.iload_n 0, 1) := dk_26 (dk_at dksJ3_max_2_0 5 rfl rfl)
theorem dJ3_max_2_6 : decode cJ3_max_2 6 = .ok (.goto 4, 3) := dk_167 0 4 (dk_at dksJ3_max_2_0 6 rfl rfl)
theorem dJ3_max_2_9 : decode cJ3_max_2 9 = .ok (.iload_n 1, 1) := dk_27 (dk_at dksJ3_max_2_0 9 rfl rfl)
theorem dJ3_max_2_10 : decode cJ3_max_2 10 = .ok (.ireturn, 1) := dk_172 (dk_at dksJ3_max_2_0 10 rfl rfl)
theorem q140 : (Jvm.Cond.initialized "java/lang/Math") ∈ lw_all := lw_g (lw_at lw_m1 11 rfl) rfl
theorem q470 : (Jvm.Cond.static ({ cls := "java/lang/Math", name := "min", desc := "(II)I" } : Jvm.MethodName)) ∈ lw_all := lw_g (lw_at lw_m2 101 rfl) rfl
theorem q471 : (Jvm.Cond.code ({ cls := "java/lang/Math", name := "min", desc := "(II)I" } : Jvm.MethodName) prog_33_method_69_code (2 : Nat) (Option.some Jvm.ClassFile.FieldType.int)) ∈ lw_all := lw_g (lw_at lw_m2 102 rfl) rfl
theorem q515 : (Jvm.Cond.static ({ cls := "java/lang/Math", name := "abs", desc := "(I)I" } : Jvm.MethodName)) ∈ lw_all := lw_g (lw_at lw_m2 146 rfl) rfl
theorem q516 : (Jvm.Cond.code ({ cls := "java/lang/Math", name := "abs", desc := "(I)I" } : Jvm.MethodName) prog_33_method_59_code (1 : Nat) (Option.some Jvm.ClassFile.FieldType.int)) ∈ lw_all := lw_g (lw_at lw_m2 147 rfl) rfl
theorem q566 : (Jvm.Cond.static ({ cls := "java/lang/Math", name := "min", desc := "(JJ)J" } : Jvm.MethodName)) ∈ lw_all := lw_g (lw_at lw_m2 197 rfl) rfl
theorem q567 : (Jvm.Cond.code ({ cls := "java/lang/Math", name := "min", desc := "(JJ)J" } : Jvm.MethodName) prog_33_method_70_code (4 : Nat) (Option.some Jvm.ClassFile.FieldType.long)) ∈ lw_all := lw_g (lw_at lw_m2 198 rfl) rfl
theorem q569 : (Jvm.Cond.static ({ cls := "java/lang/Math", name := "max", desc := "(JJ)J" } : Jvm.MethodName)) ∈ lw_all := lw_g (lw_at lw_m2 200 rfl) rfl
theorem q570 : (Jvm.Cond.code ({ cls := "java/lang/Math", name := "max", desc := "(JJ)J" } : Jvm.MethodName) prog_33_method_66_code (4 : Nat) (Option.some Jvm.ClassFile.FieldType.long)) ∈ lw_all := lw_g (lw_at lw_m2 201 rfl) rfl
theorem q1212 : (Jvm.Cond.static ({ cls := "java/lang/Math", name := "max", desc := "(II)I" } : Jvm.MethodName)) ∈ lw_all := lw_g (lw_at lw_m5 123 rfl) rfl
theorem q1213 : (Jvm.Cond.code ({ cls := "java/lang/Math", name := "max", desc := "(II)I" } : Jvm.MethodName) prog_33_method_65_code (2 : Nat) (Option.some Jvm.ClassFile.FieldType.int)) ∈ lw_all := lw_g (lw_at lw_m5 124 rfl) rfl

/-! java/util/Objects -/
set_option maxRecDepth 100000
def RJ4 : String := "java/util/Objects"
abbrev cJ4_checkIndex : ByteArray := prog_48_method_17_code
def yJ4_checkIndex : MethodName := ⟨RJ4, "checkIndex", "(II)I"⟩
def dkwJ4_checkIndex_0 : List UInt8 := [26, 27, 1, 184, 0, 105, 172]
abbrev dktJ4_checkIndex_0 : List UInt8 := dkwJ4_checkIndex_0 ++ []
theorem dksJ4_checkIndex_0 : cJ4_checkIndex.data.toList.drop 0 = dktJ4_checkIndex_0 := by decide +kernel
theorem dJ4_checkIndex_0 : decode cJ4_checkIndex 0 = .ok (.iload_n 0, 1) := dk_26 (dk_at dksJ4_checkIndex_0 0 rfl rfl)
theorem dJ4_checkIndex_1 : decode cJ4_checkIndex 1 = .ok (.iload_n 1, 1) := dk_27 (dk_at dksJ4_checkIndex_0 1 rfl rfl)
theorem dJ4_checkIndex_2 : decode cJ4_checkIndex 2 = .ok (.aconst_null, 1) := dk_1 (dk_at dksJ4_checkIndex_0 2 rfl rfl)
theorem dJ4_checkIndex_3 : decode cJ4_checkIndex 3 = .ok (.invokestatic 105, 3) := dk_184 0 105 (dk_at dksJ4_checkIndex_0 3 rfl rfl)
theorem dJ4_checkIndex_6 : decode cJ4_checkIndex 6 = .ok (.ireturn, 1) := dk_172 (dk_at dksJ4_checkIndex_0 6 rfl rfl)
theorem q141 : (Jvm.Cond.initialized "java/util/Objects") ∈ lw_all := lw_g (lw_at lw_m1 12 rfl) rfl
theorem q505 : (Jvm.Cond.static ({ cls := "java/util/Objects", name := "checkIndex", desc := "(II)I" } : Jvm.MethodName)) ∈ lw_all := lw_g (lw_at lw_m2 136 rfl) rfl
theorem q506 : (Jvm.Cond.code ({ cls := "java/util/Objects", name := "checkIndex", desc := "(II)I" } : Jvm.MethodName) prog_48_method_17_code (2 : Nat) (Option.some Jvm.ClassFile.FieldType.int)) ∈ lw_all := lw_g (lw_at lw_m2 137 rfl) rfl
theorem q507 : (Jvm.Cond.methodLink "java/util/Objects" (105 : Nat) ({ cls := "jdk/internal/util/Preconditions", name := "checkIndex", desc := "(IILjava/util/function/BiFunction;)I" } : Jvm.MethodName)) ∈ lw_all := lw_g (lw_at lw_m2 138 rfl) rfl

/-! jdk/internal/util/Preconditions -/
set_option maxRecDepth 100000
def RJ5 : String := "jdk/internal/util/Preconditions"
abbrev cJ5_checkIndex : ByteArray := prog_52_method_11_code
def yJ5_checkIndex : MethodName := ⟨RJ5, "checkIndex", "(IILjava/util/function/BiFunction;)I"⟩
def dkwJ5_checkIndex_0 : List UInt8 := [26, 155, 0, 8, 26, 27, 161, 0, 10, 44, 26, 27, 184, 0, 95, 191, 26, 172]
abbrev dktJ5_checkIndex_0 : List UInt8 := dkwJ5_checkIndex_0 ++ []
theorem dksJ5_checkIndex_0 : cJ5_checkIndex.data.toList.drop 0 = dktJ5_checkIndex_0 := by decide +kernel
theorem dJ5_checkIndex_0 : decode cJ5_checkIndex 0 = .ok (.iload_n 0, 1) := dk_26 (dk_at dksJ5_checkIndex_0 0 rfl rfl)
theorem dJ5_checkIndex_1 : decode cJ5_checkIndex 1 = .ok (.ifCond .lt 8, 3) := dk_155 0 8 (dk_at dksJ5_checkIndex_0 1 rfl rfl)
theorem dJ5_checkIndex_4 : decode cJ5_checkIndex 4 = .ok (.iload_n 0, 1) := dk_26 (dk_at dksJ5_checkIndex_0 4 rfl rfl)
theorem dJ5_checkIndex_5 : decode cJ5_checkIndex 5 = .ok (.iload_n 1, 1) := dk_27 (dk_at dksJ5_checkIndex_0 5 rfl rfl)
theorem dJ5_checkIndex_6 : decode cJ5_checkIndex 6 = .ok (.if_icmp .lt 10, 3) := dk_161 0 10 (dk_at dksJ5_checkIndex_0 6 rfl rfl)
theorem dJ5_checkIndex_9 : decode cJ5_checkIndex 9 = .ok (.aload_n 2, 1) := dk_44 (dk_at dksJ5_checkIndex_0 9 rfl rfl)
theorem dJ5_checkIndex_10 : decode cJ5_checkIndex 10 = .ok (.iload_n 0, 1) := dk_26 (dk_at dksJ5_checkIndex_0 10 rfl rfl)
theorem dJ5_checkIndex_11 : decode cJ5_checkIndex 11 = .ok (.iload_n 1, 1) := dk_27 (dk_at dksJ5_checkIndex_0 11 rfl rfl)
theorem dJ5_checkIndex_12 : decode cJ5_checkIndex 12 = .ok (.invokestatic 95, 3) := dk_184 0 95 (dk_at dksJ5_checkIndex_0 12 rfl rfl)
theorem dJ5_checkIndex_15 : decode cJ5_checkIndex 15 = .ok (.athrow, 1) := dk_191 (dk_at dksJ5_checkIndex_0 15 rfl rfl)
theorem dJ5_checkIndex_16 : decode cJ5_checkIndex 16 = .ok (.iload_n 0, 1) := dk_26 (dk_at dksJ5_checkIndex_0 16 rfl rfl)
theorem dJ5_checkIndex_17 : decode cJ5_checkIndex 17 = .ok (.ireturn, 1) := dk_172 (dk_at dksJ5_checkIndex_0 17 rfl rfl)
theorem q142 : (Jvm.Cond.initialized "jdk/internal/util/Preconditions") ∈ lw_all := lw_g (lw_at lw_m1 13 rfl) rfl
theorem q508 : (Jvm.Cond.static ({ cls := "jdk/internal/util/Preconditions", name := "checkIndex", desc := "(IILjava/util/function/BiFunction;)I" } : Jvm.MethodName)) ∈ lw_all := lw_g (lw_at lw_m2 139 rfl) rfl
theorem q509 : (Jvm.Cond.code ({ cls := "jdk/internal/util/Preconditions", name := "checkIndex", desc := "(IILjava/util/function/BiFunction;)I" } : Jvm.MethodName) prog_52_method_11_code (3 : Nat) (Option.some Jvm.ClassFile.FieldType.int)) ∈ lw_all := lw_g (lw_at lw_m2 140 rfl) rfl
theorem q878 : (Jvm.Cond.laysStatic "jdk/internal/util/Preconditions" "SIOOBE_FORMATTER" "Ljava/util/function/BiFunction;") ∈ lw_tbl := lw_at lw_m4 29 rfl

/-! java/lang/Throwable -/
set_option maxRecDepth 100000
def RJ6 : String := "java/lang/Throwable"
def TJ6 : u_T := fun k => match k with
  | 0 => ("java/lang/Throwable", "cause", "Ljava/lang/Throwable;", false)
  | 1 => ("java/lang/Throwable", "stackTrace", "[Ljava/lang/StackTraceElement;", false)
  | 2 => ("java/lang/Throwable", "suppressedExceptions", "Ljava/util/List;", false)
  | 3 => ("java/lang/Throwable", "detailMessage", "Ljava/lang/String;", false)
  | _ => ("java/lang/Throwable", "backtrace", "Ljava/lang/Object;", false)
def tyJ6 : Nat → FieldType := fun k => match k with
  | 0 => .object "java/lang/Throwable"
  | 1 => .array (.object "java/lang/StackTraceElement")
  | 2 => .object "java/util/List"
  | 3 => .object "java/lang/String"
  | _ => .object "java/lang/Object"
abbrev wsJ60 : List Cond := u_ws RJ6 TJ6 5
theorem nmJ6 : ∀ a, a < 5 → ∀ b, b < 5 → a ≠ b → (TJ6 a).2.1 ≠ (TJ6 b).2.1 := by decide +kernel
theorem tyJ6_ok : ∀ k, k < 5 → parseFieldDescriptor (TJ6 k).2.2.1 = some (tyJ6 k) := by decide +kernel
abbrev cJ6_init : ByteArray := prog_39_method_2_code
def yJ6_init : MethodName := ⟨RJ6, "<init>", "(Ljava/lang/String;)V"⟩
def dkwJ6_init_1 : List UInt8 := [182, 0, 27, 87, 42, 43, 181, 0, 31, 177]
abbrev dktJ6_init_1 : List UInt8 := dkwJ6_init_1 ++ []
def dkwJ6_init_0 : List UInt8 := [42, 183, 0, 1, 42, 42, 181, 0, 7, 42, 178, 0, 13, 181, 0, 17, 42, 178, 0, 20, 181, 0, 24, 42]
abbrev dktJ6_init_0 : List UInt8 := dkwJ6_init_0 ++ dktJ6_init_1
theorem dksJ6_init_0 : cJ6_init.data.toList.drop 0 = dktJ6_init_0 := by decide +kernel
theorem dksJ6_init_1 : cJ6_init.data.toList.drop 24 = dktJ6_init_1 := dk_seg dksJ6_init_0 24 rfl rfl
theorem dJ6_init_0 : decode cJ6_init 0 = .ok (.aload_n 0, 1) := dk_42 (dk_at dksJ6_init_0 0 rfl rfl)
theorem dJ6_init_1 : decode cJ6_init 1 = .ok (.invokespecial 1, 3) := dk_183 0 1 (dk_at dksJ6_init_0 1 rfl rfl)
theorem dJ6_init_4 : decode cJ6_init 4 = .ok (.aload_n 0, 1) := dk_42 (dk_at dksJ6_init_0 4 rfl rfl)
theorem dJ6_init_5 : decode cJ6_init 5 = .ok (.aload_n 0, 1) := dk_42 (dk_at dksJ6_init_0 5 rfl rfl)
theorem dJ6_init_6 : decode cJ6_init 6 = .ok (.putfield 7, 3) := dk_181 0 7 (dk_at dksJ6_init_0 6 rfl rfl)
theorem dJ6_init_9 : decode cJ6_init 9 = .ok (.aload_n 0, 1) := dk_42 (dk_at dksJ6_init_0 9 rfl rfl)
theorem dJ6_init_10 : decode cJ6_init 10 = .ok (.getstatic 13, 3) := dk_178 0 13 (dk_at dksJ6_init_0 10 rfl rfl)
theorem dJ6_init_13 : decode cJ6_init 13 = .ok (.putfield 17, 3) := dk_181 0 17 (dk_at dksJ6_init_0 13 rfl rfl)
theorem dJ6_init_16 : decode cJ6_init 16 = .ok (.aload_n 0, 1) := dk_42 (dk_at dksJ6_init_0 16 rfl rfl)
theorem dJ6_init_17 : decode cJ6_init 17 = .ok (.getstatic 20, 3) := dk_178 0 20 (dk_at dksJ6_init_0 17 rfl rfl)
theorem dJ6_init_20 : decode cJ6_init 20 = .ok (.putfield 24, 3) := dk_181 0 24 (dk_at dksJ6_init_0 20 rfl rfl)
theorem dJ6_init_23 : decode cJ6_init 23 = .ok (.aload_n 0, 1) := dk_42 (dk_at dksJ6_init_0 23 rfl rfl)
theorem dJ6_init_24 : decode cJ6_init 24 = .ok (.invokevirtual 27, 3) := dk_182 0 27 (dk_at dksJ6_init_1 0 rfl rfl)
theorem dJ6_init_27 : decode cJ6_init 27 = .ok (.pop, 1) := dk_87 (dk_at dksJ6_init_1 3 rfl rfl)
theorem dJ6_init_28 : decode cJ6_init 28 = .ok (.aload_n 0, 1) := dk_42 (dk_at dksJ6_init_1 4 rfl rfl)
theorem dJ6_init_29 : decode cJ6_init 29 = .ok (.aload_n 1, 1) := dk_43 (dk_at dksJ6_init_1 5 rfl rfl)
theorem dJ6_init_30 : decode cJ6_init 30 = .ok (.putfield 31, 3) := dk_181 0 31 (dk_at dksJ6_init_1 6 rfl rfl)
theorem dJ6_init_33 : decode cJ6_init 33 = .ok (.return_, 1) := dk_177 (dk_at dksJ6_init_1 9 rfl rfl)
abbrev cJ6_init_2 : ByteArray := prog_39_method_1_code
def yJ6_init_2 : MethodName := ⟨RJ6, "<init>", "()V"⟩
def dkwJ6_init_2_1 : List UInt8 := [182, 0, 27, 87, 177]
abbrev dktJ6_init_2_1 : List UInt8 := dkwJ6_init_2_1 ++ []
def dkwJ6_init_2_0 : List UInt8 := [42, 183, 0, 1, 42, 42, 181, 0, 7, 42, 178, 0, 13, 181, 0, 17, 42, 178, 0, 20, 181, 0, 24, 42]
abbrev dktJ6_init_2_0 : List UInt8 := dkwJ6_init_2_0 ++ dktJ6_init_2_1
theorem dksJ6_init_2_0 : cJ6_init_2.data.toList.drop 0 = dktJ6_init_2_0 := by decide +kernel
theorem dksJ6_init_2_1 : cJ6_init_2.data.toList.drop 24 = dktJ6_init_2_1 := dk_seg dksJ6_init_2_0 24 rfl rfl
theorem dJ6_init_2_0 : decode cJ6_init_2 0 = .ok (.aload_n 0, 1) := dk_42 (dk_at dksJ6_init_2_0 0 rfl rfl)
theorem dJ6_init_2_1 : decode cJ6_init_2 1 = .ok (.invokespecial 1, 3) := dk_183 0 1 (dk_at dksJ6_init_2_0 1 rfl rfl)
theorem dJ6_init_2_4 : decode cJ6_init_2 4 = .ok (.aload_n 0, 1) := dk_42 (dk_at dksJ6_init_2_0 4 rfl rfl)
theorem dJ6_init_2_5 : decode cJ6_init_2 5 = .ok (.aload_n 0, 1) := dk_42 (dk_at dksJ6_init_2_0 5 rfl rfl)
theorem dJ6_init_2_6 : decode cJ6_init_2 6 = .ok (.putfield 7, 3) := dk_181 0 7 (dk_at dksJ6_init_2_0 6 rfl rfl)
theorem dJ6_init_2_9 : decode cJ6_init_2 9 = .ok (.aload_n 0, 1) := dk_42 (dk_at dksJ6_init_2_0 9 rfl rfl)
theorem dJ6_init_2_10 : decode cJ6_init_2 10 = .ok (.getstatic 13, 3) := dk_178 0 13 (dk_at dksJ6_init_2_0 10 rfl rfl)
theorem dJ6_init_2_13 : decode cJ6_init_2 13 = .ok (.putfield 17, 3) := dk_181 0 17 (dk_at dksJ6_init_2_0 13 rfl rfl)
theorem dJ6_init_2_16 : decode cJ6_init_2 16 = .ok (.aload_n 0, 1) := dk_42 (dk_at dksJ6_init_2_0 16 rfl rfl)
theorem dJ6_init_2_17 : decode cJ6_init_2 17 = .ok (.getstatic 20, 3) := dk_178 0 20 (dk_at dksJ6_init_2_0 17 rfl rfl)
theorem dJ6_init_2_20 : decode cJ6_init_2 20 = .ok (.putfield 24, 3) := dk_181 0 24 (dk_at dksJ6_init_2_0 20 rfl rfl)
theorem dJ6_init_2_23 : decode cJ6_init_2 23 = .ok (.aload_n 0, 1) := dk_42 (dk_at dksJ6_init_2_0 23 rfl rfl)
theorem dJ6_init_2_24 : decode cJ6_init_2 24 = .ok (.invokevirtual 27, 3) := dk_182 0 27 (dk_at dksJ6_init_2_1 0 rfl rfl)
theorem dJ6_init_2_27 : decode cJ6_init_2 27 = .ok (.pop, 1) := dk_87 (dk_at dksJ6_init_2_1 3 rfl rfl)
theorem dJ6_init_2_28 : decode cJ6_init_2 28 = .ok (.return_, 1) := dk_177 (dk_at dksJ6_init_2_1 4 rfl rfl)
abbrev cJ6_init_3 : ByteArray := prog_39_method_5_code
def yJ6_init_3 : MethodName := ⟨RJ6, "<init>", "(Ljava/lang/String;Ljava/lang/Throwable;ZZ)V"⟩
def dkwJ6_init_3_2 : List UInt8 := [44, 181, 0, 7, 29, 154, 0, 8, 42, 1, 181, 0, 24, 177]
abbrev dktJ6_init_3_2 : List UInt8 := dkwJ6_init_3_2 ++ []
def dkwJ6_init_3_1 : List UInt8 := [21, 4, 153, 0, 11, 42, 182, 0, 27, 87, 167, 0, 8, 42, 1, 181, 0, 17, 42, 43, 181, 0, 31, 42]
abbrev dktJ6_init_3_1 : List UInt8 := dkwJ6_init_3_1 ++ dktJ6_init_3_2
def dkwJ6_init_3_0 : List UInt8 := [42, 183, 0, 1, 42, 42, 181, 0, 7, 42, 178, 0, 13, 181, 0, 17, 42, 178, 0, 20, 181, 0, 24]
abbrev dktJ6_init_3_0 : List UInt8 := dkwJ6_init_3_0 ++ dktJ6_init_3_1
theorem dksJ6_init_3_0 : cJ6_init_3.data.toList.drop 0 = dktJ6_init_3_0 := by decide +kernel
theorem dksJ6_init_3_1 : cJ6_init_3.data.toList.drop 23 = dktJ6_init_3_1 := dk_seg dksJ6_init_3_0 23 rfl rfl
theorem dksJ6_init_3_2 : cJ6_init_3.data.toList.drop 47 = dktJ6_init_3_2 := dk_seg dksJ6_init_3_1 24 rfl rfl
theorem dJ6_init_3_0 : decode cJ6_init_3 0 = .ok (.aload_n 0, 1) := dk_42 (dk_at dksJ6_init_3_0 0 rfl rfl)
theorem dJ6_init_3_1 : decode cJ6_init_3 1 = .ok (.invokespecial 1, 3) := dk_183 0 1 (dk_at dksJ6_init_3_0 1 rfl rfl)
theorem dJ6_init_3_4 : decode cJ6_init_3 4 = .ok (.aload_n 0, 1) := dk_42 (dk_at dksJ6_init_3_0 4 rfl rfl)
theorem dJ6_init_3_5 : decode cJ6_init_3 5 = .ok (.aload_n 0, 1) := dk_42 (dk_at dksJ6_init_3_0 5 rfl rfl)
theorem dJ6_init_3_6 : decode cJ6_init_3 6 = .ok (.putfield 7, 3) := dk_181 0 7 (dk_at dksJ6_init_3_0 6 rfl rfl)
theorem dJ6_init_3_9 : decode cJ6_init_3 9 = .ok (.aload_n 0, 1) := dk_42 (dk_at dksJ6_init_3_0 9 rfl rfl)
theorem dJ6_init_3_10 : decode cJ6_init_3 10 = .ok (.getstatic 13, 3) := dk_178 0 13 (dk_at dksJ6_init_3_0 10 rfl rfl)
theorem dJ6_init_3_13 : decode cJ6_init_3 13 = .ok (.putfield 17, 3) := dk_181 0 17 (dk_at dksJ6_init_3_0 13 rfl rfl)
theorem dJ6_init_3_16 : decode cJ6_init_3 16 = .ok (.aload_n 0, 1) := dk_42 (dk_at dksJ6_init_3_0 16 rfl rfl)
theorem dJ6_init_3_17 : decode cJ6_init_3 17 = .ok (.getstatic 20, 3) := dk_178 0 20 (dk_at dksJ6_init_3_0 17 rfl rfl)
theorem dJ6_init_3_20 : decode cJ6_init_3 20 = .ok (.putfield 24, 3) := dk_181 0 24 (dk_at dksJ6_init_3_0 20 rfl rfl)
theorem dJ6_init_3_23 : decode cJ6_init_3 23 = .ok (.iload 4, 2) := dk_21 4 (dk_at dksJ6_init_3_1 0 rfl rfl)
theorem dJ6_init_3_25 : decode cJ6_init_3 25 = .ok (.ifCond .eq 11, 3) := dk_153 0 11 (dk_at dksJ6_init_3_1 2 rfl rfl)
theorem dJ6_init_3_28 : decode cJ6_init_3 28 = .ok (.aload_n 0, 1) := dk_42 (dk_at dksJ6_init_3_1 5 rfl rfl)
theorem dJ6_init_3_29 : decode cJ6_init_3 29 = .ok (.invokevirtual 27, 3) := dk_182 0 27 (dk_at dksJ6_init_3_1 6 rfl rfl)
theorem dJ6_init_3_32 : decode cJ6_init_3 32 = .ok (.pop, 1) := dk_87 (dk_at dksJ6_init_3_1 9 rfl rfl)
theorem dJ6_init_3_33 : decode cJ6_init_3 33 = .ok (.goto 8, 3) := dk_167 0 8 (dk_at dksJ6_init_3_1 10 rfl rfl)
theorem dJ6_init_3_36 : decode cJ6_init_3 36 = .ok (.aload_n 0, 1) := dk_42 (dk_at dksJ6_init_3_1 13 rfl rfl)
theorem dJ6_init_3_37 : decode cJ6_init_3 37 = .ok (.aconst_null, 1) := dk_1 (dk_at dksJ6_init_3_1 14 rfl rfl)
theorem dJ6_init_3_38 : decode cJ6_init_3 38 = .ok (.putfield 17, 3) := dk_181 0 17 (dk_at dksJ6_init_3_1 15 rfl rfl)
theorem dJ6_init_3_41 : decode cJ6_init_3 41 = .ok (.aload_n 0, 1) := dk_42 (dk_at dksJ6_init_3_1 18 rfl rfl)
theorem dJ6_init_3_42 : decode cJ6_init_3 42 = .ok (.aload_n 1, 1) := dk_43 (dk_at dksJ6_init_3_1 19 rfl rfl)
theorem dJ6_init_3_43 : decode cJ6_init_3 43 = .ok (.putfield 31, 3) := dk_181 0 31 (dk_at dksJ6_init_3_1 20 rfl rfl)
theorem dJ6_init_3_46 : decode cJ6_init_3 46 = .ok (.aload_n 0, 1) := dk_42 (dk_at dksJ6_init_3_1 23 rfl rfl)
theorem dJ6_init_3_47 : decode cJ6_init_3 47 = .ok (.aload_n 2, 1) := dk_44 (dk_at dksJ6_init_3_2 0 rfl rfl)
theorem dJ6_init_3_48 : decode cJ6_init_3 48 = .ok (.putfield 7, 3) := dk_181 0 7 (dk_at dksJ6_init_3_2 1 rfl rfl)
theorem dJ6_init_3_51 : decode cJ6_init_3 51 = .ok (.iload_n 3, 1) := dk_29 (dk_at dksJ6_init_3_2 4 rfl rfl)
theorem dJ6_init_3_52 : decode cJ6_init_3 52 = .ok (.ifCond .ne 8, 3) := dk_154 0 8 (dk_at dksJ6_init_3_2 5 rfl rfl)
theorem dJ6_init_3_55 : decode cJ6_init_3 55 = .ok (.aload_n 0, 1) := dk_42 (dk_at dksJ6_init_3_2 8 rfl rfl)
theorem dJ6_init_3_56 : decode cJ6_init_3 56 = .ok (.aconst_null, 1) := dk_1 (dk_at dksJ6_init_3_2 9 rfl rfl)
theorem dJ6_init_3_57 : decode cJ6_init_3 57 = .ok (.putfield 24, 3) := dk_181 0 24 (dk_at dksJ6_init_3_2 10 rfl rfl)
theorem dJ6_init_3_60 : decode cJ6_init_3 60 = .ok (.return_, 1) := dk_177 (dk_at dksJ6_init_3_2 13 rfl rfl)
theorem q143 : (Jvm.Cond.initialized "java/lang/Throwable") ∈ lw_all := lw_g (lw_at lw_m1 14 rfl) rfl
theorem q639 : (Jvm.Cond.instanceMethod ({ cls := "java/lang/Throwable", name := "<init>", desc := "(Ljava/lang/String;)V" } : Jvm.MethodName)) ∈ lw_all := lw_g (lw_at lw_m3 30 rfl) rfl
theorem q640 : (Jvm.Cond.code ({ cls := "java/lang/Throwable", name := "<init>", desc := "(Ljava/lang/String;)V" } : Jvm.MethodName) prog_39_method_2_code (2 : Nat) (Option.none : Option Jvm.ClassFile.FieldType)) ∈ lw_all := lw_g (lw_at lw_m3 31 rfl) rfl
theorem q641 : (Jvm.Cond.methodLink "java/lang/Throwable" (1 : Nat) ({ cls := "java/lang/Object", name := "<init>", desc := "()V" } : Jvm.MethodName)) ∈ lw_all := lw_g (lw_at lw_m3 32 rfl) rfl
theorem q642 : (Jvm.Cond.fieldLink "java/lang/Throwable" (13 : Nat) "java/lang/Throwable" "UNASSIGNED_STACK" "[Ljava/lang/StackTraceElement;") ∈ lw_all := lw_g (lw_at lw_m3 33 rfl) rfl
theorem q643 : (Jvm.Cond.laysStatic "java/lang/Throwable" "UNASSIGNED_STACK" "[Ljava/lang/StackTraceElement;") ∈ lw_tbl := lw_at lw_m3 34 rfl
theorem q644 : (Jvm.Cond.fieldLink "java/lang/Throwable" (20 : Nat) "java/lang/Throwable" "SUPPRESSED_SENTINEL" "Ljava/util/List;") ∈ lw_all := lw_g (lw_at lw_m3 35 rfl) rfl
theorem q645 : (Jvm.Cond.laysStatic "java/lang/Throwable" "SUPPRESSED_SENTINEL" "Ljava/util/List;") ∈ lw_tbl := lw_at lw_m3 36 rfl
theorem q646 : (Jvm.Cond.methodLink "java/lang/Throwable" (27 : Nat) ({ cls := "java/lang/Throwable", name := "fillInStackTrace", desc := "()Ljava/lang/Throwable;" } : Jvm.MethodName)) ∈ lw_all := lw_g (lw_at lw_m3 37 rfl) rfl
theorem q647 : (Jvm.Cond.instanceMethod ({ cls := "java/lang/Throwable", name := "fillInStackTrace", desc := "()Ljava/lang/Throwable;" } : Jvm.MethodName)) ∈ lw_all := lw_g (lw_at lw_m3 38 rfl) rfl
theorem q648 : (Jvm.Cond.sameMethod "java/lang/Throwable" "java/lang/Throwable" "fillInStackTrace" "()Ljava/lang/Throwable;") ∈ lw_all := lw_g (lw_at lw_m3 39 rfl) rfl
theorem q651 : (Jvm.Cond.codeSync ({ cls := "java/lang/Throwable", name := "fillInStackTrace", desc := "()Ljava/lang/Throwable;" } : Jvm.MethodName) prog_39_method_18_code (1 : Nat) (Option.some (Jvm.ClassFile.FieldType.object "java/lang/Throwable"))) ∈ lw_all := lw_g (lw_at lw_m3 42 rfl) rfl
theorem q652 : (Jvm.Cond.methodLink "java/lang/Throwable" (202 : Nat) ({ cls := "java/lang/Throwable", name := "fillInStackTrace", desc := "(I)Ljava/lang/Throwable;" } : Jvm.MethodName)) ∈ lw_all := lw_g (lw_at lw_m3 43 rfl) rfl
theorem q653 : (Jvm.Cond.privateMethod ({ cls := "java/lang/Throwable", name := "fillInStackTrace", desc := "(I)Ljava/lang/Throwable;" } : Jvm.MethodName)) ∈ lw_tbl := lw_at lw_m3 44 rfl
theorem q654 : (Jvm.Cond.instanceMethod ({ cls := "java/lang/Throwable", name := "fillInStackTrace", desc := "(I)Ljava/lang/Throwable;" } : Jvm.MethodName)) ∈ lw_all := lw_g (lw_at lw_m3 45 rfl) rfl
theorem q655 : (Jvm.Cond.instantiable "java/lang/Throwable" (6 : Nat)) ∈ lw_all := lw_g (lw_at lw_m3 46 rfl) rfl
theorem q656 : (Jvm.Cond.native ({ cls := "java/lang/Throwable", name := "fillInStackTrace", desc := "(I)Ljava/lang/Throwable;" } : Jvm.MethodName)) ∈ lw_all := lw_g (lw_at lw_m3 47 rfl) rfl
theorem q657 : (Jvm.Cond.fieldLink "java/lang/Throwable" (198 : Nat) "java/lang/Throwable" "backtrace" "Ljava/lang/Object;") ∈ lw_all := lw_g (lw_at lw_m3 48 rfl) rfl
theorem q658 : (Jvm.Cond.fieldLink "java/lang/Throwable" (31 : Nat) "java/lang/Throwable" "detailMessage" "Ljava/lang/String;") ∈ lw_all := lw_g (lw_at lw_m3 49 rfl) rfl
theorem q659 : (Jvm.Cond.fieldLink "java/lang/Throwable" (7 : Nat) "java/lang/Throwable" "cause" "Ljava/lang/Throwable;") ∈ lw_all := lw_g (lw_at lw_m3 50 rfl) rfl
theorem q660 : (Jvm.Cond.fieldLink "java/lang/Throwable" (17 : Nat) "java/lang/Throwable" "stackTrace" "[Ljava/lang/StackTraceElement;") ∈ lw_all := lw_g (lw_at lw_m3 51 rfl) rfl
theorem q661 : (Jvm.Cond.fieldLink "java/lang/Throwable" (24 : Nat) "java/lang/Throwable" "suppressedExceptions" "Ljava/util/List;") ∈ lw_all := lw_g (lw_at lw_m3 52 rfl) rfl
theorem q663 : (Jvm.Cond.soleField "java/lang/Throwable" "backtrace") ∈ lw_all := lw_g (lw_at lw_m3 54 rfl) rfl
theorem q665 : (Jvm.Cond.soleField "java/lang/Throwable" "detailMessage") ∈ lw_all := lw_g (lw_at lw_m3 56 rfl) rfl
theorem q667 : (Jvm.Cond.soleField "java/lang/Throwable" "cause") ∈ lw_all := lw_g (lw_at lw_m3 58 rfl) rfl
theorem q669 : (Jvm.Cond.soleField "java/lang/Throwable" "stackTrace") ∈ lw_all := lw_g (lw_at lw_m3 60 rfl) rfl
theorem q671 : (Jvm.Cond.soleField "java/lang/Throwable" "depth") ∈ lw_all := lw_g (lw_at lw_m3 62 rfl) rfl
theorem q673 : (Jvm.Cond.soleField "java/lang/Throwable" "suppressedExceptions") ∈ lw_all := lw_g (lw_at lw_m3 64 rfl) rfl
theorem q682 : (Jvm.Cond.declares ({ cls := "java/lang/Throwable", name := "<init>", desc := "()V" } : Jvm.MethodName)) ∈ lw_tbl := lw_at lw_m3 73 rfl
theorem q683 : (Jvm.Cond.declares ({ cls := "java/lang/Throwable", name := "<init>", desc := "(Ljava/lang/String;)V" } : Jvm.MethodName)) ∈ lw_tbl := lw_at lw_m3 74 rfl
theorem q685 : (Jvm.Cond.lays "java/lang/Throwable" "java/lang/Throwable" "cause" "Ljava/lang/Throwable;") ∈ lw_all := lw_g (lw_at lw_m3 76 rfl) rfl
theorem q686 : (Jvm.Cond.lays "java/lang/Throwable" "java/lang/Throwable" "stackTrace" "[Ljava/lang/StackTraceElement;") ∈ lw_all := lw_g (lw_at lw_m3 77 rfl) rfl
theorem q687 : (Jvm.Cond.lays "java/lang/Throwable" "java/lang/Throwable" "suppressedExceptions" "Ljava/util/List;") ∈ lw_all := lw_g (lw_at lw_m3 78 rfl) rfl
theorem q688 : (Jvm.Cond.lays "java/lang/Throwable" "java/lang/Throwable" "detailMessage" "Ljava/lang/String;") ∈ lw_all := lw_g (lw_at lw_m3 79 rfl) rfl
theorem q689 : (Jvm.Cond.lays "java/lang/Throwable" "java/lang/Throwable" "backtrace" "Ljava/lang/Object;") ∈ lw_all := lw_g (lw_at lw_m3 80 rfl) rfl
theorem q690 : (Jvm.Cond.fieldLink "java/lang/Throwable" (198 : Nat) "java/lang/Throwable" "backtrace" "Ljava/lang/Object;") ∈ lw_all := lw_g (lw_at lw_m3 81 rfl) rfl
theorem q691 : (Jvm.Cond.superclass "java/lang/Throwable" "java/lang/Object") ∈ lw_all := lw_g (lw_at lw_m3 82 rfl) rfl
theorem q692 : (Jvm.Cond.instanceMethod ({ cls := "java/lang/Throwable", name := "<init>", desc := "()V" } : Jvm.MethodName)) ∈ lw_all := lw_g (lw_at lw_m3 83 rfl) rfl
theorem q693 : (Jvm.Cond.code ({ cls := "java/lang/Throwable", name := "<init>", desc := "()V" } : Jvm.MethodName) prog_39_method_1_code (1 : Nat) (Option.none : Option Jvm.ClassFile.FieldType)) ∈ lw_all := lw_g (lw_at lw_m3 84 rfl) rfl
theorem q827 : (Jvm.Cond.instanceMethod ({ cls := "java/lang/Throwable", name := "<init>", desc := "(Ljava/lang/String;Ljava/lang/Throwable;ZZ)V" } : Jvm.MethodName)) ∈ lw_all := lw_g (lw_at lw_m3 218 rfl) rfl
theorem q828 : (Jvm.Cond.code ({ cls := "java/lang/Throwable", name := "<init>", desc := "(Ljava/lang/String;Ljava/lang/Throwable;ZZ)V" } : Jvm.MethodName) prog_39_method_5_code (5 : Nat) (Option.none : Option Jvm.ClassFile.FieldType)) ∈ lw_all := lw_g (lw_at lw_m3 219 rfl) rfl
theorem q2291 : (Jvm.Cond.sameMethod "java/lang/Throwable" "java/lang/Throwable" "fillInStackTrace" "(I)Ljava/lang/Throwable;") ∈ lw_all := lw_g (lw_at lw_m10 2 rfl) rfl
theorem q2335 : (Jvm.Cond.castable "java/lang/Throwable" "java/lang/Object") ∈ lw_tbl := lw_at lw_m10 46 rfl
theorem in_J6 : ∀ w ∈ wsJ60, w ∈ lw_all := lw_in wsJ60 [685, 686, 687, 688, 689] (by decide +kernel) (by decide +kernel)

/-! java/lang/Exception -/
set_option maxRecDepth 100000
def RJ7 : String := "java/lang/Exception"
abbrev cJ7_init : ByteArray := prog_30_method_2_code
def yJ7_init : MethodName := ⟨RJ7, "<init>", "(Ljava/lang/String;)V"⟩
def dkwJ7_init_0 : List UInt8 := [42, 43, 183, 0, 7, 177]
abbrev dktJ7_init_0 : List UInt8 := dkwJ7_init_0 ++ []
theorem dksJ7_init_0 : cJ7_init.data.toList.drop 0 = dktJ7_init_0 := by decide +kernel
theorem dJ7_init_0 : decode cJ7_init 0 = .ok (.aload_n 0, 1) := dk_42 (dk_at dksJ7_init_0 0 rfl rfl)
theorem dJ7_init_1 : decode cJ7_init 1 = .ok (.aload_n 1, 1) := dk_43 (dk_at dksJ7_init_0 1 rfl rfl)
theorem dJ7_init_2 : decode cJ7_init 2 = .ok (.invokespecial 7, 3) := dk_183 0 7 (dk_at dksJ7_init_0 2 rfl rfl)
theorem dJ7_init_5 : decode cJ7_init 5 = .ok (.return_, 1) := dk_177 (dk_at dksJ7_init_0 5 rfl rfl)
abbrev cJ7_init_2 : ByteArray := prog_30_method_5_code
def yJ7_init_2 : MethodName := ⟨RJ7, "<init>", "(Ljava/lang/String;Ljava/lang/Throwable;ZZ)V"⟩
def dkwJ7_init_2_0 : List UInt8 := [42, 43, 44, 29, 21, 4, 183, 0, 16, 177]
abbrev dktJ7_init_2_0 : List UInt8 := dkwJ7_init_2_0 ++ []
theorem dksJ7_init_2_0 : cJ7_init_2.data.toList.drop 0 = dktJ7_init_2_0 := by decide +kernel
theorem dJ7_init_2_0 : decode cJ7_init_2 0 = .ok (.aload_n 0, 1) := dk_42 (dk_at dksJ7_init_2_0 0 rfl rfl)
theorem dJ7_init_2_1 : decode cJ7_init_2 1 = .ok (.aload_n 1, 1) := dk_43 (dk_at dksJ7_init_2_0 1 rfl rfl)
theorem dJ7_init_2_2 : decode cJ7_init_2 2 = .ok (.aload_n 2, 1) := dk_44 (dk_at dksJ7_init_2_0 2 rfl rfl)
theorem dJ7_init_2_3 : decode cJ7_init_2 3 = .ok (.iload_n 3, 1) := dk_29 (dk_at dksJ7_init_2_0 3 rfl rfl)
theorem dJ7_init_2_4 : decode cJ7_init_2 4 = .ok (.iload 4, 2) := dk_21 4 (dk_at dksJ7_init_2_0 4 rfl rfl)
theorem dJ7_init_2_6 : decode cJ7_init_2 6 = .ok (.invokespecial 16, 3) := dk_183 0 16 (dk_at dksJ7_init_2_0 6 rfl rfl)
theorem dJ7_init_2_9 : decode cJ7_init_2 9 = .ok (.return_, 1) := dk_177 (dk_at dksJ7_init_2_0 9 rfl rfl)
theorem q144 : (Jvm.Cond.initialized "java/lang/Exception") ∈ lw_all := lw_g (lw_at lw_m1 15 rfl) rfl
theorem q636 : (Jvm.Cond.instanceMethod ({ cls := "java/lang/Exception", name := "<init>", desc := "(Ljava/lang/String;)V" } : Jvm.MethodName)) ∈ lw_all := lw_g (lw_at lw_m3 27 rfl) rfl
theorem q637 : (Jvm.Cond.code ({ cls := "java/lang/Exception", name := "<init>", desc := "(Ljava/lang/String;)V" } : Jvm.MethodName) prog_30_method_2_code (2 : Nat) (Option.none : Option Jvm.ClassFile.FieldType)) ∈ lw_all := lw_g (lw_at lw_m3 28 rfl) rfl
theorem q638 : (Jvm.Cond.methodLink "java/lang/Exception" (7 : Nat) ({ cls := "java/lang/Throwable", name := "<init>", desc := "(Ljava/lang/String;)V" } : Jvm.MethodName)) ∈ lw_all := lw_g (lw_at lw_m3 29 rfl) rfl
theorem q680 : (Jvm.Cond.declares ({ cls := "java/lang/Exception", name := "<init>", desc := "()V" } : Jvm.MethodName)) ∈ lw_tbl := lw_at lw_m3 71 rfl
theorem q681 : (Jvm.Cond.declares ({ cls := "java/lang/Exception", name := "<init>", desc := "(Ljava/lang/String;)V" } : Jvm.MethodName)) ∈ lw_tbl := lw_at lw_m3 72 rfl
theorem q824 : (Jvm.Cond.instanceMethod ({ cls := "java/lang/Exception", name := "<init>", desc := "(Ljava/lang/String;Ljava/lang/Throwable;ZZ)V" } : Jvm.MethodName)) ∈ lw_all := lw_g (lw_at lw_m3 215 rfl) rfl
theorem q825 : (Jvm.Cond.code ({ cls := "java/lang/Exception", name := "<init>", desc := "(Ljava/lang/String;Ljava/lang/Throwable;ZZ)V" } : Jvm.MethodName) prog_30_method_5_code (5 : Nat) (Option.none : Option Jvm.ClassFile.FieldType)) ∈ lw_all := lw_g (lw_at lw_m3 216 rfl) rfl
theorem q826 : (Jvm.Cond.methodLink "java/lang/Exception" (16 : Nat) ({ cls := "java/lang/Throwable", name := "<init>", desc := "(Ljava/lang/String;Ljava/lang/Throwable;ZZ)V" } : Jvm.MethodName)) ∈ lw_all := lw_g (lw_at lw_m3 217 rfl) rfl

/-! java/lang/RuntimeException -/
set_option maxRecDepth 100000
def RJ8 : String := "java/lang/RuntimeException"
abbrev cJ8_init : ByteArray := prog_34_method_2_code
def yJ8_init : MethodName := ⟨RJ8, "<init>", "(Ljava/lang/String;)V"⟩
def dkwJ8_init_0 : List UInt8 := [42, 43, 183, 0, 7, 177]
abbrev dktJ8_init_0 : List UInt8 := dkwJ8_init_0 ++ []
theorem dksJ8_init_0 : cJ8_init.data.toList.drop 0 = dktJ8_init_0 := by decide +kernel
theorem dJ8_init_0 : decode cJ8_init 0 = .ok (.aload_n 0, 1) := dk_42 (dk_at dksJ8_init_0 0 rfl rfl)
theorem dJ8_init_1 : decode cJ8_init 1 = .ok (.aload_n 1, 1) := dk_43 (dk_at dksJ8_init_0 1 rfl rfl)
theorem dJ8_init_2 : decode cJ8_init 2 = .ok (.invokespecial 7, 3) := dk_183 0 7 (dk_at dksJ8_init_0 2 rfl rfl)
theorem dJ8_init_5 : decode cJ8_init 5 = .ok (.return_, 1) := dk_177 (dk_at dksJ8_init_0 5 rfl rfl)
theorem q145 : (Jvm.Cond.initialized "java/lang/RuntimeException") ∈ lw_all := lw_g (lw_at lw_m1 16 rfl) rfl
theorem q633 : (Jvm.Cond.instanceMethod ({ cls := "java/lang/RuntimeException", name := "<init>", desc := "(Ljava/lang/String;)V" } : Jvm.MethodName)) ∈ lw_all := lw_g (lw_at lw_m3 24 rfl) rfl
theorem q634 : (Jvm.Cond.code ({ cls := "java/lang/RuntimeException", name := "<init>", desc := "(Ljava/lang/String;)V" } : Jvm.MethodName) prog_34_method_2_code (2 : Nat) (Option.none : Option Jvm.ClassFile.FieldType)) ∈ lw_all := lw_g (lw_at lw_m3 25 rfl) rfl
theorem q635 : (Jvm.Cond.methodLink "java/lang/RuntimeException" (7 : Nat) ({ cls := "java/lang/Exception", name := "<init>", desc := "(Ljava/lang/String;)V" } : Jvm.MethodName)) ∈ lw_all := lw_g (lw_at lw_m3 26 rfl) rfl
theorem q678 : (Jvm.Cond.declares ({ cls := "java/lang/RuntimeException", name := "<init>", desc := "()V" } : Jvm.MethodName)) ∈ lw_tbl := lw_at lw_m3 69 rfl
theorem q679 : (Jvm.Cond.declares ({ cls := "java/lang/RuntimeException", name := "<init>", desc := "(Ljava/lang/String;)V" } : Jvm.MethodName)) ∈ lw_tbl := lw_at lw_m3 70 rfl

/-! java/lang/IndexOutOfBoundsException -/
set_option maxRecDepth 100000
def RJ9 : String := "java/lang/IndexOutOfBoundsException"
abbrev cJ9_init : ByteArray := prog_31_method_2_code
def yJ9_init : MethodName := ⟨RJ9, "<init>", "(Ljava/lang/String;)V"⟩
def dkwJ9_init_0 : List UInt8 := [42, 43, 183, 0, 7, 177]
abbrev dktJ9_init_0 : List UInt8 := dkwJ9_init_0 ++ []
theorem dksJ9_init_0 : cJ9_init.data.toList.drop 0 = dktJ9_init_0 := by decide +kernel
theorem dJ9_init_0 : decode cJ9_init 0 = .ok (.aload_n 0, 1) := dk_42 (dk_at dksJ9_init_0 0 rfl rfl)
theorem dJ9_init_1 : decode cJ9_init 1 = .ok (.aload_n 1, 1) := dk_43 (dk_at dksJ9_init_0 1 rfl rfl)
theorem dJ9_init_2 : decode cJ9_init 2 = .ok (.invokespecial 7, 3) := dk_183 0 7 (dk_at dksJ9_init_0 2 rfl rfl)
theorem dJ9_init_5 : decode cJ9_init 5 = .ok (.return_, 1) := dk_177 (dk_at dksJ9_init_0 5 rfl rfl)
theorem q146 : (Jvm.Cond.initialized "java/lang/IndexOutOfBoundsException") ∈ lw_all := lw_g (lw_at lw_m1 17 rfl) rfl
theorem q630 : (Jvm.Cond.instanceMethod ({ cls := "java/lang/IndexOutOfBoundsException", name := "<init>", desc := "(Ljava/lang/String;)V" } : Jvm.MethodName)) ∈ lw_all := lw_g (lw_at lw_m3 21 rfl) rfl
theorem q631 : (Jvm.Cond.code ({ cls := "java/lang/IndexOutOfBoundsException", name := "<init>", desc := "(Ljava/lang/String;)V" } : Jvm.MethodName) prog_31_method_2_code (2 : Nat) (Option.none : Option Jvm.ClassFile.FieldType)) ∈ lw_all := lw_g (lw_at lw_m3 22 rfl) rfl
theorem q632 : (Jvm.Cond.methodLink "java/lang/IndexOutOfBoundsException" (7 : Nat) ({ cls := "java/lang/RuntimeException", name := "<init>", desc := "(Ljava/lang/String;)V" } : Jvm.MethodName)) ∈ lw_all := lw_g (lw_at lw_m3 23 rfl) rfl
theorem q676 : (Jvm.Cond.declares ({ cls := "java/lang/IndexOutOfBoundsException", name := "<init>", desc := "()V" } : Jvm.MethodName)) ∈ lw_tbl := lw_at lw_m3 67 rfl
theorem q677 : (Jvm.Cond.declares ({ cls := "java/lang/IndexOutOfBoundsException", name := "<init>", desc := "(Ljava/lang/String;)V" } : Jvm.MethodName)) ∈ lw_tbl := lw_at lw_m3 68 rfl

/-! CounterDesk$Desk -/
set_option maxRecDepth 100000
def RX1 : String := "CounterDesk$Desk"
def TX1 : u_T := fun k => match k with
  | 0 => ("CounterDesk$Desk", "laws", "Ljava/util/ArrayList;", true)
  | 1 => ("CounterDesk$Desk", "terms", "[I", true)
  | 2 => ("CounterDesk$Desk", "heard", "[[I", true)
  | 3 => ("CounterDesk$Desk", "books", "LCounterDesk$Books;", true)
  | 4 => ("CounterDesk$Desk", "notes", "I", false)
  | 5 => ("CounterDesk$Desk", "nHeard", "I", false)
  | _ => ("CounterDesk$Desk", "inForce", "I", false)
def tyX1 : Nat → FieldType := fun k => match k with
  | 0 => .object "java/util/ArrayList"
  | 1 => .array .int
  | 2 => .array (.array .int)
  | 3 => .object "CounterDesk$Books"
  | 4 => .int
  | 5 => .int
  | _ => .int
abbrev wsX10 : List Cond := u_ws RX1 TX1 7
theorem nmX1 : ∀ a, a < 7 → ∀ b, b < 7 → a ≠ b → (TX1 a).2.1 ≠ (TX1 b).2.1 := by decide +kernel
theorem tyX1_ok : ∀ k, k < 7 → parseFieldDescriptor (TX1 k).2.2.1 = some (tyX1 k) := by decide +kernel
abbrev cX1_init : ByteArray := prog_8_method_1_code
def yX1_init : MethodName := ⟨RX1, "<init>", "()V"⟩
def dkwX1_init_2 : List UInt8 := [197, 0, 22, 2, 181, 0, 24, 42, 187, 0, 27, 89, 183, 0, 29, 181, 0, 30, 42, 2, 181, 0, 34, 177]
abbrev dktX1_init_2 : List UInt8 := dkwX1_init_2 ++ []
def dkwX1_init_1 : List UInt8 := [4, 4, 79, 89, 5, 3, 79, 89, 6, 3, 79, 89, 7, 16, 24, 79, 181, 0, 18, 42, 16, 6, 5]
abbrev dktX1_init_1 : List UInt8 := dkwX1_init_1 ++ dktX1_init_2
def dkwX1_init_0 : List UInt8 := [42, 183, 0, 3, 42, 187, 0, 9, 89, 183, 0, 11, 181, 0, 12, 42, 8, 188, 10, 89, 3, 3, 79, 89]
abbrev dktX1_init_0 : List UInt8 := dkwX1_init_0 ++ dktX1_init_1
theorem dksX1_init_0 : cX1_init.data.toList.drop 0 = dktX1_init_0 := by decide +kernel
theorem dksX1_init_1 : cX1_init.data.toList.drop 24 = dktX1_init_1 := dk_seg dksX1_init_0 24 rfl rfl
theorem dksX1_init_2 : cX1_init.data.toList.drop 47 = dktX1_init_2 := dk_seg dksX1_init_1 23 rfl rfl
theorem dX1_init_0 : decode cX1_init 0 = .ok (.aload_n 0, 1) := dk_42 (dk_at dksX1_init_0 0 rfl rfl)
theorem dX1_init_1 : decode cX1_init 1 = .ok (.invokespecial 3, 3) := dk_183 0 3 (dk_at dksX1_init_0 1 rfl rfl)
theorem dX1_init_4 : decode cX1_init 4 = .ok (.aload_n 0, 1) := dk_42 (dk_at dksX1_init_0 4 rfl rfl)
theorem dX1_init_5 : decode cX1_init 5 = .ok (.new 9, 3) := dk_187 0 9 (dk_at dksX1_init_0 5 rfl rfl)
theorem dX1_init_8 : decode cX1_init 8 = .ok (.dup, 1) := dk_89 (dk_at dksX1_init_0 8 rfl rfl)
theorem dX1_init_9 : decode cX1_init 9 = .ok (.invokespecial 11, 3) := dk_183 0 11 (dk_at dksX1_init_0 9 rfl rfl)
theorem dX1_init_12 : decode cX1_init 12 = .ok (.putfield 12, 3) := dk_181 0 12 (dk_at dksX1_init_0 12 rfl rfl)
theorem dX1_init_15 : decode cX1_init 15 = .ok (.aload_n 0, 1) := dk_42 (dk_at dksX1_init_0 15 rfl rfl)
theorem dX1_init_16 : decode cX1_init 16 = .ok (.iconst 5, 1) := dk_8 (dk_at dksX1_init_0 16 rfl rfl)
theorem dX1_init_17 : decode cX1_init 17 = .ok (.newarray .int, 2) := dk_188_10 (dk_at dksX1_init_0 17 rfl rfl)
theorem dX1_init_19 : decode cX1_init 19 = .ok (.dup, 1) := dk_89 (dk_at dksX1_init_0 19 rfl rfl)
theorem dX1_init_20 : decode cX1_init 20 = .ok (.iconst 0, 1) := dk_3 (dk_at dksX1_init_0 20 rfl rfl)
theorem dX1_init_21 : decode cX1_init 21 = .ok (.iconst 0, 1) := dk_3 (dk_at dksX1_init_0 21 rfl rfl)
theorem dX1_init_22 : decode cX1_init 22 = .ok (.iastore, 1) := dk_79 (dk_at dksX1_init_0 22 rfl rfl)
theorem dX1_init_23 : decode cX1_init 23 = .ok (.dup, 1) := dk_89 (dk_at dksX1_init_0 23 rfl rfl)
theorem dX1_init_24 : decode cX1_init 24 = .ok (.iconst 1, 1) := dk_4 (dk_at dksX1_init_1 0 rfl rfl)
theorem dX1_init_25 : decode cX1_init 25 = .ok (.iconst 1, 1) := dk_4 (dk_at dksX1_init_1 1 rfl rfl)
theorem dX1_init_26 : decode cX1_init 26 = .ok (.iastore, 1) := dk_79 (dk_at dksX1_init_1 2 rfl rfl)
theorem dX1_init_27 : decode cX1_init 27 = .ok (.dup, 1) := dk_89 (dk_at dksX1_init_1 3 rfl rfl)
theorem dX1_init_28 : decode cX1_init 28 = .ok (.iconst 2, 1) := dk_5 (dk_at dksX1_init_1 4 rfl rfl)
theorem dX1_init_29 : decode cX1_init 29 = .ok (.iconst 0, 1) := dk_3 (dk_at dksX1_init_1 5 rfl rfl)
theorem dX1_init_30 : decode cX1_init 30 = .ok (.iastore, 1) := dk_79 (dk_at dksX1_init_1 6 rfl rfl)
theorem dX1_init_31 : decode cX1_init 31 = .ok (.dup, 1) := dk_89 (dk_at dksX1_init_1 7 rfl rfl)
theorem dX1_init_32 : decode cX1_init 32 = .ok (.iconst 3, 1) := dk_6 (dk_at dksX1_init_1 8 rfl rfl)
theorem dX1_init_33 : decode cX1_init 33 = .ok (.iconst 0, 1) := dk_3 (dk_at dksX1_init_1 9 rfl rfl)
theorem dX1_init_34 : decode cX1_init 34 = .ok (.iastore, 1) := dk_79 (dk_at dksX1_init_1 10 rfl rfl)
theorem dX1_init_35 : decode cX1_init 35 = .ok (.dup, 1) := dk_89 (dk_at dksX1_init_1 11 rfl rfl)
theorem dX1_init_36 : decode cX1_init 36 = .ok (.iconst 4, 1) := dk_7 (dk_at dksX1_init_1 12 rfl rfl)
theorem dX1_init_37 : decode cX1_init 37 = .ok (.bipush 24, 2) := dk_16 24 (dk_at dksX1_init_1 13 rfl rfl)
theorem dX1_init_39 : decode cX1_init 39 = .ok (.iastore, 1) := dk_79 (dk_at dksX1_init_1 15 rfl rfl)
theorem dX1_init_40 : decode cX1_init 40 = .ok (.putfield 18, 3) := dk_181 0 18 (dk_at dksX1_init_1 16 rfl rfl)
theorem dX1_init_43 : decode cX1_init 43 = .ok (.aload_n 0, 1) := dk_42 (dk_at dksX1_init_1 19 rfl rfl)
theorem dX1_init_44 : decode cX1_init 44 = .ok (.bipush 6, 2) := dk_16 6 (dk_at dksX1_init_1 20 rfl rfl)
theorem dX1_init_46 : decode cX1_init 46 = .ok (.iconst 2, 1) := dk_5 (dk_at dksX1_init_1 22 rfl rfl)
theorem dX1_init_47 : decode cX1_init 47 = .ok (.multianewarray 22 2, 4) := by decide +kernel
theorem dX1_init_51 : decode cX1_init 51 = .ok (.putfield 24, 3) := dk_181 0 24 (dk_at dksX1_init_2 4 rfl rfl)
theorem dX1_init_54 : decode cX1_init 54 = .ok (.aload_n 0, 1) := dk_42 (dk_at dksX1_init_2 7 rfl rfl)
theorem dX1_init_55 : decode cX1_init 55 = .ok (.new 27, 3) := dk_187 0 27 (dk_at dksX1_init_2 8 rfl rfl)
theorem dX1_init_58 : decode cX1_init 58 = .ok (.dup, 1) := dk_89 (dk_at dksX1_init_2 11 rfl rfl)
theorem dX1_init_59 : decode cX1_init 59 = .ok (.invokespecial 29, 3) := dk_183 0 29 (dk_at dksX1_init_2 12 rfl rfl)
theorem dX1_init_62 : decode cX1_init 62 = .ok (.putfield 30, 3) := dk_181 0 30 (dk_at dksX1_init_2 15 rfl rfl)
theorem dX1_init_65 : decode cX1_init 65 = .ok (.aload_n 0, 1) := dk_42 (dk_at dksX1_init_2 18 rfl rfl)
theorem dX1_init_66 : decode cX1_init 66 = .ok (.iconst (-1), 1) := dk_2 (dk_at dksX1_init_2 19 rfl rfl)
theorem dX1_init_67 : decode cX1_init 67 = .ok (.putfield 34, 3) := dk_181 0 34 (dk_at dksX1_init_2 20 rfl rfl)
theorem dX1_init_70 : decode cX1_init 70 = .ok (.return_, 1) := dk_177 (dk_at dksX1_init_2 23 rfl rfl)
abbrev cX1_copy : ByteArray := prog_8_method_2_code
def yX1_copy : MethodName := ⟨RX1, "copy", "()LCounterDesk$Desk;"⟩
def dkwX1_copy_4 : List UInt8 := [181, 0, 56, 43, 42, 180, 0, 34, 181, 0, 34, 43, 176]
abbrev dktX1_copy_4 : List UInt8 := dkwX1_copy_4 ++ []
def dkwX1_copy_3 : List UInt8 := [180, 0, 30, 42, 180, 0, 30, 182, 0, 49, 87, 43, 42, 180, 0, 53, 181, 0, 53, 43, 42, 180, 0, 56]
abbrev dktX1_copy_3 : List UInt8 := dkwX1_copy_3 ++ dktX1_copy_4
def dkwX1_copy_2 : List UInt8 := [180, 0, 24, 28, 50, 3, 43, 180, 0, 24, 28, 50, 3, 5, 184, 0, 43, 132, 2, 1, 167, 255, 229, 43]
abbrev dktX1_copy_2 : List UInt8 := dkwX1_copy_2 ++ dktX1_copy_3
def dkwX1_copy_1 : List UInt8 := [3, 43, 180, 0, 18, 3, 42, 180, 0, 18, 190, 184, 0, 43, 3, 61, 28, 16, 6, 162, 0, 27, 42]
abbrev dktX1_copy_1 : List UInt8 := dkwX1_copy_1 ++ dktX1_copy_2
def dkwX1_copy_0 : List UInt8 := [187, 0, 13, 89, 183, 0, 38, 76, 43, 180, 0, 12, 42, 180, 0, 12, 182, 0, 39, 87, 42, 180, 0, 18]
abbrev dktX1_copy_0 : List UInt8 := dkwX1_copy_0 ++ dktX1_copy_1
theorem dksX1_copy_0 : cX1_copy.data.toList.drop 0 = dktX1_copy_0 := by decide +kernel
theorem dksX1_copy_1 : cX1_copy.data.toList.drop 24 = dktX1_copy_1 := dk_seg dksX1_copy_0 24 rfl rfl
theorem dksX1_copy_2 : cX1_copy.data.toList.drop 47 = dktX1_copy_2 := dk_seg dksX1_copy_1 23 rfl rfl
theorem dksX1_copy_3 : cX1_copy.data.toList.drop 71 = dktX1_copy_3 := dk_seg dksX1_copy_2 24 rfl rfl
theorem dksX1_copy_4 : cX1_copy.data.toList.drop 95 = dktX1_copy_4 := dk_seg dksX1_copy_3 24 rfl rfl
theorem dX1_copy_0 : decode cX1_copy 0 = .ok (.new 13, 3) := dk_187 0 13 (dk_at dksX1_copy_0 0 rfl rfl)
theorem dX1_copy_3 : decode cX1_copy 3 = .ok (.dup, 1) := dk_89 (dk_at dksX1_copy_0 3 rfl rfl)
theorem dX1_copy_4 : decode cX1_copy 4 = .ok (.invokespecial 38, 3) := dk_183 0 38 (dk_at dksX1_copy_0 4 rfl rfl)
theorem dX1_copy_7 : decode cX1_copy 7 = .ok (.astore_n 1, 1) := dk_76 (dk_at dksX1_copy_0 7 rfl rfl)
theorem dX1_copy_8 : decode cX1_copy 8 = .ok (.aload_n 1, 1) := dk_43 (dk_at dksX1_copy_0 8 rfl rfl)
theorem dX1_copy_9 : decode cX1_copy 9 = .ok (.getfield 12, 3) := dk_180 0 12 (dk_at dksX1_copy_0 9 rfl rfl)
theorem dX1_copy_12 : decode cX1_copy 12 = .ok (.aload_n 0, 1) := dk_42 (dk_at dksX1_copy_0 12 rfl rfl)
theorem dX1_copy_13 : decode cX1_copy 13 = .ok (.getfield 12, 3) := dk_180 0 12 (dk_at dksX1_copy_0 13 rfl rfl)
theorem dX1_copy_16 : decode cX1_copy 16 = .ok (.invokevirtual 39, 3) := dk_182 0 39 (dk_at dksX1_copy_0 16 rfl rfl)
theorem dX1_copy_19 : decode cX1_copy 19 = .ok (.pop, 1) := dk_87 (dk_at dksX1_copy_0 19 rfl rfl)
theorem dX1_copy_20 : decode cX1_copy 20 = .ok (.aload_n 0, 1) := dk_42 (dk_at dksX1_copy_0 20 rfl rfl)
theorem dX1_copy_21 : decode cX1_copy 21 = .ok (.getfield 18, 3) := dk_180 0 18 (dk_at dksX1_copy_0 21 rfl rfl)
theorem dX1_copy_24 : decode cX1_copy 24 = .ok (.iconst 0, 1) := dk_3 (dk_at dksX1_copy_1 0 rfl rfl)
theorem dX1_copy_25 : decode cX1_copy 25 = .ok (.aload_n 1, 1) := dk_43 (dk_at dksX1_copy_1 1 rfl rfl)
theorem dX1_copy_26 : decode cX1_copy 26 = .ok (.getfield 18, 3) := dk_180 0 18 (dk_at dksX1_copy_1 2 rfl rfl)
theorem dX1_copy_29 : decode cX1_copy 29 = .ok (.iconst 0, 1) := dk_3 (dk_at dksX1_copy_1 5 rfl rfl)
theorem dX1_copy_30 : decode cX1_copy 30 = .ok (.aload_n 0, 1) := dk_42 (dk_at dksX1_copy_1 6 rfl rfl)
theorem dX1_copy_31 : decode cX1_copy 31 = .ok (.getfield 18, 3) := dk_180 0 18 (dk_at dksX1_copy_1 7 rfl rfl)
theorem dX1_copy_34 : decode cX1_copy 34 = .ok (.arraylength, 1) := dk_190 (dk_at dksX1_copy_1 10 rfl rfl)
theorem dX1_copy_35 : decode cX1_copy 35 = .ok (.invokestatic 43, 3) := dk_184 0 43 (dk_at dksX1_copy_1 11 rfl rfl)
theorem dX1_copy_38 : decode cX1_copy 38 = .ok (.iconst 0, 1) := dk_3 (dk_at dksX1_copy_1 14 rfl rfl)
theorem dX1_copy_39 : decode cX1_copy 39 = .ok (.istore_n 2, 1) := dk_61 (dk_at dksX1_copy_1 15 rfl rfl)
theorem dX1_copy_40 : decode cX1_copy 40 = .ok (.iload_n 2, 1) := dk_28 (dk_at dksX1_copy_1 16 rfl rfl)
theorem dX1_copy_41 : decode cX1_copy 41 = .ok (.bipush 6, 2) := dk_16 6 (dk_at dksX1_copy_1 17 rfl rfl)
theorem dX1_copy_43 : decode cX1_copy 43 = .ok (.if_icmp .ge 27, 3) := dk_162 0 27 (dk_at dksX1_copy_1 19 rfl rfl)
theorem dX1_copy_46 : decode cX1_copy 46 = .ok (.aload_n 0, 1) := dk_42 (dk_at dksX1_copy_1 22 rfl rfl)
theorem dX1_copy_47 : decode cX1_copy 47 = .ok (.getfield 24, 3) := dk_180 0 24 (dk_at dksX1_copy_2 0 rfl rfl)
theorem dX1_copy_50 : decode cX1_copy 50 = .ok (.iload_n 2, 1) := dk_28 (dk_at dksX1_copy_2 3 rfl rfl)
theorem dX1_copy_51 : decode cX1_copy 51 = .ok (.aaload, 1) := dk_50 (dk_at dksX1_copy_2 4 rfl rfl)
theorem dX1_copy_52 : decode cX1_copy 52 = .ok (.iconst 0, 1) := dk_3 (dk_at dksX1_copy_2 5 rfl rfl)
theorem dX1_copy_53 : decode cX1_copy 53 = .ok (.aload_n 1, 1) := dk_43 (dk_at dksX1_copy_2 6 rfl rfl)
theorem dX1_copy_54 : decode cX1_copy 54 = .ok (.getfield 24, 3) := dk_180 0 24 (dk_at dksX1_copy_2 7 rfl rfl)
theorem dX1_copy_57 : decode cX1_copy 57 = .ok (.iload_n 2, 1) := dk_28 (dk_at dksX1_copy_2 10 rfl rfl)
theorem dX1_copy_58 : decode cX1_copy 58 = .ok (.aaload, 1) := dk_50 (dk_at dksX1_copy_2 11 rfl rfl)
theorem dX1_copy_59 : decode cX1_copy 59 = .ok (.iconst 0, 1) := dk_3 (dk_at dksX1_copy_2 12 rfl rfl)
theorem dX1_copy_60 : decode cX1_copy 60 = .ok (.iconst 2, 1) := dk_5 (dk_at dksX1_copy_2 13 rfl rfl)
theorem dX1_copy_61 : decode cX1_copy 61 = .ok (.invokestatic 43, 3) := dk_184 0 43 (dk_at dksX1_copy_2 14 rfl rfl)
theorem dX1_copy_64 : decode cX1_copy 64 = .ok (.iinc 2 1, 3) := dk_132 2 1 (dk_at dksX1_copy_2 17 rfl rfl)
theorem dX1_copy_67 : decode cX1_copy 67 = .ok (.goto (-27), 3) := dk_167 255 229 (dk_at dksX1_copy_2 20 rfl rfl)
theorem dX1_copy_70 : decode cX1_copy 70 = .ok (.aload_n 1, 1) := dk_43 (dk_at dksX1_copy_2 23 rfl rfl)
theorem dX1_copy_71 : decode cX1_copy 71 = .ok (.getfield 30, 3) := dk_180 0 30 (dk_at dksX1_copy_3 0 rfl rfl)
theorem dX1_copy_74 : decode cX1_copy 74 = .ok (.aload_n 0, 1) := dk_42 (dk_at dksX1_copy_3 3 rfl rfl)
theorem dX1_copy_75 : decode cX1_copy 75 = .ok (.getfield 30, 3) := dk_180 0 30 (dk_at dksX1_copy_3 4 rfl rfl)
theorem dX1_copy_78 : decode cX1_copy 78 = .ok (.invokevirtual 49, 3) := dk_182 0 49 (dk_at dksX1_copy_3 7 rfl rfl)
theorem dX1_copy_81 : decode cX1_copy 81 = .ok (.pop, 1) := dk_87 (dk_at dksX1_copy_3 10 rfl rfl)
theorem dX1_copy_82 : decode cX1_copy 82 = .ok (.aload_n 1, 1) := dk_43 (dk_at dksX1_copy_3 11 rfl rfl)
theorem dX1_copy_83 : decode cX1_copy 83 = .ok (.aload_n 0, 1) := dk_42 (dk_at dksX1_copy_3 12 rfl rfl)
theorem dX1_copy_84 : decode cX1_copy 84 = .ok (.getfield 53, 3) := dk_180 0 53 (dk_at dksX1_copy_3 13 rfl rfl)
theorem dX1_copy_87 : decode cX1_copy 87 = .ok (.putfield 53, 3) := dk_181 0 53 (dk_at dksX1_copy_3 16 rfl rfl)
theorem dX1_copy_90 : decode cX1_copy 90 = .ok (.aload_n 1, 1) := dk_43 (dk_at dksX1_copy_3 19 rfl rfl)
theorem dX1_copy_91 : decode cX1_copy 91 = .ok (.aload_n 0, 1) := dk_42 (dk_at dksX1_copy_3 20 rfl rfl)
theorem dX1_copy_92 : decode cX1_copy 92 = .ok (.getfield 56, 3) := dk_180 0 56 (dk_at dksX1_copy_3 21 rfl rfl)
theorem dX1_copy_95 : decode cX1_copy 95 = .ok (.putfield 56, 3) := dk_181 0 56 (dk_at dksX1_copy_4 0 rfl rfl)
theorem dX1_copy_98 : decode cX1_copy 98 = .ok (.aload_n 1, 1) := dk_43 (dk_at dksX1_copy_4 3 rfl rfl)
theorem dX1_copy_99 : decode cX1_copy 99 = .ok (.aload_n 0, 1) := dk_42 (dk_at dksX1_copy_4 4 rfl rfl)
theorem dX1_copy_100 : decode cX1_copy 100 = .ok (.getfield 34, 3) := dk_180 0 34 (dk_at dksX1_copy_4 5 rfl rfl)
theorem dX1_copy_103 : decode cX1_copy 103 = .ok (.putfield 34, 3) := dk_181 0 34 (dk_at dksX1_copy_4 8 rfl rfl)
theorem dX1_copy_106 : decode cX1_copy 106 = .ok (.aload_n 1, 1) := dk_43 (dk_at dksX1_copy_4 11 rfl rfl)
theorem dX1_copy_107 : decode cX1_copy 107 = .ok (.areturn, 1) := dk_176 (dk_at dksX1_copy_4 12 rfl rfl)
theorem q131 : (Jvm.Cond.initialized "CounterDesk$Desk") ∈ lw_all := lw_g (lw_at lw_m1 2 rfl) rfl
theorem q179 : (Jvm.Cond.instantiable "CounterDesk$Desk" (7 : Nat)) ∈ lw_all := lw_g (lw_at lw_m1 50 rfl) rfl
theorem q181 : (Jvm.Cond.instanceMethod ({ cls := "CounterDesk$Desk", name := "<init>", desc := "()V" } : Jvm.MethodName)) ∈ lw_all := lw_g (lw_at lw_m1 52 rfl) rfl
theorem q182 : (Jvm.Cond.code ({ cls := "CounterDesk$Desk", name := "<init>", desc := "()V" } : Jvm.MethodName) prog_8_method_1_code (1 : Nat) (Option.none : Option Jvm.ClassFile.FieldType)) ∈ lw_all := lw_g (lw_at lw_m1 53 rfl) rfl
theorem q183 : (Jvm.Cond.methodLink "CounterDesk$Desk" (3 : Nat) ({ cls := "java/lang/Object", name := "<init>", desc := "()V" } : Jvm.MethodName)) ∈ lw_all := lw_g (lw_at lw_m1 54 rfl) rfl
theorem q184 : (Jvm.Cond.classLink "CounterDesk$Desk" (9 : Nat) "java/util/ArrayList") ∈ lw_all := lw_g (lw_at lw_m1 55 rfl) rfl
theorem q186 : (Jvm.Cond.methodLink "CounterDesk$Desk" (11 : Nat) ({ cls := "java/util/ArrayList", name := "<init>", desc := "()V" } : Jvm.MethodName)) ∈ lw_all := lw_g (lw_at lw_m1 57 rfl) rfl
theorem q210 : (Jvm.Cond.classLink "CounterDesk$Desk" (22 : Nat) "[[I") ∈ lw_all := lw_g (lw_at lw_m1 81 rfl) rfl
theorem q212 : (Jvm.Cond.classLink "CounterDesk$Desk" (27 : Nat) "CounterDesk$Books") ∈ lw_all := lw_g (lw_at lw_m1 83 rfl) rfl
theorem q214 : (Jvm.Cond.methodLinkNest "CounterDesk$Desk" (29 : Nat) ({ cls := "CounterDesk$Books", name := "<init>", desc := "()V" } : Jvm.MethodName) "CounterDesk") ∈ lw_tbl := lw_at lw_m1 85 rfl
theorem q240 : (Jvm.Cond.fieldLink "CounterDesk$Desk" (12 : Nat) "CounterDesk$Desk" "laws" "Ljava/util/ArrayList;") ∈ lw_all := lw_g (lw_at lw_m1 111 rfl) rfl
theorem q242 : (Jvm.Cond.fieldLink "CounterDesk$Desk" (18 : Nat) "CounterDesk$Desk" "terms" "[I") ∈ lw_all := lw_g (lw_at lw_m1 113 rfl) rfl
theorem q244 : (Jvm.Cond.fieldLink "CounterDesk$Desk" (24 : Nat) "CounterDesk$Desk" "heard" "[[I") ∈ lw_all := lw_g (lw_at lw_m1 115 rfl) rfl
theorem q246 : (Jvm.Cond.fieldLink "CounterDesk$Desk" (30 : Nat) "CounterDesk$Desk" "books" "LCounterDesk$Books;") ∈ lw_all := lw_g (lw_at lw_m1 117 rfl) rfl
theorem q248 : (Jvm.Cond.fieldLink "CounterDesk$Desk" (53 : Nat) "CounterDesk$Desk" "notes" "I") ∈ lw_all := lw_g (lw_at lw_m1 119 rfl) rfl
theorem q250 : (Jvm.Cond.fieldLink "CounterDesk$Desk" (56 : Nat) "CounterDesk$Desk" "nHeard" "I") ∈ lw_all := lw_g (lw_at lw_m1 121 rfl) rfl
theorem q252 : (Jvm.Cond.fieldLink "CounterDesk$Desk" (34 : Nat) "CounterDesk$Desk" "inForce" "I") ∈ lw_all := lw_g (lw_at lw_m1 123 rfl) rfl
theorem q254 : (Jvm.Cond.laysFinal "CounterDesk$Desk" "CounterDesk$Desk" "laws" "Ljava/util/ArrayList;") ∈ lw_all := lw_g (lw_at lw_m1 125 rfl) rfl
theorem q255 : (Jvm.Cond.soleField "CounterDesk$Desk" "laws") ∈ lw_all := lw_g (lw_at lw_m1 126 rfl) rfl
theorem q256 : (Jvm.Cond.laysFinal "CounterDesk$Desk" "CounterDesk$Desk" "terms" "[I") ∈ lw_all := lw_g (lw_at lw_m1 127 rfl) rfl
theorem q257 : (Jvm.Cond.soleField "CounterDesk$Desk" "terms") ∈ lw_all := lw_g (lw_at lw_m1 128 rfl) rfl
theorem q258 : (Jvm.Cond.laysFinal "CounterDesk$Desk" "CounterDesk$Desk" "heard" "[[I") ∈ lw_all := lw_g (lw_at lw_m1 129 rfl) rfl
theorem q259 : (Jvm.Cond.soleField "CounterDesk$Desk" "heard") ∈ lw_all := lw_g (lw_at lw_m1 130 rfl) rfl
theorem q260 : (Jvm.Cond.laysFinal "CounterDesk$Desk" "CounterDesk$Desk" "books" "LCounterDesk$Books;") ∈ lw_all := lw_g (lw_at lw_m1 131 rfl) rfl
theorem q261 : (Jvm.Cond.soleField "CounterDesk$Desk" "books") ∈ lw_all := lw_g (lw_at lw_m1 132 rfl) rfl
theorem q262 : (Jvm.Cond.lays "CounterDesk$Desk" "CounterDesk$Desk" "notes" "I") ∈ lw_all := lw_g (lw_at lw_m1 133 rfl) rfl
theorem q263 : (Jvm.Cond.soleField "CounterDesk$Desk" "notes") ∈ lw_all := lw_g (lw_at lw_m1 134 rfl) rfl
theorem q264 : (Jvm.Cond.lays "CounterDesk$Desk" "CounterDesk$Desk" "nHeard" "I") ∈ lw_all := lw_g (lw_at lw_m1 135 rfl) rfl
theorem q265 : (Jvm.Cond.soleField "CounterDesk$Desk" "nHeard") ∈ lw_all := lw_g (lw_at lw_m1 136 rfl) rfl
theorem q266 : (Jvm.Cond.lays "CounterDesk$Desk" "CounterDesk$Desk" "inForce" "I") ∈ lw_all := lw_g (lw_at lw_m1 137 rfl) rfl
theorem q267 : (Jvm.Cond.soleField "CounterDesk$Desk" "inForce") ∈ lw_all := lw_g (lw_at lw_m1 138 rfl) rfl
theorem q268 : (Jvm.Cond.superclass "CounterDesk$Desk" "java/lang/Object") ∈ lw_all := lw_g (lw_at lw_m1 139 rfl) rfl
theorem q1231 : (Jvm.Cond.selects "CounterDesk$Desk" ({ cls := "java/lang/Object", name := "getClass", desc := "()Ljava/lang/Class;" } : Jvm.MethodName) ({ cls := "java/lang/Object", name := "getClass", desc := "()Ljava/lang/Class;" } : Jvm.MethodName)) ∈ lw_all := lw_g (lw_at lw_m5 142 rfl) rfl
theorem q1560 : (Jvm.Cond.instanceMethod ({ cls := "CounterDesk$Desk", name := "copy", desc := "()LCounterDesk$Desk;" } : Jvm.MethodName)) ∈ lw_all := lw_g (lw_at lw_m6 231 rfl) rfl
theorem q1561 : (Jvm.Cond.selects "CounterDesk$Desk" ({ cls := "CounterDesk$Desk", name := "copy", desc := "()LCounterDesk$Desk;" } : Jvm.MethodName) ({ cls := "CounterDesk$Desk", name := "copy", desc := "()LCounterDesk$Desk;" } : Jvm.MethodName)) ∈ lw_all := lw_g (lw_at lw_m6 232 rfl) rfl
theorem q1562 : (Jvm.Cond.code ({ cls := "CounterDesk$Desk", name := "copy", desc := "()LCounterDesk$Desk;" } : Jvm.MethodName) prog_8_method_2_code (3 : Nat) (Option.some (Jvm.ClassFile.FieldType.object "CounterDesk$Desk"))) ∈ lw_all := lw_g (lw_at lw_m6 233 rfl) rfl
theorem q1563 : (Jvm.Cond.classLink "CounterDesk$Desk" (13 : Nat) "CounterDesk$Desk") ∈ lw_all := lw_g (lw_at lw_m6 234 rfl) rfl
theorem q1564 : (Jvm.Cond.methodLink "CounterDesk$Desk" (38 : Nat) ({ cls := "CounterDesk$Desk", name := "<init>", desc := "()V" } : Jvm.MethodName)) ∈ lw_all := lw_g (lw_at lw_m6 235 rfl) rfl
theorem q1565 : (Jvm.Cond.methodLink "CounterDesk$Desk" (39 : Nat) ({ cls := "java/util/ArrayList", name := "addAll", desc := "(Ljava/util/Collection;)Z" } : Jvm.MethodName)) ∈ lw_all := lw_g (lw_at lw_m6 236 rfl) rfl
theorem q1580 : (Jvm.Cond.methodLink "CounterDesk$Desk" (43 : Nat) ({ cls := "java/lang/System", name := "arraycopy", desc := "(Ljava/lang/Object;ILjava/lang/Object;II)V" } : Jvm.MethodName)) ∈ lw_all := lw_g (lw_at lw_m7 11 rfl) rfl
theorem q1581 : (Jvm.Cond.methodLink "CounterDesk$Desk" (49 : Nat) ({ cls := "CounterDesk$Books", name := "as", desc := "(LCounterDesk$Books;)LCounterDesk$Books;" } : Jvm.MethodName)) ∈ lw_all := lw_g (lw_at lw_m7 12 rfl) rfl
theorem q2311 : (Jvm.Cond.castable "CounterDesk$Desk" "java/lang/Object") ∈ lw_tbl := lw_at lw_m10 22 rfl
theorem in_X1 : ∀ w ∈ wsX10, w ∈ lw_all := lw_in wsX10 [254, 256, 258, 260, 262, 264, 266] (by decide +kernel) (by decide +kernel)

/-! CounterDesk$Sum -/
set_option maxRecDepth 100000
def RX10 : String := "CounterDesk$Sum"
abbrev cX10_init : ByteArray := prog_19_method_1_code
def yX10_init : MethodName := ⟨RX10, "<init>", "()V"⟩
theorem dX10_init_0 : decode cX10_init 0 = .ok (.aload_n 0, 1) := by decide +kernel
theorem dX10_init_1 : decode cX10_init 1 = .ok (.invokespecial 1, 3) := by decide +kernel
theorem dX10_init_4 : decode cX10_init 4 = .ok (.return_, 1) := by decide +kernel
theorem q155 : (Jvm.Cond.initialized "CounterDesk$Sum") ∈ lw_all := lw_g (lw_at lw_m1 26 rfl) rfl
theorem q532 : (Jvm.Cond.declares ({ cls := "CounterDesk$Sum", name := "of", desc := "(LCounterDesk$Asked;)J" } : Jvm.MethodName)) ∈ lw_tbl := lw_at lw_m2 163 rfl
theorem q533 : (Jvm.Cond.sameMethod "CounterDesk$Sum" "CounterDesk$Sum" "of" "(LCounterDesk$Asked;)J") ∈ lw_all := lw_g (lw_at lw_m2 164 rfl) rfl
theorem q955 : (Jvm.Cond.instanceMethod ({ cls := "CounterDesk$Sum", name := "<init>", desc := "()V" } : Jvm.MethodName)) ∈ lw_all := lw_g (lw_at lw_m4 106 rfl) rfl
theorem q956 : (Jvm.Cond.code ({ cls := "CounterDesk$Sum", name := "<init>", desc := "()V" } : Jvm.MethodName) prog_19_method_1_code (1 : Nat) (Option.none : Option Jvm.ClassFile.FieldType)) ∈ lw_all := lw_g (lw_at lw_m4 107 rfl) rfl
theorem q957 : (Jvm.Cond.methodLink "CounterDesk$Sum" (1 : Nat) ({ cls := "java/lang/Object", name := "<init>", desc := "()V" } : Jvm.MethodName)) ∈ lw_all := lw_g (lw_at lw_m4 108 rfl) rfl

/-! CounterDesk$Amount -/
set_option maxRecDepth 100000
def RX11 : String := "CounterDesk$Amount"
def TX11 : u_T := fun k => match k with
  | _ => ("CounterDesk$Amount", "number", "I", true)
def tyX11 : Nat → FieldType := fun k => match k with
  | _ => .int
abbrev wsX110 : List Cond := u_ws RX11 TX11 1
theorem nmX11 : ∀ a, a < 1 → ∀ b, b < 1 → a ≠ b → (TX11 a).2.1 ≠ (TX11 b).2.1 := by decide +kernel
theorem tyX11_ok : ∀ k, k < 1 → parseFieldDescriptor (TX11 k).2.2.1 = some (tyX11 k) := by decide +kernel
abbrev cX11_of : ByteArray := prog_3_method_2_code
def yX11_of : MethodName := ⟨RX11, "of", "(LCounterDesk$Asked;)J"⟩
def dkwX11_of_0 : List UInt8 := [42, 180, 0, 7, 133, 173]
abbrev dktX11_of_0 : List UInt8 := dkwX11_of_0 ++ []
theorem dksX11_of_0 : cX11_of.data.toList.drop 0 = dktX11_of_0 := by decide +kernel
theorem dX11_of_0 : decode cX11_of 0 = .ok (.aload_n 0, 1) := dk_42 (dk_at dksX11_of_0 0 rfl rfl)
theorem dX11_of_1 : decode cX11_of 1 = .ok (.getfield 7, 3) := dk_180 0 7 (dk_at dksX11_of_0 1 rfl rfl)
theorem dX11_of_4 : decode cX11_of 4 = .ok (.i2l, 1) := dk_133 (dk_at dksX11_of_0 4 rfl rfl)
theorem dX11_of_5 : decode cX11_of 5 = .ok (.lreturn, 1) := dk_173 (dk_at dksX11_of_0 5 rfl rfl)
abbrev cX11_init : ByteArray := prog_3_method_1_code
def yX11_init : MethodName := ⟨RX11, "<init>", "(I)V"⟩
def dkwX11_init_0 : List UInt8 := [42, 183, 0, 1, 42, 27, 181, 0, 7, 177]
abbrev dktX11_init_0 : List UInt8 := dkwX11_init_0 ++ []
theorem dksX11_init_0 : cX11_init.data.toList.drop 0 = dktX11_init_0 := by decide +kernel
theorem dX11_init_0 : decode cX11_init 0 = .ok (.aload_n 0, 1) := dk_42 (dk_at dksX11_init_0 0 rfl rfl)
theorem dX11_init_1 : decode cX11_init 1 = .ok (.invokespecial 1, 3) := dk_183 0 1 (dk_at dksX11_init_0 1 rfl rfl)
theorem dX11_init_4 : decode cX11_init 4 = .ok (.aload_n 0, 1) := dk_42 (dk_at dksX11_init_0 4 rfl rfl)
theorem dX11_init_5 : decode cX11_init 5 = .ok (.iload_n 1, 1) := dk_27 (dk_at dksX11_init_0 5 rfl rfl)
theorem dX11_init_6 : decode cX11_init 6 = .ok (.putfield 7, 3) := dk_181 0 7 (dk_at dksX11_init_0 6 rfl rfl)
theorem dX11_init_9 : decode cX11_init 9 = .ok (.return_, 1) := dk_177 (dk_at dksX11_init_0 9 rfl rfl)
theorem q156 : (Jvm.Cond.initialized "CounterDesk$Amount") ∈ lw_all := lw_g (lw_at lw_m1 27 rfl) rfl
theorem q534 : (Jvm.Cond.selects "CounterDesk$Amount" ({ cls := "CounterDesk$Sum", name := "of", desc := "(LCounterDesk$Asked;)J" } : Jvm.MethodName) ({ cls := "CounterDesk$Amount", name := "of", desc := "(LCounterDesk$Asked;)J" } : Jvm.MethodName)) ∈ lw_all := lw_g (lw_at lw_m2 165 rfl) rfl
theorem q535 : (Jvm.Cond.instanceMethod ({ cls := "CounterDesk$Amount", name := "of", desc := "(LCounterDesk$Asked;)J" } : Jvm.MethodName)) ∈ lw_all := lw_g (lw_at lw_m2 166 rfl) rfl
theorem q536 : (Jvm.Cond.code ({ cls := "CounterDesk$Amount", name := "of", desc := "(LCounterDesk$Asked;)J" } : Jvm.MethodName) prog_3_method_2_code (2 : Nat) (Option.some Jvm.ClassFile.FieldType.long)) ∈ lw_all := lw_g (lw_at lw_m2 167 rfl) rfl
theorem q944 : (Jvm.Cond.instantiable "CounterDesk$Amount" (1 : Nat)) ∈ lw_all := lw_g (lw_at lw_m4 95 rfl) rfl
theorem q952 : (Jvm.Cond.instanceMethod ({ cls := "CounterDesk$Amount", name := "<init>", desc := "(I)V" } : Jvm.MethodName)) ∈ lw_all := lw_g (lw_at lw_m4 103 rfl) rfl
theorem q953 : (Jvm.Cond.code ({ cls := "CounterDesk$Amount", name := "<init>", desc := "(I)V" } : Jvm.MethodName) prog_3_method_1_code (2 : Nat) (Option.none : Option Jvm.ClassFile.FieldType)) ∈ lw_all := lw_g (lw_at lw_m4 104 rfl) rfl
theorem q954 : (Jvm.Cond.methodLinkNest "CounterDesk$Amount" (1 : Nat) ({ cls := "CounterDesk$Sum", name := "<init>", desc := "()V" } : Jvm.MethodName) "CounterDesk") ∈ lw_tbl := lw_at lw_m4 105 rfl
theorem q958 : (Jvm.Cond.fieldLink "CounterDesk$Amount" (7 : Nat) "CounterDesk$Amount" "number" "I") ∈ lw_all := lw_g (lw_at lw_m4 109 rfl) rfl
theorem q959 : (Jvm.Cond.laysFinal "CounterDesk$Amount" "CounterDesk$Amount" "number" "I") ∈ lw_all := lw_g (lw_at lw_m4 110 rfl) rfl
theorem q960 : (Jvm.Cond.soleField "CounterDesk$Amount" "number") ∈ lw_all := lw_g (lw_at lw_m4 111 rfl) rfl
theorem q961 : (Jvm.Cond.superclass "CounterDesk$Amount" "CounterDesk$Sum") ∈ lw_all := lw_g (lw_at lw_m4 112 rfl) rfl
theorem q1226 : (Jvm.Cond.selects "CounterDesk$Amount" ({ cls := "java/lang/Object", name := "getClass", desc := "()Ljava/lang/Class;" } : Jvm.MethodName) ({ cls := "java/lang/Object", name := "getClass", desc := "()Ljava/lang/Class;" } : Jvm.MethodName)) ∈ lw_all := lw_g (lw_at lw_m5 137 rfl) rfl
theorem q2326 : (Jvm.Cond.castable "CounterDesk$Amount" "java/lang/Object") ∈ lw_tbl := lw_at lw_m10 37 rfl
theorem in_X11 : ∀ w ∈ wsX110, w ∈ lw_all := lw_in wsX110 [959] (by decide +kernel) (by decide +kernel)

/-! CounterDesk$Part -/
set_option maxRecDepth 100000
def RX12 : String := "CounterDesk$Part"
def TX12 : u_T := fun k => match k with
  | _ => ("CounterDesk$Part", "what", "I", true)
def tyX12 : Nat → FieldType := fun k => match k with
  | _ => .int
abbrev wsX120 : List Cond := u_ws RX12 TX12 1
theorem nmX12 : ∀ a, a < 1 → ∀ b, b < 1 → a ≠ b → (TX12 a).2.1 ≠ (TX12 b).2.1 := by decide +kernel
theorem tyX12_ok : ∀ k, k < 1 → parseFieldDescriptor (TX12 k).2.2.1 = some (tyX12 k) := by decide +kernel
abbrev cX12_of : ByteArray := prog_15_method_2_code
def yX12_of : MethodName := ⟨RX12, "of", "(LCounterDesk$Asked;)J"⟩
def dkwX12_of_0 : List UInt8 := [43, 180, 0, 13, 42, 180, 0, 7, 47, 173]
abbrev dktX12_of_0 : List UInt8 := dkwX12_of_0 ++ []
theorem dksX12_of_0 : cX12_of.data.toList.drop 0 = dktX12_of_0 := by decide +kernel
theorem dX12_of_0 : decode cX12_of 0 = .ok (.aload_n 1, 1) := dk_43 (dk_at dksX12_of_0 0 rfl rfl)
theorem dX12_of_1 : decode cX12_of 1 = .ok (.getfield 13, 3) := dk_180 0 13 (dk_at dksX12_of_0 1 rfl rfl)
theorem dX12_of_4 : decode cX12_of 4 = .ok (.aload_n 0, 1) := dk_42 (dk_at dksX12_of_0 4 rfl rfl)
theorem dX12_of_5 : decode cX12_of 5 = .ok (.getfield 7, 3) := dk_180 0 7 (dk_at dksX12_of_0 5 rfl rfl)
theorem dX12_of_8 : decode cX12_of 8 = .ok (.laload, 1) := dk_47 (dk_at dksX12_of_0 8 rfl rfl)
theorem dX12_of_9 : decode cX12_of 9 = .ok (.lreturn, 1) := dk_173 (dk_at dksX12_of_0 9 rfl rfl)
abbrev cX12_init : ByteArray := prog_15_method_1_code
def yX12_init : MethodName := ⟨RX12, "<init>", "(I)V"⟩
def dkwX12_init_0 : List UInt8 := [42, 183, 0, 1, 42, 27, 181, 0, 7, 177]
abbrev dktX12_init_0 : List UInt8 := dkwX12_init_0 ++ []
theorem dksX12_init_0 : cX12_init.data.toList.drop 0 = dktX12_init_0 := by decide +kernel
theorem dX12_init_0 : decode cX12_init 0 = .ok (.aload_n 0, 1) := dk_42 (dk_at dksX12_init_0 0 rfl rfl)
theorem dX12_init_1 : decode cX12_init 1 = .ok (.invokespecial 1, 3) := dk_183 0 1 (dk_at dksX12_init_0 1 rfl rfl)
theorem dX12_init_4 : decode cX12_init 4 = .ok (.aload_n 0, 1) := dk_42 (dk_at dksX12_init_0 4 rfl rfl)
theorem dX12_init_5 : decode cX12_init 5 = .ok (.iload_n 1, 1) := dk_27 (dk_at dksX12_init_0 5 rfl rfl)
theorem dX12_init_6 : decode cX12_init 6 = .ok (.putfield 7, 3) := dk_181 0 7 (dk_at dksX12_init_0 6 rfl rfl)
theorem dX12_init_9 : decode cX12_init 9 = .ok (.return_, 1) := dk_177 (dk_at dksX12_init_0 9 rfl rfl)
theorem q157 : (Jvm.Cond.initialized "CounterDesk$Part") ∈ lw_all := lw_g (lw_at lw_m1 28 rfl) rfl
theorem q297 : (Jvm.Cond.fieldLinkNest "CounterDesk$Part" (13 : Nat) "CounterDesk$Asked" "numbers" "[J" "CounterDesk") ∈ lw_tbl := lw_at lw_m1 168 rfl
theorem q546 : (Jvm.Cond.instanceMethod ({ cls := "CounterDesk$Part", name := "of", desc := "(LCounterDesk$Asked;)J" } : Jvm.MethodName)) ∈ lw_all := lw_g (lw_at lw_m2 177 rfl) rfl
theorem q547 : (Jvm.Cond.code ({ cls := "CounterDesk$Part", name := "of", desc := "(LCounterDesk$Asked;)J" } : Jvm.MethodName) prog_15_method_2_code (2 : Nat) (Option.some Jvm.ClassFile.FieldType.long)) ∈ lw_all := lw_g (lw_at lw_m2 178 rfl) rfl
theorem q555 : (Jvm.Cond.selects "CounterDesk$Part" ({ cls := "CounterDesk$Sum", name := "of", desc := "(LCounterDesk$Asked;)J" } : Jvm.MethodName) ({ cls := "CounterDesk$Part", name := "of", desc := "(LCounterDesk$Asked;)J" } : Jvm.MethodName)) ∈ lw_all := lw_g (lw_at lw_m2 186 rfl) rfl
theorem q970 : (Jvm.Cond.instantiable "CounterDesk$Part" (1 : Nat)) ∈ lw_all := lw_g (lw_at lw_m4 121 rfl) rfl
theorem q972 : (Jvm.Cond.instanceMethod ({ cls := "CounterDesk$Part", name := "<init>", desc := "(I)V" } : Jvm.MethodName)) ∈ lw_all := lw_g (lw_at lw_m4 123 rfl) rfl
theorem q973 : (Jvm.Cond.code ({ cls := "CounterDesk$Part", name := "<init>", desc := "(I)V" } : Jvm.MethodName) prog_15_method_1_code (2 : Nat) (Option.none : Option Jvm.ClassFile.FieldType)) ∈ lw_all := lw_g (lw_at lw_m4 124 rfl) rfl
theorem q974 : (Jvm.Cond.methodLinkNest "CounterDesk$Part" (1 : Nat) ({ cls := "CounterDesk$Sum", name := "<init>", desc := "()V" } : Jvm.MethodName) "CounterDesk") ∈ lw_tbl := lw_at lw_m4 125 rfl
theorem q975 : (Jvm.Cond.fieldLink "CounterDesk$Part" (7 : Nat) "CounterDesk$Part" "what" "I") ∈ lw_all := lw_g (lw_at lw_m4 126 rfl) rfl
theorem q976 : (Jvm.Cond.laysFinal "CounterDesk$Part" "CounterDesk$Part" "what" "I") ∈ lw_all := lw_g (lw_at lw_m4 127 rfl) rfl
theorem q977 : (Jvm.Cond.soleField "CounterDesk$Part" "what") ∈ lw_all := lw_g (lw_at lw_m4 128 rfl) rfl
theorem q978 : (Jvm.Cond.superclass "CounterDesk$Part" "CounterDesk$Sum") ∈ lw_all := lw_g (lw_at lw_m4 129 rfl) rfl
theorem q1238 : (Jvm.Cond.selects "CounterDesk$Part" ({ cls := "java/lang/Object", name := "getClass", desc := "()Ljava/lang/Class;" } : Jvm.MethodName) ({ cls := "java/lang/Object", name := "getClass", desc := "()Ljava/lang/Class;" } : Jvm.MethodName)) ∈ lw_all := lw_g (lw_at lw_m5 149 rfl) rfl
theorem q2327 : (Jvm.Cond.castable "CounterDesk$Part" "java/lang/Object") ∈ lw_tbl := lw_at lw_m10 38 rfl
theorem in_X12 : ∀ w ∈ wsX120, w ∈ lw_all := lw_in wsX120 [976] (by decide +kernel) (by decide +kernel)

/-! CounterDesk$Of -/
set_option maxRecDepth 100000
def RX13 : String := "CounterDesk$Of"
def TX13 : u_T := fun k => match k with
  | 0 => ("CounterDesk$Of", "what", "I", true)
  | 1 => ("CounterDesk$Of", "note", "I", true)
  | _ => ("CounterDesk$Of", "this$0", "LCounterDesk;", true)
def tyX13 : Nat → FieldType := fun k => match k with
  | 0 => .int
  | 1 => .int
  | _ => .object "CounterDesk"
abbrev wsX130 : List Cond := u_ws RX13 TX13 3
theorem nmX13 : ∀ a, a < 3 → ∀ b, b < 3 → a ≠ b → (TX13 a).2.1 ≠ (TX13 b).2.1 := by decide +kernel
theorem tyX13_ok : ∀ k, k < 3 → parseFieldDescriptor (TX13 k).2.2.1 = some (tyX13 k) := by decide +kernel
abbrev cX13_of : ByteArray := prog_13_method_2_code
def yX13_of : MethodName := ⟨RX13, "of", "(LCounterDesk$Asked;)J"⟩
def dkwX13_of_2 : List UInt8 := [180, 0, 3, 182, 0, 30, 180, 0, 40, 42, 180, 0, 19, 46, 133, 173]
abbrev dktX13_of_2 : List UInt8 := dkwX13_of_2 ++ []
def dkwX13_of_1 : List UInt8 := [8, 160, 0, 22, 42, 180, 0, 3, 182, 0, 30, 180, 0, 34, 42, 180, 0, 19, 46, 133, 167, 0, 19, 42]
abbrev dktX13_of_1 : List UInt8 := dkwX13_of_1 ++ dktX13_of_2
def dkwX13_of_0 : List UInt8 := [42, 180, 0, 3, 42, 180, 0, 19, 182, 0, 22, 154, 0, 9, 20, 0, 26, 167, 0, 46, 42, 180, 0, 15]
abbrev dktX13_of_0 : List UInt8 := dkwX13_of_0 ++ dktX13_of_1
theorem dksX13_of_0 : cX13_of.data.toList.drop 0 = dktX13_of_0 := by decide +kernel
theorem dksX13_of_1 : cX13_of.data.toList.drop 24 = dktX13_of_1 := dk_seg dksX13_of_0 24 rfl rfl
theorem dksX13_of_2 : cX13_of.data.toList.drop 48 = dktX13_of_2 := dk_seg dksX13_of_1 24 rfl rfl
theorem dX13_of_0 : decode cX13_of 0 = .ok (.aload_n 0, 1) := dk_42 (dk_at dksX13_of_0 0 rfl rfl)
theorem dX13_of_1 : decode cX13_of 1 = .ok (.getfield 3, 3) := dk_180 0 3 (dk_at dksX13_of_0 1 rfl rfl)
theorem dX13_of_4 : decode cX13_of 4 = .ok (.aload_n 0, 1) := dk_42 (dk_at dksX13_of_0 4 rfl rfl)
theorem dX13_of_5 : decode cX13_of 5 = .ok (.getfield 19, 3) := dk_180 0 19 (dk_at dksX13_of_0 5 rfl rfl)
theorem dX13_of_8 : decode cX13_of 8 = .ok (.invokevirtual 22, 3) := dk_182 0 22 (dk_at dksX13_of_0 8 rfl rfl)
theorem dX13_of_11 : decode cX13_of 11 = .ok (.ifCond .ne 9, 3) := dk_154 0 9 (dk_at dksX13_of_0 11 rfl rfl)
theorem dX13_of_14 : decode cX13_of 14 = .ok (.ldc2_w 26, 3) := dk_20 0 26 (dk_at dksX13_of_0 14 rfl rfl)
theorem dX13_of_17 : decode cX13_of 17 = .ok (.goto 46, 3) := dk_167 0 46 (dk_at dksX13_of_0 17 rfl rfl)
theorem dX13_of_20 : decode cX13_of 20 = .ok (.aload_n 0, 1) := dk_42 (dk_at dksX13_of_0 20 rfl rfl)
theorem dX13_of_21 : decode cX13_of 21 = .ok (.getfield 15, 3) := dk_180 0 15 (dk_at dksX13_of_0 21 rfl rfl)
theorem dX13_of_24 : decode cX13_of 24 = .ok (.iconst 5, 1) := dk_8 (dk_at dksX13_of_1 0 rfl rfl)
theorem dX13_of_25 : decode cX13_of 25 = .ok (.if_icmp .ne 22, 3) := dk_160 0 22 (dk_at dksX13_of_1 1 rfl rfl)
theorem dX13_of_28 : decode cX13_of 28 = .ok (.aload_n 0, 1) := dk_42 (dk_at dksX13_of_1 4 rfl rfl)
theorem dX13_of_29 : decode cX13_of 29 = .ok (.getfield 3, 3) := dk_180 0 3 (dk_at dksX13_of_1 5 rfl rfl)
theorem dX13_of_32 : decode cX13_of 32 = .ok (.invokevirtual 30, 3) := dk_182 0 30 (dk_at dksX13_of_1 8 rfl rfl)
theorem dX13_of_35 : decode cX13_of 35 = .ok (.getfield 34, 3) := dk_180 0 34 (dk_at dksX13_of_1 11 rfl rfl)
theorem dX13_of_38 : decode cX13_of 38 = .ok (.aload_n 0, 1) := dk_42 (dk_at dksX13_of_1 14 rfl rfl)
theorem dX13_of_39 : decode cX13_of 39 = .ok (.getfield 19, 3) := dk_180 0 19 (dk_at dksX13_of_1 15 rfl rfl)
theorem dX13_of_42 : decode cX13_of 42 = .ok (.iaload, 1) := dk_46 (dk_at dksX13_of_1 18 rfl rfl)
theorem dX13_of_43 : decode cX13_of 43 = .ok (.i2l, 1) := dk_133 (dk_at dksX13_of_1 19 rfl rfl)
theorem dX13_of_44 : decode cX13_of 44 = .ok (.goto 19, 3) := dk_167 0 19 (dk_at dksX13_of_1 20 rfl rfl)
theorem dX13_of_47 : decode cX13_of 47 = .ok (.aload_n 0, 1) := dk_42 (dk_at dksX13_of_1 23 rfl rfl)
theorem dX13_of_48 : decode cX13_of 48 = .ok (.getfield 3, 3) := dk_180 0 3 (dk_at dksX13_of_2 0 rfl rfl)
theorem dX13_of_51 : decode cX13_of 51 = .ok (.invokevirtual 30, 3) := dk_182 0 30 (dk_at dksX13_of_2 3 rfl rfl)
theorem dX13_of_54 : decode cX13_of 54 = .ok (.getfield 40, 3) := dk_180 0 40 (dk_at dksX13_of_2 6 rfl rfl)
theorem dX13_of_57 : decode cX13_of 57 = .ok (.aload_n 0, 1) := dk_42 (dk_at dksX13_of_2 9 rfl rfl)
theorem dX13_of_58 : decode cX13_of 58 = .ok (.getfield 19, 3) := dk_180 0 19 (dk_at dksX13_of_2 10 rfl rfl)
theorem dX13_of_61 : decode cX13_of 61 = .ok (.iaload, 1) := dk_46 (dk_at dksX13_of_2 13 rfl rfl)
theorem dX13_of_62 : decode cX13_of 62 = .ok (.i2l, 1) := dk_133 (dk_at dksX13_of_2 14 rfl rfl)
theorem dX13_of_63 : decode cX13_of 63 = .ok (.lreturn, 1) := dk_173 (dk_at dksX13_of_2 15 rfl rfl)
abbrev cX13_init : ByteArray := prog_13_method_1_code
def yX13_init : MethodName := ⟨RX13, "<init>", "(LCounterDesk;II)V"⟩
def dkwX13_init_0 : List UInt8 := [42, 43, 181, 0, 3, 42, 183, 0, 9, 42, 28, 181, 0, 15, 42, 29, 181, 0, 19, 177]
abbrev dktX13_init_0 : List UInt8 := dkwX13_init_0 ++ []
theorem dksX13_init_0 : cX13_init.data.toList.drop 0 = dktX13_init_0 := by decide +kernel
theorem dX13_init_0 : decode cX13_init 0 = .ok (.aload_n 0, 1) := dk_42 (dk_at dksX13_init_0 0 rfl rfl)
theorem dX13_init_1 : decode cX13_init 1 = .ok (.aload_n 1, 1) := dk_43 (dk_at dksX13_init_0 1 rfl rfl)
theorem dX13_init_2 : decode cX13_init 2 = .ok (.putfield 3, 3) := dk_181 0 3 (dk_at dksX13_init_0 2 rfl rfl)
theorem dX13_init_5 : decode cX13_init 5 = .ok (.aload_n 0, 1) := dk_42 (dk_at dksX13_init_0 5 rfl rfl)
theorem dX13_init_6 : decode cX13_init 6 = .ok (.invokespecial 9, 3) := dk_183 0 9 (dk_at dksX13_init_0 6 rfl rfl)
theorem dX13_init_9 : decode cX13_init 9 = .ok (.aload_n 0, 1) := dk_42 (dk_at dksX13_init_0 9 rfl rfl)
theorem dX13_init_10 : decode cX13_init 10 = .ok (.iload_n 2, 1) := dk_28 (dk_at dksX13_init_0 10 rfl rfl)
theorem dX13_init_11 : decode cX13_init 11 = .ok (.putfield 15, 3) := dk_181 0 15 (dk_at dksX13_init_0 11 rfl rfl)
theorem dX13_init_14 : decode cX13_init 14 = .ok (.aload_n 0, 1) := dk_42 (dk_at dksX13_init_0 14 rfl rfl)
theorem dX13_init_15 : decode cX13_init 15 = .ok (.iload_n 3, 1) := dk_29 (dk_at dksX13_init_0 15 rfl rfl)
theorem dX13_init_16 : decode cX13_init 16 = .ok (.putfield 19, 3) := dk_181 0 19 (dk_at dksX13_init_0 16 rfl rfl)
theorem dX13_init_19 : decode cX13_init 19 = .ok (.return_, 1) := dk_177 (dk_at dksX13_init_0 19 rfl rfl)
theorem q158 : (Jvm.Cond.initialized "CounterDesk$Of") ∈ lw_all := lw_g (lw_at lw_m1 29 rfl) rfl
theorem q219 : (Jvm.Cond.fieldLinkNest "CounterDesk$Of" (40 : Nat) "CounterDesk$Books" "under" "[I" "CounterDesk") ∈ lw_tbl := lw_at lw_m1 90 rfl
theorem q222 : (Jvm.Cond.fieldLinkNest "CounterDesk$Of" (34 : Nat) "CounterDesk$Books" "here" "[I" "CounterDesk") ∈ lw_tbl := lw_at lw_m1 93 rfl
theorem q541 : (Jvm.Cond.instanceMethod ({ cls := "CounterDesk$Of", name := "of", desc := "(LCounterDesk$Asked;)J" } : Jvm.MethodName)) ∈ lw_all := lw_g (lw_at lw_m2 172 rfl) rfl
theorem q542 : (Jvm.Cond.code ({ cls := "CounterDesk$Of", name := "of", desc := "(LCounterDesk$Asked;)J" } : Jvm.MethodName) prog_13_method_2_code (2 : Nat) (Option.some Jvm.ClassFile.FieldType.long)) ∈ lw_all := lw_g (lw_at lw_m2 173 rfl) rfl
theorem q543 : (Jvm.Cond.methodLinkNest "CounterDesk$Of" (22 : Nat) ({ cls := "CounterDesk", name := "isNote", desc := "(I)Z" } : Jvm.MethodName) "CounterDesk") ∈ lw_tbl := lw_at lw_m2 174 rfl
theorem q544 : (Jvm.Cond.constantLong "CounterDesk$Of" (26 : Nat) (-1 : Int64)) ∈ lw_all := lw_g (lw_at lw_m2 175 rfl) rfl
theorem q545 : (Jvm.Cond.methodLinkNest "CounterDesk$Of" (30 : Nat) ({ cls := "CounterDesk", name := "books", desc := "()LCounterDesk$Books;" } : Jvm.MethodName) "CounterDesk") ∈ lw_tbl := lw_at lw_m2 176 rfl
theorem q554 : (Jvm.Cond.selects "CounterDesk$Of" ({ cls := "CounterDesk$Sum", name := "of", desc := "(LCounterDesk$Asked;)J" } : Jvm.MethodName) ({ cls := "CounterDesk$Of", name := "of", desc := "(LCounterDesk$Asked;)J" } : Jvm.MethodName)) ∈ lw_all := lw_g (lw_at lw_m2 185 rfl) rfl
theorem q980 : (Jvm.Cond.instantiable "CounterDesk$Of" (3 : Nat)) ∈ lw_all := lw_g (lw_at lw_m4 131 rfl) rfl
theorem q986 : (Jvm.Cond.instanceMethod ({ cls := "CounterDesk$Of", name := "<init>", desc := "(LCounterDesk;II)V" } : Jvm.MethodName)) ∈ lw_all := lw_g (lw_at lw_m4 137 rfl) rfl
theorem q987 : (Jvm.Cond.code ({ cls := "CounterDesk$Of", name := "<init>", desc := "(LCounterDesk;II)V" } : Jvm.MethodName) prog_13_method_1_code (4 : Nat) (Option.none : Option Jvm.ClassFile.FieldType)) ∈ lw_all := lw_g (lw_at lw_m4 138 rfl) rfl
theorem q988 : (Jvm.Cond.methodLinkNest "CounterDesk$Of" (9 : Nat) ({ cls := "CounterDesk$Sum", name := "<init>", desc := "()V" } : Jvm.MethodName) "CounterDesk") ∈ lw_tbl := lw_at lw_m4 139 rfl
theorem q989 : (Jvm.Cond.fieldLink "CounterDesk$Of" (15 : Nat) "CounterDesk$Of" "what" "I") ∈ lw_all := lw_g (lw_at lw_m4 140 rfl) rfl
theorem q990 : (Jvm.Cond.fieldLink "CounterDesk$Of" (19 : Nat) "CounterDesk$Of" "note" "I") ∈ lw_all := lw_g (lw_at lw_m4 141 rfl) rfl
theorem q991 : (Jvm.Cond.fieldLink "CounterDesk$Of" (3 : Nat) "CounterDesk$Of" "this$0" "LCounterDesk;") ∈ lw_all := lw_g (lw_at lw_m4 142 rfl) rfl
theorem q992 : (Jvm.Cond.laysFinal "CounterDesk$Of" "CounterDesk$Of" "what" "I") ∈ lw_all := lw_g (lw_at lw_m4 143 rfl) rfl
theorem q993 : (Jvm.Cond.soleField "CounterDesk$Of" "what") ∈ lw_all := lw_g (lw_at lw_m4 144 rfl) rfl
theorem q994 : (Jvm.Cond.laysFinal "CounterDesk$Of" "CounterDesk$Of" "note" "I") ∈ lw_all := lw_g (lw_at lw_m4 145 rfl) rfl
theorem q995 : (Jvm.Cond.soleField "CounterDesk$Of" "note") ∈ lw_all := lw_g (lw_at lw_m4 146 rfl) rfl
theorem q996 : (Jvm.Cond.laysFinal "CounterDesk$Of" "CounterDesk$Of" "this$0" "LCounterDesk;") ∈ lw_all := lw_g (lw_at lw_m4 147 rfl) rfl
theorem q997 : (Jvm.Cond.soleField "CounterDesk$Of" "this$0") ∈ lw_all := lw_g (lw_at lw_m4 148 rfl) rfl
theorem q998 : (Jvm.Cond.superclass "CounterDesk$Of" "CounterDesk$Sum") ∈ lw_all := lw_g (lw_at lw_m4 149 rfl) rfl
theorem q1236 : (Jvm.Cond.selects "CounterDesk$Of" ({ cls := "java/lang/Object", name := "getClass", desc := "()Ljava/lang/Class;" } : Jvm.MethodName) ({ cls := "java/lang/Object", name := "getClass", desc := "()Ljava/lang/Class;" } : Jvm.MethodName)) ∈ lw_all := lw_g (lw_at lw_m5 147 rfl) rfl
theorem q2333 : (Jvm.Cond.castable "CounterDesk$Of" "java/lang/Object") ∈ lw_tbl := lw_at lw_m10 44 rfl
theorem in_X13 : ∀ w ∈ wsX130, w ∈ lw_all := lw_in wsX130 [992, 994, 996] (by decide +kernel) (by decide +kernel)

/-! CounterDesk$Joined -/
set_option maxRecDepth 100000
def RX14 : String := "CounterDesk$Joined"
def TX14 : u_T := fun k => match k with
  | 0 => ("CounterDesk$Joined", "one", "LCounterDesk$Sum;", true)
  | 1 => ("CounterDesk$Joined", "other", "LCounterDesk$Sum;", true)
  | _ => ("CounterDesk$Joined", "sign", "I", true)
def tyX14 : Nat → FieldType := fun k => match k with
  | 0 => .object "CounterDesk$Sum"
  | 1 => .object "CounterDesk$Sum"
  | _ => .int
abbrev wsX140 : List Cond := u_ws RX14 TX14 3
theorem nmX14 : ∀ a, a < 3 → ∀ b, b < 3 → a ≠ b → (TX14 a).2.1 ≠ (TX14 b).2.1 := by decide +kernel
theorem tyX14_ok : ∀ k, k < 3 → parseFieldDescriptor (TX14 k).2.2.1 = some (tyX14 k) := by decide +kernel
abbrev cX14_of : ByteArray := prog_10_method_2_code
def yX14_of : MethodName := ⟨RX14, "of", "(LCounterDesk$Asked;)J"⟩
def dkwX14_of_6 : List UInt8 := [182, 0, 30, 173]
abbrev dktX14_of_6 : List UInt8 := dkwX14_of_6 ++ []
def dkwX14_of_5 : List UInt8 := [97, 167, 0, 23, 42, 180, 0, 13, 16, 45, 160, 0, 10, 32, 22, 4, 101, 167, 0, 7, 32, 22, 4, 105]
abbrev dktX14_of_5 : List UInt8 := dkwX14_of_5 ++ dktX14_of_6
def dkwX14_of_4 : List UInt8 := [22, 4, 109, 167, 0, 7, 32, 22, 4, 113, 173, 43, 42, 180, 0, 13, 16, 43, 160, 0, 10, 32, 22, 4]
abbrev dktX14_of_4 : List UInt8 := dkwX14_of_4 ++ dktX14_of_5
def dkwX14_of_3 : List UInt8 := [181, 0, 24, 22, 4, 9, 148, 154, 0, 7, 9, 167, 0, 23, 42, 180, 0, 13, 16, 47, 160, 0, 10, 32]
abbrev dktX14_of_3 : List UInt8 := dkwX14_of_3 ++ dktX14_of_4
def dkwX14_of_2 : List UInt8 := [42, 180, 0, 13, 16, 37, 160, 0, 51, 43, 22, 4, 9, 148, 154, 0, 7, 4, 167, 0, 4, 3]
abbrev dktX14_of_2 : List UInt8 := dkwX14_of_2 ++ dktX14_of_3
def dkwX14_of_1 : List UInt8 := [43, 182, 0, 20, 55, 4, 43, 180, 0, 24, 153, 0, 5, 9, 173, 42, 180, 0, 13, 16, 47, 159, 0, 12]
abbrev dktX14_of_1 : List UInt8 := dkwX14_of_1 ++ dktX14_of_2
def dkwX14_of_0 : List UInt8 := [42, 180, 0, 7, 43, 182, 0, 20, 65, 43, 180, 0, 24, 153, 0, 7, 9, 167, 0, 11, 42, 180, 0, 17]
abbrev dktX14_of_0 : List UInt8 := dkwX14_of_0 ++ dktX14_of_1
theorem dksX14_of_0 : cX14_of.data.toList.drop 0 = dktX14_of_0 := by decide +kernel
theorem dksX14_of_1 : cX14_of.data.toList.drop 24 = dktX14_of_1 := dk_seg dksX14_of_0 24 rfl rfl
theorem dksX14_of_2 : cX14_of.data.toList.drop 48 = dktX14_of_2 := dk_seg dksX14_of_1 24 rfl rfl
theorem dksX14_of_3 : cX14_of.data.toList.drop 70 = dktX14_of_3 := dk_seg dksX14_of_2 22 rfl rfl
theorem dksX14_of_4 : cX14_of.data.toList.drop 94 = dktX14_of_4 := dk_seg dksX14_of_3 24 rfl rfl
theorem dksX14_of_5 : cX14_of.data.toList.drop 118 = dktX14_of_5 := dk_seg dksX14_of_4 24 rfl rfl
theorem dksX14_of_6 : cX14_of.data.toList.drop 142 = dktX14_of_6 := dk_seg dksX14_of_5 24 rfl rfl
theorem dX14_of_0 : decode cX14_of 0 = .ok (.aload_n 0, 1) := dk_42 (dk_at dksX14_of_0 0 rfl rfl)
theorem dX14_of_1 : decode cX14_of 1 = .ok (.getfield 7, 3) := dk_180 0 7 (dk_at dksX14_of_0 1 rfl rfl)
theorem dX14_of_4 : decode cX14_of 4 = .ok (.aload_n 1, 1) := dk_43 (dk_at dksX14_of_0 4 rfl rfl)
theorem dX14_of_5 : decode cX14_of 5 = .ok (.invokevirtual 20, 3) := dk_182 0 20 (dk_at dksX14_of_0 5 rfl rfl)
theorem dX14_of_8 : decode cX14_of 8 = .ok (.lstore_n 2, 1) := dk_65 (dk_at dksX14_of_0 8 rfl rfl)
theorem dX14_of_9 : decode cX14_of 9 = .ok (.aload_n 1, 1) := dk_43 (dk_at dksX14_of_0 9 rfl rfl)
theorem dX14_of_10 : decode cX14_of 10 = .ok (.getfield 24, 3) := dk_180 0 24 (dk_at dksX14_of_0 10 rfl rfl)
theorem dX14_of_13 : decode cX14_of 13 = .ok (.ifCond .eq 7, 3) := dk_153 0 7 (dk_at dksX14_of_0 13 rfl rfl)
theorem dX14_of_16 : decode cX14_of 16 = .ok (.lconst 0, 1) := dk_9 (dk_at dksX14_of_0 16 rfl rfl)
theorem dX14_of_17 : decode cX14_of 17 = .ok (.goto 11, 3) := dk_167 0 11 (dk_at dksX14_of_0 17 rfl rfl)
theorem dX14_of_20 : decode cX14_of 20 = .ok (.aload_n 0, 1) := dk_42 (dk_at dksX14_of_0 20 rfl rfl)
theorem dX14_of_21 : decode cX14_of 21 = .ok (.getfield 17, 3) := dk_180 0 17 (dk_at dksX14_of_0 21 rfl rfl)
theorem dX14_of_24 : decode cX14_of 24 = .ok (.aload_n 1, 1) := dk_43 (dk_at dksX14_of_1 0 rfl rfl)
theorem dX14_of_25 : decode cX14_of 25 = .ok (.invokevirtual 20, 3) := dk_182 0 20 (dk_at dksX14_of_1 1 rfl rfl)
theorem dX14_of_28 : decode cX14_of 28 = .ok (.lstore 4, 2) := dk_55 4 (dk_at dksX14_of_1 4 rfl rfl)
theorem dX14_of_30 : decode cX14_of 30 = .ok (.aload_n 1, 1) := dk_43 (dk_at dksX14_of_1 6 rfl rfl)
theorem dX14_of_31 : decode cX14_of 31 = .ok (.getfield 24, 3) := dk_180 0 24 (dk_at dksX14_of_1 7 rfl rfl)
theorem dX14_of_34 : decode cX14_of 34 = .ok (.ifCond .eq 5, 3) := dk_153 0 5 (dk_at dksX14_of_1 10 rfl rfl)
theorem dX14_of_37 : decode cX14_of 37 = .ok (.lconst 0, 1) := dk_9 (dk_at dksX14_of_1 13 rfl rfl)
theorem dX14_of_38 : decode cX14_of 38 = .ok (.lreturn, 1) := dk_173 (dk_at dksX14_of_1 14 rfl rfl)
theorem dX14_of_39 : decode cX14_of 39 = .ok (.aload_n 0, 1) := dk_42 (dk_at dksX14_of_1 15 rfl rfl)
theorem dX14_of_40 : decode cX14_of 40 = .ok (.getfield 13, 3) := dk_180 0 13 (dk_at dksX14_of_1 16 rfl rfl)
theorem dX14_of_43 : decode cX14_of 43 = .ok (.bipush 47, 2) := dk_16 47 (dk_at dksX14_of_1 19 rfl rfl)
theorem dX14_of_45 : decode cX14_of 45 = .ok (.if_icmp .eq 12, 3) := dk_159 0 12 (dk_at dksX14_of_1 21 rfl rfl)
theorem dX14_of_48 : decode cX14_of 48 = .ok (.aload_n 0, 1) := dk_42 (dk_at dksX14_of_2 0 rfl rfl)
theorem dX14_of_49 : decode cX14_of 49 = .ok (.getfield 13, 3) := dk_180 0 13 (dk_at dksX14_of_2 1 rfl rfl)
theorem dX14_of_52 : decode cX14_of 52 = .ok (.bipush 37, 2) := dk_16 37 (dk_at dksX14_of_2 4 rfl rfl)
theorem dX14_of_54 : decode cX14_of 54 = .ok (.if_icmp .ne 51, 3) := dk_160 0 51 (dk_at dksX14_of_2 6 rfl rfl)
theorem dX14_of_57 : decode cX14_of 57 = .ok (.aload_n 1, 1) := dk_43 (dk_at dksX14_of_2 9 rfl rfl)
theorem dX14_of_58 : decode cX14_of 58 = .ok (.lload 4, 2) := dk_22 4 (dk_at dksX14_of_2 10 rfl rfl)
theorem dX14_of_60 : decode cX14_of 60 = .ok (.lconst 0, 1) := dk_9 (dk_at dksX14_of_2 12 rfl rfl)
theorem dX14_of_61 : decode cX14_of 61 = .ok (.lcmp, 1) := dk_148 (dk_at dksX14_of_2 13 rfl rfl)
theorem dX14_of_62 : decode cX14_of 62 = .ok (.ifCond .ne 7, 3) := dk_154 0 7 (dk_at dksX14_of_2 14 rfl rfl)
theorem dX14_of_65 : decode cX14_of 65 = .ok (.iconst 1, 1) := dk_4 (dk_at dksX14_of_2 17 rfl rfl)
theorem dX14_of_66 : decode cX14_of 66 = .ok (.goto 4, 3) := dk_167 0 4 (dk_at dksX14_of_2 18 rfl rfl)
theorem dX14_of_69 : decode cX14_of 69 = .ok (.iconst 0, 1) := dk_3 (dk_at dksX14_of_2 21 rfl rfl)
theorem dX14_of_70 : decode cX14_of 70 = .ok (.putfield 24, 3) := dk_181 0 24 (dk_at dksX14_of_3 0 rfl rfl)
theorem dX14_of_73 : decode cX14_of 73 = .ok (.lload 4, 2) := dk_22 4 (dk_at dksX14_of_3 3 rfl rfl)
theorem dX14_of_75 : decode cX14_of 75 = .ok (.lconst 0, 1) := dk_9 (dk_at dksX14_of_3 5 rfl rfl)
theorem dX14_of_76 : decode cX14_of 76 = .ok (.lcmp, 1) := dk_148 (dk_at dksX14_of_3 6 rfl rfl)
theorem dX14_of_77 : decode cX14_of 77 = .ok (.ifCond .ne 7, 3) := dk_154 0 7 (dk_at dksX14_of_3 7 rfl rfl)
theorem dX14_of_80 : decode cX14_of 80 = .ok (.lconst 0, 1) := dk_9 (dk_at dksX14_of_3 10 rfl rfl)
theorem dX14_of_81 : decode cX14_of 81 = .ok (.goto 23, 3) := dk_167 0 23 (dk_at dksX14_of_3 11 rfl rfl)
theorem dX14_of_84 : decode cX14_of 84 = .ok (.aload_n 0, 1) := dk_42 (dk_at dksX14_of_3 14 rfl rfl)
theorem dX14_of_85 : decode cX14_of 85 = .ok (.getfield 13, 3) := dk_180 0 13 (dk_at dksX14_of_3 15 rfl rfl)
theorem dX14_of_88 : decode cX14_of 88 = .ok (.bipush 47, 2) := dk_16 47 (dk_at dksX14_of_3 18 rfl rfl)
theorem dX14_of_90 : decode cX14_of 90 = .ok (.if_icmp .ne 10, 3) := dk_160 0 10 (dk_at dksX14_of_3 20 rfl rfl)
theorem dX14_of_93 : decode cX14_of 93 = .ok (.lload_n 2, 1) := dk_32 (dk_at dksX14_of_3 23 rfl rfl)
theorem dX14_of_94 : decode cX14_of 94 = .ok (.lload 4, 2) := dk_22 4 (dk_at dksX14_of_4 0 rfl rfl)
theorem dX14_of_96 : decode cX14_of 96 = .ok (.ldiv, 1) := dk_109 (dk_at dksX14_of_4 2 rfl rfl)
theorem dX14_of_97 : decode cX14_of 97 = .ok (.goto 7, 3) := dk_167 0 7 (dk_at dksX14_of_4 3 rfl rfl)
theorem dX14_of_100 : decode cX14_of 100 = .ok (.lload_n 2, 1) := dk_32 (dk_at dksX14_of_4 6 rfl rfl)
theorem dX14_of_101 : decode cX14_of 101 = .ok (.lload 4, 2) := dk_22 4 (dk_at dksX14_of_4 7 rfl rfl)
theorem dX14_of_103 : decode cX14_of 103 = .ok (.lrem, 1) := dk_113 (dk_at dksX14_of_4 9 rfl rfl)
theorem dX14_of_104 : decode cX14_of 104 = .ok (.lreturn, 1) := dk_173 (dk_at dksX14_of_4 10 rfl rfl)
theorem dX14_of_105 : decode cX14_of 105 = .ok (.aload_n 1, 1) := dk_43 (dk_at dksX14_of_4 11 rfl rfl)
theorem dX14_of_106 : decode cX14_of 106 = .ok (.aload_n 0, 1) := dk_42 (dk_at dksX14_of_4 12 rfl rfl)
theorem dX14_of_107 : decode cX14_of 107 = .ok (.getfield 13, 3) := dk_180 0 13 (dk_at dksX14_of_4 13 rfl rfl)
theorem dX14_of_110 : decode cX14_of 110 = .ok (.bipush 43, 2) := dk_16 43 (dk_at dksX14_of_4 16 rfl rfl)
theorem dX14_of_112 : decode cX14_of 112 = .ok (.if_icmp .ne 10, 3) := dk_160 0 10 (dk_at dksX14_of_4 18 rfl rfl)
theorem dX14_of_115 : decode cX14_of 115 = .ok (.lload_n 2, 1) := dk_32 (dk_at dksX14_of_4 21 rfl rfl)
theorem dX14_of_116 : decode cX14_of 116 = .ok (.lload 4, 2) := dk_22 4 (dk_at dksX14_of_4 22 rfl rfl)
theorem dX14_of_118 : decode cX14_of 118 = .ok (.ladd, 1) := dk_97 (dk_at dksX14_of_5 0 rfl rfl)
theorem dX14_of_119 : decode cX14_of 119 = .ok (.goto 23, 3) := dk_167 0 23 (dk_at dksX14_of_5 1 rfl rfl)
theorem dX14_of_122 : decode cX14_of 122 = .ok (.aload_n 0, 1) := dk_42 (dk_at dksX14_of_5 4 rfl rfl)
theorem dX14_of_123 : decode cX14_of 123 = .ok (.getfield 13, 3) := dk_180 0 13 (dk_at dksX14_of_5 5 rfl rfl)
theorem dX14_of_126 : decode cX14_of 126 = .ok (.bipush 45, 2) := dk_16 45 (dk_at dksX14_of_5 8 rfl rfl)
theorem dX14_of_128 : decode cX14_of 128 = .ok (.if_icmp .ne 10, 3) := dk_160 0 10 (dk_at dksX14_of_5 10 rfl rfl)
theorem dX14_of_131 : decode cX14_of 131 = .ok (.lload_n 2, 1) := dk_32 (dk_at dksX14_of_5 13 rfl rfl)
theorem dX14_of_132 : decode cX14_of 132 = .ok (.lload 4, 2) := dk_22 4 (dk_at dksX14_of_5 14 rfl rfl)
theorem dX14_of_134 : decode cX14_of 134 = .ok (.lsub, 1) := dk_101 (dk_at dksX14_of_5 16 rfl rfl)
theorem dX14_of_135 : decode cX14_of 135 = .ok (.goto 7, 3) := dk_167 0 7 (dk_at dksX14_of_5 17 rfl rfl)
theorem dX14_of_138 : decode cX14_of 138 = .ok (.lload_n 2, 1) := dk_32 (dk_at dksX14_of_5 20 rfl rfl)
theorem dX14_of_139 : decode cX14_of 139 = .ok (.lload 4, 2) := dk_22 4 (dk_at dksX14_of_5 21 rfl rfl)
theorem dX14_of_141 : decode cX14_of 141 = .ok (.lmul, 1) := dk_105 (dk_at dksX14_of_5 23 rfl rfl)
theorem dX14_of_142 : decode cX14_of 142 = .ok (.invokevirtual 30, 3) := dk_182 0 30 (dk_at dksX14_of_6 0 rfl rfl)
theorem dX14_of_145 : decode cX14_of 145 = .ok (.lreturn, 1) := dk_173 (dk_at dksX14_of_6 3 rfl rfl)
abbrev cX14_init : ByteArray := prog_10_method_1_code
def yX14_init : MethodName := ⟨RX14, "<init>", "(LCounterDesk$Sum;ILCounterDesk$Sum;)V"⟩
def dkwX14_init_0 : List UInt8 := [42, 183, 0, 1, 42, 43, 181, 0, 7, 42, 28, 181, 0, 13, 42, 45, 181, 0, 17, 177]
abbrev dktX14_init_0 : List UInt8 := dkwX14_init_0 ++ []
theorem dksX14_init_0 : cX14_init.data.toList.drop 0 = dktX14_init_0 := by decide +kernel
theorem dX14_init_0 : decode cX14_init 0 = .ok (.aload_n 0, 1) := dk_42 (dk_at dksX14_init_0 0 rfl rfl)
theorem dX14_init_1 : decode cX14_init 1 = .ok (.invokespecial 1, 3) := dk_183 0 1 (dk_at dksX14_init_0 1 rfl rfl)
theorem dX14_init_4 : decode cX14_init 4 = .ok (.aload_n 0, 1) := dk_42 (dk_at dksX14_init_0 4 rfl rfl)
theorem dX14_init_5 : decode cX14_init 5 = .ok (.aload_n 1, 1) := dk_43 (dk_at dksX14_init_0 5 rfl rfl)
theorem dX14_init_6 : decode cX14_init 6 = .ok (.putfield 7, 3) := dk_181 0 7 (dk_at dksX14_init_0 6 rfl rfl)
theorem dX14_init_9 : decode cX14_init 9 = .ok (.aload_n 0, 1) := dk_42 (dk_at dksX14_init_0 9 rfl rfl)
theorem dX14_init_10 : decode cX14_init 10 = .ok (.iload_n 2, 1) := dk_28 (dk_at dksX14_init_0 10 rfl rfl)
theorem dX14_init_11 : decode cX14_init 11 = .ok (.putfield 13, 3) := dk_181 0 13 (dk_at dksX14_init_0 11 rfl rfl)
theorem dX14_init_14 : decode cX14_init 14 = .ok (.aload_n 0, 1) := dk_42 (dk_at dksX14_init_0 14 rfl rfl)
theorem dX14_init_15 : decode cX14_init 15 = .ok (.aload_n 3, 1) := dk_45 (dk_at dksX14_init_0 15 rfl rfl)
theorem dX14_init_16 : decode cX14_init 16 = .ok (.putfield 17, 3) := dk_181 0 17 (dk_at dksX14_init_0 16 rfl rfl)
theorem dX14_init_19 : decode cX14_init 19 = .ok (.return_, 1) := dk_177 (dk_at dksX14_init_0 19 rfl rfl)
theorem q159 : (Jvm.Cond.initialized "CounterDesk$Joined") ∈ lw_all := lw_g (lw_at lw_m1 30 rfl) rfl
theorem q302 : (Jvm.Cond.fieldLinkNest "CounterDesk$Joined" (24 : Nat) "CounterDesk$Asked" "isBroken" "Z" "CounterDesk") ∈ lw_tbl := lw_at lw_m1 173 rfl
theorem q537 : (Jvm.Cond.selects "CounterDesk$Joined" ({ cls := "CounterDesk$Sum", name := "of", desc := "(LCounterDesk$Asked;)J" } : Jvm.MethodName) ({ cls := "CounterDesk$Joined", name := "of", desc := "(LCounterDesk$Asked;)J" } : Jvm.MethodName)) ∈ lw_all := lw_g (lw_at lw_m2 168 rfl) rfl
theorem q538 : (Jvm.Cond.instanceMethod ({ cls := "CounterDesk$Joined", name := "of", desc := "(LCounterDesk$Asked;)J" } : Jvm.MethodName)) ∈ lw_all := lw_g (lw_at lw_m2 169 rfl) rfl
theorem q539 : (Jvm.Cond.code ({ cls := "CounterDesk$Joined", name := "of", desc := "(LCounterDesk$Asked;)J" } : Jvm.MethodName) prog_10_method_2_code (6 : Nat) (Option.some Jvm.ClassFile.FieldType.long)) ∈ lw_all := lw_g (lw_at lw_m2 170 rfl) rfl
theorem q540 : (Jvm.Cond.methodLink "CounterDesk$Joined" (20 : Nat) ({ cls := "CounterDesk$Sum", name := "of", desc := "(LCounterDesk$Asked;)J" } : Jvm.MethodName)) ∈ lw_all := lw_g (lw_at lw_m2 171 rfl) rfl
theorem q548 : (Jvm.Cond.methodLink "CounterDesk$Joined" (30 : Nat) ({ cls := "CounterDesk$Asked", name := "within", desc := "(J)J" } : Jvm.MethodName)) ∈ lw_all := lw_g (lw_at lw_m2 179 rfl) rfl
theorem q1006 : (Jvm.Cond.instantiable "CounterDesk$Joined" (3 : Nat)) ∈ lw_all := lw_g (lw_at lw_m4 157 rfl) rfl
theorem q1008 : (Jvm.Cond.instanceMethod ({ cls := "CounterDesk$Joined", name := "<init>", desc := "(LCounterDesk$Sum;ILCounterDesk$Sum;)V" } : Jvm.MethodName)) ∈ lw_all := lw_g (lw_at lw_m4 159 rfl) rfl
theorem q1009 : (Jvm.Cond.code ({ cls := "CounterDesk$Joined", name := "<init>", desc := "(LCounterDesk$Sum;ILCounterDesk$Sum;)V" } : Jvm.MethodName) prog_10_method_1_code (4 : Nat) (Option.none : Option Jvm.ClassFile.FieldType)) ∈ lw_all := lw_g (lw_at lw_m4 160 rfl) rfl
theorem q1010 : (Jvm.Cond.methodLinkNest "CounterDesk$Joined" (1 : Nat) ({ cls := "CounterDesk$Sum", name := "<init>", desc := "()V" } : Jvm.MethodName) "CounterDesk") ∈ lw_tbl := lw_at lw_m4 161 rfl
theorem q1011 : (Jvm.Cond.fieldLink "CounterDesk$Joined" (7 : Nat) "CounterDesk$Joined" "one" "LCounterDesk$Sum;") ∈ lw_all := lw_g (lw_at lw_m4 162 rfl) rfl
theorem q1012 : (Jvm.Cond.fieldLink "CounterDesk$Joined" (17 : Nat) "CounterDesk$Joined" "other" "LCounterDesk$Sum;") ∈ lw_all := lw_g (lw_at lw_m4 163 rfl) rfl
theorem q1013 : (Jvm.Cond.fieldLink "CounterDesk$Joined" (13 : Nat) "CounterDesk$Joined" "sign" "I") ∈ lw_all := lw_g (lw_at lw_m4 164 rfl) rfl
theorem q1014 : (Jvm.Cond.laysFinal "CounterDesk$Joined" "CounterDesk$Joined" "one" "LCounterDesk$Sum;") ∈ lw_all := lw_g (lw_at lw_m4 165 rfl) rfl
theorem q1015 : (Jvm.Cond.soleField "CounterDesk$Joined" "one") ∈ lw_all := lw_g (lw_at lw_m4 166 rfl) rfl
theorem q1016 : (Jvm.Cond.laysFinal "CounterDesk$Joined" "CounterDesk$Joined" "other" "LCounterDesk$Sum;") ∈ lw_all := lw_g (lw_at lw_m4 167 rfl) rfl
theorem q1017 : (Jvm.Cond.soleField "CounterDesk$Joined" "other") ∈ lw_all := lw_g (lw_at lw_m4 168 rfl) rfl
theorem q1018 : (Jvm.Cond.laysFinal "CounterDesk$Joined" "CounterDesk$Joined" "sign" "I") ∈ lw_all := lw_g (lw_at lw_m4 169 rfl) rfl
theorem q1019 : (Jvm.Cond.soleField "CounterDesk$Joined" "sign") ∈ lw_all := lw_g (lw_at lw_m4 170 rfl) rfl
theorem q1020 : (Jvm.Cond.superclass "CounterDesk$Joined" "CounterDesk$Sum") ∈ lw_all := lw_g (lw_at lw_m4 171 rfl) rfl
theorem q1233 : (Jvm.Cond.selects "CounterDesk$Joined" ({ cls := "java/lang/Object", name := "getClass", desc := "()Ljava/lang/Class;" } : Jvm.MethodName) ({ cls := "java/lang/Object", name := "getClass", desc := "()Ljava/lang/Class;" } : Jvm.MethodName)) ∈ lw_all := lw_g (lw_at lw_m5 144 rfl) rfl
theorem q2328 : (Jvm.Cond.castable "CounterDesk$Joined" "java/lang/Object") ∈ lw_tbl := lw_at lw_m10 39 rfl
theorem in_X14 : ∀ w ∈ wsX140, w ∈ lw_all := lw_in wsX140 [1014, 1016, 1018] (by decide +kernel) (by decide +kernel)

/-! CounterDesk$Clause -/
set_option maxRecDepth 100000
def RX15 : String := "CounterDesk$Clause"
def TX15 : u_T := fun k => match k with
  | 0 => ("CounterDesk$Clause", "head", "I", true)
  | 1 => ("CounterDesk$Clause", "sum", "LCounterDesk$Sum;", true)
  | 2 => ("CounterDesk$Clause", "test", "LCounterDesk$Test;", true)
  | _ => ("CounterDesk$Clause", "told", "J", false)
def tyX15 : Nat → FieldType := fun k => match k with
  | 0 => .int
  | 1 => .object "CounterDesk$Sum"
  | 2 => .object "CounterDesk$Test"
  | _ => .long
abbrev wsX150 : List Cond := u_ws RX15 TX15 4
theorem nmX15 : ∀ a, a < 4 → ∀ b, b < 4 → a ≠ b → (TX15 a).2.1 ≠ (TX15 b).2.1 := by decide +kernel
theorem tyX15_ok : ∀ k, k < 4 → parseFieldDescriptor (TX15 k).2.2.1 = some (tyX15 k) := by decide +kernel
abbrev cX15_holds : ByteArray := prog_6_method_2_code
def yX15_holds : MethodName := ⟨RX15, "holds", "(LCounterDesk$Asked;)Z"⟩
def dkwX15_holds_2 : List UInt8 := [43, 182, 0, 33, 181, 0, 38, 43, 180, 0, 21, 154, 0, 7, 4, 167, 0, 4, 3, 172]
abbrev dktX15_holds_2 : List UInt8 := dkwX15_holds_2 ++ []
def dkwX15_holds_1 : List UInt8 := [180, 0, 21, 153, 0, 5, 3, 172, 42, 42, 180, 0, 13, 199, 0, 7, 9, 167, 0, 11, 42, 180, 0, 13]
abbrev dktX15_holds_1 : List UInt8 := dkwX15_holds_1 ++ dktX15_holds_2
def dkwX15_holds_0 : List UInt8 := [43, 3, 181, 0, 21, 42, 180, 0, 17, 198, 0, 14, 42, 180, 0, 17, 43, 182, 0, 27, 153, 0, 10, 43]
abbrev dktX15_holds_0 : List UInt8 := dkwX15_holds_0 ++ dktX15_holds_1
theorem dksX15_holds_0 : cX15_holds.data.toList.drop 0 = dktX15_holds_0 := by decide +kernel
theorem dksX15_holds_1 : cX15_holds.data.toList.drop 24 = dktX15_holds_1 := dk_seg dksX15_holds_0 24 rfl rfl
theorem dksX15_holds_2 : cX15_holds.data.toList.drop 48 = dktX15_holds_2 := dk_seg dksX15_holds_1 24 rfl rfl
theorem dX15_holds_0 : decode cX15_holds 0 = .ok (.aload_n 1, 1) := dk_43 (dk_at dksX15_holds_0 0 rfl rfl)
theorem dX15_holds_1 : decode cX15_holds 1 = .ok (.iconst 0, 1) := dk_3 (dk_at dksX15_holds_0 1 rfl rfl)
theorem dX15_holds_2 : decode cX15_holds 2 = .ok (.putfield 21, 3) := dk_181 0 21 (dk_at dksX15_holds_0 2 rfl rfl)
theorem dX15_holds_5 : decode cX15_holds 5 = .ok (.aload_n 0, 1) := dk_42 (dk_at dksX15_holds_0 5 rfl rfl)
theorem dX15_holds_6 : decode cX15_holds 6 = .ok (.getfield 17, 3) := dk_180 0 17 (dk_at dksX15_holds_0 6 rfl rfl)
theorem dX15_holds_9 : decode cX15_holds 9 = .ok (.ifnull 14, 3) := dk_198 0 14 (dk_at dksX15_holds_0 9 rfl rfl)
theorem dX15_holds_12 : decode cX15_holds 12 = .ok (.aload_n 0, 1) := dk_42 (dk_at dksX15_holds_0 12 rfl rfl)
theorem dX15_holds_13 : decode cX15_holds 13 = .ok (.getfield 17, 3) := dk_180 0 17 (dk_at dksX15_holds_0 13 rfl rfl)
theorem dX15_holds_16 : decode cX15_holds 16 = .ok (.aload_n 1, 1) := dk_43 (dk_at dksX15_holds_0 16 rfl rfl)
theorem dX15_holds_17 : decode cX15_holds 17 = .ok (.invokevirtual 27, 3) := dk_182 0 27 (dk_at dksX15_holds_0 17 rfl rfl)
theorem dX15_holds_20 : decode cX15_holds 20 = .ok (.ifCond .eq 10, 3) := dk_153 0 10 (dk_at dksX15_holds_0 20 rfl rfl)
theorem dX15_holds_23 : decode cX15_holds 23 = .ok (.aload_n 1, 1) := dk_43 (dk_at dksX15_holds_0 23 rfl rfl)
theorem dX15_holds_24 : decode cX15_holds 24 = .ok (.getfield 21, 3) := dk_180 0 21 (dk_at dksX15_holds_1 0 rfl rfl)
theorem dX15_holds_27 : decode cX15_holds 27 = .ok (.ifCond .eq 5, 3) := dk_153 0 5 (dk_at dksX15_holds_1 3 rfl rfl)
theorem dX15_holds_30 : decode cX15_holds 30 = .ok (.iconst 0, 1) := dk_3 (dk_at dksX15_holds_1 6 rfl rfl)
theorem dX15_holds_31 : decode cX15_holds 31 = .ok (.ireturn, 1) := dk_172 (dk_at dksX15_holds_1 7 rfl rfl)
theorem dX15_holds_32 : decode cX15_holds 32 = .ok (.aload_n 0, 1) := dk_42 (dk_at dksX15_holds_1 8 rfl rfl)
theorem dX15_holds_33 : decode cX15_holds 33 = .ok (.aload_n 0, 1) := dk_42 (dk_at dksX15_holds_1 9 rfl rfl)
theorem dX15_holds_34 : decode cX15_holds 34 = .ok (.getfield 13, 3) := dk_180 0 13 (dk_at dksX15_holds_1 10 rfl rfl)
theorem dX15_holds_37 : decode cX15_holds 37 = .ok (.ifnonnull 7, 3) := dk_199 0 7 (dk_at dksX15_holds_1 13 rfl rfl)
theorem dX15_holds_40 : decode cX15_holds 40 = .ok (.lconst 0, 1) := dk_9 (dk_at dksX15_holds_1 16 rfl rfl)
theorem dX15_holds_41 : decode cX15_holds 41 = .ok (.goto 11, 3) := dk_167 0 11 (dk_at dksX15_holds_1 17 rfl rfl)
theorem dX15_holds_44 : decode cX15_holds 44 = .ok (.aload_n 0, 1) := dk_42 (dk_at dksX15_holds_1 20 rfl rfl)
theorem dX15_holds_45 : decode cX15_holds 45 = .ok (.getfield 13, 3) := dk_180 0 13 (dk_at dksX15_holds_1 21 rfl rfl)
theorem dX15_holds_48 : decode cX15_holds 48 = .ok (.aload_n 1, 1) := dk_43 (dk_at dksX15_holds_2 0 rfl rfl)
theorem dX15_holds_49 : decode cX15_holds 49 = .ok (.invokevirtual 33, 3) := dk_182 0 33 (dk_at dksX15_holds_2 1 rfl rfl)
theorem dX15_holds_52 : decode cX15_holds 52 = .ok (.putfield 38, 3) := dk_181 0 38 (dk_at dksX15_holds_2 4 rfl rfl)
theorem dX15_holds_55 : decode cX15_holds 55 = .ok (.aload_n 1, 1) := dk_43 (dk_at dksX15_holds_2 7 rfl rfl)
theorem dX15_holds_56 : decode cX15_holds 56 = .ok (.getfield 21, 3) := dk_180 0 21 (dk_at dksX15_holds_2 8 rfl rfl)
theorem dX15_holds_59 : decode cX15_holds 59 = .ok (.ifCond .ne 7, 3) := dk_154 0 7 (dk_at dksX15_holds_2 11 rfl rfl)
theorem dX15_holds_62 : decode cX15_holds 62 = .ok (.iconst 1, 1) := dk_4 (dk_at dksX15_holds_2 14 rfl rfl)
theorem dX15_holds_63 : decode cX15_holds 63 = .ok (.goto 4, 3) := dk_167 0 4 (dk_at dksX15_holds_2 15 rfl rfl)
theorem dX15_holds_66 : decode cX15_holds 66 = .ok (.iconst 0, 1) := dk_3 (dk_at dksX15_holds_2 18 rfl rfl)
theorem dX15_holds_67 : decode cX15_holds 67 = .ok (.ireturn, 1) := dk_172 (dk_at dksX15_holds_2 19 rfl rfl)
abbrev cX15_init : ByteArray := prog_6_method_1_code
def yX15_init : MethodName := ⟨RX15, "<init>", "(ILCounterDesk$Sum;LCounterDesk$Test;)V"⟩
def dkwX15_init_0 : List UInt8 := [42, 183, 0, 1, 42, 27, 181, 0, 7, 42, 44, 181, 0, 13, 42, 45, 181, 0, 17, 177]
abbrev dktX15_init_0 : List UInt8 := dkwX15_init_0 ++ []
theorem dksX15_init_0 : cX15_init.data.toList.drop 0 = dktX15_init_0 := by decide +kernel
theorem dX15_init_0 : decode cX15_init 0 = .ok (.aload_n 0, 1) := dk_42 (dk_at dksX15_init_0 0 rfl rfl)
theorem dX15_init_1 : decode cX15_init 1 = .ok (.invokespecial 1, 3) := dk_183 0 1 (dk_at dksX15_init_0 1 rfl rfl)
theorem dX15_init_4 : decode cX15_init 4 = .ok (.aload_n 0, 1) := dk_42 (dk_at dksX15_init_0 4 rfl rfl)
theorem dX15_init_5 : decode cX15_init 5 = .ok (.iload_n 1, 1) := dk_27 (dk_at dksX15_init_0 5 rfl rfl)
theorem dX15_init_6 : decode cX15_init 6 = .ok (.putfield 7, 3) := dk_181 0 7 (dk_at dksX15_init_0 6 rfl rfl)
theorem dX15_init_9 : decode cX15_init 9 = .ok (.aload_n 0, 1) := dk_42 (dk_at dksX15_init_0 9 rfl rfl)
theorem dX15_init_10 : decode cX15_init 10 = .ok (.aload_n 2, 1) := dk_44 (dk_at dksX15_init_0 10 rfl rfl)
theorem dX15_init_11 : decode cX15_init 11 = .ok (.putfield 13, 3) := dk_181 0 13 (dk_at dksX15_init_0 11 rfl rfl)
theorem dX15_init_14 : decode cX15_init 14 = .ok (.aload_n 0, 1) := dk_42 (dk_at dksX15_init_0 14 rfl rfl)
theorem dX15_init_15 : decode cX15_init 15 = .ok (.aload_n 3, 1) := dk_45 (dk_at dksX15_init_0 15 rfl rfl)
theorem dX15_init_16 : decode cX15_init 16 = .ok (.putfield 17, 3) := dk_181 0 17 (dk_at dksX15_init_0 16 rfl rfl)
theorem dX15_init_19 : decode cX15_init 19 = .ok (.return_, 1) := dk_177 (dk_at dksX15_init_0 19 rfl rfl)
theorem q160 : (Jvm.Cond.initialized "CounterDesk$Clause") ∈ lw_all := lw_g (lw_at lw_m1 31 rfl) rfl
theorem q300 : (Jvm.Cond.fieldLinkNest "CounterDesk$Clause" (21 : Nat) "CounterDesk$Asked" "isBroken" "Z" "CounterDesk") ∈ lw_tbl := lw_at lw_m1 171 rfl
theorem q522 : (Jvm.Cond.instanceMethod ({ cls := "CounterDesk$Clause", name := "holds", desc := "(LCounterDesk$Asked;)Z" } : Jvm.MethodName)) ∈ lw_all := lw_g (lw_at lw_m2 153 rfl) rfl
theorem q523 : (Jvm.Cond.selects "CounterDesk$Clause" ({ cls := "CounterDesk$Clause", name := "holds", desc := "(LCounterDesk$Asked;)Z" } : Jvm.MethodName) ({ cls := "CounterDesk$Clause", name := "holds", desc := "(LCounterDesk$Asked;)Z" } : Jvm.MethodName)) ∈ lw_all := lw_g (lw_at lw_m2 154 rfl) rfl
theorem q524 : (Jvm.Cond.code ({ cls := "CounterDesk$Clause", name := "holds", desc := "(LCounterDesk$Asked;)Z" } : Jvm.MethodName) prog_6_method_2_code (2 : Nat) (Option.some Jvm.ClassFile.FieldType.boolean)) ∈ lw_all := lw_g (lw_at lw_m2 155 rfl) rfl
theorem q525 : (Jvm.Cond.methodLink "CounterDesk$Clause" (27 : Nat) ({ cls := "CounterDesk$Test", name := "of", desc := "(LCounterDesk$Asked;)Z" } : Jvm.MethodName)) ∈ lw_all := lw_g (lw_at lw_m2 156 rfl) rfl
theorem q564 : (Jvm.Cond.methodLink "CounterDesk$Clause" (33 : Nat) ({ cls := "CounterDesk$Sum", name := "of", desc := "(LCounterDesk$Asked;)J" } : Jvm.MethodName)) ∈ lw_all := lw_g (lw_at lw_m2 195 rfl) rfl
theorem q1023 : (Jvm.Cond.instantiable "CounterDesk$Clause" (4 : Nat)) ∈ lw_all := lw_g (lw_at lw_m4 174 rfl) rfl
theorem q1104 : (Jvm.Cond.instanceMethod ({ cls := "CounterDesk$Clause", name := "<init>", desc := "(ILCounterDesk$Sum;LCounterDesk$Test;)V" } : Jvm.MethodName)) ∈ lw_all := lw_g (lw_at lw_m5 15 rfl) rfl
theorem q1105 : (Jvm.Cond.code ({ cls := "CounterDesk$Clause", name := "<init>", desc := "(ILCounterDesk$Sum;LCounterDesk$Test;)V" } : Jvm.MethodName) prog_6_method_1_code (4 : Nat) (Option.none : Option Jvm.ClassFile.FieldType)) ∈ lw_all := lw_g (lw_at lw_m5 16 rfl) rfl
theorem q1106 : (Jvm.Cond.methodLink "CounterDesk$Clause" (1 : Nat) ({ cls := "java/lang/Object", name := "<init>", desc := "()V" } : Jvm.MethodName)) ∈ lw_all := lw_g (lw_at lw_m5 17 rfl) rfl
theorem q1107 : (Jvm.Cond.fieldLink "CounterDesk$Clause" (7 : Nat) "CounterDesk$Clause" "head" "I") ∈ lw_all := lw_g (lw_at lw_m5 18 rfl) rfl
theorem q1109 : (Jvm.Cond.fieldLink "CounterDesk$Clause" (13 : Nat) "CounterDesk$Clause" "sum" "LCounterDesk$Sum;") ∈ lw_all := lw_g (lw_at lw_m5 20 rfl) rfl
theorem q1110 : (Jvm.Cond.fieldLink "CounterDesk$Clause" (17 : Nat) "CounterDesk$Clause" "test" "LCounterDesk$Test;") ∈ lw_all := lw_g (lw_at lw_m5 21 rfl) rfl
theorem q1111 : (Jvm.Cond.fieldLink "CounterDesk$Clause" (38 : Nat) "CounterDesk$Clause" "told" "J") ∈ lw_all := lw_g (lw_at lw_m5 22 rfl) rfl
theorem q1113 : (Jvm.Cond.laysFinal "CounterDesk$Clause" "CounterDesk$Clause" "head" "I") ∈ lw_all := lw_g (lw_at lw_m5 24 rfl) rfl
theorem q1114 : (Jvm.Cond.soleField "CounterDesk$Clause" "head") ∈ lw_all := lw_g (lw_at lw_m5 25 rfl) rfl
theorem q1115 : (Jvm.Cond.laysFinal "CounterDesk$Clause" "CounterDesk$Clause" "sum" "LCounterDesk$Sum;") ∈ lw_all := lw_g (lw_at lw_m5 26 rfl) rfl
theorem q1116 : (Jvm.Cond.soleField "CounterDesk$Clause" "sum") ∈ lw_all := lw_g (lw_at lw_m5 27 rfl) rfl
theorem q1117 : (Jvm.Cond.laysFinal "CounterDesk$Clause" "CounterDesk$Clause" "test" "LCounterDesk$Test;") ∈ lw_all := lw_g (lw_at lw_m5 28 rfl) rfl
theorem q1118 : (Jvm.Cond.soleField "CounterDesk$Clause" "test") ∈ lw_all := lw_g (lw_at lw_m5 29 rfl) rfl
theorem q1119 : (Jvm.Cond.lays "CounterDesk$Clause" "CounterDesk$Clause" "told" "J") ∈ lw_all := lw_g (lw_at lw_m5 30 rfl) rfl
theorem q1120 : (Jvm.Cond.soleField "CounterDesk$Clause" "told") ∈ lw_all := lw_g (lw_at lw_m5 31 rfl) rfl
theorem q1121 : (Jvm.Cond.superclass "CounterDesk$Clause" "java/lang/Object") ∈ lw_all := lw_g (lw_at lw_m5 32 rfl) rfl
theorem q1229 : (Jvm.Cond.selects "CounterDesk$Clause" ({ cls := "java/lang/Object", name := "getClass", desc := "()Ljava/lang/Class;" } : Jvm.MethodName) ({ cls := "java/lang/Object", name := "getClass", desc := "()Ljava/lang/Class;" } : Jvm.MethodName)) ∈ lw_all := lw_g (lw_at lw_m5 140 rfl) rfl
theorem q2313 : (Jvm.Cond.castable "CounterDesk$Clause" "java/lang/Object") ∈ lw_tbl := lw_at lw_m10 24 rfl
theorem in_X15 : ∀ w ∈ wsX150, w ∈ lw_all := lw_in wsX150 [1113, 1115, 1117, 1119] (by decide +kernel) (by decide +kernel)

/-! CounterDesk$Test -/
set_option maxRecDepth 100000
def RX16 : String := "CounterDesk$Test"
abbrev cX16_init : ByteArray := prog_20_method_1_code
def yX16_init : MethodName := ⟨RX16, "<init>", "()V"⟩
theorem dX16_init_0 : decode cX16_init 0 = .ok (.aload_n 0, 1) := by decide +kernel
theorem dX16_init_1 : decode cX16_init 1 = .ok (.invokespecial 1, 3) := by decide +kernel
theorem dX16_init_4 : decode cX16_init 4 = .ok (.return_, 1) := by decide +kernel
theorem q161 : (Jvm.Cond.initialized "CounterDesk$Test") ∈ lw_all := lw_g (lw_at lw_m1 32 rfl) rfl
theorem q526 : (Jvm.Cond.declares ({ cls := "CounterDesk$Test", name := "of", desc := "(LCounterDesk$Asked;)Z" } : Jvm.MethodName)) ∈ lw_tbl := lw_at lw_m2 157 rfl
theorem q527 : (Jvm.Cond.sameMethod "CounterDesk$Test" "CounterDesk$Test" "of" "(LCounterDesk$Asked;)Z") ∈ lw_all := lw_g (lw_at lw_m2 158 rfl) rfl
theorem q1056 : (Jvm.Cond.instanceMethod ({ cls := "CounterDesk$Test", name := "<init>", desc := "()V" } : Jvm.MethodName)) ∈ lw_all := lw_g (lw_at lw_m4 207 rfl) rfl
theorem q1057 : (Jvm.Cond.code ({ cls := "CounterDesk$Test", name := "<init>", desc := "()V" } : Jvm.MethodName) prog_20_method_1_code (1 : Nat) (Option.none : Option Jvm.ClassFile.FieldType)) ∈ lw_all := lw_g (lw_at lw_m4 208 rfl) rfl
theorem q1058 : (Jvm.Cond.methodLink "CounterDesk$Test" (1 : Nat) ({ cls := "java/lang/Object", name := "<init>", desc := "()V" } : Jvm.MethodName)) ∈ lw_all := lw_g (lw_at lw_m4 209 rfl) rfl
theorem q2315 : (Jvm.Cond.castable "CounterDesk$Test" "java/lang/Object") ∈ lw_tbl := lw_at lw_m10 26 rfl

/-! CounterDesk$Compared -/
set_option maxRecDepth 100000
def RX17 : String := "CounterDesk$Compared"
def TX17 : u_T := fun k => match k with
  | 0 => ("CounterDesk$Compared", "one", "LCounterDesk$Sum;", true)
  | 1 => ("CounterDesk$Compared", "other", "LCounterDesk$Sum;", true)
  | _ => ("CounterDesk$Compared", "sign", "I", true)
def tyX17 : Nat → FieldType := fun k => match k with
  | 0 => .object "CounterDesk$Sum"
  | 1 => .object "CounterDesk$Sum"
  | _ => .int
abbrev wsX170 : List Cond := u_ws RX17 TX17 3
theorem nmX17 : ∀ a, a < 3 → ∀ b, b < 3 → a ≠ b → (TX17 a).2.1 ≠ (TX17 b).2.1 := by decide +kernel
theorem tyX17_ok : ∀ k, k < 3 → parseFieldDescriptor (TX17 k).2.2.1 = some (tyX17 k) := by decide +kernel
abbrev cX17_of : ByteArray := prog_7_method_2_code
def yX17_of : MethodName := ⟨RX17, "of", "(LCounterDesk$Asked;)Z"⟩
def dkwX17_of_3 : List UInt8 := [158, 0, 17, 167, 0, 10, 32, 22, 4, 148, 154, 0, 7, 4, 167, 0, 4, 3, 172]
abbrev dktX17_of_3 : List UInt8 := dkwX17_of_3 ++ []
def dkwX17_of_2 : List UInt8 := [22, 4, 148, 156, 0, 36, 167, 0, 29, 42, 180, 0, 13, 16, 62, 160, 0, 13, 32, 22, 4, 148]
abbrev dktX17_of_2 : List UInt8 := dkwX17_of_2 ++ dktX17_of_3
def dkwX17_of_1 : List UInt8 := [43, 182, 0, 20, 55, 4, 43, 180, 0, 26, 154, 0, 52, 42, 180, 0, 13, 16, 60, 160, 0, 13, 32]
abbrev dktX17_of_1 : List UInt8 := dkwX17_of_1 ++ dktX17_of_2
def dkwX17_of_0 : List UInt8 := [42, 180, 0, 7, 43, 182, 0, 20, 65, 43, 180, 0, 26, 153, 0, 7, 9, 167, 0, 11, 42, 180, 0, 17]
abbrev dktX17_of_0 : List UInt8 := dkwX17_of_0 ++ dktX17_of_1
theorem dksX17_of_0 : cX17_of.data.toList.drop 0 = dktX17_of_0 := by decide +kernel
theorem dksX17_of_1 : cX17_of.data.toList.drop 24 = dktX17_of_1 := dk_seg dksX17_of_0 24 rfl rfl
theorem dksX17_of_2 : cX17_of.data.toList.drop 47 = dktX17_of_2 := dk_seg dksX17_of_1 23 rfl rfl
theorem dksX17_of_3 : cX17_of.data.toList.drop 69 = dktX17_of_3 := dk_seg dksX17_of_2 22 rfl rfl
theorem dX17_of_0 : decode cX17_of 0 = .ok (.aload_n 0, 1) := dk_42 (dk_at dksX17_of_0 0 rfl rfl)
theorem dX17_of_1 : decode cX17_of 1 = .ok (.getfield 7, 3) := dk_180 0 7 (dk_at dksX17_of_0 1 rfl rfl)
theorem dX17_of_4 : decode cX17_of 4 = .ok (.aload_n 1, 1) := dk_43 (dk_at dksX17_of_0 4 rfl rfl)
theorem dX17_of_5 : decode cX17_of 5 = .ok (.invokevirtual 20, 3) := dk_182 0 20 (dk_at dksX17_of_0 5 rfl rfl)
theorem dX17_of_8 : decode cX17_of 8 = .ok (.lstore_n 2, 1) := dk_65 (dk_at dksX17_of_0 8 rfl rfl)
theorem dX17_of_9 : decode cX17_of 9 = .ok (.aload_n 1, 1) := dk_43 (dk_at dksX17_of_0 9 rfl rfl)
theorem dX17_of_10 : decode cX17_of 10 = .ok (.getfield 26, 3) := dk_180 0 26 (dk_at dksX17_of_0 10 rfl rfl)
theorem dX17_of_13 : decode cX17_of 13 = .ok (.ifCond .eq 7, 3) := dk_153 0 7 (dk_at dksX17_of_0 13 rfl rfl)
theorem dX17_of_16 : decode cX17_of 16 = .ok (.lconst 0, 1) := dk_9 (dk_at dksX17_of_0 16 rfl rfl)
theorem dX17_of_17 : decode cX17_of 17 = .ok (.goto 11, 3) := dk_167 0 11 (dk_at dksX17_of_0 17 rfl rfl)
theorem dX17_of_20 : decode cX17_of 20 = .ok (.aload_n 0, 1) := dk_42 (dk_at dksX17_of_0 20 rfl rfl)
theorem dX17_of_21 : decode cX17_of 21 = .ok (.getfield 17, 3) := dk_180 0 17 (dk_at dksX17_of_0 21 rfl rfl)
theorem dX17_of_24 : decode cX17_of 24 = .ok (.aload_n 1, 1) := dk_43 (dk_at dksX17_of_1 0 rfl rfl)
theorem dX17_of_25 : decode cX17_of 25 = .ok (.invokevirtual 20, 3) := dk_182 0 20 (dk_at dksX17_of_1 1 rfl rfl)
theorem dX17_of_28 : decode cX17_of 28 = .ok (.lstore 4, 2) := dk_55 4 (dk_at dksX17_of_1 4 rfl rfl)
theorem dX17_of_30 : decode cX17_of 30 = .ok (.aload_n 1, 1) := dk_43 (dk_at dksX17_of_1 6 rfl rfl)
theorem dX17_of_31 : decode cX17_of 31 = .ok (.getfield 26, 3) := dk_180 0 26 (dk_at dksX17_of_1 7 rfl rfl)
theorem dX17_of_34 : decode cX17_of 34 = .ok (.ifCond .ne 52, 3) := dk_154 0 52 (dk_at dksX17_of_1 10 rfl rfl)
theorem dX17_of_37 : decode cX17_of 37 = .ok (.aload_n 0, 1) := dk_42 (dk_at dksX17_of_1 13 rfl rfl)
theorem dX17_of_38 : decode cX17_of 38 = .ok (.getfield 13, 3) := dk_180 0 13 (dk_at dksX17_of_1 14 rfl rfl)
theorem dX17_of_41 : decode cX17_of 41 = .ok (.bipush 60, 2) := dk_16 60 (dk_at dksX17_of_1 17 rfl rfl)
theorem dX17_of_43 : decode cX17_of 43 = .ok (.if_icmp .ne 13, 3) := dk_160 0 13 (dk_at dksX17_of_1 19 rfl rfl)
theorem dX17_of_46 : decode cX17_of 46 = .ok (.lload_n 2, 1) := dk_32 (dk_at dksX17_of_1 22 rfl rfl)
theorem dX17_of_47 : decode cX17_of 47 = .ok (.lload 4, 2) := dk_22 4 (dk_at dksX17_of_2 0 rfl rfl)
theorem dX17_of_49 : decode cX17_of 49 = .ok (.lcmp, 1) := dk_148 (dk_at dksX17_of_2 2 rfl rfl)
theorem dX17_of_50 : decode cX17_of 50 = .ok (.ifCond .ge 36, 3) := dk_156 0 36 (dk_at dksX17_of_2 3 rfl rfl)
theorem dX17_of_53 : decode cX17_of 53 = .ok (.goto 29, 3) := dk_167 0 29 (dk_at dksX17_of_2 6 rfl rfl)
theorem dX17_of_56 : decode cX17_of 56 = .ok (.aload_n 0, 1) := dk_42 (dk_at dksX17_of_2 9 rfl rfl)
theorem dX17_of_57 : decode cX17_of 57 = .ok (.getfield 13, 3) := dk_180 0 13 (dk_at dksX17_of_2 10 rfl rfl)
theorem dX17_of_60 : decode cX17_of 60 = .ok (.bipush 62, 2) := dk_16 62 (dk_at dksX17_of_2 13 rfl rfl)
theorem dX17_of_62 : decode cX17_of 62 = .ok (.if_icmp .ne 13, 3) := dk_160 0 13 (dk_at dksX17_of_2 15 rfl rfl)
theorem dX17_of_65 : decode cX17_of 65 = .ok (.lload_n 2, 1) := dk_32 (dk_at dksX17_of_2 18 rfl rfl)
theorem dX17_of_66 : decode cX17_of 66 = .ok (.lload 4, 2) := dk_22 4 (dk_at dksX17_of_2 19 rfl rfl)
theorem dX17_of_68 : decode cX17_of 68 = .ok (.lcmp, 1) := dk_148 (dk_at dksX17_of_2 21 rfl rfl)
theorem dX17_of_69 : decode cX17_of 69 = .ok (.ifCond .le 17, 3) := dk_158 0 17 (dk_at dksX17_of_3 0 rfl rfl)
theorem dX17_of_72 : decode cX17_of 72 = .ok (.goto 10, 3) := dk_167 0 10 (dk_at dksX17_of_3 3 rfl rfl)
theorem dX17_of_75 : decode cX17_of 75 = .ok (.lload_n 2, 1) := dk_32 (dk_at dksX17_of_3 6 rfl rfl)
theorem dX17_of_76 : decode cX17_of 76 = .ok (.lload 4, 2) := dk_22 4 (dk_at dksX17_of_3 7 rfl rfl)
theorem dX17_of_78 : decode cX17_of 78 = .ok (.lcmp, 1) := dk_148 (dk_at dksX17_of_3 9 rfl rfl)
theorem dX17_of_79 : decode cX17_of 79 = .ok (.ifCond .ne 7, 3) := dk_154 0 7 (dk_at dksX17_of_3 10 rfl rfl)
theorem dX17_of_82 : decode cX17_of 82 = .ok (.iconst 1, 1) := dk_4 (dk_at dksX17_of_3 13 rfl rfl)
theorem dX17_of_83 : decode cX17_of 83 = .ok (.goto 4, 3) := dk_167 0 4 (dk_at dksX17_of_3 14 rfl rfl)
theorem dX17_of_86 : decode cX17_of 86 = .ok (.iconst 0, 1) := dk_3 (dk_at dksX17_of_3 17 rfl rfl)
theorem dX17_of_87 : decode cX17_of 87 = .ok (.ireturn, 1) := dk_172 (dk_at dksX17_of_3 18 rfl rfl)
abbrev cX17_init : ByteArray := prog_7_method_1_code
def yX17_init : MethodName := ⟨RX17, "<init>", "(LCounterDesk$Sum;ILCounterDesk$Sum;)V"⟩
def dkwX17_init_0 : List UInt8 := [42, 183, 0, 1, 42, 43, 181, 0, 7, 42, 28, 181, 0, 13, 42, 45, 181, 0, 17, 177]
abbrev dktX17_init_0 : List UInt8 := dkwX17_init_0 ++ []
theorem dksX17_init_0 : cX17_init.data.toList.drop 0 = dktX17_init_0 := by decide +kernel
theorem dX17_init_0 : decode cX17_init 0 = .ok (.aload_n 0, 1) := dk_42 (dk_at dksX17_init_0 0 rfl rfl)
theorem dX17_init_1 : decode cX17_init 1 = .ok (.invokespecial 1, 3) := dk_183 0 1 (dk_at dksX17_init_0 1 rfl rfl)
theorem dX17_init_4 : decode cX17_init 4 = .ok (.aload_n 0, 1) := dk_42 (dk_at dksX17_init_0 4 rfl rfl)
theorem dX17_init_5 : decode cX17_init 5 = .ok (.aload_n 1, 1) := dk_43 (dk_at dksX17_init_0 5 rfl rfl)
theorem dX17_init_6 : decode cX17_init 6 = .ok (.putfield 7, 3) := dk_181 0 7 (dk_at dksX17_init_0 6 rfl rfl)
theorem dX17_init_9 : decode cX17_init 9 = .ok (.aload_n 0, 1) := dk_42 (dk_at dksX17_init_0 9 rfl rfl)
theorem dX17_init_10 : decode cX17_init 10 = .ok (.iload_n 2, 1) := dk_28 (dk_at dksX17_init_0 10 rfl rfl)
theorem dX17_init_11 : decode cX17_init 11 = .ok (.putfield 13, 3) := dk_181 0 13 (dk_at dksX17_init_0 11 rfl rfl)
theorem dX17_init_14 : decode cX17_init 14 = .ok (.aload_n 0, 1) := dk_42 (dk_at dksX17_init_0 14 rfl rfl)
theorem dX17_init_15 : decode cX17_init 15 = .ok (.aload_n 3, 1) := dk_45 (dk_at dksX17_init_0 15 rfl rfl)
theorem dX17_init_16 : decode cX17_init 16 = .ok (.putfield 17, 3) := dk_181 0 17 (dk_at dksX17_init_0 16 rfl rfl)
theorem dX17_init_19 : decode cX17_init 19 = .ok (.return_, 1) := dk_177 (dk_at dksX17_init_0 19 rfl rfl)
theorem q162 : (Jvm.Cond.initialized "CounterDesk$Compared") ∈ lw_all := lw_g (lw_at lw_m1 33 rfl) rfl
theorem q303 : (Jvm.Cond.fieldLinkNest "CounterDesk$Compared" (26 : Nat) "CounterDesk$Asked" "isBroken" "Z" "CounterDesk") ∈ lw_tbl := lw_at lw_m1 174 rfl
theorem q528 : (Jvm.Cond.selects "CounterDesk$Compared" ({ cls := "CounterDesk$Test", name := "of", desc := "(LCounterDesk$Asked;)Z" } : Jvm.MethodName) ({ cls := "CounterDesk$Compared", name := "of", desc := "(LCounterDesk$Asked;)Z" } : Jvm.MethodName)) ∈ lw_all := lw_g (lw_at lw_m2 159 rfl) rfl
theorem q529 : (Jvm.Cond.instanceMethod ({ cls := "CounterDesk$Compared", name := "of", desc := "(LCounterDesk$Asked;)Z" } : Jvm.MethodName)) ∈ lw_all := lw_g (lw_at lw_m2 160 rfl) rfl
theorem q530 : (Jvm.Cond.code ({ cls := "CounterDesk$Compared", name := "of", desc := "(LCounterDesk$Asked;)Z" } : Jvm.MethodName) prog_7_method_2_code (6 : Nat) (Option.some Jvm.ClassFile.FieldType.boolean)) ∈ lw_all := lw_g (lw_at lw_m2 161 rfl) rfl
theorem q531 : (Jvm.Cond.methodLink "CounterDesk$Compared" (20 : Nat) ({ cls := "CounterDesk$Sum", name := "of", desc := "(LCounterDesk$Asked;)J" } : Jvm.MethodName)) ∈ lw_all := lw_g (lw_at lw_m2 162 rfl) rfl
theorem q1051 : (Jvm.Cond.instantiable "CounterDesk$Compared" (3 : Nat)) ∈ lw_all := lw_g (lw_at lw_m4 202 rfl) rfl
theorem q1053 : (Jvm.Cond.instanceMethod ({ cls := "CounterDesk$Compared", name := "<init>", desc := "(LCounterDesk$Sum;ILCounterDesk$Sum;)V" } : Jvm.MethodName)) ∈ lw_all := lw_g (lw_at lw_m4 204 rfl) rfl
theorem q1054 : (Jvm.Cond.code ({ cls := "CounterDesk$Compared", name := "<init>", desc := "(LCounterDesk$Sum;ILCounterDesk$Sum;)V" } : Jvm.MethodName) prog_7_method_1_code (4 : Nat) (Option.none : Option Jvm.ClassFile.FieldType)) ∈ lw_all := lw_g (lw_at lw_m4 205 rfl) rfl
theorem q1055 : (Jvm.Cond.methodLinkNest "CounterDesk$Compared" (1 : Nat) ({ cls := "CounterDesk$Test", name := "<init>", desc := "()V" } : Jvm.MethodName) "CounterDesk") ∈ lw_tbl := lw_at lw_m4 206 rfl
theorem q1059 : (Jvm.Cond.fieldLink "CounterDesk$Compared" (7 : Nat) "CounterDesk$Compared" "one" "LCounterDesk$Sum;") ∈ lw_all := lw_g (lw_at lw_m4 210 rfl) rfl
theorem q1060 : (Jvm.Cond.fieldLink "CounterDesk$Compared" (17 : Nat) "CounterDesk$Compared" "other" "LCounterDesk$Sum;") ∈ lw_all := lw_g (lw_at lw_m4 211 rfl) rfl
theorem q1061 : (Jvm.Cond.fieldLink "CounterDesk$Compared" (13 : Nat) "CounterDesk$Compared" "sign" "I") ∈ lw_all := lw_g (lw_at lw_m4 212 rfl) rfl
theorem q1062 : (Jvm.Cond.laysFinal "CounterDesk$Compared" "CounterDesk$Compared" "one" "LCounterDesk$Sum;") ∈ lw_all := lw_g (lw_at lw_m4 213 rfl) rfl
theorem q1063 : (Jvm.Cond.soleField "CounterDesk$Compared" "one") ∈ lw_all := lw_g (lw_at lw_m4 214 rfl) rfl
theorem q1064 : (Jvm.Cond.laysFinal "CounterDesk$Compared" "CounterDesk$Compared" "other" "LCounterDesk$Sum;") ∈ lw_all := lw_g (lw_at lw_m4 215 rfl) rfl
theorem q1065 : (Jvm.Cond.soleField "CounterDesk$Compared" "other") ∈ lw_all := lw_g (lw_at lw_m4 216 rfl) rfl
theorem q1066 : (Jvm.Cond.laysFinal "CounterDesk$Compared" "CounterDesk$Compared" "sign" "I") ∈ lw_all := lw_g (lw_at lw_m4 217 rfl) rfl
theorem q1067 : (Jvm.Cond.soleField "CounterDesk$Compared" "sign") ∈ lw_all := lw_g (lw_at lw_m4 218 rfl) rfl
theorem q1068 : (Jvm.Cond.superclass "CounterDesk$Compared" "CounterDesk$Test") ∈ lw_all := lw_g (lw_at lw_m4 219 rfl) rfl
theorem q1230 : (Jvm.Cond.selects "CounterDesk$Compared" ({ cls := "java/lang/Object", name := "getClass", desc := "()Ljava/lang/Class;" } : Jvm.MethodName) ({ cls := "java/lang/Object", name := "getClass", desc := "()Ljava/lang/Class;" } : Jvm.MethodName)) ∈ lw_all := lw_g (lw_at lw_m5 141 rfl) rfl
theorem q2329 : (Jvm.Cond.castable "CounterDesk$Compared" "java/lang/Object") ∈ lw_tbl := lw_at lw_m10 40 rfl
theorem q2336 : (Jvm.Cond.castable "CounterDesk$Compared" "CounterDesk$Test") ∈ lw_tbl := lw_at lw_m10 47 rfl
theorem in_X17 : ∀ w ∈ wsX170, w ∈ lw_all := lw_in wsX170 [1062, 1064, 1066] (by decide +kernel) (by decide +kernel)

/-! CounterDesk$Not -/
set_option maxRecDepth 100000
def RX18 : String := "CounterDesk$Not"
def TX18 : u_T := fun k => match k with
  | _ => ("CounterDesk$Not", "test", "LCounterDesk$Test;", true)
def tyX18 : Nat → FieldType := fun k => match k with
  | _ => .object "CounterDesk$Test"
abbrev wsX180 : List Cond := u_ws RX18 TX18 1
theorem nmX18 : ∀ a, a < 1 → ∀ b, b < 1 → a ≠ b → (TX18 a).2.1 ≠ (TX18 b).2.1 := by decide +kernel
theorem tyX18_ok : ∀ k, k < 1 → parseFieldDescriptor (TX18 k).2.2.1 = some (tyX18 k) := by decide +kernel
abbrev cX18_of : ByteArray := prog_12_method_2_code
def yX18_of : MethodName := ⟨RX18, "of", "(LCounterDesk$Asked;)Z"⟩
def dkwX18_of_0 : List UInt8 := [42, 180, 0, 7, 43, 182, 0, 13, 154, 0, 14, 43, 180, 0, 17, 154, 0, 7, 4, 167, 0, 4, 3, 172]
abbrev dktX18_of_0 : List UInt8 := dkwX18_of_0 ++ []
theorem dksX18_of_0 : cX18_of.data.toList.drop 0 = dktX18_of_0 := by decide +kernel
theorem dX18_of_0 : decode cX18_of 0 = .ok (.aload_n 0, 1) := dk_42 (dk_at dksX18_of_0 0 rfl rfl)
theorem dX18_of_1 : decode cX18_of 1 = .ok (.getfield 7, 3) := dk_180 0 7 (dk_at dksX18_of_0 1 rfl rfl)
theorem dX18_of_4 : decode cX18_of 4 = .ok (.aload_n 1, 1) := dk_43 (dk_at dksX18_of_0 4 rfl rfl)
theorem dX18_of_5 : decode cX18_of 5 = .ok (.invokevirtual 13, 3) := dk_182 0 13 (dk_at dksX18_of_0 5 rfl rfl)
theorem dX18_of_8 : decode cX18_of 8 = .ok (.ifCond .ne 14, 3) := dk_154 0 14 (dk_at dksX18_of_0 8 rfl rfl)
theorem dX18_of_11 : decode cX18_of 11 = .ok (.aload_n 1, 1) := dk_43 (dk_at dksX18_of_0 11 rfl rfl)
theorem dX18_of_12 : decode cX18_of 12 = .ok (.getfield 17, 3) := dk_180 0 17 (dk_at dksX18_of_0 12 rfl rfl)
theorem dX18_of_15 : decode cX18_of 15 = .ok (.ifCond .ne 7, 3) := dk_154 0 7 (dk_at dksX18_of_0 15 rfl rfl)
theorem dX18_of_18 : decode cX18_of 18 = .ok (.iconst 1, 1) := dk_4 (dk_at dksX18_of_0 18 rfl rfl)
theorem dX18_of_19 : decode cX18_of 19 = .ok (.goto 4, 3) := dk_167 0 4 (dk_at dksX18_of_0 19 rfl rfl)
theorem dX18_of_22 : decode cX18_of 22 = .ok (.iconst 0, 1) := dk_3 (dk_at dksX18_of_0 22 rfl rfl)
theorem dX18_of_23 : decode cX18_of 23 = .ok (.ireturn, 1) := dk_172 (dk_at dksX18_of_0 23 rfl rfl)
abbrev cX18_init : ByteArray := prog_12_method_1_code
def yX18_init : MethodName := ⟨RX18, "<init>", "(LCounterDesk$Test;)V"⟩
def dkwX18_init_0 : List UInt8 := [42, 183, 0, 1, 42, 43, 181, 0, 7, 177]
abbrev dktX18_init_0 : List UInt8 := dkwX18_init_0 ++ []
theorem dksX18_init_0 : cX18_init.data.toList.drop 0 = dktX18_init_0 := by decide +kernel
theorem dX18_init_0 : decode cX18_init 0 = .ok (.aload_n 0, 1) := dk_42 (dk_at dksX18_init_0 0 rfl rfl)
theorem dX18_init_1 : decode cX18_init 1 = .ok (.invokespecial 1, 3) := dk_183 0 1 (dk_at dksX18_init_0 1 rfl rfl)
theorem dX18_init_4 : decode cX18_init 4 = .ok (.aload_n 0, 1) := dk_42 (dk_at dksX18_init_0 4 rfl rfl)
theorem dX18_init_5 : decode cX18_init 5 = .ok (.aload_n 1, 1) := dk_43 (dk_at dksX18_init_0 5 rfl rfl)
theorem dX18_init_6 : decode cX18_init 6 = .ok (.putfield 7, 3) := dk_181 0 7 (dk_at dksX18_init_0 6 rfl rfl)
theorem dX18_init_9 : decode cX18_init 9 = .ok (.return_, 1) := dk_177 (dk_at dksX18_init_0 9 rfl rfl)
theorem q163 : (Jvm.Cond.initialized "CounterDesk$Not") ∈ lw_all := lw_g (lw_at lw_m1 34 rfl) rfl
theorem q304 : (Jvm.Cond.fieldLinkNest "CounterDesk$Not" (17 : Nat) "CounterDesk$Asked" "isBroken" "Z" "CounterDesk") ∈ lw_tbl := lw_at lw_m1 175 rfl
theorem q556 : (Jvm.Cond.selects "CounterDesk$Not" ({ cls := "CounterDesk$Test", name := "of", desc := "(LCounterDesk$Asked;)Z" } : Jvm.MethodName) ({ cls := "CounterDesk$Not", name := "of", desc := "(LCounterDesk$Asked;)Z" } : Jvm.MethodName)) ∈ lw_all := lw_g (lw_at lw_m2 187 rfl) rfl
theorem q557 : (Jvm.Cond.instanceMethod ({ cls := "CounterDesk$Not", name := "of", desc := "(LCounterDesk$Asked;)Z" } : Jvm.MethodName)) ∈ lw_all := lw_g (lw_at lw_m2 188 rfl) rfl
theorem q558 : (Jvm.Cond.code ({ cls := "CounterDesk$Not", name := "of", desc := "(LCounterDesk$Asked;)Z" } : Jvm.MethodName) prog_12_method_2_code (2 : Nat) (Option.some Jvm.ClassFile.FieldType.boolean)) ∈ lw_all := lw_g (lw_at lw_m2 189 rfl) rfl
theorem q559 : (Jvm.Cond.methodLink "CounterDesk$Not" (13 : Nat) ({ cls := "CounterDesk$Test", name := "of", desc := "(LCounterDesk$Asked;)Z" } : Jvm.MethodName)) ∈ lw_all := lw_g (lw_at lw_m2 190 rfl) rfl
theorem q1070 : (Jvm.Cond.instantiable "CounterDesk$Not" (1 : Nat)) ∈ lw_all := lw_g (lw_at lw_m4 221 rfl) rfl
theorem q1072 : (Jvm.Cond.instanceMethod ({ cls := "CounterDesk$Not", name := "<init>", desc := "(LCounterDesk$Test;)V" } : Jvm.MethodName)) ∈ lw_all := lw_g (lw_at lw_m4 223 rfl) rfl
theorem q1073 : (Jvm.Cond.code ({ cls := "CounterDesk$Not", name := "<init>", desc := "(LCounterDesk$Test;)V" } : Jvm.MethodName) prog_12_method_1_code (2 : Nat) (Option.none : Option Jvm.ClassFile.FieldType)) ∈ lw_all := lw_g (lw_at lw_m4 224 rfl) rfl
theorem q1074 : (Jvm.Cond.methodLinkNest "CounterDesk$Not" (1 : Nat) ({ cls := "CounterDesk$Test", name := "<init>", desc := "()V" } : Jvm.MethodName) "CounterDesk") ∈ lw_tbl := lw_at lw_m4 225 rfl
theorem q1075 : (Jvm.Cond.fieldLink "CounterDesk$Not" (7 : Nat) "CounterDesk$Not" "test" "LCounterDesk$Test;") ∈ lw_all := lw_g (lw_at lw_m4 226 rfl) rfl
theorem q1076 : (Jvm.Cond.laysFinal "CounterDesk$Not" "CounterDesk$Not" "test" "LCounterDesk$Test;") ∈ lw_all := lw_g (lw_at lw_m4 227 rfl) rfl
theorem q1077 : (Jvm.Cond.soleField "CounterDesk$Not" "test") ∈ lw_all := lw_g (lw_at lw_m4 228 rfl) rfl
theorem q1078 : (Jvm.Cond.superclass "CounterDesk$Not" "CounterDesk$Test") ∈ lw_all := lw_g (lw_at lw_m4 229 rfl) rfl
theorem q1235 : (Jvm.Cond.selects "CounterDesk$Not" ({ cls := "java/lang/Object", name := "getClass", desc := "()Ljava/lang/Class;" } : Jvm.MethodName) ({ cls := "java/lang/Object", name := "getClass", desc := "()Ljava/lang/Class;" } : Jvm.MethodName)) ∈ lw_all := lw_g (lw_at lw_m5 146 rfl) rfl
theorem q2330 : (Jvm.Cond.castable "CounterDesk$Not" "java/lang/Object") ∈ lw_tbl := lw_at lw_m10 41 rfl
theorem q2337 : (Jvm.Cond.castable "CounterDesk$Not" "CounterDesk$Test") ∈ lw_tbl := lw_at lw_m10 48 rfl
theorem in_X18 : ∀ w ∈ wsX180, w ∈ lw_all := lw_in wsX180 [1076] (by decide +kernel) (by decide +kernel)

/-! CounterDesk$Row -/
set_option maxRecDepth 100000
def RX19 : String := "CounterDesk$Row"
def TX19 : u_T := fun k => match k with
  | 0 => ("CounterDesk$Row", "all", "Z", true)
  | _ => ("CounterDesk$Row", "tests", "[LCounterDesk$Test;", true)
def tyX19 : Nat → FieldType := fun k => match k with
  | 0 => .boolean
  | _ => .array (.object "CounterDesk$Test")
abbrev wsX190 : List Cond := u_ws RX19 TX19 2
theorem nmX19 : ∀ a, a < 2 → ∀ b, b < 2 → a ≠ b → (TX19 a).2.1 ≠ (TX19 b).2.1 := by decide +kernel
theorem tyX19_ok : ∀ k, k < 2 → parseFieldDescriptor (TX19 k).2.2.1 = some (tyX19 k) := by decide +kernel
abbrev cX19_of : ByteArray := prog_17_method_2_code
def yX19_of : MethodName := ⟨RX19, "of", "(LCounterDesk$Asked;)Z"⟩
def dkwX19_of_3 : List UInt8 := [180, 0, 7, 172]
abbrev dktX19_of_3 : List UInt8 := dkwX19_of_3 ++ []
def dkwX19_of_2 : List UInt8 := [159, 0, 16, 42, 180, 0, 7, 154, 0, 7, 4, 167, 0, 4, 3, 172, 132, 4, 1, 167, 255, 202, 42]
abbrev dktX19_of_2 : List UInt8 := dkwX19_of_2 ++ dktX19_of_3
def dkwX19_of_1 : List UInt8 := [25, 5, 43, 182, 0, 17, 54, 6, 43, 180, 0, 21, 153, 0, 5, 3, 172, 21, 6, 42, 180, 0, 7]
abbrev dktX19_of_1 : List UInt8 := dkwX19_of_1 ++ dktX19_of_2
def dkwX19_of_0 : List UInt8 := [42, 180, 0, 13, 77, 44, 190, 62, 3, 54, 4, 21, 4, 29, 162, 0, 54, 44, 21, 4, 50, 58, 5]
abbrev dktX19_of_0 : List UInt8 := dkwX19_of_0 ++ dktX19_of_1
theorem dksX19_of_0 : cX19_of.data.toList.drop 0 = dktX19_of_0 := by decide +kernel
theorem dksX19_of_1 : cX19_of.data.toList.drop 23 = dktX19_of_1 := dk_seg dksX19_of_0 23 rfl rfl
theorem dksX19_of_2 : cX19_of.data.toList.drop 46 = dktX19_of_2 := dk_seg dksX19_of_1 23 rfl rfl
theorem dksX19_of_3 : cX19_of.data.toList.drop 69 = dktX19_of_3 := dk_seg dksX19_of_2 23 rfl rfl
theorem dX19_of_0 : decode cX19_of 0 = .ok (.aload_n 0, 1) := dk_42 (dk_at dksX19_of_0 0 rfl rfl)
theorem dX19_of_1 : decode cX19_of 1 = .ok (.getfield 13, 3) := dk_180 0 13 (dk_at dksX19_of_0 1 rfl rfl)
theorem dX19_of_4 : decode cX19_of 4 = .ok (.astore_n 2, 1) := dk_77 (dk_at dksX19_of_0 4 rfl rfl)
theorem dX19_of_5 : decode cX19_of 5 = .ok (.aload_n 2, 1) := dk_44 (dk_at dksX19_of_0 5 rfl rfl)
theorem dX19_of_6 : decode cX19_of 6 = .ok (.arraylength, 1) := dk_190 (dk_at dksX19_of_0 6 rfl rfl)
theorem dX19_of_7 : decode cX19_of 7 = .ok (.istore_n 3, 1) := dk_62 (dk_at dksX19_of_0 7 rfl rfl)
theorem dX19_of_8 : decode cX19_of 8 = .ok (.iconst 0, 1) := dk_3 (dk_at dksX19_of_0 8 rfl rfl)
theorem dX19_of_9 : decode cX19_of 9 = .ok (.istore 4, 2) := dk_54 4 (dk_at dksX19_of_0 9 rfl rfl)
theorem dX19_of_11 : decode cX19_of 11 = .ok (.iload 4, 2) := dk_21 4 (dk_at dksX19_of_0 11 rfl rfl)
theorem dX19_of_13 : decode cX19_of 13 = .ok (.iload_n 3, 1) := dk_29 (dk_at dksX19_of_0 13 rfl rfl)
theorem dX19_of_14 : decode cX19_of 14 = .ok (.if_icmp .ge 54, 3) := dk_162 0 54 (dk_at dksX19_of_0 14 rfl rfl)
theorem dX19_of_17 : decode cX19_of 17 = .ok (.aload_n 2, 1) := dk_44 (dk_at dksX19_of_0 17 rfl rfl)
theorem dX19_of_18 : decode cX19_of 18 = .ok (.iload 4, 2) := dk_21 4 (dk_at dksX19_of_0 18 rfl rfl)
theorem dX19_of_20 : decode cX19_of 20 = .ok (.aaload, 1) := dk_50 (dk_at dksX19_of_0 20 rfl rfl)
theorem dX19_of_21 : decode cX19_of 21 = .ok (.astore 5, 2) := dk_58 5 (dk_at dksX19_of_0 21 rfl rfl)
theorem dX19_of_23 : decode cX19_of 23 = .ok (.aload 5, 2) := dk_25 5 (dk_at dksX19_of_1 0 rfl rfl)
theorem dX19_of_25 : decode cX19_of 25 = .ok (.aload_n 1, 1) := dk_43 (dk_at dksX19_of_1 2 rfl rfl)
theorem dX19_of_26 : decode cX19_of 26 = .ok (.invokevirtual 17, 3) := dk_182 0 17 (dk_at dksX19_of_1 3 rfl rfl)
theorem dX19_of_29 : decode cX19_of 29 = .ok (.istore 6, 2) := dk_54 6 (dk_at dksX19_of_1 6 rfl rfl)
theorem dX19_of_31 : decode cX19_of 31 = .ok (.aload_n 1, 1) := dk_43 (dk_at dksX19_of_1 8 rfl rfl)
theorem dX19_of_32 : decode cX19_of 32 = .ok (.getfield 21, 3) := dk_180 0 21 (dk_at dksX19_of_1 9 rfl rfl)
theorem dX19_of_35 : decode cX19_of 35 = .ok (.ifCond .eq 5, 3) := dk_153 0 5 (dk_at dksX19_of_1 12 rfl rfl)
theorem dX19_of_38 : decode cX19_of 38 = .ok (.iconst 0, 1) := dk_3 (dk_at dksX19_of_1 15 rfl rfl)
theorem dX19_of_39 : decode cX19_of 39 = .ok (.ireturn, 1) := dk_172 (dk_at dksX19_of_1 16 rfl rfl)
theorem dX19_of_40 : decode cX19_of 40 = .ok (.iload 6, 2) := dk_21 6 (dk_at dksX19_of_1 17 rfl rfl)
theorem dX19_of_42 : decode cX19_of 42 = .ok (.aload_n 0, 1) := dk_42 (dk_at dksX19_of_1 19 rfl rfl)
theorem dX19_of_43 : decode cX19_of 43 = .ok (.getfield 7, 3) := dk_180 0 7 (dk_at dksX19_of_1 20 rfl rfl)
theorem dX19_of_46 : decode cX19_of 46 = .ok (.if_icmp .eq 16, 3) := dk_159 0 16 (dk_at dksX19_of_2 0 rfl rfl)
theorem dX19_of_49 : decode cX19_of 49 = .ok (.aload_n 0, 1) := dk_42 (dk_at dksX19_of_2 3 rfl rfl)
theorem dX19_of_50 : decode cX19_of 50 = .ok (.getfield 7, 3) := dk_180 0 7 (dk_at dksX19_of_2 4 rfl rfl)
theorem dX19_of_53 : decode cX19_of 53 = .ok (.ifCond .ne 7, 3) := dk_154 0 7 (dk_at dksX19_of_2 7 rfl rfl)
theorem dX19_of_56 : decode cX19_of 56 = .ok (.iconst 1, 1) := dk_4 (dk_at dksX19_of_2 10 rfl rfl)
theorem dX19_of_57 : decode cX19_of 57 = .ok (.goto 4, 3) := dk_167 0 4 (dk_at dksX19_of_2 11 rfl rfl)
theorem dX19_of_60 : decode cX19_of 60 = .ok (.iconst 0, 1) := dk_3 (dk_at dksX19_of_2 14 rfl rfl)
theorem dX19_of_61 : decode cX19_of 61 = .ok (.ireturn, 1) := dk_172 (dk_at dksX19_of_2 15 rfl rfl)
theorem dX19_of_62 : decode cX19_of 62 = .ok (.iinc 4 1, 3) := dk_132 4 1 (dk_at dksX19_of_2 16 rfl rfl)
theorem dX19_of_65 : decode cX19_of 65 = .ok (.goto (-54), 3) := dk_167 255 202 (dk_at dksX19_of_2 19 rfl rfl)
theorem dX19_of_68 : decode cX19_of 68 = .ok (.aload_n 0, 1) := dk_42 (dk_at dksX19_of_2 22 rfl rfl)
theorem dX19_of_69 : decode cX19_of 69 = .ok (.getfield 7, 3) := dk_180 0 7 (dk_at dksX19_of_3 0 rfl rfl)
theorem dX19_of_72 : decode cX19_of 72 = .ok (.ireturn, 1) := dk_172 (dk_at dksX19_of_3 3 rfl rfl)
abbrev cX19_init : ByteArray := prog_17_method_1_code
def yX19_init : MethodName := ⟨RX19, "<init>", "(Z[LCounterDesk$Test;)V"⟩
def dkwX19_init_0 : List UInt8 := [42, 183, 0, 1, 42, 27, 181, 0, 7, 42, 44, 181, 0, 13, 177]
abbrev dktX19_init_0 : List UInt8 := dkwX19_init_0 ++ []
theorem dksX19_init_0 : cX19_init.data.toList.drop 0 = dktX19_init_0 := by decide +kernel
theorem dX19_init_0 : decode cX19_init 0 = .ok (.aload_n 0, 1) := dk_42 (dk_at dksX19_init_0 0 rfl rfl)
theorem dX19_init_1 : decode cX19_init 1 = .ok (.invokespecial 1, 3) := dk_183 0 1 (dk_at dksX19_init_0 1 rfl rfl)
theorem dX19_init_4 : decode cX19_init 4 = .ok (.aload_n 0, 1) := dk_42 (dk_at dksX19_init_0 4 rfl rfl)
theorem dX19_init_5 : decode cX19_init 5 = .ok (.iload_n 1, 1) := dk_27 (dk_at dksX19_init_0 5 rfl rfl)
theorem dX19_init_6 : decode cX19_init 6 = .ok (.putfield 7, 3) := dk_181 0 7 (dk_at dksX19_init_0 6 rfl rfl)
theorem dX19_init_9 : decode cX19_init 9 = .ok (.aload_n 0, 1) := dk_42 (dk_at dksX19_init_0 9 rfl rfl)
theorem dX19_init_10 : decode cX19_init 10 = .ok (.aload_n 2, 1) := dk_44 (dk_at dksX19_init_0 10 rfl rfl)
theorem dX19_init_11 : decode cX19_init 11 = .ok (.putfield 13, 3) := dk_181 0 13 (dk_at dksX19_init_0 11 rfl rfl)
theorem dX19_init_14 : decode cX19_init 14 = .ok (.return_, 1) := dk_177 (dk_at dksX19_init_0 14 rfl rfl)
theorem q164 : (Jvm.Cond.initialized "CounterDesk$Row") ∈ lw_all := lw_g (lw_at lw_m1 35 rfl) rfl
theorem q305 : (Jvm.Cond.fieldLinkNest "CounterDesk$Row" (21 : Nat) "CounterDesk$Asked" "isBroken" "Z" "CounterDesk") ∈ lw_tbl := lw_at lw_m1 176 rfl
theorem q560 : (Jvm.Cond.instanceMethod ({ cls := "CounterDesk$Row", name := "of", desc := "(LCounterDesk$Asked;)Z" } : Jvm.MethodName)) ∈ lw_all := lw_g (lw_at lw_m2 191 rfl) rfl
theorem q561 : (Jvm.Cond.code ({ cls := "CounterDesk$Row", name := "of", desc := "(LCounterDesk$Asked;)Z" } : Jvm.MethodName) prog_17_method_2_code (7 : Nat) (Option.some Jvm.ClassFile.FieldType.boolean)) ∈ lw_all := lw_g (lw_at lw_m2 192 rfl) rfl
theorem q562 : (Jvm.Cond.methodLink "CounterDesk$Row" (17 : Nat) ({ cls := "CounterDesk$Test", name := "of", desc := "(LCounterDesk$Asked;)Z" } : Jvm.MethodName)) ∈ lw_all := lw_g (lw_at lw_m2 193 rfl) rfl
theorem q563 : (Jvm.Cond.selects "CounterDesk$Row" ({ cls := "CounterDesk$Test", name := "of", desc := "(LCounterDesk$Asked;)Z" } : Jvm.MethodName) ({ cls := "CounterDesk$Row", name := "of", desc := "(LCounterDesk$Asked;)Z" } : Jvm.MethodName)) ∈ lw_all := lw_g (lw_at lw_m2 194 rfl) rfl
theorem q1090 : (Jvm.Cond.instantiable "CounterDesk$Row" (2 : Nat)) ∈ lw_all := lw_g (lw_at lw_m5 1 rfl) rfl
theorem q1092 : (Jvm.Cond.instanceMethod ({ cls := "CounterDesk$Row", name := "<init>", desc := "(Z[LCounterDesk$Test;)V" } : Jvm.MethodName)) ∈ lw_all := lw_g (lw_at lw_m5 3 rfl) rfl
theorem q1093 : (Jvm.Cond.code ({ cls := "CounterDesk$Row", name := "<init>", desc := "(Z[LCounterDesk$Test;)V" } : Jvm.MethodName) prog_17_method_1_code (3 : Nat) (Option.none : Option Jvm.ClassFile.FieldType)) ∈ lw_all := lw_g (lw_at lw_m5 4 rfl) rfl
theorem q1094 : (Jvm.Cond.methodLinkNest "CounterDesk$Row" (1 : Nat) ({ cls := "CounterDesk$Test", name := "<init>", desc := "()V" } : Jvm.MethodName) "CounterDesk") ∈ lw_tbl := lw_at lw_m5 5 rfl
theorem q1095 : (Jvm.Cond.fieldLink "CounterDesk$Row" (7 : Nat) "CounterDesk$Row" "all" "Z") ∈ lw_all := lw_g (lw_at lw_m5 6 rfl) rfl
theorem q1096 : (Jvm.Cond.fieldLink "CounterDesk$Row" (13 : Nat) "CounterDesk$Row" "tests" "[LCounterDesk$Test;") ∈ lw_all := lw_g (lw_at lw_m5 7 rfl) rfl
theorem q1097 : (Jvm.Cond.laysFinal "CounterDesk$Row" "CounterDesk$Row" "all" "Z") ∈ lw_all := lw_g (lw_at lw_m5 8 rfl) rfl
theorem q1098 : (Jvm.Cond.soleField "CounterDesk$Row" "all") ∈ lw_all := lw_g (lw_at lw_m5 9 rfl) rfl
theorem q1099 : (Jvm.Cond.laysFinal "CounterDesk$Row" "CounterDesk$Row" "tests" "[LCounterDesk$Test;") ∈ lw_all := lw_g (lw_at lw_m5 10 rfl) rfl
theorem q1100 : (Jvm.Cond.soleField "CounterDesk$Row" "tests") ∈ lw_all := lw_g (lw_at lw_m5 11 rfl) rfl
theorem q1101 : (Jvm.Cond.superclass "CounterDesk$Row" "CounterDesk$Test") ∈ lw_all := lw_g (lw_at lw_m5 12 rfl) rfl
theorem q1239 : (Jvm.Cond.selects "CounterDesk$Row" ({ cls := "java/lang/Object", name := "getClass", desc := "()Ljava/lang/Class;" } : Jvm.MethodName) ({ cls := "java/lang/Object", name := "getClass", desc := "()Ljava/lang/Class;" } : Jvm.MethodName)) ∈ lw_all := lw_g (lw_at lw_m5 150 rfl) rfl
theorem q2331 : (Jvm.Cond.castable "CounterDesk$Row" "java/lang/Object") ∈ lw_tbl := lw_at lw_m10 42 rfl
theorem q2338 : (Jvm.Cond.castable "CounterDesk$Row" "CounterDesk$Test") ∈ lw_tbl := lw_at lw_m10 49 rfl
theorem in_X19 : ∀ w ∈ wsX190, w ∈ lw_all := lw_in wsX190 [1097, 1099] (by decide +kernel) (by decide +kernel)

/-! CounterDesk$Books -/
set_option maxRecDepth 100000
def RX2 : String := "CounterDesk$Books"
def TX2 : u_T := fun k => match k with
  | 0 => ("CounterDesk$Books", "under", "[I", true)
  | 1 => ("CounterDesk$Books", "here", "[I", true)
  | 2 => ("CounterDesk$Books", "day", "I", false)
  | _ => ("CounterDesk$Books", "sort", "I", false)
def tyX2 : Nat → FieldType := fun k => match k with
  | 0 => .array .int
  | 1 => .array .int
  | 2 => .int
  | _ => .int
abbrev wsX20 : List Cond := u_ws RX2 TX2 4
theorem nmX2 : ∀ a, a < 4 → ∀ b, b < 4 → a ≠ b → (TX2 a).2.1 ≠ (TX2 b).2.1 := by decide +kernel
theorem tyX2_ok : ∀ k, k < 4 → parseFieldDescriptor (TX2 k).2.2.1 = some (tyX2 k) := by decide +kernel
abbrev cX2_init : ByteArray := prog_5_method_1_code
def yX2_init : MethodName := ⟨RX2, "<init>", "()V"⟩
def dkwX2_init_0 : List UInt8 := [42, 183, 0, 3, 42, 16, 12, 188, 10, 181, 0, 9, 42, 16, 12, 188, 10, 181, 0, 15, 177]
abbrev dktX2_init_0 : List UInt8 := dkwX2_init_0 ++ []
theorem dksX2_init_0 : cX2_init.data.toList.drop 0 = dktX2_init_0 := by decide +kernel
theorem dX2_init_0 : decode cX2_init 0 = .ok (.aload_n 0, 1) := dk_42 (dk_at dksX2_init_0 0 rfl rfl)
theorem dX2_init_1 : decode cX2_init 1 = .ok (.invokespecial 3, 3) := dk_183 0 3 (dk_at dksX2_init_0 1 rfl rfl)
theorem dX2_init_4 : decode cX2_init 4 = .ok (.aload_n 0, 1) := dk_42 (dk_at dksX2_init_0 4 rfl rfl)
theorem dX2_init_5 : decode cX2_init 5 = .ok (.bipush 12, 2) := dk_16 12 (dk_at dksX2_init_0 5 rfl rfl)
theorem dX2_init_7 : decode cX2_init 7 = .ok (.newarray .int, 2) := dk_188_10 (dk_at dksX2_init_0 7 rfl rfl)
theorem dX2_init_9 : decode cX2_init 9 = .ok (.putfield 9, 3) := dk_181 0 9 (dk_at dksX2_init_0 9 rfl rfl)
theorem dX2_init_12 : decode cX2_init 12 = .ok (.aload_n 0, 1) := dk_42 (dk_at dksX2_init_0 12 rfl rfl)
theorem dX2_init_13 : decode cX2_init 13 = .ok (.bipush 12, 2) := dk_16 12 (dk_at dksX2_init_0 13 rfl rfl)
theorem dX2_init_15 : decode cX2_init 15 = .ok (.newarray .int, 2) := dk_188_10 (dk_at dksX2_init_0 15 rfl rfl)
theorem dX2_init_17 : decode cX2_init 17 = .ok (.putfield 15, 3) := dk_181 0 15 (dk_at dksX2_init_0 17 rfl rfl)
theorem dX2_init_20 : decode cX2_init 20 = .ok (.return_, 1) := dk_177 (dk_at dksX2_init_0 20 rfl rfl)
abbrev cX2_as : ByteArray := prog_5_method_2_code
def yX2_as : MethodName := ⟨RX2, "as", "(LCounterDesk$Books;)LCounterDesk$Books;"⟩
def dkwX2_as_1 : List UInt8 := [3, 16, 12, 184, 0, 18, 42, 43, 180, 0, 24, 181, 0, 24, 42, 43, 180, 0, 28, 181, 0, 28, 42, 176]
abbrev dktX2_as_1 : List UInt8 := dkwX2_as_1 ++ []
def dkwX2_as_0 : List UInt8 := [43, 180, 0, 9, 3, 42, 180, 0, 9, 3, 16, 12, 184, 0, 18, 43, 180, 0, 15, 3, 42, 180, 0, 15]
abbrev dktX2_as_0 : List UInt8 := dkwX2_as_0 ++ dktX2_as_1
theorem dksX2_as_0 : cX2_as.data.toList.drop 0 = dktX2_as_0 := by decide +kernel
theorem dksX2_as_1 : cX2_as.data.toList.drop 24 = dktX2_as_1 := dk_seg dksX2_as_0 24 rfl rfl
theorem dX2_as_0 : decode cX2_as 0 = .ok (.aload_n 1, 1) := dk_43 (dk_at dksX2_as_0 0 rfl rfl)
theorem dX2_as_1 : decode cX2_as 1 = .ok (.getfield 9, 3) := dk_180 0 9 (dk_at dksX2_as_0 1 rfl rfl)
theorem dX2_as_4 : decode cX2_as 4 = .ok (.iconst 0, 1) := dk_3 (dk_at dksX2_as_0 4 rfl rfl)
theorem dX2_as_5 : decode cX2_as 5 = .ok (.aload_n 0, 1) := dk_42 (dk_at dksX2_as_0 5 rfl rfl)
theorem dX2_as_6 : decode cX2_as 6 = .ok (.getfield 9, 3) := dk_180 0 9 (dk_at dksX2_as_0 6 rfl rfl)
theorem dX2_as_9 : decode cX2_as 9 = .ok (.iconst 0, 1) := dk_3 (dk_at dksX2_as_0 9 rfl rfl)
theorem dX2_as_10 : decode cX2_as 10 = .ok (.bipush 12, 2) := dk_16 12 (dk_at dksX2_as_0 10 rfl rfl)
theorem dX2_as_12 : decode cX2_as 12 = .ok (.invokestatic 18, 3) := dk_184 0 18 (dk_at dksX2_as_0 12 rfl rfl)
theorem dX2_as_15 : decode cX2_as 15 = .ok (.aload_n 1, 1) := dk_43 (dk_at dksX2_as_0 15 rfl rfl)
theorem dX2_as_16 : decode cX2_as 16 = .ok (.getfield 15, 3) := dk_180 0 15 (dk_at dksX2_as_0 16 rfl rfl)
theorem dX2_as_19 : decode cX2_as 19 = .ok (.iconst 0, 1) := dk_3 (dk_at dksX2_as_0 19 rfl rfl)
theorem dX2_as_20 : decode cX2_as 20 = .ok (.aload_n 0, 1) := dk_42 (dk_at dksX2_as_0 20 rfl rfl)
theorem dX2_as_21 : decode cX2_as 21 = .ok (.getfield 15, 3) := dk_180 0 15 (dk_at dksX2_as_0 21 rfl rfl)
theorem dX2_as_24 : decode cX2_as 24 = .ok (.iconst 0, 1) := dk_3 (dk_at dksX2_as_1 0 rfl rfl)
theorem dX2_as_25 : decode cX2_as 25 = .ok (.bipush 12, 2) := dk_16 12 (dk_at dksX2_as_1 1 rfl rfl)
theorem dX2_as_27 : decode cX2_as 27 = .ok (.invokestatic 18, 3) := dk_184 0 18 (dk_at dksX2_as_1 3 rfl rfl)
theorem dX2_as_30 : decode cX2_as 30 = .ok (.aload_n 0, 1) := dk_42 (dk_at dksX2_as_1 6 rfl rfl)
theorem dX2_as_31 : decode cX2_as 31 = .ok (.aload_n 1, 1) := dk_43 (dk_at dksX2_as_1 7 rfl rfl)
theorem dX2_as_32 : decode cX2_as 32 = .ok (.getfield 24, 3) := dk_180 0 24 (dk_at dksX2_as_1 8 rfl rfl)
theorem dX2_as_35 : decode cX2_as 35 = .ok (.putfield 24, 3) := dk_181 0 24 (dk_at dksX2_as_1 11 rfl rfl)
theorem dX2_as_38 : decode cX2_as 38 = .ok (.aload_n 0, 1) := dk_42 (dk_at dksX2_as_1 14 rfl rfl)
theorem dX2_as_39 : decode cX2_as 39 = .ok (.aload_n 1, 1) := dk_43 (dk_at dksX2_as_1 15 rfl rfl)
theorem dX2_as_40 : decode cX2_as 40 = .ok (.getfield 28, 3) := dk_180 0 28 (dk_at dksX2_as_1 16 rfl rfl)
theorem dX2_as_43 : decode cX2_as 43 = .ok (.putfield 28, 3) := dk_181 0 28 (dk_at dksX2_as_1 19 rfl rfl)
theorem dX2_as_46 : decode cX2_as 46 = .ok (.aload_n 0, 1) := dk_42 (dk_at dksX2_as_1 22 rfl rfl)
theorem dX2_as_47 : decode cX2_as 47 = .ok (.areturn, 1) := dk_176 (dk_at dksX2_as_1 23 rfl rfl)
abbrev cX2_exchange : ByteArray := prog_5_method_3_code
def yX2_exchange : MethodName := ⟨RX2, "exchange", "(I)V"⟩
def dkwX2_exchange_1 : List UInt8 := [46, 79, 42, 180, 0, 15, 28, 29, 79, 132, 2, 1, 167, 255, 222, 177]
abbrev dktX2_exchange_1 : List UInt8 := dkwX2_exchange_1 ++ []
def dkwX2_exchange_0 : List UInt8 := [3, 61, 28, 27, 162, 0, 35, 42, 180, 0, 9, 28, 46, 62, 42, 180, 0, 9, 28, 42, 180, 0, 15, 28]
abbrev dktX2_exchange_0 : List UInt8 := dkwX2_exchange_0 ++ dktX2_exchange_1
theorem dksX2_exchange_0 : cX2_exchange.data.toList.drop 0 = dktX2_exchange_0 := by decide +kernel
theorem dksX2_exchange_1 : cX2_exchange.data.toList.drop 24 = dktX2_exchange_1 := dk_seg dksX2_exchange_0 24 rfl rfl
theorem dX2_exchange_0 : decode cX2_exchange 0 = .ok (.iconst 0, 1) := dk_3 (dk_at dksX2_exchange_0 0 rfl rfl)
theorem dX2_exchange_1 : decode cX2_exchange 1 = .ok (.istore_n 2, 1) := dk_61 (dk_at dksX2_exchange_0 1 rfl rfl)
theorem dX2_exchange_2 : decode cX2_exchange 2 = .ok (.iload_n 2, 1) := dk_28 (dk_at dksX2_exchange_0 2 rfl rfl)
theorem dX2_exchange_3 : decode cX2_exchange 3 = .ok (.iload_n 1, 1) := dk_27 (dk_at dksX2_exchange_0 3 rfl rfl)
theorem dX2_exchange_4 : decode cX2_exchange 4 = .ok (.if_icmp .ge 35, 3) := dk_162 0 35 (dk_at dksX2_exchange_0 4 rfl rfl)
theorem dX2_exchange_7 : decode cX2_exchange 7 = .ok (.aload_n 0, 1) := dk_42 (dk_at dksX2_exchange_0 7 rfl rfl)
theorem dX2_exchange_8 : decode cX2_exchange 8 = .ok (.getfield 9, 3) := dk_180 0 9 (dk_at dksX2_exchange_0 8 rfl rfl)
theorem dX2_exchange_11 : decode cX2_exchange 11 = .ok (.iload_n 2, 1) := dk_28 (dk_at dksX2_exchange_0 11 rfl rfl)
theorem dX2_exchange_12 : decode cX2_exchange 12 = .ok (.iaload, 1) := dk_46 (dk_at dksX2_exchange_0 12 rfl rfl)
theorem dX2_exchange_13 : decode cX2_exchange 13 = .ok (.istore_n 3, 1) := dk_62 (dk_at dksX2_exchange_0 13 rfl rfl)
theorem dX2_exchange_14 : decode cX2_exchange 14 = .ok (.aload_n 0, 1) := dk_42 (dk_at dksX2_exchange_0 14 rfl rfl)
theorem dX2_exchange_15 : decode cX2_exchange 15 = .ok (.getfield 9, 3) := dk_180 0 9 (dk_at dksX2_exchange_0 15 rfl rfl)
theorem dX2_exchange_18 : decode cX2_exchange 18 = .ok (.iload_n 2, 1) := dk_28 (dk_at dksX2_exchange_0 18 rfl rfl)
theorem dX2_exchange_19 : decode cX2_exchange 19 = .ok (.aload_n 0, 1) := dk_42 (dk_at dksX2_exchange_0 19 rfl rfl)
theorem dX2_exchange_20 : decode cX2_exchange 20 = .ok (.getfield 15, 3) := dk_180 0 15 (dk_at dksX2_exchange_0 20 rfl rfl)
theorem dX2_exchange_23 : decode cX2_exchange 23 = .ok (.iload_n 2, 1) := dk_28 (dk_at dksX2_exchange_0 23 rfl rfl)
theorem dX2_exchange_24 : decode cX2_exchange 24 = .ok (.iaload, 1) := dk_46 (dk_at dksX2_exchange_1 0 rfl rfl)
theorem dX2_exchange_25 : decode cX2_exchange 25 = .ok (.iastore, 1) := dk_79 (dk_at dksX2_exchange_1 1 rfl rfl)
theorem dX2_exchange_26 : decode cX2_exchange 26 = .ok (.aload_n 0, 1) := dk_42 (dk_at dksX2_exchange_1 2 rfl rfl)
theorem dX2_exchange_27 : decode cX2_exchange 27 = .ok (.getfield 15, 3) := dk_180 0 15 (dk_at dksX2_exchange_1 3 rfl rfl)
theorem dX2_exchange_30 : decode cX2_exchange 30 = .ok (.iload_n 2, 1) := dk_28 (dk_at dksX2_exchange_1 6 rfl rfl)
theorem dX2_exchange_31 : decode cX2_exchange 31 = .ok (.iload_n 3, 1) := dk_29 (dk_at dksX2_exchange_1 7 rfl rfl)
theorem dX2_exchange_32 : decode cX2_exchange 32 = .ok (.iastore, 1) := dk_79 (dk_at dksX2_exchange_1 8 rfl rfl)
theorem dX2_exchange_33 : decode cX2_exchange 33 = .ok (.iinc 2 1, 3) := dk_132 2 1 (dk_at dksX2_exchange_1 9 rfl rfl)
theorem dX2_exchange_36 : decode cX2_exchange 36 = .ok (.goto (-34), 3) := dk_167 255 222 (dk_at dksX2_exchange_1 12 rfl rfl)
theorem dX2_exchange_39 : decode cX2_exchange 39 = .ok (.return_, 1) := dk_177 (dk_at dksX2_exchange_1 15 rfl rfl)
theorem q135 : (Jvm.Cond.initialized "CounterDesk$Books") ∈ lw_all := lw_g (lw_at lw_m1 6 rfl) rfl
theorem q213 : (Jvm.Cond.instantiable "CounterDesk$Books" (4 : Nat)) ∈ lw_all := lw_g (lw_at lw_m1 84 rfl) rfl
theorem q215 : (Jvm.Cond.instanceMethod ({ cls := "CounterDesk$Books", name := "<init>", desc := "()V" } : Jvm.MethodName)) ∈ lw_all := lw_g (lw_at lw_m1 86 rfl) rfl
theorem q216 : (Jvm.Cond.code ({ cls := "CounterDesk$Books", name := "<init>", desc := "()V" } : Jvm.MethodName) prog_5_method_1_code (1 : Nat) (Option.none : Option Jvm.ClassFile.FieldType)) ∈ lw_all := lw_g (lw_at lw_m1 87 rfl) rfl
theorem q217 : (Jvm.Cond.methodLink "CounterDesk$Books" (3 : Nat) ({ cls := "java/lang/Object", name := "<init>", desc := "()V" } : Jvm.MethodName)) ∈ lw_all := lw_g (lw_at lw_m1 88 rfl) rfl
theorem q218 : (Jvm.Cond.fieldLink "CounterDesk$Books" (9 : Nat) "CounterDesk$Books" "under" "[I") ∈ lw_all := lw_g (lw_at lw_m1 89 rfl) rfl
theorem q221 : (Jvm.Cond.fieldLink "CounterDesk$Books" (15 : Nat) "CounterDesk$Books" "here" "[I") ∈ lw_all := lw_g (lw_at lw_m1 92 rfl) rfl
theorem q225 : (Jvm.Cond.fieldLink "CounterDesk$Books" (24 : Nat) "CounterDesk$Books" "day" "I") ∈ lw_all := lw_g (lw_at lw_m1 96 rfl) rfl
theorem q227 : (Jvm.Cond.fieldLink "CounterDesk$Books" (28 : Nat) "CounterDesk$Books" "sort" "I") ∈ lw_all := lw_g (lw_at lw_m1 98 rfl) rfl
theorem q230 : (Jvm.Cond.laysFinal "CounterDesk$Books" "CounterDesk$Books" "under" "[I") ∈ lw_all := lw_g (lw_at lw_m1 101 rfl) rfl
theorem q231 : (Jvm.Cond.soleField "CounterDesk$Books" "under") ∈ lw_all := lw_g (lw_at lw_m1 102 rfl) rfl
theorem q232 : (Jvm.Cond.laysFinal "CounterDesk$Books" "CounterDesk$Books" "here" "[I") ∈ lw_all := lw_g (lw_at lw_m1 103 rfl) rfl
theorem q233 : (Jvm.Cond.soleField "CounterDesk$Books" "here") ∈ lw_all := lw_g (lw_at lw_m1 104 rfl) rfl
theorem q234 : (Jvm.Cond.lays "CounterDesk$Books" "CounterDesk$Books" "day" "I") ∈ lw_all := lw_g (lw_at lw_m1 105 rfl) rfl
theorem q235 : (Jvm.Cond.soleField "CounterDesk$Books" "day") ∈ lw_all := lw_g (lw_at lw_m1 106 rfl) rfl
theorem q236 : (Jvm.Cond.lays "CounterDesk$Books" "CounterDesk$Books" "sort" "I") ∈ lw_all := lw_g (lw_at lw_m1 107 rfl) rfl
theorem q237 : (Jvm.Cond.soleField "CounterDesk$Books" "sort") ∈ lw_all := lw_g (lw_at lw_m1 108 rfl) rfl
theorem q238 : (Jvm.Cond.superclass "CounterDesk$Books" "java/lang/Object") ∈ lw_all := lw_g (lw_at lw_m1 109 rfl) rfl
theorem q1228 : (Jvm.Cond.selects "CounterDesk$Books" ({ cls := "java/lang/Object", name := "getClass", desc := "()Ljava/lang/Class;" } : Jvm.MethodName) ({ cls := "java/lang/Object", name := "getClass", desc := "()Ljava/lang/Class;" } : Jvm.MethodName)) ∈ lw_all := lw_g (lw_at lw_m5 139 rfl) rfl
theorem q1295 : (Jvm.Cond.instanceMethod ({ cls := "CounterDesk$Books", name := "as", desc := "(LCounterDesk$Books;)LCounterDesk$Books;" } : Jvm.MethodName)) ∈ lw_all := lw_g (lw_at lw_m5 206 rfl) rfl
theorem q1296 : (Jvm.Cond.selects "CounterDesk$Books" ({ cls := "CounterDesk$Books", name := "as", desc := "(LCounterDesk$Books;)LCounterDesk$Books;" } : Jvm.MethodName) ({ cls := "CounterDesk$Books", name := "as", desc := "(LCounterDesk$Books;)LCounterDesk$Books;" } : Jvm.MethodName)) ∈ lw_all := lw_g (lw_at lw_m5 207 rfl) rfl
theorem q1297 : (Jvm.Cond.code ({ cls := "CounterDesk$Books", name := "as", desc := "(LCounterDesk$Books;)LCounterDesk$Books;" } : Jvm.MethodName) prog_5_method_2_code (2 : Nat) (Option.some (Jvm.ClassFile.FieldType.object "CounterDesk$Books"))) ∈ lw_all := lw_g (lw_at lw_m5 208 rfl) rfl
theorem q1298 : (Jvm.Cond.methodLink "CounterDesk$Books" (18 : Nat) ({ cls := "java/lang/System", name := "arraycopy", desc := "(Ljava/lang/Object;ILjava/lang/Object;II)V" } : Jvm.MethodName)) ∈ lw_all := lw_g (lw_at lw_m5 209 rfl) rfl
theorem q1316 : (Jvm.Cond.instanceMethod ({ cls := "CounterDesk$Books", name := "exchange", desc := "(I)V" } : Jvm.MethodName)) ∈ lw_all := lw_g (lw_at lw_m5 227 rfl) rfl
theorem q1317 : (Jvm.Cond.selects "CounterDesk$Books" ({ cls := "CounterDesk$Books", name := "exchange", desc := "(I)V" } : Jvm.MethodName) ({ cls := "CounterDesk$Books", name := "exchange", desc := "(I)V" } : Jvm.MethodName)) ∈ lw_all := lw_g (lw_at lw_m5 228 rfl) rfl
theorem q1318 : (Jvm.Cond.code ({ cls := "CounterDesk$Books", name := "exchange", desc := "(I)V" } : Jvm.MethodName) prog_5_method_3_code (4 : Nat) (Option.none : Option Jvm.ClassFile.FieldType)) ∈ lw_all := lw_g (lw_at lw_m5 229 rfl) rfl
theorem q2312 : (Jvm.Cond.castable "CounterDesk$Books" "java/lang/Object") ∈ lw_tbl := lw_at lw_m10 23 rfl
theorem in_X2 : ∀ w ∈ wsX20, w ∈ lw_all := lw_in wsX20 [230, 232, 234, 236] (by decide +kernel) (by decide +kernel)

/-! CounterDesk$Act -/
set_option maxRecDepth 100000
def RX20 : String := "CounterDesk$Act"
def TX20 : u_T := fun k => match k with
  | 0 => ("CounterDesk$Act", "sort", "I", true)
  | 1 => ("CounterDesk$Act", "one", "LCounterDesk$Sum;", true)
  | 2 => ("CounterDesk$Act", "two", "LCounterDesk$Sum;", true)
  | 3 => ("CounterDesk$Act", "test", "LCounterDesk$Test;", false)
  | 4 => ("CounterDesk$Act", "times", "I", false)
  | 5 => ("CounterDesk$Act", "off", "Z", false)
  | _ => ("CounterDesk$Act", "this$0", "LCounterDesk;", true)
def tyX20 : Nat → FieldType := fun k => match k with
  | 0 => .int
  | 1 => .object "CounterDesk$Sum"
  | 2 => .object "CounterDesk$Sum"
  | 3 => .object "CounterDesk$Test"
  | 4 => .int
  | 5 => .boolean
  | _ => .object "CounterDesk"
abbrev wsX200 : List Cond := u_ws RX20 TX20 7
theorem nmX20 : ∀ a, a < 7 → ∀ b, b < 7 → a ≠ b → (TX20 a).2.1 ≠ (TX20 b).2.1 := by decide +kernel
theorem tyX20_ok : ∀ k, k < 7 → parseFieldDescriptor (TX20 k).2.2.1 = some (tyX20 k) := by decide +kernel
abbrev cX20_init : ByteArray := prog_2_method_1_code
def yX20_init : MethodName := ⟨RX20, "<init>", "(LCounterDesk;ILCounterDesk$Sum;LCounterDesk$Sum;)V"⟩
def dkwX20_init_1 : List UInt8 := [42, 25, 4, 181, 0, 26, 177]
abbrev dktX20_init_1 : List UInt8 := dkwX20_init_1 ++ []
def dkwX20_init_0 : List UInt8 := [42, 43, 181, 0, 3, 42, 183, 0, 9, 42, 4, 181, 0, 15, 42, 28, 181, 0, 19, 42, 45, 181, 0, 22]
abbrev dktX20_init_0 : List UInt8 := dkwX20_init_0 ++ dktX20_init_1
theorem dksX20_init_0 : cX20_init.data.toList.drop 0 = dktX20_init_0 := by decide +kernel
theorem dksX20_init_1 : cX20_init.data.toList.drop 24 = dktX20_init_1 := dk_seg dksX20_init_0 24 rfl rfl
theorem dX20_init_0 : decode cX20_init 0 = .ok (.aload_n 0, 1) := dk_42 (dk_at dksX20_init_0 0 rfl rfl)
theorem dX20_init_1 : decode cX20_init 1 = .ok (.aload_n 1, 1) := dk_43 (dk_at dksX20_init_0 1 rfl rfl)
theorem dX20_init_2 : decode cX20_init 2 = .ok (.putfield 3, 3) := dk_181 0 3 (dk_at dksX20_init_0 2 rfl rfl)
theorem dX20_init_5 : decode cX20_init 5 = .ok (.aload_n 0, 1) := dk_42 (dk_at dksX20_init_0 5 rfl rfl)
theorem dX20_init_6 : decode cX20_init 6 = .ok (.invokespecial 9, 3) := dk_183 0 9 (dk_at dksX20_init_0 6 rfl rfl)
theorem dX20_init_9 : decode cX20_init 9 = .ok (.aload_n 0, 1) := dk_42 (dk_at dksX20_init_0 9 rfl rfl)
theorem dX20_init_10 : decode cX20_init 10 = .ok (.iconst 1, 1) := dk_4 (dk_at dksX20_init_0 10 rfl rfl)
theorem dX20_init_11 : decode cX20_init 11 = .ok (.putfield 15, 3) := dk_181 0 15 (dk_at dksX20_init_0 11 rfl rfl)
theorem dX20_init_14 : decode cX20_init 14 = .ok (.aload_n 0, 1) := dk_42 (dk_at dksX20_init_0 14 rfl rfl)
theorem dX20_init_15 : decode cX20_init 15 = .ok (.iload_n 2, 1) := dk_28 (dk_at dksX20_init_0 15 rfl rfl)
theorem dX20_init_16 : decode cX20_init 16 = .ok (.putfield 19, 3) := dk_181 0 19 (dk_at dksX20_init_0 16 rfl rfl)
theorem dX20_init_19 : decode cX20_init 19 = .ok (.aload_n 0, 1) := dk_42 (dk_at dksX20_init_0 19 rfl rfl)
theorem dX20_init_20 : decode cX20_init 20 = .ok (.aload_n 3, 1) := dk_45 (dk_at dksX20_init_0 20 rfl rfl)
theorem dX20_init_21 : decode cX20_init 21 = .ok (.putfield 22, 3) := dk_181 0 22 (dk_at dksX20_init_0 21 rfl rfl)
theorem dX20_init_24 : decode cX20_init 24 = .ok (.aload_n 0, 1) := dk_42 (dk_at dksX20_init_1 0 rfl rfl)
theorem dX20_init_25 : decode cX20_init 25 = .ok (.aload 4, 2) := dk_25 4 (dk_at dksX20_init_1 1 rfl rfl)
theorem dX20_init_27 : decode cX20_init 27 = .ok (.putfield 26, 3) := dk_181 0 26 (dk_at dksX20_init_1 3 rfl rfl)
theorem dX20_init_30 : decode cX20_init 30 = .ok (.return_, 1) := dk_177 (dk_at dksX20_init_1 6 rfl rfl)
abbrev cX20_run : ByteArray := prog_2_method_5_code
def yX20_run : MethodName := ⟨RX20, "run", "()I"⟩
def dkwX20_run_3 : List UInt8 := [181, 0, 48, 3, 172]
abbrev dktX20_run_3 : List UInt8 := dkwX20_run_3 ++ []
def dkwX20_run_2 : List UInt8 := [181, 0, 66, 42, 182, 0, 104, 156, 0, 6, 16, 253, 172, 42, 180, 0, 3, 89, 180, 0, 48, 4, 96]
abbrev dktX20_run_2 : List UInt8 := dkwX20_run_2 ++ dktX20_run_3
def dkwX20_run_1 : List UInt8 := [182, 0, 99, 153, 0, 16, 42, 180, 0, 3, 180, 0, 29, 180, 0, 62, 153, 0, 5, 3, 172, 42, 3]
abbrev dktX20_run_1 : List UInt8 := dkwX20_run_1 ++ dktX20_run_2
def dkwX20_run_0 : List UInt8 := [42, 182, 0, 92, 42, 180, 0, 95, 198, 0, 35, 42, 180, 0, 95, 42, 180, 0, 3, 180, 0, 29]
abbrev dktX20_run_0 : List UInt8 := dkwX20_run_0 ++ dktX20_run_1
theorem dksX20_run_0 : cX20_run.data.toList.drop 0 = dktX20_run_0 := by decide +kernel
theorem dksX20_run_1 : cX20_run.data.toList.drop 22 = dktX20_run_1 := dk_seg dksX20_run_0 22 rfl rfl
theorem dksX20_run_2 : cX20_run.data.toList.drop 45 = dktX20_run_2 := dk_seg dksX20_run_1 23 rfl rfl
theorem dksX20_run_3 : cX20_run.data.toList.drop 68 = dktX20_run_3 := dk_seg dksX20_run_2 23 rfl rfl
theorem dX20_run_0 : decode cX20_run 0 = .ok (.aload_n 0, 1) := dk_42 (dk_at dksX20_run_0 0 rfl rfl)
theorem dX20_run_1 : decode cX20_run 1 = .ok (.invokevirtual 92, 3) := dk_182 0 92 (dk_at dksX20_run_0 1 rfl rfl)
theorem dX20_run_4 : decode cX20_run 4 = .ok (.aload_n 0, 1) := dk_42 (dk_at dksX20_run_0 4 rfl rfl)
theorem dX20_run_5 : decode cX20_run 5 = .ok (.getfield 95, 3) := dk_180 0 95 (dk_at dksX20_run_0 5 rfl rfl)
theorem dX20_run_8 : decode cX20_run 8 = .ok (.ifnull 35, 3) := dk_198 0 35 (dk_at dksX20_run_0 8 rfl rfl)
theorem dX20_run_11 : decode cX20_run 11 = .ok (.aload_n 0, 1) := dk_42 (dk_at dksX20_run_0 11 rfl rfl)
theorem dX20_run_12 : decode cX20_run 12 = .ok (.getfield 95, 3) := dk_180 0 95 (dk_at dksX20_run_0 12 rfl rfl)
theorem dX20_run_15 : decode cX20_run 15 = .ok (.aload_n 0, 1) := dk_42 (dk_at dksX20_run_0 15 rfl rfl)
theorem dX20_run_16 : decode cX20_run 16 = .ok (.getfield 3, 3) := dk_180 0 3 (dk_at dksX20_run_0 16 rfl rfl)
theorem dX20_run_19 : decode cX20_run 19 = .ok (.getfield 29, 3) := dk_180 0 29 (dk_at dksX20_run_0 19 rfl rfl)
theorem dX20_run_22 : decode cX20_run 22 = .ok (.invokevirtual 99, 3) := dk_182 0 99 (dk_at dksX20_run_1 0 rfl rfl)
theorem dX20_run_25 : decode cX20_run 25 = .ok (.ifCond .eq 16, 3) := dk_153 0 16 (dk_at dksX20_run_1 3 rfl rfl)
theorem dX20_run_28 : decode cX20_run 28 = .ok (.aload_n 0, 1) := dk_42 (dk_at dksX20_run_1 6 rfl rfl)
theorem dX20_run_29 : decode cX20_run 29 = .ok (.getfield 3, 3) := dk_180 0 3 (dk_at dksX20_run_1 7 rfl rfl)
theorem dX20_run_32 : decode cX20_run 32 = .ok (.getfield 29, 3) := dk_180 0 29 (dk_at dksX20_run_1 10 rfl rfl)
theorem dX20_run_35 : decode cX20_run 35 = .ok (.getfield 62, 3) := dk_180 0 62 (dk_at dksX20_run_1 13 rfl rfl)
theorem dX20_run_38 : decode cX20_run 38 = .ok (.ifCond .eq 5, 3) := dk_153 0 5 (dk_at dksX20_run_1 16 rfl rfl)
theorem dX20_run_41 : decode cX20_run 41 = .ok (.iconst 0, 1) := dk_3 (dk_at dksX20_run_1 19 rfl rfl)
theorem dX20_run_42 : decode cX20_run 42 = .ok (.ireturn, 1) := dk_172 (dk_at dksX20_run_1 20 rfl rfl)
theorem dX20_run_43 : decode cX20_run 43 = .ok (.aload_n 0, 1) := dk_42 (dk_at dksX20_run_1 21 rfl rfl)
theorem dX20_run_44 : decode cX20_run 44 = .ok (.iconst 0, 1) := dk_3 (dk_at dksX20_run_1 22 rfl rfl)
theorem dX20_run_45 : decode cX20_run 45 = .ok (.putfield 66, 3) := dk_181 0 66 (dk_at dksX20_run_2 0 rfl rfl)
theorem dX20_run_48 : decode cX20_run 48 = .ok (.aload_n 0, 1) := dk_42 (dk_at dksX20_run_2 3 rfl rfl)
theorem dX20_run_49 : decode cX20_run 49 = .ok (.invokevirtual 104, 3) := dk_182 0 104 (dk_at dksX20_run_2 4 rfl rfl)
theorem dX20_run_52 : decode cX20_run 52 = .ok (.ifCond .ge 6, 3) := dk_156 0 6 (dk_at dksX20_run_2 7 rfl rfl)
theorem dX20_run_55 : decode cX20_run 55 = .ok (.bipush (-3), 2) := dk_16 253 (dk_at dksX20_run_2 10 rfl rfl)
theorem dX20_run_57 : decode cX20_run 57 = .ok (.ireturn, 1) := dk_172 (dk_at dksX20_run_2 12 rfl rfl)
theorem dX20_run_58 : decode cX20_run 58 = .ok (.aload_n 0, 1) := dk_42 (dk_at dksX20_run_2 13 rfl rfl)
theorem dX20_run_59 : decode cX20_run 59 = .ok (.getfield 3, 3) := dk_180 0 3 (dk_at dksX20_run_2 14 rfl rfl)
theorem dX20_run_62 : decode cX20_run 62 = .ok (.dup, 1) := dk_89 (dk_at dksX20_run_2 17 rfl rfl)
theorem dX20_run_63 : decode cX20_run 63 = .ok (.getfield 48, 3) := dk_180 0 48 (dk_at dksX20_run_2 18 rfl rfl)
theorem dX20_run_66 : decode cX20_run 66 = .ok (.iconst 1, 1) := dk_4 (dk_at dksX20_run_2 21 rfl rfl)
theorem dX20_run_67 : decode cX20_run 67 = .ok (.iadd, 1) := dk_96 (dk_at dksX20_run_2 22 rfl rfl)
theorem dX20_run_68 : decode cX20_run 68 = .ok (.putfield 48, 3) := dk_181 0 48 (dk_at dksX20_run_3 0 rfl rfl)
theorem dX20_run_71 : decode cX20_run 71 = .ok (.iconst 0, 1) := dk_3 (dk_at dksX20_run_3 3 rfl rfl)
theorem dX20_run_72 : decode cX20_run 72 = .ok (.ireturn, 1) := dk_172 (dk_at dksX20_run_3 4 rfl rfl)
abbrev cX20_setAll : ByteArray := prog_2_method_2_code
def yX20_setAll : MethodName := ⟨RX20, "setAll", "()V"⟩
def dkwX20_setAll_4 : List UInt8 := [42, 180, 0, 3, 3, 182, 0, 58, 133, 80, 42, 180, 0, 3, 180, 0, 29, 3, 181, 0, 62, 177]
abbrev dktX20_setAll_4 : List UInt8 := dkwX20_setAll_4 ++ []
def dkwX20_setAll_3 : List UInt8 := [180, 0, 33, 6, 42, 180, 0, 3, 182, 0, 54, 133, 80, 42, 180, 0, 3, 180, 0, 29, 180, 0, 33, 7]
abbrev dktX20_setAll_3 : List UInt8 := dkwX20_setAll_3 ++ dktX20_setAll_4
def dkwX20_setAll_2 : List UInt8 := [180, 0, 29, 180, 0, 33, 5, 42, 180, 0, 3, 180, 0, 51, 133, 80, 42, 180, 0, 3, 180, 0, 29]
abbrev dktX20_setAll_2 : List UInt8 := dkwX20_setAll_2 ++ dktX20_setAll_3
def dkwX20_setAll_1 : List UInt8 := [180, 0, 3, 180, 0, 29, 180, 0, 33, 4, 42, 180, 0, 3, 180, 0, 48, 133, 80, 42, 180, 0, 3]
abbrev dktX20_setAll_1 : List UInt8 := dkwX20_setAll_1 ++ dktX20_setAll_2
def dkwX20_setAll_0 : List UInt8 := [42, 180, 0, 3, 180, 0, 29, 180, 0, 33, 3, 42, 180, 0, 3, 182, 0, 39, 180, 0, 43, 133, 80, 42]
abbrev dktX20_setAll_0 : List UInt8 := dkwX20_setAll_0 ++ dktX20_setAll_1
theorem dksX20_setAll_0 : cX20_setAll.data.toList.drop 0 = dktX20_setAll_0 := by decide +kernel
theorem dksX20_setAll_1 : cX20_setAll.data.toList.drop 24 = dktX20_setAll_1 := dk_seg dksX20_setAll_0 24 rfl rfl
theorem dksX20_setAll_2 : cX20_setAll.data.toList.drop 47 = dktX20_setAll_2 := dk_seg dksX20_setAll_1 23 rfl rfl
theorem dksX20_setAll_3 : cX20_setAll.data.toList.drop 70 = dktX20_setAll_3 := dk_seg dksX20_setAll_2 23 rfl rfl
theorem dksX20_setAll_4 : cX20_setAll.data.toList.drop 94 = dktX20_setAll_4 := dk_seg dksX20_setAll_3 24 rfl rfl
theorem dX20_setAll_0 : decode cX20_setAll 0 = .ok (.aload_n 0, 1) := dk_42 (dk_at dksX20_setAll_0 0 rfl rfl)
theorem dX20_setAll_1 : decode cX20_setAll 1 = .ok (.getfield 3, 3) := dk_180 0 3 (dk_at dksX20_setAll_0 1 rfl rfl)
theorem dX20_setAll_4 : decode cX20_setAll 4 = .ok (.getfield 29, 3) := dk_180 0 29 (dk_at dksX20_setAll_0 4 rfl rfl)
theorem dX20_setAll_7 : decode cX20_setAll 7 = .ok (.getfield 33, 3) := dk_180 0 33 (dk_at dksX20_setAll_0 7 rfl rfl)
theorem dX20_setAll_10 : decode cX20_setAll 10 = .ok (.iconst 0, 1) := dk_3 (dk_at dksX20_setAll_0 10 rfl rfl)
theorem dX20_setAll_11 : decode cX20_setAll 11 = .ok (.aload_n 0, 1) := dk_42 (dk_at dksX20_setAll_0 11 rfl rfl)
theorem dX20_setAll_12 : decode cX20_setAll 12 = .ok (.getfield 3, 3) := dk_180 0 3 (dk_at dksX20_setAll_0 12 rfl rfl)
theorem dX20_setAll_15 : decode cX20_setAll 15 = .ok (.invokevirtual 39, 3) := dk_182 0 39 (dk_at dksX20_setAll_0 15 rfl rfl)
theorem dX20_setAll_18 : decode cX20_setAll 18 = .ok (.getfield 43, 3) := dk_180 0 43 (dk_at dksX20_setAll_0 18 rfl rfl)
theorem dX20_setAll_21 : decode cX20_setAll 21 = .ok (.i2l, 1) := dk_133 (dk_at dksX20_setAll_0 21 rfl rfl)
theorem dX20_setAll_22 : decode cX20_setAll 22 = .ok (.lastore, 1) := dk_80 (dk_at dksX20_setAll_0 22 rfl rfl)
theorem dX20_setAll_23 : decode cX20_setAll 23 = .ok (.aload_n 0, 1) := dk_42 (dk_at dksX20_setAll_0 23 rfl rfl)
theorem dX20_setAll_24 : decode cX20_setAll 24 = .ok (.getfield 3, 3) := dk_180 0 3 (dk_at dksX20_setAll_1 0 rfl rfl)
theorem dX20_setAll_27 : decode cX20_setAll 27 = .ok (.getfield 29, 3) := dk_180 0 29 (dk_at dksX20_setAll_1 3 rfl rfl)
theorem dX20_setAll_30 : decode cX20_setAll 30 = .ok (.getfield 33, 3) := dk_180 0 33 (dk_at dksX20_setAll_1 6 rfl rfl)
theorem dX20_setAll_33 : decode cX20_setAll 33 = .ok (.iconst 1, 1) := dk_4 (dk_at dksX20_setAll_1 9 rfl rfl)
theorem dX20_setAll_34 : decode cX20_setAll 34 = .ok (.aload_n 0, 1) := dk_42 (dk_at dksX20_setAll_1 10 rfl rfl)
theorem dX20_setAll_35 : decode cX20_setAll 35 = .ok (.getfield 3, 3) := dk_180 0 3 (dk_at dksX20_setAll_1 11 rfl rfl)
theorem dX20_setAll_38 : decode cX20_setAll 38 = .ok (.getfield 48, 3) := dk_180 0 48 (dk_at dksX20_setAll_1 14 rfl rfl)
theorem dX20_setAll_41 : decode cX20_setAll 41 = .ok (.i2l, 1) := dk_133 (dk_at dksX20_setAll_1 17 rfl rfl)
theorem dX20_setAll_42 : decode cX20_setAll 42 = .ok (.lastore, 1) := dk_80 (dk_at dksX20_setAll_1 18 rfl rfl)
theorem dX20_setAll_43 : decode cX20_setAll 43 = .ok (.aload_n 0, 1) := dk_42 (dk_at dksX20_setAll_1 19 rfl rfl)
theorem dX20_setAll_44 : decode cX20_setAll 44 = .ok (.getfield 3, 3) := dk_180 0 3 (dk_at dksX20_setAll_1 20 rfl rfl)
theorem dX20_setAll_47 : decode cX20_setAll 47 = .ok (.getfield 29, 3) := dk_180 0 29 (dk_at dksX20_setAll_2 0 rfl rfl)
theorem dX20_setAll_50 : decode cX20_setAll 50 = .ok (.getfield 33, 3) := dk_180 0 33 (dk_at dksX20_setAll_2 3 rfl rfl)
theorem dX20_setAll_53 : decode cX20_setAll 53 = .ok (.iconst 2, 1) := dk_5 (dk_at dksX20_setAll_2 6 rfl rfl)
theorem dX20_setAll_54 : decode cX20_setAll 54 = .ok (.aload_n 0, 1) := dk_42 (dk_at dksX20_setAll_2 7 rfl rfl)
theorem dX20_setAll_55 : decode cX20_setAll 55 = .ok (.getfield 3, 3) := dk_180 0 3 (dk_at dksX20_setAll_2 8 rfl rfl)
theorem dX20_setAll_58 : decode cX20_setAll 58 = .ok (.getfield 51, 3) := dk_180 0 51 (dk_at dksX20_setAll_2 11 rfl rfl)
theorem dX20_setAll_61 : decode cX20_setAll 61 = .ok (.i2l, 1) := dk_133 (dk_at dksX20_setAll_2 14 rfl rfl)
theorem dX20_setAll_62 : decode cX20_setAll 62 = .ok (.lastore, 1) := dk_80 (dk_at dksX20_setAll_2 15 rfl rfl)
theorem dX20_setAll_63 : decode cX20_setAll 63 = .ok (.aload_n 0, 1) := dk_42 (dk_at dksX20_setAll_2 16 rfl rfl)
theorem dX20_setAll_64 : decode cX20_setAll 64 = .ok (.getfield 3, 3) := dk_180 0 3 (dk_at dksX20_setAll_2 17 rfl rfl)
theorem dX20_setAll_67 : decode cX20_setAll 67 = .ok (.getfield 29, 3) := dk_180 0 29 (dk_at dksX20_setAll_2 20 rfl rfl)
theorem dX20_setAll_70 : decode cX20_setAll 70 = .ok (.getfield 33, 3) := dk_180 0 33 (dk_at dksX20_setAll_3 0 rfl rfl)
theorem dX20_setAll_73 : decode cX20_setAll 73 = .ok (.iconst 3, 1) := dk_6 (dk_at dksX20_setAll_3 3 rfl rfl)
theorem dX20_setAll_74 : decode cX20_setAll 74 = .ok (.aload_n 0, 1) := dk_42 (dk_at dksX20_setAll_3 4 rfl rfl)
theorem dX20_setAll_75 : decode cX20_setAll 75 = .ok (.getfield 3, 3) := dk_180 0 3 (dk_at dksX20_setAll_3 5 rfl rfl)
theorem dX20_setAll_78 : decode cX20_setAll 78 = .ok (.invokevirtual 54, 3) := dk_182 0 54 (dk_at dksX20_setAll_3 8 rfl rfl)
theorem dX20_setAll_81 : decode cX20_setAll 81 = .ok (.i2l, 1) := dk_133 (dk_at dksX20_setAll_3 11 rfl rfl)
theorem dX20_setAll_82 : decode cX20_setAll 82 = .ok (.lastore, 1) := dk_80 (dk_at dksX20_setAll_3 12 rfl rfl)
theorem dX20_setAll_83 : decode cX20_setAll 83 = .ok (.aload_n 0, 1) := dk_42 (dk_at dksX20_setAll_3 13 rfl rfl)
theorem dX20_setAll_84 : decode cX20_setAll 84 = .ok (.getfield 3, 3) := dk_180 0 3 (dk_at dksX20_setAll_3 14 rfl rfl)
theorem dX20_setAll_87 : decode cX20_setAll 87 = .ok (.getfield 29, 3) := dk_180 0 29 (dk_at dksX20_setAll_3 17 rfl rfl)
theorem dX20_setAll_90 : decode cX20_setAll 90 = .ok (.getfield 33, 3) := dk_180 0 33 (dk_at dksX20_setAll_3 20 rfl rfl)
theorem dX20_setAll_93 : decode cX20_setAll 93 = .ok (.iconst 4, 1) := dk_7 (dk_at dksX20_setAll_3 23 rfl rfl)
theorem dX20_setAll_94 : decode cX20_setAll 94 = .ok (.aload_n 0, 1) := dk_42 (dk_at dksX20_setAll_4 0 rfl rfl)
theorem dX20_setAll_95 : decode cX20_setAll 95 = .ok (.getfield 3, 3) := dk_180 0 3 (dk_at dksX20_setAll_4 1 rfl rfl)
theorem dX20_setAll_98 : decode cX20_setAll 98 = .ok (.iconst 0, 1) := dk_3 (dk_at dksX20_setAll_4 4 rfl rfl)
theorem dX20_setAll_99 : decode cX20_setAll 99 = .ok (.invokevirtual 58, 3) := dk_182 0 58 (dk_at dksX20_setAll_4 5 rfl rfl)
theorem dX20_setAll_102 : decode cX20_setAll 102 = .ok (.i2l, 1) := dk_133 (dk_at dksX20_setAll_4 8 rfl rfl)
theorem dX20_setAll_103 : decode cX20_setAll 103 = .ok (.lastore, 1) := dk_80 (dk_at dksX20_setAll_4 9 rfl rfl)
theorem dX20_setAll_104 : decode cX20_setAll 104 = .ok (.aload_n 0, 1) := dk_42 (dk_at dksX20_setAll_4 10 rfl rfl)
theorem dX20_setAll_105 : decode cX20_setAll 105 = .ok (.getfield 3, 3) := dk_180 0 3 (dk_at dksX20_setAll_4 11 rfl rfl)
theorem dX20_setAll_108 : decode cX20_setAll 108 = .ok (.getfield 29, 3) := dk_180 0 29 (dk_at dksX20_setAll_4 14 rfl rfl)
theorem dX20_setAll_111 : decode cX20_setAll 111 = .ok (.iconst 0, 1) := dk_3 (dk_at dksX20_setAll_4 17 rfl rfl)
theorem dX20_setAll_112 : decode cX20_setAll 112 = .ok (.putfield 62, 3) := dk_181 0 62 (dk_at dksX20_setAll_4 18 rfl rfl)
theorem dX20_setAll_115 : decode cX20_setAll 115 = .ok (.return_, 1) := dk_177 (dk_at dksX20_setAll_4 21 rfl rfl)
abbrev cX20_does : ByteArray := prog_2_method_4_code
def yX20_does : MethodName := ⟨RX20, "does", "()I"⟩
def dkwX20_does_4 : List UInt8 := [156, 0, 13, 42, 180, 0, 3, 180, 0, 51, 167, 0, 4, 29, 181, 0, 51, 29, 172]
abbrev dktX20_does_4 : List UInt8 := dkwX20_does_4 ++ []
def dkwX20_does_3 : List UInt8 := [160, 0, 11, 42, 180, 0, 3, 182, 0, 86, 172, 42, 180, 0, 3, 182, 0, 89, 62, 42, 180, 0, 3, 29]
abbrev dktX20_does_3 : List UInt8 := dkwX20_does_3 ++ dktX20_does_4
def dkwX20_does_2 : List UInt8 := [180, 0, 19, 4, 160, 0, 13, 42, 180, 0, 3, 27, 28, 182, 0, 83, 172, 42, 180, 0, 19, 5]
abbrev dktX20_does_2 : List UInt8 := dkwX20_does_2 ++ dktX20_does_3
def dkwX20_does_1 : List UInt8 := [153, 0, 6, 16, 253, 172, 42, 180, 0, 19, 154, 0, 13, 42, 180, 0, 3, 27, 28, 182, 0, 79, 172, 42]
abbrev dktX20_does_1 : List UInt8 := dkwX20_does_1 ++ dktX20_does_2
def dkwX20_does_0 : List UInt8 := [42, 42, 180, 0, 22, 182, 0, 75, 60, 42, 42, 180, 0, 26, 182, 0, 75, 61, 42, 180, 0, 66]
abbrev dktX20_does_0 : List UInt8 := dkwX20_does_0 ++ dktX20_does_1
theorem dksX20_does_0 : cX20_does.data.toList.drop 0 = dktX20_does_0 := by decide +kernel
theorem dksX20_does_1 : cX20_does.data.toList.drop 22 = dktX20_does_1 := dk_seg dksX20_does_0 22 rfl rfl
theorem dksX20_does_2 : cX20_does.data.toList.drop 46 = dktX20_does_2 := dk_seg dksX20_does_1 24 rfl rfl
theorem dksX20_does_3 : cX20_does.data.toList.drop 68 = dktX20_does_3 := dk_seg dksX20_does_2 22 rfl rfl
theorem dksX20_does_4 : cX20_does.data.toList.drop 92 = dktX20_does_4 := dk_seg dksX20_does_3 24 rfl rfl
theorem dX20_does_0 : decode cX20_does 0 = .ok (.aload_n 0, 1) := dk_42 (dk_at dksX20_does_0 0 rfl rfl)
theorem dX20_does_1 : decode cX20_does 1 = .ok (.aload_n 0, 1) := dk_42 (dk_at dksX20_does_0 1 rfl rfl)
theorem dX20_does_2 : decode cX20_does 2 = .ok (.getfield 22, 3) := dk_180 0 22 (dk_at dksX20_does_0 2 rfl rfl)
theorem dX20_does_5 : decode cX20_does 5 = .ok (.invokevirtual 75, 3) := dk_182 0 75 (dk_at dksX20_does_0 5 rfl rfl)
theorem dX20_does_8 : decode cX20_does 8 = .ok (.istore_n 1, 1) := dk_60 (dk_at dksX20_does_0 8 rfl rfl)
theorem dX20_does_9 : decode cX20_does 9 = .ok (.aload_n 0, 1) := dk_42 (dk_at dksX20_does_0 9 rfl rfl)
theorem dX20_does_10 : decode cX20_does 10 = .ok (.aload_n 0, 1) := dk_42 (dk_at dksX20_does_0 10 rfl rfl)
theorem dX20_does_11 : decode cX20_does 11 = .ok (.getfield 26, 3) := dk_180 0 26 (dk_at dksX20_does_0 11 rfl rfl)
theorem dX20_does_14 : decode cX20_does 14 = .ok (.invokevirtual 75, 3) := dk_182 0 75 (dk_at dksX20_does_0 14 rfl rfl)
theorem dX20_does_17 : decode cX20_does 17 = .ok (.istore_n 2, 1) := dk_61 (dk_at dksX20_does_0 17 rfl rfl)
theorem dX20_does_18 : decode cX20_does 18 = .ok (.aload_n 0, 1) := dk_42 (dk_at dksX20_does_0 18 rfl rfl)
theorem dX20_does_19 : decode cX20_does 19 = .ok (.getfield 66, 3) := dk_180 0 66 (dk_at dksX20_does_0 19 rfl rfl)
theorem dX20_does_22 : decode cX20_does 22 = .ok (.ifCond .eq 6, 3) := dk_153 0 6 (dk_at dksX20_does_1 0 rfl rfl)
theorem dX20_does_25 : decode cX20_does 25 = .ok (.bipush (-3), 2) := dk_16 253 (dk_at dksX20_does_1 3 rfl rfl)
theorem dX20_does_27 : decode cX20_does 27 = .ok (.ireturn, 1) := dk_172 (dk_at dksX20_does_1 5 rfl rfl)
theorem dX20_does_28 : decode cX20_does 28 = .ok (.aload_n 0, 1) := dk_42 (dk_at dksX20_does_1 6 rfl rfl)
theorem dX20_does_29 : decode cX20_does 29 = .ok (.getfield 19, 3) := dk_180 0 19 (dk_at dksX20_does_1 7 rfl rfl)
theorem dX20_does_32 : decode cX20_does 32 = .ok (.ifCond .ne 13, 3) := dk_154 0 13 (dk_at dksX20_does_1 10 rfl rfl)
theorem dX20_does_35 : decode cX20_does 35 = .ok (.aload_n 0, 1) := dk_42 (dk_at dksX20_does_1 13 rfl rfl)
theorem dX20_does_36 : decode cX20_does 36 = .ok (.getfield 3, 3) := dk_180 0 3 (dk_at dksX20_does_1 14 rfl rfl)
theorem dX20_does_39 : decode cX20_does 39 = .ok (.iload_n 1, 1) := dk_27 (dk_at dksX20_does_1 17 rfl rfl)
theorem dX20_does_40 : decode cX20_does 40 = .ok (.iload_n 2, 1) := dk_28 (dk_at dksX20_does_1 18 rfl rfl)
theorem dX20_does_41 : decode cX20_does 41 = .ok (.invokevirtual 79, 3) := dk_182 0 79 (dk_at dksX20_does_1 19 rfl rfl)
theorem dX20_does_44 : decode cX20_does 44 = .ok (.ireturn, 1) := dk_172 (dk_at dksX20_does_1 22 rfl rfl)
theorem dX20_does_45 : decode cX20_does 45 = .ok (.aload_n 0, 1) := dk_42 (dk_at dksX20_does_1 23 rfl rfl)
theorem dX20_does_46 : decode cX20_does 46 = .ok (.getfield 19, 3) := dk_180 0 19 (dk_at dksX20_does_2 0 rfl rfl)
theorem dX20_does_49 : decode cX20_does 49 = .ok (.iconst 1, 1) := dk_4 (dk_at dksX20_does_2 3 rfl rfl)
theorem dX20_does_50 : decode cX20_does 50 = .ok (.if_icmp .ne 13, 3) := dk_160 0 13 (dk_at dksX20_does_2 4 rfl rfl)
theorem dX20_does_53 : decode cX20_does 53 = .ok (.aload_n 0, 1) := dk_42 (dk_at dksX20_does_2 7 rfl rfl)
theorem dX20_does_54 : decode cX20_does 54 = .ok (.getfield 3, 3) := dk_180 0 3 (dk_at dksX20_does_2 8 rfl rfl)
theorem dX20_does_57 : decode cX20_does 57 = .ok (.iload_n 1, 1) := dk_27 (dk_at dksX20_does_2 11 rfl rfl)
theorem dX20_does_58 : decode cX20_does 58 = .ok (.iload_n 2, 1) := dk_28 (dk_at dksX20_does_2 12 rfl rfl)
theorem dX20_does_59 : decode cX20_does 59 = .ok (.invokevirtual 83, 3) := dk_182 0 83 (dk_at dksX20_does_2 13 rfl rfl)
theorem dX20_does_62 : decode cX20_does 62 = .ok (.ireturn, 1) := dk_172 (dk_at dksX20_does_2 16 rfl rfl)
theorem dX20_does_63 : decode cX20_does 63 = .ok (.aload_n 0, 1) := dk_42 (dk_at dksX20_does_2 17 rfl rfl)
theorem dX20_does_64 : decode cX20_does 64 = .ok (.getfield 19, 3) := dk_180 0 19 (dk_at dksX20_does_2 18 rfl rfl)
theorem dX20_does_67 : decode cX20_does 67 = .ok (.iconst 2, 1) := dk_5 (dk_at dksX20_does_2 21 rfl rfl)
theorem dX20_does_68 : decode cX20_does 68 = .ok (.if_icmp .ne 11, 3) := dk_160 0 11 (dk_at dksX20_does_3 0 rfl rfl)
theorem dX20_does_71 : decode cX20_does 71 = .ok (.aload_n 0, 1) := dk_42 (dk_at dksX20_does_3 3 rfl rfl)
theorem dX20_does_72 : decode cX20_does 72 = .ok (.getfield 3, 3) := dk_180 0 3 (dk_at dksX20_does_3 4 rfl rfl)
theorem dX20_does_75 : decode cX20_does 75 = .ok (.invokevirtual 86, 3) := dk_182 0 86 (dk_at dksX20_does_3 7 rfl rfl)
theorem dX20_does_78 : decode cX20_does 78 = .ok (.ireturn, 1) := dk_172 (dk_at dksX20_does_3 10 rfl rfl)
theorem dX20_does_79 : decode cX20_does 79 = .ok (.aload_n 0, 1) := dk_42 (dk_at dksX20_does_3 11 rfl rfl)
theorem dX20_does_80 : decode cX20_does 80 = .ok (.getfield 3, 3) := dk_180 0 3 (dk_at dksX20_does_3 12 rfl rfl)
theorem dX20_does_83 : decode cX20_does 83 = .ok (.invokevirtual 89, 3) := dk_182 0 89 (dk_at dksX20_does_3 15 rfl rfl)
theorem dX20_does_86 : decode cX20_does 86 = .ok (.istore_n 3, 1) := dk_62 (dk_at dksX20_does_3 18 rfl rfl)
theorem dX20_does_87 : decode cX20_does 87 = .ok (.aload_n 0, 1) := dk_42 (dk_at dksX20_does_3 19 rfl rfl)
theorem dX20_does_88 : decode cX20_does 88 = .ok (.getfield 3, 3) := dk_180 0 3 (dk_at dksX20_does_3 20 rfl rfl)
theorem dX20_does_91 : decode cX20_does 91 = .ok (.iload_n 3, 1) := dk_29 (dk_at dksX20_does_3 23 rfl rfl)
theorem dX20_does_92 : decode cX20_does 92 = .ok (.ifCond .ge 13, 3) := dk_156 0 13 (dk_at dksX20_does_4 0 rfl rfl)
theorem dX20_does_95 : decode cX20_does 95 = .ok (.aload_n 0, 1) := dk_42 (dk_at dksX20_does_4 3 rfl rfl)
theorem dX20_does_96 : decode cX20_does 96 = .ok (.getfield 3, 3) := dk_180 0 3 (dk_at dksX20_does_4 4 rfl rfl)
theorem dX20_does_99 : decode cX20_does 99 = .ok (.getfield 51, 3) := dk_180 0 51 (dk_at dksX20_does_4 7 rfl rfl)
theorem dX20_does_102 : decode cX20_does 102 = .ok (.goto 4, 3) := dk_167 0 4 (dk_at dksX20_does_4 10 rfl rfl)
theorem dX20_does_105 : decode cX20_does 105 = .ok (.iload_n 3, 1) := dk_29 (dk_at dksX20_does_4 13 rfl rfl)
theorem dX20_does_106 : decode cX20_does 106 = .ok (.putfield 51, 3) := dk_181 0 51 (dk_at dksX20_does_4 14 rfl rfl)
theorem dX20_does_109 : decode cX20_does 109 = .ok (.iload_n 3, 1) := dk_29 (dk_at dksX20_does_4 17 rfl rfl)
theorem dX20_does_110 : decode cX20_does 110 = .ok (.ireturn, 1) := dk_172 (dk_at dksX20_does_4 18 rfl rfl)
abbrev cX20_reckoned : ByteArray := prog_2_method_3_code
def yX20_reckoned : MethodName := ⟨RX20, "reckoned", "(LCounterDesk$Sum;)I"⟩
def dkwX20_reckoned_2 : List UInt8 := [181, 0, 66, 42, 180, 0, 66, 153, 0, 7, 2, 167, 0, 5, 32, 136, 172]
abbrev dktX20_reckoned_2 : List UInt8 := dkwX20_reckoned_2 ++ []
def dkwX20_reckoned_1 : List UInt8 := [43, 42, 180, 0, 3, 180, 0, 29, 182, 0, 69, 65, 42, 42, 180, 0, 3, 180, 0, 29, 180, 0, 62]
abbrev dktX20_reckoned_1 : List UInt8 := dkwX20_reckoned_1 ++ dktX20_reckoned_2
def dkwX20_reckoned_0 : List UInt8 := [42, 180, 0, 66, 154, 0, 7, 43, 199, 0, 5, 2, 172, 42, 180, 0, 3, 180, 0, 29, 3, 181, 0, 62]
abbrev dktX20_reckoned_0 : List UInt8 := dkwX20_reckoned_0 ++ dktX20_reckoned_1
theorem dksX20_reckoned_0 : cX20_reckoned.data.toList.drop 0 = dktX20_reckoned_0 := by decide +kernel
theorem dksX20_reckoned_1 : cX20_reckoned.data.toList.drop 24 = dktX20_reckoned_1 := dk_seg dksX20_reckoned_0 24 rfl rfl
theorem dksX20_reckoned_2 : cX20_reckoned.data.toList.drop 47 = dktX20_reckoned_2 := dk_seg dksX20_reckoned_1 23 rfl rfl
theorem dX20_reckoned_0 : decode cX20_reckoned 0 = .ok (.aload_n 0, 1) := dk_42 (dk_at dksX20_reckoned_0 0 rfl rfl)
theorem dX20_reckoned_1 : decode cX20_reckoned 1 = .ok (.getfield 66, 3) := dk_180 0 66 (dk_at dksX20_reckoned_0 1 rfl rfl)
theorem dX20_reckoned_4 : decode cX20_reckoned 4 = .ok (.ifCond .ne 7, 3) := dk_154 0 7 (dk_at dksX20_reckoned_0 4 rfl rfl)
theorem dX20_reckoned_7 : decode cX20_reckoned 7 = .ok (.aload_n 1, 1) := dk_43 (dk_at dksX20_reckoned_0 7 rfl rfl)
theorem dX20_reckoned_8 : decode cX20_reckoned 8 = .ok (.ifnonnull 5, 3) := dk_199 0 5 (dk_at dksX20_reckoned_0 8 rfl rfl)
theorem dX20_reckoned_11 : decode cX20_reckoned 11 = .ok (.iconst (-1), 1) := dk_2 (dk_at dksX20_reckoned_0 11 rfl rfl)
theorem dX20_reckoned_12 : decode cX20_reckoned 12 = .ok (.ireturn, 1) := dk_172 (dk_at dksX20_reckoned_0 12 rfl rfl)
theorem dX20_reckoned_13 : decode cX20_reckoned 13 = .ok (.aload_n 0, 1) := dk_42 (dk_at dksX20_reckoned_0 13 rfl rfl)
theorem dX20_reckoned_14 : decode cX20_reckoned 14 = .ok (.getfield 3, 3) := dk_180 0 3 (dk_at dksX20_reckoned_0 14 rfl rfl)
theorem dX20_reckoned_17 : decode cX20_reckoned 17 = .ok (.getfield 29, 3) := dk_180 0 29 (dk_at dksX20_reckoned_0 17 rfl rfl)
theorem dX20_reckoned_20 : decode cX20_reckoned 20 = .ok (.iconst 0, 1) := dk_3 (dk_at dksX20_reckoned_0 20 rfl rfl)
theorem dX20_reckoned_21 : decode cX20_reckoned 21 = .ok (.putfield 62, 3) := dk_181 0 62 (dk_at dksX20_reckoned_0 21 rfl rfl)
theorem dX20_reckoned_24 : decode cX20_reckoned 24 = .ok (.aload_n 1, 1) := dk_43 (dk_at dksX20_reckoned_1 0 rfl rfl)
theorem dX20_reckoned_25 : decode cX20_reckoned 25 = .ok (.aload_n 0, 1) := dk_42 (dk_at dksX20_reckoned_1 1 rfl rfl)
theorem dX20_reckoned_26 : decode cX20_reckoned 26 = .ok (.getfield 3, 3) := dk_180 0 3 (dk_at dksX20_reckoned_1 2 rfl rfl)
theorem dX20_reckoned_29 : decode cX20_reckoned 29 = .ok (.getfield 29, 3) := dk_180 0 29 (dk_at dksX20_reckoned_1 5 rfl rfl)
theorem dX20_reckoned_32 : decode cX20_reckoned 32 = .ok (.invokevirtual 69, 3) := dk_182 0 69 (dk_at dksX20_reckoned_1 8 rfl rfl)
theorem dX20_reckoned_35 : decode cX20_reckoned 35 = .ok (.lstore_n 2, 1) := dk_65 (dk_at dksX20_reckoned_1 11 rfl rfl)
theorem dX20_reckoned_36 : decode cX20_reckoned 36 = .ok (.aload_n 0, 1) := dk_42 (dk_at dksX20_reckoned_1 12 rfl rfl)
theorem dX20_reckoned_37 : decode cX20_reckoned 37 = .ok (.aload_n 0, 1) := dk_42 (dk_at dksX20_reckoned_1 13 rfl rfl)
theorem dX20_reckoned_38 : decode cX20_reckoned 38 = .ok (.getfield 3, 3) := dk_180 0 3 (dk_at dksX20_reckoned_1 14 rfl rfl)
theorem dX20_reckoned_41 : decode cX20_reckoned 41 = .ok (.getfield 29, 3) := dk_180 0 29 (dk_at dksX20_reckoned_1 17 rfl rfl)
theorem dX20_reckoned_44 : decode cX20_reckoned 44 = .ok (.getfield 62, 3) := dk_180 0 62 (dk_at dksX20_reckoned_1 20 rfl rfl)
theorem dX20_reckoned_47 : decode cX20_reckoned 47 = .ok (.putfield 66, 3) := dk_181 0 66 (dk_at dksX20_reckoned_2 0 rfl rfl)
theorem dX20_reckoned_50 : decode cX20_reckoned 50 = .ok (.aload_n 0, 1) := dk_42 (dk_at dksX20_reckoned_2 3 rfl rfl)
theorem dX20_reckoned_51 : decode cX20_reckoned 51 = .ok (.getfield 66, 3) := dk_180 0 66 (dk_at dksX20_reckoned_2 4 rfl rfl)
theorem dX20_reckoned_54 : decode cX20_reckoned 54 = .ok (.ifCond .eq 7, 3) := dk_153 0 7 (dk_at dksX20_reckoned_2 7 rfl rfl)
theorem dX20_reckoned_57 : decode cX20_reckoned 57 = .ok (.iconst (-1), 1) := dk_2 (dk_at dksX20_reckoned_2 10 rfl rfl)
theorem dX20_reckoned_58 : decode cX20_reckoned 58 = .ok (.goto 5, 3) := dk_167 0 5 (dk_at dksX20_reckoned_2 11 rfl rfl)
theorem dX20_reckoned_61 : decode cX20_reckoned 61 = .ok (.lload_n 2, 1) := dk_32 (dk_at dksX20_reckoned_2 14 rfl rfl)
theorem dX20_reckoned_62 : decode cX20_reckoned 62 = .ok (.l2i, 1) := dk_136 (dk_at dksX20_reckoned_2 15 rfl rfl)
theorem dX20_reckoned_63 : decode cX20_reckoned 63 = .ok (.ireturn, 1) := dk_172 (dk_at dksX20_reckoned_2 16 rfl rfl)
theorem q165 : (Jvm.Cond.initialized "CounterDesk$Act") ∈ lw_all := lw_g (lw_at lw_m1 36 rfl) rfl
theorem q224 : (Jvm.Cond.fieldLinkNest "CounterDesk$Act" (43 : Nat) "CounterDesk$Books" "day" "I" "CounterDesk") ∈ lw_tbl := lw_at lw_m1 95 rfl
theorem q298 : (Jvm.Cond.fieldLinkNest "CounterDesk$Act" (33 : Nat) "CounterDesk$Asked" "numbers" "[J" "CounterDesk") ∈ lw_tbl := lw_at lw_m1 169 rfl
theorem q306 : (Jvm.Cond.fieldLinkNest "CounterDesk$Act" (62 : Nat) "CounterDesk$Asked" "isBroken" "Z" "CounterDesk") ∈ lw_tbl := lw_at lw_m1 177 rfl
theorem q340 : (Jvm.Cond.fieldLinkNest "CounterDesk$Act" (29 : Nat) "CounterDesk" "inOrders" "LCounterDesk$Asked;" "CounterDesk") ∈ lw_tbl := lw_at lw_m1 211 rfl
theorem q361 : (Jvm.Cond.fieldLinkNest "CounterDesk$Act" (48 : Nat) "CounterDesk" "done" "I" "CounterDesk") ∈ lw_tbl := lw_at lw_m1 232 rfl
theorem q363 : (Jvm.Cond.fieldLinkNest "CounterDesk$Act" (51 : Nat) "CounterDesk" "latest" "I" "CounterDesk") ∈ lw_tbl := lw_at lw_m1 234 rfl
theorem q1135 : (Jvm.Cond.instantiable "CounterDesk$Act" (7 : Nat)) ∈ lw_all := lw_g (lw_at lw_m5 46 rfl) rfl
theorem q1137 : (Jvm.Cond.instanceMethod ({ cls := "CounterDesk$Act", name := "<init>", desc := "(LCounterDesk;ILCounterDesk$Sum;LCounterDesk$Sum;)V" } : Jvm.MethodName)) ∈ lw_all := lw_g (lw_at lw_m5 48 rfl) rfl
theorem q1138 : (Jvm.Cond.code ({ cls := "CounterDesk$Act", name := "<init>", desc := "(LCounterDesk;ILCounterDesk$Sum;LCounterDesk$Sum;)V" } : Jvm.MethodName) prog_2_method_1_code (5 : Nat) (Option.none : Option Jvm.ClassFile.FieldType)) ∈ lw_all := lw_g (lw_at lw_m5 49 rfl) rfl
theorem q1139 : (Jvm.Cond.methodLink "CounterDesk$Act" (9 : Nat) ({ cls := "java/lang/Object", name := "<init>", desc := "()V" } : Jvm.MethodName)) ∈ lw_all := lw_g (lw_at lw_m5 50 rfl) rfl
theorem q1140 : (Jvm.Cond.fieldLink "CounterDesk$Act" (19 : Nat) "CounterDesk$Act" "sort" "I") ∈ lw_all := lw_g (lw_at lw_m5 51 rfl) rfl
theorem q1141 : (Jvm.Cond.fieldLink "CounterDesk$Act" (22 : Nat) "CounterDesk$Act" "one" "LCounterDesk$Sum;") ∈ lw_all := lw_g (lw_at lw_m5 52 rfl) rfl
theorem q1142 : (Jvm.Cond.fieldLink "CounterDesk$Act" (26 : Nat) "CounterDesk$Act" "two" "LCounterDesk$Sum;") ∈ lw_all := lw_g (lw_at lw_m5 53 rfl) rfl
theorem q1143 : (Jvm.Cond.fieldLink "CounterDesk$Act" (95 : Nat) "CounterDesk$Act" "test" "LCounterDesk$Test;") ∈ lw_all := lw_g (lw_at lw_m5 54 rfl) rfl
theorem q1145 : (Jvm.Cond.fieldLink "CounterDesk$Act" (15 : Nat) "CounterDesk$Act" "times" "I") ∈ lw_all := lw_g (lw_at lw_m5 56 rfl) rfl
theorem q1148 : (Jvm.Cond.fieldLink "CounterDesk$Act" (66 : Nat) "CounterDesk$Act" "off" "Z") ∈ lw_all := lw_g (lw_at lw_m5 59 rfl) rfl
theorem q1149 : (Jvm.Cond.fieldLink "CounterDesk$Act" (3 : Nat) "CounterDesk$Act" "this$0" "LCounterDesk;") ∈ lw_all := lw_g (lw_at lw_m5 60 rfl) rfl
theorem q1150 : (Jvm.Cond.laysFinal "CounterDesk$Act" "CounterDesk$Act" "sort" "I") ∈ lw_all := lw_g (lw_at lw_m5 61 rfl) rfl
theorem q1151 : (Jvm.Cond.soleField "CounterDesk$Act" "sort") ∈ lw_all := lw_g (lw_at lw_m5 62 rfl) rfl
theorem q1152 : (Jvm.Cond.laysFinal "CounterDesk$Act" "CounterDesk$Act" "one" "LCounterDesk$Sum;") ∈ lw_all := lw_g (lw_at lw_m5 63 rfl) rfl
theorem q1153 : (Jvm.Cond.soleField "CounterDesk$Act" "one") ∈ lw_all := lw_g (lw_at lw_m5 64 rfl) rfl
theorem q1154 : (Jvm.Cond.laysFinal "CounterDesk$Act" "CounterDesk$Act" "two" "LCounterDesk$Sum;") ∈ lw_all := lw_g (lw_at lw_m5 65 rfl) rfl
theorem q1155 : (Jvm.Cond.soleField "CounterDesk$Act" "two") ∈ lw_all := lw_g (lw_at lw_m5 66 rfl) rfl
theorem q1156 : (Jvm.Cond.lays "CounterDesk$Act" "CounterDesk$Act" "test" "LCounterDesk$Test;") ∈ lw_all := lw_g (lw_at lw_m5 67 rfl) rfl
theorem q1157 : (Jvm.Cond.soleField "CounterDesk$Act" "test") ∈ lw_all := lw_g (lw_at lw_m5 68 rfl) rfl
theorem q1158 : (Jvm.Cond.lays "CounterDesk$Act" "CounterDesk$Act" "times" "I") ∈ lw_all := lw_g (lw_at lw_m5 69 rfl) rfl
theorem q1159 : (Jvm.Cond.soleField "CounterDesk$Act" "times") ∈ lw_all := lw_g (lw_at lw_m5 70 rfl) rfl
theorem q1160 : (Jvm.Cond.lays "CounterDesk$Act" "CounterDesk$Act" "off" "Z") ∈ lw_all := lw_g (lw_at lw_m5 71 rfl) rfl
theorem q1161 : (Jvm.Cond.soleField "CounterDesk$Act" "off") ∈ lw_all := lw_g (lw_at lw_m5 72 rfl) rfl
theorem q1162 : (Jvm.Cond.laysFinal "CounterDesk$Act" "CounterDesk$Act" "this$0" "LCounterDesk;") ∈ lw_all := lw_g (lw_at lw_m5 73 rfl) rfl
theorem q1163 : (Jvm.Cond.soleField "CounterDesk$Act" "this$0") ∈ lw_all := lw_g (lw_at lw_m5 74 rfl) rfl
theorem q1164 : (Jvm.Cond.superclass "CounterDesk$Act" "java/lang/Object") ∈ lw_all := lw_g (lw_at lw_m5 75 rfl) rfl
theorem q1225 : (Jvm.Cond.selects "CounterDesk$Act" ({ cls := "java/lang/Object", name := "getClass", desc := "()Ljava/lang/Class;" } : Jvm.MethodName) ({ cls := "java/lang/Object", name := "getClass", desc := "()Ljava/lang/Class;" } : Jvm.MethodName)) ∈ lw_all := lw_g (lw_at lw_m5 136 rfl) rfl
theorem q1500 : (Jvm.Cond.instanceMethod ({ cls := "CounterDesk$Act", name := "run", desc := "()I" } : Jvm.MethodName)) ∈ lw_all := lw_g (lw_at lw_m6 171 rfl) rfl
theorem q1501 : (Jvm.Cond.selects "CounterDesk$Act" ({ cls := "CounterDesk$Act", name := "run", desc := "()I" } : Jvm.MethodName) ({ cls := "CounterDesk$Act", name := "run", desc := "()I" } : Jvm.MethodName)) ∈ lw_all := lw_g (lw_at lw_m6 172 rfl) rfl
theorem q1502 : (Jvm.Cond.code ({ cls := "CounterDesk$Act", name := "run", desc := "()I" } : Jvm.MethodName) prog_2_method_5_code (1 : Nat) (Option.some Jvm.ClassFile.FieldType.int)) ∈ lw_all := lw_g (lw_at lw_m6 173 rfl) rfl
theorem q1503 : (Jvm.Cond.methodLink "CounterDesk$Act" (92 : Nat) ({ cls := "CounterDesk$Act", name := "setAll", desc := "()V" } : Jvm.MethodName)) ∈ lw_all := lw_g (lw_at lw_m6 174 rfl) rfl
theorem q1504 : (Jvm.Cond.privateMethod ({ cls := "CounterDesk$Act", name := "setAll", desc := "()V" } : Jvm.MethodName)) ∈ lw_tbl := lw_at lw_m6 175 rfl
theorem q1505 : (Jvm.Cond.instanceMethod ({ cls := "CounterDesk$Act", name := "setAll", desc := "()V" } : Jvm.MethodName)) ∈ lw_all := lw_g (lw_at lw_m6 176 rfl) rfl
theorem q1506 : (Jvm.Cond.code ({ cls := "CounterDesk$Act", name := "setAll", desc := "()V" } : Jvm.MethodName) prog_2_method_2_code (1 : Nat) (Option.none : Option Jvm.ClassFile.FieldType)) ∈ lw_all := lw_g (lw_at lw_m6 177 rfl) rfl
theorem q1507 : (Jvm.Cond.methodLinkNest "CounterDesk$Act" (39 : Nat) ({ cls := "CounterDesk", name := "books", desc := "()LCounterDesk$Books;" } : Jvm.MethodName) "CounterDesk") ∈ lw_tbl := lw_at lw_m6 178 rfl
theorem q1508 : (Jvm.Cond.methodLinkNest "CounterDesk$Act" (54 : Nat) ({ cls := "CounterDesk", name := "barredOnes", desc := "()I" } : Jvm.MethodName) "CounterDesk") ∈ lw_tbl := lw_at lw_m6 179 rfl
theorem q1509 : (Jvm.Cond.methodLinkNest "CounterDesk$Act" (58 : Nat) ({ cls := "CounterDesk", name := "sumOf", desc := "(I)I" } : Jvm.MethodName) "CounterDesk") ∈ lw_tbl := lw_at lw_m6 180 rfl
theorem q1510 : (Jvm.Cond.methodLink "CounterDesk$Act" (99 : Nat) ({ cls := "CounterDesk$Test", name := "of", desc := "(LCounterDesk$Asked;)Z" } : Jvm.MethodName)) ∈ lw_all := lw_g (lw_at lw_m6 181 rfl) rfl
theorem q1511 : (Jvm.Cond.methodLink "CounterDesk$Act" (104 : Nat) ({ cls := "CounterDesk$Act", name := "does", desc := "()I" } : Jvm.MethodName)) ∈ lw_all := lw_g (lw_at lw_m6 182 rfl) rfl
theorem q1512 : (Jvm.Cond.privateMethod ({ cls := "CounterDesk$Act", name := "does", desc := "()I" } : Jvm.MethodName)) ∈ lw_tbl := lw_at lw_m6 183 rfl
theorem q1513 : (Jvm.Cond.instanceMethod ({ cls := "CounterDesk$Act", name := "does", desc := "()I" } : Jvm.MethodName)) ∈ lw_all := lw_g (lw_at lw_m6 184 rfl) rfl
theorem q1514 : (Jvm.Cond.code ({ cls := "CounterDesk$Act", name := "does", desc := "()I" } : Jvm.MethodName) prog_2_method_4_code (4 : Nat) (Option.some Jvm.ClassFile.FieldType.int)) ∈ lw_all := lw_g (lw_at lw_m6 185 rfl) rfl
theorem q1515 : (Jvm.Cond.methodLink "CounterDesk$Act" (75 : Nat) ({ cls := "CounterDesk$Act", name := "reckoned", desc := "(LCounterDesk$Sum;)I" } : Jvm.MethodName)) ∈ lw_all := lw_g (lw_at lw_m6 186 rfl) rfl
theorem q1516 : (Jvm.Cond.privateMethod ({ cls := "CounterDesk$Act", name := "reckoned", desc := "(LCounterDesk$Sum;)I" } : Jvm.MethodName)) ∈ lw_tbl := lw_at lw_m6 187 rfl
theorem q1517 : (Jvm.Cond.instanceMethod ({ cls := "CounterDesk$Act", name := "reckoned", desc := "(LCounterDesk$Sum;)I" } : Jvm.MethodName)) ∈ lw_all := lw_g (lw_at lw_m6 188 rfl) rfl
theorem q1518 : (Jvm.Cond.code ({ cls := "CounterDesk$Act", name := "reckoned", desc := "(LCounterDesk$Sum;)I" } : Jvm.MethodName) prog_2_method_3_code (4 : Nat) (Option.some Jvm.ClassFile.FieldType.int)) ∈ lw_all := lw_g (lw_at lw_m6 189 rfl) rfl
theorem q1519 : (Jvm.Cond.methodLink "CounterDesk$Act" (69 : Nat) ({ cls := "CounterDesk$Sum", name := "of", desc := "(LCounterDesk$Asked;)J" } : Jvm.MethodName)) ∈ lw_all := lw_g (lw_at lw_m6 190 rfl) rfl
theorem q1520 : (Jvm.Cond.methodLinkNest "CounterDesk$Act" (79 : Nat) ({ cls := "CounterDesk", name := "setNow", desc := "(II)I" } : Jvm.MethodName) "CounterDesk") ∈ lw_tbl := lw_at lw_m6 191 rfl
theorem q1521 : (Jvm.Cond.methodLinkNest "CounterDesk$Act" (83 : Nat) ({ cls := "CounterDesk", name := "shiftNow", desc := "(II)I" } : Jvm.MethodName) "CounterDesk") ∈ lw_tbl := lw_at lw_m6 192 rfl
theorem q1522 : (Jvm.Cond.methodLinkNest "CounterDesk$Act" (86 : Nat) ({ cls := "CounterDesk", name := "swapNow", desc := "()I" } : Jvm.MethodName) "CounterDesk") ∈ lw_tbl := lw_at lw_m6 193 rfl
theorem q1523 : (Jvm.Cond.methodLinkNest "CounterDesk$Act" (89 : Nat) ({ cls := "CounterDesk", name := "passNow", desc := "()I" } : Jvm.MethodName) "CounterDesk") ∈ lw_tbl := lw_at lw_m6 194 rfl
theorem q2316 : (Jvm.Cond.castable "CounterDesk$Act" "java/lang/Object") ∈ lw_tbl := lw_at lw_m10 27 rfl
theorem in_X20 : ∀ w ∈ wsX200, w ∈ lw_all := lw_in wsX200 [1150, 1152, 1154, 1156, 1158, 1160, 1162] (by decide +kernel) (by decide +kernel)

/-! CounterDesk$OrderReader -/
set_option maxRecDepth 100000
def RX21 : String := "CounterDesk$OrderReader"
def TX21 : u_T := fun k => match k with
  | 0 => ("CounterDesk$Reader", "from", "I", false)
  | 1 => ("CounterDesk$Reader", "to", "I", false)
  | 2 => ("CounterDesk$Reader", "leaves", "I", false)
  | 3 => ("CounterDesk$Reader", "deep", "I", false)
  | 4 => ("CounterDesk$Reader", "piled", "I", false)
  | 5 => ("CounterDesk$Reader", "pile", "[LCounterDesk$Test;", true)
  | 6 => ("CounterDesk$Reader", "words", "[Ljava/lang/String;", true)
  | 7 => ("CounterDesk$Reader", "this$0", "LCounterDesk;", true)
  | 8 => ("CounterDesk$OrderReader", "row", "[LCounterDesk$Act;", true)
  | _ => ("CounterDesk$OrderReader", "this$0", "LCounterDesk;", true)
def tyX21 : Nat → FieldType := fun k => match k with
  | 0 => .int
  | 1 => .int
  | 2 => .int
  | 3 => .int
  | 4 => .int
  | 5 => .array (.object "CounterDesk$Test")
  | 6 => .array (.object "java/lang/String")
  | 7 => .object "CounterDesk"
  | 8 => .array (.object "CounterDesk$Act")
  | _ => .object "CounterDesk"
abbrev wsX210 : List Cond := u_ws RX21 TX21 10
-- two fields of one name: no nmX21
theorem tyX21_ok : ∀ k, k < 10 → parseFieldDescriptor (TX21 k).2.2.1 = some (tyX21 k) := by decide +kernel
abbrev cX21_behindWord : ByteArray := prog_14_method_5_code
def yX21_behindWord : MethodName := ⟨RX21, "behindWord", "(I)LCounterDesk$Sum;"⟩
def dkwX21_behindWord_1 : List UInt8 := [27, 42, 16, 11, 182, 0, 79, 183, 0, 83, 176]
abbrev dktX21_behindWord_1 : List UInt8 := dkwX21_behindWord_1 ++ []
def dkwX21_behindWord_0 : List UInt8 := [27, 8, 162, 0, 14, 187, 0, 72, 89, 27, 183, 0, 74, 167, 0, 21, 187, 0, 77, 89, 42, 180, 0, 3]
abbrev dktX21_behindWord_0 : List UInt8 := dkwX21_behindWord_0 ++ dktX21_behindWord_1
theorem dksX21_behindWord_0 : cX21_behindWord.data.toList.drop 0 = dktX21_behindWord_0 := by decide +kernel
theorem dksX21_behindWord_1 : cX21_behindWord.data.toList.drop 24 = dktX21_behindWord_1 := dk_seg dksX21_behindWord_0 24 rfl rfl
theorem dX21_behindWord_0 : decode cX21_behindWord 0 = .ok (.iload_n 1, 1) := dk_27 (dk_at dksX21_behindWord_0 0 rfl rfl)
theorem dX21_behindWord_1 : decode cX21_behindWord 1 = .ok (.iconst 5, 1) := dk_8 (dk_at dksX21_behindWord_0 1 rfl rfl)
theorem dX21_behindWord_2 : decode cX21_behindWord 2 = .ok (.if_icmp .ge 14, 3) := dk_162 0 14 (dk_at dksX21_behindWord_0 2 rfl rfl)
theorem dX21_behindWord_5 : decode cX21_behindWord 5 = .ok (.new 72, 3) := dk_187 0 72 (dk_at dksX21_behindWord_0 5 rfl rfl)
theorem dX21_behindWord_8 : decode cX21_behindWord 8 = .ok (.dup, 1) := dk_89 (dk_at dksX21_behindWord_0 8 rfl rfl)
theorem dX21_behindWord_9 : decode cX21_behindWord 9 = .ok (.iload_n 1, 1) := dk_27 (dk_at dksX21_behindWord_0 9 rfl rfl)
theorem dX21_behindWord_10 : decode cX21_behindWord 10 = .ok (.invokespecial 74, 3) := dk_183 0 74 (dk_at dksX21_behindWord_0 10 rfl rfl)
theorem dX21_behindWord_13 : decode cX21_behindWord 13 = .ok (.goto 21, 3) := dk_167 0 21 (dk_at dksX21_behindWord_0 13 rfl rfl)
theorem dX21_behindWord_16 : decode cX21_behindWord 16 = .ok (.new 77, 3) := dk_187 0 77 (dk_at dksX21_behindWord_0 16 rfl rfl)
theorem dX21_behindWord_19 : decode cX21_behindWord 19 = .ok (.dup, 1) := dk_89 (dk_at dksX21_behindWord_0 19 rfl rfl)
theorem dX21_behindWord_20 : decode cX21_behindWord 20 = .ok (.aload_n 0, 1) := dk_42 (dk_at dksX21_behindWord_0 20 rfl rfl)
theorem dX21_behindWord_21 : decode cX21_behindWord 21 = .ok (.getfield 3, 3) := dk_180 0 3 (dk_at dksX21_behindWord_0 21 rfl rfl)
theorem dX21_behindWord_24 : decode cX21_behindWord 24 = .ok (.iload_n 1, 1) := dk_27 (dk_at dksX21_behindWord_1 0 rfl rfl)
theorem dX21_behindWord_25 : decode cX21_behindWord 25 = .ok (.aload_n 0, 1) := dk_42 (dk_at dksX21_behindWord_1 1 rfl rfl)
theorem dX21_behindWord_26 : decode cX21_behindWord 26 = .ok (.bipush 11, 2) := dk_16 11 (dk_at dksX21_behindWord_1 2 rfl rfl)
theorem dX21_behindWord_28 : decode cX21_behindWord 28 = .ok (.invokevirtual 79, 3) := dk_182 0 79 (dk_at dksX21_behindWord_1 4 rfl rfl)
theorem dX21_behindWord_31 : decode cX21_behindWord 31 = .ok (.invokespecial 83, 3) := dk_183 0 83 (dk_at dksX21_behindWord_1 7 rfl rfl)
theorem dX21_behindWord_34 : decode cX21_behindWord 34 = .ok (.areturn, 1) := dk_176 (dk_at dksX21_behindWord_1 10 rfl rfl)
abbrev cX21_read : ByteArray := prog_14_method_7_code
def yX21_read : MethodName := ⟨RX21, "read", "(I)V"⟩
def dkwX21_read_2 : List UInt8 := [153, 0, 10, 42, 182, 0, 116, 167, 0, 4, 1, 181, 0, 120, 42, 180, 0, 33, 27, 44, 83, 177]
abbrev dktX21_read_2 : List UInt8 := dkwX21_read_2 ++ []
def dkwX21_read_1 : List UInt8 := [167, 0, 4, 3, 182, 0, 51, 44, 42, 16, 20, 182, 0, 79, 181, 0, 112, 44, 42, 18, 114, 182, 0, 47]
abbrev dktX21_read_1 : List UInt8 := dkwX21_read_1 ++ dktX21_read_2
def dkwX21_read_0 : List UInt8 := [42, 182, 0, 102, 77, 42, 18, 106, 182, 0, 47, 153, 0, 29, 42, 42, 182, 0, 108, 154, 0, 7, 4]
abbrev dktX21_read_0 : List UInt8 := dkwX21_read_0 ++ dktX21_read_1
theorem dksX21_read_0 : cX21_read.data.toList.drop 0 = dktX21_read_0 := by decide +kernel
theorem dksX21_read_1 : cX21_read.data.toList.drop 23 = dktX21_read_1 := dk_seg dksX21_read_0 23 rfl rfl
theorem dksX21_read_2 : cX21_read.data.toList.drop 47 = dktX21_read_2 := dk_seg dksX21_read_1 24 rfl rfl
theorem dX21_read_0 : decode cX21_read 0 = .ok (.aload_n 0, 1) := dk_42 (dk_at dksX21_read_0 0 rfl rfl)
theorem dX21_read_1 : decode cX21_read 1 = .ok (.invokevirtual 102, 3) := dk_182 0 102 (dk_at dksX21_read_0 1 rfl rfl)
theorem dX21_read_4 : decode cX21_read 4 = .ok (.astore_n 2, 1) := dk_77 (dk_at dksX21_read_0 4 rfl rfl)
theorem dX21_read_5 : decode cX21_read 5 = .ok (.aload_n 0, 1) := dk_42 (dk_at dksX21_read_0 5 rfl rfl)
theorem dX21_read_6 : decode cX21_read 6 = .ok (.ldc 106, 2) := dk_18 106 (dk_at dksX21_read_0 6 rfl rfl)
theorem dX21_read_8 : decode cX21_read 8 = .ok (.invokevirtual 47, 3) := dk_182 0 47 (dk_at dksX21_read_0 8 rfl rfl)
theorem dX21_read_11 : decode cX21_read 11 = .ok (.ifCond .eq 29, 3) := dk_153 0 29 (dk_at dksX21_read_0 11 rfl rfl)
theorem dX21_read_14 : decode cX21_read 14 = .ok (.aload_n 0, 1) := dk_42 (dk_at dksX21_read_0 14 rfl rfl)
theorem dX21_read_15 : decode cX21_read 15 = .ok (.aload_n 0, 1) := dk_42 (dk_at dksX21_read_0 15 rfl rfl)
theorem dX21_read_16 : decode cX21_read 16 = .ok (.invokevirtual 108, 3) := dk_182 0 108 (dk_at dksX21_read_0 16 rfl rfl)
theorem dX21_read_19 : decode cX21_read 19 = .ok (.ifCond .ne 7, 3) := dk_154 0 7 (dk_at dksX21_read_0 19 rfl rfl)
theorem dX21_read_22 : decode cX21_read 22 = .ok (.iconst 1, 1) := dk_4 (dk_at dksX21_read_0 22 rfl rfl)
theorem dX21_read_23 : decode cX21_read 23 = .ok (.goto 4, 3) := dk_167 0 4 (dk_at dksX21_read_1 0 rfl rfl)
theorem dX21_read_26 : decode cX21_read 26 = .ok (.iconst 0, 1) := dk_3 (dk_at dksX21_read_1 3 rfl rfl)
theorem dX21_read_27 : decode cX21_read 27 = .ok (.invokevirtual 51, 3) := dk_182 0 51 (dk_at dksX21_read_1 4 rfl rfl)
theorem dX21_read_30 : decode cX21_read 30 = .ok (.aload_n 2, 1) := dk_44 (dk_at dksX21_read_1 7 rfl rfl)
theorem dX21_read_31 : decode cX21_read 31 = .ok (.aload_n 0, 1) := dk_42 (dk_at dksX21_read_1 8 rfl rfl)
theorem dX21_read_32 : decode cX21_read 32 = .ok (.bipush 20, 2) := dk_16 20 (dk_at dksX21_read_1 9 rfl rfl)
theorem dX21_read_34 : decode cX21_read 34 = .ok (.invokevirtual 79, 3) := dk_182 0 79 (dk_at dksX21_read_1 11 rfl rfl)
theorem dX21_read_37 : decode cX21_read 37 = .ok (.putfield 112, 3) := dk_181 0 112 (dk_at dksX21_read_1 14 rfl rfl)
theorem dX21_read_40 : decode cX21_read 40 = .ok (.aload_n 2, 1) := dk_44 (dk_at dksX21_read_1 17 rfl rfl)
theorem dX21_read_41 : decode cX21_read 41 = .ok (.aload_n 0, 1) := dk_42 (dk_at dksX21_read_1 18 rfl rfl)
theorem dX21_read_42 : decode cX21_read 42 = .ok (.ldc 114, 2) := dk_18 114 (dk_at dksX21_read_1 19 rfl rfl)
theorem dX21_read_44 : decode cX21_read 44 = .ok (.invokevirtual 47, 3) := dk_182 0 47 (dk_at dksX21_read_1 21 rfl rfl)
theorem dX21_read_47 : decode cX21_read 47 = .ok (.ifCond .eq 10, 3) := dk_153 0 10 (dk_at dksX21_read_2 0 rfl rfl)
theorem dX21_read_50 : decode cX21_read 50 = .ok (.aload_n 0, 1) := dk_42 (dk_at dksX21_read_2 3 rfl rfl)
theorem dX21_read_51 : decode cX21_read 51 = .ok (.invokevirtual 116, 3) := dk_182 0 116 (dk_at dksX21_read_2 4 rfl rfl)
theorem dX21_read_54 : decode cX21_read 54 = .ok (.goto 4, 3) := dk_167 0 4 (dk_at dksX21_read_2 7 rfl rfl)
theorem dX21_read_57 : decode cX21_read 57 = .ok (.aconst_null, 1) := dk_1 (dk_at dksX21_read_2 10 rfl rfl)
theorem dX21_read_58 : decode cX21_read 58 = .ok (.putfield 120, 3) := dk_181 0 120 (dk_at dksX21_read_2 11 rfl rfl)
theorem dX21_read_61 : decode cX21_read 61 = .ok (.aload_n 0, 1) := dk_42 (dk_at dksX21_read_2 14 rfl rfl)
theorem dX21_read_62 : decode cX21_read 62 = .ok (.getfield 33, 3) := dk_180 0 33 (dk_at dksX21_read_2 15 rfl rfl)
theorem dX21_read_65 : decode cX21_read 65 = .ok (.iload_n 1, 1) := dk_27 (dk_at dksX21_read_2 18 rfl rfl)
theorem dX21_read_66 : decode cX21_read 66 = .ok (.aload_n 2, 1) := dk_44 (dk_at dksX21_read_2 19 rfl rfl)
theorem dX21_read_67 : decode cX21_read 67 = .ok (.aastore, 1) := dk_83 (dk_at dksX21_read_2 20 rfl rfl)
theorem dX21_read_68 : decode cX21_read 68 = .ok (.return_, 1) := dk_177 (dk_at dksX21_read_2 21 rfl rfl)
abbrev cX21_act : ByteArray := prog_14_method_6_code
def yX21_act : MethodName := ⟨RX21, "act", "()LCounterDesk$Act;"⟩
def dkwX21_act_4 : List UInt8 := [3, 167, 0, 4, 4, 44, 42, 18, 97, 182, 0, 98, 183, 0, 88, 176]
abbrev dktX21_act_4 : List UInt8 := dkwX21_act_4 ++ []
def dkwX21_act_3 : List UInt8 := [167, 0, 4, 3, 182, 0, 51, 42, 182, 0, 55, 77, 187, 0, 31, 89, 42, 180, 0, 3, 27, 153, 0, 7]
abbrev dktX21_act_3 : List UInt8 := dkwX21_act_3 ++ dktX21_act_4
def dkwX21_act_2 : List UInt8 := [42, 18, 93, 182, 0, 47, 60, 42, 27, 154, 0, 12, 42, 18, 95, 182, 0, 47, 153, 0, 7, 4]
abbrev dktX21_act_2 : List UInt8 := dkwX21_act_2 ++ dktX21_act_3
def dkwX21_act_1 : List UInt8 := [42, 18, 91, 182, 0, 47, 153, 0, 18, 187, 0, 31, 89, 42, 180, 0, 3, 5, 1, 1, 183, 0, 88, 176]
abbrev dktX21_act_1 : List UInt8 := dkwX21_act_1 ++ dktX21_act_2
def dkwX21_act_0 : List UInt8 := [42, 18, 86, 182, 0, 47, 153, 0, 18, 187, 0, 31, 89, 42, 180, 0, 3, 6, 1, 1, 183, 0, 88, 176]
abbrev dktX21_act_0 : List UInt8 := dkwX21_act_0 ++ dktX21_act_1
theorem dksX21_act_0 : cX21_act.data.toList.drop 0 = dktX21_act_0 := by decide +kernel
theorem dksX21_act_1 : cX21_act.data.toList.drop 24 = dktX21_act_1 := dk_seg dksX21_act_0 24 rfl rfl
theorem dksX21_act_2 : cX21_act.data.toList.drop 48 = dktX21_act_2 := dk_seg dksX21_act_1 24 rfl rfl
theorem dksX21_act_3 : cX21_act.data.toList.drop 70 = dktX21_act_3 := dk_seg dksX21_act_2 22 rfl rfl
theorem dksX21_act_4 : cX21_act.data.toList.drop 94 = dktX21_act_4 := dk_seg dksX21_act_3 24 rfl rfl
theorem dX21_act_0 : decode cX21_act 0 = .ok (.aload_n 0, 1) := dk_42 (dk_at dksX21_act_0 0 rfl rfl)
theorem dX21_act_1 : decode cX21_act 1 = .ok (.ldc 86, 2) := dk_18 86 (dk_at dksX21_act_0 1 rfl rfl)
theorem dX21_act_3 : decode cX21_act 3 = .ok (.invokevirtual 47, 3) := dk_182 0 47 (dk_at dksX21_act_0 3 rfl rfl)
theorem dX21_act_6 : decode cX21_act 6 = .ok (.ifCond .eq 18, 3) := dk_153 0 18 (dk_at dksX21_act_0 6 rfl rfl)
theorem dX21_act_9 : decode cX21_act 9 = .ok (.new 31, 3) := dk_187 0 31 (dk_at dksX21_act_0 9 rfl rfl)
theorem dX21_act_12 : decode cX21_act 12 = .ok (.dup, 1) := dk_89 (dk_at dksX21_act_0 12 rfl rfl)
theorem dX21_act_13 : decode cX21_act 13 = .ok (.aload_n 0, 1) := dk_42 (dk_at dksX21_act_0 13 rfl rfl)
theorem dX21_act_14 : decode cX21_act 14 = .ok (.getfield 3, 3) := dk_180 0 3 (dk_at dksX21_act_0 14 rfl rfl)
theorem dX21_act_17 : decode cX21_act 17 = .ok (.iconst 3, 1) := dk_6 (dk_at dksX21_act_0 17 rfl rfl)
theorem dX21_act_18 : decode cX21_act 18 = .ok (.aconst_null, 1) := dk_1 (dk_at dksX21_act_0 18 rfl rfl)
theorem dX21_act_19 : decode cX21_act 19 = .ok (.aconst_null, 1) := dk_1 (dk_at dksX21_act_0 19 rfl rfl)
theorem dX21_act_20 : decode cX21_act 20 = .ok (.invokespecial 88, 3) := dk_183 0 88 (dk_at dksX21_act_0 20 rfl rfl)
theorem dX21_act_23 : decode cX21_act 23 = .ok (.areturn, 1) := dk_176 (dk_at dksX21_act_0 23 rfl rfl)
theorem dX21_act_24 : decode cX21_act 24 = .ok (.aload_n 0, 1) := dk_42 (dk_at dksX21_act_1 0 rfl rfl)
theorem dX21_act_25 : decode cX21_act 25 = .ok (.ldc 91, 2) := dk_18 91 (dk_at dksX21_act_1 1 rfl rfl)
theorem dX21_act_27 : decode cX21_act 27 = .ok (.invokevirtual 47, 3) := dk_182 0 47 (dk_at dksX21_act_1 3 rfl rfl)
theorem dX21_act_30 : decode cX21_act 30 = .ok (.ifCond .eq 18, 3) := dk_153 0 18 (dk_at dksX21_act_1 6 rfl rfl)
theorem dX21_act_33 : decode cX21_act 33 = .ok (.new 31, 3) := dk_187 0 31 (dk_at dksX21_act_1 9 rfl rfl)
theorem dX21_act_36 : decode cX21_act 36 = .ok (.dup, 1) := dk_89 (dk_at dksX21_act_1 12 rfl rfl)
theorem dX21_act_37 : decode cX21_act 37 = .ok (.aload_n 0, 1) := dk_42 (dk_at dksX21_act_1 13 rfl rfl)
theorem dX21_act_38 : decode cX21_act 38 = .ok (.getfield 3, 3) := dk_180 0 3 (dk_at dksX21_act_1 14 rfl rfl)
theorem dX21_act_41 : decode cX21_act 41 = .ok (.iconst 2, 1) := dk_5 (dk_at dksX21_act_1 17 rfl rfl)
theorem dX21_act_42 : decode cX21_act 42 = .ok (.aconst_null, 1) := dk_1 (dk_at dksX21_act_1 18 rfl rfl)
theorem dX21_act_43 : decode cX21_act 43 = .ok (.aconst_null, 1) := dk_1 (dk_at dksX21_act_1 19 rfl rfl)
theorem dX21_act_44 : decode cX21_act 44 = .ok (.invokespecial 88, 3) := dk_183 0 88 (dk_at dksX21_act_1 20 rfl rfl)
theorem dX21_act_47 : decode cX21_act 47 = .ok (.areturn, 1) := dk_176 (dk_at dksX21_act_1 23 rfl rfl)
theorem dX21_act_48 : decode cX21_act 48 = .ok (.aload_n 0, 1) := dk_42 (dk_at dksX21_act_2 0 rfl rfl)
theorem dX21_act_49 : decode cX21_act 49 = .ok (.ldc 93, 2) := dk_18 93 (dk_at dksX21_act_2 1 rfl rfl)
theorem dX21_act_51 : decode cX21_act 51 = .ok (.invokevirtual 47, 3) := dk_182 0 47 (dk_at dksX21_act_2 3 rfl rfl)
theorem dX21_act_54 : decode cX21_act 54 = .ok (.istore_n 1, 1) := dk_60 (dk_at dksX21_act_2 6 rfl rfl)
theorem dX21_act_55 : decode cX21_act 55 = .ok (.aload_n 0, 1) := dk_42 (dk_at dksX21_act_2 7 rfl rfl)
theorem dX21_act_56 : decode cX21_act 56 = .ok (.iload_n 1, 1) := dk_27 (dk_at dksX21_act_2 8 rfl rfl)
theorem dX21_act_57 : decode cX21_act 57 = .ok (.ifCond .ne 12, 3) := dk_154 0 12 (dk_at dksX21_act_2 9 rfl rfl)
theorem dX21_act_60 : decode cX21_act 60 = .ok (.aload_n 0, 1) := dk_42 (dk_at dksX21_act_2 12 rfl rfl)
theorem dX21_act_61 : decode cX21_act 61 = .ok (.ldc 95, 2) := dk_18 95 (dk_at dksX21_act_2 13 rfl rfl)
theorem dX21_act_63 : decode cX21_act 63 = .ok (.invokevirtual 47, 3) := dk_182 0 47 (dk_at dksX21_act_2 15 rfl rfl)
theorem dX21_act_66 : decode cX21_act 66 = .ok (.ifCond .eq 7, 3) := dk_153 0 7 (dk_at dksX21_act_2 18 rfl rfl)
theorem dX21_act_69 : decode cX21_act 69 = .ok (.iconst 1, 1) := dk_4 (dk_at dksX21_act_2 21 rfl rfl)
theorem dX21_act_70 : decode cX21_act 70 = .ok (.goto 4, 3) := dk_167 0 4 (dk_at dksX21_act_3 0 rfl rfl)
theorem dX21_act_73 : decode cX21_act 73 = .ok (.iconst 0, 1) := dk_3 (dk_at dksX21_act_3 3 rfl rfl)
theorem dX21_act_74 : decode cX21_act 74 = .ok (.invokevirtual 51, 3) := dk_182 0 51 (dk_at dksX21_act_3 4 rfl rfl)
theorem dX21_act_77 : decode cX21_act 77 = .ok (.aload_n 0, 1) := dk_42 (dk_at dksX21_act_3 7 rfl rfl)
theorem dX21_act_78 : decode cX21_act 78 = .ok (.invokevirtual 55, 3) := dk_182 0 55 (dk_at dksX21_act_3 8 rfl rfl)
theorem dX21_act_81 : decode cX21_act 81 = .ok (.astore_n 2, 1) := dk_77 (dk_at dksX21_act_3 11 rfl rfl)
theorem dX21_act_82 : decode cX21_act 82 = .ok (.new 31, 3) := dk_187 0 31 (dk_at dksX21_act_3 12 rfl rfl)
theorem dX21_act_85 : decode cX21_act 85 = .ok (.dup, 1) := dk_89 (dk_at dksX21_act_3 15 rfl rfl)
theorem dX21_act_86 : decode cX21_act 86 = .ok (.aload_n 0, 1) := dk_42 (dk_at dksX21_act_3 16 rfl rfl)
theorem dX21_act_87 : decode cX21_act 87 = .ok (.getfield 3, 3) := dk_180 0 3 (dk_at dksX21_act_3 17 rfl rfl)
theorem dX21_act_90 : decode cX21_act 90 = .ok (.iload_n 1, 1) := dk_27 (dk_at dksX21_act_3 20 rfl rfl)
theorem dX21_act_91 : decode cX21_act 91 = .ok (.ifCond .eq 7, 3) := dk_153 0 7 (dk_at dksX21_act_3 21 rfl rfl)
theorem dX21_act_94 : decode cX21_act 94 = .ok (.iconst 0, 1) := dk_3 (dk_at dksX21_act_4 0 rfl rfl)
theorem dX21_act_95 : decode cX21_act 95 = .ok (.goto 4, 3) := dk_167 0 4 (dk_at dksX21_act_4 1 rfl rfl)
theorem dX21_act_98 : decode cX21_act 98 = .ok (.iconst 1, 1) := dk_4 (dk_at dksX21_act_4 4 rfl rfl)
theorem dX21_act_99 : decode cX21_act 99 = .ok (.aload_n 2, 1) := dk_44 (dk_at dksX21_act_4 5 rfl rfl)
theorem dX21_act_100 : decode cX21_act 100 = .ok (.aload_n 0, 1) := dk_42 (dk_at dksX21_act_4 6 rfl rfl)
theorem dX21_act_101 : decode cX21_act 101 = .ok (.ldc 97, 2) := dk_18 97 (dk_at dksX21_act_4 7 rfl rfl)
theorem dX21_act_103 : decode cX21_act 103 = .ok (.invokevirtual 98, 3) := dk_182 0 98 (dk_at dksX21_act_4 9 rfl rfl)
theorem dX21_act_106 : decode cX21_act 106 = .ok (.invokespecial 88, 3) := dk_183 0 88 (dk_at dksX21_act_4 12 rfl rfl)
theorem dX21_act_109 : decode cX21_act 109 = .ok (.areturn, 1) := dk_176 (dk_at dksX21_act_4 15 rfl rfl)
abbrev cX21_behind : ByteArray := prog_14_method_3_code
def yX21_behind : MethodName := ⟨RX21, "behind", "(Ljava/lang/String;)LCounterDesk$Sum;"⟩
def dkwX21_behind_0 : List UInt8 := [42, 42, 43, 182, 0, 47, 182, 0, 51, 42, 182, 0, 55, 176]
abbrev dktX21_behind_0 : List UInt8 := dkwX21_behind_0 ++ []
theorem dksX21_behind_0 : cX21_behind.data.toList.drop 0 = dktX21_behind_0 := by decide +kernel
theorem dX21_behind_0 : decode cX21_behind 0 = .ok (.aload_n 0, 1) := dk_42 (dk_at dksX21_behind_0 0 rfl rfl)
theorem dX21_behind_1 : decode cX21_behind 1 = .ok (.aload_n 0, 1) := dk_42 (dk_at dksX21_behind_0 1 rfl rfl)
theorem dX21_behind_2 : decode cX21_behind 2 = .ok (.aload_n 1, 1) := dk_43 (dk_at dksX21_behind_0 2 rfl rfl)
theorem dX21_behind_3 : decode cX21_behind 3 = .ok (.invokevirtual 47, 3) := dk_182 0 47 (dk_at dksX21_behind_0 3 rfl rfl)
theorem dX21_behind_6 : decode cX21_behind 6 = .ok (.invokevirtual 51, 3) := dk_182 0 51 (dk_at dksX21_behind_0 6 rfl rfl)
theorem dX21_behind_9 : decode cX21_behind 9 = .ok (.aload_n 0, 1) := dk_42 (dk_at dksX21_behind_0 9 rfl rfl)
theorem dX21_behind_10 : decode cX21_behind 10 = .ok (.invokevirtual 55, 3) := dk_182 0 55 (dk_at dksX21_behind_0 10 rfl rfl)
theorem dX21_behind_13 : decode cX21_behind 13 = .ok (.areturn, 1) := dk_176 (dk_at dksX21_behind_0 13 rfl rfl)
abbrev cX21_isNought : ByteArray := prog_14_method_4_code
def yX21_isNought : MethodName := ⟨RX21, "isNought", "()Z"⟩
def dkwX21_isNought_2 : List UInt8 := [167, 0, 4, 3, 126, 60, 132, 2, 1, 167, 255, 223, 27, 172]
abbrev dktX21_isNought_2 : List UInt8 := dkwX21_isNought_2 ++ []
def dkwX21_isNought_1 : List UInt8 := [180, 0, 63, 162, 0, 31, 27, 42, 180, 0, 3, 180, 0, 66, 28, 51, 16, 48, 160, 0, 7, 4]
abbrev dktX21_isNought_1 : List UInt8 := dkwX21_isNought_1 ++ dktX21_isNought_2
def dkwX21_isNought_0 : List UInt8 := [42, 180, 0, 59, 42, 180, 0, 63, 162, 0, 7, 4, 167, 0, 4, 3, 60, 42, 180, 0, 59, 61, 28, 42]
abbrev dktX21_isNought_0 : List UInt8 := dkwX21_isNought_0 ++ dktX21_isNought_1
theorem dksX21_isNought_0 : cX21_isNought.data.toList.drop 0 = dktX21_isNought_0 := by decide +kernel
theorem dksX21_isNought_1 : cX21_isNought.data.toList.drop 24 = dktX21_isNought_1 := dk_seg dksX21_isNought_0 24 rfl rfl
theorem dksX21_isNought_2 : cX21_isNought.data.toList.drop 46 = dktX21_isNought_2 := dk_seg dksX21_isNought_1 22 rfl rfl
theorem dX21_isNought_0 : decode cX21_isNought 0 = .ok (.aload_n 0, 1) := dk_42 (dk_at dksX21_isNought_0 0 rfl rfl)
theorem dX21_isNought_1 : decode cX21_isNought 1 = .ok (.getfield 59, 3) := dk_180 0 59 (dk_at dksX21_isNought_0 1 rfl rfl)
theorem dX21_isNought_4 : decode cX21_isNought 4 = .ok (.aload_n 0, 1) := dk_42 (dk_at dksX21_isNought_0 4 rfl rfl)
theorem dX21_isNought_5 : decode cX21_isNought 5 = .ok (.getfield 63, 3) := dk_180 0 63 (dk_at dksX21_isNought_0 5 rfl rfl)
theorem dX21_isNought_8 : decode cX21_isNought 8 = .ok (.if_icmp .ge 7, 3) := dk_162 0 7 (dk_at dksX21_isNought_0 8 rfl rfl)
theorem dX21_isNought_11 : decode cX21_isNought 11 = .ok (.iconst 1, 1) := dk_4 (dk_at dksX21_isNought_0 11 rfl rfl)
theorem dX21_isNought_12 : decode cX21_isNought 12 = .ok (.goto 4, 3) := dk_167 0 4 (dk_at dksX21_isNought_0 12 rfl rfl)
theorem dX21_isNought_15 : decode cX21_isNought 15 = .ok (.iconst 0, 1) := dk_3 (dk_at dksX21_isNought_0 15 rfl rfl)
theorem dX21_isNought_16 : decode cX21_isNought 16 = .ok (.istore_n 1, 1) := dk_60 (dk_at dksX21_isNought_0 16 rfl rfl)
theorem dX21_isNought_17 : decode cX21_isNought 17 = .ok (.aload_n 0, 1) := dk_42 (dk_at dksX21_isNought_0 17 rfl rfl)
theorem dX21_isNought_18 : decode cX21_isNought 18 = .ok (.getfield 59, 3) := dk_180 0 59 (dk_at dksX21_isNought_0 18 rfl rfl)
theorem dX21_isNought_21 : decode cX21_isNought 21 = .ok (.istore_n 2, 1) := dk_61 (dk_at dksX21_isNought_0 21 rfl rfl)
theorem dX21_isNought_22 : decode cX21_isNought 22 = .ok (.iload_n 2, 1) := dk_28 (dk_at dksX21_isNought_0 22 rfl rfl)
theorem dX21_isNought_23 : decode cX21_isNought 23 = .ok (.aload_n 0, 1) := dk_42 (dk_at dksX21_isNought_0 23 rfl rfl)
theorem dX21_isNought_24 : decode cX21_isNought 24 = .ok (.getfield 63, 3) := dk_180 0 63 (dk_at dksX21_isNought_1 0 rfl rfl)
theorem dX21_isNought_27 : decode cX21_isNought 27 = .ok (.if_icmp .ge 31, 3) := dk_162 0 31 (dk_at dksX21_isNought_1 3 rfl rfl)
theorem dX21_isNought_30 : decode cX21_isNought 30 = .ok (.iload_n 1, 1) := dk_27 (dk_at dksX21_isNought_1 6 rfl rfl)
theorem dX21_isNought_31 : decode cX21_isNought 31 = .ok (.aload_n 0, 1) := dk_42 (dk_at dksX21_isNought_1 7 rfl rfl)
theorem dX21_isNought_32 : decode cX21_isNought 32 = .ok (.getfield 3, 3) := dk_180 0 3 (dk_at dksX21_isNought_1 8 rfl rfl)
theorem dX21_isNought_35 : decode cX21_isNought 35 = .ok (.getfield 66, 3) := dk_180 0 66 (dk_at dksX21_isNought_1 11 rfl rfl)
theorem dX21_isNought_38 : decode cX21_isNought 38 = .ok (.iload_n 2, 1) := dk_28 (dk_at dksX21_isNought_1 14 rfl rfl)
theorem dX21_isNought_39 : decode cX21_isNought 39 = .ok (.baload, 1) := dk_51 (dk_at dksX21_isNought_1 15 rfl rfl)
theorem dX21_isNought_40 : decode cX21_isNought 40 = .ok (.bipush 48, 2) := dk_16 48 (dk_at dksX21_isNought_1 16 rfl rfl)
theorem dX21_isNought_42 : decode cX21_isNought 42 = .ok (.if_icmp .ne 7, 3) := dk_160 0 7 (dk_at dksX21_isNought_1 18 rfl rfl)
theorem dX21_isNought_45 : decode cX21_isNought 45 = .ok (.iconst 1, 1) := dk_4 (dk_at dksX21_isNought_1 21 rfl rfl)
theorem dX21_isNought_46 : decode cX21_isNought 46 = .ok (.goto 4, 3) := dk_167 0 4 (dk_at dksX21_isNought_2 0 rfl rfl)
theorem dX21_isNought_49 : decode cX21_isNought 49 = .ok (.iconst 0, 1) := dk_3 (dk_at dksX21_isNought_2 3 rfl rfl)
theorem dX21_isNought_50 : decode cX21_isNought 50 = .ok (.iand, 1) := dk_126 (dk_at dksX21_isNought_2 4 rfl rfl)
theorem dX21_isNought_51 : decode cX21_isNought 51 = .ok (.istore_n 1, 1) := dk_60 (dk_at dksX21_isNought_2 5 rfl rfl)
theorem dX21_isNought_52 : decode cX21_isNought 52 = .ok (.iinc 2 1, 3) := dk_132 2 1 (dk_at dksX21_isNought_2 6 rfl rfl)
theorem dX21_isNought_55 : decode cX21_isNought 55 = .ok (.goto (-33), 3) := dk_167 255 223 (dk_at dksX21_isNought_2 9 rfl rfl)
theorem dX21_isNought_58 : decode cX21_isNought 58 = .ok (.iload_n 1, 1) := dk_27 (dk_at dksX21_isNought_2 12 rfl rfl)
theorem dX21_isNought_59 : decode cX21_isNought 59 = .ok (.ireturn, 1) := dk_172 (dk_at dksX21_isNought_2 13 rfl rfl)
abbrev cX21_init : ByteArray := prog_14_method_1_code
def yX21_init : MethodName := ⟨RX21, "<init>", "(LCounterDesk;)V"⟩
def dkwX21_init_2 : List UInt8 := [183, 0, 25, 42, 16, 12, 189, 0, 31, 181, 0, 33, 177]
abbrev dktX21_init_2 : List UInt8 := dkwX21_init_2 ++ []
def dkwX21_init_1 : List UInt8 := [18, 15, 83, 89, 6, 18, 17, 83, 89, 7, 18, 19, 83, 89, 8, 18, 21, 83, 89, 16, 6, 18, 23, 83]
abbrev dktX21_init_1 : List UInt8 := dkwX21_init_1 ++ dktX21_init_2
def dkwX21_init_0 : List UInt8 := [42, 43, 181, 0, 3, 42, 43, 16, 7, 189, 0, 9, 89, 3, 18, 11, 83, 89, 4, 18, 13, 83, 89, 5]
abbrev dktX21_init_0 : List UInt8 := dkwX21_init_0 ++ dktX21_init_1
theorem dksX21_init_0 : cX21_init.data.toList.drop 0 = dktX21_init_0 := by decide +kernel
theorem dksX21_init_1 : cX21_init.data.toList.drop 24 = dktX21_init_1 := dk_seg dksX21_init_0 24 rfl rfl
theorem dksX21_init_2 : cX21_init.data.toList.drop 48 = dktX21_init_2 := dk_seg dksX21_init_1 24 rfl rfl
theorem dX21_init_0 : decode cX21_init 0 = .ok (.aload_n 0, 1) := dk_42 (dk_at dksX21_init_0 0 rfl rfl)
theorem dX21_init_1 : decode cX21_init 1 = .ok (.aload_n 1, 1) := dk_43 (dk_at dksX21_init_0 1 rfl rfl)
theorem dX21_init_2 : decode cX21_init 2 = .ok (.putfield 3, 3) := dk_181 0 3 (dk_at dksX21_init_0 2 rfl rfl)
theorem dX21_init_5 : decode cX21_init 5 = .ok (.aload_n 0, 1) := dk_42 (dk_at dksX21_init_0 5 rfl rfl)
theorem dX21_init_6 : decode cX21_init 6 = .ok (.aload_n 1, 1) := dk_43 (dk_at dksX21_init_0 6 rfl rfl)
theorem dX21_init_7 : decode cX21_init 7 = .ok (.bipush 7, 2) := dk_16 7 (dk_at dksX21_init_0 7 rfl rfl)
theorem dX21_init_9 : decode cX21_init 9 = .ok (.anewarray 9, 3) := dk_189 0 9 (dk_at dksX21_init_0 9 rfl rfl)
theorem dX21_init_12 : decode cX21_init 12 = .ok (.dup, 1) := dk_89 (dk_at dksX21_init_0 12 rfl rfl)
theorem dX21_init_13 : decode cX21_init 13 = .ok (.iconst 0, 1) := dk_3 (dk_at dksX21_init_0 13 rfl rfl)
theorem dX21_init_14 : decode cX21_init 14 = .ok (.ldc 11, 2) := dk_18 11 (dk_at dksX21_init_0 14 rfl rfl)
theorem dX21_init_16 : decode cX21_init 16 = .ok (.aastore, 1) := dk_83 (dk_at dksX21_init_0 16 rfl rfl)
theorem dX21_init_17 : decode cX21_init 17 = .ok (.dup, 1) := dk_89 (dk_at dksX21_init_0 17 rfl rfl)
theorem dX21_init_18 : decode cX21_init 18 = .ok (.iconst 1, 1) := dk_4 (dk_at dksX21_init_0 18 rfl rfl)
theorem dX21_init_19 : decode cX21_init 19 = .ok (.ldc 13, 2) := dk_18 13 (dk_at dksX21_init_0 19 rfl rfl)
theorem dX21_init_21 : decode cX21_init 21 = .ok (.aastore, 1) := dk_83 (dk_at dksX21_init_0 21 rfl rfl)
theorem dX21_init_22 : decode cX21_init 22 = .ok (.dup, 1) := dk_89 (dk_at dksX21_init_0 22 rfl rfl)
theorem dX21_init_23 : decode cX21_init 23 = .ok (.iconst 2, 1) := dk_5 (dk_at dksX21_init_0 23 rfl rfl)
theorem dX21_init_24 : decode cX21_init 24 = .ok (.ldc 15, 2) := dk_18 15 (dk_at dksX21_init_1 0 rfl rfl)
theorem dX21_init_26 : decode cX21_init 26 = .ok (.aastore, 1) := dk_83 (dk_at dksX21_init_1 2 rfl rfl)
theorem dX21_init_27 : decode cX21_init 27 = .ok (.dup, 1) := dk_89 (dk_at dksX21_init_1 3 rfl rfl)
theorem dX21_init_28 : decode cX21_init 28 = .ok (.iconst 3, 1) := dk_6 (dk_at dksX21_init_1 4 rfl rfl)
theorem dX21_init_29 : decode cX21_init 29 = .ok (.ldc 17, 2) := dk_18 17 (dk_at dksX21_init_1 5 rfl rfl)
theorem dX21_init_31 : decode cX21_init 31 = .ok (.aastore, 1) := dk_83 (dk_at dksX21_init_1 7 rfl rfl)
theorem dX21_init_32 : decode cX21_init 32 = .ok (.dup, 1) := dk_89 (dk_at dksX21_init_1 8 rfl rfl)
theorem dX21_init_33 : decode cX21_init 33 = .ok (.iconst 4, 1) := dk_7 (dk_at dksX21_init_1 9 rfl rfl)
theorem dX21_init_34 : decode cX21_init 34 = .ok (.ldc 19, 2) := dk_18 19 (dk_at dksX21_init_1 10 rfl rfl)
theorem dX21_init_36 : decode cX21_init 36 = .ok (.aastore, 1) := dk_83 (dk_at dksX21_init_1 12 rfl rfl)
theorem dX21_init_37 : decode cX21_init 37 = .ok (.dup, 1) := dk_89 (dk_at dksX21_init_1 13 rfl rfl)
theorem dX21_init_38 : decode cX21_init 38 = .ok (.iconst 5, 1) := dk_8 (dk_at dksX21_init_1 14 rfl rfl)
theorem dX21_init_39 : decode cX21_init 39 = .ok (.ldc 21, 2) := dk_18 21 (dk_at dksX21_init_1 15 rfl rfl)
theorem dX21_init_41 : decode cX21_init 41 = .ok (.aastore, 1) := dk_83 (dk_at dksX21_init_1 17 rfl rfl)
theorem dX21_init_42 : decode cX21_init 42 = .ok (.dup, 1) := dk_89 (dk_at dksX21_init_1 18 rfl rfl)
theorem dX21_init_43 : decode cX21_init 43 = .ok (.bipush 6, 2) := dk_16 6 (dk_at dksX21_init_1 19 rfl rfl)
theorem dX21_init_45 : decode cX21_init 45 = .ok (.ldc 23, 2) := dk_18 23 (dk_at dksX21_init_1 21 rfl rfl)
theorem dX21_init_47 : decode cX21_init 47 = .ok (.aastore, 1) := dk_83 (dk_at dksX21_init_1 23 rfl rfl)
theorem dX21_init_48 : decode cX21_init 48 = .ok (.invokespecial 25, 3) := dk_183 0 25 (dk_at dksX21_init_2 0 rfl rfl)
theorem dX21_init_51 : decode cX21_init 51 = .ok (.aload_n 0, 1) := dk_42 (dk_at dksX21_init_2 3 rfl rfl)
theorem dX21_init_52 : decode cX21_init 52 = .ok (.bipush 12, 2) := dk_16 12 (dk_at dksX21_init_2 4 rfl rfl)
theorem dX21_init_54 : decode cX21_init 54 = .ok (.anewarray 31, 3) := dk_189 0 31 (dk_at dksX21_init_2 6 rfl rfl)
theorem dX21_init_57 : decode cX21_init 57 = .ok (.putfield 33, 3) := dk_181 0 33 (dk_at dksX21_init_2 9 rfl rfl)
theorem dX21_init_60 : decode cX21_init 60 = .ok (.return_, 1) := dk_177 (dk_at dksX21_init_2 12 rfl rfl)
abbrev cX21_read_2 : ByteArray := prog_14_method_2_code
def yX21_read_2 : MethodName := ⟨RX21, "read", "()[LCounterDesk$Act;"⟩
def dkwX21_read_2_0 : List UInt8 := [42, 182, 0, 37, 189, 0, 31, 76, 42, 180, 0, 33, 3, 43, 3, 43, 190, 184, 0, 41, 43, 176]
abbrev dktX21_read_2_0 : List UInt8 := dkwX21_read_2_0 ++ []
theorem dksX21_read_2_0 : cX21_read_2.data.toList.drop 0 = dktX21_read_2_0 := by decide +kernel
theorem dX21_read_2_0 : decode cX21_read_2 0 = .ok (.aload_n 0, 1) := dk_42 (dk_at dksX21_read_2_0 0 rfl rfl)
theorem dX21_read_2_1 : decode cX21_read_2 1 = .ok (.invokevirtual 37, 3) := dk_182 0 37 (dk_at dksX21_read_2_0 1 rfl rfl)
theorem dX21_read_2_4 : decode cX21_read_2 4 = .ok (.anewarray 31, 3) := dk_189 0 31 (dk_at dksX21_read_2_0 4 rfl rfl)
theorem dX21_read_2_7 : decode cX21_read_2 7 = .ok (.astore_n 1, 1) := dk_76 (dk_at dksX21_read_2_0 7 rfl rfl)
theorem dX21_read_2_8 : decode cX21_read_2 8 = .ok (.aload_n 0, 1) := dk_42 (dk_at dksX21_read_2_0 8 rfl rfl)
theorem dX21_read_2_9 : decode cX21_read_2 9 = .ok (.getfield 33, 3) := dk_180 0 33 (dk_at dksX21_read_2_0 9 rfl rfl)
theorem dX21_read_2_12 : decode cX21_read_2 12 = .ok (.iconst 0, 1) := dk_3 (dk_at dksX21_read_2_0 12 rfl rfl)
theorem dX21_read_2_13 : decode cX21_read_2 13 = .ok (.aload_n 1, 1) := dk_43 (dk_at dksX21_read_2_0 13 rfl rfl)
theorem dX21_read_2_14 : decode cX21_read_2 14 = .ok (.iconst 0, 1) := dk_3 (dk_at dksX21_read_2_0 14 rfl rfl)
theorem dX21_read_2_15 : decode cX21_read_2 15 = .ok (.aload_n 1, 1) := dk_43 (dk_at dksX21_read_2_0 15 rfl rfl)
theorem dX21_read_2_16 : decode cX21_read_2 16 = .ok (.arraylength, 1) := dk_190 (dk_at dksX21_read_2_0 16 rfl rfl)
theorem dX21_read_2_17 : decode cX21_read_2 17 = .ok (.invokestatic 41, 3) := dk_184 0 41 (dk_at dksX21_read_2_0 17 rfl rfl)
theorem dX21_read_2_20 : decode cX21_read_2 20 = .ok (.aload_n 1, 1) := dk_43 (dk_at dksX21_read_2_0 20 rfl rfl)
theorem dX21_read_2_21 : decode cX21_read_2 21 = .ok (.areturn, 1) := dk_176 (dk_at dksX21_read_2_0 21 rfl rfl)
theorem q168 : (Jvm.Cond.initialized "CounterDesk$OrderReader") ∈ lw_all := lw_g (lw_at lw_m1 39 rfl) rfl
theorem q349 : (Jvm.Cond.fieldLinkNest "CounterDesk$OrderReader" (66 : Nat) "CounterDesk" "tape" "[B" "CounterDesk") ∈ lw_tbl := lw_at lw_m1 220 rfl
theorem q749 : (Jvm.Cond.fieldLink "CounterDesk$OrderReader" (59 : Nat) "CounterDesk$OrderReader" "from" "I") ∈ lw_all := lw_g (lw_at lw_m3 140 rfl) rfl
theorem q750 : (Jvm.Cond.sameField "CounterDesk$OrderReader" "CounterDesk$Reader" "from" "I") ∈ lw_all := lw_g (lw_at lw_m3 141 rfl) rfl
theorem q752 : (Jvm.Cond.fieldLink "CounterDesk$OrderReader" (63 : Nat) "CounterDesk$OrderReader" "to" "I") ∈ lw_all := lw_g (lw_at lw_m3 143 rfl) rfl
theorem q753 : (Jvm.Cond.sameField "CounterDesk$OrderReader" "CounterDesk$Reader" "to" "I") ∈ lw_all := lw_g (lw_at lw_m3 144 rfl) rfl
theorem q797 : (Jvm.Cond.selects "CounterDesk$OrderReader" ({ cls := "CounterDesk$Reader", name := "next", desc := "()V" } : Jvm.MethodName) ({ cls := "CounterDesk$Reader", name := "next", desc := "()V" } : Jvm.MethodName)) ∈ lw_all := lw_g (lw_at lw_m3 188 rfl) rfl
theorem q809 : (Jvm.Cond.selects "CounterDesk$OrderReader" ({ cls := "CounterDesk$Reader", name := "must", desc := "(Z)V" } : Jvm.MethodName) ({ cls := "CounterDesk$Reader", name := "must", desc := "(Z)V" } : Jvm.MethodName)) ∈ lw_all := lw_g (lw_at lw_m3 200 rfl) rfl
theorem q851 : (Jvm.Cond.selects "CounterDesk$OrderReader" ({ cls := "CounterDesk$Reader", name := "isWord", desc := "(Ljava/lang/String;)Z" } : Jvm.MethodName) ({ cls := "CounterDesk$Reader", name := "isWord", desc := "(Ljava/lang/String;)Z" } : Jvm.MethodName)) ∈ lw_all := lw_g (lw_at lw_m4 2 rfl) rfl
theorem q936 : (Jvm.Cond.selects "CounterDesk$OrderReader" ({ cls := "CounterDesk$Reader", name := "accept", desc := "(Ljava/lang/String;)Z" } : Jvm.MethodName) ({ cls := "CounterDesk$Reader", name := "accept", desc := "(Ljava/lang/String;)Z" } : Jvm.MethodName)) ∈ lw_all := lw_g (lw_at lw_m4 87 rfl) rfl
theorem q949 : (Jvm.Cond.selects "CounterDesk$OrderReader" ({ cls := "CounterDesk$Reader", name := "number", desc := "(I)I" } : Jvm.MethodName) ({ cls := "CounterDesk$Reader", name := "number", desc := "(I)I" } : Jvm.MethodName)) ∈ lw_all := lw_g (lw_at lw_m4 100 rfl) rfl
theorem q966 : (Jvm.Cond.selects "CounterDesk$OrderReader" ({ cls := "CounterDesk$Reader", name := "behindWord", desc := "(I)LCounterDesk$Sum;" } : Jvm.MethodName) ({ cls := "CounterDesk$OrderReader", name := "behindWord", desc := "(I)LCounterDesk$Sum;" } : Jvm.MethodName)) ∈ lw_all := lw_g (lw_at lw_m4 117 rfl) rfl
theorem q967 : (Jvm.Cond.instanceMethod ({ cls := "CounterDesk$OrderReader", name := "behindWord", desc := "(I)LCounterDesk$Sum;" } : Jvm.MethodName)) ∈ lw_all := lw_g (lw_at lw_m4 118 rfl) rfl
theorem q968 : (Jvm.Cond.code ({ cls := "CounterDesk$OrderReader", name := "behindWord", desc := "(I)LCounterDesk$Sum;" } : Jvm.MethodName) prog_14_method_5_code (2 : Nat) (Option.some (Jvm.ClassFile.FieldType.object "CounterDesk$Sum"))) ∈ lw_all := lw_g (lw_at lw_m4 119 rfl) rfl
theorem q969 : (Jvm.Cond.classLink "CounterDesk$OrderReader" (72 : Nat) "CounterDesk$Part") ∈ lw_all := lw_g (lw_at lw_m4 120 rfl) rfl
theorem q971 : (Jvm.Cond.methodLink "CounterDesk$OrderReader" (74 : Nat) ({ cls := "CounterDesk$Part", name := "<init>", desc := "(I)V" } : Jvm.MethodName)) ∈ lw_all := lw_g (lw_at lw_m4 122 rfl) rfl
theorem q979 : (Jvm.Cond.classLink "CounterDesk$OrderReader" (77 : Nat) "CounterDesk$Of") ∈ lw_all := lw_g (lw_at lw_m4 130 rfl) rfl
theorem q981 : (Jvm.Cond.methodLink "CounterDesk$OrderReader" (79 : Nat) ({ cls := "CounterDesk$OrderReader", name := "number", desc := "(I)I" } : Jvm.MethodName)) ∈ lw_all := lw_g (lw_at lw_m4 132 rfl) rfl
theorem q982 : (Jvm.Cond.sameMethod "CounterDesk$OrderReader" "CounterDesk$Reader" "number" "(I)I") ∈ lw_all := lw_g (lw_at lw_m4 133 rfl) rfl
theorem q984 : (Jvm.Cond.selects "CounterDesk$OrderReader" ({ cls := "CounterDesk$OrderReader", name := "number", desc := "(I)I" } : Jvm.MethodName) ({ cls := "CounterDesk$Reader", name := "number", desc := "(I)I" } : Jvm.MethodName)) ∈ lw_all := lw_g (lw_at lw_m4 135 rfl) rfl
theorem q985 : (Jvm.Cond.methodLink "CounterDesk$OrderReader" (83 : Nat) ({ cls := "CounterDesk$Of", name := "<init>", desc := "(LCounterDesk;II)V" } : Jvm.MethodName)) ∈ lw_all := lw_g (lw_at lw_m4 136 rfl) rfl
theorem q1122 : (Jvm.Cond.selects "CounterDesk$OrderReader" ({ cls := "CounterDesk$Reader", name := "read", desc := "(I)V" } : Jvm.MethodName) ({ cls := "CounterDesk$OrderReader", name := "read", desc := "(I)V" } : Jvm.MethodName)) ∈ lw_all := lw_g (lw_at lw_m5 33 rfl) rfl
theorem q1123 : (Jvm.Cond.instanceMethod ({ cls := "CounterDesk$OrderReader", name := "read", desc := "(I)V" } : Jvm.MethodName)) ∈ lw_all := lw_g (lw_at lw_m5 34 rfl) rfl
theorem q1124 : (Jvm.Cond.code ({ cls := "CounterDesk$OrderReader", name := "read", desc := "(I)V" } : Jvm.MethodName) prog_14_method_7_code (3 : Nat) (Option.none : Option Jvm.ClassFile.FieldType)) ∈ lw_all := lw_g (lw_at lw_m5 35 rfl) rfl
theorem q1125 : (Jvm.Cond.methodLink "CounterDesk$OrderReader" (102 : Nat) ({ cls := "CounterDesk$OrderReader", name := "act", desc := "()LCounterDesk$Act;" } : Jvm.MethodName)) ∈ lw_all := lw_g (lw_at lw_m5 36 rfl) rfl
theorem q1126 : (Jvm.Cond.privateMethod ({ cls := "CounterDesk$OrderReader", name := "act", desc := "()LCounterDesk$Act;" } : Jvm.MethodName)) ∈ lw_tbl := lw_at lw_m5 37 rfl
theorem q1127 : (Jvm.Cond.instanceMethod ({ cls := "CounterDesk$OrderReader", name := "act", desc := "()LCounterDesk$Act;" } : Jvm.MethodName)) ∈ lw_all := lw_g (lw_at lw_m5 38 rfl) rfl
theorem q1128 : (Jvm.Cond.instantiable "CounterDesk$OrderReader" (10 : Nat)) ∈ lw_all := lw_g (lw_at lw_m5 39 rfl) rfl
theorem q1129 : (Jvm.Cond.code ({ cls := "CounterDesk$OrderReader", name := "act", desc := "()LCounterDesk$Act;" } : Jvm.MethodName) prog_14_method_6_code (3 : Nat) (Option.some (Jvm.ClassFile.FieldType.object "CounterDesk$Act"))) ∈ lw_all := lw_g (lw_at lw_m5 40 rfl) rfl
theorem q1130 : (Jvm.Cond.stringRef "CounterDesk$OrderReader" (86 : Nat) "pass") ∈ lw_tbl := lw_at lw_m5 41 rfl
theorem q1131 : (Jvm.Cond.methodLink "CounterDesk$OrderReader" (47 : Nat) ({ cls := "CounterDesk$OrderReader", name := "accept", desc := "(Ljava/lang/String;)Z" } : Jvm.MethodName)) ∈ lw_all := lw_g (lw_at lw_m5 42 rfl) rfl
theorem q1132 : (Jvm.Cond.sameMethod "CounterDesk$OrderReader" "CounterDesk$Reader" "accept" "(Ljava/lang/String;)Z") ∈ lw_all := lw_g (lw_at lw_m5 43 rfl) rfl
theorem q1133 : (Jvm.Cond.selects "CounterDesk$OrderReader" ({ cls := "CounterDesk$OrderReader", name := "accept", desc := "(Ljava/lang/String;)Z" } : Jvm.MethodName) ({ cls := "CounterDesk$Reader", name := "accept", desc := "(Ljava/lang/String;)Z" } : Jvm.MethodName)) ∈ lw_all := lw_g (lw_at lw_m5 44 rfl) rfl
theorem q1134 : (Jvm.Cond.classLink "CounterDesk$OrderReader" (31 : Nat) "CounterDesk$Act") ∈ lw_all := lw_g (lw_at lw_m5 45 rfl) rfl
theorem q1136 : (Jvm.Cond.methodLink "CounterDesk$OrderReader" (88 : Nat) ({ cls := "CounterDesk$Act", name := "<init>", desc := "(LCounterDesk;ILCounterDesk$Sum;LCounterDesk$Sum;)V" } : Jvm.MethodName)) ∈ lw_all := lw_g (lw_at lw_m5 47 rfl) rfl
theorem q1144 : (Jvm.Cond.fieldLinkNest "CounterDesk$OrderReader" (120 : Nat) "CounterDesk$Act" "test" "LCounterDesk$Test;" "CounterDesk") ∈ lw_tbl := lw_at lw_m5 55 rfl
theorem q1146 : (Jvm.Cond.fieldLinkNest "CounterDesk$OrderReader" (112 : Nat) "CounterDesk$Act" "times" "I" "CounterDesk") ∈ lw_tbl := lw_at lw_m5 57 rfl
theorem q1165 : (Jvm.Cond.stringRef "CounterDesk$OrderReader" (91 : Nat) "swap") ∈ lw_tbl := lw_at lw_m5 76 rfl
theorem q1166 : (Jvm.Cond.stringRef "CounterDesk$OrderReader" (93 : Nat) "set") ∈ lw_tbl := lw_at lw_m5 77 rfl
theorem q1167 : (Jvm.Cond.stringRef "CounterDesk$OrderReader" (95 : Nat) "shift") ∈ lw_tbl := lw_at lw_m5 78 rfl
theorem q1168 : (Jvm.Cond.methodLink "CounterDesk$OrderReader" (51 : Nat) ({ cls := "CounterDesk$OrderReader", name := "must", desc := "(Z)V" } : Jvm.MethodName)) ∈ lw_all := lw_g (lw_at lw_m5 79 rfl) rfl
theorem q1169 : (Jvm.Cond.sameMethod "CounterDesk$OrderReader" "CounterDesk$Reader" "must" "(Z)V") ∈ lw_all := lw_g (lw_at lw_m5 80 rfl) rfl
theorem q1170 : (Jvm.Cond.selects "CounterDesk$OrderReader" ({ cls := "CounterDesk$OrderReader", name := "must", desc := "(Z)V" } : Jvm.MethodName) ({ cls := "CounterDesk$Reader", name := "must", desc := "(Z)V" } : Jvm.MethodName)) ∈ lw_all := lw_g (lw_at lw_m5 81 rfl) rfl
theorem q1171 : (Jvm.Cond.methodLink "CounterDesk$OrderReader" (55 : Nat) ({ cls := "CounterDesk$OrderReader", name := "sum", desc := "()LCounterDesk$Sum;" } : Jvm.MethodName)) ∈ lw_all := lw_g (lw_at lw_m5 82 rfl) rfl
theorem q1172 : (Jvm.Cond.sameMethod "CounterDesk$OrderReader" "CounterDesk$Reader" "sum" "()LCounterDesk$Sum;") ∈ lw_all := lw_g (lw_at lw_m5 83 rfl) rfl
theorem q1173 : (Jvm.Cond.selects "CounterDesk$OrderReader" ({ cls := "CounterDesk$OrderReader", name := "sum", desc := "()LCounterDesk$Sum;" } : Jvm.MethodName) ({ cls := "CounterDesk$Reader", name := "sum", desc := "()LCounterDesk$Sum;" } : Jvm.MethodName)) ∈ lw_all := lw_g (lw_at lw_m5 84 rfl) rfl
theorem q1174 : (Jvm.Cond.stringRef "CounterDesk$OrderReader" (97 : Nat) "to") ∈ lw_tbl := lw_at lw_m5 85 rfl
theorem q1175 : (Jvm.Cond.methodLink "CounterDesk$OrderReader" (98 : Nat) ({ cls := "CounterDesk$OrderReader", name := "behind", desc := "(Ljava/lang/String;)LCounterDesk$Sum;" } : Jvm.MethodName)) ∈ lw_all := lw_g (lw_at lw_m5 86 rfl) rfl
theorem q1176 : (Jvm.Cond.privateMethod ({ cls := "CounterDesk$OrderReader", name := "behind", desc := "(Ljava/lang/String;)LCounterDesk$Sum;" } : Jvm.MethodName)) ∈ lw_tbl := lw_at lw_m5 87 rfl
theorem q1177 : (Jvm.Cond.instanceMethod ({ cls := "CounterDesk$OrderReader", name := "behind", desc := "(Ljava/lang/String;)LCounterDesk$Sum;" } : Jvm.MethodName)) ∈ lw_all := lw_g (lw_at lw_m5 88 rfl) rfl
theorem q1178 : (Jvm.Cond.code ({ cls := "CounterDesk$OrderReader", name := "behind", desc := "(Ljava/lang/String;)LCounterDesk$Sum;" } : Jvm.MethodName) prog_14_method_3_code (2 : Nat) (Option.some (Jvm.ClassFile.FieldType.object "CounterDesk$Sum"))) ∈ lw_all := lw_g (lw_at lw_m5 89 rfl) rfl
theorem q1179 : (Jvm.Cond.stringRef "CounterDesk$OrderReader" (106 : Nat) "times") ∈ lw_tbl := lw_at lw_m5 90 rfl
theorem q1180 : (Jvm.Cond.methodLink "CounterDesk$OrderReader" (108 : Nat) ({ cls := "CounterDesk$OrderReader", name := "isNought", desc := "()Z" } : Jvm.MethodName)) ∈ lw_all := lw_g (lw_at lw_m5 91 rfl) rfl
theorem q1181 : (Jvm.Cond.privateMethod ({ cls := "CounterDesk$OrderReader", name := "isNought", desc := "()Z" } : Jvm.MethodName)) ∈ lw_tbl := lw_at lw_m5 92 rfl
theorem q1182 : (Jvm.Cond.instanceMethod ({ cls := "CounterDesk$OrderReader", name := "isNought", desc := "()Z" } : Jvm.MethodName)) ∈ lw_all := lw_g (lw_at lw_m5 93 rfl) rfl
theorem q1183 : (Jvm.Cond.code ({ cls := "CounterDesk$OrderReader", name := "isNought", desc := "()Z" } : Jvm.MethodName) prog_14_method_4_code (3 : Nat) (Option.some Jvm.ClassFile.FieldType.boolean)) ∈ lw_all := lw_g (lw_at lw_m5 94 rfl) rfl
theorem q1184 : (Jvm.Cond.stringRef "CounterDesk$OrderReader" (114 : Nat) "if") ∈ lw_tbl := lw_at lw_m5 95 rfl
theorem q1185 : (Jvm.Cond.methodLink "CounterDesk$OrderReader" (116 : Nat) ({ cls := "CounterDesk$OrderReader", name := "test", desc := "()LCounterDesk$Test;" } : Jvm.MethodName)) ∈ lw_all := lw_g (lw_at lw_m5 96 rfl) rfl
theorem q1186 : (Jvm.Cond.sameMethod "CounterDesk$OrderReader" "CounterDesk$Reader" "test" "()LCounterDesk$Test;") ∈ lw_all := lw_g (lw_at lw_m5 97 rfl) rfl
theorem q1187 : (Jvm.Cond.selects "CounterDesk$OrderReader" ({ cls := "CounterDesk$OrderReader", name := "test", desc := "()LCounterDesk$Test;" } : Jvm.MethodName) ({ cls := "CounterDesk$Reader", name := "test", desc := "()LCounterDesk$Test;" } : Jvm.MethodName)) ∈ lw_all := lw_g (lw_at lw_m5 98 rfl) rfl
theorem q1237 : (Jvm.Cond.selects "CounterDesk$OrderReader" ({ cls := "java/lang/Object", name := "getClass", desc := "()Ljava/lang/Class;" } : Jvm.MethodName) ({ cls := "java/lang/Object", name := "getClass", desc := "()Ljava/lang/Class;" } : Jvm.MethodName)) ∈ lw_all := lw_g (lw_at lw_m5 148 rfl) rfl
theorem q1456 : (Jvm.Cond.instanceMethod ({ cls := "CounterDesk$OrderReader", name := "<init>", desc := "(LCounterDesk;)V" } : Jvm.MethodName)) ∈ lw_all := lw_g (lw_at lw_m6 127 rfl) rfl
theorem q1457 : (Jvm.Cond.code ({ cls := "CounterDesk$OrderReader", name := "<init>", desc := "(LCounterDesk;)V" } : Jvm.MethodName) prog_14_method_1_code (2 : Nat) (Option.none : Option Jvm.ClassFile.FieldType)) ∈ lw_all := lw_g (lw_at lw_m6 128 rfl) rfl
theorem q1458 : (Jvm.Cond.classLink "CounterDesk$OrderReader" (9 : Nat) "java/lang/String") ∈ lw_all := lw_g (lw_at lw_m6 129 rfl) rfl
theorem q1459 : (Jvm.Cond.stringRef "CounterDesk$OrderReader" (11 : Nat) "day") ∈ lw_tbl := lw_at lw_m6 130 rfl
theorem q1460 : (Jvm.Cond.stringRef "CounterDesk$OrderReader" (13 : Nat) "done") ∈ lw_tbl := lw_at lw_m6 131 rfl
theorem q1461 : (Jvm.Cond.stringRef "CounterDesk$OrderReader" (15 : Nat) "latest") ∈ lw_tbl := lw_at lw_m6 132 rfl
theorem q1462 : (Jvm.Cond.stringRef "CounterDesk$OrderReader" (17 : Nat) "barred") ∈ lw_tbl := lw_at lw_m6 133 rfl
theorem q1463 : (Jvm.Cond.stringRef "CounterDesk$OrderReader" (19 : Nat) "all") ∈ lw_tbl := lw_at lw_m6 134 rfl
theorem q1464 : (Jvm.Cond.stringRef "CounterDesk$OrderReader" (21 : Nat) "here") ∈ lw_tbl := lw_at lw_m6 135 rfl
theorem q1465 : (Jvm.Cond.stringRef "CounterDesk$OrderReader" (23 : Nat) "under") ∈ lw_tbl := lw_at lw_m6 136 rfl
theorem q1466 : (Jvm.Cond.methodLink "CounterDesk$OrderReader" (25 : Nat) ({ cls := "CounterDesk$Reader", name := "<init>", desc := "(LCounterDesk;[Ljava/lang/String;)V" } : Jvm.MethodName)) ∈ lw_all := lw_g (lw_at lw_m6 137 rfl) rfl
theorem q1468 : (Jvm.Cond.fieldLink "CounterDesk$OrderReader" (33 : Nat) "CounterDesk$OrderReader" "row" "[LCounterDesk$Act;") ∈ lw_all := lw_g (lw_at lw_m6 139 rfl) rfl
theorem q1469 : (Jvm.Cond.fieldLink "CounterDesk$OrderReader" (3 : Nat) "CounterDesk$OrderReader" "this$0" "LCounterDesk;") ∈ lw_all := lw_g (lw_at lw_m6 140 rfl) rfl
theorem q1470 : (Jvm.Cond.laysFinal "CounterDesk$OrderReader" "CounterDesk$OrderReader" "row" "[LCounterDesk$Act;") ∈ lw_all := lw_g (lw_at lw_m6 141 rfl) rfl
theorem q1471 : (Jvm.Cond.soleField "CounterDesk$OrderReader" "row") ∈ lw_all := lw_g (lw_at lw_m6 142 rfl) rfl
theorem q1472 : (Jvm.Cond.laysFinal "CounterDesk$OrderReader" "CounterDesk$OrderReader" "this$0" "LCounterDesk;") ∈ lw_all := lw_g (lw_at lw_m6 143 rfl) rfl
theorem q1473 : (Jvm.Cond.soleField "CounterDesk$OrderReader" "this$0") ∈ lw_all := lw_g (lw_at lw_m6 144 rfl) rfl
theorem q1474 : (Jvm.Cond.lays "CounterDesk$OrderReader" "CounterDesk$Reader" "from" "I") ∈ lw_all := lw_g (lw_at lw_m6 145 rfl) rfl
theorem q1475 : (Jvm.Cond.lays "CounterDesk$OrderReader" "CounterDesk$Reader" "to" "I") ∈ lw_all := lw_g (lw_at lw_m6 146 rfl) rfl
theorem q1476 : (Jvm.Cond.lays "CounterDesk$OrderReader" "CounterDesk$Reader" "leaves" "I") ∈ lw_all := lw_g (lw_at lw_m6 147 rfl) rfl
theorem q1477 : (Jvm.Cond.lays "CounterDesk$OrderReader" "CounterDesk$Reader" "deep" "I") ∈ lw_all := lw_g (lw_at lw_m6 148 rfl) rfl
theorem q1478 : (Jvm.Cond.lays "CounterDesk$OrderReader" "CounterDesk$Reader" "piled" "I") ∈ lw_all := lw_g (lw_at lw_m6 149 rfl) rfl
theorem q1479 : (Jvm.Cond.laysFinal "CounterDesk$OrderReader" "CounterDesk$Reader" "pile" "[LCounterDesk$Test;") ∈ lw_all := lw_g (lw_at lw_m6 150 rfl) rfl
theorem q1480 : (Jvm.Cond.laysFinal "CounterDesk$OrderReader" "CounterDesk$Reader" "words" "[Ljava/lang/String;") ∈ lw_all := lw_g (lw_at lw_m6 151 rfl) rfl
theorem q1481 : (Jvm.Cond.laysFinal "CounterDesk$OrderReader" "CounterDesk$Reader" "this$0" "LCounterDesk;") ∈ lw_all := lw_g (lw_at lw_m6 152 rfl) rfl
theorem q1482 : (Jvm.Cond.superclass "CounterDesk$OrderReader" "CounterDesk$Reader") ∈ lw_all := lw_g (lw_at lw_m6 153 rfl) rfl
theorem q1484 : (Jvm.Cond.instanceMethod ({ cls := "CounterDesk$OrderReader", name := "read", desc := "()[LCounterDesk$Act;" } : Jvm.MethodName)) ∈ lw_all := lw_g (lw_at lw_m6 155 rfl) rfl
theorem q1485 : (Jvm.Cond.selects "CounterDesk$OrderReader" ({ cls := "CounterDesk$OrderReader", name := "read", desc := "()[LCounterDesk$Act;" } : Jvm.MethodName) ({ cls := "CounterDesk$OrderReader", name := "read", desc := "()[LCounterDesk$Act;" } : Jvm.MethodName)) ∈ lw_all := lw_g (lw_at lw_m6 156 rfl) rfl
theorem q1486 : (Jvm.Cond.code ({ cls := "CounterDesk$OrderReader", name := "read", desc := "()[LCounterDesk$Act;" } : Jvm.MethodName) prog_14_method_2_code (2 : Nat) (Option.some (Jvm.ClassFile.FieldType.array (Jvm.ClassFile.FieldType.object "CounterDesk$Act")))) ∈ lw_all := lw_g (lw_at lw_m6 157 rfl) rfl
theorem q1487 : (Jvm.Cond.methodLink "CounterDesk$OrderReader" (37 : Nat) ({ cls := "CounterDesk$OrderReader", name := "readAll", desc := "()I" } : Jvm.MethodName)) ∈ lw_all := lw_g (lw_at lw_m6 158 rfl) rfl
theorem q1488 : (Jvm.Cond.sameMethod "CounterDesk$OrderReader" "CounterDesk$Reader" "readAll" "()I") ∈ lw_all := lw_g (lw_at lw_m6 159 rfl) rfl
theorem q1489 : (Jvm.Cond.selects "CounterDesk$OrderReader" ({ cls := "CounterDesk$OrderReader", name := "readAll", desc := "()I" } : Jvm.MethodName) ({ cls := "CounterDesk$Reader", name := "readAll", desc := "()I" } : Jvm.MethodName)) ∈ lw_all := lw_g (lw_at lw_m6 160 rfl) rfl
theorem q1490 : (Jvm.Cond.methodLink "CounterDesk$OrderReader" (41 : Nat) ({ cls := "java/lang/System", name := "arraycopy", desc := "(Ljava/lang/Object;ILjava/lang/Object;II)V" } : Jvm.MethodName)) ∈ lw_all := lw_g (lw_at lw_m6 161 rfl) rfl
theorem q2297 : (Jvm.Cond.selects "CounterDesk$OrderReader" ({ cls := "CounterDesk$Reader", name := "sum", desc := "()LCounterDesk$Sum;" } : Jvm.MethodName) ({ cls := "CounterDesk$Reader", name := "sum", desc := "()LCounterDesk$Sum;" } : Jvm.MethodName)) ∈ lw_all := lw_g (lw_at lw_m10 8 rfl) rfl
theorem q2301 : (Jvm.Cond.selects "CounterDesk$OrderReader" ({ cls := "CounterDesk$Reader", name := "which", desc := "([Ljava/lang/String;)I" } : Jvm.MethodName) ({ cls := "CounterDesk$Reader", name := "which", desc := "([Ljava/lang/String;)I" } : Jvm.MethodName)) ∈ lw_all := lw_g (lw_at lw_m10 12 rfl) rfl
theorem q2307 : (Jvm.Cond.selects "CounterDesk$OrderReader" ({ cls := "CounterDesk$Reader", name := "test", desc := "()LCounterDesk$Test;" } : Jvm.MethodName) ({ cls := "CounterDesk$Reader", name := "test", desc := "()LCounterDesk$Test;" } : Jvm.MethodName)) ∈ lw_all := lw_g (lw_at lw_m10 18 rfl) rfl
theorem q2332 : (Jvm.Cond.castable "CounterDesk$OrderReader" "java/lang/Object") ∈ lw_tbl := lw_at lw_m10 43 rfl
theorem in_X21 : ∀ w ∈ wsX210, w ∈ lw_all := lw_in wsX210 [1474, 1475, 1476, 1477, 1478, 1479, 1480, 1481, 1470, 1472] (by decide +kernel) (by decide +kernel)

/-! CounterDesk$Draws -/
set_option maxRecDepth 100000
def RX22 : String := "CounterDesk$Draws"
def TX22 : u_T := fun k => match k with
  | _ => ("CounterDesk$Draws", "state", "J", false)
def tyX22 : Nat → FieldType := fun k => match k with
  | _ => .long
abbrev wsX220 : List Cond := u_ws RX22 TX22 1
theorem nmX22 : ∀ a, a < 1 → ∀ b, b < 1 → a ≠ b → (TX22 a).2.1 ≠ (TX22 b).2.1 := by decide +kernel
theorem tyX22_ok : ∀ k, k < 1 → parseFieldDescriptor (TX22 k).2.2.1 = some (tyX22 k) := by decide +kernel
abbrev cX22_init : ByteArray := prog_9_method_1_code
def yX22_init : MethodName := ⟨RX22, "<init>", "(I)V"⟩
def dkwX22_init_0 : List UInt8 := [42, 183, 0, 1, 42, 27, 133, 181, 0, 7, 177]
abbrev dktX22_init_0 : List UInt8 := dkwX22_init_0 ++ []
theorem dksX22_init_0 : cX22_init.data.toList.drop 0 = dktX22_init_0 := by decide +kernel
theorem dX22_init_0 : decode cX22_init 0 = .ok (.aload_n 0, 1) := dk_42 (dk_at dksX22_init_0 0 rfl rfl)
theorem dX22_init_1 : decode cX22_init 1 = .ok (.invokespecial 1, 3) := dk_183 0 1 (dk_at dksX22_init_0 1 rfl rfl)
theorem dX22_init_4 : decode cX22_init 4 = .ok (.aload_n 0, 1) := dk_42 (dk_at dksX22_init_0 4 rfl rfl)
theorem dX22_init_5 : decode cX22_init 5 = .ok (.iload_n 1, 1) := dk_27 (dk_at dksX22_init_0 5 rfl rfl)
theorem dX22_init_6 : decode cX22_init 6 = .ok (.i2l, 1) := dk_133 (dk_at dksX22_init_0 6 rfl rfl)
theorem dX22_init_7 : decode cX22_init 7 = .ok (.putfield 7, 3) := dk_181 0 7 (dk_at dksX22_init_0 7 rfl rfl)
theorem dX22_init_10 : decode cX22_init 10 = .ok (.return_, 1) := dk_177 (dk_at dksX22_init_0 10 rfl rfl)
abbrev cX22_next : ByteArray := prog_9_method_2_code
def yX22_next : MethodName := ⟨RX22, "next", "(I)I"⟩
def dkwX22_next_1 : List UInt8 := [27, 133, 113, 136, 172]
abbrev dktX22_next_1 : List UInt8 := dkwX22_next_1 ++ []
def dkwX22_next_0 : List UInt8 := [42, 42, 180, 0, 7, 20, 0, 13, 105, 20, 0, 15, 97, 20, 0, 17, 113, 181, 0, 7, 42, 180, 0, 7]
abbrev dktX22_next_0 : List UInt8 := dkwX22_next_0 ++ dktX22_next_1
theorem dksX22_next_0 : cX22_next.data.toList.drop 0 = dktX22_next_0 := by decide +kernel
theorem dksX22_next_1 : cX22_next.data.toList.drop 24 = dktX22_next_1 := dk_seg dksX22_next_0 24 rfl rfl
theorem dX22_next_0 : decode cX22_next 0 = .ok (.aload_n 0, 1) := dk_42 (dk_at dksX22_next_0 0 rfl rfl)
theorem dX22_next_1 : decode cX22_next 1 = .ok (.aload_n 0, 1) := dk_42 (dk_at dksX22_next_0 1 rfl rfl)
theorem dX22_next_2 : decode cX22_next 2 = .ok (.getfield 7, 3) := dk_180 0 7 (dk_at dksX22_next_0 2 rfl rfl)
theorem dX22_next_5 : decode cX22_next 5 = .ok (.ldc2_w 13, 3) := dk_20 0 13 (dk_at dksX22_next_0 5 rfl rfl)
theorem dX22_next_8 : decode cX22_next 8 = .ok (.lmul, 1) := dk_105 (dk_at dksX22_next_0 8 rfl rfl)
theorem dX22_next_9 : decode cX22_next 9 = .ok (.ldc2_w 15, 3) := dk_20 0 15 (dk_at dksX22_next_0 9 rfl rfl)
theorem dX22_next_12 : decode cX22_next 12 = .ok (.ladd, 1) := dk_97 (dk_at dksX22_next_0 12 rfl rfl)
theorem dX22_next_13 : decode cX22_next 13 = .ok (.ldc2_w 17, 3) := dk_20 0 17 (dk_at dksX22_next_0 13 rfl rfl)
theorem dX22_next_16 : decode cX22_next 16 = .ok (.lrem, 1) := dk_113 (dk_at dksX22_next_0 16 rfl rfl)
theorem dX22_next_17 : decode cX22_next 17 = .ok (.putfield 7, 3) := dk_181 0 7 (dk_at dksX22_next_0 17 rfl rfl)
theorem dX22_next_20 : decode cX22_next 20 = .ok (.aload_n 0, 1) := dk_42 (dk_at dksX22_next_0 20 rfl rfl)
theorem dX22_next_21 : decode cX22_next 21 = .ok (.getfield 7, 3) := dk_180 0 7 (dk_at dksX22_next_0 21 rfl rfl)
theorem dX22_next_24 : decode cX22_next 24 = .ok (.iload_n 1, 1) := dk_27 (dk_at dksX22_next_1 0 rfl rfl)
theorem dX22_next_25 : decode cX22_next 25 = .ok (.i2l, 1) := dk_133 (dk_at dksX22_next_1 1 rfl rfl)
theorem dX22_next_26 : decode cX22_next 26 = .ok (.lrem, 1) := dk_113 (dk_at dksX22_next_1 2 rfl rfl)
theorem dX22_next_27 : decode cX22_next 27 = .ok (.l2i, 1) := dk_136 (dk_at dksX22_next_1 3 rfl rfl)
theorem dX22_next_28 : decode cX22_next 28 = .ok (.ireturn, 1) := dk_172 (dk_at dksX22_next_1 4 rfl rfl)
theorem q169 : (Jvm.Cond.initialized "CounterDesk$Draws") ∈ lw_all := lw_g (lw_at lw_m1 40 rfl) rfl
theorem q1232 : (Jvm.Cond.selects "CounterDesk$Draws" ({ cls := "java/lang/Object", name := "getClass", desc := "()Ljava/lang/Class;" } : Jvm.MethodName) ({ cls := "java/lang/Object", name := "getClass", desc := "()Ljava/lang/Class;" } : Jvm.MethodName)) ∈ lw_all := lw_g (lw_at lw_m5 143 rfl) rfl
theorem q1535 : (Jvm.Cond.instantiable "CounterDesk$Draws" (1 : Nat)) ∈ lw_all := lw_g (lw_at lw_m6 206 rfl) rfl
theorem q1537 : (Jvm.Cond.instanceMethod ({ cls := "CounterDesk$Draws", name := "<init>", desc := "(I)V" } : Jvm.MethodName)) ∈ lw_all := lw_g (lw_at lw_m6 208 rfl) rfl
theorem q1538 : (Jvm.Cond.code ({ cls := "CounterDesk$Draws", name := "<init>", desc := "(I)V" } : Jvm.MethodName) prog_9_method_1_code (2 : Nat) (Option.none : Option Jvm.ClassFile.FieldType)) ∈ lw_all := lw_g (lw_at lw_m6 209 rfl) rfl
theorem q1539 : (Jvm.Cond.methodLink "CounterDesk$Draws" (1 : Nat) ({ cls := "java/lang/Object", name := "<init>", desc := "()V" } : Jvm.MethodName)) ∈ lw_all := lw_g (lw_at lw_m6 210 rfl) rfl
theorem q1540 : (Jvm.Cond.fieldLink "CounterDesk$Draws" (7 : Nat) "CounterDesk$Draws" "state" "J") ∈ lw_all := lw_g (lw_at lw_m6 211 rfl) rfl
theorem q1541 : (Jvm.Cond.lays "CounterDesk$Draws" "CounterDesk$Draws" "state" "J") ∈ lw_all := lw_g (lw_at lw_m6 212 rfl) rfl
theorem q1542 : (Jvm.Cond.soleField "CounterDesk$Draws" "state") ∈ lw_all := lw_g (lw_at lw_m6 213 rfl) rfl
theorem q1543 : (Jvm.Cond.superclass "CounterDesk$Draws" "java/lang/Object") ∈ lw_all := lw_g (lw_at lw_m6 214 rfl) rfl
theorem q1545 : (Jvm.Cond.instanceMethod ({ cls := "CounterDesk$Draws", name := "next", desc := "(I)I" } : Jvm.MethodName)) ∈ lw_all := lw_g (lw_at lw_m6 216 rfl) rfl
theorem q1546 : (Jvm.Cond.selects "CounterDesk$Draws" ({ cls := "CounterDesk$Draws", name := "next", desc := "(I)I" } : Jvm.MethodName) ({ cls := "CounterDesk$Draws", name := "next", desc := "(I)I" } : Jvm.MethodName)) ∈ lw_all := lw_g (lw_at lw_m6 217 rfl) rfl
theorem q1547 : (Jvm.Cond.code ({ cls := "CounterDesk$Draws", name := "next", desc := "(I)I" } : Jvm.MethodName) prog_9_method_2_code (2 : Nat) (Option.some Jvm.ClassFile.FieldType.int)) ∈ lw_all := lw_g (lw_at lw_m6 218 rfl) rfl
theorem q1548 : (Jvm.Cond.constantLong "CounterDesk$Draws" (13 : Nat) (1103 : Int64)) ∈ lw_all := lw_g (lw_at lw_m6 219 rfl) rfl
theorem q1549 : (Jvm.Cond.constantLong "CounterDesk$Draws" (15 : Nat) (12345 : Int64)) ∈ lw_all := lw_g (lw_at lw_m6 220 rfl) rfl
theorem q1550 : (Jvm.Cond.constantLong "CounterDesk$Draws" (17 : Nat) (1000003 : Int64)) ∈ lw_all := lw_g (lw_at lw_m6 221 rfl) rfl
theorem q2334 : (Jvm.Cond.castable "CounterDesk$Draws" "java/lang/Object") ∈ lw_tbl := lw_at lw_m10 45 rfl
theorem in_X22 : ∀ w ∈ wsX220, w ∈ lw_all := lw_in wsX220 [1541] (by decide +kernel) (by decide +kernel)

/-! CounterDesk$Steps -/
set_option maxRecDepth 100000
def RX3 : String := "CounterDesk$Steps"
def TX3 : u_T := fun k => match k with
  | 0 => ("CounterDesk$Steps", "row", "[LCounterDesk$Books;", true)
  | _ => ("CounterDesk$Steps", "n", "I", false)
def tyX3 : Nat → FieldType := fun k => match k with
  | 0 => .array (.object "CounterDesk$Books")
  | _ => .int
abbrev wsX30 : List Cond := u_ws RX3 TX3 2
theorem nmX3 : ∀ a, a < 2 → ∀ b, b < 2 → a ≠ b → (TX3 a).2.1 ≠ (TX3 b).2.1 := by decide +kernel
theorem tyX3_ok : ∀ k, k < 2 → parseFieldDescriptor (TX3 k).2.2.1 = some (tyX3 k) := by decide +kernel
abbrev cX3_init : ByteArray := prog_18_method_1_code
def yX3_init : MethodName := ⟨RX3, "<init>", "()V"⟩
def dkwX3_init_1 : List UInt8 := [180, 0, 11, 27, 187, 0, 9, 89, 183, 0, 17, 83, 132, 1, 1, 167, 255, 234, 177]
abbrev dktX3_init_1 : List UInt8 := dkwX3_init_1 ++ []
def dkwX3_init_0 : List UInt8 := [42, 183, 0, 3, 42, 16, 16, 189, 0, 9, 181, 0, 11, 3, 60, 27, 16, 16, 162, 0, 22, 42]
abbrev dktX3_init_0 : List UInt8 := dkwX3_init_0 ++ dktX3_init_1
theorem dksX3_init_0 : cX3_init.data.toList.drop 0 = dktX3_init_0 := by decide +kernel
theorem dksX3_init_1 : cX3_init.data.toList.drop 22 = dktX3_init_1 := dk_seg dksX3_init_0 22 rfl rfl
theorem dX3_init_0 : decode cX3_init 0 = .ok (.aload_n 0, 1) := dk_42 (dk_at dksX3_init_0 0 rfl rfl)
theorem dX3_init_1 : decode cX3_init 1 = .ok (.invokespecial 3, 3) := dk_183 0 3 (dk_at dksX3_init_0 1 rfl rfl)
theorem dX3_init_4 : decode cX3_init 4 = .ok (.aload_n 0, 1) := dk_42 (dk_at dksX3_init_0 4 rfl rfl)
theorem dX3_init_5 : decode cX3_init 5 = .ok (.bipush 16, 2) := dk_16 16 (dk_at dksX3_init_0 5 rfl rfl)
theorem dX3_init_7 : decode cX3_init 7 = .ok (.anewarray 9, 3) := dk_189 0 9 (dk_at dksX3_init_0 7 rfl rfl)
theorem dX3_init_10 : decode cX3_init 10 = .ok (.putfield 11, 3) := dk_181 0 11 (dk_at dksX3_init_0 10 rfl rfl)
theorem dX3_init_13 : decode cX3_init 13 = .ok (.iconst 0, 1) := dk_3 (dk_at dksX3_init_0 13 rfl rfl)
theorem dX3_init_14 : decode cX3_init 14 = .ok (.istore_n 1, 1) := dk_60 (dk_at dksX3_init_0 14 rfl rfl)
theorem dX3_init_15 : decode cX3_init 15 = .ok (.iload_n 1, 1) := dk_27 (dk_at dksX3_init_0 15 rfl rfl)
theorem dX3_init_16 : decode cX3_init 16 = .ok (.bipush 16, 2) := dk_16 16 (dk_at dksX3_init_0 16 rfl rfl)
theorem dX3_init_18 : decode cX3_init 18 = .ok (.if_icmp .ge 22, 3) := dk_162 0 22 (dk_at dksX3_init_0 18 rfl rfl)
theorem dX3_init_21 : decode cX3_init 21 = .ok (.aload_n 0, 1) := dk_42 (dk_at dksX3_init_0 21 rfl rfl)
theorem dX3_init_22 : decode cX3_init 22 = .ok (.getfield 11, 3) := dk_180 0 11 (dk_at dksX3_init_1 0 rfl rfl)
theorem dX3_init_25 : decode cX3_init 25 = .ok (.iload_n 1, 1) := dk_27 (dk_at dksX3_init_1 3 rfl rfl)
theorem dX3_init_26 : decode cX3_init 26 = .ok (.new 9, 3) := dk_187 0 9 (dk_at dksX3_init_1 4 rfl rfl)
theorem dX3_init_29 : decode cX3_init 29 = .ok (.dup, 1) := dk_89 (dk_at dksX3_init_1 7 rfl rfl)
theorem dX3_init_30 : decode cX3_init 30 = .ok (.invokespecial 17, 3) := dk_183 0 17 (dk_at dksX3_init_1 8 rfl rfl)
theorem dX3_init_33 : decode cX3_init 33 = .ok (.aastore, 1) := dk_83 (dk_at dksX3_init_1 11 rfl rfl)
theorem dX3_init_34 : decode cX3_init 34 = .ok (.iinc 1 1, 3) := dk_132 1 1 (dk_at dksX3_init_1 12 rfl rfl)
theorem dX3_init_37 : decode cX3_init 37 = .ok (.goto (-22), 3) := dk_167 255 234 (dk_at dksX3_init_1 15 rfl rfl)
theorem dX3_init_40 : decode cX3_init 40 = .ok (.return_, 1) := dk_177 (dk_at dksX3_init_1 18 rfl rfl)
abbrev cX3_append : ByteArray := prog_18_method_2_code
def yX3_append : MethodName := ⟨RX3, "append", "(LCounterDesk$Books;I)V"⟩
def dkwX3_append_3 : List UInt8 := [180, 0, 18, 4, 96, 181, 0, 18, 177]
abbrev dktX3_append_3 : List UInt8 := dkwX3_append_3 ++ []
def dkwX3_append_2 : List UInt8 := [181, 0, 18, 42, 180, 0, 11, 42, 180, 0, 18, 50, 43, 182, 0, 28, 28, 181, 0, 32, 42, 89]
abbrev dktX3_append_2 : List UInt8 := dkwX3_append_2 ++ dktX3_append_3
def dkwX3_append_1 : List UInt8 := [180, 0, 11, 3, 16, 15, 184, 0, 22, 42, 180, 0, 11, 16, 15, 45, 83, 42, 89, 180, 0, 18, 4, 100]
abbrev dktX3_append_1 : List UInt8 := dkwX3_append_1 ++ dktX3_append_2
def dkwX3_append_0 : List UInt8 := [42, 180, 0, 18, 16, 16, 160, 0, 43, 42, 180, 0, 11, 3, 50, 78, 42, 180, 0, 11, 4, 42]
abbrev dktX3_append_0 : List UInt8 := dkwX3_append_0 ++ dktX3_append_1
theorem dksX3_append_0 : cX3_append.data.toList.drop 0 = dktX3_append_0 := by decide +kernel
theorem dksX3_append_1 : cX3_append.data.toList.drop 22 = dktX3_append_1 := dk_seg dksX3_append_0 22 rfl rfl
theorem dksX3_append_2 : cX3_append.data.toList.drop 46 = dktX3_append_2 := dk_seg dksX3_append_1 24 rfl rfl
theorem dksX3_append_3 : cX3_append.data.toList.drop 68 = dktX3_append_3 := dk_seg dksX3_append_2 22 rfl rfl
theorem dX3_append_0 : decode cX3_append 0 = .ok (.aload_n 0, 1) := dk_42 (dk_at dksX3_append_0 0 rfl rfl)
theorem dX3_append_1 : decode cX3_append 1 = .ok (.getfield 18, 3) := dk_180 0 18 (dk_at dksX3_append_0 1 rfl rfl)
theorem dX3_append_4 : decode cX3_append 4 = .ok (.bipush 16, 2) := dk_16 16 (dk_at dksX3_append_0 4 rfl rfl)
theorem dX3_append_6 : decode cX3_append 6 = .ok (.if_icmp .ne 43, 3) := dk_160 0 43 (dk_at dksX3_append_0 6 rfl rfl)
theorem dX3_append_9 : decode cX3_append 9 = .ok (.aload_n 0, 1) := dk_42 (dk_at dksX3_append_0 9 rfl rfl)
theorem dX3_append_10 : decode cX3_append 10 = .ok (.getfield 11, 3) := dk_180 0 11 (dk_at dksX3_append_0 10 rfl rfl)
theorem dX3_append_13 : decode cX3_append 13 = .ok (.iconst 0, 1) := dk_3 (dk_at dksX3_append_0 13 rfl rfl)
theorem dX3_append_14 : decode cX3_append 14 = .ok (.aaload, 1) := dk_50 (dk_at dksX3_append_0 14 rfl rfl)
theorem dX3_append_15 : decode cX3_append 15 = .ok (.astore_n 3, 1) := dk_78 (dk_at dksX3_append_0 15 rfl rfl)
theorem dX3_append_16 : decode cX3_append 16 = .ok (.aload_n 0, 1) := dk_42 (dk_at dksX3_append_0 16 rfl rfl)
theorem dX3_append_17 : decode cX3_append 17 = .ok (.getfield 11, 3) := dk_180 0 11 (dk_at dksX3_append_0 17 rfl rfl)
theorem dX3_append_20 : decode cX3_append 20 = .ok (.iconst 1, 1) := dk_4 (dk_at dksX3_append_0 20 rfl rfl)
theorem dX3_append_21 : decode cX3_append 21 = .ok (.aload_n 0, 1) := dk_42 (dk_at dksX3_append_0 21 rfl rfl)
theorem dX3_append_22 : decode cX3_append 22 = .ok (.getfield 11, 3) := dk_180 0 11 (dk_at dksX3_append_1 0 rfl rfl)
theorem dX3_append_25 : decode cX3_append 25 = .ok (.iconst 0, 1) := dk_3 (dk_at dksX3_append_1 3 rfl rfl)
theorem dX3_append_26 : decode cX3_append 26 = .ok (.bipush 15, 2) := dk_16 15 (dk_at dksX3_append_1 4 rfl rfl)
theorem dX3_append_28 : decode cX3_append 28 = .ok (.invokestatic 22, 3) := dk_184 0 22 (dk_at dksX3_append_1 6 rfl rfl)
theorem dX3_append_31 : decode cX3_append 31 = .ok (.aload_n 0, 1) := dk_42 (dk_at dksX3_append_1 9 rfl rfl)
theorem dX3_append_32 : decode cX3_append 32 = .ok (.getfield 11, 3) := dk_180 0 11 (dk_at dksX3_append_1 10 rfl rfl)
theorem dX3_append_35 : decode cX3_append 35 = .ok (.bipush 15, 2) := dk_16 15 (dk_at dksX3_append_1 13 rfl rfl)
theorem dX3_append_37 : decode cX3_append 37 = .ok (.aload_n 3, 1) := dk_45 (dk_at dksX3_append_1 15 rfl rfl)
theorem dX3_append_38 : decode cX3_append 38 = .ok (.aastore, 1) := dk_83 (dk_at dksX3_append_1 16 rfl rfl)
theorem dX3_append_39 : decode cX3_append 39 = .ok (.aload_n 0, 1) := dk_42 (dk_at dksX3_append_1 17 rfl rfl)
theorem dX3_append_40 : decode cX3_append 40 = .ok (.dup, 1) := dk_89 (dk_at dksX3_append_1 18 rfl rfl)
theorem dX3_append_41 : decode cX3_append 41 = .ok (.getfield 18, 3) := dk_180 0 18 (dk_at dksX3_append_1 19 rfl rfl)
theorem dX3_append_44 : decode cX3_append 44 = .ok (.iconst 1, 1) := dk_4 (dk_at dksX3_append_1 22 rfl rfl)
theorem dX3_append_45 : decode cX3_append 45 = .ok (.isub, 1) := dk_100 (dk_at dksX3_append_1 23 rfl rfl)
theorem dX3_append_46 : decode cX3_append 46 = .ok (.putfield 18, 3) := dk_181 0 18 (dk_at dksX3_append_2 0 rfl rfl)
theorem dX3_append_49 : decode cX3_append 49 = .ok (.aload_n 0, 1) := dk_42 (dk_at dksX3_append_2 3 rfl rfl)
theorem dX3_append_50 : decode cX3_append 50 = .ok (.getfield 11, 3) := dk_180 0 11 (dk_at dksX3_append_2 4 rfl rfl)
theorem dX3_append_53 : decode cX3_append 53 = .ok (.aload_n 0, 1) := dk_42 (dk_at dksX3_append_2 7 rfl rfl)
theorem dX3_append_54 : decode cX3_append 54 = .ok (.getfield 18, 3) := dk_180 0 18 (dk_at dksX3_append_2 8 rfl rfl)
theorem dX3_append_57 : decode cX3_append 57 = .ok (.aaload, 1) := dk_50 (dk_at dksX3_append_2 11 rfl rfl)
theorem dX3_append_58 : decode cX3_append 58 = .ok (.aload_n 1, 1) := dk_43 (dk_at dksX3_append_2 12 rfl rfl)
theorem dX3_append_59 : decode cX3_append 59 = .ok (.invokevirtual 28, 3) := dk_182 0 28 (dk_at dksX3_append_2 13 rfl rfl)
theorem dX3_append_62 : decode cX3_append 62 = .ok (.iload_n 2, 1) := dk_28 (dk_at dksX3_append_2 16 rfl rfl)
theorem dX3_append_63 : decode cX3_append 63 = .ok (.putfield 32, 3) := dk_181 0 32 (dk_at dksX3_append_2 17 rfl rfl)
theorem dX3_append_66 : decode cX3_append 66 = .ok (.aload_n 0, 1) := dk_42 (dk_at dksX3_append_2 20 rfl rfl)
theorem dX3_append_67 : decode cX3_append 67 = .ok (.dup, 1) := dk_89 (dk_at dksX3_append_2 21 rfl rfl)
theorem dX3_append_68 : decode cX3_append 68 = .ok (.getfield 18, 3) := dk_180 0 18 (dk_at dksX3_append_3 0 rfl rfl)
theorem dX3_append_71 : decode cX3_append 71 = .ok (.iconst 1, 1) := dk_4 (dk_at dksX3_append_3 3 rfl rfl)
theorem dX3_append_72 : decode cX3_append 72 = .ok (.iadd, 1) := dk_96 (dk_at dksX3_append_3 4 rfl rfl)
theorem dX3_append_73 : decode cX3_append 73 = .ok (.putfield 18, 3) := dk_181 0 18 (dk_at dksX3_append_3 5 rfl rfl)
theorem dX3_append_76 : decode cX3_append 76 = .ok (.return_, 1) := dk_177 (dk_at dksX3_append_3 8 rfl rfl)
abbrev cX3_as : ByteArray := prog_18_method_3_code
def yX3_as : MethodName := ⟨RX3, "as", "(LCounterDesk$Steps;)V"⟩
def dkwX3_as_1 : List UInt8 := [43, 180, 0, 11, 28, 50, 182, 0, 28, 87, 132, 2, 1, 167, 255, 229, 177]
abbrev dktX3_as_1 : List UInt8 := dkwX3_as_1 ++ []
def dkwX3_as_0 : List UInt8 := [42, 43, 180, 0, 18, 181, 0, 18, 3, 61, 28, 42, 180, 0, 18, 162, 0, 25, 42, 180, 0, 11, 28, 50]
abbrev dktX3_as_0 : List UInt8 := dkwX3_as_0 ++ dktX3_as_1
theorem dksX3_as_0 : cX3_as.data.toList.drop 0 = dktX3_as_0 := by decide +kernel
theorem dksX3_as_1 : cX3_as.data.toList.drop 24 = dktX3_as_1 := dk_seg dksX3_as_0 24 rfl rfl
theorem dX3_as_0 : decode cX3_as 0 = .ok (.aload_n 0, 1) := dk_42 (dk_at dksX3_as_0 0 rfl rfl)
theorem dX3_as_1 : decode cX3_as 1 = .ok (.aload_n 1, 1) := dk_43 (dk_at dksX3_as_0 1 rfl rfl)
theorem dX3_as_2 : decode cX3_as 2 = .ok (.getfield 18, 3) := dk_180 0 18 (dk_at dksX3_as_0 2 rfl rfl)
theorem dX3_as_5 : decode cX3_as 5 = .ok (.putfield 18, 3) := dk_181 0 18 (dk_at dksX3_as_0 5 rfl rfl)
theorem dX3_as_8 : decode cX3_as 8 = .ok (.iconst 0, 1) := dk_3 (dk_at dksX3_as_0 8 rfl rfl)
theorem dX3_as_9 : decode cX3_as 9 = .ok (.istore_n 2, 1) := dk_61 (dk_at dksX3_as_0 9 rfl rfl)
theorem dX3_as_10 : decode cX3_as 10 = .ok (.iload_n 2, 1) := dk_28 (dk_at dksX3_as_0 10 rfl rfl)
theorem dX3_as_11 : decode cX3_as 11 = .ok (.aload_n 0, 1) := dk_42 (dk_at dksX3_as_0 11 rfl rfl)
theorem dX3_as_12 : decode cX3_as 12 = .ok (.getfield 18, 3) := dk_180 0 18 (dk_at dksX3_as_0 12 rfl rfl)
theorem dX3_as_15 : decode cX3_as 15 = .ok (.if_icmp .ge 25, 3) := dk_162 0 25 (dk_at dksX3_as_0 15 rfl rfl)
theorem dX3_as_18 : decode cX3_as 18 = .ok (.aload_n 0, 1) := dk_42 (dk_at dksX3_as_0 18 rfl rfl)
theorem dX3_as_19 : decode cX3_as 19 = .ok (.getfield 11, 3) := dk_180 0 11 (dk_at dksX3_as_0 19 rfl rfl)
theorem dX3_as_22 : decode cX3_as 22 = .ok (.iload_n 2, 1) := dk_28 (dk_at dksX3_as_0 22 rfl rfl)
theorem dX3_as_23 : decode cX3_as 23 = .ok (.aaload, 1) := dk_50 (dk_at dksX3_as_0 23 rfl rfl)
theorem dX3_as_24 : decode cX3_as 24 = .ok (.aload_n 1, 1) := dk_43 (dk_at dksX3_as_1 0 rfl rfl)
theorem dX3_as_25 : decode cX3_as 25 = .ok (.getfield 11, 3) := dk_180 0 11 (dk_at dksX3_as_1 1 rfl rfl)
theorem dX3_as_28 : decode cX3_as 28 = .ok (.iload_n 2, 1) := dk_28 (dk_at dksX3_as_1 4 rfl rfl)
theorem dX3_as_29 : decode cX3_as 29 = .ok (.aaload, 1) := dk_50 (dk_at dksX3_as_1 5 rfl rfl)
theorem dX3_as_30 : decode cX3_as 30 = .ok (.invokevirtual 28, 3) := dk_182 0 28 (dk_at dksX3_as_1 6 rfl rfl)
theorem dX3_as_33 : decode cX3_as 33 = .ok (.pop, 1) := dk_87 (dk_at dksX3_as_1 9 rfl rfl)
theorem dX3_as_34 : decode cX3_as 34 = .ok (.iinc 2 1, 3) := dk_132 2 1 (dk_at dksX3_as_1 10 rfl rfl)
theorem dX3_as_37 : decode cX3_as 37 = .ok (.goto (-27), 3) := dk_167 255 229 (dk_at dksX3_as_1 13 rfl rfl)
theorem dX3_as_40 : decode cX3_as 40 = .ok (.return_, 1) := dk_177 (dk_at dksX3_as_1 16 rfl rfl)
theorem q136 : (Jvm.Cond.initialized "CounterDesk$Steps") ∈ lw_all := lw_g (lw_at lw_m1 7 rfl) rfl
theorem q228 : (Jvm.Cond.fieldLinkNest "CounterDesk$Steps" (32 : Nat) "CounterDesk$Books" "sort" "I" "CounterDesk") ∈ lw_tbl := lw_at lw_m1 99 rfl
theorem q271 : (Jvm.Cond.instantiable "CounterDesk$Steps" (2 : Nat)) ∈ lw_all := lw_g (lw_at lw_m1 142 rfl) rfl
theorem q273 : (Jvm.Cond.instanceMethod ({ cls := "CounterDesk$Steps", name := "<init>", desc := "()V" } : Jvm.MethodName)) ∈ lw_all := lw_g (lw_at lw_m1 144 rfl) rfl
theorem q274 : (Jvm.Cond.code ({ cls := "CounterDesk$Steps", name := "<init>", desc := "()V" } : Jvm.MethodName) prog_18_method_1_code (2 : Nat) (Option.none : Option Jvm.ClassFile.FieldType)) ∈ lw_all := lw_g (lw_at lw_m1 145 rfl) rfl
theorem q275 : (Jvm.Cond.methodLink "CounterDesk$Steps" (3 : Nat) ({ cls := "java/lang/Object", name := "<init>", desc := "()V" } : Jvm.MethodName)) ∈ lw_all := lw_g (lw_at lw_m1 146 rfl) rfl
theorem q276 : (Jvm.Cond.classLink "CounterDesk$Steps" (9 : Nat) "CounterDesk$Books") ∈ lw_all := lw_g (lw_at lw_m1 147 rfl) rfl
theorem q278 : (Jvm.Cond.methodLinkNest "CounterDesk$Steps" (17 : Nat) ({ cls := "CounterDesk$Books", name := "<init>", desc := "()V" } : Jvm.MethodName) "CounterDesk") ∈ lw_tbl := lw_at lw_m1 149 rfl
theorem q279 : (Jvm.Cond.fieldLink "CounterDesk$Steps" (11 : Nat) "CounterDesk$Steps" "row" "[LCounterDesk$Books;") ∈ lw_all := lw_g (lw_at lw_m1 150 rfl) rfl
theorem q281 : (Jvm.Cond.fieldLink "CounterDesk$Steps" (18 : Nat) "CounterDesk$Steps" "n" "I") ∈ lw_all := lw_g (lw_at lw_m1 152 rfl) rfl
theorem q283 : (Jvm.Cond.laysFinal "CounterDesk$Steps" "CounterDesk$Steps" "row" "[LCounterDesk$Books;") ∈ lw_all := lw_g (lw_at lw_m1 154 rfl) rfl
theorem q284 : (Jvm.Cond.soleField "CounterDesk$Steps" "row") ∈ lw_all := lw_g (lw_at lw_m1 155 rfl) rfl
theorem q285 : (Jvm.Cond.lays "CounterDesk$Steps" "CounterDesk$Steps" "n" "I") ∈ lw_all := lw_g (lw_at lw_m1 156 rfl) rfl
theorem q286 : (Jvm.Cond.soleField "CounterDesk$Steps" "n") ∈ lw_all := lw_g (lw_at lw_m1 157 rfl) rfl
theorem q287 : (Jvm.Cond.superclass "CounterDesk$Steps" "java/lang/Object") ∈ lw_all := lw_g (lw_at lw_m1 158 rfl) rfl
theorem q1240 : (Jvm.Cond.selects "CounterDesk$Steps" ({ cls := "java/lang/Object", name := "getClass", desc := "()Ljava/lang/Class;" } : Jvm.MethodName) ({ cls := "java/lang/Object", name := "getClass", desc := "()Ljava/lang/Class;" } : Jvm.MethodName)) ∈ lw_all := lw_g (lw_at lw_m5 151 rfl) rfl
theorem q1290 : (Jvm.Cond.instanceMethod ({ cls := "CounterDesk$Steps", name := "append", desc := "(LCounterDesk$Books;I)V" } : Jvm.MethodName)) ∈ lw_all := lw_g (lw_at lw_m5 201 rfl) rfl
theorem q1291 : (Jvm.Cond.selects "CounterDesk$Steps" ({ cls := "CounterDesk$Steps", name := "append", desc := "(LCounterDesk$Books;I)V" } : Jvm.MethodName) ({ cls := "CounterDesk$Steps", name := "append", desc := "(LCounterDesk$Books;I)V" } : Jvm.MethodName)) ∈ lw_all := lw_g (lw_at lw_m5 202 rfl) rfl
theorem q1292 : (Jvm.Cond.code ({ cls := "CounterDesk$Steps", name := "append", desc := "(LCounterDesk$Books;I)V" } : Jvm.MethodName) prog_18_method_2_code (4 : Nat) (Option.none : Option Jvm.ClassFile.FieldType)) ∈ lw_all := lw_g (lw_at lw_m5 203 rfl) rfl
theorem q1293 : (Jvm.Cond.methodLink "CounterDesk$Steps" (22 : Nat) ({ cls := "java/lang/System", name := "arraycopy", desc := "(Ljava/lang/Object;ILjava/lang/Object;II)V" } : Jvm.MethodName)) ∈ lw_all := lw_g (lw_at lw_m5 204 rfl) rfl
theorem q1294 : (Jvm.Cond.methodLink "CounterDesk$Steps" (28 : Nat) ({ cls := "CounterDesk$Books", name := "as", desc := "(LCounterDesk$Books;)LCounterDesk$Books;" } : Jvm.MethodName)) ∈ lw_all := lw_g (lw_at lw_m5 205 rfl) rfl
theorem q1492 : (Jvm.Cond.instanceMethod ({ cls := "CounterDesk$Steps", name := "as", desc := "(LCounterDesk$Steps;)V" } : Jvm.MethodName)) ∈ lw_all := lw_g (lw_at lw_m6 163 rfl) rfl
theorem q1493 : (Jvm.Cond.selects "CounterDesk$Steps" ({ cls := "CounterDesk$Steps", name := "as", desc := "(LCounterDesk$Steps;)V" } : Jvm.MethodName) ({ cls := "CounterDesk$Steps", name := "as", desc := "(LCounterDesk$Steps;)V" } : Jvm.MethodName)) ∈ lw_all := lw_g (lw_at lw_m6 164 rfl) rfl
theorem q1494 : (Jvm.Cond.code ({ cls := "CounterDesk$Steps", name := "as", desc := "(LCounterDesk$Steps;)V" } : Jvm.MethodName) prog_18_method_3_code (3 : Nat) (Option.none : Option Jvm.ClassFile.FieldType)) ∈ lw_all := lw_g (lw_at lw_m6 165 rfl) rfl
theorem q2319 : (Jvm.Cond.castable "CounterDesk$Steps" "java/lang/Object") ∈ lw_tbl := lw_at lw_m10 30 rfl
theorem in_X3 : ∀ w ∈ wsX30, w ∈ lw_all := lw_in wsX30 [283, 285] (by decide +kernel) (by decide +kernel)

/-! CounterDesk$Asked -/
set_option maxRecDepth 100000
def RX4 : String := "CounterDesk$Asked"
def TX4 : u_T := fun k => match k with
  | 0 => ("CounterDesk$Asked", "numbers", "[J", true)
  | _ => ("CounterDesk$Asked", "isBroken", "Z", false)
def tyX4 : Nat → FieldType := fun k => match k with
  | 0 => .array .long
  | _ => .boolean
abbrev wsX40 : List Cond := u_ws RX4 TX4 2
theorem nmX4 : ∀ a, a < 2 → ∀ b, b < 2 → a ≠ b → (TX4 a).2.1 ≠ (TX4 b).2.1 := by decide +kernel
theorem tyX4_ok : ∀ k, k < 2 → parseFieldDescriptor (TX4 k).2.2.1 = some (tyX4 k) := by decide +kernel
abbrev cX4_init : ByteArray := prog_4_method_1_code
def yX4_init : MethodName := ⟨RX4, "<init>", "()V"⟩
def dkwX4_init_0 : List UInt8 := [42, 183, 0, 1, 42, 16, 10, 188, 11, 181, 0, 7, 177]
abbrev dktX4_init_0 : List UInt8 := dkwX4_init_0 ++ []
theorem dksX4_init_0 : cX4_init.data.toList.drop 0 = dktX4_init_0 := by decide +kernel
theorem dX4_init_0 : decode cX4_init 0 = .ok (.aload_n 0, 1) := dk_42 (dk_at dksX4_init_0 0 rfl rfl)
theorem dX4_init_1 : decode cX4_init 1 = .ok (.invokespecial 1, 3) := dk_183 0 1 (dk_at dksX4_init_0 1 rfl rfl)
theorem dX4_init_4 : decode cX4_init 4 = .ok (.aload_n 0, 1) := dk_42 (dk_at dksX4_init_0 4 rfl rfl)
theorem dX4_init_5 : decode cX4_init 5 = .ok (.bipush 10, 2) := dk_16 10 (dk_at dksX4_init_0 5 rfl rfl)
theorem dX4_init_7 : decode cX4_init 7 = .ok (.newarray .long, 2) := dk_188_11 (dk_at dksX4_init_0 7 rfl rfl)
theorem dX4_init_9 : decode cX4_init 9 = .ok (.putfield 7, 3) := dk_181 0 7 (dk_at dksX4_init_0 9 rfl rfl)
theorem dX4_init_12 : decode cX4_init 12 = .ok (.return_, 1) := dk_177 (dk_at dksX4_init_0 12 rfl rfl)
abbrev cX4_within : ByteArray := prog_4_method_2_code
def yX4_within : MethodName := ⟨RX4, "within", "(J)J"⟩
def dkwX4_within_1 : List UInt8 := [4, 167, 0, 4, 3, 181, 0, 13, 42, 180, 0, 13, 153, 0, 7, 9, 167, 0, 4, 31, 173]
abbrev dktX4_within_1 : List UInt8 := dkwX4_within_1 ++ []
def dkwX4_within_0 : List UInt8 := [42, 42, 180, 0, 13, 154, 0, 19, 31, 20, 0, 17, 148, 157, 0, 11, 31, 20, 0, 19, 148, 156, 0, 7]
abbrev dktX4_within_0 : List UInt8 := dkwX4_within_0 ++ dktX4_within_1
theorem dksX4_within_0 : cX4_within.data.toList.drop 0 = dktX4_within_0 := by decide +kernel
theorem dksX4_within_1 : cX4_within.data.toList.drop 24 = dktX4_within_1 := dk_seg dksX4_within_0 24 rfl rfl
theorem dX4_within_0 : decode cX4_within 0 = .ok (.aload_n 0, 1) := dk_42 (dk_at dksX4_within_0 0 rfl rfl)
theorem dX4_within_1 : decode cX4_within 1 = .ok (.aload_n 0, 1) := dk_42 (dk_at dksX4_within_0 1 rfl rfl)
theorem dX4_within_2 : decode cX4_within 2 = .ok (.getfield 13, 3) := dk_180 0 13 (dk_at dksX4_within_0 2 rfl rfl)
theorem dX4_within_5 : decode cX4_within 5 = .ok (.ifCond .ne 19, 3) := dk_154 0 19 (dk_at dksX4_within_0 5 rfl rfl)
theorem dX4_within_8 : decode cX4_within 8 = .ok (.lload_n 1, 1) := dk_31 (dk_at dksX4_within_0 8 rfl rfl)
theorem dX4_within_9 : decode cX4_within 9 = .ok (.ldc2_w 17, 3) := dk_20 0 17 (dk_at dksX4_within_0 9 rfl rfl)
theorem dX4_within_12 : decode cX4_within 12 = .ok (.lcmp, 1) := dk_148 (dk_at dksX4_within_0 12 rfl rfl)
theorem dX4_within_13 : decode cX4_within 13 = .ok (.ifCond .gt 11, 3) := dk_157 0 11 (dk_at dksX4_within_0 13 rfl rfl)
theorem dX4_within_16 : decode cX4_within 16 = .ok (.lload_n 1, 1) := dk_31 (dk_at dksX4_within_0 16 rfl rfl)
theorem dX4_within_17 : decode cX4_within 17 = .ok (.ldc2_w 19, 3) := dk_20 0 19 (dk_at dksX4_within_0 17 rfl rfl)
theorem dX4_within_20 : decode cX4_within 20 = .ok (.lcmp, 1) := dk_148 (dk_at dksX4_within_0 20 rfl rfl)
theorem dX4_within_21 : decode cX4_within 21 = .ok (.ifCond .ge 7, 3) := dk_156 0 7 (dk_at dksX4_within_0 21 rfl rfl)
theorem dX4_within_24 : decode cX4_within 24 = .ok (.iconst 1, 1) := dk_4 (dk_at dksX4_within_1 0 rfl rfl)
theorem dX4_within_25 : decode cX4_within 25 = .ok (.goto 4, 3) := dk_167 0 4 (dk_at dksX4_within_1 1 rfl rfl)
theorem dX4_within_28 : decode cX4_within 28 = .ok (.iconst 0, 1) := dk_3 (dk_at dksX4_within_1 4 rfl rfl)
theorem dX4_within_29 : decode cX4_within 29 = .ok (.putfield 13, 3) := dk_181 0 13 (dk_at dksX4_within_1 5 rfl rfl)
theorem dX4_within_32 : decode cX4_within 32 = .ok (.aload_n 0, 1) := dk_42 (dk_at dksX4_within_1 8 rfl rfl)
theorem dX4_within_33 : decode cX4_within 33 = .ok (.getfield 13, 3) := dk_180 0 13 (dk_at dksX4_within_1 9 rfl rfl)
theorem dX4_within_36 : decode cX4_within 36 = .ok (.ifCond .eq 7, 3) := dk_153 0 7 (dk_at dksX4_within_1 12 rfl rfl)
theorem dX4_within_39 : decode cX4_within 39 = .ok (.lconst 0, 1) := dk_9 (dk_at dksX4_within_1 15 rfl rfl)
theorem dX4_within_40 : decode cX4_within 40 = .ok (.goto 4, 3) := dk_167 0 4 (dk_at dksX4_within_1 16 rfl rfl)
theorem dX4_within_43 : decode cX4_within 43 = .ok (.lload_n 1, 1) := dk_31 (dk_at dksX4_within_1 19 rfl rfl)
theorem dX4_within_44 : decode cX4_within 44 = .ok (.lreturn, 1) := dk_173 (dk_at dksX4_within_1 20 rfl rfl)
theorem q137 : (Jvm.Cond.initialized "CounterDesk$Asked") ∈ lw_all := lw_g (lw_at lw_m1 8 rfl) rfl
theorem q291 : (Jvm.Cond.instantiable "CounterDesk$Asked" (2 : Nat)) ∈ lw_all := lw_g (lw_at lw_m1 162 rfl) rfl
theorem q293 : (Jvm.Cond.instanceMethod ({ cls := "CounterDesk$Asked", name := "<init>", desc := "()V" } : Jvm.MethodName)) ∈ lw_all := lw_g (lw_at lw_m1 164 rfl) rfl
theorem q294 : (Jvm.Cond.code ({ cls := "CounterDesk$Asked", name := "<init>", desc := "()V" } : Jvm.MethodName) prog_4_method_1_code (1 : Nat) (Option.none : Option Jvm.ClassFile.FieldType)) ∈ lw_all := lw_g (lw_at lw_m1 165 rfl) rfl
theorem q295 : (Jvm.Cond.methodLink "CounterDesk$Asked" (1 : Nat) ({ cls := "java/lang/Object", name := "<init>", desc := "()V" } : Jvm.MethodName)) ∈ lw_all := lw_g (lw_at lw_m1 166 rfl) rfl
theorem q296 : (Jvm.Cond.fieldLink "CounterDesk$Asked" (7 : Nat) "CounterDesk$Asked" "numbers" "[J") ∈ lw_all := lw_g (lw_at lw_m1 167 rfl) rfl
theorem q301 : (Jvm.Cond.fieldLink "CounterDesk$Asked" (13 : Nat) "CounterDesk$Asked" "isBroken" "Z") ∈ lw_all := lw_g (lw_at lw_m1 172 rfl) rfl
theorem q307 : (Jvm.Cond.laysFinal "CounterDesk$Asked" "CounterDesk$Asked" "numbers" "[J") ∈ lw_all := lw_g (lw_at lw_m1 178 rfl) rfl
theorem q308 : (Jvm.Cond.soleField "CounterDesk$Asked" "numbers") ∈ lw_all := lw_g (lw_at lw_m1 179 rfl) rfl
theorem q309 : (Jvm.Cond.lays "CounterDesk$Asked" "CounterDesk$Asked" "isBroken" "Z") ∈ lw_all := lw_g (lw_at lw_m1 180 rfl) rfl
theorem q310 : (Jvm.Cond.soleField "CounterDesk$Asked" "isBroken") ∈ lw_all := lw_g (lw_at lw_m1 181 rfl) rfl
theorem q311 : (Jvm.Cond.superclass "CounterDesk$Asked" "java/lang/Object") ∈ lw_all := lw_g (lw_at lw_m1 182 rfl) rfl
theorem q549 : (Jvm.Cond.instanceMethod ({ cls := "CounterDesk$Asked", name := "within", desc := "(J)J" } : Jvm.MethodName)) ∈ lw_all := lw_g (lw_at lw_m2 180 rfl) rfl
theorem q550 : (Jvm.Cond.selects "CounterDesk$Asked" ({ cls := "CounterDesk$Asked", name := "within", desc := "(J)J" } : Jvm.MethodName) ({ cls := "CounterDesk$Asked", name := "within", desc := "(J)J" } : Jvm.MethodName)) ∈ lw_all := lw_g (lw_at lw_m2 181 rfl) rfl
theorem q551 : (Jvm.Cond.code ({ cls := "CounterDesk$Asked", name := "within", desc := "(J)J" } : Jvm.MethodName) prog_4_method_2_code (3 : Nat) (Option.some Jvm.ClassFile.FieldType.long)) ∈ lw_all := lw_g (lw_at lw_m2 182 rfl) rfl
theorem q552 : (Jvm.Cond.constantLong "CounterDesk$Asked" (17 : Nat) (1000000000 : Int64)) ∈ lw_all := lw_g (lw_at lw_m2 183 rfl) rfl
theorem q553 : (Jvm.Cond.constantLong "CounterDesk$Asked" (19 : Nat) (-1000000000 : Int64)) ∈ lw_all := lw_g (lw_at lw_m2 184 rfl) rfl
theorem q1227 : (Jvm.Cond.selects "CounterDesk$Asked" ({ cls := "java/lang/Object", name := "getClass", desc := "()Ljava/lang/Class;" } : Jvm.MethodName) ({ cls := "java/lang/Object", name := "getClass", desc := "()Ljava/lang/Class;" } : Jvm.MethodName)) ∈ lw_all := lw_g (lw_at lw_m5 138 rfl) rfl
theorem q2320 : (Jvm.Cond.castable "CounterDesk$Asked" "java/lang/Object") ∈ lw_tbl := lw_at lw_m10 31 rfl
theorem in_X4 : ∀ w ∈ wsX40, w ∈ lw_all := lw_in wsX40 [307, 309] (by decide +kernel) (by decide +kernel)

/-! CounterDesk$Text -/
set_option maxRecDepth 100000
def RX5 : String := "CounterDesk$Text"
def TX5 : u_T := fun k => match k with
  | _ => ("CounterDesk$Text", "clauses", "[LCounterDesk$Clause;", true)
def tyX5 : Nat → FieldType := fun k => match k with
  | _ => .array (.object "CounterDesk$Clause")
abbrev wsX50 : List Cond := u_ws RX5 TX5 1
theorem nmX5 : ∀ a, a < 1 → ∀ b, b < 1 → a ≠ b → (TX5 a).2.1 ≠ (TX5 b).2.1 := by decide +kernel
theorem tyX5_ok : ∀ k, k < 1 → parseFieldDescriptor (TX5 k).2.2.1 = some (tyX5 k) := by decide +kernel
abbrev cX5_init : ByteArray := prog_21_method_1_code
def yX5_init : MethodName := ⟨RX5, "<init>", "([LCounterDesk$Clause;)V"⟩
def dkwX5_init_0 : List UInt8 := [42, 183, 0, 1, 42, 43, 181, 0, 7, 177]
abbrev dktX5_init_0 : List UInt8 := dkwX5_init_0 ++ []
theorem dksX5_init_0 : cX5_init.data.toList.drop 0 = dktX5_init_0 := by decide +kernel
theorem dX5_init_0 : decode cX5_init 0 = .ok (.aload_n 0, 1) := dk_42 (dk_at dksX5_init_0 0 rfl rfl)
theorem dX5_init_1 : decode cX5_init 1 = .ok (.invokespecial 1, 3) := dk_183 0 1 (dk_at dksX5_init_0 1 rfl rfl)
theorem dX5_init_4 : decode cX5_init 4 = .ok (.aload_n 0, 1) := dk_42 (dk_at dksX5_init_0 4 rfl rfl)
theorem dX5_init_5 : decode cX5_init 5 = .ok (.aload_n 1, 1) := dk_43 (dk_at dksX5_init_0 5 rfl rfl)
theorem dX5_init_6 : decode cX5_init 6 = .ok (.putfield 7, 3) := dk_181 0 7 (dk_at dksX5_init_0 6 rfl rfl)
theorem dX5_init_9 : decode cX5_init 9 = .ok (.return_, 1) := dk_177 (dk_at dksX5_init_0 9 rfl rfl)
abbrev cX5_tells : ByteArray := prog_21_method_3_code
def yX5_tells : MethodName := ⟨RX5, "tells", "(ILCounterDesk$Asked;II)I"⟩
def dkwX5_tells_3 : List UInt8 := [167, 255, 193, 22, 5, 136, 172]
abbrev dktX5_tells_3 : List UInt8 := dkwX5_tells_3 ++ []
def dkwX5_tells_2 : List UInt8 := [133, 42, 180, 0, 7, 21, 7, 50, 180, 0, 23, 184, 0, 27, 184, 0, 33, 55, 5, 132, 7, 1]
abbrev dktX5_tells_2 : List UInt8 := dkwX5_tells_2 ++ dktX5_tells_3
def dkwX5_tells_1 : List UInt8 := [180, 0, 13, 27, 160, 0, 39, 42, 180, 0, 7, 21, 7, 50, 44, 182, 0, 19, 153, 0, 25, 9, 21, 4]
abbrev dktX5_tells_1 : List UInt8 := dkwX5_tells_1 ++ dktX5_tells_2
def dkwX5_tells_0 : List UInt8 := [29, 133, 55, 5, 3, 54, 7, 21, 7, 42, 180, 0, 7, 190, 162, 0, 59, 42, 180, 0, 7, 21, 7, 50]
abbrev dktX5_tells_0 : List UInt8 := dkwX5_tells_0 ++ dktX5_tells_1
theorem dksX5_tells_0 : cX5_tells.data.toList.drop 0 = dktX5_tells_0 := by decide +kernel
theorem dksX5_tells_1 : cX5_tells.data.toList.drop 24 = dktX5_tells_1 := dk_seg dksX5_tells_0 24 rfl rfl
theorem dksX5_tells_2 : cX5_tells.data.toList.drop 48 = dktX5_tells_2 := dk_seg dksX5_tells_1 24 rfl rfl
theorem dksX5_tells_3 : cX5_tells.data.toList.drop 70 = dktX5_tells_3 := dk_seg dksX5_tells_2 22 rfl rfl
theorem dX5_tells_0 : decode cX5_tells 0 = .ok (.iload_n 3, 1) := dk_29 (dk_at dksX5_tells_0 0 rfl rfl)
theorem dX5_tells_1 : decode cX5_tells 1 = .ok (.i2l, 1) := dk_133 (dk_at dksX5_tells_0 1 rfl rfl)
theorem dX5_tells_2 : decode cX5_tells 2 = .ok (.lstore 5, 2) := dk_55 5 (dk_at dksX5_tells_0 2 rfl rfl)
theorem dX5_tells_4 : decode cX5_tells 4 = .ok (.iconst 0, 1) := dk_3 (dk_at dksX5_tells_0 4 rfl rfl)
theorem dX5_tells_5 : decode cX5_tells 5 = .ok (.istore 7, 2) := dk_54 7 (dk_at dksX5_tells_0 5 rfl rfl)
theorem dX5_tells_7 : decode cX5_tells 7 = .ok (.iload 7, 2) := dk_21 7 (dk_at dksX5_tells_0 7 rfl rfl)
theorem dX5_tells_9 : decode cX5_tells 9 = .ok (.aload_n 0, 1) := dk_42 (dk_at dksX5_tells_0 9 rfl rfl)
theorem dX5_tells_10 : decode cX5_tells 10 = .ok (.getfield 7, 3) := dk_180 0 7 (dk_at dksX5_tells_0 10 rfl rfl)
theorem dX5_tells_13 : decode cX5_tells 13 = .ok (.arraylength, 1) := dk_190 (dk_at dksX5_tells_0 13 rfl rfl)
theorem dX5_tells_14 : decode cX5_tells 14 = .ok (.if_icmp .ge 59, 3) := dk_162 0 59 (dk_at dksX5_tells_0 14 rfl rfl)
theorem dX5_tells_17 : decode cX5_tells 17 = .ok (.aload_n 0, 1) := dk_42 (dk_at dksX5_tells_0 17 rfl rfl)
theorem dX5_tells_18 : decode cX5_tells 18 = .ok (.getfield 7, 3) := dk_180 0 7 (dk_at dksX5_tells_0 18 rfl rfl)
theorem dX5_tells_21 : decode cX5_tells 21 = .ok (.iload 7, 2) := dk_21 7 (dk_at dksX5_tells_0 21 rfl rfl)
theorem dX5_tells_23 : decode cX5_tells 23 = .ok (.aaload, 1) := dk_50 (dk_at dksX5_tells_0 23 rfl rfl)
theorem dX5_tells_24 : decode cX5_tells 24 = .ok (.getfield 13, 3) := dk_180 0 13 (dk_at dksX5_tells_1 0 rfl rfl)
theorem dX5_tells_27 : decode cX5_tells 27 = .ok (.iload_n 1, 1) := dk_27 (dk_at dksX5_tells_1 3 rfl rfl)
theorem dX5_tells_28 : decode cX5_tells 28 = .ok (.if_icmp .ne 39, 3) := dk_160 0 39 (dk_at dksX5_tells_1 4 rfl rfl)
theorem dX5_tells_31 : decode cX5_tells 31 = .ok (.aload_n 0, 1) := dk_42 (dk_at dksX5_tells_1 7 rfl rfl)
theorem dX5_tells_32 : decode cX5_tells 32 = .ok (.getfield 7, 3) := dk_180 0 7 (dk_at dksX5_tells_1 8 rfl rfl)
theorem dX5_tells_35 : decode cX5_tells 35 = .ok (.iload 7, 2) := dk_21 7 (dk_at dksX5_tells_1 11 rfl rfl)
theorem dX5_tells_37 : decode cX5_tells 37 = .ok (.aaload, 1) := dk_50 (dk_at dksX5_tells_1 13 rfl rfl)
theorem dX5_tells_38 : decode cX5_tells 38 = .ok (.aload_n 2, 1) := dk_44 (dk_at dksX5_tells_1 14 rfl rfl)
theorem dX5_tells_39 : decode cX5_tells 39 = .ok (.invokevirtual 19, 3) := dk_182 0 19 (dk_at dksX5_tells_1 15 rfl rfl)
theorem dX5_tells_42 : decode cX5_tells 42 = .ok (.ifCond .eq 25, 3) := dk_153 0 25 (dk_at dksX5_tells_1 18 rfl rfl)
theorem dX5_tells_45 : decode cX5_tells 45 = .ok (.lconst 0, 1) := dk_9 (dk_at dksX5_tells_1 21 rfl rfl)
theorem dX5_tells_46 : decode cX5_tells 46 = .ok (.iload 4, 2) := dk_21 4 (dk_at dksX5_tells_1 22 rfl rfl)
theorem dX5_tells_48 : decode cX5_tells 48 = .ok (.i2l, 1) := dk_133 (dk_at dksX5_tells_2 0 rfl rfl)
theorem dX5_tells_49 : decode cX5_tells 49 = .ok (.aload_n 0, 1) := dk_42 (dk_at dksX5_tells_2 1 rfl rfl)
theorem dX5_tells_50 : decode cX5_tells 50 = .ok (.getfield 7, 3) := dk_180 0 7 (dk_at dksX5_tells_2 2 rfl rfl)
theorem dX5_tells_53 : decode cX5_tells 53 = .ok (.iload 7, 2) := dk_21 7 (dk_at dksX5_tells_2 5 rfl rfl)
theorem dX5_tells_55 : decode cX5_tells 55 = .ok (.aaload, 1) := dk_50 (dk_at dksX5_tells_2 7 rfl rfl)
theorem dX5_tells_56 : decode cX5_tells 56 = .ok (.getfield 23, 3) := dk_180 0 23 (dk_at dksX5_tells_2 8 rfl rfl)
theorem dX5_tells_59 : decode cX5_tells 59 = .ok (.invokestatic 27, 3) := dk_184 0 27 (dk_at dksX5_tells_2 11 rfl rfl)
theorem dX5_tells_62 : decode cX5_tells 62 = .ok (.invokestatic 33, 3) := dk_184 0 33 (dk_at dksX5_tells_2 14 rfl rfl)
theorem dX5_tells_65 : decode cX5_tells 65 = .ok (.lstore 5, 2) := dk_55 5 (dk_at dksX5_tells_2 17 rfl rfl)
theorem dX5_tells_67 : decode cX5_tells 67 = .ok (.iinc 7 1, 3) := dk_132 7 1 (dk_at dksX5_tells_2 19 rfl rfl)
theorem dX5_tells_70 : decode cX5_tells 70 = .ok (.goto (-63), 3) := dk_167 255 193 (dk_at dksX5_tells_3 0 rfl rfl)
theorem dX5_tells_73 : decode cX5_tells 73 = .ok (.lload 5, 2) := dk_22 5 (dk_at dksX5_tells_3 3 rfl rfl)
theorem dX5_tells_75 : decode cX5_tells 75 = .ok (.l2i, 1) := dk_136 (dk_at dksX5_tells_3 5 rfl rfl)
theorem dX5_tells_76 : decode cX5_tells 76 = .ok (.ireturn, 1) := dk_172 (dk_at dksX5_tells_3 6 rfl rfl)
abbrev cX5_has : ByteArray := prog_21_method_2_code
def yX5_has : MethodName := ⟨RX5, "has", "(ILCounterDesk$Asked;)Z"⟩
def dkwX5_has_1 : List UInt8 := [42, 180, 0, 7, 29, 50, 44, 182, 0, 19, 153, 0, 5, 4, 172, 132, 3, 1, 167, 255, 216, 3, 172]
abbrev dktX5_has_1 : List UInt8 := dkwX5_has_1 ++ []
def dkwX5_has_0 : List UInt8 := [3, 62, 29, 42, 180, 0, 7, 190, 162, 0, 37, 42, 180, 0, 7, 29, 50, 180, 0, 13, 27, 160, 0, 18]
abbrev dktX5_has_0 : List UInt8 := dkwX5_has_0 ++ dktX5_has_1
theorem dksX5_has_0 : cX5_has.data.toList.drop 0 = dktX5_has_0 := by decide +kernel
theorem dksX5_has_1 : cX5_has.data.toList.drop 24 = dktX5_has_1 := dk_seg dksX5_has_0 24 rfl rfl
theorem dX5_has_0 : decode cX5_has 0 = .ok (.iconst 0, 1) := dk_3 (dk_at dksX5_has_0 0 rfl rfl)
theorem dX5_has_1 : decode cX5_has 1 = .ok (.istore_n 3, 1) := dk_62 (dk_at dksX5_has_0 1 rfl rfl)
theorem dX5_has_2 : decode cX5_has 2 = .ok (.iload_n 3, 1) := dk_29 (dk_at dksX5_has_0 2 rfl rfl)
theorem dX5_has_3 : decode cX5_has 3 = .ok (.aload_n 0, 1) := dk_42 (dk_at dksX5_has_0 3 rfl rfl)
theorem dX5_has_4 : decode cX5_has 4 = .ok (.getfield 7, 3) := dk_180 0 7 (dk_at dksX5_has_0 4 rfl rfl)
theorem dX5_has_7 : decode cX5_has 7 = .ok (.arraylength, 1) := dk_190 (dk_at dksX5_has_0 7 rfl rfl)
theorem dX5_has_8 : decode cX5_has 8 = .ok (.if_icmp .ge 37, 3) := dk_162 0 37 (dk_at dksX5_has_0 8 rfl rfl)
theorem dX5_has_11 : decode cX5_has 11 = .ok (.aload_n 0, 1) := dk_42 (dk_at dksX5_has_0 11 rfl rfl)
theorem dX5_has_12 : decode cX5_has 12 = .ok (.getfield 7, 3) := dk_180 0 7 (dk_at dksX5_has_0 12 rfl rfl)
theorem dX5_has_15 : decode cX5_has 15 = .ok (.iload_n 3, 1) := dk_29 (dk_at dksX5_has_0 15 rfl rfl)
theorem dX5_has_16 : decode cX5_has 16 = .ok (.aaload, 1) := dk_50 (dk_at dksX5_has_0 16 rfl rfl)
theorem dX5_has_17 : decode cX5_has 17 = .ok (.getfield 13, 3) := dk_180 0 13 (dk_at dksX5_has_0 17 rfl rfl)
theorem dX5_has_20 : decode cX5_has 20 = .ok (.iload_n 1, 1) := dk_27 (dk_at dksX5_has_0 20 rfl rfl)
theorem dX5_has_21 : decode cX5_has 21 = .ok (.if_icmp .ne 18, 3) := dk_160 0 18 (dk_at dksX5_has_0 21 rfl rfl)
theorem dX5_has_24 : decode cX5_has 24 = .ok (.aload_n 0, 1) := dk_42 (dk_at dksX5_has_1 0 rfl rfl)
theorem dX5_has_25 : decode cX5_has 25 = .ok (.getfield 7, 3) := dk_180 0 7 (dk_at dksX5_has_1 1 rfl rfl)
theorem dX5_has_28 : decode cX5_has 28 = .ok (.iload_n 3, 1) := dk_29 (dk_at dksX5_has_1 4 rfl rfl)
theorem dX5_has_29 : decode cX5_has 29 = .ok (.aaload, 1) := dk_50 (dk_at dksX5_has_1 5 rfl rfl)
theorem dX5_has_30 : decode cX5_has 30 = .ok (.aload_n 2, 1) := dk_44 (dk_at dksX5_has_1 6 rfl rfl)
theorem dX5_has_31 : decode cX5_has 31 = .ok (.invokevirtual 19, 3) := dk_182 0 19 (dk_at dksX5_has_1 7 rfl rfl)
theorem dX5_has_34 : decode cX5_has 34 = .ok (.ifCond .eq 5, 3) := dk_153 0 5 (dk_at dksX5_has_1 10 rfl rfl)
theorem dX5_has_37 : decode cX5_has 37 = .ok (.iconst 1, 1) := dk_4 (dk_at dksX5_has_1 13 rfl rfl)
theorem dX5_has_38 : decode cX5_has 38 = .ok (.ireturn, 1) := dk_172 (dk_at dksX5_has_1 14 rfl rfl)
theorem dX5_has_39 : decode cX5_has 39 = .ok (.iinc 3 1, 3) := dk_132 3 1 (dk_at dksX5_has_1 15 rfl rfl)
theorem dX5_has_42 : decode cX5_has 42 = .ok (.goto (-40), 3) := dk_167 255 216 (dk_at dksX5_has_1 18 rfl rfl)
theorem dX5_has_45 : decode cX5_has 45 = .ok (.iconst 0, 1) := dk_3 (dk_at dksX5_has_1 21 rfl rfl)
theorem dX5_has_46 : decode cX5_has 46 = .ok (.ireturn, 1) := dk_172 (dk_at dksX5_has_1 22 rfl rfl)
theorem q138 : (Jvm.Cond.initialized "CounterDesk$Text") ∈ lw_all := lw_g (lw_at lw_m1 9 rfl) rfl
theorem q314 : (Jvm.Cond.instantiable "CounterDesk$Text" (1 : Nat)) ∈ lw_all := lw_g (lw_at lw_m1 185 rfl) rfl
theorem q318 : (Jvm.Cond.instanceMethod ({ cls := "CounterDesk$Text", name := "<init>", desc := "([LCounterDesk$Clause;)V" } : Jvm.MethodName)) ∈ lw_all := lw_g (lw_at lw_m1 189 rfl) rfl
theorem q319 : (Jvm.Cond.code ({ cls := "CounterDesk$Text", name := "<init>", desc := "([LCounterDesk$Clause;)V" } : Jvm.MethodName) prog_21_method_1_code (2 : Nat) (Option.none : Option Jvm.ClassFile.FieldType)) ∈ lw_all := lw_g (lw_at lw_m1 190 rfl) rfl
theorem q320 : (Jvm.Cond.methodLink "CounterDesk$Text" (1 : Nat) ({ cls := "java/lang/Object", name := "<init>", desc := "()V" } : Jvm.MethodName)) ∈ lw_all := lw_g (lw_at lw_m1 191 rfl) rfl
theorem q321 : (Jvm.Cond.fieldLink "CounterDesk$Text" (7 : Nat) "CounterDesk$Text" "clauses" "[LCounterDesk$Clause;") ∈ lw_all := lw_g (lw_at lw_m1 192 rfl) rfl
theorem q322 : (Jvm.Cond.laysFinal "CounterDesk$Text" "CounterDesk$Text" "clauses" "[LCounterDesk$Clause;") ∈ lw_all := lw_g (lw_at lw_m1 193 rfl) rfl
theorem q323 : (Jvm.Cond.soleField "CounterDesk$Text" "clauses") ∈ lw_all := lw_g (lw_at lw_m1 194 rfl) rfl
theorem q324 : (Jvm.Cond.superclass "CounterDesk$Text" "java/lang/Object") ∈ lw_all := lw_g (lw_at lw_m1 195 rfl) rfl
theorem q518 : (Jvm.Cond.instanceMethod ({ cls := "CounterDesk$Text", name := "tells", desc := "(ILCounterDesk$Asked;II)I" } : Jvm.MethodName)) ∈ lw_all := lw_g (lw_at lw_m2 149 rfl) rfl
theorem q519 : (Jvm.Cond.selects "CounterDesk$Text" ({ cls := "CounterDesk$Text", name := "tells", desc := "(ILCounterDesk$Asked;II)I" } : Jvm.MethodName) ({ cls := "CounterDesk$Text", name := "tells", desc := "(ILCounterDesk$Asked;II)I" } : Jvm.MethodName)) ∈ lw_all := lw_g (lw_at lw_m2 150 rfl) rfl
theorem q520 : (Jvm.Cond.code ({ cls := "CounterDesk$Text", name := "tells", desc := "(ILCounterDesk$Asked;II)I" } : Jvm.MethodName) prog_21_method_3_code (8 : Nat) (Option.some Jvm.ClassFile.FieldType.int)) ∈ lw_all := lw_g (lw_at lw_m2 151 rfl) rfl
theorem q521 : (Jvm.Cond.methodLink "CounterDesk$Text" (19 : Nat) ({ cls := "CounterDesk$Clause", name := "holds", desc := "(LCounterDesk$Asked;)Z" } : Jvm.MethodName)) ∈ lw_all := lw_g (lw_at lw_m2 152 rfl) rfl
theorem q565 : (Jvm.Cond.methodLink "CounterDesk$Text" (27 : Nat) ({ cls := "java/lang/Math", name := "min", desc := "(JJ)J" } : Jvm.MethodName)) ∈ lw_all := lw_g (lw_at lw_m2 196 rfl) rfl
theorem q568 : (Jvm.Cond.methodLink "CounterDesk$Text" (33 : Nat) ({ cls := "java/lang/Math", name := "max", desc := "(JJ)J" } : Jvm.MethodName)) ∈ lw_all := lw_g (lw_at lw_m2 199 rfl) rfl
theorem q588 : (Jvm.Cond.instanceMethod ({ cls := "CounterDesk$Text", name := "has", desc := "(ILCounterDesk$Asked;)Z" } : Jvm.MethodName)) ∈ lw_all := lw_g (lw_at lw_m2 219 rfl) rfl
theorem q589 : (Jvm.Cond.selects "CounterDesk$Text" ({ cls := "CounterDesk$Text", name := "has", desc := "(ILCounterDesk$Asked;)Z" } : Jvm.MethodName) ({ cls := "CounterDesk$Text", name := "has", desc := "(ILCounterDesk$Asked;)Z" } : Jvm.MethodName)) ∈ lw_all := lw_g (lw_at lw_m2 220 rfl) rfl
theorem q590 : (Jvm.Cond.code ({ cls := "CounterDesk$Text", name := "has", desc := "(ILCounterDesk$Asked;)Z" } : Jvm.MethodName) prog_21_method_2_code (4 : Nat) (Option.some Jvm.ClassFile.FieldType.boolean)) ∈ lw_all := lw_g (lw_at lw_m2 221 rfl) rfl
theorem q1108 : (Jvm.Cond.fieldLinkNest "CounterDesk$Text" (13 : Nat) "CounterDesk$Clause" "head" "I" "CounterDesk") ∈ lw_tbl := lw_at lw_m5 19 rfl
theorem q1112 : (Jvm.Cond.fieldLinkNest "CounterDesk$Text" (23 : Nat) "CounterDesk$Clause" "told" "J" "CounterDesk") ∈ lw_tbl := lw_at lw_m5 23 rfl
theorem q1241 : (Jvm.Cond.selects "CounterDesk$Text" ({ cls := "java/lang/Object", name := "getClass", desc := "()Ljava/lang/Class;" } : Jvm.MethodName) ({ cls := "java/lang/Object", name := "getClass", desc := "()Ljava/lang/Class;" } : Jvm.MethodName)) ∈ lw_all := lw_g (lw_at lw_m5 152 rfl) rfl
theorem q2321 : (Jvm.Cond.castable "CounterDesk$Text" "java/lang/Object") ∈ lw_tbl := lw_at lw_m10 32 rfl
theorem in_X5 : ∀ w ∈ wsX50, w ∈ lw_all := lw_in wsX50 [322] (by decide +kernel) (by decide +kernel)

/-! CounterDesk$Reader -/
set_option maxRecDepth 100000
def RX7 : String := "CounterDesk$Reader"
abbrev cX7_init : ByteArray := prog_16_method_1_code
def yX7_init : MethodName := ⟨RX7, "<init>", "(LCounterDesk;[Ljava/lang/String;)V"⟩
def dkwX7_init_0 : List UInt8 := [42, 43, 181, 0, 3, 42, 183, 0, 9, 42, 16, 50, 189, 0, 15, 181, 0, 17, 42, 44, 181, 0, 21, 177]
abbrev dktX7_init_0 : List UInt8 := dkwX7_init_0 ++ []
theorem dksX7_init_0 : cX7_init.data.toList.drop 0 = dktX7_init_0 := by decide +kernel
theorem dX7_init_0 : decode cX7_init 0 = .ok (.aload_n 0, 1) := dk_42 (dk_at dksX7_init_0 0 rfl rfl)
theorem dX7_init_1 : decode cX7_init 1 = .ok (.aload_n 1, 1) := dk_43 (dk_at dksX7_init_0 1 rfl rfl)
theorem dX7_init_2 : decode cX7_init 2 = .ok (.putfield 3, 3) := dk_181 0 3 (dk_at dksX7_init_0 2 rfl rfl)
theorem dX7_init_5 : decode cX7_init 5 = .ok (.aload_n 0, 1) := dk_42 (dk_at dksX7_init_0 5 rfl rfl)
theorem dX7_init_6 : decode cX7_init 6 = .ok (.invokespecial 9, 3) := dk_183 0 9 (dk_at dksX7_init_0 6 rfl rfl)
theorem dX7_init_9 : decode cX7_init 9 = .ok (.aload_n 0, 1) := dk_42 (dk_at dksX7_init_0 9 rfl rfl)
theorem dX7_init_10 : decode cX7_init 10 = .ok (.bipush 50, 2) := dk_16 50 (dk_at dksX7_init_0 10 rfl rfl)
theorem dX7_init_12 : decode cX7_init 12 = .ok (.anewarray 15, 3) := dk_189 0 15 (dk_at dksX7_init_0 12 rfl rfl)
theorem dX7_init_15 : decode cX7_init 15 = .ok (.putfield 17, 3) := dk_181 0 17 (dk_at dksX7_init_0 15 rfl rfl)
theorem dX7_init_18 : decode cX7_init 18 = .ok (.aload_n 0, 1) := dk_42 (dk_at dksX7_init_0 18 rfl rfl)
theorem dX7_init_19 : decode cX7_init 19 = .ok (.aload_n 2, 1) := dk_44 (dk_at dksX7_init_0 19 rfl rfl)
theorem dX7_init_20 : decode cX7_init 20 = .ok (.putfield 21, 3) := dk_181 0 21 (dk_at dksX7_init_0 20 rfl rfl)
theorem dX7_init_23 : decode cX7_init 23 = .ok (.return_, 1) := dk_177 (dk_at dksX7_init_0 23 rfl rfl)
abbrev cX7_readAll : ByteArray := prog_16_method_2_code
def yX7_readAll : MethodName := ⟨RX7, "readAll", "()I"⟩
def dkwX7_readAll_2 : List UInt8 := [180, 0, 46, 160, 0, 7, 4, 167, 0, 4, 3, 182, 0, 28, 27, 172]
abbrev dktX7_readAll_2 : List UInt8 := dkwX7_readAll_2 ++ []
def dkwX7_readAll_1 : List UInt8 := [182, 0, 32, 132, 1, 1, 42, 18, 36, 182, 0, 38, 154, 255, 227, 42, 42, 180, 0, 42, 42, 180, 0, 3]
abbrev dktX7_readAll_1 : List UInt8 := dkwX7_readAll_1 ++ dktX7_readAll_2
def dkwX7_readAll_0 : List UInt8 := [3, 60, 42, 182, 0, 25, 42, 27, 16, 12, 162, 0, 7, 4, 167, 0, 4, 3, 182, 0, 28, 42, 27]
abbrev dktX7_readAll_0 : List UInt8 := dkwX7_readAll_0 ++ dktX7_readAll_1
theorem dksX7_readAll_0 : cX7_readAll.data.toList.drop 0 = dktX7_readAll_0 := by decide +kernel
theorem dksX7_readAll_1 : cX7_readAll.data.toList.drop 23 = dktX7_readAll_1 := dk_seg dksX7_readAll_0 23 rfl rfl
theorem dksX7_readAll_2 : cX7_readAll.data.toList.drop 47 = dktX7_readAll_2 := dk_seg dksX7_readAll_1 24 rfl rfl
theorem dX7_readAll_0 : decode cX7_readAll 0 = .ok (.iconst 0, 1) := dk_3 (dk_at dksX7_readAll_0 0 rfl rfl)
theorem dX7_readAll_1 : decode cX7_readAll 1 = .ok (.istore_n 1, 1) := dk_60 (dk_at dksX7_readAll_0 1 rfl rfl)
theorem dX7_readAll_2 : decode cX7_readAll 2 = .ok (.aload_n 0, 1) := dk_42 (dk_at dksX7_readAll_0 2 rfl rfl)
theorem dX7_readAll_3 : decode cX7_readAll 3 = .ok (.invokevirtual 25, 3) := dk_182 0 25 (dk_at dksX7_readAll_0 3 rfl rfl)
theorem dX7_readAll_6 : decode cX7_readAll 6 = .ok (.aload_n 0, 1) := dk_42 (dk_at dksX7_readAll_0 6 rfl rfl)
theorem dX7_readAll_7 : decode cX7_readAll 7 = .ok (.iload_n 1, 1) := dk_27 (dk_at dksX7_readAll_0 7 rfl rfl)
theorem dX7_readAll_8 : decode cX7_readAll 8 = .ok (.bipush 12, 2) := dk_16 12 (dk_at dksX7_readAll_0 8 rfl rfl)
theorem dX7_readAll_10 : decode cX7_readAll 10 = .ok (.if_icmp .ge 7, 3) := dk_162 0 7 (dk_at dksX7_readAll_0 10 rfl rfl)
theorem dX7_readAll_13 : decode cX7_readAll 13 = .ok (.iconst 1, 1) := dk_4 (dk_at dksX7_readAll_0 13 rfl rfl)
theorem dX7_readAll_14 : decode cX7_readAll 14 = .ok (.goto 4, 3) := dk_167 0 4 (dk_at dksX7_readAll_0 14 rfl rfl)
theorem dX7_readAll_17 : decode cX7_readAll 17 = .ok (.iconst 0, 1) := dk_3 (dk_at dksX7_readAll_0 17 rfl rfl)
theorem dX7_readAll_18 : decode cX7_readAll 18 = .ok (.invokevirtual 28, 3) := dk_182 0 28 (dk_at dksX7_readAll_0 18 rfl rfl)
theorem dX7_readAll_21 : decode cX7_readAll 21 = .ok (.aload_n 0, 1) := dk_42 (dk_at dksX7_readAll_0 21 rfl rfl)
theorem dX7_readAll_22 : decode cX7_readAll 22 = .ok (.iload_n 1, 1) := dk_27 (dk_at dksX7_readAll_0 22 rfl rfl)
theorem dX7_readAll_23 : decode cX7_readAll 23 = .ok (.invokevirtual 32, 3) := dk_182 0 32 (dk_at dksX7_readAll_1 0 rfl rfl)
theorem dX7_readAll_26 : decode cX7_readAll 26 = .ok (.iinc 1 1, 3) := dk_132 1 1 (dk_at dksX7_readAll_1 3 rfl rfl)
theorem dX7_readAll_29 : decode cX7_readAll 29 = .ok (.aload_n 0, 1) := dk_42 (dk_at dksX7_readAll_1 6 rfl rfl)
theorem dX7_readAll_30 : decode cX7_readAll 30 = .ok (.ldc 36, 2) := dk_18 36 (dk_at dksX7_readAll_1 7 rfl rfl)
theorem dX7_readAll_32 : decode cX7_readAll 32 = .ok (.invokevirtual 38, 3) := dk_182 0 38 (dk_at dksX7_readAll_1 9 rfl rfl)
theorem dX7_readAll_35 : decode cX7_readAll 35 = .ok (.ifCond .ne (-29), 3) := dk_154 255 227 (dk_at dksX7_readAll_1 12 rfl rfl)
theorem dX7_readAll_38 : decode cX7_readAll 38 = .ok (.aload_n 0, 1) := dk_42 (dk_at dksX7_readAll_1 15 rfl rfl)
theorem dX7_readAll_39 : decode cX7_readAll 39 = .ok (.aload_n 0, 1) := dk_42 (dk_at dksX7_readAll_1 16 rfl rfl)
theorem dX7_readAll_40 : decode cX7_readAll 40 = .ok (.getfield 42, 3) := dk_180 0 42 (dk_at dksX7_readAll_1 17 rfl rfl)
theorem dX7_readAll_43 : decode cX7_readAll 43 = .ok (.aload_n 0, 1) := dk_42 (dk_at dksX7_readAll_1 20 rfl rfl)
theorem dX7_readAll_44 : decode cX7_readAll 44 = .ok (.getfield 3, 3) := dk_180 0 3 (dk_at dksX7_readAll_1 21 rfl rfl)
theorem dX7_readAll_47 : decode cX7_readAll 47 = .ok (.getfield 46, 3) := dk_180 0 46 (dk_at dksX7_readAll_2 0 rfl rfl)
theorem dX7_readAll_50 : decode cX7_readAll 50 = .ok (.if_icmp .ne 7, 3) := dk_160 0 7 (dk_at dksX7_readAll_2 3 rfl rfl)
theorem dX7_readAll_53 : decode cX7_readAll 53 = .ok (.iconst 1, 1) := dk_4 (dk_at dksX7_readAll_2 6 rfl rfl)
theorem dX7_readAll_54 : decode cX7_readAll 54 = .ok (.goto 4, 3) := dk_167 0 4 (dk_at dksX7_readAll_2 7 rfl rfl)
theorem dX7_readAll_57 : decode cX7_readAll 57 = .ok (.iconst 0, 1) := dk_3 (dk_at dksX7_readAll_2 10 rfl rfl)
theorem dX7_readAll_58 : decode cX7_readAll 58 = .ok (.invokevirtual 28, 3) := dk_182 0 28 (dk_at dksX7_readAll_2 11 rfl rfl)
theorem dX7_readAll_61 : decode cX7_readAll 61 = .ok (.iload_n 1, 1) := dk_27 (dk_at dksX7_readAll_2 14 rfl rfl)
theorem dX7_readAll_62 : decode cX7_readAll 62 = .ok (.ireturn, 1) := dk_172 (dk_at dksX7_readAll_2 15 rfl rfl)
abbrev cX7_next : ByteArray := prog_16_method_4_code
def yX7_next : MethodName := ⟨RX7, "next", "()V"⟩
def dkwX7_next_8 : List UInt8 := [181, 0, 49, 167, 255, 188, 177]
abbrev dktX7_next_8 : List UInt8 := dkwX7_next_8 ++ []
def dkwX7_next_7 : List UInt8 := [180, 0, 3, 180, 0, 52, 42, 180, 0, 49, 51, 184, 0, 60, 153, 0, 16, 42, 89, 180, 0, 49, 4, 96]
abbrev dktX7_next_7 : List UInt8 := dkwX7_next_7 ++ dktX7_next_8
def dkwX7_next_6 : List UInt8 := [180, 0, 3, 180, 0, 52, 42, 180, 0, 49, 51, 184, 0, 56, 154, 0, 25, 28, 153, 0, 34, 42]
abbrev dktX7_next_6 : List UInt8 := dkwX7_next_6 ++ dktX7_next_7
def dkwX7_next_5 : List UInt8 := [181, 0, 49, 42, 180, 0, 49, 42, 180, 0, 3, 180, 0, 46, 162, 0, 60, 27, 153, 0, 21, 42]
abbrev dktX7_next_5 : List UInt8 := dkwX7_next_5 ++ dktX7_next_6
def dkwX7_next_4 : List UInt8 := [180, 0, 3, 180, 0, 52, 42, 180, 0, 49, 51, 184, 0, 60, 61, 42, 89, 180, 0, 49, 4, 96]
abbrev dktX7_next_4 : List UInt8 := dkwX7_next_4 ++ dktX7_next_5
def dkwX7_next_3 : List UInt8 := [180, 0, 46, 160, 0, 4, 177, 42, 180, 0, 3, 180, 0, 52, 42, 180, 0, 49, 51, 184, 0, 56, 60, 42]
abbrev dktX7_next_3 : List UInt8 := dkwX7_next_3 ++ dktX7_next_4
def dkwX7_next_2 : List UInt8 := [181, 0, 42, 167, 255, 215, 42, 42, 180, 0, 42, 181, 0, 49, 42, 180, 0, 49, 42, 180, 0, 3]
abbrev dktX7_next_2 : List UInt8 := dkwX7_next_2 ++ dktX7_next_3
def dkwX7_next_1 : List UInt8 := [180, 0, 3, 180, 0, 52, 42, 180, 0, 42, 51, 16, 32, 160, 0, 16, 42, 89, 180, 0, 42, 4, 96]
abbrev dktX7_next_1 : List UInt8 := dkwX7_next_1 ++ dktX7_next_2
def dkwX7_next_0 : List UInt8 := [42, 42, 180, 0, 49, 181, 0, 42, 42, 180, 0, 42, 42, 180, 0, 3, 180, 0, 46, 162, 0, 33, 42]
abbrev dktX7_next_0 : List UInt8 := dkwX7_next_0 ++ dktX7_next_1
theorem dksX7_next_0 : cX7_next.data.toList.drop 0 = dktX7_next_0 := by decide +kernel
theorem dksX7_next_1 : cX7_next.data.toList.drop 23 = dktX7_next_1 := dk_seg dksX7_next_0 23 rfl rfl
theorem dksX7_next_2 : cX7_next.data.toList.drop 46 = dktX7_next_2 := dk_seg dksX7_next_1 23 rfl rfl
theorem dksX7_next_3 : cX7_next.data.toList.drop 68 = dktX7_next_3 := dk_seg dksX7_next_2 22 rfl rfl
theorem dksX7_next_4 : cX7_next.data.toList.drop 92 = dktX7_next_4 := dk_seg dksX7_next_3 24 rfl rfl
theorem dksX7_next_5 : cX7_next.data.toList.drop 114 = dktX7_next_5 := dk_seg dksX7_next_4 22 rfl rfl
theorem dksX7_next_6 : cX7_next.data.toList.drop 136 = dktX7_next_6 := dk_seg dksX7_next_5 22 rfl rfl
theorem dksX7_next_7 : cX7_next.data.toList.drop 158 = dktX7_next_7 := dk_seg dksX7_next_6 22 rfl rfl
theorem dksX7_next_8 : cX7_next.data.toList.drop 182 = dktX7_next_8 := dk_seg dksX7_next_7 24 rfl rfl
theorem dX7_next_0 : decode cX7_next 0 = .ok (.aload_n 0, 1) := dk_42 (dk_at dksX7_next_0 0 rfl rfl)
theorem dX7_next_1 : decode cX7_next 1 = .ok (.aload_n 0, 1) := dk_42 (dk_at dksX7_next_0 1 rfl rfl)
theorem dX7_next_2 : decode cX7_next 2 = .ok (.getfield 49, 3) := dk_180 0 49 (dk_at dksX7_next_0 2 rfl rfl)
theorem dX7_next_5 : decode cX7_next 5 = .ok (.putfield 42, 3) := dk_181 0 42 (dk_at dksX7_next_0 5 rfl rfl)
theorem dX7_next_8 : decode cX7_next 8 = .ok (.aload_n 0, 1) := dk_42 (dk_at dksX7_next_0 8 rfl rfl)
theorem dX7_next_9 : decode cX7_next 9 = .ok (.getfield 42, 3) := dk_180 0 42 (dk_at dksX7_next_0 9 rfl rfl)
theorem dX7_next_12 : decode cX7_next 12 = .ok (.aload_n 0, 1) := dk_42 (dk_at dksX7_next_0 12 rfl rfl)
theorem dX7_next_13 : decode cX7_next 13 = .ok (.getfield 3, 3) := dk_180 0 3 (dk_at dksX7_next_0 13 rfl rfl)
theorem dX7_next_16 : decode cX7_next 16 = .ok (.getfield 46, 3) := dk_180 0 46 (dk_at dksX7_next_0 16 rfl rfl)
theorem dX7_next_19 : decode cX7_next 19 = .ok (.if_icmp .ge 33, 3) := dk_162 0 33 (dk_at dksX7_next_0 19 rfl rfl)
theorem dX7_next_22 : decode cX7_next 22 = .ok (.aload_n 0, 1) := dk_42 (dk_at dksX7_next_0 22 rfl rfl)
theorem dX7_next_23 : decode cX7_next 23 = .ok (.getfield 3, 3) := dk_180 0 3 (dk_at dksX7_next_1 0 rfl rfl)
theorem dX7_next_26 : decode cX7_next 26 = .ok (.getfield 52, 3) := dk_180 0 52 (dk_at dksX7_next_1 3 rfl rfl)
theorem dX7_next_29 : decode cX7_next 29 = .ok (.aload_n 0, 1) := dk_42 (dk_at dksX7_next_1 6 rfl rfl)
theorem dX7_next_30 : decode cX7_next 30 = .ok (.getfield 42, 3) := dk_180 0 42 (dk_at dksX7_next_1 7 rfl rfl)
theorem dX7_next_33 : decode cX7_next 33 = .ok (.baload, 1) := dk_51 (dk_at dksX7_next_1 10 rfl rfl)
theorem dX7_next_34 : decode cX7_next 34 = .ok (.bipush 32, 2) := dk_16 32 (dk_at dksX7_next_1 11 rfl rfl)
theorem dX7_next_36 : decode cX7_next 36 = .ok (.if_icmp .ne 16, 3) := dk_160 0 16 (dk_at dksX7_next_1 13 rfl rfl)
theorem dX7_next_39 : decode cX7_next 39 = .ok (.aload_n 0, 1) := dk_42 (dk_at dksX7_next_1 16 rfl rfl)
theorem dX7_next_40 : decode cX7_next 40 = .ok (.dup, 1) := dk_89 (dk_at dksX7_next_1 17 rfl rfl)
theorem dX7_next_41 : decode cX7_next 41 = .ok (.getfield 42, 3) := dk_180 0 42 (dk_at dksX7_next_1 18 rfl rfl)
theorem dX7_next_44 : decode cX7_next 44 = .ok (.iconst 1, 1) := dk_4 (dk_at dksX7_next_1 21 rfl rfl)
theorem dX7_next_45 : decode cX7_next 45 = .ok (.iadd, 1) := dk_96 (dk_at dksX7_next_1 22 rfl rfl)
theorem dX7_next_46 : decode cX7_next 46 = .ok (.putfield 42, 3) := dk_181 0 42 (dk_at dksX7_next_2 0 rfl rfl)
theorem dX7_next_49 : decode cX7_next 49 = .ok (.goto (-41), 3) := dk_167 255 215 (dk_at dksX7_next_2 3 rfl rfl)
theorem dX7_next_52 : decode cX7_next 52 = .ok (.aload_n 0, 1) := dk_42 (dk_at dksX7_next_2 6 rfl rfl)
theorem dX7_next_53 : decode cX7_next 53 = .ok (.aload_n 0, 1) := dk_42 (dk_at dksX7_next_2 7 rfl rfl)
theorem dX7_next_54 : decode cX7_next 54 = .ok (.getfield 42, 3) := dk_180 0 42 (dk_at dksX7_next_2 8 rfl rfl)
theorem dX7_next_57 : decode cX7_next 57 = .ok (.putfield 49, 3) := dk_181 0 49 (dk_at dksX7_next_2 11 rfl rfl)
theorem dX7_next_60 : decode cX7_next 60 = .ok (.aload_n 0, 1) := dk_42 (dk_at dksX7_next_2 14 rfl rfl)
theorem dX7_next_61 : decode cX7_next 61 = .ok (.getfield 49, 3) := dk_180 0 49 (dk_at dksX7_next_2 15 rfl rfl)
theorem dX7_next_64 : decode cX7_next 64 = .ok (.aload_n 0, 1) := dk_42 (dk_at dksX7_next_2 18 rfl rfl)
theorem dX7_next_65 : decode cX7_next 65 = .ok (.getfield 3, 3) := dk_180 0 3 (dk_at dksX7_next_2 19 rfl rfl)
theorem dX7_next_68 : decode cX7_next 68 = .ok (.getfield 46, 3) := dk_180 0 46 (dk_at dksX7_next_3 0 rfl rfl)
theorem dX7_next_71 : decode cX7_next 71 = .ok (.if_icmp .ne 4, 3) := dk_160 0 4 (dk_at dksX7_next_3 3 rfl rfl)
theorem dX7_next_74 : decode cX7_next 74 = .ok (.return_, 1) := dk_177 (dk_at dksX7_next_3 6 rfl rfl)
theorem dX7_next_75 : decode cX7_next 75 = .ok (.aload_n 0, 1) := dk_42 (dk_at dksX7_next_3 7 rfl rfl)
theorem dX7_next_76 : decode cX7_next 76 = .ok (.getfield 3, 3) := dk_180 0 3 (dk_at dksX7_next_3 8 rfl rfl)
theorem dX7_next_79 : decode cX7_next 79 = .ok (.getfield 52, 3) := dk_180 0 52 (dk_at dksX7_next_3 11 rfl rfl)
theorem dX7_next_82 : decode cX7_next 82 = .ok (.aload_n 0, 1) := dk_42 (dk_at dksX7_next_3 14 rfl rfl)
theorem dX7_next_83 : decode cX7_next 83 = .ok (.getfield 49, 3) := dk_180 0 49 (dk_at dksX7_next_3 15 rfl rfl)
theorem dX7_next_86 : decode cX7_next 86 = .ok (.baload, 1) := dk_51 (dk_at dksX7_next_3 18 rfl rfl)
theorem dX7_next_87 : decode cX7_next 87 = .ok (.invokestatic 56, 3) := dk_184 0 56 (dk_at dksX7_next_3 19 rfl rfl)
theorem dX7_next_90 : decode cX7_next 90 = .ok (.istore_n 1, 1) := dk_60 (dk_at dksX7_next_3 22 rfl rfl)
theorem dX7_next_91 : decode cX7_next 91 = .ok (.aload_n 0, 1) := dk_42 (dk_at dksX7_next_3 23 rfl rfl)
theorem dX7_next_92 : decode cX7_next 92 = .ok (.getfield 3, 3) := dk_180 0 3 (dk_at dksX7_next_4 0 rfl rfl)
theorem dX7_next_95 : decode cX7_next 95 = .ok (.getfield 52, 3) := dk_180 0 52 (dk_at dksX7_next_4 3 rfl rfl)
theorem dX7_next_98 : decode cX7_next 98 = .ok (.aload_n 0, 1) := dk_42 (dk_at dksX7_next_4 6 rfl rfl)
theorem dX7_next_99 : decode cX7_next 99 = .ok (.getfield 49, 3) := dk_180 0 49 (dk_at dksX7_next_4 7 rfl rfl)
theorem dX7_next_102 : decode cX7_next 102 = .ok (.baload, 1) := dk_51 (dk_at dksX7_next_4 10 rfl rfl)
theorem dX7_next_103 : decode cX7_next 103 = .ok (.invokestatic 60, 3) := dk_184 0 60 (dk_at dksX7_next_4 11 rfl rfl)
theorem dX7_next_106 : decode cX7_next 106 = .ok (.istore_n 2, 1) := dk_61 (dk_at dksX7_next_4 14 rfl rfl)
theorem dX7_next_107 : decode cX7_next 107 = .ok (.aload_n 0, 1) := dk_42 (dk_at dksX7_next_4 15 rfl rfl)
theorem dX7_next_108 : decode cX7_next 108 = .ok (.dup, 1) := dk_89 (dk_at dksX7_next_4 16 rfl rfl)
theorem dX7_next_109 : decode cX7_next 109 = .ok (.getfield 49, 3) := dk_180 0 49 (dk_at dksX7_next_4 17 rfl rfl)
theorem dX7_next_112 : decode cX7_next 112 = .ok (.iconst 1, 1) := dk_4 (dk_at dksX7_next_4 20 rfl rfl)
theorem dX7_next_113 : decode cX7_next 113 = .ok (.iadd, 1) := dk_96 (dk_at dksX7_next_4 21 rfl rfl)
theorem dX7_next_114 : decode cX7_next 114 = .ok (.putfield 49, 3) := dk_181 0 49 (dk_at dksX7_next_5 0 rfl rfl)
theorem dX7_next_117 : decode cX7_next 117 = .ok (.aload_n 0, 1) := dk_42 (dk_at dksX7_next_5 3 rfl rfl)
theorem dX7_next_118 : decode cX7_next 118 = .ok (.getfield 49, 3) := dk_180 0 49 (dk_at dksX7_next_5 4 rfl rfl)
theorem dX7_next_121 : decode cX7_next 121 = .ok (.aload_n 0, 1) := dk_42 (dk_at dksX7_next_5 7 rfl rfl)
theorem dX7_next_122 : decode cX7_next 122 = .ok (.getfield 3, 3) := dk_180 0 3 (dk_at dksX7_next_5 8 rfl rfl)
theorem dX7_next_125 : decode cX7_next 125 = .ok (.getfield 46, 3) := dk_180 0 46 (dk_at dksX7_next_5 11 rfl rfl)
theorem dX7_next_128 : decode cX7_next 128 = .ok (.if_icmp .ge 60, 3) := dk_162 0 60 (dk_at dksX7_next_5 14 rfl rfl)
theorem dX7_next_131 : decode cX7_next 131 = .ok (.iload_n 1, 1) := dk_27 (dk_at dksX7_next_5 17 rfl rfl)
theorem dX7_next_132 : decode cX7_next 132 = .ok (.ifCond .eq 21, 3) := dk_153 0 21 (dk_at dksX7_next_5 18 rfl rfl)
theorem dX7_next_135 : decode cX7_next 135 = .ok (.aload_n 0, 1) := dk_42 (dk_at dksX7_next_5 21 rfl rfl)
theorem dX7_next_136 : decode cX7_next 136 = .ok (.getfield 3, 3) := dk_180 0 3 (dk_at dksX7_next_6 0 rfl rfl)
theorem dX7_next_139 : decode cX7_next 139 = .ok (.getfield 52, 3) := dk_180 0 52 (dk_at dksX7_next_6 3 rfl rfl)
theorem dX7_next_142 : decode cX7_next 142 = .ok (.aload_n 0, 1) := dk_42 (dk_at dksX7_next_6 6 rfl rfl)
theorem dX7_next_143 : decode cX7_next 143 = .ok (.getfield 49, 3) := dk_180 0 49 (dk_at dksX7_next_6 7 rfl rfl)
theorem dX7_next_146 : decode cX7_next 146 = .ok (.baload, 1) := dk_51 (dk_at dksX7_next_6 10 rfl rfl)
theorem dX7_next_147 : decode cX7_next 147 = .ok (.invokestatic 56, 3) := dk_184 0 56 (dk_at dksX7_next_6 11 rfl rfl)
theorem dX7_next_150 : decode cX7_next 150 = .ok (.ifCond .ne 25, 3) := dk_154 0 25 (dk_at dksX7_next_6 14 rfl rfl)
theorem dX7_next_153 : decode cX7_next 153 = .ok (.iload_n 2, 1) := dk_28 (dk_at dksX7_next_6 17 rfl rfl)
theorem dX7_next_154 : decode cX7_next 154 = .ok (.ifCond .eq 34, 3) := dk_153 0 34 (dk_at dksX7_next_6 18 rfl rfl)
theorem dX7_next_157 : decode cX7_next 157 = .ok (.aload_n 0, 1) := dk_42 (dk_at dksX7_next_6 21 rfl rfl)
theorem dX7_next_158 : decode cX7_next 158 = .ok (.getfield 3, 3) := dk_180 0 3 (dk_at dksX7_next_7 0 rfl rfl)
theorem dX7_next_161 : decode cX7_next 161 = .ok (.getfield 52, 3) := dk_180 0 52 (dk_at dksX7_next_7 3 rfl rfl)
theorem dX7_next_164 : decode cX7_next 164 = .ok (.aload_n 0, 1) := dk_42 (dk_at dksX7_next_7 6 rfl rfl)
theorem dX7_next_165 : decode cX7_next 165 = .ok (.getfield 49, 3) := dk_180 0 49 (dk_at dksX7_next_7 7 rfl rfl)
theorem dX7_next_168 : decode cX7_next 168 = .ok (.baload, 1) := dk_51 (dk_at dksX7_next_7 10 rfl rfl)
theorem dX7_next_169 : decode cX7_next 169 = .ok (.invokestatic 60, 3) := dk_184 0 60 (dk_at dksX7_next_7 11 rfl rfl)
theorem dX7_next_172 : decode cX7_next 172 = .ok (.ifCond .eq 16, 3) := dk_153 0 16 (dk_at dksX7_next_7 14 rfl rfl)
theorem dX7_next_175 : decode cX7_next 175 = .ok (.aload_n 0, 1) := dk_42 (dk_at dksX7_next_7 17 rfl rfl)
theorem dX7_next_176 : decode cX7_next 176 = .ok (.dup, 1) := dk_89 (dk_at dksX7_next_7 18 rfl rfl)
theorem dX7_next_177 : decode cX7_next 177 = .ok (.getfield 49, 3) := dk_180 0 49 (dk_at dksX7_next_7 19 rfl rfl)
theorem dX7_next_180 : decode cX7_next 180 = .ok (.iconst 1, 1) := dk_4 (dk_at dksX7_next_7 22 rfl rfl)
theorem dX7_next_181 : decode cX7_next 181 = .ok (.iadd, 1) := dk_96 (dk_at dksX7_next_7 23 rfl rfl)
theorem dX7_next_182 : decode cX7_next 182 = .ok (.putfield 49, 3) := dk_181 0 49 (dk_at dksX7_next_8 0 rfl rfl)
theorem dX7_next_185 : decode cX7_next 185 = .ok (.goto (-68), 3) := dk_167 255 188 (dk_at dksX7_next_8 3 rfl rfl)
theorem dX7_next_188 : decode cX7_next 188 = .ok (.return_, 1) := dk_177 (dk_at dksX7_next_8 6 rfl rfl)
abbrev cX7_must : ByteArray := prog_16_method_8_code
def yX7_must : MethodName := ⟨RX7, "must", "(Z)V"⟩
def dkwX7_must_0 : List UInt8 := [27, 154, 0, 15, 187, 0, 76, 89, 42, 180, 0, 42, 183, 0, 78, 191, 177]
abbrev dktX7_must_0 : List UInt8 := dkwX7_must_0 ++ []
theorem dksX7_must_0 : cX7_must.data.toList.drop 0 = dktX7_must_0 := by decide +kernel
theorem dX7_must_0 : decode cX7_must 0 = .ok (.iload_n 1, 1) := dk_27 (dk_at dksX7_must_0 0 rfl rfl)
theorem dX7_must_1 : decode cX7_must 1 = .ok (.ifCond .ne 15, 3) := dk_154 0 15 (dk_at dksX7_must_0 1 rfl rfl)
theorem dX7_must_4 : decode cX7_must 4 = .ok (.new 76, 3) := dk_187 0 76 (dk_at dksX7_must_0 4 rfl rfl)
theorem dX7_must_7 : decode cX7_must 7 = .ok (.dup, 1) := dk_89 (dk_at dksX7_must_0 7 rfl rfl)
theorem dX7_must_8 : decode cX7_must 8 = .ok (.aload_n 0, 1) := dk_42 (dk_at dksX7_must_0 8 rfl rfl)
theorem dX7_must_9 : decode cX7_must 9 = .ok (.getfield 42, 3) := dk_180 0 42 (dk_at dksX7_must_0 9 rfl rfl)
theorem dX7_must_12 : decode cX7_must 12 = .ok (.invokespecial 78, 3) := dk_183 0 78 (dk_at dksX7_must_0 12 rfl rfl)
theorem dX7_must_15 : decode cX7_must 15 = .ok (.athrow, 1) := dk_191 (dk_at dksX7_must_0 15 rfl rfl)
theorem dX7_must_16 : decode cX7_must 16 = .ok (.return_, 1) := dk_177 (dk_at dksX7_must_0 16 rfl rfl)
abbrev cX7_which : ByteArray := prog_16_method_6_code
def yX7_which : MethodName := ⟨RX7, "which", "([Ljava/lang/String;)I"⟩
def dkwX7_which_1 : List UInt8 := [167, 255, 235, 2, 172]
abbrev dktX7_which_1 : List UInt8 := dkwX7_which_1 ++ []
def dkwX7_which_0 : List UInt8 := [3, 61, 28, 43, 190, 162, 0, 21, 42, 43, 28, 50, 182, 0, 73, 153, 0, 5, 28, 172, 132, 2, 1]
abbrev dktX7_which_0 : List UInt8 := dkwX7_which_0 ++ dktX7_which_1
theorem dksX7_which_0 : cX7_which.data.toList.drop 0 = dktX7_which_0 := by decide +kernel
theorem dksX7_which_1 : cX7_which.data.toList.drop 23 = dktX7_which_1 := dk_seg dksX7_which_0 23 rfl rfl
theorem dX7_which_0 : decode cX7_which 0 = .ok (.iconst 0, 1) := dk_3 (dk_at dksX7_which_0 0 rfl rfl)
theorem dX7_which_1 : decode cX7_which 1 = .ok (.istore_n 2, 1) := dk_61 (dk_at dksX7_which_0 1 rfl rfl)
theorem dX7_which_2 : decode cX7_which 2 = .ok (.iload_n 2, 1) := dk_28 (dk_at dksX7_which_0 2 rfl rfl)
theorem dX7_which_3 : decode cX7_which 3 = .ok (.aload_n 1, 1) := dk_43 (dk_at dksX7_which_0 3 rfl rfl)
theorem dX7_which_4 : decode cX7_which 4 = .ok (.arraylength, 1) := dk_190 (dk_at dksX7_which_0 4 rfl rfl)
theorem dX7_which_5 : decode cX7_which 5 = .ok (.if_icmp .ge 21, 3) := dk_162 0 21 (dk_at dksX7_which_0 5 rfl rfl)
theorem dX7_which_8 : decode cX7_which 8 = .ok (.aload_n 0, 1) := dk_42 (dk_at dksX7_which_0 8 rfl rfl)
theorem dX7_which_9 : decode cX7_which 9 = .ok (.aload_n 1, 1) := dk_43 (dk_at dksX7_which_0 9 rfl rfl)
theorem dX7_which_10 : decode cX7_which 10 = .ok (.iload_n 2, 1) := dk_28 (dk_at dksX7_which_0 10 rfl rfl)
theorem dX7_which_11 : decode cX7_which 11 = .ok (.aaload, 1) := dk_50 (dk_at dksX7_which_0 11 rfl rfl)
theorem dX7_which_12 : decode cX7_which 12 = .ok (.invokevirtual 73, 3) := dk_182 0 73 (dk_at dksX7_which_0 12 rfl rfl)
theorem dX7_which_15 : decode cX7_which 15 = .ok (.ifCond .eq 5, 3) := dk_153 0 5 (dk_at dksX7_which_0 15 rfl rfl)
theorem dX7_which_18 : decode cX7_which 18 = .ok (.iload_n 2, 1) := dk_28 (dk_at dksX7_which_0 18 rfl rfl)
theorem dX7_which_19 : decode cX7_which 19 = .ok (.ireturn, 1) := dk_172 (dk_at dksX7_which_0 19 rfl rfl)
theorem dX7_which_20 : decode cX7_which 20 = .ok (.iinc 2 1, 3) := dk_132 2 1 (dk_at dksX7_which_0 20 rfl rfl)
theorem dX7_which_23 : decode cX7_which 23 = .ok (.goto (-21), 3) := dk_167 255 235 (dk_at dksX7_which_1 0 rfl rfl)
theorem dX7_which_26 : decode cX7_which 26 = .ok (.iconst (-1), 1) := dk_2 (dk_at dksX7_which_1 3 rfl rfl)
theorem dX7_which_27 : decode cX7_which 27 = .ok (.ireturn, 1) := dk_172 (dk_at dksX7_which_1 4 rfl rfl)
abbrev cX7_isWord : ByteArray := prog_16_method_5_code
def yX7_isWord : MethodName := ⟨RX7, "isWord", "(Ljava/lang/String;)Z"⟩
def dkwX7_isWord_2 : List UInt8 := [182, 0, 69, 159, 0, 5, 3, 172, 132, 2, 1, 167, 255, 221, 4, 172]
abbrev dktX7_isWord_2 : List UInt8 := dkwX7_isWord_2 ++ []
def dkwX7_isWord_1 : List UInt8 := [182, 0, 63, 162, 0, 33, 42, 180, 0, 3, 180, 0, 52, 42, 180, 0, 42, 28, 96, 51, 43, 28]
abbrev dktX7_isWord_1 : List UInt8 := dkwX7_isWord_1 ++ dktX7_isWord_2
def dkwX7_isWord_0 : List UInt8 := [42, 180, 0, 49, 42, 180, 0, 42, 100, 43, 182, 0, 63, 159, 0, 5, 3, 172, 3, 61, 28, 43]
abbrev dktX7_isWord_0 : List UInt8 := dkwX7_isWord_0 ++ dktX7_isWord_1
theorem dksX7_isWord_0 : cX7_isWord.data.toList.drop 0 = dktX7_isWord_0 := by decide +kernel
theorem dksX7_isWord_1 : cX7_isWord.data.toList.drop 22 = dktX7_isWord_1 := dk_seg dksX7_isWord_0 22 rfl rfl
theorem dksX7_isWord_2 : cX7_isWord.data.toList.drop 44 = dktX7_isWord_2 := dk_seg dksX7_isWord_1 22 rfl rfl
theorem dX7_isWord_0 : decode cX7_isWord 0 = .ok (.aload_n 0, 1) := dk_42 (dk_at dksX7_isWord_0 0 rfl rfl)
theorem dX7_isWord_1 : decode cX7_isWord 1 = .ok (.getfield 49, 3) := dk_180 0 49 (dk_at dksX7_isWord_0 1 rfl rfl)
theorem dX7_isWord_4 : decode cX7_isWord 4 = .ok (.aload_n 0, 1) := dk_42 (dk_at dksX7_isWord_0 4 rfl rfl)
theorem dX7_isWord_5 : decode cX7_isWord 5 = .ok (.getfield 42, 3) := dk_180 0 42 (dk_at dksX7_isWord_0 5 rfl rfl)
theorem dX7_isWord_8 : decode cX7_isWord 8 = .ok (.isub, 1) := dk_100 (dk_at dksX7_isWord_0 8 rfl rfl)
theorem dX7_isWord_9 : decode cX7_isWord 9 = .ok (.aload_n 1, 1) := dk_43 (dk_at dksX7_isWord_0 9 rfl rfl)
theorem dX7_isWord_10 : decode cX7_isWord 10 = .ok (.invokevirtual 63, 3) := dk_182 0 63 (dk_at dksX7_isWord_0 10 rfl rfl)
theorem dX7_isWord_13 : decode cX7_isWord 13 = .ok (.if_icmp .eq 5, 3) := dk_159 0 5 (dk_at dksX7_isWord_0 13 rfl rfl)
theorem dX7_isWord_16 : decode cX7_isWord 16 = .ok (.iconst 0, 1) := dk_3 (dk_at dksX7_isWord_0 16 rfl rfl)
theorem dX7_isWord_17 : decode cX7_isWord 17 = .ok (.ireturn, 1) := dk_172 (dk_at dksX7_isWord_0 17 rfl rfl)
theorem dX7_isWord_18 : decode cX7_isWord 18 = .ok (.iconst 0, 1) := dk_3 (dk_at dksX7_isWord_0 18 rfl rfl)
theorem dX7_isWord_19 : decode cX7_isWord 19 = .ok (.istore_n 2, 1) := dk_61 (dk_at dksX7_isWord_0 19 rfl rfl)
theorem dX7_isWord_20 : decode cX7_isWord 20 = .ok (.iload_n 2, 1) := dk_28 (dk_at dksX7_isWord_0 20 rfl rfl)
theorem dX7_isWord_21 : decode cX7_isWord 21 = .ok (.aload_n 1, 1) := dk_43 (dk_at dksX7_isWord_0 21 rfl rfl)
theorem dX7_isWord_22 : decode cX7_isWord 22 = .ok (.invokevirtual 63, 3) := dk_182 0 63 (dk_at dksX7_isWord_1 0 rfl rfl)
theorem dX7_isWord_25 : decode cX7_isWord 25 = .ok (.if_icmp .ge 33, 3) := dk_162 0 33 (dk_at dksX7_isWord_1 3 rfl rfl)
theorem dX7_isWord_28 : decode cX7_isWord 28 = .ok (.aload_n 0, 1) := dk_42 (dk_at dksX7_isWord_1 6 rfl rfl)
theorem dX7_isWord_29 : decode cX7_isWord 29 = .ok (.getfield 3, 3) := dk_180 0 3 (dk_at dksX7_isWord_1 7 rfl rfl)
theorem dX7_isWord_32 : decode cX7_isWord 32 = .ok (.getfield 52, 3) := dk_180 0 52 (dk_at dksX7_isWord_1 10 rfl rfl)
theorem dX7_isWord_35 : decode cX7_isWord 35 = .ok (.aload_n 0, 1) := dk_42 (dk_at dksX7_isWord_1 13 rfl rfl)
theorem dX7_isWord_36 : decode cX7_isWord 36 = .ok (.getfield 42, 3) := dk_180 0 42 (dk_at dksX7_isWord_1 14 rfl rfl)
theorem dX7_isWord_39 : decode cX7_isWord 39 = .ok (.iload_n 2, 1) := dk_28 (dk_at dksX7_isWord_1 17 rfl rfl)
theorem dX7_isWord_40 : decode cX7_isWord 40 = .ok (.iadd, 1) := dk_96 (dk_at dksX7_isWord_1 18 rfl rfl)
theorem dX7_isWord_41 : decode cX7_isWord 41 = .ok (.baload, 1) := dk_51 (dk_at dksX7_isWord_1 19 rfl rfl)
theorem dX7_isWord_42 : decode cX7_isWord 42 = .ok (.aload_n 1, 1) := dk_43 (dk_at dksX7_isWord_1 20 rfl rfl)
theorem dX7_isWord_43 : decode cX7_isWord 43 = .ok (.iload_n 2, 1) := dk_28 (dk_at dksX7_isWord_1 21 rfl rfl)
theorem dX7_isWord_44 : decode cX7_isWord 44 = .ok (.invokevirtual 69, 3) := dk_182 0 69 (dk_at dksX7_isWord_2 0 rfl rfl)
theorem dX7_isWord_47 : decode cX7_isWord 47 = .ok (.if_icmp .eq 5, 3) := dk_159 0 5 (dk_at dksX7_isWord_2 3 rfl rfl)
theorem dX7_isWord_50 : decode cX7_isWord 50 = .ok (.iconst 0, 1) := dk_3 (dk_at dksX7_isWord_2 6 rfl rfl)
theorem dX7_isWord_51 : decode cX7_isWord 51 = .ok (.ireturn, 1) := dk_172 (dk_at dksX7_isWord_2 7 rfl rfl)
theorem dX7_isWord_52 : decode cX7_isWord 52 = .ok (.iinc 2 1, 3) := dk_132 2 1 (dk_at dksX7_isWord_2 8 rfl rfl)
theorem dX7_isWord_55 : decode cX7_isWord 55 = .ok (.goto (-35), 3) := dk_167 255 221 (dk_at dksX7_isWord_2 11 rfl rfl)
theorem dX7_isWord_58 : decode cX7_isWord 58 = .ok (.iconst 1, 1) := dk_4 (dk_at dksX7_isWord_2 14 rfl rfl)
theorem dX7_isWord_59 : decode cX7_isWord 59 = .ok (.ireturn, 1) := dk_172 (dk_at dksX7_isWord_2 15 rfl rfl)
abbrev cX7_sum : ByteArray := prog_16_method_18_code
def yX7_sum : MethodName := ⟨RX7, "sum", "()LCounterDesk$Sum;"⟩
def dkwX7_sum_2 : List UInt8 := [182, 0, 154, 183, 0, 163, 76, 167, 255, 207, 43, 176]
abbrev dktX7_sum_2 : List UInt8 := dkwX7_sum_2 ++ []
def dkwX7_sum_1 : List UInt8 := [180, 0, 3, 180, 0, 52, 42, 180, 0, 42, 51, 61, 42, 182, 0, 25, 187, 0, 161, 89, 43, 28, 42]
abbrev dktX7_sum_1 : List UInt8 := dkwX7_sum_1 ++ dktX7_sum_2
def dkwX7_sum_0 : List UInt8 := [42, 182, 0, 154, 76, 42, 18, 157, 182, 0, 73, 154, 0, 12, 42, 18, 159, 182, 0, 73, 153, 0, 37, 42]
abbrev dktX7_sum_0 : List UInt8 := dkwX7_sum_0 ++ dktX7_sum_1
theorem dksX7_sum_0 : cX7_sum.data.toList.drop 0 = dktX7_sum_0 := by decide +kernel
theorem dksX7_sum_1 : cX7_sum.data.toList.drop 24 = dktX7_sum_1 := dk_seg dksX7_sum_0 24 rfl rfl
theorem dksX7_sum_2 : cX7_sum.data.toList.drop 47 = dktX7_sum_2 := dk_seg dksX7_sum_1 23 rfl rfl
theorem dX7_sum_0 : decode cX7_sum 0 = .ok (.aload_n 0, 1) := dk_42 (dk_at dksX7_sum_0 0 rfl rfl)
theorem dX7_sum_1 : decode cX7_sum 1 = .ok (.invokevirtual 154, 3) := dk_182 0 154 (dk_at dksX7_sum_0 1 rfl rfl)
theorem dX7_sum_4 : decode cX7_sum 4 = .ok (.astore_n 1, 1) := dk_76 (dk_at dksX7_sum_0 4 rfl rfl)
theorem dX7_sum_5 : decode cX7_sum 5 = .ok (.aload_n 0, 1) := dk_42 (dk_at dksX7_sum_0 5 rfl rfl)
theorem dX7_sum_6 : decode cX7_sum 6 = .ok (.ldc 157, 2) := dk_18 157 (dk_at dksX7_sum_0 6 rfl rfl)
theorem dX7_sum_8 : decode cX7_sum 8 = .ok (.invokevirtual 73, 3) := dk_182 0 73 (dk_at dksX7_sum_0 8 rfl rfl)
theorem dX7_sum_11 : decode cX7_sum 11 = .ok (.ifCond .ne 12, 3) := dk_154 0 12 (dk_at dksX7_sum_0 11 rfl rfl)
theorem dX7_sum_14 : decode cX7_sum 14 = .ok (.aload_n 0, 1) := dk_42 (dk_at dksX7_sum_0 14 rfl rfl)
theorem dX7_sum_15 : decode cX7_sum 15 = .ok (.ldc 159, 2) := dk_18 159 (dk_at dksX7_sum_0 15 rfl rfl)
theorem dX7_sum_17 : decode cX7_sum 17 = .ok (.invokevirtual 73, 3) := dk_182 0 73 (dk_at dksX7_sum_0 17 rfl rfl)
theorem dX7_sum_20 : decode cX7_sum 20 = .ok (.ifCond .eq 37, 3) := dk_153 0 37 (dk_at dksX7_sum_0 20 rfl rfl)
theorem dX7_sum_23 : decode cX7_sum 23 = .ok (.aload_n 0, 1) := dk_42 (dk_at dksX7_sum_0 23 rfl rfl)
theorem dX7_sum_24 : decode cX7_sum 24 = .ok (.getfield 3, 3) := dk_180 0 3 (dk_at dksX7_sum_1 0 rfl rfl)
theorem dX7_sum_27 : decode cX7_sum 27 = .ok (.getfield 52, 3) := dk_180 0 52 (dk_at dksX7_sum_1 3 rfl rfl)
theorem dX7_sum_30 : decode cX7_sum 30 = .ok (.aload_n 0, 1) := dk_42 (dk_at dksX7_sum_1 6 rfl rfl)
theorem dX7_sum_31 : decode cX7_sum 31 = .ok (.getfield 42, 3) := dk_180 0 42 (dk_at dksX7_sum_1 7 rfl rfl)
theorem dX7_sum_34 : decode cX7_sum 34 = .ok (.baload, 1) := dk_51 (dk_at dksX7_sum_1 10 rfl rfl)
theorem dX7_sum_35 : decode cX7_sum 35 = .ok (.istore_n 2, 1) := dk_61 (dk_at dksX7_sum_1 11 rfl rfl)
theorem dX7_sum_36 : decode cX7_sum 36 = .ok (.aload_n 0, 1) := dk_42 (dk_at dksX7_sum_1 12 rfl rfl)
theorem dX7_sum_37 : decode cX7_sum 37 = .ok (.invokevirtual 25, 3) := dk_182 0 25 (dk_at dksX7_sum_1 13 rfl rfl)
theorem dX7_sum_40 : decode cX7_sum 40 = .ok (.new 161, 3) := dk_187 0 161 (dk_at dksX7_sum_1 16 rfl rfl)
theorem dX7_sum_43 : decode cX7_sum 43 = .ok (.dup, 1) := dk_89 (dk_at dksX7_sum_1 19 rfl rfl)
theorem dX7_sum_44 : decode cX7_sum 44 = .ok (.aload_n 1, 1) := dk_43 (dk_at dksX7_sum_1 20 rfl rfl)
theorem dX7_sum_45 : decode cX7_sum 45 = .ok (.iload_n 2, 1) := dk_28 (dk_at dksX7_sum_1 21 rfl rfl)
theorem dX7_sum_46 : decode cX7_sum 46 = .ok (.aload_n 0, 1) := dk_42 (dk_at dksX7_sum_1 22 rfl rfl)
theorem dX7_sum_47 : decode cX7_sum 47 = .ok (.invokevirtual 154, 3) := dk_182 0 154 (dk_at dksX7_sum_2 0 rfl rfl)
theorem dX7_sum_50 : decode cX7_sum 50 = .ok (.invokespecial 163, 3) := dk_183 0 163 (dk_at dksX7_sum_2 3 rfl rfl)
theorem dX7_sum_53 : decode cX7_sum 53 = .ok (.astore_n 1, 1) := dk_76 (dk_at dksX7_sum_2 6 rfl rfl)
theorem dX7_sum_54 : decode cX7_sum 54 = .ok (.goto (-49), 3) := dk_167 255 207 (dk_at dksX7_sum_2 7 rfl rfl)
theorem dX7_sum_57 : decode cX7_sum 57 = .ok (.aload_n 1, 1) := dk_43 (dk_at dksX7_sum_2 10 rfl rfl)
theorem dX7_sum_58 : decode cX7_sum 58 = .ok (.areturn, 1) := dk_176 (dk_at dksX7_sum_2 11 rfl rfl)
abbrev cX7_term : ByteArray := prog_16_method_19_code
def yX7_term : MethodName := ⟨RX7, "term", "()LCounterDesk$Sum;"⟩
def dkwX7_term_2 : List UInt8 := [182, 0, 25, 187, 0, 161, 89, 43, 28, 42, 182, 0, 164, 183, 0, 163, 76, 167, 255, 198, 43, 176]
abbrev dktX7_term_2 : List UInt8 := dkwX7_term_2 ++ []
def dkwX7_term_1 : List UInt8 := [18, 171, 182, 0, 73, 153, 0, 37, 42, 180, 0, 3, 180, 0, 52, 42, 180, 0, 42, 51, 61, 42]
abbrev dktX7_term_1 : List UInt8 := dkwX7_term_1 ++ dktX7_term_2
def dkwX7_term_0 : List UInt8 := [42, 182, 0, 164, 76, 42, 18, 167, 182, 0, 73, 154, 0, 21, 42, 18, 169, 182, 0, 73, 154, 0, 12, 42]
abbrev dktX7_term_0 : List UInt8 := dkwX7_term_0 ++ dktX7_term_1
theorem dksX7_term_0 : cX7_term.data.toList.drop 0 = dktX7_term_0 := by decide +kernel
theorem dksX7_term_1 : cX7_term.data.toList.drop 24 = dktX7_term_1 := dk_seg dksX7_term_0 24 rfl rfl
theorem dksX7_term_2 : cX7_term.data.toList.drop 46 = dktX7_term_2 := dk_seg dksX7_term_1 22 rfl rfl
theorem dX7_term_0 : decode cX7_term 0 = .ok (.aload_n 0, 1) := dk_42 (dk_at dksX7_term_0 0 rfl rfl)
theorem dX7_term_1 : decode cX7_term 1 = .ok (.invokevirtual 164, 3) := dk_182 0 164 (dk_at dksX7_term_0 1 rfl rfl)
theorem dX7_term_4 : decode cX7_term 4 = .ok (.astore_n 1, 1) := dk_76 (dk_at dksX7_term_0 4 rfl rfl)
theorem dX7_term_5 : decode cX7_term 5 = .ok (.aload_n 0, 1) := dk_42 (dk_at dksX7_term_0 5 rfl rfl)
theorem dX7_term_6 : decode cX7_term 6 = .ok (.ldc 167, 2) := dk_18 167 (dk_at dksX7_term_0 6 rfl rfl)
theorem dX7_term_8 : decode cX7_term 8 = .ok (.invokevirtual 73, 3) := dk_182 0 73 (dk_at dksX7_term_0 8 rfl rfl)
theorem dX7_term_11 : decode cX7_term 11 = .ok (.ifCond .ne 21, 3) := dk_154 0 21 (dk_at dksX7_term_0 11 rfl rfl)
theorem dX7_term_14 : decode cX7_term 14 = .ok (.aload_n 0, 1) := dk_42 (dk_at dksX7_term_0 14 rfl rfl)
theorem dX7_term_15 : decode cX7_term 15 = .ok (.ldc 169, 2) := dk_18 169 (dk_at dksX7_term_0 15 rfl rfl)
theorem dX7_term_17 : decode cX7_term 17 = .ok (.invokevirtual 73, 3) := dk_182 0 73 (dk_at dksX7_term_0 17 rfl rfl)
theorem dX7_term_20 : decode cX7_term 20 = .ok (.ifCond .ne 12, 3) := dk_154 0 12 (dk_at dksX7_term_0 20 rfl rfl)
theorem dX7_term_23 : decode cX7_term 23 = .ok (.aload_n 0, 1) := dk_42 (dk_at dksX7_term_0 23 rfl rfl)
theorem dX7_term_24 : decode cX7_term 24 = .ok (.ldc 171, 2) := dk_18 171 (dk_at dksX7_term_1 0 rfl rfl)
theorem dX7_term_26 : decode cX7_term 26 = .ok (.invokevirtual 73, 3) := dk_182 0 73 (dk_at dksX7_term_1 2 rfl rfl)
theorem dX7_term_29 : decode cX7_term 29 = .ok (.ifCond .eq 37, 3) := dk_153 0 37 (dk_at dksX7_term_1 5 rfl rfl)
theorem dX7_term_32 : decode cX7_term 32 = .ok (.aload_n 0, 1) := dk_42 (dk_at dksX7_term_1 8 rfl rfl)
theorem dX7_term_33 : decode cX7_term 33 = .ok (.getfield 3, 3) := dk_180 0 3 (dk_at dksX7_term_1 9 rfl rfl)
theorem dX7_term_36 : decode cX7_term 36 = .ok (.getfield 52, 3) := dk_180 0 52 (dk_at dksX7_term_1 12 rfl rfl)
theorem dX7_term_39 : decode cX7_term 39 = .ok (.aload_n 0, 1) := dk_42 (dk_at dksX7_term_1 15 rfl rfl)
theorem dX7_term_40 : decode cX7_term 40 = .ok (.getfield 42, 3) := dk_180 0 42 (dk_at dksX7_term_1 16 rfl rfl)
theorem dX7_term_43 : decode cX7_term 43 = .ok (.baload, 1) := dk_51 (dk_at dksX7_term_1 19 rfl rfl)
theorem dX7_term_44 : decode cX7_term 44 = .ok (.istore_n 2, 1) := dk_61 (dk_at dksX7_term_1 20 rfl rfl)
theorem dX7_term_45 : decode cX7_term 45 = .ok (.aload_n 0, 1) := dk_42 (dk_at dksX7_term_1 21 rfl rfl)
theorem dX7_term_46 : decode cX7_term 46 = .ok (.invokevirtual 25, 3) := dk_182 0 25 (dk_at dksX7_term_2 0 rfl rfl)
theorem dX7_term_49 : decode cX7_term 49 = .ok (.new 161, 3) := dk_187 0 161 (dk_at dksX7_term_2 3 rfl rfl)
theorem dX7_term_52 : decode cX7_term 52 = .ok (.dup, 1) := dk_89 (dk_at dksX7_term_2 6 rfl rfl)
theorem dX7_term_53 : decode cX7_term 53 = .ok (.aload_n 1, 1) := dk_43 (dk_at dksX7_term_2 7 rfl rfl)
theorem dX7_term_54 : decode cX7_term 54 = .ok (.iload_n 2, 1) := dk_28 (dk_at dksX7_term_2 8 rfl rfl)
theorem dX7_term_55 : decode cX7_term 55 = .ok (.aload_n 0, 1) := dk_42 (dk_at dksX7_term_2 9 rfl rfl)
theorem dX7_term_56 : decode cX7_term 56 = .ok (.invokevirtual 164, 3) := dk_182 0 164 (dk_at dksX7_term_2 10 rfl rfl)
theorem dX7_term_59 : decode cX7_term 59 = .ok (.invokespecial 163, 3) := dk_183 0 163 (dk_at dksX7_term_2 13 rfl rfl)
theorem dX7_term_62 : decode cX7_term 62 = .ok (.astore_n 1, 1) := dk_76 (dk_at dksX7_term_2 16 rfl rfl)
theorem dX7_term_63 : decode cX7_term 63 = .ok (.goto (-58), 3) := dk_167 255 198 (dk_at dksX7_term_2 17 rfl rfl)
theorem dX7_term_66 : decode cX7_term 66 = .ok (.aload_n 1, 1) := dk_43 (dk_at dksX7_term_2 20 rfl rfl)
theorem dX7_term_67 : decode cX7_term 67 = .ok (.areturn, 1) := dk_176 (dk_at dksX7_term_2 21 rfl rfl)
abbrev cX7_part : ByteArray := prog_16_method_20_code
def yX7_part : MethodName := ⟨RX7, "part", "()LCounterDesk$Sum;"⟩
def dkwX7_part_5 : List UInt8 := [176]
abbrev dktX7_part_5 : List UInt8 := dkwX7_part_5 ++ []
def dkwX7_part_4 : List UInt8 := [42, 17, 3, 232, 182, 0, 186, 183, 0, 190, 176, 42, 182, 0, 181, 42, 182, 0, 25, 42, 27, 182, 0, 191]
abbrev dktX7_part_4 : List UInt8 := dkwX7_part_4 ++ dktX7_part_5
def dkwX7_part_3 : List UInt8 := [153, 0, 7, 4, 167, 0, 4, 3, 182, 0, 28, 27, 2, 160, 0, 22, 42, 182, 0, 181, 187, 0, 184, 89]
abbrev dktX7_part_3 : List UInt8 := dkwX7_part_3 ++ dktX7_part_4
def dkwX7_part_2 : List UInt8 := [180, 0, 3, 180, 0, 46, 162, 0, 25, 42, 180, 0, 3, 180, 0, 52, 42, 180, 0, 42, 51, 184, 0, 60]
abbrev dktX7_part_2 : List UInt8 := dkwX7_part_2 ++ dktX7_part_3
def dkwX7_part_1 : List UInt8 := [43, 176, 42, 42, 180, 0, 21, 182, 0, 177, 60, 42, 27, 2, 160, 0, 35, 42, 180, 0, 42, 42]
abbrev dktX7_part_1 : List UInt8 := dkwX7_part_1 ++ dktX7_part_2
def dkwX7_part_0 : List UInt8 := [42, 18, 173, 182, 0, 73, 153, 0, 20, 42, 182, 0, 123, 42, 182, 0, 135, 76, 42, 18, 175, 182, 0, 131]
abbrev dktX7_part_0 : List UInt8 := dkwX7_part_0 ++ dktX7_part_1
theorem dksX7_part_0 : cX7_part.data.toList.drop 0 = dktX7_part_0 := by decide +kernel
theorem dksX7_part_1 : cX7_part.data.toList.drop 24 = dktX7_part_1 := dk_seg dksX7_part_0 24 rfl rfl
theorem dksX7_part_2 : cX7_part.data.toList.drop 46 = dktX7_part_2 := dk_seg dksX7_part_1 22 rfl rfl
theorem dksX7_part_3 : cX7_part.data.toList.drop 70 = dktX7_part_3 := dk_seg dksX7_part_2 24 rfl rfl
theorem dksX7_part_4 : cX7_part.data.toList.drop 94 = dktX7_part_4 := dk_seg dksX7_part_3 24 rfl rfl
theorem dksX7_part_5 : cX7_part.data.toList.drop 118 = dktX7_part_5 := dk_seg dksX7_part_4 24 rfl rfl
theorem dX7_part_0 : decode cX7_part 0 = .ok (.aload_n 0, 1) := dk_42 (dk_at dksX7_part_0 0 rfl rfl)
theorem dX7_part_1 : decode cX7_part 1 = .ok (.ldc 173, 2) := dk_18 173 (dk_at dksX7_part_0 1 rfl rfl)
theorem dX7_part_3 : decode cX7_part 3 = .ok (.invokevirtual 73, 3) := dk_182 0 73 (dk_at dksX7_part_0 3 rfl rfl)
theorem dX7_part_6 : decode cX7_part 6 = .ok (.ifCond .eq 20, 3) := dk_153 0 20 (dk_at dksX7_part_0 6 rfl rfl)
theorem dX7_part_9 : decode cX7_part 9 = .ok (.aload_n 0, 1) := dk_42 (dk_at dksX7_part_0 9 rfl rfl)
theorem dX7_part_10 : decode cX7_part 10 = .ok (.invokevirtual 123, 3) := dk_182 0 123 (dk_at dksX7_part_0 10 rfl rfl)
theorem dX7_part_13 : decode cX7_part 13 = .ok (.aload_n 0, 1) := dk_42 (dk_at dksX7_part_0 13 rfl rfl)
theorem dX7_part_14 : decode cX7_part 14 = .ok (.invokevirtual 135, 3) := dk_182 0 135 (dk_at dksX7_part_0 14 rfl rfl)
theorem dX7_part_17 : decode cX7_part 17 = .ok (.astore_n 1, 1) := dk_76 (dk_at dksX7_part_0 17 rfl rfl)
theorem dX7_part_18 : decode cX7_part 18 = .ok (.aload_n 0, 1) := dk_42 (dk_at dksX7_part_0 18 rfl rfl)
theorem dX7_part_19 : decode cX7_part 19 = .ok (.ldc 175, 2) := dk_18 175 (dk_at dksX7_part_0 19 rfl rfl)
theorem dX7_part_21 : decode cX7_part 21 = .ok (.invokevirtual 131, 3) := dk_182 0 131 (dk_at dksX7_part_0 21 rfl rfl)
theorem dX7_part_24 : decode cX7_part 24 = .ok (.aload_n 1, 1) := dk_43 (dk_at dksX7_part_1 0 rfl rfl)
theorem dX7_part_25 : decode cX7_part 25 = .ok (.areturn, 1) := dk_176 (dk_at dksX7_part_1 1 rfl rfl)
theorem dX7_part_26 : decode cX7_part 26 = .ok (.aload_n 0, 1) := dk_42 (dk_at dksX7_part_1 2 rfl rfl)
theorem dX7_part_27 : decode cX7_part 27 = .ok (.aload_n 0, 1) := dk_42 (dk_at dksX7_part_1 3 rfl rfl)
theorem dX7_part_28 : decode cX7_part 28 = .ok (.getfield 21, 3) := dk_180 0 21 (dk_at dksX7_part_1 4 rfl rfl)
theorem dX7_part_31 : decode cX7_part 31 = .ok (.invokevirtual 177, 3) := dk_182 0 177 (dk_at dksX7_part_1 7 rfl rfl)
theorem dX7_part_34 : decode cX7_part 34 = .ok (.istore_n 1, 1) := dk_60 (dk_at dksX7_part_1 10 rfl rfl)
theorem dX7_part_35 : decode cX7_part 35 = .ok (.aload_n 0, 1) := dk_42 (dk_at dksX7_part_1 11 rfl rfl)
theorem dX7_part_36 : decode cX7_part 36 = .ok (.iload_n 1, 1) := dk_27 (dk_at dksX7_part_1 12 rfl rfl)
theorem dX7_part_37 : decode cX7_part 37 = .ok (.iconst (-1), 1) := dk_2 (dk_at dksX7_part_1 13 rfl rfl)
theorem dX7_part_38 : decode cX7_part 38 = .ok (.if_icmp .ne 35, 3) := dk_160 0 35 (dk_at dksX7_part_1 14 rfl rfl)
theorem dX7_part_41 : decode cX7_part 41 = .ok (.aload_n 0, 1) := dk_42 (dk_at dksX7_part_1 17 rfl rfl)
theorem dX7_part_42 : decode cX7_part 42 = .ok (.getfield 42, 3) := dk_180 0 42 (dk_at dksX7_part_1 18 rfl rfl)
theorem dX7_part_45 : decode cX7_part 45 = .ok (.aload_n 0, 1) := dk_42 (dk_at dksX7_part_1 21 rfl rfl)
theorem dX7_part_46 : decode cX7_part 46 = .ok (.getfield 3, 3) := dk_180 0 3 (dk_at dksX7_part_2 0 rfl rfl)
theorem dX7_part_49 : decode cX7_part 49 = .ok (.getfield 46, 3) := dk_180 0 46 (dk_at dksX7_part_2 3 rfl rfl)
theorem dX7_part_52 : decode cX7_part 52 = .ok (.if_icmp .ge 25, 3) := dk_162 0 25 (dk_at dksX7_part_2 6 rfl rfl)
theorem dX7_part_55 : decode cX7_part 55 = .ok (.aload_n 0, 1) := dk_42 (dk_at dksX7_part_2 9 rfl rfl)
theorem dX7_part_56 : decode cX7_part 56 = .ok (.getfield 3, 3) := dk_180 0 3 (dk_at dksX7_part_2 10 rfl rfl)
theorem dX7_part_59 : decode cX7_part 59 = .ok (.getfield 52, 3) := dk_180 0 52 (dk_at dksX7_part_2 13 rfl rfl)
theorem dX7_part_62 : decode cX7_part 62 = .ok (.aload_n 0, 1) := dk_42 (dk_at dksX7_part_2 16 rfl rfl)
theorem dX7_part_63 : decode cX7_part 63 = .ok (.getfield 42, 3) := dk_180 0 42 (dk_at dksX7_part_2 17 rfl rfl)
theorem dX7_part_66 : decode cX7_part 66 = .ok (.baload, 1) := dk_51 (dk_at dksX7_part_2 20 rfl rfl)
theorem dX7_part_67 : decode cX7_part 67 = .ok (.invokestatic 60, 3) := dk_184 0 60 (dk_at dksX7_part_2 21 rfl rfl)
theorem dX7_part_70 : decode cX7_part 70 = .ok (.ifCond .eq 7, 3) := dk_153 0 7 (dk_at dksX7_part_3 0 rfl rfl)
theorem dX7_part_73 : decode cX7_part 73 = .ok (.iconst 1, 1) := dk_4 (dk_at dksX7_part_3 3 rfl rfl)
theorem dX7_part_74 : decode cX7_part 74 = .ok (.goto 4, 3) := dk_167 0 4 (dk_at dksX7_part_3 4 rfl rfl)
theorem dX7_part_77 : decode cX7_part 77 = .ok (.iconst 0, 1) := dk_3 (dk_at dksX7_part_3 7 rfl rfl)
theorem dX7_part_78 : decode cX7_part 78 = .ok (.invokevirtual 28, 3) := dk_182 0 28 (dk_at dksX7_part_3 8 rfl rfl)
theorem dX7_part_81 : decode cX7_part 81 = .ok (.iload_n 1, 1) := dk_27 (dk_at dksX7_part_3 11 rfl rfl)
theorem dX7_part_82 : decode cX7_part 82 = .ok (.iconst (-1), 1) := dk_2 (dk_at dksX7_part_3 12 rfl rfl)
theorem dX7_part_83 : decode cX7_part 83 = .ok (.if_icmp .ne 22, 3) := dk_160 0 22 (dk_at dksX7_part_3 13 rfl rfl)
theorem dX7_part_86 : decode cX7_part 86 = .ok (.aload_n 0, 1) := dk_42 (dk_at dksX7_part_3 16 rfl rfl)
theorem dX7_part_87 : decode cX7_part 87 = .ok (.invokevirtual 181, 3) := dk_182 0 181 (dk_at dksX7_part_3 17 rfl rfl)
theorem dX7_part_90 : decode cX7_part 90 = .ok (.new 184, 3) := dk_187 0 184 (dk_at dksX7_part_3 20 rfl rfl)
theorem dX7_part_93 : decode cX7_part 93 = .ok (.dup, 1) := dk_89 (dk_at dksX7_part_3 23 rfl rfl)
theorem dX7_part_94 : decode cX7_part 94 = .ok (.aload_n 0, 1) := dk_42 (dk_at dksX7_part_4 0 rfl rfl)
theorem dX7_part_95 : decode cX7_part 95 = .ok (.sipush 1000, 3) := dk_17 3 232 (dk_at dksX7_part_4 1 rfl rfl)
theorem dX7_part_98 : decode cX7_part 98 = .ok (.invokevirtual 186, 3) := dk_182 0 186 (dk_at dksX7_part_4 4 rfl rfl)
theorem dX7_part_101 : decode cX7_part 101 = .ok (.invokespecial 190, 3) := dk_183 0 190 (dk_at dksX7_part_4 7 rfl rfl)
theorem dX7_part_104 : decode cX7_part 104 = .ok (.areturn, 1) := dk_176 (dk_at dksX7_part_4 10 rfl rfl)
theorem dX7_part_105 : decode cX7_part 105 = .ok (.aload_n 0, 1) := dk_42 (dk_at dksX7_part_4 11 rfl rfl)
theorem dX7_part_106 : decode cX7_part 106 = .ok (.invokevirtual 181, 3) := dk_182 0 181 (dk_at dksX7_part_4 12 rfl rfl)
theorem dX7_part_109 : decode cX7_part 109 = .ok (.aload_n 0, 1) := dk_42 (dk_at dksX7_part_4 15 rfl rfl)
theorem dX7_part_110 : decode cX7_part 110 = .ok (.invokevirtual 25, 3) := dk_182 0 25 (dk_at dksX7_part_4 16 rfl rfl)
theorem dX7_part_113 : decode cX7_part 113 = .ok (.aload_n 0, 1) := dk_42 (dk_at dksX7_part_4 19 rfl rfl)
theorem dX7_part_114 : decode cX7_part 114 = .ok (.iload_n 1, 1) := dk_27 (dk_at dksX7_part_4 20 rfl rfl)
theorem dX7_part_115 : decode cX7_part 115 = .ok (.invokevirtual 191, 3) := dk_182 0 191 (dk_at dksX7_part_4 21 rfl rfl)
theorem dX7_part_118 : decode cX7_part 118 = .ok (.areturn, 1) := dk_176 (dk_at dksX7_part_5 0 rfl rfl)
abbrev cX7_open : ByteArray := prog_16_method_14_code
def yX7_open : MethodName := ⟨RX7, "open", "()V"⟩
def dkwX7_open_1 : List UInt8 := [96, 181, 0, 113, 42, 182, 0, 25, 177]
abbrev dktX7_open_1 : List UInt8 := dkwX7_open_1 ++ []
def dkwX7_open_0 : List UInt8 := [42, 42, 180, 0, 113, 16, 8, 162, 0, 7, 4, 167, 0, 4, 3, 182, 0, 28, 42, 89, 180, 0, 113, 4]
abbrev dktX7_open_0 : List UInt8 := dkwX7_open_0 ++ dktX7_open_1
theorem dksX7_open_0 : cX7_open.data.toList.drop 0 = dktX7_open_0 := by decide +kernel
theorem dksX7_open_1 : cX7_open.data.toList.drop 24 = dktX7_open_1 := dk_seg dksX7_open_0 24 rfl rfl
theorem dX7_open_0 : decode cX7_open 0 = .ok (.aload_n 0, 1) := dk_42 (dk_at dksX7_open_0 0 rfl rfl)
theorem dX7_open_1 : decode cX7_open 1 = .ok (.aload_n 0, 1) := dk_42 (dk_at dksX7_open_0 1 rfl rfl)
theorem dX7_open_2 : decode cX7_open 2 = .ok (.getfield 113, 3) := dk_180 0 113 (dk_at dksX7_open_0 2 rfl rfl)
theorem dX7_open_5 : decode cX7_open 5 = .ok (.bipush 8, 2) := dk_16 8 (dk_at dksX7_open_0 5 rfl rfl)
theorem dX7_open_7 : decode cX7_open 7 = .ok (.if_icmp .ge 7, 3) := dk_162 0 7 (dk_at dksX7_open_0 7 rfl rfl)
theorem dX7_open_10 : decode cX7_open 10 = .ok (.iconst 1, 1) := dk_4 (dk_at dksX7_open_0 10 rfl rfl)
theorem dX7_open_11 : decode cX7_open 11 = .ok (.goto 4, 3) := dk_167 0 4 (dk_at dksX7_open_0 11 rfl rfl)
theorem dX7_open_14 : decode cX7_open 14 = .ok (.iconst 0, 1) := dk_3 (dk_at dksX7_open_0 14 rfl rfl)
theorem dX7_open_15 : decode cX7_open 15 = .ok (.invokevirtual 28, 3) := dk_182 0 28 (dk_at dksX7_open_0 15 rfl rfl)
theorem dX7_open_18 : decode cX7_open 18 = .ok (.aload_n 0, 1) := dk_42 (dk_at dksX7_open_0 18 rfl rfl)
theorem dX7_open_19 : decode cX7_open 19 = .ok (.dup, 1) := dk_89 (dk_at dksX7_open_0 19 rfl rfl)
theorem dX7_open_20 : decode cX7_open 20 = .ok (.getfield 113, 3) := dk_180 0 113 (dk_at dksX7_open_0 20 rfl rfl)
theorem dX7_open_23 : decode cX7_open 23 = .ok (.iconst 1, 1) := dk_4 (dk_at dksX7_open_0 23 rfl rfl)
theorem dX7_open_24 : decode cX7_open 24 = .ok (.iadd, 1) := dk_96 (dk_at dksX7_open_1 0 rfl rfl)
theorem dX7_open_25 : decode cX7_open 25 = .ok (.putfield 113, 3) := dk_181 0 113 (dk_at dksX7_open_1 1 rfl rfl)
theorem dX7_open_28 : decode cX7_open 28 = .ok (.aload_n 0, 1) := dk_42 (dk_at dksX7_open_1 4 rfl rfl)
theorem dX7_open_29 : decode cX7_open 29 = .ok (.invokevirtual 25, 3) := dk_182 0 25 (dk_at dksX7_open_1 5 rfl rfl)
theorem dX7_open_32 : decode cX7_open 32 = .ok (.return_, 1) := dk_177 (dk_at dksX7_open_1 8 rfl rfl)
abbrev cX7_close : ByteArray := prog_16_method_15_code
def yX7_close : MethodName := ⟨RX7, "close", "(Ljava/lang/String;)V"⟩
def dkwX7_close_0 : List UInt8 := [42, 42, 43, 182, 0, 38, 182, 0, 28, 42, 89, 180, 0, 113, 4, 100, 181, 0, 113, 177]
abbrev dktX7_close_0 : List UInt8 := dkwX7_close_0 ++ []
theorem dksX7_close_0 : cX7_close.data.toList.drop 0 = dktX7_close_0 := by decide +kernel
theorem dX7_close_0 : decode cX7_close 0 = .ok (.aload_n 0, 1) := dk_42 (dk_at dksX7_close_0 0 rfl rfl)
theorem dX7_close_1 : decode cX7_close 1 = .ok (.aload_n 0, 1) := dk_42 (dk_at dksX7_close_0 1 rfl rfl)
theorem dX7_close_2 : decode cX7_close 2 = .ok (.aload_n 1, 1) := dk_43 (dk_at dksX7_close_0 2 rfl rfl)
theorem dX7_close_3 : decode cX7_close 3 = .ok (.invokevirtual 38, 3) := dk_182 0 38 (dk_at dksX7_close_0 3 rfl rfl)
theorem dX7_close_6 : decode cX7_close 6 = .ok (.invokevirtual 28, 3) := dk_182 0 28 (dk_at dksX7_close_0 6 rfl rfl)
theorem dX7_close_9 : decode cX7_close 9 = .ok (.aload_n 0, 1) := dk_42 (dk_at dksX7_close_0 9 rfl rfl)
theorem dX7_close_10 : decode cX7_close 10 = .ok (.dup, 1) := dk_89 (dk_at dksX7_close_0 10 rfl rfl)
theorem dX7_close_11 : decode cX7_close 11 = .ok (.getfield 113, 3) := dk_180 0 113 (dk_at dksX7_close_0 11 rfl rfl)
theorem dX7_close_14 : decode cX7_close 14 = .ok (.iconst 1, 1) := dk_4 (dk_at dksX7_close_0 14 rfl rfl)
theorem dX7_close_15 : decode cX7_close 15 = .ok (.isub, 1) := dk_100 (dk_at dksX7_close_0 15 rfl rfl)
theorem dX7_close_16 : decode cX7_close 16 = .ok (.putfield 113, 3) := dk_181 0 113 (dk_at dksX7_close_0 16 rfl rfl)
theorem dX7_close_19 : decode cX7_close 19 = .ok (.return_, 1) := dk_177 (dk_at dksX7_close_0 19 rfl rfl)
abbrev cX7_accept : ByteArray := prog_16_method_7_code
def yX7_accept : MethodName := ⟨RX7, "accept", "(Ljava/lang/String;)Z"⟩
def dkwX7_accept_0 : List UInt8 := [42, 43, 182, 0, 73, 61, 28, 153, 0, 7, 42, 182, 0, 25, 28, 172]
abbrev dktX7_accept_0 : List UInt8 := dkwX7_accept_0 ++ []
theorem dksX7_accept_0 : cX7_accept.data.toList.drop 0 = dktX7_accept_0 := by decide +kernel
theorem dX7_accept_0 : decode cX7_accept 0 = .ok (.aload_n 0, 1) := dk_42 (dk_at dksX7_accept_0 0 rfl rfl)
theorem dX7_accept_1 : decode cX7_accept 1 = .ok (.aload_n 1, 1) := dk_43 (dk_at dksX7_accept_0 1 rfl rfl)
theorem dX7_accept_2 : decode cX7_accept 2 = .ok (.invokevirtual 73, 3) := dk_182 0 73 (dk_at dksX7_accept_0 2 rfl rfl)
theorem dX7_accept_5 : decode cX7_accept 5 = .ok (.istore_n 2, 1) := dk_61 (dk_at dksX7_accept_0 5 rfl rfl)
theorem dX7_accept_6 : decode cX7_accept 6 = .ok (.iload_n 2, 1) := dk_28 (dk_at dksX7_accept_0 6 rfl rfl)
theorem dX7_accept_7 : decode cX7_accept 7 = .ok (.ifCond .eq 7, 3) := dk_153 0 7 (dk_at dksX7_accept_0 7 rfl rfl)
theorem dX7_accept_10 : decode cX7_accept 10 = .ok (.aload_n 0, 1) := dk_42 (dk_at dksX7_accept_0 10 rfl rfl)
theorem dX7_accept_11 : decode cX7_accept 11 = .ok (.invokevirtual 25, 3) := dk_182 0 25 (dk_at dksX7_accept_0 11 rfl rfl)
theorem dX7_accept_14 : decode cX7_accept 14 = .ok (.iload_n 2, 1) := dk_28 (dk_at dksX7_accept_0 14 rfl rfl)
theorem dX7_accept_15 : decode cX7_accept 15 = .ok (.ireturn, 1) := dk_172 (dk_at dksX7_accept_0 15 rfl rfl)
abbrev cX7_leaf : ByteArray := prog_16_method_16_code
def yX7_leaf : MethodName := ⟨RX7, "leaf", "()V"⟩
def dkwX7_leaf_1 : List UInt8 := [96, 181, 0, 116, 177]
abbrev dktX7_leaf_1 : List UInt8 := dkwX7_leaf_1 ++ []
def dkwX7_leaf_0 : List UInt8 := [42, 42, 180, 0, 116, 16, 50, 162, 0, 7, 4, 167, 0, 4, 3, 182, 0, 28, 42, 89, 180, 0, 116, 4]
abbrev dktX7_leaf_0 : List UInt8 := dkwX7_leaf_0 ++ dktX7_leaf_1
theorem dksX7_leaf_0 : cX7_leaf.data.toList.drop 0 = dktX7_leaf_0 := by decide +kernel
theorem dksX7_leaf_1 : cX7_leaf.data.toList.drop 24 = dktX7_leaf_1 := dk_seg dksX7_leaf_0 24 rfl rfl
theorem dX7_leaf_0 : decode cX7_leaf 0 = .ok (.aload_n 0, 1) := dk_42 (dk_at dksX7_leaf_0 0 rfl rfl)
theorem dX7_leaf_1 : decode cX7_leaf 1 = .ok (.aload_n 0, 1) := dk_42 (dk_at dksX7_leaf_0 1 rfl rfl)
theorem dX7_leaf_2 : decode cX7_leaf 2 = .ok (.getfield 116, 3) := dk_180 0 116 (dk_at dksX7_leaf_0 2 rfl rfl)
theorem dX7_leaf_5 : decode cX7_leaf 5 = .ok (.bipush 50, 2) := dk_16 50 (dk_at dksX7_leaf_0 5 rfl rfl)
theorem dX7_leaf_7 : decode cX7_leaf 7 = .ok (.if_icmp .ge 7, 3) := dk_162 0 7 (dk_at dksX7_leaf_0 7 rfl rfl)
theorem dX7_leaf_10 : decode cX7_leaf 10 = .ok (.iconst 1, 1) := dk_4 (dk_at dksX7_leaf_0 10 rfl rfl)
theorem dX7_leaf_11 : decode cX7_leaf 11 = .ok (.goto 4, 3) := dk_167 0 4 (dk_at dksX7_leaf_0 11 rfl rfl)
theorem dX7_leaf_14 : decode cX7_leaf 14 = .ok (.iconst 0, 1) := dk_3 (dk_at dksX7_leaf_0 14 rfl rfl)
theorem dX7_leaf_15 : decode cX7_leaf 15 = .ok (.invokevirtual 28, 3) := dk_182 0 28 (dk_at dksX7_leaf_0 15 rfl rfl)
theorem dX7_leaf_18 : decode cX7_leaf 18 = .ok (.aload_n 0, 1) := dk_42 (dk_at dksX7_leaf_0 18 rfl rfl)
theorem dX7_leaf_19 : decode cX7_leaf 19 = .ok (.dup, 1) := dk_89 (dk_at dksX7_leaf_0 19 rfl rfl)
theorem dX7_leaf_20 : decode cX7_leaf 20 = .ok (.getfield 116, 3) := dk_180 0 116 (dk_at dksX7_leaf_0 20 rfl rfl)
theorem dX7_leaf_23 : decode cX7_leaf 23 = .ok (.iconst 1, 1) := dk_4 (dk_at dksX7_leaf_0 23 rfl rfl)
theorem dX7_leaf_24 : decode cX7_leaf 24 = .ok (.iadd, 1) := dk_96 (dk_at dksX7_leaf_1 0 rfl rfl)
theorem dX7_leaf_25 : decode cX7_leaf 25 = .ok (.putfield 116, 3) := dk_181 0 116 (dk_at dksX7_leaf_1 1 rfl rfl)
theorem dX7_leaf_28 : decode cX7_leaf 28 = .ok (.return_, 1) := dk_177 (dk_at dksX7_leaf_1 4 rfl rfl)
abbrev cX7_number : ByteArray := prog_16_method_9_code
def yX7_number : MethodName := ⟨RX7, "number", "(I)I"⟩
def dkwX7_number_4 : List UInt8 := [167, 0, 4, 3, 182, 0, 28, 42, 182, 0, 25, 28, 172]
abbrev dktX7_number_4 : List UInt8 := dkwX7_number_4 ++ []
def dkwX7_number_3 : List UInt8 := [180, 0, 52, 29, 51, 96, 16, 48, 100, 61, 132, 3, 1, 167, 255, 222, 42, 28, 27, 163, 0, 7, 4]
abbrev dktX7_number_3 : List UInt8 := dkwX7_number_3 ++ dktX7_number_4
def dkwX7_number_2 : List UInt8 := [62, 29, 42, 180, 0, 49, 162, 0, 32, 28, 27, 163, 0, 27, 16, 10, 28, 104, 42, 180, 0, 3]
abbrev dktX7_number_2 : List UInt8 := dkwX7_number_2 ++ dktX7_number_3
def dkwX7_number_1 : List UInt8 := [180, 0, 42, 51, 184, 0, 60, 153, 0, 7, 4, 167, 0, 4, 3, 182, 0, 28, 3, 61, 42, 180, 0, 42]
abbrev dktX7_number_1 : List UInt8 := dkwX7_number_1 ++ dktX7_number_2
def dkwX7_number_0 : List UInt8 := [42, 42, 180, 0, 42, 42, 180, 0, 3, 180, 0, 46, 162, 0, 25, 42, 180, 0, 3, 180, 0, 52, 42]
abbrev dktX7_number_0 : List UInt8 := dkwX7_number_0 ++ dktX7_number_1
theorem dksX7_number_0 : cX7_number.data.toList.drop 0 = dktX7_number_0 := by decide +kernel
theorem dksX7_number_1 : cX7_number.data.toList.drop 23 = dktX7_number_1 := dk_seg dksX7_number_0 23 rfl rfl
theorem dksX7_number_2 : cX7_number.data.toList.drop 47 = dktX7_number_2 := dk_seg dksX7_number_1 24 rfl rfl
theorem dksX7_number_3 : cX7_number.data.toList.drop 69 = dktX7_number_3 := dk_seg dksX7_number_2 22 rfl rfl
theorem dksX7_number_4 : cX7_number.data.toList.drop 92 = dktX7_number_4 := dk_seg dksX7_number_3 23 rfl rfl
theorem dX7_number_0 : decode cX7_number 0 = .ok (.aload_n 0, 1) := dk_42 (dk_at dksX7_number_0 0 rfl rfl)
theorem dX7_number_1 : decode cX7_number 1 = .ok (.aload_n 0, 1) := dk_42 (dk_at dksX7_number_0 1 rfl rfl)
theorem dX7_number_2 : decode cX7_number 2 = .ok (.getfield 42, 3) := dk_180 0 42 (dk_at dksX7_number_0 2 rfl rfl)
theorem dX7_number_5 : decode cX7_number 5 = .ok (.aload_n 0, 1) := dk_42 (dk_at dksX7_number_0 5 rfl rfl)
theorem dX7_number_6 : decode cX7_number 6 = .ok (.getfield 3, 3) := dk_180 0 3 (dk_at dksX7_number_0 6 rfl rfl)
theorem dX7_number_9 : decode cX7_number 9 = .ok (.getfield 46, 3) := dk_180 0 46 (dk_at dksX7_number_0 9 rfl rfl)
theorem dX7_number_12 : decode cX7_number 12 = .ok (.if_icmp .ge 25, 3) := dk_162 0 25 (dk_at dksX7_number_0 12 rfl rfl)
theorem dX7_number_15 : decode cX7_number 15 = .ok (.aload_n 0, 1) := dk_42 (dk_at dksX7_number_0 15 rfl rfl)
theorem dX7_number_16 : decode cX7_number 16 = .ok (.getfield 3, 3) := dk_180 0 3 (dk_at dksX7_number_0 16 rfl rfl)
theorem dX7_number_19 : decode cX7_number 19 = .ok (.getfield 52, 3) := dk_180 0 52 (dk_at dksX7_number_0 19 rfl rfl)
theorem dX7_number_22 : decode cX7_number 22 = .ok (.aload_n 0, 1) := dk_42 (dk_at dksX7_number_0 22 rfl rfl)
theorem dX7_number_23 : decode cX7_number 23 = .ok (.getfield 42, 3) := dk_180 0 42 (dk_at dksX7_number_1 0 rfl rfl)
theorem dX7_number_26 : decode cX7_number 26 = .ok (.baload, 1) := dk_51 (dk_at dksX7_number_1 3 rfl rfl)
theorem dX7_number_27 : decode cX7_number 27 = .ok (.invokestatic 60, 3) := dk_184 0 60 (dk_at dksX7_number_1 4 rfl rfl)
theorem dX7_number_30 : decode cX7_number 30 = .ok (.ifCond .eq 7, 3) := dk_153 0 7 (dk_at dksX7_number_1 7 rfl rfl)
theorem dX7_number_33 : decode cX7_number 33 = .ok (.iconst 1, 1) := dk_4 (dk_at dksX7_number_1 10 rfl rfl)
theorem dX7_number_34 : decode cX7_number 34 = .ok (.goto 4, 3) := dk_167 0 4 (dk_at dksX7_number_1 11 rfl rfl)
theorem dX7_number_37 : decode cX7_number 37 = .ok (.iconst 0, 1) := dk_3 (dk_at dksX7_number_1 14 rfl rfl)
theorem dX7_number_38 : decode cX7_number 38 = .ok (.invokevirtual 28, 3) := dk_182 0 28 (dk_at dksX7_number_1 15 rfl rfl)
theorem dX7_number_41 : decode cX7_number 41 = .ok (.iconst 0, 1) := dk_3 (dk_at dksX7_number_1 18 rfl rfl)
theorem dX7_number_42 : decode cX7_number 42 = .ok (.istore_n 2, 1) := dk_61 (dk_at dksX7_number_1 19 rfl rfl)
theorem dX7_number_43 : decode cX7_number 43 = .ok (.aload_n 0, 1) := dk_42 (dk_at dksX7_number_1 20 rfl rfl)
theorem dX7_number_44 : decode cX7_number 44 = .ok (.getfield 42, 3) := dk_180 0 42 (dk_at dksX7_number_1 21 rfl rfl)
theorem dX7_number_47 : decode cX7_number 47 = .ok (.istore_n 3, 1) := dk_62 (dk_at dksX7_number_2 0 rfl rfl)
theorem dX7_number_48 : decode cX7_number 48 = .ok (.iload_n 3, 1) := dk_29 (dk_at dksX7_number_2 1 rfl rfl)
theorem dX7_number_49 : decode cX7_number 49 = .ok (.aload_n 0, 1) := dk_42 (dk_at dksX7_number_2 2 rfl rfl)
theorem dX7_number_50 : decode cX7_number 50 = .ok (.getfield 49, 3) := dk_180 0 49 (dk_at dksX7_number_2 3 rfl rfl)
theorem dX7_number_53 : decode cX7_number 53 = .ok (.if_icmp .ge 32, 3) := dk_162 0 32 (dk_at dksX7_number_2 6 rfl rfl)
theorem dX7_number_56 : decode cX7_number 56 = .ok (.iload_n 2, 1) := dk_28 (dk_at dksX7_number_2 9 rfl rfl)
theorem dX7_number_57 : decode cX7_number 57 = .ok (.iload_n 1, 1) := dk_27 (dk_at dksX7_number_2 10 rfl rfl)
theorem dX7_number_58 : decode cX7_number 58 = .ok (.if_icmp .gt 27, 3) := dk_163 0 27 (dk_at dksX7_number_2 11 rfl rfl)
theorem dX7_number_61 : decode cX7_number 61 = .ok (.bipush 10, 2) := dk_16 10 (dk_at dksX7_number_2 14 rfl rfl)
theorem dX7_number_63 : decode cX7_number 63 = .ok (.iload_n 2, 1) := dk_28 (dk_at dksX7_number_2 16 rfl rfl)
theorem dX7_number_64 : decode cX7_number 64 = .ok (.imul, 1) := dk_104 (dk_at dksX7_number_2 17 rfl rfl)
theorem dX7_number_65 : decode cX7_number 65 = .ok (.aload_n 0, 1) := dk_42 (dk_at dksX7_number_2 18 rfl rfl)
theorem dX7_number_66 : decode cX7_number 66 = .ok (.getfield 3, 3) := dk_180 0 3 (dk_at dksX7_number_2 19 rfl rfl)
theorem dX7_number_69 : decode cX7_number 69 = .ok (.getfield 52, 3) := dk_180 0 52 (dk_at dksX7_number_3 0 rfl rfl)
theorem dX7_number_72 : decode cX7_number 72 = .ok (.iload_n 3, 1) := dk_29 (dk_at dksX7_number_3 3 rfl rfl)
theorem dX7_number_73 : decode cX7_number 73 = .ok (.baload, 1) := dk_51 (dk_at dksX7_number_3 4 rfl rfl)
theorem dX7_number_74 : decode cX7_number 74 = .ok (.iadd, 1) := dk_96 (dk_at dksX7_number_3 5 rfl rfl)
theorem dX7_number_75 : decode cX7_number 75 = .ok (.bipush 48, 2) := dk_16 48 (dk_at dksX7_number_3 6 rfl rfl)
theorem dX7_number_77 : decode cX7_number 77 = .ok (.isub, 1) := dk_100 (dk_at dksX7_number_3 8 rfl rfl)
theorem dX7_number_78 : decode cX7_number 78 = .ok (.istore_n 2, 1) := dk_61 (dk_at dksX7_number_3 9 rfl rfl)
theorem dX7_number_79 : decode cX7_number 79 = .ok (.iinc 3 1, 3) := dk_132 3 1 (dk_at dksX7_number_3 10 rfl rfl)
theorem dX7_number_82 : decode cX7_number 82 = .ok (.goto (-34), 3) := dk_167 255 222 (dk_at dksX7_number_3 13 rfl rfl)
theorem dX7_number_85 : decode cX7_number 85 = .ok (.aload_n 0, 1) := dk_42 (dk_at dksX7_number_3 16 rfl rfl)
theorem dX7_number_86 : decode cX7_number 86 = .ok (.iload_n 2, 1) := dk_28 (dk_at dksX7_number_3 17 rfl rfl)
theorem dX7_number_87 : decode cX7_number 87 = .ok (.iload_n 1, 1) := dk_27 (dk_at dksX7_number_3 18 rfl rfl)
theorem dX7_number_88 : decode cX7_number 88 = .ok (.if_icmp .gt 7, 3) := dk_163 0 7 (dk_at dksX7_number_3 19 rfl rfl)
theorem dX7_number_91 : decode cX7_number 91 = .ok (.iconst 1, 1) := dk_4 (dk_at dksX7_number_3 22 rfl rfl)
theorem dX7_number_92 : decode cX7_number 92 = .ok (.goto 4, 3) := dk_167 0 4 (dk_at dksX7_number_4 0 rfl rfl)
theorem dX7_number_95 : decode cX7_number 95 = .ok (.iconst 0, 1) := dk_3 (dk_at dksX7_number_4 3 rfl rfl)
theorem dX7_number_96 : decode cX7_number 96 = .ok (.invokevirtual 28, 3) := dk_182 0 28 (dk_at dksX7_number_4 4 rfl rfl)
theorem dX7_number_99 : decode cX7_number 99 = .ok (.aload_n 0, 1) := dk_42 (dk_at dksX7_number_4 7 rfl rfl)
theorem dX7_number_100 : decode cX7_number 100 = .ok (.invokevirtual 25, 3) := dk_182 0 25 (dk_at dksX7_number_4 8 rfl rfl)
theorem dX7_number_103 : decode cX7_number 103 = .ok (.iload_n 2, 1) := dk_28 (dk_at dksX7_number_4 11 rfl rfl)
theorem dX7_number_104 : decode cX7_number 104 = .ok (.ireturn, 1) := dk_172 (dk_at dksX7_number_4 12 rfl rfl)
abbrev cX7_behindWord : ByteArray := prog_16_method_21_code
def yX7_behindWord : MethodName := ⟨RX7, "behindWord", "(I)LCounterDesk$Sum;"⟩
def dkwX7_behindWord_0 : List UInt8 := [187, 0, 195, 89, 27, 183, 0, 197, 176]
abbrev dktX7_behindWord_0 : List UInt8 := dkwX7_behindWord_0 ++ []
theorem dksX7_behindWord_0 : cX7_behindWord.data.toList.drop 0 = dktX7_behindWord_0 := by decide +kernel
theorem dX7_behindWord_0 : decode cX7_behindWord 0 = .ok (.new 195, 3) := dk_187 0 195 (dk_at dksX7_behindWord_0 0 rfl rfl)
theorem dX7_behindWord_3 : decode cX7_behindWord 3 = .ok (.dup, 1) := dk_89 (dk_at dksX7_behindWord_0 3 rfl rfl)
theorem dX7_behindWord_4 : decode cX7_behindWord 4 = .ok (.iload_n 1, 1) := dk_27 (dk_at dksX7_behindWord_0 4 rfl rfl)
theorem dX7_behindWord_5 : decode cX7_behindWord 5 = .ok (.invokespecial 197, 3) := dk_183 0 197 (dk_at dksX7_behindWord_0 5 rfl rfl)
theorem dX7_behindWord_8 : decode cX7_behindWord 8 = .ok (.areturn, 1) := dk_176 (dk_at dksX7_behindWord_0 8 rfl rfl)
abbrev cX7_test : ByteArray := prog_16_method_10_code
def yX7_test : MethodName := ⟨RX7, "test", "()LCounterDesk$Test;"⟩
def dkwX7_test_1 : List UInt8 := [182, 0, 83, 182, 0, 87, 167, 255, 239, 42, 3, 27, 182, 0, 93, 176]
abbrev dktX7_test_1 : List UInt8 := dkwX7_test_1 ++ []
def dkwX7_test_0 : List UInt8 := [42, 180, 0, 80, 60, 42, 42, 182, 0, 83, 182, 0, 87, 42, 18, 91, 182, 0, 38, 153, 0, 14, 42, 42]
abbrev dktX7_test_0 : List UInt8 := dkwX7_test_0 ++ dktX7_test_1
theorem dksX7_test_0 : cX7_test.data.toList.drop 0 = dktX7_test_0 := by decide +kernel
theorem dksX7_test_1 : cX7_test.data.toList.drop 24 = dktX7_test_1 := dk_seg dksX7_test_0 24 rfl rfl
theorem dX7_test_0 : decode cX7_test 0 = .ok (.aload_n 0, 1) := dk_42 (dk_at dksX7_test_0 0 rfl rfl)
theorem dX7_test_1 : decode cX7_test 1 = .ok (.getfield 80, 3) := dk_180 0 80 (dk_at dksX7_test_0 1 rfl rfl)
theorem dX7_test_4 : decode cX7_test 4 = .ok (.istore_n 1, 1) := dk_60 (dk_at dksX7_test_0 4 rfl rfl)
theorem dX7_test_5 : decode cX7_test 5 = .ok (.aload_n 0, 1) := dk_42 (dk_at dksX7_test_0 5 rfl rfl)
theorem dX7_test_6 : decode cX7_test 6 = .ok (.aload_n 0, 1) := dk_42 (dk_at dksX7_test_0 6 rfl rfl)
theorem dX7_test_7 : decode cX7_test 7 = .ok (.invokevirtual 83, 3) := dk_182 0 83 (dk_at dksX7_test_0 7 rfl rfl)
theorem dX7_test_10 : decode cX7_test 10 = .ok (.invokevirtual 87, 3) := dk_182 0 87 (dk_at dksX7_test_0 10 rfl rfl)
theorem dX7_test_13 : decode cX7_test 13 = .ok (.aload_n 0, 1) := dk_42 (dk_at dksX7_test_0 13 rfl rfl)
theorem dX7_test_14 : decode cX7_test 14 = .ok (.ldc 91, 2) := dk_18 91 (dk_at dksX7_test_0 14 rfl rfl)
theorem dX7_test_16 : decode cX7_test 16 = .ok (.invokevirtual 38, 3) := dk_182 0 38 (dk_at dksX7_test_0 16 rfl rfl)
theorem dX7_test_19 : decode cX7_test 19 = .ok (.ifCond .eq 14, 3) := dk_153 0 14 (dk_at dksX7_test_0 19 rfl rfl)
theorem dX7_test_22 : decode cX7_test 22 = .ok (.aload_n 0, 1) := dk_42 (dk_at dksX7_test_0 22 rfl rfl)
theorem dX7_test_23 : decode cX7_test 23 = .ok (.aload_n 0, 1) := dk_42 (dk_at dksX7_test_0 23 rfl rfl)
theorem dX7_test_24 : decode cX7_test 24 = .ok (.invokevirtual 83, 3) := dk_182 0 83 (dk_at dksX7_test_1 0 rfl rfl)
theorem dX7_test_27 : decode cX7_test 27 = .ok (.invokevirtual 87, 3) := dk_182 0 87 (dk_at dksX7_test_1 3 rfl rfl)
theorem dX7_test_30 : decode cX7_test 30 = .ok (.goto (-17), 3) := dk_167 255 239 (dk_at dksX7_test_1 6 rfl rfl)
theorem dX7_test_33 : decode cX7_test 33 = .ok (.aload_n 0, 1) := dk_42 (dk_at dksX7_test_1 9 rfl rfl)
theorem dX7_test_34 : decode cX7_test 34 = .ok (.iconst 0, 1) := dk_3 (dk_at dksX7_test_1 10 rfl rfl)
theorem dX7_test_35 : decode cX7_test 35 = .ok (.iload_n 1, 1) := dk_27 (dk_at dksX7_test_1 11 rfl rfl)
theorem dX7_test_36 : decode cX7_test 36 = .ok (.invokevirtual 93, 3) := dk_182 0 93 (dk_at dksX7_test_1 12 rfl rfl)
theorem dX7_test_39 : decode cX7_test 39 = .ok (.areturn, 1) := dk_176 (dk_at dksX7_test_1 15 rfl rfl)
abbrev cX7_both : ByteArray := prog_16_method_11_code
def yX7_both : MethodName := ⟨RX7, "both", "()LCounterDesk$Test;"⟩
def dkwX7_both_1 : List UInt8 := [182, 0, 97, 182, 0, 87, 167, 255, 239, 42, 4, 27, 182, 0, 93, 176]
abbrev dktX7_both_1 : List UInt8 := dkwX7_both_1 ++ []
def dkwX7_both_0 : List UInt8 := [42, 180, 0, 80, 60, 42, 42, 182, 0, 97, 182, 0, 87, 42, 18, 100, 182, 0, 38, 153, 0, 14, 42, 42]
abbrev dktX7_both_0 : List UInt8 := dkwX7_both_0 ++ dktX7_both_1
theorem dksX7_both_0 : cX7_both.data.toList.drop 0 = dktX7_both_0 := by decide +kernel
theorem dksX7_both_1 : cX7_both.data.toList.drop 24 = dktX7_both_1 := dk_seg dksX7_both_0 24 rfl rfl
theorem dX7_both_0 : decode cX7_both 0 = .ok (.aload_n 0, 1) := dk_42 (dk_at dksX7_both_0 0 rfl rfl)
theorem dX7_both_1 : decode cX7_both 1 = .ok (.getfield 80, 3) := dk_180 0 80 (dk_at dksX7_both_0 1 rfl rfl)
theorem dX7_both_4 : decode cX7_both 4 = .ok (.istore_n 1, 1) := dk_60 (dk_at dksX7_both_0 4 rfl rfl)
theorem dX7_both_5 : decode cX7_both 5 = .ok (.aload_n 0, 1) := dk_42 (dk_at dksX7_both_0 5 rfl rfl)
theorem dX7_both_6 : decode cX7_both 6 = .ok (.aload_n 0, 1) := dk_42 (dk_at dksX7_both_0 6 rfl rfl)
theorem dX7_both_7 : decode cX7_both 7 = .ok (.invokevirtual 97, 3) := dk_182 0 97 (dk_at dksX7_both_0 7 rfl rfl)
theorem dX7_both_10 : decode cX7_both 10 = .ok (.invokevirtual 87, 3) := dk_182 0 87 (dk_at dksX7_both_0 10 rfl rfl)
theorem dX7_both_13 : decode cX7_both 13 = .ok (.aload_n 0, 1) := dk_42 (dk_at dksX7_both_0 13 rfl rfl)
theorem dX7_both_14 : decode cX7_both 14 = .ok (.ldc 100, 2) := dk_18 100 (dk_at dksX7_both_0 14 rfl rfl)
theorem dX7_both_16 : decode cX7_both 16 = .ok (.invokevirtual 38, 3) := dk_182 0 38 (dk_at dksX7_both_0 16 rfl rfl)
theorem dX7_both_19 : decode cX7_both 19 = .ok (.ifCond .eq 14, 3) := dk_153 0 14 (dk_at dksX7_both_0 19 rfl rfl)
theorem dX7_both_22 : decode cX7_both 22 = .ok (.aload_n 0, 1) := dk_42 (dk_at dksX7_both_0 22 rfl rfl)
theorem dX7_both_23 : decode cX7_both 23 = .ok (.aload_n 0, 1) := dk_42 (dk_at dksX7_both_0 23 rfl rfl)
theorem dX7_both_24 : decode cX7_both 24 = .ok (.invokevirtual 97, 3) := dk_182 0 97 (dk_at dksX7_both_1 0 rfl rfl)
theorem dX7_both_27 : decode cX7_both 27 = .ok (.invokevirtual 87, 3) := dk_182 0 87 (dk_at dksX7_both_1 3 rfl rfl)
theorem dX7_both_30 : decode cX7_both 30 = .ok (.goto (-17), 3) := dk_167 255 239 (dk_at dksX7_both_1 6 rfl rfl)
theorem dX7_both_33 : decode cX7_both 33 = .ok (.aload_n 0, 1) := dk_42 (dk_at dksX7_both_1 9 rfl rfl)
theorem dX7_both_34 : decode cX7_both 34 = .ok (.iconst 1, 1) := dk_4 (dk_at dksX7_both_1 10 rfl rfl)
theorem dX7_both_35 : decode cX7_both 35 = .ok (.iload_n 1, 1) := dk_27 (dk_at dksX7_both_1 11 rfl rfl)
theorem dX7_both_36 : decode cX7_both 36 = .ok (.invokevirtual 93, 3) := dk_182 0 93 (dk_at dksX7_both_1 12 rfl rfl)
theorem dX7_both_39 : decode cX7_both 39 = .ok (.areturn, 1) := dk_176 (dk_at dksX7_both_1 15 rfl rfl)
abbrev cX7_plain : ByteArray := prog_16_method_17_code
def yX7_plain : MethodName := ⟨RX7, "plain", "()LCounterDesk$Test;"⟩
def dkwX7_plain_5 : List UInt8 := [182, 0, 135, 183, 0, 147, 77, 27, 153, 0, 14, 187, 0, 150, 89, 44, 183, 0, 152, 167, 0, 4, 44, 176]
abbrev dktX7_plain_5 : List UInt8 := dkwX7_plain_5 ++ []
def dkwX7_plain_4 : List UInt8 := [180, 0, 52, 42, 180, 0, 42, 51, 54, 4, 42, 182, 0, 25, 187, 0, 145, 89, 45, 21, 4, 42]
abbrev dktX7_plain_4 : List UInt8 := dkwX7_plain_4 ++ dktX7_plain_5
def dkwX7_plain_3 : List UInt8 := [154, 0, 12, 42, 18, 143, 182, 0, 73, 153, 0, 7, 4, 167, 0, 4, 3, 182, 0, 28, 42, 180, 0, 3]
abbrev dktX7_plain_3 : List UInt8 := dkwX7_plain_3 ++ dktX7_plain_4
def dkwX7_plain_2 : List UInt8 := [167, 0, 77, 42, 182, 0, 135, 78, 42, 42, 18, 139, 182, 0, 73, 154, 0, 21, 42, 18, 141, 182, 0, 73]
abbrev dktX7_plain_2 : List UInt8 := dkwX7_plain_2 ++ dktX7_plain_3
def dkwX7_plain_1 : List UInt8 := [42, 18, 121, 182, 0, 73, 153, 0, 21, 42, 182, 0, 123, 42, 182, 0, 126, 77, 42, 18, 129, 182, 0, 131]
abbrev dktX7_plain_1 : List UInt8 := dkwX7_plain_1 ++ dktX7_plain_2
def dkwX7_plain_0 : List UInt8 := [3, 60, 42, 18, 119, 182, 0, 38, 153, 0, 16, 27, 154, 0, 7, 4, 167, 0, 4, 3, 60, 167, 255, 237]
abbrev dktX7_plain_0 : List UInt8 := dkwX7_plain_0 ++ dktX7_plain_1
theorem dksX7_plain_0 : cX7_plain.data.toList.drop 0 = dktX7_plain_0 := by decide +kernel
theorem dksX7_plain_1 : cX7_plain.data.toList.drop 24 = dktX7_plain_1 := dk_seg dksX7_plain_0 24 rfl rfl
theorem dksX7_plain_2 : cX7_plain.data.toList.drop 48 = dktX7_plain_2 := dk_seg dksX7_plain_1 24 rfl rfl
theorem dksX7_plain_3 : cX7_plain.data.toList.drop 72 = dktX7_plain_3 := dk_seg dksX7_plain_2 24 rfl rfl
theorem dksX7_plain_4 : cX7_plain.data.toList.drop 96 = dktX7_plain_4 := dk_seg dksX7_plain_3 24 rfl rfl
theorem dksX7_plain_5 : cX7_plain.data.toList.drop 118 = dktX7_plain_5 := dk_seg dksX7_plain_4 22 rfl rfl
theorem dX7_plain_0 : decode cX7_plain 0 = .ok (.iconst 0, 1) := dk_3 (dk_at dksX7_plain_0 0 rfl rfl)
theorem dX7_plain_1 : decode cX7_plain 1 = .ok (.istore_n 1, 1) := dk_60 (dk_at dksX7_plain_0 1 rfl rfl)
theorem dX7_plain_2 : decode cX7_plain 2 = .ok (.aload_n 0, 1) := dk_42 (dk_at dksX7_plain_0 2 rfl rfl)
theorem dX7_plain_3 : decode cX7_plain 3 = .ok (.ldc 119, 2) := dk_18 119 (dk_at dksX7_plain_0 3 rfl rfl)
theorem dX7_plain_5 : decode cX7_plain 5 = .ok (.invokevirtual 38, 3) := dk_182 0 38 (dk_at dksX7_plain_0 5 rfl rfl)
theorem dX7_plain_8 : decode cX7_plain 8 = .ok (.ifCond .eq 16, 3) := dk_153 0 16 (dk_at dksX7_plain_0 8 rfl rfl)
theorem dX7_plain_11 : decode cX7_plain 11 = .ok (.iload_n 1, 1) := dk_27 (dk_at dksX7_plain_0 11 rfl rfl)
theorem dX7_plain_12 : decode cX7_plain 12 = .ok (.ifCond .ne 7, 3) := dk_154 0 7 (dk_at dksX7_plain_0 12 rfl rfl)
theorem dX7_plain_15 : decode cX7_plain 15 = .ok (.iconst 1, 1) := dk_4 (dk_at dksX7_plain_0 15 rfl rfl)
theorem dX7_plain_16 : decode cX7_plain 16 = .ok (.goto 4, 3) := dk_167 0 4 (dk_at dksX7_plain_0 16 rfl rfl)
theorem dX7_plain_19 : decode cX7_plain 19 = .ok (.iconst 0, 1) := dk_3 (dk_at dksX7_plain_0 19 rfl rfl)
theorem dX7_plain_20 : decode cX7_plain 20 = .ok (.istore_n 1, 1) := dk_60 (dk_at dksX7_plain_0 20 rfl rfl)
theorem dX7_plain_21 : decode cX7_plain 21 = .ok (.goto (-19), 3) := dk_167 255 237 (dk_at dksX7_plain_0 21 rfl rfl)
theorem dX7_plain_24 : decode cX7_plain 24 = .ok (.aload_n 0, 1) := dk_42 (dk_at dksX7_plain_1 0 rfl rfl)
theorem dX7_plain_25 : decode cX7_plain 25 = .ok (.ldc 121, 2) := dk_18 121 (dk_at dksX7_plain_1 1 rfl rfl)
theorem dX7_plain_27 : decode cX7_plain 27 = .ok (.invokevirtual 73, 3) := dk_182 0 73 (dk_at dksX7_plain_1 3 rfl rfl)
theorem dX7_plain_30 : decode cX7_plain 30 = .ok (.ifCond .eq 21, 3) := dk_153 0 21 (dk_at dksX7_plain_1 6 rfl rfl)
theorem dX7_plain_33 : decode cX7_plain 33 = .ok (.aload_n 0, 1) := dk_42 (dk_at dksX7_plain_1 9 rfl rfl)
theorem dX7_plain_34 : decode cX7_plain 34 = .ok (.invokevirtual 123, 3) := dk_182 0 123 (dk_at dksX7_plain_1 10 rfl rfl)
theorem dX7_plain_37 : decode cX7_plain 37 = .ok (.aload_n 0, 1) := dk_42 (dk_at dksX7_plain_1 13 rfl rfl)
theorem dX7_plain_38 : decode cX7_plain 38 = .ok (.invokevirtual 126, 3) := dk_182 0 126 (dk_at dksX7_plain_1 14 rfl rfl)
theorem dX7_plain_41 : decode cX7_plain 41 = .ok (.astore_n 2, 1) := dk_77 (dk_at dksX7_plain_1 17 rfl rfl)
theorem dX7_plain_42 : decode cX7_plain 42 = .ok (.aload_n 0, 1) := dk_42 (dk_at dksX7_plain_1 18 rfl rfl)
theorem dX7_plain_43 : decode cX7_plain 43 = .ok (.ldc 129, 2) := dk_18 129 (dk_at dksX7_plain_1 19 rfl rfl)
theorem dX7_plain_45 : decode cX7_plain 45 = .ok (.invokevirtual 131, 3) := dk_182 0 131 (dk_at dksX7_plain_1 21 rfl rfl)
theorem dX7_plain_48 : decode cX7_plain 48 = .ok (.goto 77, 3) := dk_167 0 77 (dk_at dksX7_plain_2 0 rfl rfl)
theorem dX7_plain_51 : decode cX7_plain 51 = .ok (.aload_n 0, 1) := dk_42 (dk_at dksX7_plain_2 3 rfl rfl)
theorem dX7_plain_52 : decode cX7_plain 52 = .ok (.invokevirtual 135, 3) := dk_182 0 135 (dk_at dksX7_plain_2 4 rfl rfl)
theorem dX7_plain_55 : decode cX7_plain 55 = .ok (.astore_n 3, 1) := dk_78 (dk_at dksX7_plain_2 7 rfl rfl)
theorem dX7_plain_56 : decode cX7_plain 56 = .ok (.aload_n 0, 1) := dk_42 (dk_at dksX7_plain_2 8 rfl rfl)
theorem dX7_plain_57 : decode cX7_plain 57 = .ok (.aload_n 0, 1) := dk_42 (dk_at dksX7_plain_2 9 rfl rfl)
theorem dX7_plain_58 : decode cX7_plain 58 = .ok (.ldc 139, 2) := dk_18 139 (dk_at dksX7_plain_2 10 rfl rfl)
theorem dX7_plain_60 : decode cX7_plain 60 = .ok (.invokevirtual 73, 3) := dk_182 0 73 (dk_at dksX7_plain_2 12 rfl rfl)
theorem dX7_plain_63 : decode cX7_plain 63 = .ok (.ifCond .ne 21, 3) := dk_154 0 21 (dk_at dksX7_plain_2 15 rfl rfl)
theorem dX7_plain_66 : decode cX7_plain 66 = .ok (.aload_n 0, 1) := dk_42 (dk_at dksX7_plain_2 18 rfl rfl)
theorem dX7_plain_67 : decode cX7_plain 67 = .ok (.ldc 141, 2) := dk_18 141 (dk_at dksX7_plain_2 19 rfl rfl)
theorem dX7_plain_69 : decode cX7_plain 69 = .ok (.invokevirtual 73, 3) := dk_182 0 73 (dk_at dksX7_plain_2 21 rfl rfl)
theorem dX7_plain_72 : decode cX7_plain 72 = .ok (.ifCond .ne 12, 3) := dk_154 0 12 (dk_at dksX7_plain_3 0 rfl rfl)
theorem dX7_plain_75 : decode cX7_plain 75 = .ok (.aload_n 0, 1) := dk_42 (dk_at dksX7_plain_3 3 rfl rfl)
theorem dX7_plain_76 : decode cX7_plain 76 = .ok (.ldc 143, 2) := dk_18 143 (dk_at dksX7_plain_3 4 rfl rfl)
theorem dX7_plain_78 : decode cX7_plain 78 = .ok (.invokevirtual 73, 3) := dk_182 0 73 (dk_at dksX7_plain_3 6 rfl rfl)
theorem dX7_plain_81 : decode cX7_plain 81 = .ok (.ifCond .eq 7, 3) := dk_153 0 7 (dk_at dksX7_plain_3 9 rfl rfl)
theorem dX7_plain_84 : decode cX7_plain 84 = .ok (.iconst 1, 1) := dk_4 (dk_at dksX7_plain_3 12 rfl rfl)
theorem dX7_plain_85 : decode cX7_plain 85 = .ok (.goto 4, 3) := dk_167 0 4 (dk_at dksX7_plain_3 13 rfl rfl)
theorem dX7_plain_88 : decode cX7_plain 88 = .ok (.iconst 0, 1) := dk_3 (dk_at dksX7_plain_3 16 rfl rfl)
theorem dX7_plain_89 : decode cX7_plain 89 = .ok (.invokevirtual 28, 3) := dk_182 0 28 (dk_at dksX7_plain_3 17 rfl rfl)
theorem dX7_plain_92 : decode cX7_plain 92 = .ok (.aload_n 0, 1) := dk_42 (dk_at dksX7_plain_3 20 rfl rfl)
theorem dX7_plain_93 : decode cX7_plain 93 = .ok (.getfield 3, 3) := dk_180 0 3 (dk_at dksX7_plain_3 21 rfl rfl)
theorem dX7_plain_96 : decode cX7_plain 96 = .ok (.getfield 52, 3) := dk_180 0 52 (dk_at dksX7_plain_4 0 rfl rfl)
theorem dX7_plain_99 : decode cX7_plain 99 = .ok (.aload_n 0, 1) := dk_42 (dk_at dksX7_plain_4 3 rfl rfl)
theorem dX7_plain_100 : decode cX7_plain 100 = .ok (.getfield 42, 3) := dk_180 0 42 (dk_at dksX7_plain_4 4 rfl rfl)
theorem dX7_plain_103 : decode cX7_plain 103 = .ok (.baload, 1) := dk_51 (dk_at dksX7_plain_4 7 rfl rfl)
theorem dX7_plain_104 : decode cX7_plain 104 = .ok (.istore 4, 2) := dk_54 4 (dk_at dksX7_plain_4 8 rfl rfl)
theorem dX7_plain_106 : decode cX7_plain 106 = .ok (.aload_n 0, 1) := dk_42 (dk_at dksX7_plain_4 10 rfl rfl)
theorem dX7_plain_107 : decode cX7_plain 107 = .ok (.invokevirtual 25, 3) := dk_182 0 25 (dk_at dksX7_plain_4 11 rfl rfl)
theorem dX7_plain_110 : decode cX7_plain 110 = .ok (.new 145, 3) := dk_187 0 145 (dk_at dksX7_plain_4 14 rfl rfl)
theorem dX7_plain_113 : decode cX7_plain 113 = .ok (.dup, 1) := dk_89 (dk_at dksX7_plain_4 17 rfl rfl)
theorem dX7_plain_114 : decode cX7_plain 114 = .ok (.aload_n 3, 1) := dk_45 (dk_at dksX7_plain_4 18 rfl rfl)
theorem dX7_plain_115 : decode cX7_plain 115 = .ok (.iload 4, 2) := dk_21 4 (dk_at dksX7_plain_4 19 rfl rfl)
theorem dX7_plain_117 : decode cX7_plain 117 = .ok (.aload_n 0, 1) := dk_42 (dk_at dksX7_plain_4 21 rfl rfl)
theorem dX7_plain_118 : decode cX7_plain 118 = .ok (.invokevirtual 135, 3) := dk_182 0 135 (dk_at dksX7_plain_5 0 rfl rfl)
theorem dX7_plain_121 : decode cX7_plain 121 = .ok (.invokespecial 147, 3) := dk_183 0 147 (dk_at dksX7_plain_5 3 rfl rfl)
theorem dX7_plain_124 : decode cX7_plain 124 = .ok (.astore_n 2, 1) := dk_77 (dk_at dksX7_plain_5 6 rfl rfl)
theorem dX7_plain_125 : decode cX7_plain 125 = .ok (.iload_n 1, 1) := dk_27 (dk_at dksX7_plain_5 7 rfl rfl)
theorem dX7_plain_126 : decode cX7_plain 126 = .ok (.ifCond .eq 14, 3) := dk_153 0 14 (dk_at dksX7_plain_5 8 rfl rfl)
theorem dX7_plain_129 : decode cX7_plain 129 = .ok (.new 150, 3) := dk_187 0 150 (dk_at dksX7_plain_5 11 rfl rfl)
theorem dX7_plain_132 : decode cX7_plain 132 = .ok (.dup, 1) := dk_89 (dk_at dksX7_plain_5 14 rfl rfl)
theorem dX7_plain_133 : decode cX7_plain 133 = .ok (.aload_n 2, 1) := dk_44 (dk_at dksX7_plain_5 15 rfl rfl)
theorem dX7_plain_134 : decode cX7_plain 134 = .ok (.invokespecial 152, 3) := dk_183 0 152 (dk_at dksX7_plain_5 16 rfl rfl)
theorem dX7_plain_137 : decode cX7_plain 137 = .ok (.goto 4, 3) := dk_167 0 4 (dk_at dksX7_plain_5 19 rfl rfl)
theorem dX7_plain_140 : decode cX7_plain 140 = .ok (.aload_n 2, 1) := dk_44 (dk_at dksX7_plain_5 22 rfl rfl)
theorem dX7_plain_141 : decode cX7_plain 141 = .ok (.areturn, 1) := dk_176 (dk_at dksX7_plain_5 23 rfl rfl)
abbrev cX7_add : ByteArray := prog_16_method_12_code
def yX7_add : MethodName := ⟨RX7, "add", "(LCounterDesk$Test;)V"⟩
def dkwX7_add_0 : List UInt8 := [42, 180, 0, 17, 42, 180, 0, 80, 43, 83, 42, 89, 180, 0, 80, 4, 96, 181, 0, 80, 177]
abbrev dktX7_add_0 : List UInt8 := dkwX7_add_0 ++ []
theorem dksX7_add_0 : cX7_add.data.toList.drop 0 = dktX7_add_0 := by decide +kernel
theorem dX7_add_0 : decode cX7_add 0 = .ok (.aload_n 0, 1) := dk_42 (dk_at dksX7_add_0 0 rfl rfl)
theorem dX7_add_1 : decode cX7_add 1 = .ok (.getfield 17, 3) := dk_180 0 17 (dk_at dksX7_add_0 1 rfl rfl)
theorem dX7_add_4 : decode cX7_add 4 = .ok (.aload_n 0, 1) := dk_42 (dk_at dksX7_add_0 4 rfl rfl)
theorem dX7_add_5 : decode cX7_add 5 = .ok (.getfield 80, 3) := dk_180 0 80 (dk_at dksX7_add_0 5 rfl rfl)
theorem dX7_add_8 : decode cX7_add 8 = .ok (.aload_n 1, 1) := dk_43 (dk_at dksX7_add_0 8 rfl rfl)
theorem dX7_add_9 : decode cX7_add 9 = .ok (.aastore, 1) := dk_83 (dk_at dksX7_add_0 9 rfl rfl)
theorem dX7_add_10 : decode cX7_add 10 = .ok (.aload_n 0, 1) := dk_42 (dk_at dksX7_add_0 10 rfl rfl)
theorem dX7_add_11 : decode cX7_add 11 = .ok (.dup, 1) := dk_89 (dk_at dksX7_add_0 11 rfl rfl)
theorem dX7_add_12 : decode cX7_add 12 = .ok (.getfield 80, 3) := dk_180 0 80 (dk_at dksX7_add_0 12 rfl rfl)
theorem dX7_add_15 : decode cX7_add 15 = .ok (.iconst 1, 1) := dk_4 (dk_at dksX7_add_0 15 rfl rfl)
theorem dX7_add_16 : decode cX7_add 16 = .ok (.iadd, 1) := dk_96 (dk_at dksX7_add_0 16 rfl rfl)
theorem dX7_add_17 : decode cX7_add 17 = .ok (.putfield 80, 3) := dk_181 0 80 (dk_at dksX7_add_0 17 rfl rfl)
theorem dX7_add_20 : decode cX7_add 20 = .ok (.return_, 1) := dk_177 (dk_at dksX7_add_0 20 rfl rfl)
abbrev cX7_joined : ByteArray := prog_16_method_13_code
def yX7_joined : MethodName := ⟨RX7, "joined", "(ZI)LCounterDesk$Test;"⟩
def dkwX7_joined_2 : List UInt8 := [25, 4, 183, 0, 110, 78, 42, 28, 181, 0, 80, 45, 176]
abbrev dktX7_joined_2 : List UInt8 := dkwX7_joined_2 ++ []
def dkwX7_joined_1 : List UInt8 := [189, 0, 15, 58, 4, 42, 180, 0, 17, 28, 25, 4, 3, 25, 4, 190, 184, 0, 102, 187, 0, 108, 89, 27]
abbrev dktX7_joined_1 : List UInt8 := dkwX7_joined_1 ++ dktX7_joined_2
def dkwX7_joined_0 : List UInt8 := [42, 180, 0, 17, 28, 50, 78, 42, 180, 0, 80, 28, 100, 4, 164, 0, 39, 42, 180, 0, 80, 28, 100]
abbrev dktX7_joined_0 : List UInt8 := dkwX7_joined_0 ++ dktX7_joined_1
theorem dksX7_joined_0 : cX7_joined.data.toList.drop 0 = dktX7_joined_0 := by decide +kernel
theorem dksX7_joined_1 : cX7_joined.data.toList.drop 23 = dktX7_joined_1 := dk_seg dksX7_joined_0 23 rfl rfl
theorem dksX7_joined_2 : cX7_joined.data.toList.drop 47 = dktX7_joined_2 := dk_seg dksX7_joined_1 24 rfl rfl
theorem dX7_joined_0 : decode cX7_joined 0 = .ok (.aload_n 0, 1) := dk_42 (dk_at dksX7_joined_0 0 rfl rfl)
theorem dX7_joined_1 : decode cX7_joined 1 = .ok (.getfield 17, 3) := dk_180 0 17 (dk_at dksX7_joined_0 1 rfl rfl)
theorem dX7_joined_4 : decode cX7_joined 4 = .ok (.iload_n 2, 1) := dk_28 (dk_at dksX7_joined_0 4 rfl rfl)
theorem dX7_joined_5 : decode cX7_joined 5 = .ok (.aaload, 1) := dk_50 (dk_at dksX7_joined_0 5 rfl rfl)
theorem dX7_joined_6 : decode cX7_joined 6 = .ok (.astore_n 3, 1) := dk_78 (dk_at dksX7_joined_0 6 rfl rfl)
theorem dX7_joined_7 : decode cX7_joined 7 = .ok (.aload_n 0, 1) := dk_42 (dk_at dksX7_joined_0 7 rfl rfl)
theorem dX7_joined_8 : decode cX7_joined 8 = .ok (.getfield 80, 3) := dk_180 0 80 (dk_at dksX7_joined_0 8 rfl rfl)
theorem dX7_joined_11 : decode cX7_joined 11 = .ok (.iload_n 2, 1) := dk_28 (dk_at dksX7_joined_0 11 rfl rfl)
theorem dX7_joined_12 : decode cX7_joined 12 = .ok (.isub, 1) := dk_100 (dk_at dksX7_joined_0 12 rfl rfl)
theorem dX7_joined_13 : decode cX7_joined 13 = .ok (.iconst 1, 1) := dk_4 (dk_at dksX7_joined_0 13 rfl rfl)
theorem dX7_joined_14 : decode cX7_joined 14 = .ok (.if_icmp .le 39, 3) := dk_164 0 39 (dk_at dksX7_joined_0 14 rfl rfl)
theorem dX7_joined_17 : decode cX7_joined 17 = .ok (.aload_n 0, 1) := dk_42 (dk_at dksX7_joined_0 17 rfl rfl)
theorem dX7_joined_18 : decode cX7_joined 18 = .ok (.getfield 80, 3) := dk_180 0 80 (dk_at dksX7_joined_0 18 rfl rfl)
theorem dX7_joined_21 : decode cX7_joined 21 = .ok (.iload_n 2, 1) := dk_28 (dk_at dksX7_joined_0 21 rfl rfl)
theorem dX7_joined_22 : decode cX7_joined 22 = .ok (.isub, 1) := dk_100 (dk_at dksX7_joined_0 22 rfl rfl)
theorem dX7_joined_23 : decode cX7_joined 23 = .ok (.anewarray 15, 3) := dk_189 0 15 (dk_at dksX7_joined_1 0 rfl rfl)
theorem dX7_joined_26 : decode cX7_joined 26 = .ok (.astore 4, 2) := dk_58 4 (dk_at dksX7_joined_1 3 rfl rfl)
theorem dX7_joined_28 : decode cX7_joined 28 = .ok (.aload_n 0, 1) := dk_42 (dk_at dksX7_joined_1 5 rfl rfl)
theorem dX7_joined_29 : decode cX7_joined 29 = .ok (.getfield 17, 3) := dk_180 0 17 (dk_at dksX7_joined_1 6 rfl rfl)
theorem dX7_joined_32 : decode cX7_joined 32 = .ok (.iload_n 2, 1) := dk_28 (dk_at dksX7_joined_1 9 rfl rfl)
theorem dX7_joined_33 : decode cX7_joined 33 = .ok (.aload 4, 2) := dk_25 4 (dk_at dksX7_joined_1 10 rfl rfl)
theorem dX7_joined_35 : decode cX7_joined 35 = .ok (.iconst 0, 1) := dk_3 (dk_at dksX7_joined_1 12 rfl rfl)
theorem dX7_joined_36 : decode cX7_joined 36 = .ok (.aload 4, 2) := dk_25 4 (dk_at dksX7_joined_1 13 rfl rfl)
theorem dX7_joined_38 : decode cX7_joined 38 = .ok (.arraylength, 1) := dk_190 (dk_at dksX7_joined_1 15 rfl rfl)
theorem dX7_joined_39 : decode cX7_joined 39 = .ok (.invokestatic 102, 3) := dk_184 0 102 (dk_at dksX7_joined_1 16 rfl rfl)
theorem dX7_joined_42 : decode cX7_joined 42 = .ok (.new 108, 3) := dk_187 0 108 (dk_at dksX7_joined_1 19 rfl rfl)
theorem dX7_joined_45 : decode cX7_joined 45 = .ok (.dup, 1) := dk_89 (dk_at dksX7_joined_1 22 rfl rfl)
theorem dX7_joined_46 : decode cX7_joined 46 = .ok (.iload_n 1, 1) := dk_27 (dk_at dksX7_joined_1 23 rfl rfl)
theorem dX7_joined_47 : decode cX7_joined 47 = .ok (.aload 4, 2) := dk_25 4 (dk_at dksX7_joined_2 0 rfl rfl)
theorem dX7_joined_49 : decode cX7_joined 49 = .ok (.invokespecial 110, 3) := dk_183 0 110 (dk_at dksX7_joined_2 2 rfl rfl)
theorem dX7_joined_52 : decode cX7_joined 52 = .ok (.astore_n 3, 1) := dk_78 (dk_at dksX7_joined_2 5 rfl rfl)
theorem dX7_joined_53 : decode cX7_joined 53 = .ok (.aload_n 0, 1) := dk_42 (dk_at dksX7_joined_2 6 rfl rfl)
theorem dX7_joined_54 : decode cX7_joined 54 = .ok (.iload_n 2, 1) := dk_28 (dk_at dksX7_joined_2 7 rfl rfl)
theorem dX7_joined_55 : decode cX7_joined 55 = .ok (.putfield 80, 3) := dk_181 0 80 (dk_at dksX7_joined_2 8 rfl rfl)
theorem dX7_joined_58 : decode cX7_joined 58 = .ok (.aload_n 3, 1) := dk_45 (dk_at dksX7_joined_2 11 rfl rfl)
theorem dX7_joined_59 : decode cX7_joined 59 = .ok (.areturn, 1) := dk_176 (dk_at dksX7_joined_2 12 rfl rfl)
theorem q150 : (Jvm.Cond.initialized "CounterDesk$Reader") ∈ lw_all := lw_g (lw_at lw_m1 21 rfl) rfl
theorem q348 : (Jvm.Cond.fieldLinkNest "CounterDesk$Reader" (52 : Nat) "CounterDesk" "tape" "[B" "CounterDesk") ∈ lw_tbl := lw_at lw_m1 219 rfl
theorem q351 : (Jvm.Cond.fieldLinkNest "CounterDesk$Reader" (46 : Nat) "CounterDesk" "taped" "I" "CounterDesk") ∈ lw_tbl := lw_at lw_m1 222 rfl
theorem q736 : (Jvm.Cond.instanceMethod ({ cls := "CounterDesk$Reader", name := "<init>", desc := "(LCounterDesk;[Ljava/lang/String;)V" } : Jvm.MethodName)) ∈ lw_all := lw_g (lw_at lw_m3 127 rfl) rfl
theorem q737 : (Jvm.Cond.code ({ cls := "CounterDesk$Reader", name := "<init>", desc := "(LCounterDesk;[Ljava/lang/String;)V" } : Jvm.MethodName) prog_16_method_1_code (3 : Nat) (Option.none : Option Jvm.ClassFile.FieldType)) ∈ lw_all := lw_g (lw_at lw_m3 128 rfl) rfl
theorem q738 : (Jvm.Cond.methodLink "CounterDesk$Reader" (9 : Nat) ({ cls := "java/lang/Object", name := "<init>", desc := "()V" } : Jvm.MethodName)) ∈ lw_all := lw_g (lw_at lw_m3 129 rfl) rfl
theorem q739 : (Jvm.Cond.classLink "CounterDesk$Reader" (15 : Nat) "CounterDesk$Test") ∈ lw_all := lw_g (lw_at lw_m3 130 rfl) rfl
theorem q748 : (Jvm.Cond.fieldLink "CounterDesk$Reader" (42 : Nat) "CounterDesk$Reader" "from" "I") ∈ lw_all := lw_g (lw_at lw_m3 139 rfl) rfl
theorem q751 : (Jvm.Cond.fieldLink "CounterDesk$Reader" (49 : Nat) "CounterDesk$Reader" "to" "I") ∈ lw_all := lw_g (lw_at lw_m3 142 rfl) rfl
theorem q754 : (Jvm.Cond.fieldLink "CounterDesk$Reader" (116 : Nat) "CounterDesk$Reader" "leaves" "I") ∈ lw_all := lw_g (lw_at lw_m3 145 rfl) rfl
theorem q755 : (Jvm.Cond.fieldLink "CounterDesk$Reader" (113 : Nat) "CounterDesk$Reader" "deep" "I") ∈ lw_all := lw_g (lw_at lw_m3 146 rfl) rfl
theorem q756 : (Jvm.Cond.fieldLink "CounterDesk$Reader" (80 : Nat) "CounterDesk$Reader" "piled" "I") ∈ lw_all := lw_g (lw_at lw_m3 147 rfl) rfl
theorem q757 : (Jvm.Cond.fieldLink "CounterDesk$Reader" (17 : Nat) "CounterDesk$Reader" "pile" "[LCounterDesk$Test;") ∈ lw_all := lw_g (lw_at lw_m3 148 rfl) rfl
theorem q758 : (Jvm.Cond.fieldLink "CounterDesk$Reader" (21 : Nat) "CounterDesk$Reader" "words" "[Ljava/lang/String;") ∈ lw_all := lw_g (lw_at lw_m3 149 rfl) rfl
theorem q759 : (Jvm.Cond.fieldLink "CounterDesk$Reader" (3 : Nat) "CounterDesk$Reader" "this$0" "LCounterDesk;") ∈ lw_all := lw_g (lw_at lw_m3 150 rfl) rfl
theorem q767 : (Jvm.Cond.soleField "CounterDesk$Reader" "from") ∈ lw_all := lw_g (lw_at lw_m3 158 rfl) rfl
theorem q769 : (Jvm.Cond.soleField "CounterDesk$Reader" "to") ∈ lw_all := lw_g (lw_at lw_m3 160 rfl) rfl
theorem q771 : (Jvm.Cond.soleField "CounterDesk$Reader" "leaves") ∈ lw_all := lw_g (lw_at lw_m3 162 rfl) rfl
theorem q773 : (Jvm.Cond.soleField "CounterDesk$Reader" "deep") ∈ lw_all := lw_g (lw_at lw_m3 164 rfl) rfl
theorem q775 : (Jvm.Cond.soleField "CounterDesk$Reader" "piled") ∈ lw_all := lw_g (lw_at lw_m3 166 rfl) rfl
theorem q777 : (Jvm.Cond.soleField "CounterDesk$Reader" "pile") ∈ lw_all := lw_g (lw_at lw_m3 168 rfl) rfl
theorem q779 : (Jvm.Cond.soleField "CounterDesk$Reader" "words") ∈ lw_all := lw_g (lw_at lw_m3 170 rfl) rfl
theorem q781 : (Jvm.Cond.soleField "CounterDesk$Reader" "this$0") ∈ lw_all := lw_g (lw_at lw_m3 172 rfl) rfl
theorem q789 : (Jvm.Cond.declares ({ cls := "CounterDesk$Reader", name := "readAll", desc := "()I" } : Jvm.MethodName)) ∈ lw_tbl := lw_at lw_m3 180 rfl
theorem q791 : (Jvm.Cond.instanceMethod ({ cls := "CounterDesk$Reader", name := "readAll", desc := "()I" } : Jvm.MethodName)) ∈ lw_all := lw_g (lw_at lw_m3 182 rfl) rfl
theorem q792 : (Jvm.Cond.code ({ cls := "CounterDesk$Reader", name := "readAll", desc := "()I" } : Jvm.MethodName) prog_16_method_2_code (2 : Nat) (Option.some Jvm.ClassFile.FieldType.int)) ∈ lw_all := lw_g (lw_at lw_m3 183 rfl) rfl
theorem q793 : (Jvm.Cond.methodLink "CounterDesk$Reader" (25 : Nat) ({ cls := "CounterDesk$Reader", name := "next", desc := "()V" } : Jvm.MethodName)) ∈ lw_all := lw_g (lw_at lw_m3 184 rfl) rfl
theorem q794 : (Jvm.Cond.instanceMethod ({ cls := "CounterDesk$Reader", name := "next", desc := "()V" } : Jvm.MethodName)) ∈ lw_all := lw_g (lw_at lw_m3 185 rfl) rfl
theorem q795 : (Jvm.Cond.sameMethod "CounterDesk$Reader" "CounterDesk$Reader" "next" "()V") ∈ lw_all := lw_g (lw_at lw_m3 186 rfl) rfl
theorem q798 : (Jvm.Cond.code ({ cls := "CounterDesk$Reader", name := "next", desc := "()V" } : Jvm.MethodName) prog_16_method_4_code (3 : Nat) (Option.none : Option Jvm.ClassFile.FieldType)) ∈ lw_all := lw_g (lw_at lw_m3 189 rfl) rfl
theorem q799 : (Jvm.Cond.methodLinkNest "CounterDesk$Reader" (56 : Nat) ({ cls := "CounterDesk", name := "isLetter", desc := "(I)Z" } : Jvm.MethodName) "CounterDesk") ∈ lw_tbl := lw_at lw_m3 190 rfl
theorem q802 : (Jvm.Cond.methodLinkNest "CounterDesk$Reader" (60 : Nat) ({ cls := "CounterDesk", name := "isDigit", desc := "(I)Z" } : Jvm.MethodName) "CounterDesk") ∈ lw_tbl := lw_at lw_m3 193 rfl
theorem q805 : (Jvm.Cond.methodLink "CounterDesk$Reader" (28 : Nat) ({ cls := "CounterDesk$Reader", name := "must", desc := "(Z)V" } : Jvm.MethodName)) ∈ lw_all := lw_g (lw_at lw_m3 196 rfl) rfl
theorem q806 : (Jvm.Cond.instanceMethod ({ cls := "CounterDesk$Reader", name := "must", desc := "(Z)V" } : Jvm.MethodName)) ∈ lw_all := lw_g (lw_at lw_m3 197 rfl) rfl
theorem q807 : (Jvm.Cond.sameMethod "CounterDesk$Reader" "CounterDesk$Reader" "must" "(Z)V") ∈ lw_all := lw_g (lw_at lw_m3 198 rfl) rfl
theorem q810 : (Jvm.Cond.code ({ cls := "CounterDesk$Reader", name := "must", desc := "(Z)V" } : Jvm.MethodName) prog_16_method_8_code (2 : Nat) (Option.none : Option Jvm.ClassFile.FieldType)) ∈ lw_all := lw_g (lw_at lw_m3 201 rfl) rfl
theorem q811 : (Jvm.Cond.classLink "CounterDesk$Reader" (76 : Nat) "CounterDesk$Wrong") ∈ lw_all := lw_g (lw_at lw_m3 202 rfl) rfl
theorem q820 : (Jvm.Cond.methodLink "CounterDesk$Reader" (78 : Nat) ({ cls := "CounterDesk$Wrong", name := "<init>", desc := "(I)V" } : Jvm.MethodName)) ∈ lw_all := lw_g (lw_at lw_m3 211 rfl) rfl
theorem q835 : (Jvm.Cond.methodLink "CounterDesk$Reader" (32 : Nat) ({ cls := "CounterDesk$Reader", name := "read", desc := "(I)V" } : Jvm.MethodName)) ∈ lw_all := lw_g (lw_at lw_m3 226 rfl) rfl
theorem q836 : (Jvm.Cond.declares ({ cls := "CounterDesk$Reader", name := "read", desc := "(I)V" } : Jvm.MethodName)) ∈ lw_tbl := lw_at lw_m3 227 rfl
theorem q837 : (Jvm.Cond.sameMethod "CounterDesk$Reader" "CounterDesk$Reader" "read" "(I)V") ∈ lw_all := lw_g (lw_at lw_m3 228 rfl) rfl
theorem q843 : (Jvm.Cond.declares ({ cls := "CounterDesk$Reader", name := "which", desc := "([Ljava/lang/String;)I" } : Jvm.MethodName)) ∈ lw_tbl := lw_at lw_m3 234 rfl
theorem q845 : (Jvm.Cond.instanceMethod ({ cls := "CounterDesk$Reader", name := "which", desc := "([Ljava/lang/String;)I" } : Jvm.MethodName)) ∈ lw_all := lw_g (lw_at lw_m3 236 rfl) rfl
theorem q846 : (Jvm.Cond.code ({ cls := "CounterDesk$Reader", name := "which", desc := "([Ljava/lang/String;)I" } : Jvm.MethodName) prog_16_method_6_code (3 : Nat) (Option.some Jvm.ClassFile.FieldType.int)) ∈ lw_all := lw_g (lw_at lw_m3 237 rfl) rfl
theorem q847 : (Jvm.Cond.methodLink "CounterDesk$Reader" (73 : Nat) ({ cls := "CounterDesk$Reader", name := "isWord", desc := "(Ljava/lang/String;)Z" } : Jvm.MethodName)) ∈ lw_all := lw_g (lw_at lw_m3 238 rfl) rfl
theorem q848 : (Jvm.Cond.instanceMethod ({ cls := "CounterDesk$Reader", name := "isWord", desc := "(Ljava/lang/String;)Z" } : Jvm.MethodName)) ∈ lw_all := lw_g (lw_at lw_m3 239 rfl) rfl
theorem q849 : (Jvm.Cond.sameMethod "CounterDesk$Reader" "CounterDesk$Reader" "isWord" "(Ljava/lang/String;)Z") ∈ lw_all := lw_g (lw_at lw_m4 0 rfl) rfl
theorem q852 : (Jvm.Cond.code ({ cls := "CounterDesk$Reader", name := "isWord", desc := "(Ljava/lang/String;)Z" } : Jvm.MethodName) prog_16_method_5_code (3 : Nat) (Option.some Jvm.ClassFile.FieldType.boolean)) ∈ lw_all := lw_g (lw_at lw_m4 3 rfl) rfl
theorem q853 : (Jvm.Cond.methodLink "CounterDesk$Reader" (63 : Nat) ({ cls := "java/lang/String", name := "length", desc := "()I" } : Jvm.MethodName)) ∈ lw_all := lw_g (lw_at lw_m4 4 rfl) rfl
theorem q863 : (Jvm.Cond.methodLink "CounterDesk$Reader" (69 : Nat) ({ cls := "java/lang/String", name := "charAt", desc := "(I)C" } : Jvm.MethodName)) ∈ lw_all := lw_g (lw_at lw_m4 14 rfl) rfl
theorem q901 : (Jvm.Cond.declares ({ cls := "CounterDesk$Reader", name := "must", desc := "(Z)V" } : Jvm.MethodName)) ∈ lw_tbl := lw_at lw_m4 52 rfl
theorem q905 : (Jvm.Cond.declares ({ cls := "CounterDesk$Reader", name := "next", desc := "()V" } : Jvm.MethodName)) ∈ lw_tbl := lw_at lw_m4 56 rfl
theorem q909 : (Jvm.Cond.declares ({ cls := "CounterDesk$Reader", name := "sum", desc := "()LCounterDesk$Sum;" } : Jvm.MethodName)) ∈ lw_tbl := lw_at lw_m4 60 rfl
theorem q911 : (Jvm.Cond.instanceMethod ({ cls := "CounterDesk$Reader", name := "sum", desc := "()LCounterDesk$Sum;" } : Jvm.MethodName)) ∈ lw_all := lw_g (lw_at lw_m4 62 rfl) rfl
theorem q912 : (Jvm.Cond.code ({ cls := "CounterDesk$Reader", name := "sum", desc := "()LCounterDesk$Sum;" } : Jvm.MethodName) prog_16_method_18_code (3 : Nat) (Option.some (Jvm.ClassFile.FieldType.object "CounterDesk$Sum"))) ∈ lw_all := lw_g (lw_at lw_m4 63 rfl) rfl
theorem q913 : (Jvm.Cond.methodLink "CounterDesk$Reader" (154 : Nat) ({ cls := "CounterDesk$Reader", name := "term", desc := "()LCounterDesk$Sum;" } : Jvm.MethodName)) ∈ lw_all := lw_g (lw_at lw_m4 64 rfl) rfl
theorem q914 : (Jvm.Cond.privateMethod ({ cls := "CounterDesk$Reader", name := "term", desc := "()LCounterDesk$Sum;" } : Jvm.MethodName)) ∈ lw_tbl := lw_at lw_m4 65 rfl
theorem q915 : (Jvm.Cond.instanceMethod ({ cls := "CounterDesk$Reader", name := "term", desc := "()LCounterDesk$Sum;" } : Jvm.MethodName)) ∈ lw_all := lw_g (lw_at lw_m4 66 rfl) rfl
theorem q916 : (Jvm.Cond.code ({ cls := "CounterDesk$Reader", name := "term", desc := "()LCounterDesk$Sum;" } : Jvm.MethodName) prog_16_method_19_code (3 : Nat) (Option.some (Jvm.ClassFile.FieldType.object "CounterDesk$Sum"))) ∈ lw_all := lw_g (lw_at lw_m4 67 rfl) rfl
theorem q917 : (Jvm.Cond.methodLink "CounterDesk$Reader" (164 : Nat) ({ cls := "CounterDesk$Reader", name := "part", desc := "()LCounterDesk$Sum;" } : Jvm.MethodName)) ∈ lw_all := lw_g (lw_at lw_m4 68 rfl) rfl
theorem q918 : (Jvm.Cond.privateMethod ({ cls := "CounterDesk$Reader", name := "part", desc := "()LCounterDesk$Sum;" } : Jvm.MethodName)) ∈ lw_tbl := lw_at lw_m4 69 rfl
theorem q919 : (Jvm.Cond.instanceMethod ({ cls := "CounterDesk$Reader", name := "part", desc := "()LCounterDesk$Sum;" } : Jvm.MethodName)) ∈ lw_all := lw_g (lw_at lw_m4 70 rfl) rfl
theorem q920 : (Jvm.Cond.code ({ cls := "CounterDesk$Reader", name := "part", desc := "()LCounterDesk$Sum;" } : Jvm.MethodName) prog_16_method_20_code (2 : Nat) (Option.some (Jvm.ClassFile.FieldType.object "CounterDesk$Sum"))) ∈ lw_all := lw_g (lw_at lw_m4 71 rfl) rfl
theorem q921 : (Jvm.Cond.stringRef "CounterDesk$Reader" (173 : Nat) "[") ∈ lw_tbl := lw_at lw_m4 72 rfl
theorem q922 : (Jvm.Cond.methodLink "CounterDesk$Reader" (123 : Nat) ({ cls := "CounterDesk$Reader", name := "open", desc := "()V" } : Jvm.MethodName)) ∈ lw_all := lw_g (lw_at lw_m4 73 rfl) rfl
theorem q923 : (Jvm.Cond.privateMethod ({ cls := "CounterDesk$Reader", name := "open", desc := "()V" } : Jvm.MethodName)) ∈ lw_tbl := lw_at lw_m4 74 rfl
theorem q924 : (Jvm.Cond.instanceMethod ({ cls := "CounterDesk$Reader", name := "open", desc := "()V" } : Jvm.MethodName)) ∈ lw_all := lw_g (lw_at lw_m4 75 rfl) rfl
theorem q925 : (Jvm.Cond.code ({ cls := "CounterDesk$Reader", name := "open", desc := "()V" } : Jvm.MethodName) prog_16_method_14_code (1 : Nat) (Option.none : Option Jvm.ClassFile.FieldType)) ∈ lw_all := lw_g (lw_at lw_m4 76 rfl) rfl
theorem q926 : (Jvm.Cond.methodLink "CounterDesk$Reader" (135 : Nat) ({ cls := "CounterDesk$Reader", name := "sum", desc := "()LCounterDesk$Sum;" } : Jvm.MethodName)) ∈ lw_all := lw_g (lw_at lw_m4 77 rfl) rfl
theorem q927 : (Jvm.Cond.stringRef "CounterDesk$Reader" (175 : Nat) "]") ∈ lw_tbl := lw_at lw_m4 78 rfl
theorem q928 : (Jvm.Cond.methodLink "CounterDesk$Reader" (131 : Nat) ({ cls := "CounterDesk$Reader", name := "close", desc := "(Ljava/lang/String;)V" } : Jvm.MethodName)) ∈ lw_all := lw_g (lw_at lw_m4 79 rfl) rfl
theorem q929 : (Jvm.Cond.privateMethod ({ cls := "CounterDesk$Reader", name := "close", desc := "(Ljava/lang/String;)V" } : Jvm.MethodName)) ∈ lw_tbl := lw_at lw_m4 80 rfl
theorem q930 : (Jvm.Cond.instanceMethod ({ cls := "CounterDesk$Reader", name := "close", desc := "(Ljava/lang/String;)V" } : Jvm.MethodName)) ∈ lw_all := lw_g (lw_at lw_m4 81 rfl) rfl
theorem q931 : (Jvm.Cond.code ({ cls := "CounterDesk$Reader", name := "close", desc := "(Ljava/lang/String;)V" } : Jvm.MethodName) prog_16_method_15_code (2 : Nat) (Option.none : Option Jvm.ClassFile.FieldType)) ∈ lw_all := lw_g (lw_at lw_m4 82 rfl) rfl
theorem q932 : (Jvm.Cond.methodLink "CounterDesk$Reader" (38 : Nat) ({ cls := "CounterDesk$Reader", name := "accept", desc := "(Ljava/lang/String;)Z" } : Jvm.MethodName)) ∈ lw_all := lw_g (lw_at lw_m4 83 rfl) rfl
theorem q933 : (Jvm.Cond.instanceMethod ({ cls := "CounterDesk$Reader", name := "accept", desc := "(Ljava/lang/String;)Z" } : Jvm.MethodName)) ∈ lw_all := lw_g (lw_at lw_m4 84 rfl) rfl
theorem q934 : (Jvm.Cond.sameMethod "CounterDesk$Reader" "CounterDesk$Reader" "accept" "(Ljava/lang/String;)Z") ∈ lw_all := lw_g (lw_at lw_m4 85 rfl) rfl
theorem q937 : (Jvm.Cond.code ({ cls := "CounterDesk$Reader", name := "accept", desc := "(Ljava/lang/String;)Z" } : Jvm.MethodName) prog_16_method_7_code (3 : Nat) (Option.some Jvm.ClassFile.FieldType.boolean)) ∈ lw_all := lw_g (lw_at lw_m4 88 rfl) rfl
theorem q938 : (Jvm.Cond.methodLink "CounterDesk$Reader" (177 : Nat) ({ cls := "CounterDesk$Reader", name := "which", desc := "([Ljava/lang/String;)I" } : Jvm.MethodName)) ∈ lw_all := lw_g (lw_at lw_m4 89 rfl) rfl
theorem q939 : (Jvm.Cond.methodLink "CounterDesk$Reader" (181 : Nat) ({ cls := "CounterDesk$Reader", name := "leaf", desc := "()V" } : Jvm.MethodName)) ∈ lw_all := lw_g (lw_at lw_m4 90 rfl) rfl
theorem q940 : (Jvm.Cond.privateMethod ({ cls := "CounterDesk$Reader", name := "leaf", desc := "()V" } : Jvm.MethodName)) ∈ lw_tbl := lw_at lw_m4 91 rfl
theorem q941 : (Jvm.Cond.instanceMethod ({ cls := "CounterDesk$Reader", name := "leaf", desc := "()V" } : Jvm.MethodName)) ∈ lw_all := lw_g (lw_at lw_m4 92 rfl) rfl
theorem q942 : (Jvm.Cond.code ({ cls := "CounterDesk$Reader", name := "leaf", desc := "()V" } : Jvm.MethodName) prog_16_method_16_code (1 : Nat) (Option.none : Option Jvm.ClassFile.FieldType)) ∈ lw_all := lw_g (lw_at lw_m4 93 rfl) rfl
theorem q943 : (Jvm.Cond.classLink "CounterDesk$Reader" (184 : Nat) "CounterDesk$Amount") ∈ lw_all := lw_g (lw_at lw_m4 94 rfl) rfl
theorem q945 : (Jvm.Cond.methodLink "CounterDesk$Reader" (186 : Nat) ({ cls := "CounterDesk$Reader", name := "number", desc := "(I)I" } : Jvm.MethodName)) ∈ lw_all := lw_g (lw_at lw_m4 96 rfl) rfl
theorem q946 : (Jvm.Cond.instanceMethod ({ cls := "CounterDesk$Reader", name := "number", desc := "(I)I" } : Jvm.MethodName)) ∈ lw_all := lw_g (lw_at lw_m4 97 rfl) rfl
theorem q947 : (Jvm.Cond.sameMethod "CounterDesk$Reader" "CounterDesk$Reader" "number" "(I)I") ∈ lw_all := lw_g (lw_at lw_m4 98 rfl) rfl
theorem q950 : (Jvm.Cond.code ({ cls := "CounterDesk$Reader", name := "number", desc := "(I)I" } : Jvm.MethodName) prog_16_method_9_code (4 : Nat) (Option.some Jvm.ClassFile.FieldType.int)) ∈ lw_all := lw_g (lw_at lw_m4 101 rfl) rfl
theorem q951 : (Jvm.Cond.methodLink "CounterDesk$Reader" (190 : Nat) ({ cls := "CounterDesk$Amount", name := "<init>", desc := "(I)V" } : Jvm.MethodName)) ∈ lw_all := lw_g (lw_at lw_m4 102 rfl) rfl
theorem q962 : (Jvm.Cond.methodLink "CounterDesk$Reader" (191 : Nat) ({ cls := "CounterDesk$Reader", name := "behindWord", desc := "(I)LCounterDesk$Sum;" } : Jvm.MethodName)) ∈ lw_all := lw_g (lw_at lw_m4 113 rfl) rfl
theorem q963 : (Jvm.Cond.instanceMethod ({ cls := "CounterDesk$Reader", name := "behindWord", desc := "(I)LCounterDesk$Sum;" } : Jvm.MethodName)) ∈ lw_all := lw_g (lw_at lw_m4 114 rfl) rfl
theorem q964 : (Jvm.Cond.sameMethod "CounterDesk$Reader" "CounterDesk$Reader" "behindWord" "(I)LCounterDesk$Sum;") ∈ lw_all := lw_g (lw_at lw_m4 115 rfl) rfl
theorem q983 : (Jvm.Cond.declares ({ cls := "CounterDesk$Reader", name := "number", desc := "(I)I" } : Jvm.MethodName)) ∈ lw_tbl := lw_at lw_m4 134 rfl
theorem q999 : (Jvm.Cond.code ({ cls := "CounterDesk$Reader", name := "behindWord", desc := "(I)LCounterDesk$Sum;" } : Jvm.MethodName) prog_16_method_21_code (2 : Nat) (Option.some (Jvm.ClassFile.FieldType.object "CounterDesk$Sum"))) ∈ lw_all := lw_g (lw_at lw_m4 150 rfl) rfl
theorem q1000 : (Jvm.Cond.classLink "CounterDesk$Reader" (195 : Nat) "CounterDesk$Part") ∈ lw_all := lw_g (lw_at lw_m4 151 rfl) rfl
theorem q1001 : (Jvm.Cond.methodLink "CounterDesk$Reader" (197 : Nat) ({ cls := "CounterDesk$Part", name := "<init>", desc := "(I)V" } : Jvm.MethodName)) ∈ lw_all := lw_g (lw_at lw_m4 152 rfl) rfl
theorem q1002 : (Jvm.Cond.stringRef "CounterDesk$Reader" (167 : Nat) "*") ∈ lw_tbl := lw_at lw_m4 153 rfl
theorem q1003 : (Jvm.Cond.stringRef "CounterDesk$Reader" (169 : Nat) "/") ∈ lw_tbl := lw_at lw_m4 154 rfl
theorem q1004 : (Jvm.Cond.stringRef "CounterDesk$Reader" (171 : Nat) "%") ∈ lw_tbl := lw_at lw_m4 155 rfl
theorem q1005 : (Jvm.Cond.classLink "CounterDesk$Reader" (161 : Nat) "CounterDesk$Joined") ∈ lw_all := lw_g (lw_at lw_m4 156 rfl) rfl
theorem q1007 : (Jvm.Cond.methodLink "CounterDesk$Reader" (163 : Nat) ({ cls := "CounterDesk$Joined", name := "<init>", desc := "(LCounterDesk$Sum;ILCounterDesk$Sum;)V" } : Jvm.MethodName)) ∈ lw_all := lw_g (lw_at lw_m4 158 rfl) rfl
theorem q1021 : (Jvm.Cond.stringRef "CounterDesk$Reader" (157 : Nat) "+") ∈ lw_tbl := lw_at lw_m4 172 rfl
theorem q1022 : (Jvm.Cond.stringRef "CounterDesk$Reader" (159 : Nat) "-") ∈ lw_tbl := lw_at lw_m4 173 rfl
theorem q1027 : (Jvm.Cond.declares ({ cls := "CounterDesk$Reader", name := "accept", desc := "(Ljava/lang/String;)Z" } : Jvm.MethodName)) ∈ lw_tbl := lw_at lw_m4 178 rfl
theorem q1031 : (Jvm.Cond.declares ({ cls := "CounterDesk$Reader", name := "test", desc := "()LCounterDesk$Test;" } : Jvm.MethodName)) ∈ lw_tbl := lw_at lw_m4 182 rfl
theorem q1033 : (Jvm.Cond.instanceMethod ({ cls := "CounterDesk$Reader", name := "test", desc := "()LCounterDesk$Test;" } : Jvm.MethodName)) ∈ lw_all := lw_g (lw_at lw_m4 184 rfl) rfl
theorem q1034 : (Jvm.Cond.code ({ cls := "CounterDesk$Reader", name := "test", desc := "()LCounterDesk$Test;" } : Jvm.MethodName) prog_16_method_10_code (2 : Nat) (Option.some (Jvm.ClassFile.FieldType.object "CounterDesk$Test"))) ∈ lw_all := lw_g (lw_at lw_m4 185 rfl) rfl
theorem q1035 : (Jvm.Cond.methodLink "CounterDesk$Reader" (83 : Nat) ({ cls := "CounterDesk$Reader", name := "both", desc := "()LCounterDesk$Test;" } : Jvm.MethodName)) ∈ lw_all := lw_g (lw_at lw_m4 186 rfl) rfl
theorem q1036 : (Jvm.Cond.privateMethod ({ cls := "CounterDesk$Reader", name := "both", desc := "()LCounterDesk$Test;" } : Jvm.MethodName)) ∈ lw_tbl := lw_at lw_m4 187 rfl
theorem q1037 : (Jvm.Cond.instanceMethod ({ cls := "CounterDesk$Reader", name := "both", desc := "()LCounterDesk$Test;" } : Jvm.MethodName)) ∈ lw_all := lw_g (lw_at lw_m4 188 rfl) rfl
theorem q1038 : (Jvm.Cond.code ({ cls := "CounterDesk$Reader", name := "both", desc := "()LCounterDesk$Test;" } : Jvm.MethodName) prog_16_method_11_code (2 : Nat) (Option.some (Jvm.ClassFile.FieldType.object "CounterDesk$Test"))) ∈ lw_all := lw_g (lw_at lw_m4 189 rfl) rfl
theorem q1039 : (Jvm.Cond.methodLink "CounterDesk$Reader" (97 : Nat) ({ cls := "CounterDesk$Reader", name := "plain", desc := "()LCounterDesk$Test;" } : Jvm.MethodName)) ∈ lw_all := lw_g (lw_at lw_m4 190 rfl) rfl
theorem q1040 : (Jvm.Cond.privateMethod ({ cls := "CounterDesk$Reader", name := "plain", desc := "()LCounterDesk$Test;" } : Jvm.MethodName)) ∈ lw_tbl := lw_at lw_m4 191 rfl
theorem q1041 : (Jvm.Cond.instanceMethod ({ cls := "CounterDesk$Reader", name := "plain", desc := "()LCounterDesk$Test;" } : Jvm.MethodName)) ∈ lw_all := lw_g (lw_at lw_m4 192 rfl) rfl
theorem q1042 : (Jvm.Cond.code ({ cls := "CounterDesk$Reader", name := "plain", desc := "()LCounterDesk$Test;" } : Jvm.MethodName) prog_16_method_17_code (5 : Nat) (Option.some (Jvm.ClassFile.FieldType.object "CounterDesk$Test"))) ∈ lw_all := lw_g (lw_at lw_m4 193 rfl) rfl
theorem q1043 : (Jvm.Cond.stringRef "CounterDesk$Reader" (119 : Nat) "not") ∈ lw_tbl := lw_at lw_m4 194 rfl
theorem q1044 : (Jvm.Cond.stringRef "CounterDesk$Reader" (121 : Nat) "(") ∈ lw_tbl := lw_at lw_m4 195 rfl
theorem q1045 : (Jvm.Cond.methodLink "CounterDesk$Reader" (126 : Nat) ({ cls := "CounterDesk$Reader", name := "test", desc := "()LCounterDesk$Test;" } : Jvm.MethodName)) ∈ lw_all := lw_g (lw_at lw_m4 196 rfl) rfl
theorem q1046 : (Jvm.Cond.stringRef "CounterDesk$Reader" (129 : Nat) ")") ∈ lw_tbl := lw_at lw_m4 197 rfl
theorem q1047 : (Jvm.Cond.stringRef "CounterDesk$Reader" (139 : Nat) "<") ∈ lw_tbl := lw_at lw_m4 198 rfl
theorem q1048 : (Jvm.Cond.stringRef "CounterDesk$Reader" (141 : Nat) ">") ∈ lw_tbl := lw_at lw_m4 199 rfl
theorem q1049 : (Jvm.Cond.stringRef "CounterDesk$Reader" (143 : Nat) "=") ∈ lw_tbl := lw_at lw_m4 200 rfl
theorem q1050 : (Jvm.Cond.classLink "CounterDesk$Reader" (145 : Nat) "CounterDesk$Compared") ∈ lw_all := lw_g (lw_at lw_m4 201 rfl) rfl
theorem q1052 : (Jvm.Cond.methodLink "CounterDesk$Reader" (147 : Nat) ({ cls := "CounterDesk$Compared", name := "<init>", desc := "(LCounterDesk$Sum;ILCounterDesk$Sum;)V" } : Jvm.MethodName)) ∈ lw_all := lw_g (lw_at lw_m4 203 rfl) rfl
theorem q1069 : (Jvm.Cond.classLink "CounterDesk$Reader" (150 : Nat) "CounterDesk$Not") ∈ lw_all := lw_g (lw_at lw_m4 220 rfl) rfl
theorem q1071 : (Jvm.Cond.methodLink "CounterDesk$Reader" (152 : Nat) ({ cls := "CounterDesk$Not", name := "<init>", desc := "(LCounterDesk$Test;)V" } : Jvm.MethodName)) ∈ lw_all := lw_g (lw_at lw_m4 222 rfl) rfl
theorem q1079 : (Jvm.Cond.methodLink "CounterDesk$Reader" (87 : Nat) ({ cls := "CounterDesk$Reader", name := "add", desc := "(LCounterDesk$Test;)V" } : Jvm.MethodName)) ∈ lw_all := lw_g (lw_at lw_m4 230 rfl) rfl
theorem q1080 : (Jvm.Cond.privateMethod ({ cls := "CounterDesk$Reader", name := "add", desc := "(LCounterDesk$Test;)V" } : Jvm.MethodName)) ∈ lw_tbl := lw_at lw_m4 231 rfl
theorem q1081 : (Jvm.Cond.instanceMethod ({ cls := "CounterDesk$Reader", name := "add", desc := "(LCounterDesk$Test;)V" } : Jvm.MethodName)) ∈ lw_all := lw_g (lw_at lw_m4 232 rfl) rfl
theorem q1082 : (Jvm.Cond.code ({ cls := "CounterDesk$Reader", name := "add", desc := "(LCounterDesk$Test;)V" } : Jvm.MethodName) prog_16_method_12_code (2 : Nat) (Option.none : Option Jvm.ClassFile.FieldType)) ∈ lw_all := lw_g (lw_at lw_m4 233 rfl) rfl
theorem q1083 : (Jvm.Cond.stringRef "CounterDesk$Reader" (100 : Nat) "and") ∈ lw_tbl := lw_at lw_m4 234 rfl
theorem q1084 : (Jvm.Cond.methodLink "CounterDesk$Reader" (93 : Nat) ({ cls := "CounterDesk$Reader", name := "joined", desc := "(ZI)LCounterDesk$Test;" } : Jvm.MethodName)) ∈ lw_all := lw_g (lw_at lw_m4 235 rfl) rfl
theorem q1085 : (Jvm.Cond.privateMethod ({ cls := "CounterDesk$Reader", name := "joined", desc := "(ZI)LCounterDesk$Test;" } : Jvm.MethodName)) ∈ lw_tbl := lw_at lw_m4 236 rfl
theorem q1086 : (Jvm.Cond.instanceMethod ({ cls := "CounterDesk$Reader", name := "joined", desc := "(ZI)LCounterDesk$Test;" } : Jvm.MethodName)) ∈ lw_all := lw_g (lw_at lw_m4 237 rfl) rfl
theorem q1087 : (Jvm.Cond.code ({ cls := "CounterDesk$Reader", name := "joined", desc := "(ZI)LCounterDesk$Test;" } : Jvm.MethodName) prog_16_method_13_code (5 : Nat) (Option.some (Jvm.ClassFile.FieldType.object "CounterDesk$Test"))) ∈ lw_all := lw_g (lw_at lw_m4 238 rfl) rfl
theorem q1088 : (Jvm.Cond.methodLink "CounterDesk$Reader" (102 : Nat) ({ cls := "java/lang/System", name := "arraycopy", desc := "(Ljava/lang/Object;ILjava/lang/Object;II)V" } : Jvm.MethodName)) ∈ lw_all := lw_g (lw_at lw_m4 239 rfl) rfl
theorem q1089 : (Jvm.Cond.classLink "CounterDesk$Reader" (108 : Nat) "CounterDesk$Row") ∈ lw_all := lw_g (lw_at lw_m5 0 rfl) rfl
theorem q1091 : (Jvm.Cond.methodLink "CounterDesk$Reader" (110 : Nat) ({ cls := "CounterDesk$Row", name := "<init>", desc := "(Z[LCounterDesk$Test;)V" } : Jvm.MethodName)) ∈ lw_all := lw_g (lw_at lw_m5 2 rfl) rfl
theorem q1102 : (Jvm.Cond.stringRef "CounterDesk$Reader" (91 : Nat) "or") ∈ lw_tbl := lw_at lw_m5 13 rfl
theorem q1188 : (Jvm.Cond.stringRef "CounterDesk$Reader" (36 : Nat) ";") ∈ lw_tbl := lw_at lw_m5 99 rfl
theorem q2292 : (Jvm.Cond.sameMethod "CounterDesk$Reader" "CounterDesk$Reader" "term" "()LCounterDesk$Sum;") ∈ lw_all := lw_g (lw_at lw_m10 3 rfl) rfl
theorem q2293 : (Jvm.Cond.sameMethod "CounterDesk$Reader" "CounterDesk$Reader" "part" "()LCounterDesk$Sum;") ∈ lw_all := lw_g (lw_at lw_m10 4 rfl) rfl
theorem q2294 : (Jvm.Cond.sameMethod "CounterDesk$Reader" "CounterDesk$Reader" "open" "()V") ∈ lw_all := lw_g (lw_at lw_m10 5 rfl) rfl
theorem q2295 : (Jvm.Cond.sameMethod "CounterDesk$Reader" "CounterDesk$Reader" "sum" "()LCounterDesk$Sum;") ∈ lw_all := lw_g (lw_at lw_m10 6 rfl) rfl
theorem q2298 : (Jvm.Cond.sameMethod "CounterDesk$Reader" "CounterDesk$Reader" "close" "(Ljava/lang/String;)V") ∈ lw_all := lw_g (lw_at lw_m10 9 rfl) rfl
theorem q2299 : (Jvm.Cond.sameMethod "CounterDesk$Reader" "CounterDesk$Reader" "which" "([Ljava/lang/String;)I") ∈ lw_all := lw_g (lw_at lw_m10 10 rfl) rfl
theorem q2302 : (Jvm.Cond.sameMethod "CounterDesk$Reader" "CounterDesk$Reader" "leaf" "()V") ∈ lw_all := lw_g (lw_at lw_m10 13 rfl) rfl
theorem q2303 : (Jvm.Cond.sameMethod "CounterDesk$Reader" "CounterDesk$Reader" "both" "()LCounterDesk$Test;") ∈ lw_all := lw_g (lw_at lw_m10 14 rfl) rfl
theorem q2304 : (Jvm.Cond.sameMethod "CounterDesk$Reader" "CounterDesk$Reader" "plain" "()LCounterDesk$Test;") ∈ lw_all := lw_g (lw_at lw_m10 15 rfl) rfl
theorem q2305 : (Jvm.Cond.sameMethod "CounterDesk$Reader" "CounterDesk$Reader" "test" "()LCounterDesk$Test;") ∈ lw_all := lw_g (lw_at lw_m10 16 rfl) rfl
theorem q2308 : (Jvm.Cond.sameMethod "CounterDesk$Reader" "CounterDesk$Reader" "add" "(LCounterDesk$Test;)V") ∈ lw_all := lw_g (lw_at lw_m10 19 rfl) rfl
theorem q2309 : (Jvm.Cond.sameMethod "CounterDesk$Reader" "CounterDesk$Reader" "joined" "(ZI)LCounterDesk$Test;") ∈ lw_all := lw_g (lw_at lw_m10 20 rfl) rfl

/-! CounterDesk$LawReader -/
set_option maxRecDepth 100000
def RX8 : String := "CounterDesk$LawReader"
def TX8 : u_T := fun k => match k with
  | 0 => ("CounterDesk$Reader", "from", "I", false)
  | 1 => ("CounterDesk$Reader", "to", "I", false)
  | 2 => ("CounterDesk$Reader", "leaves", "I", false)
  | 3 => ("CounterDesk$Reader", "deep", "I", false)
  | 4 => ("CounterDesk$Reader", "piled", "I", false)
  | 5 => ("CounterDesk$Reader", "pile", "[LCounterDesk$Test;", true)
  | 6 => ("CounterDesk$Reader", "words", "[Ljava/lang/String;", true)
  | 7 => ("CounterDesk$Reader", "this$0", "LCounterDesk;", true)
  | 8 => ("CounterDesk$LawReader", "row", "[LCounterDesk$Clause;", true)
  | 9 => ("CounterDesk$LawReader", "heads", "[Ljava/lang/String;", true)
  | _ => ("CounterDesk$LawReader", "this$0", "LCounterDesk;", true)
def tyX8 : Nat → FieldType := fun k => match k with
  | 0 => .int
  | 1 => .int
  | 2 => .int
  | 3 => .int
  | 4 => .int
  | 5 => .array (.object "CounterDesk$Test")
  | 6 => .array (.object "java/lang/String")
  | 7 => .object "CounterDesk"
  | 8 => .array (.object "CounterDesk$Clause")
  | 9 => .array (.object "java/lang/String")
  | _ => .object "CounterDesk"
abbrev wsX80 : List Cond := u_ws RX8 TX8 11
-- two fields of one name: no nmX8
theorem tyX8_ok : ∀ k, k < 11 → parseFieldDescriptor (TX8 k).2.2.1 = some (tyX8 k) := by decide +kernel
abbrev cX8_init : ByteArray := prog_11_method_1_code
def yX8_init : MethodName := ⟨RX8, "<init>", "(LCounterDesk;)V"⟩
def dkwX8_init_4 : List UInt8 := [18, 47, 83, 181, 0, 49, 177]
abbrev dktX8_init_4 : List UInt8 := dkwX8_init_4 ++ []
def dkwX8_init_3 : List UInt8 := [189, 0, 37, 181, 0, 39, 42, 6, 189, 0, 9, 89, 3, 18, 43, 83, 89, 4, 18, 45, 83, 89, 5]
abbrev dktX8_init_3 : List UInt8 := dkwX8_init_3 ++ dktX8_init_4
def dkwX8_init_2 : List UInt8 := [89, 16, 7, 18, 25, 83, 89, 16, 8, 18, 27, 83, 89, 16, 9, 18, 29, 83, 183, 0, 31, 42, 16, 12]
abbrev dktX8_init_2 : List UInt8 := dkwX8_init_2 ++ dktX8_init_3
def dkwX8_init_1 : List UInt8 := [18, 15, 83, 89, 6, 18, 17, 83, 89, 7, 18, 19, 83, 89, 8, 18, 21, 83, 89, 16, 6, 18, 23, 83]
abbrev dktX8_init_1 : List UInt8 := dkwX8_init_1 ++ dktX8_init_2
def dkwX8_init_0 : List UInt8 := [42, 43, 181, 0, 3, 42, 43, 16, 10, 189, 0, 9, 89, 3, 18, 11, 83, 89, 4, 18, 13, 83, 89, 5]
abbrev dktX8_init_0 : List UInt8 := dkwX8_init_0 ++ dktX8_init_1
theorem dksX8_init_0 : cX8_init.data.toList.drop 0 = dktX8_init_0 := by decide +kernel
theorem dksX8_init_1 : cX8_init.data.toList.drop 24 = dktX8_init_1 := dk_seg dksX8_init_0 24 rfl rfl
theorem dksX8_init_2 : cX8_init.data.toList.drop 48 = dktX8_init_2 := dk_seg dksX8_init_1 24 rfl rfl
theorem dksX8_init_3 : cX8_init.data.toList.drop 72 = dktX8_init_3 := dk_seg dksX8_init_2 24 rfl rfl
theorem dksX8_init_4 : cX8_init.data.toList.drop 95 = dktX8_init_4 := dk_seg dksX8_init_3 23 rfl rfl
theorem dX8_init_0 : decode cX8_init 0 = .ok (.aload_n 0, 1) := dk_42 (dk_at dksX8_init_0 0 rfl rfl)
theorem dX8_init_1 : decode cX8_init 1 = .ok (.aload_n 1, 1) := dk_43 (dk_at dksX8_init_0 1 rfl rfl)
theorem dX8_init_2 : decode cX8_init 2 = .ok (.putfield 3, 3) := dk_181 0 3 (dk_at dksX8_init_0 2 rfl rfl)
theorem dX8_init_5 : decode cX8_init 5 = .ok (.aload_n 0, 1) := dk_42 (dk_at dksX8_init_0 5 rfl rfl)
theorem dX8_init_6 : decode cX8_init 6 = .ok (.aload_n 1, 1) := dk_43 (dk_at dksX8_init_0 6 rfl rfl)
theorem dX8_init_7 : decode cX8_init 7 = .ok (.bipush 10, 2) := dk_16 10 (dk_at dksX8_init_0 7 rfl rfl)
theorem dX8_init_9 : decode cX8_init 9 = .ok (.anewarray 9, 3) := dk_189 0 9 (dk_at dksX8_init_0 9 rfl rfl)
theorem dX8_init_12 : decode cX8_init 12 = .ok (.dup, 1) := dk_89 (dk_at dksX8_init_0 12 rfl rfl)
theorem dX8_init_13 : decode cX8_init 13 = .ok (.iconst 0, 1) := dk_3 (dk_at dksX8_init_0 13 rfl rfl)
theorem dX8_init_14 : decode cX8_init 14 = .ok (.ldc 11, 2) := dk_18 11 (dk_at dksX8_init_0 14 rfl rfl)
theorem dX8_init_16 : decode cX8_init 16 = .ok (.aastore, 1) := dk_83 (dk_at dksX8_init_0 16 rfl rfl)
theorem dX8_init_17 : decode cX8_init 17 = .ok (.dup, 1) := dk_89 (dk_at dksX8_init_0 17 rfl rfl)
theorem dX8_init_18 : decode cX8_init 18 = .ok (.iconst 1, 1) := dk_4 (dk_at dksX8_init_0 18 rfl rfl)
theorem dX8_init_19 : decode cX8_init 19 = .ok (.ldc 13, 2) := dk_18 13 (dk_at dksX8_init_0 19 rfl rfl)
theorem dX8_init_21 : decode cX8_init 21 = .ok (.aastore, 1) := dk_83 (dk_at dksX8_init_0 21 rfl rfl)
theorem dX8_init_22 : decode cX8_init 22 = .ok (.dup, 1) := dk_89 (dk_at dksX8_init_0 22 rfl rfl)
theorem dX8_init_23 : decode cX8_init 23 = .ok (.iconst 2, 1) := dk_5 (dk_at dksX8_init_0 23 rfl rfl)
theorem dX8_init_24 : decode cX8_init 24 = .ok (.ldc 15, 2) := dk_18 15 (dk_at dksX8_init_1 0 rfl rfl)
theorem dX8_init_26 : decode cX8_init 26 = .ok (.aastore, 1) := dk_83 (dk_at dksX8_init_1 2 rfl rfl)
theorem dX8_init_27 : decode cX8_init 27 = .ok (.dup, 1) := dk_89 (dk_at dksX8_init_1 3 rfl rfl)
theorem dX8_init_28 : decode cX8_init 28 = .ok (.iconst 3, 1) := dk_6 (dk_at dksX8_init_1 4 rfl rfl)
theorem dX8_init_29 : decode cX8_init 29 = .ok (.ldc 17, 2) := dk_18 17 (dk_at dksX8_init_1 5 rfl rfl)
theorem dX8_init_31 : decode cX8_init 31 = .ok (.aastore, 1) := dk_83 (dk_at dksX8_init_1 7 rfl rfl)
theorem dX8_init_32 : decode cX8_init 32 = .ok (.dup, 1) := dk_89 (dk_at dksX8_init_1 8 rfl rfl)
theorem dX8_init_33 : decode cX8_init 33 = .ok (.iconst 4, 1) := dk_7 (dk_at dksX8_init_1 9 rfl rfl)
theorem dX8_init_34 : decode cX8_init 34 = .ok (.ldc 19, 2) := dk_18 19 (dk_at dksX8_init_1 10 rfl rfl)
theorem dX8_init_36 : decode cX8_init 36 = .ok (.aastore, 1) := dk_83 (dk_at dksX8_init_1 12 rfl rfl)
theorem dX8_init_37 : decode cX8_init 37 = .ok (.dup, 1) := dk_89 (dk_at dksX8_init_1 13 rfl rfl)
theorem dX8_init_38 : decode cX8_init 38 = .ok (.iconst 5, 1) := dk_8 (dk_at dksX8_init_1 14 rfl rfl)
theorem dX8_init_39 : decode cX8_init 39 = .ok (.ldc 21, 2) := dk_18 21 (dk_at dksX8_init_1 15 rfl rfl)
theorem dX8_init_41 : decode cX8_init 41 = .ok (.aastore, 1) := dk_83 (dk_at dksX8_init_1 17 rfl rfl)
theorem dX8_init_42 : decode cX8_init 42 = .ok (.dup, 1) := dk_89 (dk_at dksX8_init_1 18 rfl rfl)
theorem dX8_init_43 : decode cX8_init 43 = .ok (.bipush 6, 2) := dk_16 6 (dk_at dksX8_init_1 19 rfl rfl)
theorem dX8_init_45 : decode cX8_init 45 = .ok (.ldc 23, 2) := dk_18 23 (dk_at dksX8_init_1 21 rfl rfl)
theorem dX8_init_47 : decode cX8_init 47 = .ok (.aastore, 1) := dk_83 (dk_at dksX8_init_1 23 rfl rfl)
theorem dX8_init_48 : decode cX8_init 48 = .ok (.dup, 1) := dk_89 (dk_at dksX8_init_2 0 rfl rfl)
theorem dX8_init_49 : decode cX8_init 49 = .ok (.bipush 7, 2) := dk_16 7 (dk_at dksX8_init_2 1 rfl rfl)
theorem dX8_init_51 : decode cX8_init 51 = .ok (.ldc 25, 2) := dk_18 25 (dk_at dksX8_init_2 3 rfl rfl)
theorem dX8_init_53 : decode cX8_init 53 = .ok (.aastore, 1) := dk_83 (dk_at dksX8_init_2 5 rfl rfl)
theorem dX8_init_54 : decode cX8_init 54 = .ok (.dup, 1) := dk_89 (dk_at dksX8_init_2 6 rfl rfl)
theorem dX8_init_55 : decode cX8_init 55 = .ok (.bipush 8, 2) := dk_16 8 (dk_at dksX8_init_2 7 rfl rfl)
theorem dX8_init_57 : decode cX8_init 57 = .ok (.ldc 27, 2) := dk_18 27 (dk_at dksX8_init_2 9 rfl rfl)
theorem dX8_init_59 : decode cX8_init 59 = .ok (.aastore, 1) := dk_83 (dk_at dksX8_init_2 11 rfl rfl)
theorem dX8_init_60 : decode cX8_init 60 = .ok (.dup, 1) := dk_89 (dk_at dksX8_init_2 12 rfl rfl)
theorem dX8_init_61 : decode cX8_init 61 = .ok (.bipush 9, 2) := dk_16 9 (dk_at dksX8_init_2 13 rfl rfl)
theorem dX8_init_63 : decode cX8_init 63 = .ok (.ldc 29, 2) := dk_18 29 (dk_at dksX8_init_2 15 rfl rfl)
theorem dX8_init_65 : decode cX8_init 65 = .ok (.aastore, 1) := dk_83 (dk_at dksX8_init_2 17 rfl rfl)
theorem dX8_init_66 : decode cX8_init 66 = .ok (.invokespecial 31, 3) := dk_183 0 31 (dk_at dksX8_init_2 18 rfl rfl)
theorem dX8_init_69 : decode cX8_init 69 = .ok (.aload_n 0, 1) := dk_42 (dk_at dksX8_init_2 21 rfl rfl)
theorem dX8_init_70 : decode cX8_init 70 = .ok (.bipush 12, 2) := dk_16 12 (dk_at dksX8_init_2 22 rfl rfl)
theorem dX8_init_72 : decode cX8_init 72 = .ok (.anewarray 37, 3) := dk_189 0 37 (dk_at dksX8_init_3 0 rfl rfl)
theorem dX8_init_75 : decode cX8_init 75 = .ok (.putfield 39, 3) := dk_181 0 39 (dk_at dksX8_init_3 3 rfl rfl)
theorem dX8_init_78 : decode cX8_init 78 = .ok (.aload_n 0, 1) := dk_42 (dk_at dksX8_init_3 6 rfl rfl)
theorem dX8_init_79 : decode cX8_init 79 = .ok (.iconst 3, 1) := dk_6 (dk_at dksX8_init_3 7 rfl rfl)
theorem dX8_init_80 : decode cX8_init 80 = .ok (.anewarray 9, 3) := dk_189 0 9 (dk_at dksX8_init_3 8 rfl rfl)
theorem dX8_init_83 : decode cX8_init 83 = .ok (.dup, 1) := dk_89 (dk_at dksX8_init_3 11 rfl rfl)
theorem dX8_init_84 : decode cX8_init 84 = .ok (.iconst 0, 1) := dk_3 (dk_at dksX8_init_3 12 rfl rfl)
theorem dX8_init_85 : decode cX8_init 85 = .ok (.ldc 43, 2) := dk_18 43 (dk_at dksX8_init_3 13 rfl rfl)
theorem dX8_init_87 : decode cX8_init 87 = .ok (.aastore, 1) := dk_83 (dk_at dksX8_init_3 15 rfl rfl)
theorem dX8_init_88 : decode cX8_init 88 = .ok (.dup, 1) := dk_89 (dk_at dksX8_init_3 16 rfl rfl)
theorem dX8_init_89 : decode cX8_init 89 = .ok (.iconst 1, 1) := dk_4 (dk_at dksX8_init_3 17 rfl rfl)
theorem dX8_init_90 : decode cX8_init 90 = .ok (.ldc 45, 2) := dk_18 45 (dk_at dksX8_init_3 18 rfl rfl)
theorem dX8_init_92 : decode cX8_init 92 = .ok (.aastore, 1) := dk_83 (dk_at dksX8_init_3 20 rfl rfl)
theorem dX8_init_93 : decode cX8_init 93 = .ok (.dup, 1) := dk_89 (dk_at dksX8_init_3 21 rfl rfl)
theorem dX8_init_94 : decode cX8_init 94 = .ok (.iconst 2, 1) := dk_5 (dk_at dksX8_init_3 22 rfl rfl)
theorem dX8_init_95 : decode cX8_init 95 = .ok (.ldc 47, 2) := dk_18 47 (dk_at dksX8_init_4 0 rfl rfl)
theorem dX8_init_97 : decode cX8_init 97 = .ok (.aastore, 1) := dk_83 (dk_at dksX8_init_4 2 rfl rfl)
theorem dX8_init_98 : decode cX8_init 98 = .ok (.putfield 49, 3) := dk_181 0 49 (dk_at dksX8_init_4 3 rfl rfl)
theorem dX8_init_101 : decode cX8_init 101 = .ok (.return_, 1) := dk_177 (dk_at dksX8_init_4 6 rfl rfl)
abbrev cX8_read : ByteArray := prog_11_method_2_code
def yX8_read : MethodName := ⟨RX8, "read", "()LCounterDesk$Text;"⟩
def dkwX8_read_1 : List UInt8 := [43, 183, 0, 65, 176]
abbrev dktX8_read_1 : List UInt8 := dkwX8_read_1 ++ []
def dkwX8_read_0 : List UInt8 := [42, 182, 0, 53, 189, 0, 37, 76, 42, 180, 0, 39, 3, 43, 3, 43, 190, 184, 0, 57, 187, 0, 63, 89]
abbrev dktX8_read_0 : List UInt8 := dkwX8_read_0 ++ dktX8_read_1
theorem dksX8_read_0 : cX8_read.data.toList.drop 0 = dktX8_read_0 := by decide +kernel
theorem dksX8_read_1 : cX8_read.data.toList.drop 24 = dktX8_read_1 := dk_seg dksX8_read_0 24 rfl rfl
theorem dX8_read_0 : decode cX8_read 0 = .ok (.aload_n 0, 1) := dk_42 (dk_at dksX8_read_0 0 rfl rfl)
theorem dX8_read_1 : decode cX8_read 1 = .ok (.invokevirtual 53, 3) := dk_182 0 53 (dk_at dksX8_read_0 1 rfl rfl)
theorem dX8_read_4 : decode cX8_read 4 = .ok (.anewarray 37, 3) := dk_189 0 37 (dk_at dksX8_read_0 4 rfl rfl)
theorem dX8_read_7 : decode cX8_read 7 = .ok (.astore_n 1, 1) := dk_76 (dk_at dksX8_read_0 7 rfl rfl)
theorem dX8_read_8 : decode cX8_read 8 = .ok (.aload_n 0, 1) := dk_42 (dk_at dksX8_read_0 8 rfl rfl)
theorem dX8_read_9 : decode cX8_read 9 = .ok (.getfield 39, 3) := dk_180 0 39 (dk_at dksX8_read_0 9 rfl rfl)
theorem dX8_read_12 : decode cX8_read 12 = .ok (.iconst 0, 1) := dk_3 (dk_at dksX8_read_0 12 rfl rfl)
theorem dX8_read_13 : decode cX8_read 13 = .ok (.aload_n 1, 1) := dk_43 (dk_at dksX8_read_0 13 rfl rfl)
theorem dX8_read_14 : decode cX8_read 14 = .ok (.iconst 0, 1) := dk_3 (dk_at dksX8_read_0 14 rfl rfl)
theorem dX8_read_15 : decode cX8_read 15 = .ok (.aload_n 1, 1) := dk_43 (dk_at dksX8_read_0 15 rfl rfl)
theorem dX8_read_16 : decode cX8_read 16 = .ok (.arraylength, 1) := dk_190 (dk_at dksX8_read_0 16 rfl rfl)
theorem dX8_read_17 : decode cX8_read 17 = .ok (.invokestatic 57, 3) := dk_184 0 57 (dk_at dksX8_read_0 17 rfl rfl)
theorem dX8_read_20 : decode cX8_read 20 = .ok (.new 63, 3) := dk_187 0 63 (dk_at dksX8_read_0 20 rfl rfl)
theorem dX8_read_23 : decode cX8_read 23 = .ok (.dup, 1) := dk_89 (dk_at dksX8_read_0 23 rfl rfl)
theorem dX8_read_24 : decode cX8_read 24 = .ok (.aload_n 1, 1) := dk_43 (dk_at dksX8_read_1 0 rfl rfl)
theorem dX8_read_25 : decode cX8_read 25 = .ok (.invokespecial 65, 3) := dk_183 0 65 (dk_at dksX8_read_1 1 rfl rfl)
theorem dX8_read_28 : decode cX8_read 28 = .ok (.areturn, 1) := dk_176 (dk_at dksX8_read_1 4 rfl rfl)
abbrev cX8_read_2 : ByteArray := prog_11_method_3_code
def yX8_read_2 : MethodName := ⟨RX8, "read", "(I)V"⟩
def dkwX8_read_2_3 : List UInt8 := [183, 0, 94, 83, 177]
abbrev dktX8_read_2_3 : List UInt8 := dkwX8_read_2_3 ++ []
def dkwX8_read_2_2 : List UInt8 := [187, 0, 37, 89, 28, 45, 42, 18, 84, 182, 0, 86, 153, 0, 10, 42, 182, 0, 90, 167, 0, 4, 1]
abbrev dktX8_read_2_2 : List UInt8 := dkwX8_read_2_2 ++ dktX8_read_2_3
def dkwX8_read_2_1 : List UInt8 := [182, 0, 76, 28, 5, 162, 0, 10, 42, 182, 0, 80, 167, 0, 4, 1, 78, 42, 180, 0, 39, 27]
abbrev dktX8_read_2_1 : List UInt8 := dkwX8_read_2_1 ++ dktX8_read_2_2
def dkwX8_read_2_0 : List UInt8 := [42, 42, 180, 0, 49, 182, 0, 68, 61, 42, 28, 2, 159, 0, 7, 4, 167, 0, 4, 3, 182, 0, 72, 42]
abbrev dktX8_read_2_0 : List UInt8 := dkwX8_read_2_0 ++ dktX8_read_2_1
theorem dksX8_read_2_0 : cX8_read_2.data.toList.drop 0 = dktX8_read_2_0 := by decide +kernel
theorem dksX8_read_2_1 : cX8_read_2.data.toList.drop 24 = dktX8_read_2_1 := dk_seg dksX8_read_2_0 24 rfl rfl
theorem dksX8_read_2_2 : cX8_read_2.data.toList.drop 46 = dktX8_read_2_2 := dk_seg dksX8_read_2_1 22 rfl rfl
theorem dksX8_read_2_3 : cX8_read_2.data.toList.drop 69 = dktX8_read_2_3 := dk_seg dksX8_read_2_2 23 rfl rfl
theorem dX8_read_2_0 : decode cX8_read_2 0 = .ok (.aload_n 0, 1) := dk_42 (dk_at dksX8_read_2_0 0 rfl rfl)
theorem dX8_read_2_1 : decode cX8_read_2 1 = .ok (.aload_n 0, 1) := dk_42 (dk_at dksX8_read_2_0 1 rfl rfl)
theorem dX8_read_2_2 : decode cX8_read_2 2 = .ok (.getfield 49, 3) := dk_180 0 49 (dk_at dksX8_read_2_0 2 rfl rfl)
theorem dX8_read_2_5 : decode cX8_read_2 5 = .ok (.invokevirtual 68, 3) := dk_182 0 68 (dk_at dksX8_read_2_0 5 rfl rfl)
theorem dX8_read_2_8 : decode cX8_read_2 8 = .ok (.istore_n 2, 1) := dk_61 (dk_at dksX8_read_2_0 8 rfl rfl)
theorem dX8_read_2_9 : decode cX8_read_2 9 = .ok (.aload_n 0, 1) := dk_42 (dk_at dksX8_read_2_0 9 rfl rfl)
theorem dX8_read_2_10 : decode cX8_read_2 10 = .ok (.iload_n 2, 1) := dk_28 (dk_at dksX8_read_2_0 10 rfl rfl)
theorem dX8_read_2_11 : decode cX8_read_2 11 = .ok (.iconst (-1), 1) := dk_2 (dk_at dksX8_read_2_0 11 rfl rfl)
theorem dX8_read_2_12 : decode cX8_read_2 12 = .ok (.if_icmp .eq 7, 3) := dk_159 0 7 (dk_at dksX8_read_2_0 12 rfl rfl)
theorem dX8_read_2_15 : decode cX8_read_2 15 = .ok (.iconst 1, 1) := dk_4 (dk_at dksX8_read_2_0 15 rfl rfl)
theorem dX8_read_2_16 : decode cX8_read_2 16 = .ok (.goto 4, 3) := dk_167 0 4 (dk_at dksX8_read_2_0 16 rfl rfl)
theorem dX8_read_2_19 : decode cX8_read_2 19 = .ok (.iconst 0, 1) := dk_3 (dk_at dksX8_read_2_0 19 rfl rfl)
theorem dX8_read_2_20 : decode cX8_read_2 20 = .ok (.invokevirtual 72, 3) := dk_182 0 72 (dk_at dksX8_read_2_0 20 rfl rfl)
theorem dX8_read_2_23 : decode cX8_read_2 23 = .ok (.aload_n 0, 1) := dk_42 (dk_at dksX8_read_2_0 23 rfl rfl)
theorem dX8_read_2_24 : decode cX8_read_2 24 = .ok (.invokevirtual 76, 3) := dk_182 0 76 (dk_at dksX8_read_2_1 0 rfl rfl)
theorem dX8_read_2_27 : decode cX8_read_2 27 = .ok (.iload_n 2, 1) := dk_28 (dk_at dksX8_read_2_1 3 rfl rfl)
theorem dX8_read_2_28 : decode cX8_read_2 28 = .ok (.iconst 2, 1) := dk_5 (dk_at dksX8_read_2_1 4 rfl rfl)
theorem dX8_read_2_29 : decode cX8_read_2 29 = .ok (.if_icmp .ge 10, 3) := dk_162 0 10 (dk_at dksX8_read_2_1 5 rfl rfl)
theorem dX8_read_2_32 : decode cX8_read_2 32 = .ok (.aload_n 0, 1) := dk_42 (dk_at dksX8_read_2_1 8 rfl rfl)
theorem dX8_read_2_33 : decode cX8_read_2 33 = .ok (.invokevirtual 80, 3) := dk_182 0 80 (dk_at dksX8_read_2_1 9 rfl rfl)
theorem dX8_read_2_36 : decode cX8_read_2 36 = .ok (.goto 4, 3) := dk_167 0 4 (dk_at dksX8_read_2_1 12 rfl rfl)
theorem dX8_read_2_39 : decode cX8_read_2 39 = .ok (.aconst_null, 1) := dk_1 (dk_at dksX8_read_2_1 15 rfl rfl)
theorem dX8_read_2_40 : decode cX8_read_2 40 = .ok (.astore_n 3, 1) := dk_78 (dk_at dksX8_read_2_1 16 rfl rfl)
theorem dX8_read_2_41 : decode cX8_read_2 41 = .ok (.aload_n 0, 1) := dk_42 (dk_at dksX8_read_2_1 17 rfl rfl)
theorem dX8_read_2_42 : decode cX8_read_2 42 = .ok (.getfield 39, 3) := dk_180 0 39 (dk_at dksX8_read_2_1 18 rfl rfl)
theorem dX8_read_2_45 : decode cX8_read_2 45 = .ok (.iload_n 1, 1) := dk_27 (dk_at dksX8_read_2_1 21 rfl rfl)
theorem dX8_read_2_46 : decode cX8_read_2 46 = .ok (.new 37, 3) := dk_187 0 37 (dk_at dksX8_read_2_2 0 rfl rfl)
theorem dX8_read_2_49 : decode cX8_read_2 49 = .ok (.dup, 1) := dk_89 (dk_at dksX8_read_2_2 3 rfl rfl)
theorem dX8_read_2_50 : decode cX8_read_2 50 = .ok (.iload_n 2, 1) := dk_28 (dk_at dksX8_read_2_2 4 rfl rfl)
theorem dX8_read_2_51 : decode cX8_read_2 51 = .ok (.aload_n 3, 1) := dk_45 (dk_at dksX8_read_2_2 5 rfl rfl)
theorem dX8_read_2_52 : decode cX8_read_2 52 = .ok (.aload_n 0, 1) := dk_42 (dk_at dksX8_read_2_2 6 rfl rfl)
theorem dX8_read_2_53 : decode cX8_read_2 53 = .ok (.ldc 84, 2) := dk_18 84 (dk_at dksX8_read_2_2 7 rfl rfl)
theorem dX8_read_2_55 : decode cX8_read_2 55 = .ok (.invokevirtual 86, 3) := dk_182 0 86 (dk_at dksX8_read_2_2 9 rfl rfl)
theorem dX8_read_2_58 : decode cX8_read_2 58 = .ok (.ifCond .eq 10, 3) := dk_153 0 10 (dk_at dksX8_read_2_2 12 rfl rfl)
theorem dX8_read_2_61 : decode cX8_read_2 61 = .ok (.aload_n 0, 1) := dk_42 (dk_at dksX8_read_2_2 15 rfl rfl)
theorem dX8_read_2_62 : decode cX8_read_2 62 = .ok (.invokevirtual 90, 3) := dk_182 0 90 (dk_at dksX8_read_2_2 16 rfl rfl)
theorem dX8_read_2_65 : decode cX8_read_2 65 = .ok (.goto 4, 3) := dk_167 0 4 (dk_at dksX8_read_2_2 19 rfl rfl)
theorem dX8_read_2_68 : decode cX8_read_2 68 = .ok (.aconst_null, 1) := dk_1 (dk_at dksX8_read_2_2 22 rfl rfl)
theorem dX8_read_2_69 : decode cX8_read_2 69 = .ok (.invokespecial 94, 3) := dk_183 0 94 (dk_at dksX8_read_2_3 0 rfl rfl)
theorem dX8_read_2_72 : decode cX8_read_2 72 = .ok (.aastore, 1) := dk_83 (dk_at dksX8_read_2_3 3 rfl rfl)
theorem dX8_read_2_73 : decode cX8_read_2 73 = .ok (.return_, 1) := dk_177 (dk_at dksX8_read_2_3 4 rfl rfl)
theorem q151 : (Jvm.Cond.initialized "CounterDesk$LawReader") ∈ lw_all := lw_g (lw_at lw_m1 22 rfl) rfl
theorem q719 : (Jvm.Cond.instantiable "CounterDesk$LawReader" (11 : Nat)) ∈ lw_all := lw_g (lw_at lw_m3 110 rfl) rfl
theorem q721 : (Jvm.Cond.instanceMethod ({ cls := "CounterDesk$LawReader", name := "<init>", desc := "(LCounterDesk;)V" } : Jvm.MethodName)) ∈ lw_all := lw_g (lw_at lw_m3 112 rfl) rfl
theorem q722 : (Jvm.Cond.code ({ cls := "CounterDesk$LawReader", name := "<init>", desc := "(LCounterDesk;)V" } : Jvm.MethodName) prog_11_method_1_code (2 : Nat) (Option.none : Option Jvm.ClassFile.FieldType)) ∈ lw_all := lw_g (lw_at lw_m3 113 rfl) rfl
theorem q723 : (Jvm.Cond.classLink "CounterDesk$LawReader" (9 : Nat) "java/lang/String") ∈ lw_all := lw_g (lw_at lw_m3 114 rfl) rfl
theorem q725 : (Jvm.Cond.stringRef "CounterDesk$LawReader" (11 : Nat) "place") ∈ lw_tbl := lw_at lw_m3 116 rfl
theorem q726 : (Jvm.Cond.stringRef "CounterDesk$LawReader" (13 : Nat) "here") ∈ lw_tbl := lw_at lw_m3 117 rfl
theorem q727 : (Jvm.Cond.stringRef "CounterDesk$LawReader" (15 : Nat) "under") ∈ lw_tbl := lw_at lw_m3 118 rfl
theorem q728 : (Jvm.Cond.stringRef "CounterDesk$LawReader" (17 : Nat) "apart") ∈ lw_tbl := lw_at lw_m3 119 rfl
theorem q729 : (Jvm.Cond.stringRef "CounterDesk$LawReader" (19 : Nat) "ahead") ∈ lw_tbl := lw_at lw_m3 120 rfl
theorem q730 : (Jvm.Cond.stringRef "CounterDesk$LawReader" (21 : Nat) "leap") ∈ lw_tbl := lw_at lw_m3 121 rfl
theorem q731 : (Jvm.Cond.stringRef "CounterDesk$LawReader" (23 : Nat) "moves") ∈ lw_tbl := lw_at lw_m3 122 rfl
theorem q732 : (Jvm.Cond.stringRef "CounterDesk$LawReader" (25 : Nat) "last") ∈ lw_tbl := lw_at lw_m3 123 rfl
theorem q733 : (Jvm.Cond.stringRef "CounterDesk$LawReader" (27 : Nat) "day") ∈ lw_tbl := lw_at lw_m3 124 rfl
theorem q734 : (Jvm.Cond.stringRef "CounterDesk$LawReader" (29 : Nat) "mood") ∈ lw_tbl := lw_at lw_m3 125 rfl
theorem q735 : (Jvm.Cond.methodLink "CounterDesk$LawReader" (31 : Nat) ({ cls := "CounterDesk$Reader", name := "<init>", desc := "(LCounterDesk;[Ljava/lang/String;)V" } : Jvm.MethodName)) ∈ lw_all := lw_g (lw_at lw_m3 126 rfl) rfl
theorem q741 : (Jvm.Cond.classLink "CounterDesk$LawReader" (37 : Nat) "CounterDesk$Clause") ∈ lw_all := lw_g (lw_at lw_m3 132 rfl) rfl
theorem q742 : (Jvm.Cond.stringRef "CounterDesk$LawReader" (43 : Nat) "costs") ∈ lw_tbl := lw_at lw_m3 133 rfl
theorem q743 : (Jvm.Cond.stringRef "CounterDesk$LawReader" (45 : Nat) "earns") ∈ lw_tbl := lw_at lw_m3 134 rfl
theorem q744 : (Jvm.Cond.stringRef "CounterDesk$LawReader" (47 : Nat) "bars") ∈ lw_tbl := lw_at lw_m3 135 rfl
theorem q745 : (Jvm.Cond.fieldLink "CounterDesk$LawReader" (39 : Nat) "CounterDesk$LawReader" "row" "[LCounterDesk$Clause;") ∈ lw_all := lw_g (lw_at lw_m3 136 rfl) rfl
theorem q746 : (Jvm.Cond.fieldLink "CounterDesk$LawReader" (49 : Nat) "CounterDesk$LawReader" "heads" "[Ljava/lang/String;") ∈ lw_all := lw_g (lw_at lw_m3 137 rfl) rfl
theorem q747 : (Jvm.Cond.fieldLink "CounterDesk$LawReader" (3 : Nat) "CounterDesk$LawReader" "this$0" "LCounterDesk;") ∈ lw_all := lw_g (lw_at lw_m3 138 rfl) rfl
theorem q760 : (Jvm.Cond.laysFinal "CounterDesk$LawReader" "CounterDesk$LawReader" "row" "[LCounterDesk$Clause;") ∈ lw_all := lw_g (lw_at lw_m3 151 rfl) rfl
theorem q761 : (Jvm.Cond.soleField "CounterDesk$LawReader" "row") ∈ lw_all := lw_g (lw_at lw_m3 152 rfl) rfl
theorem q762 : (Jvm.Cond.laysFinal "CounterDesk$LawReader" "CounterDesk$LawReader" "heads" "[Ljava/lang/String;") ∈ lw_all := lw_g (lw_at lw_m3 153 rfl) rfl
theorem q763 : (Jvm.Cond.soleField "CounterDesk$LawReader" "heads") ∈ lw_all := lw_g (lw_at lw_m3 154 rfl) rfl
theorem q764 : (Jvm.Cond.laysFinal "CounterDesk$LawReader" "CounterDesk$LawReader" "this$0" "LCounterDesk;") ∈ lw_all := lw_g (lw_at lw_m3 155 rfl) rfl
theorem q765 : (Jvm.Cond.soleField "CounterDesk$LawReader" "this$0") ∈ lw_all := lw_g (lw_at lw_m3 156 rfl) rfl
theorem q766 : (Jvm.Cond.lays "CounterDesk$LawReader" "CounterDesk$Reader" "from" "I") ∈ lw_all := lw_g (lw_at lw_m3 157 rfl) rfl
theorem q768 : (Jvm.Cond.lays "CounterDesk$LawReader" "CounterDesk$Reader" "to" "I") ∈ lw_all := lw_g (lw_at lw_m3 159 rfl) rfl
theorem q770 : (Jvm.Cond.lays "CounterDesk$LawReader" "CounterDesk$Reader" "leaves" "I") ∈ lw_all := lw_g (lw_at lw_m3 161 rfl) rfl
theorem q772 : (Jvm.Cond.lays "CounterDesk$LawReader" "CounterDesk$Reader" "deep" "I") ∈ lw_all := lw_g (lw_at lw_m3 163 rfl) rfl
theorem q774 : (Jvm.Cond.lays "CounterDesk$LawReader" "CounterDesk$Reader" "piled" "I") ∈ lw_all := lw_g (lw_at lw_m3 165 rfl) rfl
theorem q776 : (Jvm.Cond.laysFinal "CounterDesk$LawReader" "CounterDesk$Reader" "pile" "[LCounterDesk$Test;") ∈ lw_all := lw_g (lw_at lw_m3 167 rfl) rfl
theorem q778 : (Jvm.Cond.laysFinal "CounterDesk$LawReader" "CounterDesk$Reader" "words" "[Ljava/lang/String;") ∈ lw_all := lw_g (lw_at lw_m3 169 rfl) rfl
theorem q780 : (Jvm.Cond.laysFinal "CounterDesk$LawReader" "CounterDesk$Reader" "this$0" "LCounterDesk;") ∈ lw_all := lw_g (lw_at lw_m3 171 rfl) rfl
theorem q782 : (Jvm.Cond.superclass "CounterDesk$LawReader" "CounterDesk$Reader") ∈ lw_all := lw_g (lw_at lw_m3 173 rfl) rfl
theorem q784 : (Jvm.Cond.instanceMethod ({ cls := "CounterDesk$LawReader", name := "read", desc := "()LCounterDesk$Text;" } : Jvm.MethodName)) ∈ lw_all := lw_g (lw_at lw_m3 175 rfl) rfl
theorem q785 : (Jvm.Cond.selects "CounterDesk$LawReader" ({ cls := "CounterDesk$LawReader", name := "read", desc := "()LCounterDesk$Text;" } : Jvm.MethodName) ({ cls := "CounterDesk$LawReader", name := "read", desc := "()LCounterDesk$Text;" } : Jvm.MethodName)) ∈ lw_all := lw_g (lw_at lw_m3 176 rfl) rfl
theorem q786 : (Jvm.Cond.code ({ cls := "CounterDesk$LawReader", name := "read", desc := "()LCounterDesk$Text;" } : Jvm.MethodName) prog_11_method_2_code (2 : Nat) (Option.some (Jvm.ClassFile.FieldType.object "CounterDesk$Text"))) ∈ lw_all := lw_g (lw_at lw_m3 177 rfl) rfl
theorem q787 : (Jvm.Cond.methodLink "CounterDesk$LawReader" (53 : Nat) ({ cls := "CounterDesk$LawReader", name := "readAll", desc := "()I" } : Jvm.MethodName)) ∈ lw_all := lw_g (lw_at lw_m3 178 rfl) rfl
theorem q788 : (Jvm.Cond.sameMethod "CounterDesk$LawReader" "CounterDesk$Reader" "readAll" "()I") ∈ lw_all := lw_g (lw_at lw_m3 179 rfl) rfl
theorem q790 : (Jvm.Cond.selects "CounterDesk$LawReader" ({ cls := "CounterDesk$LawReader", name := "readAll", desc := "()I" } : Jvm.MethodName) ({ cls := "CounterDesk$Reader", name := "readAll", desc := "()I" } : Jvm.MethodName)) ∈ lw_all := lw_g (lw_at lw_m3 181 rfl) rfl
theorem q796 : (Jvm.Cond.selects "CounterDesk$LawReader" ({ cls := "CounterDesk$Reader", name := "next", desc := "()V" } : Jvm.MethodName) ({ cls := "CounterDesk$Reader", name := "next", desc := "()V" } : Jvm.MethodName)) ∈ lw_all := lw_g (lw_at lw_m3 187 rfl) rfl
theorem q808 : (Jvm.Cond.selects "CounterDesk$LawReader" ({ cls := "CounterDesk$Reader", name := "must", desc := "(Z)V" } : Jvm.MethodName) ({ cls := "CounterDesk$Reader", name := "must", desc := "(Z)V" } : Jvm.MethodName)) ∈ lw_all := lw_g (lw_at lw_m3 199 rfl) rfl
theorem q838 : (Jvm.Cond.selects "CounterDesk$LawReader" ({ cls := "CounterDesk$Reader", name := "read", desc := "(I)V" } : Jvm.MethodName) ({ cls := "CounterDesk$LawReader", name := "read", desc := "(I)V" } : Jvm.MethodName)) ∈ lw_all := lw_g (lw_at lw_m3 229 rfl) rfl
theorem q839 : (Jvm.Cond.instanceMethod ({ cls := "CounterDesk$LawReader", name := "read", desc := "(I)V" } : Jvm.MethodName)) ∈ lw_all := lw_g (lw_at lw_m3 230 rfl) rfl
theorem q840 : (Jvm.Cond.code ({ cls := "CounterDesk$LawReader", name := "read", desc := "(I)V" } : Jvm.MethodName) prog_11_method_3_code (4 : Nat) (Option.none : Option Jvm.ClassFile.FieldType)) ∈ lw_all := lw_g (lw_at lw_m3 231 rfl) rfl
theorem q841 : (Jvm.Cond.methodLink "CounterDesk$LawReader" (68 : Nat) ({ cls := "CounterDesk$LawReader", name := "which", desc := "([Ljava/lang/String;)I" } : Jvm.MethodName)) ∈ lw_all := lw_g (lw_at lw_m3 232 rfl) rfl
theorem q842 : (Jvm.Cond.sameMethod "CounterDesk$LawReader" "CounterDesk$Reader" "which" "([Ljava/lang/String;)I") ∈ lw_all := lw_g (lw_at lw_m3 233 rfl) rfl
theorem q844 : (Jvm.Cond.selects "CounterDesk$LawReader" ({ cls := "CounterDesk$LawReader", name := "which", desc := "([Ljava/lang/String;)I" } : Jvm.MethodName) ({ cls := "CounterDesk$Reader", name := "which", desc := "([Ljava/lang/String;)I" } : Jvm.MethodName)) ∈ lw_all := lw_g (lw_at lw_m3 235 rfl) rfl
theorem q850 : (Jvm.Cond.selects "CounterDesk$LawReader" ({ cls := "CounterDesk$Reader", name := "isWord", desc := "(Ljava/lang/String;)Z" } : Jvm.MethodName) ({ cls := "CounterDesk$Reader", name := "isWord", desc := "(Ljava/lang/String;)Z" } : Jvm.MethodName)) ∈ lw_all := lw_g (lw_at lw_m4 1 rfl) rfl
theorem q899 : (Jvm.Cond.methodLink "CounterDesk$LawReader" (72 : Nat) ({ cls := "CounterDesk$LawReader", name := "must", desc := "(Z)V" } : Jvm.MethodName)) ∈ lw_all := lw_g (lw_at lw_m4 50 rfl) rfl
theorem q900 : (Jvm.Cond.sameMethod "CounterDesk$LawReader" "CounterDesk$Reader" "must" "(Z)V") ∈ lw_all := lw_g (lw_at lw_m4 51 rfl) rfl
theorem q902 : (Jvm.Cond.selects "CounterDesk$LawReader" ({ cls := "CounterDesk$LawReader", name := "must", desc := "(Z)V" } : Jvm.MethodName) ({ cls := "CounterDesk$Reader", name := "must", desc := "(Z)V" } : Jvm.MethodName)) ∈ lw_all := lw_g (lw_at lw_m4 53 rfl) rfl
theorem q903 : (Jvm.Cond.methodLink "CounterDesk$LawReader" (76 : Nat) ({ cls := "CounterDesk$LawReader", name := "next", desc := "()V" } : Jvm.MethodName)) ∈ lw_all := lw_g (lw_at lw_m4 54 rfl) rfl
theorem q904 : (Jvm.Cond.sameMethod "CounterDesk$LawReader" "CounterDesk$Reader" "next" "()V") ∈ lw_all := lw_g (lw_at lw_m4 55 rfl) rfl
theorem q906 : (Jvm.Cond.selects "CounterDesk$LawReader" ({ cls := "CounterDesk$LawReader", name := "next", desc := "()V" } : Jvm.MethodName) ({ cls := "CounterDesk$Reader", name := "next", desc := "()V" } : Jvm.MethodName)) ∈ lw_all := lw_g (lw_at lw_m4 57 rfl) rfl
theorem q907 : (Jvm.Cond.methodLink "CounterDesk$LawReader" (80 : Nat) ({ cls := "CounterDesk$LawReader", name := "sum", desc := "()LCounterDesk$Sum;" } : Jvm.MethodName)) ∈ lw_all := lw_g (lw_at lw_m4 58 rfl) rfl
theorem q908 : (Jvm.Cond.sameMethod "CounterDesk$LawReader" "CounterDesk$Reader" "sum" "()LCounterDesk$Sum;") ∈ lw_all := lw_g (lw_at lw_m4 59 rfl) rfl
theorem q910 : (Jvm.Cond.selects "CounterDesk$LawReader" ({ cls := "CounterDesk$LawReader", name := "sum", desc := "()LCounterDesk$Sum;" } : Jvm.MethodName) ({ cls := "CounterDesk$Reader", name := "sum", desc := "()LCounterDesk$Sum;" } : Jvm.MethodName)) ∈ lw_all := lw_g (lw_at lw_m4 61 rfl) rfl
theorem q935 : (Jvm.Cond.selects "CounterDesk$LawReader" ({ cls := "CounterDesk$Reader", name := "accept", desc := "(Ljava/lang/String;)Z" } : Jvm.MethodName) ({ cls := "CounterDesk$Reader", name := "accept", desc := "(Ljava/lang/String;)Z" } : Jvm.MethodName)) ∈ lw_all := lw_g (lw_at lw_m4 86 rfl) rfl
theorem q948 : (Jvm.Cond.selects "CounterDesk$LawReader" ({ cls := "CounterDesk$Reader", name := "number", desc := "(I)I" } : Jvm.MethodName) ({ cls := "CounterDesk$Reader", name := "number", desc := "(I)I" } : Jvm.MethodName)) ∈ lw_all := lw_g (lw_at lw_m4 99 rfl) rfl
theorem q965 : (Jvm.Cond.selects "CounterDesk$LawReader" ({ cls := "CounterDesk$Reader", name := "behindWord", desc := "(I)LCounterDesk$Sum;" } : Jvm.MethodName) ({ cls := "CounterDesk$Reader", name := "behindWord", desc := "(I)LCounterDesk$Sum;" } : Jvm.MethodName)) ∈ lw_all := lw_g (lw_at lw_m4 116 rfl) rfl
theorem q1024 : (Jvm.Cond.stringRef "CounterDesk$LawReader" (84 : Nat) "if") ∈ lw_tbl := lw_at lw_m4 175 rfl
theorem q1025 : (Jvm.Cond.methodLink "CounterDesk$LawReader" (86 : Nat) ({ cls := "CounterDesk$LawReader", name := "accept", desc := "(Ljava/lang/String;)Z" } : Jvm.MethodName)) ∈ lw_all := lw_g (lw_at lw_m4 176 rfl) rfl
theorem q1026 : (Jvm.Cond.sameMethod "CounterDesk$LawReader" "CounterDesk$Reader" "accept" "(Ljava/lang/String;)Z") ∈ lw_all := lw_g (lw_at lw_m4 177 rfl) rfl
theorem q1028 : (Jvm.Cond.selects "CounterDesk$LawReader" ({ cls := "CounterDesk$LawReader", name := "accept", desc := "(Ljava/lang/String;)Z" } : Jvm.MethodName) ({ cls := "CounterDesk$Reader", name := "accept", desc := "(Ljava/lang/String;)Z" } : Jvm.MethodName)) ∈ lw_all := lw_g (lw_at lw_m4 179 rfl) rfl
theorem q1029 : (Jvm.Cond.methodLink "CounterDesk$LawReader" (90 : Nat) ({ cls := "CounterDesk$LawReader", name := "test", desc := "()LCounterDesk$Test;" } : Jvm.MethodName)) ∈ lw_all := lw_g (lw_at lw_m4 180 rfl) rfl
theorem q1030 : (Jvm.Cond.sameMethod "CounterDesk$LawReader" "CounterDesk$Reader" "test" "()LCounterDesk$Test;") ∈ lw_all := lw_g (lw_at lw_m4 181 rfl) rfl
theorem q1032 : (Jvm.Cond.selects "CounterDesk$LawReader" ({ cls := "CounterDesk$LawReader", name := "test", desc := "()LCounterDesk$Test;" } : Jvm.MethodName) ({ cls := "CounterDesk$Reader", name := "test", desc := "()LCounterDesk$Test;" } : Jvm.MethodName)) ∈ lw_all := lw_g (lw_at lw_m4 183 rfl) rfl
theorem q1103 : (Jvm.Cond.methodLink "CounterDesk$LawReader" (94 : Nat) ({ cls := "CounterDesk$Clause", name := "<init>", desc := "(ILCounterDesk$Sum;LCounterDesk$Test;)V" } : Jvm.MethodName)) ∈ lw_all := lw_g (lw_at lw_m5 14 rfl) rfl
theorem q1189 : (Jvm.Cond.methodLink "CounterDesk$LawReader" (57 : Nat) ({ cls := "java/lang/System", name := "arraycopy", desc := "(Ljava/lang/Object;ILjava/lang/Object;II)V" } : Jvm.MethodName)) ∈ lw_all := lw_g (lw_at lw_m5 100 rfl) rfl
theorem q1190 : (Jvm.Cond.classLink "CounterDesk$LawReader" (63 : Nat) "CounterDesk$Text") ∈ lw_all := lw_g (lw_at lw_m5 101 rfl) rfl
theorem q1191 : (Jvm.Cond.methodLink "CounterDesk$LawReader" (65 : Nat) ({ cls := "CounterDesk$Text", name := "<init>", desc := "([LCounterDesk$Clause;)V" } : Jvm.MethodName)) ∈ lw_all := lw_g (lw_at lw_m5 102 rfl) rfl
theorem q1234 : (Jvm.Cond.selects "CounterDesk$LawReader" ({ cls := "java/lang/Object", name := "getClass", desc := "()Ljava/lang/Class;" } : Jvm.MethodName) ({ cls := "java/lang/Object", name := "getClass", desc := "()Ljava/lang/Class;" } : Jvm.MethodName)) ∈ lw_all := lw_g (lw_at lw_m5 145 rfl) rfl
theorem q2296 : (Jvm.Cond.selects "CounterDesk$LawReader" ({ cls := "CounterDesk$Reader", name := "sum", desc := "()LCounterDesk$Sum;" } : Jvm.MethodName) ({ cls := "CounterDesk$Reader", name := "sum", desc := "()LCounterDesk$Sum;" } : Jvm.MethodName)) ∈ lw_all := lw_g (lw_at lw_m10 7 rfl) rfl
theorem q2300 : (Jvm.Cond.selects "CounterDesk$LawReader" ({ cls := "CounterDesk$Reader", name := "which", desc := "([Ljava/lang/String;)I" } : Jvm.MethodName) ({ cls := "CounterDesk$Reader", name := "which", desc := "([Ljava/lang/String;)I" } : Jvm.MethodName)) ∈ lw_all := lw_g (lw_at lw_m10 11 rfl) rfl
theorem q2306 : (Jvm.Cond.selects "CounterDesk$LawReader" ({ cls := "CounterDesk$Reader", name := "test", desc := "()LCounterDesk$Test;" } : Jvm.MethodName) ({ cls := "CounterDesk$Reader", name := "test", desc := "()LCounterDesk$Test;" } : Jvm.MethodName)) ∈ lw_all := lw_g (lw_at lw_m10 17 rfl) rfl
theorem q2324 : (Jvm.Cond.castable "CounterDesk$LawReader" "java/lang/Object") ∈ lw_tbl := lw_at lw_m10 35 rfl
theorem in_X8 : ∀ w ∈ wsX80, w ∈ lw_all := lw_in wsX80 [766, 768, 770, 772, 774, 776, 778, 780, 760, 762, 764] (by decide +kernel) (by decide +kernel)

/-! CounterDesk$Wrong -/
set_option maxRecDepth 100000
def RX9 : String := "CounterDesk$Wrong"
def TX9 : u_T := fun k => match k with
  | 0 => ("java/lang/Throwable", "cause", "Ljava/lang/Throwable;", false)
  | 1 => ("java/lang/Throwable", "stackTrace", "[Ljava/lang/StackTraceElement;", false)
  | 2 => ("java/lang/Throwable", "suppressedExceptions", "Ljava/util/List;", false)
  | 3 => ("java/lang/Throwable", "detailMessage", "Ljava/lang/String;", false)
  | 4 => ("java/lang/Throwable", "backtrace", "Ljava/lang/Object;", false)
  | 5 => ("java/lang/Throwable", "depth", "I", false)
  | _ => ("CounterDesk$Wrong", "place", "I", true)
def tyX9 : Nat → FieldType := fun k => match k with
  | 0 => .object "java/lang/Throwable"
  | 1 => .array (.object "java/lang/StackTraceElement")
  | 2 => .object "java/util/List"
  | 3 => .object "java/lang/String"
  | 4 => .object "java/lang/Object"
  | 5 => .int
  | _ => .int
abbrev wsX90 : List Cond := u_ws RX9 TX9 7
theorem nmX9 : ∀ a, a < 7 → ∀ b, b < 7 → a ≠ b → (TX9 a).2.1 ≠ (TX9 b).2.1 := by decide +kernel
theorem tyX9_ok : ∀ k, k < 7 → parseFieldDescriptor (TX9 k).2.2.1 = some (tyX9 k) := by decide +kernel
abbrev cX9_init : ByteArray := prog_22_method_1_code
def yX9_init : MethodName := ⟨RX9, "<init>", "(I)V"⟩
def dkwX9_init_0 : List UInt8 := [42, 1, 1, 3, 3, 183, 0, 1, 42, 27, 181, 0, 7, 177]
abbrev dktX9_init_0 : List UInt8 := dkwX9_init_0 ++ []
theorem dksX9_init_0 : cX9_init.data.toList.drop 0 = dktX9_init_0 := by decide +kernel
theorem dX9_init_0 : decode cX9_init 0 = .ok (.aload_n 0, 1) := dk_42 (dk_at dksX9_init_0 0 rfl rfl)
theorem dX9_init_1 : decode cX9_init 1 = .ok (.aconst_null, 1) := dk_1 (dk_at dksX9_init_0 1 rfl rfl)
theorem dX9_init_2 : decode cX9_init 2 = .ok (.aconst_null, 1) := dk_1 (dk_at dksX9_init_0 2 rfl rfl)
theorem dX9_init_3 : decode cX9_init 3 = .ok (.iconst 0, 1) := dk_3 (dk_at dksX9_init_0 3 rfl rfl)
theorem dX9_init_4 : decode cX9_init 4 = .ok (.iconst 0, 1) := dk_3 (dk_at dksX9_init_0 4 rfl rfl)
theorem dX9_init_5 : decode cX9_init 5 = .ok (.invokespecial 1, 3) := dk_183 0 1 (dk_at dksX9_init_0 5 rfl rfl)
theorem dX9_init_8 : decode cX9_init 8 = .ok (.aload_n 0, 1) := dk_42 (dk_at dksX9_init_0 8 rfl rfl)
theorem dX9_init_9 : decode cX9_init 9 = .ok (.iload_n 1, 1) := dk_27 (dk_at dksX9_init_0 9 rfl rfl)
theorem dX9_init_10 : decode cX9_init 10 = .ok (.putfield 7, 3) := dk_181 0 7 (dk_at dksX9_init_0 10 rfl rfl)
theorem dX9_init_13 : decode cX9_init 13 = .ok (.return_, 1) := dk_177 (dk_at dksX9_init_0 13 rfl rfl)
theorem q152 : (Jvm.Cond.initialized "CounterDesk$Wrong") ∈ lw_all := lw_g (lw_at lw_m1 23 rfl) rfl
theorem q649 : (Jvm.Cond.selects "CounterDesk$Wrong" ({ cls := "java/lang/Throwable", name := "fillInStackTrace", desc := "()Ljava/lang/Throwable;" } : Jvm.MethodName) ({ cls := "java/lang/Throwable", name := "fillInStackTrace", desc := "()Ljava/lang/Throwable;" } : Jvm.MethodName)) ∈ lw_all := lw_g (lw_at lw_m3 40 rfl) rfl
theorem q812 : (Jvm.Cond.instantiable "CounterDesk$Wrong" (7 : Nat)) ∈ lw_all := lw_g (lw_at lw_m3 203 rfl) rfl
theorem q813 : (Jvm.Cond.castable "CounterDesk$Wrong" "CounterDesk$Wrong") ∈ lw_tbl := lw_at lw_m3 204 rfl
theorem q814 : (Jvm.Cond.selects "CounterDesk$Wrong" ({ cls := "java/lang/Throwable", name := "fillInStackTrace", desc := "(I)Ljava/lang/Throwable;" } : Jvm.MethodName) ({ cls := "java/lang/Throwable", name := "fillInStackTrace", desc := "(I)Ljava/lang/Throwable;" } : Jvm.MethodName)) ∈ lw_all := lw_g (lw_at lw_m3 205 rfl) rfl
theorem q815 : (Jvm.Cond.lays "CounterDesk$Wrong" "java/lang/Throwable" "cause" "Ljava/lang/Throwable;") ∈ lw_all := lw_g (lw_at lw_m3 206 rfl) rfl
theorem q816 : (Jvm.Cond.lays "CounterDesk$Wrong" "java/lang/Throwable" "stackTrace" "[Ljava/lang/StackTraceElement;") ∈ lw_all := lw_g (lw_at lw_m3 207 rfl) rfl
theorem q817 : (Jvm.Cond.lays "CounterDesk$Wrong" "java/lang/Throwable" "suppressedExceptions" "Ljava/util/List;") ∈ lw_all := lw_g (lw_at lw_m3 208 rfl) rfl
theorem q818 : (Jvm.Cond.lays "CounterDesk$Wrong" "java/lang/Throwable" "detailMessage" "Ljava/lang/String;") ∈ lw_all := lw_g (lw_at lw_m3 209 rfl) rfl
theorem q819 : (Jvm.Cond.lays "CounterDesk$Wrong" "java/lang/Throwable" "backtrace" "Ljava/lang/Object;") ∈ lw_all := lw_g (lw_at lw_m3 210 rfl) rfl
theorem q821 : (Jvm.Cond.instanceMethod ({ cls := "CounterDesk$Wrong", name := "<init>", desc := "(I)V" } : Jvm.MethodName)) ∈ lw_all := lw_g (lw_at lw_m3 212 rfl) rfl
theorem q822 : (Jvm.Cond.code ({ cls := "CounterDesk$Wrong", name := "<init>", desc := "(I)V" } : Jvm.MethodName) prog_22_method_1_code (2 : Nat) (Option.none : Option Jvm.ClassFile.FieldType)) ∈ lw_all := lw_g (lw_at lw_m3 213 rfl) rfl
theorem q823 : (Jvm.Cond.methodLink "CounterDesk$Wrong" (1 : Nat) ({ cls := "java/lang/Exception", name := "<init>", desc := "(Ljava/lang/String;Ljava/lang/Throwable;ZZ)V" } : Jvm.MethodName)) ∈ lw_all := lw_g (lw_at lw_m3 214 rfl) rfl
theorem q829 : (Jvm.Cond.fieldLink "CounterDesk$Wrong" (7 : Nat) "CounterDesk$Wrong" "place" "I") ∈ lw_all := lw_g (lw_at lw_m3 220 rfl) rfl
theorem q831 : (Jvm.Cond.laysFinal "CounterDesk$Wrong" "CounterDesk$Wrong" "place" "I") ∈ lw_all := lw_g (lw_at lw_m3 222 rfl) rfl
theorem q832 : (Jvm.Cond.soleField "CounterDesk$Wrong" "place") ∈ lw_all := lw_g (lw_at lw_m3 223 rfl) rfl
theorem q833 : (Jvm.Cond.lays "CounterDesk$Wrong" "java/lang/Throwable" "depth" "I") ∈ lw_all := lw_g (lw_at lw_m3 224 rfl) rfl
theorem q834 : (Jvm.Cond.superclass "CounterDesk$Wrong" "java/lang/Exception") ∈ lw_all := lw_g (lw_at lw_m3 225 rfl) rfl
theorem q1242 : (Jvm.Cond.selects "CounterDesk$Wrong" ({ cls := "java/lang/Object", name := "getClass", desc := "()Ljava/lang/Class;" } : Jvm.MethodName) ({ cls := "java/lang/Object", name := "getClass", desc := "()Ljava/lang/Class;" } : Jvm.MethodName)) ∈ lw_all := lw_g (lw_at lw_m5 153 rfl) rfl
theorem q2325 : (Jvm.Cond.castable "CounterDesk$Wrong" "java/lang/Object") ∈ lw_tbl := lw_at lw_m10 36 rfl
theorem in_X9 : ∀ w ∈ wsX90, w ∈ lw_all := lw_in wsX90 [815, 816, 817, 818, 819, 833, 831] (by decide +kernel) (by decide +kernel)
