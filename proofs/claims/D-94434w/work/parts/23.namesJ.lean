/-! java/util/AbstractCollection -/
set_option maxRecDepth 100000
def RJ0 : String := "java/util/AbstractCollection"
abbrev cJ0_init : ByteArray := prog_53_method_1_code
def yJ0_init : MethodName := ⟨RJ0, "<init>", "()V"⟩
theorem dJ0_init_0 : decode cJ0_init 0 = .ok (.aload_n 0, 1) := by decide +kernel
theorem dJ0_init_1 : decode cJ0_init 1 = .ok (.invokespecial 1, 3) := by decide +kernel
theorem dJ0_init_4 : decode cJ0_init 4 = .ok (.return_, 1) := by decide +kernel
theorem q127 : (Jvm.Cond.initialized "java/util/AbstractCollection") ∈ lw_all := lw_g (lw_at lw_m1 3 rfl) rfl
theorem q196 : (Jvm.Cond.instanceMethod ({ cls := "java/util/AbstractCollection", name := "<init>", desc := "()V" } : Jvm.MethodName)) ∈ lw_all := lw_g (lw_at lw_m1 72 rfl) rfl
theorem q197 : (Jvm.Cond.code ({ cls := "java/util/AbstractCollection", name := "<init>", desc := "()V" } : Jvm.MethodName) prog_53_method_1_code (1 : Nat) (Option.none : Option Jvm.ClassFile.FieldType)) ∈ lw_all := lw_g (lw_at lw_m1 73 rfl) rfl
theorem q198 : (Jvm.Cond.methodLink "java/util/AbstractCollection" (1 : Nat) ({ cls := "java/lang/Object", name := "<init>", desc := "()V" } : Jvm.MethodName)) ∈ lw_all := lw_g (lw_at lw_m1 74 rfl) rfl

/-! java/util/AbstractList -/
set_option maxRecDepth 100000
def RJ1 : String := "java/util/AbstractList"
abbrev cJ1_init : ByteArray := prog_54_method_1_code
def yJ1_init : MethodName := ⟨RJ1, "<init>", "()V"⟩
def dkwJ1_init_0 : List UInt8 := [42, 183, 0, 1, 42, 3, 181, 0, 7, 177]
abbrev dktJ1_init_0 : List UInt8 := dkwJ1_init_0 ++ []
theorem dksJ1_init_0 : cJ1_init.data.toList.drop 0 = dktJ1_init_0 := by decide +kernel
theorem dJ1_init_0 : decode cJ1_init 0 = .ok (.aload_n 0, 1) := dk_42 (dk_at dksJ1_init_0 0 rfl rfl)
theorem dJ1_init_1 : decode cJ1_init 1 = .ok (.invokespecial 1, 3) := dk_183 0 1 (dk_at dksJ1_init_0 1 rfl rfl)
theorem dJ1_init_4 : decode cJ1_init 4 = .ok (.aload_n 0, 1) := dk_42 (dk_at dksJ1_init_0 4 rfl rfl)
theorem dJ1_init_5 : decode cJ1_init 5 = .ok (.iconst 0, 1) := dk_3 (dk_at dksJ1_init_0 5 rfl rfl)
theorem dJ1_init_6 : decode cJ1_init 6 = .ok (.putfield 7, 3) := dk_181 0 7 (dk_at dksJ1_init_0 6 rfl rfl)
theorem dJ1_init_9 : decode cJ1_init 9 = .ok (.return_, 1) := dk_177 (dk_at dksJ1_init_0 9 rfl rfl)
theorem q128 : (Jvm.Cond.initialized "java/util/AbstractList") ∈ lw_all := lw_g (lw_at lw_m1 4 rfl) rfl
theorem q193 : (Jvm.Cond.instanceMethod ({ cls := "java/util/AbstractList", name := "<init>", desc := "()V" } : Jvm.MethodName)) ∈ lw_all := lw_g (lw_at lw_m1 69 rfl) rfl
theorem q194 : (Jvm.Cond.code ({ cls := "java/util/AbstractList", name := "<init>", desc := "()V" } : Jvm.MethodName) prog_54_method_1_code (1 : Nat) (Option.none : Option Jvm.ClassFile.FieldType)) ∈ lw_all := lw_g (lw_at lw_m1 70 rfl) rfl
theorem q195 : (Jvm.Cond.methodLink "java/util/AbstractList" (1 : Nat) ({ cls := "java/util/AbstractCollection", name := "<init>", desc := "()V" } : Jvm.MethodName)) ∈ lw_all := lw_g (lw_at lw_m1 71 rfl) rfl
theorem q205 : (Jvm.Cond.fieldLink "java/util/AbstractList" (7 : Nat) "java/util/AbstractList" "modCount" "I") ∈ lw_all := lw_g (lw_at lw_m1 81 rfl) rfl
theorem q213 : (Jvm.Cond.soleField "java/util/AbstractList" "modCount") ∈ lw_all := lw_g (lw_at lw_m1 89 rfl) rfl

/-! java/lang/StringBuilder -/
set_option maxRecDepth 100000
def RJ10 : String := "java/lang/StringBuilder"
def TJ10 : u_T := fun k => match k with
  | 0 => ("java/lang/AbstractStringBuilder", "value", "[B", false)
  | 1 => ("java/lang/AbstractStringBuilder", "coder", "B", false)
  | 2 => ("java/lang/AbstractStringBuilder", "maybeLatin1", "Z", false)
  | _ => ("java/lang/AbstractStringBuilder", "count", "I", false)
def tyJ10 : Nat → FieldType := fun k => match k with
  | 0 => .array .byte
  | 1 => .byte
  | 2 => .boolean
  | _ => .int
abbrev wsJ100 : List Cond := u_ws RJ10 TJ10 4
theorem nmJ10 : ∀ a, a < 4 → ∀ b, b < 4 → a ≠ b → (TJ10 a).2.1 ≠ (TJ10 b).2.1 := by decide +kernel
theorem tyJ10_ok : ∀ k, k < 4 → parseFieldDescriptor (TJ10 k).2.2.1 = some (tyJ10 k) := by decide +kernel
abbrev cJ10_init : ByteArray := prog_45_method_2_code
def yJ10_init : MethodName := ⟨RJ10, "<init>", "(I)V"⟩
def dkwJ10_init_0 : List UInt8 := [42, 27, 183, 0, 1, 177]
abbrev dktJ10_init_0 : List UInt8 := dkwJ10_init_0 ++ []
theorem dksJ10_init_0 : cJ10_init.data.toList.drop 0 = dktJ10_init_0 := by decide +kernel
theorem dJ10_init_0 : decode cJ10_init 0 = .ok (.aload_n 0, 1) := dk_42 (dk_at dksJ10_init_0 0 rfl rfl)
theorem dJ10_init_1 : decode cJ10_init 1 = .ok (.iload_n 1, 1) := dk_27 (dk_at dksJ10_init_0 1 rfl rfl)
theorem dJ10_init_2 : decode cJ10_init 2 = .ok (.invokespecial 1, 3) := dk_183 0 1 (dk_at dksJ10_init_0 2 rfl rfl)
theorem dJ10_init_5 : decode cJ10_init 5 = .ok (.return_, 1) := dk_177 (dk_at dksJ10_init_0 5 rfl rfl)
abbrev cJ10_append : ByteArray := prog_45_method_14_code
def yJ10_append : MethodName := ⟨RJ10, "append", "(C)Ljava/lang/StringBuilder;"⟩
def dkwJ10_append_0 : List UInt8 := [42, 27, 183, 0, 50, 87, 42, 176]
abbrev dktJ10_append_0 : List UInt8 := dkwJ10_append_0 ++ []
theorem dksJ10_append_0 : cJ10_append.data.toList.drop 0 = dktJ10_append_0 := by decide +kernel
theorem dJ10_append_0 : decode cJ10_append 0 = .ok (.aload_n 0, 1) := dk_42 (dk_at dksJ10_append_0 0 rfl rfl)
theorem dJ10_append_1 : decode cJ10_append 1 = .ok (.iload_n 1, 1) := dk_27 (dk_at dksJ10_append_0 1 rfl rfl)
theorem dJ10_append_2 : decode cJ10_append 2 = .ok (.invokespecial 50, 3) := dk_183 0 50 (dk_at dksJ10_append_0 2 rfl rfl)
theorem dJ10_append_5 : decode cJ10_append 5 = .ok (.pop, 1) := dk_87 (dk_at dksJ10_append_0 5 rfl rfl)
theorem dJ10_append_6 : decode cJ10_append 6 = .ok (.aload_n 0, 1) := dk_42 (dk_at dksJ10_append_0 6 rfl rfl)
theorem dJ10_append_7 : decode cJ10_append 7 = .ok (.areturn, 1) := dk_176 (dk_at dksJ10_append_0 7 rfl rfl)
abbrev cJ10_toString : ByteArray := prog_45_method_42_code
def yJ10_toString : MethodName := ⟨RJ10, "toString", "()Ljava/lang/String;"⟩
def dkwJ10_toString_0 : List UInt8 := [187, 0, 18, 89, 42, 183, 0, 137, 176]
abbrev dktJ10_toString_0 : List UInt8 := dkwJ10_toString_0 ++ []
theorem dksJ10_toString_0 : cJ10_toString.data.toList.drop 0 = dktJ10_toString_0 := by decide +kernel
theorem dJ10_toString_0 : decode cJ10_toString 0 = .ok (.new 18, 3) := dk_187 0 18 (dk_at dksJ10_toString_0 0 rfl rfl)
theorem dJ10_toString_3 : decode cJ10_toString 3 = .ok (.dup, 1) := dk_89 (dk_at dksJ10_toString_0 3 rfl rfl)
theorem dJ10_toString_4 : decode cJ10_toString 4 = .ok (.aload_n 0, 1) := dk_42 (dk_at dksJ10_toString_0 4 rfl rfl)
theorem dJ10_toString_5 : decode cJ10_toString 5 = .ok (.invokespecial 137, 3) := dk_183 0 137 (dk_at dksJ10_toString_0 5 rfl rfl)
theorem dJ10_toString_8 : decode cJ10_toString 8 = .ok (.areturn, 1) := dk_176 (dk_at dksJ10_toString_0 8 rfl rfl)
abbrev cJ10_length : ByteArray := prog_45_method_93_code
def yJ10_length : MethodName := ⟨RJ10, "length", "()I"⟩
theorem dJ10_length_0 : decode cJ10_length 0 = .ok (.aload_n 0, 1) := by decide +kernel
theorem dJ10_length_1 : decode cJ10_length 1 = .ok (.invokespecial 343, 3) := by decide +kernel
theorem dJ10_length_4 : decode cJ10_length 4 = .ok (.ireturn, 1) := by decide +kernel
theorem q148 : (Jvm.Cond.initialized "java/lang/StringBuilder") ∈ lw_all := lw_g (lw_at lw_m1 24 rfl) rfl
theorem q453 : (Jvm.Cond.selects "java/lang/StringBuilder" ({ cls := "java/lang/Object", name := "getClass", desc := "()Ljava/lang/Class;" } : Jvm.MethodName) ({ cls := "java/lang/Object", name := "getClass", desc := "()Ljava/lang/Class;" } : Jvm.MethodName)) ∈ lw_all := lw_g (lw_at lw_m2 89 rfl) rfl
theorem q906 : (Jvm.Cond.instantiable "java/lang/StringBuilder" (4 : Nat)) ∈ lw_all := lw_g (lw_at lw_m4 62 rfl) rfl
theorem q908 : (Jvm.Cond.instanceMethod ({ cls := "java/lang/StringBuilder", name := "<init>", desc := "(I)V" } : Jvm.MethodName)) ∈ lw_all := lw_g (lw_at lw_m4 64 rfl) rfl
theorem q909 : (Jvm.Cond.code ({ cls := "java/lang/StringBuilder", name := "<init>", desc := "(I)V" } : Jvm.MethodName) prog_45_method_2_code (2 : Nat) (Option.none : Option Jvm.ClassFile.FieldType)) ∈ lw_all := lw_g (lw_at lw_m4 65 rfl) rfl
theorem q910 : (Jvm.Cond.methodLink "java/lang/StringBuilder" (1 : Nat) ({ cls := "java/lang/AbstractStringBuilder", name := "<init>", desc := "(I)V" } : Jvm.MethodName)) ∈ lw_all := lw_g (lw_at lw_m4 66 rfl) rfl
theorem q927 : (Jvm.Cond.lays "java/lang/StringBuilder" "java/lang/AbstractStringBuilder" "value" "[B") ∈ lw_all := lw_g (lw_at lw_m4 83 rfl) rfl
theorem q929 : (Jvm.Cond.lays "java/lang/StringBuilder" "java/lang/AbstractStringBuilder" "coder" "B") ∈ lw_all := lw_g (lw_at lw_m4 85 rfl) rfl
theorem q931 : (Jvm.Cond.lays "java/lang/StringBuilder" "java/lang/AbstractStringBuilder" "maybeLatin1" "Z") ∈ lw_all := lw_g (lw_at lw_m4 87 rfl) rfl
theorem q933 : (Jvm.Cond.lays "java/lang/StringBuilder" "java/lang/AbstractStringBuilder" "count" "I") ∈ lw_all := lw_g (lw_at lw_m4 89 rfl) rfl
theorem q935 : (Jvm.Cond.superclass "java/lang/StringBuilder" "java/lang/AbstractStringBuilder") ∈ lw_all := lw_g (lw_at lw_m4 91 rfl) rfl
theorem q937 : (Jvm.Cond.instanceMethod ({ cls := "java/lang/StringBuilder", name := "append", desc := "(C)Ljava/lang/StringBuilder;" } : Jvm.MethodName)) ∈ lw_all := lw_g (lw_at lw_m4 93 rfl) rfl
theorem q938 : (Jvm.Cond.selects "java/lang/StringBuilder" ({ cls := "java/lang/StringBuilder", name := "append", desc := "(C)Ljava/lang/StringBuilder;" } : Jvm.MethodName) ({ cls := "java/lang/StringBuilder", name := "append", desc := "(C)Ljava/lang/StringBuilder;" } : Jvm.MethodName)) ∈ lw_all := lw_g (lw_at lw_m4 94 rfl) rfl
theorem q939 : (Jvm.Cond.code ({ cls := "java/lang/StringBuilder", name := "append", desc := "(C)Ljava/lang/StringBuilder;" } : Jvm.MethodName) prog_45_method_14_code (2 : Nat) (Option.some (Jvm.ClassFile.FieldType.object "java/lang/StringBuilder"))) ∈ lw_all := lw_g (lw_at lw_m4 95 rfl) rfl
theorem q940 : (Jvm.Cond.methodLink "java/lang/StringBuilder" (50 : Nat) ({ cls := "java/lang/AbstractStringBuilder", name := "append", desc := "(C)Ljava/lang/AbstractStringBuilder;" } : Jvm.MethodName)) ∈ lw_all := lw_g (lw_at lw_m4 96 rfl) rfl
theorem q966 : (Jvm.Cond.selects "java/lang/StringBuilder" ({ cls := "java/lang/AbstractStringBuilder", name := "isLatin1", desc := "()Z" } : Jvm.MethodName) ({ cls := "java/lang/AbstractStringBuilder", name := "isLatin1", desc := "()Z" } : Jvm.MethodName)) ∈ lw_all := lw_g (lw_at lw_m4 122 rfl) rfl
theorem q1015 : (Jvm.Cond.instanceMethod ({ cls := "java/lang/StringBuilder", name := "toString", desc := "()Ljava/lang/String;" } : Jvm.MethodName)) ∈ lw_all := lw_g (lw_at lw_m4 171 rfl) rfl
theorem q1016 : (Jvm.Cond.selects "java/lang/StringBuilder" ({ cls := "java/lang/StringBuilder", name := "toString", desc := "()Ljava/lang/String;" } : Jvm.MethodName) ({ cls := "java/lang/StringBuilder", name := "toString", desc := "()Ljava/lang/String;" } : Jvm.MethodName)) ∈ lw_all := lw_g (lw_at lw_m4 172 rfl) rfl
theorem q1017 : (Jvm.Cond.code ({ cls := "java/lang/StringBuilder", name := "toString", desc := "()Ljava/lang/String;" } : Jvm.MethodName) prog_45_method_42_code (1 : Nat) (Option.some (Jvm.ClassFile.FieldType.object "java/lang/String"))) ∈ lw_all := lw_g (lw_at lw_m4 173 rfl) rfl
theorem q1018 : (Jvm.Cond.classLink "java/lang/StringBuilder" (18 : Nat) "java/lang/String") ∈ lw_all := lw_g (lw_at lw_m4 174 rfl) rfl
theorem q1020 : (Jvm.Cond.methodLink "java/lang/StringBuilder" (137 : Nat) ({ cls := "java/lang/String", name := "<init>", desc := "(Ljava/lang/StringBuilder;)V" } : Jvm.MethodName)) ∈ lw_all := lw_g (lw_at lw_m4 176 rfl) rfl
theorem q1030 : (Jvm.Cond.selects "java/lang/StringBuilder" ({ cls := "java/lang/AbstractStringBuilder", name := "getValue", desc := "()[B" } : Jvm.MethodName) ({ cls := "java/lang/AbstractStringBuilder", name := "getValue", desc := "()[B" } : Jvm.MethodName)) ∈ lw_all := lw_g (lw_at lw_m4 186 rfl) rfl
theorem q1035 : (Jvm.Cond.selects "java/lang/StringBuilder" ({ cls := "java/lang/AbstractStringBuilder", name := "length", desc := "()I" } : Jvm.MethodName) ({ cls := "java/lang/StringBuilder", name := "length", desc := "()I" } : Jvm.MethodName)) ∈ lw_all := lw_g (lw_at lw_m4 191 rfl) rfl
theorem q1036 : (Jvm.Cond.instanceMethod ({ cls := "java/lang/StringBuilder", name := "length", desc := "()I" } : Jvm.MethodName)) ∈ lw_all := lw_g (lw_at lw_m4 192 rfl) rfl
theorem q1037 : (Jvm.Cond.code ({ cls := "java/lang/StringBuilder", name := "length", desc := "()I" } : Jvm.MethodName) prog_45_method_93_code (1 : Nat) (Option.some Jvm.ClassFile.FieldType.int)) ∈ lw_all := lw_g (lw_at lw_m4 193 rfl) rfl
theorem q1038 : (Jvm.Cond.methodLink "java/lang/StringBuilder" (343 : Nat) ({ cls := "java/lang/AbstractStringBuilder", name := "length", desc := "()I" } : Jvm.MethodName)) ∈ lw_all := lw_g (lw_at lw_m4 194 rfl) rfl
theorem q2591 : (Jvm.Cond.castable "java/lang/StringBuilder" "java/lang/Object") ∈ lw_tbl := lw_at lw_m11 67 rfl
theorem in_J10 : ∀ w ∈ wsJ100, w ∈ lw_all := lw_in wsJ100 [927, 929, 931, 933] (by decide +kernel) (by decide +kernel)

/-! java/lang/String -/
set_option maxRecDepth 100000
def RJ11 : String := "java/lang/String"
def TJ11 : u_T := fun k => match k with
  | 0 => ("java/lang/String", "value", "[B", true)
  | 1 => ("java/lang/String", "coder", "B", true)
  | 2 => ("java/lang/String", "hash", "I", false)
  | _ => ("java/lang/String", "hashIsZero", "Z", false)
def tyJ11 : Nat → FieldType := fun k => match k with
  | 0 => .array .byte
  | 1 => .byte
  | 2 => .int
  | _ => .boolean
abbrev wsJ110 : List Cond := u_ws RJ11 TJ11 4
theorem nmJ11 : ∀ a, a < 4 → ∀ b, b < 4 → a ≠ b → (TJ11 a).2.1 ≠ (TJ11 b).2.1 := by decide +kernel
theorem tyJ11_ok : ∀ k, k < 4 → parseFieldDescriptor (TJ11 k).2.2.1 = some (tyJ11 k) := by decide +kernel
abbrev cJ11_checkBoundsOffCount : ByteArray := prog_44_method_157_code
def yJ11_checkBoundsOffCount : MethodName := ⟨RJ11, "checkBoundsOffCount", "(III)I"⟩
def dkwJ11_checkBoundsOffCount_0 : List UInt8 := [26, 27, 28, 178, 4, 29, 184, 4, 41, 172]
abbrev dktJ11_checkBoundsOffCount_0 : List UInt8 := dkwJ11_checkBoundsOffCount_0 ++ []
theorem dksJ11_checkBoundsOffCount_0 : cJ11_checkBoundsOffCount.data.toList.drop 0 = dktJ11_checkBoundsOffCount_0 := by decide +kernel
theorem dJ11_checkBoundsOffCount_0 : decode cJ11_checkBoundsOffCount 0 = .ok (.iload_n 0, 1) := dk_26 (dk_at dksJ11_checkBoundsOffCount_0 0 rfl rfl)
theorem dJ11_checkBoundsOffCount_1 : decode cJ11_checkBoundsOffCount 1 = .ok (.iload_n 1, 1) := dk_27 (dk_at dksJ11_checkBoundsOffCount_0 1 rfl rfl)
theorem dJ11_checkBoundsOffCount_2 : decode cJ11_checkBoundsOffCount 2 = .ok (.iload_n 2, 1) := dk_28 (dk_at dksJ11_checkBoundsOffCount_0 2 rfl rfl)
theorem dJ11_checkBoundsOffCount_3 : decode cJ11_checkBoundsOffCount 3 = .ok (.getstatic 1053, 3) := dk_178 4 29 (dk_at dksJ11_checkBoundsOffCount_0 3 rfl rfl)
theorem dJ11_checkBoundsOffCount_6 : decode cJ11_checkBoundsOffCount 6 = .ok (.invokestatic 1065, 3) := dk_184 4 41 (dk_at dksJ11_checkBoundsOffCount_0 6 rfl rfl)
theorem dJ11_checkBoundsOffCount_9 : decode cJ11_checkBoundsOffCount 9 = .ok (.ireturn, 1) := dk_172 (dk_at dksJ11_checkBoundsOffCount_0 9 rfl rfl)
abbrev cJ11_checkIndex : ByteArray := prog_44_method_155_code
def yJ11_checkIndex : MethodName := ⟨RJ11, "checkIndex", "(II)V"⟩
def dkwJ11_checkIndex_0 : List UInt8 := [26, 27, 178, 4, 29, 184, 4, 35, 87, 177]
abbrev dktJ11_checkIndex_0 : List UInt8 := dkwJ11_checkIndex_0 ++ []
theorem dksJ11_checkIndex_0 : cJ11_checkIndex.data.toList.drop 0 = dktJ11_checkIndex_0 := by decide +kernel
theorem dJ11_checkIndex_0 : decode cJ11_checkIndex 0 = .ok (.iload_n 0, 1) := dk_26 (dk_at dksJ11_checkIndex_0 0 rfl rfl)
theorem dJ11_checkIndex_1 : decode cJ11_checkIndex 1 = .ok (.iload_n 1, 1) := dk_27 (dk_at dksJ11_checkIndex_0 1 rfl rfl)
theorem dJ11_checkIndex_2 : decode cJ11_checkIndex 2 = .ok (.getstatic 1053, 3) := dk_178 4 29 (dk_at dksJ11_checkIndex_0 2 rfl rfl)
theorem dJ11_checkIndex_5 : decode cJ11_checkIndex 5 = .ok (.invokestatic 1059, 3) := dk_184 4 35 (dk_at dksJ11_checkIndex_0 5 rfl rfl)
theorem dJ11_checkIndex_8 : decode cJ11_checkIndex 8 = .ok (.pop, 1) := dk_87 (dk_at dksJ11_checkIndex_0 8 rfl rfl)
theorem dJ11_checkIndex_9 : decode cJ11_checkIndex 9 = .ok (.return_, 1) := dk_177 (dk_at dksJ11_checkIndex_0 9 rfl rfl)
abbrev cJ11_init : ByteArray := prog_44_method_53_code
def yJ11_init : MethodName := ⟨RJ11, "<init>", "(Ljava/lang/StringBuilder;)V"⟩
def dkwJ11_init_0 : List UInt8 := [42, 43, 1, 183, 1, 233, 177]
abbrev dktJ11_init_0 : List UInt8 := dkwJ11_init_0 ++ []
theorem dksJ11_init_0 : cJ11_init.data.toList.drop 0 = dktJ11_init_0 := by decide +kernel
theorem dJ11_init_0 : decode cJ11_init 0 = .ok (.aload_n 0, 1) := dk_42 (dk_at dksJ11_init_0 0 rfl rfl)
theorem dJ11_init_1 : decode cJ11_init 1 = .ok (.aload_n 1, 1) := dk_43 (dk_at dksJ11_init_0 1 rfl rfl)
theorem dJ11_init_2 : decode cJ11_init 2 = .ok (.aconst_null, 1) := dk_1 (dk_at dksJ11_init_0 2 rfl rfl)
theorem dJ11_init_3 : decode cJ11_init 3 = .ok (.invokespecial 489, 3) := dk_183 1 233 (dk_at dksJ11_init_0 3 rfl rfl)
theorem dJ11_init_6 : decode cJ11_init 6 = .ok (.return_, 1) := dk_177 (dk_at dksJ11_init_0 6 rfl rfl)
abbrev cJ11_init_2 : ByteArray := prog_44_method_150_code
def yJ11_init_2 : MethodName := ⟨RJ11, "<init>", "(Ljava/lang/AbstractStringBuilder;Ljava/lang/Void;)V"⟩
def dkwJ11_init_2_4 : List UInt8 := [181, 0, 9, 177]
abbrev dktJ11_init_2_4 : List UInt8 := dkwJ11_init_2_4 ++ []
def dkwJ11_init_2_3 : List UInt8 := [184, 0, 47, 181, 0, 15, 177, 42, 4, 181, 0, 15, 42, 45, 3, 21, 4, 4, 120, 184, 0, 54]
abbrev dktJ11_init_2_3 : List UInt8 := dkwJ11_init_2_3 ++ dktJ11_init_2_4
def dkwJ11_init_2_2 : List UInt8 := [180, 4, 24, 153, 0, 28, 42, 45, 3, 21, 4, 184, 4, 27, 181, 0, 9, 42, 42, 180, 0, 9, 21, 4]
abbrev dktJ11_init_2_2 : List UInt8 := dkwJ11_init_2_2 ++ dktJ11_init_2_3
def dkwJ11_init_2_1 : List UInt8 := [181, 0, 15, 42, 45, 3, 21, 4, 184, 0, 54, 181, 0, 9, 167, 0, 59, 178, 0, 38, 153, 0, 35, 43]
abbrev dktJ11_init_2_1 : List UInt8 := dkwJ11_init_2_1 ++ dktJ11_init_2_2
def dkwJ11_init_2_0 : List UInt8 := [42, 183, 0, 1, 43, 182, 2, 40, 78, 43, 182, 2, 37, 54, 4, 43, 182, 4, 23, 153, 0, 22, 42, 3]
abbrev dktJ11_init_2_0 : List UInt8 := dkwJ11_init_2_0 ++ dktJ11_init_2_1
theorem dksJ11_init_2_0 : cJ11_init_2.data.toList.drop 0 = dktJ11_init_2_0 := by decide +kernel
theorem dksJ11_init_2_1 : cJ11_init_2.data.toList.drop 24 = dktJ11_init_2_1 := dk_seg dksJ11_init_2_0 24 rfl rfl
theorem dksJ11_init_2_2 : cJ11_init_2.data.toList.drop 48 = dktJ11_init_2_2 := dk_seg dksJ11_init_2_1 24 rfl rfl
theorem dksJ11_init_2_3 : cJ11_init_2.data.toList.drop 72 = dktJ11_init_2_3 := dk_seg dksJ11_init_2_2 24 rfl rfl
theorem dksJ11_init_2_4 : cJ11_init_2.data.toList.drop 94 = dktJ11_init_2_4 := dk_seg dksJ11_init_2_3 22 rfl rfl
theorem dJ11_init_2_0 : decode cJ11_init_2 0 = .ok (.aload_n 0, 1) := dk_42 (dk_at dksJ11_init_2_0 0 rfl rfl)
theorem dJ11_init_2_1 : decode cJ11_init_2 1 = .ok (.invokespecial 1, 3) := dk_183 0 1 (dk_at dksJ11_init_2_0 1 rfl rfl)
theorem dJ11_init_2_4 : decode cJ11_init_2 4 = .ok (.aload_n 1, 1) := dk_43 (dk_at dksJ11_init_2_0 4 rfl rfl)
theorem dJ11_init_2_5 : decode cJ11_init_2 5 = .ok (.invokevirtual 552, 3) := dk_182 2 40 (dk_at dksJ11_init_2_0 5 rfl rfl)
theorem dJ11_init_2_8 : decode cJ11_init_2 8 = .ok (.astore_n 3, 1) := dk_78 (dk_at dksJ11_init_2_0 8 rfl rfl)
theorem dJ11_init_2_9 : decode cJ11_init_2 9 = .ok (.aload_n 1, 1) := dk_43 (dk_at dksJ11_init_2_0 9 rfl rfl)
theorem dJ11_init_2_10 : decode cJ11_init_2 10 = .ok (.invokevirtual 549, 3) := dk_182 2 37 (dk_at dksJ11_init_2_0 10 rfl rfl)
theorem dJ11_init_2_13 : decode cJ11_init_2 13 = .ok (.istore 4, 2) := dk_54 4 (dk_at dksJ11_init_2_0 13 rfl rfl)
theorem dJ11_init_2_15 : decode cJ11_init_2 15 = .ok (.aload_n 1, 1) := dk_43 (dk_at dksJ11_init_2_0 15 rfl rfl)
theorem dJ11_init_2_16 : decode cJ11_init_2 16 = .ok (.invokevirtual 1047, 3) := dk_182 4 23 (dk_at dksJ11_init_2_0 16 rfl rfl)
theorem dJ11_init_2_19 : decode cJ11_init_2 19 = .ok (.ifCond .eq 22, 3) := dk_153 0 22 (dk_at dksJ11_init_2_0 19 rfl rfl)
theorem dJ11_init_2_22 : decode cJ11_init_2 22 = .ok (.aload_n 0, 1) := dk_42 (dk_at dksJ11_init_2_0 22 rfl rfl)
theorem dJ11_init_2_23 : decode cJ11_init_2 23 = .ok (.iconst 0, 1) := dk_3 (dk_at dksJ11_init_2_0 23 rfl rfl)
theorem dJ11_init_2_24 : decode cJ11_init_2 24 = .ok (.putfield 15, 3) := dk_181 0 15 (dk_at dksJ11_init_2_1 0 rfl rfl)
theorem dJ11_init_2_27 : decode cJ11_init_2 27 = .ok (.aload_n 0, 1) := dk_42 (dk_at dksJ11_init_2_1 3 rfl rfl)
theorem dJ11_init_2_28 : decode cJ11_init_2 28 = .ok (.aload_n 3, 1) := dk_45 (dk_at dksJ11_init_2_1 4 rfl rfl)
theorem dJ11_init_2_29 : decode cJ11_init_2 29 = .ok (.iconst 0, 1) := dk_3 (dk_at dksJ11_init_2_1 5 rfl rfl)
theorem dJ11_init_2_30 : decode cJ11_init_2 30 = .ok (.iload 4, 2) := dk_21 4 (dk_at dksJ11_init_2_1 6 rfl rfl)
theorem dJ11_init_2_32 : decode cJ11_init_2 32 = .ok (.invokestatic 54, 3) := dk_184 0 54 (dk_at dksJ11_init_2_1 8 rfl rfl)
theorem dJ11_init_2_35 : decode cJ11_init_2 35 = .ok (.putfield 9, 3) := dk_181 0 9 (dk_at dksJ11_init_2_1 11 rfl rfl)
theorem dJ11_init_2_38 : decode cJ11_init_2 38 = .ok (.goto 59, 3) := dk_167 0 59 (dk_at dksJ11_init_2_1 14 rfl rfl)
theorem dJ11_init_2_41 : decode cJ11_init_2 41 = .ok (.getstatic 38, 3) := dk_178 0 38 (dk_at dksJ11_init_2_1 17 rfl rfl)
theorem dJ11_init_2_44 : decode cJ11_init_2 44 = .ok (.ifCond .eq 35, 3) := dk_153 0 35 (dk_at dksJ11_init_2_1 20 rfl rfl)
theorem dJ11_init_2_47 : decode cJ11_init_2 47 = .ok (.aload_n 1, 1) := dk_43 (dk_at dksJ11_init_2_1 23 rfl rfl)
theorem dJ11_init_2_48 : decode cJ11_init_2 48 = .ok (.getfield 1048, 3) := dk_180 4 24 (dk_at dksJ11_init_2_2 0 rfl rfl)
theorem dJ11_init_2_51 : decode cJ11_init_2 51 = .ok (.ifCond .eq 28, 3) := dk_153 0 28 (dk_at dksJ11_init_2_2 3 rfl rfl)
theorem dJ11_init_2_54 : decode cJ11_init_2 54 = .ok (.aload_n 0, 1) := dk_42 (dk_at dksJ11_init_2_2 6 rfl rfl)
theorem dJ11_init_2_55 : decode cJ11_init_2 55 = .ok (.aload_n 3, 1) := dk_45 (dk_at dksJ11_init_2_2 7 rfl rfl)
theorem dJ11_init_2_56 : decode cJ11_init_2 56 = .ok (.iconst 0, 1) := dk_3 (dk_at dksJ11_init_2_2 8 rfl rfl)
theorem dJ11_init_2_57 : decode cJ11_init_2 57 = .ok (.iload 4, 2) := dk_21 4 (dk_at dksJ11_init_2_2 9 rfl rfl)
theorem dJ11_init_2_59 : decode cJ11_init_2 59 = .ok (.invokestatic 1051, 3) := dk_184 4 27 (dk_at dksJ11_init_2_2 11 rfl rfl)
theorem dJ11_init_2_62 : decode cJ11_init_2 62 = .ok (.putfield 9, 3) := dk_181 0 9 (dk_at dksJ11_init_2_2 14 rfl rfl)
theorem dJ11_init_2_65 : decode cJ11_init_2 65 = .ok (.aload_n 0, 1) := dk_42 (dk_at dksJ11_init_2_2 17 rfl rfl)
theorem dJ11_init_2_66 : decode cJ11_init_2 66 = .ok (.aload_n 0, 1) := dk_42 (dk_at dksJ11_init_2_2 18 rfl rfl)
theorem dJ11_init_2_67 : decode cJ11_init_2 67 = .ok (.getfield 9, 3) := dk_180 0 9 (dk_at dksJ11_init_2_2 19 rfl rfl)
theorem dJ11_init_2_70 : decode cJ11_init_2 70 = .ok (.iload 4, 2) := dk_21 4 (dk_at dksJ11_init_2_2 22 rfl rfl)
theorem dJ11_init_2_72 : decode cJ11_init_2 72 = .ok (.invokestatic 47, 3) := dk_184 0 47 (dk_at dksJ11_init_2_3 0 rfl rfl)
theorem dJ11_init_2_75 : decode cJ11_init_2 75 = .ok (.putfield 15, 3) := dk_181 0 15 (dk_at dksJ11_init_2_3 3 rfl rfl)
theorem dJ11_init_2_78 : decode cJ11_init_2 78 = .ok (.return_, 1) := dk_177 (dk_at dksJ11_init_2_3 6 rfl rfl)
theorem dJ11_init_2_79 : decode cJ11_init_2 79 = .ok (.aload_n 0, 1) := dk_42 (dk_at dksJ11_init_2_3 7 rfl rfl)
theorem dJ11_init_2_80 : decode cJ11_init_2 80 = .ok (.iconst 1, 1) := dk_4 (dk_at dksJ11_init_2_3 8 rfl rfl)
theorem dJ11_init_2_81 : decode cJ11_init_2 81 = .ok (.putfield 15, 3) := dk_181 0 15 (dk_at dksJ11_init_2_3 9 rfl rfl)
theorem dJ11_init_2_84 : decode cJ11_init_2 84 = .ok (.aload_n 0, 1) := dk_42 (dk_at dksJ11_init_2_3 12 rfl rfl)
theorem dJ11_init_2_85 : decode cJ11_init_2 85 = .ok (.aload_n 3, 1) := dk_45 (dk_at dksJ11_init_2_3 13 rfl rfl)
theorem dJ11_init_2_86 : decode cJ11_init_2 86 = .ok (.iconst 0, 1) := dk_3 (dk_at dksJ11_init_2_3 14 rfl rfl)
theorem dJ11_init_2_87 : decode cJ11_init_2 87 = .ok (.iload 4, 2) := dk_21 4 (dk_at dksJ11_init_2_3 15 rfl rfl)
theorem dJ11_init_2_89 : decode cJ11_init_2 89 = .ok (.iconst 1, 1) := dk_4 (dk_at dksJ11_init_2_3 17 rfl rfl)
theorem dJ11_init_2_90 : decode cJ11_init_2 90 = .ok (.ishl, 1) := dk_120 (dk_at dksJ11_init_2_3 18 rfl rfl)
theorem dJ11_init_2_91 : decode cJ11_init_2 91 = .ok (.invokestatic 54, 3) := dk_184 0 54 (dk_at dksJ11_init_2_3 19 rfl rfl)
theorem dJ11_init_2_94 : decode cJ11_init_2 94 = .ok (.putfield 9, 3) := dk_181 0 9 (dk_at dksJ11_init_2_4 0 rfl rfl)
theorem dJ11_init_2_97 : decode cJ11_init_2 97 = .ok (.return_, 1) := dk_177 (dk_at dksJ11_init_2_4 3 rfl rfl)
abbrev cJ11_equals : ByteArray := prog_44_method_66_code
def yJ11_equals : MethodName := ⟨RJ11, "equals", "(Ljava/lang/Object;)Z"⟩
def dkwJ11_equals_2 : List UInt8 := [184, 2, 29, 153, 0, 7, 4, 167, 0, 4, 3, 172]
abbrev dktJ11_equals_2 : List UInt8 := dkwJ11_equals_2 ++ []
def dkwJ11_equals_1 : List UInt8 := [153, 0, 14, 42, 180, 0, 15, 44, 180, 0, 15, 160, 0, 21, 42, 180, 0, 9, 44, 180, 0, 9]
abbrev dktJ11_equals_1 : List UInt8 := dkwJ11_equals_1 ++ dktJ11_equals_2
def dkwJ11_equals_0 : List UInt8 := [42, 43, 166, 0, 5, 4, 172, 43, 193, 0, 10, 153, 0, 43, 43, 192, 0, 10, 77, 178, 0, 38]
abbrev dktJ11_equals_0 : List UInt8 := dkwJ11_equals_0 ++ dktJ11_equals_1
theorem dksJ11_equals_0 : cJ11_equals.data.toList.drop 0 = dktJ11_equals_0 := by decide +kernel
theorem dksJ11_equals_1 : cJ11_equals.data.toList.drop 22 = dktJ11_equals_1 := dk_seg dksJ11_equals_0 22 rfl rfl
theorem dksJ11_equals_2 : cJ11_equals.data.toList.drop 44 = dktJ11_equals_2 := dk_seg dksJ11_equals_1 22 rfl rfl
theorem dJ11_equals_0 : decode cJ11_equals 0 = .ok (.aload_n 0, 1) := dk_42 (dk_at dksJ11_equals_0 0 rfl rfl)
theorem dJ11_equals_1 : decode cJ11_equals 1 = .ok (.aload_n 1, 1) := dk_43 (dk_at dksJ11_equals_0 1 rfl rfl)
theorem dJ11_equals_2 : decode cJ11_equals 2 = .ok (.if_acmp .ne 5, 3) := dk_166 0 5 (dk_at dksJ11_equals_0 2 rfl rfl)
theorem dJ11_equals_5 : decode cJ11_equals 5 = .ok (.iconst 1, 1) := dk_4 (dk_at dksJ11_equals_0 5 rfl rfl)
theorem dJ11_equals_6 : decode cJ11_equals 6 = .ok (.ireturn, 1) := dk_172 (dk_at dksJ11_equals_0 6 rfl rfl)
theorem dJ11_equals_7 : decode cJ11_equals 7 = .ok (.aload_n 1, 1) := dk_43 (dk_at dksJ11_equals_0 7 rfl rfl)
theorem dJ11_equals_8 : decode cJ11_equals 8 = .ok (.instanceof 10, 3) := dk_193 0 10 (dk_at dksJ11_equals_0 8 rfl rfl)
theorem dJ11_equals_11 : decode cJ11_equals 11 = .ok (.ifCond .eq 43, 3) := dk_153 0 43 (dk_at dksJ11_equals_0 11 rfl rfl)
theorem dJ11_equals_14 : decode cJ11_equals 14 = .ok (.aload_n 1, 1) := dk_43 (dk_at dksJ11_equals_0 14 rfl rfl)
theorem dJ11_equals_15 : decode cJ11_equals 15 = .ok (.checkcast 10, 3) := dk_192 0 10 (dk_at dksJ11_equals_0 15 rfl rfl)
theorem dJ11_equals_18 : decode cJ11_equals 18 = .ok (.astore_n 2, 1) := dk_77 (dk_at dksJ11_equals_0 18 rfl rfl)
theorem dJ11_equals_19 : decode cJ11_equals 19 = .ok (.getstatic 38, 3) := dk_178 0 38 (dk_at dksJ11_equals_0 19 rfl rfl)
theorem dJ11_equals_22 : decode cJ11_equals 22 = .ok (.ifCond .eq 14, 3) := dk_153 0 14 (dk_at dksJ11_equals_1 0 rfl rfl)
theorem dJ11_equals_25 : decode cJ11_equals 25 = .ok (.aload_n 0, 1) := dk_42 (dk_at dksJ11_equals_1 3 rfl rfl)
theorem dJ11_equals_26 : decode cJ11_equals 26 = .ok (.getfield 15, 3) := dk_180 0 15 (dk_at dksJ11_equals_1 4 rfl rfl)
theorem dJ11_equals_29 : decode cJ11_equals 29 = .ok (.aload_n 2, 1) := dk_44 (dk_at dksJ11_equals_1 7 rfl rfl)
theorem dJ11_equals_30 : decode cJ11_equals 30 = .ok (.getfield 15, 3) := dk_180 0 15 (dk_at dksJ11_equals_1 8 rfl rfl)
theorem dJ11_equals_33 : decode cJ11_equals 33 = .ok (.if_icmp .ne 21, 3) := dk_160 0 21 (dk_at dksJ11_equals_1 11 rfl rfl)
theorem dJ11_equals_36 : decode cJ11_equals 36 = .ok (.aload_n 0, 1) := dk_42 (dk_at dksJ11_equals_1 14 rfl rfl)
theorem dJ11_equals_37 : decode cJ11_equals 37 = .ok (.getfield 9, 3) := dk_180 0 9 (dk_at dksJ11_equals_1 15 rfl rfl)
theorem dJ11_equals_40 : decode cJ11_equals 40 = .ok (.aload_n 2, 1) := dk_44 (dk_at dksJ11_equals_1 18 rfl rfl)
theorem dJ11_equals_41 : decode cJ11_equals 41 = .ok (.getfield 9, 3) := dk_180 0 9 (dk_at dksJ11_equals_1 19 rfl rfl)
theorem dJ11_equals_44 : decode cJ11_equals 44 = .ok (.invokestatic 541, 3) := dk_184 2 29 (dk_at dksJ11_equals_2 0 rfl rfl)
theorem dJ11_equals_47 : decode cJ11_equals 47 = .ok (.ifCond .eq 7, 3) := dk_153 0 7 (dk_at dksJ11_equals_2 3 rfl rfl)
theorem dJ11_equals_50 : decode cJ11_equals 50 = .ok (.iconst 1, 1) := dk_4 (dk_at dksJ11_equals_2 6 rfl rfl)
theorem dJ11_equals_51 : decode cJ11_equals 51 = .ok (.goto 4, 3) := dk_167 0 4 (dk_at dksJ11_equals_2 7 rfl rfl)
theorem dJ11_equals_54 : decode cJ11_equals 54 = .ok (.iconst 0, 1) := dk_3 (dk_at dksJ11_equals_2 10 rfl rfl)
theorem dJ11_equals_55 : decode cJ11_equals 55 = .ok (.ireturn, 1) := dk_172 (dk_at dksJ11_equals_2 11 rfl rfl)
abbrev cJ11_hashCode : ByteArray := prog_44_method_78_code
def yJ11_hashCode : MethodName := ⟨RJ11, "hashCode", "()I"⟩
def dkwJ11_hashCode_2 : List UInt8 := [181, 0, 23, 167, 0, 8, 42, 27, 181, 0, 19, 27, 172]
abbrev dktJ11_hashCode_2 : List UInt8 := dkwJ11_hashCode_2 ++ []
def dkwJ11_hashCode_1 : List UInt8 := [180, 0, 9, 184, 2, 116, 167, 0, 10, 42, 180, 0, 9, 184, 2, 120, 60, 27, 154, 0, 11, 42, 4]
abbrev dktJ11_hashCode_1 : List UInt8 := dkwJ11_hashCode_1 ++ dktJ11_hashCode_2
def dkwJ11_hashCode_0 : List UInt8 := [42, 180, 0, 19, 60, 27, 154, 0, 52, 42, 180, 0, 23, 154, 0, 45, 42, 182, 1, 236, 153, 0, 13, 42]
abbrev dktJ11_hashCode_0 : List UInt8 := dkwJ11_hashCode_0 ++ dktJ11_hashCode_1
theorem dksJ11_hashCode_0 : cJ11_hashCode.data.toList.drop 0 = dktJ11_hashCode_0 := by decide +kernel
theorem dksJ11_hashCode_1 : cJ11_hashCode.data.toList.drop 24 = dktJ11_hashCode_1 := dk_seg dksJ11_hashCode_0 24 rfl rfl
theorem dksJ11_hashCode_2 : cJ11_hashCode.data.toList.drop 47 = dktJ11_hashCode_2 := dk_seg dksJ11_hashCode_1 23 rfl rfl
theorem dJ11_hashCode_0 : decode cJ11_hashCode 0 = .ok (.aload_n 0, 1) := dk_42 (dk_at dksJ11_hashCode_0 0 rfl rfl)
theorem dJ11_hashCode_1 : decode cJ11_hashCode 1 = .ok (.getfield 19, 3) := dk_180 0 19 (dk_at dksJ11_hashCode_0 1 rfl rfl)
theorem dJ11_hashCode_4 : decode cJ11_hashCode 4 = .ok (.istore_n 1, 1) := dk_60 (dk_at dksJ11_hashCode_0 4 rfl rfl)
theorem dJ11_hashCode_5 : decode cJ11_hashCode 5 = .ok (.iload_n 1, 1) := dk_27 (dk_at dksJ11_hashCode_0 5 rfl rfl)
theorem dJ11_hashCode_6 : decode cJ11_hashCode 6 = .ok (.ifCond .ne 52, 3) := dk_154 0 52 (dk_at dksJ11_hashCode_0 6 rfl rfl)
theorem dJ11_hashCode_9 : decode cJ11_hashCode 9 = .ok (.aload_n 0, 1) := dk_42 (dk_at dksJ11_hashCode_0 9 rfl rfl)
theorem dJ11_hashCode_10 : decode cJ11_hashCode 10 = .ok (.getfield 23, 3) := dk_180 0 23 (dk_at dksJ11_hashCode_0 10 rfl rfl)
theorem dJ11_hashCode_13 : decode cJ11_hashCode 13 = .ok (.ifCond .ne 45, 3) := dk_154 0 45 (dk_at dksJ11_hashCode_0 13 rfl rfl)
theorem dJ11_hashCode_16 : decode cJ11_hashCode 16 = .ok (.aload_n 0, 1) := dk_42 (dk_at dksJ11_hashCode_0 16 rfl rfl)
theorem dJ11_hashCode_17 : decode cJ11_hashCode 17 = .ok (.invokevirtual 492, 3) := dk_182 1 236 (dk_at dksJ11_hashCode_0 17 rfl rfl)
theorem dJ11_hashCode_20 : decode cJ11_hashCode 20 = .ok (.ifCond .eq 13, 3) := dk_153 0 13 (dk_at dksJ11_hashCode_0 20 rfl rfl)
theorem dJ11_hashCode_23 : decode cJ11_hashCode 23 = .ok (.aload_n 0, 1) := dk_42 (dk_at dksJ11_hashCode_0 23 rfl rfl)
theorem dJ11_hashCode_24 : decode cJ11_hashCode 24 = .ok (.getfield 9, 3) := dk_180 0 9 (dk_at dksJ11_hashCode_1 0 rfl rfl)
theorem dJ11_hashCode_27 : decode cJ11_hashCode 27 = .ok (.invokestatic 628, 3) := dk_184 2 116 (dk_at dksJ11_hashCode_1 3 rfl rfl)
theorem dJ11_hashCode_30 : decode cJ11_hashCode 30 = .ok (.goto 10, 3) := dk_167 0 10 (dk_at dksJ11_hashCode_1 6 rfl rfl)
theorem dJ11_hashCode_33 : decode cJ11_hashCode 33 = .ok (.aload_n 0, 1) := dk_42 (dk_at dksJ11_hashCode_1 9 rfl rfl)
theorem dJ11_hashCode_34 : decode cJ11_hashCode 34 = .ok (.getfield 9, 3) := dk_180 0 9 (dk_at dksJ11_hashCode_1 10 rfl rfl)
theorem dJ11_hashCode_37 : decode cJ11_hashCode 37 = .ok (.invokestatic 632, 3) := dk_184 2 120 (dk_at dksJ11_hashCode_1 13 rfl rfl)
theorem dJ11_hashCode_40 : decode cJ11_hashCode 40 = .ok (.istore_n 1, 1) := dk_60 (dk_at dksJ11_hashCode_1 16 rfl rfl)
theorem dJ11_hashCode_41 : decode cJ11_hashCode 41 = .ok (.iload_n 1, 1) := dk_27 (dk_at dksJ11_hashCode_1 17 rfl rfl)
theorem dJ11_hashCode_42 : decode cJ11_hashCode 42 = .ok (.ifCond .ne 11, 3) := dk_154 0 11 (dk_at dksJ11_hashCode_1 18 rfl rfl)
theorem dJ11_hashCode_45 : decode cJ11_hashCode 45 = .ok (.aload_n 0, 1) := dk_42 (dk_at dksJ11_hashCode_1 21 rfl rfl)
theorem dJ11_hashCode_46 : decode cJ11_hashCode 46 = .ok (.iconst 1, 1) := dk_4 (dk_at dksJ11_hashCode_1 22 rfl rfl)
theorem dJ11_hashCode_47 : decode cJ11_hashCode 47 = .ok (.putfield 23, 3) := dk_181 0 23 (dk_at dksJ11_hashCode_2 0 rfl rfl)
theorem dJ11_hashCode_50 : decode cJ11_hashCode 50 = .ok (.goto 8, 3) := dk_167 0 8 (dk_at dksJ11_hashCode_2 3 rfl rfl)
theorem dJ11_hashCode_53 : decode cJ11_hashCode 53 = .ok (.aload_n 0, 1) := dk_42 (dk_at dksJ11_hashCode_2 6 rfl rfl)
theorem dJ11_hashCode_54 : decode cJ11_hashCode 54 = .ok (.iload_n 1, 1) := dk_27 (dk_at dksJ11_hashCode_2 7 rfl rfl)
theorem dJ11_hashCode_55 : decode cJ11_hashCode 55 = .ok (.putfield 19, 3) := dk_181 0 19 (dk_at dksJ11_hashCode_2 8 rfl rfl)
theorem dJ11_hashCode_58 : decode cJ11_hashCode 58 = .ok (.iload_n 1, 1) := dk_27 (dk_at dksJ11_hashCode_2 11 rfl rfl)
theorem dJ11_hashCode_59 : decode cJ11_hashCode 59 = .ok (.ireturn, 1) := dk_172 (dk_at dksJ11_hashCode_2 12 rfl rfl)
abbrev cJ11_isLatin1 : ByteArray := prog_44_method_154_code
def yJ11_isLatin1 : MethodName := ⟨RJ11, "isLatin1", "()Z"⟩
def dkwJ11_isLatin1_0 : List UInt8 := [178, 0, 38, 153, 0, 14, 42, 180, 0, 15, 154, 0, 7, 4, 167, 0, 4, 3, 172]
abbrev dktJ11_isLatin1_0 : List UInt8 := dkwJ11_isLatin1_0 ++ []
theorem dksJ11_isLatin1_0 : cJ11_isLatin1.data.toList.drop 0 = dktJ11_isLatin1_0 := by decide +kernel
theorem dJ11_isLatin1_0 : decode cJ11_isLatin1 0 = .ok (.getstatic 38, 3) := dk_178 0 38 (dk_at dksJ11_isLatin1_0 0 rfl rfl)
theorem dJ11_isLatin1_3 : decode cJ11_isLatin1 3 = .ok (.ifCond .eq 14, 3) := dk_153 0 14 (dk_at dksJ11_isLatin1_0 3 rfl rfl)
theorem dJ11_isLatin1_6 : decode cJ11_isLatin1 6 = .ok (.aload_n 0, 1) := dk_42 (dk_at dksJ11_isLatin1_0 6 rfl rfl)
theorem dJ11_isLatin1_7 : decode cJ11_isLatin1 7 = .ok (.getfield 15, 3) := dk_180 0 15 (dk_at dksJ11_isLatin1_0 7 rfl rfl)
theorem dJ11_isLatin1_10 : decode cJ11_isLatin1 10 = .ok (.ifCond .ne 7, 3) := dk_154 0 7 (dk_at dksJ11_isLatin1_0 10 rfl rfl)
theorem dJ11_isLatin1_13 : decode cJ11_isLatin1 13 = .ok (.iconst 1, 1) := dk_4 (dk_at dksJ11_isLatin1_0 13 rfl rfl)
theorem dJ11_isLatin1_14 : decode cJ11_isLatin1 14 = .ok (.goto 4, 3) := dk_167 0 4 (dk_at dksJ11_isLatin1_0 14 rfl rfl)
theorem dJ11_isLatin1_17 : decode cJ11_isLatin1 17 = .ok (.iconst 0, 1) := dk_3 (dk_at dksJ11_isLatin1_0 17 rfl rfl)
theorem dJ11_isLatin1_18 : decode cJ11_isLatin1 18 = .ok (.ireturn, 1) := dk_172 (dk_at dksJ11_isLatin1_0 18 rfl rfl)
theorem q149 : (Jvm.Cond.initialized "java/lang/String") ∈ lw_all := lw_g (lw_at lw_m1 25 rfl) rfl
theorem q452 : (Jvm.Cond.selects "java/lang/String" ({ cls := "java/lang/Object", name := "getClass", desc := "()Ljava/lang/Class;" } : Jvm.MethodName) ({ cls := "java/lang/Object", name := "getClass", desc := "()Ljava/lang/Class;" } : Jvm.MethodName)) ∈ lw_all := lw_g (lw_at lw_m2 88 rfl) rfl
theorem q915 : (Jvm.Cond.laysStatic "java/lang/String" "COMPACT_STRINGS" "Z") ∈ lw_tbl := lw_at lw_m4 71 rfl
theorem q925 : (Jvm.Cond.fieldLink "java/lang/String" (1048 : Nat) "java/lang/AbstractStringBuilder" "maybeLatin1" "Z") ∈ lw_all := lw_g (lw_at lw_m4 81 rfl) rfl
theorem q988 : (Jvm.Cond.static ({ cls := "java/lang/String", name := "checkBoundsOffCount", desc := "(III)I" } : Jvm.MethodName)) ∈ lw_all := lw_g (lw_at lw_m4 144 rfl) rfl
theorem q989 : (Jvm.Cond.code ({ cls := "java/lang/String", name := "checkBoundsOffCount", desc := "(III)I" } : Jvm.MethodName) prog_44_method_157_code (3 : Nat) (Option.some Jvm.ClassFile.FieldType.int)) ∈ lw_all := lw_g (lw_at lw_m4 145 rfl) rfl
theorem q990 : (Jvm.Cond.fieldLink "java/lang/String" (1053 : Nat) "jdk/internal/util/Preconditions" "SIOOBE_FORMATTER" "Ljava/util/function/BiFunction;") ∈ lw_all := lw_g (lw_at lw_m4 146 rfl) rfl
theorem q992 : (Jvm.Cond.methodLink "java/lang/String" (1065 : Nat) ({ cls := "jdk/internal/util/Preconditions", name := "checkFromIndexSize", desc := "(IIILjava/util/function/BiFunction;)I" } : Jvm.MethodName)) ∈ lw_all := lw_g (lw_at lw_m4 148 rfl) rfl
theorem q1011 : (Jvm.Cond.static ({ cls := "java/lang/String", name := "checkIndex", desc := "(II)V" } : Jvm.MethodName)) ∈ lw_all := lw_g (lw_at lw_m4 167 rfl) rfl
theorem q1012 : (Jvm.Cond.code ({ cls := "java/lang/String", name := "checkIndex", desc := "(II)V" } : Jvm.MethodName) prog_44_method_155_code (2 : Nat) (Option.none : Option Jvm.ClassFile.FieldType)) ∈ lw_all := lw_g (lw_at lw_m4 168 rfl) rfl
theorem q1013 : (Jvm.Cond.methodLink "java/lang/String" (1059 : Nat) ({ cls := "jdk/internal/util/Preconditions", name := "checkIndex", desc := "(IILjava/util/function/BiFunction;)I" } : Jvm.MethodName)) ∈ lw_all := lw_g (lw_at lw_m4 169 rfl) rfl
theorem q1019 : (Jvm.Cond.instantiable "java/lang/String" (4 : Nat)) ∈ lw_all := lw_g (lw_at lw_m4 175 rfl) rfl
theorem q1021 : (Jvm.Cond.instanceMethod ({ cls := "java/lang/String", name := "<init>", desc := "(Ljava/lang/StringBuilder;)V" } : Jvm.MethodName)) ∈ lw_all := lw_g (lw_at lw_m4 177 rfl) rfl
theorem q1022 : (Jvm.Cond.code ({ cls := "java/lang/String", name := "<init>", desc := "(Ljava/lang/StringBuilder;)V" } : Jvm.MethodName) prog_44_method_53_code (2 : Nat) (Option.none : Option Jvm.ClassFile.FieldType)) ∈ lw_all := lw_g (lw_at lw_m4 178 rfl) rfl
theorem q1023 : (Jvm.Cond.methodLink "java/lang/String" (489 : Nat) ({ cls := "java/lang/String", name := "<init>", desc := "(Ljava/lang/AbstractStringBuilder;Ljava/lang/Void;)V" } : Jvm.MethodName)) ∈ lw_all := lw_g (lw_at lw_m4 179 rfl) rfl
theorem q1024 : (Jvm.Cond.instanceMethod ({ cls := "java/lang/String", name := "<init>", desc := "(Ljava/lang/AbstractStringBuilder;Ljava/lang/Void;)V" } : Jvm.MethodName)) ∈ lw_all := lw_g (lw_at lw_m4 180 rfl) rfl
theorem q1025 : (Jvm.Cond.code ({ cls := "java/lang/String", name := "<init>", desc := "(Ljava/lang/AbstractStringBuilder;Ljava/lang/Void;)V" } : Jvm.MethodName) prog_44_method_150_code (5 : Nat) (Option.none : Option Jvm.ClassFile.FieldType)) ∈ lw_all := lw_g (lw_at lw_m4 181 rfl) rfl
theorem q1026 : (Jvm.Cond.methodLink "java/lang/String" (1 : Nat) ({ cls := "java/lang/Object", name := "<init>", desc := "()V" } : Jvm.MethodName)) ∈ lw_all := lw_g (lw_at lw_m4 182 rfl) rfl
theorem q1027 : (Jvm.Cond.methodLink "java/lang/String" (552 : Nat) ({ cls := "java/lang/AbstractStringBuilder", name := "getValue", desc := "()[B" } : Jvm.MethodName)) ∈ lw_all := lw_g (lw_at lw_m4 183 rfl) rfl
theorem q1032 : (Jvm.Cond.methodLink "java/lang/String" (549 : Nat) ({ cls := "java/lang/AbstractStringBuilder", name := "length", desc := "()I" } : Jvm.MethodName)) ∈ lw_all := lw_g (lw_at lw_m4 188 rfl) rfl
theorem q1040 : (Jvm.Cond.methodLink "java/lang/String" (1047 : Nat) ({ cls := "java/lang/AbstractStringBuilder", name := "isLatin1", desc := "()Z" } : Jvm.MethodName)) ∈ lw_all := lw_g (lw_at lw_m4 196 rfl) rfl
theorem q1041 : (Jvm.Cond.methodLink "java/lang/String" (54 : Nat) ({ cls := "java/util/Arrays", name := "copyOfRange", desc := "([BII)[B" } : Jvm.MethodName)) ∈ lw_all := lw_g (lw_at lw_m4 197 rfl) rfl
theorem q1050 : (Jvm.Cond.fieldLink "java/lang/String" (38 : Nat) "java/lang/String" "COMPACT_STRINGS" "Z") ∈ lw_all := lw_g (lw_at lw_m4 206 rfl) rfl
theorem q1051 : (Jvm.Cond.methodLink "java/lang/String" (1051 : Nat) ({ cls := "java/lang/StringUTF16", name := "compress", desc := "([BII)[B" } : Jvm.MethodName)) ∈ lw_all := lw_g (lw_at lw_m4 207 rfl) rfl
theorem q1061 : (Jvm.Cond.methodLink "java/lang/String" (47 : Nat) ({ cls := "java/lang/StringUTF16", name := "coderFromArrayLen", desc := "([BI)B" } : Jvm.MethodName)) ∈ lw_all := lw_g (lw_at lw_m4 217 rfl) rfl
theorem q1064 : (Jvm.Cond.fieldLink "java/lang/String" (9 : Nat) "java/lang/String" "value" "[B") ∈ lw_all := lw_g (lw_at lw_m4 220 rfl) rfl
theorem q1065 : (Jvm.Cond.fieldLink "java/lang/String" (15 : Nat) "java/lang/String" "coder" "B") ∈ lw_all := lw_g (lw_at lw_m4 221 rfl) rfl
theorem q1066 : (Jvm.Cond.fieldLink "java/lang/String" (19 : Nat) "java/lang/String" "hash" "I") ∈ lw_all := lw_g (lw_at lw_m4 222 rfl) rfl
theorem q1067 : (Jvm.Cond.fieldLink "java/lang/String" (23 : Nat) "java/lang/String" "hashIsZero" "Z") ∈ lw_all := lw_g (lw_at lw_m4 223 rfl) rfl
theorem q1068 : (Jvm.Cond.laysFinal "java/lang/String" "java/lang/String" "value" "[B") ∈ lw_all := lw_g (lw_at lw_m4 224 rfl) rfl
theorem q1069 : (Jvm.Cond.soleField "java/lang/String" "value") ∈ lw_all := lw_g (lw_at lw_m4 225 rfl) rfl
theorem q1070 : (Jvm.Cond.laysFinal "java/lang/String" "java/lang/String" "coder" "B") ∈ lw_all := lw_g (lw_at lw_m4 226 rfl) rfl
theorem q1071 : (Jvm.Cond.soleField "java/lang/String" "coder") ∈ lw_all := lw_g (lw_at lw_m4 227 rfl) rfl
theorem q1072 : (Jvm.Cond.lays "java/lang/String" "java/lang/String" "hash" "I") ∈ lw_all := lw_g (lw_at lw_m4 228 rfl) rfl
theorem q1073 : (Jvm.Cond.soleField "java/lang/String" "hash") ∈ lw_all := lw_g (lw_at lw_m4 229 rfl) rfl
theorem q1074 : (Jvm.Cond.lays "java/lang/String" "java/lang/String" "hashIsZero" "Z") ∈ lw_all := lw_g (lw_at lw_m4 230 rfl) rfl
theorem q1075 : (Jvm.Cond.soleField "java/lang/String" "hashIsZero") ∈ lw_all := lw_g (lw_at lw_m4 231 rfl) rfl
theorem q1076 : (Jvm.Cond.superclass "java/lang/String" "java/lang/Object") ∈ lw_all := lw_g (lw_at lw_m4 232 rfl) rfl
theorem q1094 : (Jvm.Cond.instanceMethod ({ cls := "java/lang/String", name := "equals", desc := "(Ljava/lang/Object;)Z" } : Jvm.MethodName)) ∈ lw_all := lw_g (lw_at lw_m5 10 rfl) rfl
theorem q1095 : (Jvm.Cond.selects "java/lang/String" ({ cls := "java/lang/String", name := "equals", desc := "(Ljava/lang/Object;)Z" } : Jvm.MethodName) ({ cls := "java/lang/String", name := "equals", desc := "(Ljava/lang/Object;)Z" } : Jvm.MethodName)) ∈ lw_all := lw_g (lw_at lw_m5 11 rfl) rfl
theorem q1096 : (Jvm.Cond.code ({ cls := "java/lang/String", name := "equals", desc := "(Ljava/lang/Object;)Z" } : Jvm.MethodName) prog_44_method_66_code (3 : Nat) (Option.some Jvm.ClassFile.FieldType.boolean)) ∈ lw_all := lw_g (lw_at lw_m5 12 rfl) rfl
theorem q1097 : (Jvm.Cond.classLink "java/lang/String" (10 : Nat) "java/lang/String") ∈ lw_all := lw_g (lw_at lw_m5 13 rfl) rfl
theorem q1098 : (Jvm.Cond.methodLink "java/lang/String" (541 : Nat) ({ cls := "java/lang/StringLatin1", name := "equals", desc := "([B[B)Z" } : Jvm.MethodName)) ∈ lw_all := lw_g (lw_at lw_m5 14 rfl) rfl
theorem q1439 : (Jvm.Cond.instanceMethod ({ cls := "java/lang/String", name := "hashCode", desc := "()I" } : Jvm.MethodName)) ∈ lw_all := lw_g (lw_at lw_m6 115 rfl) rfl
theorem q1440 : (Jvm.Cond.selects "java/lang/String" ({ cls := "java/lang/String", name := "hashCode", desc := "()I" } : Jvm.MethodName) ({ cls := "java/lang/String", name := "hashCode", desc := "()I" } : Jvm.MethodName)) ∈ lw_all := lw_g (lw_at lw_m6 116 rfl) rfl
theorem q1441 : (Jvm.Cond.code ({ cls := "java/lang/String", name := "hashCode", desc := "()I" } : Jvm.MethodName) prog_44_method_78_code (2 : Nat) (Option.some Jvm.ClassFile.FieldType.int)) ∈ lw_all := lw_g (lw_at lw_m6 117 rfl) rfl
theorem q1442 : (Jvm.Cond.methodLink "java/lang/String" (492 : Nat) ({ cls := "java/lang/String", name := "isLatin1", desc := "()Z" } : Jvm.MethodName)) ∈ lw_all := lw_g (lw_at lw_m6 118 rfl) rfl
theorem q1443 : (Jvm.Cond.instanceMethod ({ cls := "java/lang/String", name := "isLatin1", desc := "()Z" } : Jvm.MethodName)) ∈ lw_all := lw_g (lw_at lw_m6 119 rfl) rfl
theorem q1444 : (Jvm.Cond.selects "java/lang/String" ({ cls := "java/lang/String", name := "isLatin1", desc := "()Z" } : Jvm.MethodName) ({ cls := "java/lang/String", name := "isLatin1", desc := "()Z" } : Jvm.MethodName)) ∈ lw_all := lw_g (lw_at lw_m6 120 rfl) rfl
theorem q1445 : (Jvm.Cond.code ({ cls := "java/lang/String", name := "isLatin1", desc := "()Z" } : Jvm.MethodName) prog_44_method_154_code (1 : Nat) (Option.some Jvm.ClassFile.FieldType.boolean)) ∈ lw_all := lw_g (lw_at lw_m6 121 rfl) rfl
theorem q1446 : (Jvm.Cond.methodLink "java/lang/String" (628 : Nat) ({ cls := "java/lang/StringLatin1", name := "hashCode", desc := "([B)I" } : Jvm.MethodName)) ∈ lw_all := lw_g (lw_at lw_m6 122 rfl) rfl
theorem q1487 : (Jvm.Cond.methodLink "java/lang/String" (632 : Nat) ({ cls := "java/lang/StringUTF16", name := "hashCode", desc := "([B)I" } : Jvm.MethodName)) ∈ lw_all := lw_g (lw_at lw_m6 163 rfl) rfl
theorem q2592 : (Jvm.Cond.castable "java/lang/String" "java/lang/Object") ∈ lw_tbl := lw_at lw_m11 68 rfl
theorem in_J11 : ∀ w ∈ wsJ110, w ∈ lw_all := lw_in wsJ110 [1068, 1070, 1072, 1074] (by decide +kernel) (by decide +kernel)

/-! java/lang/StringUTF16 -/
set_option maxRecDepth 100000
def RJ12 : String := "java/lang/StringUTF16"
abbrev cJ12_newBytesFor : ByteArray := prog_47_method_2_code
def yJ12_newBytesFor : MethodName := ⟨RJ12, "newBytesFor", "(I)[B"⟩
def dkwJ12_newBytesFor_0 : List UInt8 := [26, 184, 0, 11, 188, 8, 176]
abbrev dktJ12_newBytesFor_0 : List UInt8 := dkwJ12_newBytesFor_0 ++ []
theorem dksJ12_newBytesFor_0 : cJ12_newBytesFor.data.toList.drop 0 = dktJ12_newBytesFor_0 := by decide +kernel
theorem dJ12_newBytesFor_0 : decode cJ12_newBytesFor 0 = .ok (.iload_n 0, 1) := dk_26 (dk_at dksJ12_newBytesFor_0 0 rfl rfl)
theorem dJ12_newBytesFor_1 : decode cJ12_newBytesFor 1 = .ok (.invokestatic 11, 3) := dk_184 0 11 (dk_at dksJ12_newBytesFor_0 1 rfl rfl)
theorem dJ12_newBytesFor_4 : decode cJ12_newBytesFor 4 = .ok (.newarray .byte, 2) := dk_188_8 (dk_at dksJ12_newBytesFor_0 4 rfl rfl)
theorem dJ12_newBytesFor_6 : decode cJ12_newBytesFor 6 = .ok (.areturn, 1) := dk_176 (dk_at dksJ12_newBytesFor_0 6 rfl rfl)
abbrev cJ12_newBytesLength : ByteArray := prog_47_method_3_code
def yJ12_newBytesLength : MethodName := ⟨RJ12, "newBytesLength", "(I)I"⟩
def dkwJ12_newBytesLength_2 : List UInt8 := [182, 0, 32, 182, 0, 37, 183, 0, 41, 191, 26, 4, 120, 172]
abbrev dktJ12_newBytesLength_2 : List UInt8 := dkwJ12_newBytesLength_2 ++ []
def dkwJ12_newBytesLength_1 : List UInt8 := [187, 0, 23, 89, 183, 0, 25, 18, 26, 182, 0, 28, 26, 182, 0, 32, 18, 35, 182, 0, 28, 18, 20]
abbrev dktJ12_newBytesLength_1 : List UInt8 := dkwJ12_newBytesLength_1 ++ dktJ12_newBytesLength_2
def dkwJ12_newBytesLength_0 : List UInt8 := [26, 156, 0, 11, 187, 0, 17, 89, 183, 0, 19, 191, 26, 18, 20, 161, 0, 40, 187, 0, 21, 89]
abbrev dktJ12_newBytesLength_0 : List UInt8 := dkwJ12_newBytesLength_0 ++ dktJ12_newBytesLength_1
theorem dksJ12_newBytesLength_0 : cJ12_newBytesLength.data.toList.drop 0 = dktJ12_newBytesLength_0 := by decide +kernel
theorem dksJ12_newBytesLength_1 : cJ12_newBytesLength.data.toList.drop 22 = dktJ12_newBytesLength_1 := dk_seg dksJ12_newBytesLength_0 22 rfl rfl
theorem dksJ12_newBytesLength_2 : cJ12_newBytesLength.data.toList.drop 45 = dktJ12_newBytesLength_2 := dk_seg dksJ12_newBytesLength_1 23 rfl rfl
theorem dJ12_newBytesLength_0 : decode cJ12_newBytesLength 0 = .ok (.iload_n 0, 1) := dk_26 (dk_at dksJ12_newBytesLength_0 0 rfl rfl)
theorem dJ12_newBytesLength_1 : decode cJ12_newBytesLength 1 = .ok (.ifCond .ge 11, 3) := dk_156 0 11 (dk_at dksJ12_newBytesLength_0 1 rfl rfl)
theorem dJ12_newBytesLength_4 : decode cJ12_newBytesLength 4 = .ok (.new 17, 3) := dk_187 0 17 (dk_at dksJ12_newBytesLength_0 4 rfl rfl)
theorem dJ12_newBytesLength_7 : decode cJ12_newBytesLength 7 = .ok (.dup, 1) := dk_89 (dk_at dksJ12_newBytesLength_0 7 rfl rfl)
theorem dJ12_newBytesLength_8 : decode cJ12_newBytesLength 8 = .ok (.invokespecial 19, 3) := dk_183 0 19 (dk_at dksJ12_newBytesLength_0 8 rfl rfl)
theorem dJ12_newBytesLength_11 : decode cJ12_newBytesLength 11 = .ok (.athrow, 1) := dk_191 (dk_at dksJ12_newBytesLength_0 11 rfl rfl)
theorem dJ12_newBytesLength_12 : decode cJ12_newBytesLength 12 = .ok (.iload_n 0, 1) := dk_26 (dk_at dksJ12_newBytesLength_0 12 rfl rfl)
theorem dJ12_newBytesLength_13 : decode cJ12_newBytesLength 13 = .ok (.ldc 20, 2) := dk_18 20 (dk_at dksJ12_newBytesLength_0 13 rfl rfl)
theorem dJ12_newBytesLength_15 : decode cJ12_newBytesLength 15 = .ok (.if_icmp .lt 40, 3) := dk_161 0 40 (dk_at dksJ12_newBytesLength_0 15 rfl rfl)
theorem dJ12_newBytesLength_18 : decode cJ12_newBytesLength 18 = .ok (.new 21, 3) := dk_187 0 21 (dk_at dksJ12_newBytesLength_0 18 rfl rfl)
theorem dJ12_newBytesLength_21 : decode cJ12_newBytesLength 21 = .ok (.dup, 1) := dk_89 (dk_at dksJ12_newBytesLength_0 21 rfl rfl)
theorem dJ12_newBytesLength_22 : decode cJ12_newBytesLength 22 = .ok (.new 23, 3) := dk_187 0 23 (dk_at dksJ12_newBytesLength_1 0 rfl rfl)
theorem dJ12_newBytesLength_25 : decode cJ12_newBytesLength 25 = .ok (.dup, 1) := dk_89 (dk_at dksJ12_newBytesLength_1 3 rfl rfl)
theorem dJ12_newBytesLength_26 : decode cJ12_newBytesLength 26 = .ok (.invokespecial 25, 3) := dk_183 0 25 (dk_at dksJ12_newBytesLength_1 4 rfl rfl)
theorem dJ12_newBytesLength_29 : decode cJ12_newBytesLength 29 = .ok (.ldc 26, 2) := dk_18 26 (dk_at dksJ12_newBytesLength_1 7 rfl rfl)
theorem dJ12_newBytesLength_31 : decode cJ12_newBytesLength 31 = .ok (.invokevirtual 28, 3) := dk_182 0 28 (dk_at dksJ12_newBytesLength_1 9 rfl rfl)
theorem dJ12_newBytesLength_34 : decode cJ12_newBytesLength 34 = .ok (.iload_n 0, 1) := dk_26 (dk_at dksJ12_newBytesLength_1 12 rfl rfl)
theorem dJ12_newBytesLength_35 : decode cJ12_newBytesLength 35 = .ok (.invokevirtual 32, 3) := dk_182 0 32 (dk_at dksJ12_newBytesLength_1 13 rfl rfl)
theorem dJ12_newBytesLength_38 : decode cJ12_newBytesLength 38 = .ok (.ldc 35, 2) := dk_18 35 (dk_at dksJ12_newBytesLength_1 16 rfl rfl)
theorem dJ12_newBytesLength_40 : decode cJ12_newBytesLength 40 = .ok (.invokevirtual 28, 3) := dk_182 0 28 (dk_at dksJ12_newBytesLength_1 18 rfl rfl)
theorem dJ12_newBytesLength_43 : decode cJ12_newBytesLength 43 = .ok (.ldc 20, 2) := dk_18 20 (dk_at dksJ12_newBytesLength_1 21 rfl rfl)
theorem dJ12_newBytesLength_45 : decode cJ12_newBytesLength 45 = .ok (.invokevirtual 32, 3) := dk_182 0 32 (dk_at dksJ12_newBytesLength_2 0 rfl rfl)
theorem dJ12_newBytesLength_48 : decode cJ12_newBytesLength 48 = .ok (.invokevirtual 37, 3) := dk_182 0 37 (dk_at dksJ12_newBytesLength_2 3 rfl rfl)
theorem dJ12_newBytesLength_51 : decode cJ12_newBytesLength 51 = .ok (.invokespecial 41, 3) := dk_183 0 41 (dk_at dksJ12_newBytesLength_2 6 rfl rfl)
theorem dJ12_newBytesLength_54 : decode cJ12_newBytesLength 54 = .ok (.athrow, 1) := dk_191 (dk_at dksJ12_newBytesLength_2 9 rfl rfl)
theorem dJ12_newBytesLength_55 : decode cJ12_newBytesLength 55 = .ok (.iload_n 0, 1) := dk_26 (dk_at dksJ12_newBytesLength_2 10 rfl rfl)
theorem dJ12_newBytesLength_56 : decode cJ12_newBytesLength 56 = .ok (.iconst 1, 1) := dk_4 (dk_at dksJ12_newBytesLength_2 11 rfl rfl)
theorem dJ12_newBytesLength_57 : decode cJ12_newBytesLength 57 = .ok (.ishl, 1) := dk_120 (dk_at dksJ12_newBytesLength_2 12 rfl rfl)
theorem dJ12_newBytesLength_58 : decode cJ12_newBytesLength 58 = .ok (.ireturn, 1) := dk_172 (dk_at dksJ12_newBytesLength_2 13 rfl rfl)
abbrev cJ12_inflate : ByteArray := prog_47_method_86_code
def yJ12_inflate : MethodName := ⟨RJ12, "inflate", "([BI[BII)V"⟩
def dkwJ12_inflate_1 : List UInt8 := [132, 1, 1, 51, 17, 0, 255, 126, 184, 0, 111, 132, 5, 1, 167, 255, 228, 177]
abbrev dktJ12_inflate_1 : List UInt8 := dkwJ12_inflate_1 ++ []
def dkwJ12_inflate_0 : List UInt8 := [29, 21, 4, 44, 184, 0, 173, 3, 54, 5, 21, 5, 21, 4, 162, 0, 27, 44, 29, 132, 3, 1, 42, 27]
abbrev dktJ12_inflate_0 : List UInt8 := dkwJ12_inflate_0 ++ dktJ12_inflate_1
theorem dksJ12_inflate_0 : cJ12_inflate.data.toList.drop 0 = dktJ12_inflate_0 := by decide +kernel
theorem dksJ12_inflate_1 : cJ12_inflate.data.toList.drop 24 = dktJ12_inflate_1 := dk_seg dksJ12_inflate_0 24 rfl rfl
theorem dJ12_inflate_0 : decode cJ12_inflate 0 = .ok (.iload_n 3, 1) := dk_29 (dk_at dksJ12_inflate_0 0 rfl rfl)
theorem dJ12_inflate_1 : decode cJ12_inflate 1 = .ok (.iload 4, 2) := dk_21 4 (dk_at dksJ12_inflate_0 1 rfl rfl)
theorem dJ12_inflate_3 : decode cJ12_inflate 3 = .ok (.aload_n 2, 1) := dk_44 (dk_at dksJ12_inflate_0 3 rfl rfl)
theorem dJ12_inflate_4 : decode cJ12_inflate 4 = .ok (.invokestatic 173, 3) := dk_184 0 173 (dk_at dksJ12_inflate_0 4 rfl rfl)
theorem dJ12_inflate_7 : decode cJ12_inflate 7 = .ok (.iconst 0, 1) := dk_3 (dk_at dksJ12_inflate_0 7 rfl rfl)
theorem dJ12_inflate_8 : decode cJ12_inflate 8 = .ok (.istore 5, 2) := dk_54 5 (dk_at dksJ12_inflate_0 8 rfl rfl)
theorem dJ12_inflate_10 : decode cJ12_inflate 10 = .ok (.iload 5, 2) := dk_21 5 (dk_at dksJ12_inflate_0 10 rfl rfl)
theorem dJ12_inflate_12 : decode cJ12_inflate 12 = .ok (.iload 4, 2) := dk_21 4 (dk_at dksJ12_inflate_0 12 rfl rfl)
theorem dJ12_inflate_14 : decode cJ12_inflate 14 = .ok (.if_icmp .ge 27, 3) := dk_162 0 27 (dk_at dksJ12_inflate_0 14 rfl rfl)
theorem dJ12_inflate_17 : decode cJ12_inflate 17 = .ok (.aload_n 2, 1) := dk_44 (dk_at dksJ12_inflate_0 17 rfl rfl)
theorem dJ12_inflate_18 : decode cJ12_inflate 18 = .ok (.iload_n 3, 1) := dk_29 (dk_at dksJ12_inflate_0 18 rfl rfl)
theorem dJ12_inflate_19 : decode cJ12_inflate 19 = .ok (.iinc 3 1, 3) := dk_132 3 1 (dk_at dksJ12_inflate_0 19 rfl rfl)
theorem dJ12_inflate_22 : decode cJ12_inflate 22 = .ok (.aload_n 0, 1) := dk_42 (dk_at dksJ12_inflate_0 22 rfl rfl)
theorem dJ12_inflate_23 : decode cJ12_inflate 23 = .ok (.iload_n 1, 1) := dk_27 (dk_at dksJ12_inflate_0 23 rfl rfl)
theorem dJ12_inflate_24 : decode cJ12_inflate 24 = .ok (.iinc 1 1, 3) := dk_132 1 1 (dk_at dksJ12_inflate_1 0 rfl rfl)
theorem dJ12_inflate_27 : decode cJ12_inflate 27 = .ok (.baload, 1) := dk_51 (dk_at dksJ12_inflate_1 3 rfl rfl)
theorem dJ12_inflate_28 : decode cJ12_inflate 28 = .ok (.sipush 255, 3) := dk_17 0 255 (dk_at dksJ12_inflate_1 4 rfl rfl)
theorem dJ12_inflate_31 : decode cJ12_inflate 31 = .ok (.iand, 1) := dk_126 (dk_at dksJ12_inflate_1 7 rfl rfl)
theorem dJ12_inflate_32 : decode cJ12_inflate 32 = .ok (.invokestatic 111, 3) := dk_184 0 111 (dk_at dksJ12_inflate_1 8 rfl rfl)
theorem dJ12_inflate_35 : decode cJ12_inflate 35 = .ok (.iinc 5 1, 3) := dk_132 5 1 (dk_at dksJ12_inflate_1 11 rfl rfl)
theorem dJ12_inflate_38 : decode cJ12_inflate 38 = .ok (.goto (-28), 3) := dk_167 255 228 (dk_at dksJ12_inflate_1 14 rfl rfl)
theorem dJ12_inflate_41 : decode cJ12_inflate 41 = .ok (.return_, 1) := dk_177 (dk_at dksJ12_inflate_1 17 rfl rfl)
abbrev cJ12_checkBoundsOffCount : ByteArray := prog_47_method_94_code
def yJ12_checkBoundsOffCount : MethodName := ⟨RJ12, "checkBoundsOffCount", "(II[B)V"⟩
def dkwJ12_checkBoundsOffCount_0 : List UInt8 := [26, 27, 44, 184, 0, 48, 184, 1, 163, 87, 177]
abbrev dktJ12_checkBoundsOffCount_0 : List UInt8 := dkwJ12_checkBoundsOffCount_0 ++ []
theorem dksJ12_checkBoundsOffCount_0 : cJ12_checkBoundsOffCount.data.toList.drop 0 = dktJ12_checkBoundsOffCount_0 := by decide +kernel
theorem dJ12_checkBoundsOffCount_0 : decode cJ12_checkBoundsOffCount 0 = .ok (.iload_n 0, 1) := dk_26 (dk_at dksJ12_checkBoundsOffCount_0 0 rfl rfl)
theorem dJ12_checkBoundsOffCount_1 : decode cJ12_checkBoundsOffCount 1 = .ok (.iload_n 1, 1) := dk_27 (dk_at dksJ12_checkBoundsOffCount_0 1 rfl rfl)
theorem dJ12_checkBoundsOffCount_2 : decode cJ12_checkBoundsOffCount 2 = .ok (.aload_n 2, 1) := dk_44 (dk_at dksJ12_checkBoundsOffCount_0 2 rfl rfl)
theorem dJ12_checkBoundsOffCount_3 : decode cJ12_checkBoundsOffCount 3 = .ok (.invokestatic 48, 3) := dk_184 0 48 (dk_at dksJ12_checkBoundsOffCount_0 3 rfl rfl)
theorem dJ12_checkBoundsOffCount_6 : decode cJ12_checkBoundsOffCount 6 = .ok (.invokestatic 419, 3) := dk_184 1 163 (dk_at dksJ12_checkBoundsOffCount_0 6 rfl rfl)
theorem dJ12_checkBoundsOffCount_9 : decode cJ12_checkBoundsOffCount 9 = .ok (.pop, 1) := dk_87 (dk_at dksJ12_checkBoundsOffCount_0 9 rfl rfl)
theorem dJ12_checkBoundsOffCount_10 : decode cJ12_checkBoundsOffCount 10 = .ok (.return_, 1) := dk_177 (dk_at dksJ12_checkBoundsOffCount_0 10 rfl rfl)
abbrev cJ12_length : ByteArray := prog_47_method_6_code
def yJ12_length : MethodName := ⟨RJ12, "length", "([B)I"⟩
def dkwJ12_length_0 : List UInt8 := [42, 190, 4, 122, 172]
abbrev dktJ12_length_0 : List UInt8 := dkwJ12_length_0 ++ []
theorem dksJ12_length_0 : cJ12_length.data.toList.drop 0 = dktJ12_length_0 := by decide +kernel
theorem dJ12_length_0 : decode cJ12_length 0 = .ok (.aload_n 0, 1) := dk_42 (dk_at dksJ12_length_0 0 rfl rfl)
theorem dJ12_length_1 : decode cJ12_length 1 = .ok (.arraylength, 1) := dk_190 (dk_at dksJ12_length_0 1 rfl rfl)
theorem dJ12_length_2 : decode cJ12_length 2 = .ok (.iconst 1, 1) := dk_4 (dk_at dksJ12_length_0 2 rfl rfl)
theorem dJ12_length_3 : decode cJ12_length 3 = .ok (.ishr, 1) := dk_122 (dk_at dksJ12_length_0 3 rfl rfl)
theorem dJ12_length_4 : decode cJ12_length 4 = .ok (.ireturn, 1) := dk_172 (dk_at dksJ12_length_0 4 rfl rfl)
abbrev cJ12_putChar : ByteArray := prog_47_method_4_code
def yJ12_putChar : MethodName := ⟨RJ12, "putChar", "([BII)V"⟩
def dkwJ12_putChar_2 : List UInt8 := [178, 0, 63, 122, 145, 84, 177]
abbrev dktJ12_putChar_2 : List UInt8 := dkwJ12_putChar_2 ++ []
def dkwJ12_putChar_1 : List UInt8 := [183, 0, 56, 191, 27, 4, 120, 60, 42, 27, 132, 1, 1, 28, 178, 0, 59, 122, 145, 84, 42, 27, 28]
abbrev dktJ12_putChar_1 : List UInt8 := dkwJ12_putChar_1 ++ dktJ12_putChar_2
def dkwJ12_putChar_0 : List UInt8 := [178, 0, 44, 154, 0, 25, 27, 155, 0, 11, 27, 42, 184, 0, 48, 161, 0, 13, 187, 0, 52, 89, 18, 54]
abbrev dktJ12_putChar_0 : List UInt8 := dkwJ12_putChar_0 ++ dktJ12_putChar_1
theorem dksJ12_putChar_0 : cJ12_putChar.data.toList.drop 0 = dktJ12_putChar_0 := by decide +kernel
theorem dksJ12_putChar_1 : cJ12_putChar.data.toList.drop 24 = dktJ12_putChar_1 := dk_seg dksJ12_putChar_0 24 rfl rfl
theorem dksJ12_putChar_2 : cJ12_putChar.data.toList.drop 47 = dktJ12_putChar_2 := dk_seg dksJ12_putChar_1 23 rfl rfl
theorem dJ12_putChar_0 : decode cJ12_putChar 0 = .ok (.getstatic 44, 3) := dk_178 0 44 (dk_at dksJ12_putChar_0 0 rfl rfl)
theorem dJ12_putChar_3 : decode cJ12_putChar 3 = .ok (.ifCond .ne 25, 3) := dk_154 0 25 (dk_at dksJ12_putChar_0 3 rfl rfl)
theorem dJ12_putChar_6 : decode cJ12_putChar 6 = .ok (.iload_n 1, 1) := dk_27 (dk_at dksJ12_putChar_0 6 rfl rfl)
theorem dJ12_putChar_7 : decode cJ12_putChar 7 = .ok (.ifCond .lt 11, 3) := dk_155 0 11 (dk_at dksJ12_putChar_0 7 rfl rfl)
theorem dJ12_putChar_10 : decode cJ12_putChar 10 = .ok (.iload_n 1, 1) := dk_27 (dk_at dksJ12_putChar_0 10 rfl rfl)
theorem dJ12_putChar_11 : decode cJ12_putChar 11 = .ok (.aload_n 0, 1) := dk_42 (dk_at dksJ12_putChar_0 11 rfl rfl)
theorem dJ12_putChar_12 : decode cJ12_putChar 12 = .ok (.invokestatic 48, 3) := dk_184 0 48 (dk_at dksJ12_putChar_0 12 rfl rfl)
theorem dJ12_putChar_15 : decode cJ12_putChar 15 = .ok (.if_icmp .lt 13, 3) := dk_161 0 13 (dk_at dksJ12_putChar_0 15 rfl rfl)
theorem dJ12_putChar_18 : decode cJ12_putChar 18 = .ok (.new 52, 3) := dk_187 0 52 (dk_at dksJ12_putChar_0 18 rfl rfl)
theorem dJ12_putChar_21 : decode cJ12_putChar 21 = .ok (.dup, 1) := dk_89 (dk_at dksJ12_putChar_0 21 rfl rfl)
theorem dJ12_putChar_22 : decode cJ12_putChar 22 = .ok (.ldc 54, 2) := dk_18 54 (dk_at dksJ12_putChar_0 22 rfl rfl)
theorem dJ12_putChar_24 : decode cJ12_putChar 24 = .ok (.invokespecial 56, 3) := dk_183 0 56 (dk_at dksJ12_putChar_1 0 rfl rfl)
theorem dJ12_putChar_27 : decode cJ12_putChar 27 = .ok (.athrow, 1) := dk_191 (dk_at dksJ12_putChar_1 3 rfl rfl)
theorem dJ12_putChar_28 : decode cJ12_putChar 28 = .ok (.iload_n 1, 1) := dk_27 (dk_at dksJ12_putChar_1 4 rfl rfl)
theorem dJ12_putChar_29 : decode cJ12_putChar 29 = .ok (.iconst 1, 1) := dk_4 (dk_at dksJ12_putChar_1 5 rfl rfl)
theorem dJ12_putChar_30 : decode cJ12_putChar 30 = .ok (.ishl, 1) := dk_120 (dk_at dksJ12_putChar_1 6 rfl rfl)
theorem dJ12_putChar_31 : decode cJ12_putChar 31 = .ok (.istore_n 1, 1) := dk_60 (dk_at dksJ12_putChar_1 7 rfl rfl)
theorem dJ12_putChar_32 : decode cJ12_putChar 32 = .ok (.aload_n 0, 1) := dk_42 (dk_at dksJ12_putChar_1 8 rfl rfl)
theorem dJ12_putChar_33 : decode cJ12_putChar 33 = .ok (.iload_n 1, 1) := dk_27 (dk_at dksJ12_putChar_1 9 rfl rfl)
theorem dJ12_putChar_34 : decode cJ12_putChar 34 = .ok (.iinc 1 1, 3) := dk_132 1 1 (dk_at dksJ12_putChar_1 10 rfl rfl)
theorem dJ12_putChar_37 : decode cJ12_putChar 37 = .ok (.iload_n 2, 1) := dk_28 (dk_at dksJ12_putChar_1 13 rfl rfl)
theorem dJ12_putChar_38 : decode cJ12_putChar 38 = .ok (.getstatic 59, 3) := dk_178 0 59 (dk_at dksJ12_putChar_1 14 rfl rfl)
theorem dJ12_putChar_41 : decode cJ12_putChar 41 = .ok (.ishr, 1) := dk_122 (dk_at dksJ12_putChar_1 17 rfl rfl)
theorem dJ12_putChar_42 : decode cJ12_putChar 42 = .ok (.i2b, 1) := dk_145 (dk_at dksJ12_putChar_1 18 rfl rfl)
theorem dJ12_putChar_43 : decode cJ12_putChar 43 = .ok (.bastore, 1) := dk_84 (dk_at dksJ12_putChar_1 19 rfl rfl)
theorem dJ12_putChar_44 : decode cJ12_putChar 44 = .ok (.aload_n 0, 1) := dk_42 (dk_at dksJ12_putChar_1 20 rfl rfl)
theorem dJ12_putChar_45 : decode cJ12_putChar 45 = .ok (.iload_n 1, 1) := dk_27 (dk_at dksJ12_putChar_1 21 rfl rfl)
theorem dJ12_putChar_46 : decode cJ12_putChar 46 = .ok (.iload_n 2, 1) := dk_28 (dk_at dksJ12_putChar_1 22 rfl rfl)
theorem dJ12_putChar_47 : decode cJ12_putChar 47 = .ok (.getstatic 63, 3) := dk_178 0 63 (dk_at dksJ12_putChar_2 0 rfl rfl)
theorem dJ12_putChar_50 : decode cJ12_putChar 50 = .ok (.ishr, 1) := dk_122 (dk_at dksJ12_putChar_2 3 rfl rfl)
theorem dJ12_putChar_51 : decode cJ12_putChar 51 = .ok (.i2b, 1) := dk_145 (dk_at dksJ12_putChar_2 4 rfl rfl)
theorem dJ12_putChar_52 : decode cJ12_putChar 52 = .ok (.bastore, 1) := dk_84 (dk_at dksJ12_putChar_2 5 rfl rfl)
theorem dJ12_putChar_53 : decode cJ12_putChar 53 = .ok (.return_, 1) := dk_177 (dk_at dksJ12_putChar_2 6 rfl rfl)
abbrev cJ12_putCharSB : ByteArray := prog_47_method_71_code
def yJ12_putCharSB : MethodName := ⟨RJ12, "putCharSB", "([BII)V"⟩
def dkwJ12_putCharSB_0 : List UInt8 := [27, 42, 184, 0, 67, 42, 27, 28, 184, 0, 111, 177]
abbrev dktJ12_putCharSB_0 : List UInt8 := dkwJ12_putCharSB_0 ++ []
theorem dksJ12_putCharSB_0 : cJ12_putCharSB.data.toList.drop 0 = dktJ12_putCharSB_0 := by decide +kernel
theorem dJ12_putCharSB_0 : decode cJ12_putCharSB 0 = .ok (.iload_n 1, 1) := dk_27 (dk_at dksJ12_putCharSB_0 0 rfl rfl)
theorem dJ12_putCharSB_1 : decode cJ12_putCharSB 1 = .ok (.aload_n 0, 1) := dk_42 (dk_at dksJ12_putCharSB_0 1 rfl rfl)
theorem dJ12_putCharSB_2 : decode cJ12_putCharSB 2 = .ok (.invokestatic 67, 3) := dk_184 0 67 (dk_at dksJ12_putCharSB_0 2 rfl rfl)
theorem dJ12_putCharSB_5 : decode cJ12_putCharSB 5 = .ok (.aload_n 0, 1) := dk_42 (dk_at dksJ12_putCharSB_0 5 rfl rfl)
theorem dJ12_putCharSB_6 : decode cJ12_putCharSB 6 = .ok (.iload_n 1, 1) := dk_27 (dk_at dksJ12_putCharSB_0 6 rfl rfl)
theorem dJ12_putCharSB_7 : decode cJ12_putCharSB 7 = .ok (.iload_n 2, 1) := dk_28 (dk_at dksJ12_putCharSB_0 7 rfl rfl)
theorem dJ12_putCharSB_8 : decode cJ12_putCharSB 8 = .ok (.invokestatic 111, 3) := dk_184 0 111 (dk_at dksJ12_putCharSB_0 8 rfl rfl)
theorem dJ12_putCharSB_11 : decode cJ12_putCharSB 11 = .ok (.return_, 1) := dk_177 (dk_at dksJ12_putCharSB_0 11 rfl rfl)
abbrev cJ12_checkIndex : ByteArray := prog_47_method_91_code
def yJ12_checkIndex : MethodName := ⟨RJ12, "checkIndex", "(I[B)V"⟩
def dkwJ12_checkIndex_0 : List UInt8 := [26, 43, 184, 0, 48, 184, 1, 158, 177]
abbrev dktJ12_checkIndex_0 : List UInt8 := dkwJ12_checkIndex_0 ++ []
theorem dksJ12_checkIndex_0 : cJ12_checkIndex.data.toList.drop 0 = dktJ12_checkIndex_0 := by decide +kernel
theorem dJ12_checkIndex_0 : decode cJ12_checkIndex 0 = .ok (.iload_n 0, 1) := dk_26 (dk_at dksJ12_checkIndex_0 0 rfl rfl)
theorem dJ12_checkIndex_1 : decode cJ12_checkIndex 1 = .ok (.aload_n 1, 1) := dk_43 (dk_at dksJ12_checkIndex_0 1 rfl rfl)
theorem dJ12_checkIndex_2 : decode cJ12_checkIndex 2 = .ok (.invokestatic 48, 3) := dk_184 0 48 (dk_at dksJ12_checkIndex_0 2 rfl rfl)
theorem dJ12_checkIndex_5 : decode cJ12_checkIndex 5 = .ok (.invokestatic 414, 3) := dk_184 1 158 (dk_at dksJ12_checkIndex_0 5 rfl rfl)
theorem dJ12_checkIndex_8 : decode cJ12_checkIndex 8 = .ok (.return_, 1) := dk_177 (dk_at dksJ12_checkIndex_0 8 rfl rfl)
abbrev cJ12_compress : ByteArray := prog_47_method_17_code
def yJ12_compress : MethodName := ⟨RJ12, "compress", "([BII)[B"⟩
def dkwJ12_compress_2 : List UInt8 := [25, 5, 3, 45, 3, 28, 184, 0, 123, 28, 159, 0, 6, 25, 5, 176, 45, 176]
abbrev dktJ12_compress_2 : List UInt8 := dkwJ12_compress_2 ++ []
def dkwJ12_compress_1 : List UInt8 := [27, 28, 96, 184, 0, 11, 184, 0, 126, 58, 5, 25, 5, 21, 4, 184, 0, 71, 17, 0, 255, 163, 0, 16]
abbrev dktJ12_compress_1 : List UInt8 := dkwJ12_compress_1 ++ dktJ12_compress_2
def dkwJ12_compress_0 : List UInt8 := [28, 188, 8, 78, 42, 27, 45, 3, 28, 184, 0, 123, 54, 4, 21, 4, 28, 159, 0, 47, 42, 27, 4, 120]
abbrev dktJ12_compress_0 : List UInt8 := dkwJ12_compress_0 ++ dktJ12_compress_1
theorem dksJ12_compress_0 : cJ12_compress.data.toList.drop 0 = dktJ12_compress_0 := by decide +kernel
theorem dksJ12_compress_1 : cJ12_compress.data.toList.drop 24 = dktJ12_compress_1 := dk_seg dksJ12_compress_0 24 rfl rfl
theorem dksJ12_compress_2 : cJ12_compress.data.toList.drop 48 = dktJ12_compress_2 := dk_seg dksJ12_compress_1 24 rfl rfl
theorem dJ12_compress_0 : decode cJ12_compress 0 = .ok (.iload_n 2, 1) := dk_28 (dk_at dksJ12_compress_0 0 rfl rfl)
theorem dJ12_compress_1 : decode cJ12_compress 1 = .ok (.newarray .byte, 2) := dk_188_8 (dk_at dksJ12_compress_0 1 rfl rfl)
theorem dJ12_compress_3 : decode cJ12_compress 3 = .ok (.astore_n 3, 1) := dk_78 (dk_at dksJ12_compress_0 3 rfl rfl)
theorem dJ12_compress_4 : decode cJ12_compress 4 = .ok (.aload_n 0, 1) := dk_42 (dk_at dksJ12_compress_0 4 rfl rfl)
theorem dJ12_compress_5 : decode cJ12_compress 5 = .ok (.iload_n 1, 1) := dk_27 (dk_at dksJ12_compress_0 5 rfl rfl)
theorem dJ12_compress_6 : decode cJ12_compress 6 = .ok (.aload_n 3, 1) := dk_45 (dk_at dksJ12_compress_0 6 rfl rfl)
theorem dJ12_compress_7 : decode cJ12_compress 7 = .ok (.iconst 0, 1) := dk_3 (dk_at dksJ12_compress_0 7 rfl rfl)
theorem dJ12_compress_8 : decode cJ12_compress 8 = .ok (.iload_n 2, 1) := dk_28 (dk_at dksJ12_compress_0 8 rfl rfl)
theorem dJ12_compress_9 : decode cJ12_compress 9 = .ok (.invokestatic 123, 3) := dk_184 0 123 (dk_at dksJ12_compress_0 9 rfl rfl)
theorem dJ12_compress_12 : decode cJ12_compress 12 = .ok (.istore 4, 2) := dk_54 4 (dk_at dksJ12_compress_0 12 rfl rfl)
theorem dJ12_compress_14 : decode cJ12_compress 14 = .ok (.iload 4, 2) := dk_21 4 (dk_at dksJ12_compress_0 14 rfl rfl)
theorem dJ12_compress_16 : decode cJ12_compress 16 = .ok (.iload_n 2, 1) := dk_28 (dk_at dksJ12_compress_0 16 rfl rfl)
theorem dJ12_compress_17 : decode cJ12_compress 17 = .ok (.if_icmp .eq 47, 3) := dk_159 0 47 (dk_at dksJ12_compress_0 17 rfl rfl)
theorem dJ12_compress_20 : decode cJ12_compress 20 = .ok (.aload_n 0, 1) := dk_42 (dk_at dksJ12_compress_0 20 rfl rfl)
theorem dJ12_compress_21 : decode cJ12_compress 21 = .ok (.iload_n 1, 1) := dk_27 (dk_at dksJ12_compress_0 21 rfl rfl)
theorem dJ12_compress_22 : decode cJ12_compress 22 = .ok (.iconst 1, 1) := dk_4 (dk_at dksJ12_compress_0 22 rfl rfl)
theorem dJ12_compress_23 : decode cJ12_compress 23 = .ok (.ishl, 1) := dk_120 (dk_at dksJ12_compress_0 23 rfl rfl)
theorem dJ12_compress_24 : decode cJ12_compress 24 = .ok (.iload_n 1, 1) := dk_27 (dk_at dksJ12_compress_1 0 rfl rfl)
theorem dJ12_compress_25 : decode cJ12_compress 25 = .ok (.iload_n 2, 1) := dk_28 (dk_at dksJ12_compress_1 1 rfl rfl)
theorem dJ12_compress_26 : decode cJ12_compress 26 = .ok (.iadd, 1) := dk_96 (dk_at dksJ12_compress_1 2 rfl rfl)
theorem dJ12_compress_27 : decode cJ12_compress 27 = .ok (.invokestatic 11, 3) := dk_184 0 11 (dk_at dksJ12_compress_1 3 rfl rfl)
theorem dJ12_compress_30 : decode cJ12_compress 30 = .ok (.invokestatic 126, 3) := dk_184 0 126 (dk_at dksJ12_compress_1 6 rfl rfl)
theorem dJ12_compress_33 : decode cJ12_compress 33 = .ok (.astore 5, 2) := dk_58 5 (dk_at dksJ12_compress_1 9 rfl rfl)
theorem dJ12_compress_35 : decode cJ12_compress 35 = .ok (.aload 5, 2) := dk_25 5 (dk_at dksJ12_compress_1 11 rfl rfl)
theorem dJ12_compress_37 : decode cJ12_compress 37 = .ok (.iload 4, 2) := dk_21 4 (dk_at dksJ12_compress_1 13 rfl rfl)
theorem dJ12_compress_39 : decode cJ12_compress 39 = .ok (.invokestatic 71, 3) := dk_184 0 71 (dk_at dksJ12_compress_1 15 rfl rfl)
theorem dJ12_compress_42 : decode cJ12_compress 42 = .ok (.sipush 255, 3) := dk_17 0 255 (dk_at dksJ12_compress_1 18 rfl rfl)
theorem dJ12_compress_45 : decode cJ12_compress 45 = .ok (.if_icmp .gt 16, 3) := dk_163 0 16 (dk_at dksJ12_compress_1 21 rfl rfl)
theorem dJ12_compress_48 : decode cJ12_compress 48 = .ok (.aload 5, 2) := dk_25 5 (dk_at dksJ12_compress_2 0 rfl rfl)
theorem dJ12_compress_50 : decode cJ12_compress 50 = .ok (.iconst 0, 1) := dk_3 (dk_at dksJ12_compress_2 2 rfl rfl)
theorem dJ12_compress_51 : decode cJ12_compress 51 = .ok (.aload_n 3, 1) := dk_45 (dk_at dksJ12_compress_2 3 rfl rfl)
theorem dJ12_compress_52 : decode cJ12_compress 52 = .ok (.iconst 0, 1) := dk_3 (dk_at dksJ12_compress_2 4 rfl rfl)
theorem dJ12_compress_53 : decode cJ12_compress 53 = .ok (.iload_n 2, 1) := dk_28 (dk_at dksJ12_compress_2 5 rfl rfl)
theorem dJ12_compress_54 : decode cJ12_compress 54 = .ok (.invokestatic 123, 3) := dk_184 0 123 (dk_at dksJ12_compress_2 6 rfl rfl)
theorem dJ12_compress_57 : decode cJ12_compress 57 = .ok (.iload_n 2, 1) := dk_28 (dk_at dksJ12_compress_2 9 rfl rfl)
theorem dJ12_compress_58 : decode cJ12_compress 58 = .ok (.if_icmp .eq 6, 3) := dk_159 0 6 (dk_at dksJ12_compress_2 10 rfl rfl)
theorem dJ12_compress_61 : decode cJ12_compress 61 = .ok (.aload 5, 2) := dk_25 5 (dk_at dksJ12_compress_2 13 rfl rfl)
theorem dJ12_compress_63 : decode cJ12_compress 63 = .ok (.areturn, 1) := dk_176 (dk_at dksJ12_compress_2 15 rfl rfl)
theorem dJ12_compress_64 : decode cJ12_compress 64 = .ok (.aload_n 3, 1) := dk_45 (dk_at dksJ12_compress_2 16 rfl rfl)
theorem dJ12_compress_65 : decode cJ12_compress 65 = .ok (.areturn, 1) := dk_176 (dk_at dksJ12_compress_2 17 rfl rfl)
abbrev cJ12_compress_2 : ByteArray := prog_47_method_22_code
def yJ12_compress_2 : MethodName := ⟨RJ12, "compress", "([BI[BII)I"⟩
def dkwJ12_compress_2_2 : List UInt8 := [132, 5, 1, 167, 255, 216, 21, 4, 172]
abbrev dktJ12_compress_2_2 : List UInt8 := dkwJ12_compress_2_2 ++ []
def dkwJ12_compress_2_1 : List UInt8 := [21, 6, 17, 0, 255, 164, 0, 6, 21, 5, 172, 44, 29, 21, 6, 145, 84, 132, 1, 1, 132, 3, 1]
abbrev dktJ12_compress_2_1 : List UInt8 := dkwJ12_compress_2_1 ++ dktJ12_compress_2_2
def dkwJ12_compress_2_0 : List UInt8 := [27, 21, 4, 42, 184, 0, 173, 3, 54, 5, 21, 5, 21, 4, 162, 0, 39, 42, 27, 184, 0, 71, 54, 6]
abbrev dktJ12_compress_2_0 : List UInt8 := dkwJ12_compress_2_0 ++ dktJ12_compress_2_1
theorem dksJ12_compress_2_0 : cJ12_compress_2.data.toList.drop 0 = dktJ12_compress_2_0 := by decide +kernel
theorem dksJ12_compress_2_1 : cJ12_compress_2.data.toList.drop 24 = dktJ12_compress_2_1 := dk_seg dksJ12_compress_2_0 24 rfl rfl
theorem dksJ12_compress_2_2 : cJ12_compress_2.data.toList.drop 47 = dktJ12_compress_2_2 := dk_seg dksJ12_compress_2_1 23 rfl rfl
theorem dJ12_compress_2_0 : decode cJ12_compress_2 0 = .ok (.iload_n 1, 1) := dk_27 (dk_at dksJ12_compress_2_0 0 rfl rfl)
theorem dJ12_compress_2_1 : decode cJ12_compress_2 1 = .ok (.iload 4, 2) := dk_21 4 (dk_at dksJ12_compress_2_0 1 rfl rfl)
theorem dJ12_compress_2_3 : decode cJ12_compress_2 3 = .ok (.aload_n 0, 1) := dk_42 (dk_at dksJ12_compress_2_0 3 rfl rfl)
theorem dJ12_compress_2_4 : decode cJ12_compress_2 4 = .ok (.invokestatic 173, 3) := dk_184 0 173 (dk_at dksJ12_compress_2_0 4 rfl rfl)
theorem dJ12_compress_2_7 : decode cJ12_compress_2 7 = .ok (.iconst 0, 1) := dk_3 (dk_at dksJ12_compress_2_0 7 rfl rfl)
theorem dJ12_compress_2_8 : decode cJ12_compress_2 8 = .ok (.istore 5, 2) := dk_54 5 (dk_at dksJ12_compress_2_0 8 rfl rfl)
theorem dJ12_compress_2_10 : decode cJ12_compress_2 10 = .ok (.iload 5, 2) := dk_21 5 (dk_at dksJ12_compress_2_0 10 rfl rfl)
theorem dJ12_compress_2_12 : decode cJ12_compress_2 12 = .ok (.iload 4, 2) := dk_21 4 (dk_at dksJ12_compress_2_0 12 rfl rfl)
theorem dJ12_compress_2_14 : decode cJ12_compress_2 14 = .ok (.if_icmp .ge 39, 3) := dk_162 0 39 (dk_at dksJ12_compress_2_0 14 rfl rfl)
theorem dJ12_compress_2_17 : decode cJ12_compress_2 17 = .ok (.aload_n 0, 1) := dk_42 (dk_at dksJ12_compress_2_0 17 rfl rfl)
theorem dJ12_compress_2_18 : decode cJ12_compress_2 18 = .ok (.iload_n 1, 1) := dk_27 (dk_at dksJ12_compress_2_0 18 rfl rfl)
theorem dJ12_compress_2_19 : decode cJ12_compress_2 19 = .ok (.invokestatic 71, 3) := dk_184 0 71 (dk_at dksJ12_compress_2_0 19 rfl rfl)
theorem dJ12_compress_2_22 : decode cJ12_compress_2 22 = .ok (.istore 6, 2) := dk_54 6 (dk_at dksJ12_compress_2_0 22 rfl rfl)
theorem dJ12_compress_2_24 : decode cJ12_compress_2 24 = .ok (.iload 6, 2) := dk_21 6 (dk_at dksJ12_compress_2_1 0 rfl rfl)
theorem dJ12_compress_2_26 : decode cJ12_compress_2 26 = .ok (.sipush 255, 3) := dk_17 0 255 (dk_at dksJ12_compress_2_1 2 rfl rfl)
theorem dJ12_compress_2_29 : decode cJ12_compress_2 29 = .ok (.if_icmp .le 6, 3) := dk_164 0 6 (dk_at dksJ12_compress_2_1 5 rfl rfl)
theorem dJ12_compress_2_32 : decode cJ12_compress_2 32 = .ok (.iload 5, 2) := dk_21 5 (dk_at dksJ12_compress_2_1 8 rfl rfl)
theorem dJ12_compress_2_34 : decode cJ12_compress_2 34 = .ok (.ireturn, 1) := dk_172 (dk_at dksJ12_compress_2_1 10 rfl rfl)
theorem dJ12_compress_2_35 : decode cJ12_compress_2 35 = .ok (.aload_n 2, 1) := dk_44 (dk_at dksJ12_compress_2_1 11 rfl rfl)
theorem dJ12_compress_2_36 : decode cJ12_compress_2 36 = .ok (.iload_n 3, 1) := dk_29 (dk_at dksJ12_compress_2_1 12 rfl rfl)
theorem dJ12_compress_2_37 : decode cJ12_compress_2 37 = .ok (.iload 6, 2) := dk_21 6 (dk_at dksJ12_compress_2_1 13 rfl rfl)
theorem dJ12_compress_2_39 : decode cJ12_compress_2 39 = .ok (.i2b, 1) := dk_145 (dk_at dksJ12_compress_2_1 15 rfl rfl)
theorem dJ12_compress_2_40 : decode cJ12_compress_2 40 = .ok (.bastore, 1) := dk_84 (dk_at dksJ12_compress_2_1 16 rfl rfl)
theorem dJ12_compress_2_41 : decode cJ12_compress_2 41 = .ok (.iinc 1 1, 3) := dk_132 1 1 (dk_at dksJ12_compress_2_1 17 rfl rfl)
theorem dJ12_compress_2_44 : decode cJ12_compress_2 44 = .ok (.iinc 3 1, 3) := dk_132 3 1 (dk_at dksJ12_compress_2_1 20 rfl rfl)
theorem dJ12_compress_2_47 : decode cJ12_compress_2 47 = .ok (.iinc 5 1, 3) := dk_132 5 1 (dk_at dksJ12_compress_2_2 0 rfl rfl)
theorem dJ12_compress_2_50 : decode cJ12_compress_2 50 = .ok (.goto (-40), 3) := dk_167 255 216 (dk_at dksJ12_compress_2_2 3 rfl rfl)
theorem dJ12_compress_2_53 : decode cJ12_compress_2 53 = .ok (.iload 4, 2) := dk_21 4 (dk_at dksJ12_compress_2_2 6 rfl rfl)
theorem dJ12_compress_2_55 : decode cJ12_compress_2 55 = .ok (.ireturn, 1) := dk_172 (dk_at dksJ12_compress_2_2 8 rfl rfl)
abbrev cJ12_getChar : ByteArray := prog_47_method_5_code
def yJ12_getChar : MethodName := ⟨RJ12, "getChar", "([BI)C"⟩
def dkwJ12_getChar_2 : List UInt8 := [51, 17, 0, 255, 126, 178, 0, 63, 120, 128, 146, 172]
abbrev dktJ12_getChar_2 : List UInt8 := dkwJ12_getChar_2 ++ []
def dkwJ12_getChar_1 : List UInt8 := [183, 0, 56, 191, 27, 4, 120, 60, 42, 27, 132, 1, 1, 51, 17, 0, 255, 126, 178, 0, 59, 120, 42, 27]
abbrev dktJ12_getChar_1 : List UInt8 := dkwJ12_getChar_1 ++ dktJ12_getChar_2
def dkwJ12_getChar_0 : List UInt8 := [178, 0, 44, 154, 0, 25, 27, 155, 0, 11, 27, 42, 184, 0, 48, 161, 0, 13, 187, 0, 52, 89, 18, 54]
abbrev dktJ12_getChar_0 : List UInt8 := dkwJ12_getChar_0 ++ dktJ12_getChar_1
theorem dksJ12_getChar_0 : cJ12_getChar.data.toList.drop 0 = dktJ12_getChar_0 := by decide +kernel
theorem dksJ12_getChar_1 : cJ12_getChar.data.toList.drop 24 = dktJ12_getChar_1 := dk_seg dksJ12_getChar_0 24 rfl rfl
theorem dksJ12_getChar_2 : cJ12_getChar.data.toList.drop 48 = dktJ12_getChar_2 := dk_seg dksJ12_getChar_1 24 rfl rfl
theorem dJ12_getChar_0 : decode cJ12_getChar 0 = .ok (.getstatic 44, 3) := dk_178 0 44 (dk_at dksJ12_getChar_0 0 rfl rfl)
theorem dJ12_getChar_3 : decode cJ12_getChar 3 = .ok (.ifCond .ne 25, 3) := dk_154 0 25 (dk_at dksJ12_getChar_0 3 rfl rfl)
theorem dJ12_getChar_6 : decode cJ12_getChar 6 = .ok (.iload_n 1, 1) := dk_27 (dk_at dksJ12_getChar_0 6 rfl rfl)
theorem dJ12_getChar_7 : decode cJ12_getChar 7 = .ok (.ifCond .lt 11, 3) := dk_155 0 11 (dk_at dksJ12_getChar_0 7 rfl rfl)
theorem dJ12_getChar_10 : decode cJ12_getChar 10 = .ok (.iload_n 1, 1) := dk_27 (dk_at dksJ12_getChar_0 10 rfl rfl)
theorem dJ12_getChar_11 : decode cJ12_getChar 11 = .ok (.aload_n 0, 1) := dk_42 (dk_at dksJ12_getChar_0 11 rfl rfl)
theorem dJ12_getChar_12 : decode cJ12_getChar 12 = .ok (.invokestatic 48, 3) := dk_184 0 48 (dk_at dksJ12_getChar_0 12 rfl rfl)
theorem dJ12_getChar_15 : decode cJ12_getChar 15 = .ok (.if_icmp .lt 13, 3) := dk_161 0 13 (dk_at dksJ12_getChar_0 15 rfl rfl)
theorem dJ12_getChar_18 : decode cJ12_getChar 18 = .ok (.new 52, 3) := dk_187 0 52 (dk_at dksJ12_getChar_0 18 rfl rfl)
theorem dJ12_getChar_21 : decode cJ12_getChar 21 = .ok (.dup, 1) := dk_89 (dk_at dksJ12_getChar_0 21 rfl rfl)
theorem dJ12_getChar_22 : decode cJ12_getChar 22 = .ok (.ldc 54, 2) := dk_18 54 (dk_at dksJ12_getChar_0 22 rfl rfl)
theorem dJ12_getChar_24 : decode cJ12_getChar 24 = .ok (.invokespecial 56, 3) := dk_183 0 56 (dk_at dksJ12_getChar_1 0 rfl rfl)
theorem dJ12_getChar_27 : decode cJ12_getChar 27 = .ok (.athrow, 1) := dk_191 (dk_at dksJ12_getChar_1 3 rfl rfl)
theorem dJ12_getChar_28 : decode cJ12_getChar 28 = .ok (.iload_n 1, 1) := dk_27 (dk_at dksJ12_getChar_1 4 rfl rfl)
theorem dJ12_getChar_29 : decode cJ12_getChar 29 = .ok (.iconst 1, 1) := dk_4 (dk_at dksJ12_getChar_1 5 rfl rfl)
theorem dJ12_getChar_30 : decode cJ12_getChar 30 = .ok (.ishl, 1) := dk_120 (dk_at dksJ12_getChar_1 6 rfl rfl)
theorem dJ12_getChar_31 : decode cJ12_getChar 31 = .ok (.istore_n 1, 1) := dk_60 (dk_at dksJ12_getChar_1 7 rfl rfl)
theorem dJ12_getChar_32 : decode cJ12_getChar 32 = .ok (.aload_n 0, 1) := dk_42 (dk_at dksJ12_getChar_1 8 rfl rfl)
theorem dJ12_getChar_33 : decode cJ12_getChar 33 = .ok (.iload_n 1, 1) := dk_27 (dk_at dksJ12_getChar_1 9 rfl rfl)
theorem dJ12_getChar_34 : decode cJ12_getChar 34 = .ok (.iinc 1 1, 3) := dk_132 1 1 (dk_at dksJ12_getChar_1 10 rfl rfl)
theorem dJ12_getChar_37 : decode cJ12_getChar 37 = .ok (.baload, 1) := dk_51 (dk_at dksJ12_getChar_1 13 rfl rfl)
theorem dJ12_getChar_38 : decode cJ12_getChar 38 = .ok (.sipush 255, 3) := dk_17 0 255 (dk_at dksJ12_getChar_1 14 rfl rfl)
theorem dJ12_getChar_41 : decode cJ12_getChar 41 = .ok (.iand, 1) := dk_126 (dk_at dksJ12_getChar_1 17 rfl rfl)
theorem dJ12_getChar_42 : decode cJ12_getChar 42 = .ok (.getstatic 59, 3) := dk_178 0 59 (dk_at dksJ12_getChar_1 18 rfl rfl)
theorem dJ12_getChar_45 : decode cJ12_getChar 45 = .ok (.ishl, 1) := dk_120 (dk_at dksJ12_getChar_1 21 rfl rfl)
theorem dJ12_getChar_46 : decode cJ12_getChar 46 = .ok (.aload_n 0, 1) := dk_42 (dk_at dksJ12_getChar_1 22 rfl rfl)
theorem dJ12_getChar_47 : decode cJ12_getChar 47 = .ok (.iload_n 1, 1) := dk_27 (dk_at dksJ12_getChar_1 23 rfl rfl)
theorem dJ12_getChar_48 : decode cJ12_getChar 48 = .ok (.baload, 1) := dk_51 (dk_at dksJ12_getChar_2 0 rfl rfl)
theorem dJ12_getChar_49 : decode cJ12_getChar 49 = .ok (.sipush 255, 3) := dk_17 0 255 (dk_at dksJ12_getChar_2 1 rfl rfl)
theorem dJ12_getChar_52 : decode cJ12_getChar 52 = .ok (.iand, 1) := dk_126 (dk_at dksJ12_getChar_2 4 rfl rfl)
theorem dJ12_getChar_53 : decode cJ12_getChar 53 = .ok (.getstatic 63, 3) := dk_178 0 63 (dk_at dksJ12_getChar_2 5 rfl rfl)
theorem dJ12_getChar_56 : decode cJ12_getChar 56 = .ok (.ishl, 1) := dk_120 (dk_at dksJ12_getChar_2 8 rfl rfl)
theorem dJ12_getChar_57 : decode cJ12_getChar 57 = .ok (.ior, 1) := dk_128 (dk_at dksJ12_getChar_2 9 rfl rfl)
theorem dJ12_getChar_58 : decode cJ12_getChar 58 = .ok (.i2c, 1) := dk_146 (dk_at dksJ12_getChar_2 10 rfl rfl)
theorem dJ12_getChar_59 : decode cJ12_getChar 59 = .ok (.ireturn, 1) := dk_172 (dk_at dksJ12_getChar_2 11 rfl rfl)
abbrev cJ12_coderFromArrayLen : ByteArray := prog_47_method_15_code
def yJ12_coderFromArrayLen : MethodName := ⟨RJ12, "coderFromArrayLen", "([BI)B"⟩
def dkwJ12_coderFromArrayLen_0 : List UInt8 := [27, 42, 190, 100, 16, 31, 124, 145, 172]
abbrev dktJ12_coderFromArrayLen_0 : List UInt8 := dkwJ12_coderFromArrayLen_0 ++ []
theorem dksJ12_coderFromArrayLen_0 : cJ12_coderFromArrayLen.data.toList.drop 0 = dktJ12_coderFromArrayLen_0 := by decide +kernel
theorem dJ12_coderFromArrayLen_0 : decode cJ12_coderFromArrayLen 0 = .ok (.iload_n 1, 1) := dk_27 (dk_at dksJ12_coderFromArrayLen_0 0 rfl rfl)
theorem dJ12_coderFromArrayLen_1 : decode cJ12_coderFromArrayLen 1 = .ok (.aload_n 0, 1) := dk_42 (dk_at dksJ12_coderFromArrayLen_0 1 rfl rfl)
theorem dJ12_coderFromArrayLen_2 : decode cJ12_coderFromArrayLen 2 = .ok (.arraylength, 1) := dk_190 (dk_at dksJ12_coderFromArrayLen_0 2 rfl rfl)
theorem dJ12_coderFromArrayLen_3 : decode cJ12_coderFromArrayLen 3 = .ok (.isub, 1) := dk_100 (dk_at dksJ12_coderFromArrayLen_0 3 rfl rfl)
theorem dJ12_coderFromArrayLen_4 : decode cJ12_coderFromArrayLen 4 = .ok (.bipush 31, 2) := dk_16 31 (dk_at dksJ12_coderFromArrayLen_0 4 rfl rfl)
theorem dJ12_coderFromArrayLen_6 : decode cJ12_coderFromArrayLen 6 = .ok (.iushr, 1) := dk_124 (dk_at dksJ12_coderFromArrayLen_0 6 rfl rfl)
theorem dJ12_coderFromArrayLen_7 : decode cJ12_coderFromArrayLen 7 = .ok (.i2b, 1) := dk_145 (dk_at dksJ12_coderFromArrayLen_0 7 rfl rfl)
theorem dJ12_coderFromArrayLen_8 : decode cJ12_coderFromArrayLen 8 = .ok (.ireturn, 1) := dk_172 (dk_at dksJ12_coderFromArrayLen_0 8 rfl rfl)
abbrev cJ12_hashCode : ByteArray := prog_47_method_39_code
def yJ12_hashCode : MethodName := ⟨RJ12, "hashCode", "([B)I"⟩
def dkwJ12_hashCode_2 : List UInt8 := [3, 167, 0, 22, 42, 3, 184, 0, 71, 167, 0, 14, 42, 3, 42, 190, 4, 122, 3, 8, 184, 0, 220, 172]
abbrev dktJ12_hashCode_2 : List UInt8 := dkwJ12_hashCode_2 ++ []
def dkwJ12_hashCode_1 : List UInt8 := [171, 0, 0, 0, 0, 38, 0, 0, 0, 2, 0, 0, 0, 0, 0, 0, 0, 26, 0, 0, 0, 2, 0, 0, 0, 30]
abbrev dktJ12_hashCode_1 : List UInt8 := dkwJ12_hashCode_1 ++ dktJ12_hashCode_2
def dkwJ12_hashCode_0 : List UInt8 := [42, 190]
abbrev dktJ12_hashCode_0 : List UInt8 := dkwJ12_hashCode_0 ++ dktJ12_hashCode_1
theorem dksJ12_hashCode_0 : cJ12_hashCode.data.toList.drop 0 = dktJ12_hashCode_0 := by decide +kernel
theorem dksJ12_hashCode_1 : cJ12_hashCode.data.toList.drop 2 = dktJ12_hashCode_1 := dk_seg dksJ12_hashCode_0 2 rfl rfl
theorem dksJ12_hashCode_2 : cJ12_hashCode.data.toList.drop 28 = dktJ12_hashCode_2 := dk_seg dksJ12_hashCode_1 26 rfl rfl
theorem dJ12_hashCode_0 : decode cJ12_hashCode 0 = .ok (.aload_n 0, 1) := dk_42 (dk_at dksJ12_hashCode_0 0 rfl rfl)
theorem dJ12_hashCode_1 : decode cJ12_hashCode 1 = .ok (.arraylength, 1) := dk_190 (dk_at dksJ12_hashCode_0 1 rfl rfl)
theorem dJ12_hashCode_2 : decode cJ12_hashCode 2 = .ok (.lookupswitch 38 #[(0, 26), (2, 30)], 26) := by decide +kernel
theorem dJ12_hashCode_28 : decode cJ12_hashCode 28 = .ok (.iconst 0, 1) := dk_3 (dk_at dksJ12_hashCode_2 0 rfl rfl)
theorem dJ12_hashCode_29 : decode cJ12_hashCode 29 = .ok (.goto 22, 3) := dk_167 0 22 (dk_at dksJ12_hashCode_2 1 rfl rfl)
theorem dJ12_hashCode_32 : decode cJ12_hashCode 32 = .ok (.aload_n 0, 1) := dk_42 (dk_at dksJ12_hashCode_2 4 rfl rfl)
theorem dJ12_hashCode_33 : decode cJ12_hashCode 33 = .ok (.iconst 0, 1) := dk_3 (dk_at dksJ12_hashCode_2 5 rfl rfl)
theorem dJ12_hashCode_34 : decode cJ12_hashCode 34 = .ok (.invokestatic 71, 3) := dk_184 0 71 (dk_at dksJ12_hashCode_2 6 rfl rfl)
theorem dJ12_hashCode_37 : decode cJ12_hashCode 37 = .ok (.goto 14, 3) := dk_167 0 14 (dk_at dksJ12_hashCode_2 9 rfl rfl)
theorem dJ12_hashCode_40 : decode cJ12_hashCode 40 = .ok (.aload_n 0, 1) := dk_42 (dk_at dksJ12_hashCode_2 12 rfl rfl)
theorem dJ12_hashCode_41 : decode cJ12_hashCode 41 = .ok (.iconst 0, 1) := dk_3 (dk_at dksJ12_hashCode_2 13 rfl rfl)
theorem dJ12_hashCode_42 : decode cJ12_hashCode 42 = .ok (.aload_n 0, 1) := dk_42 (dk_at dksJ12_hashCode_2 14 rfl rfl)
theorem dJ12_hashCode_43 : decode cJ12_hashCode 43 = .ok (.arraylength, 1) := dk_190 (dk_at dksJ12_hashCode_2 15 rfl rfl)
theorem dJ12_hashCode_44 : decode cJ12_hashCode 44 = .ok (.iconst 1, 1) := dk_4 (dk_at dksJ12_hashCode_2 16 rfl rfl)
theorem dJ12_hashCode_45 : decode cJ12_hashCode 45 = .ok (.ishr, 1) := dk_122 (dk_at dksJ12_hashCode_2 17 rfl rfl)
theorem dJ12_hashCode_46 : decode cJ12_hashCode 46 = .ok (.iconst 0, 1) := dk_3 (dk_at dksJ12_hashCode_2 18 rfl rfl)
theorem dJ12_hashCode_47 : decode cJ12_hashCode 47 = .ok (.iconst 5, 1) := dk_8 (dk_at dksJ12_hashCode_2 19 rfl rfl)
theorem dJ12_hashCode_48 : decode cJ12_hashCode 48 = .ok (.invokestatic 220, 3) := dk_184 0 220 (dk_at dksJ12_hashCode_2 20 rfl rfl)
theorem dJ12_hashCode_51 : decode cJ12_hashCode 51 = .ok (.ireturn, 1) := dk_172 (dk_at dksJ12_hashCode_2 23 rfl rfl)
theorem q150 : (Jvm.Cond.initialized "java/lang/StringUTF16") ∈ lw_all := lw_g (lw_at lw_m1 26 rfl) rfl
theorem q917 : (Jvm.Cond.static ({ cls := "java/lang/StringUTF16", name := "newBytesFor", desc := "(I)[B" } : Jvm.MethodName)) ∈ lw_all := lw_g (lw_at lw_m4 73 rfl) rfl
theorem q918 : (Jvm.Cond.code ({ cls := "java/lang/StringUTF16", name := "newBytesFor", desc := "(I)[B" } : Jvm.MethodName) prog_47_method_2_code (1 : Nat) (Option.some (Jvm.ClassFile.FieldType.array Jvm.ClassFile.FieldType.byte))) ∈ lw_all := lw_g (lw_at lw_m4 74 rfl) rfl
theorem q919 : (Jvm.Cond.methodLink "java/lang/StringUTF16" (11 : Nat) ({ cls := "java/lang/StringUTF16", name := "newBytesLength", desc := "(I)I" } : Jvm.MethodName)) ∈ lw_all := lw_g (lw_at lw_m4 75 rfl) rfl
theorem q920 : (Jvm.Cond.static ({ cls := "java/lang/StringUTF16", name := "newBytesLength", desc := "(I)I" } : Jvm.MethodName)) ∈ lw_all := lw_g (lw_at lw_m4 76 rfl) rfl
theorem q921 : (Jvm.Cond.code ({ cls := "java/lang/StringUTF16", name := "newBytesLength", desc := "(I)I" } : Jvm.MethodName) prog_47_method_3_code (1 : Nat) (Option.some Jvm.ClassFile.FieldType.int)) ∈ lw_all := lw_g (lw_at lw_m4 77 rfl) rfl
theorem q922 : (Jvm.Cond.constant "java/lang/StringUTF16" (20 : Nat) (1073741823 : Int32)) ∈ lw_all := lw_g (lw_at lw_m4 78 rfl) rfl
theorem q979 : (Jvm.Cond.static ({ cls := "java/lang/StringUTF16", name := "inflate", desc := "([BI[BII)V" } : Jvm.MethodName)) ∈ lw_all := lw_g (lw_at lw_m4 135 rfl) rfl
theorem q980 : (Jvm.Cond.code ({ cls := "java/lang/StringUTF16", name := "inflate", desc := "([BI[BII)V" } : Jvm.MethodName) prog_47_method_86_code (6 : Nat) (Option.none : Option Jvm.ClassFile.FieldType)) ∈ lw_all := lw_g (lw_at lw_m4 136 rfl) rfl
theorem q981 : (Jvm.Cond.methodLink "java/lang/StringUTF16" (173 : Nat) ({ cls := "java/lang/StringUTF16", name := "checkBoundsOffCount", desc := "(II[B)V" } : Jvm.MethodName)) ∈ lw_all := lw_g (lw_at lw_m4 137 rfl) rfl
theorem q982 : (Jvm.Cond.static ({ cls := "java/lang/StringUTF16", name := "checkBoundsOffCount", desc := "(II[B)V" } : Jvm.MethodName)) ∈ lw_all := lw_g (lw_at lw_m4 138 rfl) rfl
theorem q983 : (Jvm.Cond.code ({ cls := "java/lang/StringUTF16", name := "checkBoundsOffCount", desc := "(II[B)V" } : Jvm.MethodName) prog_47_method_94_code (3 : Nat) (Option.none : Option Jvm.ClassFile.FieldType)) ∈ lw_all := lw_g (lw_at lw_m4 139 rfl) rfl
theorem q984 : (Jvm.Cond.methodLink "java/lang/StringUTF16" (48 : Nat) ({ cls := "java/lang/StringUTF16", name := "length", desc := "([B)I" } : Jvm.MethodName)) ∈ lw_all := lw_g (lw_at lw_m4 140 rfl) rfl
theorem q985 : (Jvm.Cond.static ({ cls := "java/lang/StringUTF16", name := "length", desc := "([B)I" } : Jvm.MethodName)) ∈ lw_all := lw_g (lw_at lw_m4 141 rfl) rfl
theorem q986 : (Jvm.Cond.code ({ cls := "java/lang/StringUTF16", name := "length", desc := "([B)I" } : Jvm.MethodName) prog_47_method_6_code (1 : Nat) (Option.some Jvm.ClassFile.FieldType.int)) ∈ lw_all := lw_g (lw_at lw_m4 142 rfl) rfl
theorem q987 : (Jvm.Cond.methodLink "java/lang/StringUTF16" (419 : Nat) ({ cls := "java/lang/String", name := "checkBoundsOffCount", desc := "(III)I" } : Jvm.MethodName)) ∈ lw_all := lw_g (lw_at lw_m4 143 rfl) rfl
theorem q995 : (Jvm.Cond.methodLink "java/lang/StringUTF16" (111 : Nat) ({ cls := "java/lang/StringUTF16", name := "putChar", desc := "([BII)V" } : Jvm.MethodName)) ∈ lw_all := lw_g (lw_at lw_m4 151 rfl) rfl
theorem q996 : (Jvm.Cond.static ({ cls := "java/lang/StringUTF16", name := "putChar", desc := "([BII)V" } : Jvm.MethodName)) ∈ lw_all := lw_g (lw_at lw_m4 152 rfl) rfl
theorem q997 : (Jvm.Cond.code ({ cls := "java/lang/StringUTF16", name := "putChar", desc := "([BII)V" } : Jvm.MethodName) prog_47_method_4_code (3 : Nat) (Option.none : Option Jvm.ClassFile.FieldType)) ∈ lw_all := lw_g (lw_at lw_m4 153 rfl) rfl
theorem q998 : (Jvm.Cond.fieldLink "java/lang/StringUTF16" (44 : Nat) "java/lang/StringUTF16" "$assertionsDisabled" "Z") ∈ lw_all := lw_g (lw_at lw_m4 154 rfl) rfl
theorem q999 : (Jvm.Cond.laysStatic "java/lang/StringUTF16" "$assertionsDisabled" "Z") ∈ lw_tbl := lw_at lw_m4 155 rfl
theorem q1000 : (Jvm.Cond.fieldLink "java/lang/StringUTF16" (59 : Nat) "java/lang/StringUTF16" "HI_BYTE_SHIFT" "I") ∈ lw_all := lw_g (lw_at lw_m4 156 rfl) rfl
theorem q1001 : (Jvm.Cond.laysStatic "java/lang/StringUTF16" "HI_BYTE_SHIFT" "I") ∈ lw_tbl := lw_at lw_m4 157 rfl
theorem q1002 : (Jvm.Cond.fieldLink "java/lang/StringUTF16" (63 : Nat) "java/lang/StringUTF16" "LO_BYTE_SHIFT" "I") ∈ lw_all := lw_g (lw_at lw_m4 158 rfl) rfl
theorem q1003 : (Jvm.Cond.laysStatic "java/lang/StringUTF16" "LO_BYTE_SHIFT" "I") ∈ lw_tbl := lw_at lw_m4 159 rfl
theorem q1005 : (Jvm.Cond.static ({ cls := "java/lang/StringUTF16", name := "putCharSB", desc := "([BII)V" } : Jvm.MethodName)) ∈ lw_all := lw_g (lw_at lw_m4 161 rfl) rfl
theorem q1006 : (Jvm.Cond.code ({ cls := "java/lang/StringUTF16", name := "putCharSB", desc := "([BII)V" } : Jvm.MethodName) prog_47_method_71_code (3 : Nat) (Option.none : Option Jvm.ClassFile.FieldType)) ∈ lw_all := lw_g (lw_at lw_m4 162 rfl) rfl
theorem q1007 : (Jvm.Cond.methodLink "java/lang/StringUTF16" (67 : Nat) ({ cls := "java/lang/StringUTF16", name := "checkIndex", desc := "(I[B)V" } : Jvm.MethodName)) ∈ lw_all := lw_g (lw_at lw_m4 163 rfl) rfl
theorem q1008 : (Jvm.Cond.static ({ cls := "java/lang/StringUTF16", name := "checkIndex", desc := "(I[B)V" } : Jvm.MethodName)) ∈ lw_all := lw_g (lw_at lw_m4 164 rfl) rfl
theorem q1009 : (Jvm.Cond.code ({ cls := "java/lang/StringUTF16", name := "checkIndex", desc := "(I[B)V" } : Jvm.MethodName) prog_47_method_91_code (2 : Nat) (Option.none : Option Jvm.ClassFile.FieldType)) ∈ lw_all := lw_g (lw_at lw_m4 165 rfl) rfl
theorem q1010 : (Jvm.Cond.methodLink "java/lang/StringUTF16" (414 : Nat) ({ cls := "java/lang/String", name := "checkIndex", desc := "(II)V" } : Jvm.MethodName)) ∈ lw_all := lw_g (lw_at lw_m4 166 rfl) rfl
theorem q1052 : (Jvm.Cond.static ({ cls := "java/lang/StringUTF16", name := "compress", desc := "([BII)[B" } : Jvm.MethodName)) ∈ lw_all := lw_g (lw_at lw_m4 208 rfl) rfl
theorem q1053 : (Jvm.Cond.code ({ cls := "java/lang/StringUTF16", name := "compress", desc := "([BII)[B" } : Jvm.MethodName) prog_47_method_17_code (6 : Nat) (Option.some (Jvm.ClassFile.FieldType.array Jvm.ClassFile.FieldType.byte))) ∈ lw_all := lw_g (lw_at lw_m4 209 rfl) rfl
theorem q1054 : (Jvm.Cond.methodLink "java/lang/StringUTF16" (123 : Nat) ({ cls := "java/lang/StringUTF16", name := "compress", desc := "([BI[BII)I" } : Jvm.MethodName)) ∈ lw_all := lw_g (lw_at lw_m4 210 rfl) rfl
theorem q1055 : (Jvm.Cond.static ({ cls := "java/lang/StringUTF16", name := "compress", desc := "([BI[BII)I" } : Jvm.MethodName)) ∈ lw_all := lw_g (lw_at lw_m4 211 rfl) rfl
theorem q1056 : (Jvm.Cond.code ({ cls := "java/lang/StringUTF16", name := "compress", desc := "([BI[BII)I" } : Jvm.MethodName) prog_47_method_22_code (7 : Nat) (Option.some Jvm.ClassFile.FieldType.int)) ∈ lw_all := lw_g (lw_at lw_m4 212 rfl) rfl
theorem q1057 : (Jvm.Cond.methodLink "java/lang/StringUTF16" (71 : Nat) ({ cls := "java/lang/StringUTF16", name := "getChar", desc := "([BI)C" } : Jvm.MethodName)) ∈ lw_all := lw_g (lw_at lw_m4 213 rfl) rfl
theorem q1058 : (Jvm.Cond.static ({ cls := "java/lang/StringUTF16", name := "getChar", desc := "([BI)C" } : Jvm.MethodName)) ∈ lw_all := lw_g (lw_at lw_m4 214 rfl) rfl
theorem q1059 : (Jvm.Cond.code ({ cls := "java/lang/StringUTF16", name := "getChar", desc := "([BI)C" } : Jvm.MethodName) prog_47_method_5_code (2 : Nat) (Option.some Jvm.ClassFile.FieldType.char)) ∈ lw_all := lw_g (lw_at lw_m4 215 rfl) rfl
theorem q1060 : (Jvm.Cond.methodLink "java/lang/StringUTF16" (126 : Nat) ({ cls := "java/util/Arrays", name := "copyOfRange", desc := "([BII)[B" } : Jvm.MethodName)) ∈ lw_all := lw_g (lw_at lw_m4 216 rfl) rfl
theorem q1062 : (Jvm.Cond.static ({ cls := "java/lang/StringUTF16", name := "coderFromArrayLen", desc := "([BI)B" } : Jvm.MethodName)) ∈ lw_all := lw_g (lw_at lw_m4 218 rfl) rfl
theorem q1063 : (Jvm.Cond.code ({ cls := "java/lang/StringUTF16", name := "coderFromArrayLen", desc := "([BI)B" } : Jvm.MethodName) prog_47_method_15_code (2 : Nat) (Option.some Jvm.ClassFile.FieldType.byte)) ∈ lw_all := lw_g (lw_at lw_m4 219 rfl) rfl
theorem q1488 : (Jvm.Cond.static ({ cls := "java/lang/StringUTF16", name := "hashCode", desc := "([B)I" } : Jvm.MethodName)) ∈ lw_all := lw_g (lw_at lw_m6 164 rfl) rfl
theorem q1489 : (Jvm.Cond.code ({ cls := "java/lang/StringUTF16", name := "hashCode", desc := "([B)I" } : Jvm.MethodName) prog_47_method_39_code (1 : Nat) (Option.some Jvm.ClassFile.FieldType.int)) ∈ lw_all := lw_g (lw_at lw_m6 165 rfl) rfl
theorem q1490 : (Jvm.Cond.methodLink "java/lang/StringUTF16" (220 : Nat) ({ cls := "jdk/internal/util/ArraysSupport", name := "vectorizedHashCode", desc := "(Ljava/lang/Object;IIII)I" } : Jvm.MethodName)) ∈ lw_all := lw_g (lw_at lw_m6 166 rfl) rfl

/-! java/lang/StringLatin1 -/
set_option maxRecDepth 100000
def RJ13 : String := "java/lang/StringLatin1"
abbrev cJ13_canEncode : ByteArray := prog_46_method_3_code
def yJ13_canEncode : MethodName := ⟨RJ13, "canEncode", "(C)Z"⟩
def dkwJ13_canEncode_0 : List UInt8 := [26, 17, 0, 255, 163, 0, 7, 4, 167, 0, 4, 3, 172]
abbrev dktJ13_canEncode_0 : List UInt8 := dkwJ13_canEncode_0 ++ []
theorem dksJ13_canEncode_0 : cJ13_canEncode.data.toList.drop 0 = dktJ13_canEncode_0 := by decide +kernel
theorem dJ13_canEncode_0 : decode cJ13_canEncode 0 = .ok (.iload_n 0, 1) := dk_26 (dk_at dksJ13_canEncode_0 0 rfl rfl)
theorem dJ13_canEncode_1 : decode cJ13_canEncode 1 = .ok (.sipush 255, 3) := dk_17 0 255 (dk_at dksJ13_canEncode_0 1 rfl rfl)
theorem dJ13_canEncode_4 : decode cJ13_canEncode 4 = .ok (.if_icmp .gt 7, 3) := dk_163 0 7 (dk_at dksJ13_canEncode_0 4 rfl rfl)
theorem dJ13_canEncode_7 : decode cJ13_canEncode 7 = .ok (.iconst 1, 1) := dk_4 (dk_at dksJ13_canEncode_0 7 rfl rfl)
theorem dJ13_canEncode_8 : decode cJ13_canEncode 8 = .ok (.goto 4, 3) := dk_167 0 4 (dk_at dksJ13_canEncode_0 8 rfl rfl)
theorem dJ13_canEncode_11 : decode cJ13_canEncode 11 = .ok (.iconst 0, 1) := dk_3 (dk_at dksJ13_canEncode_0 11 rfl rfl)
theorem dJ13_canEncode_12 : decode cJ13_canEncode 12 = .ok (.ireturn, 1) := dk_172 (dk_at dksJ13_canEncode_0 12 rfl rfl)
abbrev cJ13_inflate : ByteArray := prog_46_method_50_code
def yJ13_inflate : MethodName := ⟨RJ13, "inflate", "([BI[BII)V"⟩
def dkwJ13_inflate_0 : List UInt8 := [42, 27, 44, 29, 21, 4, 184, 0, 240, 177]
abbrev dktJ13_inflate_0 : List UInt8 := dkwJ13_inflate_0 ++ []
theorem dksJ13_inflate_0 : cJ13_inflate.data.toList.drop 0 = dktJ13_inflate_0 := by decide +kernel
theorem dJ13_inflate_0 : decode cJ13_inflate 0 = .ok (.aload_n 0, 1) := dk_42 (dk_at dksJ13_inflate_0 0 rfl rfl)
theorem dJ13_inflate_1 : decode cJ13_inflate 1 = .ok (.iload_n 1, 1) := dk_27 (dk_at dksJ13_inflate_0 1 rfl rfl)
theorem dJ13_inflate_2 : decode cJ13_inflate 2 = .ok (.aload_n 2, 1) := dk_44 (dk_at dksJ13_inflate_0 2 rfl rfl)
theorem dJ13_inflate_3 : decode cJ13_inflate 3 = .ok (.iload_n 3, 1) := dk_29 (dk_at dksJ13_inflate_0 3 rfl rfl)
theorem dJ13_inflate_4 : decode cJ13_inflate 4 = .ok (.iload 4, 2) := dk_21 4 (dk_at dksJ13_inflate_0 4 rfl rfl)
theorem dJ13_inflate_6 : decode cJ13_inflate 6 = .ok (.invokestatic 240, 3) := dk_184 0 240 (dk_at dksJ13_inflate_0 6 rfl rfl)
theorem dJ13_inflate_9 : decode cJ13_inflate 9 = .ok (.return_, 1) := dk_177 (dk_at dksJ13_inflate_0 9 rfl rfl)
abbrev cJ13_equals : ByteArray := prog_46_method_13_code
def yJ13_equals : MethodName := ⟨RJ13, "equals", "([B[B)Z"⟩
def dkwJ13_equals_1 : List UInt8 := [3, 172, 132, 2, 1, 167, 255, 236, 4, 172, 3, 172]
abbrev dktJ13_equals_1 : List UInt8 := dkwJ13_equals_1 ++ []
def dkwJ13_equals_0 : List UInt8 := [42, 190, 43, 190, 160, 0, 30, 3, 61, 28, 42, 190, 162, 0, 20, 42, 28, 51, 43, 28, 51, 159, 0, 5]
abbrev dktJ13_equals_0 : List UInt8 := dkwJ13_equals_0 ++ dktJ13_equals_1
theorem dksJ13_equals_0 : cJ13_equals.data.toList.drop 0 = dktJ13_equals_0 := by decide +kernel
theorem dksJ13_equals_1 : cJ13_equals.data.toList.drop 24 = dktJ13_equals_1 := dk_seg dksJ13_equals_0 24 rfl rfl
theorem dJ13_equals_0 : decode cJ13_equals 0 = .ok (.aload_n 0, 1) := dk_42 (dk_at dksJ13_equals_0 0 rfl rfl)
theorem dJ13_equals_1 : decode cJ13_equals 1 = .ok (.arraylength, 1) := dk_190 (dk_at dksJ13_equals_0 1 rfl rfl)
theorem dJ13_equals_2 : decode cJ13_equals 2 = .ok (.aload_n 1, 1) := dk_43 (dk_at dksJ13_equals_0 2 rfl rfl)
theorem dJ13_equals_3 : decode cJ13_equals 3 = .ok (.arraylength, 1) := dk_190 (dk_at dksJ13_equals_0 3 rfl rfl)
theorem dJ13_equals_4 : decode cJ13_equals 4 = .ok (.if_icmp .ne 30, 3) := dk_160 0 30 (dk_at dksJ13_equals_0 4 rfl rfl)
theorem dJ13_equals_7 : decode cJ13_equals 7 = .ok (.iconst 0, 1) := dk_3 (dk_at dksJ13_equals_0 7 rfl rfl)
theorem dJ13_equals_8 : decode cJ13_equals 8 = .ok (.istore_n 2, 1) := dk_61 (dk_at dksJ13_equals_0 8 rfl rfl)
theorem dJ13_equals_9 : decode cJ13_equals 9 = .ok (.iload_n 2, 1) := dk_28 (dk_at dksJ13_equals_0 9 rfl rfl)
theorem dJ13_equals_10 : decode cJ13_equals 10 = .ok (.aload_n 0, 1) := dk_42 (dk_at dksJ13_equals_0 10 rfl rfl)
theorem dJ13_equals_11 : decode cJ13_equals 11 = .ok (.arraylength, 1) := dk_190 (dk_at dksJ13_equals_0 11 rfl rfl)
theorem dJ13_equals_12 : decode cJ13_equals 12 = .ok (.if_icmp .ge 20, 3) := dk_162 0 20 (dk_at dksJ13_equals_0 12 rfl rfl)
theorem dJ13_equals_15 : decode cJ13_equals 15 = .ok (.aload_n 0, 1) := dk_42 (dk_at dksJ13_equals_0 15 rfl rfl)
theorem dJ13_equals_16 : decode cJ13_equals 16 = .ok (.iload_n 2, 1) := dk_28 (dk_at dksJ13_equals_0 16 rfl rfl)
theorem dJ13_equals_17 : decode cJ13_equals 17 = .ok (.baload, 1) := dk_51 (dk_at dksJ13_equals_0 17 rfl rfl)
theorem dJ13_equals_18 : decode cJ13_equals 18 = .ok (.aload_n 1, 1) := dk_43 (dk_at dksJ13_equals_0 18 rfl rfl)
theorem dJ13_equals_19 : decode cJ13_equals 19 = .ok (.iload_n 2, 1) := dk_28 (dk_at dksJ13_equals_0 19 rfl rfl)
theorem dJ13_equals_20 : decode cJ13_equals 20 = .ok (.baload, 1) := dk_51 (dk_at dksJ13_equals_0 20 rfl rfl)
theorem dJ13_equals_21 : decode cJ13_equals 21 = .ok (.if_icmp .eq 5, 3) := dk_159 0 5 (dk_at dksJ13_equals_0 21 rfl rfl)
theorem dJ13_equals_24 : decode cJ13_equals 24 = .ok (.iconst 0, 1) := dk_3 (dk_at dksJ13_equals_1 0 rfl rfl)
theorem dJ13_equals_25 : decode cJ13_equals 25 = .ok (.ireturn, 1) := dk_172 (dk_at dksJ13_equals_1 1 rfl rfl)
theorem dJ13_equals_26 : decode cJ13_equals 26 = .ok (.iinc 2 1, 3) := dk_132 2 1 (dk_at dksJ13_equals_1 2 rfl rfl)
theorem dJ13_equals_29 : decode cJ13_equals 29 = .ok (.goto (-20), 3) := dk_167 255 236 (dk_at dksJ13_equals_1 5 rfl rfl)
theorem dJ13_equals_32 : decode cJ13_equals 32 = .ok (.iconst 1, 1) := dk_4 (dk_at dksJ13_equals_1 8 rfl rfl)
theorem dJ13_equals_33 : decode cJ13_equals 33 = .ok (.ireturn, 1) := dk_172 (dk_at dksJ13_equals_1 9 rfl rfl)
theorem dJ13_equals_34 : decode cJ13_equals 34 = .ok (.iconst 0, 1) := dk_3 (dk_at dksJ13_equals_1 10 rfl rfl)
theorem dJ13_equals_35 : decode cJ13_equals 35 = .ok (.ireturn, 1) := dk_172 (dk_at dksJ13_equals_1 11 rfl rfl)
abbrev cJ13_hashCode : ByteArray := prog_46_method_21_code
def yJ13_hashCode : MethodName := ⟨RJ13, "hashCode", "([B)I"⟩
def dkwJ13_hashCode_2 : List UInt8 := [3, 167, 0, 22, 42, 3, 51, 17, 0, 255, 126, 167, 0, 12, 42, 3, 42, 190, 3, 7, 184, 0, 84, 172]
abbrev dktJ13_hashCode_2 : List UInt8 := dkwJ13_hashCode_2 ++ []
def dkwJ13_hashCode_1 : List UInt8 := [171, 0, 0, 0, 0, 40, 0, 0, 0, 2, 0, 0, 0, 0, 0, 0, 0, 26, 0, 0, 0, 1, 0, 0, 0, 30]
abbrev dktJ13_hashCode_1 : List UInt8 := dkwJ13_hashCode_1 ++ dktJ13_hashCode_2
def dkwJ13_hashCode_0 : List UInt8 := [42, 190]
abbrev dktJ13_hashCode_0 : List UInt8 := dkwJ13_hashCode_0 ++ dktJ13_hashCode_1
theorem dksJ13_hashCode_0 : cJ13_hashCode.data.toList.drop 0 = dktJ13_hashCode_0 := by decide +kernel
theorem dksJ13_hashCode_1 : cJ13_hashCode.data.toList.drop 2 = dktJ13_hashCode_1 := dk_seg dksJ13_hashCode_0 2 rfl rfl
theorem dksJ13_hashCode_2 : cJ13_hashCode.data.toList.drop 28 = dktJ13_hashCode_2 := dk_seg dksJ13_hashCode_1 26 rfl rfl
theorem dJ13_hashCode_0 : decode cJ13_hashCode 0 = .ok (.aload_n 0, 1) := dk_42 (dk_at dksJ13_hashCode_0 0 rfl rfl)
theorem dJ13_hashCode_1 : decode cJ13_hashCode 1 = .ok (.arraylength, 1) := dk_190 (dk_at dksJ13_hashCode_0 1 rfl rfl)
theorem dJ13_hashCode_2 : decode cJ13_hashCode 2 = .ok (.lookupswitch 40 #[(0, 26), (1, 30)], 26) := by decide +kernel
theorem dJ13_hashCode_28 : decode cJ13_hashCode 28 = .ok (.iconst 0, 1) := dk_3 (dk_at dksJ13_hashCode_2 0 rfl rfl)
theorem dJ13_hashCode_29 : decode cJ13_hashCode 29 = .ok (.goto 22, 3) := dk_167 0 22 (dk_at dksJ13_hashCode_2 1 rfl rfl)
theorem dJ13_hashCode_32 : decode cJ13_hashCode 32 = .ok (.aload_n 0, 1) := dk_42 (dk_at dksJ13_hashCode_2 4 rfl rfl)
theorem dJ13_hashCode_33 : decode cJ13_hashCode 33 = .ok (.iconst 0, 1) := dk_3 (dk_at dksJ13_hashCode_2 5 rfl rfl)
theorem dJ13_hashCode_34 : decode cJ13_hashCode 34 = .ok (.baload, 1) := dk_51 (dk_at dksJ13_hashCode_2 6 rfl rfl)
theorem dJ13_hashCode_35 : decode cJ13_hashCode 35 = .ok (.sipush 255, 3) := dk_17 0 255 (dk_at dksJ13_hashCode_2 7 rfl rfl)
theorem dJ13_hashCode_38 : decode cJ13_hashCode 38 = .ok (.iand, 1) := dk_126 (dk_at dksJ13_hashCode_2 10 rfl rfl)
theorem dJ13_hashCode_39 : decode cJ13_hashCode 39 = .ok (.goto 12, 3) := dk_167 0 12 (dk_at dksJ13_hashCode_2 11 rfl rfl)
theorem dJ13_hashCode_42 : decode cJ13_hashCode 42 = .ok (.aload_n 0, 1) := dk_42 (dk_at dksJ13_hashCode_2 14 rfl rfl)
theorem dJ13_hashCode_43 : decode cJ13_hashCode 43 = .ok (.iconst 0, 1) := dk_3 (dk_at dksJ13_hashCode_2 15 rfl rfl)
theorem dJ13_hashCode_44 : decode cJ13_hashCode 44 = .ok (.aload_n 0, 1) := dk_42 (dk_at dksJ13_hashCode_2 16 rfl rfl)
theorem dJ13_hashCode_45 : decode cJ13_hashCode 45 = .ok (.arraylength, 1) := dk_190 (dk_at dksJ13_hashCode_2 17 rfl rfl)
theorem dJ13_hashCode_46 : decode cJ13_hashCode 46 = .ok (.iconst 0, 1) := dk_3 (dk_at dksJ13_hashCode_2 18 rfl rfl)
theorem dJ13_hashCode_47 : decode cJ13_hashCode 47 = .ok (.iconst 4, 1) := dk_7 (dk_at dksJ13_hashCode_2 19 rfl rfl)
theorem dJ13_hashCode_48 : decode cJ13_hashCode 48 = .ok (.invokestatic 84, 3) := dk_184 0 84 (dk_at dksJ13_hashCode_2 20 rfl rfl)
theorem dJ13_hashCode_51 : decode cJ13_hashCode 51 = .ok (.ireturn, 1) := dk_172 (dk_at dksJ13_hashCode_2 23 rfl rfl)
theorem q151 : (Jvm.Cond.initialized "java/lang/StringLatin1") ∈ lw_all := lw_g (lw_at lw_m1 27 rfl) rfl
theorem q969 : (Jvm.Cond.static ({ cls := "java/lang/StringLatin1", name := "canEncode", desc := "(C)Z" } : Jvm.MethodName)) ∈ lw_all := lw_g (lw_at lw_m4 125 rfl) rfl
theorem q970 : (Jvm.Cond.code ({ cls := "java/lang/StringLatin1", name := "canEncode", desc := "(C)Z" } : Jvm.MethodName) prog_46_method_3_code (1 : Nat) (Option.some Jvm.ClassFile.FieldType.boolean)) ∈ lw_all := lw_g (lw_at lw_m4 126 rfl) rfl
theorem q976 : (Jvm.Cond.static ({ cls := "java/lang/StringLatin1", name := "inflate", desc := "([BI[BII)V" } : Jvm.MethodName)) ∈ lw_all := lw_g (lw_at lw_m4 132 rfl) rfl
theorem q977 : (Jvm.Cond.code ({ cls := "java/lang/StringLatin1", name := "inflate", desc := "([BI[BII)V" } : Jvm.MethodName) prog_46_method_50_code (5 : Nat) (Option.none : Option Jvm.ClassFile.FieldType)) ∈ lw_all := lw_g (lw_at lw_m4 133 rfl) rfl
theorem q978 : (Jvm.Cond.methodLink "java/lang/StringLatin1" (240 : Nat) ({ cls := "java/lang/StringUTF16", name := "inflate", desc := "([BI[BII)V" } : Jvm.MethodName)) ∈ lw_all := lw_g (lw_at lw_m4 134 rfl) rfl
theorem q1099 : (Jvm.Cond.static ({ cls := "java/lang/StringLatin1", name := "equals", desc := "([B[B)Z" } : Jvm.MethodName)) ∈ lw_all := lw_g (lw_at lw_m5 15 rfl) rfl
theorem q1100 : (Jvm.Cond.code ({ cls := "java/lang/StringLatin1", name := "equals", desc := "([B[B)Z" } : Jvm.MethodName) prog_46_method_13_code (3 : Nat) (Option.some Jvm.ClassFile.FieldType.boolean)) ∈ lw_all := lw_g (lw_at lw_m5 16 rfl) rfl
theorem q1447 : (Jvm.Cond.static ({ cls := "java/lang/StringLatin1", name := "hashCode", desc := "([B)I" } : Jvm.MethodName)) ∈ lw_all := lw_g (lw_at lw_m6 123 rfl) rfl
theorem q1448 : (Jvm.Cond.code ({ cls := "java/lang/StringLatin1", name := "hashCode", desc := "([B)I" } : Jvm.MethodName) prog_46_method_21_code (1 : Nat) (Option.some Jvm.ClassFile.FieldType.int)) ∈ lw_all := lw_g (lw_at lw_m6 124 rfl) rfl
theorem q1449 : (Jvm.Cond.methodLink "java/lang/StringLatin1" (84 : Nat) ({ cls := "jdk/internal/util/ArraysSupport", name := "vectorizedHashCode", desc := "(Ljava/lang/Object;IIII)I" } : Jvm.MethodName)) ∈ lw_all := lw_g (lw_at lw_m6 125 rfl) rfl

/-! java/lang/Throwable -/
set_option maxRecDepth 100000
def RJ14 : String := "java/lang/Throwable"
def TJ14 : u_T := fun k => match k with
  | 0 => ("java/lang/Throwable", "cause", "Ljava/lang/Throwable;", false)
  | 1 => ("java/lang/Throwable", "stackTrace", "[Ljava/lang/StackTraceElement;", false)
  | 2 => ("java/lang/Throwable", "suppressedExceptions", "Ljava/util/List;", false)
  | 3 => ("java/lang/Throwable", "detailMessage", "Ljava/lang/String;", false)
  | _ => ("java/lang/Throwable", "backtrace", "Ljava/lang/Object;", false)
def tyJ14 : Nat → FieldType := fun k => match k with
  | 0 => .object "java/lang/Throwable"
  | 1 => .array (.object "java/lang/StackTraceElement")
  | 2 => .object "java/util/List"
  | 3 => .object "java/lang/String"
  | _ => .object "java/lang/Object"
abbrev wsJ140 : List Cond := u_ws RJ14 TJ14 5
theorem nmJ14 : ∀ a, a < 5 → ∀ b, b < 5 → a ≠ b → (TJ14 a).2.1 ≠ (TJ14 b).2.1 := by decide +kernel
theorem tyJ14_ok : ∀ k, k < 5 → parseFieldDescriptor (TJ14 k).2.2.1 = some (tyJ14 k) := by decide +kernel
abbrev cJ14_init : ByteArray := prog_50_method_1_code
def yJ14_init : MethodName := ⟨RJ14, "<init>", "()V"⟩
def dkwJ14_init_1 : List UInt8 := [182, 0, 27, 87, 177]
abbrev dktJ14_init_1 : List UInt8 := dkwJ14_init_1 ++ []
def dkwJ14_init_0 : List UInt8 := [42, 183, 0, 1, 42, 42, 181, 0, 7, 42, 178, 0, 13, 181, 0, 17, 42, 178, 0, 20, 181, 0, 24, 42]
abbrev dktJ14_init_0 : List UInt8 := dkwJ14_init_0 ++ dktJ14_init_1
theorem dksJ14_init_0 : cJ14_init.data.toList.drop 0 = dktJ14_init_0 := by decide +kernel
theorem dksJ14_init_1 : cJ14_init.data.toList.drop 24 = dktJ14_init_1 := dk_seg dksJ14_init_0 24 rfl rfl
theorem dJ14_init_0 : decode cJ14_init 0 = .ok (.aload_n 0, 1) := dk_42 (dk_at dksJ14_init_0 0 rfl rfl)
theorem dJ14_init_1 : decode cJ14_init 1 = .ok (.invokespecial 1, 3) := dk_183 0 1 (dk_at dksJ14_init_0 1 rfl rfl)
theorem dJ14_init_4 : decode cJ14_init 4 = .ok (.aload_n 0, 1) := dk_42 (dk_at dksJ14_init_0 4 rfl rfl)
theorem dJ14_init_5 : decode cJ14_init 5 = .ok (.aload_n 0, 1) := dk_42 (dk_at dksJ14_init_0 5 rfl rfl)
theorem dJ14_init_6 : decode cJ14_init 6 = .ok (.putfield 7, 3) := dk_181 0 7 (dk_at dksJ14_init_0 6 rfl rfl)
theorem dJ14_init_9 : decode cJ14_init 9 = .ok (.aload_n 0, 1) := dk_42 (dk_at dksJ14_init_0 9 rfl rfl)
theorem dJ14_init_10 : decode cJ14_init 10 = .ok (.getstatic 13, 3) := dk_178 0 13 (dk_at dksJ14_init_0 10 rfl rfl)
theorem dJ14_init_13 : decode cJ14_init 13 = .ok (.putfield 17, 3) := dk_181 0 17 (dk_at dksJ14_init_0 13 rfl rfl)
theorem dJ14_init_16 : decode cJ14_init 16 = .ok (.aload_n 0, 1) := dk_42 (dk_at dksJ14_init_0 16 rfl rfl)
theorem dJ14_init_17 : decode cJ14_init 17 = .ok (.getstatic 20, 3) := dk_178 0 20 (dk_at dksJ14_init_0 17 rfl rfl)
theorem dJ14_init_20 : decode cJ14_init 20 = .ok (.putfield 24, 3) := dk_181 0 24 (dk_at dksJ14_init_0 20 rfl rfl)
theorem dJ14_init_23 : decode cJ14_init 23 = .ok (.aload_n 0, 1) := dk_42 (dk_at dksJ14_init_0 23 rfl rfl)
theorem dJ14_init_24 : decode cJ14_init 24 = .ok (.invokevirtual 27, 3) := dk_182 0 27 (dk_at dksJ14_init_1 0 rfl rfl)
theorem dJ14_init_27 : decode cJ14_init 27 = .ok (.pop, 1) := dk_87 (dk_at dksJ14_init_1 3 rfl rfl)
theorem dJ14_init_28 : decode cJ14_init 28 = .ok (.return_, 1) := dk_177 (dk_at dksJ14_init_1 4 rfl rfl)
abbrev cJ14_init_2 : ByteArray := prog_50_method_5_code
def yJ14_init_2 : MethodName := ⟨RJ14, "<init>", "(Ljava/lang/String;Ljava/lang/Throwable;ZZ)V"⟩
def dkwJ14_init_2_2 : List UInt8 := [44, 181, 0, 7, 29, 154, 0, 8, 42, 1, 181, 0, 24, 177]
abbrev dktJ14_init_2_2 : List UInt8 := dkwJ14_init_2_2 ++ []
def dkwJ14_init_2_1 : List UInt8 := [21, 4, 153, 0, 11, 42, 182, 0, 27, 87, 167, 0, 8, 42, 1, 181, 0, 17, 42, 43, 181, 0, 31, 42]
abbrev dktJ14_init_2_1 : List UInt8 := dkwJ14_init_2_1 ++ dktJ14_init_2_2
def dkwJ14_init_2_0 : List UInt8 := [42, 183, 0, 1, 42, 42, 181, 0, 7, 42, 178, 0, 13, 181, 0, 17, 42, 178, 0, 20, 181, 0, 24]
abbrev dktJ14_init_2_0 : List UInt8 := dkwJ14_init_2_0 ++ dktJ14_init_2_1
theorem dksJ14_init_2_0 : cJ14_init_2.data.toList.drop 0 = dktJ14_init_2_0 := by decide +kernel
theorem dksJ14_init_2_1 : cJ14_init_2.data.toList.drop 23 = dktJ14_init_2_1 := dk_seg dksJ14_init_2_0 23 rfl rfl
theorem dksJ14_init_2_2 : cJ14_init_2.data.toList.drop 47 = dktJ14_init_2_2 := dk_seg dksJ14_init_2_1 24 rfl rfl
theorem dJ14_init_2_0 : decode cJ14_init_2 0 = .ok (.aload_n 0, 1) := dk_42 (dk_at dksJ14_init_2_0 0 rfl rfl)
theorem dJ14_init_2_1 : decode cJ14_init_2 1 = .ok (.invokespecial 1, 3) := dk_183 0 1 (dk_at dksJ14_init_2_0 1 rfl rfl)
theorem dJ14_init_2_4 : decode cJ14_init_2 4 = .ok (.aload_n 0, 1) := dk_42 (dk_at dksJ14_init_2_0 4 rfl rfl)
theorem dJ14_init_2_5 : decode cJ14_init_2 5 = .ok (.aload_n 0, 1) := dk_42 (dk_at dksJ14_init_2_0 5 rfl rfl)
theorem dJ14_init_2_6 : decode cJ14_init_2 6 = .ok (.putfield 7, 3) := dk_181 0 7 (dk_at dksJ14_init_2_0 6 rfl rfl)
theorem dJ14_init_2_9 : decode cJ14_init_2 9 = .ok (.aload_n 0, 1) := dk_42 (dk_at dksJ14_init_2_0 9 rfl rfl)
theorem dJ14_init_2_10 : decode cJ14_init_2 10 = .ok (.getstatic 13, 3) := dk_178 0 13 (dk_at dksJ14_init_2_0 10 rfl rfl)
theorem dJ14_init_2_13 : decode cJ14_init_2 13 = .ok (.putfield 17, 3) := dk_181 0 17 (dk_at dksJ14_init_2_0 13 rfl rfl)
theorem dJ14_init_2_16 : decode cJ14_init_2 16 = .ok (.aload_n 0, 1) := dk_42 (dk_at dksJ14_init_2_0 16 rfl rfl)
theorem dJ14_init_2_17 : decode cJ14_init_2 17 = .ok (.getstatic 20, 3) := dk_178 0 20 (dk_at dksJ14_init_2_0 17 rfl rfl)
theorem dJ14_init_2_20 : decode cJ14_init_2 20 = .ok (.putfield 24, 3) := dk_181 0 24 (dk_at dksJ14_init_2_0 20 rfl rfl)
theorem dJ14_init_2_23 : decode cJ14_init_2 23 = .ok (.iload 4, 2) := dk_21 4 (dk_at dksJ14_init_2_1 0 rfl rfl)
theorem dJ14_init_2_25 : decode cJ14_init_2 25 = .ok (.ifCond .eq 11, 3) := dk_153 0 11 (dk_at dksJ14_init_2_1 2 rfl rfl)
theorem dJ14_init_2_28 : decode cJ14_init_2 28 = .ok (.aload_n 0, 1) := dk_42 (dk_at dksJ14_init_2_1 5 rfl rfl)
theorem dJ14_init_2_29 : decode cJ14_init_2 29 = .ok (.invokevirtual 27, 3) := dk_182 0 27 (dk_at dksJ14_init_2_1 6 rfl rfl)
theorem dJ14_init_2_32 : decode cJ14_init_2 32 = .ok (.pop, 1) := dk_87 (dk_at dksJ14_init_2_1 9 rfl rfl)
theorem dJ14_init_2_33 : decode cJ14_init_2 33 = .ok (.goto 8, 3) := dk_167 0 8 (dk_at dksJ14_init_2_1 10 rfl rfl)
theorem dJ14_init_2_36 : decode cJ14_init_2 36 = .ok (.aload_n 0, 1) := dk_42 (dk_at dksJ14_init_2_1 13 rfl rfl)
theorem dJ14_init_2_37 : decode cJ14_init_2 37 = .ok (.aconst_null, 1) := dk_1 (dk_at dksJ14_init_2_1 14 rfl rfl)
theorem dJ14_init_2_38 : decode cJ14_init_2 38 = .ok (.putfield 17, 3) := dk_181 0 17 (dk_at dksJ14_init_2_1 15 rfl rfl)
theorem dJ14_init_2_41 : decode cJ14_init_2 41 = .ok (.aload_n 0, 1) := dk_42 (dk_at dksJ14_init_2_1 18 rfl rfl)
theorem dJ14_init_2_42 : decode cJ14_init_2 42 = .ok (.aload_n 1, 1) := dk_43 (dk_at dksJ14_init_2_1 19 rfl rfl)
theorem dJ14_init_2_43 : decode cJ14_init_2 43 = .ok (.putfield 31, 3) := dk_181 0 31 (dk_at dksJ14_init_2_1 20 rfl rfl)
theorem dJ14_init_2_46 : decode cJ14_init_2 46 = .ok (.aload_n 0, 1) := dk_42 (dk_at dksJ14_init_2_1 23 rfl rfl)
theorem dJ14_init_2_47 : decode cJ14_init_2 47 = .ok (.aload_n 2, 1) := dk_44 (dk_at dksJ14_init_2_2 0 rfl rfl)
theorem dJ14_init_2_48 : decode cJ14_init_2 48 = .ok (.putfield 7, 3) := dk_181 0 7 (dk_at dksJ14_init_2_2 1 rfl rfl)
theorem dJ14_init_2_51 : decode cJ14_init_2 51 = .ok (.iload_n 3, 1) := dk_29 (dk_at dksJ14_init_2_2 4 rfl rfl)
theorem dJ14_init_2_52 : decode cJ14_init_2 52 = .ok (.ifCond .ne 8, 3) := dk_154 0 8 (dk_at dksJ14_init_2_2 5 rfl rfl)
theorem dJ14_init_2_55 : decode cJ14_init_2 55 = .ok (.aload_n 0, 1) := dk_42 (dk_at dksJ14_init_2_2 8 rfl rfl)
theorem dJ14_init_2_56 : decode cJ14_init_2 56 = .ok (.aconst_null, 1) := dk_1 (dk_at dksJ14_init_2_2 9 rfl rfl)
theorem dJ14_init_2_57 : decode cJ14_init_2 57 = .ok (.putfield 24, 3) := dk_181 0 24 (dk_at dksJ14_init_2_2 10 rfl rfl)
theorem dJ14_init_2_60 : decode cJ14_init_2 60 = .ok (.return_, 1) := dk_177 (dk_at dksJ14_init_2_2 13 rfl rfl)
theorem q152 : (Jvm.Cond.initialized "java/lang/Throwable") ∈ lw_all := lw_g (lw_at lw_m1 28 rfl) rfl
theorem q1114 : (Jvm.Cond.declares ({ cls := "java/lang/Throwable", name := "<init>", desc := "()V" } : Jvm.MethodName)) ∈ lw_tbl := lw_at lw_m5 30 rfl
theorem q1115 : (Jvm.Cond.declares ({ cls := "java/lang/Throwable", name := "<init>", desc := "(Ljava/lang/String;)V" } : Jvm.MethodName)) ∈ lw_tbl := lw_at lw_m5 31 rfl
theorem q1119 : (Jvm.Cond.lays "java/lang/Throwable" "java/lang/Throwable" "cause" "Ljava/lang/Throwable;") ∈ lw_all := lw_g (lw_at lw_m5 35 rfl) rfl
theorem q1121 : (Jvm.Cond.lays "java/lang/Throwable" "java/lang/Throwable" "stackTrace" "[Ljava/lang/StackTraceElement;") ∈ lw_all := lw_g (lw_at lw_m5 37 rfl) rfl
theorem q1123 : (Jvm.Cond.lays "java/lang/Throwable" "java/lang/Throwable" "suppressedExceptions" "Ljava/util/List;") ∈ lw_all := lw_g (lw_at lw_m5 39 rfl) rfl
theorem q1125 : (Jvm.Cond.lays "java/lang/Throwable" "java/lang/Throwable" "detailMessage" "Ljava/lang/String;") ∈ lw_all := lw_g (lw_at lw_m5 41 rfl) rfl
theorem q1127 : (Jvm.Cond.lays "java/lang/Throwable" "java/lang/Throwable" "backtrace" "Ljava/lang/Object;") ∈ lw_all := lw_g (lw_at lw_m5 43 rfl) rfl
theorem q1128 : (Jvm.Cond.fieldLink "java/lang/Throwable" (198 : Nat) "java/lang/Throwable" "backtrace" "Ljava/lang/Object;") ∈ lw_all := lw_g (lw_at lw_m5 44 rfl) rfl
theorem q1129 : (Jvm.Cond.superclass "java/lang/Throwable" "java/lang/Object") ∈ lw_all := lw_g (lw_at lw_m5 45 rfl) rfl
theorem q1130 : (Jvm.Cond.instanceMethod ({ cls := "java/lang/Throwable", name := "<init>", desc := "()V" } : Jvm.MethodName)) ∈ lw_all := lw_g (lw_at lw_m5 46 rfl) rfl
theorem q1131 : (Jvm.Cond.code ({ cls := "java/lang/Throwable", name := "<init>", desc := "()V" } : Jvm.MethodName) prog_50_method_1_code (1 : Nat) (Option.none : Option Jvm.ClassFile.FieldType)) ∈ lw_all := lw_g (lw_at lw_m5 47 rfl) rfl
theorem q1132 : (Jvm.Cond.methodLink "java/lang/Throwable" (1 : Nat) ({ cls := "java/lang/Object", name := "<init>", desc := "()V" } : Jvm.MethodName)) ∈ lw_all := lw_g (lw_at lw_m5 48 rfl) rfl
theorem q1133 : (Jvm.Cond.fieldLink "java/lang/Throwable" (13 : Nat) "java/lang/Throwable" "UNASSIGNED_STACK" "[Ljava/lang/StackTraceElement;") ∈ lw_all := lw_g (lw_at lw_m5 49 rfl) rfl
theorem q1134 : (Jvm.Cond.laysStatic "java/lang/Throwable" "UNASSIGNED_STACK" "[Ljava/lang/StackTraceElement;") ∈ lw_tbl := lw_at lw_m5 50 rfl
theorem q1135 : (Jvm.Cond.fieldLink "java/lang/Throwable" (20 : Nat) "java/lang/Throwable" "SUPPRESSED_SENTINEL" "Ljava/util/List;") ∈ lw_all := lw_g (lw_at lw_m5 51 rfl) rfl
theorem q1136 : (Jvm.Cond.laysStatic "java/lang/Throwable" "SUPPRESSED_SENTINEL" "Ljava/util/List;") ∈ lw_tbl := lw_at lw_m5 52 rfl
theorem q1137 : (Jvm.Cond.methodLink "java/lang/Throwable" (27 : Nat) ({ cls := "java/lang/Throwable", name := "fillInStackTrace", desc := "()Ljava/lang/Throwable;" } : Jvm.MethodName)) ∈ lw_all := lw_g (lw_at lw_m5 53 rfl) rfl
theorem q1138 : (Jvm.Cond.instanceMethod ({ cls := "java/lang/Throwable", name := "fillInStackTrace", desc := "()Ljava/lang/Throwable;" } : Jvm.MethodName)) ∈ lw_all := lw_g (lw_at lw_m5 54 rfl) rfl
theorem q1139 : (Jvm.Cond.sameMethod "java/lang/Throwable" "java/lang/Throwable" "fillInStackTrace" "()Ljava/lang/Throwable;") ∈ lw_all := lw_g (lw_at lw_m5 55 rfl) rfl
theorem q1140 : (Jvm.Cond.codeSync ({ cls := "java/lang/Throwable", name := "fillInStackTrace", desc := "()Ljava/lang/Throwable;" } : Jvm.MethodName) prog_50_method_18_code (1 : Nat) (Option.some (Jvm.ClassFile.FieldType.object "java/lang/Throwable"))) ∈ lw_all := lw_g (lw_at lw_m5 56 rfl) rfl
theorem q1141 : (Jvm.Cond.methodLink "java/lang/Throwable" (202 : Nat) ({ cls := "java/lang/Throwable", name := "fillInStackTrace", desc := "(I)Ljava/lang/Throwable;" } : Jvm.MethodName)) ∈ lw_all := lw_g (lw_at lw_m5 57 rfl) rfl
theorem q1142 : (Jvm.Cond.privateMethod ({ cls := "java/lang/Throwable", name := "fillInStackTrace", desc := "(I)Ljava/lang/Throwable;" } : Jvm.MethodName)) ∈ lw_tbl := lw_at lw_m5 58 rfl
theorem q1143 : (Jvm.Cond.instanceMethod ({ cls := "java/lang/Throwable", name := "fillInStackTrace", desc := "(I)Ljava/lang/Throwable;" } : Jvm.MethodName)) ∈ lw_all := lw_g (lw_at lw_m5 59 rfl) rfl
theorem q1144 : (Jvm.Cond.instantiable "java/lang/Throwable" (6 : Nat)) ∈ lw_all := lw_g (lw_at lw_m5 60 rfl) rfl
theorem q1145 : (Jvm.Cond.native ({ cls := "java/lang/Throwable", name := "fillInStackTrace", desc := "(I)Ljava/lang/Throwable;" } : Jvm.MethodName)) ∈ lw_all := lw_g (lw_at lw_m5 61 rfl) rfl
theorem q1153 : (Jvm.Cond.instanceMethod ({ cls := "java/lang/Throwable", name := "<init>", desc := "(Ljava/lang/String;Ljava/lang/Throwable;ZZ)V" } : Jvm.MethodName)) ∈ lw_all := lw_g (lw_at lw_m5 69 rfl) rfl
theorem q1154 : (Jvm.Cond.code ({ cls := "java/lang/Throwable", name := "<init>", desc := "(Ljava/lang/String;Ljava/lang/Throwable;ZZ)V" } : Jvm.MethodName) prog_50_method_5_code (5 : Nat) (Option.none : Option Jvm.ClassFile.FieldType)) ∈ lw_all := lw_g (lw_at lw_m5 70 rfl) rfl
theorem q1159 : (Jvm.Cond.fieldLink "java/lang/Throwable" (198 : Nat) "java/lang/Throwable" "backtrace" "Ljava/lang/Object;") ∈ lw_all := lw_g (lw_at lw_m5 75 rfl) rfl
theorem q1160 : (Jvm.Cond.fieldLink "java/lang/Throwable" (31 : Nat) "java/lang/Throwable" "detailMessage" "Ljava/lang/String;") ∈ lw_all := lw_g (lw_at lw_m5 76 rfl) rfl
theorem q1161 : (Jvm.Cond.fieldLink "java/lang/Throwable" (7 : Nat) "java/lang/Throwable" "cause" "Ljava/lang/Throwable;") ∈ lw_all := lw_g (lw_at lw_m5 77 rfl) rfl
theorem q1162 : (Jvm.Cond.fieldLink "java/lang/Throwable" (17 : Nat) "java/lang/Throwable" "stackTrace" "[Ljava/lang/StackTraceElement;") ∈ lw_all := lw_g (lw_at lw_m5 78 rfl) rfl
theorem q1163 : (Jvm.Cond.fieldLink "java/lang/Throwable" (24 : Nat) "java/lang/Throwable" "suppressedExceptions" "Ljava/util/List;") ∈ lw_all := lw_g (lw_at lw_m5 79 rfl) rfl
theorem q1168 : (Jvm.Cond.soleField "java/lang/Throwable" "backtrace") ∈ lw_all := lw_g (lw_at lw_m5 84 rfl) rfl
theorem q1169 : (Jvm.Cond.soleField "java/lang/Throwable" "detailMessage") ∈ lw_all := lw_g (lw_at lw_m5 85 rfl) rfl
theorem q1170 : (Jvm.Cond.soleField "java/lang/Throwable" "cause") ∈ lw_all := lw_g (lw_at lw_m5 86 rfl) rfl
theorem q1171 : (Jvm.Cond.soleField "java/lang/Throwable" "stackTrace") ∈ lw_all := lw_g (lw_at lw_m5 87 rfl) rfl
theorem q1173 : (Jvm.Cond.soleField "java/lang/Throwable" "depth") ∈ lw_all := lw_g (lw_at lw_m5 89 rfl) rfl
theorem q1174 : (Jvm.Cond.soleField "java/lang/Throwable" "suppressedExceptions") ∈ lw_all := lw_g (lw_at lw_m5 90 rfl) rfl
theorem q2561 : (Jvm.Cond.sameMethod "java/lang/Throwable" "java/lang/Throwable" "fillInStackTrace" "(I)Ljava/lang/Throwable;") ∈ lw_all := lw_g (lw_at lw_m11 37 rfl) rfl
theorem q2613 : (Jvm.Cond.castable "java/lang/Throwable" "java/lang/Object") ∈ lw_tbl := lw_at lw_m11 89 rfl
theorem in_J14 : ∀ w ∈ wsJ140, w ∈ lw_all := lw_in wsJ140 [1119, 1121, 1123, 1125, 1127] (by decide +kernel) (by decide +kernel)

/-! java/lang/Exception -/
set_option maxRecDepth 100000
def RJ15 : String := "java/lang/Exception"
abbrev cJ15_init : ByteArray := prog_40_method_5_code
def yJ15_init : MethodName := ⟨RJ15, "<init>", "(Ljava/lang/String;Ljava/lang/Throwable;ZZ)V"⟩
def dkwJ15_init_0 : List UInt8 := [42, 43, 44, 29, 21, 4, 183, 0, 16, 177]
abbrev dktJ15_init_0 : List UInt8 := dkwJ15_init_0 ++ []
theorem dksJ15_init_0 : cJ15_init.data.toList.drop 0 = dktJ15_init_0 := by decide +kernel
theorem dJ15_init_0 : decode cJ15_init 0 = .ok (.aload_n 0, 1) := dk_42 (dk_at dksJ15_init_0 0 rfl rfl)
theorem dJ15_init_1 : decode cJ15_init 1 = .ok (.aload_n 1, 1) := dk_43 (dk_at dksJ15_init_0 1 rfl rfl)
theorem dJ15_init_2 : decode cJ15_init 2 = .ok (.aload_n 2, 1) := dk_44 (dk_at dksJ15_init_0 2 rfl rfl)
theorem dJ15_init_3 : decode cJ15_init 3 = .ok (.iload_n 3, 1) := dk_29 (dk_at dksJ15_init_0 3 rfl rfl)
theorem dJ15_init_4 : decode cJ15_init 4 = .ok (.iload 4, 2) := dk_21 4 (dk_at dksJ15_init_0 4 rfl rfl)
theorem dJ15_init_6 : decode cJ15_init 6 = .ok (.invokespecial 16, 3) := dk_183 0 16 (dk_at dksJ15_init_0 6 rfl rfl)
theorem dJ15_init_9 : decode cJ15_init 9 = .ok (.return_, 1) := dk_177 (dk_at dksJ15_init_0 9 rfl rfl)
theorem q153 : (Jvm.Cond.initialized "java/lang/Exception") ∈ lw_all := lw_g (lw_at lw_m1 29 rfl) rfl
theorem q1112 : (Jvm.Cond.declares ({ cls := "java/lang/Exception", name := "<init>", desc := "()V" } : Jvm.MethodName)) ∈ lw_tbl := lw_at lw_m5 28 rfl
theorem q1113 : (Jvm.Cond.declares ({ cls := "java/lang/Exception", name := "<init>", desc := "(Ljava/lang/String;)V" } : Jvm.MethodName)) ∈ lw_tbl := lw_at lw_m5 29 rfl
theorem q1150 : (Jvm.Cond.instanceMethod ({ cls := "java/lang/Exception", name := "<init>", desc := "(Ljava/lang/String;Ljava/lang/Throwable;ZZ)V" } : Jvm.MethodName)) ∈ lw_all := lw_g (lw_at lw_m5 66 rfl) rfl
theorem q1151 : (Jvm.Cond.code ({ cls := "java/lang/Exception", name := "<init>", desc := "(Ljava/lang/String;Ljava/lang/Throwable;ZZ)V" } : Jvm.MethodName) prog_40_method_5_code (5 : Nat) (Option.none : Option Jvm.ClassFile.FieldType)) ∈ lw_all := lw_g (lw_at lw_m5 67 rfl) rfl
theorem q1152 : (Jvm.Cond.methodLink "java/lang/Exception" (16 : Nat) ({ cls := "java/lang/Throwable", name := "<init>", desc := "(Ljava/lang/String;Ljava/lang/Throwable;ZZ)V" } : Jvm.MethodName)) ∈ lw_all := lw_g (lw_at lw_m5 68 rfl) rfl

/-! java/lang/Object -/
set_option maxRecDepth 100000
def RJ16 : String := "java/lang/Object"
abbrev cJ16_init : ByteArray := object_method_1_code
def yJ16_init : MethodName := ⟨RJ16, "<init>", "()V"⟩
theorem dJ16_init_0 : decode cJ16_init 0 = .ok (.return_, 1) := by decide +kernel
theorem q175 : (Jvm.Cond.instanceMethod ({ cls := "java/lang/Object", name := "<init>", desc := "()V" } : Jvm.MethodName)) ∈ lw_all := lw_g (lw_at lw_m1 51 rfl) rfl
theorem q176 : (Jvm.Cond.code ({ cls := "java/lang/Object", name := "<init>", desc := "()V" } : Jvm.MethodName) object_method_1_code (1 : Nat) (Option.none : Option Jvm.ClassFile.FieldType)) ∈ lw_all := lw_g (lw_at lw_m1 52 rfl) rfl
theorem q424 : (Jvm.Cond.instanceMethod ({ cls := "java/lang/Object", name := "getClass", desc := "()Ljava/lang/Class;" } : Jvm.MethodName)) ∈ lw_all := lw_g (lw_at lw_m2 60 rfl) rfl
theorem q425 : (Jvm.Cond.sameMethod "java/lang/Object" "java/lang/Object" "getClass" "()Ljava/lang/Class;") ∈ lw_all := lw_g (lw_at lw_m2 61 rfl) rfl
theorem q456 : (Jvm.Cond.native ({ cls := "java/lang/Object", name := "getClass", desc := "()Ljava/lang/Class;" } : Jvm.MethodName)) ∈ lw_all := lw_g (lw_at lw_m2 92 rfl) rfl
theorem q958 : (Jvm.Cond.native ({ cls := "java/lang/Object", name := "clone", desc := "()Ljava/lang/Object;" } : Jvm.MethodName)) ∈ lw_all := lw_g (lw_at lw_m4 114 rfl) rfl
theorem q959 : (Jvm.Cond.instanceMethod ({ cls := "java/lang/Object", name := "clone", desc := "()Ljava/lang/Object;" } : Jvm.MethodName)) ∈ lw_all := lw_g (lw_at lw_m4 115 rfl) rfl
theorem q2616 : (Jvm.Cond.declares ({ cls := "java/lang/Object", name := "getClass", desc := "()Ljava/lang/Class;" } : Jvm.MethodName)) ∈ lw_tbl := lw_at lw_m11 92 rfl

/-! java/lang/System$2 -/
set_option maxRecDepth 100000
def RJ17 : String := "java/lang/System$2"
abbrev cJ17_getUTF16Char : ByteArray := prog_49_method_45_code
def yJ17_getUTF16Char : MethodName := ⟨RJ17, "getUTF16Char", "([BI)C"⟩
def dkwJ17_getUTF16Char_0 : List UInt8 := [43, 28, 184, 0, 185, 172]
abbrev dktJ17_getUTF16Char_0 : List UInt8 := dkwJ17_getUTF16Char_0 ++ []
theorem dksJ17_getUTF16Char_0 : cJ17_getUTF16Char.data.toList.drop 0 = dktJ17_getUTF16Char_0 := by decide +kernel
theorem dJ17_getUTF16Char_0 : decode cJ17_getUTF16Char 0 = .ok (.aload_n 1, 1) := dk_43 (dk_at dksJ17_getUTF16Char_0 0 rfl rfl)
theorem dJ17_getUTF16Char_1 : decode cJ17_getUTF16Char 1 = .ok (.iload_n 2, 1) := dk_28 (dk_at dksJ17_getUTF16Char_0 1 rfl rfl)
theorem dJ17_getUTF16Char_2 : decode cJ17_getUTF16Char 2 = .ok (.invokestatic 185, 3) := dk_184 0 185 (dk_at dksJ17_getUTF16Char_0 2 rfl rfl)
theorem dJ17_getUTF16Char_5 : decode cJ17_getUTF16Char 5 = .ok (.ireturn, 1) := dk_172 (dk_at dksJ17_getUTF16Char_0 5 rfl rfl)
theorem q454 : (Jvm.Cond.selects "java/lang/System$2" ({ cls := "java/lang/Object", name := "getClass", desc := "()Ljava/lang/Class;" } : Jvm.MethodName) ({ cls := "java/lang/Object", name := "getClass", desc := "()Ljava/lang/Class;" } : Jvm.MethodName)) ∈ lw_all := lw_g (lw_at lw_m2 90 rfl) rfl
theorem q1465 : (Jvm.Cond.castable "java/lang/System$2" "jdk/internal/access/JavaLangAccess") ∈ lw_tbl := lw_at lw_m6 141 rfl
theorem q1466 : (Jvm.Cond.selects "java/lang/System$2" ({ cls := "jdk/internal/access/JavaLangAccess", name := "getUTF16Char", desc := "([BI)C" } : Jvm.MethodName) ({ cls := "java/lang/System$2", name := "getUTF16Char", desc := "([BI)C" } : Jvm.MethodName)) ∈ lw_all := lw_g (lw_at lw_m6 142 rfl) rfl
theorem q1467 : (Jvm.Cond.unhidden "java/lang/System$2" "getUTF16Char" "([BI)C") ∈ lw_tbl := lw_at lw_m6 143 rfl
theorem q1468 : (Jvm.Cond.instanceMethod ({ cls := "java/lang/System$2", name := "getUTF16Char", desc := "([BI)C" } : Jvm.MethodName)) ∈ lw_all := lw_g (lw_at lw_m6 144 rfl) rfl
theorem q1469 : (Jvm.Cond.publicMethod ({ cls := "java/lang/System$2", name := "getUTF16Char", desc := "([BI)C" } : Jvm.MethodName)) ∈ lw_tbl := lw_at lw_m6 145 rfl
theorem q1470 : (Jvm.Cond.code ({ cls := "java/lang/System$2", name := "getUTF16Char", desc := "([BI)C" } : Jvm.MethodName) prog_49_method_45_code (3 : Nat) (Option.some Jvm.ClassFile.FieldType.char)) ∈ lw_all := lw_g (lw_at lw_m6 146 rfl) rfl
theorem q1471 : (Jvm.Cond.methodLink "java/lang/System$2" (185 : Nat) ({ cls := "java/lang/StringUTF16", name := "getChar", desc := "([BI)C" } : Jvm.MethodName)) ∈ lw_all := lw_g (lw_at lw_m6 147 rfl) rfl
theorem q2607 : (Jvm.Cond.castable "java/lang/System$2" "java/lang/Object") ∈ lw_tbl := lw_at lw_m11 83 rfl

/-! java/util/ArrayList -/
set_option maxRecDepth 100000
def RJ2 : String := "java/util/ArrayList"
def TJ2 : u_T := fun k => match k with
  | 0 => ("java/util/AbstractList", "modCount", "I", false)
  | 1 => ("java/util/ArrayList", "elementData", "[Ljava/lang/Object;", false)
  | _ => ("java/util/ArrayList", "size", "I", false)
def tyJ2 : Nat → FieldType := fun k => match k with
  | 0 => .int
  | 1 => .array (.object "java/lang/Object")
  | _ => .int
abbrev wsJ20 : List Cond := u_ws RJ2 TJ2 3
theorem nmJ2 : ∀ a, a < 3 → ∀ b, b < 3 → a ≠ b → (TJ2 a).2.1 ≠ (TJ2 b).2.1 := by decide +kernel
theorem tyJ2_ok : ∀ k, k < 3 → parseFieldDescriptor (TJ2 k).2.2.1 = some (tyJ2 k) := by decide +kernel
abbrev cJ2_init : ByteArray := prog_55_method_1_code
def yJ2_init : MethodName := ⟨RJ2, "<init>", "(I)V"⟩
def dkwJ2_init_2 : List UInt8 := [182, 0, 25, 27, 182, 0, 29, 182, 0, 32, 183, 0, 36, 191, 177]
abbrev dktJ2_init_2 : List UInt8 := dkwJ2_init_2 ++ []
def dkwJ2_init_1 : List UInt8 := [178, 0, 15, 181, 0, 9, 167, 0, 30, 187, 0, 18, 89, 187, 0, 20, 89, 183, 0, 22, 18, 23]
abbrev dktJ2_init_1 : List UInt8 := dkwJ2_init_1 ++ dktJ2_init_2
def dkwJ2_init_0 : List UInt8 := [42, 183, 0, 1, 27, 158, 0, 14, 42, 27, 189, 0, 7, 181, 0, 9, 167, 0, 44, 27, 154, 0, 13, 42]
abbrev dktJ2_init_0 : List UInt8 := dkwJ2_init_0 ++ dktJ2_init_1
theorem dksJ2_init_0 : cJ2_init.data.toList.drop 0 = dktJ2_init_0 := by decide +kernel
theorem dksJ2_init_1 : cJ2_init.data.toList.drop 24 = dktJ2_init_1 := dk_seg dksJ2_init_0 24 rfl rfl
theorem dksJ2_init_2 : cJ2_init.data.toList.drop 46 = dktJ2_init_2 := dk_seg dksJ2_init_1 22 rfl rfl
theorem dJ2_init_0 : decode cJ2_init 0 = .ok (.aload_n 0, 1) := dk_42 (dk_at dksJ2_init_0 0 rfl rfl)
theorem dJ2_init_1 : decode cJ2_init 1 = .ok (.invokespecial 1, 3) := dk_183 0 1 (dk_at dksJ2_init_0 1 rfl rfl)
theorem dJ2_init_4 : decode cJ2_init 4 = .ok (.iload_n 1, 1) := dk_27 (dk_at dksJ2_init_0 4 rfl rfl)
theorem dJ2_init_5 : decode cJ2_init 5 = .ok (.ifCond .le 14, 3) := dk_158 0 14 (dk_at dksJ2_init_0 5 rfl rfl)
theorem dJ2_init_8 : decode cJ2_init 8 = .ok (.aload_n 0, 1) := dk_42 (dk_at dksJ2_init_0 8 rfl rfl)
theorem dJ2_init_9 : decode cJ2_init 9 = .ok (.iload_n 1, 1) := dk_27 (dk_at dksJ2_init_0 9 rfl rfl)
theorem dJ2_init_10 : decode cJ2_init 10 = .ok (.anewarray 7, 3) := dk_189 0 7 (dk_at dksJ2_init_0 10 rfl rfl)
theorem dJ2_init_13 : decode cJ2_init 13 = .ok (.putfield 9, 3) := dk_181 0 9 (dk_at dksJ2_init_0 13 rfl rfl)
theorem dJ2_init_16 : decode cJ2_init 16 = .ok (.goto 44, 3) := dk_167 0 44 (dk_at dksJ2_init_0 16 rfl rfl)
theorem dJ2_init_19 : decode cJ2_init 19 = .ok (.iload_n 1, 1) := dk_27 (dk_at dksJ2_init_0 19 rfl rfl)
theorem dJ2_init_20 : decode cJ2_init 20 = .ok (.ifCond .ne 13, 3) := dk_154 0 13 (dk_at dksJ2_init_0 20 rfl rfl)
theorem dJ2_init_23 : decode cJ2_init 23 = .ok (.aload_n 0, 1) := dk_42 (dk_at dksJ2_init_0 23 rfl rfl)
theorem dJ2_init_24 : decode cJ2_init 24 = .ok (.getstatic 15, 3) := dk_178 0 15 (dk_at dksJ2_init_1 0 rfl rfl)
theorem dJ2_init_27 : decode cJ2_init 27 = .ok (.putfield 9, 3) := dk_181 0 9 (dk_at dksJ2_init_1 3 rfl rfl)
theorem dJ2_init_30 : decode cJ2_init 30 = .ok (.goto 30, 3) := dk_167 0 30 (dk_at dksJ2_init_1 6 rfl rfl)
theorem dJ2_init_33 : decode cJ2_init 33 = .ok (.new 18, 3) := dk_187 0 18 (dk_at dksJ2_init_1 9 rfl rfl)
theorem dJ2_init_36 : decode cJ2_init 36 = .ok (.dup, 1) := dk_89 (dk_at dksJ2_init_1 12 rfl rfl)
theorem dJ2_init_37 : decode cJ2_init 37 = .ok (.new 20, 3) := dk_187 0 20 (dk_at dksJ2_init_1 13 rfl rfl)
theorem dJ2_init_40 : decode cJ2_init 40 = .ok (.dup, 1) := dk_89 (dk_at dksJ2_init_1 16 rfl rfl)
theorem dJ2_init_41 : decode cJ2_init 41 = .ok (.invokespecial 22, 3) := dk_183 0 22 (dk_at dksJ2_init_1 17 rfl rfl)
theorem dJ2_init_44 : decode cJ2_init 44 = .ok (.ldc 23, 2) := dk_18 23 (dk_at dksJ2_init_1 20 rfl rfl)
theorem dJ2_init_46 : decode cJ2_init 46 = .ok (.invokevirtual 25, 3) := dk_182 0 25 (dk_at dksJ2_init_2 0 rfl rfl)
theorem dJ2_init_49 : decode cJ2_init 49 = .ok (.iload_n 1, 1) := dk_27 (dk_at dksJ2_init_2 3 rfl rfl)
theorem dJ2_init_50 : decode cJ2_init 50 = .ok (.invokevirtual 29, 3) := dk_182 0 29 (dk_at dksJ2_init_2 4 rfl rfl)
theorem dJ2_init_53 : decode cJ2_init 53 = .ok (.invokevirtual 32, 3) := dk_182 0 32 (dk_at dksJ2_init_2 7 rfl rfl)
theorem dJ2_init_56 : decode cJ2_init 56 = .ok (.invokespecial 36, 3) := dk_183 0 36 (dk_at dksJ2_init_2 10 rfl rfl)
theorem dJ2_init_59 : decode cJ2_init 59 = .ok (.athrow, 1) := dk_191 (dk_at dksJ2_init_2 13 rfl rfl)
theorem dJ2_init_60 : decode cJ2_init 60 = .ok (.return_, 1) := dk_177 (dk_at dksJ2_init_2 14 rfl rfl)
abbrev cJ2_add : ByteArray := prog_55_method_25_code
def yJ2_add : MethodName := ⟨RJ2, "add", "(Ljava/lang/Object;)Z"⟩
def dkwJ2_add_1 : List UInt8 := [172]
abbrev dktJ2_add_1 : List UInt8 := dkwJ2_add_1 ++ []
def dkwJ2_add_0 : List UInt8 := [42, 89, 180, 0, 63, 4, 96, 181, 0, 63, 42, 43, 42, 180, 0, 9, 42, 180, 0, 48, 182, 0, 131, 4]
abbrev dktJ2_add_0 : List UInt8 := dkwJ2_add_0 ++ dktJ2_add_1
theorem dksJ2_add_0 : cJ2_add.data.toList.drop 0 = dktJ2_add_0 := by decide +kernel
theorem dksJ2_add_1 : cJ2_add.data.toList.drop 24 = dktJ2_add_1 := dk_seg dksJ2_add_0 24 rfl rfl
theorem dJ2_add_0 : decode cJ2_add 0 = .ok (.aload_n 0, 1) := dk_42 (dk_at dksJ2_add_0 0 rfl rfl)
theorem dJ2_add_1 : decode cJ2_add 1 = .ok (.dup, 1) := dk_89 (dk_at dksJ2_add_0 1 rfl rfl)
theorem dJ2_add_2 : decode cJ2_add 2 = .ok (.getfield 63, 3) := dk_180 0 63 (dk_at dksJ2_add_0 2 rfl rfl)
theorem dJ2_add_5 : decode cJ2_add 5 = .ok (.iconst 1, 1) := dk_4 (dk_at dksJ2_add_0 5 rfl rfl)
theorem dJ2_add_6 : decode cJ2_add 6 = .ok (.iadd, 1) := dk_96 (dk_at dksJ2_add_0 6 rfl rfl)
theorem dJ2_add_7 : decode cJ2_add 7 = .ok (.putfield 63, 3) := dk_181 0 63 (dk_at dksJ2_add_0 7 rfl rfl)
theorem dJ2_add_10 : decode cJ2_add 10 = .ok (.aload_n 0, 1) := dk_42 (dk_at dksJ2_add_0 10 rfl rfl)
theorem dJ2_add_11 : decode cJ2_add 11 = .ok (.aload_n 1, 1) := dk_43 (dk_at dksJ2_add_0 11 rfl rfl)
theorem dJ2_add_12 : decode cJ2_add 12 = .ok (.aload_n 0, 1) := dk_42 (dk_at dksJ2_add_0 12 rfl rfl)
theorem dJ2_add_13 : decode cJ2_add 13 = .ok (.getfield 9, 3) := dk_180 0 9 (dk_at dksJ2_add_0 13 rfl rfl)
theorem dJ2_add_16 : decode cJ2_add 16 = .ok (.aload_n 0, 1) := dk_42 (dk_at dksJ2_add_0 16 rfl rfl)
theorem dJ2_add_17 : decode cJ2_add 17 = .ok (.getfield 48, 3) := dk_180 0 48 (dk_at dksJ2_add_0 17 rfl rfl)
theorem dJ2_add_20 : decode cJ2_add 20 = .ok (.invokevirtual 131, 3) := dk_182 0 131 (dk_at dksJ2_add_0 20 rfl rfl)
theorem dJ2_add_23 : decode cJ2_add 23 = .ok (.iconst 1, 1) := dk_4 (dk_at dksJ2_add_0 23 rfl rfl)
theorem dJ2_add_24 : decode cJ2_add 24 = .ok (.ireturn, 1) := dk_172 (dk_at dksJ2_add_1 0 rfl rfl)
abbrev cJ2_add_2 : ByteArray := prog_55_method_24_code
def yJ2_add_2 : MethodName := ⟨RJ2, "add", "(Ljava/lang/Object;[Ljava/lang/Object;I)V"⟩
def dkwJ2_add_2_0 : List UInt8 := [29, 44, 190, 160, 0, 8, 42, 182, 0, 129, 77, 44, 29, 43, 83, 42, 29, 4, 96, 181, 0, 48, 177]
abbrev dktJ2_add_2_0 : List UInt8 := dkwJ2_add_2_0 ++ []
theorem dksJ2_add_2_0 : cJ2_add_2.data.toList.drop 0 = dktJ2_add_2_0 := by decide +kernel
theorem dJ2_add_2_0 : decode cJ2_add_2 0 = .ok (.iload_n 3, 1) := dk_29 (dk_at dksJ2_add_2_0 0 rfl rfl)
theorem dJ2_add_2_1 : decode cJ2_add_2 1 = .ok (.aload_n 2, 1) := dk_44 (dk_at dksJ2_add_2_0 1 rfl rfl)
theorem dJ2_add_2_2 : decode cJ2_add_2 2 = .ok (.arraylength, 1) := dk_190 (dk_at dksJ2_add_2_0 2 rfl rfl)
theorem dJ2_add_2_3 : decode cJ2_add_2 3 = .ok (.if_icmp .ne 8, 3) := dk_160 0 8 (dk_at dksJ2_add_2_0 3 rfl rfl)
theorem dJ2_add_2_6 : decode cJ2_add_2 6 = .ok (.aload_n 0, 1) := dk_42 (dk_at dksJ2_add_2_0 6 rfl rfl)
theorem dJ2_add_2_7 : decode cJ2_add_2 7 = .ok (.invokevirtual 129, 3) := dk_182 0 129 (dk_at dksJ2_add_2_0 7 rfl rfl)
theorem dJ2_add_2_10 : decode cJ2_add_2 10 = .ok (.astore_n 2, 1) := dk_77 (dk_at dksJ2_add_2_0 10 rfl rfl)
theorem dJ2_add_2_11 : decode cJ2_add_2 11 = .ok (.aload_n 2, 1) := dk_44 (dk_at dksJ2_add_2_0 11 rfl rfl)
theorem dJ2_add_2_12 : decode cJ2_add_2 12 = .ok (.iload_n 3, 1) := dk_29 (dk_at dksJ2_add_2_0 12 rfl rfl)
theorem dJ2_add_2_13 : decode cJ2_add_2 13 = .ok (.aload_n 1, 1) := dk_43 (dk_at dksJ2_add_2_0 13 rfl rfl)
theorem dJ2_add_2_14 : decode cJ2_add_2 14 = .ok (.aastore, 1) := dk_83 (dk_at dksJ2_add_2_0 14 rfl rfl)
theorem dJ2_add_2_15 : decode cJ2_add_2 15 = .ok (.aload_n 0, 1) := dk_42 (dk_at dksJ2_add_2_0 15 rfl rfl)
theorem dJ2_add_2_16 : decode cJ2_add_2 16 = .ok (.iload_n 3, 1) := dk_29 (dk_at dksJ2_add_2_0 16 rfl rfl)
theorem dJ2_add_2_17 : decode cJ2_add_2 17 = .ok (.iconst 1, 1) := dk_4 (dk_at dksJ2_add_2_0 17 rfl rfl)
theorem dJ2_add_2_18 : decode cJ2_add_2 18 = .ok (.iadd, 1) := dk_96 (dk_at dksJ2_add_2_0 18 rfl rfl)
theorem dJ2_add_2_19 : decode cJ2_add_2 19 = .ok (.putfield 48, 3) := dk_181 0 48 (dk_at dksJ2_add_2_0 19 rfl rfl)
theorem dJ2_add_2_22 : decode cJ2_add_2 22 = .ok (.return_, 1) := dk_177 (dk_at dksJ2_add_2_0 22 rfl rfl)
abbrev cJ2_grow : ByteArray := prog_55_method_7_code
def yJ2_grow : MethodName := ⟨RJ2, "grow", "()[Ljava/lang/Object;"⟩
def dkwJ2_grow_0 : List UInt8 := [42, 42, 180, 0, 48, 4, 96, 182, 0, 69, 176]
abbrev dktJ2_grow_0 : List UInt8 := dkwJ2_grow_0 ++ []
theorem dksJ2_grow_0 : cJ2_grow.data.toList.drop 0 = dktJ2_grow_0 := by decide +kernel
theorem dJ2_grow_0 : decode cJ2_grow 0 = .ok (.aload_n 0, 1) := dk_42 (dk_at dksJ2_grow_0 0 rfl rfl)
theorem dJ2_grow_1 : decode cJ2_grow 1 = .ok (.aload_n 0, 1) := dk_42 (dk_at dksJ2_grow_0 1 rfl rfl)
theorem dJ2_grow_2 : decode cJ2_grow 2 = .ok (.getfield 48, 3) := dk_180 0 48 (dk_at dksJ2_grow_0 2 rfl rfl)
theorem dJ2_grow_5 : decode cJ2_grow 5 = .ok (.iconst 1, 1) := dk_4 (dk_at dksJ2_grow_0 5 rfl rfl)
theorem dJ2_grow_6 : decode cJ2_grow 6 = .ok (.iadd, 1) := dk_96 (dk_at dksJ2_grow_0 6 rfl rfl)
theorem dJ2_grow_7 : decode cJ2_grow 7 = .ok (.invokevirtual 69, 3) := dk_182 0 69 (dk_at dksJ2_grow_0 7 rfl rfl)
theorem dJ2_grow_10 : decode cJ2_grow 10 = .ok (.areturn, 1) := dk_176 (dk_at dksJ2_grow_0 10 rfl rfl)
abbrev cJ2_grow_2 : ByteArray := prog_55_method_6_code
def yJ2_grow_2 : MethodName := ⟨RJ2, "grow", "(I)[Ljava/lang/Object;"⟩
def dkwJ2_grow_2_2 : List UInt8 := [27, 184, 0, 79, 189, 0, 7, 90, 181, 0, 9, 176]
abbrev dktJ2_grow_2_2 : List UInt8 := dkwJ2_grow_2_2 ++ []
def dkwJ2_grow_2_1 : List UInt8 := [28, 4, 122, 184, 0, 73, 62, 42, 42, 180, 0, 9, 29, 184, 0, 66, 90, 181, 0, 9, 176, 42, 16, 10]
abbrev dktJ2_grow_2_1 : List UInt8 := dkwJ2_grow_2_1 ++ dktJ2_grow_2_2
def dkwJ2_grow_2_0 : List UInt8 := [42, 180, 0, 9, 190, 61, 28, 157, 0, 13, 42, 180, 0, 9, 178, 0, 39, 165, 0, 28, 28, 27, 28, 100]
abbrev dktJ2_grow_2_0 : List UInt8 := dkwJ2_grow_2_0 ++ dktJ2_grow_2_1
theorem dksJ2_grow_2_0 : cJ2_grow_2.data.toList.drop 0 = dktJ2_grow_2_0 := by decide +kernel
theorem dksJ2_grow_2_1 : cJ2_grow_2.data.toList.drop 24 = dktJ2_grow_2_1 := dk_seg dksJ2_grow_2_0 24 rfl rfl
theorem dksJ2_grow_2_2 : cJ2_grow_2.data.toList.drop 48 = dktJ2_grow_2_2 := dk_seg dksJ2_grow_2_1 24 rfl rfl
theorem dJ2_grow_2_0 : decode cJ2_grow_2 0 = .ok (.aload_n 0, 1) := dk_42 (dk_at dksJ2_grow_2_0 0 rfl rfl)
theorem dJ2_grow_2_1 : decode cJ2_grow_2 1 = .ok (.getfield 9, 3) := dk_180 0 9 (dk_at dksJ2_grow_2_0 1 rfl rfl)
theorem dJ2_grow_2_4 : decode cJ2_grow_2 4 = .ok (.arraylength, 1) := dk_190 (dk_at dksJ2_grow_2_0 4 rfl rfl)
theorem dJ2_grow_2_5 : decode cJ2_grow_2 5 = .ok (.istore_n 2, 1) := dk_61 (dk_at dksJ2_grow_2_0 5 rfl rfl)
theorem dJ2_grow_2_6 : decode cJ2_grow_2 6 = .ok (.iload_n 2, 1) := dk_28 (dk_at dksJ2_grow_2_0 6 rfl rfl)
theorem dJ2_grow_2_7 : decode cJ2_grow_2 7 = .ok (.ifCond .gt 13, 3) := dk_157 0 13 (dk_at dksJ2_grow_2_0 7 rfl rfl)
theorem dJ2_grow_2_10 : decode cJ2_grow_2 10 = .ok (.aload_n 0, 1) := dk_42 (dk_at dksJ2_grow_2_0 10 rfl rfl)
theorem dJ2_grow_2_11 : decode cJ2_grow_2 11 = .ok (.getfield 9, 3) := dk_180 0 9 (dk_at dksJ2_grow_2_0 11 rfl rfl)
theorem dJ2_grow_2_14 : decode cJ2_grow_2 14 = .ok (.getstatic 39, 3) := dk_178 0 39 (dk_at dksJ2_grow_2_0 14 rfl rfl)
theorem dJ2_grow_2_17 : decode cJ2_grow_2 17 = .ok (.if_acmp .eq 28, 3) := dk_165 0 28 (dk_at dksJ2_grow_2_0 17 rfl rfl)
theorem dJ2_grow_2_20 : decode cJ2_grow_2 20 = .ok (.iload_n 2, 1) := dk_28 (dk_at dksJ2_grow_2_0 20 rfl rfl)
theorem dJ2_grow_2_21 : decode cJ2_grow_2 21 = .ok (.iload_n 1, 1) := dk_27 (dk_at dksJ2_grow_2_0 21 rfl rfl)
theorem dJ2_grow_2_22 : decode cJ2_grow_2 22 = .ok (.iload_n 2, 1) := dk_28 (dk_at dksJ2_grow_2_0 22 rfl rfl)
theorem dJ2_grow_2_23 : decode cJ2_grow_2 23 = .ok (.isub, 1) := dk_100 (dk_at dksJ2_grow_2_0 23 rfl rfl)
theorem dJ2_grow_2_24 : decode cJ2_grow_2 24 = .ok (.iload_n 2, 1) := dk_28 (dk_at dksJ2_grow_2_1 0 rfl rfl)
theorem dJ2_grow_2_25 : decode cJ2_grow_2 25 = .ok (.iconst 1, 1) := dk_4 (dk_at dksJ2_grow_2_1 1 rfl rfl)
theorem dJ2_grow_2_26 : decode cJ2_grow_2 26 = .ok (.ishr, 1) := dk_122 (dk_at dksJ2_grow_2_1 2 rfl rfl)
theorem dJ2_grow_2_27 : decode cJ2_grow_2 27 = .ok (.invokestatic 73, 3) := dk_184 0 73 (dk_at dksJ2_grow_2_1 3 rfl rfl)
theorem dJ2_grow_2_30 : decode cJ2_grow_2 30 = .ok (.istore_n 3, 1) := dk_62 (dk_at dksJ2_grow_2_1 6 rfl rfl)
theorem dJ2_grow_2_31 : decode cJ2_grow_2 31 = .ok (.aload_n 0, 1) := dk_42 (dk_at dksJ2_grow_2_1 7 rfl rfl)
theorem dJ2_grow_2_32 : decode cJ2_grow_2 32 = .ok (.aload_n 0, 1) := dk_42 (dk_at dksJ2_grow_2_1 8 rfl rfl)
theorem dJ2_grow_2_33 : decode cJ2_grow_2 33 = .ok (.getfield 9, 3) := dk_180 0 9 (dk_at dksJ2_grow_2_1 9 rfl rfl)
theorem dJ2_grow_2_36 : decode cJ2_grow_2 36 = .ok (.iload_n 3, 1) := dk_29 (dk_at dksJ2_grow_2_1 12 rfl rfl)
theorem dJ2_grow_2_37 : decode cJ2_grow_2 37 = .ok (.invokestatic 66, 3) := dk_184 0 66 (dk_at dksJ2_grow_2_1 13 rfl rfl)
theorem dJ2_grow_2_40 : decode cJ2_grow_2 40 = .ok (.dup_x1, 1) := dk_90 (dk_at dksJ2_grow_2_1 16 rfl rfl)
theorem dJ2_grow_2_41 : decode cJ2_grow_2 41 = .ok (.putfield 9, 3) := dk_181 0 9 (dk_at dksJ2_grow_2_1 17 rfl rfl)
theorem dJ2_grow_2_44 : decode cJ2_grow_2 44 = .ok (.areturn, 1) := dk_176 (dk_at dksJ2_grow_2_1 20 rfl rfl)
theorem dJ2_grow_2_45 : decode cJ2_grow_2 45 = .ok (.aload_n 0, 1) := dk_42 (dk_at dksJ2_grow_2_1 21 rfl rfl)
theorem dJ2_grow_2_46 : decode cJ2_grow_2 46 = .ok (.bipush 10, 2) := dk_16 10 (dk_at dksJ2_grow_2_1 22 rfl rfl)
theorem dJ2_grow_2_48 : decode cJ2_grow_2 48 = .ok (.iload_n 1, 1) := dk_27 (dk_at dksJ2_grow_2_2 0 rfl rfl)
theorem dJ2_grow_2_49 : decode cJ2_grow_2 49 = .ok (.invokestatic 79, 3) := dk_184 0 79 (dk_at dksJ2_grow_2_2 1 rfl rfl)
theorem dJ2_grow_2_52 : decode cJ2_grow_2 52 = .ok (.anewarray 7, 3) := dk_189 0 7 (dk_at dksJ2_grow_2_2 4 rfl rfl)
theorem dJ2_grow_2_55 : decode cJ2_grow_2 55 = .ok (.dup_x1, 1) := dk_90 (dk_at dksJ2_grow_2_2 7 rfl rfl)
theorem dJ2_grow_2_56 : decode cJ2_grow_2 56 = .ok (.putfield 9, 3) := dk_181 0 9 (dk_at dksJ2_grow_2_2 8 rfl rfl)
theorem dJ2_grow_2_59 : decode cJ2_grow_2 59 = .ok (.areturn, 1) := dk_176 (dk_at dksJ2_grow_2_2 11 rfl rfl)
abbrev cJ2_size : ByteArray := prog_55_method_8_code
def yJ2_size : MethodName := ⟨RJ2, "size", "()I"⟩
theorem dJ2_size_0 : decode cJ2_size 0 = .ok (.aload_n 0, 1) := by decide +kernel
theorem dJ2_size_1 : decode cJ2_size 1 = .ok (.getfield 48, 3) := by decide +kernel
theorem dJ2_size_4 : decode cJ2_size 4 = .ok (.ireturn, 1) := by decide +kernel
abbrev cJ2_get : ByteArray := prog_55_method_20_code
def yJ2_get : MethodName := ⟨RJ2, "get", "(I)Ljava/lang/Object;"⟩
def dkwJ2_get_0 : List UInt8 := [27, 42, 180, 0, 48, 184, 0, 118, 87, 42, 27, 182, 0, 123, 176]
abbrev dktJ2_get_0 : List UInt8 := dkwJ2_get_0 ++ []
theorem dksJ2_get_0 : cJ2_get.data.toList.drop 0 = dktJ2_get_0 := by decide +kernel
theorem dJ2_get_0 : decode cJ2_get 0 = .ok (.iload_n 1, 1) := dk_27 (dk_at dksJ2_get_0 0 rfl rfl)
theorem dJ2_get_1 : decode cJ2_get 1 = .ok (.aload_n 0, 1) := dk_42 (dk_at dksJ2_get_0 1 rfl rfl)
theorem dJ2_get_2 : decode cJ2_get 2 = .ok (.getfield 48, 3) := dk_180 0 48 (dk_at dksJ2_get_0 2 rfl rfl)
theorem dJ2_get_5 : decode cJ2_get 5 = .ok (.invokestatic 118, 3) := dk_184 0 118 (dk_at dksJ2_get_0 5 rfl rfl)
theorem dJ2_get_8 : decode cJ2_get 8 = .ok (.pop, 1) := dk_87 (dk_at dksJ2_get_0 8 rfl rfl)
theorem dJ2_get_9 : decode cJ2_get 9 = .ok (.aload_n 0, 1) := dk_42 (dk_at dksJ2_get_0 9 rfl rfl)
theorem dJ2_get_10 : decode cJ2_get 10 = .ok (.iload_n 1, 1) := dk_27 (dk_at dksJ2_get_0 10 rfl rfl)
theorem dJ2_get_11 : decode cJ2_get 11 = .ok (.invokevirtual 123, 3) := dk_182 0 123 (dk_at dksJ2_get_0 11 rfl rfl)
theorem dJ2_get_14 : decode cJ2_get 14 = .ok (.areturn, 1) := dk_176 (dk_at dksJ2_get_0 14 rfl rfl)
abbrev cJ2_elementData : ByteArray := prog_55_method_18_code
def yJ2_elementData : MethodName := ⟨RJ2, "elementData", "(I)Ljava/lang/Object;"⟩
def dkwJ2_elementData_0 : List UInt8 := [42, 180, 0, 9, 27, 50, 176]
abbrev dktJ2_elementData_0 : List UInt8 := dkwJ2_elementData_0 ++ []
theorem dksJ2_elementData_0 : cJ2_elementData.data.toList.drop 0 = dktJ2_elementData_0 := by decide +kernel
theorem dJ2_elementData_0 : decode cJ2_elementData 0 = .ok (.aload_n 0, 1) := dk_42 (dk_at dksJ2_elementData_0 0 rfl rfl)
theorem dJ2_elementData_1 : decode cJ2_elementData 1 = .ok (.getfield 9, 3) := dk_180 0 9 (dk_at dksJ2_elementData_0 1 rfl rfl)
theorem dJ2_elementData_4 : decode cJ2_elementData 4 = .ok (.iload_n 1, 1) := dk_27 (dk_at dksJ2_elementData_0 4 rfl rfl)
theorem dJ2_elementData_5 : decode cJ2_elementData 5 = .ok (.aaload, 1) := dk_50 (dk_at dksJ2_elementData_0 5 rfl rfl)
theorem dJ2_elementData_6 : decode cJ2_elementData 6 = .ok (.areturn, 1) := dk_176 (dk_at dksJ2_elementData_0 6 rfl rfl)
abbrev cJ2_clear : ByteArray := prog_55_method_40_code
def yJ2_clear : MethodName := ⟨RJ2, "clear", "()V"⟩
def dkwJ2_clear_1 : List UInt8 := [181, 0, 48, 62, 29, 28, 162, 0, 13, 43, 29, 1, 83, 132, 3, 1, 167, 255, 244, 177]
abbrev dktJ2_clear_1 : List UInt8 := dkwJ2_clear_1 ++ []
def dkwJ2_clear_0 : List UInt8 := [42, 89, 180, 0, 63, 4, 96, 181, 0, 63, 42, 180, 0, 9, 76, 42, 180, 0, 48, 61, 42, 3, 90]
abbrev dktJ2_clear_0 : List UInt8 := dkwJ2_clear_0 ++ dktJ2_clear_1
theorem dksJ2_clear_0 : cJ2_clear.data.toList.drop 0 = dktJ2_clear_0 := by decide +kernel
theorem dksJ2_clear_1 : cJ2_clear.data.toList.drop 23 = dktJ2_clear_1 := dk_seg dksJ2_clear_0 23 rfl rfl
theorem dJ2_clear_0 : decode cJ2_clear 0 = .ok (.aload_n 0, 1) := dk_42 (dk_at dksJ2_clear_0 0 rfl rfl)
theorem dJ2_clear_1 : decode cJ2_clear 1 = .ok (.dup, 1) := dk_89 (dk_at dksJ2_clear_0 1 rfl rfl)
theorem dJ2_clear_2 : decode cJ2_clear 2 = .ok (.getfield 63, 3) := dk_180 0 63 (dk_at dksJ2_clear_0 2 rfl rfl)
theorem dJ2_clear_5 : decode cJ2_clear 5 = .ok (.iconst 1, 1) := dk_4 (dk_at dksJ2_clear_0 5 rfl rfl)
theorem dJ2_clear_6 : decode cJ2_clear 6 = .ok (.iadd, 1) := dk_96 (dk_at dksJ2_clear_0 6 rfl rfl)
theorem dJ2_clear_7 : decode cJ2_clear 7 = .ok (.putfield 63, 3) := dk_181 0 63 (dk_at dksJ2_clear_0 7 rfl rfl)
theorem dJ2_clear_10 : decode cJ2_clear 10 = .ok (.aload_n 0, 1) := dk_42 (dk_at dksJ2_clear_0 10 rfl rfl)
theorem dJ2_clear_11 : decode cJ2_clear 11 = .ok (.getfield 9, 3) := dk_180 0 9 (dk_at dksJ2_clear_0 11 rfl rfl)
theorem dJ2_clear_14 : decode cJ2_clear 14 = .ok (.astore_n 1, 1) := dk_76 (dk_at dksJ2_clear_0 14 rfl rfl)
theorem dJ2_clear_15 : decode cJ2_clear 15 = .ok (.aload_n 0, 1) := dk_42 (dk_at dksJ2_clear_0 15 rfl rfl)
theorem dJ2_clear_16 : decode cJ2_clear 16 = .ok (.getfield 48, 3) := dk_180 0 48 (dk_at dksJ2_clear_0 16 rfl rfl)
theorem dJ2_clear_19 : decode cJ2_clear 19 = .ok (.istore_n 2, 1) := dk_61 (dk_at dksJ2_clear_0 19 rfl rfl)
theorem dJ2_clear_20 : decode cJ2_clear 20 = .ok (.aload_n 0, 1) := dk_42 (dk_at dksJ2_clear_0 20 rfl rfl)
theorem dJ2_clear_21 : decode cJ2_clear 21 = .ok (.iconst 0, 1) := dk_3 (dk_at dksJ2_clear_0 21 rfl rfl)
theorem dJ2_clear_22 : decode cJ2_clear 22 = .ok (.dup_x1, 1) := dk_90 (dk_at dksJ2_clear_0 22 rfl rfl)
theorem dJ2_clear_23 : decode cJ2_clear 23 = .ok (.putfield 48, 3) := dk_181 0 48 (dk_at dksJ2_clear_1 0 rfl rfl)
theorem dJ2_clear_26 : decode cJ2_clear 26 = .ok (.istore_n 3, 1) := dk_62 (dk_at dksJ2_clear_1 3 rfl rfl)
theorem dJ2_clear_27 : decode cJ2_clear 27 = .ok (.iload_n 3, 1) := dk_29 (dk_at dksJ2_clear_1 4 rfl rfl)
theorem dJ2_clear_28 : decode cJ2_clear 28 = .ok (.iload_n 2, 1) := dk_28 (dk_at dksJ2_clear_1 5 rfl rfl)
theorem dJ2_clear_29 : decode cJ2_clear 29 = .ok (.if_icmp .ge 13, 3) := dk_162 0 13 (dk_at dksJ2_clear_1 6 rfl rfl)
theorem dJ2_clear_32 : decode cJ2_clear 32 = .ok (.aload_n 1, 1) := dk_43 (dk_at dksJ2_clear_1 9 rfl rfl)
theorem dJ2_clear_33 : decode cJ2_clear 33 = .ok (.iload_n 3, 1) := dk_29 (dk_at dksJ2_clear_1 10 rfl rfl)
theorem dJ2_clear_34 : decode cJ2_clear 34 = .ok (.aconst_null, 1) := dk_1 (dk_at dksJ2_clear_1 11 rfl rfl)
theorem dJ2_clear_35 : decode cJ2_clear 35 = .ok (.aastore, 1) := dk_83 (dk_at dksJ2_clear_1 12 rfl rfl)
theorem dJ2_clear_36 : decode cJ2_clear 36 = .ok (.iinc 3 1, 3) := dk_132 3 1 (dk_at dksJ2_clear_1 13 rfl rfl)
theorem dJ2_clear_39 : decode cJ2_clear 39 = .ok (.goto (-12), 3) := dk_167 255 244 (dk_at dksJ2_clear_1 16 rfl rfl)
theorem dJ2_clear_42 : decode cJ2_clear 42 = .ok (.return_, 1) := dk_177 (dk_at dksJ2_clear_1 19 rfl rfl)
theorem q129 : (Jvm.Cond.initialized "java/util/ArrayList") ∈ lw_all := lw_g (lw_at lw_m1 5 rfl) rfl
theorem q188 : (Jvm.Cond.instantiable "java/util/ArrayList" (3 : Nat)) ∈ lw_all := lw_g (lw_at lw_m1 64 rfl) rfl
theorem q190 : (Jvm.Cond.instanceMethod ({ cls := "java/util/ArrayList", name := "<init>", desc := "(I)V" } : Jvm.MethodName)) ∈ lw_all := lw_g (lw_at lw_m1 66 rfl) rfl
theorem q191 : (Jvm.Cond.code ({ cls := "java/util/ArrayList", name := "<init>", desc := "(I)V" } : Jvm.MethodName) prog_55_method_1_code (2 : Nat) (Option.none : Option Jvm.ClassFile.FieldType)) ∈ lw_all := lw_g (lw_at lw_m1 67 rfl) rfl
theorem q192 : (Jvm.Cond.methodLink "java/util/ArrayList" (1 : Nat) ({ cls := "java/util/AbstractList", name := "<init>", desc := "()V" } : Jvm.MethodName)) ∈ lw_all := lw_g (lw_at lw_m1 68 rfl) rfl
theorem q199 : (Jvm.Cond.classLink "java/util/ArrayList" (7 : Nat) "java/lang/Object") ∈ lw_all := lw_g (lw_at lw_m1 75 rfl) rfl
theorem q201 : (Jvm.Cond.fieldLink "java/util/ArrayList" (15 : Nat) "java/util/ArrayList" "EMPTY_ELEMENTDATA" "[Ljava/lang/Object;") ∈ lw_all := lw_g (lw_at lw_m1 77 rfl) rfl
theorem q202 : (Jvm.Cond.laysStatic "java/util/ArrayList" "EMPTY_ELEMENTDATA" "[Ljava/lang/Object;") ∈ lw_tbl := lw_at lw_m1 78 rfl
theorem q203 : (Jvm.Cond.fieldLink "java/util/ArrayList" (9 : Nat) "java/util/ArrayList" "elementData" "[Ljava/lang/Object;") ∈ lw_all := lw_g (lw_at lw_m1 79 rfl) rfl
theorem q204 : (Jvm.Cond.fieldLink "java/util/ArrayList" (48 : Nat) "java/util/ArrayList" "size" "I") ∈ lw_all := lw_g (lw_at lw_m1 80 rfl) rfl
theorem q206 : (Jvm.Cond.fieldLink "java/util/ArrayList" (63 : Nat) "java/util/ArrayList" "modCount" "I") ∈ lw_all := lw_g (lw_at lw_m1 82 rfl) rfl
theorem q207 : (Jvm.Cond.sameField "java/util/ArrayList" "java/util/AbstractList" "modCount" "I") ∈ lw_all := lw_g (lw_at lw_m1 83 rfl) rfl
theorem q208 : (Jvm.Cond.lays "java/util/ArrayList" "java/util/ArrayList" "elementData" "[Ljava/lang/Object;") ∈ lw_all := lw_g (lw_at lw_m1 84 rfl) rfl
theorem q209 : (Jvm.Cond.soleField "java/util/ArrayList" "elementData") ∈ lw_all := lw_g (lw_at lw_m1 85 rfl) rfl
theorem q210 : (Jvm.Cond.lays "java/util/ArrayList" "java/util/ArrayList" "size" "I") ∈ lw_all := lw_g (lw_at lw_m1 86 rfl) rfl
theorem q211 : (Jvm.Cond.soleField "java/util/ArrayList" "size") ∈ lw_all := lw_g (lw_at lw_m1 87 rfl) rfl
theorem q212 : (Jvm.Cond.lays "java/util/ArrayList" "java/util/AbstractList" "modCount" "I") ∈ lw_all := lw_g (lw_at lw_m1 88 rfl) rfl
theorem q214 : (Jvm.Cond.superclass "java/util/ArrayList" "java/util/AbstractList") ∈ lw_all := lw_g (lw_at lw_m1 90 rfl) rfl
theorem q393 : (Jvm.Cond.instanceMethod ({ cls := "java/util/ArrayList", name := "add", desc := "(Ljava/lang/Object;)Z" } : Jvm.MethodName)) ∈ lw_all := lw_g (lw_at lw_m2 29 rfl) rfl
theorem q394 : (Jvm.Cond.selects "java/util/ArrayList" ({ cls := "java/util/ArrayList", name := "add", desc := "(Ljava/lang/Object;)Z" } : Jvm.MethodName) ({ cls := "java/util/ArrayList", name := "add", desc := "(Ljava/lang/Object;)Z" } : Jvm.MethodName)) ∈ lw_all := lw_g (lw_at lw_m2 30 rfl) rfl
theorem q395 : (Jvm.Cond.code ({ cls := "java/util/ArrayList", name := "add", desc := "(Ljava/lang/Object;)Z" } : Jvm.MethodName) prog_55_method_25_code (2 : Nat) (Option.some Jvm.ClassFile.FieldType.boolean)) ∈ lw_all := lw_g (lw_at lw_m2 31 rfl) rfl
theorem q396 : (Jvm.Cond.methodLink "java/util/ArrayList" (131 : Nat) ({ cls := "java/util/ArrayList", name := "add", desc := "(Ljava/lang/Object;[Ljava/lang/Object;I)V" } : Jvm.MethodName)) ∈ lw_all := lw_g (lw_at lw_m2 32 rfl) rfl
theorem q397 : (Jvm.Cond.privateMethod ({ cls := "java/util/ArrayList", name := "add", desc := "(Ljava/lang/Object;[Ljava/lang/Object;I)V" } : Jvm.MethodName)) ∈ lw_tbl := lw_at lw_m2 33 rfl
theorem q398 : (Jvm.Cond.instanceMethod ({ cls := "java/util/ArrayList", name := "add", desc := "(Ljava/lang/Object;[Ljava/lang/Object;I)V" } : Jvm.MethodName)) ∈ lw_all := lw_g (lw_at lw_m2 34 rfl) rfl
theorem q399 : (Jvm.Cond.code ({ cls := "java/util/ArrayList", name := "add", desc := "(Ljava/lang/Object;[Ljava/lang/Object;I)V" } : Jvm.MethodName) prog_55_method_24_code (4 : Nat) (Option.none : Option Jvm.ClassFile.FieldType)) ∈ lw_all := lw_g (lw_at lw_m2 35 rfl) rfl
theorem q400 : (Jvm.Cond.methodLink "java/util/ArrayList" (129 : Nat) ({ cls := "java/util/ArrayList", name := "grow", desc := "()[Ljava/lang/Object;" } : Jvm.MethodName)) ∈ lw_all := lw_g (lw_at lw_m2 36 rfl) rfl
theorem q401 : (Jvm.Cond.privateMethod ({ cls := "java/util/ArrayList", name := "grow", desc := "()[Ljava/lang/Object;" } : Jvm.MethodName)) ∈ lw_tbl := lw_at lw_m2 37 rfl
theorem q402 : (Jvm.Cond.instanceMethod ({ cls := "java/util/ArrayList", name := "grow", desc := "()[Ljava/lang/Object;" } : Jvm.MethodName)) ∈ lw_all := lw_g (lw_at lw_m2 38 rfl) rfl
theorem q403 : (Jvm.Cond.code ({ cls := "java/util/ArrayList", name := "grow", desc := "()[Ljava/lang/Object;" } : Jvm.MethodName) prog_55_method_7_code (1 : Nat) (Option.some (Jvm.ClassFile.FieldType.array (Jvm.ClassFile.FieldType.object "java/lang/Object")))) ∈ lw_all := lw_g (lw_at lw_m2 39 rfl) rfl
theorem q404 : (Jvm.Cond.methodLink "java/util/ArrayList" (69 : Nat) ({ cls := "java/util/ArrayList", name := "grow", desc := "(I)[Ljava/lang/Object;" } : Jvm.MethodName)) ∈ lw_all := lw_g (lw_at lw_m2 40 rfl) rfl
theorem q405 : (Jvm.Cond.privateMethod ({ cls := "java/util/ArrayList", name := "grow", desc := "(I)[Ljava/lang/Object;" } : Jvm.MethodName)) ∈ lw_tbl := lw_at lw_m2 41 rfl
theorem q406 : (Jvm.Cond.instanceMethod ({ cls := "java/util/ArrayList", name := "grow", desc := "(I)[Ljava/lang/Object;" } : Jvm.MethodName)) ∈ lw_all := lw_g (lw_at lw_m2 42 rfl) rfl
theorem q407 : (Jvm.Cond.code ({ cls := "java/util/ArrayList", name := "grow", desc := "(I)[Ljava/lang/Object;" } : Jvm.MethodName) prog_55_method_6_code (4 : Nat) (Option.some (Jvm.ClassFile.FieldType.array (Jvm.ClassFile.FieldType.object "java/lang/Object")))) ∈ lw_all := lw_g (lw_at lw_m2 43 rfl) rfl
theorem q408 : (Jvm.Cond.fieldLink "java/util/ArrayList" (39 : Nat) "java/util/ArrayList" "DEFAULTCAPACITY_EMPTY_ELEMENTDATA" "[Ljava/lang/Object;") ∈ lw_all := lw_g (lw_at lw_m2 44 rfl) rfl
theorem q409 : (Jvm.Cond.laysStatic "java/util/ArrayList" "DEFAULTCAPACITY_EMPTY_ELEMENTDATA" "[Ljava/lang/Object;") ∈ lw_tbl := lw_at lw_m2 45 rfl
theorem q410 : (Jvm.Cond.methodLink "java/util/ArrayList" (73 : Nat) ({ cls := "jdk/internal/util/ArraysSupport", name := "newLength", desc := "(III)I" } : Jvm.MethodName)) ∈ lw_all := lw_g (lw_at lw_m2 46 rfl) rfl
theorem q420 : (Jvm.Cond.methodLink "java/util/ArrayList" (66 : Nat) ({ cls := "java/util/Arrays", name := "copyOf", desc := "([Ljava/lang/Object;I)[Ljava/lang/Object;" } : Jvm.MethodName)) ∈ lw_all := lw_g (lw_at lw_m2 56 rfl) rfl
theorem q455 : (Jvm.Cond.selects "java/util/ArrayList" ({ cls := "java/lang/Object", name := "getClass", desc := "()Ljava/lang/Class;" } : Jvm.MethodName) ({ cls := "java/lang/Object", name := "getClass", desc := "()Ljava/lang/Class;" } : Jvm.MethodName)) ∈ lw_all := lw_g (lw_at lw_m2 91 rfl) rfl
theorem q468 : (Jvm.Cond.methodLink "java/util/ArrayList" (79 : Nat) ({ cls := "java/lang/Math", name := "max", desc := "(II)I" } : Jvm.MethodName)) ∈ lw_all := lw_g (lw_at lw_m2 104 rfl) rfl
theorem q488 : (Jvm.Cond.instanceMethod ({ cls := "java/util/ArrayList", name := "size", desc := "()I" } : Jvm.MethodName)) ∈ lw_all := lw_g (lw_at lw_m2 124 rfl) rfl
theorem q489 : (Jvm.Cond.selects "java/util/ArrayList" ({ cls := "java/util/ArrayList", name := "size", desc := "()I" } : Jvm.MethodName) ({ cls := "java/util/ArrayList", name := "size", desc := "()I" } : Jvm.MethodName)) ∈ lw_all := lw_g (lw_at lw_m2 125 rfl) rfl
theorem q490 : (Jvm.Cond.code ({ cls := "java/util/ArrayList", name := "size", desc := "()I" } : Jvm.MethodName) prog_55_method_8_code (1 : Nat) (Option.some Jvm.ClassFile.FieldType.int)) ∈ lw_all := lw_g (lw_at lw_m2 126 rfl) rfl
theorem q504 : (Jvm.Cond.instanceMethod ({ cls := "java/util/ArrayList", name := "get", desc := "(I)Ljava/lang/Object;" } : Jvm.MethodName)) ∈ lw_all := lw_g (lw_at lw_m2 140 rfl) rfl
theorem q505 : (Jvm.Cond.selects "java/util/ArrayList" ({ cls := "java/util/ArrayList", name := "get", desc := "(I)Ljava/lang/Object;" } : Jvm.MethodName) ({ cls := "java/util/ArrayList", name := "get", desc := "(I)Ljava/lang/Object;" } : Jvm.MethodName)) ∈ lw_all := lw_g (lw_at lw_m2 141 rfl) rfl
theorem q506 : (Jvm.Cond.code ({ cls := "java/util/ArrayList", name := "get", desc := "(I)Ljava/lang/Object;" } : Jvm.MethodName) prog_55_method_20_code (2 : Nat) (Option.some (Jvm.ClassFile.FieldType.object "java/lang/Object"))) ∈ lw_all := lw_g (lw_at lw_m2 142 rfl) rfl
theorem q507 : (Jvm.Cond.methodLink "java/util/ArrayList" (118 : Nat) ({ cls := "java/util/Objects", name := "checkIndex", desc := "(II)I" } : Jvm.MethodName)) ∈ lw_all := lw_g (lw_at lw_m2 143 rfl) rfl
theorem q513 : (Jvm.Cond.methodLink "java/util/ArrayList" (123 : Nat) ({ cls := "java/util/ArrayList", name := "elementData", desc := "(I)Ljava/lang/Object;" } : Jvm.MethodName)) ∈ lw_all := lw_g (lw_at lw_m2 149 rfl) rfl
theorem q514 : (Jvm.Cond.instanceMethod ({ cls := "java/util/ArrayList", name := "elementData", desc := "(I)Ljava/lang/Object;" } : Jvm.MethodName)) ∈ lw_all := lw_g (lw_at lw_m2 150 rfl) rfl
theorem q515 : (Jvm.Cond.selects "java/util/ArrayList" ({ cls := "java/util/ArrayList", name := "elementData", desc := "(I)Ljava/lang/Object;" } : Jvm.MethodName) ({ cls := "java/util/ArrayList", name := "elementData", desc := "(I)Ljava/lang/Object;" } : Jvm.MethodName)) ∈ lw_all := lw_g (lw_at lw_m2 151 rfl) rfl
theorem q516 : (Jvm.Cond.code ({ cls := "java/util/ArrayList", name := "elementData", desc := "(I)Ljava/lang/Object;" } : Jvm.MethodName) prog_55_method_18_code (2 : Nat) (Option.some (Jvm.ClassFile.FieldType.object "java/lang/Object"))) ∈ lw_all := lw_g (lw_at lw_m2 152 rfl) rfl
theorem q1579 : (Jvm.Cond.instanceMethod ({ cls := "java/util/ArrayList", name := "clear", desc := "()V" } : Jvm.MethodName)) ∈ lw_all := lw_g (lw_at lw_m7 15 rfl) rfl
theorem q1580 : (Jvm.Cond.selects "java/util/ArrayList" ({ cls := "java/util/ArrayList", name := "clear", desc := "()V" } : Jvm.MethodName) ({ cls := "java/util/ArrayList", name := "clear", desc := "()V" } : Jvm.MethodName)) ∈ lw_all := lw_g (lw_at lw_m7 16 rfl) rfl
theorem q1581 : (Jvm.Cond.code ({ cls := "java/util/ArrayList", name := "clear", desc := "()V" } : Jvm.MethodName) prog_55_method_40_code (4 : Nat) (Option.none : Option Jvm.ClassFile.FieldType)) ∈ lw_all := lw_g (lw_at lw_m7 17 rfl) rfl
theorem q2585 : (Jvm.Cond.castable "java/util/ArrayList" "java/lang/Object") ∈ lw_tbl := lw_at lw_m11 61 rfl
theorem in_J2 : ∀ w ∈ wsJ20, w ∈ lw_all := lw_in wsJ20 [212, 208, 210] (by decide +kernel) (by decide +kernel)

/-! jdk/internal/util/ArraysSupport -/
set_option maxRecDepth 100000
def RJ3 : String := "jdk/internal/util/ArraysSupport"
abbrev cJ3_newLength : ByteArray := prog_63_method_27_code
def yJ3_newLength : MethodName := ⟨RJ3, "newLength", "(III)I"⟩
def dkwJ3_newLength_1 : List UInt8 := [184, 0, 201, 172]
abbrev dktJ3_newLength_1 : List UInt8 := dkwJ3_newLength_1 ++ []
def dkwJ3_newLength_0 : List UInt8 := [26, 27, 28, 184, 0, 194, 96, 62, 3, 29, 162, 0, 11, 29, 18, 200, 163, 0, 5, 29, 172, 26, 27]
abbrev dktJ3_newLength_0 : List UInt8 := dkwJ3_newLength_0 ++ dktJ3_newLength_1
theorem dksJ3_newLength_0 : cJ3_newLength.data.toList.drop 0 = dktJ3_newLength_0 := by decide +kernel
theorem dksJ3_newLength_1 : cJ3_newLength.data.toList.drop 23 = dktJ3_newLength_1 := dk_seg dksJ3_newLength_0 23 rfl rfl
theorem dJ3_newLength_0 : decode cJ3_newLength 0 = .ok (.iload_n 0, 1) := dk_26 (dk_at dksJ3_newLength_0 0 rfl rfl)
theorem dJ3_newLength_1 : decode cJ3_newLength 1 = .ok (.iload_n 1, 1) := dk_27 (dk_at dksJ3_newLength_0 1 rfl rfl)
theorem dJ3_newLength_2 : decode cJ3_newLength 2 = .ok (.iload_n 2, 1) := dk_28 (dk_at dksJ3_newLength_0 2 rfl rfl)
theorem dJ3_newLength_3 : decode cJ3_newLength 3 = .ok (.invokestatic 194, 3) := dk_184 0 194 (dk_at dksJ3_newLength_0 3 rfl rfl)
theorem dJ3_newLength_6 : decode cJ3_newLength 6 = .ok (.iadd, 1) := dk_96 (dk_at dksJ3_newLength_0 6 rfl rfl)
theorem dJ3_newLength_7 : decode cJ3_newLength 7 = .ok (.istore_n 3, 1) := dk_62 (dk_at dksJ3_newLength_0 7 rfl rfl)
theorem dJ3_newLength_8 : decode cJ3_newLength 8 = .ok (.iconst 0, 1) := dk_3 (dk_at dksJ3_newLength_0 8 rfl rfl)
theorem dJ3_newLength_9 : decode cJ3_newLength 9 = .ok (.iload_n 3, 1) := dk_29 (dk_at dksJ3_newLength_0 9 rfl rfl)
theorem dJ3_newLength_10 : decode cJ3_newLength 10 = .ok (.if_icmp .ge 11, 3) := dk_162 0 11 (dk_at dksJ3_newLength_0 10 rfl rfl)
theorem dJ3_newLength_13 : decode cJ3_newLength 13 = .ok (.iload_n 3, 1) := dk_29 (dk_at dksJ3_newLength_0 13 rfl rfl)
theorem dJ3_newLength_14 : decode cJ3_newLength 14 = .ok (.ldc 200, 2) := dk_18 200 (dk_at dksJ3_newLength_0 14 rfl rfl)
theorem dJ3_newLength_16 : decode cJ3_newLength 16 = .ok (.if_icmp .gt 5, 3) := dk_163 0 5 (dk_at dksJ3_newLength_0 16 rfl rfl)
theorem dJ3_newLength_19 : decode cJ3_newLength 19 = .ok (.iload_n 3, 1) := dk_29 (dk_at dksJ3_newLength_0 19 rfl rfl)
theorem dJ3_newLength_20 : decode cJ3_newLength 20 = .ok (.ireturn, 1) := dk_172 (dk_at dksJ3_newLength_0 20 rfl rfl)
theorem dJ3_newLength_21 : decode cJ3_newLength 21 = .ok (.iload_n 0, 1) := dk_26 (dk_at dksJ3_newLength_0 21 rfl rfl)
theorem dJ3_newLength_22 : decode cJ3_newLength 22 = .ok (.iload_n 1, 1) := dk_27 (dk_at dksJ3_newLength_0 22 rfl rfl)
theorem dJ3_newLength_23 : decode cJ3_newLength 23 = .ok (.invokestatic 201, 3) := dk_184 0 201 (dk_at dksJ3_newLength_1 0 rfl rfl)
theorem dJ3_newLength_26 : decode cJ3_newLength 26 = .ok (.ireturn, 1) := dk_172 (dk_at dksJ3_newLength_1 3 rfl rfl)
abbrev cJ3_hugeLength : ByteArray := prog_63_method_28_code
def yJ3_hugeLength : MethodName := ⟨RJ3, "hugeLength", "(II)I"⟩
def dkwJ3_hugeLength_2 : List UInt8 := [191, 28, 18, 200, 163, 0, 6, 18, 200, 172, 28, 172]
abbrev dktJ3_hugeLength_2 : List UInt8 := dkwJ3_hugeLength_2 ++ []
def dkwJ3_hugeLength_1 : List UInt8 := [26, 182, 0, 98, 18, 208, 182, 0, 94, 27, 182, 0, 98, 18, 210, 182, 0, 94, 182, 0, 101, 183, 0, 212]
abbrev dktJ3_hugeLength_1 : List UInt8 := dkwJ3_hugeLength_1 ++ dktJ3_hugeLength_2
def dkwJ3_hugeLength_0 : List UInt8 := [26, 27, 96, 61, 28, 156, 0, 44, 187, 0, 204, 89, 187, 0, 89, 89, 183, 0, 91, 18, 206, 182, 0, 94]
abbrev dktJ3_hugeLength_0 : List UInt8 := dkwJ3_hugeLength_0 ++ dktJ3_hugeLength_1
theorem dksJ3_hugeLength_0 : cJ3_hugeLength.data.toList.drop 0 = dktJ3_hugeLength_0 := by decide +kernel
theorem dksJ3_hugeLength_1 : cJ3_hugeLength.data.toList.drop 24 = dktJ3_hugeLength_1 := dk_seg dksJ3_hugeLength_0 24 rfl rfl
theorem dksJ3_hugeLength_2 : cJ3_hugeLength.data.toList.drop 48 = dktJ3_hugeLength_2 := dk_seg dksJ3_hugeLength_1 24 rfl rfl
theorem dJ3_hugeLength_0 : decode cJ3_hugeLength 0 = .ok (.iload_n 0, 1) := dk_26 (dk_at dksJ3_hugeLength_0 0 rfl rfl)
theorem dJ3_hugeLength_1 : decode cJ3_hugeLength 1 = .ok (.iload_n 1, 1) := dk_27 (dk_at dksJ3_hugeLength_0 1 rfl rfl)
theorem dJ3_hugeLength_2 : decode cJ3_hugeLength 2 = .ok (.iadd, 1) := dk_96 (dk_at dksJ3_hugeLength_0 2 rfl rfl)
theorem dJ3_hugeLength_3 : decode cJ3_hugeLength 3 = .ok (.istore_n 2, 1) := dk_61 (dk_at dksJ3_hugeLength_0 3 rfl rfl)
theorem dJ3_hugeLength_4 : decode cJ3_hugeLength 4 = .ok (.iload_n 2, 1) := dk_28 (dk_at dksJ3_hugeLength_0 4 rfl rfl)
theorem dJ3_hugeLength_5 : decode cJ3_hugeLength 5 = .ok (.ifCond .ge 44, 3) := dk_156 0 44 (dk_at dksJ3_hugeLength_0 5 rfl rfl)
theorem dJ3_hugeLength_8 : decode cJ3_hugeLength 8 = .ok (.new 204, 3) := dk_187 0 204 (dk_at dksJ3_hugeLength_0 8 rfl rfl)
theorem dJ3_hugeLength_11 : decode cJ3_hugeLength 11 = .ok (.dup, 1) := dk_89 (dk_at dksJ3_hugeLength_0 11 rfl rfl)
theorem dJ3_hugeLength_12 : decode cJ3_hugeLength 12 = .ok (.new 89, 3) := dk_187 0 89 (dk_at dksJ3_hugeLength_0 12 rfl rfl)
theorem dJ3_hugeLength_15 : decode cJ3_hugeLength 15 = .ok (.dup, 1) := dk_89 (dk_at dksJ3_hugeLength_0 15 rfl rfl)
theorem dJ3_hugeLength_16 : decode cJ3_hugeLength 16 = .ok (.invokespecial 91, 3) := dk_183 0 91 (dk_at dksJ3_hugeLength_0 16 rfl rfl)
theorem dJ3_hugeLength_19 : decode cJ3_hugeLength 19 = .ok (.ldc 206, 2) := dk_18 206 (dk_at dksJ3_hugeLength_0 19 rfl rfl)
theorem dJ3_hugeLength_21 : decode cJ3_hugeLength 21 = .ok (.invokevirtual 94, 3) := dk_182 0 94 (dk_at dksJ3_hugeLength_0 21 rfl rfl)
theorem dJ3_hugeLength_24 : decode cJ3_hugeLength 24 = .ok (.iload_n 0, 1) := dk_26 (dk_at dksJ3_hugeLength_1 0 rfl rfl)
theorem dJ3_hugeLength_25 : decode cJ3_hugeLength 25 = .ok (.invokevirtual 98, 3) := dk_182 0 98 (dk_at dksJ3_hugeLength_1 1 rfl rfl)
theorem dJ3_hugeLength_28 : decode cJ3_hugeLength 28 = .ok (.ldc 208, 2) := dk_18 208 (dk_at dksJ3_hugeLength_1 4 rfl rfl)
theorem dJ3_hugeLength_30 : decode cJ3_hugeLength 30 = .ok (.invokevirtual 94, 3) := dk_182 0 94 (dk_at dksJ3_hugeLength_1 6 rfl rfl)
theorem dJ3_hugeLength_33 : decode cJ3_hugeLength 33 = .ok (.iload_n 1, 1) := dk_27 (dk_at dksJ3_hugeLength_1 9 rfl rfl)
theorem dJ3_hugeLength_34 : decode cJ3_hugeLength 34 = .ok (.invokevirtual 98, 3) := dk_182 0 98 (dk_at dksJ3_hugeLength_1 10 rfl rfl)
theorem dJ3_hugeLength_37 : decode cJ3_hugeLength 37 = .ok (.ldc 210, 2) := dk_18 210 (dk_at dksJ3_hugeLength_1 13 rfl rfl)
theorem dJ3_hugeLength_39 : decode cJ3_hugeLength 39 = .ok (.invokevirtual 94, 3) := dk_182 0 94 (dk_at dksJ3_hugeLength_1 15 rfl rfl)
theorem dJ3_hugeLength_42 : decode cJ3_hugeLength 42 = .ok (.invokevirtual 101, 3) := dk_182 0 101 (dk_at dksJ3_hugeLength_1 18 rfl rfl)
theorem dJ3_hugeLength_45 : decode cJ3_hugeLength 45 = .ok (.invokespecial 212, 3) := dk_183 0 212 (dk_at dksJ3_hugeLength_1 21 rfl rfl)
theorem dJ3_hugeLength_48 : decode cJ3_hugeLength 48 = .ok (.athrow, 1) := dk_191 (dk_at dksJ3_hugeLength_2 0 rfl rfl)
theorem dJ3_hugeLength_49 : decode cJ3_hugeLength 49 = .ok (.iload_n 2, 1) := dk_28 (dk_at dksJ3_hugeLength_2 1 rfl rfl)
theorem dJ3_hugeLength_50 : decode cJ3_hugeLength 50 = .ok (.ldc 200, 2) := dk_18 200 (dk_at dksJ3_hugeLength_2 2 rfl rfl)
theorem dJ3_hugeLength_52 : decode cJ3_hugeLength 52 = .ok (.if_icmp .gt 6, 3) := dk_163 0 6 (dk_at dksJ3_hugeLength_2 4 rfl rfl)
theorem dJ3_hugeLength_55 : decode cJ3_hugeLength 55 = .ok (.ldc 200, 2) := dk_18 200 (dk_at dksJ3_hugeLength_2 7 rfl rfl)
theorem dJ3_hugeLength_57 : decode cJ3_hugeLength 57 = .ok (.ireturn, 1) := dk_172 (dk_at dksJ3_hugeLength_2 9 rfl rfl)
theorem dJ3_hugeLength_58 : decode cJ3_hugeLength 58 = .ok (.iload_n 2, 1) := dk_28 (dk_at dksJ3_hugeLength_2 10 rfl rfl)
theorem dJ3_hugeLength_59 : decode cJ3_hugeLength 59 = .ok (.ireturn, 1) := dk_172 (dk_at dksJ3_hugeLength_2 11 rfl rfl)
abbrev cJ3_vectorizedHashCode : ByteArray := prog_63_method_4_code
def yJ3_vectorizedHashCode : MethodName := ⟨RJ3, "vectorizedHashCode", "(Ljava/lang/Object;IIII)I"⟩
def dkwJ3_vectorizedHashCode_6 : List UInt8 := [183, 0, 91, 18, 92, 182, 0, 94, 21, 4, 182, 0, 98, 182, 0, 101, 183, 0, 105, 191, 172]
abbrev dktJ3_vectorizedHashCode_6 : List UInt8 := dkwJ3_vectorizedHashCode_6 ++ []
def dkwJ3_vectorizedHashCode_5 : List UInt8 := [167, 0, 44, 29, 42, 192, 0, 82, 27, 28, 184, 0, 84, 167, 0, 31, 187, 0, 87, 89, 187, 0, 89, 89]
abbrev dktJ3_vectorizedHashCode_5 : List UInt8 := dkwJ3_vectorizedHashCode_5 ++ dktJ3_vectorizedHashCode_6
def dkwJ3_vectorizedHashCode_4 : List UInt8 := [29, 42, 192, 0, 60, 27, 28, 184, 0, 75, 167, 0, 57, 29, 42, 192, 0, 77, 27, 28, 184, 0, 79]
abbrev dktJ3_vectorizedHashCode_4 : List UInt8 := dkwJ3_vectorizedHashCode_4 ++ dktJ3_vectorizedHashCode_5
def dkwJ3_vectorizedHashCode_3 : List UInt8 := [192, 0, 60, 27, 28, 184, 0, 66, 167, 0, 83, 29, 42, 192, 0, 69, 27, 28, 184, 0, 71, 167, 0, 70]
abbrev dktJ3_vectorizedHashCode_3 : List UInt8 := dkwJ3_vectorizedHashCode_3 ++ dktJ3_vectorizedHashCode_4
def dkwJ3_vectorizedHashCode_2 : List UInt8 := [29, 42, 192, 0, 60, 27, 28, 184, 0, 62, 167, 0, 103, 42, 193, 0, 60, 153, 0, 16, 29, 42]
abbrev dktJ3_vectorizedHashCode_2 : List UInt8 := dkwJ3_vectorizedHashCode_2 ++ dktJ3_vectorizedHashCode_3
def dkwJ3_vectorizedHashCode_1 : List UInt8 := [170, 0, 0, 0, 0, 127, 0, 0, 0, 4, 0, 0, 0, 10, 0, 0, 0, 42, 0, 0, 0, 55, 0, 0, 0, 127, 0, 0, 0, 127, 0, 0, 0, 88, 0, 0, 0, 101, 0, 0, 0, 114]
abbrev dktJ3_vectorizedHashCode_1 : List UInt8 := dkwJ3_vectorizedHashCode_1 ++ dktJ3_vectorizedHashCode_2
def dkwJ3_vectorizedHashCode_0 : List UInt8 := [21, 4]
abbrev dktJ3_vectorizedHashCode_0 : List UInt8 := dkwJ3_vectorizedHashCode_0 ++ dktJ3_vectorizedHashCode_1
theorem dksJ3_vectorizedHashCode_0 : cJ3_vectorizedHashCode.data.toList.drop 0 = dktJ3_vectorizedHashCode_0 := by decide +kernel
theorem dksJ3_vectorizedHashCode_1 : cJ3_vectorizedHashCode.data.toList.drop 2 = dktJ3_vectorizedHashCode_1 := dk_seg dksJ3_vectorizedHashCode_0 2 rfl rfl
theorem dksJ3_vectorizedHashCode_2 : cJ3_vectorizedHashCode.data.toList.drop 44 = dktJ3_vectorizedHashCode_2 := dk_seg dksJ3_vectorizedHashCode_1 42 rfl rfl
theorem dksJ3_vectorizedHashCode_3 : cJ3_vectorizedHashCode.data.toList.drop 66 = dktJ3_vectorizedHashCode_3 := dk_seg dksJ3_vectorizedHashCode_2 22 rfl rfl
theorem dksJ3_vectorizedHashCode_4 : cJ3_vectorizedHashCode.data.toList.drop 90 = dktJ3_vectorizedHashCode_4 := dk_seg dksJ3_vectorizedHashCode_3 24 rfl rfl
theorem dksJ3_vectorizedHashCode_5 : cJ3_vectorizedHashCode.data.toList.drop 113 = dktJ3_vectorizedHashCode_5 := dk_seg dksJ3_vectorizedHashCode_4 23 rfl rfl
theorem dksJ3_vectorizedHashCode_6 : cJ3_vectorizedHashCode.data.toList.drop 137 = dktJ3_vectorizedHashCode_6 := dk_seg dksJ3_vectorizedHashCode_5 24 rfl rfl
theorem dJ3_vectorizedHashCode_0 : decode cJ3_vectorizedHashCode 0 = .ok (.iload 4, 2) := dk_21 4 (dk_at dksJ3_vectorizedHashCode_0 0 rfl rfl)
theorem dJ3_vectorizedHashCode_2 : decode cJ3_vectorizedHashCode 2 = .ok (.tableswitch 127 4 10 #[42, 55, 127, 127, 88, 101, 114], 42) := by decide +kernel
theorem dJ3_vectorizedHashCode_44 : decode cJ3_vectorizedHashCode 44 = .ok (.iload_n 3, 1) := dk_29 (dk_at dksJ3_vectorizedHashCode_2 0 rfl rfl)
theorem dJ3_vectorizedHashCode_45 : decode cJ3_vectorizedHashCode 45 = .ok (.aload_n 0, 1) := dk_42 (dk_at dksJ3_vectorizedHashCode_2 1 rfl rfl)
theorem dJ3_vectorizedHashCode_46 : decode cJ3_vectorizedHashCode 46 = .ok (.checkcast 60, 3) := dk_192 0 60 (dk_at dksJ3_vectorizedHashCode_2 2 rfl rfl)
theorem dJ3_vectorizedHashCode_49 : decode cJ3_vectorizedHashCode 49 = .ok (.iload_n 1, 1) := dk_27 (dk_at dksJ3_vectorizedHashCode_2 5 rfl rfl)
theorem dJ3_vectorizedHashCode_50 : decode cJ3_vectorizedHashCode 50 = .ok (.iload_n 2, 1) := dk_28 (dk_at dksJ3_vectorizedHashCode_2 6 rfl rfl)
theorem dJ3_vectorizedHashCode_51 : decode cJ3_vectorizedHashCode 51 = .ok (.invokestatic 62, 3) := dk_184 0 62 (dk_at dksJ3_vectorizedHashCode_2 7 rfl rfl)
theorem dJ3_vectorizedHashCode_54 : decode cJ3_vectorizedHashCode 54 = .ok (.goto 103, 3) := dk_167 0 103 (dk_at dksJ3_vectorizedHashCode_2 10 rfl rfl)
theorem dJ3_vectorizedHashCode_57 : decode cJ3_vectorizedHashCode 57 = .ok (.aload_n 0, 1) := dk_42 (dk_at dksJ3_vectorizedHashCode_2 13 rfl rfl)
theorem dJ3_vectorizedHashCode_58 : decode cJ3_vectorizedHashCode 58 = .ok (.instanceof 60, 3) := dk_193 0 60 (dk_at dksJ3_vectorizedHashCode_2 14 rfl rfl)
theorem dJ3_vectorizedHashCode_61 : decode cJ3_vectorizedHashCode 61 = .ok (.ifCond .eq 16, 3) := dk_153 0 16 (dk_at dksJ3_vectorizedHashCode_2 17 rfl rfl)
theorem dJ3_vectorizedHashCode_64 : decode cJ3_vectorizedHashCode 64 = .ok (.iload_n 3, 1) := dk_29 (dk_at dksJ3_vectorizedHashCode_2 20 rfl rfl)
theorem dJ3_vectorizedHashCode_65 : decode cJ3_vectorizedHashCode 65 = .ok (.aload_n 0, 1) := dk_42 (dk_at dksJ3_vectorizedHashCode_2 21 rfl rfl)
theorem dJ3_vectorizedHashCode_66 : decode cJ3_vectorizedHashCode 66 = .ok (.checkcast 60, 3) := dk_192 0 60 (dk_at dksJ3_vectorizedHashCode_3 0 rfl rfl)
theorem dJ3_vectorizedHashCode_69 : decode cJ3_vectorizedHashCode 69 = .ok (.iload_n 1, 1) := dk_27 (dk_at dksJ3_vectorizedHashCode_3 3 rfl rfl)
theorem dJ3_vectorizedHashCode_70 : decode cJ3_vectorizedHashCode 70 = .ok (.iload_n 2, 1) := dk_28 (dk_at dksJ3_vectorizedHashCode_3 4 rfl rfl)
theorem dJ3_vectorizedHashCode_71 : decode cJ3_vectorizedHashCode 71 = .ok (.invokestatic 66, 3) := dk_184 0 66 (dk_at dksJ3_vectorizedHashCode_3 5 rfl rfl)
theorem dJ3_vectorizedHashCode_74 : decode cJ3_vectorizedHashCode 74 = .ok (.goto 83, 3) := dk_167 0 83 (dk_at dksJ3_vectorizedHashCode_3 8 rfl rfl)
theorem dJ3_vectorizedHashCode_77 : decode cJ3_vectorizedHashCode 77 = .ok (.iload_n 3, 1) := dk_29 (dk_at dksJ3_vectorizedHashCode_3 11 rfl rfl)
theorem dJ3_vectorizedHashCode_78 : decode cJ3_vectorizedHashCode 78 = .ok (.aload_n 0, 1) := dk_42 (dk_at dksJ3_vectorizedHashCode_3 12 rfl rfl)
theorem dJ3_vectorizedHashCode_79 : decode cJ3_vectorizedHashCode 79 = .ok (.checkcast 69, 3) := dk_192 0 69 (dk_at dksJ3_vectorizedHashCode_3 13 rfl rfl)
theorem dJ3_vectorizedHashCode_82 : decode cJ3_vectorizedHashCode 82 = .ok (.iload_n 1, 1) := dk_27 (dk_at dksJ3_vectorizedHashCode_3 16 rfl rfl)
theorem dJ3_vectorizedHashCode_83 : decode cJ3_vectorizedHashCode 83 = .ok (.iload_n 2, 1) := dk_28 (dk_at dksJ3_vectorizedHashCode_3 17 rfl rfl)
theorem dJ3_vectorizedHashCode_84 : decode cJ3_vectorizedHashCode 84 = .ok (.invokestatic 71, 3) := dk_184 0 71 (dk_at dksJ3_vectorizedHashCode_3 18 rfl rfl)
theorem dJ3_vectorizedHashCode_87 : decode cJ3_vectorizedHashCode 87 = .ok (.goto 70, 3) := dk_167 0 70 (dk_at dksJ3_vectorizedHashCode_3 21 rfl rfl)
theorem dJ3_vectorizedHashCode_90 : decode cJ3_vectorizedHashCode 90 = .ok (.iload_n 3, 1) := dk_29 (dk_at dksJ3_vectorizedHashCode_4 0 rfl rfl)
theorem dJ3_vectorizedHashCode_91 : decode cJ3_vectorizedHashCode 91 = .ok (.aload_n 0, 1) := dk_42 (dk_at dksJ3_vectorizedHashCode_4 1 rfl rfl)
theorem dJ3_vectorizedHashCode_92 : decode cJ3_vectorizedHashCode 92 = .ok (.checkcast 60, 3) := dk_192 0 60 (dk_at dksJ3_vectorizedHashCode_4 2 rfl rfl)
theorem dJ3_vectorizedHashCode_95 : decode cJ3_vectorizedHashCode 95 = .ok (.iload_n 1, 1) := dk_27 (dk_at dksJ3_vectorizedHashCode_4 5 rfl rfl)
theorem dJ3_vectorizedHashCode_96 : decode cJ3_vectorizedHashCode 96 = .ok (.iload_n 2, 1) := dk_28 (dk_at dksJ3_vectorizedHashCode_4 6 rfl rfl)
theorem dJ3_vectorizedHashCode_97 : decode cJ3_vectorizedHashCode 97 = .ok (.invokestatic 75, 3) := dk_184 0 75 (dk_at dksJ3_vectorizedHashCode_4 7 rfl rfl)
theorem dJ3_vectorizedHashCode_100 : decode cJ3_vectorizedHashCode 100 = .ok (.goto 57, 3) := dk_167 0 57 (dk_at dksJ3_vectorizedHashCode_4 10 rfl rfl)
theorem dJ3_vectorizedHashCode_103 : decode cJ3_vectorizedHashCode 103 = .ok (.iload_n 3, 1) := dk_29 (dk_at dksJ3_vectorizedHashCode_4 13 rfl rfl)
theorem dJ3_vectorizedHashCode_104 : decode cJ3_vectorizedHashCode 104 = .ok (.aload_n 0, 1) := dk_42 (dk_at dksJ3_vectorizedHashCode_4 14 rfl rfl)
theorem dJ3_vectorizedHashCode_105 : decode cJ3_vectorizedHashCode 105 = .ok (.checkcast 77, 3) := dk_192 0 77 (dk_at dksJ3_vectorizedHashCode_4 15 rfl rfl)
theorem dJ3_vectorizedHashCode_108 : decode cJ3_vectorizedHashCode 108 = .ok (.iload_n 1, 1) := dk_27 (dk_at dksJ3_vectorizedHashCode_4 18 rfl rfl)
theorem dJ3_vectorizedHashCode_109 : decode cJ3_vectorizedHashCode 109 = .ok (.iload_n 2, 1) := dk_28 (dk_at dksJ3_vectorizedHashCode_4 19 rfl rfl)
theorem dJ3_vectorizedHashCode_110 : decode cJ3_vectorizedHashCode 110 = .ok (.invokestatic 79, 3) := dk_184 0 79 (dk_at dksJ3_vectorizedHashCode_4 20 rfl rfl)
theorem dJ3_vectorizedHashCode_113 : decode cJ3_vectorizedHashCode 113 = .ok (.goto 44, 3) := dk_167 0 44 (dk_at dksJ3_vectorizedHashCode_5 0 rfl rfl)
theorem dJ3_vectorizedHashCode_116 : decode cJ3_vectorizedHashCode 116 = .ok (.iload_n 3, 1) := dk_29 (dk_at dksJ3_vectorizedHashCode_5 3 rfl rfl)
theorem dJ3_vectorizedHashCode_117 : decode cJ3_vectorizedHashCode 117 = .ok (.aload_n 0, 1) := dk_42 (dk_at dksJ3_vectorizedHashCode_5 4 rfl rfl)
theorem dJ3_vectorizedHashCode_118 : decode cJ3_vectorizedHashCode 118 = .ok (.checkcast 82, 3) := dk_192 0 82 (dk_at dksJ3_vectorizedHashCode_5 5 rfl rfl)
theorem dJ3_vectorizedHashCode_121 : decode cJ3_vectorizedHashCode 121 = .ok (.iload_n 1, 1) := dk_27 (dk_at dksJ3_vectorizedHashCode_5 8 rfl rfl)
theorem dJ3_vectorizedHashCode_122 : decode cJ3_vectorizedHashCode 122 = .ok (.iload_n 2, 1) := dk_28 (dk_at dksJ3_vectorizedHashCode_5 9 rfl rfl)
theorem dJ3_vectorizedHashCode_123 : decode cJ3_vectorizedHashCode 123 = .ok (.invokestatic 84, 3) := dk_184 0 84 (dk_at dksJ3_vectorizedHashCode_5 10 rfl rfl)
theorem dJ3_vectorizedHashCode_126 : decode cJ3_vectorizedHashCode 126 = .ok (.goto 31, 3) := dk_167 0 31 (dk_at dksJ3_vectorizedHashCode_5 13 rfl rfl)
theorem dJ3_vectorizedHashCode_129 : decode cJ3_vectorizedHashCode 129 = .ok (.new 87, 3) := dk_187 0 87 (dk_at dksJ3_vectorizedHashCode_5 16 rfl rfl)
theorem dJ3_vectorizedHashCode_132 : decode cJ3_vectorizedHashCode 132 = .ok (.dup, 1) := dk_89 (dk_at dksJ3_vectorizedHashCode_5 19 rfl rfl)
theorem dJ3_vectorizedHashCode_133 : decode cJ3_vectorizedHashCode 133 = .ok (.new 89, 3) := dk_187 0 89 (dk_at dksJ3_vectorizedHashCode_5 20 rfl rfl)
theorem dJ3_vectorizedHashCode_136 : decode cJ3_vectorizedHashCode 136 = .ok (.dup, 1) := dk_89 (dk_at dksJ3_vectorizedHashCode_5 23 rfl rfl)
theorem dJ3_vectorizedHashCode_137 : decode cJ3_vectorizedHashCode 137 = .ok (.invokespecial 91, 3) := dk_183 0 91 (dk_at dksJ3_vectorizedHashCode_6 0 rfl rfl)
theorem dJ3_vectorizedHashCode_140 : decode cJ3_vectorizedHashCode 140 = .ok (.ldc 92, 2) := dk_18 92 (dk_at dksJ3_vectorizedHashCode_6 3 rfl rfl)
theorem dJ3_vectorizedHashCode_142 : decode cJ3_vectorizedHashCode 142 = .ok (.invokevirtual 94, 3) := dk_182 0 94 (dk_at dksJ3_vectorizedHashCode_6 5 rfl rfl)
theorem dJ3_vectorizedHashCode_145 : decode cJ3_vectorizedHashCode 145 = .ok (.iload 4, 2) := dk_21 4 (dk_at dksJ3_vectorizedHashCode_6 8 rfl rfl)
theorem dJ3_vectorizedHashCode_147 : decode cJ3_vectorizedHashCode 147 = .ok (.invokevirtual 98, 3) := dk_182 0 98 (dk_at dksJ3_vectorizedHashCode_6 10 rfl rfl)
theorem dJ3_vectorizedHashCode_150 : decode cJ3_vectorizedHashCode 150 = .ok (.invokevirtual 101, 3) := dk_182 0 101 (dk_at dksJ3_vectorizedHashCode_6 13 rfl rfl)
theorem dJ3_vectorizedHashCode_153 : decode cJ3_vectorizedHashCode 153 = .ok (.invokespecial 105, 3) := dk_183 0 105 (dk_at dksJ3_vectorizedHashCode_6 16 rfl rfl)
theorem dJ3_vectorizedHashCode_156 : decode cJ3_vectorizedHashCode 156 = .ok (.athrow, 1) := dk_191 (dk_at dksJ3_vectorizedHashCode_6 19 rfl rfl)
theorem dJ3_vectorizedHashCode_157 : decode cJ3_vectorizedHashCode 157 = .ok (.ireturn, 1) := dk_172 (dk_at dksJ3_vectorizedHashCode_6 20 rfl rfl)
abbrev cJ3_signedHashCode : ByteArray := prog_63_method_5_code
def yJ3_signedHashCode : MethodName := ⟨RJ3, "signedHashCode", "(I[BII)I"⟩
def dkwJ3_signedHashCode_1 : List UInt8 := [17, 0, 255, 126, 96, 59, 132, 5, 1, 167, 255, 232, 26, 172]
abbrev dktJ3_signedHashCode_1 : List UInt8 := dkwJ3_signedHashCode_1 ++ []
def dkwJ3_signedHashCode_0 : List UInt8 := [28, 29, 96, 54, 4, 28, 54, 5, 21, 5, 21, 4, 162, 0, 23, 16, 31, 26, 104, 43, 21, 5, 51]
abbrev dktJ3_signedHashCode_0 : List UInt8 := dkwJ3_signedHashCode_0 ++ dktJ3_signedHashCode_1
theorem dksJ3_signedHashCode_0 : cJ3_signedHashCode.data.toList.drop 0 = dktJ3_signedHashCode_0 := by decide +kernel
theorem dksJ3_signedHashCode_1 : cJ3_signedHashCode.data.toList.drop 23 = dktJ3_signedHashCode_1 := dk_seg dksJ3_signedHashCode_0 23 rfl rfl
theorem dJ3_signedHashCode_0 : decode cJ3_signedHashCode 0 = .ok (.iload_n 2, 1) := dk_28 (dk_at dksJ3_signedHashCode_0 0 rfl rfl)
theorem dJ3_signedHashCode_1 : decode cJ3_signedHashCode 1 = .ok (.iload_n 3, 1) := dk_29 (dk_at dksJ3_signedHashCode_0 1 rfl rfl)
theorem dJ3_signedHashCode_2 : decode cJ3_signedHashCode 2 = .ok (.iadd, 1) := dk_96 (dk_at dksJ3_signedHashCode_0 2 rfl rfl)
theorem dJ3_signedHashCode_3 : decode cJ3_signedHashCode 3 = .ok (.istore 4, 2) := dk_54 4 (dk_at dksJ3_signedHashCode_0 3 rfl rfl)
theorem dJ3_signedHashCode_5 : decode cJ3_signedHashCode 5 = .ok (.iload_n 2, 1) := dk_28 (dk_at dksJ3_signedHashCode_0 5 rfl rfl)
theorem dJ3_signedHashCode_6 : decode cJ3_signedHashCode 6 = .ok (.istore 5, 2) := dk_54 5 (dk_at dksJ3_signedHashCode_0 6 rfl rfl)
theorem dJ3_signedHashCode_8 : decode cJ3_signedHashCode 8 = .ok (.iload 5, 2) := dk_21 5 (dk_at dksJ3_signedHashCode_0 8 rfl rfl)
theorem dJ3_signedHashCode_10 : decode cJ3_signedHashCode 10 = .ok (.iload 4, 2) := dk_21 4 (dk_at dksJ3_signedHashCode_0 10 rfl rfl)
theorem dJ3_signedHashCode_12 : decode cJ3_signedHashCode 12 = .ok (.if_icmp .ge 23, 3) := dk_162 0 23 (dk_at dksJ3_signedHashCode_0 12 rfl rfl)
theorem dJ3_signedHashCode_15 : decode cJ3_signedHashCode 15 = .ok (.bipush 31, 2) := dk_16 31 (dk_at dksJ3_signedHashCode_0 15 rfl rfl)
theorem dJ3_signedHashCode_17 : decode cJ3_signedHashCode 17 = .ok (.iload_n 0, 1) := dk_26 (dk_at dksJ3_signedHashCode_0 17 rfl rfl)
theorem dJ3_signedHashCode_18 : decode cJ3_signedHashCode 18 = .ok (.imul, 1) := dk_104 (dk_at dksJ3_signedHashCode_0 18 rfl rfl)
theorem dJ3_signedHashCode_19 : decode cJ3_signedHashCode 19 = .ok (.aload_n 1, 1) := dk_43 (dk_at dksJ3_signedHashCode_0 19 rfl rfl)
theorem dJ3_signedHashCode_20 : decode cJ3_signedHashCode 20 = .ok (.iload 5, 2) := dk_21 5 (dk_at dksJ3_signedHashCode_0 20 rfl rfl)
theorem dJ3_signedHashCode_22 : decode cJ3_signedHashCode 22 = .ok (.baload, 1) := dk_51 (dk_at dksJ3_signedHashCode_0 22 rfl rfl)
theorem dJ3_signedHashCode_23 : decode cJ3_signedHashCode 23 = .ok (.sipush 255, 3) := dk_17 0 255 (dk_at dksJ3_signedHashCode_1 0 rfl rfl)
theorem dJ3_signedHashCode_26 : decode cJ3_signedHashCode 26 = .ok (.iand, 1) := dk_126 (dk_at dksJ3_signedHashCode_1 3 rfl rfl)
theorem dJ3_signedHashCode_27 : decode cJ3_signedHashCode 27 = .ok (.iadd, 1) := dk_96 (dk_at dksJ3_signedHashCode_1 4 rfl rfl)
theorem dJ3_signedHashCode_28 : decode cJ3_signedHashCode 28 = .ok (.istore_n 0, 1) := dk_59 (dk_at dksJ3_signedHashCode_1 5 rfl rfl)
theorem dJ3_signedHashCode_29 : decode cJ3_signedHashCode 29 = .ok (.iinc 5 1, 3) := dk_132 5 1 (dk_at dksJ3_signedHashCode_1 6 rfl rfl)
theorem dJ3_signedHashCode_32 : decode cJ3_signedHashCode 32 = .ok (.goto (-24), 3) := dk_167 255 232 (dk_at dksJ3_signedHashCode_1 9 rfl rfl)
theorem dJ3_signedHashCode_35 : decode cJ3_signedHashCode 35 = .ok (.iload_n 0, 1) := dk_26 (dk_at dksJ3_signedHashCode_1 12 rfl rfl)
theorem dJ3_signedHashCode_36 : decode cJ3_signedHashCode 36 = .ok (.ireturn, 1) := dk_172 (dk_at dksJ3_signedHashCode_1 13 rfl rfl)
abbrev cJ3_utf16hashCode : ByteArray := prog_63_method_10_code
def yJ3_utf16hashCode : MethodName := ⟨RJ3, "utf16hashCode", "(I[BII)I"⟩
def dkwJ3_utf16hashCode_1 : List UInt8 := [21, 5, 185, 0, 110, 3, 0, 96, 59, 132, 5, 1, 167, 255, 229, 26, 172]
abbrev dktJ3_utf16hashCode_1 : List UInt8 := dkwJ3_utf16hashCode_1 ++ []
def dkwJ3_utf16hashCode_0 : List UInt8 := [28, 29, 96, 54, 4, 28, 54, 5, 21, 5, 21, 4, 162, 0, 26, 16, 31, 26, 104, 178, 0, 106, 43]
abbrev dktJ3_utf16hashCode_0 : List UInt8 := dkwJ3_utf16hashCode_0 ++ dktJ3_utf16hashCode_1
theorem dksJ3_utf16hashCode_0 : cJ3_utf16hashCode.data.toList.drop 0 = dktJ3_utf16hashCode_0 := by decide +kernel
theorem dksJ3_utf16hashCode_1 : cJ3_utf16hashCode.data.toList.drop 23 = dktJ3_utf16hashCode_1 := dk_seg dksJ3_utf16hashCode_0 23 rfl rfl
theorem dJ3_utf16hashCode_0 : decode cJ3_utf16hashCode 0 = .ok (.iload_n 2, 1) := dk_28 (dk_at dksJ3_utf16hashCode_0 0 rfl rfl)
theorem dJ3_utf16hashCode_1 : decode cJ3_utf16hashCode 1 = .ok (.iload_n 3, 1) := dk_29 (dk_at dksJ3_utf16hashCode_0 1 rfl rfl)
theorem dJ3_utf16hashCode_2 : decode cJ3_utf16hashCode 2 = .ok (.iadd, 1) := dk_96 (dk_at dksJ3_utf16hashCode_0 2 rfl rfl)
theorem dJ3_utf16hashCode_3 : decode cJ3_utf16hashCode 3 = .ok (.istore 4, 2) := dk_54 4 (dk_at dksJ3_utf16hashCode_0 3 rfl rfl)
theorem dJ3_utf16hashCode_5 : decode cJ3_utf16hashCode 5 = .ok (.iload_n 2, 1) := dk_28 (dk_at dksJ3_utf16hashCode_0 5 rfl rfl)
theorem dJ3_utf16hashCode_6 : decode cJ3_utf16hashCode 6 = .ok (.istore 5, 2) := dk_54 5 (dk_at dksJ3_utf16hashCode_0 6 rfl rfl)
theorem dJ3_utf16hashCode_8 : decode cJ3_utf16hashCode 8 = .ok (.iload 5, 2) := dk_21 5 (dk_at dksJ3_utf16hashCode_0 8 rfl rfl)
theorem dJ3_utf16hashCode_10 : decode cJ3_utf16hashCode 10 = .ok (.iload 4, 2) := dk_21 4 (dk_at dksJ3_utf16hashCode_0 10 rfl rfl)
theorem dJ3_utf16hashCode_12 : decode cJ3_utf16hashCode 12 = .ok (.if_icmp .ge 26, 3) := dk_162 0 26 (dk_at dksJ3_utf16hashCode_0 12 rfl rfl)
theorem dJ3_utf16hashCode_15 : decode cJ3_utf16hashCode 15 = .ok (.bipush 31, 2) := dk_16 31 (dk_at dksJ3_utf16hashCode_0 15 rfl rfl)
theorem dJ3_utf16hashCode_17 : decode cJ3_utf16hashCode 17 = .ok (.iload_n 0, 1) := dk_26 (dk_at dksJ3_utf16hashCode_0 17 rfl rfl)
theorem dJ3_utf16hashCode_18 : decode cJ3_utf16hashCode 18 = .ok (.imul, 1) := dk_104 (dk_at dksJ3_utf16hashCode_0 18 rfl rfl)
theorem dJ3_utf16hashCode_19 : decode cJ3_utf16hashCode 19 = .ok (.getstatic 106, 3) := dk_178 0 106 (dk_at dksJ3_utf16hashCode_0 19 rfl rfl)
theorem dJ3_utf16hashCode_22 : decode cJ3_utf16hashCode 22 = .ok (.aload_n 1, 1) := dk_43 (dk_at dksJ3_utf16hashCode_0 22 rfl rfl)
theorem dJ3_utf16hashCode_23 : decode cJ3_utf16hashCode 23 = .ok (.iload 5, 2) := dk_21 5 (dk_at dksJ3_utf16hashCode_1 0 rfl rfl)
theorem dJ3_utf16hashCode_25 : decode cJ3_utf16hashCode 25 = .ok (.invokeinterface 110 3, 5) := by decide +kernel
theorem dJ3_utf16hashCode_30 : decode cJ3_utf16hashCode 30 = .ok (.iadd, 1) := dk_96 (dk_at dksJ3_utf16hashCode_1 7 rfl rfl)
theorem dJ3_utf16hashCode_31 : decode cJ3_utf16hashCode 31 = .ok (.istore_n 0, 1) := dk_59 (dk_at dksJ3_utf16hashCode_1 8 rfl rfl)
theorem dJ3_utf16hashCode_32 : decode cJ3_utf16hashCode 32 = .ok (.iinc 5 1, 3) := dk_132 5 1 (dk_at dksJ3_utf16hashCode_1 9 rfl rfl)
theorem dJ3_utf16hashCode_35 : decode cJ3_utf16hashCode 35 = .ok (.goto (-27), 3) := dk_167 255 229 (dk_at dksJ3_utf16hashCode_1 12 rfl rfl)
theorem dJ3_utf16hashCode_38 : decode cJ3_utf16hashCode 38 = .ok (.iload_n 0, 1) := dk_26 (dk_at dksJ3_utf16hashCode_1 15 rfl rfl)
theorem dJ3_utf16hashCode_39 : decode cJ3_utf16hashCode 39 = .ok (.ireturn, 1) := dk_172 (dk_at dksJ3_utf16hashCode_1 16 rfl rfl)
abbrev cJ3_hashCode : ByteArray := prog_63_method_7_code
def yJ3_hashCode : MethodName := ⟨RJ3, "hashCode", "(I[CII)I"⟩
def dkwJ3_hashCode_1 : List UInt8 := [59, 132, 5, 1, 167, 255, 236, 26, 172]
abbrev dktJ3_hashCode_1 : List UInt8 := dkwJ3_hashCode_1 ++ []
def dkwJ3_hashCode_0 : List UInt8 := [28, 29, 96, 54, 4, 28, 54, 5, 21, 5, 21, 4, 162, 0, 19, 16, 31, 26, 104, 43, 21, 5, 52, 96]
abbrev dktJ3_hashCode_0 : List UInt8 := dkwJ3_hashCode_0 ++ dktJ3_hashCode_1
theorem dksJ3_hashCode_0 : cJ3_hashCode.data.toList.drop 0 = dktJ3_hashCode_0 := by decide +kernel
theorem dksJ3_hashCode_1 : cJ3_hashCode.data.toList.drop 24 = dktJ3_hashCode_1 := dk_seg dksJ3_hashCode_0 24 rfl rfl
theorem dJ3_hashCode_0 : decode cJ3_hashCode 0 = .ok (.iload_n 2, 1) := dk_28 (dk_at dksJ3_hashCode_0 0 rfl rfl)
theorem dJ3_hashCode_1 : decode cJ3_hashCode 1 = .ok (.iload_n 3, 1) := dk_29 (dk_at dksJ3_hashCode_0 1 rfl rfl)
theorem dJ3_hashCode_2 : decode cJ3_hashCode 2 = .ok (.iadd, 1) := dk_96 (dk_at dksJ3_hashCode_0 2 rfl rfl)
theorem dJ3_hashCode_3 : decode cJ3_hashCode 3 = .ok (.istore 4, 2) := dk_54 4 (dk_at dksJ3_hashCode_0 3 rfl rfl)
theorem dJ3_hashCode_5 : decode cJ3_hashCode 5 = .ok (.iload_n 2, 1) := dk_28 (dk_at dksJ3_hashCode_0 5 rfl rfl)
theorem dJ3_hashCode_6 : decode cJ3_hashCode 6 = .ok (.istore 5, 2) := dk_54 5 (dk_at dksJ3_hashCode_0 6 rfl rfl)
theorem dJ3_hashCode_8 : decode cJ3_hashCode 8 = .ok (.iload 5, 2) := dk_21 5 (dk_at dksJ3_hashCode_0 8 rfl rfl)
theorem dJ3_hashCode_10 : decode cJ3_hashCode 10 = .ok (.iload 4, 2) := dk_21 4 (dk_at dksJ3_hashCode_0 10 rfl rfl)
theorem dJ3_hashCode_12 : decode cJ3_hashCode 12 = .ok (.if_icmp .ge 19, 3) := dk_162 0 19 (dk_at dksJ3_hashCode_0 12 rfl rfl)
theorem dJ3_hashCode_15 : decode cJ3_hashCode 15 = .ok (.bipush 31, 2) := dk_16 31 (dk_at dksJ3_hashCode_0 15 rfl rfl)
theorem dJ3_hashCode_17 : decode cJ3_hashCode 17 = .ok (.iload_n 0, 1) := dk_26 (dk_at dksJ3_hashCode_0 17 rfl rfl)
theorem dJ3_hashCode_18 : decode cJ3_hashCode 18 = .ok (.imul, 1) := dk_104 (dk_at dksJ3_hashCode_0 18 rfl rfl)
theorem dJ3_hashCode_19 : decode cJ3_hashCode 19 = .ok (.aload_n 1, 1) := dk_43 (dk_at dksJ3_hashCode_0 19 rfl rfl)
theorem dJ3_hashCode_20 : decode cJ3_hashCode 20 = .ok (.iload 5, 2) := dk_21 5 (dk_at dksJ3_hashCode_0 20 rfl rfl)
theorem dJ3_hashCode_22 : decode cJ3_hashCode 22 = .ok (.caload, 1) := dk_52 (dk_at dksJ3_hashCode_0 22 rfl rfl)
theorem dJ3_hashCode_23 : decode cJ3_hashCode 23 = .ok (.iadd, 1) := dk_96 (dk_at dksJ3_hashCode_0 23 rfl rfl)
theorem dJ3_hashCode_24 : decode cJ3_hashCode 24 = .ok (.istore_n 0, 1) := dk_59 (dk_at dksJ3_hashCode_1 0 rfl rfl)
theorem dJ3_hashCode_25 : decode cJ3_hashCode 25 = .ok (.iinc 5 1, 3) := dk_132 5 1 (dk_at dksJ3_hashCode_1 1 rfl rfl)
theorem dJ3_hashCode_28 : decode cJ3_hashCode 28 = .ok (.goto (-20), 3) := dk_167 255 236 (dk_at dksJ3_hashCode_1 4 rfl rfl)
theorem dJ3_hashCode_31 : decode cJ3_hashCode 31 = .ok (.iload_n 0, 1) := dk_26 (dk_at dksJ3_hashCode_1 7 rfl rfl)
theorem dJ3_hashCode_32 : decode cJ3_hashCode 32 = .ok (.ireturn, 1) := dk_172 (dk_at dksJ3_hashCode_1 8 rfl rfl)
abbrev cJ3_hashCode_2 : ByteArray := prog_63_method_6_code
def yJ3_hashCode_2 : MethodName := ⟨RJ3, "hashCode", "(I[BII)I"⟩
def dkwJ3_hashCode_2_1 : List UInt8 := [59, 132, 5, 1, 167, 255, 236, 26, 172]
abbrev dktJ3_hashCode_2_1 : List UInt8 := dkwJ3_hashCode_2_1 ++ []
def dkwJ3_hashCode_2_0 : List UInt8 := [28, 29, 96, 54, 4, 28, 54, 5, 21, 5, 21, 4, 162, 0, 19, 16, 31, 26, 104, 43, 21, 5, 51, 96]
abbrev dktJ3_hashCode_2_0 : List UInt8 := dkwJ3_hashCode_2_0 ++ dktJ3_hashCode_2_1
theorem dksJ3_hashCode_2_0 : cJ3_hashCode_2.data.toList.drop 0 = dktJ3_hashCode_2_0 := by decide +kernel
theorem dksJ3_hashCode_2_1 : cJ3_hashCode_2.data.toList.drop 24 = dktJ3_hashCode_2_1 := dk_seg dksJ3_hashCode_2_0 24 rfl rfl
theorem dJ3_hashCode_2_0 : decode cJ3_hashCode_2 0 = .ok (.iload_n 2, 1) := dk_28 (dk_at dksJ3_hashCode_2_0 0 rfl rfl)
theorem dJ3_hashCode_2_1 : decode cJ3_hashCode_2 1 = .ok (.iload_n 3, 1) := dk_29 (dk_at dksJ3_hashCode_2_0 1 rfl rfl)
theorem dJ3_hashCode_2_2 : decode cJ3_hashCode_2 2 = .ok (.iadd, 1) := dk_96 (dk_at dksJ3_hashCode_2_0 2 rfl rfl)
theorem dJ3_hashCode_2_3 : decode cJ3_hashCode_2 3 = .ok (.istore 4, 2) := dk_54 4 (dk_at dksJ3_hashCode_2_0 3 rfl rfl)
theorem dJ3_hashCode_2_5 : decode cJ3_hashCode_2 5 = .ok (.iload_n 2, 1) := dk_28 (dk_at dksJ3_hashCode_2_0 5 rfl rfl)
theorem dJ3_hashCode_2_6 : decode cJ3_hashCode_2 6 = .ok (.istore 5, 2) := dk_54 5 (dk_at dksJ3_hashCode_2_0 6 rfl rfl)
theorem dJ3_hashCode_2_8 : decode cJ3_hashCode_2 8 = .ok (.iload 5, 2) := dk_21 5 (dk_at dksJ3_hashCode_2_0 8 rfl rfl)
theorem dJ3_hashCode_2_10 : decode cJ3_hashCode_2 10 = .ok (.iload 4, 2) := dk_21 4 (dk_at dksJ3_hashCode_2_0 10 rfl rfl)
theorem dJ3_hashCode_2_12 : decode cJ3_hashCode_2 12 = .ok (.if_icmp .ge 19, 3) := dk_162 0 19 (dk_at dksJ3_hashCode_2_0 12 rfl rfl)
theorem dJ3_hashCode_2_15 : decode cJ3_hashCode_2 15 = .ok (.bipush 31, 2) := dk_16 31 (dk_at dksJ3_hashCode_2_0 15 rfl rfl)
theorem dJ3_hashCode_2_17 : decode cJ3_hashCode_2 17 = .ok (.iload_n 0, 1) := dk_26 (dk_at dksJ3_hashCode_2_0 17 rfl rfl)
theorem dJ3_hashCode_2_18 : decode cJ3_hashCode_2 18 = .ok (.imul, 1) := dk_104 (dk_at dksJ3_hashCode_2_0 18 rfl rfl)
theorem dJ3_hashCode_2_19 : decode cJ3_hashCode_2 19 = .ok (.aload_n 1, 1) := dk_43 (dk_at dksJ3_hashCode_2_0 19 rfl rfl)
theorem dJ3_hashCode_2_20 : decode cJ3_hashCode_2 20 = .ok (.iload 5, 2) := dk_21 5 (dk_at dksJ3_hashCode_2_0 20 rfl rfl)
theorem dJ3_hashCode_2_22 : decode cJ3_hashCode_2 22 = .ok (.baload, 1) := dk_51 (dk_at dksJ3_hashCode_2_0 22 rfl rfl)
theorem dJ3_hashCode_2_23 : decode cJ3_hashCode_2 23 = .ok (.iadd, 1) := dk_96 (dk_at dksJ3_hashCode_2_0 23 rfl rfl)
theorem dJ3_hashCode_2_24 : decode cJ3_hashCode_2 24 = .ok (.istore_n 0, 1) := dk_59 (dk_at dksJ3_hashCode_2_1 0 rfl rfl)
theorem dJ3_hashCode_2_25 : decode cJ3_hashCode_2 25 = .ok (.iinc 5 1, 3) := dk_132 5 1 (dk_at dksJ3_hashCode_2_1 1 rfl rfl)
theorem dJ3_hashCode_2_28 : decode cJ3_hashCode_2 28 = .ok (.goto (-20), 3) := dk_167 255 236 (dk_at dksJ3_hashCode_2_1 4 rfl rfl)
theorem dJ3_hashCode_2_31 : decode cJ3_hashCode_2 31 = .ok (.iload_n 0, 1) := dk_26 (dk_at dksJ3_hashCode_2_1 7 rfl rfl)
theorem dJ3_hashCode_2_32 : decode cJ3_hashCode_2 32 = .ok (.ireturn, 1) := dk_172 (dk_at dksJ3_hashCode_2_1 8 rfl rfl)
abbrev cJ3_hashCode_3 : ByteArray := prog_63_method_8_code
def yJ3_hashCode_3 : MethodName := ⟨RJ3, "hashCode", "(I[SII)I"⟩
def dkwJ3_hashCode_3_1 : List UInt8 := [59, 132, 5, 1, 167, 255, 236, 26, 172]
abbrev dktJ3_hashCode_3_1 : List UInt8 := dkwJ3_hashCode_3_1 ++ []
def dkwJ3_hashCode_3_0 : List UInt8 := [28, 29, 96, 54, 4, 28, 54, 5, 21, 5, 21, 4, 162, 0, 19, 16, 31, 26, 104, 43, 21, 5, 53, 96]
abbrev dktJ3_hashCode_3_0 : List UInt8 := dkwJ3_hashCode_3_0 ++ dktJ3_hashCode_3_1
theorem dksJ3_hashCode_3_0 : cJ3_hashCode_3.data.toList.drop 0 = dktJ3_hashCode_3_0 := by decide +kernel
theorem dksJ3_hashCode_3_1 : cJ3_hashCode_3.data.toList.drop 24 = dktJ3_hashCode_3_1 := dk_seg dksJ3_hashCode_3_0 24 rfl rfl
theorem dJ3_hashCode_3_0 : decode cJ3_hashCode_3 0 = .ok (.iload_n 2, 1) := dk_28 (dk_at dksJ3_hashCode_3_0 0 rfl rfl)
theorem dJ3_hashCode_3_1 : decode cJ3_hashCode_3 1 = .ok (.iload_n 3, 1) := dk_29 (dk_at dksJ3_hashCode_3_0 1 rfl rfl)
theorem dJ3_hashCode_3_2 : decode cJ3_hashCode_3 2 = .ok (.iadd, 1) := dk_96 (dk_at dksJ3_hashCode_3_0 2 rfl rfl)
theorem dJ3_hashCode_3_3 : decode cJ3_hashCode_3 3 = .ok (.istore 4, 2) := dk_54 4 (dk_at dksJ3_hashCode_3_0 3 rfl rfl)
theorem dJ3_hashCode_3_5 : decode cJ3_hashCode_3 5 = .ok (.iload_n 2, 1) := dk_28 (dk_at dksJ3_hashCode_3_0 5 rfl rfl)
theorem dJ3_hashCode_3_6 : decode cJ3_hashCode_3 6 = .ok (.istore 5, 2) := dk_54 5 (dk_at dksJ3_hashCode_3_0 6 rfl rfl)
theorem dJ3_hashCode_3_8 : decode cJ3_hashCode_3 8 = .ok (.iload 5, 2) := dk_21 5 (dk_at dksJ3_hashCode_3_0 8 rfl rfl)
theorem dJ3_hashCode_3_10 : decode cJ3_hashCode_3 10 = .ok (.iload 4, 2) := dk_21 4 (dk_at dksJ3_hashCode_3_0 10 rfl rfl)
theorem dJ3_hashCode_3_12 : decode cJ3_hashCode_3 12 = .ok (.if_icmp .ge 19, 3) := dk_162 0 19 (dk_at dksJ3_hashCode_3_0 12 rfl rfl)
theorem dJ3_hashCode_3_15 : decode cJ3_hashCode_3 15 = .ok (.bipush 31, 2) := dk_16 31 (dk_at dksJ3_hashCode_3_0 15 rfl rfl)
theorem dJ3_hashCode_3_17 : decode cJ3_hashCode_3 17 = .ok (.iload_n 0, 1) := dk_26 (dk_at dksJ3_hashCode_3_0 17 rfl rfl)
theorem dJ3_hashCode_3_18 : decode cJ3_hashCode_3 18 = .ok (.imul, 1) := dk_104 (dk_at dksJ3_hashCode_3_0 18 rfl rfl)
theorem dJ3_hashCode_3_19 : decode cJ3_hashCode_3 19 = .ok (.aload_n 1, 1) := dk_43 (dk_at dksJ3_hashCode_3_0 19 rfl rfl)
theorem dJ3_hashCode_3_20 : decode cJ3_hashCode_3 20 = .ok (.iload 5, 2) := dk_21 5 (dk_at dksJ3_hashCode_3_0 20 rfl rfl)
theorem dJ3_hashCode_3_22 : decode cJ3_hashCode_3 22 = .ok (.saload, 1) := dk_53 (dk_at dksJ3_hashCode_3_0 22 rfl rfl)
theorem dJ3_hashCode_3_23 : decode cJ3_hashCode_3 23 = .ok (.iadd, 1) := dk_96 (dk_at dksJ3_hashCode_3_0 23 rfl rfl)
theorem dJ3_hashCode_3_24 : decode cJ3_hashCode_3 24 = .ok (.istore_n 0, 1) := dk_59 (dk_at dksJ3_hashCode_3_1 0 rfl rfl)
theorem dJ3_hashCode_3_25 : decode cJ3_hashCode_3 25 = .ok (.iinc 5 1, 3) := dk_132 5 1 (dk_at dksJ3_hashCode_3_1 1 rfl rfl)
theorem dJ3_hashCode_3_28 : decode cJ3_hashCode_3 28 = .ok (.goto (-20), 3) := dk_167 255 236 (dk_at dksJ3_hashCode_3_1 4 rfl rfl)
theorem dJ3_hashCode_3_31 : decode cJ3_hashCode_3 31 = .ok (.iload_n 0, 1) := dk_26 (dk_at dksJ3_hashCode_3_1 7 rfl rfl)
theorem dJ3_hashCode_3_32 : decode cJ3_hashCode_3 32 = .ok (.ireturn, 1) := dk_172 (dk_at dksJ3_hashCode_3_1 8 rfl rfl)
abbrev cJ3_hashCode_4 : ByteArray := prog_63_method_9_code
def yJ3_hashCode_4 : MethodName := ⟨RJ3, "hashCode", "(I[III)I"⟩
def dkwJ3_hashCode_4_1 : List UInt8 := [59, 132, 5, 1, 167, 255, 236, 26, 172]
abbrev dktJ3_hashCode_4_1 : List UInt8 := dkwJ3_hashCode_4_1 ++ []
def dkwJ3_hashCode_4_0 : List UInt8 := [28, 29, 96, 54, 4, 28, 54, 5, 21, 5, 21, 4, 162, 0, 19, 16, 31, 26, 104, 43, 21, 5, 46, 96]
abbrev dktJ3_hashCode_4_0 : List UInt8 := dkwJ3_hashCode_4_0 ++ dktJ3_hashCode_4_1
theorem dksJ3_hashCode_4_0 : cJ3_hashCode_4.data.toList.drop 0 = dktJ3_hashCode_4_0 := by decide +kernel
theorem dksJ3_hashCode_4_1 : cJ3_hashCode_4.data.toList.drop 24 = dktJ3_hashCode_4_1 := dk_seg dksJ3_hashCode_4_0 24 rfl rfl
theorem dJ3_hashCode_4_0 : decode cJ3_hashCode_4 0 = .ok (.iload_n 2, 1) := dk_28 (dk_at dksJ3_hashCode_4_0 0 rfl rfl)
theorem dJ3_hashCode_4_1 : decode cJ3_hashCode_4 1 = .ok (.iload_n 3, 1) := dk_29 (dk_at dksJ3_hashCode_4_0 1 rfl rfl)
theorem dJ3_hashCode_4_2 : decode cJ3_hashCode_4 2 = .ok (.iadd, 1) := dk_96 (dk_at dksJ3_hashCode_4_0 2 rfl rfl)
theorem dJ3_hashCode_4_3 : decode cJ3_hashCode_4 3 = .ok (.istore 4, 2) := dk_54 4 (dk_at dksJ3_hashCode_4_0 3 rfl rfl)
theorem dJ3_hashCode_4_5 : decode cJ3_hashCode_4 5 = .ok (.iload_n 2, 1) := dk_28 (dk_at dksJ3_hashCode_4_0 5 rfl rfl)
theorem dJ3_hashCode_4_6 : decode cJ3_hashCode_4 6 = .ok (.istore 5, 2) := dk_54 5 (dk_at dksJ3_hashCode_4_0 6 rfl rfl)
theorem dJ3_hashCode_4_8 : decode cJ3_hashCode_4 8 = .ok (.iload 5, 2) := dk_21 5 (dk_at dksJ3_hashCode_4_0 8 rfl rfl)
theorem dJ3_hashCode_4_10 : decode cJ3_hashCode_4 10 = .ok (.iload 4, 2) := dk_21 4 (dk_at dksJ3_hashCode_4_0 10 rfl rfl)
theorem dJ3_hashCode_4_12 : decode cJ3_hashCode_4 12 = .ok (.if_icmp .ge 19, 3) := dk_162 0 19 (dk_at dksJ3_hashCode_4_0 12 rfl rfl)
theorem dJ3_hashCode_4_15 : decode cJ3_hashCode_4 15 = .ok (.bipush 31, 2) := dk_16 31 (dk_at dksJ3_hashCode_4_0 15 rfl rfl)
theorem dJ3_hashCode_4_17 : decode cJ3_hashCode_4 17 = .ok (.iload_n 0, 1) := dk_26 (dk_at dksJ3_hashCode_4_0 17 rfl rfl)
theorem dJ3_hashCode_4_18 : decode cJ3_hashCode_4 18 = .ok (.imul, 1) := dk_104 (dk_at dksJ3_hashCode_4_0 18 rfl rfl)
theorem dJ3_hashCode_4_19 : decode cJ3_hashCode_4 19 = .ok (.aload_n 1, 1) := dk_43 (dk_at dksJ3_hashCode_4_0 19 rfl rfl)
theorem dJ3_hashCode_4_20 : decode cJ3_hashCode_4 20 = .ok (.iload 5, 2) := dk_21 5 (dk_at dksJ3_hashCode_4_0 20 rfl rfl)
theorem dJ3_hashCode_4_22 : decode cJ3_hashCode_4 22 = .ok (.iaload, 1) := dk_46 (dk_at dksJ3_hashCode_4_0 22 rfl rfl)
theorem dJ3_hashCode_4_23 : decode cJ3_hashCode_4 23 = .ok (.iadd, 1) := dk_96 (dk_at dksJ3_hashCode_4_0 23 rfl rfl)
theorem dJ3_hashCode_4_24 : decode cJ3_hashCode_4 24 = .ok (.istore_n 0, 1) := dk_59 (dk_at dksJ3_hashCode_4_1 0 rfl rfl)
theorem dJ3_hashCode_4_25 : decode cJ3_hashCode_4 25 = .ok (.iinc 5 1, 3) := dk_132 5 1 (dk_at dksJ3_hashCode_4_1 1 rfl rfl)
theorem dJ3_hashCode_4_28 : decode cJ3_hashCode_4 28 = .ok (.goto (-20), 3) := dk_167 255 236 (dk_at dksJ3_hashCode_4_1 4 rfl rfl)
theorem dJ3_hashCode_4_31 : decode cJ3_hashCode_4 31 = .ok (.iload_n 0, 1) := dk_26 (dk_at dksJ3_hashCode_4_1 7 rfl rfl)
theorem dJ3_hashCode_4_32 : decode cJ3_hashCode_4 32 = .ok (.ireturn, 1) := dk_172 (dk_at dksJ3_hashCode_4_1 8 rfl rfl)
theorem q134 : (Jvm.Cond.initialized "jdk/internal/util/ArraysSupport") ∈ lw_all := lw_g (lw_at lw_m1 10 rfl) rfl
theorem q411 : (Jvm.Cond.static ({ cls := "jdk/internal/util/ArraysSupport", name := "newLength", desc := "(III)I" } : Jvm.MethodName)) ∈ lw_all := lw_g (lw_at lw_m2 47 rfl) rfl
theorem q412 : (Jvm.Cond.code ({ cls := "jdk/internal/util/ArraysSupport", name := "newLength", desc := "(III)I" } : Jvm.MethodName) prog_63_method_27_code (4 : Nat) (Option.some Jvm.ClassFile.FieldType.int)) ∈ lw_all := lw_g (lw_at lw_m2 48 rfl) rfl
theorem q413 : (Jvm.Cond.methodLink "jdk/internal/util/ArraysSupport" (194 : Nat) ({ cls := "java/lang/Math", name := "max", desc := "(II)I" } : Jvm.MethodName)) ∈ lw_all := lw_g (lw_at lw_m2 49 rfl) rfl
theorem q416 : (Jvm.Cond.constant "jdk/internal/util/ArraysSupport" (200 : Nat) (2147483639 : Int32)) ∈ lw_all := lw_g (lw_at lw_m2 52 rfl) rfl
theorem q417 : (Jvm.Cond.methodLink "jdk/internal/util/ArraysSupport" (201 : Nat) ({ cls := "jdk/internal/util/ArraysSupport", name := "hugeLength", desc := "(II)I" } : Jvm.MethodName)) ∈ lw_all := lw_g (lw_at lw_m2 53 rfl) rfl
theorem q418 : (Jvm.Cond.static ({ cls := "jdk/internal/util/ArraysSupport", name := "hugeLength", desc := "(II)I" } : Jvm.MethodName)) ∈ lw_all := lw_g (lw_at lw_m2 54 rfl) rfl
theorem q419 : (Jvm.Cond.code ({ cls := "jdk/internal/util/ArraysSupport", name := "hugeLength", desc := "(II)I" } : Jvm.MethodName) prog_63_method_28_code (3 : Nat) (Option.some Jvm.ClassFile.FieldType.int)) ∈ lw_all := lw_g (lw_at lw_m2 55 rfl) rfl
theorem q1450 : (Jvm.Cond.static ({ cls := "jdk/internal/util/ArraysSupport", name := "vectorizedHashCode", desc := "(Ljava/lang/Object;IIII)I" } : Jvm.MethodName)) ∈ lw_all := lw_g (lw_at lw_m6 126 rfl) rfl
theorem q1451 : (Jvm.Cond.code ({ cls := "jdk/internal/util/ArraysSupport", name := "vectorizedHashCode", desc := "(Ljava/lang/Object;IIII)I" } : Jvm.MethodName) prog_63_method_4_code (5 : Nat) (Option.some Jvm.ClassFile.FieldType.int)) ∈ lw_all := lw_g (lw_at lw_m6 127 rfl) rfl
theorem q1452 : (Jvm.Cond.classLink "jdk/internal/util/ArraysSupport" (60 : Nat) "[B") ∈ lw_all := lw_g (lw_at lw_m6 128 rfl) rfl
theorem q1453 : (Jvm.Cond.methodLink "jdk/internal/util/ArraysSupport" (62 : Nat) ({ cls := "jdk/internal/util/ArraysSupport", name := "signedHashCode", desc := "(I[BII)I" } : Jvm.MethodName)) ∈ lw_all := lw_g (lw_at lw_m6 129 rfl) rfl
theorem q1454 : (Jvm.Cond.static ({ cls := "jdk/internal/util/ArraysSupport", name := "signedHashCode", desc := "(I[BII)I" } : Jvm.MethodName)) ∈ lw_all := lw_g (lw_at lw_m6 130 rfl) rfl
theorem q1455 : (Jvm.Cond.code ({ cls := "jdk/internal/util/ArraysSupport", name := "signedHashCode", desc := "(I[BII)I" } : Jvm.MethodName) prog_63_method_5_code (6 : Nat) (Option.some Jvm.ClassFile.FieldType.int)) ∈ lw_all := lw_g (lw_at lw_m6 131 rfl) rfl
theorem q1456 : (Jvm.Cond.methodLink "jdk/internal/util/ArraysSupport" (66 : Nat) ({ cls := "jdk/internal/util/ArraysSupport", name := "utf16hashCode", desc := "(I[BII)I" } : Jvm.MethodName)) ∈ lw_all := lw_g (lw_at lw_m6 132 rfl) rfl
theorem q1457 : (Jvm.Cond.static ({ cls := "jdk/internal/util/ArraysSupport", name := "utf16hashCode", desc := "(I[BII)I" } : Jvm.MethodName)) ∈ lw_all := lw_g (lw_at lw_m6 133 rfl) rfl
theorem q1458 : (Jvm.Cond.code ({ cls := "jdk/internal/util/ArraysSupport", name := "utf16hashCode", desc := "(I[BII)I" } : Jvm.MethodName) prog_63_method_10_code (6 : Nat) (Option.some Jvm.ClassFile.FieldType.int)) ∈ lw_all := lw_g (lw_at lw_m6 134 rfl) rfl
theorem q1459 : (Jvm.Cond.fieldLink "jdk/internal/util/ArraysSupport" (106 : Nat) "jdk/internal/util/ArraysSupport" "JLA" "Ljdk/internal/access/JavaLangAccess;") ∈ lw_all := lw_g (lw_at lw_m6 135 rfl) rfl
theorem q1460 : (Jvm.Cond.laysStatic "jdk/internal/util/ArraysSupport" "JLA" "Ljdk/internal/access/JavaLangAccess;") ∈ lw_tbl := lw_at lw_m6 136 rfl
theorem q1461 : (Jvm.Cond.interfaceEntry "jdk/internal/util/ArraysSupport" (110 : Nat)) ∈ lw_tbl := lw_at lw_m6 137 rfl
theorem q1462 : (Jvm.Cond.methodLink "jdk/internal/util/ArraysSupport" (110 : Nat) ({ cls := "jdk/internal/access/JavaLangAccess", name := "getUTF16Char", desc := "([BI)C" } : Jvm.MethodName)) ∈ lw_all := lw_g (lw_at lw_m6 138 rfl) rfl
theorem q1472 : (Jvm.Cond.classLink "jdk/internal/util/ArraysSupport" (69 : Nat) "[C") ∈ lw_all := lw_g (lw_at lw_m6 148 rfl) rfl
theorem q1473 : (Jvm.Cond.methodLink "jdk/internal/util/ArraysSupport" (71 : Nat) ({ cls := "jdk/internal/util/ArraysSupport", name := "hashCode", desc := "(I[CII)I" } : Jvm.MethodName)) ∈ lw_all := lw_g (lw_at lw_m6 149 rfl) rfl
theorem q1474 : (Jvm.Cond.static ({ cls := "jdk/internal/util/ArraysSupport", name := "hashCode", desc := "(I[CII)I" } : Jvm.MethodName)) ∈ lw_all := lw_g (lw_at lw_m6 150 rfl) rfl
theorem q1475 : (Jvm.Cond.code ({ cls := "jdk/internal/util/ArraysSupport", name := "hashCode", desc := "(I[CII)I" } : Jvm.MethodName) prog_63_method_7_code (6 : Nat) (Option.some Jvm.ClassFile.FieldType.int)) ∈ lw_all := lw_g (lw_at lw_m6 151 rfl) rfl
theorem q1476 : (Jvm.Cond.methodLink "jdk/internal/util/ArraysSupport" (75 : Nat) ({ cls := "jdk/internal/util/ArraysSupport", name := "hashCode", desc := "(I[BII)I" } : Jvm.MethodName)) ∈ lw_all := lw_g (lw_at lw_m6 152 rfl) rfl
theorem q1477 : (Jvm.Cond.static ({ cls := "jdk/internal/util/ArraysSupport", name := "hashCode", desc := "(I[BII)I" } : Jvm.MethodName)) ∈ lw_all := lw_g (lw_at lw_m6 153 rfl) rfl
theorem q1478 : (Jvm.Cond.code ({ cls := "jdk/internal/util/ArraysSupport", name := "hashCode", desc := "(I[BII)I" } : Jvm.MethodName) prog_63_method_6_code (6 : Nat) (Option.some Jvm.ClassFile.FieldType.int)) ∈ lw_all := lw_g (lw_at lw_m6 154 rfl) rfl
theorem q1479 : (Jvm.Cond.classLink "jdk/internal/util/ArraysSupport" (77 : Nat) "[S") ∈ lw_all := lw_g (lw_at lw_m6 155 rfl) rfl
theorem q1480 : (Jvm.Cond.methodLink "jdk/internal/util/ArraysSupport" (79 : Nat) ({ cls := "jdk/internal/util/ArraysSupport", name := "hashCode", desc := "(I[SII)I" } : Jvm.MethodName)) ∈ lw_all := lw_g (lw_at lw_m6 156 rfl) rfl
theorem q1481 : (Jvm.Cond.static ({ cls := "jdk/internal/util/ArraysSupport", name := "hashCode", desc := "(I[SII)I" } : Jvm.MethodName)) ∈ lw_all := lw_g (lw_at lw_m6 157 rfl) rfl
theorem q1482 : (Jvm.Cond.code ({ cls := "jdk/internal/util/ArraysSupport", name := "hashCode", desc := "(I[SII)I" } : Jvm.MethodName) prog_63_method_8_code (6 : Nat) (Option.some Jvm.ClassFile.FieldType.int)) ∈ lw_all := lw_g (lw_at lw_m6 158 rfl) rfl
theorem q1483 : (Jvm.Cond.classLink "jdk/internal/util/ArraysSupport" (82 : Nat) "[I") ∈ lw_all := lw_g (lw_at lw_m6 159 rfl) rfl
theorem q1484 : (Jvm.Cond.methodLink "jdk/internal/util/ArraysSupport" (84 : Nat) ({ cls := "jdk/internal/util/ArraysSupport", name := "hashCode", desc := "(I[III)I" } : Jvm.MethodName)) ∈ lw_all := lw_g (lw_at lw_m6 160 rfl) rfl
theorem q1485 : (Jvm.Cond.static ({ cls := "jdk/internal/util/ArraysSupport", name := "hashCode", desc := "(I[III)I" } : Jvm.MethodName)) ∈ lw_all := lw_g (lw_at lw_m6 161 rfl) rfl
theorem q1486 : (Jvm.Cond.code ({ cls := "jdk/internal/util/ArraysSupport", name := "hashCode", desc := "(I[III)I" } : Jvm.MethodName) prog_63_method_9_code (6 : Nat) (Option.some Jvm.ClassFile.FieldType.int)) ∈ lw_all := lw_g (lw_at lw_m6 162 rfl) rfl

/-! java/lang/Math -/
set_option maxRecDepth 100000
def RJ4 : String := "java/lang/Math"
abbrev cJ4_max : ByteArray := prog_43_method_65_code
def yJ4_max : MethodName := ⟨RJ4, "max", "(II)I"⟩
def dkwJ4_max_0 : List UInt8 := [26, 27, 161, 0, 7, 26, 167, 0, 4, 27, 172]
abbrev dktJ4_max_0 : List UInt8 := dkwJ4_max_0 ++ []
theorem dksJ4_max_0 : cJ4_max.data.toList.drop 0 = dktJ4_max_0 := by decide +kernel
theorem dJ4_max_0 : decode cJ4_max 0 = .ok (.iload_n 0, 1) := dk_26 (dk_at dksJ4_max_0 0 rfl rfl)
theorem dJ4_max_1 : decode cJ4_max 1 = .ok (.iload_n 1, 1) := dk_27 (dk_at dksJ4_max_0 1 rfl rfl)
theorem dJ4_max_2 : decode cJ4_max 2 = .ok (.if_icmp .lt 7, 3) := dk_161 0 7 (dk_at dksJ4_max_0 2 rfl rfl)
theorem dJ4_max_5 : decode cJ4_max 5 = .ok (.iload_n 0, 1) := dk_26 (dk_at dksJ4_max_0 5 rfl rfl)
theorem dJ4_max_6 : decode cJ4_max 6 = .ok (.goto 4, 3) := dk_167 0 4 (dk_at dksJ4_max_0 6 rfl rfl)
theorem dJ4_max_9 : decode cJ4_max 9 = .ok (.iload_n 1, 1) := dk_27 (dk_at dksJ4_max_0 9 rfl rfl)
theorem dJ4_max_10 : decode cJ4_max 10 = .ok (.ireturn, 1) := dk_172 (dk_at dksJ4_max_0 10 rfl rfl)
abbrev cJ4_min : ByteArray := prog_43_method_69_code
def yJ4_min : MethodName := ⟨RJ4, "min", "(II)I"⟩
def dkwJ4_min_0 : List UInt8 := [26, 27, 163, 0, 7, 26, 167, 0, 4, 27, 172]
abbrev dktJ4_min_0 : List UInt8 := dkwJ4_min_0 ++ []
theorem dksJ4_min_0 : cJ4_min.data.toList.drop 0 = dktJ4_min_0 := by decide +kernel
theorem dJ4_min_0 : decode cJ4_min 0 = .ok (.iload_n 0, 1) := dk_26 (dk_at dksJ4_min_0 0 rfl rfl)
theorem dJ4_min_1 : decode cJ4_min 1 = .ok (.iload_n 1, 1) := dk_27 (dk_at dksJ4_min_0 1 rfl rfl)
theorem dJ4_min_2 : decode cJ4_min 2 = .ok (.if_icmp .gt 7, 3) := dk_163 0 7 (dk_at dksJ4_min_0 2 rfl rfl)
theorem dJ4_min_5 : decode cJ4_min 5 = .ok (.iload_n 0, 1) := dk_26 (dk_at dksJ4_min_0 5 rfl rfl)
theorem dJ4_min_6 : decode cJ4_min 6 = .ok (.goto 4, 3) := dk_167 0 4 (dk_at dksJ4_min_0 6 rfl rfl)
theorem dJ4_min_9 : decode cJ4_min 9 = .ok (.iload_n 1, 1) := dk_27 (dk_at dksJ4_min_0 9 rfl rfl)
theorem dJ4_min_10 : decode cJ4_min 10 = .ok (.ireturn, 1) := dk_172 (dk_at dksJ4_min_0 10 rfl rfl)
theorem q135 : (Jvm.Cond.initialized "java/lang/Math") ∈ lw_all := lw_g (lw_at lw_m1 11 rfl) rfl
theorem q414 : (Jvm.Cond.static ({ cls := "java/lang/Math", name := "max", desc := "(II)I" } : Jvm.MethodName)) ∈ lw_all := lw_g (lw_at lw_m2 50 rfl) rfl
theorem q415 : (Jvm.Cond.code ({ cls := "java/lang/Math", name := "max", desc := "(II)I" } : Jvm.MethodName) prog_43_method_65_code (2 : Nat) (Option.some Jvm.ClassFile.FieldType.int)) ∈ lw_all := lw_g (lw_at lw_m2 51 rfl) rfl
theorem q463 : (Jvm.Cond.static ({ cls := "java/lang/Math", name := "min", desc := "(II)I" } : Jvm.MethodName)) ∈ lw_all := lw_g (lw_at lw_m2 99 rfl) rfl
theorem q464 : (Jvm.Cond.code ({ cls := "java/lang/Math", name := "min", desc := "(II)I" } : Jvm.MethodName) prog_43_method_69_code (2 : Nat) (Option.some Jvm.ClassFile.FieldType.int)) ∈ lw_all := lw_g (lw_at lw_m2 100 rfl) rfl

/-! java/util/Arrays -/
set_option maxRecDepth 100000
def RJ5 : String := "java/util/Arrays"
abbrev cJ5_copyOf : ByteArray := prog_56_method_119_code
def yJ5_copyOf : MethodName := ⟨RJ5, "copyOf", "([Ljava/lang/Object;I)[Ljava/lang/Object;"⟩
def dkwJ5_copyOf_0 : List UInt8 := [42, 27, 42, 182, 0, 86, 184, 1, 44, 176]
abbrev dktJ5_copyOf_0 : List UInt8 := dkwJ5_copyOf_0 ++ []
theorem dksJ5_copyOf_0 : cJ5_copyOf.data.toList.drop 0 = dktJ5_copyOf_0 := by decide +kernel
theorem dJ5_copyOf_0 : decode cJ5_copyOf 0 = .ok (.aload_n 0, 1) := dk_42 (dk_at dksJ5_copyOf_0 0 rfl rfl)
theorem dJ5_copyOf_1 : decode cJ5_copyOf 1 = .ok (.iload_n 1, 1) := dk_27 (dk_at dksJ5_copyOf_0 1 rfl rfl)
theorem dJ5_copyOf_2 : decode cJ5_copyOf 2 = .ok (.aload_n 0, 1) := dk_42 (dk_at dksJ5_copyOf_0 2 rfl rfl)
theorem dJ5_copyOf_3 : decode cJ5_copyOf 3 = .ok (.invokevirtual 86, 3) := dk_182 0 86 (dk_at dksJ5_copyOf_0 3 rfl rfl)
theorem dJ5_copyOf_6 : decode cJ5_copyOf 6 = .ok (.invokestatic 300, 3) := dk_184 1 44 (dk_at dksJ5_copyOf_0 6 rfl rfl)
theorem dJ5_copyOf_9 : decode cJ5_copyOf 9 = .ok (.areturn, 1) := dk_176 (dk_at dksJ5_copyOf_0 9 rfl rfl)
abbrev cJ5_copyOf_2 : ByteArray := prog_56_method_120_code
def yJ5_copyOf_2 : MethodName := ⟨RJ5, "copyOf", "([Ljava/lang/Object;ILjava/lang/Class;)[Ljava/lang/Object;"⟩
def dkwJ5_copyOf_2_1 : List UInt8 := [78, 42, 3, 45, 3, 42, 190, 27, 184, 1, 48, 184, 0, 150, 45, 176]
abbrev dktJ5_copyOf_2_1 : List UInt8 := dkwJ5_copyOf_2_1 ++ []
def dkwJ5_copyOf_2_0 : List UInt8 := [44, 18, 110, 166, 0, 10, 27, 189, 0, 2, 167, 0, 14, 44, 182, 0, 90, 27, 184, 0, 95, 192, 0, 110]
abbrev dktJ5_copyOf_2_0 : List UInt8 := dkwJ5_copyOf_2_0 ++ dktJ5_copyOf_2_1
theorem dksJ5_copyOf_2_0 : cJ5_copyOf_2.data.toList.drop 0 = dktJ5_copyOf_2_0 := by decide +kernel
theorem dksJ5_copyOf_2_1 : cJ5_copyOf_2.data.toList.drop 24 = dktJ5_copyOf_2_1 := dk_seg dksJ5_copyOf_2_0 24 rfl rfl
theorem dJ5_copyOf_2_0 : decode cJ5_copyOf_2 0 = .ok (.aload_n 2, 1) := dk_44 (dk_at dksJ5_copyOf_2_0 0 rfl rfl)
theorem dJ5_copyOf_2_1 : decode cJ5_copyOf_2 1 = .ok (.ldc 110, 2) := dk_18 110 (dk_at dksJ5_copyOf_2_0 1 rfl rfl)
theorem dJ5_copyOf_2_3 : decode cJ5_copyOf_2 3 = .ok (.if_acmp .ne 10, 3) := dk_166 0 10 (dk_at dksJ5_copyOf_2_0 3 rfl rfl)
theorem dJ5_copyOf_2_6 : decode cJ5_copyOf_2 6 = .ok (.iload_n 1, 1) := dk_27 (dk_at dksJ5_copyOf_2_0 6 rfl rfl)
theorem dJ5_copyOf_2_7 : decode cJ5_copyOf_2 7 = .ok (.anewarray 2, 3) := dk_189 0 2 (dk_at dksJ5_copyOf_2_0 7 rfl rfl)
theorem dJ5_copyOf_2_10 : decode cJ5_copyOf_2 10 = .ok (.goto 14, 3) := dk_167 0 14 (dk_at dksJ5_copyOf_2_0 10 rfl rfl)
theorem dJ5_copyOf_2_13 : decode cJ5_copyOf_2 13 = .ok (.aload_n 2, 1) := dk_44 (dk_at dksJ5_copyOf_2_0 13 rfl rfl)
theorem dJ5_copyOf_2_14 : decode cJ5_copyOf_2 14 = .ok (.invokevirtual 90, 3) := dk_182 0 90 (dk_at dksJ5_copyOf_2_0 14 rfl rfl)
theorem dJ5_copyOf_2_17 : decode cJ5_copyOf_2 17 = .ok (.iload_n 1, 1) := dk_27 (dk_at dksJ5_copyOf_2_0 17 rfl rfl)
theorem dJ5_copyOf_2_18 : decode cJ5_copyOf_2 18 = .ok (.invokestatic 95, 3) := dk_184 0 95 (dk_at dksJ5_copyOf_2_0 18 rfl rfl)
theorem dJ5_copyOf_2_21 : decode cJ5_copyOf_2 21 = .ok (.checkcast 110, 3) := dk_192 0 110 (dk_at dksJ5_copyOf_2_0 21 rfl rfl)
theorem dJ5_copyOf_2_24 : decode cJ5_copyOf_2 24 = .ok (.astore_n 3, 1) := dk_78 (dk_at dksJ5_copyOf_2_1 0 rfl rfl)
theorem dJ5_copyOf_2_25 : decode cJ5_copyOf_2 25 = .ok (.aload_n 0, 1) := dk_42 (dk_at dksJ5_copyOf_2_1 1 rfl rfl)
theorem dJ5_copyOf_2_26 : decode cJ5_copyOf_2 26 = .ok (.iconst 0, 1) := dk_3 (dk_at dksJ5_copyOf_2_1 2 rfl rfl)
theorem dJ5_copyOf_2_27 : decode cJ5_copyOf_2 27 = .ok (.aload_n 3, 1) := dk_45 (dk_at dksJ5_copyOf_2_1 3 rfl rfl)
theorem dJ5_copyOf_2_28 : decode cJ5_copyOf_2 28 = .ok (.iconst 0, 1) := dk_3 (dk_at dksJ5_copyOf_2_1 4 rfl rfl)
theorem dJ5_copyOf_2_29 : decode cJ5_copyOf_2 29 = .ok (.aload_n 0, 1) := dk_42 (dk_at dksJ5_copyOf_2_1 5 rfl rfl)
theorem dJ5_copyOf_2_30 : decode cJ5_copyOf_2 30 = .ok (.arraylength, 1) := dk_190 (dk_at dksJ5_copyOf_2_1 6 rfl rfl)
theorem dJ5_copyOf_2_31 : decode cJ5_copyOf_2 31 = .ok (.iload_n 1, 1) := dk_27 (dk_at dksJ5_copyOf_2_1 7 rfl rfl)
theorem dJ5_copyOf_2_32 : decode cJ5_copyOf_2 32 = .ok (.invokestatic 304, 3) := dk_184 1 48 (dk_at dksJ5_copyOf_2_1 8 rfl rfl)
theorem dJ5_copyOf_2_35 : decode cJ5_copyOf_2 35 = .ok (.invokestatic 150, 3) := dk_184 0 150 (dk_at dksJ5_copyOf_2_1 11 rfl rfl)
theorem dJ5_copyOf_2_38 : decode cJ5_copyOf_2 38 = .ok (.aload_n 3, 1) := dk_45 (dk_at dksJ5_copyOf_2_1 14 rfl rfl)
theorem dJ5_copyOf_2_39 : decode cJ5_copyOf_2 39 = .ok (.areturn, 1) := dk_176 (dk_at dksJ5_copyOf_2_1 15 rfl rfl)
abbrev cJ5_copyOf_3 : ByteArray := prog_56_method_121_code
def yJ5_copyOf_3 : MethodName := ⟨RJ5, "copyOf", "([BI)[B"⟩
def dkwJ5_copyOf_3_1 : List UInt8 := [27, 184, 1, 48, 184, 0, 150, 44, 176]
abbrev dktJ5_copyOf_3_1 : List UInt8 := dkwJ5_copyOf_3_1 ++ []
def dkwJ5_copyOf_3_0 : List UInt8 := [27, 42, 190, 160, 0, 11, 42, 182, 1, 54, 192, 1, 55, 176, 27, 188, 8, 77, 42, 3, 44, 3, 42, 190]
abbrev dktJ5_copyOf_3_0 : List UInt8 := dkwJ5_copyOf_3_0 ++ dktJ5_copyOf_3_1
theorem dksJ5_copyOf_3_0 : cJ5_copyOf_3.data.toList.drop 0 = dktJ5_copyOf_3_0 := by decide +kernel
theorem dksJ5_copyOf_3_1 : cJ5_copyOf_3.data.toList.drop 24 = dktJ5_copyOf_3_1 := dk_seg dksJ5_copyOf_3_0 24 rfl rfl
theorem dJ5_copyOf_3_0 : decode cJ5_copyOf_3 0 = .ok (.iload_n 1, 1) := dk_27 (dk_at dksJ5_copyOf_3_0 0 rfl rfl)
theorem dJ5_copyOf_3_1 : decode cJ5_copyOf_3 1 = .ok (.aload_n 0, 1) := dk_42 (dk_at dksJ5_copyOf_3_0 1 rfl rfl)
theorem dJ5_copyOf_3_2 : decode cJ5_copyOf_3 2 = .ok (.arraylength, 1) := dk_190 (dk_at dksJ5_copyOf_3_0 2 rfl rfl)
theorem dJ5_copyOf_3_3 : decode cJ5_copyOf_3 3 = .ok (.if_icmp .ne 11, 3) := dk_160 0 11 (dk_at dksJ5_copyOf_3_0 3 rfl rfl)
theorem dJ5_copyOf_3_6 : decode cJ5_copyOf_3 6 = .ok (.aload_n 0, 1) := dk_42 (dk_at dksJ5_copyOf_3_0 6 rfl rfl)
theorem dJ5_copyOf_3_7 : decode cJ5_copyOf_3 7 = .ok (.invokevirtual 310, 3) := dk_182 1 54 (dk_at dksJ5_copyOf_3_0 7 rfl rfl)
theorem dJ5_copyOf_3_10 : decode cJ5_copyOf_3 10 = .ok (.checkcast 311, 3) := dk_192 1 55 (dk_at dksJ5_copyOf_3_0 10 rfl rfl)
theorem dJ5_copyOf_3_13 : decode cJ5_copyOf_3 13 = .ok (.areturn, 1) := dk_176 (dk_at dksJ5_copyOf_3_0 13 rfl rfl)
theorem dJ5_copyOf_3_14 : decode cJ5_copyOf_3 14 = .ok (.iload_n 1, 1) := dk_27 (dk_at dksJ5_copyOf_3_0 14 rfl rfl)
theorem dJ5_copyOf_3_15 : decode cJ5_copyOf_3 15 = .ok (.newarray .byte, 2) := dk_188_8 (dk_at dksJ5_copyOf_3_0 15 rfl rfl)
theorem dJ5_copyOf_3_17 : decode cJ5_copyOf_3 17 = .ok (.astore_n 2, 1) := dk_77 (dk_at dksJ5_copyOf_3_0 17 rfl rfl)
theorem dJ5_copyOf_3_18 : decode cJ5_copyOf_3 18 = .ok (.aload_n 0, 1) := dk_42 (dk_at dksJ5_copyOf_3_0 18 rfl rfl)
theorem dJ5_copyOf_3_19 : decode cJ5_copyOf_3 19 = .ok (.iconst 0, 1) := dk_3 (dk_at dksJ5_copyOf_3_0 19 rfl rfl)
theorem dJ5_copyOf_3_20 : decode cJ5_copyOf_3 20 = .ok (.aload_n 2, 1) := dk_44 (dk_at dksJ5_copyOf_3_0 20 rfl rfl)
theorem dJ5_copyOf_3_21 : decode cJ5_copyOf_3 21 = .ok (.iconst 0, 1) := dk_3 (dk_at dksJ5_copyOf_3_0 21 rfl rfl)
theorem dJ5_copyOf_3_22 : decode cJ5_copyOf_3 22 = .ok (.aload_n 0, 1) := dk_42 (dk_at dksJ5_copyOf_3_0 22 rfl rfl)
theorem dJ5_copyOf_3_23 : decode cJ5_copyOf_3 23 = .ok (.arraylength, 1) := dk_190 (dk_at dksJ5_copyOf_3_0 23 rfl rfl)
theorem dJ5_copyOf_3_24 : decode cJ5_copyOf_3 24 = .ok (.iload_n 1, 1) := dk_27 (dk_at dksJ5_copyOf_3_1 0 rfl rfl)
theorem dJ5_copyOf_3_25 : decode cJ5_copyOf_3 25 = .ok (.invokestatic 304, 3) := dk_184 1 48 (dk_at dksJ5_copyOf_3_1 1 rfl rfl)
theorem dJ5_copyOf_3_28 : decode cJ5_copyOf_3 28 = .ok (.invokestatic 150, 3) := dk_184 0 150 (dk_at dksJ5_copyOf_3_1 4 rfl rfl)
theorem dJ5_copyOf_3_31 : decode cJ5_copyOf_3 31 = .ok (.aload_n 2, 1) := dk_44 (dk_at dksJ5_copyOf_3_1 7 rfl rfl)
theorem dJ5_copyOf_3_32 : decode cJ5_copyOf_3 32 = .ok (.areturn, 1) := dk_176 (dk_at dksJ5_copyOf_3_1 8 rfl rfl)
abbrev cJ5_copyOfRange : ByteArray := prog_56_method_132_code
def yJ5_copyOfRange : MethodName := ⟨RJ5, "copyOfRange", "([BII)[B"⟩
def dkwJ5_copyOfRange_1 : List UInt8 := [176]
abbrev dktJ5_copyOfRange_1 : List UInt8 := dkwJ5_copyOfRange_1 ++ []
def dkwJ5_copyOfRange_0 : List UInt8 := [27, 154, 0, 9, 28, 42, 190, 159, 0, 10, 42, 27, 28, 184, 1, 83, 176, 42, 182, 1, 54, 192, 1, 55]
abbrev dktJ5_copyOfRange_0 : List UInt8 := dkwJ5_copyOfRange_0 ++ dktJ5_copyOfRange_1
theorem dksJ5_copyOfRange_0 : cJ5_copyOfRange.data.toList.drop 0 = dktJ5_copyOfRange_0 := by decide +kernel
theorem dksJ5_copyOfRange_1 : cJ5_copyOfRange.data.toList.drop 24 = dktJ5_copyOfRange_1 := dk_seg dksJ5_copyOfRange_0 24 rfl rfl
theorem dJ5_copyOfRange_0 : decode cJ5_copyOfRange 0 = .ok (.iload_n 1, 1) := dk_27 (dk_at dksJ5_copyOfRange_0 0 rfl rfl)
theorem dJ5_copyOfRange_1 : decode cJ5_copyOfRange 1 = .ok (.ifCond .ne 9, 3) := dk_154 0 9 (dk_at dksJ5_copyOfRange_0 1 rfl rfl)
theorem dJ5_copyOfRange_4 : decode cJ5_copyOfRange 4 = .ok (.iload_n 2, 1) := dk_28 (dk_at dksJ5_copyOfRange_0 4 rfl rfl)
theorem dJ5_copyOfRange_5 : decode cJ5_copyOfRange 5 = .ok (.aload_n 0, 1) := dk_42 (dk_at dksJ5_copyOfRange_0 5 rfl rfl)
theorem dJ5_copyOfRange_6 : decode cJ5_copyOfRange 6 = .ok (.arraylength, 1) := dk_190 (dk_at dksJ5_copyOfRange_0 6 rfl rfl)
theorem dJ5_copyOfRange_7 : decode cJ5_copyOfRange 7 = .ok (.if_icmp .eq 10, 3) := dk_159 0 10 (dk_at dksJ5_copyOfRange_0 7 rfl rfl)
theorem dJ5_copyOfRange_10 : decode cJ5_copyOfRange 10 = .ok (.aload_n 0, 1) := dk_42 (dk_at dksJ5_copyOfRange_0 10 rfl rfl)
theorem dJ5_copyOfRange_11 : decode cJ5_copyOfRange 11 = .ok (.iload_n 1, 1) := dk_27 (dk_at dksJ5_copyOfRange_0 11 rfl rfl)
theorem dJ5_copyOfRange_12 : decode cJ5_copyOfRange 12 = .ok (.iload_n 2, 1) := dk_28 (dk_at dksJ5_copyOfRange_0 12 rfl rfl)
theorem dJ5_copyOfRange_13 : decode cJ5_copyOfRange 13 = .ok (.invokestatic 339, 3) := dk_184 1 83 (dk_at dksJ5_copyOfRange_0 13 rfl rfl)
theorem dJ5_copyOfRange_16 : decode cJ5_copyOfRange 16 = .ok (.areturn, 1) := dk_176 (dk_at dksJ5_copyOfRange_0 16 rfl rfl)
theorem dJ5_copyOfRange_17 : decode cJ5_copyOfRange 17 = .ok (.aload_n 0, 1) := dk_42 (dk_at dksJ5_copyOfRange_0 17 rfl rfl)
theorem dJ5_copyOfRange_18 : decode cJ5_copyOfRange 18 = .ok (.invokevirtual 310, 3) := dk_182 1 54 (dk_at dksJ5_copyOfRange_0 18 rfl rfl)
theorem dJ5_copyOfRange_21 : decode cJ5_copyOfRange 21 = .ok (.checkcast 311, 3) := dk_192 1 55 (dk_at dksJ5_copyOfRange_0 21 rfl rfl)
theorem dJ5_copyOfRange_24 : decode cJ5_copyOfRange 24 = .ok (.areturn, 1) := dk_176 (dk_at dksJ5_copyOfRange_1 0 rfl rfl)
abbrev cJ5_copyOfRangeByte : ByteArray := prog_56_method_133_code
def yJ5_copyOfRangeByte : MethodName := ⟨RJ5, "copyOfRangeByte", "([BII)[B"⟩
def dkwJ5_copyOfRangeByte_1 : List UInt8 := [184, 1, 48, 184, 0, 150, 25, 4, 176]
abbrev dktJ5_copyOfRangeByte_1 : List UInt8 := dkwJ5_copyOfRangeByte_1 ++ []
def dkwJ5_copyOfRangeByte_0 : List UInt8 := [27, 28, 184, 1, 87, 28, 27, 100, 62, 29, 188, 8, 58, 4, 42, 27, 25, 4, 3, 42, 190, 27, 100, 29]
abbrev dktJ5_copyOfRangeByte_0 : List UInt8 := dkwJ5_copyOfRangeByte_0 ++ dktJ5_copyOfRangeByte_1
theorem dksJ5_copyOfRangeByte_0 : cJ5_copyOfRangeByte.data.toList.drop 0 = dktJ5_copyOfRangeByte_0 := by decide +kernel
theorem dksJ5_copyOfRangeByte_1 : cJ5_copyOfRangeByte.data.toList.drop 24 = dktJ5_copyOfRangeByte_1 := dk_seg dksJ5_copyOfRangeByte_0 24 rfl rfl
theorem dJ5_copyOfRangeByte_0 : decode cJ5_copyOfRangeByte 0 = .ok (.iload_n 1, 1) := dk_27 (dk_at dksJ5_copyOfRangeByte_0 0 rfl rfl)
theorem dJ5_copyOfRangeByte_1 : decode cJ5_copyOfRangeByte 1 = .ok (.iload_n 2, 1) := dk_28 (dk_at dksJ5_copyOfRangeByte_0 1 rfl rfl)
theorem dJ5_copyOfRangeByte_2 : decode cJ5_copyOfRangeByte 2 = .ok (.invokestatic 343, 3) := dk_184 1 87 (dk_at dksJ5_copyOfRangeByte_0 2 rfl rfl)
theorem dJ5_copyOfRangeByte_5 : decode cJ5_copyOfRangeByte 5 = .ok (.iload_n 2, 1) := dk_28 (dk_at dksJ5_copyOfRangeByte_0 5 rfl rfl)
theorem dJ5_copyOfRangeByte_6 : decode cJ5_copyOfRangeByte 6 = .ok (.iload_n 1, 1) := dk_27 (dk_at dksJ5_copyOfRangeByte_0 6 rfl rfl)
theorem dJ5_copyOfRangeByte_7 : decode cJ5_copyOfRangeByte 7 = .ok (.isub, 1) := dk_100 (dk_at dksJ5_copyOfRangeByte_0 7 rfl rfl)
theorem dJ5_copyOfRangeByte_8 : decode cJ5_copyOfRangeByte 8 = .ok (.istore_n 3, 1) := dk_62 (dk_at dksJ5_copyOfRangeByte_0 8 rfl rfl)
theorem dJ5_copyOfRangeByte_9 : decode cJ5_copyOfRangeByte 9 = .ok (.iload_n 3, 1) := dk_29 (dk_at dksJ5_copyOfRangeByte_0 9 rfl rfl)
theorem dJ5_copyOfRangeByte_10 : decode cJ5_copyOfRangeByte 10 = .ok (.newarray .byte, 2) := dk_188_8 (dk_at dksJ5_copyOfRangeByte_0 10 rfl rfl)
theorem dJ5_copyOfRangeByte_12 : decode cJ5_copyOfRangeByte 12 = .ok (.astore 4, 2) := dk_58 4 (dk_at dksJ5_copyOfRangeByte_0 12 rfl rfl)
theorem dJ5_copyOfRangeByte_14 : decode cJ5_copyOfRangeByte 14 = .ok (.aload_n 0, 1) := dk_42 (dk_at dksJ5_copyOfRangeByte_0 14 rfl rfl)
theorem dJ5_copyOfRangeByte_15 : decode cJ5_copyOfRangeByte 15 = .ok (.iload_n 1, 1) := dk_27 (dk_at dksJ5_copyOfRangeByte_0 15 rfl rfl)
theorem dJ5_copyOfRangeByte_16 : decode cJ5_copyOfRangeByte 16 = .ok (.aload 4, 2) := dk_25 4 (dk_at dksJ5_copyOfRangeByte_0 16 rfl rfl)
theorem dJ5_copyOfRangeByte_18 : decode cJ5_copyOfRangeByte 18 = .ok (.iconst 0, 1) := dk_3 (dk_at dksJ5_copyOfRangeByte_0 18 rfl rfl)
theorem dJ5_copyOfRangeByte_19 : decode cJ5_copyOfRangeByte 19 = .ok (.aload_n 0, 1) := dk_42 (dk_at dksJ5_copyOfRangeByte_0 19 rfl rfl)
theorem dJ5_copyOfRangeByte_20 : decode cJ5_copyOfRangeByte 20 = .ok (.arraylength, 1) := dk_190 (dk_at dksJ5_copyOfRangeByte_0 20 rfl rfl)
theorem dJ5_copyOfRangeByte_21 : decode cJ5_copyOfRangeByte 21 = .ok (.iload_n 1, 1) := dk_27 (dk_at dksJ5_copyOfRangeByte_0 21 rfl rfl)
theorem dJ5_copyOfRangeByte_22 : decode cJ5_copyOfRangeByte 22 = .ok (.isub, 1) := dk_100 (dk_at dksJ5_copyOfRangeByte_0 22 rfl rfl)
theorem dJ5_copyOfRangeByte_23 : decode cJ5_copyOfRangeByte 23 = .ok (.iload_n 3, 1) := dk_29 (dk_at dksJ5_copyOfRangeByte_0 23 rfl rfl)
theorem dJ5_copyOfRangeByte_24 : decode cJ5_copyOfRangeByte 24 = .ok (.invokestatic 304, 3) := dk_184 1 48 (dk_at dksJ5_copyOfRangeByte_1 0 rfl rfl)
theorem dJ5_copyOfRangeByte_27 : decode cJ5_copyOfRangeByte 27 = .ok (.invokestatic 150, 3) := dk_184 0 150 (dk_at dksJ5_copyOfRangeByte_1 3 rfl rfl)
theorem dJ5_copyOfRangeByte_30 : decode cJ5_copyOfRangeByte 30 = .ok (.aload 4, 2) := dk_25 4 (dk_at dksJ5_copyOfRangeByte_1 6 rfl rfl)
theorem dJ5_copyOfRangeByte_32 : decode cJ5_copyOfRangeByte 32 = .ok (.areturn, 1) := dk_176 (dk_at dksJ5_copyOfRangeByte_1 8 rfl rfl)
abbrev cJ5_checkLength : ByteArray := prog_56_method_131_code
def yJ5_checkLength : MethodName := ⟨RJ5, "checkLength", "(II)V"⟩
def dkwJ5_checkLength_1 : List UInt8 := [182, 0, 50, 27, 182, 0, 54, 182, 0, 61, 183, 0, 65, 191, 177]
abbrev dktJ5_checkLength_1 : List UInt8 := dkwJ5_checkLength_1 ++ []
def dkwJ5_checkLength_0 : List UInt8 := [27, 26, 162, 0, 35, 187, 0, 43, 89, 187, 0, 45, 89, 183, 0, 47, 26, 182, 0, 54, 19, 1, 81]
abbrev dktJ5_checkLength_0 : List UInt8 := dkwJ5_checkLength_0 ++ dktJ5_checkLength_1
theorem dksJ5_checkLength_0 : cJ5_checkLength.data.toList.drop 0 = dktJ5_checkLength_0 := by decide +kernel
theorem dksJ5_checkLength_1 : cJ5_checkLength.data.toList.drop 23 = dktJ5_checkLength_1 := dk_seg dksJ5_checkLength_0 23 rfl rfl
theorem dJ5_checkLength_0 : decode cJ5_checkLength 0 = .ok (.iload_n 1, 1) := dk_27 (dk_at dksJ5_checkLength_0 0 rfl rfl)
theorem dJ5_checkLength_1 : decode cJ5_checkLength 1 = .ok (.iload_n 0, 1) := dk_26 (dk_at dksJ5_checkLength_0 1 rfl rfl)
theorem dJ5_checkLength_2 : decode cJ5_checkLength 2 = .ok (.if_icmp .ge 35, 3) := dk_162 0 35 (dk_at dksJ5_checkLength_0 2 rfl rfl)
theorem dJ5_checkLength_5 : decode cJ5_checkLength 5 = .ok (.new 43, 3) := dk_187 0 43 (dk_at dksJ5_checkLength_0 5 rfl rfl)
theorem dJ5_checkLength_8 : decode cJ5_checkLength 8 = .ok (.dup, 1) := dk_89 (dk_at dksJ5_checkLength_0 8 rfl rfl)
theorem dJ5_checkLength_9 : decode cJ5_checkLength 9 = .ok (.new 45, 3) := dk_187 0 45 (dk_at dksJ5_checkLength_0 9 rfl rfl)
theorem dJ5_checkLength_12 : decode cJ5_checkLength 12 = .ok (.dup, 1) := dk_89 (dk_at dksJ5_checkLength_0 12 rfl rfl)
theorem dJ5_checkLength_13 : decode cJ5_checkLength 13 = .ok (.invokespecial 47, 3) := dk_183 0 47 (dk_at dksJ5_checkLength_0 13 rfl rfl)
theorem dJ5_checkLength_16 : decode cJ5_checkLength 16 = .ok (.iload_n 0, 1) := dk_26 (dk_at dksJ5_checkLength_0 16 rfl rfl)
theorem dJ5_checkLength_17 : decode cJ5_checkLength 17 = .ok (.invokevirtual 54, 3) := dk_182 0 54 (dk_at dksJ5_checkLength_0 17 rfl rfl)
theorem dJ5_checkLength_20 : decode cJ5_checkLength 20 = .ok (.ldc_w 337, 3) := dk_19 1 81 (dk_at dksJ5_checkLength_0 20 rfl rfl)
theorem dJ5_checkLength_23 : decode cJ5_checkLength 23 = .ok (.invokevirtual 50, 3) := dk_182 0 50 (dk_at dksJ5_checkLength_1 0 rfl rfl)
theorem dJ5_checkLength_26 : decode cJ5_checkLength 26 = .ok (.iload_n 1, 1) := dk_27 (dk_at dksJ5_checkLength_1 3 rfl rfl)
theorem dJ5_checkLength_27 : decode cJ5_checkLength 27 = .ok (.invokevirtual 54, 3) := dk_182 0 54 (dk_at dksJ5_checkLength_1 4 rfl rfl)
theorem dJ5_checkLength_30 : decode cJ5_checkLength 30 = .ok (.invokevirtual 61, 3) := dk_182 0 61 (dk_at dksJ5_checkLength_1 7 rfl rfl)
theorem dJ5_checkLength_33 : decode cJ5_checkLength 33 = .ok (.invokespecial 65, 3) := dk_183 0 65 (dk_at dksJ5_checkLength_1 10 rfl rfl)
theorem dJ5_checkLength_36 : decode cJ5_checkLength 36 = .ok (.athrow, 1) := dk_191 (dk_at dksJ5_checkLength_1 13 rfl rfl)
theorem dJ5_checkLength_37 : decode cJ5_checkLength 37 = .ok (.return_, 1) := dk_177 (dk_at dksJ5_checkLength_1 14 rfl rfl)
theorem q136 : (Jvm.Cond.initialized "java/util/Arrays") ∈ lw_all := lw_g (lw_at lw_m1 12 rfl) rfl
theorem q421 : (Jvm.Cond.static ({ cls := "java/util/Arrays", name := "copyOf", desc := "([Ljava/lang/Object;I)[Ljava/lang/Object;" } : Jvm.MethodName)) ∈ lw_all := lw_g (lw_at lw_m2 57 rfl) rfl
theorem q422 : (Jvm.Cond.code ({ cls := "java/util/Arrays", name := "copyOf", desc := "([Ljava/lang/Object;I)[Ljava/lang/Object;" } : Jvm.MethodName) prog_56_method_119_code (2 : Nat) (Option.some (Jvm.ClassFile.FieldType.array (Jvm.ClassFile.FieldType.object "java/lang/Object")))) ∈ lw_all := lw_g (lw_at lw_m2 58 rfl) rfl
theorem q423 : (Jvm.Cond.methodLink "java/util/Arrays" (86 : Nat) ({ cls := "java/lang/Object", name := "getClass", desc := "()Ljava/lang/Class;" } : Jvm.MethodName)) ∈ lw_all := lw_g (lw_at lw_m2 59 rfl) rfl
theorem q457 : (Jvm.Cond.methodLink "java/util/Arrays" (300 : Nat) ({ cls := "java/util/Arrays", name := "copyOf", desc := "([Ljava/lang/Object;ILjava/lang/Class;)[Ljava/lang/Object;" } : Jvm.MethodName)) ∈ lw_all := lw_g (lw_at lw_m2 93 rfl) rfl
theorem q458 : (Jvm.Cond.static ({ cls := "java/util/Arrays", name := "copyOf", desc := "([Ljava/lang/Object;ILjava/lang/Class;)[Ljava/lang/Object;" } : Jvm.MethodName)) ∈ lw_all := lw_g (lw_at lw_m2 94 rfl) rfl
theorem q459 : (Jvm.Cond.code ({ cls := "java/util/Arrays", name := "copyOf", desc := "([Ljava/lang/Object;ILjava/lang/Class;)[Ljava/lang/Object;" } : Jvm.MethodName) prog_56_method_120_code (4 : Nat) (Option.some (Jvm.ClassFile.FieldType.array (Jvm.ClassFile.FieldType.object "java/lang/Object")))) ∈ lw_all := lw_g (lw_at lw_m2 95 rfl) rfl
theorem q460 : (Jvm.Cond.classLink "java/util/Arrays" (110 : Nat) "[Ljava/lang/Object;") ∈ lw_all := lw_g (lw_at lw_m2 96 rfl) rfl
theorem q461 : (Jvm.Cond.classLink "java/util/Arrays" (2 : Nat) "java/lang/Object") ∈ lw_all := lw_g (lw_at lw_m2 97 rfl) rfl
theorem q462 : (Jvm.Cond.methodLink "java/util/Arrays" (304 : Nat) ({ cls := "java/lang/Math", name := "min", desc := "(II)I" } : Jvm.MethodName)) ∈ lw_all := lw_g (lw_at lw_m2 98 rfl) rfl
theorem q465 : (Jvm.Cond.methodLink "java/util/Arrays" (150 : Nat) ({ cls := "java/lang/System", name := "arraycopy", desc := "(Ljava/lang/Object;ILjava/lang/Object;II)V" } : Jvm.MethodName)) ∈ lw_all := lw_g (lw_at lw_m2 101 rfl) rfl
theorem q954 : (Jvm.Cond.static ({ cls := "java/util/Arrays", name := "copyOf", desc := "([BI)[B" } : Jvm.MethodName)) ∈ lw_all := lw_g (lw_at lw_m4 110 rfl) rfl
theorem q955 : (Jvm.Cond.code ({ cls := "java/util/Arrays", name := "copyOf", desc := "([BI)[B" } : Jvm.MethodName) prog_56_method_121_code (3 : Nat) (Option.some (Jvm.ClassFile.FieldType.array Jvm.ClassFile.FieldType.byte))) ∈ lw_all := lw_g (lw_at lw_m4 111 rfl) rfl
theorem q956 : (Jvm.Cond.methodLink "java/util/Arrays" (310 : Nat) ({ cls := "[B", name := "clone", desc := "()Ljava/lang/Object;" } : Jvm.MethodName)) ∈ lw_all := lw_g (lw_at lw_m4 112 rfl) rfl
theorem q962 : (Jvm.Cond.classLink "java/util/Arrays" (311 : Nat) "[B") ∈ lw_all := lw_g (lw_at lw_m4 118 rfl) rfl
theorem q1042 : (Jvm.Cond.static ({ cls := "java/util/Arrays", name := "copyOfRange", desc := "([BII)[B" } : Jvm.MethodName)) ∈ lw_all := lw_g (lw_at lw_m4 198 rfl) rfl
theorem q1043 : (Jvm.Cond.code ({ cls := "java/util/Arrays", name := "copyOfRange", desc := "([BII)[B" } : Jvm.MethodName) prog_56_method_132_code (3 : Nat) (Option.some (Jvm.ClassFile.FieldType.array Jvm.ClassFile.FieldType.byte))) ∈ lw_all := lw_g (lw_at lw_m4 199 rfl) rfl
theorem q1044 : (Jvm.Cond.methodLink "java/util/Arrays" (339 : Nat) ({ cls := "java/util/Arrays", name := "copyOfRangeByte", desc := "([BII)[B" } : Jvm.MethodName)) ∈ lw_all := lw_g (lw_at lw_m4 200 rfl) rfl
theorem q1045 : (Jvm.Cond.static ({ cls := "java/util/Arrays", name := "copyOfRangeByte", desc := "([BII)[B" } : Jvm.MethodName)) ∈ lw_all := lw_g (lw_at lw_m4 201 rfl) rfl
theorem q1046 : (Jvm.Cond.code ({ cls := "java/util/Arrays", name := "copyOfRangeByte", desc := "([BII)[B" } : Jvm.MethodName) prog_56_method_133_code (5 : Nat) (Option.some (Jvm.ClassFile.FieldType.array Jvm.ClassFile.FieldType.byte))) ∈ lw_all := lw_g (lw_at lw_m4 202 rfl) rfl
theorem q1047 : (Jvm.Cond.methodLink "java/util/Arrays" (343 : Nat) ({ cls := "java/util/Arrays", name := "checkLength", desc := "(II)V" } : Jvm.MethodName)) ∈ lw_all := lw_g (lw_at lw_m4 203 rfl) rfl
theorem q1048 : (Jvm.Cond.static ({ cls := "java/util/Arrays", name := "checkLength", desc := "(II)V" } : Jvm.MethodName)) ∈ lw_all := lw_g (lw_at lw_m4 204 rfl) rfl
theorem q1049 : (Jvm.Cond.code ({ cls := "java/util/Arrays", name := "checkLength", desc := "(II)V" } : Jvm.MethodName) prog_56_method_131_code (2 : Nat) (Option.none : Option Jvm.ClassFile.FieldType)) ∈ lw_all := lw_g (lw_at lw_m4 205 rfl) rfl

/-! java/util/Objects -/
set_option maxRecDepth 100000
def RJ6 : String := "java/util/Objects"
abbrev cJ6_checkIndex : ByteArray := prog_59_method_17_code
def yJ6_checkIndex : MethodName := ⟨RJ6, "checkIndex", "(II)I"⟩
def dkwJ6_checkIndex_0 : List UInt8 := [26, 27, 1, 184, 0, 105, 172]
abbrev dktJ6_checkIndex_0 : List UInt8 := dkwJ6_checkIndex_0 ++ []
theorem dksJ6_checkIndex_0 : cJ6_checkIndex.data.toList.drop 0 = dktJ6_checkIndex_0 := by decide +kernel
theorem dJ6_checkIndex_0 : decode cJ6_checkIndex 0 = .ok (.iload_n 0, 1) := dk_26 (dk_at dksJ6_checkIndex_0 0 rfl rfl)
theorem dJ6_checkIndex_1 : decode cJ6_checkIndex 1 = .ok (.iload_n 1, 1) := dk_27 (dk_at dksJ6_checkIndex_0 1 rfl rfl)
theorem dJ6_checkIndex_2 : decode cJ6_checkIndex 2 = .ok (.aconst_null, 1) := dk_1 (dk_at dksJ6_checkIndex_0 2 rfl rfl)
theorem dJ6_checkIndex_3 : decode cJ6_checkIndex 3 = .ok (.invokestatic 105, 3) := dk_184 0 105 (dk_at dksJ6_checkIndex_0 3 rfl rfl)
theorem dJ6_checkIndex_6 : decode cJ6_checkIndex 6 = .ok (.ireturn, 1) := dk_172 (dk_at dksJ6_checkIndex_0 6 rfl rfl)
theorem q138 : (Jvm.Cond.initialized "java/util/Objects") ∈ lw_all := lw_g (lw_at lw_m1 14 rfl) rfl
theorem q508 : (Jvm.Cond.static ({ cls := "java/util/Objects", name := "checkIndex", desc := "(II)I" } : Jvm.MethodName)) ∈ lw_all := lw_g (lw_at lw_m2 144 rfl) rfl
theorem q509 : (Jvm.Cond.code ({ cls := "java/util/Objects", name := "checkIndex", desc := "(II)I" } : Jvm.MethodName) prog_59_method_17_code (2 : Nat) (Option.some Jvm.ClassFile.FieldType.int)) ∈ lw_all := lw_g (lw_at lw_m2 145 rfl) rfl
theorem q510 : (Jvm.Cond.methodLink "java/util/Objects" (105 : Nat) ({ cls := "jdk/internal/util/Preconditions", name := "checkIndex", desc := "(IILjava/util/function/BiFunction;)I" } : Jvm.MethodName)) ∈ lw_all := lw_g (lw_at lw_m2 146 rfl) rfl

/-! jdk/internal/util/Preconditions -/
set_option maxRecDepth 100000
def RJ7 : String := "jdk/internal/util/Preconditions"
abbrev cJ7_checkIndex : ByteArray := prog_64_method_11_code
def yJ7_checkIndex : MethodName := ⟨RJ7, "checkIndex", "(IILjava/util/function/BiFunction;)I"⟩
def dkwJ7_checkIndex_0 : List UInt8 := [26, 155, 0, 8, 26, 27, 161, 0, 10, 44, 26, 27, 184, 0, 95, 191, 26, 172]
abbrev dktJ7_checkIndex_0 : List UInt8 := dkwJ7_checkIndex_0 ++ []
theorem dksJ7_checkIndex_0 : cJ7_checkIndex.data.toList.drop 0 = dktJ7_checkIndex_0 := by decide +kernel
theorem dJ7_checkIndex_0 : decode cJ7_checkIndex 0 = .ok (.iload_n 0, 1) := dk_26 (dk_at dksJ7_checkIndex_0 0 rfl rfl)
theorem dJ7_checkIndex_1 : decode cJ7_checkIndex 1 = .ok (.ifCond .lt 8, 3) := dk_155 0 8 (dk_at dksJ7_checkIndex_0 1 rfl rfl)
theorem dJ7_checkIndex_4 : decode cJ7_checkIndex 4 = .ok (.iload_n 0, 1) := dk_26 (dk_at dksJ7_checkIndex_0 4 rfl rfl)
theorem dJ7_checkIndex_5 : decode cJ7_checkIndex 5 = .ok (.iload_n 1, 1) := dk_27 (dk_at dksJ7_checkIndex_0 5 rfl rfl)
theorem dJ7_checkIndex_6 : decode cJ7_checkIndex 6 = .ok (.if_icmp .lt 10, 3) := dk_161 0 10 (dk_at dksJ7_checkIndex_0 6 rfl rfl)
theorem dJ7_checkIndex_9 : decode cJ7_checkIndex 9 = .ok (.aload_n 2, 1) := dk_44 (dk_at dksJ7_checkIndex_0 9 rfl rfl)
theorem dJ7_checkIndex_10 : decode cJ7_checkIndex 10 = .ok (.iload_n 0, 1) := dk_26 (dk_at dksJ7_checkIndex_0 10 rfl rfl)
theorem dJ7_checkIndex_11 : decode cJ7_checkIndex 11 = .ok (.iload_n 1, 1) := dk_27 (dk_at dksJ7_checkIndex_0 11 rfl rfl)
theorem dJ7_checkIndex_12 : decode cJ7_checkIndex 12 = .ok (.invokestatic 95, 3) := dk_184 0 95 (dk_at dksJ7_checkIndex_0 12 rfl rfl)
theorem dJ7_checkIndex_15 : decode cJ7_checkIndex 15 = .ok (.athrow, 1) := dk_191 (dk_at dksJ7_checkIndex_0 15 rfl rfl)
theorem dJ7_checkIndex_16 : decode cJ7_checkIndex 16 = .ok (.iload_n 0, 1) := dk_26 (dk_at dksJ7_checkIndex_0 16 rfl rfl)
theorem dJ7_checkIndex_17 : decode cJ7_checkIndex 17 = .ok (.ireturn, 1) := dk_172 (dk_at dksJ7_checkIndex_0 17 rfl rfl)
abbrev cJ7_checkFromIndexSize : ByteArray := prog_64_method_13_code
def yJ7_checkFromIndexSize : MethodName := ⟨RJ7, "checkFromIndexSize", "(IIILjava/util/function/BiFunction;)I"⟩
def dkwJ7_checkFromIndexSize_1 : List UInt8 := [172]
abbrev dktJ7_checkFromIndexSize_1 : List UInt8 := dkwJ7_checkFromIndexSize_1 ++ []
def dkwJ7_checkFromIndexSize_0 : List UInt8 := [28, 26, 128, 27, 128, 155, 0, 10, 27, 28, 26, 100, 164, 0, 11, 45, 26, 27, 28, 184, 0, 103, 191, 26]
abbrev dktJ7_checkFromIndexSize_0 : List UInt8 := dkwJ7_checkFromIndexSize_0 ++ dktJ7_checkFromIndexSize_1
theorem dksJ7_checkFromIndexSize_0 : cJ7_checkFromIndexSize.data.toList.drop 0 = dktJ7_checkFromIndexSize_0 := by decide +kernel
theorem dksJ7_checkFromIndexSize_1 : cJ7_checkFromIndexSize.data.toList.drop 24 = dktJ7_checkFromIndexSize_1 := dk_seg dksJ7_checkFromIndexSize_0 24 rfl rfl
theorem dJ7_checkFromIndexSize_0 : decode cJ7_checkFromIndexSize 0 = .ok (.iload_n 2, 1) := dk_28 (dk_at dksJ7_checkFromIndexSize_0 0 rfl rfl)
theorem dJ7_checkFromIndexSize_1 : decode cJ7_checkFromIndexSize 1 = .ok (.iload_n 0, 1) := dk_26 (dk_at dksJ7_checkFromIndexSize_0 1 rfl rfl)
theorem dJ7_checkFromIndexSize_2 : decode cJ7_checkFromIndexSize 2 = .ok (.ior, 1) := dk_128 (dk_at dksJ7_checkFromIndexSize_0 2 rfl rfl)
theorem dJ7_checkFromIndexSize_3 : decode cJ7_checkFromIndexSize 3 = .ok (.iload_n 1, 1) := dk_27 (dk_at dksJ7_checkFromIndexSize_0 3 rfl rfl)
theorem dJ7_checkFromIndexSize_4 : decode cJ7_checkFromIndexSize 4 = .ok (.ior, 1) := dk_128 (dk_at dksJ7_checkFromIndexSize_0 4 rfl rfl)
theorem dJ7_checkFromIndexSize_5 : decode cJ7_checkFromIndexSize 5 = .ok (.ifCond .lt 10, 3) := dk_155 0 10 (dk_at dksJ7_checkFromIndexSize_0 5 rfl rfl)
theorem dJ7_checkFromIndexSize_8 : decode cJ7_checkFromIndexSize 8 = .ok (.iload_n 1, 1) := dk_27 (dk_at dksJ7_checkFromIndexSize_0 8 rfl rfl)
theorem dJ7_checkFromIndexSize_9 : decode cJ7_checkFromIndexSize 9 = .ok (.iload_n 2, 1) := dk_28 (dk_at dksJ7_checkFromIndexSize_0 9 rfl rfl)
theorem dJ7_checkFromIndexSize_10 : decode cJ7_checkFromIndexSize 10 = .ok (.iload_n 0, 1) := dk_26 (dk_at dksJ7_checkFromIndexSize_0 10 rfl rfl)
theorem dJ7_checkFromIndexSize_11 : decode cJ7_checkFromIndexSize 11 = .ok (.isub, 1) := dk_100 (dk_at dksJ7_checkFromIndexSize_0 11 rfl rfl)
theorem dJ7_checkFromIndexSize_12 : decode cJ7_checkFromIndexSize 12 = .ok (.if_icmp .le 11, 3) := dk_164 0 11 (dk_at dksJ7_checkFromIndexSize_0 12 rfl rfl)
theorem dJ7_checkFromIndexSize_15 : decode cJ7_checkFromIndexSize 15 = .ok (.aload_n 3, 1) := dk_45 (dk_at dksJ7_checkFromIndexSize_0 15 rfl rfl)
theorem dJ7_checkFromIndexSize_16 : decode cJ7_checkFromIndexSize 16 = .ok (.iload_n 0, 1) := dk_26 (dk_at dksJ7_checkFromIndexSize_0 16 rfl rfl)
theorem dJ7_checkFromIndexSize_17 : decode cJ7_checkFromIndexSize 17 = .ok (.iload_n 1, 1) := dk_27 (dk_at dksJ7_checkFromIndexSize_0 17 rfl rfl)
theorem dJ7_checkFromIndexSize_18 : decode cJ7_checkFromIndexSize 18 = .ok (.iload_n 2, 1) := dk_28 (dk_at dksJ7_checkFromIndexSize_0 18 rfl rfl)
theorem dJ7_checkFromIndexSize_19 : decode cJ7_checkFromIndexSize 19 = .ok (.invokestatic 103, 3) := dk_184 0 103 (dk_at dksJ7_checkFromIndexSize_0 19 rfl rfl)
theorem dJ7_checkFromIndexSize_22 : decode cJ7_checkFromIndexSize 22 = .ok (.athrow, 1) := dk_191 (dk_at dksJ7_checkFromIndexSize_0 22 rfl rfl)
theorem dJ7_checkFromIndexSize_23 : decode cJ7_checkFromIndexSize 23 = .ok (.iload_n 0, 1) := dk_26 (dk_at dksJ7_checkFromIndexSize_0 23 rfl rfl)
theorem dJ7_checkFromIndexSize_24 : decode cJ7_checkFromIndexSize 24 = .ok (.ireturn, 1) := dk_172 (dk_at dksJ7_checkFromIndexSize_1 0 rfl rfl)
theorem q139 : (Jvm.Cond.initialized "jdk/internal/util/Preconditions") ∈ lw_all := lw_g (lw_at lw_m1 15 rfl) rfl
theorem q511 : (Jvm.Cond.static ({ cls := "jdk/internal/util/Preconditions", name := "checkIndex", desc := "(IILjava/util/function/BiFunction;)I" } : Jvm.MethodName)) ∈ lw_all := lw_g (lw_at lw_m2 147 rfl) rfl
theorem q512 : (Jvm.Cond.code ({ cls := "jdk/internal/util/Preconditions", name := "checkIndex", desc := "(IILjava/util/function/BiFunction;)I" } : Jvm.MethodName) prog_64_method_11_code (3 : Nat) (Option.some Jvm.ClassFile.FieldType.int)) ∈ lw_all := lw_g (lw_at lw_m2 148 rfl) rfl
theorem q991 : (Jvm.Cond.laysStatic "jdk/internal/util/Preconditions" "SIOOBE_FORMATTER" "Ljava/util/function/BiFunction;") ∈ lw_tbl := lw_at lw_m4 147 rfl
theorem q993 : (Jvm.Cond.static ({ cls := "jdk/internal/util/Preconditions", name := "checkFromIndexSize", desc := "(IIILjava/util/function/BiFunction;)I" } : Jvm.MethodName)) ∈ lw_all := lw_g (lw_at lw_m4 149 rfl) rfl
theorem q994 : (Jvm.Cond.code ({ cls := "jdk/internal/util/Preconditions", name := "checkFromIndexSize", desc := "(IIILjava/util/function/BiFunction;)I" } : Jvm.MethodName) prog_64_method_13_code (4 : Nat) (Option.some Jvm.ClassFile.FieldType.int)) ∈ lw_all := lw_g (lw_at lw_m4 150 rfl) rfl

/-! java/lang/Integer -/
set_option maxRecDepth 100000
def RJ8 : String := "java/lang/Integer"
abbrev cJ8_numberOfTrailingZeros : ByteArray := prog_41_method_48_code
def yJ8_numberOfTrailingZeros : MethodName := ⟨RJ8, "numberOfTrailingZeros", "(I)I"⟩
def dkwJ8_numberOfTrailingZeros_3 : List UInt8 := [5, 124, 59, 27, 26, 4, 124, 96, 172]
abbrev dktJ8_numberOfTrailingZeros_3 : List UInt8 := dkwJ8_numberOfTrailingZeros_3 ++ []
def dkwJ8_numberOfTrailingZeros_2 : List UInt8 := [124, 59, 26, 16, 16, 164, 0, 10, 132, 1, 4, 26, 7, 124, 59, 26, 7, 164, 0, 10, 132, 1, 2, 26]
abbrev dktJ8_numberOfTrailingZeros_2 : List UInt8 := dkwJ8_numberOfTrailingZeros_2 ++ dktJ8_numberOfTrailingZeros_3
def dkwJ8_numberOfTrailingZeros_1 : List UInt8 := [164, 0, 11, 132, 1, 16, 26, 16, 16, 124, 59, 26, 17, 1, 0, 164, 0, 11, 132, 1, 8, 26, 16, 8]
abbrev dktJ8_numberOfTrailingZeros_1 : List UInt8 := dkwJ8_numberOfTrailingZeros_1 ++ dktJ8_numberOfTrailingZeros_2
def dkwJ8_numberOfTrailingZeros_0 : List UInt8 := [26, 2, 130, 26, 4, 100, 126, 59, 26, 157, 0, 8, 26, 16, 32, 126, 172, 4, 60, 26, 19, 1, 8]
abbrev dktJ8_numberOfTrailingZeros_0 : List UInt8 := dkwJ8_numberOfTrailingZeros_0 ++ dktJ8_numberOfTrailingZeros_1
theorem dksJ8_numberOfTrailingZeros_0 : cJ8_numberOfTrailingZeros.data.toList.drop 0 = dktJ8_numberOfTrailingZeros_0 := by decide +kernel
theorem dksJ8_numberOfTrailingZeros_1 : cJ8_numberOfTrailingZeros.data.toList.drop 23 = dktJ8_numberOfTrailingZeros_1 := dk_seg dksJ8_numberOfTrailingZeros_0 23 rfl rfl
theorem dksJ8_numberOfTrailingZeros_2 : cJ8_numberOfTrailingZeros.data.toList.drop 47 = dktJ8_numberOfTrailingZeros_2 := dk_seg dksJ8_numberOfTrailingZeros_1 24 rfl rfl
theorem dksJ8_numberOfTrailingZeros_3 : cJ8_numberOfTrailingZeros.data.toList.drop 71 = dktJ8_numberOfTrailingZeros_3 := dk_seg dksJ8_numberOfTrailingZeros_2 24 rfl rfl
theorem dJ8_numberOfTrailingZeros_0 : decode cJ8_numberOfTrailingZeros 0 = .ok (.iload_n 0, 1) := dk_26 (dk_at dksJ8_numberOfTrailingZeros_0 0 rfl rfl)
theorem dJ8_numberOfTrailingZeros_1 : decode cJ8_numberOfTrailingZeros 1 = .ok (.iconst (-1), 1) := dk_2 (dk_at dksJ8_numberOfTrailingZeros_0 1 rfl rfl)
theorem dJ8_numberOfTrailingZeros_2 : decode cJ8_numberOfTrailingZeros 2 = .ok (.ixor, 1) := dk_130 (dk_at dksJ8_numberOfTrailingZeros_0 2 rfl rfl)
theorem dJ8_numberOfTrailingZeros_3 : decode cJ8_numberOfTrailingZeros 3 = .ok (.iload_n 0, 1) := dk_26 (dk_at dksJ8_numberOfTrailingZeros_0 3 rfl rfl)
theorem dJ8_numberOfTrailingZeros_4 : decode cJ8_numberOfTrailingZeros 4 = .ok (.iconst 1, 1) := dk_4 (dk_at dksJ8_numberOfTrailingZeros_0 4 rfl rfl)
theorem dJ8_numberOfTrailingZeros_5 : decode cJ8_numberOfTrailingZeros 5 = .ok (.isub, 1) := dk_100 (dk_at dksJ8_numberOfTrailingZeros_0 5 rfl rfl)
theorem dJ8_numberOfTrailingZeros_6 : decode cJ8_numberOfTrailingZeros 6 = .ok (.iand, 1) := dk_126 (dk_at dksJ8_numberOfTrailingZeros_0 6 rfl rfl)
theorem dJ8_numberOfTrailingZeros_7 : decode cJ8_numberOfTrailingZeros 7 = .ok (.istore_n 0, 1) := dk_59 (dk_at dksJ8_numberOfTrailingZeros_0 7 rfl rfl)
theorem dJ8_numberOfTrailingZeros_8 : decode cJ8_numberOfTrailingZeros 8 = .ok (.iload_n 0, 1) := dk_26 (dk_at dksJ8_numberOfTrailingZeros_0 8 rfl rfl)
theorem dJ8_numberOfTrailingZeros_9 : decode cJ8_numberOfTrailingZeros 9 = .ok (.ifCond .gt 8, 3) := dk_157 0 8 (dk_at dksJ8_numberOfTrailingZeros_0 9 rfl rfl)
theorem dJ8_numberOfTrailingZeros_12 : decode cJ8_numberOfTrailingZeros 12 = .ok (.iload_n 0, 1) := dk_26 (dk_at dksJ8_numberOfTrailingZeros_0 12 rfl rfl)
theorem dJ8_numberOfTrailingZeros_13 : decode cJ8_numberOfTrailingZeros 13 = .ok (.bipush 32, 2) := dk_16 32 (dk_at dksJ8_numberOfTrailingZeros_0 13 rfl rfl)
theorem dJ8_numberOfTrailingZeros_15 : decode cJ8_numberOfTrailingZeros 15 = .ok (.iand, 1) := dk_126 (dk_at dksJ8_numberOfTrailingZeros_0 15 rfl rfl)
theorem dJ8_numberOfTrailingZeros_16 : decode cJ8_numberOfTrailingZeros 16 = .ok (.ireturn, 1) := dk_172 (dk_at dksJ8_numberOfTrailingZeros_0 16 rfl rfl)
theorem dJ8_numberOfTrailingZeros_17 : decode cJ8_numberOfTrailingZeros 17 = .ok (.iconst 1, 1) := dk_4 (dk_at dksJ8_numberOfTrailingZeros_0 17 rfl rfl)
theorem dJ8_numberOfTrailingZeros_18 : decode cJ8_numberOfTrailingZeros 18 = .ok (.istore_n 1, 1) := dk_60 (dk_at dksJ8_numberOfTrailingZeros_0 18 rfl rfl)
theorem dJ8_numberOfTrailingZeros_19 : decode cJ8_numberOfTrailingZeros 19 = .ok (.iload_n 0, 1) := dk_26 (dk_at dksJ8_numberOfTrailingZeros_0 19 rfl rfl)
theorem dJ8_numberOfTrailingZeros_20 : decode cJ8_numberOfTrailingZeros 20 = .ok (.ldc_w 264, 3) := dk_19 1 8 (dk_at dksJ8_numberOfTrailingZeros_0 20 rfl rfl)
theorem dJ8_numberOfTrailingZeros_23 : decode cJ8_numberOfTrailingZeros 23 = .ok (.if_icmp .le 11, 3) := dk_164 0 11 (dk_at dksJ8_numberOfTrailingZeros_1 0 rfl rfl)
theorem dJ8_numberOfTrailingZeros_26 : decode cJ8_numberOfTrailingZeros 26 = .ok (.iinc 1 16, 3) := dk_132 1 16 (dk_at dksJ8_numberOfTrailingZeros_1 3 rfl rfl)
theorem dJ8_numberOfTrailingZeros_29 : decode cJ8_numberOfTrailingZeros 29 = .ok (.iload_n 0, 1) := dk_26 (dk_at dksJ8_numberOfTrailingZeros_1 6 rfl rfl)
theorem dJ8_numberOfTrailingZeros_30 : decode cJ8_numberOfTrailingZeros 30 = .ok (.bipush 16, 2) := dk_16 16 (dk_at dksJ8_numberOfTrailingZeros_1 7 rfl rfl)
theorem dJ8_numberOfTrailingZeros_32 : decode cJ8_numberOfTrailingZeros 32 = .ok (.iushr, 1) := dk_124 (dk_at dksJ8_numberOfTrailingZeros_1 9 rfl rfl)
theorem dJ8_numberOfTrailingZeros_33 : decode cJ8_numberOfTrailingZeros 33 = .ok (.istore_n 0, 1) := dk_59 (dk_at dksJ8_numberOfTrailingZeros_1 10 rfl rfl)
theorem dJ8_numberOfTrailingZeros_34 : decode cJ8_numberOfTrailingZeros 34 = .ok (.iload_n 0, 1) := dk_26 (dk_at dksJ8_numberOfTrailingZeros_1 11 rfl rfl)
theorem dJ8_numberOfTrailingZeros_35 : decode cJ8_numberOfTrailingZeros 35 = .ok (.sipush 256, 3) := dk_17 1 0 (dk_at dksJ8_numberOfTrailingZeros_1 12 rfl rfl)
theorem dJ8_numberOfTrailingZeros_38 : decode cJ8_numberOfTrailingZeros 38 = .ok (.if_icmp .le 11, 3) := dk_164 0 11 (dk_at dksJ8_numberOfTrailingZeros_1 15 rfl rfl)
theorem dJ8_numberOfTrailingZeros_41 : decode cJ8_numberOfTrailingZeros 41 = .ok (.iinc 1 8, 3) := dk_132 1 8 (dk_at dksJ8_numberOfTrailingZeros_1 18 rfl rfl)
theorem dJ8_numberOfTrailingZeros_44 : decode cJ8_numberOfTrailingZeros 44 = .ok (.iload_n 0, 1) := dk_26 (dk_at dksJ8_numberOfTrailingZeros_1 21 rfl rfl)
theorem dJ8_numberOfTrailingZeros_45 : decode cJ8_numberOfTrailingZeros 45 = .ok (.bipush 8, 2) := dk_16 8 (dk_at dksJ8_numberOfTrailingZeros_1 22 rfl rfl)
theorem dJ8_numberOfTrailingZeros_47 : decode cJ8_numberOfTrailingZeros 47 = .ok (.iushr, 1) := dk_124 (dk_at dksJ8_numberOfTrailingZeros_2 0 rfl rfl)
theorem dJ8_numberOfTrailingZeros_48 : decode cJ8_numberOfTrailingZeros 48 = .ok (.istore_n 0, 1) := dk_59 (dk_at dksJ8_numberOfTrailingZeros_2 1 rfl rfl)
theorem dJ8_numberOfTrailingZeros_49 : decode cJ8_numberOfTrailingZeros 49 = .ok (.iload_n 0, 1) := dk_26 (dk_at dksJ8_numberOfTrailingZeros_2 2 rfl rfl)
theorem dJ8_numberOfTrailingZeros_50 : decode cJ8_numberOfTrailingZeros 50 = .ok (.bipush 16, 2) := dk_16 16 (dk_at dksJ8_numberOfTrailingZeros_2 3 rfl rfl)
theorem dJ8_numberOfTrailingZeros_52 : decode cJ8_numberOfTrailingZeros 52 = .ok (.if_icmp .le 10, 3) := dk_164 0 10 (dk_at dksJ8_numberOfTrailingZeros_2 5 rfl rfl)
theorem dJ8_numberOfTrailingZeros_55 : decode cJ8_numberOfTrailingZeros 55 = .ok (.iinc 1 4, 3) := dk_132 1 4 (dk_at dksJ8_numberOfTrailingZeros_2 8 rfl rfl)
theorem dJ8_numberOfTrailingZeros_58 : decode cJ8_numberOfTrailingZeros 58 = .ok (.iload_n 0, 1) := dk_26 (dk_at dksJ8_numberOfTrailingZeros_2 11 rfl rfl)
theorem dJ8_numberOfTrailingZeros_59 : decode cJ8_numberOfTrailingZeros 59 = .ok (.iconst 4, 1) := dk_7 (dk_at dksJ8_numberOfTrailingZeros_2 12 rfl rfl)
theorem dJ8_numberOfTrailingZeros_60 : decode cJ8_numberOfTrailingZeros 60 = .ok (.iushr, 1) := dk_124 (dk_at dksJ8_numberOfTrailingZeros_2 13 rfl rfl)
theorem dJ8_numberOfTrailingZeros_61 : decode cJ8_numberOfTrailingZeros 61 = .ok (.istore_n 0, 1) := dk_59 (dk_at dksJ8_numberOfTrailingZeros_2 14 rfl rfl)
theorem dJ8_numberOfTrailingZeros_62 : decode cJ8_numberOfTrailingZeros 62 = .ok (.iload_n 0, 1) := dk_26 (dk_at dksJ8_numberOfTrailingZeros_2 15 rfl rfl)
theorem dJ8_numberOfTrailingZeros_63 : decode cJ8_numberOfTrailingZeros 63 = .ok (.iconst 4, 1) := dk_7 (dk_at dksJ8_numberOfTrailingZeros_2 16 rfl rfl)
theorem dJ8_numberOfTrailingZeros_64 : decode cJ8_numberOfTrailingZeros 64 = .ok (.if_icmp .le 10, 3) := dk_164 0 10 (dk_at dksJ8_numberOfTrailingZeros_2 17 rfl rfl)
theorem dJ8_numberOfTrailingZeros_67 : decode cJ8_numberOfTrailingZeros 67 = .ok (.iinc 1 2, 3) := dk_132 1 2 (dk_at dksJ8_numberOfTrailingZeros_2 20 rfl rfl)
theorem dJ8_numberOfTrailingZeros_70 : decode cJ8_numberOfTrailingZeros 70 = .ok (.iload_n 0, 1) := dk_26 (dk_at dksJ8_numberOfTrailingZeros_2 23 rfl rfl)
theorem dJ8_numberOfTrailingZeros_71 : decode cJ8_numberOfTrailingZeros 71 = .ok (.iconst 2, 1) := dk_5 (dk_at dksJ8_numberOfTrailingZeros_3 0 rfl rfl)
theorem dJ8_numberOfTrailingZeros_72 : decode cJ8_numberOfTrailingZeros 72 = .ok (.iushr, 1) := dk_124 (dk_at dksJ8_numberOfTrailingZeros_3 1 rfl rfl)
theorem dJ8_numberOfTrailingZeros_73 : decode cJ8_numberOfTrailingZeros 73 = .ok (.istore_n 0, 1) := dk_59 (dk_at dksJ8_numberOfTrailingZeros_3 2 rfl rfl)
theorem dJ8_numberOfTrailingZeros_74 : decode cJ8_numberOfTrailingZeros 74 = .ok (.iload_n 1, 1) := dk_27 (dk_at dksJ8_numberOfTrailingZeros_3 3 rfl rfl)
theorem dJ8_numberOfTrailingZeros_75 : decode cJ8_numberOfTrailingZeros 75 = .ok (.iload_n 0, 1) := dk_26 (dk_at dksJ8_numberOfTrailingZeros_3 4 rfl rfl)
theorem dJ8_numberOfTrailingZeros_76 : decode cJ8_numberOfTrailingZeros 76 = .ok (.iconst 1, 1) := dk_4 (dk_at dksJ8_numberOfTrailingZeros_3 5 rfl rfl)
theorem dJ8_numberOfTrailingZeros_77 : decode cJ8_numberOfTrailingZeros 77 = .ok (.iushr, 1) := dk_124 (dk_at dksJ8_numberOfTrailingZeros_3 6 rfl rfl)
theorem dJ8_numberOfTrailingZeros_78 : decode cJ8_numberOfTrailingZeros 78 = .ok (.iadd, 1) := dk_96 (dk_at dksJ8_numberOfTrailingZeros_3 7 rfl rfl)
theorem dJ8_numberOfTrailingZeros_79 : decode cJ8_numberOfTrailingZeros 79 = .ok (.ireturn, 1) := dk_172 (dk_at dksJ8_numberOfTrailingZeros_3 8 rfl rfl)
abbrev cJ8_bitCount : ByteArray := prog_41_method_49_code
def yJ8_bitCount : MethodName := ⟨RJ8, "bitCount", "(I)I"⟩
def dkwJ8_bitCount_2 : List UInt8 := [26, 16, 63, 126, 172]
abbrev dktJ8_bitCount_2 : List UInt8 := dkwJ8_bitCount_2 ++ []
def dkwJ8_bitCount_1 : List UInt8 := [26, 26, 7, 124, 96, 19, 1, 11, 126, 59, 26, 26, 16, 8, 124, 96, 59, 26, 26, 16, 16, 124, 96, 59]
abbrev dktJ8_bitCount_1 : List UInt8 := dkwJ8_bitCount_1 ++ dktJ8_bitCount_2
def dkwJ8_bitCount_0 : List UInt8 := [26, 26, 4, 124, 19, 1, 9, 126, 100, 59, 26, 19, 1, 10, 126, 26, 5, 124, 19, 1, 10, 126, 96, 59]
abbrev dktJ8_bitCount_0 : List UInt8 := dkwJ8_bitCount_0 ++ dktJ8_bitCount_1
theorem dksJ8_bitCount_0 : cJ8_bitCount.data.toList.drop 0 = dktJ8_bitCount_0 := by decide +kernel
theorem dksJ8_bitCount_1 : cJ8_bitCount.data.toList.drop 24 = dktJ8_bitCount_1 := dk_seg dksJ8_bitCount_0 24 rfl rfl
theorem dksJ8_bitCount_2 : cJ8_bitCount.data.toList.drop 48 = dktJ8_bitCount_2 := dk_seg dksJ8_bitCount_1 24 rfl rfl
theorem dJ8_bitCount_0 : decode cJ8_bitCount 0 = .ok (.iload_n 0, 1) := dk_26 (dk_at dksJ8_bitCount_0 0 rfl rfl)
theorem dJ8_bitCount_1 : decode cJ8_bitCount 1 = .ok (.iload_n 0, 1) := dk_26 (dk_at dksJ8_bitCount_0 1 rfl rfl)
theorem dJ8_bitCount_2 : decode cJ8_bitCount 2 = .ok (.iconst 1, 1) := dk_4 (dk_at dksJ8_bitCount_0 2 rfl rfl)
theorem dJ8_bitCount_3 : decode cJ8_bitCount 3 = .ok (.iushr, 1) := dk_124 (dk_at dksJ8_bitCount_0 3 rfl rfl)
theorem dJ8_bitCount_4 : decode cJ8_bitCount 4 = .ok (.ldc_w 265, 3) := dk_19 1 9 (dk_at dksJ8_bitCount_0 4 rfl rfl)
theorem dJ8_bitCount_7 : decode cJ8_bitCount 7 = .ok (.iand, 1) := dk_126 (dk_at dksJ8_bitCount_0 7 rfl rfl)
theorem dJ8_bitCount_8 : decode cJ8_bitCount 8 = .ok (.isub, 1) := dk_100 (dk_at dksJ8_bitCount_0 8 rfl rfl)
theorem dJ8_bitCount_9 : decode cJ8_bitCount 9 = .ok (.istore_n 0, 1) := dk_59 (dk_at dksJ8_bitCount_0 9 rfl rfl)
theorem dJ8_bitCount_10 : decode cJ8_bitCount 10 = .ok (.iload_n 0, 1) := dk_26 (dk_at dksJ8_bitCount_0 10 rfl rfl)
theorem dJ8_bitCount_11 : decode cJ8_bitCount 11 = .ok (.ldc_w 266, 3) := dk_19 1 10 (dk_at dksJ8_bitCount_0 11 rfl rfl)
theorem dJ8_bitCount_14 : decode cJ8_bitCount 14 = .ok (.iand, 1) := dk_126 (dk_at dksJ8_bitCount_0 14 rfl rfl)
theorem dJ8_bitCount_15 : decode cJ8_bitCount 15 = .ok (.iload_n 0, 1) := dk_26 (dk_at dksJ8_bitCount_0 15 rfl rfl)
theorem dJ8_bitCount_16 : decode cJ8_bitCount 16 = .ok (.iconst 2, 1) := dk_5 (dk_at dksJ8_bitCount_0 16 rfl rfl)
theorem dJ8_bitCount_17 : decode cJ8_bitCount 17 = .ok (.iushr, 1) := dk_124 (dk_at dksJ8_bitCount_0 17 rfl rfl)
theorem dJ8_bitCount_18 : decode cJ8_bitCount 18 = .ok (.ldc_w 266, 3) := dk_19 1 10 (dk_at dksJ8_bitCount_0 18 rfl rfl)
theorem dJ8_bitCount_21 : decode cJ8_bitCount 21 = .ok (.iand, 1) := dk_126 (dk_at dksJ8_bitCount_0 21 rfl rfl)
theorem dJ8_bitCount_22 : decode cJ8_bitCount 22 = .ok (.iadd, 1) := dk_96 (dk_at dksJ8_bitCount_0 22 rfl rfl)
theorem dJ8_bitCount_23 : decode cJ8_bitCount 23 = .ok (.istore_n 0, 1) := dk_59 (dk_at dksJ8_bitCount_0 23 rfl rfl)
theorem dJ8_bitCount_24 : decode cJ8_bitCount 24 = .ok (.iload_n 0, 1) := dk_26 (dk_at dksJ8_bitCount_1 0 rfl rfl)
theorem dJ8_bitCount_25 : decode cJ8_bitCount 25 = .ok (.iload_n 0, 1) := dk_26 (dk_at dksJ8_bitCount_1 1 rfl rfl)
theorem dJ8_bitCount_26 : decode cJ8_bitCount 26 = .ok (.iconst 4, 1) := dk_7 (dk_at dksJ8_bitCount_1 2 rfl rfl)
theorem dJ8_bitCount_27 : decode cJ8_bitCount 27 = .ok (.iushr, 1) := dk_124 (dk_at dksJ8_bitCount_1 3 rfl rfl)
theorem dJ8_bitCount_28 : decode cJ8_bitCount 28 = .ok (.iadd, 1) := dk_96 (dk_at dksJ8_bitCount_1 4 rfl rfl)
theorem dJ8_bitCount_29 : decode cJ8_bitCount 29 = .ok (.ldc_w 267, 3) := dk_19 1 11 (dk_at dksJ8_bitCount_1 5 rfl rfl)
theorem dJ8_bitCount_32 : decode cJ8_bitCount 32 = .ok (.iand, 1) := dk_126 (dk_at dksJ8_bitCount_1 8 rfl rfl)
theorem dJ8_bitCount_33 : decode cJ8_bitCount 33 = .ok (.istore_n 0, 1) := dk_59 (dk_at dksJ8_bitCount_1 9 rfl rfl)
theorem dJ8_bitCount_34 : decode cJ8_bitCount 34 = .ok (.iload_n 0, 1) := dk_26 (dk_at dksJ8_bitCount_1 10 rfl rfl)
theorem dJ8_bitCount_35 : decode cJ8_bitCount 35 = .ok (.iload_n 0, 1) := dk_26 (dk_at dksJ8_bitCount_1 11 rfl rfl)
theorem dJ8_bitCount_36 : decode cJ8_bitCount 36 = .ok (.bipush 8, 2) := dk_16 8 (dk_at dksJ8_bitCount_1 12 rfl rfl)
theorem dJ8_bitCount_38 : decode cJ8_bitCount 38 = .ok (.iushr, 1) := dk_124 (dk_at dksJ8_bitCount_1 14 rfl rfl)
theorem dJ8_bitCount_39 : decode cJ8_bitCount 39 = .ok (.iadd, 1) := dk_96 (dk_at dksJ8_bitCount_1 15 rfl rfl)
theorem dJ8_bitCount_40 : decode cJ8_bitCount 40 = .ok (.istore_n 0, 1) := dk_59 (dk_at dksJ8_bitCount_1 16 rfl rfl)
theorem dJ8_bitCount_41 : decode cJ8_bitCount 41 = .ok (.iload_n 0, 1) := dk_26 (dk_at dksJ8_bitCount_1 17 rfl rfl)
theorem dJ8_bitCount_42 : decode cJ8_bitCount 42 = .ok (.iload_n 0, 1) := dk_26 (dk_at dksJ8_bitCount_1 18 rfl rfl)
theorem dJ8_bitCount_43 : decode cJ8_bitCount 43 = .ok (.bipush 16, 2) := dk_16 16 (dk_at dksJ8_bitCount_1 19 rfl rfl)
theorem dJ8_bitCount_45 : decode cJ8_bitCount 45 = .ok (.iushr, 1) := dk_124 (dk_at dksJ8_bitCount_1 21 rfl rfl)
theorem dJ8_bitCount_46 : decode cJ8_bitCount 46 = .ok (.iadd, 1) := dk_96 (dk_at dksJ8_bitCount_1 22 rfl rfl)
theorem dJ8_bitCount_47 : decode cJ8_bitCount 47 = .ok (.istore_n 0, 1) := dk_59 (dk_at dksJ8_bitCount_1 23 rfl rfl)
theorem dJ8_bitCount_48 : decode cJ8_bitCount 48 = .ok (.iload_n 0, 1) := dk_26 (dk_at dksJ8_bitCount_2 0 rfl rfl)
theorem dJ8_bitCount_49 : decode cJ8_bitCount 49 = .ok (.bipush 63, 2) := dk_16 63 (dk_at dksJ8_bitCount_2 1 rfl rfl)
theorem dJ8_bitCount_51 : decode cJ8_bitCount 51 = .ok (.iand, 1) := dk_126 (dk_at dksJ8_bitCount_2 3 rfl rfl)
theorem dJ8_bitCount_52 : decode cJ8_bitCount 52 = .ok (.ireturn, 1) := dk_172 (dk_at dksJ8_bitCount_2 4 rfl rfl)
theorem q144 : (Jvm.Cond.initialized "java/lang/Integer") ∈ lw_all := lw_g (lw_at lw_m1 20 rfl) rfl
theorem q589 : (Jvm.Cond.static ({ cls := "java/lang/Integer", name := "numberOfTrailingZeros", desc := "(I)I" } : Jvm.MethodName)) ∈ lw_all := lw_g (lw_at lw_m2 225 rfl) rfl
theorem q590 : (Jvm.Cond.code ({ cls := "java/lang/Integer", name := "numberOfTrailingZeros", desc := "(I)I" } : Jvm.MethodName) prog_41_method_48_code (2 : Nat) (Option.some Jvm.ClassFile.FieldType.int)) ∈ lw_all := lw_g (lw_at lw_m2 226 rfl) rfl
theorem q591 : (Jvm.Cond.constant "java/lang/Integer" (264 : Nat) (65536 : Int32)) ∈ lw_all := lw_g (lw_at lw_m2 227 rfl) rfl
theorem q687 : (Jvm.Cond.static ({ cls := "java/lang/Integer", name := "bitCount", desc := "(I)I" } : Jvm.MethodName)) ∈ lw_all := lw_g (lw_at lw_m3 83 rfl) rfl
theorem q688 : (Jvm.Cond.code ({ cls := "java/lang/Integer", name := "bitCount", desc := "(I)I" } : Jvm.MethodName) prog_41_method_49_code (1 : Nat) (Option.some Jvm.ClassFile.FieldType.int)) ∈ lw_all := lw_g (lw_at lw_m3 84 rfl) rfl
theorem q689 : (Jvm.Cond.constant "java/lang/Integer" (265 : Nat) (1431655765 : Int32)) ∈ lw_all := lw_g (lw_at lw_m3 85 rfl) rfl
theorem q690 : (Jvm.Cond.constant "java/lang/Integer" (266 : Nat) (858993459 : Int32)) ∈ lw_all := lw_g (lw_at lw_m3 86 rfl) rfl
theorem q691 : (Jvm.Cond.constant "java/lang/Integer" (267 : Nat) (252645135 : Int32)) ∈ lw_all := lw_g (lw_at lw_m3 87 rfl) rfl

/-! java/lang/AbstractStringBuilder -/
set_option maxRecDepth 100000
def RJ9 : String := "java/lang/AbstractStringBuilder"
abbrev cJ9_init : ByteArray := prog_34_method_2_code
def yJ9_init : MethodName := ⟨RJ9, "<init>", "(I)V"⟩
def dkwJ9_init_1 : List UInt8 := [167, 0, 16, 42, 27, 184, 0, 26, 181, 0, 15, 42, 4, 181, 0, 22, 177]
abbrev dktJ9_init_1 : List UInt8 := dkwJ9_init_1 ++ []
def dkwJ9_init_0 : List UInt8 := [42, 183, 0, 3, 178, 0, 18, 153, 0, 18, 42, 27, 188, 8, 181, 0, 15, 42, 3, 181, 0, 22]
abbrev dktJ9_init_0 : List UInt8 := dkwJ9_init_0 ++ dktJ9_init_1
theorem dksJ9_init_0 : cJ9_init.data.toList.drop 0 = dktJ9_init_0 := by decide +kernel
theorem dksJ9_init_1 : cJ9_init.data.toList.drop 22 = dktJ9_init_1 := dk_seg dksJ9_init_0 22 rfl rfl
theorem dJ9_init_0 : decode cJ9_init 0 = .ok (.aload_n 0, 1) := dk_42 (dk_at dksJ9_init_0 0 rfl rfl)
theorem dJ9_init_1 : decode cJ9_init 1 = .ok (.invokespecial 3, 3) := dk_183 0 3 (dk_at dksJ9_init_0 1 rfl rfl)
theorem dJ9_init_4 : decode cJ9_init 4 = .ok (.getstatic 18, 3) := dk_178 0 18 (dk_at dksJ9_init_0 4 rfl rfl)
theorem dJ9_init_7 : decode cJ9_init 7 = .ok (.ifCond .eq 18, 3) := dk_153 0 18 (dk_at dksJ9_init_0 7 rfl rfl)
theorem dJ9_init_10 : decode cJ9_init 10 = .ok (.aload_n 0, 1) := dk_42 (dk_at dksJ9_init_0 10 rfl rfl)
theorem dJ9_init_11 : decode cJ9_init 11 = .ok (.iload_n 1, 1) := dk_27 (dk_at dksJ9_init_0 11 rfl rfl)
theorem dJ9_init_12 : decode cJ9_init 12 = .ok (.newarray .byte, 2) := dk_188_8 (dk_at dksJ9_init_0 12 rfl rfl)
theorem dJ9_init_14 : decode cJ9_init 14 = .ok (.putfield 15, 3) := dk_181 0 15 (dk_at dksJ9_init_0 14 rfl rfl)
theorem dJ9_init_17 : decode cJ9_init 17 = .ok (.aload_n 0, 1) := dk_42 (dk_at dksJ9_init_0 17 rfl rfl)
theorem dJ9_init_18 : decode cJ9_init 18 = .ok (.iconst 0, 1) := dk_3 (dk_at dksJ9_init_0 18 rfl rfl)
theorem dJ9_init_19 : decode cJ9_init 19 = .ok (.putfield 22, 3) := dk_181 0 22 (dk_at dksJ9_init_0 19 rfl rfl)
theorem dJ9_init_22 : decode cJ9_init 22 = .ok (.goto 16, 3) := dk_167 0 16 (dk_at dksJ9_init_1 0 rfl rfl)
theorem dJ9_init_25 : decode cJ9_init 25 = .ok (.aload_n 0, 1) := dk_42 (dk_at dksJ9_init_1 3 rfl rfl)
theorem dJ9_init_26 : decode cJ9_init 26 = .ok (.iload_n 1, 1) := dk_27 (dk_at dksJ9_init_1 4 rfl rfl)
theorem dJ9_init_27 : decode cJ9_init 27 = .ok (.invokestatic 26, 3) := dk_184 0 26 (dk_at dksJ9_init_1 5 rfl rfl)
theorem dJ9_init_30 : decode cJ9_init 30 = .ok (.putfield 15, 3) := dk_181 0 15 (dk_at dksJ9_init_1 8 rfl rfl)
theorem dJ9_init_33 : decode cJ9_init 33 = .ok (.aload_n 0, 1) := dk_42 (dk_at dksJ9_init_1 11 rfl rfl)
theorem dJ9_init_34 : decode cJ9_init 34 = .ok (.iconst 1, 1) := dk_4 (dk_at dksJ9_init_1 12 rfl rfl)
theorem dJ9_init_35 : decode cJ9_init 35 = .ok (.putfield 22, 3) := dk_181 0 22 (dk_at dksJ9_init_1 13 rfl rfl)
theorem dJ9_init_38 : decode cJ9_init 38 = .ok (.return_, 1) := dk_177 (dk_at dksJ9_init_1 16 rfl rfl)
abbrev cJ9_append : ByteArray := prog_34_method_31_code
def yJ9_append : MethodName := ⟨RJ9, "append", "(C)Ljava/lang/AbstractStringBuilder;"⟩
def dkwJ9_append_3 : List UInt8 := [181, 0, 79, 27, 184, 0, 197, 42, 176]
abbrev dktJ9_append_3 : List UInt8 := dkwJ9_append_3 ++ []
def dkwJ9_append_2 : List UInt8 := [182, 0, 83, 153, 0, 7, 42, 182, 0, 195, 42, 180, 0, 15, 42, 89, 180, 0, 79, 90, 4, 96]
abbrev dktJ9_append_2 : List UInt8 := dkwJ9_append_2 ++ dktJ9_append_3
def dkwJ9_append_1 : List UInt8 := [42, 180, 0, 15, 42, 89, 180, 0, 79, 90, 4, 96, 181, 0, 79, 27, 145, 84, 167, 0, 33, 42]
abbrev dktJ9_append_1 : List UInt8 := dkwJ9_append_1 ++ dktJ9_append_2
def dkwJ9_append_0 : List UInt8 := [42, 42, 180, 0, 79, 4, 96, 182, 0, 100, 42, 182, 0, 83, 153, 0, 31, 27, 184, 0, 191, 153, 0, 24]
abbrev dktJ9_append_0 : List UInt8 := dkwJ9_append_0 ++ dktJ9_append_1
theorem dksJ9_append_0 : cJ9_append.data.toList.drop 0 = dktJ9_append_0 := by decide +kernel
theorem dksJ9_append_1 : cJ9_append.data.toList.drop 24 = dktJ9_append_1 := dk_seg dksJ9_append_0 24 rfl rfl
theorem dksJ9_append_2 : cJ9_append.data.toList.drop 46 = dktJ9_append_2 := dk_seg dksJ9_append_1 22 rfl rfl
theorem dksJ9_append_3 : cJ9_append.data.toList.drop 68 = dktJ9_append_3 := dk_seg dksJ9_append_2 22 rfl rfl
theorem dJ9_append_0 : decode cJ9_append 0 = .ok (.aload_n 0, 1) := dk_42 (dk_at dksJ9_append_0 0 rfl rfl)
theorem dJ9_append_1 : decode cJ9_append 1 = .ok (.aload_n 0, 1) := dk_42 (dk_at dksJ9_append_0 1 rfl rfl)
theorem dJ9_append_2 : decode cJ9_append 2 = .ok (.getfield 79, 3) := dk_180 0 79 (dk_at dksJ9_append_0 2 rfl rfl)
theorem dJ9_append_5 : decode cJ9_append 5 = .ok (.iconst 1, 1) := dk_4 (dk_at dksJ9_append_0 5 rfl rfl)
theorem dJ9_append_6 : decode cJ9_append 6 = .ok (.iadd, 1) := dk_96 (dk_at dksJ9_append_0 6 rfl rfl)
theorem dJ9_append_7 : decode cJ9_append 7 = .ok (.invokevirtual 100, 3) := dk_182 0 100 (dk_at dksJ9_append_0 7 rfl rfl)
theorem dJ9_append_10 : decode cJ9_append 10 = .ok (.aload_n 0, 1) := dk_42 (dk_at dksJ9_append_0 10 rfl rfl)
theorem dJ9_append_11 : decode cJ9_append 11 = .ok (.invokevirtual 83, 3) := dk_182 0 83 (dk_at dksJ9_append_0 11 rfl rfl)
theorem dJ9_append_14 : decode cJ9_append 14 = .ok (.ifCond .eq 31, 3) := dk_153 0 31 (dk_at dksJ9_append_0 14 rfl rfl)
theorem dJ9_append_17 : decode cJ9_append 17 = .ok (.iload_n 1, 1) := dk_27 (dk_at dksJ9_append_0 17 rfl rfl)
theorem dJ9_append_18 : decode cJ9_append 18 = .ok (.invokestatic 191, 3) := dk_184 0 191 (dk_at dksJ9_append_0 18 rfl rfl)
theorem dJ9_append_21 : decode cJ9_append 21 = .ok (.ifCond .eq 24, 3) := dk_153 0 24 (dk_at dksJ9_append_0 21 rfl rfl)
theorem dJ9_append_24 : decode cJ9_append 24 = .ok (.aload_n 0, 1) := dk_42 (dk_at dksJ9_append_1 0 rfl rfl)
theorem dJ9_append_25 : decode cJ9_append 25 = .ok (.getfield 15, 3) := dk_180 0 15 (dk_at dksJ9_append_1 1 rfl rfl)
theorem dJ9_append_28 : decode cJ9_append 28 = .ok (.aload_n 0, 1) := dk_42 (dk_at dksJ9_append_1 4 rfl rfl)
theorem dJ9_append_29 : decode cJ9_append 29 = .ok (.dup, 1) := dk_89 (dk_at dksJ9_append_1 5 rfl rfl)
theorem dJ9_append_30 : decode cJ9_append 30 = .ok (.getfield 79, 3) := dk_180 0 79 (dk_at dksJ9_append_1 6 rfl rfl)
theorem dJ9_append_33 : decode cJ9_append 33 = .ok (.dup_x1, 1) := dk_90 (dk_at dksJ9_append_1 9 rfl rfl)
theorem dJ9_append_34 : decode cJ9_append 34 = .ok (.iconst 1, 1) := dk_4 (dk_at dksJ9_append_1 10 rfl rfl)
theorem dJ9_append_35 : decode cJ9_append 35 = .ok (.iadd, 1) := dk_96 (dk_at dksJ9_append_1 11 rfl rfl)
theorem dJ9_append_36 : decode cJ9_append 36 = .ok (.putfield 79, 3) := dk_181 0 79 (dk_at dksJ9_append_1 12 rfl rfl)
theorem dJ9_append_39 : decode cJ9_append 39 = .ok (.iload_n 1, 1) := dk_27 (dk_at dksJ9_append_1 15 rfl rfl)
theorem dJ9_append_40 : decode cJ9_append 40 = .ok (.i2b, 1) := dk_145 (dk_at dksJ9_append_1 16 rfl rfl)
theorem dJ9_append_41 : decode cJ9_append 41 = .ok (.bastore, 1) := dk_84 (dk_at dksJ9_append_1 17 rfl rfl)
theorem dJ9_append_42 : decode cJ9_append 42 = .ok (.goto 33, 3) := dk_167 0 33 (dk_at dksJ9_append_1 18 rfl rfl)
theorem dJ9_append_45 : decode cJ9_append 45 = .ok (.aload_n 0, 1) := dk_42 (dk_at dksJ9_append_1 21 rfl rfl)
theorem dJ9_append_46 : decode cJ9_append 46 = .ok (.invokevirtual 83, 3) := dk_182 0 83 (dk_at dksJ9_append_2 0 rfl rfl)
theorem dJ9_append_49 : decode cJ9_append 49 = .ok (.ifCond .eq 7, 3) := dk_153 0 7 (dk_at dksJ9_append_2 3 rfl rfl)
theorem dJ9_append_52 : decode cJ9_append 52 = .ok (.aload_n 0, 1) := dk_42 (dk_at dksJ9_append_2 6 rfl rfl)
theorem dJ9_append_53 : decode cJ9_append 53 = .ok (.invokevirtual 195, 3) := dk_182 0 195 (dk_at dksJ9_append_2 7 rfl rfl)
theorem dJ9_append_56 : decode cJ9_append 56 = .ok (.aload_n 0, 1) := dk_42 (dk_at dksJ9_append_2 10 rfl rfl)
theorem dJ9_append_57 : decode cJ9_append 57 = .ok (.getfield 15, 3) := dk_180 0 15 (dk_at dksJ9_append_2 11 rfl rfl)
theorem dJ9_append_60 : decode cJ9_append 60 = .ok (.aload_n 0, 1) := dk_42 (dk_at dksJ9_append_2 14 rfl rfl)
theorem dJ9_append_61 : decode cJ9_append 61 = .ok (.dup, 1) := dk_89 (dk_at dksJ9_append_2 15 rfl rfl)
theorem dJ9_append_62 : decode cJ9_append 62 = .ok (.getfield 79, 3) := dk_180 0 79 (dk_at dksJ9_append_2 16 rfl rfl)
theorem dJ9_append_65 : decode cJ9_append 65 = .ok (.dup_x1, 1) := dk_90 (dk_at dksJ9_append_2 19 rfl rfl)
theorem dJ9_append_66 : decode cJ9_append 66 = .ok (.iconst 1, 1) := dk_4 (dk_at dksJ9_append_2 20 rfl rfl)
theorem dJ9_append_67 : decode cJ9_append 67 = .ok (.iadd, 1) := dk_96 (dk_at dksJ9_append_2 21 rfl rfl)
theorem dJ9_append_68 : decode cJ9_append 68 = .ok (.putfield 79, 3) := dk_181 0 79 (dk_at dksJ9_append_3 0 rfl rfl)
theorem dJ9_append_71 : decode cJ9_append 71 = .ok (.iload_n 1, 1) := dk_27 (dk_at dksJ9_append_3 3 rfl rfl)
theorem dJ9_append_72 : decode cJ9_append 72 = .ok (.invokestatic 197, 3) := dk_184 0 197 (dk_at dksJ9_append_3 4 rfl rfl)
theorem dJ9_append_75 : decode cJ9_append 75 = .ok (.aload_n 0, 1) := dk_42 (dk_at dksJ9_append_3 7 rfl rfl)
theorem dJ9_append_76 : decode cJ9_append 76 = .ok (.areturn, 1) := dk_176 (dk_at dksJ9_append_3 8 rfl rfl)
abbrev cJ9_ensureCapacityInternal : ByteArray := prog_34_method_9_code
def yJ9_ensureCapacityInternal : MethodName := ⟨RJ9, "ensureCapacityInternal", "(I)V"⟩
def dkwJ9_ensureCapacityInternal_1 : List UInt8 := [182, 0, 104, 42, 180, 0, 22, 120, 184, 0, 108, 181, 0, 15, 177]
abbrev dktJ9_ensureCapacityInternal_1 : List UInt8 := dkwJ9_ensureCapacityInternal_1 ++ []
def dkwJ9_ensureCapacityInternal_0 : List UInt8 := [42, 180, 0, 15, 190, 42, 180, 0, 22, 122, 61, 27, 28, 100, 158, 0, 24, 42, 42, 180, 0, 15, 42, 27]
abbrev dktJ9_ensureCapacityInternal_0 : List UInt8 := dkwJ9_ensureCapacityInternal_0 ++ dktJ9_ensureCapacityInternal_1
theorem dksJ9_ensureCapacityInternal_0 : cJ9_ensureCapacityInternal.data.toList.drop 0 = dktJ9_ensureCapacityInternal_0 := by decide +kernel
theorem dksJ9_ensureCapacityInternal_1 : cJ9_ensureCapacityInternal.data.toList.drop 24 = dktJ9_ensureCapacityInternal_1 := dk_seg dksJ9_ensureCapacityInternal_0 24 rfl rfl
theorem dJ9_ensureCapacityInternal_0 : decode cJ9_ensureCapacityInternal 0 = .ok (.aload_n 0, 1) := dk_42 (dk_at dksJ9_ensureCapacityInternal_0 0 rfl rfl)
theorem dJ9_ensureCapacityInternal_1 : decode cJ9_ensureCapacityInternal 1 = .ok (.getfield 15, 3) := dk_180 0 15 (dk_at dksJ9_ensureCapacityInternal_0 1 rfl rfl)
theorem dJ9_ensureCapacityInternal_4 : decode cJ9_ensureCapacityInternal 4 = .ok (.arraylength, 1) := dk_190 (dk_at dksJ9_ensureCapacityInternal_0 4 rfl rfl)
theorem dJ9_ensureCapacityInternal_5 : decode cJ9_ensureCapacityInternal 5 = .ok (.aload_n 0, 1) := dk_42 (dk_at dksJ9_ensureCapacityInternal_0 5 rfl rfl)
theorem dJ9_ensureCapacityInternal_6 : decode cJ9_ensureCapacityInternal 6 = .ok (.getfield 22, 3) := dk_180 0 22 (dk_at dksJ9_ensureCapacityInternal_0 6 rfl rfl)
theorem dJ9_ensureCapacityInternal_9 : decode cJ9_ensureCapacityInternal 9 = .ok (.ishr, 1) := dk_122 (dk_at dksJ9_ensureCapacityInternal_0 9 rfl rfl)
theorem dJ9_ensureCapacityInternal_10 : decode cJ9_ensureCapacityInternal 10 = .ok (.istore_n 2, 1) := dk_61 (dk_at dksJ9_ensureCapacityInternal_0 10 rfl rfl)
theorem dJ9_ensureCapacityInternal_11 : decode cJ9_ensureCapacityInternal 11 = .ok (.iload_n 1, 1) := dk_27 (dk_at dksJ9_ensureCapacityInternal_0 11 rfl rfl)
theorem dJ9_ensureCapacityInternal_12 : decode cJ9_ensureCapacityInternal 12 = .ok (.iload_n 2, 1) := dk_28 (dk_at dksJ9_ensureCapacityInternal_0 12 rfl rfl)
theorem dJ9_ensureCapacityInternal_13 : decode cJ9_ensureCapacityInternal 13 = .ok (.isub, 1) := dk_100 (dk_at dksJ9_ensureCapacityInternal_0 13 rfl rfl)
theorem dJ9_ensureCapacityInternal_14 : decode cJ9_ensureCapacityInternal 14 = .ok (.ifCond .le 24, 3) := dk_158 0 24 (dk_at dksJ9_ensureCapacityInternal_0 14 rfl rfl)
theorem dJ9_ensureCapacityInternal_17 : decode cJ9_ensureCapacityInternal 17 = .ok (.aload_n 0, 1) := dk_42 (dk_at dksJ9_ensureCapacityInternal_0 17 rfl rfl)
theorem dJ9_ensureCapacityInternal_18 : decode cJ9_ensureCapacityInternal 18 = .ok (.aload_n 0, 1) := dk_42 (dk_at dksJ9_ensureCapacityInternal_0 18 rfl rfl)
theorem dJ9_ensureCapacityInternal_19 : decode cJ9_ensureCapacityInternal 19 = .ok (.getfield 15, 3) := dk_180 0 15 (dk_at dksJ9_ensureCapacityInternal_0 19 rfl rfl)
theorem dJ9_ensureCapacityInternal_22 : decode cJ9_ensureCapacityInternal 22 = .ok (.aload_n 0, 1) := dk_42 (dk_at dksJ9_ensureCapacityInternal_0 22 rfl rfl)
theorem dJ9_ensureCapacityInternal_23 : decode cJ9_ensureCapacityInternal 23 = .ok (.iload_n 1, 1) := dk_27 (dk_at dksJ9_ensureCapacityInternal_0 23 rfl rfl)
theorem dJ9_ensureCapacityInternal_24 : decode cJ9_ensureCapacityInternal 24 = .ok (.invokevirtual 104, 3) := dk_182 0 104 (dk_at dksJ9_ensureCapacityInternal_1 0 rfl rfl)
theorem dJ9_ensureCapacityInternal_27 : decode cJ9_ensureCapacityInternal 27 = .ok (.aload_n 0, 1) := dk_42 (dk_at dksJ9_ensureCapacityInternal_1 3 rfl rfl)
theorem dJ9_ensureCapacityInternal_28 : decode cJ9_ensureCapacityInternal 28 = .ok (.getfield 22, 3) := dk_180 0 22 (dk_at dksJ9_ensureCapacityInternal_1 4 rfl rfl)
theorem dJ9_ensureCapacityInternal_31 : decode cJ9_ensureCapacityInternal 31 = .ok (.ishl, 1) := dk_120 (dk_at dksJ9_ensureCapacityInternal_1 7 rfl rfl)
theorem dJ9_ensureCapacityInternal_32 : decode cJ9_ensureCapacityInternal 32 = .ok (.invokestatic 108, 3) := dk_184 0 108 (dk_at dksJ9_ensureCapacityInternal_1 8 rfl rfl)
theorem dJ9_ensureCapacityInternal_35 : decode cJ9_ensureCapacityInternal 35 = .ok (.putfield 15, 3) := dk_181 0 15 (dk_at dksJ9_ensureCapacityInternal_1 11 rfl rfl)
theorem dJ9_ensureCapacityInternal_38 : decode cJ9_ensureCapacityInternal 38 = .ok (.return_, 1) := dk_177 (dk_at dksJ9_ensureCapacityInternal_1 14 rfl rfl)
abbrev cJ9_newCapacity : ByteArray := prog_34_method_10_code
def yJ9_newCapacity : MethodName := ⟨RJ9, "newCapacity", "(I)I"⟩
def dkwJ9_newCapacity_2 : List UInt8 := [183, 0, 124, 191, 21, 5, 42, 180, 0, 22, 122, 172]
abbrev dktJ9_newCapacity_2 : List UInt8 := dkwJ9_newCapacity_2 ++ []
def dkwJ9_newCapacity_1 : List UInt8 := [180, 0, 22, 120, 96, 184, 0, 114, 54, 5, 21, 5, 18, 39, 160, 0, 13, 187, 0, 120, 89, 18, 122]
abbrev dktJ9_newCapacity_1 : List UInt8 := dkwJ9_newCapacity_1 ++ dktJ9_newCapacity_2
def dkwJ9_newCapacity_0 : List UInt8 := [42, 180, 0, 15, 190, 61, 27, 42, 180, 0, 22, 120, 62, 29, 28, 100, 54, 4, 28, 21, 4, 28, 5, 42]
abbrev dktJ9_newCapacity_0 : List UInt8 := dkwJ9_newCapacity_0 ++ dktJ9_newCapacity_1
theorem dksJ9_newCapacity_0 : cJ9_newCapacity.data.toList.drop 0 = dktJ9_newCapacity_0 := by decide +kernel
theorem dksJ9_newCapacity_1 : cJ9_newCapacity.data.toList.drop 24 = dktJ9_newCapacity_1 := dk_seg dksJ9_newCapacity_0 24 rfl rfl
theorem dksJ9_newCapacity_2 : cJ9_newCapacity.data.toList.drop 47 = dktJ9_newCapacity_2 := dk_seg dksJ9_newCapacity_1 23 rfl rfl
theorem dJ9_newCapacity_0 : decode cJ9_newCapacity 0 = .ok (.aload_n 0, 1) := dk_42 (dk_at dksJ9_newCapacity_0 0 rfl rfl)
theorem dJ9_newCapacity_1 : decode cJ9_newCapacity 1 = .ok (.getfield 15, 3) := dk_180 0 15 (dk_at dksJ9_newCapacity_0 1 rfl rfl)
theorem dJ9_newCapacity_4 : decode cJ9_newCapacity 4 = .ok (.arraylength, 1) := dk_190 (dk_at dksJ9_newCapacity_0 4 rfl rfl)
theorem dJ9_newCapacity_5 : decode cJ9_newCapacity 5 = .ok (.istore_n 2, 1) := dk_61 (dk_at dksJ9_newCapacity_0 5 rfl rfl)
theorem dJ9_newCapacity_6 : decode cJ9_newCapacity 6 = .ok (.iload_n 1, 1) := dk_27 (dk_at dksJ9_newCapacity_0 6 rfl rfl)
theorem dJ9_newCapacity_7 : decode cJ9_newCapacity 7 = .ok (.aload_n 0, 1) := dk_42 (dk_at dksJ9_newCapacity_0 7 rfl rfl)
theorem dJ9_newCapacity_8 : decode cJ9_newCapacity 8 = .ok (.getfield 22, 3) := dk_180 0 22 (dk_at dksJ9_newCapacity_0 8 rfl rfl)
theorem dJ9_newCapacity_11 : decode cJ9_newCapacity 11 = .ok (.ishl, 1) := dk_120 (dk_at dksJ9_newCapacity_0 11 rfl rfl)
theorem dJ9_newCapacity_12 : decode cJ9_newCapacity 12 = .ok (.istore_n 3, 1) := dk_62 (dk_at dksJ9_newCapacity_0 12 rfl rfl)
theorem dJ9_newCapacity_13 : decode cJ9_newCapacity 13 = .ok (.iload_n 3, 1) := dk_29 (dk_at dksJ9_newCapacity_0 13 rfl rfl)
theorem dJ9_newCapacity_14 : decode cJ9_newCapacity 14 = .ok (.iload_n 2, 1) := dk_28 (dk_at dksJ9_newCapacity_0 14 rfl rfl)
theorem dJ9_newCapacity_15 : decode cJ9_newCapacity 15 = .ok (.isub, 1) := dk_100 (dk_at dksJ9_newCapacity_0 15 rfl rfl)
theorem dJ9_newCapacity_16 : decode cJ9_newCapacity 16 = .ok (.istore 4, 2) := dk_54 4 (dk_at dksJ9_newCapacity_0 16 rfl rfl)
theorem dJ9_newCapacity_18 : decode cJ9_newCapacity 18 = .ok (.iload_n 2, 1) := dk_28 (dk_at dksJ9_newCapacity_0 18 rfl rfl)
theorem dJ9_newCapacity_19 : decode cJ9_newCapacity 19 = .ok (.iload 4, 2) := dk_21 4 (dk_at dksJ9_newCapacity_0 19 rfl rfl)
theorem dJ9_newCapacity_21 : decode cJ9_newCapacity 21 = .ok (.iload_n 2, 1) := dk_28 (dk_at dksJ9_newCapacity_0 21 rfl rfl)
theorem dJ9_newCapacity_22 : decode cJ9_newCapacity 22 = .ok (.iconst 2, 1) := dk_5 (dk_at dksJ9_newCapacity_0 22 rfl rfl)
theorem dJ9_newCapacity_23 : decode cJ9_newCapacity 23 = .ok (.aload_n 0, 1) := dk_42 (dk_at dksJ9_newCapacity_0 23 rfl rfl)
theorem dJ9_newCapacity_24 : decode cJ9_newCapacity 24 = .ok (.getfield 22, 3) := dk_180 0 22 (dk_at dksJ9_newCapacity_1 0 rfl rfl)
theorem dJ9_newCapacity_27 : decode cJ9_newCapacity 27 = .ok (.ishl, 1) := dk_120 (dk_at dksJ9_newCapacity_1 3 rfl rfl)
theorem dJ9_newCapacity_28 : decode cJ9_newCapacity 28 = .ok (.iadd, 1) := dk_96 (dk_at dksJ9_newCapacity_1 4 rfl rfl)
theorem dJ9_newCapacity_29 : decode cJ9_newCapacity 29 = .ok (.invokestatic 114, 3) := dk_184 0 114 (dk_at dksJ9_newCapacity_1 5 rfl rfl)
theorem dJ9_newCapacity_32 : decode cJ9_newCapacity 32 = .ok (.istore 5, 2) := dk_54 5 (dk_at dksJ9_newCapacity_1 8 rfl rfl)
theorem dJ9_newCapacity_34 : decode cJ9_newCapacity 34 = .ok (.iload 5, 2) := dk_21 5 (dk_at dksJ9_newCapacity_1 10 rfl rfl)
theorem dJ9_newCapacity_36 : decode cJ9_newCapacity 36 = .ok (.ldc 39, 2) := dk_18 39 (dk_at dksJ9_newCapacity_1 12 rfl rfl)
theorem dJ9_newCapacity_38 : decode cJ9_newCapacity 38 = .ok (.if_icmp .ne 13, 3) := dk_160 0 13 (dk_at dksJ9_newCapacity_1 14 rfl rfl)
theorem dJ9_newCapacity_41 : decode cJ9_newCapacity 41 = .ok (.new 120, 3) := dk_187 0 120 (dk_at dksJ9_newCapacity_1 17 rfl rfl)
theorem dJ9_newCapacity_44 : decode cJ9_newCapacity 44 = .ok (.dup, 1) := dk_89 (dk_at dksJ9_newCapacity_1 20 rfl rfl)
theorem dJ9_newCapacity_45 : decode cJ9_newCapacity 45 = .ok (.ldc 122, 2) := dk_18 122 (dk_at dksJ9_newCapacity_1 21 rfl rfl)
theorem dJ9_newCapacity_47 : decode cJ9_newCapacity 47 = .ok (.invokespecial 124, 3) := dk_183 0 124 (dk_at dksJ9_newCapacity_2 0 rfl rfl)
theorem dJ9_newCapacity_50 : decode cJ9_newCapacity 50 = .ok (.athrow, 1) := dk_191 (dk_at dksJ9_newCapacity_2 3 rfl rfl)
theorem dJ9_newCapacity_51 : decode cJ9_newCapacity 51 = .ok (.iload 5, 2) := dk_21 5 (dk_at dksJ9_newCapacity_2 4 rfl rfl)
theorem dJ9_newCapacity_53 : decode cJ9_newCapacity 53 = .ok (.aload_n 0, 1) := dk_42 (dk_at dksJ9_newCapacity_2 6 rfl rfl)
theorem dJ9_newCapacity_54 : decode cJ9_newCapacity 54 = .ok (.getfield 22, 3) := dk_180 0 22 (dk_at dksJ9_newCapacity_2 7 rfl rfl)
theorem dJ9_newCapacity_57 : decode cJ9_newCapacity 57 = .ok (.ishr, 1) := dk_122 (dk_at dksJ9_newCapacity_2 10 rfl rfl)
theorem dJ9_newCapacity_58 : decode cJ9_newCapacity 58 = .ok (.ireturn, 1) := dk_172 (dk_at dksJ9_newCapacity_2 11 rfl rfl)
abbrev cJ9_isLatin1 : ByteArray := prog_34_method_68_code
def yJ9_isLatin1 : MethodName := ⟨RJ9, "isLatin1", "()Z"⟩
def dkwJ9_isLatin1_0 : List UInt8 := [178, 0, 18, 153, 0, 14, 42, 180, 0, 22, 154, 0, 7, 4, 167, 0, 4, 3, 172]
abbrev dktJ9_isLatin1_0 : List UInt8 := dkwJ9_isLatin1_0 ++ []
theorem dksJ9_isLatin1_0 : cJ9_isLatin1.data.toList.drop 0 = dktJ9_isLatin1_0 := by decide +kernel
theorem dJ9_isLatin1_0 : decode cJ9_isLatin1 0 = .ok (.getstatic 18, 3) := dk_178 0 18 (dk_at dksJ9_isLatin1_0 0 rfl rfl)
theorem dJ9_isLatin1_3 : decode cJ9_isLatin1 3 = .ok (.ifCond .eq 14, 3) := dk_153 0 14 (dk_at dksJ9_isLatin1_0 3 rfl rfl)
theorem dJ9_isLatin1_6 : decode cJ9_isLatin1 6 = .ok (.aload_n 0, 1) := dk_42 (dk_at dksJ9_isLatin1_0 6 rfl rfl)
theorem dJ9_isLatin1_7 : decode cJ9_isLatin1 7 = .ok (.getfield 22, 3) := dk_180 0 22 (dk_at dksJ9_isLatin1_0 7 rfl rfl)
theorem dJ9_isLatin1_10 : decode cJ9_isLatin1 10 = .ok (.ifCond .ne 7, 3) := dk_154 0 7 (dk_at dksJ9_isLatin1_0 10 rfl rfl)
theorem dJ9_isLatin1_13 : decode cJ9_isLatin1 13 = .ok (.iconst 1, 1) := dk_4 (dk_at dksJ9_isLatin1_0 13 rfl rfl)
theorem dJ9_isLatin1_14 : decode cJ9_isLatin1 14 = .ok (.goto 4, 3) := dk_167 0 4 (dk_at dksJ9_isLatin1_0 14 rfl rfl)
theorem dJ9_isLatin1_17 : decode cJ9_isLatin1 17 = .ok (.iconst 0, 1) := dk_3 (dk_at dksJ9_isLatin1_0 17 rfl rfl)
theorem dJ9_isLatin1_18 : decode cJ9_isLatin1 18 = .ok (.ireturn, 1) := dk_172 (dk_at dksJ9_isLatin1_0 18 rfl rfl)
abbrev cJ9_inflate : ByteArray := prog_34_method_11_code
def yJ9_inflate : MethodName := ⟨RJ9, "inflate", "()V"⟩
def dkwJ9_inflate_1 : List UInt8 := [42, 180, 0, 79, 184, 0, 125, 42, 43, 181, 0, 15, 42, 4, 181, 0, 22, 177]
abbrev dktJ9_inflate_1 : List UInt8 := dkwJ9_inflate_1 ++ []
def dkwJ9_inflate_0 : List UInt8 := [42, 182, 0, 83, 154, 0, 4, 177, 42, 180, 0, 15, 190, 184, 0, 26, 76, 42, 180, 0, 15, 3, 43, 3]
abbrev dktJ9_inflate_0 : List UInt8 := dkwJ9_inflate_0 ++ dktJ9_inflate_1
theorem dksJ9_inflate_0 : cJ9_inflate.data.toList.drop 0 = dktJ9_inflate_0 := by decide +kernel
theorem dksJ9_inflate_1 : cJ9_inflate.data.toList.drop 24 = dktJ9_inflate_1 := dk_seg dksJ9_inflate_0 24 rfl rfl
theorem dJ9_inflate_0 : decode cJ9_inflate 0 = .ok (.aload_n 0, 1) := dk_42 (dk_at dksJ9_inflate_0 0 rfl rfl)
theorem dJ9_inflate_1 : decode cJ9_inflate 1 = .ok (.invokevirtual 83, 3) := dk_182 0 83 (dk_at dksJ9_inflate_0 1 rfl rfl)
theorem dJ9_inflate_4 : decode cJ9_inflate 4 = .ok (.ifCond .ne 4, 3) := dk_154 0 4 (dk_at dksJ9_inflate_0 4 rfl rfl)
theorem dJ9_inflate_7 : decode cJ9_inflate 7 = .ok (.return_, 1) := dk_177 (dk_at dksJ9_inflate_0 7 rfl rfl)
theorem dJ9_inflate_8 : decode cJ9_inflate 8 = .ok (.aload_n 0, 1) := dk_42 (dk_at dksJ9_inflate_0 8 rfl rfl)
theorem dJ9_inflate_9 : decode cJ9_inflate 9 = .ok (.getfield 15, 3) := dk_180 0 15 (dk_at dksJ9_inflate_0 9 rfl rfl)
theorem dJ9_inflate_12 : decode cJ9_inflate 12 = .ok (.arraylength, 1) := dk_190 (dk_at dksJ9_inflate_0 12 rfl rfl)
theorem dJ9_inflate_13 : decode cJ9_inflate 13 = .ok (.invokestatic 26, 3) := dk_184 0 26 (dk_at dksJ9_inflate_0 13 rfl rfl)
theorem dJ9_inflate_16 : decode cJ9_inflate 16 = .ok (.astore_n 1, 1) := dk_76 (dk_at dksJ9_inflate_0 16 rfl rfl)
theorem dJ9_inflate_17 : decode cJ9_inflate 17 = .ok (.aload_n 0, 1) := dk_42 (dk_at dksJ9_inflate_0 17 rfl rfl)
theorem dJ9_inflate_18 : decode cJ9_inflate 18 = .ok (.getfield 15, 3) := dk_180 0 15 (dk_at dksJ9_inflate_0 18 rfl rfl)
theorem dJ9_inflate_21 : decode cJ9_inflate 21 = .ok (.iconst 0, 1) := dk_3 (dk_at dksJ9_inflate_0 21 rfl rfl)
theorem dJ9_inflate_22 : decode cJ9_inflate 22 = .ok (.aload_n 1, 1) := dk_43 (dk_at dksJ9_inflate_0 22 rfl rfl)
theorem dJ9_inflate_23 : decode cJ9_inflate 23 = .ok (.iconst 0, 1) := dk_3 (dk_at dksJ9_inflate_0 23 rfl rfl)
theorem dJ9_inflate_24 : decode cJ9_inflate 24 = .ok (.aload_n 0, 1) := dk_42 (dk_at dksJ9_inflate_1 0 rfl rfl)
theorem dJ9_inflate_25 : decode cJ9_inflate 25 = .ok (.getfield 79, 3) := dk_180 0 79 (dk_at dksJ9_inflate_1 1 rfl rfl)
theorem dJ9_inflate_28 : decode cJ9_inflate 28 = .ok (.invokestatic 125, 3) := dk_184 0 125 (dk_at dksJ9_inflate_1 4 rfl rfl)
theorem dJ9_inflate_31 : decode cJ9_inflate 31 = .ok (.aload_n 0, 1) := dk_42 (dk_at dksJ9_inflate_1 7 rfl rfl)
theorem dJ9_inflate_32 : decode cJ9_inflate 32 = .ok (.aload_n 1, 1) := dk_43 (dk_at dksJ9_inflate_1 8 rfl rfl)
theorem dJ9_inflate_33 : decode cJ9_inflate 33 = .ok (.putfield 15, 3) := dk_181 0 15 (dk_at dksJ9_inflate_1 9 rfl rfl)
theorem dJ9_inflate_36 : decode cJ9_inflate 36 = .ok (.aload_n 0, 1) := dk_42 (dk_at dksJ9_inflate_1 12 rfl rfl)
theorem dJ9_inflate_37 : decode cJ9_inflate 37 = .ok (.iconst 1, 1) := dk_4 (dk_at dksJ9_inflate_1 13 rfl rfl)
theorem dJ9_inflate_38 : decode cJ9_inflate 38 = .ok (.putfield 22, 3) := dk_181 0 22 (dk_at dksJ9_inflate_1 14 rfl rfl)
theorem dJ9_inflate_41 : decode cJ9_inflate 41 = .ok (.return_, 1) := dk_177 (dk_at dksJ9_inflate_1 17 rfl rfl)
abbrev cJ9_getValue : ByteArray := prog_34_method_64_code
def yJ9_getValue : MethodName := ⟨RJ9, "getValue", "()[B"⟩
theorem dJ9_getValue_0 : decode cJ9_getValue 0 = .ok (.aload_n 0, 1) := by decide +kernel
theorem dJ9_getValue_1 : decode cJ9_getValue 1 = .ok (.getfield 15, 3) := by decide +kernel
theorem dJ9_getValue_4 : decode cJ9_getValue 4 = .ok (.areturn, 1) := by decide +kernel
abbrev cJ9_length : ByteArray := prog_34_method_6_code
def yJ9_length : MethodName := ⟨RJ9, "length", "()I"⟩
theorem dJ9_length_0 : decode cJ9_length 0 = .ok (.aload_n 0, 1) := by decide +kernel
theorem dJ9_length_1 : decode cJ9_length 1 = .ok (.getfield 79, 3) := by decide +kernel
theorem dJ9_length_4 : decode cJ9_length 4 = .ok (.ireturn, 1) := by decide +kernel
theorem q147 : (Jvm.Cond.initialized "java/lang/AbstractStringBuilder") ∈ lw_all := lw_g (lw_at lw_m1 23 rfl) rfl
theorem q911 : (Jvm.Cond.instanceMethod ({ cls := "java/lang/AbstractStringBuilder", name := "<init>", desc := "(I)V" } : Jvm.MethodName)) ∈ lw_all := lw_g (lw_at lw_m4 67 rfl) rfl
theorem q912 : (Jvm.Cond.code ({ cls := "java/lang/AbstractStringBuilder", name := "<init>", desc := "(I)V" } : Jvm.MethodName) prog_34_method_2_code (2 : Nat) (Option.none : Option Jvm.ClassFile.FieldType)) ∈ lw_all := lw_g (lw_at lw_m4 68 rfl) rfl
theorem q913 : (Jvm.Cond.methodLink "java/lang/AbstractStringBuilder" (3 : Nat) ({ cls := "java/lang/Object", name := "<init>", desc := "()V" } : Jvm.MethodName)) ∈ lw_all := lw_g (lw_at lw_m4 69 rfl) rfl
theorem q914 : (Jvm.Cond.fieldLink "java/lang/AbstractStringBuilder" (18 : Nat) "java/lang/String" "COMPACT_STRINGS" "Z") ∈ lw_all := lw_g (lw_at lw_m4 70 rfl) rfl
theorem q916 : (Jvm.Cond.methodLink "java/lang/AbstractStringBuilder" (26 : Nat) ({ cls := "java/lang/StringUTF16", name := "newBytesFor", desc := "(I)[B" } : Jvm.MethodName)) ∈ lw_all := lw_g (lw_at lw_m4 72 rfl) rfl
theorem q923 : (Jvm.Cond.fieldLink "java/lang/AbstractStringBuilder" (15 : Nat) "java/lang/AbstractStringBuilder" "value" "[B") ∈ lw_all := lw_g (lw_at lw_m4 79 rfl) rfl
theorem q924 : (Jvm.Cond.fieldLink "java/lang/AbstractStringBuilder" (22 : Nat) "java/lang/AbstractStringBuilder" "coder" "B") ∈ lw_all := lw_g (lw_at lw_m4 80 rfl) rfl
theorem q926 : (Jvm.Cond.fieldLink "java/lang/AbstractStringBuilder" (79 : Nat) "java/lang/AbstractStringBuilder" "count" "I") ∈ lw_all := lw_g (lw_at lw_m4 82 rfl) rfl
theorem q928 : (Jvm.Cond.soleField "java/lang/AbstractStringBuilder" "value") ∈ lw_all := lw_g (lw_at lw_m4 84 rfl) rfl
theorem q930 : (Jvm.Cond.soleField "java/lang/AbstractStringBuilder" "coder") ∈ lw_all := lw_g (lw_at lw_m4 86 rfl) rfl
theorem q932 : (Jvm.Cond.soleField "java/lang/AbstractStringBuilder" "maybeLatin1") ∈ lw_all := lw_g (lw_at lw_m4 88 rfl) rfl
theorem q934 : (Jvm.Cond.soleField "java/lang/AbstractStringBuilder" "count") ∈ lw_all := lw_g (lw_at lw_m4 90 rfl) rfl
theorem q941 : (Jvm.Cond.instanceMethod ({ cls := "java/lang/AbstractStringBuilder", name := "append", desc := "(C)Ljava/lang/AbstractStringBuilder;" } : Jvm.MethodName)) ∈ lw_all := lw_g (lw_at lw_m4 97 rfl) rfl
theorem q942 : (Jvm.Cond.code ({ cls := "java/lang/AbstractStringBuilder", name := "append", desc := "(C)Ljava/lang/AbstractStringBuilder;" } : Jvm.MethodName) prog_34_method_31_code (2 : Nat) (Option.some (Jvm.ClassFile.FieldType.object "java/lang/AbstractStringBuilder"))) ∈ lw_all := lw_g (lw_at lw_m4 98 rfl) rfl
theorem q943 : (Jvm.Cond.methodLink "java/lang/AbstractStringBuilder" (100 : Nat) ({ cls := "java/lang/AbstractStringBuilder", name := "ensureCapacityInternal", desc := "(I)V" } : Jvm.MethodName)) ∈ lw_all := lw_g (lw_at lw_m4 99 rfl) rfl
theorem q944 : (Jvm.Cond.privateMethod ({ cls := "java/lang/AbstractStringBuilder", name := "ensureCapacityInternal", desc := "(I)V" } : Jvm.MethodName)) ∈ lw_tbl := lw_at lw_m4 100 rfl
theorem q945 : (Jvm.Cond.instanceMethod ({ cls := "java/lang/AbstractStringBuilder", name := "ensureCapacityInternal", desc := "(I)V" } : Jvm.MethodName)) ∈ lw_all := lw_g (lw_at lw_m4 101 rfl) rfl
theorem q946 : (Jvm.Cond.code ({ cls := "java/lang/AbstractStringBuilder", name := "ensureCapacityInternal", desc := "(I)V" } : Jvm.MethodName) prog_34_method_9_code (3 : Nat) (Option.none : Option Jvm.ClassFile.FieldType)) ∈ lw_all := lw_g (lw_at lw_m4 102 rfl) rfl
theorem q947 : (Jvm.Cond.methodLink "java/lang/AbstractStringBuilder" (104 : Nat) ({ cls := "java/lang/AbstractStringBuilder", name := "newCapacity", desc := "(I)I" } : Jvm.MethodName)) ∈ lw_all := lw_g (lw_at lw_m4 103 rfl) rfl
theorem q948 : (Jvm.Cond.privateMethod ({ cls := "java/lang/AbstractStringBuilder", name := "newCapacity", desc := "(I)I" } : Jvm.MethodName)) ∈ lw_tbl := lw_at lw_m4 104 rfl
theorem q949 : (Jvm.Cond.instanceMethod ({ cls := "java/lang/AbstractStringBuilder", name := "newCapacity", desc := "(I)I" } : Jvm.MethodName)) ∈ lw_all := lw_g (lw_at lw_m4 105 rfl) rfl
theorem q950 : (Jvm.Cond.code ({ cls := "java/lang/AbstractStringBuilder", name := "newCapacity", desc := "(I)I" } : Jvm.MethodName) prog_34_method_10_code (6 : Nat) (Option.some Jvm.ClassFile.FieldType.int)) ∈ lw_all := lw_g (lw_at lw_m4 106 rfl) rfl
theorem q951 : (Jvm.Cond.methodLink "java/lang/AbstractStringBuilder" (114 : Nat) ({ cls := "jdk/internal/util/ArraysSupport", name := "newLength", desc := "(III)I" } : Jvm.MethodName)) ∈ lw_all := lw_g (lw_at lw_m4 107 rfl) rfl
theorem q952 : (Jvm.Cond.constant "java/lang/AbstractStringBuilder" (39 : Nat) (2147483647 : Int32)) ∈ lw_all := lw_g (lw_at lw_m4 108 rfl) rfl
theorem q953 : (Jvm.Cond.methodLink "java/lang/AbstractStringBuilder" (108 : Nat) ({ cls := "java/util/Arrays", name := "copyOf", desc := "([BI)[B" } : Jvm.MethodName)) ∈ lw_all := lw_g (lw_at lw_m4 109 rfl) rfl
theorem q963 : (Jvm.Cond.methodLink "java/lang/AbstractStringBuilder" (83 : Nat) ({ cls := "java/lang/AbstractStringBuilder", name := "isLatin1", desc := "()Z" } : Jvm.MethodName)) ∈ lw_all := lw_g (lw_at lw_m4 119 rfl) rfl
theorem q964 : (Jvm.Cond.instanceMethod ({ cls := "java/lang/AbstractStringBuilder", name := "isLatin1", desc := "()Z" } : Jvm.MethodName)) ∈ lw_all := lw_g (lw_at lw_m4 120 rfl) rfl
theorem q965 : (Jvm.Cond.sameMethod "java/lang/AbstractStringBuilder" "java/lang/AbstractStringBuilder" "isLatin1" "()Z") ∈ lw_all := lw_g (lw_at lw_m4 121 rfl) rfl
theorem q967 : (Jvm.Cond.code ({ cls := "java/lang/AbstractStringBuilder", name := "isLatin1", desc := "()Z" } : Jvm.MethodName) prog_34_method_68_code (1 : Nat) (Option.some Jvm.ClassFile.FieldType.boolean)) ∈ lw_all := lw_g (lw_at lw_m4 123 rfl) rfl
theorem q968 : (Jvm.Cond.methodLink "java/lang/AbstractStringBuilder" (191 : Nat) ({ cls := "java/lang/StringLatin1", name := "canEncode", desc := "(C)Z" } : Jvm.MethodName)) ∈ lw_all := lw_g (lw_at lw_m4 124 rfl) rfl
theorem q971 : (Jvm.Cond.methodLink "java/lang/AbstractStringBuilder" (195 : Nat) ({ cls := "java/lang/AbstractStringBuilder", name := "inflate", desc := "()V" } : Jvm.MethodName)) ∈ lw_all := lw_g (lw_at lw_m4 127 rfl) rfl
theorem q972 : (Jvm.Cond.privateMethod ({ cls := "java/lang/AbstractStringBuilder", name := "inflate", desc := "()V" } : Jvm.MethodName)) ∈ lw_tbl := lw_at lw_m4 128 rfl
theorem q973 : (Jvm.Cond.instanceMethod ({ cls := "java/lang/AbstractStringBuilder", name := "inflate", desc := "()V" } : Jvm.MethodName)) ∈ lw_all := lw_g (lw_at lw_m4 129 rfl) rfl
theorem q974 : (Jvm.Cond.code ({ cls := "java/lang/AbstractStringBuilder", name := "inflate", desc := "()V" } : Jvm.MethodName) prog_34_method_11_code (2 : Nat) (Option.none : Option Jvm.ClassFile.FieldType)) ∈ lw_all := lw_g (lw_at lw_m4 130 rfl) rfl
theorem q975 : (Jvm.Cond.methodLink "java/lang/AbstractStringBuilder" (125 : Nat) ({ cls := "java/lang/StringLatin1", name := "inflate", desc := "([BI[BII)V" } : Jvm.MethodName)) ∈ lw_all := lw_g (lw_at lw_m4 131 rfl) rfl
theorem q1004 : (Jvm.Cond.methodLink "java/lang/AbstractStringBuilder" (197 : Nat) ({ cls := "java/lang/StringUTF16", name := "putCharSB", desc := "([BII)V" } : Jvm.MethodName)) ∈ lw_all := lw_g (lw_at lw_m4 160 rfl) rfl
theorem q1028 : (Jvm.Cond.instanceMethod ({ cls := "java/lang/AbstractStringBuilder", name := "getValue", desc := "()[B" } : Jvm.MethodName)) ∈ lw_all := lw_g (lw_at lw_m4 184 rfl) rfl
theorem q1029 : (Jvm.Cond.sameMethod "java/lang/AbstractStringBuilder" "java/lang/AbstractStringBuilder" "getValue" "()[B") ∈ lw_all := lw_g (lw_at lw_m4 185 rfl) rfl
theorem q1031 : (Jvm.Cond.code ({ cls := "java/lang/AbstractStringBuilder", name := "getValue", desc := "()[B" } : Jvm.MethodName) prog_34_method_64_code (1 : Nat) (Option.some (Jvm.ClassFile.FieldType.array Jvm.ClassFile.FieldType.byte))) ∈ lw_all := lw_g (lw_at lw_m4 187 rfl) rfl
theorem q1033 : (Jvm.Cond.instanceMethod ({ cls := "java/lang/AbstractStringBuilder", name := "length", desc := "()I" } : Jvm.MethodName)) ∈ lw_all := lw_g (lw_at lw_m4 189 rfl) rfl
theorem q1034 : (Jvm.Cond.sameMethod "java/lang/AbstractStringBuilder" "java/lang/AbstractStringBuilder" "length" "()I") ∈ lw_all := lw_g (lw_at lw_m4 190 rfl) rfl
theorem q1039 : (Jvm.Cond.code ({ cls := "java/lang/AbstractStringBuilder", name := "length", desc := "()I" } : Jvm.MethodName) prog_34_method_6_code (1 : Nat) (Option.some Jvm.ClassFile.FieldType.int)) ∈ lw_all := lw_g (lw_at lw_m4 195 rfl) rfl
theorem q2557 : (Jvm.Cond.sameMethod "java/lang/AbstractStringBuilder" "java/lang/AbstractStringBuilder" "append" "(C)Ljava/lang/AbstractStringBuilder;") ∈ lw_all := lw_g (lw_at lw_m11 33 rfl) rfl
theorem q2558 : (Jvm.Cond.sameMethod "java/lang/AbstractStringBuilder" "java/lang/AbstractStringBuilder" "ensureCapacityInternal" "(I)V") ∈ lw_all := lw_g (lw_at lw_m11 34 rfl) rfl
theorem q2559 : (Jvm.Cond.sameMethod "java/lang/AbstractStringBuilder" "java/lang/AbstractStringBuilder" "newCapacity" "(I)I") ∈ lw_all := lw_g (lw_at lw_m11 35 rfl) rfl
theorem q2560 : (Jvm.Cond.sameMethod "java/lang/AbstractStringBuilder" "java/lang/AbstractStringBuilder" "inflate" "()V") ∈ lw_all := lw_g (lw_at lw_m11 36 rfl) rfl
