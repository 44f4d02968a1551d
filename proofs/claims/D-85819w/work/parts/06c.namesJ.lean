/-! java/util/AbstractCollection -/
set_option maxRecDepth 100000
def RJ0 : String := "java/util/AbstractCollection"
abbrev cJ0_init : ByteArray := prog_52_method_1_code
def yJ0_init : MethodName := ⟨RJ0, "<init>", "()V"⟩
theorem dJ0_init_0 : decode cJ0_init 0 = .ok (.aload_n 0, 1) := by decide +kernel
theorem dJ0_init_1 : decode cJ0_init 1 = .ok (.invokespecial 1, 3) := by decide +kernel
theorem dJ0_init_4 : decode cJ0_init 4 = .ok (.return_, 1) := by decide +kernel
theorem q117 : (Jvm.Cond.initialized "java/util/AbstractCollection") ∈ lw_all := lw_g (lw_at lw_m1 5 rfl) rfl
theorem q271 : (Jvm.Cond.instanceMethod ({ cls := "java/util/AbstractCollection", name := "<init>", desc := "()V" } : Jvm.MethodName)) ∈ lw_all := lw_g (lw_at lw_m1 159 rfl) rfl
theorem q272 : (Jvm.Cond.code ({ cls := "java/util/AbstractCollection", name := "<init>", desc := "()V" } : Jvm.MethodName) prog_52_method_1_code (1 : Nat) (Option.none : Option Jvm.ClassFile.FieldType)) ∈ lw_all := lw_g (lw_at lw_m1 160 rfl) rfl
theorem q273 : (Jvm.Cond.methodLink "java/util/AbstractCollection" (1 : Nat) ({ cls := "java/lang/Object", name := "<init>", desc := "()V" } : Jvm.MethodName)) ∈ lw_all := lw_g (lw_at lw_m1 161 rfl) rfl

/-! java/util/AbstractList -/
set_option maxRecDepth 100000
def RJ1 : String := "java/util/AbstractList"
abbrev cJ1_init : ByteArray := prog_53_method_1_code
def yJ1_init : MethodName := ⟨RJ1, "<init>", "()V"⟩
theorem dJ1_init_0 : decode cJ1_init 0 = .ok (.aload_n 0, 1) := by decide +kernel
theorem dJ1_init_1 : decode cJ1_init 1 = .ok (.invokespecial 1, 3) := by decide +kernel
theorem dJ1_init_4 : decode cJ1_init 4 = .ok (.aload_n 0, 1) := by decide +kernel
theorem dJ1_init_5 : decode cJ1_init 5 = .ok (.iconst 0, 1) := by decide +kernel
theorem dJ1_init_6 : decode cJ1_init 6 = .ok (.putfield 7, 3) := by decide +kernel
theorem dJ1_init_9 : decode cJ1_init 9 = .ok (.return_, 1) := by decide +kernel
theorem q118 : (Jvm.Cond.initialized "java/util/AbstractList") ∈ lw_all := lw_g (lw_at lw_m1 6 rfl) rfl
theorem q268 : (Jvm.Cond.instanceMethod ({ cls := "java/util/AbstractList", name := "<init>", desc := "()V" } : Jvm.MethodName)) ∈ lw_all := lw_g (lw_at lw_m1 156 rfl) rfl
theorem q269 : (Jvm.Cond.code ({ cls := "java/util/AbstractList", name := "<init>", desc := "()V" } : Jvm.MethodName) prog_53_method_1_code (1 : Nat) (Option.none : Option Jvm.ClassFile.FieldType)) ∈ lw_all := lw_g (lw_at lw_m1 157 rfl) rfl
theorem q270 : (Jvm.Cond.methodLink "java/util/AbstractList" (1 : Nat) ({ cls := "java/util/AbstractCollection", name := "<init>", desc := "()V" } : Jvm.MethodName)) ∈ lw_all := lw_g (lw_at lw_m1 158 rfl) rfl
theorem q278 : (Jvm.Cond.fieldLink "java/util/AbstractList" (7 : Nat) "java/util/AbstractList" "modCount" "I") ∈ lw_all := lw_g (lw_at lw_m1 166 rfl) rfl
theorem q286 : (Jvm.Cond.soleField "java/util/AbstractList" "modCount") ∈ lw_all := lw_g (lw_at lw_m1 174 rfl) rfl

/-! java/lang/IllegalArgumentException -/
set_option maxRecDepth 100000
def RJ10 : String := "java/lang/IllegalArgumentException"
def TJ10 : u_T := fun k => match k with
  | 0 => ("java/lang/Throwable", "cause", "Ljava/lang/Throwable;", false)
  | 1 => ("java/lang/Throwable", "stackTrace", "[Ljava/lang/StackTraceElement;", false)
  | 2 => ("java/lang/Throwable", "suppressedExceptions", "Ljava/util/List;", false)
  | 3 => ("java/lang/Throwable", "detailMessage", "Ljava/lang/String;", false)
  | 4 => ("java/lang/Throwable", "backtrace", "Ljava/lang/Object;", false)
  | _ => ("java/lang/Throwable", "depth", "I", false)
def tyJ10 : Nat → FieldType := fun k => match k with
  | 0 => .object "java/lang/Throwable"
  | 1 => .array (.object "java/lang/StackTraceElement")
  | 2 => .object "java/util/List"
  | 3 => .object "java/lang/String"
  | 4 => .object "java/lang/Object"
  | _ => .int
abbrev wsJ100 : List Cond := u_ws RJ10 TJ10 6
theorem nmJ10 : ∀ a, a < 6 → ∀ b, b < 6 → a ≠ b → (TJ10 a).2.1 ≠ (TJ10 b).2.1 := by decide +kernel
theorem tyJ10_ok : ∀ k, k < 6 → parseFieldDescriptor (TJ10 k).2.2.1 = some (tyJ10 k) := by decide +kernel
abbrev cJ10_init : ByteArray := prog_36_method_1_code
def yJ10_init : MethodName := ⟨RJ10, "<init>", "()V"⟩
theorem dJ10_init_0 : decode cJ10_init 0 = .ok (.aload_n 0, 1) := by decide +kernel
theorem dJ10_init_1 : decode cJ10_init 1 = .ok (.invokespecial 1, 3) := by decide +kernel
theorem dJ10_init_4 : decode cJ10_init 4 = .ok (.return_, 1) := by decide +kernel
abbrev cJ10_init_2 : ByteArray := prog_36_method_2_code
def yJ10_init_2 : MethodName := ⟨RJ10, "<init>", "(Ljava/lang/String;)V"⟩
theorem dJ10_init_2_0 : decode cJ10_init_2 0 = .ok (.aload_n 0, 1) := by decide +kernel
theorem dJ10_init_2_1 : decode cJ10_init_2 1 = .ok (.aload_n 1, 1) := by decide +kernel
theorem dJ10_init_2_2 : decode cJ10_init_2 2 = .ok (.invokespecial 7, 3) := by decide +kernel
theorem dJ10_init_2_5 : decode cJ10_init_2 5 = .ok (.return_, 1) := by decide +kernel
theorem q128 : (Jvm.Cond.initialized "java/lang/IllegalArgumentException") ∈ lw_all := lw_g (lw_at lw_m1 16 rfl) rfl
theorem q380 : (Jvm.Cond.instantiable "java/lang/IllegalArgumentException" (6 : Nat)) ∈ lw_all := lw_g (lw_at lw_m2 28 rfl) rfl
theorem q381 : (Jvm.Cond.castable "java/lang/IllegalArgumentException" "java/lang/IllegalArgumentException") ∈ lw_tbl := lw_at lw_m2 29 rfl
theorem q388 : (Jvm.Cond.selects "java/lang/IllegalArgumentException" ({ cls := "java/lang/Throwable", name := "fillInStackTrace", desc := "(I)Ljava/lang/Throwable;" } : Jvm.MethodName) ({ cls := "java/lang/Throwable", name := "fillInStackTrace", desc := "(I)Ljava/lang/Throwable;" } : Jvm.MethodName)) ∈ lw_all := lw_g (lw_at lw_m2 36 rfl) rfl
theorem q389 : (Jvm.Cond.selects "java/lang/IllegalArgumentException" ({ cls := "java/lang/Throwable", name := "fillInStackTrace", desc := "()Ljava/lang/Throwable;" } : Jvm.MethodName) ({ cls := "java/lang/Throwable", name := "fillInStackTrace", desc := "()Ljava/lang/Throwable;" } : Jvm.MethodName)) ∈ lw_all := lw_g (lw_at lw_m2 37 rfl) rfl
theorem q390 : (Jvm.Cond.lays "java/lang/IllegalArgumentException" "java/lang/Throwable" "cause" "Ljava/lang/Throwable;") ∈ lw_all := lw_g (lw_at lw_m2 38 rfl) rfl
theorem q392 : (Jvm.Cond.lays "java/lang/IllegalArgumentException" "java/lang/Throwable" "stackTrace" "[Ljava/lang/StackTraceElement;") ∈ lw_all := lw_g (lw_at lw_m2 40 rfl) rfl
theorem q394 : (Jvm.Cond.lays "java/lang/IllegalArgumentException" "java/lang/Throwable" "suppressedExceptions" "Ljava/util/List;") ∈ lw_all := lw_g (lw_at lw_m2 42 rfl) rfl
theorem q396 : (Jvm.Cond.lays "java/lang/IllegalArgumentException" "java/lang/Throwable" "detailMessage" "Ljava/lang/String;") ∈ lw_all := lw_g (lw_at lw_m2 44 rfl) rfl
theorem q398 : (Jvm.Cond.lays "java/lang/IllegalArgumentException" "java/lang/Throwable" "backtrace" "Ljava/lang/Object;") ∈ lw_all := lw_g (lw_at lw_m2 46 rfl) rfl
theorem q422 : (Jvm.Cond.instanceMethod ({ cls := "java/lang/IllegalArgumentException", name := "<init>", desc := "()V" } : Jvm.MethodName)) ∈ lw_all := lw_g (lw_at lw_m2 70 rfl) rfl
theorem q423 : (Jvm.Cond.code ({ cls := "java/lang/IllegalArgumentException", name := "<init>", desc := "()V" } : Jvm.MethodName) prog_36_method_1_code (1 : Nat) (Option.none : Option Jvm.ClassFile.FieldType)) ∈ lw_all := lw_g (lw_at lw_m2 71 rfl) rfl
theorem q424 : (Jvm.Cond.methodLink "java/lang/IllegalArgumentException" (1 : Nat) ({ cls := "java/lang/RuntimeException", name := "<init>", desc := "()V" } : Jvm.MethodName)) ∈ lw_all := lw_g (lw_at lw_m2 72 rfl) rfl
theorem q440 : (Jvm.Cond.lays "java/lang/IllegalArgumentException" "java/lang/Throwable" "depth" "I") ∈ lw_all := lw_g (lw_at lw_m2 88 rfl) rfl
theorem q443 : (Jvm.Cond.superclass "java/lang/IllegalArgumentException" "java/lang/RuntimeException") ∈ lw_all := lw_g (lw_at lw_m2 91 rfl) rfl
theorem q759 : (Jvm.Cond.instanceMethod ({ cls := "java/lang/IllegalArgumentException", name := "<init>", desc := "(Ljava/lang/String;)V" } : Jvm.MethodName)) ∈ lw_all := lw_g (lw_at lw_m3 167 rfl) rfl
theorem q760 : (Jvm.Cond.code ({ cls := "java/lang/IllegalArgumentException", name := "<init>", desc := "(Ljava/lang/String;)V" } : Jvm.MethodName) prog_36_method_2_code (2 : Nat) (Option.none : Option Jvm.ClassFile.FieldType)) ∈ lw_all := lw_g (lw_at lw_m3 168 rfl) rfl
theorem q761 : (Jvm.Cond.methodLink "java/lang/IllegalArgumentException" (7 : Nat) ({ cls := "java/lang/RuntimeException", name := "<init>", desc := "(Ljava/lang/String;)V" } : Jvm.MethodName)) ∈ lw_all := lw_g (lw_at lw_m3 169 rfl) rfl
theorem q1126 : (Jvm.Cond.selects "java/lang/IllegalArgumentException" ({ cls := "java/lang/Object", name := "getClass", desc := "()Ljava/lang/Class;" } : Jvm.MethodName) ({ cls := "java/lang/Object", name := "getClass", desc := "()Ljava/lang/Class;" } : Jvm.MethodName)) ∈ lw_all := lw_g (lw_at lw_m5 54 rfl) rfl
theorem q2579 : (Jvm.Cond.castable "java/lang/IllegalArgumentException" "java/lang/Object") ∈ lw_tbl := lw_at lw_m11 67 rfl
theorem in_J10 : ∀ w ∈ wsJ100, w ∈ lw_all := lw_in wsJ100 [390, 392, 394, 396, 398, 440] (by decide +kernel) (by decide +kernel)

/-! java/lang/Enum -/
set_option maxRecDepth 100000
def RJ11 : String := "java/lang/Enum"
abbrev cJ11_ordinal : ByteArray := prog_34_method_2_code
def yJ11_ordinal : MethodName := ⟨RJ11, "ordinal", "()I"⟩
theorem dJ11_ordinal_0 : decode cJ11_ordinal 0 = .ok (.aload_n 0, 1) := by decide +kernel
theorem dJ11_ordinal_1 : decode cJ11_ordinal 1 = .ok (.getfield 7, 3) := by decide +kernel
theorem dJ11_ordinal_4 : decode cJ11_ordinal 4 = .ok (.ireturn, 1) := by decide +kernel
theorem q130 : (Jvm.Cond.initialized "java/lang/Enum") ∈ lw_all := lw_g (lw_at lw_m1 18 rfl) rfl
theorem q1339 : (Jvm.Cond.declares ({ cls := "java/lang/Enum", name := "ordinal", desc := "()I" } : Jvm.MethodName)) ∈ lw_tbl := lw_at lw_m6 27 rfl
theorem q1341 : (Jvm.Cond.instanceMethod ({ cls := "java/lang/Enum", name := "ordinal", desc := "()I" } : Jvm.MethodName)) ∈ lw_all := lw_g (lw_at lw_m6 29 rfl) rfl
theorem q1342 : (Jvm.Cond.code ({ cls := "java/lang/Enum", name := "ordinal", desc := "()I" } : Jvm.MethodName) prog_34_method_2_code (1 : Nat) (Option.some Jvm.ClassFile.FieldType.int)) ∈ lw_all := lw_g (lw_at lw_m6 30 rfl) rfl
theorem q2614 : (Jvm.Cond.fieldLink "java/lang/Enum" (7 : Nat) "java/lang/Enum" "ordinal" "I") ∈ lw_all := lw_g (lw_at lw_m11 102 rfl) rfl

/-! java/lang/AbstractStringBuilder -/
set_option maxRecDepth 100000
def RJ12 : String := "java/lang/AbstractStringBuilder"
abbrev cJ12_init : ByteArray := prog_28_method_2_code
def yJ12_init : MethodName := ⟨RJ12, "<init>", "(I)V"⟩
theorem dJ12_init_0 : decode cJ12_init 0 = .ok (.aload_n 0, 1) := by decide +kernel
theorem dJ12_init_1 : decode cJ12_init 1 = .ok (.invokespecial 3, 3) := by decide +kernel
theorem dJ12_init_4 : decode cJ12_init 4 = .ok (.getstatic 18, 3) := by decide +kernel
theorem dJ12_init_7 : decode cJ12_init 7 = .ok (.ifCond .eq 18, 3) := by decide +kernel
theorem dJ12_init_10 : decode cJ12_init 10 = .ok (.aload_n 0, 1) := by decide +kernel
theorem dJ12_init_11 : decode cJ12_init 11 = .ok (.iload_n 1, 1) := by decide +kernel
theorem dJ12_init_12 : decode cJ12_init 12 = .ok (.newarray .byte, 2) := by decide +kernel
theorem dJ12_init_14 : decode cJ12_init 14 = .ok (.putfield 15, 3) := by decide +kernel
theorem dJ12_init_17 : decode cJ12_init 17 = .ok (.aload_n 0, 1) := by decide +kernel
theorem dJ12_init_18 : decode cJ12_init 18 = .ok (.iconst 0, 1) := by decide +kernel
theorem dJ12_init_19 : decode cJ12_init 19 = .ok (.putfield 22, 3) := by decide +kernel
theorem dJ12_init_22 : decode cJ12_init 22 = .ok (.goto 16, 3) := by decide +kernel
theorem dJ12_init_25 : decode cJ12_init 25 = .ok (.aload_n 0, 1) := by decide +kernel
theorem dJ12_init_26 : decode cJ12_init 26 = .ok (.iload_n 1, 1) := by decide +kernel
theorem dJ12_init_27 : decode cJ12_init 27 = .ok (.invokestatic 26, 3) := by decide +kernel
theorem dJ12_init_30 : decode cJ12_init 30 = .ok (.putfield 15, 3) := by decide +kernel
theorem dJ12_init_33 : decode cJ12_init 33 = .ok (.aload_n 0, 1) := by decide +kernel
theorem dJ12_init_34 : decode cJ12_init 34 = .ok (.iconst 1, 1) := by decide +kernel
theorem dJ12_init_35 : decode cJ12_init 35 = .ok (.putfield 22, 3) := by decide +kernel
theorem dJ12_init_38 : decode cJ12_init 38 = .ok (.return_, 1) := by decide +kernel
abbrev cJ12_length : ByteArray := prog_28_method_6_code
def yJ12_length : MethodName := ⟨RJ12, "length", "()I"⟩
theorem dJ12_length_0 : decode cJ12_length 0 = .ok (.aload_n 0, 1) := by decide +kernel
theorem dJ12_length_1 : decode cJ12_length 1 = .ok (.getfield 79, 3) := by decide +kernel
theorem dJ12_length_4 : decode cJ12_length 4 = .ok (.ireturn, 1) := by decide +kernel
abbrev cJ12_append : ByteArray := prog_28_method_31_code
def yJ12_append : MethodName := ⟨RJ12, "append", "(C)Ljava/lang/AbstractStringBuilder;"⟩
theorem dJ12_append_0 : decode cJ12_append 0 = .ok (.aload_n 0, 1) := by decide +kernel
theorem dJ12_append_1 : decode cJ12_append 1 = .ok (.aload_n 0, 1) := by decide +kernel
theorem dJ12_append_2 : decode cJ12_append 2 = .ok (.getfield 79, 3) := by decide +kernel
theorem dJ12_append_5 : decode cJ12_append 5 = .ok (.iconst 1, 1) := by decide +kernel
theorem dJ12_append_6 : decode cJ12_append 6 = .ok (.iadd, 1) := by decide +kernel
theorem dJ12_append_7 : decode cJ12_append 7 = .ok (.invokevirtual 100, 3) := by decide +kernel
theorem dJ12_append_10 : decode cJ12_append 10 = .ok (.aload_n 0, 1) := by decide +kernel
theorem dJ12_append_11 : decode cJ12_append 11 = .ok (.invokevirtual 83, 3) := by decide +kernel
theorem dJ12_append_14 : decode cJ12_append 14 = .ok (.ifCond .eq 31, 3) := by decide +kernel
theorem dJ12_append_17 : decode cJ12_append 17 = .ok (.iload_n 1, 1) := by decide +kernel
theorem dJ12_append_18 : decode cJ12_append 18 = .ok (.invokestatic 191, 3) := by decide +kernel
theorem dJ12_append_21 : decode cJ12_append 21 = .ok (.ifCond .eq 24, 3) := by decide +kernel
theorem dJ12_append_24 : decode cJ12_append 24 = .ok (.aload_n 0, 1) := by decide +kernel
theorem dJ12_append_25 : decode cJ12_append 25 = .ok (.getfield 15, 3) := by decide +kernel
theorem dJ12_append_28 : decode cJ12_append 28 = .ok (.aload_n 0, 1) := by decide +kernel
theorem dJ12_append_29 : decode cJ12_append 29 = .ok (.dup, 1) := by decide +kernel
theorem dJ12_append_30 : decode cJ12_append 30 = .ok (.getfield 79, 3) := by decide +kernel
theorem dJ12_append_33 : decode cJ12_append 33 = .ok (.dup_x1, 1) := by decide +kernel
theorem dJ12_append_34 : decode cJ12_append 34 = .ok (.iconst 1, 1) := by decide +kernel
theorem dJ12_append_35 : decode cJ12_append 35 = .ok (.iadd, 1) := by decide +kernel
theorem dJ12_append_36 : decode cJ12_append 36 = .ok (.putfield 79, 3) := by decide +kernel
theorem dJ12_append_39 : decode cJ12_append 39 = .ok (.iload_n 1, 1) := by decide +kernel
theorem dJ12_append_40 : decode cJ12_append 40 = .ok (.i2b, 1) := by decide +kernel
theorem dJ12_append_41 : decode cJ12_append 41 = .ok (.bastore, 1) := by decide +kernel
theorem dJ12_append_42 : decode cJ12_append 42 = .ok (.goto 33, 3) := by decide +kernel
theorem dJ12_append_45 : decode cJ12_append 45 = .ok (.aload_n 0, 1) := by decide +kernel
theorem dJ12_append_46 : decode cJ12_append 46 = .ok (.invokevirtual 83, 3) := by decide +kernel
theorem dJ12_append_49 : decode cJ12_append 49 = .ok (.ifCond .eq 7, 3) := by decide +kernel
theorem dJ12_append_52 : decode cJ12_append 52 = .ok (.aload_n 0, 1) := by decide +kernel
theorem dJ12_append_53 : decode cJ12_append 53 = .ok (.invokevirtual 195, 3) := by decide +kernel
theorem dJ12_append_56 : decode cJ12_append 56 = .ok (.aload_n 0, 1) := by decide +kernel
theorem dJ12_append_57 : decode cJ12_append 57 = .ok (.getfield 15, 3) := by decide +kernel
theorem dJ12_append_60 : decode cJ12_append 60 = .ok (.aload_n 0, 1) := by decide +kernel
theorem dJ12_append_61 : decode cJ12_append 61 = .ok (.dup, 1) := by decide +kernel
theorem dJ12_append_62 : decode cJ12_append 62 = .ok (.getfield 79, 3) := by decide +kernel
theorem dJ12_append_65 : decode cJ12_append 65 = .ok (.dup_x1, 1) := by decide +kernel
theorem dJ12_append_66 : decode cJ12_append 66 = .ok (.iconst 1, 1) := by decide +kernel
theorem dJ12_append_67 : decode cJ12_append 67 = .ok (.iadd, 1) := by decide +kernel
theorem dJ12_append_68 : decode cJ12_append 68 = .ok (.putfield 79, 3) := by decide +kernel
theorem dJ12_append_71 : decode cJ12_append 71 = .ok (.iload_n 1, 1) := by decide +kernel
theorem dJ12_append_72 : decode cJ12_append 72 = .ok (.invokestatic 197, 3) := by decide +kernel
theorem dJ12_append_75 : decode cJ12_append 75 = .ok (.aload_n 0, 1) := by decide +kernel
theorem dJ12_append_76 : decode cJ12_append 76 = .ok (.areturn, 1) := by decide +kernel
abbrev cJ12_ensureCapacityInternal : ByteArray := prog_28_method_9_code
def yJ12_ensureCapacityInternal : MethodName := ⟨RJ12, "ensureCapacityInternal", "(I)V"⟩
theorem dJ12_ensureCapacityInternal_0 : decode cJ12_ensureCapacityInternal 0 = .ok (.aload_n 0, 1) := by decide +kernel
theorem dJ12_ensureCapacityInternal_1 : decode cJ12_ensureCapacityInternal 1 = .ok (.getfield 15, 3) := by decide +kernel
theorem dJ12_ensureCapacityInternal_4 : decode cJ12_ensureCapacityInternal 4 = .ok (.arraylength, 1) := by decide +kernel
theorem dJ12_ensureCapacityInternal_5 : decode cJ12_ensureCapacityInternal 5 = .ok (.aload_n 0, 1) := by decide +kernel
theorem dJ12_ensureCapacityInternal_6 : decode cJ12_ensureCapacityInternal 6 = .ok (.getfield 22, 3) := by decide +kernel
theorem dJ12_ensureCapacityInternal_9 : decode cJ12_ensureCapacityInternal 9 = .ok (.ishr, 1) := by decide +kernel
theorem dJ12_ensureCapacityInternal_10 : decode cJ12_ensureCapacityInternal 10 = .ok (.istore_n 2, 1) := by decide +kernel
theorem dJ12_ensureCapacityInternal_11 : decode cJ12_ensureCapacityInternal 11 = .ok (.iload_n 1, 1) := by decide +kernel
theorem dJ12_ensureCapacityInternal_12 : decode cJ12_ensureCapacityInternal 12 = .ok (.iload_n 2, 1) := by decide +kernel
theorem dJ12_ensureCapacityInternal_13 : decode cJ12_ensureCapacityInternal 13 = .ok (.isub, 1) := by decide +kernel
theorem dJ12_ensureCapacityInternal_14 : decode cJ12_ensureCapacityInternal 14 = .ok (.ifCond .le 24, 3) := by decide +kernel
theorem dJ12_ensureCapacityInternal_17 : decode cJ12_ensureCapacityInternal 17 = .ok (.aload_n 0, 1) := by decide +kernel
theorem dJ12_ensureCapacityInternal_18 : decode cJ12_ensureCapacityInternal 18 = .ok (.aload_n 0, 1) := by decide +kernel
theorem dJ12_ensureCapacityInternal_19 : decode cJ12_ensureCapacityInternal 19 = .ok (.getfield 15, 3) := by decide +kernel
theorem dJ12_ensureCapacityInternal_22 : decode cJ12_ensureCapacityInternal 22 = .ok (.aload_n 0, 1) := by decide +kernel
theorem dJ12_ensureCapacityInternal_23 : decode cJ12_ensureCapacityInternal 23 = .ok (.iload_n 1, 1) := by decide +kernel
theorem dJ12_ensureCapacityInternal_24 : decode cJ12_ensureCapacityInternal 24 = .ok (.invokevirtual 104, 3) := by decide +kernel
theorem dJ12_ensureCapacityInternal_27 : decode cJ12_ensureCapacityInternal 27 = .ok (.aload_n 0, 1) := by decide +kernel
theorem dJ12_ensureCapacityInternal_28 : decode cJ12_ensureCapacityInternal 28 = .ok (.getfield 22, 3) := by decide +kernel
theorem dJ12_ensureCapacityInternal_31 : decode cJ12_ensureCapacityInternal 31 = .ok (.ishl, 1) := by decide +kernel
theorem dJ12_ensureCapacityInternal_32 : decode cJ12_ensureCapacityInternal 32 = .ok (.invokestatic 108, 3) := by decide +kernel
theorem dJ12_ensureCapacityInternal_35 : decode cJ12_ensureCapacityInternal 35 = .ok (.putfield 15, 3) := by decide +kernel
theorem dJ12_ensureCapacityInternal_38 : decode cJ12_ensureCapacityInternal 38 = .ok (.return_, 1) := by decide +kernel
abbrev cJ12_newCapacity : ByteArray := prog_28_method_10_code
def yJ12_newCapacity : MethodName := ⟨RJ12, "newCapacity", "(I)I"⟩
theorem dJ12_newCapacity_0 : decode cJ12_newCapacity 0 = .ok (.aload_n 0, 1) := by decide +kernel
theorem dJ12_newCapacity_1 : decode cJ12_newCapacity 1 = .ok (.getfield 15, 3) := by decide +kernel
theorem dJ12_newCapacity_4 : decode cJ12_newCapacity 4 = .ok (.arraylength, 1) := by decide +kernel
theorem dJ12_newCapacity_5 : decode cJ12_newCapacity 5 = .ok (.istore_n 2, 1) := by decide +kernel
theorem dJ12_newCapacity_6 : decode cJ12_newCapacity 6 = .ok (.iload_n 1, 1) := by decide +kernel
theorem dJ12_newCapacity_7 : decode cJ12_newCapacity 7 = .ok (.aload_n 0, 1) := by decide +kernel
theorem dJ12_newCapacity_8 : decode cJ12_newCapacity 8 = .ok (.getfield 22, 3) := by decide +kernel
theorem dJ12_newCapacity_11 : decode cJ12_newCapacity 11 = .ok (.ishl, 1) := by decide +kernel
theorem dJ12_newCapacity_12 : decode cJ12_newCapacity 12 = .ok (.istore_n 3, 1) := by decide +kernel
theorem dJ12_newCapacity_13 : decode cJ12_newCapacity 13 = .ok (.iload_n 3, 1) := by decide +kernel
theorem dJ12_newCapacity_14 : decode cJ12_newCapacity 14 = .ok (.iload_n 2, 1) := by decide +kernel
theorem dJ12_newCapacity_15 : decode cJ12_newCapacity 15 = .ok (.isub, 1) := by decide +kernel
theorem dJ12_newCapacity_16 : decode cJ12_newCapacity 16 = .ok (.istore 4, 2) := by decide +kernel
theorem dJ12_newCapacity_18 : decode cJ12_newCapacity 18 = .ok (.iload_n 2, 1) := by decide +kernel
theorem dJ12_newCapacity_19 : decode cJ12_newCapacity 19 = .ok (.iload 4, 2) := by decide +kernel
theorem dJ12_newCapacity_21 : decode cJ12_newCapacity 21 = .ok (.iload_n 2, 1) := by decide +kernel
theorem dJ12_newCapacity_22 : decode cJ12_newCapacity 22 = .ok (.iconst 2, 1) := by decide +kernel
theorem dJ12_newCapacity_23 : decode cJ12_newCapacity 23 = .ok (.aload_n 0, 1) := by decide +kernel
theorem dJ12_newCapacity_24 : decode cJ12_newCapacity 24 = .ok (.getfield 22, 3) := by decide +kernel
theorem dJ12_newCapacity_27 : decode cJ12_newCapacity 27 = .ok (.ishl, 1) := by decide +kernel
theorem dJ12_newCapacity_28 : decode cJ12_newCapacity 28 = .ok (.iadd, 1) := by decide +kernel
theorem dJ12_newCapacity_29 : decode cJ12_newCapacity 29 = .ok (.invokestatic 114, 3) := by decide +kernel
theorem dJ12_newCapacity_32 : decode cJ12_newCapacity 32 = .ok (.istore 5, 2) := by decide +kernel
theorem dJ12_newCapacity_34 : decode cJ12_newCapacity 34 = .ok (.iload 5, 2) := by decide +kernel
theorem dJ12_newCapacity_36 : decode cJ12_newCapacity 36 = .ok (.ldc 39, 2) := by decide +kernel
theorem dJ12_newCapacity_38 : decode cJ12_newCapacity 38 = .ok (.if_icmp .ne 13, 3) := by decide +kernel
theorem dJ12_newCapacity_41 : decode cJ12_newCapacity 41 = .ok (.new 120, 3) := by decide +kernel
theorem dJ12_newCapacity_44 : decode cJ12_newCapacity 44 = .ok (.dup, 1) := by decide +kernel
theorem dJ12_newCapacity_45 : decode cJ12_newCapacity 45 = .ok (.ldc 122, 2) := by decide +kernel
theorem dJ12_newCapacity_47 : decode cJ12_newCapacity 47 = .ok (.invokespecial 124, 3) := by decide +kernel
theorem dJ12_newCapacity_50 : decode cJ12_newCapacity 50 = .ok (.athrow, 1) := by decide +kernel
theorem dJ12_newCapacity_51 : decode cJ12_newCapacity 51 = .ok (.iload 5, 2) := by decide +kernel
theorem dJ12_newCapacity_53 : decode cJ12_newCapacity 53 = .ok (.aload_n 0, 1) := by decide +kernel
theorem dJ12_newCapacity_54 : decode cJ12_newCapacity 54 = .ok (.getfield 22, 3) := by decide +kernel
theorem dJ12_newCapacity_57 : decode cJ12_newCapacity 57 = .ok (.ishr, 1) := by decide +kernel
theorem dJ12_newCapacity_58 : decode cJ12_newCapacity 58 = .ok (.ireturn, 1) := by decide +kernel
abbrev cJ12_isLatin1 : ByteArray := prog_28_method_68_code
def yJ12_isLatin1 : MethodName := ⟨RJ12, "isLatin1", "()Z"⟩
theorem dJ12_isLatin1_0 : decode cJ12_isLatin1 0 = .ok (.getstatic 18, 3) := by decide +kernel
theorem dJ12_isLatin1_3 : decode cJ12_isLatin1 3 = .ok (.ifCond .eq 14, 3) := by decide +kernel
theorem dJ12_isLatin1_6 : decode cJ12_isLatin1 6 = .ok (.aload_n 0, 1) := by decide +kernel
theorem dJ12_isLatin1_7 : decode cJ12_isLatin1 7 = .ok (.getfield 22, 3) := by decide +kernel
theorem dJ12_isLatin1_10 : decode cJ12_isLatin1 10 = .ok (.ifCond .ne 7, 3) := by decide +kernel
theorem dJ12_isLatin1_13 : decode cJ12_isLatin1 13 = .ok (.iconst 1, 1) := by decide +kernel
theorem dJ12_isLatin1_14 : decode cJ12_isLatin1 14 = .ok (.goto 4, 3) := by decide +kernel
theorem dJ12_isLatin1_17 : decode cJ12_isLatin1 17 = .ok (.iconst 0, 1) := by decide +kernel
theorem dJ12_isLatin1_18 : decode cJ12_isLatin1 18 = .ok (.ireturn, 1) := by decide +kernel
abbrev cJ12_inflate : ByteArray := prog_28_method_11_code
def yJ12_inflate : MethodName := ⟨RJ12, "inflate", "()V"⟩
theorem dJ12_inflate_0 : decode cJ12_inflate 0 = .ok (.aload_n 0, 1) := by decide +kernel
theorem dJ12_inflate_1 : decode cJ12_inflate 1 = .ok (.invokevirtual 83, 3) := by decide +kernel
theorem dJ12_inflate_4 : decode cJ12_inflate 4 = .ok (.ifCond .ne 4, 3) := by decide +kernel
theorem dJ12_inflate_7 : decode cJ12_inflate 7 = .ok (.return_, 1) := by decide +kernel
theorem dJ12_inflate_8 : decode cJ12_inflate 8 = .ok (.aload_n 0, 1) := by decide +kernel
theorem dJ12_inflate_9 : decode cJ12_inflate 9 = .ok (.getfield 15, 3) := by decide +kernel
theorem dJ12_inflate_12 : decode cJ12_inflate 12 = .ok (.arraylength, 1) := by decide +kernel
theorem dJ12_inflate_13 : decode cJ12_inflate 13 = .ok (.invokestatic 26, 3) := by decide +kernel
theorem dJ12_inflate_16 : decode cJ12_inflate 16 = .ok (.astore_n 1, 1) := by decide +kernel
theorem dJ12_inflate_17 : decode cJ12_inflate 17 = .ok (.aload_n 0, 1) := by decide +kernel
theorem dJ12_inflate_18 : decode cJ12_inflate 18 = .ok (.getfield 15, 3) := by decide +kernel
theorem dJ12_inflate_21 : decode cJ12_inflate 21 = .ok (.iconst 0, 1) := by decide +kernel
theorem dJ12_inflate_22 : decode cJ12_inflate 22 = .ok (.aload_n 1, 1) := by decide +kernel
theorem dJ12_inflate_23 : decode cJ12_inflate 23 = .ok (.iconst 0, 1) := by decide +kernel
theorem dJ12_inflate_24 : decode cJ12_inflate 24 = .ok (.aload_n 0, 1) := by decide +kernel
theorem dJ12_inflate_25 : decode cJ12_inflate 25 = .ok (.getfield 79, 3) := by decide +kernel
theorem dJ12_inflate_28 : decode cJ12_inflate 28 = .ok (.invokestatic 125, 3) := by decide +kernel
theorem dJ12_inflate_31 : decode cJ12_inflate 31 = .ok (.aload_n 0, 1) := by decide +kernel
theorem dJ12_inflate_32 : decode cJ12_inflate 32 = .ok (.aload_n 1, 1) := by decide +kernel
theorem dJ12_inflate_33 : decode cJ12_inflate 33 = .ok (.putfield 15, 3) := by decide +kernel
theorem dJ12_inflate_36 : decode cJ12_inflate 36 = .ok (.aload_n 0, 1) := by decide +kernel
theorem dJ12_inflate_37 : decode cJ12_inflate 37 = .ok (.iconst 1, 1) := by decide +kernel
theorem dJ12_inflate_38 : decode cJ12_inflate 38 = .ok (.putfield 22, 3) := by decide +kernel
theorem dJ12_inflate_41 : decode cJ12_inflate 41 = .ok (.return_, 1) := by decide +kernel
abbrev cJ12_getValue : ByteArray := prog_28_method_64_code
def yJ12_getValue : MethodName := ⟨RJ12, "getValue", "()[B"⟩
theorem dJ12_getValue_0 : decode cJ12_getValue 0 = .ok (.aload_n 0, 1) := by decide +kernel
theorem dJ12_getValue_1 : decode cJ12_getValue 1 = .ok (.getfield 15, 3) := by decide +kernel
theorem dJ12_getValue_4 : decode cJ12_getValue 4 = .ok (.areturn, 1) := by decide +kernel
abbrev cJ12_append_2 : ByteArray := prog_28_method_32_code
def yJ12_append_2 : MethodName := ⟨RJ12, "append", "(I)Ljava/lang/AbstractStringBuilder;"⟩
theorem dJ12_append_2_0 : decode cJ12_append_2 0 = .ok (.aload_n 0, 1) := by decide +kernel
theorem dJ12_append_2_1 : decode cJ12_append_2 1 = .ok (.getfield 79, 3) := by decide +kernel
theorem dJ12_append_2_4 : decode cJ12_append_2 4 = .ok (.istore_n 2, 1) := by decide +kernel
theorem dJ12_append_2_5 : decode cJ12_append_2 5 = .ok (.iload_n 2, 1) := by decide +kernel
theorem dJ12_append_2_6 : decode cJ12_append_2 6 = .ok (.iload_n 1, 1) := by decide +kernel
theorem dJ12_append_2_7 : decode cJ12_append_2 7 = .ok (.invokestatic 245, 3) := by decide +kernel
theorem dJ12_append_2_10 : decode cJ12_append_2 10 = .ok (.iadd, 1) := by decide +kernel
theorem dJ12_append_2_11 : decode cJ12_append_2 11 = .ok (.istore_n 3, 1) := by decide +kernel
theorem dJ12_append_2_12 : decode cJ12_append_2 12 = .ok (.aload_n 0, 1) := by decide +kernel
theorem dJ12_append_2_13 : decode cJ12_append_2 13 = .ok (.iload_n 3, 1) := by decide +kernel
theorem dJ12_append_2_14 : decode cJ12_append_2 14 = .ok (.invokevirtual 100, 3) := by decide +kernel
theorem dJ12_append_2_17 : decode cJ12_append_2 17 = .ok (.aload_n 0, 1) := by decide +kernel
theorem dJ12_append_2_18 : decode cJ12_append_2 18 = .ok (.invokevirtual 83, 3) := by decide +kernel
theorem dJ12_append_2_21 : decode cJ12_append_2 21 = .ok (.ifCond .eq 16, 3) := by decide +kernel
theorem dJ12_append_2_24 : decode cJ12_append_2 24 = .ok (.iload_n 1, 1) := by decide +kernel
theorem dJ12_append_2_25 : decode cJ12_append_2 25 = .ok (.iload_n 3, 1) := by decide +kernel
theorem dJ12_append_2_26 : decode cJ12_append_2 26 = .ok (.aload_n 0, 1) := by decide +kernel
theorem dJ12_append_2_27 : decode cJ12_append_2 27 = .ok (.getfield 15, 3) := by decide +kernel
theorem dJ12_append_2_30 : decode cJ12_append_2 30 = .ok (.invokestatic 248, 3) := by decide +kernel
theorem dJ12_append_2_33 : decode cJ12_append_2 33 = .ok (.pop, 1) := by decide +kernel
theorem dJ12_append_2_34 : decode cJ12_append_2 34 = .ok (.goto 14, 3) := by decide +kernel
theorem dJ12_append_2_37 : decode cJ12_append_2 37 = .ok (.iload_n 1, 1) := by decide +kernel
theorem dJ12_append_2_38 : decode cJ12_append_2 38 = .ok (.iload_n 2, 1) := by decide +kernel
theorem dJ12_append_2_39 : decode cJ12_append_2 39 = .ok (.iload_n 3, 1) := by decide +kernel
theorem dJ12_append_2_40 : decode cJ12_append_2 40 = .ok (.aload_n 0, 1) := by decide +kernel
theorem dJ12_append_2_41 : decode cJ12_append_2 41 = .ok (.getfield 15, 3) := by decide +kernel
theorem dJ12_append_2_44 : decode cJ12_append_2 44 = .ok (.invokestatic 251, 3) := by decide +kernel
theorem dJ12_append_2_47 : decode cJ12_append_2 47 = .ok (.pop, 1) := by decide +kernel
theorem dJ12_append_2_48 : decode cJ12_append_2 48 = .ok (.aload_n 0, 1) := by decide +kernel
theorem dJ12_append_2_49 : decode cJ12_append_2 49 = .ok (.iload_n 3, 1) := by decide +kernel
theorem dJ12_append_2_50 : decode cJ12_append_2 50 = .ok (.putfield 79, 3) := by decide +kernel
theorem dJ12_append_2_53 : decode cJ12_append_2 53 = .ok (.aload_n 0, 1) := by decide +kernel
theorem dJ12_append_2_54 : decode cJ12_append_2 54 = .ok (.areturn, 1) := by decide +kernel
abbrev cJ12_append_3 : ByteArray := prog_28_method_22_code
def yJ12_append_3 : MethodName := ⟨RJ12, "append", "(Ljava/lang/String;)Ljava/lang/AbstractStringBuilder;"⟩
theorem dJ12_append_3_0 : decode cJ12_append_3 0 = .ok (.aload_n 1, 1) := by decide +kernel
theorem dJ12_append_3_1 : decode cJ12_append_3 1 = .ok (.ifnonnull 8, 3) := by decide +kernel
theorem dJ12_append_3_4 : decode cJ12_append_3 4 = .ok (.aload_n 0, 1) := by decide +kernel
theorem dJ12_append_3_5 : decode cJ12_append_3 5 = .ok (.invokevirtual 204, 3) := by decide +kernel
theorem dJ12_append_3_8 : decode cJ12_append_3 8 = .ok (.areturn, 1) := by decide +kernel
theorem dJ12_append_3_9 : decode cJ12_append_3 9 = .ok (.aload_n 1, 1) := by decide +kernel
theorem dJ12_append_3_10 : decode cJ12_append_3 10 = .ok (.invokevirtual 32, 3) := by decide +kernel
theorem dJ12_append_3_13 : decode cJ12_append_3 13 = .ok (.istore_n 2, 1) := by decide +kernel
theorem dJ12_append_3_14 : decode cJ12_append_3 14 = .ok (.aload_n 0, 1) := by decide +kernel
theorem dJ12_append_3_15 : decode cJ12_append_3 15 = .ok (.aload_n 0, 1) := by decide +kernel
theorem dJ12_append_3_16 : decode cJ12_append_3 16 = .ok (.getfield 79, 3) := by decide +kernel
theorem dJ12_append_3_19 : decode cJ12_append_3 19 = .ok (.iload_n 2, 1) := by decide +kernel
theorem dJ12_append_3_20 : decode cJ12_append_3 20 = .ok (.iadd, 1) := by decide +kernel
theorem dJ12_append_3_21 : decode cJ12_append_3 21 = .ok (.invokevirtual 100, 3) := by decide +kernel
theorem dJ12_append_3_24 : decode cJ12_append_3 24 = .ok (.aload_n 0, 1) := by decide +kernel
theorem dJ12_append_3_25 : decode cJ12_append_3 25 = .ok (.aload_n 0, 1) := by decide +kernel
theorem dJ12_append_3_26 : decode cJ12_append_3 26 = .ok (.getfield 79, 3) := by decide +kernel
theorem dJ12_append_3_29 : decode cJ12_append_3 29 = .ok (.aload_n 1, 1) := by decide +kernel
theorem dJ12_append_3_30 : decode cJ12_append_3 30 = .ok (.invokevirtual 208, 3) := by decide +kernel
theorem dJ12_append_3_33 : decode cJ12_append_3 33 = .ok (.aload_n 0, 1) := by decide +kernel
theorem dJ12_append_3_34 : decode cJ12_append_3 34 = .ok (.dup, 1) := by decide +kernel
theorem dJ12_append_3_35 : decode cJ12_append_3 35 = .ok (.getfield 79, 3) := by decide +kernel
theorem dJ12_append_3_38 : decode cJ12_append_3 38 = .ok (.iload_n 2, 1) := by decide +kernel
theorem dJ12_append_3_39 : decode cJ12_append_3 39 = .ok (.iadd, 1) := by decide +kernel
theorem dJ12_append_3_40 : decode cJ12_append_3 40 = .ok (.putfield 79, 3) := by decide +kernel
theorem dJ12_append_3_43 : decode cJ12_append_3 43 = .ok (.aload_n 0, 1) := by decide +kernel
theorem dJ12_append_3_44 : decode cJ12_append_3 44 = .ok (.areturn, 1) := by decide +kernel
abbrev cJ12_appendNull : ByteArray := prog_28_method_26_code
def yJ12_appendNull : MethodName := ⟨RJ12, "appendNull", "()Ljava/lang/AbstractStringBuilder;"⟩
theorem dJ12_appendNull_0 : decode cJ12_appendNull 0 = .ok (.aload_n 0, 1) := by decide +kernel
theorem dJ12_appendNull_1 : decode cJ12_appendNull 1 = .ok (.aload_n 0, 1) := by decide +kernel
theorem dJ12_appendNull_2 : decode cJ12_appendNull 2 = .ok (.getfield 79, 3) := by decide +kernel
theorem dJ12_appendNull_5 : decode cJ12_appendNull 5 = .ok (.iconst 4, 1) := by decide +kernel
theorem dJ12_appendNull_6 : decode cJ12_appendNull 6 = .ok (.iadd, 1) := by decide +kernel
theorem dJ12_appendNull_7 : decode cJ12_appendNull 7 = .ok (.invokevirtual 100, 3) := by decide +kernel
theorem dJ12_appendNull_10 : decode cJ12_appendNull 10 = .ok (.aload_n 0, 1) := by decide +kernel
theorem dJ12_appendNull_11 : decode cJ12_appendNull 11 = .ok (.getfield 79, 3) := by decide +kernel
theorem dJ12_appendNull_14 : decode cJ12_appendNull 14 = .ok (.istore_n 1, 1) := by decide +kernel
theorem dJ12_appendNull_15 : decode cJ12_appendNull 15 = .ok (.aload_n 0, 1) := by decide +kernel
theorem dJ12_appendNull_16 : decode cJ12_appendNull 16 = .ok (.getfield 15, 3) := by decide +kernel
theorem dJ12_appendNull_19 : decode cJ12_appendNull 19 = .ok (.astore_n 2, 1) := by decide +kernel
theorem dJ12_appendNull_20 : decode cJ12_appendNull 20 = .ok (.aload_n 0, 1) := by decide +kernel
theorem dJ12_appendNull_21 : decode cJ12_appendNull 21 = .ok (.invokevirtual 83, 3) := by decide +kernel
theorem dJ12_appendNull_24 : decode cJ12_appendNull 24 = .ok (.ifCond .eq 38, 3) := by decide +kernel
theorem dJ12_appendNull_27 : decode cJ12_appendNull 27 = .ok (.aload_n 2, 1) := by decide +kernel
theorem dJ12_appendNull_28 : decode cJ12_appendNull 28 = .ok (.iload_n 1, 1) := by decide +kernel
theorem dJ12_appendNull_29 : decode cJ12_appendNull 29 = .ok (.iinc 1 1, 3) := by decide +kernel
theorem dJ12_appendNull_32 : decode cJ12_appendNull 32 = .ok (.bipush 110, 2) := by decide +kernel
theorem dJ12_appendNull_34 : decode cJ12_appendNull 34 = .ok (.bastore, 1) := by decide +kernel
theorem dJ12_appendNull_35 : decode cJ12_appendNull 35 = .ok (.aload_n 2, 1) := by decide +kernel
theorem dJ12_appendNull_36 : decode cJ12_appendNull 36 = .ok (.iload_n 1, 1) := by decide +kernel
theorem dJ12_appendNull_37 : decode cJ12_appendNull 37 = .ok (.iinc 1 1, 3) := by decide +kernel
theorem dJ12_appendNull_40 : decode cJ12_appendNull 40 = .ok (.bipush 117, 2) := by decide +kernel
theorem dJ12_appendNull_42 : decode cJ12_appendNull 42 = .ok (.bastore, 1) := by decide +kernel
theorem dJ12_appendNull_43 : decode cJ12_appendNull 43 = .ok (.aload_n 2, 1) := by decide +kernel
theorem dJ12_appendNull_44 : decode cJ12_appendNull 44 = .ok (.iload_n 1, 1) := by decide +kernel
theorem dJ12_appendNull_45 : decode cJ12_appendNull 45 = .ok (.iinc 1 1, 3) := by decide +kernel
theorem dJ12_appendNull_48 : decode cJ12_appendNull 48 = .ok (.bipush 108, 2) := by decide +kernel
theorem dJ12_appendNull_50 : decode cJ12_appendNull 50 = .ok (.bastore, 1) := by decide +kernel
theorem dJ12_appendNull_51 : decode cJ12_appendNull 51 = .ok (.aload_n 2, 1) := by decide +kernel
theorem dJ12_appendNull_52 : decode cJ12_appendNull 52 = .ok (.iload_n 1, 1) := by decide +kernel
theorem dJ12_appendNull_53 : decode cJ12_appendNull 53 = .ok (.iinc 1 1, 3) := by decide +kernel
theorem dJ12_appendNull_56 : decode cJ12_appendNull 56 = .ok (.bipush 108, 2) := by decide +kernel
theorem dJ12_appendNull_58 : decode cJ12_appendNull 58 = .ok (.bastore, 1) := by decide +kernel
theorem dJ12_appendNull_59 : decode cJ12_appendNull 59 = .ok (.goto 17, 3) := by decide +kernel
theorem dJ12_appendNull_62 : decode cJ12_appendNull 62 = .ok (.aload_n 2, 1) := by decide +kernel
theorem dJ12_appendNull_63 : decode cJ12_appendNull 63 = .ok (.iload_n 1, 1) := by decide +kernel
theorem dJ12_appendNull_64 : decode cJ12_appendNull 64 = .ok (.bipush 110, 2) := by decide +kernel
theorem dJ12_appendNull_66 : decode cJ12_appendNull 66 = .ok (.bipush 117, 2) := by decide +kernel
theorem dJ12_appendNull_68 : decode cJ12_appendNull 68 = .ok (.bipush 108, 2) := by decide +kernel
theorem dJ12_appendNull_70 : decode cJ12_appendNull 70 = .ok (.bipush 108, 2) := by decide +kernel
theorem dJ12_appendNull_72 : decode cJ12_appendNull 72 = .ok (.invokestatic 226, 3) := by decide +kernel
theorem dJ12_appendNull_75 : decode cJ12_appendNull 75 = .ok (.istore_n 1, 1) := by decide +kernel
theorem dJ12_appendNull_76 : decode cJ12_appendNull 76 = .ok (.aload_n 0, 1) := by decide +kernel
theorem dJ12_appendNull_77 : decode cJ12_appendNull 77 = .ok (.iload_n 1, 1) := by decide +kernel
theorem dJ12_appendNull_78 : decode cJ12_appendNull 78 = .ok (.putfield 79, 3) := by decide +kernel
theorem dJ12_appendNull_81 : decode cJ12_appendNull 81 = .ok (.aload_n 0, 1) := by decide +kernel
theorem dJ12_appendNull_82 : decode cJ12_appendNull 82 = .ok (.areturn, 1) := by decide +kernel
abbrev cJ12_putStringAt : ByteArray := prog_28_method_73_code
def yJ12_putStringAt : MethodName := ⟨RJ12, "putStringAt", "(ILjava/lang/String;)V"⟩
theorem dJ12_putStringAt_0 : decode cJ12_putStringAt 0 = .ok (.aload_n 0, 1) := by decide +kernel
theorem dJ12_putStringAt_1 : decode cJ12_putStringAt 1 = .ok (.aload_n 2, 1) := by decide +kernel
theorem dJ12_putStringAt_2 : decode cJ12_putStringAt 2 = .ok (.invokevirtual 397, 3) := by decide +kernel
theorem dJ12_putStringAt_5 : decode cJ12_putStringAt 5 = .ok (.aload_n 2, 1) := by decide +kernel
theorem dJ12_putStringAt_6 : decode cJ12_putStringAt 6 = .ok (.aload_n 0, 1) := by decide +kernel
theorem dJ12_putStringAt_7 : decode cJ12_putStringAt 7 = .ok (.getfield 15, 3) := by decide +kernel
theorem dJ12_putStringAt_10 : decode cJ12_putStringAt 10 = .ok (.iload_n 1, 1) := by decide +kernel
theorem dJ12_putStringAt_11 : decode cJ12_putStringAt 11 = .ok (.aload_n 0, 1) := by decide +kernel
theorem dJ12_putStringAt_12 : decode cJ12_putStringAt 12 = .ok (.getfield 22, 3) := by decide +kernel
theorem dJ12_putStringAt_15 : decode cJ12_putStringAt 15 = .ok (.invokevirtual 399, 3) := by decide +kernel
theorem dJ12_putStringAt_18 : decode cJ12_putStringAt 18 = .ok (.return_, 1) := by decide +kernel
abbrev cJ12_inflateIfNeededFor : ByteArray := prog_28_method_71_code
def yJ12_inflateIfNeededFor : MethodName := ⟨RJ12, "inflateIfNeededFor", "(Ljava/lang/String;)V"⟩
theorem dJ12_inflateIfNeededFor_0 : decode cJ12_inflateIfNeededFor 0 = .ok (.getstatic 18, 3) := by decide +kernel
theorem dJ12_inflateIfNeededFor_3 : decode cJ12_inflateIfNeededFor 3 = .ok (.ifCond .eq 18, 3) := by decide +kernel
theorem dJ12_inflateIfNeededFor_6 : decode cJ12_inflateIfNeededFor 6 = .ok (.aload_n 0, 1) := by decide +kernel
theorem dJ12_inflateIfNeededFor_7 : decode cJ12_inflateIfNeededFor 7 = .ok (.getfield 22, 3) := by decide +kernel
theorem dJ12_inflateIfNeededFor_10 : decode cJ12_inflateIfNeededFor 10 = .ok (.aload_n 1, 1) := by decide +kernel
theorem dJ12_inflateIfNeededFor_11 : decode cJ12_inflateIfNeededFor 11 = .ok (.invokevirtual 40, 3) := by decide +kernel
theorem dJ12_inflateIfNeededFor_14 : decode cJ12_inflateIfNeededFor 14 = .ok (.if_icmp .eq 7, 3) := by decide +kernel
theorem dJ12_inflateIfNeededFor_17 : decode cJ12_inflateIfNeededFor 17 = .ok (.aload_n 0, 1) := by decide +kernel
theorem dJ12_inflateIfNeededFor_18 : decode cJ12_inflateIfNeededFor 18 = .ok (.invokevirtual 195, 3) := by decide +kernel
theorem dJ12_inflateIfNeededFor_21 : decode cJ12_inflateIfNeededFor 21 = .ok (.return_, 1) := by decide +kernel
theorem q132 : (Jvm.Cond.initialized "java/lang/AbstractStringBuilder") ∈ lw_all := lw_g (lw_at lw_m1 20 rfl) rfl
theorem q516 : (Jvm.Cond.instanceMethod ({ cls := "java/lang/AbstractStringBuilder", name := "<init>", desc := "(I)V" } : Jvm.MethodName)) ∈ lw_all := lw_g (lw_at lw_m2 164 rfl) rfl
theorem q517 : (Jvm.Cond.code ({ cls := "java/lang/AbstractStringBuilder", name := "<init>", desc := "(I)V" } : Jvm.MethodName) prog_28_method_2_code (2 : Nat) (Option.none : Option Jvm.ClassFile.FieldType)) ∈ lw_all := lw_g (lw_at lw_m2 165 rfl) rfl
theorem q518 : (Jvm.Cond.methodLink "java/lang/AbstractStringBuilder" (3 : Nat) ({ cls := "java/lang/Object", name := "<init>", desc := "()V" } : Jvm.MethodName)) ∈ lw_all := lw_g (lw_at lw_m2 166 rfl) rfl
theorem q519 : (Jvm.Cond.fieldLink "java/lang/AbstractStringBuilder" (18 : Nat) "java/lang/String" "COMPACT_STRINGS" "Z") ∈ lw_all := lw_g (lw_at lw_m2 167 rfl) rfl
theorem q521 : (Jvm.Cond.methodLink "java/lang/AbstractStringBuilder" (26 : Nat) ({ cls := "java/lang/StringUTF16", name := "newBytesFor", desc := "(I)[B" } : Jvm.MethodName)) ∈ lw_all := lw_g (lw_at lw_m2 169 rfl) rfl
theorem q528 : (Jvm.Cond.fieldLink "java/lang/AbstractStringBuilder" (15 : Nat) "java/lang/AbstractStringBuilder" "value" "[B") ∈ lw_all := lw_g (lw_at lw_m2 176 rfl) rfl
theorem q529 : (Jvm.Cond.fieldLink "java/lang/AbstractStringBuilder" (22 : Nat) "java/lang/AbstractStringBuilder" "coder" "B") ∈ lw_all := lw_g (lw_at lw_m2 177 rfl) rfl
theorem q531 : (Jvm.Cond.fieldLink "java/lang/AbstractStringBuilder" (79 : Nat) "java/lang/AbstractStringBuilder" "count" "I") ∈ lw_all := lw_g (lw_at lw_m2 179 rfl) rfl
theorem q533 : (Jvm.Cond.soleField "java/lang/AbstractStringBuilder" "value") ∈ lw_all := lw_g (lw_at lw_m2 181 rfl) rfl
theorem q535 : (Jvm.Cond.soleField "java/lang/AbstractStringBuilder" "coder") ∈ lw_all := lw_g (lw_at lw_m2 183 rfl) rfl
theorem q537 : (Jvm.Cond.soleField "java/lang/AbstractStringBuilder" "maybeLatin1") ∈ lw_all := lw_g (lw_at lw_m2 185 rfl) rfl
theorem q539 : (Jvm.Cond.soleField "java/lang/AbstractStringBuilder" "count") ∈ lw_all := lw_g (lw_at lw_m2 187 rfl) rfl
theorem q549 : (Jvm.Cond.instanceMethod ({ cls := "java/lang/AbstractStringBuilder", name := "length", desc := "()I" } : Jvm.MethodName)) ∈ lw_all := lw_g (lw_at lw_m2 197 rfl) rfl
theorem q550 : (Jvm.Cond.code ({ cls := "java/lang/AbstractStringBuilder", name := "length", desc := "()I" } : Jvm.MethodName) prog_28_method_6_code (1 : Nat) (Option.some Jvm.ClassFile.FieldType.int)) ∈ lw_all := lw_g (lw_at lw_m2 198 rfl) rfl
theorem q556 : (Jvm.Cond.instanceMethod ({ cls := "java/lang/AbstractStringBuilder", name := "append", desc := "(C)Ljava/lang/AbstractStringBuilder;" } : Jvm.MethodName)) ∈ lw_all := lw_g (lw_at lw_m2 204 rfl) rfl
theorem q557 : (Jvm.Cond.code ({ cls := "java/lang/AbstractStringBuilder", name := "append", desc := "(C)Ljava/lang/AbstractStringBuilder;" } : Jvm.MethodName) prog_28_method_31_code (2 : Nat) (Option.some (Jvm.ClassFile.FieldType.object "java/lang/AbstractStringBuilder"))) ∈ lw_all := lw_g (lw_at lw_m2 205 rfl) rfl
theorem q558 : (Jvm.Cond.methodLink "java/lang/AbstractStringBuilder" (100 : Nat) ({ cls := "java/lang/AbstractStringBuilder", name := "ensureCapacityInternal", desc := "(I)V" } : Jvm.MethodName)) ∈ lw_all := lw_g (lw_at lw_m2 206 rfl) rfl
theorem q559 : (Jvm.Cond.privateMethod ({ cls := "java/lang/AbstractStringBuilder", name := "ensureCapacityInternal", desc := "(I)V" } : Jvm.MethodName)) ∈ lw_tbl := lw_at lw_m2 207 rfl
theorem q560 : (Jvm.Cond.instanceMethod ({ cls := "java/lang/AbstractStringBuilder", name := "ensureCapacityInternal", desc := "(I)V" } : Jvm.MethodName)) ∈ lw_all := lw_g (lw_at lw_m2 208 rfl) rfl
theorem q561 : (Jvm.Cond.code ({ cls := "java/lang/AbstractStringBuilder", name := "ensureCapacityInternal", desc := "(I)V" } : Jvm.MethodName) prog_28_method_9_code (3 : Nat) (Option.none : Option Jvm.ClassFile.FieldType)) ∈ lw_all := lw_g (lw_at lw_m2 209 rfl) rfl
theorem q562 : (Jvm.Cond.methodLink "java/lang/AbstractStringBuilder" (104 : Nat) ({ cls := "java/lang/AbstractStringBuilder", name := "newCapacity", desc := "(I)I" } : Jvm.MethodName)) ∈ lw_all := lw_g (lw_at lw_m2 210 rfl) rfl
theorem q563 : (Jvm.Cond.privateMethod ({ cls := "java/lang/AbstractStringBuilder", name := "newCapacity", desc := "(I)I" } : Jvm.MethodName)) ∈ lw_tbl := lw_at lw_m2 211 rfl
theorem q564 : (Jvm.Cond.instanceMethod ({ cls := "java/lang/AbstractStringBuilder", name := "newCapacity", desc := "(I)I" } : Jvm.MethodName)) ∈ lw_all := lw_g (lw_at lw_m2 212 rfl) rfl
theorem q565 : (Jvm.Cond.code ({ cls := "java/lang/AbstractStringBuilder", name := "newCapacity", desc := "(I)I" } : Jvm.MethodName) prog_28_method_10_code (6 : Nat) (Option.some Jvm.ClassFile.FieldType.int)) ∈ lw_all := lw_g (lw_at lw_m2 213 rfl) rfl
theorem q566 : (Jvm.Cond.methodLink "java/lang/AbstractStringBuilder" (114 : Nat) ({ cls := "jdk/internal/util/ArraysSupport", name := "newLength", desc := "(III)I" } : Jvm.MethodName)) ∈ lw_all := lw_g (lw_at lw_m2 214 rfl) rfl
theorem q576 : (Jvm.Cond.constant "java/lang/AbstractStringBuilder" (39 : Nat) (2147483647 : Int32)) ∈ lw_all := lw_g (lw_at lw_m2 224 rfl) rfl
theorem q577 : (Jvm.Cond.methodLink "java/lang/AbstractStringBuilder" (108 : Nat) ({ cls := "java/util/Arrays", name := "copyOf", desc := "([BI)[B" } : Jvm.MethodName)) ∈ lw_all := lw_g (lw_at lw_m2 225 rfl) rfl
theorem q593 : (Jvm.Cond.methodLink "java/lang/AbstractStringBuilder" (83 : Nat) ({ cls := "java/lang/AbstractStringBuilder", name := "isLatin1", desc := "()Z" } : Jvm.MethodName)) ∈ lw_all := lw_g (lw_at lw_m3 1 rfl) rfl
theorem q594 : (Jvm.Cond.instanceMethod ({ cls := "java/lang/AbstractStringBuilder", name := "isLatin1", desc := "()Z" } : Jvm.MethodName)) ∈ lw_all := lw_g (lw_at lw_m3 2 rfl) rfl
theorem q595 : (Jvm.Cond.sameMethod "java/lang/AbstractStringBuilder" "java/lang/AbstractStringBuilder" "isLatin1" "()Z") ∈ lw_all := lw_g (lw_at lw_m3 3 rfl) rfl
theorem q597 : (Jvm.Cond.code ({ cls := "java/lang/AbstractStringBuilder", name := "isLatin1", desc := "()Z" } : Jvm.MethodName) prog_28_method_68_code (1 : Nat) (Option.some Jvm.ClassFile.FieldType.boolean)) ∈ lw_all := lw_g (lw_at lw_m3 5 rfl) rfl
theorem q598 : (Jvm.Cond.methodLink "java/lang/AbstractStringBuilder" (191 : Nat) ({ cls := "java/lang/StringLatin1", name := "canEncode", desc := "(C)Z" } : Jvm.MethodName)) ∈ lw_all := lw_g (lw_at lw_m3 6 rfl) rfl
theorem q601 : (Jvm.Cond.methodLink "java/lang/AbstractStringBuilder" (195 : Nat) ({ cls := "java/lang/AbstractStringBuilder", name := "inflate", desc := "()V" } : Jvm.MethodName)) ∈ lw_all := lw_g (lw_at lw_m3 9 rfl) rfl
theorem q602 : (Jvm.Cond.privateMethod ({ cls := "java/lang/AbstractStringBuilder", name := "inflate", desc := "()V" } : Jvm.MethodName)) ∈ lw_tbl := lw_at lw_m3 10 rfl
theorem q603 : (Jvm.Cond.instanceMethod ({ cls := "java/lang/AbstractStringBuilder", name := "inflate", desc := "()V" } : Jvm.MethodName)) ∈ lw_all := lw_g (lw_at lw_m3 11 rfl) rfl
theorem q604 : (Jvm.Cond.code ({ cls := "java/lang/AbstractStringBuilder", name := "inflate", desc := "()V" } : Jvm.MethodName) prog_28_method_11_code (2 : Nat) (Option.none : Option Jvm.ClassFile.FieldType)) ∈ lw_all := lw_g (lw_at lw_m3 12 rfl) rfl
theorem q605 : (Jvm.Cond.methodLink "java/lang/AbstractStringBuilder" (125 : Nat) ({ cls := "java/lang/StringLatin1", name := "inflate", desc := "([BI[BII)V" } : Jvm.MethodName)) ∈ lw_all := lw_g (lw_at lw_m3 13 rfl) rfl
theorem q634 : (Jvm.Cond.methodLink "java/lang/AbstractStringBuilder" (197 : Nat) ({ cls := "java/lang/StringUTF16", name := "putCharSB", desc := "([BII)V" } : Jvm.MethodName)) ∈ lw_all := lw_g (lw_at lw_m3 42 rfl) rfl
theorem q664 : (Jvm.Cond.instanceMethod ({ cls := "java/lang/AbstractStringBuilder", name := "getValue", desc := "()[B" } : Jvm.MethodName)) ∈ lw_all := lw_g (lw_at lw_m3 72 rfl) rfl
theorem q665 : (Jvm.Cond.sameMethod "java/lang/AbstractStringBuilder" "java/lang/AbstractStringBuilder" "getValue" "()[B") ∈ lw_all := lw_g (lw_at lw_m3 73 rfl) rfl
theorem q667 : (Jvm.Cond.code ({ cls := "java/lang/AbstractStringBuilder", name := "getValue", desc := "()[B" } : Jvm.MethodName) prog_28_method_64_code (1 : Nat) (Option.some (Jvm.ClassFile.FieldType.array Jvm.ClassFile.FieldType.byte))) ∈ lw_all := lw_g (lw_at lw_m3 75 rfl) rfl
theorem q689 : (Jvm.Cond.instanceMethod ({ cls := "java/lang/AbstractStringBuilder", name := "append", desc := "(I)Ljava/lang/AbstractStringBuilder;" } : Jvm.MethodName)) ∈ lw_all := lw_g (lw_at lw_m3 97 rfl) rfl
theorem q690 : (Jvm.Cond.code ({ cls := "java/lang/AbstractStringBuilder", name := "append", desc := "(I)Ljava/lang/AbstractStringBuilder;" } : Jvm.MethodName) prog_28_method_32_code (4 : Nat) (Option.some (Jvm.ClassFile.FieldType.object "java/lang/AbstractStringBuilder"))) ∈ lw_all := lw_g (lw_at lw_m3 98 rfl) rfl
theorem q691 : (Jvm.Cond.methodLink "java/lang/AbstractStringBuilder" (245 : Nat) ({ cls := "java/lang/Integer", name := "stringSize", desc := "(I)I" } : Jvm.MethodName)) ∈ lw_all := lw_g (lw_at lw_m3 99 rfl) rfl
theorem q694 : (Jvm.Cond.methodLink "java/lang/AbstractStringBuilder" (248 : Nat) ({ cls := "java/lang/Integer", name := "getChars", desc := "(II[B)I" } : Jvm.MethodName)) ∈ lw_all := lw_g (lw_at lw_m3 102 rfl) rfl
theorem q701 : (Jvm.Cond.methodLink "java/lang/AbstractStringBuilder" (251 : Nat) ({ cls := "java/lang/StringUTF16", name := "getChars", desc := "(III[B)I" } : Jvm.MethodName)) ∈ lw_all := lw_g (lw_at lw_m3 109 rfl) rfl
theorem q724 : (Jvm.Cond.instanceMethod ({ cls := "java/lang/AbstractStringBuilder", name := "append", desc := "(Ljava/lang/String;)Ljava/lang/AbstractStringBuilder;" } : Jvm.MethodName)) ∈ lw_all := lw_g (lw_at lw_m3 132 rfl) rfl
theorem q725 : (Jvm.Cond.code ({ cls := "java/lang/AbstractStringBuilder", name := "append", desc := "(Ljava/lang/String;)Ljava/lang/AbstractStringBuilder;" } : Jvm.MethodName) prog_28_method_22_code (3 : Nat) (Option.some (Jvm.ClassFile.FieldType.object "java/lang/AbstractStringBuilder"))) ∈ lw_all := lw_g (lw_at lw_m3 133 rfl) rfl
theorem q726 : (Jvm.Cond.methodLink "java/lang/AbstractStringBuilder" (204 : Nat) ({ cls := "java/lang/AbstractStringBuilder", name := "appendNull", desc := "()Ljava/lang/AbstractStringBuilder;" } : Jvm.MethodName)) ∈ lw_all := lw_g (lw_at lw_m3 134 rfl) rfl
theorem q727 : (Jvm.Cond.privateMethod ({ cls := "java/lang/AbstractStringBuilder", name := "appendNull", desc := "()Ljava/lang/AbstractStringBuilder;" } : Jvm.MethodName)) ∈ lw_tbl := lw_at lw_m3 135 rfl
theorem q728 : (Jvm.Cond.instanceMethod ({ cls := "java/lang/AbstractStringBuilder", name := "appendNull", desc := "()Ljava/lang/AbstractStringBuilder;" } : Jvm.MethodName)) ∈ lw_all := lw_g (lw_at lw_m3 136 rfl) rfl
theorem q729 : (Jvm.Cond.code ({ cls := "java/lang/AbstractStringBuilder", name := "appendNull", desc := "()Ljava/lang/AbstractStringBuilder;" } : Jvm.MethodName) prog_28_method_26_code (3 : Nat) (Option.some (Jvm.ClassFile.FieldType.object "java/lang/AbstractStringBuilder"))) ∈ lw_all := lw_g (lw_at lw_m3 137 rfl) rfl
theorem q730 : (Jvm.Cond.methodLink "java/lang/AbstractStringBuilder" (226 : Nat) ({ cls := "java/lang/StringUTF16", name := "putCharsAt", desc := "([BICCCC)I" } : Jvm.MethodName)) ∈ lw_all := lw_g (lw_at lw_m3 138 rfl) rfl
theorem q733 : (Jvm.Cond.methodLink "java/lang/AbstractStringBuilder" (32 : Nat) ({ cls := "java/lang/String", name := "length", desc := "()I" } : Jvm.MethodName)) ∈ lw_all := lw_g (lw_at lw_m3 141 rfl) rfl
theorem q742 : (Jvm.Cond.methodLink "java/lang/AbstractStringBuilder" (208 : Nat) ({ cls := "java/lang/AbstractStringBuilder", name := "putStringAt", desc := "(ILjava/lang/String;)V" } : Jvm.MethodName)) ∈ lw_all := lw_g (lw_at lw_m3 150 rfl) rfl
theorem q743 : (Jvm.Cond.privateMethod ({ cls := "java/lang/AbstractStringBuilder", name := "putStringAt", desc := "(ILjava/lang/String;)V" } : Jvm.MethodName)) ∈ lw_tbl := lw_at lw_m3 151 rfl
theorem q744 : (Jvm.Cond.instanceMethod ({ cls := "java/lang/AbstractStringBuilder", name := "putStringAt", desc := "(ILjava/lang/String;)V" } : Jvm.MethodName)) ∈ lw_all := lw_g (lw_at lw_m3 152 rfl) rfl
theorem q745 : (Jvm.Cond.code ({ cls := "java/lang/AbstractStringBuilder", name := "putStringAt", desc := "(ILjava/lang/String;)V" } : Jvm.MethodName) prog_28_method_73_code (3 : Nat) (Option.none : Option Jvm.ClassFile.FieldType)) ∈ lw_all := lw_g (lw_at lw_m3 153 rfl) rfl
theorem q746 : (Jvm.Cond.methodLink "java/lang/AbstractStringBuilder" (397 : Nat) ({ cls := "java/lang/AbstractStringBuilder", name := "inflateIfNeededFor", desc := "(Ljava/lang/String;)V" } : Jvm.MethodName)) ∈ lw_all := lw_g (lw_at lw_m3 154 rfl) rfl
theorem q747 : (Jvm.Cond.privateMethod ({ cls := "java/lang/AbstractStringBuilder", name := "inflateIfNeededFor", desc := "(Ljava/lang/String;)V" } : Jvm.MethodName)) ∈ lw_tbl := lw_at lw_m3 155 rfl
theorem q748 : (Jvm.Cond.instanceMethod ({ cls := "java/lang/AbstractStringBuilder", name := "inflateIfNeededFor", desc := "(Ljava/lang/String;)V" } : Jvm.MethodName)) ∈ lw_all := lw_g (lw_at lw_m3 156 rfl) rfl
theorem q749 : (Jvm.Cond.code ({ cls := "java/lang/AbstractStringBuilder", name := "inflateIfNeededFor", desc := "(Ljava/lang/String;)V" } : Jvm.MethodName) prog_28_method_71_code (2 : Nat) (Option.none : Option Jvm.ClassFile.FieldType)) ∈ lw_all := lw_g (lw_at lw_m3 157 rfl) rfl
theorem q750 : (Jvm.Cond.methodLink "java/lang/AbstractStringBuilder" (40 : Nat) ({ cls := "java/lang/String", name := "coder", desc := "()B" } : Jvm.MethodName)) ∈ lw_all := lw_g (lw_at lw_m3 158 rfl) rfl
theorem q751 : (Jvm.Cond.methodLink "java/lang/AbstractStringBuilder" (399 : Nat) ({ cls := "java/lang/String", name := "getBytes", desc := "([BIB)V" } : Jvm.MethodName)) ∈ lw_all := lw_g (lw_at lw_m3 159 rfl) rfl
theorem q2552 : (Jvm.Cond.sameMethod "java/lang/AbstractStringBuilder" "java/lang/AbstractStringBuilder" "length" "()I") ∈ lw_all := lw_g (lw_at lw_m11 40 rfl) rfl
theorem q2553 : (Jvm.Cond.sameMethod "java/lang/AbstractStringBuilder" "java/lang/AbstractStringBuilder" "append" "(C)Ljava/lang/AbstractStringBuilder;") ∈ lw_all := lw_g (lw_at lw_m11 41 rfl) rfl
theorem q2554 : (Jvm.Cond.sameMethod "java/lang/AbstractStringBuilder" "java/lang/AbstractStringBuilder" "ensureCapacityInternal" "(I)V") ∈ lw_all := lw_g (lw_at lw_m11 42 rfl) rfl
theorem q2555 : (Jvm.Cond.sameMethod "java/lang/AbstractStringBuilder" "java/lang/AbstractStringBuilder" "newCapacity" "(I)I") ∈ lw_all := lw_g (lw_at lw_m11 43 rfl) rfl
theorem q2556 : (Jvm.Cond.sameMethod "java/lang/AbstractStringBuilder" "java/lang/AbstractStringBuilder" "inflate" "()V") ∈ lw_all := lw_g (lw_at lw_m11 44 rfl) rfl
theorem q2558 : (Jvm.Cond.sameMethod "java/lang/AbstractStringBuilder" "java/lang/AbstractStringBuilder" "append" "(I)Ljava/lang/AbstractStringBuilder;") ∈ lw_all := lw_g (lw_at lw_m11 46 rfl) rfl
theorem q2559 : (Jvm.Cond.sameMethod "java/lang/AbstractStringBuilder" "java/lang/AbstractStringBuilder" "append" "(Ljava/lang/String;)Ljava/lang/AbstractStringBuilder;") ∈ lw_all := lw_g (lw_at lw_m11 47 rfl) rfl
theorem q2560 : (Jvm.Cond.sameMethod "java/lang/AbstractStringBuilder" "java/lang/AbstractStringBuilder" "appendNull" "()Ljava/lang/AbstractStringBuilder;") ∈ lw_all := lw_g (lw_at lw_m11 48 rfl) rfl
theorem q2561 : (Jvm.Cond.sameMethod "java/lang/AbstractStringBuilder" "java/lang/AbstractStringBuilder" "putStringAt" "(ILjava/lang/String;)V") ∈ lw_all := lw_g (lw_at lw_m11 49 rfl) rfl
theorem q2562 : (Jvm.Cond.sameMethod "java/lang/AbstractStringBuilder" "java/lang/AbstractStringBuilder" "inflateIfNeededFor" "(Ljava/lang/String;)V") ∈ lw_all := lw_g (lw_at lw_m11 50 rfl) rfl

/-! java/lang/StringBuilder -/
set_option maxRecDepth 100000
def RJ13 : String := "java/lang/StringBuilder"
def TJ13 : u_T := fun k => match k with
  | 0 => ("java/lang/AbstractStringBuilder", "value", "[B", false)
  | 1 => ("java/lang/AbstractStringBuilder", "coder", "B", false)
  | 2 => ("java/lang/AbstractStringBuilder", "maybeLatin1", "Z", false)
  | _ => ("java/lang/AbstractStringBuilder", "count", "I", false)
def tyJ13 : Nat → FieldType := fun k => match k with
  | 0 => .array .byte
  | 1 => .byte
  | 2 => .boolean
  | _ => .int
abbrev wsJ130 : List Cond := u_ws RJ13 TJ13 4
theorem nmJ13 : ∀ a, a < 4 → ∀ b, b < 4 → a ≠ b → (TJ13 a).2.1 ≠ (TJ13 b).2.1 := by decide +kernel
theorem tyJ13_ok : ∀ k, k < 4 → parseFieldDescriptor (TJ13 k).2.2.1 = some (tyJ13 k) := by decide +kernel
abbrev cJ13_init : ByteArray := prog_44_method_2_code
def yJ13_init : MethodName := ⟨RJ13, "<init>", "(I)V"⟩
theorem dJ13_init_0 : decode cJ13_init 0 = .ok (.aload_n 0, 1) := by decide +kernel
theorem dJ13_init_1 : decode cJ13_init 1 = .ok (.iload_n 1, 1) := by decide +kernel
theorem dJ13_init_2 : decode cJ13_init 2 = .ok (.invokespecial 1, 3) := by decide +kernel
theorem dJ13_init_5 : decode cJ13_init 5 = .ok (.return_, 1) := by decide +kernel
abbrev cJ13_length : ByteArray := prog_44_method_93_code
def yJ13_length : MethodName := ⟨RJ13, "length", "()I"⟩
theorem dJ13_length_0 : decode cJ13_length 0 = .ok (.aload_n 0, 1) := by decide +kernel
theorem dJ13_length_1 : decode cJ13_length 1 = .ok (.invokespecial 343, 3) := by decide +kernel
theorem dJ13_length_4 : decode cJ13_length 4 = .ok (.ireturn, 1) := by decide +kernel
abbrev cJ13_append : ByteArray := prog_44_method_14_code
def yJ13_append : MethodName := ⟨RJ13, "append", "(C)Ljava/lang/StringBuilder;"⟩
theorem dJ13_append_0 : decode cJ13_append 0 = .ok (.aload_n 0, 1) := by decide +kernel
theorem dJ13_append_1 : decode cJ13_append 1 = .ok (.iload_n 1, 1) := by decide +kernel
theorem dJ13_append_2 : decode cJ13_append 2 = .ok (.invokespecial 50, 3) := by decide +kernel
theorem dJ13_append_5 : decode cJ13_append 5 = .ok (.pop, 1) := by decide +kernel
theorem dJ13_append_6 : decode cJ13_append 6 = .ok (.aload_n 0, 1) := by decide +kernel
theorem dJ13_append_7 : decode cJ13_append 7 = .ok (.areturn, 1) := by decide +kernel
abbrev cJ13_toString : ByteArray := prog_44_method_42_code
def yJ13_toString : MethodName := ⟨RJ13, "toString", "()Ljava/lang/String;"⟩
theorem dJ13_toString_0 : decode cJ13_toString 0 = .ok (.new 18, 3) := by decide +kernel
theorem dJ13_toString_3 : decode cJ13_toString 3 = .ok (.dup, 1) := by decide +kernel
theorem dJ13_toString_4 : decode cJ13_toString 4 = .ok (.aload_n 0, 1) := by decide +kernel
theorem dJ13_toString_5 : decode cJ13_toString 5 = .ok (.invokespecial 137, 3) := by decide +kernel
theorem dJ13_toString_8 : decode cJ13_toString 8 = .ok (.areturn, 1) := by decide +kernel
abbrev cJ13_init_2 : ByteArray := prog_44_method_1_code
def yJ13_init_2 : MethodName := ⟨RJ13, "<init>", "()V"⟩
theorem dJ13_init_2_0 : decode cJ13_init_2 0 = .ok (.aload_n 0, 1) := by decide +kernel
theorem dJ13_init_2_1 : decode cJ13_init_2 1 = .ok (.bipush 16, 2) := by decide +kernel
theorem dJ13_init_2_3 : decode cJ13_init_2 3 = .ok (.invokespecial 1, 3) := by decide +kernel
theorem dJ13_init_2_6 : decode cJ13_init_2 6 = .ok (.return_, 1) := by decide +kernel
abbrev cJ13_append_2 : ByteArray := prog_44_method_15_code
def yJ13_append_2 : MethodName := ⟨RJ13, "append", "(I)Ljava/lang/StringBuilder;"⟩
theorem dJ13_append_2_0 : decode cJ13_append_2 0 = .ok (.aload_n 0, 1) := by decide +kernel
theorem dJ13_append_2_1 : decode cJ13_append_2 1 = .ok (.iload_n 1, 1) := by decide +kernel
theorem dJ13_append_2_2 : decode cJ13_append_2 2 = .ok (.invokespecial 53, 3) := by decide +kernel
theorem dJ13_append_2_5 : decode cJ13_append_2 5 = .ok (.pop, 1) := by decide +kernel
theorem dJ13_append_2_6 : decode cJ13_append_2 6 = .ok (.aload_n 0, 1) := by decide +kernel
theorem dJ13_append_2_7 : decode cJ13_append_2 7 = .ok (.areturn, 1) := by decide +kernel
abbrev cJ13_append_3 : ByteArray := prog_44_method_7_code
def yJ13_append_3 : MethodName := ⟨RJ13, "append", "(Ljava/lang/String;)Ljava/lang/StringBuilder;"⟩
theorem dJ13_append_3_0 : decode cJ13_append_3 0 = .ok (.aload_n 0, 1) := by decide +kernel
theorem dJ13_append_3_1 : decode cJ13_append_3 1 = .ok (.aload_n 1, 1) := by decide +kernel
theorem dJ13_append_3_2 : decode cJ13_append_3 2 = .ok (.invokespecial 29, 3) := by decide +kernel
theorem dJ13_append_3_5 : decode cJ13_append_3 5 = .ok (.pop, 1) := by decide +kernel
theorem dJ13_append_3_6 : decode cJ13_append_3 6 = .ok (.aload_n 0, 1) := by decide +kernel
theorem dJ13_append_3_7 : decode cJ13_append_3 7 = .ok (.areturn, 1) := by decide +kernel
theorem q133 : (Jvm.Cond.initialized "java/lang/StringBuilder") ∈ lw_all := lw_g (lw_at lw_m1 21 rfl) rfl
theorem q511 : (Jvm.Cond.instantiable "java/lang/StringBuilder" (4 : Nat)) ∈ lw_all := lw_g (lw_at lw_m2 159 rfl) rfl
theorem q513 : (Jvm.Cond.instanceMethod ({ cls := "java/lang/StringBuilder", name := "<init>", desc := "(I)V" } : Jvm.MethodName)) ∈ lw_all := lw_g (lw_at lw_m2 161 rfl) rfl
theorem q514 : (Jvm.Cond.code ({ cls := "java/lang/StringBuilder", name := "<init>", desc := "(I)V" } : Jvm.MethodName) prog_44_method_2_code (2 : Nat) (Option.none : Option Jvm.ClassFile.FieldType)) ∈ lw_all := lw_g (lw_at lw_m2 162 rfl) rfl
theorem q515 : (Jvm.Cond.methodLink "java/lang/StringBuilder" (1 : Nat) ({ cls := "java/lang/AbstractStringBuilder", name := "<init>", desc := "(I)V" } : Jvm.MethodName)) ∈ lw_all := lw_g (lw_at lw_m2 163 rfl) rfl
theorem q532 : (Jvm.Cond.lays "java/lang/StringBuilder" "java/lang/AbstractStringBuilder" "value" "[B") ∈ lw_all := lw_g (lw_at lw_m2 180 rfl) rfl
theorem q534 : (Jvm.Cond.lays "java/lang/StringBuilder" "java/lang/AbstractStringBuilder" "coder" "B") ∈ lw_all := lw_g (lw_at lw_m2 182 rfl) rfl
theorem q536 : (Jvm.Cond.lays "java/lang/StringBuilder" "java/lang/AbstractStringBuilder" "maybeLatin1" "Z") ∈ lw_all := lw_g (lw_at lw_m2 184 rfl) rfl
theorem q538 : (Jvm.Cond.lays "java/lang/StringBuilder" "java/lang/AbstractStringBuilder" "count" "I") ∈ lw_all := lw_g (lw_at lw_m2 186 rfl) rfl
theorem q540 : (Jvm.Cond.superclass "java/lang/StringBuilder" "java/lang/AbstractStringBuilder") ∈ lw_all := lw_g (lw_at lw_m2 188 rfl) rfl
theorem q545 : (Jvm.Cond.instanceMethod ({ cls := "java/lang/StringBuilder", name := "length", desc := "()I" } : Jvm.MethodName)) ∈ lw_all := lw_g (lw_at lw_m2 193 rfl) rfl
theorem q546 : (Jvm.Cond.selects "java/lang/StringBuilder" ({ cls := "java/lang/StringBuilder", name := "length", desc := "()I" } : Jvm.MethodName) ({ cls := "java/lang/StringBuilder", name := "length", desc := "()I" } : Jvm.MethodName)) ∈ lw_all := lw_g (lw_at lw_m2 194 rfl) rfl
theorem q547 : (Jvm.Cond.code ({ cls := "java/lang/StringBuilder", name := "length", desc := "()I" } : Jvm.MethodName) prog_44_method_93_code (1 : Nat) (Option.some Jvm.ClassFile.FieldType.int)) ∈ lw_all := lw_g (lw_at lw_m2 195 rfl) rfl
theorem q548 : (Jvm.Cond.methodLink "java/lang/StringBuilder" (343 : Nat) ({ cls := "java/lang/AbstractStringBuilder", name := "length", desc := "()I" } : Jvm.MethodName)) ∈ lw_all := lw_g (lw_at lw_m2 196 rfl) rfl
theorem q552 : (Jvm.Cond.instanceMethod ({ cls := "java/lang/StringBuilder", name := "append", desc := "(C)Ljava/lang/StringBuilder;" } : Jvm.MethodName)) ∈ lw_all := lw_g (lw_at lw_m2 200 rfl) rfl
theorem q553 : (Jvm.Cond.selects "java/lang/StringBuilder" ({ cls := "java/lang/StringBuilder", name := "append", desc := "(C)Ljava/lang/StringBuilder;" } : Jvm.MethodName) ({ cls := "java/lang/StringBuilder", name := "append", desc := "(C)Ljava/lang/StringBuilder;" } : Jvm.MethodName)) ∈ lw_all := lw_g (lw_at lw_m2 201 rfl) rfl
theorem q554 : (Jvm.Cond.code ({ cls := "java/lang/StringBuilder", name := "append", desc := "(C)Ljava/lang/StringBuilder;" } : Jvm.MethodName) prog_44_method_14_code (2 : Nat) (Option.some (Jvm.ClassFile.FieldType.object "java/lang/StringBuilder"))) ∈ lw_all := lw_g (lw_at lw_m2 202 rfl) rfl
theorem q555 : (Jvm.Cond.methodLink "java/lang/StringBuilder" (50 : Nat) ({ cls := "java/lang/AbstractStringBuilder", name := "append", desc := "(C)Ljava/lang/AbstractStringBuilder;" } : Jvm.MethodName)) ∈ lw_all := lw_g (lw_at lw_m2 203 rfl) rfl
theorem q596 : (Jvm.Cond.selects "java/lang/StringBuilder" ({ cls := "java/lang/AbstractStringBuilder", name := "isLatin1", desc := "()Z" } : Jvm.MethodName) ({ cls := "java/lang/AbstractStringBuilder", name := "isLatin1", desc := "()Z" } : Jvm.MethodName)) ∈ lw_all := lw_g (lw_at lw_m3 4 rfl) rfl
theorem q651 : (Jvm.Cond.instanceMethod ({ cls := "java/lang/StringBuilder", name := "toString", desc := "()Ljava/lang/String;" } : Jvm.MethodName)) ∈ lw_all := lw_g (lw_at lw_m3 59 rfl) rfl
theorem q652 : (Jvm.Cond.selects "java/lang/StringBuilder" ({ cls := "java/lang/StringBuilder", name := "toString", desc := "()Ljava/lang/String;" } : Jvm.MethodName) ({ cls := "java/lang/StringBuilder", name := "toString", desc := "()Ljava/lang/String;" } : Jvm.MethodName)) ∈ lw_all := lw_g (lw_at lw_m3 60 rfl) rfl
theorem q653 : (Jvm.Cond.code ({ cls := "java/lang/StringBuilder", name := "toString", desc := "()Ljava/lang/String;" } : Jvm.MethodName) prog_44_method_42_code (1 : Nat) (Option.some (Jvm.ClassFile.FieldType.object "java/lang/String"))) ∈ lw_all := lw_g (lw_at lw_m3 61 rfl) rfl
theorem q654 : (Jvm.Cond.classLink "java/lang/StringBuilder" (18 : Nat) "java/lang/String") ∈ lw_all := lw_g (lw_at lw_m3 62 rfl) rfl
theorem q656 : (Jvm.Cond.methodLink "java/lang/StringBuilder" (137 : Nat) ({ cls := "java/lang/String", name := "<init>", desc := "(Ljava/lang/StringBuilder;)V" } : Jvm.MethodName)) ∈ lw_all := lw_g (lw_at lw_m3 64 rfl) rfl
theorem q666 : (Jvm.Cond.selects "java/lang/StringBuilder" ({ cls := "java/lang/AbstractStringBuilder", name := "getValue", desc := "()[B" } : Jvm.MethodName) ({ cls := "java/lang/AbstractStringBuilder", name := "getValue", desc := "()[B" } : Jvm.MethodName)) ∈ lw_all := lw_g (lw_at lw_m3 74 rfl) rfl
theorem q682 : (Jvm.Cond.instanceMethod ({ cls := "java/lang/StringBuilder", name := "<init>", desc := "()V" } : Jvm.MethodName)) ∈ lw_all := lw_g (lw_at lw_m3 90 rfl) rfl
theorem q683 : (Jvm.Cond.code ({ cls := "java/lang/StringBuilder", name := "<init>", desc := "()V" } : Jvm.MethodName) prog_44_method_1_code (1 : Nat) (Option.none : Option Jvm.ClassFile.FieldType)) ∈ lw_all := lw_g (lw_at lw_m3 91 rfl) rfl
theorem q685 : (Jvm.Cond.instanceMethod ({ cls := "java/lang/StringBuilder", name := "append", desc := "(I)Ljava/lang/StringBuilder;" } : Jvm.MethodName)) ∈ lw_all := lw_g (lw_at lw_m3 93 rfl) rfl
theorem q686 : (Jvm.Cond.selects "java/lang/StringBuilder" ({ cls := "java/lang/StringBuilder", name := "append", desc := "(I)Ljava/lang/StringBuilder;" } : Jvm.MethodName) ({ cls := "java/lang/StringBuilder", name := "append", desc := "(I)Ljava/lang/StringBuilder;" } : Jvm.MethodName)) ∈ lw_all := lw_g (lw_at lw_m3 94 rfl) rfl
theorem q687 : (Jvm.Cond.code ({ cls := "java/lang/StringBuilder", name := "append", desc := "(I)Ljava/lang/StringBuilder;" } : Jvm.MethodName) prog_44_method_15_code (2 : Nat) (Option.some (Jvm.ClassFile.FieldType.object "java/lang/StringBuilder"))) ∈ lw_all := lw_g (lw_at lw_m3 95 rfl) rfl
theorem q688 : (Jvm.Cond.methodLink "java/lang/StringBuilder" (53 : Nat) ({ cls := "java/lang/AbstractStringBuilder", name := "append", desc := "(I)Ljava/lang/AbstractStringBuilder;" } : Jvm.MethodName)) ∈ lw_all := lw_g (lw_at lw_m3 96 rfl) rfl
theorem q720 : (Jvm.Cond.instanceMethod ({ cls := "java/lang/StringBuilder", name := "append", desc := "(Ljava/lang/String;)Ljava/lang/StringBuilder;" } : Jvm.MethodName)) ∈ lw_all := lw_g (lw_at lw_m3 128 rfl) rfl
theorem q721 : (Jvm.Cond.selects "java/lang/StringBuilder" ({ cls := "java/lang/StringBuilder", name := "append", desc := "(Ljava/lang/String;)Ljava/lang/StringBuilder;" } : Jvm.MethodName) ({ cls := "java/lang/StringBuilder", name := "append", desc := "(Ljava/lang/String;)Ljava/lang/StringBuilder;" } : Jvm.MethodName)) ∈ lw_all := lw_g (lw_at lw_m3 129 rfl) rfl
theorem q722 : (Jvm.Cond.code ({ cls := "java/lang/StringBuilder", name := "append", desc := "(Ljava/lang/String;)Ljava/lang/StringBuilder;" } : Jvm.MethodName) prog_44_method_7_code (2 : Nat) (Option.some (Jvm.ClassFile.FieldType.object "java/lang/StringBuilder"))) ∈ lw_all := lw_g (lw_at lw_m3 130 rfl) rfl
theorem q723 : (Jvm.Cond.methodLink "java/lang/StringBuilder" (29 : Nat) ({ cls := "java/lang/AbstractStringBuilder", name := "append", desc := "(Ljava/lang/String;)Ljava/lang/AbstractStringBuilder;" } : Jvm.MethodName)) ∈ lw_all := lw_g (lw_at lw_m3 131 rfl) rfl
theorem q1129 : (Jvm.Cond.selects "java/lang/StringBuilder" ({ cls := "java/lang/Object", name := "getClass", desc := "()Ljava/lang/Class;" } : Jvm.MethodName) ({ cls := "java/lang/Object", name := "getClass", desc := "()Ljava/lang/Class;" } : Jvm.MethodName)) ∈ lw_all := lw_g (lw_at lw_m5 57 rfl) rfl
theorem q2557 : (Jvm.Cond.selects "java/lang/StringBuilder" ({ cls := "java/lang/AbstractStringBuilder", name := "length", desc := "()I" } : Jvm.MethodName) ({ cls := "java/lang/StringBuilder", name := "length", desc := "()I" } : Jvm.MethodName)) ∈ lw_all := lw_g (lw_at lw_m11 45 rfl) rfl
theorem q2582 : (Jvm.Cond.castable "java/lang/StringBuilder" "java/lang/Object") ∈ lw_tbl := lw_at lw_m11 70 rfl
theorem in_J13 : ∀ w ∈ wsJ130, w ∈ lw_all := lw_in wsJ130 [532, 534, 536, 538] (by decide +kernel) (by decide +kernel)

/-! jdk/internal/util/ArraysSupport -/
set_option maxRecDepth 100000
def RJ14 : String := "jdk/internal/util/ArraysSupport"
abbrev cJ14_newLength : ByteArray := prog_63_method_27_code
def yJ14_newLength : MethodName := ⟨RJ14, "newLength", "(III)I"⟩
theorem dJ14_newLength_0 : decode cJ14_newLength 0 = .ok (.iload_n 0, 1) := by decide +kernel
theorem dJ14_newLength_1 : decode cJ14_newLength 1 = .ok (.iload_n 1, 1) := by decide +kernel
theorem dJ14_newLength_2 : decode cJ14_newLength 2 = .ok (.iload_n 2, 1) := by decide +kernel
theorem dJ14_newLength_3 : decode cJ14_newLength 3 = .ok (.invokestatic 194, 3) := by decide +kernel
theorem dJ14_newLength_6 : decode cJ14_newLength 6 = .ok (.iadd, 1) := by decide +kernel
theorem dJ14_newLength_7 : decode cJ14_newLength 7 = .ok (.istore_n 3, 1) := by decide +kernel
theorem dJ14_newLength_8 : decode cJ14_newLength 8 = .ok (.iconst 0, 1) := by decide +kernel
theorem dJ14_newLength_9 : decode cJ14_newLength 9 = .ok (.iload_n 3, 1) := by decide +kernel
theorem dJ14_newLength_10 : decode cJ14_newLength 10 = .ok (.if_icmp .ge 11, 3) := by decide +kernel
theorem dJ14_newLength_13 : decode cJ14_newLength 13 = .ok (.iload_n 3, 1) := by decide +kernel
theorem dJ14_newLength_14 : decode cJ14_newLength 14 = .ok (.ldc 200, 2) := by decide +kernel
theorem dJ14_newLength_16 : decode cJ14_newLength 16 = .ok (.if_icmp .gt 5, 3) := by decide +kernel
theorem dJ14_newLength_19 : decode cJ14_newLength 19 = .ok (.iload_n 3, 1) := by decide +kernel
theorem dJ14_newLength_20 : decode cJ14_newLength 20 = .ok (.ireturn, 1) := by decide +kernel
theorem dJ14_newLength_21 : decode cJ14_newLength 21 = .ok (.iload_n 0, 1) := by decide +kernel
theorem dJ14_newLength_22 : decode cJ14_newLength 22 = .ok (.iload_n 1, 1) := by decide +kernel
theorem dJ14_newLength_23 : decode cJ14_newLength 23 = .ok (.invokestatic 201, 3) := by decide +kernel
theorem dJ14_newLength_26 : decode cJ14_newLength 26 = .ok (.ireturn, 1) := by decide +kernel
abbrev cJ14_hugeLength : ByteArray := prog_63_method_28_code
def yJ14_hugeLength : MethodName := ⟨RJ14, "hugeLength", "(II)I"⟩
theorem dJ14_hugeLength_0 : decode cJ14_hugeLength 0 = .ok (.iload_n 0, 1) := by decide +kernel
theorem dJ14_hugeLength_1 : decode cJ14_hugeLength 1 = .ok (.iload_n 1, 1) := by decide +kernel
theorem dJ14_hugeLength_2 : decode cJ14_hugeLength 2 = .ok (.iadd, 1) := by decide +kernel
theorem dJ14_hugeLength_3 : decode cJ14_hugeLength 3 = .ok (.istore_n 2, 1) := by decide +kernel
theorem dJ14_hugeLength_4 : decode cJ14_hugeLength 4 = .ok (.iload_n 2, 1) := by decide +kernel
theorem dJ14_hugeLength_5 : decode cJ14_hugeLength 5 = .ok (.ifCond .ge 44, 3) := by decide +kernel
theorem dJ14_hugeLength_8 : decode cJ14_hugeLength 8 = .ok (.new 204, 3) := by decide +kernel
theorem dJ14_hugeLength_11 : decode cJ14_hugeLength 11 = .ok (.dup, 1) := by decide +kernel
theorem dJ14_hugeLength_12 : decode cJ14_hugeLength 12 = .ok (.new 89, 3) := by decide +kernel
theorem dJ14_hugeLength_15 : decode cJ14_hugeLength 15 = .ok (.dup, 1) := by decide +kernel
theorem dJ14_hugeLength_16 : decode cJ14_hugeLength 16 = .ok (.invokespecial 91, 3) := by decide +kernel
theorem dJ14_hugeLength_19 : decode cJ14_hugeLength 19 = .ok (.ldc 206, 2) := by decide +kernel
theorem dJ14_hugeLength_21 : decode cJ14_hugeLength 21 = .ok (.invokevirtual 94, 3) := by decide +kernel
theorem dJ14_hugeLength_24 : decode cJ14_hugeLength 24 = .ok (.iload_n 0, 1) := by decide +kernel
theorem dJ14_hugeLength_25 : decode cJ14_hugeLength 25 = .ok (.invokevirtual 98, 3) := by decide +kernel
theorem dJ14_hugeLength_28 : decode cJ14_hugeLength 28 = .ok (.ldc 208, 2) := by decide +kernel
theorem dJ14_hugeLength_30 : decode cJ14_hugeLength 30 = .ok (.invokevirtual 94, 3) := by decide +kernel
theorem dJ14_hugeLength_33 : decode cJ14_hugeLength 33 = .ok (.iload_n 1, 1) := by decide +kernel
theorem dJ14_hugeLength_34 : decode cJ14_hugeLength 34 = .ok (.invokevirtual 98, 3) := by decide +kernel
theorem dJ14_hugeLength_37 : decode cJ14_hugeLength 37 = .ok (.ldc 210, 2) := by decide +kernel
theorem dJ14_hugeLength_39 : decode cJ14_hugeLength 39 = .ok (.invokevirtual 94, 3) := by decide +kernel
theorem dJ14_hugeLength_42 : decode cJ14_hugeLength 42 = .ok (.invokevirtual 101, 3) := by decide +kernel
theorem dJ14_hugeLength_45 : decode cJ14_hugeLength 45 = .ok (.invokespecial 212, 3) := by decide +kernel
theorem dJ14_hugeLength_48 : decode cJ14_hugeLength 48 = .ok (.athrow, 1) := by decide +kernel
theorem dJ14_hugeLength_49 : decode cJ14_hugeLength 49 = .ok (.iload_n 2, 1) := by decide +kernel
theorem dJ14_hugeLength_50 : decode cJ14_hugeLength 50 = .ok (.ldc 200, 2) := by decide +kernel
theorem dJ14_hugeLength_52 : decode cJ14_hugeLength 52 = .ok (.if_icmp .gt 6, 3) := by decide +kernel
theorem dJ14_hugeLength_55 : decode cJ14_hugeLength 55 = .ok (.ldc 200, 2) := by decide +kernel
theorem dJ14_hugeLength_57 : decode cJ14_hugeLength 57 = .ok (.ireturn, 1) := by decide +kernel
theorem dJ14_hugeLength_58 : decode cJ14_hugeLength 58 = .ok (.iload_n 2, 1) := by decide +kernel
theorem dJ14_hugeLength_59 : decode cJ14_hugeLength 59 = .ok (.ireturn, 1) := by decide +kernel
abbrev cJ14_vectorizedHashCode : ByteArray := prog_63_method_4_code
def yJ14_vectorizedHashCode : MethodName := ⟨RJ14, "vectorizedHashCode", "(Ljava/lang/Object;IIII)I"⟩
theorem dJ14_vectorizedHashCode_0 : decode cJ14_vectorizedHashCode 0 = .ok (.iload 4, 2) := by decide +kernel
theorem dJ14_vectorizedHashCode_2 : decode cJ14_vectorizedHashCode 2 = .ok (.tableswitch 127 4 10 #[42, 55, 127, 127, 88, 101, 114], 42) := by decide +kernel
theorem dJ14_vectorizedHashCode_44 : decode cJ14_vectorizedHashCode 44 = .ok (.iload_n 3, 1) := by decide +kernel
theorem dJ14_vectorizedHashCode_45 : decode cJ14_vectorizedHashCode 45 = .ok (.aload_n 0, 1) := by decide +kernel
theorem dJ14_vectorizedHashCode_46 : decode cJ14_vectorizedHashCode 46 = .ok (.checkcast 60, 3) := by decide +kernel
theorem dJ14_vectorizedHashCode_49 : decode cJ14_vectorizedHashCode 49 = .ok (.iload_n 1, 1) := by decide +kernel
theorem dJ14_vectorizedHashCode_50 : decode cJ14_vectorizedHashCode 50 = .ok (.iload_n 2, 1) := by decide +kernel
theorem dJ14_vectorizedHashCode_51 : decode cJ14_vectorizedHashCode 51 = .ok (.invokestatic 62, 3) := by decide +kernel
theorem dJ14_vectorizedHashCode_54 : decode cJ14_vectorizedHashCode 54 = .ok (.goto 103, 3) := by decide +kernel
theorem dJ14_vectorizedHashCode_57 : decode cJ14_vectorizedHashCode 57 = .ok (.aload_n 0, 1) := by decide +kernel
theorem dJ14_vectorizedHashCode_58 : decode cJ14_vectorizedHashCode 58 = .ok (.instanceof 60, 3) := by decide +kernel
theorem dJ14_vectorizedHashCode_61 : decode cJ14_vectorizedHashCode 61 = .ok (.ifCond .eq 16, 3) := by decide +kernel
theorem dJ14_vectorizedHashCode_64 : decode cJ14_vectorizedHashCode 64 = .ok (.iload_n 3, 1) := by decide +kernel
theorem dJ14_vectorizedHashCode_65 : decode cJ14_vectorizedHashCode 65 = .ok (.aload_n 0, 1) := by decide +kernel
theorem dJ14_vectorizedHashCode_66 : decode cJ14_vectorizedHashCode 66 = .ok (.checkcast 60, 3) := by decide +kernel
theorem dJ14_vectorizedHashCode_69 : decode cJ14_vectorizedHashCode 69 = .ok (.iload_n 1, 1) := by decide +kernel
theorem dJ14_vectorizedHashCode_70 : decode cJ14_vectorizedHashCode 70 = .ok (.iload_n 2, 1) := by decide +kernel
theorem dJ14_vectorizedHashCode_71 : decode cJ14_vectorizedHashCode 71 = .ok (.invokestatic 66, 3) := by decide +kernel
theorem dJ14_vectorizedHashCode_74 : decode cJ14_vectorizedHashCode 74 = .ok (.goto 83, 3) := by decide +kernel
theorem dJ14_vectorizedHashCode_77 : decode cJ14_vectorizedHashCode 77 = .ok (.iload_n 3, 1) := by decide +kernel
theorem dJ14_vectorizedHashCode_78 : decode cJ14_vectorizedHashCode 78 = .ok (.aload_n 0, 1) := by decide +kernel
theorem dJ14_vectorizedHashCode_79 : decode cJ14_vectorizedHashCode 79 = .ok (.checkcast 69, 3) := by decide +kernel
theorem dJ14_vectorizedHashCode_82 : decode cJ14_vectorizedHashCode 82 = .ok (.iload_n 1, 1) := by decide +kernel
theorem dJ14_vectorizedHashCode_83 : decode cJ14_vectorizedHashCode 83 = .ok (.iload_n 2, 1) := by decide +kernel
theorem dJ14_vectorizedHashCode_84 : decode cJ14_vectorizedHashCode 84 = .ok (.invokestatic 71, 3) := by decide +kernel
theorem dJ14_vectorizedHashCode_87 : decode cJ14_vectorizedHashCode 87 = .ok (.goto 70, 3) := by decide +kernel
theorem dJ14_vectorizedHashCode_90 : decode cJ14_vectorizedHashCode 90 = .ok (.iload_n 3, 1) := by decide +kernel
theorem dJ14_vectorizedHashCode_91 : decode cJ14_vectorizedHashCode 91 = .ok (.aload_n 0, 1) := by decide +kernel
theorem dJ14_vectorizedHashCode_92 : decode cJ14_vectorizedHashCode 92 = .ok (.checkcast 60, 3) := by decide +kernel
theorem dJ14_vectorizedHashCode_95 : decode cJ14_vectorizedHashCode 95 = .ok (.iload_n 1, 1) := by decide +kernel
theorem dJ14_vectorizedHashCode_96 : decode cJ14_vectorizedHashCode 96 = .ok (.iload_n 2, 1) := by decide +kernel
theorem dJ14_vectorizedHashCode_97 : decode cJ14_vectorizedHashCode 97 = .ok (.invokestatic 75, 3) := by decide +kernel
theorem dJ14_vectorizedHashCode_100 : decode cJ14_vectorizedHashCode 100 = .ok (.goto 57, 3) := by decide +kernel
theorem dJ14_vectorizedHashCode_103 : decode cJ14_vectorizedHashCode 103 = .ok (.iload_n 3, 1) := by decide +kernel
theorem dJ14_vectorizedHashCode_104 : decode cJ14_vectorizedHashCode 104 = .ok (.aload_n 0, 1) := by decide +kernel
theorem dJ14_vectorizedHashCode_105 : decode cJ14_vectorizedHashCode 105 = .ok (.checkcast 77, 3) := by decide +kernel
theorem dJ14_vectorizedHashCode_108 : decode cJ14_vectorizedHashCode 108 = .ok (.iload_n 1, 1) := by decide +kernel
theorem dJ14_vectorizedHashCode_109 : decode cJ14_vectorizedHashCode 109 = .ok (.iload_n 2, 1) := by decide +kernel
theorem dJ14_vectorizedHashCode_110 : decode cJ14_vectorizedHashCode 110 = .ok (.invokestatic 79, 3) := by decide +kernel
theorem dJ14_vectorizedHashCode_113 : decode cJ14_vectorizedHashCode 113 = .ok (.goto 44, 3) := by decide +kernel
theorem dJ14_vectorizedHashCode_116 : decode cJ14_vectorizedHashCode 116 = .ok (.iload_n 3, 1) := by decide +kernel
theorem dJ14_vectorizedHashCode_117 : decode cJ14_vectorizedHashCode 117 = .ok (.aload_n 0, 1) := by decide +kernel
theorem dJ14_vectorizedHashCode_118 : decode cJ14_vectorizedHashCode 118 = .ok (.checkcast 82, 3) := by decide +kernel
theorem dJ14_vectorizedHashCode_121 : decode cJ14_vectorizedHashCode 121 = .ok (.iload_n 1, 1) := by decide +kernel
theorem dJ14_vectorizedHashCode_122 : decode cJ14_vectorizedHashCode 122 = .ok (.iload_n 2, 1) := by decide +kernel
theorem dJ14_vectorizedHashCode_123 : decode cJ14_vectorizedHashCode 123 = .ok (.invokestatic 84, 3) := by decide +kernel
theorem dJ14_vectorizedHashCode_126 : decode cJ14_vectorizedHashCode 126 = .ok (.goto 31, 3) := by decide +kernel
theorem dJ14_vectorizedHashCode_129 : decode cJ14_vectorizedHashCode 129 = .ok (.new 87, 3) := by decide +kernel
theorem dJ14_vectorizedHashCode_132 : decode cJ14_vectorizedHashCode 132 = .ok (.dup, 1) := by decide +kernel
theorem dJ14_vectorizedHashCode_133 : decode cJ14_vectorizedHashCode 133 = .ok (.new 89, 3) := by decide +kernel
theorem dJ14_vectorizedHashCode_136 : decode cJ14_vectorizedHashCode 136 = .ok (.dup, 1) := by decide +kernel
theorem dJ14_vectorizedHashCode_137 : decode cJ14_vectorizedHashCode 137 = .ok (.invokespecial 91, 3) := by decide +kernel
theorem dJ14_vectorizedHashCode_140 : decode cJ14_vectorizedHashCode 140 = .ok (.ldc 92, 2) := by decide +kernel
theorem dJ14_vectorizedHashCode_142 : decode cJ14_vectorizedHashCode 142 = .ok (.invokevirtual 94, 3) := by decide +kernel
theorem dJ14_vectorizedHashCode_145 : decode cJ14_vectorizedHashCode 145 = .ok (.iload 4, 2) := by decide +kernel
theorem dJ14_vectorizedHashCode_147 : decode cJ14_vectorizedHashCode 147 = .ok (.invokevirtual 98, 3) := by decide +kernel
theorem dJ14_vectorizedHashCode_150 : decode cJ14_vectorizedHashCode 150 = .ok (.invokevirtual 101, 3) := by decide +kernel
theorem dJ14_vectorizedHashCode_153 : decode cJ14_vectorizedHashCode 153 = .ok (.invokespecial 105, 3) := by decide +kernel
theorem dJ14_vectorizedHashCode_156 : decode cJ14_vectorizedHashCode 156 = .ok (.athrow, 1) := by decide +kernel
theorem dJ14_vectorizedHashCode_157 : decode cJ14_vectorizedHashCode 157 = .ok (.ireturn, 1) := by decide +kernel
abbrev cJ14_signedHashCode : ByteArray := prog_63_method_5_code
def yJ14_signedHashCode : MethodName := ⟨RJ14, "signedHashCode", "(I[BII)I"⟩
theorem dJ14_signedHashCode_0 : decode cJ14_signedHashCode 0 = .ok (.iload_n 2, 1) := by decide +kernel
theorem dJ14_signedHashCode_1 : decode cJ14_signedHashCode 1 = .ok (.iload_n 3, 1) := by decide +kernel
theorem dJ14_signedHashCode_2 : decode cJ14_signedHashCode 2 = .ok (.iadd, 1) := by decide +kernel
theorem dJ14_signedHashCode_3 : decode cJ14_signedHashCode 3 = .ok (.istore 4, 2) := by decide +kernel
theorem dJ14_signedHashCode_5 : decode cJ14_signedHashCode 5 = .ok (.iload_n 2, 1) := by decide +kernel
theorem dJ14_signedHashCode_6 : decode cJ14_signedHashCode 6 = .ok (.istore 5, 2) := by decide +kernel
theorem dJ14_signedHashCode_8 : decode cJ14_signedHashCode 8 = .ok (.iload 5, 2) := by decide +kernel
theorem dJ14_signedHashCode_10 : decode cJ14_signedHashCode 10 = .ok (.iload 4, 2) := by decide +kernel
theorem dJ14_signedHashCode_12 : decode cJ14_signedHashCode 12 = .ok (.if_icmp .ge 23, 3) := by decide +kernel
theorem dJ14_signedHashCode_15 : decode cJ14_signedHashCode 15 = .ok (.bipush 31, 2) := by decide +kernel
theorem dJ14_signedHashCode_17 : decode cJ14_signedHashCode 17 = .ok (.iload_n 0, 1) := by decide +kernel
theorem dJ14_signedHashCode_18 : decode cJ14_signedHashCode 18 = .ok (.imul, 1) := by decide +kernel
theorem dJ14_signedHashCode_19 : decode cJ14_signedHashCode 19 = .ok (.aload_n 1, 1) := by decide +kernel
theorem dJ14_signedHashCode_20 : decode cJ14_signedHashCode 20 = .ok (.iload 5, 2) := by decide +kernel
theorem dJ14_signedHashCode_22 : decode cJ14_signedHashCode 22 = .ok (.baload, 1) := by decide +kernel
theorem dJ14_signedHashCode_23 : decode cJ14_signedHashCode 23 = .ok (.sipush 255, 3) := by decide +kernel
theorem dJ14_signedHashCode_26 : decode cJ14_signedHashCode 26 = .ok (.iand, 1) := by decide +kernel
theorem dJ14_signedHashCode_27 : decode cJ14_signedHashCode 27 = .ok (.iadd, 1) := by decide +kernel
theorem dJ14_signedHashCode_28 : decode cJ14_signedHashCode 28 = .ok (.istore_n 0, 1) := by decide +kernel
theorem dJ14_signedHashCode_29 : decode cJ14_signedHashCode 29 = .ok (.iinc 5 1, 3) := by decide +kernel
theorem dJ14_signedHashCode_32 : decode cJ14_signedHashCode 32 = .ok (.goto (-24), 3) := by decide +kernel
theorem dJ14_signedHashCode_35 : decode cJ14_signedHashCode 35 = .ok (.iload_n 0, 1) := by decide +kernel
theorem dJ14_signedHashCode_36 : decode cJ14_signedHashCode 36 = .ok (.ireturn, 1) := by decide +kernel
abbrev cJ14_utf16hashCode : ByteArray := prog_63_method_10_code
def yJ14_utf16hashCode : MethodName := ⟨RJ14, "utf16hashCode", "(I[BII)I"⟩
theorem dJ14_utf16hashCode_0 : decode cJ14_utf16hashCode 0 = .ok (.iload_n 2, 1) := by decide +kernel
theorem dJ14_utf16hashCode_1 : decode cJ14_utf16hashCode 1 = .ok (.iload_n 3, 1) := by decide +kernel
theorem dJ14_utf16hashCode_2 : decode cJ14_utf16hashCode 2 = .ok (.iadd, 1) := by decide +kernel
theorem dJ14_utf16hashCode_3 : decode cJ14_utf16hashCode 3 = .ok (.istore 4, 2) := by decide +kernel
theorem dJ14_utf16hashCode_5 : decode cJ14_utf16hashCode 5 = .ok (.iload_n 2, 1) := by decide +kernel
theorem dJ14_utf16hashCode_6 : decode cJ14_utf16hashCode 6 = .ok (.istore 5, 2) := by decide +kernel
theorem dJ14_utf16hashCode_8 : decode cJ14_utf16hashCode 8 = .ok (.iload 5, 2) := by decide +kernel
theorem dJ14_utf16hashCode_10 : decode cJ14_utf16hashCode 10 = .ok (.iload 4, 2) := by decide +kernel
theorem dJ14_utf16hashCode_12 : decode cJ14_utf16hashCode 12 = .ok (.if_icmp .ge 26, 3) := by decide +kernel
theorem dJ14_utf16hashCode_15 : decode cJ14_utf16hashCode 15 = .ok (.bipush 31, 2) := by decide +kernel
theorem dJ14_utf16hashCode_17 : decode cJ14_utf16hashCode 17 = .ok (.iload_n 0, 1) := by decide +kernel
theorem dJ14_utf16hashCode_18 : decode cJ14_utf16hashCode 18 = .ok (.imul, 1) := by decide +kernel
theorem dJ14_utf16hashCode_19 : decode cJ14_utf16hashCode 19 = .ok (.getstatic 106, 3) := by decide +kernel
theorem dJ14_utf16hashCode_22 : decode cJ14_utf16hashCode 22 = .ok (.aload_n 1, 1) := by decide +kernel
theorem dJ14_utf16hashCode_23 : decode cJ14_utf16hashCode 23 = .ok (.iload 5, 2) := by decide +kernel
theorem dJ14_utf16hashCode_25 : decode cJ14_utf16hashCode 25 = .ok (.invokeinterface 110 3, 5) := by decide +kernel
theorem dJ14_utf16hashCode_30 : decode cJ14_utf16hashCode 30 = .ok (.iadd, 1) := by decide +kernel
theorem dJ14_utf16hashCode_31 : decode cJ14_utf16hashCode 31 = .ok (.istore_n 0, 1) := by decide +kernel
theorem dJ14_utf16hashCode_32 : decode cJ14_utf16hashCode 32 = .ok (.iinc 5 1, 3) := by decide +kernel
theorem dJ14_utf16hashCode_35 : decode cJ14_utf16hashCode 35 = .ok (.goto (-27), 3) := by decide +kernel
theorem dJ14_utf16hashCode_38 : decode cJ14_utf16hashCode 38 = .ok (.iload_n 0, 1) := by decide +kernel
theorem dJ14_utf16hashCode_39 : decode cJ14_utf16hashCode 39 = .ok (.ireturn, 1) := by decide +kernel
abbrev cJ14_hashCode : ByteArray := prog_63_method_7_code
def yJ14_hashCode : MethodName := ⟨RJ14, "hashCode", "(I[CII)I"⟩
theorem dJ14_hashCode_0 : decode cJ14_hashCode 0 = .ok (.iload_n 2, 1) := by decide +kernel
theorem dJ14_hashCode_1 : decode cJ14_hashCode 1 = .ok (.iload_n 3, 1) := by decide +kernel
theorem dJ14_hashCode_2 : decode cJ14_hashCode 2 = .ok (.iadd, 1) := by decide +kernel
theorem dJ14_hashCode_3 : decode cJ14_hashCode 3 = .ok (.istore 4, 2) := by decide +kernel
theorem dJ14_hashCode_5 : decode cJ14_hashCode 5 = .ok (.iload_n 2, 1) := by decide +kernel
theorem dJ14_hashCode_6 : decode cJ14_hashCode 6 = .ok (.istore 5, 2) := by decide +kernel
theorem dJ14_hashCode_8 : decode cJ14_hashCode 8 = .ok (.iload 5, 2) := by decide +kernel
theorem dJ14_hashCode_10 : decode cJ14_hashCode 10 = .ok (.iload 4, 2) := by decide +kernel
theorem dJ14_hashCode_12 : decode cJ14_hashCode 12 = .ok (.if_icmp .ge 19, 3) := by decide +kernel
theorem dJ14_hashCode_15 : decode cJ14_hashCode 15 = .ok (.bipush 31, 2) := by decide +kernel
theorem dJ14_hashCode_17 : decode cJ14_hashCode 17 = .ok (.iload_n 0, 1) := by decide +kernel
theorem dJ14_hashCode_18 : decode cJ14_hashCode 18 = .ok (.imul, 1) := by decide +kernel
theorem dJ14_hashCode_19 : decode cJ14_hashCode 19 = .ok (.aload_n 1, 1) := by decide +kernel
theorem dJ14_hashCode_20 : decode cJ14_hashCode 20 = .ok (.iload 5, 2) := by decide +kernel
theorem dJ14_hashCode_22 : decode cJ14_hashCode 22 = .ok (.caload, 1) := by decide +kernel
theorem dJ14_hashCode_23 : decode cJ14_hashCode 23 = .ok (.iadd, 1) := by decide +kernel
theorem dJ14_hashCode_24 : decode cJ14_hashCode 24 = .ok (.istore_n 0, 1) := by decide +kernel
theorem dJ14_hashCode_25 : decode cJ14_hashCode 25 = .ok (.iinc 5 1, 3) := by decide +kernel
theorem dJ14_hashCode_28 : decode cJ14_hashCode 28 = .ok (.goto (-20), 3) := by decide +kernel
theorem dJ14_hashCode_31 : decode cJ14_hashCode 31 = .ok (.iload_n 0, 1) := by decide +kernel
theorem dJ14_hashCode_32 : decode cJ14_hashCode 32 = .ok (.ireturn, 1) := by decide +kernel
abbrev cJ14_hashCode_2 : ByteArray := prog_63_method_6_code
def yJ14_hashCode_2 : MethodName := ⟨RJ14, "hashCode", "(I[BII)I"⟩
theorem dJ14_hashCode_2_0 : decode cJ14_hashCode_2 0 = .ok (.iload_n 2, 1) := by decide +kernel
theorem dJ14_hashCode_2_1 : decode cJ14_hashCode_2 1 = .ok (.iload_n 3, 1) := by decide +kernel
theorem dJ14_hashCode_2_2 : decode cJ14_hashCode_2 2 = .ok (.iadd, 1) := by decide +kernel
theorem dJ14_hashCode_2_3 : decode cJ14_hashCode_2 3 = .ok (.istore 4, 2) := by decide +kernel
theorem dJ14_hashCode_2_5 : decode cJ14_hashCode_2 5 = .ok (.iload_n 2, 1) := by decide +kernel
theorem dJ14_hashCode_2_6 : decode cJ14_hashCode_2 6 = .ok (.istore 5, 2) := by decide +kernel
theorem dJ14_hashCode_2_8 : decode cJ14_hashCode_2 8 = .ok (.iload 5, 2) := by decide +kernel
theorem dJ14_hashCode_2_10 : decode cJ14_hashCode_2 10 = .ok (.iload 4, 2) := by decide +kernel
theorem dJ14_hashCode_2_12 : decode cJ14_hashCode_2 12 = .ok (.if_icmp .ge 19, 3) := by decide +kernel
theorem dJ14_hashCode_2_15 : decode cJ14_hashCode_2 15 = .ok (.bipush 31, 2) := by decide +kernel
theorem dJ14_hashCode_2_17 : decode cJ14_hashCode_2 17 = .ok (.iload_n 0, 1) := by decide +kernel
theorem dJ14_hashCode_2_18 : decode cJ14_hashCode_2 18 = .ok (.imul, 1) := by decide +kernel
theorem dJ14_hashCode_2_19 : decode cJ14_hashCode_2 19 = .ok (.aload_n 1, 1) := by decide +kernel
theorem dJ14_hashCode_2_20 : decode cJ14_hashCode_2 20 = .ok (.iload 5, 2) := by decide +kernel
theorem dJ14_hashCode_2_22 : decode cJ14_hashCode_2 22 = .ok (.baload, 1) := by decide +kernel
theorem dJ14_hashCode_2_23 : decode cJ14_hashCode_2 23 = .ok (.iadd, 1) := by decide +kernel
theorem dJ14_hashCode_2_24 : decode cJ14_hashCode_2 24 = .ok (.istore_n 0, 1) := by decide +kernel
theorem dJ14_hashCode_2_25 : decode cJ14_hashCode_2 25 = .ok (.iinc 5 1, 3) := by decide +kernel
theorem dJ14_hashCode_2_28 : decode cJ14_hashCode_2 28 = .ok (.goto (-20), 3) := by decide +kernel
theorem dJ14_hashCode_2_31 : decode cJ14_hashCode_2 31 = .ok (.iload_n 0, 1) := by decide +kernel
theorem dJ14_hashCode_2_32 : decode cJ14_hashCode_2 32 = .ok (.ireturn, 1) := by decide +kernel
abbrev cJ14_hashCode_3 : ByteArray := prog_63_method_8_code
def yJ14_hashCode_3 : MethodName := ⟨RJ14, "hashCode", "(I[SII)I"⟩
theorem dJ14_hashCode_3_0 : decode cJ14_hashCode_3 0 = .ok (.iload_n 2, 1) := by decide +kernel
theorem dJ14_hashCode_3_1 : decode cJ14_hashCode_3 1 = .ok (.iload_n 3, 1) := by decide +kernel
theorem dJ14_hashCode_3_2 : decode cJ14_hashCode_3 2 = .ok (.iadd, 1) := by decide +kernel
theorem dJ14_hashCode_3_3 : decode cJ14_hashCode_3 3 = .ok (.istore 4, 2) := by decide +kernel
theorem dJ14_hashCode_3_5 : decode cJ14_hashCode_3 5 = .ok (.iload_n 2, 1) := by decide +kernel
theorem dJ14_hashCode_3_6 : decode cJ14_hashCode_3 6 = .ok (.istore 5, 2) := by decide +kernel
theorem dJ14_hashCode_3_8 : decode cJ14_hashCode_3 8 = .ok (.iload 5, 2) := by decide +kernel
theorem dJ14_hashCode_3_10 : decode cJ14_hashCode_3 10 = .ok (.iload 4, 2) := by decide +kernel
theorem dJ14_hashCode_3_12 : decode cJ14_hashCode_3 12 = .ok (.if_icmp .ge 19, 3) := by decide +kernel
theorem dJ14_hashCode_3_15 : decode cJ14_hashCode_3 15 = .ok (.bipush 31, 2) := by decide +kernel
theorem dJ14_hashCode_3_17 : decode cJ14_hashCode_3 17 = .ok (.iload_n 0, 1) := by decide +kernel
theorem dJ14_hashCode_3_18 : decode cJ14_hashCode_3 18 = .ok (.imul, 1) := by decide +kernel
theorem dJ14_hashCode_3_19 : decode cJ14_hashCode_3 19 = .ok (.aload_n 1, 1) := by decide +kernel
theorem dJ14_hashCode_3_20 : decode cJ14_hashCode_3 20 = .ok (.iload 5, 2) := by decide +kernel
theorem dJ14_hashCode_3_22 : decode cJ14_hashCode_3 22 = .ok (.saload, 1) := by decide +kernel
theorem dJ14_hashCode_3_23 : decode cJ14_hashCode_3 23 = .ok (.iadd, 1) := by decide +kernel
theorem dJ14_hashCode_3_24 : decode cJ14_hashCode_3 24 = .ok (.istore_n 0, 1) := by decide +kernel
theorem dJ14_hashCode_3_25 : decode cJ14_hashCode_3 25 = .ok (.iinc 5 1, 3) := by decide +kernel
theorem dJ14_hashCode_3_28 : decode cJ14_hashCode_3 28 = .ok (.goto (-20), 3) := by decide +kernel
theorem dJ14_hashCode_3_31 : decode cJ14_hashCode_3 31 = .ok (.iload_n 0, 1) := by decide +kernel
theorem dJ14_hashCode_3_32 : decode cJ14_hashCode_3 32 = .ok (.ireturn, 1) := by decide +kernel
abbrev cJ14_hashCode_4 : ByteArray := prog_63_method_9_code
def yJ14_hashCode_4 : MethodName := ⟨RJ14, "hashCode", "(I[III)I"⟩
theorem dJ14_hashCode_4_0 : decode cJ14_hashCode_4 0 = .ok (.iload_n 2, 1) := by decide +kernel
theorem dJ14_hashCode_4_1 : decode cJ14_hashCode_4 1 = .ok (.iload_n 3, 1) := by decide +kernel
theorem dJ14_hashCode_4_2 : decode cJ14_hashCode_4 2 = .ok (.iadd, 1) := by decide +kernel
theorem dJ14_hashCode_4_3 : decode cJ14_hashCode_4 3 = .ok (.istore 4, 2) := by decide +kernel
theorem dJ14_hashCode_4_5 : decode cJ14_hashCode_4 5 = .ok (.iload_n 2, 1) := by decide +kernel
theorem dJ14_hashCode_4_6 : decode cJ14_hashCode_4 6 = .ok (.istore 5, 2) := by decide +kernel
theorem dJ14_hashCode_4_8 : decode cJ14_hashCode_4 8 = .ok (.iload 5, 2) := by decide +kernel
theorem dJ14_hashCode_4_10 : decode cJ14_hashCode_4 10 = .ok (.iload 4, 2) := by decide +kernel
theorem dJ14_hashCode_4_12 : decode cJ14_hashCode_4 12 = .ok (.if_icmp .ge 19, 3) := by decide +kernel
theorem dJ14_hashCode_4_15 : decode cJ14_hashCode_4 15 = .ok (.bipush 31, 2) := by decide +kernel
theorem dJ14_hashCode_4_17 : decode cJ14_hashCode_4 17 = .ok (.iload_n 0, 1) := by decide +kernel
theorem dJ14_hashCode_4_18 : decode cJ14_hashCode_4 18 = .ok (.imul, 1) := by decide +kernel
theorem dJ14_hashCode_4_19 : decode cJ14_hashCode_4 19 = .ok (.aload_n 1, 1) := by decide +kernel
theorem dJ14_hashCode_4_20 : decode cJ14_hashCode_4 20 = .ok (.iload 5, 2) := by decide +kernel
theorem dJ14_hashCode_4_22 : decode cJ14_hashCode_4 22 = .ok (.iaload, 1) := by decide +kernel
theorem dJ14_hashCode_4_23 : decode cJ14_hashCode_4 23 = .ok (.iadd, 1) := by decide +kernel
theorem dJ14_hashCode_4_24 : decode cJ14_hashCode_4 24 = .ok (.istore_n 0, 1) := by decide +kernel
theorem dJ14_hashCode_4_25 : decode cJ14_hashCode_4 25 = .ok (.iinc 5 1, 3) := by decide +kernel
theorem dJ14_hashCode_4_28 : decode cJ14_hashCode_4 28 = .ok (.goto (-20), 3) := by decide +kernel
theorem dJ14_hashCode_4_31 : decode cJ14_hashCode_4 31 = .ok (.iload_n 0, 1) := by decide +kernel
theorem dJ14_hashCode_4_32 : decode cJ14_hashCode_4 32 = .ok (.ireturn, 1) := by decide +kernel
theorem q134 : (Jvm.Cond.initialized "jdk/internal/util/ArraysSupport") ∈ lw_all := lw_g (lw_at lw_m1 22 rfl) rfl
theorem q567 : (Jvm.Cond.static ({ cls := "jdk/internal/util/ArraysSupport", name := "newLength", desc := "(III)I" } : Jvm.MethodName)) ∈ lw_all := lw_g (lw_at lw_m2 215 rfl) rfl
theorem q568 : (Jvm.Cond.code ({ cls := "jdk/internal/util/ArraysSupport", name := "newLength", desc := "(III)I" } : Jvm.MethodName) prog_63_method_27_code (4 : Nat) (Option.some Jvm.ClassFile.FieldType.int)) ∈ lw_all := lw_g (lw_at lw_m2 216 rfl) rfl
theorem q569 : (Jvm.Cond.methodLink "jdk/internal/util/ArraysSupport" (194 : Nat) ({ cls := "java/lang/Math", name := "max", desc := "(II)I" } : Jvm.MethodName)) ∈ lw_all := lw_g (lw_at lw_m2 217 rfl) rfl
theorem q572 : (Jvm.Cond.constant "jdk/internal/util/ArraysSupport" (200 : Nat) (2147483639 : Int32)) ∈ lw_all := lw_g (lw_at lw_m2 220 rfl) rfl
theorem q573 : (Jvm.Cond.methodLink "jdk/internal/util/ArraysSupport" (201 : Nat) ({ cls := "jdk/internal/util/ArraysSupport", name := "hugeLength", desc := "(II)I" } : Jvm.MethodName)) ∈ lw_all := lw_g (lw_at lw_m2 221 rfl) rfl
theorem q574 : (Jvm.Cond.static ({ cls := "jdk/internal/util/ArraysSupport", name := "hugeLength", desc := "(II)I" } : Jvm.MethodName)) ∈ lw_all := lw_g (lw_at lw_m2 222 rfl) rfl
theorem q575 : (Jvm.Cond.code ({ cls := "jdk/internal/util/ArraysSupport", name := "hugeLength", desc := "(II)I" } : Jvm.MethodName) prog_63_method_28_code (3 : Nat) (Option.some Jvm.ClassFile.FieldType.int)) ∈ lw_all := lw_g (lw_at lw_m2 223 rfl) rfl
theorem q811 : (Jvm.Cond.static ({ cls := "jdk/internal/util/ArraysSupport", name := "vectorizedHashCode", desc := "(Ljava/lang/Object;IIII)I" } : Jvm.MethodName)) ∈ lw_all := lw_g (lw_at lw_m3 219 rfl) rfl
theorem q812 : (Jvm.Cond.code ({ cls := "jdk/internal/util/ArraysSupport", name := "vectorizedHashCode", desc := "(Ljava/lang/Object;IIII)I" } : Jvm.MethodName) prog_63_method_4_code (5 : Nat) (Option.some Jvm.ClassFile.FieldType.int)) ∈ lw_all := lw_g (lw_at lw_m3 220 rfl) rfl
theorem q813 : (Jvm.Cond.classLink "jdk/internal/util/ArraysSupport" (60 : Nat) "[B") ∈ lw_all := lw_g (lw_at lw_m3 221 rfl) rfl
theorem q814 : (Jvm.Cond.methodLink "jdk/internal/util/ArraysSupport" (62 : Nat) ({ cls := "jdk/internal/util/ArraysSupport", name := "signedHashCode", desc := "(I[BII)I" } : Jvm.MethodName)) ∈ lw_all := lw_g (lw_at lw_m3 222 rfl) rfl
theorem q815 : (Jvm.Cond.static ({ cls := "jdk/internal/util/ArraysSupport", name := "signedHashCode", desc := "(I[BII)I" } : Jvm.MethodName)) ∈ lw_all := lw_g (lw_at lw_m3 223 rfl) rfl
theorem q816 : (Jvm.Cond.code ({ cls := "jdk/internal/util/ArraysSupport", name := "signedHashCode", desc := "(I[BII)I" } : Jvm.MethodName) prog_63_method_5_code (6 : Nat) (Option.some Jvm.ClassFile.FieldType.int)) ∈ lw_all := lw_g (lw_at lw_m3 224 rfl) rfl
theorem q817 : (Jvm.Cond.methodLink "jdk/internal/util/ArraysSupport" (66 : Nat) ({ cls := "jdk/internal/util/ArraysSupport", name := "utf16hashCode", desc := "(I[BII)I" } : Jvm.MethodName)) ∈ lw_all := lw_g (lw_at lw_m3 225 rfl) rfl
theorem q818 : (Jvm.Cond.static ({ cls := "jdk/internal/util/ArraysSupport", name := "utf16hashCode", desc := "(I[BII)I" } : Jvm.MethodName)) ∈ lw_all := lw_g (lw_at lw_m3 226 rfl) rfl
theorem q819 : (Jvm.Cond.code ({ cls := "jdk/internal/util/ArraysSupport", name := "utf16hashCode", desc := "(I[BII)I" } : Jvm.MethodName) prog_63_method_10_code (6 : Nat) (Option.some Jvm.ClassFile.FieldType.int)) ∈ lw_all := lw_g (lw_at lw_m3 227 rfl) rfl
theorem q820 : (Jvm.Cond.fieldLink "jdk/internal/util/ArraysSupport" (106 : Nat) "jdk/internal/util/ArraysSupport" "JLA" "Ljdk/internal/access/JavaLangAccess;") ∈ lw_all := lw_g (lw_at lw_m3 228 rfl) rfl
theorem q821 : (Jvm.Cond.laysStatic "jdk/internal/util/ArraysSupport" "JLA" "Ljdk/internal/access/JavaLangAccess;") ∈ lw_tbl := lw_at lw_m3 229 rfl
theorem q822 : (Jvm.Cond.interfaceEntry "jdk/internal/util/ArraysSupport" (110 : Nat)) ∈ lw_tbl := lw_at lw_m3 230 rfl
theorem q823 : (Jvm.Cond.methodLink "jdk/internal/util/ArraysSupport" (110 : Nat) ({ cls := "jdk/internal/access/JavaLangAccess", name := "getUTF16Char", desc := "([BI)C" } : Jvm.MethodName)) ∈ lw_all := lw_g (lw_at lw_m3 231 rfl) rfl
theorem q833 : (Jvm.Cond.classLink "jdk/internal/util/ArraysSupport" (69 : Nat) "[C") ∈ lw_all := lw_g (lw_at lw_m4 1 rfl) rfl
theorem q834 : (Jvm.Cond.methodLink "jdk/internal/util/ArraysSupport" (71 : Nat) ({ cls := "jdk/internal/util/ArraysSupport", name := "hashCode", desc := "(I[CII)I" } : Jvm.MethodName)) ∈ lw_all := lw_g (lw_at lw_m4 2 rfl) rfl
theorem q835 : (Jvm.Cond.static ({ cls := "jdk/internal/util/ArraysSupport", name := "hashCode", desc := "(I[CII)I" } : Jvm.MethodName)) ∈ lw_all := lw_g (lw_at lw_m4 3 rfl) rfl
theorem q836 : (Jvm.Cond.code ({ cls := "jdk/internal/util/ArraysSupport", name := "hashCode", desc := "(I[CII)I" } : Jvm.MethodName) prog_63_method_7_code (6 : Nat) (Option.some Jvm.ClassFile.FieldType.int)) ∈ lw_all := lw_g (lw_at lw_m4 4 rfl) rfl
theorem q837 : (Jvm.Cond.methodLink "jdk/internal/util/ArraysSupport" (75 : Nat) ({ cls := "jdk/internal/util/ArraysSupport", name := "hashCode", desc := "(I[BII)I" } : Jvm.MethodName)) ∈ lw_all := lw_g (lw_at lw_m4 5 rfl) rfl
theorem q838 : (Jvm.Cond.static ({ cls := "jdk/internal/util/ArraysSupport", name := "hashCode", desc := "(I[BII)I" } : Jvm.MethodName)) ∈ lw_all := lw_g (lw_at lw_m4 6 rfl) rfl
theorem q839 : (Jvm.Cond.code ({ cls := "jdk/internal/util/ArraysSupport", name := "hashCode", desc := "(I[BII)I" } : Jvm.MethodName) prog_63_method_6_code (6 : Nat) (Option.some Jvm.ClassFile.FieldType.int)) ∈ lw_all := lw_g (lw_at lw_m4 7 rfl) rfl
theorem q840 : (Jvm.Cond.classLink "jdk/internal/util/ArraysSupport" (77 : Nat) "[S") ∈ lw_all := lw_g (lw_at lw_m4 8 rfl) rfl
theorem q841 : (Jvm.Cond.methodLink "jdk/internal/util/ArraysSupport" (79 : Nat) ({ cls := "jdk/internal/util/ArraysSupport", name := "hashCode", desc := "(I[SII)I" } : Jvm.MethodName)) ∈ lw_all := lw_g (lw_at lw_m4 9 rfl) rfl
theorem q842 : (Jvm.Cond.static ({ cls := "jdk/internal/util/ArraysSupport", name := "hashCode", desc := "(I[SII)I" } : Jvm.MethodName)) ∈ lw_all := lw_g (lw_at lw_m4 10 rfl) rfl
theorem q843 : (Jvm.Cond.code ({ cls := "jdk/internal/util/ArraysSupport", name := "hashCode", desc := "(I[SII)I" } : Jvm.MethodName) prog_63_method_8_code (6 : Nat) (Option.some Jvm.ClassFile.FieldType.int)) ∈ lw_all := lw_g (lw_at lw_m4 11 rfl) rfl
theorem q844 : (Jvm.Cond.classLink "jdk/internal/util/ArraysSupport" (82 : Nat) "[I") ∈ lw_all := lw_g (lw_at lw_m4 12 rfl) rfl
theorem q845 : (Jvm.Cond.methodLink "jdk/internal/util/ArraysSupport" (84 : Nat) ({ cls := "jdk/internal/util/ArraysSupport", name := "hashCode", desc := "(I[III)I" } : Jvm.MethodName)) ∈ lw_all := lw_g (lw_at lw_m4 13 rfl) rfl
theorem q846 : (Jvm.Cond.static ({ cls := "jdk/internal/util/ArraysSupport", name := "hashCode", desc := "(I[III)I" } : Jvm.MethodName)) ∈ lw_all := lw_g (lw_at lw_m4 14 rfl) rfl
theorem q847 : (Jvm.Cond.code ({ cls := "jdk/internal/util/ArraysSupport", name := "hashCode", desc := "(I[III)I" } : Jvm.MethodName) prog_63_method_9_code (6 : Nat) (Option.some Jvm.ClassFile.FieldType.int)) ∈ lw_all := lw_g (lw_at lw_m4 15 rfl) rfl
theorem q848 : (Jvm.Cond.classLink "jdk/internal/util/ArraysSupport" (87 : Nat) "java/lang/IllegalArgumentException") ∈ lw_all := lw_g (lw_at lw_m4 16 rfl) rfl
theorem q849 : (Jvm.Cond.classLink "jdk/internal/util/ArraysSupport" (89 : Nat) "java/lang/StringBuilder") ∈ lw_all := lw_g (lw_at lw_m4 17 rfl) rfl
theorem q850 : (Jvm.Cond.methodLink "jdk/internal/util/ArraysSupport" (91 : Nat) ({ cls := "java/lang/StringBuilder", name := "<init>", desc := "()V" } : Jvm.MethodName)) ∈ lw_all := lw_g (lw_at lw_m4 18 rfl) rfl
theorem q851 : (Jvm.Cond.stringRef "jdk/internal/util/ArraysSupport" (92 : Nat) "unrecognized basic type: ") ∈ lw_tbl := lw_at lw_m4 19 rfl
theorem q852 : (Jvm.Cond.methodLink "jdk/internal/util/ArraysSupport" (94 : Nat) ({ cls := "java/lang/StringBuilder", name := "append", desc := "(Ljava/lang/String;)Ljava/lang/StringBuilder;" } : Jvm.MethodName)) ∈ lw_all := lw_g (lw_at lw_m4 20 rfl) rfl
theorem q853 : (Jvm.Cond.methodLink "jdk/internal/util/ArraysSupport" (98 : Nat) ({ cls := "java/lang/StringBuilder", name := "append", desc := "(I)Ljava/lang/StringBuilder;" } : Jvm.MethodName)) ∈ lw_all := lw_g (lw_at lw_m4 21 rfl) rfl
theorem q854 : (Jvm.Cond.methodLink "jdk/internal/util/ArraysSupport" (101 : Nat) ({ cls := "java/lang/StringBuilder", name := "toString", desc := "()Ljava/lang/String;" } : Jvm.MethodName)) ∈ lw_all := lw_g (lw_at lw_m4 22 rfl) rfl
theorem q855 : (Jvm.Cond.methodLink "jdk/internal/util/ArraysSupport" (105 : Nat) ({ cls := "java/lang/IllegalArgumentException", name := "<init>", desc := "(Ljava/lang/String;)V" } : Jvm.MethodName)) ∈ lw_all := lw_g (lw_at lw_m4 23 rfl) rfl

/-! java/lang/Math -/
set_option maxRecDepth 100000
def RJ15 : String := "java/lang/Math"
abbrev cJ15_max : ByteArray := prog_40_method_65_code
def yJ15_max : MethodName := ⟨RJ15, "max", "(II)I"⟩
theorem dJ15_max_0 : decode cJ15_max 0 = .ok (.iload_n 0, 1) := by decide +kernel
theorem dJ15_max_1 : decode cJ15_max 1 = .ok (.iload_n 1, 1) := by decide +kernel
theorem dJ15_max_2 : decode cJ15_max 2 = .ok (.if_icmp .lt 7, 3) := by decide +kernel
theorem dJ15_max_5 : decode cJ15_max 5 = .ok (.iload_n 0, 1) := by decide +kernel
theorem dJ15_max_6 : decode cJ15_max 6 = .ok (.goto 4, 3) := by decide +kernel
theorem dJ15_max_9 : decode cJ15_max 9 = .ok (.iload_n 1, 1) := by decide +kernel
theorem dJ15_max_10 : decode cJ15_max 10 = .ok (.ireturn, 1) := by decide +kernel
abbrev cJ15_min : ByteArray := prog_40_method_69_code
def yJ15_min : MethodName := ⟨RJ15, "min", "(II)I"⟩
theorem dJ15_min_0 : decode cJ15_min 0 = .ok (.iload_n 0, 1) := by decide +kernel
theorem dJ15_min_1 : decode cJ15_min 1 = .ok (.iload_n 1, 1) := by decide +kernel
theorem dJ15_min_2 : decode cJ15_min 2 = .ok (.if_icmp .gt 7, 3) := by decide +kernel
theorem dJ15_min_5 : decode cJ15_min 5 = .ok (.iload_n 0, 1) := by decide +kernel
theorem dJ15_min_6 : decode cJ15_min 6 = .ok (.goto 4, 3) := by decide +kernel
theorem dJ15_min_9 : decode cJ15_min 9 = .ok (.iload_n 1, 1) := by decide +kernel
theorem dJ15_min_10 : decode cJ15_min 10 = .ok (.ireturn, 1) := by decide +kernel
theorem q135 : (Jvm.Cond.initialized "java/lang/Math") ∈ lw_all := lw_g (lw_at lw_m1 23 rfl) rfl
theorem q570 : (Jvm.Cond.static ({ cls := "java/lang/Math", name := "max", desc := "(II)I" } : Jvm.MethodName)) ∈ lw_all := lw_g (lw_at lw_m2 218 rfl) rfl
theorem q571 : (Jvm.Cond.code ({ cls := "java/lang/Math", name := "max", desc := "(II)I" } : Jvm.MethodName) prog_40_method_65_code (2 : Nat) (Option.some Jvm.ClassFile.FieldType.int)) ∈ lw_all := lw_g (lw_at lw_m2 219 rfl) rfl
theorem q588 : (Jvm.Cond.static ({ cls := "java/lang/Math", name := "min", desc := "(II)I" } : Jvm.MethodName)) ∈ lw_all := lw_g (lw_at lw_m2 236 rfl) rfl
theorem q589 : (Jvm.Cond.code ({ cls := "java/lang/Math", name := "min", desc := "(II)I" } : Jvm.MethodName) prog_40_method_69_code (2 : Nat) (Option.some Jvm.ClassFile.FieldType.int)) ∈ lw_all := lw_g (lw_at lw_m2 237 rfl) rfl

/-! java/util/Arrays -/
set_option maxRecDepth 100000
def RJ16 : String := "java/util/Arrays"
abbrev cJ16_copyOf : ByteArray := prog_55_method_121_code
def yJ16_copyOf : MethodName := ⟨RJ16, "copyOf", "([BI)[B"⟩
theorem dJ16_copyOf_0 : decode cJ16_copyOf 0 = .ok (.iload_n 1, 1) := by decide +kernel
theorem dJ16_copyOf_1 : decode cJ16_copyOf 1 = .ok (.aload_n 0, 1) := by decide +kernel
theorem dJ16_copyOf_2 : decode cJ16_copyOf 2 = .ok (.arraylength, 1) := by decide +kernel
theorem dJ16_copyOf_3 : decode cJ16_copyOf 3 = .ok (.if_icmp .ne 11, 3) := by decide +kernel
theorem dJ16_copyOf_6 : decode cJ16_copyOf 6 = .ok (.aload_n 0, 1) := by decide +kernel
theorem dJ16_copyOf_7 : decode cJ16_copyOf 7 = .ok (.invokevirtual 310, 3) := by decide +kernel
theorem dJ16_copyOf_10 : decode cJ16_copyOf 10 = .ok (.checkcast 311, 3) := by decide +kernel
theorem dJ16_copyOf_13 : decode cJ16_copyOf 13 = .ok (.areturn, 1) := by decide +kernel
theorem dJ16_copyOf_14 : decode cJ16_copyOf 14 = .ok (.iload_n 1, 1) := by decide +kernel
theorem dJ16_copyOf_15 : decode cJ16_copyOf 15 = .ok (.newarray .byte, 2) := by decide +kernel
theorem dJ16_copyOf_17 : decode cJ16_copyOf 17 = .ok (.astore_n 2, 1) := by decide +kernel
theorem dJ16_copyOf_18 : decode cJ16_copyOf 18 = .ok (.aload_n 0, 1) := by decide +kernel
theorem dJ16_copyOf_19 : decode cJ16_copyOf 19 = .ok (.iconst 0, 1) := by decide +kernel
theorem dJ16_copyOf_20 : decode cJ16_copyOf 20 = .ok (.aload_n 2, 1) := by decide +kernel
theorem dJ16_copyOf_21 : decode cJ16_copyOf 21 = .ok (.iconst 0, 1) := by decide +kernel
theorem dJ16_copyOf_22 : decode cJ16_copyOf 22 = .ok (.aload_n 0, 1) := by decide +kernel
theorem dJ16_copyOf_23 : decode cJ16_copyOf 23 = .ok (.arraylength, 1) := by decide +kernel
theorem dJ16_copyOf_24 : decode cJ16_copyOf 24 = .ok (.iload_n 1, 1) := by decide +kernel
theorem dJ16_copyOf_25 : decode cJ16_copyOf 25 = .ok (.invokestatic 304, 3) := by decide +kernel
theorem dJ16_copyOf_28 : decode cJ16_copyOf 28 = .ok (.invokestatic 150, 3) := by decide +kernel
theorem dJ16_copyOf_31 : decode cJ16_copyOf 31 = .ok (.aload_n 2, 1) := by decide +kernel
theorem dJ16_copyOf_32 : decode cJ16_copyOf 32 = .ok (.areturn, 1) := by decide +kernel
abbrev cJ16_copyOfRange : ByteArray := prog_55_method_132_code
def yJ16_copyOfRange : MethodName := ⟨RJ16, "copyOfRange", "([BII)[B"⟩
theorem dJ16_copyOfRange_0 : decode cJ16_copyOfRange 0 = .ok (.iload_n 1, 1) := by decide +kernel
theorem dJ16_copyOfRange_1 : decode cJ16_copyOfRange 1 = .ok (.ifCond .ne 9, 3) := by decide +kernel
theorem dJ16_copyOfRange_4 : decode cJ16_copyOfRange 4 = .ok (.iload_n 2, 1) := by decide +kernel
theorem dJ16_copyOfRange_5 : decode cJ16_copyOfRange 5 = .ok (.aload_n 0, 1) := by decide +kernel
theorem dJ16_copyOfRange_6 : decode cJ16_copyOfRange 6 = .ok (.arraylength, 1) := by decide +kernel
theorem dJ16_copyOfRange_7 : decode cJ16_copyOfRange 7 = .ok (.if_icmp .eq 10, 3) := by decide +kernel
theorem dJ16_copyOfRange_10 : decode cJ16_copyOfRange 10 = .ok (.aload_n 0, 1) := by decide +kernel
theorem dJ16_copyOfRange_11 : decode cJ16_copyOfRange 11 = .ok (.iload_n 1, 1) := by decide +kernel
theorem dJ16_copyOfRange_12 : decode cJ16_copyOfRange 12 = .ok (.iload_n 2, 1) := by decide +kernel
theorem dJ16_copyOfRange_13 : decode cJ16_copyOfRange 13 = .ok (.invokestatic 339, 3) := by decide +kernel
theorem dJ16_copyOfRange_16 : decode cJ16_copyOfRange 16 = .ok (.areturn, 1) := by decide +kernel
theorem dJ16_copyOfRange_17 : decode cJ16_copyOfRange 17 = .ok (.aload_n 0, 1) := by decide +kernel
theorem dJ16_copyOfRange_18 : decode cJ16_copyOfRange 18 = .ok (.invokevirtual 310, 3) := by decide +kernel
theorem dJ16_copyOfRange_21 : decode cJ16_copyOfRange 21 = .ok (.checkcast 311, 3) := by decide +kernel
theorem dJ16_copyOfRange_24 : decode cJ16_copyOfRange 24 = .ok (.areturn, 1) := by decide +kernel
abbrev cJ16_copyOfRangeByte : ByteArray := prog_55_method_133_code
def yJ16_copyOfRangeByte : MethodName := ⟨RJ16, "copyOfRangeByte", "([BII)[B"⟩
theorem dJ16_copyOfRangeByte_0 : decode cJ16_copyOfRangeByte 0 = .ok (.iload_n 1, 1) := by decide +kernel
theorem dJ16_copyOfRangeByte_1 : decode cJ16_copyOfRangeByte 1 = .ok (.iload_n 2, 1) := by decide +kernel
theorem dJ16_copyOfRangeByte_2 : decode cJ16_copyOfRangeByte 2 = .ok (.invokestatic 343, 3) := by decide +kernel
theorem dJ16_copyOfRangeByte_5 : decode cJ16_copyOfRangeByte 5 = .ok (.iload_n 2, 1) := by decide +kernel
theorem dJ16_copyOfRangeByte_6 : decode cJ16_copyOfRangeByte 6 = .ok (.iload_n 1, 1) := by decide +kernel
theorem dJ16_copyOfRangeByte_7 : decode cJ16_copyOfRangeByte 7 = .ok (.isub, 1) := by decide +kernel
theorem dJ16_copyOfRangeByte_8 : decode cJ16_copyOfRangeByte 8 = .ok (.istore_n 3, 1) := by decide +kernel
theorem dJ16_copyOfRangeByte_9 : decode cJ16_copyOfRangeByte 9 = .ok (.iload_n 3, 1) := by decide +kernel
theorem dJ16_copyOfRangeByte_10 : decode cJ16_copyOfRangeByte 10 = .ok (.newarray .byte, 2) := by decide +kernel
theorem dJ16_copyOfRangeByte_12 : decode cJ16_copyOfRangeByte 12 = .ok (.astore 4, 2) := by decide +kernel
theorem dJ16_copyOfRangeByte_14 : decode cJ16_copyOfRangeByte 14 = .ok (.aload_n 0, 1) := by decide +kernel
theorem dJ16_copyOfRangeByte_15 : decode cJ16_copyOfRangeByte 15 = .ok (.iload_n 1, 1) := by decide +kernel
theorem dJ16_copyOfRangeByte_16 : decode cJ16_copyOfRangeByte 16 = .ok (.aload 4, 2) := by decide +kernel
theorem dJ16_copyOfRangeByte_18 : decode cJ16_copyOfRangeByte 18 = .ok (.iconst 0, 1) := by decide +kernel
theorem dJ16_copyOfRangeByte_19 : decode cJ16_copyOfRangeByte 19 = .ok (.aload_n 0, 1) := by decide +kernel
theorem dJ16_copyOfRangeByte_20 : decode cJ16_copyOfRangeByte 20 = .ok (.arraylength, 1) := by decide +kernel
theorem dJ16_copyOfRangeByte_21 : decode cJ16_copyOfRangeByte 21 = .ok (.iload_n 1, 1) := by decide +kernel
theorem dJ16_copyOfRangeByte_22 : decode cJ16_copyOfRangeByte 22 = .ok (.isub, 1) := by decide +kernel
theorem dJ16_copyOfRangeByte_23 : decode cJ16_copyOfRangeByte 23 = .ok (.iload_n 3, 1) := by decide +kernel
theorem dJ16_copyOfRangeByte_24 : decode cJ16_copyOfRangeByte 24 = .ok (.invokestatic 304, 3) := by decide +kernel
theorem dJ16_copyOfRangeByte_27 : decode cJ16_copyOfRangeByte 27 = .ok (.invokestatic 150, 3) := by decide +kernel
theorem dJ16_copyOfRangeByte_30 : decode cJ16_copyOfRangeByte 30 = .ok (.aload 4, 2) := by decide +kernel
theorem dJ16_copyOfRangeByte_32 : decode cJ16_copyOfRangeByte 32 = .ok (.areturn, 1) := by decide +kernel
abbrev cJ16_checkLength : ByteArray := prog_55_method_131_code
def yJ16_checkLength : MethodName := ⟨RJ16, "checkLength", "(II)V"⟩
theorem dJ16_checkLength_0 : decode cJ16_checkLength 0 = .ok (.iload_n 1, 1) := by decide +kernel
theorem dJ16_checkLength_1 : decode cJ16_checkLength 1 = .ok (.iload_n 0, 1) := by decide +kernel
theorem dJ16_checkLength_2 : decode cJ16_checkLength 2 = .ok (.if_icmp .ge 35, 3) := by decide +kernel
theorem dJ16_checkLength_5 : decode cJ16_checkLength 5 = .ok (.new 43, 3) := by decide +kernel
theorem dJ16_checkLength_8 : decode cJ16_checkLength 8 = .ok (.dup, 1) := by decide +kernel
theorem dJ16_checkLength_9 : decode cJ16_checkLength 9 = .ok (.new 45, 3) := by decide +kernel
theorem dJ16_checkLength_12 : decode cJ16_checkLength 12 = .ok (.dup, 1) := by decide +kernel
theorem dJ16_checkLength_13 : decode cJ16_checkLength 13 = .ok (.invokespecial 47, 3) := by decide +kernel
theorem dJ16_checkLength_16 : decode cJ16_checkLength 16 = .ok (.iload_n 0, 1) := by decide +kernel
theorem dJ16_checkLength_17 : decode cJ16_checkLength 17 = .ok (.invokevirtual 54, 3) := by decide +kernel
theorem dJ16_checkLength_20 : decode cJ16_checkLength 20 = .ok (.ldc_w 337, 3) := by decide +kernel
theorem dJ16_checkLength_23 : decode cJ16_checkLength 23 = .ok (.invokevirtual 50, 3) := by decide +kernel
theorem dJ16_checkLength_26 : decode cJ16_checkLength 26 = .ok (.iload_n 1, 1) := by decide +kernel
theorem dJ16_checkLength_27 : decode cJ16_checkLength 27 = .ok (.invokevirtual 54, 3) := by decide +kernel
theorem dJ16_checkLength_30 : decode cJ16_checkLength 30 = .ok (.invokevirtual 61, 3) := by decide +kernel
theorem dJ16_checkLength_33 : decode cJ16_checkLength 33 = .ok (.invokespecial 65, 3) := by decide +kernel
theorem dJ16_checkLength_36 : decode cJ16_checkLength 36 = .ok (.athrow, 1) := by decide +kernel
theorem dJ16_checkLength_37 : decode cJ16_checkLength 37 = .ok (.return_, 1) := by decide +kernel
abbrev cJ16_copyOf_2 : ByteArray := prog_55_method_119_code
def yJ16_copyOf_2 : MethodName := ⟨RJ16, "copyOf", "([Ljava/lang/Object;I)[Ljava/lang/Object;"⟩
theorem dJ16_copyOf_2_0 : decode cJ16_copyOf_2 0 = .ok (.aload_n 0, 1) := by decide +kernel
theorem dJ16_copyOf_2_1 : decode cJ16_copyOf_2 1 = .ok (.iload_n 1, 1) := by decide +kernel
theorem dJ16_copyOf_2_2 : decode cJ16_copyOf_2 2 = .ok (.aload_n 0, 1) := by decide +kernel
theorem dJ16_copyOf_2_3 : decode cJ16_copyOf_2 3 = .ok (.invokevirtual 86, 3) := by decide +kernel
theorem dJ16_copyOf_2_6 : decode cJ16_copyOf_2 6 = .ok (.invokestatic 300, 3) := by decide +kernel
theorem dJ16_copyOf_2_9 : decode cJ16_copyOf_2 9 = .ok (.areturn, 1) := by decide +kernel
abbrev cJ16_copyOf_3 : ByteArray := prog_55_method_120_code
def yJ16_copyOf_3 : MethodName := ⟨RJ16, "copyOf", "([Ljava/lang/Object;ILjava/lang/Class;)[Ljava/lang/Object;"⟩
theorem dJ16_copyOf_3_0 : decode cJ16_copyOf_3 0 = .ok (.aload_n 2, 1) := by decide +kernel
theorem dJ16_copyOf_3_1 : decode cJ16_copyOf_3 1 = .ok (.ldc 110, 2) := by decide +kernel
theorem dJ16_copyOf_3_3 : decode cJ16_copyOf_3 3 = .ok (.if_acmp .ne 10, 3) := by decide +kernel
theorem dJ16_copyOf_3_6 : decode cJ16_copyOf_3 6 = .ok (.iload_n 1, 1) := by decide +kernel
theorem dJ16_copyOf_3_7 : decode cJ16_copyOf_3 7 = .ok (.anewarray 2, 3) := by decide +kernel
theorem dJ16_copyOf_3_10 : decode cJ16_copyOf_3 10 = .ok (.goto 14, 3) := by decide +kernel
theorem dJ16_copyOf_3_13 : decode cJ16_copyOf_3 13 = .ok (.aload_n 2, 1) := by decide +kernel
theorem dJ16_copyOf_3_14 : decode cJ16_copyOf_3 14 = .ok (.invokevirtual 90, 3) := by decide +kernel
theorem dJ16_copyOf_3_17 : decode cJ16_copyOf_3 17 = .ok (.iload_n 1, 1) := by decide +kernel
theorem dJ16_copyOf_3_18 : decode cJ16_copyOf_3 18 = .ok (.invokestatic 95, 3) := by decide +kernel
theorem dJ16_copyOf_3_21 : decode cJ16_copyOf_3 21 = .ok (.checkcast 110, 3) := by decide +kernel
theorem dJ16_copyOf_3_24 : decode cJ16_copyOf_3 24 = .ok (.astore_n 3, 1) := by decide +kernel
theorem dJ16_copyOf_3_25 : decode cJ16_copyOf_3 25 = .ok (.aload_n 0, 1) := by decide +kernel
theorem dJ16_copyOf_3_26 : decode cJ16_copyOf_3 26 = .ok (.iconst 0, 1) := by decide +kernel
theorem dJ16_copyOf_3_27 : decode cJ16_copyOf_3 27 = .ok (.aload_n 3, 1) := by decide +kernel
theorem dJ16_copyOf_3_28 : decode cJ16_copyOf_3 28 = .ok (.iconst 0, 1) := by decide +kernel
theorem dJ16_copyOf_3_29 : decode cJ16_copyOf_3 29 = .ok (.aload_n 0, 1) := by decide +kernel
theorem dJ16_copyOf_3_30 : decode cJ16_copyOf_3 30 = .ok (.arraylength, 1) := by decide +kernel
theorem dJ16_copyOf_3_31 : decode cJ16_copyOf_3 31 = .ok (.iload_n 1, 1) := by decide +kernel
theorem dJ16_copyOf_3_32 : decode cJ16_copyOf_3 32 = .ok (.invokestatic 304, 3) := by decide +kernel
theorem dJ16_copyOf_3_35 : decode cJ16_copyOf_3 35 = .ok (.invokestatic 150, 3) := by decide +kernel
theorem dJ16_copyOf_3_38 : decode cJ16_copyOf_3 38 = .ok (.aload_n 3, 1) := by decide +kernel
theorem dJ16_copyOf_3_39 : decode cJ16_copyOf_3 39 = .ok (.areturn, 1) := by decide +kernel
theorem q136 : (Jvm.Cond.initialized "java/util/Arrays") ∈ lw_all := lw_g (lw_at lw_m1 24 rfl) rfl
theorem q578 : (Jvm.Cond.static ({ cls := "java/util/Arrays", name := "copyOf", desc := "([BI)[B" } : Jvm.MethodName)) ∈ lw_all := lw_g (lw_at lw_m2 226 rfl) rfl
theorem q579 : (Jvm.Cond.code ({ cls := "java/util/Arrays", name := "copyOf", desc := "([BI)[B" } : Jvm.MethodName) prog_55_method_121_code (3 : Nat) (Option.some (Jvm.ClassFile.FieldType.array Jvm.ClassFile.FieldType.byte))) ∈ lw_all := lw_g (lw_at lw_m2 227 rfl) rfl
theorem q580 : (Jvm.Cond.methodLink "java/util/Arrays" (310 : Nat) ({ cls := "[B", name := "clone", desc := "()Ljava/lang/Object;" } : Jvm.MethodName)) ∈ lw_all := lw_g (lw_at lw_m2 228 rfl) rfl
theorem q586 : (Jvm.Cond.classLink "java/util/Arrays" (311 : Nat) "[B") ∈ lw_all := lw_g (lw_at lw_m2 234 rfl) rfl
theorem q587 : (Jvm.Cond.methodLink "java/util/Arrays" (304 : Nat) ({ cls := "java/lang/Math", name := "min", desc := "(II)I" } : Jvm.MethodName)) ∈ lw_all := lw_g (lw_at lw_m2 235 rfl) rfl
theorem q590 : (Jvm.Cond.methodLink "java/util/Arrays" (150 : Nat) ({ cls := "java/lang/System", name := "arraycopy", desc := "(Ljava/lang/Object;ILjava/lang/Object;II)V" } : Jvm.MethodName)) ∈ lw_all := lw_g (lw_at lw_m2 238 rfl) rfl
theorem q671 : (Jvm.Cond.static ({ cls := "java/util/Arrays", name := "copyOfRange", desc := "([BII)[B" } : Jvm.MethodName)) ∈ lw_all := lw_g (lw_at lw_m3 79 rfl) rfl
theorem q672 : (Jvm.Cond.code ({ cls := "java/util/Arrays", name := "copyOfRange", desc := "([BII)[B" } : Jvm.MethodName) prog_55_method_132_code (3 : Nat) (Option.some (Jvm.ClassFile.FieldType.array Jvm.ClassFile.FieldType.byte))) ∈ lw_all := lw_g (lw_at lw_m3 80 rfl) rfl
theorem q673 : (Jvm.Cond.methodLink "java/util/Arrays" (339 : Nat) ({ cls := "java/util/Arrays", name := "copyOfRangeByte", desc := "([BII)[B" } : Jvm.MethodName)) ∈ lw_all := lw_g (lw_at lw_m3 81 rfl) rfl
theorem q674 : (Jvm.Cond.static ({ cls := "java/util/Arrays", name := "copyOfRangeByte", desc := "([BII)[B" } : Jvm.MethodName)) ∈ lw_all := lw_g (lw_at lw_m3 82 rfl) rfl
theorem q675 : (Jvm.Cond.code ({ cls := "java/util/Arrays", name := "copyOfRangeByte", desc := "([BII)[B" } : Jvm.MethodName) prog_55_method_133_code (5 : Nat) (Option.some (Jvm.ClassFile.FieldType.array Jvm.ClassFile.FieldType.byte))) ∈ lw_all := lw_g (lw_at lw_m3 83 rfl) rfl
theorem q676 : (Jvm.Cond.methodLink "java/util/Arrays" (343 : Nat) ({ cls := "java/util/Arrays", name := "checkLength", desc := "(II)V" } : Jvm.MethodName)) ∈ lw_all := lw_g (lw_at lw_m3 84 rfl) rfl
theorem q677 : (Jvm.Cond.static ({ cls := "java/util/Arrays", name := "checkLength", desc := "(II)V" } : Jvm.MethodName)) ∈ lw_all := lw_g (lw_at lw_m3 85 rfl) rfl
theorem q678 : (Jvm.Cond.code ({ cls := "java/util/Arrays", name := "checkLength", desc := "(II)V" } : Jvm.MethodName) prog_55_method_131_code (2 : Nat) (Option.none : Option Jvm.ClassFile.FieldType)) ∈ lw_all := lw_g (lw_at lw_m3 86 rfl) rfl
theorem q679 : (Jvm.Cond.classLink "java/util/Arrays" (43 : Nat) "java/lang/IllegalArgumentException") ∈ lw_all := lw_g (lw_at lw_m3 87 rfl) rfl
theorem q680 : (Jvm.Cond.classLink "java/util/Arrays" (45 : Nat) "java/lang/StringBuilder") ∈ lw_all := lw_g (lw_at lw_m3 88 rfl) rfl
theorem q681 : (Jvm.Cond.methodLink "java/util/Arrays" (47 : Nat) ({ cls := "java/lang/StringBuilder", name := "<init>", desc := "()V" } : Jvm.MethodName)) ∈ lw_all := lw_g (lw_at lw_m3 89 rfl) rfl
theorem q684 : (Jvm.Cond.methodLink "java/util/Arrays" (54 : Nat) ({ cls := "java/lang/StringBuilder", name := "append", desc := "(I)Ljava/lang/StringBuilder;" } : Jvm.MethodName)) ∈ lw_all := lw_g (lw_at lw_m3 92 rfl) rfl
theorem q718 : (Jvm.Cond.stringRef "java/util/Arrays" (337 : Nat) " > ") ∈ lw_tbl := lw_at lw_m3 126 rfl
theorem q719 : (Jvm.Cond.methodLink "java/util/Arrays" (50 : Nat) ({ cls := "java/lang/StringBuilder", name := "append", desc := "(Ljava/lang/String;)Ljava/lang/StringBuilder;" } : Jvm.MethodName)) ∈ lw_all := lw_g (lw_at lw_m3 127 rfl) rfl
theorem q757 : (Jvm.Cond.methodLink "java/util/Arrays" (61 : Nat) ({ cls := "java/lang/StringBuilder", name := "toString", desc := "()Ljava/lang/String;" } : Jvm.MethodName)) ∈ lw_all := lw_g (lw_at lw_m3 165 rfl) rfl
theorem q758 : (Jvm.Cond.methodLink "java/util/Arrays" (65 : Nat) ({ cls := "java/lang/IllegalArgumentException", name := "<init>", desc := "(Ljava/lang/String;)V" } : Jvm.MethodName)) ∈ lw_all := lw_g (lw_at lw_m3 166 rfl) rfl
theorem q1097 : (Jvm.Cond.static ({ cls := "java/util/Arrays", name := "copyOf", desc := "([Ljava/lang/Object;I)[Ljava/lang/Object;" } : Jvm.MethodName)) ∈ lw_all := lw_g (lw_at lw_m5 25 rfl) rfl
theorem q1098 : (Jvm.Cond.code ({ cls := "java/util/Arrays", name := "copyOf", desc := "([Ljava/lang/Object;I)[Ljava/lang/Object;" } : Jvm.MethodName) prog_55_method_119_code (2 : Nat) (Option.some (Jvm.ClassFile.FieldType.array (Jvm.ClassFile.FieldType.object "java/lang/Object")))) ∈ lw_all := lw_g (lw_at lw_m5 26 rfl) rfl
theorem q1099 : (Jvm.Cond.methodLink "java/util/Arrays" (86 : Nat) ({ cls := "java/lang/Object", name := "getClass", desc := "()Ljava/lang/Class;" } : Jvm.MethodName)) ∈ lw_all := lw_g (lw_at lw_m5 27 rfl) rfl
theorem q1134 : (Jvm.Cond.methodLink "java/util/Arrays" (300 : Nat) ({ cls := "java/util/Arrays", name := "copyOf", desc := "([Ljava/lang/Object;ILjava/lang/Class;)[Ljava/lang/Object;" } : Jvm.MethodName)) ∈ lw_all := lw_g (lw_at lw_m5 62 rfl) rfl
theorem q1135 : (Jvm.Cond.static ({ cls := "java/util/Arrays", name := "copyOf", desc := "([Ljava/lang/Object;ILjava/lang/Class;)[Ljava/lang/Object;" } : Jvm.MethodName)) ∈ lw_all := lw_g (lw_at lw_m5 63 rfl) rfl
theorem q1136 : (Jvm.Cond.code ({ cls := "java/util/Arrays", name := "copyOf", desc := "([Ljava/lang/Object;ILjava/lang/Class;)[Ljava/lang/Object;" } : Jvm.MethodName) prog_55_method_120_code (4 : Nat) (Option.some (Jvm.ClassFile.FieldType.array (Jvm.ClassFile.FieldType.object "java/lang/Object")))) ∈ lw_all := lw_g (lw_at lw_m5 64 rfl) rfl
theorem q1137 : (Jvm.Cond.classLink "java/util/Arrays" (110 : Nat) "[Ljava/lang/Object;") ∈ lw_all := lw_g (lw_at lw_m5 65 rfl) rfl
theorem q1139 : (Jvm.Cond.classLink "java/util/Arrays" (2 : Nat) "java/lang/Object") ∈ lw_all := lw_g (lw_at lw_m5 67 rfl) rfl

/-! java/lang/Integer -/
set_option maxRecDepth 100000
def RJ17 : String := "java/lang/Integer"
abbrev cJ17_stringSize : ByteArray := prog_38_method_13_code
def yJ17_stringSize : MethodName := ⟨RJ17, "stringSize", "(I)I"⟩
theorem dJ17_stringSize_0 : decode cJ17_stringSize 0 = .ok (.iconst 1, 1) := by decide +kernel
theorem dJ17_stringSize_1 : decode cJ17_stringSize 1 = .ok (.istore_n 1, 1) := by decide +kernel
theorem dJ17_stringSize_2 : decode cJ17_stringSize 2 = .ok (.iload_n 0, 1) := by decide +kernel
theorem dJ17_stringSize_3 : decode cJ17_stringSize 3 = .ok (.ifCond .lt 8, 3) := by decide +kernel
theorem dJ17_stringSize_6 : decode cJ17_stringSize 6 = .ok (.iconst 0, 1) := by decide +kernel
theorem dJ17_stringSize_7 : decode cJ17_stringSize 7 = .ok (.istore_n 1, 1) := by decide +kernel
theorem dJ17_stringSize_8 : decode cJ17_stringSize 8 = .ok (.iload_n 0, 1) := by decide +kernel
theorem dJ17_stringSize_9 : decode cJ17_stringSize 9 = .ok (.ineg, 1) := by decide +kernel
theorem dJ17_stringSize_10 : decode cJ17_stringSize 10 = .ok (.istore_n 0, 1) := by decide +kernel
theorem dJ17_stringSize_11 : decode cJ17_stringSize 11 = .ok (.bipush (-10), 2) := by decide +kernel
theorem dJ17_stringSize_13 : decode cJ17_stringSize 13 = .ok (.istore_n 2, 1) := by decide +kernel
theorem dJ17_stringSize_14 : decode cJ17_stringSize 14 = .ok (.iconst 1, 1) := by decide +kernel
theorem dJ17_stringSize_15 : decode cJ17_stringSize 15 = .ok (.istore_n 3, 1) := by decide +kernel
theorem dJ17_stringSize_16 : decode cJ17_stringSize 16 = .ok (.iload_n 3, 1) := by decide +kernel
theorem dJ17_stringSize_17 : decode cJ17_stringSize 17 = .ok (.bipush 10, 2) := by decide +kernel
theorem dJ17_stringSize_19 : decode cJ17_stringSize 19 = .ok (.if_icmp .ge 23, 3) := by decide +kernel
theorem dJ17_stringSize_22 : decode cJ17_stringSize 22 = .ok (.iload_n 0, 1) := by decide +kernel
theorem dJ17_stringSize_23 : decode cJ17_stringSize 23 = .ok (.iload_n 2, 1) := by decide +kernel
theorem dJ17_stringSize_24 : decode cJ17_stringSize 24 = .ok (.if_icmp .le 7, 3) := by decide +kernel
theorem dJ17_stringSize_27 : decode cJ17_stringSize 27 = .ok (.iload_n 3, 1) := by decide +kernel
theorem dJ17_stringSize_28 : decode cJ17_stringSize 28 = .ok (.iload_n 1, 1) := by decide +kernel
theorem dJ17_stringSize_29 : decode cJ17_stringSize 29 = .ok (.iadd, 1) := by decide +kernel
theorem dJ17_stringSize_30 : decode cJ17_stringSize 30 = .ok (.ireturn, 1) := by decide +kernel
theorem dJ17_stringSize_31 : decode cJ17_stringSize 31 = .ok (.bipush 10, 2) := by decide +kernel
theorem dJ17_stringSize_33 : decode cJ17_stringSize 33 = .ok (.iload_n 2, 1) := by decide +kernel
theorem dJ17_stringSize_34 : decode cJ17_stringSize 34 = .ok (.imul, 1) := by decide +kernel
theorem dJ17_stringSize_35 : decode cJ17_stringSize 35 = .ok (.istore_n 2, 1) := by decide +kernel
theorem dJ17_stringSize_36 : decode cJ17_stringSize 36 = .ok (.iinc 3 1, 3) := by decide +kernel
theorem dJ17_stringSize_39 : decode cJ17_stringSize 39 = .ok (.goto (-23), 3) := by decide +kernel
theorem dJ17_stringSize_42 : decode cJ17_stringSize 42 = .ok (.bipush 10, 2) := by decide +kernel
theorem dJ17_stringSize_44 : decode cJ17_stringSize 44 = .ok (.iload_n 1, 1) := by decide +kernel
theorem dJ17_stringSize_45 : decode cJ17_stringSize 45 = .ok (.iadd, 1) := by decide +kernel
theorem dJ17_stringSize_46 : decode cJ17_stringSize 46 = .ok (.ireturn, 1) := by decide +kernel
abbrev cJ17_getChars : ByteArray := prog_38_method_12_code
def yJ17_getChars : MethodName := ⟨RJ17, "getChars", "(II[B)I"⟩
theorem dJ17_getChars_0 : decode cJ17_getChars 0 = .ok (.iload_n 1, 1) := by decide +kernel
theorem dJ17_getChars_1 : decode cJ17_getChars 1 = .ok (.istore 5, 2) := by decide +kernel
theorem dJ17_getChars_3 : decode cJ17_getChars 3 = .ok (.iload_n 0, 1) := by decide +kernel
theorem dJ17_getChars_4 : decode cJ17_getChars 4 = .ok (.ifCond .ge 7, 3) := by decide +kernel
theorem dJ17_getChars_7 : decode cJ17_getChars 7 = .ok (.iconst 1, 1) := by decide +kernel
theorem dJ17_getChars_8 : decode cJ17_getChars 8 = .ok (.goto 4, 3) := by decide +kernel
theorem dJ17_getChars_11 : decode cJ17_getChars 11 = .ok (.iconst 0, 1) := by decide +kernel
theorem dJ17_getChars_12 : decode cJ17_getChars 12 = .ok (.istore 6, 2) := by decide +kernel
theorem dJ17_getChars_14 : decode cJ17_getChars 14 = .ok (.iload 6, 2) := by decide +kernel
theorem dJ17_getChars_16 : decode cJ17_getChars 16 = .ok (.ifCond .ne 6, 3) := by decide +kernel
theorem dJ17_getChars_19 : decode cJ17_getChars 19 = .ok (.iload_n 0, 1) := by decide +kernel
theorem dJ17_getChars_20 : decode cJ17_getChars 20 = .ok (.ineg, 1) := by decide +kernel
theorem dJ17_getChars_21 : decode cJ17_getChars 21 = .ok (.istore_n 0, 1) := by decide +kernel
theorem dJ17_getChars_22 : decode cJ17_getChars 22 = .ok (.iload_n 0, 1) := by decide +kernel
theorem dJ17_getChars_23 : decode cJ17_getChars 23 = .ok (.bipush (-100), 2) := by decide +kernel
theorem dJ17_getChars_25 : decode cJ17_getChars 25 = .ok (.if_icmp .gt 47, 3) := by decide +kernel
theorem dJ17_getChars_28 : decode cJ17_getChars 28 = .ok (.iload_n 0, 1) := by decide +kernel
theorem dJ17_getChars_29 : decode cJ17_getChars 29 = .ok (.bipush 100, 2) := by decide +kernel
theorem dJ17_getChars_31 : decode cJ17_getChars 31 = .ok (.idiv, 1) := by decide +kernel
theorem dJ17_getChars_32 : decode cJ17_getChars 32 = .ok (.istore_n 3, 1) := by decide +kernel
theorem dJ17_getChars_33 : decode cJ17_getChars 33 = .ok (.iload_n 3, 1) := by decide +kernel
theorem dJ17_getChars_34 : decode cJ17_getChars 34 = .ok (.bipush 100, 2) := by decide +kernel
theorem dJ17_getChars_36 : decode cJ17_getChars 36 = .ok (.imul, 1) := by decide +kernel
theorem dJ17_getChars_37 : decode cJ17_getChars 37 = .ok (.iload_n 0, 1) := by decide +kernel
theorem dJ17_getChars_38 : decode cJ17_getChars 38 = .ok (.isub, 1) := by decide +kernel
theorem dJ17_getChars_39 : decode cJ17_getChars 39 = .ok (.istore 4, 2) := by decide +kernel
theorem dJ17_getChars_41 : decode cJ17_getChars 41 = .ok (.iload_n 3, 1) := by decide +kernel
theorem dJ17_getChars_42 : decode cJ17_getChars 42 = .ok (.istore_n 0, 1) := by decide +kernel
theorem dJ17_getChars_43 : decode cJ17_getChars 43 = .ok (.aload_n 2, 1) := by decide +kernel
theorem dJ17_getChars_44 : decode cJ17_getChars 44 = .ok (.iinc 5 (-1), 3) := by decide +kernel
theorem dJ17_getChars_47 : decode cJ17_getChars 47 = .ok (.iload 5, 2) := by decide +kernel
theorem dJ17_getChars_49 : decode cJ17_getChars 49 = .ok (.getstatic 83, 3) := by decide +kernel
theorem dJ17_getChars_52 : decode cJ17_getChars 52 = .ok (.iload 4, 2) := by decide +kernel
theorem dJ17_getChars_54 : decode cJ17_getChars 54 = .ok (.baload, 1) := by decide +kernel
theorem dJ17_getChars_55 : decode cJ17_getChars 55 = .ok (.bastore, 1) := by decide +kernel
theorem dJ17_getChars_56 : decode cJ17_getChars 56 = .ok (.aload_n 2, 1) := by decide +kernel
theorem dJ17_getChars_57 : decode cJ17_getChars 57 = .ok (.iinc 5 (-1), 3) := by decide +kernel
theorem dJ17_getChars_60 : decode cJ17_getChars 60 = .ok (.iload 5, 2) := by decide +kernel
theorem dJ17_getChars_62 : decode cJ17_getChars 62 = .ok (.getstatic 87, 3) := by decide +kernel
theorem dJ17_getChars_65 : decode cJ17_getChars 65 = .ok (.iload 4, 2) := by decide +kernel
theorem dJ17_getChars_67 : decode cJ17_getChars 67 = .ok (.baload, 1) := by decide +kernel
theorem dJ17_getChars_68 : decode cJ17_getChars 68 = .ok (.bastore, 1) := by decide +kernel
theorem dJ17_getChars_69 : decode cJ17_getChars 69 = .ok (.goto (-47), 3) := by decide +kernel
theorem dJ17_getChars_72 : decode cJ17_getChars 72 = .ok (.aload_n 2, 1) := by decide +kernel
theorem dJ17_getChars_73 : decode cJ17_getChars 73 = .ok (.iinc 5 (-1), 3) := by decide +kernel
theorem dJ17_getChars_76 : decode cJ17_getChars 76 = .ok (.iload 5, 2) := by decide +kernel
theorem dJ17_getChars_78 : decode cJ17_getChars 78 = .ok (.getstatic 83, 3) := by decide +kernel
theorem dJ17_getChars_81 : decode cJ17_getChars 81 = .ok (.iload_n 0, 1) := by decide +kernel
theorem dJ17_getChars_82 : decode cJ17_getChars 82 = .ok (.ineg, 1) := by decide +kernel
theorem dJ17_getChars_83 : decode cJ17_getChars 83 = .ok (.baload, 1) := by decide +kernel
theorem dJ17_getChars_84 : decode cJ17_getChars 84 = .ok (.bastore, 1) := by decide +kernel
theorem dJ17_getChars_85 : decode cJ17_getChars 85 = .ok (.iload_n 0, 1) := by decide +kernel
theorem dJ17_getChars_86 : decode cJ17_getChars 86 = .ok (.bipush (-9), 2) := by decide +kernel
theorem dJ17_getChars_88 : decode cJ17_getChars 88 = .ok (.if_icmp .ge 16, 3) := by decide +kernel
theorem dJ17_getChars_91 : decode cJ17_getChars 91 = .ok (.aload_n 2, 1) := by decide +kernel
theorem dJ17_getChars_92 : decode cJ17_getChars 92 = .ok (.iinc 5 (-1), 3) := by decide +kernel
theorem dJ17_getChars_95 : decode cJ17_getChars 95 = .ok (.iload 5, 2) := by decide +kernel
theorem dJ17_getChars_97 : decode cJ17_getChars 97 = .ok (.getstatic 87, 3) := by decide +kernel
theorem dJ17_getChars_100 : decode cJ17_getChars 100 = .ok (.iload_n 0, 1) := by decide +kernel
theorem dJ17_getChars_101 : decode cJ17_getChars 101 = .ok (.ineg, 1) := by decide +kernel
theorem dJ17_getChars_102 : decode cJ17_getChars 102 = .ok (.baload, 1) := by decide +kernel
theorem dJ17_getChars_103 : decode cJ17_getChars 103 = .ok (.bastore, 1) := by decide +kernel
theorem dJ17_getChars_104 : decode cJ17_getChars 104 = .ok (.iload 6, 2) := by decide +kernel
theorem dJ17_getChars_106 : decode cJ17_getChars 106 = .ok (.ifCond .eq 12, 3) := by decide +kernel
theorem dJ17_getChars_109 : decode cJ17_getChars 109 = .ok (.aload_n 2, 1) := by decide +kernel
theorem dJ17_getChars_110 : decode cJ17_getChars 110 = .ok (.iinc 5 (-1), 3) := by decide +kernel
theorem dJ17_getChars_113 : decode cJ17_getChars 113 = .ok (.iload 5, 2) := by decide +kernel
theorem dJ17_getChars_115 : decode cJ17_getChars 115 = .ok (.bipush 45, 2) := by decide +kernel
theorem dJ17_getChars_117 : decode cJ17_getChars 117 = .ok (.bastore, 1) := by decide +kernel
theorem dJ17_getChars_118 : decode cJ17_getChars 118 = .ok (.iload 5, 2) := by decide +kernel
theorem dJ17_getChars_120 : decode cJ17_getChars 120 = .ok (.ireturn, 1) := by decide +kernel
theorem q139 : (Jvm.Cond.initialized "java/lang/Integer") ∈ lw_all := lw_g (lw_at lw_m1 27 rfl) rfl
theorem q692 : (Jvm.Cond.static ({ cls := "java/lang/Integer", name := "stringSize", desc := "(I)I" } : Jvm.MethodName)) ∈ lw_all := lw_g (lw_at lw_m3 100 rfl) rfl
theorem q693 : (Jvm.Cond.code ({ cls := "java/lang/Integer", name := "stringSize", desc := "(I)I" } : Jvm.MethodName) prog_38_method_13_code (4 : Nat) (Option.some Jvm.ClassFile.FieldType.int)) ∈ lw_all := lw_g (lw_at lw_m3 101 rfl) rfl
theorem q695 : (Jvm.Cond.static ({ cls := "java/lang/Integer", name := "getChars", desc := "(II[B)I" } : Jvm.MethodName)) ∈ lw_all := lw_g (lw_at lw_m3 103 rfl) rfl
theorem q696 : (Jvm.Cond.code ({ cls := "java/lang/Integer", name := "getChars", desc := "(II[B)I" } : Jvm.MethodName) prog_38_method_12_code (7 : Nat) (Option.some Jvm.ClassFile.FieldType.int)) ∈ lw_all := lw_g (lw_at lw_m3 104 rfl) rfl
theorem q697 : (Jvm.Cond.fieldLink "java/lang/Integer" (83 : Nat) "java/lang/Integer" "DigitOnes" "[B") ∈ lw_all := lw_g (lw_at lw_m3 105 rfl) rfl
theorem q698 : (Jvm.Cond.laysStatic "java/lang/Integer" "DigitOnes" "[B") ∈ lw_tbl := lw_at lw_m3 106 rfl
theorem q699 : (Jvm.Cond.fieldLink "java/lang/Integer" (87 : Nat) "java/lang/Integer" "DigitTens" "[B") ∈ lw_all := lw_g (lw_at lw_m3 107 rfl) rfl
theorem q700 : (Jvm.Cond.laysStatic "java/lang/Integer" "DigitTens" "[B") ∈ lw_tbl := lw_at lw_m3 108 rfl

/-! java/lang/Character -/
set_option maxRecDepth 100000
def RJ18 : String := "java/lang/Character"
abbrev cJ18_isValidCodePoint : ByteArray := prog_31_method_11_code
def yJ18_isValidCodePoint : MethodName := ⟨RJ18, "isValidCodePoint", "(I)Z"⟩
theorem dJ18_isValidCodePoint_0 : decode cJ18_isValidCodePoint 0 = .ok (.iload_n 0, 1) := by decide +kernel
theorem dJ18_isValidCodePoint_1 : decode cJ18_isValidCodePoint 1 = .ok (.bipush 16, 2) := by decide +kernel
theorem dJ18_isValidCodePoint_3 : decode cJ18_isValidCodePoint 3 = .ok (.iushr, 1) := by decide +kernel
theorem dJ18_isValidCodePoint_4 : decode cJ18_isValidCodePoint 4 = .ok (.istore_n 1, 1) := by decide +kernel
theorem dJ18_isValidCodePoint_5 : decode cJ18_isValidCodePoint 5 = .ok (.iload_n 1, 1) := by decide +kernel
theorem dJ18_isValidCodePoint_6 : decode cJ18_isValidCodePoint 6 = .ok (.bipush 17, 2) := by decide +kernel
theorem dJ18_isValidCodePoint_8 : decode cJ18_isValidCodePoint 8 = .ok (.if_icmp .ge 7, 3) := by decide +kernel
theorem dJ18_isValidCodePoint_11 : decode cJ18_isValidCodePoint 11 = .ok (.iconst 1, 1) := by decide +kernel
theorem dJ18_isValidCodePoint_12 : decode cJ18_isValidCodePoint 12 = .ok (.goto 4, 3) := by decide +kernel
theorem dJ18_isValidCodePoint_15 : decode cJ18_isValidCodePoint 15 = .ok (.iconst 0, 1) := by decide +kernel
theorem dJ18_isValidCodePoint_16 : decode cJ18_isValidCodePoint 16 = .ok (.ireturn, 1) := by decide +kernel
abbrev cJ18_highSurrogate : ByteArray := prog_31_method_28_code
def yJ18_highSurrogate : MethodName := ⟨RJ18, "highSurrogate", "(I)C"⟩
theorem dJ18_highSurrogate_0 : decode cJ18_highSurrogate 0 = .ok (.iload_n 0, 1) := by decide +kernel
theorem dJ18_highSurrogate_1 : decode cJ18_highSurrogate 1 = .ok (.bipush 10, 2) := by decide +kernel
theorem dJ18_highSurrogate_3 : decode cJ18_highSurrogate 3 = .ok (.iushr, 1) := by decide +kernel
theorem dJ18_highSurrogate_4 : decode cJ18_highSurrogate 4 = .ok (.ldc 110, 2) := by decide +kernel
theorem dJ18_highSurrogate_6 : decode cJ18_highSurrogate 6 = .ok (.iadd, 1) := by decide +kernel
theorem dJ18_highSurrogate_7 : decode cJ18_highSurrogate 7 = .ok (.i2c, 1) := by decide +kernel
theorem dJ18_highSurrogate_8 : decode cJ18_highSurrogate 8 = .ok (.ireturn, 1) := by decide +kernel
abbrev cJ18_lowSurrogate : ByteArray := prog_31_method_29_code
def yJ18_lowSurrogate : MethodName := ⟨RJ18, "lowSurrogate", "(I)C"⟩
theorem dJ18_lowSurrogate_0 : decode cJ18_lowSurrogate 0 = .ok (.iload_n 0, 1) := by decide +kernel
theorem dJ18_lowSurrogate_1 : decode cJ18_lowSurrogate 1 = .ok (.sipush 1023, 3) := by decide +kernel
theorem dJ18_lowSurrogate_4 : decode cJ18_lowSurrogate 4 = .ok (.iand, 1) := by decide +kernel
theorem dJ18_lowSurrogate_5 : decode cJ18_lowSurrogate 5 = .ok (.ldc 76, 2) := by decide +kernel
theorem dJ18_lowSurrogate_7 : decode cJ18_lowSurrogate 7 = .ok (.iadd, 1) := by decide +kernel
theorem dJ18_lowSurrogate_8 : decode cJ18_lowSurrogate 8 = .ok (.i2c, 1) := by decide +kernel
theorem dJ18_lowSurrogate_9 : decode cJ18_lowSurrogate 9 = .ok (.ireturn, 1) := by decide +kernel
theorem q140 : (Jvm.Cond.initialized "java/lang/Character") ∈ lw_all := lw_g (lw_at lw_m1 28 rfl) rfl
theorem q920 : (Jvm.Cond.static ({ cls := "java/lang/Character", name := "isValidCodePoint", desc := "(I)Z" } : Jvm.MethodName)) ∈ lw_all := lw_g (lw_at lw_m4 88 rfl) rfl
theorem q921 : (Jvm.Cond.code ({ cls := "java/lang/Character", name := "isValidCodePoint", desc := "(I)Z" } : Jvm.MethodName) prog_31_method_11_code (2 : Nat) (Option.some Jvm.ClassFile.FieldType.boolean)) ∈ lw_all := lw_g (lw_at lw_m4 89 rfl) rfl
theorem q923 : (Jvm.Cond.static ({ cls := "java/lang/Character", name := "highSurrogate", desc := "(I)C" } : Jvm.MethodName)) ∈ lw_all := lw_g (lw_at lw_m4 91 rfl) rfl
theorem q924 : (Jvm.Cond.code ({ cls := "java/lang/Character", name := "highSurrogate", desc := "(I)C" } : Jvm.MethodName) prog_31_method_28_code (1 : Nat) (Option.some Jvm.ClassFile.FieldType.char)) ∈ lw_all := lw_g (lw_at lw_m4 92 rfl) rfl
theorem q925 : (Jvm.Cond.constant "java/lang/Character" (110 : Nat) (55232 : Int32)) ∈ lw_all := lw_g (lw_at lw_m4 93 rfl) rfl
theorem q927 : (Jvm.Cond.static ({ cls := "java/lang/Character", name := "lowSurrogate", desc := "(I)C" } : Jvm.MethodName)) ∈ lw_all := lw_g (lw_at lw_m4 95 rfl) rfl
theorem q928 : (Jvm.Cond.code ({ cls := "java/lang/Character", name := "lowSurrogate", desc := "(I)C" } : Jvm.MethodName) prog_31_method_29_code (1 : Nat) (Option.some Jvm.ClassFile.FieldType.char)) ∈ lw_all := lw_g (lw_at lw_m4 96 rfl) rfl
theorem q929 : (Jvm.Cond.constant "java/lang/Character" (76 : Nat) (56320 : Int32)) ∈ lw_all := lw_g (lw_at lw_m4 97 rfl) rfl

/-! java/util/Objects -/
set_option maxRecDepth 100000
def RJ19 : String := "java/util/Objects"
abbrev cJ19_checkIndex : ByteArray := prog_59_method_17_code
def yJ19_checkIndex : MethodName := ⟨RJ19, "checkIndex", "(II)I"⟩
theorem dJ19_checkIndex_0 : decode cJ19_checkIndex 0 = .ok (.iload_n 0, 1) := by decide +kernel
theorem dJ19_checkIndex_1 : decode cJ19_checkIndex 1 = .ok (.iload_n 1, 1) := by decide +kernel
theorem dJ19_checkIndex_2 : decode cJ19_checkIndex 2 = .ok (.aconst_null, 1) := by decide +kernel
theorem dJ19_checkIndex_3 : decode cJ19_checkIndex 3 = .ok (.invokestatic 105, 3) := by decide +kernel
theorem dJ19_checkIndex_6 : decode cJ19_checkIndex 6 = .ok (.ireturn, 1) := by decide +kernel
theorem q146 : (Jvm.Cond.initialized "java/util/Objects") ∈ lw_all := lw_g (lw_at lw_m1 34 rfl) rfl
theorem q1151 : (Jvm.Cond.static ({ cls := "java/util/Objects", name := "checkIndex", desc := "(II)I" } : Jvm.MethodName)) ∈ lw_all := lw_g (lw_at lw_m5 79 rfl) rfl
theorem q1152 : (Jvm.Cond.code ({ cls := "java/util/Objects", name := "checkIndex", desc := "(II)I" } : Jvm.MethodName) prog_59_method_17_code (2 : Nat) (Option.some Jvm.ClassFile.FieldType.int)) ∈ lw_all := lw_g (lw_at lw_m5 80 rfl) rfl
theorem q1153 : (Jvm.Cond.methodLink "java/util/Objects" (105 : Nat) ({ cls := "jdk/internal/util/Preconditions", name := "checkIndex", desc := "(IILjava/util/function/BiFunction;)I" } : Jvm.MethodName)) ∈ lw_all := lw_g (lw_at lw_m5 81 rfl) rfl

/-! java/util/ArrayList -/
set_option maxRecDepth 100000
def RJ2 : String := "java/util/ArrayList"
def TJ2 : u_T := fun k => match k with
  | 0 => ("java/util/AbstractList", "modCount", "I", false)
  | 1 => ("java/util/ArrayList", "elementData", "[Ljava/lang/Object;", false)
  | _ => ("java/util/ArrayList", "size", "I", false)
def tyJ2 : Nat → FieldType := fun k => match k with
  | 0 => .int
  | 1 => .array (.object "java/lang/Object")
  | _ => .int
abbrev wsJ20 : List Cond := u_ws RJ2 TJ2 3
theorem nmJ2 : ∀ a, a < 3 → ∀ b, b < 3 → a ≠ b → (TJ2 a).2.1 ≠ (TJ2 b).2.1 := by decide +kernel
theorem tyJ2_ok : ∀ k, k < 3 → parseFieldDescriptor (TJ2 k).2.2.1 = some (tyJ2 k) := by decide +kernel
abbrev cJ2_init : ByteArray := prog_54_method_2_code
def yJ2_init : MethodName := ⟨RJ2, "<init>", "()V"⟩
theorem dJ2_init_0 : decode cJ2_init 0 = .ok (.aload_n 0, 1) := by decide +kernel
theorem dJ2_init_1 : decode cJ2_init 1 = .ok (.invokespecial 1, 3) := by decide +kernel
theorem dJ2_init_4 : decode cJ2_init 4 = .ok (.aload_n 0, 1) := by decide +kernel
theorem dJ2_init_5 : decode cJ2_init 5 = .ok (.getstatic 39, 3) := by decide +kernel
theorem dJ2_init_8 : decode cJ2_init 8 = .ok (.putfield 9, 3) := by decide +kernel
theorem dJ2_init_11 : decode cJ2_init 11 = .ok (.return_, 1) := by decide +kernel
abbrev cJ2_add : ByteArray := prog_54_method_25_code
def yJ2_add : MethodName := ⟨RJ2, "add", "(Ljava/lang/Object;)Z"⟩
theorem dJ2_add_0 : decode cJ2_add 0 = .ok (.aload_n 0, 1) := by decide +kernel
theorem dJ2_add_1 : decode cJ2_add 1 = .ok (.dup, 1) := by decide +kernel
theorem dJ2_add_2 : decode cJ2_add 2 = .ok (.getfield 63, 3) := by decide +kernel
theorem dJ2_add_5 : decode cJ2_add 5 = .ok (.iconst 1, 1) := by decide +kernel
theorem dJ2_add_6 : decode cJ2_add 6 = .ok (.iadd, 1) := by decide +kernel
theorem dJ2_add_7 : decode cJ2_add 7 = .ok (.putfield 63, 3) := by decide +kernel
theorem dJ2_add_10 : decode cJ2_add 10 = .ok (.aload_n 0, 1) := by decide +kernel
theorem dJ2_add_11 : decode cJ2_add 11 = .ok (.aload_n 1, 1) := by decide +kernel
theorem dJ2_add_12 : decode cJ2_add 12 = .ok (.aload_n 0, 1) := by decide +kernel
theorem dJ2_add_13 : decode cJ2_add 13 = .ok (.getfield 9, 3) := by decide +kernel
theorem dJ2_add_16 : decode cJ2_add 16 = .ok (.aload_n 0, 1) := by decide +kernel
theorem dJ2_add_17 : decode cJ2_add 17 = .ok (.getfield 48, 3) := by decide +kernel
theorem dJ2_add_20 : decode cJ2_add 20 = .ok (.invokevirtual 131, 3) := by decide +kernel
theorem dJ2_add_23 : decode cJ2_add 23 = .ok (.iconst 1, 1) := by decide +kernel
theorem dJ2_add_24 : decode cJ2_add 24 = .ok (.ireturn, 1) := by decide +kernel
abbrev cJ2_add_2 : ByteArray := prog_54_method_24_code
def yJ2_add_2 : MethodName := ⟨RJ2, "add", "(Ljava/lang/Object;[Ljava/lang/Object;I)V"⟩
theorem dJ2_add_2_0 : decode cJ2_add_2 0 = .ok (.iload_n 3, 1) := by decide +kernel
theorem dJ2_add_2_1 : decode cJ2_add_2 1 = .ok (.aload_n 2, 1) := by decide +kernel
theorem dJ2_add_2_2 : decode cJ2_add_2 2 = .ok (.arraylength, 1) := by decide +kernel
theorem dJ2_add_2_3 : decode cJ2_add_2 3 = .ok (.if_icmp .ne 8, 3) := by decide +kernel
theorem dJ2_add_2_6 : decode cJ2_add_2 6 = .ok (.aload_n 0, 1) := by decide +kernel
theorem dJ2_add_2_7 : decode cJ2_add_2 7 = .ok (.invokevirtual 129, 3) := by decide +kernel
theorem dJ2_add_2_10 : decode cJ2_add_2 10 = .ok (.astore_n 2, 1) := by decide +kernel
theorem dJ2_add_2_11 : decode cJ2_add_2 11 = .ok (.aload_n 2, 1) := by decide +kernel
theorem dJ2_add_2_12 : decode cJ2_add_2 12 = .ok (.iload_n 3, 1) := by decide +kernel
theorem dJ2_add_2_13 : decode cJ2_add_2 13 = .ok (.aload_n 1, 1) := by decide +kernel
theorem dJ2_add_2_14 : decode cJ2_add_2 14 = .ok (.aastore, 1) := by decide +kernel
theorem dJ2_add_2_15 : decode cJ2_add_2 15 = .ok (.aload_n 0, 1) := by decide +kernel
theorem dJ2_add_2_16 : decode cJ2_add_2 16 = .ok (.iload_n 3, 1) := by decide +kernel
theorem dJ2_add_2_17 : decode cJ2_add_2 17 = .ok (.iconst 1, 1) := by decide +kernel
theorem dJ2_add_2_18 : decode cJ2_add_2 18 = .ok (.iadd, 1) := by decide +kernel
theorem dJ2_add_2_19 : decode cJ2_add_2 19 = .ok (.putfield 48, 3) := by decide +kernel
theorem dJ2_add_2_22 : decode cJ2_add_2 22 = .ok (.return_, 1) := by decide +kernel
abbrev cJ2_grow : ByteArray := prog_54_method_7_code
def yJ2_grow : MethodName := ⟨RJ2, "grow", "()[Ljava/lang/Object;"⟩
theorem dJ2_grow_0 : decode cJ2_grow 0 = .ok (.aload_n 0, 1) := by decide +kernel
theorem dJ2_grow_1 : decode cJ2_grow 1 = .ok (.aload_n 0, 1) := by decide +kernel
theorem dJ2_grow_2 : decode cJ2_grow 2 = .ok (.getfield 48, 3) := by decide +kernel
theorem dJ2_grow_5 : decode cJ2_grow 5 = .ok (.iconst 1, 1) := by decide +kernel
theorem dJ2_grow_6 : decode cJ2_grow 6 = .ok (.iadd, 1) := by decide +kernel
theorem dJ2_grow_7 : decode cJ2_grow 7 = .ok (.invokevirtual 69, 3) := by decide +kernel
theorem dJ2_grow_10 : decode cJ2_grow 10 = .ok (.areturn, 1) := by decide +kernel
abbrev cJ2_grow_2 : ByteArray := prog_54_method_6_code
def yJ2_grow_2 : MethodName := ⟨RJ2, "grow", "(I)[Ljava/lang/Object;"⟩
theorem dJ2_grow_2_0 : decode cJ2_grow_2 0 = .ok (.aload_n 0, 1) := by decide +kernel
theorem dJ2_grow_2_1 : decode cJ2_grow_2 1 = .ok (.getfield 9, 3) := by decide +kernel
theorem dJ2_grow_2_4 : decode cJ2_grow_2 4 = .ok (.arraylength, 1) := by decide +kernel
theorem dJ2_grow_2_5 : decode cJ2_grow_2 5 = .ok (.istore_n 2, 1) := by decide +kernel
theorem dJ2_grow_2_6 : decode cJ2_grow_2 6 = .ok (.iload_n 2, 1) := by decide +kernel
theorem dJ2_grow_2_7 : decode cJ2_grow_2 7 = .ok (.ifCond .gt 13, 3) := by decide +kernel
theorem dJ2_grow_2_10 : decode cJ2_grow_2 10 = .ok (.aload_n 0, 1) := by decide +kernel
theorem dJ2_grow_2_11 : decode cJ2_grow_2 11 = .ok (.getfield 9, 3) := by decide +kernel
theorem dJ2_grow_2_14 : decode cJ2_grow_2 14 = .ok (.getstatic 39, 3) := by decide +kernel
theorem dJ2_grow_2_17 : decode cJ2_grow_2 17 = .ok (.if_acmp .eq 28, 3) := by decide +kernel
theorem dJ2_grow_2_20 : decode cJ2_grow_2 20 = .ok (.iload_n 2, 1) := by decide +kernel
theorem dJ2_grow_2_21 : decode cJ2_grow_2 21 = .ok (.iload_n 1, 1) := by decide +kernel
theorem dJ2_grow_2_22 : decode cJ2_grow_2 22 = .ok (.iload_n 2, 1) := by decide +kernel
theorem dJ2_grow_2_23 : decode cJ2_grow_2 23 = .ok (.isub, 1) := by decide +kernel
theorem dJ2_grow_2_24 : decode cJ2_grow_2 24 = .ok (.iload_n 2, 1) := by decide +kernel
theorem dJ2_grow_2_25 : decode cJ2_grow_2 25 = .ok (.iconst 1, 1) := by decide +kernel
theorem dJ2_grow_2_26 : decode cJ2_grow_2 26 = .ok (.ishr, 1) := by decide +kernel
theorem dJ2_grow_2_27 : decode cJ2_grow_2 27 = .ok (.invokestatic 73, 3) := by decide +kernel
theorem dJ2_grow_2_30 : decode cJ2_grow_2 30 = .ok (.istore_n 3, 1) := by decide +kernel
theorem dJ2_grow_2_31 : decode cJ2_grow_2 31 = .ok (.aload_n 0, 1) := by decide +kernel
theorem dJ2_grow_2_32 : decode cJ2_grow_2 32 = .ok (.aload_n 0, 1) := by decide +kernel
theorem dJ2_grow_2_33 : decode cJ2_grow_2 33 = .ok (.getfield 9, 3) := by decide +kernel
theorem dJ2_grow_2_36 : decode cJ2_grow_2 36 = .ok (.iload_n 3, 1) := by decide +kernel
theorem dJ2_grow_2_37 : decode cJ2_grow_2 37 = .ok (.invokestatic 66, 3) := by decide +kernel
theorem dJ2_grow_2_40 : decode cJ2_grow_2 40 = .ok (.dup_x1, 1) := by decide +kernel
theorem dJ2_grow_2_41 : decode cJ2_grow_2 41 = .ok (.putfield 9, 3) := by decide +kernel
theorem dJ2_grow_2_44 : decode cJ2_grow_2 44 = .ok (.areturn, 1) := by decide +kernel
theorem dJ2_grow_2_45 : decode cJ2_grow_2 45 = .ok (.aload_n 0, 1) := by decide +kernel
theorem dJ2_grow_2_46 : decode cJ2_grow_2 46 = .ok (.bipush 10, 2) := by decide +kernel
theorem dJ2_grow_2_48 : decode cJ2_grow_2 48 = .ok (.iload_n 1, 1) := by decide +kernel
theorem dJ2_grow_2_49 : decode cJ2_grow_2 49 = .ok (.invokestatic 79, 3) := by decide +kernel
theorem dJ2_grow_2_52 : decode cJ2_grow_2 52 = .ok (.anewarray 7, 3) := by decide +kernel
theorem dJ2_grow_2_55 : decode cJ2_grow_2 55 = .ok (.dup_x1, 1) := by decide +kernel
theorem dJ2_grow_2_56 : decode cJ2_grow_2 56 = .ok (.putfield 9, 3) := by decide +kernel
theorem dJ2_grow_2_59 : decode cJ2_grow_2 59 = .ok (.areturn, 1) := by decide +kernel
abbrev cJ2_size : ByteArray := prog_54_method_8_code
def yJ2_size : MethodName := ⟨RJ2, "size", "()I"⟩
theorem dJ2_size_0 : decode cJ2_size 0 = .ok (.aload_n 0, 1) := by decide +kernel
theorem dJ2_size_1 : decode cJ2_size 1 = .ok (.getfield 48, 3) := by decide +kernel
theorem dJ2_size_4 : decode cJ2_size 4 = .ok (.ireturn, 1) := by decide +kernel
abbrev cJ2_remove : ByteArray := prog_54_method_29_code
def yJ2_remove : MethodName := ⟨RJ2, "remove", "(I)Ljava/lang/Object;"⟩
theorem dJ2_remove_0 : decode cJ2_remove 0 = .ok (.iload_n 1, 1) := by decide +kernel
theorem dJ2_remove_1 : decode cJ2_remove 1 = .ok (.aload_n 0, 1) := by decide +kernel
theorem dJ2_remove_2 : decode cJ2_remove 2 = .ok (.getfield 48, 3) := by decide +kernel
theorem dJ2_remove_5 : decode cJ2_remove 5 = .ok (.invokestatic 118, 3) := by decide +kernel
theorem dJ2_remove_8 : decode cJ2_remove 8 = .ok (.pop, 1) := by decide +kernel
theorem dJ2_remove_9 : decode cJ2_remove 9 = .ok (.aload_n 0, 1) := by decide +kernel
theorem dJ2_remove_10 : decode cJ2_remove 10 = .ok (.getfield 9, 3) := by decide +kernel
theorem dJ2_remove_13 : decode cJ2_remove 13 = .ok (.astore_n 2, 1) := by decide +kernel
theorem dJ2_remove_14 : decode cJ2_remove 14 = .ok (.aload_n 2, 1) := by decide +kernel
theorem dJ2_remove_15 : decode cJ2_remove 15 = .ok (.iload_n 1, 1) := by decide +kernel
theorem dJ2_remove_16 : decode cJ2_remove 16 = .ok (.aaload, 1) := by decide +kernel
theorem dJ2_remove_17 : decode cJ2_remove 17 = .ok (.astore_n 3, 1) := by decide +kernel
theorem dJ2_remove_18 : decode cJ2_remove 18 = .ok (.aload_n 0, 1) := by decide +kernel
theorem dJ2_remove_19 : decode cJ2_remove 19 = .ok (.aload_n 2, 1) := by decide +kernel
theorem dJ2_remove_20 : decode cJ2_remove 20 = .ok (.iload_n 1, 1) := by decide +kernel
theorem dJ2_remove_21 : decode cJ2_remove 21 = .ok (.invokevirtual 144, 3) := by decide +kernel
theorem dJ2_remove_24 : decode cJ2_remove 24 = .ok (.aload_n 3, 1) := by decide +kernel
theorem dJ2_remove_25 : decode cJ2_remove 25 = .ok (.areturn, 1) := by decide +kernel
abbrev cJ2_fastRemove : ByteArray := prog_54_method_39_code
def yJ2_fastRemove : MethodName := ⟨RJ2, "fastRemove", "([Ljava/lang/Object;I)V"⟩
theorem dJ2_fastRemove_0 : decode cJ2_fastRemove 0 = .ok (.aload_n 0, 1) := by decide +kernel
theorem dJ2_fastRemove_1 : decode cJ2_fastRemove 1 = .ok (.dup, 1) := by decide +kernel
theorem dJ2_fastRemove_2 : decode cJ2_fastRemove 2 = .ok (.getfield 63, 3) := by decide +kernel
theorem dJ2_fastRemove_5 : decode cJ2_fastRemove 5 = .ok (.iconst 1, 1) := by decide +kernel
theorem dJ2_fastRemove_6 : decode cJ2_fastRemove 6 = .ok (.iadd, 1) := by decide +kernel
theorem dJ2_fastRemove_7 : decode cJ2_fastRemove 7 = .ok (.putfield 63, 3) := by decide +kernel
theorem dJ2_fastRemove_10 : decode cJ2_fastRemove 10 = .ok (.aload_n 0, 1) := by decide +kernel
theorem dJ2_fastRemove_11 : decode cJ2_fastRemove 11 = .ok (.getfield 48, 3) := by decide +kernel
theorem dJ2_fastRemove_14 : decode cJ2_fastRemove 14 = .ok (.iconst 1, 1) := by decide +kernel
theorem dJ2_fastRemove_15 : decode cJ2_fastRemove 15 = .ok (.isub, 1) := by decide +kernel
theorem dJ2_fastRemove_16 : decode cJ2_fastRemove 16 = .ok (.dup, 1) := by decide +kernel
theorem dJ2_fastRemove_17 : decode cJ2_fastRemove 17 = .ok (.istore_n 3, 1) := by decide +kernel
theorem dJ2_fastRemove_18 : decode cJ2_fastRemove 18 = .ok (.iload_n 2, 1) := by decide +kernel
theorem dJ2_fastRemove_19 : decode cJ2_fastRemove 19 = .ok (.if_icmp .le 15, 3) := by decide +kernel
theorem dJ2_fastRemove_22 : decode cJ2_fastRemove 22 = .ok (.aload_n 1, 1) := by decide +kernel
theorem dJ2_fastRemove_23 : decode cJ2_fastRemove 23 = .ok (.iload_n 2, 1) := by decide +kernel
theorem dJ2_fastRemove_24 : decode cJ2_fastRemove 24 = .ok (.iconst 1, 1) := by decide +kernel
theorem dJ2_fastRemove_25 : decode cJ2_fastRemove 25 = .ok (.iadd, 1) := by decide +kernel
theorem dJ2_fastRemove_26 : decode cJ2_fastRemove 26 = .ok (.aload_n 1, 1) := by decide +kernel
theorem dJ2_fastRemove_27 : decode cJ2_fastRemove 27 = .ok (.iload_n 2, 1) := by decide +kernel
theorem dJ2_fastRemove_28 : decode cJ2_fastRemove 28 = .ok (.iload_n 3, 1) := by decide +kernel
theorem dJ2_fastRemove_29 : decode cJ2_fastRemove 29 = .ok (.iload_n 2, 1) := by decide +kernel
theorem dJ2_fastRemove_30 : decode cJ2_fastRemove 30 = .ok (.isub, 1) := by decide +kernel
theorem dJ2_fastRemove_31 : decode cJ2_fastRemove 31 = .ok (.invokestatic 112, 3) := by decide +kernel
theorem dJ2_fastRemove_34 : decode cJ2_fastRemove 34 = .ok (.aload_n 1, 1) := by decide +kernel
theorem dJ2_fastRemove_35 : decode cJ2_fastRemove 35 = .ok (.aload_n 0, 1) := by decide +kernel
theorem dJ2_fastRemove_36 : decode cJ2_fastRemove 36 = .ok (.iload_n 3, 1) := by decide +kernel
theorem dJ2_fastRemove_37 : decode cJ2_fastRemove 37 = .ok (.dup_x1, 1) := by decide +kernel
theorem dJ2_fastRemove_38 : decode cJ2_fastRemove 38 = .ok (.putfield 48, 3) := by decide +kernel
theorem dJ2_fastRemove_41 : decode cJ2_fastRemove 41 = .ok (.aconst_null, 1) := by decide +kernel
theorem dJ2_fastRemove_42 : decode cJ2_fastRemove 42 = .ok (.aastore, 1) := by decide +kernel
theorem dJ2_fastRemove_43 : decode cJ2_fastRemove 43 = .ok (.return_, 1) := by decide +kernel
abbrev cJ2_get : ByteArray := prog_54_method_20_code
def yJ2_get : MethodName := ⟨RJ2, "get", "(I)Ljava/lang/Object;"⟩
theorem dJ2_get_0 : decode cJ2_get 0 = .ok (.iload_n 1, 1) := by decide +kernel
theorem dJ2_get_1 : decode cJ2_get 1 = .ok (.aload_n 0, 1) := by decide +kernel
theorem dJ2_get_2 : decode cJ2_get 2 = .ok (.getfield 48, 3) := by decide +kernel
theorem dJ2_get_5 : decode cJ2_get 5 = .ok (.invokestatic 118, 3) := by decide +kernel
theorem dJ2_get_8 : decode cJ2_get 8 = .ok (.pop, 1) := by decide +kernel
theorem dJ2_get_9 : decode cJ2_get 9 = .ok (.aload_n 0, 1) := by decide +kernel
theorem dJ2_get_10 : decode cJ2_get 10 = .ok (.iload_n 1, 1) := by decide +kernel
theorem dJ2_get_11 : decode cJ2_get 11 = .ok (.invokevirtual 123, 3) := by decide +kernel
theorem dJ2_get_14 : decode cJ2_get 14 = .ok (.areturn, 1) := by decide +kernel
abbrev cJ2_elementData : ByteArray := prog_54_method_18_code
def yJ2_elementData : MethodName := ⟨RJ2, "elementData", "(I)Ljava/lang/Object;"⟩
theorem dJ2_elementData_0 : decode cJ2_elementData 0 = .ok (.aload_n 0, 1) := by decide +kernel
theorem dJ2_elementData_1 : decode cJ2_elementData 1 = .ok (.getfield 9, 3) := by decide +kernel
theorem dJ2_elementData_4 : decode cJ2_elementData 4 = .ok (.iload_n 1, 1) := by decide +kernel
theorem dJ2_elementData_5 : decode cJ2_elementData 5 = .ok (.aaload, 1) := by decide +kernel
theorem dJ2_elementData_6 : decode cJ2_elementData 6 = .ok (.areturn, 1) := by decide +kernel
abbrev cJ2_init_2 : ByteArray := prog_54_method_1_code
def yJ2_init_2 : MethodName := ⟨RJ2, "<init>", "(I)V"⟩
theorem dJ2_init_2_0 : decode cJ2_init_2 0 = .ok (.aload_n 0, 1) := by decide +kernel
theorem dJ2_init_2_1 : decode cJ2_init_2 1 = .ok (.invokespecial 1, 3) := by decide +kernel
theorem dJ2_init_2_4 : decode cJ2_init_2 4 = .ok (.iload_n 1, 1) := by decide +kernel
theorem dJ2_init_2_5 : decode cJ2_init_2 5 = .ok (.ifCond .le 14, 3) := by decide +kernel
theorem dJ2_init_2_8 : decode cJ2_init_2 8 = .ok (.aload_n 0, 1) := by decide +kernel
theorem dJ2_init_2_9 : decode cJ2_init_2 9 = .ok (.iload_n 1, 1) := by decide +kernel
theorem dJ2_init_2_10 : decode cJ2_init_2 10 = .ok (.anewarray 7, 3) := by decide +kernel
theorem dJ2_init_2_13 : decode cJ2_init_2 13 = .ok (.putfield 9, 3) := by decide +kernel
theorem dJ2_init_2_16 : decode cJ2_init_2 16 = .ok (.goto 44, 3) := by decide +kernel
theorem dJ2_init_2_19 : decode cJ2_init_2 19 = .ok (.iload_n 1, 1) := by decide +kernel
theorem dJ2_init_2_20 : decode cJ2_init_2 20 = .ok (.ifCond .ne 13, 3) := by decide +kernel
theorem dJ2_init_2_23 : decode cJ2_init_2 23 = .ok (.aload_n 0, 1) := by decide +kernel
theorem dJ2_init_2_24 : decode cJ2_init_2 24 = .ok (.getstatic 15, 3) := by decide +kernel
theorem dJ2_init_2_27 : decode cJ2_init_2 27 = .ok (.putfield 9, 3) := by decide +kernel
theorem dJ2_init_2_30 : decode cJ2_init_2 30 = .ok (.goto 30, 3) := by decide +kernel
theorem dJ2_init_2_33 : decode cJ2_init_2 33 = .ok (.new 18, 3) := by decide +kernel
theorem dJ2_init_2_36 : decode cJ2_init_2 36 = .ok (.dup, 1) := by decide +kernel
theorem dJ2_init_2_37 : decode cJ2_init_2 37 = .ok (.new 20, 3) := by decide +kernel
theorem dJ2_init_2_40 : decode cJ2_init_2 40 = .ok (.dup, 1) := by decide +kernel
theorem dJ2_init_2_41 : decode cJ2_init_2 41 = .ok (.invokespecial 22, 3) := by decide +kernel
theorem dJ2_init_2_44 : decode cJ2_init_2 44 = .ok (.ldc 23, 2) := by decide +kernel
theorem dJ2_init_2_46 : decode cJ2_init_2 46 = .ok (.invokevirtual 25, 3) := by decide +kernel
theorem dJ2_init_2_49 : decode cJ2_init_2 49 = .ok (.iload_n 1, 1) := by decide +kernel
theorem dJ2_init_2_50 : decode cJ2_init_2 50 = .ok (.invokevirtual 29, 3) := by decide +kernel
theorem dJ2_init_2_53 : decode cJ2_init_2 53 = .ok (.invokevirtual 32, 3) := by decide +kernel
theorem dJ2_init_2_56 : decode cJ2_init_2 56 = .ok (.invokespecial 36, 3) := by decide +kernel
theorem dJ2_init_2_59 : decode cJ2_init_2 59 = .ok (.athrow, 1) := by decide +kernel
theorem dJ2_init_2_60 : decode cJ2_init_2 60 = .ok (.return_, 1) := by decide +kernel
abbrev cJ2_clear : ByteArray := prog_54_method_40_code
def yJ2_clear : MethodName := ⟨RJ2, "clear", "()V"⟩
theorem dJ2_clear_0 : decode cJ2_clear 0 = .ok (.aload_n 0, 1) := by decide +kernel
theorem dJ2_clear_1 : decode cJ2_clear 1 = .ok (.dup, 1) := by decide +kernel
theorem dJ2_clear_2 : decode cJ2_clear 2 = .ok (.getfield 63, 3) := by decide +kernel
theorem dJ2_clear_5 : decode cJ2_clear 5 = .ok (.iconst 1, 1) := by decide +kernel
theorem dJ2_clear_6 : decode cJ2_clear 6 = .ok (.iadd, 1) := by decide +kernel
theorem dJ2_clear_7 : decode cJ2_clear 7 = .ok (.putfield 63, 3) := by decide +kernel
theorem dJ2_clear_10 : decode cJ2_clear 10 = .ok (.aload_n 0, 1) := by decide +kernel
theorem dJ2_clear_11 : decode cJ2_clear 11 = .ok (.getfield 9, 3) := by decide +kernel
theorem dJ2_clear_14 : decode cJ2_clear 14 = .ok (.astore_n 1, 1) := by decide +kernel
theorem dJ2_clear_15 : decode cJ2_clear 15 = .ok (.aload_n 0, 1) := by decide +kernel
theorem dJ2_clear_16 : decode cJ2_clear 16 = .ok (.getfield 48, 3) := by decide +kernel
theorem dJ2_clear_19 : decode cJ2_clear 19 = .ok (.istore_n 2, 1) := by decide +kernel
theorem dJ2_clear_20 : decode cJ2_clear 20 = .ok (.aload_n 0, 1) := by decide +kernel
theorem dJ2_clear_21 : decode cJ2_clear 21 = .ok (.iconst 0, 1) := by decide +kernel
theorem dJ2_clear_22 : decode cJ2_clear 22 = .ok (.dup_x1, 1) := by decide +kernel
theorem dJ2_clear_23 : decode cJ2_clear 23 = .ok (.putfield 48, 3) := by decide +kernel
theorem dJ2_clear_26 : decode cJ2_clear 26 = .ok (.istore_n 3, 1) := by decide +kernel
theorem dJ2_clear_27 : decode cJ2_clear 27 = .ok (.iload_n 3, 1) := by decide +kernel
theorem dJ2_clear_28 : decode cJ2_clear 28 = .ok (.iload_n 2, 1) := by decide +kernel
theorem dJ2_clear_29 : decode cJ2_clear 29 = .ok (.if_icmp .ge 13, 3) := by decide +kernel
theorem dJ2_clear_32 : decode cJ2_clear 32 = .ok (.aload_n 1, 1) := by decide +kernel
theorem dJ2_clear_33 : decode cJ2_clear 33 = .ok (.iload_n 3, 1) := by decide +kernel
theorem dJ2_clear_34 : decode cJ2_clear 34 = .ok (.aconst_null, 1) := by decide +kernel
theorem dJ2_clear_35 : decode cJ2_clear 35 = .ok (.aastore, 1) := by decide +kernel
theorem dJ2_clear_36 : decode cJ2_clear 36 = .ok (.iinc 3 1, 3) := by decide +kernel
theorem dJ2_clear_39 : decode cJ2_clear 39 = .ok (.goto (-12), 3) := by decide +kernel
theorem dJ2_clear_42 : decode cJ2_clear 42 = .ok (.return_, 1) := by decide +kernel
theorem q119 : (Jvm.Cond.initialized "java/util/ArrayList") ∈ lw_all := lw_g (lw_at lw_m1 7 rfl) rfl
theorem q263 : (Jvm.Cond.instantiable "java/util/ArrayList" (3 : Nat)) ∈ lw_all := lw_g (lw_at lw_m1 151 rfl) rfl
theorem q265 : (Jvm.Cond.instanceMethod ({ cls := "java/util/ArrayList", name := "<init>", desc := "()V" } : Jvm.MethodName)) ∈ lw_all := lw_g (lw_at lw_m1 153 rfl) rfl
theorem q266 : (Jvm.Cond.code ({ cls := "java/util/ArrayList", name := "<init>", desc := "()V" } : Jvm.MethodName) prog_54_method_2_code (1 : Nat) (Option.none : Option Jvm.ClassFile.FieldType)) ∈ lw_all := lw_g (lw_at lw_m1 154 rfl) rfl
theorem q267 : (Jvm.Cond.methodLink "java/util/ArrayList" (1 : Nat) ({ cls := "java/util/AbstractList", name := "<init>", desc := "()V" } : Jvm.MethodName)) ∈ lw_all := lw_g (lw_at lw_m1 155 rfl) rfl
theorem q274 : (Jvm.Cond.fieldLink "java/util/ArrayList" (39 : Nat) "java/util/ArrayList" "DEFAULTCAPACITY_EMPTY_ELEMENTDATA" "[Ljava/lang/Object;") ∈ lw_all := lw_g (lw_at lw_m1 162 rfl) rfl
theorem q275 : (Jvm.Cond.laysStatic "java/util/ArrayList" "DEFAULTCAPACITY_EMPTY_ELEMENTDATA" "[Ljava/lang/Object;") ∈ lw_tbl := lw_at lw_m1 163 rfl
theorem q276 : (Jvm.Cond.fieldLink "java/util/ArrayList" (9 : Nat) "java/util/ArrayList" "elementData" "[Ljava/lang/Object;") ∈ lw_all := lw_g (lw_at lw_m1 164 rfl) rfl
theorem q277 : (Jvm.Cond.fieldLink "java/util/ArrayList" (48 : Nat) "java/util/ArrayList" "size" "I") ∈ lw_all := lw_g (lw_at lw_m1 165 rfl) rfl
theorem q279 : (Jvm.Cond.fieldLink "java/util/ArrayList" (63 : Nat) "java/util/ArrayList" "modCount" "I") ∈ lw_all := lw_g (lw_at lw_m1 167 rfl) rfl
theorem q280 : (Jvm.Cond.sameField "java/util/ArrayList" "java/util/AbstractList" "modCount" "I") ∈ lw_all := lw_g (lw_at lw_m1 168 rfl) rfl
theorem q281 : (Jvm.Cond.lays "java/util/ArrayList" "java/util/ArrayList" "elementData" "[Ljava/lang/Object;") ∈ lw_all := lw_g (lw_at lw_m1 169 rfl) rfl
theorem q282 : (Jvm.Cond.soleField "java/util/ArrayList" "elementData") ∈ lw_all := lw_g (lw_at lw_m1 170 rfl) rfl
theorem q283 : (Jvm.Cond.lays "java/util/ArrayList" "java/util/ArrayList" "size" "I") ∈ lw_all := lw_g (lw_at lw_m1 171 rfl) rfl
theorem q284 : (Jvm.Cond.soleField "java/util/ArrayList" "size") ∈ lw_all := lw_g (lw_at lw_m1 172 rfl) rfl
theorem q285 : (Jvm.Cond.lays "java/util/ArrayList" "java/util/AbstractList" "modCount" "I") ∈ lw_all := lw_g (lw_at lw_m1 173 rfl) rfl
theorem q287 : (Jvm.Cond.superclass "java/util/ArrayList" "java/util/AbstractList") ∈ lw_all := lw_g (lw_at lw_m1 175 rfl) rfl
theorem q1080 : (Jvm.Cond.instanceMethod ({ cls := "java/util/ArrayList", name := "add", desc := "(Ljava/lang/Object;)Z" } : Jvm.MethodName)) ∈ lw_all := lw_g (lw_at lw_m5 8 rfl) rfl
theorem q1081 : (Jvm.Cond.selects "java/util/ArrayList" ({ cls := "java/util/ArrayList", name := "add", desc := "(Ljava/lang/Object;)Z" } : Jvm.MethodName) ({ cls := "java/util/ArrayList", name := "add", desc := "(Ljava/lang/Object;)Z" } : Jvm.MethodName)) ∈ lw_all := lw_g (lw_at lw_m5 9 rfl) rfl
theorem q1082 : (Jvm.Cond.code ({ cls := "java/util/ArrayList", name := "add", desc := "(Ljava/lang/Object;)Z" } : Jvm.MethodName) prog_54_method_25_code (2 : Nat) (Option.some Jvm.ClassFile.FieldType.boolean)) ∈ lw_all := lw_g (lw_at lw_m5 10 rfl) rfl
theorem q1083 : (Jvm.Cond.methodLink "java/util/ArrayList" (131 : Nat) ({ cls := "java/util/ArrayList", name := "add", desc := "(Ljava/lang/Object;[Ljava/lang/Object;I)V" } : Jvm.MethodName)) ∈ lw_all := lw_g (lw_at lw_m5 11 rfl) rfl
theorem q1084 : (Jvm.Cond.privateMethod ({ cls := "java/util/ArrayList", name := "add", desc := "(Ljava/lang/Object;[Ljava/lang/Object;I)V" } : Jvm.MethodName)) ∈ lw_tbl := lw_at lw_m5 12 rfl
theorem q1085 : (Jvm.Cond.instanceMethod ({ cls := "java/util/ArrayList", name := "add", desc := "(Ljava/lang/Object;[Ljava/lang/Object;I)V" } : Jvm.MethodName)) ∈ lw_all := lw_g (lw_at lw_m5 13 rfl) rfl
theorem q1086 : (Jvm.Cond.code ({ cls := "java/util/ArrayList", name := "add", desc := "(Ljava/lang/Object;[Ljava/lang/Object;I)V" } : Jvm.MethodName) prog_54_method_24_code (4 : Nat) (Option.none : Option Jvm.ClassFile.FieldType)) ∈ lw_all := lw_g (lw_at lw_m5 14 rfl) rfl
theorem q1087 : (Jvm.Cond.methodLink "java/util/ArrayList" (129 : Nat) ({ cls := "java/util/ArrayList", name := "grow", desc := "()[Ljava/lang/Object;" } : Jvm.MethodName)) ∈ lw_all := lw_g (lw_at lw_m5 15 rfl) rfl
theorem q1088 : (Jvm.Cond.privateMethod ({ cls := "java/util/ArrayList", name := "grow", desc := "()[Ljava/lang/Object;" } : Jvm.MethodName)) ∈ lw_tbl := lw_at lw_m5 16 rfl
theorem q1089 : (Jvm.Cond.instanceMethod ({ cls := "java/util/ArrayList", name := "grow", desc := "()[Ljava/lang/Object;" } : Jvm.MethodName)) ∈ lw_all := lw_g (lw_at lw_m5 17 rfl) rfl
theorem q1090 : (Jvm.Cond.code ({ cls := "java/util/ArrayList", name := "grow", desc := "()[Ljava/lang/Object;" } : Jvm.MethodName) prog_54_method_7_code (1 : Nat) (Option.some (Jvm.ClassFile.FieldType.array (Jvm.ClassFile.FieldType.object "java/lang/Object")))) ∈ lw_all := lw_g (lw_at lw_m5 18 rfl) rfl
theorem q1091 : (Jvm.Cond.methodLink "java/util/ArrayList" (69 : Nat) ({ cls := "java/util/ArrayList", name := "grow", desc := "(I)[Ljava/lang/Object;" } : Jvm.MethodName)) ∈ lw_all := lw_g (lw_at lw_m5 19 rfl) rfl
theorem q1092 : (Jvm.Cond.privateMethod ({ cls := "java/util/ArrayList", name := "grow", desc := "(I)[Ljava/lang/Object;" } : Jvm.MethodName)) ∈ lw_tbl := lw_at lw_m5 20 rfl
theorem q1093 : (Jvm.Cond.instanceMethod ({ cls := "java/util/ArrayList", name := "grow", desc := "(I)[Ljava/lang/Object;" } : Jvm.MethodName)) ∈ lw_all := lw_g (lw_at lw_m5 21 rfl) rfl
theorem q1094 : (Jvm.Cond.code ({ cls := "java/util/ArrayList", name := "grow", desc := "(I)[Ljava/lang/Object;" } : Jvm.MethodName) prog_54_method_6_code (4 : Nat) (Option.some (Jvm.ClassFile.FieldType.array (Jvm.ClassFile.FieldType.object "java/lang/Object")))) ∈ lw_all := lw_g (lw_at lw_m5 22 rfl) rfl
theorem q1095 : (Jvm.Cond.methodLink "java/util/ArrayList" (73 : Nat) ({ cls := "jdk/internal/util/ArraysSupport", name := "newLength", desc := "(III)I" } : Jvm.MethodName)) ∈ lw_all := lw_g (lw_at lw_m5 23 rfl) rfl
theorem q1096 : (Jvm.Cond.methodLink "java/util/ArrayList" (66 : Nat) ({ cls := "java/util/Arrays", name := "copyOf", desc := "([Ljava/lang/Object;I)[Ljava/lang/Object;" } : Jvm.MethodName)) ∈ lw_all := lw_g (lw_at lw_m5 24 rfl) rfl
theorem q1131 : (Jvm.Cond.selects "java/util/ArrayList" ({ cls := "java/lang/Object", name := "getClass", desc := "()Ljava/lang/Class;" } : Jvm.MethodName) ({ cls := "java/lang/Object", name := "getClass", desc := "()Ljava/lang/Class;" } : Jvm.MethodName)) ∈ lw_all := lw_g (lw_at lw_m5 59 rfl) rfl
theorem q1140 : (Jvm.Cond.methodLink "java/util/ArrayList" (79 : Nat) ({ cls := "java/lang/Math", name := "max", desc := "(II)I" } : Jvm.MethodName)) ∈ lw_all := lw_g (lw_at lw_m5 68 rfl) rfl
theorem q1141 : (Jvm.Cond.classLink "java/util/ArrayList" (7 : Nat) "java/lang/Object") ∈ lw_all := lw_g (lw_at lw_m5 69 rfl) rfl
theorem q1143 : (Jvm.Cond.instanceMethod ({ cls := "java/util/ArrayList", name := "size", desc := "()I" } : Jvm.MethodName)) ∈ lw_all := lw_g (lw_at lw_m5 71 rfl) rfl
theorem q1144 : (Jvm.Cond.selects "java/util/ArrayList" ({ cls := "java/util/ArrayList", name := "size", desc := "()I" } : Jvm.MethodName) ({ cls := "java/util/ArrayList", name := "size", desc := "()I" } : Jvm.MethodName)) ∈ lw_all := lw_g (lw_at lw_m5 72 rfl) rfl
theorem q1145 : (Jvm.Cond.code ({ cls := "java/util/ArrayList", name := "size", desc := "()I" } : Jvm.MethodName) prog_54_method_8_code (1 : Nat) (Option.some Jvm.ClassFile.FieldType.int)) ∈ lw_all := lw_g (lw_at lw_m5 73 rfl) rfl
theorem q1147 : (Jvm.Cond.instanceMethod ({ cls := "java/util/ArrayList", name := "remove", desc := "(I)Ljava/lang/Object;" } : Jvm.MethodName)) ∈ lw_all := lw_g (lw_at lw_m5 75 rfl) rfl
theorem q1148 : (Jvm.Cond.selects "java/util/ArrayList" ({ cls := "java/util/ArrayList", name := "remove", desc := "(I)Ljava/lang/Object;" } : Jvm.MethodName) ({ cls := "java/util/ArrayList", name := "remove", desc := "(I)Ljava/lang/Object;" } : Jvm.MethodName)) ∈ lw_all := lw_g (lw_at lw_m5 76 rfl) rfl
theorem q1149 : (Jvm.Cond.code ({ cls := "java/util/ArrayList", name := "remove", desc := "(I)Ljava/lang/Object;" } : Jvm.MethodName) prog_54_method_29_code (4 : Nat) (Option.some (Jvm.ClassFile.FieldType.object "java/lang/Object"))) ∈ lw_all := lw_g (lw_at lw_m5 77 rfl) rfl
theorem q1150 : (Jvm.Cond.methodLink "java/util/ArrayList" (118 : Nat) ({ cls := "java/util/Objects", name := "checkIndex", desc := "(II)I" } : Jvm.MethodName)) ∈ lw_all := lw_g (lw_at lw_m5 78 rfl) rfl
theorem q1154 : (Jvm.Cond.methodLink "java/util/ArrayList" (144 : Nat) ({ cls := "java/util/ArrayList", name := "fastRemove", desc := "([Ljava/lang/Object;I)V" } : Jvm.MethodName)) ∈ lw_all := lw_g (lw_at lw_m5 82 rfl) rfl
theorem q1155 : (Jvm.Cond.privateMethod ({ cls := "java/util/ArrayList", name := "fastRemove", desc := "([Ljava/lang/Object;I)V" } : Jvm.MethodName)) ∈ lw_tbl := lw_at lw_m5 83 rfl
theorem q1156 : (Jvm.Cond.instanceMethod ({ cls := "java/util/ArrayList", name := "fastRemove", desc := "([Ljava/lang/Object;I)V" } : Jvm.MethodName)) ∈ lw_all := lw_g (lw_at lw_m5 84 rfl) rfl
theorem q1157 : (Jvm.Cond.code ({ cls := "java/util/ArrayList", name := "fastRemove", desc := "([Ljava/lang/Object;I)V" } : Jvm.MethodName) prog_54_method_39_code (4 : Nat) (Option.none : Option Jvm.ClassFile.FieldType)) ∈ lw_all := lw_g (lw_at lw_m5 85 rfl) rfl
theorem q1158 : (Jvm.Cond.methodLink "java/util/ArrayList" (112 : Nat) ({ cls := "java/lang/System", name := "arraycopy", desc := "(Ljava/lang/Object;ILjava/lang/Object;II)V" } : Jvm.MethodName)) ∈ lw_all := lw_g (lw_at lw_m5 86 rfl) rfl
theorem q1229 : (Jvm.Cond.instanceMethod ({ cls := "java/util/ArrayList", name := "get", desc := "(I)Ljava/lang/Object;" } : Jvm.MethodName)) ∈ lw_all := lw_g (lw_at lw_m5 157 rfl) rfl
theorem q1230 : (Jvm.Cond.selects "java/util/ArrayList" ({ cls := "java/util/ArrayList", name := "get", desc := "(I)Ljava/lang/Object;" } : Jvm.MethodName) ({ cls := "java/util/ArrayList", name := "get", desc := "(I)Ljava/lang/Object;" } : Jvm.MethodName)) ∈ lw_all := lw_g (lw_at lw_m5 158 rfl) rfl
theorem q1231 : (Jvm.Cond.code ({ cls := "java/util/ArrayList", name := "get", desc := "(I)Ljava/lang/Object;" } : Jvm.MethodName) prog_54_method_20_code (2 : Nat) (Option.some (Jvm.ClassFile.FieldType.object "java/lang/Object"))) ∈ lw_all := lw_g (lw_at lw_m5 159 rfl) rfl
theorem q1232 : (Jvm.Cond.methodLink "java/util/ArrayList" (123 : Nat) ({ cls := "java/util/ArrayList", name := "elementData", desc := "(I)Ljava/lang/Object;" } : Jvm.MethodName)) ∈ lw_all := lw_g (lw_at lw_m5 160 rfl) rfl
theorem q1233 : (Jvm.Cond.instanceMethod ({ cls := "java/util/ArrayList", name := "elementData", desc := "(I)Ljava/lang/Object;" } : Jvm.MethodName)) ∈ lw_all := lw_g (lw_at lw_m5 161 rfl) rfl
theorem q1234 : (Jvm.Cond.selects "java/util/ArrayList" ({ cls := "java/util/ArrayList", name := "elementData", desc := "(I)Ljava/lang/Object;" } : Jvm.MethodName) ({ cls := "java/util/ArrayList", name := "elementData", desc := "(I)Ljava/lang/Object;" } : Jvm.MethodName)) ∈ lw_all := lw_g (lw_at lw_m5 162 rfl) rfl
theorem q1235 : (Jvm.Cond.code ({ cls := "java/util/ArrayList", name := "elementData", desc := "(I)Ljava/lang/Object;" } : Jvm.MethodName) prog_54_method_18_code (2 : Nat) (Option.some (Jvm.ClassFile.FieldType.object "java/lang/Object"))) ∈ lw_all := lw_g (lw_at lw_m5 163 rfl) rfl
theorem q1282 : (Jvm.Cond.instanceMethod ({ cls := "java/util/ArrayList", name := "<init>", desc := "(I)V" } : Jvm.MethodName)) ∈ lw_all := lw_g (lw_at lw_m5 210 rfl) rfl
theorem q1283 : (Jvm.Cond.code ({ cls := "java/util/ArrayList", name := "<init>", desc := "(I)V" } : Jvm.MethodName) prog_54_method_1_code (2 : Nat) (Option.none : Option Jvm.ClassFile.FieldType)) ∈ lw_all := lw_g (lw_at lw_m5 211 rfl) rfl
theorem q1284 : (Jvm.Cond.fieldLink "java/util/ArrayList" (15 : Nat) "java/util/ArrayList" "EMPTY_ELEMENTDATA" "[Ljava/lang/Object;") ∈ lw_all := lw_g (lw_at lw_m5 212 rfl) rfl
theorem q1285 : (Jvm.Cond.laysStatic "java/util/ArrayList" "EMPTY_ELEMENTDATA" "[Ljava/lang/Object;") ∈ lw_tbl := lw_at lw_m5 213 rfl
theorem q1286 : (Jvm.Cond.classLink "java/util/ArrayList" (18 : Nat) "java/lang/IllegalArgumentException") ∈ lw_all := lw_g (lw_at lw_m5 214 rfl) rfl
theorem q1287 : (Jvm.Cond.classLink "java/util/ArrayList" (20 : Nat) "java/lang/StringBuilder") ∈ lw_all := lw_g (lw_at lw_m5 215 rfl) rfl
theorem q1288 : (Jvm.Cond.methodLink "java/util/ArrayList" (22 : Nat) ({ cls := "java/lang/StringBuilder", name := "<init>", desc := "()V" } : Jvm.MethodName)) ∈ lw_all := lw_g (lw_at lw_m5 216 rfl) rfl
theorem q1289 : (Jvm.Cond.stringRef "java/util/ArrayList" (23 : Nat) "Illegal Capacity: ") ∈ lw_tbl := lw_at lw_m5 217 rfl
theorem q1290 : (Jvm.Cond.methodLink "java/util/ArrayList" (25 : Nat) ({ cls := "java/lang/StringBuilder", name := "append", desc := "(Ljava/lang/String;)Ljava/lang/StringBuilder;" } : Jvm.MethodName)) ∈ lw_all := lw_g (lw_at lw_m5 218 rfl) rfl
theorem q1291 : (Jvm.Cond.methodLink "java/util/ArrayList" (29 : Nat) ({ cls := "java/lang/StringBuilder", name := "append", desc := "(I)Ljava/lang/StringBuilder;" } : Jvm.MethodName)) ∈ lw_all := lw_g (lw_at lw_m5 219 rfl) rfl
theorem q1292 : (Jvm.Cond.methodLink "java/util/ArrayList" (32 : Nat) ({ cls := "java/lang/StringBuilder", name := "toString", desc := "()Ljava/lang/String;" } : Jvm.MethodName)) ∈ lw_all := lw_g (lw_at lw_m5 220 rfl) rfl
theorem q1293 : (Jvm.Cond.methodLink "java/util/ArrayList" (36 : Nat) ({ cls := "java/lang/IllegalArgumentException", name := "<init>", desc := "(Ljava/lang/String;)V" } : Jvm.MethodName)) ∈ lw_all := lw_g (lw_at lw_m5 221 rfl) rfl
theorem q1865 : (Jvm.Cond.instanceMethod ({ cls := "java/util/ArrayList", name := "clear", desc := "()V" } : Jvm.MethodName)) ∈ lw_all := lw_g (lw_at lw_m8 73 rfl) rfl
theorem q1866 : (Jvm.Cond.selects "java/util/ArrayList" ({ cls := "java/util/ArrayList", name := "clear", desc := "()V" } : Jvm.MethodName) ({ cls := "java/util/ArrayList", name := "clear", desc := "()V" } : Jvm.MethodName)) ∈ lw_all := lw_g (lw_at lw_m8 74 rfl) rfl
theorem q1867 : (Jvm.Cond.code ({ cls := "java/util/ArrayList", name := "clear", desc := "()V" } : Jvm.MethodName) prog_54_method_40_code (4 : Nat) (Option.none : Option Jvm.ClassFile.FieldType)) ∈ lw_all := lw_g (lw_at lw_m8 75 rfl) rfl
theorem q2577 : (Jvm.Cond.castable "java/util/ArrayList" "java/lang/Object") ∈ lw_tbl := lw_at lw_m11 65 rfl
theorem in_J2 : ∀ w ∈ wsJ20, w ∈ lw_all := lw_in wsJ20 [285, 281, 283] (by decide +kernel) (by decide +kernel)

/-! java/util/NoSuchElementException -/
set_option maxRecDepth 100000
def RJ20 : String := "java/util/NoSuchElementException"
def TJ20 : u_T := fun k => match k with
  | 0 => ("java/lang/Throwable", "cause", "Ljava/lang/Throwable;", false)
  | 1 => ("java/lang/Throwable", "stackTrace", "[Ljava/lang/StackTraceElement;", false)
  | 2 => ("java/lang/Throwable", "suppressedExceptions", "Ljava/util/List;", false)
  | 3 => ("java/lang/Throwable", "detailMessage", "Ljava/lang/String;", false)
  | 4 => ("java/lang/Throwable", "backtrace", "Ljava/lang/Object;", false)
  | _ => ("java/lang/Throwable", "depth", "I", false)
def tyJ20 : Nat → FieldType := fun k => match k with
  | 0 => .object "java/lang/Throwable"
  | 1 => .array (.object "java/lang/StackTraceElement")
  | 2 => .object "java/util/List"
  | 3 => .object "java/lang/String"
  | 4 => .object "java/lang/Object"
  | _ => .int
abbrev wsJ200 : List Cond := u_ws RJ20 TJ20 6
theorem nmJ20 : ∀ a, a < 6 → ∀ b, b < 6 → a ≠ b → (TJ20 a).2.1 ≠ (TJ20 b).2.1 := by decide +kernel
theorem tyJ20_ok : ∀ k, k < 6 → parseFieldDescriptor (TJ20 k).2.2.1 = some (tyJ20 k) := by decide +kernel
abbrev cJ20_init : ByteArray := prog_58_method_1_code
def yJ20_init : MethodName := ⟨RJ20, "<init>", "()V"⟩
theorem dJ20_init_0 : decode cJ20_init 0 = .ok (.aload_n 0, 1) := by decide +kernel
theorem dJ20_init_1 : decode cJ20_init 1 = .ok (.invokespecial 1, 3) := by decide +kernel
theorem dJ20_init_4 : decode cJ20_init 4 = .ok (.return_, 1) := by decide +kernel
theorem q160 : (Jvm.Cond.initialized "java/util/NoSuchElementException") ∈ lw_all := lw_g (lw_at lw_m1 48 rfl) rfl
theorem q414 : (Jvm.Cond.selects "java/util/NoSuchElementException" ({ cls := "java/lang/Throwable", name := "fillInStackTrace", desc := "()Ljava/lang/Throwable;" } : Jvm.MethodName) ({ cls := "java/lang/Throwable", name := "fillInStackTrace", desc := "()Ljava/lang/Throwable;" } : Jvm.MethodName)) ∈ lw_all := lw_g (lw_at lw_m2 62 rfl) rfl
theorem q1132 : (Jvm.Cond.selects "java/util/NoSuchElementException" ({ cls := "java/lang/Object", name := "getClass", desc := "()Ljava/lang/Class;" } : Jvm.MethodName) ({ cls := "java/lang/Object", name := "getClass", desc := "()Ljava/lang/Class;" } : Jvm.MethodName)) ∈ lw_all := lw_g (lw_at lw_m5 60 rfl) rfl
theorem q1843 : (Jvm.Cond.instantiable "java/util/NoSuchElementException" (6 : Nat)) ∈ lw_all := lw_g (lw_at lw_m8 51 rfl) rfl
theorem q1844 : (Jvm.Cond.castable "java/util/NoSuchElementException" "java/util/NoSuchElementException") ∈ lw_tbl := lw_at lw_m8 52 rfl
theorem q1845 : (Jvm.Cond.selects "java/util/NoSuchElementException" ({ cls := "java/lang/Throwable", name := "fillInStackTrace", desc := "(I)Ljava/lang/Throwable;" } : Jvm.MethodName) ({ cls := "java/lang/Throwable", name := "fillInStackTrace", desc := "(I)Ljava/lang/Throwable;" } : Jvm.MethodName)) ∈ lw_all := lw_g (lw_at lw_m8 53 rfl) rfl
theorem q1846 : (Jvm.Cond.lays "java/util/NoSuchElementException" "java/lang/Throwable" "cause" "Ljava/lang/Throwable;") ∈ lw_all := lw_g (lw_at lw_m8 54 rfl) rfl
theorem q1847 : (Jvm.Cond.lays "java/util/NoSuchElementException" "java/lang/Throwable" "stackTrace" "[Ljava/lang/StackTraceElement;") ∈ lw_all := lw_g (lw_at lw_m8 55 rfl) rfl
theorem q1848 : (Jvm.Cond.lays "java/util/NoSuchElementException" "java/lang/Throwable" "suppressedExceptions" "Ljava/util/List;") ∈ lw_all := lw_g (lw_at lw_m8 56 rfl) rfl
theorem q1849 : (Jvm.Cond.lays "java/util/NoSuchElementException" "java/lang/Throwable" "detailMessage" "Ljava/lang/String;") ∈ lw_all := lw_g (lw_at lw_m8 57 rfl) rfl
theorem q1850 : (Jvm.Cond.lays "java/util/NoSuchElementException" "java/lang/Throwable" "backtrace" "Ljava/lang/Object;") ∈ lw_all := lw_g (lw_at lw_m8 58 rfl) rfl
theorem q1852 : (Jvm.Cond.instanceMethod ({ cls := "java/util/NoSuchElementException", name := "<init>", desc := "()V" } : Jvm.MethodName)) ∈ lw_all := lw_g (lw_at lw_m8 60 rfl) rfl
theorem q1853 : (Jvm.Cond.code ({ cls := "java/util/NoSuchElementException", name := "<init>", desc := "()V" } : Jvm.MethodName) prog_58_method_1_code (1 : Nat) (Option.none : Option Jvm.ClassFile.FieldType)) ∈ lw_all := lw_g (lw_at lw_m8 61 rfl) rfl
theorem q1854 : (Jvm.Cond.methodLink "java/util/NoSuchElementException" (1 : Nat) ({ cls := "java/lang/RuntimeException", name := "<init>", desc := "()V" } : Jvm.MethodName)) ∈ lw_all := lw_g (lw_at lw_m8 62 rfl) rfl
theorem q1855 : (Jvm.Cond.lays "java/util/NoSuchElementException" "java/lang/Throwable" "depth" "I") ∈ lw_all := lw_g (lw_at lw_m8 63 rfl) rfl
theorem q1856 : (Jvm.Cond.superclass "java/util/NoSuchElementException" "java/lang/RuntimeException") ∈ lw_all := lw_g (lw_at lw_m8 64 rfl) rfl
theorem q2601 : (Jvm.Cond.castable "java/util/NoSuchElementException" "java/lang/Object") ∈ lw_tbl := lw_at lw_m11 89 rfl
theorem in_J20 : ∀ w ∈ wsJ200, w ∈ lw_all := lw_in wsJ200 [1846, 1847, 1848, 1849, 1850, 1855] (by decide +kernel) (by decide +kernel)

/-! java/lang/IllegalStateException -/
set_option maxRecDepth 100000
def RJ21 : String := "java/lang/IllegalStateException"
def TJ21 : u_T := fun k => match k with
  | 0 => ("java/lang/Throwable", "cause", "Ljava/lang/Throwable;", false)
  | 1 => ("java/lang/Throwable", "stackTrace", "[Ljava/lang/StackTraceElement;", false)
  | 2 => ("java/lang/Throwable", "suppressedExceptions", "Ljava/util/List;", false)
  | 3 => ("java/lang/Throwable", "detailMessage", "Ljava/lang/String;", false)
  | 4 => ("java/lang/Throwable", "backtrace", "Ljava/lang/Object;", false)
  | _ => ("java/lang/Throwable", "depth", "I", false)
def tyJ21 : Nat → FieldType := fun k => match k with
  | 0 => .object "java/lang/Throwable"
  | 1 => .array (.object "java/lang/StackTraceElement")
  | 2 => .object "java/util/List"
  | 3 => .object "java/lang/String"
  | 4 => .object "java/lang/Object"
  | _ => .int
abbrev wsJ210 : List Cond := u_ws RJ21 TJ21 6
theorem nmJ21 : ∀ a, a < 6 → ∀ b, b < 6 → a ≠ b → (TJ21 a).2.1 ≠ (TJ21 b).2.1 := by decide +kernel
theorem tyJ21_ok : ∀ k, k < 6 → parseFieldDescriptor (TJ21 k).2.2.1 = some (tyJ21 k) := by decide +kernel
abbrev cJ21_init : ByteArray := prog_37_method_1_code
def yJ21_init : MethodName := ⟨RJ21, "<init>", "()V"⟩
theorem dJ21_init_0 : decode cJ21_init 0 = .ok (.aload_n 0, 1) := by decide +kernel
theorem dJ21_init_1 : decode cJ21_init 1 = .ok (.invokespecial 1, 3) := by decide +kernel
theorem dJ21_init_4 : decode cJ21_init 4 = .ok (.return_, 1) := by decide +kernel
theorem q161 : (Jvm.Cond.initialized "java/lang/IllegalStateException") ∈ lw_all := lw_g (lw_at lw_m1 49 rfl) rfl
theorem q413 : (Jvm.Cond.selects "java/lang/IllegalStateException" ({ cls := "java/lang/Throwable", name := "fillInStackTrace", desc := "()Ljava/lang/Throwable;" } : Jvm.MethodName) ({ cls := "java/lang/Throwable", name := "fillInStackTrace", desc := "()Ljava/lang/Throwable;" } : Jvm.MethodName)) ∈ lw_all := lw_g (lw_at lw_m2 61 rfl) rfl
theorem q1127 : (Jvm.Cond.selects "java/lang/IllegalStateException" ({ cls := "java/lang/Object", name := "getClass", desc := "()Ljava/lang/Class;" } : Jvm.MethodName) ({ cls := "java/lang/Object", name := "getClass", desc := "()Ljava/lang/Class;" } : Jvm.MethodName)) ∈ lw_all := lw_g (lw_at lw_m5 55 rfl) rfl
theorem q1955 : (Jvm.Cond.instantiable "java/lang/IllegalStateException" (6 : Nat)) ∈ lw_all := lw_g (lw_at lw_m8 163 rfl) rfl
theorem q1956 : (Jvm.Cond.castable "java/lang/IllegalStateException" "java/lang/IllegalStateException") ∈ lw_tbl := lw_at lw_m8 164 rfl
theorem q1957 : (Jvm.Cond.selects "java/lang/IllegalStateException" ({ cls := "java/lang/Throwable", name := "fillInStackTrace", desc := "(I)Ljava/lang/Throwable;" } : Jvm.MethodName) ({ cls := "java/lang/Throwable", name := "fillInStackTrace", desc := "(I)Ljava/lang/Throwable;" } : Jvm.MethodName)) ∈ lw_all := lw_g (lw_at lw_m8 165 rfl) rfl
theorem q1958 : (Jvm.Cond.lays "java/lang/IllegalStateException" "java/lang/Throwable" "cause" "Ljava/lang/Throwable;") ∈ lw_all := lw_g (lw_at lw_m8 166 rfl) rfl
theorem q1959 : (Jvm.Cond.lays "java/lang/IllegalStateException" "java/lang/Throwable" "stackTrace" "[Ljava/lang/StackTraceElement;") ∈ lw_all := lw_g (lw_at lw_m8 167 rfl) rfl
theorem q1960 : (Jvm.Cond.lays "java/lang/IllegalStateException" "java/lang/Throwable" "suppressedExceptions" "Ljava/util/List;") ∈ lw_all := lw_g (lw_at lw_m8 168 rfl) rfl
theorem q1961 : (Jvm.Cond.lays "java/lang/IllegalStateException" "java/lang/Throwable" "detailMessage" "Ljava/lang/String;") ∈ lw_all := lw_g (lw_at lw_m8 169 rfl) rfl
theorem q1962 : (Jvm.Cond.lays "java/lang/IllegalStateException" "java/lang/Throwable" "backtrace" "Ljava/lang/Object;") ∈ lw_all := lw_g (lw_at lw_m8 170 rfl) rfl
theorem q1964 : (Jvm.Cond.instanceMethod ({ cls := "java/lang/IllegalStateException", name := "<init>", desc := "()V" } : Jvm.MethodName)) ∈ lw_all := lw_g (lw_at lw_m8 172 rfl) rfl
theorem q1965 : (Jvm.Cond.code ({ cls := "java/lang/IllegalStateException", name := "<init>", desc := "()V" } : Jvm.MethodName) prog_37_method_1_code (1 : Nat) (Option.none : Option Jvm.ClassFile.FieldType)) ∈ lw_all := lw_g (lw_at lw_m8 173 rfl) rfl
theorem q1966 : (Jvm.Cond.methodLink "java/lang/IllegalStateException" (1 : Nat) ({ cls := "java/lang/RuntimeException", name := "<init>", desc := "()V" } : Jvm.MethodName)) ∈ lw_all := lw_g (lw_at lw_m8 174 rfl) rfl
theorem q1967 : (Jvm.Cond.lays "java/lang/IllegalStateException" "java/lang/Throwable" "depth" "I") ∈ lw_all := lw_g (lw_at lw_m8 175 rfl) rfl
theorem q1968 : (Jvm.Cond.superclass "java/lang/IllegalStateException" "java/lang/RuntimeException") ∈ lw_all := lw_g (lw_at lw_m8 176 rfl) rfl
theorem q2602 : (Jvm.Cond.castable "java/lang/IllegalStateException" "java/lang/Object") ∈ lw_tbl := lw_at lw_m11 90 rfl
theorem in_J21 : ∀ w ∈ wsJ210, w ∈ lw_all := lw_in wsJ210 [1958, 1959, 1960, 1961, 1962, 1967] (by decide +kernel) (by decide +kernel)

/-! java/lang/Object -/
set_option maxRecDepth 100000
def RJ22 : String := "java/lang/Object"
abbrev cJ22_init : ByteArray := object_method_1_code
def yJ22_init : MethodName := ⟨RJ22, "<init>", "()V"⟩
theorem dJ22_init_0 : decode cJ22_init 0 = .ok (.return_, 1) := by decide +kernel
theorem q168 : (Jvm.Cond.instanceMethod ({ cls := "java/lang/Object", name := "<init>", desc := "()V" } : Jvm.MethodName)) ∈ lw_all := lw_g (lw_at lw_m1 56 rfl) rfl
theorem q169 : (Jvm.Cond.code ({ cls := "java/lang/Object", name := "<init>", desc := "()V" } : Jvm.MethodName) object_method_1_code (1 : Nat) (Option.none : Option Jvm.ClassFile.FieldType)) ∈ lw_all := lw_g (lw_at lw_m1 57 rfl) rfl
theorem q582 : (Jvm.Cond.native ({ cls := "java/lang/Object", name := "clone", desc := "()Ljava/lang/Object;" } : Jvm.MethodName)) ∈ lw_all := lw_g (lw_at lw_m2 230 rfl) rfl
theorem q583 : (Jvm.Cond.instanceMethod ({ cls := "java/lang/Object", name := "clone", desc := "()Ljava/lang/Object;" } : Jvm.MethodName)) ∈ lw_all := lw_g (lw_at lw_m2 231 rfl) rfl
theorem q1100 : (Jvm.Cond.instanceMethod ({ cls := "java/lang/Object", name := "getClass", desc := "()Ljava/lang/Class;" } : Jvm.MethodName)) ∈ lw_all := lw_g (lw_at lw_m5 28 rfl) rfl
theorem q1101 : (Jvm.Cond.sameMethod "java/lang/Object" "java/lang/Object" "getClass" "()Ljava/lang/Class;") ∈ lw_all := lw_g (lw_at lw_m5 29 rfl) rfl
theorem q1133 : (Jvm.Cond.native ({ cls := "java/lang/Object", name := "getClass", desc := "()Ljava/lang/Class;" } : Jvm.MethodName)) ∈ lw_all := lw_g (lw_at lw_m5 61 rfl) rfl
theorem q2606 : (Jvm.Cond.declares ({ cls := "java/lang/Object", name := "getClass", desc := "()Ljava/lang/Class;" } : Jvm.MethodName)) ∈ lw_tbl := lw_at lw_m11 94 rfl

/-! java/lang/System$2 -/
set_option maxRecDepth 100000
def RJ23 : String := "java/lang/System$2"
abbrev cJ23_getUTF16Char : ByteArray := prog_48_method_45_code
def yJ23_getUTF16Char : MethodName := ⟨RJ23, "getUTF16Char", "([BI)C"⟩
theorem dJ23_getUTF16Char_0 : decode cJ23_getUTF16Char 0 = .ok (.aload_n 1, 1) := by decide +kernel
theorem dJ23_getUTF16Char_1 : decode cJ23_getUTF16Char 1 = .ok (.iload_n 2, 1) := by decide +kernel
theorem dJ23_getUTF16Char_2 : decode cJ23_getUTF16Char 2 = .ok (.invokestatic 185, 3) := by decide +kernel
theorem dJ23_getUTF16Char_5 : decode cJ23_getUTF16Char 5 = .ok (.ireturn, 1) := by decide +kernel
theorem q826 : (Jvm.Cond.castable "java/lang/System$2" "jdk/internal/access/JavaLangAccess") ∈ lw_tbl := lw_at lw_m3 234 rfl
theorem q827 : (Jvm.Cond.selects "java/lang/System$2" ({ cls := "jdk/internal/access/JavaLangAccess", name := "getUTF16Char", desc := "([BI)C" } : Jvm.MethodName) ({ cls := "java/lang/System$2", name := "getUTF16Char", desc := "([BI)C" } : Jvm.MethodName)) ∈ lw_all := lw_g (lw_at lw_m3 235 rfl) rfl
theorem q828 : (Jvm.Cond.unhidden "java/lang/System$2" "getUTF16Char" "([BI)C") ∈ lw_tbl := lw_at lw_m3 236 rfl
theorem q829 : (Jvm.Cond.instanceMethod ({ cls := "java/lang/System$2", name := "getUTF16Char", desc := "([BI)C" } : Jvm.MethodName)) ∈ lw_all := lw_g (lw_at lw_m3 237 rfl) rfl
theorem q830 : (Jvm.Cond.publicMethod ({ cls := "java/lang/System$2", name := "getUTF16Char", desc := "([BI)C" } : Jvm.MethodName)) ∈ lw_tbl := lw_at lw_m3 238 rfl
theorem q831 : (Jvm.Cond.code ({ cls := "java/lang/System$2", name := "getUTF16Char", desc := "([BI)C" } : Jvm.MethodName) prog_48_method_45_code (3 : Nat) (Option.some Jvm.ClassFile.FieldType.char)) ∈ lw_all := lw_g (lw_at lw_m3 239 rfl) rfl
theorem q832 : (Jvm.Cond.methodLink "java/lang/System$2" (185 : Nat) ({ cls := "java/lang/StringUTF16", name := "getChar", desc := "([BI)C" } : Jvm.MethodName)) ∈ lw_all := lw_g (lw_at lw_m4 0 rfl) rfl
theorem q1130 : (Jvm.Cond.selects "java/lang/System$2" ({ cls := "java/lang/Object", name := "getClass", desc := "()Ljava/lang/Class;" } : Jvm.MethodName) ({ cls := "java/lang/Object", name := "getClass", desc := "()Ljava/lang/Class;" } : Jvm.MethodName)) ∈ lw_all := lw_g (lw_at lw_m5 58 rfl) rfl
theorem q2583 : (Jvm.Cond.castable "java/lang/System$2" "java/lang/Object") ∈ lw_tbl := lw_at lw_m11 71 rfl

/-! java/lang/String -/
set_option maxRecDepth 100000
def RJ3 : String := "java/lang/String"
def TJ3 : u_T := fun k => match k with
  | 0 => ("java/lang/String", "value", "[B", true)
  | 1 => ("java/lang/String", "coder", "B", true)
  | 2 => ("java/lang/String", "hash", "I", false)
  | _ => ("java/lang/String", "hashIsZero", "Z", false)
def tyJ3 : Nat → FieldType := fun k => match k with
  | 0 => .array .byte
  | 1 => .byte
  | 2 => .int
  | _ => .boolean
abbrev wsJ30 : List Cond := u_ws RJ3 TJ3 4
theorem nmJ3 : ∀ a, a < 4 → ∀ b, b < 4 → a ≠ b → (TJ3 a).2.1 ≠ (TJ3 b).2.1 := by decide +kernel
theorem tyJ3_ok : ∀ k, k < 4 → parseFieldDescriptor (TJ3 k).2.2.1 = some (tyJ3 k) := by decide +kernel
abbrev cJ3_checkBoundsOffCount : ByteArray := prog_43_method_157_code
def yJ3_checkBoundsOffCount : MethodName := ⟨RJ3, "checkBoundsOffCount", "(III)I"⟩
theorem dJ3_checkBoundsOffCount_0 : decode cJ3_checkBoundsOffCount 0 = .ok (.iload_n 0, 1) := by decide +kernel
theorem dJ3_checkBoundsOffCount_1 : decode cJ3_checkBoundsOffCount 1 = .ok (.iload_n 1, 1) := by decide +kernel
theorem dJ3_checkBoundsOffCount_2 : decode cJ3_checkBoundsOffCount 2 = .ok (.iload_n 2, 1) := by decide +kernel
theorem dJ3_checkBoundsOffCount_3 : decode cJ3_checkBoundsOffCount 3 = .ok (.getstatic 1053, 3) := by decide +kernel
theorem dJ3_checkBoundsOffCount_6 : decode cJ3_checkBoundsOffCount 6 = .ok (.invokestatic 1065, 3) := by decide +kernel
theorem dJ3_checkBoundsOffCount_9 : decode cJ3_checkBoundsOffCount 9 = .ok (.ireturn, 1) := by decide +kernel
abbrev cJ3_checkIndex : ByteArray := prog_43_method_155_code
def yJ3_checkIndex : MethodName := ⟨RJ3, "checkIndex", "(II)V"⟩
theorem dJ3_checkIndex_0 : decode cJ3_checkIndex 0 = .ok (.iload_n 0, 1) := by decide +kernel
theorem dJ3_checkIndex_1 : decode cJ3_checkIndex 1 = .ok (.iload_n 1, 1) := by decide +kernel
theorem dJ3_checkIndex_2 : decode cJ3_checkIndex 2 = .ok (.getstatic 1053, 3) := by decide +kernel
theorem dJ3_checkIndex_5 : decode cJ3_checkIndex 5 = .ok (.invokestatic 1059, 3) := by decide +kernel
theorem dJ3_checkIndex_8 : decode cJ3_checkIndex 8 = .ok (.pop, 1) := by decide +kernel
theorem dJ3_checkIndex_9 : decode cJ3_checkIndex 9 = .ok (.return_, 1) := by decide +kernel
abbrev cJ3_init : ByteArray := prog_43_method_53_code
def yJ3_init : MethodName := ⟨RJ3, "<init>", "(Ljava/lang/StringBuilder;)V"⟩
theorem dJ3_init_0 : decode cJ3_init 0 = .ok (.aload_n 0, 1) := by decide +kernel
theorem dJ3_init_1 : decode cJ3_init 1 = .ok (.aload_n 1, 1) := by decide +kernel
theorem dJ3_init_2 : decode cJ3_init 2 = .ok (.aconst_null, 1) := by decide +kernel
theorem dJ3_init_3 : decode cJ3_init 3 = .ok (.invokespecial 489, 3) := by decide +kernel
theorem dJ3_init_6 : decode cJ3_init 6 = .ok (.return_, 1) := by decide +kernel
abbrev cJ3_init_2 : ByteArray := prog_43_method_150_code
def yJ3_init_2 : MethodName := ⟨RJ3, "<init>", "(Ljava/lang/AbstractStringBuilder;Ljava/lang/Void;)V"⟩
theorem dJ3_init_2_0 : decode cJ3_init_2 0 = .ok (.aload_n 0, 1) := by decide +kernel
theorem dJ3_init_2_1 : decode cJ3_init_2 1 = .ok (.invokespecial 1, 3) := by decide +kernel
theorem dJ3_init_2_4 : decode cJ3_init_2 4 = .ok (.aload_n 1, 1) := by decide +kernel
theorem dJ3_init_2_5 : decode cJ3_init_2 5 = .ok (.invokevirtual 552, 3) := by decide +kernel
theorem dJ3_init_2_8 : decode cJ3_init_2 8 = .ok (.astore_n 3, 1) := by decide +kernel
theorem dJ3_init_2_9 : decode cJ3_init_2 9 = .ok (.aload_n 1, 1) := by decide +kernel
theorem dJ3_init_2_10 : decode cJ3_init_2 10 = .ok (.invokevirtual 549, 3) := by decide +kernel
theorem dJ3_init_2_13 : decode cJ3_init_2 13 = .ok (.istore 4, 2) := by decide +kernel
theorem dJ3_init_2_15 : decode cJ3_init_2 15 = .ok (.aload_n 1, 1) := by decide +kernel
theorem dJ3_init_2_16 : decode cJ3_init_2 16 = .ok (.invokevirtual 1047, 3) := by decide +kernel
theorem dJ3_init_2_19 : decode cJ3_init_2 19 = .ok (.ifCond .eq 22, 3) := by decide +kernel
theorem dJ3_init_2_22 : decode cJ3_init_2 22 = .ok (.aload_n 0, 1) := by decide +kernel
theorem dJ3_init_2_23 : decode cJ3_init_2 23 = .ok (.iconst 0, 1) := by decide +kernel
theorem dJ3_init_2_24 : decode cJ3_init_2 24 = .ok (.putfield 15, 3) := by decide +kernel
theorem dJ3_init_2_27 : decode cJ3_init_2 27 = .ok (.aload_n 0, 1) := by decide +kernel
theorem dJ3_init_2_28 : decode cJ3_init_2 28 = .ok (.aload_n 3, 1) := by decide +kernel
theorem dJ3_init_2_29 : decode cJ3_init_2 29 = .ok (.iconst 0, 1) := by decide +kernel
theorem dJ3_init_2_30 : decode cJ3_init_2 30 = .ok (.iload 4, 2) := by decide +kernel
theorem dJ3_init_2_32 : decode cJ3_init_2 32 = .ok (.invokestatic 54, 3) := by decide +kernel
theorem dJ3_init_2_35 : decode cJ3_init_2 35 = .ok (.putfield 9, 3) := by decide +kernel
theorem dJ3_init_2_38 : decode cJ3_init_2 38 = .ok (.goto 59, 3) := by decide +kernel
theorem dJ3_init_2_41 : decode cJ3_init_2 41 = .ok (.getstatic 38, 3) := by decide +kernel
theorem dJ3_init_2_44 : decode cJ3_init_2 44 = .ok (.ifCond .eq 35, 3) := by decide +kernel
theorem dJ3_init_2_47 : decode cJ3_init_2 47 = .ok (.aload_n 1, 1) := by decide +kernel
theorem dJ3_init_2_48 : decode cJ3_init_2 48 = .ok (.getfield 1048, 3) := by decide +kernel
theorem dJ3_init_2_51 : decode cJ3_init_2 51 = .ok (.ifCond .eq 28, 3) := by decide +kernel
theorem dJ3_init_2_54 : decode cJ3_init_2 54 = .ok (.aload_n 0, 1) := by decide +kernel
theorem dJ3_init_2_55 : decode cJ3_init_2 55 = .ok (.aload_n 3, 1) := by decide +kernel
theorem dJ3_init_2_56 : decode cJ3_init_2 56 = .ok (.iconst 0, 1) := by decide +kernel
theorem dJ3_init_2_57 : decode cJ3_init_2 57 = .ok (.iload 4, 2) := by decide +kernel
theorem dJ3_init_2_59 : decode cJ3_init_2 59 = .ok (.invokestatic 1051, 3) := by decide +kernel
theorem dJ3_init_2_62 : decode cJ3_init_2 62 = .ok (.putfield 9, 3) := by decide +kernel
theorem dJ3_init_2_65 : decode cJ3_init_2 65 = .ok (.aload_n 0, 1) := by decide +kernel
theorem dJ3_init_2_66 : decode cJ3_init_2 66 = .ok (.aload_n 0, 1) := by decide +kernel
theorem dJ3_init_2_67 : decode cJ3_init_2 67 = .ok (.getfield 9, 3) := by decide +kernel
theorem dJ3_init_2_70 : decode cJ3_init_2 70 = .ok (.iload 4, 2) := by decide +kernel
theorem dJ3_init_2_72 : decode cJ3_init_2 72 = .ok (.invokestatic 47, 3) := by decide +kernel
theorem dJ3_init_2_75 : decode cJ3_init_2 75 = .ok (.putfield 15, 3) := by decide +kernel
theorem dJ3_init_2_78 : decode cJ3_init_2 78 = .ok (.return_, 1) := by decide +kernel
theorem dJ3_init_2_79 : decode cJ3_init_2 79 = .ok (.aload_n 0, 1) := by decide +kernel
theorem dJ3_init_2_80 : decode cJ3_init_2 80 = .ok (.iconst 1, 1) := by decide +kernel
theorem dJ3_init_2_81 : decode cJ3_init_2 81 = .ok (.putfield 15, 3) := by decide +kernel
theorem dJ3_init_2_84 : decode cJ3_init_2 84 = .ok (.aload_n 0, 1) := by decide +kernel
theorem dJ3_init_2_85 : decode cJ3_init_2 85 = .ok (.aload_n 3, 1) := by decide +kernel
theorem dJ3_init_2_86 : decode cJ3_init_2 86 = .ok (.iconst 0, 1) := by decide +kernel
theorem dJ3_init_2_87 : decode cJ3_init_2 87 = .ok (.iload 4, 2) := by decide +kernel
theorem dJ3_init_2_89 : decode cJ3_init_2 89 = .ok (.iconst 1, 1) := by decide +kernel
theorem dJ3_init_2_90 : decode cJ3_init_2 90 = .ok (.ishl, 1) := by decide +kernel
theorem dJ3_init_2_91 : decode cJ3_init_2 91 = .ok (.invokestatic 54, 3) := by decide +kernel
theorem dJ3_init_2_94 : decode cJ3_init_2 94 = .ok (.putfield 9, 3) := by decide +kernel
theorem dJ3_init_2_97 : decode cJ3_init_2 97 = .ok (.return_, 1) := by decide +kernel
abbrev cJ3_checkBoundsBeginEnd : ByteArray := prog_43_method_158_code
def yJ3_checkBoundsBeginEnd : MethodName := ⟨RJ3, "checkBoundsBeginEnd", "(III)V"⟩
theorem dJ3_checkBoundsBeginEnd_0 : decode cJ3_checkBoundsBeginEnd 0 = .ok (.iload_n 0, 1) := by decide +kernel
theorem dJ3_checkBoundsBeginEnd_1 : decode cJ3_checkBoundsBeginEnd 1 = .ok (.iload_n 1, 1) := by decide +kernel
theorem dJ3_checkBoundsBeginEnd_2 : decode cJ3_checkBoundsBeginEnd 2 = .ok (.iload_n 2, 1) := by decide +kernel
theorem dJ3_checkBoundsBeginEnd_3 : decode cJ3_checkBoundsBeginEnd 3 = .ok (.getstatic 1053, 3) := by decide +kernel
theorem dJ3_checkBoundsBeginEnd_6 : decode cJ3_checkBoundsBeginEnd 6 = .ok (.invokestatic 1062, 3) := by decide +kernel
theorem dJ3_checkBoundsBeginEnd_9 : decode cJ3_checkBoundsBeginEnd 9 = .ok (.pop, 1) := by decide +kernel
theorem dJ3_checkBoundsBeginEnd_10 : decode cJ3_checkBoundsBeginEnd 10 = .ok (.return_, 1) := by decide +kernel
abbrev cJ3_length : ByteArray := prog_43_method_54_code
def yJ3_length : MethodName := ⟨RJ3, "length", "()I"⟩
theorem dJ3_length_0 : decode cJ3_length 0 = .ok (.aload_n 0, 1) := by decide +kernel
theorem dJ3_length_1 : decode cJ3_length 1 = .ok (.getfield 9, 3) := by decide +kernel
theorem dJ3_length_4 : decode cJ3_length 4 = .ok (.arraylength, 1) := by decide +kernel
theorem dJ3_length_5 : decode cJ3_length 5 = .ok (.aload_n 0, 1) := by decide +kernel
theorem dJ3_length_6 : decode cJ3_length 6 = .ok (.invokevirtual 335, 3) := by decide +kernel
theorem dJ3_length_9 : decode cJ3_length 9 = .ok (.ishr, 1) := by decide +kernel
theorem dJ3_length_10 : decode cJ3_length 10 = .ok (.ireturn, 1) := by decide +kernel
abbrev cJ3_coder : ByteArray := prog_43_method_152_code
def yJ3_coder : MethodName := ⟨RJ3, "coder", "()B"⟩
theorem dJ3_coder_0 : decode cJ3_coder 0 = .ok (.getstatic 38, 3) := by decide +kernel
theorem dJ3_coder_3 : decode cJ3_coder 3 = .ok (.ifCond .eq 10, 3) := by decide +kernel
theorem dJ3_coder_6 : decode cJ3_coder 6 = .ok (.aload_n 0, 1) := by decide +kernel
theorem dJ3_coder_7 : decode cJ3_coder 7 = .ok (.getfield 15, 3) := by decide +kernel
theorem dJ3_coder_10 : decode cJ3_coder 10 = .ok (.goto 4, 3) := by decide +kernel
theorem dJ3_coder_13 : decode cJ3_coder 13 = .ok (.iconst 1, 1) := by decide +kernel
theorem dJ3_coder_14 : decode cJ3_coder 14 = .ok (.ireturn, 1) := by decide +kernel
abbrev cJ3_getBytes : ByteArray := prog_43_method_147_code
def yJ3_getBytes : MethodName := ⟨RJ3, "getBytes", "([BIB)V"⟩
theorem dJ3_getBytes_0 : decode cJ3_getBytes 0 = .ok (.aload_n 0, 1) := by decide +kernel
theorem dJ3_getBytes_1 : decode cJ3_getBytes 1 = .ok (.invokevirtual 335, 3) := by decide +kernel
theorem dJ3_getBytes_4 : decode cJ3_getBytes 4 = .ok (.iload_n 3, 1) := by decide +kernel
theorem dJ3_getBytes_5 : decode cJ3_getBytes 5 = .ok (.if_icmp .ne 23, 3) := by decide +kernel
theorem dJ3_getBytes_8 : decode cJ3_getBytes 8 = .ok (.aload_n 0, 1) := by decide +kernel
theorem dJ3_getBytes_9 : decode cJ3_getBytes 9 = .ok (.getfield 9, 3) := by decide +kernel
theorem dJ3_getBytes_12 : decode cJ3_getBytes 12 = .ok (.iconst 0, 1) := by decide +kernel
theorem dJ3_getBytes_13 : decode cJ3_getBytes 13 = .ok (.aload_n 1, 1) := by decide +kernel
theorem dJ3_getBytes_14 : decode cJ3_getBytes 14 = .ok (.iload_n 2, 1) := by decide +kernel
theorem dJ3_getBytes_15 : decode cJ3_getBytes 15 = .ok (.iload_n 3, 1) := by decide +kernel
theorem dJ3_getBytes_16 : decode cJ3_getBytes 16 = .ok (.ishl, 1) := by decide +kernel
theorem dJ3_getBytes_17 : decode cJ3_getBytes 17 = .ok (.aload_n 0, 1) := by decide +kernel
theorem dJ3_getBytes_18 : decode cJ3_getBytes 18 = .ok (.getfield 9, 3) := by decide +kernel
theorem dJ3_getBytes_21 : decode cJ3_getBytes 21 = .ok (.arraylength, 1) := by decide +kernel
theorem dJ3_getBytes_22 : decode cJ3_getBytes 22 = .ok (.invokestatic 212, 3) := by decide +kernel
theorem dJ3_getBytes_25 : decode cJ3_getBytes 25 = .ok (.goto 18, 3) := by decide +kernel
theorem dJ3_getBytes_28 : decode cJ3_getBytes 28 = .ok (.aload_n 0, 1) := by decide +kernel
theorem dJ3_getBytes_29 : decode cJ3_getBytes 29 = .ok (.getfield 9, 3) := by decide +kernel
theorem dJ3_getBytes_32 : decode cJ3_getBytes 32 = .ok (.iconst 0, 1) := by decide +kernel
theorem dJ3_getBytes_33 : decode cJ3_getBytes 33 = .ok (.aload_n 1, 1) := by decide +kernel
theorem dJ3_getBytes_34 : decode cJ3_getBytes 34 = .ok (.iload_n 2, 1) := by decide +kernel
theorem dJ3_getBytes_35 : decode cJ3_getBytes 35 = .ok (.aload_n 0, 1) := by decide +kernel
theorem dJ3_getBytes_36 : decode cJ3_getBytes 36 = .ok (.getfield 9, 3) := by decide +kernel
theorem dJ3_getBytes_39 : decode cJ3_getBytes 39 = .ok (.arraylength, 1) := by decide +kernel
theorem dJ3_getBytes_40 : decode cJ3_getBytes 40 = .ok (.invokestatic 106, 3) := by decide +kernel
theorem dJ3_getBytes_43 : decode cJ3_getBytes 43 = .ok (.return_, 1) := by decide +kernel
abbrev cJ3_hashCode : ByteArray := prog_43_method_78_code
def yJ3_hashCode : MethodName := ⟨RJ3, "hashCode", "()I"⟩
theorem dJ3_hashCode_0 : decode cJ3_hashCode 0 = .ok (.aload_n 0, 1) := by decide +kernel
theorem dJ3_hashCode_1 : decode cJ3_hashCode 1 = .ok (.getfield 19, 3) := by decide +kernel
theorem dJ3_hashCode_4 : decode cJ3_hashCode 4 = .ok (.istore_n 1, 1) := by decide +kernel
theorem dJ3_hashCode_5 : decode cJ3_hashCode 5 = .ok (.iload_n 1, 1) := by decide +kernel
theorem dJ3_hashCode_6 : decode cJ3_hashCode 6 = .ok (.ifCond .ne 52, 3) := by decide +kernel
theorem dJ3_hashCode_9 : decode cJ3_hashCode 9 = .ok (.aload_n 0, 1) := by decide +kernel
theorem dJ3_hashCode_10 : decode cJ3_hashCode 10 = .ok (.getfield 23, 3) := by decide +kernel
theorem dJ3_hashCode_13 : decode cJ3_hashCode 13 = .ok (.ifCond .ne 45, 3) := by decide +kernel
theorem dJ3_hashCode_16 : decode cJ3_hashCode 16 = .ok (.aload_n 0, 1) := by decide +kernel
theorem dJ3_hashCode_17 : decode cJ3_hashCode 17 = .ok (.invokevirtual 492, 3) := by decide +kernel
theorem dJ3_hashCode_20 : decode cJ3_hashCode 20 = .ok (.ifCond .eq 13, 3) := by decide +kernel
theorem dJ3_hashCode_23 : decode cJ3_hashCode 23 = .ok (.aload_n 0, 1) := by decide +kernel
theorem dJ3_hashCode_24 : decode cJ3_hashCode 24 = .ok (.getfield 9, 3) := by decide +kernel
theorem dJ3_hashCode_27 : decode cJ3_hashCode 27 = .ok (.invokestatic 628, 3) := by decide +kernel
theorem dJ3_hashCode_30 : decode cJ3_hashCode 30 = .ok (.goto 10, 3) := by decide +kernel
theorem dJ3_hashCode_33 : decode cJ3_hashCode 33 = .ok (.aload_n 0, 1) := by decide +kernel
theorem dJ3_hashCode_34 : decode cJ3_hashCode 34 = .ok (.getfield 9, 3) := by decide +kernel
theorem dJ3_hashCode_37 : decode cJ3_hashCode 37 = .ok (.invokestatic 632, 3) := by decide +kernel
theorem dJ3_hashCode_40 : decode cJ3_hashCode 40 = .ok (.istore_n 1, 1) := by decide +kernel
theorem dJ3_hashCode_41 : decode cJ3_hashCode 41 = .ok (.iload_n 1, 1) := by decide +kernel
theorem dJ3_hashCode_42 : decode cJ3_hashCode 42 = .ok (.ifCond .ne 11, 3) := by decide +kernel
theorem dJ3_hashCode_45 : decode cJ3_hashCode 45 = .ok (.aload_n 0, 1) := by decide +kernel
theorem dJ3_hashCode_46 : decode cJ3_hashCode 46 = .ok (.iconst 1, 1) := by decide +kernel
theorem dJ3_hashCode_47 : decode cJ3_hashCode 47 = .ok (.putfield 23, 3) := by decide +kernel
theorem dJ3_hashCode_50 : decode cJ3_hashCode 50 = .ok (.goto 8, 3) := by decide +kernel
theorem dJ3_hashCode_53 : decode cJ3_hashCode 53 = .ok (.aload_n 0, 1) := by decide +kernel
theorem dJ3_hashCode_54 : decode cJ3_hashCode 54 = .ok (.iload_n 1, 1) := by decide +kernel
theorem dJ3_hashCode_55 : decode cJ3_hashCode 55 = .ok (.putfield 19, 3) := by decide +kernel
theorem dJ3_hashCode_58 : decode cJ3_hashCode 58 = .ok (.iload_n 1, 1) := by decide +kernel
theorem dJ3_hashCode_59 : decode cJ3_hashCode 59 = .ok (.ireturn, 1) := by decide +kernel
abbrev cJ3_isLatin1 : ByteArray := prog_43_method_154_code
def yJ3_isLatin1 : MethodName := ⟨RJ3, "isLatin1", "()Z"⟩
theorem dJ3_isLatin1_0 : decode cJ3_isLatin1 0 = .ok (.getstatic 38, 3) := by decide +kernel
theorem dJ3_isLatin1_3 : decode cJ3_isLatin1 3 = .ok (.ifCond .eq 14, 3) := by decide +kernel
theorem dJ3_isLatin1_6 : decode cJ3_isLatin1 6 = .ok (.aload_n 0, 1) := by decide +kernel
theorem dJ3_isLatin1_7 : decode cJ3_isLatin1 7 = .ok (.getfield 15, 3) := by decide +kernel
theorem dJ3_isLatin1_10 : decode cJ3_isLatin1 10 = .ok (.ifCond .ne 7, 3) := by decide +kernel
theorem dJ3_isLatin1_13 : decode cJ3_isLatin1 13 = .ok (.iconst 1, 1) := by decide +kernel
theorem dJ3_isLatin1_14 : decode cJ3_isLatin1 14 = .ok (.goto 4, 3) := by decide +kernel
theorem dJ3_isLatin1_17 : decode cJ3_isLatin1 17 = .ok (.iconst 0, 1) := by decide +kernel
theorem dJ3_isLatin1_18 : decode cJ3_isLatin1 18 = .ok (.ireturn, 1) := by decide +kernel
abbrev cJ3_equals : ByteArray := prog_43_method_66_code
def yJ3_equals : MethodName := ⟨RJ3, "equals", "(Ljava/lang/Object;)Z"⟩
theorem dJ3_equals_0 : decode cJ3_equals 0 = .ok (.aload_n 0, 1) := by decide +kernel
theorem dJ3_equals_1 : decode cJ3_equals 1 = .ok (.aload_n 1, 1) := by decide +kernel
theorem dJ3_equals_2 : decode cJ3_equals 2 = .ok (.if_acmp .ne 5, 3) := by decide +kernel
theorem dJ3_equals_5 : decode cJ3_equals 5 = .ok (.iconst 1, 1) := by decide +kernel
theorem dJ3_equals_6 : decode cJ3_equals 6 = .ok (.ireturn, 1) := by decide +kernel
theorem dJ3_equals_7 : decode cJ3_equals 7 = .ok (.aload_n 1, 1) := by decide +kernel
theorem dJ3_equals_8 : decode cJ3_equals 8 = .ok (.instanceof 10, 3) := by decide +kernel
theorem dJ3_equals_11 : decode cJ3_equals 11 = .ok (.ifCond .eq 43, 3) := by decide +kernel
theorem dJ3_equals_14 : decode cJ3_equals 14 = .ok (.aload_n 1, 1) := by decide +kernel
theorem dJ3_equals_15 : decode cJ3_equals 15 = .ok (.checkcast 10, 3) := by decide +kernel
theorem dJ3_equals_18 : decode cJ3_equals 18 = .ok (.astore_n 2, 1) := by decide +kernel
theorem dJ3_equals_19 : decode cJ3_equals 19 = .ok (.getstatic 38, 3) := by decide +kernel
theorem dJ3_equals_22 : decode cJ3_equals 22 = .ok (.ifCond .eq 14, 3) := by decide +kernel
theorem dJ3_equals_25 : decode cJ3_equals 25 = .ok (.aload_n 0, 1) := by decide +kernel
theorem dJ3_equals_26 : decode cJ3_equals 26 = .ok (.getfield 15, 3) := by decide +kernel
theorem dJ3_equals_29 : decode cJ3_equals 29 = .ok (.aload_n 2, 1) := by decide +kernel
theorem dJ3_equals_30 : decode cJ3_equals 30 = .ok (.getfield 15, 3) := by decide +kernel
theorem dJ3_equals_33 : decode cJ3_equals 33 = .ok (.if_icmp .ne 21, 3) := by decide +kernel
theorem dJ3_equals_36 : decode cJ3_equals 36 = .ok (.aload_n 0, 1) := by decide +kernel
theorem dJ3_equals_37 : decode cJ3_equals 37 = .ok (.getfield 9, 3) := by decide +kernel
theorem dJ3_equals_40 : decode cJ3_equals 40 = .ok (.aload_n 2, 1) := by decide +kernel
theorem dJ3_equals_41 : decode cJ3_equals 41 = .ok (.getfield 9, 3) := by decide +kernel
theorem dJ3_equals_44 : decode cJ3_equals 44 = .ok (.invokestatic 541, 3) := by decide +kernel
theorem dJ3_equals_47 : decode cJ3_equals 47 = .ok (.ifCond .eq 7, 3) := by decide +kernel
theorem dJ3_equals_50 : decode cJ3_equals 50 = .ok (.iconst 1, 1) := by decide +kernel
theorem dJ3_equals_51 : decode cJ3_equals 51 = .ok (.goto 4, 3) := by decide +kernel
theorem dJ3_equals_54 : decode cJ3_equals 54 = .ok (.iconst 0, 1) := by decide +kernel
theorem dJ3_equals_55 : decode cJ3_equals 55 = .ok (.ireturn, 1) := by decide +kernel
abbrev cJ3_indexOf : ByteArray := prog_43_method_79_code
def yJ3_indexOf : MethodName := ⟨RJ3, "indexOf", "(I)I"⟩
theorem dJ3_indexOf_0 : decode cJ3_indexOf 0 = .ok (.aload_n 0, 1) := by decide +kernel
theorem dJ3_indexOf_1 : decode cJ3_indexOf 1 = .ok (.iload_n 1, 1) := by decide +kernel
theorem dJ3_indexOf_2 : decode cJ3_indexOf 2 = .ok (.iconst 0, 1) := by decide +kernel
theorem dJ3_indexOf_3 : decode cJ3_indexOf 3 = .ok (.invokevirtual 633, 3) := by decide +kernel
theorem dJ3_indexOf_6 : decode cJ3_indexOf 6 = .ok (.ireturn, 1) := by decide +kernel
abbrev cJ3_indexOf_2 : ByteArray := prog_43_method_80_code
def yJ3_indexOf_2 : MethodName := ⟨RJ3, "indexOf", "(II)I"⟩
theorem dJ3_indexOf_2_0 : decode cJ3_indexOf_2 0 = .ok (.aload_n 0, 1) := by decide +kernel
theorem dJ3_indexOf_2_1 : decode cJ3_indexOf_2 1 = .ok (.invokevirtual 492, 3) := by decide +kernel
theorem dJ3_indexOf_2_4 : decode cJ3_indexOf_2 4 = .ok (.ifCond .eq 19, 3) := by decide +kernel
theorem dJ3_indexOf_2_7 : decode cJ3_indexOf_2 7 = .ok (.aload_n 0, 1) := by decide +kernel
theorem dJ3_indexOf_2_8 : decode cJ3_indexOf_2 8 = .ok (.getfield 9, 3) := by decide +kernel
theorem dJ3_indexOf_2_11 : decode cJ3_indexOf_2 11 = .ok (.iload_n 1, 1) := by decide +kernel
theorem dJ3_indexOf_2_12 : decode cJ3_indexOf_2 12 = .ok (.iload_n 2, 1) := by decide +kernel
theorem dJ3_indexOf_2_13 : decode cJ3_indexOf_2 13 = .ok (.aload_n 0, 1) := by decide +kernel
theorem dJ3_indexOf_2_14 : decode cJ3_indexOf_2 14 = .ok (.invokevirtual 505, 3) := by decide +kernel
theorem dJ3_indexOf_2_17 : decode cJ3_indexOf_2 17 = .ok (.invokestatic 637, 3) := by decide +kernel
theorem dJ3_indexOf_2_20 : decode cJ3_indexOf_2 20 = .ok (.goto 16, 3) := by decide +kernel
theorem dJ3_indexOf_2_23 : decode cJ3_indexOf_2 23 = .ok (.aload_n 0, 1) := by decide +kernel
theorem dJ3_indexOf_2_24 : decode cJ3_indexOf_2 24 = .ok (.getfield 9, 3) := by decide +kernel
theorem dJ3_indexOf_2_27 : decode cJ3_indexOf_2 27 = .ok (.iload_n 1, 1) := by decide +kernel
theorem dJ3_indexOf_2_28 : decode cJ3_indexOf_2 28 = .ok (.iload_n 2, 1) := by decide +kernel
theorem dJ3_indexOf_2_29 : decode cJ3_indexOf_2 29 = .ok (.aload_n 0, 1) := by decide +kernel
theorem dJ3_indexOf_2_30 : decode cJ3_indexOf_2 30 = .ok (.invokevirtual 505, 3) := by decide +kernel
theorem dJ3_indexOf_2_33 : decode cJ3_indexOf_2 33 = .ok (.invokestatic 640, 3) := by decide +kernel
theorem dJ3_indexOf_2_36 : decode cJ3_indexOf_2 36 = .ok (.ireturn, 1) := by decide +kernel
abbrev cJ3_charAt : ByteArray := prog_43_method_56_code
def yJ3_charAt : MethodName := ⟨RJ3, "charAt", "(I)C"⟩
theorem dJ3_charAt_0 : decode cJ3_charAt 0 = .ok (.aload_n 0, 1) := by decide +kernel
theorem dJ3_charAt_1 : decode cJ3_charAt 1 = .ok (.invokevirtual 492, 3) := by decide +kernel
theorem dJ3_charAt_4 : decode cJ3_charAt 4 = .ok (.ifCond .eq 12, 3) := by decide +kernel
theorem dJ3_charAt_7 : decode cJ3_charAt 7 = .ok (.aload_n 0, 1) := by decide +kernel
theorem dJ3_charAt_8 : decode cJ3_charAt 8 = .ok (.getfield 9, 3) := by decide +kernel
theorem dJ3_charAt_11 : decode cJ3_charAt 11 = .ok (.iload_n 1, 1) := by decide +kernel
theorem dJ3_charAt_12 : decode cJ3_charAt 12 = .ok (.invokestatic 495, 3) := by decide +kernel
theorem dJ3_charAt_15 : decode cJ3_charAt 15 = .ok (.ireturn, 1) := by decide +kernel
theorem dJ3_charAt_16 : decode cJ3_charAt 16 = .ok (.aload_n 0, 1) := by decide +kernel
theorem dJ3_charAt_17 : decode cJ3_charAt 17 = .ok (.getfield 9, 3) := by decide +kernel
theorem dJ3_charAt_20 : decode cJ3_charAt 20 = .ok (.iload_n 1, 1) := by decide +kernel
theorem dJ3_charAt_21 : decode cJ3_charAt 21 = .ok (.invokestatic 498, 3) := by decide +kernel
theorem dJ3_charAt_24 : decode cJ3_charAt 24 = .ok (.ireturn, 1) := by decide +kernel
theorem q121 : (Jvm.Cond.initialized "java/lang/String") ∈ lw_all := lw_g (lw_at lw_m1 9 rfl) rfl
theorem q520 : (Jvm.Cond.laysStatic "java/lang/String" "COMPACT_STRINGS" "Z") ∈ lw_tbl := lw_at lw_m2 168 rfl
theorem q530 : (Jvm.Cond.fieldLink "java/lang/String" (1048 : Nat) "java/lang/AbstractStringBuilder" "maybeLatin1" "Z") ∈ lw_all := lw_g (lw_at lw_m2 178 rfl) rfl
theorem q618 : (Jvm.Cond.static ({ cls := "java/lang/String", name := "checkBoundsOffCount", desc := "(III)I" } : Jvm.MethodName)) ∈ lw_all := lw_g (lw_at lw_m3 26 rfl) rfl
theorem q619 : (Jvm.Cond.code ({ cls := "java/lang/String", name := "checkBoundsOffCount", desc := "(III)I" } : Jvm.MethodName) prog_43_method_157_code (3 : Nat) (Option.some Jvm.ClassFile.FieldType.int)) ∈ lw_all := lw_g (lw_at lw_m3 27 rfl) rfl
theorem q620 : (Jvm.Cond.fieldLink "java/lang/String" (1053 : Nat) "jdk/internal/util/Preconditions" "SIOOBE_FORMATTER" "Ljava/util/function/BiFunction;") ∈ lw_all := lw_g (lw_at lw_m3 28 rfl) rfl
theorem q622 : (Jvm.Cond.methodLink "java/lang/String" (1065 : Nat) ({ cls := "jdk/internal/util/Preconditions", name := "checkFromIndexSize", desc := "(IIILjava/util/function/BiFunction;)I" } : Jvm.MethodName)) ∈ lw_all := lw_g (lw_at lw_m3 30 rfl) rfl
theorem q641 : (Jvm.Cond.static ({ cls := "java/lang/String", name := "checkIndex", desc := "(II)V" } : Jvm.MethodName)) ∈ lw_all := lw_g (lw_at lw_m3 49 rfl) rfl
theorem q642 : (Jvm.Cond.code ({ cls := "java/lang/String", name := "checkIndex", desc := "(II)V" } : Jvm.MethodName) prog_43_method_155_code (2 : Nat) (Option.none : Option Jvm.ClassFile.FieldType)) ∈ lw_all := lw_g (lw_at lw_m3 50 rfl) rfl
theorem q643 : (Jvm.Cond.methodLink "java/lang/String" (1059 : Nat) ({ cls := "jdk/internal/util/Preconditions", name := "checkIndex", desc := "(IILjava/util/function/BiFunction;)I" } : Jvm.MethodName)) ∈ lw_all := lw_g (lw_at lw_m3 51 rfl) rfl
theorem q655 : (Jvm.Cond.instantiable "java/lang/String" (4 : Nat)) ∈ lw_all := lw_g (lw_at lw_m3 63 rfl) rfl
theorem q657 : (Jvm.Cond.instanceMethod ({ cls := "java/lang/String", name := "<init>", desc := "(Ljava/lang/StringBuilder;)V" } : Jvm.MethodName)) ∈ lw_all := lw_g (lw_at lw_m3 65 rfl) rfl
theorem q658 : (Jvm.Cond.code ({ cls := "java/lang/String", name := "<init>", desc := "(Ljava/lang/StringBuilder;)V" } : Jvm.MethodName) prog_43_method_53_code (2 : Nat) (Option.none : Option Jvm.ClassFile.FieldType)) ∈ lw_all := lw_g (lw_at lw_m3 66 rfl) rfl
theorem q659 : (Jvm.Cond.methodLink "java/lang/String" (489 : Nat) ({ cls := "java/lang/String", name := "<init>", desc := "(Ljava/lang/AbstractStringBuilder;Ljava/lang/Void;)V" } : Jvm.MethodName)) ∈ lw_all := lw_g (lw_at lw_m3 67 rfl) rfl
theorem q660 : (Jvm.Cond.instanceMethod ({ cls := "java/lang/String", name := "<init>", desc := "(Ljava/lang/AbstractStringBuilder;Ljava/lang/Void;)V" } : Jvm.MethodName)) ∈ lw_all := lw_g (lw_at lw_m3 68 rfl) rfl
theorem q661 : (Jvm.Cond.code ({ cls := "java/lang/String", name := "<init>", desc := "(Ljava/lang/AbstractStringBuilder;Ljava/lang/Void;)V" } : Jvm.MethodName) prog_43_method_150_code (5 : Nat) (Option.none : Option Jvm.ClassFile.FieldType)) ∈ lw_all := lw_g (lw_at lw_m3 69 rfl) rfl
theorem q662 : (Jvm.Cond.methodLink "java/lang/String" (1 : Nat) ({ cls := "java/lang/Object", name := "<init>", desc := "()V" } : Jvm.MethodName)) ∈ lw_all := lw_g (lw_at lw_m3 70 rfl) rfl
theorem q663 : (Jvm.Cond.methodLink "java/lang/String" (552 : Nat) ({ cls := "java/lang/AbstractStringBuilder", name := "getValue", desc := "()[B" } : Jvm.MethodName)) ∈ lw_all := lw_g (lw_at lw_m3 71 rfl) rfl
theorem q668 : (Jvm.Cond.methodLink "java/lang/String" (549 : Nat) ({ cls := "java/lang/AbstractStringBuilder", name := "length", desc := "()I" } : Jvm.MethodName)) ∈ lw_all := lw_g (lw_at lw_m3 76 rfl) rfl
theorem q669 : (Jvm.Cond.methodLink "java/lang/String" (1047 : Nat) ({ cls := "java/lang/AbstractStringBuilder", name := "isLatin1", desc := "()Z" } : Jvm.MethodName)) ∈ lw_all := lw_g (lw_at lw_m3 77 rfl) rfl
theorem q670 : (Jvm.Cond.methodLink "java/lang/String" (54 : Nat) ({ cls := "java/util/Arrays", name := "copyOfRange", desc := "([BII)[B" } : Jvm.MethodName)) ∈ lw_all := lw_g (lw_at lw_m3 78 rfl) rfl
theorem q708 : (Jvm.Cond.static ({ cls := "java/lang/String", name := "checkBoundsBeginEnd", desc := "(III)V" } : Jvm.MethodName)) ∈ lw_all := lw_g (lw_at lw_m3 116 rfl) rfl
theorem q709 : (Jvm.Cond.code ({ cls := "java/lang/String", name := "checkBoundsBeginEnd", desc := "(III)V" } : Jvm.MethodName) prog_43_method_158_code (3 : Nat) (Option.none : Option Jvm.ClassFile.FieldType)) ∈ lw_all := lw_g (lw_at lw_m3 117 rfl) rfl
theorem q710 : (Jvm.Cond.methodLink "java/lang/String" (1062 : Nat) ({ cls := "jdk/internal/util/Preconditions", name := "checkFromToIndex", desc := "(IIILjava/util/function/BiFunction;)I" } : Jvm.MethodName)) ∈ lw_all := lw_g (lw_at lw_m3 118 rfl) rfl
theorem q734 : (Jvm.Cond.instanceMethod ({ cls := "java/lang/String", name := "length", desc := "()I" } : Jvm.MethodName)) ∈ lw_all := lw_g (lw_at lw_m3 142 rfl) rfl
theorem q735 : (Jvm.Cond.selects "java/lang/String" ({ cls := "java/lang/String", name := "length", desc := "()I" } : Jvm.MethodName) ({ cls := "java/lang/String", name := "length", desc := "()I" } : Jvm.MethodName)) ∈ lw_all := lw_g (lw_at lw_m3 143 rfl) rfl
theorem q736 : (Jvm.Cond.code ({ cls := "java/lang/String", name := "length", desc := "()I" } : Jvm.MethodName) prog_43_method_54_code (1 : Nat) (Option.some Jvm.ClassFile.FieldType.int)) ∈ lw_all := lw_g (lw_at lw_m3 144 rfl) rfl
theorem q737 : (Jvm.Cond.methodLink "java/lang/String" (335 : Nat) ({ cls := "java/lang/String", name := "coder", desc := "()B" } : Jvm.MethodName)) ∈ lw_all := lw_g (lw_at lw_m3 145 rfl) rfl
theorem q738 : (Jvm.Cond.instanceMethod ({ cls := "java/lang/String", name := "coder", desc := "()B" } : Jvm.MethodName)) ∈ lw_all := lw_g (lw_at lw_m3 146 rfl) rfl
theorem q739 : (Jvm.Cond.selects "java/lang/String" ({ cls := "java/lang/String", name := "coder", desc := "()B" } : Jvm.MethodName) ({ cls := "java/lang/String", name := "coder", desc := "()B" } : Jvm.MethodName)) ∈ lw_all := lw_g (lw_at lw_m3 147 rfl) rfl
theorem q740 : (Jvm.Cond.code ({ cls := "java/lang/String", name := "coder", desc := "()B" } : Jvm.MethodName) prog_43_method_152_code (1 : Nat) (Option.some Jvm.ClassFile.FieldType.byte)) ∈ lw_all := lw_g (lw_at lw_m3 148 rfl) rfl
theorem q741 : (Jvm.Cond.fieldLink "java/lang/String" (38 : Nat) "java/lang/String" "COMPACT_STRINGS" "Z") ∈ lw_all := lw_g (lw_at lw_m3 149 rfl) rfl
theorem q752 : (Jvm.Cond.instanceMethod ({ cls := "java/lang/String", name := "getBytes", desc := "([BIB)V" } : Jvm.MethodName)) ∈ lw_all := lw_g (lw_at lw_m3 160 rfl) rfl
theorem q753 : (Jvm.Cond.selects "java/lang/String" ({ cls := "java/lang/String", name := "getBytes", desc := "([BIB)V" } : Jvm.MethodName) ({ cls := "java/lang/String", name := "getBytes", desc := "([BIB)V" } : Jvm.MethodName)) ∈ lw_all := lw_g (lw_at lw_m3 161 rfl) rfl
theorem q754 : (Jvm.Cond.code ({ cls := "java/lang/String", name := "getBytes", desc := "([BIB)V" } : Jvm.MethodName) prog_43_method_147_code (4 : Nat) (Option.none : Option Jvm.ClassFile.FieldType)) ∈ lw_all := lw_g (lw_at lw_m3 162 rfl) rfl
theorem q755 : (Jvm.Cond.methodLink "java/lang/String" (212 : Nat) ({ cls := "java/lang/System", name := "arraycopy", desc := "(Ljava/lang/Object;ILjava/lang/Object;II)V" } : Jvm.MethodName)) ∈ lw_all := lw_g (lw_at lw_m3 163 rfl) rfl
theorem q756 : (Jvm.Cond.methodLink "java/lang/String" (106 : Nat) ({ cls := "java/lang/StringLatin1", name := "inflate", desc := "([BI[BII)V" } : Jvm.MethodName)) ∈ lw_all := lw_g (lw_at lw_m3 164 rfl) rfl
theorem q770 : (Jvm.Cond.methodLink "java/lang/String" (1051 : Nat) ({ cls := "java/lang/StringUTF16", name := "compress", desc := "([BII)[B" } : Jvm.MethodName)) ∈ lw_all := lw_g (lw_at lw_m3 178 rfl) rfl
theorem q780 : (Jvm.Cond.methodLink "java/lang/String" (47 : Nat) ({ cls := "java/lang/StringUTF16", name := "coderFromArrayLen", desc := "([BI)B" } : Jvm.MethodName)) ∈ lw_all := lw_g (lw_at lw_m3 188 rfl) rfl
theorem q783 : (Jvm.Cond.fieldLink "java/lang/String" (9 : Nat) "java/lang/String" "value" "[B") ∈ lw_all := lw_g (lw_at lw_m3 191 rfl) rfl
theorem q784 : (Jvm.Cond.fieldLink "java/lang/String" (15 : Nat) "java/lang/String" "coder" "B") ∈ lw_all := lw_g (lw_at lw_m3 192 rfl) rfl
theorem q785 : (Jvm.Cond.fieldLink "java/lang/String" (19 : Nat) "java/lang/String" "hash" "I") ∈ lw_all := lw_g (lw_at lw_m3 193 rfl) rfl
theorem q786 : (Jvm.Cond.fieldLink "java/lang/String" (23 : Nat) "java/lang/String" "hashIsZero" "Z") ∈ lw_all := lw_g (lw_at lw_m3 194 rfl) rfl
theorem q787 : (Jvm.Cond.laysFinal "java/lang/String" "java/lang/String" "value" "[B") ∈ lw_all := lw_g (lw_at lw_m3 195 rfl) rfl
theorem q788 : (Jvm.Cond.soleField "java/lang/String" "value") ∈ lw_all := lw_g (lw_at lw_m3 196 rfl) rfl
theorem q789 : (Jvm.Cond.laysFinal "java/lang/String" "java/lang/String" "coder" "B") ∈ lw_all := lw_g (lw_at lw_m3 197 rfl) rfl
theorem q790 : (Jvm.Cond.soleField "java/lang/String" "coder") ∈ lw_all := lw_g (lw_at lw_m3 198 rfl) rfl
theorem q791 : (Jvm.Cond.lays "java/lang/String" "java/lang/String" "hash" "I") ∈ lw_all := lw_g (lw_at lw_m3 199 rfl) rfl
theorem q792 : (Jvm.Cond.soleField "java/lang/String" "hash") ∈ lw_all := lw_g (lw_at lw_m3 200 rfl) rfl
theorem q793 : (Jvm.Cond.lays "java/lang/String" "java/lang/String" "hashIsZero" "Z") ∈ lw_all := lw_g (lw_at lw_m3 201 rfl) rfl
theorem q794 : (Jvm.Cond.soleField "java/lang/String" "hashIsZero") ∈ lw_all := lw_g (lw_at lw_m3 202 rfl) rfl
theorem q795 : (Jvm.Cond.superclass "java/lang/String" "java/lang/Object") ∈ lw_all := lw_g (lw_at lw_m3 203 rfl) rfl
theorem q800 : (Jvm.Cond.instanceMethod ({ cls := "java/lang/String", name := "hashCode", desc := "()I" } : Jvm.MethodName)) ∈ lw_all := lw_g (lw_at lw_m3 208 rfl) rfl
theorem q801 : (Jvm.Cond.selects "java/lang/String" ({ cls := "java/lang/String", name := "hashCode", desc := "()I" } : Jvm.MethodName) ({ cls := "java/lang/String", name := "hashCode", desc := "()I" } : Jvm.MethodName)) ∈ lw_all := lw_g (lw_at lw_m3 209 rfl) rfl
theorem q802 : (Jvm.Cond.code ({ cls := "java/lang/String", name := "hashCode", desc := "()I" } : Jvm.MethodName) prog_43_method_78_code (2 : Nat) (Option.some Jvm.ClassFile.FieldType.int)) ∈ lw_all := lw_g (lw_at lw_m3 210 rfl) rfl
theorem q803 : (Jvm.Cond.methodLink "java/lang/String" (492 : Nat) ({ cls := "java/lang/String", name := "isLatin1", desc := "()Z" } : Jvm.MethodName)) ∈ lw_all := lw_g (lw_at lw_m3 211 rfl) rfl
theorem q804 : (Jvm.Cond.instanceMethod ({ cls := "java/lang/String", name := "isLatin1", desc := "()Z" } : Jvm.MethodName)) ∈ lw_all := lw_g (lw_at lw_m3 212 rfl) rfl
theorem q805 : (Jvm.Cond.selects "java/lang/String" ({ cls := "java/lang/String", name := "isLatin1", desc := "()Z" } : Jvm.MethodName) ({ cls := "java/lang/String", name := "isLatin1", desc := "()Z" } : Jvm.MethodName)) ∈ lw_all := lw_g (lw_at lw_m3 213 rfl) rfl
theorem q806 : (Jvm.Cond.code ({ cls := "java/lang/String", name := "isLatin1", desc := "()Z" } : Jvm.MethodName) prog_43_method_154_code (1 : Nat) (Option.some Jvm.ClassFile.FieldType.boolean)) ∈ lw_all := lw_g (lw_at lw_m3 214 rfl) rfl
theorem q807 : (Jvm.Cond.methodLink "java/lang/String" (628 : Nat) ({ cls := "java/lang/StringLatin1", name := "hashCode", desc := "([B)I" } : Jvm.MethodName)) ∈ lw_all := lw_g (lw_at lw_m3 215 rfl) rfl
theorem q856 : (Jvm.Cond.methodLink "java/lang/String" (632 : Nat) ({ cls := "java/lang/StringUTF16", name := "hashCode", desc := "([B)I" } : Jvm.MethodName)) ∈ lw_all := lw_g (lw_at lw_m4 24 rfl) rfl
theorem q862 : (Jvm.Cond.instanceMethod ({ cls := "java/lang/String", name := "equals", desc := "(Ljava/lang/Object;)Z" } : Jvm.MethodName)) ∈ lw_all := lw_g (lw_at lw_m4 30 rfl) rfl
theorem q863 : (Jvm.Cond.selects "java/lang/String" ({ cls := "java/lang/String", name := "equals", desc := "(Ljava/lang/Object;)Z" } : Jvm.MethodName) ({ cls := "java/lang/String", name := "equals", desc := "(Ljava/lang/Object;)Z" } : Jvm.MethodName)) ∈ lw_all := lw_g (lw_at lw_m4 31 rfl) rfl
theorem q864 : (Jvm.Cond.code ({ cls := "java/lang/String", name := "equals", desc := "(Ljava/lang/Object;)Z" } : Jvm.MethodName) prog_43_method_66_code (3 : Nat) (Option.some Jvm.ClassFile.FieldType.boolean)) ∈ lw_all := lw_g (lw_at lw_m4 32 rfl) rfl
theorem q865 : (Jvm.Cond.classLink "java/lang/String" (10 : Nat) "java/lang/String") ∈ lw_all := lw_g (lw_at lw_m4 33 rfl) rfl
theorem q866 : (Jvm.Cond.methodLink "java/lang/String" (541 : Nat) ({ cls := "java/lang/StringLatin1", name := "equals", desc := "([B[B)Z" } : Jvm.MethodName)) ∈ lw_all := lw_g (lw_at lw_m4 34 rfl) rfl
theorem q885 : (Jvm.Cond.instanceMethod ({ cls := "java/lang/String", name := "indexOf", desc := "(I)I" } : Jvm.MethodName)) ∈ lw_all := lw_g (lw_at lw_m4 53 rfl) rfl
theorem q886 : (Jvm.Cond.selects "java/lang/String" ({ cls := "java/lang/String", name := "indexOf", desc := "(I)I" } : Jvm.MethodName) ({ cls := "java/lang/String", name := "indexOf", desc := "(I)I" } : Jvm.MethodName)) ∈ lw_all := lw_g (lw_at lw_m4 54 rfl) rfl
theorem q887 : (Jvm.Cond.code ({ cls := "java/lang/String", name := "indexOf", desc := "(I)I" } : Jvm.MethodName) prog_43_method_79_code (2 : Nat) (Option.some Jvm.ClassFile.FieldType.int)) ∈ lw_all := lw_g (lw_at lw_m4 55 rfl) rfl
theorem q888 : (Jvm.Cond.methodLink "java/lang/String" (633 : Nat) ({ cls := "java/lang/String", name := "indexOf", desc := "(II)I" } : Jvm.MethodName)) ∈ lw_all := lw_g (lw_at lw_m4 56 rfl) rfl
theorem q889 : (Jvm.Cond.instanceMethod ({ cls := "java/lang/String", name := "indexOf", desc := "(II)I" } : Jvm.MethodName)) ∈ lw_all := lw_g (lw_at lw_m4 57 rfl) rfl
theorem q890 : (Jvm.Cond.selects "java/lang/String" ({ cls := "java/lang/String", name := "indexOf", desc := "(II)I" } : Jvm.MethodName) ({ cls := "java/lang/String", name := "indexOf", desc := "(II)I" } : Jvm.MethodName)) ∈ lw_all := lw_g (lw_at lw_m4 58 rfl) rfl
theorem q891 : (Jvm.Cond.code ({ cls := "java/lang/String", name := "indexOf", desc := "(II)I" } : Jvm.MethodName) prog_43_method_80_code (3 : Nat) (Option.some Jvm.ClassFile.FieldType.int)) ∈ lw_all := lw_g (lw_at lw_m4 59 rfl) rfl
theorem q892 : (Jvm.Cond.methodLink "java/lang/String" (505 : Nat) ({ cls := "java/lang/String", name := "length", desc := "()I" } : Jvm.MethodName)) ∈ lw_all := lw_g (lw_at lw_m4 60 rfl) rfl
theorem q893 : (Jvm.Cond.methodLink "java/lang/String" (637 : Nat) ({ cls := "java/lang/StringLatin1", name := "indexOf", desc := "([BIII)I" } : Jvm.MethodName)) ∈ lw_all := lw_g (lw_at lw_m4 61 rfl) rfl
theorem q904 : (Jvm.Cond.methodLink "java/lang/String" (640 : Nat) ({ cls := "java/lang/StringUTF16", name := "indexOf", desc := "([BIII)I" } : Jvm.MethodName)) ∈ lw_all := lw_g (lw_at lw_m4 72 rfl) rfl
theorem q1128 : (Jvm.Cond.selects "java/lang/String" ({ cls := "java/lang/Object", name := "getClass", desc := "()Ljava/lang/Class;" } : Jvm.MethodName) ({ cls := "java/lang/Object", name := "getClass", desc := "()Ljava/lang/Class;" } : Jvm.MethodName)) ∈ lw_all := lw_g (lw_at lw_m5 56 rfl) rfl
theorem q1811 : (Jvm.Cond.instanceMethod ({ cls := "java/lang/String", name := "charAt", desc := "(I)C" } : Jvm.MethodName)) ∈ lw_all := lw_g (lw_at lw_m8 19 rfl) rfl
theorem q1812 : (Jvm.Cond.selects "java/lang/String" ({ cls := "java/lang/String", name := "charAt", desc := "(I)C" } : Jvm.MethodName) ({ cls := "java/lang/String", name := "charAt", desc := "(I)C" } : Jvm.MethodName)) ∈ lw_all := lw_g (lw_at lw_m8 20 rfl) rfl
theorem q1813 : (Jvm.Cond.code ({ cls := "java/lang/String", name := "charAt", desc := "(I)C" } : Jvm.MethodName) prog_43_method_56_code (2 : Nat) (Option.some Jvm.ClassFile.FieldType.char)) ∈ lw_all := lw_g (lw_at lw_m8 21 rfl) rfl
theorem q1814 : (Jvm.Cond.methodLink "java/lang/String" (495 : Nat) ({ cls := "java/lang/StringLatin1", name := "charAt", desc := "([BI)C" } : Jvm.MethodName)) ∈ lw_all := lw_g (lw_at lw_m8 22 rfl) rfl
theorem q1818 : (Jvm.Cond.methodLink "java/lang/String" (498 : Nat) ({ cls := "java/lang/StringUTF16", name := "charAt", desc := "([BI)C" } : Jvm.MethodName)) ∈ lw_all := lw_g (lw_at lw_m8 26 rfl) rfl
theorem q2572 : (Jvm.Cond.castable "java/lang/String" "java/lang/Object") ∈ lw_tbl := lw_at lw_m11 60 rfl
theorem in_J3 : ∀ w ∈ wsJ30, w ∈ lw_all := lw_in wsJ30 [787, 789, 791, 793] (by decide +kernel) (by decide +kernel)

/-! java/lang/StringLatin1 -/
set_option maxRecDepth 100000
def RJ4 : String := "java/lang/StringLatin1"
abbrev cJ4_canEncode : ByteArray := prog_45_method_3_code
def yJ4_canEncode : MethodName := ⟨RJ4, "canEncode", "(C)Z"⟩
theorem dJ4_canEncode_0 : decode cJ4_canEncode 0 = .ok (.iload_n 0, 1) := by decide +kernel
theorem dJ4_canEncode_1 : decode cJ4_canEncode 1 = .ok (.sipush 255, 3) := by decide +kernel
theorem dJ4_canEncode_4 : decode cJ4_canEncode 4 = .ok (.if_icmp .gt 7, 3) := by decide +kernel
theorem dJ4_canEncode_7 : decode cJ4_canEncode 7 = .ok (.iconst 1, 1) := by decide +kernel
theorem dJ4_canEncode_8 : decode cJ4_canEncode 8 = .ok (.goto 4, 3) := by decide +kernel
theorem dJ4_canEncode_11 : decode cJ4_canEncode 11 = .ok (.iconst 0, 1) := by decide +kernel
theorem dJ4_canEncode_12 : decode cJ4_canEncode 12 = .ok (.ireturn, 1) := by decide +kernel
abbrev cJ4_inflate : ByteArray := prog_45_method_50_code
def yJ4_inflate : MethodName := ⟨RJ4, "inflate", "([BI[BII)V"⟩
theorem dJ4_inflate_0 : decode cJ4_inflate 0 = .ok (.aload_n 0, 1) := by decide +kernel
theorem dJ4_inflate_1 : decode cJ4_inflate 1 = .ok (.iload_n 1, 1) := by decide +kernel
theorem dJ4_inflate_2 : decode cJ4_inflate 2 = .ok (.aload_n 2, 1) := by decide +kernel
theorem dJ4_inflate_3 : decode cJ4_inflate 3 = .ok (.iload_n 3, 1) := by decide +kernel
theorem dJ4_inflate_4 : decode cJ4_inflate 4 = .ok (.iload 4, 2) := by decide +kernel
theorem dJ4_inflate_6 : decode cJ4_inflate 6 = .ok (.invokestatic 240, 3) := by decide +kernel
theorem dJ4_inflate_9 : decode cJ4_inflate 9 = .ok (.return_, 1) := by decide +kernel
abbrev cJ4_hashCode : ByteArray := prog_45_method_21_code
def yJ4_hashCode : MethodName := ⟨RJ4, "hashCode", "([B)I"⟩
theorem dJ4_hashCode_0 : decode cJ4_hashCode 0 = .ok (.aload_n 0, 1) := by decide +kernel
theorem dJ4_hashCode_1 : decode cJ4_hashCode 1 = .ok (.arraylength, 1) := by decide +kernel
theorem dJ4_hashCode_2 : decode cJ4_hashCode 2 = .ok (.lookupswitch 40 #[(0, 26), (1, 30)], 26) := by decide +kernel
theorem dJ4_hashCode_28 : decode cJ4_hashCode 28 = .ok (.iconst 0, 1) := by decide +kernel
theorem dJ4_hashCode_29 : decode cJ4_hashCode 29 = .ok (.goto 22, 3) := by decide +kernel
theorem dJ4_hashCode_32 : decode cJ4_hashCode 32 = .ok (.aload_n 0, 1) := by decide +kernel
theorem dJ4_hashCode_33 : decode cJ4_hashCode 33 = .ok (.iconst 0, 1) := by decide +kernel
theorem dJ4_hashCode_34 : decode cJ4_hashCode 34 = .ok (.baload, 1) := by decide +kernel
theorem dJ4_hashCode_35 : decode cJ4_hashCode 35 = .ok (.sipush 255, 3) := by decide +kernel
theorem dJ4_hashCode_38 : decode cJ4_hashCode 38 = .ok (.iand, 1) := by decide +kernel
theorem dJ4_hashCode_39 : decode cJ4_hashCode 39 = .ok (.goto 12, 3) := by decide +kernel
theorem dJ4_hashCode_42 : decode cJ4_hashCode 42 = .ok (.aload_n 0, 1) := by decide +kernel
theorem dJ4_hashCode_43 : decode cJ4_hashCode 43 = .ok (.iconst 0, 1) := by decide +kernel
theorem dJ4_hashCode_44 : decode cJ4_hashCode 44 = .ok (.aload_n 0, 1) := by decide +kernel
theorem dJ4_hashCode_45 : decode cJ4_hashCode 45 = .ok (.arraylength, 1) := by decide +kernel
theorem dJ4_hashCode_46 : decode cJ4_hashCode 46 = .ok (.iconst 0, 1) := by decide +kernel
theorem dJ4_hashCode_47 : decode cJ4_hashCode 47 = .ok (.iconst 4, 1) := by decide +kernel
theorem dJ4_hashCode_48 : decode cJ4_hashCode 48 = .ok (.invokestatic 84, 3) := by decide +kernel
theorem dJ4_hashCode_51 : decode cJ4_hashCode 51 = .ok (.ireturn, 1) := by decide +kernel
abbrev cJ4_equals : ByteArray := prog_45_method_13_code
def yJ4_equals : MethodName := ⟨RJ4, "equals", "([B[B)Z"⟩
theorem dJ4_equals_0 : decode cJ4_equals 0 = .ok (.aload_n 0, 1) := by decide +kernel
theorem dJ4_equals_1 : decode cJ4_equals 1 = .ok (.arraylength, 1) := by decide +kernel
theorem dJ4_equals_2 : decode cJ4_equals 2 = .ok (.aload_n 1, 1) := by decide +kernel
theorem dJ4_equals_3 : decode cJ4_equals 3 = .ok (.arraylength, 1) := by decide +kernel
theorem dJ4_equals_4 : decode cJ4_equals 4 = .ok (.if_icmp .ne 30, 3) := by decide +kernel
theorem dJ4_equals_7 : decode cJ4_equals 7 = .ok (.iconst 0, 1) := by decide +kernel
theorem dJ4_equals_8 : decode cJ4_equals 8 = .ok (.istore_n 2, 1) := by decide +kernel
theorem dJ4_equals_9 : decode cJ4_equals 9 = .ok (.iload_n 2, 1) := by decide +kernel
theorem dJ4_equals_10 : decode cJ4_equals 10 = .ok (.aload_n 0, 1) := by decide +kernel
theorem dJ4_equals_11 : decode cJ4_equals 11 = .ok (.arraylength, 1) := by decide +kernel
theorem dJ4_equals_12 : decode cJ4_equals 12 = .ok (.if_icmp .ge 20, 3) := by decide +kernel
theorem dJ4_equals_15 : decode cJ4_equals 15 = .ok (.aload_n 0, 1) := by decide +kernel
theorem dJ4_equals_16 : decode cJ4_equals 16 = .ok (.iload_n 2, 1) := by decide +kernel
theorem dJ4_equals_17 : decode cJ4_equals 17 = .ok (.baload, 1) := by decide +kernel
theorem dJ4_equals_18 : decode cJ4_equals 18 = .ok (.aload_n 1, 1) := by decide +kernel
theorem dJ4_equals_19 : decode cJ4_equals 19 = .ok (.iload_n 2, 1) := by decide +kernel
theorem dJ4_equals_20 : decode cJ4_equals 20 = .ok (.baload, 1) := by decide +kernel
theorem dJ4_equals_21 : decode cJ4_equals 21 = .ok (.if_icmp .eq 5, 3) := by decide +kernel
theorem dJ4_equals_24 : decode cJ4_equals 24 = .ok (.iconst 0, 1) := by decide +kernel
theorem dJ4_equals_25 : decode cJ4_equals 25 = .ok (.ireturn, 1) := by decide +kernel
theorem dJ4_equals_26 : decode cJ4_equals 26 = .ok (.iinc 2 1, 3) := by decide +kernel
theorem dJ4_equals_29 : decode cJ4_equals 29 = .ok (.goto (-20), 3) := by decide +kernel
theorem dJ4_equals_32 : decode cJ4_equals 32 = .ok (.iconst 1, 1) := by decide +kernel
theorem dJ4_equals_33 : decode cJ4_equals 33 = .ok (.ireturn, 1) := by decide +kernel
theorem dJ4_equals_34 : decode cJ4_equals 34 = .ok (.iconst 0, 1) := by decide +kernel
theorem dJ4_equals_35 : decode cJ4_equals 35 = .ok (.ireturn, 1) := by decide +kernel
abbrev cJ4_indexOf : ByteArray := prog_45_method_22_code
def yJ4_indexOf : MethodName := ⟨RJ4, "indexOf", "([BIII)I"⟩
theorem dJ4_indexOf_0 : decode cJ4_indexOf 0 = .ok (.iload_n 1, 1) := by decide +kernel
theorem dJ4_indexOf_1 : decode cJ4_indexOf 1 = .ok (.invokestatic 88, 3) := by decide +kernel
theorem dJ4_indexOf_4 : decode cJ4_indexOf 4 = .ok (.ifCond .ne 5, 3) := by decide +kernel
theorem dJ4_indexOf_7 : decode cJ4_indexOf 7 = .ok (.iconst (-1), 1) := by decide +kernel
theorem dJ4_indexOf_8 : decode cJ4_indexOf 8 = .ok (.ireturn, 1) := by decide +kernel
theorem dJ4_indexOf_9 : decode cJ4_indexOf 9 = .ok (.iload_n 2, 1) := by decide +kernel
theorem dJ4_indexOf_10 : decode cJ4_indexOf 10 = .ok (.iconst 0, 1) := by decide +kernel
theorem dJ4_indexOf_11 : decode cJ4_indexOf 11 = .ok (.invokestatic 92, 3) := by decide +kernel
theorem dJ4_indexOf_14 : decode cJ4_indexOf 14 = .ok (.istore_n 2, 1) := by decide +kernel
theorem dJ4_indexOf_15 : decode cJ4_indexOf 15 = .ok (.iload_n 3, 1) := by decide +kernel
theorem dJ4_indexOf_16 : decode cJ4_indexOf 16 = .ok (.aload_n 0, 1) := by decide +kernel
theorem dJ4_indexOf_17 : decode cJ4_indexOf 17 = .ok (.arraylength, 1) := by decide +kernel
theorem dJ4_indexOf_18 : decode cJ4_indexOf 18 = .ok (.invokestatic 38, 3) := by decide +kernel
theorem dJ4_indexOf_21 : decode cJ4_indexOf 21 = .ok (.istore_n 3, 1) := by decide +kernel
theorem dJ4_indexOf_22 : decode cJ4_indexOf 22 = .ok (.iload_n 2, 1) := by decide +kernel
theorem dJ4_indexOf_23 : decode cJ4_indexOf 23 = .ok (.iload_n 3, 1) := by decide +kernel
theorem dJ4_indexOf_24 : decode cJ4_indexOf 24 = .ok (.if_icmp .lt 5, 3) := by decide +kernel
theorem dJ4_indexOf_27 : decode cJ4_indexOf 27 = .ok (.iconst (-1), 1) := by decide +kernel
theorem dJ4_indexOf_28 : decode cJ4_indexOf 28 = .ok (.ireturn, 1) := by decide +kernel
theorem dJ4_indexOf_29 : decode cJ4_indexOf 29 = .ok (.aload_n 0, 1) := by decide +kernel
theorem dJ4_indexOf_30 : decode cJ4_indexOf 30 = .ok (.iload_n 1, 1) := by decide +kernel
theorem dJ4_indexOf_31 : decode cJ4_indexOf 31 = .ok (.iload_n 2, 1) := by decide +kernel
theorem dJ4_indexOf_32 : decode cJ4_indexOf 32 = .ok (.iload_n 3, 1) := by decide +kernel
theorem dJ4_indexOf_33 : decode cJ4_indexOf 33 = .ok (.invokestatic 95, 3) := by decide +kernel
theorem dJ4_indexOf_36 : decode cJ4_indexOf 36 = .ok (.ireturn, 1) := by decide +kernel
abbrev cJ4_canEncode_2 : ByteArray := prog_45_method_4_code
def yJ4_canEncode_2 : MethodName := ⟨RJ4, "canEncode", "(I)Z"⟩
theorem dJ4_canEncode_2_0 : decode cJ4_canEncode_2 0 = .ok (.iload_n 0, 1) := by decide +kernel
theorem dJ4_canEncode_2_1 : decode cJ4_canEncode_2 1 = .ok (.ifCond .lt 14, 3) := by decide +kernel
theorem dJ4_canEncode_2_4 : decode cJ4_canEncode_2 4 = .ok (.iload_n 0, 1) := by decide +kernel
theorem dJ4_canEncode_2_5 : decode cJ4_canEncode_2 5 = .ok (.sipush 255, 3) := by decide +kernel
theorem dJ4_canEncode_2_8 : decode cJ4_canEncode_2 8 = .ok (.if_icmp .gt 7, 3) := by decide +kernel
theorem dJ4_canEncode_2_11 : decode cJ4_canEncode_2 11 = .ok (.iconst 1, 1) := by decide +kernel
theorem dJ4_canEncode_2_12 : decode cJ4_canEncode_2 12 = .ok (.goto 4, 3) := by decide +kernel
theorem dJ4_canEncode_2_15 : decode cJ4_canEncode_2 15 = .ok (.iconst 0, 1) := by decide +kernel
theorem dJ4_canEncode_2_16 : decode cJ4_canEncode_2 16 = .ok (.ireturn, 1) := by decide +kernel
abbrev cJ4_indexOfChar : ByteArray := prog_45_method_23_code
def yJ4_indexOfChar : MethodName := ⟨RJ4, "indexOfChar", "([BIII)I"⟩
theorem dJ4_indexOfChar_0 : decode cJ4_indexOfChar 0 = .ok (.iload_n 1, 1) := by decide +kernel
theorem dJ4_indexOfChar_1 : decode cJ4_indexOfChar 1 = .ok (.i2b, 1) := by decide +kernel
theorem dJ4_indexOfChar_2 : decode cJ4_indexOfChar 2 = .ok (.istore 4, 2) := by decide +kernel
theorem dJ4_indexOfChar_4 : decode cJ4_indexOfChar 4 = .ok (.iload_n 2, 1) := by decide +kernel
theorem dJ4_indexOfChar_5 : decode cJ4_indexOfChar 5 = .ok (.istore 5, 2) := by decide +kernel
theorem dJ4_indexOfChar_7 : decode cJ4_indexOfChar 7 = .ok (.iload 5, 2) := by decide +kernel
theorem dJ4_indexOfChar_9 : decode cJ4_indexOfChar 9 = .ok (.iload_n 3, 1) := by decide +kernel
theorem dJ4_indexOfChar_10 : decode cJ4_indexOfChar 10 = .ok (.if_icmp .ge 21, 3) := by decide +kernel
theorem dJ4_indexOfChar_13 : decode cJ4_indexOfChar 13 = .ok (.aload_n 0, 1) := by decide +kernel
theorem dJ4_indexOfChar_14 : decode cJ4_indexOfChar 14 = .ok (.iload 5, 2) := by decide +kernel
theorem dJ4_indexOfChar_16 : decode cJ4_indexOfChar 16 = .ok (.baload, 1) := by decide +kernel
theorem dJ4_indexOfChar_17 : decode cJ4_indexOfChar 17 = .ok (.iload 4, 2) := by decide +kernel
theorem dJ4_indexOfChar_19 : decode cJ4_indexOfChar 19 = .ok (.if_icmp .ne 6, 3) := by decide +kernel
theorem dJ4_indexOfChar_22 : decode cJ4_indexOfChar 22 = .ok (.iload 5, 2) := by decide +kernel
theorem dJ4_indexOfChar_24 : decode cJ4_indexOfChar 24 = .ok (.ireturn, 1) := by decide +kernel
theorem dJ4_indexOfChar_25 : decode cJ4_indexOfChar 25 = .ok (.iinc 5 1, 3) := by decide +kernel
theorem dJ4_indexOfChar_28 : decode cJ4_indexOfChar 28 = .ok (.goto (-21), 3) := by decide +kernel
theorem dJ4_indexOfChar_31 : decode cJ4_indexOfChar 31 = .ok (.iconst (-1), 1) := by decide +kernel
theorem dJ4_indexOfChar_32 : decode cJ4_indexOfChar 32 = .ok (.ireturn, 1) := by decide +kernel
abbrev cJ4_charAt : ByteArray := prog_45_method_2_code
def yJ4_charAt : MethodName := ⟨RJ4, "charAt", "([BI)C"⟩
theorem dJ4_charAt_0 : decode cJ4_charAt 0 = .ok (.iload_n 1, 1) := by decide +kernel
theorem dJ4_charAt_1 : decode cJ4_charAt 1 = .ok (.aload_n 0, 1) := by decide +kernel
theorem dJ4_charAt_2 : decode cJ4_charAt 2 = .ok (.arraylength, 1) := by decide +kernel
theorem dJ4_charAt_3 : decode cJ4_charAt 3 = .ok (.invokestatic 9, 3) := by decide +kernel
theorem dJ4_charAt_6 : decode cJ4_charAt 6 = .ok (.aload_n 0, 1) := by decide +kernel
theorem dJ4_charAt_7 : decode cJ4_charAt 7 = .ok (.iload_n 1, 1) := by decide +kernel
theorem dJ4_charAt_8 : decode cJ4_charAt 8 = .ok (.baload, 1) := by decide +kernel
theorem dJ4_charAt_9 : decode cJ4_charAt 9 = .ok (.sipush 255, 3) := by decide +kernel
theorem dJ4_charAt_12 : decode cJ4_charAt 12 = .ok (.iand, 1) := by decide +kernel
theorem dJ4_charAt_13 : decode cJ4_charAt 13 = .ok (.i2c, 1) := by decide +kernel
theorem dJ4_charAt_14 : decode cJ4_charAt 14 = .ok (.ireturn, 1) := by decide +kernel
theorem q122 : (Jvm.Cond.initialized "java/lang/StringLatin1") ∈ lw_all := lw_g (lw_at lw_m1 10 rfl) rfl
theorem q599 : (Jvm.Cond.static ({ cls := "java/lang/StringLatin1", name := "canEncode", desc := "(C)Z" } : Jvm.MethodName)) ∈ lw_all := lw_g (lw_at lw_m3 7 rfl) rfl
theorem q600 : (Jvm.Cond.code ({ cls := "java/lang/StringLatin1", name := "canEncode", desc := "(C)Z" } : Jvm.MethodName) prog_45_method_3_code (1 : Nat) (Option.some Jvm.ClassFile.FieldType.boolean)) ∈ lw_all := lw_g (lw_at lw_m3 8 rfl) rfl
theorem q606 : (Jvm.Cond.static ({ cls := "java/lang/StringLatin1", name := "inflate", desc := "([BI[BII)V" } : Jvm.MethodName)) ∈ lw_all := lw_g (lw_at lw_m3 14 rfl) rfl
theorem q607 : (Jvm.Cond.code ({ cls := "java/lang/StringLatin1", name := "inflate", desc := "([BI[BII)V" } : Jvm.MethodName) prog_45_method_50_code (5 : Nat) (Option.none : Option Jvm.ClassFile.FieldType)) ∈ lw_all := lw_g (lw_at lw_m3 15 rfl) rfl
theorem q608 : (Jvm.Cond.methodLink "java/lang/StringLatin1" (240 : Nat) ({ cls := "java/lang/StringUTF16", name := "inflate", desc := "([BI[BII)V" } : Jvm.MethodName)) ∈ lw_all := lw_g (lw_at lw_m3 16 rfl) rfl
theorem q808 : (Jvm.Cond.static ({ cls := "java/lang/StringLatin1", name := "hashCode", desc := "([B)I" } : Jvm.MethodName)) ∈ lw_all := lw_g (lw_at lw_m3 216 rfl) rfl
theorem q809 : (Jvm.Cond.code ({ cls := "java/lang/StringLatin1", name := "hashCode", desc := "([B)I" } : Jvm.MethodName) prog_45_method_21_code (1 : Nat) (Option.some Jvm.ClassFile.FieldType.int)) ∈ lw_all := lw_g (lw_at lw_m3 217 rfl) rfl
theorem q810 : (Jvm.Cond.methodLink "java/lang/StringLatin1" (84 : Nat) ({ cls := "jdk/internal/util/ArraysSupport", name := "vectorizedHashCode", desc := "(Ljava/lang/Object;IIII)I" } : Jvm.MethodName)) ∈ lw_all := lw_g (lw_at lw_m3 218 rfl) rfl
theorem q867 : (Jvm.Cond.static ({ cls := "java/lang/StringLatin1", name := "equals", desc := "([B[B)Z" } : Jvm.MethodName)) ∈ lw_all := lw_g (lw_at lw_m4 35 rfl) rfl
theorem q868 : (Jvm.Cond.code ({ cls := "java/lang/StringLatin1", name := "equals", desc := "([B[B)Z" } : Jvm.MethodName) prog_45_method_13_code (3 : Nat) (Option.some Jvm.ClassFile.FieldType.boolean)) ∈ lw_all := lw_g (lw_at lw_m4 36 rfl) rfl
theorem q894 : (Jvm.Cond.static ({ cls := "java/lang/StringLatin1", name := "indexOf", desc := "([BIII)I" } : Jvm.MethodName)) ∈ lw_all := lw_g (lw_at lw_m4 62 rfl) rfl
theorem q895 : (Jvm.Cond.code ({ cls := "java/lang/StringLatin1", name := "indexOf", desc := "([BIII)I" } : Jvm.MethodName) prog_45_method_22_code (4 : Nat) (Option.some Jvm.ClassFile.FieldType.int)) ∈ lw_all := lw_g (lw_at lw_m4 63 rfl) rfl
theorem q896 : (Jvm.Cond.methodLink "java/lang/StringLatin1" (88 : Nat) ({ cls := "java/lang/StringLatin1", name := "canEncode", desc := "(I)Z" } : Jvm.MethodName)) ∈ lw_all := lw_g (lw_at lw_m4 64 rfl) rfl
theorem q897 : (Jvm.Cond.static ({ cls := "java/lang/StringLatin1", name := "canEncode", desc := "(I)Z" } : Jvm.MethodName)) ∈ lw_all := lw_g (lw_at lw_m4 65 rfl) rfl
theorem q898 : (Jvm.Cond.code ({ cls := "java/lang/StringLatin1", name := "canEncode", desc := "(I)Z" } : Jvm.MethodName) prog_45_method_4_code (1 : Nat) (Option.some Jvm.ClassFile.FieldType.boolean)) ∈ lw_all := lw_g (lw_at lw_m4 66 rfl) rfl
theorem q899 : (Jvm.Cond.methodLink "java/lang/StringLatin1" (92 : Nat) ({ cls := "java/lang/Math", name := "max", desc := "(II)I" } : Jvm.MethodName)) ∈ lw_all := lw_g (lw_at lw_m4 67 rfl) rfl
theorem q900 : (Jvm.Cond.methodLink "java/lang/StringLatin1" (38 : Nat) ({ cls := "java/lang/Math", name := "min", desc := "(II)I" } : Jvm.MethodName)) ∈ lw_all := lw_g (lw_at lw_m4 68 rfl) rfl
theorem q901 : (Jvm.Cond.methodLink "java/lang/StringLatin1" (95 : Nat) ({ cls := "java/lang/StringLatin1", name := "indexOfChar", desc := "([BIII)I" } : Jvm.MethodName)) ∈ lw_all := lw_g (lw_at lw_m4 69 rfl) rfl
theorem q902 : (Jvm.Cond.static ({ cls := "java/lang/StringLatin1", name := "indexOfChar", desc := "([BIII)I" } : Jvm.MethodName)) ∈ lw_all := lw_g (lw_at lw_m4 70 rfl) rfl
theorem q903 : (Jvm.Cond.code ({ cls := "java/lang/StringLatin1", name := "indexOfChar", desc := "([BIII)I" } : Jvm.MethodName) prog_45_method_23_code (6 : Nat) (Option.some Jvm.ClassFile.FieldType.int)) ∈ lw_all := lw_g (lw_at lw_m4 71 rfl) rfl
theorem q1815 : (Jvm.Cond.static ({ cls := "java/lang/StringLatin1", name := "charAt", desc := "([BI)C" } : Jvm.MethodName)) ∈ lw_all := lw_g (lw_at lw_m8 23 rfl) rfl
theorem q1816 : (Jvm.Cond.code ({ cls := "java/lang/StringLatin1", name := "charAt", desc := "([BI)C" } : Jvm.MethodName) prog_45_method_2_code (2 : Nat) (Option.some Jvm.ClassFile.FieldType.char)) ∈ lw_all := lw_g (lw_at lw_m8 24 rfl) rfl
theorem q1817 : (Jvm.Cond.methodLink "java/lang/StringLatin1" (9 : Nat) ({ cls := "java/lang/String", name := "checkIndex", desc := "(II)V" } : Jvm.MethodName)) ∈ lw_all := lw_g (lw_at lw_m8 25 rfl) rfl

/-! jdk/internal/util/Preconditions -/
set_option maxRecDepth 100000
def RJ5 : String := "jdk/internal/util/Preconditions"
abbrev cJ5_checkFromIndexSize : ByteArray := prog_64_method_13_code
def yJ5_checkFromIndexSize : MethodName := ⟨RJ5, "checkFromIndexSize", "(IIILjava/util/function/BiFunction;)I"⟩
theorem dJ5_checkFromIndexSize_0 : decode cJ5_checkFromIndexSize 0 = .ok (.iload_n 2, 1) := by decide +kernel
theorem dJ5_checkFromIndexSize_1 : decode cJ5_checkFromIndexSize 1 = .ok (.iload_n 0, 1) := by decide +kernel
theorem dJ5_checkFromIndexSize_2 : decode cJ5_checkFromIndexSize 2 = .ok (.ior, 1) := by decide +kernel
theorem dJ5_checkFromIndexSize_3 : decode cJ5_checkFromIndexSize 3 = .ok (.iload_n 1, 1) := by decide +kernel
theorem dJ5_checkFromIndexSize_4 : decode cJ5_checkFromIndexSize 4 = .ok (.ior, 1) := by decide +kernel
theorem dJ5_checkFromIndexSize_5 : decode cJ5_checkFromIndexSize 5 = .ok (.ifCond .lt 10, 3) := by decide +kernel
theorem dJ5_checkFromIndexSize_8 : decode cJ5_checkFromIndexSize 8 = .ok (.iload_n 1, 1) := by decide +kernel
theorem dJ5_checkFromIndexSize_9 : decode cJ5_checkFromIndexSize 9 = .ok (.iload_n 2, 1) := by decide +kernel
theorem dJ5_checkFromIndexSize_10 : decode cJ5_checkFromIndexSize 10 = .ok (.iload_n 0, 1) := by decide +kernel
theorem dJ5_checkFromIndexSize_11 : decode cJ5_checkFromIndexSize 11 = .ok (.isub, 1) := by decide +kernel
theorem dJ5_checkFromIndexSize_12 : decode cJ5_checkFromIndexSize 12 = .ok (.if_icmp .le 11, 3) := by decide +kernel
theorem dJ5_checkFromIndexSize_15 : decode cJ5_checkFromIndexSize 15 = .ok (.aload_n 3, 1) := by decide +kernel
theorem dJ5_checkFromIndexSize_16 : decode cJ5_checkFromIndexSize 16 = .ok (.iload_n 0, 1) := by decide +kernel
theorem dJ5_checkFromIndexSize_17 : decode cJ5_checkFromIndexSize 17 = .ok (.iload_n 1, 1) := by decide +kernel
theorem dJ5_checkFromIndexSize_18 : decode cJ5_checkFromIndexSize 18 = .ok (.iload_n 2, 1) := by decide +kernel
theorem dJ5_checkFromIndexSize_19 : decode cJ5_checkFromIndexSize 19 = .ok (.invokestatic 103, 3) := by decide +kernel
theorem dJ5_checkFromIndexSize_22 : decode cJ5_checkFromIndexSize 22 = .ok (.athrow, 1) := by decide +kernel
theorem dJ5_checkFromIndexSize_23 : decode cJ5_checkFromIndexSize 23 = .ok (.iload_n 0, 1) := by decide +kernel
theorem dJ5_checkFromIndexSize_24 : decode cJ5_checkFromIndexSize 24 = .ok (.ireturn, 1) := by decide +kernel
abbrev cJ5_checkIndex : ByteArray := prog_64_method_11_code
def yJ5_checkIndex : MethodName := ⟨RJ5, "checkIndex", "(IILjava/util/function/BiFunction;)I"⟩
theorem dJ5_checkIndex_0 : decode cJ5_checkIndex 0 = .ok (.iload_n 0, 1) := by decide +kernel
theorem dJ5_checkIndex_1 : decode cJ5_checkIndex 1 = .ok (.ifCond .lt 8, 3) := by decide +kernel
theorem dJ5_checkIndex_4 : decode cJ5_checkIndex 4 = .ok (.iload_n 0, 1) := by decide +kernel
theorem dJ5_checkIndex_5 : decode cJ5_checkIndex 5 = .ok (.iload_n 1, 1) := by decide +kernel
theorem dJ5_checkIndex_6 : decode cJ5_checkIndex 6 = .ok (.if_icmp .lt 10, 3) := by decide +kernel
theorem dJ5_checkIndex_9 : decode cJ5_checkIndex 9 = .ok (.aload_n 2, 1) := by decide +kernel
theorem dJ5_checkIndex_10 : decode cJ5_checkIndex 10 = .ok (.iload_n 0, 1) := by decide +kernel
theorem dJ5_checkIndex_11 : decode cJ5_checkIndex 11 = .ok (.iload_n 1, 1) := by decide +kernel
theorem dJ5_checkIndex_12 : decode cJ5_checkIndex 12 = .ok (.invokestatic 95, 3) := by decide +kernel
theorem dJ5_checkIndex_15 : decode cJ5_checkIndex 15 = .ok (.athrow, 1) := by decide +kernel
theorem dJ5_checkIndex_16 : decode cJ5_checkIndex 16 = .ok (.iload_n 0, 1) := by decide +kernel
theorem dJ5_checkIndex_17 : decode cJ5_checkIndex 17 = .ok (.ireturn, 1) := by decide +kernel
abbrev cJ5_checkFromToIndex : ByteArray := prog_64_method_12_code
def yJ5_checkFromToIndex : MethodName := ⟨RJ5, "checkFromToIndex", "(IIILjava/util/function/BiFunction;)I"⟩
theorem dJ5_checkFromToIndex_0 : decode cJ5_checkFromToIndex 0 = .ok (.iload_n 0, 1) := by decide +kernel
theorem dJ5_checkFromToIndex_1 : decode cJ5_checkFromToIndex 1 = .ok (.ifCond .lt 13, 3) := by decide +kernel
theorem dJ5_checkFromToIndex_4 : decode cJ5_checkFromToIndex 4 = .ok (.iload_n 0, 1) := by decide +kernel
theorem dJ5_checkFromToIndex_5 : decode cJ5_checkFromToIndex 5 = .ok (.iload_n 1, 1) := by decide +kernel
theorem dJ5_checkFromToIndex_6 : decode cJ5_checkFromToIndex 6 = .ok (.if_icmp .gt 8, 3) := by decide +kernel
theorem dJ5_checkFromToIndex_9 : decode cJ5_checkFromToIndex 9 = .ok (.iload_n 1, 1) := by decide +kernel
theorem dJ5_checkFromToIndex_10 : decode cJ5_checkFromToIndex 10 = .ok (.iload_n 2, 1) := by decide +kernel
theorem dJ5_checkFromToIndex_11 : decode cJ5_checkFromToIndex 11 = .ok (.if_icmp .le 11, 3) := by decide +kernel
theorem dJ5_checkFromToIndex_14 : decode cJ5_checkFromToIndex 14 = .ok (.aload_n 3, 1) := by decide +kernel
theorem dJ5_checkFromToIndex_15 : decode cJ5_checkFromToIndex 15 = .ok (.iload_n 0, 1) := by decide +kernel
theorem dJ5_checkFromToIndex_16 : decode cJ5_checkFromToIndex 16 = .ok (.iload_n 1, 1) := by decide +kernel
theorem dJ5_checkFromToIndex_17 : decode cJ5_checkFromToIndex 17 = .ok (.iload_n 2, 1) := by decide +kernel
theorem dJ5_checkFromToIndex_18 : decode cJ5_checkFromToIndex 18 = .ok (.invokestatic 99, 3) := by decide +kernel
theorem dJ5_checkFromToIndex_21 : decode cJ5_checkFromToIndex 21 = .ok (.athrow, 1) := by decide +kernel
theorem dJ5_checkFromToIndex_22 : decode cJ5_checkFromToIndex 22 = .ok (.iload_n 0, 1) := by decide +kernel
theorem dJ5_checkFromToIndex_23 : decode cJ5_checkFromToIndex 23 = .ok (.ireturn, 1) := by decide +kernel
theorem q123 : (Jvm.Cond.initialized "jdk/internal/util/Preconditions") ∈ lw_all := lw_g (lw_at lw_m1 11 rfl) rfl
theorem q621 : (Jvm.Cond.laysStatic "jdk/internal/util/Preconditions" "SIOOBE_FORMATTER" "Ljava/util/function/BiFunction;") ∈ lw_tbl := lw_at lw_m3 29 rfl
theorem q623 : (Jvm.Cond.static ({ cls := "jdk/internal/util/Preconditions", name := "checkFromIndexSize", desc := "(IIILjava/util/function/BiFunction;)I" } : Jvm.MethodName)) ∈ lw_all := lw_g (lw_at lw_m3 31 rfl) rfl
theorem q624 : (Jvm.Cond.code ({ cls := "jdk/internal/util/Preconditions", name := "checkFromIndexSize", desc := "(IIILjava/util/function/BiFunction;)I" } : Jvm.MethodName) prog_64_method_13_code (4 : Nat) (Option.some Jvm.ClassFile.FieldType.int)) ∈ lw_all := lw_g (lw_at lw_m3 32 rfl) rfl
theorem q644 : (Jvm.Cond.static ({ cls := "jdk/internal/util/Preconditions", name := "checkIndex", desc := "(IILjava/util/function/BiFunction;)I" } : Jvm.MethodName)) ∈ lw_all := lw_g (lw_at lw_m3 52 rfl) rfl
theorem q645 : (Jvm.Cond.code ({ cls := "jdk/internal/util/Preconditions", name := "checkIndex", desc := "(IILjava/util/function/BiFunction;)I" } : Jvm.MethodName) prog_64_method_11_code (3 : Nat) (Option.some Jvm.ClassFile.FieldType.int)) ∈ lw_all := lw_g (lw_at lw_m3 53 rfl) rfl
theorem q711 : (Jvm.Cond.static ({ cls := "jdk/internal/util/Preconditions", name := "checkFromToIndex", desc := "(IIILjava/util/function/BiFunction;)I" } : Jvm.MethodName)) ∈ lw_all := lw_g (lw_at lw_m3 119 rfl) rfl
theorem q712 : (Jvm.Cond.code ({ cls := "jdk/internal/util/Preconditions", name := "checkFromToIndex", desc := "(IIILjava/util/function/BiFunction;)I" } : Jvm.MethodName) prog_64_method_12_code (4 : Nat) (Option.some Jvm.ClassFile.FieldType.int)) ∈ lw_all := lw_g (lw_at lw_m3 120 rfl) rfl

/-! java/lang/Throwable -/
set_option maxRecDepth 100000
def RJ7 : String := "java/lang/Throwable"
def TJ7 : u_T := fun k => match k with
  | 0 => ("java/lang/Throwable", "cause", "Ljava/lang/Throwable;", false)
  | 1 => ("java/lang/Throwable", "stackTrace", "[Ljava/lang/StackTraceElement;", false)
  | 2 => ("java/lang/Throwable", "suppressedExceptions", "Ljava/util/List;", false)
  | 3 => ("java/lang/Throwable", "detailMessage", "Ljava/lang/String;", false)
  | _ => ("java/lang/Throwable", "backtrace", "Ljava/lang/Object;", false)
def tyJ7 : Nat → FieldType := fun k => match k with
  | 0 => .object "java/lang/Throwable"
  | 1 => .array (.object "java/lang/StackTraceElement")
  | 2 => .object "java/util/List"
  | 3 => .object "java/lang/String"
  | _ => .object "java/lang/Object"
abbrev wsJ70 : List Cond := u_ws RJ7 TJ7 5
theorem nmJ7 : ∀ a, a < 5 → ∀ b, b < 5 → a ≠ b → (TJ7 a).2.1 ≠ (TJ7 b).2.1 := by decide +kernel
theorem tyJ7_ok : ∀ k, k < 5 → parseFieldDescriptor (TJ7 k).2.2.1 = some (tyJ7 k) := by decide +kernel
abbrev cJ7_init : ByteArray := prog_49_method_1_code
def yJ7_init : MethodName := ⟨RJ7, "<init>", "()V"⟩
theorem dJ7_init_0 : decode cJ7_init 0 = .ok (.aload_n 0, 1) := by decide +kernel
theorem dJ7_init_1 : decode cJ7_init 1 = .ok (.invokespecial 1, 3) := by decide +kernel
theorem dJ7_init_4 : decode cJ7_init 4 = .ok (.aload_n 0, 1) := by decide +kernel
theorem dJ7_init_5 : decode cJ7_init 5 = .ok (.aload_n 0, 1) := by decide +kernel
theorem dJ7_init_6 : decode cJ7_init 6 = .ok (.putfield 7, 3) := by decide +kernel
theorem dJ7_init_9 : decode cJ7_init 9 = .ok (.aload_n 0, 1) := by decide +kernel
theorem dJ7_init_10 : decode cJ7_init 10 = .ok (.getstatic 13, 3) := by decide +kernel
theorem dJ7_init_13 : decode cJ7_init 13 = .ok (.putfield 17, 3) := by decide +kernel
theorem dJ7_init_16 : decode cJ7_init 16 = .ok (.aload_n 0, 1) := by decide +kernel
theorem dJ7_init_17 : decode cJ7_init 17 = .ok (.getstatic 20, 3) := by decide +kernel
theorem dJ7_init_20 : decode cJ7_init 20 = .ok (.putfield 24, 3) := by decide +kernel
theorem dJ7_init_23 : decode cJ7_init 23 = .ok (.aload_n 0, 1) := by decide +kernel
theorem dJ7_init_24 : decode cJ7_init 24 = .ok (.invokevirtual 27, 3) := by decide +kernel
theorem dJ7_init_27 : decode cJ7_init 27 = .ok (.pop, 1) := by decide +kernel
theorem dJ7_init_28 : decode cJ7_init 28 = .ok (.return_, 1) := by decide +kernel
abbrev cJ7_init_2 : ByteArray := prog_49_method_2_code
def yJ7_init_2 : MethodName := ⟨RJ7, "<init>", "(Ljava/lang/String;)V"⟩
theorem dJ7_init_2_0 : decode cJ7_init_2 0 = .ok (.aload_n 0, 1) := by decide +kernel
theorem dJ7_init_2_1 : decode cJ7_init_2 1 = .ok (.invokespecial 1, 3) := by decide +kernel
theorem dJ7_init_2_4 : decode cJ7_init_2 4 = .ok (.aload_n 0, 1) := by decide +kernel
theorem dJ7_init_2_5 : decode cJ7_init_2 5 = .ok (.aload_n 0, 1) := by decide +kernel
theorem dJ7_init_2_6 : decode cJ7_init_2 6 = .ok (.putfield 7, 3) := by decide +kernel
theorem dJ7_init_2_9 : decode cJ7_init_2 9 = .ok (.aload_n 0, 1) := by decide +kernel
theorem dJ7_init_2_10 : decode cJ7_init_2 10 = .ok (.getstatic 13, 3) := by decide +kernel
theorem dJ7_init_2_13 : decode cJ7_init_2 13 = .ok (.putfield 17, 3) := by decide +kernel
theorem dJ7_init_2_16 : decode cJ7_init_2 16 = .ok (.aload_n 0, 1) := by decide +kernel
theorem dJ7_init_2_17 : decode cJ7_init_2 17 = .ok (.getstatic 20, 3) := by decide +kernel
theorem dJ7_init_2_20 : decode cJ7_init_2 20 = .ok (.putfield 24, 3) := by decide +kernel
theorem dJ7_init_2_23 : decode cJ7_init_2 23 = .ok (.aload_n 0, 1) := by decide +kernel
theorem dJ7_init_2_24 : decode cJ7_init_2 24 = .ok (.invokevirtual 27, 3) := by decide +kernel
theorem dJ7_init_2_27 : decode cJ7_init_2 27 = .ok (.pop, 1) := by decide +kernel
theorem dJ7_init_2_28 : decode cJ7_init_2 28 = .ok (.aload_n 0, 1) := by decide +kernel
theorem dJ7_init_2_29 : decode cJ7_init_2 29 = .ok (.aload_n 1, 1) := by decide +kernel
theorem dJ7_init_2_30 : decode cJ7_init_2 30 = .ok (.putfield 31, 3) := by decide +kernel
theorem dJ7_init_2_33 : decode cJ7_init_2 33 = .ok (.return_, 1) := by decide +kernel
theorem q125 : (Jvm.Cond.initialized "java/lang/Throwable") ∈ lw_all := lw_g (lw_at lw_m1 13 rfl) rfl
theorem q386 : (Jvm.Cond.declares ({ cls := "java/lang/Throwable", name := "<init>", desc := "()V" } : Jvm.MethodName)) ∈ lw_tbl := lw_at lw_m2 34 rfl
theorem q387 : (Jvm.Cond.declares ({ cls := "java/lang/Throwable", name := "<init>", desc := "(Ljava/lang/String;)V" } : Jvm.MethodName)) ∈ lw_tbl := lw_at lw_m2 35 rfl
theorem q391 : (Jvm.Cond.lays "java/lang/Throwable" "java/lang/Throwable" "cause" "Ljava/lang/Throwable;") ∈ lw_all := lw_g (lw_at lw_m2 39 rfl) rfl
theorem q393 : (Jvm.Cond.lays "java/lang/Throwable" "java/lang/Throwable" "stackTrace" "[Ljava/lang/StackTraceElement;") ∈ lw_all := lw_g (lw_at lw_m2 41 rfl) rfl
theorem q395 : (Jvm.Cond.lays "java/lang/Throwable" "java/lang/Throwable" "suppressedExceptions" "Ljava/util/List;") ∈ lw_all := lw_g (lw_at lw_m2 43 rfl) rfl
theorem q397 : (Jvm.Cond.lays "java/lang/Throwable" "java/lang/Throwable" "detailMessage" "Ljava/lang/String;") ∈ lw_all := lw_g (lw_at lw_m2 45 rfl) rfl
theorem q399 : (Jvm.Cond.lays "java/lang/Throwable" "java/lang/Throwable" "backtrace" "Ljava/lang/Object;") ∈ lw_all := lw_g (lw_at lw_m2 47 rfl) rfl
theorem q400 : (Jvm.Cond.fieldLink "java/lang/Throwable" (198 : Nat) "java/lang/Throwable" "backtrace" "Ljava/lang/Object;") ∈ lw_all := lw_g (lw_at lw_m2 48 rfl) rfl
theorem q401 : (Jvm.Cond.superclass "java/lang/Throwable" "java/lang/Object") ∈ lw_all := lw_g (lw_at lw_m2 49 rfl) rfl
theorem q402 : (Jvm.Cond.instanceMethod ({ cls := "java/lang/Throwable", name := "<init>", desc := "()V" } : Jvm.MethodName)) ∈ lw_all := lw_g (lw_at lw_m2 50 rfl) rfl
theorem q403 : (Jvm.Cond.code ({ cls := "java/lang/Throwable", name := "<init>", desc := "()V" } : Jvm.MethodName) prog_49_method_1_code (1 : Nat) (Option.none : Option Jvm.ClassFile.FieldType)) ∈ lw_all := lw_g (lw_at lw_m2 51 rfl) rfl
theorem q404 : (Jvm.Cond.methodLink "java/lang/Throwable" (1 : Nat) ({ cls := "java/lang/Object", name := "<init>", desc := "()V" } : Jvm.MethodName)) ∈ lw_all := lw_g (lw_at lw_m2 52 rfl) rfl
theorem q405 : (Jvm.Cond.fieldLink "java/lang/Throwable" (13 : Nat) "java/lang/Throwable" "UNASSIGNED_STACK" "[Ljava/lang/StackTraceElement;") ∈ lw_all := lw_g (lw_at lw_m2 53 rfl) rfl
theorem q406 : (Jvm.Cond.laysStatic "java/lang/Throwable" "UNASSIGNED_STACK" "[Ljava/lang/StackTraceElement;") ∈ lw_tbl := lw_at lw_m2 54 rfl
theorem q407 : (Jvm.Cond.fieldLink "java/lang/Throwable" (20 : Nat) "java/lang/Throwable" "SUPPRESSED_SENTINEL" "Ljava/util/List;") ∈ lw_all := lw_g (lw_at lw_m2 55 rfl) rfl
theorem q408 : (Jvm.Cond.laysStatic "java/lang/Throwable" "SUPPRESSED_SENTINEL" "Ljava/util/List;") ∈ lw_tbl := lw_at lw_m2 56 rfl
theorem q409 : (Jvm.Cond.methodLink "java/lang/Throwable" (27 : Nat) ({ cls := "java/lang/Throwable", name := "fillInStackTrace", desc := "()Ljava/lang/Throwable;" } : Jvm.MethodName)) ∈ lw_all := lw_g (lw_at lw_m2 57 rfl) rfl
theorem q410 : (Jvm.Cond.instanceMethod ({ cls := "java/lang/Throwable", name := "fillInStackTrace", desc := "()Ljava/lang/Throwable;" } : Jvm.MethodName)) ∈ lw_all := lw_g (lw_at lw_m2 58 rfl) rfl
theorem q411 : (Jvm.Cond.sameMethod "java/lang/Throwable" "java/lang/Throwable" "fillInStackTrace" "()Ljava/lang/Throwable;") ∈ lw_all := lw_g (lw_at lw_m2 59 rfl) rfl
theorem q415 : (Jvm.Cond.codeSync ({ cls := "java/lang/Throwable", name := "fillInStackTrace", desc := "()Ljava/lang/Throwable;" } : Jvm.MethodName) prog_49_method_18_code (1 : Nat) (Option.some (Jvm.ClassFile.FieldType.object "java/lang/Throwable"))) ∈ lw_all := lw_g (lw_at lw_m2 63 rfl) rfl
theorem q416 : (Jvm.Cond.methodLink "java/lang/Throwable" (202 : Nat) ({ cls := "java/lang/Throwable", name := "fillInStackTrace", desc := "(I)Ljava/lang/Throwable;" } : Jvm.MethodName)) ∈ lw_all := lw_g (lw_at lw_m2 64 rfl) rfl
theorem q417 : (Jvm.Cond.privateMethod ({ cls := "java/lang/Throwable", name := "fillInStackTrace", desc := "(I)Ljava/lang/Throwable;" } : Jvm.MethodName)) ∈ lw_tbl := lw_at lw_m2 65 rfl
theorem q418 : (Jvm.Cond.instanceMethod ({ cls := "java/lang/Throwable", name := "fillInStackTrace", desc := "(I)Ljava/lang/Throwable;" } : Jvm.MethodName)) ∈ lw_all := lw_g (lw_at lw_m2 66 rfl) rfl
theorem q419 : (Jvm.Cond.instantiable "java/lang/Throwable" (6 : Nat)) ∈ lw_all := lw_g (lw_at lw_m2 67 rfl) rfl
theorem q420 : (Jvm.Cond.native ({ cls := "java/lang/Throwable", name := "fillInStackTrace", desc := "(I)Ljava/lang/Throwable;" } : Jvm.MethodName)) ∈ lw_all := lw_g (lw_at lw_m2 68 rfl) rfl
theorem q431 : (Jvm.Cond.fieldLink "java/lang/Throwable" (198 : Nat) "java/lang/Throwable" "backtrace" "Ljava/lang/Object;") ∈ lw_all := lw_g (lw_at lw_m2 79 rfl) rfl
theorem q432 : (Jvm.Cond.fieldLink "java/lang/Throwable" (31 : Nat) "java/lang/Throwable" "detailMessage" "Ljava/lang/String;") ∈ lw_all := lw_g (lw_at lw_m2 80 rfl) rfl
theorem q433 : (Jvm.Cond.fieldLink "java/lang/Throwable" (7 : Nat) "java/lang/Throwable" "cause" "Ljava/lang/Throwable;") ∈ lw_all := lw_g (lw_at lw_m2 81 rfl) rfl
theorem q434 : (Jvm.Cond.fieldLink "java/lang/Throwable" (17 : Nat) "java/lang/Throwable" "stackTrace" "[Ljava/lang/StackTraceElement;") ∈ lw_all := lw_g (lw_at lw_m2 82 rfl) rfl
theorem q435 : (Jvm.Cond.fieldLink "java/lang/Throwable" (24 : Nat) "java/lang/Throwable" "suppressedExceptions" "Ljava/util/List;") ∈ lw_all := lw_g (lw_at lw_m2 83 rfl) rfl
theorem q436 : (Jvm.Cond.soleField "java/lang/Throwable" "backtrace") ∈ lw_all := lw_g (lw_at lw_m2 84 rfl) rfl
theorem q437 : (Jvm.Cond.soleField "java/lang/Throwable" "detailMessage") ∈ lw_all := lw_g (lw_at lw_m2 85 rfl) rfl
theorem q438 : (Jvm.Cond.soleField "java/lang/Throwable" "cause") ∈ lw_all := lw_g (lw_at lw_m2 86 rfl) rfl
theorem q439 : (Jvm.Cond.soleField "java/lang/Throwable" "stackTrace") ∈ lw_all := lw_g (lw_at lw_m2 87 rfl) rfl
theorem q441 : (Jvm.Cond.soleField "java/lang/Throwable" "depth") ∈ lw_all := lw_g (lw_at lw_m2 89 rfl) rfl
theorem q442 : (Jvm.Cond.soleField "java/lang/Throwable" "suppressedExceptions") ∈ lw_all := lw_g (lw_at lw_m2 90 rfl) rfl
theorem q768 : (Jvm.Cond.instanceMethod ({ cls := "java/lang/Throwable", name := "<init>", desc := "(Ljava/lang/String;)V" } : Jvm.MethodName)) ∈ lw_all := lw_g (lw_at lw_m3 176 rfl) rfl
theorem q769 : (Jvm.Cond.code ({ cls := "java/lang/Throwable", name := "<init>", desc := "(Ljava/lang/String;)V" } : Jvm.MethodName) prog_49_method_2_code (2 : Nat) (Option.none : Option Jvm.ClassFile.FieldType)) ∈ lw_all := lw_g (lw_at lw_m3 177 rfl) rfl
theorem q2551 : (Jvm.Cond.sameMethod "java/lang/Throwable" "java/lang/Throwable" "fillInStackTrace" "(I)Ljava/lang/Throwable;") ∈ lw_all := lw_g (lw_at lw_m11 39 rfl) rfl
theorem q2603 : (Jvm.Cond.castable "java/lang/Throwable" "java/lang/Object") ∈ lw_tbl := lw_at lw_m11 91 rfl
theorem in_J7 : ∀ w ∈ wsJ70, w ∈ lw_all := lw_in wsJ70 [391, 393, 395, 397, 399] (by decide +kernel) (by decide +kernel)

/-! java/lang/Exception -/
set_option maxRecDepth 100000
def RJ8 : String := "java/lang/Exception"
abbrev cJ8_init : ByteArray := prog_35_method_1_code
def yJ8_init : MethodName := ⟨RJ8, "<init>", "()V"⟩
theorem dJ8_init_0 : decode cJ8_init 0 = .ok (.aload_n 0, 1) := by decide +kernel
theorem dJ8_init_1 : decode cJ8_init 1 = .ok (.invokespecial 1, 3) := by decide +kernel
theorem dJ8_init_4 : decode cJ8_init 4 = .ok (.return_, 1) := by decide +kernel
abbrev cJ8_init_2 : ByteArray := prog_35_method_2_code
def yJ8_init_2 : MethodName := ⟨RJ8, "<init>", "(Ljava/lang/String;)V"⟩
theorem dJ8_init_2_0 : decode cJ8_init_2 0 = .ok (.aload_n 0, 1) := by decide +kernel
theorem dJ8_init_2_1 : decode cJ8_init_2 1 = .ok (.aload_n 1, 1) := by decide +kernel
theorem dJ8_init_2_2 : decode cJ8_init_2 2 = .ok (.invokespecial 7, 3) := by decide +kernel
theorem dJ8_init_2_5 : decode cJ8_init_2 5 = .ok (.return_, 1) := by decide +kernel
theorem q126 : (Jvm.Cond.initialized "java/lang/Exception") ∈ lw_all := lw_g (lw_at lw_m1 14 rfl) rfl
theorem q384 : (Jvm.Cond.declares ({ cls := "java/lang/Exception", name := "<init>", desc := "()V" } : Jvm.MethodName)) ∈ lw_tbl := lw_at lw_m2 32 rfl
theorem q385 : (Jvm.Cond.declares ({ cls := "java/lang/Exception", name := "<init>", desc := "(Ljava/lang/String;)V" } : Jvm.MethodName)) ∈ lw_tbl := lw_at lw_m2 33 rfl
theorem q428 : (Jvm.Cond.instanceMethod ({ cls := "java/lang/Exception", name := "<init>", desc := "()V" } : Jvm.MethodName)) ∈ lw_all := lw_g (lw_at lw_m2 76 rfl) rfl
theorem q429 : (Jvm.Cond.code ({ cls := "java/lang/Exception", name := "<init>", desc := "()V" } : Jvm.MethodName) prog_35_method_1_code (1 : Nat) (Option.none : Option Jvm.ClassFile.FieldType)) ∈ lw_all := lw_g (lw_at lw_m2 77 rfl) rfl
theorem q430 : (Jvm.Cond.methodLink "java/lang/Exception" (1 : Nat) ({ cls := "java/lang/Throwable", name := "<init>", desc := "()V" } : Jvm.MethodName)) ∈ lw_all := lw_g (lw_at lw_m2 78 rfl) rfl
theorem q765 : (Jvm.Cond.instanceMethod ({ cls := "java/lang/Exception", name := "<init>", desc := "(Ljava/lang/String;)V" } : Jvm.MethodName)) ∈ lw_all := lw_g (lw_at lw_m3 173 rfl) rfl
theorem q766 : (Jvm.Cond.code ({ cls := "java/lang/Exception", name := "<init>", desc := "(Ljava/lang/String;)V" } : Jvm.MethodName) prog_35_method_2_code (2 : Nat) (Option.none : Option Jvm.ClassFile.FieldType)) ∈ lw_all := lw_g (lw_at lw_m3 174 rfl) rfl
theorem q767 : (Jvm.Cond.methodLink "java/lang/Exception" (7 : Nat) ({ cls := "java/lang/Throwable", name := "<init>", desc := "(Ljava/lang/String;)V" } : Jvm.MethodName)) ∈ lw_all := lw_g (lw_at lw_m3 175 rfl) rfl

/-! java/lang/RuntimeException -/
set_option maxRecDepth 100000
def RJ9 : String := "java/lang/RuntimeException"
abbrev cJ9_init : ByteArray := prog_42_method_1_code
def yJ9_init : MethodName := ⟨RJ9, "<init>", "()V"⟩
theorem dJ9_init_0 : decode cJ9_init 0 = .ok (.aload_n 0, 1) := by decide +kernel
theorem dJ9_init_1 : decode cJ9_init 1 = .ok (.invokespecial 1, 3) := by decide +kernel
theorem dJ9_init_4 : decode cJ9_init 4 = .ok (.return_, 1) := by decide +kernel
abbrev cJ9_init_2 : ByteArray := prog_42_method_2_code
def yJ9_init_2 : MethodName := ⟨RJ9, "<init>", "(Ljava/lang/String;)V"⟩
theorem dJ9_init_2_0 : decode cJ9_init_2 0 = .ok (.aload_n 0, 1) := by decide +kernel
theorem dJ9_init_2_1 : decode cJ9_init_2 1 = .ok (.aload_n 1, 1) := by decide +kernel
theorem dJ9_init_2_2 : decode cJ9_init_2 2 = .ok (.invokespecial 7, 3) := by decide +kernel
theorem dJ9_init_2_5 : decode cJ9_init_2 5 = .ok (.return_, 1) := by decide +kernel
theorem q127 : (Jvm.Cond.initialized "java/lang/RuntimeException") ∈ lw_all := lw_g (lw_at lw_m1 15 rfl) rfl
theorem q382 : (Jvm.Cond.declares ({ cls := "java/lang/RuntimeException", name := "<init>", desc := "()V" } : Jvm.MethodName)) ∈ lw_tbl := lw_at lw_m2 30 rfl
theorem q383 : (Jvm.Cond.declares ({ cls := "java/lang/RuntimeException", name := "<init>", desc := "(Ljava/lang/String;)V" } : Jvm.MethodName)) ∈ lw_tbl := lw_at lw_m2 31 rfl
theorem q425 : (Jvm.Cond.instanceMethod ({ cls := "java/lang/RuntimeException", name := "<init>", desc := "()V" } : Jvm.MethodName)) ∈ lw_all := lw_g (lw_at lw_m2 73 rfl) rfl
theorem q426 : (Jvm.Cond.code ({ cls := "java/lang/RuntimeException", name := "<init>", desc := "()V" } : Jvm.MethodName) prog_42_method_1_code (1 : Nat) (Option.none : Option Jvm.ClassFile.FieldType)) ∈ lw_all := lw_g (lw_at lw_m2 74 rfl) rfl
theorem q427 : (Jvm.Cond.methodLink "java/lang/RuntimeException" (1 : Nat) ({ cls := "java/lang/Exception", name := "<init>", desc := "()V" } : Jvm.MethodName)) ∈ lw_all := lw_g (lw_at lw_m2 75 rfl) rfl
theorem q762 : (Jvm.Cond.instanceMethod ({ cls := "java/lang/RuntimeException", name := "<init>", desc := "(Ljava/lang/String;)V" } : Jvm.MethodName)) ∈ lw_all := lw_g (lw_at lw_m3 170 rfl) rfl
theorem q763 : (Jvm.Cond.code ({ cls := "java/lang/RuntimeException", name := "<init>", desc := "(Ljava/lang/String;)V" } : Jvm.MethodName) prog_42_method_2_code (2 : Nat) (Option.none : Option Jvm.ClassFile.FieldType)) ∈ lw_all := lw_g (lw_at lw_m3 171 rfl) rfl
theorem q764 : (Jvm.Cond.methodLink "java/lang/RuntimeException" (7 : Nat) ({ cls := "java/lang/Exception", name := "<init>", desc := "(Ljava/lang/String;)V" } : Jvm.MethodName)) ∈ lw_all := lw_g (lw_at lw_m3 172 rfl) rfl

theorem q142 : (Jvm.Cond.initialized "PureHouse$Kind") ∈ lw_all := lw_g (lw_at lw_m1 30 rfl) rfl
set_option maxRecDepth 100000
theorem q943 : (Jvm.Cond.laysStatic "PureHouse$Kind" "TELL" "LPureHouse$Kind;") ∈ lw_tbl := lw_at lw_m4 111 rfl
theorem q1110 : (Jvm.Cond.selects "PureHouse$Kind" ({ cls := "java/lang/Object", name := "getClass", desc := "()Ljava/lang/Class;" } : Jvm.MethodName) ({ cls := "java/lang/Object", name := "getClass", desc := "()Ljava/lang/Class;" } : Jvm.MethodName)) ∈ lw_all := lw_g (lw_at lw_m5 38 rfl) rfl
theorem q1309 : (Jvm.Cond.laysStatic "PureHouse$Kind" "SORT" "LPureHouse$Kind;") ∈ lw_tbl := lw_at lw_m5 237 rfl
theorem q1311 : (Jvm.Cond.laysStatic "PureHouse$Kind" "AXIOM" "LPureHouse$Kind;") ∈ lw_tbl := lw_at lw_m5 239 rfl
theorem q1313 : (Jvm.Cond.laysStatic "PureHouse$Kind" "RULE" "LPureHouse$Kind;") ∈ lw_tbl := lw_at lw_m6 1 rfl
theorem q1315 : (Jvm.Cond.laysStatic "PureHouse$Kind" "CHECK" "LPureHouse$Kind;") ∈ lw_tbl := lw_at lw_m6 3 rfl
theorem q1321 : (Jvm.Cond.laysStatic "PureHouse$Kind" "NORM" "LPureHouse$Kind;") ∈ lw_tbl := lw_at lw_m6 9 rfl
theorem q1323 : (Jvm.Cond.laysStatic "PureHouse$Kind" "HEAD" "LPureHouse$Kind;") ∈ lw_tbl := lw_at lw_m6 11 rfl
theorem q1325 : (Jvm.Cond.laysStatic "PureHouse$Kind" "SAME" "LPureHouse$Kind;") ∈ lw_tbl := lw_at lw_m6 13 rfl
theorem q1338 : (Jvm.Cond.sameMethod "PureHouse$Kind" "java/lang/Enum" "ordinal" "()I") ∈ lw_all := lw_g (lw_at lw_m6 26 rfl) rfl
theorem q1340 : (Jvm.Cond.selects "PureHouse$Kind" ({ cls := "PureHouse$Kind", name := "ordinal", desc := "()I" } : Jvm.MethodName) ({ cls := "java/lang/Enum", name := "ordinal", desc := "()I" } : Jvm.MethodName)) ∈ lw_all := lw_g (lw_at lw_m6 28 rfl) rfl
theorem q2585 : (Jvm.Cond.castable "PureHouse$Kind" "java/lang/Object") ∈ lw_tbl := lw_at lw_m11 73 rfl

theorem q131 : (Jvm.Cond.initialized "PureHouse$Sort") ∈ lw_all := lw_g (lw_at lw_m1 19 rfl) rfl
set_option maxRecDepth 100000
theorem q500 : (Jvm.Cond.laysStatic "PureHouse$Sort" "BAD" "LPureHouse$Sort;") ∈ lw_tbl := lw_at lw_m2 148 rfl
theorem q502 : (Jvm.Cond.laysStatic "PureHouse$Sort" "END" "LPureHouse$Sort;") ∈ lw_tbl := lw_at lw_m2 150 rfl
theorem q647 : (Jvm.Cond.laysStatic "PureHouse$Sort" "LONG" "LPureHouse$Sort;") ∈ lw_tbl := lw_at lw_m3 55 rfl
theorem q649 : (Jvm.Cond.laysStatic "PureHouse$Sort" "NAME" "LPureHouse$Sort;") ∈ lw_tbl := lw_at lw_m3 57 rfl
theorem q878 : (Jvm.Cond.laysStatic "PureHouse$Sort" "WORD" "LPureHouse$Sort;") ∈ lw_tbl := lw_at lw_m4 46 rfl
theorem q931 : (Jvm.Cond.laysStatic "PureHouse$Sort" "SIGN" "LPureHouse$Sort;") ∈ lw_tbl := lw_at lw_m4 99 rfl
theorem q1120 : (Jvm.Cond.selects "PureHouse$Sort" ({ cls := "java/lang/Object", name := "getClass", desc := "()Ljava/lang/Class;" } : Jvm.MethodName) ({ cls := "java/lang/Object", name := "getClass", desc := "()Ljava/lang/Class;" } : Jvm.MethodName)) ∈ lw_all := lw_g (lw_at lw_m5 48 rfl) rfl
theorem q2581 : (Jvm.Cond.castable "PureHouse$Sort" "java/lang/Object") ∈ lw_tbl := lw_at lw_m11 69 rfl

theorem q581 : (Jvm.Cond.sameMethod "[B" "java/lang/Object" "clone" "()Ljava/lang/Object;") ∈ lw_all := lw_g (lw_at lw_m2 229 rfl) rfl
set_option maxRecDepth 100000
theorem q584 : (Jvm.Cond.selects "[B" ({ cls := "[B", name := "clone", desc := "()Ljava/lang/Object;" } : Jvm.MethodName) ({ cls := "java/lang/Object", name := "clone", desc := "()Ljava/lang/Object;" } : Jvm.MethodName)) ∈ lw_all := lw_g (lw_at lw_m2 232 rfl) rfl
theorem q585 : (Jvm.Cond.castable "[B" "java/lang/Cloneable") ∈ lw_tbl := lw_at lw_m2 233 rfl
theorem q2608 : (Jvm.Cond.castable "[B" "java/lang/Object") ∈ lw_tbl := lw_at lw_m11 96 rfl

theorem q2609 : (Jvm.Cond.castable "[I" "java/lang/Object") ∈ lw_tbl := lw_at lw_m11 97 rfl
set_option maxRecDepth 100000

theorem q2611 : (Jvm.Cond.castable "[J" "java/lang/Object") ∈ lw_tbl := lw_at lw_m11 99 rfl
set_option maxRecDepth 100000

theorem q2604 : (Jvm.Cond.sameMethod "[Ljava/lang/Object;" "java/lang/Object" "getClass" "()Ljava/lang/Class;") ∈ lw_all := lw_g (lw_at lw_m11 92 rfl) rfl
set_option maxRecDepth 100000
theorem q2605 : (Jvm.Cond.selects "[Ljava/lang/Object;" ({ cls := "java/lang/Object", name := "getClass", desc := "()Ljava/lang/Class;" } : Jvm.MethodName) ({ cls := "java/lang/Object", name := "getClass", desc := "()Ljava/lang/Class;" } : Jvm.MethodName)) ∈ lw_all := lw_g (lw_at lw_m11 93 rfl) rfl
theorem q2610 : (Jvm.Cond.castable "[Ljava/lang/Object;" "java/lang/Object") ∈ lw_tbl := lw_at lw_m11 98 rfl

theorem q2607 : (Jvm.Cond.castable "[Ljava/lang/String;" "java/lang/Object") ∈ lw_tbl := lw_at lw_m11 95 rfl
set_option maxRecDepth 100000

theorem q138 : (Jvm.Cond.initialized "java/lang/Number") ∈ lw_all := lw_g (lw_at lw_m1 26 rfl) rfl
set_option maxRecDepth 100000

theorem q137 : (Jvm.Cond.initialized "java/lang/System") ∈ lw_all := lw_g (lw_at lw_m1 25 rfl) rfl
set_option maxRecDepth 100000
theorem q591 : (Jvm.Cond.static ({ cls := "java/lang/System", name := "arraycopy", desc := "(Ljava/lang/Object;ILjava/lang/Object;II)V" } : Jvm.MethodName)) ∈ lw_all := lw_g (lw_at lw_m2 239 rfl) rfl
theorem q592 : (Jvm.Cond.native ({ cls := "java/lang/System", name := "arraycopy", desc := "(Ljava/lang/Object;ILjava/lang/Object;II)V" } : Jvm.MethodName)) ∈ lw_all := lw_g (lw_at lw_m3 0 rfl) rfl

theorem q824 : (Jvm.Cond.interfaceMethod "jdk/internal/access/JavaLangAccess" "jdk/internal/access/JavaLangAccess" "getUTF16Char" "([BI)C") ∈ lw_tbl := lw_at lw_m3 232 rfl
set_option maxRecDepth 100000
theorem q825 : (Jvm.Cond.declares ({ cls := "jdk/internal/access/JavaLangAccess", name := "getUTF16Char", desc := "([BI)C" } : Jvm.MethodName)) ∈ lw_tbl := lw_at lw_m3 233 rfl

theorem q177 : (Jvm.Cond.arrayOver (Jvm.ClassFile.FieldType.object "java/lang/String")) ∈ lw_tbl := lw_at lw_m1 65 rfl
set_option maxRecDepth 100000
theorem q197 : (Jvm.Cond.arrayClass Jvm.ClassFile.FieldType.byte) ∈ lw_all := lw_g (lw_at lw_m1 85 rfl) rfl
theorem q198 : (Jvm.Cond.arrayClass Jvm.ClassFile.FieldType.int) ∈ lw_all := lw_g (lw_at lw_m1 86 rfl) rfl
theorem q1138 : (Jvm.Cond.arrayOver (Jvm.ClassFile.FieldType.object "java/lang/Object")) ∈ lw_tbl := lw_at lw_m5 66 rfl
theorem q2550 : (Jvm.Cond.arrayClass Jvm.ClassFile.FieldType.long) ∈ lw_all := lw_g (lw_at lw_m11 38 rfl) rfl
theorem q2612 : (Jvm.Cond.arrayClass Jvm.ClassFile.FieldType.char) ∈ lw_all := lw_g (lw_at lw_m11 100 rfl) rfl
theorem q2613 : (Jvm.Cond.arrayClass Jvm.ClassFile.FieldType.short) ∈ lw_all := lw_g (lw_at lw_m11 101 rfl) rfl
