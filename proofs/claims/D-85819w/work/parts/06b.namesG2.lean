/-! PureHouseLaw -/
set_option maxRecDepth 100000
def RX0 : String := "PureHouseLaw"
abbrev cX0_text : ByteArray := method_3_code
def yX0_text : MethodName := ⟨RX0, "text", "(LPureHouse;I[J)I"⟩
theorem dX0_text_0 : decode cX0_text 0 = .ok (.aload_n 2, 1) := by decide +kernel
theorem dX0_text_1 : decode cX0_text 1 = .ok (.iconst 0, 1) := by decide +kernel
theorem dX0_text_2 : decode cX0_text 2 = .ok (.aload_n 0, 1) := by decide +kernel
theorem dX0_text_3 : decode cX0_text 3 = .ok (.iload_n 1, 1) := by decide +kernel
theorem dX0_text_4 : decode cX0_text 4 = .ok (.invokevirtual 7, 3) := by decide +kernel
theorem dX0_text_7 : decode cX0_text 7 = .ok (.i2l, 1) := by decide +kernel
theorem dX0_text_8 : decode cX0_text 8 = .ok (.lastore, 1) := by decide +kernel
theorem dX0_text_9 : decode cX0_text 9 = .ok (.goto 6, 3) := by decide +kernel
theorem dX0_text_12 : decode cX0_text 12 = .ok (.astore_n 3, 1) := by decide +kernel
theorem dX0_text_13 : decode cX0_text 13 = .ok (.iconst 1, 1) := by decide +kernel
theorem dX0_text_14 : decode cX0_text 14 = .ok (.ireturn, 1) := by decide +kernel
theorem dX0_text_15 : decode cX0_text 15 = .ok (.iconst 0, 1) := by decide +kernel
theorem dX0_text_16 : decode cX0_text 16 = .ok (.ireturn, 1) := by decide +kernel
abbrev cX0_fault : ByteArray := method_4_code
def yX0_fault : MethodName := ⟨RX0, "fault", "(LPureHouse;I[J)I"⟩
theorem dX0_fault_0 : decode cX0_fault 0 = .ok (.aload_n 2, 1) := by decide +kernel
theorem dX0_fault_1 : decode cX0_fault 1 = .ok (.iconst 0, 1) := by decide +kernel
theorem dX0_fault_2 : decode cX0_fault 2 = .ok (.aload_n 0, 1) := by decide +kernel
theorem dX0_fault_3 : decode cX0_fault 3 = .ok (.iload_n 1, 1) := by decide +kernel
theorem dX0_fault_4 : decode cX0_fault 4 = .ok (.invokevirtual 15, 3) := by decide +kernel
theorem dX0_fault_7 : decode cX0_fault 7 = .ok (.i2l, 1) := by decide +kernel
theorem dX0_fault_8 : decode cX0_fault 8 = .ok (.lastore, 1) := by decide +kernel
theorem dX0_fault_9 : decode cX0_fault 9 = .ok (.goto 6, 3) := by decide +kernel
theorem dX0_fault_12 : decode cX0_fault 12 = .ok (.astore_n 3, 1) := by decide +kernel
theorem dX0_fault_13 : decode cX0_fault 13 = .ok (.iconst 1, 1) := by decide +kernel
theorem dX0_fault_14 : decode cX0_fault 14 = .ok (.ireturn, 1) := by decide +kernel
theorem dX0_fault_15 : decode cX0_fault 15 = .ok (.iconst 0, 1) := by decide +kernel
theorem dX0_fault_16 : decode cX0_fault 16 = .ok (.ireturn, 1) := by decide +kernel
abbrev cX0_corner : ByteArray := method_5_code
def yX0_corner : MethodName := ⟨RX0, "corner", "(LPureHouse;I[J)I"⟩
theorem dX0_corner_0 : decode cX0_corner 0 = .ok (.aload_n 2, 1) := by decide +kernel
theorem dX0_corner_1 : decode cX0_corner 1 = .ok (.iconst 0, 1) := by decide +kernel
theorem dX0_corner_2 : decode cX0_corner 2 = .ok (.aload_n 0, 1) := by decide +kernel
theorem dX0_corner_3 : decode cX0_corner 3 = .ok (.iload_n 1, 1) := by decide +kernel
theorem dX0_corner_4 : decode cX0_corner 4 = .ok (.invokevirtual 20, 3) := by decide +kernel
theorem dX0_corner_7 : decode cX0_corner 7 = .ok (.i2l, 1) := by decide +kernel
theorem dX0_corner_8 : decode cX0_corner 8 = .ok (.lastore, 1) := by decide +kernel
theorem dX0_corner_9 : decode cX0_corner 9 = .ok (.goto 6, 3) := by decide +kernel
theorem dX0_corner_12 : decode cX0_corner 12 = .ok (.astore_n 3, 1) := by decide +kernel
theorem dX0_corner_13 : decode cX0_corner 13 = .ok (.iconst 1, 1) := by decide +kernel
theorem dX0_corner_14 : decode cX0_corner 14 = .ok (.ireturn, 1) := by decide +kernel
theorem dX0_corner_15 : decode cX0_corner 15 = .ok (.iconst 0, 1) := by decide +kernel
theorem dX0_corner_16 : decode cX0_corner 16 = .ok (.ireturn, 1) := by decide +kernel
abbrev cX0_limit : ByteArray := method_6_code
def yX0_limit : MethodName := ⟨RX0, "limit", "(LPureHouse;I[J)I"⟩
theorem dX0_limit_0 : decode cX0_limit 0 = .ok (.aload_n 2, 1) := by decide +kernel
theorem dX0_limit_1 : decode cX0_limit 1 = .ok (.iconst 0, 1) := by decide +kernel
theorem dX0_limit_2 : decode cX0_limit 2 = .ok (.aload_n 0, 1) := by decide +kernel
theorem dX0_limit_3 : decode cX0_limit 3 = .ok (.iload_n 1, 1) := by decide +kernel
theorem dX0_limit_4 : decode cX0_limit 4 = .ok (.invokevirtual 23, 3) := by decide +kernel
theorem dX0_limit_7 : decode cX0_limit 7 = .ok (.i2l, 1) := by decide +kernel
theorem dX0_limit_8 : decode cX0_limit 8 = .ok (.lastore, 1) := by decide +kernel
theorem dX0_limit_9 : decode cX0_limit 9 = .ok (.goto 6, 3) := by decide +kernel
theorem dX0_limit_12 : decode cX0_limit 12 = .ok (.astore_n 3, 1) := by decide +kernel
theorem dX0_limit_13 : decode cX0_limit 13 = .ok (.iconst 1, 1) := by decide +kernel
theorem dX0_limit_14 : decode cX0_limit 14 = .ok (.ireturn, 1) := by decide +kernel
theorem dX0_limit_15 : decode cX0_limit 15 = .ok (.iconst 0, 1) := by decide +kernel
theorem dX0_limit_16 : decode cX0_limit 16 = .ok (.ireturn, 1) := by decide +kernel
abbrev cX0_out : ByteArray := method_7_code
def yX0_out : MethodName := ⟨RX0, "out", "(LPureHouse;I[J)I"⟩
theorem dX0_out_0 : decode cX0_out 0 = .ok (.aload_n 2, 1) := by decide +kernel
theorem dX0_out_1 : decode cX0_out 1 = .ok (.iconst 0, 1) := by decide +kernel
theorem dX0_out_2 : decode cX0_out 2 = .ok (.aload_n 0, 1) := by decide +kernel
theorem dX0_out_3 : decode cX0_out 3 = .ok (.iload_n 1, 1) := by decide +kernel
theorem dX0_out_4 : decode cX0_out 4 = .ok (.invokevirtual 26, 3) := by decide +kernel
theorem dX0_out_7 : decode cX0_out 7 = .ok (.i2l, 1) := by decide +kernel
theorem dX0_out_8 : decode cX0_out 8 = .ok (.lastore, 1) := by decide +kernel
theorem dX0_out_9 : decode cX0_out 9 = .ok (.goto 6, 3) := by decide +kernel
theorem dX0_out_12 : decode cX0_out 12 = .ok (.astore_n 3, 1) := by decide +kernel
theorem dX0_out_13 : decode cX0_out 13 = .ok (.iconst 1, 1) := by decide +kernel
theorem dX0_out_14 : decode cX0_out 14 = .ok (.ireturn, 1) := by decide +kernel
theorem dX0_out_15 : decode cX0_out 15 = .ok (.iconst 0, 1) := by decide +kernel
theorem dX0_out_16 : decode cX0_out 16 = .ok (.ireturn, 1) := by decide +kernel
abbrev cX0_count : ByteArray := method_8_code
def yX0_count : MethodName := ⟨RX0, "count", "(LPureHouse;I[J)I"⟩
theorem dX0_count_0 : decode cX0_count 0 = .ok (.aload_n 2, 1) := by decide +kernel
theorem dX0_count_1 : decode cX0_count 1 = .ok (.iconst 0, 1) := by decide +kernel
theorem dX0_count_2 : decode cX0_count 2 = .ok (.aload_n 0, 1) := by decide +kernel
theorem dX0_count_3 : decode cX0_count 3 = .ok (.iload_n 1, 1) := by decide +kernel
theorem dX0_count_4 : decode cX0_count 4 = .ok (.invokevirtual 29, 3) := by decide +kernel
theorem dX0_count_7 : decode cX0_count 7 = .ok (.i2l, 1) := by decide +kernel
theorem dX0_count_8 : decode cX0_count 8 = .ok (.lastore, 1) := by decide +kernel
theorem dX0_count_9 : decode cX0_count 9 = .ok (.goto 6, 3) := by decide +kernel
theorem dX0_count_12 : decode cX0_count 12 = .ok (.astore_n 3, 1) := by decide +kernel
theorem dX0_count_13 : decode cX0_count 13 = .ok (.iconst 1, 1) := by decide +kernel
theorem dX0_count_14 : decode cX0_count 14 = .ok (.ireturn, 1) := by decide +kernel
theorem dX0_count_15 : decode cX0_count 15 = .ok (.iconst 0, 1) := by decide +kernel
theorem dX0_count_16 : decode cX0_count 16 = .ok (.ireturn, 1) := by decide +kernel
abbrev cX0_name : ByteArray := method_9_code
def yX0_name : MethodName := ⟨RX0, "name", "(LPureHouse;II[J)I"⟩
theorem dX0_name_0 : decode cX0_name 0 = .ok (.aload_n 3, 1) := by decide +kernel
theorem dX0_name_1 : decode cX0_name 1 = .ok (.iconst 0, 1) := by decide +kernel
theorem dX0_name_2 : decode cX0_name 2 = .ok (.aload_n 0, 1) := by decide +kernel
theorem dX0_name_3 : decode cX0_name 3 = .ok (.iload_n 1, 1) := by decide +kernel
theorem dX0_name_4 : decode cX0_name 4 = .ok (.iload_n 2, 1) := by decide +kernel
theorem dX0_name_5 : decode cX0_name 5 = .ok (.invokevirtual 32, 3) := by decide +kernel
theorem dX0_name_8 : decode cX0_name 8 = .ok (.i2l, 1) := by decide +kernel
theorem dX0_name_9 : decode cX0_name 9 = .ok (.lastore, 1) := by decide +kernel
theorem dX0_name_10 : decode cX0_name 10 = .ok (.goto 7, 3) := by decide +kernel
theorem dX0_name_13 : decode cX0_name 13 = .ok (.astore 4, 2) := by decide +kernel
theorem dX0_name_15 : decode cX0_name 15 = .ok (.iconst 1, 1) := by decide +kernel
theorem dX0_name_16 : decode cX0_name 16 = .ok (.ireturn, 1) := by decide +kernel
theorem dX0_name_17 : decode cX0_name 17 = .ok (.iconst 0, 1) := by decide +kernel
theorem dX0_name_18 : decode cX0_name 18 = .ok (.ireturn, 1) := by decide +kernel
abbrev cX0_sort : ByteArray := method_10_code
def yX0_sort : MethodName := ⟨RX0, "sort", "(LPureHouse;II[J)I"⟩
theorem dX0_sort_0 : decode cX0_sort 0 = .ok (.aload_n 3, 1) := by decide +kernel
theorem dX0_sort_1 : decode cX0_sort 1 = .ok (.iconst 0, 1) := by decide +kernel
theorem dX0_sort_2 : decode cX0_sort 2 = .ok (.aload_n 0, 1) := by decide +kernel
theorem dX0_sort_3 : decode cX0_sort 3 = .ok (.iload_n 1, 1) := by decide +kernel
theorem dX0_sort_4 : decode cX0_sort 4 = .ok (.iload_n 2, 1) := by decide +kernel
theorem dX0_sort_5 : decode cX0_sort 5 = .ok (.invokevirtual 36, 3) := by decide +kernel
theorem dX0_sort_8 : decode cX0_sort 8 = .ok (.i2l, 1) := by decide +kernel
theorem dX0_sort_9 : decode cX0_sort 9 = .ok (.lastore, 1) := by decide +kernel
theorem dX0_sort_10 : decode cX0_sort 10 = .ok (.goto 7, 3) := by decide +kernel
theorem dX0_sort_13 : decode cX0_sort 13 = .ok (.astore 4, 2) := by decide +kernel
theorem dX0_sort_15 : decode cX0_sort 15 = .ok (.iconst 1, 1) := by decide +kernel
theorem dX0_sort_16 : decode cX0_sort 16 = .ok (.ireturn, 1) := by decide +kernel
theorem dX0_sort_17 : decode cX0_sort 17 = .ok (.iconst 0, 1) := by decide +kernel
theorem dX0_sort_18 : decode cX0_sort 18 = .ok (.ireturn, 1) := by decide +kernel
abbrev cX0_rule : ByteArray := method_11_code
def yX0_rule : MethodName := ⟨RX0, "rule", "(LPureHouse;II[J)I"⟩
theorem dX0_rule_0 : decode cX0_rule 0 = .ok (.aload_n 3, 1) := by decide +kernel
theorem dX0_rule_1 : decode cX0_rule 1 = .ok (.iconst 0, 1) := by decide +kernel
theorem dX0_rule_2 : decode cX0_rule 2 = .ok (.aload_n 0, 1) := by decide +kernel
theorem dX0_rule_3 : decode cX0_rule 3 = .ok (.iload_n 1, 1) := by decide +kernel
theorem dX0_rule_4 : decode cX0_rule 4 = .ok (.iload_n 2, 1) := by decide +kernel
theorem dX0_rule_5 : decode cX0_rule 5 = .ok (.invokevirtual 39, 3) := by decide +kernel
theorem dX0_rule_8 : decode cX0_rule 8 = .ok (.i2l, 1) := by decide +kernel
theorem dX0_rule_9 : decode cX0_rule 9 = .ok (.lastore, 1) := by decide +kernel
theorem dX0_rule_10 : decode cX0_rule 10 = .ok (.goto 7, 3) := by decide +kernel
theorem dX0_rule_13 : decode cX0_rule 13 = .ok (.astore 4, 2) := by decide +kernel
theorem dX0_rule_15 : decode cX0_rule 15 = .ok (.iconst 1, 1) := by decide +kernel
theorem dX0_rule_16 : decode cX0_rule 16 = .ok (.ireturn, 1) := by decide +kernel
theorem dX0_rule_17 : decode cX0_rule 17 = .ok (.iconst 0, 1) := by decide +kernel
theorem dX0_rule_18 : decode cX0_rule 18 = .ok (.ireturn, 1) := by decide +kernel
abbrev cX0_type : ByteArray := method_12_code
def yX0_type : MethodName := ⟨RX0, "type", "(LPureHouse;I[J)I"⟩
theorem dX0_type_0 : decode cX0_type 0 = .ok (.aload_n 2, 1) := by decide +kernel
theorem dX0_type_1 : decode cX0_type 1 = .ok (.iconst 0, 1) := by decide +kernel
theorem dX0_type_2 : decode cX0_type 2 = .ok (.aload_n 0, 1) := by decide +kernel
theorem dX0_type_3 : decode cX0_type 3 = .ok (.iload_n 1, 1) := by decide +kernel
theorem dX0_type_4 : decode cX0_type 4 = .ok (.invokevirtual 42, 3) := by decide +kernel
theorem dX0_type_7 : decode cX0_type 7 = .ok (.i2l, 1) := by decide +kernel
theorem dX0_type_8 : decode cX0_type 8 = .ok (.lastore, 1) := by decide +kernel
theorem dX0_type_9 : decode cX0_type 9 = .ok (.goto 6, 3) := by decide +kernel
theorem dX0_type_12 : decode cX0_type 12 = .ok (.astore_n 3, 1) := by decide +kernel
theorem dX0_type_13 : decode cX0_type 13 = .ok (.iconst 1, 1) := by decide +kernel
theorem dX0_type_14 : decode cX0_type 14 = .ok (.ireturn, 1) := by decide +kernel
theorem dX0_type_15 : decode cX0_type 15 = .ok (.iconst 0, 1) := by decide +kernel
theorem dX0_type_16 : decode cX0_type 16 = .ok (.ireturn, 1) := by decide +kernel
abbrev cX0_same : ByteArray := method_13_code
def yX0_same : MethodName := ⟨RX0, "same", "(LPureHouse;II[J)I"⟩
theorem dX0_same_0 : decode cX0_same 0 = .ok (.aload_n 3, 1) := by decide +kernel
theorem dX0_same_1 : decode cX0_same 1 = .ok (.iconst 0, 1) := by decide +kernel
theorem dX0_same_2 : decode cX0_same 2 = .ok (.aload_n 0, 1) := by decide +kernel
theorem dX0_same_3 : decode cX0_same 3 = .ok (.iload_n 1, 1) := by decide +kernel
theorem dX0_same_4 : decode cX0_same 4 = .ok (.iload_n 2, 1) := by decide +kernel
theorem dX0_same_5 : decode cX0_same 5 = .ok (.invokevirtual 45, 3) := by decide +kernel
theorem dX0_same_8 : decode cX0_same 8 = .ok (.i2l, 1) := by decide +kernel
theorem dX0_same_9 : decode cX0_same 9 = .ok (.lastore, 1) := by decide +kernel
theorem dX0_same_10 : decode cX0_same 10 = .ok (.goto 7, 3) := by decide +kernel
theorem dX0_same_13 : decode cX0_same 13 = .ok (.astore 4, 2) := by decide +kernel
theorem dX0_same_15 : decode cX0_same 15 = .ok (.iconst 1, 1) := by decide +kernel
theorem dX0_same_16 : decode cX0_same 16 = .ok (.ireturn, 1) := by decide +kernel
theorem dX0_same_17 : decode cX0_same 17 = .ok (.iconst 0, 1) := by decide +kernel
theorem dX0_same_18 : decode cX0_same 18 = .ok (.ireturn, 1) := by decide +kernel
abbrev cX0_mark : ByteArray := method_14_code
def yX0_mark : MethodName := ⟨RX0, "mark", "(LPureHouse;[J)I"⟩
theorem dX0_mark_0 : decode cX0_mark 0 = .ok (.aload_n 1, 1) := by decide +kernel
theorem dX0_mark_1 : decode cX0_mark 1 = .ok (.iconst 0, 1) := by decide +kernel
theorem dX0_mark_2 : decode cX0_mark 2 = .ok (.aload_n 0, 1) := by decide +kernel
theorem dX0_mark_3 : decode cX0_mark 3 = .ok (.invokevirtual 48, 3) := by decide +kernel
theorem dX0_mark_6 : decode cX0_mark 6 = .ok (.i2l, 1) := by decide +kernel
theorem dX0_mark_7 : decode cX0_mark 7 = .ok (.lastore, 1) := by decide +kernel
theorem dX0_mark_8 : decode cX0_mark 8 = .ok (.goto 6, 3) := by decide +kernel
theorem dX0_mark_11 : decode cX0_mark 11 = .ok (.astore_n 2, 1) := by decide +kernel
theorem dX0_mark_12 : decode cX0_mark 12 = .ok (.iconst 1, 1) := by decide +kernel
theorem dX0_mark_13 : decode cX0_mark 13 = .ok (.ireturn, 1) := by decide +kernel
theorem dX0_mark_14 : decode cX0_mark 14 = .ok (.iconst 0, 1) := by decide +kernel
theorem dX0_mark_15 : decode cX0_mark 15 = .ok (.ireturn, 1) := by decide +kernel
abbrev cX0_back : ByteArray := method_15_code
def yX0_back : MethodName := ⟨RX0, "back", "(LPureHouse;[J)I"⟩
theorem dX0_back_0 : decode cX0_back 0 = .ok (.aload_n 1, 1) := by decide +kernel
theorem dX0_back_1 : decode cX0_back 1 = .ok (.iconst 0, 1) := by decide +kernel
theorem dX0_back_2 : decode cX0_back 2 = .ok (.aload_n 0, 1) := by decide +kernel
theorem dX0_back_3 : decode cX0_back 3 = .ok (.invokevirtual 54, 3) := by decide +kernel
theorem dX0_back_6 : decode cX0_back 6 = .ok (.i2l, 1) := by decide +kernel
theorem dX0_back_7 : decode cX0_back 7 = .ok (.lastore, 1) := by decide +kernel
theorem dX0_back_8 : decode cX0_back 8 = .ok (.goto 6, 3) := by decide +kernel
theorem dX0_back_11 : decode cX0_back 11 = .ok (.astore_n 2, 1) := by decide +kernel
theorem dX0_back_12 : decode cX0_back 12 = .ok (.iconst 1, 1) := by decide +kernel
theorem dX0_back_13 : decode cX0_back 13 = .ok (.ireturn, 1) := by decide +kernel
theorem dX0_back_14 : decode cX0_back 14 = .ok (.iconst 0, 1) := by decide +kernel
theorem dX0_back_15 : decode cX0_back 15 = .ok (.ireturn, 1) := by decide +kernel
theorem q112 : (Jvm.Cond.initialized "PureHouseLaw") ∈ lw_all := lw_g (lw_at lw_m1 0 rfl) rfl
theorem q162 : (Jvm.Cond.classLink "PureHouseLaw" (8 : Nat) "PureHouse") ∈ lw_all := lw_g (lw_at lw_m1 50 rfl) rfl
theorem q164 : (Jvm.Cond.methodLink "PureHouseLaw" (57 : Nat) ({ cls := "PureHouse", name := "<init>", desc := "()V" } : Jvm.MethodName)) ∈ lw_all := lw_g (lw_at lw_m1 52 rfl) rfl
theorem q355 : (Jvm.Cond.methodLink "PureHouseLaw" (61 : Nat) ({ cls := "PureHouse", name := "feed", desc := "(IIIII)I" } : Jvm.MethodName)) ∈ lw_all := lw_g (lw_at lw_m2 3 rfl) rfl
theorem q363 : (Jvm.Cond.methodLink "PureHouseLaw" (84 : Nat) ({ cls := "PureHouse", name := "outs", desc := "()I" } : Jvm.MethodName)) ∈ lw_all := lw_g (lw_at lw_m2 11 rfl) rfl
theorem q367 : (Jvm.Cond.methodLink "PureHouseLaw" (66 : Nat) ({ cls := "PureHouseLaw", name := "text", desc := "(LPureHouse;I[J)I" } : Jvm.MethodName)) ∈ lw_all := lw_g (lw_at lw_m2 15 rfl) rfl
theorem q368 : (Jvm.Cond.static ({ cls := "PureHouseLaw", name := "text", desc := "(LPureHouse;I[J)I" } : Jvm.MethodName)) ∈ lw_all := lw_g (lw_at lw_m2 16 rfl) rfl
theorem q369 : (Jvm.Cond.codeWith ({ cls := "PureHouseLaw", name := "text", desc := "(LPureHouse;I[J)I" } : Jvm.MethodName) method_3_code (4 : Nat) (Option.some Jvm.ClassFile.FieldType.int) [((0 : Nat), (9 : Nat), (12 : Nat), (13 : Nat))]) ∈ lw_all := lw_g (lw_at lw_m2 17 rfl) rfl
theorem q370 : (Jvm.Cond.classLink "PureHouseLaw" (13 : Nat) "java/lang/IllegalArgumentException") ∈ lw_all := lw_g (lw_at lw_m2 18 rfl) rfl
theorem q371 : (Jvm.Cond.methodLink "PureHouseLaw" (7 : Nat) ({ cls := "PureHouse", name := "text", desc := "(I)I" } : Jvm.MethodName)) ∈ lw_all := lw_g (lw_at lw_m2 19 rfl) rfl
theorem q1831 : (Jvm.Cond.methodLink "PureHouseLaw" (75 : Nat) ({ cls := "PureHouseLaw", name := "fault", desc := "(LPureHouse;I[J)I" } : Jvm.MethodName)) ∈ lw_all := lw_g (lw_at lw_m8 39 rfl) rfl
theorem q1832 : (Jvm.Cond.static ({ cls := "PureHouseLaw", name := "fault", desc := "(LPureHouse;I[J)I" } : Jvm.MethodName)) ∈ lw_all := lw_g (lw_at lw_m8 40 rfl) rfl
theorem q1833 : (Jvm.Cond.codeWith ({ cls := "PureHouseLaw", name := "fault", desc := "(LPureHouse;I[J)I" } : Jvm.MethodName) method_4_code (4 : Nat) (Option.some Jvm.ClassFile.FieldType.int) [((0 : Nat), (9 : Nat), (12 : Nat), (18 : Nat))]) ∈ lw_all := lw_g (lw_at lw_m8 41 rfl) rfl
theorem q1834 : (Jvm.Cond.classLink "PureHouseLaw" (18 : Nat) "java/util/NoSuchElementException") ∈ lw_all := lw_g (lw_at lw_m8 42 rfl) rfl
theorem q1835 : (Jvm.Cond.methodLink "PureHouseLaw" (15 : Nat) ({ cls := "PureHouse", name := "fault", desc := "(I)I" } : Jvm.MethodName)) ∈ lw_all := lw_g (lw_at lw_m8 43 rfl) rfl
theorem q1857 : (Jvm.Cond.methodLink "PureHouseLaw" (78 : Nat) ({ cls := "PureHouseLaw", name := "corner", desc := "(LPureHouse;I[J)I" } : Jvm.MethodName)) ∈ lw_all := lw_g (lw_at lw_m8 65 rfl) rfl
theorem q1858 : (Jvm.Cond.static ({ cls := "PureHouseLaw", name := "corner", desc := "(LPureHouse;I[J)I" } : Jvm.MethodName)) ∈ lw_all := lw_g (lw_at lw_m8 66 rfl) rfl
theorem q1859 : (Jvm.Cond.codeWith ({ cls := "PureHouseLaw", name := "corner", desc := "(LPureHouse;I[J)I" } : Jvm.MethodName) method_5_code (4 : Nat) (Option.some Jvm.ClassFile.FieldType.int) [((0 : Nat), (9 : Nat), (12 : Nat), (13 : Nat))]) ∈ lw_all := lw_g (lw_at lw_m8 67 rfl) rfl
theorem q1860 : (Jvm.Cond.methodLink "PureHouseLaw" (20 : Nat) ({ cls := "PureHouse", name := "corner", desc := "(I)I" } : Jvm.MethodName)) ∈ lw_all := lw_g (lw_at lw_m8 68 rfl) rfl
theorem q1868 : (Jvm.Cond.methodLink "PureHouseLaw" (81 : Nat) ({ cls := "PureHouseLaw", name := "limit", desc := "(LPureHouse;I[J)I" } : Jvm.MethodName)) ∈ lw_all := lw_g (lw_at lw_m8 76 rfl) rfl
theorem q1869 : (Jvm.Cond.static ({ cls := "PureHouseLaw", name := "limit", desc := "(LPureHouse;I[J)I" } : Jvm.MethodName)) ∈ lw_all := lw_g (lw_at lw_m8 77 rfl) rfl
theorem q1870 : (Jvm.Cond.codeWith ({ cls := "PureHouseLaw", name := "limit", desc := "(LPureHouse;I[J)I" } : Jvm.MethodName) method_6_code (4 : Nat) (Option.some Jvm.ClassFile.FieldType.int) [((0 : Nat), (9 : Nat), (12 : Nat), (13 : Nat))]) ∈ lw_all := lw_g (lw_at lw_m8 78 rfl) rfl
theorem q1871 : (Jvm.Cond.methodLink "PureHouseLaw" (23 : Nat) ({ cls := "PureHouse", name := "limit", desc := "(I)I" } : Jvm.MethodName)) ∈ lw_all := lw_g (lw_at lw_m8 79 rfl) rfl
theorem q1875 : (Jvm.Cond.methodLink "PureHouseLaw" (88 : Nat) ({ cls := "PureHouseLaw", name := "out", desc := "(LPureHouse;I[J)I" } : Jvm.MethodName)) ∈ lw_all := lw_g (lw_at lw_m8 83 rfl) rfl
theorem q1876 : (Jvm.Cond.static ({ cls := "PureHouseLaw", name := "out", desc := "(LPureHouse;I[J)I" } : Jvm.MethodName)) ∈ lw_all := lw_g (lw_at lw_m8 84 rfl) rfl
theorem q1877 : (Jvm.Cond.codeWith ({ cls := "PureHouseLaw", name := "out", desc := "(LPureHouse;I[J)I" } : Jvm.MethodName) method_7_code (4 : Nat) (Option.some Jvm.ClassFile.FieldType.int) [((0 : Nat), (9 : Nat), (12 : Nat), (18 : Nat))]) ∈ lw_all := lw_g (lw_at lw_m8 85 rfl) rfl
theorem q1878 : (Jvm.Cond.methodLink "PureHouseLaw" (26 : Nat) ({ cls := "PureHouse", name := "out", desc := "(I)I" } : Jvm.MethodName)) ∈ lw_all := lw_g (lw_at lw_m8 86 rfl) rfl
theorem q1883 : (Jvm.Cond.methodLink "PureHouseLaw" (91 : Nat) ({ cls := "PureHouseLaw", name := "count", desc := "(LPureHouse;I[J)I" } : Jvm.MethodName)) ∈ lw_all := lw_g (lw_at lw_m8 91 rfl) rfl
theorem q1884 : (Jvm.Cond.static ({ cls := "PureHouseLaw", name := "count", desc := "(LPureHouse;I[J)I" } : Jvm.MethodName)) ∈ lw_all := lw_g (lw_at lw_m8 92 rfl) rfl
theorem q1885 : (Jvm.Cond.codeWith ({ cls := "PureHouseLaw", name := "count", desc := "(LPureHouse;I[J)I" } : Jvm.MethodName) method_8_code (4 : Nat) (Option.some Jvm.ClassFile.FieldType.int) [((0 : Nat), (9 : Nat), (12 : Nat), (18 : Nat))]) ∈ lw_all := lw_g (lw_at lw_m8 93 rfl) rfl
theorem q1886 : (Jvm.Cond.methodLink "PureHouseLaw" (29 : Nat) ({ cls := "PureHouse", name := "count", desc := "(I)I" } : Jvm.MethodName)) ∈ lw_all := lw_g (lw_at lw_m8 94 rfl) rfl
theorem q1894 : (Jvm.Cond.methodLink "PureHouseLaw" (94 : Nat) ({ cls := "PureHouseLaw", name := "name", desc := "(LPureHouse;II[J)I" } : Jvm.MethodName)) ∈ lw_all := lw_g (lw_at lw_m8 102 rfl) rfl
theorem q1895 : (Jvm.Cond.static ({ cls := "PureHouseLaw", name := "name", desc := "(LPureHouse;II[J)I" } : Jvm.MethodName)) ∈ lw_all := lw_g (lw_at lw_m8 103 rfl) rfl
theorem q1896 : (Jvm.Cond.codeWith ({ cls := "PureHouseLaw", name := "name", desc := "(LPureHouse;II[J)I" } : Jvm.MethodName) method_9_code (5 : Nat) (Option.some Jvm.ClassFile.FieldType.int) [((0 : Nat), (10 : Nat), (13 : Nat), (18 : Nat))]) ∈ lw_all := lw_g (lw_at lw_m8 104 rfl) rfl
theorem q1897 : (Jvm.Cond.methodLink "PureHouseLaw" (32 : Nat) ({ cls := "PureHouse", name := "name", desc := "(II)I" } : Jvm.MethodName)) ∈ lw_all := lw_g (lw_at lw_m8 105 rfl) rfl
theorem q1910 : (Jvm.Cond.methodLink "PureHouseLaw" (98 : Nat) ({ cls := "PureHouseLaw", name := "sort", desc := "(LPureHouse;II[J)I" } : Jvm.MethodName)) ∈ lw_all := lw_g (lw_at lw_m8 118 rfl) rfl
theorem q1911 : (Jvm.Cond.static ({ cls := "PureHouseLaw", name := "sort", desc := "(LPureHouse;II[J)I" } : Jvm.MethodName)) ∈ lw_all := lw_g (lw_at lw_m8 119 rfl) rfl
theorem q1912 : (Jvm.Cond.codeWith ({ cls := "PureHouseLaw", name := "sort", desc := "(LPureHouse;II[J)I" } : Jvm.MethodName) method_10_code (5 : Nat) (Option.some Jvm.ClassFile.FieldType.int) [((0 : Nat), (10 : Nat), (13 : Nat), (18 : Nat))]) ∈ lw_all := lw_g (lw_at lw_m8 120 rfl) rfl
theorem q1913 : (Jvm.Cond.methodLink "PureHouseLaw" (36 : Nat) ({ cls := "PureHouse", name := "sort", desc := "(II)I" } : Jvm.MethodName)) ∈ lw_all := lw_g (lw_at lw_m8 121 rfl) rfl
theorem q1917 : (Jvm.Cond.methodLink "PureHouseLaw" (101 : Nat) ({ cls := "PureHouseLaw", name := "rule", desc := "(LPureHouse;II[J)I" } : Jvm.MethodName)) ∈ lw_all := lw_g (lw_at lw_m8 125 rfl) rfl
theorem q1918 : (Jvm.Cond.static ({ cls := "PureHouseLaw", name := "rule", desc := "(LPureHouse;II[J)I" } : Jvm.MethodName)) ∈ lw_all := lw_g (lw_at lw_m8 126 rfl) rfl
theorem q1919 : (Jvm.Cond.codeWith ({ cls := "PureHouseLaw", name := "rule", desc := "(LPureHouse;II[J)I" } : Jvm.MethodName) method_11_code (5 : Nat) (Option.some Jvm.ClassFile.FieldType.int) [((0 : Nat), (10 : Nat), (13 : Nat), (18 : Nat))]) ∈ lw_all := lw_g (lw_at lw_m8 127 rfl) rfl
theorem q1920 : (Jvm.Cond.methodLink "PureHouseLaw" (39 : Nat) ({ cls := "PureHouse", name := "rule", desc := "(II)I" } : Jvm.MethodName)) ∈ lw_all := lw_g (lw_at lw_m8 128 rfl) rfl
theorem q1924 : (Jvm.Cond.methodLink "PureHouseLaw" (104 : Nat) ({ cls := "PureHouseLaw", name := "type", desc := "(LPureHouse;I[J)I" } : Jvm.MethodName)) ∈ lw_all := lw_g (lw_at lw_m8 132 rfl) rfl
theorem q1925 : (Jvm.Cond.static ({ cls := "PureHouseLaw", name := "type", desc := "(LPureHouse;I[J)I" } : Jvm.MethodName)) ∈ lw_all := lw_g (lw_at lw_m8 133 rfl) rfl
theorem q1926 : (Jvm.Cond.codeWith ({ cls := "PureHouseLaw", name := "type", desc := "(LPureHouse;I[J)I" } : Jvm.MethodName) method_12_code (4 : Nat) (Option.some Jvm.ClassFile.FieldType.int) [((0 : Nat), (9 : Nat), (12 : Nat), (18 : Nat))]) ∈ lw_all := lw_g (lw_at lw_m8 134 rfl) rfl
theorem q1927 : (Jvm.Cond.methodLink "PureHouseLaw" (42 : Nat) ({ cls := "PureHouse", name := "type", desc := "(I)I" } : Jvm.MethodName)) ∈ lw_all := lw_g (lw_at lw_m8 135 rfl) rfl
theorem q1931 : (Jvm.Cond.methodLink "PureHouseLaw" (107 : Nat) ({ cls := "PureHouseLaw", name := "same", desc := "(LPureHouse;II[J)I" } : Jvm.MethodName)) ∈ lw_all := lw_g (lw_at lw_m8 139 rfl) rfl
theorem q1932 : (Jvm.Cond.static ({ cls := "PureHouseLaw", name := "same", desc := "(LPureHouse;II[J)I" } : Jvm.MethodName)) ∈ lw_all := lw_g (lw_at lw_m8 140 rfl) rfl
theorem q1933 : (Jvm.Cond.codeWith ({ cls := "PureHouseLaw", name := "same", desc := "(LPureHouse;II[J)I" } : Jvm.MethodName) method_13_code (5 : Nat) (Option.some Jvm.ClassFile.FieldType.int) [((0 : Nat), (10 : Nat), (13 : Nat), (18 : Nat))]) ∈ lw_all := lw_g (lw_at lw_m8 141 rfl) rfl
theorem q1934 : (Jvm.Cond.methodLink "PureHouseLaw" (45 : Nat) ({ cls := "PureHouse", name := "same", desc := "(II)I" } : Jvm.MethodName)) ∈ lw_all := lw_g (lw_at lw_m8 142 rfl) rfl
theorem q1943 : (Jvm.Cond.methodLink "PureHouseLaw" (110 : Nat) ({ cls := "PureHouseLaw", name := "mark", desc := "(LPureHouse;[J)I" } : Jvm.MethodName)) ∈ lw_all := lw_g (lw_at lw_m8 151 rfl) rfl
theorem q1944 : (Jvm.Cond.static ({ cls := "PureHouseLaw", name := "mark", desc := "(LPureHouse;[J)I" } : Jvm.MethodName)) ∈ lw_all := lw_g (lw_at lw_m8 152 rfl) rfl
theorem q1945 : (Jvm.Cond.codeWith ({ cls := "PureHouseLaw", name := "mark", desc := "(LPureHouse;[J)I" } : Jvm.MethodName) method_14_code (3 : Nat) (Option.some Jvm.ClassFile.FieldType.int) [((0 : Nat), (8 : Nat), (11 : Nat), (52 : Nat))]) ∈ lw_all := lw_g (lw_at lw_m8 153 rfl) rfl
theorem q1946 : (Jvm.Cond.classLink "PureHouseLaw" (52 : Nat) "java/lang/IllegalStateException") ∈ lw_all := lw_g (lw_at lw_m8 154 rfl) rfl
theorem q1947 : (Jvm.Cond.methodLink "PureHouseLaw" (48 : Nat) ({ cls := "PureHouse", name := "mark", desc := "()I" } : Jvm.MethodName)) ∈ lw_all := lw_g (lw_at lw_m8 155 rfl) rfl
theorem q1969 : (Jvm.Cond.methodLink "PureHouseLaw" (114 : Nat) ({ cls := "PureHouseLaw", name := "back", desc := "(LPureHouse;[J)I" } : Jvm.MethodName)) ∈ lw_all := lw_g (lw_at lw_m8 177 rfl) rfl
theorem q1970 : (Jvm.Cond.static ({ cls := "PureHouseLaw", name := "back", desc := "(LPureHouse;[J)I" } : Jvm.MethodName)) ∈ lw_all := lw_g (lw_at lw_m8 178 rfl) rfl
theorem q1971 : (Jvm.Cond.codeWith ({ cls := "PureHouseLaw", name := "back", desc := "(LPureHouse;[J)I" } : Jvm.MethodName) method_15_code (3 : Nat) (Option.some Jvm.ClassFile.FieldType.int) [((0 : Nat), (8 : Nat), (11 : Nat), (52 : Nat))]) ∈ lw_all := lw_g (lw_at lw_m8 179 rfl) rfl
theorem q1972 : (Jvm.Cond.methodLink "PureHouseLaw" (54 : Nat) ({ cls := "PureHouse", name := "back", desc := "()I" } : Jvm.MethodName)) ∈ lw_all := lw_g (lw_at lw_m8 180 rfl) rfl
theorem q1977 : (Jvm.Cond.classLink "PureHouseLaw" (58 : Nat) "PureHouseModel") ∈ lw_all := lw_g (lw_at lw_m8 185 rfl) rfl
theorem q1979 : (Jvm.Cond.methodLink "PureHouseLaw" (60 : Nat) ({ cls := "PureHouseModel", name := "<init>", desc := "()V" } : Jvm.MethodName)) ∈ lw_all := lw_g (lw_at lw_m8 187 rfl) rfl
theorem q2257 : (Jvm.Cond.methodLink "PureHouseLaw" (72 : Nat) ({ cls := "PureHouseModel", name := "thrown", desc := "()I" } : Jvm.MethodName)) ∈ lw_all := lw_g (lw_at lw_m9 225 rfl) rfl
theorem q2261 : (Jvm.Cond.methodLink "PureHouseLaw" (65 : Nat) ({ cls := "PureHouseModel", name := "feed", desc := "(IIIII)I" } : Jvm.MethodName)) ∈ lw_all := lw_g (lw_at lw_m9 229 rfl) rfl
theorem q2265 : (Jvm.Cond.methodLink "PureHouseLaw" (71 : Nat) ({ cls := "PureHouseModel", name := "text", desc := "(I)I" } : Jvm.MethodName)) ∈ lw_all := lw_g (lw_at lw_m9 233 rfl) rfl
theorem q2498 : (Jvm.Cond.methodLink "PureHouseLaw" (77 : Nat) ({ cls := "PureHouseModel", name := "fault", desc := "(I)I" } : Jvm.MethodName)) ∈ lw_all := lw_g (lw_at lw_m10 226 rfl) rfl
theorem q2502 : (Jvm.Cond.methodLink "PureHouseLaw" (80 : Nat) ({ cls := "PureHouseModel", name := "corner", desc := "(I)I" } : Jvm.MethodName)) ∈ lw_all := lw_g (lw_at lw_m10 230 rfl) rfl
theorem q2506 : (Jvm.Cond.methodLink "PureHouseLaw" (83 : Nat) ({ cls := "PureHouseModel", name := "limit", desc := "(I)I" } : Jvm.MethodName)) ∈ lw_all := lw_g (lw_at lw_m10 234 rfl) rfl
theorem q2510 : (Jvm.Cond.methodLink "PureHouseLaw" (87 : Nat) ({ cls := "PureHouseModel", name := "outs", desc := "()I" } : Jvm.MethodName)) ∈ lw_all := lw_g (lw_at lw_m10 238 rfl) rfl
theorem q2514 : (Jvm.Cond.methodLink "PureHouseLaw" (90 : Nat) ({ cls := "PureHouseModel", name := "out", desc := "(I)I" } : Jvm.MethodName)) ∈ lw_all := lw_g (lw_at lw_m11 2 rfl) rfl
theorem q2518 : (Jvm.Cond.methodLink "PureHouseLaw" (93 : Nat) ({ cls := "PureHouseModel", name := "count", desc := "(I)I" } : Jvm.MethodName)) ∈ lw_all := lw_g (lw_at lw_m11 6 rfl) rfl
theorem q2522 : (Jvm.Cond.methodLink "PureHouseLaw" (97 : Nat) ({ cls := "PureHouseModel", name := "name", desc := "(II)I" } : Jvm.MethodName)) ∈ lw_all := lw_g (lw_at lw_m11 10 rfl) rfl
theorem q2526 : (Jvm.Cond.methodLink "PureHouseLaw" (100 : Nat) ({ cls := "PureHouseModel", name := "sort", desc := "(II)I" } : Jvm.MethodName)) ∈ lw_all := lw_g (lw_at lw_m11 14 rfl) rfl
theorem q2530 : (Jvm.Cond.methodLink "PureHouseLaw" (103 : Nat) ({ cls := "PureHouseModel", name := "rule", desc := "(II)I" } : Jvm.MethodName)) ∈ lw_all := lw_g (lw_at lw_m11 18 rfl) rfl
theorem q2534 : (Jvm.Cond.methodLink "PureHouseLaw" (106 : Nat) ({ cls := "PureHouseModel", name := "type", desc := "(I)I" } : Jvm.MethodName)) ∈ lw_all := lw_g (lw_at lw_m11 22 rfl) rfl
theorem q2538 : (Jvm.Cond.methodLink "PureHouseLaw" (109 : Nat) ({ cls := "PureHouseModel", name := "same", desc := "(II)I" } : Jvm.MethodName)) ∈ lw_all := lw_g (lw_at lw_m11 26 rfl) rfl
theorem q2542 : (Jvm.Cond.methodLink "PureHouseLaw" (113 : Nat) ({ cls := "PureHouseModel", name := "mark", desc := "()I" } : Jvm.MethodName)) ∈ lw_all := lw_g (lw_at lw_m11 30 rfl) rfl
theorem q2546 : (Jvm.Cond.methodLink "PureHouseLaw" (116 : Nat) ({ cls := "PureHouseModel", name := "back", desc := "()I" } : Jvm.MethodName)) ∈ lw_all := lw_g (lw_at lw_m11 34 rfl) rfl

/-! PureHouse$Lambda -/
set_option maxRecDepth 100000
def RX10 : String := "PureHouse$Lambda"
def TX10 : u_T := fun k => match k with
  | 0 => ("PureHouse$Term", "at", "I", false)
  | 1 => ("PureHouse$Term", "from", "I", false)
  | 2 => ("PureHouse$Lambda", "domain", "LPureHouse$Term;", true)
  | _ => ("PureHouse$Lambda", "body", "LPureHouse$Term;", false)
def tyX10 : Nat → FieldType := fun k => match k with
  | 0 => .int
  | 1 => .int
  | 2 => .object "PureHouse$Term"
  | _ => .object "PureHouse$Term"
abbrev wsX100 : List Cond := u_ws RX10 TX10 4
theorem nmX10 : ∀ a, a < 4 → ∀ b, b < 4 → a ≠ b → (TX10 a).2.1 ≠ (TX10 b).2.1 := by decide +kernel
theorem tyX10_ok : ∀ k, k < 4 → parseFieldDescriptor (TX10 k).2.2.1 = some (tyX10 k) := by decide +kernel
abbrev cX10_init : ByteArray := prog_10_method_1_code
def yX10_init : MethodName := ⟨RX10, "<init>", "(LPureHouse$Term;)V"⟩
theorem dX10_init_0 : decode cX10_init 0 = .ok (.aload_n 0, 1) := by decide +kernel
theorem dX10_init_1 : decode cX10_init 1 = .ok (.invokespecial 1, 3) := by decide +kernel
theorem dX10_init_4 : decode cX10_init 4 = .ok (.aload_n 0, 1) := by decide +kernel
theorem dX10_init_5 : decode cX10_init 5 = .ok (.aload_n 1, 1) := by decide +kernel
theorem dX10_init_6 : decode cX10_init 6 = .ok (.putfield 7, 3) := by decide +kernel
theorem dX10_init_9 : decode cX10_init 9 = .ok (.return_, 1) := by decide +kernel
abbrev cX10_goes : ByteArray := prog_10_method_2_code
def yX10_goes : MethodName := ⟨RX10, "goes", "(LPureHouse$Machine;)Z"⟩
theorem dX10_goes_0 : decode cX10_goes 0 = .ok (.aload_n 1, 1) := by decide +kernel
theorem dX10_goes_1 : decode cX10_goes 1 = .ok (.getfield 13, 3) := by decide +kernel
theorem dX10_goes_4 : decode cX10_goes 4 = .ok (.ifnonnull 5, 3) := by decide +kernel
theorem dX10_goes_7 : decode cX10_goes 7 = .ok (.iconst 0, 1) := by decide +kernel
theorem dX10_goes_8 : decode cX10_goes 8 = .ok (.ireturn, 1) := by decide +kernel
theorem dX10_goes_9 : decode cX10_goes 9 = .ok (.aload_n 1, 1) := by decide +kernel
theorem dX10_goes_10 : decode cX10_goes 10 = .ok (.iconst 0, 1) := by decide +kernel
theorem dX10_goes_11 : decode cX10_goes 11 = .ok (.invokevirtual 19, 3) := by decide +kernel
theorem dX10_goes_14 : decode cX10_goes 14 = .ok (.aload_n 1, 1) := by decide +kernel
theorem dX10_goes_15 : decode cX10_goes 15 = .ok (.aload_n 0, 1) := by decide +kernel
theorem dX10_goes_16 : decode cX10_goes 16 = .ok (.getfield 23, 3) := by decide +kernel
theorem dX10_goes_19 : decode cX10_goes 19 = .ok (.new 26, 3) := by decide +kernel
theorem dX10_goes_22 : decode cX10_goes 22 = .ok (.dup, 1) := by decide +kernel
theorem dX10_goes_23 : decode cX10_goes 23 = .ok (.aload_n 1, 1) := by decide +kernel
theorem dX10_goes_24 : decode cX10_goes 24 = .ok (.invokevirtual 28, 3) := by decide +kernel
theorem dX10_goes_27 : decode cX10_goes 27 = .ok (.aload_n 1, 1) := by decide +kernel
theorem dX10_goes_28 : decode cX10_goes 28 = .ok (.getfield 32, 3) := by decide +kernel
theorem dX10_goes_31 : decode cX10_goes 31 = .ok (.invokespecial 36, 3) := by decide +kernel
theorem dX10_goes_34 : decode cX10_goes 34 = .ok (.invokevirtual 39, 3) := by decide +kernel
theorem dX10_goes_37 : decode cX10_goes 37 = .ok (.iconst 1, 1) := by decide +kernel
theorem dX10_goes_38 : decode cX10_goes 38 = .ok (.ireturn, 1) := by decide +kernel
theorem q145 : (Jvm.Cond.initialized "PureHouse$Lambda") ∈ lw_all := lw_g (lw_at lw_m1 33 rfl) rfl
theorem q213 : (Jvm.Cond.fieldLinkNest "PureHouse$Lambda" (32 : Nat) "PureHouse$Machine" "env" "LPureHouse$Env;" "PureHouse") ∈ lw_tbl := lw_at lw_m1 101 rfl
theorem q216 : (Jvm.Cond.fieldLinkNest "PureHouse$Lambda" (13 : Nat) "PureHouse$Machine" "args" "LPureHouse$Args;" "PureHouse") ∈ lw_tbl := lw_at lw_m1 104 rfl
theorem q1028 : (Jvm.Cond.instantiable "PureHouse$Lambda" (4 : Nat)) ∈ lw_all := lw_g (lw_at lw_m4 196 rfl) rfl
theorem q1030 : (Jvm.Cond.instanceMethod ({ cls := "PureHouse$Lambda", name := "<init>", desc := "(LPureHouse$Term;)V" } : Jvm.MethodName)) ∈ lw_all := lw_g (lw_at lw_m4 198 rfl) rfl
theorem q1031 : (Jvm.Cond.code ({ cls := "PureHouse$Lambda", name := "<init>", desc := "(LPureHouse$Term;)V" } : Jvm.MethodName) prog_10_method_1_code (2 : Nat) (Option.none : Option Jvm.ClassFile.FieldType)) ∈ lw_all := lw_g (lw_at lw_m4 199 rfl) rfl
theorem q1032 : (Jvm.Cond.methodLinkNest "PureHouse$Lambda" (1 : Nat) ({ cls := "PureHouse$Term", name := "<init>", desc := "()V" } : Jvm.MethodName) "PureHouse") ∈ lw_tbl := lw_at lw_m4 200 rfl
theorem q1036 : (Jvm.Cond.fieldLink "PureHouse$Lambda" (7 : Nat) "PureHouse$Lambda" "domain" "LPureHouse$Term;") ∈ lw_all := lw_g (lw_at lw_m4 204 rfl) rfl
theorem q1039 : (Jvm.Cond.fieldLink "PureHouse$Lambda" (23 : Nat) "PureHouse$Lambda" "body" "LPureHouse$Term;") ∈ lw_all := lw_g (lw_at lw_m4 207 rfl) rfl
theorem q1049 : (Jvm.Cond.sameField "PureHouse$Lambda" "PureHouse$Term" "at" "I") ∈ lw_all := lw_g (lw_at lw_m4 217 rfl) rfl
theorem q1066 : (Jvm.Cond.laysFinal "PureHouse$Lambda" "PureHouse$Lambda" "domain" "LPureHouse$Term;") ∈ lw_all := lw_g (lw_at lw_m4 234 rfl) rfl
theorem q1067 : (Jvm.Cond.soleField "PureHouse$Lambda" "domain") ∈ lw_all := lw_g (lw_at lw_m4 235 rfl) rfl
theorem q1068 : (Jvm.Cond.lays "PureHouse$Lambda" "PureHouse$Lambda" "body" "LPureHouse$Term;") ∈ lw_all := lw_g (lw_at lw_m4 236 rfl) rfl
theorem q1069 : (Jvm.Cond.soleField "PureHouse$Lambda" "body") ∈ lw_all := lw_g (lw_at lw_m4 237 rfl) rfl
theorem q1070 : (Jvm.Cond.lays "PureHouse$Lambda" "PureHouse$Term" "at" "I") ∈ lw_all := lw_g (lw_at lw_m4 238 rfl) rfl
theorem q1072 : (Jvm.Cond.lays "PureHouse$Lambda" "PureHouse$Term" "from" "I") ∈ lw_all := lw_g (lw_at lw_m5 0 rfl) rfl
theorem q1074 : (Jvm.Cond.superclass "PureHouse$Lambda" "PureHouse$Term") ∈ lw_all := lw_g (lw_at lw_m5 2 rfl) rfl
theorem q1111 : (Jvm.Cond.selects "PureHouse$Lambda" ({ cls := "java/lang/Object", name := "getClass", desc := "()Ljava/lang/Class;" } : Jvm.MethodName) ({ cls := "java/lang/Object", name := "getClass", desc := "()Ljava/lang/Class;" } : Jvm.MethodName)) ∈ lw_all := lw_g (lw_at lw_m5 39 rfl) rfl
theorem q1489 : (Jvm.Cond.selects "PureHouse$Lambda" ({ cls := "PureHouse$Term", name := "goes", desc := "(LPureHouse$Machine;)Z" } : Jvm.MethodName) ({ cls := "PureHouse$Lambda", name := "goes", desc := "(LPureHouse$Machine;)Z" } : Jvm.MethodName)) ∈ lw_all := lw_g (lw_at lw_m6 177 rfl) rfl
theorem q1490 : (Jvm.Cond.instanceMethod ({ cls := "PureHouse$Lambda", name := "goes", desc := "(LPureHouse$Machine;)Z" } : Jvm.MethodName)) ∈ lw_all := lw_g (lw_at lw_m6 178 rfl) rfl
theorem q1491 : (Jvm.Cond.code ({ cls := "PureHouse$Lambda", name := "goes", desc := "(LPureHouse$Machine;)Z" } : Jvm.MethodName) prog_10_method_2_code (2 : Nat) (Option.some Jvm.ClassFile.FieldType.boolean)) ∈ lw_all := lw_g (lw_at lw_m6 179 rfl) rfl
theorem q1492 : (Jvm.Cond.methodLink "PureHouse$Lambda" (19 : Nat) ({ cls := "PureHouse$Machine", name := "spend", desc := "(I)V" } : Jvm.MethodName)) ∈ lw_all := lw_g (lw_at lw_m6 180 rfl) rfl
theorem q1493 : (Jvm.Cond.classLink "PureHouse$Lambda" (26 : Nat) "PureHouse$Env") ∈ lw_all := lw_g (lw_at lw_m6 181 rfl) rfl
theorem q1495 : (Jvm.Cond.methodLink "PureHouse$Lambda" (28 : Nat) ({ cls := "PureHouse$Machine", name := "pull", desc := "()LPureHouse$Closure;" } : Jvm.MethodName)) ∈ lw_all := lw_g (lw_at lw_m6 183 rfl) rfl
theorem q1499 : (Jvm.Cond.methodLink "PureHouse$Lambda" (36 : Nat) ({ cls := "PureHouse$Env", name := "<init>", desc := "(LPureHouse$Closure;LPureHouse$Env;)V" } : Jvm.MethodName)) ∈ lw_all := lw_g (lw_at lw_m6 187 rfl) rfl
theorem q1517 : (Jvm.Cond.methodLink "PureHouse$Lambda" (39 : Nat) ({ cls := "PureHouse$Machine", name := "at", desc := "(LPureHouse$Term;LPureHouse$Env;)V" } : Jvm.MethodName)) ∈ lw_all := lw_g (lw_at lw_m6 205 rfl) rfl
theorem q2565 : (Jvm.Cond.castable "PureHouse$Lambda" "PureHouse$Term") ∈ lw_tbl := lw_at lw_m11 53 rfl
theorem q2587 : (Jvm.Cond.castable "PureHouse$Lambda" "java/lang/Object") ∈ lw_tbl := lw_at lw_m11 75 rfl
theorem in_X10 : ∀ w ∈ wsX100, w ∈ lw_all := lw_in wsX100 [1070, 1072, 1066, 1068] (by decide +kernel) (by decide +kernel)

/-! PureHouse$Product -/
set_option maxRecDepth 100000
def RX11 : String := "PureHouse$Product"
def TX11 : u_T := fun k => match k with
  | 0 => ("PureHouse$Term", "at", "I", false)
  | 1 => ("PureHouse$Term", "from", "I", false)
  | 2 => ("PureHouse$Product", "domain", "LPureHouse$Term;", true)
  | 3 => ("PureHouse$Product", "body", "LPureHouse$Term;", false)
  | 4 => ("PureHouse$Product", "a", "I", false)
  | _ => ("PureHouse$Product", "b", "I", false)
def tyX11 : Nat → FieldType := fun k => match k with
  | 0 => .int
  | 1 => .int
  | 2 => .object "PureHouse$Term"
  | 3 => .object "PureHouse$Term"
  | 4 => .int
  | _ => .int
abbrev wsX110 : List Cond := u_ws RX11 TX11 6
theorem nmX11 : ∀ a, a < 6 → ∀ b, b < 6 → a ≠ b → (TX11 a).2.1 ≠ (TX11 b).2.1 := by decide +kernel
theorem tyX11_ok : ∀ k, k < 6 → parseFieldDescriptor (TX11 k).2.2.1 = some (tyX11 k) := by decide +kernel
abbrev cX11_init : ByteArray := prog_16_method_1_code
def yX11_init : MethodName := ⟨RX11, "<init>", "(LPureHouse$Term;)V"⟩
theorem dX11_init_0 : decode cX11_init 0 = .ok (.aload_n 0, 1) := by decide +kernel
theorem dX11_init_1 : decode cX11_init 1 = .ok (.invokespecial 1, 3) := by decide +kernel
theorem dX11_init_4 : decode cX11_init 4 = .ok (.aload_n 0, 1) := by decide +kernel
theorem dX11_init_5 : decode cX11_init 5 = .ok (.aload_n 1, 1) := by decide +kernel
theorem dX11_init_6 : decode cX11_init 6 = .ok (.putfield 7, 3) := by decide +kernel
theorem dX11_init_9 : decode cX11_init 9 = .ok (.return_, 1) := by decide +kernel
abbrev cX11_goes : ByteArray := prog_16_method_2_code
def yX11_goes : MethodName := ⟨RX11, "goes", "(LPureHouse$Machine;)Z"⟩
theorem dX11_goes_0 : decode cX11_goes 0 = .ok (.iconst 0, 1) := by decide +kernel
theorem dX11_goes_1 : decode cX11_goes 1 = .ok (.ireturn, 1) := by decide +kernel
theorem q147 : (Jvm.Cond.initialized "PureHouse$Product") ∈ lw_all := lw_g (lw_at lw_m1 35 rfl) rfl
theorem q1047 : (Jvm.Cond.sameField "PureHouse$Product" "PureHouse$Term" "at" "I") ∈ lw_all := lw_g (lw_at lw_m4 215 rfl) rfl
theorem q1063 : (Jvm.Cond.sameField "PureHouse$Product" "PureHouse$Term" "from" "I") ∈ lw_all := lw_g (lw_at lw_m4 231 rfl) rfl
theorem q1117 : (Jvm.Cond.selects "PureHouse$Product" ({ cls := "java/lang/Object", name := "getClass", desc := "()Ljava/lang/Class;" } : Jvm.MethodName) ({ cls := "java/lang/Object", name := "getClass", desc := "()Ljava/lang/Class;" } : Jvm.MethodName)) ∈ lw_all := lw_g (lw_at lw_m5 45 rfl) rfl
theorem q1160 : (Jvm.Cond.instantiable "PureHouse$Product" (6 : Nat)) ∈ lw_all := lw_g (lw_at lw_m5 88 rfl) rfl
theorem q1162 : (Jvm.Cond.instanceMethod ({ cls := "PureHouse$Product", name := "<init>", desc := "(LPureHouse$Term;)V" } : Jvm.MethodName)) ∈ lw_all := lw_g (lw_at lw_m5 90 rfl) rfl
theorem q1163 : (Jvm.Cond.code ({ cls := "PureHouse$Product", name := "<init>", desc := "(LPureHouse$Term;)V" } : Jvm.MethodName) prog_16_method_1_code (2 : Nat) (Option.none : Option Jvm.ClassFile.FieldType)) ∈ lw_all := lw_g (lw_at lw_m5 91 rfl) rfl
theorem q1164 : (Jvm.Cond.methodLinkNest "PureHouse$Product" (1 : Nat) ({ cls := "PureHouse$Term", name := "<init>", desc := "()V" } : Jvm.MethodName) "PureHouse") ∈ lw_tbl := lw_at lw_m5 92 rfl
theorem q1165 : (Jvm.Cond.fieldLink "PureHouse$Product" (7 : Nat) "PureHouse$Product" "domain" "LPureHouse$Term;") ∈ lw_all := lw_g (lw_at lw_m5 93 rfl) rfl
theorem q1175 : (Jvm.Cond.laysFinal "PureHouse$Product" "PureHouse$Product" "domain" "LPureHouse$Term;") ∈ lw_all := lw_g (lw_at lw_m5 103 rfl) rfl
theorem q1176 : (Jvm.Cond.soleField "PureHouse$Product" "domain") ∈ lw_all := lw_g (lw_at lw_m5 104 rfl) rfl
theorem q1177 : (Jvm.Cond.lays "PureHouse$Product" "PureHouse$Product" "body" "LPureHouse$Term;") ∈ lw_all := lw_g (lw_at lw_m5 105 rfl) rfl
theorem q1178 : (Jvm.Cond.soleField "PureHouse$Product" "body") ∈ lw_all := lw_g (lw_at lw_m5 106 rfl) rfl
theorem q1179 : (Jvm.Cond.lays "PureHouse$Product" "PureHouse$Product" "a" "I") ∈ lw_all := lw_g (lw_at lw_m5 107 rfl) rfl
theorem q1180 : (Jvm.Cond.soleField "PureHouse$Product" "a") ∈ lw_all := lw_g (lw_at lw_m5 108 rfl) rfl
theorem q1181 : (Jvm.Cond.lays "PureHouse$Product" "PureHouse$Product" "b" "I") ∈ lw_all := lw_g (lw_at lw_m5 109 rfl) rfl
theorem q1182 : (Jvm.Cond.soleField "PureHouse$Product" "b") ∈ lw_all := lw_g (lw_at lw_m5 110 rfl) rfl
theorem q1183 : (Jvm.Cond.lays "PureHouse$Product" "PureHouse$Term" "at" "I") ∈ lw_all := lw_g (lw_at lw_m5 111 rfl) rfl
theorem q1184 : (Jvm.Cond.lays "PureHouse$Product" "PureHouse$Term" "from" "I") ∈ lw_all := lw_g (lw_at lw_m5 112 rfl) rfl
theorem q1185 : (Jvm.Cond.superclass "PureHouse$Product" "PureHouse$Term") ∈ lw_all := lw_g (lw_at lw_m5 113 rfl) rfl
theorem q1534 : (Jvm.Cond.selects "PureHouse$Product" ({ cls := "PureHouse$Term", name := "goes", desc := "(LPureHouse$Machine;)Z" } : Jvm.MethodName) ({ cls := "PureHouse$Product", name := "goes", desc := "(LPureHouse$Machine;)Z" } : Jvm.MethodName)) ∈ lw_all := lw_g (lw_at lw_m6 222 rfl) rfl
theorem q1535 : (Jvm.Cond.instanceMethod ({ cls := "PureHouse$Product", name := "goes", desc := "(LPureHouse$Machine;)Z" } : Jvm.MethodName)) ∈ lw_all := lw_g (lw_at lw_m6 223 rfl) rfl
theorem q1536 : (Jvm.Cond.code ({ cls := "PureHouse$Product", name := "goes", desc := "(LPureHouse$Machine;)Z" } : Jvm.MethodName) prog_16_method_2_code (2 : Nat) (Option.some Jvm.ClassFile.FieldType.boolean)) ∈ lw_all := lw_g (lw_at lw_m6 224 rfl) rfl
theorem q2569 : (Jvm.Cond.castable "PureHouse$Product" "PureHouse$Term") ∈ lw_tbl := lw_at lw_m11 57 rfl
theorem q2588 : (Jvm.Cond.castable "PureHouse$Product" "java/lang/Object") ∈ lw_tbl := lw_at lw_m11 76 rfl
theorem in_X11 : ∀ w ∈ wsX110, w ∈ lw_all := lw_in wsX110 [1183, 1184, 1175, 1177, 1179, 1181] (by decide +kernel) (by decide +kernel)

/-! PureHouse$Let -/
set_option maxRecDepth 100000
def RX12 : String := "PureHouse$Let"
def TX12 : u_T := fun k => match k with
  | 0 => ("PureHouse$Term", "at", "I", false)
  | 1 => ("PureHouse$Term", "from", "I", false)
  | 2 => ("PureHouse$Let", "value", "LPureHouse$Term;", true)
  | _ => ("PureHouse$Let", "body", "LPureHouse$Term;", false)
def tyX12 : Nat → FieldType := fun k => match k with
  | 0 => .int
  | 1 => .int
  | 2 => .object "PureHouse$Term"
  | _ => .object "PureHouse$Term"
abbrev wsX120 : List Cond := u_ws RX12 TX12 4
theorem nmX12 : ∀ a, a < 4 → ∀ b, b < 4 → a ≠ b → (TX12 a).2.1 ≠ (TX12 b).2.1 := by decide +kernel
theorem tyX12_ok : ∀ k, k < 4 → parseFieldDescriptor (TX12 k).2.2.1 = some (tyX12 k) := by decide +kernel
abbrev cX12_init : ByteArray := prog_11_method_1_code
def yX12_init : MethodName := ⟨RX12, "<init>", "(LPureHouse$Term;)V"⟩
theorem dX12_init_0 : decode cX12_init 0 = .ok (.aload_n 0, 1) := by decide +kernel
theorem dX12_init_1 : decode cX12_init 1 = .ok (.invokespecial 1, 3) := by decide +kernel
theorem dX12_init_4 : decode cX12_init 4 = .ok (.aload_n 0, 1) := by decide +kernel
theorem dX12_init_5 : decode cX12_init 5 = .ok (.aload_n 1, 1) := by decide +kernel
theorem dX12_init_6 : decode cX12_init 6 = .ok (.putfield 7, 3) := by decide +kernel
theorem dX12_init_9 : decode cX12_init 9 = .ok (.return_, 1) := by decide +kernel
abbrev cX12_goes : ByteArray := prog_11_method_2_code
def yX12_goes : MethodName := ⟨RX12, "goes", "(LPureHouse$Machine;)Z"⟩
theorem dX12_goes_0 : decode cX12_goes 0 = .ok (.aload_n 1, 1) := by decide +kernel
theorem dX12_goes_1 : decode cX12_goes 1 = .ok (.iconst 2, 1) := by decide +kernel
theorem dX12_goes_2 : decode cX12_goes 2 = .ok (.invokevirtual 13, 3) := by decide +kernel
theorem dX12_goes_5 : decode cX12_goes 5 = .ok (.aload_n 1, 1) := by decide +kernel
theorem dX12_goes_6 : decode cX12_goes 6 = .ok (.aload_n 0, 1) := by decide +kernel
theorem dX12_goes_7 : decode cX12_goes 7 = .ok (.getfield 19, 3) := by decide +kernel
theorem dX12_goes_10 : decode cX12_goes 10 = .ok (.new 22, 3) := by decide +kernel
theorem dX12_goes_13 : decode cX12_goes 13 = .ok (.dup, 1) := by decide +kernel
theorem dX12_goes_14 : decode cX12_goes 14 = .ok (.new 24, 3) := by decide +kernel
theorem dX12_goes_17 : decode cX12_goes 17 = .ok (.dup, 1) := by decide +kernel
theorem dX12_goes_18 : decode cX12_goes 18 = .ok (.aload_n 0, 1) := by decide +kernel
theorem dX12_goes_19 : decode cX12_goes 19 = .ok (.getfield 7, 3) := by decide +kernel
theorem dX12_goes_22 : decode cX12_goes 22 = .ok (.aload_n 1, 1) := by decide +kernel
theorem dX12_goes_23 : decode cX12_goes 23 = .ok (.getfield 26, 3) := by decide +kernel
theorem dX12_goes_26 : decode cX12_goes 26 = .ok (.invokespecial 30, 3) := by decide +kernel
theorem dX12_goes_29 : decode cX12_goes 29 = .ok (.aload_n 1, 1) := by decide +kernel
theorem dX12_goes_30 : decode cX12_goes 30 = .ok (.getfield 26, 3) := by decide +kernel
theorem dX12_goes_33 : decode cX12_goes 33 = .ok (.invokespecial 33, 3) := by decide +kernel
theorem dX12_goes_36 : decode cX12_goes 36 = .ok (.invokevirtual 36, 3) := by decide +kernel
theorem dX12_goes_39 : decode cX12_goes 39 = .ok (.iconst 1, 1) := by decide +kernel
theorem dX12_goes_40 : decode cX12_goes 40 = .ok (.ireturn, 1) := by decide +kernel
theorem q148 : (Jvm.Cond.initialized "PureHouse$Let") ∈ lw_all := lw_g (lw_at lw_m1 36 rfl) rfl
theorem q212 : (Jvm.Cond.fieldLinkNest "PureHouse$Let" (26 : Nat) "PureHouse$Machine" "env" "LPureHouse$Env;" "PureHouse") ∈ lw_tbl := lw_at lw_m1 100 rfl
theorem q1055 : (Jvm.Cond.sameField "PureHouse$Let" "PureHouse$Term" "at" "I") ∈ lw_all := lw_g (lw_at lw_m4 223 rfl) rfl
theorem q1112 : (Jvm.Cond.selects "PureHouse$Let" ({ cls := "java/lang/Object", name := "getClass", desc := "()Ljava/lang/Class;" } : Jvm.MethodName) ({ cls := "java/lang/Object", name := "getClass", desc := "()Ljava/lang/Class;" } : Jvm.MethodName)) ∈ lw_all := lw_g (lw_at lw_m5 40 rfl) rfl
theorem q1195 : (Jvm.Cond.instantiable "PureHouse$Let" (4 : Nat)) ∈ lw_all := lw_g (lw_at lw_m5 123 rfl) rfl
theorem q1197 : (Jvm.Cond.instanceMethod ({ cls := "PureHouse$Let", name := "<init>", desc := "(LPureHouse$Term;)V" } : Jvm.MethodName)) ∈ lw_all := lw_g (lw_at lw_m5 125 rfl) rfl
theorem q1198 : (Jvm.Cond.code ({ cls := "PureHouse$Let", name := "<init>", desc := "(LPureHouse$Term;)V" } : Jvm.MethodName) prog_11_method_1_code (2 : Nat) (Option.none : Option Jvm.ClassFile.FieldType)) ∈ lw_all := lw_g (lw_at lw_m5 126 rfl) rfl
theorem q1199 : (Jvm.Cond.methodLinkNest "PureHouse$Let" (1 : Nat) ({ cls := "PureHouse$Term", name := "<init>", desc := "()V" } : Jvm.MethodName) "PureHouse") ∈ lw_tbl := lw_at lw_m5 127 rfl
theorem q1200 : (Jvm.Cond.fieldLink "PureHouse$Let" (7 : Nat) "PureHouse$Let" "value" "LPureHouse$Term;") ∈ lw_all := lw_g (lw_at lw_m5 128 rfl) rfl
theorem q1202 : (Jvm.Cond.fieldLink "PureHouse$Let" (19 : Nat) "PureHouse$Let" "body" "LPureHouse$Term;") ∈ lw_all := lw_g (lw_at lw_m5 130 rfl) rfl
theorem q1205 : (Jvm.Cond.laysFinal "PureHouse$Let" "PureHouse$Let" "value" "LPureHouse$Term;") ∈ lw_all := lw_g (lw_at lw_m5 133 rfl) rfl
theorem q1206 : (Jvm.Cond.soleField "PureHouse$Let" "value") ∈ lw_all := lw_g (lw_at lw_m5 134 rfl) rfl
theorem q1207 : (Jvm.Cond.lays "PureHouse$Let" "PureHouse$Let" "body" "LPureHouse$Term;") ∈ lw_all := lw_g (lw_at lw_m5 135 rfl) rfl
theorem q1208 : (Jvm.Cond.soleField "PureHouse$Let" "body") ∈ lw_all := lw_g (lw_at lw_m5 136 rfl) rfl
theorem q1209 : (Jvm.Cond.lays "PureHouse$Let" "PureHouse$Term" "at" "I") ∈ lw_all := lw_g (lw_at lw_m5 137 rfl) rfl
theorem q1210 : (Jvm.Cond.lays "PureHouse$Let" "PureHouse$Term" "from" "I") ∈ lw_all := lw_g (lw_at lw_m5 138 rfl) rfl
theorem q1211 : (Jvm.Cond.superclass "PureHouse$Let" "PureHouse$Term") ∈ lw_all := lw_g (lw_at lw_m5 139 rfl) rfl
theorem q1518 : (Jvm.Cond.selects "PureHouse$Let" ({ cls := "PureHouse$Term", name := "goes", desc := "(LPureHouse$Machine;)Z" } : Jvm.MethodName) ({ cls := "PureHouse$Let", name := "goes", desc := "(LPureHouse$Machine;)Z" } : Jvm.MethodName)) ∈ lw_all := lw_g (lw_at lw_m6 206 rfl) rfl
theorem q1519 : (Jvm.Cond.instanceMethod ({ cls := "PureHouse$Let", name := "goes", desc := "(LPureHouse$Machine;)Z" } : Jvm.MethodName)) ∈ lw_all := lw_g (lw_at lw_m6 207 rfl) rfl
theorem q1520 : (Jvm.Cond.code ({ cls := "PureHouse$Let", name := "goes", desc := "(LPureHouse$Machine;)Z" } : Jvm.MethodName) prog_11_method_2_code (2 : Nat) (Option.some Jvm.ClassFile.FieldType.boolean)) ∈ lw_all := lw_g (lw_at lw_m6 208 rfl) rfl
theorem q1521 : (Jvm.Cond.methodLink "PureHouse$Let" (13 : Nat) ({ cls := "PureHouse$Machine", name := "spend", desc := "(I)V" } : Jvm.MethodName)) ∈ lw_all := lw_g (lw_at lw_m6 209 rfl) rfl
theorem q1522 : (Jvm.Cond.classLink "PureHouse$Let" (22 : Nat) "PureHouse$Env") ∈ lw_all := lw_g (lw_at lw_m6 210 rfl) rfl
theorem q1523 : (Jvm.Cond.classLink "PureHouse$Let" (24 : Nat) "PureHouse$Closure") ∈ lw_all := lw_g (lw_at lw_m6 211 rfl) rfl
theorem q1524 : (Jvm.Cond.methodLink "PureHouse$Let" (30 : Nat) ({ cls := "PureHouse$Closure", name := "<init>", desc := "(LPureHouse$Term;LPureHouse$Env;)V" } : Jvm.MethodName)) ∈ lw_all := lw_g (lw_at lw_m6 212 rfl) rfl
theorem q1525 : (Jvm.Cond.methodLink "PureHouse$Let" (33 : Nat) ({ cls := "PureHouse$Env", name := "<init>", desc := "(LPureHouse$Closure;LPureHouse$Env;)V" } : Jvm.MethodName)) ∈ lw_all := lw_g (lw_at lw_m6 213 rfl) rfl
theorem q1526 : (Jvm.Cond.methodLink "PureHouse$Let" (36 : Nat) ({ cls := "PureHouse$Machine", name := "at", desc := "(LPureHouse$Term;LPureHouse$Env;)V" } : Jvm.MethodName)) ∈ lw_all := lw_g (lw_at lw_m6 214 rfl) rfl
theorem q2566 : (Jvm.Cond.castable "PureHouse$Let" "PureHouse$Term") ∈ lw_tbl := lw_at lw_m11 54 rfl
theorem q2589 : (Jvm.Cond.castable "PureHouse$Let" "java/lang/Object") ∈ lw_tbl := lw_at lw_m11 77 rfl
theorem in_X12 : ∀ w ∈ wsX120, w ∈ lw_all := lw_in wsX120 [1209, 1210, 1205, 1207] (by decide +kernel) (by decide +kernel)

/-! PureHouse$Bound -/
set_option maxRecDepth 100000
def RX13 : String := "PureHouse$Bound"
def TX13 : u_T := fun k => match k with
  | 0 => ("PureHouse$Term", "at", "I", false)
  | 1 => ("PureHouse$Term", "from", "I", false)
  | _ => ("PureHouse$Bound", "k", "I", true)
def tyX13 : Nat → FieldType := fun k => match k with
  | 0 => .int
  | 1 => .int
  | _ => .int
abbrev wsX130 : List Cond := u_ws RX13 TX13 3
theorem nmX13 : ∀ a, a < 3 → ∀ b, b < 3 → a ≠ b → (TX13 a).2.1 ≠ (TX13 b).2.1 := by decide +kernel
theorem tyX13_ok : ∀ k, k < 3 → parseFieldDescriptor (TX13 k).2.2.1 = some (tyX13 k) := by decide +kernel
abbrev cX13_init : ByteArray := prog_3_method_1_code
def yX13_init : MethodName := ⟨RX13, "<init>", "(I)V"⟩
theorem dX13_init_0 : decode cX13_init 0 = .ok (.aload_n 0, 1) := by decide +kernel
theorem dX13_init_1 : decode cX13_init 1 = .ok (.invokespecial 1, 3) := by decide +kernel
theorem dX13_init_4 : decode cX13_init 4 = .ok (.aload_n 0, 1) := by decide +kernel
theorem dX13_init_5 : decode cX13_init 5 = .ok (.iload_n 1, 1) := by decide +kernel
theorem dX13_init_6 : decode cX13_init 6 = .ok (.putfield 7, 3) := by decide +kernel
theorem dX13_init_9 : decode cX13_init 9 = .ok (.return_, 1) := by decide +kernel
abbrev cX13_goes : ByteArray := prog_3_method_2_code
def yX13_goes : MethodName := ⟨RX13, "goes", "(LPureHouse$Machine;)Z"⟩
theorem dX13_goes_0 : decode cX13_goes 0 = .ok (.aload_n 1, 1) := by decide +kernel
theorem dX13_goes_1 : decode cX13_goes 1 = .ok (.getfield 13, 3) := by decide +kernel
theorem dX13_goes_4 : decode cX13_goes 4 = .ok (.astore_n 2, 1) := by decide +kernel
theorem dX13_goes_5 : decode cX13_goes 5 = .ok (.iconst 0, 1) := by decide +kernel
theorem dX13_goes_6 : decode cX13_goes 6 = .ok (.istore_n 3, 1) := by decide +kernel
theorem dX13_goes_7 : decode cX13_goes 7 = .ok (.iload_n 3, 1) := by decide +kernel
theorem dX13_goes_8 : decode cX13_goes 8 = .ok (.aload_n 0, 1) := by decide +kernel
theorem dX13_goes_9 : decode cX13_goes 9 = .ok (.getfield 7, 3) := by decide +kernel
theorem dX13_goes_12 : decode cX13_goes 12 = .ok (.if_icmp .ge 14, 3) := by decide +kernel
theorem dX13_goes_15 : decode cX13_goes 15 = .ok (.aload_n 2, 1) := by decide +kernel
theorem dX13_goes_16 : decode cX13_goes 16 = .ok (.getfield 19, 3) := by decide +kernel
theorem dX13_goes_19 : decode cX13_goes 19 = .ok (.astore_n 2, 1) := by decide +kernel
theorem dX13_goes_20 : decode cX13_goes 20 = .ok (.iinc 3 1, 3) := by decide +kernel
theorem dX13_goes_23 : decode cX13_goes 23 = .ok (.goto (-16), 3) := by decide +kernel
theorem dX13_goes_26 : decode cX13_goes 26 = .ok (.aload_n 2, 1) := by decide +kernel
theorem dX13_goes_27 : decode cX13_goes 27 = .ok (.getfield 24, 3) := by decide +kernel
theorem dX13_goes_30 : decode cX13_goes 30 = .ok (.getfield 28, 3) := by decide +kernel
theorem dX13_goes_33 : decode cX13_goes 33 = .ok (.instanceof 34, 3) := by decide +kernel
theorem dX13_goes_36 : decode cX13_goes 36 = .ok (.ifCond .ne 8, 3) := by decide +kernel
theorem dX13_goes_39 : decode cX13_goes 39 = .ok (.aload_n 1, 1) := by decide +kernel
theorem dX13_goes_40 : decode cX13_goes 40 = .ok (.iconst 4, 1) := by decide +kernel
theorem dX13_goes_41 : decode cX13_goes 41 = .ok (.invokevirtual 36, 3) := by decide +kernel
theorem dX13_goes_44 : decode cX13_goes 44 = .ok (.aload_n 1, 1) := by decide +kernel
theorem dX13_goes_45 : decode cX13_goes 45 = .ok (.aload_n 2, 1) := by decide +kernel
theorem dX13_goes_46 : decode cX13_goes 46 = .ok (.getfield 24, 3) := by decide +kernel
theorem dX13_goes_49 : decode cX13_goes 49 = .ok (.invokevirtual 40, 3) := by decide +kernel
theorem dX13_goes_52 : decode cX13_goes 52 = .ok (.iconst 1, 1) := by decide +kernel
theorem dX13_goes_53 : decode cX13_goes 53 = .ok (.ireturn, 1) := by decide +kernel
theorem q149 : (Jvm.Cond.initialized "PureHouse$Bound") ∈ lw_all := lw_g (lw_at lw_m1 37 rfl) rfl
theorem q209 : (Jvm.Cond.fieldLinkNest "PureHouse$Bound" (13 : Nat) "PureHouse$Machine" "env" "LPureHouse$Env;" "PureHouse") ∈ lw_tbl := lw_at lw_m1 97 rfl
theorem q1104 : (Jvm.Cond.selects "PureHouse$Bound" ({ cls := "java/lang/Object", name := "getClass", desc := "()Ljava/lang/Class;" } : Jvm.MethodName) ({ cls := "java/lang/Object", name := "getClass", desc := "()Ljava/lang/Class;" } : Jvm.MethodName)) ∈ lw_all := lw_g (lw_at lw_m5 32 rfl) rfl
theorem q1238 : (Jvm.Cond.instantiable "PureHouse$Bound" (3 : Nat)) ∈ lw_all := lw_g (lw_at lw_m5 166 rfl) rfl
theorem q1240 : (Jvm.Cond.instanceMethod ({ cls := "PureHouse$Bound", name := "<init>", desc := "(I)V" } : Jvm.MethodName)) ∈ lw_all := lw_g (lw_at lw_m5 168 rfl) rfl
theorem q1241 : (Jvm.Cond.code ({ cls := "PureHouse$Bound", name := "<init>", desc := "(I)V" } : Jvm.MethodName) prog_3_method_1_code (2 : Nat) (Option.none : Option Jvm.ClassFile.FieldType)) ∈ lw_all := lw_g (lw_at lw_m5 169 rfl) rfl
theorem q1242 : (Jvm.Cond.methodLinkNest "PureHouse$Bound" (1 : Nat) ({ cls := "PureHouse$Term", name := "<init>", desc := "()V" } : Jvm.MethodName) "PureHouse") ∈ lw_tbl := lw_at lw_m5 170 rfl
theorem q1243 : (Jvm.Cond.fieldLink "PureHouse$Bound" (7 : Nat) "PureHouse$Bound" "k" "I") ∈ lw_all := lw_g (lw_at lw_m5 171 rfl) rfl
theorem q1245 : (Jvm.Cond.laysFinal "PureHouse$Bound" "PureHouse$Bound" "k" "I") ∈ lw_all := lw_g (lw_at lw_m5 173 rfl) rfl
theorem q1246 : (Jvm.Cond.soleField "PureHouse$Bound" "k") ∈ lw_all := lw_g (lw_at lw_m5 174 rfl) rfl
theorem q1247 : (Jvm.Cond.lays "PureHouse$Bound" "PureHouse$Term" "at" "I") ∈ lw_all := lw_g (lw_at lw_m5 175 rfl) rfl
theorem q1248 : (Jvm.Cond.lays "PureHouse$Bound" "PureHouse$Term" "from" "I") ∈ lw_all := lw_g (lw_at lw_m5 176 rfl) rfl
theorem q1249 : (Jvm.Cond.superclass "PureHouse$Bound" "PureHouse$Term") ∈ lw_all := lw_g (lw_at lw_m5 177 rfl) rfl
theorem q1436 : (Jvm.Cond.fieldLinkNest "PureHouse$Bound" (28 : Nat) "PureHouse$Closure" "term" "LPureHouse$Term;" "PureHouse") ∈ lw_tbl := lw_at lw_m6 124 rfl
theorem q1475 : (Jvm.Cond.selects "PureHouse$Bound" ({ cls := "PureHouse$Term", name := "goes", desc := "(LPureHouse$Machine;)Z" } : Jvm.MethodName) ({ cls := "PureHouse$Bound", name := "goes", desc := "(LPureHouse$Machine;)Z" } : Jvm.MethodName)) ∈ lw_all := lw_g (lw_at lw_m6 163 rfl) rfl
theorem q1476 : (Jvm.Cond.instanceMethod ({ cls := "PureHouse$Bound", name := "goes", desc := "(LPureHouse$Machine;)Z" } : Jvm.MethodName)) ∈ lw_all := lw_g (lw_at lw_m6 164 rfl) rfl
theorem q1477 : (Jvm.Cond.code ({ cls := "PureHouse$Bound", name := "goes", desc := "(LPureHouse$Machine;)Z" } : Jvm.MethodName) prog_3_method_2_code (4 : Nat) (Option.some Jvm.ClassFile.FieldType.boolean)) ∈ lw_all := lw_g (lw_at lw_m6 165 rfl) rfl
theorem q1478 : (Jvm.Cond.classLink "PureHouse$Bound" (34 : Nat) "PureHouse$Local") ∈ lw_all := lw_g (lw_at lw_m6 166 rfl) rfl
theorem q1479 : (Jvm.Cond.methodLink "PureHouse$Bound" (36 : Nat) ({ cls := "PureHouse$Machine", name := "spend", desc := "(I)V" } : Jvm.MethodName)) ∈ lw_all := lw_g (lw_at lw_m6 167 rfl) rfl
theorem q1480 : (Jvm.Cond.methodLink "PureHouse$Bound" (40 : Nat) ({ cls := "PureHouse$Machine", name := "enter", desc := "(LPureHouse$Closure;)V" } : Jvm.MethodName)) ∈ lw_all := lw_g (lw_at lw_m6 168 rfl) rfl
theorem q1504 : (Jvm.Cond.fieldLinkNest "PureHouse$Bound" (24 : Nat) "PureHouse$Env" "value" "LPureHouse$Closure;" "PureHouse") ∈ lw_tbl := lw_at lw_m6 192 rfl
theorem q1506 : (Jvm.Cond.fieldLinkNest "PureHouse$Bound" (19 : Nat) "PureHouse$Env" "next" "LPureHouse$Env;" "PureHouse") ∈ lw_tbl := lw_at lw_m6 194 rfl
theorem q2563 : (Jvm.Cond.castable "PureHouse$Bound" "PureHouse$Term") ∈ lw_tbl := lw_at lw_m11 51 rfl
theorem q2590 : (Jvm.Cond.castable "PureHouse$Bound" "java/lang/Object") ∈ lw_tbl := lw_at lw_m11 78 rfl
theorem in_X13 : ∀ w ∈ wsX130, w ∈ lw_all := lw_in wsX130 [1247, 1248, 1245] (by decide +kernel) (by decide +kernel)

/-! PureHouse$Free -/
set_option maxRecDepth 100000
def RX14 : String := "PureHouse$Free"
def TX14 : u_T := fun k => match k with
  | 0 => ("PureHouse$Term", "at", "I", false)
  | 1 => ("PureHouse$Term", "from", "I", false)
  | 2 => ("PureHouse$Free", "name", "Ljava/lang/String;", true)
  | 3 => ("PureHouse$Free", "of", "LPureHouse$Name;", false)
  | _ => ("PureHouse$Free", "sort", "I", false)
def tyX14 : Nat → FieldType := fun k => match k with
  | 0 => .int
  | 1 => .int
  | 2 => .object "java/lang/String"
  | 3 => .object "PureHouse$Name"
  | _ => .int
abbrev wsX140 : List Cond := u_ws RX14 TX14 5
theorem nmX14 : ∀ a, a < 5 → ∀ b, b < 5 → a ≠ b → (TX14 a).2.1 ≠ (TX14 b).2.1 := by decide +kernel
theorem tyX14_ok : ∀ k, k < 5 → parseFieldDescriptor (TX14 k).2.2.1 = some (tyX14 k) := by decide +kernel
abbrev cX14_init : ByteArray := prog_7_method_1_code
def yX14_init : MethodName := ⟨RX14, "<init>", "(Ljava/lang/String;)V"⟩
theorem dX14_init_0 : decode cX14_init 0 = .ok (.aload_n 0, 1) := by decide +kernel
theorem dX14_init_1 : decode cX14_init 1 = .ok (.invokespecial 3, 3) := by decide +kernel
theorem dX14_init_4 : decode cX14_init 4 = .ok (.aload_n 0, 1) := by decide +kernel
theorem dX14_init_5 : decode cX14_init 5 = .ok (.iconst (-1), 1) := by decide +kernel
theorem dX14_init_6 : decode cX14_init 6 = .ok (.putfield 9, 3) := by decide +kernel
theorem dX14_init_9 : decode cX14_init 9 = .ok (.aload_n 0, 1) := by decide +kernel
theorem dX14_init_10 : decode cX14_init 10 = .ok (.aload_n 1, 1) := by decide +kernel
theorem dX14_init_11 : decode cX14_init 11 = .ok (.putfield 15, 3) := by decide +kernel
theorem dX14_init_14 : decode cX14_init 14 = .ok (.return_, 1) := by decide +kernel
abbrev cX14_goes : ByteArray := prog_7_method_2_code
def yX14_goes : MethodName := ⟨RX14, "goes", "(LPureHouse$Machine;)Z"⟩
theorem dX14_goes_0 : decode cX14_goes 0 = .ok (.aload_n 0, 1) := by decide +kernel
theorem dX14_goes_1 : decode cX14_goes 1 = .ok (.getfield 19, 3) := by decide +kernel
theorem dX14_goes_4 : decode cX14_goes 4 = .ok (.ifnull 13, 3) := by decide +kernel
theorem dX14_goes_7 : decode cX14_goes 7 = .ok (.aload_n 0, 1) := by decide +kernel
theorem dX14_goes_8 : decode cX14_goes 8 = .ok (.getfield 19, 3) := by decide +kernel
theorem dX14_goes_11 : decode cX14_goes 11 = .ok (.getfield 23, 3) := by decide +kernel
theorem dX14_goes_14 : decode cX14_goes 14 = .ok (.ifnonnull 5, 3) := by decide +kernel
theorem dX14_goes_17 : decode cX14_goes 17 = .ok (.iconst 0, 1) := by decide +kernel
theorem dX14_goes_18 : decode cX14_goes 18 = .ok (.ireturn, 1) := by decide +kernel
theorem dX14_goes_19 : decode cX14_goes 19 = .ok (.aload_n 1, 1) := by decide +kernel
theorem dX14_goes_20 : decode cX14_goes 20 = .ok (.iconst 1, 1) := by decide +kernel
theorem dX14_goes_21 : decode cX14_goes 21 = .ok (.invokevirtual 29, 3) := by decide +kernel
theorem dX14_goes_24 : decode cX14_goes 24 = .ok (.aload_n 1, 1) := by decide +kernel
theorem dX14_goes_25 : decode cX14_goes 25 = .ok (.aload_n 0, 1) := by decide +kernel
theorem dX14_goes_26 : decode cX14_goes 26 = .ok (.getfield 19, 3) := by decide +kernel
theorem dX14_goes_29 : decode cX14_goes 29 = .ok (.getfield 23, 3) := by decide +kernel
theorem dX14_goes_32 : decode cX14_goes 32 = .ok (.aconst_null, 1) := by decide +kernel
theorem dX14_goes_33 : decode cX14_goes 33 = .ok (.invokevirtual 35, 3) := by decide +kernel
theorem dX14_goes_36 : decode cX14_goes 36 = .ok (.iconst 1, 1) := by decide +kernel
theorem dX14_goes_37 : decode cX14_goes 37 = .ok (.ireturn, 1) := by decide +kernel
theorem q150 : (Jvm.Cond.initialized "PureHouse$Free") ∈ lw_all := lw_g (lw_at lw_m1 38 rfl) rfl
theorem q1045 : (Jvm.Cond.sameField "PureHouse$Free" "PureHouse$Term" "at" "I") ∈ lw_all := lw_g (lw_at lw_m4 213 rfl) rfl
theorem q1108 : (Jvm.Cond.selects "PureHouse$Free" ({ cls := "java/lang/Object", name := "getClass", desc := "()Ljava/lang/Class;" } : Jvm.MethodName) ({ cls := "java/lang/Object", name := "getClass", desc := "()Ljava/lang/Class;" } : Jvm.MethodName)) ∈ lw_all := lw_g (lw_at lw_m5 36 rfl) rfl
theorem q1251 : (Jvm.Cond.instantiable "PureHouse$Free" (5 : Nat)) ∈ lw_all := lw_g (lw_at lw_m5 179 rfl) rfl
theorem q1253 : (Jvm.Cond.instanceMethod ({ cls := "PureHouse$Free", name := "<init>", desc := "(Ljava/lang/String;)V" } : Jvm.MethodName)) ∈ lw_all := lw_g (lw_at lw_m5 181 rfl) rfl
theorem q1254 : (Jvm.Cond.code ({ cls := "PureHouse$Free", name := "<init>", desc := "(Ljava/lang/String;)V" } : Jvm.MethodName) prog_7_method_1_code (2 : Nat) (Option.none : Option Jvm.ClassFile.FieldType)) ∈ lw_all := lw_g (lw_at lw_m5 182 rfl) rfl
theorem q1255 : (Jvm.Cond.methodLinkNest "PureHouse$Free" (3 : Nat) ({ cls := "PureHouse$Term", name := "<init>", desc := "()V" } : Jvm.MethodName) "PureHouse") ∈ lw_tbl := lw_at lw_m5 183 rfl
theorem q1256 : (Jvm.Cond.fieldLink "PureHouse$Free" (15 : Nat) "PureHouse$Free" "name" "Ljava/lang/String;") ∈ lw_all := lw_g (lw_at lw_m5 184 rfl) rfl
theorem q1258 : (Jvm.Cond.fieldLink "PureHouse$Free" (19 : Nat) "PureHouse$Free" "of" "LPureHouse$Name;") ∈ lw_all := lw_g (lw_at lw_m5 186 rfl) rfl
theorem q1262 : (Jvm.Cond.fieldLink "PureHouse$Free" (9 : Nat) "PureHouse$Free" "sort" "I") ∈ lw_all := lw_g (lw_at lw_m5 190 rfl) rfl
theorem q1265 : (Jvm.Cond.laysFinal "PureHouse$Free" "PureHouse$Free" "name" "Ljava/lang/String;") ∈ lw_all := lw_g (lw_at lw_m5 193 rfl) rfl
theorem q1266 : (Jvm.Cond.soleField "PureHouse$Free" "name") ∈ lw_all := lw_g (lw_at lw_m5 194 rfl) rfl
theorem q1267 : (Jvm.Cond.lays "PureHouse$Free" "PureHouse$Free" "of" "LPureHouse$Name;") ∈ lw_all := lw_g (lw_at lw_m5 195 rfl) rfl
theorem q1268 : (Jvm.Cond.soleField "PureHouse$Free" "of") ∈ lw_all := lw_g (lw_at lw_m5 196 rfl) rfl
theorem q1269 : (Jvm.Cond.lays "PureHouse$Free" "PureHouse$Free" "sort" "I") ∈ lw_all := lw_g (lw_at lw_m5 197 rfl) rfl
theorem q1270 : (Jvm.Cond.soleField "PureHouse$Free" "sort") ∈ lw_all := lw_g (lw_at lw_m5 198 rfl) rfl
theorem q1271 : (Jvm.Cond.lays "PureHouse$Free" "PureHouse$Term" "at" "I") ∈ lw_all := lw_g (lw_at lw_m5 199 rfl) rfl
theorem q1272 : (Jvm.Cond.lays "PureHouse$Free" "PureHouse$Term" "from" "I") ∈ lw_all := lw_g (lw_at lw_m5 200 rfl) rfl
theorem q1273 : (Jvm.Cond.superclass "PureHouse$Free" "PureHouse$Term") ∈ lw_all := lw_g (lw_at lw_m5 201 rfl) rfl
theorem q1484 : (Jvm.Cond.selects "PureHouse$Free" ({ cls := "PureHouse$Term", name := "goes", desc := "(LPureHouse$Machine;)Z" } : Jvm.MethodName) ({ cls := "PureHouse$Free", name := "goes", desc := "(LPureHouse$Machine;)Z" } : Jvm.MethodName)) ∈ lw_all := lw_g (lw_at lw_m6 172 rfl) rfl
theorem q1485 : (Jvm.Cond.instanceMethod ({ cls := "PureHouse$Free", name := "goes", desc := "(LPureHouse$Machine;)Z" } : Jvm.MethodName)) ∈ lw_all := lw_g (lw_at lw_m6 173 rfl) rfl
theorem q1486 : (Jvm.Cond.code ({ cls := "PureHouse$Free", name := "goes", desc := "(LPureHouse$Machine;)Z" } : Jvm.MethodName) prog_7_method_2_code (2 : Nat) (Option.some Jvm.ClassFile.FieldType.boolean)) ∈ lw_all := lw_g (lw_at lw_m6 174 rfl) rfl
theorem q1487 : (Jvm.Cond.methodLink "PureHouse$Free" (29 : Nat) ({ cls := "PureHouse$Machine", name := "spend", desc := "(I)V" } : Jvm.MethodName)) ∈ lw_all := lw_g (lw_at lw_m6 175 rfl) rfl
theorem q1488 : (Jvm.Cond.methodLink "PureHouse$Free" (35 : Nat) ({ cls := "PureHouse$Machine", name := "at", desc := "(LPureHouse$Term;LPureHouse$Env;)V" } : Jvm.MethodName)) ∈ lw_all := lw_g (lw_at lw_m6 176 rfl) rfl
theorem q1755 : (Jvm.Cond.fieldLinkNest "PureHouse$Free" (23 : Nat) "PureHouse$Name" "value" "LPureHouse$Term;" "PureHouse") ∈ lw_tbl := lw_at lw_m7 203 rfl
theorem q2564 : (Jvm.Cond.castable "PureHouse$Free" "PureHouse$Term") ∈ lw_tbl := lw_at lw_m11 52 rfl
theorem q2591 : (Jvm.Cond.castable "PureHouse$Free" "java/lang/Object") ∈ lw_tbl := lw_at lw_m11 79 rfl
theorem in_X14 : ∀ w ∈ wsX140, w ∈ lw_all := lw_in wsX140 [1271, 1272, 1265, 1267, 1269] (by decide +kernel) (by decide +kernel)

/-! PureHouse$Use -/
set_option maxRecDepth 100000
def RX15 : String := "PureHouse$Use"
def TX15 : u_T := fun k => match k with
  | 0 => ("PureHouse$Term", "at", "I", false)
  | 1 => ("PureHouse$Term", "from", "I", false)
  | 2 => ("PureHouse$Use", "front", "LPureHouse$Term;", true)
  | _ => ("PureHouse$Use", "parts", "Ljava/util/ArrayList;", true)
def tyX15 : Nat → FieldType := fun k => match k with
  | 0 => .int
  | 1 => .int
  | 2 => .object "PureHouse$Term"
  | _ => .object "java/util/ArrayList"
abbrev wsX150 : List Cond := u_ws RX15 TX15 4
theorem nmX15 : ∀ a, a < 4 → ∀ b, b < 4 → a ≠ b → (TX15 a).2.1 ≠ (TX15 b).2.1 := by decide +kernel
theorem tyX15_ok : ∀ k, k < 4 → parseFieldDescriptor (TX15 k).2.2.1 = some (tyX15 k) := by decide +kernel
abbrev cX15_init : ByteArray := prog_24_method_1_code
def yX15_init : MethodName := ⟨RX15, "<init>", "(LPureHouse$Term;)V"⟩
theorem dX15_init_0 : decode cX15_init 0 = .ok (.aload_n 0, 1) := by decide +kernel
theorem dX15_init_1 : decode cX15_init 1 = .ok (.invokespecial 1, 3) := by decide +kernel
theorem dX15_init_4 : decode cX15_init 4 = .ok (.aload_n 0, 1) := by decide +kernel
theorem dX15_init_5 : decode cX15_init 5 = .ok (.new 7, 3) := by decide +kernel
theorem dX15_init_8 : decode cX15_init 8 = .ok (.dup, 1) := by decide +kernel
theorem dX15_init_9 : decode cX15_init 9 = .ok (.iconst 2, 1) := by decide +kernel
theorem dX15_init_10 : decode cX15_init 10 = .ok (.invokespecial 9, 3) := by decide +kernel
theorem dX15_init_13 : decode cX15_init 13 = .ok (.putfield 12, 3) := by decide +kernel
theorem dX15_init_16 : decode cX15_init 16 = .ok (.aload_n 0, 1) := by decide +kernel
theorem dX15_init_17 : decode cX15_init 17 = .ok (.aload_n 1, 1) := by decide +kernel
theorem dX15_init_18 : decode cX15_init 18 = .ok (.putfield 18, 3) := by decide +kernel
theorem dX15_init_21 : decode cX15_init 21 = .ok (.return_, 1) := by decide +kernel
abbrev cX15_goes : ByteArray := prog_24_method_2_code
def yX15_goes : MethodName := ⟨RX15, "goes", "(LPureHouse$Machine;)Z"⟩
theorem dX15_goes_0 : decode cX15_goes 0 = .ok (.iconst 0, 1) := by decide +kernel
theorem dX15_goes_1 : decode cX15_goes 1 = .ok (.istore_n 2, 1) := by decide +kernel
theorem dX15_goes_2 : decode cX15_goes 2 = .ok (.iload_n 2, 1) := by decide +kernel
theorem dX15_goes_3 : decode cX15_goes 3 = .ok (.aload_n 0, 1) := by decide +kernel
theorem dX15_goes_4 : decode cX15_goes 4 = .ok (.getfield 12, 3) := by decide +kernel
theorem dX15_goes_7 : decode cX15_goes 7 = .ok (.invokevirtual 22, 3) := by decide +kernel
theorem dX15_goes_10 : decode cX15_goes 10 = .ok (.if_icmp .ge 14, 3) := by decide +kernel
theorem dX15_goes_13 : decode cX15_goes 13 = .ok (.aload_n 1, 1) := by decide +kernel
theorem dX15_goes_14 : decode cX15_goes 14 = .ok (.iconst 3, 1) := by decide +kernel
theorem dX15_goes_15 : decode cX15_goes 15 = .ok (.invokevirtual 26, 3) := by decide +kernel
theorem dX15_goes_18 : decode cX15_goes 18 = .ok (.iinc 2 1, 3) := by decide +kernel
theorem dX15_goes_21 : decode cX15_goes 21 = .ok (.goto (-19), 3) := by decide +kernel
theorem dX15_goes_24 : decode cX15_goes 24 = .ok (.aload_n 0, 1) := by decide +kernel
theorem dX15_goes_25 : decode cX15_goes 25 = .ok (.getfield 12, 3) := by decide +kernel
theorem dX15_goes_28 : decode cX15_goes 28 = .ok (.invokevirtual 22, 3) := by decide +kernel
theorem dX15_goes_31 : decode cX15_goes 31 = .ok (.iconst 1, 1) := by decide +kernel
theorem dX15_goes_32 : decode cX15_goes 32 = .ok (.isub, 1) := by decide +kernel
theorem dX15_goes_33 : decode cX15_goes 33 = .ok (.istore_n 2, 1) := by decide +kernel
theorem dX15_goes_34 : decode cX15_goes 34 = .ok (.iload_n 2, 1) := by decide +kernel
theorem dX15_goes_35 : decode cX15_goes 35 = .ok (.ifCond .lt 46, 3) := by decide +kernel
theorem dX15_goes_38 : decode cX15_goes 38 = .ok (.aload_n 1, 1) := by decide +kernel
theorem dX15_goes_39 : decode cX15_goes 39 = .ok (.new 31, 3) := by decide +kernel
theorem dX15_goes_42 : decode cX15_goes 42 = .ok (.dup, 1) := by decide +kernel
theorem dX15_goes_43 : decode cX15_goes 43 = .ok (.new 33, 3) := by decide +kernel
theorem dX15_goes_46 : decode cX15_goes 46 = .ok (.dup, 1) := by decide +kernel
theorem dX15_goes_47 : decode cX15_goes 47 = .ok (.aload_n 0, 1) := by decide +kernel
theorem dX15_goes_48 : decode cX15_goes 48 = .ok (.getfield 12, 3) := by decide +kernel
theorem dX15_goes_51 : decode cX15_goes 51 = .ok (.iload_n 2, 1) := by decide +kernel
theorem dX15_goes_52 : decode cX15_goes 52 = .ok (.invokevirtual 35, 3) := by decide +kernel
theorem dX15_goes_55 : decode cX15_goes 55 = .ok (.checkcast 2, 3) := by decide +kernel
theorem dX15_goes_58 : decode cX15_goes 58 = .ok (.aload_n 1, 1) := by decide +kernel
theorem dX15_goes_59 : decode cX15_goes 59 = .ok (.getfield 39, 3) := by decide +kernel
theorem dX15_goes_62 : decode cX15_goes 62 = .ok (.invokespecial 43, 3) := by decide +kernel
theorem dX15_goes_65 : decode cX15_goes 65 = .ok (.aload_n 1, 1) := by decide +kernel
theorem dX15_goes_66 : decode cX15_goes 66 = .ok (.getfield 46, 3) := by decide +kernel
theorem dX15_goes_69 : decode cX15_goes 69 = .ok (.invokespecial 50, 3) := by decide +kernel
theorem dX15_goes_72 : decode cX15_goes 72 = .ok (.putfield 46, 3) := by decide +kernel
theorem dX15_goes_75 : decode cX15_goes 75 = .ok (.iinc 2 (-1), 3) := by decide +kernel
theorem dX15_goes_78 : decode cX15_goes 78 = .ok (.goto (-44), 3) := by decide +kernel
theorem dX15_goes_81 : decode cX15_goes 81 = .ok (.aload_n 1, 1) := by decide +kernel
theorem dX15_goes_82 : decode cX15_goes 82 = .ok (.aload_n 0, 1) := by decide +kernel
theorem dX15_goes_83 : decode cX15_goes 83 = .ok (.getfield 18, 3) := by decide +kernel
theorem dX15_goes_86 : decode cX15_goes 86 = .ok (.putfield 53, 3) := by decide +kernel
theorem dX15_goes_89 : decode cX15_goes 89 = .ok (.iconst 1, 1) := by decide +kernel
theorem dX15_goes_90 : decode cX15_goes 90 = .ok (.ireturn, 1) := by decide +kernel
theorem q151 : (Jvm.Cond.initialized "PureHouse$Use") ∈ lw_all := lw_g (lw_at lw_m1 39 rfl) rfl
theorem q206 : (Jvm.Cond.fieldLinkNest "PureHouse$Use" (53 : Nat) "PureHouse$Machine" "term" "LPureHouse$Term;" "PureHouse") ∈ lw_tbl := lw_at lw_m1 94 rfl
theorem q214 : (Jvm.Cond.fieldLinkNest "PureHouse$Use" (39 : Nat) "PureHouse$Machine" "env" "LPureHouse$Env;" "PureHouse") ∈ lw_tbl := lw_at lw_m1 102 rfl
theorem q217 : (Jvm.Cond.fieldLinkNest "PureHouse$Use" (46 : Nat) "PureHouse$Machine" "args" "LPureHouse$Args;" "PureHouse") ∈ lw_tbl := lw_at lw_m1 105 rfl
theorem q1051 : (Jvm.Cond.sameField "PureHouse$Use" "PureHouse$Term" "at" "I") ∈ lw_all := lw_g (lw_at lw_m4 219 rfl) rfl
theorem q1065 : (Jvm.Cond.sameField "PureHouse$Use" "PureHouse$Term" "from" "I") ∈ lw_all := lw_g (lw_at lw_m4 233 rfl) rfl
theorem q1124 : (Jvm.Cond.selects "PureHouse$Use" ({ cls := "java/lang/Object", name := "getClass", desc := "()Ljava/lang/Class;" } : Jvm.MethodName) ({ cls := "java/lang/Object", name := "getClass", desc := "()Ljava/lang/Class;" } : Jvm.MethodName)) ∈ lw_all := lw_g (lw_at lw_m5 52 rfl) rfl
theorem q1275 : (Jvm.Cond.instantiable "PureHouse$Use" (4 : Nat)) ∈ lw_all := lw_g (lw_at lw_m5 203 rfl) rfl
theorem q1277 : (Jvm.Cond.instanceMethod ({ cls := "PureHouse$Use", name := "<init>", desc := "(LPureHouse$Term;)V" } : Jvm.MethodName)) ∈ lw_all := lw_g (lw_at lw_m5 205 rfl) rfl
theorem q1278 : (Jvm.Cond.code ({ cls := "PureHouse$Use", name := "<init>", desc := "(LPureHouse$Term;)V" } : Jvm.MethodName) prog_24_method_1_code (2 : Nat) (Option.none : Option Jvm.ClassFile.FieldType)) ∈ lw_all := lw_g (lw_at lw_m5 206 rfl) rfl
theorem q1279 : (Jvm.Cond.methodLinkNest "PureHouse$Use" (1 : Nat) ({ cls := "PureHouse$Term", name := "<init>", desc := "()V" } : Jvm.MethodName) "PureHouse") ∈ lw_tbl := lw_at lw_m5 207 rfl
theorem q1280 : (Jvm.Cond.classLink "PureHouse$Use" (7 : Nat) "java/util/ArrayList") ∈ lw_all := lw_g (lw_at lw_m5 208 rfl) rfl
theorem q1281 : (Jvm.Cond.methodLink "PureHouse$Use" (9 : Nat) ({ cls := "java/util/ArrayList", name := "<init>", desc := "(I)V" } : Jvm.MethodName)) ∈ lw_all := lw_g (lw_at lw_m5 209 rfl) rfl
theorem q1294 : (Jvm.Cond.fieldLink "PureHouse$Use" (18 : Nat) "PureHouse$Use" "front" "LPureHouse$Term;") ∈ lw_all := lw_g (lw_at lw_m5 222 rfl) rfl
theorem q1296 : (Jvm.Cond.fieldLink "PureHouse$Use" (12 : Nat) "PureHouse$Use" "parts" "Ljava/util/ArrayList;") ∈ lw_all := lw_g (lw_at lw_m5 224 rfl) rfl
theorem q1300 : (Jvm.Cond.laysFinal "PureHouse$Use" "PureHouse$Use" "front" "LPureHouse$Term;") ∈ lw_all := lw_g (lw_at lw_m5 228 rfl) rfl
theorem q1301 : (Jvm.Cond.soleField "PureHouse$Use" "front") ∈ lw_all := lw_g (lw_at lw_m5 229 rfl) rfl
theorem q1302 : (Jvm.Cond.laysFinal "PureHouse$Use" "PureHouse$Use" "parts" "Ljava/util/ArrayList;") ∈ lw_all := lw_g (lw_at lw_m5 230 rfl) rfl
theorem q1303 : (Jvm.Cond.soleField "PureHouse$Use" "parts") ∈ lw_all := lw_g (lw_at lw_m5 231 rfl) rfl
theorem q1304 : (Jvm.Cond.lays "PureHouse$Use" "PureHouse$Term" "at" "I") ∈ lw_all := lw_g (lw_at lw_m5 232 rfl) rfl
theorem q1305 : (Jvm.Cond.lays "PureHouse$Use" "PureHouse$Term" "from" "I") ∈ lw_all := lw_g (lw_at lw_m5 233 rfl) rfl
theorem q1306 : (Jvm.Cond.superclass "PureHouse$Use" "PureHouse$Term") ∈ lw_all := lw_g (lw_at lw_m5 234 rfl) rfl
theorem q1543 : (Jvm.Cond.selects "PureHouse$Use" ({ cls := "PureHouse$Term", name := "goes", desc := "(LPureHouse$Machine;)Z" } : Jvm.MethodName) ({ cls := "PureHouse$Use", name := "goes", desc := "(LPureHouse$Machine;)Z" } : Jvm.MethodName)) ∈ lw_all := lw_g (lw_at lw_m6 231 rfl) rfl
theorem q1544 : (Jvm.Cond.instanceMethod ({ cls := "PureHouse$Use", name := "goes", desc := "(LPureHouse$Machine;)Z" } : Jvm.MethodName)) ∈ lw_all := lw_g (lw_at lw_m6 232 rfl) rfl
theorem q1545 : (Jvm.Cond.code ({ cls := "PureHouse$Use", name := "goes", desc := "(LPureHouse$Machine;)Z" } : Jvm.MethodName) prog_24_method_2_code (3 : Nat) (Option.some Jvm.ClassFile.FieldType.boolean)) ∈ lw_all := lw_g (lw_at lw_m6 233 rfl) rfl
theorem q1546 : (Jvm.Cond.methodLink "PureHouse$Use" (22 : Nat) ({ cls := "java/util/ArrayList", name := "size", desc := "()I" } : Jvm.MethodName)) ∈ lw_all := lw_g (lw_at lw_m6 234 rfl) rfl
theorem q1547 : (Jvm.Cond.methodLink "PureHouse$Use" (26 : Nat) ({ cls := "PureHouse$Machine", name := "spend", desc := "(I)V" } : Jvm.MethodName)) ∈ lw_all := lw_g (lw_at lw_m6 235 rfl) rfl
theorem q1548 : (Jvm.Cond.classLink "PureHouse$Use" (31 : Nat) "PureHouse$Args") ∈ lw_all := lw_g (lw_at lw_m6 236 rfl) rfl
theorem q1550 : (Jvm.Cond.classLink "PureHouse$Use" (33 : Nat) "PureHouse$Closure") ∈ lw_all := lw_g (lw_at lw_m6 238 rfl) rfl
theorem q1551 : (Jvm.Cond.methodLink "PureHouse$Use" (35 : Nat) ({ cls := "java/util/ArrayList", name := "get", desc := "(I)Ljava/lang/Object;" } : Jvm.MethodName)) ∈ lw_all := lw_g (lw_at lw_m6 239 rfl) rfl
theorem q1552 : (Jvm.Cond.classLink "PureHouse$Use" (2 : Nat) "PureHouse$Term") ∈ lw_all := lw_g (lw_at lw_m7 0 rfl) rfl
theorem q1553 : (Jvm.Cond.methodLink "PureHouse$Use" (43 : Nat) ({ cls := "PureHouse$Closure", name := "<init>", desc := "(LPureHouse$Term;LPureHouse$Env;)V" } : Jvm.MethodName)) ∈ lw_all := lw_g (lw_at lw_m7 1 rfl) rfl
theorem q1554 : (Jvm.Cond.methodLink "PureHouse$Use" (50 : Nat) ({ cls := "PureHouse$Args", name := "<init>", desc := "(LPureHouse$Closure;LPureHouse$Args;)V" } : Jvm.MethodName)) ∈ lw_all := lw_g (lw_at lw_m7 2 rfl) rfl
theorem q2571 : (Jvm.Cond.castable "PureHouse$Use" "PureHouse$Term") ∈ lw_tbl := lw_at lw_m11 59 rfl
theorem q2592 : (Jvm.Cond.castable "PureHouse$Use" "java/lang/Object") ∈ lw_tbl := lw_at lw_m11 80 rfl
theorem in_X15 : ∀ w ∈ wsX150, w ∈ lw_all := lw_in wsX150 [1304, 1305, 1300, 1302] (by decide +kernel) (by decide +kernel)

/-! PureHouse$Closure -/
set_option maxRecDepth 100000
def RX16 : String := "PureHouse$Closure"
def TX16 : u_T := fun k => match k with
  | 0 => ("PureHouse$Closure", "term", "LPureHouse$Term;", true)
  | _ => ("PureHouse$Closure", "env", "LPureHouse$Env;", true)
def tyX16 : Nat → FieldType := fun k => match k with
  | 0 => .object "PureHouse$Term"
  | _ => .object "PureHouse$Env"
abbrev wsX160 : List Cond := u_ws RX16 TX16 2
theorem nmX16 : ∀ a, a < 2 → ∀ b, b < 2 → a ≠ b → (TX16 a).2.1 ≠ (TX16 b).2.1 := by decide +kernel
theorem tyX16_ok : ∀ k, k < 2 → parseFieldDescriptor (TX16 k).2.2.1 = some (tyX16 k) := by decide +kernel
abbrev cX16_init : ByteArray := prog_4_method_1_code
def yX16_init : MethodName := ⟨RX16, "<init>", "(LPureHouse$Term;LPureHouse$Env;)V"⟩
theorem dX16_init_0 : decode cX16_init 0 = .ok (.aload_n 0, 1) := by decide +kernel
theorem dX16_init_1 : decode cX16_init 1 = .ok (.invokespecial 1, 3) := by decide +kernel
theorem dX16_init_4 : decode cX16_init 4 = .ok (.aload_n 0, 1) := by decide +kernel
theorem dX16_init_5 : decode cX16_init 5 = .ok (.aload_n 1, 1) := by decide +kernel
theorem dX16_init_6 : decode cX16_init 6 = .ok (.putfield 7, 3) := by decide +kernel
theorem dX16_init_9 : decode cX16_init 9 = .ok (.aload_n 0, 1) := by decide +kernel
theorem dX16_init_10 : decode cX16_init 10 = .ok (.aload_n 2, 1) := by decide +kernel
theorem dX16_init_11 : decode cX16_init 11 = .ok (.putfield 13, 3) := by decide +kernel
theorem dX16_init_14 : decode cX16_init 14 = .ok (.return_, 1) := by decide +kernel
theorem q152 : (Jvm.Cond.initialized "PureHouse$Closure") ∈ lw_all := lw_g (lw_at lw_m1 40 rfl) rfl
theorem q1105 : (Jvm.Cond.selects "PureHouse$Closure" ({ cls := "java/lang/Object", name := "getClass", desc := "()Ljava/lang/Class;" } : Jvm.MethodName) ({ cls := "java/lang/Object", name := "getClass", desc := "()Ljava/lang/Class;" } : Jvm.MethodName)) ∈ lw_all := lw_g (lw_at lw_m5 33 rfl) rfl
theorem q1427 : (Jvm.Cond.instantiable "PureHouse$Closure" (2 : Nat)) ∈ lw_all := lw_g (lw_at lw_m6 115 rfl) rfl
theorem q1432 : (Jvm.Cond.instanceMethod ({ cls := "PureHouse$Closure", name := "<init>", desc := "(LPureHouse$Term;LPureHouse$Env;)V" } : Jvm.MethodName)) ∈ lw_all := lw_g (lw_at lw_m6 120 rfl) rfl
theorem q1433 : (Jvm.Cond.code ({ cls := "PureHouse$Closure", name := "<init>", desc := "(LPureHouse$Term;LPureHouse$Env;)V" } : Jvm.MethodName) prog_4_method_1_code (3 : Nat) (Option.none : Option Jvm.ClassFile.FieldType)) ∈ lw_all := lw_g (lw_at lw_m6 121 rfl) rfl
theorem q1434 : (Jvm.Cond.methodLink "PureHouse$Closure" (1 : Nat) ({ cls := "java/lang/Object", name := "<init>", desc := "()V" } : Jvm.MethodName)) ∈ lw_all := lw_g (lw_at lw_m6 122 rfl) rfl
theorem q1435 : (Jvm.Cond.fieldLink "PureHouse$Closure" (7 : Nat) "PureHouse$Closure" "term" "LPureHouse$Term;") ∈ lw_all := lw_g (lw_at lw_m6 123 rfl) rfl
theorem q1439 : (Jvm.Cond.fieldLink "PureHouse$Closure" (13 : Nat) "PureHouse$Closure" "env" "LPureHouse$Env;") ∈ lw_all := lw_g (lw_at lw_m6 127 rfl) rfl
theorem q1441 : (Jvm.Cond.laysFinal "PureHouse$Closure" "PureHouse$Closure" "term" "LPureHouse$Term;") ∈ lw_all := lw_g (lw_at lw_m6 129 rfl) rfl
theorem q1442 : (Jvm.Cond.soleField "PureHouse$Closure" "term") ∈ lw_all := lw_g (lw_at lw_m6 130 rfl) rfl
theorem q1443 : (Jvm.Cond.laysFinal "PureHouse$Closure" "PureHouse$Closure" "env" "LPureHouse$Env;") ∈ lw_all := lw_g (lw_at lw_m6 131 rfl) rfl
theorem q1444 : (Jvm.Cond.soleField "PureHouse$Closure" "env") ∈ lw_all := lw_g (lw_at lw_m6 132 rfl) rfl
theorem q1445 : (Jvm.Cond.superclass "PureHouse$Closure" "java/lang/Object") ∈ lw_all := lw_g (lw_at lw_m6 133 rfl) rfl
theorem q2593 : (Jvm.Cond.castable "PureHouse$Closure" "java/lang/Object") ∈ lw_tbl := lw_at lw_m11 81 rfl
theorem in_X16 : ∀ w ∈ wsX160, w ∈ lw_all := lw_in wsX160 [1441, 1443] (by decide +kernel) (by decide +kernel)

/-! PureHouse$Scope -/
set_option maxRecDepth 100000
def RX17 : String := "PureHouse$Scope"
def TX17 : u_T := fun k => match k with
  | 0 => ("PureHouse$Scope", "env", "LPureHouse$Env;", true)
  | 1 => ("PureHouse$Scope", "type", "LPureHouse$Term;", true)
  | 2 => ("PureHouse$Scope", "around", "LPureHouse$Env;", true)
  | 3 => ("PureHouse$Scope", "sort", "I", true)
  | _ => ("PureHouse$Scope", "next", "LPureHouse$Scope;", true)
def tyX17 : Nat → FieldType := fun k => match k with
  | 0 => .object "PureHouse$Env"
  | 1 => .object "PureHouse$Term"
  | 2 => .object "PureHouse$Env"
  | 3 => .int
  | _ => .object "PureHouse$Scope"
abbrev wsX170 : List Cond := u_ws RX17 TX17 5
theorem nmX17 : ∀ a, a < 5 → ∀ b, b < 5 → a ≠ b → (TX17 a).2.1 ≠ (TX17 b).2.1 := by decide +kernel
theorem tyX17_ok : ∀ k, k < 5 → parseFieldDescriptor (TX17 k).2.2.1 = some (tyX17 k) := by decide +kernel
abbrev cX17_of : ByteArray := prog_18_method_2_code
def yX17_of : MethodName := ⟨RX17, "of", "(LPureHouse$Scope;)LPureHouse$Env;"⟩
theorem dX17_of_0 : decode cX17_of 0 = .ok (.aload_n 0, 1) := by decide +kernel
theorem dX17_of_1 : decode cX17_of 1 = .ok (.ifnonnull 7, 3) := by decide +kernel
theorem dX17_of_4 : decode cX17_of 4 = .ok (.aconst_null, 1) := by decide +kernel
theorem dX17_of_5 : decode cX17_of 5 = .ok (.goto 7, 3) := by decide +kernel
theorem dX17_of_8 : decode cX17_of 8 = .ok (.aload_n 0, 1) := by decide +kernel
theorem dX17_of_9 : decode cX17_of 9 = .ok (.getfield 22, 3) := by decide +kernel
theorem dX17_of_12 : decode cX17_of 12 = .ok (.areturn, 1) := by decide +kernel
abbrev cX17_init : ByteArray := prog_18_method_1_code
def yX17_init : MethodName := ⟨RX17, "<init>", "(LPureHouse$Closure;LPureHouse$Term;LPureHouse$Env;ILPureHouse$Scope;)V"⟩
theorem dX17_init_0 : decode cX17_init 0 = .ok (.aload_n 0, 1) := by decide +kernel
theorem dX17_init_1 : decode cX17_init 1 = .ok (.invokespecial 1, 3) := by decide +kernel
theorem dX17_init_4 : decode cX17_init 4 = .ok (.aload_n 0, 1) := by decide +kernel
theorem dX17_init_5 : decode cX17_init 5 = .ok (.aload_n 3, 1) := by decide +kernel
theorem dX17_init_6 : decode cX17_init 6 = .ok (.putfield 7, 3) := by decide +kernel
theorem dX17_init_9 : decode cX17_init 9 = .ok (.aload_n 0, 1) := by decide +kernel
theorem dX17_init_10 : decode cX17_init 10 = .ok (.new 13, 3) := by decide +kernel
theorem dX17_init_13 : decode cX17_init 13 = .ok (.dup, 1) := by decide +kernel
theorem dX17_init_14 : decode cX17_init 14 = .ok (.aload_n 1, 1) := by decide +kernel
theorem dX17_init_15 : decode cX17_init 15 = .ok (.aload 5, 2) := by decide +kernel
theorem dX17_init_17 : decode cX17_init 17 = .ok (.invokestatic 15, 3) := by decide +kernel
theorem dX17_init_20 : decode cX17_init 20 = .ok (.invokespecial 19, 3) := by decide +kernel
theorem dX17_init_23 : decode cX17_init 23 = .ok (.putfield 22, 3) := by decide +kernel
theorem dX17_init_26 : decode cX17_init 26 = .ok (.aload_n 0, 1) := by decide +kernel
theorem dX17_init_27 : decode cX17_init 27 = .ok (.aload_n 2, 1) := by decide +kernel
theorem dX17_init_28 : decode cX17_init 28 = .ok (.putfield 25, 3) := by decide +kernel
theorem dX17_init_31 : decode cX17_init 31 = .ok (.aload_n 0, 1) := by decide +kernel
theorem dX17_init_32 : decode cX17_init 32 = .ok (.iload 4, 2) := by decide +kernel
theorem dX17_init_34 : decode cX17_init 34 = .ok (.putfield 29, 3) := by decide +kernel
theorem dX17_init_37 : decode cX17_init 37 = .ok (.aload_n 0, 1) := by decide +kernel
theorem dX17_init_38 : decode cX17_init 38 = .ok (.aload 5, 2) := by decide +kernel
theorem dX17_init_40 : decode cX17_init 40 = .ok (.putfield 33, 3) := by decide +kernel
theorem dX17_init_43 : decode cX17_init 43 = .ok (.return_, 1) := by decide +kernel
theorem q153 : (Jvm.Cond.initialized "PureHouse$Scope") ∈ lw_all := lw_g (lw_at lw_m1 41 rfl) rfl
theorem q1119 : (Jvm.Cond.selects "PureHouse$Scope" ({ cls := "java/lang/Object", name := "getClass", desc := "()Ljava/lang/Class;" } : Jvm.MethodName) ({ cls := "java/lang/Object", name := "getClass", desc := "()Ljava/lang/Class;" } : Jvm.MethodName)) ∈ lw_all := lw_g (lw_at lw_m5 47 rfl) rfl
theorem q1429 : (Jvm.Cond.static ({ cls := "PureHouse$Scope", name := "of", desc := "(LPureHouse$Scope;)LPureHouse$Env;" } : Jvm.MethodName)) ∈ lw_all := lw_g (lw_at lw_m6 117 rfl) rfl
theorem q1430 : (Jvm.Cond.code ({ cls := "PureHouse$Scope", name := "of", desc := "(LPureHouse$Scope;)LPureHouse$Env;" } : Jvm.MethodName) prog_18_method_2_code (1 : Nat) (Option.some (Jvm.ClassFile.FieldType.object "PureHouse$Env"))) ∈ lw_all := lw_g (lw_at lw_m6 118 rfl) rfl
theorem q1629 : (Jvm.Cond.instantiable "PureHouse$Scope" (5 : Nat)) ∈ lw_all := lw_g (lw_at lw_m7 77 rfl) rfl
theorem q1633 : (Jvm.Cond.instanceMethod ({ cls := "PureHouse$Scope", name := "<init>", desc := "(LPureHouse$Closure;LPureHouse$Term;LPureHouse$Env;ILPureHouse$Scope;)V" } : Jvm.MethodName)) ∈ lw_all := lw_g (lw_at lw_m7 81 rfl) rfl
theorem q1634 : (Jvm.Cond.code ({ cls := "PureHouse$Scope", name := "<init>", desc := "(LPureHouse$Closure;LPureHouse$Term;LPureHouse$Env;ILPureHouse$Scope;)V" } : Jvm.MethodName) prog_18_method_1_code (6 : Nat) (Option.none : Option Jvm.ClassFile.FieldType)) ∈ lw_all := lw_g (lw_at lw_m7 82 rfl) rfl
theorem q1635 : (Jvm.Cond.methodLink "PureHouse$Scope" (1 : Nat) ({ cls := "java/lang/Object", name := "<init>", desc := "()V" } : Jvm.MethodName)) ∈ lw_all := lw_g (lw_at lw_m7 83 rfl) rfl
theorem q1636 : (Jvm.Cond.classLink "PureHouse$Scope" (13 : Nat) "PureHouse$Env") ∈ lw_all := lw_g (lw_at lw_m7 84 rfl) rfl
theorem q1637 : (Jvm.Cond.methodLink "PureHouse$Scope" (15 : Nat) ({ cls := "PureHouse$Scope", name := "of", desc := "(LPureHouse$Scope;)LPureHouse$Env;" } : Jvm.MethodName)) ∈ lw_all := lw_g (lw_at lw_m7 85 rfl) rfl
theorem q1638 : (Jvm.Cond.methodLink "PureHouse$Scope" (19 : Nat) ({ cls := "PureHouse$Env", name := "<init>", desc := "(LPureHouse$Closure;LPureHouse$Env;)V" } : Jvm.MethodName)) ∈ lw_all := lw_g (lw_at lw_m7 86 rfl) rfl
theorem q1639 : (Jvm.Cond.fieldLink "PureHouse$Scope" (22 : Nat) "PureHouse$Scope" "env" "LPureHouse$Env;") ∈ lw_all := lw_g (lw_at lw_m7 87 rfl) rfl
theorem q1641 : (Jvm.Cond.fieldLink "PureHouse$Scope" (25 : Nat) "PureHouse$Scope" "type" "LPureHouse$Term;") ∈ lw_all := lw_g (lw_at lw_m7 89 rfl) rfl
theorem q1643 : (Jvm.Cond.fieldLink "PureHouse$Scope" (7 : Nat) "PureHouse$Scope" "around" "LPureHouse$Env;") ∈ lw_all := lw_g (lw_at lw_m7 91 rfl) rfl
theorem q1645 : (Jvm.Cond.fieldLink "PureHouse$Scope" (29 : Nat) "PureHouse$Scope" "sort" "I") ∈ lw_all := lw_g (lw_at lw_m7 93 rfl) rfl
theorem q1647 : (Jvm.Cond.fieldLink "PureHouse$Scope" (33 : Nat) "PureHouse$Scope" "next" "LPureHouse$Scope;") ∈ lw_all := lw_g (lw_at lw_m7 95 rfl) rfl
theorem q1649 : (Jvm.Cond.laysFinal "PureHouse$Scope" "PureHouse$Scope" "env" "LPureHouse$Env;") ∈ lw_all := lw_g (lw_at lw_m7 97 rfl) rfl
theorem q1650 : (Jvm.Cond.soleField "PureHouse$Scope" "env") ∈ lw_all := lw_g (lw_at lw_m7 98 rfl) rfl
theorem q1651 : (Jvm.Cond.laysFinal "PureHouse$Scope" "PureHouse$Scope" "type" "LPureHouse$Term;") ∈ lw_all := lw_g (lw_at lw_m7 99 rfl) rfl
theorem q1652 : (Jvm.Cond.soleField "PureHouse$Scope" "type") ∈ lw_all := lw_g (lw_at lw_m7 100 rfl) rfl
theorem q1653 : (Jvm.Cond.laysFinal "PureHouse$Scope" "PureHouse$Scope" "around" "LPureHouse$Env;") ∈ lw_all := lw_g (lw_at lw_m7 101 rfl) rfl
theorem q1654 : (Jvm.Cond.soleField "PureHouse$Scope" "around") ∈ lw_all := lw_g (lw_at lw_m7 102 rfl) rfl
theorem q1655 : (Jvm.Cond.laysFinal "PureHouse$Scope" "PureHouse$Scope" "sort" "I") ∈ lw_all := lw_g (lw_at lw_m7 103 rfl) rfl
theorem q1656 : (Jvm.Cond.soleField "PureHouse$Scope" "sort") ∈ lw_all := lw_g (lw_at lw_m7 104 rfl) rfl
theorem q1657 : (Jvm.Cond.laysFinal "PureHouse$Scope" "PureHouse$Scope" "next" "LPureHouse$Scope;") ∈ lw_all := lw_g (lw_at lw_m7 105 rfl) rfl
theorem q1658 : (Jvm.Cond.soleField "PureHouse$Scope" "next") ∈ lw_all := lw_g (lw_at lw_m7 106 rfl) rfl
theorem q1659 : (Jvm.Cond.superclass "PureHouse$Scope" "java/lang/Object") ∈ lw_all := lw_g (lw_at lw_m7 107 rfl) rfl
theorem q2597 : (Jvm.Cond.castable "PureHouse$Scope" "java/lang/Object") ∈ lw_tbl := lw_at lw_m11 85 rfl
theorem in_X17 : ∀ w ∈ wsX170, w ∈ lw_all := lw_in wsX170 [1649, 1651, 1653, 1655, 1657] (by decide +kernel) (by decide +kernel)

/-! PureHouse$Env -/
set_option maxRecDepth 100000
def RX18 : String := "PureHouse$Env"
def TX18 : u_T := fun k => match k with
  | 0 => ("PureHouse$Env", "value", "LPureHouse$Closure;", true)
  | 1 => ("PureHouse$Env", "next", "LPureHouse$Env;", true)
  | _ => ("PureHouse$Env", "depth", "I", true)
def tyX18 : Nat → FieldType := fun k => match k with
  | 0 => .object "PureHouse$Closure"
  | 1 => .object "PureHouse$Env"
  | _ => .int
abbrev wsX180 : List Cond := u_ws RX18 TX18 3
theorem nmX18 : ∀ a, a < 3 → ∀ b, b < 3 → a ≠ b → (TX18 a).2.1 ≠ (TX18 b).2.1 := by decide +kernel
theorem tyX18_ok : ∀ k, k < 3 → parseFieldDescriptor (TX18 k).2.2.1 = some (tyX18 k) := by decide +kernel
abbrev cX18_depth : ByteArray := prog_5_method_2_code
def yX18_depth : MethodName := ⟨RX18, "depth", "(LPureHouse$Env;)I"⟩
theorem dX18_depth_0 : decode cX18_depth 0 = .ok (.aload_n 0, 1) := by decide +kernel
theorem dX18_depth_1 : decode cX18_depth 1 = .ok (.ifnonnull 7, 3) := by decide +kernel
theorem dX18_depth_4 : decode cX18_depth 4 = .ok (.iconst 0, 1) := by decide +kernel
theorem dX18_depth_5 : decode cX18_depth 5 = .ok (.goto 7, 3) := by decide +kernel
theorem dX18_depth_8 : decode cX18_depth 8 = .ok (.aload_n 0, 1) := by decide +kernel
theorem dX18_depth_9 : decode cX18_depth 9 = .ok (.getfield 17, 3) := by decide +kernel
theorem dX18_depth_12 : decode cX18_depth 12 = .ok (.ireturn, 1) := by decide +kernel
abbrev cX18_init : ByteArray := prog_5_method_1_code
def yX18_init : MethodName := ⟨RX18, "<init>", "(LPureHouse$Closure;LPureHouse$Env;)V"⟩
theorem dX18_init_0 : decode cX18_init 0 = .ok (.aload_n 0, 1) := by decide +kernel
theorem dX18_init_1 : decode cX18_init 1 = .ok (.invokespecial 1, 3) := by decide +kernel
theorem dX18_init_4 : decode cX18_init 4 = .ok (.aload_n 0, 1) := by decide +kernel
theorem dX18_init_5 : decode cX18_init 5 = .ok (.aload_n 1, 1) := by decide +kernel
theorem dX18_init_6 : decode cX18_init 6 = .ok (.putfield 7, 3) := by decide +kernel
theorem dX18_init_9 : decode cX18_init 9 = .ok (.aload_n 0, 1) := by decide +kernel
theorem dX18_init_10 : decode cX18_init 10 = .ok (.aload_n 2, 1) := by decide +kernel
theorem dX18_init_11 : decode cX18_init 11 = .ok (.putfield 13, 3) := by decide +kernel
theorem dX18_init_14 : decode cX18_init 14 = .ok (.aload_n 0, 1) := by decide +kernel
theorem dX18_init_15 : decode cX18_init 15 = .ok (.aload_n 2, 1) := by decide +kernel
theorem dX18_init_16 : decode cX18_init 16 = .ok (.ifnonnull 7, 3) := by decide +kernel
theorem dX18_init_19 : decode cX18_init 19 = .ok (.iconst 1, 1) := by decide +kernel
theorem dX18_init_20 : decode cX18_init 20 = .ok (.goto 9, 3) := by decide +kernel
theorem dX18_init_23 : decode cX18_init 23 = .ok (.aload_n 2, 1) := by decide +kernel
theorem dX18_init_24 : decode cX18_init 24 = .ok (.getfield 17, 3) := by decide +kernel
theorem dX18_init_27 : decode cX18_init 27 = .ok (.iconst 1, 1) := by decide +kernel
theorem dX18_init_28 : decode cX18_init 28 = .ok (.iadd, 1) := by decide +kernel
theorem dX18_init_29 : decode cX18_init 29 = .ok (.putfield 17, 3) := by decide +kernel
theorem dX18_init_32 : decode cX18_init 32 = .ok (.return_, 1) := by decide +kernel
theorem q154 : (Jvm.Cond.initialized "PureHouse$Env") ∈ lw_all := lw_g (lw_at lw_m1 42 rfl) rfl
theorem q1106 : (Jvm.Cond.selects "PureHouse$Env" ({ cls := "java/lang/Object", name := "getClass", desc := "()Ljava/lang/Class;" } : Jvm.MethodName) ({ cls := "java/lang/Object", name := "getClass", desc := "()Ljava/lang/Class;" } : Jvm.MethodName)) ∈ lw_all := lw_g (lw_at lw_m5 34 rfl) rfl
theorem q1447 : (Jvm.Cond.static ({ cls := "PureHouse$Env", name := "depth", desc := "(LPureHouse$Env;)I" } : Jvm.MethodName)) ∈ lw_all := lw_g (lw_at lw_m6 135 rfl) rfl
theorem q1448 : (Jvm.Cond.code ({ cls := "PureHouse$Env", name := "depth", desc := "(LPureHouse$Env;)I" } : Jvm.MethodName) prog_5_method_2_code (1 : Nat) (Option.some Jvm.ClassFile.FieldType.int)) ∈ lw_all := lw_g (lw_at lw_m6 136 rfl) rfl
theorem q1494 : (Jvm.Cond.instantiable "PureHouse$Env" (3 : Nat)) ∈ lw_all := lw_g (lw_at lw_m6 182 rfl) rfl
theorem q1500 : (Jvm.Cond.instanceMethod ({ cls := "PureHouse$Env", name := "<init>", desc := "(LPureHouse$Closure;LPureHouse$Env;)V" } : Jvm.MethodName)) ∈ lw_all := lw_g (lw_at lw_m6 188 rfl) rfl
theorem q1501 : (Jvm.Cond.code ({ cls := "PureHouse$Env", name := "<init>", desc := "(LPureHouse$Closure;LPureHouse$Env;)V" } : Jvm.MethodName) prog_5_method_1_code (3 : Nat) (Option.none : Option Jvm.ClassFile.FieldType)) ∈ lw_all := lw_g (lw_at lw_m6 189 rfl) rfl
theorem q1502 : (Jvm.Cond.methodLink "PureHouse$Env" (1 : Nat) ({ cls := "java/lang/Object", name := "<init>", desc := "()V" } : Jvm.MethodName)) ∈ lw_all := lw_g (lw_at lw_m6 190 rfl) rfl
theorem q1503 : (Jvm.Cond.fieldLink "PureHouse$Env" (7 : Nat) "PureHouse$Env" "value" "LPureHouse$Closure;") ∈ lw_all := lw_g (lw_at lw_m6 191 rfl) rfl
theorem q1505 : (Jvm.Cond.fieldLink "PureHouse$Env" (13 : Nat) "PureHouse$Env" "next" "LPureHouse$Env;") ∈ lw_all := lw_g (lw_at lw_m6 193 rfl) rfl
theorem q1509 : (Jvm.Cond.fieldLink "PureHouse$Env" (17 : Nat) "PureHouse$Env" "depth" "I") ∈ lw_all := lw_g (lw_at lw_m6 197 rfl) rfl
theorem q1510 : (Jvm.Cond.laysFinal "PureHouse$Env" "PureHouse$Env" "value" "LPureHouse$Closure;") ∈ lw_all := lw_g (lw_at lw_m6 198 rfl) rfl
theorem q1511 : (Jvm.Cond.soleField "PureHouse$Env" "value") ∈ lw_all := lw_g (lw_at lw_m6 199 rfl) rfl
theorem q1512 : (Jvm.Cond.laysFinal "PureHouse$Env" "PureHouse$Env" "next" "LPureHouse$Env;") ∈ lw_all := lw_g (lw_at lw_m6 200 rfl) rfl
theorem q1513 : (Jvm.Cond.soleField "PureHouse$Env" "next") ∈ lw_all := lw_g (lw_at lw_m6 201 rfl) rfl
theorem q1514 : (Jvm.Cond.laysFinal "PureHouse$Env" "PureHouse$Env" "depth" "I") ∈ lw_all := lw_g (lw_at lw_m6 202 rfl) rfl
theorem q1515 : (Jvm.Cond.soleField "PureHouse$Env" "depth") ∈ lw_all := lw_g (lw_at lw_m6 203 rfl) rfl
theorem q1516 : (Jvm.Cond.superclass "PureHouse$Env" "java/lang/Object") ∈ lw_all := lw_g (lw_at lw_m6 204 rfl) rfl
theorem q2594 : (Jvm.Cond.castable "PureHouse$Env" "java/lang/Object") ∈ lw_tbl := lw_at lw_m11 82 rfl
theorem in_X18 : ∀ w ∈ wsX180, w ∈ lw_all := lw_in wsX180 [1510, 1512, 1514] (by decide +kernel) (by decide +kernel)

/-! PureHouse$Args -/
set_option maxRecDepth 100000
def RX19 : String := "PureHouse$Args"
def TX19 : u_T := fun k => match k with
  | 0 => ("PureHouse$Args", "first", "LPureHouse$Closure;", true)
  | _ => ("PureHouse$Args", "rest", "LPureHouse$Args;", true)
def tyX19 : Nat → FieldType := fun k => match k with
  | 0 => .object "PureHouse$Closure"
  | _ => .object "PureHouse$Args"
abbrev wsX190 : List Cond := u_ws RX19 TX19 2
theorem nmX19 : ∀ a, a < 2 → ∀ b, b < 2 → a ≠ b → (TX19 a).2.1 ≠ (TX19 b).2.1 := by decide +kernel
theorem tyX19_ok : ∀ k, k < 2 → parseFieldDescriptor (TX19 k).2.2.1 = some (tyX19 k) := by decide +kernel
abbrev cX19_init : ByteArray := prog_2_method_1_code
def yX19_init : MethodName := ⟨RX19, "<init>", "(LPureHouse$Closure;LPureHouse$Args;)V"⟩
theorem dX19_init_0 : decode cX19_init 0 = .ok (.aload_n 0, 1) := by decide +kernel
theorem dX19_init_1 : decode cX19_init 1 = .ok (.invokespecial 1, 3) := by decide +kernel
theorem dX19_init_4 : decode cX19_init 4 = .ok (.aload_n 0, 1) := by decide +kernel
theorem dX19_init_5 : decode cX19_init 5 = .ok (.aload_n 1, 1) := by decide +kernel
theorem dX19_init_6 : decode cX19_init 6 = .ok (.putfield 7, 3) := by decide +kernel
theorem dX19_init_9 : decode cX19_init 9 = .ok (.aload_n 0, 1) := by decide +kernel
theorem dX19_init_10 : decode cX19_init 10 = .ok (.aload_n 2, 1) := by decide +kernel
theorem dX19_init_11 : decode cX19_init 11 = .ok (.putfield 13, 3) := by decide +kernel
theorem dX19_init_14 : decode cX19_init 14 = .ok (.return_, 1) := by decide +kernel
abbrev cX19_size : ByteArray := prog_2_method_2_code
def yX19_size : MethodName := ⟨RX19, "size", "(LPureHouse$Args;)I"⟩
theorem dX19_size_0 : decode cX19_size 0 = .ok (.iconst 0, 1) := by decide +kernel
theorem dX19_size_1 : decode cX19_size 1 = .ok (.istore_n 1, 1) := by decide +kernel
theorem dX19_size_2 : decode cX19_size 2 = .ok (.aload_n 0, 1) := by decide +kernel
theorem dX19_size_3 : decode cX19_size 3 = .ok (.astore_n 2, 1) := by decide +kernel
theorem dX19_size_4 : decode cX19_size 4 = .ok (.aload_n 2, 1) := by decide +kernel
theorem dX19_size_5 : decode cX19_size 5 = .ok (.ifnull 14, 3) := by decide +kernel
theorem dX19_size_8 : decode cX19_size 8 = .ok (.iinc 1 1, 3) := by decide +kernel
theorem dX19_size_11 : decode cX19_size 11 = .ok (.aload_n 2, 1) := by decide +kernel
theorem dX19_size_12 : decode cX19_size 12 = .ok (.getfield 13, 3) := by decide +kernel
theorem dX19_size_15 : decode cX19_size 15 = .ok (.astore_n 2, 1) := by decide +kernel
theorem dX19_size_16 : decode cX19_size 16 = .ok (.goto (-12), 3) := by decide +kernel
theorem dX19_size_19 : decode cX19_size 19 = .ok (.iload_n 1, 1) := by decide +kernel
theorem dX19_size_20 : decode cX19_size 20 = .ok (.ireturn, 1) := by decide +kernel
theorem q155 : (Jvm.Cond.initialized "PureHouse$Args") ∈ lw_all := lw_g (lw_at lw_m1 43 rfl) rfl
theorem q1103 : (Jvm.Cond.selects "PureHouse$Args" ({ cls := "java/lang/Object", name := "getClass", desc := "()Ljava/lang/Class;" } : Jvm.MethodName) ({ cls := "java/lang/Object", name := "getClass", desc := "()Ljava/lang/Class;" } : Jvm.MethodName)) ∈ lw_all := lw_g (lw_at lw_m5 31 rfl) rfl
theorem q1549 : (Jvm.Cond.instantiable "PureHouse$Args" (2 : Nat)) ∈ lw_all := lw_g (lw_at lw_m6 237 rfl) rfl
theorem q1555 : (Jvm.Cond.instanceMethod ({ cls := "PureHouse$Args", name := "<init>", desc := "(LPureHouse$Closure;LPureHouse$Args;)V" } : Jvm.MethodName)) ∈ lw_all := lw_g (lw_at lw_m7 3 rfl) rfl
theorem q1556 : (Jvm.Cond.code ({ cls := "PureHouse$Args", name := "<init>", desc := "(LPureHouse$Closure;LPureHouse$Args;)V" } : Jvm.MethodName) prog_2_method_1_code (3 : Nat) (Option.none : Option Jvm.ClassFile.FieldType)) ∈ lw_all := lw_g (lw_at lw_m7 4 rfl) rfl
theorem q1557 : (Jvm.Cond.methodLink "PureHouse$Args" (1 : Nat) ({ cls := "java/lang/Object", name := "<init>", desc := "()V" } : Jvm.MethodName)) ∈ lw_all := lw_g (lw_at lw_m7 5 rfl) rfl
theorem q1558 : (Jvm.Cond.fieldLink "PureHouse$Args" (7 : Nat) "PureHouse$Args" "first" "LPureHouse$Closure;") ∈ lw_all := lw_g (lw_at lw_m7 6 rfl) rfl
theorem q1560 : (Jvm.Cond.fieldLink "PureHouse$Args" (13 : Nat) "PureHouse$Args" "rest" "LPureHouse$Args;") ∈ lw_all := lw_g (lw_at lw_m7 8 rfl) rfl
theorem q1562 : (Jvm.Cond.laysFinal "PureHouse$Args" "PureHouse$Args" "first" "LPureHouse$Closure;") ∈ lw_all := lw_g (lw_at lw_m7 10 rfl) rfl
theorem q1563 : (Jvm.Cond.soleField "PureHouse$Args" "first") ∈ lw_all := lw_g (lw_at lw_m7 11 rfl) rfl
theorem q1564 : (Jvm.Cond.laysFinal "PureHouse$Args" "PureHouse$Args" "rest" "LPureHouse$Args;") ∈ lw_all := lw_g (lw_at lw_m7 12 rfl) rfl
theorem q1565 : (Jvm.Cond.soleField "PureHouse$Args" "rest") ∈ lw_all := lw_g (lw_at lw_m7 13 rfl) rfl
theorem q1566 : (Jvm.Cond.superclass "PureHouse$Args" "java/lang/Object") ∈ lw_all := lw_g (lw_at lw_m7 14 rfl) rfl
theorem q1718 : (Jvm.Cond.static ({ cls := "PureHouse$Args", name := "size", desc := "(LPureHouse$Args;)I" } : Jvm.MethodName)) ∈ lw_all := lw_g (lw_at lw_m7 166 rfl) rfl
theorem q1719 : (Jvm.Cond.code ({ cls := "PureHouse$Args", name := "size", desc := "(LPureHouse$Args;)I" } : Jvm.MethodName) prog_2_method_2_code (3 : Nat) (Option.some Jvm.ClassFile.FieldType.int)) ∈ lw_all := lw_g (lw_at lw_m7 167 rfl) rfl
theorem q2595 : (Jvm.Cond.castable "PureHouse$Args" "java/lang/Object") ∈ lw_tbl := lw_at lw_m11 83 rfl
theorem in_X19 : ∀ w ∈ wsX190, w ∈ lw_all := lw_in wsX190 [1562, 1564] (by decide +kernel) (by decide +kernel)

/-! PureHouse$Local -/
set_option maxRecDepth 100000
def RX20 : String := "PureHouse$Local"
def TX20 : u_T := fun k => match k with
  | 0 => ("PureHouse$Term", "at", "I", false)
  | 1 => ("PureHouse$Term", "from", "I", false)
  | 2 => ("PureHouse$Local", "number", "I", true)
  | _ => ("PureHouse$Local", "depth", "I", true)
def tyX20 : Nat → FieldType := fun k => match k with
  | 0 => .int
  | 1 => .int
  | 2 => .int
  | _ => .int
abbrev wsX200 : List Cond := u_ws RX20 TX20 4
theorem nmX20 : ∀ a, a < 4 → ∀ b, b < 4 → a ≠ b → (TX20 a).2.1 ≠ (TX20 b).2.1 := by decide +kernel
theorem tyX20_ok : ∀ k, k < 4 → parseFieldDescriptor (TX20 k).2.2.1 = some (tyX20 k) := by decide +kernel
abbrev cX20_goes : ByteArray := prog_13_method_2_code
def yX20_goes : MethodName := ⟨RX20, "goes", "(LPureHouse$Machine;)Z"⟩
theorem dX20_goes_0 : decode cX20_goes 0 = .ok (.iconst 0, 1) := by decide +kernel
theorem dX20_goes_1 : decode cX20_goes 1 = .ok (.ireturn, 1) := by decide +kernel
abbrev cX20_init : ByteArray := prog_13_method_1_code
def yX20_init : MethodName := ⟨RX20, "<init>", "(II)V"⟩
theorem dX20_init_0 : decode cX20_init 0 = .ok (.aload_n 0, 1) := by decide +kernel
theorem dX20_init_1 : decode cX20_init 1 = .ok (.invokespecial 1, 3) := by decide +kernel
theorem dX20_init_4 : decode cX20_init 4 = .ok (.aload_n 0, 1) := by decide +kernel
theorem dX20_init_5 : decode cX20_init 5 = .ok (.iload_n 1, 1) := by decide +kernel
theorem dX20_init_6 : decode cX20_init 6 = .ok (.putfield 7, 3) := by decide +kernel
theorem dX20_init_9 : decode cX20_init 9 = .ok (.aload_n 0, 1) := by decide +kernel
theorem dX20_init_10 : decode cX20_init 10 = .ok (.iload_n 2, 1) := by decide +kernel
theorem dX20_init_11 : decode cX20_init 11 = .ok (.putfield 13, 3) := by decide +kernel
theorem dX20_init_14 : decode cX20_init 14 = .ok (.return_, 1) := by decide +kernel
theorem q156 : (Jvm.Cond.initialized "PureHouse$Local") ∈ lw_all := lw_g (lw_at lw_m1 44 rfl) rfl
theorem q1114 : (Jvm.Cond.selects "PureHouse$Local" ({ cls := "java/lang/Object", name := "getClass", desc := "()Ljava/lang/Class;" } : Jvm.MethodName) ({ cls := "java/lang/Object", name := "getClass", desc := "()Ljava/lang/Class;" } : Jvm.MethodName)) ∈ lw_all := lw_g (lw_at lw_m5 42 rfl) rfl
theorem q1531 : (Jvm.Cond.selects "PureHouse$Local" ({ cls := "PureHouse$Term", name := "goes", desc := "(LPureHouse$Machine;)Z" } : Jvm.MethodName) ({ cls := "PureHouse$Local", name := "goes", desc := "(LPureHouse$Machine;)Z" } : Jvm.MethodName)) ∈ lw_all := lw_g (lw_at lw_m6 219 rfl) rfl
theorem q1532 : (Jvm.Cond.instanceMethod ({ cls := "PureHouse$Local", name := "goes", desc := "(LPureHouse$Machine;)Z" } : Jvm.MethodName)) ∈ lw_all := lw_g (lw_at lw_m6 220 rfl) rfl
theorem q1533 : (Jvm.Cond.code ({ cls := "PureHouse$Local", name := "goes", desc := "(LPureHouse$Machine;)Z" } : Jvm.MethodName) prog_13_method_2_code (2 : Nat) (Option.some Jvm.ClassFile.FieldType.boolean)) ∈ lw_all := lw_g (lw_at lw_m6 221 rfl) rfl
theorem q1588 : (Jvm.Cond.instantiable "PureHouse$Local" (4 : Nat)) ∈ lw_all := lw_g (lw_at lw_m7 36 rfl) rfl
theorem q1590 : (Jvm.Cond.instanceMethod ({ cls := "PureHouse$Local", name := "<init>", desc := "(II)V" } : Jvm.MethodName)) ∈ lw_all := lw_g (lw_at lw_m7 38 rfl) rfl
theorem q1591 : (Jvm.Cond.code ({ cls := "PureHouse$Local", name := "<init>", desc := "(II)V" } : Jvm.MethodName) prog_13_method_1_code (3 : Nat) (Option.none : Option Jvm.ClassFile.FieldType)) ∈ lw_all := lw_g (lw_at lw_m7 39 rfl) rfl
theorem q1592 : (Jvm.Cond.methodLinkNest "PureHouse$Local" (1 : Nat) ({ cls := "PureHouse$Term", name := "<init>", desc := "()V" } : Jvm.MethodName) "PureHouse") ∈ lw_tbl := lw_at lw_m7 40 rfl
theorem q1593 : (Jvm.Cond.fieldLink "PureHouse$Local" (7 : Nat) "PureHouse$Local" "number" "I") ∈ lw_all := lw_g (lw_at lw_m7 41 rfl) rfl
theorem q1595 : (Jvm.Cond.fieldLink "PureHouse$Local" (13 : Nat) "PureHouse$Local" "depth" "I") ∈ lw_all := lw_g (lw_at lw_m7 43 rfl) rfl
theorem q1597 : (Jvm.Cond.laysFinal "PureHouse$Local" "PureHouse$Local" "number" "I") ∈ lw_all := lw_g (lw_at lw_m7 45 rfl) rfl
theorem q1598 : (Jvm.Cond.soleField "PureHouse$Local" "number") ∈ lw_all := lw_g (lw_at lw_m7 46 rfl) rfl
theorem q1599 : (Jvm.Cond.laysFinal "PureHouse$Local" "PureHouse$Local" "depth" "I") ∈ lw_all := lw_g (lw_at lw_m7 47 rfl) rfl
theorem q1600 : (Jvm.Cond.soleField "PureHouse$Local" "depth") ∈ lw_all := lw_g (lw_at lw_m7 48 rfl) rfl
theorem q1601 : (Jvm.Cond.lays "PureHouse$Local" "PureHouse$Term" "at" "I") ∈ lw_all := lw_g (lw_at lw_m7 49 rfl) rfl
theorem q1602 : (Jvm.Cond.lays "PureHouse$Local" "PureHouse$Term" "from" "I") ∈ lw_all := lw_g (lw_at lw_m7 50 rfl) rfl
theorem q1603 : (Jvm.Cond.superclass "PureHouse$Local" "PureHouse$Term") ∈ lw_all := lw_g (lw_at lw_m7 51 rfl) rfl
theorem q2568 : (Jvm.Cond.castable "PureHouse$Local" "PureHouse$Term") ∈ lw_tbl := lw_at lw_m11 56 rfl
theorem q2596 : (Jvm.Cond.castable "PureHouse$Local" "java/lang/Object") ∈ lw_tbl := lw_at lw_m11 84 rfl
theorem in_X20 : ∀ w ∈ wsX200, w ∈ lw_all := lw_in wsX200 [1601, 1602, 1597, 1599] (by decide +kernel) (by decide +kernel)

/-! PureHouse$Lifted -/
set_option maxRecDepth 100000
def RX21 : String := "PureHouse$Lifted"
def TX21 : u_T := fun k => match k with
  | 0 => ("PureHouse$Term", "at", "I", false)
  | 1 => ("PureHouse$Term", "from", "I", false)
  | 2 => ("PureHouse$Lifted", "what", "LPureHouse$Term;", true)
  | _ => ("PureHouse$Lifted", "more", "I", true)
def tyX21 : Nat → FieldType := fun k => match k with
  | 0 => .int
  | 1 => .int
  | 2 => .object "PureHouse$Term"
  | _ => .int
abbrev wsX210 : List Cond := u_ws RX21 TX21 4
theorem nmX21 : ∀ a, a < 4 → ∀ b, b < 4 → a ≠ b → (TX21 a).2.1 ≠ (TX21 b).2.1 := by decide +kernel
theorem tyX21_ok : ∀ k, k < 4 → parseFieldDescriptor (TX21 k).2.2.1 = some (tyX21 k) := by decide +kernel
abbrev cX21_goes : ByteArray := prog_12_method_2_code
def yX21_goes : MethodName := ⟨RX21, "goes", "(LPureHouse$Machine;)Z"⟩
theorem dX21_goes_0 : decode cX21_goes 0 = .ok (.aload_n 1, 1) := by decide +kernel
theorem dX21_goes_1 : decode cX21_goes 1 = .ok (.getfield 17, 3) := by decide +kernel
theorem dX21_goes_4 : decode cX21_goes 4 = .ok (.astore_n 2, 1) := by decide +kernel
theorem dX21_goes_5 : decode cX21_goes 5 = .ok (.iconst 0, 1) := by decide +kernel
theorem dX21_goes_6 : decode cX21_goes 6 = .ok (.istore_n 3, 1) := by decide +kernel
theorem dX21_goes_7 : decode cX21_goes 7 = .ok (.iload_n 3, 1) := by decide +kernel
theorem dX21_goes_8 : decode cX21_goes 8 = .ok (.aload_n 0, 1) := by decide +kernel
theorem dX21_goes_9 : decode cX21_goes 9 = .ok (.getfield 13, 3) := by decide +kernel
theorem dX21_goes_12 : decode cX21_goes 12 = .ok (.if_icmp .ge 14, 3) := by decide +kernel
theorem dX21_goes_15 : decode cX21_goes 15 = .ok (.aload_n 2, 1) := by decide +kernel
theorem dX21_goes_16 : decode cX21_goes 16 = .ok (.getfield 23, 3) := by decide +kernel
theorem dX21_goes_19 : decode cX21_goes 19 = .ok (.astore_n 2, 1) := by decide +kernel
theorem dX21_goes_20 : decode cX21_goes 20 = .ok (.iinc 3 1, 3) := by decide +kernel
theorem dX21_goes_23 : decode cX21_goes 23 = .ok (.goto (-16), 3) := by decide +kernel
theorem dX21_goes_26 : decode cX21_goes 26 = .ok (.aload_n 1, 1) := by decide +kernel
theorem dX21_goes_27 : decode cX21_goes 27 = .ok (.aload_n 0, 1) := by decide +kernel
theorem dX21_goes_28 : decode cX21_goes 28 = .ok (.getfield 7, 3) := by decide +kernel
theorem dX21_goes_31 : decode cX21_goes 31 = .ok (.aload_n 2, 1) := by decide +kernel
theorem dX21_goes_32 : decode cX21_goes 32 = .ok (.invokevirtual 28, 3) := by decide +kernel
theorem dX21_goes_35 : decode cX21_goes 35 = .ok (.iconst 1, 1) := by decide +kernel
theorem dX21_goes_36 : decode cX21_goes 36 = .ok (.ireturn, 1) := by decide +kernel
abbrev cX21_init : ByteArray := prog_12_method_1_code
def yX21_init : MethodName := ⟨RX21, "<init>", "(LPureHouse$Term;I)V"⟩
theorem dX21_init_0 : decode cX21_init 0 = .ok (.aload_n 0, 1) := by decide +kernel
theorem dX21_init_1 : decode cX21_init 1 = .ok (.invokespecial 1, 3) := by decide +kernel
theorem dX21_init_4 : decode cX21_init 4 = .ok (.aload_n 0, 1) := by decide +kernel
theorem dX21_init_5 : decode cX21_init 5 = .ok (.aload_n 1, 1) := by decide +kernel
theorem dX21_init_6 : decode cX21_init 6 = .ok (.putfield 7, 3) := by decide +kernel
theorem dX21_init_9 : decode cX21_init 9 = .ok (.aload_n 0, 1) := by decide +kernel
theorem dX21_init_10 : decode cX21_init 10 = .ok (.iload_n 2, 1) := by decide +kernel
theorem dX21_init_11 : decode cX21_init 11 = .ok (.putfield 13, 3) := by decide +kernel
theorem dX21_init_14 : decode cX21_init 14 = .ok (.return_, 1) := by decide +kernel
theorem q157 : (Jvm.Cond.initialized "PureHouse$Lifted") ∈ lw_all := lw_g (lw_at lw_m1 45 rfl) rfl
theorem q210 : (Jvm.Cond.fieldLinkNest "PureHouse$Lifted" (17 : Nat) "PureHouse$Machine" "env" "LPureHouse$Env;" "PureHouse") ∈ lw_tbl := lw_at lw_m1 98 rfl
theorem q1113 : (Jvm.Cond.selects "PureHouse$Lifted" ({ cls := "java/lang/Object", name := "getClass", desc := "()Ljava/lang/Class;" } : Jvm.MethodName) ({ cls := "java/lang/Object", name := "getClass", desc := "()Ljava/lang/Class;" } : Jvm.MethodName)) ∈ lw_all := lw_g (lw_at lw_m5 41 rfl) rfl
theorem q1507 : (Jvm.Cond.fieldLinkNest "PureHouse$Lifted" (23 : Nat) "PureHouse$Env" "next" "LPureHouse$Env;" "PureHouse") ∈ lw_tbl := lw_at lw_m6 195 rfl
theorem q1527 : (Jvm.Cond.selects "PureHouse$Lifted" ({ cls := "PureHouse$Term", name := "goes", desc := "(LPureHouse$Machine;)Z" } : Jvm.MethodName) ({ cls := "PureHouse$Lifted", name := "goes", desc := "(LPureHouse$Machine;)Z" } : Jvm.MethodName)) ∈ lw_all := lw_g (lw_at lw_m6 215 rfl) rfl
theorem q1528 : (Jvm.Cond.instanceMethod ({ cls := "PureHouse$Lifted", name := "goes", desc := "(LPureHouse$Machine;)Z" } : Jvm.MethodName)) ∈ lw_all := lw_g (lw_at lw_m6 216 rfl) rfl
theorem q1529 : (Jvm.Cond.code ({ cls := "PureHouse$Lifted", name := "goes", desc := "(LPureHouse$Machine;)Z" } : Jvm.MethodName) prog_12_method_2_code (4 : Nat) (Option.some Jvm.ClassFile.FieldType.boolean)) ∈ lw_all := lw_g (lw_at lw_m6 217 rfl) rfl
theorem q1530 : (Jvm.Cond.methodLink "PureHouse$Lifted" (28 : Nat) ({ cls := "PureHouse$Machine", name := "at", desc := "(LPureHouse$Term;LPureHouse$Env;)V" } : Jvm.MethodName)) ∈ lw_all := lw_g (lw_at lw_m6 218 rfl) rfl
theorem q1666 : (Jvm.Cond.instantiable "PureHouse$Lifted" (4 : Nat)) ∈ lw_all := lw_g (lw_at lw_m7 114 rfl) rfl
theorem q1668 : (Jvm.Cond.instanceMethod ({ cls := "PureHouse$Lifted", name := "<init>", desc := "(LPureHouse$Term;I)V" } : Jvm.MethodName)) ∈ lw_all := lw_g (lw_at lw_m7 116 rfl) rfl
theorem q1669 : (Jvm.Cond.code ({ cls := "PureHouse$Lifted", name := "<init>", desc := "(LPureHouse$Term;I)V" } : Jvm.MethodName) prog_12_method_1_code (3 : Nat) (Option.none : Option Jvm.ClassFile.FieldType)) ∈ lw_all := lw_g (lw_at lw_m7 117 rfl) rfl
theorem q1670 : (Jvm.Cond.methodLinkNest "PureHouse$Lifted" (1 : Nat) ({ cls := "PureHouse$Term", name := "<init>", desc := "()V" } : Jvm.MethodName) "PureHouse") ∈ lw_tbl := lw_at lw_m7 118 rfl
theorem q1671 : (Jvm.Cond.fieldLink "PureHouse$Lifted" (7 : Nat) "PureHouse$Lifted" "what" "LPureHouse$Term;") ∈ lw_all := lw_g (lw_at lw_m7 119 rfl) rfl
theorem q1673 : (Jvm.Cond.fieldLink "PureHouse$Lifted" (13 : Nat) "PureHouse$Lifted" "more" "I") ∈ lw_all := lw_g (lw_at lw_m7 121 rfl) rfl
theorem q1675 : (Jvm.Cond.laysFinal "PureHouse$Lifted" "PureHouse$Lifted" "what" "LPureHouse$Term;") ∈ lw_all := lw_g (lw_at lw_m7 123 rfl) rfl
theorem q1676 : (Jvm.Cond.soleField "PureHouse$Lifted" "what") ∈ lw_all := lw_g (lw_at lw_m7 124 rfl) rfl
theorem q1677 : (Jvm.Cond.laysFinal "PureHouse$Lifted" "PureHouse$Lifted" "more" "I") ∈ lw_all := lw_g (lw_at lw_m7 125 rfl) rfl
theorem q1678 : (Jvm.Cond.soleField "PureHouse$Lifted" "more") ∈ lw_all := lw_g (lw_at lw_m7 126 rfl) rfl
theorem q1679 : (Jvm.Cond.lays "PureHouse$Lifted" "PureHouse$Term" "at" "I") ∈ lw_all := lw_g (lw_at lw_m7 127 rfl) rfl
theorem q1680 : (Jvm.Cond.lays "PureHouse$Lifted" "PureHouse$Term" "from" "I") ∈ lw_all := lw_g (lw_at lw_m7 128 rfl) rfl
theorem q1681 : (Jvm.Cond.superclass "PureHouse$Lifted" "PureHouse$Term") ∈ lw_all := lw_g (lw_at lw_m7 129 rfl) rfl
theorem q2567 : (Jvm.Cond.castable "PureHouse$Lifted" "PureHouse$Term") ∈ lw_tbl := lw_at lw_m11 55 rfl
theorem q2598 : (Jvm.Cond.castable "PureHouse$Lifted" "java/lang/Object") ∈ lw_tbl := lw_at lw_m11 86 rfl
theorem in_X21 : ∀ w ∈ wsX210, w ∈ lw_all := lw_in wsX210 [1679, 1680, 1675, 1677] (by decide +kernel) (by decide +kernel)

/-! PureHouse$Sunk -/
set_option maxRecDepth 100000
def RX22 : String := "PureHouse$Sunk"
def TX22 : u_T := fun k => match k with
  | 0 => ("PureHouse$Term", "at", "I", false)
  | 1 => ("PureHouse$Term", "from", "I", false)
  | _ => ("PureHouse$Sunk", "what", "LPureHouse$Term;", true)
def tyX22 : Nat → FieldType := fun k => match k with
  | 0 => .int
  | 1 => .int
  | _ => .object "PureHouse$Term"
abbrev wsX220 : List Cond := u_ws RX22 TX22 3
theorem nmX22 : ∀ a, a < 3 → ∀ b, b < 3 → a ≠ b → (TX22 a).2.1 ≠ (TX22 b).2.1 := by decide +kernel
theorem tyX22_ok : ∀ k, k < 3 → parseFieldDescriptor (TX22 k).2.2.1 = some (tyX22 k) := by decide +kernel
abbrev cX22_goes : ByteArray := prog_21_method_2_code
def yX22_goes : MethodName := ⟨RX22, "goes", "(LPureHouse$Machine;)Z"⟩
theorem dX22_goes_0 : decode cX22_goes 0 = .ok (.aload_n 1, 1) := by decide +kernel
theorem dX22_goes_1 : decode cX22_goes 1 = .ok (.aload_n 0, 1) := by decide +kernel
theorem dX22_goes_2 : decode cX22_goes 2 = .ok (.getfield 7, 3) := by decide +kernel
theorem dX22_goes_5 : decode cX22_goes 5 = .ok (.new 13, 3) := by decide +kernel
theorem dX22_goes_8 : decode cX22_goes 8 = .ok (.dup, 1) := by decide +kernel
theorem dX22_goes_9 : decode cX22_goes 9 = .ok (.aconst_null, 1) := by decide +kernel
theorem dX22_goes_10 : decode cX22_goes 10 = .ok (.aload_n 1, 1) := by decide +kernel
theorem dX22_goes_11 : decode cX22_goes 11 = .ok (.getfield 15, 3) := by decide +kernel
theorem dX22_goes_14 : decode cX22_goes 14 = .ok (.invokespecial 21, 3) := by decide +kernel
theorem dX22_goes_17 : decode cX22_goes 17 = .ok (.invokevirtual 24, 3) := by decide +kernel
theorem dX22_goes_20 : decode cX22_goes 20 = .ok (.iconst 1, 1) := by decide +kernel
theorem dX22_goes_21 : decode cX22_goes 21 = .ok (.ireturn, 1) := by decide +kernel
abbrev cX22_init : ByteArray := prog_21_method_1_code
def yX22_init : MethodName := ⟨RX22, "<init>", "(LPureHouse$Term;)V"⟩
theorem dX22_init_0 : decode cX22_init 0 = .ok (.aload_n 0, 1) := by decide +kernel
theorem dX22_init_1 : decode cX22_init 1 = .ok (.invokespecial 1, 3) := by decide +kernel
theorem dX22_init_4 : decode cX22_init 4 = .ok (.aload_n 0, 1) := by decide +kernel
theorem dX22_init_5 : decode cX22_init 5 = .ok (.aload_n 1, 1) := by decide +kernel
theorem dX22_init_6 : decode cX22_init 6 = .ok (.putfield 7, 3) := by decide +kernel
theorem dX22_init_9 : decode cX22_init 9 = .ok (.return_, 1) := by decide +kernel
theorem q158 : (Jvm.Cond.initialized "PureHouse$Sunk") ∈ lw_all := lw_g (lw_at lw_m1 46 rfl) rfl
theorem q211 : (Jvm.Cond.fieldLinkNest "PureHouse$Sunk" (15 : Nat) "PureHouse$Machine" "env" "LPureHouse$Env;" "PureHouse") ∈ lw_tbl := lw_at lw_m1 99 rfl
theorem q1122 : (Jvm.Cond.selects "PureHouse$Sunk" ({ cls := "java/lang/Object", name := "getClass", desc := "()Ljava/lang/Class;" } : Jvm.MethodName) ({ cls := "java/lang/Object", name := "getClass", desc := "()Ljava/lang/Class;" } : Jvm.MethodName)) ∈ lw_all := lw_g (lw_at lw_m5 50 rfl) rfl
theorem q1537 : (Jvm.Cond.selects "PureHouse$Sunk" ({ cls := "PureHouse$Term", name := "goes", desc := "(LPureHouse$Machine;)Z" } : Jvm.MethodName) ({ cls := "PureHouse$Sunk", name := "goes", desc := "(LPureHouse$Machine;)Z" } : Jvm.MethodName)) ∈ lw_all := lw_g (lw_at lw_m6 225 rfl) rfl
theorem q1538 : (Jvm.Cond.instanceMethod ({ cls := "PureHouse$Sunk", name := "goes", desc := "(LPureHouse$Machine;)Z" } : Jvm.MethodName)) ∈ lw_all := lw_g (lw_at lw_m6 226 rfl) rfl
theorem q1539 : (Jvm.Cond.code ({ cls := "PureHouse$Sunk", name := "goes", desc := "(LPureHouse$Machine;)Z" } : Jvm.MethodName) prog_21_method_2_code (2 : Nat) (Option.some Jvm.ClassFile.FieldType.boolean)) ∈ lw_all := lw_g (lw_at lw_m6 227 rfl) rfl
theorem q1540 : (Jvm.Cond.classLink "PureHouse$Sunk" (13 : Nat) "PureHouse$Env") ∈ lw_all := lw_g (lw_at lw_m6 228 rfl) rfl
theorem q1541 : (Jvm.Cond.methodLink "PureHouse$Sunk" (21 : Nat) ({ cls := "PureHouse$Env", name := "<init>", desc := "(LPureHouse$Closure;LPureHouse$Env;)V" } : Jvm.MethodName)) ∈ lw_all := lw_g (lw_at lw_m6 229 rfl) rfl
theorem q1542 : (Jvm.Cond.methodLink "PureHouse$Sunk" (24 : Nat) ({ cls := "PureHouse$Machine", name := "at", desc := "(LPureHouse$Term;LPureHouse$Env;)V" } : Jvm.MethodName)) ∈ lw_all := lw_g (lw_at lw_m6 230 rfl) rfl
theorem q1726 : (Jvm.Cond.instantiable "PureHouse$Sunk" (3 : Nat)) ∈ lw_all := lw_g (lw_at lw_m7 174 rfl) rfl
theorem q1728 : (Jvm.Cond.instanceMethod ({ cls := "PureHouse$Sunk", name := "<init>", desc := "(LPureHouse$Term;)V" } : Jvm.MethodName)) ∈ lw_all := lw_g (lw_at lw_m7 176 rfl) rfl
theorem q1729 : (Jvm.Cond.code ({ cls := "PureHouse$Sunk", name := "<init>", desc := "(LPureHouse$Term;)V" } : Jvm.MethodName) prog_21_method_1_code (2 : Nat) (Option.none : Option Jvm.ClassFile.FieldType)) ∈ lw_all := lw_g (lw_at lw_m7 177 rfl) rfl
theorem q1730 : (Jvm.Cond.methodLinkNest "PureHouse$Sunk" (1 : Nat) ({ cls := "PureHouse$Term", name := "<init>", desc := "()V" } : Jvm.MethodName) "PureHouse") ∈ lw_tbl := lw_at lw_m7 178 rfl
theorem q1731 : (Jvm.Cond.fieldLink "PureHouse$Sunk" (7 : Nat) "PureHouse$Sunk" "what" "LPureHouse$Term;") ∈ lw_all := lw_g (lw_at lw_m7 179 rfl) rfl
theorem q1733 : (Jvm.Cond.laysFinal "PureHouse$Sunk" "PureHouse$Sunk" "what" "LPureHouse$Term;") ∈ lw_all := lw_g (lw_at lw_m7 181 rfl) rfl
theorem q1734 : (Jvm.Cond.soleField "PureHouse$Sunk" "what") ∈ lw_all := lw_g (lw_at lw_m7 182 rfl) rfl
theorem q1735 : (Jvm.Cond.lays "PureHouse$Sunk" "PureHouse$Term" "at" "I") ∈ lw_all := lw_g (lw_at lw_m7 183 rfl) rfl
theorem q1736 : (Jvm.Cond.lays "PureHouse$Sunk" "PureHouse$Term" "from" "I") ∈ lw_all := lw_g (lw_at lw_m7 184 rfl) rfl
theorem q1737 : (Jvm.Cond.superclass "PureHouse$Sunk" "PureHouse$Term") ∈ lw_all := lw_g (lw_at lw_m7 185 rfl) rfl
theorem q2570 : (Jvm.Cond.castable "PureHouse$Sunk" "PureHouse$Term") ∈ lw_tbl := lw_at lw_m11 58 rfl
theorem q2599 : (Jvm.Cond.castable "PureHouse$Sunk" "java/lang/Object") ∈ lw_tbl := lw_at lw_m11 87 rfl
theorem in_X22 : ∀ w ∈ wsX220, w ∈ lw_all := lw_in wsX220 [1735, 1736, 1733] (by decide +kernel) (by decide +kernel)

/-! PureHouse$Name -/
set_option maxRecDepth 100000
def RX23 : String := "PureHouse$Name"
def TX23 : u_T := fun k => match k with
  | 0 => ("PureHouse$Name", "name", "Ljava/lang/String;", true)
  | 1 => ("PureHouse$Name", "type", "LPureHouse$Term;", true)
  | 2 => ("PureHouse$Name", "sort", "I", true)
  | _ => ("PureHouse$Name", "value", "LPureHouse$Term;", false)
def tyX23 : Nat → FieldType := fun k => match k with
  | 0 => .object "java/lang/String"
  | 1 => .object "PureHouse$Term"
  | 2 => .int
  | _ => .object "PureHouse$Term"
abbrev wsX230 : List Cond := u_ws RX23 TX23 4
theorem nmX23 : ∀ a, a < 4 → ∀ b, b < 4 → a ≠ b → (TX23 a).2.1 ≠ (TX23 b).2.1 := by decide +kernel
theorem tyX23_ok : ∀ k, k < 4 → parseFieldDescriptor (TX23 k).2.2.1 = some (tyX23 k) := by decide +kernel
abbrev cX23_init : ByteArray := prog_15_method_1_code
def yX23_init : MethodName := ⟨RX23, "<init>", "(Ljava/lang/String;LPureHouse$Term;I)V"⟩
theorem dX23_init_0 : decode cX23_init 0 = .ok (.aload_n 0, 1) := by decide +kernel
theorem dX23_init_1 : decode cX23_init 1 = .ok (.invokespecial 1, 3) := by decide +kernel
theorem dX23_init_4 : decode cX23_init 4 = .ok (.aload_n 0, 1) := by decide +kernel
theorem dX23_init_5 : decode cX23_init 5 = .ok (.aload_n 1, 1) := by decide +kernel
theorem dX23_init_6 : decode cX23_init 6 = .ok (.putfield 7, 3) := by decide +kernel
theorem dX23_init_9 : decode cX23_init 9 = .ok (.aload_n 0, 1) := by decide +kernel
theorem dX23_init_10 : decode cX23_init 10 = .ok (.aload_n 2, 1) := by decide +kernel
theorem dX23_init_11 : decode cX23_init 11 = .ok (.putfield 13, 3) := by decide +kernel
theorem dX23_init_14 : decode cX23_init 14 = .ok (.aload_n 0, 1) := by decide +kernel
theorem dX23_init_15 : decode cX23_init 15 = .ok (.iload_n 3, 1) := by decide +kernel
theorem dX23_init_16 : decode cX23_init 16 = .ok (.putfield 17, 3) := by decide +kernel
theorem dX23_init_19 : decode cX23_init 19 = .ok (.return_, 1) := by decide +kernel
theorem q159 : (Jvm.Cond.initialized "PureHouse$Name") ∈ lw_all := lw_g (lw_at lw_m1 47 rfl) rfl
theorem q1116 : (Jvm.Cond.selects "PureHouse$Name" ({ cls := "java/lang/Object", name := "getClass", desc := "()Ljava/lang/Class;" } : Jvm.MethodName) ({ cls := "java/lang/Object", name := "getClass", desc := "()Ljava/lang/Class;" } : Jvm.MethodName)) ∈ lw_all := lw_g (lw_at lw_m5 44 rfl) rfl
theorem q1739 : (Jvm.Cond.instantiable "PureHouse$Name" (4 : Nat)) ∈ lw_all := lw_g (lw_at lw_m7 187 rfl) rfl
theorem q1742 : (Jvm.Cond.instanceMethod ({ cls := "PureHouse$Name", name := "<init>", desc := "(Ljava/lang/String;LPureHouse$Term;I)V" } : Jvm.MethodName)) ∈ lw_all := lw_g (lw_at lw_m7 190 rfl) rfl
theorem q1743 : (Jvm.Cond.code ({ cls := "PureHouse$Name", name := "<init>", desc := "(Ljava/lang/String;LPureHouse$Term;I)V" } : Jvm.MethodName) prog_15_method_1_code (4 : Nat) (Option.none : Option Jvm.ClassFile.FieldType)) ∈ lw_all := lw_g (lw_at lw_m7 191 rfl) rfl
theorem q1744 : (Jvm.Cond.methodLink "PureHouse$Name" (1 : Nat) ({ cls := "java/lang/Object", name := "<init>", desc := "()V" } : Jvm.MethodName)) ∈ lw_all := lw_g (lw_at lw_m7 192 rfl) rfl
theorem q1745 : (Jvm.Cond.fieldLink "PureHouse$Name" (7 : Nat) "PureHouse$Name" "name" "Ljava/lang/String;") ∈ lw_all := lw_g (lw_at lw_m7 193 rfl) rfl
theorem q1749 : (Jvm.Cond.fieldLink "PureHouse$Name" (13 : Nat) "PureHouse$Name" "type" "LPureHouse$Term;") ∈ lw_all := lw_g (lw_at lw_m7 197 rfl) rfl
theorem q1752 : (Jvm.Cond.fieldLink "PureHouse$Name" (17 : Nat) "PureHouse$Name" "sort" "I") ∈ lw_all := lw_g (lw_at lw_m7 200 rfl) rfl
theorem q1757 : (Jvm.Cond.laysFinal "PureHouse$Name" "PureHouse$Name" "name" "Ljava/lang/String;") ∈ lw_all := lw_g (lw_at lw_m7 205 rfl) rfl
theorem q1758 : (Jvm.Cond.soleField "PureHouse$Name" "name") ∈ lw_all := lw_g (lw_at lw_m7 206 rfl) rfl
theorem q1759 : (Jvm.Cond.laysFinal "PureHouse$Name" "PureHouse$Name" "type" "LPureHouse$Term;") ∈ lw_all := lw_g (lw_at lw_m7 207 rfl) rfl
theorem q1760 : (Jvm.Cond.soleField "PureHouse$Name" "type") ∈ lw_all := lw_g (lw_at lw_m7 208 rfl) rfl
theorem q1761 : (Jvm.Cond.laysFinal "PureHouse$Name" "PureHouse$Name" "sort" "I") ∈ lw_all := lw_g (lw_at lw_m7 209 rfl) rfl
theorem q1762 : (Jvm.Cond.soleField "PureHouse$Name" "sort") ∈ lw_all := lw_g (lw_at lw_m7 210 rfl) rfl
theorem q1763 : (Jvm.Cond.lays "PureHouse$Name" "PureHouse$Name" "value" "LPureHouse$Term;") ∈ lw_all := lw_g (lw_at lw_m7 211 rfl) rfl
theorem q1764 : (Jvm.Cond.soleField "PureHouse$Name" "value") ∈ lw_all := lw_g (lw_at lw_m7 212 rfl) rfl
theorem q1765 : (Jvm.Cond.superclass "PureHouse$Name" "java/lang/Object") ∈ lw_all := lw_g (lw_at lw_m7 213 rfl) rfl
theorem q2600 : (Jvm.Cond.castable "PureHouse$Name" "java/lang/Object") ∈ lw_tbl := lw_at lw_m11 88 rfl
theorem in_X23 : ∀ w ∈ wsX230, w ∈ lw_all := lw_in wsX230 [1757, 1759, 1761, 1763] (by decide +kernel) (by decide +kernel)

/-! PureHouse$Statement -/
set_option maxRecDepth 100000
def RX7 : String := "PureHouse$Statement"
def TX7 : u_T := fun k => match k with
  | 0 => ("PureHouse$Statement", "kind", "LPureHouse$Kind;", true)
  | 1 => ("PureHouse$Statement", "at", "I", true)
  | 2 => ("PureHouse$Statement", "names", "[Ljava/lang/String;", true)
  | 3 => ("PureHouse$Statement", "places", "[I", true)
  | 4 => ("PureHouse$Statement", "type", "LPureHouse$Term;", false)
  | _ => ("PureHouse$Statement", "term", "LPureHouse$Term;", false)
def tyX7 : Nat → FieldType := fun k => match k with
  | 0 => .object "PureHouse$Kind"
  | 1 => .int
  | 2 => .array (.object "java/lang/String")
  | 3 => .array .int
  | 4 => .object "PureHouse$Term"
  | _ => .object "PureHouse$Term"
abbrev wsX70 : List Cond := u_ws RX7 TX7 6
theorem nmX7 : ∀ a, a < 6 → ∀ b, b < 6 → a ≠ b → (TX7 a).2.1 ≠ (TX7 b).2.1 := by decide +kernel
theorem tyX7_ok : ∀ k, k < 6 → parseFieldDescriptor (TX7 k).2.2.1 = some (tyX7 k) := by decide +kernel
abbrev cX7_init : ByteArray := prog_20_method_1_code
def yX7_init : MethodName := ⟨RX7, "<init>", "(LPureHouse$Kind;I)V"⟩
theorem dX7_init_0 : decode cX7_init 0 = .ok (.aload_n 0, 1) := by decide +kernel
theorem dX7_init_1 : decode cX7_init 1 = .ok (.invokespecial 1, 3) := by decide +kernel
theorem dX7_init_4 : decode cX7_init 4 = .ok (.aload_n 0, 1) := by decide +kernel
theorem dX7_init_5 : decode cX7_init 5 = .ok (.iconst 3, 1) := by decide +kernel
theorem dX7_init_6 : decode cX7_init 6 = .ok (.anewarray 7, 3) := by decide +kernel
theorem dX7_init_9 : decode cX7_init 9 = .ok (.putfield 9, 3) := by decide +kernel
theorem dX7_init_12 : decode cX7_init 12 = .ok (.aload_n 0, 1) := by decide +kernel
theorem dX7_init_13 : decode cX7_init 13 = .ok (.iconst 3, 1) := by decide +kernel
theorem dX7_init_14 : decode cX7_init 14 = .ok (.newarray .int, 2) := by decide +kernel
theorem dX7_init_16 : decode cX7_init 16 = .ok (.putfield 15, 3) := by decide +kernel
theorem dX7_init_19 : decode cX7_init 19 = .ok (.aload_n 0, 1) := by decide +kernel
theorem dX7_init_20 : decode cX7_init 20 = .ok (.aload_n 1, 1) := by decide +kernel
theorem dX7_init_21 : decode cX7_init 21 = .ok (.putfield 19, 3) := by decide +kernel
theorem dX7_init_24 : decode cX7_init 24 = .ok (.aload_n 0, 1) := by decide +kernel
theorem dX7_init_25 : decode cX7_init 25 = .ok (.iload_n 2, 1) := by decide +kernel
theorem dX7_init_26 : decode cX7_init 26 = .ok (.putfield 23, 3) := by decide +kernel
theorem dX7_init_29 : decode cX7_init 29 = .ok (.return_, 1) := by decide +kernel
theorem q141 : (Jvm.Cond.initialized "PureHouse$Statement") ∈ lw_all := lw_g (lw_at lw_m1 29 rfl) rfl
theorem q941 : (Jvm.Cond.instantiable "PureHouse$Statement" (6 : Nat)) ∈ lw_all := lw_g (lw_at lw_m4 109 rfl) rfl
theorem q945 : (Jvm.Cond.instanceMethod ({ cls := "PureHouse$Statement", name := "<init>", desc := "(LPureHouse$Kind;I)V" } : Jvm.MethodName)) ∈ lw_all := lw_g (lw_at lw_m4 113 rfl) rfl
theorem q946 : (Jvm.Cond.code ({ cls := "PureHouse$Statement", name := "<init>", desc := "(LPureHouse$Kind;I)V" } : Jvm.MethodName) prog_20_method_1_code (3 : Nat) (Option.none : Option Jvm.ClassFile.FieldType)) ∈ lw_all := lw_g (lw_at lw_m4 114 rfl) rfl
theorem q947 : (Jvm.Cond.methodLink "PureHouse$Statement" (1 : Nat) ({ cls := "java/lang/Object", name := "<init>", desc := "()V" } : Jvm.MethodName)) ∈ lw_all := lw_g (lw_at lw_m4 115 rfl) rfl
theorem q948 : (Jvm.Cond.classLink "PureHouse$Statement" (7 : Nat) "java/lang/String") ∈ lw_all := lw_g (lw_at lw_m4 116 rfl) rfl
theorem q949 : (Jvm.Cond.fieldLink "PureHouse$Statement" (19 : Nat) "PureHouse$Statement" "kind" "LPureHouse$Kind;") ∈ lw_all := lw_g (lw_at lw_m4 117 rfl) rfl
theorem q951 : (Jvm.Cond.fieldLink "PureHouse$Statement" (23 : Nat) "PureHouse$Statement" "at" "I") ∈ lw_all := lw_g (lw_at lw_m4 119 rfl) rfl
theorem q953 : (Jvm.Cond.fieldLink "PureHouse$Statement" (9 : Nat) "PureHouse$Statement" "names" "[Ljava/lang/String;") ∈ lw_all := lw_g (lw_at lw_m4 121 rfl) rfl
theorem q956 : (Jvm.Cond.fieldLink "PureHouse$Statement" (15 : Nat) "PureHouse$Statement" "places" "[I") ∈ lw_all := lw_g (lw_at lw_m4 124 rfl) rfl
theorem q963 : (Jvm.Cond.laysFinal "PureHouse$Statement" "PureHouse$Statement" "kind" "LPureHouse$Kind;") ∈ lw_all := lw_g (lw_at lw_m4 131 rfl) rfl
theorem q964 : (Jvm.Cond.soleField "PureHouse$Statement" "kind") ∈ lw_all := lw_g (lw_at lw_m4 132 rfl) rfl
theorem q965 : (Jvm.Cond.laysFinal "PureHouse$Statement" "PureHouse$Statement" "at" "I") ∈ lw_all := lw_g (lw_at lw_m4 133 rfl) rfl
theorem q966 : (Jvm.Cond.soleField "PureHouse$Statement" "at") ∈ lw_all := lw_g (lw_at lw_m4 134 rfl) rfl
theorem q967 : (Jvm.Cond.laysFinal "PureHouse$Statement" "PureHouse$Statement" "names" "[Ljava/lang/String;") ∈ lw_all := lw_g (lw_at lw_m4 135 rfl) rfl
theorem q968 : (Jvm.Cond.soleField "PureHouse$Statement" "names") ∈ lw_all := lw_g (lw_at lw_m4 136 rfl) rfl
theorem q969 : (Jvm.Cond.laysFinal "PureHouse$Statement" "PureHouse$Statement" "places" "[I") ∈ lw_all := lw_g (lw_at lw_m4 137 rfl) rfl
theorem q970 : (Jvm.Cond.soleField "PureHouse$Statement" "places") ∈ lw_all := lw_g (lw_at lw_m4 138 rfl) rfl
theorem q971 : (Jvm.Cond.lays "PureHouse$Statement" "PureHouse$Statement" "type" "LPureHouse$Term;") ∈ lw_all := lw_g (lw_at lw_m4 139 rfl) rfl
theorem q972 : (Jvm.Cond.soleField "PureHouse$Statement" "type") ∈ lw_all := lw_g (lw_at lw_m4 140 rfl) rfl
theorem q973 : (Jvm.Cond.lays "PureHouse$Statement" "PureHouse$Statement" "term" "LPureHouse$Term;") ∈ lw_all := lw_g (lw_at lw_m4 141 rfl) rfl
theorem q974 : (Jvm.Cond.soleField "PureHouse$Statement" "term") ∈ lw_all := lw_g (lw_at lw_m4 142 rfl) rfl
theorem q975 : (Jvm.Cond.superclass "PureHouse$Statement" "java/lang/Object") ∈ lw_all := lw_g (lw_at lw_m4 143 rfl) rfl
theorem q1121 : (Jvm.Cond.selects "PureHouse$Statement" ({ cls := "java/lang/Object", name := "getClass", desc := "()Ljava/lang/Class;" } : Jvm.MethodName) ({ cls := "java/lang/Object", name := "getClass", desc := "()Ljava/lang/Class;" } : Jvm.MethodName)) ∈ lw_all := lw_g (lw_at lw_m5 49 rfl) rfl
theorem q2584 : (Jvm.Cond.castable "PureHouse$Statement" "java/lang/Object") ∈ lw_tbl := lw_at lw_m11 72 rfl
theorem in_X7 : ∀ w ∈ wsX70, w ∈ lw_all := lw_in wsX70 [963, 965, 967, 969, 971, 973] (by decide +kernel) (by decide +kernel)

/-! PureHouse$Fault -/
set_option maxRecDepth 100000
def RX8 : String := "PureHouse$Fault"
def TX8 : u_T := fun k => match k with
  | 0 => ("java/lang/Throwable", "cause", "Ljava/lang/Throwable;", false)
  | 1 => ("java/lang/Throwable", "stackTrace", "[Ljava/lang/StackTraceElement;", false)
  | 2 => ("java/lang/Throwable", "suppressedExceptions", "Ljava/util/List;", false)
  | 3 => ("java/lang/Throwable", "detailMessage", "Ljava/lang/String;", false)
  | 4 => ("java/lang/Throwable", "backtrace", "Ljava/lang/Object;", false)
  | 5 => ("java/lang/Throwable", "depth", "I", false)
  | 6 => ("PureHouse$Fault", "kind", "I", true)
  | _ => ("PureHouse$Fault", "place", "I", true)
def tyX8 : Nat → FieldType := fun k => match k with
  | 0 => .object "java/lang/Throwable"
  | 1 => .array (.object "java/lang/StackTraceElement")
  | 2 => .object "java/util/List"
  | 3 => .object "java/lang/String"
  | 4 => .object "java/lang/Object"
  | 5 => .int
  | 6 => .int
  | _ => .int
abbrev wsX80 : List Cond := u_ws RX8 TX8 8
theorem nmX8 : ∀ a, a < 8 → ∀ b, b < 8 → a ≠ b → (TX8 a).2.1 ≠ (TX8 b).2.1 := by decide +kernel
theorem tyX8_ok : ∀ k, k < 8 → parseFieldDescriptor (TX8 k).2.2.1 = some (tyX8 k) := by decide +kernel
abbrev cX8_init : ByteArray := prog_6_method_1_code
def yX8_init : MethodName := ⟨RX8, "<init>", "(II)V"⟩
theorem dX8_init_0 : decode cX8_init 0 = .ok (.aload_n 0, 1) := by decide +kernel
theorem dX8_init_1 : decode cX8_init 1 = .ok (.invokespecial 1, 3) := by decide +kernel
theorem dX8_init_4 : decode cX8_init 4 = .ok (.aload_n 0, 1) := by decide +kernel
theorem dX8_init_5 : decode cX8_init 5 = .ok (.iload_n 1, 1) := by decide +kernel
theorem dX8_init_6 : decode cX8_init 6 = .ok (.putfield 7, 3) := by decide +kernel
theorem dX8_init_9 : decode cX8_init 9 = .ok (.aload_n 0, 1) := by decide +kernel
theorem dX8_init_10 : decode cX8_init 10 = .ok (.iload_n 2, 1) := by decide +kernel
theorem dX8_init_11 : decode cX8_init 11 = .ok (.putfield 13, 3) := by decide +kernel
theorem dX8_init_14 : decode cX8_init 14 = .ok (.return_, 1) := by decide +kernel
theorem q143 : (Jvm.Cond.initialized "PureHouse$Fault") ∈ lw_all := lw_g (lw_at lw_m1 31 rfl) rfl
theorem q412 : (Jvm.Cond.selects "PureHouse$Fault" ({ cls := "java/lang/Throwable", name := "fillInStackTrace", desc := "()Ljava/lang/Throwable;" } : Jvm.MethodName) ({ cls := "java/lang/Throwable", name := "fillInStackTrace", desc := "()Ljava/lang/Throwable;" } : Jvm.MethodName)) ∈ lw_all := lw_g (lw_at lw_m2 60 rfl) rfl
theorem q989 : (Jvm.Cond.instantiable "PureHouse$Fault" (8 : Nat)) ∈ lw_all := lw_g (lw_at lw_m4 157 rfl) rfl
theorem q990 : (Jvm.Cond.castable "PureHouse$Fault" "PureHouse$Fault") ∈ lw_tbl := lw_at lw_m4 158 rfl
theorem q991 : (Jvm.Cond.selects "PureHouse$Fault" ({ cls := "java/lang/Throwable", name := "fillInStackTrace", desc := "(I)Ljava/lang/Throwable;" } : Jvm.MethodName) ({ cls := "java/lang/Throwable", name := "fillInStackTrace", desc := "(I)Ljava/lang/Throwable;" } : Jvm.MethodName)) ∈ lw_all := lw_g (lw_at lw_m4 159 rfl) rfl
theorem q992 : (Jvm.Cond.lays "PureHouse$Fault" "java/lang/Throwable" "cause" "Ljava/lang/Throwable;") ∈ lw_all := lw_g (lw_at lw_m4 160 rfl) rfl
theorem q993 : (Jvm.Cond.lays "PureHouse$Fault" "java/lang/Throwable" "stackTrace" "[Ljava/lang/StackTraceElement;") ∈ lw_all := lw_g (lw_at lw_m4 161 rfl) rfl
theorem q994 : (Jvm.Cond.lays "PureHouse$Fault" "java/lang/Throwable" "suppressedExceptions" "Ljava/util/List;") ∈ lw_all := lw_g (lw_at lw_m4 162 rfl) rfl
theorem q995 : (Jvm.Cond.lays "PureHouse$Fault" "java/lang/Throwable" "detailMessage" "Ljava/lang/String;") ∈ lw_all := lw_g (lw_at lw_m4 163 rfl) rfl
theorem q996 : (Jvm.Cond.lays "PureHouse$Fault" "java/lang/Throwable" "backtrace" "Ljava/lang/Object;") ∈ lw_all := lw_g (lw_at lw_m4 164 rfl) rfl
theorem q998 : (Jvm.Cond.instanceMethod ({ cls := "PureHouse$Fault", name := "<init>", desc := "(II)V" } : Jvm.MethodName)) ∈ lw_all := lw_g (lw_at lw_m4 166 rfl) rfl
theorem q999 : (Jvm.Cond.code ({ cls := "PureHouse$Fault", name := "<init>", desc := "(II)V" } : Jvm.MethodName) prog_6_method_1_code (3 : Nat) (Option.none : Option Jvm.ClassFile.FieldType)) ∈ lw_all := lw_g (lw_at lw_m4 167 rfl) rfl
theorem q1000 : (Jvm.Cond.methodLink "PureHouse$Fault" (1 : Nat) ({ cls := "java/lang/Exception", name := "<init>", desc := "()V" } : Jvm.MethodName)) ∈ lw_all := lw_g (lw_at lw_m4 168 rfl) rfl
theorem q1001 : (Jvm.Cond.fieldLink "PureHouse$Fault" (7 : Nat) "PureHouse$Fault" "kind" "I") ∈ lw_all := lw_g (lw_at lw_m4 169 rfl) rfl
theorem q1003 : (Jvm.Cond.fieldLink "PureHouse$Fault" (13 : Nat) "PureHouse$Fault" "place" "I") ∈ lw_all := lw_g (lw_at lw_m4 171 rfl) rfl
theorem q1005 : (Jvm.Cond.laysFinal "PureHouse$Fault" "PureHouse$Fault" "kind" "I") ∈ lw_all := lw_g (lw_at lw_m4 173 rfl) rfl
theorem q1006 : (Jvm.Cond.soleField "PureHouse$Fault" "kind") ∈ lw_all := lw_g (lw_at lw_m4 174 rfl) rfl
theorem q1007 : (Jvm.Cond.laysFinal "PureHouse$Fault" "PureHouse$Fault" "place" "I") ∈ lw_all := lw_g (lw_at lw_m4 175 rfl) rfl
theorem q1008 : (Jvm.Cond.soleField "PureHouse$Fault" "place") ∈ lw_all := lw_g (lw_at lw_m4 176 rfl) rfl
theorem q1009 : (Jvm.Cond.lays "PureHouse$Fault" "java/lang/Throwable" "depth" "I") ∈ lw_all := lw_g (lw_at lw_m4 177 rfl) rfl
theorem q1010 : (Jvm.Cond.superclass "PureHouse$Fault" "java/lang/Exception") ∈ lw_all := lw_g (lw_at lw_m4 178 rfl) rfl
theorem q1107 : (Jvm.Cond.selects "PureHouse$Fault" ({ cls := "java/lang/Object", name := "getClass", desc := "()Ljava/lang/Class;" } : Jvm.MethodName) ({ cls := "java/lang/Object", name := "getClass", desc := "()Ljava/lang/Class;" } : Jvm.MethodName)) ∈ lw_all := lw_g (lw_at lw_m5 35 rfl) rfl
theorem q2586 : (Jvm.Cond.castable "PureHouse$Fault" "java/lang/Object") ∈ lw_tbl := lw_at lw_m11 74 rfl
theorem in_X8 : ∀ w ∈ wsX80, w ∈ lw_all := lw_in wsX80 [992, 993, 994, 995, 996, 1009, 1005, 1007] (by decide +kernel) (by decide +kernel)

/-! PureHouse$Term -/
set_option maxRecDepth 100000
def RX9 : String := "PureHouse$Term"
abbrev cX9_init : ByteArray := prog_23_method_1_code
def yX9_init : MethodName := ⟨RX9, "<init>", "()V"⟩
theorem dX9_init_0 : decode cX9_init 0 = .ok (.aload_n 0, 1) := by decide +kernel
theorem dX9_init_1 : decode cX9_init 1 = .ok (.invokespecial 3, 3) := by decide +kernel
theorem dX9_init_4 : decode cX9_init 4 = .ok (.aload_n 0, 1) := by decide +kernel
theorem dX9_init_5 : decode cX9_init 5 = .ok (.iconst (-1), 1) := by decide +kernel
theorem dX9_init_6 : decode cX9_init 6 = .ok (.putfield 9, 3) := by decide +kernel
theorem dX9_init_9 : decode cX9_init 9 = .ok (.aload_n 0, 1) := by decide +kernel
theorem dX9_init_10 : decode cX9_init 10 = .ok (.iconst (-1), 1) := by decide +kernel
theorem dX9_init_11 : decode cX9_init 11 = .ok (.putfield 15, 3) := by decide +kernel
theorem dX9_init_14 : decode cX9_init 14 = .ok (.return_, 1) := by decide +kernel
theorem q144 : (Jvm.Cond.initialized "PureHouse$Term") ∈ lw_all := lw_g (lw_at lw_m1 32 rfl) rfl
theorem q1033 : (Jvm.Cond.instanceMethod ({ cls := "PureHouse$Term", name := "<init>", desc := "()V" } : Jvm.MethodName)) ∈ lw_all := lw_g (lw_at lw_m4 201 rfl) rfl
theorem q1034 : (Jvm.Cond.code ({ cls := "PureHouse$Term", name := "<init>", desc := "()V" } : Jvm.MethodName) prog_23_method_1_code (1 : Nat) (Option.none : Option Jvm.ClassFile.FieldType)) ∈ lw_all := lw_g (lw_at lw_m4 202 rfl) rfl
theorem q1035 : (Jvm.Cond.methodLink "PureHouse$Term" (3 : Nat) ({ cls := "java/lang/Object", name := "<init>", desc := "()V" } : Jvm.MethodName)) ∈ lw_all := lw_g (lw_at lw_m4 203 rfl) rfl
theorem q1043 : (Jvm.Cond.fieldLink "PureHouse$Term" (9 : Nat) "PureHouse$Term" "at" "I") ∈ lw_all := lw_g (lw_at lw_m4 211 rfl) rfl
theorem q1058 : (Jvm.Cond.fieldLink "PureHouse$Term" (15 : Nat) "PureHouse$Term" "from" "I") ∈ lw_all := lw_g (lw_at lw_m4 226 rfl) rfl
theorem q1071 : (Jvm.Cond.soleField "PureHouse$Term" "at") ∈ lw_all := lw_g (lw_at lw_m4 239 rfl) rfl
theorem q1073 : (Jvm.Cond.soleField "PureHouse$Term" "from") ∈ lw_all := lw_g (lw_at lw_m5 1 rfl) rfl
theorem q1473 : (Jvm.Cond.declares ({ cls := "PureHouse$Term", name := "goes", desc := "(LPureHouse$Machine;)Z" } : Jvm.MethodName)) ∈ lw_tbl := lw_at lw_m6 161 rfl
theorem q1474 : (Jvm.Cond.sameMethod "PureHouse$Term" "PureHouse$Term" "goes" "(LPureHouse$Machine;)Z") ∈ lw_all := lw_g (lw_at lw_m6 162 rfl) rfl
