/-! PureHouse -/
set_option maxRecDepth 100000
def RX1 : String := "PureHouse"
def TX1 : u_T := fun k => match k with
  | 0 => ("PureHouse", "tape", "[B", true)
  | 1 => ("PureHouse", "taped", "I", false)
  | 2 => ("PureHouse", "faultKind", "I", false)
  | 3 => ("PureHouse", "faultPlace", "I", false)
  | 4 => ("PureHouse", "done", "I", false)
  | 5 => ("PureHouse", "tables", "LPureHouse$Tables;", true)
  | 6 => ("PureHouse", "machine", "LPureHouse$Machine;", true)
  | 7 => ("PureHouse", "judge", "LPureHouse$Judge;", true)
  | 8 => ("PureHouse", "marks", "[I", true)
  | _ => ("PureHouse", "marked", "I", false)
def tyX1 : Nat → FieldType := fun k => match k with
  | 0 => .array .byte
  | 1 => .int
  | 2 => .int
  | 3 => .int
  | 4 => .int
  | 5 => .object "PureHouse$Tables"
  | 6 => .object "PureHouse$Machine"
  | 7 => .object "PureHouse$Judge"
  | 8 => .array .int
  | _ => .int
abbrev wsX10 : List Cond := u_ws RX1 TX1 10
theorem nmX1 : ∀ a, a < 10 → ∀ b, b < 10 → a ≠ b → (TX1 a).2.1 ≠ (TX1 b).2.1 := by decide +kernel
theorem tyX1_ok : ∀ k, k < 10 → parseFieldDescriptor (TX1 k).2.2.1 = some (tyX1 k) := by decide +kernel
abbrev cX1_init : ByteArray := prog_1_method_1_code
def yX1_init : MethodName := ⟨RX1, "<init>", "()V"⟩
theorem dX1_init_0 : decode cX1_init 0 = .ok (.aload_n 0, 1) := by decide +kernel
theorem dX1_init_1 : decode cX1_init 1 = .ok (.invokespecial 1, 3) := by decide +kernel
theorem dX1_init_4 : decode cX1_init 4 = .ok (.aload_n 0, 1) := by decide +kernel
theorem dX1_init_5 : decode cX1_init 5 = .ok (.sipush 4000, 3) := by decide +kernel
theorem dX1_init_8 : decode cX1_init 8 = .ok (.newarray .byte, 2) := by decide +kernel
theorem dX1_init_10 : decode cX1_init 10 = .ok (.putfield 9, 3) := by decide +kernel
theorem dX1_init_13 : decode cX1_init 13 = .ok (.aload_n 0, 1) := by decide +kernel
theorem dX1_init_14 : decode cX1_init 14 = .ok (.iconst (-1), 1) := by decide +kernel
theorem dX1_init_15 : decode cX1_init 15 = .ok (.putfield 13, 3) := by decide +kernel
theorem dX1_init_18 : decode cX1_init 18 = .ok (.aload_n 0, 1) := by decide +kernel
theorem dX1_init_19 : decode cX1_init 19 = .ok (.new 17, 3) := by decide +kernel
theorem dX1_init_22 : decode cX1_init 22 = .ok (.dup, 1) := by decide +kernel
theorem dX1_init_23 : decode cX1_init 23 = .ok (.invokespecial 19, 3) := by decide +kernel
theorem dX1_init_26 : decode cX1_init 26 = .ok (.putfield 20, 3) := by decide +kernel
theorem dX1_init_29 : decode cX1_init 29 = .ok (.aload_n 0, 1) := by decide +kernel
theorem dX1_init_30 : decode cX1_init 30 = .ok (.new 24, 3) := by decide +kernel
theorem dX1_init_33 : decode cX1_init 33 = .ok (.dup, 1) := by decide +kernel
theorem dX1_init_34 : decode cX1_init 34 = .ok (.aload_n 0, 1) := by decide +kernel
theorem dX1_init_35 : decode cX1_init 35 = .ok (.getfield 20, 3) := by decide +kernel
theorem dX1_init_38 : decode cX1_init 38 = .ok (.invokespecial 26, 3) := by decide +kernel
theorem dX1_init_41 : decode cX1_init 41 = .ok (.putfield 29, 3) := by decide +kernel
theorem dX1_init_44 : decode cX1_init 44 = .ok (.aload_n 0, 1) := by decide +kernel
theorem dX1_init_45 : decode cX1_init 45 = .ok (.new 33, 3) := by decide +kernel
theorem dX1_init_48 : decode cX1_init 48 = .ok (.dup, 1) := by decide +kernel
theorem dX1_init_49 : decode cX1_init 49 = .ok (.aload_n 0, 1) := by decide +kernel
theorem dX1_init_50 : decode cX1_init 50 = .ok (.getfield 20, 3) := by decide +kernel
theorem dX1_init_53 : decode cX1_init 53 = .ok (.aload_n 0, 1) := by decide +kernel
theorem dX1_init_54 : decode cX1_init 54 = .ok (.getfield 29, 3) := by decide +kernel
theorem dX1_init_57 : decode cX1_init 57 = .ok (.invokespecial 35, 3) := by decide +kernel
theorem dX1_init_60 : decode cX1_init 60 = .ok (.putfield 38, 3) := by decide +kernel
theorem dX1_init_63 : decode cX1_init 63 = .ok (.aload_n 0, 1) := by decide +kernel
theorem dX1_init_64 : decode cX1_init 64 = .ok (.bipush 20, 2) := by decide +kernel
theorem dX1_init_66 : decode cX1_init 66 = .ok (.newarray .int, 2) := by decide +kernel
theorem dX1_init_68 : decode cX1_init 68 = .ok (.putfield 42, 3) := by decide +kernel
theorem dX1_init_71 : decode cX1_init 71 = .ok (.aload_n 0, 1) := by decide +kernel
theorem dX1_init_72 : decode cX1_init 72 = .ok (.getfield 20, 3) := by decide +kernel
theorem dX1_init_75 : decode cX1_init 75 = .ok (.bipush 7, 2) := by decide +kernel
theorem dX1_init_77 : decode cX1_init 77 = .ok (.invokevirtual 46, 3) := by decide +kernel
theorem dX1_init_80 : decode cX1_init 80 = .ok (.return_, 1) := by decide +kernel
abbrev cX1_feed : ByteArray := prog_1_method_5_code
def yX1_feed : MethodName := ⟨RX1, "feed", "(IIIII)I"⟩
theorem dX1_feed_0 : decode cX1_feed 0 = .ok (.aload_n 0, 1) := by decide +kernel
theorem dX1_feed_1 : decode cX1_feed 1 = .ok (.getfield 59, 3) := by decide +kernel
theorem dX1_feed_4 : decode cX1_feed 4 = .ok (.bipush 20, 2) := by decide +kernel
theorem dX1_feed_6 : decode cX1_feed 6 = .ok (.iadd, 1) := by decide +kernel
theorem dX1_feed_7 : decode cX1_feed 7 = .ok (.sipush 4000, 3) := by decide +kernel
theorem dX1_feed_10 : decode cX1_feed 10 = .ok (.if_icmp .le 5, 3) := by decide +kernel
theorem dX1_feed_13 : decode cX1_feed 13 = .ok (.iconst (-1), 1) := by decide +kernel
theorem dX1_feed_14 : decode cX1_feed 14 = .ok (.ireturn, 1) := by decide +kernel
theorem dX1_feed_15 : decode cX1_feed 15 = .ok (.aload_n 0, 1) := by decide +kernel
theorem dX1_feed_16 : decode cX1_feed 16 = .ok (.iload_n 1, 1) := by decide +kernel
theorem dX1_feed_17 : decode cX1_feed 17 = .ok (.invokevirtual 62, 3) := by decide +kernel
theorem dX1_feed_20 : decode cX1_feed 20 = .ok (.aload_n 0, 1) := by decide +kernel
theorem dX1_feed_21 : decode cX1_feed 21 = .ok (.iload_n 2, 1) := by decide +kernel
theorem dX1_feed_22 : decode cX1_feed 22 = .ok (.invokevirtual 62, 3) := by decide +kernel
theorem dX1_feed_25 : decode cX1_feed 25 = .ok (.aload_n 0, 1) := by decide +kernel
theorem dX1_feed_26 : decode cX1_feed 26 = .ok (.iload_n 3, 1) := by decide +kernel
theorem dX1_feed_27 : decode cX1_feed 27 = .ok (.invokevirtual 62, 3) := by decide +kernel
theorem dX1_feed_30 : decode cX1_feed 30 = .ok (.aload_n 0, 1) := by decide +kernel
theorem dX1_feed_31 : decode cX1_feed 31 = .ok (.iload 4, 2) := by decide +kernel
theorem dX1_feed_33 : decode cX1_feed 33 = .ok (.invokevirtual 62, 3) := by decide +kernel
theorem dX1_feed_36 : decode cX1_feed 36 = .ok (.aload_n 0, 1) := by decide +kernel
theorem dX1_feed_37 : decode cX1_feed 37 = .ok (.iload 5, 2) := by decide +kernel
theorem dX1_feed_39 : decode cX1_feed 39 = .ok (.invokevirtual 62, 3) := by decide +kernel
theorem dX1_feed_42 : decode cX1_feed 42 = .ok (.aload_n 0, 1) := by decide +kernel
theorem dX1_feed_43 : decode cX1_feed 43 = .ok (.getfield 59, 3) := by decide +kernel
theorem dX1_feed_46 : decode cX1_feed 46 = .ok (.ireturn, 1) := by decide +kernel
abbrev cX1_lay : ByteArray := prog_1_method_6_code
def yX1_lay : MethodName := ⟨RX1, "lay", "(I)V"⟩
theorem dX1_lay_0 : decode cX1_lay 0 = .ok (.bipush 24, 2) := by decide +kernel
theorem dX1_lay_2 : decode cX1_lay 2 = .ok (.istore_n 2, 1) := by decide +kernel
theorem dX1_lay_3 : decode cX1_lay 3 = .ok (.iload_n 2, 1) := by decide +kernel
theorem dX1_lay_4 : decode cX1_lay 4 = .ok (.ifCond .lt 32, 3) := by decide +kernel
theorem dX1_lay_7 : decode cX1_lay 7 = .ok (.aload_n 0, 1) := by decide +kernel
theorem dX1_lay_8 : decode cX1_lay 8 = .ok (.getfield 9, 3) := by decide +kernel
theorem dX1_lay_11 : decode cX1_lay 11 = .ok (.aload_n 0, 1) := by decide +kernel
theorem dX1_lay_12 : decode cX1_lay 12 = .ok (.getfield 59, 3) := by decide +kernel
theorem dX1_lay_15 : decode cX1_lay 15 = .ok (.iload_n 1, 1) := by decide +kernel
theorem dX1_lay_16 : decode cX1_lay 16 = .ok (.iload_n 2, 1) := by decide +kernel
theorem dX1_lay_17 : decode cX1_lay 17 = .ok (.ishr, 1) := by decide +kernel
theorem dX1_lay_18 : decode cX1_lay 18 = .ok (.i2b, 1) := by decide +kernel
theorem dX1_lay_19 : decode cX1_lay 19 = .ok (.bastore, 1) := by decide +kernel
theorem dX1_lay_20 : decode cX1_lay 20 = .ok (.aload_n 0, 1) := by decide +kernel
theorem dX1_lay_21 : decode cX1_lay 21 = .ok (.dup, 1) := by decide +kernel
theorem dX1_lay_22 : decode cX1_lay 22 = .ok (.getfield 59, 3) := by decide +kernel
theorem dX1_lay_25 : decode cX1_lay 25 = .ok (.iconst 1, 1) := by decide +kernel
theorem dX1_lay_26 : decode cX1_lay 26 = .ok (.iadd, 1) := by decide +kernel
theorem dX1_lay_27 : decode cX1_lay 27 = .ok (.putfield 59, 3) := by decide +kernel
theorem dX1_lay_30 : decode cX1_lay 30 = .ok (.iinc 2 (-8), 3) := by decide +kernel
theorem dX1_lay_33 : decode cX1_lay 33 = .ok (.goto (-30), 3) := by decide +kernel
theorem dX1_lay_36 : decode cX1_lay 36 = .ok (.return_, 1) := by decide +kernel
abbrev cX1_outs : ByteArray := prog_1_method_17_code
def yX1_outs : MethodName := ⟨RX1, "outs", "()I"⟩
theorem dX1_outs_0 : decode cX1_outs 0 = .ok (.aload_n 0, 1) := by decide +kernel
theorem dX1_outs_1 : decode cX1_outs 1 = .ok (.getfield 29, 3) := by decide +kernel
theorem dX1_outs_4 : decode cX1_outs 4 = .ok (.getfield 69, 3) := by decide +kernel
theorem dX1_outs_7 : decode cX1_outs 7 = .ok (.ireturn, 1) := by decide +kernel
abbrev cX1_text : ByteArray := prog_1_method_7_code
def yX1_text : MethodName := ⟨RX1, "text", "(I)I"⟩
theorem dX1_text_0 : decode cX1_text 0 = .ok (.iload_n 1, 1) := by decide +kernel
theorem dX1_text_1 : decode cX1_text 1 = .ok (.ifCond .lt 15, 3) := by decide +kernel
theorem dX1_text_4 : decode cX1_text 4 = .ok (.iload_n 1, 1) := by decide +kernel
theorem dX1_text_5 : decode cX1_text 5 = .ok (.aload_n 0, 1) := by decide +kernel
theorem dX1_text_6 : decode cX1_text 6 = .ok (.getfield 59, 3) := by decide +kernel
theorem dX1_text_9 : decode cX1_text 9 = .ok (.if_icmp .gt 7, 3) := by decide +kernel
theorem dX1_text_12 : decode cX1_text 12 = .ok (.iconst 1, 1) := by decide +kernel
theorem dX1_text_13 : decode cX1_text 13 = .ok (.goto 4, 3) := by decide +kernel
theorem dX1_text_16 : decode cX1_text 16 = .ok (.iconst 0, 1) := by decide +kernel
theorem dX1_text_17 : decode cX1_text 17 = .ok (.invokestatic 65, 3) := by decide +kernel
theorem dX1_text_20 : decode cX1_text 20 = .ok (.aload_n 0, 1) := by decide +kernel
theorem dX1_text_21 : decode cX1_text 21 = .ok (.iconst 0, 1) := by decide +kernel
theorem dX1_text_22 : decode cX1_text 22 = .ok (.putfield 59, 3) := by decide +kernel
theorem dX1_text_25 : decode cX1_text 25 = .ok (.aload_n 0, 1) := by decide +kernel
theorem dX1_text_26 : decode cX1_text 26 = .ok (.getfield 29, 3) := by decide +kernel
theorem dX1_text_29 : decode cX1_text 29 = .ok (.iconst 0, 1) := by decide +kernel
theorem dX1_text_30 : decode cX1_text 30 = .ok (.putfield 69, 3) := by decide +kernel
theorem dX1_text_33 : decode cX1_text 33 = .ok (.aload_n 0, 1) := by decide +kernel
theorem dX1_text_34 : decode cX1_text 34 = .ok (.iconst 0, 1) := by decide +kernel
theorem dX1_text_35 : decode cX1_text 35 = .ok (.putfield 72, 3) := by decide +kernel
theorem dX1_text_38 : decode cX1_text 38 = .ok (.aload_n 0, 1) := by decide +kernel
theorem dX1_text_39 : decode cX1_text 39 = .ok (.iconst (-1), 1) := by decide +kernel
theorem dX1_text_40 : decode cX1_text 40 = .ok (.putfield 13, 3) := by decide +kernel
theorem dX1_text_43 : decode cX1_text 43 = .ok (.aload_n 0, 1) := by decide +kernel
theorem dX1_text_44 : decode cX1_text 44 = .ok (.iconst 0, 1) := by decide +kernel
theorem dX1_text_45 : decode cX1_text 45 = .ok (.putfield 75, 3) := by decide +kernel
theorem dX1_text_48 : decode cX1_text 48 = .ok (.iconst (-1), 1) := by decide +kernel
theorem dX1_text_49 : decode cX1_text 49 = .ok (.istore_n 2, 1) := by decide +kernel
theorem dX1_text_50 : decode cX1_text 50 = .ok (.new 78, 3) := by decide +kernel
theorem dX1_text_53 : decode cX1_text 53 = .ok (.dup, 1) := by decide +kernel
theorem dX1_text_54 : decode cX1_text 54 = .ok (.aload_n 0, 1) := by decide +kernel
theorem dX1_text_55 : decode cX1_text 55 = .ok (.getfield 9, 3) := by decide +kernel
theorem dX1_text_58 : decode cX1_text 58 = .ok (.iload_n 1, 1) := by decide +kernel
theorem dX1_text_59 : decode cX1_text 59 = .ok (.invokespecial 80, 3) := by decide +kernel
theorem dX1_text_62 : decode cX1_text 62 = .ok (.invokevirtual 83, 3) := by decide +kernel
theorem dX1_text_65 : decode cX1_text 65 = .ok (.astore_n 3, 1) := by decide +kernel
theorem dX1_text_66 : decode cX1_text 66 = .ok (.iconst 0, 1) := by decide +kernel
theorem dX1_text_67 : decode cX1_text 67 = .ok (.istore 4, 2) := by decide +kernel
theorem dX1_text_69 : decode cX1_text 69 = .ok (.iload 4, 2) := by decide +kernel
theorem dX1_text_71 : decode cX1_text 71 = .ok (.aload_n 3, 1) := by decide +kernel
theorem dX1_text_72 : decode cX1_text 72 = .ok (.invokevirtual 87, 3) := by decide +kernel
theorem dX1_text_75 : decode cX1_text 75 = .ok (.if_icmp .ge 49, 3) := by decide +kernel
theorem dX1_text_78 : decode cX1_text 78 = .ok (.aload_n 3, 1) := by decide +kernel
theorem dX1_text_79 : decode cX1_text 79 = .ok (.iload 4, 2) := by decide +kernel
theorem dX1_text_81 : decode cX1_text 81 = .ok (.invokevirtual 93, 3) := by decide +kernel
theorem dX1_text_84 : decode cX1_text 84 = .ok (.checkcast 97, 3) := by decide +kernel
theorem dX1_text_87 : decode cX1_text 87 = .ok (.astore 5, 2) := by decide +kernel
theorem dX1_text_89 : decode cX1_text 89 = .ok (.aload 5, 2) := by decide +kernel
theorem dX1_text_91 : decode cX1_text 91 = .ok (.getfield 99, 3) := by decide +kernel
theorem dX1_text_94 : decode cX1_text 94 = .ok (.istore_n 2, 1) := by decide +kernel
theorem dX1_text_95 : decode cX1_text 95 = .ok (.aload_n 0, 1) := by decide +kernel
theorem dX1_text_96 : decode cX1_text 96 = .ok (.getfield 29, 3) := by decide +kernel
theorem dX1_text_99 : decode cX1_text 99 = .ok (.invokevirtual 102, 3) := by decide +kernel
theorem dX1_text_102 : decode cX1_text 102 = .ok (.aload_n 0, 1) := by decide +kernel
theorem dX1_text_103 : decode cX1_text 103 = .ok (.aload 5, 2) := by decide +kernel
theorem dX1_text_105 : decode cX1_text 105 = .ok (.invokevirtual 105, 3) := by decide +kernel
theorem dX1_text_108 : decode cX1_text 108 = .ok (.aload_n 0, 1) := by decide +kernel
theorem dX1_text_109 : decode cX1_text 109 = .ok (.dup, 1) := by decide +kernel
theorem dX1_text_110 : decode cX1_text 110 = .ok (.getfield 75, 3) := by decide +kernel
theorem dX1_text_113 : decode cX1_text 113 = .ok (.iconst 1, 1) := by decide +kernel
theorem dX1_text_114 : decode cX1_text 114 = .ok (.iadd, 1) := by decide +kernel
theorem dX1_text_115 : decode cX1_text 115 = .ok (.putfield 75, 3) := by decide +kernel
theorem dX1_text_118 : decode cX1_text 118 = .ok (.iinc 4 1, 3) := by decide +kernel
theorem dX1_text_121 : decode cX1_text 121 = .ok (.goto (-52), 3) := by decide +kernel
theorem dX1_text_124 : decode cX1_text 124 = .ok (.goto 33, 3) := by decide +kernel
theorem dX1_text_127 : decode cX1_text 127 = .ok (.astore_n 3, 1) := by decide +kernel
theorem dX1_text_128 : decode cX1_text 128 = .ok (.aload_n 0, 1) := by decide +kernel
theorem dX1_text_129 : decode cX1_text 129 = .ok (.aload_n 3, 1) := by decide +kernel
theorem dX1_text_130 : decode cX1_text 130 = .ok (.getfield 111, 3) := by decide +kernel
theorem dX1_text_133 : decode cX1_text 133 = .ok (.putfield 72, 3) := by decide +kernel
theorem dX1_text_136 : decode cX1_text 136 = .ok (.aload_n 0, 1) := by decide +kernel
theorem dX1_text_137 : decode cX1_text 137 = .ok (.aload_n 3, 1) := by decide +kernel
theorem dX1_text_138 : decode cX1_text 138 = .ok (.getfield 111, 3) := by decide +kernel
theorem dX1_text_141 : decode cX1_text 141 = .ok (.bipush 12, 2) := by decide +kernel
theorem dX1_text_143 : decode cX1_text 143 = .ok (.if_icmp .lt 7, 3) := by decide +kernel
theorem dX1_text_146 : decode cX1_text 146 = .ok (.iload_n 2, 1) := by decide +kernel
theorem dX1_text_147 : decode cX1_text 147 = .ok (.goto 7, 3) := by decide +kernel
theorem dX1_text_150 : decode cX1_text 150 = .ok (.aload_n 3, 1) := by decide +kernel
theorem dX1_text_151 : decode cX1_text 151 = .ok (.getfield 114, 3) := by decide +kernel
theorem dX1_text_154 : decode cX1_text 154 = .ok (.putfield 13, 3) := by decide +kernel
theorem dX1_text_157 : decode cX1_text 157 = .ok (.aload_n 0, 1) := by decide +kernel
theorem dX1_text_158 : decode cX1_text 158 = .ok (.getfield 72, 3) := by decide +kernel
theorem dX1_text_161 : decode cX1_text 161 = .ok (.ireturn, 1) := by decide +kernel
abbrev cX1_right : ByteArray := prog_1_method_3_code
def yX1_right : MethodName := ⟨RX1, "right", "(Z)V"⟩
theorem dX1_right_0 : decode cX1_right 0 = .ok (.iload_n 0, 1) := by decide +kernel
theorem dX1_right_1 : decode cX1_right 1 = .ok (.ifCond .ne 11, 3) := by decide +kernel
theorem dX1_right_4 : decode cX1_right 4 = .ok (.new 53, 3) := by decide +kernel
theorem dX1_right_7 : decode cX1_right 7 = .ok (.dup, 1) := by decide +kernel
theorem dX1_right_8 : decode cX1_right 8 = .ok (.invokespecial 55, 3) := by decide +kernel
theorem dX1_right_11 : decode cX1_right 11 = .ok (.athrow, 1) := by decide +kernel
theorem dX1_right_12 : decode cX1_right 12 = .ok (.return_, 1) := by decide +kernel
abbrev cX1_does : ByteArray := prog_1_method_8_code
def yX1_does : MethodName := ⟨RX1, "does", "(LPureHouse$Statement;)V"⟩
theorem dX1_does_0 : decode cX1_does 0 = .ok (.aload_n 1, 1) := by decide +kernel
theorem dX1_does_1 : decode cX1_does 1 = .ok (.getfield 117, 3) := by decide +kernel
theorem dX1_does_4 : decode cX1_does 4 = .ok (.invokevirtual 120, 3) := by decide +kernel
theorem dX1_does_7 : decode cX1_does 7 = .ok (.tableswitch 241 0 6 #[41, 41, 41, 49, 57, 65, 111], 41) := by decide +kernel
theorem dX1_does_48 : decode cX1_does 48 = .ok (.aload_n 0, 1) := by decide +kernel
theorem dX1_does_49 : decode cX1_does 49 = .ok (.aload_n 1, 1) := by decide +kernel
theorem dX1_does_50 : decode cX1_does 50 = .ok (.invokevirtual 125, 3) := by decide +kernel
theorem dX1_does_53 : decode cX1_does 53 = .ok (.goto 276, 3) := by decide +kernel
theorem dX1_does_56 : decode cX1_does 56 = .ok (.aload_n 0, 1) := by decide +kernel
theorem dX1_does_57 : decode cX1_does 57 = .ok (.aload_n 1, 1) := by decide +kernel
theorem dX1_does_58 : decode cX1_does 58 = .ok (.invokevirtual 128, 3) := by decide +kernel
theorem dX1_does_61 : decode cX1_does 61 = .ok (.goto 268, 3) := by decide +kernel
theorem dX1_does_64 : decode cX1_does 64 = .ok (.aload_n 0, 1) := by decide +kernel
theorem dX1_does_65 : decode cX1_does 65 = .ok (.aload_n 1, 1) := by decide +kernel
theorem dX1_does_66 : decode cX1_does 66 = .ok (.invokevirtual 131, 3) := by decide +kernel
theorem dX1_does_69 : decode cX1_does 69 = .ok (.goto 260, 3) := by decide +kernel
theorem dX1_does_72 : decode cX1_does 72 = .ok (.aload_n 0, 1) := by decide +kernel
theorem dX1_does_73 : decode cX1_does 73 = .ok (.getfield 38, 3) := by decide +kernel
theorem dX1_does_76 : decode cX1_does 76 = .ok (.aload_n 1, 1) := by decide +kernel
theorem dX1_does_77 : decode cX1_does 77 = .ok (.getfield 134, 3) := by decide +kernel
theorem dX1_does_80 : decode cX1_does 80 = .ok (.aconst_null, 1) := by decide +kernel
theorem dX1_does_81 : decode cX1_does 81 = .ok (.invokevirtual 138, 3) := by decide +kernel
theorem dX1_does_84 : decode cX1_does 84 = .ok (.aload_n 0, 1) := by decide +kernel
theorem dX1_does_85 : decode cX1_does 85 = .ok (.getfield 29, 3) := by decide +kernel
theorem dX1_does_88 : decode cX1_does 88 = .ok (.new 141, 3) := by decide +kernel
theorem dX1_does_91 : decode cX1_does 91 = .ok (.dup, 1) := by decide +kernel
theorem dX1_does_92 : decode cX1_does 92 = .ok (.aload_n 1, 1) := by decide +kernel
theorem dX1_does_93 : decode cX1_does 93 = .ok (.getfield 134, 3) := by decide +kernel
theorem dX1_does_96 : decode cX1_does 96 = .ok (.aconst_null, 1) := by decide +kernel
theorem dX1_does_97 : decode cX1_does 97 = .ok (.invokespecial 143, 3) := by decide +kernel
theorem dX1_does_100 : decode cX1_does 100 = .ok (.iconst 0, 1) := by decide +kernel
theorem dX1_does_101 : decode cX1_does 101 = .ok (.iconst 0, 1) := by decide +kernel
theorem dX1_does_102 : decode cX1_does 102 = .ok (.iconst 0, 1) := by decide +kernel
theorem dX1_does_103 : decode cX1_does 103 = .ok (.invokevirtual 146, 3) := by decide +kernel
theorem dX1_does_106 : decode cX1_does 106 = .ok (.aload_n 0, 1) := by decide +kernel
theorem dX1_does_107 : decode cX1_does 107 = .ok (.getfield 29, 3) := by decide +kernel
theorem dX1_does_110 : decode cX1_does 110 = .ok (.bipush 10, 2) := by decide +kernel
theorem dX1_does_112 : decode cX1_does 112 = .ok (.invokevirtual 150, 3) := by decide +kernel
theorem dX1_does_115 : decode cX1_does 115 = .ok (.goto 214, 3) := by decide +kernel
theorem dX1_does_118 : decode cX1_does 118 = .ok (.aload_n 0, 1) := by decide +kernel
theorem dX1_does_119 : decode cX1_does 119 = .ok (.getfield 38, 3) := by decide +kernel
theorem dX1_does_122 : decode cX1_does 122 = .ok (.aload_n 1, 1) := by decide +kernel
theorem dX1_does_123 : decode cX1_does 123 = .ok (.getfield 134, 3) := by decide +kernel
theorem dX1_does_126 : decode cX1_does 126 = .ok (.aconst_null, 1) := by decide +kernel
theorem dX1_does_127 : decode cX1_does 127 = .ok (.invokevirtual 138, 3) := by decide +kernel
theorem dX1_does_130 : decode cX1_does 130 = .ok (.aload_n 0, 1) := by decide +kernel
theorem dX1_does_131 : decode cX1_does 131 = .ok (.getfield 29, 3) := by decide +kernel
theorem dX1_does_134 : decode cX1_does 134 = .ok (.new 141, 3) := by decide +kernel
theorem dX1_does_137 : decode cX1_does 137 = .ok (.dup, 1) := by decide +kernel
theorem dX1_does_138 : decode cX1_does 138 = .ok (.aload_n 1, 1) := by decide +kernel
theorem dX1_does_139 : decode cX1_does 139 = .ok (.getfield 134, 3) := by decide +kernel
theorem dX1_does_142 : decode cX1_does 142 = .ok (.aconst_null, 1) := by decide +kernel
theorem dX1_does_143 : decode cX1_does 143 = .ok (.invokespecial 143, 3) := by decide +kernel
theorem dX1_does_146 : decode cX1_does 146 = .ok (.invokevirtual 153, 3) := by decide +kernel
theorem dX1_does_149 : decode cX1_does 149 = .ok (.aload_n 0, 1) := by decide +kernel
theorem dX1_does_150 : decode cX1_does 150 = .ok (.getfield 29, 3) := by decide +kernel
theorem dX1_does_153 : decode cX1_does 153 = .ok (.getfield 157, 3) := by decide +kernel
theorem dX1_does_156 : decode cX1_does 156 = .ok (.instanceof 158, 3) := by decide +kernel
theorem dX1_does_159 : decode cX1_does 159 = .ok (.ifCond .eq 15, 3) := by decide +kernel
theorem dX1_does_162 : decode cX1_does 162 = .ok (.aload_n 0, 1) := by decide +kernel
theorem dX1_does_163 : decode cX1_does 163 = .ok (.getfield 29, 3) := by decide +kernel
theorem dX1_does_166 : decode cX1_does 166 = .ok (.bipush 92, 2) := by decide +kernel
theorem dX1_does_168 : decode cX1_does 168 = .ok (.invokevirtual 150, 3) := by decide +kernel
theorem dX1_does_171 : decode cX1_does 171 = .ok (.goto 25, 3) := by decide +kernel
theorem dX1_does_174 : decode cX1_does 174 = .ok (.aload_n 0, 1) := by decide +kernel
theorem dX1_does_175 : decode cX1_does 175 = .ok (.getfield 29, 3) := by decide +kernel
theorem dX1_does_178 : decode cX1_does 178 = .ok (.getfield 157, 3) := by decide +kernel
theorem dX1_does_181 : decode cX1_does 181 = .ok (.instanceof 160, 3) := by decide +kernel
theorem dX1_does_184 : decode cX1_does 184 = .ok (.ifCond .eq 12, 3) := by decide +kernel
theorem dX1_does_187 : decode cX1_does 187 = .ok (.aload_n 0, 1) := by decide +kernel
theorem dX1_does_188 : decode cX1_does 188 = .ok (.getfield 29, 3) := by decide +kernel
theorem dX1_does_191 : decode cX1_does 191 = .ok (.bipush 33, 2) := by decide +kernel
theorem dX1_does_193 : decode cX1_does 193 = .ok (.invokevirtual 150, 3) := by decide +kernel
theorem dX1_does_196 : decode cX1_does 196 = .ok (.aload_n 0, 1) := by decide +kernel
theorem dX1_does_197 : decode cX1_does 197 = .ok (.getfield 29, 3) := by decide +kernel
theorem dX1_does_200 : decode cX1_does 200 = .ok (.aload_n 0, 1) := by decide +kernel
theorem dX1_does_201 : decode cX1_does 201 = .ok (.getfield 29, 3) := by decide +kernel
theorem dX1_does_204 : decode cX1_does 204 = .ok (.getfield 157, 3) := by decide +kernel
theorem dX1_does_207 : decode cX1_does 207 = .ok (.invokevirtual 162, 3) := by decide +kernel
theorem dX1_does_210 : decode cX1_does 210 = .ok (.aload_n 0, 1) := by decide +kernel
theorem dX1_does_211 : decode cX1_does 211 = .ok (.getfield 29, 3) := by decide +kernel
theorem dX1_does_214 : decode cX1_does 214 = .ok (.bipush 32, 2) := by decide +kernel
theorem dX1_does_216 : decode cX1_does 216 = .ok (.invokevirtual 150, 3) := by decide +kernel
theorem dX1_does_219 : decode cX1_does 219 = .ok (.aload_n 0, 1) := by decide +kernel
theorem dX1_does_220 : decode cX1_does 220 = .ok (.getfield 29, 3) := by decide +kernel
theorem dX1_does_223 : decode cX1_does 223 = .ok (.aload_n 0, 1) := by decide +kernel
theorem dX1_does_224 : decode cX1_does 224 = .ok (.getfield 29, 3) := by decide +kernel
theorem dX1_does_227 : decode cX1_does 227 = .ok (.getfield 166, 3) := by decide +kernel
theorem dX1_does_230 : decode cX1_does 230 = .ok (.invokestatic 170, 3) := by decide +kernel
theorem dX1_does_233 : decode cX1_does 233 = .ok (.invokevirtual 175, 3) := by decide +kernel
theorem dX1_does_236 : decode cX1_does 236 = .ok (.aload_n 0, 1) := by decide +kernel
theorem dX1_does_237 : decode cX1_does 237 = .ok (.getfield 29, 3) := by decide +kernel
theorem dX1_does_240 : decode cX1_does 240 = .ok (.bipush 10, 2) := by decide +kernel
theorem dX1_does_242 : decode cX1_does 242 = .ok (.invokevirtual 150, 3) := by decide +kernel
theorem dX1_does_245 : decode cX1_does 245 = .ok (.goto 84, 3) := by decide +kernel
theorem dX1_does_248 : decode cX1_does 248 = .ok (.aload_n 0, 1) := by decide +kernel
theorem dX1_does_249 : decode cX1_does 249 = .ok (.getfield 38, 3) := by decide +kernel
theorem dX1_does_252 : decode cX1_does 252 = .ok (.aload_n 1, 1) := by decide +kernel
theorem dX1_does_253 : decode cX1_does 253 = .ok (.getfield 134, 3) := by decide +kernel
theorem dX1_does_256 : decode cX1_does 256 = .ok (.aconst_null, 1) := by decide +kernel
theorem dX1_does_257 : decode cX1_does 257 = .ok (.invokevirtual 138, 3) := by decide +kernel
theorem dX1_does_260 : decode cX1_does 260 = .ok (.aload_n 0, 1) := by decide +kernel
theorem dX1_does_261 : decode cX1_does 261 = .ok (.getfield 38, 3) := by decide +kernel
theorem dX1_does_264 : decode cX1_does 264 = .ok (.aload_n 1, 1) := by decide +kernel
theorem dX1_does_265 : decode cX1_does 265 = .ok (.getfield 178, 3) := by decide +kernel
theorem dX1_does_268 : decode cX1_does 268 = .ok (.aconst_null, 1) := by decide +kernel
theorem dX1_does_269 : decode cX1_does 269 = .ok (.invokevirtual 138, 3) := by decide +kernel
theorem dX1_does_272 : decode cX1_does 272 = .ok (.aload_n 0, 1) := by decide +kernel
theorem dX1_does_273 : decode cX1_does 273 = .ok (.getfield 29, 3) := by decide +kernel
theorem dX1_does_276 : decode cX1_does 276 = .ok (.aload_n 0, 1) := by decide +kernel
theorem dX1_does_277 : decode cX1_does 277 = .ok (.getfield 29, 3) := by decide +kernel
theorem dX1_does_280 : decode cX1_does 280 = .ok (.new 141, 3) := by decide +kernel
theorem dX1_does_283 : decode cX1_does 283 = .ok (.dup, 1) := by decide +kernel
theorem dX1_does_284 : decode cX1_does 284 = .ok (.aload_n 1, 1) := by decide +kernel
theorem dX1_does_285 : decode cX1_does 285 = .ok (.getfield 134, 3) := by decide +kernel
theorem dX1_does_288 : decode cX1_does 288 = .ok (.aconst_null, 1) := by decide +kernel
theorem dX1_does_289 : decode cX1_does 289 = .ok (.invokespecial 143, 3) := by decide +kernel
theorem dX1_does_292 : decode cX1_does 292 = .ok (.new 141, 3) := by decide +kernel
theorem dX1_does_295 : decode cX1_does 295 = .ok (.dup, 1) := by decide +kernel
theorem dX1_does_296 : decode cX1_does 296 = .ok (.aload_n 1, 1) := by decide +kernel
theorem dX1_does_297 : decode cX1_does 297 = .ok (.getfield 178, 3) := by decide +kernel
theorem dX1_does_300 : decode cX1_does 300 = .ok (.aconst_null, 1) := by decide +kernel
theorem dX1_does_301 : decode cX1_does 301 = .ok (.invokespecial 143, 3) := by decide +kernel
theorem dX1_does_304 : decode cX1_does 304 = .ok (.invokevirtual 181, 3) := by decide +kernel
theorem dX1_does_307 : decode cX1_does 307 = .ok (.ifCond .eq 8, 3) := by decide +kernel
theorem dX1_does_310 : decode cX1_does 310 = .ok (.ldc 185, 2) := by decide +kernel
theorem dX1_does_312 : decode cX1_does 312 = .ok (.goto 5, 3) := by decide +kernel
theorem dX1_does_315 : decode cX1_does 315 = .ok (.ldc 187, 2) := by decide +kernel
theorem dX1_does_317 : decode cX1_does 317 = .ok (.invokevirtual 189, 3) := by decide +kernel
theorem dX1_does_320 : decode cX1_does 320 = .ok (.aload_n 0, 1) := by decide +kernel
theorem dX1_does_321 : decode cX1_does 321 = .ok (.getfield 29, 3) := by decide +kernel
theorem dX1_does_324 : decode cX1_does 324 = .ok (.bipush 10, 2) := by decide +kernel
theorem dX1_does_326 : decode cX1_does 326 = .ok (.invokevirtual 150, 3) := by decide +kernel
theorem dX1_does_329 : decode cX1_does 329 = .ok (.return_, 1) := by decide +kernel
abbrev cX1_table : ByteArray := prog_1_method_10_code
def yX1_table : MethodName := ⟨RX1, "table", "(LPureHouse$Statement;)V"⟩
theorem dX1_table_0 : decode cX1_table 0 = .ok (.aload_n 0, 1) := by decide +kernel
theorem dX1_table_1 : decode cX1_table 1 = .ok (.getfield 38, 3) := by decide +kernel
theorem dX1_table_4 : decode cX1_table 4 = .ok (.getfield 206, 3) := by decide +kernel
theorem dX1_table_7 : decode cX1_table 7 = .ok (.invokevirtual 87, 3) := by decide +kernel
theorem dX1_table_10 : decode cX1_table 10 = .ok (.ifCond .le 17, 3) := by decide +kernel
theorem dX1_table_13 : decode cX1_table 13 = .ok (.new 109, 3) := by decide +kernel
theorem dX1_table_16 : decode cX1_table 16 = .ok (.dup, 1) := by decide +kernel
theorem dX1_table_17 : decode cX1_table 17 = .ok (.bipush 6, 2) := by decide +kernel
theorem dX1_table_19 : decode cX1_table 19 = .ok (.aload_n 1, 1) := by decide +kernel
theorem dX1_table_20 : decode cX1_table 20 = .ok (.getfield 99, 3) := by decide +kernel
theorem dX1_table_23 : decode cX1_table 23 = .ok (.invokespecial 203, 3) := by decide +kernel
theorem dX1_table_26 : decode cX1_table 26 = .ok (.athrow, 1) := by decide +kernel
theorem dX1_table_27 : decode cX1_table 27 = .ok (.aload_n 1, 1) := by decide +kernel
theorem dX1_table_28 : decode cX1_table 28 = .ok (.getfield 117, 3) := by decide +kernel
theorem dX1_table_31 : decode cX1_table 31 = .ok (.getstatic 210, 3) := by decide +kernel
theorem dX1_table_34 : decode cX1_table 34 = .ok (.if_acmp .ne 76, 3) := by decide +kernel
theorem dX1_table_37 : decode cX1_table 37 = .ok (.aload_n 0, 1) := by decide +kernel
theorem dX1_table_38 : decode cX1_table 38 = .ok (.getfield 20, 3) := by decide +kernel
theorem dX1_table_41 : decode cX1_table 41 = .ok (.aload_n 1, 1) := by decide +kernel
theorem dX1_table_42 : decode cX1_table 42 = .ok (.getfield 192, 3) := by decide +kernel
theorem dX1_table_45 : decode cX1_table 45 = .ok (.iconst 0, 1) := by decide +kernel
theorem dX1_table_46 : decode cX1_table 46 = .ok (.aaload, 1) := by decide +kernel
theorem dX1_table_47 : decode cX1_table 47 = .ok (.invokevirtual 196, 3) := by decide +kernel
theorem dX1_table_50 : decode cX1_table 50 = .ok (.iconst (-1), 1) := by decide +kernel
theorem dX1_table_51 : decode cX1_table 51 = .ok (.if_icmp .eq 18, 3) := by decide +kernel
theorem dX1_table_54 : decode cX1_table 54 = .ok (.new 109, 3) := by decide +kernel
theorem dX1_table_57 : decode cX1_table 57 = .ok (.dup, 1) := by decide +kernel
theorem dX1_table_58 : decode cX1_table 58 = .ok (.iconst 4, 1) := by decide +kernel
theorem dX1_table_59 : decode cX1_table 59 = .ok (.aload_n 1, 1) := by decide +kernel
theorem dX1_table_60 : decode cX1_table 60 = .ok (.getfield 200, 3) := by decide +kernel
theorem dX1_table_63 : decode cX1_table 63 = .ok (.iconst 0, 1) := by decide +kernel
theorem dX1_table_64 : decode cX1_table 64 = .ok (.iaload, 1) := by decide +kernel
theorem dX1_table_65 : decode cX1_table 65 = .ok (.invokespecial 203, 3) := by decide +kernel
theorem dX1_table_68 : decode cX1_table 68 = .ok (.athrow, 1) := by decide +kernel
theorem dX1_table_69 : decode cX1_table 69 = .ok (.aload_n 0, 1) := by decide +kernel
theorem dX1_table_70 : decode cX1_table 70 = .ok (.getfield 20, 3) := by decide +kernel
theorem dX1_table_73 : decode cX1_table 73 = .ok (.getfield 213, 3) := by decide +kernel
theorem dX1_table_76 : decode cX1_table 76 = .ok (.bipush 8, 2) := by decide +kernel
theorem dX1_table_78 : decode cX1_table 78 = .ok (.if_icmp .ne 18, 3) := by decide +kernel
theorem dX1_table_81 : decode cX1_table 81 = .ok (.new 109, 3) := by decide +kernel
theorem dX1_table_84 : decode cX1_table 84 = .ok (.dup, 1) := by decide +kernel
theorem dX1_table_85 : decode cX1_table 85 = .ok (.iconst 5, 1) := by decide +kernel
theorem dX1_table_86 : decode cX1_table 86 = .ok (.aload_n 1, 1) := by decide +kernel
theorem dX1_table_87 : decode cX1_table 87 = .ok (.getfield 200, 3) := by decide +kernel
theorem dX1_table_90 : decode cX1_table 90 = .ok (.iconst 0, 1) := by decide +kernel
theorem dX1_table_91 : decode cX1_table 91 = .ok (.iaload, 1) := by decide +kernel
theorem dX1_table_92 : decode cX1_table 92 = .ok (.invokespecial 203, 3) := by decide +kernel
theorem dX1_table_95 : decode cX1_table 95 = .ok (.athrow, 1) := by decide +kernel
theorem dX1_table_96 : decode cX1_table 96 = .ok (.aload_n 0, 1) := by decide +kernel
theorem dX1_table_97 : decode cX1_table 97 = .ok (.getfield 20, 3) := by decide +kernel
theorem dX1_table_100 : decode cX1_table 100 = .ok (.aload_n 1, 1) := by decide +kernel
theorem dX1_table_101 : decode cX1_table 101 = .ok (.getfield 192, 3) := by decide +kernel
theorem dX1_table_104 : decode cX1_table 104 = .ok (.iconst 0, 1) := by decide +kernel
theorem dX1_table_105 : decode cX1_table 105 = .ok (.aaload, 1) := by decide +kernel
theorem dX1_table_106 : decode cX1_table 106 = .ok (.invokevirtual 216, 3) := by decide +kernel
theorem dX1_table_109 : decode cX1_table 109 = .ok (.return_, 1) := by decide +kernel
theorem dX1_table_110 : decode cX1_table 110 = .ok (.aload_n 0, 1) := by decide +kernel
theorem dX1_table_111 : decode cX1_table 111 = .ok (.aload_n 1, 1) := by decide +kernel
theorem dX1_table_112 : decode cX1_table 112 = .ok (.iconst 0, 1) := by decide +kernel
theorem dX1_table_113 : decode cX1_table 113 = .ok (.invokevirtual 219, 3) := by decide +kernel
theorem dX1_table_116 : decode cX1_table 116 = .ok (.istore_n 2, 1) := by decide +kernel
theorem dX1_table_117 : decode cX1_table 117 = .ok (.aload_n 0, 1) := by decide +kernel
theorem dX1_table_118 : decode cX1_table 118 = .ok (.aload_n 1, 1) := by decide +kernel
theorem dX1_table_119 : decode cX1_table 119 = .ok (.iconst 1, 1) := by decide +kernel
theorem dX1_table_120 : decode cX1_table 120 = .ok (.invokevirtual 219, 3) := by decide +kernel
theorem dX1_table_123 : decode cX1_table 123 = .ok (.istore_n 3, 1) := by decide +kernel
theorem dX1_table_124 : decode cX1_table 124 = .ok (.aload_n 1, 1) := by decide +kernel
theorem dX1_table_125 : decode cX1_table 125 = .ok (.getfield 117, 3) := by decide +kernel
theorem dX1_table_128 : decode cX1_table 128 = .ok (.getstatic 223, 3) := by decide +kernel
theorem dX1_table_131 : decode cX1_table 131 = .ok (.if_acmp .ne 42, 3) := by decide +kernel
theorem dX1_table_134 : decode cX1_table 134 = .ok (.aload_n 0, 1) := by decide +kernel
theorem dX1_table_135 : decode cX1_table 135 = .ok (.getfield 20, 3) := by decide +kernel
theorem dX1_table_138 : decode cX1_table 138 = .ok (.getfield 226, 3) := by decide +kernel
theorem dX1_table_141 : decode cX1_table 141 = .ok (.iload_n 2, 1) := by decide +kernel
theorem dX1_table_142 : decode cX1_table 142 = .ok (.iaload, 1) := by decide +kernel
theorem dX1_table_143 : decode cX1_table 143 = .ok (.iconst (-1), 1) := by decide +kernel
theorem dX1_table_144 : decode cX1_table 144 = .ok (.if_icmp .eq 18, 3) := by decide +kernel
theorem dX1_table_147 : decode cX1_table 147 = .ok (.new 109, 3) := by decide +kernel
theorem dX1_table_150 : decode cX1_table 150 = .ok (.dup, 1) := by decide +kernel
theorem dX1_table_151 : decode cX1_table 151 = .ok (.iconst 4, 1) := by decide +kernel
theorem dX1_table_152 : decode cX1_table 152 = .ok (.aload_n 1, 1) := by decide +kernel
theorem dX1_table_153 : decode cX1_table 153 = .ok (.getfield 200, 3) := by decide +kernel
theorem dX1_table_156 : decode cX1_table 156 = .ok (.iconst 0, 1) := by decide +kernel
theorem dX1_table_157 : decode cX1_table 157 = .ok (.iaload, 1) := by decide +kernel
theorem dX1_table_158 : decode cX1_table 158 = .ok (.invokespecial 203, 3) := by decide +kernel
theorem dX1_table_161 : decode cX1_table 161 = .ok (.athrow, 1) := by decide +kernel
theorem dX1_table_162 : decode cX1_table 162 = .ok (.aload_n 0, 1) := by decide +kernel
theorem dX1_table_163 : decode cX1_table 163 = .ok (.getfield 20, 3) := by decide +kernel
theorem dX1_table_166 : decode cX1_table 166 = .ok (.getfield 226, 3) := by decide +kernel
theorem dX1_table_169 : decode cX1_table 169 = .ok (.iload_n 2, 1) := by decide +kernel
theorem dX1_table_170 : decode cX1_table 170 = .ok (.iload_n 3, 1) := by decide +kernel
theorem dX1_table_171 : decode cX1_table 171 = .ok (.iastore, 1) := by decide +kernel
theorem dX1_table_172 : decode cX1_table 172 = .ok (.return_, 1) := by decide +kernel
theorem dX1_table_173 : decode cX1_table 173 = .ok (.aload_n 0, 1) := by decide +kernel
theorem dX1_table_174 : decode cX1_table 174 = .ok (.aload_n 1, 1) := by decide +kernel
theorem dX1_table_175 : decode cX1_table 175 = .ok (.iconst 2, 1) := by decide +kernel
theorem dX1_table_176 : decode cX1_table 176 = .ok (.invokevirtual 219, 3) := by decide +kernel
theorem dX1_table_179 : decode cX1_table 179 = .ok (.istore 4, 2) := by decide +kernel
theorem dX1_table_181 : decode cX1_table 181 = .ok (.aload_n 0, 1) := by decide +kernel
theorem dX1_table_182 : decode cX1_table 182 = .ok (.getfield 20, 3) := by decide +kernel
theorem dX1_table_185 : decode cX1_table 185 = .ok (.iload_n 2, 1) := by decide +kernel
theorem dX1_table_186 : decode cX1_table 186 = .ok (.iload_n 3, 1) := by decide +kernel
theorem dX1_table_187 : decode cX1_table 187 = .ok (.invokevirtual 229, 3) := by decide +kernel
theorem dX1_table_190 : decode cX1_table 190 = .ok (.iconst (-1), 1) := by decide +kernel
theorem dX1_table_191 : decode cX1_table 191 = .ok (.if_icmp .eq 18, 3) := by decide +kernel
theorem dX1_table_194 : decode cX1_table 194 = .ok (.new 109, 3) := by decide +kernel
theorem dX1_table_197 : decode cX1_table 197 = .ok (.dup, 1) := by decide +kernel
theorem dX1_table_198 : decode cX1_table 198 = .ok (.iconst 4, 1) := by decide +kernel
theorem dX1_table_199 : decode cX1_table 199 = .ok (.aload_n 1, 1) := by decide +kernel
theorem dX1_table_200 : decode cX1_table 200 = .ok (.getfield 200, 3) := by decide +kernel
theorem dX1_table_203 : decode cX1_table 203 = .ok (.iconst 0, 1) := by decide +kernel
theorem dX1_table_204 : decode cX1_table 204 = .ok (.iaload, 1) := by decide +kernel
theorem dX1_table_205 : decode cX1_table 205 = .ok (.invokespecial 203, 3) := by decide +kernel
theorem dX1_table_208 : decode cX1_table 208 = .ok (.athrow, 1) := by decide +kernel
theorem dX1_table_209 : decode cX1_table 209 = .ok (.aload_n 0, 1) := by decide +kernel
theorem dX1_table_210 : decode cX1_table 210 = .ok (.getfield 20, 3) := by decide +kernel
theorem dX1_table_213 : decode cX1_table 213 = .ok (.getfield 233, 3) := by decide +kernel
theorem dX1_table_216 : decode cX1_table 216 = .ok (.bipush 8, 2) := by decide +kernel
theorem dX1_table_218 : decode cX1_table 218 = .ok (.iload_n 2, 1) := by decide +kernel
theorem dX1_table_219 : decode cX1_table 219 = .ok (.imul, 1) := by decide +kernel
theorem dX1_table_220 : decode cX1_table 220 = .ok (.iload_n 3, 1) := by decide +kernel
theorem dX1_table_221 : decode cX1_table 221 = .ok (.iadd, 1) := by decide +kernel
theorem dX1_table_222 : decode cX1_table 222 = .ok (.iload 4, 2) := by decide +kernel
theorem dX1_table_224 : decode cX1_table 224 = .ok (.iastore, 1) := by decide +kernel
theorem dX1_table_225 : decode cX1_table 225 = .ok (.return_, 1) := by decide +kernel
abbrev cX1_sortAt : ByteArray := prog_1_method_9_code
def yX1_sortAt : MethodName := ⟨RX1, "sortAt", "(LPureHouse$Statement;I)I"⟩
theorem dX1_sortAt_0 : decode cX1_sortAt 0 = .ok (.aload_n 0, 1) := by decide +kernel
theorem dX1_sortAt_1 : decode cX1_sortAt 1 = .ok (.getfield 20, 3) := by decide +kernel
theorem dX1_sortAt_4 : decode cX1_sortAt 4 = .ok (.aload_n 1, 1) := by decide +kernel
theorem dX1_sortAt_5 : decode cX1_sortAt 5 = .ok (.getfield 192, 3) := by decide +kernel
theorem dX1_sortAt_8 : decode cX1_sortAt 8 = .ok (.iload_n 2, 1) := by decide +kernel
theorem dX1_sortAt_9 : decode cX1_sortAt 9 = .ok (.aaload, 1) := by decide +kernel
theorem dX1_sortAt_10 : decode cX1_sortAt 10 = .ok (.invokevirtual 196, 3) := by decide +kernel
theorem dX1_sortAt_13 : decode cX1_sortAt 13 = .ok (.istore_n 3, 1) := by decide +kernel
theorem dX1_sortAt_14 : decode cX1_sortAt 14 = .ok (.iload_n 3, 1) := by decide +kernel
theorem dX1_sortAt_15 : decode cX1_sortAt 15 = .ok (.iconst (-1), 1) := by decide +kernel
theorem dX1_sortAt_16 : decode cX1_sortAt 16 = .ok (.if_icmp .ne 18, 3) := by decide +kernel
theorem dX1_sortAt_19 : decode cX1_sortAt 19 = .ok (.new 109, 3) := by decide +kernel
theorem dX1_sortAt_22 : decode cX1_sortAt 22 = .ok (.dup, 1) := by decide +kernel
theorem dX1_sortAt_23 : decode cX1_sortAt 23 = .ok (.iconst 3, 1) := by decide +kernel
theorem dX1_sortAt_24 : decode cX1_sortAt 24 = .ok (.aload_n 1, 1) := by decide +kernel
theorem dX1_sortAt_25 : decode cX1_sortAt 25 = .ok (.getfield 200, 3) := by decide +kernel
theorem dX1_sortAt_28 : decode cX1_sortAt 28 = .ok (.iload_n 2, 1) := by decide +kernel
theorem dX1_sortAt_29 : decode cX1_sortAt 29 = .ok (.iaload, 1) := by decide +kernel
theorem dX1_sortAt_30 : decode cX1_sortAt 30 = .ok (.invokespecial 203, 3) := by decide +kernel
theorem dX1_sortAt_33 : decode cX1_sortAt 33 = .ok (.athrow, 1) := by decide +kernel
theorem dX1_sortAt_34 : decode cX1_sortAt 34 = .ok (.iload_n 3, 1) := by decide +kernel
theorem dX1_sortAt_35 : decode cX1_sortAt 35 = .ok (.ireturn, 1) := by decide +kernel
abbrev cX1_tells : ByteArray := prog_1_method_11_code
def yX1_tells : MethodName := ⟨RX1, "tells", "(LPureHouse$Statement;)V"⟩
theorem dX1_tells_0 : decode cX1_tells 0 = .ok (.aload_n 0, 1) := by decide +kernel
theorem dX1_tells_1 : decode cX1_tells 1 = .ok (.getfield 38, 3) := by decide +kernel
theorem dX1_tells_4 : decode cX1_tells 4 = .ok (.aload_n 1, 1) := by decide +kernel
theorem dX1_tells_5 : decode cX1_tells 5 = .ok (.getfield 192, 3) := by decide +kernel
theorem dX1_tells_8 : decode cX1_tells 8 = .ok (.iconst 0, 1) := by decide +kernel
theorem dX1_tells_9 : decode cX1_tells 9 = .ok (.aaload, 1) := by decide +kernel
theorem dX1_tells_10 : decode cX1_tells 10 = .ok (.invokevirtual 236, 3) := by decide +kernel
theorem dX1_tells_13 : decode cX1_tells 13 = .ok (.ifnonnull 20, 3) := by decide +kernel
theorem dX1_tells_16 : decode cX1_tells 16 = .ok (.aload_n 0, 1) := by decide +kernel
theorem dX1_tells_17 : decode cX1_tells 17 = .ok (.getfield 20, 3) := by decide +kernel
theorem dX1_tells_20 : decode cX1_tells 20 = .ok (.aload_n 1, 1) := by decide +kernel
theorem dX1_tells_21 : decode cX1_tells 21 = .ok (.getfield 192, 3) := by decide +kernel
theorem dX1_tells_24 : decode cX1_tells 24 = .ok (.iconst 0, 1) := by decide +kernel
theorem dX1_tells_25 : decode cX1_tells 25 = .ok (.aaload, 1) := by decide +kernel
theorem dX1_tells_26 : decode cX1_tells 26 = .ok (.invokevirtual 196, 3) := by decide +kernel
theorem dX1_tells_29 : decode cX1_tells 29 = .ok (.iconst (-1), 1) := by decide +kernel
theorem dX1_tells_30 : decode cX1_tells 30 = .ok (.if_icmp .eq 18, 3) := by decide +kernel
theorem dX1_tells_33 : decode cX1_tells 33 = .ok (.new 109, 3) := by decide +kernel
theorem dX1_tells_36 : decode cX1_tells 36 = .ok (.dup, 1) := by decide +kernel
theorem dX1_tells_37 : decode cX1_tells 37 = .ok (.iconst 4, 1) := by decide +kernel
theorem dX1_tells_38 : decode cX1_tells 38 = .ok (.aload_n 1, 1) := by decide +kernel
theorem dX1_tells_39 : decode cX1_tells 39 = .ok (.getfield 200, 3) := by decide +kernel
theorem dX1_tells_42 : decode cX1_tells 42 = .ok (.iconst 0, 1) := by decide +kernel
theorem dX1_tells_43 : decode cX1_tells 43 = .ok (.iaload, 1) := by decide +kernel
theorem dX1_tells_44 : decode cX1_tells 44 = .ok (.invokespecial 203, 3) := by decide +kernel
theorem dX1_tells_47 : decode cX1_tells 47 = .ok (.athrow, 1) := by decide +kernel
theorem dX1_tells_48 : decode cX1_tells 48 = .ok (.aload_n 0, 1) := by decide +kernel
theorem dX1_tells_49 : decode cX1_tells 49 = .ok (.getfield 38, 3) := by decide +kernel
theorem dX1_tells_52 : decode cX1_tells 52 = .ok (.getfield 206, 3) := by decide +kernel
theorem dX1_tells_55 : decode cX1_tells 55 = .ok (.invokevirtual 87, 3) := by decide +kernel
theorem dX1_tells_58 : decode cX1_tells 58 = .ok (.bipush 100, 2) := by decide +kernel
theorem dX1_tells_60 : decode cX1_tells 60 = .ok (.if_icmp .ne 18, 3) := by decide +kernel
theorem dX1_tells_63 : decode cX1_tells 63 = .ok (.new 109, 3) := by decide +kernel
theorem dX1_tells_66 : decode cX1_tells 66 = .ok (.dup, 1) := by decide +kernel
theorem dX1_tells_67 : decode cX1_tells 67 = .ok (.iconst 5, 1) := by decide +kernel
theorem dX1_tells_68 : decode cX1_tells 68 = .ok (.aload_n 1, 1) := by decide +kernel
theorem dX1_tells_69 : decode cX1_tells 69 = .ok (.getfield 200, 3) := by decide +kernel
theorem dX1_tells_72 : decode cX1_tells 72 = .ok (.iconst 0, 1) := by decide +kernel
theorem dX1_tells_73 : decode cX1_tells 73 = .ok (.iaload, 1) := by decide +kernel
theorem dX1_tells_74 : decode cX1_tells 74 = .ok (.invokespecial 203, 3) := by decide +kernel
theorem dX1_tells_77 : decode cX1_tells 77 = .ok (.athrow, 1) := by decide +kernel
theorem dX1_tells_78 : decode cX1_tells 78 = .ok (.aload_n 1, 1) := by decide +kernel
theorem dX1_tells_79 : decode cX1_tells 79 = .ok (.getfield 178, 3) := by decide +kernel
theorem dX1_tells_82 : decode cX1_tells 82 = .ok (.ifnull 62, 3) := by decide +kernel
theorem dX1_tells_85 : decode cX1_tells 85 = .ok (.aload_n 0, 1) := by decide +kernel
theorem dX1_tells_86 : decode cX1_tells 86 = .ok (.getfield 38, 3) := by decide +kernel
theorem dX1_tells_89 : decode cX1_tells 89 = .ok (.aload_n 1, 1) := by decide +kernel
theorem dX1_tells_90 : decode cX1_tells 90 = .ok (.getfield 178, 3) := by decide +kernel
theorem dX1_tells_93 : decode cX1_tells 93 = .ok (.aconst_null, 1) := by decide +kernel
theorem dX1_tells_94 : decode cX1_tells 94 = .ok (.invokevirtual 239, 3) := by decide +kernel
theorem dX1_tells_97 : decode cX1_tells 97 = .ok (.istore_n 3, 1) := by decide +kernel
theorem dX1_tells_98 : decode cX1_tells 98 = .ok (.new 243, 3) := by decide +kernel
theorem dX1_tells_101 : decode cX1_tells 101 = .ok (.dup, 1) := by decide +kernel
theorem dX1_tells_102 : decode cX1_tells 102 = .ok (.aload_n 1, 1) := by decide +kernel
theorem dX1_tells_103 : decode cX1_tells 103 = .ok (.getfield 192, 3) := by decide +kernel
theorem dX1_tells_106 : decode cX1_tells 106 = .ok (.iconst 0, 1) := by decide +kernel
theorem dX1_tells_107 : decode cX1_tells 107 = .ok (.aaload, 1) := by decide +kernel
theorem dX1_tells_108 : decode cX1_tells 108 = .ok (.aload_n 0, 1) := by decide +kernel
theorem dX1_tells_109 : decode cX1_tells 109 = .ok (.getfield 38, 3) := by decide +kernel
theorem dX1_tells_112 : decode cX1_tells 112 = .ok (.aload_n 1, 1) := by decide +kernel
theorem dX1_tells_113 : decode cX1_tells 113 = .ok (.getfield 178, 3) := by decide +kernel
theorem dX1_tells_116 : decode cX1_tells 116 = .ok (.aconst_null, 1) := by decide +kernel
theorem dX1_tells_117 : decode cX1_tells 117 = .ok (.invokevirtual 245, 3) := by decide +kernel
theorem dX1_tells_120 : decode cX1_tells 120 = .ok (.iload_n 3, 1) := by decide +kernel
theorem dX1_tells_121 : decode cX1_tells 121 = .ok (.invokespecial 249, 3) := by decide +kernel
theorem dX1_tells_124 : decode cX1_tells 124 = .ok (.astore_n 2, 1) := by decide +kernel
theorem dX1_tells_125 : decode cX1_tells 125 = .ok (.aload_n 1, 1) := by decide +kernel
theorem dX1_tells_126 : decode cX1_tells 126 = .ok (.getfield 134, 3) := by decide +kernel
theorem dX1_tells_129 : decode cX1_tells 129 = .ok (.ifnull 12, 3) := by decide +kernel
theorem dX1_tells_132 : decode cX1_tells 132 = .ok (.aload_n 0, 1) := by decide +kernel
theorem dX1_tells_133 : decode cX1_tells 133 = .ok (.aload_n 1, 1) := by decide +kernel
theorem dX1_tells_134 : decode cX1_tells 134 = .ok (.aload_n 2, 1) := by decide +kernel
theorem dX1_tells_135 : decode cX1_tells 135 = .ok (.getfield 252, 3) := by decide +kernel
theorem dX1_tells_138 : decode cX1_tells 138 = .ok (.invokevirtual 253, 3) := by decide +kernel
theorem dX1_tells_141 : decode cX1_tells 141 = .ok (.goto 43, 3) := by decide +kernel
theorem dX1_tells_144 : decode cX1_tells 144 = .ok (.aload_n 0, 1) := by decide +kernel
theorem dX1_tells_145 : decode cX1_tells 145 = .ok (.getfield 38, 3) := by decide +kernel
theorem dX1_tells_148 : decode cX1_tells 148 = .ok (.aload_n 1, 1) := by decide +kernel
theorem dX1_tells_149 : decode cX1_tells 149 = .ok (.getfield 134, 3) := by decide +kernel
theorem dX1_tells_152 : decode cX1_tells 152 = .ok (.aconst_null, 1) := by decide +kernel
theorem dX1_tells_153 : decode cX1_tells 153 = .ok (.invokevirtual 138, 3) := by decide +kernel
theorem dX1_tells_156 : decode cX1_tells 156 = .ok (.new 243, 3) := by decide +kernel
theorem dX1_tells_159 : decode cX1_tells 159 = .ok (.dup, 1) := by decide +kernel
theorem dX1_tells_160 : decode cX1_tells 160 = .ok (.aload_n 1, 1) := by decide +kernel
theorem dX1_tells_161 : decode cX1_tells 161 = .ok (.getfield 192, 3) := by decide +kernel
theorem dX1_tells_164 : decode cX1_tells 164 = .ok (.iconst 0, 1) := by decide +kernel
theorem dX1_tells_165 : decode cX1_tells 165 = .ok (.aaload, 1) := by decide +kernel
theorem dX1_tells_166 : decode cX1_tells 166 = .ok (.aload_n 0, 1) := by decide +kernel
theorem dX1_tells_167 : decode cX1_tells 167 = .ok (.getfield 38, 3) := by decide +kernel
theorem dX1_tells_170 : decode cX1_tells 170 = .ok (.getfield 257, 3) := by decide +kernel
theorem dX1_tells_173 : decode cX1_tells 173 = .ok (.aload_n 0, 1) := by decide +kernel
theorem dX1_tells_174 : decode cX1_tells 174 = .ok (.getfield 38, 3) := by decide +kernel
theorem dX1_tells_177 : decode cX1_tells 177 = .ok (.getfield 258, 3) := by decide +kernel
theorem dX1_tells_180 : decode cX1_tells 180 = .ok (.invokespecial 249, 3) := by decide +kernel
theorem dX1_tells_183 : decode cX1_tells 183 = .ok (.astore_n 2, 1) := by decide +kernel
theorem dX1_tells_184 : decode cX1_tells 184 = .ok (.aload_n 2, 1) := by decide +kernel
theorem dX1_tells_185 : decode cX1_tells 185 = .ok (.aload_n 1, 1) := by decide +kernel
theorem dX1_tells_186 : decode cX1_tells 186 = .ok (.getfield 134, 3) := by decide +kernel
theorem dX1_tells_189 : decode cX1_tells 189 = .ok (.putfield 261, 3) := by decide +kernel
theorem dX1_tells_192 : decode cX1_tells 192 = .ok (.aload_n 0, 1) := by decide +kernel
theorem dX1_tells_193 : decode cX1_tells 193 = .ok (.getfield 38, 3) := by decide +kernel
theorem dX1_tells_196 : decode cX1_tells 196 = .ok (.getfield 206, 3) := by decide +kernel
theorem dX1_tells_199 : decode cX1_tells 199 = .ok (.aload_n 2, 1) := by decide +kernel
theorem dX1_tells_200 : decode cX1_tells 200 = .ok (.invokevirtual 264, 3) := by decide +kernel
theorem dX1_tells_203 : decode cX1_tells 203 = .ok (.pop, 1) := by decide +kernel
theorem dX1_tells_204 : decode cX1_tells 204 = .ok (.return_, 1) := by decide +kernel
abbrev cX1_fits : ByteArray := prog_1_method_12_code
def yX1_fits : MethodName := ⟨RX1, "fits", "(LPureHouse$Statement;LPureHouse$Term;)V"⟩
theorem dX1_fits_0 : decode cX1_fits 0 = .ok (.aload_n 0, 1) := by decide +kernel
theorem dX1_fits_1 : decode cX1_fits 1 = .ok (.getfield 38, 3) := by decide +kernel
theorem dX1_fits_4 : decode cX1_fits 4 = .ok (.aload_n 1, 1) := by decide +kernel
theorem dX1_fits_5 : decode cX1_fits 5 = .ok (.getfield 134, 3) := by decide +kernel
theorem dX1_fits_8 : decode cX1_fits 8 = .ok (.aconst_null, 1) := by decide +kernel
theorem dX1_fits_9 : decode cX1_fits 9 = .ok (.invokevirtual 138, 3) := by decide +kernel
theorem dX1_fits_12 : decode cX1_fits 12 = .ok (.aload_n 0, 1) := by decide +kernel
theorem dX1_fits_13 : decode cX1_fits 13 = .ok (.getfield 29, 3) := by decide +kernel
theorem dX1_fits_16 : decode cX1_fits 16 = .ok (.new 141, 3) := by decide +kernel
theorem dX1_fits_19 : decode cX1_fits 19 = .ok (.dup, 1) := by decide +kernel
theorem dX1_fits_20 : decode cX1_fits 20 = .ok (.aload_n 2, 1) := by decide +kernel
theorem dX1_fits_21 : decode cX1_fits 21 = .ok (.aconst_null, 1) := by decide +kernel
theorem dX1_fits_22 : decode cX1_fits 22 = .ok (.invokespecial 143, 3) := by decide +kernel
theorem dX1_fits_25 : decode cX1_fits 25 = .ok (.aload_n 0, 1) := by decide +kernel
theorem dX1_fits_26 : decode cX1_fits 26 = .ok (.getfield 38, 3) := by decide +kernel
theorem dX1_fits_29 : decode cX1_fits 29 = .ok (.invokevirtual 267, 3) := by decide +kernel
theorem dX1_fits_32 : decode cX1_fits 32 = .ok (.invokevirtual 181, 3) := by decide +kernel
theorem dX1_fits_35 : decode cX1_fits 35 = .ok (.ifCond .ne 20, 3) := by decide +kernel
theorem dX1_fits_38 : decode cX1_fits 38 = .ok (.new 109, 3) := by decide +kernel
theorem dX1_fits_41 : decode cX1_fits 41 = .ok (.dup, 1) := by decide +kernel
theorem dX1_fits_42 : decode cX1_fits 42 = .ok (.bipush 11, 2) := by decide +kernel
theorem dX1_fits_44 : decode cX1_fits 44 = .ok (.aload_n 1, 1) := by decide +kernel
theorem dX1_fits_45 : decode cX1_fits 45 = .ok (.getfield 134, 3) := by decide +kernel
theorem dX1_fits_48 : decode cX1_fits 48 = .ok (.getfield 271, 3) := by decide +kernel
theorem dX1_fits_51 : decode cX1_fits 51 = .ok (.invokespecial 203, 3) := by decide +kernel
theorem dX1_fits_54 : decode cX1_fits 54 = .ok (.athrow, 1) := by decide +kernel
theorem dX1_fits_55 : decode cX1_fits 55 = .ok (.return_, 1) := by decide +kernel
abbrev cX1_checks : ByteArray := prog_1_method_13_code
def yX1_checks : MethodName := ⟨RX1, "checks", "(LPureHouse$Statement;)V"⟩
theorem dX1_checks_0 : decode cX1_checks 0 = .ok (.aload_n 1, 1) := by decide +kernel
theorem dX1_checks_1 : decode cX1_checks 1 = .ok (.getfield 178, 3) := by decide +kernel
theorem dX1_checks_4 : decode cX1_checks 4 = .ok (.ifnonnull 35, 3) := by decide +kernel
theorem dX1_checks_7 : decode cX1_checks 7 = .ok (.aload_n 0, 1) := by decide +kernel
theorem dX1_checks_8 : decode cX1_checks 8 = .ok (.getfield 38, 3) := by decide +kernel
theorem dX1_checks_11 : decode cX1_checks 11 = .ok (.aload_n 1, 1) := by decide +kernel
theorem dX1_checks_12 : decode cX1_checks 12 = .ok (.getfield 134, 3) := by decide +kernel
theorem dX1_checks_15 : decode cX1_checks 15 = .ok (.aconst_null, 1) := by decide +kernel
theorem dX1_checks_16 : decode cX1_checks 16 = .ok (.invokevirtual 138, 3) := by decide +kernel
theorem dX1_checks_19 : decode cX1_checks 19 = .ok (.aload_n 0, 1) := by decide +kernel
theorem dX1_checks_20 : decode cX1_checks 20 = .ok (.getfield 29, 3) := by decide +kernel
theorem dX1_checks_23 : decode cX1_checks 23 = .ok (.aload_n 0, 1) := by decide +kernel
theorem dX1_checks_24 : decode cX1_checks 24 = .ok (.getfield 38, 3) := by decide +kernel
theorem dX1_checks_27 : decode cX1_checks 27 = .ok (.invokevirtual 267, 3) := by decide +kernel
theorem dX1_checks_30 : decode cX1_checks 30 = .ok (.iconst 0, 1) := by decide +kernel
theorem dX1_checks_31 : decode cX1_checks 31 = .ok (.iconst 0, 1) := by decide +kernel
theorem dX1_checks_32 : decode cX1_checks 32 = .ok (.iconst 0, 1) := by decide +kernel
theorem dX1_checks_33 : decode cX1_checks 33 = .ok (.invokevirtual 146, 3) := by decide +kernel
theorem dX1_checks_36 : decode cX1_checks 36 = .ok (.goto 42, 3) := by decide +kernel
theorem dX1_checks_39 : decode cX1_checks 39 = .ok (.aload_n 0, 1) := by decide +kernel
theorem dX1_checks_40 : decode cX1_checks 40 = .ok (.getfield 38, 3) := by decide +kernel
theorem dX1_checks_43 : decode cX1_checks 43 = .ok (.aload_n 1, 1) := by decide +kernel
theorem dX1_checks_44 : decode cX1_checks 44 = .ok (.getfield 178, 3) := by decide +kernel
theorem dX1_checks_47 : decode cX1_checks 47 = .ok (.aconst_null, 1) := by decide +kernel
theorem dX1_checks_48 : decode cX1_checks 48 = .ok (.invokevirtual 239, 3) := by decide +kernel
theorem dX1_checks_51 : decode cX1_checks 51 = .ok (.pop, 1) := by decide +kernel
theorem dX1_checks_52 : decode cX1_checks 52 = .ok (.aload_n 0, 1) := by decide +kernel
theorem dX1_checks_53 : decode cX1_checks 53 = .ok (.aload_n 1, 1) := by decide +kernel
theorem dX1_checks_54 : decode cX1_checks 54 = .ok (.aload_n 0, 1) := by decide +kernel
theorem dX1_checks_55 : decode cX1_checks 55 = .ok (.getfield 38, 3) := by decide +kernel
theorem dX1_checks_58 : decode cX1_checks 58 = .ok (.aload_n 1, 1) := by decide +kernel
theorem dX1_checks_59 : decode cX1_checks 59 = .ok (.getfield 178, 3) := by decide +kernel
theorem dX1_checks_62 : decode cX1_checks 62 = .ok (.aconst_null, 1) := by decide +kernel
theorem dX1_checks_63 : decode cX1_checks 63 = .ok (.invokevirtual 245, 3) := by decide +kernel
theorem dX1_checks_66 : decode cX1_checks 66 = .ok (.invokevirtual 253, 3) := by decide +kernel
theorem dX1_checks_69 : decode cX1_checks 69 = .ok (.aload_n 0, 1) := by decide +kernel
theorem dX1_checks_70 : decode cX1_checks 70 = .ok (.getfield 29, 3) := by decide +kernel
theorem dX1_checks_73 : decode cX1_checks 73 = .ok (.ldc 185, 2) := by decide +kernel
theorem dX1_checks_75 : decode cX1_checks 75 = .ok (.invokevirtual 189, 3) := by decide +kernel
theorem dX1_checks_78 : decode cX1_checks 78 = .ok (.aload_n 0, 1) := by decide +kernel
theorem dX1_checks_79 : decode cX1_checks 79 = .ok (.getfield 29, 3) := by decide +kernel
theorem dX1_checks_82 : decode cX1_checks 82 = .ok (.bipush 10, 2) := by decide +kernel
theorem dX1_checks_84 : decode cX1_checks 84 = .ok (.invokevirtual 150, 3) := by decide +kernel
theorem dX1_checks_87 : decode cX1_checks 87 = .ok (.return_, 1) := by decide +kernel
abbrev cX1_fault : ByteArray := prog_1_method_14_code
def yX1_fault : MethodName := ⟨RX1, "fault", "(I)I"⟩
theorem dX1_fault_0 : decode cX1_fault 0 = .ok (.iload_n 1, 1) := by decide +kernel
theorem dX1_fault_1 : decode cX1_fault 1 = .ok (.ifCond .lt 12, 3) := by decide +kernel
theorem dX1_fault_4 : decode cX1_fault 4 = .ok (.iload_n 1, 1) := by decide +kernel
theorem dX1_fault_5 : decode cX1_fault 5 = .ok (.iconst 2, 1) := by decide +kernel
theorem dX1_fault_6 : decode cX1_fault 6 = .ok (.if_icmp .gt 7, 3) := by decide +kernel
theorem dX1_fault_9 : decode cX1_fault 9 = .ok (.iconst 1, 1) := by decide +kernel
theorem dX1_fault_10 : decode cX1_fault 10 = .ok (.goto 4, 3) := by decide +kernel
theorem dX1_fault_13 : decode cX1_fault 13 = .ok (.iconst 0, 1) := by decide +kernel
theorem dX1_fault_14 : decode cX1_fault 14 = .ok (.invokestatic 276, 3) := by decide +kernel
theorem dX1_fault_17 : decode cX1_fault 17 = .ok (.iload_n 1, 1) := by decide +kernel
theorem dX1_fault_18 : decode cX1_fault 18 = .ok (.ifCond .ne 10, 3) := by decide +kernel
theorem dX1_fault_21 : decode cX1_fault 21 = .ok (.aload_n 0, 1) := by decide +kernel
theorem dX1_fault_22 : decode cX1_fault 22 = .ok (.getfield 72, 3) := by decide +kernel
theorem dX1_fault_25 : decode cX1_fault 25 = .ok (.goto 19, 3) := by decide +kernel
theorem dX1_fault_28 : decode cX1_fault 28 = .ok (.iload_n 1, 1) := by decide +kernel
theorem dX1_fault_29 : decode cX1_fault 29 = .ok (.iconst 1, 1) := by decide +kernel
theorem dX1_fault_30 : decode cX1_fault 30 = .ok (.if_icmp .ne 10, 3) := by decide +kernel
theorem dX1_fault_33 : decode cX1_fault 33 = .ok (.aload_n 0, 1) := by decide +kernel
theorem dX1_fault_34 : decode cX1_fault 34 = .ok (.getfield 13, 3) := by decide +kernel
theorem dX1_fault_37 : decode cX1_fault 37 = .ok (.goto 7, 3) := by decide +kernel
theorem dX1_fault_40 : decode cX1_fault 40 = .ok (.aload_n 0, 1) := by decide +kernel
theorem dX1_fault_41 : decode cX1_fault 41 = .ok (.getfield 75, 3) := by decide +kernel
theorem dX1_fault_44 : decode cX1_fault 44 = .ok (.ireturn, 1) := by decide +kernel
abbrev cX1_there : ByteArray := prog_1_method_2_code
def yX1_there : MethodName := ⟨RX1, "there", "(Z)V"⟩
theorem dX1_there_0 : decode cX1_there 0 = .ok (.iload_n 0, 1) := by decide +kernel
theorem dX1_there_1 : decode cX1_there 1 = .ok (.ifCond .ne 11, 3) := by decide +kernel
theorem dX1_there_4 : decode cX1_there 4 = .ok (.new 50, 3) := by decide +kernel
theorem dX1_there_7 : decode cX1_there 7 = .ok (.dup, 1) := by decide +kernel
theorem dX1_there_8 : decode cX1_there 8 = .ok (.invokespecial 52, 3) := by decide +kernel
theorem dX1_there_11 : decode cX1_there 11 = .ok (.athrow, 1) := by decide +kernel
theorem dX1_there_12 : decode cX1_there 12 = .ok (.return_, 1) := by decide +kernel
abbrev cX1_corner : ByteArray := prog_1_method_15_code
def yX1_corner : MethodName := ⟨RX1, "corner", "(I)I"⟩
theorem dX1_corner_0 : decode cX1_corner 0 = .ok (.iload_n 1, 1) := by decide +kernel
theorem dX1_corner_1 : decode cX1_corner 1 = .ok (.ifCond .lt 13, 3) := by decide +kernel
theorem dX1_corner_4 : decode cX1_corner 4 = .ok (.iload_n 1, 1) := by decide +kernel
theorem dX1_corner_5 : decode cX1_corner 5 = .ok (.bipush 8, 2) := by decide +kernel
theorem dX1_corner_7 : decode cX1_corner 7 = .ok (.if_icmp .gt 7, 3) := by decide +kernel
theorem dX1_corner_10 : decode cX1_corner 10 = .ok (.iconst 1, 1) := by decide +kernel
theorem dX1_corner_11 : decode cX1_corner 11 = .ok (.goto 4, 3) := by decide +kernel
theorem dX1_corner_14 : decode cX1_corner 14 = .ok (.iconst 0, 1) := by decide +kernel
theorem dX1_corner_15 : decode cX1_corner 15 = .ok (.invokestatic 65, 3) := by decide +kernel
theorem dX1_corner_18 : decode cX1_corner 18 = .ok (.aload_n 0, 1) := by decide +kernel
theorem dX1_corner_19 : decode cX1_corner 19 = .ok (.getfield 38, 3) := by decide +kernel
theorem dX1_corner_22 : decode cX1_corner 22 = .ok (.getfield 206, 3) := by decide +kernel
theorem dX1_corner_25 : decode cX1_corner 25 = .ok (.invokevirtual 87, 3) := by decide +kernel
theorem dX1_corner_28 : decode cX1_corner 28 = .ok (.istore_n 2, 1) := by decide +kernel
theorem dX1_corner_29 : decode cX1_corner 29 = .ok (.aload_n 0, 1) := by decide +kernel
theorem dX1_corner_30 : decode cX1_corner 30 = .ok (.getfield 38, 3) := by decide +kernel
theorem dX1_corner_33 : decode cX1_corner 33 = .ok (.getfield 206, 3) := by decide +kernel
theorem dX1_corner_36 : decode cX1_corner 36 = .ok (.invokevirtual 279, 3) := by decide +kernel
theorem dX1_corner_39 : decode cX1_corner 39 = .ok (.aload_n 0, 1) := by decide +kernel
theorem dX1_corner_40 : decode cX1_corner 40 = .ok (.iconst 0, 1) := by decide +kernel
theorem dX1_corner_41 : decode cX1_corner 41 = .ok (.putfield 282, 3) := by decide +kernel
theorem dX1_corner_44 : decode cX1_corner 44 = .ok (.aload_n 0, 1) := by decide +kernel
theorem dX1_corner_45 : decode cX1_corner 45 = .ok (.getfield 20, 3) := by decide +kernel
theorem dX1_corner_48 : decode cX1_corner 48 = .ok (.iload_n 1, 1) := by decide +kernel
theorem dX1_corner_49 : decode cX1_corner 49 = .ok (.invokevirtual 46, 3) := by decide +kernel
theorem dX1_corner_52 : decode cX1_corner 52 = .ok (.iload_n 2, 1) := by decide +kernel
theorem dX1_corner_53 : decode cX1_corner 53 = .ok (.ireturn, 1) := by decide +kernel
abbrev cX1_limit : ByteArray := prog_1_method_16_code
def yX1_limit : MethodName := ⟨RX1, "limit", "(I)I"⟩
theorem dX1_limit_0 : decode cX1_limit 0 = .ok (.iload_n 1, 1) := by decide +kernel
theorem dX1_limit_1 : decode cX1_limit 1 = .ok (.iconst 1, 1) := by decide +kernel
theorem dX1_limit_2 : decode cX1_limit 2 = .ok (.if_icmp .lt 14, 3) := by decide +kernel
theorem dX1_limit_5 : decode cX1_limit 5 = .ok (.iload_n 1, 1) := by decide +kernel
theorem dX1_limit_6 : decode cX1_limit 6 = .ok (.sipush 20000, 3) := by decide +kernel
theorem dX1_limit_9 : decode cX1_limit 9 = .ok (.if_icmp .gt 7, 3) := by decide +kernel
theorem dX1_limit_12 : decode cX1_limit 12 = .ok (.iconst 1, 1) := by decide +kernel
theorem dX1_limit_13 : decode cX1_limit 13 = .ok (.goto 4, 3) := by decide +kernel
theorem dX1_limit_16 : decode cX1_limit 16 = .ok (.iconst 0, 1) := by decide +kernel
theorem dX1_limit_17 : decode cX1_limit 17 = .ok (.invokestatic 65, 3) := by decide +kernel
theorem dX1_limit_20 : decode cX1_limit 20 = .ok (.aload_n 0, 1) := by decide +kernel
theorem dX1_limit_21 : decode cX1_limit 21 = .ok (.getfield 29, 3) := by decide +kernel
theorem dX1_limit_24 : decode cX1_limit 24 = .ok (.getfield 285, 3) := by decide +kernel
theorem dX1_limit_27 : decode cX1_limit 27 = .ok (.istore_n 2, 1) := by decide +kernel
theorem dX1_limit_28 : decode cX1_limit 28 = .ok (.aload_n 0, 1) := by decide +kernel
theorem dX1_limit_29 : decode cX1_limit 29 = .ok (.getfield 29, 3) := by decide +kernel
theorem dX1_limit_32 : decode cX1_limit 32 = .ok (.iload_n 1, 1) := by decide +kernel
theorem dX1_limit_33 : decode cX1_limit 33 = .ok (.putfield 285, 3) := by decide +kernel
theorem dX1_limit_36 : decode cX1_limit 36 = .ok (.iload_n 2, 1) := by decide +kernel
theorem dX1_limit_37 : decode cX1_limit 37 = .ok (.ireturn, 1) := by decide +kernel
abbrev cX1_out : ByteArray := prog_1_method_18_code
def yX1_out : MethodName := ⟨RX1, "out", "(I)I"⟩
theorem dX1_out_0 : decode cX1_out 0 = .ok (.iload_n 1, 1) := by decide +kernel
theorem dX1_out_1 : decode cX1_out 1 = .ok (.ifCond .lt 24, 3) := by decide +kernel
theorem dX1_out_4 : decode cX1_out 4 = .ok (.iload_n 1, 1) := by decide +kernel
theorem dX1_out_5 : decode cX1_out 5 = .ok (.sipush 3000, 3) := by decide +kernel
theorem dX1_out_8 : decode cX1_out 8 = .ok (.aload_n 0, 1) := by decide +kernel
theorem dX1_out_9 : decode cX1_out 9 = .ok (.getfield 29, 3) := by decide +kernel
theorem dX1_out_12 : decode cX1_out 12 = .ok (.getfield 69, 3) := by decide +kernel
theorem dX1_out_15 : decode cX1_out 15 = .ok (.invokestatic 288, 3) := by decide +kernel
theorem dX1_out_18 : decode cX1_out 18 = .ok (.if_icmp .ge 7, 3) := by decide +kernel
theorem dX1_out_21 : decode cX1_out 21 = .ok (.iconst 1, 1) := by decide +kernel
theorem dX1_out_22 : decode cX1_out 22 = .ok (.goto 4, 3) := by decide +kernel
theorem dX1_out_25 : decode cX1_out 25 = .ok (.iconst 0, 1) := by decide +kernel
theorem dX1_out_26 : decode cX1_out 26 = .ok (.invokestatic 276, 3) := by decide +kernel
theorem dX1_out_29 : decode cX1_out 29 = .ok (.aload_n 0, 1) := by decide +kernel
theorem dX1_out_30 : decode cX1_out 30 = .ok (.getfield 29, 3) := by decide +kernel
theorem dX1_out_33 : decode cX1_out 33 = .ok (.getfield 293, 3) := by decide +kernel
theorem dX1_out_36 : decode cX1_out 36 = .ok (.iload_n 1, 1) := by decide +kernel
theorem dX1_out_37 : decode cX1_out 37 = .ok (.baload, 1) := by decide +kernel
theorem dX1_out_38 : decode cX1_out 38 = .ok (.ireturn, 1) := by decide +kernel
abbrev cX1_count : ByteArray := prog_1_method_19_code
def yX1_count : MethodName := ⟨RX1, "count", "(I)I"⟩
theorem dX1_count_0 : decode cX1_count 0 = .ok (.iload_n 1, 1) := by decide +kernel
theorem dX1_count_1 : decode cX1_count 1 = .ok (.ifCond .lt 13, 3) := by decide +kernel
theorem dX1_count_4 : decode cX1_count 4 = .ok (.iload_n 1, 1) := by decide +kernel
theorem dX1_count_5 : decode cX1_count 5 = .ok (.bipush 13, 2) := by decide +kernel
theorem dX1_count_7 : decode cX1_count 7 = .ok (.if_icmp .gt 7, 3) := by decide +kernel
theorem dX1_count_10 : decode cX1_count 10 = .ok (.iconst 1, 1) := by decide +kernel
theorem dX1_count_11 : decode cX1_count 11 = .ok (.goto 4, 3) := by decide +kernel
theorem dX1_count_14 : decode cX1_count 14 = .ok (.iconst 0, 1) := by decide +kernel
theorem dX1_count_15 : decode cX1_count 15 = .ok (.invokestatic 276, 3) := by decide +kernel
theorem dX1_count_18 : decode cX1_count 18 = .ok (.iload_n 1, 1) := by decide +kernel
theorem dX1_count_19 : decode cX1_count 19 = .ok (.tableswitch 144 0 13 #[69, 144, 144, 144, 144, 144, 144, 77, 85, 96, 104, 119, 134, 139], 69) := by decide +kernel
theorem dX1_count_88 : decode cX1_count 88 = .ok (.aload_n 0, 1) := by decide +kernel
theorem dX1_count_89 : decode cX1_count 89 = .ok (.getfield 29, 3) := by decide +kernel
theorem dX1_count_92 : decode cX1_count 92 = .ok (.getfield 296, 3) := by decide +kernel
theorem dX1_count_95 : decode cX1_count 95 = .ok (.ireturn, 1) := by decide +kernel
theorem dX1_count_96 : decode cX1_count 96 = .ok (.aload_n 0, 1) := by decide +kernel
theorem dX1_count_97 : decode cX1_count 97 = .ok (.getfield 29, 3) := by decide +kernel
theorem dX1_count_100 : decode cX1_count 100 = .ok (.getfield 299, 3) := by decide +kernel
theorem dX1_count_103 : decode cX1_count 103 = .ok (.ireturn, 1) := by decide +kernel
theorem dX1_count_104 : decode cX1_count 104 = .ok (.aload_n 0, 1) := by decide +kernel
theorem dX1_count_105 : decode cX1_count 105 = .ok (.getfield 38, 3) := by decide +kernel
theorem dX1_count_108 : decode cX1_count 108 = .ok (.getfield 206, 3) := by decide +kernel
theorem dX1_count_111 : decode cX1_count 111 = .ok (.invokevirtual 87, 3) := by decide +kernel
theorem dX1_count_114 : decode cX1_count 114 = .ok (.ireturn, 1) := by decide +kernel
theorem dX1_count_115 : decode cX1_count 115 = .ok (.aload_n 0, 1) := by decide +kernel
theorem dX1_count_116 : decode cX1_count 116 = .ok (.getfield 20, 3) := by decide +kernel
theorem dX1_count_119 : decode cX1_count 119 = .ok (.getfield 213, 3) := by decide +kernel
theorem dX1_count_122 : decode cX1_count 122 = .ok (.ireturn, 1) := by decide +kernel
theorem dX1_count_123 : decode cX1_count 123 = .ok (.aload_n 0, 1) := by decide +kernel
theorem dX1_count_124 : decode cX1_count 124 = .ok (.getfield 20, 3) := by decide +kernel
theorem dX1_count_127 : decode cX1_count 127 = .ok (.aload_n 0, 1) := by decide +kernel
theorem dX1_count_128 : decode cX1_count 128 = .ok (.getfield 20, 3) := by decide +kernel
theorem dX1_count_131 : decode cX1_count 131 = .ok (.getfield 226, 3) := by decide +kernel
theorem dX1_count_134 : decode cX1_count 134 = .ok (.invokevirtual 302, 3) := by decide +kernel
theorem dX1_count_137 : decode cX1_count 137 = .ok (.ireturn, 1) := by decide +kernel
theorem dX1_count_138 : decode cX1_count 138 = .ok (.aload_n 0, 1) := by decide +kernel
theorem dX1_count_139 : decode cX1_count 139 = .ok (.getfield 20, 3) := by decide +kernel
theorem dX1_count_142 : decode cX1_count 142 = .ok (.aload_n 0, 1) := by decide +kernel
theorem dX1_count_143 : decode cX1_count 143 = .ok (.getfield 20, 3) := by decide +kernel
theorem dX1_count_146 : decode cX1_count 146 = .ok (.getfield 233, 3) := by decide +kernel
theorem dX1_count_149 : decode cX1_count 149 = .ok (.invokevirtual 302, 3) := by decide +kernel
theorem dX1_count_152 : decode cX1_count 152 = .ok (.ireturn, 1) := by decide +kernel
theorem dX1_count_153 : decode cX1_count 153 = .ok (.aload_n 0, 1) := by decide +kernel
theorem dX1_count_154 : decode cX1_count 154 = .ok (.getfield 282, 3) := by decide +kernel
theorem dX1_count_157 : decode cX1_count 157 = .ok (.ireturn, 1) := by decide +kernel
theorem dX1_count_158 : decode cX1_count 158 = .ok (.aload_n 0, 1) := by decide +kernel
theorem dX1_count_159 : decode cX1_count 159 = .ok (.getfield 59, 3) := by decide +kernel
theorem dX1_count_162 : decode cX1_count 162 = .ok (.ireturn, 1) := by decide +kernel
theorem dX1_count_163 : decode cX1_count 163 = .ok (.aload_n 0, 1) := by decide +kernel
theorem dX1_count_164 : decode cX1_count 164 = .ok (.getfield 29, 3) := by decide +kernel
theorem dX1_count_167 : decode cX1_count 167 = .ok (.getfield 306, 3) := by decide +kernel
theorem dX1_count_170 : decode cX1_count 170 = .ok (.iload_n 1, 1) := by decide +kernel
theorem dX1_count_171 : decode cX1_count 171 = .ok (.iconst 1, 1) := by decide +kernel
theorem dX1_count_172 : decode cX1_count 172 = .ok (.isub, 1) := by decide +kernel
theorem dX1_count_173 : decode cX1_count 173 = .ok (.iaload, 1) := by decide +kernel
theorem dX1_count_174 : decode cX1_count 174 = .ok (.ireturn, 1) := by decide +kernel
abbrev cX1_name : ByteArray := prog_1_method_22_code
def yX1_name : MethodName := ⟨RX1, "name", "(II)I"⟩
theorem dX1_name_0 : decode cX1_name 0 = .ok (.aload_n 0, 1) := by decide +kernel
theorem dX1_name_1 : decode cX1_name 1 = .ok (.iload_n 1, 1) := by decide +kernel
theorem dX1_name_2 : decode cX1_name 2 = .ok (.invokevirtual 318, 3) := by decide +kernel
theorem dX1_name_5 : decode cX1_name 5 = .ok (.astore_n 3, 1) := by decide +kernel
theorem dX1_name_6 : decode cX1_name 6 = .ok (.iload_n 2, 1) := by decide +kernel
theorem dX1_name_7 : decode cX1_name 7 = .ok (.ifCond .lt 7, 3) := by decide +kernel
theorem dX1_name_10 : decode cX1_name 10 = .ok (.iconst 1, 1) := by decide +kernel
theorem dX1_name_11 : decode cX1_name 11 = .ok (.goto 4, 3) := by decide +kernel
theorem dX1_name_14 : decode cX1_name 14 = .ok (.iconst 0, 1) := by decide +kernel
theorem dX1_name_15 : decode cX1_name 15 = .ok (.invokestatic 276, 3) := by decide +kernel
theorem dX1_name_18 : decode cX1_name 18 = .ok (.iload_n 2, 1) := by decide +kernel
theorem dX1_name_19 : decode cX1_name 19 = .ok (.ifCond .ne 18, 3) := by decide +kernel
theorem dX1_name_22 : decode cX1_name 22 = .ok (.aload_n 3, 1) := by decide +kernel
theorem dX1_name_23 : decode cX1_name 23 = .ok (.getfield 261, 3) := by decide +kernel
theorem dX1_name_26 : decode cX1_name 26 = .ok (.ifnull 7, 3) := by decide +kernel
theorem dX1_name_29 : decode cX1_name 29 = .ok (.iconst 1, 1) := by decide +kernel
theorem dX1_name_30 : decode cX1_name 30 = .ok (.goto 44, 3) := by decide +kernel
theorem dX1_name_33 : decode cX1_name 33 = .ok (.iconst 0, 1) := by decide +kernel
theorem dX1_name_34 : decode cX1_name 34 = .ok (.goto 40, 3) := by decide +kernel
theorem dX1_name_37 : decode cX1_name 37 = .ok (.iload_n 2, 1) := by decide +kernel
theorem dX1_name_38 : decode cX1_name 38 = .ok (.iconst 1, 1) := by decide +kernel
theorem dX1_name_39 : decode cX1_name 39 = .ok (.if_icmp .ne 10, 3) := by decide +kernel
theorem dX1_name_42 : decode cX1_name 42 = .ok (.aload_n 3, 1) := by decide +kernel
theorem dX1_name_43 : decode cX1_name 43 = .ok (.getfield 322, 3) := by decide +kernel
theorem dX1_name_46 : decode cX1_name 46 = .ok (.goto 28, 3) := by decide +kernel
theorem dX1_name_49 : decode cX1_name 49 = .ok (.iload_n 2, 1) := by decide +kernel
theorem dX1_name_50 : decode cX1_name 50 = .ok (.iconst 2, 1) := by decide +kernel
theorem dX1_name_51 : decode cX1_name 51 = .ok (.if_icmp .ne 13, 3) := by decide +kernel
theorem dX1_name_54 : decode cX1_name 54 = .ok (.aload_n 3, 1) := by decide +kernel
theorem dX1_name_55 : decode cX1_name 55 = .ok (.getfield 323, 3) := by decide +kernel
theorem dX1_name_58 : decode cX1_name 58 = .ok (.invokevirtual 309, 3) := by decide +kernel
theorem dX1_name_61 : decode cX1_name 61 = .ok (.goto 13, 3) := by decide +kernel
theorem dX1_name_64 : decode cX1_name 64 = .ok (.aload_n 3, 1) := by decide +kernel
theorem dX1_name_65 : decode cX1_name 65 = .ok (.getfield 323, 3) := by decide +kernel
theorem dX1_name_68 : decode cX1_name 68 = .ok (.iload_n 2, 1) := by decide +kernel
theorem dX1_name_69 : decode cX1_name 69 = .ok (.iconst 3, 1) := by decide +kernel
theorem dX1_name_70 : decode cX1_name 70 = .ok (.isub, 1) := by decide +kernel
theorem dX1_name_71 : decode cX1_name 71 = .ok (.invokestatic 326, 3) := by decide +kernel
theorem dX1_name_74 : decode cX1_name 74 = .ok (.ireturn, 1) := by decide +kernel
abbrev cX1_nameAt : ByteArray := prog_1_method_21_code
def yX1_nameAt : MethodName := ⟨RX1, "nameAt", "(I)LPureHouse$Name;"⟩
theorem dX1_nameAt_0 : decode cX1_nameAt 0 = .ok (.iload_n 1, 1) := by decide +kernel
theorem dX1_nameAt_1 : decode cX1_nameAt 1 = .ok (.ifCond .lt 21, 3) := by decide +kernel
theorem dX1_nameAt_4 : decode cX1_nameAt 4 = .ok (.iload_n 1, 1) := by decide +kernel
theorem dX1_nameAt_5 : decode cX1_nameAt 5 = .ok (.aload_n 0, 1) := by decide +kernel
theorem dX1_nameAt_6 : decode cX1_nameAt 6 = .ok (.getfield 38, 3) := by decide +kernel
theorem dX1_nameAt_9 : decode cX1_nameAt 9 = .ok (.getfield 206, 3) := by decide +kernel
theorem dX1_nameAt_12 : decode cX1_nameAt 12 = .ok (.invokevirtual 87, 3) := by decide +kernel
theorem dX1_nameAt_15 : decode cX1_nameAt 15 = .ok (.if_icmp .ge 7, 3) := by decide +kernel
theorem dX1_nameAt_18 : decode cX1_nameAt 18 = .ok (.iconst 1, 1) := by decide +kernel
theorem dX1_nameAt_19 : decode cX1_nameAt 19 = .ok (.goto 4, 3) := by decide +kernel
theorem dX1_nameAt_22 : decode cX1_nameAt 22 = .ok (.iconst 0, 1) := by decide +kernel
theorem dX1_nameAt_23 : decode cX1_nameAt 23 = .ok (.invokestatic 276, 3) := by decide +kernel
theorem dX1_nameAt_26 : decode cX1_nameAt 26 = .ok (.aload_n 0, 1) := by decide +kernel
theorem dX1_nameAt_27 : decode cX1_nameAt 27 = .ok (.getfield 38, 3) := by decide +kernel
theorem dX1_nameAt_30 : decode cX1_nameAt 30 = .ok (.getfield 206, 3) := by decide +kernel
theorem dX1_nameAt_33 : decode cX1_nameAt 33 = .ok (.iload_n 1, 1) := by decide +kernel
theorem dX1_nameAt_34 : decode cX1_nameAt 34 = .ok (.invokevirtual 93, 3) := by decide +kernel
theorem dX1_nameAt_37 : decode cX1_nameAt 37 = .ok (.checkcast 243, 3) := by decide +kernel
theorem dX1_nameAt_40 : decode cX1_nameAt 40 = .ok (.areturn, 1) := by decide +kernel
abbrev cX1_signOf : ByteArray := prog_1_method_20_code
def yX1_signOf : MethodName := ⟨RX1, "signOf", "(Ljava/lang/String;I)I"⟩
theorem dX1_signOf_0 : decode cX1_signOf 0 = .ok (.iload_n 1, 1) := by decide +kernel
theorem dX1_signOf_1 : decode cX1_signOf 1 = .ok (.aload_n 0, 1) := by decide +kernel
theorem dX1_signOf_2 : decode cX1_signOf 2 = .ok (.invokevirtual 309, 3) := by decide +kernel
theorem dX1_signOf_5 : decode cX1_signOf 5 = .ok (.if_icmp .ge 11, 3) := by decide +kernel
theorem dX1_signOf_8 : decode cX1_signOf 8 = .ok (.aload_n 0, 1) := by decide +kernel
theorem dX1_signOf_9 : decode cX1_signOf 9 = .ok (.iload_n 1, 1) := by decide +kernel
theorem dX1_signOf_10 : decode cX1_signOf 10 = .ok (.invokevirtual 314, 3) := by decide +kernel
theorem dX1_signOf_13 : decode cX1_signOf 13 = .ok (.goto 4, 3) := by decide +kernel
theorem dX1_signOf_16 : decode cX1_signOf 16 = .ok (.iconst (-1), 1) := by decide +kernel
theorem dX1_signOf_17 : decode cX1_signOf 17 = .ok (.ireturn, 1) := by decide +kernel
abbrev cX1_sort : ByteArray := prog_1_method_23_code
def yX1_sort : MethodName := ⟨RX1, "sort", "(II)I"⟩
theorem dX1_sort_0 : decode cX1_sort 0 = .ok (.iload_n 1, 1) := by decide +kernel
theorem dX1_sort_1 : decode cX1_sort 1 = .ok (.ifCond .lt 22, 3) := by decide +kernel
theorem dX1_sort_4 : decode cX1_sort 4 = .ok (.iload_n 1, 1) := by decide +kernel
theorem dX1_sort_5 : decode cX1_sort 5 = .ok (.aload_n 0, 1) := by decide +kernel
theorem dX1_sort_6 : decode cX1_sort 6 = .ok (.getfield 20, 3) := by decide +kernel
theorem dX1_sort_9 : decode cX1_sort 9 = .ok (.getfield 213, 3) := by decide +kernel
theorem dX1_sort_12 : decode cX1_sort 12 = .ok (.if_icmp .ge 11, 3) := by decide +kernel
theorem dX1_sort_15 : decode cX1_sort 15 = .ok (.iload_n 2, 1) := by decide +kernel
theorem dX1_sort_16 : decode cX1_sort 16 = .ok (.ifCond .lt 7, 3) := by decide +kernel
theorem dX1_sort_19 : decode cX1_sort 19 = .ok (.iconst 1, 1) := by decide +kernel
theorem dX1_sort_20 : decode cX1_sort 20 = .ok (.goto 4, 3) := by decide +kernel
theorem dX1_sort_23 : decode cX1_sort 23 = .ok (.iconst 0, 1) := by decide +kernel
theorem dX1_sort_24 : decode cX1_sort 24 = .ok (.invokestatic 276, 3) := by decide +kernel
theorem dX1_sort_27 : decode cX1_sort 27 = .ok (.iload_n 2, 1) := by decide +kernel
theorem dX1_sort_28 : decode cX1_sort 28 = .ok (.ifCond .ne 15, 3) := by decide +kernel
theorem dX1_sort_31 : decode cX1_sort 31 = .ok (.aload_n 0, 1) := by decide +kernel
theorem dX1_sort_32 : decode cX1_sort 32 = .ok (.getfield 20, 3) := by decide +kernel
theorem dX1_sort_35 : decode cX1_sort 35 = .ok (.getfield 226, 3) := by decide +kernel
theorem dX1_sort_38 : decode cX1_sort 38 = .ok (.iload_n 1, 1) := by decide +kernel
theorem dX1_sort_39 : decode cX1_sort 39 = .ok (.iaload, 1) := by decide +kernel
theorem dX1_sort_40 : decode cX1_sort 40 = .ok (.goto 38, 3) := by decide +kernel
theorem dX1_sort_43 : decode cX1_sort 43 = .ok (.iload_n 2, 1) := by decide +kernel
theorem dX1_sort_44 : decode cX1_sort 44 = .ok (.iconst 1, 1) := by decide +kernel
theorem dX1_sort_45 : decode cX1_sort 45 = .ok (.if_icmp .ne 18, 3) := by decide +kernel
theorem dX1_sort_48 : decode cX1_sort 48 = .ok (.aload_n 0, 1) := by decide +kernel
theorem dX1_sort_49 : decode cX1_sort 49 = .ok (.getfield 20, 3) := by decide +kernel
theorem dX1_sort_52 : decode cX1_sort 52 = .ok (.getfield 330, 3) := by decide +kernel
theorem dX1_sort_55 : decode cX1_sort 55 = .ok (.iload_n 1, 1) := by decide +kernel
theorem dX1_sort_56 : decode cX1_sort 56 = .ok (.aaload, 1) := by decide +kernel
theorem dX1_sort_57 : decode cX1_sort 57 = .ok (.invokevirtual 309, 3) := by decide +kernel
theorem dX1_sort_60 : decode cX1_sort 60 = .ok (.goto 18, 3) := by decide +kernel
theorem dX1_sort_63 : decode cX1_sort 63 = .ok (.aload_n 0, 1) := by decide +kernel
theorem dX1_sort_64 : decode cX1_sort 64 = .ok (.getfield 20, 3) := by decide +kernel
theorem dX1_sort_67 : decode cX1_sort 67 = .ok (.getfield 330, 3) := by decide +kernel
theorem dX1_sort_70 : decode cX1_sort 70 = .ok (.iload_n 1, 1) := by decide +kernel
theorem dX1_sort_71 : decode cX1_sort 71 = .ok (.aaload, 1) := by decide +kernel
theorem dX1_sort_72 : decode cX1_sort 72 = .ok (.iload_n 2, 1) := by decide +kernel
theorem dX1_sort_73 : decode cX1_sort 73 = .ok (.iconst 2, 1) := by decide +kernel
theorem dX1_sort_74 : decode cX1_sort 74 = .ok (.isub, 1) := by decide +kernel
theorem dX1_sort_75 : decode cX1_sort 75 = .ok (.invokestatic 326, 3) := by decide +kernel
theorem dX1_sort_78 : decode cX1_sort 78 = .ok (.ireturn, 1) := by decide +kernel
abbrev cX1_rule : ByteArray := prog_1_method_24_code
def yX1_rule : MethodName := ⟨RX1, "rule", "(II)I"⟩
theorem dX1_rule_0 : decode cX1_rule 0 = .ok (.iload_n 1, 1) := by decide +kernel
theorem dX1_rule_1 : decode cX1_rule 1 = .ok (.ifCond .lt 33, 3) := by decide +kernel
theorem dX1_rule_4 : decode cX1_rule 4 = .ok (.iload_n 1, 1) := by decide +kernel
theorem dX1_rule_5 : decode cX1_rule 5 = .ok (.aload_n 0, 1) := by decide +kernel
theorem dX1_rule_6 : decode cX1_rule 6 = .ok (.getfield 20, 3) := by decide +kernel
theorem dX1_rule_9 : decode cX1_rule 9 = .ok (.getfield 213, 3) := by decide +kernel
theorem dX1_rule_12 : decode cX1_rule 12 = .ok (.if_icmp .ge 22, 3) := by decide +kernel
theorem dX1_rule_15 : decode cX1_rule 15 = .ok (.iload_n 2, 1) := by decide +kernel
theorem dX1_rule_16 : decode cX1_rule 16 = .ok (.ifCond .lt 18, 3) := by decide +kernel
theorem dX1_rule_19 : decode cX1_rule 19 = .ok (.iload_n 2, 1) := by decide +kernel
theorem dX1_rule_20 : decode cX1_rule 20 = .ok (.aload_n 0, 1) := by decide +kernel
theorem dX1_rule_21 : decode cX1_rule 21 = .ok (.getfield 20, 3) := by decide +kernel
theorem dX1_rule_24 : decode cX1_rule 24 = .ok (.getfield 213, 3) := by decide +kernel
theorem dX1_rule_27 : decode cX1_rule 27 = .ok (.if_icmp .ge 7, 3) := by decide +kernel
theorem dX1_rule_30 : decode cX1_rule 30 = .ok (.iconst 1, 1) := by decide +kernel
theorem dX1_rule_31 : decode cX1_rule 31 = .ok (.goto 4, 3) := by decide +kernel
theorem dX1_rule_34 : decode cX1_rule 34 = .ok (.iconst 0, 1) := by decide +kernel
theorem dX1_rule_35 : decode cX1_rule 35 = .ok (.invokestatic 276, 3) := by decide +kernel
theorem dX1_rule_38 : decode cX1_rule 38 = .ok (.aload_n 0, 1) := by decide +kernel
theorem dX1_rule_39 : decode cX1_rule 39 = .ok (.getfield 20, 3) := by decide +kernel
theorem dX1_rule_42 : decode cX1_rule 42 = .ok (.iload_n 1, 1) := by decide +kernel
theorem dX1_rule_43 : decode cX1_rule 43 = .ok (.iload_n 2, 1) := by decide +kernel
theorem dX1_rule_44 : decode cX1_rule 44 = .ok (.invokevirtual 229, 3) := by decide +kernel
theorem dX1_rule_47 : decode cX1_rule 47 = .ok (.ireturn, 1) := by decide +kernel
abbrev cX1_type : ByteArray := prog_1_method_25_code
def yX1_type : MethodName := ⟨RX1, "type", "(I)I"⟩
theorem dX1_type_0 : decode cX1_type 0 = .ok (.aload_n 0, 1) := by decide +kernel
theorem dX1_type_1 : decode cX1_type 1 = .ok (.iload_n 1, 1) := by decide +kernel
theorem dX1_type_2 : decode cX1_type 2 = .ok (.invokevirtual 318, 3) := by decide +kernel
theorem dX1_type_5 : decode cX1_type 5 = .ok (.astore_n 2, 1) := by decide +kernel
theorem dX1_type_6 : decode cX1_type 6 = .ok (.aload_n 0, 1) := by decide +kernel
theorem dX1_type_7 : decode cX1_type 7 = .ok (.getfield 29, 3) := by decide +kernel
theorem dX1_type_10 : decode cX1_type 10 = .ok (.iconst 0, 1) := by decide +kernel
theorem dX1_type_11 : decode cX1_type 11 = .ok (.putfield 69, 3) := by decide +kernel
theorem dX1_type_14 : decode cX1_type 14 = .ok (.aload_n 0, 1) := by decide +kernel
theorem dX1_type_15 : decode cX1_type 15 = .ok (.getfield 29, 3) := by decide +kernel
theorem dX1_type_18 : decode cX1_type 18 = .ok (.invokevirtual 102, 3) := by decide +kernel
theorem dX1_type_21 : decode cX1_type 21 = .ok (.aload_n 0, 1) := by decide +kernel
theorem dX1_type_22 : decode cX1_type 22 = .ok (.getfield 29, 3) := by decide +kernel
theorem dX1_type_25 : decode cX1_type 25 = .ok (.new 141, 3) := by decide +kernel
theorem dX1_type_28 : decode cX1_type 28 = .ok (.dup, 1) := by decide +kernel
theorem dX1_type_29 : decode cX1_type 29 = .ok (.aload_n 2, 1) := by decide +kernel
theorem dX1_type_30 : decode cX1_type 30 = .ok (.getfield 252, 3) := by decide +kernel
theorem dX1_type_33 : decode cX1_type 33 = .ok (.aconst_null, 1) := by decide +kernel
theorem dX1_type_34 : decode cX1_type 34 = .ok (.invokespecial 143, 3) := by decide +kernel
theorem dX1_type_37 : decode cX1_type 37 = .ok (.iconst 0, 1) := by decide +kernel
theorem dX1_type_38 : decode cX1_type 38 = .ok (.iconst 0, 1) := by decide +kernel
theorem dX1_type_39 : decode cX1_type 39 = .ok (.iconst 0, 1) := by decide +kernel
theorem dX1_type_40 : decode cX1_type 40 = .ok (.invokevirtual 146, 3) := by decide +kernel
theorem dX1_type_43 : decode cX1_type 43 = .ok (.aload_n 0, 1) := by decide +kernel
theorem dX1_type_44 : decode cX1_type 44 = .ok (.getfield 29, 3) := by decide +kernel
theorem dX1_type_47 : decode cX1_type 47 = .ok (.getfield 69, 3) := by decide +kernel
theorem dX1_type_50 : decode cX1_type 50 = .ok (.ireturn, 1) := by decide +kernel
theorem dX1_type_51 : decode cX1_type 51 = .ok (.astore_n 3, 1) := by decide +kernel
theorem dX1_type_52 : decode cX1_type 52 = .ok (.aload_n 3, 1) := by decide +kernel
theorem dX1_type_53 : decode cX1_type 53 = .ok (.getfield 111, 3) := by decide +kernel
theorem dX1_type_56 : decode cX1_type 56 = .ok (.ineg, 1) := by decide +kernel
theorem dX1_type_57 : decode cX1_type 57 = .ok (.ireturn, 1) := by decide +kernel
abbrev cX1_same : ByteArray := prog_1_method_26_code
def yX1_same : MethodName := ⟨RX1, "same", "(II)I"⟩
theorem dX1_same_0 : decode cX1_same 0 = .ok (.aload_n 0, 1) := by decide +kernel
theorem dX1_same_1 : decode cX1_same 1 = .ok (.iload_n 1, 1) := by decide +kernel
theorem dX1_same_2 : decode cX1_same 2 = .ok (.invokevirtual 318, 3) := by decide +kernel
theorem dX1_same_5 : decode cX1_same 5 = .ok (.astore_n 3, 1) := by decide +kernel
theorem dX1_same_6 : decode cX1_same 6 = .ok (.aload_n 0, 1) := by decide +kernel
theorem dX1_same_7 : decode cX1_same 7 = .ok (.iload_n 2, 1) := by decide +kernel
theorem dX1_same_8 : decode cX1_same 8 = .ok (.invokevirtual 318, 3) := by decide +kernel
theorem dX1_same_11 : decode cX1_same 11 = .ok (.astore 4, 2) := by decide +kernel
theorem dX1_same_13 : decode cX1_same 13 = .ok (.aload_n 0, 1) := by decide +kernel
theorem dX1_same_14 : decode cX1_same 14 = .ok (.getfield 29, 3) := by decide +kernel
theorem dX1_same_17 : decode cX1_same 17 = .ok (.invokevirtual 102, 3) := by decide +kernel
theorem dX1_same_20 : decode cX1_same 20 = .ok (.aload_n 0, 1) := by decide +kernel
theorem dX1_same_21 : decode cX1_same 21 = .ok (.getfield 29, 3) := by decide +kernel
theorem dX1_same_24 : decode cX1_same 24 = .ok (.aload_n 3, 1) := by decide +kernel
theorem dX1_same_25 : decode cX1_same 25 = .ok (.invokestatic 331, 3) := by decide +kernel
theorem dX1_same_28 : decode cX1_same 28 = .ok (.aload 4, 2) := by decide +kernel
theorem dX1_same_30 : decode cX1_same 30 = .ok (.invokestatic 331, 3) := by decide +kernel
theorem dX1_same_33 : decode cX1_same 33 = .ok (.invokevirtual 181, 3) := by decide +kernel
theorem dX1_same_36 : decode cX1_same 36 = .ok (.ifCond .eq 7, 3) := by decide +kernel
theorem dX1_same_39 : decode cX1_same 39 = .ok (.iconst 1, 1) := by decide +kernel
theorem dX1_same_40 : decode cX1_same 40 = .ok (.goto 4, 3) := by decide +kernel
theorem dX1_same_43 : decode cX1_same 43 = .ok (.iconst 0, 1) := by decide +kernel
theorem dX1_same_44 : decode cX1_same 44 = .ok (.ireturn, 1) := by decide +kernel
theorem dX1_same_45 : decode cX1_same 45 = .ok (.astore 5, 2) := by decide +kernel
theorem dX1_same_47 : decode cX1_same 47 = .ok (.aload 5, 2) := by decide +kernel
theorem dX1_same_49 : decode cX1_same 49 = .ok (.getfield 111, 3) := by decide +kernel
theorem dX1_same_52 : decode cX1_same 52 = .ok (.ineg, 1) := by decide +kernel
theorem dX1_same_53 : decode cX1_same 53 = .ok (.ireturn, 1) := by decide +kernel
abbrev cX1_named : ByteArray := prog_1_method_27_code
def yX1_named : MethodName := ⟨RX1, "named", "(LPureHouse$Name;)LPureHouse$Closure;"⟩
theorem dX1_named_0 : decode cX1_named 0 = .ok (.new 335, 3) := by decide +kernel
theorem dX1_named_3 : decode cX1_named 3 = .ok (.dup, 1) := by decide +kernel
theorem dX1_named_4 : decode cX1_named 4 = .ok (.aload_n 0, 1) := by decide +kernel
theorem dX1_named_5 : decode cX1_named 5 = .ok (.getfield 323, 3) := by decide +kernel
theorem dX1_named_8 : decode cX1_named 8 = .ok (.invokespecial 337, 3) := by decide +kernel
theorem dX1_named_11 : decode cX1_named 11 = .ok (.astore_n 1, 1) := by decide +kernel
theorem dX1_named_12 : decode cX1_named 12 = .ok (.aload_n 1, 1) := by decide +kernel
theorem dX1_named_13 : decode cX1_named 13 = .ok (.aload_n 0, 1) := by decide +kernel
theorem dX1_named_14 : decode cX1_named 14 = .ok (.putfield 339, 3) := by decide +kernel
theorem dX1_named_17 : decode cX1_named 17 = .ok (.new 141, 3) := by decide +kernel
theorem dX1_named_20 : decode cX1_named 20 = .ok (.dup, 1) := by decide +kernel
theorem dX1_named_21 : decode cX1_named 21 = .ok (.aload_n 1, 1) := by decide +kernel
theorem dX1_named_22 : decode cX1_named 22 = .ok (.aconst_null, 1) := by decide +kernel
theorem dX1_named_23 : decode cX1_named 23 = .ok (.invokespecial 143, 3) := by decide +kernel
theorem dX1_named_26 : decode cX1_named 26 = .ok (.areturn, 1) := by decide +kernel
abbrev cX1_mark : ByteArray := prog_1_method_28_code
def yX1_mark : MethodName := ⟨RX1, "mark", "()I"⟩
theorem dX1_mark_0 : decode cX1_mark 0 = .ok (.aload_n 0, 1) := by decide +kernel
theorem dX1_mark_1 : decode cX1_mark 1 = .ok (.getfield 282, 3) := by decide +kernel
theorem dX1_mark_4 : decode cX1_mark 4 = .ok (.bipush 20, 2) := by decide +kernel
theorem dX1_mark_6 : decode cX1_mark 6 = .ok (.if_icmp .ge 7, 3) := by decide +kernel
theorem dX1_mark_9 : decode cX1_mark 9 = .ok (.iconst 1, 1) := by decide +kernel
theorem dX1_mark_10 : decode cX1_mark 10 = .ok (.goto 4, 3) := by decide +kernel
theorem dX1_mark_13 : decode cX1_mark 13 = .ok (.iconst 0, 1) := by decide +kernel
theorem dX1_mark_14 : decode cX1_mark 14 = .ok (.invokestatic 343, 3) := by decide +kernel
theorem dX1_mark_17 : decode cX1_mark 17 = .ok (.aload_n 0, 1) := by decide +kernel
theorem dX1_mark_18 : decode cX1_mark 18 = .ok (.getfield 42, 3) := by decide +kernel
theorem dX1_mark_21 : decode cX1_mark 21 = .ok (.aload_n 0, 1) := by decide +kernel
theorem dX1_mark_22 : decode cX1_mark 22 = .ok (.getfield 282, 3) := by decide +kernel
theorem dX1_mark_25 : decode cX1_mark 25 = .ok (.aload_n 0, 1) := by decide +kernel
theorem dX1_mark_26 : decode cX1_mark 26 = .ok (.getfield 38, 3) := by decide +kernel
theorem dX1_mark_29 : decode cX1_mark 29 = .ok (.getfield 206, 3) := by decide +kernel
theorem dX1_mark_32 : decode cX1_mark 32 = .ok (.invokevirtual 87, 3) := by decide +kernel
theorem dX1_mark_35 : decode cX1_mark 35 = .ok (.iastore, 1) := by decide +kernel
theorem dX1_mark_36 : decode cX1_mark 36 = .ok (.aload_n 0, 1) := by decide +kernel
theorem dX1_mark_37 : decode cX1_mark 37 = .ok (.dup, 1) := by decide +kernel
theorem dX1_mark_38 : decode cX1_mark 38 = .ok (.getfield 282, 3) := by decide +kernel
theorem dX1_mark_41 : decode cX1_mark 41 = .ok (.iconst 1, 1) := by decide +kernel
theorem dX1_mark_42 : decode cX1_mark 42 = .ok (.iadd, 1) := by decide +kernel
theorem dX1_mark_43 : decode cX1_mark 43 = .ok (.putfield 282, 3) := by decide +kernel
theorem dX1_mark_46 : decode cX1_mark 46 = .ok (.aload_n 0, 1) := by decide +kernel
theorem dX1_mark_47 : decode cX1_mark 47 = .ok (.getfield 282, 3) := by decide +kernel
theorem dX1_mark_50 : decode cX1_mark 50 = .ok (.ireturn, 1) := by decide +kernel
abbrev cX1_able : ByteArray := prog_1_method_4_code
def yX1_able : MethodName := ⟨RX1, "able", "(Z)V"⟩
theorem dX1_able_0 : decode cX1_able 0 = .ok (.iload_n 0, 1) := by decide +kernel
theorem dX1_able_1 : decode cX1_able 1 = .ok (.ifCond .ne 11, 3) := by decide +kernel
theorem dX1_able_4 : decode cX1_able 4 = .ok (.new 56, 3) := by decide +kernel
theorem dX1_able_7 : decode cX1_able 7 = .ok (.dup, 1) := by decide +kernel
theorem dX1_able_8 : decode cX1_able 8 = .ok (.invokespecial 58, 3) := by decide +kernel
theorem dX1_able_11 : decode cX1_able 11 = .ok (.athrow, 1) := by decide +kernel
theorem dX1_able_12 : decode cX1_able 12 = .ok (.return_, 1) := by decide +kernel
abbrev cX1_back : ByteArray := prog_1_method_29_code
def yX1_back : MethodName := ⟨RX1, "back", "()I"⟩
theorem dX1_back_0 : decode cX1_back 0 = .ok (.aload_n 0, 1) := by decide +kernel
theorem dX1_back_1 : decode cX1_back 1 = .ok (.getfield 282, 3) := by decide +kernel
theorem dX1_back_4 : decode cX1_back 4 = .ok (.ifCond .le 7, 3) := by decide +kernel
theorem dX1_back_7 : decode cX1_back 7 = .ok (.iconst 1, 1) := by decide +kernel
theorem dX1_back_8 : decode cX1_back 8 = .ok (.goto 4, 3) := by decide +kernel
theorem dX1_back_11 : decode cX1_back 11 = .ok (.iconst 0, 1) := by decide +kernel
theorem dX1_back_12 : decode cX1_back 12 = .ok (.invokestatic 343, 3) := by decide +kernel
theorem dX1_back_15 : decode cX1_back 15 = .ok (.aload_n 0, 1) := by decide +kernel
theorem dX1_back_16 : decode cX1_back 16 = .ok (.dup, 1) := by decide +kernel
theorem dX1_back_17 : decode cX1_back 17 = .ok (.getfield 282, 3) := by decide +kernel
theorem dX1_back_20 : decode cX1_back 20 = .ok (.iconst 1, 1) := by decide +kernel
theorem dX1_back_21 : decode cX1_back 21 = .ok (.isub, 1) := by decide +kernel
theorem dX1_back_22 : decode cX1_back 22 = .ok (.putfield 282, 3) := by decide +kernel
theorem dX1_back_25 : decode cX1_back 25 = .ok (.aload_n 0, 1) := by decide +kernel
theorem dX1_back_26 : decode cX1_back 26 = .ok (.getfield 38, 3) := by decide +kernel
theorem dX1_back_29 : decode cX1_back 29 = .ok (.getfield 206, 3) := by decide +kernel
theorem dX1_back_32 : decode cX1_back 32 = .ok (.invokevirtual 87, 3) := by decide +kernel
theorem dX1_back_35 : decode cX1_back 35 = .ok (.aload_n 0, 1) := by decide +kernel
theorem dX1_back_36 : decode cX1_back 36 = .ok (.getfield 42, 3) := by decide +kernel
theorem dX1_back_39 : decode cX1_back 39 = .ok (.aload_n 0, 1) := by decide +kernel
theorem dX1_back_40 : decode cX1_back 40 = .ok (.getfield 282, 3) := by decide +kernel
theorem dX1_back_43 : decode cX1_back 43 = .ok (.iaload, 1) := by decide +kernel
theorem dX1_back_44 : decode cX1_back 44 = .ok (.if_icmp .le 29, 3) := by decide +kernel
theorem dX1_back_47 : decode cX1_back 47 = .ok (.aload_n 0, 1) := by decide +kernel
theorem dX1_back_48 : decode cX1_back 48 = .ok (.getfield 38, 3) := by decide +kernel
theorem dX1_back_51 : decode cX1_back 51 = .ok (.getfield 206, 3) := by decide +kernel
theorem dX1_back_54 : decode cX1_back 54 = .ok (.aload_n 0, 1) := by decide +kernel
theorem dX1_back_55 : decode cX1_back 55 = .ok (.getfield 38, 3) := by decide +kernel
theorem dX1_back_58 : decode cX1_back 58 = .ok (.getfield 206, 3) := by decide +kernel
theorem dX1_back_61 : decode cX1_back 61 = .ok (.invokevirtual 87, 3) := by decide +kernel
theorem dX1_back_64 : decode cX1_back 64 = .ok (.iconst 1, 1) := by decide +kernel
theorem dX1_back_65 : decode cX1_back 65 = .ok (.isub, 1) := by decide +kernel
theorem dX1_back_66 : decode cX1_back 66 = .ok (.invokevirtual 346, 3) := by decide +kernel
theorem dX1_back_69 : decode cX1_back 69 = .ok (.pop, 1) := by decide +kernel
theorem dX1_back_70 : decode cX1_back 70 = .ok (.goto (-45), 3) := by decide +kernel
theorem dX1_back_73 : decode cX1_back 73 = .ok (.aload_n 0, 1) := by decide +kernel
theorem dX1_back_74 : decode cX1_back 74 = .ok (.getfield 38, 3) := by decide +kernel
theorem dX1_back_77 : decode cX1_back 77 = .ok (.getfield 206, 3) := by decide +kernel
theorem dX1_back_80 : decode cX1_back 80 = .ok (.invokevirtual 87, 3) := by decide +kernel
theorem dX1_back_83 : decode cX1_back 83 = .ok (.ireturn, 1) := by decide +kernel
theorem q113 : (Jvm.Cond.initialized "PureHouse") ∈ lw_all := lw_g (lw_at lw_m1 1 rfl) rfl
theorem q163 : (Jvm.Cond.instantiable "PureHouse" (10 : Nat)) ∈ lw_all := lw_g (lw_at lw_m1 51 rfl) rfl
theorem q165 : (Jvm.Cond.instanceMethod ({ cls := "PureHouse", name := "<init>", desc := "()V" } : Jvm.MethodName)) ∈ lw_all := lw_g (lw_at lw_m1 53 rfl) rfl
theorem q166 : (Jvm.Cond.code ({ cls := "PureHouse", name := "<init>", desc := "()V" } : Jvm.MethodName) prog_1_method_1_code (1 : Nat) (Option.none : Option Jvm.ClassFile.FieldType)) ∈ lw_all := lw_g (lw_at lw_m1 54 rfl) rfl
theorem q167 : (Jvm.Cond.methodLink "PureHouse" (1 : Nat) ({ cls := "java/lang/Object", name := "<init>", desc := "()V" } : Jvm.MethodName)) ∈ lw_all := lw_g (lw_at lw_m1 55 rfl) rfl
theorem q170 : (Jvm.Cond.classLink "PureHouse" (17 : Nat) "PureHouse$Tables") ∈ lw_all := lw_g (lw_at lw_m1 58 rfl) rfl
theorem q172 : (Jvm.Cond.methodLinkNest "PureHouse" (19 : Nat) ({ cls := "PureHouse$Tables", name := "<init>", desc := "()V" } : Jvm.MethodName) "PureHouse") ∈ lw_tbl := lw_at lw_m1 60 rfl
theorem q180 : (Jvm.Cond.fieldLinkNest "PureHouse" (330 : Nat) "PureHouse$Tables" "names" "[Ljava/lang/String;" "PureHouse") ∈ lw_tbl := lw_at lw_m1 68 rfl
theorem q183 : (Jvm.Cond.fieldLinkNest "PureHouse" (226 : Nat) "PureHouse$Tables" "axioms" "[I" "PureHouse") ∈ lw_tbl := lw_at lw_m1 71 rfl
theorem q185 : (Jvm.Cond.fieldLinkNest "PureHouse" (233 : Nat) "PureHouse$Tables" "rules" "[I" "PureHouse") ∈ lw_tbl := lw_at lw_m1 73 rfl
theorem q187 : (Jvm.Cond.fieldLinkNest "PureHouse" (213 : Nat) "PureHouse$Tables" "many" "I" "PureHouse") ∈ lw_tbl := lw_at lw_m1 75 rfl
theorem q199 : (Jvm.Cond.classLink "PureHouse" (24 : Nat) "PureHouse$Machine") ∈ lw_all := lw_g (lw_at lw_m1 87 rfl) rfl
theorem q201 : (Jvm.Cond.methodLink "PureHouse" (26 : Nat) ({ cls := "PureHouse$Machine", name := "<init>", desc := "(LPureHouse$Tables;)V" } : Jvm.MethodName)) ∈ lw_all := lw_g (lw_at lw_m1 89 rfl) rfl
theorem q208 : (Jvm.Cond.fieldLinkNest "PureHouse" (157 : Nat) "PureHouse$Machine" "term" "LPureHouse$Term;" "PureHouse") ∈ lw_tbl := lw_at lw_m1 96 rfl
theorem q219 : (Jvm.Cond.fieldLinkNest "PureHouse" (166 : Nat) "PureHouse$Machine" "args" "LPureHouse$Args;" "PureHouse") ∈ lw_tbl := lw_at lw_m1 107 rfl
theorem q221 : (Jvm.Cond.fieldLinkNest "PureHouse" (306 : Nat) "PureHouse$Machine" "spent" "[I" "PureHouse") ∈ lw_tbl := lw_at lw_m1 109 rfl
theorem q223 : (Jvm.Cond.fieldLinkNest "PureHouse" (296 : Nat) "PureHouse$Machine" "work" "I" "PureHouse") ∈ lw_tbl := lw_at lw_m1 111 rfl
theorem q225 : (Jvm.Cond.fieldLinkNest "PureHouse" (299 : Nat) "PureHouse$Machine" "life" "I" "PureHouse") ∈ lw_tbl := lw_at lw_m1 113 rfl
theorem q227 : (Jvm.Cond.fieldLinkNest "PureHouse" (285 : Nat) "PureHouse$Machine" "limit" "I" "PureHouse") ∈ lw_tbl := lw_at lw_m1 115 rfl
theorem q230 : (Jvm.Cond.fieldLinkNest "PureHouse" (293 : Nat) "PureHouse$Machine" "out" "[B" "PureHouse") ∈ lw_tbl := lw_at lw_m1 118 rfl
theorem q231 : (Jvm.Cond.fieldLinkNest "PureHouse" (69 : Nat) "PureHouse$Machine" "outs" "I" "PureHouse") ∈ lw_tbl := lw_at lw_m1 119 rfl
theorem q256 : (Jvm.Cond.classLink "PureHouse" (33 : Nat) "PureHouse$Judge") ∈ lw_all := lw_g (lw_at lw_m1 144 rfl) rfl
theorem q258 : (Jvm.Cond.methodLink "PureHouse" (35 : Nat) ({ cls := "PureHouse$Judge", name := "<init>", desc := "(LPureHouse$Tables;LPureHouse$Machine;)V" } : Jvm.MethodName)) ∈ lw_all := lw_g (lw_at lw_m1 146 rfl) rfl
theorem q291 : (Jvm.Cond.fieldLinkNest "PureHouse" (206 : Nat) "PureHouse$Judge" "context" "Ljava/util/ArrayList;" "PureHouse") ∈ lw_tbl := lw_at lw_m1 179 rfl
theorem q293 : (Jvm.Cond.fieldLinkNest "PureHouse" (257 : Nat) "PureHouse$Judge" "type" "LPureHouse$Term;" "PureHouse") ∈ lw_tbl := lw_at lw_m1 181 rfl
theorem q296 : (Jvm.Cond.fieldLinkNest "PureHouse" (258 : Nat) "PureHouse$Judge" "sort" "I" "PureHouse") ∈ lw_tbl := lw_at lw_m1 184 rfl
theorem q310 : (Jvm.Cond.methodLink "PureHouse" (46 : Nat) ({ cls := "PureHouse$Tables", name := "corner", desc := "(I)V" } : Jvm.MethodName)) ∈ lw_all := lw_g (lw_at lw_m1 198 rfl) rfl
theorem q324 : (Jvm.Cond.fieldLink "PureHouse" (9 : Nat) "PureHouse" "tape" "[B") ∈ lw_all := lw_g (lw_at lw_m1 212 rfl) rfl
theorem q325 : (Jvm.Cond.fieldLink "PureHouse" (59 : Nat) "PureHouse" "taped" "I") ∈ lw_all := lw_g (lw_at lw_m1 213 rfl) rfl
theorem q326 : (Jvm.Cond.fieldLink "PureHouse" (72 : Nat) "PureHouse" "faultKind" "I") ∈ lw_all := lw_g (lw_at lw_m1 214 rfl) rfl
theorem q327 : (Jvm.Cond.fieldLink "PureHouse" (13 : Nat) "PureHouse" "faultPlace" "I") ∈ lw_all := lw_g (lw_at lw_m1 215 rfl) rfl
theorem q328 : (Jvm.Cond.fieldLink "PureHouse" (75 : Nat) "PureHouse" "done" "I") ∈ lw_all := lw_g (lw_at lw_m1 216 rfl) rfl
theorem q329 : (Jvm.Cond.fieldLink "PureHouse" (20 : Nat) "PureHouse" "tables" "LPureHouse$Tables;") ∈ lw_all := lw_g (lw_at lw_m1 217 rfl) rfl
theorem q330 : (Jvm.Cond.fieldLink "PureHouse" (29 : Nat) "PureHouse" "machine" "LPureHouse$Machine;") ∈ lw_all := lw_g (lw_at lw_m1 218 rfl) rfl
theorem q331 : (Jvm.Cond.fieldLink "PureHouse" (38 : Nat) "PureHouse" "judge" "LPureHouse$Judge;") ∈ lw_all := lw_g (lw_at lw_m1 219 rfl) rfl
theorem q332 : (Jvm.Cond.fieldLink "PureHouse" (42 : Nat) "PureHouse" "marks" "[I") ∈ lw_all := lw_g (lw_at lw_m1 220 rfl) rfl
theorem q333 : (Jvm.Cond.fieldLink "PureHouse" (282 : Nat) "PureHouse" "marked" "I") ∈ lw_all := lw_g (lw_at lw_m1 221 rfl) rfl
theorem q334 : (Jvm.Cond.laysFinal "PureHouse" "PureHouse" "tape" "[B") ∈ lw_all := lw_g (lw_at lw_m1 222 rfl) rfl
theorem q335 : (Jvm.Cond.soleField "PureHouse" "tape") ∈ lw_all := lw_g (lw_at lw_m1 223 rfl) rfl
theorem q336 : (Jvm.Cond.lays "PureHouse" "PureHouse" "taped" "I") ∈ lw_all := lw_g (lw_at lw_m1 224 rfl) rfl
theorem q337 : (Jvm.Cond.soleField "PureHouse" "taped") ∈ lw_all := lw_g (lw_at lw_m1 225 rfl) rfl
theorem q338 : (Jvm.Cond.lays "PureHouse" "PureHouse" "faultKind" "I") ∈ lw_all := lw_g (lw_at lw_m1 226 rfl) rfl
theorem q339 : (Jvm.Cond.soleField "PureHouse" "faultKind") ∈ lw_all := lw_g (lw_at lw_m1 227 rfl) rfl
theorem q340 : (Jvm.Cond.lays "PureHouse" "PureHouse" "faultPlace" "I") ∈ lw_all := lw_g (lw_at lw_m1 228 rfl) rfl
theorem q341 : (Jvm.Cond.soleField "PureHouse" "faultPlace") ∈ lw_all := lw_g (lw_at lw_m1 229 rfl) rfl
theorem q342 : (Jvm.Cond.lays "PureHouse" "PureHouse" "done" "I") ∈ lw_all := lw_g (lw_at lw_m1 230 rfl) rfl
theorem q343 : (Jvm.Cond.soleField "PureHouse" "done") ∈ lw_all := lw_g (lw_at lw_m1 231 rfl) rfl
theorem q344 : (Jvm.Cond.laysFinal "PureHouse" "PureHouse" "tables" "LPureHouse$Tables;") ∈ lw_all := lw_g (lw_at lw_m1 232 rfl) rfl
theorem q345 : (Jvm.Cond.soleField "PureHouse" "tables") ∈ lw_all := lw_g (lw_at lw_m1 233 rfl) rfl
theorem q346 : (Jvm.Cond.laysFinal "PureHouse" "PureHouse" "machine" "LPureHouse$Machine;") ∈ lw_all := lw_g (lw_at lw_m1 234 rfl) rfl
theorem q347 : (Jvm.Cond.soleField "PureHouse" "machine") ∈ lw_all := lw_g (lw_at lw_m1 235 rfl) rfl
theorem q348 : (Jvm.Cond.laysFinal "PureHouse" "PureHouse" "judge" "LPureHouse$Judge;") ∈ lw_all := lw_g (lw_at lw_m1 236 rfl) rfl
theorem q349 : (Jvm.Cond.soleField "PureHouse" "judge") ∈ lw_all := lw_g (lw_at lw_m1 237 rfl) rfl
theorem q350 : (Jvm.Cond.laysFinal "PureHouse" "PureHouse" "marks" "[I") ∈ lw_all := lw_g (lw_at lw_m1 238 rfl) rfl
theorem q351 : (Jvm.Cond.soleField "PureHouse" "marks") ∈ lw_all := lw_g (lw_at lw_m1 239 rfl) rfl
theorem q352 : (Jvm.Cond.lays "PureHouse" "PureHouse" "marked" "I") ∈ lw_all := lw_g (lw_at lw_m2 0 rfl) rfl
theorem q353 : (Jvm.Cond.soleField "PureHouse" "marked") ∈ lw_all := lw_g (lw_at lw_m2 1 rfl) rfl
theorem q354 : (Jvm.Cond.superclass "PureHouse" "java/lang/Object") ∈ lw_all := lw_g (lw_at lw_m2 2 rfl) rfl
theorem q356 : (Jvm.Cond.instanceMethod ({ cls := "PureHouse", name := "feed", desc := "(IIIII)I" } : Jvm.MethodName)) ∈ lw_all := lw_g (lw_at lw_m2 4 rfl) rfl
theorem q357 : (Jvm.Cond.selects "PureHouse" ({ cls := "PureHouse", name := "feed", desc := "(IIIII)I" } : Jvm.MethodName) ({ cls := "PureHouse", name := "feed", desc := "(IIIII)I" } : Jvm.MethodName)) ∈ lw_all := lw_g (lw_at lw_m2 5 rfl) rfl
theorem q358 : (Jvm.Cond.code ({ cls := "PureHouse", name := "feed", desc := "(IIIII)I" } : Jvm.MethodName) prog_1_method_5_code (6 : Nat) (Option.some Jvm.ClassFile.FieldType.int)) ∈ lw_all := lw_g (lw_at lw_m2 6 rfl) rfl
theorem q359 : (Jvm.Cond.methodLink "PureHouse" (62 : Nat) ({ cls := "PureHouse", name := "lay", desc := "(I)V" } : Jvm.MethodName)) ∈ lw_all := lw_g (lw_at lw_m2 7 rfl) rfl
theorem q360 : (Jvm.Cond.privateMethod ({ cls := "PureHouse", name := "lay", desc := "(I)V" } : Jvm.MethodName)) ∈ lw_tbl := lw_at lw_m2 8 rfl
theorem q361 : (Jvm.Cond.instanceMethod ({ cls := "PureHouse", name := "lay", desc := "(I)V" } : Jvm.MethodName)) ∈ lw_all := lw_g (lw_at lw_m2 9 rfl) rfl
theorem q362 : (Jvm.Cond.code ({ cls := "PureHouse", name := "lay", desc := "(I)V" } : Jvm.MethodName) prog_1_method_6_code (3 : Nat) (Option.none : Option Jvm.ClassFile.FieldType)) ∈ lw_all := lw_g (lw_at lw_m2 10 rfl) rfl
theorem q364 : (Jvm.Cond.instanceMethod ({ cls := "PureHouse", name := "outs", desc := "()I" } : Jvm.MethodName)) ∈ lw_all := lw_g (lw_at lw_m2 12 rfl) rfl
theorem q365 : (Jvm.Cond.selects "PureHouse" ({ cls := "PureHouse", name := "outs", desc := "()I" } : Jvm.MethodName) ({ cls := "PureHouse", name := "outs", desc := "()I" } : Jvm.MethodName)) ∈ lw_all := lw_g (lw_at lw_m2 13 rfl) rfl
theorem q366 : (Jvm.Cond.code ({ cls := "PureHouse", name := "outs", desc := "()I" } : Jvm.MethodName) prog_1_method_17_code (1 : Nat) (Option.some Jvm.ClassFile.FieldType.int)) ∈ lw_all := lw_g (lw_at lw_m2 14 rfl) rfl
theorem q372 : (Jvm.Cond.instanceMethod ({ cls := "PureHouse", name := "text", desc := "(I)I" } : Jvm.MethodName)) ∈ lw_all := lw_g (lw_at lw_m2 20 rfl) rfl
theorem q373 : (Jvm.Cond.selects "PureHouse" ({ cls := "PureHouse", name := "text", desc := "(I)I" } : Jvm.MethodName) ({ cls := "PureHouse", name := "text", desc := "(I)I" } : Jvm.MethodName)) ∈ lw_all := lw_g (lw_at lw_m2 21 rfl) rfl
theorem q374 : (Jvm.Cond.codeWith ({ cls := "PureHouse", name := "text", desc := "(I)I" } : Jvm.MethodName) prog_1_method_7_code (6 : Nat) (Option.some Jvm.ClassFile.FieldType.int) [((50 : Nat), (124 : Nat), (127 : Nat), (109 : Nat))]) ∈ lw_all := lw_g (lw_at lw_m2 22 rfl) rfl
theorem q375 : (Jvm.Cond.classLink "PureHouse" (109 : Nat) "PureHouse$Fault") ∈ lw_all := lw_g (lw_at lw_m2 23 rfl) rfl
theorem q376 : (Jvm.Cond.methodLink "PureHouse" (65 : Nat) ({ cls := "PureHouse", name := "right", desc := "(Z)V" } : Jvm.MethodName)) ∈ lw_all := lw_g (lw_at lw_m2 24 rfl) rfl
theorem q377 : (Jvm.Cond.static ({ cls := "PureHouse", name := "right", desc := "(Z)V" } : Jvm.MethodName)) ∈ lw_all := lw_g (lw_at lw_m2 25 rfl) rfl
theorem q378 : (Jvm.Cond.code ({ cls := "PureHouse", name := "right", desc := "(Z)V" } : Jvm.MethodName) prog_1_method_3_code (1 : Nat) (Option.none : Option Jvm.ClassFile.FieldType)) ∈ lw_all := lw_g (lw_at lw_m2 26 rfl) rfl
theorem q379 : (Jvm.Cond.classLink "PureHouse" (53 : Nat) "java/lang/IllegalArgumentException") ∈ lw_all := lw_g (lw_at lw_m2 27 rfl) rfl
theorem q421 : (Jvm.Cond.methodLink "PureHouse" (55 : Nat) ({ cls := "java/lang/IllegalArgumentException", name := "<init>", desc := "()V" } : Jvm.MethodName)) ∈ lw_all := lw_g (lw_at lw_m2 69 rfl) rfl
theorem q444 : (Jvm.Cond.classLink "PureHouse" (78 : Nat) "PureHouse$Reader") ∈ lw_all := lw_g (lw_at lw_m2 92 rfl) rfl
theorem q446 : (Jvm.Cond.methodLink "PureHouse" (80 : Nat) ({ cls := "PureHouse$Reader", name := "<init>", desc := "([BI)V" } : Jvm.MethodName)) ∈ lw_all := lw_g (lw_at lw_m2 94 rfl) rfl
theorem q483 : (Jvm.Cond.methodLink "PureHouse" (83 : Nat) ({ cls := "PureHouse$Reader", name := "read", desc := "()Ljava/util/ArrayList;" } : Jvm.MethodName)) ∈ lw_all := lw_g (lw_at lw_m2 131 rfl) rfl
theorem q950 : (Jvm.Cond.fieldLinkNest "PureHouse" (117 : Nat) "PureHouse$Statement" "kind" "LPureHouse$Kind;" "PureHouse") ∈ lw_tbl := lw_at lw_m4 118 rfl
theorem q952 : (Jvm.Cond.fieldLinkNest "PureHouse" (99 : Nat) "PureHouse$Statement" "at" "I" "PureHouse") ∈ lw_tbl := lw_at lw_m4 120 rfl
theorem q954 : (Jvm.Cond.fieldLinkNest "PureHouse" (192 : Nat) "PureHouse$Statement" "names" "[Ljava/lang/String;" "PureHouse") ∈ lw_tbl := lw_at lw_m4 122 rfl
theorem q957 : (Jvm.Cond.fieldLinkNest "PureHouse" (200 : Nat) "PureHouse$Statement" "places" "[I" "PureHouse") ∈ lw_tbl := lw_at lw_m4 125 rfl
theorem q959 : (Jvm.Cond.fieldLinkNest "PureHouse" (178 : Nat) "PureHouse$Statement" "type" "LPureHouse$Term;" "PureHouse") ∈ lw_tbl := lw_at lw_m4 127 rfl
theorem q961 : (Jvm.Cond.fieldLinkNest "PureHouse" (134 : Nat) "PureHouse$Statement" "term" "LPureHouse$Term;" "PureHouse") ∈ lw_tbl := lw_at lw_m4 129 rfl
theorem q1002 : (Jvm.Cond.fieldLinkNest "PureHouse" (111 : Nat) "PureHouse$Fault" "kind" "I" "PureHouse") ∈ lw_tbl := lw_at lw_m4 170 rfl
theorem q1004 : (Jvm.Cond.fieldLinkNest "PureHouse" (114 : Nat) "PureHouse$Fault" "place" "I" "PureHouse") ∈ lw_tbl := lw_at lw_m4 172 rfl
theorem q1060 : (Jvm.Cond.fieldLink "PureHouse" (271 : Nat) "PureHouse$Term" "from" "I") ∈ lw_all := lw_g (lw_at lw_m4 228 rfl) rfl
theorem q1102 : (Jvm.Cond.selects "PureHouse" ({ cls := "java/lang/Object", name := "getClass", desc := "()Ljava/lang/Class;" } : Jvm.MethodName) ({ cls := "java/lang/Object", name := "getClass", desc := "()Ljava/lang/Class;" } : Jvm.MethodName)) ∈ lw_all := lw_g (lw_at lw_m5 30 rfl) rfl
theorem q1261 : (Jvm.Cond.fieldLinkNest "PureHouse" (339 : Nat) "PureHouse$Free" "of" "LPureHouse$Name;" "PureHouse") ∈ lw_tbl := lw_at lw_m5 189 rfl
theorem q1326 : (Jvm.Cond.methodLink "PureHouse" (87 : Nat) ({ cls := "java/util/ArrayList", name := "size", desc := "()I" } : Jvm.MethodName)) ∈ lw_all := lw_g (lw_at lw_m6 14 rfl) rfl
theorem q1327 : (Jvm.Cond.methodLink "PureHouse" (93 : Nat) ({ cls := "java/util/ArrayList", name := "get", desc := "(I)Ljava/lang/Object;" } : Jvm.MethodName)) ∈ lw_all := lw_g (lw_at lw_m6 15 rfl) rfl
theorem q1328 : (Jvm.Cond.classLink "PureHouse" (97 : Nat) "PureHouse$Statement") ∈ lw_all := lw_g (lw_at lw_m6 16 rfl) rfl
theorem q1329 : (Jvm.Cond.methodLink "PureHouse" (102 : Nat) ({ cls := "PureHouse$Machine", name := "begins", desc := "()V" } : Jvm.MethodName)) ∈ lw_all := lw_g (lw_at lw_m6 17 rfl) rfl
theorem q1333 : (Jvm.Cond.methodLink "PureHouse" (105 : Nat) ({ cls := "PureHouse", name := "does", desc := "(LPureHouse$Statement;)V" } : Jvm.MethodName)) ∈ lw_all := lw_g (lw_at lw_m6 21 rfl) rfl
theorem q1334 : (Jvm.Cond.privateMethod ({ cls := "PureHouse", name := "does", desc := "(LPureHouse$Statement;)V" } : Jvm.MethodName)) ∈ lw_tbl := lw_at lw_m6 22 rfl
theorem q1335 : (Jvm.Cond.instanceMethod ({ cls := "PureHouse", name := "does", desc := "(LPureHouse$Statement;)V" } : Jvm.MethodName)) ∈ lw_all := lw_g (lw_at lw_m6 23 rfl) rfl
theorem q1336 : (Jvm.Cond.code ({ cls := "PureHouse", name := "does", desc := "(LPureHouse$Statement;)V" } : Jvm.MethodName) prog_1_method_8_code (2 : Nat) (Option.none : Option Jvm.ClassFile.FieldType)) ∈ lw_all := lw_g (lw_at lw_m6 24 rfl) rfl
theorem q1337 : (Jvm.Cond.methodLink "PureHouse" (120 : Nat) ({ cls := "PureHouse$Kind", name := "ordinal", desc := "()I" } : Jvm.MethodName)) ∈ lw_all := lw_g (lw_at lw_m6 25 rfl) rfl
theorem q1343 : (Jvm.Cond.methodLink "PureHouse" (125 : Nat) ({ cls := "PureHouse", name := "table", desc := "(LPureHouse$Statement;)V" } : Jvm.MethodName)) ∈ lw_all := lw_g (lw_at lw_m6 31 rfl) rfl
theorem q1344 : (Jvm.Cond.privateMethod ({ cls := "PureHouse", name := "table", desc := "(LPureHouse$Statement;)V" } : Jvm.MethodName)) ∈ lw_tbl := lw_at lw_m6 32 rfl
theorem q1345 : (Jvm.Cond.instanceMethod ({ cls := "PureHouse", name := "table", desc := "(LPureHouse$Statement;)V" } : Jvm.MethodName)) ∈ lw_all := lw_g (lw_at lw_m6 33 rfl) rfl
theorem q1346 : (Jvm.Cond.code ({ cls := "PureHouse", name := "table", desc := "(LPureHouse$Statement;)V" } : Jvm.MethodName) prog_1_method_10_code (5 : Nat) (Option.none : Option Jvm.ClassFile.FieldType)) ∈ lw_all := lw_g (lw_at lw_m6 34 rfl) rfl
theorem q1347 : (Jvm.Cond.methodLink "PureHouse" (203 : Nat) ({ cls := "PureHouse$Fault", name := "<init>", desc := "(II)V" } : Jvm.MethodName)) ∈ lw_all := lw_g (lw_at lw_m6 35 rfl) rfl
theorem q1348 : (Jvm.Cond.fieldLink "PureHouse" (210 : Nat) "PureHouse$Kind" "SORT" "LPureHouse$Kind;") ∈ lw_all := lw_g (lw_at lw_m6 36 rfl) rfl
theorem q1349 : (Jvm.Cond.methodLink "PureHouse" (196 : Nat) ({ cls := "PureHouse$Tables", name := "find", desc := "(Ljava/lang/String;)I" } : Jvm.MethodName)) ∈ lw_all := lw_g (lw_at lw_m6 37 rfl) rfl
theorem q1354 : (Jvm.Cond.methodLink "PureHouse" (216 : Nat) ({ cls := "PureHouse$Tables", name := "add", desc := "(Ljava/lang/String;)V" } : Jvm.MethodName)) ∈ lw_all := lw_g (lw_at lw_m6 42 rfl) rfl
theorem q1355 : (Jvm.Cond.methodLink "PureHouse" (219 : Nat) ({ cls := "PureHouse", name := "sortAt", desc := "(LPureHouse$Statement;I)I" } : Jvm.MethodName)) ∈ lw_all := lw_g (lw_at lw_m6 43 rfl) rfl
theorem q1356 : (Jvm.Cond.privateMethod ({ cls := "PureHouse", name := "sortAt", desc := "(LPureHouse$Statement;I)I" } : Jvm.MethodName)) ∈ lw_tbl := lw_at lw_m6 44 rfl
theorem q1357 : (Jvm.Cond.instanceMethod ({ cls := "PureHouse", name := "sortAt", desc := "(LPureHouse$Statement;I)I" } : Jvm.MethodName)) ∈ lw_all := lw_g (lw_at lw_m6 45 rfl) rfl
theorem q1358 : (Jvm.Cond.code ({ cls := "PureHouse", name := "sortAt", desc := "(LPureHouse$Statement;I)I" } : Jvm.MethodName) prog_1_method_9_code (4 : Nat) (Option.some Jvm.ClassFile.FieldType.int)) ∈ lw_all := lw_g (lw_at lw_m6 46 rfl) rfl
theorem q1359 : (Jvm.Cond.fieldLink "PureHouse" (223 : Nat) "PureHouse$Kind" "AXIOM" "LPureHouse$Kind;") ∈ lw_all := lw_g (lw_at lw_m6 47 rfl) rfl
theorem q1360 : (Jvm.Cond.methodLink "PureHouse" (229 : Nat) ({ cls := "PureHouse$Tables", name := "rule", desc := "(II)I" } : Jvm.MethodName)) ∈ lw_all := lw_g (lw_at lw_m6 48 rfl) rfl
theorem q1364 : (Jvm.Cond.methodLink "PureHouse" (128 : Nat) ({ cls := "PureHouse", name := "tells", desc := "(LPureHouse$Statement;)V" } : Jvm.MethodName)) ∈ lw_all := lw_g (lw_at lw_m6 52 rfl) rfl
theorem q1365 : (Jvm.Cond.privateMethod ({ cls := "PureHouse", name := "tells", desc := "(LPureHouse$Statement;)V" } : Jvm.MethodName)) ∈ lw_tbl := lw_at lw_m6 53 rfl
theorem q1366 : (Jvm.Cond.instanceMethod ({ cls := "PureHouse", name := "tells", desc := "(LPureHouse$Statement;)V" } : Jvm.MethodName)) ∈ lw_all := lw_g (lw_at lw_m6 54 rfl) rfl
theorem q1367 : (Jvm.Cond.code ({ cls := "PureHouse", name := "tells", desc := "(LPureHouse$Statement;)V" } : Jvm.MethodName) prog_1_method_11_code (4 : Nat) (Option.none : Option Jvm.ClassFile.FieldType)) ∈ lw_all := lw_g (lw_at lw_m6 55 rfl) rfl
theorem q1368 : (Jvm.Cond.methodLink "PureHouse" (236 : Nat) ({ cls := "PureHouse$Judge", name := "find", desc := "(Ljava/lang/String;)LPureHouse$Name;" } : Jvm.MethodName)) ∈ lw_all := lw_g (lw_at lw_m6 56 rfl) rfl
theorem q1376 : (Jvm.Cond.methodLink "PureHouse" (239 : Nat) ({ cls := "PureHouse$Judge", name := "typeSort", desc := "(LPureHouse$Term;LPureHouse$Scope;)I" } : Jvm.MethodName)) ∈ lw_all := lw_g (lw_at lw_m6 64 rfl) rfl
theorem q1738 : (Jvm.Cond.classLink "PureHouse" (243 : Nat) "PureHouse$Name") ∈ lw_all := lw_g (lw_at lw_m7 186 rfl) rfl
theorem q1740 : (Jvm.Cond.methodLink "PureHouse" (245 : Nat) ({ cls := "PureHouse$Judge", name := "normal", desc := "(LPureHouse$Term;LPureHouse$Scope;)LPureHouse$Term;" } : Jvm.MethodName)) ∈ lw_all := lw_g (lw_at lw_m7 188 rfl) rfl
theorem q1741 : (Jvm.Cond.methodLink "PureHouse" (249 : Nat) ({ cls := "PureHouse$Name", name := "<init>", desc := "(Ljava/lang/String;LPureHouse$Term;I)V" } : Jvm.MethodName)) ∈ lw_all := lw_g (lw_at lw_m7 189 rfl) rfl
theorem q1747 : (Jvm.Cond.fieldLinkNest "PureHouse" (323 : Nat) "PureHouse$Name" "name" "Ljava/lang/String;" "PureHouse") ∈ lw_tbl := lw_at lw_m7 195 rfl
theorem q1751 : (Jvm.Cond.fieldLinkNest "PureHouse" (252 : Nat) "PureHouse$Name" "type" "LPureHouse$Term;" "PureHouse") ∈ lw_tbl := lw_at lw_m7 199 rfl
theorem q1754 : (Jvm.Cond.fieldLinkNest "PureHouse" (322 : Nat) "PureHouse$Name" "sort" "I" "PureHouse") ∈ lw_tbl := lw_at lw_m7 202 rfl
theorem q1756 : (Jvm.Cond.fieldLinkNest "PureHouse" (261 : Nat) "PureHouse$Name" "value" "LPureHouse$Term;" "PureHouse") ∈ lw_tbl := lw_at lw_m7 204 rfl
theorem q1766 : (Jvm.Cond.methodLink "PureHouse" (253 : Nat) ({ cls := "PureHouse", name := "fits", desc := "(LPureHouse$Statement;LPureHouse$Term;)V" } : Jvm.MethodName)) ∈ lw_all := lw_g (lw_at lw_m7 214 rfl) rfl
theorem q1767 : (Jvm.Cond.privateMethod ({ cls := "PureHouse", name := "fits", desc := "(LPureHouse$Statement;LPureHouse$Term;)V" } : Jvm.MethodName)) ∈ lw_tbl := lw_at lw_m7 215 rfl
theorem q1768 : (Jvm.Cond.instanceMethod ({ cls := "PureHouse", name := "fits", desc := "(LPureHouse$Statement;LPureHouse$Term;)V" } : Jvm.MethodName)) ∈ lw_all := lw_g (lw_at lw_m7 216 rfl) rfl
theorem q1769 : (Jvm.Cond.code ({ cls := "PureHouse", name := "fits", desc := "(LPureHouse$Statement;LPureHouse$Term;)V" } : Jvm.MethodName) prog_1_method_12_code (3 : Nat) (Option.none : Option Jvm.ClassFile.FieldType)) ∈ lw_all := lw_g (lw_at lw_m7 217 rfl) rfl
theorem q1770 : (Jvm.Cond.methodLink "PureHouse" (138 : Nat) ({ cls := "PureHouse$Judge", name := "judge", desc := "(LPureHouse$Term;LPureHouse$Scope;)V" } : Jvm.MethodName)) ∈ lw_all := lw_g (lw_at lw_m7 218 rfl) rfl
theorem q1771 : (Jvm.Cond.classLink "PureHouse" (141 : Nat) "PureHouse$Closure") ∈ lw_all := lw_g (lw_at lw_m7 219 rfl) rfl
theorem q1772 : (Jvm.Cond.methodLink "PureHouse" (143 : Nat) ({ cls := "PureHouse$Closure", name := "<init>", desc := "(LPureHouse$Term;LPureHouse$Env;)V" } : Jvm.MethodName)) ∈ lw_all := lw_g (lw_at lw_m7 220 rfl) rfl
theorem q1773 : (Jvm.Cond.methodLink "PureHouse" (267 : Nat) ({ cls := "PureHouse$Judge", name := "found", desc := "()LPureHouse$Closure;" } : Jvm.MethodName)) ∈ lw_all := lw_g (lw_at lw_m7 221 rfl) rfl
theorem q1774 : (Jvm.Cond.methodLink "PureHouse" (181 : Nat) ({ cls := "PureHouse$Machine", name := "same", desc := "(LPureHouse$Closure;LPureHouse$Closure;)Z" } : Jvm.MethodName)) ∈ lw_all := lw_g (lw_at lw_m7 222 rfl) rfl
theorem q1775 : (Jvm.Cond.methodLink "PureHouse" (264 : Nat) ({ cls := "java/util/ArrayList", name := "add", desc := "(Ljava/lang/Object;)Z" } : Jvm.MethodName)) ∈ lw_all := lw_g (lw_at lw_m7 223 rfl) rfl
theorem q1776 : (Jvm.Cond.methodLink "PureHouse" (131 : Nat) ({ cls := "PureHouse", name := "checks", desc := "(LPureHouse$Statement;)V" } : Jvm.MethodName)) ∈ lw_all := lw_g (lw_at lw_m7 224 rfl) rfl
theorem q1777 : (Jvm.Cond.privateMethod ({ cls := "PureHouse", name := "checks", desc := "(LPureHouse$Statement;)V" } : Jvm.MethodName)) ∈ lw_tbl := lw_at lw_m7 225 rfl
theorem q1778 : (Jvm.Cond.instanceMethod ({ cls := "PureHouse", name := "checks", desc := "(LPureHouse$Statement;)V" } : Jvm.MethodName)) ∈ lw_all := lw_g (lw_at lw_m7 226 rfl) rfl
theorem q1779 : (Jvm.Cond.code ({ cls := "PureHouse", name := "checks", desc := "(LPureHouse$Statement;)V" } : Jvm.MethodName) prog_1_method_13_code (2 : Nat) (Option.none : Option Jvm.ClassFile.FieldType)) ∈ lw_all := lw_g (lw_at lw_m7 227 rfl) rfl
theorem q1780 : (Jvm.Cond.methodLink "PureHouse" (146 : Nat) ({ cls := "PureHouse$Machine", name := "tell", desc := "(LPureHouse$Closure;IZZ)V" } : Jvm.MethodName)) ∈ lw_all := lw_g (lw_at lw_m7 228 rfl) rfl
theorem q1821 : (Jvm.Cond.stringRef "PureHouse" (185 : Nat) "yes") ∈ lw_tbl := lw_at lw_m8 29 rfl
theorem q1822 : (Jvm.Cond.methodLink "PureHouse" (189 : Nat) ({ cls := "PureHouse$Machine", name := "put", desc := "(Ljava/lang/String;)V" } : Jvm.MethodName)) ∈ lw_all := lw_g (lw_at lw_m8 30 rfl) rfl
theorem q1823 : (Jvm.Cond.methodLink "PureHouse" (150 : Nat) ({ cls := "PureHouse$Machine", name := "put", desc := "(I)V" } : Jvm.MethodName)) ∈ lw_all := lw_g (lw_at lw_m8 31 rfl) rfl
theorem q1824 : (Jvm.Cond.methodLink "PureHouse" (153 : Nat) ({ cls := "PureHouse$Machine", name := "head", desc := "(LPureHouse$Closure;)V" } : Jvm.MethodName)) ∈ lw_all := lw_g (lw_at lw_m8 32 rfl) rfl
theorem q1825 : (Jvm.Cond.classLink "PureHouse" (158 : Nat) "PureHouse$Lambda") ∈ lw_all := lw_g (lw_at lw_m8 33 rfl) rfl
theorem q1826 : (Jvm.Cond.classLink "PureHouse" (160 : Nat) "PureHouse$Product") ∈ lw_all := lw_g (lw_at lw_m8 34 rfl) rfl
theorem q1827 : (Jvm.Cond.methodLink "PureHouse" (162 : Nat) ({ cls := "PureHouse$Machine", name := "name", desc := "(LPureHouse$Term;)V" } : Jvm.MethodName)) ∈ lw_all := lw_g (lw_at lw_m8 35 rfl) rfl
theorem q1828 : (Jvm.Cond.methodLink "PureHouse" (170 : Nat) ({ cls := "PureHouse$Args", name := "size", desc := "(LPureHouse$Args;)I" } : Jvm.MethodName)) ∈ lw_all := lw_g (lw_at lw_m8 36 rfl) rfl
theorem q1829 : (Jvm.Cond.methodLink "PureHouse" (175 : Nat) ({ cls := "PureHouse$Machine", name := "number", desc := "(I)V" } : Jvm.MethodName)) ∈ lw_all := lw_g (lw_at lw_m8 37 rfl) rfl
theorem q1830 : (Jvm.Cond.stringRef "PureHouse" (187 : Nat) "no") ∈ lw_tbl := lw_at lw_m8 38 rfl
theorem q1836 : (Jvm.Cond.instanceMethod ({ cls := "PureHouse", name := "fault", desc := "(I)I" } : Jvm.MethodName)) ∈ lw_all := lw_g (lw_at lw_m8 44 rfl) rfl
theorem q1837 : (Jvm.Cond.selects "PureHouse" ({ cls := "PureHouse", name := "fault", desc := "(I)I" } : Jvm.MethodName) ({ cls := "PureHouse", name := "fault", desc := "(I)I" } : Jvm.MethodName)) ∈ lw_all := lw_g (lw_at lw_m8 45 rfl) rfl
theorem q1838 : (Jvm.Cond.code ({ cls := "PureHouse", name := "fault", desc := "(I)I" } : Jvm.MethodName) prog_1_method_14_code (2 : Nat) (Option.some Jvm.ClassFile.FieldType.int)) ∈ lw_all := lw_g (lw_at lw_m8 46 rfl) rfl
theorem q1839 : (Jvm.Cond.methodLink "PureHouse" (276 : Nat) ({ cls := "PureHouse", name := "there", desc := "(Z)V" } : Jvm.MethodName)) ∈ lw_all := lw_g (lw_at lw_m8 47 rfl) rfl
theorem q1840 : (Jvm.Cond.static ({ cls := "PureHouse", name := "there", desc := "(Z)V" } : Jvm.MethodName)) ∈ lw_all := lw_g (lw_at lw_m8 48 rfl) rfl
theorem q1841 : (Jvm.Cond.code ({ cls := "PureHouse", name := "there", desc := "(Z)V" } : Jvm.MethodName) prog_1_method_2_code (1 : Nat) (Option.none : Option Jvm.ClassFile.FieldType)) ∈ lw_all := lw_g (lw_at lw_m8 49 rfl) rfl
theorem q1842 : (Jvm.Cond.classLink "PureHouse" (50 : Nat) "java/util/NoSuchElementException") ∈ lw_all := lw_g (lw_at lw_m8 50 rfl) rfl
theorem q1851 : (Jvm.Cond.methodLink "PureHouse" (52 : Nat) ({ cls := "java/util/NoSuchElementException", name := "<init>", desc := "()V" } : Jvm.MethodName)) ∈ lw_all := lw_g (lw_at lw_m8 59 rfl) rfl
theorem q1861 : (Jvm.Cond.instanceMethod ({ cls := "PureHouse", name := "corner", desc := "(I)I" } : Jvm.MethodName)) ∈ lw_all := lw_g (lw_at lw_m8 69 rfl) rfl
theorem q1862 : (Jvm.Cond.selects "PureHouse" ({ cls := "PureHouse", name := "corner", desc := "(I)I" } : Jvm.MethodName) ({ cls := "PureHouse", name := "corner", desc := "(I)I" } : Jvm.MethodName)) ∈ lw_all := lw_g (lw_at lw_m8 70 rfl) rfl
theorem q1863 : (Jvm.Cond.code ({ cls := "PureHouse", name := "corner", desc := "(I)I" } : Jvm.MethodName) prog_1_method_15_code (3 : Nat) (Option.some Jvm.ClassFile.FieldType.int)) ∈ lw_all := lw_g (lw_at lw_m8 71 rfl) rfl
theorem q1864 : (Jvm.Cond.methodLink "PureHouse" (279 : Nat) ({ cls := "java/util/ArrayList", name := "clear", desc := "()V" } : Jvm.MethodName)) ∈ lw_all := lw_g (lw_at lw_m8 72 rfl) rfl
theorem q1872 : (Jvm.Cond.instanceMethod ({ cls := "PureHouse", name := "limit", desc := "(I)I" } : Jvm.MethodName)) ∈ lw_all := lw_g (lw_at lw_m8 80 rfl) rfl
theorem q1873 : (Jvm.Cond.selects "PureHouse" ({ cls := "PureHouse", name := "limit", desc := "(I)I" } : Jvm.MethodName) ({ cls := "PureHouse", name := "limit", desc := "(I)I" } : Jvm.MethodName)) ∈ lw_all := lw_g (lw_at lw_m8 81 rfl) rfl
theorem q1874 : (Jvm.Cond.code ({ cls := "PureHouse", name := "limit", desc := "(I)I" } : Jvm.MethodName) prog_1_method_16_code (3 : Nat) (Option.some Jvm.ClassFile.FieldType.int)) ∈ lw_all := lw_g (lw_at lw_m8 82 rfl) rfl
theorem q1879 : (Jvm.Cond.instanceMethod ({ cls := "PureHouse", name := "out", desc := "(I)I" } : Jvm.MethodName)) ∈ lw_all := lw_g (lw_at lw_m8 87 rfl) rfl
theorem q1880 : (Jvm.Cond.selects "PureHouse" ({ cls := "PureHouse", name := "out", desc := "(I)I" } : Jvm.MethodName) ({ cls := "PureHouse", name := "out", desc := "(I)I" } : Jvm.MethodName)) ∈ lw_all := lw_g (lw_at lw_m8 88 rfl) rfl
theorem q1881 : (Jvm.Cond.code ({ cls := "PureHouse", name := "out", desc := "(I)I" } : Jvm.MethodName) prog_1_method_18_code (2 : Nat) (Option.some Jvm.ClassFile.FieldType.int)) ∈ lw_all := lw_g (lw_at lw_m8 89 rfl) rfl
theorem q1882 : (Jvm.Cond.methodLink "PureHouse" (288 : Nat) ({ cls := "java/lang/Math", name := "min", desc := "(II)I" } : Jvm.MethodName)) ∈ lw_all := lw_g (lw_at lw_m8 90 rfl) rfl
theorem q1887 : (Jvm.Cond.instanceMethod ({ cls := "PureHouse", name := "count", desc := "(I)I" } : Jvm.MethodName)) ∈ lw_all := lw_g (lw_at lw_m8 95 rfl) rfl
theorem q1888 : (Jvm.Cond.selects "PureHouse" ({ cls := "PureHouse", name := "count", desc := "(I)I" } : Jvm.MethodName) ({ cls := "PureHouse", name := "count", desc := "(I)I" } : Jvm.MethodName)) ∈ lw_all := lw_g (lw_at lw_m8 96 rfl) rfl
theorem q1889 : (Jvm.Cond.code ({ cls := "PureHouse", name := "count", desc := "(I)I" } : Jvm.MethodName) prog_1_method_19_code (2 : Nat) (Option.some Jvm.ClassFile.FieldType.int)) ∈ lw_all := lw_g (lw_at lw_m8 97 rfl) rfl
theorem q1890 : (Jvm.Cond.methodLink "PureHouse" (302 : Nat) ({ cls := "PureHouse$Tables", name := "count", desc := "([I)I" } : Jvm.MethodName)) ∈ lw_all := lw_g (lw_at lw_m8 98 rfl) rfl
theorem q1898 : (Jvm.Cond.instanceMethod ({ cls := "PureHouse", name := "name", desc := "(II)I" } : Jvm.MethodName)) ∈ lw_all := lw_g (lw_at lw_m8 106 rfl) rfl
theorem q1899 : (Jvm.Cond.selects "PureHouse" ({ cls := "PureHouse", name := "name", desc := "(II)I" } : Jvm.MethodName) ({ cls := "PureHouse", name := "name", desc := "(II)I" } : Jvm.MethodName)) ∈ lw_all := lw_g (lw_at lw_m8 107 rfl) rfl
theorem q1900 : (Jvm.Cond.code ({ cls := "PureHouse", name := "name", desc := "(II)I" } : Jvm.MethodName) prog_1_method_22_code (4 : Nat) (Option.some Jvm.ClassFile.FieldType.int)) ∈ lw_all := lw_g (lw_at lw_m8 108 rfl) rfl
theorem q1901 : (Jvm.Cond.methodLink "PureHouse" (318 : Nat) ({ cls := "PureHouse", name := "nameAt", desc := "(I)LPureHouse$Name;" } : Jvm.MethodName)) ∈ lw_all := lw_g (lw_at lw_m8 109 rfl) rfl
theorem q1902 : (Jvm.Cond.privateMethod ({ cls := "PureHouse", name := "nameAt", desc := "(I)LPureHouse$Name;" } : Jvm.MethodName)) ∈ lw_tbl := lw_at lw_m8 110 rfl
theorem q1903 : (Jvm.Cond.instanceMethod ({ cls := "PureHouse", name := "nameAt", desc := "(I)LPureHouse$Name;" } : Jvm.MethodName)) ∈ lw_all := lw_g (lw_at lw_m8 111 rfl) rfl
theorem q1904 : (Jvm.Cond.code ({ cls := "PureHouse", name := "nameAt", desc := "(I)LPureHouse$Name;" } : Jvm.MethodName) prog_1_method_21_code (2 : Nat) (Option.some (Jvm.ClassFile.FieldType.object "PureHouse$Name"))) ∈ lw_all := lw_g (lw_at lw_m8 112 rfl) rfl
theorem q1905 : (Jvm.Cond.methodLink "PureHouse" (309 : Nat) ({ cls := "java/lang/String", name := "length", desc := "()I" } : Jvm.MethodName)) ∈ lw_all := lw_g (lw_at lw_m8 113 rfl) rfl
theorem q1906 : (Jvm.Cond.methodLink "PureHouse" (326 : Nat) ({ cls := "PureHouse", name := "signOf", desc := "(Ljava/lang/String;I)I" } : Jvm.MethodName)) ∈ lw_all := lw_g (lw_at lw_m8 114 rfl) rfl
theorem q1907 : (Jvm.Cond.static ({ cls := "PureHouse", name := "signOf", desc := "(Ljava/lang/String;I)I" } : Jvm.MethodName)) ∈ lw_all := lw_g (lw_at lw_m8 115 rfl) rfl
theorem q1908 : (Jvm.Cond.code ({ cls := "PureHouse", name := "signOf", desc := "(Ljava/lang/String;I)I" } : Jvm.MethodName) prog_1_method_20_code (2 : Nat) (Option.some Jvm.ClassFile.FieldType.int)) ∈ lw_all := lw_g (lw_at lw_m8 116 rfl) rfl
theorem q1909 : (Jvm.Cond.methodLink "PureHouse" (314 : Nat) ({ cls := "java/lang/String", name := "charAt", desc := "(I)C" } : Jvm.MethodName)) ∈ lw_all := lw_g (lw_at lw_m8 117 rfl) rfl
theorem q1914 : (Jvm.Cond.instanceMethod ({ cls := "PureHouse", name := "sort", desc := "(II)I" } : Jvm.MethodName)) ∈ lw_all := lw_g (lw_at lw_m8 122 rfl) rfl
theorem q1915 : (Jvm.Cond.selects "PureHouse" ({ cls := "PureHouse", name := "sort", desc := "(II)I" } : Jvm.MethodName) ({ cls := "PureHouse", name := "sort", desc := "(II)I" } : Jvm.MethodName)) ∈ lw_all := lw_g (lw_at lw_m8 123 rfl) rfl
theorem q1916 : (Jvm.Cond.code ({ cls := "PureHouse", name := "sort", desc := "(II)I" } : Jvm.MethodName) prog_1_method_23_code (3 : Nat) (Option.some Jvm.ClassFile.FieldType.int)) ∈ lw_all := lw_g (lw_at lw_m8 124 rfl) rfl
theorem q1921 : (Jvm.Cond.instanceMethod ({ cls := "PureHouse", name := "rule", desc := "(II)I" } : Jvm.MethodName)) ∈ lw_all := lw_g (lw_at lw_m8 129 rfl) rfl
theorem q1922 : (Jvm.Cond.selects "PureHouse" ({ cls := "PureHouse", name := "rule", desc := "(II)I" } : Jvm.MethodName) ({ cls := "PureHouse", name := "rule", desc := "(II)I" } : Jvm.MethodName)) ∈ lw_all := lw_g (lw_at lw_m8 130 rfl) rfl
theorem q1923 : (Jvm.Cond.code ({ cls := "PureHouse", name := "rule", desc := "(II)I" } : Jvm.MethodName) prog_1_method_24_code (3 : Nat) (Option.some Jvm.ClassFile.FieldType.int)) ∈ lw_all := lw_g (lw_at lw_m8 131 rfl) rfl
theorem q1928 : (Jvm.Cond.instanceMethod ({ cls := "PureHouse", name := "type", desc := "(I)I" } : Jvm.MethodName)) ∈ lw_all := lw_g (lw_at lw_m8 136 rfl) rfl
theorem q1929 : (Jvm.Cond.selects "PureHouse" ({ cls := "PureHouse", name := "type", desc := "(I)I" } : Jvm.MethodName) ({ cls := "PureHouse", name := "type", desc := "(I)I" } : Jvm.MethodName)) ∈ lw_all := lw_g (lw_at lw_m8 137 rfl) rfl
theorem q1930 : (Jvm.Cond.codeWith ({ cls := "PureHouse", name := "type", desc := "(I)I" } : Jvm.MethodName) prog_1_method_25_code (4 : Nat) (Option.some Jvm.ClassFile.FieldType.int) [((21 : Nat), (50 : Nat), (51 : Nat), (109 : Nat))]) ∈ lw_all := lw_g (lw_at lw_m8 138 rfl) rfl
theorem q1935 : (Jvm.Cond.instanceMethod ({ cls := "PureHouse", name := "same", desc := "(II)I" } : Jvm.MethodName)) ∈ lw_all := lw_g (lw_at lw_m8 143 rfl) rfl
theorem q1936 : (Jvm.Cond.selects "PureHouse" ({ cls := "PureHouse", name := "same", desc := "(II)I" } : Jvm.MethodName) ({ cls := "PureHouse", name := "same", desc := "(II)I" } : Jvm.MethodName)) ∈ lw_all := lw_g (lw_at lw_m8 144 rfl) rfl
theorem q1937 : (Jvm.Cond.codeWith ({ cls := "PureHouse", name := "same", desc := "(II)I" } : Jvm.MethodName) prog_1_method_26_code (6 : Nat) (Option.some Jvm.ClassFile.FieldType.int) [((20 : Nat), (44 : Nat), (45 : Nat), (109 : Nat))]) ∈ lw_all := lw_g (lw_at lw_m8 145 rfl) rfl
theorem q1938 : (Jvm.Cond.methodLink "PureHouse" (331 : Nat) ({ cls := "PureHouse", name := "named", desc := "(LPureHouse$Name;)LPureHouse$Closure;" } : Jvm.MethodName)) ∈ lw_all := lw_g (lw_at lw_m8 146 rfl) rfl
theorem q1939 : (Jvm.Cond.static ({ cls := "PureHouse", name := "named", desc := "(LPureHouse$Name;)LPureHouse$Closure;" } : Jvm.MethodName)) ∈ lw_all := lw_g (lw_at lw_m8 147 rfl) rfl
theorem q1940 : (Jvm.Cond.code ({ cls := "PureHouse", name := "named", desc := "(LPureHouse$Name;)LPureHouse$Closure;" } : Jvm.MethodName) prog_1_method_27_code (2 : Nat) (Option.some (Jvm.ClassFile.FieldType.object "PureHouse$Closure"))) ∈ lw_all := lw_g (lw_at lw_m8 148 rfl) rfl
theorem q1941 : (Jvm.Cond.classLink "PureHouse" (335 : Nat) "PureHouse$Free") ∈ lw_all := lw_g (lw_at lw_m8 149 rfl) rfl
theorem q1942 : (Jvm.Cond.methodLink "PureHouse" (337 : Nat) ({ cls := "PureHouse$Free", name := "<init>", desc := "(Ljava/lang/String;)V" } : Jvm.MethodName)) ∈ lw_all := lw_g (lw_at lw_m8 150 rfl) rfl
theorem q1948 : (Jvm.Cond.instanceMethod ({ cls := "PureHouse", name := "mark", desc := "()I" } : Jvm.MethodName)) ∈ lw_all := lw_g (lw_at lw_m8 156 rfl) rfl
theorem q1949 : (Jvm.Cond.selects "PureHouse" ({ cls := "PureHouse", name := "mark", desc := "()I" } : Jvm.MethodName) ({ cls := "PureHouse", name := "mark", desc := "()I" } : Jvm.MethodName)) ∈ lw_all := lw_g (lw_at lw_m8 157 rfl) rfl
theorem q1950 : (Jvm.Cond.code ({ cls := "PureHouse", name := "mark", desc := "()I" } : Jvm.MethodName) prog_1_method_28_code (1 : Nat) (Option.some Jvm.ClassFile.FieldType.int)) ∈ lw_all := lw_g (lw_at lw_m8 158 rfl) rfl
theorem q1951 : (Jvm.Cond.methodLink "PureHouse" (343 : Nat) ({ cls := "PureHouse", name := "able", desc := "(Z)V" } : Jvm.MethodName)) ∈ lw_all := lw_g (lw_at lw_m8 159 rfl) rfl
theorem q1952 : (Jvm.Cond.static ({ cls := "PureHouse", name := "able", desc := "(Z)V" } : Jvm.MethodName)) ∈ lw_all := lw_g (lw_at lw_m8 160 rfl) rfl
theorem q1953 : (Jvm.Cond.code ({ cls := "PureHouse", name := "able", desc := "(Z)V" } : Jvm.MethodName) prog_1_method_4_code (1 : Nat) (Option.none : Option Jvm.ClassFile.FieldType)) ∈ lw_all := lw_g (lw_at lw_m8 161 rfl) rfl
theorem q1954 : (Jvm.Cond.classLink "PureHouse" (56 : Nat) "java/lang/IllegalStateException") ∈ lw_all := lw_g (lw_at lw_m8 162 rfl) rfl
theorem q1963 : (Jvm.Cond.methodLink "PureHouse" (58 : Nat) ({ cls := "java/lang/IllegalStateException", name := "<init>", desc := "()V" } : Jvm.MethodName)) ∈ lw_all := lw_g (lw_at lw_m8 171 rfl) rfl
theorem q1973 : (Jvm.Cond.instanceMethod ({ cls := "PureHouse", name := "back", desc := "()I" } : Jvm.MethodName)) ∈ lw_all := lw_g (lw_at lw_m8 181 rfl) rfl
theorem q1974 : (Jvm.Cond.selects "PureHouse" ({ cls := "PureHouse", name := "back", desc := "()I" } : Jvm.MethodName) ({ cls := "PureHouse", name := "back", desc := "()I" } : Jvm.MethodName)) ∈ lw_all := lw_g (lw_at lw_m8 182 rfl) rfl
theorem q1975 : (Jvm.Cond.code ({ cls := "PureHouse", name := "back", desc := "()I" } : Jvm.MethodName) prog_1_method_29_code (1 : Nat) (Option.some Jvm.ClassFile.FieldType.int)) ∈ lw_all := lw_g (lw_at lw_m8 183 rfl) rfl
theorem q1976 : (Jvm.Cond.methodLink "PureHouse" (346 : Nat) ({ cls := "java/util/ArrayList", name := "remove", desc := "(I)Ljava/lang/Object;" } : Jvm.MethodName)) ∈ lw_all := lw_g (lw_at lw_m8 184 rfl) rfl
theorem q2573 : (Jvm.Cond.castable "PureHouse" "java/lang/Object") ∈ lw_tbl := lw_at lw_m11 61 rfl
theorem in_X1 : ∀ w ∈ wsX10, w ∈ lw_all := lw_in wsX10 [334, 336, 338, 340, 342, 344, 346, 348, 350, 352] (by decide +kernel) (by decide +kernel)

/-! PureHouse$Tables -/
set_option maxRecDepth 100000
def RX2 : String := "PureHouse$Tables"
def TX2 : u_T := fun k => match k with
  | 0 => ("PureHouse$Tables", "names", "[Ljava/lang/String;", true)
  | 1 => ("PureHouse$Tables", "axioms", "[I", true)
  | 2 => ("PureHouse$Tables", "rules", "[I", true)
  | _ => ("PureHouse$Tables", "many", "I", false)
def tyX2 : Nat → FieldType := fun k => match k with
  | 0 => .array (.object "java/lang/String")
  | 1 => .array .int
  | 2 => .array .int
  | _ => .int
abbrev wsX20 : List Cond := u_ws RX2 TX2 4
theorem nmX2 : ∀ a, a < 4 → ∀ b, b < 4 → a ≠ b → (TX2 a).2.1 ≠ (TX2 b).2.1 := by decide +kernel
theorem tyX2_ok : ∀ k, k < 4 → parseFieldDescriptor (TX2 k).2.2.1 = some (tyX2 k) := by decide +kernel
abbrev cX2_init : ByteArray := prog_22_method_1_code
def yX2_init : MethodName := ⟨RX2, "<init>", "()V"⟩
theorem dX2_init_0 : decode cX2_init 0 = .ok (.aload_n 0, 1) := by decide +kernel
theorem dX2_init_1 : decode cX2_init 1 = .ok (.invokespecial 3, 3) := by decide +kernel
theorem dX2_init_4 : decode cX2_init 4 = .ok (.aload_n 0, 1) := by decide +kernel
theorem dX2_init_5 : decode cX2_init 5 = .ok (.bipush 8, 2) := by decide +kernel
theorem dX2_init_7 : decode cX2_init 7 = .ok (.anewarray 9, 3) := by decide +kernel
theorem dX2_init_10 : decode cX2_init 10 = .ok (.putfield 11, 3) := by decide +kernel
theorem dX2_init_13 : decode cX2_init 13 = .ok (.aload_n 0, 1) := by decide +kernel
theorem dX2_init_14 : decode cX2_init 14 = .ok (.bipush 8, 2) := by decide +kernel
theorem dX2_init_16 : decode cX2_init 16 = .ok (.newarray .int, 2) := by decide +kernel
theorem dX2_init_18 : decode cX2_init 18 = .ok (.putfield 17, 3) := by decide +kernel
theorem dX2_init_21 : decode cX2_init 21 = .ok (.aload_n 0, 1) := by decide +kernel
theorem dX2_init_22 : decode cX2_init 22 = .ok (.bipush 64, 2) := by decide +kernel
theorem dX2_init_24 : decode cX2_init 24 = .ok (.newarray .int, 2) := by decide +kernel
theorem dX2_init_26 : decode cX2_init 26 = .ok (.putfield 21, 3) := by decide +kernel
theorem dX2_init_29 : decode cX2_init 29 = .ok (.return_, 1) := by decide +kernel
abbrev cX2_corner : ByteArray := prog_22_method_7_code
def yX2_corner : MethodName := ⟨RX2, "corner", "(I)V"⟩
theorem dX2_corner_0 : decode cX2_corner 0 = .ok (.aload_n 0, 1) := by decide +kernel
theorem dX2_corner_1 : decode cX2_corner 1 = .ok (.invokevirtual 32, 3) := by decide +kernel
theorem dX2_corner_4 : decode cX2_corner 4 = .ok (.iload_n 1, 1) := by decide +kernel
theorem dX2_corner_5 : decode cX2_corner 5 = .ok (.bipush 8, 2) := by decide +kernel
theorem dX2_corner_7 : decode cX2_corner 7 = .ok (.if_icmp .ne 4, 3) := by decide +kernel
theorem dX2_corner_10 : decode cX2_corner 10 = .ok (.return_, 1) := by decide +kernel
theorem dX2_corner_11 : decode cX2_corner 11 = .ok (.aload_n 0, 1) := by decide +kernel
theorem dX2_corner_12 : decode cX2_corner 12 = .ok (.ldc 35, 2) := by decide +kernel
theorem dX2_corner_14 : decode cX2_corner 14 = .ok (.invokevirtual 37, 3) := by decide +kernel
theorem dX2_corner_17 : decode cX2_corner 17 = .ok (.aload_n 0, 1) := by decide +kernel
theorem dX2_corner_18 : decode cX2_corner 18 = .ok (.ldc 41, 2) := by decide +kernel
theorem dX2_corner_20 : decode cX2_corner 20 = .ok (.invokevirtual 37, 3) := by decide +kernel
theorem dX2_corner_23 : decode cX2_corner 23 = .ok (.aload_n 0, 1) := by decide +kernel
theorem dX2_corner_24 : decode cX2_corner 24 = .ok (.getfield 17, 3) := by decide +kernel
theorem dX2_corner_27 : decode cX2_corner 27 = .ok (.iconst 0, 1) := by decide +kernel
theorem dX2_corner_28 : decode cX2_corner 28 = .ok (.iconst 1, 1) := by decide +kernel
theorem dX2_corner_29 : decode cX2_corner 29 = .ok (.iastore, 1) := by decide +kernel
theorem dX2_corner_30 : decode cX2_corner 30 = .ok (.aload_n 0, 1) := by decide +kernel
theorem dX2_corner_31 : decode cX2_corner 31 = .ok (.getfield 21, 3) := by decide +kernel
theorem dX2_corner_34 : decode cX2_corner 34 = .ok (.iconst 0, 1) := by decide +kernel
theorem dX2_corner_35 : decode cX2_corner 35 = .ok (.iconst 0, 1) := by decide +kernel
theorem dX2_corner_36 : decode cX2_corner 36 = .ok (.iastore, 1) := by decide +kernel
theorem dX2_corner_37 : decode cX2_corner 37 = .ok (.iload_n 1, 1) := by decide +kernel
theorem dX2_corner_38 : decode cX2_corner 38 = .ok (.iconst 1, 1) := by decide +kernel
theorem dX2_corner_39 : decode cX2_corner 39 = .ok (.iand, 1) := by decide +kernel
theorem dX2_corner_40 : decode cX2_corner 40 = .ok (.ifCond .eq 11, 3) := by decide +kernel
theorem dX2_corner_43 : decode cX2_corner 43 = .ok (.aload_n 0, 1) := by decide +kernel
theorem dX2_corner_44 : decode cX2_corner 44 = .ok (.getfield 21, 3) := by decide +kernel
theorem dX2_corner_47 : decode cX2_corner 47 = .ok (.bipush 8, 2) := by decide +kernel
theorem dX2_corner_49 : decode cX2_corner 49 = .ok (.iconst 0, 1) := by decide +kernel
theorem dX2_corner_50 : decode cX2_corner 50 = .ok (.iastore, 1) := by decide +kernel
theorem dX2_corner_51 : decode cX2_corner 51 = .ok (.iload_n 1, 1) := by decide +kernel
theorem dX2_corner_52 : decode cX2_corner 52 = .ok (.iconst 2, 1) := by decide +kernel
theorem dX2_corner_53 : decode cX2_corner 53 = .ok (.iand, 1) := by decide +kernel
theorem dX2_corner_54 : decode cX2_corner 54 = .ok (.ifCond .eq 11, 3) := by decide +kernel
theorem dX2_corner_57 : decode cX2_corner 57 = .ok (.aload_n 0, 1) := by decide +kernel
theorem dX2_corner_58 : decode cX2_corner 58 = .ok (.getfield 21, 3) := by decide +kernel
theorem dX2_corner_61 : decode cX2_corner 61 = .ok (.bipush 9, 2) := by decide +kernel
theorem dX2_corner_63 : decode cX2_corner 63 = .ok (.iconst 1, 1) := by decide +kernel
theorem dX2_corner_64 : decode cX2_corner 64 = .ok (.iastore, 1) := by decide +kernel
theorem dX2_corner_65 : decode cX2_corner 65 = .ok (.iload_n 1, 1) := by decide +kernel
theorem dX2_corner_66 : decode cX2_corner 66 = .ok (.iconst 4, 1) := by decide +kernel
theorem dX2_corner_67 : decode cX2_corner 67 = .ok (.iand, 1) := by decide +kernel
theorem dX2_corner_68 : decode cX2_corner 68 = .ok (.ifCond .eq 10, 3) := by decide +kernel
theorem dX2_corner_71 : decode cX2_corner 71 = .ok (.aload_n 0, 1) := by decide +kernel
theorem dX2_corner_72 : decode cX2_corner 72 = .ok (.getfield 21, 3) := by decide +kernel
theorem dX2_corner_75 : decode cX2_corner 75 = .ok (.iconst 1, 1) := by decide +kernel
theorem dX2_corner_76 : decode cX2_corner 76 = .ok (.iconst 1, 1) := by decide +kernel
theorem dX2_corner_77 : decode cX2_corner 77 = .ok (.iastore, 1) := by decide +kernel
theorem dX2_corner_78 : decode cX2_corner 78 = .ok (.return_, 1) := by decide +kernel
abbrev cX2_clear : ByteArray := prog_22_method_2_code
def yX2_clear : MethodName := ⟨RX2, "clear", "()V"⟩
theorem dX2_clear_0 : decode cX2_clear 0 = .ok (.aload_n 0, 1) := by decide +kernel
theorem dX2_clear_1 : decode cX2_clear 1 = .ok (.iconst 0, 1) := by decide +kernel
theorem dX2_clear_2 : decode cX2_clear 2 = .ok (.putfield 24, 3) := by decide +kernel
theorem dX2_clear_5 : decode cX2_clear 5 = .ok (.iconst 0, 1) := by decide +kernel
theorem dX2_clear_6 : decode cX2_clear 6 = .ok (.istore_n 1, 1) := by decide +kernel
theorem dX2_clear_7 : decode cX2_clear 7 = .ok (.iload_n 1, 1) := by decide +kernel
theorem dX2_clear_8 : decode cX2_clear 8 = .ok (.bipush 8, 2) := by decide +kernel
theorem dX2_clear_10 : decode cX2_clear 10 = .ok (.if_icmp .ge 16, 3) := by decide +kernel
theorem dX2_clear_13 : decode cX2_clear 13 = .ok (.aload_n 0, 1) := by decide +kernel
theorem dX2_clear_14 : decode cX2_clear 14 = .ok (.getfield 17, 3) := by decide +kernel
theorem dX2_clear_17 : decode cX2_clear 17 = .ok (.iload_n 1, 1) := by decide +kernel
theorem dX2_clear_18 : decode cX2_clear 18 = .ok (.iconst (-1), 1) := by decide +kernel
theorem dX2_clear_19 : decode cX2_clear 19 = .ok (.iastore, 1) := by decide +kernel
theorem dX2_clear_20 : decode cX2_clear 20 = .ok (.iinc 1 1, 3) := by decide +kernel
theorem dX2_clear_23 : decode cX2_clear 23 = .ok (.goto (-16), 3) := by decide +kernel
theorem dX2_clear_26 : decode cX2_clear 26 = .ok (.iconst 0, 1) := by decide +kernel
theorem dX2_clear_27 : decode cX2_clear 27 = .ok (.istore_n 1, 1) := by decide +kernel
theorem dX2_clear_28 : decode cX2_clear 28 = .ok (.iload_n 1, 1) := by decide +kernel
theorem dX2_clear_29 : decode cX2_clear 29 = .ok (.bipush 64, 2) := by decide +kernel
theorem dX2_clear_31 : decode cX2_clear 31 = .ok (.if_icmp .ge 16, 3) := by decide +kernel
theorem dX2_clear_34 : decode cX2_clear 34 = .ok (.aload_n 0, 1) := by decide +kernel
theorem dX2_clear_35 : decode cX2_clear 35 = .ok (.getfield 21, 3) := by decide +kernel
theorem dX2_clear_38 : decode cX2_clear 38 = .ok (.iload_n 1, 1) := by decide +kernel
theorem dX2_clear_39 : decode cX2_clear 39 = .ok (.iconst (-1), 1) := by decide +kernel
theorem dX2_clear_40 : decode cX2_clear 40 = .ok (.iastore, 1) := by decide +kernel
theorem dX2_clear_41 : decode cX2_clear 41 = .ok (.iinc 1 1, 3) := by decide +kernel
theorem dX2_clear_44 : decode cX2_clear 44 = .ok (.goto (-16), 3) := by decide +kernel
theorem dX2_clear_47 : decode cX2_clear 47 = .ok (.return_, 1) := by decide +kernel
abbrev cX2_add : ByteArray := prog_22_method_3_code
def yX2_add : MethodName := ⟨RX2, "add", "(Ljava/lang/String;)V"⟩
theorem dX2_add_0 : decode cX2_add 0 = .ok (.aload_n 0, 1) := by decide +kernel
theorem dX2_add_1 : decode cX2_add 1 = .ok (.getfield 11, 3) := by decide +kernel
theorem dX2_add_4 : decode cX2_add 4 = .ok (.aload_n 0, 1) := by decide +kernel
theorem dX2_add_5 : decode cX2_add 5 = .ok (.getfield 24, 3) := by decide +kernel
theorem dX2_add_8 : decode cX2_add 8 = .ok (.aload_n 1, 1) := by decide +kernel
theorem dX2_add_9 : decode cX2_add 9 = .ok (.aastore, 1) := by decide +kernel
theorem dX2_add_10 : decode cX2_add 10 = .ok (.aload_n 0, 1) := by decide +kernel
theorem dX2_add_11 : decode cX2_add 11 = .ok (.dup, 1) := by decide +kernel
theorem dX2_add_12 : decode cX2_add 12 = .ok (.getfield 24, 3) := by decide +kernel
theorem dX2_add_15 : decode cX2_add 15 = .ok (.iconst 1, 1) := by decide +kernel
theorem dX2_add_16 : decode cX2_add 16 = .ok (.iadd, 1) := by decide +kernel
theorem dX2_add_17 : decode cX2_add 17 = .ok (.putfield 24, 3) := by decide +kernel
theorem dX2_add_20 : decode cX2_add 20 = .ok (.return_, 1) := by decide +kernel
abbrev cX2_find : ByteArray := prog_22_method_4_code
def yX2_find : MethodName := ⟨RX2, "find", "(Ljava/lang/String;)I"⟩
theorem dX2_find_0 : decode cX2_find 0 = .ok (.iconst 0, 1) := by decide +kernel
theorem dX2_find_1 : decode cX2_find 1 = .ok (.istore_n 2, 1) := by decide +kernel
theorem dX2_find_2 : decode cX2_find 2 = .ok (.iload_n 2, 1) := by decide +kernel
theorem dX2_find_3 : decode cX2_find 3 = .ok (.aload_n 0, 1) := by decide +kernel
theorem dX2_find_4 : decode cX2_find 4 = .ok (.getfield 24, 3) := by decide +kernel
theorem dX2_find_7 : decode cX2_find 7 = .ok (.if_icmp .ge 24, 3) := by decide +kernel
theorem dX2_find_10 : decode cX2_find 10 = .ok (.aload_n 0, 1) := by decide +kernel
theorem dX2_find_11 : decode cX2_find 11 = .ok (.getfield 11, 3) := by decide +kernel
theorem dX2_find_14 : decode cX2_find 14 = .ok (.iload_n 2, 1) := by decide +kernel
theorem dX2_find_15 : decode cX2_find 15 = .ok (.aaload, 1) := by decide +kernel
theorem dX2_find_16 : decode cX2_find 16 = .ok (.aload_n 1, 1) := by decide +kernel
theorem dX2_find_17 : decode cX2_find 17 = .ok (.invokevirtual 28, 3) := by decide +kernel
theorem dX2_find_20 : decode cX2_find 20 = .ok (.ifCond .eq 5, 3) := by decide +kernel
theorem dX2_find_23 : decode cX2_find 23 = .ok (.iload_n 2, 1) := by decide +kernel
theorem dX2_find_24 : decode cX2_find 24 = .ok (.ireturn, 1) := by decide +kernel
theorem dX2_find_25 : decode cX2_find 25 = .ok (.iinc 2 1, 3) := by decide +kernel
theorem dX2_find_28 : decode cX2_find 28 = .ok (.goto (-26), 3) := by decide +kernel
theorem dX2_find_31 : decode cX2_find 31 = .ok (.iconst (-1), 1) := by decide +kernel
theorem dX2_find_32 : decode cX2_find 32 = .ok (.ireturn, 1) := by decide +kernel
abbrev cX2_rule : ByteArray := prog_22_method_6_code
def yX2_rule : MethodName := ⟨RX2, "rule", "(II)I"⟩
theorem dX2_rule_0 : decode cX2_rule 0 = .ok (.aload_n 0, 1) := by decide +kernel
theorem dX2_rule_1 : decode cX2_rule 1 = .ok (.getfield 21, 3) := by decide +kernel
theorem dX2_rule_4 : decode cX2_rule 4 = .ok (.bipush 8, 2) := by decide +kernel
theorem dX2_rule_6 : decode cX2_rule 6 = .ok (.iload_n 1, 1) := by decide +kernel
theorem dX2_rule_7 : decode cX2_rule 7 = .ok (.imul, 1) := by decide +kernel
theorem dX2_rule_8 : decode cX2_rule 8 = .ok (.iload_n 2, 1) := by decide +kernel
theorem dX2_rule_9 : decode cX2_rule 9 = .ok (.iadd, 1) := by decide +kernel
theorem dX2_rule_10 : decode cX2_rule 10 = .ok (.iaload, 1) := by decide +kernel
theorem dX2_rule_11 : decode cX2_rule 11 = .ok (.ireturn, 1) := by decide +kernel
abbrev cX2_axiom : ByteArray := prog_22_method_5_code
def yX2_axiom : MethodName := ⟨RX2, "axiom", "(I)I"⟩
theorem dX2_axiom_0 : decode cX2_axiom 0 = .ok (.iload_n 1, 1) := by decide +kernel
theorem dX2_axiom_1 : decode cX2_axiom 1 = .ok (.iconst (-1), 1) := by decide +kernel
theorem dX2_axiom_2 : decode cX2_axiom 2 = .ok (.if_icmp .ne 7, 3) := by decide +kernel
theorem dX2_axiom_5 : decode cX2_axiom 5 = .ok (.iconst (-1), 1) := by decide +kernel
theorem dX2_axiom_6 : decode cX2_axiom 6 = .ok (.goto 9, 3) := by decide +kernel
theorem dX2_axiom_9 : decode cX2_axiom 9 = .ok (.aload_n 0, 1) := by decide +kernel
theorem dX2_axiom_10 : decode cX2_axiom 10 = .ok (.getfield 17, 3) := by decide +kernel
theorem dX2_axiom_13 : decode cX2_axiom 13 = .ok (.iload_n 1, 1) := by decide +kernel
theorem dX2_axiom_14 : decode cX2_axiom 14 = .ok (.iaload, 1) := by decide +kernel
theorem dX2_axiom_15 : decode cX2_axiom 15 = .ok (.ireturn, 1) := by decide +kernel
abbrev cX2_count : ByteArray := prog_22_method_8_code
def yX2_count : MethodName := ⟨RX2, "count", "([I)I"⟩
theorem dX2_count_0 : decode cX2_count 0 = .ok (.iconst 0, 1) := by decide +kernel
theorem dX2_count_1 : decode cX2_count 1 = .ok (.istore_n 2, 1) := by decide +kernel
theorem dX2_count_2 : decode cX2_count 2 = .ok (.iconst 0, 1) := by decide +kernel
theorem dX2_count_3 : decode cX2_count 3 = .ok (.istore_n 3, 1) := by decide +kernel
theorem dX2_count_4 : decode cX2_count 4 = .ok (.iload_n 3, 1) := by decide +kernel
theorem dX2_count_5 : decode cX2_count 5 = .ok (.aload_n 1, 1) := by decide +kernel
theorem dX2_count_6 : decode cX2_count 6 = .ok (.arraylength, 1) := by decide +kernel
theorem dX2_count_7 : decode cX2_count 7 = .ok (.if_icmp .ge 24, 3) := by decide +kernel
theorem dX2_count_10 : decode cX2_count 10 = .ok (.iload_n 2, 1) := by decide +kernel
theorem dX2_count_11 : decode cX2_count 11 = .ok (.aload_n 1, 1) := by decide +kernel
theorem dX2_count_12 : decode cX2_count 12 = .ok (.iload_n 3, 1) := by decide +kernel
theorem dX2_count_13 : decode cX2_count 13 = .ok (.iaload, 1) := by decide +kernel
theorem dX2_count_14 : decode cX2_count 14 = .ok (.iconst (-1), 1) := by decide +kernel
theorem dX2_count_15 : decode cX2_count 15 = .ok (.if_icmp .eq 7, 3) := by decide +kernel
theorem dX2_count_18 : decode cX2_count 18 = .ok (.iconst 1, 1) := by decide +kernel
theorem dX2_count_19 : decode cX2_count 19 = .ok (.goto 4, 3) := by decide +kernel
theorem dX2_count_22 : decode cX2_count 22 = .ok (.iconst 0, 1) := by decide +kernel
theorem dX2_count_23 : decode cX2_count 23 = .ok (.iadd, 1) := by decide +kernel
theorem dX2_count_24 : decode cX2_count 24 = .ok (.istore_n 2, 1) := by decide +kernel
theorem dX2_count_25 : decode cX2_count 25 = .ok (.iinc 3 1, 3) := by decide +kernel
theorem dX2_count_28 : decode cX2_count 28 = .ok (.goto (-24), 3) := by decide +kernel
theorem dX2_count_31 : decode cX2_count 31 = .ok (.iload_n 2, 1) := by decide +kernel
theorem dX2_count_32 : decode cX2_count 32 = .ok (.ireturn, 1) := by decide +kernel
theorem q114 : (Jvm.Cond.initialized "PureHouse$Tables") ∈ lw_all := lw_g (lw_at lw_m1 2 rfl) rfl
theorem q171 : (Jvm.Cond.instantiable "PureHouse$Tables" (4 : Nat)) ∈ lw_all := lw_g (lw_at lw_m1 59 rfl) rfl
theorem q173 : (Jvm.Cond.instanceMethod ({ cls := "PureHouse$Tables", name := "<init>", desc := "()V" } : Jvm.MethodName)) ∈ lw_all := lw_g (lw_at lw_m1 61 rfl) rfl
theorem q174 : (Jvm.Cond.code ({ cls := "PureHouse$Tables", name := "<init>", desc := "()V" } : Jvm.MethodName) prog_22_method_1_code (1 : Nat) (Option.none : Option Jvm.ClassFile.FieldType)) ∈ lw_all := lw_g (lw_at lw_m1 62 rfl) rfl
theorem q175 : (Jvm.Cond.methodLink "PureHouse$Tables" (3 : Nat) ({ cls := "java/lang/Object", name := "<init>", desc := "()V" } : Jvm.MethodName)) ∈ lw_all := lw_g (lw_at lw_m1 63 rfl) rfl
theorem q176 : (Jvm.Cond.classLink "PureHouse$Tables" (9 : Nat) "java/lang/String") ∈ lw_all := lw_g (lw_at lw_m1 64 rfl) rfl
theorem q178 : (Jvm.Cond.fieldLink "PureHouse$Tables" (11 : Nat) "PureHouse$Tables" "names" "[Ljava/lang/String;") ∈ lw_all := lw_g (lw_at lw_m1 66 rfl) rfl
theorem q182 : (Jvm.Cond.fieldLink "PureHouse$Tables" (17 : Nat) "PureHouse$Tables" "axioms" "[I") ∈ lw_all := lw_g (lw_at lw_m1 70 rfl) rfl
theorem q184 : (Jvm.Cond.fieldLink "PureHouse$Tables" (21 : Nat) "PureHouse$Tables" "rules" "[I") ∈ lw_all := lw_g (lw_at lw_m1 72 rfl) rfl
theorem q186 : (Jvm.Cond.fieldLink "PureHouse$Tables" (24 : Nat) "PureHouse$Tables" "many" "I") ∈ lw_all := lw_g (lw_at lw_m1 74 rfl) rfl
theorem q188 : (Jvm.Cond.laysFinal "PureHouse$Tables" "PureHouse$Tables" "names" "[Ljava/lang/String;") ∈ lw_all := lw_g (lw_at lw_m1 76 rfl) rfl
theorem q189 : (Jvm.Cond.soleField "PureHouse$Tables" "names") ∈ lw_all := lw_g (lw_at lw_m1 77 rfl) rfl
theorem q190 : (Jvm.Cond.laysFinal "PureHouse$Tables" "PureHouse$Tables" "axioms" "[I") ∈ lw_all := lw_g (lw_at lw_m1 78 rfl) rfl
theorem q191 : (Jvm.Cond.soleField "PureHouse$Tables" "axioms") ∈ lw_all := lw_g (lw_at lw_m1 79 rfl) rfl
theorem q192 : (Jvm.Cond.laysFinal "PureHouse$Tables" "PureHouse$Tables" "rules" "[I") ∈ lw_all := lw_g (lw_at lw_m1 80 rfl) rfl
theorem q193 : (Jvm.Cond.soleField "PureHouse$Tables" "rules") ∈ lw_all := lw_g (lw_at lw_m1 81 rfl) rfl
theorem q194 : (Jvm.Cond.lays "PureHouse$Tables" "PureHouse$Tables" "many" "I") ∈ lw_all := lw_g (lw_at lw_m1 82 rfl) rfl
theorem q195 : (Jvm.Cond.soleField "PureHouse$Tables" "many") ∈ lw_all := lw_g (lw_at lw_m1 83 rfl) rfl
theorem q196 : (Jvm.Cond.superclass "PureHouse$Tables" "java/lang/Object") ∈ lw_all := lw_g (lw_at lw_m1 84 rfl) rfl
theorem q311 : (Jvm.Cond.instanceMethod ({ cls := "PureHouse$Tables", name := "corner", desc := "(I)V" } : Jvm.MethodName)) ∈ lw_all := lw_g (lw_at lw_m1 199 rfl) rfl
theorem q312 : (Jvm.Cond.selects "PureHouse$Tables" ({ cls := "PureHouse$Tables", name := "corner", desc := "(I)V" } : Jvm.MethodName) ({ cls := "PureHouse$Tables", name := "corner", desc := "(I)V" } : Jvm.MethodName)) ∈ lw_all := lw_g (lw_at lw_m1 200 rfl) rfl
theorem q313 : (Jvm.Cond.code ({ cls := "PureHouse$Tables", name := "corner", desc := "(I)V" } : Jvm.MethodName) prog_22_method_7_code (2 : Nat) (Option.none : Option Jvm.ClassFile.FieldType)) ∈ lw_all := lw_g (lw_at lw_m1 201 rfl) rfl
theorem q314 : (Jvm.Cond.methodLink "PureHouse$Tables" (32 : Nat) ({ cls := "PureHouse$Tables", name := "clear", desc := "()V" } : Jvm.MethodName)) ∈ lw_all := lw_g (lw_at lw_m1 202 rfl) rfl
theorem q315 : (Jvm.Cond.instanceMethod ({ cls := "PureHouse$Tables", name := "clear", desc := "()V" } : Jvm.MethodName)) ∈ lw_all := lw_g (lw_at lw_m1 203 rfl) rfl
theorem q316 : (Jvm.Cond.selects "PureHouse$Tables" ({ cls := "PureHouse$Tables", name := "clear", desc := "()V" } : Jvm.MethodName) ({ cls := "PureHouse$Tables", name := "clear", desc := "()V" } : Jvm.MethodName)) ∈ lw_all := lw_g (lw_at lw_m1 204 rfl) rfl
theorem q317 : (Jvm.Cond.code ({ cls := "PureHouse$Tables", name := "clear", desc := "()V" } : Jvm.MethodName) prog_22_method_2_code (2 : Nat) (Option.none : Option Jvm.ClassFile.FieldType)) ∈ lw_all := lw_g (lw_at lw_m1 205 rfl) rfl
theorem q318 : (Jvm.Cond.stringRef "PureHouse$Tables" (35 : Nat) "type") ∈ lw_tbl := lw_at lw_m1 206 rfl
theorem q319 : (Jvm.Cond.methodLink "PureHouse$Tables" (37 : Nat) ({ cls := "PureHouse$Tables", name := "add", desc := "(Ljava/lang/String;)V" } : Jvm.MethodName)) ∈ lw_all := lw_g (lw_at lw_m1 207 rfl) rfl
theorem q320 : (Jvm.Cond.instanceMethod ({ cls := "PureHouse$Tables", name := "add", desc := "(Ljava/lang/String;)V" } : Jvm.MethodName)) ∈ lw_all := lw_g (lw_at lw_m1 208 rfl) rfl
theorem q321 : (Jvm.Cond.selects "PureHouse$Tables" ({ cls := "PureHouse$Tables", name := "add", desc := "(Ljava/lang/String;)V" } : Jvm.MethodName) ({ cls := "PureHouse$Tables", name := "add", desc := "(Ljava/lang/String;)V" } : Jvm.MethodName)) ∈ lw_all := lw_g (lw_at lw_m1 209 rfl) rfl
theorem q322 : (Jvm.Cond.code ({ cls := "PureHouse$Tables", name := "add", desc := "(Ljava/lang/String;)V" } : Jvm.MethodName) prog_22_method_3_code (2 : Nat) (Option.none : Option Jvm.ClassFile.FieldType)) ∈ lw_all := lw_g (lw_at lw_m1 210 rfl) rfl
theorem q323 : (Jvm.Cond.stringRef "PureHouse$Tables" (41 : Nat) "kind") ∈ lw_tbl := lw_at lw_m1 211 rfl
theorem q1123 : (Jvm.Cond.selects "PureHouse$Tables" ({ cls := "java/lang/Object", name := "getClass", desc := "()Ljava/lang/Class;" } : Jvm.MethodName) ({ cls := "java/lang/Object", name := "getClass", desc := "()Ljava/lang/Class;" } : Jvm.MethodName)) ∈ lw_all := lw_g (lw_at lw_m5 51 rfl) rfl
theorem q1350 : (Jvm.Cond.instanceMethod ({ cls := "PureHouse$Tables", name := "find", desc := "(Ljava/lang/String;)I" } : Jvm.MethodName)) ∈ lw_all := lw_g (lw_at lw_m6 38 rfl) rfl
theorem q1351 : (Jvm.Cond.selects "PureHouse$Tables" ({ cls := "PureHouse$Tables", name := "find", desc := "(Ljava/lang/String;)I" } : Jvm.MethodName) ({ cls := "PureHouse$Tables", name := "find", desc := "(Ljava/lang/String;)I" } : Jvm.MethodName)) ∈ lw_all := lw_g (lw_at lw_m6 39 rfl) rfl
theorem q1352 : (Jvm.Cond.code ({ cls := "PureHouse$Tables", name := "find", desc := "(Ljava/lang/String;)I" } : Jvm.MethodName) prog_22_method_4_code (3 : Nat) (Option.some Jvm.ClassFile.FieldType.int)) ∈ lw_all := lw_g (lw_at lw_m6 40 rfl) rfl
theorem q1353 : (Jvm.Cond.methodLink "PureHouse$Tables" (28 : Nat) ({ cls := "java/lang/String", name := "equals", desc := "(Ljava/lang/Object;)Z" } : Jvm.MethodName)) ∈ lw_all := lw_g (lw_at lw_m6 41 rfl) rfl
theorem q1361 : (Jvm.Cond.instanceMethod ({ cls := "PureHouse$Tables", name := "rule", desc := "(II)I" } : Jvm.MethodName)) ∈ lw_all := lw_g (lw_at lw_m6 49 rfl) rfl
theorem q1362 : (Jvm.Cond.selects "PureHouse$Tables" ({ cls := "PureHouse$Tables", name := "rule", desc := "(II)I" } : Jvm.MethodName) ({ cls := "PureHouse$Tables", name := "rule", desc := "(II)I" } : Jvm.MethodName)) ∈ lw_all := lw_g (lw_at lw_m6 50 rfl) rfl
theorem q1363 : (Jvm.Cond.code ({ cls := "PureHouse$Tables", name := "rule", desc := "(II)I" } : Jvm.MethodName) prog_22_method_6_code (3 : Nat) (Option.some Jvm.ClassFile.FieldType.int)) ∈ lw_all := lw_g (lw_at lw_m6 51 rfl) rfl
theorem q1403 : (Jvm.Cond.instanceMethod ({ cls := "PureHouse$Tables", name := "axiom", desc := "(I)I" } : Jvm.MethodName)) ∈ lw_all := lw_g (lw_at lw_m6 91 rfl) rfl
theorem q1404 : (Jvm.Cond.selects "PureHouse$Tables" ({ cls := "PureHouse$Tables", name := "axiom", desc := "(I)I" } : Jvm.MethodName) ({ cls := "PureHouse$Tables", name := "axiom", desc := "(I)I" } : Jvm.MethodName)) ∈ lw_all := lw_g (lw_at lw_m6 92 rfl) rfl
theorem q1405 : (Jvm.Cond.code ({ cls := "PureHouse$Tables", name := "axiom", desc := "(I)I" } : Jvm.MethodName) prog_22_method_5_code (2 : Nat) (Option.some Jvm.ClassFile.FieldType.int)) ∈ lw_all := lw_g (lw_at lw_m6 93 rfl) rfl
theorem q1891 : (Jvm.Cond.instanceMethod ({ cls := "PureHouse$Tables", name := "count", desc := "([I)I" } : Jvm.MethodName)) ∈ lw_all := lw_g (lw_at lw_m8 99 rfl) rfl
theorem q1892 : (Jvm.Cond.selects "PureHouse$Tables" ({ cls := "PureHouse$Tables", name := "count", desc := "([I)I" } : Jvm.MethodName) ({ cls := "PureHouse$Tables", name := "count", desc := "([I)I" } : Jvm.MethodName)) ∈ lw_all := lw_g (lw_at lw_m8 100 rfl) rfl
theorem q1893 : (Jvm.Cond.code ({ cls := "PureHouse$Tables", name := "count", desc := "([I)I" } : Jvm.MethodName) prog_22_method_8_code (4 : Nat) (Option.some Jvm.ClassFile.FieldType.int)) ∈ lw_all := lw_g (lw_at lw_m8 101 rfl) rfl
theorem q2574 : (Jvm.Cond.castable "PureHouse$Tables" "java/lang/Object") ∈ lw_tbl := lw_at lw_m11 62 rfl
theorem in_X2 : ∀ w ∈ wsX20, w ∈ lw_all := lw_in wsX20 [188, 190, 192, 194] (by decide +kernel) (by decide +kernel)

/-! PureHouse$Machine -/
set_option maxRecDepth 100000
def RX3 : String := "PureHouse$Machine"
def TX3 : u_T := fun k => match k with
  | 0 => ("PureHouse$Machine", "tables", "LPureHouse$Tables;", true)
  | 1 => ("PureHouse$Machine", "term", "LPureHouse$Term;", false)
  | 2 => ("PureHouse$Machine", "env", "LPureHouse$Env;", false)
  | 3 => ("PureHouse$Machine", "args", "LPureHouse$Args;", false)
  | 4 => ("PureHouse$Machine", "spent", "[I", true)
  | 5 => ("PureHouse$Machine", "work", "I", false)
  | 6 => ("PureHouse$Machine", "life", "I", false)
  | 7 => ("PureHouse$Machine", "limit", "I", false)
  | 8 => ("PureHouse$Machine", "within", "I", false)
  | 9 => ("PureHouse$Machine", "out", "[B", true)
  | _ => ("PureHouse$Machine", "outs", "I", false)
def tyX3 : Nat → FieldType := fun k => match k with
  | 0 => .object "PureHouse$Tables"
  | 1 => .object "PureHouse$Term"
  | 2 => .object "PureHouse$Env"
  | 3 => .object "PureHouse$Args"
  | 4 => .array .int
  | 5 => .int
  | 6 => .int
  | 7 => .int
  | 8 => .int
  | 9 => .array .byte
  | _ => .int
abbrev wsX30 : List Cond := u_ws RX3 TX3 11
theorem nmX3 : ∀ a, a < 11 → ∀ b, b < 11 → a ≠ b → (TX3 a).2.1 ≠ (TX3 b).2.1 := by decide +kernel
theorem tyX3_ok : ∀ k, k < 11 → parseFieldDescriptor (TX3 k).2.2.1 = some (tyX3 k) := by decide +kernel
abbrev cX3_init : ByteArray := prog_14_method_1_code
def yX3_init : MethodName := ⟨RX3, "<init>", "(LPureHouse$Tables;)V"⟩
theorem dX3_init_0 : decode cX3_init 0 = .ok (.aload_n 0, 1) := by decide +kernel
theorem dX3_init_1 : decode cX3_init 1 = .ok (.invokespecial 3, 3) := by decide +kernel
theorem dX3_init_4 : decode cX3_init 4 = .ok (.aload_n 0, 1) := by decide +kernel
theorem dX3_init_5 : decode cX3_init 5 = .ok (.bipush 6, 2) := by decide +kernel
theorem dX3_init_7 : decode cX3_init 7 = .ok (.newarray .int, 2) := by decide +kernel
theorem dX3_init_9 : decode cX3_init 9 = .ok (.putfield 9, 3) := by decide +kernel
theorem dX3_init_12 : decode cX3_init 12 = .ok (.aload_n 0, 1) := by decide +kernel
theorem dX3_init_13 : decode cX3_init 13 = .ok (.sipush 5000, 3) := by decide +kernel
theorem dX3_init_16 : decode cX3_init 16 = .ok (.putfield 15, 3) := by decide +kernel
theorem dX3_init_19 : decode cX3_init 19 = .ok (.aload_n 0, 1) := by decide +kernel
theorem dX3_init_20 : decode cX3_init 20 = .ok (.sipush 3000, 3) := by decide +kernel
theorem dX3_init_23 : decode cX3_init 23 = .ok (.newarray .byte, 2) := by decide +kernel
theorem dX3_init_25 : decode cX3_init 25 = .ok (.putfield 19, 3) := by decide +kernel
theorem dX3_init_28 : decode cX3_init 28 = .ok (.aload_n 0, 1) := by decide +kernel
theorem dX3_init_29 : decode cX3_init 29 = .ok (.aload_n 1, 1) := by decide +kernel
theorem dX3_init_30 : decode cX3_init 30 = .ok (.putfield 23, 3) := by decide +kernel
theorem dX3_init_33 : decode cX3_init 33 = .ok (.return_, 1) := by decide +kernel
abbrev cX3_begins : ByteArray := prog_14_method_2_code
def yX3_begins : MethodName := ⟨RX3, "begins", "()V"⟩
theorem dX3_begins_0 : decode cX3_begins 0 = .ok (.iconst 0, 1) := by decide +kernel
theorem dX3_begins_1 : decode cX3_begins 1 = .ok (.istore_n 1, 1) := by decide +kernel
theorem dX3_begins_2 : decode cX3_begins 2 = .ok (.iload_n 1, 1) := by decide +kernel
theorem dX3_begins_3 : decode cX3_begins 3 = .ok (.bipush 6, 2) := by decide +kernel
theorem dX3_begins_5 : decode cX3_begins 5 = .ok (.if_icmp .ge 16, 3) := by decide +kernel
theorem dX3_begins_8 : decode cX3_begins 8 = .ok (.aload_n 0, 1) := by decide +kernel
theorem dX3_begins_9 : decode cX3_begins 9 = .ok (.getfield 9, 3) := by decide +kernel
theorem dX3_begins_12 : decode cX3_begins 12 = .ok (.iload_n 1, 1) := by decide +kernel
theorem dX3_begins_13 : decode cX3_begins 13 = .ok (.iconst 0, 1) := by decide +kernel
theorem dX3_begins_14 : decode cX3_begins 14 = .ok (.iastore, 1) := by decide +kernel
theorem dX3_begins_15 : decode cX3_begins 15 = .ok (.iinc 1 1, 3) := by decide +kernel
theorem dX3_begins_18 : decode cX3_begins 18 = .ok (.goto (-16), 3) := by decide +kernel
theorem dX3_begins_21 : decode cX3_begins 21 = .ok (.aload_n 0, 1) := by decide +kernel
theorem dX3_begins_22 : decode cX3_begins 22 = .ok (.iconst 0, 1) := by decide +kernel
theorem dX3_begins_23 : decode cX3_begins 23 = .ok (.putfield 27, 3) := by decide +kernel
theorem dX3_begins_26 : decode cX3_begins 26 = .ok (.aload_n 0, 1) := by decide +kernel
theorem dX3_begins_27 : decode cX3_begins 27 = .ok (.iconst 0, 1) := by decide +kernel
theorem dX3_begins_28 : decode cX3_begins 28 = .ok (.putfield 30, 3) := by decide +kernel
theorem dX3_begins_31 : decode cX3_begins 31 = .ok (.return_, 1) := by decide +kernel
abbrev cX3_normal : ByteArray := prog_14_method_17_code
def yX3_normal : MethodName := ⟨RX3, "normal", "(LPureHouse$Closure;I)LPureHouse$Term;"⟩
theorem dX3_normal_0 : decode cX3_normal 0 = .ok (.aload_n 0, 1) := by decide +kernel
theorem dX3_normal_1 : decode cX3_normal 1 = .ok (.invokevirtual 103, 3) := by decide +kernel
theorem dX3_normal_4 : decode cX3_normal 4 = .ok (.aload_n 0, 1) := by decide +kernel
theorem dX3_normal_5 : decode cX3_normal 5 = .ok (.aload_n 1, 1) := by decide +kernel
theorem dX3_normal_6 : decode cX3_normal 6 = .ok (.invokevirtual 106, 3) := by decide +kernel
theorem dX3_normal_9 : decode cX3_normal 9 = .ok (.aload_n 0, 1) := by decide +kernel
theorem dX3_normal_10 : decode cX3_normal 10 = .ok (.invokevirtual 110, 3) := by decide +kernel
theorem dX3_normal_13 : decode cX3_normal 13 = .ok (.astore_n 3, 1) := by decide +kernel
theorem dX3_normal_14 : decode cX3_normal 14 = .ok (.aload_n 0, 1) := by decide +kernel
theorem dX3_normal_15 : decode cX3_normal 15 = .ok (.getfield 62, 3) := by decide +kernel
theorem dX3_normal_18 : decode cX3_normal 18 = .ok (.astore 4, 2) := by decide +kernel
theorem dX3_normal_20 : decode cX3_normal 20 = .ok (.aload_n 0, 1) := by decide +kernel
theorem dX3_normal_21 : decode cX3_normal 21 = .ok (.dup, 1) := by decide +kernel
theorem dX3_normal_22 : decode cX3_normal 22 = .ok (.getfield 30, 3) := by decide +kernel
theorem dX3_normal_25 : decode cX3_normal 25 = .ok (.iconst 1, 1) := by decide +kernel
theorem dX3_normal_26 : decode cX3_normal 26 = .ok (.iadd, 1) := by decide +kernel
theorem dX3_normal_27 : decode cX3_normal 27 = .ok (.putfield 30, 3) := by decide +kernel
theorem dX3_normal_30 : decode cX3_normal 30 = .ok (.aload_n 3, 1) := by decide +kernel
theorem dX3_normal_31 : decode cX3_normal 31 = .ok (.getfield 54, 3) := by decide +kernel
theorem dX3_normal_34 : decode cX3_normal 34 = .ok (.instanceof 83, 3) := by decide +kernel
theorem dX3_normal_37 : decode cX3_normal 37 = .ok (.ifCond .eq 12, 3) := by decide +kernel
theorem dX3_normal_40 : decode cX3_normal 40 = .ok (.aload_n 0, 1) := by decide +kernel
theorem dX3_normal_41 : decode cX3_normal 41 = .ok (.aload_n 3, 1) := by decide +kernel
theorem dX3_normal_42 : decode cX3_normal 42 = .ok (.iload_n 2, 1) := by decide +kernel
theorem dX3_normal_43 : decode cX3_normal 43 = .ok (.invokevirtual 152, 3) := by decide +kernel
theorem dX3_normal_46 : decode cX3_normal 46 = .ok (.goto 46, 3) := by decide +kernel
theorem dX3_normal_49 : decode cX3_normal 49 = .ok (.aload_n 3, 1) := by decide +kernel
theorem dX3_normal_50 : decode cX3_normal 50 = .ok (.getfield 54, 3) := by decide +kernel
theorem dX3_normal_53 : decode cX3_normal 53 = .ok (.astore 7, 2) := by decide +kernel
theorem dX3_normal_55 : decode cX3_normal 55 = .ok (.aload 7, 2) := by decide +kernel
theorem dX3_normal_57 : decode cX3_normal 57 = .ok (.instanceof 88, 3) := by decide +kernel
theorem dX3_normal_60 : decode cX3_normal 60 = .ok (.ifCond .eq 21, 3) := by decide +kernel
theorem dX3_normal_63 : decode cX3_normal 63 = .ok (.aload 7, 2) := by decide +kernel
theorem dX3_normal_65 : decode cX3_normal 65 = .ok (.checkcast 88, 3) := by decide +kernel
theorem dX3_normal_68 : decode cX3_normal 68 = .ok (.astore 6, 2) := by decide +kernel
theorem dX3_normal_70 : decode cX3_normal 70 = .ok (.aload_n 0, 1) := by decide +kernel
theorem dX3_normal_71 : decode cX3_normal 71 = .ok (.aload_n 3, 1) := by decide +kernel
theorem dX3_normal_72 : decode cX3_normal 72 = .ok (.aload 6, 2) := by decide +kernel
theorem dX3_normal_74 : decode cX3_normal 74 = .ok (.iload_n 2, 1) := by decide +kernel
theorem dX3_normal_75 : decode cX3_normal 75 = .ok (.invokevirtual 156, 3) := by decide +kernel
theorem dX3_normal_78 : decode cX3_normal 78 = .ok (.goto 14, 3) := by decide +kernel
theorem dX3_normal_81 : decode cX3_normal 81 = .ok (.aload_n 0, 1) := by decide +kernel
theorem dX3_normal_82 : decode cX3_normal 82 = .ok (.aload_n 3, 1) := by decide +kernel
theorem dX3_normal_83 : decode cX3_normal 83 = .ok (.getfield 54, 3) := by decide +kernel
theorem dX3_normal_86 : decode cX3_normal 86 = .ok (.aload 4, 2) := by decide +kernel
theorem dX3_normal_88 : decode cX3_normal 88 = .ok (.iload_n 2, 1) := by decide +kernel
theorem dX3_normal_89 : decode cX3_normal 89 = .ok (.invokevirtual 160, 3) := by decide +kernel
theorem dX3_normal_92 : decode cX3_normal 92 = .ok (.astore 5, 2) := by decide +kernel
theorem dX3_normal_94 : decode cX3_normal 94 = .ok (.aload_n 0, 1) := by decide +kernel
theorem dX3_normal_95 : decode cX3_normal 95 = .ok (.dup, 1) := by decide +kernel
theorem dX3_normal_96 : decode cX3_normal 96 = .ok (.getfield 30, 3) := by decide +kernel
theorem dX3_normal_99 : decode cX3_normal 99 = .ok (.iconst 1, 1) := by decide +kernel
theorem dX3_normal_100 : decode cX3_normal 100 = .ok (.isub, 1) := by decide +kernel
theorem dX3_normal_101 : decode cX3_normal 101 = .ok (.putfield 30, 3) := by decide +kernel
theorem dX3_normal_104 : decode cX3_normal 104 = .ok (.aload 5, 2) := by decide +kernel
theorem dX3_normal_106 : decode cX3_normal 106 = .ok (.areturn, 1) := by decide +kernel
abbrev cX3_looks : ByteArray := prog_14_method_4_code
def yX3_looks : MethodName := ⟨RX3, "looks", "()V"⟩
theorem dX3_looks_0 : decode cX3_looks 0 = .ok (.aload_n 0, 1) := by decide +kernel
theorem dX3_looks_1 : decode cX3_looks 1 = .ok (.getfield 30, 3) := by decide +kernel
theorem dX3_looks_4 : decode cX3_looks 4 = .ok (.bipush 100, 2) := by decide +kernel
theorem dX3_looks_6 : decode cX3_looks 6 = .ok (.if_icmp .lt 14, 3) := by decide +kernel
theorem dX3_looks_9 : decode cX3_looks 9 = .ok (.new 33, 3) := by decide +kernel
theorem dX3_looks_12 : decode cX3_looks 12 = .ok (.dup, 1) := by decide +kernel
theorem dX3_looks_13 : decode cX3_looks 13 = .ok (.bipush 13, 2) := by decide +kernel
theorem dX3_looks_15 : decode cX3_looks 15 = .ok (.iconst (-1), 1) := by decide +kernel
theorem dX3_looks_16 : decode cX3_looks 16 = .ok (.invokespecial 35, 3) := by decide +kernel
theorem dX3_looks_19 : decode cX3_looks 19 = .ok (.athrow, 1) := by decide +kernel
theorem dX3_looks_20 : decode cX3_looks 20 = .ok (.aload_n 0, 1) := by decide +kernel
theorem dX3_looks_21 : decode cX3_looks 21 = .ok (.iconst 5, 1) := by decide +kernel
theorem dX3_looks_22 : decode cX3_looks 22 = .ok (.invokevirtual 42, 3) := by decide +kernel
theorem dX3_looks_25 : decode cX3_looks 25 = .ok (.return_, 1) := by decide +kernel
abbrev cX3_spend : ByteArray := prog_14_method_3_code
def yX3_spend : MethodName := ⟨RX3, "spend", "(I)V"⟩
theorem dX3_spend_0 : decode cX3_spend 0 = .ok (.aload_n 0, 1) := by decide +kernel
theorem dX3_spend_1 : decode cX3_spend 1 = .ok (.getfield 27, 3) := by decide +kernel
theorem dX3_spend_4 : decode cX3_spend 4 = .ok (.aload_n 0, 1) := by decide +kernel
theorem dX3_spend_5 : decode cX3_spend 5 = .ok (.getfield 15, 3) := by decide +kernel
theorem dX3_spend_8 : decode cX3_spend 8 = .ok (.if_icmp .ne 14, 3) := by decide +kernel
theorem dX3_spend_11 : decode cX3_spend 11 = .ok (.new 33, 3) := by decide +kernel
theorem dX3_spend_14 : decode cX3_spend 14 = .ok (.dup, 1) := by decide +kernel
theorem dX3_spend_15 : decode cX3_spend 15 = .ok (.bipush 12, 2) := by decide +kernel
theorem dX3_spend_17 : decode cX3_spend 17 = .ok (.iconst (-1), 1) := by decide +kernel
theorem dX3_spend_18 : decode cX3_spend 18 = .ok (.invokespecial 35, 3) := by decide +kernel
theorem dX3_spend_21 : decode cX3_spend 21 = .ok (.athrow, 1) := by decide +kernel
theorem dX3_spend_22 : decode cX3_spend 22 = .ok (.aload_n 0, 1) := by decide +kernel
theorem dX3_spend_23 : decode cX3_spend 23 = .ok (.getfield 38, 3) := by decide +kernel
theorem dX3_spend_26 : decode cX3_spend 26 = .ok (.ldc 41, 2) := by decide +kernel
theorem dX3_spend_28 : decode cX3_spend 28 = .ok (.if_icmp .ne 14, 3) := by decide +kernel
theorem dX3_spend_31 : decode cX3_spend 31 = .ok (.new 33, 3) := by decide +kernel
theorem dX3_spend_34 : decode cX3_spend 34 = .ok (.dup, 1) := by decide +kernel
theorem dX3_spend_35 : decode cX3_spend 35 = .ok (.bipush 14, 2) := by decide +kernel
theorem dX3_spend_37 : decode cX3_spend 37 = .ok (.iconst (-1), 1) := by decide +kernel
theorem dX3_spend_38 : decode cX3_spend 38 = .ok (.invokespecial 35, 3) := by decide +kernel
theorem dX3_spend_41 : decode cX3_spend 41 = .ok (.athrow, 1) := by decide +kernel
theorem dX3_spend_42 : decode cX3_spend 42 = .ok (.aload_n 0, 1) := by decide +kernel
theorem dX3_spend_43 : decode cX3_spend 43 = .ok (.getfield 9, 3) := by decide +kernel
theorem dX3_spend_46 : decode cX3_spend 46 = .ok (.iload_n 1, 1) := by decide +kernel
theorem dX3_spend_47 : decode cX3_spend 47 = .ok (.dup2, 1) := by decide +kernel
theorem dX3_spend_48 : decode cX3_spend 48 = .ok (.iaload, 1) := by decide +kernel
theorem dX3_spend_49 : decode cX3_spend 49 = .ok (.iconst 1, 1) := by decide +kernel
theorem dX3_spend_50 : decode cX3_spend 50 = .ok (.iadd, 1) := by decide +kernel
theorem dX3_spend_51 : decode cX3_spend 51 = .ok (.iastore, 1) := by decide +kernel
theorem dX3_spend_52 : decode cX3_spend 52 = .ok (.aload_n 0, 1) := by decide +kernel
theorem dX3_spend_53 : decode cX3_spend 53 = .ok (.dup, 1) := by decide +kernel
theorem dX3_spend_54 : decode cX3_spend 54 = .ok (.getfield 27, 3) := by decide +kernel
theorem dX3_spend_57 : decode cX3_spend 57 = .ok (.iconst 1, 1) := by decide +kernel
theorem dX3_spend_58 : decode cX3_spend 58 = .ok (.iadd, 1) := by decide +kernel
theorem dX3_spend_59 : decode cX3_spend 59 = .ok (.putfield 27, 3) := by decide +kernel
theorem dX3_spend_62 : decode cX3_spend 62 = .ok (.aload_n 0, 1) := by decide +kernel
theorem dX3_spend_63 : decode cX3_spend 63 = .ok (.dup, 1) := by decide +kernel
theorem dX3_spend_64 : decode cX3_spend 64 = .ok (.getfield 38, 3) := by decide +kernel
theorem dX3_spend_67 : decode cX3_spend 67 = .ok (.iconst 1, 1) := by decide +kernel
theorem dX3_spend_68 : decode cX3_spend 68 = .ok (.iadd, 1) := by decide +kernel
theorem dX3_spend_69 : decode cX3_spend 69 = .ok (.putfield 38, 3) := by decide +kernel
theorem dX3_spend_72 : decode cX3_spend 72 = .ok (.return_, 1) := by decide +kernel
abbrev cX3_head : ByteArray := prog_14_method_8_code
def yX3_head : MethodName := ⟨RX3, "head", "(LPureHouse$Closure;)V"⟩
theorem dX3_head_0 : decode cX3_head 0 = .ok (.aload_n 0, 1) := by decide +kernel
theorem dX3_head_1 : decode cX3_head 1 = .ok (.aload_n 1, 1) := by decide +kernel
theorem dX3_head_2 : decode cX3_head 2 = .ok (.getfield 54, 3) := by decide +kernel
theorem dX3_head_5 : decode cX3_head 5 = .ok (.aload_n 1, 1) := by decide +kernel
theorem dX3_head_6 : decode cX3_head 6 = .ok (.getfield 57, 3) := by decide +kernel
theorem dX3_head_9 : decode cX3_head 9 = .ok (.invokevirtual 58, 3) := by decide +kernel
theorem dX3_head_12 : decode cX3_head 12 = .ok (.aload_n 0, 1) := by decide +kernel
theorem dX3_head_13 : decode cX3_head 13 = .ok (.aconst_null, 1) := by decide +kernel
theorem dX3_head_14 : decode cX3_head 14 = .ok (.putfield 62, 3) := by decide +kernel
theorem dX3_head_17 : decode cX3_head 17 = .ok (.iconst 1, 1) := by decide +kernel
theorem dX3_head_18 : decode cX3_head 18 = .ok (.istore_n 2, 1) := by decide +kernel
theorem dX3_head_19 : decode cX3_head 19 = .ok (.iload_n 2, 1) := by decide +kernel
theorem dX3_head_20 : decode cX3_head 20 = .ok (.ifCond .eq 15, 3) := by decide +kernel
theorem dX3_head_23 : decode cX3_head 23 = .ok (.aload_n 0, 1) := by decide +kernel
theorem dX3_head_24 : decode cX3_head 24 = .ok (.getfield 46, 3) := by decide +kernel
theorem dX3_head_27 : decode cX3_head 27 = .ok (.aload_n 0, 1) := by decide +kernel
theorem dX3_head_28 : decode cX3_head 28 = .ok (.invokevirtual 75, 3) := by decide +kernel
theorem dX3_head_31 : decode cX3_head 31 = .ok (.istore_n 2, 1) := by decide +kernel
theorem dX3_head_32 : decode cX3_head 32 = .ok (.goto (-13), 3) := by decide +kernel
theorem dX3_head_35 : decode cX3_head 35 = .ok (.return_, 1) := by decide +kernel
abbrev cX3_at : ByteArray := prog_14_method_5_code
def yX3_at : MethodName := ⟨RX3, "at", "(LPureHouse$Term;LPureHouse$Env;)V"⟩
theorem dX3_at_0 : decode cX3_at 0 = .ok (.aload_n 0, 1) := by decide +kernel
theorem dX3_at_1 : decode cX3_at 1 = .ok (.aload_n 1, 1) := by decide +kernel
theorem dX3_at_2 : decode cX3_at 2 = .ok (.putfield 46, 3) := by decide +kernel
theorem dX3_at_5 : decode cX3_at 5 = .ok (.aload_n 0, 1) := by decide +kernel
theorem dX3_at_6 : decode cX3_at 6 = .ok (.aload_n 2, 1) := by decide +kernel
theorem dX3_at_7 : decode cX3_at 7 = .ok (.putfield 50, 3) := by decide +kernel
theorem dX3_at_10 : decode cX3_at 10 = .ok (.return_, 1) := by decide +kernel
abbrev cX3_enter : ByteArray := prog_14_method_6_code
def yX3_enter : MethodName := ⟨RX3, "enter", "(LPureHouse$Closure;)V"⟩
theorem dX3_enter_0 : decode cX3_enter 0 = .ok (.aload_n 0, 1) := by decide +kernel
theorem dX3_enter_1 : decode cX3_enter 1 = .ok (.aload_n 1, 1) := by decide +kernel
theorem dX3_enter_2 : decode cX3_enter 2 = .ok (.getfield 54, 3) := by decide +kernel
theorem dX3_enter_5 : decode cX3_enter 5 = .ok (.aload_n 1, 1) := by decide +kernel
theorem dX3_enter_6 : decode cX3_enter 6 = .ok (.getfield 57, 3) := by decide +kernel
theorem dX3_enter_9 : decode cX3_enter 9 = .ok (.invokevirtual 58, 3) := by decide +kernel
theorem dX3_enter_12 : decode cX3_enter 12 = .ok (.return_, 1) := by decide +kernel
abbrev cX3_pull : ByteArray := prog_14_method_7_code
def yX3_pull : MethodName := ⟨RX3, "pull", "()LPureHouse$Closure;"⟩
theorem dX3_pull_0 : decode cX3_pull 0 = .ok (.aload_n 0, 1) := by decide +kernel
theorem dX3_pull_1 : decode cX3_pull 1 = .ok (.getfield 62, 3) := by decide +kernel
theorem dX3_pull_4 : decode cX3_pull 4 = .ok (.getfield 66, 3) := by decide +kernel
theorem dX3_pull_7 : decode cX3_pull 7 = .ok (.astore_n 1, 1) := by decide +kernel
theorem dX3_pull_8 : decode cX3_pull 8 = .ok (.aload_n 0, 1) := by decide +kernel
theorem dX3_pull_9 : decode cX3_pull 9 = .ok (.aload_n 0, 1) := by decide +kernel
theorem dX3_pull_10 : decode cX3_pull 10 = .ok (.getfield 62, 3) := by decide +kernel
theorem dX3_pull_13 : decode cX3_pull 13 = .ok (.getfield 72, 3) := by decide +kernel
theorem dX3_pull_16 : decode cX3_pull 16 = .ok (.putfield 62, 3) := by decide +kernel
theorem dX3_pull_19 : decode cX3_pull 19 = .ok (.aload_n 1, 1) := by decide +kernel
theorem dX3_pull_20 : decode cX3_pull 20 = .ok (.areturn, 1) := by decide +kernel
abbrev cX3_here : ByteArray := prog_14_method_9_code
def yX3_here : MethodName := ⟨RX3, "here", "()LPureHouse$Closure;"⟩
theorem dX3_here_0 : decode cX3_here 0 = .ok (.new 55, 3) := by decide +kernel
theorem dX3_here_3 : decode cX3_here 3 = .ok (.dup, 1) := by decide +kernel
theorem dX3_here_4 : decode cX3_here 4 = .ok (.aload_n 0, 1) := by decide +kernel
theorem dX3_here_5 : decode cX3_here 5 = .ok (.getfield 46, 3) := by decide +kernel
theorem dX3_here_8 : decode cX3_here 8 = .ok (.aload_n 0, 1) := by decide +kernel
theorem dX3_here_9 : decode cX3_here 9 = .ok (.getfield 50, 3) := by decide +kernel
theorem dX3_here_12 : decode cX3_here 12 = .ok (.invokespecial 81, 3) := by decide +kernel
theorem dX3_here_15 : decode cX3_here 15 = .ok (.areturn, 1) := by decide +kernel
abbrev cX3_normalLambda : ByteArray := prog_14_method_18_code
def yX3_normalLambda : MethodName := ⟨RX3, "normalLambda", "(LPureHouse$Closure;I)LPureHouse$Term;"⟩
theorem dX3_normalLambda_0 : decode cX3_normalLambda 0 = .ok (.new 83, 3) := by decide +kernel
theorem dX3_normalLambda_3 : decode cX3_normalLambda 3 = .ok (.dup, 1) := by decide +kernel
theorem dX3_normalLambda_4 : decode cX3_normalLambda 4 = .ok (.aload_n 0, 1) := by decide +kernel
theorem dX3_normalLambda_5 : decode cX3_normalLambda 5 = .ok (.aload_n 1, 1) := by decide +kernel
theorem dX3_normalLambda_6 : decode cX3_normalLambda 6 = .ok (.invokestatic 126, 3) := by decide +kernel
theorem dX3_normalLambda_9 : decode cX3_normalLambda 9 = .ok (.iload_n 2, 1) := by decide +kernel
theorem dX3_normalLambda_10 : decode cX3_normalLambda 10 = .ok (.invokevirtual 164, 3) := by decide +kernel
theorem dX3_normalLambda_13 : decode cX3_normalLambda 13 = .ok (.invokespecial 167, 3) := by decide +kernel
theorem dX3_normalLambda_16 : decode cX3_normalLambda 16 = .ok (.astore_n 3, 1) := by decide +kernel
theorem dX3_normalLambda_17 : decode cX3_normalLambda 17 = .ok (.aload_n 3, 1) := by decide +kernel
theorem dX3_normalLambda_18 : decode cX3_normalLambda 18 = .ok (.aload_n 0, 1) := by decide +kernel
theorem dX3_normalLambda_19 : decode cX3_normalLambda 19 = .ok (.aload_n 1, 1) := by decide +kernel
theorem dX3_normalLambda_20 : decode cX3_normalLambda 20 = .ok (.iconst (-1), 1) := by decide +kernel
theorem dX3_normalLambda_21 : decode cX3_normalLambda 21 = .ok (.iload_n 2, 1) := by decide +kernel
theorem dX3_normalLambda_22 : decode cX3_normalLambda 22 = .ok (.invokestatic 132, 3) := by decide +kernel
theorem dX3_normalLambda_25 : decode cX3_normalLambda 25 = .ok (.invokestatic 136, 3) := by decide +kernel
theorem dX3_normalLambda_28 : decode cX3_normalLambda 28 = .ok (.iload_n 2, 1) := by decide +kernel
theorem dX3_normalLambda_29 : decode cX3_normalLambda 29 = .ok (.iconst 1, 1) := by decide +kernel
theorem dX3_normalLambda_30 : decode cX3_normalLambda 30 = .ok (.iadd, 1) := by decide +kernel
theorem dX3_normalLambda_31 : decode cX3_normalLambda 31 = .ok (.invokevirtual 164, 3) := by decide +kernel
theorem dX3_normalLambda_34 : decode cX3_normalLambda 34 = .ok (.putfield 91, 3) := by decide +kernel
theorem dX3_normalLambda_37 : decode cX3_normalLambda 37 = .ok (.aload_n 3, 1) := by decide +kernel
theorem dX3_normalLambda_38 : decode cX3_normalLambda 38 = .ok (.areturn, 1) := by decide +kernel
abbrev cX3_domain : ByteArray := prog_14_method_10_code
def yX3_domain : MethodName := ⟨RX3, "domain", "(LPureHouse$Closure;)LPureHouse$Closure;"⟩
theorem dX3_domain_0 : decode cX3_domain 0 = .ok (.new 55, 3) := by decide +kernel
theorem dX3_domain_3 : decode cX3_domain 3 = .ok (.dup, 1) := by decide +kernel
theorem dX3_domain_4 : decode cX3_domain 4 = .ok (.aload_n 0, 1) := by decide +kernel
theorem dX3_domain_5 : decode cX3_domain 5 = .ok (.getfield 54, 3) := by decide +kernel
theorem dX3_domain_8 : decode cX3_domain 8 = .ok (.astore_n 2, 1) := by decide +kernel
theorem dX3_domain_9 : decode cX3_domain 9 = .ok (.aload_n 2, 1) := by decide +kernel
theorem dX3_domain_10 : decode cX3_domain 10 = .ok (.instanceof 83, 3) := by decide +kernel
theorem dX3_domain_13 : decode cX3_domain 13 = .ok (.ifCond .eq 15, 3) := by decide +kernel
theorem dX3_domain_16 : decode cX3_domain 16 = .ok (.aload_n 2, 1) := by decide +kernel
theorem dX3_domain_17 : decode cX3_domain 17 = .ok (.checkcast 83, 3) := by decide +kernel
theorem dX3_domain_20 : decode cX3_domain 20 = .ok (.astore_n 1, 1) := by decide +kernel
theorem dX3_domain_21 : decode cX3_domain 21 = .ok (.aload_n 1, 1) := by decide +kernel
theorem dX3_domain_22 : decode cX3_domain 22 = .ok (.getfield 85, 3) := by decide +kernel
theorem dX3_domain_25 : decode cX3_domain 25 = .ok (.goto 13, 3) := by decide +kernel
theorem dX3_domain_28 : decode cX3_domain 28 = .ok (.aload_n 0, 1) := by decide +kernel
theorem dX3_domain_29 : decode cX3_domain 29 = .ok (.getfield 54, 3) := by decide +kernel
theorem dX3_domain_32 : decode cX3_domain 32 = .ok (.checkcast 88, 3) := by decide +kernel
theorem dX3_domain_35 : decode cX3_domain 35 = .ok (.getfield 90, 3) := by decide +kernel
theorem dX3_domain_38 : decode cX3_domain 38 = .ok (.aload_n 0, 1) := by decide +kernel
theorem dX3_domain_39 : decode cX3_domain 39 = .ok (.getfield 57, 3) := by decide +kernel
theorem dX3_domain_42 : decode cX3_domain 42 = .ok (.invokespecial 81, 3) := by decide +kernel
theorem dX3_domain_45 : decode cX3_domain 45 = .ok (.areturn, 1) := by decide +kernel
abbrev cX3_bound : ByteArray := prog_14_method_12_code
def yX3_bound : MethodName := ⟨RX3, "bound", "(II)LPureHouse$Closure;"⟩
theorem dX3_bound_0 : decode cX3_bound 0 = .ok (.new 55, 3) := by decide +kernel
theorem dX3_bound_3 : decode cX3_bound 3 = .ok (.dup, 1) := by decide +kernel
theorem dX3_bound_4 : decode cX3_bound 4 = .ok (.new 100, 3) := by decide +kernel
theorem dX3_bound_7 : decode cX3_bound 7 = .ok (.dup, 1) := by decide +kernel
theorem dX3_bound_8 : decode cX3_bound 8 = .ok (.iload_n 0, 1) := by decide +kernel
theorem dX3_bound_9 : decode cX3_bound 9 = .ok (.iload_n 1, 1) := by decide +kernel
theorem dX3_bound_10 : decode cX3_bound 10 = .ok (.invokespecial 102, 3) := by decide +kernel
theorem dX3_bound_13 : decode cX3_bound 13 = .ok (.aconst_null, 1) := by decide +kernel
theorem dX3_bound_14 : decode cX3_bound 14 = .ok (.invokespecial 81, 3) := by decide +kernel
theorem dX3_bound_17 : decode cX3_bound 17 = .ok (.areturn, 1) := by decide +kernel
abbrev cX3_body : ByteArray := prog_14_method_11_code
def yX3_body : MethodName := ⟨RX3, "body", "(LPureHouse$Closure;LPureHouse$Closure;)LPureHouse$Closure;"⟩
theorem dX3_body_0 : decode cX3_body 0 = .ok (.new 55, 3) := by decide +kernel
theorem dX3_body_3 : decode cX3_body 3 = .ok (.dup, 1) := by decide +kernel
theorem dX3_body_4 : decode cX3_body 4 = .ok (.aload_n 0, 1) := by decide +kernel
theorem dX3_body_5 : decode cX3_body 5 = .ok (.getfield 54, 3) := by decide +kernel
theorem dX3_body_8 : decode cX3_body 8 = .ok (.astore_n 3, 1) := by decide +kernel
theorem dX3_body_9 : decode cX3_body 9 = .ok (.aload_n 3, 1) := by decide +kernel
theorem dX3_body_10 : decode cX3_body 10 = .ok (.instanceof 83, 3) := by decide +kernel
theorem dX3_body_13 : decode cX3_body 13 = .ok (.ifCond .eq 15, 3) := by decide +kernel
theorem dX3_body_16 : decode cX3_body 16 = .ok (.aload_n 3, 1) := by decide +kernel
theorem dX3_body_17 : decode cX3_body 17 = .ok (.checkcast 83, 3) := by decide +kernel
theorem dX3_body_20 : decode cX3_body 20 = .ok (.astore_n 2, 1) := by decide +kernel
theorem dX3_body_21 : decode cX3_body 21 = .ok (.aload_n 2, 1) := by decide +kernel
theorem dX3_body_22 : decode cX3_body 22 = .ok (.getfield 91, 3) := by decide +kernel
theorem dX3_body_25 : decode cX3_body 25 = .ok (.goto 13, 3) := by decide +kernel
theorem dX3_body_28 : decode cX3_body 28 = .ok (.aload_n 0, 1) := by decide +kernel
theorem dX3_body_29 : decode cX3_body 29 = .ok (.getfield 54, 3) := by decide +kernel
theorem dX3_body_32 : decode cX3_body 32 = .ok (.checkcast 88, 3) := by decide +kernel
theorem dX3_body_35 : decode cX3_body 35 = .ok (.getfield 94, 3) := by decide +kernel
theorem dX3_body_38 : decode cX3_body 38 = .ok (.new 95, 3) := by decide +kernel
theorem dX3_body_41 : decode cX3_body 41 = .ok (.dup, 1) := by decide +kernel
theorem dX3_body_42 : decode cX3_body 42 = .ok (.aload_n 1, 1) := by decide +kernel
theorem dX3_body_43 : decode cX3_body 43 = .ok (.aload_n 0, 1) := by decide +kernel
theorem dX3_body_44 : decode cX3_body 44 = .ok (.getfield 57, 3) := by decide +kernel
theorem dX3_body_47 : decode cX3_body 47 = .ok (.invokespecial 97, 3) := by decide +kernel
theorem dX3_body_50 : decode cX3_body 50 = .ok (.invokespecial 81, 3) := by decide +kernel
theorem dX3_body_53 : decode cX3_body 53 = .ok (.areturn, 1) := by decide +kernel
abbrev cX3_normalProduct : ByteArray := prog_14_method_19_code
def yX3_normalProduct : MethodName := ⟨RX3, "normalProduct", "(LPureHouse$Closure;LPureHouse$Product;I)LPureHouse$Term;"⟩
theorem dX3_normalProduct_0 : decode cX3_normalProduct 0 = .ok (.new 88, 3) := by decide +kernel
theorem dX3_normalProduct_3 : decode cX3_normalProduct 3 = .ok (.dup, 1) := by decide +kernel
theorem dX3_normalProduct_4 : decode cX3_normalProduct 4 = .ok (.aload_n 0, 1) := by decide +kernel
theorem dX3_normalProduct_5 : decode cX3_normalProduct 5 = .ok (.aload_n 1, 1) := by decide +kernel
theorem dX3_normalProduct_6 : decode cX3_normalProduct 6 = .ok (.invokestatic 126, 3) := by decide +kernel
theorem dX3_normalProduct_9 : decode cX3_normalProduct 9 = .ok (.iload_n 3, 1) := by decide +kernel
theorem dX3_normalProduct_10 : decode cX3_normalProduct 10 = .ok (.invokevirtual 164, 3) := by decide +kernel
theorem dX3_normalProduct_13 : decode cX3_normalProduct 13 = .ok (.invokespecial 170, 3) := by decide +kernel
theorem dX3_normalProduct_16 : decode cX3_normalProduct 16 = .ok (.astore 4, 2) := by decide +kernel
theorem dX3_normalProduct_18 : decode cX3_normalProduct 18 = .ok (.aload 4, 2) := by decide +kernel
theorem dX3_normalProduct_20 : decode cX3_normalProduct 20 = .ok (.aload_n 0, 1) := by decide +kernel
theorem dX3_normalProduct_21 : decode cX3_normalProduct 21 = .ok (.aload_n 1, 1) := by decide +kernel
theorem dX3_normalProduct_22 : decode cX3_normalProduct 22 = .ok (.iconst (-1), 1) := by decide +kernel
theorem dX3_normalProduct_23 : decode cX3_normalProduct 23 = .ok (.iload_n 3, 1) := by decide +kernel
theorem dX3_normalProduct_24 : decode cX3_normalProduct 24 = .ok (.invokestatic 132, 3) := by decide +kernel
theorem dX3_normalProduct_27 : decode cX3_normalProduct 27 = .ok (.invokestatic 136, 3) := by decide +kernel
theorem dX3_normalProduct_30 : decode cX3_normalProduct 30 = .ok (.iload_n 3, 1) := by decide +kernel
theorem dX3_normalProduct_31 : decode cX3_normalProduct 31 = .ok (.iconst 1, 1) := by decide +kernel
theorem dX3_normalProduct_32 : decode cX3_normalProduct 32 = .ok (.iadd, 1) := by decide +kernel
theorem dX3_normalProduct_33 : decode cX3_normalProduct 33 = .ok (.invokevirtual 164, 3) := by decide +kernel
theorem dX3_normalProduct_36 : decode cX3_normalProduct 36 = .ok (.putfield 94, 3) := by decide +kernel
theorem dX3_normalProduct_39 : decode cX3_normalProduct 39 = .ok (.aload 4, 2) := by decide +kernel
theorem dX3_normalProduct_41 : decode cX3_normalProduct 41 = .ok (.aload_n 2, 1) := by decide +kernel
theorem dX3_normalProduct_42 : decode cX3_normalProduct 42 = .ok (.getfield 171, 3) := by decide +kernel
theorem dX3_normalProduct_45 : decode cX3_normalProduct 45 = .ok (.putfield 171, 3) := by decide +kernel
theorem dX3_normalProduct_48 : decode cX3_normalProduct 48 = .ok (.aload 4, 2) := by decide +kernel
theorem dX3_normalProduct_50 : decode cX3_normalProduct 50 = .ok (.aload_n 2, 1) := by decide +kernel
theorem dX3_normalProduct_51 : decode cX3_normalProduct 51 = .ok (.getfield 174, 3) := by decide +kernel
theorem dX3_normalProduct_54 : decode cX3_normalProduct 54 = .ok (.putfield 174, 3) := by decide +kernel
theorem dX3_normalProduct_57 : decode cX3_normalProduct 57 = .ok (.aload 4, 2) := by decide +kernel
theorem dX3_normalProduct_59 : decode cX3_normalProduct 59 = .ok (.areturn, 1) := by decide +kernel
abbrev cX3_normalFront : ByteArray := prog_14_method_20_code
def yX3_normalFront : MethodName := ⟨RX3, "normalFront", "(LPureHouse$Term;LPureHouse$Args;I)LPureHouse$Term;"⟩
theorem dX3_normalFront_0 : decode cX3_normalFront 0 = .ok (.aload_n 1, 1) := by decide +kernel
theorem dX3_normalFront_1 : decode cX3_normalFront 1 = .ok (.instanceof 100, 3) := by decide +kernel
theorem dX3_normalFront_4 : decode cX3_normalFront 4 = .ok (.ifCond .eq 28, 3) := by decide +kernel
theorem dX3_normalFront_7 : decode cX3_normalFront 7 = .ok (.aload_n 1, 1) := by decide +kernel
theorem dX3_normalFront_8 : decode cX3_normalFront 8 = .ok (.checkcast 100, 3) := by decide +kernel
theorem dX3_normalFront_11 : decode cX3_normalFront 11 = .ok (.astore 5, 2) := by decide +kernel
theorem dX3_normalFront_13 : decode cX3_normalFront 13 = .ok (.new 177, 3) := by decide +kernel
theorem dX3_normalFront_16 : decode cX3_normalFront 16 = .ok (.dup, 1) := by decide +kernel
theorem dX3_normalFront_17 : decode cX3_normalFront 17 = .ok (.iload_n 3, 1) := by decide +kernel
theorem dX3_normalFront_18 : decode cX3_normalFront 18 = .ok (.iconst 1, 1) := by decide +kernel
theorem dX3_normalFront_19 : decode cX3_normalFront 19 = .ok (.isub, 1) := by decide +kernel
theorem dX3_normalFront_20 : decode cX3_normalFront 20 = .ok (.aload 5, 2) := by decide +kernel
theorem dX3_normalFront_22 : decode cX3_normalFront 22 = .ok (.getfield 179, 3) := by decide +kernel
theorem dX3_normalFront_25 : decode cX3_normalFront 25 = .ok (.isub, 1) := by decide +kernel
theorem dX3_normalFront_26 : decode cX3_normalFront 26 = .ok (.invokespecial 182, 3) := by decide +kernel
theorem dX3_normalFront_29 : decode cX3_normalFront 29 = .ok (.goto 4, 3) := by decide +kernel
theorem dX3_normalFront_32 : decode cX3_normalFront 32 = .ok (.aload_n 1, 1) := by decide +kernel
theorem dX3_normalFront_33 : decode cX3_normalFront 33 = .ok (.astore 4, 2) := by decide +kernel
theorem dX3_normalFront_35 : decode cX3_normalFront 35 = .ok (.aload_n 2, 1) := by decide +kernel
theorem dX3_normalFront_36 : decode cX3_normalFront 36 = .ok (.ifnonnull 6, 3) := by decide +kernel
theorem dX3_normalFront_39 : decode cX3_normalFront 39 = .ok (.aload 4, 2) := by decide +kernel
theorem dX3_normalFront_41 : decode cX3_normalFront 41 = .ok (.areturn, 1) := by decide +kernel
theorem dX3_normalFront_42 : decode cX3_normalFront 42 = .ok (.new 184, 3) := by decide +kernel
theorem dX3_normalFront_45 : decode cX3_normalFront 45 = .ok (.dup, 1) := by decide +kernel
theorem dX3_normalFront_46 : decode cX3_normalFront 46 = .ok (.aload 4, 2) := by decide +kernel
theorem dX3_normalFront_48 : decode cX3_normalFront 48 = .ok (.invokespecial 186, 3) := by decide +kernel
theorem dX3_normalFront_51 : decode cX3_normalFront 51 = .ok (.astore 5, 2) := by decide +kernel
theorem dX3_normalFront_53 : decode cX3_normalFront 53 = .ok (.aload_n 2, 1) := by decide +kernel
theorem dX3_normalFront_54 : decode cX3_normalFront 54 = .ok (.astore 6, 2) := by decide +kernel
theorem dX3_normalFront_56 : decode cX3_normalFront 56 = .ok (.aload 6, 2) := by decide +kernel
theorem dX3_normalFront_58 : decode cX3_normalFront 58 = .ok (.ifnull 32, 3) := by decide +kernel
theorem dX3_normalFront_61 : decode cX3_normalFront 61 = .ok (.aload 5, 2) := by decide +kernel
theorem dX3_normalFront_63 : decode cX3_normalFront 63 = .ok (.getfield 187, 3) := by decide +kernel
theorem dX3_normalFront_66 : decode cX3_normalFront 66 = .ok (.aload_n 0, 1) := by decide +kernel
theorem dX3_normalFront_67 : decode cX3_normalFront 67 = .ok (.aload 6, 2) := by decide +kernel
theorem dX3_normalFront_69 : decode cX3_normalFront 69 = .ok (.getfield 66, 3) := by decide +kernel
theorem dX3_normalFront_72 : decode cX3_normalFront 72 = .ok (.iload_n 3, 1) := by decide +kernel
theorem dX3_normalFront_73 : decode cX3_normalFront 73 = .ok (.invokevirtual 164, 3) := by decide +kernel
theorem dX3_normalFront_76 : decode cX3_normalFront 76 = .ok (.invokevirtual 191, 3) := by decide +kernel
theorem dX3_normalFront_79 : decode cX3_normalFront 79 = .ok (.pop, 1) := by decide +kernel
theorem dX3_normalFront_80 : decode cX3_normalFront 80 = .ok (.aload 6, 2) := by decide +kernel
theorem dX3_normalFront_82 : decode cX3_normalFront 82 = .ok (.getfield 72, 3) := by decide +kernel
theorem dX3_normalFront_85 : decode cX3_normalFront 85 = .ok (.astore 6, 2) := by decide +kernel
theorem dX3_normalFront_87 : decode cX3_normalFront 87 = .ok (.goto (-31), 3) := by decide +kernel
theorem dX3_normalFront_90 : decode cX3_normalFront 90 = .ok (.aload 5, 2) := by decide +kernel
theorem dX3_normalFront_92 : decode cX3_normalFront 92 = .ok (.areturn, 1) := by decide +kernel
abbrev cX3_same : ByteArray := prog_14_method_13_code
def yX3_same : MethodName := ⟨RX3, "same", "(LPureHouse$Closure;LPureHouse$Closure;)Z"⟩
theorem dX3_same_0 : decode cX3_same 0 = .ok (.aload_n 0, 1) := by decide +kernel
theorem dX3_same_1 : decode cX3_same 1 = .ok (.invokevirtual 103, 3) := by decide +kernel
theorem dX3_same_4 : decode cX3_same 4 = .ok (.aload_n 0, 1) := by decide +kernel
theorem dX3_same_5 : decode cX3_same 5 = .ok (.aload_n 1, 1) := by decide +kernel
theorem dX3_same_6 : decode cX3_same 6 = .ok (.invokevirtual 106, 3) := by decide +kernel
theorem dX3_same_9 : decode cX3_same 9 = .ok (.aload_n 0, 1) := by decide +kernel
theorem dX3_same_10 : decode cX3_same 10 = .ok (.invokevirtual 110, 3) := by decide +kernel
theorem dX3_same_13 : decode cX3_same 13 = .ok (.astore_n 3, 1) := by decide +kernel
theorem dX3_same_14 : decode cX3_same 14 = .ok (.aload_n 0, 1) := by decide +kernel
theorem dX3_same_15 : decode cX3_same 15 = .ok (.getfield 62, 3) := by decide +kernel
theorem dX3_same_18 : decode cX3_same 18 = .ok (.astore 4, 2) := by decide +kernel
theorem dX3_same_20 : decode cX3_same 20 = .ok (.aload_n 0, 1) := by decide +kernel
theorem dX3_same_21 : decode cX3_same 21 = .ok (.aload_n 2, 1) := by decide +kernel
theorem dX3_same_22 : decode cX3_same 22 = .ok (.invokevirtual 106, 3) := by decide +kernel
theorem dX3_same_25 : decode cX3_same 25 = .ok (.aload_n 0, 1) := by decide +kernel
theorem dX3_same_26 : decode cX3_same 26 = .ok (.invokevirtual 110, 3) := by decide +kernel
theorem dX3_same_29 : decode cX3_same 29 = .ok (.astore 5, 2) := by decide +kernel
theorem dX3_same_31 : decode cX3_same 31 = .ok (.aload_n 0, 1) := by decide +kernel
theorem dX3_same_32 : decode cX3_same 32 = .ok (.getfield 62, 3) := by decide +kernel
theorem dX3_same_35 : decode cX3_same 35 = .ok (.astore 6, 2) := by decide +kernel
theorem dX3_same_37 : decode cX3_same 37 = .ok (.aload_n 0, 1) := by decide +kernel
theorem dX3_same_38 : decode cX3_same 38 = .ok (.dup, 1) := by decide +kernel
theorem dX3_same_39 : decode cX3_same 39 = .ok (.getfield 30, 3) := by decide +kernel
theorem dX3_same_42 : decode cX3_same 42 = .ok (.iconst 1, 1) := by decide +kernel
theorem dX3_same_43 : decode cX3_same 43 = .ok (.iadd, 1) := by decide +kernel
theorem dX3_same_44 : decode cX3_same 44 = .ok (.putfield 30, 3) := by decide +kernel
theorem dX3_same_47 : decode cX3_same 47 = .ok (.aload_n 3, 1) := by decide +kernel
theorem dX3_same_48 : decode cX3_same 48 = .ok (.getfield 54, 3) := by decide +kernel
theorem dX3_same_51 : decode cX3_same 51 = .ok (.instanceof 83, 3) := by decide +kernel
theorem dX3_same_54 : decode cX3_same 54 = .ok (.ifCond .eq 32, 3) := by decide +kernel
theorem dX3_same_57 : decode cX3_same 57 = .ok (.aload 5, 2) := by decide +kernel
theorem dX3_same_59 : decode cX3_same 59 = .ok (.getfield 54, 3) := by decide +kernel
theorem dX3_same_62 : decode cX3_same 62 = .ok (.instanceof 83, 3) := by decide +kernel
theorem dX3_same_65 : decode cX3_same 65 = .ok (.ifCond .eq 17, 3) := by decide +kernel
theorem dX3_same_68 : decode cX3_same 68 = .ok (.aload_n 0, 1) := by decide +kernel
theorem dX3_same_69 : decode cX3_same 69 = .ok (.aload_n 3, 1) := by decide +kernel
theorem dX3_same_70 : decode cX3_same 70 = .ok (.aload 5, 2) := by decide +kernel
theorem dX3_same_72 : decode cX3_same 72 = .ok (.invokevirtual 114, 3) := by decide +kernel
theorem dX3_same_75 : decode cX3_same 75 = .ok (.ifCond .eq 7, 3) := by decide +kernel
theorem dX3_same_78 : decode cX3_same 78 = .ok (.iconst 1, 1) := by decide +kernel
theorem dX3_same_79 : decode cX3_same 79 = .ok (.goto 77, 3) := by decide +kernel
theorem dX3_same_82 : decode cX3_same 82 = .ok (.iconst 0, 1) := by decide +kernel
theorem dX3_same_83 : decode cX3_same 83 = .ok (.goto 73, 3) := by decide +kernel
theorem dX3_same_86 : decode cX3_same 86 = .ok (.aload_n 3, 1) := by decide +kernel
theorem dX3_same_87 : decode cX3_same 87 = .ok (.getfield 54, 3) := by decide +kernel
theorem dX3_same_90 : decode cX3_same 90 = .ok (.instanceof 88, 3) := by decide +kernel
theorem dX3_same_93 : decode cX3_same 93 = .ok (.ifCond .eq 32, 3) := by decide +kernel
theorem dX3_same_96 : decode cX3_same 96 = .ok (.aload 5, 2) := by decide +kernel
theorem dX3_same_98 : decode cX3_same 98 = .ok (.getfield 54, 3) := by decide +kernel
theorem dX3_same_101 : decode cX3_same 101 = .ok (.instanceof 88, 3) := by decide +kernel
theorem dX3_same_104 : decode cX3_same 104 = .ok (.ifCond .eq 17, 3) := by decide +kernel
theorem dX3_same_107 : decode cX3_same 107 = .ok (.aload_n 0, 1) := by decide +kernel
theorem dX3_same_108 : decode cX3_same 108 = .ok (.aload_n 3, 1) := by decide +kernel
theorem dX3_same_109 : decode cX3_same 109 = .ok (.aload 5, 2) := by decide +kernel
theorem dX3_same_111 : decode cX3_same 111 = .ok (.invokevirtual 114, 3) := by decide +kernel
theorem dX3_same_114 : decode cX3_same 114 = .ok (.ifCond .eq 7, 3) := by decide +kernel
theorem dX3_same_117 : decode cX3_same 117 = .ok (.iconst 1, 1) := by decide +kernel
theorem dX3_same_118 : decode cX3_same 118 = .ok (.goto 38, 3) := by decide +kernel
theorem dX3_same_121 : decode cX3_same 121 = .ok (.iconst 0, 1) := by decide +kernel
theorem dX3_same_122 : decode cX3_same 122 = .ok (.goto 34, 3) := by decide +kernel
theorem dX3_same_125 : decode cX3_same 125 = .ok (.aload_n 3, 1) := by decide +kernel
theorem dX3_same_126 : decode cX3_same 126 = .ok (.getfield 54, 3) := by decide +kernel
theorem dX3_same_129 : decode cX3_same 129 = .ok (.aload 5, 2) := by decide +kernel
theorem dX3_same_131 : decode cX3_same 131 = .ok (.getfield 54, 3) := by decide +kernel
theorem dX3_same_134 : decode cX3_same 134 = .ok (.invokestatic 118, 3) := by decide +kernel
theorem dX3_same_137 : decode cX3_same 137 = .ok (.ifCond .eq 18, 3) := by decide +kernel
theorem dX3_same_140 : decode cX3_same 140 = .ok (.aload_n 0, 1) := by decide +kernel
theorem dX3_same_141 : decode cX3_same 141 = .ok (.aload 4, 2) := by decide +kernel
theorem dX3_same_143 : decode cX3_same 143 = .ok (.aload 6, 2) := by decide +kernel
theorem dX3_same_145 : decode cX3_same 145 = .ok (.invokevirtual 122, 3) := by decide +kernel
theorem dX3_same_148 : decode cX3_same 148 = .ok (.ifCond .eq 7, 3) := by decide +kernel
theorem dX3_same_151 : decode cX3_same 151 = .ok (.iconst 1, 1) := by decide +kernel
theorem dX3_same_152 : decode cX3_same 152 = .ok (.goto 4, 3) := by decide +kernel
theorem dX3_same_155 : decode cX3_same 155 = .ok (.iconst 0, 1) := by decide +kernel
theorem dX3_same_156 : decode cX3_same 156 = .ok (.istore 7, 2) := by decide +kernel
theorem dX3_same_158 : decode cX3_same 158 = .ok (.aload_n 0, 1) := by decide +kernel
theorem dX3_same_159 : decode cX3_same 159 = .ok (.dup, 1) := by decide +kernel
theorem dX3_same_160 : decode cX3_same 160 = .ok (.getfield 30, 3) := by decide +kernel
theorem dX3_same_163 : decode cX3_same 163 = .ok (.iconst 1, 1) := by decide +kernel
theorem dX3_same_164 : decode cX3_same 164 = .ok (.isub, 1) := by decide +kernel
theorem dX3_same_165 : decode cX3_same 165 = .ok (.putfield 30, 3) := by decide +kernel
theorem dX3_same_168 : decode cX3_same 168 = .ok (.iload 7, 2) := by decide +kernel
theorem dX3_same_170 : decode cX3_same 170 = .ok (.ireturn, 1) := by decide +kernel
abbrev cX3_sameParts : ByteArray := prog_14_method_14_code
def yX3_sameParts : MethodName := ⟨RX3, "sameParts", "(LPureHouse$Closure;LPureHouse$Closure;)Z"⟩
theorem dX3_sameParts_0 : decode cX3_sameParts 0 = .ok (.aload_n 0, 1) := by decide +kernel
theorem dX3_sameParts_1 : decode cX3_sameParts 1 = .ok (.aload_n 1, 1) := by decide +kernel
theorem dX3_sameParts_2 : decode cX3_sameParts 2 = .ok (.invokestatic 126, 3) := by decide +kernel
theorem dX3_sameParts_5 : decode cX3_sameParts 5 = .ok (.aload_n 2, 1) := by decide +kernel
theorem dX3_sameParts_6 : decode cX3_sameParts 6 = .ok (.invokestatic 126, 3) := by decide +kernel
theorem dX3_sameParts_9 : decode cX3_sameParts 9 = .ok (.invokevirtual 129, 3) := by decide +kernel
theorem dX3_sameParts_12 : decode cX3_sameParts 12 = .ok (.ifCond .ne 5, 3) := by decide +kernel
theorem dX3_sameParts_15 : decode cX3_sameParts 15 = .ok (.iconst 0, 1) := by decide +kernel
theorem dX3_sameParts_16 : decode cX3_sameParts 16 = .ok (.ireturn, 1) := by decide +kernel
theorem dX3_sameParts_17 : decode cX3_sameParts 17 = .ok (.iconst (-1), 1) := by decide +kernel
theorem dX3_sameParts_18 : decode cX3_sameParts 18 = .ok (.iconst (-1), 1) := by decide +kernel
theorem dX3_sameParts_19 : decode cX3_sameParts 19 = .ok (.invokestatic 132, 3) := by decide +kernel
theorem dX3_sameParts_22 : decode cX3_sameParts 22 = .ok (.astore_n 3, 1) := by decide +kernel
theorem dX3_sameParts_23 : decode cX3_sameParts 23 = .ok (.aload_n 0, 1) := by decide +kernel
theorem dX3_sameParts_24 : decode cX3_sameParts 24 = .ok (.aload_n 1, 1) := by decide +kernel
theorem dX3_sameParts_25 : decode cX3_sameParts 25 = .ok (.aload_n 3, 1) := by decide +kernel
theorem dX3_sameParts_26 : decode cX3_sameParts 26 = .ok (.invokestatic 136, 3) := by decide +kernel
theorem dX3_sameParts_29 : decode cX3_sameParts 29 = .ok (.aload_n 2, 1) := by decide +kernel
theorem dX3_sameParts_30 : decode cX3_sameParts 30 = .ok (.aload_n 3, 1) := by decide +kernel
theorem dX3_sameParts_31 : decode cX3_sameParts 31 = .ok (.invokestatic 136, 3) := by decide +kernel
theorem dX3_sameParts_34 : decode cX3_sameParts 34 = .ok (.invokevirtual 129, 3) := by decide +kernel
theorem dX3_sameParts_37 : decode cX3_sameParts 37 = .ok (.ireturn, 1) := by decide +kernel
abbrev cX3_isFront : ByteArray := prog_14_method_15_code
def yX3_isFront : MethodName := ⟨RX3, "isFront", "(LPureHouse$Term;LPureHouse$Term;)Z"⟩
theorem dX3_isFront_0 : decode cX3_isFront 0 = .ok (.aload_n 0, 1) := by decide +kernel
theorem dX3_isFront_1 : decode cX3_isFront 1 = .ok (.instanceof 100, 3) := by decide +kernel
theorem dX3_isFront_4 : decode cX3_isFront 4 = .ok (.ifCond .eq 14, 3) := by decide +kernel
theorem dX3_isFront_7 : decode cX3_isFront 7 = .ok (.aload_n 0, 1) := by decide +kernel
theorem dX3_isFront_8 : decode cX3_isFront 8 = .ok (.aload_n 1, 1) := by decide +kernel
theorem dX3_isFront_9 : decode cX3_isFront 9 = .ok (.if_acmp .ne 7, 3) := by decide +kernel
theorem dX3_isFront_12 : decode cX3_isFront 12 = .ok (.iconst 1, 1) := by decide +kernel
theorem dX3_isFront_13 : decode cX3_isFront 13 = .ok (.goto 4, 3) := by decide +kernel
theorem dX3_isFront_16 : decode cX3_isFront 16 = .ok (.iconst 0, 1) := by decide +kernel
theorem dX3_isFront_17 : decode cX3_isFront 17 = .ok (.ireturn, 1) := by decide +kernel
theorem dX3_isFront_18 : decode cX3_isFront 18 = .ok (.aload_n 0, 1) := by decide +kernel
theorem dX3_isFront_19 : decode cX3_isFront 19 = .ok (.instanceof 139, 3) := by decide +kernel
theorem dX3_isFront_22 : decode cX3_isFront 22 = .ok (.ifCond .eq 46, 3) := by decide +kernel
theorem dX3_isFront_25 : decode cX3_isFront 25 = .ok (.aload_n 0, 1) := by decide +kernel
theorem dX3_isFront_26 : decode cX3_isFront 26 = .ok (.checkcast 139, 3) := by decide +kernel
theorem dX3_isFront_29 : decode cX3_isFront 29 = .ok (.astore_n 3, 1) := by decide +kernel
theorem dX3_isFront_30 : decode cX3_isFront 30 = .ok (.aload_n 1, 1) := by decide +kernel
theorem dX3_isFront_31 : decode cX3_isFront 31 = .ok (.instanceof 139, 3) := by decide +kernel
theorem dX3_isFront_34 : decode cX3_isFront 34 = .ok (.ifCond .eq 34, 3) := by decide +kernel
theorem dX3_isFront_37 : decode cX3_isFront 37 = .ok (.aload_n 1, 1) := by decide +kernel
theorem dX3_isFront_38 : decode cX3_isFront 38 = .ok (.checkcast 139, 3) := by decide +kernel
theorem dX3_isFront_41 : decode cX3_isFront 41 = .ok (.astore_n 2, 1) := by decide +kernel
theorem dX3_isFront_42 : decode cX3_isFront 42 = .ok (.aload_n 3, 1) := by decide +kernel
theorem dX3_isFront_43 : decode cX3_isFront 43 = .ok (.getfield 141, 3) := by decide +kernel
theorem dX3_isFront_46 : decode cX3_isFront 46 = .ok (.aload_n 2, 1) := by decide +kernel
theorem dX3_isFront_47 : decode cX3_isFront 47 = .ok (.getfield 141, 3) := by decide +kernel
theorem dX3_isFront_50 : decode cX3_isFront 50 = .ok (.if_acmp .ne 18, 3) := by decide +kernel
theorem dX3_isFront_53 : decode cX3_isFront 53 = .ok (.aload_n 3, 1) := by decide +kernel
theorem dX3_isFront_54 : decode cX3_isFront 54 = .ok (.getfield 145, 3) := by decide +kernel
theorem dX3_isFront_57 : decode cX3_isFront 57 = .ok (.aload_n 2, 1) := by decide +kernel
theorem dX3_isFront_58 : decode cX3_isFront 58 = .ok (.getfield 145, 3) := by decide +kernel
theorem dX3_isFront_61 : decode cX3_isFront 61 = .ok (.if_icmp .ne 7, 3) := by decide +kernel
theorem dX3_isFront_64 : decode cX3_isFront 64 = .ok (.iconst 1, 1) := by decide +kernel
theorem dX3_isFront_65 : decode cX3_isFront 65 = .ok (.goto 4, 3) := by decide +kernel
theorem dX3_isFront_68 : decode cX3_isFront 68 = .ok (.iconst 0, 1) := by decide +kernel
theorem dX3_isFront_69 : decode cX3_isFront 69 = .ok (.ireturn, 1) := by decide +kernel
abbrev cX3_sameArgs : ByteArray := prog_14_method_16_code
def yX3_sameArgs : MethodName := ⟨RX3, "sameArgs", "(LPureHouse$Args;LPureHouse$Args;)Z"⟩
theorem dX3_sameArgs_0 : decode cX3_sameArgs 0 = .ok (.aload_n 1, 1) := by decide +kernel
theorem dX3_sameArgs_1 : decode cX3_sameArgs 1 = .ok (.invokestatic 148, 3) := by decide +kernel
theorem dX3_sameArgs_4 : decode cX3_sameArgs 4 = .ok (.aload_n 2, 1) := by decide +kernel
theorem dX3_sameArgs_5 : decode cX3_sameArgs 5 = .ok (.invokestatic 148, 3) := by decide +kernel
theorem dX3_sameArgs_8 : decode cX3_sameArgs 8 = .ok (.if_icmp .eq 5, 3) := by decide +kernel
theorem dX3_sameArgs_11 : decode cX3_sameArgs 11 = .ok (.iconst 0, 1) := by decide +kernel
theorem dX3_sameArgs_12 : decode cX3_sameArgs 12 = .ok (.ireturn, 1) := by decide +kernel
theorem dX3_sameArgs_13 : decode cX3_sameArgs 13 = .ok (.aload_n 2, 1) := by decide +kernel
theorem dX3_sameArgs_14 : decode cX3_sameArgs 14 = .ok (.astore_n 3, 1) := by decide +kernel
theorem dX3_sameArgs_15 : decode cX3_sameArgs 15 = .ok (.aload_n 1, 1) := by decide +kernel
theorem dX3_sameArgs_16 : decode cX3_sameArgs 16 = .ok (.astore 4, 2) := by decide +kernel
theorem dX3_sameArgs_18 : decode cX3_sameArgs 18 = .ok (.aload 4, 2) := by decide +kernel
theorem dX3_sameArgs_20 : decode cX3_sameArgs 20 = .ok (.ifnull 36, 3) := by decide +kernel
theorem dX3_sameArgs_23 : decode cX3_sameArgs 23 = .ok (.aload_n 0, 1) := by decide +kernel
theorem dX3_sameArgs_24 : decode cX3_sameArgs 24 = .ok (.aload 4, 2) := by decide +kernel
theorem dX3_sameArgs_26 : decode cX3_sameArgs 26 = .ok (.getfield 66, 3) := by decide +kernel
theorem dX3_sameArgs_29 : decode cX3_sameArgs 29 = .ok (.aload_n 3, 1) := by decide +kernel
theorem dX3_sameArgs_30 : decode cX3_sameArgs 30 = .ok (.getfield 66, 3) := by decide +kernel
theorem dX3_sameArgs_33 : decode cX3_sameArgs 33 = .ok (.invokevirtual 129, 3) := by decide +kernel
theorem dX3_sameArgs_36 : decode cX3_sameArgs 36 = .ok (.ifCond .ne 5, 3) := by decide +kernel
theorem dX3_sameArgs_39 : decode cX3_sameArgs 39 = .ok (.iconst 0, 1) := by decide +kernel
theorem dX3_sameArgs_40 : decode cX3_sameArgs 40 = .ok (.ireturn, 1) := by decide +kernel
theorem dX3_sameArgs_41 : decode cX3_sameArgs 41 = .ok (.aload_n 3, 1) := by decide +kernel
theorem dX3_sameArgs_42 : decode cX3_sameArgs 42 = .ok (.getfield 72, 3) := by decide +kernel
theorem dX3_sameArgs_45 : decode cX3_sameArgs 45 = .ok (.astore_n 3, 1) := by decide +kernel
theorem dX3_sameArgs_46 : decode cX3_sameArgs 46 = .ok (.aload 4, 2) := by decide +kernel
theorem dX3_sameArgs_48 : decode cX3_sameArgs 48 = .ok (.getfield 72, 3) := by decide +kernel
theorem dX3_sameArgs_51 : decode cX3_sameArgs 51 = .ok (.astore 4, 2) := by decide +kernel
theorem dX3_sameArgs_53 : decode cX3_sameArgs 53 = .ok (.goto (-35), 3) := by decide +kernel
theorem dX3_sameArgs_56 : decode cX3_sameArgs 56 = .ok (.iconst 1, 1) := by decide +kernel
theorem dX3_sameArgs_57 : decode cX3_sameArgs 57 = .ok (.ireturn, 1) := by decide +kernel
abbrev cX3_tell : ByteArray := prog_14_method_24_code
def yX3_tell : MethodName := ⟨RX3, "tell", "(LPureHouse$Closure;IZZ)V"⟩
theorem dX3_tell_0 : decode cX3_tell 0 = .ok (.aload_n 0, 1) := by decide +kernel
theorem dX3_tell_1 : decode cX3_tell 1 = .ok (.invokevirtual 103, 3) := by decide +kernel
theorem dX3_tell_4 : decode cX3_tell 4 = .ok (.aload_n 0, 1) := by decide +kernel
theorem dX3_tell_5 : decode cX3_tell 5 = .ok (.aload_n 1, 1) := by decide +kernel
theorem dX3_tell_6 : decode cX3_tell 6 = .ok (.invokevirtual 106, 3) := by decide +kernel
theorem dX3_tell_9 : decode cX3_tell 9 = .ok (.aload_n 0, 1) := by decide +kernel
theorem dX3_tell_10 : decode cX3_tell 10 = .ok (.invokevirtual 110, 3) := by decide +kernel
theorem dX3_tell_13 : decode cX3_tell 13 = .ok (.astore 5, 2) := by decide +kernel
theorem dX3_tell_15 : decode cX3_tell 15 = .ok (.aload_n 0, 1) := by decide +kernel
theorem dX3_tell_16 : decode cX3_tell 16 = .ok (.getfield 62, 3) := by decide +kernel
theorem dX3_tell_19 : decode cX3_tell 19 = .ok (.astore 6, 2) := by decide +kernel
theorem dX3_tell_21 : decode cX3_tell 21 = .ok (.aload 5, 2) := by decide +kernel
theorem dX3_tell_23 : decode cX3_tell 23 = .ok (.getfield 54, 3) := by decide +kernel
theorem dX3_tell_26 : decode cX3_tell 26 = .ok (.instanceof 83, 3) := by decide +kernel
theorem dX3_tell_29 : decode cX3_tell 29 = .ok (.ifCond .ne 14, 3) := by decide +kernel
theorem dX3_tell_32 : decode cX3_tell 32 = .ok (.aload 5, 2) := by decide +kernel
theorem dX3_tell_34 : decode cX3_tell 34 = .ok (.getfield 54, 3) := by decide +kernel
theorem dX3_tell_37 : decode cX3_tell 37 = .ok (.instanceof 88, 3) := by decide +kernel
theorem dX3_tell_40 : decode cX3_tell 40 = .ok (.ifCond .eq 7, 3) := by decide +kernel
theorem dX3_tell_43 : decode cX3_tell 43 = .ok (.iconst 1, 1) := by decide +kernel
theorem dX3_tell_44 : decode cX3_tell 44 = .ok (.goto 4, 3) := by decide +kernel
theorem dX3_tell_47 : decode cX3_tell 47 = .ok (.iconst 0, 1) := by decide +kernel
theorem dX3_tell_48 : decode cX3_tell 48 = .ok (.istore 7, 2) := by decide +kernel
theorem dX3_tell_50 : decode cX3_tell 50 = .ok (.iload 7, 2) := by decide +kernel
theorem dX3_tell_52 : decode cX3_tell 52 = .ok (.ifCond .eq 8, 3) := by decide +kernel
theorem dX3_tell_55 : decode cX3_tell 55 = .ok (.iload 4, 2) := by decide +kernel
theorem dX3_tell_57 : decode cX3_tell 57 = .ok (.goto 17, 3) := by decide +kernel
theorem dX3_tell_60 : decode cX3_tell 60 = .ok (.iload_n 3, 1) := by decide +kernel
theorem dX3_tell_61 : decode cX3_tell 61 = .ok (.ifCond .eq 12, 3) := by decide +kernel
theorem dX3_tell_64 : decode cX3_tell 64 = .ok (.aload 6, 2) := by decide +kernel
theorem dX3_tell_66 : decode cX3_tell 66 = .ok (.ifnull 7, 3) := by decide +kernel
theorem dX3_tell_69 : decode cX3_tell 69 = .ok (.iconst 1, 1) := by decide +kernel
theorem dX3_tell_70 : decode cX3_tell 70 = .ok (.goto 4, 3) := by decide +kernel
theorem dX3_tell_73 : decode cX3_tell 73 = .ok (.iconst 0, 1) := by decide +kernel
theorem dX3_tell_74 : decode cX3_tell 74 = .ok (.istore 8, 2) := by decide +kernel
theorem dX3_tell_76 : decode cX3_tell 76 = .ok (.aload_n 0, 1) := by decide +kernel
theorem dX3_tell_77 : decode cX3_tell 77 = .ok (.dup, 1) := by decide +kernel
theorem dX3_tell_78 : decode cX3_tell 78 = .ok (.getfield 30, 3) := by decide +kernel
theorem dX3_tell_81 : decode cX3_tell 81 = .ok (.iconst 1, 1) := by decide +kernel
theorem dX3_tell_82 : decode cX3_tell 82 = .ok (.iadd, 1) := by decide +kernel
theorem dX3_tell_83 : decode cX3_tell 83 = .ok (.putfield 30, 3) := by decide +kernel
theorem dX3_tell_86 : decode cX3_tell 86 = .ok (.iload 8, 2) := by decide +kernel
theorem dX3_tell_88 : decode cX3_tell 88 = .ok (.ifCond .eq 9, 3) := by decide +kernel
theorem dX3_tell_91 : decode cX3_tell 91 = .ok (.aload_n 0, 1) := by decide +kernel
theorem dX3_tell_92 : decode cX3_tell 92 = .ok (.bipush 40, 2) := by decide +kernel
theorem dX3_tell_94 : decode cX3_tell 94 = .ok (.invokevirtual 210, 3) := by decide +kernel
theorem dX3_tell_97 : decode cX3_tell 97 = .ok (.iload 7, 2) := by decide +kernel
theorem dX3_tell_99 : decode cX3_tell 99 = .ok (.ifCond .eq 13, 3) := by decide +kernel
theorem dX3_tell_102 : decode cX3_tell 102 = .ok (.aload_n 0, 1) := by decide +kernel
theorem dX3_tell_103 : decode cX3_tell 103 = .ok (.aload 5, 2) := by decide +kernel
theorem dX3_tell_105 : decode cX3_tell 105 = .ok (.iload_n 2, 1) := by decide +kernel
theorem dX3_tell_106 : decode cX3_tell 106 = .ok (.invokevirtual 216, 3) := by decide +kernel
theorem dX3_tell_109 : decode cX3_tell 109 = .ok (.goto 15, 3) := by decide +kernel
theorem dX3_tell_112 : decode cX3_tell 112 = .ok (.aload_n 0, 1) := by decide +kernel
theorem dX3_tell_113 : decode cX3_tell 113 = .ok (.aload 5, 2) := by decide +kernel
theorem dX3_tell_115 : decode cX3_tell 115 = .ok (.getfield 54, 3) := by decide +kernel
theorem dX3_tell_118 : decode cX3_tell 118 = .ok (.aload 6, 2) := by decide +kernel
theorem dX3_tell_120 : decode cX3_tell 120 = .ok (.iload_n 2, 1) := by decide +kernel
theorem dX3_tell_121 : decode cX3_tell 121 = .ok (.invokevirtual 220, 3) := by decide +kernel
theorem dX3_tell_124 : decode cX3_tell 124 = .ok (.iload 8, 2) := by decide +kernel
theorem dX3_tell_126 : decode cX3_tell 126 = .ok (.ifCond .eq 9, 3) := by decide +kernel
theorem dX3_tell_129 : decode cX3_tell 129 = .ok (.aload_n 0, 1) := by decide +kernel
theorem dX3_tell_130 : decode cX3_tell 130 = .ok (.bipush 41, 2) := by decide +kernel
theorem dX3_tell_132 : decode cX3_tell 132 = .ok (.invokevirtual 210, 3) := by decide +kernel
theorem dX3_tell_135 : decode cX3_tell 135 = .ok (.aload_n 0, 1) := by decide +kernel
theorem dX3_tell_136 : decode cX3_tell 136 = .ok (.dup, 1) := by decide +kernel
theorem dX3_tell_137 : decode cX3_tell 137 = .ok (.getfield 30, 3) := by decide +kernel
theorem dX3_tell_140 : decode cX3_tell 140 = .ok (.iconst 1, 1) := by decide +kernel
theorem dX3_tell_141 : decode cX3_tell 141 = .ok (.isub, 1) := by decide +kernel
theorem dX3_tell_142 : decode cX3_tell 142 = .ok (.putfield 30, 3) := by decide +kernel
theorem dX3_tell_145 : decode cX3_tell 145 = .ok (.return_, 1) := by decide +kernel
abbrev cX3_put : ByteArray := prog_14_method_21_code
def yX3_put : MethodName := ⟨RX3, "put", "(I)V"⟩
theorem dX3_put_0 : decode cX3_put 0 = .ok (.aload_n 0, 1) := by decide +kernel
theorem dX3_put_1 : decode cX3_put 1 = .ok (.getfield 197, 3) := by decide +kernel
theorem dX3_put_4 : decode cX3_put 4 = .ok (.sipush 3000, 3) := by decide +kernel
theorem dX3_put_7 : decode cX3_put 7 = .ok (.if_icmp .ge 14, 3) := by decide +kernel
theorem dX3_put_10 : decode cX3_put 10 = .ok (.aload_n 0, 1) := by decide +kernel
theorem dX3_put_11 : decode cX3_put 11 = .ok (.getfield 19, 3) := by decide +kernel
theorem dX3_put_14 : decode cX3_put 14 = .ok (.aload_n 0, 1) := by decide +kernel
theorem dX3_put_15 : decode cX3_put 15 = .ok (.getfield 197, 3) := by decide +kernel
theorem dX3_put_18 : decode cX3_put 18 = .ok (.iload_n 1, 1) := by decide +kernel
theorem dX3_put_19 : decode cX3_put 19 = .ok (.i2b, 1) := by decide +kernel
theorem dX3_put_20 : decode cX3_put 20 = .ok (.bastore, 1) := by decide +kernel
theorem dX3_put_21 : decode cX3_put 21 = .ok (.aload_n 0, 1) := by decide +kernel
theorem dX3_put_22 : decode cX3_put 22 = .ok (.dup, 1) := by decide +kernel
theorem dX3_put_23 : decode cX3_put 23 = .ok (.getfield 197, 3) := by decide +kernel
theorem dX3_put_26 : decode cX3_put 26 = .ok (.iconst 1, 1) := by decide +kernel
theorem dX3_put_27 : decode cX3_put 27 = .ok (.iadd, 1) := by decide +kernel
theorem dX3_put_28 : decode cX3_put 28 = .ok (.putfield 197, 3) := by decide +kernel
theorem dX3_put_31 : decode cX3_put 31 = .ok (.return_, 1) := by decide +kernel
abbrev cX3_binder : ByteArray := prog_14_method_25_code
def yX3_binder : MethodName := ⟨RX3, "binder", "(LPureHouse$Closure;I)V"⟩
theorem dX3_binder_0 : decode cX3_binder 0 = .ok (.aload_n 0, 1) := by decide +kernel
theorem dX3_binder_1 : decode cX3_binder 1 = .ok (.aload_n 1, 1) := by decide +kernel
theorem dX3_binder_2 : decode cX3_binder 2 = .ok (.getfield 54, 3) := by decide +kernel
theorem dX3_binder_5 : decode cX3_binder 5 = .ok (.instanceof 83, 3) := by decide +kernel
theorem dX3_binder_8 : decode cX3_binder 8 = .ok (.ifCond .eq 8, 3) := by decide +kernel
theorem dX3_binder_11 : decode cX3_binder 11 = .ok (.bipush 92, 2) := by decide +kernel
theorem dX3_binder_13 : decode cX3_binder 13 = .ok (.goto 5, 3) := by decide +kernel
theorem dX3_binder_16 : decode cX3_binder 16 = .ok (.bipush 33, 2) := by decide +kernel
theorem dX3_binder_18 : decode cX3_binder 18 = .ok (.invokevirtual 210, 3) := by decide +kernel
theorem dX3_binder_21 : decode cX3_binder 21 = .ok (.aload_n 0, 1) := by decide +kernel
theorem dX3_binder_22 : decode cX3_binder 22 = .ok (.bipush 95, 2) := by decide +kernel
theorem dX3_binder_24 : decode cX3_binder 24 = .ok (.invokevirtual 210, 3) := by decide +kernel
theorem dX3_binder_27 : decode cX3_binder 27 = .ok (.aload_n 0, 1) := by decide +kernel
theorem dX3_binder_28 : decode cX3_binder 28 = .ok (.iload_n 2, 1) := by decide +kernel
theorem dX3_binder_29 : decode cX3_binder 29 = .ok (.invokevirtual 213, 3) := by decide +kernel
theorem dX3_binder_32 : decode cX3_binder 32 = .ok (.aload_n 0, 1) := by decide +kernel
theorem dX3_binder_33 : decode cX3_binder 33 = .ok (.bipush 58, 2) := by decide +kernel
theorem dX3_binder_35 : decode cX3_binder 35 = .ok (.invokevirtual 210, 3) := by decide +kernel
theorem dX3_binder_38 : decode cX3_binder 38 = .ok (.aload_n 0, 1) := by decide +kernel
theorem dX3_binder_39 : decode cX3_binder 39 = .ok (.aload_n 1, 1) := by decide +kernel
theorem dX3_binder_40 : decode cX3_binder 40 = .ok (.invokestatic 126, 3) := by decide +kernel
theorem dX3_binder_43 : decode cX3_binder 43 = .ok (.iload_n 2, 1) := by decide +kernel
theorem dX3_binder_44 : decode cX3_binder 44 = .ok (.iconst 0, 1) := by decide +kernel
theorem dX3_binder_45 : decode cX3_binder 45 = .ok (.iconst 1, 1) := by decide +kernel
theorem dX3_binder_46 : decode cX3_binder 46 = .ok (.invokevirtual 224, 3) := by decide +kernel
theorem dX3_binder_49 : decode cX3_binder 49 = .ok (.aload_n 0, 1) := by decide +kernel
theorem dX3_binder_50 : decode cX3_binder 50 = .ok (.bipush 46, 2) := by decide +kernel
theorem dX3_binder_52 : decode cX3_binder 52 = .ok (.invokevirtual 210, 3) := by decide +kernel
theorem dX3_binder_55 : decode cX3_binder 55 = .ok (.aload_n 0, 1) := by decide +kernel
theorem dX3_binder_56 : decode cX3_binder 56 = .ok (.aload_n 1, 1) := by decide +kernel
theorem dX3_binder_57 : decode cX3_binder 57 = .ok (.iload_n 2, 1) := by decide +kernel
theorem dX3_binder_58 : decode cX3_binder 58 = .ok (.iconst (-1), 1) := by decide +kernel
theorem dX3_binder_59 : decode cX3_binder 59 = .ok (.invokestatic 132, 3) := by decide +kernel
theorem dX3_binder_62 : decode cX3_binder 62 = .ok (.invokestatic 136, 3) := by decide +kernel
theorem dX3_binder_65 : decode cX3_binder 65 = .ok (.iload_n 2, 1) := by decide +kernel
theorem dX3_binder_66 : decode cX3_binder 66 = .ok (.iconst 1, 1) := by decide +kernel
theorem dX3_binder_67 : decode cX3_binder 67 = .ok (.iadd, 1) := by decide +kernel
theorem dX3_binder_68 : decode cX3_binder 68 = .ok (.iconst 0, 1) := by decide +kernel
theorem dX3_binder_69 : decode cX3_binder 69 = .ok (.iconst 0, 1) := by decide +kernel
theorem dX3_binder_70 : decode cX3_binder 70 = .ok (.invokevirtual 224, 3) := by decide +kernel
theorem dX3_binder_73 : decode cX3_binder 73 = .ok (.return_, 1) := by decide +kernel
abbrev cX3_number : ByteArray := prog_14_method_23_code
def yX3_number : MethodName := ⟨RX3, "number", "(I)V"⟩
theorem dX3_number_0 : decode cX3_number 0 = .ok (.iload_n 1, 1) := by decide +kernel
theorem dX3_number_1 : decode cX3_number 1 = .ok (.bipush 9, 2) := by decide +kernel
theorem dX3_number_3 : decode cX3_number 3 = .ok (.if_icmp .le 11, 3) := by decide +kernel
theorem dX3_number_6 : decode cX3_number 6 = .ok (.aload_n 0, 1) := by decide +kernel
theorem dX3_number_7 : decode cX3_number 7 = .ok (.iload_n 1, 1) := by decide +kernel
theorem dX3_number_8 : decode cX3_number 8 = .ok (.bipush 10, 2) := by decide +kernel
theorem dX3_number_10 : decode cX3_number 10 = .ok (.idiv, 1) := by decide +kernel
theorem dX3_number_11 : decode cX3_number 11 = .ok (.invokevirtual 213, 3) := by decide +kernel
theorem dX3_number_14 : decode cX3_number 14 = .ok (.aload_n 0, 1) := by decide +kernel
theorem dX3_number_15 : decode cX3_number 15 = .ok (.bipush 48, 2) := by decide +kernel
theorem dX3_number_17 : decode cX3_number 17 = .ok (.iload_n 1, 1) := by decide +kernel
theorem dX3_number_18 : decode cX3_number 18 = .ok (.bipush 10, 2) := by decide +kernel
theorem dX3_number_20 : decode cX3_number 20 = .ok (.irem, 1) := by decide +kernel
theorem dX3_number_21 : decode cX3_number 21 = .ok (.iadd, 1) := by decide +kernel
theorem dX3_number_22 : decode cX3_number 22 = .ok (.invokevirtual 210, 3) := by decide +kernel
theorem dX3_number_25 : decode cX3_number 25 = .ok (.return_, 1) := by decide +kernel
abbrev cX3_front : ByteArray := prog_14_method_27_code
def yX3_front : MethodName := ⟨RX3, "front", "(LPureHouse$Term;LPureHouse$Args;I)V"⟩
theorem dX3_front_0 : decode cX3_front 0 = .ok (.aload_n 0, 1) := by decide +kernel
theorem dX3_front_1 : decode cX3_front 1 = .ok (.aload_n 1, 1) := by decide +kernel
theorem dX3_front_2 : decode cX3_front 2 = .ok (.invokevirtual 245, 3) := by decide +kernel
theorem dX3_front_5 : decode cX3_front 5 = .ok (.aload_n 2, 1) := by decide +kernel
theorem dX3_front_6 : decode cX3_front 6 = .ok (.astore 4, 2) := by decide +kernel
theorem dX3_front_8 : decode cX3_front 8 = .ok (.aload 4, 2) := by decide +kernel
theorem dX3_front_10 : decode cX3_front 10 = .ok (.ifnull 31, 3) := by decide +kernel
theorem dX3_front_13 : decode cX3_front 13 = .ok (.aload_n 0, 1) := by decide +kernel
theorem dX3_front_14 : decode cX3_front 14 = .ok (.bipush 32, 2) := by decide +kernel
theorem dX3_front_16 : decode cX3_front 16 = .ok (.invokevirtual 210, 3) := by decide +kernel
theorem dX3_front_19 : decode cX3_front 19 = .ok (.aload_n 0, 1) := by decide +kernel
theorem dX3_front_20 : decode cX3_front 20 = .ok (.aload 4, 2) := by decide +kernel
theorem dX3_front_22 : decode cX3_front 22 = .ok (.getfield 66, 3) := by decide +kernel
theorem dX3_front_25 : decode cX3_front 25 = .ok (.iload_n 3, 1) := by decide +kernel
theorem dX3_front_26 : decode cX3_front 26 = .ok (.iconst 1, 1) := by decide +kernel
theorem dX3_front_27 : decode cX3_front 27 = .ok (.iconst 1, 1) := by decide +kernel
theorem dX3_front_28 : decode cX3_front 28 = .ok (.invokevirtual 224, 3) := by decide +kernel
theorem dX3_front_31 : decode cX3_front 31 = .ok (.aload 4, 2) := by decide +kernel
theorem dX3_front_33 : decode cX3_front 33 = .ok (.getfield 72, 3) := by decide +kernel
theorem dX3_front_36 : decode cX3_front 36 = .ok (.astore 4, 2) := by decide +kernel
theorem dX3_front_38 : decode cX3_front 38 = .ok (.goto (-30), 3) := by decide +kernel
theorem dX3_front_41 : decode cX3_front 41 = .ok (.return_, 1) := by decide +kernel
abbrev cX3_name : ByteArray := prog_14_method_26_code
def yX3_name : MethodName := ⟨RX3, "name", "(LPureHouse$Term;)V"⟩
theorem dX3_name_0 : decode cX3_name 0 = .ok (.aload_n 1, 1) := by decide +kernel
theorem dX3_name_1 : decode cX3_name 1 = .ok (.instanceof 100, 3) := by decide +kernel
theorem dX3_name_4 : decode cX3_name 4 = .ok (.ifCond .eq 25, 3) := by decide +kernel
theorem dX3_name_7 : decode cX3_name 7 = .ok (.aload_n 1, 1) := by decide +kernel
theorem dX3_name_8 : decode cX3_name 8 = .ok (.checkcast 100, 3) := by decide +kernel
theorem dX3_name_11 : decode cX3_name 11 = .ok (.astore_n 2, 1) := by decide +kernel
theorem dX3_name_12 : decode cX3_name 12 = .ok (.aload_n 0, 1) := by decide +kernel
theorem dX3_name_13 : decode cX3_name 13 = .ok (.bipush 95, 2) := by decide +kernel
theorem dX3_name_15 : decode cX3_name 15 = .ok (.invokevirtual 210, 3) := by decide +kernel
theorem dX3_name_18 : decode cX3_name 18 = .ok (.aload_n 0, 1) := by decide +kernel
theorem dX3_name_19 : decode cX3_name 19 = .ok (.aload_n 2, 1) := by decide +kernel
theorem dX3_name_20 : decode cX3_name 20 = .ok (.getfield 228, 3) := by decide +kernel
theorem dX3_name_23 : decode cX3_name 23 = .ok (.invokevirtual 213, 3) := by decide +kernel
theorem dX3_name_26 : decode cX3_name 26 = .ok (.goto 48, 3) := by decide +kernel
theorem dX3_name_29 : decode cX3_name 29 = .ok (.aload_n 1, 1) := by decide +kernel
theorem dX3_name_30 : decode cX3_name 30 = .ok (.instanceof 139, 3) := by decide +kernel
theorem dX3_name_33 : decode cX3_name 33 = .ok (.ifCond .eq 41, 3) := by decide +kernel
theorem dX3_name_36 : decode cX3_name 36 = .ok (.aload_n 1, 1) := by decide +kernel
theorem dX3_name_37 : decode cX3_name 37 = .ok (.checkcast 139, 3) := by decide +kernel
theorem dX3_name_40 : decode cX3_name 40 = .ok (.astore_n 3, 1) := by decide +kernel
theorem dX3_name_41 : decode cX3_name 41 = .ok (.aload_n 0, 1) := by decide +kernel
theorem dX3_name_42 : decode cX3_name 42 = .ok (.aload_n 3, 1) := by decide +kernel
theorem dX3_name_43 : decode cX3_name 43 = .ok (.getfield 141, 3) := by decide +kernel
theorem dX3_name_46 : decode cX3_name 46 = .ok (.ifnonnull 18, 3) := by decide +kernel
theorem dX3_name_49 : decode cX3_name 49 = .ok (.aload_n 0, 1) := by decide +kernel
theorem dX3_name_50 : decode cX3_name 50 = .ok (.getfield 23, 3) := by decide +kernel
theorem dX3_name_53 : decode cX3_name 53 = .ok (.getfield 230, 3) := by decide +kernel
theorem dX3_name_56 : decode cX3_name 56 = .ok (.aload_n 3, 1) := by decide +kernel
theorem dX3_name_57 : decode cX3_name 57 = .ok (.getfield 145, 3) := by decide +kernel
theorem dX3_name_60 : decode cX3_name 60 = .ok (.aaload, 1) := by decide +kernel
theorem dX3_name_61 : decode cX3_name 61 = .ok (.goto 10, 3) := by decide +kernel
theorem dX3_name_64 : decode cX3_name 64 = .ok (.aload_n 3, 1) := by decide +kernel
theorem dX3_name_65 : decode cX3_name 65 = .ok (.getfield 141, 3) := by decide +kernel
theorem dX3_name_68 : decode cX3_name 68 = .ok (.getfield 236, 3) := by decide +kernel
theorem dX3_name_71 : decode cX3_name 71 = .ok (.invokevirtual 242, 3) := by decide +kernel
theorem dX3_name_74 : decode cX3_name 74 = .ok (.return_, 1) := by decide +kernel
abbrev cX3_put_2 : ByteArray := prog_14_method_22_code
def yX3_put_2 : MethodName := ⟨RX3, "put", "(Ljava/lang/String;)V"⟩
theorem dX3_put_2_0 : decode cX3_put_2 0 = .ok (.iconst 0, 1) := by decide +kernel
theorem dX3_put_2_1 : decode cX3_put_2 1 = .ok (.istore_n 2, 1) := by decide +kernel
theorem dX3_put_2_2 : decode cX3_put_2 2 = .ok (.iload_n 2, 1) := by decide +kernel
theorem dX3_put_2_3 : decode cX3_put_2 3 = .ok (.aload_n 1, 1) := by decide +kernel
theorem dX3_put_2_4 : decode cX3_put_2 4 = .ok (.invokevirtual 200, 3) := by decide +kernel
theorem dX3_put_2_7 : decode cX3_put_2 7 = .ok (.if_icmp .ge 18, 3) := by decide +kernel
theorem dX3_put_2_10 : decode cX3_put_2 10 = .ok (.aload_n 0, 1) := by decide +kernel
theorem dX3_put_2_11 : decode cX3_put_2 11 = .ok (.aload_n 1, 1) := by decide +kernel
theorem dX3_put_2_12 : decode cX3_put_2 12 = .ok (.iload_n 2, 1) := by decide +kernel
theorem dX3_put_2_13 : decode cX3_put_2 13 = .ok (.invokevirtual 206, 3) := by decide +kernel
theorem dX3_put_2_16 : decode cX3_put_2 16 = .ok (.invokevirtual 210, 3) := by decide +kernel
theorem dX3_put_2_19 : decode cX3_put_2 19 = .ok (.iinc 2 1, 3) := by decide +kernel
theorem dX3_put_2_22 : decode cX3_put_2 22 = .ok (.goto (-20), 3) := by decide +kernel
theorem dX3_put_2_25 : decode cX3_put_2 25 = .ok (.return_, 1) := by decide +kernel
theorem q115 : (Jvm.Cond.initialized "PureHouse$Machine") ∈ lw_all := lw_g (lw_at lw_m1 3 rfl) rfl
theorem q181 : (Jvm.Cond.fieldLinkNest "PureHouse$Machine" (230 : Nat) "PureHouse$Tables" "names" "[Ljava/lang/String;" "PureHouse") ∈ lw_tbl := lw_at lw_m1 69 rfl
theorem q200 : (Jvm.Cond.instantiable "PureHouse$Machine" (11 : Nat)) ∈ lw_all := lw_g (lw_at lw_m1 88 rfl) rfl
theorem q202 : (Jvm.Cond.instanceMethod ({ cls := "PureHouse$Machine", name := "<init>", desc := "(LPureHouse$Tables;)V" } : Jvm.MethodName)) ∈ lw_all := lw_g (lw_at lw_m1 90 rfl) rfl
theorem q203 : (Jvm.Cond.code ({ cls := "PureHouse$Machine", name := "<init>", desc := "(LPureHouse$Tables;)V" } : Jvm.MethodName) prog_14_method_1_code (2 : Nat) (Option.none : Option Jvm.ClassFile.FieldType)) ∈ lw_all := lw_g (lw_at lw_m1 91 rfl) rfl
theorem q204 : (Jvm.Cond.methodLink "PureHouse$Machine" (3 : Nat) ({ cls := "java/lang/Object", name := "<init>", desc := "()V" } : Jvm.MethodName)) ∈ lw_all := lw_g (lw_at lw_m1 92 rfl) rfl
theorem q205 : (Jvm.Cond.fieldLink "PureHouse$Machine" (23 : Nat) "PureHouse$Machine" "tables" "LPureHouse$Tables;") ∈ lw_all := lw_g (lw_at lw_m1 93 rfl) rfl
theorem q207 : (Jvm.Cond.fieldLink "PureHouse$Machine" (46 : Nat) "PureHouse$Machine" "term" "LPureHouse$Term;") ∈ lw_all := lw_g (lw_at lw_m1 95 rfl) rfl
theorem q215 : (Jvm.Cond.fieldLink "PureHouse$Machine" (50 : Nat) "PureHouse$Machine" "env" "LPureHouse$Env;") ∈ lw_all := lw_g (lw_at lw_m1 103 rfl) rfl
theorem q218 : (Jvm.Cond.fieldLink "PureHouse$Machine" (62 : Nat) "PureHouse$Machine" "args" "LPureHouse$Args;") ∈ lw_all := lw_g (lw_at lw_m1 106 rfl) rfl
theorem q220 : (Jvm.Cond.fieldLink "PureHouse$Machine" (9 : Nat) "PureHouse$Machine" "spent" "[I") ∈ lw_all := lw_g (lw_at lw_m1 108 rfl) rfl
theorem q222 : (Jvm.Cond.fieldLink "PureHouse$Machine" (27 : Nat) "PureHouse$Machine" "work" "I") ∈ lw_all := lw_g (lw_at lw_m1 110 rfl) rfl
theorem q224 : (Jvm.Cond.fieldLink "PureHouse$Machine" (38 : Nat) "PureHouse$Machine" "life" "I") ∈ lw_all := lw_g (lw_at lw_m1 112 rfl) rfl
theorem q226 : (Jvm.Cond.fieldLink "PureHouse$Machine" (15 : Nat) "PureHouse$Machine" "limit" "I") ∈ lw_all := lw_g (lw_at lw_m1 114 rfl) rfl
theorem q228 : (Jvm.Cond.fieldLink "PureHouse$Machine" (30 : Nat) "PureHouse$Machine" "within" "I") ∈ lw_all := lw_g (lw_at lw_m1 116 rfl) rfl
theorem q229 : (Jvm.Cond.fieldLink "PureHouse$Machine" (19 : Nat) "PureHouse$Machine" "out" "[B") ∈ lw_all := lw_g (lw_at lw_m1 117 rfl) rfl
theorem q232 : (Jvm.Cond.fieldLink "PureHouse$Machine" (197 : Nat) "PureHouse$Machine" "outs" "I") ∈ lw_all := lw_g (lw_at lw_m1 120 rfl) rfl
theorem q233 : (Jvm.Cond.laysFinal "PureHouse$Machine" "PureHouse$Machine" "tables" "LPureHouse$Tables;") ∈ lw_all := lw_g (lw_at lw_m1 121 rfl) rfl
theorem q234 : (Jvm.Cond.soleField "PureHouse$Machine" "tables") ∈ lw_all := lw_g (lw_at lw_m1 122 rfl) rfl
theorem q235 : (Jvm.Cond.lays "PureHouse$Machine" "PureHouse$Machine" "term" "LPureHouse$Term;") ∈ lw_all := lw_g (lw_at lw_m1 123 rfl) rfl
theorem q236 : (Jvm.Cond.soleField "PureHouse$Machine" "term") ∈ lw_all := lw_g (lw_at lw_m1 124 rfl) rfl
theorem q237 : (Jvm.Cond.lays "PureHouse$Machine" "PureHouse$Machine" "env" "LPureHouse$Env;") ∈ lw_all := lw_g (lw_at lw_m1 125 rfl) rfl
theorem q238 : (Jvm.Cond.soleField "PureHouse$Machine" "env") ∈ lw_all := lw_g (lw_at lw_m1 126 rfl) rfl
theorem q239 : (Jvm.Cond.lays "PureHouse$Machine" "PureHouse$Machine" "args" "LPureHouse$Args;") ∈ lw_all := lw_g (lw_at lw_m1 127 rfl) rfl
theorem q240 : (Jvm.Cond.soleField "PureHouse$Machine" "args") ∈ lw_all := lw_g (lw_at lw_m1 128 rfl) rfl
theorem q241 : (Jvm.Cond.laysFinal "PureHouse$Machine" "PureHouse$Machine" "spent" "[I") ∈ lw_all := lw_g (lw_at lw_m1 129 rfl) rfl
theorem q242 : (Jvm.Cond.soleField "PureHouse$Machine" "spent") ∈ lw_all := lw_g (lw_at lw_m1 130 rfl) rfl
theorem q243 : (Jvm.Cond.lays "PureHouse$Machine" "PureHouse$Machine" "work" "I") ∈ lw_all := lw_g (lw_at lw_m1 131 rfl) rfl
theorem q244 : (Jvm.Cond.soleField "PureHouse$Machine" "work") ∈ lw_all := lw_g (lw_at lw_m1 132 rfl) rfl
theorem q245 : (Jvm.Cond.lays "PureHouse$Machine" "PureHouse$Machine" "life" "I") ∈ lw_all := lw_g (lw_at lw_m1 133 rfl) rfl
theorem q246 : (Jvm.Cond.soleField "PureHouse$Machine" "life") ∈ lw_all := lw_g (lw_at lw_m1 134 rfl) rfl
theorem q247 : (Jvm.Cond.lays "PureHouse$Machine" "PureHouse$Machine" "limit" "I") ∈ lw_all := lw_g (lw_at lw_m1 135 rfl) rfl
theorem q248 : (Jvm.Cond.soleField "PureHouse$Machine" "limit") ∈ lw_all := lw_g (lw_at lw_m1 136 rfl) rfl
theorem q249 : (Jvm.Cond.lays "PureHouse$Machine" "PureHouse$Machine" "within" "I") ∈ lw_all := lw_g (lw_at lw_m1 137 rfl) rfl
theorem q250 : (Jvm.Cond.soleField "PureHouse$Machine" "within") ∈ lw_all := lw_g (lw_at lw_m1 138 rfl) rfl
theorem q251 : (Jvm.Cond.laysFinal "PureHouse$Machine" "PureHouse$Machine" "out" "[B") ∈ lw_all := lw_g (lw_at lw_m1 139 rfl) rfl
theorem q252 : (Jvm.Cond.soleField "PureHouse$Machine" "out") ∈ lw_all := lw_g (lw_at lw_m1 140 rfl) rfl
theorem q253 : (Jvm.Cond.lays "PureHouse$Machine" "PureHouse$Machine" "outs" "I") ∈ lw_all := lw_g (lw_at lw_m1 141 rfl) rfl
theorem q254 : (Jvm.Cond.soleField "PureHouse$Machine" "outs") ∈ lw_all := lw_g (lw_at lw_m1 142 rfl) rfl
theorem q255 : (Jvm.Cond.superclass "PureHouse$Machine" "java/lang/Object") ∈ lw_all := lw_g (lw_at lw_m1 143 rfl) rfl
theorem q1037 : (Jvm.Cond.fieldLinkNest "PureHouse$Machine" (85 : Nat) "PureHouse$Lambda" "domain" "LPureHouse$Term;" "PureHouse") ∈ lw_tbl := lw_at lw_m4 205 rfl
theorem q1040 : (Jvm.Cond.fieldLinkNest "PureHouse$Machine" (91 : Nat) "PureHouse$Lambda" "body" "LPureHouse$Term;" "PureHouse") ∈ lw_tbl := lw_at lw_m4 208 rfl
theorem q1115 : (Jvm.Cond.selects "PureHouse$Machine" ({ cls := "java/lang/Object", name := "getClass", desc := "()Ljava/lang/Class;" } : Jvm.MethodName) ({ cls := "java/lang/Object", name := "getClass", desc := "()Ljava/lang/Class;" } : Jvm.MethodName)) ∈ lw_all := lw_g (lw_at lw_m5 43 rfl) rfl
theorem q1166 : (Jvm.Cond.fieldLinkNest "PureHouse$Machine" (90 : Nat) "PureHouse$Product" "domain" "LPureHouse$Term;" "PureHouse") ∈ lw_tbl := lw_at lw_m5 94 rfl
theorem q1168 : (Jvm.Cond.fieldLinkNest "PureHouse$Machine" (94 : Nat) "PureHouse$Product" "body" "LPureHouse$Term;" "PureHouse") ∈ lw_tbl := lw_at lw_m5 96 rfl
theorem q1172 : (Jvm.Cond.fieldLinkNest "PureHouse$Machine" (171 : Nat) "PureHouse$Product" "a" "I" "PureHouse") ∈ lw_tbl := lw_at lw_m5 100 rfl
theorem q1174 : (Jvm.Cond.fieldLinkNest "PureHouse$Machine" (174 : Nat) "PureHouse$Product" "b" "I" "PureHouse") ∈ lw_tbl := lw_at lw_m5 102 rfl
theorem q1260 : (Jvm.Cond.fieldLinkNest "PureHouse$Machine" (141 : Nat) "PureHouse$Free" "of" "LPureHouse$Name;" "PureHouse") ∈ lw_tbl := lw_at lw_m5 188 rfl
theorem q1264 : (Jvm.Cond.fieldLinkNest "PureHouse$Machine" (145 : Nat) "PureHouse$Free" "sort" "I" "PureHouse") ∈ lw_tbl := lw_at lw_m5 192 rfl
theorem q1298 : (Jvm.Cond.fieldLinkNest "PureHouse$Machine" (187 : Nat) "PureHouse$Use" "parts" "Ljava/util/ArrayList;" "PureHouse") ∈ lw_tbl := lw_at lw_m5 226 rfl
theorem q1330 : (Jvm.Cond.instanceMethod ({ cls := "PureHouse$Machine", name := "begins", desc := "()V" } : Jvm.MethodName)) ∈ lw_all := lw_g (lw_at lw_m6 18 rfl) rfl
theorem q1331 : (Jvm.Cond.selects "PureHouse$Machine" ({ cls := "PureHouse$Machine", name := "begins", desc := "()V" } : Jvm.MethodName) ({ cls := "PureHouse$Machine", name := "begins", desc := "()V" } : Jvm.MethodName)) ∈ lw_all := lw_g (lw_at lw_m6 19 rfl) rfl
theorem q1332 : (Jvm.Cond.code ({ cls := "PureHouse$Machine", name := "begins", desc := "()V" } : Jvm.MethodName) prog_14_method_2_code (2 : Nat) (Option.none : Option Jvm.ClassFile.FieldType)) ∈ lw_all := lw_g (lw_at lw_m6 20 rfl) rfl
theorem q1437 : (Jvm.Cond.fieldLinkNest "PureHouse$Machine" (54 : Nat) "PureHouse$Closure" "term" "LPureHouse$Term;" "PureHouse") ∈ lw_tbl := lw_at lw_m6 125 rfl
theorem q1440 : (Jvm.Cond.fieldLinkNest "PureHouse$Machine" (57 : Nat) "PureHouse$Closure" "env" "LPureHouse$Env;" "PureHouse") ∈ lw_tbl := lw_at lw_m6 128 rfl
theorem q1450 : (Jvm.Cond.instanceMethod ({ cls := "PureHouse$Machine", name := "normal", desc := "(LPureHouse$Closure;I)LPureHouse$Term;" } : Jvm.MethodName)) ∈ lw_all := lw_g (lw_at lw_m6 138 rfl) rfl
theorem q1451 : (Jvm.Cond.selects "PureHouse$Machine" ({ cls := "PureHouse$Machine", name := "normal", desc := "(LPureHouse$Closure;I)LPureHouse$Term;" } : Jvm.MethodName) ({ cls := "PureHouse$Machine", name := "normal", desc := "(LPureHouse$Closure;I)LPureHouse$Term;" } : Jvm.MethodName)) ∈ lw_all := lw_g (lw_at lw_m6 139 rfl) rfl
theorem q1452 : (Jvm.Cond.code ({ cls := "PureHouse$Machine", name := "normal", desc := "(LPureHouse$Closure;I)LPureHouse$Term;" } : Jvm.MethodName) prog_14_method_17_code (8 : Nat) (Option.some (Jvm.ClassFile.FieldType.object "PureHouse$Term"))) ∈ lw_all := lw_g (lw_at lw_m6 140 rfl) rfl
theorem q1453 : (Jvm.Cond.methodLink "PureHouse$Machine" (103 : Nat) ({ cls := "PureHouse$Machine", name := "looks", desc := "()V" } : Jvm.MethodName)) ∈ lw_all := lw_g (lw_at lw_m6 141 rfl) rfl
theorem q1454 : (Jvm.Cond.privateMethod ({ cls := "PureHouse$Machine", name := "looks", desc := "()V" } : Jvm.MethodName)) ∈ lw_tbl := lw_at lw_m6 142 rfl
theorem q1455 : (Jvm.Cond.instanceMethod ({ cls := "PureHouse$Machine", name := "looks", desc := "()V" } : Jvm.MethodName)) ∈ lw_all := lw_g (lw_at lw_m6 143 rfl) rfl
theorem q1456 : (Jvm.Cond.code ({ cls := "PureHouse$Machine", name := "looks", desc := "()V" } : Jvm.MethodName) prog_14_method_4_code (1 : Nat) (Option.none : Option Jvm.ClassFile.FieldType)) ∈ lw_all := lw_g (lw_at lw_m6 144 rfl) rfl
theorem q1457 : (Jvm.Cond.classLink "PureHouse$Machine" (33 : Nat) "PureHouse$Fault") ∈ lw_all := lw_g (lw_at lw_m6 145 rfl) rfl
theorem q1458 : (Jvm.Cond.methodLink "PureHouse$Machine" (35 : Nat) ({ cls := "PureHouse$Fault", name := "<init>", desc := "(II)V" } : Jvm.MethodName)) ∈ lw_all := lw_g (lw_at lw_m6 146 rfl) rfl
theorem q1459 : (Jvm.Cond.methodLink "PureHouse$Machine" (42 : Nat) ({ cls := "PureHouse$Machine", name := "spend", desc := "(I)V" } : Jvm.MethodName)) ∈ lw_all := lw_g (lw_at lw_m6 147 rfl) rfl
theorem q1460 : (Jvm.Cond.instanceMethod ({ cls := "PureHouse$Machine", name := "spend", desc := "(I)V" } : Jvm.MethodName)) ∈ lw_all := lw_g (lw_at lw_m6 148 rfl) rfl
theorem q1461 : (Jvm.Cond.selects "PureHouse$Machine" ({ cls := "PureHouse$Machine", name := "spend", desc := "(I)V" } : Jvm.MethodName) ({ cls := "PureHouse$Machine", name := "spend", desc := "(I)V" } : Jvm.MethodName)) ∈ lw_all := lw_g (lw_at lw_m6 149 rfl) rfl
theorem q1462 : (Jvm.Cond.code ({ cls := "PureHouse$Machine", name := "spend", desc := "(I)V" } : Jvm.MethodName) prog_14_method_3_code (2 : Nat) (Option.none : Option Jvm.ClassFile.FieldType)) ∈ lw_all := lw_g (lw_at lw_m6 150 rfl) rfl
theorem q1463 : (Jvm.Cond.constant "PureHouse$Machine" (41 : Nat) (60000 : Int32)) ∈ lw_all := lw_g (lw_at lw_m6 151 rfl) rfl
theorem q1464 : (Jvm.Cond.methodLink "PureHouse$Machine" (106 : Nat) ({ cls := "PureHouse$Machine", name := "head", desc := "(LPureHouse$Closure;)V" } : Jvm.MethodName)) ∈ lw_all := lw_g (lw_at lw_m6 152 rfl) rfl
theorem q1465 : (Jvm.Cond.instanceMethod ({ cls := "PureHouse$Machine", name := "head", desc := "(LPureHouse$Closure;)V" } : Jvm.MethodName)) ∈ lw_all := lw_g (lw_at lw_m6 153 rfl) rfl
theorem q1466 : (Jvm.Cond.selects "PureHouse$Machine" ({ cls := "PureHouse$Machine", name := "head", desc := "(LPureHouse$Closure;)V" } : Jvm.MethodName) ({ cls := "PureHouse$Machine", name := "head", desc := "(LPureHouse$Closure;)V" } : Jvm.MethodName)) ∈ lw_all := lw_g (lw_at lw_m6 154 rfl) rfl
theorem q1467 : (Jvm.Cond.code ({ cls := "PureHouse$Machine", name := "head", desc := "(LPureHouse$Closure;)V" } : Jvm.MethodName) prog_14_method_8_code (3 : Nat) (Option.none : Option Jvm.ClassFile.FieldType)) ∈ lw_all := lw_g (lw_at lw_m6 155 rfl) rfl
theorem q1468 : (Jvm.Cond.methodLink "PureHouse$Machine" (58 : Nat) ({ cls := "PureHouse$Machine", name := "at", desc := "(LPureHouse$Term;LPureHouse$Env;)V" } : Jvm.MethodName)) ∈ lw_all := lw_g (lw_at lw_m6 156 rfl) rfl
theorem q1469 : (Jvm.Cond.instanceMethod ({ cls := "PureHouse$Machine", name := "at", desc := "(LPureHouse$Term;LPureHouse$Env;)V" } : Jvm.MethodName)) ∈ lw_all := lw_g (lw_at lw_m6 157 rfl) rfl
theorem q1470 : (Jvm.Cond.selects "PureHouse$Machine" ({ cls := "PureHouse$Machine", name := "at", desc := "(LPureHouse$Term;LPureHouse$Env;)V" } : Jvm.MethodName) ({ cls := "PureHouse$Machine", name := "at", desc := "(LPureHouse$Term;LPureHouse$Env;)V" } : Jvm.MethodName)) ∈ lw_all := lw_g (lw_at lw_m6 158 rfl) rfl
theorem q1471 : (Jvm.Cond.code ({ cls := "PureHouse$Machine", name := "at", desc := "(LPureHouse$Term;LPureHouse$Env;)V" } : Jvm.MethodName) prog_14_method_5_code (3 : Nat) (Option.none : Option Jvm.ClassFile.FieldType)) ∈ lw_all := lw_g (lw_at lw_m6 159 rfl) rfl
theorem q1472 : (Jvm.Cond.methodLink "PureHouse$Machine" (75 : Nat) ({ cls := "PureHouse$Term", name := "goes", desc := "(LPureHouse$Machine;)Z" } : Jvm.MethodName)) ∈ lw_all := lw_g (lw_at lw_m6 160 rfl) rfl
theorem q1481 : (Jvm.Cond.instanceMethod ({ cls := "PureHouse$Machine", name := "enter", desc := "(LPureHouse$Closure;)V" } : Jvm.MethodName)) ∈ lw_all := lw_g (lw_at lw_m6 169 rfl) rfl
theorem q1482 : (Jvm.Cond.selects "PureHouse$Machine" ({ cls := "PureHouse$Machine", name := "enter", desc := "(LPureHouse$Closure;)V" } : Jvm.MethodName) ({ cls := "PureHouse$Machine", name := "enter", desc := "(LPureHouse$Closure;)V" } : Jvm.MethodName)) ∈ lw_all := lw_g (lw_at lw_m6 170 rfl) rfl
theorem q1483 : (Jvm.Cond.code ({ cls := "PureHouse$Machine", name := "enter", desc := "(LPureHouse$Closure;)V" } : Jvm.MethodName) prog_14_method_6_code (2 : Nat) (Option.none : Option Jvm.ClassFile.FieldType)) ∈ lw_all := lw_g (lw_at lw_m6 171 rfl) rfl
theorem q1496 : (Jvm.Cond.instanceMethod ({ cls := "PureHouse$Machine", name := "pull", desc := "()LPureHouse$Closure;" } : Jvm.MethodName)) ∈ lw_all := lw_g (lw_at lw_m6 184 rfl) rfl
theorem q1497 : (Jvm.Cond.selects "PureHouse$Machine" ({ cls := "PureHouse$Machine", name := "pull", desc := "()LPureHouse$Closure;" } : Jvm.MethodName) ({ cls := "PureHouse$Machine", name := "pull", desc := "()LPureHouse$Closure;" } : Jvm.MethodName)) ∈ lw_all := lw_g (lw_at lw_m6 185 rfl) rfl
theorem q1498 : (Jvm.Cond.code ({ cls := "PureHouse$Machine", name := "pull", desc := "()LPureHouse$Closure;" } : Jvm.MethodName) prog_14_method_7_code (2 : Nat) (Option.some (Jvm.ClassFile.FieldType.object "PureHouse$Closure"))) ∈ lw_all := lw_g (lw_at lw_m6 186 rfl) rfl
theorem q1559 : (Jvm.Cond.fieldLinkNest "PureHouse$Machine" (66 : Nat) "PureHouse$Args" "first" "LPureHouse$Closure;" "PureHouse") ∈ lw_tbl := lw_at lw_m7 7 rfl
theorem q1561 : (Jvm.Cond.fieldLinkNest "PureHouse$Machine" (72 : Nat) "PureHouse$Args" "rest" "LPureHouse$Args;" "PureHouse") ∈ lw_tbl := lw_at lw_m7 9 rfl
theorem q1567 : (Jvm.Cond.methodLink "PureHouse$Machine" (110 : Nat) ({ cls := "PureHouse$Machine", name := "here", desc := "()LPureHouse$Closure;" } : Jvm.MethodName)) ∈ lw_all := lw_g (lw_at lw_m7 15 rfl) rfl
theorem q1568 : (Jvm.Cond.privateMethod ({ cls := "PureHouse$Machine", name := "here", desc := "()LPureHouse$Closure;" } : Jvm.MethodName)) ∈ lw_tbl := lw_at lw_m7 16 rfl
theorem q1569 : (Jvm.Cond.instanceMethod ({ cls := "PureHouse$Machine", name := "here", desc := "()LPureHouse$Closure;" } : Jvm.MethodName)) ∈ lw_all := lw_g (lw_at lw_m7 17 rfl) rfl
theorem q1570 : (Jvm.Cond.code ({ cls := "PureHouse$Machine", name := "here", desc := "()LPureHouse$Closure;" } : Jvm.MethodName) prog_14_method_9_code (1 : Nat) (Option.some (Jvm.ClassFile.FieldType.object "PureHouse$Closure"))) ∈ lw_all := lw_g (lw_at lw_m7 18 rfl) rfl
theorem q1571 : (Jvm.Cond.classLink "PureHouse$Machine" (55 : Nat) "PureHouse$Closure") ∈ lw_all := lw_g (lw_at lw_m7 19 rfl) rfl
theorem q1572 : (Jvm.Cond.methodLink "PureHouse$Machine" (81 : Nat) ({ cls := "PureHouse$Closure", name := "<init>", desc := "(LPureHouse$Term;LPureHouse$Env;)V" } : Jvm.MethodName)) ∈ lw_all := lw_g (lw_at lw_m7 20 rfl) rfl
theorem q1573 : (Jvm.Cond.classLink "PureHouse$Machine" (83 : Nat) "PureHouse$Lambda") ∈ lw_all := lw_g (lw_at lw_m7 21 rfl) rfl
theorem q1574 : (Jvm.Cond.methodLink "PureHouse$Machine" (152 : Nat) ({ cls := "PureHouse$Machine", name := "normalLambda", desc := "(LPureHouse$Closure;I)LPureHouse$Term;" } : Jvm.MethodName)) ∈ lw_all := lw_g (lw_at lw_m7 22 rfl) rfl
theorem q1575 : (Jvm.Cond.privateMethod ({ cls := "PureHouse$Machine", name := "normalLambda", desc := "(LPureHouse$Closure;I)LPureHouse$Term;" } : Jvm.MethodName)) ∈ lw_tbl := lw_at lw_m7 23 rfl
theorem q1576 : (Jvm.Cond.instanceMethod ({ cls := "PureHouse$Machine", name := "normalLambda", desc := "(LPureHouse$Closure;I)LPureHouse$Term;" } : Jvm.MethodName)) ∈ lw_all := lw_g (lw_at lw_m7 24 rfl) rfl
theorem q1577 : (Jvm.Cond.code ({ cls := "PureHouse$Machine", name := "normalLambda", desc := "(LPureHouse$Closure;I)LPureHouse$Term;" } : Jvm.MethodName) prog_14_method_18_code (4 : Nat) (Option.some (Jvm.ClassFile.FieldType.object "PureHouse$Term"))) ∈ lw_all := lw_g (lw_at lw_m7 25 rfl) rfl
theorem q1578 : (Jvm.Cond.methodLink "PureHouse$Machine" (126 : Nat) ({ cls := "PureHouse$Machine", name := "domain", desc := "(LPureHouse$Closure;)LPureHouse$Closure;" } : Jvm.MethodName)) ∈ lw_all := lw_g (lw_at lw_m7 26 rfl) rfl
theorem q1579 : (Jvm.Cond.static ({ cls := "PureHouse$Machine", name := "domain", desc := "(LPureHouse$Closure;)LPureHouse$Closure;" } : Jvm.MethodName)) ∈ lw_all := lw_g (lw_at lw_m7 27 rfl) rfl
theorem q1580 : (Jvm.Cond.code ({ cls := "PureHouse$Machine", name := "domain", desc := "(LPureHouse$Closure;)LPureHouse$Closure;" } : Jvm.MethodName) prog_14_method_10_code (3 : Nat) (Option.some (Jvm.ClassFile.FieldType.object "PureHouse$Closure"))) ∈ lw_all := lw_g (lw_at lw_m7 28 rfl) rfl
theorem q1581 : (Jvm.Cond.classLink "PureHouse$Machine" (88 : Nat) "PureHouse$Product") ∈ lw_all := lw_g (lw_at lw_m7 29 rfl) rfl
theorem q1582 : (Jvm.Cond.methodLink "PureHouse$Machine" (164 : Nat) ({ cls := "PureHouse$Machine", name := "normal", desc := "(LPureHouse$Closure;I)LPureHouse$Term;" } : Jvm.MethodName)) ∈ lw_all := lw_g (lw_at lw_m7 30 rfl) rfl
theorem q1583 : (Jvm.Cond.methodLink "PureHouse$Machine" (167 : Nat) ({ cls := "PureHouse$Lambda", name := "<init>", desc := "(LPureHouse$Term;)V" } : Jvm.MethodName)) ∈ lw_all := lw_g (lw_at lw_m7 31 rfl) rfl
theorem q1584 : (Jvm.Cond.methodLink "PureHouse$Machine" (132 : Nat) ({ cls := "PureHouse$Machine", name := "bound", desc := "(II)LPureHouse$Closure;" } : Jvm.MethodName)) ∈ lw_all := lw_g (lw_at lw_m7 32 rfl) rfl
theorem q1585 : (Jvm.Cond.static ({ cls := "PureHouse$Machine", name := "bound", desc := "(II)LPureHouse$Closure;" } : Jvm.MethodName)) ∈ lw_all := lw_g (lw_at lw_m7 33 rfl) rfl
theorem q1586 : (Jvm.Cond.code ({ cls := "PureHouse$Machine", name := "bound", desc := "(II)LPureHouse$Closure;" } : Jvm.MethodName) prog_14_method_12_code (2 : Nat) (Option.some (Jvm.ClassFile.FieldType.object "PureHouse$Closure"))) ∈ lw_all := lw_g (lw_at lw_m7 34 rfl) rfl
theorem q1587 : (Jvm.Cond.classLink "PureHouse$Machine" (100 : Nat) "PureHouse$Local") ∈ lw_all := lw_g (lw_at lw_m7 35 rfl) rfl
theorem q1589 : (Jvm.Cond.methodLink "PureHouse$Machine" (102 : Nat) ({ cls := "PureHouse$Local", name := "<init>", desc := "(II)V" } : Jvm.MethodName)) ∈ lw_all := lw_g (lw_at lw_m7 37 rfl) rfl
theorem q1594 : (Jvm.Cond.fieldLinkNest "PureHouse$Machine" (228 : Nat) "PureHouse$Local" "number" "I" "PureHouse") ∈ lw_tbl := lw_at lw_m7 42 rfl
theorem q1596 : (Jvm.Cond.fieldLinkNest "PureHouse$Machine" (179 : Nat) "PureHouse$Local" "depth" "I" "PureHouse") ∈ lw_tbl := lw_at lw_m7 44 rfl
theorem q1604 : (Jvm.Cond.methodLink "PureHouse$Machine" (136 : Nat) ({ cls := "PureHouse$Machine", name := "body", desc := "(LPureHouse$Closure;LPureHouse$Closure;)LPureHouse$Closure;" } : Jvm.MethodName)) ∈ lw_all := lw_g (lw_at lw_m7 52 rfl) rfl
theorem q1605 : (Jvm.Cond.static ({ cls := "PureHouse$Machine", name := "body", desc := "(LPureHouse$Closure;LPureHouse$Closure;)LPureHouse$Closure;" } : Jvm.MethodName)) ∈ lw_all := lw_g (lw_at lw_m7 53 rfl) rfl
theorem q1606 : (Jvm.Cond.code ({ cls := "PureHouse$Machine", name := "body", desc := "(LPureHouse$Closure;LPureHouse$Closure;)LPureHouse$Closure;" } : Jvm.MethodName) prog_14_method_11_code (4 : Nat) (Option.some (Jvm.ClassFile.FieldType.object "PureHouse$Closure"))) ∈ lw_all := lw_g (lw_at lw_m7 54 rfl) rfl
theorem q1607 : (Jvm.Cond.classLink "PureHouse$Machine" (95 : Nat) "PureHouse$Env") ∈ lw_all := lw_g (lw_at lw_m7 55 rfl) rfl
theorem q1608 : (Jvm.Cond.methodLink "PureHouse$Machine" (97 : Nat) ({ cls := "PureHouse$Env", name := "<init>", desc := "(LPureHouse$Closure;LPureHouse$Env;)V" } : Jvm.MethodName)) ∈ lw_all := lw_g (lw_at lw_m7 56 rfl) rfl
theorem q1609 : (Jvm.Cond.methodLink "PureHouse$Machine" (156 : Nat) ({ cls := "PureHouse$Machine", name := "normalProduct", desc := "(LPureHouse$Closure;LPureHouse$Product;I)LPureHouse$Term;" } : Jvm.MethodName)) ∈ lw_all := lw_g (lw_at lw_m7 57 rfl) rfl
theorem q1610 : (Jvm.Cond.privateMethod ({ cls := "PureHouse$Machine", name := "normalProduct", desc := "(LPureHouse$Closure;LPureHouse$Product;I)LPureHouse$Term;" } : Jvm.MethodName)) ∈ lw_tbl := lw_at lw_m7 58 rfl
theorem q1611 : (Jvm.Cond.instanceMethod ({ cls := "PureHouse$Machine", name := "normalProduct", desc := "(LPureHouse$Closure;LPureHouse$Product;I)LPureHouse$Term;" } : Jvm.MethodName)) ∈ lw_all := lw_g (lw_at lw_m7 59 rfl) rfl
theorem q1612 : (Jvm.Cond.code ({ cls := "PureHouse$Machine", name := "normalProduct", desc := "(LPureHouse$Closure;LPureHouse$Product;I)LPureHouse$Term;" } : Jvm.MethodName) prog_14_method_19_code (5 : Nat) (Option.some (Jvm.ClassFile.FieldType.object "PureHouse$Term"))) ∈ lw_all := lw_g (lw_at lw_m7 60 rfl) rfl
theorem q1613 : (Jvm.Cond.methodLink "PureHouse$Machine" (170 : Nat) ({ cls := "PureHouse$Product", name := "<init>", desc := "(LPureHouse$Term;)V" } : Jvm.MethodName)) ∈ lw_all := lw_g (lw_at lw_m7 61 rfl) rfl
theorem q1614 : (Jvm.Cond.methodLink "PureHouse$Machine" (160 : Nat) ({ cls := "PureHouse$Machine", name := "normalFront", desc := "(LPureHouse$Term;LPureHouse$Args;I)LPureHouse$Term;" } : Jvm.MethodName)) ∈ lw_all := lw_g (lw_at lw_m7 62 rfl) rfl
theorem q1615 : (Jvm.Cond.privateMethod ({ cls := "PureHouse$Machine", name := "normalFront", desc := "(LPureHouse$Term;LPureHouse$Args;I)LPureHouse$Term;" } : Jvm.MethodName)) ∈ lw_tbl := lw_at lw_m7 63 rfl
theorem q1616 : (Jvm.Cond.instanceMethod ({ cls := "PureHouse$Machine", name := "normalFront", desc := "(LPureHouse$Term;LPureHouse$Args;I)LPureHouse$Term;" } : Jvm.MethodName)) ∈ lw_all := lw_g (lw_at lw_m7 64 rfl) rfl
theorem q1617 : (Jvm.Cond.code ({ cls := "PureHouse$Machine", name := "normalFront", desc := "(LPureHouse$Term;LPureHouse$Args;I)LPureHouse$Term;" } : Jvm.MethodName) prog_14_method_20_code (7 : Nat) (Option.some (Jvm.ClassFile.FieldType.object "PureHouse$Term"))) ∈ lw_all := lw_g (lw_at lw_m7 65 rfl) rfl
theorem q1618 : (Jvm.Cond.classLink "PureHouse$Machine" (177 : Nat) "PureHouse$Bound") ∈ lw_all := lw_g (lw_at lw_m7 66 rfl) rfl
theorem q1619 : (Jvm.Cond.methodLink "PureHouse$Machine" (182 : Nat) ({ cls := "PureHouse$Bound", name := "<init>", desc := "(I)V" } : Jvm.MethodName)) ∈ lw_all := lw_g (lw_at lw_m7 67 rfl) rfl
theorem q1620 : (Jvm.Cond.classLink "PureHouse$Machine" (184 : Nat) "PureHouse$Use") ∈ lw_all := lw_g (lw_at lw_m7 68 rfl) rfl
theorem q1621 : (Jvm.Cond.methodLink "PureHouse$Machine" (186 : Nat) ({ cls := "PureHouse$Use", name := "<init>", desc := "(LPureHouse$Term;)V" } : Jvm.MethodName)) ∈ lw_all := lw_g (lw_at lw_m7 69 rfl) rfl
theorem q1622 : (Jvm.Cond.methodLink "PureHouse$Machine" (191 : Nat) ({ cls := "java/util/ArrayList", name := "add", desc := "(Ljava/lang/Object;)Z" } : Jvm.MethodName)) ∈ lw_all := lw_g (lw_at lw_m7 70 rfl) rfl
theorem q1701 : (Jvm.Cond.instanceMethod ({ cls := "PureHouse$Machine", name := "same", desc := "(LPureHouse$Closure;LPureHouse$Closure;)Z" } : Jvm.MethodName)) ∈ lw_all := lw_g (lw_at lw_m7 149 rfl) rfl
theorem q1702 : (Jvm.Cond.selects "PureHouse$Machine" ({ cls := "PureHouse$Machine", name := "same", desc := "(LPureHouse$Closure;LPureHouse$Closure;)Z" } : Jvm.MethodName) ({ cls := "PureHouse$Machine", name := "same", desc := "(LPureHouse$Closure;LPureHouse$Closure;)Z" } : Jvm.MethodName)) ∈ lw_all := lw_g (lw_at lw_m7 150 rfl) rfl
theorem q1703 : (Jvm.Cond.code ({ cls := "PureHouse$Machine", name := "same", desc := "(LPureHouse$Closure;LPureHouse$Closure;)Z" } : Jvm.MethodName) prog_14_method_13_code (8 : Nat) (Option.some Jvm.ClassFile.FieldType.boolean)) ∈ lw_all := lw_g (lw_at lw_m7 151 rfl) rfl
theorem q1704 : (Jvm.Cond.methodLink "PureHouse$Machine" (114 : Nat) ({ cls := "PureHouse$Machine", name := "sameParts", desc := "(LPureHouse$Closure;LPureHouse$Closure;)Z" } : Jvm.MethodName)) ∈ lw_all := lw_g (lw_at lw_m7 152 rfl) rfl
theorem q1705 : (Jvm.Cond.privateMethod ({ cls := "PureHouse$Machine", name := "sameParts", desc := "(LPureHouse$Closure;LPureHouse$Closure;)Z" } : Jvm.MethodName)) ∈ lw_tbl := lw_at lw_m7 153 rfl
theorem q1706 : (Jvm.Cond.instanceMethod ({ cls := "PureHouse$Machine", name := "sameParts", desc := "(LPureHouse$Closure;LPureHouse$Closure;)Z" } : Jvm.MethodName)) ∈ lw_all := lw_g (lw_at lw_m7 154 rfl) rfl
theorem q1707 : (Jvm.Cond.code ({ cls := "PureHouse$Machine", name := "sameParts", desc := "(LPureHouse$Closure;LPureHouse$Closure;)Z" } : Jvm.MethodName) prog_14_method_14_code (4 : Nat) (Option.some Jvm.ClassFile.FieldType.boolean)) ∈ lw_all := lw_g (lw_at lw_m7 155 rfl) rfl
theorem q1708 : (Jvm.Cond.methodLink "PureHouse$Machine" (129 : Nat) ({ cls := "PureHouse$Machine", name := "same", desc := "(LPureHouse$Closure;LPureHouse$Closure;)Z" } : Jvm.MethodName)) ∈ lw_all := lw_g (lw_at lw_m7 156 rfl) rfl
theorem q1709 : (Jvm.Cond.methodLink "PureHouse$Machine" (118 : Nat) ({ cls := "PureHouse$Machine", name := "isFront", desc := "(LPureHouse$Term;LPureHouse$Term;)Z" } : Jvm.MethodName)) ∈ lw_all := lw_g (lw_at lw_m7 157 rfl) rfl
theorem q1710 : (Jvm.Cond.static ({ cls := "PureHouse$Machine", name := "isFront", desc := "(LPureHouse$Term;LPureHouse$Term;)Z" } : Jvm.MethodName)) ∈ lw_all := lw_g (lw_at lw_m7 158 rfl) rfl
theorem q1711 : (Jvm.Cond.code ({ cls := "PureHouse$Machine", name := "isFront", desc := "(LPureHouse$Term;LPureHouse$Term;)Z" } : Jvm.MethodName) prog_14_method_15_code (4 : Nat) (Option.some Jvm.ClassFile.FieldType.boolean)) ∈ lw_all := lw_g (lw_at lw_m7 159 rfl) rfl
theorem q1712 : (Jvm.Cond.classLink "PureHouse$Machine" (139 : Nat) "PureHouse$Free") ∈ lw_all := lw_g (lw_at lw_m7 160 rfl) rfl
theorem q1713 : (Jvm.Cond.methodLink "PureHouse$Machine" (122 : Nat) ({ cls := "PureHouse$Machine", name := "sameArgs", desc := "(LPureHouse$Args;LPureHouse$Args;)Z" } : Jvm.MethodName)) ∈ lw_all := lw_g (lw_at lw_m7 161 rfl) rfl
theorem q1714 : (Jvm.Cond.privateMethod ({ cls := "PureHouse$Machine", name := "sameArgs", desc := "(LPureHouse$Args;LPureHouse$Args;)Z" } : Jvm.MethodName)) ∈ lw_tbl := lw_at lw_m7 162 rfl
theorem q1715 : (Jvm.Cond.instanceMethod ({ cls := "PureHouse$Machine", name := "sameArgs", desc := "(LPureHouse$Args;LPureHouse$Args;)Z" } : Jvm.MethodName)) ∈ lw_all := lw_g (lw_at lw_m7 163 rfl) rfl
theorem q1716 : (Jvm.Cond.code ({ cls := "PureHouse$Machine", name := "sameArgs", desc := "(LPureHouse$Args;LPureHouse$Args;)Z" } : Jvm.MethodName) prog_14_method_16_code (5 : Nat) (Option.some Jvm.ClassFile.FieldType.boolean)) ∈ lw_all := lw_g (lw_at lw_m7 164 rfl) rfl
theorem q1717 : (Jvm.Cond.methodLink "PureHouse$Machine" (148 : Nat) ({ cls := "PureHouse$Args", name := "size", desc := "(LPureHouse$Args;)I" } : Jvm.MethodName)) ∈ lw_all := lw_g (lw_at lw_m7 165 rfl) rfl
theorem q1748 : (Jvm.Cond.fieldLinkNest "PureHouse$Machine" (236 : Nat) "PureHouse$Name" "name" "Ljava/lang/String;" "PureHouse") ∈ lw_tbl := lw_at lw_m7 196 rfl
theorem q1781 : (Jvm.Cond.instanceMethod ({ cls := "PureHouse$Machine", name := "tell", desc := "(LPureHouse$Closure;IZZ)V" } : Jvm.MethodName)) ∈ lw_all := lw_g (lw_at lw_m7 229 rfl) rfl
theorem q1782 : (Jvm.Cond.selects "PureHouse$Machine" ({ cls := "PureHouse$Machine", name := "tell", desc := "(LPureHouse$Closure;IZZ)V" } : Jvm.MethodName) ({ cls := "PureHouse$Machine", name := "tell", desc := "(LPureHouse$Closure;IZZ)V" } : Jvm.MethodName)) ∈ lw_all := lw_g (lw_at lw_m7 230 rfl) rfl
theorem q1783 : (Jvm.Cond.code ({ cls := "PureHouse$Machine", name := "tell", desc := "(LPureHouse$Closure;IZZ)V" } : Jvm.MethodName) prog_14_method_24_code (9 : Nat) (Option.none : Option Jvm.ClassFile.FieldType)) ∈ lw_all := lw_g (lw_at lw_m7 231 rfl) rfl
theorem q1784 : (Jvm.Cond.methodLink "PureHouse$Machine" (210 : Nat) ({ cls := "PureHouse$Machine", name := "put", desc := "(I)V" } : Jvm.MethodName)) ∈ lw_all := lw_g (lw_at lw_m7 232 rfl) rfl
theorem q1785 : (Jvm.Cond.instanceMethod ({ cls := "PureHouse$Machine", name := "put", desc := "(I)V" } : Jvm.MethodName)) ∈ lw_all := lw_g (lw_at lw_m7 233 rfl) rfl
theorem q1786 : (Jvm.Cond.selects "PureHouse$Machine" ({ cls := "PureHouse$Machine", name := "put", desc := "(I)V" } : Jvm.MethodName) ({ cls := "PureHouse$Machine", name := "put", desc := "(I)V" } : Jvm.MethodName)) ∈ lw_all := lw_g (lw_at lw_m7 234 rfl) rfl
theorem q1787 : (Jvm.Cond.code ({ cls := "PureHouse$Machine", name := "put", desc := "(I)V" } : Jvm.MethodName) prog_14_method_21_code (2 : Nat) (Option.none : Option Jvm.ClassFile.FieldType)) ∈ lw_all := lw_g (lw_at lw_m7 235 rfl) rfl
theorem q1788 : (Jvm.Cond.methodLink "PureHouse$Machine" (216 : Nat) ({ cls := "PureHouse$Machine", name := "binder", desc := "(LPureHouse$Closure;I)V" } : Jvm.MethodName)) ∈ lw_all := lw_g (lw_at lw_m7 236 rfl) rfl
theorem q1789 : (Jvm.Cond.privateMethod ({ cls := "PureHouse$Machine", name := "binder", desc := "(LPureHouse$Closure;I)V" } : Jvm.MethodName)) ∈ lw_tbl := lw_at lw_m7 237 rfl
theorem q1790 : (Jvm.Cond.instanceMethod ({ cls := "PureHouse$Machine", name := "binder", desc := "(LPureHouse$Closure;I)V" } : Jvm.MethodName)) ∈ lw_all := lw_g (lw_at lw_m7 238 rfl) rfl
theorem q1791 : (Jvm.Cond.code ({ cls := "PureHouse$Machine", name := "binder", desc := "(LPureHouse$Closure;I)V" } : Jvm.MethodName) prog_14_method_25_code (3 : Nat) (Option.none : Option Jvm.ClassFile.FieldType)) ∈ lw_all := lw_g (lw_at lw_m7 239 rfl) rfl
theorem q1792 : (Jvm.Cond.methodLink "PureHouse$Machine" (213 : Nat) ({ cls := "PureHouse$Machine", name := "number", desc := "(I)V" } : Jvm.MethodName)) ∈ lw_all := lw_g (lw_at lw_m8 0 rfl) rfl
theorem q1793 : (Jvm.Cond.instanceMethod ({ cls := "PureHouse$Machine", name := "number", desc := "(I)V" } : Jvm.MethodName)) ∈ lw_all := lw_g (lw_at lw_m8 1 rfl) rfl
theorem q1794 : (Jvm.Cond.selects "PureHouse$Machine" ({ cls := "PureHouse$Machine", name := "number", desc := "(I)V" } : Jvm.MethodName) ({ cls := "PureHouse$Machine", name := "number", desc := "(I)V" } : Jvm.MethodName)) ∈ lw_all := lw_g (lw_at lw_m8 2 rfl) rfl
theorem q1795 : (Jvm.Cond.code ({ cls := "PureHouse$Machine", name := "number", desc := "(I)V" } : Jvm.MethodName) prog_14_method_23_code (2 : Nat) (Option.none : Option Jvm.ClassFile.FieldType)) ∈ lw_all := lw_g (lw_at lw_m8 3 rfl) rfl
theorem q1796 : (Jvm.Cond.methodLink "PureHouse$Machine" (224 : Nat) ({ cls := "PureHouse$Machine", name := "tell", desc := "(LPureHouse$Closure;IZZ)V" } : Jvm.MethodName)) ∈ lw_all := lw_g (lw_at lw_m8 4 rfl) rfl
theorem q1797 : (Jvm.Cond.methodLink "PureHouse$Machine" (220 : Nat) ({ cls := "PureHouse$Machine", name := "front", desc := "(LPureHouse$Term;LPureHouse$Args;I)V" } : Jvm.MethodName)) ∈ lw_all := lw_g (lw_at lw_m8 5 rfl) rfl
theorem q1798 : (Jvm.Cond.privateMethod ({ cls := "PureHouse$Machine", name := "front", desc := "(LPureHouse$Term;LPureHouse$Args;I)V" } : Jvm.MethodName)) ∈ lw_tbl := lw_at lw_m8 6 rfl
theorem q1799 : (Jvm.Cond.instanceMethod ({ cls := "PureHouse$Machine", name := "front", desc := "(LPureHouse$Term;LPureHouse$Args;I)V" } : Jvm.MethodName)) ∈ lw_all := lw_g (lw_at lw_m8 7 rfl) rfl
theorem q1800 : (Jvm.Cond.code ({ cls := "PureHouse$Machine", name := "front", desc := "(LPureHouse$Term;LPureHouse$Args;I)V" } : Jvm.MethodName) prog_14_method_27_code (5 : Nat) (Option.none : Option Jvm.ClassFile.FieldType)) ∈ lw_all := lw_g (lw_at lw_m8 8 rfl) rfl
theorem q1801 : (Jvm.Cond.methodLink "PureHouse$Machine" (245 : Nat) ({ cls := "PureHouse$Machine", name := "name", desc := "(LPureHouse$Term;)V" } : Jvm.MethodName)) ∈ lw_all := lw_g (lw_at lw_m8 9 rfl) rfl
theorem q1802 : (Jvm.Cond.instanceMethod ({ cls := "PureHouse$Machine", name := "name", desc := "(LPureHouse$Term;)V" } : Jvm.MethodName)) ∈ lw_all := lw_g (lw_at lw_m8 10 rfl) rfl
theorem q1803 : (Jvm.Cond.selects "PureHouse$Machine" ({ cls := "PureHouse$Machine", name := "name", desc := "(LPureHouse$Term;)V" } : Jvm.MethodName) ({ cls := "PureHouse$Machine", name := "name", desc := "(LPureHouse$Term;)V" } : Jvm.MethodName)) ∈ lw_all := lw_g (lw_at lw_m8 11 rfl) rfl
theorem q1804 : (Jvm.Cond.code ({ cls := "PureHouse$Machine", name := "name", desc := "(LPureHouse$Term;)V" } : Jvm.MethodName) prog_14_method_26_code (4 : Nat) (Option.none : Option Jvm.ClassFile.FieldType)) ∈ lw_all := lw_g (lw_at lw_m8 12 rfl) rfl
theorem q1805 : (Jvm.Cond.methodLink "PureHouse$Machine" (242 : Nat) ({ cls := "PureHouse$Machine", name := "put", desc := "(Ljava/lang/String;)V" } : Jvm.MethodName)) ∈ lw_all := lw_g (lw_at lw_m8 13 rfl) rfl
theorem q1806 : (Jvm.Cond.instanceMethod ({ cls := "PureHouse$Machine", name := "put", desc := "(Ljava/lang/String;)V" } : Jvm.MethodName)) ∈ lw_all := lw_g (lw_at lw_m8 14 rfl) rfl
theorem q1807 : (Jvm.Cond.selects "PureHouse$Machine" ({ cls := "PureHouse$Machine", name := "put", desc := "(Ljava/lang/String;)V" } : Jvm.MethodName) ({ cls := "PureHouse$Machine", name := "put", desc := "(Ljava/lang/String;)V" } : Jvm.MethodName)) ∈ lw_all := lw_g (lw_at lw_m8 15 rfl) rfl
theorem q1808 : (Jvm.Cond.code ({ cls := "PureHouse$Machine", name := "put", desc := "(Ljava/lang/String;)V" } : Jvm.MethodName) prog_14_method_22_code (3 : Nat) (Option.none : Option Jvm.ClassFile.FieldType)) ∈ lw_all := lw_g (lw_at lw_m8 16 rfl) rfl
theorem q1809 : (Jvm.Cond.methodLink "PureHouse$Machine" (200 : Nat) ({ cls := "java/lang/String", name := "length", desc := "()I" } : Jvm.MethodName)) ∈ lw_all := lw_g (lw_at lw_m8 17 rfl) rfl
theorem q1810 : (Jvm.Cond.methodLink "PureHouse$Machine" (206 : Nat) ({ cls := "java/lang/String", name := "charAt", desc := "(I)C" } : Jvm.MethodName)) ∈ lw_all := lw_g (lw_at lw_m8 18 rfl) rfl
theorem q2575 : (Jvm.Cond.castable "PureHouse$Machine" "java/lang/Object") ∈ lw_tbl := lw_at lw_m11 63 rfl
theorem in_X3 : ∀ w ∈ wsX30, w ∈ lw_all := lw_in wsX30 [233, 235, 237, 239, 241, 243, 245, 247, 249, 251, 253] (by decide +kernel) (by decide +kernel)

/-! PureHouse$Judge -/
set_option maxRecDepth 100000
def RX4 : String := "PureHouse$Judge"
def TX4 : u_T := fun k => match k with
  | 0 => ("PureHouse$Judge", "tables", "LPureHouse$Tables;", true)
  | 1 => ("PureHouse$Judge", "machine", "LPureHouse$Machine;", true)
  | 2 => ("PureHouse$Judge", "context", "Ljava/util/ArrayList;", true)
  | 3 => ("PureHouse$Judge", "type", "LPureHouse$Term;", false)
  | 4 => ("PureHouse$Judge", "around", "LPureHouse$Env;", false)
  | _ => ("PureHouse$Judge", "sort", "I", false)
def tyX4 : Nat → FieldType := fun k => match k with
  | 0 => .object "PureHouse$Tables"
  | 1 => .object "PureHouse$Machine"
  | 2 => .object "java/util/ArrayList"
  | 3 => .object "PureHouse$Term"
  | 4 => .object "PureHouse$Env"
  | _ => .int
abbrev wsX40 : List Cond := u_ws RX4 TX4 6
theorem nmX4 : ∀ a, a < 6 → ∀ b, b < 6 → a ≠ b → (TX4 a).2.1 ≠ (TX4 b).2.1 := by decide +kernel
theorem tyX4_ok : ∀ k, k < 6 → parseFieldDescriptor (TX4 k).2.2.1 = some (tyX4 k) := by decide +kernel
abbrev cX4_init : ByteArray := prog_8_method_1_code
def yX4_init : MethodName := ⟨RX4, "<init>", "(LPureHouse$Tables;LPureHouse$Machine;)V"⟩
theorem dX4_init_0 : decode cX4_init 0 = .ok (.aload_n 0, 1) := by decide +kernel
theorem dX4_init_1 : decode cX4_init 1 = .ok (.invokespecial 3, 3) := by decide +kernel
theorem dX4_init_4 : decode cX4_init 4 = .ok (.aload_n 0, 1) := by decide +kernel
theorem dX4_init_5 : decode cX4_init 5 = .ok (.new 9, 3) := by decide +kernel
theorem dX4_init_8 : decode cX4_init 8 = .ok (.dup, 1) := by decide +kernel
theorem dX4_init_9 : decode cX4_init 9 = .ok (.invokespecial 11, 3) := by decide +kernel
theorem dX4_init_12 : decode cX4_init 12 = .ok (.putfield 12, 3) := by decide +kernel
theorem dX4_init_15 : decode cX4_init 15 = .ok (.aload_n 0, 1) := by decide +kernel
theorem dX4_init_16 : decode cX4_init 16 = .ok (.aload_n 1, 1) := by decide +kernel
theorem dX4_init_17 : decode cX4_init 17 = .ok (.putfield 18, 3) := by decide +kernel
theorem dX4_init_20 : decode cX4_init 20 = .ok (.aload_n 0, 1) := by decide +kernel
theorem dX4_init_21 : decode cX4_init 21 = .ok (.aload_n 2, 1) := by decide +kernel
theorem dX4_init_22 : decode cX4_init 22 = .ok (.putfield 22, 3) := by decide +kernel
theorem dX4_init_25 : decode cX4_init 25 = .ok (.return_, 1) := by decide +kernel
abbrev cX4_find : ByteArray := prog_8_method_2_code
def yX4_find : MethodName := ⟨RX4, "find", "(Ljava/lang/String;)LPureHouse$Name;"⟩
theorem dX4_find_0 : decode cX4_find 0 = .ok (.aload_n 0, 1) := by decide +kernel
theorem dX4_find_1 : decode cX4_find 1 = .ok (.getfield 12, 3) := by decide +kernel
theorem dX4_find_4 : decode cX4_find 4 = .ok (.invokevirtual 26, 3) := by decide +kernel
theorem dX4_find_7 : decode cX4_find 7 = .ok (.iconst 1, 1) := by decide +kernel
theorem dX4_find_8 : decode cX4_find 8 = .ok (.isub, 1) := by decide +kernel
theorem dX4_find_9 : decode cX4_find 9 = .ok (.istore_n 2, 1) := by decide +kernel
theorem dX4_find_10 : decode cX4_find 10 = .ok (.iload_n 2, 1) := by decide +kernel
theorem dX4_find_11 : decode cX4_find 11 = .ok (.ifCond .lt 42, 3) := by decide +kernel
theorem dX4_find_14 : decode cX4_find 14 = .ok (.aload_n 0, 1) := by decide +kernel
theorem dX4_find_15 : decode cX4_find 15 = .ok (.getfield 12, 3) := by decide +kernel
theorem dX4_find_18 : decode cX4_find 18 = .ok (.iload_n 2, 1) := by decide +kernel
theorem dX4_find_19 : decode cX4_find 19 = .ok (.invokevirtual 30, 3) := by decide +kernel
theorem dX4_find_22 : decode cX4_find 22 = .ok (.checkcast 34, 3) := by decide +kernel
theorem dX4_find_25 : decode cX4_find 25 = .ok (.getfield 36, 3) := by decide +kernel
theorem dX4_find_28 : decode cX4_find 28 = .ok (.aload_n 1, 1) := by decide +kernel
theorem dX4_find_29 : decode cX4_find 29 = .ok (.invokevirtual 40, 3) := by decide +kernel
theorem dX4_find_32 : decode cX4_find 32 = .ok (.ifCond .eq 15, 3) := by decide +kernel
theorem dX4_find_35 : decode cX4_find 35 = .ok (.aload_n 0, 1) := by decide +kernel
theorem dX4_find_36 : decode cX4_find 36 = .ok (.getfield 12, 3) := by decide +kernel
theorem dX4_find_39 : decode cX4_find 39 = .ok (.iload_n 2, 1) := by decide +kernel
theorem dX4_find_40 : decode cX4_find 40 = .ok (.invokevirtual 30, 3) := by decide +kernel
theorem dX4_find_43 : decode cX4_find 43 = .ok (.checkcast 34, 3) := by decide +kernel
theorem dX4_find_46 : decode cX4_find 46 = .ok (.areturn, 1) := by decide +kernel
theorem dX4_find_47 : decode cX4_find 47 = .ok (.iinc 2 (-1), 3) := by decide +kernel
theorem dX4_find_50 : decode cX4_find 50 = .ok (.goto (-40), 3) := by decide +kernel
theorem dX4_find_53 : decode cX4_find 53 = .ok (.aconst_null, 1) := by decide +kernel
theorem dX4_find_54 : decode cX4_find 54 = .ok (.areturn, 1) := by decide +kernel
abbrev cX4_typeSort : ByteArray := prog_8_method_10_code
def yX4_typeSort : MethodName := ⟨RX4, "typeSort", "(LPureHouse$Term;LPureHouse$Scope;)I"⟩
theorem dX4_typeSort_0 : decode cX4_typeSort 0 = .ok (.aload_n 0, 1) := by decide +kernel
theorem dX4_typeSort_1 : decode cX4_typeSort 1 = .ok (.aload_n 1, 1) := by decide +kernel
theorem dX4_typeSort_2 : decode cX4_typeSort 2 = .ok (.aload_n 2, 1) := by decide +kernel
theorem dX4_typeSort_3 : decode cX4_typeSort 3 = .ok (.invokevirtual 177, 3) := by decide +kernel
theorem dX4_typeSort_6 : decode cX4_typeSort 6 = .ok (.aload_n 0, 1) := by decide +kernel
theorem dX4_typeSort_7 : decode cX4_typeSort 7 = .ok (.invokevirtual 181, 3) := by decide +kernel
theorem dX4_typeSort_10 : decode cX4_typeSort 10 = .ok (.getfield 185, 3) := by decide +kernel
theorem dX4_typeSort_13 : decode cX4_typeSort 13 = .ok (.astore 4, 2) := by decide +kernel
theorem dX4_typeSort_15 : decode cX4_typeSort 15 = .ok (.aload 4, 2) := by decide +kernel
theorem dX4_typeSort_17 : decode cX4_typeSort 17 = .ok (.instanceof 58, 3) := by decide +kernel
theorem dX4_typeSort_20 : decode cX4_typeSort 20 = .ok (.ifCond .eq 16, 3) := by decide +kernel
theorem dX4_typeSort_23 : decode cX4_typeSort 23 = .ok (.aload 4, 2) := by decide +kernel
theorem dX4_typeSort_25 : decode cX4_typeSort 25 = .ok (.checkcast 58, 3) := by decide +kernel
theorem dX4_typeSort_28 : decode cX4_typeSort 28 = .ok (.astore_n 3, 1) := by decide +kernel
theorem dX4_typeSort_29 : decode cX4_typeSort 29 = .ok (.aload_n 3, 1) := by decide +kernel
theorem dX4_typeSort_30 : decode cX4_typeSort 30 = .ok (.getfield 156, 3) := by decide +kernel
theorem dX4_typeSort_33 : decode cX4_typeSort 33 = .ok (.ifnull 17, 3) := by decide +kernel
theorem dX4_typeSort_36 : decode cX4_typeSort 36 = .ok (.new 165, 3) := by decide +kernel
theorem dX4_typeSort_39 : decode cX4_typeSort 39 = .ok (.dup, 1) := by decide +kernel
theorem dX4_typeSort_40 : decode cX4_typeSort 40 = .ok (.bipush 8, 2) := by decide +kernel
theorem dX4_typeSort_42 : decode cX4_typeSort 42 = .ok (.aload_n 1, 1) := by decide +kernel
theorem dX4_typeSort_43 : decode cX4_typeSort 43 = .ok (.getfield 188, 3) := by decide +kernel
theorem dX4_typeSort_46 : decode cX4_typeSort 46 = .ok (.invokespecial 170, 3) := by decide +kernel
theorem dX4_typeSort_49 : decode cX4_typeSort 49 = .ok (.athrow, 1) := by decide +kernel
theorem dX4_typeSort_50 : decode cX4_typeSort 50 = .ok (.aload_n 3, 1) := by decide +kernel
theorem dX4_typeSort_51 : decode cX4_typeSort 51 = .ok (.getfield 69, 3) := by decide +kernel
theorem dX4_typeSort_54 : decode cX4_typeSort 54 = .ok (.ireturn, 1) := by decide +kernel
abbrev cX4_judge : ByteArray := prog_8_method_7_code
def yX4_judge : MethodName := ⟨RX4, "judge", "(LPureHouse$Term;LPureHouse$Scope;)V"⟩
theorem dX4_judge_0 : decode cX4_judge 0 = .ok (.aload_n 1, 1) := by decide +kernel
theorem dX4_judge_1 : decode cX4_judge 1 = .ok (.instanceof 106, 3) := by decide +kernel
theorem dX4_judge_4 : decode cX4_judge 4 = .ok (.ifCond .eq 17, 3) := by decide +kernel
theorem dX4_judge_7 : decode cX4_judge 7 = .ok (.aload_n 1, 1) := by decide +kernel
theorem dX4_judge_8 : decode cX4_judge 8 = .ok (.checkcast 106, 3) := by decide +kernel
theorem dX4_judge_11 : decode cX4_judge 11 = .ok (.astore_n 3, 1) := by decide +kernel
theorem dX4_judge_12 : decode cX4_judge 12 = .ok (.aload_n 0, 1) := by decide +kernel
theorem dX4_judge_13 : decode cX4_judge 13 = .ok (.aload_n 3, 1) := by decide +kernel
theorem dX4_judge_14 : decode cX4_judge 14 = .ok (.aload_n 2, 1) := by decide +kernel
theorem dX4_judge_15 : decode cX4_judge 15 = .ok (.invokevirtual 108, 3) := by decide +kernel
theorem dX4_judge_18 : decode cX4_judge 18 = .ok (.goto 114, 3) := by decide +kernel
theorem dX4_judge_21 : decode cX4_judge 21 = .ok (.aload_n 1, 1) := by decide +kernel
theorem dX4_judge_22 : decode cX4_judge 22 = .ok (.instanceof 58, 3) := by decide +kernel
theorem dX4_judge_25 : decode cX4_judge 25 = .ok (.ifCond .eq 18, 3) := by decide +kernel
theorem dX4_judge_28 : decode cX4_judge 28 = .ok (.aload_n 1, 1) := by decide +kernel
theorem dX4_judge_29 : decode cX4_judge 29 = .ok (.checkcast 58, 3) := by decide +kernel
theorem dX4_judge_32 : decode cX4_judge 32 = .ok (.astore 4, 2) := by decide +kernel
theorem dX4_judge_34 : decode cX4_judge 34 = .ok (.aload_n 0, 1) := by decide +kernel
theorem dX4_judge_35 : decode cX4_judge 35 = .ok (.aload 4, 2) := by decide +kernel
theorem dX4_judge_37 : decode cX4_judge 37 = .ok (.invokevirtual 112, 3) := by decide +kernel
theorem dX4_judge_40 : decode cX4_judge 40 = .ok (.goto 92, 3) := by decide +kernel
theorem dX4_judge_43 : decode cX4_judge 43 = .ok (.aload_n 1, 1) := by decide +kernel
theorem dX4_judge_44 : decode cX4_judge 44 = .ok (.instanceof 116, 3) := by decide +kernel
theorem dX4_judge_47 : decode cX4_judge 47 = .ok (.ifCond .eq 19, 3) := by decide +kernel
theorem dX4_judge_50 : decode cX4_judge 50 = .ok (.aload_n 1, 1) := by decide +kernel
theorem dX4_judge_51 : decode cX4_judge 51 = .ok (.checkcast 116, 3) := by decide +kernel
theorem dX4_judge_54 : decode cX4_judge 54 = .ok (.astore 5, 2) := by decide +kernel
theorem dX4_judge_56 : decode cX4_judge 56 = .ok (.aload_n 0, 1) := by decide +kernel
theorem dX4_judge_57 : decode cX4_judge 57 = .ok (.aload 5, 2) := by decide +kernel
theorem dX4_judge_59 : decode cX4_judge 59 = .ok (.aload_n 2, 1) := by decide +kernel
theorem dX4_judge_60 : decode cX4_judge 60 = .ok (.invokevirtual 118, 3) := by decide +kernel
theorem dX4_judge_63 : decode cX4_judge 63 = .ok (.goto 69, 3) := by decide +kernel
theorem dX4_judge_66 : decode cX4_judge 66 = .ok (.aload_n 1, 1) := by decide +kernel
theorem dX4_judge_67 : decode cX4_judge 67 = .ok (.instanceof 122, 3) := by decide +kernel
theorem dX4_judge_70 : decode cX4_judge 70 = .ok (.ifCond .eq 19, 3) := by decide +kernel
theorem dX4_judge_73 : decode cX4_judge 73 = .ok (.aload_n 1, 1) := by decide +kernel
theorem dX4_judge_74 : decode cX4_judge 74 = .ok (.checkcast 122, 3) := by decide +kernel
theorem dX4_judge_77 : decode cX4_judge 77 = .ok (.astore 6, 2) := by decide +kernel
theorem dX4_judge_79 : decode cX4_judge 79 = .ok (.aload_n 0, 1) := by decide +kernel
theorem dX4_judge_80 : decode cX4_judge 80 = .ok (.aload 6, 2) := by decide +kernel
theorem dX4_judge_82 : decode cX4_judge 82 = .ok (.aload_n 2, 1) := by decide +kernel
theorem dX4_judge_83 : decode cX4_judge 83 = .ok (.invokevirtual 124, 3) := by decide +kernel
theorem dX4_judge_86 : decode cX4_judge 86 = .ok (.goto 46, 3) := by decide +kernel
theorem dX4_judge_89 : decode cX4_judge 89 = .ok (.aload_n 1, 1) := by decide +kernel
theorem dX4_judge_90 : decode cX4_judge 90 = .ok (.instanceof 128, 3) := by decide +kernel
theorem dX4_judge_93 : decode cX4_judge 93 = .ok (.ifCond .eq 19, 3) := by decide +kernel
theorem dX4_judge_96 : decode cX4_judge 96 = .ok (.aload_n 1, 1) := by decide +kernel
theorem dX4_judge_97 : decode cX4_judge 97 = .ok (.checkcast 128, 3) := by decide +kernel
theorem dX4_judge_100 : decode cX4_judge 100 = .ok (.astore 7, 2) := by decide +kernel
theorem dX4_judge_102 : decode cX4_judge 102 = .ok (.aload_n 0, 1) := by decide +kernel
theorem dX4_judge_103 : decode cX4_judge 103 = .ok (.aload 7, 2) := by decide +kernel
theorem dX4_judge_105 : decode cX4_judge 105 = .ok (.aload_n 2, 1) := by decide +kernel
theorem dX4_judge_106 : decode cX4_judge 106 = .ok (.invokevirtual 130, 3) := by decide +kernel
theorem dX4_judge_109 : decode cX4_judge 109 = .ok (.goto 23, 3) := by decide +kernel
theorem dX4_judge_112 : decode cX4_judge 112 = .ok (.aload_n 1, 1) := by decide +kernel
theorem dX4_judge_113 : decode cX4_judge 113 = .ok (.instanceof 134, 3) := by decide +kernel
theorem dX4_judge_116 : decode cX4_judge 116 = .ok (.ifCond .eq 16, 3) := by decide +kernel
theorem dX4_judge_119 : decode cX4_judge 119 = .ok (.aload_n 1, 1) := by decide +kernel
theorem dX4_judge_120 : decode cX4_judge 120 = .ok (.checkcast 134, 3) := by decide +kernel
theorem dX4_judge_123 : decode cX4_judge 123 = .ok (.astore 8, 2) := by decide +kernel
theorem dX4_judge_125 : decode cX4_judge 125 = .ok (.aload_n 0, 1) := by decide +kernel
theorem dX4_judge_126 : decode cX4_judge 126 = .ok (.aload 8, 2) := by decide +kernel
theorem dX4_judge_128 : decode cX4_judge 128 = .ok (.aload_n 2, 1) := by decide +kernel
theorem dX4_judge_129 : decode cX4_judge 129 = .ok (.invokevirtual 136, 3) := by decide +kernel
theorem dX4_judge_132 : decode cX4_judge 132 = .ok (.return_, 1) := by decide +kernel
abbrev cX4_bound : ByteArray := prog_8_method_8_code
def yX4_bound : MethodName := ⟨RX4, "bound", "(LPureHouse$Bound;LPureHouse$Scope;)V"⟩
theorem dX4_bound_0 : decode cX4_bound 0 = .ok (.aload_n 2, 1) := by decide +kernel
theorem dX4_bound_1 : decode cX4_bound 1 = .ok (.astore_n 3, 1) := by decide +kernel
theorem dX4_bound_2 : decode cX4_bound 2 = .ok (.iconst 0, 1) := by decide +kernel
theorem dX4_bound_3 : decode cX4_bound 3 = .ok (.istore 4, 2) := by decide +kernel
theorem dX4_bound_5 : decode cX4_bound 5 = .ok (.iload 4, 2) := by decide +kernel
theorem dX4_bound_7 : decode cX4_bound 7 = .ok (.aload_n 1, 1) := by decide +kernel
theorem dX4_bound_8 : decode cX4_bound 8 = .ok (.getfield 140, 3) := by decide +kernel
theorem dX4_bound_11 : decode cX4_bound 11 = .ok (.if_icmp .ge 14, 3) := by decide +kernel
theorem dX4_bound_14 : decode cX4_bound 14 = .ok (.aload_n 3, 1) := by decide +kernel
theorem dX4_bound_15 : decode cX4_bound 15 = .ok (.getfield 143, 3) := by decide +kernel
theorem dX4_bound_18 : decode cX4_bound 18 = .ok (.astore_n 3, 1) := by decide +kernel
theorem dX4_bound_19 : decode cX4_bound 19 = .ok (.iinc 4 1, 3) := by decide +kernel
theorem dX4_bound_22 : decode cX4_bound 22 = .ok (.goto (-17), 3) := by decide +kernel
theorem dX4_bound_25 : decode cX4_bound 25 = .ok (.aload_n 0, 1) := by decide +kernel
theorem dX4_bound_26 : decode cX4_bound 26 = .ok (.aload_n 3, 1) := by decide +kernel
theorem dX4_bound_27 : decode cX4_bound 27 = .ok (.getfield 148, 3) := by decide +kernel
theorem dX4_bound_30 : decode cX4_bound 30 = .ok (.aload_n 3, 1) := by decide +kernel
theorem dX4_bound_31 : decode cX4_bound 31 = .ok (.getfield 149, 3) := by decide +kernel
theorem dX4_bound_34 : decode cX4_bound 34 = .ok (.aload_n 3, 1) := by decide +kernel
theorem dX4_bound_35 : decode cX4_bound 35 = .ok (.getfield 150, 3) := by decide +kernel
theorem dX4_bound_38 : decode cX4_bound 38 = .ok (.invokevirtual 78, 3) := by decide +kernel
theorem dX4_bound_41 : decode cX4_bound 41 = .ok (.return_, 1) := by decide +kernel
abbrev cX4_is : ByteArray := prog_8_method_3_code
def yX4_is : MethodName := ⟨RX4, "is", "(LPureHouse$Term;LPureHouse$Env;I)V"⟩
theorem dX4_is_0 : decode cX4_is 0 = .ok (.aload_n 0, 1) := by decide +kernel
theorem dX4_is_1 : decode cX4_is 1 = .ok (.aload_n 1, 1) := by decide +kernel
theorem dX4_is_2 : decode cX4_is 2 = .ok (.putfield 46, 3) := by decide +kernel
theorem dX4_is_5 : decode cX4_is 5 = .ok (.aload_n 0, 1) := by decide +kernel
theorem dX4_is_6 : decode cX4_is 6 = .ok (.aload_n 2, 1) := by decide +kernel
theorem dX4_is_7 : decode cX4_is 7 = .ok (.putfield 50, 3) := by decide +kernel
theorem dX4_is_10 : decode cX4_is 10 = .ok (.aload_n 0, 1) := by decide +kernel
theorem dX4_is_11 : decode cX4_is 11 = .ok (.iload_n 3, 1) := by decide +kernel
theorem dX4_is_12 : decode cX4_is 12 = .ok (.putfield 54, 3) := by decide +kernel
theorem dX4_is_15 : decode cX4_is 15 = .ok (.return_, 1) := by decide +kernel
abbrev cX4_free : ByteArray := prog_8_method_9_code
def yX4_free : MethodName := ⟨RX4, "free", "(LPureHouse$Free;)V"⟩
theorem dX4_free_0 : decode cX4_free 0 = .ok (.aload_n 1, 1) := by decide +kernel
theorem dX4_free_1 : decode cX4_free 1 = .ok (.aload_n 0, 1) := by decide +kernel
theorem dX4_free_2 : decode cX4_free 2 = .ok (.aload_n 1, 1) := by decide +kernel
theorem dX4_free_3 : decode cX4_free 3 = .ok (.getfield 151, 3) := by decide +kernel
theorem dX4_free_6 : decode cX4_free 6 = .ok (.invokevirtual 152, 3) := by decide +kernel
theorem dX4_free_9 : decode cX4_free 9 = .ok (.putfield 156, 3) := by decide +kernel
theorem dX4_free_12 : decode cX4_free 12 = .ok (.aload_n 1, 1) := by decide +kernel
theorem dX4_free_13 : decode cX4_free 13 = .ok (.getfield 156, 3) := by decide +kernel
theorem dX4_free_16 : decode cX4_free 16 = .ok (.ifnull 23, 3) := by decide +kernel
theorem dX4_free_19 : decode cX4_free 19 = .ok (.aload_n 0, 1) := by decide +kernel
theorem dX4_free_20 : decode cX4_free 20 = .ok (.aload_n 1, 1) := by decide +kernel
theorem dX4_free_21 : decode cX4_free 21 = .ok (.getfield 156, 3) := by decide +kernel
theorem dX4_free_24 : decode cX4_free 24 = .ok (.getfield 160, 3) := by decide +kernel
theorem dX4_free_27 : decode cX4_free 27 = .ok (.aconst_null, 1) := by decide +kernel
theorem dX4_free_28 : decode cX4_free 28 = .ok (.aload_n 1, 1) := by decide +kernel
theorem dX4_free_29 : decode cX4_free 29 = .ok (.getfield 156, 3) := by decide +kernel
theorem dX4_free_32 : decode cX4_free 32 = .ok (.getfield 161, 3) := by decide +kernel
theorem dX4_free_35 : decode cX4_free 35 = .ok (.invokevirtual 78, 3) := by decide +kernel
theorem dX4_free_38 : decode cX4_free 38 = .ok (.return_, 1) := by decide +kernel
theorem dX4_free_39 : decode cX4_free 39 = .ok (.aload_n 1, 1) := by decide +kernel
theorem dX4_free_40 : decode cX4_free 40 = .ok (.aload_n 0, 1) := by decide +kernel
theorem dX4_free_41 : decode cX4_free 41 = .ok (.getfield 18, 3) := by decide +kernel
theorem dX4_free_44 : decode cX4_free 44 = .ok (.aload_n 1, 1) := by decide +kernel
theorem dX4_free_45 : decode cX4_free 45 = .ok (.getfield 151, 3) := by decide +kernel
theorem dX4_free_48 : decode cX4_free 48 = .ok (.invokevirtual 162, 3) := by decide +kernel
theorem dX4_free_51 : decode cX4_free 51 = .ok (.putfield 69, 3) := by decide +kernel
theorem dX4_free_54 : decode cX4_free 54 = .ok (.aload_n 1, 1) := by decide +kernel
theorem dX4_free_55 : decode cX4_free 55 = .ok (.getfield 69, 3) := by decide +kernel
theorem dX4_free_58 : decode cX4_free 58 = .ok (.iconst (-1), 1) := by decide +kernel
theorem dX4_free_59 : decode cX4_free 59 = .ok (.if_icmp .ne 16, 3) := by decide +kernel
theorem dX4_free_62 : decode cX4_free 62 = .ok (.new 165, 3) := by decide +kernel
theorem dX4_free_65 : decode cX4_free 65 = .ok (.dup, 1) := by decide +kernel
theorem dX4_free_66 : decode cX4_free 66 = .ok (.iconst 3, 1) := by decide +kernel
theorem dX4_free_67 : decode cX4_free 67 = .ok (.aload_n 1, 1) := by decide +kernel
theorem dX4_free_68 : decode cX4_free 68 = .ok (.getfield 167, 3) := by decide +kernel
theorem dX4_free_71 : decode cX4_free 71 = .ok (.invokespecial 170, 3) := by decide +kernel
theorem dX4_free_74 : decode cX4_free 74 = .ok (.athrow, 1) := by decide +kernel
theorem dX4_free_75 : decode cX4_free 75 = .ok (.aload_n 0, 1) := by decide +kernel
theorem dX4_free_76 : decode cX4_free 76 = .ok (.getfield 18, 3) := by decide +kernel
theorem dX4_free_79 : decode cX4_free 79 = .ok (.aload_n 1, 1) := by decide +kernel
theorem dX4_free_80 : decode cX4_free 80 = .ok (.getfield 69, 3) := by decide +kernel
theorem dX4_free_83 : decode cX4_free 83 = .ok (.invokevirtual 74, 3) := by decide +kernel
theorem dX4_free_86 : decode cX4_free 86 = .ok (.istore_n 2, 1) := by decide +kernel
theorem dX4_free_87 : decode cX4_free 87 = .ok (.iload_n 2, 1) := by decide +kernel
theorem dX4_free_88 : decode cX4_free 88 = .ok (.iconst (-1), 1) := by decide +kernel
theorem dX4_free_89 : decode cX4_free 89 = .ok (.if_icmp .ne 17, 3) := by decide +kernel
theorem dX4_free_92 : decode cX4_free 92 = .ok (.new 165, 3) := by decide +kernel
theorem dX4_free_95 : decode cX4_free 95 = .ok (.dup, 1) := by decide +kernel
theorem dX4_free_96 : decode cX4_free 96 = .ok (.bipush 7, 2) := by decide +kernel
theorem dX4_free_98 : decode cX4_free 98 = .ok (.aload_n 1, 1) := by decide +kernel
theorem dX4_free_99 : decode cX4_free 99 = .ok (.getfield 167, 3) := by decide +kernel
theorem dX4_free_102 : decode cX4_free 102 = .ok (.invokespecial 170, 3) := by decide +kernel
theorem dX4_free_105 : decode cX4_free 105 = .ok (.athrow, 1) := by decide +kernel
theorem dX4_free_106 : decode cX4_free 106 = .ok (.aload_n 0, 1) := by decide +kernel
theorem dX4_free_107 : decode cX4_free 107 = .ok (.iload_n 2, 1) := by decide +kernel
theorem dX4_free_108 : decode cX4_free 108 = .ok (.invokevirtual 173, 3) := by decide +kernel
theorem dX4_free_111 : decode cX4_free 111 = .ok (.return_, 1) := by decide +kernel
abbrev cX4_isSort : ByteArray := prog_8_method_5_code
def yX4_isSort : MethodName := ⟨RX4, "isSort", "(I)V"⟩
theorem dX4_isSort_0 : decode cX4_isSort 0 = .ok (.aload_n 0, 1) := by decide +kernel
theorem dX4_isSort_1 : decode cX4_isSort 1 = .ok (.aload_n 0, 1) := by decide +kernel
theorem dX4_isSort_2 : decode cX4_isSort 2 = .ok (.iload_n 1, 1) := by decide +kernel
theorem dX4_isSort_3 : decode cX4_isSort 3 = .ok (.invokevirtual 70, 3) := by decide +kernel
theorem dX4_isSort_6 : decode cX4_isSort 6 = .ok (.aconst_null, 1) := by decide +kernel
theorem dX4_isSort_7 : decode cX4_isSort 7 = .ok (.aload_n 0, 1) := by decide +kernel
theorem dX4_isSort_8 : decode cX4_isSort 8 = .ok (.getfield 18, 3) := by decide +kernel
theorem dX4_isSort_11 : decode cX4_isSort 11 = .ok (.iload_n 1, 1) := by decide +kernel
theorem dX4_isSort_12 : decode cX4_isSort 12 = .ok (.invokevirtual 74, 3) := by decide +kernel
theorem dX4_isSort_15 : decode cX4_isSort 15 = .ok (.invokevirtual 78, 3) := by decide +kernel
theorem dX4_isSort_18 : decode cX4_isSort 18 = .ok (.return_, 1) := by decide +kernel
abbrev cX4_sortTerm : ByteArray := prog_8_method_4_code
def yX4_sortTerm : MethodName := ⟨RX4, "sortTerm", "(I)LPureHouse$Term;"⟩
theorem dX4_sortTerm_0 : decode cX4_sortTerm 0 = .ok (.new 58, 3) := by decide +kernel
theorem dX4_sortTerm_3 : decode cX4_sortTerm 3 = .ok (.dup, 1) := by decide +kernel
theorem dX4_sortTerm_4 : decode cX4_sortTerm 4 = .ok (.aload_n 0, 1) := by decide +kernel
theorem dX4_sortTerm_5 : decode cX4_sortTerm 5 = .ok (.getfield 18, 3) := by decide +kernel
theorem dX4_sortTerm_8 : decode cX4_sortTerm 8 = .ok (.getfield 60, 3) := by decide +kernel
theorem dX4_sortTerm_11 : decode cX4_sortTerm 11 = .ok (.iload_n 1, 1) := by decide +kernel
theorem dX4_sortTerm_12 : decode cX4_sortTerm 12 = .ok (.aaload, 1) := by decide +kernel
theorem dX4_sortTerm_13 : decode cX4_sortTerm 13 = .ok (.invokespecial 66, 3) := by decide +kernel
theorem dX4_sortTerm_16 : decode cX4_sortTerm 16 = .ok (.astore_n 2, 1) := by decide +kernel
theorem dX4_sortTerm_17 : decode cX4_sortTerm 17 = .ok (.aload_n 2, 1) := by decide +kernel
theorem dX4_sortTerm_18 : decode cX4_sortTerm 18 = .ok (.iload_n 1, 1) := by decide +kernel
theorem dX4_sortTerm_19 : decode cX4_sortTerm 19 = .ok (.putfield 69, 3) := by decide +kernel
theorem dX4_sortTerm_22 : decode cX4_sortTerm 22 = .ok (.aload_n 2, 1) := by decide +kernel
theorem dX4_sortTerm_23 : decode cX4_sortTerm 23 = .ok (.areturn, 1) := by decide +kernel
abbrev cX4_lambda : ByteArray := prog_8_method_14_code
def yX4_lambda : MethodName := ⟨RX4, "lambda", "(LPureHouse$Lambda;LPureHouse$Scope;)V"⟩
theorem dX4_lambda_0 : decode cX4_lambda 0 = .ok (.aload_n 0, 1) := by decide +kernel
theorem dX4_lambda_1 : decode cX4_lambda 1 = .ok (.aload_n 1, 1) := by decide +kernel
theorem dX4_lambda_2 : decode cX4_lambda 2 = .ok (.getfield 240, 3) := by decide +kernel
theorem dX4_lambda_5 : decode cX4_lambda 5 = .ok (.aload_n 2, 1) := by decide +kernel
theorem dX4_lambda_6 : decode cX4_lambda 6 = .ok (.invokevirtual 215, 3) := by decide +kernel
theorem dX4_lambda_9 : decode cX4_lambda 9 = .ok (.istore_n 3, 1) := by decide +kernel
theorem dX4_lambda_10 : decode cX4_lambda 10 = .ok (.new 122, 3) := by decide +kernel
theorem dX4_lambda_13 : decode cX4_lambda 13 = .ok (.dup, 1) := by decide +kernel
theorem dX4_lambda_14 : decode cX4_lambda 14 = .ok (.aload_n 0, 1) := by decide +kernel
theorem dX4_lambda_15 : decode cX4_lambda 15 = .ok (.aload_n 1, 1) := by decide +kernel
theorem dX4_lambda_16 : decode cX4_lambda 16 = .ok (.getfield 240, 3) := by decide +kernel
theorem dX4_lambda_19 : decode cX4_lambda 19 = .ok (.aload_n 2, 1) := by decide +kernel
theorem dX4_lambda_20 : decode cX4_lambda 20 = .ok (.invokevirtual 225, 3) := by decide +kernel
theorem dX4_lambda_23 : decode cX4_lambda 23 = .ok (.invokespecial 241, 3) := by decide +kernel
theorem dX4_lambda_26 : decode cX4_lambda 26 = .ok (.astore 4, 2) := by decide +kernel
theorem dX4_lambda_28 : decode cX4_lambda 28 = .ok (.aload_n 0, 1) := by decide +kernel
theorem dX4_lambda_29 : decode cX4_lambda 29 = .ok (.aload 4, 2) := by decide +kernel
theorem dX4_lambda_31 : decode cX4_lambda 31 = .ok (.getfield 212, 3) := by decide +kernel
theorem dX4_lambda_34 : decode cX4_lambda 34 = .ok (.iload_n 3, 1) := by decide +kernel
theorem dX4_lambda_35 : decode cX4_lambda 35 = .ok (.aload_n 2, 1) := by decide +kernel
theorem dX4_lambda_36 : decode cX4_lambda 36 = .ok (.invokevirtual 228, 3) := by decide +kernel
theorem dX4_lambda_39 : decode cX4_lambda 39 = .ok (.astore 5, 2) := by decide +kernel
theorem dX4_lambda_41 : decode cX4_lambda 41 = .ok (.aload_n 0, 1) := by decide +kernel
theorem dX4_lambda_42 : decode cX4_lambda 42 = .ok (.aload_n 1, 1) := by decide +kernel
theorem dX4_lambda_43 : decode cX4_lambda 43 = .ok (.getfield 244, 3) := by decide +kernel
theorem dX4_lambda_46 : decode cX4_lambda 46 = .ok (.aload 5, 2) := by decide +kernel
theorem dX4_lambda_48 : decode cX4_lambda 48 = .ok (.invokevirtual 177, 3) := by decide +kernel
theorem dX4_lambda_51 : decode cX4_lambda 51 = .ok (.aload_n 0, 1) := by decide +kernel
theorem dX4_lambda_52 : decode cX4_lambda 52 = .ok (.getfield 54, 3) := by decide +kernel
theorem dX4_lambda_55 : decode cX4_lambda 55 = .ok (.iconst (-1), 1) := by decide +kernel
theorem dX4_lambda_56 : decode cX4_lambda 56 = .ok (.if_icmp .ne 17, 3) := by decide +kernel
theorem dX4_lambda_59 : decode cX4_lambda 59 = .ok (.new 165, 3) := by decide +kernel
theorem dX4_lambda_62 : decode cX4_lambda 62 = .ok (.dup, 1) := by decide +kernel
theorem dX4_lambda_63 : decode cX4_lambda 63 = .ok (.bipush 7, 2) := by decide +kernel
theorem dX4_lambda_65 : decode cX4_lambda 65 = .ok (.aload_n 1, 1) := by decide +kernel
theorem dX4_lambda_66 : decode cX4_lambda 66 = .ok (.getfield 245, 3) := by decide +kernel
theorem dX4_lambda_69 : decode cX4_lambda 69 = .ok (.invokespecial 170, 3) := by decide +kernel
theorem dX4_lambda_72 : decode cX4_lambda 72 = .ok (.athrow, 1) := by decide +kernel
theorem dX4_lambda_73 : decode cX4_lambda 73 = .ok (.aload_n 0, 1) := by decide +kernel
theorem dX4_lambda_74 : decode cX4_lambda 74 = .ok (.getfield 18, 3) := by decide +kernel
theorem dX4_lambda_77 : decode cX4_lambda 77 = .ok (.iload_n 3, 1) := by decide +kernel
theorem dX4_lambda_78 : decode cX4_lambda 78 = .ok (.aload_n 0, 1) := by decide +kernel
theorem dX4_lambda_79 : decode cX4_lambda 79 = .ok (.getfield 54, 3) := by decide +kernel
theorem dX4_lambda_82 : decode cX4_lambda 82 = .ok (.invokevirtual 235, 3) := by decide +kernel
theorem dX4_lambda_85 : decode cX4_lambda 85 = .ok (.istore 6, 2) := by decide +kernel
theorem dX4_lambda_87 : decode cX4_lambda 87 = .ok (.iload 6, 2) := by decide +kernel
theorem dX4_lambda_89 : decode cX4_lambda 89 = .ok (.iconst (-1), 1) := by decide +kernel
theorem dX4_lambda_90 : decode cX4_lambda 90 = .ok (.if_icmp .ne 17, 3) := by decide +kernel
theorem dX4_lambda_93 : decode cX4_lambda 93 = .ok (.new 165, 3) := by decide +kernel
theorem dX4_lambda_96 : decode cX4_lambda 96 = .ok (.dup, 1) := by decide +kernel
theorem dX4_lambda_97 : decode cX4_lambda 97 = .ok (.bipush 9, 2) := by decide +kernel
theorem dX4_lambda_99 : decode cX4_lambda 99 = .ok (.aload_n 1, 1) := by decide +kernel
theorem dX4_lambda_100 : decode cX4_lambda 100 = .ok (.getfield 245, 3) := by decide +kernel
theorem dX4_lambda_103 : decode cX4_lambda 103 = .ok (.invokespecial 170, 3) := by decide +kernel
theorem dX4_lambda_106 : decode cX4_lambda 106 = .ok (.athrow, 1) := by decide +kernel
theorem dX4_lambda_107 : decode cX4_lambda 107 = .ok (.aload 4, 2) := by decide +kernel
theorem dX4_lambda_109 : decode cX4_lambda 109 = .ok (.aload_n 0, 1) := by decide +kernel
theorem dX4_lambda_110 : decode cX4_lambda 110 = .ok (.aload 5, 2) := by decide +kernel
theorem dX4_lambda_112 : decode cX4_lambda 112 = .ok (.getfield 246, 3) := by decide +kernel
theorem dX4_lambda_115 : decode cX4_lambda 115 = .ok (.invokestatic 196, 3) := by decide +kernel
theorem dX4_lambda_118 : decode cX4_lambda 118 = .ok (.invokevirtual 249, 3) := by decide +kernel
theorem dX4_lambda_121 : decode cX4_lambda 121 = .ok (.putfield 222, 3) := by decide +kernel
theorem dX4_lambda_124 : decode cX4_lambda 124 = .ok (.aload 4, 2) := by decide +kernel
theorem dX4_lambda_126 : decode cX4_lambda 126 = .ok (.iload_n 3, 1) := by decide +kernel
theorem dX4_lambda_127 : decode cX4_lambda 127 = .ok (.putfield 219, 3) := by decide +kernel
theorem dX4_lambda_130 : decode cX4_lambda 130 = .ok (.aload 4, 2) := by decide +kernel
theorem dX4_lambda_132 : decode cX4_lambda 132 = .ok (.aload_n 0, 1) := by decide +kernel
theorem dX4_lambda_133 : decode cX4_lambda 133 = .ok (.getfield 54, 3) := by decide +kernel
theorem dX4_lambda_136 : decode cX4_lambda 136 = .ok (.putfield 232, 3) := by decide +kernel
theorem dX4_lambda_139 : decode cX4_lambda 139 = .ok (.aload_n 0, 1) := by decide +kernel
theorem dX4_lambda_140 : decode cX4_lambda 140 = .ok (.aload 4, 2) := by decide +kernel
theorem dX4_lambda_142 : decode cX4_lambda 142 = .ok (.aload_n 2, 1) := by decide +kernel
theorem dX4_lambda_143 : decode cX4_lambda 143 = .ok (.invokestatic 193, 3) := by decide +kernel
theorem dX4_lambda_146 : decode cX4_lambda 146 = .ok (.iload 6, 2) := by decide +kernel
theorem dX4_lambda_148 : decode cX4_lambda 148 = .ok (.invokevirtual 78, 3) := by decide +kernel
theorem dX4_lambda_151 : decode cX4_lambda 151 = .ok (.return_, 1) := by decide +kernel
abbrev cX4_normal : ByteArray := prog_8_method_11_code
def yX4_normal : MethodName := ⟨RX4, "normal", "(LPureHouse$Term;LPureHouse$Scope;)LPureHouse$Term;"⟩
theorem dX4_normal_0 : decode cX4_normal 0 = .ok (.aload_n 0, 1) := by decide +kernel
theorem dX4_normal_1 : decode cX4_normal 1 = .ok (.getfield 22, 3) := by decide +kernel
theorem dX4_normal_4 : decode cX4_normal 4 = .ok (.new 101, 3) := by decide +kernel
theorem dX4_normal_7 : decode cX4_normal 7 = .ok (.dup, 1) := by decide +kernel
theorem dX4_normal_8 : decode cX4_normal 8 = .ok (.aload_n 1, 1) := by decide +kernel
theorem dX4_normal_9 : decode cX4_normal 9 = .ok (.aload_n 2, 1) := by decide +kernel
theorem dX4_normal_10 : decode cX4_normal 10 = .ok (.invokestatic 193, 3) := by decide +kernel
theorem dX4_normal_13 : decode cX4_normal 13 = .ok (.invokespecial 103, 3) := by decide +kernel
theorem dX4_normal_16 : decode cX4_normal 16 = .ok (.aload_n 2, 1) := by decide +kernel
theorem dX4_normal_17 : decode cX4_normal 17 = .ok (.invokestatic 193, 3) := by decide +kernel
theorem dX4_normal_20 : decode cX4_normal 20 = .ok (.invokestatic 196, 3) := by decide +kernel
theorem dX4_normal_23 : decode cX4_normal 23 = .ok (.invokevirtual 200, 3) := by decide +kernel
theorem dX4_normal_26 : decode cX4_normal 26 = .ok (.areturn, 1) := by decide +kernel
abbrev cX4_with : ByteArray := prog_8_method_12_code
def yX4_with : MethodName := ⟨RX4, "with", "(LPureHouse$Term;ILPureHouse$Scope;)LPureHouse$Scope;"⟩
theorem dX4_with_0 : decode cX4_with 0 = .ok (.new 144, 3) := by decide +kernel
theorem dX4_with_3 : decode cX4_with 3 = .ok (.dup, 1) := by decide +kernel
theorem dX4_with_4 : decode cX4_with 4 = .ok (.new 101, 3) := by decide +kernel
theorem dX4_with_7 : decode cX4_with 7 = .ok (.dup, 1) := by decide +kernel
theorem dX4_with_8 : decode cX4_with 8 = .ok (.new 206, 3) := by decide +kernel
theorem dX4_with_11 : decode cX4_with 11 = .ok (.dup, 1) := by decide +kernel
theorem dX4_with_12 : decode cX4_with 12 = .ok (.iconst (-1), 1) := by decide +kernel
theorem dX4_with_13 : decode cX4_with 13 = .ok (.aload_n 3, 1) := by decide +kernel
theorem dX4_with_14 : decode cX4_with 14 = .ok (.invokestatic 193, 3) := by decide +kernel
theorem dX4_with_17 : decode cX4_with 17 = .ok (.invokestatic 196, 3) := by decide +kernel
theorem dX4_with_20 : decode cX4_with 20 = .ok (.invokespecial 208, 3) := by decide +kernel
theorem dX4_with_23 : decode cX4_with 23 = .ok (.aconst_null, 1) := by decide +kernel
theorem dX4_with_24 : decode cX4_with 24 = .ok (.invokespecial 103, 3) := by decide +kernel
theorem dX4_with_27 : decode cX4_with 27 = .ok (.aload_n 1, 1) := by decide +kernel
theorem dX4_with_28 : decode cX4_with 28 = .ok (.aload_n 3, 1) := by decide +kernel
theorem dX4_with_29 : decode cX4_with 29 = .ok (.invokestatic 193, 3) := by decide +kernel
theorem dX4_with_32 : decode cX4_with 32 = .ok (.iload_n 2, 1) := by decide +kernel
theorem dX4_with_33 : decode cX4_with 33 = .ok (.aload_n 3, 1) := by decide +kernel
theorem dX4_with_34 : decode cX4_with 34 = .ok (.invokespecial 209, 3) := by decide +kernel
theorem dX4_with_37 : decode cX4_with 37 = .ok (.areturn, 1) := by decide +kernel
abbrev cX4_lifted : ByteArray := prog_8_method_15_code
def yX4_lifted : MethodName := ⟨RX4, "lifted", "(I)LPureHouse$Term;"⟩
theorem dX4_lifted_0 : decode cX4_lifted 0 = .ok (.iload_n 1, 1) := by decide +kernel
theorem dX4_lifted_1 : decode cX4_lifted 1 = .ok (.aload_n 0, 1) := by decide +kernel
theorem dX4_lifted_2 : decode cX4_lifted 2 = .ok (.getfield 50, 3) := by decide +kernel
theorem dX4_lifted_5 : decode cX4_lifted 5 = .ok (.invokestatic 196, 3) := by decide +kernel
theorem dX4_lifted_8 : decode cX4_lifted 8 = .ok (.isub, 1) := by decide +kernel
theorem dX4_lifted_9 : decode cX4_lifted 9 = .ok (.istore_n 2, 1) := by decide +kernel
theorem dX4_lifted_10 : decode cX4_lifted 10 = .ok (.iload_n 2, 1) := by decide +kernel
theorem dX4_lifted_11 : decode cX4_lifted 11 = .ok (.ifCond .ne 10, 3) := by decide +kernel
theorem dX4_lifted_14 : decode cX4_lifted 14 = .ok (.aload_n 0, 1) := by decide +kernel
theorem dX4_lifted_15 : decode cX4_lifted 15 = .ok (.getfield 46, 3) := by decide +kernel
theorem dX4_lifted_18 : decode cX4_lifted 18 = .ok (.goto 15, 3) := by decide +kernel
theorem dX4_lifted_21 : decode cX4_lifted 21 = .ok (.new 82, 3) := by decide +kernel
theorem dX4_lifted_24 : decode cX4_lifted 24 = .ok (.dup, 1) := by decide +kernel
theorem dX4_lifted_25 : decode cX4_lifted 25 = .ok (.aload_n 0, 1) := by decide +kernel
theorem dX4_lifted_26 : decode cX4_lifted 26 = .ok (.getfield 46, 3) := by decide +kernel
theorem dX4_lifted_29 : decode cX4_lifted 29 = .ok (.iload_n 2, 1) := by decide +kernel
theorem dX4_lifted_30 : decode cX4_lifted 30 = .ok (.invokespecial 252, 3) := by decide +kernel
theorem dX4_lifted_33 : decode cX4_lifted 33 = .ok (.areturn, 1) := by decide +kernel
abbrev cX4_product : ByteArray := prog_8_method_13_code
def yX4_product : MethodName := ⟨RX4, "product", "(LPureHouse$Product;LPureHouse$Scope;)V"⟩
theorem dX4_product_0 : decode cX4_product 0 = .ok (.aload_n 1, 1) := by decide +kernel
theorem dX4_product_1 : decode cX4_product 1 = .ok (.aload_n 0, 1) := by decide +kernel
theorem dX4_product_2 : decode cX4_product 2 = .ok (.aload_n 1, 1) := by decide +kernel
theorem dX4_product_3 : decode cX4_product 3 = .ok (.getfield 212, 3) := by decide +kernel
theorem dX4_product_6 : decode cX4_product 6 = .ok (.aload_n 2, 1) := by decide +kernel
theorem dX4_product_7 : decode cX4_product 7 = .ok (.invokevirtual 215, 3) := by decide +kernel
theorem dX4_product_10 : decode cX4_product 10 = .ok (.putfield 219, 3) := by decide +kernel
theorem dX4_product_13 : decode cX4_product 13 = .ok (.aload_n 1, 1) := by decide +kernel
theorem dX4_product_14 : decode cX4_product 14 = .ok (.aload_n 0, 1) := by decide +kernel
theorem dX4_product_15 : decode cX4_product 15 = .ok (.aload_n 1, 1) := by decide +kernel
theorem dX4_product_16 : decode cX4_product 16 = .ok (.getfield 222, 3) := by decide +kernel
theorem dX4_product_19 : decode cX4_product 19 = .ok (.aload_n 0, 1) := by decide +kernel
theorem dX4_product_20 : decode cX4_product 20 = .ok (.aload_n 0, 1) := by decide +kernel
theorem dX4_product_21 : decode cX4_product 21 = .ok (.aload_n 1, 1) := by decide +kernel
theorem dX4_product_22 : decode cX4_product 22 = .ok (.getfield 212, 3) := by decide +kernel
theorem dX4_product_25 : decode cX4_product 25 = .ok (.aload_n 2, 1) := by decide +kernel
theorem dX4_product_26 : decode cX4_product 26 = .ok (.invokevirtual 225, 3) := by decide +kernel
theorem dX4_product_29 : decode cX4_product 29 = .ok (.aload_n 1, 1) := by decide +kernel
theorem dX4_product_30 : decode cX4_product 30 = .ok (.getfield 219, 3) := by decide +kernel
theorem dX4_product_33 : decode cX4_product 33 = .ok (.aload_n 2, 1) := by decide +kernel
theorem dX4_product_34 : decode cX4_product 34 = .ok (.invokevirtual 228, 3) := by decide +kernel
theorem dX4_product_37 : decode cX4_product 37 = .ok (.invokevirtual 215, 3) := by decide +kernel
theorem dX4_product_40 : decode cX4_product 40 = .ok (.putfield 232, 3) := by decide +kernel
theorem dX4_product_43 : decode cX4_product 43 = .ok (.aload_n 0, 1) := by decide +kernel
theorem dX4_product_44 : decode cX4_product 44 = .ok (.getfield 18, 3) := by decide +kernel
theorem dX4_product_47 : decode cX4_product 47 = .ok (.aload_n 1, 1) := by decide +kernel
theorem dX4_product_48 : decode cX4_product 48 = .ok (.getfield 219, 3) := by decide +kernel
theorem dX4_product_51 : decode cX4_product 51 = .ok (.aload_n 1, 1) := by decide +kernel
theorem dX4_product_52 : decode cX4_product 52 = .ok (.getfield 232, 3) := by decide +kernel
theorem dX4_product_55 : decode cX4_product 55 = .ok (.invokevirtual 235, 3) := by decide +kernel
theorem dX4_product_58 : decode cX4_product 58 = .ok (.istore_n 3, 1) := by decide +kernel
theorem dX4_product_59 : decode cX4_product 59 = .ok (.iload_n 3, 1) := by decide +kernel
theorem dX4_product_60 : decode cX4_product 60 = .ok (.iconst (-1), 1) := by decide +kernel
theorem dX4_product_61 : decode cX4_product 61 = .ok (.if_icmp .ne 17, 3) := by decide +kernel
theorem dX4_product_64 : decode cX4_product 64 = .ok (.new 165, 3) := by decide +kernel
theorem dX4_product_67 : decode cX4_product 67 = .ok (.dup, 1) := by decide +kernel
theorem dX4_product_68 : decode cX4_product 68 = .ok (.bipush 9, 2) := by decide +kernel
theorem dX4_product_70 : decode cX4_product 70 = .ok (.aload_n 1, 1) := by decide +kernel
theorem dX4_product_71 : decode cX4_product 71 = .ok (.getfield 239, 3) := by decide +kernel
theorem dX4_product_74 : decode cX4_product 74 = .ok (.invokespecial 170, 3) := by decide +kernel
theorem dX4_product_77 : decode cX4_product 77 = .ok (.athrow, 1) := by decide +kernel
theorem dX4_product_78 : decode cX4_product 78 = .ok (.aload_n 0, 1) := by decide +kernel
theorem dX4_product_79 : decode cX4_product 79 = .ok (.iload_n 3, 1) := by decide +kernel
theorem dX4_product_80 : decode cX4_product 80 = .ok (.invokevirtual 173, 3) := by decide +kernel
theorem dX4_product_83 : decode cX4_product 83 = .ok (.return_, 1) := by decide +kernel
abbrev cX4_use : ByteArray := prog_8_method_16_code
def yX4_use : MethodName := ⟨RX4, "use", "(LPureHouse$Use;LPureHouse$Scope;)V"⟩
theorem dX4_use_0 : decode cX4_use 0 = .ok (.aload_n 0, 1) := by decide +kernel
theorem dX4_use_1 : decode cX4_use 1 = .ok (.aload_n 1, 1) := by decide +kernel
theorem dX4_use_2 : decode cX4_use 2 = .ok (.getfield 255, 3) := by decide +kernel
theorem dX4_use_5 : decode cX4_use 5 = .ok (.aload_n 2, 1) := by decide +kernel
theorem dX4_use_6 : decode cX4_use 6 = .ok (.invokevirtual 177, 3) := by decide +kernel
theorem dX4_use_9 : decode cX4_use 9 = .ok (.iconst 0, 1) := by decide +kernel
theorem dX4_use_10 : decode cX4_use 10 = .ok (.istore_n 3, 1) := by decide +kernel
theorem dX4_use_11 : decode cX4_use 11 = .ok (.iload_n 3, 1) := by decide +kernel
theorem dX4_use_12 : decode cX4_use 12 = .ok (.aload_n 1, 1) := by decide +kernel
theorem dX4_use_13 : decode cX4_use 13 = .ok (.getfield 258, 3) := by decide +kernel
theorem dX4_use_16 : decode cX4_use 16 = .ok (.invokevirtual 26, 3) := by decide +kernel
theorem dX4_use_19 : decode cX4_use 19 = .ok (.if_icmp .ge 153, 3) := by decide +kernel
theorem dX4_use_22 : decode cX4_use 22 = .ok (.aload_n 0, 1) := by decide +kernel
theorem dX4_use_23 : decode cX4_use 23 = .ok (.invokevirtual 181, 3) := by decide +kernel
theorem dX4_use_26 : decode cX4_use 26 = .ok (.astore 4, 2) := by decide +kernel
theorem dX4_use_28 : decode cX4_use 28 = .ok (.aload 4, 2) := by decide +kernel
theorem dX4_use_30 : decode cX4_use 30 = .ok (.getfield 185, 3) := by decide +kernel
theorem dX4_use_33 : decode cX4_use 33 = .ok (.astore 6, 2) := by decide +kernel
theorem dX4_use_35 : decode cX4_use 35 = .ok (.aload 6, 2) := by decide +kernel
theorem dX4_use_37 : decode cX4_use 37 = .ok (.instanceof 122, 3) := by decide +kernel
theorem dX4_use_40 : decode cX4_use 40 = .ok (.ifCond .eq 13, 3) := by decide +kernel
theorem dX4_use_43 : decode cX4_use 43 = .ok (.aload 6, 2) := by decide +kernel
theorem dX4_use_45 : decode cX4_use 45 = .ok (.checkcast 122, 3) := by decide +kernel
theorem dX4_use_48 : decode cX4_use 48 = .ok (.astore 5, 2) := by decide +kernel
theorem dX4_use_50 : decode cX4_use 50 = .ok (.goto 17, 3) := by decide +kernel
theorem dX4_use_53 : decode cX4_use 53 = .ok (.new 165, 3) := by decide +kernel
theorem dX4_use_56 : decode cX4_use 56 = .ok (.dup, 1) := by decide +kernel
theorem dX4_use_57 : decode cX4_use 57 = .ok (.bipush 10, 2) := by decide +kernel
theorem dX4_use_59 : decode cX4_use 59 = .ok (.aload_n 1, 1) := by decide +kernel
theorem dX4_use_60 : decode cX4_use 60 = .ok (.getfield 261, 3) := by decide +kernel
theorem dX4_use_63 : decode cX4_use 63 = .ok (.invokespecial 170, 3) := by decide +kernel
theorem dX4_use_66 : decode cX4_use 66 = .ok (.athrow, 1) := by decide +kernel
theorem dX4_use_67 : decode cX4_use 67 = .ok (.aload_n 1, 1) := by decide +kernel
theorem dX4_use_68 : decode cX4_use 68 = .ok (.getfield 258, 3) := by decide +kernel
theorem dX4_use_71 : decode cX4_use 71 = .ok (.iload_n 3, 1) := by decide +kernel
theorem dX4_use_72 : decode cX4_use 72 = .ok (.invokevirtual 30, 3) := by decide +kernel
theorem dX4_use_75 : decode cX4_use 75 = .ok (.checkcast 189, 3) := by decide +kernel
theorem dX4_use_78 : decode cX4_use 78 = .ok (.astore 6, 2) := by decide +kernel
theorem dX4_use_80 : decode cX4_use 80 = .ok (.aload_n 0, 1) := by decide +kernel
theorem dX4_use_81 : decode cX4_use 81 = .ok (.aload 6, 2) := by decide +kernel
theorem dX4_use_83 : decode cX4_use 83 = .ok (.aload_n 2, 1) := by decide +kernel
theorem dX4_use_84 : decode cX4_use 84 = .ok (.invokevirtual 177, 3) := by decide +kernel
theorem dX4_use_87 : decode cX4_use 87 = .ok (.aload_n 0, 1) := by decide +kernel
theorem dX4_use_88 : decode cX4_use 88 = .ok (.getfield 22, 3) := by decide +kernel
theorem dX4_use_91 : decode cX4_use 91 = .ok (.aload 4, 2) := by decide +kernel
theorem dX4_use_93 : decode cX4_use 93 = .ok (.invokestatic 262, 3) := by decide +kernel
theorem dX4_use_96 : decode cX4_use 96 = .ok (.aload_n 0, 1) := by decide +kernel
theorem dX4_use_97 : decode cX4_use 97 = .ok (.invokevirtual 181, 3) := by decide +kernel
theorem dX4_use_100 : decode cX4_use 100 = .ok (.invokevirtual 265, 3) := by decide +kernel
theorem dX4_use_103 : decode cX4_use 103 = .ok (.ifCond .ne 18, 3) := by decide +kernel
theorem dX4_use_106 : decode cX4_use 106 = .ok (.new 165, 3) := by decide +kernel
theorem dX4_use_109 : decode cX4_use 109 = .ok (.dup, 1) := by decide +kernel
theorem dX4_use_110 : decode cX4_use 110 = .ok (.bipush 11, 2) := by decide +kernel
theorem dX4_use_112 : decode cX4_use 112 = .ok (.aload 6, 2) := by decide +kernel
theorem dX4_use_114 : decode cX4_use 114 = .ok (.getfield 188, 3) := by decide +kernel
theorem dX4_use_117 : decode cX4_use 117 = .ok (.invokespecial 170, 3) := by decide +kernel
theorem dX4_use_120 : decode cX4_use 120 = .ok (.athrow, 1) := by decide +kernel
theorem dX4_use_121 : decode cX4_use 121 = .ok (.aload_n 2, 1) := by decide +kernel
theorem dX4_use_122 : decode cX4_use 122 = .ok (.invokestatic 193, 3) := by decide +kernel
theorem dX4_use_125 : decode cX4_use 125 = .ok (.astore 7, 2) := by decide +kernel
theorem dX4_use_127 : decode cX4_use 127 = .ok (.aload_n 0, 1) := by decide +kernel
theorem dX4_use_128 : decode cX4_use 128 = .ok (.aload_n 0, 1) := by decide +kernel
theorem dX4_use_129 : decode cX4_use 129 = .ok (.getfield 22, 3) := by decide +kernel
theorem dX4_use_132 : decode cX4_use 132 = .ok (.aload 4, 2) := by decide +kernel
theorem dX4_use_134 : decode cX4_use 134 = .ok (.new 101, 3) := by decide +kernel
theorem dX4_use_137 : decode cX4_use 137 = .ok (.dup, 1) := by decide +kernel
theorem dX4_use_138 : decode cX4_use 138 = .ok (.aload 6, 2) := by decide +kernel
theorem dX4_use_140 : decode cX4_use 140 = .ok (.aload 7, 2) := by decide +kernel
theorem dX4_use_142 : decode cX4_use 142 = .ok (.invokespecial 103, 3) := by decide +kernel
theorem dX4_use_145 : decode cX4_use 145 = .ok (.invokestatic 269, 3) := by decide +kernel
theorem dX4_use_148 : decode cX4_use 148 = .ok (.aload 7, 2) := by decide +kernel
theorem dX4_use_150 : decode cX4_use 150 = .ok (.invokestatic 196, 3) := by decide +kernel
theorem dX4_use_153 : decode cX4_use 153 = .ok (.invokevirtual 200, 3) := by decide +kernel
theorem dX4_use_156 : decode cX4_use 156 = .ok (.aload 7, 2) := by decide +kernel
theorem dX4_use_158 : decode cX4_use 158 = .ok (.aload 5, 2) := by decide +kernel
theorem dX4_use_160 : decode cX4_use 160 = .ok (.getfield 232, 3) := by decide +kernel
theorem dX4_use_163 : decode cX4_use 163 = .ok (.invokevirtual 78, 3) := by decide +kernel
theorem dX4_use_166 : decode cX4_use 166 = .ok (.iinc 3 1, 3) := by decide +kernel
theorem dX4_use_169 : decode cX4_use 169 = .ok (.goto (-158), 3) := by decide +kernel
theorem dX4_use_172 : decode cX4_use 172 = .ok (.return_, 1) := by decide +kernel
abbrev cX4_found : ByteArray := prog_8_method_6_code
def yX4_found : MethodName := ⟨RX4, "found", "()LPureHouse$Closure;"⟩
theorem dX4_found_0 : decode cX4_found 0 = .ok (.aload_n 0, 1) := by decide +kernel
theorem dX4_found_1 : decode cX4_found 1 = .ok (.getfield 46, 3) := by decide +kernel
theorem dX4_found_4 : decode cX4_found 4 = .ok (.astore_n 1, 1) := by decide +kernel
theorem dX4_found_5 : decode cX4_found 5 = .ok (.aload_n 0, 1) := by decide +kernel
theorem dX4_found_6 : decode cX4_found 6 = .ok (.getfield 50, 3) := by decide +kernel
theorem dX4_found_9 : decode cX4_found 9 = .ok (.astore_n 2, 1) := by decide +kernel
theorem dX4_found_10 : decode cX4_found 10 = .ok (.aload_n 1, 1) := by decide +kernel
theorem dX4_found_11 : decode cX4_found 11 = .ok (.instanceof 82, 3) := by decide +kernel
theorem dX4_found_14 : decode cX4_found 14 = .ok (.ifCond .ne 10, 3) := by decide +kernel
theorem dX4_found_17 : decode cX4_found 17 = .ok (.aload_n 1, 1) := by decide +kernel
theorem dX4_found_18 : decode cX4_found 18 = .ok (.instanceof 84, 3) := by decide +kernel
theorem dX4_found_21 : decode cX4_found 21 = .ok (.ifCond .eq 67, 3) := by decide +kernel
theorem dX4_found_24 : decode cX4_found 24 = .ok (.aload_n 1, 1) := by decide +kernel
theorem dX4_found_25 : decode cX4_found 25 = .ok (.instanceof 82, 3) := by decide +kernel
theorem dX4_found_28 : decode cX4_found 28 = .ok (.ifCond .eq 39, 3) := by decide +kernel
theorem dX4_found_31 : decode cX4_found 31 = .ok (.aload_n 1, 1) := by decide +kernel
theorem dX4_found_32 : decode cX4_found 32 = .ok (.checkcast 82, 3) := by decide +kernel
theorem dX4_found_35 : decode cX4_found 35 = .ok (.astore_n 3, 1) := by decide +kernel
theorem dX4_found_36 : decode cX4_found 36 = .ok (.iconst 0, 1) := by decide +kernel
theorem dX4_found_37 : decode cX4_found 37 = .ok (.istore 4, 2) := by decide +kernel
theorem dX4_found_39 : decode cX4_found 39 = .ok (.iload 4, 2) := by decide +kernel
theorem dX4_found_41 : decode cX4_found 41 = .ok (.aload_n 3, 1) := by decide +kernel
theorem dX4_found_42 : decode cX4_found 42 = .ok (.getfield 86, 3) := by decide +kernel
theorem dX4_found_45 : decode cX4_found 45 = .ok (.if_icmp .ge 14, 3) := by decide +kernel
theorem dX4_found_48 : decode cX4_found 48 = .ok (.aload_n 2, 1) := by decide +kernel
theorem dX4_found_49 : decode cX4_found 49 = .ok (.getfield 89, 3) := by decide +kernel
theorem dX4_found_52 : decode cX4_found 52 = .ok (.astore_n 2, 1) := by decide +kernel
theorem dX4_found_53 : decode cX4_found 53 = .ok (.iinc 4 1, 3) := by decide +kernel
theorem dX4_found_56 : decode cX4_found 56 = .ok (.goto (-17), 3) := by decide +kernel
theorem dX4_found_59 : decode cX4_found 59 = .ok (.aload_n 3, 1) := by decide +kernel
theorem dX4_found_60 : decode cX4_found 60 = .ok (.getfield 94, 3) := by decide +kernel
theorem dX4_found_63 : decode cX4_found 63 = .ok (.astore_n 1, 1) := by decide +kernel
theorem dX4_found_64 : decode cX4_found 64 = .ok (.goto (-54), 3) := by decide +kernel
theorem dX4_found_67 : decode cX4_found 67 = .ok (.new 90, 3) := by decide +kernel
theorem dX4_found_70 : decode cX4_found 70 = .ok (.dup, 1) := by decide +kernel
theorem dX4_found_71 : decode cX4_found 71 = .ok (.aconst_null, 1) := by decide +kernel
theorem dX4_found_72 : decode cX4_found 72 = .ok (.aload_n 2, 1) := by decide +kernel
theorem dX4_found_73 : decode cX4_found 73 = .ok (.invokespecial 97, 3) := by decide +kernel
theorem dX4_found_76 : decode cX4_found 76 = .ok (.astore_n 2, 1) := by decide +kernel
theorem dX4_found_77 : decode cX4_found 77 = .ok (.aload_n 1, 1) := by decide +kernel
theorem dX4_found_78 : decode cX4_found 78 = .ok (.checkcast 84, 3) := by decide +kernel
theorem dX4_found_81 : decode cX4_found 81 = .ok (.getfield 100, 3) := by decide +kernel
theorem dX4_found_84 : decode cX4_found 84 = .ok (.astore_n 1, 1) := by decide +kernel
theorem dX4_found_85 : decode cX4_found 85 = .ok (.goto (-75), 3) := by decide +kernel
theorem dX4_found_88 : decode cX4_found 88 = .ok (.new 101, 3) := by decide +kernel
theorem dX4_found_91 : decode cX4_found 91 = .ok (.dup, 1) := by decide +kernel
theorem dX4_found_92 : decode cX4_found 92 = .ok (.aload_n 1, 1) := by decide +kernel
theorem dX4_found_93 : decode cX4_found 93 = .ok (.aload_n 2, 1) := by decide +kernel
theorem dX4_found_94 : decode cX4_found 94 = .ok (.invokespecial 103, 3) := by decide +kernel
theorem dX4_found_97 : decode cX4_found 97 = .ok (.areturn, 1) := by decide +kernel
abbrev cX4_let : ByteArray := prog_8_method_17_code
def yX4_let : MethodName := ⟨RX4, "let", "(LPureHouse$Let;LPureHouse$Scope;)V"⟩
theorem dX4_let_0 : decode cX4_let 0 = .ok (.aload_n 0, 1) := by decide +kernel
theorem dX4_let_1 : decode cX4_let 1 = .ok (.aload_n 1, 1) := by decide +kernel
theorem dX4_let_2 : decode cX4_let 2 = .ok (.getfield 272, 3) := by decide +kernel
theorem dX4_let_5 : decode cX4_let 5 = .ok (.aload_n 2, 1) := by decide +kernel
theorem dX4_let_6 : decode cX4_let 6 = .ok (.invokevirtual 177, 3) := by decide +kernel
theorem dX4_let_9 : decode cX4_let 9 = .ok (.new 101, 3) := by decide +kernel
theorem dX4_let_12 : decode cX4_let 12 = .ok (.dup, 1) := by decide +kernel
theorem dX4_let_13 : decode cX4_let 13 = .ok (.aload_n 1, 1) := by decide +kernel
theorem dX4_let_14 : decode cX4_let 14 = .ok (.getfield 272, 3) := by decide +kernel
theorem dX4_let_17 : decode cX4_let 17 = .ok (.aload_n 2, 1) := by decide +kernel
theorem dX4_let_18 : decode cX4_let 18 = .ok (.invokestatic 193, 3) := by decide +kernel
theorem dX4_let_21 : decode cX4_let 21 = .ok (.invokespecial 103, 3) := by decide +kernel
theorem dX4_let_24 : decode cX4_let 24 = .ok (.astore_n 3, 1) := by decide +kernel
theorem dX4_let_25 : decode cX4_let 25 = .ok (.aload_n 0, 1) := by decide +kernel
theorem dX4_let_26 : decode cX4_let 26 = .ok (.aload_n 1, 1) := by decide +kernel
theorem dX4_let_27 : decode cX4_let 27 = .ok (.getfield 275, 3) := by decide +kernel
theorem dX4_let_30 : decode cX4_let 30 = .ok (.new 144, 3) := by decide +kernel
theorem dX4_let_33 : decode cX4_let 33 = .ok (.dup, 1) := by decide +kernel
theorem dX4_let_34 : decode cX4_let 34 = .ok (.aload_n 3, 1) := by decide +kernel
theorem dX4_let_35 : decode cX4_let 35 = .ok (.aload_n 0, 1) := by decide +kernel
theorem dX4_let_36 : decode cX4_let 36 = .ok (.getfield 46, 3) := by decide +kernel
theorem dX4_let_39 : decode cX4_let 39 = .ok (.aload_n 0, 1) := by decide +kernel
theorem dX4_let_40 : decode cX4_let 40 = .ok (.getfield 50, 3) := by decide +kernel
theorem dX4_let_43 : decode cX4_let 43 = .ok (.aload_n 0, 1) := by decide +kernel
theorem dX4_let_44 : decode cX4_let 44 = .ok (.getfield 54, 3) := by decide +kernel
theorem dX4_let_47 : decode cX4_let 47 = .ok (.aload_n 2, 1) := by decide +kernel
theorem dX4_let_48 : decode cX4_let 48 = .ok (.invokespecial 209, 3) := by decide +kernel
theorem dX4_let_51 : decode cX4_let 51 = .ok (.invokevirtual 177, 3) := by decide +kernel
theorem dX4_let_54 : decode cX4_let 54 = .ok (.aload_n 2, 1) := by decide +kernel
theorem dX4_let_55 : decode cX4_let 55 = .ok (.invokestatic 193, 3) := by decide +kernel
theorem dX4_let_58 : decode cX4_let 58 = .ok (.astore 4, 2) := by decide +kernel
theorem dX4_let_60 : decode cX4_let 60 = .ok (.aload_n 0, 1) := by decide +kernel
theorem dX4_let_61 : decode cX4_let 61 = .ok (.getfield 50, 3) := by decide +kernel
theorem dX4_let_64 : decode cX4_let 64 = .ok (.invokestatic 196, 3) := by decide +kernel
theorem dX4_let_67 : decode cX4_let 67 = .ok (.aload 4, 2) := by decide +kernel
theorem dX4_let_69 : decode cX4_let 69 = .ok (.invokestatic 196, 3) := by decide +kernel
theorem dX4_let_72 : decode cX4_let 72 = .ok (.if_icmp .le 24, 3) := by decide +kernel
theorem dX4_let_75 : decode cX4_let 75 = .ok (.aload_n 0, 1) := by decide +kernel
theorem dX4_let_76 : decode cX4_let 76 = .ok (.new 84, 3) := by decide +kernel
theorem dX4_let_79 : decode cX4_let 79 = .ok (.dup, 1) := by decide +kernel
theorem dX4_let_80 : decode cX4_let 80 = .ok (.aload_n 0, 1) := by decide +kernel
theorem dX4_let_81 : decode cX4_let 81 = .ok (.getfield 46, 3) := by decide +kernel
theorem dX4_let_84 : decode cX4_let 84 = .ok (.invokespecial 276, 3) := by decide +kernel
theorem dX4_let_87 : decode cX4_let 87 = .ok (.aload 4, 2) := by decide +kernel
theorem dX4_let_89 : decode cX4_let 89 = .ok (.aload_n 0, 1) := by decide +kernel
theorem dX4_let_90 : decode cX4_let 90 = .ok (.getfield 54, 3) := by decide +kernel
theorem dX4_let_93 : decode cX4_let 93 = .ok (.invokevirtual 78, 3) := by decide +kernel
theorem dX4_let_96 : decode cX4_let 96 = .ok (.return_, 1) := by decide +kernel
theorem q116 : (Jvm.Cond.initialized "PureHouse$Judge") ∈ lw_all := lw_g (lw_at lw_m1 4 rfl) rfl
theorem q179 : (Jvm.Cond.fieldLinkNest "PureHouse$Judge" (60 : Nat) "PureHouse$Tables" "names" "[Ljava/lang/String;" "PureHouse") ∈ lw_tbl := lw_at lw_m1 67 rfl
theorem q257 : (Jvm.Cond.instantiable "PureHouse$Judge" (6 : Nat)) ∈ lw_all := lw_g (lw_at lw_m1 145 rfl) rfl
theorem q259 : (Jvm.Cond.instanceMethod ({ cls := "PureHouse$Judge", name := "<init>", desc := "(LPureHouse$Tables;LPureHouse$Machine;)V" } : Jvm.MethodName)) ∈ lw_all := lw_g (lw_at lw_m1 147 rfl) rfl
theorem q260 : (Jvm.Cond.code ({ cls := "PureHouse$Judge", name := "<init>", desc := "(LPureHouse$Tables;LPureHouse$Machine;)V" } : Jvm.MethodName) prog_8_method_1_code (3 : Nat) (Option.none : Option Jvm.ClassFile.FieldType)) ∈ lw_all := lw_g (lw_at lw_m1 148 rfl) rfl
theorem q261 : (Jvm.Cond.methodLink "PureHouse$Judge" (3 : Nat) ({ cls := "java/lang/Object", name := "<init>", desc := "()V" } : Jvm.MethodName)) ∈ lw_all := lw_g (lw_at lw_m1 149 rfl) rfl
theorem q262 : (Jvm.Cond.classLink "PureHouse$Judge" (9 : Nat) "java/util/ArrayList") ∈ lw_all := lw_g (lw_at lw_m1 150 rfl) rfl
theorem q264 : (Jvm.Cond.methodLink "PureHouse$Judge" (11 : Nat) ({ cls := "java/util/ArrayList", name := "<init>", desc := "()V" } : Jvm.MethodName)) ∈ lw_all := lw_g (lw_at lw_m1 152 rfl) rfl
theorem q288 : (Jvm.Cond.fieldLink "PureHouse$Judge" (18 : Nat) "PureHouse$Judge" "tables" "LPureHouse$Tables;") ∈ lw_all := lw_g (lw_at lw_m1 176 rfl) rfl
theorem q289 : (Jvm.Cond.fieldLink "PureHouse$Judge" (22 : Nat) "PureHouse$Judge" "machine" "LPureHouse$Machine;") ∈ lw_all := lw_g (lw_at lw_m1 177 rfl) rfl
theorem q290 : (Jvm.Cond.fieldLink "PureHouse$Judge" (12 : Nat) "PureHouse$Judge" "context" "Ljava/util/ArrayList;") ∈ lw_all := lw_g (lw_at lw_m1 178 rfl) rfl
theorem q292 : (Jvm.Cond.fieldLink "PureHouse$Judge" (46 : Nat) "PureHouse$Judge" "type" "LPureHouse$Term;") ∈ lw_all := lw_g (lw_at lw_m1 180 rfl) rfl
theorem q294 : (Jvm.Cond.fieldLink "PureHouse$Judge" (50 : Nat) "PureHouse$Judge" "around" "LPureHouse$Env;") ∈ lw_all := lw_g (lw_at lw_m1 182 rfl) rfl
theorem q295 : (Jvm.Cond.fieldLink "PureHouse$Judge" (54 : Nat) "PureHouse$Judge" "sort" "I") ∈ lw_all := lw_g (lw_at lw_m1 183 rfl) rfl
theorem q297 : (Jvm.Cond.laysFinal "PureHouse$Judge" "PureHouse$Judge" "tables" "LPureHouse$Tables;") ∈ lw_all := lw_g (lw_at lw_m1 185 rfl) rfl
theorem q298 : (Jvm.Cond.soleField "PureHouse$Judge" "tables") ∈ lw_all := lw_g (lw_at lw_m1 186 rfl) rfl
theorem q299 : (Jvm.Cond.laysFinal "PureHouse$Judge" "PureHouse$Judge" "machine" "LPureHouse$Machine;") ∈ lw_all := lw_g (lw_at lw_m1 187 rfl) rfl
theorem q300 : (Jvm.Cond.soleField "PureHouse$Judge" "machine") ∈ lw_all := lw_g (lw_at lw_m1 188 rfl) rfl
theorem q301 : (Jvm.Cond.laysFinal "PureHouse$Judge" "PureHouse$Judge" "context" "Ljava/util/ArrayList;") ∈ lw_all := lw_g (lw_at lw_m1 189 rfl) rfl
theorem q302 : (Jvm.Cond.soleField "PureHouse$Judge" "context") ∈ lw_all := lw_g (lw_at lw_m1 190 rfl) rfl
theorem q303 : (Jvm.Cond.lays "PureHouse$Judge" "PureHouse$Judge" "type" "LPureHouse$Term;") ∈ lw_all := lw_g (lw_at lw_m1 191 rfl) rfl
theorem q304 : (Jvm.Cond.soleField "PureHouse$Judge" "type") ∈ lw_all := lw_g (lw_at lw_m1 192 rfl) rfl
theorem q305 : (Jvm.Cond.lays "PureHouse$Judge" "PureHouse$Judge" "around" "LPureHouse$Env;") ∈ lw_all := lw_g (lw_at lw_m1 193 rfl) rfl
theorem q306 : (Jvm.Cond.soleField "PureHouse$Judge" "around") ∈ lw_all := lw_g (lw_at lw_m1 194 rfl) rfl
theorem q307 : (Jvm.Cond.lays "PureHouse$Judge" "PureHouse$Judge" "sort" "I") ∈ lw_all := lw_g (lw_at lw_m1 195 rfl) rfl
theorem q308 : (Jvm.Cond.soleField "PureHouse$Judge" "sort") ∈ lw_all := lw_g (lw_at lw_m1 196 rfl) rfl
theorem q309 : (Jvm.Cond.superclass "PureHouse$Judge" "java/lang/Object") ∈ lw_all := lw_g (lw_at lw_m1 197 rfl) rfl
theorem q1038 : (Jvm.Cond.fieldLinkNest "PureHouse$Judge" (240 : Nat) "PureHouse$Lambda" "domain" "LPureHouse$Term;" "PureHouse") ∈ lw_tbl := lw_at lw_m4 206 rfl
theorem q1041 : (Jvm.Cond.fieldLinkNest "PureHouse$Judge" (244 : Nat) "PureHouse$Lambda" "body" "LPureHouse$Term;" "PureHouse") ∈ lw_tbl := lw_at lw_m4 209 rfl
theorem q1044 : (Jvm.Cond.fieldLink "PureHouse$Judge" (167 : Nat) "PureHouse$Free" "at" "I") ∈ lw_all := lw_g (lw_at lw_m4 212 rfl) rfl
theorem q1046 : (Jvm.Cond.fieldLink "PureHouse$Judge" (239 : Nat) "PureHouse$Product" "at" "I") ∈ lw_all := lw_g (lw_at lw_m4 214 rfl) rfl
theorem q1048 : (Jvm.Cond.fieldLink "PureHouse$Judge" (245 : Nat) "PureHouse$Lambda" "at" "I") ∈ lw_all := lw_g (lw_at lw_m4 216 rfl) rfl
theorem q1050 : (Jvm.Cond.fieldLink "PureHouse$Judge" (261 : Nat) "PureHouse$Use" "at" "I") ∈ lw_all := lw_g (lw_at lw_m4 218 rfl) rfl
theorem q1059 : (Jvm.Cond.fieldLink "PureHouse$Judge" (188 : Nat) "PureHouse$Term" "from" "I") ∈ lw_all := lw_g (lw_at lw_m4 227 rfl) rfl
theorem q1109 : (Jvm.Cond.selects "PureHouse$Judge" ({ cls := "java/lang/Object", name := "getClass", desc := "()Ljava/lang/Class;" } : Jvm.MethodName) ({ cls := "java/lang/Object", name := "getClass", desc := "()Ljava/lang/Class;" } : Jvm.MethodName)) ∈ lw_all := lw_g (lw_at lw_m5 37 rfl) rfl
theorem q1167 : (Jvm.Cond.fieldLinkNest "PureHouse$Judge" (212 : Nat) "PureHouse$Product" "domain" "LPureHouse$Term;" "PureHouse") ∈ lw_tbl := lw_at lw_m5 95 rfl
theorem q1169 : (Jvm.Cond.fieldLinkNest "PureHouse$Judge" (222 : Nat) "PureHouse$Product" "body" "LPureHouse$Term;" "PureHouse") ∈ lw_tbl := lw_at lw_m5 97 rfl
theorem q1171 : (Jvm.Cond.fieldLinkNest "PureHouse$Judge" (219 : Nat) "PureHouse$Product" "a" "I" "PureHouse") ∈ lw_tbl := lw_at lw_m5 99 rfl
theorem q1173 : (Jvm.Cond.fieldLinkNest "PureHouse$Judge" (232 : Nat) "PureHouse$Product" "b" "I" "PureHouse") ∈ lw_tbl := lw_at lw_m5 101 rfl
theorem q1201 : (Jvm.Cond.fieldLinkNest "PureHouse$Judge" (272 : Nat) "PureHouse$Let" "value" "LPureHouse$Term;" "PureHouse") ∈ lw_tbl := lw_at lw_m5 129 rfl
theorem q1203 : (Jvm.Cond.fieldLinkNest "PureHouse$Judge" (275 : Nat) "PureHouse$Let" "body" "LPureHouse$Term;" "PureHouse") ∈ lw_tbl := lw_at lw_m5 131 rfl
theorem q1244 : (Jvm.Cond.fieldLinkNest "PureHouse$Judge" (140 : Nat) "PureHouse$Bound" "k" "I" "PureHouse") ∈ lw_tbl := lw_at lw_m5 172 rfl
theorem q1257 : (Jvm.Cond.fieldLinkNest "PureHouse$Judge" (151 : Nat) "PureHouse$Free" "name" "Ljava/lang/String;" "PureHouse") ∈ lw_tbl := lw_at lw_m5 185 rfl
theorem q1259 : (Jvm.Cond.fieldLinkNest "PureHouse$Judge" (156 : Nat) "PureHouse$Free" "of" "LPureHouse$Name;" "PureHouse") ∈ lw_tbl := lw_at lw_m5 187 rfl
theorem q1263 : (Jvm.Cond.fieldLinkNest "PureHouse$Judge" (69 : Nat) "PureHouse$Free" "sort" "I" "PureHouse") ∈ lw_tbl := lw_at lw_m5 191 rfl
theorem q1295 : (Jvm.Cond.fieldLinkNest "PureHouse$Judge" (255 : Nat) "PureHouse$Use" "front" "LPureHouse$Term;" "PureHouse") ∈ lw_tbl := lw_at lw_m5 223 rfl
theorem q1297 : (Jvm.Cond.fieldLinkNest "PureHouse$Judge" (258 : Nat) "PureHouse$Use" "parts" "Ljava/util/ArrayList;" "PureHouse") ∈ lw_tbl := lw_at lw_m5 225 rfl
theorem q1369 : (Jvm.Cond.instanceMethod ({ cls := "PureHouse$Judge", name := "find", desc := "(Ljava/lang/String;)LPureHouse$Name;" } : Jvm.MethodName)) ∈ lw_all := lw_g (lw_at lw_m6 57 rfl) rfl
theorem q1370 : (Jvm.Cond.selects "PureHouse$Judge" ({ cls := "PureHouse$Judge", name := "find", desc := "(Ljava/lang/String;)LPureHouse$Name;" } : Jvm.MethodName) ({ cls := "PureHouse$Judge", name := "find", desc := "(Ljava/lang/String;)LPureHouse$Name;" } : Jvm.MethodName)) ∈ lw_all := lw_g (lw_at lw_m6 58 rfl) rfl
theorem q1371 : (Jvm.Cond.code ({ cls := "PureHouse$Judge", name := "find", desc := "(Ljava/lang/String;)LPureHouse$Name;" } : Jvm.MethodName) prog_8_method_2_code (3 : Nat) (Option.some (Jvm.ClassFile.FieldType.object "PureHouse$Name"))) ∈ lw_all := lw_g (lw_at lw_m6 59 rfl) rfl
theorem q1372 : (Jvm.Cond.methodLink "PureHouse$Judge" (26 : Nat) ({ cls := "java/util/ArrayList", name := "size", desc := "()I" } : Jvm.MethodName)) ∈ lw_all := lw_g (lw_at lw_m6 60 rfl) rfl
theorem q1373 : (Jvm.Cond.methodLink "PureHouse$Judge" (30 : Nat) ({ cls := "java/util/ArrayList", name := "get", desc := "(I)Ljava/lang/Object;" } : Jvm.MethodName)) ∈ lw_all := lw_g (lw_at lw_m6 61 rfl) rfl
theorem q1374 : (Jvm.Cond.classLink "PureHouse$Judge" (34 : Nat) "PureHouse$Name") ∈ lw_all := lw_g (lw_at lw_m6 62 rfl) rfl
theorem q1375 : (Jvm.Cond.methodLink "PureHouse$Judge" (40 : Nat) ({ cls := "java/lang/String", name := "equals", desc := "(Ljava/lang/Object;)Z" } : Jvm.MethodName)) ∈ lw_all := lw_g (lw_at lw_m6 63 rfl) rfl
theorem q1377 : (Jvm.Cond.instanceMethod ({ cls := "PureHouse$Judge", name := "typeSort", desc := "(LPureHouse$Term;LPureHouse$Scope;)I" } : Jvm.MethodName)) ∈ lw_all := lw_g (lw_at lw_m6 65 rfl) rfl
theorem q1378 : (Jvm.Cond.selects "PureHouse$Judge" ({ cls := "PureHouse$Judge", name := "typeSort", desc := "(LPureHouse$Term;LPureHouse$Scope;)I" } : Jvm.MethodName) ({ cls := "PureHouse$Judge", name := "typeSort", desc := "(LPureHouse$Term;LPureHouse$Scope;)I" } : Jvm.MethodName)) ∈ lw_all := lw_g (lw_at lw_m6 66 rfl) rfl
theorem q1379 : (Jvm.Cond.code ({ cls := "PureHouse$Judge", name := "typeSort", desc := "(LPureHouse$Term;LPureHouse$Scope;)I" } : Jvm.MethodName) prog_8_method_10_code (5 : Nat) (Option.some Jvm.ClassFile.FieldType.int)) ∈ lw_all := lw_g (lw_at lw_m6 67 rfl) rfl
theorem q1380 : (Jvm.Cond.methodLink "PureHouse$Judge" (177 : Nat) ({ cls := "PureHouse$Judge", name := "judge", desc := "(LPureHouse$Term;LPureHouse$Scope;)V" } : Jvm.MethodName)) ∈ lw_all := lw_g (lw_at lw_m6 68 rfl) rfl
theorem q1381 : (Jvm.Cond.instanceMethod ({ cls := "PureHouse$Judge", name := "judge", desc := "(LPureHouse$Term;LPureHouse$Scope;)V" } : Jvm.MethodName)) ∈ lw_all := lw_g (lw_at lw_m6 69 rfl) rfl
theorem q1382 : (Jvm.Cond.selects "PureHouse$Judge" ({ cls := "PureHouse$Judge", name := "judge", desc := "(LPureHouse$Term;LPureHouse$Scope;)V" } : Jvm.MethodName) ({ cls := "PureHouse$Judge", name := "judge", desc := "(LPureHouse$Term;LPureHouse$Scope;)V" } : Jvm.MethodName)) ∈ lw_all := lw_g (lw_at lw_m6 70 rfl) rfl
theorem q1383 : (Jvm.Cond.code ({ cls := "PureHouse$Judge", name := "judge", desc := "(LPureHouse$Term;LPureHouse$Scope;)V" } : Jvm.MethodName) prog_8_method_7_code (9 : Nat) (Option.none : Option Jvm.ClassFile.FieldType)) ∈ lw_all := lw_g (lw_at lw_m6 71 rfl) rfl
theorem q1384 : (Jvm.Cond.classLink "PureHouse$Judge" (106 : Nat) "PureHouse$Bound") ∈ lw_all := lw_g (lw_at lw_m6 72 rfl) rfl
theorem q1385 : (Jvm.Cond.methodLink "PureHouse$Judge" (108 : Nat) ({ cls := "PureHouse$Judge", name := "bound", desc := "(LPureHouse$Bound;LPureHouse$Scope;)V" } : Jvm.MethodName)) ∈ lw_all := lw_g (lw_at lw_m6 73 rfl) rfl
theorem q1386 : (Jvm.Cond.privateMethod ({ cls := "PureHouse$Judge", name := "bound", desc := "(LPureHouse$Bound;LPureHouse$Scope;)V" } : Jvm.MethodName)) ∈ lw_tbl := lw_at lw_m6 74 rfl
theorem q1387 : (Jvm.Cond.instanceMethod ({ cls := "PureHouse$Judge", name := "bound", desc := "(LPureHouse$Bound;LPureHouse$Scope;)V" } : Jvm.MethodName)) ∈ lw_all := lw_g (lw_at lw_m6 75 rfl) rfl
theorem q1388 : (Jvm.Cond.code ({ cls := "PureHouse$Judge", name := "bound", desc := "(LPureHouse$Bound;LPureHouse$Scope;)V" } : Jvm.MethodName) prog_8_method_8_code (5 : Nat) (Option.none : Option Jvm.ClassFile.FieldType)) ∈ lw_all := lw_g (lw_at lw_m6 76 rfl) rfl
theorem q1389 : (Jvm.Cond.methodLink "PureHouse$Judge" (78 : Nat) ({ cls := "PureHouse$Judge", name := "is", desc := "(LPureHouse$Term;LPureHouse$Env;I)V" } : Jvm.MethodName)) ∈ lw_all := lw_g (lw_at lw_m6 77 rfl) rfl
theorem q1390 : (Jvm.Cond.privateMethod ({ cls := "PureHouse$Judge", name := "is", desc := "(LPureHouse$Term;LPureHouse$Env;I)V" } : Jvm.MethodName)) ∈ lw_tbl := lw_at lw_m6 78 rfl
theorem q1391 : (Jvm.Cond.instanceMethod ({ cls := "PureHouse$Judge", name := "is", desc := "(LPureHouse$Term;LPureHouse$Env;I)V" } : Jvm.MethodName)) ∈ lw_all := lw_g (lw_at lw_m6 79 rfl) rfl
theorem q1392 : (Jvm.Cond.code ({ cls := "PureHouse$Judge", name := "is", desc := "(LPureHouse$Term;LPureHouse$Env;I)V" } : Jvm.MethodName) prog_8_method_3_code (4 : Nat) (Option.none : Option Jvm.ClassFile.FieldType)) ∈ lw_all := lw_g (lw_at lw_m6 80 rfl) rfl
theorem q1393 : (Jvm.Cond.classLink "PureHouse$Judge" (58 : Nat) "PureHouse$Free") ∈ lw_all := lw_g (lw_at lw_m6 81 rfl) rfl
theorem q1394 : (Jvm.Cond.methodLink "PureHouse$Judge" (112 : Nat) ({ cls := "PureHouse$Judge", name := "free", desc := "(LPureHouse$Free;)V" } : Jvm.MethodName)) ∈ lw_all := lw_g (lw_at lw_m6 82 rfl) rfl
theorem q1395 : (Jvm.Cond.privateMethod ({ cls := "PureHouse$Judge", name := "free", desc := "(LPureHouse$Free;)V" } : Jvm.MethodName)) ∈ lw_tbl := lw_at lw_m6 83 rfl
theorem q1396 : (Jvm.Cond.instanceMethod ({ cls := "PureHouse$Judge", name := "free", desc := "(LPureHouse$Free;)V" } : Jvm.MethodName)) ∈ lw_all := lw_g (lw_at lw_m6 84 rfl) rfl
theorem q1397 : (Jvm.Cond.code ({ cls := "PureHouse$Judge", name := "free", desc := "(LPureHouse$Free;)V" } : Jvm.MethodName) prog_8_method_9_code (3 : Nat) (Option.none : Option Jvm.ClassFile.FieldType)) ∈ lw_all := lw_g (lw_at lw_m6 85 rfl) rfl
theorem q1398 : (Jvm.Cond.methodLink "PureHouse$Judge" (152 : Nat) ({ cls := "PureHouse$Judge", name := "find", desc := "(Ljava/lang/String;)LPureHouse$Name;" } : Jvm.MethodName)) ∈ lw_all := lw_g (lw_at lw_m6 86 rfl) rfl
theorem q1399 : (Jvm.Cond.methodLink "PureHouse$Judge" (162 : Nat) ({ cls := "PureHouse$Tables", name := "find", desc := "(Ljava/lang/String;)I" } : Jvm.MethodName)) ∈ lw_all := lw_g (lw_at lw_m6 87 rfl) rfl
theorem q1400 : (Jvm.Cond.classLink "PureHouse$Judge" (165 : Nat) "PureHouse$Fault") ∈ lw_all := lw_g (lw_at lw_m6 88 rfl) rfl
theorem q1401 : (Jvm.Cond.methodLink "PureHouse$Judge" (170 : Nat) ({ cls := "PureHouse$Fault", name := "<init>", desc := "(II)V" } : Jvm.MethodName)) ∈ lw_all := lw_g (lw_at lw_m6 89 rfl) rfl
theorem q1402 : (Jvm.Cond.methodLink "PureHouse$Judge" (74 : Nat) ({ cls := "PureHouse$Tables", name := "axiom", desc := "(I)I" } : Jvm.MethodName)) ∈ lw_all := lw_g (lw_at lw_m6 90 rfl) rfl
theorem q1406 : (Jvm.Cond.methodLink "PureHouse$Judge" (173 : Nat) ({ cls := "PureHouse$Judge", name := "isSort", desc := "(I)V" } : Jvm.MethodName)) ∈ lw_all := lw_g (lw_at lw_m6 94 rfl) rfl
theorem q1407 : (Jvm.Cond.privateMethod ({ cls := "PureHouse$Judge", name := "isSort", desc := "(I)V" } : Jvm.MethodName)) ∈ lw_tbl := lw_at lw_m6 95 rfl
theorem q1408 : (Jvm.Cond.instanceMethod ({ cls := "PureHouse$Judge", name := "isSort", desc := "(I)V" } : Jvm.MethodName)) ∈ lw_all := lw_g (lw_at lw_m6 96 rfl) rfl
theorem q1409 : (Jvm.Cond.code ({ cls := "PureHouse$Judge", name := "isSort", desc := "(I)V" } : Jvm.MethodName) prog_8_method_5_code (2 : Nat) (Option.none : Option Jvm.ClassFile.FieldType)) ∈ lw_all := lw_g (lw_at lw_m6 97 rfl) rfl
theorem q1410 : (Jvm.Cond.methodLink "PureHouse$Judge" (70 : Nat) ({ cls := "PureHouse$Judge", name := "sortTerm", desc := "(I)LPureHouse$Term;" } : Jvm.MethodName)) ∈ lw_all := lw_g (lw_at lw_m6 98 rfl) rfl
theorem q1411 : (Jvm.Cond.privateMethod ({ cls := "PureHouse$Judge", name := "sortTerm", desc := "(I)LPureHouse$Term;" } : Jvm.MethodName)) ∈ lw_tbl := lw_at lw_m6 99 rfl
theorem q1412 : (Jvm.Cond.instanceMethod ({ cls := "PureHouse$Judge", name := "sortTerm", desc := "(I)LPureHouse$Term;" } : Jvm.MethodName)) ∈ lw_all := lw_g (lw_at lw_m6 100 rfl) rfl
theorem q1413 : (Jvm.Cond.code ({ cls := "PureHouse$Judge", name := "sortTerm", desc := "(I)LPureHouse$Term;" } : Jvm.MethodName) prog_8_method_4_code (3 : Nat) (Option.some (Jvm.ClassFile.FieldType.object "PureHouse$Term"))) ∈ lw_all := lw_g (lw_at lw_m6 101 rfl) rfl
theorem q1414 : (Jvm.Cond.methodLink "PureHouse$Judge" (66 : Nat) ({ cls := "PureHouse$Free", name := "<init>", desc := "(Ljava/lang/String;)V" } : Jvm.MethodName)) ∈ lw_all := lw_g (lw_at lw_m6 102 rfl) rfl
theorem q1415 : (Jvm.Cond.classLink "PureHouse$Judge" (116 : Nat) "PureHouse$Lambda") ∈ lw_all := lw_g (lw_at lw_m6 103 rfl) rfl
theorem q1416 : (Jvm.Cond.methodLink "PureHouse$Judge" (118 : Nat) ({ cls := "PureHouse$Judge", name := "lambda", desc := "(LPureHouse$Lambda;LPureHouse$Scope;)V" } : Jvm.MethodName)) ∈ lw_all := lw_g (lw_at lw_m6 104 rfl) rfl
theorem q1417 : (Jvm.Cond.privateMethod ({ cls := "PureHouse$Judge", name := "lambda", desc := "(LPureHouse$Lambda;LPureHouse$Scope;)V" } : Jvm.MethodName)) ∈ lw_tbl := lw_at lw_m6 105 rfl
theorem q1418 : (Jvm.Cond.instanceMethod ({ cls := "PureHouse$Judge", name := "lambda", desc := "(LPureHouse$Lambda;LPureHouse$Scope;)V" } : Jvm.MethodName)) ∈ lw_all := lw_g (lw_at lw_m6 106 rfl) rfl
theorem q1419 : (Jvm.Cond.code ({ cls := "PureHouse$Judge", name := "lambda", desc := "(LPureHouse$Lambda;LPureHouse$Scope;)V" } : Jvm.MethodName) prog_8_method_14_code (7 : Nat) (Option.none : Option Jvm.ClassFile.FieldType)) ∈ lw_all := lw_g (lw_at lw_m6 107 rfl) rfl
theorem q1420 : (Jvm.Cond.methodLink "PureHouse$Judge" (215 : Nat) ({ cls := "PureHouse$Judge", name := "typeSort", desc := "(LPureHouse$Term;LPureHouse$Scope;)I" } : Jvm.MethodName)) ∈ lw_all := lw_g (lw_at lw_m6 108 rfl) rfl
theorem q1421 : (Jvm.Cond.classLink "PureHouse$Judge" (122 : Nat) "PureHouse$Product") ∈ lw_all := lw_g (lw_at lw_m6 109 rfl) rfl
theorem q1422 : (Jvm.Cond.methodLink "PureHouse$Judge" (225 : Nat) ({ cls := "PureHouse$Judge", name := "normal", desc := "(LPureHouse$Term;LPureHouse$Scope;)LPureHouse$Term;" } : Jvm.MethodName)) ∈ lw_all := lw_g (lw_at lw_m6 110 rfl) rfl
theorem q1423 : (Jvm.Cond.instanceMethod ({ cls := "PureHouse$Judge", name := "normal", desc := "(LPureHouse$Term;LPureHouse$Scope;)LPureHouse$Term;" } : Jvm.MethodName)) ∈ lw_all := lw_g (lw_at lw_m6 111 rfl) rfl
theorem q1424 : (Jvm.Cond.selects "PureHouse$Judge" ({ cls := "PureHouse$Judge", name := "normal", desc := "(LPureHouse$Term;LPureHouse$Scope;)LPureHouse$Term;" } : Jvm.MethodName) ({ cls := "PureHouse$Judge", name := "normal", desc := "(LPureHouse$Term;LPureHouse$Scope;)LPureHouse$Term;" } : Jvm.MethodName)) ∈ lw_all := lw_g (lw_at lw_m6 112 rfl) rfl
theorem q1425 : (Jvm.Cond.code ({ cls := "PureHouse$Judge", name := "normal", desc := "(LPureHouse$Term;LPureHouse$Scope;)LPureHouse$Term;" } : Jvm.MethodName) prog_8_method_11_code (3 : Nat) (Option.some (Jvm.ClassFile.FieldType.object "PureHouse$Term"))) ∈ lw_all := lw_g (lw_at lw_m6 113 rfl) rfl
theorem q1426 : (Jvm.Cond.classLink "PureHouse$Judge" (101 : Nat) "PureHouse$Closure") ∈ lw_all := lw_g (lw_at lw_m6 114 rfl) rfl
theorem q1428 : (Jvm.Cond.methodLink "PureHouse$Judge" (193 : Nat) ({ cls := "PureHouse$Scope", name := "of", desc := "(LPureHouse$Scope;)LPureHouse$Env;" } : Jvm.MethodName)) ∈ lw_all := lw_g (lw_at lw_m6 116 rfl) rfl
theorem q1431 : (Jvm.Cond.methodLink "PureHouse$Judge" (103 : Nat) ({ cls := "PureHouse$Closure", name := "<init>", desc := "(LPureHouse$Term;LPureHouse$Env;)V" } : Jvm.MethodName)) ∈ lw_all := lw_g (lw_at lw_m6 119 rfl) rfl
theorem q1438 : (Jvm.Cond.fieldLinkNest "PureHouse$Judge" (185 : Nat) "PureHouse$Closure" "term" "LPureHouse$Term;" "PureHouse") ∈ lw_tbl := lw_at lw_m6 126 rfl
theorem q1446 : (Jvm.Cond.methodLink "PureHouse$Judge" (196 : Nat) ({ cls := "PureHouse$Env", name := "depth", desc := "(LPureHouse$Env;)I" } : Jvm.MethodName)) ∈ lw_all := lw_g (lw_at lw_m6 134 rfl) rfl
theorem q1449 : (Jvm.Cond.methodLink "PureHouse$Judge" (200 : Nat) ({ cls := "PureHouse$Machine", name := "normal", desc := "(LPureHouse$Closure;I)LPureHouse$Term;" } : Jvm.MethodName)) ∈ lw_all := lw_g (lw_at lw_m6 137 rfl) rfl
theorem q1508 : (Jvm.Cond.fieldLinkNest "PureHouse$Judge" (89 : Nat) "PureHouse$Env" "next" "LPureHouse$Env;" "PureHouse") ∈ lw_tbl := lw_at lw_m6 196 rfl
theorem q1623 : (Jvm.Cond.methodLink "PureHouse$Judge" (241 : Nat) ({ cls := "PureHouse$Product", name := "<init>", desc := "(LPureHouse$Term;)V" } : Jvm.MethodName)) ∈ lw_all := lw_g (lw_at lw_m7 71 rfl) rfl
theorem q1624 : (Jvm.Cond.methodLink "PureHouse$Judge" (228 : Nat) ({ cls := "PureHouse$Judge", name := "with", desc := "(LPureHouse$Term;ILPureHouse$Scope;)LPureHouse$Scope;" } : Jvm.MethodName)) ∈ lw_all := lw_g (lw_at lw_m7 72 rfl) rfl
theorem q1625 : (Jvm.Cond.privateMethod ({ cls := "PureHouse$Judge", name := "with", desc := "(LPureHouse$Term;ILPureHouse$Scope;)LPureHouse$Scope;" } : Jvm.MethodName)) ∈ lw_tbl := lw_at lw_m7 73 rfl
theorem q1626 : (Jvm.Cond.instanceMethod ({ cls := "PureHouse$Judge", name := "with", desc := "(LPureHouse$Term;ILPureHouse$Scope;)LPureHouse$Scope;" } : Jvm.MethodName)) ∈ lw_all := lw_g (lw_at lw_m7 74 rfl) rfl
theorem q1627 : (Jvm.Cond.code ({ cls := "PureHouse$Judge", name := "with", desc := "(LPureHouse$Term;ILPureHouse$Scope;)LPureHouse$Scope;" } : Jvm.MethodName) prog_8_method_12_code (4 : Nat) (Option.some (Jvm.ClassFile.FieldType.object "PureHouse$Scope"))) ∈ lw_all := lw_g (lw_at lw_m7 75 rfl) rfl
theorem q1628 : (Jvm.Cond.classLink "PureHouse$Judge" (144 : Nat) "PureHouse$Scope") ∈ lw_all := lw_g (lw_at lw_m7 76 rfl) rfl
theorem q1630 : (Jvm.Cond.classLink "PureHouse$Judge" (206 : Nat) "PureHouse$Local") ∈ lw_all := lw_g (lw_at lw_m7 78 rfl) rfl
theorem q1631 : (Jvm.Cond.methodLink "PureHouse$Judge" (208 : Nat) ({ cls := "PureHouse$Local", name := "<init>", desc := "(II)V" } : Jvm.MethodName)) ∈ lw_all := lw_g (lw_at lw_m7 79 rfl) rfl
theorem q1632 : (Jvm.Cond.methodLink "PureHouse$Judge" (209 : Nat) ({ cls := "PureHouse$Scope", name := "<init>", desc := "(LPureHouse$Closure;LPureHouse$Term;LPureHouse$Env;ILPureHouse$Scope;)V" } : Jvm.MethodName)) ∈ lw_all := lw_g (lw_at lw_m7 80 rfl) rfl
theorem q1640 : (Jvm.Cond.fieldLinkNest "PureHouse$Judge" (246 : Nat) "PureHouse$Scope" "env" "LPureHouse$Env;" "PureHouse") ∈ lw_tbl := lw_at lw_m7 88 rfl
theorem q1642 : (Jvm.Cond.fieldLinkNest "PureHouse$Judge" (148 : Nat) "PureHouse$Scope" "type" "LPureHouse$Term;" "PureHouse") ∈ lw_tbl := lw_at lw_m7 90 rfl
theorem q1644 : (Jvm.Cond.fieldLinkNest "PureHouse$Judge" (149 : Nat) "PureHouse$Scope" "around" "LPureHouse$Env;" "PureHouse") ∈ lw_tbl := lw_at lw_m7 92 rfl
theorem q1646 : (Jvm.Cond.fieldLinkNest "PureHouse$Judge" (150 : Nat) "PureHouse$Scope" "sort" "I" "PureHouse") ∈ lw_tbl := lw_at lw_m7 94 rfl
theorem q1648 : (Jvm.Cond.fieldLinkNest "PureHouse$Judge" (143 : Nat) "PureHouse$Scope" "next" "LPureHouse$Scope;" "PureHouse") ∈ lw_tbl := lw_at lw_m7 96 rfl
theorem q1660 : (Jvm.Cond.methodLink "PureHouse$Judge" (235 : Nat) ({ cls := "PureHouse$Tables", name := "rule", desc := "(II)I" } : Jvm.MethodName)) ∈ lw_all := lw_g (lw_at lw_m7 108 rfl) rfl
theorem q1661 : (Jvm.Cond.methodLink "PureHouse$Judge" (249 : Nat) ({ cls := "PureHouse$Judge", name := "lifted", desc := "(I)LPureHouse$Term;" } : Jvm.MethodName)) ∈ lw_all := lw_g (lw_at lw_m7 109 rfl) rfl
theorem q1662 : (Jvm.Cond.privateMethod ({ cls := "PureHouse$Judge", name := "lifted", desc := "(I)LPureHouse$Term;" } : Jvm.MethodName)) ∈ lw_tbl := lw_at lw_m7 110 rfl
theorem q1663 : (Jvm.Cond.instanceMethod ({ cls := "PureHouse$Judge", name := "lifted", desc := "(I)LPureHouse$Term;" } : Jvm.MethodName)) ∈ lw_all := lw_g (lw_at lw_m7 111 rfl) rfl
theorem q1664 : (Jvm.Cond.code ({ cls := "PureHouse$Judge", name := "lifted", desc := "(I)LPureHouse$Term;" } : Jvm.MethodName) prog_8_method_15_code (3 : Nat) (Option.some (Jvm.ClassFile.FieldType.object "PureHouse$Term"))) ∈ lw_all := lw_g (lw_at lw_m7 112 rfl) rfl
theorem q1665 : (Jvm.Cond.classLink "PureHouse$Judge" (82 : Nat) "PureHouse$Lifted") ∈ lw_all := lw_g (lw_at lw_m7 113 rfl) rfl
theorem q1667 : (Jvm.Cond.methodLink "PureHouse$Judge" (252 : Nat) ({ cls := "PureHouse$Lifted", name := "<init>", desc := "(LPureHouse$Term;I)V" } : Jvm.MethodName)) ∈ lw_all := lw_g (lw_at lw_m7 115 rfl) rfl
theorem q1672 : (Jvm.Cond.fieldLinkNest "PureHouse$Judge" (94 : Nat) "PureHouse$Lifted" "what" "LPureHouse$Term;" "PureHouse") ∈ lw_tbl := lw_at lw_m7 120 rfl
theorem q1674 : (Jvm.Cond.fieldLinkNest "PureHouse$Judge" (86 : Nat) "PureHouse$Lifted" "more" "I" "PureHouse") ∈ lw_tbl := lw_at lw_m7 122 rfl
theorem q1682 : (Jvm.Cond.methodLink "PureHouse$Judge" (124 : Nat) ({ cls := "PureHouse$Judge", name := "product", desc := "(LPureHouse$Product;LPureHouse$Scope;)V" } : Jvm.MethodName)) ∈ lw_all := lw_g (lw_at lw_m7 130 rfl) rfl
theorem q1683 : (Jvm.Cond.privateMethod ({ cls := "PureHouse$Judge", name := "product", desc := "(LPureHouse$Product;LPureHouse$Scope;)V" } : Jvm.MethodName)) ∈ lw_tbl := lw_at lw_m7 131 rfl
theorem q1684 : (Jvm.Cond.instanceMethod ({ cls := "PureHouse$Judge", name := "product", desc := "(LPureHouse$Product;LPureHouse$Scope;)V" } : Jvm.MethodName)) ∈ lw_all := lw_g (lw_at lw_m7 132 rfl) rfl
theorem q1685 : (Jvm.Cond.code ({ cls := "PureHouse$Judge", name := "product", desc := "(LPureHouse$Product;LPureHouse$Scope;)V" } : Jvm.MethodName) prog_8_method_13_code (4 : Nat) (Option.none : Option Jvm.ClassFile.FieldType)) ∈ lw_all := lw_g (lw_at lw_m7 133 rfl) rfl
theorem q1686 : (Jvm.Cond.classLink "PureHouse$Judge" (128 : Nat) "PureHouse$Use") ∈ lw_all := lw_g (lw_at lw_m7 134 rfl) rfl
theorem q1687 : (Jvm.Cond.methodLink "PureHouse$Judge" (130 : Nat) ({ cls := "PureHouse$Judge", name := "use", desc := "(LPureHouse$Use;LPureHouse$Scope;)V" } : Jvm.MethodName)) ∈ lw_all := lw_g (lw_at lw_m7 135 rfl) rfl
theorem q1688 : (Jvm.Cond.privateMethod ({ cls := "PureHouse$Judge", name := "use", desc := "(LPureHouse$Use;LPureHouse$Scope;)V" } : Jvm.MethodName)) ∈ lw_tbl := lw_at lw_m7 136 rfl
theorem q1689 : (Jvm.Cond.instanceMethod ({ cls := "PureHouse$Judge", name := "use", desc := "(LPureHouse$Use;LPureHouse$Scope;)V" } : Jvm.MethodName)) ∈ lw_all := lw_g (lw_at lw_m7 137 rfl) rfl
theorem q1690 : (Jvm.Cond.code ({ cls := "PureHouse$Judge", name := "use", desc := "(LPureHouse$Use;LPureHouse$Scope;)V" } : Jvm.MethodName) prog_8_method_16_code (8 : Nat) (Option.none : Option Jvm.ClassFile.FieldType)) ∈ lw_all := lw_g (lw_at lw_m7 138 rfl) rfl
theorem q1691 : (Jvm.Cond.methodLink "PureHouse$Judge" (181 : Nat) ({ cls := "PureHouse$Judge", name := "found", desc := "()LPureHouse$Closure;" } : Jvm.MethodName)) ∈ lw_all := lw_g (lw_at lw_m7 139 rfl) rfl
theorem q1692 : (Jvm.Cond.instanceMethod ({ cls := "PureHouse$Judge", name := "found", desc := "()LPureHouse$Closure;" } : Jvm.MethodName)) ∈ lw_all := lw_g (lw_at lw_m7 140 rfl) rfl
theorem q1693 : (Jvm.Cond.selects "PureHouse$Judge" ({ cls := "PureHouse$Judge", name := "found", desc := "()LPureHouse$Closure;" } : Jvm.MethodName) ({ cls := "PureHouse$Judge", name := "found", desc := "()LPureHouse$Closure;" } : Jvm.MethodName)) ∈ lw_all := lw_g (lw_at lw_m7 141 rfl) rfl
theorem q1694 : (Jvm.Cond.code ({ cls := "PureHouse$Judge", name := "found", desc := "()LPureHouse$Closure;" } : Jvm.MethodName) prog_8_method_6_code (5 : Nat) (Option.some (Jvm.ClassFile.FieldType.object "PureHouse$Closure"))) ∈ lw_all := lw_g (lw_at lw_m7 142 rfl) rfl
theorem q1695 : (Jvm.Cond.classLink "PureHouse$Judge" (84 : Nat) "PureHouse$Sunk") ∈ lw_all := lw_g (lw_at lw_m7 143 rfl) rfl
theorem q1696 : (Jvm.Cond.classLink "PureHouse$Judge" (90 : Nat) "PureHouse$Env") ∈ lw_all := lw_g (lw_at lw_m7 144 rfl) rfl
theorem q1697 : (Jvm.Cond.methodLink "PureHouse$Judge" (97 : Nat) ({ cls := "PureHouse$Env", name := "<init>", desc := "(LPureHouse$Closure;LPureHouse$Env;)V" } : Jvm.MethodName)) ∈ lw_all := lw_g (lw_at lw_m7 145 rfl) rfl
theorem q1698 : (Jvm.Cond.classLink "PureHouse$Judge" (189 : Nat) "PureHouse$Term") ∈ lw_all := lw_g (lw_at lw_m7 146 rfl) rfl
theorem q1699 : (Jvm.Cond.methodLinkNest "PureHouse$Judge" (262 : Nat) ({ cls := "PureHouse$Machine", name := "domain", desc := "(LPureHouse$Closure;)LPureHouse$Closure;" } : Jvm.MethodName) "PureHouse") ∈ lw_tbl := lw_at lw_m7 147 rfl
theorem q1700 : (Jvm.Cond.methodLink "PureHouse$Judge" (265 : Nat) ({ cls := "PureHouse$Machine", name := "same", desc := "(LPureHouse$Closure;LPureHouse$Closure;)Z" } : Jvm.MethodName)) ∈ lw_all := lw_g (lw_at lw_m7 148 rfl) rfl
theorem q1720 : (Jvm.Cond.methodLinkNest "PureHouse$Judge" (269 : Nat) ({ cls := "PureHouse$Machine", name := "body", desc := "(LPureHouse$Closure;LPureHouse$Closure;)LPureHouse$Closure;" } : Jvm.MethodName) "PureHouse") ∈ lw_tbl := lw_at lw_m7 168 rfl
theorem q1721 : (Jvm.Cond.classLink "PureHouse$Judge" (134 : Nat) "PureHouse$Let") ∈ lw_all := lw_g (lw_at lw_m7 169 rfl) rfl
theorem q1722 : (Jvm.Cond.methodLink "PureHouse$Judge" (136 : Nat) ({ cls := "PureHouse$Judge", name := "let", desc := "(LPureHouse$Let;LPureHouse$Scope;)V" } : Jvm.MethodName)) ∈ lw_all := lw_g (lw_at lw_m7 170 rfl) rfl
theorem q1723 : (Jvm.Cond.privateMethod ({ cls := "PureHouse$Judge", name := "let", desc := "(LPureHouse$Let;LPureHouse$Scope;)V" } : Jvm.MethodName)) ∈ lw_tbl := lw_at lw_m7 171 rfl
theorem q1724 : (Jvm.Cond.instanceMethod ({ cls := "PureHouse$Judge", name := "let", desc := "(LPureHouse$Let;LPureHouse$Scope;)V" } : Jvm.MethodName)) ∈ lw_all := lw_g (lw_at lw_m7 172 rfl) rfl
theorem q1725 : (Jvm.Cond.code ({ cls := "PureHouse$Judge", name := "let", desc := "(LPureHouse$Let;LPureHouse$Scope;)V" } : Jvm.MethodName) prog_8_method_17_code (5 : Nat) (Option.none : Option Jvm.ClassFile.FieldType)) ∈ lw_all := lw_g (lw_at lw_m7 173 rfl) rfl
theorem q1727 : (Jvm.Cond.methodLink "PureHouse$Judge" (276 : Nat) ({ cls := "PureHouse$Sunk", name := "<init>", desc := "(LPureHouse$Term;)V" } : Jvm.MethodName)) ∈ lw_all := lw_g (lw_at lw_m7 175 rfl) rfl
theorem q1732 : (Jvm.Cond.fieldLinkNest "PureHouse$Judge" (100 : Nat) "PureHouse$Sunk" "what" "LPureHouse$Term;" "PureHouse") ∈ lw_tbl := lw_at lw_m7 180 rfl
theorem q1746 : (Jvm.Cond.fieldLinkNest "PureHouse$Judge" (36 : Nat) "PureHouse$Name" "name" "Ljava/lang/String;" "PureHouse") ∈ lw_tbl := lw_at lw_m7 194 rfl
theorem q1750 : (Jvm.Cond.fieldLinkNest "PureHouse$Judge" (160 : Nat) "PureHouse$Name" "type" "LPureHouse$Term;" "PureHouse") ∈ lw_tbl := lw_at lw_m7 198 rfl
theorem q1753 : (Jvm.Cond.fieldLinkNest "PureHouse$Judge" (161 : Nat) "PureHouse$Name" "sort" "I" "PureHouse") ∈ lw_tbl := lw_at lw_m7 201 rfl
theorem q2576 : (Jvm.Cond.castable "PureHouse$Judge" "java/lang/Object") ∈ lw_tbl := lw_at lw_m11 64 rfl
theorem in_X4 : ∀ w ∈ wsX40, w ∈ lw_all := lw_in wsX40 [297, 299, 301, 303, 305, 307] (by decide +kernel) (by decide +kernel)

/-! PureHouse$Reader -/
set_option maxRecDepth 100000
def RX6 : String := "PureHouse$Reader"
def TX6 : u_T := fun k => match k with
  | 0 => ("PureHouse$Reader", "text", "[B", true)
  | 1 => ("PureHouse$Reader", "size", "I", true)
  | 2 => ("PureHouse$Reader", "next", "I", false)
  | 3 => ("PureHouse$Reader", "place", "I", false)
  | 4 => ("PureHouse$Reader", "sign", "I", false)
  | 5 => ("PureHouse$Reader", "nests", "I", false)
  | 6 => ("PureHouse$Reader", "word", "Ljava/lang/String;", false)
  | 7 => ("PureHouse$Reader", "sort", "LPureHouse$Sort;", false)
  | 8 => ("PureHouse$Reader", "binders", "Ljava/util/ArrayList;", true)
  | _ => ("PureHouse$Reader", "statements", "Ljava/util/ArrayList;", true)
def tyX6 : Nat → FieldType := fun k => match k with
  | 0 => .array .byte
  | 1 => .int
  | 2 => .int
  | 3 => .int
  | 4 => .int
  | 5 => .int
  | 6 => .object "java/lang/String"
  | 7 => .object "PureHouse$Sort"
  | 8 => .object "java/util/ArrayList"
  | _ => .object "java/util/ArrayList"
abbrev wsX60 : List Cond := u_ws RX6 TX6 10
theorem nmX6 : ∀ a, a < 10 → ∀ b, b < 10 → a ≠ b → (TX6 a).2.1 ≠ (TX6 b).2.1 := by decide +kernel
theorem tyX6_ok : ∀ k, k < 10 → parseFieldDescriptor (TX6 k).2.2.1 = some (tyX6 k) := by decide +kernel
abbrev cX6_init : ByteArray := prog_17_method_1_code
def yX6_init : MethodName := ⟨RX6, "<init>", "([BI)V"⟩
theorem dX6_init_0 : decode cX6_init 0 = .ok (.aload_n 0, 1) := by decide +kernel
theorem dX6_init_1 : decode cX6_init 1 = .ok (.invokespecial 3, 3) := by decide +kernel
theorem dX6_init_4 : decode cX6_init 4 = .ok (.aload_n 0, 1) := by decide +kernel
theorem dX6_init_5 : decode cX6_init 5 = .ok (.new 9, 3) := by decide +kernel
theorem dX6_init_8 : decode cX6_init 8 = .ok (.dup, 1) := by decide +kernel
theorem dX6_init_9 : decode cX6_init 9 = .ok (.invokespecial 11, 3) := by decide +kernel
theorem dX6_init_12 : decode cX6_init 12 = .ok (.putfield 12, 3) := by decide +kernel
theorem dX6_init_15 : decode cX6_init 15 = .ok (.aload_n 0, 1) := by decide +kernel
theorem dX6_init_16 : decode cX6_init 16 = .ok (.new 9, 3) := by decide +kernel
theorem dX6_init_19 : decode cX6_init 19 = .ok (.dup, 1) := by decide +kernel
theorem dX6_init_20 : decode cX6_init 20 = .ok (.invokespecial 11, 3) := by decide +kernel
theorem dX6_init_23 : decode cX6_init 23 = .ok (.putfield 18, 3) := by decide +kernel
theorem dX6_init_26 : decode cX6_init 26 = .ok (.aload_n 0, 1) := by decide +kernel
theorem dX6_init_27 : decode cX6_init 27 = .ok (.aload_n 1, 1) := by decide +kernel
theorem dX6_init_28 : decode cX6_init 28 = .ok (.putfield 21, 3) := by decide +kernel
theorem dX6_init_31 : decode cX6_init 31 = .ok (.aload_n 0, 1) := by decide +kernel
theorem dX6_init_32 : decode cX6_init 32 = .ok (.iload_n 2, 1) := by decide +kernel
theorem dX6_init_33 : decode cX6_init 33 = .ok (.putfield 25, 3) := by decide +kernel
theorem dX6_init_36 : decode cX6_init 36 = .ok (.return_, 1) := by decide +kernel
abbrev cX6_read : ByteArray := prog_17_method_15_code
def yX6_read : MethodName := ⟨RX6, "read", "()Ljava/util/ArrayList;"⟩
theorem dX6_read_0 : decode cX6_read 0 = .ok (.aload_n 0, 1) := by decide +kernel
theorem dX6_read_1 : decode cX6_read 1 = .ok (.invokevirtual 150, 3) := by decide +kernel
theorem dX6_read_4 : decode cX6_read 4 = .ok (.aload_n 0, 1) := by decide +kernel
theorem dX6_read_5 : decode cX6_read 5 = .ok (.getfield 53, 3) := by decide +kernel
theorem dX6_read_8 : decode cX6_read 8 = .ok (.getstatic 56, 3) := by decide +kernel
theorem dX6_read_11 : decode cX6_read 11 = .ok (.if_acmp .eq 25, 3) := by decide +kernel
theorem dX6_read_14 : decode cX6_read 14 = .ok (.aload_n 0, 1) := by decide +kernel
theorem dX6_read_15 : decode cX6_read 15 = .ok (.getfield 18, 3) := by decide +kernel
theorem dX6_read_18 : decode cX6_read 18 = .ok (.aload_n 0, 1) := by decide +kernel
theorem dX6_read_19 : decode cX6_read 19 = .ok (.invokevirtual 153, 3) := by decide +kernel
theorem dX6_read_22 : decode cX6_read 22 = .ok (.invokevirtual 157, 3) := by decide +kernel
theorem dX6_read_25 : decode cX6_read 25 = .ok (.pop, 1) := by decide +kernel
theorem dX6_read_26 : decode cX6_read 26 = .ok (.aload_n 0, 1) := by decide +kernel
theorem dX6_read_27 : decode cX6_read 27 = .ok (.bipush 59, 2) := by decide +kernel
theorem dX6_read_29 : decode cX6_read 29 = .ok (.invokevirtual 160, 3) := by decide +kernel
theorem dX6_read_32 : decode cX6_read 32 = .ok (.pop, 1) := by decide +kernel
theorem dX6_read_33 : decode cX6_read 33 = .ok (.goto (-29), 3) := by decide +kernel
theorem dX6_read_36 : decode cX6_read 36 = .ok (.aload_n 0, 1) := by decide +kernel
theorem dX6_read_37 : decode cX6_read 37 = .ok (.getfield 18, 3) := by decide +kernel
theorem dX6_read_40 : decode cX6_read 40 = .ok (.areturn, 1) := by decide +kernel
abbrev cX6_go : ByteArray := prog_17_method_6_code
def yX6_go : MethodName := ⟨RX6, "go", "()V"⟩
theorem dX6_go_0 : decode cX6_go 0 = .ok (.aload_n 0, 1) := by decide +kernel
theorem dX6_go_1 : decode cX6_go 1 = .ok (.invokevirtual 40, 3) := by decide +kernel
theorem dX6_go_4 : decode cX6_go 4 = .ok (.istore_n 1, 1) := by decide +kernel
theorem dX6_go_5 : decode cX6_go 5 = .ok (.aload_n 0, 1) := by decide +kernel
theorem dX6_go_6 : decode cX6_go 6 = .ok (.aload_n 0, 1) := by decide +kernel
theorem dX6_go_7 : decode cX6_go 7 = .ok (.getfield 33, 3) := by decide +kernel
theorem dX6_go_10 : decode cX6_go 10 = .ok (.putfield 44, 3) := by decide +kernel
theorem dX6_go_13 : decode cX6_go 13 = .ok (.aload_n 0, 1) := by decide +kernel
theorem dX6_go_14 : decode cX6_go 14 = .ok (.aload_n 0, 1) := by decide +kernel
theorem dX6_go_15 : decode cX6_go 15 = .ok (.getfield 33, 3) := by decide +kernel
theorem dX6_go_18 : decode cX6_go 18 = .ok (.invokevirtual 36, 3) := by decide +kernel
theorem dX6_go_21 : decode cX6_go 21 = .ok (.istore_n 2, 1) := by decide +kernel
theorem dX6_go_22 : decode cX6_go 22 = .ok (.iload_n 1, 1) := by decide +kernel
theorem dX6_go_23 : decode cX6_go 23 = .ok (.ifCond .eq 13, 3) := by decide +kernel
theorem dX6_go_26 : decode cX6_go 26 = .ok (.aload_n 0, 1) := by decide +kernel
theorem dX6_go_27 : decode cX6_go 27 = .ok (.getstatic 47, 3) := by decide +kernel
theorem dX6_go_30 : decode cX6_go 30 = .ok (.putfield 53, 3) := by decide +kernel
theorem dX6_go_33 : decode cX6_go 33 = .ok (.goto 43, 3) := by decide +kernel
theorem dX6_go_36 : decode cX6_go 36 = .ok (.aload_n 0, 1) := by decide +kernel
theorem dX6_go_37 : decode cX6_go 37 = .ok (.getfield 33, 3) := by decide +kernel
theorem dX6_go_40 : decode cX6_go 40 = .ok (.aload_n 0, 1) := by decide +kernel
theorem dX6_go_41 : decode cX6_go 41 = .ok (.getfield 25, 3) := by decide +kernel
theorem dX6_go_44 : decode cX6_go 44 = .ok (.if_icmp .lt 13, 3) := by decide +kernel
theorem dX6_go_47 : decode cX6_go 47 = .ok (.aload_n 0, 1) := by decide +kernel
theorem dX6_go_48 : decode cX6_go 48 = .ok (.getstatic 56, 3) := by decide +kernel
theorem dX6_go_51 : decode cX6_go 51 = .ok (.putfield 53, 3) := by decide +kernel
theorem dX6_go_54 : decode cX6_go 54 = .ok (.goto 22, 3) := by decide +kernel
theorem dX6_go_57 : decode cX6_go 57 = .ok (.iload_n 2, 1) := by decide +kernel
theorem dX6_go_58 : decode cX6_go 58 = .ok (.invokestatic 29, 3) := by decide +kernel
theorem dX6_go_61 : decode cX6_go 61 = .ok (.ifCond .eq 10, 3) := by decide +kernel
theorem dX6_go_64 : decode cX6_go 64 = .ok (.aload_n 0, 1) := by decide +kernel
theorem dX6_go_65 : decode cX6_go 65 = .ok (.invokevirtual 59, 3) := by decide +kernel
theorem dX6_go_68 : decode cX6_go 68 = .ok (.goto 8, 3) := by decide +kernel
theorem dX6_go_71 : decode cX6_go 71 = .ok (.aload_n 0, 1) := by decide +kernel
theorem dX6_go_72 : decode cX6_go 72 = .ok (.iload_n 2, 1) := by decide +kernel
theorem dX6_go_73 : decode cX6_go 73 = .ok (.invokevirtual 62, 3) := by decide +kernel
theorem dX6_go_76 : decode cX6_go 76 = .ok (.return_, 1) := by decide +kernel
abbrev cX6_skips : ByteArray := prog_17_method_5_code
def yX6_skips : MethodName := ⟨RX6, "skips", "()Z"⟩
theorem dX6_skips_0 : decode cX6_skips 0 = .ok (.aload_n 0, 1) := by decide +kernel
theorem dX6_skips_1 : decode cX6_skips 1 = .ok (.getfield 33, 3) := by decide +kernel
theorem dX6_skips_4 : decode cX6_skips 4 = .ok (.aload_n 0, 1) := by decide +kernel
theorem dX6_skips_5 : decode cX6_skips 5 = .ok (.getfield 25, 3) := by decide +kernel
theorem dX6_skips_8 : decode cX6_skips 8 = .ok (.if_icmp .ge 105, 3) := by decide +kernel
theorem dX6_skips_11 : decode cX6_skips 11 = .ok (.aload_n 0, 1) := by decide +kernel
theorem dX6_skips_12 : decode cX6_skips 12 = .ok (.aload_n 0, 1) := by decide +kernel
theorem dX6_skips_13 : decode cX6_skips 13 = .ok (.getfield 33, 3) := by decide +kernel
theorem dX6_skips_16 : decode cX6_skips 16 = .ok (.invokevirtual 36, 3) := by decide +kernel
theorem dX6_skips_19 : decode cX6_skips 19 = .ok (.istore_n 1, 1) := by decide +kernel
theorem dX6_skips_20 : decode cX6_skips 20 = .ok (.iload_n 1, 1) := by decide +kernel
theorem dX6_skips_21 : decode cX6_skips 21 = .ok (.bipush 10, 2) := by decide +kernel
theorem dX6_skips_23 : decode cX6_skips 23 = .ok (.if_icmp .eq 17, 3) := by decide +kernel
theorem dX6_skips_26 : decode cX6_skips 26 = .ok (.iload_n 1, 1) := by decide +kernel
theorem dX6_skips_27 : decode cX6_skips 27 = .ok (.bipush 32, 2) := by decide +kernel
theorem dX6_skips_29 : decode cX6_skips 29 = .ok (.if_icmp .eq 11, 3) := by decide +kernel
theorem dX6_skips_32 : decode cX6_skips 32 = .ok (.iload_n 1, 1) := by decide +kernel
theorem dX6_skips_33 : decode cX6_skips 33 = .ok (.bipush 123, 2) := by decide +kernel
theorem dX6_skips_35 : decode cX6_skips 35 = .ok (.if_icmp .eq 5, 3) := by decide +kernel
theorem dX6_skips_38 : decode cX6_skips 38 = .ok (.iconst 0, 1) := by decide +kernel
theorem dX6_skips_39 : decode cX6_skips 39 = .ok (.ireturn, 1) := by decide +kernel
theorem dX6_skips_40 : decode cX6_skips 40 = .ok (.aload_n 0, 1) := by decide +kernel
theorem dX6_skips_41 : decode cX6_skips 41 = .ok (.getfield 33, 3) := by decide +kernel
theorem dX6_skips_44 : decode cX6_skips 44 = .ok (.iconst 1, 1) := by decide +kernel
theorem dX6_skips_45 : decode cX6_skips 45 = .ok (.iadd, 1) := by decide +kernel
theorem dX6_skips_46 : decode cX6_skips 46 = .ok (.istore_n 2, 1) := by decide +kernel
theorem dX6_skips_47 : decode cX6_skips 47 = .ok (.iload_n 1, 1) := by decide +kernel
theorem dX6_skips_48 : decode cX6_skips 48 = .ok (.bipush 123, 2) := by decide +kernel
theorem dX6_skips_50 : decode cX6_skips 50 = .ok (.if_icmp .ne 27, 3) := by decide +kernel
theorem dX6_skips_53 : decode cX6_skips 53 = .ok (.iload_n 2, 1) := by decide +kernel
theorem dX6_skips_54 : decode cX6_skips 54 = .ok (.aload_n 0, 1) := by decide +kernel
theorem dX6_skips_55 : decode cX6_skips 55 = .ok (.getfield 25, 3) := by decide +kernel
theorem dX6_skips_58 : decode cX6_skips 58 = .ok (.if_icmp .ge 19, 3) := by decide +kernel
theorem dX6_skips_61 : decode cX6_skips 61 = .ok (.aload_n 0, 1) := by decide +kernel
theorem dX6_skips_62 : decode cX6_skips 62 = .ok (.iload_n 2, 1) := by decide +kernel
theorem dX6_skips_63 : decode cX6_skips 63 = .ok (.invokevirtual 36, 3) := by decide +kernel
theorem dX6_skips_66 : decode cX6_skips 66 = .ok (.bipush 125, 2) := by decide +kernel
theorem dX6_skips_68 : decode cX6_skips 68 = .ok (.if_icmp .eq 9, 3) := by decide +kernel
theorem dX6_skips_71 : decode cX6_skips 71 = .ok (.iinc 2 1, 3) := by decide +kernel
theorem dX6_skips_74 : decode cX6_skips 74 = .ok (.goto (-27), 3) := by decide +kernel
theorem dX6_skips_77 : decode cX6_skips 77 = .ok (.iload_n 1, 1) := by decide +kernel
theorem dX6_skips_78 : decode cX6_skips 78 = .ok (.bipush 123, 2) := by decide +kernel
theorem dX6_skips_80 : decode cX6_skips 80 = .ok (.if_icmp .ne 13, 3) := by decide +kernel
theorem dX6_skips_83 : decode cX6_skips 83 = .ok (.iload_n 2, 1) := by decide +kernel
theorem dX6_skips_84 : decode cX6_skips 84 = .ok (.aload_n 0, 1) := by decide +kernel
theorem dX6_skips_85 : decode cX6_skips 85 = .ok (.getfield 25, 3) := by decide +kernel
theorem dX6_skips_88 : decode cX6_skips 88 = .ok (.if_icmp .ne 5, 3) := by decide +kernel
theorem dX6_skips_91 : decode cX6_skips 91 = .ok (.iconst 1, 1) := by decide +kernel
theorem dX6_skips_92 : decode cX6_skips 92 = .ok (.ireturn, 1) := by decide +kernel
theorem dX6_skips_93 : decode cX6_skips 93 = .ok (.aload_n 0, 1) := by decide +kernel
theorem dX6_skips_94 : decode cX6_skips 94 = .ok (.iload_n 1, 1) := by decide +kernel
theorem dX6_skips_95 : decode cX6_skips 95 = .ok (.bipush 123, 2) := by decide +kernel
theorem dX6_skips_97 : decode cX6_skips 97 = .ok (.if_icmp .ne 9, 3) := by decide +kernel
theorem dX6_skips_100 : decode cX6_skips 100 = .ok (.iload_n 2, 1) := by decide +kernel
theorem dX6_skips_101 : decode cX6_skips 101 = .ok (.iconst 1, 1) := by decide +kernel
theorem dX6_skips_102 : decode cX6_skips 102 = .ok (.iadd, 1) := by decide +kernel
theorem dX6_skips_103 : decode cX6_skips 103 = .ok (.goto 4, 3) := by decide +kernel
theorem dX6_skips_106 : decode cX6_skips 106 = .ok (.iload_n 2, 1) := by decide +kernel
theorem dX6_skips_107 : decode cX6_skips 107 = .ok (.putfield 33, 3) := by decide +kernel
theorem dX6_skips_110 : decode cX6_skips 110 = .ok (.goto (-110), 3) := by decide +kernel
theorem dX6_skips_113 : decode cX6_skips 113 = .ok (.iconst 0, 1) := by decide +kernel
theorem dX6_skips_114 : decode cX6_skips 114 = .ok (.ireturn, 1) := by decide +kernel
abbrev cX6_byteAt : ByteArray := prog_17_method_2_code
def yX6_byteAt : MethodName := ⟨RX6, "byteAt", "(I)I"⟩
theorem dX6_byteAt_0 : decode cX6_byteAt 0 = .ok (.iload_n 1, 1) := by decide +kernel
theorem dX6_byteAt_1 : decode cX6_byteAt 1 = .ok (.aload_n 0, 1) := by decide +kernel
theorem dX6_byteAt_2 : decode cX6_byteAt 2 = .ok (.getfield 25, 3) := by decide +kernel
theorem dX6_byteAt_5 : decode cX6_byteAt 5 = .ok (.if_icmp .ge 16, 3) := by decide +kernel
theorem dX6_byteAt_8 : decode cX6_byteAt 8 = .ok (.aload_n 0, 1) := by decide +kernel
theorem dX6_byteAt_9 : decode cX6_byteAt 9 = .ok (.getfield 21, 3) := by decide +kernel
theorem dX6_byteAt_12 : decode cX6_byteAt 12 = .ok (.iload_n 1, 1) := by decide +kernel
theorem dX6_byteAt_13 : decode cX6_byteAt 13 = .ok (.baload, 1) := by decide +kernel
theorem dX6_byteAt_14 : decode cX6_byteAt 14 = .ok (.sipush 255, 3) := by decide +kernel
theorem dX6_byteAt_17 : decode cX6_byteAt 17 = .ok (.iand, 1) := by decide +kernel
theorem dX6_byteAt_18 : decode cX6_byteAt 18 = .ok (.goto 4, 3) := by decide +kernel
theorem dX6_byteAt_21 : decode cX6_byteAt 21 = .ok (.iconst 0, 1) := by decide +kernel
theorem dX6_byteAt_22 : decode cX6_byteAt 22 = .ok (.ireturn, 1) := by decide +kernel
abbrev cX6_isLetter : ByteArray := prog_17_method_3_code
def yX6_isLetter : MethodName := ⟨RX6, "isLetter", "(I)Z"⟩
theorem dX6_isLetter_0 : decode cX6_isLetter 0 = .ok (.iload_n 0, 1) := by decide +kernel
theorem dX6_isLetter_1 : decode cX6_isLetter 1 = .ok (.bipush 97, 2) := by decide +kernel
theorem dX6_isLetter_3 : decode cX6_isLetter 3 = .ok (.if_icmp .lt 9, 3) := by decide +kernel
theorem dX6_isLetter_6 : decode cX6_isLetter 6 = .ok (.iload_n 0, 1) := by decide +kernel
theorem dX6_isLetter_7 : decode cX6_isLetter 7 = .ok (.bipush 122, 2) := by decide +kernel
theorem dX6_isLetter_9 : decode cX6_isLetter 9 = .ok (.if_icmp .le 15, 3) := by decide +kernel
theorem dX6_isLetter_12 : decode cX6_isLetter 12 = .ok (.iload_n 0, 1) := by decide +kernel
theorem dX6_isLetter_13 : decode cX6_isLetter 13 = .ok (.bipush 65, 2) := by decide +kernel
theorem dX6_isLetter_15 : decode cX6_isLetter 15 = .ok (.if_icmp .lt 13, 3) := by decide +kernel
theorem dX6_isLetter_18 : decode cX6_isLetter 18 = .ok (.iload_n 0, 1) := by decide +kernel
theorem dX6_isLetter_19 : decode cX6_isLetter 19 = .ok (.bipush 90, 2) := by decide +kernel
theorem dX6_isLetter_21 : decode cX6_isLetter 21 = .ok (.if_icmp .gt 7, 3) := by decide +kernel
theorem dX6_isLetter_24 : decode cX6_isLetter 24 = .ok (.iconst 1, 1) := by decide +kernel
theorem dX6_isLetter_25 : decode cX6_isLetter 25 = .ok (.goto 4, 3) := by decide +kernel
theorem dX6_isLetter_28 : decode cX6_isLetter 28 = .ok (.iconst 0, 1) := by decide +kernel
theorem dX6_isLetter_29 : decode cX6_isLetter 29 = .ok (.ireturn, 1) := by decide +kernel
abbrev cX6_name : ByteArray := prog_17_method_7_code
def yX6_name : MethodName := ⟨RX6, "name", "()V"⟩
theorem dX6_name_0 : decode cX6_name 0 = .ok (.new 66, 3) := by decide +kernel
theorem dX6_name_3 : decode cX6_name 3 = .ok (.dup, 1) := by decide +kernel
theorem dX6_name_4 : decode cX6_name 4 = .ok (.bipush 12, 2) := by decide +kernel
theorem dX6_name_6 : decode cX6_name 6 = .ok (.invokespecial 68, 3) := by decide +kernel
theorem dX6_name_9 : decode cX6_name 9 = .ok (.astore_n 1, 1) := by decide +kernel
theorem dX6_name_10 : decode cX6_name 10 = .ok (.aload_n 0, 1) := by decide +kernel
theorem dX6_name_11 : decode cX6_name 11 = .ok (.aload_n 0, 1) := by decide +kernel
theorem dX6_name_12 : decode cX6_name 12 = .ok (.getfield 33, 3) := by decide +kernel
theorem dX6_name_15 : decode cX6_name 15 = .ok (.invokevirtual 36, 3) := by decide +kernel
theorem dX6_name_18 : decode cX6_name 18 = .ok (.invokestatic 70, 3) := by decide +kernel
theorem dX6_name_21 : decode cX6_name 21 = .ok (.ifCond .eq 39, 3) := by decide +kernel
theorem dX6_name_24 : decode cX6_name 24 = .ok (.aload_n 1, 1) := by decide +kernel
theorem dX6_name_25 : decode cX6_name 25 = .ok (.invokevirtual 73, 3) := by decide +kernel
theorem dX6_name_28 : decode cX6_name 28 = .ok (.bipush 12, 2) := by decide +kernel
theorem dX6_name_30 : decode cX6_name 30 = .ok (.if_icmp .ge 17, 3) := by decide +kernel
theorem dX6_name_33 : decode cX6_name 33 = .ok (.aload_n 1, 1) := by decide +kernel
theorem dX6_name_34 : decode cX6_name 34 = .ok (.aload_n 0, 1) := by decide +kernel
theorem dX6_name_35 : decode cX6_name 35 = .ok (.aload_n 0, 1) := by decide +kernel
theorem dX6_name_36 : decode cX6_name 36 = .ok (.getfield 33, 3) := by decide +kernel
theorem dX6_name_39 : decode cX6_name 39 = .ok (.invokevirtual 36, 3) := by decide +kernel
theorem dX6_name_42 : decode cX6_name 42 = .ok (.i2c, 1) := by decide +kernel
theorem dX6_name_43 : decode cX6_name 43 = .ok (.invokevirtual 77, 3) := by decide +kernel
theorem dX6_name_46 : decode cX6_name 46 = .ok (.pop, 1) := by decide +kernel
theorem dX6_name_47 : decode cX6_name 47 = .ok (.aload_n 0, 1) := by decide +kernel
theorem dX6_name_48 : decode cX6_name 48 = .ok (.dup, 1) := by decide +kernel
theorem dX6_name_49 : decode cX6_name 49 = .ok (.getfield 33, 3) := by decide +kernel
theorem dX6_name_52 : decode cX6_name 52 = .ok (.iconst 1, 1) := by decide +kernel
theorem dX6_name_53 : decode cX6_name 53 = .ok (.iadd, 1) := by decide +kernel
theorem dX6_name_54 : decode cX6_name 54 = .ok (.putfield 33, 3) := by decide +kernel
theorem dX6_name_57 : decode cX6_name 57 = .ok (.goto (-47), 3) := by decide +kernel
theorem dX6_name_60 : decode cX6_name 60 = .ok (.aload_n 0, 1) := by decide +kernel
theorem dX6_name_61 : decode cX6_name 61 = .ok (.aload_n 0, 1) := by decide +kernel
theorem dX6_name_62 : decode cX6_name 62 = .ok (.getfield 33, 3) := by decide +kernel
theorem dX6_name_65 : decode cX6_name 65 = .ok (.aload_n 0, 1) := by decide +kernel
theorem dX6_name_66 : decode cX6_name 66 = .ok (.getfield 44, 3) := by decide +kernel
theorem dX6_name_69 : decode cX6_name 69 = .ok (.isub, 1) := by decide +kernel
theorem dX6_name_70 : decode cX6_name 70 = .ok (.bipush 12, 2) := by decide +kernel
theorem dX6_name_72 : decode cX6_name 72 = .ok (.if_icmp .le 9, 3) := by decide +kernel
theorem dX6_name_75 : decode cX6_name 75 = .ok (.getstatic 81, 3) := by decide +kernel
theorem dX6_name_78 : decode cX6_name 78 = .ok (.goto 6, 3) := by decide +kernel
theorem dX6_name_81 : decode cX6_name 81 = .ok (.getstatic 84, 3) := by decide +kernel
theorem dX6_name_84 : decode cX6_name 84 = .ok (.putfield 53, 3) := by decide +kernel
theorem dX6_name_87 : decode cX6_name 87 = .ok (.aload_n 0, 1) := by decide +kernel
theorem dX6_name_88 : decode cX6_name 88 = .ok (.aload_n 1, 1) := by decide +kernel
theorem dX6_name_89 : decode cX6_name 89 = .ok (.invokevirtual 87, 3) := by decide +kernel
theorem dX6_name_92 : decode cX6_name 92 = .ok (.putfield 91, 3) := by decide +kernel
theorem dX6_name_95 : decode cX6_name 95 = .ok (.aload_n 0, 1) := by decide +kernel
theorem dX6_name_96 : decode cX6_name 96 = .ok (.getfield 53, 3) := by decide +kernel
theorem dX6_name_99 : decode cX6_name 99 = .ok (.getstatic 84, 3) := by decide +kernel
theorem dX6_name_102 : decode cX6_name 102 = .ok (.if_acmp .ne 20, 3) := by decide +kernel
theorem dX6_name_105 : decode cX6_name 105 = .ok (.aload_n 0, 1) := by decide +kernel
theorem dX6_name_106 : decode cX6_name 106 = .ok (.getfield 91, 3) := by decide +kernel
theorem dX6_name_109 : decode cX6_name 109 = .ok (.invokestatic 95, 3) := by decide +kernel
theorem dX6_name_112 : decode cX6_name 112 = .ok (.ifCond .eq 10, 3) := by decide +kernel
theorem dX6_name_115 : decode cX6_name 115 = .ok (.aload_n 0, 1) := by decide +kernel
theorem dX6_name_116 : decode cX6_name 116 = .ok (.getstatic 99, 3) := by decide +kernel
theorem dX6_name_119 : decode cX6_name 119 = .ok (.putfield 53, 3) := by decide +kernel
theorem dX6_name_122 : decode cX6_name 122 = .ok (.return_, 1) := by decide +kernel
abbrev cX6_isMore : ByteArray := prog_17_method_4_code
def yX6_isMore : MethodName := ⟨RX6, "isMore", "(I)Z"⟩
theorem dX6_isMore_0 : decode cX6_isMore 0 = .ok (.iload_n 0, 1) := by decide +kernel
theorem dX6_isMore_1 : decode cX6_isMore 1 = .ok (.invokestatic 29, 3) := by decide +kernel
theorem dX6_isMore_4 : decode cX6_isMore 4 = .ok (.ifCond .ne 21, 3) := by decide +kernel
theorem dX6_isMore_7 : decode cX6_isMore 7 = .ok (.iload_n 0, 1) := by decide +kernel
theorem dX6_isMore_8 : decode cX6_isMore 8 = .ok (.bipush 48, 2) := by decide +kernel
theorem dX6_isMore_10 : decode cX6_isMore 10 = .ok (.if_icmp .lt 9, 3) := by decide +kernel
theorem dX6_isMore_13 : decode cX6_isMore 13 = .ok (.iload_n 0, 1) := by decide +kernel
theorem dX6_isMore_14 : decode cX6_isMore 14 = .ok (.bipush 57, 2) := by decide +kernel
theorem dX6_isMore_16 : decode cX6_isMore 16 = .ok (.if_icmp .le 9, 3) := by decide +kernel
theorem dX6_isMore_19 : decode cX6_isMore 19 = .ok (.iload_n 0, 1) := by decide +kernel
theorem dX6_isMore_20 : decode cX6_isMore 20 = .ok (.bipush 39, 2) := by decide +kernel
theorem dX6_isMore_22 : decode cX6_isMore 22 = .ok (.if_icmp .ne 7, 3) := by decide +kernel
theorem dX6_isMore_25 : decode cX6_isMore 25 = .ok (.iconst 1, 1) := by decide +kernel
theorem dX6_isMore_26 : decode cX6_isMore 26 = .ok (.goto 4, 3) := by decide +kernel
theorem dX6_isMore_29 : decode cX6_isMore 29 = .ok (.iconst 0, 1) := by decide +kernel
theorem dX6_isMore_30 : decode cX6_isMore 30 = .ok (.ireturn, 1) := by decide +kernel
abbrev cX6_isKept : ByteArray := prog_17_method_8_code
def yX6_isKept : MethodName := ⟨RX6, "isKept", "(Ljava/lang/String;)Z"⟩
theorem dX6_isKept_0 : decode cX6_isKept 0 = .ok (.aload_n 0, 1) := by decide +kernel
theorem dX6_isKept_1 : decode cX6_isKept 1 = .ok (.astore_n 1, 1) := by decide +kernel
theorem dX6_isKept_2 : decode cX6_isKept 2 = .ok (.iconst (-1), 1) := by decide +kernel
theorem dX6_isKept_3 : decode cX6_isKept 3 = .ok (.istore_n 2, 1) := by decide +kernel
theorem dX6_isKept_4 : decode cX6_isKept 4 = .ok (.aload_n 1, 1) := by decide +kernel
theorem dX6_isKept_5 : decode cX6_isKept 5 = .ok (.invokevirtual 102, 3) := by decide +kernel
theorem dX6_isKept_8 : decode cX6_isKept 8 = .ok (.lookupswitch 210 #[(3365, 198), (107035, 183), (3198432, 168), (3387324, 140), (3512060, 112), (3522662, 154), (3536286, 84), (93260912, 98), (94627080, 126)], 84) := by decide +kernel
theorem dX6_isKept_92 : decode cX6_isKept 92 = .ok (.aload_n 1, 1) := by decide +kernel
theorem dX6_isKept_93 : decode cX6_isKept 93 = .ok (.ldc 107, 2) := by decide +kernel
theorem dX6_isKept_95 : decode cX6_isKept 95 = .ok (.invokevirtual 108, 3) := by decide +kernel
theorem dX6_isKept_98 : decode cX6_isKept 98 = .ok (.ifCond .eq 120, 3) := by decide +kernel
theorem dX6_isKept_101 : decode cX6_isKept 101 = .ok (.iconst 0, 1) := by decide +kernel
theorem dX6_isKept_102 : decode cX6_isKept 102 = .ok (.istore_n 2, 1) := by decide +kernel
theorem dX6_isKept_103 : decode cX6_isKept 103 = .ok (.goto 115, 3) := by decide +kernel
theorem dX6_isKept_106 : decode cX6_isKept 106 = .ok (.aload_n 1, 1) := by decide +kernel
theorem dX6_isKept_107 : decode cX6_isKept 107 = .ok (.ldc 112, 2) := by decide +kernel
theorem dX6_isKept_109 : decode cX6_isKept 109 = .ok (.invokevirtual 108, 3) := by decide +kernel
theorem dX6_isKept_112 : decode cX6_isKept 112 = .ok (.ifCond .eq 106, 3) := by decide +kernel
theorem dX6_isKept_115 : decode cX6_isKept 115 = .ok (.iconst 1, 1) := by decide +kernel
theorem dX6_isKept_116 : decode cX6_isKept 116 = .ok (.istore_n 2, 1) := by decide +kernel
theorem dX6_isKept_117 : decode cX6_isKept 117 = .ok (.goto 101, 3) := by decide +kernel
theorem dX6_isKept_120 : decode cX6_isKept 120 = .ok (.aload_n 1, 1) := by decide +kernel
theorem dX6_isKept_121 : decode cX6_isKept 121 = .ok (.ldc 114, 2) := by decide +kernel
theorem dX6_isKept_123 : decode cX6_isKept 123 = .ok (.invokevirtual 108, 3) := by decide +kernel
theorem dX6_isKept_126 : decode cX6_isKept 126 = .ok (.ifCond .eq 92, 3) := by decide +kernel
theorem dX6_isKept_129 : decode cX6_isKept 129 = .ok (.iconst 2, 1) := by decide +kernel
theorem dX6_isKept_130 : decode cX6_isKept 130 = .ok (.istore_n 2, 1) := by decide +kernel
theorem dX6_isKept_131 : decode cX6_isKept 131 = .ok (.goto 87, 3) := by decide +kernel
theorem dX6_isKept_134 : decode cX6_isKept 134 = .ok (.aload_n 1, 1) := by decide +kernel
theorem dX6_isKept_135 : decode cX6_isKept 135 = .ok (.ldc 116, 2) := by decide +kernel
theorem dX6_isKept_137 : decode cX6_isKept 137 = .ok (.invokevirtual 108, 3) := by decide +kernel
theorem dX6_isKept_140 : decode cX6_isKept 140 = .ok (.ifCond .eq 78, 3) := by decide +kernel
theorem dX6_isKept_143 : decode cX6_isKept 143 = .ok (.iconst 3, 1) := by decide +kernel
theorem dX6_isKept_144 : decode cX6_isKept 144 = .ok (.istore_n 2, 1) := by decide +kernel
theorem dX6_isKept_145 : decode cX6_isKept 145 = .ok (.goto 73, 3) := by decide +kernel
theorem dX6_isKept_148 : decode cX6_isKept 148 = .ok (.aload_n 1, 1) := by decide +kernel
theorem dX6_isKept_149 : decode cX6_isKept 149 = .ok (.ldc 118, 2) := by decide +kernel
theorem dX6_isKept_151 : decode cX6_isKept 151 = .ok (.invokevirtual 108, 3) := by decide +kernel
theorem dX6_isKept_154 : decode cX6_isKept 154 = .ok (.ifCond .eq 64, 3) := by decide +kernel
theorem dX6_isKept_157 : decode cX6_isKept 157 = .ok (.iconst 4, 1) := by decide +kernel
theorem dX6_isKept_158 : decode cX6_isKept 158 = .ok (.istore_n 2, 1) := by decide +kernel
theorem dX6_isKept_159 : decode cX6_isKept 159 = .ok (.goto 59, 3) := by decide +kernel
theorem dX6_isKept_162 : decode cX6_isKept 162 = .ok (.aload_n 1, 1) := by decide +kernel
theorem dX6_isKept_163 : decode cX6_isKept 163 = .ok (.ldc 120, 2) := by decide +kernel
theorem dX6_isKept_165 : decode cX6_isKept 165 = .ok (.invokevirtual 108, 3) := by decide +kernel
theorem dX6_isKept_168 : decode cX6_isKept 168 = .ok (.ifCond .eq 50, 3) := by decide +kernel
theorem dX6_isKept_171 : decode cX6_isKept 171 = .ok (.iconst 5, 1) := by decide +kernel
theorem dX6_isKept_172 : decode cX6_isKept 172 = .ok (.istore_n 2, 1) := by decide +kernel
theorem dX6_isKept_173 : decode cX6_isKept 173 = .ok (.goto 45, 3) := by decide +kernel
theorem dX6_isKept_176 : decode cX6_isKept 176 = .ok (.aload_n 1, 1) := by decide +kernel
theorem dX6_isKept_177 : decode cX6_isKept 177 = .ok (.ldc 122, 2) := by decide +kernel
theorem dX6_isKept_179 : decode cX6_isKept 179 = .ok (.invokevirtual 108, 3) := by decide +kernel
theorem dX6_isKept_182 : decode cX6_isKept 182 = .ok (.ifCond .eq 36, 3) := by decide +kernel
theorem dX6_isKept_185 : decode cX6_isKept 185 = .ok (.bipush 6, 2) := by decide +kernel
theorem dX6_isKept_187 : decode cX6_isKept 187 = .ok (.istore_n 2, 1) := by decide +kernel
theorem dX6_isKept_188 : decode cX6_isKept 188 = .ok (.goto 30, 3) := by decide +kernel
theorem dX6_isKept_191 : decode cX6_isKept 191 = .ok (.aload_n 1, 1) := by decide +kernel
theorem dX6_isKept_192 : decode cX6_isKept 192 = .ok (.ldc 124, 2) := by decide +kernel
theorem dX6_isKept_194 : decode cX6_isKept 194 = .ok (.invokevirtual 108, 3) := by decide +kernel
theorem dX6_isKept_197 : decode cX6_isKept 197 = .ok (.ifCond .eq 21, 3) := by decide +kernel
theorem dX6_isKept_200 : decode cX6_isKept 200 = .ok (.bipush 7, 2) := by decide +kernel
theorem dX6_isKept_202 : decode cX6_isKept 202 = .ok (.istore_n 2, 1) := by decide +kernel
theorem dX6_isKept_203 : decode cX6_isKept 203 = .ok (.goto 15, 3) := by decide +kernel
theorem dX6_isKept_206 : decode cX6_isKept 206 = .ok (.aload_n 1, 1) := by decide +kernel
theorem dX6_isKept_207 : decode cX6_isKept 207 = .ok (.ldc 126, 2) := by decide +kernel
theorem dX6_isKept_209 : decode cX6_isKept 209 = .ok (.invokevirtual 108, 3) := by decide +kernel
theorem dX6_isKept_212 : decode cX6_isKept 212 = .ok (.ifCond .eq 6, 3) := by decide +kernel
theorem dX6_isKept_215 : decode cX6_isKept 215 = .ok (.bipush 8, 2) := by decide +kernel
theorem dX6_isKept_217 : decode cX6_isKept 217 = .ok (.istore_n 2, 1) := by decide +kernel
theorem dX6_isKept_218 : decode cX6_isKept 218 = .ok (.iload_n 2, 1) := by decide +kernel
theorem dX6_isKept_219 : decode cX6_isKept 219 = .ok (.tableswitch 51 0 8 #[49, 49, 49, 49, 49, 49, 49, 49, 49], 49) := by decide +kernel
theorem dX6_isKept_268 : decode cX6_isKept 268 = .ok (.iconst 1, 1) := by decide +kernel
theorem dX6_isKept_269 : decode cX6_isKept 269 = .ok (.ireturn, 1) := by decide +kernel
theorem dX6_isKept_270 : decode cX6_isKept 270 = .ok (.iconst 0, 1) := by decide +kernel
theorem dX6_isKept_271 : decode cX6_isKept 271 = .ok (.ireturn, 1) := by decide +kernel
abbrev cX6_sign : ByteArray := prog_17_method_9_code
def yX6_sign : MethodName := ⟨RX6, "sign", "(I)V"⟩
theorem dX6_sign_0 : decode cX6_sign 0 = .ok (.iload_n 1, 1) := by decide +kernel
theorem dX6_sign_1 : decode cX6_sign 1 = .ok (.bipush 45, 2) := by decide +kernel
theorem dX6_sign_3 : decode cX6_sign 3 = .ok (.if_icmp .ne 22, 3) := by decide +kernel
theorem dX6_sign_6 : decode cX6_sign 6 = .ok (.aload_n 0, 1) := by decide +kernel
theorem dX6_sign_7 : decode cX6_sign 7 = .ok (.aload_n 0, 1) := by decide +kernel
theorem dX6_sign_8 : decode cX6_sign 8 = .ok (.getfield 33, 3) := by decide +kernel
theorem dX6_sign_11 : decode cX6_sign 11 = .ok (.iconst 1, 1) := by decide +kernel
theorem dX6_sign_12 : decode cX6_sign 12 = .ok (.iadd, 1) := by decide +kernel
theorem dX6_sign_13 : decode cX6_sign 13 = .ok (.invokevirtual 36, 3) := by decide +kernel
theorem dX6_sign_16 : decode cX6_sign 16 = .ok (.bipush 62, 2) := by decide +kernel
theorem dX6_sign_18 : decode cX6_sign 18 = .ok (.if_icmp .ne 7, 3) := by decide +kernel
theorem dX6_sign_21 : decode cX6_sign 21 = .ok (.iconst 1, 1) := by decide +kernel
theorem dX6_sign_22 : decode cX6_sign 22 = .ok (.goto 4, 3) := by decide +kernel
theorem dX6_sign_25 : decode cX6_sign 25 = .ok (.iconst 0, 1) := by decide +kernel
theorem dX6_sign_26 : decode cX6_sign 26 = .ok (.istore_n 2, 1) := by decide +kernel
theorem dX6_sign_27 : decode cX6_sign 27 = .ok (.iload_n 1, 1) := by decide +kernel
theorem dX6_sign_28 : decode cX6_sign 28 = .ok (.bipush 58, 2) := by decide +kernel
theorem dX6_sign_30 : decode cX6_sign 30 = .ok (.if_icmp .ne 22, 3) := by decide +kernel
theorem dX6_sign_33 : decode cX6_sign 33 = .ok (.aload_n 0, 1) := by decide +kernel
theorem dX6_sign_34 : decode cX6_sign 34 = .ok (.aload_n 0, 1) := by decide +kernel
theorem dX6_sign_35 : decode cX6_sign 35 = .ok (.getfield 33, 3) := by decide +kernel
theorem dX6_sign_38 : decode cX6_sign 38 = .ok (.iconst 1, 1) := by decide +kernel
theorem dX6_sign_39 : decode cX6_sign 39 = .ok (.iadd, 1) := by decide +kernel
theorem dX6_sign_40 : decode cX6_sign 40 = .ok (.invokevirtual 36, 3) := by decide +kernel
theorem dX6_sign_43 : decode cX6_sign 43 = .ok (.bipush 61, 2) := by decide +kernel
theorem dX6_sign_45 : decode cX6_sign 45 = .ok (.if_icmp .ne 7, 3) := by decide +kernel
theorem dX6_sign_48 : decode cX6_sign 48 = .ok (.iconst 1, 1) := by decide +kernel
theorem dX6_sign_49 : decode cX6_sign 49 = .ok (.goto 4, 3) := by decide +kernel
theorem dX6_sign_52 : decode cX6_sign 52 = .ok (.iconst 0, 1) := by decide +kernel
theorem dX6_sign_53 : decode cX6_sign 53 = .ok (.istore_n 3, 1) := by decide +kernel
theorem dX6_sign_54 : decode cX6_sign 54 = .ok (.aload_n 0, 1) := by decide +kernel
theorem dX6_sign_55 : decode cX6_sign 55 = .ok (.iload_n 2, 1) := by decide +kernel
theorem dX6_sign_56 : decode cX6_sign 56 = .ok (.ifCond .ne 12, 3) := by decide +kernel
theorem dX6_sign_59 : decode cX6_sign 59 = .ok (.ldc 128, 2) := by decide +kernel
theorem dX6_sign_61 : decode cX6_sign 61 = .ok (.iload_n 1, 1) := by decide +kernel
theorem dX6_sign_62 : decode cX6_sign 62 = .ok (.invokevirtual 130, 3) := by decide +kernel
theorem dX6_sign_65 : decode cX6_sign 65 = .ok (.ifCond .lt 9, 3) := by decide +kernel
theorem dX6_sign_68 : decode cX6_sign 68 = .ok (.getstatic 133, 3) := by decide +kernel
theorem dX6_sign_71 : decode cX6_sign 71 = .ok (.goto 6, 3) := by decide +kernel
theorem dX6_sign_74 : decode cX6_sign 74 = .ok (.getstatic 47, 3) := by decide +kernel
theorem dX6_sign_77 : decode cX6_sign 77 = .ok (.putfield 53, 3) := by decide +kernel
theorem dX6_sign_80 : decode cX6_sign 80 = .ok (.aload_n 0, 1) := by decide +kernel
theorem dX6_sign_81 : decode cX6_sign 81 = .ok (.iload_n 2, 1) := by decide +kernel
theorem dX6_sign_82 : decode cX6_sign 82 = .ok (.ifCond .eq 9, 3) := by decide +kernel
theorem dX6_sign_85 : decode cX6_sign 85 = .ok (.sipush 256, 3) := by decide +kernel
theorem dX6_sign_88 : decode cX6_sign 88 = .ok (.goto 14, 3) := by decide +kernel
theorem dX6_sign_91 : decode cX6_sign 91 = .ok (.iload_n 3, 1) := by decide +kernel
theorem dX6_sign_92 : decode cX6_sign 92 = .ok (.ifCond .eq 9, 3) := by decide +kernel
theorem dX6_sign_95 : decode cX6_sign 95 = .ok (.sipush 257, 3) := by decide +kernel
theorem dX6_sign_98 : decode cX6_sign 98 = .ok (.goto 4, 3) := by decide +kernel
theorem dX6_sign_101 : decode cX6_sign 101 = .ok (.iload_n 1, 1) := by decide +kernel
theorem dX6_sign_102 : decode cX6_sign 102 = .ok (.putfield 136, 3) := by decide +kernel
theorem dX6_sign_105 : decode cX6_sign 105 = .ok (.aload_n 0, 1) := by decide +kernel
theorem dX6_sign_106 : decode cX6_sign 106 = .ok (.dup, 1) := by decide +kernel
theorem dX6_sign_107 : decode cX6_sign 107 = .ok (.getfield 33, 3) := by decide +kernel
theorem dX6_sign_110 : decode cX6_sign 110 = .ok (.iload_n 2, 1) := by decide +kernel
theorem dX6_sign_111 : decode cX6_sign 111 = .ok (.ifCond .ne 7, 3) := by decide +kernel
theorem dX6_sign_114 : decode cX6_sign 114 = .ok (.iload_n 3, 1) := by decide +kernel
theorem dX6_sign_115 : decode cX6_sign 115 = .ok (.ifCond .eq 7, 3) := by decide +kernel
theorem dX6_sign_118 : decode cX6_sign 118 = .ok (.iconst 2, 1) := by decide +kernel
theorem dX6_sign_119 : decode cX6_sign 119 = .ok (.goto 4, 3) := by decide +kernel
theorem dX6_sign_122 : decode cX6_sign 122 = .ok (.iconst 1, 1) := by decide +kernel
theorem dX6_sign_123 : decode cX6_sign 123 = .ok (.iadd, 1) := by decide +kernel
theorem dX6_sign_124 : decode cX6_sign 124 = .ok (.putfield 33, 3) := by decide +kernel
theorem dX6_sign_127 : decode cX6_sign 127 = .ok (.return_, 1) := by decide +kernel
abbrev cX6_statement : ByteArray := prog_17_method_17_code
def yX6_statement : MethodName := ⟨RX6, "statement", "()LPureHouse$Statement;"⟩
theorem dX6_statement_0 : decode cX6_statement 0 = .ok (.aload_n 0, 1) := by decide +kernel
theorem dX6_statement_1 : decode cX6_statement 1 = .ok (.getfield 53, 3) := by decide +kernel
theorem dX6_statement_4 : decode cX6_statement 4 = .ok (.getstatic 84, 3) := by decide +kernel
theorem dX6_statement_7 : decode cX6_statement 7 = .ok (.if_acmp .ne 8, 3) := by decide +kernel
theorem dX6_statement_10 : decode cX6_statement 10 = .ok (.aload_n 0, 1) := by decide +kernel
theorem dX6_statement_11 : decode cX6_statement 11 = .ok (.invokevirtual 176, 3) := by decide +kernel
theorem dX6_statement_14 : decode cX6_statement 14 = .ok (.areturn, 1) := by decide +kernel
theorem dX6_statement_15 : decode cX6_statement 15 = .ok (.aload_n 0, 1) := by decide +kernel
theorem dX6_statement_16 : decode cX6_statement 16 = .ok (.getfield 53, 3) := by decide +kernel
theorem dX6_statement_19 : decode cX6_statement 19 = .ok (.getstatic 99, 3) := by decide +kernel
theorem dX6_statement_22 : decode cX6_statement 22 = .ok (.if_acmp .eq 8, 3) := by decide +kernel
theorem dX6_statement_25 : decode cX6_statement 25 = .ok (.aload_n 0, 1) := by decide +kernel
theorem dX6_statement_26 : decode cX6_statement 26 = .ok (.invokevirtual 146, 3) := by decide +kernel
theorem dX6_statement_29 : decode cX6_statement 29 = .ok (.athrow, 1) := by decide +kernel
theorem dX6_statement_30 : decode cX6_statement 30 = .ok (.aload_n 0, 1) := by decide +kernel
theorem dX6_statement_31 : decode cX6_statement 31 = .ok (.getfield 44, 3) := by decide +kernel
theorem dX6_statement_34 : decode cX6_statement 34 = .ok (.istore_n 1, 1) := by decide +kernel
theorem dX6_statement_35 : decode cX6_statement 35 = .ok (.aload_n 0, 1) := by decide +kernel
theorem dX6_statement_36 : decode cX6_statement 36 = .ok (.getfield 91, 3) := by decide +kernel
theorem dX6_statement_39 : decode cX6_statement 39 = .ok (.astore_n 3, 1) := by decide +kernel
theorem dX6_statement_40 : decode cX6_statement 40 = .ok (.iconst (-1), 1) := by decide +kernel
theorem dX6_statement_41 : decode cX6_statement 41 = .ok (.istore 4, 2) := by decide +kernel
theorem dX6_statement_43 : decode cX6_statement 43 = .ok (.aload_n 3, 1) := by decide +kernel
theorem dX6_statement_44 : decode cX6_statement 44 = .ok (.invokevirtual 102, 3) := by decide +kernel
theorem dX6_statement_47 : decode cX6_statement 47 = .ok (.lookupswitch 168 #[(3198432, 140), (3387324, 125), (3512060, 95), (3522662, 155), (3536286, 65), (93260912, 80), (94627080, 110)], 65) := by decide +kernel
theorem dX6_statement_112 : decode cX6_statement 112 = .ok (.aload_n 3, 1) := by decide +kernel
theorem dX6_statement_113 : decode cX6_statement 113 = .ok (.ldc 107, 2) := by decide +kernel
theorem dX6_statement_115 : decode cX6_statement 115 = .ok (.invokevirtual 108, 3) := by decide +kernel
theorem dX6_statement_118 : decode cX6_statement 118 = .ok (.ifCond .eq 97, 3) := by decide +kernel
theorem dX6_statement_121 : decode cX6_statement 121 = .ok (.iconst 0, 1) := by decide +kernel
theorem dX6_statement_122 : decode cX6_statement 122 = .ok (.istore 4, 2) := by decide +kernel
theorem dX6_statement_124 : decode cX6_statement 124 = .ok (.goto 91, 3) := by decide +kernel
theorem dX6_statement_127 : decode cX6_statement 127 = .ok (.aload_n 3, 1) := by decide +kernel
theorem dX6_statement_128 : decode cX6_statement 128 = .ok (.ldc 112, 2) := by decide +kernel
theorem dX6_statement_130 : decode cX6_statement 130 = .ok (.invokevirtual 108, 3) := by decide +kernel
theorem dX6_statement_133 : decode cX6_statement 133 = .ok (.ifCond .eq 82, 3) := by decide +kernel
theorem dX6_statement_136 : decode cX6_statement 136 = .ok (.iconst 1, 1) := by decide +kernel
theorem dX6_statement_137 : decode cX6_statement 137 = .ok (.istore 4, 2) := by decide +kernel
theorem dX6_statement_139 : decode cX6_statement 139 = .ok (.goto 76, 3) := by decide +kernel
theorem dX6_statement_142 : decode cX6_statement 142 = .ok (.aload_n 3, 1) := by decide +kernel
theorem dX6_statement_143 : decode cX6_statement 143 = .ok (.ldc 114, 2) := by decide +kernel
theorem dX6_statement_145 : decode cX6_statement 145 = .ok (.invokevirtual 108, 3) := by decide +kernel
theorem dX6_statement_148 : decode cX6_statement 148 = .ok (.ifCond .eq 67, 3) := by decide +kernel
theorem dX6_statement_151 : decode cX6_statement 151 = .ok (.iconst 2, 1) := by decide +kernel
theorem dX6_statement_152 : decode cX6_statement 152 = .ok (.istore 4, 2) := by decide +kernel
theorem dX6_statement_154 : decode cX6_statement 154 = .ok (.goto 61, 3) := by decide +kernel
theorem dX6_statement_157 : decode cX6_statement 157 = .ok (.aload_n 3, 1) := by decide +kernel
theorem dX6_statement_158 : decode cX6_statement 158 = .ok (.ldc 116, 2) := by decide +kernel
theorem dX6_statement_160 : decode cX6_statement 160 = .ok (.invokevirtual 108, 3) := by decide +kernel
theorem dX6_statement_163 : decode cX6_statement 163 = .ok (.ifCond .eq 52, 3) := by decide +kernel
theorem dX6_statement_166 : decode cX6_statement 166 = .ok (.iconst 3, 1) := by decide +kernel
theorem dX6_statement_167 : decode cX6_statement 167 = .ok (.istore 4, 2) := by decide +kernel
theorem dX6_statement_169 : decode cX6_statement 169 = .ok (.goto 46, 3) := by decide +kernel
theorem dX6_statement_172 : decode cX6_statement 172 = .ok (.aload_n 3, 1) := by decide +kernel
theorem dX6_statement_173 : decode cX6_statement 173 = .ok (.ldc 118, 2) := by decide +kernel
theorem dX6_statement_175 : decode cX6_statement 175 = .ok (.invokevirtual 108, 3) := by decide +kernel
theorem dX6_statement_178 : decode cX6_statement 178 = .ok (.ifCond .eq 37, 3) := by decide +kernel
theorem dX6_statement_181 : decode cX6_statement 181 = .ok (.iconst 4, 1) := by decide +kernel
theorem dX6_statement_182 : decode cX6_statement 182 = .ok (.istore 4, 2) := by decide +kernel
theorem dX6_statement_184 : decode cX6_statement 184 = .ok (.goto 31, 3) := by decide +kernel
theorem dX6_statement_187 : decode cX6_statement 187 = .ok (.aload_n 3, 1) := by decide +kernel
theorem dX6_statement_188 : decode cX6_statement 188 = .ok (.ldc 122, 2) := by decide +kernel
theorem dX6_statement_190 : decode cX6_statement 190 = .ok (.invokevirtual 108, 3) := by decide +kernel
theorem dX6_statement_193 : decode cX6_statement 193 = .ok (.ifCond .eq 22, 3) := by decide +kernel
theorem dX6_statement_196 : decode cX6_statement 196 = .ok (.iconst 5, 1) := by decide +kernel
theorem dX6_statement_197 : decode cX6_statement 197 = .ok (.istore 4, 2) := by decide +kernel
theorem dX6_statement_199 : decode cX6_statement 199 = .ok (.goto 16, 3) := by decide +kernel
theorem dX6_statement_202 : decode cX6_statement 202 = .ok (.aload_n 3, 1) := by decide +kernel
theorem dX6_statement_203 : decode cX6_statement 203 = .ok (.ldc 120, 2) := by decide +kernel
theorem dX6_statement_205 : decode cX6_statement 205 = .ok (.invokevirtual 108, 3) := by decide +kernel
theorem dX6_statement_208 : decode cX6_statement 208 = .ok (.ifCond .eq 7, 3) := by decide +kernel
theorem dX6_statement_211 : decode cX6_statement 211 = .ok (.bipush 6, 2) := by decide +kernel
theorem dX6_statement_213 : decode cX6_statement 213 = .ok (.istore 4, 2) := by decide +kernel
theorem dX6_statement_215 : decode cX6_statement 215 = .ok (.iload 4, 2) := by decide +kernel
theorem dX6_statement_217 : decode cX6_statement 217 = .ok (.tableswitch 222 0 6 #[43, 67, 104, 144, 178, 187, 196], 43) := by decide +kernel
theorem dX6_statement_260 : decode cX6_statement 260 = .ok (.new 164, 3) := by decide +kernel
theorem dX6_statement_263 : decode cX6_statement 263 = .ok (.dup, 1) := by decide +kernel
theorem dX6_statement_264 : decode cX6_statement 264 = .ok (.getstatic 179, 3) := by decide +kernel
theorem dX6_statement_267 : decode cX6_statement 267 = .ok (.iload_n 1, 1) := by decide +kernel
theorem dX6_statement_268 : decode cX6_statement 268 = .ok (.invokespecial 185, 3) := by decide +kernel
theorem dX6_statement_271 : decode cX6_statement 271 = .ok (.astore_n 2, 1) := by decide +kernel
theorem dX6_statement_272 : decode cX6_statement 272 = .ok (.aload_n 0, 1) := by decide +kernel
theorem dX6_statement_273 : decode cX6_statement 273 = .ok (.invokevirtual 150, 3) := by decide +kernel
theorem dX6_statement_276 : decode cX6_statement 276 = .ok (.aload_n 0, 1) := by decide +kernel
theorem dX6_statement_277 : decode cX6_statement 277 = .ok (.aload_n 2, 1) := by decide +kernel
theorem dX6_statement_278 : decode cX6_statement 278 = .ok (.iconst 0, 1) := by decide +kernel
theorem dX6_statement_279 : decode cX6_statement 279 = .ok (.invokevirtual 188, 3) := by decide +kernel
theorem dX6_statement_282 : decode cX6_statement 282 = .ok (.aload_n 2, 1) := by decide +kernel
theorem dX6_statement_283 : decode cX6_statement 283 = .ok (.areturn, 1) := by decide +kernel
theorem dX6_statement_284 : decode cX6_statement 284 = .ok (.new 164, 3) := by decide +kernel
theorem dX6_statement_287 : decode cX6_statement 287 = .ok (.dup, 1) := by decide +kernel
theorem dX6_statement_288 : decode cX6_statement 288 = .ok (.getstatic 191, 3) := by decide +kernel
theorem dX6_statement_291 : decode cX6_statement 291 = .ok (.iload_n 1, 1) := by decide +kernel
theorem dX6_statement_292 : decode cX6_statement 292 = .ok (.invokespecial 185, 3) := by decide +kernel
theorem dX6_statement_295 : decode cX6_statement 295 = .ok (.astore_n 2, 1) := by decide +kernel
theorem dX6_statement_296 : decode cX6_statement 296 = .ok (.aload_n 0, 1) := by decide +kernel
theorem dX6_statement_297 : decode cX6_statement 297 = .ok (.invokevirtual 150, 3) := by decide +kernel
theorem dX6_statement_300 : decode cX6_statement 300 = .ok (.aload_n 0, 1) := by decide +kernel
theorem dX6_statement_301 : decode cX6_statement 301 = .ok (.aload_n 2, 1) := by decide +kernel
theorem dX6_statement_302 : decode cX6_statement 302 = .ok (.iconst 0, 1) := by decide +kernel
theorem dX6_statement_303 : decode cX6_statement 303 = .ok (.invokevirtual 188, 3) := by decide +kernel
theorem dX6_statement_306 : decode cX6_statement 306 = .ok (.aload_n 0, 1) := by decide +kernel
theorem dX6_statement_307 : decode cX6_statement 307 = .ok (.bipush 58, 2) := by decide +kernel
theorem dX6_statement_309 : decode cX6_statement 309 = .ok (.invokevirtual 160, 3) := by decide +kernel
theorem dX6_statement_312 : decode cX6_statement 312 = .ok (.pop, 1) := by decide +kernel
theorem dX6_statement_313 : decode cX6_statement 313 = .ok (.aload_n 0, 1) := by decide +kernel
theorem dX6_statement_314 : decode cX6_statement 314 = .ok (.aload_n 2, 1) := by decide +kernel
theorem dX6_statement_315 : decode cX6_statement 315 = .ok (.iconst 1, 1) := by decide +kernel
theorem dX6_statement_316 : decode cX6_statement 316 = .ok (.invokevirtual 188, 3) := by decide +kernel
theorem dX6_statement_319 : decode cX6_statement 319 = .ok (.aload_n 2, 1) := by decide +kernel
theorem dX6_statement_320 : decode cX6_statement 320 = .ok (.areturn, 1) := by decide +kernel
theorem dX6_statement_321 : decode cX6_statement 321 = .ok (.new 164, 3) := by decide +kernel
theorem dX6_statement_324 : decode cX6_statement 324 = .ok (.dup, 1) := by decide +kernel
theorem dX6_statement_325 : decode cX6_statement 325 = .ok (.getstatic 194, 3) := by decide +kernel
theorem dX6_statement_328 : decode cX6_statement 328 = .ok (.iload_n 1, 1) := by decide +kernel
theorem dX6_statement_329 : decode cX6_statement 329 = .ok (.invokespecial 185, 3) := by decide +kernel
theorem dX6_statement_332 : decode cX6_statement 332 = .ok (.astore_n 2, 1) := by decide +kernel
theorem dX6_statement_333 : decode cX6_statement 333 = .ok (.aload_n 0, 1) := by decide +kernel
theorem dX6_statement_334 : decode cX6_statement 334 = .ok (.invokevirtual 150, 3) := by decide +kernel
theorem dX6_statement_337 : decode cX6_statement 337 = .ok (.iconst 0, 1) := by decide +kernel
theorem dX6_statement_338 : decode cX6_statement 338 = .ok (.istore 5, 2) := by decide +kernel
theorem dX6_statement_340 : decode cX6_statement 340 = .ok (.iload 5, 2) := by decide +kernel
theorem dX6_statement_342 : decode cX6_statement 342 = .ok (.iconst 3, 1) := by decide +kernel
theorem dX6_statement_343 : decode cX6_statement 343 = .ok (.if_icmp .ge 16, 3) := by decide +kernel
theorem dX6_statement_346 : decode cX6_statement 346 = .ok (.aload_n 0, 1) := by decide +kernel
theorem dX6_statement_347 : decode cX6_statement 347 = .ok (.aload_n 2, 1) := by decide +kernel
theorem dX6_statement_348 : decode cX6_statement 348 = .ok (.iload 5, 2) := by decide +kernel
theorem dX6_statement_350 : decode cX6_statement 350 = .ok (.invokevirtual 188, 3) := by decide +kernel
theorem dX6_statement_353 : decode cX6_statement 353 = .ok (.iinc 5 1, 3) := by decide +kernel
theorem dX6_statement_356 : decode cX6_statement 356 = .ok (.goto (-16), 3) := by decide +kernel
theorem dX6_statement_359 : decode cX6_statement 359 = .ok (.aload_n 2, 1) := by decide +kernel
theorem dX6_statement_360 : decode cX6_statement 360 = .ok (.areturn, 1) := by decide +kernel
theorem dX6_statement_361 : decode cX6_statement 361 = .ok (.aload_n 0, 1) := by decide +kernel
theorem dX6_statement_362 : decode cX6_statement 362 = .ok (.getstatic 197, 3) := by decide +kernel
theorem dX6_statement_365 : decode cX6_statement 365 = .ok (.iload_n 1, 1) := by decide +kernel
theorem dX6_statement_366 : decode cX6_statement 366 = .ok (.invokevirtual 200, 3) := by decide +kernel
theorem dX6_statement_369 : decode cX6_statement 369 = .ok (.astore_n 2, 1) := by decide +kernel
theorem dX6_statement_370 : decode cX6_statement 370 = .ok (.aload_n 0, 1) := by decide +kernel
theorem dX6_statement_371 : decode cX6_statement 371 = .ok (.bipush 58, 2) := by decide +kernel
theorem dX6_statement_373 : decode cX6_statement 373 = .ok (.invokevirtual 143, 3) := by decide +kernel
theorem dX6_statement_376 : decode cX6_statement 376 = .ok (.ifCond .ne 5, 3) := by decide +kernel
theorem dX6_statement_379 : decode cX6_statement 379 = .ok (.aload_n 2, 1) := by decide +kernel
theorem dX6_statement_380 : decode cX6_statement 380 = .ok (.areturn, 1) := by decide +kernel
theorem dX6_statement_381 : decode cX6_statement 381 = .ok (.aload_n 0, 1) := by decide +kernel
theorem dX6_statement_382 : decode cX6_statement 382 = .ok (.invokevirtual 150, 3) := by decide +kernel
theorem dX6_statement_385 : decode cX6_statement 385 = .ok (.aload_n 2, 1) := by decide +kernel
theorem dX6_statement_386 : decode cX6_statement 386 = .ok (.aload_n 0, 1) := by decide +kernel
theorem dX6_statement_387 : decode cX6_statement 387 = .ok (.invokevirtual 204, 3) := by decide +kernel
theorem dX6_statement_390 : decode cX6_statement 390 = .ok (.putfield 208, 3) := by decide +kernel
theorem dX6_statement_393 : decode cX6_statement 393 = .ok (.aload_n 2, 1) := by decide +kernel
theorem dX6_statement_394 : decode cX6_statement 394 = .ok (.areturn, 1) := by decide +kernel
theorem dX6_statement_395 : decode cX6_statement 395 = .ok (.aload_n 0, 1) := by decide +kernel
theorem dX6_statement_396 : decode cX6_statement 396 = .ok (.getstatic 212, 3) := by decide +kernel
theorem dX6_statement_399 : decode cX6_statement 399 = .ok (.iload_n 1, 1) := by decide +kernel
theorem dX6_statement_400 : decode cX6_statement 400 = .ok (.invokevirtual 200, 3) := by decide +kernel
theorem dX6_statement_403 : decode cX6_statement 403 = .ok (.areturn, 1) := by decide +kernel
theorem dX6_statement_404 : decode cX6_statement 404 = .ok (.aload_n 0, 1) := by decide +kernel
theorem dX6_statement_405 : decode cX6_statement 405 = .ok (.getstatic 215, 3) := by decide +kernel
theorem dX6_statement_408 : decode cX6_statement 408 = .ok (.iload_n 1, 1) := by decide +kernel
theorem dX6_statement_409 : decode cX6_statement 409 = .ok (.invokevirtual 200, 3) := by decide +kernel
theorem dX6_statement_412 : decode cX6_statement 412 = .ok (.areturn, 1) := by decide +kernel
theorem dX6_statement_413 : decode cX6_statement 413 = .ok (.aload_n 0, 1) := by decide +kernel
theorem dX6_statement_414 : decode cX6_statement 414 = .ok (.getstatic 218, 3) := by decide +kernel
theorem dX6_statement_417 : decode cX6_statement 417 = .ok (.iload_n 1, 1) := by decide +kernel
theorem dX6_statement_418 : decode cX6_statement 418 = .ok (.invokevirtual 200, 3) := by decide +kernel
theorem dX6_statement_421 : decode cX6_statement 421 = .ok (.astore_n 2, 1) := by decide +kernel
theorem dX6_statement_422 : decode cX6_statement 422 = .ok (.aload_n 0, 1) := by decide +kernel
theorem dX6_statement_423 : decode cX6_statement 423 = .ok (.bipush 61, 2) := by decide +kernel
theorem dX6_statement_425 : decode cX6_statement 425 = .ok (.invokevirtual 160, 3) := by decide +kernel
theorem dX6_statement_428 : decode cX6_statement 428 = .ok (.pop, 1) := by decide +kernel
theorem dX6_statement_429 : decode cX6_statement 429 = .ok (.aload_n 2, 1) := by decide +kernel
theorem dX6_statement_430 : decode cX6_statement 430 = .ok (.aload_n 0, 1) := by decide +kernel
theorem dX6_statement_431 : decode cX6_statement 431 = .ok (.invokevirtual 204, 3) := by decide +kernel
theorem dX6_statement_434 : decode cX6_statement 434 = .ok (.putfield 208, 3) := by decide +kernel
theorem dX6_statement_437 : decode cX6_statement 437 = .ok (.aload_n 2, 1) := by decide +kernel
theorem dX6_statement_438 : decode cX6_statement 438 = .ok (.areturn, 1) := by decide +kernel
theorem dX6_statement_439 : decode cX6_statement 439 = .ok (.aload_n 0, 1) := by decide +kernel
theorem dX6_statement_440 : decode cX6_statement 440 = .ok (.invokevirtual 146, 3) := by decide +kernel
theorem dX6_statement_443 : decode cX6_statement 443 = .ok (.athrow, 1) := by decide +kernel
abbrev cX6_told : ByteArray := prog_17_method_19_code
def yX6_told : MethodName := ⟨RX6, "told", "()LPureHouse$Statement;"⟩
theorem dX6_told_0 : decode cX6_told 0 = .ok (.new 164, 3) := by decide +kernel
theorem dX6_told_3 : decode cX6_told 3 = .ok (.dup, 1) := by decide +kernel
theorem dX6_told_4 : decode cX6_told 4 = .ok (.getstatic 223, 3) := by decide +kernel
theorem dX6_told_7 : decode cX6_told 7 = .ok (.aload_n 0, 1) := by decide +kernel
theorem dX6_told_8 : decode cX6_told 8 = .ok (.getfield 44, 3) := by decide +kernel
theorem dX6_told_11 : decode cX6_told 11 = .ok (.invokespecial 185, 3) := by decide +kernel
theorem dX6_told_14 : decode cX6_told 14 = .ok (.astore_n 1, 1) := by decide +kernel
theorem dX6_told_15 : decode cX6_told 15 = .ok (.aload_n 0, 1) := by decide +kernel
theorem dX6_told_16 : decode cX6_told 16 = .ok (.aload_n 1, 1) := by decide +kernel
theorem dX6_told_17 : decode cX6_told 17 = .ok (.iconst 0, 1) := by decide +kernel
theorem dX6_told_18 : decode cX6_told 18 = .ok (.invokevirtual 188, 3) := by decide +kernel
theorem dX6_told_21 : decode cX6_told 21 = .ok (.aload_n 0, 1) := by decide +kernel
theorem dX6_told_22 : decode cX6_told 22 = .ok (.bipush 58, 2) := by decide +kernel
theorem dX6_told_24 : decode cX6_told 24 = .ok (.invokevirtual 143, 3) := by decide +kernel
theorem dX6_told_27 : decode cX6_told 27 = .ok (.ifCond .eq 27, 3) := by decide +kernel
theorem dX6_told_30 : decode cX6_told 30 = .ok (.aload_n 0, 1) := by decide +kernel
theorem dX6_told_31 : decode cX6_told 31 = .ok (.invokevirtual 150, 3) := by decide +kernel
theorem dX6_told_34 : decode cX6_told 34 = .ok (.aload_n 1, 1) := by decide +kernel
theorem dX6_told_35 : decode cX6_told 35 = .ok (.aload_n 0, 1) := by decide +kernel
theorem dX6_told_36 : decode cX6_told 36 = .ok (.invokevirtual 204, 3) := by decide +kernel
theorem dX6_told_39 : decode cX6_told 39 = .ok (.putfield 208, 3) := by decide +kernel
theorem dX6_told_42 : decode cX6_told 42 = .ok (.aload_n 0, 1) := by decide +kernel
theorem dX6_told_43 : decode cX6_told 43 = .ok (.sipush 257, 3) := by decide +kernel
theorem dX6_told_46 : decode cX6_told 46 = .ok (.invokevirtual 143, 3) := by decide +kernel
theorem dX6_told_49 : decode cX6_told 49 = .ok (.ifCond .ne 5, 3) := by decide +kernel
theorem dX6_told_52 : decode cX6_told 52 = .ok (.aload_n 1, 1) := by decide +kernel
theorem dX6_told_53 : decode cX6_told 53 = .ok (.areturn, 1) := by decide +kernel
theorem dX6_told_54 : decode cX6_told 54 = .ok (.aload_n 0, 1) := by decide +kernel
theorem dX6_told_55 : decode cX6_told 55 = .ok (.sipush 257, 3) := by decide +kernel
theorem dX6_told_58 : decode cX6_told 58 = .ok (.invokevirtual 160, 3) := by decide +kernel
theorem dX6_told_61 : decode cX6_told 61 = .ok (.pop, 1) := by decide +kernel
theorem dX6_told_62 : decode cX6_told 62 = .ok (.aload_n 1, 1) := by decide +kernel
theorem dX6_told_63 : decode cX6_told 63 = .ok (.aload_n 0, 1) := by decide +kernel
theorem dX6_told_64 : decode cX6_told 64 = .ok (.invokevirtual 204, 3) := by decide +kernel
theorem dX6_told_67 : decode cX6_told 67 = .ok (.putfield 221, 3) := by decide +kernel
theorem dX6_told_70 : decode cX6_told 70 = .ok (.aload_n 1, 1) := by decide +kernel
theorem dX6_told_71 : decode cX6_told 71 = .ok (.areturn, 1) := by decide +kernel
abbrev cX6_name_2 : ByteArray := prog_17_method_16_code
def yX6_name_2 : MethodName := ⟨RX6, "name", "(LPureHouse$Statement;I)V"⟩
theorem dX6_name_2_0 : decode cX6_name_2 0 = .ok (.aload_n 1, 1) := by decide +kernel
theorem dX6_name_2_1 : decode cX6_name_2 1 = .ok (.getfield 163, 3) := by decide +kernel
theorem dX6_name_2_4 : decode cX6_name_2 4 = .ok (.iload_n 2, 1) := by decide +kernel
theorem dX6_name_2_5 : decode cX6_name_2 5 = .ok (.aload_n 0, 1) := by decide +kernel
theorem dX6_name_2_6 : decode cX6_name_2 6 = .ok (.getfield 44, 3) := by decide +kernel
theorem dX6_name_2_9 : decode cX6_name_2 9 = .ok (.iastore, 1) := by decide +kernel
theorem dX6_name_2_10 : decode cX6_name_2 10 = .ok (.aload_n 1, 1) := by decide +kernel
theorem dX6_name_2_11 : decode cX6_name_2 11 = .ok (.getfield 169, 3) := by decide +kernel
theorem dX6_name_2_14 : decode cX6_name_2 14 = .ok (.iload_n 2, 1) := by decide +kernel
theorem dX6_name_2_15 : decode cX6_name_2 15 = .ok (.aload_n 0, 1) := by decide +kernel
theorem dX6_name_2_16 : decode cX6_name_2 16 = .ok (.invokevirtual 173, 3) := by decide +kernel
theorem dX6_name_2_19 : decode cX6_name_2 19 = .ok (.aastore, 1) := by decide +kernel
theorem dX6_name_2_20 : decode cX6_name_2 20 = .ok (.return_, 1) := by decide +kernel
abbrev cX6_needName : ByteArray := prog_17_method_14_code
def yX6_needName : MethodName := ⟨RX6, "needName", "()Ljava/lang/String;"⟩
theorem dX6_needName_0 : decode cX6_needName 0 = .ok (.aload_n 0, 1) := by decide +kernel
theorem dX6_needName_1 : decode cX6_needName 1 = .ok (.getfield 53, 3) := by decide +kernel
theorem dX6_needName_4 : decode cX6_needName 4 = .ok (.getstatic 84, 3) := by decide +kernel
theorem dX6_needName_7 : decode cX6_needName 7 = .ok (.if_acmp .eq 8, 3) := by decide +kernel
theorem dX6_needName_10 : decode cX6_needName 10 = .ok (.aload_n 0, 1) := by decide +kernel
theorem dX6_needName_11 : decode cX6_needName 11 = .ok (.invokevirtual 146, 3) := by decide +kernel
theorem dX6_needName_14 : decode cX6_needName 14 = .ok (.athrow, 1) := by decide +kernel
theorem dX6_needName_15 : decode cX6_needName 15 = .ok (.aload_n 0, 1) := by decide +kernel
theorem dX6_needName_16 : decode cX6_needName 16 = .ok (.getfield 91, 3) := by decide +kernel
theorem dX6_needName_19 : decode cX6_needName 19 = .ok (.astore_n 1, 1) := by decide +kernel
theorem dX6_needName_20 : decode cX6_needName 20 = .ok (.aload_n 0, 1) := by decide +kernel
theorem dX6_needName_21 : decode cX6_needName 21 = .ok (.invokevirtual 150, 3) := by decide +kernel
theorem dX6_needName_24 : decode cX6_needName 24 = .ok (.aload_n 1, 1) := by decide +kernel
theorem dX6_needName_25 : decode cX6_needName 25 = .ok (.areturn, 1) := by decide +kernel
abbrev cX6_wrong : ByteArray := prog_17_method_10_code
def yX6_wrong : MethodName := ⟨RX6, "wrong", "()LPureHouse$Fault;"⟩
theorem dX6_wrong_0 : decode cX6_wrong 0 = .ok (.new 138, 3) := by decide +kernel
theorem dX6_wrong_3 : decode cX6_wrong 3 = .ok (.dup, 1) := by decide +kernel
theorem dX6_wrong_4 : decode cX6_wrong 4 = .ok (.aload_n 0, 1) := by decide +kernel
theorem dX6_wrong_5 : decode cX6_wrong 5 = .ok (.getfield 53, 3) := by decide +kernel
theorem dX6_wrong_8 : decode cX6_wrong 8 = .ok (.getstatic 81, 3) := by decide +kernel
theorem dX6_wrong_11 : decode cX6_wrong 11 = .ok (.if_acmp .ne 7, 3) := by decide +kernel
theorem dX6_wrong_14 : decode cX6_wrong 14 = .ok (.iconst 2, 1) := by decide +kernel
theorem dX6_wrong_15 : decode cX6_wrong 15 = .ok (.goto 4, 3) := by decide +kernel
theorem dX6_wrong_18 : decode cX6_wrong 18 = .ok (.iconst 1, 1) := by decide +kernel
theorem dX6_wrong_19 : decode cX6_wrong 19 = .ok (.aload_n 0, 1) := by decide +kernel
theorem dX6_wrong_20 : decode cX6_wrong 20 = .ok (.getfield 44, 3) := by decide +kernel
theorem dX6_wrong_23 : decode cX6_wrong 23 = .ok (.invokespecial 140, 3) := by decide +kernel
theorem dX6_wrong_26 : decode cX6_wrong 26 = .ok (.areturn, 1) := by decide +kernel
abbrev cX6_isSign : ByteArray := prog_17_method_11_code
def yX6_isSign : MethodName := ⟨RX6, "isSign", "(I)Z"⟩
theorem dX6_isSign_0 : decode cX6_isSign 0 = .ok (.aload_n 0, 1) := by decide +kernel
theorem dX6_isSign_1 : decode cX6_isSign 1 = .ok (.getfield 53, 3) := by decide +kernel
theorem dX6_isSign_4 : decode cX6_isSign 4 = .ok (.getstatic 133, 3) := by decide +kernel
theorem dX6_isSign_7 : decode cX6_isSign 7 = .ok (.if_acmp .ne 15, 3) := by decide +kernel
theorem dX6_isSign_10 : decode cX6_isSign 10 = .ok (.aload_n 0, 1) := by decide +kernel
theorem dX6_isSign_11 : decode cX6_isSign 11 = .ok (.getfield 136, 3) := by decide +kernel
theorem dX6_isSign_14 : decode cX6_isSign 14 = .ok (.iload_n 1, 1) := by decide +kernel
theorem dX6_isSign_15 : decode cX6_isSign 15 = .ok (.if_icmp .ne 7, 3) := by decide +kernel
theorem dX6_isSign_18 : decode cX6_isSign 18 = .ok (.iconst 1, 1) := by decide +kernel
theorem dX6_isSign_19 : decode cX6_isSign 19 = .ok (.goto 4, 3) := by decide +kernel
theorem dX6_isSign_22 : decode cX6_isSign 22 = .ok (.iconst 0, 1) := by decide +kernel
theorem dX6_isSign_23 : decode cX6_isSign 23 = .ok (.ireturn, 1) := by decide +kernel
abbrev cX6_term : ByteArray := prog_17_method_20_code
def yX6_term : MethodName := ⟨RX6, "term", "()LPureHouse$Term;"⟩
theorem dX6_term_0 : decode cX6_term 0 = .ok (.aload_n 0, 1) := by decide +kernel
theorem dX6_term_1 : decode cX6_term 1 = .ok (.getfield 226, 3) := by decide +kernel
theorem dX6_term_4 : decode cX6_term 4 = .ok (.bipush 40, 2) := by decide +kernel
theorem dX6_term_6 : decode cX6_term 6 = .ok (.if_icmp .ne 26, 3) := by decide +kernel
theorem dX6_term_9 : decode cX6_term 9 = .ok (.aload_n 0, 1) := by decide +kernel
theorem dX6_term_10 : decode cX6_term 10 = .ok (.getfield 53, 3) := by decide +kernel
theorem dX6_term_13 : decode cX6_term 13 = .ok (.getstatic 56, 3) := by decide +kernel
theorem dX6_term_16 : decode cX6_term 16 = .ok (.if_acmp .eq 16, 3) := by decide +kernel
theorem dX6_term_19 : decode cX6_term 19 = .ok (.new 138, 3) := by decide +kernel
theorem dX6_term_22 : decode cX6_term 22 = .ok (.dup, 1) := by decide +kernel
theorem dX6_term_23 : decode cX6_term 23 = .ok (.iconst 2, 1) := by decide +kernel
theorem dX6_term_24 : decode cX6_term 24 = .ok (.aload_n 0, 1) := by decide +kernel
theorem dX6_term_25 : decode cX6_term 25 = .ok (.getfield 44, 3) := by decide +kernel
theorem dX6_term_28 : decode cX6_term 28 = .ok (.invokespecial 140, 3) := by decide +kernel
theorem dX6_term_31 : decode cX6_term 31 = .ok (.athrow, 1) := by decide +kernel
theorem dX6_term_32 : decode cX6_term 32 = .ok (.aload_n 0, 1) := by decide +kernel
theorem dX6_term_33 : decode cX6_term 33 = .ok (.dup, 1) := by decide +kernel
theorem dX6_term_34 : decode cX6_term 34 = .ok (.getfield 226, 3) := by decide +kernel
theorem dX6_term_37 : decode cX6_term 37 = .ok (.iconst 1, 1) := by decide +kernel
theorem dX6_term_38 : decode cX6_term 38 = .ok (.iadd, 1) := by decide +kernel
theorem dX6_term_39 : decode cX6_term 39 = .ok (.putfield 226, 3) := by decide +kernel
theorem dX6_term_42 : decode cX6_term 42 = .ok (.aload_n 0, 1) := by decide +kernel
theorem dX6_term_43 : decode cX6_term 43 = .ok (.getfield 44, 3) := by decide +kernel
theorem dX6_term_46 : decode cX6_term 46 = .ok (.istore_n 1, 1) := by decide +kernel
theorem dX6_term_47 : decode cX6_term 47 = .ok (.aload_n 0, 1) := by decide +kernel
theorem dX6_term_48 : decode cX6_term 48 = .ok (.bipush 92, 2) := by decide +kernel
theorem dX6_term_50 : decode cX6_term 50 = .ok (.invokevirtual 143, 3) := by decide +kernel
theorem dX6_term_53 : decode cX6_term 53 = .ok (.ifCond .ne 12, 3) := by decide +kernel
theorem dX6_term_56 : decode cX6_term 56 = .ok (.aload_n 0, 1) := by decide +kernel
theorem dX6_term_57 : decode cX6_term 57 = .ok (.bipush 33, 2) := by decide +kernel
theorem dX6_term_59 : decode cX6_term 59 = .ok (.invokevirtual 143, 3) := by decide +kernel
theorem dX6_term_62 : decode cX6_term 62 = .ok (.ifCond .eq 10, 3) := by decide +kernel
theorem dX6_term_65 : decode cX6_term 65 = .ok (.aload_n 0, 1) := by decide +kernel
theorem dX6_term_66 : decode cX6_term 66 = .ok (.invokevirtual 229, 3) := by decide +kernel
theorem dX6_term_69 : decode cX6_term 69 = .ok (.goto 23, 3) := by decide +kernel
theorem dX6_term_72 : decode cX6_term 72 = .ok (.aload_n 0, 1) := by decide +kernel
theorem dX6_term_73 : decode cX6_term 73 = .ok (.ldc 124, 2) := by decide +kernel
theorem dX6_term_75 : decode cX6_term 75 = .ok (.invokevirtual 232, 3) := by decide +kernel
theorem dX6_term_78 : decode cX6_term 78 = .ok (.ifCond .eq 10, 3) := by decide +kernel
theorem dX6_term_81 : decode cX6_term 81 = .ok (.aload_n 0, 1) := by decide +kernel
theorem dX6_term_82 : decode cX6_term 82 = .ok (.invokevirtual 235, 3) := by decide +kernel
theorem dX6_term_85 : decode cX6_term 85 = .ok (.goto 7, 3) := by decide +kernel
theorem dX6_term_88 : decode cX6_term 88 = .ok (.aload_n 0, 1) := by decide +kernel
theorem dX6_term_89 : decode cX6_term 89 = .ok (.invokevirtual 237, 3) := by decide +kernel
theorem dX6_term_92 : decode cX6_term 92 = .ok (.astore_n 2, 1) := by decide +kernel
theorem dX6_term_93 : decode cX6_term 93 = .ok (.aload_n 2, 1) := by decide +kernel
theorem dX6_term_94 : decode cX6_term 94 = .ok (.getfield 240, 3) := by decide +kernel
theorem dX6_term_97 : decode cX6_term 97 = .ok (.iconst (-1), 1) := by decide +kernel
theorem dX6_term_98 : decode cX6_term 98 = .ok (.if_icmp .ne 8, 3) := by decide +kernel
theorem dX6_term_101 : decode cX6_term 101 = .ok (.aload_n 2, 1) := by decide +kernel
theorem dX6_term_102 : decode cX6_term 102 = .ok (.iload_n 1, 1) := by decide +kernel
theorem dX6_term_103 : decode cX6_term 103 = .ok (.putfield 240, 3) := by decide +kernel
theorem dX6_term_106 : decode cX6_term 106 = .ok (.aload_n 0, 1) := by decide +kernel
theorem dX6_term_107 : decode cX6_term 107 = .ok (.dup, 1) := by decide +kernel
theorem dX6_term_108 : decode cX6_term 108 = .ok (.getfield 226, 3) := by decide +kernel
theorem dX6_term_111 : decode cX6_term 111 = .ok (.iconst 1, 1) := by decide +kernel
theorem dX6_term_112 : decode cX6_term 112 = .ok (.isub, 1) := by decide +kernel
theorem dX6_term_113 : decode cX6_term 113 = .ok (.putfield 226, 3) := by decide +kernel
theorem dX6_term_116 : decode cX6_term 116 = .ok (.aload_n 2, 1) := by decide +kernel
theorem dX6_term_117 : decode cX6_term 117 = .ok (.areturn, 1) := by decide +kernel
abbrev cX6_binder : ByteArray := prog_17_method_22_code
def yX6_binder : MethodName := ⟨RX6, "binder", "()LPureHouse$Term;"⟩
theorem dX6_binder_0 : decode cX6_binder 0 = .ok (.aload_n 0, 1) := by decide +kernel
theorem dX6_binder_1 : decode cX6_binder 1 = .ok (.getfield 136, 3) := by decide +kernel
theorem dX6_binder_4 : decode cX6_binder 4 = .ok (.bipush 92, 2) := by decide +kernel
theorem dX6_binder_6 : decode cX6_binder 6 = .ok (.if_icmp .ne 7, 3) := by decide +kernel
theorem dX6_binder_9 : decode cX6_binder 9 = .ok (.iconst 1, 1) := by decide +kernel
theorem dX6_binder_10 : decode cX6_binder 10 = .ok (.goto 4, 3) := by decide +kernel
theorem dX6_binder_13 : decode cX6_binder 13 = .ok (.iconst 0, 1) := by decide +kernel
theorem dX6_binder_14 : decode cX6_binder 14 = .ok (.istore_n 1, 1) := by decide +kernel
theorem dX6_binder_15 : decode cX6_binder 15 = .ok (.aload_n 0, 1) := by decide +kernel
theorem dX6_binder_16 : decode cX6_binder 16 = .ok (.getfield 44, 3) := by decide +kernel
theorem dX6_binder_19 : decode cX6_binder 19 = .ok (.istore_n 2, 1) := by decide +kernel
theorem dX6_binder_20 : decode cX6_binder 20 = .ok (.aload_n 0, 1) := by decide +kernel
theorem dX6_binder_21 : decode cX6_binder 21 = .ok (.invokevirtual 150, 3) := by decide +kernel
theorem dX6_binder_24 : decode cX6_binder 24 = .ok (.aload_n 0, 1) := by decide +kernel
theorem dX6_binder_25 : decode cX6_binder 25 = .ok (.invokevirtual 173, 3) := by decide +kernel
theorem dX6_binder_28 : decode cX6_binder 28 = .ok (.astore_n 3, 1) := by decide +kernel
theorem dX6_binder_29 : decode cX6_binder 29 = .ok (.aload_n 0, 1) := by decide +kernel
theorem dX6_binder_30 : decode cX6_binder 30 = .ok (.bipush 58, 2) := by decide +kernel
theorem dX6_binder_32 : decode cX6_binder 32 = .ok (.invokevirtual 160, 3) := by decide +kernel
theorem dX6_binder_35 : decode cX6_binder 35 = .ok (.pop, 1) := by decide +kernel
theorem dX6_binder_36 : decode cX6_binder 36 = .ok (.aload_n 0, 1) := by decide +kernel
theorem dX6_binder_37 : decode cX6_binder 37 = .ok (.invokevirtual 204, 3) := by decide +kernel
theorem dX6_binder_40 : decode cX6_binder 40 = .ok (.astore 4, 2) := by decide +kernel
theorem dX6_binder_42 : decode cX6_binder 42 = .ok (.aload_n 0, 1) := by decide +kernel
theorem dX6_binder_43 : decode cX6_binder 43 = .ok (.bipush 46, 2) := by decide +kernel
theorem dX6_binder_45 : decode cX6_binder 45 = .ok (.invokevirtual 160, 3) := by decide +kernel
theorem dX6_binder_48 : decode cX6_binder 48 = .ok (.pop, 1) := by decide +kernel
theorem dX6_binder_49 : decode cX6_binder 49 = .ok (.iload_n 1, 1) := by decide +kernel
theorem dX6_binder_50 : decode cX6_binder 50 = .ok (.ifCond .eq 33, 3) := by decide +kernel
theorem dX6_binder_53 : decode cX6_binder 53 = .ok (.new 251, 3) := by decide +kernel
theorem dX6_binder_56 : decode cX6_binder 56 = .ok (.dup, 1) := by decide +kernel
theorem dX6_binder_57 : decode cX6_binder 57 = .ok (.aload 4, 2) := by decide +kernel
theorem dX6_binder_59 : decode cX6_binder 59 = .ok (.invokespecial 253, 3) := by decide +kernel
theorem dX6_binder_62 : decode cX6_binder 62 = .ok (.astore 5, 2) := by decide +kernel
theorem dX6_binder_64 : decode cX6_binder 64 = .ok (.aload 5, 2) := by decide +kernel
theorem dX6_binder_66 : decode cX6_binder 66 = .ok (.iload_n 2, 1) := by decide +kernel
theorem dX6_binder_67 : decode cX6_binder 67 = .ok (.putfield 256, 3) := by decide +kernel
theorem dX6_binder_70 : decode cX6_binder 70 = .ok (.aload 5, 2) := by decide +kernel
theorem dX6_binder_72 : decode cX6_binder 72 = .ok (.aload_n 0, 1) := by decide +kernel
theorem dX6_binder_73 : decode cX6_binder 73 = .ok (.aload_n 3, 1) := by decide +kernel
theorem dX6_binder_74 : decode cX6_binder 74 = .ok (.invokevirtual 259, 3) := by decide +kernel
theorem dX6_binder_77 : decode cX6_binder 77 = .ok (.putfield 263, 3) := by decide +kernel
theorem dX6_binder_80 : decode cX6_binder 80 = .ok (.aload 5, 2) := by decide +kernel
theorem dX6_binder_82 : decode cX6_binder 82 = .ok (.areturn, 1) := by decide +kernel
theorem dX6_binder_83 : decode cX6_binder 83 = .ok (.new 265, 3) := by decide +kernel
theorem dX6_binder_86 : decode cX6_binder 86 = .ok (.dup, 1) := by decide +kernel
theorem dX6_binder_87 : decode cX6_binder 87 = .ok (.aload 4, 2) := by decide +kernel
theorem dX6_binder_89 : decode cX6_binder 89 = .ok (.invokespecial 267, 3) := by decide +kernel
theorem dX6_binder_92 : decode cX6_binder 92 = .ok (.astore 5, 2) := by decide +kernel
theorem dX6_binder_94 : decode cX6_binder 94 = .ok (.aload 5, 2) := by decide +kernel
theorem dX6_binder_96 : decode cX6_binder 96 = .ok (.iload_n 2, 1) := by decide +kernel
theorem dX6_binder_97 : decode cX6_binder 97 = .ok (.putfield 268, 3) := by decide +kernel
theorem dX6_binder_100 : decode cX6_binder 100 = .ok (.aload 5, 2) := by decide +kernel
theorem dX6_binder_102 : decode cX6_binder 102 = .ok (.aload_n 0, 1) := by decide +kernel
theorem dX6_binder_103 : decode cX6_binder 103 = .ok (.aload_n 3, 1) := by decide +kernel
theorem dX6_binder_104 : decode cX6_binder 104 = .ok (.invokevirtual 259, 3) := by decide +kernel
theorem dX6_binder_107 : decode cX6_binder 107 = .ok (.putfield 269, 3) := by decide +kernel
theorem dX6_binder_110 : decode cX6_binder 110 = .ok (.aload 5, 2) := by decide +kernel
theorem dX6_binder_112 : decode cX6_binder 112 = .ok (.areturn, 1) := by decide +kernel
abbrev cX6_need : ByteArray := prog_17_method_13_code
def yX6_need : MethodName := ⟨RX6, "need", "(I)I"⟩
theorem dX6_need_0 : decode cX6_need 0 = .ok (.aload_n 0, 1) := by decide +kernel
theorem dX6_need_1 : decode cX6_need 1 = .ok (.iload_n 1, 1) := by decide +kernel
theorem dX6_need_2 : decode cX6_need 2 = .ok (.invokevirtual 143, 3) := by decide +kernel
theorem dX6_need_5 : decode cX6_need 5 = .ok (.ifCond .ne 8, 3) := by decide +kernel
theorem dX6_need_8 : decode cX6_need 8 = .ok (.aload_n 0, 1) := by decide +kernel
theorem dX6_need_9 : decode cX6_need 9 = .ok (.invokevirtual 146, 3) := by decide +kernel
theorem dX6_need_12 : decode cX6_need 12 = .ok (.athrow, 1) := by decide +kernel
theorem dX6_need_13 : decode cX6_need 13 = .ok (.aload_n 0, 1) := by decide +kernel
theorem dX6_need_14 : decode cX6_need 14 = .ok (.getfield 44, 3) := by decide +kernel
theorem dX6_need_17 : decode cX6_need 17 = .ok (.istore_n 2, 1) := by decide +kernel
theorem dX6_need_18 : decode cX6_need 18 = .ok (.aload_n 0, 1) := by decide +kernel
theorem dX6_need_19 : decode cX6_need 19 = .ok (.invokevirtual 150, 3) := by decide +kernel
theorem dX6_need_22 : decode cX6_need 22 = .ok (.iload_n 2, 1) := by decide +kernel
theorem dX6_need_23 : decode cX6_need 23 = .ok (.ireturn, 1) := by decide +kernel
abbrev cX6_body : ByteArray := prog_17_method_21_code
def yX6_body : MethodName := ⟨RX6, "body", "(Ljava/lang/String;)LPureHouse$Term;"⟩
theorem dX6_body_0 : decode cX6_body 0 = .ok (.aload_n 0, 1) := by decide +kernel
theorem dX6_body_1 : decode cX6_body 1 = .ok (.getfield 12, 3) := by decide +kernel
theorem dX6_body_4 : decode cX6_body 4 = .ok (.aload_n 1, 1) := by decide +kernel
theorem dX6_body_5 : decode cX6_body 5 = .ok (.invokevirtual 157, 3) := by decide +kernel
theorem dX6_body_8 : decode cX6_body 8 = .ok (.pop, 1) := by decide +kernel
theorem dX6_body_9 : decode cX6_body 9 = .ok (.aload_n 0, 1) := by decide +kernel
theorem dX6_body_10 : decode cX6_body 10 = .ok (.invokevirtual 204, 3) := by decide +kernel
theorem dX6_body_13 : decode cX6_body 13 = .ok (.astore_n 2, 1) := by decide +kernel
theorem dX6_body_14 : decode cX6_body 14 = .ok (.aload_n 0, 1) := by decide +kernel
theorem dX6_body_15 : decode cX6_body 15 = .ok (.getfield 12, 3) := by decide +kernel
theorem dX6_body_18 : decode cX6_body 18 = .ok (.aload_n 0, 1) := by decide +kernel
theorem dX6_body_19 : decode cX6_body 19 = .ok (.getfield 12, 3) := by decide +kernel
theorem dX6_body_22 : decode cX6_body 22 = .ok (.invokevirtual 245, 3) := by decide +kernel
theorem dX6_body_25 : decode cX6_body 25 = .ok (.iconst 1, 1) := by decide +kernel
theorem dX6_body_26 : decode cX6_body 26 = .ok (.isub, 1) := by decide +kernel
theorem dX6_body_27 : decode cX6_body 27 = .ok (.invokevirtual 247, 3) := by decide +kernel
theorem dX6_body_30 : decode cX6_body 30 = .ok (.pop, 1) := by decide +kernel
theorem dX6_body_31 : decode cX6_body 31 = .ok (.aload_n 2, 1) := by decide +kernel
theorem dX6_body_32 : decode cX6_body 32 = .ok (.areturn, 1) := by decide +kernel
abbrev cX6_isWord : ByteArray := prog_17_method_12_code
def yX6_isWord : MethodName := ⟨RX6, "isWord", "(Ljava/lang/String;)Z"⟩
theorem dX6_isWord_0 : decode cX6_isWord 0 = .ok (.aload_n 0, 1) := by decide +kernel
theorem dX6_isWord_1 : decode cX6_isWord 1 = .ok (.getfield 53, 3) := by decide +kernel
theorem dX6_isWord_4 : decode cX6_isWord 4 = .ok (.getstatic 99, 3) := by decide +kernel
theorem dX6_isWord_7 : decode cX6_isWord 7 = .ok (.if_acmp .ne 18, 3) := by decide +kernel
theorem dX6_isWord_10 : decode cX6_isWord 10 = .ok (.aload_n 0, 1) := by decide +kernel
theorem dX6_isWord_11 : decode cX6_isWord 11 = .ok (.getfield 91, 3) := by decide +kernel
theorem dX6_isWord_14 : decode cX6_isWord 14 = .ok (.aload_n 1, 1) := by decide +kernel
theorem dX6_isWord_15 : decode cX6_isWord 15 = .ok (.invokevirtual 108, 3) := by decide +kernel
theorem dX6_isWord_18 : decode cX6_isWord 18 = .ok (.ifCond .eq 7, 3) := by decide +kernel
theorem dX6_isWord_21 : decode cX6_isWord 21 = .ok (.iconst 1, 1) := by decide +kernel
theorem dX6_isWord_22 : decode cX6_isWord 22 = .ok (.goto 4, 3) := by decide +kernel
theorem dX6_isWord_25 : decode cX6_isWord 25 = .ok (.iconst 0, 1) := by decide +kernel
theorem dX6_isWord_26 : decode cX6_isWord 26 = .ok (.ireturn, 1) := by decide +kernel
abbrev cX6_let : ByteArray := prog_17_method_23_code
def yX6_let : MethodName := ⟨RX6, "let", "()LPureHouse$Term;"⟩
theorem dX6_let_0 : decode cX6_let 0 = .ok (.aload_n 0, 1) := by decide +kernel
theorem dX6_let_1 : decode cX6_let 1 = .ok (.getfield 44, 3) := by decide +kernel
theorem dX6_let_4 : decode cX6_let 4 = .ok (.istore_n 1, 1) := by decide +kernel
theorem dX6_let_5 : decode cX6_let 5 = .ok (.aload_n 0, 1) := by decide +kernel
theorem dX6_let_6 : decode cX6_let 6 = .ok (.invokevirtual 150, 3) := by decide +kernel
theorem dX6_let_9 : decode cX6_let 9 = .ok (.aload_n 0, 1) := by decide +kernel
theorem dX6_let_10 : decode cX6_let 10 = .ok (.invokevirtual 173, 3) := by decide +kernel
theorem dX6_let_13 : decode cX6_let 13 = .ok (.astore_n 2, 1) := by decide +kernel
theorem dX6_let_14 : decode cX6_let 14 = .ok (.aload_n 0, 1) := by decide +kernel
theorem dX6_let_15 : decode cX6_let 15 = .ok (.sipush 257, 3) := by decide +kernel
theorem dX6_let_18 : decode cX6_let 18 = .ok (.invokevirtual 160, 3) := by decide +kernel
theorem dX6_let_21 : decode cX6_let 21 = .ok (.pop, 1) := by decide +kernel
theorem dX6_let_22 : decode cX6_let 22 = .ok (.new 270, 3) := by decide +kernel
theorem dX6_let_25 : decode cX6_let 25 = .ok (.dup, 1) := by decide +kernel
theorem dX6_let_26 : decode cX6_let 26 = .ok (.aload_n 0, 1) := by decide +kernel
theorem dX6_let_27 : decode cX6_let 27 = .ok (.invokevirtual 204, 3) := by decide +kernel
theorem dX6_let_30 : decode cX6_let 30 = .ok (.invokespecial 272, 3) := by decide +kernel
theorem dX6_let_33 : decode cX6_let 33 = .ok (.astore_n 3, 1) := by decide +kernel
theorem dX6_let_34 : decode cX6_let 34 = .ok (.aload_n 3, 1) := by decide +kernel
theorem dX6_let_35 : decode cX6_let 35 = .ok (.iload_n 1, 1) := by decide +kernel
theorem dX6_let_36 : decode cX6_let 36 = .ok (.putfield 273, 3) := by decide +kernel
theorem dX6_let_39 : decode cX6_let 39 = .ok (.aload_n 0, 1) := by decide +kernel
theorem dX6_let_40 : decode cX6_let 40 = .ok (.ldc 126, 2) := by decide +kernel
theorem dX6_let_42 : decode cX6_let 42 = .ok (.invokevirtual 232, 3) := by decide +kernel
theorem dX6_let_45 : decode cX6_let 45 = .ok (.ifCond .ne 8, 3) := by decide +kernel
theorem dX6_let_48 : decode cX6_let 48 = .ok (.aload_n 0, 1) := by decide +kernel
theorem dX6_let_49 : decode cX6_let 49 = .ok (.invokevirtual 146, 3) := by decide +kernel
theorem dX6_let_52 : decode cX6_let 52 = .ok (.athrow, 1) := by decide +kernel
theorem dX6_let_53 : decode cX6_let 53 = .ok (.aload_n 0, 1) := by decide +kernel
theorem dX6_let_54 : decode cX6_let 54 = .ok (.invokevirtual 150, 3) := by decide +kernel
theorem dX6_let_57 : decode cX6_let 57 = .ok (.aload_n 3, 1) := by decide +kernel
theorem dX6_let_58 : decode cX6_let 58 = .ok (.aload_n 0, 1) := by decide +kernel
theorem dX6_let_59 : decode cX6_let 59 = .ok (.aload_n 2, 1) := by decide +kernel
theorem dX6_let_60 : decode cX6_let 60 = .ok (.invokevirtual 259, 3) := by decide +kernel
theorem dX6_let_63 : decode cX6_let 63 = .ok (.putfield 274, 3) := by decide +kernel
theorem dX6_let_66 : decode cX6_let 66 = .ok (.aload_n 3, 1) := by decide +kernel
theorem dX6_let_67 : decode cX6_let 67 = .ok (.areturn, 1) := by decide +kernel
abbrev cX6_arrow : ByteArray := prog_17_method_24_code
def yX6_arrow : MethodName := ⟨RX6, "arrow", "()LPureHouse$Term;"⟩
theorem dX6_arrow_0 : decode cX6_arrow 0 = .ok (.aload_n 0, 1) := by decide +kernel
theorem dX6_arrow_1 : decode cX6_arrow 1 = .ok (.getfield 44, 3) := by decide +kernel
theorem dX6_arrow_4 : decode cX6_arrow 4 = .ok (.istore_n 1, 1) := by decide +kernel
theorem dX6_arrow_5 : decode cX6_arrow 5 = .ok (.aload_n 0, 1) := by decide +kernel
theorem dX6_arrow_6 : decode cX6_arrow 6 = .ok (.invokevirtual 275, 3) := by decide +kernel
theorem dX6_arrow_9 : decode cX6_arrow 9 = .ok (.astore_n 2, 1) := by decide +kernel
theorem dX6_arrow_10 : decode cX6_arrow 10 = .ok (.aload_n 0, 1) := by decide +kernel
theorem dX6_arrow_11 : decode cX6_arrow 11 = .ok (.sipush 256, 3) := by decide +kernel
theorem dX6_arrow_14 : decode cX6_arrow 14 = .ok (.invokevirtual 143, 3) := by decide +kernel
theorem dX6_arrow_17 : decode cX6_arrow 17 = .ok (.ifCond .ne 5, 3) := by decide +kernel
theorem dX6_arrow_20 : decode cX6_arrow 20 = .ok (.aload_n 2, 1) := by decide +kernel
theorem dX6_arrow_21 : decode cX6_arrow 21 = .ok (.areturn, 1) := by decide +kernel
theorem dX6_arrow_22 : decode cX6_arrow 22 = .ok (.new 265, 3) := by decide +kernel
theorem dX6_arrow_25 : decode cX6_arrow 25 = .ok (.dup, 1) := by decide +kernel
theorem dX6_arrow_26 : decode cX6_arrow 26 = .ok (.aload_n 2, 1) := by decide +kernel
theorem dX6_arrow_27 : decode cX6_arrow 27 = .ok (.invokespecial 267, 3) := by decide +kernel
theorem dX6_arrow_30 : decode cX6_arrow 30 = .ok (.astore_n 3, 1) := by decide +kernel
theorem dX6_arrow_31 : decode cX6_arrow 31 = .ok (.aload_n 3, 1) := by decide +kernel
theorem dX6_arrow_32 : decode cX6_arrow 32 = .ok (.aload_n 0, 1) := by decide +kernel
theorem dX6_arrow_33 : decode cX6_arrow 33 = .ok (.getfield 44, 3) := by decide +kernel
theorem dX6_arrow_36 : decode cX6_arrow 36 = .ok (.putfield 268, 3) := by decide +kernel
theorem dX6_arrow_39 : decode cX6_arrow 39 = .ok (.aload_n 3, 1) := by decide +kernel
theorem dX6_arrow_40 : decode cX6_arrow 40 = .ok (.iload_n 1, 1) := by decide +kernel
theorem dX6_arrow_41 : decode cX6_arrow 41 = .ok (.putfield 278, 3) := by decide +kernel
theorem dX6_arrow_44 : decode cX6_arrow 44 = .ok (.aload_n 0, 1) := by decide +kernel
theorem dX6_arrow_45 : decode cX6_arrow 45 = .ok (.invokevirtual 150, 3) := by decide +kernel
theorem dX6_arrow_48 : decode cX6_arrow 48 = .ok (.aload_n 3, 1) := by decide +kernel
theorem dX6_arrow_49 : decode cX6_arrow 49 = .ok (.aload_n 0, 1) := by decide +kernel
theorem dX6_arrow_50 : decode cX6_arrow 50 = .ok (.ldc_w 279, 3) := by decide +kernel
theorem dX6_arrow_53 : decode cX6_arrow 53 = .ok (.invokevirtual 259, 3) := by decide +kernel
theorem dX6_arrow_56 : decode cX6_arrow 56 = .ok (.putfield 269, 3) := by decide +kernel
theorem dX6_arrow_59 : decode cX6_arrow 59 = .ok (.aload_n 3, 1) := by decide +kernel
theorem dX6_arrow_60 : decode cX6_arrow 60 = .ok (.areturn, 1) := by decide +kernel
abbrev cX6_use : ByteArray := prog_17_method_25_code
def yX6_use : MethodName := ⟨RX6, "use", "()LPureHouse$Term;"⟩
theorem dX6_use_0 : decode cX6_use 0 = .ok (.aload_n 0, 1) := by decide +kernel
theorem dX6_use_1 : decode cX6_use 1 = .ok (.getfield 44, 3) := by decide +kernel
theorem dX6_use_4 : decode cX6_use 4 = .ok (.istore_n 1, 1) := by decide +kernel
theorem dX6_use_5 : decode cX6_use 5 = .ok (.aload_n 0, 1) := by decide +kernel
theorem dX6_use_6 : decode cX6_use 6 = .ok (.invokevirtual 281, 3) := by decide +kernel
theorem dX6_use_9 : decode cX6_use 9 = .ok (.astore_n 2, 1) := by decide +kernel
theorem dX6_use_10 : decode cX6_use 10 = .ok (.aconst_null, 1) := by decide +kernel
theorem dX6_use_11 : decode cX6_use 11 = .ok (.astore_n 3, 1) := by decide +kernel
theorem dX6_use_12 : decode cX6_use 12 = .ok (.aload_n 0, 1) := by decide +kernel
theorem dX6_use_13 : decode cX6_use 13 = .ok (.getfield 53, 3) := by decide +kernel
theorem dX6_use_16 : decode cX6_use 16 = .ok (.getstatic 84, 3) := by decide +kernel
theorem dX6_use_19 : decode cX6_use 19 = .ok (.if_acmp .eq 12, 3) := by decide +kernel
theorem dX6_use_22 : decode cX6_use 22 = .ok (.aload_n 0, 1) := by decide +kernel
theorem dX6_use_23 : decode cX6_use 23 = .ok (.bipush 40, 2) := by decide +kernel
theorem dX6_use_25 : decode cX6_use 25 = .ok (.invokevirtual 143, 3) := by decide +kernel
theorem dX6_use_28 : decode cX6_use 28 = .ok (.ifCond .eq 31, 3) := by decide +kernel
theorem dX6_use_31 : decode cX6_use 31 = .ok (.aload_n 3, 1) := by decide +kernel
theorem dX6_use_32 : decode cX6_use 32 = .ok (.ifnonnull 12, 3) := by decide +kernel
theorem dX6_use_35 : decode cX6_use 35 = .ok (.new 284, 3) := by decide +kernel
theorem dX6_use_38 : decode cX6_use 38 = .ok (.dup, 1) := by decide +kernel
theorem dX6_use_39 : decode cX6_use 39 = .ok (.aload_n 2, 1) := by decide +kernel
theorem dX6_use_40 : decode cX6_use 40 = .ok (.invokespecial 286, 3) := by decide +kernel
theorem dX6_use_43 : decode cX6_use 43 = .ok (.astore_n 3, 1) := by decide +kernel
theorem dX6_use_44 : decode cX6_use 44 = .ok (.aload_n 3, 1) := by decide +kernel
theorem dX6_use_45 : decode cX6_use 45 = .ok (.getfield 287, 3) := by decide +kernel
theorem dX6_use_48 : decode cX6_use 48 = .ok (.aload_n 0, 1) := by decide +kernel
theorem dX6_use_49 : decode cX6_use 49 = .ok (.invokevirtual 281, 3) := by decide +kernel
theorem dX6_use_52 : decode cX6_use 52 = .ok (.invokevirtual 157, 3) := by decide +kernel
theorem dX6_use_55 : decode cX6_use 55 = .ok (.pop, 1) := by decide +kernel
theorem dX6_use_56 : decode cX6_use 56 = .ok (.goto (-44), 3) := by decide +kernel
theorem dX6_use_59 : decode cX6_use 59 = .ok (.aload_n 3, 1) := by decide +kernel
theorem dX6_use_60 : decode cX6_use 60 = .ok (.ifnonnull 5, 3) := by decide +kernel
theorem dX6_use_63 : decode cX6_use 63 = .ok (.aload_n 2, 1) := by decide +kernel
theorem dX6_use_64 : decode cX6_use 64 = .ok (.areturn, 1) := by decide +kernel
theorem dX6_use_65 : decode cX6_use 65 = .ok (.aload_n 3, 1) := by decide +kernel
theorem dX6_use_66 : decode cX6_use 66 = .ok (.iload_n 1, 1) := by decide +kernel
theorem dX6_use_67 : decode cX6_use 67 = .ok (.putfield 290, 3) := by decide +kernel
theorem dX6_use_70 : decode cX6_use 70 = .ok (.aload_n 3, 1) := by decide +kernel
theorem dX6_use_71 : decode cX6_use 71 = .ok (.iload_n 1, 1) := by decide +kernel
theorem dX6_use_72 : decode cX6_use 72 = .ok (.putfield 291, 3) := by decide +kernel
theorem dX6_use_75 : decode cX6_use 75 = .ok (.aload_n 3, 1) := by decide +kernel
theorem dX6_use_76 : decode cX6_use 76 = .ok (.areturn, 1) := by decide +kernel
abbrev cX6_atom : ByteArray := prog_17_method_26_code
def yX6_atom : MethodName := ⟨RX6, "atom", "()LPureHouse$Term;"⟩
theorem dX6_atom_0 : decode cX6_atom 0 = .ok (.aload_n 0, 1) := by decide +kernel
theorem dX6_atom_1 : decode cX6_atom 1 = .ok (.getfield 44, 3) := by decide +kernel
theorem dX6_atom_4 : decode cX6_atom 4 = .ok (.istore_n 1, 1) := by decide +kernel
theorem dX6_atom_5 : decode cX6_atom 5 = .ok (.aload_n 0, 1) := by decide +kernel
theorem dX6_atom_6 : decode cX6_atom 6 = .ok (.bipush 40, 2) := by decide +kernel
theorem dX6_atom_8 : decode cX6_atom 8 = .ok (.invokevirtual 143, 3) := by decide +kernel
theorem dX6_atom_11 : decode cX6_atom 11 = .ok (.ifCond .eq 22, 3) := by decide +kernel
theorem dX6_atom_14 : decode cX6_atom 14 = .ok (.aload_n 0, 1) := by decide +kernel
theorem dX6_atom_15 : decode cX6_atom 15 = .ok (.invokevirtual 150, 3) := by decide +kernel
theorem dX6_atom_18 : decode cX6_atom 18 = .ok (.aload_n 0, 1) := by decide +kernel
theorem dX6_atom_19 : decode cX6_atom 19 = .ok (.invokevirtual 204, 3) := by decide +kernel
theorem dX6_atom_22 : decode cX6_atom 22 = .ok (.astore_n 2, 1) := by decide +kernel
theorem dX6_atom_23 : decode cX6_atom 23 = .ok (.aload_n 0, 1) := by decide +kernel
theorem dX6_atom_24 : decode cX6_atom 24 = .ok (.bipush 41, 2) := by decide +kernel
theorem dX6_atom_26 : decode cX6_atom 26 = .ok (.invokevirtual 160, 3) := by decide +kernel
theorem dX6_atom_29 : decode cX6_atom 29 = .ok (.pop, 1) := by decide +kernel
theorem dX6_atom_30 : decode cX6_atom 30 = .ok (.goto 17, 3) := by decide +kernel
theorem dX6_atom_33 : decode cX6_atom 33 = .ok (.aload_n 0, 1) := by decide +kernel
theorem dX6_atom_34 : decode cX6_atom 34 = .ok (.aload_n 0, 1) := by decide +kernel
theorem dX6_atom_35 : decode cX6_atom 35 = .ok (.invokevirtual 173, 3) := by decide +kernel
theorem dX6_atom_38 : decode cX6_atom 38 = .ok (.invokevirtual 292, 3) := by decide +kernel
theorem dX6_atom_41 : decode cX6_atom 41 = .ok (.astore_n 2, 1) := by decide +kernel
theorem dX6_atom_42 : decode cX6_atom 42 = .ok (.aload_n 2, 1) := by decide +kernel
theorem dX6_atom_43 : decode cX6_atom 43 = .ok (.iload_n 1, 1) := by decide +kernel
theorem dX6_atom_44 : decode cX6_atom 44 = .ok (.putfield 295, 3) := by decide +kernel
theorem dX6_atom_47 : decode cX6_atom 47 = .ok (.aload_n 2, 1) := by decide +kernel
theorem dX6_atom_48 : decode cX6_atom 48 = .ok (.iload_n 1, 1) := by decide +kernel
theorem dX6_atom_49 : decode cX6_atom 49 = .ok (.putfield 240, 3) := by decide +kernel
theorem dX6_atom_52 : decode cX6_atom 52 = .ok (.aload_n 2, 1) := by decide +kernel
theorem dX6_atom_53 : decode cX6_atom 53 = .ok (.areturn, 1) := by decide +kernel
abbrev cX6_variable : ByteArray := prog_17_method_27_code
def yX6_variable : MethodName := ⟨RX6, "variable", "(Ljava/lang/String;)LPureHouse$Term;"⟩
theorem dX6_variable_0 : decode cX6_variable 0 = .ok (.aload_n 0, 1) := by decide +kernel
theorem dX6_variable_1 : decode cX6_variable 1 = .ok (.getfield 12, 3) := by decide +kernel
theorem dX6_variable_4 : decode cX6_variable 4 = .ok (.invokevirtual 245, 3) := by decide +kernel
theorem dX6_variable_7 : decode cX6_variable 7 = .ok (.iconst 1, 1) := by decide +kernel
theorem dX6_variable_8 : decode cX6_variable 8 = .ok (.isub, 1) := by decide +kernel
theorem dX6_variable_9 : decode cX6_variable 9 = .ok (.istore_n 2, 1) := by decide +kernel
theorem dX6_variable_10 : decode cX6_variable 10 = .ok (.iload_n 2, 1) := by decide +kernel
theorem dX6_variable_11 : decode cX6_variable 11 = .ok (.ifCond .lt 46, 3) := by decide +kernel
theorem dX6_variable_14 : decode cX6_variable 14 = .ok (.aload_n 0, 1) := by decide +kernel
theorem dX6_variable_15 : decode cX6_variable 15 = .ok (.getfield 12, 3) := by decide +kernel
theorem dX6_variable_18 : decode cX6_variable 18 = .ok (.iload_n 2, 1) := by decide +kernel
theorem dX6_variable_19 : decode cX6_variable 19 = .ok (.invokevirtual 296, 3) := by decide +kernel
theorem dX6_variable_22 : decode cX6_variable 22 = .ok (.checkcast 103, 3) := by decide +kernel
theorem dX6_variable_25 : decode cX6_variable 25 = .ok (.aload_n 1, 1) := by decide +kernel
theorem dX6_variable_26 : decode cX6_variable 26 = .ok (.invokevirtual 108, 3) := by decide +kernel
theorem dX6_variable_29 : decode cX6_variable 29 = .ok (.ifCond .eq 22, 3) := by decide +kernel
theorem dX6_variable_32 : decode cX6_variable 32 = .ok (.new 299, 3) := by decide +kernel
theorem dX6_variable_35 : decode cX6_variable 35 = .ok (.dup, 1) := by decide +kernel
theorem dX6_variable_36 : decode cX6_variable 36 = .ok (.aload_n 0, 1) := by decide +kernel
theorem dX6_variable_37 : decode cX6_variable 37 = .ok (.getfield 12, 3) := by decide +kernel
theorem dX6_variable_40 : decode cX6_variable 40 = .ok (.invokevirtual 245, 3) := by decide +kernel
theorem dX6_variable_43 : decode cX6_variable 43 = .ok (.iconst 1, 1) := by decide +kernel
theorem dX6_variable_44 : decode cX6_variable 44 = .ok (.isub, 1) := by decide +kernel
theorem dX6_variable_45 : decode cX6_variable 45 = .ok (.iload_n 2, 1) := by decide +kernel
theorem dX6_variable_46 : decode cX6_variable 46 = .ok (.isub, 1) := by decide +kernel
theorem dX6_variable_47 : decode cX6_variable 47 = .ok (.invokespecial 301, 3) := by decide +kernel
theorem dX6_variable_50 : decode cX6_variable 50 = .ok (.areturn, 1) := by decide +kernel
theorem dX6_variable_51 : decode cX6_variable 51 = .ok (.iinc 2 (-1), 3) := by decide +kernel
theorem dX6_variable_54 : decode cX6_variable 54 = .ok (.goto (-44), 3) := by decide +kernel
theorem dX6_variable_57 : decode cX6_variable 57 = .ok (.new 302, 3) := by decide +kernel
theorem dX6_variable_60 : decode cX6_variable 60 = .ok (.dup, 1) := by decide +kernel
theorem dX6_variable_61 : decode cX6_variable 61 = .ok (.aload_n 1, 1) := by decide +kernel
theorem dX6_variable_62 : decode cX6_variable 62 = .ok (.invokespecial 304, 3) := by decide +kernel
theorem dX6_variable_65 : decode cX6_variable 65 = .ok (.areturn, 1) := by decide +kernel
abbrev cX6_asked : ByteArray := prog_17_method_18_code
def yX6_asked : MethodName := ⟨RX6, "asked", "(LPureHouse$Kind;I)LPureHouse$Statement;"⟩
theorem dX6_asked_0 : decode cX6_asked 0 = .ok (.new 164, 3) := by decide +kernel
theorem dX6_asked_3 : decode cX6_asked 3 = .ok (.dup, 1) := by decide +kernel
theorem dX6_asked_4 : decode cX6_asked 4 = .ok (.aload_n 1, 1) := by decide +kernel
theorem dX6_asked_5 : decode cX6_asked 5 = .ok (.iload_n 2, 1) := by decide +kernel
theorem dX6_asked_6 : decode cX6_asked 6 = .ok (.invokespecial 185, 3) := by decide +kernel
theorem dX6_asked_9 : decode cX6_asked 9 = .ok (.astore_n 3, 1) := by decide +kernel
theorem dX6_asked_10 : decode cX6_asked 10 = .ok (.aload_n 0, 1) := by decide +kernel
theorem dX6_asked_11 : decode cX6_asked 11 = .ok (.invokevirtual 150, 3) := by decide +kernel
theorem dX6_asked_14 : decode cX6_asked 14 = .ok (.aload_n 3, 1) := by decide +kernel
theorem dX6_asked_15 : decode cX6_asked 15 = .ok (.aload_n 0, 1) := by decide +kernel
theorem dX6_asked_16 : decode cX6_asked 16 = .ok (.invokevirtual 204, 3) := by decide +kernel
theorem dX6_asked_19 : decode cX6_asked 19 = .ok (.putfield 221, 3) := by decide +kernel
theorem dX6_asked_22 : decode cX6_asked 22 = .ok (.aload_n 3, 1) := by decide +kernel
theorem dX6_asked_23 : decode cX6_asked 23 = .ok (.areturn, 1) := by decide +kernel
theorem q129 : (Jvm.Cond.initialized "PureHouse$Reader") ∈ lw_all := lw_g (lw_at lw_m1 17 rfl) rfl
theorem q445 : (Jvm.Cond.instantiable "PureHouse$Reader" (10 : Nat)) ∈ lw_all := lw_g (lw_at lw_m2 93 rfl) rfl
theorem q447 : (Jvm.Cond.instanceMethod ({ cls := "PureHouse$Reader", name := "<init>", desc := "([BI)V" } : Jvm.MethodName)) ∈ lw_all := lw_g (lw_at lw_m2 95 rfl) rfl
theorem q448 : (Jvm.Cond.code ({ cls := "PureHouse$Reader", name := "<init>", desc := "([BI)V" } : Jvm.MethodName) prog_17_method_1_code (3 : Nat) (Option.none : Option Jvm.ClassFile.FieldType)) ∈ lw_all := lw_g (lw_at lw_m2 96 rfl) rfl
theorem q449 : (Jvm.Cond.methodLink "PureHouse$Reader" (3 : Nat) ({ cls := "java/lang/Object", name := "<init>", desc := "()V" } : Jvm.MethodName)) ∈ lw_all := lw_g (lw_at lw_m2 97 rfl) rfl
theorem q450 : (Jvm.Cond.classLink "PureHouse$Reader" (9 : Nat) "java/util/ArrayList") ∈ lw_all := lw_g (lw_at lw_m2 98 rfl) rfl
theorem q451 : (Jvm.Cond.methodLink "PureHouse$Reader" (11 : Nat) ({ cls := "java/util/ArrayList", name := "<init>", desc := "()V" } : Jvm.MethodName)) ∈ lw_all := lw_g (lw_at lw_m2 99 rfl) rfl
theorem q452 : (Jvm.Cond.fieldLink "PureHouse$Reader" (21 : Nat) "PureHouse$Reader" "text" "[B") ∈ lw_all := lw_g (lw_at lw_m2 100 rfl) rfl
theorem q453 : (Jvm.Cond.fieldLink "PureHouse$Reader" (25 : Nat) "PureHouse$Reader" "size" "I") ∈ lw_all := lw_g (lw_at lw_m2 101 rfl) rfl
theorem q454 : (Jvm.Cond.fieldLink "PureHouse$Reader" (33 : Nat) "PureHouse$Reader" "next" "I") ∈ lw_all := lw_g (lw_at lw_m2 102 rfl) rfl
theorem q455 : (Jvm.Cond.fieldLink "PureHouse$Reader" (44 : Nat) "PureHouse$Reader" "place" "I") ∈ lw_all := lw_g (lw_at lw_m2 103 rfl) rfl
theorem q456 : (Jvm.Cond.fieldLink "PureHouse$Reader" (136 : Nat) "PureHouse$Reader" "sign" "I") ∈ lw_all := lw_g (lw_at lw_m2 104 rfl) rfl
theorem q457 : (Jvm.Cond.fieldLink "PureHouse$Reader" (226 : Nat) "PureHouse$Reader" "nests" "I") ∈ lw_all := lw_g (lw_at lw_m2 105 rfl) rfl
theorem q458 : (Jvm.Cond.fieldLink "PureHouse$Reader" (91 : Nat) "PureHouse$Reader" "word" "Ljava/lang/String;") ∈ lw_all := lw_g (lw_at lw_m2 106 rfl) rfl
theorem q459 : (Jvm.Cond.fieldLink "PureHouse$Reader" (53 : Nat) "PureHouse$Reader" "sort" "LPureHouse$Sort;") ∈ lw_all := lw_g (lw_at lw_m2 107 rfl) rfl
theorem q460 : (Jvm.Cond.fieldLink "PureHouse$Reader" (12 : Nat) "PureHouse$Reader" "binders" "Ljava/util/ArrayList;") ∈ lw_all := lw_g (lw_at lw_m2 108 rfl) rfl
theorem q461 : (Jvm.Cond.fieldLink "PureHouse$Reader" (18 : Nat) "PureHouse$Reader" "statements" "Ljava/util/ArrayList;") ∈ lw_all := lw_g (lw_at lw_m2 109 rfl) rfl
theorem q462 : (Jvm.Cond.laysFinal "PureHouse$Reader" "PureHouse$Reader" "text" "[B") ∈ lw_all := lw_g (lw_at lw_m2 110 rfl) rfl
theorem q463 : (Jvm.Cond.soleField "PureHouse$Reader" "text") ∈ lw_all := lw_g (lw_at lw_m2 111 rfl) rfl
theorem q464 : (Jvm.Cond.laysFinal "PureHouse$Reader" "PureHouse$Reader" "size" "I") ∈ lw_all := lw_g (lw_at lw_m2 112 rfl) rfl
theorem q465 : (Jvm.Cond.soleField "PureHouse$Reader" "size") ∈ lw_all := lw_g (lw_at lw_m2 113 rfl) rfl
theorem q466 : (Jvm.Cond.lays "PureHouse$Reader" "PureHouse$Reader" "next" "I") ∈ lw_all := lw_g (lw_at lw_m2 114 rfl) rfl
theorem q467 : (Jvm.Cond.soleField "PureHouse$Reader" "next") ∈ lw_all := lw_g (lw_at lw_m2 115 rfl) rfl
theorem q468 : (Jvm.Cond.lays "PureHouse$Reader" "PureHouse$Reader" "place" "I") ∈ lw_all := lw_g (lw_at lw_m2 116 rfl) rfl
theorem q469 : (Jvm.Cond.soleField "PureHouse$Reader" "place") ∈ lw_all := lw_g (lw_at lw_m2 117 rfl) rfl
theorem q470 : (Jvm.Cond.lays "PureHouse$Reader" "PureHouse$Reader" "sign" "I") ∈ lw_all := lw_g (lw_at lw_m2 118 rfl) rfl
theorem q471 : (Jvm.Cond.soleField "PureHouse$Reader" "sign") ∈ lw_all := lw_g (lw_at lw_m2 119 rfl) rfl
theorem q472 : (Jvm.Cond.lays "PureHouse$Reader" "PureHouse$Reader" "nests" "I") ∈ lw_all := lw_g (lw_at lw_m2 120 rfl) rfl
theorem q473 : (Jvm.Cond.soleField "PureHouse$Reader" "nests") ∈ lw_all := lw_g (lw_at lw_m2 121 rfl) rfl
theorem q474 : (Jvm.Cond.lays "PureHouse$Reader" "PureHouse$Reader" "word" "Ljava/lang/String;") ∈ lw_all := lw_g (lw_at lw_m2 122 rfl) rfl
theorem q475 : (Jvm.Cond.soleField "PureHouse$Reader" "word") ∈ lw_all := lw_g (lw_at lw_m2 123 rfl) rfl
theorem q476 : (Jvm.Cond.lays "PureHouse$Reader" "PureHouse$Reader" "sort" "LPureHouse$Sort;") ∈ lw_all := lw_g (lw_at lw_m2 124 rfl) rfl
theorem q477 : (Jvm.Cond.soleField "PureHouse$Reader" "sort") ∈ lw_all := lw_g (lw_at lw_m2 125 rfl) rfl
theorem q478 : (Jvm.Cond.laysFinal "PureHouse$Reader" "PureHouse$Reader" "binders" "Ljava/util/ArrayList;") ∈ lw_all := lw_g (lw_at lw_m2 126 rfl) rfl
theorem q479 : (Jvm.Cond.soleField "PureHouse$Reader" "binders") ∈ lw_all := lw_g (lw_at lw_m2 127 rfl) rfl
theorem q480 : (Jvm.Cond.laysFinal "PureHouse$Reader" "PureHouse$Reader" "statements" "Ljava/util/ArrayList;") ∈ lw_all := lw_g (lw_at lw_m2 128 rfl) rfl
theorem q481 : (Jvm.Cond.soleField "PureHouse$Reader" "statements") ∈ lw_all := lw_g (lw_at lw_m2 129 rfl) rfl
theorem q482 : (Jvm.Cond.superclass "PureHouse$Reader" "java/lang/Object") ∈ lw_all := lw_g (lw_at lw_m2 130 rfl) rfl
theorem q484 : (Jvm.Cond.instanceMethod ({ cls := "PureHouse$Reader", name := "read", desc := "()Ljava/util/ArrayList;" } : Jvm.MethodName)) ∈ lw_all := lw_g (lw_at lw_m2 132 rfl) rfl
theorem q485 : (Jvm.Cond.selects "PureHouse$Reader" ({ cls := "PureHouse$Reader", name := "read", desc := "()Ljava/util/ArrayList;" } : Jvm.MethodName) ({ cls := "PureHouse$Reader", name := "read", desc := "()Ljava/util/ArrayList;" } : Jvm.MethodName)) ∈ lw_all := lw_g (lw_at lw_m2 133 rfl) rfl
theorem q486 : (Jvm.Cond.code ({ cls := "PureHouse$Reader", name := "read", desc := "()Ljava/util/ArrayList;" } : Jvm.MethodName) prog_17_method_15_code (1 : Nat) (Option.some (Jvm.ClassFile.FieldType.object "java/util/ArrayList"))) ∈ lw_all := lw_g (lw_at lw_m2 134 rfl) rfl
theorem q487 : (Jvm.Cond.methodLink "PureHouse$Reader" (150 : Nat) ({ cls := "PureHouse$Reader", name := "go", desc := "()V" } : Jvm.MethodName)) ∈ lw_all := lw_g (lw_at lw_m2 135 rfl) rfl
theorem q488 : (Jvm.Cond.privateMethod ({ cls := "PureHouse$Reader", name := "go", desc := "()V" } : Jvm.MethodName)) ∈ lw_tbl := lw_at lw_m2 136 rfl
theorem q489 : (Jvm.Cond.instanceMethod ({ cls := "PureHouse$Reader", name := "go", desc := "()V" } : Jvm.MethodName)) ∈ lw_all := lw_g (lw_at lw_m2 137 rfl) rfl
theorem q490 : (Jvm.Cond.code ({ cls := "PureHouse$Reader", name := "go", desc := "()V" } : Jvm.MethodName) prog_17_method_6_code (3 : Nat) (Option.none : Option Jvm.ClassFile.FieldType)) ∈ lw_all := lw_g (lw_at lw_m2 138 rfl) rfl
theorem q491 : (Jvm.Cond.methodLink "PureHouse$Reader" (40 : Nat) ({ cls := "PureHouse$Reader", name := "skips", desc := "()Z" } : Jvm.MethodName)) ∈ lw_all := lw_g (lw_at lw_m2 139 rfl) rfl
theorem q492 : (Jvm.Cond.privateMethod ({ cls := "PureHouse$Reader", name := "skips", desc := "()Z" } : Jvm.MethodName)) ∈ lw_tbl := lw_at lw_m2 140 rfl
theorem q493 : (Jvm.Cond.instanceMethod ({ cls := "PureHouse$Reader", name := "skips", desc := "()Z" } : Jvm.MethodName)) ∈ lw_all := lw_g (lw_at lw_m2 141 rfl) rfl
theorem q494 : (Jvm.Cond.code ({ cls := "PureHouse$Reader", name := "skips", desc := "()Z" } : Jvm.MethodName) prog_17_method_5_code (3 : Nat) (Option.some Jvm.ClassFile.FieldType.boolean)) ∈ lw_all := lw_g (lw_at lw_m2 142 rfl) rfl
theorem q495 : (Jvm.Cond.methodLink "PureHouse$Reader" (36 : Nat) ({ cls := "PureHouse$Reader", name := "byteAt", desc := "(I)I" } : Jvm.MethodName)) ∈ lw_all := lw_g (lw_at lw_m2 143 rfl) rfl
theorem q496 : (Jvm.Cond.privateMethod ({ cls := "PureHouse$Reader", name := "byteAt", desc := "(I)I" } : Jvm.MethodName)) ∈ lw_tbl := lw_at lw_m2 144 rfl
theorem q497 : (Jvm.Cond.instanceMethod ({ cls := "PureHouse$Reader", name := "byteAt", desc := "(I)I" } : Jvm.MethodName)) ∈ lw_all := lw_g (lw_at lw_m2 145 rfl) rfl
theorem q498 : (Jvm.Cond.code ({ cls := "PureHouse$Reader", name := "byteAt", desc := "(I)I" } : Jvm.MethodName) prog_17_method_2_code (2 : Nat) (Option.some Jvm.ClassFile.FieldType.int)) ∈ lw_all := lw_g (lw_at lw_m2 146 rfl) rfl
theorem q499 : (Jvm.Cond.fieldLink "PureHouse$Reader" (47 : Nat) "PureHouse$Sort" "BAD" "LPureHouse$Sort;") ∈ lw_all := lw_g (lw_at lw_m2 147 rfl) rfl
theorem q501 : (Jvm.Cond.fieldLink "PureHouse$Reader" (56 : Nat) "PureHouse$Sort" "END" "LPureHouse$Sort;") ∈ lw_all := lw_g (lw_at lw_m2 149 rfl) rfl
theorem q503 : (Jvm.Cond.methodLink "PureHouse$Reader" (29 : Nat) ({ cls := "PureHouse$Reader", name := "isLetter", desc := "(I)Z" } : Jvm.MethodName)) ∈ lw_all := lw_g (lw_at lw_m2 151 rfl) rfl
theorem q504 : (Jvm.Cond.static ({ cls := "PureHouse$Reader", name := "isLetter", desc := "(I)Z" } : Jvm.MethodName)) ∈ lw_all := lw_g (lw_at lw_m2 152 rfl) rfl
theorem q505 : (Jvm.Cond.code ({ cls := "PureHouse$Reader", name := "isLetter", desc := "(I)Z" } : Jvm.MethodName) prog_17_method_3_code (1 : Nat) (Option.some Jvm.ClassFile.FieldType.boolean)) ∈ lw_all := lw_g (lw_at lw_m2 153 rfl) rfl
theorem q506 : (Jvm.Cond.methodLink "PureHouse$Reader" (59 : Nat) ({ cls := "PureHouse$Reader", name := "name", desc := "()V" } : Jvm.MethodName)) ∈ lw_all := lw_g (lw_at lw_m2 154 rfl) rfl
theorem q507 : (Jvm.Cond.privateMethod ({ cls := "PureHouse$Reader", name := "name", desc := "()V" } : Jvm.MethodName)) ∈ lw_tbl := lw_at lw_m2 155 rfl
theorem q508 : (Jvm.Cond.instanceMethod ({ cls := "PureHouse$Reader", name := "name", desc := "()V" } : Jvm.MethodName)) ∈ lw_all := lw_g (lw_at lw_m2 156 rfl) rfl
theorem q509 : (Jvm.Cond.code ({ cls := "PureHouse$Reader", name := "name", desc := "()V" } : Jvm.MethodName) prog_17_method_7_code (2 : Nat) (Option.none : Option Jvm.ClassFile.FieldType)) ∈ lw_all := lw_g (lw_at lw_m2 157 rfl) rfl
theorem q510 : (Jvm.Cond.classLink "PureHouse$Reader" (66 : Nat) "java/lang/StringBuilder") ∈ lw_all := lw_g (lw_at lw_m2 158 rfl) rfl
theorem q512 : (Jvm.Cond.methodLink "PureHouse$Reader" (68 : Nat) ({ cls := "java/lang/StringBuilder", name := "<init>", desc := "(I)V" } : Jvm.MethodName)) ∈ lw_all := lw_g (lw_at lw_m2 160 rfl) rfl
theorem q541 : (Jvm.Cond.methodLink "PureHouse$Reader" (70 : Nat) ({ cls := "PureHouse$Reader", name := "isMore", desc := "(I)Z" } : Jvm.MethodName)) ∈ lw_all := lw_g (lw_at lw_m2 189 rfl) rfl
theorem q542 : (Jvm.Cond.static ({ cls := "PureHouse$Reader", name := "isMore", desc := "(I)Z" } : Jvm.MethodName)) ∈ lw_all := lw_g (lw_at lw_m2 190 rfl) rfl
theorem q543 : (Jvm.Cond.code ({ cls := "PureHouse$Reader", name := "isMore", desc := "(I)Z" } : Jvm.MethodName) prog_17_method_4_code (1 : Nat) (Option.some Jvm.ClassFile.FieldType.boolean)) ∈ lw_all := lw_g (lw_at lw_m2 191 rfl) rfl
theorem q544 : (Jvm.Cond.methodLink "PureHouse$Reader" (73 : Nat) ({ cls := "java/lang/StringBuilder", name := "length", desc := "()I" } : Jvm.MethodName)) ∈ lw_all := lw_g (lw_at lw_m2 192 rfl) rfl
theorem q551 : (Jvm.Cond.methodLink "PureHouse$Reader" (77 : Nat) ({ cls := "java/lang/StringBuilder", name := "append", desc := "(C)Ljava/lang/StringBuilder;" } : Jvm.MethodName)) ∈ lw_all := lw_g (lw_at lw_m2 199 rfl) rfl
theorem q646 : (Jvm.Cond.fieldLink "PureHouse$Reader" (81 : Nat) "PureHouse$Sort" "LONG" "LPureHouse$Sort;") ∈ lw_all := lw_g (lw_at lw_m3 54 rfl) rfl
theorem q648 : (Jvm.Cond.fieldLink "PureHouse$Reader" (84 : Nat) "PureHouse$Sort" "NAME" "LPureHouse$Sort;") ∈ lw_all := lw_g (lw_at lw_m3 56 rfl) rfl
theorem q650 : (Jvm.Cond.methodLink "PureHouse$Reader" (87 : Nat) ({ cls := "java/lang/StringBuilder", name := "toString", desc := "()Ljava/lang/String;" } : Jvm.MethodName)) ∈ lw_all := lw_g (lw_at lw_m3 58 rfl) rfl
theorem q796 : (Jvm.Cond.methodLink "PureHouse$Reader" (95 : Nat) ({ cls := "PureHouse$Reader", name := "isKept", desc := "(Ljava/lang/String;)Z" } : Jvm.MethodName)) ∈ lw_all := lw_g (lw_at lw_m3 204 rfl) rfl
theorem q797 : (Jvm.Cond.static ({ cls := "PureHouse$Reader", name := "isKept", desc := "(Ljava/lang/String;)Z" } : Jvm.MethodName)) ∈ lw_all := lw_g (lw_at lw_m3 205 rfl) rfl
theorem q798 : (Jvm.Cond.code ({ cls := "PureHouse$Reader", name := "isKept", desc := "(Ljava/lang/String;)Z" } : Jvm.MethodName) prog_17_method_8_code (3 : Nat) (Option.some Jvm.ClassFile.FieldType.boolean)) ∈ lw_all := lw_g (lw_at lw_m3 206 rfl) rfl
theorem q799 : (Jvm.Cond.methodLink "PureHouse$Reader" (102 : Nat) ({ cls := "java/lang/String", name := "hashCode", desc := "()I" } : Jvm.MethodName)) ∈ lw_all := lw_g (lw_at lw_m3 207 rfl) rfl
theorem q860 : (Jvm.Cond.stringRef "PureHouse$Reader" (107 : Nat) "sort") ∈ lw_tbl := lw_at lw_m4 28 rfl
theorem q861 : (Jvm.Cond.methodLink "PureHouse$Reader" (108 : Nat) ({ cls := "java/lang/String", name := "equals", desc := "(Ljava/lang/Object;)Z" } : Jvm.MethodName)) ∈ lw_all := lw_g (lw_at lw_m4 29 rfl) rfl
theorem q869 : (Jvm.Cond.stringRef "PureHouse$Reader" (112 : Nat) "axiom") ∈ lw_tbl := lw_at lw_m4 37 rfl
theorem q870 : (Jvm.Cond.stringRef "PureHouse$Reader" (114 : Nat) "rule") ∈ lw_tbl := lw_at lw_m4 38 rfl
theorem q871 : (Jvm.Cond.stringRef "PureHouse$Reader" (116 : Nat) "check") ∈ lw_tbl := lw_at lw_m4 39 rfl
theorem q872 : (Jvm.Cond.stringRef "PureHouse$Reader" (118 : Nat) "norm") ∈ lw_tbl := lw_at lw_m4 40 rfl
theorem q873 : (Jvm.Cond.stringRef "PureHouse$Reader" (120 : Nat) "same") ∈ lw_tbl := lw_at lw_m4 41 rfl
theorem q874 : (Jvm.Cond.stringRef "PureHouse$Reader" (122 : Nat) "head") ∈ lw_tbl := lw_at lw_m4 42 rfl
theorem q875 : (Jvm.Cond.stringRef "PureHouse$Reader" (124 : Nat) "let") ∈ lw_tbl := lw_at lw_m4 43 rfl
theorem q876 : (Jvm.Cond.stringRef "PureHouse$Reader" (126 : Nat) "in") ∈ lw_tbl := lw_at lw_m4 44 rfl
theorem q877 : (Jvm.Cond.fieldLink "PureHouse$Reader" (99 : Nat) "PureHouse$Sort" "WORD" "LPureHouse$Sort;") ∈ lw_all := lw_g (lw_at lw_m4 45 rfl) rfl
theorem q879 : (Jvm.Cond.methodLink "PureHouse$Reader" (62 : Nat) ({ cls := "PureHouse$Reader", name := "sign", desc := "(I)V" } : Jvm.MethodName)) ∈ lw_all := lw_g (lw_at lw_m4 47 rfl) rfl
theorem q880 : (Jvm.Cond.privateMethod ({ cls := "PureHouse$Reader", name := "sign", desc := "(I)V" } : Jvm.MethodName)) ∈ lw_tbl := lw_at lw_m4 48 rfl
theorem q881 : (Jvm.Cond.instanceMethod ({ cls := "PureHouse$Reader", name := "sign", desc := "(I)V" } : Jvm.MethodName)) ∈ lw_all := lw_g (lw_at lw_m4 49 rfl) rfl
theorem q882 : (Jvm.Cond.code ({ cls := "PureHouse$Reader", name := "sign", desc := "(I)V" } : Jvm.MethodName) prog_17_method_9_code (4 : Nat) (Option.none : Option Jvm.ClassFile.FieldType)) ∈ lw_all := lw_g (lw_at lw_m4 50 rfl) rfl
theorem q883 : (Jvm.Cond.stringRef "PureHouse$Reader" (128 : Nat) "\\!:.;=()") ∈ lw_tbl := lw_at lw_m4 51 rfl
theorem q884 : (Jvm.Cond.methodLink "PureHouse$Reader" (130 : Nat) ({ cls := "java/lang/String", name := "indexOf", desc := "(I)I" } : Jvm.MethodName)) ∈ lw_all := lw_g (lw_at lw_m4 52 rfl) rfl
theorem q930 : (Jvm.Cond.fieldLink "PureHouse$Reader" (133 : Nat) "PureHouse$Sort" "SIGN" "LPureHouse$Sort;") ∈ lw_all := lw_g (lw_at lw_m4 98 rfl) rfl
theorem q932 : (Jvm.Cond.methodLink "PureHouse$Reader" (153 : Nat) ({ cls := "PureHouse$Reader", name := "statement", desc := "()LPureHouse$Statement;" } : Jvm.MethodName)) ∈ lw_all := lw_g (lw_at lw_m4 100 rfl) rfl
theorem q933 : (Jvm.Cond.privateMethod ({ cls := "PureHouse$Reader", name := "statement", desc := "()LPureHouse$Statement;" } : Jvm.MethodName)) ∈ lw_tbl := lw_at lw_m4 101 rfl
theorem q934 : (Jvm.Cond.instanceMethod ({ cls := "PureHouse$Reader", name := "statement", desc := "()LPureHouse$Statement;" } : Jvm.MethodName)) ∈ lw_all := lw_g (lw_at lw_m4 102 rfl) rfl
theorem q935 : (Jvm.Cond.code ({ cls := "PureHouse$Reader", name := "statement", desc := "()LPureHouse$Statement;" } : Jvm.MethodName) prog_17_method_17_code (6 : Nat) (Option.some (Jvm.ClassFile.FieldType.object "PureHouse$Statement"))) ∈ lw_all := lw_g (lw_at lw_m4 103 rfl) rfl
theorem q936 : (Jvm.Cond.methodLink "PureHouse$Reader" (176 : Nat) ({ cls := "PureHouse$Reader", name := "told", desc := "()LPureHouse$Statement;" } : Jvm.MethodName)) ∈ lw_all := lw_g (lw_at lw_m4 104 rfl) rfl
theorem q937 : (Jvm.Cond.privateMethod ({ cls := "PureHouse$Reader", name := "told", desc := "()LPureHouse$Statement;" } : Jvm.MethodName)) ∈ lw_tbl := lw_at lw_m4 105 rfl
theorem q938 : (Jvm.Cond.instanceMethod ({ cls := "PureHouse$Reader", name := "told", desc := "()LPureHouse$Statement;" } : Jvm.MethodName)) ∈ lw_all := lw_g (lw_at lw_m4 106 rfl) rfl
theorem q939 : (Jvm.Cond.code ({ cls := "PureHouse$Reader", name := "told", desc := "()LPureHouse$Statement;" } : Jvm.MethodName) prog_17_method_19_code (2 : Nat) (Option.some (Jvm.ClassFile.FieldType.object "PureHouse$Statement"))) ∈ lw_all := lw_g (lw_at lw_m4 107 rfl) rfl
theorem q940 : (Jvm.Cond.classLink "PureHouse$Reader" (164 : Nat) "PureHouse$Statement") ∈ lw_all := lw_g (lw_at lw_m4 108 rfl) rfl
theorem q942 : (Jvm.Cond.fieldLink "PureHouse$Reader" (223 : Nat) "PureHouse$Kind" "TELL" "LPureHouse$Kind;") ∈ lw_all := lw_g (lw_at lw_m4 110 rfl) rfl
theorem q944 : (Jvm.Cond.methodLink "PureHouse$Reader" (185 : Nat) ({ cls := "PureHouse$Statement", name := "<init>", desc := "(LPureHouse$Kind;I)V" } : Jvm.MethodName)) ∈ lw_all := lw_g (lw_at lw_m4 112 rfl) rfl
theorem q955 : (Jvm.Cond.fieldLinkNest "PureHouse$Reader" (169 : Nat) "PureHouse$Statement" "names" "[Ljava/lang/String;" "PureHouse") ∈ lw_tbl := lw_at lw_m4 123 rfl
theorem q958 : (Jvm.Cond.fieldLinkNest "PureHouse$Reader" (163 : Nat) "PureHouse$Statement" "places" "[I" "PureHouse") ∈ lw_tbl := lw_at lw_m4 126 rfl
theorem q960 : (Jvm.Cond.fieldLinkNest "PureHouse$Reader" (208 : Nat) "PureHouse$Statement" "type" "LPureHouse$Term;" "PureHouse") ∈ lw_tbl := lw_at lw_m4 128 rfl
theorem q962 : (Jvm.Cond.fieldLinkNest "PureHouse$Reader" (221 : Nat) "PureHouse$Statement" "term" "LPureHouse$Term;" "PureHouse") ∈ lw_tbl := lw_at lw_m4 130 rfl
theorem q976 : (Jvm.Cond.methodLink "PureHouse$Reader" (188 : Nat) ({ cls := "PureHouse$Reader", name := "name", desc := "(LPureHouse$Statement;I)V" } : Jvm.MethodName)) ∈ lw_all := lw_g (lw_at lw_m4 144 rfl) rfl
theorem q977 : (Jvm.Cond.privateMethod ({ cls := "PureHouse$Reader", name := "name", desc := "(LPureHouse$Statement;I)V" } : Jvm.MethodName)) ∈ lw_tbl := lw_at lw_m4 145 rfl
theorem q978 : (Jvm.Cond.instanceMethod ({ cls := "PureHouse$Reader", name := "name", desc := "(LPureHouse$Statement;I)V" } : Jvm.MethodName)) ∈ lw_all := lw_g (lw_at lw_m4 146 rfl) rfl
theorem q979 : (Jvm.Cond.code ({ cls := "PureHouse$Reader", name := "name", desc := "(LPureHouse$Statement;I)V" } : Jvm.MethodName) prog_17_method_16_code (3 : Nat) (Option.none : Option Jvm.ClassFile.FieldType)) ∈ lw_all := lw_g (lw_at lw_m4 147 rfl) rfl
theorem q980 : (Jvm.Cond.methodLink "PureHouse$Reader" (173 : Nat) ({ cls := "PureHouse$Reader", name := "needName", desc := "()Ljava/lang/String;" } : Jvm.MethodName)) ∈ lw_all := lw_g (lw_at lw_m4 148 rfl) rfl
theorem q981 : (Jvm.Cond.privateMethod ({ cls := "PureHouse$Reader", name := "needName", desc := "()Ljava/lang/String;" } : Jvm.MethodName)) ∈ lw_tbl := lw_at lw_m4 149 rfl
theorem q982 : (Jvm.Cond.instanceMethod ({ cls := "PureHouse$Reader", name := "needName", desc := "()Ljava/lang/String;" } : Jvm.MethodName)) ∈ lw_all := lw_g (lw_at lw_m4 150 rfl) rfl
theorem q983 : (Jvm.Cond.code ({ cls := "PureHouse$Reader", name := "needName", desc := "()Ljava/lang/String;" } : Jvm.MethodName) prog_17_method_14_code (2 : Nat) (Option.some (Jvm.ClassFile.FieldType.object "java/lang/String"))) ∈ lw_all := lw_g (lw_at lw_m4 151 rfl) rfl
theorem q984 : (Jvm.Cond.methodLink "PureHouse$Reader" (146 : Nat) ({ cls := "PureHouse$Reader", name := "wrong", desc := "()LPureHouse$Fault;" } : Jvm.MethodName)) ∈ lw_all := lw_g (lw_at lw_m4 152 rfl) rfl
theorem q985 : (Jvm.Cond.privateMethod ({ cls := "PureHouse$Reader", name := "wrong", desc := "()LPureHouse$Fault;" } : Jvm.MethodName)) ∈ lw_tbl := lw_at lw_m4 153 rfl
theorem q986 : (Jvm.Cond.instanceMethod ({ cls := "PureHouse$Reader", name := "wrong", desc := "()LPureHouse$Fault;" } : Jvm.MethodName)) ∈ lw_all := lw_g (lw_at lw_m4 154 rfl) rfl
theorem q987 : (Jvm.Cond.code ({ cls := "PureHouse$Reader", name := "wrong", desc := "()LPureHouse$Fault;" } : Jvm.MethodName) prog_17_method_10_code (1 : Nat) (Option.some (Jvm.ClassFile.FieldType.object "PureHouse$Fault"))) ∈ lw_all := lw_g (lw_at lw_m4 155 rfl) rfl
theorem q988 : (Jvm.Cond.classLink "PureHouse$Reader" (138 : Nat) "PureHouse$Fault") ∈ lw_all := lw_g (lw_at lw_m4 156 rfl) rfl
theorem q997 : (Jvm.Cond.methodLink "PureHouse$Reader" (140 : Nat) ({ cls := "PureHouse$Fault", name := "<init>", desc := "(II)V" } : Jvm.MethodName)) ∈ lw_all := lw_g (lw_at lw_m4 165 rfl) rfl
theorem q1011 : (Jvm.Cond.methodLink "PureHouse$Reader" (143 : Nat) ({ cls := "PureHouse$Reader", name := "isSign", desc := "(I)Z" } : Jvm.MethodName)) ∈ lw_all := lw_g (lw_at lw_m4 179 rfl) rfl
theorem q1012 : (Jvm.Cond.privateMethod ({ cls := "PureHouse$Reader", name := "isSign", desc := "(I)Z" } : Jvm.MethodName)) ∈ lw_tbl := lw_at lw_m4 180 rfl
theorem q1013 : (Jvm.Cond.instanceMethod ({ cls := "PureHouse$Reader", name := "isSign", desc := "(I)Z" } : Jvm.MethodName)) ∈ lw_all := lw_g (lw_at lw_m4 181 rfl) rfl
theorem q1014 : (Jvm.Cond.code ({ cls := "PureHouse$Reader", name := "isSign", desc := "(I)Z" } : Jvm.MethodName) prog_17_method_11_code (2 : Nat) (Option.some Jvm.ClassFile.FieldType.boolean)) ∈ lw_all := lw_g (lw_at lw_m4 182 rfl) rfl
theorem q1015 : (Jvm.Cond.methodLink "PureHouse$Reader" (204 : Nat) ({ cls := "PureHouse$Reader", name := "term", desc := "()LPureHouse$Term;" } : Jvm.MethodName)) ∈ lw_all := lw_g (lw_at lw_m4 183 rfl) rfl
theorem q1016 : (Jvm.Cond.privateMethod ({ cls := "PureHouse$Reader", name := "term", desc := "()LPureHouse$Term;" } : Jvm.MethodName)) ∈ lw_tbl := lw_at lw_m4 184 rfl
theorem q1017 : (Jvm.Cond.instanceMethod ({ cls := "PureHouse$Reader", name := "term", desc := "()LPureHouse$Term;" } : Jvm.MethodName)) ∈ lw_all := lw_g (lw_at lw_m4 185 rfl) rfl
theorem q1018 : (Jvm.Cond.code ({ cls := "PureHouse$Reader", name := "term", desc := "()LPureHouse$Term;" } : Jvm.MethodName) prog_17_method_20_code (3 : Nat) (Option.some (Jvm.ClassFile.FieldType.object "PureHouse$Term"))) ∈ lw_all := lw_g (lw_at lw_m4 186 rfl) rfl
theorem q1019 : (Jvm.Cond.methodLink "PureHouse$Reader" (229 : Nat) ({ cls := "PureHouse$Reader", name := "binder", desc := "()LPureHouse$Term;" } : Jvm.MethodName)) ∈ lw_all := lw_g (lw_at lw_m4 187 rfl) rfl
theorem q1020 : (Jvm.Cond.privateMethod ({ cls := "PureHouse$Reader", name := "binder", desc := "()LPureHouse$Term;" } : Jvm.MethodName)) ∈ lw_tbl := lw_at lw_m4 188 rfl
theorem q1021 : (Jvm.Cond.instanceMethod ({ cls := "PureHouse$Reader", name := "binder", desc := "()LPureHouse$Term;" } : Jvm.MethodName)) ∈ lw_all := lw_g (lw_at lw_m4 189 rfl) rfl
theorem q1022 : (Jvm.Cond.code ({ cls := "PureHouse$Reader", name := "binder", desc := "()LPureHouse$Term;" } : Jvm.MethodName) prog_17_method_22_code (6 : Nat) (Option.some (Jvm.ClassFile.FieldType.object "PureHouse$Term"))) ∈ lw_all := lw_g (lw_at lw_m4 190 rfl) rfl
theorem q1023 : (Jvm.Cond.methodLink "PureHouse$Reader" (160 : Nat) ({ cls := "PureHouse$Reader", name := "need", desc := "(I)I" } : Jvm.MethodName)) ∈ lw_all := lw_g (lw_at lw_m4 191 rfl) rfl
theorem q1024 : (Jvm.Cond.privateMethod ({ cls := "PureHouse$Reader", name := "need", desc := "(I)I" } : Jvm.MethodName)) ∈ lw_tbl := lw_at lw_m4 192 rfl
theorem q1025 : (Jvm.Cond.instanceMethod ({ cls := "PureHouse$Reader", name := "need", desc := "(I)I" } : Jvm.MethodName)) ∈ lw_all := lw_g (lw_at lw_m4 193 rfl) rfl
theorem q1026 : (Jvm.Cond.code ({ cls := "PureHouse$Reader", name := "need", desc := "(I)I" } : Jvm.MethodName) prog_17_method_13_code (3 : Nat) (Option.some Jvm.ClassFile.FieldType.int)) ∈ lw_all := lw_g (lw_at lw_m4 194 rfl) rfl
theorem q1027 : (Jvm.Cond.classLink "PureHouse$Reader" (251 : Nat) "PureHouse$Lambda") ∈ lw_all := lw_g (lw_at lw_m4 195 rfl) rfl
theorem q1029 : (Jvm.Cond.methodLink "PureHouse$Reader" (253 : Nat) ({ cls := "PureHouse$Lambda", name := "<init>", desc := "(LPureHouse$Term;)V" } : Jvm.MethodName)) ∈ lw_all := lw_g (lw_at lw_m4 197 rfl) rfl
theorem q1042 : (Jvm.Cond.fieldLinkNest "PureHouse$Reader" (263 : Nat) "PureHouse$Lambda" "body" "LPureHouse$Term;" "PureHouse") ∈ lw_tbl := lw_at lw_m4 210 rfl
theorem q1052 : (Jvm.Cond.fieldLink "PureHouse$Reader" (256 : Nat) "PureHouse$Lambda" "at" "I") ∈ lw_all := lw_g (lw_at lw_m4 220 rfl) rfl
theorem q1053 : (Jvm.Cond.fieldLink "PureHouse$Reader" (268 : Nat) "PureHouse$Product" "at" "I") ∈ lw_all := lw_g (lw_at lw_m4 221 rfl) rfl
theorem q1054 : (Jvm.Cond.fieldLink "PureHouse$Reader" (273 : Nat) "PureHouse$Let" "at" "I") ∈ lw_all := lw_g (lw_at lw_m4 222 rfl) rfl
theorem q1056 : (Jvm.Cond.fieldLink "PureHouse$Reader" (290 : Nat) "PureHouse$Use" "at" "I") ∈ lw_all := lw_g (lw_at lw_m4 224 rfl) rfl
theorem q1057 : (Jvm.Cond.fieldLink "PureHouse$Reader" (295 : Nat) "PureHouse$Term" "at" "I") ∈ lw_all := lw_g (lw_at lw_m4 225 rfl) rfl
theorem q1061 : (Jvm.Cond.fieldLink "PureHouse$Reader" (240 : Nat) "PureHouse$Term" "from" "I") ∈ lw_all := lw_g (lw_at lw_m4 229 rfl) rfl
theorem q1062 : (Jvm.Cond.fieldLink "PureHouse$Reader" (278 : Nat) "PureHouse$Product" "from" "I") ∈ lw_all := lw_g (lw_at lw_m4 230 rfl) rfl
theorem q1064 : (Jvm.Cond.fieldLink "PureHouse$Reader" (291 : Nat) "PureHouse$Use" "from" "I") ∈ lw_all := lw_g (lw_at lw_m4 232 rfl) rfl
theorem q1075 : (Jvm.Cond.methodLink "PureHouse$Reader" (259 : Nat) ({ cls := "PureHouse$Reader", name := "body", desc := "(Ljava/lang/String;)LPureHouse$Term;" } : Jvm.MethodName)) ∈ lw_all := lw_g (lw_at lw_m5 3 rfl) rfl
theorem q1076 : (Jvm.Cond.privateMethod ({ cls := "PureHouse$Reader", name := "body", desc := "(Ljava/lang/String;)LPureHouse$Term;" } : Jvm.MethodName)) ∈ lw_tbl := lw_at lw_m5 4 rfl
theorem q1077 : (Jvm.Cond.instanceMethod ({ cls := "PureHouse$Reader", name := "body", desc := "(Ljava/lang/String;)LPureHouse$Term;" } : Jvm.MethodName)) ∈ lw_all := lw_g (lw_at lw_m5 5 rfl) rfl
theorem q1078 : (Jvm.Cond.code ({ cls := "PureHouse$Reader", name := "body", desc := "(Ljava/lang/String;)LPureHouse$Term;" } : Jvm.MethodName) prog_17_method_21_code (3 : Nat) (Option.some (Jvm.ClassFile.FieldType.object "PureHouse$Term"))) ∈ lw_all := lw_g (lw_at lw_m5 6 rfl) rfl
theorem q1079 : (Jvm.Cond.methodLink "PureHouse$Reader" (157 : Nat) ({ cls := "java/util/ArrayList", name := "add", desc := "(Ljava/lang/Object;)Z" } : Jvm.MethodName)) ∈ lw_all := lw_g (lw_at lw_m5 7 rfl) rfl
theorem q1118 : (Jvm.Cond.selects "PureHouse$Reader" ({ cls := "java/lang/Object", name := "getClass", desc := "()Ljava/lang/Class;" } : Jvm.MethodName) ({ cls := "java/lang/Object", name := "getClass", desc := "()Ljava/lang/Class;" } : Jvm.MethodName)) ∈ lw_all := lw_g (lw_at lw_m5 46 rfl) rfl
theorem q1142 : (Jvm.Cond.methodLink "PureHouse$Reader" (245 : Nat) ({ cls := "java/util/ArrayList", name := "size", desc := "()I" } : Jvm.MethodName)) ∈ lw_all := lw_g (lw_at lw_m5 70 rfl) rfl
theorem q1146 : (Jvm.Cond.methodLink "PureHouse$Reader" (247 : Nat) ({ cls := "java/util/ArrayList", name := "remove", desc := "(I)Ljava/lang/Object;" } : Jvm.MethodName)) ∈ lw_all := lw_g (lw_at lw_m5 74 rfl) rfl
theorem q1159 : (Jvm.Cond.classLink "PureHouse$Reader" (265 : Nat) "PureHouse$Product") ∈ lw_all := lw_g (lw_at lw_m5 87 rfl) rfl
theorem q1161 : (Jvm.Cond.methodLink "PureHouse$Reader" (267 : Nat) ({ cls := "PureHouse$Product", name := "<init>", desc := "(LPureHouse$Term;)V" } : Jvm.MethodName)) ∈ lw_all := lw_g (lw_at lw_m5 89 rfl) rfl
theorem q1170 : (Jvm.Cond.fieldLinkNest "PureHouse$Reader" (269 : Nat) "PureHouse$Product" "body" "LPureHouse$Term;" "PureHouse") ∈ lw_tbl := lw_at lw_m5 98 rfl
theorem q1186 : (Jvm.Cond.methodLink "PureHouse$Reader" (232 : Nat) ({ cls := "PureHouse$Reader", name := "isWord", desc := "(Ljava/lang/String;)Z" } : Jvm.MethodName)) ∈ lw_all := lw_g (lw_at lw_m5 114 rfl) rfl
theorem q1187 : (Jvm.Cond.privateMethod ({ cls := "PureHouse$Reader", name := "isWord", desc := "(Ljava/lang/String;)Z" } : Jvm.MethodName)) ∈ lw_tbl := lw_at lw_m5 115 rfl
theorem q1188 : (Jvm.Cond.instanceMethod ({ cls := "PureHouse$Reader", name := "isWord", desc := "(Ljava/lang/String;)Z" } : Jvm.MethodName)) ∈ lw_all := lw_g (lw_at lw_m5 116 rfl) rfl
theorem q1189 : (Jvm.Cond.code ({ cls := "PureHouse$Reader", name := "isWord", desc := "(Ljava/lang/String;)Z" } : Jvm.MethodName) prog_17_method_12_code (2 : Nat) (Option.some Jvm.ClassFile.FieldType.boolean)) ∈ lw_all := lw_g (lw_at lw_m5 117 rfl) rfl
theorem q1190 : (Jvm.Cond.methodLink "PureHouse$Reader" (235 : Nat) ({ cls := "PureHouse$Reader", name := "let", desc := "()LPureHouse$Term;" } : Jvm.MethodName)) ∈ lw_all := lw_g (lw_at lw_m5 118 rfl) rfl
theorem q1191 : (Jvm.Cond.privateMethod ({ cls := "PureHouse$Reader", name := "let", desc := "()LPureHouse$Term;" } : Jvm.MethodName)) ∈ lw_tbl := lw_at lw_m5 119 rfl
theorem q1192 : (Jvm.Cond.instanceMethod ({ cls := "PureHouse$Reader", name := "let", desc := "()LPureHouse$Term;" } : Jvm.MethodName)) ∈ lw_all := lw_g (lw_at lw_m5 120 rfl) rfl
theorem q1193 : (Jvm.Cond.code ({ cls := "PureHouse$Reader", name := "let", desc := "()LPureHouse$Term;" } : Jvm.MethodName) prog_17_method_23_code (4 : Nat) (Option.some (Jvm.ClassFile.FieldType.object "PureHouse$Term"))) ∈ lw_all := lw_g (lw_at lw_m5 121 rfl) rfl
theorem q1194 : (Jvm.Cond.classLink "PureHouse$Reader" (270 : Nat) "PureHouse$Let") ∈ lw_all := lw_g (lw_at lw_m5 122 rfl) rfl
theorem q1196 : (Jvm.Cond.methodLink "PureHouse$Reader" (272 : Nat) ({ cls := "PureHouse$Let", name := "<init>", desc := "(LPureHouse$Term;)V" } : Jvm.MethodName)) ∈ lw_all := lw_g (lw_at lw_m5 124 rfl) rfl
theorem q1204 : (Jvm.Cond.fieldLinkNest "PureHouse$Reader" (274 : Nat) "PureHouse$Let" "body" "LPureHouse$Term;" "PureHouse") ∈ lw_tbl := lw_at lw_m5 132 rfl
theorem q1212 : (Jvm.Cond.methodLink "PureHouse$Reader" (237 : Nat) ({ cls := "PureHouse$Reader", name := "arrow", desc := "()LPureHouse$Term;" } : Jvm.MethodName)) ∈ lw_all := lw_g (lw_at lw_m5 140 rfl) rfl
theorem q1213 : (Jvm.Cond.privateMethod ({ cls := "PureHouse$Reader", name := "arrow", desc := "()LPureHouse$Term;" } : Jvm.MethodName)) ∈ lw_tbl := lw_at lw_m5 141 rfl
theorem q1214 : (Jvm.Cond.instanceMethod ({ cls := "PureHouse$Reader", name := "arrow", desc := "()LPureHouse$Term;" } : Jvm.MethodName)) ∈ lw_all := lw_g (lw_at lw_m5 142 rfl) rfl
theorem q1215 : (Jvm.Cond.code ({ cls := "PureHouse$Reader", name := "arrow", desc := "()LPureHouse$Term;" } : Jvm.MethodName) prog_17_method_24_code (4 : Nat) (Option.some (Jvm.ClassFile.FieldType.object "PureHouse$Term"))) ∈ lw_all := lw_g (lw_at lw_m5 143 rfl) rfl
theorem q1216 : (Jvm.Cond.methodLink "PureHouse$Reader" (275 : Nat) ({ cls := "PureHouse$Reader", name := "use", desc := "()LPureHouse$Term;" } : Jvm.MethodName)) ∈ lw_all := lw_g (lw_at lw_m5 144 rfl) rfl
theorem q1217 : (Jvm.Cond.privateMethod ({ cls := "PureHouse$Reader", name := "use", desc := "()LPureHouse$Term;" } : Jvm.MethodName)) ∈ lw_tbl := lw_at lw_m5 145 rfl
theorem q1218 : (Jvm.Cond.instanceMethod ({ cls := "PureHouse$Reader", name := "use", desc := "()LPureHouse$Term;" } : Jvm.MethodName)) ∈ lw_all := lw_g (lw_at lw_m5 146 rfl) rfl
theorem q1219 : (Jvm.Cond.code ({ cls := "PureHouse$Reader", name := "use", desc := "()LPureHouse$Term;" } : Jvm.MethodName) prog_17_method_25_code (4 : Nat) (Option.some (Jvm.ClassFile.FieldType.object "PureHouse$Term"))) ∈ lw_all := lw_g (lw_at lw_m5 147 rfl) rfl
theorem q1220 : (Jvm.Cond.methodLink "PureHouse$Reader" (281 : Nat) ({ cls := "PureHouse$Reader", name := "atom", desc := "()LPureHouse$Term;" } : Jvm.MethodName)) ∈ lw_all := lw_g (lw_at lw_m5 148 rfl) rfl
theorem q1221 : (Jvm.Cond.privateMethod ({ cls := "PureHouse$Reader", name := "atom", desc := "()LPureHouse$Term;" } : Jvm.MethodName)) ∈ lw_tbl := lw_at lw_m5 149 rfl
theorem q1222 : (Jvm.Cond.instanceMethod ({ cls := "PureHouse$Reader", name := "atom", desc := "()LPureHouse$Term;" } : Jvm.MethodName)) ∈ lw_all := lw_g (lw_at lw_m5 150 rfl) rfl
theorem q1223 : (Jvm.Cond.code ({ cls := "PureHouse$Reader", name := "atom", desc := "()LPureHouse$Term;" } : Jvm.MethodName) prog_17_method_26_code (3 : Nat) (Option.some (Jvm.ClassFile.FieldType.object "PureHouse$Term"))) ∈ lw_all := lw_g (lw_at lw_m5 151 rfl) rfl
theorem q1224 : (Jvm.Cond.methodLink "PureHouse$Reader" (292 : Nat) ({ cls := "PureHouse$Reader", name := "variable", desc := "(Ljava/lang/String;)LPureHouse$Term;" } : Jvm.MethodName)) ∈ lw_all := lw_g (lw_at lw_m5 152 rfl) rfl
theorem q1225 : (Jvm.Cond.privateMethod ({ cls := "PureHouse$Reader", name := "variable", desc := "(Ljava/lang/String;)LPureHouse$Term;" } : Jvm.MethodName)) ∈ lw_tbl := lw_at lw_m5 153 rfl
theorem q1226 : (Jvm.Cond.instanceMethod ({ cls := "PureHouse$Reader", name := "variable", desc := "(Ljava/lang/String;)LPureHouse$Term;" } : Jvm.MethodName)) ∈ lw_all := lw_g (lw_at lw_m5 154 rfl) rfl
theorem q1227 : (Jvm.Cond.code ({ cls := "PureHouse$Reader", name := "variable", desc := "(Ljava/lang/String;)LPureHouse$Term;" } : Jvm.MethodName) prog_17_method_27_code (3 : Nat) (Option.some (Jvm.ClassFile.FieldType.object "PureHouse$Term"))) ∈ lw_all := lw_g (lw_at lw_m5 155 rfl) rfl
theorem q1228 : (Jvm.Cond.methodLink "PureHouse$Reader" (296 : Nat) ({ cls := "java/util/ArrayList", name := "get", desc := "(I)Ljava/lang/Object;" } : Jvm.MethodName)) ∈ lw_all := lw_g (lw_at lw_m5 156 rfl) rfl
theorem q1236 : (Jvm.Cond.classLink "PureHouse$Reader" (103 : Nat) "java/lang/String") ∈ lw_all := lw_g (lw_at lw_m5 164 rfl) rfl
theorem q1237 : (Jvm.Cond.classLink "PureHouse$Reader" (299 : Nat) "PureHouse$Bound") ∈ lw_all := lw_g (lw_at lw_m5 165 rfl) rfl
theorem q1239 : (Jvm.Cond.methodLink "PureHouse$Reader" (301 : Nat) ({ cls := "PureHouse$Bound", name := "<init>", desc := "(I)V" } : Jvm.MethodName)) ∈ lw_all := lw_g (lw_at lw_m5 167 rfl) rfl
theorem q1250 : (Jvm.Cond.classLink "PureHouse$Reader" (302 : Nat) "PureHouse$Free") ∈ lw_all := lw_g (lw_at lw_m5 178 rfl) rfl
theorem q1252 : (Jvm.Cond.methodLink "PureHouse$Reader" (304 : Nat) ({ cls := "PureHouse$Free", name := "<init>", desc := "(Ljava/lang/String;)V" } : Jvm.MethodName)) ∈ lw_all := lw_g (lw_at lw_m5 180 rfl) rfl
theorem q1274 : (Jvm.Cond.classLink "PureHouse$Reader" (284 : Nat) "PureHouse$Use") ∈ lw_all := lw_g (lw_at lw_m5 202 rfl) rfl
theorem q1276 : (Jvm.Cond.methodLink "PureHouse$Reader" (286 : Nat) ({ cls := "PureHouse$Use", name := "<init>", desc := "(LPureHouse$Term;)V" } : Jvm.MethodName)) ∈ lw_all := lw_g (lw_at lw_m5 204 rfl) rfl
theorem q1299 : (Jvm.Cond.fieldLinkNest "PureHouse$Reader" (287 : Nat) "PureHouse$Use" "parts" "Ljava/util/ArrayList;" "PureHouse") ∈ lw_tbl := lw_at lw_m5 227 rfl
theorem q1307 : (Jvm.Cond.stringRef "PureHouse$Reader" (279 : Nat) "") ∈ lw_tbl := lw_at lw_m5 235 rfl
theorem q1308 : (Jvm.Cond.fieldLink "PureHouse$Reader" (179 : Nat) "PureHouse$Kind" "SORT" "LPureHouse$Kind;") ∈ lw_all := lw_g (lw_at lw_m5 236 rfl) rfl
theorem q1310 : (Jvm.Cond.fieldLink "PureHouse$Reader" (191 : Nat) "PureHouse$Kind" "AXIOM" "LPureHouse$Kind;") ∈ lw_all := lw_g (lw_at lw_m5 238 rfl) rfl
theorem q1312 : (Jvm.Cond.fieldLink "PureHouse$Reader" (194 : Nat) "PureHouse$Kind" "RULE" "LPureHouse$Kind;") ∈ lw_all := lw_g (lw_at lw_m6 0 rfl) rfl
theorem q1314 : (Jvm.Cond.fieldLink "PureHouse$Reader" (197 : Nat) "PureHouse$Kind" "CHECK" "LPureHouse$Kind;") ∈ lw_all := lw_g (lw_at lw_m6 2 rfl) rfl
theorem q1316 : (Jvm.Cond.methodLink "PureHouse$Reader" (200 : Nat) ({ cls := "PureHouse$Reader", name := "asked", desc := "(LPureHouse$Kind;I)LPureHouse$Statement;" } : Jvm.MethodName)) ∈ lw_all := lw_g (lw_at lw_m6 4 rfl) rfl
theorem q1317 : (Jvm.Cond.privateMethod ({ cls := "PureHouse$Reader", name := "asked", desc := "(LPureHouse$Kind;I)LPureHouse$Statement;" } : Jvm.MethodName)) ∈ lw_tbl := lw_at lw_m6 5 rfl
theorem q1318 : (Jvm.Cond.instanceMethod ({ cls := "PureHouse$Reader", name := "asked", desc := "(LPureHouse$Kind;I)LPureHouse$Statement;" } : Jvm.MethodName)) ∈ lw_all := lw_g (lw_at lw_m6 6 rfl) rfl
theorem q1319 : (Jvm.Cond.code ({ cls := "PureHouse$Reader", name := "asked", desc := "(LPureHouse$Kind;I)LPureHouse$Statement;" } : Jvm.MethodName) prog_17_method_18_code (4 : Nat) (Option.some (Jvm.ClassFile.FieldType.object "PureHouse$Statement"))) ∈ lw_all := lw_g (lw_at lw_m6 7 rfl) rfl
theorem q1320 : (Jvm.Cond.fieldLink "PureHouse$Reader" (212 : Nat) "PureHouse$Kind" "NORM" "LPureHouse$Kind;") ∈ lw_all := lw_g (lw_at lw_m6 8 rfl) rfl
theorem q1322 : (Jvm.Cond.fieldLink "PureHouse$Reader" (215 : Nat) "PureHouse$Kind" "HEAD" "LPureHouse$Kind;") ∈ lw_all := lw_g (lw_at lw_m6 10 rfl) rfl
theorem q1324 : (Jvm.Cond.fieldLink "PureHouse$Reader" (218 : Nat) "PureHouse$Kind" "SAME" "LPureHouse$Kind;") ∈ lw_all := lw_g (lw_at lw_m6 12 rfl) rfl
theorem q2580 : (Jvm.Cond.castable "PureHouse$Reader" "java/lang/Object") ∈ lw_tbl := lw_at lw_m11 68 rfl
theorem in_X6 : ∀ w ∈ wsX60, w ∈ lw_all := lw_in wsX60 [462, 464, 466, 468, 470, 472, 474, 476, 478, 480] (by decide +kernel) (by decide +kernel)
