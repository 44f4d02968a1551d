/-! PureHouseModel -/
set_option maxRecDepth 100000
def RX5 : String := "PureHouseModel"
def TX5 : u_T := fun k => match k with
  | 0 => ("PureHouseModel", "words", "[Ljava/lang/String;", true)
  | 1 => ("PureHouseModel", "code", "I", false)
  | 2 => ("PureHouseModel", "tape", "[I", true)
  | 3 => ("PureHouseModel", "taped", "I", false)
  | 4 => ("PureHouseModel", "text", "[I", true)
  | 5 => ("PureHouseModel", "size", "I", false)
  | 6 => ("PureHouseModel", "at", "I", false)
  | 7 => ("PureHouseModel", "token", "I", false)
  | 8 => ("PureHouseModel", "sign", "I", false)
  | 9 => ("PureHouseModel", "begins", "I", false)
  | 10 => ("PureHouseModel", "ends", "I", false)
  | 11 => ("PureHouseModel", "word", "I", false)
  | 12 => ("PureHouseModel", "fault", "I", false)
  | 13 => ("PureHouseModel", "faultPlace", "I", false)
  | 14 => ("PureHouseModel", "done", "I", false)
  | 15 => ("PureHouseModel", "builds", "Z", false)
  | 16 => ("PureHouseModel", "sortName", "[I", true)
  | 17 => ("PureHouseModel", "sortLong", "[I", true)
  | 18 => ("PureHouseModel", "axiom", "[I", true)
  | 19 => ("PureHouseModel", "rule", "[I", true)
  | 20 => ("PureHouseModel", "sorts", "I", false)
  | 21 => ("PureHouseModel", "knownName", "[I", true)
  | 22 => ("PureHouseModel", "knownLong", "[I", true)
  | 23 => ("PureHouseModel", "knownType", "[I", true)
  | 24 => ("PureHouseModel", "knownSort", "[I", true)
  | 25 => ("PureHouseModel", "knownValue", "[I", true)
  | 26 => ("PureHouseModel", "knownNodes", "[I", true)
  | 27 => ("PureHouseModel", "known", "I", false)
  | 28 => ("PureHouseModel", "marks", "[I", true)
  | 29 => ("PureHouseModel", "marked", "I", false)
  | 30 => ("PureHouseModel", "kind", "[I", true)
  | 31 => ("PureHouseModel", "one", "[I", true)
  | 32 => ("PureHouseModel", "two", "[I", true)
  | 33 => ("PureHouseModel", "three", "[I", true)
  | 34 => ("PureHouseModel", "place", "[I", true)
  | 35 => ("PureHouseModel", "signAt", "[I", true)
  | 36 => ("PureHouseModel", "keepA", "[I", true)
  | 37 => ("PureHouseModel", "keepB", "[I", true)
  | 38 => ("PureHouseModel", "binder", "[I", true)
  | 39 => ("PureHouseModel", "nodes", "I", false)
  | 40 => ("PureHouseModel", "boundType", "[I", true)
  | 41 => ("PureHouseModel", "boundSort", "[I", true)
  | 42 => ("PureHouseModel", "scope", "[I", true)
  | 43 => ("PureHouseModel", "scopes", "I", false)
  | 44 => ("PureHouseModel", "up", "[I", true)
  | 45 => ("PureHouseModel", "binds", "[I", true)
  | 46 => ("PureHouseModel", "term", "[I", true)
  | 47 => ("PureHouseModel", "under", "[I", true)
  | 48 => ("PureHouseModel", "cells", "I", false)
  | 49 => ("PureHouseModel", "waitTerm", "[I", true)
  | 50 => ("PureHouseModel", "waitCell", "[I", true)
  | 51 => ("PureHouseModel", "waits", "I", false)
  | 52 => ("PureHouseModel", "headTerm", "I", false)
  | 53 => ("PureHouseModel", "headCell", "I", false)
  | 54 => ("PureHouseModel", "foundTerm", "I", false)
  | 55 => ("PureHouseModel", "foundCell", "I", false)
  | 56 => ("PureHouseModel", "isFound", "Z", false)
  | 57 => ("PureHouseModel", "fresh", "I", false)
  | 58 => ("PureHouseModel", "chain", "[I", true)
  | 59 => ("PureHouseModel", "chained", "I", false)
  | 60 => ("PureHouseModel", "typeTerm", "I", false)
  | 61 => ("PureHouseModel", "typeSort", "I", false)
  | 62 => ("PureHouseModel", "firstNode", "I", false)
  | 63 => ("PureHouseModel", "limit", "I", false)
  | 64 => ("PureHouseModel", "work", "I", false)
  | 65 => ("PureHouseModel", "life", "I", false)
  | 66 => ("PureHouseModel", "stepsB", "I", false)
  | 67 => ("PureHouseModel", "stepsD", "I", false)
  | 68 => ("PureHouseModel", "stepsZ", "I", false)
  | 69 => ("PureHouseModel", "stepsP", "I", false)
  | 70 => ("PureHouseModel", "stepsV", "I", false)
  | 71 => ("PureHouseModel", "looks", "I", false)
  | 72 => ("PureHouseModel", "bad", "I", false)
  | 73 => ("PureHouseModel", "badPlace", "I", false)
  | 74 => ("PureHouseModel", "out", "[I", true)
  | 75 => ("PureHouseModel", "outs", "I", false)
  | 76 => ("PureHouseModel", "stWord", "I", false)
  | 77 => ("PureHouseModel", "stPlace", "I", false)
  | 78 => ("PureHouseModel", "stTerm", "I", false)
  | 79 => ("PureHouseModel", "stOther", "I", false)
  | 80 => ("PureHouseModel", "stX", "I", false)
  | 81 => ("PureHouseModel", "stY", "I", false)
  | _ => ("PureHouseModel", "stZ", "I", false)
def tyX5 : Nat → FieldType := fun k => match k with
  | 0 => .array (.object "java/lang/String")
  | 1 => .int
  | 2 => .array .int
  | 3 => .int
  | 4 => .array .int
  | 5 => .int
  | 6 => .int
  | 7 => .int
  | 8 => .int
  | 9 => .int
  | 10 => .int
  | 11 => .int
  | 12 => .int
  | 13 => .int
  | 14 => .int
  | 15 => .boolean
  | 16 => .array .int
  | 17 => .array .int
  | 18 => .array .int
  | 19 => .array .int
  | 20 => .int
  | 21 => .array .int
  | 22 => .array .int
  | 23 => .array .int
  | 24 => .array .int
  | 25 => .array .int
  | 26 => .array .int
  | 27 => .int
  | 28 => .array .int
  | 29 => .int
  | 30 => .array .int
  | 31 => .array .int
  | 32 => .array .int
  | 33 => .array .int
  | 34 => .array .int
  | 35 => .array .int
  | 36 => .array .int
  | 37 => .array .int
  | 38 => .array .int
  | 39 => .int
  | 40 => .array .int
  | 41 => .array .int
  | 42 => .array .int
  | 43 => .int
  | 44 => .array .int
  | 45 => .array .int
  | 46 => .array .int
  | 47 => .array .int
  | 48 => .int
  | 49 => .array .int
  | 50 => .array .int
  | 51 => .int
  | 52 => .int
  | 53 => .int
  | 54 => .int
  | 55 => .int
  | 56 => .boolean
  | 57 => .int
  | 58 => .array .int
  | 59 => .int
  | 60 => .int
  | 61 => .int
  | 62 => .int
  | 63 => .int
  | 64 => .int
  | 65 => .int
  | 66 => .int
  | 67 => .int
  | 68 => .int
  | 69 => .int
  | 70 => .int
  | 71 => .int
  | 72 => .int
  | 73 => .int
  | 74 => .array .int
  | 75 => .int
  | 76 => .int
  | 77 => .int
  | 78 => .int
  | 79 => .int
  | 80 => .int
  | 81 => .int
  | _ => .int
abbrev wsX50 : List Cond := u_ws RX5 TX5 83
set_option maxRecDepth 100000 in
theorem nmX5 : ∀ a, a < 83 → ∀ b, b < 83 → a ≠ b → (TX5 a).2.1 ≠ (TX5 b).2.1 := by decide +kernel
set_option maxRecDepth 100000 in
theorem tyX5_ok : ∀ k, k < 83 → parseFieldDescriptor (TX5 k).2.2.1 = some (tyX5 k) := by decide +kernel
abbrev cX5_init : ByteArray := prog_26_method_1_code
def yX5_init : MethodName := ⟨RX5, "<init>", "()V"⟩
theorem dX5_init_0 : decode cX5_init 0 = .ok (.aload_n 0, 1) := by decide +kernel
theorem dX5_init_1 : decode cX5_init 1 = .ok (.invokespecial 1, 3) := by decide +kernel
theorem dX5_init_4 : decode cX5_init 4 = .ok (.aload_n 0, 1) := by decide +kernel
theorem dX5_init_5 : decode cX5_init 5 = .ok (.bipush 9, 2) := by decide +kernel
theorem dX5_init_7 : decode cX5_init 7 = .ok (.anewarray 7, 3) := by decide +kernel
theorem dX5_init_10 : decode cX5_init 10 = .ok (.dup, 1) := by decide +kernel
theorem dX5_init_11 : decode cX5_init 11 = .ok (.iconst 0, 1) := by decide +kernel
theorem dX5_init_12 : decode cX5_init 12 = .ok (.ldc 9, 2) := by decide +kernel
theorem dX5_init_14 : decode cX5_init 14 = .ok (.aastore, 1) := by decide +kernel
theorem dX5_init_15 : decode cX5_init 15 = .ok (.dup, 1) := by decide +kernel
theorem dX5_init_16 : decode cX5_init 16 = .ok (.iconst 1, 1) := by decide +kernel
theorem dX5_init_17 : decode cX5_init 17 = .ok (.ldc 11, 2) := by decide +kernel
theorem dX5_init_19 : decode cX5_init 19 = .ok (.aastore, 1) := by decide +kernel
theorem dX5_init_20 : decode cX5_init 20 = .ok (.dup, 1) := by decide +kernel
theorem dX5_init_21 : decode cX5_init 21 = .ok (.iconst 2, 1) := by decide +kernel
theorem dX5_init_22 : decode cX5_init 22 = .ok (.ldc 13, 2) := by decide +kernel
theorem dX5_init_24 : decode cX5_init 24 = .ok (.aastore, 1) := by decide +kernel
theorem dX5_init_25 : decode cX5_init 25 = .ok (.dup, 1) := by decide +kernel
theorem dX5_init_26 : decode cX5_init 26 = .ok (.iconst 3, 1) := by decide +kernel
theorem dX5_init_27 : decode cX5_init 27 = .ok (.ldc 15, 2) := by decide +kernel
theorem dX5_init_29 : decode cX5_init 29 = .ok (.aastore, 1) := by decide +kernel
theorem dX5_init_30 : decode cX5_init 30 = .ok (.dup, 1) := by decide +kernel
theorem dX5_init_31 : decode cX5_init 31 = .ok (.iconst 4, 1) := by decide +kernel
theorem dX5_init_32 : decode cX5_init 32 = .ok (.ldc 17, 2) := by decide +kernel
theorem dX5_init_34 : decode cX5_init 34 = .ok (.aastore, 1) := by decide +kernel
theorem dX5_init_35 : decode cX5_init 35 = .ok (.dup, 1) := by decide +kernel
theorem dX5_init_36 : decode cX5_init 36 = .ok (.iconst 5, 1) := by decide +kernel
theorem dX5_init_37 : decode cX5_init 37 = .ok (.ldc 19, 2) := by decide +kernel
theorem dX5_init_39 : decode cX5_init 39 = .ok (.aastore, 1) := by decide +kernel
theorem dX5_init_40 : decode cX5_init 40 = .ok (.dup, 1) := by decide +kernel
theorem dX5_init_41 : decode cX5_init 41 = .ok (.bipush 6, 2) := by decide +kernel
theorem dX5_init_43 : decode cX5_init 43 = .ok (.ldc 21, 2) := by decide +kernel
theorem dX5_init_45 : decode cX5_init 45 = .ok (.aastore, 1) := by decide +kernel
theorem dX5_init_46 : decode cX5_init 46 = .ok (.dup, 1) := by decide +kernel
theorem dX5_init_47 : decode cX5_init 47 = .ok (.bipush 7, 2) := by decide +kernel
theorem dX5_init_49 : decode cX5_init 49 = .ok (.ldc 23, 2) := by decide +kernel
theorem dX5_init_51 : decode cX5_init 51 = .ok (.aastore, 1) := by decide +kernel
theorem dX5_init_52 : decode cX5_init 52 = .ok (.dup, 1) := by decide +kernel
theorem dX5_init_53 : decode cX5_init 53 = .ok (.bipush 8, 2) := by decide +kernel
theorem dX5_init_55 : decode cX5_init 55 = .ok (.ldc 25, 2) := by decide +kernel
theorem dX5_init_57 : decode cX5_init 57 = .ok (.aastore, 1) := by decide +kernel
theorem dX5_init_58 : decode cX5_init 58 = .ok (.putfield 27, 3) := by decide +kernel
theorem dX5_init_61 : decode cX5_init 61 = .ok (.aload_n 0, 1) := by decide +kernel
theorem dX5_init_62 : decode cX5_init 62 = .ok (.sipush 4000, 3) := by decide +kernel
theorem dX5_init_65 : decode cX5_init 65 = .ok (.newarray .int, 2) := by decide +kernel
theorem dX5_init_67 : decode cX5_init 67 = .ok (.putfield 33, 3) := by decide +kernel
theorem dX5_init_70 : decode cX5_init 70 = .ok (.aload_n 0, 1) := by decide +kernel
theorem dX5_init_71 : decode cX5_init 71 = .ok (.sipush 4000, 3) := by decide +kernel
theorem dX5_init_74 : decode cX5_init 74 = .ok (.newarray .int, 2) := by decide +kernel
theorem dX5_init_76 : decode cX5_init 76 = .ok (.putfield 37, 3) := by decide +kernel
theorem dX5_init_79 : decode cX5_init 79 = .ok (.aload_n 0, 1) := by decide +kernel
theorem dX5_init_80 : decode cX5_init 80 = .ok (.iconst (-1), 1) := by decide +kernel
theorem dX5_init_81 : decode cX5_init 81 = .ok (.putfield 40, 3) := by decide +kernel
theorem dX5_init_84 : decode cX5_init 84 = .ok (.aload_n 0, 1) := by decide +kernel
theorem dX5_init_85 : decode cX5_init 85 = .ok (.bipush 96, 2) := by decide +kernel
theorem dX5_init_87 : decode cX5_init 87 = .ok (.newarray .int, 2) := by decide +kernel
theorem dX5_init_89 : decode cX5_init 89 = .ok (.putfield 44, 3) := by decide +kernel
theorem dX5_init_92 : decode cX5_init 92 = .ok (.aload_n 0, 1) := by decide +kernel
theorem dX5_init_93 : decode cX5_init 93 = .ok (.bipush 8, 2) := by decide +kernel
theorem dX5_init_95 : decode cX5_init 95 = .ok (.newarray .int, 2) := by decide +kernel
theorem dX5_init_97 : decode cX5_init 97 = .ok (.putfield 47, 3) := by decide +kernel
theorem dX5_init_100 : decode cX5_init 100 = .ok (.aload_n 0, 1) := by decide +kernel
theorem dX5_init_101 : decode cX5_init 101 = .ok (.bipush 8, 2) := by decide +kernel
theorem dX5_init_103 : decode cX5_init 103 = .ok (.newarray .int, 2) := by decide +kernel
theorem dX5_init_105 : decode cX5_init 105 = .ok (.putfield 50, 3) := by decide +kernel
theorem dX5_init_108 : decode cX5_init 108 = .ok (.aload_n 0, 1) := by decide +kernel
theorem dX5_init_109 : decode cX5_init 109 = .ok (.bipush 64, 2) := by decide +kernel
theorem dX5_init_111 : decode cX5_init 111 = .ok (.newarray .int, 2) := by decide +kernel
theorem dX5_init_113 : decode cX5_init 113 = .ok (.putfield 52, 3) := by decide +kernel
theorem dX5_init_116 : decode cX5_init 116 = .ok (.aload_n 0, 1) := by decide +kernel
theorem dX5_init_117 : decode cX5_init 117 = .ok (.sipush 1200, 3) := by decide +kernel
theorem dX5_init_120 : decode cX5_init 120 = .ok (.newarray .int, 2) := by decide +kernel
theorem dX5_init_122 : decode cX5_init 122 = .ok (.putfield 54, 3) := by decide +kernel
theorem dX5_init_125 : decode cX5_init 125 = .ok (.aload_n 0, 1) := by decide +kernel
theorem dX5_init_126 : decode cX5_init 126 = .ok (.bipush 100, 2) := by decide +kernel
theorem dX5_init_128 : decode cX5_init 128 = .ok (.newarray .int, 2) := by decide +kernel
theorem dX5_init_130 : decode cX5_init 130 = .ok (.putfield 57, 3) := by decide +kernel
theorem dX5_init_133 : decode cX5_init 133 = .ok (.aload_n 0, 1) := by decide +kernel
theorem dX5_init_134 : decode cX5_init 134 = .ok (.bipush 100, 2) := by decide +kernel
theorem dX5_init_136 : decode cX5_init 136 = .ok (.newarray .int, 2) := by decide +kernel
theorem dX5_init_138 : decode cX5_init 138 = .ok (.putfield 60, 3) := by decide +kernel
theorem dX5_init_141 : decode cX5_init 141 = .ok (.aload_n 0, 1) := by decide +kernel
theorem dX5_init_142 : decode cX5_init 142 = .ok (.bipush 100, 2) := by decide +kernel
theorem dX5_init_144 : decode cX5_init 144 = .ok (.newarray .int, 2) := by decide +kernel
theorem dX5_init_146 : decode cX5_init 146 = .ok (.putfield 63, 3) := by decide +kernel
theorem dX5_init_149 : decode cX5_init 149 = .ok (.aload_n 0, 1) := by decide +kernel
theorem dX5_init_150 : decode cX5_init 150 = .ok (.bipush 100, 2) := by decide +kernel
theorem dX5_init_152 : decode cX5_init 152 = .ok (.newarray .int, 2) := by decide +kernel
theorem dX5_init_154 : decode cX5_init 154 = .ok (.putfield 66, 3) := by decide +kernel
theorem dX5_init_157 : decode cX5_init 157 = .ok (.aload_n 0, 1) := by decide +kernel
theorem dX5_init_158 : decode cX5_init 158 = .ok (.bipush 100, 2) := by decide +kernel
theorem dX5_init_160 : decode cX5_init 160 = .ok (.newarray .int, 2) := by decide +kernel
theorem dX5_init_162 : decode cX5_init 162 = .ok (.putfield 69, 3) := by decide +kernel
theorem dX5_init_165 : decode cX5_init 165 = .ok (.aload_n 0, 1) := by decide +kernel
theorem dX5_init_166 : decode cX5_init 166 = .ok (.bipush 20, 2) := by decide +kernel
theorem dX5_init_168 : decode cX5_init 168 = .ok (.newarray .int, 2) := by decide +kernel
theorem dX5_init_170 : decode cX5_init 170 = .ok (.putfield 72, 3) := by decide +kernel
theorem dX5_init_173 : decode cX5_init 173 = .ok (.aload_n 0, 1) := by decide +kernel
theorem dX5_init_174 : decode cX5_init 174 = .ok (.ldc 75, 2) := by decide +kernel
theorem dX5_init_176 : decode cX5_init 176 = .ok (.newarray .int, 2) := by decide +kernel
theorem dX5_init_178 : decode cX5_init 178 = .ok (.putfield 76, 3) := by decide +kernel
theorem dX5_init_181 : decode cX5_init 181 = .ok (.aload_n 0, 1) := by decide +kernel
theorem dX5_init_182 : decode cX5_init 182 = .ok (.ldc 75, 2) := by decide +kernel
theorem dX5_init_184 : decode cX5_init 184 = .ok (.newarray .int, 2) := by decide +kernel
theorem dX5_init_186 : decode cX5_init 186 = .ok (.putfield 79, 3) := by decide +kernel
theorem dX5_init_189 : decode cX5_init 189 = .ok (.aload_n 0, 1) := by decide +kernel
theorem dX5_init_190 : decode cX5_init 190 = .ok (.ldc 75, 2) := by decide +kernel
theorem dX5_init_192 : decode cX5_init 192 = .ok (.newarray .int, 2) := by decide +kernel
theorem dX5_init_194 : decode cX5_init 194 = .ok (.putfield 82, 3) := by decide +kernel
theorem dX5_init_197 : decode cX5_init 197 = .ok (.aload_n 0, 1) := by decide +kernel
theorem dX5_init_198 : decode cX5_init 198 = .ok (.ldc 75, 2) := by decide +kernel
theorem dX5_init_200 : decode cX5_init 200 = .ok (.newarray .int, 2) := by decide +kernel
theorem dX5_init_202 : decode cX5_init 202 = .ok (.putfield 85, 3) := by decide +kernel
theorem dX5_init_205 : decode cX5_init 205 = .ok (.aload_n 0, 1) := by decide +kernel
theorem dX5_init_206 : decode cX5_init 206 = .ok (.ldc 75, 2) := by decide +kernel
theorem dX5_init_208 : decode cX5_init 208 = .ok (.newarray .int, 2) := by decide +kernel
theorem dX5_init_210 : decode cX5_init 210 = .ok (.putfield 88, 3) := by decide +kernel
theorem dX5_init_213 : decode cX5_init 213 = .ok (.aload_n 0, 1) := by decide +kernel
theorem dX5_init_214 : decode cX5_init 214 = .ok (.ldc 75, 2) := by decide +kernel
theorem dX5_init_216 : decode cX5_init 216 = .ok (.newarray .int, 2) := by decide +kernel
theorem dX5_init_218 : decode cX5_init 218 = .ok (.putfield 91, 3) := by decide +kernel
theorem dX5_init_221 : decode cX5_init 221 = .ok (.aload_n 0, 1) := by decide +kernel
theorem dX5_init_222 : decode cX5_init 222 = .ok (.ldc 75, 2) := by decide +kernel
theorem dX5_init_224 : decode cX5_init 224 = .ok (.newarray .int, 2) := by decide +kernel
theorem dX5_init_226 : decode cX5_init 226 = .ok (.putfield 94, 3) := by decide +kernel
theorem dX5_init_229 : decode cX5_init 229 = .ok (.aload_n 0, 1) := by decide +kernel
theorem dX5_init_230 : decode cX5_init 230 = .ok (.ldc 75, 2) := by decide +kernel
theorem dX5_init_232 : decode cX5_init 232 = .ok (.newarray .int, 2) := by decide +kernel
theorem dX5_init_234 : decode cX5_init 234 = .ok (.putfield 97, 3) := by decide +kernel
theorem dX5_init_237 : decode cX5_init 237 = .ok (.aload_n 0, 1) := by decide +kernel
theorem dX5_init_238 : decode cX5_init 238 = .ok (.ldc 75, 2) := by decide +kernel
theorem dX5_init_240 : decode cX5_init 240 = .ok (.newarray .int, 2) := by decide +kernel
theorem dX5_init_242 : decode cX5_init 242 = .ok (.putfield 100, 3) := by decide +kernel
theorem dX5_init_245 : decode cX5_init 245 = .ok (.aload_n 0, 1) := by decide +kernel
theorem dX5_init_246 : decode cX5_init 246 = .ok (.ldc 75, 2) := by decide +kernel
theorem dX5_init_248 : decode cX5_init 248 = .ok (.newarray .int, 2) := by decide +kernel
theorem dX5_init_250 : decode cX5_init 250 = .ok (.putfield 103, 3) := by decide +kernel
theorem dX5_init_253 : decode cX5_init 253 = .ok (.aload_n 0, 1) := by decide +kernel
theorem dX5_init_254 : decode cX5_init 254 = .ok (.ldc 75, 2) := by decide +kernel
theorem dX5_init_256 : decode cX5_init 256 = .ok (.newarray .int, 2) := by decide +kernel
theorem dX5_init_258 : decode cX5_init 258 = .ok (.putfield 106, 3) := by decide +kernel
theorem dX5_init_261 : decode cX5_init 261 = .ok (.aload_n 0, 1) := by decide +kernel
theorem dX5_init_262 : decode cX5_init 262 = .ok (.bipush 50, 2) := by decide +kernel
theorem dX5_init_264 : decode cX5_init 264 = .ok (.newarray .int, 2) := by decide +kernel
theorem dX5_init_266 : decode cX5_init 266 = .ok (.putfield 109, 3) := by decide +kernel
theorem dX5_init_269 : decode cX5_init 269 = .ok (.aload_n 0, 1) := by decide +kernel
theorem dX5_init_270 : decode cX5_init 270 = .ok (.ldc 112, 2) := by decide +kernel
theorem dX5_init_272 : decode cX5_init 272 = .ok (.newarray .int, 2) := by decide +kernel
theorem dX5_init_274 : decode cX5_init 274 = .ok (.putfield 113, 3) := by decide +kernel
theorem dX5_init_277 : decode cX5_init 277 = .ok (.aload_n 0, 1) := by decide +kernel
theorem dX5_init_278 : decode cX5_init 278 = .ok (.ldc 112, 2) := by decide +kernel
theorem dX5_init_280 : decode cX5_init 280 = .ok (.newarray .int, 2) := by decide +kernel
theorem dX5_init_282 : decode cX5_init 282 = .ok (.putfield 116, 3) := by decide +kernel
theorem dX5_init_285 : decode cX5_init 285 = .ok (.aload_n 0, 1) := by decide +kernel
theorem dX5_init_286 : decode cX5_init 286 = .ok (.ldc 112, 2) := by decide +kernel
theorem dX5_init_288 : decode cX5_init 288 = .ok (.newarray .int, 2) := by decide +kernel
theorem dX5_init_290 : decode cX5_init 290 = .ok (.putfield 119, 3) := by decide +kernel
theorem dX5_init_293 : decode cX5_init 293 = .ok (.aload_n 0, 1) := by decide +kernel
theorem dX5_init_294 : decode cX5_init 294 = .ok (.ldc 112, 2) := by decide +kernel
theorem dX5_init_296 : decode cX5_init 296 = .ok (.newarray .int, 2) := by decide +kernel
theorem dX5_init_298 : decode cX5_init 298 = .ok (.putfield 122, 3) := by decide +kernel
theorem dX5_init_301 : decode cX5_init 301 = .ok (.aload_n 0, 1) := by decide +kernel
theorem dX5_init_302 : decode cX5_init 302 = .ok (.iconst 1, 1) := by decide +kernel
theorem dX5_init_303 : decode cX5_init 303 = .ok (.putfield 125, 3) := by decide +kernel
theorem dX5_init_306 : decode cX5_init 306 = .ok (.aload_n 0, 1) := by decide +kernel
theorem dX5_init_307 : decode cX5_init 307 = .ok (.sipush 21000, 3) := by decide +kernel
theorem dX5_init_310 : decode cX5_init 310 = .ok (.newarray .int, 2) := by decide +kernel
theorem dX5_init_312 : decode cX5_init 312 = .ok (.putfield 128, 3) := by decide +kernel
theorem dX5_init_315 : decode cX5_init 315 = .ok (.aload_n 0, 1) := by decide +kernel
theorem dX5_init_316 : decode cX5_init 316 = .ok (.sipush 21000, 3) := by decide +kernel
theorem dX5_init_319 : decode cX5_init 319 = .ok (.newarray .int, 2) := by decide +kernel
theorem dX5_init_321 : decode cX5_init 321 = .ok (.putfield 131, 3) := by decide +kernel
theorem dX5_init_324 : decode cX5_init 324 = .ok (.aload_n 0, 1) := by decide +kernel
theorem dX5_init_325 : decode cX5_init 325 = .ok (.sipush 4000, 3) := by decide +kernel
theorem dX5_init_328 : decode cX5_init 328 = .ok (.newarray .int, 2) := by decide +kernel
theorem dX5_init_330 : decode cX5_init 330 = .ok (.putfield 134, 3) := by decide +kernel
theorem dX5_init_333 : decode cX5_init 333 = .ok (.aload_n 0, 1) := by decide +kernel
theorem dX5_init_334 : decode cX5_init 334 = .ok (.sipush 5000, 3) := by decide +kernel
theorem dX5_init_337 : decode cX5_init 337 = .ok (.putfield 137, 3) := by decide +kernel
theorem dX5_init_340 : decode cX5_init 340 = .ok (.aload_n 0, 1) := by decide +kernel
theorem dX5_init_341 : decode cX5_init 341 = .ok (.sipush 3000, 3) := by decide +kernel
theorem dX5_init_344 : decode cX5_init 344 = .ok (.newarray .int, 2) := by decide +kernel
theorem dX5_init_346 : decode cX5_init 346 = .ok (.putfield 140, 3) := by decide +kernel
theorem dX5_init_349 : decode cX5_init 349 = .ok (.aload_n 0, 1) := by decide +kernel
theorem dX5_init_350 : decode cX5_init 350 = .ok (.bipush 7, 2) := by decide +kernel
theorem dX5_init_352 : decode cX5_init 352 = .ok (.invokevirtual 143, 3) := by decide +kernel
theorem dX5_init_355 : decode cX5_init 355 = .ok (.return_, 1) := by decide +kernel
abbrev cX5_table : ByteArray := prog_26_method_6_code
def yX5_table : MethodName := ⟨RX5, "table", "(I)V"⟩
theorem dX5_table_0 : decode cX5_table 0 = .ok (.aload_n 0, 1) := by decide +kernel
theorem dX5_table_1 : decode cX5_table 1 = .ok (.iconst 0, 1) := by decide +kernel
theorem dX5_table_2 : decode cX5_table 2 = .ok (.putfield 160, 3) := by decide +kernel
theorem dX5_table_5 : decode cX5_table 5 = .ok (.iconst 0, 1) := by decide +kernel
theorem dX5_table_6 : decode cX5_table 6 = .ok (.istore_n 2, 1) := by decide +kernel
theorem dX5_table_7 : decode cX5_table 7 = .ok (.iload_n 2, 1) := by decide +kernel
theorem dX5_table_8 : decode cX5_table 8 = .ok (.bipush 64, 2) := by decide +kernel
theorem dX5_table_10 : decode cX5_table 10 = .ok (.if_icmp .ge 16, 3) := by decide +kernel
theorem dX5_table_13 : decode cX5_table 13 = .ok (.aload_n 0, 1) := by decide +kernel
theorem dX5_table_14 : decode cX5_table 14 = .ok (.getfield 52, 3) := by decide +kernel
theorem dX5_table_17 : decode cX5_table 17 = .ok (.iload_n 2, 1) := by decide +kernel
theorem dX5_table_18 : decode cX5_table 18 = .ok (.iconst (-1), 1) := by decide +kernel
theorem dX5_table_19 : decode cX5_table 19 = .ok (.iastore, 1) := by decide +kernel
theorem dX5_table_20 : decode cX5_table 20 = .ok (.iinc 2 1, 3) := by decide +kernel
theorem dX5_table_23 : decode cX5_table 23 = .ok (.goto (-16), 3) := by decide +kernel
theorem dX5_table_26 : decode cX5_table 26 = .ok (.iconst 0, 1) := by decide +kernel
theorem dX5_table_27 : decode cX5_table 27 = .ok (.istore_n 2, 1) := by decide +kernel
theorem dX5_table_28 : decode cX5_table 28 = .ok (.iload_n 2, 1) := by decide +kernel
theorem dX5_table_29 : decode cX5_table 29 = .ok (.bipush 8, 2) := by decide +kernel
theorem dX5_table_31 : decode cX5_table 31 = .ok (.if_icmp .ge 16, 3) := by decide +kernel
theorem dX5_table_34 : decode cX5_table 34 = .ok (.aload_n 0, 1) := by decide +kernel
theorem dX5_table_35 : decode cX5_table 35 = .ok (.getfield 50, 3) := by decide +kernel
theorem dX5_table_38 : decode cX5_table 38 = .ok (.iload_n 2, 1) := by decide +kernel
theorem dX5_table_39 : decode cX5_table 39 = .ok (.iconst (-1), 1) := by decide +kernel
theorem dX5_table_40 : decode cX5_table 40 = .ok (.iastore, 1) := by decide +kernel
theorem dX5_table_41 : decode cX5_table 41 = .ok (.iinc 2 1, 3) := by decide +kernel
theorem dX5_table_44 : decode cX5_table 44 = .ok (.goto (-16), 3) := by decide +kernel
theorem dX5_table_47 : decode cX5_table 47 = .ok (.aload_n 0, 1) := by decide +kernel
theorem dX5_table_48 : decode cX5_table 48 = .ok (.iconst 0, 1) := by decide +kernel
theorem dX5_table_49 : decode cX5_table 49 = .ok (.putfield 167, 3) := by decide +kernel
theorem dX5_table_52 : decode cX5_table 52 = .ok (.aload_n 0, 1) := by decide +kernel
theorem dX5_table_53 : decode cX5_table 53 = .ok (.iconst 0, 1) := by decide +kernel
theorem dX5_table_54 : decode cX5_table 54 = .ok (.putfield 170, 3) := by decide +kernel
theorem dX5_table_57 : decode cX5_table 57 = .ok (.aload_n 0, 1) := by decide +kernel
theorem dX5_table_58 : decode cX5_table 58 = .ok (.bipush 8, 2) := by decide +kernel
theorem dX5_table_60 : decode cX5_table 60 = .ok (.putfield 173, 3) := by decide +kernel
theorem dX5_table_63 : decode cX5_table 63 = .ok (.iload_n 1, 1) := by decide +kernel
theorem dX5_table_64 : decode cX5_table 64 = .ok (.bipush 8, 2) := by decide +kernel
theorem dX5_table_66 : decode cX5_table 66 = .ok (.if_icmp .ne 4, 3) := by decide +kernel
theorem dX5_table_69 : decode cX5_table 69 = .ok (.return_, 1) := by decide +kernel
theorem dX5_table_70 : decode cX5_table 70 = .ok (.aload_n 0, 1) := by decide +kernel
theorem dX5_table_71 : decode cX5_table 71 = .ok (.ldc 176, 2) := by decide +kernel
theorem dX5_table_73 : decode cX5_table 73 = .ok (.invokevirtual 178, 3) := by decide +kernel
theorem dX5_table_76 : decode cX5_table 76 = .ok (.istore_n 2, 1) := by decide +kernel
theorem dX5_table_77 : decode cX5_table 77 = .ok (.aload_n 0, 1) := by decide +kernel
theorem dX5_table_78 : decode cX5_table 78 = .ok (.ldc 182, 2) := by decide +kernel
theorem dX5_table_80 : decode cX5_table 80 = .ok (.invokevirtual 178, 3) := by decide +kernel
theorem dX5_table_83 : decode cX5_table 83 = .ok (.istore_n 3, 1) := by decide +kernel
theorem dX5_table_84 : decode cX5_table 84 = .ok (.aload_n 0, 1) := by decide +kernel
theorem dX5_table_85 : decode cX5_table 85 = .ok (.getfield 50, 3) := by decide +kernel
theorem dX5_table_88 : decode cX5_table 88 = .ok (.iload_n 2, 1) := by decide +kernel
theorem dX5_table_89 : decode cX5_table 89 = .ok (.iload_n 3, 1) := by decide +kernel
theorem dX5_table_90 : decode cX5_table 90 = .ok (.iastore, 1) := by decide +kernel
theorem dX5_table_91 : decode cX5_table 91 = .ok (.aload_n 0, 1) := by decide +kernel
theorem dX5_table_92 : decode cX5_table 92 = .ok (.getfield 52, 3) := by decide +kernel
theorem dX5_table_95 : decode cX5_table 95 = .ok (.bipush 8, 2) := by decide +kernel
theorem dX5_table_97 : decode cX5_table 97 = .ok (.iload_n 2, 1) := by decide +kernel
theorem dX5_table_98 : decode cX5_table 98 = .ok (.imul, 1) := by decide +kernel
theorem dX5_table_99 : decode cX5_table 99 = .ok (.iload_n 2, 1) := by decide +kernel
theorem dX5_table_100 : decode cX5_table 100 = .ok (.iadd, 1) := by decide +kernel
theorem dX5_table_101 : decode cX5_table 101 = .ok (.iload_n 2, 1) := by decide +kernel
theorem dX5_table_102 : decode cX5_table 102 = .ok (.iastore, 1) := by decide +kernel
theorem dX5_table_103 : decode cX5_table 103 = .ok (.iload_n 1, 1) := by decide +kernel
theorem dX5_table_104 : decode cX5_table 104 = .ok (.iconst 1, 1) := by decide +kernel
theorem dX5_table_105 : decode cX5_table 105 = .ok (.iand, 1) := by decide +kernel
theorem dX5_table_106 : decode cX5_table 106 = .ok (.ifCond .eq 15, 3) := by decide +kernel
theorem dX5_table_109 : decode cX5_table 109 = .ok (.aload_n 0, 1) := by decide +kernel
theorem dX5_table_110 : decode cX5_table 110 = .ok (.getfield 52, 3) := by decide +kernel
theorem dX5_table_113 : decode cX5_table 113 = .ok (.bipush 8, 2) := by decide +kernel
theorem dX5_table_115 : decode cX5_table 115 = .ok (.iload_n 3, 1) := by decide +kernel
theorem dX5_table_116 : decode cX5_table 116 = .ok (.imul, 1) := by decide +kernel
theorem dX5_table_117 : decode cX5_table 117 = .ok (.iload_n 2, 1) := by decide +kernel
theorem dX5_table_118 : decode cX5_table 118 = .ok (.iadd, 1) := by decide +kernel
theorem dX5_table_119 : decode cX5_table 119 = .ok (.iload_n 2, 1) := by decide +kernel
theorem dX5_table_120 : decode cX5_table 120 = .ok (.iastore, 1) := by decide +kernel
theorem dX5_table_121 : decode cX5_table 121 = .ok (.iload_n 1, 1) := by decide +kernel
theorem dX5_table_122 : decode cX5_table 122 = .ok (.iconst 2, 1) := by decide +kernel
theorem dX5_table_123 : decode cX5_table 123 = .ok (.iand, 1) := by decide +kernel
theorem dX5_table_124 : decode cX5_table 124 = .ok (.ifCond .eq 15, 3) := by decide +kernel
theorem dX5_table_127 : decode cX5_table 127 = .ok (.aload_n 0, 1) := by decide +kernel
theorem dX5_table_128 : decode cX5_table 128 = .ok (.getfield 52, 3) := by decide +kernel
theorem dX5_table_131 : decode cX5_table 131 = .ok (.bipush 8, 2) := by decide +kernel
theorem dX5_table_133 : decode cX5_table 133 = .ok (.iload_n 3, 1) := by decide +kernel
theorem dX5_table_134 : decode cX5_table 134 = .ok (.imul, 1) := by decide +kernel
theorem dX5_table_135 : decode cX5_table 135 = .ok (.iload_n 3, 1) := by decide +kernel
theorem dX5_table_136 : decode cX5_table 136 = .ok (.iadd, 1) := by decide +kernel
theorem dX5_table_137 : decode cX5_table 137 = .ok (.iload_n 3, 1) := by decide +kernel
theorem dX5_table_138 : decode cX5_table 138 = .ok (.iastore, 1) := by decide +kernel
theorem dX5_table_139 : decode cX5_table 139 = .ok (.iload_n 1, 1) := by decide +kernel
theorem dX5_table_140 : decode cX5_table 140 = .ok (.iconst 4, 1) := by decide +kernel
theorem dX5_table_141 : decode cX5_table 141 = .ok (.iand, 1) := by decide +kernel
theorem dX5_table_142 : decode cX5_table 142 = .ok (.ifCond .eq 15, 3) := by decide +kernel
theorem dX5_table_145 : decode cX5_table 145 = .ok (.aload_n 0, 1) := by decide +kernel
theorem dX5_table_146 : decode cX5_table 146 = .ok (.getfield 52, 3) := by decide +kernel
theorem dX5_table_149 : decode cX5_table 149 = .ok (.bipush 8, 2) := by decide +kernel
theorem dX5_table_151 : decode cX5_table 151 = .ok (.iload_n 2, 1) := by decide +kernel
theorem dX5_table_152 : decode cX5_table 152 = .ok (.imul, 1) := by decide +kernel
theorem dX5_table_153 : decode cX5_table 153 = .ok (.iload_n 3, 1) := by decide +kernel
theorem dX5_table_154 : decode cX5_table 154 = .ok (.iadd, 1) := by decide +kernel
theorem dX5_table_155 : decode cX5_table 155 = .ok (.iload_n 3, 1) := by decide +kernel
theorem dX5_table_156 : decode cX5_table 156 = .ok (.iastore, 1) := by decide +kernel
theorem dX5_table_157 : decode cX5_table 157 = .ok (.return_, 1) := by decide +kernel
abbrev cX5_newSort : ByteArray := prog_26_method_5_code
def yX5_newSort : MethodName := ⟨RX5, "newSort", "(Ljava/lang/String;)I"⟩
theorem dX5_newSort_0 : decode cX5_newSort 0 = .ok (.iconst 0, 1) := by decide +kernel
theorem dX5_newSort_1 : decode cX5_newSort 1 = .ok (.istore_n 2, 1) := by decide +kernel
theorem dX5_newSort_2 : decode cX5_newSort 2 = .ok (.iload_n 2, 1) := by decide +kernel
theorem dX5_newSort_3 : decode cX5_newSort 3 = .ok (.aload_n 1, 1) := by decide +kernel
theorem dX5_newSort_4 : decode cX5_newSort 4 = .ok (.invokevirtual 156, 3) := by decide +kernel
theorem dX5_newSort_7 : decode cX5_newSort 7 = .ok (.if_icmp .ge 28, 3) := by decide +kernel
theorem dX5_newSort_10 : decode cX5_newSort 10 = .ok (.aload_n 0, 1) := by decide +kernel
theorem dX5_newSort_11 : decode cX5_newSort 11 = .ok (.getfield 44, 3) := by decide +kernel
theorem dX5_newSort_14 : decode cX5_newSort 14 = .ok (.bipush 12, 2) := by decide +kernel
theorem dX5_newSort_16 : decode cX5_newSort 16 = .ok (.aload_n 0, 1) := by decide +kernel
theorem dX5_newSort_17 : decode cX5_newSort 17 = .ok (.getfield 160, 3) := by decide +kernel
theorem dX5_newSort_20 : decode cX5_newSort 20 = .ok (.imul, 1) := by decide +kernel
theorem dX5_newSort_21 : decode cX5_newSort 21 = .ok (.iload_n 2, 1) := by decide +kernel
theorem dX5_newSort_22 : decode cX5_newSort 22 = .ok (.iadd, 1) := by decide +kernel
theorem dX5_newSort_23 : decode cX5_newSort 23 = .ok (.aload_n 1, 1) := by decide +kernel
theorem dX5_newSort_24 : decode cX5_newSort 24 = .ok (.iload_n 2, 1) := by decide +kernel
theorem dX5_newSort_25 : decode cX5_newSort 25 = .ok (.invokevirtual 163, 3) := by decide +kernel
theorem dX5_newSort_28 : decode cX5_newSort 28 = .ok (.iastore, 1) := by decide +kernel
theorem dX5_newSort_29 : decode cX5_newSort 29 = .ok (.iinc 2 1, 3) := by decide +kernel
theorem dX5_newSort_32 : decode cX5_newSort 32 = .ok (.goto (-30), 3) := by decide +kernel
theorem dX5_newSort_35 : decode cX5_newSort 35 = .ok (.aload_n 0, 1) := by decide +kernel
theorem dX5_newSort_36 : decode cX5_newSort 36 = .ok (.getfield 47, 3) := by decide +kernel
theorem dX5_newSort_39 : decode cX5_newSort 39 = .ok (.aload_n 0, 1) := by decide +kernel
theorem dX5_newSort_40 : decode cX5_newSort 40 = .ok (.getfield 160, 3) := by decide +kernel
theorem dX5_newSort_43 : decode cX5_newSort 43 = .ok (.aload_n 1, 1) := by decide +kernel
theorem dX5_newSort_44 : decode cX5_newSort 44 = .ok (.invokevirtual 156, 3) := by decide +kernel
theorem dX5_newSort_47 : decode cX5_newSort 47 = .ok (.iastore, 1) := by decide +kernel
theorem dX5_newSort_48 : decode cX5_newSort 48 = .ok (.aload_n 0, 1) := by decide +kernel
theorem dX5_newSort_49 : decode cX5_newSort 49 = .ok (.getfield 50, 3) := by decide +kernel
theorem dX5_newSort_52 : decode cX5_newSort 52 = .ok (.aload_n 0, 1) := by decide +kernel
theorem dX5_newSort_53 : decode cX5_newSort 53 = .ok (.getfield 160, 3) := by decide +kernel
theorem dX5_newSort_56 : decode cX5_newSort 56 = .ok (.iconst (-1), 1) := by decide +kernel
theorem dX5_newSort_57 : decode cX5_newSort 57 = .ok (.iastore, 1) := by decide +kernel
theorem dX5_newSort_58 : decode cX5_newSort 58 = .ok (.aload_n 0, 1) := by decide +kernel
theorem dX5_newSort_59 : decode cX5_newSort 59 = .ok (.getfield 76, 3) := by decide +kernel
theorem dX5_newSort_62 : decode cX5_newSort 62 = .ok (.aload_n 0, 1) := by decide +kernel
theorem dX5_newSort_63 : decode cX5_newSort 63 = .ok (.getfield 160, 3) := by decide +kernel
theorem dX5_newSort_66 : decode cX5_newSort 66 = .ok (.iconst 3, 1) := by decide +kernel
theorem dX5_newSort_67 : decode cX5_newSort 67 = .ok (.iastore, 1) := by decide +kernel
theorem dX5_newSort_68 : decode cX5_newSort 68 = .ok (.aload_n 0, 1) := by decide +kernel
theorem dX5_newSort_69 : decode cX5_newSort 69 = .ok (.getfield 79, 3) := by decide +kernel
theorem dX5_newSort_72 : decode cX5_newSort 72 = .ok (.aload_n 0, 1) := by decide +kernel
theorem dX5_newSort_73 : decode cX5_newSort 73 = .ok (.getfield 160, 3) := by decide +kernel
theorem dX5_newSort_76 : decode cX5_newSort 76 = .ok (.aload_n 0, 1) := by decide +kernel
theorem dX5_newSort_77 : decode cX5_newSort 77 = .ok (.getfield 160, 3) := by decide +kernel
theorem dX5_newSort_80 : decode cX5_newSort 80 = .ok (.iastore, 1) := by decide +kernel
theorem dX5_newSort_81 : decode cX5_newSort 81 = .ok (.aload_n 0, 1) := by decide +kernel
theorem dX5_newSort_82 : decode cX5_newSort 82 = .ok (.dup, 1) := by decide +kernel
theorem dX5_newSort_83 : decode cX5_newSort 83 = .ok (.getfield 160, 3) := by decide +kernel
theorem dX5_newSort_86 : decode cX5_newSort 86 = .ok (.iconst 1, 1) := by decide +kernel
theorem dX5_newSort_87 : decode cX5_newSort 87 = .ok (.iadd, 1) := by decide +kernel
theorem dX5_newSort_88 : decode cX5_newSort 88 = .ok (.putfield 160, 3) := by decide +kernel
theorem dX5_newSort_91 : decode cX5_newSort 91 = .ok (.aload_n 0, 1) := by decide +kernel
theorem dX5_newSort_92 : decode cX5_newSort 92 = .ok (.getfield 160, 3) := by decide +kernel
theorem dX5_newSort_95 : decode cX5_newSort 95 = .ok (.iconst 1, 1) := by decide +kernel
theorem dX5_newSort_96 : decode cX5_newSort 96 = .ok (.isub, 1) := by decide +kernel
theorem dX5_newSort_97 : decode cX5_newSort 97 = .ok (.ireturn, 1) := by decide +kernel
abbrev cX5_thrown : ByteArray := prog_26_method_2_code
def yX5_thrown : MethodName := ⟨RX5, "thrown", "()I"⟩
theorem dX5_thrown_0 : decode cX5_thrown 0 = .ok (.aload_n 0, 1) := by decide +kernel
theorem dX5_thrown_1 : decode cX5_thrown 1 = .ok (.getfield 147, 3) := by decide +kernel
theorem dX5_thrown_4 : decode cX5_thrown 4 = .ok (.ireturn, 1) := by decide +kernel
abbrev cX5_feed : ByteArray := prog_26_method_7_code
def yX5_feed : MethodName := ⟨RX5, "feed", "(IIIII)I"⟩
theorem dX5_feed_0 : decode cX5_feed 0 = .ok (.aload_n 0, 1) := by decide +kernel
theorem dX5_feed_1 : decode cX5_feed 1 = .ok (.iconst 0, 1) := by decide +kernel
theorem dX5_feed_2 : decode cX5_feed 2 = .ok (.putfield 147, 3) := by decide +kernel
theorem dX5_feed_5 : decode cX5_feed 5 = .ok (.aload_n 0, 1) := by decide +kernel
theorem dX5_feed_6 : decode cX5_feed 6 = .ok (.getfield 183, 3) := by decide +kernel
theorem dX5_feed_9 : decode cX5_feed 9 = .ok (.bipush 20, 2) := by decide +kernel
theorem dX5_feed_11 : decode cX5_feed 11 = .ok (.iadd, 1) := by decide +kernel
theorem dX5_feed_12 : decode cX5_feed 12 = .ok (.sipush 4000, 3) := by decide +kernel
theorem dX5_feed_15 : decode cX5_feed 15 = .ok (.if_icmp .le 5, 3) := by decide +kernel
theorem dX5_feed_18 : decode cX5_feed 18 = .ok (.iconst (-1), 1) := by decide +kernel
theorem dX5_feed_19 : decode cX5_feed 19 = .ok (.ireturn, 1) := by decide +kernel
theorem dX5_feed_20 : decode cX5_feed 20 = .ok (.iconst 0, 1) := by decide +kernel
theorem dX5_feed_21 : decode cX5_feed 21 = .ok (.istore 6, 2) := by decide +kernel
theorem dX5_feed_23 : decode cX5_feed 23 = .ok (.iload 6, 2) := by decide +kernel
theorem dX5_feed_25 : decode cX5_feed 25 = .ok (.bipush 20, 2) := by decide +kernel
theorem dX5_feed_27 : decode cX5_feed 27 = .ok (.if_icmp .ge 93, 3) := by decide +kernel
theorem dX5_feed_30 : decode cX5_feed 30 = .ok (.iload 6, 2) := by decide +kernel
theorem dX5_feed_32 : decode cX5_feed 32 = .ok (.iconst 4, 1) := by decide +kernel
theorem dX5_feed_33 : decode cX5_feed 33 = .ok (.if_icmp .ge 7, 3) := by decide +kernel
theorem dX5_feed_36 : decode cX5_feed 36 = .ok (.iload_n 1, 1) := by decide +kernel
theorem dX5_feed_37 : decode cX5_feed 37 = .ok (.goto 39, 3) := by decide +kernel
theorem dX5_feed_40 : decode cX5_feed 40 = .ok (.iload 6, 2) := by decide +kernel
theorem dX5_feed_42 : decode cX5_feed 42 = .ok (.bipush 8, 2) := by decide +kernel
theorem dX5_feed_44 : decode cX5_feed 44 = .ok (.if_icmp .ge 7, 3) := by decide +kernel
theorem dX5_feed_47 : decode cX5_feed 47 = .ok (.iload_n 2, 1) := by decide +kernel
theorem dX5_feed_48 : decode cX5_feed 48 = .ok (.goto 28, 3) := by decide +kernel
theorem dX5_feed_51 : decode cX5_feed 51 = .ok (.iload 6, 2) := by decide +kernel
theorem dX5_feed_53 : decode cX5_feed 53 = .ok (.bipush 12, 2) := by decide +kernel
theorem dX5_feed_55 : decode cX5_feed 55 = .ok (.if_icmp .ge 7, 3) := by decide +kernel
theorem dX5_feed_58 : decode cX5_feed 58 = .ok (.iload_n 3, 1) := by decide +kernel
theorem dX5_feed_59 : decode cX5_feed 59 = .ok (.goto 17, 3) := by decide +kernel
theorem dX5_feed_62 : decode cX5_feed 62 = .ok (.iload 6, 2) := by decide +kernel
theorem dX5_feed_64 : decode cX5_feed 64 = .ok (.bipush 16, 2) := by decide +kernel
theorem dX5_feed_66 : decode cX5_feed 66 = .ok (.if_icmp .ge 8, 3) := by decide +kernel
theorem dX5_feed_69 : decode cX5_feed 69 = .ok (.iload 4, 2) := by decide +kernel
theorem dX5_feed_71 : decode cX5_feed 71 = .ok (.goto 5, 3) := by decide +kernel
theorem dX5_feed_74 : decode cX5_feed 74 = .ok (.iload 5, 2) := by decide +kernel
theorem dX5_feed_76 : decode cX5_feed 76 = .ok (.istore 7, 2) := by decide +kernel
theorem dX5_feed_78 : decode cX5_feed 78 = .ok (.aload_n 0, 1) := by decide +kernel
theorem dX5_feed_79 : decode cX5_feed 79 = .ok (.getfield 33, 3) := by decide +kernel
theorem dX5_feed_82 : decode cX5_feed 82 = .ok (.aload_n 0, 1) := by decide +kernel
theorem dX5_feed_83 : decode cX5_feed 83 = .ok (.getfield 183, 3) := by decide +kernel
theorem dX5_feed_86 : decode cX5_feed 86 = .ok (.iload 7, 2) := by decide +kernel
theorem dX5_feed_88 : decode cX5_feed 88 = .ok (.bipush 24, 2) := by decide +kernel
theorem dX5_feed_90 : decode cX5_feed 90 = .ok (.bipush 8, 2) := by decide +kernel
theorem dX5_feed_92 : decode cX5_feed 92 = .ok (.iload 6, 2) := by decide +kernel
theorem dX5_feed_94 : decode cX5_feed 94 = .ok (.iconst 4, 1) := by decide +kernel
theorem dX5_feed_95 : decode cX5_feed 95 = .ok (.irem, 1) := by decide +kernel
theorem dX5_feed_96 : decode cX5_feed 96 = .ok (.imul, 1) := by decide +kernel
theorem dX5_feed_97 : decode cX5_feed 97 = .ok (.isub, 1) := by decide +kernel
theorem dX5_feed_98 : decode cX5_feed 98 = .ok (.ishr, 1) := by decide +kernel
theorem dX5_feed_99 : decode cX5_feed 99 = .ok (.sipush 255, 3) := by decide +kernel
theorem dX5_feed_102 : decode cX5_feed 102 = .ok (.iand, 1) := by decide +kernel
theorem dX5_feed_103 : decode cX5_feed 103 = .ok (.iastore, 1) := by decide +kernel
theorem dX5_feed_104 : decode cX5_feed 104 = .ok (.aload_n 0, 1) := by decide +kernel
theorem dX5_feed_105 : decode cX5_feed 105 = .ok (.dup, 1) := by decide +kernel
theorem dX5_feed_106 : decode cX5_feed 106 = .ok (.getfield 183, 3) := by decide +kernel
theorem dX5_feed_109 : decode cX5_feed 109 = .ok (.iconst 1, 1) := by decide +kernel
theorem dX5_feed_110 : decode cX5_feed 110 = .ok (.iadd, 1) := by decide +kernel
theorem dX5_feed_111 : decode cX5_feed 111 = .ok (.putfield 183, 3) := by decide +kernel
theorem dX5_feed_114 : decode cX5_feed 114 = .ok (.iinc 6 1, 3) := by decide +kernel
theorem dX5_feed_117 : decode cX5_feed 117 = .ok (.goto (-94), 3) := by decide +kernel
theorem dX5_feed_120 : decode cX5_feed 120 = .ok (.aload_n 0, 1) := by decide +kernel
theorem dX5_feed_121 : decode cX5_feed 121 = .ok (.getfield 183, 3) := by decide +kernel
theorem dX5_feed_124 : decode cX5_feed 124 = .ok (.ireturn, 1) := by decide +kernel
abbrev cX5_text : ByteArray := prog_26_method_63_code
def yX5_text : MethodName := ⟨RX5, "text", "(I)I"⟩
theorem dX5_text_0 : decode cX5_text 0 = .ok (.aload_n 0, 1) := by decide +kernel
theorem dX5_text_1 : decode cX5_text 1 = .ok (.iconst 0, 1) := by decide +kernel
theorem dX5_text_2 : decode cX5_text 2 = .ok (.putfield 147, 3) := by decide +kernel
theorem dX5_text_5 : decode cX5_text 5 = .ok (.iload_n 1, 1) := by decide +kernel
theorem dX5_text_6 : decode cX5_text 6 = .ok (.ifCond .lt 11, 3) := by decide +kernel
theorem dX5_text_9 : decode cX5_text 9 = .ok (.iload_n 1, 1) := by decide +kernel
theorem dX5_text_10 : decode cX5_text 10 = .ok (.aload_n 0, 1) := by decide +kernel
theorem dX5_text_11 : decode cX5_text 11 = .ok (.getfield 183, 3) := by decide +kernel
theorem dX5_text_14 : decode cX5_text 14 = .ok (.if_icmp .le 9, 3) := by decide +kernel
theorem dX5_text_17 : decode cX5_text 17 = .ok (.aload_n 0, 1) := by decide +kernel
theorem dX5_text_18 : decode cX5_text 18 = .ok (.iconst 1, 1) := by decide +kernel
theorem dX5_text_19 : decode cX5_text 19 = .ok (.invokevirtual 468, 3) := by decide +kernel
theorem dX5_text_22 : decode cX5_text 22 = .ok (.ireturn, 1) := by decide +kernel
theorem dX5_text_23 : decode cX5_text 23 = .ok (.iconst 0, 1) := by decide +kernel
theorem dX5_text_24 : decode cX5_text 24 = .ok (.istore_n 2, 1) := by decide +kernel
theorem dX5_text_25 : decode cX5_text 25 = .ok (.iload_n 2, 1) := by decide +kernel
theorem dX5_text_26 : decode cX5_text 26 = .ok (.iload_n 1, 1) := by decide +kernel
theorem dX5_text_27 : decode cX5_text 27 = .ok (.if_icmp .ge 21, 3) := by decide +kernel
theorem dX5_text_30 : decode cX5_text 30 = .ok (.aload_n 0, 1) := by decide +kernel
theorem dX5_text_31 : decode cX5_text 31 = .ok (.getfield 37, 3) := by decide +kernel
theorem dX5_text_34 : decode cX5_text 34 = .ok (.iload_n 2, 1) := by decide +kernel
theorem dX5_text_35 : decode cX5_text 35 = .ok (.aload_n 0, 1) := by decide +kernel
theorem dX5_text_36 : decode cX5_text 36 = .ok (.getfield 33, 3) := by decide +kernel
theorem dX5_text_39 : decode cX5_text 39 = .ok (.iload_n 2, 1) := by decide +kernel
theorem dX5_text_40 : decode cX5_text 40 = .ok (.iaload, 1) := by decide +kernel
theorem dX5_text_41 : decode cX5_text 41 = .ok (.iastore, 1) := by decide +kernel
theorem dX5_text_42 : decode cX5_text 42 = .ok (.iinc 2 1, 3) := by decide +kernel
theorem dX5_text_45 : decode cX5_text 45 = .ok (.goto (-20), 3) := by decide +kernel
theorem dX5_text_48 : decode cX5_text 48 = .ok (.aload_n 0, 1) := by decide +kernel
theorem dX5_text_49 : decode cX5_text 49 = .ok (.iload_n 1, 1) := by decide +kernel
theorem dX5_text_50 : decode cX5_text 50 = .ok (.putfield 186, 3) := by decide +kernel
theorem dX5_text_53 : decode cX5_text 53 = .ok (.aload_n 0, 1) := by decide +kernel
theorem dX5_text_54 : decode cX5_text 54 = .ok (.iconst 0, 1) := by decide +kernel
theorem dX5_text_55 : decode cX5_text 55 = .ok (.putfield 183, 3) := by decide +kernel
theorem dX5_text_58 : decode cX5_text 58 = .ok (.aload_n 0, 1) := by decide +kernel
theorem dX5_text_59 : decode cX5_text 59 = .ok (.iconst 0, 1) := by decide +kernel
theorem dX5_text_60 : decode cX5_text 60 = .ok (.putfield 378, 3) := by decide +kernel
theorem dX5_text_63 : decode cX5_text 63 = .ok (.aload_n 0, 1) := by decide +kernel
theorem dX5_text_64 : decode cX5_text 64 = .ok (.iconst 0, 1) := by decide +kernel
theorem dX5_text_65 : decode cX5_text 65 = .ok (.putfield 150, 3) := by decide +kernel
theorem dX5_text_68 : decode cX5_text 68 = .ok (.aload_n 0, 1) := by decide +kernel
theorem dX5_text_69 : decode cX5_text 69 = .ok (.iconst 0, 1) := by decide +kernel
theorem dX5_text_70 : decode cX5_text 70 = .ok (.putfield 471, 3) := by decide +kernel
theorem dX5_text_73 : decode cX5_text 73 = .ok (.aload_n 0, 1) := by decide +kernel
theorem dX5_text_74 : decode cX5_text 74 = .ok (.invokevirtual 474, 3) := by decide +kernel
theorem dX5_text_77 : decode cX5_text 77 = .ok (.aload_n 0, 1) := by decide +kernel
theorem dX5_text_78 : decode cX5_text 78 = .ok (.getfield 150, 3) := by decide +kernel
theorem dX5_text_81 : decode cX5_text 81 = .ok (.ifCond .ne 78, 3) := by decide +kernel
theorem dX5_text_84 : decode cX5_text 84 = .ok (.aload_n 0, 1) := by decide +kernel
theorem dX5_text_85 : decode cX5_text 85 = .ok (.iconst 1, 1) := by decide +kernel
theorem dX5_text_86 : decode cX5_text 86 = .ok (.putfield 237, 3) := by decide +kernel
theorem dX5_text_89 : decode cX5_text 89 = .ok (.aload_n 0, 1) := by decide +kernel
theorem dX5_text_90 : decode cX5_text 90 = .ok (.iconst 0, 1) := by decide +kernel
theorem dX5_text_91 : decode cX5_text 91 = .ok (.putfield 193, 3) := by decide +kernel
theorem dX5_text_94 : decode cX5_text 94 = .ok (.aload_n 0, 1) := by decide +kernel
theorem dX5_text_95 : decode cX5_text 95 = .ok (.invokevirtual 231, 3) := by decide +kernel
theorem dX5_text_98 : decode cX5_text 98 = .ok (.aload_n 0, 1) := by decide +kernel
theorem dX5_text_99 : decode cX5_text 99 = .ok (.getfield 150, 3) := by decide +kernel
theorem dX5_text_102 : decode cX5_text 102 = .ok (.ifCond .ne 52, 3) := by decide +kernel
theorem dX5_text_105 : decode cX5_text 105 = .ok (.aload_n 0, 1) := by decide +kernel
theorem dX5_text_106 : decode cX5_text 106 = .ok (.getfield 203, 3) := by decide +kernel
theorem dX5_text_109 : decode cX5_text 109 = .ok (.ifCond .eq 45, 3) := by decide +kernel
theorem dX5_text_112 : decode cX5_text 112 = .ok (.aload_n 0, 1) := by decide +kernel
theorem dX5_text_113 : decode cX5_text 113 = .ok (.invokevirtual 477, 3) := by decide +kernel
theorem dX5_text_116 : decode cX5_text 116 = .ok (.aload_n 0, 1) := by decide +kernel
theorem dX5_text_117 : decode cX5_text 117 = .ok (.invokevirtual 299, 3) := by decide +kernel
theorem dX5_text_120 : decode cX5_text 120 = .ok (.aload_n 0, 1) := by decide +kernel
theorem dX5_text_121 : decode cX5_text 121 = .ok (.invokevirtual 480, 3) := by decide +kernel
theorem dX5_text_124 : decode cX5_text 124 = .ok (.aload_n 0, 1) := by decide +kernel
theorem dX5_text_125 : decode cX5_text 125 = .ok (.invokevirtual 483, 3) := by decide +kernel
theorem dX5_text_128 : decode cX5_text 128 = .ok (.aload_n 0, 1) := by decide +kernel
theorem dX5_text_129 : decode cX5_text 129 = .ok (.getfield 150, 3) := by decide +kernel
theorem dX5_text_132 : decode cX5_text 132 = .ok (.ifCond .ne (-34), 3) := by decide +kernel
theorem dX5_text_135 : decode cX5_text 135 = .ok (.aload_n 0, 1) := by decide +kernel
theorem dX5_text_136 : decode cX5_text 136 = .ok (.dup, 1) := by decide +kernel
theorem dX5_text_137 : decode cX5_text 137 = .ok (.getfield 471, 3) := by decide +kernel
theorem dX5_text_140 : decode cX5_text 140 = .ok (.iconst 1, 1) := by decide +kernel
theorem dX5_text_141 : decode cX5_text 141 = .ok (.iadd, 1) := by decide +kernel
theorem dX5_text_142 : decode cX5_text 142 = .ok (.putfield 471, 3) := by decide +kernel
theorem dX5_text_145 : decode cX5_text 145 = .ok (.aload_n 0, 1) := by decide +kernel
theorem dX5_text_146 : decode cX5_text 146 = .ok (.bipush 59, 2) := by decide +kernel
theorem dX5_text_148 : decode cX5_text 148 = .ok (.invokevirtual 252, 3) := by decide +kernel
theorem dX5_text_151 : decode cX5_text 151 = .ok (.goto (-53), 3) := by decide +kernel
theorem dX5_text_154 : decode cX5_text 154 = .ok (.aload_n 0, 1) := by decide +kernel
theorem dX5_text_155 : decode cX5_text 155 = .ok (.iconst 0, 1) := by decide +kernel
theorem dX5_text_156 : decode cX5_text 156 = .ok (.putfield 237, 3) := by decide +kernel
theorem dX5_text_159 : decode cX5_text 159 = .ok (.aload_n 0, 1) := by decide +kernel
theorem dX5_text_160 : decode cX5_text 160 = .ok (.aload_n 0, 1) := by decide +kernel
theorem dX5_text_161 : decode cX5_text 161 = .ok (.getfield 150, 3) := by decide +kernel
theorem dX5_text_164 : decode cX5_text 164 = .ok (.putfield 486, 3) := by decide +kernel
theorem dX5_text_167 : decode cX5_text 167 = .ok (.aload_n 0, 1) := by decide +kernel
theorem dX5_text_168 : decode cX5_text 168 = .ok (.aload_n 0, 1) := by decide +kernel
theorem dX5_text_169 : decode cX5_text 169 = .ok (.getfield 150, 3) := by decide +kernel
theorem dX5_text_172 : decode cX5_text 172 = .ok (.ifCond .ne 7, 3) := by decide +kernel
theorem dX5_text_175 : decode cX5_text 175 = .ok (.iconst (-1), 1) := by decide +kernel
theorem dX5_text_176 : decode cX5_text 176 = .ok (.goto 7, 3) := by decide +kernel
theorem dX5_text_179 : decode cX5_text 179 = .ok (.aload_n 0, 1) := by decide +kernel
theorem dX5_text_180 : decode cX5_text 180 = .ok (.getfield 153, 3) := by decide +kernel
theorem dX5_text_183 : decode cX5_text 183 = .ok (.putfield 40, 3) := by decide +kernel
theorem dX5_text_186 : decode cX5_text 186 = .ok (.aload_n 0, 1) := by decide +kernel
theorem dX5_text_187 : decode cX5_text 187 = .ok (.iconst 0, 1) := by decide +kernel
theorem dX5_text_188 : decode cX5_text 188 = .ok (.putfield 150, 3) := by decide +kernel
theorem dX5_text_191 : decode cX5_text 191 = .ok (.aload_n 0, 1) := by decide +kernel
theorem dX5_text_192 : decode cX5_text 192 = .ok (.getfield 486, 3) := by decide +kernel
theorem dX5_text_195 : decode cX5_text 195 = .ok (.ireturn, 1) := by decide +kernel
abbrev cX5_fail : ByteArray := prog_26_method_3_code
def yX5_fail : MethodName := ⟨RX5, "fail", "(I)I"⟩
theorem dX5_fail_0 : decode cX5_fail 0 = .ok (.aload_n 0, 1) := by decide +kernel
theorem dX5_fail_1 : decode cX5_fail 1 = .ok (.iload_n 1, 1) := by decide +kernel
theorem dX5_fail_2 : decode cX5_fail 2 = .ok (.putfield 147, 3) := by decide +kernel
theorem dX5_fail_5 : decode cX5_fail 5 = .ok (.iconst 0, 1) := by decide +kernel
theorem dX5_fail_6 : decode cX5_fail 6 = .ok (.ireturn, 1) := by decide +kernel
abbrev cX5_readAll : ByteArray := prog_26_method_28_code
def yX5_readAll : MethodName := ⟨RX5, "readAll", "()V"⟩
theorem dX5_readAll_0 : decode cX5_readAll 0 = .ok (.aload_n 0, 1) := by decide +kernel
theorem dX5_readAll_1 : decode cX5_readAll 1 = .ok (.iconst 0, 1) := by decide +kernel
theorem dX5_readAll_2 : decode cX5_readAll 2 = .ok (.putfield 237, 3) := by decide +kernel
theorem dX5_readAll_5 : decode cX5_readAll 5 = .ok (.aload_n 0, 1) := by decide +kernel
theorem dX5_readAll_6 : decode cX5_readAll 6 = .ok (.iconst 0, 1) := by decide +kernel
theorem dX5_readAll_7 : decode cX5_readAll 7 = .ok (.putfield 193, 3) := by decide +kernel
theorem dX5_readAll_10 : decode cX5_readAll 10 = .ok (.aload_n 0, 1) := by decide +kernel
theorem dX5_readAll_11 : decode cX5_readAll 11 = .ok (.invokevirtual 231, 3) := by decide +kernel
theorem dX5_readAll_14 : decode cX5_readAll 14 = .ok (.aload_n 0, 1) := by decide +kernel
theorem dX5_readAll_15 : decode cX5_readAll 15 = .ok (.getfield 150, 3) := by decide +kernel
theorem dX5_readAll_18 : decode cX5_readAll 18 = .ok (.ifCond .ne 30, 3) := by decide +kernel
theorem dX5_readAll_21 : decode cX5_readAll 21 = .ok (.aload_n 0, 1) := by decide +kernel
theorem dX5_readAll_22 : decode cX5_readAll 22 = .ok (.getfield 203, 3) := by decide +kernel
theorem dX5_readAll_25 : decode cX5_readAll 25 = .ok (.ifCond .eq 23, 3) := by decide +kernel
theorem dX5_readAll_28 : decode cX5_readAll 28 = .ok (.aload_n 0, 1) := by decide +kernel
theorem dX5_readAll_29 : decode cX5_readAll 29 = .ok (.invokevirtual 299, 3) := by decide +kernel
theorem dX5_readAll_32 : decode cX5_readAll 32 = .ok (.aload_n 0, 1) := by decide +kernel
theorem dX5_readAll_33 : decode cX5_readAll 33 = .ok (.getfield 150, 3) := by decide +kernel
theorem dX5_readAll_36 : decode cX5_readAll 36 = .ok (.ifCond .ne (-22), 3) := by decide +kernel
theorem dX5_readAll_39 : decode cX5_readAll 39 = .ok (.aload_n 0, 1) := by decide +kernel
theorem dX5_readAll_40 : decode cX5_readAll 40 = .ok (.bipush 59, 2) := by decide +kernel
theorem dX5_readAll_42 : decode cX5_readAll 42 = .ok (.invokevirtual 252, 3) := by decide +kernel
theorem dX5_readAll_45 : decode cX5_readAll 45 = .ok (.goto (-31), 3) := by decide +kernel
theorem dX5_readAll_48 : decode cX5_readAll 48 = .ok (.return_, 1) := by decide +kernel
abbrev cX5_next : ByteArray := prog_26_method_11_code
def yX5_next : MethodName := ⟨RX5, "next", "()V"⟩
theorem dX5_next_0 : decode cX5_next 0 = .ok (.iconst 1, 1) := by decide +kernel
theorem dX5_next_1 : decode cX5_next 1 = .ok (.istore_n 1, 1) := by decide +kernel
theorem dX5_next_2 : decode cX5_next 2 = .ok (.iload_n 1, 1) := by decide +kernel
theorem dX5_next_3 : decode cX5_next 3 = .ok (.ifCond .eq 148, 3) := by decide +kernel
theorem dX5_next_6 : decode cX5_next 6 = .ok (.aload_n 0, 1) := by decide +kernel
theorem dX5_next_7 : decode cX5_next 7 = .ok (.aload_n 0, 1) := by decide +kernel
theorem dX5_next_8 : decode cX5_next 8 = .ok (.getfield 193, 3) := by decide +kernel
theorem dX5_next_11 : decode cX5_next 11 = .ok (.invokevirtual 196, 3) := by decide +kernel
theorem dX5_next_14 : decode cX5_next 14 = .ok (.bipush 10, 2) := by decide +kernel
theorem dX5_next_16 : decode cX5_next 16 = .ok (.if_icmp .eq 16, 3) := by decide +kernel
theorem dX5_next_19 : decode cX5_next 19 = .ok (.aload_n 0, 1) := by decide +kernel
theorem dX5_next_20 : decode cX5_next 20 = .ok (.aload_n 0, 1) := by decide +kernel
theorem dX5_next_21 : decode cX5_next 21 = .ok (.getfield 193, 3) := by decide +kernel
theorem dX5_next_24 : decode cX5_next 24 = .ok (.invokevirtual 196, 3) := by decide +kernel
theorem dX5_next_27 : decode cX5_next 27 = .ok (.bipush 32, 2) := by decide +kernel
theorem dX5_next_29 : decode cX5_next 29 = .ok (.if_icmp .ne 16, 3) := by decide +kernel
theorem dX5_next_32 : decode cX5_next 32 = .ok (.aload_n 0, 1) := by decide +kernel
theorem dX5_next_33 : decode cX5_next 33 = .ok (.dup, 1) := by decide +kernel
theorem dX5_next_34 : decode cX5_next 34 = .ok (.getfield 193, 3) := by decide +kernel
theorem dX5_next_37 : decode cX5_next 37 = .ok (.iconst 1, 1) := by decide +kernel
theorem dX5_next_38 : decode cX5_next 38 = .ok (.iadd, 1) := by decide +kernel
theorem dX5_next_39 : decode cX5_next 39 = .ok (.putfield 193, 3) := by decide +kernel
theorem dX5_next_42 : decode cX5_next 42 = .ok (.goto (-36), 3) := by decide +kernel
theorem dX5_next_45 : decode cX5_next 45 = .ok (.aload_n 0, 1) := by decide +kernel
theorem dX5_next_46 : decode cX5_next 46 = .ok (.aload_n 0, 1) := by decide +kernel
theorem dX5_next_47 : decode cX5_next 47 = .ok (.getfield 193, 3) := by decide +kernel
theorem dX5_next_50 : decode cX5_next 50 = .ok (.invokevirtual 196, 3) := by decide +kernel
theorem dX5_next_53 : decode cX5_next 53 = .ok (.bipush 123, 2) := by decide +kernel
theorem dX5_next_55 : decode cX5_next 55 = .ok (.if_icmp .ne 7, 3) := by decide +kernel
theorem dX5_next_58 : decode cX5_next 58 = .ok (.iconst 1, 1) := by decide +kernel
theorem dX5_next_59 : decode cX5_next 59 = .ok (.goto 4, 3) := by decide +kernel
theorem dX5_next_62 : decode cX5_next 62 = .ok (.iconst 0, 1) := by decide +kernel
theorem dX5_next_63 : decode cX5_next 63 = .ok (.istore_n 1, 1) := by decide +kernel
theorem dX5_next_64 : decode cX5_next 64 = .ok (.iload_n 1, 1) := by decide +kernel
theorem dX5_next_65 : decode cX5_next 65 = .ok (.ifCond .eq (-63), 3) := by decide +kernel
theorem dX5_next_68 : decode cX5_next 68 = .ok (.aload_n 0, 1) := by decide +kernel
theorem dX5_next_69 : decode cX5_next 69 = .ok (.getfield 193, 3) := by decide +kernel
theorem dX5_next_72 : decode cX5_next 72 = .ok (.istore_n 2, 1) := by decide +kernel
theorem dX5_next_73 : decode cX5_next 73 = .ok (.aload_n 0, 1) := by decide +kernel
theorem dX5_next_74 : decode cX5_next 74 = .ok (.getfield 193, 3) := by decide +kernel
theorem dX5_next_77 : decode cX5_next 77 = .ok (.aload_n 0, 1) := by decide +kernel
theorem dX5_next_78 : decode cX5_next 78 = .ok (.getfield 186, 3) := by decide +kernel
theorem dX5_next_81 : decode cX5_next 81 = .ok (.if_icmp .ge 30, 3) := by decide +kernel
theorem dX5_next_84 : decode cX5_next 84 = .ok (.aload_n 0, 1) := by decide +kernel
theorem dX5_next_85 : decode cX5_next 85 = .ok (.getfield 37, 3) := by decide +kernel
theorem dX5_next_88 : decode cX5_next 88 = .ok (.aload_n 0, 1) := by decide +kernel
theorem dX5_next_89 : decode cX5_next 89 = .ok (.getfield 193, 3) := by decide +kernel
theorem dX5_next_92 : decode cX5_next 92 = .ok (.iaload, 1) := by decide +kernel
theorem dX5_next_93 : decode cX5_next 93 = .ok (.bipush 125, 2) := by decide +kernel
theorem dX5_next_95 : decode cX5_next 95 = .ok (.if_icmp .eq 16, 3) := by decide +kernel
theorem dX5_next_98 : decode cX5_next 98 = .ok (.aload_n 0, 1) := by decide +kernel
theorem dX5_next_99 : decode cX5_next 99 = .ok (.dup, 1) := by decide +kernel
theorem dX5_next_100 : decode cX5_next 100 = .ok (.getfield 193, 3) := by decide +kernel
theorem dX5_next_103 : decode cX5_next 103 = .ok (.iconst 1, 1) := by decide +kernel
theorem dX5_next_104 : decode cX5_next 104 = .ok (.iadd, 1) := by decide +kernel
theorem dX5_next_105 : decode cX5_next 105 = .ok (.putfield 193, 3) := by decide +kernel
theorem dX5_next_108 : decode cX5_next 108 = .ok (.goto (-35), 3) := by decide +kernel
theorem dX5_next_111 : decode cX5_next 111 = .ok (.aload_n 0, 1) := by decide +kernel
theorem dX5_next_112 : decode cX5_next 112 = .ok (.getfield 193, 3) := by decide +kernel
theorem dX5_next_115 : decode cX5_next 115 = .ok (.aload_n 0, 1) := by decide +kernel
theorem dX5_next_116 : decode cX5_next 116 = .ok (.getfield 186, 3) := by decide +kernel
theorem dX5_next_119 : decode cX5_next 119 = .ok (.if_icmp .ne 19, 3) := by decide +kernel
theorem dX5_next_122 : decode cX5_next 122 = .ok (.aload_n 0, 1) := by decide +kernel
theorem dX5_next_123 : decode cX5_next 123 = .ok (.iload_n 2, 1) := by decide +kernel
theorem dX5_next_124 : decode cX5_next 124 = .ok (.putfield 200, 3) := by decide +kernel
theorem dX5_next_127 : decode cX5_next 127 = .ok (.aload_n 0, 1) := by decide +kernel
theorem dX5_next_128 : decode cX5_next 128 = .ok (.iconst 3, 1) := by decide +kernel
theorem dX5_next_129 : decode cX5_next 129 = .ok (.putfield 203, 3) := by decide +kernel
theorem dX5_next_132 : decode cX5_next 132 = .ok (.aload_n 0, 1) := by decide +kernel
theorem dX5_next_133 : decode cX5_next 133 = .ok (.iconst (-1), 1) := by decide +kernel
theorem dX5_next_134 : decode cX5_next 134 = .ok (.putfield 206, 3) := by decide +kernel
theorem dX5_next_137 : decode cX5_next 137 = .ok (.return_, 1) := by decide +kernel
theorem dX5_next_138 : decode cX5_next 138 = .ok (.aload_n 0, 1) := by decide +kernel
theorem dX5_next_139 : decode cX5_next 139 = .ok (.dup, 1) := by decide +kernel
theorem dX5_next_140 : decode cX5_next 140 = .ok (.getfield 193, 3) := by decide +kernel
theorem dX5_next_143 : decode cX5_next 143 = .ok (.iconst 1, 1) := by decide +kernel
theorem dX5_next_144 : decode cX5_next 144 = .ok (.iadd, 1) := by decide +kernel
theorem dX5_next_145 : decode cX5_next 145 = .ok (.putfield 193, 3) := by decide +kernel
theorem dX5_next_148 : decode cX5_next 148 = .ok (.goto (-146), 3) := by decide +kernel
theorem dX5_next_151 : decode cX5_next 151 = .ok (.aload_n 0, 1) := by decide +kernel
theorem dX5_next_152 : decode cX5_next 152 = .ok (.aload_n 0, 1) := by decide +kernel
theorem dX5_next_153 : decode cX5_next 153 = .ok (.getfield 193, 3) := by decide +kernel
theorem dX5_next_156 : decode cX5_next 156 = .ok (.putfield 200, 3) := by decide +kernel
theorem dX5_next_159 : decode cX5_next 159 = .ok (.aload_n 0, 1) := by decide +kernel
theorem dX5_next_160 : decode cX5_next 160 = .ok (.aload_n 0, 1) := by decide +kernel
theorem dX5_next_161 : decode cX5_next 161 = .ok (.getfield 193, 3) := by decide +kernel
theorem dX5_next_164 : decode cX5_next 164 = .ok (.invokevirtual 196, 3) := by decide +kernel
theorem dX5_next_167 : decode cX5_next 167 = .ok (.istore_n 2, 1) := by decide +kernel
theorem dX5_next_168 : decode cX5_next 168 = .ok (.aload_n 0, 1) := by decide +kernel
theorem dX5_next_169 : decode cX5_next 169 = .ok (.iconst (-1), 1) := by decide +kernel
theorem dX5_next_170 : decode cX5_next 170 = .ok (.putfield 206, 3) := by decide +kernel
theorem dX5_next_173 : decode cX5_next 173 = .ok (.iload_n 2, 1) := by decide +kernel
theorem dX5_next_174 : decode cX5_next 174 = .ok (.iconst (-1), 1) := by decide +kernel
theorem dX5_next_175 : decode cX5_next 175 = .ok (.if_icmp .ne 11, 3) := by decide +kernel
theorem dX5_next_178 : decode cX5_next 178 = .ok (.aload_n 0, 1) := by decide +kernel
theorem dX5_next_179 : decode cX5_next 179 = .ok (.iconst 0, 1) := by decide +kernel
theorem dX5_next_180 : decode cX5_next 180 = .ok (.putfield 203, 3) := by decide +kernel
theorem dX5_next_183 : decode cX5_next 183 = .ok (.goto 108, 3) := by decide +kernel
theorem dX5_next_186 : decode cX5_next 186 = .ok (.iload_n 2, 1) := by decide +kernel
theorem dX5_next_187 : decode cX5_next 187 = .ok (.invokestatic 189, 3) := by decide +kernel
theorem dX5_next_190 : decode cX5_next 190 = .ok (.ifCond .eq 96, 3) := by decide +kernel
theorem dX5_next_193 : decode cX5_next 193 = .ok (.aload_n 0, 1) := by decide +kernel
theorem dX5_next_194 : decode cX5_next 194 = .ok (.aload_n 0, 1) := by decide +kernel
theorem dX5_next_195 : decode cX5_next 195 = .ok (.getfield 193, 3) := by decide +kernel
theorem dX5_next_198 : decode cX5_next 198 = .ok (.invokevirtual 196, 3) := by decide +kernel
theorem dX5_next_201 : decode cX5_next 201 = .ok (.invokestatic 209, 3) := by decide +kernel
theorem dX5_next_204 : decode cX5_next 204 = .ok (.ifCond .eq 16, 3) := by decide +kernel
theorem dX5_next_207 : decode cX5_next 207 = .ok (.aload_n 0, 1) := by decide +kernel
theorem dX5_next_208 : decode cX5_next 208 = .ok (.dup, 1) := by decide +kernel
theorem dX5_next_209 : decode cX5_next 209 = .ok (.getfield 193, 3) := by decide +kernel
theorem dX5_next_212 : decode cX5_next 212 = .ok (.iconst 1, 1) := by decide +kernel
theorem dX5_next_213 : decode cX5_next 213 = .ok (.iadd, 1) := by decide +kernel
theorem dX5_next_214 : decode cX5_next 214 = .ok (.putfield 193, 3) := by decide +kernel
theorem dX5_next_217 : decode cX5_next 217 = .ok (.goto (-24), 3) := by decide +kernel
theorem dX5_next_220 : decode cX5_next 220 = .ok (.aload_n 0, 1) := by decide +kernel
theorem dX5_next_221 : decode cX5_next 221 = .ok (.iconst 1, 1) := by decide +kernel
theorem dX5_next_222 : decode cX5_next 222 = .ok (.putfield 203, 3) := by decide +kernel
theorem dX5_next_225 : decode cX5_next 225 = .ok (.aload_n 0, 1) := by decide +kernel
theorem dX5_next_226 : decode cX5_next 226 = .ok (.aload_n 0, 1) := by decide +kernel
theorem dX5_next_227 : decode cX5_next 227 = .ok (.getfield 193, 3) := by decide +kernel
theorem dX5_next_230 : decode cX5_next 230 = .ok (.putfield 212, 3) := by decide +kernel
theorem dX5_next_233 : decode cX5_next 233 = .ok (.iconst 0, 1) := by decide +kernel
theorem dX5_next_234 : decode cX5_next 234 = .ok (.istore_n 3, 1) := by decide +kernel
theorem dX5_next_235 : decode cX5_next 235 = .ok (.iload_n 3, 1) := by decide +kernel
theorem dX5_next_236 : decode cX5_next 236 = .ok (.bipush 9, 2) := by decide +kernel
theorem dX5_next_238 : decode cX5_next 238 = .ok (.if_icmp .ge 22, 3) := by decide +kernel
theorem dX5_next_241 : decode cX5_next 241 = .ok (.aload_n 0, 1) := by decide +kernel
theorem dX5_next_242 : decode cX5_next 242 = .ok (.iload_n 3, 1) := by decide +kernel
theorem dX5_next_243 : decode cX5_next 243 = .ok (.invokevirtual 215, 3) := by decide +kernel
theorem dX5_next_246 : decode cX5_next 246 = .ok (.ifCond .eq 8, 3) := by decide +kernel
theorem dX5_next_249 : decode cX5_next 249 = .ok (.aload_n 0, 1) := by decide +kernel
theorem dX5_next_250 : decode cX5_next 250 = .ok (.iload_n 3, 1) := by decide +kernel
theorem dX5_next_251 : decode cX5_next 251 = .ok (.putfield 206, 3) := by decide +kernel
theorem dX5_next_254 : decode cX5_next 254 = .ok (.iinc 3 1, 3) := by decide +kernel
theorem dX5_next_257 : decode cX5_next 257 = .ok (.goto (-22), 3) := by decide +kernel
theorem dX5_next_260 : decode cX5_next 260 = .ok (.aload_n 0, 1) := by decide +kernel
theorem dX5_next_261 : decode cX5_next 261 = .ok (.getfield 212, 3) := by decide +kernel
theorem dX5_next_264 : decode cX5_next 264 = .ok (.aload_n 0, 1) := by decide +kernel
theorem dX5_next_265 : decode cX5_next 265 = .ok (.getfield 200, 3) := by decide +kernel
theorem dX5_next_268 : decode cX5_next 268 = .ok (.isub, 1) := by decide +kernel
theorem dX5_next_269 : decode cX5_next 269 = .ok (.bipush 12, 2) := by decide +kernel
theorem dX5_next_271 : decode cX5_next 271 = .ok (.if_icmp .le 20, 3) := by decide +kernel
theorem dX5_next_274 : decode cX5_next 274 = .ok (.aload_n 0, 1) := by decide +kernel
theorem dX5_next_275 : decode cX5_next 275 = .ok (.iconst 2, 1) := by decide +kernel
theorem dX5_next_276 : decode cX5_next 276 = .ok (.aload_n 0, 1) := by decide +kernel
theorem dX5_next_277 : decode cX5_next 277 = .ok (.getfield 200, 3) := by decide +kernel
theorem dX5_next_280 : decode cX5_next 280 = .ok (.invokevirtual 218, 3) := by decide +kernel
theorem dX5_next_283 : decode cX5_next 283 = .ok (.goto 8, 3) := by decide +kernel
theorem dX5_next_286 : decode cX5_next 286 = .ok (.aload_n 0, 1) := by decide +kernel
theorem dX5_next_287 : decode cX5_next 287 = .ok (.iload_n 2, 1) := by decide +kernel
theorem dX5_next_288 : decode cX5_next 288 = .ok (.invokevirtual 222, 3) := by decide +kernel
theorem dX5_next_291 : decode cX5_next 291 = .ok (.return_, 1) := by decide +kernel
abbrev cX5_byteAt : ByteArray := prog_26_method_8_code
def yX5_byteAt : MethodName := ⟨RX5, "byteAt", "(I)I"⟩
theorem dX5_byteAt_0 : decode cX5_byteAt 0 = .ok (.iload_n 1, 1) := by decide +kernel
theorem dX5_byteAt_1 : decode cX5_byteAt 1 = .ok (.aload_n 0, 1) := by decide +kernel
theorem dX5_byteAt_2 : decode cX5_byteAt 2 = .ok (.getfield 186, 3) := by decide +kernel
theorem dX5_byteAt_5 : decode cX5_byteAt 5 = .ok (.if_icmp .ge 12, 3) := by decide +kernel
theorem dX5_byteAt_8 : decode cX5_byteAt 8 = .ok (.aload_n 0, 1) := by decide +kernel
theorem dX5_byteAt_9 : decode cX5_byteAt 9 = .ok (.getfield 37, 3) := by decide +kernel
theorem dX5_byteAt_12 : decode cX5_byteAt 12 = .ok (.iload_n 1, 1) := by decide +kernel
theorem dX5_byteAt_13 : decode cX5_byteAt 13 = .ok (.iaload, 1) := by decide +kernel
theorem dX5_byteAt_14 : decode cX5_byteAt 14 = .ok (.goto 4, 3) := by decide +kernel
theorem dX5_byteAt_17 : decode cX5_byteAt 17 = .ok (.iconst (-1), 1) := by decide +kernel
theorem dX5_byteAt_18 : decode cX5_byteAt 18 = .ok (.ireturn, 1) := by decide +kernel
abbrev cX5_isLetter : ByteArray := prog_26_method_9_code
def yX5_isLetter : MethodName := ⟨RX5, "isLetter", "(I)Z"⟩
theorem dX5_isLetter_0 : decode cX5_isLetter 0 = .ok (.iload_n 0, 1) := by decide +kernel
theorem dX5_isLetter_1 : decode cX5_isLetter 1 = .ok (.bipush 97, 2) := by decide +kernel
theorem dX5_isLetter_3 : decode cX5_isLetter 3 = .ok (.if_icmp .lt 9, 3) := by decide +kernel
theorem dX5_isLetter_6 : decode cX5_isLetter 6 = .ok (.iload_n 0, 1) := by decide +kernel
theorem dX5_isLetter_7 : decode cX5_isLetter 7 = .ok (.bipush 122, 2) := by decide +kernel
theorem dX5_isLetter_9 : decode cX5_isLetter 9 = .ok (.if_icmp .le 15, 3) := by decide +kernel
theorem dX5_isLetter_12 : decode cX5_isLetter 12 = .ok (.iload_n 0, 1) := by decide +kernel
theorem dX5_isLetter_13 : decode cX5_isLetter 13 = .ok (.bipush 65, 2) := by decide +kernel
theorem dX5_isLetter_15 : decode cX5_isLetter 15 = .ok (.if_icmp .lt 13, 3) := by decide +kernel
theorem dX5_isLetter_18 : decode cX5_isLetter 18 = .ok (.iload_n 0, 1) := by decide +kernel
theorem dX5_isLetter_19 : decode cX5_isLetter 19 = .ok (.bipush 90, 2) := by decide +kernel
theorem dX5_isLetter_21 : decode cX5_isLetter 21 = .ok (.if_icmp .gt 7, 3) := by decide +kernel
theorem dX5_isLetter_24 : decode cX5_isLetter 24 = .ok (.iconst 1, 1) := by decide +kernel
theorem dX5_isLetter_25 : decode cX5_isLetter 25 = .ok (.goto 4, 3) := by decide +kernel
theorem dX5_isLetter_28 : decode cX5_isLetter 28 = .ok (.iconst 0, 1) := by decide +kernel
theorem dX5_isLetter_29 : decode cX5_isLetter 29 = .ok (.ireturn, 1) := by decide +kernel
abbrev cX5_goesOn : ByteArray := prog_26_method_10_code
def yX5_goesOn : MethodName := ⟨RX5, "goesOn", "(I)Z"⟩
theorem dX5_goesOn_0 : decode cX5_goesOn 0 = .ok (.iload_n 0, 1) := by decide +kernel
theorem dX5_goesOn_1 : decode cX5_goesOn 1 = .ok (.invokestatic 189, 3) := by decide +kernel
theorem dX5_goesOn_4 : decode cX5_goesOn 4 = .ok (.ifCond .ne 21, 3) := by decide +kernel
theorem dX5_goesOn_7 : decode cX5_goesOn 7 = .ok (.iload_n 0, 1) := by decide +kernel
theorem dX5_goesOn_8 : decode cX5_goesOn 8 = .ok (.bipush 48, 2) := by decide +kernel
theorem dX5_goesOn_10 : decode cX5_goesOn 10 = .ok (.if_icmp .lt 9, 3) := by decide +kernel
theorem dX5_goesOn_13 : decode cX5_goesOn 13 = .ok (.iload_n 0, 1) := by decide +kernel
theorem dX5_goesOn_14 : decode cX5_goesOn 14 = .ok (.bipush 57, 2) := by decide +kernel
theorem dX5_goesOn_16 : decode cX5_goesOn 16 = .ok (.if_icmp .le 9, 3) := by decide +kernel
theorem dX5_goesOn_19 : decode cX5_goesOn 19 = .ok (.iload_n 0, 1) := by decide +kernel
theorem dX5_goesOn_20 : decode cX5_goesOn 20 = .ok (.bipush 39, 2) := by decide +kernel
theorem dX5_goesOn_22 : decode cX5_goesOn 22 = .ok (.if_icmp .ne 7, 3) := by decide +kernel
theorem dX5_goesOn_25 : decode cX5_goesOn 25 = .ok (.iconst 1, 1) := by decide +kernel
theorem dX5_goesOn_26 : decode cX5_goesOn 26 = .ok (.goto 4, 3) := by decide +kernel
theorem dX5_goesOn_29 : decode cX5_goesOn 29 = .ok (.iconst 0, 1) := by decide +kernel
theorem dX5_goesOn_30 : decode cX5_goesOn 30 = .ok (.ireturn, 1) := by decide +kernel
abbrev cX5_isWord : ByteArray := prog_26_method_12_code
def yX5_isWord : MethodName := ⟨RX5, "isWord", "(I)Z"⟩
theorem dX5_isWord_0 : decode cX5_isWord 0 = .ok (.aload_n 0, 1) := by decide +kernel
theorem dX5_isWord_1 : decode cX5_isWord 1 = .ok (.getfield 27, 3) := by decide +kernel
theorem dX5_isWord_4 : decode cX5_isWord 4 = .ok (.iload_n 1, 1) := by decide +kernel
theorem dX5_isWord_5 : decode cX5_isWord 5 = .ok (.aaload, 1) := by decide +kernel
theorem dX5_isWord_6 : decode cX5_isWord 6 = .ok (.invokevirtual 156, 3) := by decide +kernel
theorem dX5_isWord_9 : decode cX5_isWord 9 = .ok (.aload_n 0, 1) := by decide +kernel
theorem dX5_isWord_10 : decode cX5_isWord 10 = .ok (.getfield 212, 3) := by decide +kernel
theorem dX5_isWord_13 : decode cX5_isWord 13 = .ok (.aload_n 0, 1) := by decide +kernel
theorem dX5_isWord_14 : decode cX5_isWord 14 = .ok (.getfield 200, 3) := by decide +kernel
theorem dX5_isWord_17 : decode cX5_isWord 17 = .ok (.isub, 1) := by decide +kernel
theorem dX5_isWord_18 : decode cX5_isWord 18 = .ok (.if_icmp .ne 7, 3) := by decide +kernel
theorem dX5_isWord_21 : decode cX5_isWord 21 = .ok (.iconst 1, 1) := by decide +kernel
theorem dX5_isWord_22 : decode cX5_isWord 22 = .ok (.goto 4, 3) := by decide +kernel
theorem dX5_isWord_25 : decode cX5_isWord 25 = .ok (.iconst 0, 1) := by decide +kernel
theorem dX5_isWord_26 : decode cX5_isWord 26 = .ok (.istore_n 2, 1) := by decide +kernel
theorem dX5_isWord_27 : decode cX5_isWord 27 = .ok (.iconst 0, 1) := by decide +kernel
theorem dX5_isWord_28 : decode cX5_isWord 28 = .ok (.istore_n 3, 1) := by decide +kernel
theorem dX5_isWord_29 : decode cX5_isWord 29 = .ok (.iload_n 2, 1) := by decide +kernel
theorem dX5_isWord_30 : decode cX5_isWord 30 = .ok (.ifCond .eq 52, 3) := by decide +kernel
theorem dX5_isWord_33 : decode cX5_isWord 33 = .ok (.iload_n 3, 1) := by decide +kernel
theorem dX5_isWord_34 : decode cX5_isWord 34 = .ok (.aload_n 0, 1) := by decide +kernel
theorem dX5_isWord_35 : decode cX5_isWord 35 = .ok (.getfield 212, 3) := by decide +kernel
theorem dX5_isWord_38 : decode cX5_isWord 38 = .ok (.aload_n 0, 1) := by decide +kernel
theorem dX5_isWord_39 : decode cX5_isWord 39 = .ok (.getfield 200, 3) := by decide +kernel
theorem dX5_isWord_42 : decode cX5_isWord 42 = .ok (.isub, 1) := by decide +kernel
theorem dX5_isWord_43 : decode cX5_isWord 43 = .ok (.if_icmp .ge 39, 3) := by decide +kernel
theorem dX5_isWord_46 : decode cX5_isWord 46 = .ok (.aload_n 0, 1) := by decide +kernel
theorem dX5_isWord_47 : decode cX5_isWord 47 = .ok (.getfield 27, 3) := by decide +kernel
theorem dX5_isWord_50 : decode cX5_isWord 50 = .ok (.iload_n 1, 1) := by decide +kernel
theorem dX5_isWord_51 : decode cX5_isWord 51 = .ok (.aaload, 1) := by decide +kernel
theorem dX5_isWord_52 : decode cX5_isWord 52 = .ok (.iload_n 3, 1) := by decide +kernel
theorem dX5_isWord_53 : decode cX5_isWord 53 = .ok (.invokevirtual 163, 3) := by decide +kernel
theorem dX5_isWord_56 : decode cX5_isWord 56 = .ok (.aload_n 0, 1) := by decide +kernel
theorem dX5_isWord_57 : decode cX5_isWord 57 = .ok (.getfield 37, 3) := by decide +kernel
theorem dX5_isWord_60 : decode cX5_isWord 60 = .ok (.aload_n 0, 1) := by decide +kernel
theorem dX5_isWord_61 : decode cX5_isWord 61 = .ok (.getfield 200, 3) := by decide +kernel
theorem dX5_isWord_64 : decode cX5_isWord 64 = .ok (.iload_n 3, 1) := by decide +kernel
theorem dX5_isWord_65 : decode cX5_isWord 65 = .ok (.iadd, 1) := by decide +kernel
theorem dX5_isWord_66 : decode cX5_isWord 66 = .ok (.iaload, 1) := by decide +kernel
theorem dX5_isWord_67 : decode cX5_isWord 67 = .ok (.if_icmp .ne 7, 3) := by decide +kernel
theorem dX5_isWord_70 : decode cX5_isWord 70 = .ok (.iconst 1, 1) := by decide +kernel
theorem dX5_isWord_71 : decode cX5_isWord 71 = .ok (.goto 4, 3) := by decide +kernel
theorem dX5_isWord_74 : decode cX5_isWord 74 = .ok (.iconst 0, 1) := by decide +kernel
theorem dX5_isWord_75 : decode cX5_isWord 75 = .ok (.istore_n 2, 1) := by decide +kernel
theorem dX5_isWord_76 : decode cX5_isWord 76 = .ok (.iinc 3 1, 3) := by decide +kernel
theorem dX5_isWord_79 : decode cX5_isWord 79 = .ok (.goto (-50), 3) := by decide +kernel
theorem dX5_isWord_82 : decode cX5_isWord 82 = .ok (.iload_n 2, 1) := by decide +kernel
theorem dX5_isWord_83 : decode cX5_isWord 83 = .ok (.ireturn, 1) := by decide +kernel
abbrev cX5_wrong : ByteArray := prog_26_method_4_code
def yX5_wrong : MethodName := ⟨RX5, "wrong", "(II)V"⟩
theorem dX5_wrong_0 : decode cX5_wrong 0 = .ok (.aload_n 0, 1) := by decide +kernel
theorem dX5_wrong_1 : decode cX5_wrong 1 = .ok (.getfield 150, 3) := by decide +kernel
theorem dX5_wrong_4 : decode cX5_wrong 4 = .ok (.ifCond .eq 4, 3) := by decide +kernel
theorem dX5_wrong_7 : decode cX5_wrong 7 = .ok (.return_, 1) := by decide +kernel
theorem dX5_wrong_8 : decode cX5_wrong 8 = .ok (.aload_n 0, 1) := by decide +kernel
theorem dX5_wrong_9 : decode cX5_wrong 9 = .ok (.iload_n 1, 1) := by decide +kernel
theorem dX5_wrong_10 : decode cX5_wrong 10 = .ok (.putfield 150, 3) := by decide +kernel
theorem dX5_wrong_13 : decode cX5_wrong 13 = .ok (.aload_n 0, 1) := by decide +kernel
theorem dX5_wrong_14 : decode cX5_wrong 14 = .ok (.iload_n 2, 1) := by decide +kernel
theorem dX5_wrong_15 : decode cX5_wrong 15 = .ok (.putfield 153, 3) := by decide +kernel
theorem dX5_wrong_18 : decode cX5_wrong 18 = .ok (.return_, 1) := by decide +kernel
abbrev cX5_readSign : ByteArray := prog_26_method_13_code
def yX5_readSign : MethodName := ⟨RX5, "readSign", "(I)V"⟩
theorem dX5_readSign_0 : decode cX5_readSign 0 = .ok (.aload_n 0, 1) := by decide +kernel
theorem dX5_readSign_1 : decode cX5_readSign 1 = .ok (.iconst 2, 1) := by decide +kernel
theorem dX5_readSign_2 : decode cX5_readSign 2 = .ok (.putfield 203, 3) := by decide +kernel
theorem dX5_readSign_5 : decode cX5_readSign 5 = .ok (.aload_n 0, 1) := by decide +kernel
theorem dX5_readSign_6 : decode cX5_readSign 6 = .ok (.iload_n 1, 1) := by decide +kernel
theorem dX5_readSign_7 : decode cX5_readSign 7 = .ok (.putfield 225, 3) := by decide +kernel
theorem dX5_readSign_10 : decode cX5_readSign 10 = .ok (.aload_n 0, 1) := by decide +kernel
theorem dX5_readSign_11 : decode cX5_readSign 11 = .ok (.dup, 1) := by decide +kernel
theorem dX5_readSign_12 : decode cX5_readSign 12 = .ok (.getfield 193, 3) := by decide +kernel
theorem dX5_readSign_15 : decode cX5_readSign 15 = .ok (.iconst 1, 1) := by decide +kernel
theorem dX5_readSign_16 : decode cX5_readSign 16 = .ok (.iadd, 1) := by decide +kernel
theorem dX5_readSign_17 : decode cX5_readSign 17 = .ok (.putfield 193, 3) := by decide +kernel
theorem dX5_readSign_20 : decode cX5_readSign 20 = .ok (.iload_n 1, 1) := by decide +kernel
theorem dX5_readSign_21 : decode cX5_readSign 21 = .ok (.bipush 58, 2) := by decide +kernel
theorem dX5_readSign_23 : decode cX5_readSign 23 = .ok (.if_icmp .ne 36, 3) := by decide +kernel
theorem dX5_readSign_26 : decode cX5_readSign 26 = .ok (.aload_n 0, 1) := by decide +kernel
theorem dX5_readSign_27 : decode cX5_readSign 27 = .ok (.aload_n 0, 1) := by decide +kernel
theorem dX5_readSign_28 : decode cX5_readSign 28 = .ok (.getfield 193, 3) := by decide +kernel
theorem dX5_readSign_31 : decode cX5_readSign 31 = .ok (.invokevirtual 196, 3) := by decide +kernel
theorem dX5_readSign_34 : decode cX5_readSign 34 = .ok (.bipush 61, 2) := by decide +kernel
theorem dX5_readSign_36 : decode cX5_readSign 36 = .ok (.if_icmp .ne 23, 3) := by decide +kernel
theorem dX5_readSign_39 : decode cX5_readSign 39 = .ok (.aload_n 0, 1) := by decide +kernel
theorem dX5_readSign_40 : decode cX5_readSign 40 = .ok (.sipush 256, 3) := by decide +kernel
theorem dX5_readSign_43 : decode cX5_readSign 43 = .ok (.putfield 225, 3) := by decide +kernel
theorem dX5_readSign_46 : decode cX5_readSign 46 = .ok (.aload_n 0, 1) := by decide +kernel
theorem dX5_readSign_47 : decode cX5_readSign 47 = .ok (.dup, 1) := by decide +kernel
theorem dX5_readSign_48 : decode cX5_readSign 48 = .ok (.getfield 193, 3) := by decide +kernel
theorem dX5_readSign_51 : decode cX5_readSign 51 = .ok (.iconst 1, 1) := by decide +kernel
theorem dX5_readSign_52 : decode cX5_readSign 52 = .ok (.iadd, 1) := by decide +kernel
theorem dX5_readSign_53 : decode cX5_readSign 53 = .ok (.putfield 193, 3) := by decide +kernel
theorem dX5_readSign_56 : decode cX5_readSign 56 = .ok (.goto 95, 3) := by decide +kernel
theorem dX5_readSign_59 : decode cX5_readSign 59 = .ok (.iload_n 1, 1) := by decide +kernel
theorem dX5_readSign_60 : decode cX5_readSign 60 = .ok (.bipush 45, 2) := by decide +kernel
theorem dX5_readSign_62 : decode cX5_readSign 62 = .ok (.if_icmp .ne 36, 3) := by decide +kernel
theorem dX5_readSign_65 : decode cX5_readSign 65 = .ok (.aload_n 0, 1) := by decide +kernel
theorem dX5_readSign_66 : decode cX5_readSign 66 = .ok (.aload_n 0, 1) := by decide +kernel
theorem dX5_readSign_67 : decode cX5_readSign 67 = .ok (.getfield 193, 3) := by decide +kernel
theorem dX5_readSign_70 : decode cX5_readSign 70 = .ok (.invokevirtual 196, 3) := by decide +kernel
theorem dX5_readSign_73 : decode cX5_readSign 73 = .ok (.bipush 62, 2) := by decide +kernel
theorem dX5_readSign_75 : decode cX5_readSign 75 = .ok (.if_icmp .ne 23, 3) := by decide +kernel
theorem dX5_readSign_78 : decode cX5_readSign 78 = .ok (.aload_n 0, 1) := by decide +kernel
theorem dX5_readSign_79 : decode cX5_readSign 79 = .ok (.sipush 257, 3) := by decide +kernel
theorem dX5_readSign_82 : decode cX5_readSign 82 = .ok (.putfield 225, 3) := by decide +kernel
theorem dX5_readSign_85 : decode cX5_readSign 85 = .ok (.aload_n 0, 1) := by decide +kernel
theorem dX5_readSign_86 : decode cX5_readSign 86 = .ok (.dup, 1) := by decide +kernel
theorem dX5_readSign_87 : decode cX5_readSign 87 = .ok (.getfield 193, 3) := by decide +kernel
theorem dX5_readSign_90 : decode cX5_readSign 90 = .ok (.iconst 1, 1) := by decide +kernel
theorem dX5_readSign_91 : decode cX5_readSign 91 = .ok (.iadd, 1) := by decide +kernel
theorem dX5_readSign_92 : decode cX5_readSign 92 = .ok (.putfield 193, 3) := by decide +kernel
theorem dX5_readSign_95 : decode cX5_readSign 95 = .ok (.goto 56, 3) := by decide +kernel
theorem dX5_readSign_98 : decode cX5_readSign 98 = .ok (.iload_n 1, 1) := by decide +kernel
theorem dX5_readSign_99 : decode cX5_readSign 99 = .ok (.bipush 92, 2) := by decide +kernel
theorem dX5_readSign_101 : decode cX5_readSign 101 = .ok (.if_icmp .eq 50, 3) := by decide +kernel
theorem dX5_readSign_104 : decode cX5_readSign 104 = .ok (.iload_n 1, 1) := by decide +kernel
theorem dX5_readSign_105 : decode cX5_readSign 105 = .ok (.bipush 33, 2) := by decide +kernel
theorem dX5_readSign_107 : decode cX5_readSign 107 = .ok (.if_icmp .eq 44, 3) := by decide +kernel
theorem dX5_readSign_110 : decode cX5_readSign 110 = .ok (.iload_n 1, 1) := by decide +kernel
theorem dX5_readSign_111 : decode cX5_readSign 111 = .ok (.bipush 58, 2) := by decide +kernel
theorem dX5_readSign_113 : decode cX5_readSign 113 = .ok (.if_icmp .eq 38, 3) := by decide +kernel
theorem dX5_readSign_116 : decode cX5_readSign 116 = .ok (.iload_n 1, 1) := by decide +kernel
theorem dX5_readSign_117 : decode cX5_readSign 117 = .ok (.bipush 46, 2) := by decide +kernel
theorem dX5_readSign_119 : decode cX5_readSign 119 = .ok (.if_icmp .eq 32, 3) := by decide +kernel
theorem dX5_readSign_122 : decode cX5_readSign 122 = .ok (.iload_n 1, 1) := by decide +kernel
theorem dX5_readSign_123 : decode cX5_readSign 123 = .ok (.bipush 59, 2) := by decide +kernel
theorem dX5_readSign_125 : decode cX5_readSign 125 = .ok (.if_icmp .eq 26, 3) := by decide +kernel
theorem dX5_readSign_128 : decode cX5_readSign 128 = .ok (.iload_n 1, 1) := by decide +kernel
theorem dX5_readSign_129 : decode cX5_readSign 129 = .ok (.bipush 61, 2) := by decide +kernel
theorem dX5_readSign_131 : decode cX5_readSign 131 = .ok (.if_icmp .eq 20, 3) := by decide +kernel
theorem dX5_readSign_134 : decode cX5_readSign 134 = .ok (.iload_n 1, 1) := by decide +kernel
theorem dX5_readSign_135 : decode cX5_readSign 135 = .ok (.bipush 40, 2) := by decide +kernel
theorem dX5_readSign_137 : decode cX5_readSign 137 = .ok (.if_icmp .eq 14, 3) := by decide +kernel
theorem dX5_readSign_140 : decode cX5_readSign 140 = .ok (.iload_n 1, 1) := by decide +kernel
theorem dX5_readSign_141 : decode cX5_readSign 141 = .ok (.bipush 41, 2) := by decide +kernel
theorem dX5_readSign_143 : decode cX5_readSign 143 = .ok (.if_icmp .eq 8, 3) := by decide +kernel
theorem dX5_readSign_146 : decode cX5_readSign 146 = .ok (.aload_n 0, 1) := by decide +kernel
theorem dX5_readSign_147 : decode cX5_readSign 147 = .ok (.iconst 3, 1) := by decide +kernel
theorem dX5_readSign_148 : decode cX5_readSign 148 = .ok (.putfield 203, 3) := by decide +kernel
theorem dX5_readSign_151 : decode cX5_readSign 151 = .ok (.return_, 1) := by decide +kernel
abbrev cX5_readStatement : ByteArray := prog_26_method_26_code
def yX5_readStatement : MethodName := ⟨RX5, "readStatement", "()V"⟩
theorem dX5_readStatement_0 : decode cX5_readStatement 0 = .ok (.aload_n 0, 1) := by decide +kernel
theorem dX5_readStatement_1 : decode cX5_readStatement 1 = .ok (.aload_n 0, 1) := by decide +kernel
theorem dX5_readStatement_2 : decode cX5_readStatement 2 = .ok (.getfield 200, 3) := by decide +kernel
theorem dX5_readStatement_5 : decode cX5_readStatement 5 = .ok (.putfield 275, 3) := by decide +kernel
theorem dX5_readStatement_8 : decode cX5_readStatement 8 = .ok (.aload_n 0, 1) := by decide +kernel
theorem dX5_readStatement_9 : decode cX5_readStatement 9 = .ok (.aload_n 0, 1) := by decide +kernel
theorem dX5_readStatement_10 : decode cX5_readStatement 10 = .ok (.getfield 203, 3) := by decide +kernel
theorem dX5_readStatement_13 : decode cX5_readStatement 13 = .ok (.iconst 1, 1) := by decide +kernel
theorem dX5_readStatement_14 : decode cX5_readStatement 14 = .ok (.if_icmp .ne 10, 3) := by decide +kernel
theorem dX5_readStatement_17 : decode cX5_readStatement 17 = .ok (.aload_n 0, 1) := by decide +kernel
theorem dX5_readStatement_18 : decode cX5_readStatement 18 = .ok (.getfield 206, 3) := by decide +kernel
theorem dX5_readStatement_21 : decode cX5_readStatement 21 = .ok (.goto 4, 3) := by decide +kernel
theorem dX5_readStatement_24 : decode cX5_readStatement 24 = .ok (.iconst (-1), 1) := by decide +kernel
theorem dX5_readStatement_25 : decode cX5_readStatement 25 = .ok (.putfield 278, 3) := by decide +kernel
theorem dX5_readStatement_28 : decode cX5_readStatement 28 = .ok (.aload_n 0, 1) := by decide +kernel
theorem dX5_readStatement_29 : decode cX5_readStatement 29 = .ok (.iconst (-1), 1) := by decide +kernel
theorem dX5_readStatement_30 : decode cX5_readStatement 30 = .ok (.putfield 281, 3) := by decide +kernel
theorem dX5_readStatement_33 : decode cX5_readStatement 33 = .ok (.aload_n 0, 1) := by decide +kernel
theorem dX5_readStatement_34 : decode cX5_readStatement 34 = .ok (.iconst (-1), 1) := by decide +kernel
theorem dX5_readStatement_35 : decode cX5_readStatement 35 = .ok (.putfield 284, 3) := by decide +kernel
theorem dX5_readStatement_38 : decode cX5_readStatement 38 = .ok (.aload_n 0, 1) := by decide +kernel
theorem dX5_readStatement_39 : decode cX5_readStatement 39 = .ok (.getfield 278, 3) := by decide +kernel
theorem dX5_readStatement_42 : decode cX5_readStatement 42 = .ok (.iconst (-1), 1) := by decide +kernel
theorem dX5_readStatement_43 : decode cX5_readStatement 43 = .ok (.if_icmp .ne 8, 3) := by decide +kernel
theorem dX5_readStatement_46 : decode cX5_readStatement 46 = .ok (.aload_n 0, 1) := by decide +kernel
theorem dX5_readStatement_47 : decode cX5_readStatement 47 = .ok (.invokevirtual 287, 3) := by decide +kernel
theorem dX5_readStatement_50 : decode cX5_readStatement 50 = .ok (.return_, 1) := by decide +kernel
theorem dX5_readStatement_51 : decode cX5_readStatement 51 = .ok (.aload_n 0, 1) := by decide +kernel
theorem dX5_readStatement_52 : decode cX5_readStatement 52 = .ok (.getfield 278, 3) := by decide +kernel
theorem dX5_readStatement_55 : decode cX5_readStatement 55 = .ok (.bipush 6, 2) := by decide +kernel
theorem dX5_readStatement_57 : decode cX5_readStatement 57 = .ok (.if_icmp .le 8, 3) := by decide +kernel
theorem dX5_readStatement_60 : decode cX5_readStatement 60 = .ok (.aload_n 0, 1) := by decide +kernel
theorem dX5_readStatement_61 : decode cX5_readStatement 61 = .ok (.invokevirtual 234, 3) := by decide +kernel
theorem dX5_readStatement_64 : decode cX5_readStatement 64 = .ok (.return_, 1) := by decide +kernel
theorem dX5_readStatement_65 : decode cX5_readStatement 65 = .ok (.aload_n 0, 1) := by decide +kernel
theorem dX5_readStatement_66 : decode cX5_readStatement 66 = .ok (.invokevirtual 231, 3) := by decide +kernel
theorem dX5_readStatement_69 : decode cX5_readStatement 69 = .ok (.aload_n 0, 1) := by decide +kernel
theorem dX5_readStatement_70 : decode cX5_readStatement 70 = .ok (.getfield 278, 3) := by decide +kernel
theorem dX5_readStatement_73 : decode cX5_readStatement 73 = .ok (.tableswitch 104 0 2 #[27, 38, 63], 27) := by decide +kernel
theorem dX5_readStatement_100 : decode cX5_readStatement 100 = .ok (.aload_n 0, 1) := by decide +kernel
theorem dX5_readStatement_101 : decode cX5_readStatement 101 = .ok (.aload_n 0, 1) := by decide +kernel
theorem dX5_readStatement_102 : decode cX5_readStatement 102 = .ok (.invokevirtual 249, 3) := by decide +kernel
theorem dX5_readStatement_105 : decode cX5_readStatement 105 = .ok (.putfield 290, 3) := by decide +kernel
theorem dX5_readStatement_108 : decode cX5_readStatement 108 = .ok (.goto 148, 3) := by decide +kernel
theorem dX5_readStatement_111 : decode cX5_readStatement 111 = .ok (.aload_n 0, 1) := by decide +kernel
theorem dX5_readStatement_112 : decode cX5_readStatement 112 = .ok (.aload_n 0, 1) := by decide +kernel
theorem dX5_readStatement_113 : decode cX5_readStatement 113 = .ok (.invokevirtual 249, 3) := by decide +kernel
theorem dX5_readStatement_116 : decode cX5_readStatement 116 = .ok (.putfield 290, 3) := by decide +kernel
theorem dX5_readStatement_119 : decode cX5_readStatement 119 = .ok (.aload_n 0, 1) := by decide +kernel
theorem dX5_readStatement_120 : decode cX5_readStatement 120 = .ok (.bipush 58, 2) := by decide +kernel
theorem dX5_readStatement_122 : decode cX5_readStatement 122 = .ok (.invokevirtual 252, 3) := by decide +kernel
theorem dX5_readStatement_125 : decode cX5_readStatement 125 = .ok (.aload_n 0, 1) := by decide +kernel
theorem dX5_readStatement_126 : decode cX5_readStatement 126 = .ok (.aload_n 0, 1) := by decide +kernel
theorem dX5_readStatement_127 : decode cX5_readStatement 127 = .ok (.invokevirtual 249, 3) := by decide +kernel
theorem dX5_readStatement_130 : decode cX5_readStatement 130 = .ok (.putfield 293, 3) := by decide +kernel
theorem dX5_readStatement_133 : decode cX5_readStatement 133 = .ok (.goto 123, 3) := by decide +kernel
theorem dX5_readStatement_136 : decode cX5_readStatement 136 = .ok (.aload_n 0, 1) := by decide +kernel
theorem dX5_readStatement_137 : decode cX5_readStatement 137 = .ok (.aload_n 0, 1) := by decide +kernel
theorem dX5_readStatement_138 : decode cX5_readStatement 138 = .ok (.invokevirtual 249, 3) := by decide +kernel
theorem dX5_readStatement_141 : decode cX5_readStatement 141 = .ok (.putfield 290, 3) := by decide +kernel
theorem dX5_readStatement_144 : decode cX5_readStatement 144 = .ok (.aload_n 0, 1) := by decide +kernel
theorem dX5_readStatement_145 : decode cX5_readStatement 145 = .ok (.getfield 150, 3) := by decide +kernel
theorem dX5_readStatement_148 : decode cX5_readStatement 148 = .ok (.ifCond .ne 11, 3) := by decide +kernel
theorem dX5_readStatement_151 : decode cX5_readStatement 151 = .ok (.aload_n 0, 1) := by decide +kernel
theorem dX5_readStatement_152 : decode cX5_readStatement 152 = .ok (.aload_n 0, 1) := by decide +kernel
theorem dX5_readStatement_153 : decode cX5_readStatement 153 = .ok (.invokevirtual 249, 3) := by decide +kernel
theorem dX5_readStatement_156 : decode cX5_readStatement 156 = .ok (.putfield 293, 3) := by decide +kernel
theorem dX5_readStatement_159 : decode cX5_readStatement 159 = .ok (.aload_n 0, 1) := by decide +kernel
theorem dX5_readStatement_160 : decode cX5_readStatement 160 = .ok (.getfield 150, 3) := by decide +kernel
theorem dX5_readStatement_163 : decode cX5_readStatement 163 = .ok (.ifCond .ne 93, 3) := by decide +kernel
theorem dX5_readStatement_166 : decode cX5_readStatement 166 = .ok (.aload_n 0, 1) := by decide +kernel
theorem dX5_readStatement_167 : decode cX5_readStatement 167 = .ok (.aload_n 0, 1) := by decide +kernel
theorem dX5_readStatement_168 : decode cX5_readStatement 168 = .ok (.invokevirtual 249, 3) := by decide +kernel
theorem dX5_readStatement_171 : decode cX5_readStatement 171 = .ok (.putfield 296, 3) := by decide +kernel
theorem dX5_readStatement_174 : decode cX5_readStatement 174 = .ok (.goto 82, 3) := by decide +kernel
theorem dX5_readStatement_177 : decode cX5_readStatement 177 = .ok (.aload_n 0, 1) := by decide +kernel
theorem dX5_readStatement_178 : decode cX5_readStatement 178 = .ok (.aload_n 0, 1) := by decide +kernel
theorem dX5_readStatement_179 : decode cX5_readStatement 179 = .ok (.iconst 0, 1) := by decide +kernel
theorem dX5_readStatement_180 : decode cX5_readStatement 180 = .ok (.invokevirtual 255, 3) := by decide +kernel
theorem dX5_readStatement_183 : decode cX5_readStatement 183 = .ok (.putfield 281, 3) := by decide +kernel
theorem dX5_readStatement_186 : decode cX5_readStatement 186 = .ok (.aload_n 0, 1) := by decide +kernel
theorem dX5_readStatement_187 : decode cX5_readStatement 187 = .ok (.getfield 150, 3) := by decide +kernel
theorem dX5_readStatement_190 : decode cX5_readStatement 190 = .ok (.ifCond .ne 36, 3) := by decide +kernel
theorem dX5_readStatement_193 : decode cX5_readStatement 193 = .ok (.aload_n 0, 1) := by decide +kernel
theorem dX5_readStatement_194 : decode cX5_readStatement 194 = .ok (.getfield 278, 3) := by decide +kernel
theorem dX5_readStatement_197 : decode cX5_readStatement 197 = .ok (.iconst 3, 1) := by decide +kernel
theorem dX5_readStatement_198 : decode cX5_readStatement 198 = .ok (.if_icmp .ne 28, 3) := by decide +kernel
theorem dX5_readStatement_201 : decode cX5_readStatement 201 = .ok (.aload_n 0, 1) := by decide +kernel
theorem dX5_readStatement_202 : decode cX5_readStatement 202 = .ok (.bipush 58, 2) := by decide +kernel
theorem dX5_readStatement_204 : decode cX5_readStatement 204 = .ok (.invokevirtual 228, 3) := by decide +kernel
theorem dX5_readStatement_207 : decode cX5_readStatement 207 = .ok (.ifCond .eq 19, 3) := by decide +kernel
theorem dX5_readStatement_210 : decode cX5_readStatement 210 = .ok (.aload_n 0, 1) := by decide +kernel
theorem dX5_readStatement_211 : decode cX5_readStatement 211 = .ok (.invokevirtual 231, 3) := by decide +kernel
theorem dX5_readStatement_214 : decode cX5_readStatement 214 = .ok (.aload_n 0, 1) := by decide +kernel
theorem dX5_readStatement_215 : decode cX5_readStatement 215 = .ok (.aload_n 0, 1) := by decide +kernel
theorem dX5_readStatement_216 : decode cX5_readStatement 216 = .ok (.iconst 0, 1) := by decide +kernel
theorem dX5_readStatement_217 : decode cX5_readStatement 217 = .ok (.invokevirtual 255, 3) := by decide +kernel
theorem dX5_readStatement_220 : decode cX5_readStatement 220 = .ok (.putfield 284, 3) := by decide +kernel
theorem dX5_readStatement_223 : decode cX5_readStatement 223 = .ok (.goto 33, 3) := by decide +kernel
theorem dX5_readStatement_226 : decode cX5_readStatement 226 = .ok (.aload_n 0, 1) := by decide +kernel
theorem dX5_readStatement_227 : decode cX5_readStatement 227 = .ok (.getfield 150, 3) := by decide +kernel
theorem dX5_readStatement_230 : decode cX5_readStatement 230 = .ok (.ifCond .ne 26, 3) := by decide +kernel
theorem dX5_readStatement_233 : decode cX5_readStatement 233 = .ok (.aload_n 0, 1) := by decide +kernel
theorem dX5_readStatement_234 : decode cX5_readStatement 234 = .ok (.getfield 278, 3) := by decide +kernel
theorem dX5_readStatement_237 : decode cX5_readStatement 237 = .ok (.iconst 5, 1) := by decide +kernel
theorem dX5_readStatement_238 : decode cX5_readStatement 238 = .ok (.if_icmp .ne 18, 3) := by decide +kernel
theorem dX5_readStatement_241 : decode cX5_readStatement 241 = .ok (.aload_n 0, 1) := by decide +kernel
theorem dX5_readStatement_242 : decode cX5_readStatement 242 = .ok (.bipush 61, 2) := by decide +kernel
theorem dX5_readStatement_244 : decode cX5_readStatement 244 = .ok (.invokevirtual 252, 3) := by decide +kernel
theorem dX5_readStatement_247 : decode cX5_readStatement 247 = .ok (.aload_n 0, 1) := by decide +kernel
theorem dX5_readStatement_248 : decode cX5_readStatement 248 = .ok (.aload_n 0, 1) := by decide +kernel
theorem dX5_readStatement_249 : decode cX5_readStatement 249 = .ok (.iconst 0, 1) := by decide +kernel
theorem dX5_readStatement_250 : decode cX5_readStatement 250 = .ok (.invokevirtual 255, 3) := by decide +kernel
theorem dX5_readStatement_253 : decode cX5_readStatement 253 = .ok (.putfield 284, 3) := by decide +kernel
theorem dX5_readStatement_256 : decode cX5_readStatement 256 = .ok (.return_, 1) := by decide +kernel
abbrev cX5_readTold : ByteArray := prog_26_method_27_code
def yX5_readTold : MethodName := ⟨RX5, "readTold", "()V"⟩
theorem dX5_readTold_0 : decode cX5_readTold 0 = .ok (.aload_n 0, 1) := by decide +kernel
theorem dX5_readTold_1 : decode cX5_readTold 1 = .ok (.aload_n 0, 1) := by decide +kernel
theorem dX5_readTold_2 : decode cX5_readTold 2 = .ok (.invokevirtual 249, 3) := by decide +kernel
theorem dX5_readTold_5 : decode cX5_readTold 5 = .ok (.putfield 290, 3) := by decide +kernel
theorem dX5_readTold_8 : decode cX5_readTold 8 = .ok (.aload_n 0, 1) := by decide +kernel
theorem dX5_readTold_9 : decode cX5_readTold 9 = .ok (.getfield 150, 3) := by decide +kernel
theorem dX5_readTold_12 : decode cX5_readTold 12 = .ok (.ifCond .eq 4, 3) := by decide +kernel
theorem dX5_readTold_15 : decode cX5_readTold 15 = .ok (.return_, 1) := by decide +kernel
theorem dX5_readTold_16 : decode cX5_readTold 16 = .ok (.aload_n 0, 1) := by decide +kernel
theorem dX5_readTold_17 : decode cX5_readTold 17 = .ok (.bipush 58, 2) := by decide +kernel
theorem dX5_readTold_19 : decode cX5_readTold 19 = .ok (.invokevirtual 228, 3) := by decide +kernel
theorem dX5_readTold_22 : decode cX5_readTold 22 = .ok (.ifCond .eq 49, 3) := by decide +kernel
theorem dX5_readTold_25 : decode cX5_readTold 25 = .ok (.aload_n 0, 1) := by decide +kernel
theorem dX5_readTold_26 : decode cX5_readTold 26 = .ok (.invokevirtual 231, 3) := by decide +kernel
theorem dX5_readTold_29 : decode cX5_readTold 29 = .ok (.aload_n 0, 1) := by decide +kernel
theorem dX5_readTold_30 : decode cX5_readTold 30 = .ok (.aload_n 0, 1) := by decide +kernel
theorem dX5_readTold_31 : decode cX5_readTold 31 = .ok (.iconst 0, 1) := by decide +kernel
theorem dX5_readTold_32 : decode cX5_readTold 32 = .ok (.invokevirtual 255, 3) := by decide +kernel
theorem dX5_readTold_35 : decode cX5_readTold 35 = .ok (.putfield 284, 3) := by decide +kernel
theorem dX5_readTold_38 : decode cX5_readTold 38 = .ok (.aload_n 0, 1) := by decide +kernel
theorem dX5_readTold_39 : decode cX5_readTold 39 = .ok (.getfield 150, 3) := by decide +kernel
theorem dX5_readTold_42 : decode cX5_readTold 42 = .ok (.ifCond .ne 45, 3) := by decide +kernel
theorem dX5_readTold_45 : decode cX5_readTold 45 = .ok (.aload_n 0, 1) := by decide +kernel
theorem dX5_readTold_46 : decode cX5_readTold 46 = .ok (.sipush 256, 3) := by decide +kernel
theorem dX5_readTold_49 : decode cX5_readTold 49 = .ok (.invokevirtual 228, 3) := by decide +kernel
theorem dX5_readTold_52 : decode cX5_readTold 52 = .ok (.ifCond .eq 35, 3) := by decide +kernel
theorem dX5_readTold_55 : decode cX5_readTold 55 = .ok (.aload_n 0, 1) := by decide +kernel
theorem dX5_readTold_56 : decode cX5_readTold 56 = .ok (.invokevirtual 231, 3) := by decide +kernel
theorem dX5_readTold_59 : decode cX5_readTold 59 = .ok (.aload_n 0, 1) := by decide +kernel
theorem dX5_readTold_60 : decode cX5_readTold 60 = .ok (.aload_n 0, 1) := by decide +kernel
theorem dX5_readTold_61 : decode cX5_readTold 61 = .ok (.iconst 0, 1) := by decide +kernel
theorem dX5_readTold_62 : decode cX5_readTold 62 = .ok (.invokevirtual 255, 3) := by decide +kernel
theorem dX5_readTold_65 : decode cX5_readTold 65 = .ok (.putfield 281, 3) := by decide +kernel
theorem dX5_readTold_68 : decode cX5_readTold 68 = .ok (.goto 19, 3) := by decide +kernel
theorem dX5_readTold_71 : decode cX5_readTold 71 = .ok (.aload_n 0, 1) := by decide +kernel
theorem dX5_readTold_72 : decode cX5_readTold 72 = .ok (.sipush 256, 3) := by decide +kernel
theorem dX5_readTold_75 : decode cX5_readTold 75 = .ok (.invokevirtual 252, 3) := by decide +kernel
theorem dX5_readTold_78 : decode cX5_readTold 78 = .ok (.aload_n 0, 1) := by decide +kernel
theorem dX5_readTold_79 : decode cX5_readTold 79 = .ok (.aload_n 0, 1) := by decide +kernel
theorem dX5_readTold_80 : decode cX5_readTold 80 = .ok (.iconst 0, 1) := by decide +kernel
theorem dX5_readTold_81 : decode cX5_readTold 81 = .ok (.invokevirtual 255, 3) := by decide +kernel
theorem dX5_readTold_84 : decode cX5_readTold 84 = .ok (.putfield 281, 3) := by decide +kernel
theorem dX5_readTold_87 : decode cX5_readTold 87 = .ok (.return_, 1) := by decide +kernel
abbrev cX5_nameNode : ByteArray := prog_26_method_20_code
def yX5_nameNode : MethodName := ⟨RX5, "nameNode", "()I"⟩
theorem dX5_nameNode_0 : decode cX5_nameNode 0 = .ok (.aload_n 0, 1) := by decide +kernel
theorem dX5_nameNode_1 : decode cX5_nameNode 1 = .ok (.iconst 0, 1) := by decide +kernel
theorem dX5_nameNode_2 : decode cX5_nameNode 2 = .ok (.aload_n 0, 1) := by decide +kernel
theorem dX5_nameNode_3 : decode cX5_nameNode 3 = .ok (.getfield 200, 3) := by decide +kernel
theorem dX5_nameNode_6 : decode cX5_nameNode 6 = .ok (.aload_n 0, 1) := by decide +kernel
theorem dX5_nameNode_7 : decode cX5_nameNode 7 = .ok (.getfield 212, 3) := by decide +kernel
theorem dX5_nameNode_10 : decode cX5_nameNode 10 = .ok (.aload_n 0, 1) := by decide +kernel
theorem dX5_nameNode_11 : decode cX5_nameNode 11 = .ok (.getfield 200, 3) := by decide +kernel
theorem dX5_nameNode_14 : decode cX5_nameNode 14 = .ok (.isub, 1) := by decide +kernel
theorem dX5_nameNode_15 : decode cX5_nameNode 15 = .ok (.iconst 0, 1) := by decide +kernel
theorem dX5_nameNode_16 : decode cX5_nameNode 16 = .ok (.aload_n 0, 1) := by decide +kernel
theorem dX5_nameNode_17 : decode cX5_nameNode 17 = .ok (.getfield 200, 3) := by decide +kernel
theorem dX5_nameNode_20 : decode cX5_nameNode 20 = .ok (.invokevirtual 241, 3) := by decide +kernel
theorem dX5_nameNode_23 : decode cX5_nameNode 23 = .ok (.istore_n 1, 1) := by decide +kernel
theorem dX5_nameNode_24 : decode cX5_nameNode 24 = .ok (.aload_n 0, 1) := by decide +kernel
theorem dX5_nameNode_25 : decode cX5_nameNode 25 = .ok (.invokevirtual 245, 3) := by decide +kernel
theorem dX5_nameNode_28 : decode cX5_nameNode 28 = .ok (.ifCond .eq 10, 3) := by decide +kernel
theorem dX5_nameNode_31 : decode cX5_nameNode 31 = .ok (.aload_n 0, 1) := by decide +kernel
theorem dX5_nameNode_32 : decode cX5_nameNode 32 = .ok (.invokevirtual 231, 3) := by decide +kernel
theorem dX5_nameNode_35 : decode cX5_nameNode 35 = .ok (.goto 7, 3) := by decide +kernel
theorem dX5_nameNode_38 : decode cX5_nameNode 38 = .ok (.aload_n 0, 1) := by decide +kernel
theorem dX5_nameNode_39 : decode cX5_nameNode 39 = .ok (.invokevirtual 234, 3) := by decide +kernel
theorem dX5_nameNode_42 : decode cX5_nameNode 42 = .ok (.iload_n 1, 1) := by decide +kernel
theorem dX5_nameNode_43 : decode cX5_nameNode 43 = .ok (.ireturn, 1) := by decide +kernel
abbrev cX5_node : ByteArray := prog_26_method_19_code
def yX5_node : MethodName := ⟨RX5, "node", "(IIIII)I"⟩
theorem dX5_node_0 : decode cX5_node 0 = .ok (.aload_n 0, 1) := by decide +kernel
theorem dX5_node_1 : decode cX5_node 1 = .ok (.getfield 237, 3) := by decide +kernel
theorem dX5_node_4 : decode cX5_node 4 = .ok (.ifCond .ne 5, 3) := by decide +kernel
theorem dX5_node_7 : decode cX5_node 7 = .ok (.iconst 0, 1) := by decide +kernel
theorem dX5_node_8 : decode cX5_node 8 = .ok (.ireturn, 1) := by decide +kernel
theorem dX5_node_9 : decode cX5_node 9 = .ok (.aload_n 0, 1) := by decide +kernel
theorem dX5_node_10 : decode cX5_node 10 = .ok (.getfield 76, 3) := by decide +kernel
theorem dX5_node_13 : decode cX5_node 13 = .ok (.aload_n 0, 1) := by decide +kernel
theorem dX5_node_14 : decode cX5_node 14 = .ok (.getfield 173, 3) := by decide +kernel
theorem dX5_node_17 : decode cX5_node 17 = .ok (.iload_n 1, 1) := by decide +kernel
theorem dX5_node_18 : decode cX5_node 18 = .ok (.iastore, 1) := by decide +kernel
theorem dX5_node_19 : decode cX5_node 19 = .ok (.aload_n 0, 1) := by decide +kernel
theorem dX5_node_20 : decode cX5_node 20 = .ok (.getfield 79, 3) := by decide +kernel
theorem dX5_node_23 : decode cX5_node 23 = .ok (.aload_n 0, 1) := by decide +kernel
theorem dX5_node_24 : decode cX5_node 24 = .ok (.getfield 173, 3) := by decide +kernel
theorem dX5_node_27 : decode cX5_node 27 = .ok (.iload_n 2, 1) := by decide +kernel
theorem dX5_node_28 : decode cX5_node 28 = .ok (.iastore, 1) := by decide +kernel
theorem dX5_node_29 : decode cX5_node 29 = .ok (.aload_n 0, 1) := by decide +kernel
theorem dX5_node_30 : decode cX5_node 30 = .ok (.getfield 82, 3) := by decide +kernel
theorem dX5_node_33 : decode cX5_node 33 = .ok (.aload_n 0, 1) := by decide +kernel
theorem dX5_node_34 : decode cX5_node 34 = .ok (.getfield 173, 3) := by decide +kernel
theorem dX5_node_37 : decode cX5_node 37 = .ok (.iload_n 3, 1) := by decide +kernel
theorem dX5_node_38 : decode cX5_node 38 = .ok (.iastore, 1) := by decide +kernel
theorem dX5_node_39 : decode cX5_node 39 = .ok (.aload_n 0, 1) := by decide +kernel
theorem dX5_node_40 : decode cX5_node 40 = .ok (.getfield 85, 3) := by decide +kernel
theorem dX5_node_43 : decode cX5_node 43 = .ok (.aload_n 0, 1) := by decide +kernel
theorem dX5_node_44 : decode cX5_node 44 = .ok (.getfield 173, 3) := by decide +kernel
theorem dX5_node_47 : decode cX5_node 47 = .ok (.iload 4, 2) := by decide +kernel
theorem dX5_node_49 : decode cX5_node 49 = .ok (.iastore, 1) := by decide +kernel
theorem dX5_node_50 : decode cX5_node 50 = .ok (.aload_n 0, 1) := by decide +kernel
theorem dX5_node_51 : decode cX5_node 51 = .ok (.getfield 88, 3) := by decide +kernel
theorem dX5_node_54 : decode cX5_node 54 = .ok (.aload_n 0, 1) := by decide +kernel
theorem dX5_node_55 : decode cX5_node 55 = .ok (.getfield 173, 3) := by decide +kernel
theorem dX5_node_58 : decode cX5_node 58 = .ok (.iload 5, 2) := by decide +kernel
theorem dX5_node_60 : decode cX5_node 60 = .ok (.iastore, 1) := by decide +kernel
theorem dX5_node_61 : decode cX5_node 61 = .ok (.aload_n 0, 1) := by decide +kernel
theorem dX5_node_62 : decode cX5_node 62 = .ok (.getfield 91, 3) := by decide +kernel
theorem dX5_node_65 : decode cX5_node 65 = .ok (.aload_n 0, 1) := by decide +kernel
theorem dX5_node_66 : decode cX5_node 66 = .ok (.getfield 173, 3) := by decide +kernel
theorem dX5_node_69 : decode cX5_node 69 = .ok (.iload 5, 2) := by decide +kernel
theorem dX5_node_71 : decode cX5_node 71 = .ok (.iastore, 1) := by decide +kernel
theorem dX5_node_72 : decode cX5_node 72 = .ok (.aload_n 0, 1) := by decide +kernel
theorem dX5_node_73 : decode cX5_node 73 = .ok (.getfield 100, 3) := by decide +kernel
theorem dX5_node_76 : decode cX5_node 76 = .ok (.aload_n 0, 1) := by decide +kernel
theorem dX5_node_77 : decode cX5_node 77 = .ok (.getfield 173, 3) := by decide +kernel
theorem dX5_node_80 : decode cX5_node 80 = .ok (.aload_n 0, 1) := by decide +kernel
theorem dX5_node_81 : decode cX5_node 81 = .ok (.getfield 173, 3) := by decide +kernel
theorem dX5_node_84 : decode cX5_node 84 = .ok (.iastore, 1) := by decide +kernel
theorem dX5_node_85 : decode cX5_node 85 = .ok (.aload_n 0, 1) := by decide +kernel
theorem dX5_node_86 : decode cX5_node 86 = .ok (.dup, 1) := by decide +kernel
theorem dX5_node_87 : decode cX5_node 87 = .ok (.getfield 173, 3) := by decide +kernel
theorem dX5_node_90 : decode cX5_node 90 = .ok (.iconst 1, 1) := by decide +kernel
theorem dX5_node_91 : decode cX5_node 91 = .ok (.iadd, 1) := by decide +kernel
theorem dX5_node_92 : decode cX5_node 92 = .ok (.putfield 173, 3) := by decide +kernel
theorem dX5_node_95 : decode cX5_node 95 = .ok (.aload_n 0, 1) := by decide +kernel
theorem dX5_node_96 : decode cX5_node 96 = .ok (.getfield 173, 3) := by decide +kernel
theorem dX5_node_99 : decode cX5_node 99 = .ok (.iconst 1, 1) := by decide +kernel
theorem dX5_node_100 : decode cX5_node 100 = .ok (.isub, 1) := by decide +kernel
theorem dX5_node_101 : decode cX5_node 101 = .ok (.ireturn, 1) := by decide +kernel
abbrev cX5_isName : ByteArray := prog_26_method_15_code
def yX5_isName : MethodName := ⟨RX5, "isName", "()Z"⟩
theorem dX5_isName_0 : decode cX5_isName 0 = .ok (.aload_n 0, 1) := by decide +kernel
theorem dX5_isName_1 : decode cX5_isName 1 = .ok (.getfield 203, 3) := by decide +kernel
theorem dX5_isName_4 : decode cX5_isName 4 = .ok (.iconst 1, 1) := by decide +kernel
theorem dX5_isName_5 : decode cX5_isName 5 = .ok (.if_icmp .ne 15, 3) := by decide +kernel
theorem dX5_isName_8 : decode cX5_isName 8 = .ok (.aload_n 0, 1) := by decide +kernel
theorem dX5_isName_9 : decode cX5_isName 9 = .ok (.getfield 206, 3) := by decide +kernel
theorem dX5_isName_12 : decode cX5_isName 12 = .ok (.iconst (-1), 1) := by decide +kernel
theorem dX5_isName_13 : decode cX5_isName 13 = .ok (.if_icmp .ne 7, 3) := by decide +kernel
theorem dX5_isName_16 : decode cX5_isName 16 = .ok (.iconst 1, 1) := by decide +kernel
theorem dX5_isName_17 : decode cX5_isName 17 = .ok (.goto 4, 3) := by decide +kernel
theorem dX5_isName_20 : decode cX5_isName 20 = .ok (.iconst 0, 1) := by decide +kernel
theorem dX5_isName_21 : decode cX5_isName 21 = .ok (.ireturn, 1) := by decide +kernel
abbrev cX5_cant : ByteArray := prog_26_method_16_code
def yX5_cant : MethodName := ⟨RX5, "cant", "()V"⟩
theorem dX5_cant_0 : decode cX5_cant 0 = .ok (.aload_n 0, 1) := by decide +kernel
theorem dX5_cant_1 : decode cX5_cant 1 = .ok (.iconst 1, 1) := by decide +kernel
theorem dX5_cant_2 : decode cX5_cant 2 = .ok (.aload_n 0, 1) := by decide +kernel
theorem dX5_cant_3 : decode cX5_cant 3 = .ok (.getfield 200, 3) := by decide +kernel
theorem dX5_cant_6 : decode cX5_cant 6 = .ok (.invokevirtual 218, 3) := by decide +kernel
theorem dX5_cant_9 : decode cX5_cant 9 = .ok (.return_, 1) := by decide +kernel
abbrev cX5_isSign : ByteArray := prog_26_method_14_code
def yX5_isSign : MethodName := ⟨RX5, "isSign", "(I)Z"⟩
theorem dX5_isSign_0 : decode cX5_isSign 0 = .ok (.aload_n 0, 1) := by decide +kernel
theorem dX5_isSign_1 : decode cX5_isSign 1 = .ok (.getfield 203, 3) := by decide +kernel
theorem dX5_isSign_4 : decode cX5_isSign 4 = .ok (.iconst 2, 1) := by decide +kernel
theorem dX5_isSign_5 : decode cX5_isSign 5 = .ok (.if_icmp .ne 15, 3) := by decide +kernel
theorem dX5_isSign_8 : decode cX5_isSign 8 = .ok (.aload_n 0, 1) := by decide +kernel
theorem dX5_isSign_9 : decode cX5_isSign 9 = .ok (.getfield 225, 3) := by decide +kernel
theorem dX5_isSign_12 : decode cX5_isSign 12 = .ok (.iload_n 1, 1) := by decide +kernel
theorem dX5_isSign_13 : decode cX5_isSign 13 = .ok (.if_icmp .ne 7, 3) := by decide +kernel
theorem dX5_isSign_16 : decode cX5_isSign 16 = .ok (.iconst 1, 1) := by decide +kernel
theorem dX5_isSign_17 : decode cX5_isSign 17 = .ok (.goto 4, 3) := by decide +kernel
theorem dX5_isSign_20 : decode cX5_isSign 20 = .ok (.iconst 0, 1) := by decide +kernel
theorem dX5_isSign_21 : decode cX5_isSign 21 = .ok (.ireturn, 1) := by decide +kernel
abbrev cX5_readTerm : ByteArray := prog_26_method_21_code
def yX5_readTerm : MethodName := ⟨RX5, "readTerm", "(I)I"⟩
theorem dX5_readTerm_0 : decode cX5_readTerm 0 = .ok (.iload_n 1, 1) := by decide +kernel
theorem dX5_readTerm_1 : decode cX5_readTerm 1 = .ok (.bipush 40, 2) := by decide +kernel
theorem dX5_readTerm_3 : decode cX5_readTerm 3 = .ok (.if_icmp .ne 26, 3) := by decide +kernel
theorem dX5_readTerm_6 : decode cX5_readTerm 6 = .ok (.aload_n 0, 1) := by decide +kernel
theorem dX5_readTerm_7 : decode cX5_readTerm 7 = .ok (.getfield 203, 3) := by decide +kernel
theorem dX5_readTerm_10 : decode cX5_readTerm 10 = .ok (.ifCond .ne 10, 3) := by decide +kernel
theorem dX5_readTerm_13 : decode cX5_readTerm 13 = .ok (.aload_n 0, 1) := by decide +kernel
theorem dX5_readTerm_14 : decode cX5_readTerm 14 = .ok (.invokevirtual 234, 3) := by decide +kernel
theorem dX5_readTerm_17 : decode cX5_readTerm 17 = .ok (.goto 12, 3) := by decide +kernel
theorem dX5_readTerm_20 : decode cX5_readTerm 20 = .ok (.aload_n 0, 1) := by decide +kernel
theorem dX5_readTerm_21 : decode cX5_readTerm 21 = .ok (.iconst 2, 1) := by decide +kernel
theorem dX5_readTerm_22 : decode cX5_readTerm 22 = .ok (.aload_n 0, 1) := by decide +kernel
theorem dX5_readTerm_23 : decode cX5_readTerm 23 = .ok (.getfield 200, 3) := by decide +kernel
theorem dX5_readTerm_26 : decode cX5_readTerm 26 = .ok (.invokevirtual 218, 3) := by decide +kernel
theorem dX5_readTerm_29 : decode cX5_readTerm 29 = .ok (.aload_n 0, 1) := by decide +kernel
theorem dX5_readTerm_30 : decode cX5_readTerm 30 = .ok (.getfield 150, 3) := by decide +kernel
theorem dX5_readTerm_33 : decode cX5_readTerm 33 = .ok (.ifCond .eq 5, 3) := by decide +kernel
theorem dX5_readTerm_36 : decode cX5_readTerm 36 = .ok (.iconst 0, 1) := by decide +kernel
theorem dX5_readTerm_37 : decode cX5_readTerm 37 = .ok (.ireturn, 1) := by decide +kernel
theorem dX5_readTerm_38 : decode cX5_readTerm 38 = .ok (.aload_n 0, 1) := by decide +kernel
theorem dX5_readTerm_39 : decode cX5_readTerm 39 = .ok (.getfield 200, 3) := by decide +kernel
theorem dX5_readTerm_42 : decode cX5_readTerm 42 = .ok (.istore_n 2, 1) := by decide +kernel
theorem dX5_readTerm_43 : decode cX5_readTerm 43 = .ok (.aload_n 0, 1) := by decide +kernel
theorem dX5_readTerm_44 : decode cX5_readTerm 44 = .ok (.bipush 92, 2) := by decide +kernel
theorem dX5_readTerm_46 : decode cX5_readTerm 46 = .ok (.invokevirtual 228, 3) := by decide +kernel
theorem dX5_readTerm_49 : decode cX5_readTerm 49 = .ok (.ifCond .ne 12, 3) := by decide +kernel
theorem dX5_readTerm_52 : decode cX5_readTerm 52 = .ok (.aload_n 0, 1) := by decide +kernel
theorem dX5_readTerm_53 : decode cX5_readTerm 53 = .ok (.bipush 33, 2) := by decide +kernel
theorem dX5_readTerm_55 : decode cX5_readTerm 55 = .ok (.invokevirtual 228, 3) := by decide +kernel
theorem dX5_readTerm_58 : decode cX5_readTerm 58 = .ok (.ifCond .eq 78, 3) := by decide +kernel
theorem dX5_readTerm_61 : decode cX5_readTerm 61 = .ok (.aload_n 0, 1) := by decide +kernel
theorem dX5_readTerm_62 : decode cX5_readTerm 62 = .ok (.aload_n 0, 1) := by decide +kernel
theorem dX5_readTerm_63 : decode cX5_readTerm 63 = .ok (.bipush 92, 2) := by decide +kernel
theorem dX5_readTerm_65 : decode cX5_readTerm 65 = .ok (.invokevirtual 228, 3) := by decide +kernel
theorem dX5_readTerm_68 : decode cX5_readTerm 68 = .ok (.ifCond .eq 7, 3) := by decide +kernel
theorem dX5_readTerm_71 : decode cX5_readTerm 71 = .ok (.iconst 4, 1) := by decide +kernel
theorem dX5_readTerm_72 : decode cX5_readTerm 72 = .ok (.goto 4, 3) := by decide +kernel
theorem dX5_readTerm_75 : decode cX5_readTerm 75 = .ok (.iconst 5, 1) := by decide +kernel
theorem dX5_readTerm_76 : decode cX5_readTerm 76 = .ok (.iconst 0, 1) := by decide +kernel
theorem dX5_readTerm_77 : decode cX5_readTerm 77 = .ok (.iconst 0, 1) := by decide +kernel
theorem dX5_readTerm_78 : decode cX5_readTerm 78 = .ok (.iconst 0, 1) := by decide +kernel
theorem dX5_readTerm_79 : decode cX5_readTerm 79 = .ok (.iload_n 2, 1) := by decide +kernel
theorem dX5_readTerm_80 : decode cX5_readTerm 80 = .ok (.invokevirtual 241, 3) := by decide +kernel
theorem dX5_readTerm_83 : decode cX5_readTerm 83 = .ok (.istore_n 3, 1) := by decide +kernel
theorem dX5_readTerm_84 : decode cX5_readTerm 84 = .ok (.aload_n 0, 1) := by decide +kernel
theorem dX5_readTerm_85 : decode cX5_readTerm 85 = .ok (.invokevirtual 231, 3) := by decide +kernel
theorem dX5_readTerm_88 : decode cX5_readTerm 88 = .ok (.aload_n 0, 1) := by decide +kernel
theorem dX5_readTerm_89 : decode cX5_readTerm 89 = .ok (.invokevirtual 249, 3) := by decide +kernel
theorem dX5_readTerm_92 : decode cX5_readTerm 92 = .ok (.istore 4, 2) := by decide +kernel
theorem dX5_readTerm_94 : decode cX5_readTerm 94 = .ok (.aload_n 0, 1) := by decide +kernel
theorem dX5_readTerm_95 : decode cX5_readTerm 95 = .ok (.bipush 58, 2) := by decide +kernel
theorem dX5_readTerm_97 : decode cX5_readTerm 97 = .ok (.invokevirtual 252, 3) := by decide +kernel
theorem dX5_readTerm_100 : decode cX5_readTerm 100 = .ok (.aload_n 0, 1) := by decide +kernel
theorem dX5_readTerm_101 : decode cX5_readTerm 101 = .ok (.iload_n 1, 1) := by decide +kernel
theorem dX5_readTerm_102 : decode cX5_readTerm 102 = .ok (.iconst 1, 1) := by decide +kernel
theorem dX5_readTerm_103 : decode cX5_readTerm 103 = .ok (.iadd, 1) := by decide +kernel
theorem dX5_readTerm_104 : decode cX5_readTerm 104 = .ok (.invokevirtual 255, 3) := by decide +kernel
theorem dX5_readTerm_107 : decode cX5_readTerm 107 = .ok (.istore 5, 2) := by decide +kernel
theorem dX5_readTerm_109 : decode cX5_readTerm 109 = .ok (.aload_n 0, 1) := by decide +kernel
theorem dX5_readTerm_110 : decode cX5_readTerm 110 = .ok (.bipush 46, 2) := by decide +kernel
theorem dX5_readTerm_112 : decode cX5_readTerm 112 = .ok (.invokevirtual 252, 3) := by decide +kernel
theorem dX5_readTerm_115 : decode cX5_readTerm 115 = .ok (.aload_n 0, 1) := by decide +kernel
theorem dX5_readTerm_116 : decode cX5_readTerm 116 = .ok (.iload_n 1, 1) := by decide +kernel
theorem dX5_readTerm_117 : decode cX5_readTerm 117 = .ok (.iconst 1, 1) := by decide +kernel
theorem dX5_readTerm_118 : decode cX5_readTerm 118 = .ok (.iadd, 1) := by decide +kernel
theorem dX5_readTerm_119 : decode cX5_readTerm 119 = .ok (.invokevirtual 255, 3) := by decide +kernel
theorem dX5_readTerm_122 : decode cX5_readTerm 122 = .ok (.istore 6, 2) := by decide +kernel
theorem dX5_readTerm_124 : decode cX5_readTerm 124 = .ok (.aload_n 0, 1) := by decide +kernel
theorem dX5_readTerm_125 : decode cX5_readTerm 125 = .ok (.iload_n 3, 1) := by decide +kernel
theorem dX5_readTerm_126 : decode cX5_readTerm 126 = .ok (.iload 4, 2) := by decide +kernel
theorem dX5_readTerm_128 : decode cX5_readTerm 128 = .ok (.iload 5, 2) := by decide +kernel
theorem dX5_readTerm_130 : decode cX5_readTerm 130 = .ok (.iload 6, 2) := by decide +kernel
theorem dX5_readTerm_132 : decode cX5_readTerm 132 = .ok (.invokevirtual 258, 3) := by decide +kernel
theorem dX5_readTerm_135 : decode cX5_readTerm 135 = .ok (.ireturn, 1) := by decide +kernel
theorem dX5_readTerm_136 : decode cX5_readTerm 136 = .ok (.aload_n 0, 1) := by decide +kernel
theorem dX5_readTerm_137 : decode cX5_readTerm 137 = .ok (.getfield 203, 3) := by decide +kernel
theorem dX5_readTerm_140 : decode cX5_readTerm 140 = .ok (.iconst 1, 1) := by decide +kernel
theorem dX5_readTerm_141 : decode cX5_readTerm 141 = .ok (.if_icmp .ne 76, 3) := by decide +kernel
theorem dX5_readTerm_144 : decode cX5_readTerm 144 = .ok (.aload_n 0, 1) := by decide +kernel
theorem dX5_readTerm_145 : decode cX5_readTerm 145 = .ok (.getfield 206, 3) := by decide +kernel
theorem dX5_readTerm_148 : decode cX5_readTerm 148 = .ok (.bipush 7, 2) := by decide +kernel
theorem dX5_readTerm_150 : decode cX5_readTerm 150 = .ok (.if_icmp .ne 67, 3) := by decide +kernel
theorem dX5_readTerm_153 : decode cX5_readTerm 153 = .ok (.aload_n 0, 1) := by decide +kernel
theorem dX5_readTerm_154 : decode cX5_readTerm 154 = .ok (.bipush 6, 2) := by decide +kernel
theorem dX5_readTerm_156 : decode cX5_readTerm 156 = .ok (.iconst 0, 1) := by decide +kernel
theorem dX5_readTerm_157 : decode cX5_readTerm 157 = .ok (.iconst 0, 1) := by decide +kernel
theorem dX5_readTerm_158 : decode cX5_readTerm 158 = .ok (.iconst 0, 1) := by decide +kernel
theorem dX5_readTerm_159 : decode cX5_readTerm 159 = .ok (.iload_n 2, 1) := by decide +kernel
theorem dX5_readTerm_160 : decode cX5_readTerm 160 = .ok (.invokevirtual 241, 3) := by decide +kernel
theorem dX5_readTerm_163 : decode cX5_readTerm 163 = .ok (.istore_n 3, 1) := by decide +kernel
theorem dX5_readTerm_164 : decode cX5_readTerm 164 = .ok (.aload_n 0, 1) := by decide +kernel
theorem dX5_readTerm_165 : decode cX5_readTerm 165 = .ok (.invokevirtual 231, 3) := by decide +kernel
theorem dX5_readTerm_168 : decode cX5_readTerm 168 = .ok (.aload_n 0, 1) := by decide +kernel
theorem dX5_readTerm_169 : decode cX5_readTerm 169 = .ok (.invokevirtual 249, 3) := by decide +kernel
theorem dX5_readTerm_172 : decode cX5_readTerm 172 = .ok (.istore 4, 2) := by decide +kernel
theorem dX5_readTerm_174 : decode cX5_readTerm 174 = .ok (.aload_n 0, 1) := by decide +kernel
theorem dX5_readTerm_175 : decode cX5_readTerm 175 = .ok (.sipush 256, 3) := by decide +kernel
theorem dX5_readTerm_178 : decode cX5_readTerm 178 = .ok (.invokevirtual 252, 3) := by decide +kernel
theorem dX5_readTerm_181 : decode cX5_readTerm 181 = .ok (.aload_n 0, 1) := by decide +kernel
theorem dX5_readTerm_182 : decode cX5_readTerm 182 = .ok (.iload_n 1, 1) := by decide +kernel
theorem dX5_readTerm_183 : decode cX5_readTerm 183 = .ok (.iconst 1, 1) := by decide +kernel
theorem dX5_readTerm_184 : decode cX5_readTerm 184 = .ok (.iadd, 1) := by decide +kernel
theorem dX5_readTerm_185 : decode cX5_readTerm 185 = .ok (.invokevirtual 255, 3) := by decide +kernel
theorem dX5_readTerm_188 : decode cX5_readTerm 188 = .ok (.istore 5, 2) := by decide +kernel
theorem dX5_readTerm_190 : decode cX5_readTerm 190 = .ok (.aload_n 0, 1) := by decide +kernel
theorem dX5_readTerm_191 : decode cX5_readTerm 191 = .ok (.bipush 8, 2) := by decide +kernel
theorem dX5_readTerm_193 : decode cX5_readTerm 193 = .ok (.invokevirtual 262, 3) := by decide +kernel
theorem dX5_readTerm_196 : decode cX5_readTerm 196 = .ok (.aload_n 0, 1) := by decide +kernel
theorem dX5_readTerm_197 : decode cX5_readTerm 197 = .ok (.iload_n 1, 1) := by decide +kernel
theorem dX5_readTerm_198 : decode cX5_readTerm 198 = .ok (.iconst 1, 1) := by decide +kernel
theorem dX5_readTerm_199 : decode cX5_readTerm 199 = .ok (.iadd, 1) := by decide +kernel
theorem dX5_readTerm_200 : decode cX5_readTerm 200 = .ok (.invokevirtual 255, 3) := by decide +kernel
theorem dX5_readTerm_203 : decode cX5_readTerm 203 = .ok (.istore 6, 2) := by decide +kernel
theorem dX5_readTerm_205 : decode cX5_readTerm 205 = .ok (.aload_n 0, 1) := by decide +kernel
theorem dX5_readTerm_206 : decode cX5_readTerm 206 = .ok (.iload_n 3, 1) := by decide +kernel
theorem dX5_readTerm_207 : decode cX5_readTerm 207 = .ok (.iload 4, 2) := by decide +kernel
theorem dX5_readTerm_209 : decode cX5_readTerm 209 = .ok (.iload 5, 2) := by decide +kernel
theorem dX5_readTerm_211 : decode cX5_readTerm 211 = .ok (.iload 6, 2) := by decide +kernel
theorem dX5_readTerm_213 : decode cX5_readTerm 213 = .ok (.invokevirtual 258, 3) := by decide +kernel
theorem dX5_readTerm_216 : decode cX5_readTerm 216 = .ok (.ireturn, 1) := by decide +kernel
theorem dX5_readTerm_217 : decode cX5_readTerm 217 = .ok (.aload_n 0, 1) := by decide +kernel
theorem dX5_readTerm_218 : decode cX5_readTerm 218 = .ok (.iload_n 1, 1) := by decide +kernel
theorem dX5_readTerm_219 : decode cX5_readTerm 219 = .ok (.iload_n 2, 1) := by decide +kernel
theorem dX5_readTerm_220 : decode cX5_readTerm 220 = .ok (.invokevirtual 265, 3) := by decide +kernel
theorem dX5_readTerm_223 : decode cX5_readTerm 223 = .ok (.ireturn, 1) := by decide +kernel
abbrev cX5_need : ByteArray := prog_26_method_17_code
def yX5_need : MethodName := ⟨RX5, "need", "(I)V"⟩
theorem dX5_need_0 : decode cX5_need 0 = .ok (.aload_n 0, 1) := by decide +kernel
theorem dX5_need_1 : decode cX5_need 1 = .ok (.iload_n 1, 1) := by decide +kernel
theorem dX5_need_2 : decode cX5_need 2 = .ok (.invokevirtual 228, 3) := by decide +kernel
theorem dX5_need_5 : decode cX5_need 5 = .ok (.ifCond .eq 10, 3) := by decide +kernel
theorem dX5_need_8 : decode cX5_need 8 = .ok (.aload_n 0, 1) := by decide +kernel
theorem dX5_need_9 : decode cX5_need 9 = .ok (.invokevirtual 231, 3) := by decide +kernel
theorem dX5_need_12 : decode cX5_need 12 = .ok (.goto 7, 3) := by decide +kernel
theorem dX5_need_15 : decode cX5_need 15 = .ok (.aload_n 0, 1) := by decide +kernel
theorem dX5_need_16 : decode cX5_need 16 = .ok (.invokevirtual 234, 3) := by decide +kernel
theorem dX5_need_19 : decode cX5_need 19 = .ok (.return_, 1) := by decide +kernel
abbrev cX5_parts : ByteArray := prog_26_method_22_code
def yX5_parts : MethodName := ⟨RX5, "parts", "(IIII)I"⟩
theorem dX5_parts_0 : decode cX5_parts 0 = .ok (.aload_n 0, 1) := by decide +kernel
theorem dX5_parts_1 : decode cX5_parts 1 = .ok (.getfield 237, 3) := by decide +kernel
theorem dX5_parts_4 : decode cX5_parts 4 = .ok (.ifCond .eq 25, 3) := by decide +kernel
theorem dX5_parts_7 : decode cX5_parts 7 = .ok (.aload_n 0, 1) := by decide +kernel
theorem dX5_parts_8 : decode cX5_parts 8 = .ok (.getfield 79, 3) := by decide +kernel
theorem dX5_parts_11 : decode cX5_parts 11 = .ok (.iload_n 1, 1) := by decide +kernel
theorem dX5_parts_12 : decode cX5_parts 12 = .ok (.iload_n 2, 1) := by decide +kernel
theorem dX5_parts_13 : decode cX5_parts 13 = .ok (.iastore, 1) := by decide +kernel
theorem dX5_parts_14 : decode cX5_parts 14 = .ok (.aload_n 0, 1) := by decide +kernel
theorem dX5_parts_15 : decode cX5_parts 15 = .ok (.getfield 82, 3) := by decide +kernel
theorem dX5_parts_18 : decode cX5_parts 18 = .ok (.iload_n 1, 1) := by decide +kernel
theorem dX5_parts_19 : decode cX5_parts 19 = .ok (.iload_n 3, 1) := by decide +kernel
theorem dX5_parts_20 : decode cX5_parts 20 = .ok (.iastore, 1) := by decide +kernel
theorem dX5_parts_21 : decode cX5_parts 21 = .ok (.aload_n 0, 1) := by decide +kernel
theorem dX5_parts_22 : decode cX5_parts 22 = .ok (.getfield 85, 3) := by decide +kernel
theorem dX5_parts_25 : decode cX5_parts 25 = .ok (.iload_n 1, 1) := by decide +kernel
theorem dX5_parts_26 : decode cX5_parts 26 = .ok (.iload 4, 2) := by decide +kernel
theorem dX5_parts_28 : decode cX5_parts 28 = .ok (.iastore, 1) := by decide +kernel
theorem dX5_parts_29 : decode cX5_parts 29 = .ok (.iload_n 1, 1) := by decide +kernel
theorem dX5_parts_30 : decode cX5_parts 30 = .ok (.ireturn, 1) := by decide +kernel
abbrev cX5_needWord : ByteArray := prog_26_method_18_code
def yX5_needWord : MethodName := ⟨RX5, "needWord", "(I)V"⟩
theorem dX5_needWord_0 : decode cX5_needWord 0 = .ok (.aload_n 0, 1) := by decide +kernel
theorem dX5_needWord_1 : decode cX5_needWord 1 = .ok (.getfield 203, 3) := by decide +kernel
theorem dX5_needWord_4 : decode cX5_needWord 4 = .ok (.iconst 1, 1) := by decide +kernel
theorem dX5_needWord_5 : decode cX5_needWord 5 = .ok (.if_icmp .ne 18, 3) := by decide +kernel
theorem dX5_needWord_8 : decode cX5_needWord 8 = .ok (.aload_n 0, 1) := by decide +kernel
theorem dX5_needWord_9 : decode cX5_needWord 9 = .ok (.getfield 206, 3) := by decide +kernel
theorem dX5_needWord_12 : decode cX5_needWord 12 = .ok (.iload_n 1, 1) := by decide +kernel
theorem dX5_needWord_13 : decode cX5_needWord 13 = .ok (.if_icmp .ne 10, 3) := by decide +kernel
theorem dX5_needWord_16 : decode cX5_needWord 16 = .ok (.aload_n 0, 1) := by decide +kernel
theorem dX5_needWord_17 : decode cX5_needWord 17 = .ok (.invokevirtual 231, 3) := by decide +kernel
theorem dX5_needWord_20 : decode cX5_needWord 20 = .ok (.goto 7, 3) := by decide +kernel
theorem dX5_needWord_23 : decode cX5_needWord 23 = .ok (.aload_n 0, 1) := by decide +kernel
theorem dX5_needWord_24 : decode cX5_needWord 24 = .ok (.invokevirtual 234, 3) := by decide +kernel
theorem dX5_needWord_27 : decode cX5_needWord 27 = .ok (.return_, 1) := by decide +kernel
abbrev cX5_readUse : ByteArray := prog_26_method_24_code
def yX5_readUse : MethodName := ⟨RX5, "readUse", "(II)I"⟩
theorem dX5_readUse_0 : decode cX5_readUse 0 = .ok (.aload_n 0, 1) := by decide +kernel
theorem dX5_readUse_1 : decode cX5_readUse 1 = .ok (.iload_n 1, 1) := by decide +kernel
theorem dX5_readUse_2 : decode cX5_readUse 2 = .ok (.invokevirtual 269, 3) := by decide +kernel
theorem dX5_readUse_5 : decode cX5_readUse 5 = .ok (.istore_n 3, 1) := by decide +kernel
theorem dX5_readUse_6 : decode cX5_readUse 6 = .ok (.aload_n 0, 1) := by decide +kernel
theorem dX5_readUse_7 : decode cX5_readUse 7 = .ok (.getfield 150, 3) := by decide +kernel
theorem dX5_readUse_10 : decode cX5_readUse 10 = .ok (.ifCond .ne 32, 3) := by decide +kernel
theorem dX5_readUse_13 : decode cX5_readUse 13 = .ok (.aload_n 0, 1) := by decide +kernel
theorem dX5_readUse_14 : decode cX5_readUse 14 = .ok (.invokevirtual 272, 3) := by decide +kernel
theorem dX5_readUse_17 : decode cX5_readUse 17 = .ok (.ifCond .eq 25, 3) := by decide +kernel
theorem dX5_readUse_20 : decode cX5_readUse 20 = .ok (.aload_n 0, 1) := by decide +kernel
theorem dX5_readUse_21 : decode cX5_readUse 21 = .ok (.iload_n 1, 1) := by decide +kernel
theorem dX5_readUse_22 : decode cX5_readUse 22 = .ok (.invokevirtual 269, 3) := by decide +kernel
theorem dX5_readUse_25 : decode cX5_readUse 25 = .ok (.istore 4, 2) := by decide +kernel
theorem dX5_readUse_27 : decode cX5_readUse 27 = .ok (.aload_n 0, 1) := by decide +kernel
theorem dX5_readUse_28 : decode cX5_readUse 28 = .ok (.bipush 7, 2) := by decide +kernel
theorem dX5_readUse_30 : decode cX5_readUse 30 = .ok (.iconst 0, 1) := by decide +kernel
theorem dX5_readUse_31 : decode cX5_readUse 31 = .ok (.iload_n 3, 1) := by decide +kernel
theorem dX5_readUse_32 : decode cX5_readUse 32 = .ok (.iload 4, 2) := by decide +kernel
theorem dX5_readUse_34 : decode cX5_readUse 34 = .ok (.iload_n 2, 1) := by decide +kernel
theorem dX5_readUse_35 : decode cX5_readUse 35 = .ok (.invokevirtual 241, 3) := by decide +kernel
theorem dX5_readUse_38 : decode cX5_readUse 38 = .ok (.istore_n 3, 1) := by decide +kernel
theorem dX5_readUse_39 : decode cX5_readUse 39 = .ok (.goto (-33), 3) := by decide +kernel
theorem dX5_readUse_42 : decode cX5_readUse 42 = .ok (.aload_n 0, 1) := by decide +kernel
theorem dX5_readUse_43 : decode cX5_readUse 43 = .ok (.getfield 150, 3) := by decide +kernel
theorem dX5_readUse_46 : decode cX5_readUse 46 = .ok (.ifCond .ne 58, 3) := by decide +kernel
theorem dX5_readUse_49 : decode cX5_readUse 49 = .ok (.aload_n 0, 1) := by decide +kernel
theorem dX5_readUse_50 : decode cX5_readUse 50 = .ok (.sipush 257, 3) := by decide +kernel
theorem dX5_readUse_53 : decode cX5_readUse 53 = .ok (.invokevirtual 228, 3) := by decide +kernel
theorem dX5_readUse_56 : decode cX5_readUse 56 = .ok (.ifCond .eq 48, 3) := by decide +kernel
theorem dX5_readUse_59 : decode cX5_readUse 59 = .ok (.aload_n 0, 1) := by decide +kernel
theorem dX5_readUse_60 : decode cX5_readUse 60 = .ok (.getfield 200, 3) := by decide +kernel
theorem dX5_readUse_63 : decode cX5_readUse 63 = .ok (.istore 4, 2) := by decide +kernel
theorem dX5_readUse_65 : decode cX5_readUse 65 = .ok (.aload_n 0, 1) := by decide +kernel
theorem dX5_readUse_66 : decode cX5_readUse 66 = .ok (.invokevirtual 231, 3) := by decide +kernel
theorem dX5_readUse_69 : decode cX5_readUse 69 = .ok (.aload_n 0, 1) := by decide +kernel
theorem dX5_readUse_70 : decode cX5_readUse 70 = .ok (.iload_n 1, 1) := by decide +kernel
theorem dX5_readUse_71 : decode cX5_readUse 71 = .ok (.iconst 1, 1) := by decide +kernel
theorem dX5_readUse_72 : decode cX5_readUse 72 = .ok (.iadd, 1) := by decide +kernel
theorem dX5_readUse_73 : decode cX5_readUse 73 = .ok (.invokevirtual 255, 3) := by decide +kernel
theorem dX5_readUse_76 : decode cX5_readUse 76 = .ok (.istore 5, 2) := by decide +kernel
theorem dX5_readUse_78 : decode cX5_readUse 78 = .ok (.aload_n 0, 1) := by decide +kernel
theorem dX5_readUse_79 : decode cX5_readUse 79 = .ok (.iconst 5, 1) := by decide +kernel
theorem dX5_readUse_80 : decode cX5_readUse 80 = .ok (.iconst (-1), 1) := by decide +kernel
theorem dX5_readUse_81 : decode cX5_readUse 81 = .ok (.iload_n 3, 1) := by decide +kernel
theorem dX5_readUse_82 : decode cX5_readUse 82 = .ok (.iload 5, 2) := by decide +kernel
theorem dX5_readUse_84 : decode cX5_readUse 84 = .ok (.iload_n 2, 1) := by decide +kernel
theorem dX5_readUse_85 : decode cX5_readUse 85 = .ok (.invokevirtual 241, 3) := by decide +kernel
theorem dX5_readUse_88 : decode cX5_readUse 88 = .ok (.istore_n 3, 1) := by decide +kernel
theorem dX5_readUse_89 : decode cX5_readUse 89 = .ok (.aload_n 0, 1) := by decide +kernel
theorem dX5_readUse_90 : decode cX5_readUse 90 = .ok (.getfield 237, 3) := by decide +kernel
theorem dX5_readUse_93 : decode cX5_readUse 93 = .ok (.ifCond .eq 11, 3) := by decide +kernel
theorem dX5_readUse_96 : decode cX5_readUse 96 = .ok (.aload_n 0, 1) := by decide +kernel
theorem dX5_readUse_97 : decode cX5_readUse 97 = .ok (.getfield 91, 3) := by decide +kernel
theorem dX5_readUse_100 : decode cX5_readUse 100 = .ok (.iload_n 3, 1) := by decide +kernel
theorem dX5_readUse_101 : decode cX5_readUse 101 = .ok (.iload 4, 2) := by decide +kernel
theorem dX5_readUse_103 : decode cX5_readUse 103 = .ok (.iastore, 1) := by decide +kernel
theorem dX5_readUse_104 : decode cX5_readUse 104 = .ok (.iload_n 3, 1) := by decide +kernel
theorem dX5_readUse_105 : decode cX5_readUse 105 = .ok (.ireturn, 1) := by decide +kernel
abbrev cX5_readAtom : ByteArray := prog_26_method_25_code
def yX5_readAtom : MethodName := ⟨RX5, "readAtom", "(I)I"⟩
theorem dX5_readAtom_0 : decode cX5_readAtom 0 = .ok (.aload_n 0, 1) := by decide +kernel
theorem dX5_readAtom_1 : decode cX5_readAtom 1 = .ok (.bipush 40, 2) := by decide +kernel
theorem dX5_readAtom_3 : decode cX5_readAtom 3 = .ok (.invokevirtual 228, 3) := by decide +kernel
theorem dX5_readAtom_6 : decode cX5_readAtom 6 = .ok (.ifCond .ne 8, 3) := by decide +kernel
theorem dX5_readAtom_9 : decode cX5_readAtom 9 = .ok (.aload_n 0, 1) := by decide +kernel
theorem dX5_readAtom_10 : decode cX5_readAtom 10 = .ok (.invokevirtual 249, 3) := by decide +kernel
theorem dX5_readAtom_13 : decode cX5_readAtom 13 = .ok (.ireturn, 1) := by decide +kernel
theorem dX5_readAtom_14 : decode cX5_readAtom 14 = .ok (.aload_n 0, 1) := by decide +kernel
theorem dX5_readAtom_15 : decode cX5_readAtom 15 = .ok (.getfield 200, 3) := by decide +kernel
theorem dX5_readAtom_18 : decode cX5_readAtom 18 = .ok (.istore_n 2, 1) := by decide +kernel
theorem dX5_readAtom_19 : decode cX5_readAtom 19 = .ok (.aload_n 0, 1) := by decide +kernel
theorem dX5_readAtom_20 : decode cX5_readAtom 20 = .ok (.invokevirtual 231, 3) := by decide +kernel
theorem dX5_readAtom_23 : decode cX5_readAtom 23 = .ok (.aload_n 0, 1) := by decide +kernel
theorem dX5_readAtom_24 : decode cX5_readAtom 24 = .ok (.iload_n 1, 1) := by decide +kernel
theorem dX5_readAtom_25 : decode cX5_readAtom 25 = .ok (.iconst 1, 1) := by decide +kernel
theorem dX5_readAtom_26 : decode cX5_readAtom 26 = .ok (.iadd, 1) := by decide +kernel
theorem dX5_readAtom_27 : decode cX5_readAtom 27 = .ok (.invokevirtual 255, 3) := by decide +kernel
theorem dX5_readAtom_30 : decode cX5_readAtom 30 = .ok (.istore_n 3, 1) := by decide +kernel
theorem dX5_readAtom_31 : decode cX5_readAtom 31 = .ok (.aload_n 0, 1) := by decide +kernel
theorem dX5_readAtom_32 : decode cX5_readAtom 32 = .ok (.bipush 41, 2) := by decide +kernel
theorem dX5_readAtom_34 : decode cX5_readAtom 34 = .ok (.invokevirtual 252, 3) := by decide +kernel
theorem dX5_readAtom_37 : decode cX5_readAtom 37 = .ok (.aload_n 0, 1) := by decide +kernel
theorem dX5_readAtom_38 : decode cX5_readAtom 38 = .ok (.getfield 237, 3) := by decide +kernel
theorem dX5_readAtom_41 : decode cX5_readAtom 41 = .ok (.ifCond .eq 10, 3) := by decide +kernel
theorem dX5_readAtom_44 : decode cX5_readAtom 44 = .ok (.aload_n 0, 1) := by decide +kernel
theorem dX5_readAtom_45 : decode cX5_readAtom 45 = .ok (.getfield 88, 3) := by decide +kernel
theorem dX5_readAtom_48 : decode cX5_readAtom 48 = .ok (.iload_n 3, 1) := by decide +kernel
theorem dX5_readAtom_49 : decode cX5_readAtom 49 = .ok (.iload_n 2, 1) := by decide +kernel
theorem dX5_readAtom_50 : decode cX5_readAtom 50 = .ok (.iastore, 1) := by decide +kernel
theorem dX5_readAtom_51 : decode cX5_readAtom 51 = .ok (.iload_n 3, 1) := by decide +kernel
theorem dX5_readAtom_52 : decode cX5_readAtom 52 = .ok (.ireturn, 1) := by decide +kernel
abbrev cX5_beginsAtom : ByteArray := prog_26_method_23_code
def yX5_beginsAtom : MethodName := ⟨RX5, "beginsAtom", "()Z"⟩
theorem dX5_beginsAtom_0 : decode cX5_beginsAtom 0 = .ok (.aload_n 0, 1) := by decide +kernel
theorem dX5_beginsAtom_1 : decode cX5_beginsAtom 1 = .ok (.invokevirtual 245, 3) := by decide +kernel
theorem dX5_beginsAtom_4 : decode cX5_beginsAtom 4 = .ok (.ifCond .ne 12, 3) := by decide +kernel
theorem dX5_beginsAtom_7 : decode cX5_beginsAtom 7 = .ok (.aload_n 0, 1) := by decide +kernel
theorem dX5_beginsAtom_8 : decode cX5_beginsAtom 8 = .ok (.bipush 40, 2) := by decide +kernel
theorem dX5_beginsAtom_10 : decode cX5_beginsAtom 10 = .ok (.invokevirtual 228, 3) := by decide +kernel
theorem dX5_beginsAtom_13 : decode cX5_beginsAtom 13 = .ok (.ifCond .eq 7, 3) := by decide +kernel
theorem dX5_beginsAtom_16 : decode cX5_beginsAtom 16 = .ok (.iconst 1, 1) := by decide +kernel
theorem dX5_beginsAtom_17 : decode cX5_beginsAtom 17 = .ok (.goto 4, 3) := by decide +kernel
theorem dX5_beginsAtom_20 : decode cX5_beginsAtom 20 = .ok (.iconst 0, 1) := by decide +kernel
theorem dX5_beginsAtom_21 : decode cX5_beginsAtom 21 = .ok (.ireturn, 1) := by decide +kernel
abbrev cX5_begin : ByteArray := prog_26_method_55_code
def yX5_begin : MethodName := ⟨RX5, "begin", "()V"⟩
theorem dX5_begin_0 : decode cX5_begin 0 = .ok (.aload_n 0, 1) := by decide +kernel
theorem dX5_begin_1 : decode cX5_begin 1 = .ok (.iconst 0, 1) := by decide +kernel
theorem dX5_begin_2 : decode cX5_begin 2 = .ok (.putfield 302, 3) := by decide +kernel
theorem dX5_begin_5 : decode cX5_begin 5 = .ok (.aload_n 0, 1) := by decide +kernel
theorem dX5_begin_6 : decode cX5_begin 6 = .ok (.iconst 0, 1) := by decide +kernel
theorem dX5_begin_7 : decode cX5_begin 7 = .ok (.putfield 339, 3) := by decide +kernel
theorem dX5_begin_10 : decode cX5_begin 10 = .ok (.aload_n 0, 1) := by decide +kernel
theorem dX5_begin_11 : decode cX5_begin 11 = .ok (.iconst 0, 1) := by decide +kernel
theorem dX5_begin_12 : decode cX5_begin 12 = .ok (.putfield 336, 3) := by decide +kernel
theorem dX5_begin_15 : decode cX5_begin 15 = .ok (.aload_n 0, 1) := by decide +kernel
theorem dX5_begin_16 : decode cX5_begin 16 = .ok (.iconst 0, 1) := by decide +kernel
theorem dX5_begin_17 : decode cX5_begin 17 = .ok (.putfield 345, 3) := by decide +kernel
theorem dX5_begin_20 : decode cX5_begin 20 = .ok (.aload_n 0, 1) := by decide +kernel
theorem dX5_begin_21 : decode cX5_begin 21 = .ok (.iconst 0, 1) := by decide +kernel
theorem dX5_begin_22 : decode cX5_begin 22 = .ok (.putfield 327, 3) := by decide +kernel
theorem dX5_begin_25 : decode cX5_begin 25 = .ok (.aload_n 0, 1) := by decide +kernel
theorem dX5_begin_26 : decode cX5_begin 26 = .ok (.iconst 0, 1) := by decide +kernel
theorem dX5_begin_27 : decode cX5_begin 27 = .ok (.putfield 333, 3) := by decide +kernel
theorem dX5_begin_30 : decode cX5_begin 30 = .ok (.aload_n 0, 1) := by decide +kernel
theorem dX5_begin_31 : decode cX5_begin 31 = .ok (.iconst 0, 1) := by decide +kernel
theorem dX5_begin_32 : decode cX5_begin 32 = .ok (.putfield 312, 3) := by decide +kernel
theorem dX5_begin_35 : decode cX5_begin 35 = .ok (.aload_n 0, 1) := by decide +kernel
theorem dX5_begin_36 : decode cX5_begin 36 = .ok (.iconst 0, 1) := by decide +kernel
theorem dX5_begin_37 : decode cX5_begin 37 = .ok (.putfield 324, 3) := by decide +kernel
theorem dX5_begin_40 : decode cX5_begin 40 = .ok (.aload_n 0, 1) := by decide +kernel
theorem dX5_begin_41 : decode cX5_begin 41 = .ok (.iconst 0, 1) := by decide +kernel
theorem dX5_begin_42 : decode cX5_begin 42 = .ok (.putfield 409, 3) := by decide +kernel
theorem dX5_begin_45 : decode cX5_begin 45 = .ok (.aload_n 0, 1) := by decide +kernel
theorem dX5_begin_46 : decode cX5_begin 46 = .ok (.iconst 0, 1) := by decide +kernel
theorem dX5_begin_47 : decode cX5_begin 47 = .ok (.putfield 443, 3) := by decide +kernel
theorem dX5_begin_50 : decode cX5_begin 50 = .ok (.aload_n 0, 1) := by decide +kernel
theorem dX5_begin_51 : decode cX5_begin 51 = .ok (.iconst 0, 1) := by decide +kernel
theorem dX5_begin_52 : decode cX5_begin 52 = .ok (.putfield 371, 3) := by decide +kernel
theorem dX5_begin_55 : decode cX5_begin 55 = .ok (.aload_n 0, 1) := by decide +kernel
theorem dX5_begin_56 : decode cX5_begin 56 = .ok (.aload_n 0, 1) := by decide +kernel
theorem dX5_begin_57 : decode cX5_begin 57 = .ok (.getfield 173, 3) := by decide +kernel
theorem dX5_begin_60 : decode cX5_begin 60 = .ok (.putfield 449, 3) := by decide +kernel
theorem dX5_begin_63 : decode cX5_begin 63 = .ok (.aload_n 0, 1) := by decide +kernel
theorem dX5_begin_64 : decode cX5_begin 64 = .ok (.iconst 1, 1) := by decide +kernel
theorem dX5_begin_65 : decode cX5_begin 65 = .ok (.putfield 125, 3) := by decide +kernel
theorem dX5_begin_68 : decode cX5_begin 68 = .ok (.return_, 1) := by decide +kernel
abbrev cX5_doStatement : ByteArray := prog_26_method_60_code
def yX5_doStatement : MethodName := ⟨RX5, "doStatement", "()V"⟩
theorem dX5_doStatement_0 : decode cX5_doStatement 0 = .ok (.aload_n 0, 1) := by decide +kernel
theorem dX5_doStatement_1 : decode cX5_doStatement 1 = .ok (.getfield 278, 3) := by decide +kernel
theorem dX5_doStatement_4 : decode cX5_doStatement 4 = .ok (.ifCond .lt 16, 3) := by decide +kernel
theorem dX5_doStatement_7 : decode cX5_doStatement 7 = .ok (.aload_n 0, 1) := by decide +kernel
theorem dX5_doStatement_8 : decode cX5_doStatement 8 = .ok (.getfield 278, 3) := by decide +kernel
theorem dX5_doStatement_11 : decode cX5_doStatement 11 = .ok (.iconst 2, 1) := by decide +kernel
theorem dX5_doStatement_12 : decode cX5_doStatement 12 = .ok (.if_icmp .gt 8, 3) := by decide +kernel
theorem dX5_doStatement_15 : decode cX5_doStatement 15 = .ok (.aload_n 0, 1) := by decide +kernel
theorem dX5_doStatement_16 : decode cX5_doStatement 16 = .ok (.invokevirtual 452, 3) := by decide +kernel
theorem dX5_doStatement_19 : decode cX5_doStatement 19 = .ok (.return_, 1) := by decide +kernel
theorem dX5_doStatement_20 : decode cX5_doStatement 20 = .ok (.aload_n 0, 1) := by decide +kernel
theorem dX5_doStatement_21 : decode cX5_doStatement 21 = .ok (.getfield 278, 3) := by decide +kernel
theorem dX5_doStatement_24 : decode cX5_doStatement 24 = .ok (.tableswitch 244 3 6 #[32, 152, 188, 172], 32) := by decide +kernel
theorem dX5_doStatement_56 : decode cX5_doStatement 56 = .ok (.aload_n 0, 1) := by decide +kernel
theorem dX5_doStatement_57 : decode cX5_doStatement 57 = .ok (.getfield 284, 3) := by decide +kernel
theorem dX5_doStatement_60 : decode cX5_doStatement 60 = .ok (.ifCond .lt 96, 3) := by decide +kernel
theorem dX5_doStatement_63 : decode cX5_doStatement 63 = .ok (.aload_n 0, 1) := by decide +kernel
theorem dX5_doStatement_64 : decode cX5_doStatement 64 = .ok (.aload_n 0, 1) := by decide +kernel
theorem dX5_doStatement_65 : decode cX5_doStatement 65 = .ok (.getfield 284, 3) := by decide +kernel
theorem dX5_doStatement_68 : decode cX5_doStatement 68 = .ok (.iconst 0, 1) := by decide +kernel
theorem dX5_doStatement_69 : decode cX5_doStatement 69 = .ok (.invokevirtual 440, 3) := by decide +kernel
theorem dX5_doStatement_72 : decode cX5_doStatement 72 = .ok (.pop, 1) := by decide +kernel
theorem dX5_doStatement_73 : decode cX5_doStatement 73 = .ok (.aload_n 0, 1) := by decide +kernel
theorem dX5_doStatement_74 : decode cX5_doStatement 74 = .ok (.getfield 150, 3) := by decide +kernel
theorem dX5_doStatement_77 : decode cX5_doStatement 77 = .ok (.ifCond .ne 16, 3) := by decide +kernel
theorem dX5_doStatement_80 : decode cX5_doStatement 80 = .ok (.aload_n 0, 1) := by decide +kernel
theorem dX5_doStatement_81 : decode cX5_doStatement 81 = .ok (.aload_n 0, 1) := by decide +kernel
theorem dX5_doStatement_82 : decode cX5_doStatement 82 = .ok (.getfield 284, 3) := by decide +kernel
theorem dX5_doStatement_85 : decode cX5_doStatement 85 = .ok (.iconst 0, 1) := by decide +kernel
theorem dX5_doStatement_86 : decode cX5_doStatement 86 = .ok (.iconst 0, 1) := by decide +kernel
theorem dX5_doStatement_87 : decode cX5_doStatement 87 = .ok (.invokevirtual 396, 3) := by decide +kernel
theorem dX5_doStatement_90 : decode cX5_doStatement 90 = .ok (.goto 4, 3) := by decide +kernel
theorem dX5_doStatement_93 : decode cX5_doStatement 93 = .ok (.iconst 0, 1) := by decide +kernel
theorem dX5_doStatement_94 : decode cX5_doStatement 94 = .ok (.istore_n 1, 1) := by decide +kernel
theorem dX5_doStatement_95 : decode cX5_doStatement 95 = .ok (.aload_n 0, 1) := by decide +kernel
theorem dX5_doStatement_96 : decode cX5_doStatement 96 = .ok (.aload_n 0, 1) := by decide +kernel
theorem dX5_doStatement_97 : decode cX5_doStatement 97 = .ok (.getfield 281, 3) := by decide +kernel
theorem dX5_doStatement_100 : decode cX5_doStatement 100 = .ok (.iconst 0, 1) := by decide +kernel
theorem dX5_doStatement_101 : decode cX5_doStatement 101 = .ok (.invokevirtual 421, 3) := by decide +kernel
theorem dX5_doStatement_104 : decode cX5_doStatement 104 = .ok (.aload_n 0, 1) := by decide +kernel
theorem dX5_doStatement_105 : decode cX5_doStatement 105 = .ok (.getfield 150, 3) := by decide +kernel
theorem dX5_doStatement_108 : decode cX5_doStatement 108 = .ok (.ifCond .ne 33, 3) := by decide +kernel
theorem dX5_doStatement_111 : decode cX5_doStatement 111 = .ok (.aload_n 0, 1) := by decide +kernel
theorem dX5_doStatement_112 : decode cX5_doStatement 112 = .ok (.iload_n 1, 1) := by decide +kernel
theorem dX5_doStatement_113 : decode cX5_doStatement 113 = .ok (.iconst 0, 1) := by decide +kernel
theorem dX5_doStatement_114 : decode cX5_doStatement 114 = .ok (.aload_n 0, 1) := by decide +kernel
theorem dX5_doStatement_115 : decode cX5_doStatement 115 = .ok (.getfield 403, 3) := by decide +kernel
theorem dX5_doStatement_118 : decode cX5_doStatement 118 = .ok (.iconst 0, 1) := by decide +kernel
theorem dX5_doStatement_119 : decode cX5_doStatement 119 = .ok (.iconst 0, 1) := by decide +kernel
theorem dX5_doStatement_120 : decode cX5_doStatement 120 = .ok (.invokevirtual 366, 3) := by decide +kernel
theorem dX5_doStatement_123 : decode cX5_doStatement 123 = .ok (.ifCond .ne 18, 3) := by decide +kernel
theorem dX5_doStatement_126 : decode cX5_doStatement 126 = .ok (.aload_n 0, 1) := by decide +kernel
theorem dX5_doStatement_127 : decode cX5_doStatement 127 = .ok (.bipush 11, 2) := by decide +kernel
theorem dX5_doStatement_129 : decode cX5_doStatement 129 = .ok (.aload_n 0, 1) := by decide +kernel
theorem dX5_doStatement_130 : decode cX5_doStatement 130 = .ok (.getfield 88, 3) := by decide +kernel
theorem dX5_doStatement_133 : decode cX5_doStatement 133 = .ok (.aload_n 0, 1) := by decide +kernel
theorem dX5_doStatement_134 : decode cX5_doStatement 134 = .ok (.getfield 281, 3) := by decide +kernel
theorem dX5_doStatement_137 : decode cX5_doStatement 137 = .ok (.iaload, 1) := by decide +kernel
theorem dX5_doStatement_138 : decode cX5_doStatement 138 = .ok (.invokevirtual 218, 3) := by decide +kernel
theorem dX5_doStatement_141 : decode cX5_doStatement 141 = .ok (.aload_n 0, 1) := by decide +kernel
theorem dX5_doStatement_142 : decode cX5_doStatement 142 = .ok (.getfield 150, 3) := by decide +kernel
theorem dX5_doStatement_145 : decode cX5_doStatement 145 = .ok (.ifCond .ne 8, 3) := by decide +kernel
theorem dX5_doStatement_148 : decode cX5_doStatement 148 = .ok (.aload_n 0, 1) := by decide +kernel
theorem dX5_doStatement_149 : decode cX5_doStatement 149 = .ok (.iconst 1, 1) := by decide +kernel
theorem dX5_doStatement_150 : decode cX5_doStatement 150 = .ok (.invokevirtual 455, 3) := by decide +kernel
theorem dX5_doStatement_153 : decode cX5_doStatement 153 = .ok (.goto 119, 3) := by decide +kernel
theorem dX5_doStatement_156 : decode cX5_doStatement 156 = .ok (.aload_n 0, 1) := by decide +kernel
theorem dX5_doStatement_157 : decode cX5_doStatement 157 = .ok (.aload_n 0, 1) := by decide +kernel
theorem dX5_doStatement_158 : decode cX5_doStatement 158 = .ok (.getfield 281, 3) := by decide +kernel
theorem dX5_doStatement_161 : decode cX5_doStatement 161 = .ok (.iconst 0, 1) := by decide +kernel
theorem dX5_doStatement_162 : decode cX5_doStatement 162 = .ok (.invokevirtual 421, 3) := by decide +kernel
theorem dX5_doStatement_165 : decode cX5_doStatement 165 = .ok (.aload_n 0, 1) := by decide +kernel
theorem dX5_doStatement_166 : decode cX5_doStatement 166 = .ok (.aload_n 0, 1) := by decide +kernel
theorem dX5_doStatement_167 : decode cX5_doStatement 167 = .ok (.getfield 403, 3) := by decide +kernel
theorem dX5_doStatement_170 : decode cX5_doStatement 170 = .ok (.invokevirtual 459, 3) := by decide +kernel
theorem dX5_doStatement_173 : decode cX5_doStatement 173 = .ok (.goto 99, 3) := by decide +kernel
theorem dX5_doStatement_176 : decode cX5_doStatement 176 = .ok (.aload_n 0, 1) := by decide +kernel
theorem dX5_doStatement_177 : decode cX5_doStatement 177 = .ok (.aload_n 0, 1) := by decide +kernel
theorem dX5_doStatement_178 : decode cX5_doStatement 178 = .ok (.getfield 281, 3) := by decide +kernel
theorem dX5_doStatement_181 : decode cX5_doStatement 181 = .ok (.iconst 0, 1) := by decide +kernel
theorem dX5_doStatement_182 : decode cX5_doStatement 182 = .ok (.invokevirtual 421, 3) := by decide +kernel
theorem dX5_doStatement_185 : decode cX5_doStatement 185 = .ok (.aload_n 0, 1) := by decide +kernel
theorem dX5_doStatement_186 : decode cX5_doStatement 186 = .ok (.aload_n 0, 1) := by decide +kernel
theorem dX5_doStatement_187 : decode cX5_doStatement 187 = .ok (.getfield 281, 3) := by decide +kernel
theorem dX5_doStatement_190 : decode cX5_doStatement 190 = .ok (.invokevirtual 459, 3) := by decide +kernel
theorem dX5_doStatement_193 : decode cX5_doStatement 193 = .ok (.goto 79, 3) := by decide +kernel
theorem dX5_doStatement_196 : decode cX5_doStatement 196 = .ok (.aload_n 0, 1) := by decide +kernel
theorem dX5_doStatement_197 : decode cX5_doStatement 197 = .ok (.aload_n 0, 1) := by decide +kernel
theorem dX5_doStatement_198 : decode cX5_doStatement 198 = .ok (.getfield 281, 3) := by decide +kernel
theorem dX5_doStatement_201 : decode cX5_doStatement 201 = .ok (.iconst 0, 1) := by decide +kernel
theorem dX5_doStatement_202 : decode cX5_doStatement 202 = .ok (.invokevirtual 421, 3) := by decide +kernel
theorem dX5_doStatement_205 : decode cX5_doStatement 205 = .ok (.aload_n 0, 1) := by decide +kernel
theorem dX5_doStatement_206 : decode cX5_doStatement 206 = .ok (.invokevirtual 462, 3) := by decide +kernel
theorem dX5_doStatement_209 : decode cX5_doStatement 209 = .ok (.goto 63, 3) := by decide +kernel
theorem dX5_doStatement_212 : decode cX5_doStatement 212 = .ok (.aload_n 0, 1) := by decide +kernel
theorem dX5_doStatement_213 : decode cX5_doStatement 213 = .ok (.aload_n 0, 1) := by decide +kernel
theorem dX5_doStatement_214 : decode cX5_doStatement 214 = .ok (.getfield 281, 3) := by decide +kernel
theorem dX5_doStatement_217 : decode cX5_doStatement 217 = .ok (.iconst 0, 1) := by decide +kernel
theorem dX5_doStatement_218 : decode cX5_doStatement 218 = .ok (.invokevirtual 421, 3) := by decide +kernel
theorem dX5_doStatement_221 : decode cX5_doStatement 221 = .ok (.aload_n 0, 1) := by decide +kernel
theorem dX5_doStatement_222 : decode cX5_doStatement 222 = .ok (.aload_n 0, 1) := by decide +kernel
theorem dX5_doStatement_223 : decode cX5_doStatement 223 = .ok (.getfield 284, 3) := by decide +kernel
theorem dX5_doStatement_226 : decode cX5_doStatement 226 = .ok (.iconst 0, 1) := by decide +kernel
theorem dX5_doStatement_227 : decode cX5_doStatement 227 = .ok (.invokevirtual 421, 3) := by decide +kernel
theorem dX5_doStatement_230 : decode cX5_doStatement 230 = .ok (.aload_n 0, 1) := by decide +kernel
theorem dX5_doStatement_231 : decode cX5_doStatement 231 = .ok (.getfield 150, 3) := by decide +kernel
theorem dX5_doStatement_234 : decode cX5_doStatement 234 = .ok (.ifCond .ne 38, 3) := by decide +kernel
theorem dX5_doStatement_237 : decode cX5_doStatement 237 = .ok (.aload_n 0, 1) := by decide +kernel
theorem dX5_doStatement_238 : decode cX5_doStatement 238 = .ok (.aload_n 0, 1) := by decide +kernel
theorem dX5_doStatement_239 : decode cX5_doStatement 239 = .ok (.getfield 281, 3) := by decide +kernel
theorem dX5_doStatement_242 : decode cX5_doStatement 242 = .ok (.iconst 0, 1) := by decide +kernel
theorem dX5_doStatement_243 : decode cX5_doStatement 243 = .ok (.aload_n 0, 1) := by decide +kernel
theorem dX5_doStatement_244 : decode cX5_doStatement 244 = .ok (.getfield 284, 3) := by decide +kernel
theorem dX5_doStatement_247 : decode cX5_doStatement 247 = .ok (.iconst 0, 1) := by decide +kernel
theorem dX5_doStatement_248 : decode cX5_doStatement 248 = .ok (.iconst 0, 1) := by decide +kernel
theorem dX5_doStatement_249 : decode cX5_doStatement 249 = .ok (.invokevirtual 366, 3) := by decide +kernel
theorem dX5_doStatement_252 : decode cX5_doStatement 252 = .ok (.istore_n 1, 1) := by decide +kernel
theorem dX5_doStatement_253 : decode cX5_doStatement 253 = .ok (.aload_n 0, 1) := by decide +kernel
theorem dX5_doStatement_254 : decode cX5_doStatement 254 = .ok (.getfield 150, 3) := by decide +kernel
theorem dX5_doStatement_257 : decode cX5_doStatement 257 = .ok (.ifCond .ne 8, 3) := by decide +kernel
theorem dX5_doStatement_260 : decode cX5_doStatement 260 = .ok (.aload_n 0, 1) := by decide +kernel
theorem dX5_doStatement_261 : decode cX5_doStatement 261 = .ok (.iload_n 1, 1) := by decide +kernel
theorem dX5_doStatement_262 : decode cX5_doStatement 262 = .ok (.invokevirtual 455, 3) := by decide +kernel
theorem dX5_doStatement_265 : decode cX5_doStatement 265 = .ok (.goto 7, 3) := by decide +kernel
theorem dX5_doStatement_268 : decode cX5_doStatement 268 = .ok (.aload_n 0, 1) := by decide +kernel
theorem dX5_doStatement_269 : decode cX5_doStatement 269 = .ok (.invokevirtual 465, 3) := by decide +kernel
theorem dX5_doStatement_272 : decode cX5_doStatement 272 = .ok (.return_, 1) := by decide +kernel
abbrev cX5_tables : ByteArray := prog_26_method_57_code
def yX5_tables : MethodName := ⟨RX5, "tables", "()V"⟩
theorem dX5_tables_0 : decode cX5_tables 0 = .ok (.aload_n 0, 1) := by decide +kernel
theorem dX5_tables_1 : decode cX5_tables 1 = .ok (.getfield 167, 3) := by decide +kernel
theorem dX5_tables_4 : decode cX5_tables 4 = .ok (.ifCond .le 14, 3) := by decide +kernel
theorem dX5_tables_7 : decode cX5_tables 7 = .ok (.aload_n 0, 1) := by decide +kernel
theorem dX5_tables_8 : decode cX5_tables 8 = .ok (.bipush 6, 2) := by decide +kernel
theorem dX5_tables_10 : decode cX5_tables 10 = .ok (.aload_n 0, 1) := by decide +kernel
theorem dX5_tables_11 : decode cX5_tables 11 = .ok (.getfield 275, 3) := by decide +kernel
theorem dX5_tables_14 : decode cX5_tables 14 = .ok (.invokevirtual 218, 3) := by decide +kernel
theorem dX5_tables_17 : decode cX5_tables 17 = .ok (.return_, 1) := by decide +kernel
theorem dX5_tables_18 : decode cX5_tables 18 = .ok (.aload_n 0, 1) := by decide +kernel
theorem dX5_tables_19 : decode cX5_tables 19 = .ok (.aload_n 0, 1) := by decide +kernel
theorem dX5_tables_20 : decode cX5_tables 20 = .ok (.getfield 290, 3) := by decide +kernel
theorem dX5_tables_23 : decode cX5_tables 23 = .ok (.invokevirtual 418, 3) := by decide +kernel
theorem dX5_tables_26 : decode cX5_tables 26 = .ok (.istore_n 1, 1) := by decide +kernel
theorem dX5_tables_27 : decode cX5_tables 27 = .ok (.aload_n 0, 1) := by decide +kernel
theorem dX5_tables_28 : decode cX5_tables 28 = .ok (.getfield 278, 3) := by decide +kernel
theorem dX5_tables_31 : decode cX5_tables 31 = .ok (.ifCond .ne 168, 3) := by decide +kernel
theorem dX5_tables_34 : decode cX5_tables 34 = .ok (.iload_n 1, 1) := by decide +kernel
theorem dX5_tables_35 : decode cX5_tables 35 = .ok (.ifCond .lt 20, 3) := by decide +kernel
theorem dX5_tables_38 : decode cX5_tables 38 = .ok (.aload_n 0, 1) := by decide +kernel
theorem dX5_tables_39 : decode cX5_tables 39 = .ok (.iconst 4, 1) := by decide +kernel
theorem dX5_tables_40 : decode cX5_tables 40 = .ok (.aload_n 0, 1) := by decide +kernel
theorem dX5_tables_41 : decode cX5_tables 41 = .ok (.getfield 79, 3) := by decide +kernel
theorem dX5_tables_44 : decode cX5_tables 44 = .ok (.aload_n 0, 1) := by decide +kernel
theorem dX5_tables_45 : decode cX5_tables 45 = .ok (.getfield 290, 3) := by decide +kernel
theorem dX5_tables_48 : decode cX5_tables 48 = .ok (.iaload, 1) := by decide +kernel
theorem dX5_tables_49 : decode cX5_tables 49 = .ok (.invokevirtual 218, 3) := by decide +kernel
theorem dX5_tables_52 : decode cX5_tables 52 = .ok (.goto 26, 3) := by decide +kernel
theorem dX5_tables_55 : decode cX5_tables 55 = .ok (.aload_n 0, 1) := by decide +kernel
theorem dX5_tables_56 : decode cX5_tables 56 = .ok (.getfield 160, 3) := by decide +kernel
theorem dX5_tables_59 : decode cX5_tables 59 = .ok (.bipush 8, 2) := by decide +kernel
theorem dX5_tables_61 : decode cX5_tables 61 = .ok (.if_icmp .ne 17, 3) := by decide +kernel
theorem dX5_tables_64 : decode cX5_tables 64 = .ok (.aload_n 0, 1) := by decide +kernel
theorem dX5_tables_65 : decode cX5_tables 65 = .ok (.iconst 5, 1) := by decide +kernel
theorem dX5_tables_66 : decode cX5_tables 66 = .ok (.aload_n 0, 1) := by decide +kernel
theorem dX5_tables_67 : decode cX5_tables 67 = .ok (.getfield 79, 3) := by decide +kernel
theorem dX5_tables_70 : decode cX5_tables 70 = .ok (.aload_n 0, 1) := by decide +kernel
theorem dX5_tables_71 : decode cX5_tables 71 = .ok (.getfield 290, 3) := by decide +kernel
theorem dX5_tables_74 : decode cX5_tables 74 = .ok (.iaload, 1) := by decide +kernel
theorem dX5_tables_75 : decode cX5_tables 75 = .ok (.invokevirtual 218, 3) := by decide +kernel
theorem dX5_tables_78 : decode cX5_tables 78 = .ok (.aload_n 0, 1) := by decide +kernel
theorem dX5_tables_79 : decode cX5_tables 79 = .ok (.getfield 150, 3) := by decide +kernel
theorem dX5_tables_82 : decode cX5_tables 82 = .ok (.ifCond .eq 4, 3) := by decide +kernel
theorem dX5_tables_85 : decode cX5_tables 85 = .ok (.return_, 1) := by decide +kernel
theorem dX5_tables_86 : decode cX5_tables 86 = .ok (.iconst 0, 1) := by decide +kernel
theorem dX5_tables_87 : decode cX5_tables 87 = .ok (.istore_n 2, 1) := by decide +kernel
theorem dX5_tables_88 : decode cX5_tables 88 = .ok (.iload_n 2, 1) := by decide +kernel
theorem dX5_tables_89 : decode cX5_tables 89 = .ok (.aload_n 0, 1) := by decide +kernel
theorem dX5_tables_90 : decode cX5_tables 90 = .ok (.getfield 82, 3) := by decide +kernel
theorem dX5_tables_93 : decode cX5_tables 93 = .ok (.aload_n 0, 1) := by decide +kernel
theorem dX5_tables_94 : decode cX5_tables 94 = .ok (.getfield 290, 3) := by decide +kernel
theorem dX5_tables_97 : decode cX5_tables 97 = .ok (.iaload, 1) := by decide +kernel
theorem dX5_tables_98 : decode cX5_tables 98 = .ok (.if_icmp .ge 39, 3) := by decide +kernel
theorem dX5_tables_101 : decode cX5_tables 101 = .ok (.aload_n 0, 1) := by decide +kernel
theorem dX5_tables_102 : decode cX5_tables 102 = .ok (.getfield 44, 3) := by decide +kernel
theorem dX5_tables_105 : decode cX5_tables 105 = .ok (.bipush 12, 2) := by decide +kernel
theorem dX5_tables_107 : decode cX5_tables 107 = .ok (.aload_n 0, 1) := by decide +kernel
theorem dX5_tables_108 : decode cX5_tables 108 = .ok (.getfield 160, 3) := by decide +kernel
theorem dX5_tables_111 : decode cX5_tables 111 = .ok (.imul, 1) := by decide +kernel
theorem dX5_tables_112 : decode cX5_tables 112 = .ok (.iload_n 2, 1) := by decide +kernel
theorem dX5_tables_113 : decode cX5_tables 113 = .ok (.iadd, 1) := by decide +kernel
theorem dX5_tables_114 : decode cX5_tables 114 = .ok (.aload_n 0, 1) := by decide +kernel
theorem dX5_tables_115 : decode cX5_tables 115 = .ok (.getfield 37, 3) := by decide +kernel
theorem dX5_tables_118 : decode cX5_tables 118 = .ok (.aload_n 0, 1) := by decide +kernel
theorem dX5_tables_119 : decode cX5_tables 119 = .ok (.getfield 79, 3) := by decide +kernel
theorem dX5_tables_122 : decode cX5_tables 122 = .ok (.aload_n 0, 1) := by decide +kernel
theorem dX5_tables_123 : decode cX5_tables 123 = .ok (.getfield 290, 3) := by decide +kernel
theorem dX5_tables_126 : decode cX5_tables 126 = .ok (.iaload, 1) := by decide +kernel
theorem dX5_tables_127 : decode cX5_tables 127 = .ok (.iload_n 2, 1) := by decide +kernel
theorem dX5_tables_128 : decode cX5_tables 128 = .ok (.iadd, 1) := by decide +kernel
theorem dX5_tables_129 : decode cX5_tables 129 = .ok (.iaload, 1) := by decide +kernel
theorem dX5_tables_130 : decode cX5_tables 130 = .ok (.iastore, 1) := by decide +kernel
theorem dX5_tables_131 : decode cX5_tables 131 = .ok (.iinc 2 1, 3) := by decide +kernel
theorem dX5_tables_134 : decode cX5_tables 134 = .ok (.goto (-46), 3) := by decide +kernel
theorem dX5_tables_137 : decode cX5_tables 137 = .ok (.aload_n 0, 1) := by decide +kernel
theorem dX5_tables_138 : decode cX5_tables 138 = .ok (.getfield 47, 3) := by decide +kernel
theorem dX5_tables_141 : decode cX5_tables 141 = .ok (.aload_n 0, 1) := by decide +kernel
theorem dX5_tables_142 : decode cX5_tables 142 = .ok (.getfield 160, 3) := by decide +kernel
theorem dX5_tables_145 : decode cX5_tables 145 = .ok (.aload_n 0, 1) := by decide +kernel
theorem dX5_tables_146 : decode cX5_tables 146 = .ok (.getfield 82, 3) := by decide +kernel
theorem dX5_tables_149 : decode cX5_tables 149 = .ok (.aload_n 0, 1) := by decide +kernel
theorem dX5_tables_150 : decode cX5_tables 150 = .ok (.getfield 290, 3) := by decide +kernel
theorem dX5_tables_153 : decode cX5_tables 153 = .ok (.iaload, 1) := by decide +kernel
theorem dX5_tables_154 : decode cX5_tables 154 = .ok (.iastore, 1) := by decide +kernel
theorem dX5_tables_155 : decode cX5_tables 155 = .ok (.aload_n 0, 1) := by decide +kernel
theorem dX5_tables_156 : decode cX5_tables 156 = .ok (.getfield 50, 3) := by decide +kernel
theorem dX5_tables_159 : decode cX5_tables 159 = .ok (.aload_n 0, 1) := by decide +kernel
theorem dX5_tables_160 : decode cX5_tables 160 = .ok (.getfield 160, 3) := by decide +kernel
theorem dX5_tables_163 : decode cX5_tables 163 = .ok (.iconst (-1), 1) := by decide +kernel
theorem dX5_tables_164 : decode cX5_tables 164 = .ok (.iastore, 1) := by decide +kernel
theorem dX5_tables_165 : decode cX5_tables 165 = .ok (.aload_n 0, 1) := by decide +kernel
theorem dX5_tables_166 : decode cX5_tables 166 = .ok (.getfield 76, 3) := by decide +kernel
theorem dX5_tables_169 : decode cX5_tables 169 = .ok (.aload_n 0, 1) := by decide +kernel
theorem dX5_tables_170 : decode cX5_tables 170 = .ok (.getfield 160, 3) := by decide +kernel
theorem dX5_tables_173 : decode cX5_tables 173 = .ok (.iconst 3, 1) := by decide +kernel
theorem dX5_tables_174 : decode cX5_tables 174 = .ok (.iastore, 1) := by decide +kernel
theorem dX5_tables_175 : decode cX5_tables 175 = .ok (.aload_n 0, 1) := by decide +kernel
theorem dX5_tables_176 : decode cX5_tables 176 = .ok (.getfield 79, 3) := by decide +kernel
theorem dX5_tables_179 : decode cX5_tables 179 = .ok (.aload_n 0, 1) := by decide +kernel
theorem dX5_tables_180 : decode cX5_tables 180 = .ok (.getfield 160, 3) := by decide +kernel
theorem dX5_tables_183 : decode cX5_tables 183 = .ok (.aload_n 0, 1) := by decide +kernel
theorem dX5_tables_184 : decode cX5_tables 184 = .ok (.getfield 160, 3) := by decide +kernel
theorem dX5_tables_187 : decode cX5_tables 187 = .ok (.iastore, 1) := by decide +kernel
theorem dX5_tables_188 : decode cX5_tables 188 = .ok (.aload_n 0, 1) := by decide +kernel
theorem dX5_tables_189 : decode cX5_tables 189 = .ok (.dup, 1) := by decide +kernel
theorem dX5_tables_190 : decode cX5_tables 190 = .ok (.getfield 160, 3) := by decide +kernel
theorem dX5_tables_193 : decode cX5_tables 193 = .ok (.iconst 1, 1) := by decide +kernel
theorem dX5_tables_194 : decode cX5_tables 194 = .ok (.iadd, 1) := by decide +kernel
theorem dX5_tables_195 : decode cX5_tables 195 = .ok (.putfield 160, 3) := by decide +kernel
theorem dX5_tables_198 : decode cX5_tables 198 = .ok (.return_, 1) := by decide +kernel
theorem dX5_tables_199 : decode cX5_tables 199 = .ok (.iload_n 1, 1) := by decide +kernel
theorem dX5_tables_200 : decode cX5_tables 200 = .ok (.ifCond .ge 17, 3) := by decide +kernel
theorem dX5_tables_203 : decode cX5_tables 203 = .ok (.aload_n 0, 1) := by decide +kernel
theorem dX5_tables_204 : decode cX5_tables 204 = .ok (.iconst 3, 1) := by decide +kernel
theorem dX5_tables_205 : decode cX5_tables 205 = .ok (.aload_n 0, 1) := by decide +kernel
theorem dX5_tables_206 : decode cX5_tables 206 = .ok (.getfield 79, 3) := by decide +kernel
theorem dX5_tables_209 : decode cX5_tables 209 = .ok (.aload_n 0, 1) := by decide +kernel
theorem dX5_tables_210 : decode cX5_tables 210 = .ok (.getfield 290, 3) := by decide +kernel
theorem dX5_tables_213 : decode cX5_tables 213 = .ok (.iaload, 1) := by decide +kernel
theorem dX5_tables_214 : decode cX5_tables 214 = .ok (.invokevirtual 218, 3) := by decide +kernel
theorem dX5_tables_217 : decode cX5_tables 217 = .ok (.aload_n 0, 1) := by decide +kernel
theorem dX5_tables_218 : decode cX5_tables 218 = .ok (.aload_n 0, 1) := by decide +kernel
theorem dX5_tables_219 : decode cX5_tables 219 = .ok (.getfield 293, 3) := by decide +kernel
theorem dX5_tables_222 : decode cX5_tables 222 = .ok (.invokevirtual 418, 3) := by decide +kernel
theorem dX5_tables_225 : decode cX5_tables 225 = .ok (.istore_n 2, 1) := by decide +kernel
theorem dX5_tables_226 : decode cX5_tables 226 = .ok (.iload_n 2, 1) := by decide +kernel
theorem dX5_tables_227 : decode cX5_tables 227 = .ok (.ifCond .ge 17, 3) := by decide +kernel
theorem dX5_tables_230 : decode cX5_tables 230 = .ok (.aload_n 0, 1) := by decide +kernel
theorem dX5_tables_231 : decode cX5_tables 231 = .ok (.iconst 3, 1) := by decide +kernel
theorem dX5_tables_232 : decode cX5_tables 232 = .ok (.aload_n 0, 1) := by decide +kernel
theorem dX5_tables_233 : decode cX5_tables 233 = .ok (.getfield 79, 3) := by decide +kernel
theorem dX5_tables_236 : decode cX5_tables 236 = .ok (.aload_n 0, 1) := by decide +kernel
theorem dX5_tables_237 : decode cX5_tables 237 = .ok (.getfield 293, 3) := by decide +kernel
theorem dX5_tables_240 : decode cX5_tables 240 = .ok (.iaload, 1) := by decide +kernel
theorem dX5_tables_241 : decode cX5_tables 241 = .ok (.invokevirtual 218, 3) := by decide +kernel
theorem dX5_tables_244 : decode cX5_tables 244 = .ok (.aload_n 0, 1) := by decide +kernel
theorem dX5_tables_245 : decode cX5_tables 245 = .ok (.getfield 278, 3) := by decide +kernel
theorem dX5_tables_248 : decode cX5_tables 248 = .ok (.iconst 1, 1) := by decide +kernel
theorem dX5_tables_249 : decode cX5_tables 249 = .ok (.if_icmp .ne 48, 3) := by decide +kernel
theorem dX5_tables_252 : decode cX5_tables 252 = .ok (.aload_n 0, 1) := by decide +kernel
theorem dX5_tables_253 : decode cX5_tables 253 = .ok (.getfield 150, 3) := by decide +kernel
theorem dX5_tables_256 : decode cX5_tables 256 = .ok (.ifCond .ne 26, 3) := by decide +kernel
theorem dX5_tables_259 : decode cX5_tables 259 = .ok (.aload_n 0, 1) := by decide +kernel
theorem dX5_tables_260 : decode cX5_tables 260 = .ok (.getfield 50, 3) := by decide +kernel
theorem dX5_tables_263 : decode cX5_tables 263 = .ok (.iload_n 1, 1) := by decide +kernel
theorem dX5_tables_264 : decode cX5_tables 264 = .ok (.iaload, 1) := by decide +kernel
theorem dX5_tables_265 : decode cX5_tables 265 = .ok (.ifCond .lt 17, 3) := by decide +kernel
theorem dX5_tables_268 : decode cX5_tables 268 = .ok (.aload_n 0, 1) := by decide +kernel
theorem dX5_tables_269 : decode cX5_tables 269 = .ok (.iconst 4, 1) := by decide +kernel
theorem dX5_tables_270 : decode cX5_tables 270 = .ok (.aload_n 0, 1) := by decide +kernel
theorem dX5_tables_271 : decode cX5_tables 271 = .ok (.getfield 79, 3) := by decide +kernel
theorem dX5_tables_274 : decode cX5_tables 274 = .ok (.aload_n 0, 1) := by decide +kernel
theorem dX5_tables_275 : decode cX5_tables 275 = .ok (.getfield 290, 3) := by decide +kernel
theorem dX5_tables_278 : decode cX5_tables 278 = .ok (.iaload, 1) := by decide +kernel
theorem dX5_tables_279 : decode cX5_tables 279 = .ok (.invokevirtual 218, 3) := by decide +kernel
theorem dX5_tables_282 : decode cX5_tables 282 = .ok (.aload_n 0, 1) := by decide +kernel
theorem dX5_tables_283 : decode cX5_tables 283 = .ok (.getfield 150, 3) := by decide +kernel
theorem dX5_tables_286 : decode cX5_tables 286 = .ok (.ifCond .ne 10, 3) := by decide +kernel
theorem dX5_tables_289 : decode cX5_tables 289 = .ok (.aload_n 0, 1) := by decide +kernel
theorem dX5_tables_290 : decode cX5_tables 290 = .ok (.getfield 50, 3) := by decide +kernel
theorem dX5_tables_293 : decode cX5_tables 293 = .ok (.iload_n 1, 1) := by decide +kernel
theorem dX5_tables_294 : decode cX5_tables 294 = .ok (.iload_n 2, 1) := by decide +kernel
theorem dX5_tables_295 : decode cX5_tables 295 = .ok (.iastore, 1) := by decide +kernel
theorem dX5_tables_296 : decode cX5_tables 296 = .ok (.return_, 1) := by decide +kernel
theorem dX5_tables_297 : decode cX5_tables 297 = .ok (.aload_n 0, 1) := by decide +kernel
theorem dX5_tables_298 : decode cX5_tables 298 = .ok (.aload_n 0, 1) := by decide +kernel
theorem dX5_tables_299 : decode cX5_tables 299 = .ok (.getfield 296, 3) := by decide +kernel
theorem dX5_tables_302 : decode cX5_tables 302 = .ok (.invokevirtual 418, 3) := by decide +kernel
theorem dX5_tables_305 : decode cX5_tables 305 = .ok (.istore_n 3, 1) := by decide +kernel
theorem dX5_tables_306 : decode cX5_tables 306 = .ok (.iload_n 3, 1) := by decide +kernel
theorem dX5_tables_307 : decode cX5_tables 307 = .ok (.ifCond .ge 17, 3) := by decide +kernel
theorem dX5_tables_310 : decode cX5_tables 310 = .ok (.aload_n 0, 1) := by decide +kernel
theorem dX5_tables_311 : decode cX5_tables 311 = .ok (.iconst 3, 1) := by decide +kernel
theorem dX5_tables_312 : decode cX5_tables 312 = .ok (.aload_n 0, 1) := by decide +kernel
theorem dX5_tables_313 : decode cX5_tables 313 = .ok (.getfield 79, 3) := by decide +kernel
theorem dX5_tables_316 : decode cX5_tables 316 = .ok (.aload_n 0, 1) := by decide +kernel
theorem dX5_tables_317 : decode cX5_tables 317 = .ok (.getfield 296, 3) := by decide +kernel
theorem dX5_tables_320 : decode cX5_tables 320 = .ok (.iaload, 1) := by decide +kernel
theorem dX5_tables_321 : decode cX5_tables 321 = .ok (.invokevirtual 218, 3) := by decide +kernel
theorem dX5_tables_324 : decode cX5_tables 324 = .ok (.aload_n 0, 1) := by decide +kernel
theorem dX5_tables_325 : decode cX5_tables 325 = .ok (.getfield 150, 3) := by decide +kernel
theorem dX5_tables_328 : decode cX5_tables 328 = .ok (.ifCond .ne 31, 3) := by decide +kernel
theorem dX5_tables_331 : decode cX5_tables 331 = .ok (.aload_n 0, 1) := by decide +kernel
theorem dX5_tables_332 : decode cX5_tables 332 = .ok (.getfield 52, 3) := by decide +kernel
theorem dX5_tables_335 : decode cX5_tables 335 = .ok (.bipush 8, 2) := by decide +kernel
theorem dX5_tables_337 : decode cX5_tables 337 = .ok (.iload_n 1, 1) := by decide +kernel
theorem dX5_tables_338 : decode cX5_tables 338 = .ok (.imul, 1) := by decide +kernel
theorem dX5_tables_339 : decode cX5_tables 339 = .ok (.iload_n 2, 1) := by decide +kernel
theorem dX5_tables_340 : decode cX5_tables 340 = .ok (.iadd, 1) := by decide +kernel
theorem dX5_tables_341 : decode cX5_tables 341 = .ok (.iaload, 1) := by decide +kernel
theorem dX5_tables_342 : decode cX5_tables 342 = .ok (.ifCond .lt 17, 3) := by decide +kernel
theorem dX5_tables_345 : decode cX5_tables 345 = .ok (.aload_n 0, 1) := by decide +kernel
theorem dX5_tables_346 : decode cX5_tables 346 = .ok (.iconst 4, 1) := by decide +kernel
theorem dX5_tables_347 : decode cX5_tables 347 = .ok (.aload_n 0, 1) := by decide +kernel
theorem dX5_tables_348 : decode cX5_tables 348 = .ok (.getfield 79, 3) := by decide +kernel
theorem dX5_tables_351 : decode cX5_tables 351 = .ok (.aload_n 0, 1) := by decide +kernel
theorem dX5_tables_352 : decode cX5_tables 352 = .ok (.getfield 290, 3) := by decide +kernel
theorem dX5_tables_355 : decode cX5_tables 355 = .ok (.iaload, 1) := by decide +kernel
theorem dX5_tables_356 : decode cX5_tables 356 = .ok (.invokevirtual 218, 3) := by decide +kernel
theorem dX5_tables_359 : decode cX5_tables 359 = .ok (.aload_n 0, 1) := by decide +kernel
theorem dX5_tables_360 : decode cX5_tables 360 = .ok (.getfield 150, 3) := by decide +kernel
theorem dX5_tables_363 : decode cX5_tables 363 = .ok (.ifCond .ne 15, 3) := by decide +kernel
theorem dX5_tables_366 : decode cX5_tables 366 = .ok (.aload_n 0, 1) := by decide +kernel
theorem dX5_tables_367 : decode cX5_tables 367 = .ok (.getfield 52, 3) := by decide +kernel
theorem dX5_tables_370 : decode cX5_tables 370 = .ok (.bipush 8, 2) := by decide +kernel
theorem dX5_tables_372 : decode cX5_tables 372 = .ok (.iload_n 1, 1) := by decide +kernel
theorem dX5_tables_373 : decode cX5_tables 373 = .ok (.imul, 1) := by decide +kernel
theorem dX5_tables_374 : decode cX5_tables 374 = .ok (.iload_n 2, 1) := by decide +kernel
theorem dX5_tables_375 : decode cX5_tables 375 = .ok (.iadd, 1) := by decide +kernel
theorem dX5_tables_376 : decode cX5_tables 376 = .ok (.iload_n 3, 1) := by decide +kernel
theorem dX5_tables_377 : decode cX5_tables 377 = .ok (.iastore, 1) := by decide +kernel
theorem dX5_tables_378 : decode cX5_tables 378 = .ok (.return_, 1) := by decide +kernel
abbrev cX5_sortOf : ByteArray := prog_26_method_44_code
def yX5_sortOf : MethodName := ⟨RX5, "sortOf", "(I)I"⟩
theorem dX5_sortOf_0 : decode cX5_sortOf 0 = .ok (.iconst (-1), 1) := by decide +kernel
theorem dX5_sortOf_1 : decode cX5_sortOf 1 = .ok (.istore_n 2, 1) := by decide +kernel
theorem dX5_sortOf_2 : decode cX5_sortOf 2 = .ok (.iconst 0, 1) := by decide +kernel
theorem dX5_sortOf_3 : decode cX5_sortOf 3 = .ok (.istore_n 3, 1) := by decide +kernel
theorem dX5_sortOf_4 : decode cX5_sortOf 4 = .ok (.iload_n 3, 1) := by decide +kernel
theorem dX5_sortOf_5 : decode cX5_sortOf 5 = .ok (.aload_n 0, 1) := by decide +kernel
theorem dX5_sortOf_6 : decode cX5_sortOf 6 = .ok (.getfield 160, 3) := by decide +kernel
theorem dX5_sortOf_9 : decode cX5_sortOf 9 = .ok (.if_icmp .ge 44, 3) := by decide +kernel
theorem dX5_sortOf_12 : decode cX5_sortOf 12 = .ok (.aload_n 0, 1) := by decide +kernel
theorem dX5_sortOf_13 : decode cX5_sortOf 13 = .ok (.aload_n 0, 1) := by decide +kernel
theorem dX5_sortOf_14 : decode cX5_sortOf 14 = .ok (.getfield 79, 3) := by decide +kernel
theorem dX5_sortOf_17 : decode cX5_sortOf 17 = .ok (.iload_n 1, 1) := by decide +kernel
theorem dX5_sortOf_18 : decode cX5_sortOf 18 = .ok (.iaload, 1) := by decide +kernel
theorem dX5_sortOf_19 : decode cX5_sortOf 19 = .ok (.aload_n 0, 1) := by decide +kernel
theorem dX5_sortOf_20 : decode cX5_sortOf 20 = .ok (.getfield 82, 3) := by decide +kernel
theorem dX5_sortOf_23 : decode cX5_sortOf 23 = .ok (.iload_n 1, 1) := by decide +kernel
theorem dX5_sortOf_24 : decode cX5_sortOf 24 = .ok (.iaload, 1) := by decide +kernel
theorem dX5_sortOf_25 : decode cX5_sortOf 25 = .ok (.aload_n 0, 1) := by decide +kernel
theorem dX5_sortOf_26 : decode cX5_sortOf 26 = .ok (.getfield 44, 3) := by decide +kernel
theorem dX5_sortOf_29 : decode cX5_sortOf 29 = .ok (.bipush 12, 2) := by decide +kernel
theorem dX5_sortOf_31 : decode cX5_sortOf 31 = .ok (.iload_n 3, 1) := by decide +kernel
theorem dX5_sortOf_32 : decode cX5_sortOf 32 = .ok (.imul, 1) := by decide +kernel
theorem dX5_sortOf_33 : decode cX5_sortOf 33 = .ok (.aload_n 0, 1) := by decide +kernel
theorem dX5_sortOf_34 : decode cX5_sortOf 34 = .ok (.getfield 47, 3) := by decide +kernel
theorem dX5_sortOf_37 : decode cX5_sortOf 37 = .ok (.iload_n 3, 1) := by decide +kernel
theorem dX5_sortOf_38 : decode cX5_sortOf 38 = .ok (.iaload, 1) := by decide +kernel
theorem dX5_sortOf_39 : decode cX5_sortOf 39 = .ok (.invokevirtual 399, 3) := by decide +kernel
theorem dX5_sortOf_42 : decode cX5_sortOf 42 = .ok (.ifCond .eq 5, 3) := by decide +kernel
theorem dX5_sortOf_45 : decode cX5_sortOf 45 = .ok (.iload_n 3, 1) := by decide +kernel
theorem dX5_sortOf_46 : decode cX5_sortOf 46 = .ok (.istore_n 2, 1) := by decide +kernel
theorem dX5_sortOf_47 : decode cX5_sortOf 47 = .ok (.iinc 3 1, 3) := by decide +kernel
theorem dX5_sortOf_50 : decode cX5_sortOf 50 = .ok (.goto (-46), 3) := by decide +kernel
theorem dX5_sortOf_53 : decode cX5_sortOf 53 = .ok (.iload_n 2, 1) := by decide +kernel
theorem dX5_sortOf_54 : decode cX5_sortOf 54 = .ok (.ireturn, 1) := by decide +kernel
abbrev cX5_sameName : ByteArray := prog_26_method_43_code
def yX5_sameName : MethodName := ⟨RX5, "sameName", "(II[III)Z"⟩
theorem dX5_sameName_0 : decode cX5_sameName 0 = .ok (.iload_n 2, 1) := by decide +kernel
theorem dX5_sameName_1 : decode cX5_sameName 1 = .ok (.iload 5, 2) := by decide +kernel
theorem dX5_sameName_3 : decode cX5_sameName 3 = .ok (.if_icmp .ne 7, 3) := by decide +kernel
theorem dX5_sameName_6 : decode cX5_sameName 6 = .ok (.iconst 1, 1) := by decide +kernel
theorem dX5_sameName_7 : decode cX5_sameName 7 = .ok (.goto 4, 3) := by decide +kernel
theorem dX5_sameName_10 : decode cX5_sameName 10 = .ok (.iconst 0, 1) := by decide +kernel
theorem dX5_sameName_11 : decode cX5_sameName 11 = .ok (.istore 6, 2) := by decide +kernel
theorem dX5_sameName_13 : decode cX5_sameName 13 = .ok (.iconst 0, 1) := by decide +kernel
theorem dX5_sameName_14 : decode cX5_sameName 14 = .ok (.istore 7, 2) := by decide +kernel
theorem dX5_sameName_16 : decode cX5_sameName 16 = .ok (.iload 6, 2) := by decide +kernel
theorem dX5_sameName_18 : decode cX5_sameName 18 = .ok (.ifCond .eq 41, 3) := by decide +kernel
theorem dX5_sameName_21 : decode cX5_sameName 21 = .ok (.iload 7, 2) := by decide +kernel
theorem dX5_sameName_23 : decode cX5_sameName 23 = .ok (.iload_n 2, 1) := by decide +kernel
theorem dX5_sameName_24 : decode cX5_sameName 24 = .ok (.if_icmp .ge 35, 3) := by decide +kernel
theorem dX5_sameName_27 : decode cX5_sameName 27 = .ok (.aload_n 0, 1) := by decide +kernel
theorem dX5_sameName_28 : decode cX5_sameName 28 = .ok (.getfield 37, 3) := by decide +kernel
theorem dX5_sameName_31 : decode cX5_sameName 31 = .ok (.iload_n 1, 1) := by decide +kernel
theorem dX5_sameName_32 : decode cX5_sameName 32 = .ok (.iload 7, 2) := by decide +kernel
theorem dX5_sameName_34 : decode cX5_sameName 34 = .ok (.iadd, 1) := by decide +kernel
theorem dX5_sameName_35 : decode cX5_sameName 35 = .ok (.iaload, 1) := by decide +kernel
theorem dX5_sameName_36 : decode cX5_sameName 36 = .ok (.aload_n 3, 1) := by decide +kernel
theorem dX5_sameName_37 : decode cX5_sameName 37 = .ok (.iload 4, 2) := by decide +kernel
theorem dX5_sameName_39 : decode cX5_sameName 39 = .ok (.iload 7, 2) := by decide +kernel
theorem dX5_sameName_41 : decode cX5_sameName 41 = .ok (.iadd, 1) := by decide +kernel
theorem dX5_sameName_42 : decode cX5_sameName 42 = .ok (.iaload, 1) := by decide +kernel
theorem dX5_sameName_43 : decode cX5_sameName 43 = .ok (.if_icmp .ne 7, 3) := by decide +kernel
theorem dX5_sameName_46 : decode cX5_sameName 46 = .ok (.iconst 1, 1) := by decide +kernel
theorem dX5_sameName_47 : decode cX5_sameName 47 = .ok (.goto 4, 3) := by decide +kernel
theorem dX5_sameName_50 : decode cX5_sameName 50 = .ok (.iconst 0, 1) := by decide +kernel
theorem dX5_sameName_51 : decode cX5_sameName 51 = .ok (.istore 6, 2) := by decide +kernel
theorem dX5_sameName_53 : decode cX5_sameName 53 = .ok (.iinc 7 1, 3) := by decide +kernel
theorem dX5_sameName_56 : decode cX5_sameName 56 = .ok (.goto (-40), 3) := by decide +kernel
theorem dX5_sameName_59 : decode cX5_sameName 59 = .ok (.iload 6, 2) := by decide +kernel
theorem dX5_sameName_61 : decode cX5_sameName 61 = .ok (.ireturn, 1) := by decide +kernel
abbrev cX5_judgeSort : ByteArray := prog_26_method_48_code
def yX5_judgeSort : MethodName := ⟨RX5, "judgeSort", "(II)I"⟩
theorem dX5_judgeSort_0 : decode cX5_judgeSort 0 = .ok (.aload_n 0, 1) := by decide +kernel
theorem dX5_judgeSort_1 : decode cX5_judgeSort 1 = .ok (.iload_n 1, 1) := by decide +kernel
theorem dX5_judgeSort_2 : decode cX5_judgeSort 2 = .ok (.iload_n 2, 1) := by decide +kernel
theorem dX5_judgeSort_3 : decode cX5_judgeSort 3 = .ok (.invokevirtual 421, 3) := by decide +kernel
theorem dX5_judgeSort_6 : decode cX5_judgeSort 6 = .ok (.aload_n 0, 1) := by decide +kernel
theorem dX5_judgeSort_7 : decode cX5_judgeSort 7 = .ok (.getfield 150, 3) := by decide +kernel
theorem dX5_judgeSort_10 : decode cX5_judgeSort 10 = .ok (.ifCond .ne 20, 3) := by decide +kernel
theorem dX5_judgeSort_13 : decode cX5_judgeSort 13 = .ok (.aload_n 0, 1) := by decide +kernel
theorem dX5_judgeSort_14 : decode cX5_judgeSort 14 = .ok (.getfield 76, 3) := by decide +kernel
theorem dX5_judgeSort_17 : decode cX5_judgeSort 17 = .ok (.aload_n 0, 1) := by decide +kernel
theorem dX5_judgeSort_18 : decode cX5_judgeSort 18 = .ok (.getfield 403, 3) := by decide +kernel
theorem dX5_judgeSort_21 : decode cX5_judgeSort 21 = .ok (.iaload, 1) := by decide +kernel
theorem dX5_judgeSort_22 : decode cX5_judgeSort 22 = .ok (.iconst 3, 1) := by decide +kernel
theorem dX5_judgeSort_23 : decode cX5_judgeSort 23 = .ok (.if_icmp .ne 7, 3) := by decide +kernel
theorem dX5_judgeSort_26 : decode cX5_judgeSort 26 = .ok (.iconst 1, 1) := by decide +kernel
theorem dX5_judgeSort_27 : decode cX5_judgeSort 27 = .ok (.goto 4, 3) := by decide +kernel
theorem dX5_judgeSort_30 : decode cX5_judgeSort 30 = .ok (.iconst 0, 1) := by decide +kernel
theorem dX5_judgeSort_31 : decode cX5_judgeSort 31 = .ok (.istore_n 3, 1) := by decide +kernel
theorem dX5_judgeSort_32 : decode cX5_judgeSort 32 = .ok (.iload_n 3, 1) := by decide +kernel
theorem dX5_judgeSort_33 : decode cX5_judgeSort 33 = .ok (.ifCond .ne 15, 3) := by decide +kernel
theorem dX5_judgeSort_36 : decode cX5_judgeSort 36 = .ok (.aload_n 0, 1) := by decide +kernel
theorem dX5_judgeSort_37 : decode cX5_judgeSort 37 = .ok (.bipush 8, 2) := by decide +kernel
theorem dX5_judgeSort_39 : decode cX5_judgeSort 39 = .ok (.aload_n 0, 1) := by decide +kernel
theorem dX5_judgeSort_40 : decode cX5_judgeSort 40 = .ok (.getfield 88, 3) := by decide +kernel
theorem dX5_judgeSort_43 : decode cX5_judgeSort 43 = .ok (.iload_n 1, 1) := by decide +kernel
theorem dX5_judgeSort_44 : decode cX5_judgeSort 44 = .ok (.iaload, 1) := by decide +kernel
theorem dX5_judgeSort_45 : decode cX5_judgeSort 45 = .ok (.invokevirtual 218, 3) := by decide +kernel
theorem dX5_judgeSort_48 : decode cX5_judgeSort 48 = .ok (.iload_n 3, 1) := by decide +kernel
theorem dX5_judgeSort_49 : decode cX5_judgeSort 49 = .ok (.ifCond .eq 15, 3) := by decide +kernel
theorem dX5_judgeSort_52 : decode cX5_judgeSort 52 = .ok (.aload_n 0, 1) := by decide +kernel
theorem dX5_judgeSort_53 : decode cX5_judgeSort 53 = .ok (.getfield 79, 3) := by decide +kernel
theorem dX5_judgeSort_56 : decode cX5_judgeSort 56 = .ok (.aload_n 0, 1) := by decide +kernel
theorem dX5_judgeSort_57 : decode cX5_judgeSort 57 = .ok (.getfield 403, 3) := by decide +kernel
theorem dX5_judgeSort_60 : decode cX5_judgeSort 60 = .ok (.iaload, 1) := by decide +kernel
theorem dX5_judgeSort_61 : decode cX5_judgeSort 61 = .ok (.goto 4, 3) := by decide +kernel
theorem dX5_judgeSort_64 : decode cX5_judgeSort 64 = .ok (.iconst 0, 1) := by decide +kernel
theorem dX5_judgeSort_65 : decode cX5_judgeSort 65 = .ok (.ireturn, 1) := by decide +kernel
abbrev cX5_judge : ByteArray := prog_26_method_50_code
def yX5_judge : MethodName := ⟨RX5, "judge", "(II)V"⟩
theorem dX5_judge_0 : decode cX5_judge 0 = .ok (.aload_n 0, 1) := by decide +kernel
theorem dX5_judge_1 : decode cX5_judge 1 = .ok (.getfield 150, 3) := by decide +kernel
theorem dX5_judge_4 : decode cX5_judge 4 = .ok (.ifCond .eq 4, 3) := by decide +kernel
theorem dX5_judge_7 : decode cX5_judge 7 = .ok (.return_, 1) := by decide +kernel
theorem dX5_judge_8 : decode cX5_judge 8 = .ok (.aload_n 0, 1) := by decide +kernel
theorem dX5_judge_9 : decode cX5_judge 9 = .ok (.getfield 76, 3) := by decide +kernel
theorem dX5_judge_12 : decode cX5_judge 12 = .ok (.iload_n 1, 1) := by decide +kernel
theorem dX5_judge_13 : decode cX5_judge 13 = .ok (.iaload, 1) := by decide +kernel
theorem dX5_judge_14 : decode cX5_judge 14 = .ok (.tableswitch 125 4 7 #[30, 39, 48, 116], 30) := by decide +kernel
theorem dX5_judge_44 : decode cX5_judge 44 = .ok (.aload_n 0, 1) := by decide +kernel
theorem dX5_judge_45 : decode cX5_judge 45 = .ok (.iload_n 1, 1) := by decide +kernel
theorem dX5_judge_46 : decode cX5_judge 46 = .ok (.iload_n 2, 1) := by decide +kernel
theorem dX5_judge_47 : decode cX5_judge 47 = .ok (.invokevirtual 424, 3) := by decide +kernel
theorem dX5_judge_50 : decode cX5_judge 50 = .ok (.goto 94, 3) := by decide +kernel
theorem dX5_judge_53 : decode cX5_judge 53 = .ok (.aload_n 0, 1) := by decide +kernel
theorem dX5_judge_54 : decode cX5_judge 54 = .ok (.iload_n 1, 1) := by decide +kernel
theorem dX5_judge_55 : decode cX5_judge 55 = .ok (.iload_n 2, 1) := by decide +kernel
theorem dX5_judge_56 : decode cX5_judge 56 = .ok (.invokevirtual 427, 3) := by decide +kernel
theorem dX5_judge_59 : decode cX5_judge 59 = .ok (.goto 85, 3) := by decide +kernel
theorem dX5_judge_62 : decode cX5_judge 62 = .ok (.aload_n 0, 1) := by decide +kernel
theorem dX5_judge_63 : decode cX5_judge 63 = .ok (.aload_n 0, 1) := by decide +kernel
theorem dX5_judge_64 : decode cX5_judge 64 = .ok (.getfield 82, 3) := by decide +kernel
theorem dX5_judge_67 : decode cX5_judge 67 = .ok (.iload_n 1, 1) := by decide +kernel
theorem dX5_judge_68 : decode cX5_judge 68 = .ok (.iaload, 1) := by decide +kernel
theorem dX5_judge_69 : decode cX5_judge 69 = .ok (.iload_n 2, 1) := by decide +kernel
theorem dX5_judge_70 : decode cX5_judge 70 = .ok (.invokevirtual 421, 3) := by decide +kernel
theorem dX5_judge_73 : decode cX5_judge 73 = .ok (.aload_n 0, 1) := by decide +kernel
theorem dX5_judge_74 : decode cX5_judge 74 = .ok (.getfield 150, 3) := by decide +kernel
theorem dX5_judge_77 : decode cX5_judge 77 = .ok (.ifCond .eq 4, 3) := by decide +kernel
theorem dX5_judge_80 : decode cX5_judge 80 = .ok (.return_, 1) := by decide +kernel
theorem dX5_judge_81 : decode cX5_judge 81 = .ok (.aload_n 0, 1) := by decide +kernel
theorem dX5_judge_82 : decode cX5_judge 82 = .ok (.iload_n 1, 1) := by decide +kernel
theorem dX5_judge_83 : decode cX5_judge 83 = .ok (.aload_n 0, 1) := by decide +kernel
theorem dX5_judge_84 : decode cX5_judge 84 = .ok (.getfield 403, 3) := by decide +kernel
theorem dX5_judge_87 : decode cX5_judge 87 = .ok (.aload_n 0, 1) := by decide +kernel
theorem dX5_judge_88 : decode cX5_judge 88 = .ok (.getfield 406, 3) := by decide +kernel
theorem dX5_judge_91 : decode cX5_judge 91 = .ok (.invokevirtual 430, 3) := by decide +kernel
theorem dX5_judge_94 : decode cX5_judge 94 = .ok (.aload_n 0, 1) := by decide +kernel
theorem dX5_judge_95 : decode cX5_judge 95 = .ok (.aload_n 0, 1) := by decide +kernel
theorem dX5_judge_96 : decode cX5_judge 96 = .ok (.getfield 85, 3) := by decide +kernel
theorem dX5_judge_99 : decode cX5_judge 99 = .ok (.iload_n 1, 1) := by decide +kernel
theorem dX5_judge_100 : decode cX5_judge 100 = .ok (.iaload, 1) := by decide +kernel
theorem dX5_judge_101 : decode cX5_judge 101 = .ok (.aload_n 0, 1) := by decide +kernel
theorem dX5_judge_102 : decode cX5_judge 102 = .ok (.iload_n 2, 1) := by decide +kernel
theorem dX5_judge_103 : decode cX5_judge 103 = .ok (.iload_n 1, 1) := by decide +kernel
theorem dX5_judge_104 : decode cX5_judge 104 = .ok (.aload_n 0, 1) := by decide +kernel
theorem dX5_judge_105 : decode cX5_judge 105 = .ok (.getfield 82, 3) := by decide +kernel
theorem dX5_judge_108 : decode cX5_judge 108 = .ok (.iload_n 1, 1) := by decide +kernel
theorem dX5_judge_109 : decode cX5_judge 109 = .ok (.iaload, 1) := by decide +kernel
theorem dX5_judge_110 : decode cX5_judge 110 = .ok (.iload_n 2, 1) := by decide +kernel
theorem dX5_judge_111 : decode cX5_judge 111 = .ok (.invokevirtual 342, 3) := by decide +kernel
theorem dX5_judge_114 : decode cX5_judge 114 = .ok (.invokevirtual 421, 3) := by decide +kernel
theorem dX5_judge_117 : decode cX5_judge 117 = .ok (.aload_n 0, 1) := by decide +kernel
theorem dX5_judge_118 : decode cX5_judge 118 = .ok (.dup, 1) := by decide +kernel
theorem dX5_judge_119 : decode cX5_judge 119 = .ok (.getfield 409, 3) := by decide +kernel
theorem dX5_judge_122 : decode cX5_judge 122 = .ok (.iconst 1, 1) := by decide +kernel
theorem dX5_judge_123 : decode cX5_judge 123 = .ok (.isub, 1) := by decide +kernel
theorem dX5_judge_124 : decode cX5_judge 124 = .ok (.putfield 409, 3) := by decide +kernel
theorem dX5_judge_127 : decode cX5_judge 127 = .ok (.goto 17, 3) := by decide +kernel
theorem dX5_judge_130 : decode cX5_judge 130 = .ok (.aload_n 0, 1) := by decide +kernel
theorem dX5_judge_131 : decode cX5_judge 131 = .ok (.iload_n 1, 1) := by decide +kernel
theorem dX5_judge_132 : decode cX5_judge 132 = .ok (.iload_n 2, 1) := by decide +kernel
theorem dX5_judge_133 : decode cX5_judge 133 = .ok (.invokevirtual 434, 3) := by decide +kernel
theorem dX5_judge_136 : decode cX5_judge 136 = .ok (.goto 8, 3) := by decide +kernel
theorem dX5_judge_139 : decode cX5_judge 139 = .ok (.aload_n 0, 1) := by decide +kernel
theorem dX5_judge_140 : decode cX5_judge 140 = .ok (.iload_n 1, 1) := by decide +kernel
theorem dX5_judge_141 : decode cX5_judge 141 = .ok (.invokevirtual 437, 3) := by decide +kernel
theorem dX5_judge_144 : decode cX5_judge 144 = .ok (.return_, 1) := by decide +kernel
abbrev cX5_judgeLambda : ByteArray := prog_26_method_52_code
def yX5_judgeLambda : MethodName := ⟨RX5, "judgeLambda", "(II)V"⟩
theorem dX5_judgeLambda_0 : decode cX5_judgeLambda 0 = .ok (.aload_n 0, 1) := by decide +kernel
theorem dX5_judgeLambda_1 : decode cX5_judgeLambda 1 = .ok (.aload_n 0, 1) := by decide +kernel
theorem dX5_judgeLambda_2 : decode cX5_judgeLambda 2 = .ok (.getfield 82, 3) := by decide +kernel
theorem dX5_judgeLambda_5 : decode cX5_judgeLambda 5 = .ok (.iload_n 1, 1) := by decide +kernel
theorem dX5_judgeLambda_6 : decode cX5_judgeLambda 6 = .ok (.iaload, 1) := by decide +kernel
theorem dX5_judgeLambda_7 : decode cX5_judgeLambda 7 = .ok (.iload_n 2, 1) := by decide +kernel
theorem dX5_judgeLambda_8 : decode cX5_judgeLambda 8 = .ok (.invokevirtual 440, 3) := by decide +kernel
theorem dX5_judgeLambda_11 : decode cX5_judgeLambda 11 = .ok (.istore_n 3, 1) := by decide +kernel
theorem dX5_judgeLambda_12 : decode cX5_judgeLambda 12 = .ok (.aload_n 0, 1) := by decide +kernel
theorem dX5_judgeLambda_13 : decode cX5_judgeLambda 13 = .ok (.getfield 150, 3) := by decide +kernel
theorem dX5_judgeLambda_16 : decode cX5_judgeLambda 16 = .ok (.ifCond .ne 18, 3) := by decide +kernel
theorem dX5_judgeLambda_19 : decode cX5_judgeLambda 19 = .ok (.aload_n 0, 1) := by decide +kernel
theorem dX5_judgeLambda_20 : decode cX5_judgeLambda 20 = .ok (.aload_n 0, 1) := by decide +kernel
theorem dX5_judgeLambda_21 : decode cX5_judgeLambda 21 = .ok (.getfield 82, 3) := by decide +kernel
theorem dX5_judgeLambda_24 : decode cX5_judgeLambda 24 = .ok (.iload_n 1, 1) := by decide +kernel
theorem dX5_judgeLambda_25 : decode cX5_judgeLambda 25 = .ok (.iaload, 1) := by decide +kernel
theorem dX5_judgeLambda_26 : decode cX5_judgeLambda 26 = .ok (.iload_n 2, 1) := by decide +kernel
theorem dX5_judgeLambda_27 : decode cX5_judgeLambda 27 = .ok (.iconst 0, 1) := by decide +kernel
theorem dX5_judgeLambda_28 : decode cX5_judgeLambda 28 = .ok (.invokevirtual 396, 3) := by decide +kernel
theorem dX5_judgeLambda_31 : decode cX5_judgeLambda 31 = .ok (.goto 4, 3) := by decide +kernel
theorem dX5_judgeLambda_34 : decode cX5_judgeLambda 34 = .ok (.iconst 0, 1) := by decide +kernel
theorem dX5_judgeLambda_35 : decode cX5_judgeLambda 35 = .ok (.istore 4, 2) := by decide +kernel
theorem dX5_judgeLambda_37 : decode cX5_judgeLambda 37 = .ok (.aload_n 0, 1) := by decide +kernel
theorem dX5_judgeLambda_38 : decode cX5_judgeLambda 38 = .ok (.getfield 150, 3) := by decide +kernel
theorem dX5_judgeLambda_41 : decode cX5_judgeLambda 41 = .ok (.ifCond .eq 4, 3) := by decide +kernel
theorem dX5_judgeLambda_44 : decode cX5_judgeLambda 44 = .ok (.return_, 1) := by decide +kernel
theorem dX5_judgeLambda_45 : decode cX5_judgeLambda 45 = .ok (.aload_n 0, 1) := by decide +kernel
theorem dX5_judgeLambda_46 : decode cX5_judgeLambda 46 = .ok (.iload_n 1, 1) := by decide +kernel
theorem dX5_judgeLambda_47 : decode cX5_judgeLambda 47 = .ok (.iload 4, 2) := by decide +kernel
theorem dX5_judgeLambda_49 : decode cX5_judgeLambda 49 = .ok (.iload_n 3, 1) := by decide +kernel
theorem dX5_judgeLambda_50 : decode cX5_judgeLambda 50 = .ok (.invokevirtual 430, 3) := by decide +kernel
theorem dX5_judgeLambda_53 : decode cX5_judgeLambda 53 = .ok (.aload_n 0, 1) := by decide +kernel
theorem dX5_judgeLambda_54 : decode cX5_judgeLambda 54 = .ok (.aload_n 0, 1) := by decide +kernel
theorem dX5_judgeLambda_55 : decode cX5_judgeLambda 55 = .ok (.getfield 85, 3) := by decide +kernel
theorem dX5_judgeLambda_58 : decode cX5_judgeLambda 58 = .ok (.iload_n 1, 1) := by decide +kernel
theorem dX5_judgeLambda_59 : decode cX5_judgeLambda 59 = .ok (.iaload, 1) := by decide +kernel
theorem dX5_judgeLambda_60 : decode cX5_judgeLambda 60 = .ok (.iload_n 2, 1) := by decide +kernel
theorem dX5_judgeLambda_61 : decode cX5_judgeLambda 61 = .ok (.invokevirtual 421, 3) := by decide +kernel
theorem dX5_judgeLambda_64 : decode cX5_judgeLambda 64 = .ok (.aload_n 0, 1) := by decide +kernel
theorem dX5_judgeLambda_65 : decode cX5_judgeLambda 65 = .ok (.dup, 1) := by decide +kernel
theorem dX5_judgeLambda_66 : decode cX5_judgeLambda 66 = .ok (.getfield 409, 3) := by decide +kernel
theorem dX5_judgeLambda_69 : decode cX5_judgeLambda 69 = .ok (.iconst 1, 1) := by decide +kernel
theorem dX5_judgeLambda_70 : decode cX5_judgeLambda 70 = .ok (.isub, 1) := by decide +kernel
theorem dX5_judgeLambda_71 : decode cX5_judgeLambda 71 = .ok (.putfield 409, 3) := by decide +kernel
theorem dX5_judgeLambda_74 : decode cX5_judgeLambda 74 = .ok (.aload_n 0, 1) := by decide +kernel
theorem dX5_judgeLambda_75 : decode cX5_judgeLambda 75 = .ok (.getfield 150, 3) := by decide +kernel
theorem dX5_judgeLambda_78 : decode cX5_judgeLambda 78 = .ok (.ifCond .eq 4, 3) := by decide +kernel
theorem dX5_judgeLambda_81 : decode cX5_judgeLambda 81 = .ok (.return_, 1) := by decide +kernel
theorem dX5_judgeLambda_82 : decode cX5_judgeLambda 82 = .ok (.aload_n 0, 1) := by decide +kernel
theorem dX5_judgeLambda_83 : decode cX5_judgeLambda 83 = .ok (.getfield 406, 3) := by decide +kernel
theorem dX5_judgeLambda_86 : decode cX5_judgeLambda 86 = .ok (.istore 5, 2) := by decide +kernel
theorem dX5_judgeLambda_88 : decode cX5_judgeLambda 88 = .ok (.iload 5, 2) := by decide +kernel
theorem dX5_judgeLambda_90 : decode cX5_judgeLambda 90 = .ok (.ifCond .ge 7, 3) := by decide +kernel
theorem dX5_judgeLambda_93 : decode cX5_judgeLambda 93 = .ok (.iconst (-1), 1) := by decide +kernel
theorem dX5_judgeLambda_94 : decode cX5_judgeLambda 94 = .ok (.goto 15, 3) := by decide +kernel
theorem dX5_judgeLambda_97 : decode cX5_judgeLambda 97 = .ok (.aload_n 0, 1) := by decide +kernel
theorem dX5_judgeLambda_98 : decode cX5_judgeLambda 98 = .ok (.getfield 52, 3) := by decide +kernel
theorem dX5_judgeLambda_101 : decode cX5_judgeLambda 101 = .ok (.bipush 8, 2) := by decide +kernel
theorem dX5_judgeLambda_103 : decode cX5_judgeLambda 103 = .ok (.iload_n 3, 1) := by decide +kernel
theorem dX5_judgeLambda_104 : decode cX5_judgeLambda 104 = .ok (.imul, 1) := by decide +kernel
theorem dX5_judgeLambda_105 : decode cX5_judgeLambda 105 = .ok (.iload 5, 2) := by decide +kernel
theorem dX5_judgeLambda_107 : decode cX5_judgeLambda 107 = .ok (.iadd, 1) := by decide +kernel
theorem dX5_judgeLambda_108 : decode cX5_judgeLambda 108 = .ok (.iaload, 1) := by decide +kernel
theorem dX5_judgeLambda_109 : decode cX5_judgeLambda 109 = .ok (.istore 6, 2) := by decide +kernel
theorem dX5_judgeLambda_111 : decode cX5_judgeLambda 111 = .ok (.iload 6, 2) := by decide +kernel
theorem dX5_judgeLambda_113 : decode cX5_judgeLambda 113 = .ok (.ifCond .ge 26, 3) := by decide +kernel
theorem dX5_judgeLambda_116 : decode cX5_judgeLambda 116 = .ok (.aload_n 0, 1) := by decide +kernel
theorem dX5_judgeLambda_117 : decode cX5_judgeLambda 117 = .ok (.iload 5, 2) := by decide +kernel
theorem dX5_judgeLambda_119 : decode cX5_judgeLambda 119 = .ok (.ifCond .ge 8, 3) := by decide +kernel
theorem dX5_judgeLambda_122 : decode cX5_judgeLambda 122 = .ok (.bipush 7, 2) := by decide +kernel
theorem dX5_judgeLambda_124 : decode cX5_judgeLambda 124 = .ok (.goto 5, 3) := by decide +kernel
theorem dX5_judgeLambda_127 : decode cX5_judgeLambda 127 = .ok (.bipush 9, 2) := by decide +kernel
theorem dX5_judgeLambda_129 : decode cX5_judgeLambda 129 = .ok (.aload_n 0, 1) := by decide +kernel
theorem dX5_judgeLambda_130 : decode cX5_judgeLambda 130 = .ok (.getfield 91, 3) := by decide +kernel
theorem dX5_judgeLambda_133 : decode cX5_judgeLambda 133 = .ok (.iload_n 1, 1) := by decide +kernel
theorem dX5_judgeLambda_134 : decode cX5_judgeLambda 134 = .ok (.iaload, 1) := by decide +kernel
theorem dX5_judgeLambda_135 : decode cX5_judgeLambda 135 = .ok (.invokevirtual 218, 3) := by decide +kernel
theorem dX5_judgeLambda_138 : decode cX5_judgeLambda 138 = .ok (.return_, 1) := by decide +kernel
theorem dX5_judgeLambda_139 : decode cX5_judgeLambda 139 = .ok (.aload_n 0, 1) := by decide +kernel
theorem dX5_judgeLambda_140 : decode cX5_judgeLambda 140 = .ok (.iconst 5, 1) := by decide +kernel
theorem dX5_judgeLambda_141 : decode cX5_judgeLambda 141 = .ok (.iconst (-1), 1) := by decide +kernel
theorem dX5_judgeLambda_142 : decode cX5_judgeLambda 142 = .ok (.iload 4, 2) := by decide +kernel
theorem dX5_judgeLambda_144 : decode cX5_judgeLambda 144 = .ok (.aload_n 0, 1) := by decide +kernel
theorem dX5_judgeLambda_145 : decode cX5_judgeLambda 145 = .ok (.getfield 403, 3) := by decide +kernel
theorem dX5_judgeLambda_148 : decode cX5_judgeLambda 148 = .ok (.iconst 0, 1) := by decide +kernel
theorem dX5_judgeLambda_149 : decode cX5_judgeLambda 149 = .ok (.invokevirtual 241, 3) := by decide +kernel
theorem dX5_judgeLambda_152 : decode cX5_judgeLambda 152 = .ok (.istore 7, 2) := by decide +kernel
theorem dX5_judgeLambda_154 : decode cX5_judgeLambda 154 = .ok (.aload_n 0, 1) := by decide +kernel
theorem dX5_judgeLambda_155 : decode cX5_judgeLambda 155 = .ok (.getfield 100, 3) := by decide +kernel
theorem dX5_judgeLambda_158 : decode cX5_judgeLambda 158 = .ok (.iload 7, 2) := by decide +kernel
theorem dX5_judgeLambda_160 : decode cX5_judgeLambda 160 = .ok (.iload_n 1, 1) := by decide +kernel
theorem dX5_judgeLambda_161 : decode cX5_judgeLambda 161 = .ok (.iastore, 1) := by decide +kernel
theorem dX5_judgeLambda_162 : decode cX5_judgeLambda 162 = .ok (.aload_n 0, 1) := by decide +kernel
theorem dX5_judgeLambda_163 : decode cX5_judgeLambda 163 = .ok (.getfield 94, 3) := by decide +kernel
theorem dX5_judgeLambda_166 : decode cX5_judgeLambda 166 = .ok (.iload 7, 2) := by decide +kernel
theorem dX5_judgeLambda_168 : decode cX5_judgeLambda 168 = .ok (.iload_n 3, 1) := by decide +kernel
theorem dX5_judgeLambda_169 : decode cX5_judgeLambda 169 = .ok (.iastore, 1) := by decide +kernel
theorem dX5_judgeLambda_170 : decode cX5_judgeLambda 170 = .ok (.aload_n 0, 1) := by decide +kernel
theorem dX5_judgeLambda_171 : decode cX5_judgeLambda 171 = .ok (.getfield 97, 3) := by decide +kernel
theorem dX5_judgeLambda_174 : decode cX5_judgeLambda 174 = .ok (.iload 7, 2) := by decide +kernel
theorem dX5_judgeLambda_176 : decode cX5_judgeLambda 176 = .ok (.iload 5, 2) := by decide +kernel
theorem dX5_judgeLambda_178 : decode cX5_judgeLambda 178 = .ok (.iastore, 1) := by decide +kernel
theorem dX5_judgeLambda_179 : decode cX5_judgeLambda 179 = .ok (.aload_n 0, 1) := by decide +kernel
theorem dX5_judgeLambda_180 : decode cX5_judgeLambda 180 = .ok (.iload 7, 2) := by decide +kernel
theorem dX5_judgeLambda_182 : decode cX5_judgeLambda 182 = .ok (.iload 6, 2) := by decide +kernel
theorem dX5_judgeLambda_184 : decode cX5_judgeLambda 184 = .ok (.invokevirtual 412, 3) := by decide +kernel
theorem dX5_judgeLambda_187 : decode cX5_judgeLambda 187 = .ok (.return_, 1) := by decide +kernel
abbrev cX5_normal : ByteArray := prog_26_method_42_code
def yX5_normal : MethodName := ⟨RX5, "normal", "(III)I"⟩
theorem dX5_normal_0 : decode cX5_normal 0 = .ok (.aload_n 0, 1) := by decide +kernel
theorem dX5_normal_1 : decode cX5_normal 1 = .ok (.iload_n 3, 1) := by decide +kernel
theorem dX5_normal_2 : decode cX5_normal 2 = .ok (.invokevirtual 354, 3) := by decide +kernel
theorem dX5_normal_5 : decode cX5_normal 5 = .ok (.ifCond .ne 5, 3) := by decide +kernel
theorem dX5_normal_8 : decode cX5_normal 8 = .ok (.iconst 0, 1) := by decide +kernel
theorem dX5_normal_9 : decode cX5_normal 9 = .ok (.ireturn, 1) := by decide +kernel
theorem dX5_normal_10 : decode cX5_normal 10 = .ok (.aload_n 0, 1) := by decide +kernel
theorem dX5_normal_11 : decode cX5_normal 11 = .ok (.getfield 324, 3) := by decide +kernel
theorem dX5_normal_14 : decode cX5_normal 14 = .ok (.istore 4, 2) := by decide +kernel
theorem dX5_normal_16 : decode cX5_normal 16 = .ok (.aload_n 0, 1) := by decide +kernel
theorem dX5_normal_17 : decode cX5_normal 17 = .ok (.iload_n 1, 1) := by decide +kernel
theorem dX5_normal_18 : decode cX5_normal 18 = .ok (.iload_n 2, 1) := by decide +kernel
theorem dX5_normal_19 : decode cX5_normal 19 = .ok (.invokevirtual 357, 3) := by decide +kernel
theorem dX5_normal_22 : decode cX5_normal 22 = .ok (.aload_n 0, 1) := by decide +kernel
theorem dX5_normal_23 : decode cX5_normal 23 = .ok (.getfield 150, 3) := by decide +kernel
theorem dX5_normal_26 : decode cX5_normal 26 = .ok (.ifCond .eq 5, 3) := by decide +kernel
theorem dX5_normal_29 : decode cX5_normal 29 = .ok (.iconst 0, 1) := by decide +kernel
theorem dX5_normal_30 : decode cX5_normal 30 = .ok (.ireturn, 1) := by decide +kernel
theorem dX5_normal_31 : decode cX5_normal 31 = .ok (.aload_n 0, 1) := by decide +kernel
theorem dX5_normal_32 : decode cX5_normal 32 = .ok (.getfield 348, 3) := by decide +kernel
theorem dX5_normal_35 : decode cX5_normal 35 = .ok (.istore 5, 2) := by decide +kernel
theorem dX5_normal_37 : decode cX5_normal 37 = .ok (.aload_n 0, 1) := by decide +kernel
theorem dX5_normal_38 : decode cX5_normal 38 = .ok (.getfield 351, 3) := by decide +kernel
theorem dX5_normal_41 : decode cX5_normal 41 = .ok (.istore 6, 2) := by decide +kernel
theorem dX5_normal_43 : decode cX5_normal 43 = .ok (.aload_n 0, 1) := by decide +kernel
theorem dX5_normal_44 : decode cX5_normal 44 = .ok (.iload 5, 2) := by decide +kernel
theorem dX5_normal_46 : decode cX5_normal 46 = .ok (.invokevirtual 363, 3) := by decide +kernel
theorem dX5_normal_49 : decode cX5_normal 49 = .ok (.istore 7, 2) := by decide +kernel
theorem dX5_normal_51 : decode cX5_normal 51 = .ok (.iload 7, 2) := by decide +kernel
theorem dX5_normal_53 : decode cX5_normal 53 = .ok (.iconst 4, 1) := by decide +kernel
theorem dX5_normal_54 : decode cX5_normal 54 = .ok (.if_icmp .eq 9, 3) := by decide +kernel
theorem dX5_normal_57 : decode cX5_normal 57 = .ok (.iload 7, 2) := by decide +kernel
theorem dX5_normal_59 : decode cX5_normal 59 = .ok (.iconst 5, 1) := by decide +kernel
theorem dX5_normal_60 : decode cX5_normal 60 = .ok (.if_icmp .ne 103, 3) := by decide +kernel
theorem dX5_normal_63 : decode cX5_normal 63 = .ok (.aload_n 0, 1) := by decide +kernel
theorem dX5_normal_64 : decode cX5_normal 64 = .ok (.iload 7, 2) := by decide +kernel
theorem dX5_normal_66 : decode cX5_normal 66 = .ok (.iconst (-1), 1) := by decide +kernel
theorem dX5_normal_67 : decode cX5_normal 67 = .ok (.iconst 0, 1) := by decide +kernel
theorem dX5_normal_68 : decode cX5_normal 68 = .ok (.iconst 0, 1) := by decide +kernel
theorem dX5_normal_69 : decode cX5_normal 69 = .ok (.iconst 0, 1) := by decide +kernel
theorem dX5_normal_70 : decode cX5_normal 70 = .ok (.invokevirtual 241, 3) := by decide +kernel
theorem dX5_normal_73 : decode cX5_normal 73 = .ok (.istore 8, 2) := by decide +kernel
theorem dX5_normal_75 : decode cX5_normal 75 = .ok (.aload_n 0, 1) := by decide +kernel
theorem dX5_normal_76 : decode cX5_normal 76 = .ok (.getfield 94, 3) := by decide +kernel
theorem dX5_normal_79 : decode cX5_normal 79 = .ok (.iload 8, 2) := by decide +kernel
theorem dX5_normal_81 : decode cX5_normal 81 = .ok (.aload_n 0, 1) := by decide +kernel
theorem dX5_normal_82 : decode cX5_normal 82 = .ok (.getfield 94, 3) := by decide +kernel
theorem dX5_normal_85 : decode cX5_normal 85 = .ok (.iload 5, 2) := by decide +kernel
theorem dX5_normal_87 : decode cX5_normal 87 = .ok (.iaload, 1) := by decide +kernel
theorem dX5_normal_88 : decode cX5_normal 88 = .ok (.iastore, 1) := by decide +kernel
theorem dX5_normal_89 : decode cX5_normal 89 = .ok (.aload_n 0, 1) := by decide +kernel
theorem dX5_normal_90 : decode cX5_normal 90 = .ok (.getfield 97, 3) := by decide +kernel
theorem dX5_normal_93 : decode cX5_normal 93 = .ok (.iload 8, 2) := by decide +kernel
theorem dX5_normal_95 : decode cX5_normal 95 = .ok (.aload_n 0, 1) := by decide +kernel
theorem dX5_normal_96 : decode cX5_normal 96 = .ok (.getfield 97, 3) := by decide +kernel
theorem dX5_normal_99 : decode cX5_normal 99 = .ok (.iload 5, 2) := by decide +kernel
theorem dX5_normal_101 : decode cX5_normal 101 = .ok (.iaload, 1) := by decide +kernel
theorem dX5_normal_102 : decode cX5_normal 102 = .ok (.iastore, 1) := by decide +kernel
theorem dX5_normal_103 : decode cX5_normal 103 = .ok (.aload_n 0, 1) := by decide +kernel
theorem dX5_normal_104 : decode cX5_normal 104 = .ok (.getfield 82, 3) := by decide +kernel
theorem dX5_normal_107 : decode cX5_normal 107 = .ok (.iload 8, 2) := by decide +kernel
theorem dX5_normal_109 : decode cX5_normal 109 = .ok (.aload_n 0, 1) := by decide +kernel
theorem dX5_normal_110 : decode cX5_normal 110 = .ok (.aload_n 0, 1) := by decide +kernel
theorem dX5_normal_111 : decode cX5_normal 111 = .ok (.getfield 82, 3) := by decide +kernel
theorem dX5_normal_114 : decode cX5_normal 114 = .ok (.iload 5, 2) := by decide +kernel
theorem dX5_normal_116 : decode cX5_normal 116 = .ok (.iaload, 1) := by decide +kernel
theorem dX5_normal_117 : decode cX5_normal 117 = .ok (.iload 6, 2) := by decide +kernel
theorem dX5_normal_119 : decode cX5_normal 119 = .ok (.iload_n 3, 1) := by decide +kernel
theorem dX5_normal_120 : decode cX5_normal 120 = .ok (.iconst 1, 1) := by decide +kernel
theorem dX5_normal_121 : decode cX5_normal 121 = .ok (.iadd, 1) := by decide +kernel
theorem dX5_normal_122 : decode cX5_normal 122 = .ok (.invokevirtual 396, 3) := by decide +kernel
theorem dX5_normal_125 : decode cX5_normal 125 = .ok (.iastore, 1) := by decide +kernel
theorem dX5_normal_126 : decode cX5_normal 126 = .ok (.aload_n 0, 1) := by decide +kernel
theorem dX5_normal_127 : decode cX5_normal 127 = .ok (.getfield 85, 3) := by decide +kernel
theorem dX5_normal_130 : decode cX5_normal 130 = .ok (.iload 8, 2) := by decide +kernel
theorem dX5_normal_132 : decode cX5_normal 132 = .ok (.aload_n 0, 1) := by decide +kernel
theorem dX5_normal_133 : decode cX5_normal 133 = .ok (.aload_n 0, 1) := by decide +kernel
theorem dX5_normal_134 : decode cX5_normal 134 = .ok (.getfield 85, 3) := by decide +kernel
theorem dX5_normal_137 : decode cX5_normal 137 = .ok (.iload 5, 2) := by decide +kernel
theorem dX5_normal_139 : decode cX5_normal 139 = .ok (.iaload, 1) := by decide +kernel
theorem dX5_normal_140 : decode cX5_normal 140 = .ok (.aload_n 0, 1) := by decide +kernel
theorem dX5_normal_141 : decode cX5_normal 141 = .ok (.iload 5, 2) := by decide +kernel
theorem dX5_normal_143 : decode cX5_normal 143 = .ok (.iload 6, 2) := by decide +kernel
theorem dX5_normal_145 : decode cX5_normal 145 = .ok (.bipush (-2), 2) := by decide +kernel
theorem dX5_normal_147 : decode cX5_normal 147 = .ok (.iload 8, 2) := by decide +kernel
theorem dX5_normal_149 : decode cX5_normal 149 = .ok (.isub, 1) := by decide +kernel
theorem dX5_normal_150 : decode cX5_normal 150 = .ok (.invokevirtual 374, 3) := by decide +kernel
theorem dX5_normal_153 : decode cX5_normal 153 = .ok (.iload_n 3, 1) := by decide +kernel
theorem dX5_normal_154 : decode cX5_normal 154 = .ok (.iconst 1, 1) := by decide +kernel
theorem dX5_normal_155 : decode cX5_normal 155 = .ok (.iadd, 1) := by decide +kernel
theorem dX5_normal_156 : decode cX5_normal 156 = .ok (.invokevirtual 396, 3) := by decide +kernel
theorem dX5_normal_159 : decode cX5_normal 159 = .ok (.iastore, 1) := by decide +kernel
theorem dX5_normal_160 : decode cX5_normal 160 = .ok (.goto 135, 3) := by decide +kernel
theorem dX5_normal_163 : decode cX5_normal 163 = .ok (.iload 7, 2) := by decide +kernel
theorem dX5_normal_165 : decode cX5_normal 165 = .ok (.iconst 3, 1) := by decide +kernel
theorem dX5_normal_166 : decode cX5_normal 166 = .ok (.if_icmp .ne 13, 3) := by decide +kernel
theorem dX5_normal_169 : decode cX5_normal 169 = .ok (.aload_n 0, 1) := by decide +kernel
theorem dX5_normal_170 : decode cX5_normal 170 = .ok (.getfield 79, 3) := by decide +kernel
theorem dX5_normal_173 : decode cX5_normal 173 = .ok (.iload 5, 2) := by decide +kernel
theorem dX5_normal_175 : decode cX5_normal 175 = .ok (.iaload, 1) := by decide +kernel
theorem dX5_normal_176 : decode cX5_normal 176 = .ok (.goto 42, 3) := by decide +kernel
theorem dX5_normal_179 : decode cX5_normal 179 = .ok (.aload_n 0, 1) := by decide +kernel
theorem dX5_normal_180 : decode cX5_normal 180 = .ok (.iload 7, 2) := by decide +kernel
theorem dX5_normal_182 : decode cX5_normal 182 = .ok (.iconst 2, 1) := by decide +kernel
theorem dX5_normal_183 : decode cX5_normal 183 = .ok (.if_icmp .ne 7, 3) := by decide +kernel
theorem dX5_normal_186 : decode cX5_normal 186 = .ok (.iconst 2, 1) := by decide +kernel
theorem dX5_normal_187 : decode cX5_normal 187 = .ok (.goto 4, 3) := by decide +kernel
theorem dX5_normal_190 : decode cX5_normal 190 = .ok (.iconst 1, 1) := by decide +kernel
theorem dX5_normal_191 : decode cX5_normal 191 = .ok (.iload 7, 2) := by decide +kernel
theorem dX5_normal_193 : decode cX5_normal 193 = .ok (.iconst (-1), 1) := by decide +kernel
theorem dX5_normal_194 : decode cX5_normal 194 = .ok (.if_icmp .ne 11, 3) := by decide +kernel
theorem dX5_normal_197 : decode cX5_normal 197 = .ok (.bipush (-2), 2) := by decide +kernel
theorem dX5_normal_199 : decode cX5_normal 199 = .ok (.iload 5, 2) := by decide +kernel
theorem dX5_normal_201 : decode cX5_normal 201 = .ok (.isub, 1) := by decide +kernel
theorem dX5_normal_202 : decode cX5_normal 202 = .ok (.goto 10, 3) := by decide +kernel
theorem dX5_normal_205 : decode cX5_normal 205 = .ok (.aload_n 0, 1) := by decide +kernel
theorem dX5_normal_206 : decode cX5_normal 206 = .ok (.getfield 79, 3) := by decide +kernel
theorem dX5_normal_209 : decode cX5_normal 209 = .ok (.iload 5, 2) := by decide +kernel
theorem dX5_normal_211 : decode cX5_normal 211 = .ok (.iaload, 1) := by decide +kernel
theorem dX5_normal_212 : decode cX5_normal 212 = .ok (.iconst 0, 1) := by decide +kernel
theorem dX5_normal_213 : decode cX5_normal 213 = .ok (.iconst 0, 1) := by decide +kernel
theorem dX5_normal_214 : decode cX5_normal 214 = .ok (.iconst 0, 1) := by decide +kernel
theorem dX5_normal_215 : decode cX5_normal 215 = .ok (.invokevirtual 241, 3) := by decide +kernel
theorem dX5_normal_218 : decode cX5_normal 218 = .ok (.istore 8, 2) := by decide +kernel
theorem dX5_normal_220 : decode cX5_normal 220 = .ok (.aload_n 0, 1) := by decide +kernel
theorem dX5_normal_221 : decode cX5_normal 221 = .ok (.getfield 324, 3) := by decide +kernel
theorem dX5_normal_224 : decode cX5_normal 224 = .ok (.istore 9, 2) := by decide +kernel
theorem dX5_normal_226 : decode cX5_normal 226 = .ok (.iconst 1, 1) := by decide +kernel
theorem dX5_normal_227 : decode cX5_normal 227 = .ok (.istore 10, 2) := by decide +kernel
theorem dX5_normal_229 : decode cX5_normal 229 = .ok (.aload_n 0, 1) := by decide +kernel
theorem dX5_normal_230 : decode cX5_normal 230 = .ok (.getfield 150, 3) := by decide +kernel
theorem dX5_normal_233 : decode cX5_normal 233 = .ok (.ifCond .ne 62, 3) := by decide +kernel
theorem dX5_normal_236 : decode cX5_normal 236 = .ok (.iload 10, 2) := by decide +kernel
theorem dX5_normal_238 : decode cX5_normal 238 = .ok (.iload 9, 2) := by decide +kernel
theorem dX5_normal_240 : decode cX5_normal 240 = .ok (.iload 4, 2) := by decide +kernel
theorem dX5_normal_242 : decode cX5_normal 242 = .ok (.isub, 1) := by decide +kernel
theorem dX5_normal_243 : decode cX5_normal 243 = .ok (.if_icmp .gt 52, 3) := by decide +kernel
theorem dX5_normal_246 : decode cX5_normal 246 = .ok (.aload_n 0, 1) := by decide +kernel
theorem dX5_normal_247 : decode cX5_normal 247 = .ok (.aload_n 0, 1) := by decide +kernel
theorem dX5_normal_248 : decode cX5_normal 248 = .ok (.getfield 128, 3) := by decide +kernel
theorem dX5_normal_251 : decode cX5_normal 251 = .ok (.iload 9, 2) := by decide +kernel
theorem dX5_normal_253 : decode cX5_normal 253 = .ok (.iload 10, 2) := by decide +kernel
theorem dX5_normal_255 : decode cX5_normal 255 = .ok (.isub, 1) := by decide +kernel
theorem dX5_normal_256 : decode cX5_normal 256 = .ok (.iaload, 1) := by decide +kernel
theorem dX5_normal_257 : decode cX5_normal 257 = .ok (.aload_n 0, 1) := by decide +kernel
theorem dX5_normal_258 : decode cX5_normal 258 = .ok (.getfield 131, 3) := by decide +kernel
theorem dX5_normal_261 : decode cX5_normal 261 = .ok (.iload 9, 2) := by decide +kernel
theorem dX5_normal_263 : decode cX5_normal 263 = .ok (.iload 10, 2) := by decide +kernel
theorem dX5_normal_265 : decode cX5_normal 265 = .ok (.isub, 1) := by decide +kernel
theorem dX5_normal_266 : decode cX5_normal 266 = .ok (.iaload, 1) := by decide +kernel
theorem dX5_normal_267 : decode cX5_normal 267 = .ok (.iload_n 3, 1) := by decide +kernel
theorem dX5_normal_268 : decode cX5_normal 268 = .ok (.iconst 1, 1) := by decide +kernel
theorem dX5_normal_269 : decode cX5_normal 269 = .ok (.iadd, 1) := by decide +kernel
theorem dX5_normal_270 : decode cX5_normal 270 = .ok (.invokevirtual 396, 3) := by decide +kernel
theorem dX5_normal_273 : decode cX5_normal 273 = .ok (.istore 11, 2) := by decide +kernel
theorem dX5_normal_275 : decode cX5_normal 275 = .ok (.aload_n 0, 1) := by decide +kernel
theorem dX5_normal_276 : decode cX5_normal 276 = .ok (.bipush 7, 2) := by decide +kernel
theorem dX5_normal_278 : decode cX5_normal 278 = .ok (.iconst 0, 1) := by decide +kernel
theorem dX5_normal_279 : decode cX5_normal 279 = .ok (.iload 8, 2) := by decide +kernel
theorem dX5_normal_281 : decode cX5_normal 281 = .ok (.iload 11, 2) := by decide +kernel
theorem dX5_normal_283 : decode cX5_normal 283 = .ok (.iconst 0, 1) := by decide +kernel
theorem dX5_normal_284 : decode cX5_normal 284 = .ok (.invokevirtual 241, 3) := by decide +kernel
theorem dX5_normal_287 : decode cX5_normal 287 = .ok (.istore 8, 2) := by decide +kernel
theorem dX5_normal_289 : decode cX5_normal 289 = .ok (.iinc 10 1, 3) := by decide +kernel
theorem dX5_normal_292 : decode cX5_normal 292 = .ok (.goto (-63), 3) := by decide +kernel
theorem dX5_normal_295 : decode cX5_normal 295 = .ok (.aload_n 0, 1) := by decide +kernel
theorem dX5_normal_296 : decode cX5_normal 296 = .ok (.iload 4, 2) := by decide +kernel
theorem dX5_normal_298 : decode cX5_normal 298 = .ok (.putfield 324, 3) := by decide +kernel
theorem dX5_normal_301 : decode cX5_normal 301 = .ok (.iload 8, 2) := by decide +kernel
theorem dX5_normal_303 : decode cX5_normal 303 = .ok (.ireturn, 1) := by decide +kernel
abbrev cX5_look : ByteArray := prog_26_method_30_code
def yX5_look : MethodName := ⟨RX5, "look", "(I)Z"⟩
theorem dX5_look_0 : decode cX5_look 0 = .ok (.aload_n 0, 1) := by decide +kernel
theorem dX5_look_1 : decode cX5_look 1 = .ok (.getfield 150, 3) := by decide +kernel
theorem dX5_look_4 : decode cX5_look 4 = .ok (.ifCond .ne 19, 3) := by decide +kernel
theorem dX5_look_7 : decode cX5_look 7 = .ok (.iload_n 1, 1) := by decide +kernel
theorem dX5_look_8 : decode cX5_look 8 = .ok (.bipush 100, 2) := by decide +kernel
theorem dX5_look_10 : decode cX5_look 10 = .ok (.if_icmp .lt 13, 3) := by decide +kernel
theorem dX5_look_13 : decode cX5_look 13 = .ok (.aload_n 0, 1) := by decide +kernel
theorem dX5_look_14 : decode cX5_look 14 = .ok (.bipush 13, 2) := by decide +kernel
theorem dX5_look_16 : decode cX5_look 16 = .ok (.aload_n 0, 1) := by decide +kernel
theorem dX5_look_17 : decode cX5_look 17 = .ok (.getfield 275, 3) := by decide +kernel
theorem dX5_look_20 : decode cX5_look 20 = .ok (.invokevirtual 218, 3) := by decide +kernel
theorem dX5_look_23 : decode cX5_look 23 = .ok (.aload_n 0, 1) := by decide +kernel
theorem dX5_look_24 : decode cX5_look 24 = .ok (.invokevirtual 309, 3) := by decide +kernel
theorem dX5_look_27 : decode cX5_look 27 = .ok (.ifCond .ne 5, 3) := by decide +kernel
theorem dX5_look_30 : decode cX5_look 30 = .ok (.iconst 0, 1) := by decide +kernel
theorem dX5_look_31 : decode cX5_look 31 = .ok (.ireturn, 1) := by decide +kernel
theorem dX5_look_32 : decode cX5_look 32 = .ok (.aload_n 0, 1) := by decide +kernel
theorem dX5_look_33 : decode cX5_look 33 = .ok (.dup, 1) := by decide +kernel
theorem dX5_look_34 : decode cX5_look 34 = .ok (.getfield 312, 3) := by decide +kernel
theorem dX5_look_37 : decode cX5_look 37 = .ok (.iconst 1, 1) := by decide +kernel
theorem dX5_look_38 : decode cX5_look 38 = .ok (.iadd, 1) := by decide +kernel
theorem dX5_look_39 : decode cX5_look 39 = .ok (.putfield 312, 3) := by decide +kernel
theorem dX5_look_42 : decode cX5_look 42 = .ok (.iconst 1, 1) := by decide +kernel
theorem dX5_look_43 : decode cX5_look 43 = .ok (.ireturn, 1) := by decide +kernel
abbrev cX5_may : ByteArray := prog_26_method_29_code
def yX5_may : MethodName := ⟨RX5, "may", "()Z"⟩
theorem dX5_may_0 : decode cX5_may 0 = .ok (.aload_n 0, 1) := by decide +kernel
theorem dX5_may_1 : decode cX5_may 1 = .ok (.getfield 150, 3) := by decide +kernel
theorem dX5_may_4 : decode cX5_may 4 = .ok (.ifCond .eq 5, 3) := by decide +kernel
theorem dX5_may_7 : decode cX5_may 7 = .ok (.iconst 0, 1) := by decide +kernel
theorem dX5_may_8 : decode cX5_may 8 = .ok (.ireturn, 1) := by decide +kernel
theorem dX5_may_9 : decode cX5_may 9 = .ok (.aload_n 0, 1) := by decide +kernel
theorem dX5_may_10 : decode cX5_may 10 = .ok (.getfield 302, 3) := by decide +kernel
theorem dX5_may_13 : decode cX5_may 13 = .ok (.aload_n 0, 1) := by decide +kernel
theorem dX5_may_14 : decode cX5_may 14 = .ok (.getfield 137, 3) := by decide +kernel
theorem dX5_may_17 : decode cX5_may 17 = .ok (.if_icmp .ne 16, 3) := by decide +kernel
theorem dX5_may_20 : decode cX5_may 20 = .ok (.aload_n 0, 1) := by decide +kernel
theorem dX5_may_21 : decode cX5_may 21 = .ok (.bipush 12, 2) := by decide +kernel
theorem dX5_may_23 : decode cX5_may 23 = .ok (.aload_n 0, 1) := by decide +kernel
theorem dX5_may_24 : decode cX5_may 24 = .ok (.getfield 275, 3) := by decide +kernel
theorem dX5_may_27 : decode cX5_may 27 = .ok (.invokevirtual 218, 3) := by decide +kernel
theorem dX5_may_30 : decode cX5_may 30 = .ok (.goto 23, 3) := by decide +kernel
theorem dX5_may_33 : decode cX5_may 33 = .ok (.aload_n 0, 1) := by decide +kernel
theorem dX5_may_34 : decode cX5_may 34 = .ok (.getfield 305, 3) := by decide +kernel
theorem dX5_may_37 : decode cX5_may 37 = .ok (.ldc_w 308, 3) := by decide +kernel
theorem dX5_may_40 : decode cX5_may 40 = .ok (.if_icmp .ne 13, 3) := by decide +kernel
theorem dX5_may_43 : decode cX5_may 43 = .ok (.aload_n 0, 1) := by decide +kernel
theorem dX5_may_44 : decode cX5_may 44 = .ok (.bipush 14, 2) := by decide +kernel
theorem dX5_may_46 : decode cX5_may 46 = .ok (.aload_n 0, 1) := by decide +kernel
theorem dX5_may_47 : decode cX5_may 47 = .ok (.getfield 275, 3) := by decide +kernel
theorem dX5_may_50 : decode cX5_may 50 = .ok (.invokevirtual 218, 3) := by decide +kernel
theorem dX5_may_53 : decode cX5_may 53 = .ok (.aload_n 0, 1) := by decide +kernel
theorem dX5_may_54 : decode cX5_may 54 = .ok (.getfield 150, 3) := by decide +kernel
theorem dX5_may_57 : decode cX5_may 57 = .ok (.ifCond .eq 5, 3) := by decide +kernel
theorem dX5_may_60 : decode cX5_may 60 = .ok (.iconst 0, 1) := by decide +kernel
theorem dX5_may_61 : decode cX5_may 61 = .ok (.ireturn, 1) := by decide +kernel
theorem dX5_may_62 : decode cX5_may 62 = .ok (.aload_n 0, 1) := by decide +kernel
theorem dX5_may_63 : decode cX5_may 63 = .ok (.dup, 1) := by decide +kernel
theorem dX5_may_64 : decode cX5_may 64 = .ok (.getfield 302, 3) := by decide +kernel
theorem dX5_may_67 : decode cX5_may 67 = .ok (.iconst 1, 1) := by decide +kernel
theorem dX5_may_68 : decode cX5_may 68 = .ok (.iadd, 1) := by decide +kernel
theorem dX5_may_69 : decode cX5_may 69 = .ok (.putfield 302, 3) := by decide +kernel
theorem dX5_may_72 : decode cX5_may 72 = .ok (.aload_n 0, 1) := by decide +kernel
theorem dX5_may_73 : decode cX5_may 73 = .ok (.dup, 1) := by decide +kernel
theorem dX5_may_74 : decode cX5_may 74 = .ok (.getfield 305, 3) := by decide +kernel
theorem dX5_may_77 : decode cX5_may 77 = .ok (.iconst 1, 1) := by decide +kernel
theorem dX5_may_78 : decode cX5_may 78 = .ok (.iadd, 1) := by decide +kernel
theorem dX5_may_79 : decode cX5_may 79 = .ok (.putfield 305, 3) := by decide +kernel
theorem dX5_may_82 : decode cX5_may 82 = .ok (.iconst 1, 1) := by decide +kernel
theorem dX5_may_83 : decode cX5_may 83 = .ok (.ireturn, 1) := by decide +kernel
abbrev cX5_head : ByteArray := prog_26_method_33_code
def yX5_head : MethodName := ⟨RX5, "head", "(II)V"⟩
theorem dX5_head_0 : decode cX5_head 0 = .ok (.aload_n 0, 1) := by decide +kernel
theorem dX5_head_1 : decode cX5_head 1 = .ok (.getfield 324, 3) := by decide +kernel
theorem dX5_head_4 : decode cX5_head 4 = .ok (.istore_n 3, 1) := by decide +kernel
theorem dX5_head_5 : decode cX5_head 5 = .ok (.iload_n 1, 1) := by decide +kernel
theorem dX5_head_6 : decode cX5_head 6 = .ok (.istore 4, 2) := by decide +kernel
theorem dX5_head_8 : decode cX5_head 8 = .ok (.iload_n 2, 1) := by decide +kernel
theorem dX5_head_9 : decode cX5_head 9 = .ok (.istore 5, 2) := by decide +kernel
theorem dX5_head_11 : decode cX5_head 11 = .ok (.aload_n 0, 1) := by decide +kernel
theorem dX5_head_12 : decode cX5_head 12 = .ok (.getfield 150, 3) := by decide +kernel
theorem dX5_head_15 : decode cX5_head 15 = .ok (.ifCond .ne 7, 3) := by decide +kernel
theorem dX5_head_18 : decode cX5_head 18 = .ok (.iconst 1, 1) := by decide +kernel
theorem dX5_head_19 : decode cX5_head 19 = .ok (.goto 4, 3) := by decide +kernel
theorem dX5_head_22 : decode cX5_head 22 = .ok (.iconst 0, 1) := by decide +kernel
theorem dX5_head_23 : decode cX5_head 23 = .ok (.istore 6, 2) := by decide +kernel
theorem dX5_head_25 : decode cX5_head 25 = .ok (.iload 6, 2) := by decide +kernel
theorem dX5_head_27 : decode cX5_head 27 = .ok (.ifCond .eq 404, 3) := by decide +kernel
theorem dX5_head_30 : decode cX5_head 30 = .ok (.iload 4, 2) := by decide +kernel
theorem dX5_head_32 : decode cX5_head 32 = .ok (.ifCond .ge 7, 3) := by decide +kernel
theorem dX5_head_35 : decode cX5_head 35 = .ok (.iconst (-1), 1) := by decide +kernel
theorem dX5_head_36 : decode cX5_head 36 = .ok (.goto 10, 3) := by decide +kernel
theorem dX5_head_39 : decode cX5_head 39 = .ok (.aload_n 0, 1) := by decide +kernel
theorem dX5_head_40 : decode cX5_head 40 = .ok (.getfield 76, 3) := by decide +kernel
theorem dX5_head_43 : decode cX5_head 43 = .ok (.iload 4, 2) := by decide +kernel
theorem dX5_head_45 : decode cX5_head 45 = .ok (.iaload, 1) := by decide +kernel
theorem dX5_head_46 : decode cX5_head 46 = .ok (.istore 7, 2) := by decide +kernel
theorem dX5_head_48 : decode cX5_head 48 = .ok (.iconst 0, 1) := by decide +kernel
theorem dX5_head_49 : decode cX5_head 49 = .ok (.istore 6, 2) := by decide +kernel
theorem dX5_head_51 : decode cX5_head 51 = .ok (.iload 7, 2) := by decide +kernel
theorem dX5_head_53 : decode cX5_head 53 = .ok (.bipush 7, 2) := by decide +kernel
theorem dX5_head_55 : decode cX5_head 55 = .ok (.if_icmp .ne 73, 3) := by decide +kernel
theorem dX5_head_58 : decode cX5_head 58 = .ok (.aload_n 0, 1) := by decide +kernel
theorem dX5_head_59 : decode cX5_head 59 = .ok (.invokevirtual 309, 3) := by decide +kernel
theorem dX5_head_62 : decode cX5_head 62 = .ok (.istore 6, 2) := by decide +kernel
theorem dX5_head_64 : decode cX5_head 64 = .ok (.iload 6, 2) := by decide +kernel
theorem dX5_head_66 : decode cX5_head 66 = .ok (.ifCond .eq 362, 3) := by decide +kernel
theorem dX5_head_69 : decode cX5_head 69 = .ok (.aload_n 0, 1) := by decide +kernel
theorem dX5_head_70 : decode cX5_head 70 = .ok (.dup, 1) := by decide +kernel
theorem dX5_head_71 : decode cX5_head 71 = .ok (.getfield 327, 3) := by decide +kernel
theorem dX5_head_74 : decode cX5_head 74 = .ok (.iconst 1, 1) := by decide +kernel
theorem dX5_head_75 : decode cX5_head 75 = .ok (.iadd, 1) := by decide +kernel
theorem dX5_head_76 : decode cX5_head 76 = .ok (.putfield 327, 3) := by decide +kernel
theorem dX5_head_79 : decode cX5_head 79 = .ok (.aload_n 0, 1) := by decide +kernel
theorem dX5_head_80 : decode cX5_head 80 = .ok (.getfield 128, 3) := by decide +kernel
theorem dX5_head_83 : decode cX5_head 83 = .ok (.aload_n 0, 1) := by decide +kernel
theorem dX5_head_84 : decode cX5_head 84 = .ok (.getfield 324, 3) := by decide +kernel
theorem dX5_head_87 : decode cX5_head 87 = .ok (.aload_n 0, 1) := by decide +kernel
theorem dX5_head_88 : decode cX5_head 88 = .ok (.getfield 85, 3) := by decide +kernel
theorem dX5_head_91 : decode cX5_head 91 = .ok (.iload 4, 2) := by decide +kernel
theorem dX5_head_93 : decode cX5_head 93 = .ok (.iaload, 1) := by decide +kernel
theorem dX5_head_94 : decode cX5_head 94 = .ok (.iastore, 1) := by decide +kernel
theorem dX5_head_95 : decode cX5_head 95 = .ok (.aload_n 0, 1) := by decide +kernel
theorem dX5_head_96 : decode cX5_head 96 = .ok (.getfield 131, 3) := by decide +kernel
theorem dX5_head_99 : decode cX5_head 99 = .ok (.aload_n 0, 1) := by decide +kernel
theorem dX5_head_100 : decode cX5_head 100 = .ok (.getfield 324, 3) := by decide +kernel
theorem dX5_head_103 : decode cX5_head 103 = .ok (.iload 5, 2) := by decide +kernel
theorem dX5_head_105 : decode cX5_head 105 = .ok (.iastore, 1) := by decide +kernel
theorem dX5_head_106 : decode cX5_head 106 = .ok (.aload_n 0, 1) := by decide +kernel
theorem dX5_head_107 : decode cX5_head 107 = .ok (.dup, 1) := by decide +kernel
theorem dX5_head_108 : decode cX5_head 108 = .ok (.getfield 324, 3) := by decide +kernel
theorem dX5_head_111 : decode cX5_head 111 = .ok (.iconst 1, 1) := by decide +kernel
theorem dX5_head_112 : decode cX5_head 112 = .ok (.iadd, 1) := by decide +kernel
theorem dX5_head_113 : decode cX5_head 113 = .ok (.putfield 324, 3) := by decide +kernel
theorem dX5_head_116 : decode cX5_head 116 = .ok (.aload_n 0, 1) := by decide +kernel
theorem dX5_head_117 : decode cX5_head 117 = .ok (.getfield 82, 3) := by decide +kernel
theorem dX5_head_120 : decode cX5_head 120 = .ok (.iload 4, 2) := by decide +kernel
theorem dX5_head_122 : decode cX5_head 122 = .ok (.iaload, 1) := by decide +kernel
theorem dX5_head_123 : decode cX5_head 123 = .ok (.istore 4, 2) := by decide +kernel
theorem dX5_head_125 : decode cX5_head 125 = .ok (.goto 303, 3) := by decide +kernel
theorem dX5_head_128 : decode cX5_head 128 = .ok (.iload 7, 2) := by decide +kernel
theorem dX5_head_130 : decode cX5_head 130 = .ok (.iconst 1, 1) := by decide +kernel
theorem dX5_head_131 : decode cX5_head 131 = .ok (.if_icmp .ne 84, 3) := by decide +kernel
theorem dX5_head_134 : decode cX5_head 134 = .ok (.aload_n 0, 1) := by decide +kernel
theorem dX5_head_135 : decode cX5_head 135 = .ok (.aload_n 0, 1) := by decide +kernel
theorem dX5_head_136 : decode cX5_head 136 = .ok (.getfield 79, 3) := by decide +kernel
theorem dX5_head_139 : decode cX5_head 139 = .ok (.iload 4, 2) := by decide +kernel
theorem dX5_head_141 : decode cX5_head 141 = .ok (.iaload, 1) := by decide +kernel
theorem dX5_head_142 : decode cX5_head 142 = .ok (.iload 5, 2) := by decide +kernel
theorem dX5_head_144 : decode cX5_head 144 = .ok (.invokevirtual 330, 3) := by decide +kernel
theorem dX5_head_147 : decode cX5_head 147 = .ok (.aload_n 0, 1) := by decide +kernel
theorem dX5_head_148 : decode cX5_head 148 = .ok (.getfield 315, 3) := by decide +kernel
theorem dX5_head_151 : decode cX5_head 151 = .ok (.ifCond .eq 22, 3) := by decide +kernel
theorem dX5_head_154 : decode cX5_head 154 = .ok (.aload_n 0, 1) := by decide +kernel
theorem dX5_head_155 : decode cX5_head 155 = .ok (.getfield 318, 3) := by decide +kernel
theorem dX5_head_158 : decode cX5_head 158 = .ok (.ifCond .ge 15, 3) := by decide +kernel
theorem dX5_head_161 : decode cX5_head 161 = .ok (.aload_n 0, 1) := by decide +kernel
theorem dX5_head_162 : decode cX5_head 162 = .ok (.getfield 318, 3) := by decide +kernel
theorem dX5_head_165 : decode cX5_head 165 = .ok (.istore 4, 2) := by decide +kernel
theorem dX5_head_167 : decode cX5_head 167 = .ok (.iconst 0, 1) := by decide +kernel
theorem dX5_head_168 : decode cX5_head 168 = .ok (.istore 5, 2) := by decide +kernel
theorem dX5_head_170 : decode cX5_head 170 = .ok (.goto 258, 3) := by decide +kernel
theorem dX5_head_173 : decode cX5_head 173 = .ok (.aload_n 0, 1) := by decide +kernel
theorem dX5_head_174 : decode cX5_head 174 = .ok (.getfield 315, 3) := by decide +kernel
theorem dX5_head_177 : decode cX5_head 177 = .ok (.ifCond .eq 251, 3) := by decide +kernel
theorem dX5_head_180 : decode cX5_head 180 = .ok (.aload_n 0, 1) := by decide +kernel
theorem dX5_head_181 : decode cX5_head 181 = .ok (.invokevirtual 309, 3) := by decide +kernel
theorem dX5_head_184 : decode cX5_head 184 = .ok (.ifCond .eq 244, 3) := by decide +kernel
theorem dX5_head_187 : decode cX5_head 187 = .ok (.aload_n 0, 1) := by decide +kernel
theorem dX5_head_188 : decode cX5_head 188 = .ok (.dup, 1) := by decide +kernel
theorem dX5_head_189 : decode cX5_head 189 = .ok (.getfield 333, 3) := by decide +kernel
theorem dX5_head_192 : decode cX5_head 192 = .ok (.iconst 1, 1) := by decide +kernel
theorem dX5_head_193 : decode cX5_head 193 = .ok (.iadd, 1) := by decide +kernel
theorem dX5_head_194 : decode cX5_head 194 = .ok (.putfield 333, 3) := by decide +kernel
theorem dX5_head_197 : decode cX5_head 197 = .ok (.aload_n 0, 1) := by decide +kernel
theorem dX5_head_198 : decode cX5_head 198 = .ok (.getfield 318, 3) := by decide +kernel
theorem dX5_head_201 : decode cX5_head 201 = .ok (.istore 4, 2) := by decide +kernel
theorem dX5_head_203 : decode cX5_head 203 = .ok (.aload_n 0, 1) := by decide +kernel
theorem dX5_head_204 : decode cX5_head 204 = .ok (.getfield 321, 3) := by decide +kernel
theorem dX5_head_207 : decode cX5_head 207 = .ok (.istore 5, 2) := by decide +kernel
theorem dX5_head_209 : decode cX5_head 209 = .ok (.iconst 1, 1) := by decide +kernel
theorem dX5_head_210 : decode cX5_head 210 = .ok (.istore 6, 2) := by decide +kernel
theorem dX5_head_212 : decode cX5_head 212 = .ok (.goto 216, 3) := by decide +kernel
theorem dX5_head_215 : decode cX5_head 215 = .ok (.iload 7, 2) := by decide +kernel
theorem dX5_head_217 : decode cX5_head 217 = .ok (.iconst 2, 1) := by decide +kernel
theorem dX5_head_218 : decode cX5_head 218 = .ok (.if_icmp .ne 59, 3) := by decide +kernel
theorem dX5_head_221 : decode cX5_head 221 = .ok (.aload_n 0, 1) := by decide +kernel
theorem dX5_head_222 : decode cX5_head 222 = .ok (.getfield 66, 3) := by decide +kernel
theorem dX5_head_225 : decode cX5_head 225 = .ok (.aload_n 0, 1) := by decide +kernel
theorem dX5_head_226 : decode cX5_head 226 = .ok (.getfield 79, 3) := by decide +kernel
theorem dX5_head_229 : decode cX5_head 229 = .ok (.iload 4, 2) := by decide +kernel
theorem dX5_head_231 : decode cX5_head 231 = .ok (.iaload, 1) := by decide +kernel
theorem dX5_head_232 : decode cX5_head 232 = .ok (.iaload, 1) := by decide +kernel
theorem dX5_head_233 : decode cX5_head 233 = .ok (.ifCond .lt 44, 3) := by decide +kernel
theorem dX5_head_236 : decode cX5_head 236 = .ok (.aload_n 0, 1) := by decide +kernel
theorem dX5_head_237 : decode cX5_head 237 = .ok (.invokevirtual 309, 3) := by decide +kernel
theorem dX5_head_240 : decode cX5_head 240 = .ok (.istore 6, 2) := by decide +kernel
theorem dX5_head_242 : decode cX5_head 242 = .ok (.iload 6, 2) := by decide +kernel
theorem dX5_head_244 : decode cX5_head 244 = .ok (.ifCond .eq 184, 3) := by decide +kernel
theorem dX5_head_247 : decode cX5_head 247 = .ok (.aload_n 0, 1) := by decide +kernel
theorem dX5_head_248 : decode cX5_head 248 = .ok (.dup, 1) := by decide +kernel
theorem dX5_head_249 : decode cX5_head 249 = .ok (.getfield 336, 3) := by decide +kernel
theorem dX5_head_252 : decode cX5_head 252 = .ok (.iconst 1, 1) := by decide +kernel
theorem dX5_head_253 : decode cX5_head 253 = .ok (.iadd, 1) := by decide +kernel
theorem dX5_head_254 : decode cX5_head 254 = .ok (.putfield 336, 3) := by decide +kernel
theorem dX5_head_257 : decode cX5_head 257 = .ok (.aload_n 0, 1) := by decide +kernel
theorem dX5_head_258 : decode cX5_head 258 = .ok (.getfield 66, 3) := by decide +kernel
theorem dX5_head_261 : decode cX5_head 261 = .ok (.aload_n 0, 1) := by decide +kernel
theorem dX5_head_262 : decode cX5_head 262 = .ok (.getfield 79, 3) := by decide +kernel
theorem dX5_head_265 : decode cX5_head 265 = .ok (.iload 4, 2) := by decide +kernel
theorem dX5_head_267 : decode cX5_head 267 = .ok (.iaload, 1) := by decide +kernel
theorem dX5_head_268 : decode cX5_head 268 = .ok (.iaload, 1) := by decide +kernel
theorem dX5_head_269 : decode cX5_head 269 = .ok (.istore 4, 2) := by decide +kernel
theorem dX5_head_271 : decode cX5_head 271 = .ok (.iconst 0, 1) := by decide +kernel
theorem dX5_head_272 : decode cX5_head 272 = .ok (.istore 5, 2) := by decide +kernel
theorem dX5_head_274 : decode cX5_head 274 = .ok (.goto 154, 3) := by decide +kernel
theorem dX5_head_277 : decode cX5_head 277 = .ok (.iload 7, 2) := by decide +kernel
theorem dX5_head_279 : decode cX5_head 279 = .ok (.iconst 4, 1) := by decide +kernel
theorem dX5_head_280 : decode cX5_head 280 = .ok (.if_icmp .ne 87, 3) := by decide +kernel
theorem dX5_head_283 : decode cX5_head 283 = .ok (.aload_n 0, 1) := by decide +kernel
theorem dX5_head_284 : decode cX5_head 284 = .ok (.getfield 324, 3) := by decide +kernel
theorem dX5_head_287 : decode cX5_head 287 = .ok (.iload_n 3, 1) := by decide +kernel
theorem dX5_head_288 : decode cX5_head 288 = .ok (.if_icmp .le 79, 3) := by decide +kernel
theorem dX5_head_291 : decode cX5_head 291 = .ok (.aload_n 0, 1) := by decide +kernel
theorem dX5_head_292 : decode cX5_head 292 = .ok (.invokevirtual 309, 3) := by decide +kernel
theorem dX5_head_295 : decode cX5_head 295 = .ok (.istore 6, 2) := by decide +kernel
theorem dX5_head_297 : decode cX5_head 297 = .ok (.iload 6, 2) := by decide +kernel
theorem dX5_head_299 : decode cX5_head 299 = .ok (.ifCond .eq 129, 3) := by decide +kernel
theorem dX5_head_302 : decode cX5_head 302 = .ok (.aload_n 0, 1) := by decide +kernel
theorem dX5_head_303 : decode cX5_head 303 = .ok (.dup, 1) := by decide +kernel
theorem dX5_head_304 : decode cX5_head 304 = .ok (.getfield 339, 3) := by decide +kernel
theorem dX5_head_307 : decode cX5_head 307 = .ok (.iconst 1, 1) := by decide +kernel
theorem dX5_head_308 : decode cX5_head 308 = .ok (.iadd, 1) := by decide +kernel
theorem dX5_head_309 : decode cX5_head 309 = .ok (.putfield 339, 3) := by decide +kernel
theorem dX5_head_312 : decode cX5_head 312 = .ok (.aload_n 0, 1) := by decide +kernel
theorem dX5_head_313 : decode cX5_head 313 = .ok (.dup, 1) := by decide +kernel
theorem dX5_head_314 : decode cX5_head 314 = .ok (.getfield 324, 3) := by decide +kernel
theorem dX5_head_317 : decode cX5_head 317 = .ok (.iconst 1, 1) := by decide +kernel
theorem dX5_head_318 : decode cX5_head 318 = .ok (.isub, 1) := by decide +kernel
theorem dX5_head_319 : decode cX5_head 319 = .ok (.putfield 324, 3) := by decide +kernel
theorem dX5_head_322 : decode cX5_head 322 = .ok (.aload_n 0, 1) := by decide +kernel
theorem dX5_head_323 : decode cX5_head 323 = .ok (.iload 5, 2) := by decide +kernel
theorem dX5_head_325 : decode cX5_head 325 = .ok (.aload_n 0, 1) := by decide +kernel
theorem dX5_head_326 : decode cX5_head 326 = .ok (.getfield 100, 3) := by decide +kernel
theorem dX5_head_329 : decode cX5_head 329 = .ok (.iload 4, 2) := by decide +kernel
theorem dX5_head_331 : decode cX5_head 331 = .ok (.iaload, 1) := by decide +kernel
theorem dX5_head_332 : decode cX5_head 332 = .ok (.aload_n 0, 1) := by decide +kernel
theorem dX5_head_333 : decode cX5_head 333 = .ok (.getfield 128, 3) := by decide +kernel
theorem dX5_head_336 : decode cX5_head 336 = .ok (.aload_n 0, 1) := by decide +kernel
theorem dX5_head_337 : decode cX5_head 337 = .ok (.getfield 324, 3) := by decide +kernel
theorem dX5_head_340 : decode cX5_head 340 = .ok (.iaload, 1) := by decide +kernel
theorem dX5_head_341 : decode cX5_head 341 = .ok (.aload_n 0, 1) := by decide +kernel
theorem dX5_head_342 : decode cX5_head 342 = .ok (.getfield 131, 3) := by decide +kernel
theorem dX5_head_345 : decode cX5_head 345 = .ok (.aload_n 0, 1) := by decide +kernel
theorem dX5_head_346 : decode cX5_head 346 = .ok (.getfield 324, 3) := by decide +kernel
theorem dX5_head_349 : decode cX5_head 349 = .ok (.iaload, 1) := by decide +kernel
theorem dX5_head_350 : decode cX5_head 350 = .ok (.invokevirtual 342, 3) := by decide +kernel
theorem dX5_head_353 : decode cX5_head 353 = .ok (.istore 5, 2) := by decide +kernel
theorem dX5_head_355 : decode cX5_head 355 = .ok (.aload_n 0, 1) := by decide +kernel
theorem dX5_head_356 : decode cX5_head 356 = .ok (.getfield 85, 3) := by decide +kernel
theorem dX5_head_359 : decode cX5_head 359 = .ok (.iload 4, 2) := by decide +kernel
theorem dX5_head_361 : decode cX5_head 361 = .ok (.iaload, 1) := by decide +kernel
theorem dX5_head_362 : decode cX5_head 362 = .ok (.istore 4, 2) := by decide +kernel
theorem dX5_head_364 : decode cX5_head 364 = .ok (.goto 64, 3) := by decide +kernel
theorem dX5_head_367 : decode cX5_head 367 = .ok (.iload 7, 2) := by decide +kernel
theorem dX5_head_369 : decode cX5_head 369 = .ok (.bipush 6, 2) := by decide +kernel
theorem dX5_head_371 : decode cX5_head 371 = .ok (.if_icmp .ne 57, 3) := by decide +kernel
theorem dX5_head_374 : decode cX5_head 374 = .ok (.aload_n 0, 1) := by decide +kernel
theorem dX5_head_375 : decode cX5_head 375 = .ok (.invokevirtual 309, 3) := by decide +kernel
theorem dX5_head_378 : decode cX5_head 378 = .ok (.istore 6, 2) := by decide +kernel
theorem dX5_head_380 : decode cX5_head 380 = .ok (.iload 6, 2) := by decide +kernel
theorem dX5_head_382 : decode cX5_head 382 = .ok (.ifCond .eq 46, 3) := by decide +kernel
theorem dX5_head_385 : decode cX5_head 385 = .ok (.aload_n 0, 1) := by decide +kernel
theorem dX5_head_386 : decode cX5_head 386 = .ok (.dup, 1) := by decide +kernel
theorem dX5_head_387 : decode cX5_head 387 = .ok (.getfield 345, 3) := by decide +kernel
theorem dX5_head_390 : decode cX5_head 390 = .ok (.iconst 1, 1) := by decide +kernel
theorem dX5_head_391 : decode cX5_head 391 = .ok (.iadd, 1) := by decide +kernel
theorem dX5_head_392 : decode cX5_head 392 = .ok (.putfield 345, 3) := by decide +kernel
theorem dX5_head_395 : decode cX5_head 395 = .ok (.aload_n 0, 1) := by decide +kernel
theorem dX5_head_396 : decode cX5_head 396 = .ok (.iload 5, 2) := by decide +kernel
theorem dX5_head_398 : decode cX5_head 398 = .ok (.aload_n 0, 1) := by decide +kernel
theorem dX5_head_399 : decode cX5_head 399 = .ok (.getfield 100, 3) := by decide +kernel
theorem dX5_head_402 : decode cX5_head 402 = .ok (.iload 4, 2) := by decide +kernel
theorem dX5_head_404 : decode cX5_head 404 = .ok (.iaload, 1) := by decide +kernel
theorem dX5_head_405 : decode cX5_head 405 = .ok (.aload_n 0, 1) := by decide +kernel
theorem dX5_head_406 : decode cX5_head 406 = .ok (.getfield 82, 3) := by decide +kernel
theorem dX5_head_409 : decode cX5_head 409 = .ok (.iload 4, 2) := by decide +kernel
theorem dX5_head_411 : decode cX5_head 411 = .ok (.iaload, 1) := by decide +kernel
theorem dX5_head_412 : decode cX5_head 412 = .ok (.iload 5, 2) := by decide +kernel
theorem dX5_head_414 : decode cX5_head 414 = .ok (.invokevirtual 342, 3) := by decide +kernel
theorem dX5_head_417 : decode cX5_head 417 = .ok (.istore 5, 2) := by decide +kernel
theorem dX5_head_419 : decode cX5_head 419 = .ok (.aload_n 0, 1) := by decide +kernel
theorem dX5_head_420 : decode cX5_head 420 = .ok (.getfield 85, 3) := by decide +kernel
theorem dX5_head_423 : decode cX5_head 423 = .ok (.iload 4, 2) := by decide +kernel
theorem dX5_head_425 : decode cX5_head 425 = .ok (.iaload, 1) := by decide +kernel
theorem dX5_head_426 : decode cX5_head 426 = .ok (.istore 4, 2) := by decide +kernel
theorem dX5_head_428 : decode cX5_head 428 = .ok (.goto (-403), 3) := by decide +kernel
theorem dX5_head_431 : decode cX5_head 431 = .ok (.aload_n 0, 1) := by decide +kernel
theorem dX5_head_432 : decode cX5_head 432 = .ok (.iload 4, 2) := by decide +kernel
theorem dX5_head_434 : decode cX5_head 434 = .ok (.putfield 348, 3) := by decide +kernel
theorem dX5_head_437 : decode cX5_head 437 = .ok (.aload_n 0, 1) := by decide +kernel
theorem dX5_head_438 : decode cX5_head 438 = .ok (.iload 5, 2) := by decide +kernel
theorem dX5_head_440 : decode cX5_head 440 = .ok (.putfield 351, 3) := by decide +kernel
theorem dX5_head_443 : decode cX5_head 443 = .ok (.return_, 1) := by decide +kernel
abbrev cX5_find : ByteArray := prog_26_method_32_code
def yX5_find : MethodName := ⟨RX5, "find", "(II)V"⟩
theorem dX5_find_0 : decode cX5_find 0 = .ok (.iload_n 2, 1) := by decide +kernel
theorem dX5_find_1 : decode cX5_find 1 = .ok (.istore_n 3, 1) := by decide +kernel
theorem dX5_find_2 : decode cX5_find 2 = .ok (.iload_n 3, 1) := by decide +kernel
theorem dX5_find_3 : decode cX5_find 3 = .ok (.ifCond .eq 23, 3) := by decide +kernel
theorem dX5_find_6 : decode cX5_find 6 = .ok (.aload_n 0, 1) := by decide +kernel
theorem dX5_find_7 : decode cX5_find 7 = .ok (.getfield 116, 3) := by decide +kernel
theorem dX5_find_10 : decode cX5_find 10 = .ok (.iload_n 3, 1) := by decide +kernel
theorem dX5_find_11 : decode cX5_find 11 = .ok (.iaload, 1) := by decide +kernel
theorem dX5_find_12 : decode cX5_find 12 = .ok (.iload_n 1, 1) := by decide +kernel
theorem dX5_find_13 : decode cX5_find 13 = .ok (.if_icmp .eq 13, 3) := by decide +kernel
theorem dX5_find_16 : decode cX5_find 16 = .ok (.aload_n 0, 1) := by decide +kernel
theorem dX5_find_17 : decode cX5_find 17 = .ok (.getfield 113, 3) := by decide +kernel
theorem dX5_find_20 : decode cX5_find 20 = .ok (.iload_n 3, 1) := by decide +kernel
theorem dX5_find_21 : decode cX5_find 21 = .ok (.iaload, 1) := by decide +kernel
theorem dX5_find_22 : decode cX5_find 22 = .ok (.istore_n 3, 1) := by decide +kernel
theorem dX5_find_23 : decode cX5_find 23 = .ok (.goto (-21), 3) := by decide +kernel
theorem dX5_find_26 : decode cX5_find 26 = .ok (.aload_n 0, 1) := by decide +kernel
theorem dX5_find_27 : decode cX5_find 27 = .ok (.iload_n 3, 1) := by decide +kernel
theorem dX5_find_28 : decode cX5_find 28 = .ok (.ifCond .eq 7, 3) := by decide +kernel
theorem dX5_find_31 : decode cX5_find 31 = .ok (.iconst 1, 1) := by decide +kernel
theorem dX5_find_32 : decode cX5_find 32 = .ok (.goto 4, 3) := by decide +kernel
theorem dX5_find_35 : decode cX5_find 35 = .ok (.iconst 0, 1) := by decide +kernel
theorem dX5_find_36 : decode cX5_find 36 = .ok (.putfield 315, 3) := by decide +kernel
theorem dX5_find_39 : decode cX5_find 39 = .ok (.aload_n 0, 1) := by decide +kernel
theorem dX5_find_40 : decode cX5_find 40 = .ok (.getfield 315, 3) := by decide +kernel
theorem dX5_find_43 : decode cX5_find 43 = .ok (.ifCond .eq 23, 3) := by decide +kernel
theorem dX5_find_46 : decode cX5_find 46 = .ok (.aload_n 0, 1) := by decide +kernel
theorem dX5_find_47 : decode cX5_find 47 = .ok (.aload_n 0, 1) := by decide +kernel
theorem dX5_find_48 : decode cX5_find 48 = .ok (.getfield 119, 3) := by decide +kernel
theorem dX5_find_51 : decode cX5_find 51 = .ok (.iload_n 3, 1) := by decide +kernel
theorem dX5_find_52 : decode cX5_find 52 = .ok (.iaload, 1) := by decide +kernel
theorem dX5_find_53 : decode cX5_find 53 = .ok (.putfield 318, 3) := by decide +kernel
theorem dX5_find_56 : decode cX5_find 56 = .ok (.aload_n 0, 1) := by decide +kernel
theorem dX5_find_57 : decode cX5_find 57 = .ok (.aload_n 0, 1) := by decide +kernel
theorem dX5_find_58 : decode cX5_find 58 = .ok (.getfield 122, 3) := by decide +kernel
theorem dX5_find_61 : decode cX5_find 61 = .ok (.iload_n 3, 1) := by decide +kernel
theorem dX5_find_62 : decode cX5_find 62 = .ok (.iaload, 1) := by decide +kernel
theorem dX5_find_63 : decode cX5_find 63 = .ok (.putfield 321, 3) := by decide +kernel
theorem dX5_find_66 : decode cX5_find 66 = .ok (.return_, 1) := by decide +kernel
abbrev cX5_cell : ByteArray := prog_26_method_31_code
def yX5_cell : MethodName := ⟨RX5, "cell", "(IIII)I"⟩
theorem dX5_cell_0 : decode cX5_cell 0 = .ok (.aload_n 0, 1) := by decide +kernel
theorem dX5_cell_1 : decode cX5_cell 1 = .ok (.getfield 113, 3) := by decide +kernel
theorem dX5_cell_4 : decode cX5_cell 4 = .ok (.aload_n 0, 1) := by decide +kernel
theorem dX5_cell_5 : decode cX5_cell 5 = .ok (.getfield 125, 3) := by decide +kernel
theorem dX5_cell_8 : decode cX5_cell 8 = .ok (.iload_n 1, 1) := by decide +kernel
theorem dX5_cell_9 : decode cX5_cell 9 = .ok (.iastore, 1) := by decide +kernel
theorem dX5_cell_10 : decode cX5_cell 10 = .ok (.aload_n 0, 1) := by decide +kernel
theorem dX5_cell_11 : decode cX5_cell 11 = .ok (.getfield 116, 3) := by decide +kernel
theorem dX5_cell_14 : decode cX5_cell 14 = .ok (.aload_n 0, 1) := by decide +kernel
theorem dX5_cell_15 : decode cX5_cell 15 = .ok (.getfield 125, 3) := by decide +kernel
theorem dX5_cell_18 : decode cX5_cell 18 = .ok (.iload_n 2, 1) := by decide +kernel
theorem dX5_cell_19 : decode cX5_cell 19 = .ok (.iastore, 1) := by decide +kernel
theorem dX5_cell_20 : decode cX5_cell 20 = .ok (.aload_n 0, 1) := by decide +kernel
theorem dX5_cell_21 : decode cX5_cell 21 = .ok (.getfield 119, 3) := by decide +kernel
theorem dX5_cell_24 : decode cX5_cell 24 = .ok (.aload_n 0, 1) := by decide +kernel
theorem dX5_cell_25 : decode cX5_cell 25 = .ok (.getfield 125, 3) := by decide +kernel
theorem dX5_cell_28 : decode cX5_cell 28 = .ok (.iload_n 3, 1) := by decide +kernel
theorem dX5_cell_29 : decode cX5_cell 29 = .ok (.iastore, 1) := by decide +kernel
theorem dX5_cell_30 : decode cX5_cell 30 = .ok (.aload_n 0, 1) := by decide +kernel
theorem dX5_cell_31 : decode cX5_cell 31 = .ok (.getfield 122, 3) := by decide +kernel
theorem dX5_cell_34 : decode cX5_cell 34 = .ok (.aload_n 0, 1) := by decide +kernel
theorem dX5_cell_35 : decode cX5_cell 35 = .ok (.getfield 125, 3) := by decide +kernel
theorem dX5_cell_38 : decode cX5_cell 38 = .ok (.iload 4, 2) := by decide +kernel
theorem dX5_cell_40 : decode cX5_cell 40 = .ok (.iastore, 1) := by decide +kernel
theorem dX5_cell_41 : decode cX5_cell 41 = .ok (.aload_n 0, 1) := by decide +kernel
theorem dX5_cell_42 : decode cX5_cell 42 = .ok (.dup, 1) := by decide +kernel
theorem dX5_cell_43 : decode cX5_cell 43 = .ok (.getfield 125, 3) := by decide +kernel
theorem dX5_cell_46 : decode cX5_cell 46 = .ok (.iconst 1, 1) := by decide +kernel
theorem dX5_cell_47 : decode cX5_cell 47 = .ok (.iadd, 1) := by decide +kernel
theorem dX5_cell_48 : decode cX5_cell 48 = .ok (.putfield 125, 3) := by decide +kernel
theorem dX5_cell_51 : decode cX5_cell 51 = .ok (.aload_n 0, 1) := by decide +kernel
theorem dX5_cell_52 : decode cX5_cell 52 = .ok (.getfield 125, 3) := by decide +kernel
theorem dX5_cell_55 : decode cX5_cell 55 = .ok (.iconst 1, 1) := by decide +kernel
theorem dX5_cell_56 : decode cX5_cell 56 = .ok (.isub, 1) := by decide +kernel
theorem dX5_cell_57 : decode cX5_cell 57 = .ok (.ireturn, 1) := by decide +kernel
abbrev cX5_kindOf : ByteArray := prog_26_method_34_code
def yX5_kindOf : MethodName := ⟨RX5, "kindOf", "(I)I"⟩
theorem dX5_kindOf_0 : decode cX5_kindOf 0 = .ok (.iload_n 1, 1) := by decide +kernel
theorem dX5_kindOf_1 : decode cX5_kindOf 1 = .ok (.ifCond .ge 7, 3) := by decide +kernel
theorem dX5_kindOf_4 : decode cX5_kindOf 4 = .ok (.iconst (-1), 1) := by decide +kernel
theorem dX5_kindOf_5 : decode cX5_kindOf 5 = .ok (.goto 9, 3) := by decide +kernel
theorem dX5_kindOf_8 : decode cX5_kindOf 8 = .ok (.aload_n 0, 1) := by decide +kernel
theorem dX5_kindOf_9 : decode cX5_kindOf 9 = .ok (.getfield 76, 3) := by decide +kernel
theorem dX5_kindOf_12 : decode cX5_kindOf 12 = .ok (.iload_n 1, 1) := by decide +kernel
theorem dX5_kindOf_13 : decode cX5_kindOf 13 = .ok (.iaload, 1) := by decide +kernel
theorem dX5_kindOf_14 : decode cX5_kindOf 14 = .ok (.ireturn, 1) := by decide +kernel
abbrev cX5_inside : ByteArray := prog_26_method_35_code
def yX5_inside : MethodName := ⟨RX5, "inside", "(III)I"⟩
theorem dX5_inside_0 : decode cX5_inside 0 = .ok (.aload_n 0, 1) := by decide +kernel
theorem dX5_inside_1 : decode cX5_inside 1 = .ok (.iload_n 2, 1) := by decide +kernel
theorem dX5_inside_2 : decode cX5_inside 2 = .ok (.aload_n 0, 1) := by decide +kernel
theorem dX5_inside_3 : decode cX5_inside 3 = .ok (.getfield 100, 3) := by decide +kernel
theorem dX5_inside_6 : decode cX5_inside 6 = .ok (.iload_n 1, 1) := by decide +kernel
theorem dX5_inside_7 : decode cX5_inside 7 = .ok (.iaload, 1) := by decide +kernel
theorem dX5_inside_8 : decode cX5_inside 8 = .ok (.iload_n 3, 1) := by decide +kernel
theorem dX5_inside_9 : decode cX5_inside 9 = .ok (.iconst 0, 1) := by decide +kernel
theorem dX5_inside_10 : decode cX5_inside 10 = .ok (.invokevirtual 342, 3) := by decide +kernel
theorem dX5_inside_13 : decode cX5_inside 13 = .ok (.ireturn, 1) := by decide +kernel
abbrev cX5_bind : ByteArray := prog_26_method_49_code
def yX5_bind : MethodName := ⟨RX5, "bind", "(III)V"⟩
theorem dX5_bind_0 : decode cX5_bind 0 = .ok (.aload_n 0, 1) := by decide +kernel
theorem dX5_bind_1 : decode cX5_bind 1 = .ok (.getfield 103, 3) := by decide +kernel
theorem dX5_bind_4 : decode cX5_bind 4 = .ok (.iload_n 1, 1) := by decide +kernel
theorem dX5_bind_5 : decode cX5_bind 5 = .ok (.iload_n 2, 1) := by decide +kernel
theorem dX5_bind_6 : decode cX5_bind 6 = .ok (.iastore, 1) := by decide +kernel
theorem dX5_bind_7 : decode cX5_bind 7 = .ok (.aload_n 0, 1) := by decide +kernel
theorem dX5_bind_8 : decode cX5_bind 8 = .ok (.getfield 106, 3) := by decide +kernel
theorem dX5_bind_11 : decode cX5_bind 11 = .ok (.iload_n 1, 1) := by decide +kernel
theorem dX5_bind_12 : decode cX5_bind 12 = .ok (.iload_n 3, 1) := by decide +kernel
theorem dX5_bind_13 : decode cX5_bind 13 = .ok (.iastore, 1) := by decide +kernel
theorem dX5_bind_14 : decode cX5_bind 14 = .ok (.aload_n 0, 1) := by decide +kernel
theorem dX5_bind_15 : decode cX5_bind 15 = .ok (.getfield 109, 3) := by decide +kernel
theorem dX5_bind_18 : decode cX5_bind 18 = .ok (.aload_n 0, 1) := by decide +kernel
theorem dX5_bind_19 : decode cX5_bind 19 = .ok (.getfield 409, 3) := by decide +kernel
theorem dX5_bind_22 : decode cX5_bind 22 = .ok (.iload_n 1, 1) := by decide +kernel
theorem dX5_bind_23 : decode cX5_bind 23 = .ok (.iastore, 1) := by decide +kernel
theorem dX5_bind_24 : decode cX5_bind 24 = .ok (.aload_n 0, 1) := by decide +kernel
theorem dX5_bind_25 : decode cX5_bind 25 = .ok (.dup, 1) := by decide +kernel
theorem dX5_bind_26 : decode cX5_bind 26 = .ok (.getfield 409, 3) := by decide +kernel
theorem dX5_bind_29 : decode cX5_bind 29 = .ok (.iconst 1, 1) := by decide +kernel
theorem dX5_bind_30 : decode cX5_bind 30 = .ok (.iadd, 1) := by decide +kernel
theorem dX5_bind_31 : decode cX5_bind 31 = .ok (.putfield 409, 3) := by decide +kernel
theorem dX5_bind_34 : decode cX5_bind 34 = .ok (.return_, 1) := by decide +kernel
abbrev cX5_becomes : ByteArray := prog_26_method_46_code
def yX5_becomes : MethodName := ⟨RX5, "becomes", "(II)V"⟩
theorem dX5_becomes_0 : decode cX5_becomes 0 = .ok (.aload_n 0, 1) := by decide +kernel
theorem dX5_becomes_1 : decode cX5_becomes 1 = .ok (.iload_n 1, 1) := by decide +kernel
theorem dX5_becomes_2 : decode cX5_becomes 2 = .ok (.putfield 403, 3) := by decide +kernel
theorem dX5_becomes_5 : decode cX5_becomes 5 = .ok (.aload_n 0, 1) := by decide +kernel
theorem dX5_becomes_6 : decode cX5_becomes 6 = .ok (.iload_n 2, 1) := by decide +kernel
theorem dX5_becomes_7 : decode cX5_becomes 7 = .ok (.putfield 406, 3) := by decide +kernel
theorem dX5_becomes_10 : decode cX5_becomes 10 = .ok (.return_, 1) := by decide +kernel
abbrev cX5_judgeProduct : ByteArray := prog_26_method_51_code
def yX5_judgeProduct : MethodName := ⟨RX5, "judgeProduct", "(II)V"⟩
theorem dX5_judgeProduct_0 : decode cX5_judgeProduct 0 = .ok (.aload_n 0, 1) := by decide +kernel
theorem dX5_judgeProduct_1 : decode cX5_judgeProduct 1 = .ok (.aload_n 0, 1) := by decide +kernel
theorem dX5_judgeProduct_2 : decode cX5_judgeProduct 2 = .ok (.getfield 82, 3) := by decide +kernel
theorem dX5_judgeProduct_5 : decode cX5_judgeProduct 5 = .ok (.iload_n 1, 1) := by decide +kernel
theorem dX5_judgeProduct_6 : decode cX5_judgeProduct 6 = .ok (.iaload, 1) := by decide +kernel
theorem dX5_judgeProduct_7 : decode cX5_judgeProduct 7 = .ok (.iload_n 2, 1) := by decide +kernel
theorem dX5_judgeProduct_8 : decode cX5_judgeProduct 8 = .ok (.invokevirtual 440, 3) := by decide +kernel
theorem dX5_judgeProduct_11 : decode cX5_judgeProduct 11 = .ok (.istore_n 3, 1) := by decide +kernel
theorem dX5_judgeProduct_12 : decode cX5_judgeProduct 12 = .ok (.aload_n 0, 1) := by decide +kernel
theorem dX5_judgeProduct_13 : decode cX5_judgeProduct 13 = .ok (.getfield 150, 3) := by decide +kernel
theorem dX5_judgeProduct_16 : decode cX5_judgeProduct 16 = .ok (.ifCond .ne 18, 3) := by decide +kernel
theorem dX5_judgeProduct_19 : decode cX5_judgeProduct 19 = .ok (.aload_n 0, 1) := by decide +kernel
theorem dX5_judgeProduct_20 : decode cX5_judgeProduct 20 = .ok (.aload_n 0, 1) := by decide +kernel
theorem dX5_judgeProduct_21 : decode cX5_judgeProduct 21 = .ok (.getfield 82, 3) := by decide +kernel
theorem dX5_judgeProduct_24 : decode cX5_judgeProduct 24 = .ok (.iload_n 1, 1) := by decide +kernel
theorem dX5_judgeProduct_25 : decode cX5_judgeProduct 25 = .ok (.iaload, 1) := by decide +kernel
theorem dX5_judgeProduct_26 : decode cX5_judgeProduct 26 = .ok (.iload_n 2, 1) := by decide +kernel
theorem dX5_judgeProduct_27 : decode cX5_judgeProduct 27 = .ok (.iconst 0, 1) := by decide +kernel
theorem dX5_judgeProduct_28 : decode cX5_judgeProduct 28 = .ok (.invokevirtual 396, 3) := by decide +kernel
theorem dX5_judgeProduct_31 : decode cX5_judgeProduct 31 = .ok (.goto 4, 3) := by decide +kernel
theorem dX5_judgeProduct_34 : decode cX5_judgeProduct 34 = .ok (.iconst 0, 1) := by decide +kernel
theorem dX5_judgeProduct_35 : decode cX5_judgeProduct 35 = .ok (.istore 4, 2) := by decide +kernel
theorem dX5_judgeProduct_37 : decode cX5_judgeProduct 37 = .ok (.aload_n 0, 1) := by decide +kernel
theorem dX5_judgeProduct_38 : decode cX5_judgeProduct 38 = .ok (.getfield 150, 3) := by decide +kernel
theorem dX5_judgeProduct_41 : decode cX5_judgeProduct 41 = .ok (.ifCond .eq 4, 3) := by decide +kernel
theorem dX5_judgeProduct_44 : decode cX5_judgeProduct 44 = .ok (.return_, 1) := by decide +kernel
theorem dX5_judgeProduct_45 : decode cX5_judgeProduct 45 = .ok (.aload_n 0, 1) := by decide +kernel
theorem dX5_judgeProduct_46 : decode cX5_judgeProduct 46 = .ok (.getfield 79, 3) := by decide +kernel
theorem dX5_judgeProduct_49 : decode cX5_judgeProduct 49 = .ok (.iload_n 1, 1) := by decide +kernel
theorem dX5_judgeProduct_50 : decode cX5_judgeProduct 50 = .ok (.iaload, 1) := by decide +kernel
theorem dX5_judgeProduct_51 : decode cX5_judgeProduct 51 = .ok (.ifCond .lt 7, 3) := by decide +kernel
theorem dX5_judgeProduct_54 : decode cX5_judgeProduct 54 = .ok (.iconst 1, 1) := by decide +kernel
theorem dX5_judgeProduct_55 : decode cX5_judgeProduct 55 = .ok (.goto 4, 3) := by decide +kernel
theorem dX5_judgeProduct_58 : decode cX5_judgeProduct 58 = .ok (.iconst 0, 1) := by decide +kernel
theorem dX5_judgeProduct_59 : decode cX5_judgeProduct 59 = .ok (.istore 5, 2) := by decide +kernel
theorem dX5_judgeProduct_61 : decode cX5_judgeProduct 61 = .ok (.iload 5, 2) := by decide +kernel
theorem dX5_judgeProduct_63 : decode cX5_judgeProduct 63 = .ok (.ifCond .eq 11, 3) := by decide +kernel
theorem dX5_judgeProduct_66 : decode cX5_judgeProduct 66 = .ok (.aload_n 0, 1) := by decide +kernel
theorem dX5_judgeProduct_67 : decode cX5_judgeProduct 67 = .ok (.iload_n 1, 1) := by decide +kernel
theorem dX5_judgeProduct_68 : decode cX5_judgeProduct 68 = .ok (.iload 4, 2) := by decide +kernel
theorem dX5_judgeProduct_70 : decode cX5_judgeProduct 70 = .ok (.iload_n 3, 1) := by decide +kernel
theorem dX5_judgeProduct_71 : decode cX5_judgeProduct 71 = .ok (.invokevirtual 430, 3) := by decide +kernel
theorem dX5_judgeProduct_74 : decode cX5_judgeProduct 74 = .ok (.aload_n 0, 1) := by decide +kernel
theorem dX5_judgeProduct_75 : decode cX5_judgeProduct 75 = .ok (.aload_n 0, 1) := by decide +kernel
theorem dX5_judgeProduct_76 : decode cX5_judgeProduct 76 = .ok (.getfield 85, 3) := by decide +kernel
theorem dX5_judgeProduct_79 : decode cX5_judgeProduct 79 = .ok (.iload_n 1, 1) := by decide +kernel
theorem dX5_judgeProduct_80 : decode cX5_judgeProduct 80 = .ok (.iaload, 1) := by decide +kernel
theorem dX5_judgeProduct_81 : decode cX5_judgeProduct 81 = .ok (.iload_n 2, 1) := by decide +kernel
theorem dX5_judgeProduct_82 : decode cX5_judgeProduct 82 = .ok (.invokevirtual 440, 3) := by decide +kernel
theorem dX5_judgeProduct_85 : decode cX5_judgeProduct 85 = .ok (.istore 6, 2) := by decide +kernel
theorem dX5_judgeProduct_87 : decode cX5_judgeProduct 87 = .ok (.iload 5, 2) := by decide +kernel
theorem dX5_judgeProduct_89 : decode cX5_judgeProduct 89 = .ok (.ifCond .eq 13, 3) := by decide +kernel
theorem dX5_judgeProduct_92 : decode cX5_judgeProduct 92 = .ok (.aload_n 0, 1) := by decide +kernel
theorem dX5_judgeProduct_93 : decode cX5_judgeProduct 93 = .ok (.dup, 1) := by decide +kernel
theorem dX5_judgeProduct_94 : decode cX5_judgeProduct 94 = .ok (.getfield 409, 3) := by decide +kernel
theorem dX5_judgeProduct_97 : decode cX5_judgeProduct 97 = .ok (.iconst 1, 1) := by decide +kernel
theorem dX5_judgeProduct_98 : decode cX5_judgeProduct 98 = .ok (.isub, 1) := by decide +kernel
theorem dX5_judgeProduct_99 : decode cX5_judgeProduct 99 = .ok (.putfield 409, 3) := by decide +kernel
theorem dX5_judgeProduct_102 : decode cX5_judgeProduct 102 = .ok (.aload_n 0, 1) := by decide +kernel
theorem dX5_judgeProduct_103 : decode cX5_judgeProduct 103 = .ok (.getfield 150, 3) := by decide +kernel
theorem dX5_judgeProduct_106 : decode cX5_judgeProduct 106 = .ok (.ifCond .eq 4, 3) := by decide +kernel
theorem dX5_judgeProduct_109 : decode cX5_judgeProduct 109 = .ok (.return_, 1) := by decide +kernel
theorem dX5_judgeProduct_110 : decode cX5_judgeProduct 110 = .ok (.aload_n 0, 1) := by decide +kernel
theorem dX5_judgeProduct_111 : decode cX5_judgeProduct 111 = .ok (.getfield 52, 3) := by decide +kernel
theorem dX5_judgeProduct_114 : decode cX5_judgeProduct 114 = .ok (.bipush 8, 2) := by decide +kernel
theorem dX5_judgeProduct_116 : decode cX5_judgeProduct 116 = .ok (.iload_n 3, 1) := by decide +kernel
theorem dX5_judgeProduct_117 : decode cX5_judgeProduct 117 = .ok (.imul, 1) := by decide +kernel
theorem dX5_judgeProduct_118 : decode cX5_judgeProduct 118 = .ok (.iload 6, 2) := by decide +kernel
theorem dX5_judgeProduct_120 : decode cX5_judgeProduct 120 = .ok (.iadd, 1) := by decide +kernel
theorem dX5_judgeProduct_121 : decode cX5_judgeProduct 121 = .ok (.iaload, 1) := by decide +kernel
theorem dX5_judgeProduct_122 : decode cX5_judgeProduct 122 = .ok (.istore 7, 2) := by decide +kernel
theorem dX5_judgeProduct_124 : decode cX5_judgeProduct 124 = .ok (.iload 7, 2) := by decide +kernel
theorem dX5_judgeProduct_126 : decode cX5_judgeProduct 126 = .ok (.ifCond .ge 16, 3) := by decide +kernel
theorem dX5_judgeProduct_129 : decode cX5_judgeProduct 129 = .ok (.aload_n 0, 1) := by decide +kernel
theorem dX5_judgeProduct_130 : decode cX5_judgeProduct 130 = .ok (.bipush 9, 2) := by decide +kernel
theorem dX5_judgeProduct_132 : decode cX5_judgeProduct 132 = .ok (.aload_n 0, 1) := by decide +kernel
theorem dX5_judgeProduct_133 : decode cX5_judgeProduct 133 = .ok (.getfield 91, 3) := by decide +kernel
theorem dX5_judgeProduct_136 : decode cX5_judgeProduct 136 = .ok (.iload_n 1, 1) := by decide +kernel
theorem dX5_judgeProduct_137 : decode cX5_judgeProduct 137 = .ok (.iaload, 1) := by decide +kernel
theorem dX5_judgeProduct_138 : decode cX5_judgeProduct 138 = .ok (.invokevirtual 218, 3) := by decide +kernel
theorem dX5_judgeProduct_141 : decode cX5_judgeProduct 141 = .ok (.return_, 1) := by decide +kernel
theorem dX5_judgeProduct_142 : decode cX5_judgeProduct 142 = .ok (.aload_n 0, 1) := by decide +kernel
theorem dX5_judgeProduct_143 : decode cX5_judgeProduct 143 = .ok (.getfield 94, 3) := by decide +kernel
theorem dX5_judgeProduct_146 : decode cX5_judgeProduct 146 = .ok (.iload_n 1, 1) := by decide +kernel
theorem dX5_judgeProduct_147 : decode cX5_judgeProduct 147 = .ok (.iload_n 3, 1) := by decide +kernel
theorem dX5_judgeProduct_148 : decode cX5_judgeProduct 148 = .ok (.iastore, 1) := by decide +kernel
theorem dX5_judgeProduct_149 : decode cX5_judgeProduct 149 = .ok (.aload_n 0, 1) := by decide +kernel
theorem dX5_judgeProduct_150 : decode cX5_judgeProduct 150 = .ok (.getfield 97, 3) := by decide +kernel
theorem dX5_judgeProduct_153 : decode cX5_judgeProduct 153 = .ok (.iload_n 1, 1) := by decide +kernel
theorem dX5_judgeProduct_154 : decode cX5_judgeProduct 154 = .ok (.iload 6, 2) := by decide +kernel
theorem dX5_judgeProduct_156 : decode cX5_judgeProduct 156 = .ok (.iastore, 1) := by decide +kernel
theorem dX5_judgeProduct_157 : decode cX5_judgeProduct 157 = .ok (.aload_n 0, 1) := by decide +kernel
theorem dX5_judgeProduct_158 : decode cX5_judgeProduct 158 = .ok (.iload 7, 2) := by decide +kernel
theorem dX5_judgeProduct_160 : decode cX5_judgeProduct 160 = .ok (.aload_n 0, 1) := by decide +kernel
theorem dX5_judgeProduct_161 : decode cX5_judgeProduct 161 = .ok (.getfield 50, 3) := by decide +kernel
theorem dX5_judgeProduct_164 : decode cX5_judgeProduct 164 = .ok (.iload 7, 2) := by decide +kernel
theorem dX5_judgeProduct_166 : decode cX5_judgeProduct 166 = .ok (.iaload, 1) := by decide +kernel
theorem dX5_judgeProduct_167 : decode cX5_judgeProduct 167 = .ok (.invokevirtual 412, 3) := by decide +kernel
theorem dX5_judgeProduct_170 : decode cX5_judgeProduct 170 = .ok (.return_, 1) := by decide +kernel
abbrev cX5_judgeUse : ByteArray := prog_26_method_53_code
def yX5_judgeUse : MethodName := ⟨RX5, "judgeUse", "(II)V"⟩
theorem dX5_judgeUse_0 : decode cX5_judgeUse 0 = .ok (.aload_n 0, 1) := by decide +kernel
theorem dX5_judgeUse_1 : decode cX5_judgeUse 1 = .ok (.getfield 443, 3) := by decide +kernel
theorem dX5_judgeUse_4 : decode cX5_judgeUse 4 = .ok (.istore_n 3, 1) := by decide +kernel
theorem dX5_judgeUse_5 : decode cX5_judgeUse 5 = .ok (.iload_n 1, 1) := by decide +kernel
theorem dX5_judgeUse_6 : decode cX5_judgeUse 6 = .ok (.istore 4, 2) := by decide +kernel
theorem dX5_judgeUse_8 : decode cX5_judgeUse 8 = .ok (.aload_n 0, 1) := by decide +kernel
theorem dX5_judgeUse_9 : decode cX5_judgeUse 9 = .ok (.getfield 76, 3) := by decide +kernel
theorem dX5_judgeUse_12 : decode cX5_judgeUse 12 = .ok (.iload 4, 2) := by decide +kernel
theorem dX5_judgeUse_14 : decode cX5_judgeUse 14 = .ok (.iaload, 1) := by decide +kernel
theorem dX5_judgeUse_15 : decode cX5_judgeUse 15 = .ok (.bipush 7, 2) := by decide +kernel
theorem dX5_judgeUse_17 : decode cX5_judgeUse 17 = .ok (.if_icmp .ne 36, 3) := by decide +kernel
theorem dX5_judgeUse_20 : decode cX5_judgeUse 20 = .ok (.aload_n 0, 1) := by decide +kernel
theorem dX5_judgeUse_21 : decode cX5_judgeUse 21 = .ok (.getfield 134, 3) := by decide +kernel
theorem dX5_judgeUse_24 : decode cX5_judgeUse 24 = .ok (.aload_n 0, 1) := by decide +kernel
theorem dX5_judgeUse_25 : decode cX5_judgeUse 25 = .ok (.getfield 443, 3) := by decide +kernel
theorem dX5_judgeUse_28 : decode cX5_judgeUse 28 = .ok (.iload 4, 2) := by decide +kernel
theorem dX5_judgeUse_30 : decode cX5_judgeUse 30 = .ok (.iastore, 1) := by decide +kernel
theorem dX5_judgeUse_31 : decode cX5_judgeUse 31 = .ok (.aload_n 0, 1) := by decide +kernel
theorem dX5_judgeUse_32 : decode cX5_judgeUse 32 = .ok (.dup, 1) := by decide +kernel
theorem dX5_judgeUse_33 : decode cX5_judgeUse 33 = .ok (.getfield 443, 3) := by decide +kernel
theorem dX5_judgeUse_36 : decode cX5_judgeUse 36 = .ok (.iconst 1, 1) := by decide +kernel
theorem dX5_judgeUse_37 : decode cX5_judgeUse 37 = .ok (.iadd, 1) := by decide +kernel
theorem dX5_judgeUse_38 : decode cX5_judgeUse 38 = .ok (.putfield 443, 3) := by decide +kernel
theorem dX5_judgeUse_41 : decode cX5_judgeUse 41 = .ok (.aload_n 0, 1) := by decide +kernel
theorem dX5_judgeUse_42 : decode cX5_judgeUse 42 = .ok (.getfield 82, 3) := by decide +kernel
theorem dX5_judgeUse_45 : decode cX5_judgeUse 45 = .ok (.iload 4, 2) := by decide +kernel
theorem dX5_judgeUse_47 : decode cX5_judgeUse 47 = .ok (.iaload, 1) := by decide +kernel
theorem dX5_judgeUse_48 : decode cX5_judgeUse 48 = .ok (.istore 4, 2) := by decide +kernel
theorem dX5_judgeUse_50 : decode cX5_judgeUse 50 = .ok (.goto (-42), 3) := by decide +kernel
theorem dX5_judgeUse_53 : decode cX5_judgeUse 53 = .ok (.aload_n 0, 1) := by decide +kernel
theorem dX5_judgeUse_54 : decode cX5_judgeUse 54 = .ok (.iload 4, 2) := by decide +kernel
theorem dX5_judgeUse_56 : decode cX5_judgeUse 56 = .ok (.iload_n 2, 1) := by decide +kernel
theorem dX5_judgeUse_57 : decode cX5_judgeUse 57 = .ok (.invokevirtual 421, 3) := by decide +kernel
theorem dX5_judgeUse_60 : decode cX5_judgeUse 60 = .ok (.aload_n 0, 1) := by decide +kernel
theorem dX5_judgeUse_61 : decode cX5_judgeUse 61 = .ok (.getfield 443, 3) := by decide +kernel
theorem dX5_judgeUse_64 : decode cX5_judgeUse 64 = .ok (.iconst 1, 1) := by decide +kernel
theorem dX5_judgeUse_65 : decode cX5_judgeUse 65 = .ok (.isub, 1) := by decide +kernel
theorem dX5_judgeUse_66 : decode cX5_judgeUse 66 = .ok (.istore 5, 2) := by decide +kernel
theorem dX5_judgeUse_68 : decode cX5_judgeUse 68 = .ok (.aload_n 0, 1) := by decide +kernel
theorem dX5_judgeUse_69 : decode cX5_judgeUse 69 = .ok (.getfield 150, 3) := by decide +kernel
theorem dX5_judgeUse_72 : decode cX5_judgeUse 72 = .ok (.ifCond .ne 27, 3) := by decide +kernel
theorem dX5_judgeUse_75 : decode cX5_judgeUse 75 = .ok (.iload 5, 2) := by decide +kernel
theorem dX5_judgeUse_77 : decode cX5_judgeUse 77 = .ok (.iload_n 3, 1) := by decide +kernel
theorem dX5_judgeUse_78 : decode cX5_judgeUse 78 = .ok (.if_icmp .lt 21, 3) := by decide +kernel
theorem dX5_judgeUse_81 : decode cX5_judgeUse 81 = .ok (.aload_n 0, 1) := by decide +kernel
theorem dX5_judgeUse_82 : decode cX5_judgeUse 82 = .ok (.aload_n 0, 1) := by decide +kernel
theorem dX5_judgeUse_83 : decode cX5_judgeUse 83 = .ok (.getfield 134, 3) := by decide +kernel
theorem dX5_judgeUse_86 : decode cX5_judgeUse 86 = .ok (.iload 5, 2) := by decide +kernel
theorem dX5_judgeUse_88 : decode cX5_judgeUse 88 = .ok (.iaload, 1) := by decide +kernel
theorem dX5_judgeUse_89 : decode cX5_judgeUse 89 = .ok (.iload_n 2, 1) := by decide +kernel
theorem dX5_judgeUse_90 : decode cX5_judgeUse 90 = .ok (.invokevirtual 446, 3) := by decide +kernel
theorem dX5_judgeUse_93 : decode cX5_judgeUse 93 = .ok (.iinc 5 (-1), 3) := by decide +kernel
theorem dX5_judgeUse_96 : decode cX5_judgeUse 96 = .ok (.goto (-28), 3) := by decide +kernel
theorem dX5_judgeUse_99 : decode cX5_judgeUse 99 = .ok (.aload_n 0, 1) := by decide +kernel
theorem dX5_judgeUse_100 : decode cX5_judgeUse 100 = .ok (.iload_n 3, 1) := by decide +kernel
theorem dX5_judgeUse_101 : decode cX5_judgeUse 101 = .ok (.putfield 443, 3) := by decide +kernel
theorem dX5_judgeUse_104 : decode cX5_judgeUse 104 = .ok (.return_, 1) := by decide +kernel
abbrev cX5_applied : ByteArray := prog_26_method_54_code
def yX5_applied : MethodName := ⟨RX5, "applied", "(II)V"⟩
theorem dX5_applied_0 : decode cX5_applied 0 = .ok (.aload_n 0, 1) := by decide +kernel
theorem dX5_applied_1 : decode cX5_applied 1 = .ok (.getfield 403, 3) := by decide +kernel
theorem dX5_applied_4 : decode cX5_applied 4 = .ok (.istore_n 3, 1) := by decide +kernel
theorem dX5_applied_5 : decode cX5_applied 5 = .ok (.aload_n 0, 1) := by decide +kernel
theorem dX5_applied_6 : decode cX5_applied 6 = .ok (.getfield 76, 3) := by decide +kernel
theorem dX5_applied_9 : decode cX5_applied 9 = .ok (.iload_n 3, 1) := by decide +kernel
theorem dX5_applied_10 : decode cX5_applied 10 = .ok (.iaload, 1) := by decide +kernel
theorem dX5_applied_11 : decode cX5_applied 11 = .ok (.iconst 5, 1) := by decide +kernel
theorem dX5_applied_12 : decode cX5_applied 12 = .ok (.if_icmp .eq 21, 3) := by decide +kernel
theorem dX5_applied_15 : decode cX5_applied 15 = .ok (.aload_n 0, 1) := by decide +kernel
theorem dX5_applied_16 : decode cX5_applied 16 = .ok (.bipush 10, 2) := by decide +kernel
theorem dX5_applied_18 : decode cX5_applied 18 = .ok (.aload_n 0, 1) := by decide +kernel
theorem dX5_applied_19 : decode cX5_applied 19 = .ok (.getfield 88, 3) := by decide +kernel
theorem dX5_applied_22 : decode cX5_applied 22 = .ok (.aload_n 0, 1) := by decide +kernel
theorem dX5_applied_23 : decode cX5_applied 23 = .ok (.getfield 82, 3) := by decide +kernel
theorem dX5_applied_26 : decode cX5_applied 26 = .ok (.iload_n 1, 1) := by decide +kernel
theorem dX5_applied_27 : decode cX5_applied 27 = .ok (.iaload, 1) := by decide +kernel
theorem dX5_applied_28 : decode cX5_applied 28 = .ok (.iaload, 1) := by decide +kernel
theorem dX5_applied_29 : decode cX5_applied 29 = .ok (.invokevirtual 218, 3) := by decide +kernel
theorem dX5_applied_32 : decode cX5_applied 32 = .ok (.return_, 1) := by decide +kernel
theorem dX5_applied_33 : decode cX5_applied 33 = .ok (.aload_n 0, 1) := by decide +kernel
theorem dX5_applied_34 : decode cX5_applied 34 = .ok (.getfield 85, 3) := by decide +kernel
theorem dX5_applied_37 : decode cX5_applied 37 = .ok (.iload_n 1, 1) := by decide +kernel
theorem dX5_applied_38 : decode cX5_applied 38 = .ok (.iaload, 1) := by decide +kernel
theorem dX5_applied_39 : decode cX5_applied 39 = .ok (.istore 4, 2) := by decide +kernel
theorem dX5_applied_41 : decode cX5_applied 41 = .ok (.aload_n 0, 1) := by decide +kernel
theorem dX5_applied_42 : decode cX5_applied 42 = .ok (.iload 4, 2) := by decide +kernel
theorem dX5_applied_44 : decode cX5_applied 44 = .ok (.iload_n 2, 1) := by decide +kernel
theorem dX5_applied_45 : decode cX5_applied 45 = .ok (.invokevirtual 421, 3) := by decide +kernel
theorem dX5_applied_48 : decode cX5_applied 48 = .ok (.aload_n 0, 1) := by decide +kernel
theorem dX5_applied_49 : decode cX5_applied 49 = .ok (.getfield 150, 3) := by decide +kernel
theorem dX5_applied_52 : decode cX5_applied 52 = .ok (.ifCond .eq 4, 3) := by decide +kernel
theorem dX5_applied_55 : decode cX5_applied 55 = .ok (.return_, 1) := by decide +kernel
theorem dX5_applied_56 : decode cX5_applied 56 = .ok (.aload_n 0, 1) := by decide +kernel
theorem dX5_applied_57 : decode cX5_applied 57 = .ok (.aload_n 0, 1) := by decide +kernel
theorem dX5_applied_58 : decode cX5_applied 58 = .ok (.getfield 82, 3) := by decide +kernel
theorem dX5_applied_61 : decode cX5_applied 61 = .ok (.iload_n 3, 1) := by decide +kernel
theorem dX5_applied_62 : decode cX5_applied 62 = .ok (.iaload, 1) := by decide +kernel
theorem dX5_applied_63 : decode cX5_applied 63 = .ok (.iconst 0, 1) := by decide +kernel
theorem dX5_applied_64 : decode cX5_applied 64 = .ok (.aload_n 0, 1) := by decide +kernel
theorem dX5_applied_65 : decode cX5_applied 65 = .ok (.getfield 403, 3) := by decide +kernel
theorem dX5_applied_68 : decode cX5_applied 68 = .ok (.iconst 0, 1) := by decide +kernel
theorem dX5_applied_69 : decode cX5_applied 69 = .ok (.iconst 0, 1) := by decide +kernel
theorem dX5_applied_70 : decode cX5_applied 70 = .ok (.invokevirtual 366, 3) := by decide +kernel
theorem dX5_applied_73 : decode cX5_applied 73 = .ok (.istore 5, 2) := by decide +kernel
theorem dX5_applied_75 : decode cX5_applied 75 = .ok (.iload 5, 2) := by decide +kernel
theorem dX5_applied_77 : decode cX5_applied 77 = .ok (.ifCond .ne 16, 3) := by decide +kernel
theorem dX5_applied_80 : decode cX5_applied 80 = .ok (.aload_n 0, 1) := by decide +kernel
theorem dX5_applied_81 : decode cX5_applied 81 = .ok (.bipush 11, 2) := by decide +kernel
theorem dX5_applied_83 : decode cX5_applied 83 = .ok (.aload_n 0, 1) := by decide +kernel
theorem dX5_applied_84 : decode cX5_applied 84 = .ok (.getfield 88, 3) := by decide +kernel
theorem dX5_applied_87 : decode cX5_applied 87 = .ok (.iload 4, 2) := by decide +kernel
theorem dX5_applied_89 : decode cX5_applied 89 = .ok (.iaload, 1) := by decide +kernel
theorem dX5_applied_90 : decode cX5_applied 90 = .ok (.invokevirtual 218, 3) := by decide +kernel
theorem dX5_applied_93 : decode cX5_applied 93 = .ok (.aload_n 0, 1) := by decide +kernel
theorem dX5_applied_94 : decode cX5_applied 94 = .ok (.getfield 150, 3) := by decide +kernel
theorem dX5_applied_97 : decode cX5_applied 97 = .ok (.ifCond .ne 31, 3) := by decide +kernel
theorem dX5_applied_100 : decode cX5_applied 100 = .ok (.aload_n 0, 1) := by decide +kernel
theorem dX5_applied_101 : decode cX5_applied 101 = .ok (.aload_n 0, 1) := by decide +kernel
theorem dX5_applied_102 : decode cX5_applied 102 = .ok (.getfield 85, 3) := by decide +kernel
theorem dX5_applied_105 : decode cX5_applied 105 = .ok (.iload_n 3, 1) := by decide +kernel
theorem dX5_applied_106 : decode cX5_applied 106 = .ok (.iaload, 1) := by decide +kernel
theorem dX5_applied_107 : decode cX5_applied 107 = .ok (.aload_n 0, 1) := by decide +kernel
theorem dX5_applied_108 : decode cX5_applied 108 = .ok (.iconst 0, 1) := by decide +kernel
theorem dX5_applied_109 : decode cX5_applied 109 = .ok (.aload_n 0, 1) := by decide +kernel
theorem dX5_applied_110 : decode cX5_applied 110 = .ok (.getfield 100, 3) := by decide +kernel
theorem dX5_applied_113 : decode cX5_applied 113 = .ok (.iload_n 3, 1) := by decide +kernel
theorem dX5_applied_114 : decode cX5_applied 114 = .ok (.iaload, 1) := by decide +kernel
theorem dX5_applied_115 : decode cX5_applied 115 = .ok (.iload 4, 2) := by decide +kernel
theorem dX5_applied_117 : decode cX5_applied 117 = .ok (.iload_n 2, 1) := by decide +kernel
theorem dX5_applied_118 : decode cX5_applied 118 = .ok (.invokevirtual 342, 3) := by decide +kernel
theorem dX5_applied_121 : decode cX5_applied 121 = .ok (.iconst 0, 1) := by decide +kernel
theorem dX5_applied_122 : decode cX5_applied 122 = .ok (.invokevirtual 396, 3) := by decide +kernel
theorem dX5_applied_125 : decode cX5_applied 125 = .ok (.goto 4, 3) := by decide +kernel
theorem dX5_applied_128 : decode cX5_applied 128 = .ok (.iconst 0, 1) := by decide +kernel
theorem dX5_applied_129 : decode cX5_applied 129 = .ok (.istore 6, 2) := by decide +kernel
theorem dX5_applied_131 : decode cX5_applied 131 = .ok (.aload_n 0, 1) := by decide +kernel
theorem dX5_applied_132 : decode cX5_applied 132 = .ok (.iload 6, 2) := by decide +kernel
theorem dX5_applied_134 : decode cX5_applied 134 = .ok (.aload_n 0, 1) := by decide +kernel
theorem dX5_applied_135 : decode cX5_applied 135 = .ok (.getfield 97, 3) := by decide +kernel
theorem dX5_applied_138 : decode cX5_applied 138 = .ok (.iload_n 3, 1) := by decide +kernel
theorem dX5_applied_139 : decode cX5_applied 139 = .ok (.iaload, 1) := by decide +kernel
theorem dX5_applied_140 : decode cX5_applied 140 = .ok (.invokevirtual 412, 3) := by decide +kernel
theorem dX5_applied_143 : decode cX5_applied 143 = .ok (.return_, 1) := by decide +kernel
abbrev cX5_compare : ByteArray := prog_26_method_36_code
def yX5_compare : MethodName := ⟨RX5, "compare", "(IIIII)Z"⟩
theorem dX5_compare_0 : decode cX5_compare 0 = .ok (.aload_n 0, 1) := by decide +kernel
theorem dX5_compare_1 : decode cX5_compare 1 = .ok (.iload 5, 2) := by decide +kernel
theorem dX5_compare_3 : decode cX5_compare 3 = .ok (.invokevirtual 354, 3) := by decide +kernel
theorem dX5_compare_6 : decode cX5_compare 6 = .ok (.ifCond .ne 5, 3) := by decide +kernel
theorem dX5_compare_9 : decode cX5_compare 9 = .ok (.iconst 0, 1) := by decide +kernel
theorem dX5_compare_10 : decode cX5_compare 10 = .ok (.ireturn, 1) := by decide +kernel
theorem dX5_compare_11 : decode cX5_compare 11 = .ok (.aload_n 0, 1) := by decide +kernel
theorem dX5_compare_12 : decode cX5_compare 12 = .ok (.getfield 324, 3) := by decide +kernel
theorem dX5_compare_15 : decode cX5_compare 15 = .ok (.istore 6, 2) := by decide +kernel
theorem dX5_compare_17 : decode cX5_compare 17 = .ok (.aload_n 0, 1) := by decide +kernel
theorem dX5_compare_18 : decode cX5_compare 18 = .ok (.iload_n 1, 1) := by decide +kernel
theorem dX5_compare_19 : decode cX5_compare 19 = .ok (.iload_n 2, 1) := by decide +kernel
theorem dX5_compare_20 : decode cX5_compare 20 = .ok (.invokevirtual 357, 3) := by decide +kernel
theorem dX5_compare_23 : decode cX5_compare 23 = .ok (.aload_n 0, 1) := by decide +kernel
theorem dX5_compare_24 : decode cX5_compare 24 = .ok (.getfield 348, 3) := by decide +kernel
theorem dX5_compare_27 : decode cX5_compare 27 = .ok (.istore 7, 2) := by decide +kernel
theorem dX5_compare_29 : decode cX5_compare 29 = .ok (.aload_n 0, 1) := by decide +kernel
theorem dX5_compare_30 : decode cX5_compare 30 = .ok (.getfield 351, 3) := by decide +kernel
theorem dX5_compare_33 : decode cX5_compare 33 = .ok (.istore 8, 2) := by decide +kernel
theorem dX5_compare_35 : decode cX5_compare 35 = .ok (.aload_n 0, 1) := by decide +kernel
theorem dX5_compare_36 : decode cX5_compare 36 = .ok (.getfield 324, 3) := by decide +kernel
theorem dX5_compare_39 : decode cX5_compare 39 = .ok (.istore 9, 2) := by decide +kernel
theorem dX5_compare_41 : decode cX5_compare 41 = .ok (.aload_n 0, 1) := by decide +kernel
theorem dX5_compare_42 : decode cX5_compare 42 = .ok (.iload_n 3, 1) := by decide +kernel
theorem dX5_compare_43 : decode cX5_compare 43 = .ok (.iload 4, 2) := by decide +kernel
theorem dX5_compare_45 : decode cX5_compare 45 = .ok (.invokevirtual 357, 3) := by decide +kernel
theorem dX5_compare_48 : decode cX5_compare 48 = .ok (.aload_n 0, 1) := by decide +kernel
theorem dX5_compare_49 : decode cX5_compare 49 = .ok (.getfield 348, 3) := by decide +kernel
theorem dX5_compare_52 : decode cX5_compare 52 = .ok (.istore 10, 2) := by decide +kernel
theorem dX5_compare_54 : decode cX5_compare 54 = .ok (.aload_n 0, 1) := by decide +kernel
theorem dX5_compare_55 : decode cX5_compare 55 = .ok (.getfield 351, 3) := by decide +kernel
theorem dX5_compare_58 : decode cX5_compare 58 = .ok (.istore 11, 2) := by decide +kernel
theorem dX5_compare_60 : decode cX5_compare 60 = .ok (.aload_n 0, 1) := by decide +kernel
theorem dX5_compare_61 : decode cX5_compare 61 = .ok (.getfield 150, 3) := by decide +kernel
theorem dX5_compare_64 : decode cX5_compare 64 = .ok (.ifCond .ne 28, 3) := by decide +kernel
theorem dX5_compare_67 : decode cX5_compare 67 = .ok (.aload_n 0, 1) := by decide +kernel
theorem dX5_compare_68 : decode cX5_compare 68 = .ok (.iload 7, 2) := by decide +kernel
theorem dX5_compare_70 : decode cX5_compare 70 = .ok (.iload 8, 2) := by decide +kernel
theorem dX5_compare_72 : decode cX5_compare 72 = .ok (.iload 9, 2) := by decide +kernel
theorem dX5_compare_74 : decode cX5_compare 74 = .ok (.iload 6, 2) := by decide +kernel
theorem dX5_compare_76 : decode cX5_compare 76 = .ok (.iload 10, 2) := by decide +kernel
theorem dX5_compare_78 : decode cX5_compare 78 = .ok (.iload 11, 2) := by decide +kernel
theorem dX5_compare_80 : decode cX5_compare 80 = .ok (.iload 5, 2) := by decide +kernel
theorem dX5_compare_82 : decode cX5_compare 82 = .ok (.invokevirtual 359, 3) := by decide +kernel
theorem dX5_compare_85 : decode cX5_compare 85 = .ok (.ifCond .eq 7, 3) := by decide +kernel
theorem dX5_compare_88 : decode cX5_compare 88 = .ok (.iconst 1, 1) := by decide +kernel
theorem dX5_compare_89 : decode cX5_compare 89 = .ok (.goto 4, 3) := by decide +kernel
theorem dX5_compare_92 : decode cX5_compare 92 = .ok (.iconst 0, 1) := by decide +kernel
theorem dX5_compare_93 : decode cX5_compare 93 = .ok (.istore 12, 2) := by decide +kernel
theorem dX5_compare_95 : decode cX5_compare 95 = .ok (.aload_n 0, 1) := by decide +kernel
theorem dX5_compare_96 : decode cX5_compare 96 = .ok (.iload 6, 2) := by decide +kernel
theorem dX5_compare_98 : decode cX5_compare 98 = .ok (.putfield 324, 3) := by decide +kernel
theorem dX5_compare_101 : decode cX5_compare 101 = .ok (.iload 12, 2) := by decide +kernel
theorem dX5_compare_103 : decode cX5_compare 103 = .ok (.ireturn, 1) := by decide +kernel
abbrev cX5_alike : ByteArray := prog_26_method_37_code
def yX5_alike : MethodName := ⟨RX5, "alike", "(IIIIIII)Z"⟩
theorem dX5_alike_0 : decode cX5_alike 0 = .ok (.aload_n 0, 1) := by decide +kernel
theorem dX5_alike_1 : decode cX5_alike 1 = .ok (.iload_n 1, 1) := by decide +kernel
theorem dX5_alike_2 : decode cX5_alike 2 = .ok (.invokevirtual 363, 3) := by decide +kernel
theorem dX5_alike_5 : decode cX5_alike 5 = .ok (.istore 8, 2) := by decide +kernel
theorem dX5_alike_7 : decode cX5_alike 7 = .ok (.aload_n 0, 1) := by decide +kernel
theorem dX5_alike_8 : decode cX5_alike 8 = .ok (.iload 5, 2) := by decide +kernel
theorem dX5_alike_10 : decode cX5_alike 10 = .ok (.invokevirtual 363, 3) := by decide +kernel
theorem dX5_alike_13 : decode cX5_alike 13 = .ok (.istore 9, 2) := by decide +kernel
theorem dX5_alike_15 : decode cX5_alike 15 = .ok (.iload 8, 2) := by decide +kernel
theorem dX5_alike_17 : decode cX5_alike 17 = .ok (.iload 9, 2) := by decide +kernel
theorem dX5_alike_19 : decode cX5_alike 19 = .ok (.if_icmp .ne 112, 3) := by decide +kernel
theorem dX5_alike_22 : decode cX5_alike 22 = .ok (.iload 8, 2) := by decide +kernel
theorem dX5_alike_24 : decode cX5_alike 24 = .ok (.iconst 4, 1) := by decide +kernel
theorem dX5_alike_25 : decode cX5_alike 25 = .ok (.if_icmp .eq 9, 3) := by decide +kernel
theorem dX5_alike_28 : decode cX5_alike 28 = .ok (.iload 8, 2) := by decide +kernel
theorem dX5_alike_30 : decode cX5_alike 30 = .ok (.iconst 5, 1) := by decide +kernel
theorem dX5_alike_31 : decode cX5_alike 31 = .ok (.if_icmp .ne 100, 3) := by decide +kernel
theorem dX5_alike_34 : decode cX5_alike 34 = .ok (.aload_n 0, 1) := by decide +kernel
theorem dX5_alike_35 : decode cX5_alike 35 = .ok (.aload_n 0, 1) := by decide +kernel
theorem dX5_alike_36 : decode cX5_alike 36 = .ok (.getfield 82, 3) := by decide +kernel
theorem dX5_alike_39 : decode cX5_alike 39 = .ok (.iload_n 1, 1) := by decide +kernel
theorem dX5_alike_40 : decode cX5_alike 40 = .ok (.iaload, 1) := by decide +kernel
theorem dX5_alike_41 : decode cX5_alike 41 = .ok (.iload_n 2, 1) := by decide +kernel
theorem dX5_alike_42 : decode cX5_alike 42 = .ok (.aload_n 0, 1) := by decide +kernel
theorem dX5_alike_43 : decode cX5_alike 43 = .ok (.getfield 82, 3) := by decide +kernel
theorem dX5_alike_46 : decode cX5_alike 46 = .ok (.iload 5, 2) := by decide +kernel
theorem dX5_alike_48 : decode cX5_alike 48 = .ok (.iaload, 1) := by decide +kernel
theorem dX5_alike_49 : decode cX5_alike 49 = .ok (.iload 6, 2) := by decide +kernel
theorem dX5_alike_51 : decode cX5_alike 51 = .ok (.iload 7, 2) := by decide +kernel
theorem dX5_alike_53 : decode cX5_alike 53 = .ok (.iconst 1, 1) := by decide +kernel
theorem dX5_alike_54 : decode cX5_alike 54 = .ok (.iadd, 1) := by decide +kernel
theorem dX5_alike_55 : decode cX5_alike 55 = .ok (.invokevirtual 366, 3) := by decide +kernel
theorem dX5_alike_58 : decode cX5_alike 58 = .ok (.ifCond .ne 5, 3) := by decide +kernel
theorem dX5_alike_61 : decode cX5_alike 61 = .ok (.iconst 0, 1) := by decide +kernel
theorem dX5_alike_62 : decode cX5_alike 62 = .ok (.ireturn, 1) := by decide +kernel
theorem dX5_alike_63 : decode cX5_alike 63 = .ok (.ldc_w 370, 3) := by decide +kernel
theorem dX5_alike_66 : decode cX5_alike 66 = .ok (.aload_n 0, 1) := by decide +kernel
theorem dX5_alike_67 : decode cX5_alike 67 = .ok (.getfield 371, 3) := by decide +kernel
theorem dX5_alike_70 : decode cX5_alike 70 = .ok (.isub, 1) := by decide +kernel
theorem dX5_alike_71 : decode cX5_alike 71 = .ok (.istore 10, 2) := by decide +kernel
theorem dX5_alike_73 : decode cX5_alike 73 = .ok (.aload_n 0, 1) := by decide +kernel
theorem dX5_alike_74 : decode cX5_alike 74 = .ok (.dup, 1) := by decide +kernel
theorem dX5_alike_75 : decode cX5_alike 75 = .ok (.getfield 371, 3) := by decide +kernel
theorem dX5_alike_78 : decode cX5_alike 78 = .ok (.iconst 1, 1) := by decide +kernel
theorem dX5_alike_79 : decode cX5_alike 79 = .ok (.iadd, 1) := by decide +kernel
theorem dX5_alike_80 : decode cX5_alike 80 = .ok (.putfield 371, 3) := by decide +kernel
theorem dX5_alike_83 : decode cX5_alike 83 = .ok (.aload_n 0, 1) := by decide +kernel
theorem dX5_alike_84 : decode cX5_alike 84 = .ok (.iload_n 1, 1) := by decide +kernel
theorem dX5_alike_85 : decode cX5_alike 85 = .ok (.iload_n 2, 1) := by decide +kernel
theorem dX5_alike_86 : decode cX5_alike 86 = .ok (.iload 10, 2) := by decide +kernel
theorem dX5_alike_88 : decode cX5_alike 88 = .ok (.invokevirtual 374, 3) := by decide +kernel
theorem dX5_alike_91 : decode cX5_alike 91 = .ok (.istore 11, 2) := by decide +kernel
theorem dX5_alike_93 : decode cX5_alike 93 = .ok (.aload_n 0, 1) := by decide +kernel
theorem dX5_alike_94 : decode cX5_alike 94 = .ok (.iload 5, 2) := by decide +kernel
theorem dX5_alike_96 : decode cX5_alike 96 = .ok (.iload 6, 2) := by decide +kernel
theorem dX5_alike_98 : decode cX5_alike 98 = .ok (.iload 10, 2) := by decide +kernel
theorem dX5_alike_100 : decode cX5_alike 100 = .ok (.invokevirtual 374, 3) := by decide +kernel
theorem dX5_alike_103 : decode cX5_alike 103 = .ok (.istore 12, 2) := by decide +kernel
theorem dX5_alike_105 : decode cX5_alike 105 = .ok (.aload_n 0, 1) := by decide +kernel
theorem dX5_alike_106 : decode cX5_alike 106 = .ok (.aload_n 0, 1) := by decide +kernel
theorem dX5_alike_107 : decode cX5_alike 107 = .ok (.getfield 85, 3) := by decide +kernel
theorem dX5_alike_110 : decode cX5_alike 110 = .ok (.iload_n 1, 1) := by decide +kernel
theorem dX5_alike_111 : decode cX5_alike 111 = .ok (.iaload, 1) := by decide +kernel
theorem dX5_alike_112 : decode cX5_alike 112 = .ok (.iload 11, 2) := by decide +kernel
theorem dX5_alike_114 : decode cX5_alike 114 = .ok (.aload_n 0, 1) := by decide +kernel
theorem dX5_alike_115 : decode cX5_alike 115 = .ok (.getfield 85, 3) := by decide +kernel
theorem dX5_alike_118 : decode cX5_alike 118 = .ok (.iload 5, 2) := by decide +kernel
theorem dX5_alike_120 : decode cX5_alike 120 = .ok (.iaload, 1) := by decide +kernel
theorem dX5_alike_121 : decode cX5_alike 121 = .ok (.iload 12, 2) := by decide +kernel
theorem dX5_alike_123 : decode cX5_alike 123 = .ok (.iload 7, 2) := by decide +kernel
theorem dX5_alike_125 : decode cX5_alike 125 = .ok (.iconst 1, 1) := by decide +kernel
theorem dX5_alike_126 : decode cX5_alike 126 = .ok (.iadd, 1) := by decide +kernel
theorem dX5_alike_127 : decode cX5_alike 127 = .ok (.invokevirtual 366, 3) := by decide +kernel
theorem dX5_alike_130 : decode cX5_alike 130 = .ok (.ireturn, 1) := by decide +kernel
theorem dX5_alike_131 : decode cX5_alike 131 = .ok (.iload_n 3, 1) := by decide +kernel
theorem dX5_alike_132 : decode cX5_alike 132 = .ok (.iload 4, 2) := by decide +kernel
theorem dX5_alike_134 : decode cX5_alike 134 = .ok (.isub, 1) := by decide +kernel
theorem dX5_alike_135 : decode cX5_alike 135 = .ok (.istore 10, 2) := by decide +kernel
theorem dX5_alike_137 : decode cX5_alike 137 = .ok (.iload 8, 2) := by decide +kernel
theorem dX5_alike_139 : decode cX5_alike 139 = .ok (.iload 9, 2) := by decide +kernel
theorem dX5_alike_141 : decode cX5_alike 141 = .ok (.if_icmp .ne 67, 3) := by decide +kernel
theorem dX5_alike_144 : decode cX5_alike 144 = .ok (.iload 10, 2) := by decide +kernel
theorem dX5_alike_146 : decode cX5_alike 146 = .ok (.aload_n 0, 1) := by decide +kernel
theorem dX5_alike_147 : decode cX5_alike 147 = .ok (.getfield 324, 3) := by decide +kernel
theorem dX5_alike_150 : decode cX5_alike 150 = .ok (.iload_n 3, 1) := by decide +kernel
theorem dX5_alike_151 : decode cX5_alike 151 = .ok (.isub, 1) := by decide +kernel
theorem dX5_alike_152 : decode cX5_alike 152 = .ok (.if_icmp .ne 56, 3) := by decide +kernel
theorem dX5_alike_155 : decode cX5_alike 155 = .ok (.iload 8, 2) := by decide +kernel
theorem dX5_alike_157 : decode cX5_alike 157 = .ok (.iconst (-1), 1) := by decide +kernel
theorem dX5_alike_158 : decode cX5_alike 158 = .ok (.if_icmp .ne 12, 3) := by decide +kernel
theorem dX5_alike_161 : decode cX5_alike 161 = .ok (.iload_n 1, 1) := by decide +kernel
theorem dX5_alike_162 : decode cX5_alike 162 = .ok (.iload 5, 2) := by decide +kernel
theorem dX5_alike_164 : decode cX5_alike 164 = .ok (.if_icmp .ne 44, 3) := by decide +kernel
theorem dX5_alike_167 : decode cX5_alike 167 = .ok (.goto 37, 3) := by decide +kernel
theorem dX5_alike_170 : decode cX5_alike 170 = .ok (.iload 8, 2) := by decide +kernel
theorem dX5_alike_172 : decode cX5_alike 172 = .ok (.iconst 1, 1) := by decide +kernel
theorem dX5_alike_173 : decode cX5_alike 173 = .ok (.if_icmp .eq 15, 3) := by decide +kernel
theorem dX5_alike_176 : decode cX5_alike 176 = .ok (.iload 8, 2) := by decide +kernel
theorem dX5_alike_178 : decode cX5_alike 178 = .ok (.iconst 2, 1) := by decide +kernel
theorem dX5_alike_179 : decode cX5_alike 179 = .ok (.if_icmp .eq 9, 3) := by decide +kernel
theorem dX5_alike_182 : decode cX5_alike 182 = .ok (.iload 8, 2) := by decide +kernel
theorem dX5_alike_184 : decode cX5_alike 184 = .ok (.iconst 3, 1) := by decide +kernel
theorem dX5_alike_185 : decode cX5_alike 185 = .ok (.if_icmp .ne 23, 3) := by decide +kernel
theorem dX5_alike_188 : decode cX5_alike 188 = .ok (.aload_n 0, 1) := by decide +kernel
theorem dX5_alike_189 : decode cX5_alike 189 = .ok (.getfield 79, 3) := by decide +kernel
theorem dX5_alike_192 : decode cX5_alike 192 = .ok (.iload_n 1, 1) := by decide +kernel
theorem dX5_alike_193 : decode cX5_alike 193 = .ok (.iaload, 1) := by decide +kernel
theorem dX5_alike_194 : decode cX5_alike 194 = .ok (.aload_n 0, 1) := by decide +kernel
theorem dX5_alike_195 : decode cX5_alike 195 = .ok (.getfield 79, 3) := by decide +kernel
theorem dX5_alike_198 : decode cX5_alike 198 = .ok (.iload 5, 2) := by decide +kernel
theorem dX5_alike_200 : decode cX5_alike 200 = .ok (.iaload, 1) := by decide +kernel
theorem dX5_alike_201 : decode cX5_alike 201 = .ok (.if_icmp .ne 7, 3) := by decide +kernel
theorem dX5_alike_204 : decode cX5_alike 204 = .ok (.iconst 1, 1) := by decide +kernel
theorem dX5_alike_205 : decode cX5_alike 205 = .ok (.goto 4, 3) := by decide +kernel
theorem dX5_alike_208 : decode cX5_alike 208 = .ok (.iconst 0, 1) := by decide +kernel
theorem dX5_alike_209 : decode cX5_alike 209 = .ok (.istore 11, 2) := by decide +kernel
theorem dX5_alike_211 : decode cX5_alike 211 = .ok (.aload_n 0, 1) := by decide +kernel
theorem dX5_alike_212 : decode cX5_alike 212 = .ok (.getfield 324, 3) := by decide +kernel
theorem dX5_alike_215 : decode cX5_alike 215 = .ok (.istore 12, 2) := by decide +kernel
theorem dX5_alike_217 : decode cX5_alike 217 = .ok (.iconst 1, 1) := by decide +kernel
theorem dX5_alike_218 : decode cX5_alike 218 = .ok (.istore 13, 2) := by decide +kernel
theorem dX5_alike_220 : decode cX5_alike 220 = .ok (.iload 11, 2) := by decide +kernel
theorem dX5_alike_222 : decode cX5_alike 222 = .ok (.ifCond .eq 64, 3) := by decide +kernel
theorem dX5_alike_225 : decode cX5_alike 225 = .ok (.iload 13, 2) := by decide +kernel
theorem dX5_alike_227 : decode cX5_alike 227 = .ok (.iload 10, 2) := by decide +kernel
theorem dX5_alike_229 : decode cX5_alike 229 = .ok (.if_icmp .gt 57, 3) := by decide +kernel
theorem dX5_alike_232 : decode cX5_alike 232 = .ok (.aload_n 0, 1) := by decide +kernel
theorem dX5_alike_233 : decode cX5_alike 233 = .ok (.aload_n 0, 1) := by decide +kernel
theorem dX5_alike_234 : decode cX5_alike 234 = .ok (.getfield 128, 3) := by decide +kernel
theorem dX5_alike_237 : decode cX5_alike 237 = .ok (.iload_n 3, 1) := by decide +kernel
theorem dX5_alike_238 : decode cX5_alike 238 = .ok (.iload 13, 2) := by decide +kernel
theorem dX5_alike_240 : decode cX5_alike 240 = .ok (.isub, 1) := by decide +kernel
theorem dX5_alike_241 : decode cX5_alike 241 = .ok (.iaload, 1) := by decide +kernel
theorem dX5_alike_242 : decode cX5_alike 242 = .ok (.aload_n 0, 1) := by decide +kernel
theorem dX5_alike_243 : decode cX5_alike 243 = .ok (.getfield 131, 3) := by decide +kernel
theorem dX5_alike_246 : decode cX5_alike 246 = .ok (.iload_n 3, 1) := by decide +kernel
theorem dX5_alike_247 : decode cX5_alike 247 = .ok (.iload 13, 2) := by decide +kernel
theorem dX5_alike_249 : decode cX5_alike 249 = .ok (.isub, 1) := by decide +kernel
theorem dX5_alike_250 : decode cX5_alike 250 = .ok (.iaload, 1) := by decide +kernel
theorem dX5_alike_251 : decode cX5_alike 251 = .ok (.aload_n 0, 1) := by decide +kernel
theorem dX5_alike_252 : decode cX5_alike 252 = .ok (.getfield 128, 3) := by decide +kernel
theorem dX5_alike_255 : decode cX5_alike 255 = .ok (.iload 12, 2) := by decide +kernel
theorem dX5_alike_257 : decode cX5_alike 257 = .ok (.iload 13, 2) := by decide +kernel
theorem dX5_alike_259 : decode cX5_alike 259 = .ok (.isub, 1) := by decide +kernel
theorem dX5_alike_260 : decode cX5_alike 260 = .ok (.iaload, 1) := by decide +kernel
theorem dX5_alike_261 : decode cX5_alike 261 = .ok (.aload_n 0, 1) := by decide +kernel
theorem dX5_alike_262 : decode cX5_alike 262 = .ok (.getfield 131, 3) := by decide +kernel
theorem dX5_alike_265 : decode cX5_alike 265 = .ok (.iload 12, 2) := by decide +kernel
theorem dX5_alike_267 : decode cX5_alike 267 = .ok (.iload 13, 2) := by decide +kernel
theorem dX5_alike_269 : decode cX5_alike 269 = .ok (.isub, 1) := by decide +kernel
theorem dX5_alike_270 : decode cX5_alike 270 = .ok (.iaload, 1) := by decide +kernel
theorem dX5_alike_271 : decode cX5_alike 271 = .ok (.iload 7, 2) := by decide +kernel
theorem dX5_alike_273 : decode cX5_alike 273 = .ok (.iconst 1, 1) := by decide +kernel
theorem dX5_alike_274 : decode cX5_alike 274 = .ok (.iadd, 1) := by decide +kernel
theorem dX5_alike_275 : decode cX5_alike 275 = .ok (.invokevirtual 366, 3) := by decide +kernel
theorem dX5_alike_278 : decode cX5_alike 278 = .ok (.istore 11, 2) := by decide +kernel
theorem dX5_alike_280 : decode cX5_alike 280 = .ok (.iinc 13 1, 3) := by decide +kernel
theorem dX5_alike_283 : decode cX5_alike 283 = .ok (.goto (-63), 3) := by decide +kernel
theorem dX5_alike_286 : decode cX5_alike 286 = .ok (.iload 11, 2) := by decide +kernel
theorem dX5_alike_288 : decode cX5_alike 288 = .ok (.ireturn, 1) := by decide +kernel
abbrev cX5_judgeName : ByteArray := prog_26_method_47_code
def yX5_judgeName : MethodName := ⟨RX5, "judgeName", "(I)V"⟩
theorem dX5_judgeName_0 : decode cX5_judgeName 0 = .ok (.iconst (-1), 1) := by decide +kernel
theorem dX5_judgeName_1 : decode cX5_judgeName 1 = .ok (.istore_n 2, 1) := by decide +kernel
theorem dX5_judgeName_2 : decode cX5_judgeName 2 = .ok (.iconst 0, 1) := by decide +kernel
theorem dX5_judgeName_3 : decode cX5_judgeName 3 = .ok (.istore_n 3, 1) := by decide +kernel
theorem dX5_judgeName_4 : decode cX5_judgeName 4 = .ok (.iload_n 3, 1) := by decide +kernel
theorem dX5_judgeName_5 : decode cX5_judgeName 5 = .ok (.aload_n 0, 1) := by decide +kernel
theorem dX5_judgeName_6 : decode cX5_judgeName 6 = .ok (.getfield 409, 3) := by decide +kernel
theorem dX5_judgeName_9 : decode cX5_judgeName 9 = .ok (.if_icmp .ge 121, 3) := by decide +kernel
theorem dX5_judgeName_12 : decode cX5_judgeName 12 = .ok (.aload_n 0, 1) := by decide +kernel
theorem dX5_judgeName_13 : decode cX5_judgeName 13 = .ok (.getfield 79, 3) := by decide +kernel
theorem dX5_judgeName_16 : decode cX5_judgeName 16 = .ok (.aload_n 0, 1) := by decide +kernel
theorem dX5_judgeName_17 : decode cX5_judgeName 17 = .ok (.getfield 109, 3) := by decide +kernel
theorem dX5_judgeName_20 : decode cX5_judgeName 20 = .ok (.iload_n 3, 1) := by decide +kernel
theorem dX5_judgeName_21 : decode cX5_judgeName 21 = .ok (.iaload, 1) := by decide +kernel
theorem dX5_judgeName_22 : decode cX5_judgeName 22 = .ok (.iaload, 1) := by decide +kernel
theorem dX5_judgeName_23 : decode cX5_judgeName 23 = .ok (.istore 4, 2) := by decide +kernel
theorem dX5_judgeName_25 : decode cX5_judgeName 25 = .ok (.aload_n 0, 1) := by decide +kernel
theorem dX5_judgeName_26 : decode cX5_judgeName 26 = .ok (.getfield 82, 3) := by decide +kernel
theorem dX5_judgeName_29 : decode cX5_judgeName 29 = .ok (.iload_n 1, 1) := by decide +kernel
theorem dX5_judgeName_30 : decode cX5_judgeName 30 = .ok (.iaload, 1) := by decide +kernel
theorem dX5_judgeName_31 : decode cX5_judgeName 31 = .ok (.aload_n 0, 1) := by decide +kernel
theorem dX5_judgeName_32 : decode cX5_judgeName 32 = .ok (.getfield 82, 3) := by decide +kernel
theorem dX5_judgeName_35 : decode cX5_judgeName 35 = .ok (.iload 4, 2) := by decide +kernel
theorem dX5_judgeName_37 : decode cX5_judgeName 37 = .ok (.iaload, 1) := by decide +kernel
theorem dX5_judgeName_38 : decode cX5_judgeName 38 = .ok (.if_icmp .ne 7, 3) := by decide +kernel
theorem dX5_judgeName_41 : decode cX5_judgeName 41 = .ok (.iconst 1, 1) := by decide +kernel
theorem dX5_judgeName_42 : decode cX5_judgeName 42 = .ok (.goto 4, 3) := by decide +kernel
theorem dX5_judgeName_45 : decode cX5_judgeName 45 = .ok (.iconst 0, 1) := by decide +kernel
theorem dX5_judgeName_46 : decode cX5_judgeName 46 = .ok (.istore 5, 2) := by decide +kernel
theorem dX5_judgeName_48 : decode cX5_judgeName 48 = .ok (.iconst 0, 1) := by decide +kernel
theorem dX5_judgeName_49 : decode cX5_judgeName 49 = .ok (.istore 6, 2) := by decide +kernel
theorem dX5_judgeName_51 : decode cX5_judgeName 51 = .ok (.iload 5, 2) := by decide +kernel
theorem dX5_judgeName_53 : decode cX5_judgeName 53 = .ok (.ifCond .eq 59, 3) := by decide +kernel
theorem dX5_judgeName_56 : decode cX5_judgeName 56 = .ok (.iload 6, 2) := by decide +kernel
theorem dX5_judgeName_58 : decode cX5_judgeName 58 = .ok (.aload_n 0, 1) := by decide +kernel
theorem dX5_judgeName_59 : decode cX5_judgeName 59 = .ok (.getfield 82, 3) := by decide +kernel
theorem dX5_judgeName_62 : decode cX5_judgeName 62 = .ok (.iload_n 1, 1) := by decide +kernel
theorem dX5_judgeName_63 : decode cX5_judgeName 63 = .ok (.iaload, 1) := by decide +kernel
theorem dX5_judgeName_64 : decode cX5_judgeName 64 = .ok (.if_icmp .ge 48, 3) := by decide +kernel
theorem dX5_judgeName_67 : decode cX5_judgeName 67 = .ok (.aload_n 0, 1) := by decide +kernel
theorem dX5_judgeName_68 : decode cX5_judgeName 68 = .ok (.getfield 37, 3) := by decide +kernel
theorem dX5_judgeName_71 : decode cX5_judgeName 71 = .ok (.aload_n 0, 1) := by decide +kernel
theorem dX5_judgeName_72 : decode cX5_judgeName 72 = .ok (.getfield 79, 3) := by decide +kernel
theorem dX5_judgeName_75 : decode cX5_judgeName 75 = .ok (.iload_n 1, 1) := by decide +kernel
theorem dX5_judgeName_76 : decode cX5_judgeName 76 = .ok (.iaload, 1) := by decide +kernel
theorem dX5_judgeName_77 : decode cX5_judgeName 77 = .ok (.iload 6, 2) := by decide +kernel
theorem dX5_judgeName_79 : decode cX5_judgeName 79 = .ok (.iadd, 1) := by decide +kernel
theorem dX5_judgeName_80 : decode cX5_judgeName 80 = .ok (.iaload, 1) := by decide +kernel
theorem dX5_judgeName_81 : decode cX5_judgeName 81 = .ok (.aload_n 0, 1) := by decide +kernel
theorem dX5_judgeName_82 : decode cX5_judgeName 82 = .ok (.getfield 37, 3) := by decide +kernel
theorem dX5_judgeName_85 : decode cX5_judgeName 85 = .ok (.aload_n 0, 1) := by decide +kernel
theorem dX5_judgeName_86 : decode cX5_judgeName 86 = .ok (.getfield 79, 3) := by decide +kernel
theorem dX5_judgeName_89 : decode cX5_judgeName 89 = .ok (.iload 4, 2) := by decide +kernel
theorem dX5_judgeName_91 : decode cX5_judgeName 91 = .ok (.iaload, 1) := by decide +kernel
theorem dX5_judgeName_92 : decode cX5_judgeName 92 = .ok (.iload 6, 2) := by decide +kernel
theorem dX5_judgeName_94 : decode cX5_judgeName 94 = .ok (.iadd, 1) := by decide +kernel
theorem dX5_judgeName_95 : decode cX5_judgeName 95 = .ok (.iaload, 1) := by decide +kernel
theorem dX5_judgeName_96 : decode cX5_judgeName 96 = .ok (.if_icmp .ne 7, 3) := by decide +kernel
theorem dX5_judgeName_99 : decode cX5_judgeName 99 = .ok (.iconst 1, 1) := by decide +kernel
theorem dX5_judgeName_100 : decode cX5_judgeName 100 = .ok (.goto 4, 3) := by decide +kernel
theorem dX5_judgeName_103 : decode cX5_judgeName 103 = .ok (.iconst 0, 1) := by decide +kernel
theorem dX5_judgeName_104 : decode cX5_judgeName 104 = .ok (.istore 5, 2) := by decide +kernel
theorem dX5_judgeName_106 : decode cX5_judgeName 106 = .ok (.iinc 6 1, 3) := by decide +kernel
theorem dX5_judgeName_109 : decode cX5_judgeName 109 = .ok (.goto (-58), 3) := by decide +kernel
theorem dX5_judgeName_112 : decode cX5_judgeName 112 = .ok (.iload 5, 2) := by decide +kernel
theorem dX5_judgeName_114 : decode cX5_judgeName 114 = .ok (.ifCond .eq 10, 3) := by decide +kernel
theorem dX5_judgeName_117 : decode cX5_judgeName 117 = .ok (.aload_n 0, 1) := by decide +kernel
theorem dX5_judgeName_118 : decode cX5_judgeName 118 = .ok (.getfield 109, 3) := by decide +kernel
theorem dX5_judgeName_121 : decode cX5_judgeName 121 = .ok (.iload_n 3, 1) := by decide +kernel
theorem dX5_judgeName_122 : decode cX5_judgeName 122 = .ok (.iaload, 1) := by decide +kernel
theorem dX5_judgeName_123 : decode cX5_judgeName 123 = .ok (.istore_n 2, 1) := by decide +kernel
theorem dX5_judgeName_124 : decode cX5_judgeName 124 = .ok (.iinc 3 1, 3) := by decide +kernel
theorem dX5_judgeName_127 : decode cX5_judgeName 127 = .ok (.goto (-123), 3) := by decide +kernel
theorem dX5_judgeName_130 : decode cX5_judgeName 130 = .ok (.iload_n 2, 1) := by decide +kernel
theorem dX5_judgeName_131 : decode cX5_judgeName 131 = .ok (.ifCond .lt 34, 3) := by decide +kernel
theorem dX5_judgeName_134 : decode cX5_judgeName 134 = .ok (.aload_n 0, 1) := by decide +kernel
theorem dX5_judgeName_135 : decode cX5_judgeName 135 = .ok (.getfield 76, 3) := by decide +kernel
theorem dX5_judgeName_138 : decode cX5_judgeName 138 = .ok (.iload_n 1, 1) := by decide +kernel
theorem dX5_judgeName_139 : decode cX5_judgeName 139 = .ok (.iconst 1, 1) := by decide +kernel
theorem dX5_judgeName_140 : decode cX5_judgeName 140 = .ok (.iastore, 1) := by decide +kernel
theorem dX5_judgeName_141 : decode cX5_judgeName 141 = .ok (.aload_n 0, 1) := by decide +kernel
theorem dX5_judgeName_142 : decode cX5_judgeName 142 = .ok (.getfield 79, 3) := by decide +kernel
theorem dX5_judgeName_145 : decode cX5_judgeName 145 = .ok (.iload_n 1, 1) := by decide +kernel
theorem dX5_judgeName_146 : decode cX5_judgeName 146 = .ok (.iload_n 2, 1) := by decide +kernel
theorem dX5_judgeName_147 : decode cX5_judgeName 147 = .ok (.iastore, 1) := by decide +kernel
theorem dX5_judgeName_148 : decode cX5_judgeName 148 = .ok (.aload_n 0, 1) := by decide +kernel
theorem dX5_judgeName_149 : decode cX5_judgeName 149 = .ok (.aload_n 0, 1) := by decide +kernel
theorem dX5_judgeName_150 : decode cX5_judgeName 150 = .ok (.getfield 103, 3) := by decide +kernel
theorem dX5_judgeName_153 : decode cX5_judgeName 153 = .ok (.iload_n 2, 1) := by decide +kernel
theorem dX5_judgeName_154 : decode cX5_judgeName 154 = .ok (.iaload, 1) := by decide +kernel
theorem dX5_judgeName_155 : decode cX5_judgeName 155 = .ok (.aload_n 0, 1) := by decide +kernel
theorem dX5_judgeName_156 : decode cX5_judgeName 156 = .ok (.getfield 106, 3) := by decide +kernel
theorem dX5_judgeName_159 : decode cX5_judgeName 159 = .ok (.iload_n 2, 1) := by decide +kernel
theorem dX5_judgeName_160 : decode cX5_judgeName 160 = .ok (.iaload, 1) := by decide +kernel
theorem dX5_judgeName_161 : decode cX5_judgeName 161 = .ok (.invokevirtual 412, 3) := by decide +kernel
theorem dX5_judgeName_164 : decode cX5_judgeName 164 = .ok (.return_, 1) := by decide +kernel
theorem dX5_judgeName_165 : decode cX5_judgeName 165 = .ok (.aload_n 0, 1) := by decide +kernel
theorem dX5_judgeName_166 : decode cX5_judgeName 166 = .ok (.iload_n 1, 1) := by decide +kernel
theorem dX5_judgeName_167 : decode cX5_judgeName 167 = .ok (.invokevirtual 415, 3) := by decide +kernel
theorem dX5_judgeName_170 : decode cX5_judgeName 170 = .ok (.istore_n 3, 1) := by decide +kernel
theorem dX5_judgeName_171 : decode cX5_judgeName 171 = .ok (.iload_n 3, 1) := by decide +kernel
theorem dX5_judgeName_172 : decode cX5_judgeName 172 = .ok (.ifCond .lt 7, 3) := by decide +kernel
theorem dX5_judgeName_175 : decode cX5_judgeName 175 = .ok (.iconst (-1), 1) := by decide +kernel
theorem dX5_judgeName_176 : decode cX5_judgeName 176 = .ok (.goto 8, 3) := by decide +kernel
theorem dX5_judgeName_179 : decode cX5_judgeName 179 = .ok (.aload_n 0, 1) := by decide +kernel
theorem dX5_judgeName_180 : decode cX5_judgeName 180 = .ok (.iload_n 1, 1) := by decide +kernel
theorem dX5_judgeName_181 : decode cX5_judgeName 181 = .ok (.invokevirtual 418, 3) := by decide +kernel
theorem dX5_judgeName_184 : decode cX5_judgeName 184 = .ok (.istore 4, 2) := by decide +kernel
theorem dX5_judgeName_186 : decode cX5_judgeName 186 = .ok (.iload_n 3, 1) := by decide +kernel
theorem dX5_judgeName_187 : decode cX5_judgeName 187 = .ok (.ifCond .lt 36, 3) := by decide +kernel
theorem dX5_judgeName_190 : decode cX5_judgeName 190 = .ok (.aload_n 0, 1) := by decide +kernel
theorem dX5_judgeName_191 : decode cX5_judgeName 191 = .ok (.getfield 76, 3) := by decide +kernel
theorem dX5_judgeName_194 : decode cX5_judgeName 194 = .ok (.iload_n 1, 1) := by decide +kernel
theorem dX5_judgeName_195 : decode cX5_judgeName 195 = .ok (.iconst 2, 1) := by decide +kernel
theorem dX5_judgeName_196 : decode cX5_judgeName 196 = .ok (.iastore, 1) := by decide +kernel
theorem dX5_judgeName_197 : decode cX5_judgeName 197 = .ok (.aload_n 0, 1) := by decide +kernel
theorem dX5_judgeName_198 : decode cX5_judgeName 198 = .ok (.getfield 79, 3) := by decide +kernel
theorem dX5_judgeName_201 : decode cX5_judgeName 201 = .ok (.iload_n 1, 1) := by decide +kernel
theorem dX5_judgeName_202 : decode cX5_judgeName 202 = .ok (.iload_n 3, 1) := by decide +kernel
theorem dX5_judgeName_203 : decode cX5_judgeName 203 = .ok (.iastore, 1) := by decide +kernel
theorem dX5_judgeName_204 : decode cX5_judgeName 204 = .ok (.aload_n 0, 1) := by decide +kernel
theorem dX5_judgeName_205 : decode cX5_judgeName 205 = .ok (.aload_n 0, 1) := by decide +kernel
theorem dX5_judgeName_206 : decode cX5_judgeName 206 = .ok (.getfield 60, 3) := by decide +kernel
theorem dX5_judgeName_209 : decode cX5_judgeName 209 = .ok (.iload_n 3, 1) := by decide +kernel
theorem dX5_judgeName_210 : decode cX5_judgeName 210 = .ok (.iaload, 1) := by decide +kernel
theorem dX5_judgeName_211 : decode cX5_judgeName 211 = .ok (.aload_n 0, 1) := by decide +kernel
theorem dX5_judgeName_212 : decode cX5_judgeName 212 = .ok (.getfield 63, 3) := by decide +kernel
theorem dX5_judgeName_215 : decode cX5_judgeName 215 = .ok (.iload_n 3, 1) := by decide +kernel
theorem dX5_judgeName_216 : decode cX5_judgeName 216 = .ok (.iaload, 1) := by decide +kernel
theorem dX5_judgeName_217 : decode cX5_judgeName 217 = .ok (.invokevirtual 412, 3) := by decide +kernel
theorem dX5_judgeName_220 : decode cX5_judgeName 220 = .ok (.goto 85, 3) := by decide +kernel
theorem dX5_judgeName_223 : decode cX5_judgeName 223 = .ok (.iload 4, 2) := by decide +kernel
theorem dX5_judgeName_225 : decode cX5_judgeName 225 = .ok (.ifCond .ge 17, 3) := by decide +kernel
theorem dX5_judgeName_228 : decode cX5_judgeName 228 = .ok (.aload_n 0, 1) := by decide +kernel
theorem dX5_judgeName_229 : decode cX5_judgeName 229 = .ok (.iconst 3, 1) := by decide +kernel
theorem dX5_judgeName_230 : decode cX5_judgeName 230 = .ok (.aload_n 0, 1) := by decide +kernel
theorem dX5_judgeName_231 : decode cX5_judgeName 231 = .ok (.getfield 79, 3) := by decide +kernel
theorem dX5_judgeName_234 : decode cX5_judgeName 234 = .ok (.iload_n 1, 1) := by decide +kernel
theorem dX5_judgeName_235 : decode cX5_judgeName 235 = .ok (.iaload, 1) := by decide +kernel
theorem dX5_judgeName_236 : decode cX5_judgeName 236 = .ok (.invokevirtual 218, 3) := by decide +kernel
theorem dX5_judgeName_239 : decode cX5_judgeName 239 = .ok (.goto 66, 3) := by decide +kernel
theorem dX5_judgeName_242 : decode cX5_judgeName 242 = .ok (.aload_n 0, 1) := by decide +kernel
theorem dX5_judgeName_243 : decode cX5_judgeName 243 = .ok (.getfield 50, 3) := by decide +kernel
theorem dX5_judgeName_246 : decode cX5_judgeName 246 = .ok (.iload 4, 2) := by decide +kernel
theorem dX5_judgeName_248 : decode cX5_judgeName 248 = .ok (.iaload, 1) := by decide +kernel
theorem dX5_judgeName_249 : decode cX5_judgeName 249 = .ok (.ifCond .ge 18, 3) := by decide +kernel
theorem dX5_judgeName_252 : decode cX5_judgeName 252 = .ok (.aload_n 0, 1) := by decide +kernel
theorem dX5_judgeName_253 : decode cX5_judgeName 253 = .ok (.bipush 7, 2) := by decide +kernel
theorem dX5_judgeName_255 : decode cX5_judgeName 255 = .ok (.aload_n 0, 1) := by decide +kernel
theorem dX5_judgeName_256 : decode cX5_judgeName 256 = .ok (.getfield 79, 3) := by decide +kernel
theorem dX5_judgeName_259 : decode cX5_judgeName 259 = .ok (.iload_n 1, 1) := by decide +kernel
theorem dX5_judgeName_260 : decode cX5_judgeName 260 = .ok (.iaload, 1) := by decide +kernel
theorem dX5_judgeName_261 : decode cX5_judgeName 261 = .ok (.invokevirtual 218, 3) := by decide +kernel
theorem dX5_judgeName_264 : decode cX5_judgeName 264 = .ok (.goto 41, 3) := by decide +kernel
theorem dX5_judgeName_267 : decode cX5_judgeName 267 = .ok (.aload_n 0, 1) := by decide +kernel
theorem dX5_judgeName_268 : decode cX5_judgeName 268 = .ok (.getfield 76, 3) := by decide +kernel
theorem dX5_judgeName_271 : decode cX5_judgeName 271 = .ok (.iload_n 1, 1) := by decide +kernel
theorem dX5_judgeName_272 : decode cX5_judgeName 272 = .ok (.iconst 3, 1) := by decide +kernel
theorem dX5_judgeName_273 : decode cX5_judgeName 273 = .ok (.iastore, 1) := by decide +kernel
theorem dX5_judgeName_274 : decode cX5_judgeName 274 = .ok (.aload_n 0, 1) := by decide +kernel
theorem dX5_judgeName_275 : decode cX5_judgeName 275 = .ok (.getfield 79, 3) := by decide +kernel
theorem dX5_judgeName_278 : decode cX5_judgeName 278 = .ok (.iload_n 1, 1) := by decide +kernel
theorem dX5_judgeName_279 : decode cX5_judgeName 279 = .ok (.iload 4, 2) := by decide +kernel
theorem dX5_judgeName_281 : decode cX5_judgeName 281 = .ok (.iastore, 1) := by decide +kernel
theorem dX5_judgeName_282 : decode cX5_judgeName 282 = .ok (.aload_n 0, 1) := by decide +kernel
theorem dX5_judgeName_283 : decode cX5_judgeName 283 = .ok (.aload_n 0, 1) := by decide +kernel
theorem dX5_judgeName_284 : decode cX5_judgeName 284 = .ok (.getfield 50, 3) := by decide +kernel
theorem dX5_judgeName_287 : decode cX5_judgeName 287 = .ok (.iload 4, 2) := by decide +kernel
theorem dX5_judgeName_289 : decode cX5_judgeName 289 = .ok (.iaload, 1) := by decide +kernel
theorem dX5_judgeName_290 : decode cX5_judgeName 290 = .ok (.aload_n 0, 1) := by decide +kernel
theorem dX5_judgeName_291 : decode cX5_judgeName 291 = .ok (.getfield 50, 3) := by decide +kernel
theorem dX5_judgeName_294 : decode cX5_judgeName 294 = .ok (.aload_n 0, 1) := by decide +kernel
theorem dX5_judgeName_295 : decode cX5_judgeName 295 = .ok (.getfield 50, 3) := by decide +kernel
theorem dX5_judgeName_298 : decode cX5_judgeName 298 = .ok (.iload 4, 2) := by decide +kernel
theorem dX5_judgeName_300 : decode cX5_judgeName 300 = .ok (.iaload, 1) := by decide +kernel
theorem dX5_judgeName_301 : decode cX5_judgeName 301 = .ok (.iaload, 1) := by decide +kernel
theorem dX5_judgeName_302 : decode cX5_judgeName 302 = .ok (.invokevirtual 412, 3) := by decide +kernel
theorem dX5_judgeName_305 : decode cX5_judgeName 305 = .ok (.return_, 1) := by decide +kernel
abbrev cX5_knownOf : ByteArray := prog_26_method_45_code
def yX5_knownOf : MethodName := ⟨RX5, "knownOf", "(I)I"⟩
theorem dX5_knownOf_0 : decode cX5_knownOf 0 = .ok (.iconst (-1), 1) := by decide +kernel
theorem dX5_knownOf_1 : decode cX5_knownOf 1 = .ok (.istore_n 2, 1) := by decide +kernel
theorem dX5_knownOf_2 : decode cX5_knownOf 2 = .ok (.iconst 0, 1) := by decide +kernel
theorem dX5_knownOf_3 : decode cX5_knownOf 3 = .ok (.istore_n 3, 1) := by decide +kernel
theorem dX5_knownOf_4 : decode cX5_knownOf 4 = .ok (.iload_n 3, 1) := by decide +kernel
theorem dX5_knownOf_5 : decode cX5_knownOf 5 = .ok (.aload_n 0, 1) := by decide +kernel
theorem dX5_knownOf_6 : decode cX5_knownOf 6 = .ok (.getfield 167, 3) := by decide +kernel
theorem dX5_knownOf_9 : decode cX5_knownOf 9 = .ok (.if_icmp .ge 44, 3) := by decide +kernel
theorem dX5_knownOf_12 : decode cX5_knownOf 12 = .ok (.aload_n 0, 1) := by decide +kernel
theorem dX5_knownOf_13 : decode cX5_knownOf 13 = .ok (.aload_n 0, 1) := by decide +kernel
theorem dX5_knownOf_14 : decode cX5_knownOf 14 = .ok (.getfield 79, 3) := by decide +kernel
theorem dX5_knownOf_17 : decode cX5_knownOf 17 = .ok (.iload_n 1, 1) := by decide +kernel
theorem dX5_knownOf_18 : decode cX5_knownOf 18 = .ok (.iaload, 1) := by decide +kernel
theorem dX5_knownOf_19 : decode cX5_knownOf 19 = .ok (.aload_n 0, 1) := by decide +kernel
theorem dX5_knownOf_20 : decode cX5_knownOf 20 = .ok (.getfield 82, 3) := by decide +kernel
theorem dX5_knownOf_23 : decode cX5_knownOf 23 = .ok (.iload_n 1, 1) := by decide +kernel
theorem dX5_knownOf_24 : decode cX5_knownOf 24 = .ok (.iaload, 1) := by decide +kernel
theorem dX5_knownOf_25 : decode cX5_knownOf 25 = .ok (.aload_n 0, 1) := by decide +kernel
theorem dX5_knownOf_26 : decode cX5_knownOf 26 = .ok (.getfield 54, 3) := by decide +kernel
theorem dX5_knownOf_29 : decode cX5_knownOf 29 = .ok (.bipush 12, 2) := by decide +kernel
theorem dX5_knownOf_31 : decode cX5_knownOf 31 = .ok (.iload_n 3, 1) := by decide +kernel
theorem dX5_knownOf_32 : decode cX5_knownOf 32 = .ok (.imul, 1) := by decide +kernel
theorem dX5_knownOf_33 : decode cX5_knownOf 33 = .ok (.aload_n 0, 1) := by decide +kernel
theorem dX5_knownOf_34 : decode cX5_knownOf 34 = .ok (.getfield 57, 3) := by decide +kernel
theorem dX5_knownOf_37 : decode cX5_knownOf 37 = .ok (.iload_n 3, 1) := by decide +kernel
theorem dX5_knownOf_38 : decode cX5_knownOf 38 = .ok (.iaload, 1) := by decide +kernel
theorem dX5_knownOf_39 : decode cX5_knownOf 39 = .ok (.invokevirtual 399, 3) := by decide +kernel
theorem dX5_knownOf_42 : decode cX5_knownOf 42 = .ok (.ifCond .eq 5, 3) := by decide +kernel
theorem dX5_knownOf_45 : decode cX5_knownOf 45 = .ok (.iload_n 3, 1) := by decide +kernel
theorem dX5_knownOf_46 : decode cX5_knownOf 46 = .ok (.istore_n 2, 1) := by decide +kernel
theorem dX5_knownOf_47 : decode cX5_knownOf 47 = .ok (.iinc 3 1, 3) := by decide +kernel
theorem dX5_knownOf_50 : decode cX5_knownOf 50 = .ok (.goto (-46), 3) := by decide +kernel
theorem dX5_knownOf_53 : decode cX5_knownOf 53 = .ok (.iload_n 2, 1) := by decide +kernel
theorem dX5_knownOf_54 : decode cX5_knownOf 54 = .ok (.ireturn, 1) := by decide +kernel
abbrev cX5_yes : ByteArray := prog_26_method_58_code
def yX5_yes : MethodName := ⟨RX5, "yes", "(Z)V"⟩
theorem dX5_yes_0 : decode cX5_yes 0 = .ok (.iload_n 1, 1) := by decide +kernel
theorem dX5_yes_1 : decode cX5_yes 1 = .ok (.ifCond .eq 24, 3) := by decide +kernel
theorem dX5_yes_4 : decode cX5_yes 4 = .ok (.aload_n 0, 1) := by decide +kernel
theorem dX5_yes_5 : decode cX5_yes 5 = .ok (.bipush 121, 2) := by decide +kernel
theorem dX5_yes_7 : decode cX5_yes 7 = .ok (.invokevirtual 384, 3) := by decide +kernel
theorem dX5_yes_10 : decode cX5_yes 10 = .ok (.aload_n 0, 1) := by decide +kernel
theorem dX5_yes_11 : decode cX5_yes 11 = .ok (.bipush 101, 2) := by decide +kernel
theorem dX5_yes_13 : decode cX5_yes 13 = .ok (.invokevirtual 384, 3) := by decide +kernel
theorem dX5_yes_16 : decode cX5_yes 16 = .ok (.aload_n 0, 1) := by decide +kernel
theorem dX5_yes_17 : decode cX5_yes 17 = .ok (.bipush 115, 2) := by decide +kernel
theorem dX5_yes_19 : decode cX5_yes 19 = .ok (.invokevirtual 384, 3) := by decide +kernel
theorem dX5_yes_22 : decode cX5_yes 22 = .ok (.goto 15, 3) := by decide +kernel
theorem dX5_yes_25 : decode cX5_yes 25 = .ok (.aload_n 0, 1) := by decide +kernel
theorem dX5_yes_26 : decode cX5_yes 26 = .ok (.bipush 110, 2) := by decide +kernel
theorem dX5_yes_28 : decode cX5_yes 28 = .ok (.invokevirtual 384, 3) := by decide +kernel
theorem dX5_yes_31 : decode cX5_yes 31 = .ok (.aload_n 0, 1) := by decide +kernel
theorem dX5_yes_32 : decode cX5_yes 32 = .ok (.bipush 111, 2) := by decide +kernel
theorem dX5_yes_34 : decode cX5_yes 34 = .ok (.invokevirtual 384, 3) := by decide +kernel
theorem dX5_yes_37 : decode cX5_yes 37 = .ok (.aload_n 0, 1) := by decide +kernel
theorem dX5_yes_38 : decode cX5_yes 38 = .ok (.bipush 10, 2) := by decide +kernel
theorem dX5_yes_40 : decode cX5_yes 40 = .ok (.invokevirtual 384, 3) := by decide +kernel
theorem dX5_yes_43 : decode cX5_yes 43 = .ok (.return_, 1) := by decide +kernel
abbrev cX5_put : ByteArray := prog_26_method_38_code
def yX5_put : MethodName := ⟨RX5, "put", "(I)V"⟩
theorem dX5_put_0 : decode cX5_put 0 = .ok (.aload_n 0, 1) := by decide +kernel
theorem dX5_put_1 : decode cX5_put 1 = .ok (.getfield 378, 3) := by decide +kernel
theorem dX5_put_4 : decode cX5_put 4 = .ok (.sipush 3000, 3) := by decide +kernel
theorem dX5_put_7 : decode cX5_put 7 = .ok (.if_icmp .ge 13, 3) := by decide +kernel
theorem dX5_put_10 : decode cX5_put 10 = .ok (.aload_n 0, 1) := by decide +kernel
theorem dX5_put_11 : decode cX5_put 11 = .ok (.getfield 140, 3) := by decide +kernel
theorem dX5_put_14 : decode cX5_put 14 = .ok (.aload_n 0, 1) := by decide +kernel
theorem dX5_put_15 : decode cX5_put 15 = .ok (.getfield 378, 3) := by decide +kernel
theorem dX5_put_18 : decode cX5_put 18 = .ok (.iload_n 1, 1) := by decide +kernel
theorem dX5_put_19 : decode cX5_put 19 = .ok (.iastore, 1) := by decide +kernel
theorem dX5_put_20 : decode cX5_put 20 = .ok (.aload_n 0, 1) := by decide +kernel
theorem dX5_put_21 : decode cX5_put 21 = .ok (.dup, 1) := by decide +kernel
theorem dX5_put_22 : decode cX5_put 22 = .ok (.getfield 378, 3) := by decide +kernel
theorem dX5_put_25 : decode cX5_put 25 = .ok (.iconst 1, 1) := by decide +kernel
theorem dX5_put_26 : decode cX5_put 26 = .ok (.iadd, 1) := by decide +kernel
theorem dX5_put_27 : decode cX5_put 27 = .ok (.putfield 378, 3) := by decide +kernel
theorem dX5_put_30 : decode cX5_put 30 = .ok (.return_, 1) := by decide +kernel
abbrev cX5_tellLine : ByteArray := prog_26_method_61_code
def yX5_tellLine : MethodName := ⟨RX5, "tellLine", "(I)V"⟩
theorem dX5_tellLine_0 : decode cX5_tellLine 0 = .ok (.aload_n 0, 1) := by decide +kernel
theorem dX5_tellLine_1 : decode cX5_tellLine 1 = .ok (.getfield 150, 3) := by decide +kernel
theorem dX5_tellLine_4 : decode cX5_tellLine 4 = .ok (.ifCond .eq 4, 3) := by decide +kernel
theorem dX5_tellLine_7 : decode cX5_tellLine 7 = .ok (.return_, 1) := by decide +kernel
theorem dX5_tellLine_8 : decode cX5_tellLine 8 = .ok (.aload_n 0, 1) := by decide +kernel
theorem dX5_tellLine_9 : decode cX5_tellLine 9 = .ok (.iload_n 1, 1) := by decide +kernel
theorem dX5_tellLine_10 : decode cX5_tellLine 10 = .ok (.iconst 0, 1) := by decide +kernel
theorem dX5_tellLine_11 : decode cX5_tellLine 11 = .ok (.iconst 0, 1) := by decide +kernel
theorem dX5_tellLine_12 : decode cX5_tellLine 12 = .ok (.iconst 0, 1) := by decide +kernel
theorem dX5_tellLine_13 : decode cX5_tellLine 13 = .ok (.iconst 0, 1) := by decide +kernel
theorem dX5_tellLine_14 : decode cX5_tellLine 14 = .ok (.invokevirtual 387, 3) := by decide +kernel
theorem dX5_tellLine_17 : decode cX5_tellLine 17 = .ok (.aload_n 0, 1) := by decide +kernel
theorem dX5_tellLine_18 : decode cX5_tellLine 18 = .ok (.getfield 150, 3) := by decide +kernel
theorem dX5_tellLine_21 : decode cX5_tellLine 21 = .ok (.ifCond .ne 9, 3) := by decide +kernel
theorem dX5_tellLine_24 : decode cX5_tellLine 24 = .ok (.aload_n 0, 1) := by decide +kernel
theorem dX5_tellLine_25 : decode cX5_tellLine 25 = .ok (.bipush 10, 2) := by decide +kernel
theorem dX5_tellLine_27 : decode cX5_tellLine 27 = .ok (.invokevirtual 384, 3) := by decide +kernel
theorem dX5_tellLine_30 : decode cX5_tellLine 30 = .ok (.return_, 1) := by decide +kernel
abbrev cX5_tell : ByteArray := prog_26_method_41_code
def yX5_tell : MethodName := ⟨RX5, "tell", "(IIIII)V"⟩
theorem dX5_tell_0 : decode cX5_tell 0 = .ok (.aload_n 0, 1) := by decide +kernel
theorem dX5_tell_1 : decode cX5_tell 1 = .ok (.iload_n 3, 1) := by decide +kernel
theorem dX5_tell_2 : decode cX5_tell 2 = .ok (.invokevirtual 354, 3) := by decide +kernel
theorem dX5_tell_5 : decode cX5_tell 5 = .ok (.ifCond .ne 4, 3) := by decide +kernel
theorem dX5_tell_8 : decode cX5_tell 8 = .ok (.return_, 1) := by decide +kernel
theorem dX5_tell_9 : decode cX5_tell 9 = .ok (.aload_n 0, 1) := by decide +kernel
theorem dX5_tell_10 : decode cX5_tell 10 = .ok (.getfield 324, 3) := by decide +kernel
theorem dX5_tell_13 : decode cX5_tell 13 = .ok (.istore 6, 2) := by decide +kernel
theorem dX5_tell_15 : decode cX5_tell 15 = .ok (.aload_n 0, 1) := by decide +kernel
theorem dX5_tell_16 : decode cX5_tell 16 = .ok (.iload_n 1, 1) := by decide +kernel
theorem dX5_tell_17 : decode cX5_tell 17 = .ok (.iload_n 2, 1) := by decide +kernel
theorem dX5_tell_18 : decode cX5_tell 18 = .ok (.invokevirtual 357, 3) := by decide +kernel
theorem dX5_tell_21 : decode cX5_tell 21 = .ok (.aload_n 0, 1) := by decide +kernel
theorem dX5_tell_22 : decode cX5_tell 22 = .ok (.getfield 150, 3) := by decide +kernel
theorem dX5_tell_25 : decode cX5_tell 25 = .ok (.ifCond .eq 4, 3) := by decide +kernel
theorem dX5_tell_28 : decode cX5_tell 28 = .ok (.return_, 1) := by decide +kernel
theorem dX5_tell_29 : decode cX5_tell 29 = .ok (.aload_n 0, 1) := by decide +kernel
theorem dX5_tell_30 : decode cX5_tell 30 = .ok (.getfield 348, 3) := by decide +kernel
theorem dX5_tell_33 : decode cX5_tell 33 = .ok (.istore 7, 2) := by decide +kernel
theorem dX5_tell_35 : decode cX5_tell 35 = .ok (.aload_n 0, 1) := by decide +kernel
theorem dX5_tell_36 : decode cX5_tell 36 = .ok (.getfield 351, 3) := by decide +kernel
theorem dX5_tell_39 : decode cX5_tell 39 = .ok (.istore 8, 2) := by decide +kernel
theorem dX5_tell_41 : decode cX5_tell 41 = .ok (.aload_n 0, 1) := by decide +kernel
theorem dX5_tell_42 : decode cX5_tell 42 = .ok (.iload 7, 2) := by decide +kernel
theorem dX5_tell_44 : decode cX5_tell 44 = .ok (.invokevirtual 363, 3) := by decide +kernel
theorem dX5_tell_47 : decode cX5_tell 47 = .ok (.istore 9, 2) := by decide +kernel
theorem dX5_tell_49 : decode cX5_tell 49 = .ok (.iload 9, 2) := by decide +kernel
theorem dX5_tell_51 : decode cX5_tell 51 = .ok (.iconst 4, 1) := by decide +kernel
theorem dX5_tell_52 : decode cX5_tell 52 = .ok (.if_icmp .eq 9, 3) := by decide +kernel
theorem dX5_tell_55 : decode cX5_tell 55 = .ok (.iload 9, 2) := by decide +kernel
theorem dX5_tell_57 : decode cX5_tell 57 = .ok (.iconst 5, 1) := by decide +kernel
theorem dX5_tell_58 : decode cX5_tell 58 = .ok (.if_icmp .ne 7, 3) := by decide +kernel
theorem dX5_tell_61 : decode cX5_tell 61 = .ok (.iconst 1, 1) := by decide +kernel
theorem dX5_tell_62 : decode cX5_tell 62 = .ok (.goto 4, 3) := by decide +kernel
theorem dX5_tell_65 : decode cX5_tell 65 = .ok (.iconst 0, 1) := by decide +kernel
theorem dX5_tell_66 : decode cX5_tell 66 = .ok (.istore 10, 2) := by decide +kernel
theorem dX5_tell_68 : decode cX5_tell 68 = .ok (.iload 10, 2) := by decide +kernel
theorem dX5_tell_70 : decode cX5_tell 70 = .ok (.ifCond .eq 8, 3) := by decide +kernel
theorem dX5_tell_73 : decode cX5_tell 73 = .ok (.iload 5, 2) := by decide +kernel
theorem dX5_tell_75 : decode cX5_tell 75 = .ok (.ifCond .gt 18, 3) := by decide +kernel
theorem dX5_tell_78 : decode cX5_tell 78 = .ok (.iload 5, 2) := by decide +kernel
theorem dX5_tell_80 : decode cX5_tell 80 = .ok (.iconst 2, 1) := by decide +kernel
theorem dX5_tell_81 : decode cX5_tell 81 = .ok (.if_icmp .ne 16, 3) := by decide +kernel
theorem dX5_tell_84 : decode cX5_tell 84 = .ok (.aload_n 0, 1) := by decide +kernel
theorem dX5_tell_85 : decode cX5_tell 85 = .ok (.getfield 324, 3) := by decide +kernel
theorem dX5_tell_88 : decode cX5_tell 88 = .ok (.iload 6, 2) := by decide +kernel
theorem dX5_tell_90 : decode cX5_tell 90 = .ok (.if_icmp .le 7, 3) := by decide +kernel
theorem dX5_tell_93 : decode cX5_tell 93 = .ok (.iconst 1, 1) := by decide +kernel
theorem dX5_tell_94 : decode cX5_tell 94 = .ok (.goto 4, 3) := by decide +kernel
theorem dX5_tell_97 : decode cX5_tell 97 = .ok (.iconst 0, 1) := by decide +kernel
theorem dX5_tell_98 : decode cX5_tell 98 = .ok (.istore 11, 2) := by decide +kernel
theorem dX5_tell_100 : decode cX5_tell 100 = .ok (.iload 11, 2) := by decide +kernel
theorem dX5_tell_102 : decode cX5_tell 102 = .ok (.ifCond .eq 9, 3) := by decide +kernel
theorem dX5_tell_105 : decode cX5_tell 105 = .ok (.aload_n 0, 1) := by decide +kernel
theorem dX5_tell_106 : decode cX5_tell 106 = .ok (.bipush 40, 2) := by decide +kernel
theorem dX5_tell_108 : decode cX5_tell 108 = .ok (.invokevirtual 384, 3) := by decide +kernel
theorem dX5_tell_111 : decode cX5_tell 111 = .ok (.iload 10, 2) := by decide +kernel
theorem dX5_tell_113 : decode cX5_tell 113 = .ok (.ifCond .eq 107, 3) := by decide +kernel
theorem dX5_tell_116 : decode cX5_tell 116 = .ok (.aload_n 0, 1) := by decide +kernel
theorem dX5_tell_117 : decode cX5_tell 117 = .ok (.iload 9, 2) := by decide +kernel
theorem dX5_tell_119 : decode cX5_tell 119 = .ok (.iconst 4, 1) := by decide +kernel
theorem dX5_tell_120 : decode cX5_tell 120 = .ok (.if_icmp .ne 8, 3) := by decide +kernel
theorem dX5_tell_123 : decode cX5_tell 123 = .ok (.bipush 92, 2) := by decide +kernel
theorem dX5_tell_125 : decode cX5_tell 125 = .ok (.goto 5, 3) := by decide +kernel
theorem dX5_tell_128 : decode cX5_tell 128 = .ok (.bipush 33, 2) := by decide +kernel
theorem dX5_tell_130 : decode cX5_tell 130 = .ok (.invokevirtual 384, 3) := by decide +kernel
theorem dX5_tell_133 : decode cX5_tell 133 = .ok (.aload_n 0, 1) := by decide +kernel
theorem dX5_tell_134 : decode cX5_tell 134 = .ok (.bipush 95, 2) := by decide +kernel
theorem dX5_tell_136 : decode cX5_tell 136 = .ok (.invokevirtual 384, 3) := by decide +kernel
theorem dX5_tell_139 : decode cX5_tell 139 = .ok (.aload_n 0, 1) := by decide +kernel
theorem dX5_tell_140 : decode cX5_tell 140 = .ok (.iload 4, 2) := by decide +kernel
theorem dX5_tell_142 : decode cX5_tell 142 = .ok (.invokevirtual 381, 3) := by decide +kernel
theorem dX5_tell_145 : decode cX5_tell 145 = .ok (.aload_n 0, 1) := by decide +kernel
theorem dX5_tell_146 : decode cX5_tell 146 = .ok (.bipush 58, 2) := by decide +kernel
theorem dX5_tell_148 : decode cX5_tell 148 = .ok (.invokevirtual 384, 3) := by decide +kernel
theorem dX5_tell_151 : decode cX5_tell 151 = .ok (.aload_n 0, 1) := by decide +kernel
theorem dX5_tell_152 : decode cX5_tell 152 = .ok (.aload_n 0, 1) := by decide +kernel
theorem dX5_tell_153 : decode cX5_tell 153 = .ok (.getfield 82, 3) := by decide +kernel
theorem dX5_tell_156 : decode cX5_tell 156 = .ok (.iload 7, 2) := by decide +kernel
theorem dX5_tell_158 : decode cX5_tell 158 = .ok (.iaload, 1) := by decide +kernel
theorem dX5_tell_159 : decode cX5_tell 159 = .ok (.iload 8, 2) := by decide +kernel
theorem dX5_tell_161 : decode cX5_tell 161 = .ok (.iload_n 3, 1) := by decide +kernel
theorem dX5_tell_162 : decode cX5_tell 162 = .ok (.iconst 1, 1) := by decide +kernel
theorem dX5_tell_163 : decode cX5_tell 163 = .ok (.iadd, 1) := by decide +kernel
theorem dX5_tell_164 : decode cX5_tell 164 = .ok (.iload 4, 2) := by decide +kernel
theorem dX5_tell_166 : decode cX5_tell 166 = .ok (.iconst 1, 1) := by decide +kernel
theorem dX5_tell_167 : decode cX5_tell 167 = .ok (.invokevirtual 387, 3) := by decide +kernel
theorem dX5_tell_170 : decode cX5_tell 170 = .ok (.aload_n 0, 1) := by decide +kernel
theorem dX5_tell_171 : decode cX5_tell 171 = .ok (.getfield 150, 3) := by decide +kernel
theorem dX5_tell_174 : decode cX5_tell 174 = .ok (.ifCond .eq 4, 3) := by decide +kernel
theorem dX5_tell_177 : decode cX5_tell 177 = .ok (.return_, 1) := by decide +kernel
theorem dX5_tell_178 : decode cX5_tell 178 = .ok (.aload_n 0, 1) := by decide +kernel
theorem dX5_tell_179 : decode cX5_tell 179 = .ok (.bipush 46, 2) := by decide +kernel
theorem dX5_tell_181 : decode cX5_tell 181 = .ok (.invokevirtual 384, 3) := by decide +kernel
theorem dX5_tell_184 : decode cX5_tell 184 = .ok (.aload_n 0, 1) := by decide +kernel
theorem dX5_tell_185 : decode cX5_tell 185 = .ok (.aload_n 0, 1) := by decide +kernel
theorem dX5_tell_186 : decode cX5_tell 186 = .ok (.getfield 85, 3) := by decide +kernel
theorem dX5_tell_189 : decode cX5_tell 189 = .ok (.iload 7, 2) := by decide +kernel
theorem dX5_tell_191 : decode cX5_tell 191 = .ok (.iaload, 1) := by decide +kernel
theorem dX5_tell_192 : decode cX5_tell 192 = .ok (.aload_n 0, 1) := by decide +kernel
theorem dX5_tell_193 : decode cX5_tell 193 = .ok (.iload 7, 2) := by decide +kernel
theorem dX5_tell_195 : decode cX5_tell 195 = .ok (.iload 8, 2) := by decide +kernel
theorem dX5_tell_197 : decode cX5_tell 197 = .ok (.ldc_w 391, 3) := by decide +kernel
theorem dX5_tell_200 : decode cX5_tell 200 = .ok (.iload 4, 2) := by decide +kernel
theorem dX5_tell_202 : decode cX5_tell 202 = .ok (.isub, 1) := by decide +kernel
theorem dX5_tell_203 : decode cX5_tell 203 = .ok (.invokevirtual 374, 3) := by decide +kernel
theorem dX5_tell_206 : decode cX5_tell 206 = .ok (.iload_n 3, 1) := by decide +kernel
theorem dX5_tell_207 : decode cX5_tell 207 = .ok (.iconst 1, 1) := by decide +kernel
theorem dX5_tell_208 : decode cX5_tell 208 = .ok (.iadd, 1) := by decide +kernel
theorem dX5_tell_209 : decode cX5_tell 209 = .ok (.iload 4, 2) := by decide +kernel
theorem dX5_tell_211 : decode cX5_tell 211 = .ok (.iconst 1, 1) := by decide +kernel
theorem dX5_tell_212 : decode cX5_tell 212 = .ok (.iadd, 1) := by decide +kernel
theorem dX5_tell_213 : decode cX5_tell 213 = .ok (.iconst 0, 1) := by decide +kernel
theorem dX5_tell_214 : decode cX5_tell 214 = .ok (.invokevirtual 387, 3) := by decide +kernel
theorem dX5_tell_217 : decode cX5_tell 217 = .ok (.goto 165, 3) := by decide +kernel
theorem dX5_tell_220 : decode cX5_tell 220 = .ok (.iload 9, 2) := by decide +kernel
theorem dX5_tell_222 : decode cX5_tell 222 = .ok (.iconst (-1), 1) := by decide +kernel
theorem dX5_tell_223 : decode cX5_tell 223 = .ok (.if_icmp .ne 22, 3) := by decide +kernel
theorem dX5_tell_226 : decode cX5_tell 226 = .ok (.aload_n 0, 1) := by decide +kernel
theorem dX5_tell_227 : decode cX5_tell 227 = .ok (.bipush 95, 2) := by decide +kernel
theorem dX5_tell_229 : decode cX5_tell 229 = .ok (.invokevirtual 384, 3) := by decide +kernel
theorem dX5_tell_232 : decode cX5_tell 232 = .ok (.aload_n 0, 1) := by decide +kernel
theorem dX5_tell_233 : decode cX5_tell 233 = .ok (.ldc_w 391, 3) := by decide +kernel
theorem dX5_tell_236 : decode cX5_tell 236 = .ok (.iload 7, 2) := by decide +kernel
theorem dX5_tell_238 : decode cX5_tell 238 = .ok (.isub, 1) := by decide +kernel
theorem dX5_tell_239 : decode cX5_tell 239 = .ok (.invokevirtual 381, 3) := by decide +kernel
theorem dX5_tell_242 : decode cX5_tell 242 = .ok (.goto 72, 3) := by decide +kernel
theorem dX5_tell_245 : decode cX5_tell 245 = .ok (.iload 9, 2) := by decide +kernel
theorem dX5_tell_247 : decode cX5_tell 247 = .ok (.iconst 3, 1) := by decide +kernel
theorem dX5_tell_248 : decode cX5_tell 248 = .ok (.if_icmp .ne 36, 3) := by decide +kernel
theorem dX5_tell_251 : decode cX5_tell 251 = .ok (.aload_n 0, 1) := by decide +kernel
theorem dX5_tell_252 : decode cX5_tell 252 = .ok (.bipush 12, 2) := by decide +kernel
theorem dX5_tell_254 : decode cX5_tell 254 = .ok (.aload_n 0, 1) := by decide +kernel
theorem dX5_tell_255 : decode cX5_tell 255 = .ok (.getfield 79, 3) := by decide +kernel
theorem dX5_tell_258 : decode cX5_tell 258 = .ok (.iload 7, 2) := by decide +kernel
theorem dX5_tell_260 : decode cX5_tell 260 = .ok (.iaload, 1) := by decide +kernel
theorem dX5_tell_261 : decode cX5_tell 261 = .ok (.imul, 1) := by decide +kernel
theorem dX5_tell_262 : decode cX5_tell 262 = .ok (.aload_n 0, 1) := by decide +kernel
theorem dX5_tell_263 : decode cX5_tell 263 = .ok (.getfield 44, 3) := by decide +kernel
theorem dX5_tell_266 : decode cX5_tell 266 = .ok (.aload_n 0, 1) := by decide +kernel
theorem dX5_tell_267 : decode cX5_tell 267 = .ok (.getfield 47, 3) := by decide +kernel
theorem dX5_tell_270 : decode cX5_tell 270 = .ok (.aload_n 0, 1) := by decide +kernel
theorem dX5_tell_271 : decode cX5_tell 271 = .ok (.getfield 79, 3) := by decide +kernel
theorem dX5_tell_274 : decode cX5_tell 274 = .ok (.iload 7, 2) := by decide +kernel
theorem dX5_tell_276 : decode cX5_tell 276 = .ok (.iaload, 1) := by decide +kernel
theorem dX5_tell_277 : decode cX5_tell 277 = .ok (.iaload, 1) := by decide +kernel
theorem dX5_tell_278 : decode cX5_tell 278 = .ok (.invokevirtual 392, 3) := by decide +kernel
theorem dX5_tell_281 : decode cX5_tell 281 = .ok (.goto 33, 3) := by decide +kernel
theorem dX5_tell_284 : decode cX5_tell 284 = .ok (.aload_n 0, 1) := by decide +kernel
theorem dX5_tell_285 : decode cX5_tell 285 = .ok (.bipush 12, 2) := by decide +kernel
theorem dX5_tell_287 : decode cX5_tell 287 = .ok (.aload_n 0, 1) := by decide +kernel
theorem dX5_tell_288 : decode cX5_tell 288 = .ok (.getfield 79, 3) := by decide +kernel
theorem dX5_tell_291 : decode cX5_tell 291 = .ok (.iload 7, 2) := by decide +kernel
theorem dX5_tell_293 : decode cX5_tell 293 = .ok (.iaload, 1) := by decide +kernel
theorem dX5_tell_294 : decode cX5_tell 294 = .ok (.imul, 1) := by decide +kernel
theorem dX5_tell_295 : decode cX5_tell 295 = .ok (.aload_n 0, 1) := by decide +kernel
theorem dX5_tell_296 : decode cX5_tell 296 = .ok (.getfield 54, 3) := by decide +kernel
theorem dX5_tell_299 : decode cX5_tell 299 = .ok (.aload_n 0, 1) := by decide +kernel
theorem dX5_tell_300 : decode cX5_tell 300 = .ok (.getfield 57, 3) := by decide +kernel
theorem dX5_tell_303 : decode cX5_tell 303 = .ok (.aload_n 0, 1) := by decide +kernel
theorem dX5_tell_304 : decode cX5_tell 304 = .ok (.getfield 79, 3) := by decide +kernel
theorem dX5_tell_307 : decode cX5_tell 307 = .ok (.iload 7, 2) := by decide +kernel
theorem dX5_tell_309 : decode cX5_tell 309 = .ok (.iaload, 1) := by decide +kernel
theorem dX5_tell_310 : decode cX5_tell 310 = .ok (.iaload, 1) := by decide +kernel
theorem dX5_tell_311 : decode cX5_tell 311 = .ok (.invokevirtual 392, 3) := by decide +kernel
theorem dX5_tell_314 : decode cX5_tell 314 = .ok (.aload_n 0, 1) := by decide +kernel
theorem dX5_tell_315 : decode cX5_tell 315 = .ok (.getfield 324, 3) := by decide +kernel
theorem dX5_tell_318 : decode cX5_tell 318 = .ok (.istore 12, 2) := by decide +kernel
theorem dX5_tell_320 : decode cX5_tell 320 = .ok (.iconst 1, 1) := by decide +kernel
theorem dX5_tell_321 : decode cX5_tell 321 = .ok (.istore 13, 2) := by decide +kernel
theorem dX5_tell_323 : decode cX5_tell 323 = .ok (.aload_n 0, 1) := by decide +kernel
theorem dX5_tell_324 : decode cX5_tell 324 = .ok (.getfield 150, 3) := by decide +kernel
theorem dX5_tell_327 : decode cX5_tell 327 = .ok (.ifCond .ne 55, 3) := by decide +kernel
theorem dX5_tell_330 : decode cX5_tell 330 = .ok (.iload 13, 2) := by decide +kernel
theorem dX5_tell_332 : decode cX5_tell 332 = .ok (.iload 12, 2) := by decide +kernel
theorem dX5_tell_334 : decode cX5_tell 334 = .ok (.iload 6, 2) := by decide +kernel
theorem dX5_tell_336 : decode cX5_tell 336 = .ok (.isub, 1) := by decide +kernel
theorem dX5_tell_337 : decode cX5_tell 337 = .ok (.if_icmp .gt 45, 3) := by decide +kernel
theorem dX5_tell_340 : decode cX5_tell 340 = .ok (.aload_n 0, 1) := by decide +kernel
theorem dX5_tell_341 : decode cX5_tell 341 = .ok (.bipush 32, 2) := by decide +kernel
theorem dX5_tell_343 : decode cX5_tell 343 = .ok (.invokevirtual 384, 3) := by decide +kernel
theorem dX5_tell_346 : decode cX5_tell 346 = .ok (.aload_n 0, 1) := by decide +kernel
theorem dX5_tell_347 : decode cX5_tell 347 = .ok (.aload_n 0, 1) := by decide +kernel
theorem dX5_tell_348 : decode cX5_tell 348 = .ok (.getfield 128, 3) := by decide +kernel
theorem dX5_tell_351 : decode cX5_tell 351 = .ok (.iload 12, 2) := by decide +kernel
theorem dX5_tell_353 : decode cX5_tell 353 = .ok (.iload 13, 2) := by decide +kernel
theorem dX5_tell_355 : decode cX5_tell 355 = .ok (.isub, 1) := by decide +kernel
theorem dX5_tell_356 : decode cX5_tell 356 = .ok (.iaload, 1) := by decide +kernel
theorem dX5_tell_357 : decode cX5_tell 357 = .ok (.aload_n 0, 1) := by decide +kernel
theorem dX5_tell_358 : decode cX5_tell 358 = .ok (.getfield 131, 3) := by decide +kernel
theorem dX5_tell_361 : decode cX5_tell 361 = .ok (.iload 12, 2) := by decide +kernel
theorem dX5_tell_363 : decode cX5_tell 363 = .ok (.iload 13, 2) := by decide +kernel
theorem dX5_tell_365 : decode cX5_tell 365 = .ok (.isub, 1) := by decide +kernel
theorem dX5_tell_366 : decode cX5_tell 366 = .ok (.iaload, 1) := by decide +kernel
theorem dX5_tell_367 : decode cX5_tell 367 = .ok (.iload_n 3, 1) := by decide +kernel
theorem dX5_tell_368 : decode cX5_tell 368 = .ok (.iconst 1, 1) := by decide +kernel
theorem dX5_tell_369 : decode cX5_tell 369 = .ok (.iadd, 1) := by decide +kernel
theorem dX5_tell_370 : decode cX5_tell 370 = .ok (.iload 4, 2) := by decide +kernel
theorem dX5_tell_372 : decode cX5_tell 372 = .ok (.iconst 2, 1) := by decide +kernel
theorem dX5_tell_373 : decode cX5_tell 373 = .ok (.invokevirtual 387, 3) := by decide +kernel
theorem dX5_tell_376 : decode cX5_tell 376 = .ok (.iinc 13 1, 3) := by decide +kernel
theorem dX5_tell_379 : decode cX5_tell 379 = .ok (.goto (-56), 3) := by decide +kernel
theorem dX5_tell_382 : decode cX5_tell 382 = .ok (.aload_n 0, 1) := by decide +kernel
theorem dX5_tell_383 : decode cX5_tell 383 = .ok (.getfield 150, 3) := by decide +kernel
theorem dX5_tell_386 : decode cX5_tell 386 = .ok (.ifCond .eq 4, 3) := by decide +kernel
theorem dX5_tell_389 : decode cX5_tell 389 = .ok (.return_, 1) := by decide +kernel
theorem dX5_tell_390 : decode cX5_tell 390 = .ok (.aload_n 0, 1) := by decide +kernel
theorem dX5_tell_391 : decode cX5_tell 391 = .ok (.iload 6, 2) := by decide +kernel
theorem dX5_tell_393 : decode cX5_tell 393 = .ok (.putfield 324, 3) := by decide +kernel
theorem dX5_tell_396 : decode cX5_tell 396 = .ok (.iload 11, 2) := by decide +kernel
theorem dX5_tell_398 : decode cX5_tell 398 = .ok (.ifCond .eq 9, 3) := by decide +kernel
theorem dX5_tell_401 : decode cX5_tell 401 = .ok (.aload_n 0, 1) := by decide +kernel
theorem dX5_tell_402 : decode cX5_tell 402 = .ok (.bipush 41, 2) := by decide +kernel
theorem dX5_tell_404 : decode cX5_tell 404 = .ok (.invokevirtual 384, 3) := by decide +kernel
theorem dX5_tell_407 : decode cX5_tell 407 = .ok (.return_, 1) := by decide +kernel
abbrev cX5_number : ByteArray := prog_26_method_39_code
def yX5_number : MethodName := ⟨RX5, "number", "(I)V"⟩
theorem dX5_number_0 : decode cX5_number 0 = .ok (.iload_n 1, 1) := by decide +kernel
theorem dX5_number_1 : decode cX5_number 1 = .ok (.bipush 9, 2) := by decide +kernel
theorem dX5_number_3 : decode cX5_number 3 = .ok (.if_icmp .le 11, 3) := by decide +kernel
theorem dX5_number_6 : decode cX5_number 6 = .ok (.aload_n 0, 1) := by decide +kernel
theorem dX5_number_7 : decode cX5_number 7 = .ok (.iload_n 1, 1) := by decide +kernel
theorem dX5_number_8 : decode cX5_number 8 = .ok (.bipush 10, 2) := by decide +kernel
theorem dX5_number_10 : decode cX5_number 10 = .ok (.idiv, 1) := by decide +kernel
theorem dX5_number_11 : decode cX5_number 11 = .ok (.invokevirtual 381, 3) := by decide +kernel
theorem dX5_number_14 : decode cX5_number 14 = .ok (.aload_n 0, 1) := by decide +kernel
theorem dX5_number_15 : decode cX5_number 15 = .ok (.bipush 48, 2) := by decide +kernel
theorem dX5_number_17 : decode cX5_number 17 = .ok (.iload_n 1, 1) := by decide +kernel
theorem dX5_number_18 : decode cX5_number 18 = .ok (.bipush 10, 2) := by decide +kernel
theorem dX5_number_20 : decode cX5_number 20 = .ok (.irem, 1) := by decide +kernel
theorem dX5_number_21 : decode cX5_number 21 = .ok (.iadd, 1) := by decide +kernel
theorem dX5_number_22 : decode cX5_number 22 = .ok (.invokevirtual 384, 3) := by decide +kernel
theorem dX5_number_25 : decode cX5_number 25 = .ok (.return_, 1) := by decide +kernel
abbrev cX5_putWord : ByteArray := prog_26_method_40_code
def yX5_putWord : MethodName := ⟨RX5, "putWord", "(I[II)V"⟩
theorem dX5_putWord_0 : decode cX5_putWord 0 = .ok (.iconst 0, 1) := by decide +kernel
theorem dX5_putWord_1 : decode cX5_putWord 1 = .ok (.istore 4, 2) := by decide +kernel
theorem dX5_putWord_3 : decode cX5_putWord 3 = .ok (.iload 4, 2) := by decide +kernel
theorem dX5_putWord_5 : decode cX5_putWord 5 = .ok (.iload_n 3, 1) := by decide +kernel
theorem dX5_putWord_6 : decode cX5_putWord 6 = .ok (.if_icmp .ge 19, 3) := by decide +kernel
theorem dX5_putWord_9 : decode cX5_putWord 9 = .ok (.aload_n 0, 1) := by decide +kernel
theorem dX5_putWord_10 : decode cX5_putWord 10 = .ok (.aload_n 2, 1) := by decide +kernel
theorem dX5_putWord_11 : decode cX5_putWord 11 = .ok (.iload_n 1, 1) := by decide +kernel
theorem dX5_putWord_12 : decode cX5_putWord 12 = .ok (.iload 4, 2) := by decide +kernel
theorem dX5_putWord_14 : decode cX5_putWord 14 = .ok (.iadd, 1) := by decide +kernel
theorem dX5_putWord_15 : decode cX5_putWord 15 = .ok (.iaload, 1) := by decide +kernel
theorem dX5_putWord_16 : decode cX5_putWord 16 = .ok (.invokevirtual 384, 3) := by decide +kernel
theorem dX5_putWord_19 : decode cX5_putWord 19 = .ok (.iinc 4 1, 3) := by decide +kernel
theorem dX5_putWord_22 : decode cX5_putWord 22 = .ok (.goto (-19), 3) := by decide +kernel
theorem dX5_putWord_25 : decode cX5_putWord 25 = .ok (.return_, 1) := by decide +kernel
abbrev cX5_tellHead : ByteArray := prog_26_method_62_code
def yX5_tellHead : MethodName := ⟨RX5, "tellHead", "()V"⟩
theorem dX5_tellHead_0 : decode cX5_tellHead 0 = .ok (.aload_n 0, 1) := by decide +kernel
theorem dX5_tellHead_1 : decode cX5_tellHead 1 = .ok (.aload_n 0, 1) := by decide +kernel
theorem dX5_tellHead_2 : decode cX5_tellHead 2 = .ok (.getfield 281, 3) := by decide +kernel
theorem dX5_tellHead_5 : decode cX5_tellHead 5 = .ok (.iconst 0, 1) := by decide +kernel
theorem dX5_tellHead_6 : decode cX5_tellHead 6 = .ok (.invokevirtual 357, 3) := by decide +kernel
theorem dX5_tellHead_9 : decode cX5_tellHead 9 = .ok (.aload_n 0, 1) := by decide +kernel
theorem dX5_tellHead_10 : decode cX5_tellHead 10 = .ok (.getfield 150, 3) := by decide +kernel
theorem dX5_tellHead_13 : decode cX5_tellHead 13 = .ok (.ifCond .eq 4, 3) := by decide +kernel
theorem dX5_tellHead_16 : decode cX5_tellHead 16 = .ok (.return_, 1) := by decide +kernel
theorem dX5_tellHead_17 : decode cX5_tellHead 17 = .ok (.aload_n 0, 1) := by decide +kernel
theorem dX5_tellHead_18 : decode cX5_tellHead 18 = .ok (.aload_n 0, 1) := by decide +kernel
theorem dX5_tellHead_19 : decode cX5_tellHead 19 = .ok (.getfield 348, 3) := by decide +kernel
theorem dX5_tellHead_22 : decode cX5_tellHead 22 = .ok (.invokevirtual 363, 3) := by decide +kernel
theorem dX5_tellHead_25 : decode cX5_tellHead 25 = .ok (.istore_n 1, 1) := by decide +kernel
theorem dX5_tellHead_26 : decode cX5_tellHead 26 = .ok (.iload_n 1, 1) := by decide +kernel
theorem dX5_tellHead_27 : decode cX5_tellHead 27 = .ok (.iconst 4, 1) := by decide +kernel
theorem dX5_tellHead_28 : decode cX5_tellHead 28 = .ok (.if_icmp .ne 12, 3) := by decide +kernel
theorem dX5_tellHead_31 : decode cX5_tellHead 31 = .ok (.aload_n 0, 1) := by decide +kernel
theorem dX5_tellHead_32 : decode cX5_tellHead 32 = .ok (.bipush 92, 2) := by decide +kernel
theorem dX5_tellHead_34 : decode cX5_tellHead 34 = .ok (.invokevirtual 384, 3) := by decide +kernel
theorem dX5_tellHead_37 : decode cX5_tellHead 37 = .ok (.goto 93, 3) := by decide +kernel
theorem dX5_tellHead_40 : decode cX5_tellHead 40 = .ok (.iload_n 1, 1) := by decide +kernel
theorem dX5_tellHead_41 : decode cX5_tellHead 41 = .ok (.iconst 5, 1) := by decide +kernel
theorem dX5_tellHead_42 : decode cX5_tellHead 42 = .ok (.if_icmp .ne 12, 3) := by decide +kernel
theorem dX5_tellHead_45 : decode cX5_tellHead 45 = .ok (.aload_n 0, 1) := by decide +kernel
theorem dX5_tellHead_46 : decode cX5_tellHead 46 = .ok (.bipush 33, 2) := by decide +kernel
theorem dX5_tellHead_48 : decode cX5_tellHead 48 = .ok (.invokevirtual 384, 3) := by decide +kernel
theorem dX5_tellHead_51 : decode cX5_tellHead 51 = .ok (.goto 79, 3) := by decide +kernel
theorem dX5_tellHead_54 : decode cX5_tellHead 54 = .ok (.iload_n 1, 1) := by decide +kernel
theorem dX5_tellHead_55 : decode cX5_tellHead 55 = .ok (.iconst 3, 1) := by decide +kernel
theorem dX5_tellHead_56 : decode cX5_tellHead 56 = .ok (.if_icmp .ne 40, 3) := by decide +kernel
theorem dX5_tellHead_59 : decode cX5_tellHead 59 = .ok (.aload_n 0, 1) := by decide +kernel
theorem dX5_tellHead_60 : decode cX5_tellHead 60 = .ok (.bipush 12, 2) := by decide +kernel
theorem dX5_tellHead_62 : decode cX5_tellHead 62 = .ok (.aload_n 0, 1) := by decide +kernel
theorem dX5_tellHead_63 : decode cX5_tellHead 63 = .ok (.getfield 79, 3) := by decide +kernel
theorem dX5_tellHead_66 : decode cX5_tellHead 66 = .ok (.aload_n 0, 1) := by decide +kernel
theorem dX5_tellHead_67 : decode cX5_tellHead 67 = .ok (.getfield 348, 3) := by decide +kernel
theorem dX5_tellHead_70 : decode cX5_tellHead 70 = .ok (.iaload, 1) := by decide +kernel
theorem dX5_tellHead_71 : decode cX5_tellHead 71 = .ok (.imul, 1) := by decide +kernel
theorem dX5_tellHead_72 : decode cX5_tellHead 72 = .ok (.aload_n 0, 1) := by decide +kernel
theorem dX5_tellHead_73 : decode cX5_tellHead 73 = .ok (.getfield 44, 3) := by decide +kernel
theorem dX5_tellHead_76 : decode cX5_tellHead 76 = .ok (.aload_n 0, 1) := by decide +kernel
theorem dX5_tellHead_77 : decode cX5_tellHead 77 = .ok (.getfield 47, 3) := by decide +kernel
theorem dX5_tellHead_80 : decode cX5_tellHead 80 = .ok (.aload_n 0, 1) := by decide +kernel
theorem dX5_tellHead_81 : decode cX5_tellHead 81 = .ok (.getfield 79, 3) := by decide +kernel
theorem dX5_tellHead_84 : decode cX5_tellHead 84 = .ok (.aload_n 0, 1) := by decide +kernel
theorem dX5_tellHead_85 : decode cX5_tellHead 85 = .ok (.getfield 348, 3) := by decide +kernel
theorem dX5_tellHead_88 : decode cX5_tellHead 88 = .ok (.iaload, 1) := by decide +kernel
theorem dX5_tellHead_89 : decode cX5_tellHead 89 = .ok (.iaload, 1) := by decide +kernel
theorem dX5_tellHead_90 : decode cX5_tellHead 90 = .ok (.invokevirtual 392, 3) := by decide +kernel
theorem dX5_tellHead_93 : decode cX5_tellHead 93 = .ok (.goto 37, 3) := by decide +kernel
theorem dX5_tellHead_96 : decode cX5_tellHead 96 = .ok (.aload_n 0, 1) := by decide +kernel
theorem dX5_tellHead_97 : decode cX5_tellHead 97 = .ok (.bipush 12, 2) := by decide +kernel
theorem dX5_tellHead_99 : decode cX5_tellHead 99 = .ok (.aload_n 0, 1) := by decide +kernel
theorem dX5_tellHead_100 : decode cX5_tellHead 100 = .ok (.getfield 79, 3) := by decide +kernel
theorem dX5_tellHead_103 : decode cX5_tellHead 103 = .ok (.aload_n 0, 1) := by decide +kernel
theorem dX5_tellHead_104 : decode cX5_tellHead 104 = .ok (.getfield 348, 3) := by decide +kernel
theorem dX5_tellHead_107 : decode cX5_tellHead 107 = .ok (.iaload, 1) := by decide +kernel
theorem dX5_tellHead_108 : decode cX5_tellHead 108 = .ok (.imul, 1) := by decide +kernel
theorem dX5_tellHead_109 : decode cX5_tellHead 109 = .ok (.aload_n 0, 1) := by decide +kernel
theorem dX5_tellHead_110 : decode cX5_tellHead 110 = .ok (.getfield 54, 3) := by decide +kernel
theorem dX5_tellHead_113 : decode cX5_tellHead 113 = .ok (.aload_n 0, 1) := by decide +kernel
theorem dX5_tellHead_114 : decode cX5_tellHead 114 = .ok (.getfield 57, 3) := by decide +kernel
theorem dX5_tellHead_117 : decode cX5_tellHead 117 = .ok (.aload_n 0, 1) := by decide +kernel
theorem dX5_tellHead_118 : decode cX5_tellHead 118 = .ok (.getfield 79, 3) := by decide +kernel
theorem dX5_tellHead_121 : decode cX5_tellHead 121 = .ok (.aload_n 0, 1) := by decide +kernel
theorem dX5_tellHead_122 : decode cX5_tellHead 122 = .ok (.getfield 348, 3) := by decide +kernel
theorem dX5_tellHead_125 : decode cX5_tellHead 125 = .ok (.iaload, 1) := by decide +kernel
theorem dX5_tellHead_126 : decode cX5_tellHead 126 = .ok (.iaload, 1) := by decide +kernel
theorem dX5_tellHead_127 : decode cX5_tellHead 127 = .ok (.invokevirtual 392, 3) := by decide +kernel
theorem dX5_tellHead_130 : decode cX5_tellHead 130 = .ok (.aload_n 0, 1) := by decide +kernel
theorem dX5_tellHead_131 : decode cX5_tellHead 131 = .ok (.bipush 32, 2) := by decide +kernel
theorem dX5_tellHead_133 : decode cX5_tellHead 133 = .ok (.invokevirtual 384, 3) := by decide +kernel
theorem dX5_tellHead_136 : decode cX5_tellHead 136 = .ok (.aload_n 0, 1) := by decide +kernel
theorem dX5_tellHead_137 : decode cX5_tellHead 137 = .ok (.aload_n 0, 1) := by decide +kernel
theorem dX5_tellHead_138 : decode cX5_tellHead 138 = .ok (.getfield 324, 3) := by decide +kernel
theorem dX5_tellHead_141 : decode cX5_tellHead 141 = .ok (.invokevirtual 381, 3) := by decide +kernel
theorem dX5_tellHead_144 : decode cX5_tellHead 144 = .ok (.aload_n 0, 1) := by decide +kernel
theorem dX5_tellHead_145 : decode cX5_tellHead 145 = .ok (.bipush 10, 2) := by decide +kernel
theorem dX5_tellHead_147 : decode cX5_tellHead 147 = .ok (.invokevirtual 384, 3) := by decide +kernel
theorem dX5_tellHead_150 : decode cX5_tellHead 150 = .ok (.return_, 1) := by decide +kernel
abbrev cX5_told : ByteArray := prog_26_method_59_code
def yX5_told : MethodName := ⟨RX5, "told", "()V"⟩
theorem dX5_told_0 : decode cX5_told 0 = .ok (.aload_n 0, 1) := by decide +kernel
theorem dX5_told_1 : decode cX5_told 1 = .ok (.aload_n 0, 1) := by decide +kernel
theorem dX5_told_2 : decode cX5_told 2 = .ok (.getfield 290, 3) := by decide +kernel
theorem dX5_told_5 : decode cX5_told 5 = .ok (.invokevirtual 415, 3) := by decide +kernel
theorem dX5_told_8 : decode cX5_told 8 = .ok (.ifCond .ge 14, 3) := by decide +kernel
theorem dX5_told_11 : decode cX5_told 11 = .ok (.aload_n 0, 1) := by decide +kernel
theorem dX5_told_12 : decode cX5_told 12 = .ok (.aload_n 0, 1) := by decide +kernel
theorem dX5_told_13 : decode cX5_told 13 = .ok (.getfield 290, 3) := by decide +kernel
theorem dX5_told_16 : decode cX5_told 16 = .ok (.invokevirtual 418, 3) := by decide +kernel
theorem dX5_told_19 : decode cX5_told 19 = .ok (.ifCond .lt 20, 3) := by decide +kernel
theorem dX5_told_22 : decode cX5_told 22 = .ok (.aload_n 0, 1) := by decide +kernel
theorem dX5_told_23 : decode cX5_told 23 = .ok (.iconst 4, 1) := by decide +kernel
theorem dX5_told_24 : decode cX5_told 24 = .ok (.aload_n 0, 1) := by decide +kernel
theorem dX5_told_25 : decode cX5_told 25 = .ok (.getfield 79, 3) := by decide +kernel
theorem dX5_told_28 : decode cX5_told 28 = .ok (.aload_n 0, 1) := by decide +kernel
theorem dX5_told_29 : decode cX5_told 29 = .ok (.getfield 290, 3) := by decide +kernel
theorem dX5_told_32 : decode cX5_told 32 = .ok (.iaload, 1) := by decide +kernel
theorem dX5_told_33 : decode cX5_told 33 = .ok (.invokevirtual 218, 3) := by decide +kernel
theorem dX5_told_36 : decode cX5_told 36 = .ok (.goto 26, 3) := by decide +kernel
theorem dX5_told_39 : decode cX5_told 39 = .ok (.aload_n 0, 1) := by decide +kernel
theorem dX5_told_40 : decode cX5_told 40 = .ok (.getfield 167, 3) := by decide +kernel
theorem dX5_told_43 : decode cX5_told 43 = .ok (.bipush 100, 2) := by decide +kernel
theorem dX5_told_45 : decode cX5_told 45 = .ok (.if_icmp .ne 17, 3) := by decide +kernel
theorem dX5_told_48 : decode cX5_told 48 = .ok (.aload_n 0, 1) := by decide +kernel
theorem dX5_told_49 : decode cX5_told 49 = .ok (.iconst 5, 1) := by decide +kernel
theorem dX5_told_50 : decode cX5_told 50 = .ok (.aload_n 0, 1) := by decide +kernel
theorem dX5_told_51 : decode cX5_told 51 = .ok (.getfield 79, 3) := by decide +kernel
theorem dX5_told_54 : decode cX5_told 54 = .ok (.aload_n 0, 1) := by decide +kernel
theorem dX5_told_55 : decode cX5_told 55 = .ok (.getfield 290, 3) := by decide +kernel
theorem dX5_told_58 : decode cX5_told 58 = .ok (.iaload, 1) := by decide +kernel
theorem dX5_told_59 : decode cX5_told 59 = .ok (.invokevirtual 218, 3) := by decide +kernel
theorem dX5_told_62 : decode cX5_told 62 = .ok (.iconst 0, 1) := by decide +kernel
theorem dX5_told_63 : decode cX5_told 63 = .ok (.istore_n 1, 1) := by decide +kernel
theorem dX5_told_64 : decode cX5_told 64 = .ok (.iconst 0, 1) := by decide +kernel
theorem dX5_told_65 : decode cX5_told 65 = .ok (.istore_n 2, 1) := by decide +kernel
theorem dX5_told_66 : decode cX5_told 66 = .ok (.aload_n 0, 1) := by decide +kernel
theorem dX5_told_67 : decode cX5_told 67 = .ok (.getfield 150, 3) := by decide +kernel
theorem dX5_told_70 : decode cX5_told 70 = .ok (.ifCond .ne 38, 3) := by decide +kernel
theorem dX5_told_73 : decode cX5_told 73 = .ok (.aload_n 0, 1) := by decide +kernel
theorem dX5_told_74 : decode cX5_told 74 = .ok (.getfield 284, 3) := by decide +kernel
theorem dX5_told_77 : decode cX5_told 77 = .ok (.ifCond .lt 31, 3) := by decide +kernel
theorem dX5_told_80 : decode cX5_told 80 = .ok (.aload_n 0, 1) := by decide +kernel
theorem dX5_told_81 : decode cX5_told 81 = .ok (.aload_n 0, 1) := by decide +kernel
theorem dX5_told_82 : decode cX5_told 82 = .ok (.getfield 284, 3) := by decide +kernel
theorem dX5_told_85 : decode cX5_told 85 = .ok (.iconst 0, 1) := by decide +kernel
theorem dX5_told_86 : decode cX5_told 86 = .ok (.invokevirtual 440, 3) := by decide +kernel
theorem dX5_told_89 : decode cX5_told 89 = .ok (.istore_n 1, 1) := by decide +kernel
theorem dX5_told_90 : decode cX5_told 90 = .ok (.aload_n 0, 1) := by decide +kernel
theorem dX5_told_91 : decode cX5_told 91 = .ok (.getfield 150, 3) := by decide +kernel
theorem dX5_told_94 : decode cX5_told 94 = .ok (.ifCond .ne 14, 3) := by decide +kernel
theorem dX5_told_97 : decode cX5_told 97 = .ok (.aload_n 0, 1) := by decide +kernel
theorem dX5_told_98 : decode cX5_told 98 = .ok (.aload_n 0, 1) := by decide +kernel
theorem dX5_told_99 : decode cX5_told 99 = .ok (.getfield 284, 3) := by decide +kernel
theorem dX5_told_102 : decode cX5_told 102 = .ok (.iconst 0, 1) := by decide +kernel
theorem dX5_told_103 : decode cX5_told 103 = .ok (.iconst 0, 1) := by decide +kernel
theorem dX5_told_104 : decode cX5_told 104 = .ok (.invokevirtual 396, 3) := by decide +kernel
theorem dX5_told_107 : decode cX5_told 107 = .ok (.istore_n 2, 1) := by decide +kernel
theorem dX5_told_108 : decode cX5_told 108 = .ok (.aload_n 0, 1) := by decide +kernel
theorem dX5_told_109 : decode cX5_told 109 = .ok (.getfield 150, 3) := by decide +kernel
theorem dX5_told_112 : decode cX5_told 112 = .ok (.ifCond .ne 63, 3) := by decide +kernel
theorem dX5_told_115 : decode cX5_told 115 = .ok (.aload_n 0, 1) := by decide +kernel
theorem dX5_told_116 : decode cX5_told 116 = .ok (.getfield 281, 3) := by decide +kernel
theorem dX5_told_119 : decode cX5_told 119 = .ok (.ifCond .lt 56, 3) := by decide +kernel
theorem dX5_told_122 : decode cX5_told 122 = .ok (.aload_n 0, 1) := by decide +kernel
theorem dX5_told_123 : decode cX5_told 123 = .ok (.aload_n 0, 1) := by decide +kernel
theorem dX5_told_124 : decode cX5_told 124 = .ok (.getfield 281, 3) := by decide +kernel
theorem dX5_told_127 : decode cX5_told 127 = .ok (.iconst 0, 1) := by decide +kernel
theorem dX5_told_128 : decode cX5_told 128 = .ok (.invokevirtual 421, 3) := by decide +kernel
theorem dX5_told_131 : decode cX5_told 131 = .ok (.aload_n 0, 1) := by decide +kernel
theorem dX5_told_132 : decode cX5_told 132 = .ok (.getfield 150, 3) := by decide +kernel
theorem dX5_told_135 : decode cX5_told 135 = .ok (.ifCond .ne 40, 3) := by decide +kernel
theorem dX5_told_138 : decode cX5_told 138 = .ok (.aload_n 0, 1) := by decide +kernel
theorem dX5_told_139 : decode cX5_told 139 = .ok (.getfield 284, 3) := by decide +kernel
theorem dX5_told_142 : decode cX5_told 142 = .ok (.ifCond .lt 33, 3) := by decide +kernel
theorem dX5_told_145 : decode cX5_told 145 = .ok (.aload_n 0, 1) := by decide +kernel
theorem dX5_told_146 : decode cX5_told 146 = .ok (.iload_n 2, 1) := by decide +kernel
theorem dX5_told_147 : decode cX5_told 147 = .ok (.iconst 0, 1) := by decide +kernel
theorem dX5_told_148 : decode cX5_told 148 = .ok (.aload_n 0, 1) := by decide +kernel
theorem dX5_told_149 : decode cX5_told 149 = .ok (.getfield 403, 3) := by decide +kernel
theorem dX5_told_152 : decode cX5_told 152 = .ok (.iconst 0, 1) := by decide +kernel
theorem dX5_told_153 : decode cX5_told 153 = .ok (.iconst 0, 1) := by decide +kernel
theorem dX5_told_154 : decode cX5_told 154 = .ok (.invokevirtual 366, 3) := by decide +kernel
theorem dX5_told_157 : decode cX5_told 157 = .ok (.ifCond .ne 18, 3) := by decide +kernel
theorem dX5_told_160 : decode cX5_told 160 = .ok (.aload_n 0, 1) := by decide +kernel
theorem dX5_told_161 : decode cX5_told 161 = .ok (.bipush 11, 2) := by decide +kernel
theorem dX5_told_163 : decode cX5_told 163 = .ok (.aload_n 0, 1) := by decide +kernel
theorem dX5_told_164 : decode cX5_told 164 = .ok (.getfield 88, 3) := by decide +kernel
theorem dX5_told_167 : decode cX5_told 167 = .ok (.aload_n 0, 1) := by decide +kernel
theorem dX5_told_168 : decode cX5_told 168 = .ok (.getfield 281, 3) := by decide +kernel
theorem dX5_told_171 : decode cX5_told 171 = .ok (.iaload, 1) := by decide +kernel
theorem dX5_told_172 : decode cX5_told 172 = .ok (.invokevirtual 218, 3) := by decide +kernel
theorem dX5_told_175 : decode cX5_told 175 = .ok (.aload_n 0, 1) := by decide +kernel
theorem dX5_told_176 : decode cX5_told 176 = .ok (.getfield 150, 3) := by decide +kernel
theorem dX5_told_179 : decode cX5_told 179 = .ok (.ifCond .eq 4, 3) := by decide +kernel
theorem dX5_told_182 : decode cX5_told 182 = .ok (.return_, 1) := by decide +kernel
theorem dX5_told_183 : decode cX5_told 183 = .ok (.aload_n 0, 1) := by decide +kernel
theorem dX5_told_184 : decode cX5_told 184 = .ok (.getfield 284, 3) := by decide +kernel
theorem dX5_told_187 : decode cX5_told 187 = .ok (.ifCond .lt 9, 3) := by decide +kernel
theorem dX5_told_190 : decode cX5_told 190 = .ok (.aload_n 0, 1) := by decide +kernel
theorem dX5_told_191 : decode cX5_told 191 = .ok (.iload_n 2, 1) := by decide +kernel
theorem dX5_told_192 : decode cX5_told 192 = .ok (.iload_n 1, 1) := by decide +kernel
theorem dX5_told_193 : decode cX5_told 193 = .ok (.invokevirtual 412, 3) := by decide +kernel
theorem dX5_told_196 : decode cX5_told 196 = .ok (.iconst 0, 1) := by decide +kernel
theorem dX5_told_197 : decode cX5_told 197 = .ok (.istore_n 3, 1) := by decide +kernel
theorem dX5_told_198 : decode cX5_told 198 = .ok (.iload_n 3, 1) := by decide +kernel
theorem dX5_told_199 : decode cX5_told 199 = .ok (.aload_n 0, 1) := by decide +kernel
theorem dX5_told_200 : decode cX5_told 200 = .ok (.getfield 82, 3) := by decide +kernel
theorem dX5_told_203 : decode cX5_told 203 = .ok (.aload_n 0, 1) := by decide +kernel
theorem dX5_told_204 : decode cX5_told 204 = .ok (.getfield 290, 3) := by decide +kernel
theorem dX5_told_207 : decode cX5_told 207 = .ok (.iaload, 1) := by decide +kernel
theorem dX5_told_208 : decode cX5_told 208 = .ok (.if_icmp .ge 39, 3) := by decide +kernel
theorem dX5_told_211 : decode cX5_told 211 = .ok (.aload_n 0, 1) := by decide +kernel
theorem dX5_told_212 : decode cX5_told 212 = .ok (.getfield 54, 3) := by decide +kernel
theorem dX5_told_215 : decode cX5_told 215 = .ok (.bipush 12, 2) := by decide +kernel
theorem dX5_told_217 : decode cX5_told 217 = .ok (.aload_n 0, 1) := by decide +kernel
theorem dX5_told_218 : decode cX5_told 218 = .ok (.getfield 167, 3) := by decide +kernel
theorem dX5_told_221 : decode cX5_told 221 = .ok (.imul, 1) := by decide +kernel
theorem dX5_told_222 : decode cX5_told 222 = .ok (.iload_n 3, 1) := by decide +kernel
theorem dX5_told_223 : decode cX5_told 223 = .ok (.iadd, 1) := by decide +kernel
theorem dX5_told_224 : decode cX5_told 224 = .ok (.aload_n 0, 1) := by decide +kernel
theorem dX5_told_225 : decode cX5_told 225 = .ok (.getfield 37, 3) := by decide +kernel
theorem dX5_told_228 : decode cX5_told 228 = .ok (.aload_n 0, 1) := by decide +kernel
theorem dX5_told_229 : decode cX5_told 229 = .ok (.getfield 79, 3) := by decide +kernel
theorem dX5_told_232 : decode cX5_told 232 = .ok (.aload_n 0, 1) := by decide +kernel
theorem dX5_told_233 : decode cX5_told 233 = .ok (.getfield 290, 3) := by decide +kernel
theorem dX5_told_236 : decode cX5_told 236 = .ok (.iaload, 1) := by decide +kernel
theorem dX5_told_237 : decode cX5_told 237 = .ok (.iload_n 3, 1) := by decide +kernel
theorem dX5_told_238 : decode cX5_told 238 = .ok (.iadd, 1) := by decide +kernel
theorem dX5_told_239 : decode cX5_told 239 = .ok (.iaload, 1) := by decide +kernel
theorem dX5_told_240 : decode cX5_told 240 = .ok (.iastore, 1) := by decide +kernel
theorem dX5_told_241 : decode cX5_told 241 = .ok (.iinc 3 1, 3) := by decide +kernel
theorem dX5_told_244 : decode cX5_told 244 = .ok (.goto (-46), 3) := by decide +kernel
theorem dX5_told_247 : decode cX5_told 247 = .ok (.aload_n 0, 1) := by decide +kernel
theorem dX5_told_248 : decode cX5_told 248 = .ok (.getfield 57, 3) := by decide +kernel
theorem dX5_told_251 : decode cX5_told 251 = .ok (.aload_n 0, 1) := by decide +kernel
theorem dX5_told_252 : decode cX5_told 252 = .ok (.getfield 167, 3) := by decide +kernel
theorem dX5_told_255 : decode cX5_told 255 = .ok (.aload_n 0, 1) := by decide +kernel
theorem dX5_told_256 : decode cX5_told 256 = .ok (.getfield 82, 3) := by decide +kernel
theorem dX5_told_259 : decode cX5_told 259 = .ok (.aload_n 0, 1) := by decide +kernel
theorem dX5_told_260 : decode cX5_told 260 = .ok (.getfield 290, 3) := by decide +kernel
theorem dX5_told_263 : decode cX5_told 263 = .ok (.iaload, 1) := by decide +kernel
theorem dX5_told_264 : decode cX5_told 264 = .ok (.iastore, 1) := by decide +kernel
theorem dX5_told_265 : decode cX5_told 265 = .ok (.aload_n 0, 1) := by decide +kernel
theorem dX5_told_266 : decode cX5_told 266 = .ok (.getfield 60, 3) := by decide +kernel
theorem dX5_told_269 : decode cX5_told 269 = .ok (.aload_n 0, 1) := by decide +kernel
theorem dX5_told_270 : decode cX5_told 270 = .ok (.getfield 167, 3) := by decide +kernel
theorem dX5_told_273 : decode cX5_told 273 = .ok (.aload_n 0, 1) := by decide +kernel
theorem dX5_told_274 : decode cX5_told 274 = .ok (.getfield 403, 3) := by decide +kernel
theorem dX5_told_277 : decode cX5_told 277 = .ok (.iastore, 1) := by decide +kernel
theorem dX5_told_278 : decode cX5_told 278 = .ok (.aload_n 0, 1) := by decide +kernel
theorem dX5_told_279 : decode cX5_told 279 = .ok (.getfield 63, 3) := by decide +kernel
theorem dX5_told_282 : decode cX5_told 282 = .ok (.aload_n 0, 1) := by decide +kernel
theorem dX5_told_283 : decode cX5_told 283 = .ok (.getfield 167, 3) := by decide +kernel
theorem dX5_told_286 : decode cX5_told 286 = .ok (.aload_n 0, 1) := by decide +kernel
theorem dX5_told_287 : decode cX5_told 287 = .ok (.getfield 406, 3) := by decide +kernel
theorem dX5_told_290 : decode cX5_told 290 = .ok (.iastore, 1) := by decide +kernel
theorem dX5_told_291 : decode cX5_told 291 = .ok (.aload_n 0, 1) := by decide +kernel
theorem dX5_told_292 : decode cX5_told 292 = .ok (.getfield 66, 3) := by decide +kernel
theorem dX5_told_295 : decode cX5_told 295 = .ok (.aload_n 0, 1) := by decide +kernel
theorem dX5_told_296 : decode cX5_told 296 = .ok (.getfield 167, 3) := by decide +kernel
theorem dX5_told_299 : decode cX5_told 299 = .ok (.aload_n 0, 1) := by decide +kernel
theorem dX5_told_300 : decode cX5_told 300 = .ok (.getfield 281, 3) := by decide +kernel
theorem dX5_told_303 : decode cX5_told 303 = .ok (.iastore, 1) := by decide +kernel
theorem dX5_told_304 : decode cX5_told 304 = .ok (.aload_n 0, 1) := by decide +kernel
theorem dX5_told_305 : decode cX5_told 305 = .ok (.getfield 69, 3) := by decide +kernel
theorem dX5_told_308 : decode cX5_told 308 = .ok (.aload_n 0, 1) := by decide +kernel
theorem dX5_told_309 : decode cX5_told 309 = .ok (.getfield 167, 3) := by decide +kernel
theorem dX5_told_312 : decode cX5_told 312 = .ok (.aload_n 0, 1) := by decide +kernel
theorem dX5_told_313 : decode cX5_told 313 = .ok (.getfield 173, 3) := by decide +kernel
theorem dX5_told_316 : decode cX5_told 316 = .ok (.iastore, 1) := by decide +kernel
theorem dX5_told_317 : decode cX5_told 317 = .ok (.aload_n 0, 1) := by decide +kernel
theorem dX5_told_318 : decode cX5_told 318 = .ok (.dup, 1) := by decide +kernel
theorem dX5_told_319 : decode cX5_told 319 = .ok (.getfield 167, 3) := by decide +kernel
theorem dX5_told_322 : decode cX5_told 322 = .ok (.iconst 1, 1) := by decide +kernel
theorem dX5_told_323 : decode cX5_told 323 = .ok (.iadd, 1) := by decide +kernel
theorem dX5_told_324 : decode cX5_told 324 = .ok (.putfield 167, 3) := by decide +kernel
theorem dX5_told_327 : decode cX5_told 327 = .ok (.aload_n 0, 1) := by decide +kernel
theorem dX5_told_328 : decode cX5_told 328 = .ok (.aload_n 0, 1) := by decide +kernel
theorem dX5_told_329 : decode cX5_told 329 = .ok (.getfield 173, 3) := by decide +kernel
theorem dX5_told_332 : decode cX5_told 332 = .ok (.putfield 449, 3) := by decide +kernel
theorem dX5_told_335 : decode cX5_told 335 = .ok (.return_, 1) := by decide +kernel
abbrev cX5_drop : ByteArray := prog_26_method_56_code
def yX5_drop : MethodName := ⟨RX5, "drop", "()V"⟩
theorem dX5_drop_0 : decode cX5_drop 0 = .ok (.aload_n 0, 1) := by decide +kernel
theorem dX5_drop_1 : decode cX5_drop 1 = .ok (.aload_n 0, 1) := by decide +kernel
theorem dX5_drop_2 : decode cX5_drop 2 = .ok (.getfield 449, 3) := by decide +kernel
theorem dX5_drop_5 : decode cX5_drop 5 = .ok (.putfield 173, 3) := by decide +kernel
theorem dX5_drop_8 : decode cX5_drop 8 = .ok (.return_, 1) := by decide +kernel
abbrev cX5_fault : ByteArray := prog_26_method_64_code
def yX5_fault : MethodName := ⟨RX5, "fault", "(I)I"⟩
theorem dX5_fault_0 : decode cX5_fault 0 = .ok (.aload_n 0, 1) := by decide +kernel
theorem dX5_fault_1 : decode cX5_fault 1 = .ok (.iconst 0, 1) := by decide +kernel
theorem dX5_fault_2 : decode cX5_fault 2 = .ok (.putfield 147, 3) := by decide +kernel
theorem dX5_fault_5 : decode cX5_fault 5 = .ok (.iload_n 1, 1) := by decide +kernel
theorem dX5_fault_6 : decode cX5_fault 6 = .ok (.tableswitch 41 0 2 #[26, 31, 36], 26) := by decide +kernel
theorem dX5_fault_32 : decode cX5_fault 32 = .ok (.aload_n 0, 1) := by decide +kernel
theorem dX5_fault_33 : decode cX5_fault 33 = .ok (.getfield 486, 3) := by decide +kernel
theorem dX5_fault_36 : decode cX5_fault 36 = .ok (.ireturn, 1) := by decide +kernel
theorem dX5_fault_37 : decode cX5_fault 37 = .ok (.aload_n 0, 1) := by decide +kernel
theorem dX5_fault_38 : decode cX5_fault 38 = .ok (.getfield 40, 3) := by decide +kernel
theorem dX5_fault_41 : decode cX5_fault 41 = .ok (.ireturn, 1) := by decide +kernel
theorem dX5_fault_42 : decode cX5_fault 42 = .ok (.aload_n 0, 1) := by decide +kernel
theorem dX5_fault_43 : decode cX5_fault 43 = .ok (.getfield 471, 3) := by decide +kernel
theorem dX5_fault_46 : decode cX5_fault 46 = .ok (.ireturn, 1) := by decide +kernel
theorem dX5_fault_47 : decode cX5_fault 47 = .ok (.aload_n 0, 1) := by decide +kernel
theorem dX5_fault_48 : decode cX5_fault 48 = .ok (.iconst 1, 1) := by decide +kernel
theorem dX5_fault_49 : decode cX5_fault 49 = .ok (.invokevirtual 468, 3) := by decide +kernel
theorem dX5_fault_52 : decode cX5_fault 52 = .ok (.ireturn, 1) := by decide +kernel
abbrev cX5_corner : ByteArray := prog_26_method_65_code
def yX5_corner : MethodName := ⟨RX5, "corner", "(I)I"⟩
theorem dX5_corner_0 : decode cX5_corner 0 = .ok (.aload_n 0, 1) := by decide +kernel
theorem dX5_corner_1 : decode cX5_corner 1 = .ok (.iconst 0, 1) := by decide +kernel
theorem dX5_corner_2 : decode cX5_corner 2 = .ok (.putfield 147, 3) := by decide +kernel
theorem dX5_corner_5 : decode cX5_corner 5 = .ok (.iload_n 1, 1) := by decide +kernel
theorem dX5_corner_6 : decode cX5_corner 6 = .ok (.ifCond .lt 9, 3) := by decide +kernel
theorem dX5_corner_9 : decode cX5_corner 9 = .ok (.iload_n 1, 1) := by decide +kernel
theorem dX5_corner_10 : decode cX5_corner 10 = .ok (.bipush 8, 2) := by decide +kernel
theorem dX5_corner_12 : decode cX5_corner 12 = .ok (.if_icmp .le 9, 3) := by decide +kernel
theorem dX5_corner_15 : decode cX5_corner 15 = .ok (.aload_n 0, 1) := by decide +kernel
theorem dX5_corner_16 : decode cX5_corner 16 = .ok (.iconst 1, 1) := by decide +kernel
theorem dX5_corner_17 : decode cX5_corner 17 = .ok (.invokevirtual 468, 3) := by decide +kernel
theorem dX5_corner_20 : decode cX5_corner 20 = .ok (.ireturn, 1) := by decide +kernel
theorem dX5_corner_21 : decode cX5_corner 21 = .ok (.aload_n 0, 1) := by decide +kernel
theorem dX5_corner_22 : decode cX5_corner 22 = .ok (.getfield 167, 3) := by decide +kernel
theorem dX5_corner_25 : decode cX5_corner 25 = .ok (.istore_n 2, 1) := by decide +kernel
theorem dX5_corner_26 : decode cX5_corner 26 = .ok (.aload_n 0, 1) := by decide +kernel
theorem dX5_corner_27 : decode cX5_corner 27 = .ok (.iload_n 1, 1) := by decide +kernel
theorem dX5_corner_28 : decode cX5_corner 28 = .ok (.invokevirtual 143, 3) := by decide +kernel
theorem dX5_corner_31 : decode cX5_corner 31 = .ok (.iload_n 2, 1) := by decide +kernel
theorem dX5_corner_32 : decode cX5_corner 32 = .ok (.ireturn, 1) := by decide +kernel
abbrev cX5_limit : ByteArray := prog_26_method_66_code
def yX5_limit : MethodName := ⟨RX5, "limit", "(I)I"⟩
theorem dX5_limit_0 : decode cX5_limit 0 = .ok (.aload_n 0, 1) := by decide +kernel
theorem dX5_limit_1 : decode cX5_limit 1 = .ok (.iconst 0, 1) := by decide +kernel
theorem dX5_limit_2 : decode cX5_limit 2 = .ok (.putfield 147, 3) := by decide +kernel
theorem dX5_limit_5 : decode cX5_limit 5 = .ok (.iload_n 1, 1) := by decide +kernel
theorem dX5_limit_6 : decode cX5_limit 6 = .ok (.iconst 1, 1) := by decide +kernel
theorem dX5_limit_7 : decode cX5_limit 7 = .ok (.if_icmp .lt 10, 3) := by decide +kernel
theorem dX5_limit_10 : decode cX5_limit 10 = .ok (.iload_n 1, 1) := by decide +kernel
theorem dX5_limit_11 : decode cX5_limit 11 = .ok (.sipush 20000, 3) := by decide +kernel
theorem dX5_limit_14 : decode cX5_limit 14 = .ok (.if_icmp .le 9, 3) := by decide +kernel
theorem dX5_limit_17 : decode cX5_limit 17 = .ok (.aload_n 0, 1) := by decide +kernel
theorem dX5_limit_18 : decode cX5_limit 18 = .ok (.iconst 1, 1) := by decide +kernel
theorem dX5_limit_19 : decode cX5_limit 19 = .ok (.invokevirtual 468, 3) := by decide +kernel
theorem dX5_limit_22 : decode cX5_limit 22 = .ok (.ireturn, 1) := by decide +kernel
theorem dX5_limit_23 : decode cX5_limit 23 = .ok (.aload_n 0, 1) := by decide +kernel
theorem dX5_limit_24 : decode cX5_limit 24 = .ok (.getfield 137, 3) := by decide +kernel
theorem dX5_limit_27 : decode cX5_limit 27 = .ok (.istore_n 2, 1) := by decide +kernel
theorem dX5_limit_28 : decode cX5_limit 28 = .ok (.aload_n 0, 1) := by decide +kernel
theorem dX5_limit_29 : decode cX5_limit 29 = .ok (.iload_n 1, 1) := by decide +kernel
theorem dX5_limit_30 : decode cX5_limit 30 = .ok (.putfield 137, 3) := by decide +kernel
theorem dX5_limit_33 : decode cX5_limit 33 = .ok (.iload_n 2, 1) := by decide +kernel
theorem dX5_limit_34 : decode cX5_limit 34 = .ok (.ireturn, 1) := by decide +kernel
abbrev cX5_outs : ByteArray := prog_26_method_67_code
def yX5_outs : MethodName := ⟨RX5, "outs", "()I"⟩
theorem dX5_outs_0 : decode cX5_outs 0 = .ok (.aload_n 0, 1) := by decide +kernel
theorem dX5_outs_1 : decode cX5_outs 1 = .ok (.iconst 0, 1) := by decide +kernel
theorem dX5_outs_2 : decode cX5_outs 2 = .ok (.putfield 147, 3) := by decide +kernel
theorem dX5_outs_5 : decode cX5_outs 5 = .ok (.aload_n 0, 1) := by decide +kernel
theorem dX5_outs_6 : decode cX5_outs 6 = .ok (.getfield 378, 3) := by decide +kernel
theorem dX5_outs_9 : decode cX5_outs 9 = .ok (.ireturn, 1) := by decide +kernel
abbrev cX5_out : ByteArray := prog_26_method_68_code
def yX5_out : MethodName := ⟨RX5, "out", "(I)I"⟩
theorem dX5_out_0 : decode cX5_out 0 = .ok (.aload_n 0, 1) := by decide +kernel
theorem dX5_out_1 : decode cX5_out 1 = .ok (.iconst 0, 1) := by decide +kernel
theorem dX5_out_2 : decode cX5_out 2 = .ok (.putfield 147, 3) := by decide +kernel
theorem dX5_out_5 : decode cX5_out 5 = .ok (.iload_n 1, 1) := by decide +kernel
theorem dX5_out_6 : decode cX5_out 6 = .ok (.ifCond .lt 18, 3) := by decide +kernel
theorem dX5_out_9 : decode cX5_out 9 = .ok (.iload_n 1, 1) := by decide +kernel
theorem dX5_out_10 : decode cX5_out 10 = .ok (.aload_n 0, 1) := by decide +kernel
theorem dX5_out_11 : decode cX5_out 11 = .ok (.getfield 378, 3) := by decide +kernel
theorem dX5_out_14 : decode cX5_out 14 = .ok (.if_icmp .ge 10, 3) := by decide +kernel
theorem dX5_out_17 : decode cX5_out 17 = .ok (.iload_n 1, 1) := by decide +kernel
theorem dX5_out_18 : decode cX5_out 18 = .ok (.sipush 3000, 3) := by decide +kernel
theorem dX5_out_21 : decode cX5_out 21 = .ok (.if_icmp .lt 9, 3) := by decide +kernel
theorem dX5_out_24 : decode cX5_out 24 = .ok (.aload_n 0, 1) := by decide +kernel
theorem dX5_out_25 : decode cX5_out 25 = .ok (.iconst 1, 1) := by decide +kernel
theorem dX5_out_26 : decode cX5_out 26 = .ok (.invokevirtual 468, 3) := by decide +kernel
theorem dX5_out_29 : decode cX5_out 29 = .ok (.ireturn, 1) := by decide +kernel
theorem dX5_out_30 : decode cX5_out 30 = .ok (.aload_n 0, 1) := by decide +kernel
theorem dX5_out_31 : decode cX5_out 31 = .ok (.getfield 140, 3) := by decide +kernel
theorem dX5_out_34 : decode cX5_out 34 = .ok (.iload_n 1, 1) := by decide +kernel
theorem dX5_out_35 : decode cX5_out 35 = .ok (.iaload, 1) := by decide +kernel
theorem dX5_out_36 : decode cX5_out 36 = .ok (.ireturn, 1) := by decide +kernel
abbrev cX5_count : ByteArray := prog_26_method_69_code
def yX5_count : MethodName := ⟨RX5, "count", "(I)I"⟩
theorem dX5_count_0 : decode cX5_count 0 = .ok (.aload_n 0, 1) := by decide +kernel
theorem dX5_count_1 : decode cX5_count 1 = .ok (.iconst 0, 1) := by decide +kernel
theorem dX5_count_2 : decode cX5_count 2 = .ok (.putfield 147, 3) := by decide +kernel
theorem dX5_count_5 : decode cX5_count 5 = .ok (.iconst 0, 1) := by decide +kernel
theorem dX5_count_6 : decode cX5_count 6 = .ok (.istore_n 2, 1) := by decide +kernel
theorem dX5_count_7 : decode cX5_count 7 = .ok (.iconst 0, 1) := by decide +kernel
theorem dX5_count_8 : decode cX5_count 8 = .ok (.istore_n 3, 1) := by decide +kernel
theorem dX5_count_9 : decode cX5_count 9 = .ok (.iconst 0, 1) := by decide +kernel
theorem dX5_count_10 : decode cX5_count 10 = .ok (.istore 4, 2) := by decide +kernel
theorem dX5_count_12 : decode cX5_count 12 = .ok (.iload 4, 2) := by decide +kernel
theorem dX5_count_14 : decode cX5_count 14 = .ok (.aload_n 0, 1) := by decide +kernel
theorem dX5_count_15 : decode cX5_count 15 = .ok (.getfield 160, 3) := by decide +kernel
theorem dX5_count_18 : decode cX5_count 18 = .ok (.if_icmp .ge 27, 3) := by decide +kernel
theorem dX5_count_21 : decode cX5_count 21 = .ok (.iload_n 2, 1) := by decide +kernel
theorem dX5_count_22 : decode cX5_count 22 = .ok (.aload_n 0, 1) := by decide +kernel
theorem dX5_count_23 : decode cX5_count 23 = .ok (.getfield 50, 3) := by decide +kernel
theorem dX5_count_26 : decode cX5_count 26 = .ok (.iload 4, 2) := by decide +kernel
theorem dX5_count_28 : decode cX5_count 28 = .ok (.iaload, 1) := by decide +kernel
theorem dX5_count_29 : decode cX5_count 29 = .ok (.ifCond .lt 7, 3) := by decide +kernel
theorem dX5_count_32 : decode cX5_count 32 = .ok (.iconst 1, 1) := by decide +kernel
theorem dX5_count_33 : decode cX5_count 33 = .ok (.goto 4, 3) := by decide +kernel
theorem dX5_count_36 : decode cX5_count 36 = .ok (.iconst 0, 1) := by decide +kernel
theorem dX5_count_37 : decode cX5_count 37 = .ok (.iadd, 1) := by decide +kernel
theorem dX5_count_38 : decode cX5_count 38 = .ok (.istore_n 2, 1) := by decide +kernel
theorem dX5_count_39 : decode cX5_count 39 = .ok (.iinc 4 1, 3) := by decide +kernel
theorem dX5_count_42 : decode cX5_count 42 = .ok (.goto (-30), 3) := by decide +kernel
theorem dX5_count_45 : decode cX5_count 45 = .ok (.iconst 0, 1) := by decide +kernel
theorem dX5_count_46 : decode cX5_count 46 = .ok (.istore 4, 2) := by decide +kernel
theorem dX5_count_48 : decode cX5_count 48 = .ok (.iload 4, 2) := by decide +kernel
theorem dX5_count_50 : decode cX5_count 50 = .ok (.bipush 64, 2) := by decide +kernel
theorem dX5_count_52 : decode cX5_count 52 = .ok (.if_icmp .ge 27, 3) := by decide +kernel
theorem dX5_count_55 : decode cX5_count 55 = .ok (.iload_n 3, 1) := by decide +kernel
theorem dX5_count_56 : decode cX5_count 56 = .ok (.aload_n 0, 1) := by decide +kernel
theorem dX5_count_57 : decode cX5_count 57 = .ok (.getfield 52, 3) := by decide +kernel
theorem dX5_count_60 : decode cX5_count 60 = .ok (.iload 4, 2) := by decide +kernel
theorem dX5_count_62 : decode cX5_count 62 = .ok (.iaload, 1) := by decide +kernel
theorem dX5_count_63 : decode cX5_count 63 = .ok (.ifCond .lt 7, 3) := by decide +kernel
theorem dX5_count_66 : decode cX5_count 66 = .ok (.iconst 1, 1) := by decide +kernel
theorem dX5_count_67 : decode cX5_count 67 = .ok (.goto 4, 3) := by decide +kernel
theorem dX5_count_70 : decode cX5_count 70 = .ok (.iconst 0, 1) := by decide +kernel
theorem dX5_count_71 : decode cX5_count 71 = .ok (.iadd, 1) := by decide +kernel
theorem dX5_count_72 : decode cX5_count 72 = .ok (.istore_n 3, 1) := by decide +kernel
theorem dX5_count_73 : decode cX5_count 73 = .ok (.iinc 4 1, 3) := by decide +kernel
theorem dX5_count_76 : decode cX5_count 76 = .ok (.goto (-28), 3) := by decide +kernel
theorem dX5_count_79 : decode cX5_count 79 = .ok (.iload_n 1, 1) := by decide +kernel
theorem dX5_count_80 : decode cX5_count 80 = .ok (.tableswitch 136 0 13 #[72, 77, 82, 87, 92, 97, 102, 107, 112, 117, 122, 124, 126, 131], 72) := by decide +kernel
theorem dX5_count_152 : decode cX5_count 152 = .ok (.aload_n 0, 1) := by decide +kernel
theorem dX5_count_153 : decode cX5_count 153 = .ok (.getfield 302, 3) := by decide +kernel
theorem dX5_count_156 : decode cX5_count 156 = .ok (.ireturn, 1) := by decide +kernel
theorem dX5_count_157 : decode cX5_count 157 = .ok (.aload_n 0, 1) := by decide +kernel
theorem dX5_count_158 : decode cX5_count 158 = .ok (.getfield 339, 3) := by decide +kernel
theorem dX5_count_161 : decode cX5_count 161 = .ok (.ireturn, 1) := by decide +kernel
theorem dX5_count_162 : decode cX5_count 162 = .ok (.aload_n 0, 1) := by decide +kernel
theorem dX5_count_163 : decode cX5_count 163 = .ok (.getfield 336, 3) := by decide +kernel
theorem dX5_count_166 : decode cX5_count 166 = .ok (.ireturn, 1) := by decide +kernel
theorem dX5_count_167 : decode cX5_count 167 = .ok (.aload_n 0, 1) := by decide +kernel
theorem dX5_count_168 : decode cX5_count 168 = .ok (.getfield 345, 3) := by decide +kernel
theorem dX5_count_171 : decode cX5_count 171 = .ok (.ireturn, 1) := by decide +kernel
theorem dX5_count_172 : decode cX5_count 172 = .ok (.aload_n 0, 1) := by decide +kernel
theorem dX5_count_173 : decode cX5_count 173 = .ok (.getfield 327, 3) := by decide +kernel
theorem dX5_count_176 : decode cX5_count 176 = .ok (.ireturn, 1) := by decide +kernel
theorem dX5_count_177 : decode cX5_count 177 = .ok (.aload_n 0, 1) := by decide +kernel
theorem dX5_count_178 : decode cX5_count 178 = .ok (.getfield 333, 3) := by decide +kernel
theorem dX5_count_181 : decode cX5_count 181 = .ok (.ireturn, 1) := by decide +kernel
theorem dX5_count_182 : decode cX5_count 182 = .ok (.aload_n 0, 1) := by decide +kernel
theorem dX5_count_183 : decode cX5_count 183 = .ok (.getfield 312, 3) := by decide +kernel
theorem dX5_count_186 : decode cX5_count 186 = .ok (.ireturn, 1) := by decide +kernel
theorem dX5_count_187 : decode cX5_count 187 = .ok (.aload_n 0, 1) := by decide +kernel
theorem dX5_count_188 : decode cX5_count 188 = .ok (.getfield 305, 3) := by decide +kernel
theorem dX5_count_191 : decode cX5_count 191 = .ok (.ireturn, 1) := by decide +kernel
theorem dX5_count_192 : decode cX5_count 192 = .ok (.aload_n 0, 1) := by decide +kernel
theorem dX5_count_193 : decode cX5_count 193 = .ok (.getfield 167, 3) := by decide +kernel
theorem dX5_count_196 : decode cX5_count 196 = .ok (.ireturn, 1) := by decide +kernel
theorem dX5_count_197 : decode cX5_count 197 = .ok (.aload_n 0, 1) := by decide +kernel
theorem dX5_count_198 : decode cX5_count 198 = .ok (.getfield 160, 3) := by decide +kernel
theorem dX5_count_201 : decode cX5_count 201 = .ok (.ireturn, 1) := by decide +kernel
theorem dX5_count_202 : decode cX5_count 202 = .ok (.iload_n 2, 1) := by decide +kernel
theorem dX5_count_203 : decode cX5_count 203 = .ok (.ireturn, 1) := by decide +kernel
theorem dX5_count_204 : decode cX5_count 204 = .ok (.iload_n 3, 1) := by decide +kernel
theorem dX5_count_205 : decode cX5_count 205 = .ok (.ireturn, 1) := by decide +kernel
theorem dX5_count_206 : decode cX5_count 206 = .ok (.aload_n 0, 1) := by decide +kernel
theorem dX5_count_207 : decode cX5_count 207 = .ok (.getfield 170, 3) := by decide +kernel
theorem dX5_count_210 : decode cX5_count 210 = .ok (.ireturn, 1) := by decide +kernel
theorem dX5_count_211 : decode cX5_count 211 = .ok (.aload_n 0, 1) := by decide +kernel
theorem dX5_count_212 : decode cX5_count 212 = .ok (.getfield 183, 3) := by decide +kernel
theorem dX5_count_215 : decode cX5_count 215 = .ok (.ireturn, 1) := by decide +kernel
theorem dX5_count_216 : decode cX5_count 216 = .ok (.aload_n 0, 1) := by decide +kernel
theorem dX5_count_217 : decode cX5_count 217 = .ok (.iconst 1, 1) := by decide +kernel
theorem dX5_count_218 : decode cX5_count 218 = .ok (.invokevirtual 468, 3) := by decide +kernel
theorem dX5_count_221 : decode cX5_count 221 = .ok (.ireturn, 1) := by decide +kernel
abbrev cX5_name : ByteArray := prog_26_method_70_code
def yX5_name : MethodName := ⟨RX5, "name", "(II)I"⟩
theorem dX5_name_0 : decode cX5_name 0 = .ok (.aload_n 0, 1) := by decide +kernel
theorem dX5_name_1 : decode cX5_name 1 = .ok (.iconst 0, 1) := by decide +kernel
theorem dX5_name_2 : decode cX5_name 2 = .ok (.putfield 147, 3) := by decide +kernel
theorem dX5_name_5 : decode cX5_name 5 = .ok (.iload_n 1, 1) := by decide +kernel
theorem dX5_name_6 : decode cX5_name 6 = .ok (.ifCond .lt 15, 3) := by decide +kernel
theorem dX5_name_9 : decode cX5_name 9 = .ok (.iload_n 1, 1) := by decide +kernel
theorem dX5_name_10 : decode cX5_name 10 = .ok (.aload_n 0, 1) := by decide +kernel
theorem dX5_name_11 : decode cX5_name 11 = .ok (.getfield 167, 3) := by decide +kernel
theorem dX5_name_14 : decode cX5_name 14 = .ok (.if_icmp .ge 7, 3) := by decide +kernel
theorem dX5_name_17 : decode cX5_name 17 = .ok (.iload_n 2, 1) := by decide +kernel
theorem dX5_name_18 : decode cX5_name 18 = .ok (.ifCond .ge 9, 3) := by decide +kernel
theorem dX5_name_21 : decode cX5_name 21 = .ok (.aload_n 0, 1) := by decide +kernel
theorem dX5_name_22 : decode cX5_name 22 = .ok (.iconst 1, 1) := by decide +kernel
theorem dX5_name_23 : decode cX5_name 23 = .ok (.invokevirtual 468, 3) := by decide +kernel
theorem dX5_name_26 : decode cX5_name 26 = .ok (.ireturn, 1) := by decide +kernel
theorem dX5_name_27 : decode cX5_name 27 = .ok (.iload_n 2, 1) := by decide +kernel
theorem dX5_name_28 : decode cX5_name 28 = .ok (.ifCond .ne 18, 3) := by decide +kernel
theorem dX5_name_31 : decode cX5_name 31 = .ok (.aload_n 0, 1) := by decide +kernel
theorem dX5_name_32 : decode cX5_name 32 = .ok (.getfield 66, 3) := by decide +kernel
theorem dX5_name_35 : decode cX5_name 35 = .ok (.iload_n 1, 1) := by decide +kernel
theorem dX5_name_36 : decode cX5_name 36 = .ok (.iaload, 1) := by decide +kernel
theorem dX5_name_37 : decode cX5_name 37 = .ok (.ifCond .lt 7, 3) := by decide +kernel
theorem dX5_name_40 : decode cX5_name 40 = .ok (.iconst 1, 1) := by decide +kernel
theorem dX5_name_41 : decode cX5_name 41 = .ok (.goto 4, 3) := by decide +kernel
theorem dX5_name_44 : decode cX5_name 44 = .ok (.iconst 0, 1) := by decide +kernel
theorem dX5_name_45 : decode cX5_name 45 = .ok (.ireturn, 1) := by decide +kernel
theorem dX5_name_46 : decode cX5_name 46 = .ok (.iload_n 2, 1) := by decide +kernel
theorem dX5_name_47 : decode cX5_name 47 = .ok (.iconst 1, 1) := by decide +kernel
theorem dX5_name_48 : decode cX5_name 48 = .ok (.if_icmp .ne 10, 3) := by decide +kernel
theorem dX5_name_51 : decode cX5_name 51 = .ok (.aload_n 0, 1) := by decide +kernel
theorem dX5_name_52 : decode cX5_name 52 = .ok (.getfield 63, 3) := by decide +kernel
theorem dX5_name_55 : decode cX5_name 55 = .ok (.iload_n 1, 1) := by decide +kernel
theorem dX5_name_56 : decode cX5_name 56 = .ok (.iaload, 1) := by decide +kernel
theorem dX5_name_57 : decode cX5_name 57 = .ok (.ireturn, 1) := by decide +kernel
theorem dX5_name_58 : decode cX5_name 58 = .ok (.iload_n 2, 1) := by decide +kernel
theorem dX5_name_59 : decode cX5_name 59 = .ok (.iconst 2, 1) := by decide +kernel
theorem dX5_name_60 : decode cX5_name 60 = .ok (.if_icmp .ne 10, 3) := by decide +kernel
theorem dX5_name_63 : decode cX5_name 63 = .ok (.aload_n 0, 1) := by decide +kernel
theorem dX5_name_64 : decode cX5_name 64 = .ok (.getfield 57, 3) := by decide +kernel
theorem dX5_name_67 : decode cX5_name 67 = .ok (.iload_n 1, 1) := by decide +kernel
theorem dX5_name_68 : decode cX5_name 68 = .ok (.iaload, 1) := by decide +kernel
theorem dX5_name_69 : decode cX5_name 69 = .ok (.ireturn, 1) := by decide +kernel
theorem dX5_name_70 : decode cX5_name 70 = .ok (.iload_n 2, 1) := by decide +kernel
theorem dX5_name_71 : decode cX5_name 71 = .ok (.iconst 3, 1) := by decide +kernel
theorem dX5_name_72 : decode cX5_name 72 = .ok (.isub, 1) := by decide +kernel
theorem dX5_name_73 : decode cX5_name 73 = .ok (.aload_n 0, 1) := by decide +kernel
theorem dX5_name_74 : decode cX5_name 74 = .ok (.getfield 57, 3) := by decide +kernel
theorem dX5_name_77 : decode cX5_name 77 = .ok (.iload_n 1, 1) := by decide +kernel
theorem dX5_name_78 : decode cX5_name 78 = .ok (.iaload, 1) := by decide +kernel
theorem dX5_name_79 : decode cX5_name 79 = .ok (.if_icmp .ge 19, 3) := by decide +kernel
theorem dX5_name_82 : decode cX5_name 82 = .ok (.aload_n 0, 1) := by decide +kernel
theorem dX5_name_83 : decode cX5_name 83 = .ok (.getfield 54, 3) := by decide +kernel
theorem dX5_name_86 : decode cX5_name 86 = .ok (.bipush 12, 2) := by decide +kernel
theorem dX5_name_88 : decode cX5_name 88 = .ok (.iload_n 1, 1) := by decide +kernel
theorem dX5_name_89 : decode cX5_name 89 = .ok (.imul, 1) := by decide +kernel
theorem dX5_name_90 : decode cX5_name 90 = .ok (.iload_n 2, 1) := by decide +kernel
theorem dX5_name_91 : decode cX5_name 91 = .ok (.iadd, 1) := by decide +kernel
theorem dX5_name_92 : decode cX5_name 92 = .ok (.iconst 3, 1) := by decide +kernel
theorem dX5_name_93 : decode cX5_name 93 = .ok (.isub, 1) := by decide +kernel
theorem dX5_name_94 : decode cX5_name 94 = .ok (.iaload, 1) := by decide +kernel
theorem dX5_name_95 : decode cX5_name 95 = .ok (.goto 4, 3) := by decide +kernel
theorem dX5_name_98 : decode cX5_name 98 = .ok (.iconst (-1), 1) := by decide +kernel
theorem dX5_name_99 : decode cX5_name 99 = .ok (.ireturn, 1) := by decide +kernel
abbrev cX5_sort : ByteArray := prog_26_method_71_code
def yX5_sort : MethodName := ⟨RX5, "sort", "(II)I"⟩
theorem dX5_sort_0 : decode cX5_sort 0 = .ok (.aload_n 0, 1) := by decide +kernel
theorem dX5_sort_1 : decode cX5_sort 1 = .ok (.iconst 0, 1) := by decide +kernel
theorem dX5_sort_2 : decode cX5_sort 2 = .ok (.putfield 147, 3) := by decide +kernel
theorem dX5_sort_5 : decode cX5_sort 5 = .ok (.iload_n 1, 1) := by decide +kernel
theorem dX5_sort_6 : decode cX5_sort 6 = .ok (.ifCond .lt 15, 3) := by decide +kernel
theorem dX5_sort_9 : decode cX5_sort 9 = .ok (.iload_n 1, 1) := by decide +kernel
theorem dX5_sort_10 : decode cX5_sort 10 = .ok (.aload_n 0, 1) := by decide +kernel
theorem dX5_sort_11 : decode cX5_sort 11 = .ok (.getfield 160, 3) := by decide +kernel
theorem dX5_sort_14 : decode cX5_sort 14 = .ok (.if_icmp .ge 7, 3) := by decide +kernel
theorem dX5_sort_17 : decode cX5_sort 17 = .ok (.iload_n 2, 1) := by decide +kernel
theorem dX5_sort_18 : decode cX5_sort 18 = .ok (.ifCond .ge 9, 3) := by decide +kernel
theorem dX5_sort_21 : decode cX5_sort 21 = .ok (.aload_n 0, 1) := by decide +kernel
theorem dX5_sort_22 : decode cX5_sort 22 = .ok (.iconst 1, 1) := by decide +kernel
theorem dX5_sort_23 : decode cX5_sort 23 = .ok (.invokevirtual 468, 3) := by decide +kernel
theorem dX5_sort_26 : decode cX5_sort 26 = .ok (.ireturn, 1) := by decide +kernel
theorem dX5_sort_27 : decode cX5_sort 27 = .ok (.iload_n 2, 1) := by decide +kernel
theorem dX5_sort_28 : decode cX5_sort 28 = .ok (.ifCond .ne 10, 3) := by decide +kernel
theorem dX5_sort_31 : decode cX5_sort 31 = .ok (.aload_n 0, 1) := by decide +kernel
theorem dX5_sort_32 : decode cX5_sort 32 = .ok (.getfield 50, 3) := by decide +kernel
theorem dX5_sort_35 : decode cX5_sort 35 = .ok (.iload_n 1, 1) := by decide +kernel
theorem dX5_sort_36 : decode cX5_sort 36 = .ok (.iaload, 1) := by decide +kernel
theorem dX5_sort_37 : decode cX5_sort 37 = .ok (.ireturn, 1) := by decide +kernel
theorem dX5_sort_38 : decode cX5_sort 38 = .ok (.iload_n 2, 1) := by decide +kernel
theorem dX5_sort_39 : decode cX5_sort 39 = .ok (.iconst 1, 1) := by decide +kernel
theorem dX5_sort_40 : decode cX5_sort 40 = .ok (.if_icmp .ne 10, 3) := by decide +kernel
theorem dX5_sort_43 : decode cX5_sort 43 = .ok (.aload_n 0, 1) := by decide +kernel
theorem dX5_sort_44 : decode cX5_sort 44 = .ok (.getfield 47, 3) := by decide +kernel
theorem dX5_sort_47 : decode cX5_sort 47 = .ok (.iload_n 1, 1) := by decide +kernel
theorem dX5_sort_48 : decode cX5_sort 48 = .ok (.iaload, 1) := by decide +kernel
theorem dX5_sort_49 : decode cX5_sort 49 = .ok (.ireturn, 1) := by decide +kernel
theorem dX5_sort_50 : decode cX5_sort 50 = .ok (.iload_n 2, 1) := by decide +kernel
theorem dX5_sort_51 : decode cX5_sort 51 = .ok (.iconst 2, 1) := by decide +kernel
theorem dX5_sort_52 : decode cX5_sort 52 = .ok (.isub, 1) := by decide +kernel
theorem dX5_sort_53 : decode cX5_sort 53 = .ok (.aload_n 0, 1) := by decide +kernel
theorem dX5_sort_54 : decode cX5_sort 54 = .ok (.getfield 47, 3) := by decide +kernel
theorem dX5_sort_57 : decode cX5_sort 57 = .ok (.iload_n 1, 1) := by decide +kernel
theorem dX5_sort_58 : decode cX5_sort 58 = .ok (.iaload, 1) := by decide +kernel
theorem dX5_sort_59 : decode cX5_sort 59 = .ok (.if_icmp .ge 19, 3) := by decide +kernel
theorem dX5_sort_62 : decode cX5_sort 62 = .ok (.aload_n 0, 1) := by decide +kernel
theorem dX5_sort_63 : decode cX5_sort 63 = .ok (.getfield 44, 3) := by decide +kernel
theorem dX5_sort_66 : decode cX5_sort 66 = .ok (.bipush 12, 2) := by decide +kernel
theorem dX5_sort_68 : decode cX5_sort 68 = .ok (.iload_n 1, 1) := by decide +kernel
theorem dX5_sort_69 : decode cX5_sort 69 = .ok (.imul, 1) := by decide +kernel
theorem dX5_sort_70 : decode cX5_sort 70 = .ok (.iload_n 2, 1) := by decide +kernel
theorem dX5_sort_71 : decode cX5_sort 71 = .ok (.iadd, 1) := by decide +kernel
theorem dX5_sort_72 : decode cX5_sort 72 = .ok (.iconst 2, 1) := by decide +kernel
theorem dX5_sort_73 : decode cX5_sort 73 = .ok (.isub, 1) := by decide +kernel
theorem dX5_sort_74 : decode cX5_sort 74 = .ok (.iaload, 1) := by decide +kernel
theorem dX5_sort_75 : decode cX5_sort 75 = .ok (.goto 4, 3) := by decide +kernel
theorem dX5_sort_78 : decode cX5_sort 78 = .ok (.iconst (-1), 1) := by decide +kernel
theorem dX5_sort_79 : decode cX5_sort 79 = .ok (.ireturn, 1) := by decide +kernel
abbrev cX5_rule : ByteArray := prog_26_method_72_code
def yX5_rule : MethodName := ⟨RX5, "rule", "(II)I"⟩
theorem dX5_rule_0 : decode cX5_rule 0 = .ok (.aload_n 0, 1) := by decide +kernel
theorem dX5_rule_1 : decode cX5_rule 1 = .ok (.iconst 0, 1) := by decide +kernel
theorem dX5_rule_2 : decode cX5_rule 2 = .ok (.putfield 147, 3) := by decide +kernel
theorem dX5_rule_5 : decode cX5_rule 5 = .ok (.iload_n 1, 1) := by decide +kernel
theorem dX5_rule_6 : decode cX5_rule 6 = .ok (.ifCond .lt 23, 3) := by decide +kernel
theorem dX5_rule_9 : decode cX5_rule 9 = .ok (.iload_n 1, 1) := by decide +kernel
theorem dX5_rule_10 : decode cX5_rule 10 = .ok (.aload_n 0, 1) := by decide +kernel
theorem dX5_rule_11 : decode cX5_rule 11 = .ok (.getfield 160, 3) := by decide +kernel
theorem dX5_rule_14 : decode cX5_rule 14 = .ok (.if_icmp .ge 15, 3) := by decide +kernel
theorem dX5_rule_17 : decode cX5_rule 17 = .ok (.iload_n 2, 1) := by decide +kernel
theorem dX5_rule_18 : decode cX5_rule 18 = .ok (.ifCond .lt 11, 3) := by decide +kernel
theorem dX5_rule_21 : decode cX5_rule 21 = .ok (.iload_n 2, 1) := by decide +kernel
theorem dX5_rule_22 : decode cX5_rule 22 = .ok (.aload_n 0, 1) := by decide +kernel
theorem dX5_rule_23 : decode cX5_rule 23 = .ok (.getfield 160, 3) := by decide +kernel
theorem dX5_rule_26 : decode cX5_rule 26 = .ok (.if_icmp .lt 9, 3) := by decide +kernel
theorem dX5_rule_29 : decode cX5_rule 29 = .ok (.aload_n 0, 1) := by decide +kernel
theorem dX5_rule_30 : decode cX5_rule 30 = .ok (.iconst 1, 1) := by decide +kernel
theorem dX5_rule_31 : decode cX5_rule 31 = .ok (.invokevirtual 468, 3) := by decide +kernel
theorem dX5_rule_34 : decode cX5_rule 34 = .ok (.ireturn, 1) := by decide +kernel
theorem dX5_rule_35 : decode cX5_rule 35 = .ok (.aload_n 0, 1) := by decide +kernel
theorem dX5_rule_36 : decode cX5_rule 36 = .ok (.getfield 52, 3) := by decide +kernel
theorem dX5_rule_39 : decode cX5_rule 39 = .ok (.bipush 8, 2) := by decide +kernel
theorem dX5_rule_41 : decode cX5_rule 41 = .ok (.iload_n 1, 1) := by decide +kernel
theorem dX5_rule_42 : decode cX5_rule 42 = .ok (.imul, 1) := by decide +kernel
theorem dX5_rule_43 : decode cX5_rule 43 = .ok (.iload_n 2, 1) := by decide +kernel
theorem dX5_rule_44 : decode cX5_rule 44 = .ok (.iadd, 1) := by decide +kernel
theorem dX5_rule_45 : decode cX5_rule 45 = .ok (.iaload, 1) := by decide +kernel
theorem dX5_rule_46 : decode cX5_rule 46 = .ok (.ireturn, 1) := by decide +kernel
abbrev cX5_type : ByteArray := prog_26_method_73_code
def yX5_type : MethodName := ⟨RX5, "type", "(I)I"⟩
theorem dX5_type_0 : decode cX5_type 0 = .ok (.aload_n 0, 1) := by decide +kernel
theorem dX5_type_1 : decode cX5_type 1 = .ok (.iconst 0, 1) := by decide +kernel
theorem dX5_type_2 : decode cX5_type 2 = .ok (.putfield 147, 3) := by decide +kernel
theorem dX5_type_5 : decode cX5_type 5 = .ok (.iload_n 1, 1) := by decide +kernel
theorem dX5_type_6 : decode cX5_type 6 = .ok (.ifCond .lt 11, 3) := by decide +kernel
theorem dX5_type_9 : decode cX5_type 9 = .ok (.iload_n 1, 1) := by decide +kernel
theorem dX5_type_10 : decode cX5_type 10 = .ok (.aload_n 0, 1) := by decide +kernel
theorem dX5_type_11 : decode cX5_type 11 = .ok (.getfield 167, 3) := by decide +kernel
theorem dX5_type_14 : decode cX5_type 14 = .ok (.if_icmp .lt 9, 3) := by decide +kernel
theorem dX5_type_17 : decode cX5_type 17 = .ok (.aload_n 0, 1) := by decide +kernel
theorem dX5_type_18 : decode cX5_type 18 = .ok (.iconst 1, 1) := by decide +kernel
theorem dX5_type_19 : decode cX5_type 19 = .ok (.invokevirtual 468, 3) := by decide +kernel
theorem dX5_type_22 : decode cX5_type 22 = .ok (.ireturn, 1) := by decide +kernel
theorem dX5_type_23 : decode cX5_type 23 = .ok (.aload_n 0, 1) := by decide +kernel
theorem dX5_type_24 : decode cX5_type 24 = .ok (.invokevirtual 477, 3) := by decide +kernel
theorem dX5_type_27 : decode cX5_type 27 = .ok (.aload_n 0, 1) := by decide +kernel
theorem dX5_type_28 : decode cX5_type 28 = .ok (.iconst 0, 1) := by decide +kernel
theorem dX5_type_29 : decode cX5_type 29 = .ok (.putfield 378, 3) := by decide +kernel
theorem dX5_type_32 : decode cX5_type 32 = .ok (.aload_n 0, 1) := by decide +kernel
theorem dX5_type_33 : decode cX5_type 33 = .ok (.iconst 0, 1) := by decide +kernel
theorem dX5_type_34 : decode cX5_type 34 = .ok (.putfield 150, 3) := by decide +kernel
theorem dX5_type_37 : decode cX5_type 37 = .ok (.aload_n 0, 1) := by decide +kernel
theorem dX5_type_38 : decode cX5_type 38 = .ok (.aload_n 0, 1) := by decide +kernel
theorem dX5_type_39 : decode cX5_type 39 = .ok (.getfield 60, 3) := by decide +kernel
theorem dX5_type_42 : decode cX5_type 42 = .ok (.iload_n 1, 1) := by decide +kernel
theorem dX5_type_43 : decode cX5_type 43 = .ok (.iaload, 1) := by decide +kernel
theorem dX5_type_44 : decode cX5_type 44 = .ok (.iconst 0, 1) := by decide +kernel
theorem dX5_type_45 : decode cX5_type 45 = .ok (.iconst 0, 1) := by decide +kernel
theorem dX5_type_46 : decode cX5_type 46 = .ok (.iconst 0, 1) := by decide +kernel
theorem dX5_type_47 : decode cX5_type 47 = .ok (.iconst 0, 1) := by decide +kernel
theorem dX5_type_48 : decode cX5_type 48 = .ok (.invokevirtual 387, 3) := by decide +kernel
theorem dX5_type_51 : decode cX5_type 51 = .ok (.aload_n 0, 1) := by decide +kernel
theorem dX5_type_52 : decode cX5_type 52 = .ok (.invokevirtual 483, 3) := by decide +kernel
theorem dX5_type_55 : decode cX5_type 55 = .ok (.aload_n 0, 1) := by decide +kernel
theorem dX5_type_56 : decode cX5_type 56 = .ok (.getfield 150, 3) := by decide +kernel
theorem dX5_type_59 : decode cX5_type 59 = .ok (.istore_n 2, 1) := by decide +kernel
theorem dX5_type_60 : decode cX5_type 60 = .ok (.aload_n 0, 1) := by decide +kernel
theorem dX5_type_61 : decode cX5_type 61 = .ok (.iconst 0, 1) := by decide +kernel
theorem dX5_type_62 : decode cX5_type 62 = .ok (.putfield 150, 3) := by decide +kernel
theorem dX5_type_65 : decode cX5_type 65 = .ok (.iload_n 2, 1) := by decide +kernel
theorem dX5_type_66 : decode cX5_type 66 = .ok (.ifCond .ne 10, 3) := by decide +kernel
theorem dX5_type_69 : decode cX5_type 69 = .ok (.aload_n 0, 1) := by decide +kernel
theorem dX5_type_70 : decode cX5_type 70 = .ok (.getfield 378, 3) := by decide +kernel
theorem dX5_type_73 : decode cX5_type 73 = .ok (.goto 5, 3) := by decide +kernel
theorem dX5_type_76 : decode cX5_type 76 = .ok (.iload_n 2, 1) := by decide +kernel
theorem dX5_type_77 : decode cX5_type 77 = .ok (.ineg, 1) := by decide +kernel
theorem dX5_type_78 : decode cX5_type 78 = .ok (.ireturn, 1) := by decide +kernel
abbrev cX5_same : ByteArray := prog_26_method_74_code
def yX5_same : MethodName := ⟨RX5, "same", "(II)I"⟩
theorem dX5_same_0 : decode cX5_same 0 = .ok (.aload_n 0, 1) := by decide +kernel
theorem dX5_same_1 : decode cX5_same 1 = .ok (.iconst 0, 1) := by decide +kernel
theorem dX5_same_2 : decode cX5_same 2 = .ok (.putfield 147, 3) := by decide +kernel
theorem dX5_same_5 : decode cX5_same 5 = .ok (.iload_n 1, 1) := by decide +kernel
theorem dX5_same_6 : decode cX5_same 6 = .ok (.ifCond .lt 23, 3) := by decide +kernel
theorem dX5_same_9 : decode cX5_same 9 = .ok (.iload_n 1, 1) := by decide +kernel
theorem dX5_same_10 : decode cX5_same 10 = .ok (.aload_n 0, 1) := by decide +kernel
theorem dX5_same_11 : decode cX5_same 11 = .ok (.getfield 167, 3) := by decide +kernel
theorem dX5_same_14 : decode cX5_same 14 = .ok (.if_icmp .ge 15, 3) := by decide +kernel
theorem dX5_same_17 : decode cX5_same 17 = .ok (.iload_n 2, 1) := by decide +kernel
theorem dX5_same_18 : decode cX5_same 18 = .ok (.ifCond .lt 11, 3) := by decide +kernel
theorem dX5_same_21 : decode cX5_same 21 = .ok (.iload_n 2, 1) := by decide +kernel
theorem dX5_same_22 : decode cX5_same 22 = .ok (.aload_n 0, 1) := by decide +kernel
theorem dX5_same_23 : decode cX5_same 23 = .ok (.getfield 167, 3) := by decide +kernel
theorem dX5_same_26 : decode cX5_same 26 = .ok (.if_icmp .lt 9, 3) := by decide +kernel
theorem dX5_same_29 : decode cX5_same 29 = .ok (.aload_n 0, 1) := by decide +kernel
theorem dX5_same_30 : decode cX5_same 30 = .ok (.iconst 1, 1) := by decide +kernel
theorem dX5_same_31 : decode cX5_same 31 = .ok (.invokevirtual 468, 3) := by decide +kernel
theorem dX5_same_34 : decode cX5_same 34 = .ok (.ireturn, 1) := by decide +kernel
theorem dX5_same_35 : decode cX5_same 35 = .ok (.aload_n 0, 1) := by decide +kernel
theorem dX5_same_36 : decode cX5_same 36 = .ok (.invokevirtual 477, 3) := by decide +kernel
theorem dX5_same_39 : decode cX5_same 39 = .ok (.aload_n 0, 1) := by decide +kernel
theorem dX5_same_40 : decode cX5_same 40 = .ok (.iconst 0, 1) := by decide +kernel
theorem dX5_same_41 : decode cX5_same 41 = .ok (.putfield 150, 3) := by decide +kernel
theorem dX5_same_44 : decode cX5_same 44 = .ok (.aload_n 0, 1) := by decide +kernel
theorem dX5_same_45 : decode cX5_same 45 = .ok (.iconst 1, 1) := by decide +kernel
theorem dX5_same_46 : decode cX5_same 46 = .ok (.putfield 237, 3) := by decide +kernel
theorem dX5_same_49 : decode cX5_same 49 = .ok (.aload_n 0, 1) := by decide +kernel
theorem dX5_same_50 : decode cX5_same 50 = .ok (.iconst 2, 1) := by decide +kernel
theorem dX5_same_51 : decode cX5_same 51 = .ok (.iload_n 1, 1) := by decide +kernel
theorem dX5_same_52 : decode cX5_same 52 = .ok (.iconst 0, 1) := by decide +kernel
theorem dX5_same_53 : decode cX5_same 53 = .ok (.iconst 0, 1) := by decide +kernel
theorem dX5_same_54 : decode cX5_same 54 = .ok (.iconst 0, 1) := by decide +kernel
theorem dX5_same_55 : decode cX5_same 55 = .ok (.invokevirtual 241, 3) := by decide +kernel
theorem dX5_same_58 : decode cX5_same 58 = .ok (.istore_n 3, 1) := by decide +kernel
theorem dX5_same_59 : decode cX5_same 59 = .ok (.aload_n 0, 1) := by decide +kernel
theorem dX5_same_60 : decode cX5_same 60 = .ok (.iconst 2, 1) := by decide +kernel
theorem dX5_same_61 : decode cX5_same 61 = .ok (.iload_n 2, 1) := by decide +kernel
theorem dX5_same_62 : decode cX5_same 62 = .ok (.iconst 0, 1) := by decide +kernel
theorem dX5_same_63 : decode cX5_same 63 = .ok (.iconst 0, 1) := by decide +kernel
theorem dX5_same_64 : decode cX5_same 64 = .ok (.iconst 0, 1) := by decide +kernel
theorem dX5_same_65 : decode cX5_same 65 = .ok (.invokevirtual 241, 3) := by decide +kernel
theorem dX5_same_68 : decode cX5_same 68 = .ok (.istore 4, 2) := by decide +kernel
theorem dX5_same_70 : decode cX5_same 70 = .ok (.aload_n 0, 1) := by decide +kernel
theorem dX5_same_71 : decode cX5_same 71 = .ok (.iconst 0, 1) := by decide +kernel
theorem dX5_same_72 : decode cX5_same 72 = .ok (.putfield 237, 3) := by decide +kernel
theorem dX5_same_75 : decode cX5_same 75 = .ok (.aload_n 0, 1) := by decide +kernel
theorem dX5_same_76 : decode cX5_same 76 = .ok (.iload_n 3, 1) := by decide +kernel
theorem dX5_same_77 : decode cX5_same 77 = .ok (.iconst 0, 1) := by decide +kernel
theorem dX5_same_78 : decode cX5_same 78 = .ok (.iload 4, 2) := by decide +kernel
theorem dX5_same_80 : decode cX5_same 80 = .ok (.iconst 0, 1) := by decide +kernel
theorem dX5_same_81 : decode cX5_same 81 = .ok (.iconst 0, 1) := by decide +kernel
theorem dX5_same_82 : decode cX5_same 82 = .ok (.invokevirtual 366, 3) := by decide +kernel
theorem dX5_same_85 : decode cX5_same 85 = .ok (.istore 5, 2) := by decide +kernel
theorem dX5_same_87 : decode cX5_same 87 = .ok (.aload_n 0, 1) := by decide +kernel
theorem dX5_same_88 : decode cX5_same 88 = .ok (.invokevirtual 483, 3) := by decide +kernel
theorem dX5_same_91 : decode cX5_same 91 = .ok (.aload_n 0, 1) := by decide +kernel
theorem dX5_same_92 : decode cX5_same 92 = .ok (.getfield 150, 3) := by decide +kernel
theorem dX5_same_95 : decode cX5_same 95 = .ok (.istore 6, 2) := by decide +kernel
theorem dX5_same_97 : decode cX5_same 97 = .ok (.aload_n 0, 1) := by decide +kernel
theorem dX5_same_98 : decode cX5_same 98 = .ok (.iconst 0, 1) := by decide +kernel
theorem dX5_same_99 : decode cX5_same 99 = .ok (.putfield 150, 3) := by decide +kernel
theorem dX5_same_102 : decode cX5_same 102 = .ok (.iload 6, 2) := by decide +kernel
theorem dX5_same_104 : decode cX5_same 104 = .ok (.ifCond .eq 9, 3) := by decide +kernel
theorem dX5_same_107 : decode cX5_same 107 = .ok (.iload 6, 2) := by decide +kernel
theorem dX5_same_109 : decode cX5_same 109 = .ok (.ineg, 1) := by decide +kernel
theorem dX5_same_110 : decode cX5_same 110 = .ok (.goto 13, 3) := by decide +kernel
theorem dX5_same_113 : decode cX5_same 113 = .ok (.iload 5, 2) := by decide +kernel
theorem dX5_same_115 : decode cX5_same 115 = .ok (.ifCond .eq 7, 3) := by decide +kernel
theorem dX5_same_118 : decode cX5_same 118 = .ok (.iconst 1, 1) := by decide +kernel
theorem dX5_same_119 : decode cX5_same 119 = .ok (.goto 4, 3) := by decide +kernel
theorem dX5_same_122 : decode cX5_same 122 = .ok (.iconst 0, 1) := by decide +kernel
theorem dX5_same_123 : decode cX5_same 123 = .ok (.ireturn, 1) := by decide +kernel
abbrev cX5_mark : ByteArray := prog_26_method_75_code
def yX5_mark : MethodName := ⟨RX5, "mark", "()I"⟩
theorem dX5_mark_0 : decode cX5_mark 0 = .ok (.aload_n 0, 1) := by decide +kernel
theorem dX5_mark_1 : decode cX5_mark 1 = .ok (.iconst 0, 1) := by decide +kernel
theorem dX5_mark_2 : decode cX5_mark 2 = .ok (.putfield 147, 3) := by decide +kernel
theorem dX5_mark_5 : decode cX5_mark 5 = .ok (.aload_n 0, 1) := by decide +kernel
theorem dX5_mark_6 : decode cX5_mark 6 = .ok (.getfield 170, 3) := by decide +kernel
theorem dX5_mark_9 : decode cX5_mark 9 = .ok (.bipush 20, 2) := by decide +kernel
theorem dX5_mark_11 : decode cX5_mark 11 = .ok (.if_icmp .ne 9, 3) := by decide +kernel
theorem dX5_mark_14 : decode cX5_mark 14 = .ok (.aload_n 0, 1) := by decide +kernel
theorem dX5_mark_15 : decode cX5_mark 15 = .ok (.iconst 1, 1) := by decide +kernel
theorem dX5_mark_16 : decode cX5_mark 16 = .ok (.invokevirtual 468, 3) := by decide +kernel
theorem dX5_mark_19 : decode cX5_mark 19 = .ok (.ireturn, 1) := by decide +kernel
theorem dX5_mark_20 : decode cX5_mark 20 = .ok (.aload_n 0, 1) := by decide +kernel
theorem dX5_mark_21 : decode cX5_mark 21 = .ok (.getfield 72, 3) := by decide +kernel
theorem dX5_mark_24 : decode cX5_mark 24 = .ok (.aload_n 0, 1) := by decide +kernel
theorem dX5_mark_25 : decode cX5_mark 25 = .ok (.getfield 170, 3) := by decide +kernel
theorem dX5_mark_28 : decode cX5_mark 28 = .ok (.aload_n 0, 1) := by decide +kernel
theorem dX5_mark_29 : decode cX5_mark 29 = .ok (.getfield 167, 3) := by decide +kernel
theorem dX5_mark_32 : decode cX5_mark 32 = .ok (.iastore, 1) := by decide +kernel
theorem dX5_mark_33 : decode cX5_mark 33 = .ok (.aload_n 0, 1) := by decide +kernel
theorem dX5_mark_34 : decode cX5_mark 34 = .ok (.dup, 1) := by decide +kernel
theorem dX5_mark_35 : decode cX5_mark 35 = .ok (.getfield 170, 3) := by decide +kernel
theorem dX5_mark_38 : decode cX5_mark 38 = .ok (.iconst 1, 1) := by decide +kernel
theorem dX5_mark_39 : decode cX5_mark 39 = .ok (.iadd, 1) := by decide +kernel
theorem dX5_mark_40 : decode cX5_mark 40 = .ok (.putfield 170, 3) := by decide +kernel
theorem dX5_mark_43 : decode cX5_mark 43 = .ok (.aload_n 0, 1) := by decide +kernel
theorem dX5_mark_44 : decode cX5_mark 44 = .ok (.getfield 170, 3) := by decide +kernel
theorem dX5_mark_47 : decode cX5_mark 47 = .ok (.ireturn, 1) := by decide +kernel
abbrev cX5_back : ByteArray := prog_26_method_76_code
def yX5_back : MethodName := ⟨RX5, "back", "()I"⟩
theorem dX5_back_0 : decode cX5_back 0 = .ok (.aload_n 0, 1) := by decide +kernel
theorem dX5_back_1 : decode cX5_back 1 = .ok (.iconst 0, 1) := by decide +kernel
theorem dX5_back_2 : decode cX5_back 2 = .ok (.putfield 147, 3) := by decide +kernel
theorem dX5_back_5 : decode cX5_back 5 = .ok (.aload_n 0, 1) := by decide +kernel
theorem dX5_back_6 : decode cX5_back 6 = .ok (.getfield 170, 3) := by decide +kernel
theorem dX5_back_9 : decode cX5_back 9 = .ok (.ifCond .ne 9, 3) := by decide +kernel
theorem dX5_back_12 : decode cX5_back 12 = .ok (.aload_n 0, 1) := by decide +kernel
theorem dX5_back_13 : decode cX5_back 13 = .ok (.iconst 1, 1) := by decide +kernel
theorem dX5_back_14 : decode cX5_back 14 = .ok (.invokevirtual 468, 3) := by decide +kernel
theorem dX5_back_17 : decode cX5_back 17 = .ok (.ireturn, 1) := by decide +kernel
theorem dX5_back_18 : decode cX5_back 18 = .ok (.aload_n 0, 1) := by decide +kernel
theorem dX5_back_19 : decode cX5_back 19 = .ok (.dup, 1) := by decide +kernel
theorem dX5_back_20 : decode cX5_back 20 = .ok (.getfield 170, 3) := by decide +kernel
theorem dX5_back_23 : decode cX5_back 23 = .ok (.iconst 1, 1) := by decide +kernel
theorem dX5_back_24 : decode cX5_back 24 = .ok (.isub, 1) := by decide +kernel
theorem dX5_back_25 : decode cX5_back 25 = .ok (.putfield 170, 3) := by decide +kernel
theorem dX5_back_28 : decode cX5_back 28 = .ok (.aload_n 0, 1) := by decide +kernel
theorem dX5_back_29 : decode cX5_back 29 = .ok (.aload_n 0, 1) := by decide +kernel
theorem dX5_back_30 : decode cX5_back 30 = .ok (.getfield 72, 3) := by decide +kernel
theorem dX5_back_33 : decode cX5_back 33 = .ok (.aload_n 0, 1) := by decide +kernel
theorem dX5_back_34 : decode cX5_back 34 = .ok (.getfield 170, 3) := by decide +kernel
theorem dX5_back_37 : decode cX5_back 37 = .ok (.iaload, 1) := by decide +kernel
theorem dX5_back_38 : decode cX5_back 38 = .ok (.putfield 167, 3) := by decide +kernel
theorem dX5_back_41 : decode cX5_back 41 = .ok (.aload_n 0, 1) := by decide +kernel
theorem dX5_back_42 : decode cX5_back 42 = .ok (.aload_n 0, 1) := by decide +kernel
theorem dX5_back_43 : decode cX5_back 43 = .ok (.getfield 167, 3) := by decide +kernel
theorem dX5_back_46 : decode cX5_back 46 = .ok (.ifCond .ne 8, 3) := by decide +kernel
theorem dX5_back_49 : decode cX5_back 49 = .ok (.bipush 8, 2) := by decide +kernel
theorem dX5_back_51 : decode cX5_back 51 = .ok (.goto 14, 3) := by decide +kernel
theorem dX5_back_54 : decode cX5_back 54 = .ok (.aload_n 0, 1) := by decide +kernel
theorem dX5_back_55 : decode cX5_back 55 = .ok (.getfield 69, 3) := by decide +kernel
theorem dX5_back_58 : decode cX5_back 58 = .ok (.aload_n 0, 1) := by decide +kernel
theorem dX5_back_59 : decode cX5_back 59 = .ok (.getfield 167, 3) := by decide +kernel
theorem dX5_back_62 : decode cX5_back 62 = .ok (.iconst 1, 1) := by decide +kernel
theorem dX5_back_63 : decode cX5_back 63 = .ok (.isub, 1) := by decide +kernel
theorem dX5_back_64 : decode cX5_back 64 = .ok (.iaload, 1) := by decide +kernel
theorem dX5_back_65 : decode cX5_back 65 = .ok (.putfield 173, 3) := by decide +kernel
theorem dX5_back_68 : decode cX5_back 68 = .ok (.aload_n 0, 1) := by decide +kernel
theorem dX5_back_69 : decode cX5_back 69 = .ok (.getfield 167, 3) := by decide +kernel
theorem dX5_back_72 : decode cX5_back 72 = .ok (.ireturn, 1) := by decide +kernel
theorem q120 : (Jvm.Cond.initialized "PureHouseModel") ∈ lw_all := lw_g (lw_at lw_m1 8 rfl) rfl
theorem q1125 : (Jvm.Cond.selects "PureHouseModel" ({ cls := "java/lang/Object", name := "getClass", desc := "()Ljava/lang/Class;" } : Jvm.MethodName) ({ cls := "java/lang/Object", name := "getClass", desc := "()Ljava/lang/Class;" } : Jvm.MethodName)) ∈ lw_all := lw_g (lw_at lw_m5 53 rfl) rfl
theorem q1978 : (Jvm.Cond.instantiable "PureHouseModel" (83 : Nat)) ∈ lw_all := lw_g (lw_at lw_m8 186 rfl) rfl
theorem q1980 : (Jvm.Cond.instanceMethod ({ cls := "PureHouseModel", name := "<init>", desc := "()V" } : Jvm.MethodName)) ∈ lw_all := lw_g (lw_at lw_m8 188 rfl) rfl
theorem q1981 : (Jvm.Cond.code ({ cls := "PureHouseModel", name := "<init>", desc := "()V" } : Jvm.MethodName) prog_26_method_1_code (1 : Nat) (Option.none : Option Jvm.ClassFile.FieldType)) ∈ lw_all := lw_g (lw_at lw_m8 189 rfl) rfl
theorem q1982 : (Jvm.Cond.methodLink "PureHouseModel" (1 : Nat) ({ cls := "java/lang/Object", name := "<init>", desc := "()V" } : Jvm.MethodName)) ∈ lw_all := lw_g (lw_at lw_m8 190 rfl) rfl
theorem q1983 : (Jvm.Cond.classLink "PureHouseModel" (7 : Nat) "java/lang/String") ∈ lw_all := lw_g (lw_at lw_m8 191 rfl) rfl
theorem q1984 : (Jvm.Cond.stringRef "PureHouseModel" (9 : Nat) "sort") ∈ lw_tbl := lw_at lw_m8 192 rfl
theorem q1985 : (Jvm.Cond.stringRef "PureHouseModel" (11 : Nat) "axiom") ∈ lw_tbl := lw_at lw_m8 193 rfl
theorem q1986 : (Jvm.Cond.stringRef "PureHouseModel" (13 : Nat) "rule") ∈ lw_tbl := lw_at lw_m8 194 rfl
theorem q1987 : (Jvm.Cond.stringRef "PureHouseModel" (15 : Nat) "check") ∈ lw_tbl := lw_at lw_m8 195 rfl
theorem q1988 : (Jvm.Cond.stringRef "PureHouseModel" (17 : Nat) "norm") ∈ lw_tbl := lw_at lw_m8 196 rfl
theorem q1989 : (Jvm.Cond.stringRef "PureHouseModel" (19 : Nat) "same") ∈ lw_tbl := lw_at lw_m8 197 rfl
theorem q1990 : (Jvm.Cond.stringRef "PureHouseModel" (21 : Nat) "head") ∈ lw_tbl := lw_at lw_m8 198 rfl
theorem q1991 : (Jvm.Cond.stringRef "PureHouseModel" (23 : Nat) "let") ∈ lw_tbl := lw_at lw_m8 199 rfl
theorem q1992 : (Jvm.Cond.stringRef "PureHouseModel" (25 : Nat) "in") ∈ lw_tbl := lw_at lw_m8 200 rfl
theorem q1993 : (Jvm.Cond.constant "PureHouseModel" (75 : Nat) (140000 : Int32)) ∈ lw_all := lw_g (lw_at lw_m8 201 rfl) rfl
theorem q1994 : (Jvm.Cond.constant "PureHouseModel" (112 : Nat) (80000 : Int32)) ∈ lw_all := lw_g (lw_at lw_m8 202 rfl) rfl
theorem q1995 : (Jvm.Cond.methodLink "PureHouseModel" (143 : Nat) ({ cls := "PureHouseModel", name := "table", desc := "(I)V" } : Jvm.MethodName)) ∈ lw_all := lw_g (lw_at lw_m8 203 rfl) rfl
theorem q1996 : (Jvm.Cond.privateMethod ({ cls := "PureHouseModel", name := "table", desc := "(I)V" } : Jvm.MethodName)) ∈ lw_tbl := lw_at lw_m8 204 rfl
theorem q1997 : (Jvm.Cond.instanceMethod ({ cls := "PureHouseModel", name := "table", desc := "(I)V" } : Jvm.MethodName)) ∈ lw_all := lw_g (lw_at lw_m8 205 rfl) rfl
theorem q1998 : (Jvm.Cond.code ({ cls := "PureHouseModel", name := "table", desc := "(I)V" } : Jvm.MethodName) prog_26_method_6_code (4 : Nat) (Option.none : Option Jvm.ClassFile.FieldType)) ∈ lw_all := lw_g (lw_at lw_m8 206 rfl) rfl
theorem q1999 : (Jvm.Cond.stringRef "PureHouseModel" (176 : Nat) "type") ∈ lw_tbl := lw_at lw_m8 207 rfl
theorem q2000 : (Jvm.Cond.methodLink "PureHouseModel" (178 : Nat) ({ cls := "PureHouseModel", name := "newSort", desc := "(Ljava/lang/String;)I" } : Jvm.MethodName)) ∈ lw_all := lw_g (lw_at lw_m8 208 rfl) rfl
theorem q2001 : (Jvm.Cond.privateMethod ({ cls := "PureHouseModel", name := "newSort", desc := "(Ljava/lang/String;)I" } : Jvm.MethodName)) ∈ lw_tbl := lw_at lw_m8 209 rfl
theorem q2002 : (Jvm.Cond.instanceMethod ({ cls := "PureHouseModel", name := "newSort", desc := "(Ljava/lang/String;)I" } : Jvm.MethodName)) ∈ lw_all := lw_g (lw_at lw_m8 210 rfl) rfl
theorem q2003 : (Jvm.Cond.code ({ cls := "PureHouseModel", name := "newSort", desc := "(Ljava/lang/String;)I" } : Jvm.MethodName) prog_26_method_5_code (3 : Nat) (Option.some Jvm.ClassFile.FieldType.int)) ∈ lw_all := lw_g (lw_at lw_m8 211 rfl) rfl
theorem q2004 : (Jvm.Cond.methodLink "PureHouseModel" (156 : Nat) ({ cls := "java/lang/String", name := "length", desc := "()I" } : Jvm.MethodName)) ∈ lw_all := lw_g (lw_at lw_m8 212 rfl) rfl
theorem q2005 : (Jvm.Cond.methodLink "PureHouseModel" (163 : Nat) ({ cls := "java/lang/String", name := "charAt", desc := "(I)C" } : Jvm.MethodName)) ∈ lw_all := lw_g (lw_at lw_m8 213 rfl) rfl
theorem q2006 : (Jvm.Cond.stringRef "PureHouseModel" (182 : Nat) "kind") ∈ lw_tbl := lw_at lw_m8 214 rfl
theorem q2007 : (Jvm.Cond.fieldLink "PureHouseModel" (27 : Nat) "PureHouseModel" "words" "[Ljava/lang/String;") ∈ lw_all := lw_g (lw_at lw_m8 215 rfl) rfl
theorem q2008 : (Jvm.Cond.fieldLink "PureHouseModel" (147 : Nat) "PureHouseModel" "code" "I") ∈ lw_all := lw_g (lw_at lw_m8 216 rfl) rfl
theorem q2009 : (Jvm.Cond.fieldLink "PureHouseModel" (33 : Nat) "PureHouseModel" "tape" "[I") ∈ lw_all := lw_g (lw_at lw_m8 217 rfl) rfl
theorem q2010 : (Jvm.Cond.fieldLink "PureHouseModel" (183 : Nat) "PureHouseModel" "taped" "I") ∈ lw_all := lw_g (lw_at lw_m8 218 rfl) rfl
theorem q2011 : (Jvm.Cond.fieldLink "PureHouseModel" (37 : Nat) "PureHouseModel" "text" "[I") ∈ lw_all := lw_g (lw_at lw_m8 219 rfl) rfl
theorem q2012 : (Jvm.Cond.fieldLink "PureHouseModel" (186 : Nat) "PureHouseModel" "size" "I") ∈ lw_all := lw_g (lw_at lw_m8 220 rfl) rfl
theorem q2013 : (Jvm.Cond.fieldLink "PureHouseModel" (193 : Nat) "PureHouseModel" "at" "I") ∈ lw_all := lw_g (lw_at lw_m8 221 rfl) rfl
theorem q2014 : (Jvm.Cond.fieldLink "PureHouseModel" (203 : Nat) "PureHouseModel" "token" "I") ∈ lw_all := lw_g (lw_at lw_m8 222 rfl) rfl
theorem q2015 : (Jvm.Cond.fieldLink "PureHouseModel" (225 : Nat) "PureHouseModel" "sign" "I") ∈ lw_all := lw_g (lw_at lw_m8 223 rfl) rfl
theorem q2016 : (Jvm.Cond.fieldLink "PureHouseModel" (200 : Nat) "PureHouseModel" "begins" "I") ∈ lw_all := lw_g (lw_at lw_m8 224 rfl) rfl
theorem q2017 : (Jvm.Cond.fieldLink "PureHouseModel" (212 : Nat) "PureHouseModel" "ends" "I") ∈ lw_all := lw_g (lw_at lw_m8 225 rfl) rfl
theorem q2018 : (Jvm.Cond.fieldLink "PureHouseModel" (206 : Nat) "PureHouseModel" "word" "I") ∈ lw_all := lw_g (lw_at lw_m8 226 rfl) rfl
theorem q2019 : (Jvm.Cond.fieldLink "PureHouseModel" (486 : Nat) "PureHouseModel" "fault" "I") ∈ lw_all := lw_g (lw_at lw_m8 227 rfl) rfl
theorem q2020 : (Jvm.Cond.fieldLink "PureHouseModel" (40 : Nat) "PureHouseModel" "faultPlace" "I") ∈ lw_all := lw_g (lw_at lw_m8 228 rfl) rfl
theorem q2021 : (Jvm.Cond.fieldLink "PureHouseModel" (471 : Nat) "PureHouseModel" "done" "I") ∈ lw_all := lw_g (lw_at lw_m8 229 rfl) rfl
theorem q2022 : (Jvm.Cond.fieldLink "PureHouseModel" (237 : Nat) "PureHouseModel" "builds" "Z") ∈ lw_all := lw_g (lw_at lw_m8 230 rfl) rfl
theorem q2023 : (Jvm.Cond.fieldLink "PureHouseModel" (44 : Nat) "PureHouseModel" "sortName" "[I") ∈ lw_all := lw_g (lw_at lw_m8 231 rfl) rfl
theorem q2024 : (Jvm.Cond.fieldLink "PureHouseModel" (47 : Nat) "PureHouseModel" "sortLong" "[I") ∈ lw_all := lw_g (lw_at lw_m8 232 rfl) rfl
theorem q2025 : (Jvm.Cond.fieldLink "PureHouseModel" (50 : Nat) "PureHouseModel" "axiom" "[I") ∈ lw_all := lw_g (lw_at lw_m8 233 rfl) rfl
theorem q2026 : (Jvm.Cond.fieldLink "PureHouseModel" (52 : Nat) "PureHouseModel" "rule" "[I") ∈ lw_all := lw_g (lw_at lw_m8 234 rfl) rfl
theorem q2027 : (Jvm.Cond.fieldLink "PureHouseModel" (160 : Nat) "PureHouseModel" "sorts" "I") ∈ lw_all := lw_g (lw_at lw_m8 235 rfl) rfl
theorem q2028 : (Jvm.Cond.fieldLink "PureHouseModel" (54 : Nat) "PureHouseModel" "knownName" "[I") ∈ lw_all := lw_g (lw_at lw_m8 236 rfl) rfl
theorem q2029 : (Jvm.Cond.fieldLink "PureHouseModel" (57 : Nat) "PureHouseModel" "knownLong" "[I") ∈ lw_all := lw_g (lw_at lw_m8 237 rfl) rfl
theorem q2030 : (Jvm.Cond.fieldLink "PureHouseModel" (60 : Nat) "PureHouseModel" "knownType" "[I") ∈ lw_all := lw_g (lw_at lw_m8 238 rfl) rfl
theorem q2031 : (Jvm.Cond.fieldLink "PureHouseModel" (63 : Nat) "PureHouseModel" "knownSort" "[I") ∈ lw_all := lw_g (lw_at lw_m8 239 rfl) rfl
theorem q2032 : (Jvm.Cond.fieldLink "PureHouseModel" (66 : Nat) "PureHouseModel" "knownValue" "[I") ∈ lw_all := lw_g (lw_at lw_m9 0 rfl) rfl
theorem q2033 : (Jvm.Cond.fieldLink "PureHouseModel" (69 : Nat) "PureHouseModel" "knownNodes" "[I") ∈ lw_all := lw_g (lw_at lw_m9 1 rfl) rfl
theorem q2034 : (Jvm.Cond.fieldLink "PureHouseModel" (167 : Nat) "PureHouseModel" "known" "I") ∈ lw_all := lw_g (lw_at lw_m9 2 rfl) rfl
theorem q2035 : (Jvm.Cond.fieldLink "PureHouseModel" (72 : Nat) "PureHouseModel" "marks" "[I") ∈ lw_all := lw_g (lw_at lw_m9 3 rfl) rfl
theorem q2036 : (Jvm.Cond.fieldLink "PureHouseModel" (170 : Nat) "PureHouseModel" "marked" "I") ∈ lw_all := lw_g (lw_at lw_m9 4 rfl) rfl
theorem q2037 : (Jvm.Cond.fieldLink "PureHouseModel" (76 : Nat) "PureHouseModel" "kind" "[I") ∈ lw_all := lw_g (lw_at lw_m9 5 rfl) rfl
theorem q2038 : (Jvm.Cond.fieldLink "PureHouseModel" (79 : Nat) "PureHouseModel" "one" "[I") ∈ lw_all := lw_g (lw_at lw_m9 6 rfl) rfl
theorem q2039 : (Jvm.Cond.fieldLink "PureHouseModel" (82 : Nat) "PureHouseModel" "two" "[I") ∈ lw_all := lw_g (lw_at lw_m9 7 rfl) rfl
theorem q2040 : (Jvm.Cond.fieldLink "PureHouseModel" (85 : Nat) "PureHouseModel" "three" "[I") ∈ lw_all := lw_g (lw_at lw_m9 8 rfl) rfl
theorem q2041 : (Jvm.Cond.fieldLink "PureHouseModel" (88 : Nat) "PureHouseModel" "place" "[I") ∈ lw_all := lw_g (lw_at lw_m9 9 rfl) rfl
theorem q2042 : (Jvm.Cond.fieldLink "PureHouseModel" (91 : Nat) "PureHouseModel" "signAt" "[I") ∈ lw_all := lw_g (lw_at lw_m9 10 rfl) rfl
theorem q2043 : (Jvm.Cond.fieldLink "PureHouseModel" (94 : Nat) "PureHouseModel" "keepA" "[I") ∈ lw_all := lw_g (lw_at lw_m9 11 rfl) rfl
theorem q2044 : (Jvm.Cond.fieldLink "PureHouseModel" (97 : Nat) "PureHouseModel" "keepB" "[I") ∈ lw_all := lw_g (lw_at lw_m9 12 rfl) rfl
theorem q2045 : (Jvm.Cond.fieldLink "PureHouseModel" (100 : Nat) "PureHouseModel" "binder" "[I") ∈ lw_all := lw_g (lw_at lw_m9 13 rfl) rfl
theorem q2046 : (Jvm.Cond.fieldLink "PureHouseModel" (173 : Nat) "PureHouseModel" "nodes" "I") ∈ lw_all := lw_g (lw_at lw_m9 14 rfl) rfl
theorem q2047 : (Jvm.Cond.fieldLink "PureHouseModel" (103 : Nat) "PureHouseModel" "boundType" "[I") ∈ lw_all := lw_g (lw_at lw_m9 15 rfl) rfl
theorem q2048 : (Jvm.Cond.fieldLink "PureHouseModel" (106 : Nat) "PureHouseModel" "boundSort" "[I") ∈ lw_all := lw_g (lw_at lw_m9 16 rfl) rfl
theorem q2049 : (Jvm.Cond.fieldLink "PureHouseModel" (109 : Nat) "PureHouseModel" "scope" "[I") ∈ lw_all := lw_g (lw_at lw_m9 17 rfl) rfl
theorem q2050 : (Jvm.Cond.fieldLink "PureHouseModel" (409 : Nat) "PureHouseModel" "scopes" "I") ∈ lw_all := lw_g (lw_at lw_m9 18 rfl) rfl
theorem q2051 : (Jvm.Cond.fieldLink "PureHouseModel" (113 : Nat) "PureHouseModel" "up" "[I") ∈ lw_all := lw_g (lw_at lw_m9 19 rfl) rfl
theorem q2052 : (Jvm.Cond.fieldLink "PureHouseModel" (116 : Nat) "PureHouseModel" "binds" "[I") ∈ lw_all := lw_g (lw_at lw_m9 20 rfl) rfl
theorem q2053 : (Jvm.Cond.fieldLink "PureHouseModel" (119 : Nat) "PureHouseModel" "term" "[I") ∈ lw_all := lw_g (lw_at lw_m9 21 rfl) rfl
theorem q2054 : (Jvm.Cond.fieldLink "PureHouseModel" (122 : Nat) "PureHouseModel" "under" "[I") ∈ lw_all := lw_g (lw_at lw_m9 22 rfl) rfl
theorem q2055 : (Jvm.Cond.fieldLink "PureHouseModel" (125 : Nat) "PureHouseModel" "cells" "I") ∈ lw_all := lw_g (lw_at lw_m9 23 rfl) rfl
theorem q2056 : (Jvm.Cond.fieldLink "PureHouseModel" (128 : Nat) "PureHouseModel" "waitTerm" "[I") ∈ lw_all := lw_g (lw_at lw_m9 24 rfl) rfl
theorem q2057 : (Jvm.Cond.fieldLink "PureHouseModel" (131 : Nat) "PureHouseModel" "waitCell" "[I") ∈ lw_all := lw_g (lw_at lw_m9 25 rfl) rfl
theorem q2058 : (Jvm.Cond.fieldLink "PureHouseModel" (324 : Nat) "PureHouseModel" "waits" "I") ∈ lw_all := lw_g (lw_at lw_m9 26 rfl) rfl
theorem q2059 : (Jvm.Cond.fieldLink "PureHouseModel" (348 : Nat) "PureHouseModel" "headTerm" "I") ∈ lw_all := lw_g (lw_at lw_m9 27 rfl) rfl
theorem q2060 : (Jvm.Cond.fieldLink "PureHouseModel" (351 : Nat) "PureHouseModel" "headCell" "I") ∈ lw_all := lw_g (lw_at lw_m9 28 rfl) rfl
theorem q2061 : (Jvm.Cond.fieldLink "PureHouseModel" (318 : Nat) "PureHouseModel" "foundTerm" "I") ∈ lw_all := lw_g (lw_at lw_m9 29 rfl) rfl
theorem q2062 : (Jvm.Cond.fieldLink "PureHouseModel" (321 : Nat) "PureHouseModel" "foundCell" "I") ∈ lw_all := lw_g (lw_at lw_m9 30 rfl) rfl
theorem q2063 : (Jvm.Cond.fieldLink "PureHouseModel" (315 : Nat) "PureHouseModel" "isFound" "Z") ∈ lw_all := lw_g (lw_at lw_m9 31 rfl) rfl
theorem q2064 : (Jvm.Cond.fieldLink "PureHouseModel" (371 : Nat) "PureHouseModel" "fresh" "I") ∈ lw_all := lw_g (lw_at lw_m9 32 rfl) rfl
theorem q2065 : (Jvm.Cond.fieldLink "PureHouseModel" (134 : Nat) "PureHouseModel" "chain" "[I") ∈ lw_all := lw_g (lw_at lw_m9 33 rfl) rfl
theorem q2066 : (Jvm.Cond.fieldLink "PureHouseModel" (443 : Nat) "PureHouseModel" "chained" "I") ∈ lw_all := lw_g (lw_at lw_m9 34 rfl) rfl
theorem q2067 : (Jvm.Cond.fieldLink "PureHouseModel" (403 : Nat) "PureHouseModel" "typeTerm" "I") ∈ lw_all := lw_g (lw_at lw_m9 35 rfl) rfl
theorem q2068 : (Jvm.Cond.fieldLink "PureHouseModel" (406 : Nat) "PureHouseModel" "typeSort" "I") ∈ lw_all := lw_g (lw_at lw_m9 36 rfl) rfl
theorem q2069 : (Jvm.Cond.fieldLink "PureHouseModel" (449 : Nat) "PureHouseModel" "firstNode" "I") ∈ lw_all := lw_g (lw_at lw_m9 37 rfl) rfl
theorem q2070 : (Jvm.Cond.fieldLink "PureHouseModel" (137 : Nat) "PureHouseModel" "limit" "I") ∈ lw_all := lw_g (lw_at lw_m9 38 rfl) rfl
theorem q2071 : (Jvm.Cond.fieldLink "PureHouseModel" (302 : Nat) "PureHouseModel" "work" "I") ∈ lw_all := lw_g (lw_at lw_m9 39 rfl) rfl
theorem q2072 : (Jvm.Cond.fieldLink "PureHouseModel" (305 : Nat) "PureHouseModel" "life" "I") ∈ lw_all := lw_g (lw_at lw_m9 40 rfl) rfl
theorem q2073 : (Jvm.Cond.fieldLink "PureHouseModel" (339 : Nat) "PureHouseModel" "stepsB" "I") ∈ lw_all := lw_g (lw_at lw_m9 41 rfl) rfl
theorem q2074 : (Jvm.Cond.fieldLink "PureHouseModel" (336 : Nat) "PureHouseModel" "stepsD" "I") ∈ lw_all := lw_g (lw_at lw_m9 42 rfl) rfl
theorem q2075 : (Jvm.Cond.fieldLink "PureHouseModel" (345 : Nat) "PureHouseModel" "stepsZ" "I") ∈ lw_all := lw_g (lw_at lw_m9 43 rfl) rfl
theorem q2076 : (Jvm.Cond.fieldLink "PureHouseModel" (327 : Nat) "PureHouseModel" "stepsP" "I") ∈ lw_all := lw_g (lw_at lw_m9 44 rfl) rfl
theorem q2077 : (Jvm.Cond.fieldLink "PureHouseModel" (333 : Nat) "PureHouseModel" "stepsV" "I") ∈ lw_all := lw_g (lw_at lw_m9 45 rfl) rfl
theorem q2078 : (Jvm.Cond.fieldLink "PureHouseModel" (312 : Nat) "PureHouseModel" "looks" "I") ∈ lw_all := lw_g (lw_at lw_m9 46 rfl) rfl
theorem q2079 : (Jvm.Cond.fieldLink "PureHouseModel" (150 : Nat) "PureHouseModel" "bad" "I") ∈ lw_all := lw_g (lw_at lw_m9 47 rfl) rfl
theorem q2080 : (Jvm.Cond.fieldLink "PureHouseModel" (153 : Nat) "PureHouseModel" "badPlace" "I") ∈ lw_all := lw_g (lw_at lw_m9 48 rfl) rfl
theorem q2081 : (Jvm.Cond.fieldLink "PureHouseModel" (140 : Nat) "PureHouseModel" "out" "[I") ∈ lw_all := lw_g (lw_at lw_m9 49 rfl) rfl
theorem q2082 : (Jvm.Cond.fieldLink "PureHouseModel" (378 : Nat) "PureHouseModel" "outs" "I") ∈ lw_all := lw_g (lw_at lw_m9 50 rfl) rfl
theorem q2083 : (Jvm.Cond.fieldLink "PureHouseModel" (278 : Nat) "PureHouseModel" "stWord" "I") ∈ lw_all := lw_g (lw_at lw_m9 51 rfl) rfl
theorem q2084 : (Jvm.Cond.fieldLink "PureHouseModel" (275 : Nat) "PureHouseModel" "stPlace" "I") ∈ lw_all := lw_g (lw_at lw_m9 52 rfl) rfl
theorem q2085 : (Jvm.Cond.fieldLink "PureHouseModel" (281 : Nat) "PureHouseModel" "stTerm" "I") ∈ lw_all := lw_g (lw_at lw_m9 53 rfl) rfl
theorem q2086 : (Jvm.Cond.fieldLink "PureHouseModel" (284 : Nat) "PureHouseModel" "stOther" "I") ∈ lw_all := lw_g (lw_at lw_m9 54 rfl) rfl
theorem q2087 : (Jvm.Cond.fieldLink "PureHouseModel" (290 : Nat) "PureHouseModel" "stX" "I") ∈ lw_all := lw_g (lw_at lw_m9 55 rfl) rfl
theorem q2088 : (Jvm.Cond.fieldLink "PureHouseModel" (293 : Nat) "PureHouseModel" "stY" "I") ∈ lw_all := lw_g (lw_at lw_m9 56 rfl) rfl
theorem q2089 : (Jvm.Cond.fieldLink "PureHouseModel" (296 : Nat) "PureHouseModel" "stZ" "I") ∈ lw_all := lw_g (lw_at lw_m9 57 rfl) rfl
theorem q2090 : (Jvm.Cond.laysFinal "PureHouseModel" "PureHouseModel" "words" "[Ljava/lang/String;") ∈ lw_all := lw_g (lw_at lw_m9 58 rfl) rfl
theorem q2091 : (Jvm.Cond.soleField "PureHouseModel" "words") ∈ lw_all := lw_g (lw_at lw_m9 59 rfl) rfl
theorem q2092 : (Jvm.Cond.lays "PureHouseModel" "PureHouseModel" "code" "I") ∈ lw_all := lw_g (lw_at lw_m9 60 rfl) rfl
theorem q2093 : (Jvm.Cond.soleField "PureHouseModel" "code") ∈ lw_all := lw_g (lw_at lw_m9 61 rfl) rfl
theorem q2094 : (Jvm.Cond.laysFinal "PureHouseModel" "PureHouseModel" "tape" "[I") ∈ lw_all := lw_g (lw_at lw_m9 62 rfl) rfl
theorem q2095 : (Jvm.Cond.soleField "PureHouseModel" "tape") ∈ lw_all := lw_g (lw_at lw_m9 63 rfl) rfl
theorem q2096 : (Jvm.Cond.lays "PureHouseModel" "PureHouseModel" "taped" "I") ∈ lw_all := lw_g (lw_at lw_m9 64 rfl) rfl
theorem q2097 : (Jvm.Cond.soleField "PureHouseModel" "taped") ∈ lw_all := lw_g (lw_at lw_m9 65 rfl) rfl
theorem q2098 : (Jvm.Cond.laysFinal "PureHouseModel" "PureHouseModel" "text" "[I") ∈ lw_all := lw_g (lw_at lw_m9 66 rfl) rfl
theorem q2099 : (Jvm.Cond.soleField "PureHouseModel" "text") ∈ lw_all := lw_g (lw_at lw_m9 67 rfl) rfl
theorem q2100 : (Jvm.Cond.lays "PureHouseModel" "PureHouseModel" "size" "I") ∈ lw_all := lw_g (lw_at lw_m9 68 rfl) rfl
theorem q2101 : (Jvm.Cond.soleField "PureHouseModel" "size") ∈ lw_all := lw_g (lw_at lw_m9 69 rfl) rfl
theorem q2102 : (Jvm.Cond.lays "PureHouseModel" "PureHouseModel" "at" "I") ∈ lw_all := lw_g (lw_at lw_m9 70 rfl) rfl
theorem q2103 : (Jvm.Cond.soleField "PureHouseModel" "at") ∈ lw_all := lw_g (lw_at lw_m9 71 rfl) rfl
theorem q2104 : (Jvm.Cond.lays "PureHouseModel" "PureHouseModel" "token" "I") ∈ lw_all := lw_g (lw_at lw_m9 72 rfl) rfl
theorem q2105 : (Jvm.Cond.soleField "PureHouseModel" "token") ∈ lw_all := lw_g (lw_at lw_m9 73 rfl) rfl
theorem q2106 : (Jvm.Cond.lays "PureHouseModel" "PureHouseModel" "sign" "I") ∈ lw_all := lw_g (lw_at lw_m9 74 rfl) rfl
theorem q2107 : (Jvm.Cond.soleField "PureHouseModel" "sign") ∈ lw_all := lw_g (lw_at lw_m9 75 rfl) rfl
theorem q2108 : (Jvm.Cond.lays "PureHouseModel" "PureHouseModel" "begins" "I") ∈ lw_all := lw_g (lw_at lw_m9 76 rfl) rfl
theorem q2109 : (Jvm.Cond.soleField "PureHouseModel" "begins") ∈ lw_all := lw_g (lw_at lw_m9 77 rfl) rfl
theorem q2110 : (Jvm.Cond.lays "PureHouseModel" "PureHouseModel" "ends" "I") ∈ lw_all := lw_g (lw_at lw_m9 78 rfl) rfl
theorem q2111 : (Jvm.Cond.soleField "PureHouseModel" "ends") ∈ lw_all := lw_g (lw_at lw_m9 79 rfl) rfl
theorem q2112 : (Jvm.Cond.lays "PureHouseModel" "PureHouseModel" "word" "I") ∈ lw_all := lw_g (lw_at lw_m9 80 rfl) rfl
theorem q2113 : (Jvm.Cond.soleField "PureHouseModel" "word") ∈ lw_all := lw_g (lw_at lw_m9 81 rfl) rfl
theorem q2114 : (Jvm.Cond.lays "PureHouseModel" "PureHouseModel" "fault" "I") ∈ lw_all := lw_g (lw_at lw_m9 82 rfl) rfl
theorem q2115 : (Jvm.Cond.soleField "PureHouseModel" "fault") ∈ lw_all := lw_g (lw_at lw_m9 83 rfl) rfl
theorem q2116 : (Jvm.Cond.lays "PureHouseModel" "PureHouseModel" "faultPlace" "I") ∈ lw_all := lw_g (lw_at lw_m9 84 rfl) rfl
theorem q2117 : (Jvm.Cond.soleField "PureHouseModel" "faultPlace") ∈ lw_all := lw_g (lw_at lw_m9 85 rfl) rfl
theorem q2118 : (Jvm.Cond.lays "PureHouseModel" "PureHouseModel" "done" "I") ∈ lw_all := lw_g (lw_at lw_m9 86 rfl) rfl
theorem q2119 : (Jvm.Cond.soleField "PureHouseModel" "done") ∈ lw_all := lw_g (lw_at lw_m9 87 rfl) rfl
theorem q2120 : (Jvm.Cond.lays "PureHouseModel" "PureHouseModel" "builds" "Z") ∈ lw_all := lw_g (lw_at lw_m9 88 rfl) rfl
theorem q2121 : (Jvm.Cond.soleField "PureHouseModel" "builds") ∈ lw_all := lw_g (lw_at lw_m9 89 rfl) rfl
theorem q2122 : (Jvm.Cond.laysFinal "PureHouseModel" "PureHouseModel" "sortName" "[I") ∈ lw_all := lw_g (lw_at lw_m9 90 rfl) rfl
theorem q2123 : (Jvm.Cond.soleField "PureHouseModel" "sortName") ∈ lw_all := lw_g (lw_at lw_m9 91 rfl) rfl
theorem q2124 : (Jvm.Cond.laysFinal "PureHouseModel" "PureHouseModel" "sortLong" "[I") ∈ lw_all := lw_g (lw_at lw_m9 92 rfl) rfl
theorem q2125 : (Jvm.Cond.soleField "PureHouseModel" "sortLong") ∈ lw_all := lw_g (lw_at lw_m9 93 rfl) rfl
theorem q2126 : (Jvm.Cond.laysFinal "PureHouseModel" "PureHouseModel" "axiom" "[I") ∈ lw_all := lw_g (lw_at lw_m9 94 rfl) rfl
theorem q2127 : (Jvm.Cond.soleField "PureHouseModel" "axiom") ∈ lw_all := lw_g (lw_at lw_m9 95 rfl) rfl
theorem q2128 : (Jvm.Cond.laysFinal "PureHouseModel" "PureHouseModel" "rule" "[I") ∈ lw_all := lw_g (lw_at lw_m9 96 rfl) rfl
theorem q2129 : (Jvm.Cond.soleField "PureHouseModel" "rule") ∈ lw_all := lw_g (lw_at lw_m9 97 rfl) rfl
theorem q2130 : (Jvm.Cond.lays "PureHouseModel" "PureHouseModel" "sorts" "I") ∈ lw_all := lw_g (lw_at lw_m9 98 rfl) rfl
theorem q2131 : (Jvm.Cond.soleField "PureHouseModel" "sorts") ∈ lw_all := lw_g (lw_at lw_m9 99 rfl) rfl
theorem q2132 : (Jvm.Cond.laysFinal "PureHouseModel" "PureHouseModel" "knownName" "[I") ∈ lw_all := lw_g (lw_at lw_m9 100 rfl) rfl
theorem q2133 : (Jvm.Cond.soleField "PureHouseModel" "knownName") ∈ lw_all := lw_g (lw_at lw_m9 101 rfl) rfl
theorem q2134 : (Jvm.Cond.laysFinal "PureHouseModel" "PureHouseModel" "knownLong" "[I") ∈ lw_all := lw_g (lw_at lw_m9 102 rfl) rfl
theorem q2135 : (Jvm.Cond.soleField "PureHouseModel" "knownLong") ∈ lw_all := lw_g (lw_at lw_m9 103 rfl) rfl
theorem q2136 : (Jvm.Cond.laysFinal "PureHouseModel" "PureHouseModel" "knownType" "[I") ∈ lw_all := lw_g (lw_at lw_m9 104 rfl) rfl
theorem q2137 : (Jvm.Cond.soleField "PureHouseModel" "knownType") ∈ lw_all := lw_g (lw_at lw_m9 105 rfl) rfl
theorem q2138 : (Jvm.Cond.laysFinal "PureHouseModel" "PureHouseModel" "knownSort" "[I") ∈ lw_all := lw_g (lw_at lw_m9 106 rfl) rfl
theorem q2139 : (Jvm.Cond.soleField "PureHouseModel" "knownSort") ∈ lw_all := lw_g (lw_at lw_m9 107 rfl) rfl
theorem q2140 : (Jvm.Cond.laysFinal "PureHouseModel" "PureHouseModel" "knownValue" "[I") ∈ lw_all := lw_g (lw_at lw_m9 108 rfl) rfl
theorem q2141 : (Jvm.Cond.soleField "PureHouseModel" "knownValue") ∈ lw_all := lw_g (lw_at lw_m9 109 rfl) rfl
theorem q2142 : (Jvm.Cond.laysFinal "PureHouseModel" "PureHouseModel" "knownNodes" "[I") ∈ lw_all := lw_g (lw_at lw_m9 110 rfl) rfl
theorem q2143 : (Jvm.Cond.soleField "PureHouseModel" "knownNodes") ∈ lw_all := lw_g (lw_at lw_m9 111 rfl) rfl
theorem q2144 : (Jvm.Cond.lays "PureHouseModel" "PureHouseModel" "known" "I") ∈ lw_all := lw_g (lw_at lw_m9 112 rfl) rfl
theorem q2145 : (Jvm.Cond.soleField "PureHouseModel" "known") ∈ lw_all := lw_g (lw_at lw_m9 113 rfl) rfl
theorem q2146 : (Jvm.Cond.laysFinal "PureHouseModel" "PureHouseModel" "marks" "[I") ∈ lw_all := lw_g (lw_at lw_m9 114 rfl) rfl
theorem q2147 : (Jvm.Cond.soleField "PureHouseModel" "marks") ∈ lw_all := lw_g (lw_at lw_m9 115 rfl) rfl
theorem q2148 : (Jvm.Cond.lays "PureHouseModel" "PureHouseModel" "marked" "I") ∈ lw_all := lw_g (lw_at lw_m9 116 rfl) rfl
theorem q2149 : (Jvm.Cond.soleField "PureHouseModel" "marked") ∈ lw_all := lw_g (lw_at lw_m9 117 rfl) rfl
theorem q2150 : (Jvm.Cond.laysFinal "PureHouseModel" "PureHouseModel" "kind" "[I") ∈ lw_all := lw_g (lw_at lw_m9 118 rfl) rfl
theorem q2151 : (Jvm.Cond.soleField "PureHouseModel" "kind") ∈ lw_all := lw_g (lw_at lw_m9 119 rfl) rfl
theorem q2152 : (Jvm.Cond.laysFinal "PureHouseModel" "PureHouseModel" "one" "[I") ∈ lw_all := lw_g (lw_at lw_m9 120 rfl) rfl
theorem q2153 : (Jvm.Cond.soleField "PureHouseModel" "one") ∈ lw_all := lw_g (lw_at lw_m9 121 rfl) rfl
theorem q2154 : (Jvm.Cond.laysFinal "PureHouseModel" "PureHouseModel" "two" "[I") ∈ lw_all := lw_g (lw_at lw_m9 122 rfl) rfl
theorem q2155 : (Jvm.Cond.soleField "PureHouseModel" "two") ∈ lw_all := lw_g (lw_at lw_m9 123 rfl) rfl
theorem q2156 : (Jvm.Cond.laysFinal "PureHouseModel" "PureHouseModel" "three" "[I") ∈ lw_all := lw_g (lw_at lw_m9 124 rfl) rfl
theorem q2157 : (Jvm.Cond.soleField "PureHouseModel" "three") ∈ lw_all := lw_g (lw_at lw_m9 125 rfl) rfl
theorem q2158 : (Jvm.Cond.laysFinal "PureHouseModel" "PureHouseModel" "place" "[I") ∈ lw_all := lw_g (lw_at lw_m9 126 rfl) rfl
theorem q2159 : (Jvm.Cond.soleField "PureHouseModel" "place") ∈ lw_all := lw_g (lw_at lw_m9 127 rfl) rfl
theorem q2160 : (Jvm.Cond.laysFinal "PureHouseModel" "PureHouseModel" "signAt" "[I") ∈ lw_all := lw_g (lw_at lw_m9 128 rfl) rfl
theorem q2161 : (Jvm.Cond.soleField "PureHouseModel" "signAt") ∈ lw_all := lw_g (lw_at lw_m9 129 rfl) rfl
theorem q2162 : (Jvm.Cond.laysFinal "PureHouseModel" "PureHouseModel" "keepA" "[I") ∈ lw_all := lw_g (lw_at lw_m9 130 rfl) rfl
theorem q2163 : (Jvm.Cond.soleField "PureHouseModel" "keepA") ∈ lw_all := lw_g (lw_at lw_m9 131 rfl) rfl
theorem q2164 : (Jvm.Cond.laysFinal "PureHouseModel" "PureHouseModel" "keepB" "[I") ∈ lw_all := lw_g (lw_at lw_m9 132 rfl) rfl
theorem q2165 : (Jvm.Cond.soleField "PureHouseModel" "keepB") ∈ lw_all := lw_g (lw_at lw_m9 133 rfl) rfl
theorem q2166 : (Jvm.Cond.laysFinal "PureHouseModel" "PureHouseModel" "binder" "[I") ∈ lw_all := lw_g (lw_at lw_m9 134 rfl) rfl
theorem q2167 : (Jvm.Cond.soleField "PureHouseModel" "binder") ∈ lw_all := lw_g (lw_at lw_m9 135 rfl) rfl
theorem q2168 : (Jvm.Cond.lays "PureHouseModel" "PureHouseModel" "nodes" "I") ∈ lw_all := lw_g (lw_at lw_m9 136 rfl) rfl
theorem q2169 : (Jvm.Cond.soleField "PureHouseModel" "nodes") ∈ lw_all := lw_g (lw_at lw_m9 137 rfl) rfl
theorem q2170 : (Jvm.Cond.laysFinal "PureHouseModel" "PureHouseModel" "boundType" "[I") ∈ lw_all := lw_g (lw_at lw_m9 138 rfl) rfl
theorem q2171 : (Jvm.Cond.soleField "PureHouseModel" "boundType") ∈ lw_all := lw_g (lw_at lw_m9 139 rfl) rfl
theorem q2172 : (Jvm.Cond.laysFinal "PureHouseModel" "PureHouseModel" "boundSort" "[I") ∈ lw_all := lw_g (lw_at lw_m9 140 rfl) rfl
theorem q2173 : (Jvm.Cond.soleField "PureHouseModel" "boundSort") ∈ lw_all := lw_g (lw_at lw_m9 141 rfl) rfl
theorem q2174 : (Jvm.Cond.laysFinal "PureHouseModel" "PureHouseModel" "scope" "[I") ∈ lw_all := lw_g (lw_at lw_m9 142 rfl) rfl
theorem q2175 : (Jvm.Cond.soleField "PureHouseModel" "scope") ∈ lw_all := lw_g (lw_at lw_m9 143 rfl) rfl
theorem q2176 : (Jvm.Cond.lays "PureHouseModel" "PureHouseModel" "scopes" "I") ∈ lw_all := lw_g (lw_at lw_m9 144 rfl) rfl
theorem q2177 : (Jvm.Cond.soleField "PureHouseModel" "scopes") ∈ lw_all := lw_g (lw_at lw_m9 145 rfl) rfl
theorem q2178 : (Jvm.Cond.laysFinal "PureHouseModel" "PureHouseModel" "up" "[I") ∈ lw_all := lw_g (lw_at lw_m9 146 rfl) rfl
theorem q2179 : (Jvm.Cond.soleField "PureHouseModel" "up") ∈ lw_all := lw_g (lw_at lw_m9 147 rfl) rfl
theorem q2180 : (Jvm.Cond.laysFinal "PureHouseModel" "PureHouseModel" "binds" "[I") ∈ lw_all := lw_g (lw_at lw_m9 148 rfl) rfl
theorem q2181 : (Jvm.Cond.soleField "PureHouseModel" "binds") ∈ lw_all := lw_g (lw_at lw_m9 149 rfl) rfl
theorem q2182 : (Jvm.Cond.laysFinal "PureHouseModel" "PureHouseModel" "term" "[I") ∈ lw_all := lw_g (lw_at lw_m9 150 rfl) rfl
theorem q2183 : (Jvm.Cond.soleField "PureHouseModel" "term") ∈ lw_all := lw_g (lw_at lw_m9 151 rfl) rfl
theorem q2184 : (Jvm.Cond.laysFinal "PureHouseModel" "PureHouseModel" "under" "[I") ∈ lw_all := lw_g (lw_at lw_m9 152 rfl) rfl
theorem q2185 : (Jvm.Cond.soleField "PureHouseModel" "under") ∈ lw_all := lw_g (lw_at lw_m9 153 rfl) rfl
theorem q2186 : (Jvm.Cond.lays "PureHouseModel" "PureHouseModel" "cells" "I") ∈ lw_all := lw_g (lw_at lw_m9 154 rfl) rfl
theorem q2187 : (Jvm.Cond.soleField "PureHouseModel" "cells") ∈ lw_all := lw_g (lw_at lw_m9 155 rfl) rfl
theorem q2188 : (Jvm.Cond.laysFinal "PureHouseModel" "PureHouseModel" "waitTerm" "[I") ∈ lw_all := lw_g (lw_at lw_m9 156 rfl) rfl
theorem q2189 : (Jvm.Cond.soleField "PureHouseModel" "waitTerm") ∈ lw_all := lw_g (lw_at lw_m9 157 rfl) rfl
theorem q2190 : (Jvm.Cond.laysFinal "PureHouseModel" "PureHouseModel" "waitCell" "[I") ∈ lw_all := lw_g (lw_at lw_m9 158 rfl) rfl
theorem q2191 : (Jvm.Cond.soleField "PureHouseModel" "waitCell") ∈ lw_all := lw_g (lw_at lw_m9 159 rfl) rfl
theorem q2192 : (Jvm.Cond.lays "PureHouseModel" "PureHouseModel" "waits" "I") ∈ lw_all := lw_g (lw_at lw_m9 160 rfl) rfl
theorem q2193 : (Jvm.Cond.soleField "PureHouseModel" "waits") ∈ lw_all := lw_g (lw_at lw_m9 161 rfl) rfl
theorem q2194 : (Jvm.Cond.lays "PureHouseModel" "PureHouseModel" "headTerm" "I") ∈ lw_all := lw_g (lw_at lw_m9 162 rfl) rfl
theorem q2195 : (Jvm.Cond.soleField "PureHouseModel" "headTerm") ∈ lw_all := lw_g (lw_at lw_m9 163 rfl) rfl
theorem q2196 : (Jvm.Cond.lays "PureHouseModel" "PureHouseModel" "headCell" "I") ∈ lw_all := lw_g (lw_at lw_m9 164 rfl) rfl
theorem q2197 : (Jvm.Cond.soleField "PureHouseModel" "headCell") ∈ lw_all := lw_g (lw_at lw_m9 165 rfl) rfl
theorem q2198 : (Jvm.Cond.lays "PureHouseModel" "PureHouseModel" "foundTerm" "I") ∈ lw_all := lw_g (lw_at lw_m9 166 rfl) rfl
theorem q2199 : (Jvm.Cond.soleField "PureHouseModel" "foundTerm") ∈ lw_all := lw_g (lw_at lw_m9 167 rfl) rfl
theorem q2200 : (Jvm.Cond.lays "PureHouseModel" "PureHouseModel" "foundCell" "I") ∈ lw_all := lw_g (lw_at lw_m9 168 rfl) rfl
theorem q2201 : (Jvm.Cond.soleField "PureHouseModel" "foundCell") ∈ lw_all := lw_g (lw_at lw_m9 169 rfl) rfl
theorem q2202 : (Jvm.Cond.lays "PureHouseModel" "PureHouseModel" "isFound" "Z") ∈ lw_all := lw_g (lw_at lw_m9 170 rfl) rfl
theorem q2203 : (Jvm.Cond.soleField "PureHouseModel" "isFound") ∈ lw_all := lw_g (lw_at lw_m9 171 rfl) rfl
theorem q2204 : (Jvm.Cond.lays "PureHouseModel" "PureHouseModel" "fresh" "I") ∈ lw_all := lw_g (lw_at lw_m9 172 rfl) rfl
theorem q2205 : (Jvm.Cond.soleField "PureHouseModel" "fresh") ∈ lw_all := lw_g (lw_at lw_m9 173 rfl) rfl
theorem q2206 : (Jvm.Cond.laysFinal "PureHouseModel" "PureHouseModel" "chain" "[I") ∈ lw_all := lw_g (lw_at lw_m9 174 rfl) rfl
theorem q2207 : (Jvm.Cond.soleField "PureHouseModel" "chain") ∈ lw_all := lw_g (lw_at lw_m9 175 rfl) rfl
theorem q2208 : (Jvm.Cond.lays "PureHouseModel" "PureHouseModel" "chained" "I") ∈ lw_all := lw_g (lw_at lw_m9 176 rfl) rfl
theorem q2209 : (Jvm.Cond.soleField "PureHouseModel" "chained") ∈ lw_all := lw_g (lw_at lw_m9 177 rfl) rfl
theorem q2210 : (Jvm.Cond.lays "PureHouseModel" "PureHouseModel" "typeTerm" "I") ∈ lw_all := lw_g (lw_at lw_m9 178 rfl) rfl
theorem q2211 : (Jvm.Cond.soleField "PureHouseModel" "typeTerm") ∈ lw_all := lw_g (lw_at lw_m9 179 rfl) rfl
theorem q2212 : (Jvm.Cond.lays "PureHouseModel" "PureHouseModel" "typeSort" "I") ∈ lw_all := lw_g (lw_at lw_m9 180 rfl) rfl
theorem q2213 : (Jvm.Cond.soleField "PureHouseModel" "typeSort") ∈ lw_all := lw_g (lw_at lw_m9 181 rfl) rfl
theorem q2214 : (Jvm.Cond.lays "PureHouseModel" "PureHouseModel" "firstNode" "I") ∈ lw_all := lw_g (lw_at lw_m9 182 rfl) rfl
theorem q2215 : (Jvm.Cond.soleField "PureHouseModel" "firstNode") ∈ lw_all := lw_g (lw_at lw_m9 183 rfl) rfl
theorem q2216 : (Jvm.Cond.lays "PureHouseModel" "PureHouseModel" "limit" "I") ∈ lw_all := lw_g (lw_at lw_m9 184 rfl) rfl
theorem q2217 : (Jvm.Cond.soleField "PureHouseModel" "limit") ∈ lw_all := lw_g (lw_at lw_m9 185 rfl) rfl
theorem q2218 : (Jvm.Cond.lays "PureHouseModel" "PureHouseModel" "work" "I") ∈ lw_all := lw_g (lw_at lw_m9 186 rfl) rfl
theorem q2219 : (Jvm.Cond.soleField "PureHouseModel" "work") ∈ lw_all := lw_g (lw_at lw_m9 187 rfl) rfl
theorem q2220 : (Jvm.Cond.lays "PureHouseModel" "PureHouseModel" "life" "I") ∈ lw_all := lw_g (lw_at lw_m9 188 rfl) rfl
theorem q2221 : (Jvm.Cond.soleField "PureHouseModel" "life") ∈ lw_all := lw_g (lw_at lw_m9 189 rfl) rfl
theorem q2222 : (Jvm.Cond.lays "PureHouseModel" "PureHouseModel" "stepsB" "I") ∈ lw_all := lw_g (lw_at lw_m9 190 rfl) rfl
theorem q2223 : (Jvm.Cond.soleField "PureHouseModel" "stepsB") ∈ lw_all := lw_g (lw_at lw_m9 191 rfl) rfl
theorem q2224 : (Jvm.Cond.lays "PureHouseModel" "PureHouseModel" "stepsD" "I") ∈ lw_all := lw_g (lw_at lw_m9 192 rfl) rfl
theorem q2225 : (Jvm.Cond.soleField "PureHouseModel" "stepsD") ∈ lw_all := lw_g (lw_at lw_m9 193 rfl) rfl
theorem q2226 : (Jvm.Cond.lays "PureHouseModel" "PureHouseModel" "stepsZ" "I") ∈ lw_all := lw_g (lw_at lw_m9 194 rfl) rfl
theorem q2227 : (Jvm.Cond.soleField "PureHouseModel" "stepsZ") ∈ lw_all := lw_g (lw_at lw_m9 195 rfl) rfl
theorem q2228 : (Jvm.Cond.lays "PureHouseModel" "PureHouseModel" "stepsP" "I") ∈ lw_all := lw_g (lw_at lw_m9 196 rfl) rfl
theorem q2229 : (Jvm.Cond.soleField "PureHouseModel" "stepsP") ∈ lw_all := lw_g (lw_at lw_m9 197 rfl) rfl
theorem q2230 : (Jvm.Cond.lays "PureHouseModel" "PureHouseModel" "stepsV" "I") ∈ lw_all := lw_g (lw_at lw_m9 198 rfl) rfl
theorem q2231 : (Jvm.Cond.soleField "PureHouseModel" "stepsV") ∈ lw_all := lw_g (lw_at lw_m9 199 rfl) rfl
theorem q2232 : (Jvm.Cond.lays "PureHouseModel" "PureHouseModel" "looks" "I") ∈ lw_all := lw_g (lw_at lw_m9 200 rfl) rfl
theorem q2233 : (Jvm.Cond.soleField "PureHouseModel" "looks") ∈ lw_all := lw_g (lw_at lw_m9 201 rfl) rfl
theorem q2234 : (Jvm.Cond.lays "PureHouseModel" "PureHouseModel" "bad" "I") ∈ lw_all := lw_g (lw_at lw_m9 202 rfl) rfl
theorem q2235 : (Jvm.Cond.soleField "PureHouseModel" "bad") ∈ lw_all := lw_g (lw_at lw_m9 203 rfl) rfl
theorem q2236 : (Jvm.Cond.lays "PureHouseModel" "PureHouseModel" "badPlace" "I") ∈ lw_all := lw_g (lw_at lw_m9 204 rfl) rfl
theorem q2237 : (Jvm.Cond.soleField "PureHouseModel" "badPlace") ∈ lw_all := lw_g (lw_at lw_m9 205 rfl) rfl
theorem q2238 : (Jvm.Cond.laysFinal "PureHouseModel" "PureHouseModel" "out" "[I") ∈ lw_all := lw_g (lw_at lw_m9 206 rfl) rfl
theorem q2239 : (Jvm.Cond.soleField "PureHouseModel" "out") ∈ lw_all := lw_g (lw_at lw_m9 207 rfl) rfl
theorem q2240 : (Jvm.Cond.lays "PureHouseModel" "PureHouseModel" "outs" "I") ∈ lw_all := lw_g (lw_at lw_m9 208 rfl) rfl
theorem q2241 : (Jvm.Cond.soleField "PureHouseModel" "outs") ∈ lw_all := lw_g (lw_at lw_m9 209 rfl) rfl
theorem q2242 : (Jvm.Cond.lays "PureHouseModel" "PureHouseModel" "stWord" "I") ∈ lw_all := lw_g (lw_at lw_m9 210 rfl) rfl
theorem q2243 : (Jvm.Cond.soleField "PureHouseModel" "stWord") ∈ lw_all := lw_g (lw_at lw_m9 211 rfl) rfl
theorem q2244 : (Jvm.Cond.lays "PureHouseModel" "PureHouseModel" "stPlace" "I") ∈ lw_all := lw_g (lw_at lw_m9 212 rfl) rfl
theorem q2245 : (Jvm.Cond.soleField "PureHouseModel" "stPlace") ∈ lw_all := lw_g (lw_at lw_m9 213 rfl) rfl
theorem q2246 : (Jvm.Cond.lays "PureHouseModel" "PureHouseModel" "stTerm" "I") ∈ lw_all := lw_g (lw_at lw_m9 214 rfl) rfl
theorem q2247 : (Jvm.Cond.soleField "PureHouseModel" "stTerm") ∈ lw_all := lw_g (lw_at lw_m9 215 rfl) rfl
theorem q2248 : (Jvm.Cond.lays "PureHouseModel" "PureHouseModel" "stOther" "I") ∈ lw_all := lw_g (lw_at lw_m9 216 rfl) rfl
theorem q2249 : (Jvm.Cond.soleField "PureHouseModel" "stOther") ∈ lw_all := lw_g (lw_at lw_m9 217 rfl) rfl
theorem q2250 : (Jvm.Cond.lays "PureHouseModel" "PureHouseModel" "stX" "I") ∈ lw_all := lw_g (lw_at lw_m9 218 rfl) rfl
theorem q2251 : (Jvm.Cond.soleField "PureHouseModel" "stX") ∈ lw_all := lw_g (lw_at lw_m9 219 rfl) rfl
theorem q2252 : (Jvm.Cond.lays "PureHouseModel" "PureHouseModel" "stY" "I") ∈ lw_all := lw_g (lw_at lw_m9 220 rfl) rfl
theorem q2253 : (Jvm.Cond.soleField "PureHouseModel" "stY") ∈ lw_all := lw_g (lw_at lw_m9 221 rfl) rfl
theorem q2254 : (Jvm.Cond.lays "PureHouseModel" "PureHouseModel" "stZ" "I") ∈ lw_all := lw_g (lw_at lw_m9 222 rfl) rfl
theorem q2255 : (Jvm.Cond.soleField "PureHouseModel" "stZ") ∈ lw_all := lw_g (lw_at lw_m9 223 rfl) rfl
theorem q2256 : (Jvm.Cond.superclass "PureHouseModel" "java/lang/Object") ∈ lw_all := lw_g (lw_at lw_m9 224 rfl) rfl
theorem q2258 : (Jvm.Cond.instanceMethod ({ cls := "PureHouseModel", name := "thrown", desc := "()I" } : Jvm.MethodName)) ∈ lw_all := lw_g (lw_at lw_m9 226 rfl) rfl
theorem q2259 : (Jvm.Cond.selects "PureHouseModel" ({ cls := "PureHouseModel", name := "thrown", desc := "()I" } : Jvm.MethodName) ({ cls := "PureHouseModel", name := "thrown", desc := "()I" } : Jvm.MethodName)) ∈ lw_all := lw_g (lw_at lw_m9 227 rfl) rfl
theorem q2260 : (Jvm.Cond.code ({ cls := "PureHouseModel", name := "thrown", desc := "()I" } : Jvm.MethodName) prog_26_method_2_code (1 : Nat) (Option.some Jvm.ClassFile.FieldType.int)) ∈ lw_all := lw_g (lw_at lw_m9 228 rfl) rfl
theorem q2262 : (Jvm.Cond.instanceMethod ({ cls := "PureHouseModel", name := "feed", desc := "(IIIII)I" } : Jvm.MethodName)) ∈ lw_all := lw_g (lw_at lw_m9 230 rfl) rfl
theorem q2263 : (Jvm.Cond.selects "PureHouseModel" ({ cls := "PureHouseModel", name := "feed", desc := "(IIIII)I" } : Jvm.MethodName) ({ cls := "PureHouseModel", name := "feed", desc := "(IIIII)I" } : Jvm.MethodName)) ∈ lw_all := lw_g (lw_at lw_m9 231 rfl) rfl
theorem q2264 : (Jvm.Cond.code ({ cls := "PureHouseModel", name := "feed", desc := "(IIIII)I" } : Jvm.MethodName) prog_26_method_7_code (8 : Nat) (Option.some Jvm.ClassFile.FieldType.int)) ∈ lw_all := lw_g (lw_at lw_m9 232 rfl) rfl
theorem q2266 : (Jvm.Cond.instanceMethod ({ cls := "PureHouseModel", name := "text", desc := "(I)I" } : Jvm.MethodName)) ∈ lw_all := lw_g (lw_at lw_m9 234 rfl) rfl
theorem q2267 : (Jvm.Cond.selects "PureHouseModel" ({ cls := "PureHouseModel", name := "text", desc := "(I)I" } : Jvm.MethodName) ({ cls := "PureHouseModel", name := "text", desc := "(I)I" } : Jvm.MethodName)) ∈ lw_all := lw_g (lw_at lw_m9 235 rfl) rfl
theorem q2268 : (Jvm.Cond.code ({ cls := "PureHouseModel", name := "text", desc := "(I)I" } : Jvm.MethodName) prog_26_method_63_code (3 : Nat) (Option.some Jvm.ClassFile.FieldType.int)) ∈ lw_all := lw_g (lw_at lw_m9 236 rfl) rfl
theorem q2269 : (Jvm.Cond.methodLink "PureHouseModel" (468 : Nat) ({ cls := "PureHouseModel", name := "fail", desc := "(I)I" } : Jvm.MethodName)) ∈ lw_all := lw_g (lw_at lw_m9 237 rfl) rfl
theorem q2270 : (Jvm.Cond.privateMethod ({ cls := "PureHouseModel", name := "fail", desc := "(I)I" } : Jvm.MethodName)) ∈ lw_tbl := lw_at lw_m9 238 rfl
theorem q2271 : (Jvm.Cond.instanceMethod ({ cls := "PureHouseModel", name := "fail", desc := "(I)I" } : Jvm.MethodName)) ∈ lw_all := lw_g (lw_at lw_m9 239 rfl) rfl
theorem q2272 : (Jvm.Cond.code ({ cls := "PureHouseModel", name := "fail", desc := "(I)I" } : Jvm.MethodName) prog_26_method_3_code (2 : Nat) (Option.some Jvm.ClassFile.FieldType.int)) ∈ lw_all := lw_g (lw_at lw_m10 0 rfl) rfl
theorem q2273 : (Jvm.Cond.methodLink "PureHouseModel" (474 : Nat) ({ cls := "PureHouseModel", name := "readAll", desc := "()V" } : Jvm.MethodName)) ∈ lw_all := lw_g (lw_at lw_m10 1 rfl) rfl
theorem q2274 : (Jvm.Cond.privateMethod ({ cls := "PureHouseModel", name := "readAll", desc := "()V" } : Jvm.MethodName)) ∈ lw_tbl := lw_at lw_m10 2 rfl
theorem q2275 : (Jvm.Cond.instanceMethod ({ cls := "PureHouseModel", name := "readAll", desc := "()V" } : Jvm.MethodName)) ∈ lw_all := lw_g (lw_at lw_m10 3 rfl) rfl
theorem q2276 : (Jvm.Cond.code ({ cls := "PureHouseModel", name := "readAll", desc := "()V" } : Jvm.MethodName) prog_26_method_28_code (1 : Nat) (Option.none : Option Jvm.ClassFile.FieldType)) ∈ lw_all := lw_g (lw_at lw_m10 4 rfl) rfl
theorem q2277 : (Jvm.Cond.methodLink "PureHouseModel" (231 : Nat) ({ cls := "PureHouseModel", name := "next", desc := "()V" } : Jvm.MethodName)) ∈ lw_all := lw_g (lw_at lw_m10 5 rfl) rfl
theorem q2278 : (Jvm.Cond.privateMethod ({ cls := "PureHouseModel", name := "next", desc := "()V" } : Jvm.MethodName)) ∈ lw_tbl := lw_at lw_m10 6 rfl
theorem q2279 : (Jvm.Cond.instanceMethod ({ cls := "PureHouseModel", name := "next", desc := "()V" } : Jvm.MethodName)) ∈ lw_all := lw_g (lw_at lw_m10 7 rfl) rfl
theorem q2280 : (Jvm.Cond.code ({ cls := "PureHouseModel", name := "next", desc := "()V" } : Jvm.MethodName) prog_26_method_11_code (4 : Nat) (Option.none : Option Jvm.ClassFile.FieldType)) ∈ lw_all := lw_g (lw_at lw_m10 8 rfl) rfl
theorem q2281 : (Jvm.Cond.methodLink "PureHouseModel" (196 : Nat) ({ cls := "PureHouseModel", name := "byteAt", desc := "(I)I" } : Jvm.MethodName)) ∈ lw_all := lw_g (lw_at lw_m10 9 rfl) rfl
theorem q2282 : (Jvm.Cond.privateMethod ({ cls := "PureHouseModel", name := "byteAt", desc := "(I)I" } : Jvm.MethodName)) ∈ lw_tbl := lw_at lw_m10 10 rfl
theorem q2283 : (Jvm.Cond.instanceMethod ({ cls := "PureHouseModel", name := "byteAt", desc := "(I)I" } : Jvm.MethodName)) ∈ lw_all := lw_g (lw_at lw_m10 11 rfl) rfl
theorem q2284 : (Jvm.Cond.code ({ cls := "PureHouseModel", name := "byteAt", desc := "(I)I" } : Jvm.MethodName) prog_26_method_8_code (2 : Nat) (Option.some Jvm.ClassFile.FieldType.int)) ∈ lw_all := lw_g (lw_at lw_m10 12 rfl) rfl
theorem q2285 : (Jvm.Cond.methodLink "PureHouseModel" (189 : Nat) ({ cls := "PureHouseModel", name := "isLetter", desc := "(I)Z" } : Jvm.MethodName)) ∈ lw_all := lw_g (lw_at lw_m10 13 rfl) rfl
theorem q2286 : (Jvm.Cond.static ({ cls := "PureHouseModel", name := "isLetter", desc := "(I)Z" } : Jvm.MethodName)) ∈ lw_all := lw_g (lw_at lw_m10 14 rfl) rfl
theorem q2287 : (Jvm.Cond.code ({ cls := "PureHouseModel", name := "isLetter", desc := "(I)Z" } : Jvm.MethodName) prog_26_method_9_code (1 : Nat) (Option.some Jvm.ClassFile.FieldType.boolean)) ∈ lw_all := lw_g (lw_at lw_m10 15 rfl) rfl
theorem q2288 : (Jvm.Cond.methodLink "PureHouseModel" (209 : Nat) ({ cls := "PureHouseModel", name := "goesOn", desc := "(I)Z" } : Jvm.MethodName)) ∈ lw_all := lw_g (lw_at lw_m10 16 rfl) rfl
theorem q2289 : (Jvm.Cond.static ({ cls := "PureHouseModel", name := "goesOn", desc := "(I)Z" } : Jvm.MethodName)) ∈ lw_all := lw_g (lw_at lw_m10 17 rfl) rfl
theorem q2290 : (Jvm.Cond.code ({ cls := "PureHouseModel", name := "goesOn", desc := "(I)Z" } : Jvm.MethodName) prog_26_method_10_code (1 : Nat) (Option.some Jvm.ClassFile.FieldType.boolean)) ∈ lw_all := lw_g (lw_at lw_m10 18 rfl) rfl
theorem q2291 : (Jvm.Cond.methodLink "PureHouseModel" (215 : Nat) ({ cls := "PureHouseModel", name := "isWord", desc := "(I)Z" } : Jvm.MethodName)) ∈ lw_all := lw_g (lw_at lw_m10 19 rfl) rfl
theorem q2292 : (Jvm.Cond.privateMethod ({ cls := "PureHouseModel", name := "isWord", desc := "(I)Z" } : Jvm.MethodName)) ∈ lw_tbl := lw_at lw_m10 20 rfl
theorem q2293 : (Jvm.Cond.instanceMethod ({ cls := "PureHouseModel", name := "isWord", desc := "(I)Z" } : Jvm.MethodName)) ∈ lw_all := lw_g (lw_at lw_m10 21 rfl) rfl
theorem q2294 : (Jvm.Cond.code ({ cls := "PureHouseModel", name := "isWord", desc := "(I)Z" } : Jvm.MethodName) prog_26_method_12_code (4 : Nat) (Option.some Jvm.ClassFile.FieldType.boolean)) ∈ lw_all := lw_g (lw_at lw_m10 22 rfl) rfl
theorem q2295 : (Jvm.Cond.methodLink "PureHouseModel" (218 : Nat) ({ cls := "PureHouseModel", name := "wrong", desc := "(II)V" } : Jvm.MethodName)) ∈ lw_all := lw_g (lw_at lw_m10 23 rfl) rfl
theorem q2296 : (Jvm.Cond.privateMethod ({ cls := "PureHouseModel", name := "wrong", desc := "(II)V" } : Jvm.MethodName)) ∈ lw_tbl := lw_at lw_m10 24 rfl
theorem q2297 : (Jvm.Cond.instanceMethod ({ cls := "PureHouseModel", name := "wrong", desc := "(II)V" } : Jvm.MethodName)) ∈ lw_all := lw_g (lw_at lw_m10 25 rfl) rfl
theorem q2298 : (Jvm.Cond.code ({ cls := "PureHouseModel", name := "wrong", desc := "(II)V" } : Jvm.MethodName) prog_26_method_4_code (3 : Nat) (Option.none : Option Jvm.ClassFile.FieldType)) ∈ lw_all := lw_g (lw_at lw_m10 26 rfl) rfl
theorem q2299 : (Jvm.Cond.methodLink "PureHouseModel" (222 : Nat) ({ cls := "PureHouseModel", name := "readSign", desc := "(I)V" } : Jvm.MethodName)) ∈ lw_all := lw_g (lw_at lw_m10 27 rfl) rfl
theorem q2300 : (Jvm.Cond.privateMethod ({ cls := "PureHouseModel", name := "readSign", desc := "(I)V" } : Jvm.MethodName)) ∈ lw_tbl := lw_at lw_m10 28 rfl
theorem q2301 : (Jvm.Cond.instanceMethod ({ cls := "PureHouseModel", name := "readSign", desc := "(I)V" } : Jvm.MethodName)) ∈ lw_all := lw_g (lw_at lw_m10 29 rfl) rfl
theorem q2302 : (Jvm.Cond.code ({ cls := "PureHouseModel", name := "readSign", desc := "(I)V" } : Jvm.MethodName) prog_26_method_13_code (2 : Nat) (Option.none : Option Jvm.ClassFile.FieldType)) ∈ lw_all := lw_g (lw_at lw_m10 30 rfl) rfl
theorem q2303 : (Jvm.Cond.methodLink "PureHouseModel" (299 : Nat) ({ cls := "PureHouseModel", name := "readStatement", desc := "()V" } : Jvm.MethodName)) ∈ lw_all := lw_g (lw_at lw_m10 31 rfl) rfl
theorem q2304 : (Jvm.Cond.privateMethod ({ cls := "PureHouseModel", name := "readStatement", desc := "()V" } : Jvm.MethodName)) ∈ lw_tbl := lw_at lw_m10 32 rfl
theorem q2305 : (Jvm.Cond.instanceMethod ({ cls := "PureHouseModel", name := "readStatement", desc := "()V" } : Jvm.MethodName)) ∈ lw_all := lw_g (lw_at lw_m10 33 rfl) rfl
theorem q2306 : (Jvm.Cond.code ({ cls := "PureHouseModel", name := "readStatement", desc := "()V" } : Jvm.MethodName) prog_26_method_26_code (1 : Nat) (Option.none : Option Jvm.ClassFile.FieldType)) ∈ lw_all := lw_g (lw_at lw_m10 34 rfl) rfl
theorem q2307 : (Jvm.Cond.methodLink "PureHouseModel" (287 : Nat) ({ cls := "PureHouseModel", name := "readTold", desc := "()V" } : Jvm.MethodName)) ∈ lw_all := lw_g (lw_at lw_m10 35 rfl) rfl
theorem q2308 : (Jvm.Cond.privateMethod ({ cls := "PureHouseModel", name := "readTold", desc := "()V" } : Jvm.MethodName)) ∈ lw_tbl := lw_at lw_m10 36 rfl
theorem q2309 : (Jvm.Cond.instanceMethod ({ cls := "PureHouseModel", name := "readTold", desc := "()V" } : Jvm.MethodName)) ∈ lw_all := lw_g (lw_at lw_m10 37 rfl) rfl
theorem q2310 : (Jvm.Cond.code ({ cls := "PureHouseModel", name := "readTold", desc := "()V" } : Jvm.MethodName) prog_26_method_27_code (1 : Nat) (Option.none : Option Jvm.ClassFile.FieldType)) ∈ lw_all := lw_g (lw_at lw_m10 38 rfl) rfl
theorem q2311 : (Jvm.Cond.methodLink "PureHouseModel" (249 : Nat) ({ cls := "PureHouseModel", name := "nameNode", desc := "()I" } : Jvm.MethodName)) ∈ lw_all := lw_g (lw_at lw_m10 39 rfl) rfl
theorem q2312 : (Jvm.Cond.privateMethod ({ cls := "PureHouseModel", name := "nameNode", desc := "()I" } : Jvm.MethodName)) ∈ lw_tbl := lw_at lw_m10 40 rfl
theorem q2313 : (Jvm.Cond.instanceMethod ({ cls := "PureHouseModel", name := "nameNode", desc := "()I" } : Jvm.MethodName)) ∈ lw_all := lw_g (lw_at lw_m10 41 rfl) rfl
theorem q2314 : (Jvm.Cond.code ({ cls := "PureHouseModel", name := "nameNode", desc := "()I" } : Jvm.MethodName) prog_26_method_20_code (2 : Nat) (Option.some Jvm.ClassFile.FieldType.int)) ∈ lw_all := lw_g (lw_at lw_m10 42 rfl) rfl
theorem q2315 : (Jvm.Cond.methodLink "PureHouseModel" (241 : Nat) ({ cls := "PureHouseModel", name := "node", desc := "(IIIII)I" } : Jvm.MethodName)) ∈ lw_all := lw_g (lw_at lw_m10 43 rfl) rfl
theorem q2316 : (Jvm.Cond.privateMethod ({ cls := "PureHouseModel", name := "node", desc := "(IIIII)I" } : Jvm.MethodName)) ∈ lw_tbl := lw_at lw_m10 44 rfl
theorem q2317 : (Jvm.Cond.instanceMethod ({ cls := "PureHouseModel", name := "node", desc := "(IIIII)I" } : Jvm.MethodName)) ∈ lw_all := lw_g (lw_at lw_m10 45 rfl) rfl
theorem q2318 : (Jvm.Cond.code ({ cls := "PureHouseModel", name := "node", desc := "(IIIII)I" } : Jvm.MethodName) prog_26_method_19_code (6 : Nat) (Option.some Jvm.ClassFile.FieldType.int)) ∈ lw_all := lw_g (lw_at lw_m10 46 rfl) rfl
theorem q2319 : (Jvm.Cond.methodLink "PureHouseModel" (245 : Nat) ({ cls := "PureHouseModel", name := "isName", desc := "()Z" } : Jvm.MethodName)) ∈ lw_all := lw_g (lw_at lw_m10 47 rfl) rfl
theorem q2320 : (Jvm.Cond.privateMethod ({ cls := "PureHouseModel", name := "isName", desc := "()Z" } : Jvm.MethodName)) ∈ lw_tbl := lw_at lw_m10 48 rfl
theorem q2321 : (Jvm.Cond.instanceMethod ({ cls := "PureHouseModel", name := "isName", desc := "()Z" } : Jvm.MethodName)) ∈ lw_all := lw_g (lw_at lw_m10 49 rfl) rfl
theorem q2322 : (Jvm.Cond.code ({ cls := "PureHouseModel", name := "isName", desc := "()Z" } : Jvm.MethodName) prog_26_method_15_code (1 : Nat) (Option.some Jvm.ClassFile.FieldType.boolean)) ∈ lw_all := lw_g (lw_at lw_m10 50 rfl) rfl
theorem q2323 : (Jvm.Cond.methodLink "PureHouseModel" (234 : Nat) ({ cls := "PureHouseModel", name := "cant", desc := "()V" } : Jvm.MethodName)) ∈ lw_all := lw_g (lw_at lw_m10 51 rfl) rfl
theorem q2324 : (Jvm.Cond.privateMethod ({ cls := "PureHouseModel", name := "cant", desc := "()V" } : Jvm.MethodName)) ∈ lw_tbl := lw_at lw_m10 52 rfl
theorem q2325 : (Jvm.Cond.instanceMethod ({ cls := "PureHouseModel", name := "cant", desc := "()V" } : Jvm.MethodName)) ∈ lw_all := lw_g (lw_at lw_m10 53 rfl) rfl
theorem q2326 : (Jvm.Cond.code ({ cls := "PureHouseModel", name := "cant", desc := "()V" } : Jvm.MethodName) prog_26_method_16_code (1 : Nat) (Option.none : Option Jvm.ClassFile.FieldType)) ∈ lw_all := lw_g (lw_at lw_m10 54 rfl) rfl
theorem q2327 : (Jvm.Cond.methodLink "PureHouseModel" (228 : Nat) ({ cls := "PureHouseModel", name := "isSign", desc := "(I)Z" } : Jvm.MethodName)) ∈ lw_all := lw_g (lw_at lw_m10 55 rfl) rfl
theorem q2328 : (Jvm.Cond.privateMethod ({ cls := "PureHouseModel", name := "isSign", desc := "(I)Z" } : Jvm.MethodName)) ∈ lw_tbl := lw_at lw_m10 56 rfl
theorem q2329 : (Jvm.Cond.instanceMethod ({ cls := "PureHouseModel", name := "isSign", desc := "(I)Z" } : Jvm.MethodName)) ∈ lw_all := lw_g (lw_at lw_m10 57 rfl) rfl
theorem q2330 : (Jvm.Cond.code ({ cls := "PureHouseModel", name := "isSign", desc := "(I)Z" } : Jvm.MethodName) prog_26_method_14_code (2 : Nat) (Option.some Jvm.ClassFile.FieldType.boolean)) ∈ lw_all := lw_g (lw_at lw_m10 58 rfl) rfl
theorem q2331 : (Jvm.Cond.methodLink "PureHouseModel" (255 : Nat) ({ cls := "PureHouseModel", name := "readTerm", desc := "(I)I" } : Jvm.MethodName)) ∈ lw_all := lw_g (lw_at lw_m10 59 rfl) rfl
theorem q2332 : (Jvm.Cond.privateMethod ({ cls := "PureHouseModel", name := "readTerm", desc := "(I)I" } : Jvm.MethodName)) ∈ lw_tbl := lw_at lw_m10 60 rfl
theorem q2333 : (Jvm.Cond.instanceMethod ({ cls := "PureHouseModel", name := "readTerm", desc := "(I)I" } : Jvm.MethodName)) ∈ lw_all := lw_g (lw_at lw_m10 61 rfl) rfl
theorem q2334 : (Jvm.Cond.code ({ cls := "PureHouseModel", name := "readTerm", desc := "(I)I" } : Jvm.MethodName) prog_26_method_21_code (7 : Nat) (Option.some Jvm.ClassFile.FieldType.int)) ∈ lw_all := lw_g (lw_at lw_m10 62 rfl) rfl
theorem q2335 : (Jvm.Cond.methodLink "PureHouseModel" (252 : Nat) ({ cls := "PureHouseModel", name := "need", desc := "(I)V" } : Jvm.MethodName)) ∈ lw_all := lw_g (lw_at lw_m10 63 rfl) rfl
theorem q2336 : (Jvm.Cond.privateMethod ({ cls := "PureHouseModel", name := "need", desc := "(I)V" } : Jvm.MethodName)) ∈ lw_tbl := lw_at lw_m10 64 rfl
theorem q2337 : (Jvm.Cond.instanceMethod ({ cls := "PureHouseModel", name := "need", desc := "(I)V" } : Jvm.MethodName)) ∈ lw_all := lw_g (lw_at lw_m10 65 rfl) rfl
theorem q2338 : (Jvm.Cond.code ({ cls := "PureHouseModel", name := "need", desc := "(I)V" } : Jvm.MethodName) prog_26_method_17_code (2 : Nat) (Option.none : Option Jvm.ClassFile.FieldType)) ∈ lw_all := lw_g (lw_at lw_m10 66 rfl) rfl
theorem q2339 : (Jvm.Cond.methodLink "PureHouseModel" (258 : Nat) ({ cls := "PureHouseModel", name := "parts", desc := "(IIII)I" } : Jvm.MethodName)) ∈ lw_all := lw_g (lw_at lw_m10 67 rfl) rfl
theorem q2340 : (Jvm.Cond.privateMethod ({ cls := "PureHouseModel", name := "parts", desc := "(IIII)I" } : Jvm.MethodName)) ∈ lw_tbl := lw_at lw_m10 68 rfl
theorem q2341 : (Jvm.Cond.instanceMethod ({ cls := "PureHouseModel", name := "parts", desc := "(IIII)I" } : Jvm.MethodName)) ∈ lw_all := lw_g (lw_at lw_m10 69 rfl) rfl
theorem q2342 : (Jvm.Cond.code ({ cls := "PureHouseModel", name := "parts", desc := "(IIII)I" } : Jvm.MethodName) prog_26_method_22_code (5 : Nat) (Option.some Jvm.ClassFile.FieldType.int)) ∈ lw_all := lw_g (lw_at lw_m10 70 rfl) rfl
theorem q2343 : (Jvm.Cond.methodLink "PureHouseModel" (262 : Nat) ({ cls := "PureHouseModel", name := "needWord", desc := "(I)V" } : Jvm.MethodName)) ∈ lw_all := lw_g (lw_at lw_m10 71 rfl) rfl
theorem q2344 : (Jvm.Cond.privateMethod ({ cls := "PureHouseModel", name := "needWord", desc := "(I)V" } : Jvm.MethodName)) ∈ lw_tbl := lw_at lw_m10 72 rfl
theorem q2345 : (Jvm.Cond.instanceMethod ({ cls := "PureHouseModel", name := "needWord", desc := "(I)V" } : Jvm.MethodName)) ∈ lw_all := lw_g (lw_at lw_m10 73 rfl) rfl
theorem q2346 : (Jvm.Cond.code ({ cls := "PureHouseModel", name := "needWord", desc := "(I)V" } : Jvm.MethodName) prog_26_method_18_code (2 : Nat) (Option.none : Option Jvm.ClassFile.FieldType)) ∈ lw_all := lw_g (lw_at lw_m10 74 rfl) rfl
theorem q2347 : (Jvm.Cond.methodLink "PureHouseModel" (265 : Nat) ({ cls := "PureHouseModel", name := "readUse", desc := "(II)I" } : Jvm.MethodName)) ∈ lw_all := lw_g (lw_at lw_m10 75 rfl) rfl
theorem q2348 : (Jvm.Cond.privateMethod ({ cls := "PureHouseModel", name := "readUse", desc := "(II)I" } : Jvm.MethodName)) ∈ lw_tbl := lw_at lw_m10 76 rfl
theorem q2349 : (Jvm.Cond.instanceMethod ({ cls := "PureHouseModel", name := "readUse", desc := "(II)I" } : Jvm.MethodName)) ∈ lw_all := lw_g (lw_at lw_m10 77 rfl) rfl
theorem q2350 : (Jvm.Cond.code ({ cls := "PureHouseModel", name := "readUse", desc := "(II)I" } : Jvm.MethodName) prog_26_method_24_code (6 : Nat) (Option.some Jvm.ClassFile.FieldType.int)) ∈ lw_all := lw_g (lw_at lw_m10 78 rfl) rfl
theorem q2351 : (Jvm.Cond.methodLink "PureHouseModel" (269 : Nat) ({ cls := "PureHouseModel", name := "readAtom", desc := "(I)I" } : Jvm.MethodName)) ∈ lw_all := lw_g (lw_at lw_m10 79 rfl) rfl
theorem q2352 : (Jvm.Cond.privateMethod ({ cls := "PureHouseModel", name := "readAtom", desc := "(I)I" } : Jvm.MethodName)) ∈ lw_tbl := lw_at lw_m10 80 rfl
theorem q2353 : (Jvm.Cond.instanceMethod ({ cls := "PureHouseModel", name := "readAtom", desc := "(I)I" } : Jvm.MethodName)) ∈ lw_all := lw_g (lw_at lw_m10 81 rfl) rfl
theorem q2354 : (Jvm.Cond.code ({ cls := "PureHouseModel", name := "readAtom", desc := "(I)I" } : Jvm.MethodName) prog_26_method_25_code (4 : Nat) (Option.some Jvm.ClassFile.FieldType.int)) ∈ lw_all := lw_g (lw_at lw_m10 82 rfl) rfl
theorem q2355 : (Jvm.Cond.methodLink "PureHouseModel" (272 : Nat) ({ cls := "PureHouseModel", name := "beginsAtom", desc := "()Z" } : Jvm.MethodName)) ∈ lw_all := lw_g (lw_at lw_m10 83 rfl) rfl
theorem q2356 : (Jvm.Cond.privateMethod ({ cls := "PureHouseModel", name := "beginsAtom", desc := "()Z" } : Jvm.MethodName)) ∈ lw_tbl := lw_at lw_m10 84 rfl
theorem q2357 : (Jvm.Cond.instanceMethod ({ cls := "PureHouseModel", name := "beginsAtom", desc := "()Z" } : Jvm.MethodName)) ∈ lw_all := lw_g (lw_at lw_m10 85 rfl) rfl
theorem q2358 : (Jvm.Cond.code ({ cls := "PureHouseModel", name := "beginsAtom", desc := "()Z" } : Jvm.MethodName) prog_26_method_23_code (1 : Nat) (Option.some Jvm.ClassFile.FieldType.boolean)) ∈ lw_all := lw_g (lw_at lw_m10 86 rfl) rfl
theorem q2359 : (Jvm.Cond.methodLink "PureHouseModel" (477 : Nat) ({ cls := "PureHouseModel", name := "begin", desc := "()V" } : Jvm.MethodName)) ∈ lw_all := lw_g (lw_at lw_m10 87 rfl) rfl
theorem q2360 : (Jvm.Cond.privateMethod ({ cls := "PureHouseModel", name := "begin", desc := "()V" } : Jvm.MethodName)) ∈ lw_tbl := lw_at lw_m10 88 rfl
theorem q2361 : (Jvm.Cond.instanceMethod ({ cls := "PureHouseModel", name := "begin", desc := "()V" } : Jvm.MethodName)) ∈ lw_all := lw_g (lw_at lw_m10 89 rfl) rfl
theorem q2362 : (Jvm.Cond.code ({ cls := "PureHouseModel", name := "begin", desc := "()V" } : Jvm.MethodName) prog_26_method_55_code (1 : Nat) (Option.none : Option Jvm.ClassFile.FieldType)) ∈ lw_all := lw_g (lw_at lw_m10 90 rfl) rfl
theorem q2363 : (Jvm.Cond.methodLink "PureHouseModel" (480 : Nat) ({ cls := "PureHouseModel", name := "doStatement", desc := "()V" } : Jvm.MethodName)) ∈ lw_all := lw_g (lw_at lw_m10 91 rfl) rfl
theorem q2364 : (Jvm.Cond.privateMethod ({ cls := "PureHouseModel", name := "doStatement", desc := "()V" } : Jvm.MethodName)) ∈ lw_tbl := lw_at lw_m10 92 rfl
theorem q2365 : (Jvm.Cond.instanceMethod ({ cls := "PureHouseModel", name := "doStatement", desc := "()V" } : Jvm.MethodName)) ∈ lw_all := lw_g (lw_at lw_m10 93 rfl) rfl
theorem q2366 : (Jvm.Cond.code ({ cls := "PureHouseModel", name := "doStatement", desc := "()V" } : Jvm.MethodName) prog_26_method_60_code (2 : Nat) (Option.none : Option Jvm.ClassFile.FieldType)) ∈ lw_all := lw_g (lw_at lw_m10 94 rfl) rfl
theorem q2367 : (Jvm.Cond.methodLink "PureHouseModel" (452 : Nat) ({ cls := "PureHouseModel", name := "tables", desc := "()V" } : Jvm.MethodName)) ∈ lw_all := lw_g (lw_at lw_m10 95 rfl) rfl
theorem q2368 : (Jvm.Cond.privateMethod ({ cls := "PureHouseModel", name := "tables", desc := "()V" } : Jvm.MethodName)) ∈ lw_tbl := lw_at lw_m10 96 rfl
theorem q2369 : (Jvm.Cond.instanceMethod ({ cls := "PureHouseModel", name := "tables", desc := "()V" } : Jvm.MethodName)) ∈ lw_all := lw_g (lw_at lw_m10 97 rfl) rfl
theorem q2370 : (Jvm.Cond.code ({ cls := "PureHouseModel", name := "tables", desc := "()V" } : Jvm.MethodName) prog_26_method_57_code (4 : Nat) (Option.none : Option Jvm.ClassFile.FieldType)) ∈ lw_all := lw_g (lw_at lw_m10 98 rfl) rfl
theorem q2371 : (Jvm.Cond.methodLink "PureHouseModel" (418 : Nat) ({ cls := "PureHouseModel", name := "sortOf", desc := "(I)I" } : Jvm.MethodName)) ∈ lw_all := lw_g (lw_at lw_m10 99 rfl) rfl
theorem q2372 : (Jvm.Cond.privateMethod ({ cls := "PureHouseModel", name := "sortOf", desc := "(I)I" } : Jvm.MethodName)) ∈ lw_tbl := lw_at lw_m10 100 rfl
theorem q2373 : (Jvm.Cond.instanceMethod ({ cls := "PureHouseModel", name := "sortOf", desc := "(I)I" } : Jvm.MethodName)) ∈ lw_all := lw_g (lw_at lw_m10 101 rfl) rfl
theorem q2374 : (Jvm.Cond.code ({ cls := "PureHouseModel", name := "sortOf", desc := "(I)I" } : Jvm.MethodName) prog_26_method_44_code (4 : Nat) (Option.some Jvm.ClassFile.FieldType.int)) ∈ lw_all := lw_g (lw_at lw_m10 102 rfl) rfl
theorem q2375 : (Jvm.Cond.methodLink "PureHouseModel" (399 : Nat) ({ cls := "PureHouseModel", name := "sameName", desc := "(II[III)Z" } : Jvm.MethodName)) ∈ lw_all := lw_g (lw_at lw_m10 103 rfl) rfl
theorem q2376 : (Jvm.Cond.privateMethod ({ cls := "PureHouseModel", name := "sameName", desc := "(II[III)Z" } : Jvm.MethodName)) ∈ lw_tbl := lw_at lw_m10 104 rfl
theorem q2377 : (Jvm.Cond.instanceMethod ({ cls := "PureHouseModel", name := "sameName", desc := "(II[III)Z" } : Jvm.MethodName)) ∈ lw_all := lw_g (lw_at lw_m10 105 rfl) rfl
theorem q2378 : (Jvm.Cond.code ({ cls := "PureHouseModel", name := "sameName", desc := "(II[III)Z" } : Jvm.MethodName) prog_26_method_43_code (8 : Nat) (Option.some Jvm.ClassFile.FieldType.boolean)) ∈ lw_all := lw_g (lw_at lw_m10 106 rfl) rfl
theorem q2379 : (Jvm.Cond.methodLink "PureHouseModel" (440 : Nat) ({ cls := "PureHouseModel", name := "judgeSort", desc := "(II)I" } : Jvm.MethodName)) ∈ lw_all := lw_g (lw_at lw_m10 107 rfl) rfl
theorem q2380 : (Jvm.Cond.privateMethod ({ cls := "PureHouseModel", name := "judgeSort", desc := "(II)I" } : Jvm.MethodName)) ∈ lw_tbl := lw_at lw_m10 108 rfl
theorem q2381 : (Jvm.Cond.instanceMethod ({ cls := "PureHouseModel", name := "judgeSort", desc := "(II)I" } : Jvm.MethodName)) ∈ lw_all := lw_g (lw_at lw_m10 109 rfl) rfl
theorem q2382 : (Jvm.Cond.code ({ cls := "PureHouseModel", name := "judgeSort", desc := "(II)I" } : Jvm.MethodName) prog_26_method_48_code (4 : Nat) (Option.some Jvm.ClassFile.FieldType.int)) ∈ lw_all := lw_g (lw_at lw_m10 110 rfl) rfl
theorem q2383 : (Jvm.Cond.methodLink "PureHouseModel" (421 : Nat) ({ cls := "PureHouseModel", name := "judge", desc := "(II)V" } : Jvm.MethodName)) ∈ lw_all := lw_g (lw_at lw_m10 111 rfl) rfl
theorem q2384 : (Jvm.Cond.privateMethod ({ cls := "PureHouseModel", name := "judge", desc := "(II)V" } : Jvm.MethodName)) ∈ lw_tbl := lw_at lw_m10 112 rfl
theorem q2385 : (Jvm.Cond.instanceMethod ({ cls := "PureHouseModel", name := "judge", desc := "(II)V" } : Jvm.MethodName)) ∈ lw_all := lw_g (lw_at lw_m10 113 rfl) rfl
theorem q2386 : (Jvm.Cond.code ({ cls := "PureHouseModel", name := "judge", desc := "(II)V" } : Jvm.MethodName) prog_26_method_50_code (3 : Nat) (Option.none : Option Jvm.ClassFile.FieldType)) ∈ lw_all := lw_g (lw_at lw_m10 114 rfl) rfl
theorem q2387 : (Jvm.Cond.methodLink "PureHouseModel" (424 : Nat) ({ cls := "PureHouseModel", name := "judgeLambda", desc := "(II)V" } : Jvm.MethodName)) ∈ lw_all := lw_g (lw_at lw_m10 115 rfl) rfl
theorem q2388 : (Jvm.Cond.privateMethod ({ cls := "PureHouseModel", name := "judgeLambda", desc := "(II)V" } : Jvm.MethodName)) ∈ lw_tbl := lw_at lw_m10 116 rfl
theorem q2389 : (Jvm.Cond.instanceMethod ({ cls := "PureHouseModel", name := "judgeLambda", desc := "(II)V" } : Jvm.MethodName)) ∈ lw_all := lw_g (lw_at lw_m10 117 rfl) rfl
theorem q2390 : (Jvm.Cond.code ({ cls := "PureHouseModel", name := "judgeLambda", desc := "(II)V" } : Jvm.MethodName) prog_26_method_52_code (8 : Nat) (Option.none : Option Jvm.ClassFile.FieldType)) ∈ lw_all := lw_g (lw_at lw_m10 118 rfl) rfl
theorem q2391 : (Jvm.Cond.methodLink "PureHouseModel" (396 : Nat) ({ cls := "PureHouseModel", name := "normal", desc := "(III)I" } : Jvm.MethodName)) ∈ lw_all := lw_g (lw_at lw_m10 119 rfl) rfl
theorem q2392 : (Jvm.Cond.privateMethod ({ cls := "PureHouseModel", name := "normal", desc := "(III)I" } : Jvm.MethodName)) ∈ lw_tbl := lw_at lw_m10 120 rfl
theorem q2393 : (Jvm.Cond.instanceMethod ({ cls := "PureHouseModel", name := "normal", desc := "(III)I" } : Jvm.MethodName)) ∈ lw_all := lw_g (lw_at lw_m10 121 rfl) rfl
theorem q2394 : (Jvm.Cond.code ({ cls := "PureHouseModel", name := "normal", desc := "(III)I" } : Jvm.MethodName) prog_26_method_42_code (12 : Nat) (Option.some Jvm.ClassFile.FieldType.int)) ∈ lw_all := lw_g (lw_at lw_m10 122 rfl) rfl
theorem q2395 : (Jvm.Cond.methodLink "PureHouseModel" (354 : Nat) ({ cls := "PureHouseModel", name := "look", desc := "(I)Z" } : Jvm.MethodName)) ∈ lw_all := lw_g (lw_at lw_m10 123 rfl) rfl
theorem q2396 : (Jvm.Cond.privateMethod ({ cls := "PureHouseModel", name := "look", desc := "(I)Z" } : Jvm.MethodName)) ∈ lw_tbl := lw_at lw_m10 124 rfl
theorem q2397 : (Jvm.Cond.instanceMethod ({ cls := "PureHouseModel", name := "look", desc := "(I)Z" } : Jvm.MethodName)) ∈ lw_all := lw_g (lw_at lw_m10 125 rfl) rfl
theorem q2398 : (Jvm.Cond.code ({ cls := "PureHouseModel", name := "look", desc := "(I)Z" } : Jvm.MethodName) prog_26_method_30_code (2 : Nat) (Option.some Jvm.ClassFile.FieldType.boolean)) ∈ lw_all := lw_g (lw_at lw_m10 126 rfl) rfl
theorem q2399 : (Jvm.Cond.methodLink "PureHouseModel" (309 : Nat) ({ cls := "PureHouseModel", name := "may", desc := "()Z" } : Jvm.MethodName)) ∈ lw_all := lw_g (lw_at lw_m10 127 rfl) rfl
theorem q2400 : (Jvm.Cond.privateMethod ({ cls := "PureHouseModel", name := "may", desc := "()Z" } : Jvm.MethodName)) ∈ lw_tbl := lw_at lw_m10 128 rfl
theorem q2401 : (Jvm.Cond.instanceMethod ({ cls := "PureHouseModel", name := "may", desc := "()Z" } : Jvm.MethodName)) ∈ lw_all := lw_g (lw_at lw_m10 129 rfl) rfl
theorem q2402 : (Jvm.Cond.code ({ cls := "PureHouseModel", name := "may", desc := "()Z" } : Jvm.MethodName) prog_26_method_29_code (1 : Nat) (Option.some Jvm.ClassFile.FieldType.boolean)) ∈ lw_all := lw_g (lw_at lw_m10 130 rfl) rfl
theorem q2403 : (Jvm.Cond.constant "PureHouseModel" (308 : Nat) (60000 : Int32)) ∈ lw_all := lw_g (lw_at lw_m10 131 rfl) rfl
theorem q2404 : (Jvm.Cond.methodLink "PureHouseModel" (357 : Nat) ({ cls := "PureHouseModel", name := "head", desc := "(II)V" } : Jvm.MethodName)) ∈ lw_all := lw_g (lw_at lw_m10 132 rfl) rfl
theorem q2405 : (Jvm.Cond.privateMethod ({ cls := "PureHouseModel", name := "head", desc := "(II)V" } : Jvm.MethodName)) ∈ lw_tbl := lw_at lw_m10 133 rfl
theorem q2406 : (Jvm.Cond.instanceMethod ({ cls := "PureHouseModel", name := "head", desc := "(II)V" } : Jvm.MethodName)) ∈ lw_all := lw_g (lw_at lw_m10 134 rfl) rfl
theorem q2407 : (Jvm.Cond.code ({ cls := "PureHouseModel", name := "head", desc := "(II)V" } : Jvm.MethodName) prog_26_method_33_code (8 : Nat) (Option.none : Option Jvm.ClassFile.FieldType)) ∈ lw_all := lw_g (lw_at lw_m10 135 rfl) rfl
theorem q2408 : (Jvm.Cond.methodLink "PureHouseModel" (330 : Nat) ({ cls := "PureHouseModel", name := "find", desc := "(II)V" } : Jvm.MethodName)) ∈ lw_all := lw_g (lw_at lw_m10 136 rfl) rfl
theorem q2409 : (Jvm.Cond.privateMethod ({ cls := "PureHouseModel", name := "find", desc := "(II)V" } : Jvm.MethodName)) ∈ lw_tbl := lw_at lw_m10 137 rfl
theorem q2410 : (Jvm.Cond.instanceMethod ({ cls := "PureHouseModel", name := "find", desc := "(II)V" } : Jvm.MethodName)) ∈ lw_all := lw_g (lw_at lw_m10 138 rfl) rfl
theorem q2411 : (Jvm.Cond.code ({ cls := "PureHouseModel", name := "find", desc := "(II)V" } : Jvm.MethodName) prog_26_method_32_code (4 : Nat) (Option.none : Option Jvm.ClassFile.FieldType)) ∈ lw_all := lw_g (lw_at lw_m10 139 rfl) rfl
theorem q2412 : (Jvm.Cond.methodLink "PureHouseModel" (342 : Nat) ({ cls := "PureHouseModel", name := "cell", desc := "(IIII)I" } : Jvm.MethodName)) ∈ lw_all := lw_g (lw_at lw_m10 140 rfl) rfl
theorem q2413 : (Jvm.Cond.privateMethod ({ cls := "PureHouseModel", name := "cell", desc := "(IIII)I" } : Jvm.MethodName)) ∈ lw_tbl := lw_at lw_m10 141 rfl
theorem q2414 : (Jvm.Cond.instanceMethod ({ cls := "PureHouseModel", name := "cell", desc := "(IIII)I" } : Jvm.MethodName)) ∈ lw_all := lw_g (lw_at lw_m10 142 rfl) rfl
theorem q2415 : (Jvm.Cond.code ({ cls := "PureHouseModel", name := "cell", desc := "(IIII)I" } : Jvm.MethodName) prog_26_method_31_code (5 : Nat) (Option.some Jvm.ClassFile.FieldType.int)) ∈ lw_all := lw_g (lw_at lw_m10 143 rfl) rfl
theorem q2416 : (Jvm.Cond.methodLink "PureHouseModel" (363 : Nat) ({ cls := "PureHouseModel", name := "kindOf", desc := "(I)I" } : Jvm.MethodName)) ∈ lw_all := lw_g (lw_at lw_m10 144 rfl) rfl
theorem q2417 : (Jvm.Cond.privateMethod ({ cls := "PureHouseModel", name := "kindOf", desc := "(I)I" } : Jvm.MethodName)) ∈ lw_tbl := lw_at lw_m10 145 rfl
theorem q2418 : (Jvm.Cond.instanceMethod ({ cls := "PureHouseModel", name := "kindOf", desc := "(I)I" } : Jvm.MethodName)) ∈ lw_all := lw_g (lw_at lw_m10 146 rfl) rfl
theorem q2419 : (Jvm.Cond.code ({ cls := "PureHouseModel", name := "kindOf", desc := "(I)I" } : Jvm.MethodName) prog_26_method_34_code (2 : Nat) (Option.some Jvm.ClassFile.FieldType.int)) ∈ lw_all := lw_g (lw_at lw_m10 147 rfl) rfl
theorem q2420 : (Jvm.Cond.methodLink "PureHouseModel" (374 : Nat) ({ cls := "PureHouseModel", name := "inside", desc := "(III)I" } : Jvm.MethodName)) ∈ lw_all := lw_g (lw_at lw_m10 148 rfl) rfl
theorem q2421 : (Jvm.Cond.privateMethod ({ cls := "PureHouseModel", name := "inside", desc := "(III)I" } : Jvm.MethodName)) ∈ lw_tbl := lw_at lw_m10 149 rfl
theorem q2422 : (Jvm.Cond.instanceMethod ({ cls := "PureHouseModel", name := "inside", desc := "(III)I" } : Jvm.MethodName)) ∈ lw_all := lw_g (lw_at lw_m10 150 rfl) rfl
theorem q2423 : (Jvm.Cond.code ({ cls := "PureHouseModel", name := "inside", desc := "(III)I" } : Jvm.MethodName) prog_26_method_35_code (4 : Nat) (Option.some Jvm.ClassFile.FieldType.int)) ∈ lw_all := lw_g (lw_at lw_m10 151 rfl) rfl
theorem q2424 : (Jvm.Cond.methodLink "PureHouseModel" (430 : Nat) ({ cls := "PureHouseModel", name := "bind", desc := "(III)V" } : Jvm.MethodName)) ∈ lw_all := lw_g (lw_at lw_m10 152 rfl) rfl
theorem q2425 : (Jvm.Cond.privateMethod ({ cls := "PureHouseModel", name := "bind", desc := "(III)V" } : Jvm.MethodName)) ∈ lw_tbl := lw_at lw_m10 153 rfl
theorem q2426 : (Jvm.Cond.instanceMethod ({ cls := "PureHouseModel", name := "bind", desc := "(III)V" } : Jvm.MethodName)) ∈ lw_all := lw_g (lw_at lw_m10 154 rfl) rfl
theorem q2427 : (Jvm.Cond.code ({ cls := "PureHouseModel", name := "bind", desc := "(III)V" } : Jvm.MethodName) prog_26_method_49_code (4 : Nat) (Option.none : Option Jvm.ClassFile.FieldType)) ∈ lw_all := lw_g (lw_at lw_m10 155 rfl) rfl
theorem q2428 : (Jvm.Cond.methodLink "PureHouseModel" (412 : Nat) ({ cls := "PureHouseModel", name := "becomes", desc := "(II)V" } : Jvm.MethodName)) ∈ lw_all := lw_g (lw_at lw_m10 156 rfl) rfl
theorem q2429 : (Jvm.Cond.privateMethod ({ cls := "PureHouseModel", name := "becomes", desc := "(II)V" } : Jvm.MethodName)) ∈ lw_tbl := lw_at lw_m10 157 rfl
theorem q2430 : (Jvm.Cond.instanceMethod ({ cls := "PureHouseModel", name := "becomes", desc := "(II)V" } : Jvm.MethodName)) ∈ lw_all := lw_g (lw_at lw_m10 158 rfl) rfl
theorem q2431 : (Jvm.Cond.code ({ cls := "PureHouseModel", name := "becomes", desc := "(II)V" } : Jvm.MethodName) prog_26_method_46_code (3 : Nat) (Option.none : Option Jvm.ClassFile.FieldType)) ∈ lw_all := lw_g (lw_at lw_m10 159 rfl) rfl
theorem q2432 : (Jvm.Cond.methodLink "PureHouseModel" (427 : Nat) ({ cls := "PureHouseModel", name := "judgeProduct", desc := "(II)V" } : Jvm.MethodName)) ∈ lw_all := lw_g (lw_at lw_m10 160 rfl) rfl
theorem q2433 : (Jvm.Cond.privateMethod ({ cls := "PureHouseModel", name := "judgeProduct", desc := "(II)V" } : Jvm.MethodName)) ∈ lw_tbl := lw_at lw_m10 161 rfl
theorem q2434 : (Jvm.Cond.instanceMethod ({ cls := "PureHouseModel", name := "judgeProduct", desc := "(II)V" } : Jvm.MethodName)) ∈ lw_all := lw_g (lw_at lw_m10 162 rfl) rfl
theorem q2435 : (Jvm.Cond.code ({ cls := "PureHouseModel", name := "judgeProduct", desc := "(II)V" } : Jvm.MethodName) prog_26_method_51_code (8 : Nat) (Option.none : Option Jvm.ClassFile.FieldType)) ∈ lw_all := lw_g (lw_at lw_m10 163 rfl) rfl
theorem q2436 : (Jvm.Cond.methodLink "PureHouseModel" (434 : Nat) ({ cls := "PureHouseModel", name := "judgeUse", desc := "(II)V" } : Jvm.MethodName)) ∈ lw_all := lw_g (lw_at lw_m10 164 rfl) rfl
theorem q2437 : (Jvm.Cond.privateMethod ({ cls := "PureHouseModel", name := "judgeUse", desc := "(II)V" } : Jvm.MethodName)) ∈ lw_tbl := lw_at lw_m10 165 rfl
theorem q2438 : (Jvm.Cond.instanceMethod ({ cls := "PureHouseModel", name := "judgeUse", desc := "(II)V" } : Jvm.MethodName)) ∈ lw_all := lw_g (lw_at lw_m10 166 rfl) rfl
theorem q2439 : (Jvm.Cond.code ({ cls := "PureHouseModel", name := "judgeUse", desc := "(II)V" } : Jvm.MethodName) prog_26_method_53_code (6 : Nat) (Option.none : Option Jvm.ClassFile.FieldType)) ∈ lw_all := lw_g (lw_at lw_m10 167 rfl) rfl
theorem q2440 : (Jvm.Cond.methodLink "PureHouseModel" (446 : Nat) ({ cls := "PureHouseModel", name := "applied", desc := "(II)V" } : Jvm.MethodName)) ∈ lw_all := lw_g (lw_at lw_m10 168 rfl) rfl
theorem q2441 : (Jvm.Cond.privateMethod ({ cls := "PureHouseModel", name := "applied", desc := "(II)V" } : Jvm.MethodName)) ∈ lw_tbl := lw_at lw_m10 169 rfl
theorem q2442 : (Jvm.Cond.instanceMethod ({ cls := "PureHouseModel", name := "applied", desc := "(II)V" } : Jvm.MethodName)) ∈ lw_all := lw_g (lw_at lw_m10 170 rfl) rfl
theorem q2443 : (Jvm.Cond.code ({ cls := "PureHouseModel", name := "applied", desc := "(II)V" } : Jvm.MethodName) prog_26_method_54_code (7 : Nat) (Option.none : Option Jvm.ClassFile.FieldType)) ∈ lw_all := lw_g (lw_at lw_m10 171 rfl) rfl
theorem q2444 : (Jvm.Cond.methodLink "PureHouseModel" (366 : Nat) ({ cls := "PureHouseModel", name := "compare", desc := "(IIIII)Z" } : Jvm.MethodName)) ∈ lw_all := lw_g (lw_at lw_m10 172 rfl) rfl
theorem q2445 : (Jvm.Cond.privateMethod ({ cls := "PureHouseModel", name := "compare", desc := "(IIIII)Z" } : Jvm.MethodName)) ∈ lw_tbl := lw_at lw_m10 173 rfl
theorem q2446 : (Jvm.Cond.instanceMethod ({ cls := "PureHouseModel", name := "compare", desc := "(IIIII)Z" } : Jvm.MethodName)) ∈ lw_all := lw_g (lw_at lw_m10 174 rfl) rfl
theorem q2447 : (Jvm.Cond.code ({ cls := "PureHouseModel", name := "compare", desc := "(IIIII)Z" } : Jvm.MethodName) prog_26_method_36_code (13 : Nat) (Option.some Jvm.ClassFile.FieldType.boolean)) ∈ lw_all := lw_g (lw_at lw_m10 175 rfl) rfl
theorem q2448 : (Jvm.Cond.methodLink "PureHouseModel" (359 : Nat) ({ cls := "PureHouseModel", name := "alike", desc := "(IIIIIII)Z" } : Jvm.MethodName)) ∈ lw_all := lw_g (lw_at lw_m10 176 rfl) rfl
theorem q2449 : (Jvm.Cond.privateMethod ({ cls := "PureHouseModel", name := "alike", desc := "(IIIIIII)Z" } : Jvm.MethodName)) ∈ lw_tbl := lw_at lw_m10 177 rfl
theorem q2450 : (Jvm.Cond.instanceMethod ({ cls := "PureHouseModel", name := "alike", desc := "(IIIIIII)Z" } : Jvm.MethodName)) ∈ lw_all := lw_g (lw_at lw_m10 178 rfl) rfl
theorem q2451 : (Jvm.Cond.code ({ cls := "PureHouseModel", name := "alike", desc := "(IIIIIII)Z" } : Jvm.MethodName) prog_26_method_37_code (14 : Nat) (Option.some Jvm.ClassFile.FieldType.boolean)) ∈ lw_all := lw_g (lw_at lw_m10 179 rfl) rfl
theorem q2452 : (Jvm.Cond.constant "PureHouseModel" (370 : Nat) (-200000 : Int32)) ∈ lw_all := lw_g (lw_at lw_m10 180 rfl) rfl
theorem q2453 : (Jvm.Cond.methodLink "PureHouseModel" (437 : Nat) ({ cls := "PureHouseModel", name := "judgeName", desc := "(I)V" } : Jvm.MethodName)) ∈ lw_all := lw_g (lw_at lw_m10 181 rfl) rfl
theorem q2454 : (Jvm.Cond.privateMethod ({ cls := "PureHouseModel", name := "judgeName", desc := "(I)V" } : Jvm.MethodName)) ∈ lw_tbl := lw_at lw_m10 182 rfl
theorem q2455 : (Jvm.Cond.instanceMethod ({ cls := "PureHouseModel", name := "judgeName", desc := "(I)V" } : Jvm.MethodName)) ∈ lw_all := lw_g (lw_at lw_m10 183 rfl) rfl
theorem q2456 : (Jvm.Cond.code ({ cls := "PureHouseModel", name := "judgeName", desc := "(I)V" } : Jvm.MethodName) prog_26_method_47_code (7 : Nat) (Option.none : Option Jvm.ClassFile.FieldType)) ∈ lw_all := lw_g (lw_at lw_m10 184 rfl) rfl
theorem q2457 : (Jvm.Cond.methodLink "PureHouseModel" (415 : Nat) ({ cls := "PureHouseModel", name := "knownOf", desc := "(I)I" } : Jvm.MethodName)) ∈ lw_all := lw_g (lw_at lw_m10 185 rfl) rfl
theorem q2458 : (Jvm.Cond.privateMethod ({ cls := "PureHouseModel", name := "knownOf", desc := "(I)I" } : Jvm.MethodName)) ∈ lw_tbl := lw_at lw_m10 186 rfl
theorem q2459 : (Jvm.Cond.instanceMethod ({ cls := "PureHouseModel", name := "knownOf", desc := "(I)I" } : Jvm.MethodName)) ∈ lw_all := lw_g (lw_at lw_m10 187 rfl) rfl
theorem q2460 : (Jvm.Cond.code ({ cls := "PureHouseModel", name := "knownOf", desc := "(I)I" } : Jvm.MethodName) prog_26_method_45_code (4 : Nat) (Option.some Jvm.ClassFile.FieldType.int)) ∈ lw_all := lw_g (lw_at lw_m10 188 rfl) rfl
theorem q2461 : (Jvm.Cond.methodLink "PureHouseModel" (455 : Nat) ({ cls := "PureHouseModel", name := "yes", desc := "(Z)V" } : Jvm.MethodName)) ∈ lw_all := lw_g (lw_at lw_m10 189 rfl) rfl
theorem q2462 : (Jvm.Cond.privateMethod ({ cls := "PureHouseModel", name := "yes", desc := "(Z)V" } : Jvm.MethodName)) ∈ lw_tbl := lw_at lw_m10 190 rfl
theorem q2463 : (Jvm.Cond.instanceMethod ({ cls := "PureHouseModel", name := "yes", desc := "(Z)V" } : Jvm.MethodName)) ∈ lw_all := lw_g (lw_at lw_m10 191 rfl) rfl
theorem q2464 : (Jvm.Cond.code ({ cls := "PureHouseModel", name := "yes", desc := "(Z)V" } : Jvm.MethodName) prog_26_method_58_code (2 : Nat) (Option.none : Option Jvm.ClassFile.FieldType)) ∈ lw_all := lw_g (lw_at lw_m10 192 rfl) rfl
theorem q2465 : (Jvm.Cond.methodLink "PureHouseModel" (384 : Nat) ({ cls := "PureHouseModel", name := "put", desc := "(I)V" } : Jvm.MethodName)) ∈ lw_all := lw_g (lw_at lw_m10 193 rfl) rfl
theorem q2466 : (Jvm.Cond.privateMethod ({ cls := "PureHouseModel", name := "put", desc := "(I)V" } : Jvm.MethodName)) ∈ lw_tbl := lw_at lw_m10 194 rfl
theorem q2467 : (Jvm.Cond.instanceMethod ({ cls := "PureHouseModel", name := "put", desc := "(I)V" } : Jvm.MethodName)) ∈ lw_all := lw_g (lw_at lw_m10 195 rfl) rfl
theorem q2468 : (Jvm.Cond.code ({ cls := "PureHouseModel", name := "put", desc := "(I)V" } : Jvm.MethodName) prog_26_method_38_code (2 : Nat) (Option.none : Option Jvm.ClassFile.FieldType)) ∈ lw_all := lw_g (lw_at lw_m10 196 rfl) rfl
theorem q2469 : (Jvm.Cond.methodLink "PureHouseModel" (459 : Nat) ({ cls := "PureHouseModel", name := "tellLine", desc := "(I)V" } : Jvm.MethodName)) ∈ lw_all := lw_g (lw_at lw_m10 197 rfl) rfl
theorem q2470 : (Jvm.Cond.privateMethod ({ cls := "PureHouseModel", name := "tellLine", desc := "(I)V" } : Jvm.MethodName)) ∈ lw_tbl := lw_at lw_m10 198 rfl
theorem q2471 : (Jvm.Cond.instanceMethod ({ cls := "PureHouseModel", name := "tellLine", desc := "(I)V" } : Jvm.MethodName)) ∈ lw_all := lw_g (lw_at lw_m10 199 rfl) rfl
theorem q2472 : (Jvm.Cond.code ({ cls := "PureHouseModel", name := "tellLine", desc := "(I)V" } : Jvm.MethodName) prog_26_method_61_code (2 : Nat) (Option.none : Option Jvm.ClassFile.FieldType)) ∈ lw_all := lw_g (lw_at lw_m10 200 rfl) rfl
theorem q2473 : (Jvm.Cond.methodLink "PureHouseModel" (387 : Nat) ({ cls := "PureHouseModel", name := "tell", desc := "(IIIII)V" } : Jvm.MethodName)) ∈ lw_all := lw_g (lw_at lw_m10 201 rfl) rfl
theorem q2474 : (Jvm.Cond.privateMethod ({ cls := "PureHouseModel", name := "tell", desc := "(IIIII)V" } : Jvm.MethodName)) ∈ lw_tbl := lw_at lw_m10 202 rfl
theorem q2475 : (Jvm.Cond.instanceMethod ({ cls := "PureHouseModel", name := "tell", desc := "(IIIII)V" } : Jvm.MethodName)) ∈ lw_all := lw_g (lw_at lw_m10 203 rfl) rfl
theorem q2476 : (Jvm.Cond.code ({ cls := "PureHouseModel", name := "tell", desc := "(IIIII)V" } : Jvm.MethodName) prog_26_method_41_code (14 : Nat) (Option.none : Option Jvm.ClassFile.FieldType)) ∈ lw_all := lw_g (lw_at lw_m10 204 rfl) rfl
theorem q2477 : (Jvm.Cond.methodLink "PureHouseModel" (381 : Nat) ({ cls := "PureHouseModel", name := "number", desc := "(I)V" } : Jvm.MethodName)) ∈ lw_all := lw_g (lw_at lw_m10 205 rfl) rfl
theorem q2478 : (Jvm.Cond.privateMethod ({ cls := "PureHouseModel", name := "number", desc := "(I)V" } : Jvm.MethodName)) ∈ lw_tbl := lw_at lw_m10 206 rfl
theorem q2479 : (Jvm.Cond.instanceMethod ({ cls := "PureHouseModel", name := "number", desc := "(I)V" } : Jvm.MethodName)) ∈ lw_all := lw_g (lw_at lw_m10 207 rfl) rfl
theorem q2480 : (Jvm.Cond.code ({ cls := "PureHouseModel", name := "number", desc := "(I)V" } : Jvm.MethodName) prog_26_method_39_code (2 : Nat) (Option.none : Option Jvm.ClassFile.FieldType)) ∈ lw_all := lw_g (lw_at lw_m10 208 rfl) rfl
theorem q2481 : (Jvm.Cond.constant "PureHouseModel" (391 : Nat) (-1000000 : Int32)) ∈ lw_all := lw_g (lw_at lw_m10 209 rfl) rfl
theorem q2482 : (Jvm.Cond.methodLink "PureHouseModel" (392 : Nat) ({ cls := "PureHouseModel", name := "putWord", desc := "(I[II)V" } : Jvm.MethodName)) ∈ lw_all := lw_g (lw_at lw_m10 210 rfl) rfl
theorem q2483 : (Jvm.Cond.privateMethod ({ cls := "PureHouseModel", name := "putWord", desc := "(I[II)V" } : Jvm.MethodName)) ∈ lw_tbl := lw_at lw_m10 211 rfl
theorem q2484 : (Jvm.Cond.instanceMethod ({ cls := "PureHouseModel", name := "putWord", desc := "(I[II)V" } : Jvm.MethodName)) ∈ lw_all := lw_g (lw_at lw_m10 212 rfl) rfl
theorem q2485 : (Jvm.Cond.code ({ cls := "PureHouseModel", name := "putWord", desc := "(I[II)V" } : Jvm.MethodName) prog_26_method_40_code (5 : Nat) (Option.none : Option Jvm.ClassFile.FieldType)) ∈ lw_all := lw_g (lw_at lw_m10 213 rfl) rfl
theorem q2486 : (Jvm.Cond.methodLink "PureHouseModel" (462 : Nat) ({ cls := "PureHouseModel", name := "tellHead", desc := "()V" } : Jvm.MethodName)) ∈ lw_all := lw_g (lw_at lw_m10 214 rfl) rfl
theorem q2487 : (Jvm.Cond.privateMethod ({ cls := "PureHouseModel", name := "tellHead", desc := "()V" } : Jvm.MethodName)) ∈ lw_tbl := lw_at lw_m10 215 rfl
theorem q2488 : (Jvm.Cond.instanceMethod ({ cls := "PureHouseModel", name := "tellHead", desc := "()V" } : Jvm.MethodName)) ∈ lw_all := lw_g (lw_at lw_m10 216 rfl) rfl
theorem q2489 : (Jvm.Cond.code ({ cls := "PureHouseModel", name := "tellHead", desc := "()V" } : Jvm.MethodName) prog_26_method_62_code (2 : Nat) (Option.none : Option Jvm.ClassFile.FieldType)) ∈ lw_all := lw_g (lw_at lw_m10 217 rfl) rfl
theorem q2490 : (Jvm.Cond.methodLink "PureHouseModel" (465 : Nat) ({ cls := "PureHouseModel", name := "told", desc := "()V" } : Jvm.MethodName)) ∈ lw_all := lw_g (lw_at lw_m10 218 rfl) rfl
theorem q2491 : (Jvm.Cond.privateMethod ({ cls := "PureHouseModel", name := "told", desc := "()V" } : Jvm.MethodName)) ∈ lw_tbl := lw_at lw_m10 219 rfl
theorem q2492 : (Jvm.Cond.instanceMethod ({ cls := "PureHouseModel", name := "told", desc := "()V" } : Jvm.MethodName)) ∈ lw_all := lw_g (lw_at lw_m10 220 rfl) rfl
theorem q2493 : (Jvm.Cond.code ({ cls := "PureHouseModel", name := "told", desc := "()V" } : Jvm.MethodName) prog_26_method_59_code (4 : Nat) (Option.none : Option Jvm.ClassFile.FieldType)) ∈ lw_all := lw_g (lw_at lw_m10 221 rfl) rfl
theorem q2494 : (Jvm.Cond.methodLink "PureHouseModel" (483 : Nat) ({ cls := "PureHouseModel", name := "drop", desc := "()V" } : Jvm.MethodName)) ∈ lw_all := lw_g (lw_at lw_m10 222 rfl) rfl
theorem q2495 : (Jvm.Cond.privateMethod ({ cls := "PureHouseModel", name := "drop", desc := "()V" } : Jvm.MethodName)) ∈ lw_tbl := lw_at lw_m10 223 rfl
theorem q2496 : (Jvm.Cond.instanceMethod ({ cls := "PureHouseModel", name := "drop", desc := "()V" } : Jvm.MethodName)) ∈ lw_all := lw_g (lw_at lw_m10 224 rfl) rfl
theorem q2497 : (Jvm.Cond.code ({ cls := "PureHouseModel", name := "drop", desc := "()V" } : Jvm.MethodName) prog_26_method_56_code (1 : Nat) (Option.none : Option Jvm.ClassFile.FieldType)) ∈ lw_all := lw_g (lw_at lw_m10 225 rfl) rfl
theorem q2499 : (Jvm.Cond.instanceMethod ({ cls := "PureHouseModel", name := "fault", desc := "(I)I" } : Jvm.MethodName)) ∈ lw_all := lw_g (lw_at lw_m10 227 rfl) rfl
theorem q2500 : (Jvm.Cond.selects "PureHouseModel" ({ cls := "PureHouseModel", name := "fault", desc := "(I)I" } : Jvm.MethodName) ({ cls := "PureHouseModel", name := "fault", desc := "(I)I" } : Jvm.MethodName)) ∈ lw_all := lw_g (lw_at lw_m10 228 rfl) rfl
theorem q2501 : (Jvm.Cond.code ({ cls := "PureHouseModel", name := "fault", desc := "(I)I" } : Jvm.MethodName) prog_26_method_64_code (2 : Nat) (Option.some Jvm.ClassFile.FieldType.int)) ∈ lw_all := lw_g (lw_at lw_m10 229 rfl) rfl
theorem q2503 : (Jvm.Cond.instanceMethod ({ cls := "PureHouseModel", name := "corner", desc := "(I)I" } : Jvm.MethodName)) ∈ lw_all := lw_g (lw_at lw_m10 231 rfl) rfl
theorem q2504 : (Jvm.Cond.selects "PureHouseModel" ({ cls := "PureHouseModel", name := "corner", desc := "(I)I" } : Jvm.MethodName) ({ cls := "PureHouseModel", name := "corner", desc := "(I)I" } : Jvm.MethodName)) ∈ lw_all := lw_g (lw_at lw_m10 232 rfl) rfl
theorem q2505 : (Jvm.Cond.code ({ cls := "PureHouseModel", name := "corner", desc := "(I)I" } : Jvm.MethodName) prog_26_method_65_code (3 : Nat) (Option.some Jvm.ClassFile.FieldType.int)) ∈ lw_all := lw_g (lw_at lw_m10 233 rfl) rfl
theorem q2507 : (Jvm.Cond.instanceMethod ({ cls := "PureHouseModel", name := "limit", desc := "(I)I" } : Jvm.MethodName)) ∈ lw_all := lw_g (lw_at lw_m10 235 rfl) rfl
theorem q2508 : (Jvm.Cond.selects "PureHouseModel" ({ cls := "PureHouseModel", name := "limit", desc := "(I)I" } : Jvm.MethodName) ({ cls := "PureHouseModel", name := "limit", desc := "(I)I" } : Jvm.MethodName)) ∈ lw_all := lw_g (lw_at lw_m10 236 rfl) rfl
theorem q2509 : (Jvm.Cond.code ({ cls := "PureHouseModel", name := "limit", desc := "(I)I" } : Jvm.MethodName) prog_26_method_66_code (3 : Nat) (Option.some Jvm.ClassFile.FieldType.int)) ∈ lw_all := lw_g (lw_at lw_m10 237 rfl) rfl
theorem q2511 : (Jvm.Cond.instanceMethod ({ cls := "PureHouseModel", name := "outs", desc := "()I" } : Jvm.MethodName)) ∈ lw_all := lw_g (lw_at lw_m10 239 rfl) rfl
theorem q2512 : (Jvm.Cond.selects "PureHouseModel" ({ cls := "PureHouseModel", name := "outs", desc := "()I" } : Jvm.MethodName) ({ cls := "PureHouseModel", name := "outs", desc := "()I" } : Jvm.MethodName)) ∈ lw_all := lw_g (lw_at lw_m11 0 rfl) rfl
theorem q2513 : (Jvm.Cond.code ({ cls := "PureHouseModel", name := "outs", desc := "()I" } : Jvm.MethodName) prog_26_method_67_code (1 : Nat) (Option.some Jvm.ClassFile.FieldType.int)) ∈ lw_all := lw_g (lw_at lw_m11 1 rfl) rfl
theorem q2515 : (Jvm.Cond.instanceMethod ({ cls := "PureHouseModel", name := "out", desc := "(I)I" } : Jvm.MethodName)) ∈ lw_all := lw_g (lw_at lw_m11 3 rfl) rfl
theorem q2516 : (Jvm.Cond.selects "PureHouseModel" ({ cls := "PureHouseModel", name := "out", desc := "(I)I" } : Jvm.MethodName) ({ cls := "PureHouseModel", name := "out", desc := "(I)I" } : Jvm.MethodName)) ∈ lw_all := lw_g (lw_at lw_m11 4 rfl) rfl
theorem q2517 : (Jvm.Cond.code ({ cls := "PureHouseModel", name := "out", desc := "(I)I" } : Jvm.MethodName) prog_26_method_68_code (2 : Nat) (Option.some Jvm.ClassFile.FieldType.int)) ∈ lw_all := lw_g (lw_at lw_m11 5 rfl) rfl
theorem q2519 : (Jvm.Cond.instanceMethod ({ cls := "PureHouseModel", name := "count", desc := "(I)I" } : Jvm.MethodName)) ∈ lw_all := lw_g (lw_at lw_m11 7 rfl) rfl
theorem q2520 : (Jvm.Cond.selects "PureHouseModel" ({ cls := "PureHouseModel", name := "count", desc := "(I)I" } : Jvm.MethodName) ({ cls := "PureHouseModel", name := "count", desc := "(I)I" } : Jvm.MethodName)) ∈ lw_all := lw_g (lw_at lw_m11 8 rfl) rfl
theorem q2521 : (Jvm.Cond.code ({ cls := "PureHouseModel", name := "count", desc := "(I)I" } : Jvm.MethodName) prog_26_method_69_code (5 : Nat) (Option.some Jvm.ClassFile.FieldType.int)) ∈ lw_all := lw_g (lw_at lw_m11 9 rfl) rfl
theorem q2523 : (Jvm.Cond.instanceMethod ({ cls := "PureHouseModel", name := "name", desc := "(II)I" } : Jvm.MethodName)) ∈ lw_all := lw_g (lw_at lw_m11 11 rfl) rfl
theorem q2524 : (Jvm.Cond.selects "PureHouseModel" ({ cls := "PureHouseModel", name := "name", desc := "(II)I" } : Jvm.MethodName) ({ cls := "PureHouseModel", name := "name", desc := "(II)I" } : Jvm.MethodName)) ∈ lw_all := lw_g (lw_at lw_m11 12 rfl) rfl
theorem q2525 : (Jvm.Cond.code ({ cls := "PureHouseModel", name := "name", desc := "(II)I" } : Jvm.MethodName) prog_26_method_70_code (3 : Nat) (Option.some Jvm.ClassFile.FieldType.int)) ∈ lw_all := lw_g (lw_at lw_m11 13 rfl) rfl
theorem q2527 : (Jvm.Cond.instanceMethod ({ cls := "PureHouseModel", name := "sort", desc := "(II)I" } : Jvm.MethodName)) ∈ lw_all := lw_g (lw_at lw_m11 15 rfl) rfl
theorem q2528 : (Jvm.Cond.selects "PureHouseModel" ({ cls := "PureHouseModel", name := "sort", desc := "(II)I" } : Jvm.MethodName) ({ cls := "PureHouseModel", name := "sort", desc := "(II)I" } : Jvm.MethodName)) ∈ lw_all := lw_g (lw_at lw_m11 16 rfl) rfl
theorem q2529 : (Jvm.Cond.code ({ cls := "PureHouseModel", name := "sort", desc := "(II)I" } : Jvm.MethodName) prog_26_method_71_code (3 : Nat) (Option.some Jvm.ClassFile.FieldType.int)) ∈ lw_all := lw_g (lw_at lw_m11 17 rfl) rfl
theorem q2531 : (Jvm.Cond.instanceMethod ({ cls := "PureHouseModel", name := "rule", desc := "(II)I" } : Jvm.MethodName)) ∈ lw_all := lw_g (lw_at lw_m11 19 rfl) rfl
theorem q2532 : (Jvm.Cond.selects "PureHouseModel" ({ cls := "PureHouseModel", name := "rule", desc := "(II)I" } : Jvm.MethodName) ({ cls := "PureHouseModel", name := "rule", desc := "(II)I" } : Jvm.MethodName)) ∈ lw_all := lw_g (lw_at lw_m11 20 rfl) rfl
theorem q2533 : (Jvm.Cond.code ({ cls := "PureHouseModel", name := "rule", desc := "(II)I" } : Jvm.MethodName) prog_26_method_72_code (3 : Nat) (Option.some Jvm.ClassFile.FieldType.int)) ∈ lw_all := lw_g (lw_at lw_m11 21 rfl) rfl
theorem q2535 : (Jvm.Cond.instanceMethod ({ cls := "PureHouseModel", name := "type", desc := "(I)I" } : Jvm.MethodName)) ∈ lw_all := lw_g (lw_at lw_m11 23 rfl) rfl
theorem q2536 : (Jvm.Cond.selects "PureHouseModel" ({ cls := "PureHouseModel", name := "type", desc := "(I)I" } : Jvm.MethodName) ({ cls := "PureHouseModel", name := "type", desc := "(I)I" } : Jvm.MethodName)) ∈ lw_all := lw_g (lw_at lw_m11 24 rfl) rfl
theorem q2537 : (Jvm.Cond.code ({ cls := "PureHouseModel", name := "type", desc := "(I)I" } : Jvm.MethodName) prog_26_method_73_code (3 : Nat) (Option.some Jvm.ClassFile.FieldType.int)) ∈ lw_all := lw_g (lw_at lw_m11 25 rfl) rfl
theorem q2539 : (Jvm.Cond.instanceMethod ({ cls := "PureHouseModel", name := "same", desc := "(II)I" } : Jvm.MethodName)) ∈ lw_all := lw_g (lw_at lw_m11 27 rfl) rfl
theorem q2540 : (Jvm.Cond.selects "PureHouseModel" ({ cls := "PureHouseModel", name := "same", desc := "(II)I" } : Jvm.MethodName) ({ cls := "PureHouseModel", name := "same", desc := "(II)I" } : Jvm.MethodName)) ∈ lw_all := lw_g (lw_at lw_m11 28 rfl) rfl
theorem q2541 : (Jvm.Cond.code ({ cls := "PureHouseModel", name := "same", desc := "(II)I" } : Jvm.MethodName) prog_26_method_74_code (7 : Nat) (Option.some Jvm.ClassFile.FieldType.int)) ∈ lw_all := lw_g (lw_at lw_m11 29 rfl) rfl
theorem q2543 : (Jvm.Cond.instanceMethod ({ cls := "PureHouseModel", name := "mark", desc := "()I" } : Jvm.MethodName)) ∈ lw_all := lw_g (lw_at lw_m11 31 rfl) rfl
theorem q2544 : (Jvm.Cond.selects "PureHouseModel" ({ cls := "PureHouseModel", name := "mark", desc := "()I" } : Jvm.MethodName) ({ cls := "PureHouseModel", name := "mark", desc := "()I" } : Jvm.MethodName)) ∈ lw_all := lw_g (lw_at lw_m11 32 rfl) rfl
theorem q2545 : (Jvm.Cond.code ({ cls := "PureHouseModel", name := "mark", desc := "()I" } : Jvm.MethodName) prog_26_method_75_code (1 : Nat) (Option.some Jvm.ClassFile.FieldType.int)) ∈ lw_all := lw_g (lw_at lw_m11 33 rfl) rfl
theorem q2547 : (Jvm.Cond.instanceMethod ({ cls := "PureHouseModel", name := "back", desc := "()I" } : Jvm.MethodName)) ∈ lw_all := lw_g (lw_at lw_m11 35 rfl) rfl
theorem q2548 : (Jvm.Cond.selects "PureHouseModel" ({ cls := "PureHouseModel", name := "back", desc := "()I" } : Jvm.MethodName) ({ cls := "PureHouseModel", name := "back", desc := "()I" } : Jvm.MethodName)) ∈ lw_all := lw_g (lw_at lw_m11 36 rfl) rfl
theorem q2549 : (Jvm.Cond.code ({ cls := "PureHouseModel", name := "back", desc := "()I" } : Jvm.MethodName) prog_26_method_76_code (1 : Nat) (Option.some Jvm.ClassFile.FieldType.int)) ∈ lw_all := lw_g (lw_at lw_m11 37 rfl) rfl
theorem q2578 : (Jvm.Cond.castable "PureHouseModel" "java/lang/Object") ∈ lw_tbl := lw_at lw_m11 66 rfl
theorem in_X5 : ∀ w ∈ wsX50, w ∈ lw_all := lw_in wsX50 [2090, 2092, 2094, 2096, 2098, 2100, 2102, 2104, 2106, 2108, 2110, 2112, 2114, 2116, 2118, 2120, 2122, 2124, 2126, 2128, 2130, 2132, 2134, 2136, 2138, 2140, 2142, 2144, 2146, 2148, 2150, 2152, 2154, 2156, 2158, 2160, 2162, 2164, 2166, 2168, 2170, 2172, 2174, 2176, 2178, 2180, 2182, 2184, 2186, 2188, 2190, 2192, 2194, 2196, 2198, 2200, 2202, 2204, 2206, 2208, 2210, 2212, 2214, 2216, 2218, 2220, 2222, 2224, 2226, 2228, 2230, 2232, 2234, 2236, 2238, 2240, 2242, 2244, 2246, 2248, 2250, 2252, 2254] (by decide +kernel) (by decide +kernel)
