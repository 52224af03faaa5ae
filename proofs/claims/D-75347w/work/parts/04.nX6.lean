/-! KrylovLaboratoryModel -/
set_option maxRecDepth 100000
def RX6 : String := "KrylovLaboratoryModel"
def TX6 : u_T := fun k => match k with
  | 0 => ("KrylovLaboratoryModel", "now", "[J", true)
  | 1 => ("KrylovLaboratoryModel", "draft", "[J", true)
  | 2 => ("KrylovLaboratoryModel", "aside", "[J", true)
  | 3 => ("KrylovLaboratoryModel", "snapshot", "[J", true)
  | 4 => ("KrylovLaboratoryModel", "history", "[J", true)
  | 5 => ("KrylovLaboratoryModel", "undoCount", "I", false)
  | 6 => ("KrylovLaboratoryModel", "thrown", "I", false)
  | 7 => ("KrylovLaboratoryModel", "hasSnapshot", "Z", false)
  | 8 => ("KrylovLaboratoryModel", "lab", "[J", false)
  | 9 => ("KrylovLaboratoryModel", "work", "[J", true)
  | 10 => ("KrylovLaboratoryModel", "product", "[J", true)
  | 11 => ("KrylovLaboratoryModel", "made", "[J", true)
  | 12 => ("KrylovLaboratoryModel", "shares", "[J", true)
  | 13 => ("KrylovLaboratoryModel", "sum", "[J", true)
  | 14 => ("KrylovLaboratoryModel", "formatted", "[I", true)
  | 15 => ("KrylovLaboratoryModel", "formattedLength", "I", false)
  | 16 => ("KrylovLaboratoryModel", "buffer", "[I", true)
  | 17 => ("KrylovLaboratoryModel", "bufferLength", "I", false)
  | 18 => ("KrylovLaboratoryModel", "limit", "I", false)
  | 19 => ("KrylovLaboratoryModel", "next", "I", false)
  | 20 => ("KrylovLaboratoryModel", "beginsAt", "I", false)
  | 21 => ("KrylovLaboratoryModel", "token", "I", false)
  | 22 => ("KrylovLaboratoryModel", "error", "I", false)
  | 23 => ("KrylovLaboratoryModel", "errorAt", "I", false)
  | 24 => ("KrylovLaboratoryModel", "errorPosition", "I", false)
  | 25 => ("KrylovLaboratoryModel", "nested", "I", false)
  | 26 => ("KrylovLaboratoryModel", "names", "[Ljava/lang/String;", true)
  | 27 => ("KrylovLaboratoryModel", "codes", "[I", true)
  | 28 => ("KrylovLaboratoryModel", "stack", "[J", true)
  | _ => ("KrylovLaboratoryModel", "codeCount", "I", false)
def tyX6 : Nat → FieldType := fun k => match k with
  | 0 => .array .long
  | 1 => .array .long
  | 2 => .array .long
  | 3 => .array .long
  | 4 => .array .long
  | 5 => .int
  | 6 => .int
  | 7 => .boolean
  | 8 => .array .long
  | 9 => .array .long
  | 10 => .array .long
  | 11 => .array .long
  | 12 => .array .long
  | 13 => .array .long
  | 14 => .array .int
  | 15 => .int
  | 16 => .array .int
  | 17 => .int
  | 18 => .int
  | 19 => .int
  | 20 => .int
  | 21 => .int
  | 22 => .int
  | 23 => .int
  | 24 => .int
  | 25 => .int
  | 26 => .array (.object "java/lang/String")
  | 27 => .array .int
  | 28 => .array .long
  | _ => .int
abbrev wsX60 : List Cond := u_ws RX6 TX6 30
set_option maxRecDepth 100000 in
theorem nmX6 : ∀ a, a < 30 → ∀ b, b < 30 → a ≠ b → (TX6 a).2.1 ≠ (TX6 b).2.1 := sorry
set_option maxRecDepth 100000 in
theorem tyX6_ok : ∀ k, k < 30 → parseFieldDescriptor (TX6 k).2.2.1 = some (tyX6 k) := sorry
abbrev cX6_init : ByteArray := prog_17_method_1_code
def yX6_init : MethodName := ⟨RX6, "<init>", "()V"⟩
def dkwX6_init_8 : List UInt8 := [153, 0, 7, 3, 167, 0, 7, 42, 180, 0, 84, 181, 0, 84, 177]
abbrev dktX6_init_8 : List UInt8 := dkwX6_init_8 ++ []
def dkwX6_init_7 : List UInt8 := [17, 0, 200, 188, 11, 181, 0, 73, 42, 180, 0, 9, 5, 184, 0, 76, 42, 182, 0, 80, 60, 42, 27]
abbrev dktX6_init_7 : List UInt8 := dkwX6_init_7 ++ dktX6_init_8
def dkwX6_init_6 : List UInt8 := [6, 18, 62, 83, 89, 7, 18, 64, 83, 181, 0, 66, 42, 17, 0, 200, 188, 10, 181, 0, 70, 42]
abbrev dktX6_init_6 : List UInt8 := dkwX6_init_6 ++ dktX6_init_7
def dkwX6_init_5 : List UInt8 := [181, 0, 50, 42, 8, 189, 0, 54, 89, 3, 18, 56, 83, 89, 4, 18, 58, 83, 89, 5, 18, 60, 83, 89]
abbrev dktX6_init_5 : List UInt8 := dkwX6_init_5 ++ dktX6_init_6
def dkwX6_init_4 : List UInt8 := [181, 0, 40, 42, 16, 60, 188, 10, 181, 0, 43, 42, 17, 2, 88, 188, 10, 181, 0, 47, 42, 2]
abbrev dktX6_init_4 : List UInt8 := dkwX6_init_4 ++ dktX6_init_5
def dkwX6_init_3 : List UInt8 := [181, 0, 31, 42, 16, 6, 188, 11, 181, 0, 34, 42, 16, 6, 188, 11, 181, 0, 37, 42, 16, 6, 188, 11]
abbrev dktX6_init_3 : List UInt8 := dkwX6_init_3 ++ dktX6_init_4
def dkwX6_init_2 : List UInt8 := [181, 0, 22, 42, 42, 180, 0, 9, 181, 0, 25, 42, 16, 6, 188, 11, 181, 0, 28, 42, 16, 6, 188, 11]
abbrev dktX6_init_2 : List UInt8 := dkwX6_init_2 ++ dktX6_init_3
def dkwX6_init_1 : List UInt8 := [17, 0, 208, 188, 11, 181, 0, 16, 42, 17, 0, 208, 188, 11, 181, 0, 19, 42, 17, 8, 32, 188, 11]
abbrev dktX6_init_1 : List UInt8 := dkwX6_init_1 ++ dktX6_init_2
def dkwX6_init_0 : List UInt8 := [42, 183, 0, 3, 42, 17, 0, 208, 188, 11, 181, 0, 9, 42, 17, 0, 208, 188, 11, 181, 0, 13, 42]
abbrev dktX6_init_0 : List UInt8 := dkwX6_init_0 ++ dktX6_init_1
theorem dksX6_init_0 : cX6_init.data.toList.drop 0 = dktX6_init_0 := sorry
theorem dksX6_init_1 : cX6_init.data.toList.drop 23 = dktX6_init_1 := sorry
theorem dksX6_init_2 : cX6_init.data.toList.drop 46 = dktX6_init_2 := sorry
theorem dksX6_init_3 : cX6_init.data.toList.drop 70 = dktX6_init_3 := sorry
theorem dksX6_init_4 : cX6_init.data.toList.drop 94 = dktX6_init_4 := sorry
theorem dksX6_init_5 : cX6_init.data.toList.drop 116 = dktX6_init_5 := sorry
theorem dksX6_init_6 : cX6_init.data.toList.drop 140 = dktX6_init_6 := sorry
theorem dksX6_init_7 : cX6_init.data.toList.drop 162 = dktX6_init_7 := sorry
theorem dksX6_init_8 : cX6_init.data.toList.drop 185 = dktX6_init_8 := sorry
theorem dX6_init_0 : decode cX6_init 0 = .ok (.aload_n 0, 1) := sorry
theorem dX6_init_1 : decode cX6_init 1 = .ok (.invokespecial 3, 3) := sorry
theorem dX6_init_4 : decode cX6_init 4 = .ok (.aload_n 0, 1) := sorry
theorem dX6_init_5 : decode cX6_init 5 = .ok (.sipush 208, 3) := sorry
theorem dX6_init_8 : decode cX6_init 8 = .ok (.newarray .long, 2) := sorry
theorem dX6_init_10 : decode cX6_init 10 = .ok (.putfield 9, 3) := sorry
theorem dX6_init_13 : decode cX6_init 13 = .ok (.aload_n 0, 1) := sorry
theorem dX6_init_14 : decode cX6_init 14 = .ok (.sipush 208, 3) := sorry
theorem dX6_init_17 : decode cX6_init 17 = .ok (.newarray .long, 2) := sorry
theorem dX6_init_19 : decode cX6_init 19 = .ok (.putfield 13, 3) := sorry
theorem dX6_init_22 : decode cX6_init 22 = .ok (.aload_n 0, 1) := sorry
theorem dX6_init_23 : decode cX6_init 23 = .ok (.sipush 208, 3) := sorry
theorem dX6_init_26 : decode cX6_init 26 = .ok (.newarray .long, 2) := sorry
theorem dX6_init_28 : decode cX6_init 28 = .ok (.putfield 16, 3) := sorry
theorem dX6_init_31 : decode cX6_init 31 = .ok (.aload_n 0, 1) := sorry
theorem dX6_init_32 : decode cX6_init 32 = .ok (.sipush 208, 3) := sorry
theorem dX6_init_35 : decode cX6_init 35 = .ok (.newarray .long, 2) := sorry
theorem dX6_init_37 : decode cX6_init 37 = .ok (.putfield 19, 3) := sorry
theorem dX6_init_40 : decode cX6_init 40 = .ok (.aload_n 0, 1) := sorry
theorem dX6_init_41 : decode cX6_init 41 = .ok (.sipush 2080, 3) := sorry
theorem dX6_init_44 : decode cX6_init 44 = .ok (.newarray .long, 2) := sorry
theorem dX6_init_46 : decode cX6_init 46 = .ok (.putfield 22, 3) := sorry
theorem dX6_init_49 : decode cX6_init 49 = .ok (.aload_n 0, 1) := sorry
theorem dX6_init_50 : decode cX6_init 50 = .ok (.aload_n 0, 1) := sorry
theorem dX6_init_51 : decode cX6_init 51 = .ok (.getfield 9, 3) := sorry
theorem dX6_init_54 : decode cX6_init 54 = .ok (.putfield 25, 3) := sorry
theorem dX6_init_57 : decode cX6_init 57 = .ok (.aload_n 0, 1) := sorry
theorem dX6_init_58 : decode cX6_init 58 = .ok (.bipush 6, 2) := sorry
theorem dX6_init_60 : decode cX6_init 60 = .ok (.newarray .long, 2) := sorry
theorem dX6_init_62 : decode cX6_init 62 = .ok (.putfield 28, 3) := sorry
theorem dX6_init_65 : decode cX6_init 65 = .ok (.aload_n 0, 1) := sorry
theorem dX6_init_66 : decode cX6_init 66 = .ok (.bipush 6, 2) := sorry
theorem dX6_init_68 : decode cX6_init 68 = .ok (.newarray .long, 2) := sorry
theorem dX6_init_70 : decode cX6_init 70 = .ok (.putfield 31, 3) := sorry
theorem dX6_init_73 : decode cX6_init 73 = .ok (.aload_n 0, 1) := sorry
theorem dX6_init_74 : decode cX6_init 74 = .ok (.bipush 6, 2) := sorry
theorem dX6_init_76 : decode cX6_init 76 = .ok (.newarray .long, 2) := sorry
theorem dX6_init_78 : decode cX6_init 78 = .ok (.putfield 34, 3) := sorry
theorem dX6_init_81 : decode cX6_init 81 = .ok (.aload_n 0, 1) := sorry
theorem dX6_init_82 : decode cX6_init 82 = .ok (.bipush 6, 2) := sorry
theorem dX6_init_84 : decode cX6_init 84 = .ok (.newarray .long, 2) := sorry
theorem dX6_init_86 : decode cX6_init 86 = .ok (.putfield 37, 3) := sorry
theorem dX6_init_89 : decode cX6_init 89 = .ok (.aload_n 0, 1) := sorry
theorem dX6_init_90 : decode cX6_init 90 = .ok (.bipush 6, 2) := sorry
theorem dX6_init_92 : decode cX6_init 92 = .ok (.newarray .long, 2) := sorry
theorem dX6_init_94 : decode cX6_init 94 = .ok (.putfield 40, 3) := sorry
theorem dX6_init_97 : decode cX6_init 97 = .ok (.aload_n 0, 1) := sorry
theorem dX6_init_98 : decode cX6_init 98 = .ok (.bipush 60, 2) := sorry
theorem dX6_init_100 : decode cX6_init 100 = .ok (.newarray .int, 2) := sorry
theorem dX6_init_102 : decode cX6_init 102 = .ok (.putfield 43, 3) := sorry
theorem dX6_init_105 : decode cX6_init 105 = .ok (.aload_n 0, 1) := sorry
theorem dX6_init_106 : decode cX6_init 106 = .ok (.sipush 600, 3) := sorry
theorem dX6_init_109 : decode cX6_init 109 = .ok (.newarray .int, 2) := sorry
theorem dX6_init_111 : decode cX6_init 111 = .ok (.putfield 47, 3) := sorry
theorem dX6_init_114 : decode cX6_init 114 = .ok (.aload_n 0, 1) := sorry
theorem dX6_init_115 : decode cX6_init 115 = .ok (.iconst (-1), 1) := sorry
theorem dX6_init_116 : decode cX6_init 116 = .ok (.putfield 50, 3) := sorry
theorem dX6_init_119 : decode cX6_init 119 = .ok (.aload_n 0, 1) := sorry
theorem dX6_init_120 : decode cX6_init 120 = .ok (.iconst 5, 1) := sorry
theorem dX6_init_121 : decode cX6_init 121 = .ok (.anewarray 54, 3) := sorry
theorem dX6_init_124 : decode cX6_init 124 = .ok (.dup, 1) := sorry
theorem dX6_init_125 : decode cX6_init 125 = .ok (.iconst 0, 1) := sorry
theorem dX6_init_126 : decode cX6_init 126 = .ok (.ldc 56, 2) := sorry
theorem dX6_init_128 : decode cX6_init 128 = .ok (.aastore, 1) := sorry
theorem dX6_init_129 : decode cX6_init 129 = .ok (.dup, 1) := sorry
theorem dX6_init_130 : decode cX6_init 130 = .ok (.iconst 1, 1) := sorry
theorem dX6_init_131 : decode cX6_init 131 = .ok (.ldc 58, 2) := sorry
theorem dX6_init_133 : decode cX6_init 133 = .ok (.aastore, 1) := sorry
theorem dX6_init_134 : decode cX6_init 134 = .ok (.dup, 1) := sorry
theorem dX6_init_135 : decode cX6_init 135 = .ok (.iconst 2, 1) := sorry
theorem dX6_init_136 : decode cX6_init 136 = .ok (.ldc 60, 2) := sorry
theorem dX6_init_138 : decode cX6_init 138 = .ok (.aastore, 1) := sorry
theorem dX6_init_139 : decode cX6_init 139 = .ok (.dup, 1) := sorry
theorem dX6_init_140 : decode cX6_init 140 = .ok (.iconst 3, 1) := sorry
theorem dX6_init_141 : decode cX6_init 141 = .ok (.ldc 62, 2) := sorry
theorem dX6_init_143 : decode cX6_init 143 = .ok (.aastore, 1) := sorry
theorem dX6_init_144 : decode cX6_init 144 = .ok (.dup, 1) := sorry
theorem dX6_init_145 : decode cX6_init 145 = .ok (.iconst 4, 1) := sorry
theorem dX6_init_146 : decode cX6_init 146 = .ok (.ldc 64, 2) := sorry
theorem dX6_init_148 : decode cX6_init 148 = .ok (.aastore, 1) := sorry
theorem dX6_init_149 : decode cX6_init 149 = .ok (.putfield 66, 3) := sorry
theorem dX6_init_152 : decode cX6_init 152 = .ok (.aload_n 0, 1) := sorry
theorem dX6_init_153 : decode cX6_init 153 = .ok (.sipush 200, 3) := sorry
theorem dX6_init_156 : decode cX6_init 156 = .ok (.newarray .int, 2) := sorry
theorem dX6_init_158 : decode cX6_init 158 = .ok (.putfield 70, 3) := sorry
theorem dX6_init_161 : decode cX6_init 161 = .ok (.aload_n 0, 1) := sorry
theorem dX6_init_162 : decode cX6_init 162 = .ok (.sipush 200, 3) := sorry
theorem dX6_init_165 : decode cX6_init 165 = .ok (.newarray .long, 2) := sorry
theorem dX6_init_167 : decode cX6_init 167 = .ok (.putfield 73, 3) := sorry
theorem dX6_init_170 : decode cX6_init 170 = .ok (.aload_n 0, 1) := sorry
theorem dX6_init_171 : decode cX6_init 171 = .ok (.getfield 9, 3) := sorry
theorem dX6_init_174 : decode cX6_init 174 = .ok (.iconst 2, 1) := sorry
theorem dX6_init_175 : decode cX6_init 175 = .ok (.invokestatic 76, 3) := sorry
theorem dX6_init_178 : decode cX6_init 178 = .ok (.aload_n 0, 1) := sorry
theorem dX6_init_179 : decode cX6_init 179 = .ok (.invokevirtual 80, 3) := sorry
theorem dX6_init_182 : decode cX6_init 182 = .ok (.istore_n 1, 1) := sorry
theorem dX6_init_183 : decode cX6_init 183 = .ok (.aload_n 0, 1) := sorry
theorem dX6_init_184 : decode cX6_init 184 = .ok (.iload_n 1, 1) := sorry
theorem dX6_init_185 : decode cX6_init 185 = .ok (.ifCond .eq 7, 3) := sorry
theorem dX6_init_188 : decode cX6_init 188 = .ok (.iconst 0, 1) := sorry
theorem dX6_init_189 : decode cX6_init 189 = .ok (.goto 7, 3) := sorry
theorem dX6_init_192 : decode cX6_init 192 = .ok (.aload_n 0, 1) := sorry
theorem dX6_init_193 : decode cX6_init 193 = .ok (.getfield 84, 3) := sorry
theorem dX6_init_196 : decode cX6_init 196 = .ok (.putfield 84, 3) := sorry
theorem dX6_init_199 : decode cX6_init 199 = .ok (.return_, 1) := sorry
abbrev cX6_clear : ByteArray := prog_17_method_5_code
def yX6_clear : MethodName := ⟨RX6, "clear", "([JI)V"⟩
def dkwX6_clear_2 : List UInt8 := [10, 80, 132, 2, 1, 167, 255, 241, 177]
abbrev dktX6_clear_2 : List UInt8 := dkwX6_clear_2 ++ []
def dkwX6_clear_1 : List UInt8 := [42, 5, 20, 0, 87, 80, 42, 6, 20, 0, 89, 80, 3, 61, 28, 27, 162, 0, 16, 42, 16, 12, 28, 96]
abbrev dktX6_clear_1 : List UInt8 := dkwX6_clear_1 ++ dktX6_clear_2
def dkwX6_clear_0 : List UInt8 := [3, 61, 28, 17, 0, 208, 162, 0, 13, 42, 28, 9, 80, 132, 2, 1, 167, 255, 242, 42, 3, 27, 133, 80]
abbrev dktX6_clear_0 : List UInt8 := dkwX6_clear_0 ++ dktX6_clear_1
theorem dksX6_clear_0 : cX6_clear.data.toList.drop 0 = dktX6_clear_0 := sorry
theorem dksX6_clear_1 : cX6_clear.data.toList.drop 24 = dktX6_clear_1 := sorry
theorem dksX6_clear_2 : cX6_clear.data.toList.drop 48 = dktX6_clear_2 := sorry
theorem dX6_clear_0 : decode cX6_clear 0 = .ok (.iconst 0, 1) := sorry
theorem dX6_clear_1 : decode cX6_clear 1 = .ok (.istore_n 2, 1) := sorry
theorem dX6_clear_2 : decode cX6_clear 2 = .ok (.iload_n 2, 1) := sorry
theorem dX6_clear_3 : decode cX6_clear 3 = .ok (.sipush 208, 3) := sorry
theorem dX6_clear_6 : decode cX6_clear 6 = .ok (.if_icmp .ge 13, 3) := sorry
theorem dX6_clear_9 : decode cX6_clear 9 = .ok (.aload_n 0, 1) := sorry
theorem dX6_clear_10 : decode cX6_clear 10 = .ok (.iload_n 2, 1) := sorry
theorem dX6_clear_11 : decode cX6_clear 11 = .ok (.lconst 0, 1) := sorry
theorem dX6_clear_12 : decode cX6_clear 12 = .ok (.lastore, 1) := sorry
theorem dX6_clear_13 : decode cX6_clear 13 = .ok (.iinc 2 1, 3) := sorry
theorem dX6_clear_16 : decode cX6_clear 16 = .ok (.goto (-14), 3) := sorry
theorem dX6_clear_19 : decode cX6_clear 19 = .ok (.aload_n 0, 1) := sorry
theorem dX6_clear_20 : decode cX6_clear 20 = .ok (.iconst 0, 1) := sorry
theorem dX6_clear_21 : decode cX6_clear 21 = .ok (.iload_n 1, 1) := sorry
theorem dX6_clear_22 : decode cX6_clear 22 = .ok (.i2l, 1) := sorry
theorem dX6_clear_23 : decode cX6_clear 23 = .ok (.lastore, 1) := sorry
theorem dX6_clear_24 : decode cX6_clear 24 = .ok (.aload_n 0, 1) := sorry
theorem dX6_clear_25 : decode cX6_clear 25 = .ok (.iconst 2, 1) := sorry
theorem dX6_clear_26 : decode cX6_clear 26 = .ok (.ldc2_w 87, 3) := sorry
theorem dX6_clear_29 : decode cX6_clear 29 = .ok (.lastore, 1) := sorry
theorem dX6_clear_30 : decode cX6_clear 30 = .ok (.aload_n 0, 1) := sorry
theorem dX6_clear_31 : decode cX6_clear 31 = .ok (.iconst 3, 1) := sorry
theorem dX6_clear_32 : decode cX6_clear 32 = .ok (.ldc2_w 89, 3) := sorry
theorem dX6_clear_35 : decode cX6_clear 35 = .ok (.lastore, 1) := sorry
theorem dX6_clear_36 : decode cX6_clear 36 = .ok (.iconst 0, 1) := sorry
theorem dX6_clear_37 : decode cX6_clear 37 = .ok (.istore_n 2, 1) := sorry
theorem dX6_clear_38 : decode cX6_clear 38 = .ok (.iload_n 2, 1) := sorry
theorem dX6_clear_39 : decode cX6_clear 39 = .ok (.iload_n 1, 1) := sorry
theorem dX6_clear_40 : decode cX6_clear 40 = .ok (.if_icmp .ge 16, 3) := sorry
theorem dX6_clear_43 : decode cX6_clear 43 = .ok (.aload_n 0, 1) := sorry
theorem dX6_clear_44 : decode cX6_clear 44 = .ok (.bipush 12, 2) := sorry
theorem dX6_clear_46 : decode cX6_clear 46 = .ok (.iload_n 2, 1) := sorry
theorem dX6_clear_47 : decode cX6_clear 47 = .ok (.iadd, 1) := sorry
theorem dX6_clear_48 : decode cX6_clear 48 = .ok (.lconst 1, 1) := sorry
theorem dX6_clear_49 : decode cX6_clear 49 = .ok (.lastore, 1) := sorry
theorem dX6_clear_50 : decode cX6_clear 50 = .ok (.iinc 2 1, 3) := sorry
theorem dX6_clear_53 : decode cX6_clear 53 = .ok (.goto (-15), 3) := sorry
theorem dX6_clear_56 : decode cX6_clear 56 = .ok (.return_, 1) := sorry
abbrev cX6_beginWithStart : ByteArray := prog_17_method_23_code
def yX6_beginWithStart : MethodName := ⟨RX6, "beginWithStart", "()Z"⟩
def dkwX6_beginWithStart_1 : List UInt8 := [20, 0, 97, 105, 80, 132, 1, 1, 167, 255, 226, 42, 182, 0, 144, 172]
abbrev dktX6_beginWithStart_1 : List UInt8 := dkwX6_beginWithStart_1 ++ []
def dkwX6_beginWithStart_0 : List UInt8 := [3, 60, 27, 42, 182, 0, 95, 162, 0, 28, 42, 180, 0, 28, 27, 42, 180, 0, 25, 16, 12, 27, 96, 47]
abbrev dktX6_beginWithStart_0 : List UInt8 := dkwX6_beginWithStart_0 ++ dktX6_beginWithStart_1
theorem dksX6_beginWithStart_0 : cX6_beginWithStart.data.toList.drop 0 = dktX6_beginWithStart_0 := sorry
theorem dksX6_beginWithStart_1 : cX6_beginWithStart.data.toList.drop 24 = dktX6_beginWithStart_1 := sorry
theorem dX6_beginWithStart_0 : decode cX6_beginWithStart 0 = .ok (.iconst 0, 1) := sorry
theorem dX6_beginWithStart_1 : decode cX6_beginWithStart 1 = .ok (.istore_n 1, 1) := sorry
theorem dX6_beginWithStart_2 : decode cX6_beginWithStart 2 = .ok (.iload_n 1, 1) := sorry
theorem dX6_beginWithStart_3 : decode cX6_beginWithStart 3 = .ok (.aload_n 0, 1) := sorry
theorem dX6_beginWithStart_4 : decode cX6_beginWithStart 4 = .ok (.invokevirtual 95, 3) := sorry
theorem dX6_beginWithStart_7 : decode cX6_beginWithStart 7 = .ok (.if_icmp .ge 28, 3) := sorry
theorem dX6_beginWithStart_10 : decode cX6_beginWithStart 10 = .ok (.aload_n 0, 1) := sorry
theorem dX6_beginWithStart_11 : decode cX6_beginWithStart 11 = .ok (.getfield 28, 3) := sorry
theorem dX6_beginWithStart_14 : decode cX6_beginWithStart 14 = .ok (.iload_n 1, 1) := sorry
theorem dX6_beginWithStart_15 : decode cX6_beginWithStart 15 = .ok (.aload_n 0, 1) := sorry
theorem dX6_beginWithStart_16 : decode cX6_beginWithStart 16 = .ok (.getfield 25, 3) := sorry
theorem dX6_beginWithStart_19 : decode cX6_beginWithStart 19 = .ok (.bipush 12, 2) := sorry
theorem dX6_beginWithStart_21 : decode cX6_beginWithStart 21 = .ok (.iload_n 1, 1) := sorry
theorem dX6_beginWithStart_22 : decode cX6_beginWithStart 22 = .ok (.iadd, 1) := sorry
theorem dX6_beginWithStart_23 : decode cX6_beginWithStart 23 = .ok (.laload, 1) := sorry
theorem dX6_beginWithStart_24 : decode cX6_beginWithStart 24 = .ok (.ldc2_w 97, 3) := sorry
theorem dX6_beginWithStart_27 : decode cX6_beginWithStart 27 = .ok (.lmul, 1) := sorry
theorem dX6_beginWithStart_28 : decode cX6_beginWithStart 28 = .ok (.lastore, 1) := sorry
theorem dX6_beginWithStart_29 : decode cX6_beginWithStart 29 = .ok (.iinc 1 1, 3) := sorry
theorem dX6_beginWithStart_32 : decode cX6_beginWithStart 32 = .ok (.goto (-30), 3) := sorry
theorem dX6_beginWithStart_35 : decode cX6_beginWithStart 35 = .ok (.aload_n 0, 1) := sorry
theorem dX6_beginWithStart_36 : decode cX6_beginWithStart 36 = .ok (.invokevirtual 144, 3) := sorry
theorem dX6_beginWithStart_39 : decode cX6_beginWithStart 39 = .ok (.ireturn, 1) := sorry
abbrev cX6_size : ByteArray := prog_17_method_6_code
def yX6_size : MethodName := ⟨RX6, "size", "()I"⟩
def dkwX6_size_0 : List UInt8 := [42, 180, 0, 25, 3, 47, 136, 172]
abbrev dktX6_size_0 : List UInt8 := dkwX6_size_0 ++ []
theorem dksX6_size_0 : cX6_size.data.toList.drop 0 = dktX6_size_0 := sorry
theorem dX6_size_0 : decode cX6_size 0 = .ok (.aload_n 0, 1) := sorry
theorem dX6_size_1 : decode cX6_size 1 = .ok (.getfield 25, 3) := sorry
theorem dX6_size_4 : decode cX6_size 4 = .ok (.iconst 0, 1) := sorry
theorem dX6_size_5 : decode cX6_size 5 = .ok (.laload, 1) := sorry
theorem dX6_size_6 : decode cX6_size 6 = .ok (.l2i, 1) := sorry
theorem dX6_size_7 : decode cX6_size 7 = .ok (.ireturn, 1) := sorry
abbrev cX6_beginWithWork : ByteArray := prog_17_method_22_code
def yX6_beginWithWork : MethodName := ⟨RX6, "beginWithWork", "()Z"⟩
def dkwX6_beginWithWork_3 : List UInt8 := [47, 10, 97, 80, 4, 172]
abbrev dktX6_beginWithWork_3 : List UInt8 := dkwX6_beginWithWork_3 ++ []
def dkwX6_beginWithWork_2 : List UInt8 := [182, 0, 141, 42, 180, 0, 25, 7, 9, 80, 42, 180, 0, 25, 8, 9, 80, 42, 180, 0, 25, 16, 10, 92]
abbrev dktX6_beginWithWork_2 : List UInt8 := dkwX6_beginWithWork_2 ++ dktX6_beginWithWork_3
def dkwX6_beginWithWork_1 : List UInt8 := [156, 0, 5, 3, 172, 42, 180, 0, 28, 42, 182, 0, 95, 184, 0, 138, 42, 42, 180, 0, 28, 16, 54]
abbrev dktX6_beginWithWork_1 : List UInt8 := dkwX6_beginWithWork_1 ++ dktX6_beginWithWork_2
def dkwX6_beginWithWork_0 : List UInt8 := [42, 42, 180, 0, 28, 182, 0, 134, 42, 180, 0, 28, 42, 182, 0, 95, 184, 0, 111, 20, 0, 87, 148]
abbrev dktX6_beginWithWork_0 : List UInt8 := dkwX6_beginWithWork_0 ++ dktX6_beginWithWork_1
theorem dksX6_beginWithWork_0 : cX6_beginWithWork.data.toList.drop 0 = dktX6_beginWithWork_0 := sorry
theorem dksX6_beginWithWork_1 : cX6_beginWithWork.data.toList.drop 23 = dktX6_beginWithWork_1 := sorry
theorem dksX6_beginWithWork_2 : cX6_beginWithWork.data.toList.drop 46 = dktX6_beginWithWork_2 := sorry
theorem dksX6_beginWithWork_3 : cX6_beginWithWork.data.toList.drop 70 = dktX6_beginWithWork_3 := sorry
theorem dX6_beginWithWork_0 : decode cX6_beginWithWork 0 = .ok (.aload_n 0, 1) := sorry
theorem dX6_beginWithWork_1 : decode cX6_beginWithWork 1 = .ok (.aload_n 0, 1) := sorry
theorem dX6_beginWithWork_2 : decode cX6_beginWithWork 2 = .ok (.getfield 28, 3) := sorry
theorem dX6_beginWithWork_5 : decode cX6_beginWithWork 5 = .ok (.invokevirtual 134, 3) := sorry
theorem dX6_beginWithWork_8 : decode cX6_beginWithWork 8 = .ok (.aload_n 0, 1) := sorry
theorem dX6_beginWithWork_9 : decode cX6_beginWithWork 9 = .ok (.getfield 28, 3) := sorry
theorem dX6_beginWithWork_12 : decode cX6_beginWithWork 12 = .ok (.aload_n 0, 1) := sorry
theorem dX6_beginWithWork_13 : decode cX6_beginWithWork 13 = .ok (.invokevirtual 95, 3) := sorry
theorem dX6_beginWithWork_16 : decode cX6_beginWithWork 16 = .ok (.invokestatic 111, 3) := sorry
theorem dX6_beginWithWork_19 : decode cX6_beginWithWork 19 = .ok (.ldc2_w 87, 3) := sorry
theorem dX6_beginWithWork_22 : decode cX6_beginWithWork 22 = .ok (.lcmp, 1) := sorry
theorem dX6_beginWithWork_23 : decode cX6_beginWithWork 23 = .ok (.ifCond .ge 5, 3) := sorry
theorem dX6_beginWithWork_26 : decode cX6_beginWithWork 26 = .ok (.iconst 0, 1) := sorry
theorem dX6_beginWithWork_27 : decode cX6_beginWithWork 27 = .ok (.ireturn, 1) := sorry
theorem dX6_beginWithWork_28 : decode cX6_beginWithWork 28 = .ok (.aload_n 0, 1) := sorry
theorem dX6_beginWithWork_29 : decode cX6_beginWithWork 29 = .ok (.getfield 28, 3) := sorry
theorem dX6_beginWithWork_32 : decode cX6_beginWithWork 32 = .ok (.aload_n 0, 1) := sorry
theorem dX6_beginWithWork_33 : decode cX6_beginWithWork 33 = .ok (.invokevirtual 95, 3) := sorry
theorem dX6_beginWithWork_36 : decode cX6_beginWithWork 36 = .ok (.invokestatic 138, 3) := sorry
theorem dX6_beginWithWork_39 : decode cX6_beginWithWork 39 = .ok (.aload_n 0, 1) := sorry
theorem dX6_beginWithWork_40 : decode cX6_beginWithWork 40 = .ok (.aload_n 0, 1) := sorry
theorem dX6_beginWithWork_41 : decode cX6_beginWithWork 41 = .ok (.getfield 28, 3) := sorry
theorem dX6_beginWithWork_44 : decode cX6_beginWithWork 44 = .ok (.bipush 54, 2) := sorry
theorem dX6_beginWithWork_46 : decode cX6_beginWithWork 46 = .ok (.invokevirtual 141, 3) := sorry
theorem dX6_beginWithWork_49 : decode cX6_beginWithWork 49 = .ok (.aload_n 0, 1) := sorry
theorem dX6_beginWithWork_50 : decode cX6_beginWithWork 50 = .ok (.getfield 25, 3) := sorry
theorem dX6_beginWithWork_53 : decode cX6_beginWithWork 53 = .ok (.iconst 4, 1) := sorry
theorem dX6_beginWithWork_54 : decode cX6_beginWithWork 54 = .ok (.lconst 0, 1) := sorry
theorem dX6_beginWithWork_55 : decode cX6_beginWithWork 55 = .ok (.lastore, 1) := sorry
theorem dX6_beginWithWork_56 : decode cX6_beginWithWork 56 = .ok (.aload_n 0, 1) := sorry
theorem dX6_beginWithWork_57 : decode cX6_beginWithWork 57 = .ok (.getfield 25, 3) := sorry
theorem dX6_beginWithWork_60 : decode cX6_beginWithWork 60 = .ok (.iconst 5, 1) := sorry
theorem dX6_beginWithWork_61 : decode cX6_beginWithWork 61 = .ok (.lconst 0, 1) := sorry
theorem dX6_beginWithWork_62 : decode cX6_beginWithWork 62 = .ok (.lastore, 1) := sorry
theorem dX6_beginWithWork_63 : decode cX6_beginWithWork 63 = .ok (.aload_n 0, 1) := sorry
theorem dX6_beginWithWork_64 : decode cX6_beginWithWork 64 = .ok (.getfield 25, 3) := sorry
theorem dX6_beginWithWork_67 : decode cX6_beginWithWork 67 = .ok (.bipush 10, 2) := sorry
theorem dX6_beginWithWork_69 : decode cX6_beginWithWork 69 = .ok (.dup2, 1) := sorry
theorem dX6_beginWithWork_70 : decode cX6_beginWithWork 70 = .ok (.laload, 1) := sorry
theorem dX6_beginWithWork_71 : decode cX6_beginWithWork 71 = .ok (.lconst 1, 1) := sorry
theorem dX6_beginWithWork_72 : decode cX6_beginWithWork 72 = .ok (.ladd, 1) := sorry
theorem dX6_beginWithWork_73 : decode cX6_beginWithWork 73 = .ok (.lastore, 1) := sorry
theorem dX6_beginWithWork_74 : decode cX6_beginWithWork 74 = .ok (.iconst 1, 1) := sorry
theorem dX6_beginWithWork_75 : decode cX6_beginWithWork 75 = .ok (.ireturn, 1) := sorry
abbrev cX6_removeLocked : ByteArray := prog_17_method_19_code
def yX6_removeLocked : MethodName := ⟨RX6, "removeLocked", "([J)V"⟩
def dkwX6_removeLocked_1 : List UInt8 := [182, 0, 130, 132, 2, 1, 167, 255, 230, 177]
abbrev dktX6_removeLocked_1 : List UInt8 := dkwX6_removeLocked_1 ++ []
def dkwX6_removeLocked_0 : List UInt8 := [3, 61, 28, 42, 182, 0, 123, 162, 0, 24, 42, 43, 42, 180, 0, 25, 28, 184, 0, 126, 5, 96]
abbrev dktX6_removeLocked_0 : List UInt8 := dkwX6_removeLocked_0 ++ dktX6_removeLocked_1
theorem dksX6_removeLocked_0 : cX6_removeLocked.data.toList.drop 0 = dktX6_removeLocked_0 := sorry
theorem dksX6_removeLocked_1 : cX6_removeLocked.data.toList.drop 22 = dktX6_removeLocked_1 := sorry
theorem dX6_removeLocked_0 : decode cX6_removeLocked 0 = .ok (.iconst 0, 1) := sorry
theorem dX6_removeLocked_1 : decode cX6_removeLocked 1 = .ok (.istore_n 2, 1) := sorry
theorem dX6_removeLocked_2 : decode cX6_removeLocked 2 = .ok (.iload_n 2, 1) := sorry
theorem dX6_removeLocked_3 : decode cX6_removeLocked 3 = .ok (.aload_n 0, 1) := sorry
theorem dX6_removeLocked_4 : decode cX6_removeLocked 4 = .ok (.invokevirtual 123, 3) := sorry
theorem dX6_removeLocked_7 : decode cX6_removeLocked 7 = .ok (.if_icmp .ge 24, 3) := sorry
theorem dX6_removeLocked_10 : decode cX6_removeLocked 10 = .ok (.aload_n 0, 1) := sorry
theorem dX6_removeLocked_11 : decode cX6_removeLocked 11 = .ok (.aload_n 1, 1) := sorry
theorem dX6_removeLocked_12 : decode cX6_removeLocked 12 = .ok (.aload_n 0, 1) := sorry
theorem dX6_removeLocked_13 : decode cX6_removeLocked 13 = .ok (.getfield 25, 3) := sorry
theorem dX6_removeLocked_16 : decode cX6_removeLocked 16 = .ok (.iload_n 2, 1) := sorry
theorem dX6_removeLocked_17 : decode cX6_removeLocked 17 = .ok (.invokestatic 126, 3) := sorry
theorem dX6_removeLocked_20 : decode cX6_removeLocked 20 = .ok (.iconst 2, 1) := sorry
theorem dX6_removeLocked_21 : decode cX6_removeLocked 21 = .ok (.iadd, 1) := sorry
theorem dX6_removeLocked_22 : decode cX6_removeLocked 22 = .ok (.invokevirtual 130, 3) := sorry
theorem dX6_removeLocked_25 : decode cX6_removeLocked 25 = .ok (.iinc 2 1, 3) := sorry
theorem dX6_removeLocked_28 : decode cX6_removeLocked 28 = .ok (.goto (-26), 3) := sorry
theorem dX6_removeLocked_31 : decode cX6_removeLocked 31 = .ok (.return_, 1) := sorry
abbrev cX6_lockedNow : ByteArray := prog_17_method_8_code
def yX6_lockedNow : MethodName := ⟨RX6, "lockedNow", "()I"⟩
def dkwX6_lockedNow_0 : List UInt8 := [42, 180, 0, 25, 16, 6, 47, 136, 172]
abbrev dktX6_lockedNow_0 : List UInt8 := dkwX6_lockedNow_0 ++ []
theorem dksX6_lockedNow_0 : cX6_lockedNow.data.toList.drop 0 = dktX6_lockedNow_0 := sorry
theorem dX6_lockedNow_0 : decode cX6_lockedNow 0 = .ok (.aload_n 0, 1) := sorry
theorem dX6_lockedNow_1 : decode cX6_lockedNow 1 = .ok (.getfield 25, 3) := sorry
theorem dX6_lockedNow_4 : decode cX6_lockedNow 4 = .ok (.bipush 6, 2) := sorry
theorem dX6_lockedNow_6 : decode cX6_lockedNow 6 = .ok (.laload, 1) := sorry
theorem dX6_lockedNow_7 : decode cX6_lockedNow 7 = .ok (.l2i, 1) := sorry
theorem dX6_lockedNow_8 : decode cX6_lockedNow 8 = .ok (.ireturn, 1) := sorry
abbrev cX6_lockAt : ByteArray := prog_17_method_17_code
def yX6_lockAt : MethodName := ⟨RX6, "lockAt", "(I)I"⟩
def dkwX6_lockAt_0 : List UInt8 := [17, 0, 157, 16, 8, 26, 104, 96, 172]
abbrev dktX6_lockAt_0 : List UInt8 := dkwX6_lockAt_0 ++ []
theorem dksX6_lockAt_0 : cX6_lockAt.data.toList.drop 0 = dktX6_lockAt_0 := sorry
theorem dX6_lockAt_0 : decode cX6_lockAt 0 = .ok (.sipush 157, 3) := sorry
theorem dX6_lockAt_3 : decode cX6_lockAt 3 = .ok (.bipush 8, 2) := sorry
theorem dX6_lockAt_5 : decode cX6_lockAt 5 = .ok (.iload_n 0, 1) := sorry
theorem dX6_lockAt_6 : decode cX6_lockAt 6 = .ok (.imul, 1) := sorry
theorem dX6_lockAt_7 : decode cX6_lockAt 7 = .ok (.iadd, 1) := sorry
theorem dX6_lockAt_8 : decode cX6_lockAt 8 = .ok (.ireturn, 1) := sorry
abbrev cX6_remove : ByteArray := prog_17_method_16_code
def yX6_remove : MethodName := ⟨RX6, "remove", "([J[JI)V"⟩
def dkwX6_remove_0 : List UInt8 := [42, 43, 42, 43, 3, 44, 29, 182, 0, 115, 44, 29, 182, 0, 119, 177]
abbrev dktX6_remove_0 : List UInt8 := dkwX6_remove_0 ++ []
theorem dksX6_remove_0 : cX6_remove.data.toList.drop 0 = dktX6_remove_0 := sorry
theorem dX6_remove_0 : decode cX6_remove 0 = .ok (.aload_n 0, 1) := sorry
theorem dX6_remove_1 : decode cX6_remove 1 = .ok (.aload_n 1, 1) := sorry
theorem dX6_remove_2 : decode cX6_remove 2 = .ok (.aload_n 0, 1) := sorry
theorem dX6_remove_3 : decode cX6_remove 3 = .ok (.aload_n 1, 1) := sorry
theorem dX6_remove_4 : decode cX6_remove 4 = .ok (.iconst 0, 1) := sorry
theorem dX6_remove_5 : decode cX6_remove 5 = .ok (.aload_n 2, 1) := sorry
theorem dX6_remove_6 : decode cX6_remove 6 = .ok (.iload_n 3, 1) := sorry
theorem dX6_remove_7 : decode cX6_remove 7 = .ok (.invokevirtual 115, 3) := sorry
theorem dX6_remove_10 : decode cX6_remove 10 = .ok (.aload_n 2, 1) := sorry
theorem dX6_remove_11 : decode cX6_remove 11 = .ok (.iload_n 3, 1) := sorry
theorem dX6_remove_12 : decode cX6_remove 12 = .ok (.invokevirtual 119, 3) := sorry
theorem dX6_remove_15 : decode cX6_remove 15 = .ok (.return_, 1) := sorry
abbrev cX6_dot : ByteArray := prog_17_method_11_code
def yX6_dot : MethodName := ⟨RX6, "dot", "([JI[JI)J"⟩
def dkwX6_dot_2 : List UInt8 := [173]
abbrev dktX6_dot_2 : List UInt8 := dkwX6_dot_2 ++ []
def dkwX6_dot_1 : List UInt8 := [21, 4, 21, 7, 96, 47, 105, 97, 55, 5, 132, 7, 1, 167, 255, 225, 22, 5, 20, 0, 97, 184, 0, 99]
abbrev dktX6_dot_1 : List UInt8 := dkwX6_dot_1 ++ dktX6_dot_2
def dkwX6_dot_0 : List UInt8 := [9, 55, 5, 3, 54, 7, 21, 7, 42, 182, 0, 95, 162, 0, 28, 22, 5, 43, 28, 21, 7, 96, 47, 45]
abbrev dktX6_dot_0 : List UInt8 := dkwX6_dot_0 ++ dktX6_dot_1
theorem dksX6_dot_0 : cX6_dot.data.toList.drop 0 = dktX6_dot_0 := sorry
theorem dksX6_dot_1 : cX6_dot.data.toList.drop 24 = dktX6_dot_1 := sorry
theorem dksX6_dot_2 : cX6_dot.data.toList.drop 48 = dktX6_dot_2 := sorry
theorem dX6_dot_0 : decode cX6_dot 0 = .ok (.lconst 0, 1) := sorry
theorem dX6_dot_1 : decode cX6_dot 1 = .ok (.lstore 5, 2) := sorry
theorem dX6_dot_3 : decode cX6_dot 3 = .ok (.iconst 0, 1) := sorry
theorem dX6_dot_4 : decode cX6_dot 4 = .ok (.istore 7, 2) := sorry
theorem dX6_dot_6 : decode cX6_dot 6 = .ok (.iload 7, 2) := sorry
theorem dX6_dot_8 : decode cX6_dot 8 = .ok (.aload_n 0, 1) := sorry
theorem dX6_dot_9 : decode cX6_dot 9 = .ok (.invokevirtual 95, 3) := sorry
theorem dX6_dot_12 : decode cX6_dot 12 = .ok (.if_icmp .ge 28, 3) := sorry
theorem dX6_dot_15 : decode cX6_dot 15 = .ok (.lload 5, 2) := sorry
theorem dX6_dot_17 : decode cX6_dot 17 = .ok (.aload_n 1, 1) := sorry
theorem dX6_dot_18 : decode cX6_dot 18 = .ok (.iload_n 2, 1) := sorry
theorem dX6_dot_19 : decode cX6_dot 19 = .ok (.iload 7, 2) := sorry
theorem dX6_dot_21 : decode cX6_dot 21 = .ok (.iadd, 1) := sorry
theorem dX6_dot_22 : decode cX6_dot 22 = .ok (.laload, 1) := sorry
theorem dX6_dot_23 : decode cX6_dot 23 = .ok (.aload_n 3, 1) := sorry
theorem dX6_dot_24 : decode cX6_dot 24 = .ok (.iload 4, 2) := sorry
theorem dX6_dot_26 : decode cX6_dot 26 = .ok (.iload 7, 2) := sorry
theorem dX6_dot_28 : decode cX6_dot 28 = .ok (.iadd, 1) := sorry
theorem dX6_dot_29 : decode cX6_dot 29 = .ok (.laload, 1) := sorry
theorem dX6_dot_30 : decode cX6_dot 30 = .ok (.lmul, 1) := sorry
theorem dX6_dot_31 : decode cX6_dot 31 = .ok (.ladd, 1) := sorry
theorem dX6_dot_32 : decode cX6_dot 32 = .ok (.lstore 5, 2) := sorry
theorem dX6_dot_34 : decode cX6_dot 34 = .ok (.iinc 7 1, 3) := sorry
theorem dX6_dot_37 : decode cX6_dot 37 = .ok (.goto (-31), 3) := sorry
theorem dX6_dot_40 : decode cX6_dot 40 = .ok (.lload 5, 2) := sorry
theorem dX6_dot_42 : decode cX6_dot 42 = .ok (.ldc2_w 97, 3) := sorry
theorem dX6_dot_45 : decode cX6_dot 45 = .ok (.invokestatic 99, 3) := sorry
theorem dX6_dot_48 : decode cX6_dot 48 = .ok (.lreturn, 1) := sorry
abbrev cX6_floor : ByteArray := prog_17_method_10_code
def yX6_floor : MethodName := ⟨RX6, "floor", "(JJ)J"⟩
def dkwX6_floor_2 : List UInt8 := [173]
abbrev dktX6_floor_2 : List UInt8 := dkwX6_floor_2 ++ []
def dkwX6_floor_1 : List UInt8 := [3, 32, 9, 148, 156, 0, 7, 4, 167, 0, 4, 3, 159, 0, 10, 22, 4, 10, 101, 167, 0, 5, 22, 4]
abbrev dktX6_floor_1 : List UInt8 := dkwX6_floor_1 ++ dktX6_floor_2
def dkwX6_floor_0 : List UInt8 := [30, 32, 109, 55, 4, 22, 4, 32, 105, 30, 148, 153, 0, 35, 30, 9, 148, 156, 0, 7, 4, 167, 0, 4]
abbrev dktX6_floor_0 : List UInt8 := dkwX6_floor_0 ++ dktX6_floor_1
theorem dksX6_floor_0 : cX6_floor.data.toList.drop 0 = dktX6_floor_0 := sorry
theorem dksX6_floor_1 : cX6_floor.data.toList.drop 24 = dktX6_floor_1 := sorry
theorem dksX6_floor_2 : cX6_floor.data.toList.drop 48 = dktX6_floor_2 := sorry
theorem dX6_floor_0 : decode cX6_floor 0 = .ok (.lload_n 0, 1) := sorry
theorem dX6_floor_1 : decode cX6_floor 1 = .ok (.lload_n 2, 1) := sorry
theorem dX6_floor_2 : decode cX6_floor 2 = .ok (.ldiv, 1) := sorry
theorem dX6_floor_3 : decode cX6_floor 3 = .ok (.lstore 4, 2) := sorry
theorem dX6_floor_5 : decode cX6_floor 5 = .ok (.lload 4, 2) := sorry
theorem dX6_floor_7 : decode cX6_floor 7 = .ok (.lload_n 2, 1) := sorry
theorem dX6_floor_8 : decode cX6_floor 8 = .ok (.lmul, 1) := sorry
theorem dX6_floor_9 : decode cX6_floor 9 = .ok (.lload_n 0, 1) := sorry
theorem dX6_floor_10 : decode cX6_floor 10 = .ok (.lcmp, 1) := sorry
theorem dX6_floor_11 : decode cX6_floor 11 = .ok (.ifCond .eq 35, 3) := sorry
theorem dX6_floor_14 : decode cX6_floor 14 = .ok (.lload_n 0, 1) := sorry
theorem dX6_floor_15 : decode cX6_floor 15 = .ok (.lconst 0, 1) := sorry
theorem dX6_floor_16 : decode cX6_floor 16 = .ok (.lcmp, 1) := sorry
theorem dX6_floor_17 : decode cX6_floor 17 = .ok (.ifCond .ge 7, 3) := sorry
theorem dX6_floor_20 : decode cX6_floor 20 = .ok (.iconst 1, 1) := sorry
theorem dX6_floor_21 : decode cX6_floor 21 = .ok (.goto 4, 3) := sorry
theorem dX6_floor_24 : decode cX6_floor 24 = .ok (.iconst 0, 1) := sorry
theorem dX6_floor_25 : decode cX6_floor 25 = .ok (.lload_n 2, 1) := sorry
theorem dX6_floor_26 : decode cX6_floor 26 = .ok (.lconst 0, 1) := sorry
theorem dX6_floor_27 : decode cX6_floor 27 = .ok (.lcmp, 1) := sorry
theorem dX6_floor_28 : decode cX6_floor 28 = .ok (.ifCond .ge 7, 3) := sorry
theorem dX6_floor_31 : decode cX6_floor 31 = .ok (.iconst 1, 1) := sorry
theorem dX6_floor_32 : decode cX6_floor 32 = .ok (.goto 4, 3) := sorry
theorem dX6_floor_35 : decode cX6_floor 35 = .ok (.iconst 0, 1) := sorry
theorem dX6_floor_36 : decode cX6_floor 36 = .ok (.if_icmp .eq 10, 3) := sorry
theorem dX6_floor_39 : decode cX6_floor 39 = .ok (.lload 4, 2) := sorry
theorem dX6_floor_41 : decode cX6_floor 41 = .ok (.lconst 1, 1) := sorry
theorem dX6_floor_42 : decode cX6_floor 42 = .ok (.lsub, 1) := sorry
theorem dX6_floor_43 : decode cX6_floor 43 = .ok (.goto 5, 3) := sorry
theorem dX6_floor_46 : decode cX6_floor 46 = .ok (.lload 4, 2) := sorry
theorem dX6_floor_48 : decode cX6_floor 48 = .ok (.lreturn, 1) := sorry
abbrev cX6_takeOff : ByteArray := prog_17_method_15_code
def yX6_takeOff : MethodName := ⟨RX6, "takeOff", "([JJ[JI)V"⟩
def dkwX6_takeOff_1 : List UInt8 := [96, 47, 105, 20, 0, 97, 184, 0, 99, 101, 80, 132, 6, 1, 167, 255, 221, 177]
abbrev dktX6_takeOff_1 : List UInt8 := dkwX6_takeOff_1 ++ []
def dkwX6_takeOff_0 : List UInt8 := [3, 54, 6, 21, 6, 42, 182, 0, 95, 162, 0, 32, 43, 21, 6, 92, 47, 32, 25, 4, 21, 5, 21, 6]
abbrev dktX6_takeOff_0 : List UInt8 := dkwX6_takeOff_0 ++ dktX6_takeOff_1
theorem dksX6_takeOff_0 : cX6_takeOff.data.toList.drop 0 = dktX6_takeOff_0 := sorry
theorem dksX6_takeOff_1 : cX6_takeOff.data.toList.drop 24 = dktX6_takeOff_1 := sorry
theorem dX6_takeOff_0 : decode cX6_takeOff 0 = .ok (.iconst 0, 1) := sorry
theorem dX6_takeOff_1 : decode cX6_takeOff 1 = .ok (.istore 6, 2) := sorry
theorem dX6_takeOff_3 : decode cX6_takeOff 3 = .ok (.iload 6, 2) := sorry
theorem dX6_takeOff_5 : decode cX6_takeOff 5 = .ok (.aload_n 0, 1) := sorry
theorem dX6_takeOff_6 : decode cX6_takeOff 6 = .ok (.invokevirtual 95, 3) := sorry
theorem dX6_takeOff_9 : decode cX6_takeOff 9 = .ok (.if_icmp .ge 32, 3) := sorry
theorem dX6_takeOff_12 : decode cX6_takeOff 12 = .ok (.aload_n 1, 1) := sorry
theorem dX6_takeOff_13 : decode cX6_takeOff 13 = .ok (.iload 6, 2) := sorry
theorem dX6_takeOff_15 : decode cX6_takeOff 15 = .ok (.dup2, 1) := sorry
theorem dX6_takeOff_16 : decode cX6_takeOff 16 = .ok (.laload, 1) := sorry
theorem dX6_takeOff_17 : decode cX6_takeOff 17 = .ok (.lload_n 2, 1) := sorry
theorem dX6_takeOff_18 : decode cX6_takeOff 18 = .ok (.aload 4, 2) := sorry
theorem dX6_takeOff_20 : decode cX6_takeOff 20 = .ok (.iload 5, 2) := sorry
theorem dX6_takeOff_22 : decode cX6_takeOff 22 = .ok (.iload 6, 2) := sorry
theorem dX6_takeOff_24 : decode cX6_takeOff 24 = .ok (.iadd, 1) := sorry
theorem dX6_takeOff_25 : decode cX6_takeOff 25 = .ok (.laload, 1) := sorry
theorem dX6_takeOff_26 : decode cX6_takeOff 26 = .ok (.lmul, 1) := sorry
theorem dX6_takeOff_27 : decode cX6_takeOff 27 = .ok (.ldc2_w 97, 3) := sorry
theorem dX6_takeOff_30 : decode cX6_takeOff 30 = .ok (.invokestatic 99, 3) := sorry
theorem dX6_takeOff_33 : decode cX6_takeOff 33 = .ok (.lsub, 1) := sorry
theorem dX6_takeOff_34 : decode cX6_takeOff 34 = .ok (.lastore, 1) := sorry
theorem dX6_takeOff_35 : decode cX6_takeOff 35 = .ok (.iinc 6 1, 3) := sorry
theorem dX6_takeOff_38 : decode cX6_takeOff 38 = .ok (.goto (-35), 3) := sorry
theorem dX6_takeOff_41 : decode cX6_takeOff 41 = .ok (.return_, 1) := sorry
abbrev cX6_norm : ByteArray := prog_17_method_13_code
def yX6_norm : MethodName := ⟨RX6, "norm", "([JI)J"⟩
def dkwX6_norm_1 : List UInt8 := [132, 4, 1, 167, 255, 235, 32, 184, 0, 107, 173]
abbrev dktX6_norm_1 : List UInt8 := dkwX6_norm_1 ++ []
def dkwX6_norm_0 : List UInt8 := [9, 65, 3, 54, 4, 21, 4, 27, 162, 0, 21, 32, 42, 21, 4, 47, 42, 21, 4, 47, 105, 97, 65]
abbrev dktX6_norm_0 : List UInt8 := dkwX6_norm_0 ++ dktX6_norm_1
theorem dksX6_norm_0 : cX6_norm.data.toList.drop 0 = dktX6_norm_0 := sorry
theorem dksX6_norm_1 : cX6_norm.data.toList.drop 23 = dktX6_norm_1 := sorry
theorem dX6_norm_0 : decode cX6_norm 0 = .ok (.lconst 0, 1) := sorry
theorem dX6_norm_1 : decode cX6_norm 1 = .ok (.lstore_n 2, 1) := sorry
theorem dX6_norm_2 : decode cX6_norm 2 = .ok (.iconst 0, 1) := sorry
theorem dX6_norm_3 : decode cX6_norm 3 = .ok (.istore 4, 2) := sorry
theorem dX6_norm_5 : decode cX6_norm 5 = .ok (.iload 4, 2) := sorry
theorem dX6_norm_7 : decode cX6_norm 7 = .ok (.iload_n 1, 1) := sorry
theorem dX6_norm_8 : decode cX6_norm 8 = .ok (.if_icmp .ge 21, 3) := sorry
theorem dX6_norm_11 : decode cX6_norm 11 = .ok (.lload_n 2, 1) := sorry
theorem dX6_norm_12 : decode cX6_norm 12 = .ok (.aload_n 0, 1) := sorry
theorem dX6_norm_13 : decode cX6_norm 13 = .ok (.iload 4, 2) := sorry
theorem dX6_norm_15 : decode cX6_norm 15 = .ok (.laload, 1) := sorry
theorem dX6_norm_16 : decode cX6_norm 16 = .ok (.aload_n 0, 1) := sorry
theorem dX6_norm_17 : decode cX6_norm 17 = .ok (.iload 4, 2) := sorry
theorem dX6_norm_19 : decode cX6_norm 19 = .ok (.laload, 1) := sorry
theorem dX6_norm_20 : decode cX6_norm 20 = .ok (.lmul, 1) := sorry
theorem dX6_norm_21 : decode cX6_norm 21 = .ok (.ladd, 1) := sorry
theorem dX6_norm_22 : decode cX6_norm 22 = .ok (.lstore_n 2, 1) := sorry
theorem dX6_norm_23 : decode cX6_norm 23 = .ok (.iinc 4 1, 3) := sorry
theorem dX6_norm_26 : decode cX6_norm 26 = .ok (.goto (-21), 3) := sorry
theorem dX6_norm_29 : decode cX6_norm 29 = .ok (.lload_n 2, 1) := sorry
theorem dX6_norm_30 : decode cX6_norm 30 = .ok (.invokestatic 107, 3) := sorry
theorem dX6_norm_33 : decode cX6_norm 33 = .ok (.lreturn, 1) := sorry
abbrev cX6_root : ByteArray := prog_17_method_12_code
def yX6_root : MethodName := ⟨RX6, "root", "(J)J"⟩
def dkwX6_root_2 : List UInt8 := [167, 255, 215, 32, 173]
abbrev dktX6_root_2 : List UInt8 := dkwX6_root_2 ++ []
def dkwX6_root_1 : List UInt8 := [55, 6, 22, 6, 22, 6, 105, 30, 148, 157, 0, 9, 22, 6, 65, 167, 0, 9, 22, 6, 10, 101, 55, 4]
abbrev dktX6_root_1 : List UInt8 := dkwX6_root_1 ++ dktX6_root_2
def dkwX6_root_0 : List UInt8 := [9, 65, 20, 0, 103, 55, 4, 32, 22, 4, 148, 156, 0, 40, 32, 22, 4, 97, 10, 97, 20, 0, 105, 109]
abbrev dktX6_root_0 : List UInt8 := dkwX6_root_0 ++ dktX6_root_1
theorem dksX6_root_0 : cX6_root.data.toList.drop 0 = dktX6_root_0 := sorry
theorem dksX6_root_1 : cX6_root.data.toList.drop 24 = dktX6_root_1 := sorry
theorem dksX6_root_2 : cX6_root.data.toList.drop 48 = dktX6_root_2 := sorry
theorem dX6_root_0 : decode cX6_root 0 = .ok (.lconst 0, 1) := sorry
theorem dX6_root_1 : decode cX6_root 1 = .ok (.lstore_n 2, 1) := sorry
theorem dX6_root_2 : decode cX6_root 2 = .ok (.ldc2_w 103, 3) := sorry
theorem dX6_root_5 : decode cX6_root 5 = .ok (.lstore 4, 2) := sorry
theorem dX6_root_7 : decode cX6_root 7 = .ok (.lload_n 2, 1) := sorry
theorem dX6_root_8 : decode cX6_root 8 = .ok (.lload 4, 2) := sorry
theorem dX6_root_10 : decode cX6_root 10 = .ok (.lcmp, 1) := sorry
theorem dX6_root_11 : decode cX6_root 11 = .ok (.ifCond .ge 40, 3) := sorry
theorem dX6_root_14 : decode cX6_root 14 = .ok (.lload_n 2, 1) := sorry
theorem dX6_root_15 : decode cX6_root 15 = .ok (.lload 4, 2) := sorry
theorem dX6_root_17 : decode cX6_root 17 = .ok (.ladd, 1) := sorry
theorem dX6_root_18 : decode cX6_root 18 = .ok (.lconst 1, 1) := sorry
theorem dX6_root_19 : decode cX6_root 19 = .ok (.ladd, 1) := sorry
theorem dX6_root_20 : decode cX6_root 20 = .ok (.ldc2_w 105, 3) := sorry
theorem dX6_root_23 : decode cX6_root 23 = .ok (.ldiv, 1) := sorry
theorem dX6_root_24 : decode cX6_root 24 = .ok (.lstore 6, 2) := sorry
theorem dX6_root_26 : decode cX6_root 26 = .ok (.lload 6, 2) := sorry
theorem dX6_root_28 : decode cX6_root 28 = .ok (.lload 6, 2) := sorry
theorem dX6_root_30 : decode cX6_root 30 = .ok (.lmul, 1) := sorry
theorem dX6_root_31 : decode cX6_root 31 = .ok (.lload_n 0, 1) := sorry
theorem dX6_root_32 : decode cX6_root 32 = .ok (.lcmp, 1) := sorry
theorem dX6_root_33 : decode cX6_root 33 = .ok (.ifCond .gt 9, 3) := sorry
theorem dX6_root_36 : decode cX6_root 36 = .ok (.lload 6, 2) := sorry
theorem dX6_root_38 : decode cX6_root 38 = .ok (.lstore_n 2, 1) := sorry
theorem dX6_root_39 : decode cX6_root 39 = .ok (.goto 9, 3) := sorry
theorem dX6_root_42 : decode cX6_root 42 = .ok (.lload 6, 2) := sorry
theorem dX6_root_44 : decode cX6_root 44 = .ok (.lconst 1, 1) := sorry
theorem dX6_root_45 : decode cX6_root 45 = .ok (.lsub, 1) := sorry
theorem dX6_root_46 : decode cX6_root 46 = .ok (.lstore 4, 2) := sorry
theorem dX6_root_48 : decode cX6_root 48 = .ok (.goto (-41), 3) := sorry
theorem dX6_root_51 : decode cX6_root 51 = .ok (.lload_n 2, 1) := sorry
theorem dX6_root_52 : decode cX6_root 52 = .ok (.lreturn, 1) := sorry
abbrev cX6_makeUnit : ByteArray := prog_17_method_14_code
def yX6_makeUnit : MethodName := ⟨RX6, "makeUnit", "([JI)V"⟩
def dkwX6_makeUnit_1 : List UInt8 := [42, 21, 4, 47, 20, 0, 97, 105, 32, 184, 0, 99, 80, 132, 4, 1, 167, 255, 225, 177]
abbrev dktX6_makeUnit_1 : List UInt8 := dkwX6_makeUnit_1 ++ []
def dkwX6_makeUnit_0 : List UInt8 := [42, 27, 184, 0, 111, 65, 3, 54, 4, 21, 4, 27, 162, 0, 31, 32, 9, 148, 158, 0, 25, 42, 21, 4]
abbrev dktX6_makeUnit_0 : List UInt8 := dkwX6_makeUnit_0 ++ dktX6_makeUnit_1
theorem dksX6_makeUnit_0 : cX6_makeUnit.data.toList.drop 0 = dktX6_makeUnit_0 := sorry
theorem dksX6_makeUnit_1 : cX6_makeUnit.data.toList.drop 24 = dktX6_makeUnit_1 := sorry
theorem dX6_makeUnit_0 : decode cX6_makeUnit 0 = .ok (.aload_n 0, 1) := sorry
theorem dX6_makeUnit_1 : decode cX6_makeUnit 1 = .ok (.iload_n 1, 1) := sorry
theorem dX6_makeUnit_2 : decode cX6_makeUnit 2 = .ok (.invokestatic 111, 3) := sorry
theorem dX6_makeUnit_5 : decode cX6_makeUnit 5 = .ok (.lstore_n 2, 1) := sorry
theorem dX6_makeUnit_6 : decode cX6_makeUnit 6 = .ok (.iconst 0, 1) := sorry
theorem dX6_makeUnit_7 : decode cX6_makeUnit 7 = .ok (.istore 4, 2) := sorry
theorem dX6_makeUnit_9 : decode cX6_makeUnit 9 = .ok (.iload 4, 2) := sorry
theorem dX6_makeUnit_11 : decode cX6_makeUnit 11 = .ok (.iload_n 1, 1) := sorry
theorem dX6_makeUnit_12 : decode cX6_makeUnit 12 = .ok (.if_icmp .ge 31, 3) := sorry
theorem dX6_makeUnit_15 : decode cX6_makeUnit 15 = .ok (.lload_n 2, 1) := sorry
theorem dX6_makeUnit_16 : decode cX6_makeUnit 16 = .ok (.lconst 0, 1) := sorry
theorem dX6_makeUnit_17 : decode cX6_makeUnit 17 = .ok (.lcmp, 1) := sorry
theorem dX6_makeUnit_18 : decode cX6_makeUnit 18 = .ok (.ifCond .le 25, 3) := sorry
theorem dX6_makeUnit_21 : decode cX6_makeUnit 21 = .ok (.aload_n 0, 1) := sorry
theorem dX6_makeUnit_22 : decode cX6_makeUnit 22 = .ok (.iload 4, 2) := sorry
theorem dX6_makeUnit_24 : decode cX6_makeUnit 24 = .ok (.aload_n 0, 1) := sorry
theorem dX6_makeUnit_25 : decode cX6_makeUnit 25 = .ok (.iload 4, 2) := sorry
theorem dX6_makeUnit_27 : decode cX6_makeUnit 27 = .ok (.laload, 1) := sorry
theorem dX6_makeUnit_28 : decode cX6_makeUnit 28 = .ok (.ldc2_w 97, 3) := sorry
theorem dX6_makeUnit_31 : decode cX6_makeUnit 31 = .ok (.lmul, 1) := sorry
theorem dX6_makeUnit_32 : decode cX6_makeUnit 32 = .ok (.lload_n 2, 1) := sorry
theorem dX6_makeUnit_33 : decode cX6_makeUnit 33 = .ok (.invokestatic 99, 3) := sorry
theorem dX6_makeUnit_36 : decode cX6_makeUnit 36 = .ok (.lastore, 1) := sorry
theorem dX6_makeUnit_37 : decode cX6_makeUnit 37 = .ok (.iinc 4 1, 3) := sorry
theorem dX6_makeUnit_40 : decode cX6_makeUnit 40 = .ok (.goto (-31), 3) := sorry
theorem dX6_makeUnit_43 : decode cX6_makeUnit 43 = .ok (.return_, 1) := sorry
abbrev cX6_put : ByteArray := prog_17_method_21_code
def yX6_put : MethodName := ⟨RX6, "put", "([JI)V"⟩
def dkwX6_put_1 : List UInt8 := [167, 255, 234, 177]
abbrev dktX6_put_1 : List UInt8 := dkwX6_put_1 ++ []
def dkwX6_put_0 : List UInt8 := [3, 62, 29, 42, 182, 0, 95, 162, 0, 20, 42, 180, 0, 25, 28, 29, 96, 43, 29, 47, 80, 132, 3, 1]
abbrev dktX6_put_0 : List UInt8 := dkwX6_put_0 ++ dktX6_put_1
theorem dksX6_put_0 : cX6_put.data.toList.drop 0 = dktX6_put_0 := sorry
theorem dksX6_put_1 : cX6_put.data.toList.drop 24 = dktX6_put_1 := sorry
theorem dX6_put_0 : decode cX6_put 0 = .ok (.iconst 0, 1) := sorry
theorem dX6_put_1 : decode cX6_put 1 = .ok (.istore_n 3, 1) := sorry
theorem dX6_put_2 : decode cX6_put 2 = .ok (.iload_n 3, 1) := sorry
theorem dX6_put_3 : decode cX6_put 3 = .ok (.aload_n 0, 1) := sorry
theorem dX6_put_4 : decode cX6_put 4 = .ok (.invokevirtual 95, 3) := sorry
theorem dX6_put_7 : decode cX6_put 7 = .ok (.if_icmp .ge 20, 3) := sorry
theorem dX6_put_10 : decode cX6_put 10 = .ok (.aload_n 0, 1) := sorry
theorem dX6_put_11 : decode cX6_put 11 = .ok (.getfield 25, 3) := sorry
theorem dX6_put_14 : decode cX6_put 14 = .ok (.iload_n 2, 1) := sorry
theorem dX6_put_15 : decode cX6_put 15 = .ok (.iload_n 3, 1) := sorry
theorem dX6_put_16 : decode cX6_put 16 = .ok (.iadd, 1) := sorry
theorem dX6_put_17 : decode cX6_put 17 = .ok (.aload_n 1, 1) := sorry
theorem dX6_put_18 : decode cX6_put 18 = .ok (.iload_n 3, 1) := sorry
theorem dX6_put_19 : decode cX6_put 19 = .ok (.laload, 1) := sorry
theorem dX6_put_20 : decode cX6_put 20 = .ok (.lastore, 1) := sorry
theorem dX6_put_21 : decode cX6_put 21 = .ok (.iinc 3 1, 3) := sorry
theorem dX6_put_24 : decode cX6_put 24 = .ok (.goto (-22), 3) := sorry
theorem dX6_put_27 : decode cX6_put 27 = .ok (.return_, 1) := sorry
abbrev cX6_thrown : ByteArray := prog_17_method_2_code
def yX6_thrown : MethodName := ⟨RX6, "thrown", "()I"⟩
theorem dX6_thrown_0 : decode cX6_thrown 0 = .ok (.aload_n 0, 1) := sorry
theorem dX6_thrown_1 : decode cX6_thrown 1 = .ok (.getfield 84, 3) := sorry
theorem dX6_thrown_4 : decode cX6_thrown 4 = .ok (.ireturn, 1) := sorry
abbrev cX6_order : ByteArray := prog_17_method_42_code
def yX6_order : MethodName := ⟨RX6, "order", "()I"⟩
def dkwX6_order_0 : List UInt8 := [42, 3, 181, 0, 84, 42, 182, 0, 95, 172]
abbrev dktX6_order_0 : List UInt8 := dkwX6_order_0 ++ []
theorem dksX6_order_0 : cX6_order.data.toList.drop 0 = dktX6_order_0 := sorry
theorem dX6_order_0 : decode cX6_order 0 = .ok (.aload_n 0, 1) := sorry
theorem dX6_order_1 : decode cX6_order 1 = .ok (.iconst 0, 1) := sorry
theorem dX6_order_2 : decode cX6_order 2 = .ok (.putfield 84, 3) := sorry
theorem dX6_order_5 : decode cX6_order 5 = .ok (.aload_n 0, 1) := sorry
theorem dX6_order_6 : decode cX6_order 6 = .ok (.invokevirtual 95, 3) := sorry
theorem dX6_order_9 : decode cX6_order 9 = .ok (.ireturn, 1) := sorry
abbrev cX6_entry : ByteArray := prog_17_method_44_code
def yX6_entry : MethodName := ⟨RX6, "entry", "(II)I"⟩
def dkwX6_entry_1 : List UInt8 := [180, 0, 25, 16, 18, 16, 6, 27, 104, 96, 28, 96, 47, 136, 167, 0, 8, 42, 4, 182, 0, 227, 172]
abbrev dktX6_entry_1 : List UInt8 := dkwX6_entry_1 ++ []
def dkwX6_entry_0 : List UInt8 := [42, 3, 181, 0, 84, 42, 27, 182, 0, 224, 153, 0, 29, 42, 28, 182, 0, 224, 153, 0, 21, 42]
abbrev dktX6_entry_0 : List UInt8 := dkwX6_entry_0 ++ dktX6_entry_1
theorem dksX6_entry_0 : cX6_entry.data.toList.drop 0 = dktX6_entry_0 := sorry
theorem dksX6_entry_1 : cX6_entry.data.toList.drop 22 = dktX6_entry_1 := sorry
theorem dX6_entry_0 : decode cX6_entry 0 = .ok (.aload_n 0, 1) := sorry
theorem dX6_entry_1 : decode cX6_entry 1 = .ok (.iconst 0, 1) := sorry
theorem dX6_entry_2 : decode cX6_entry 2 = .ok (.putfield 84, 3) := sorry
theorem dX6_entry_5 : decode cX6_entry 5 = .ok (.aload_n 0, 1) := sorry
theorem dX6_entry_6 : decode cX6_entry 6 = .ok (.iload_n 1, 1) := sorry
theorem dX6_entry_7 : decode cX6_entry 7 = .ok (.invokevirtual 224, 3) := sorry
theorem dX6_entry_10 : decode cX6_entry 10 = .ok (.ifCond .eq 29, 3) := sorry
theorem dX6_entry_13 : decode cX6_entry 13 = .ok (.aload_n 0, 1) := sorry
theorem dX6_entry_14 : decode cX6_entry 14 = .ok (.iload_n 2, 1) := sorry
theorem dX6_entry_15 : decode cX6_entry 15 = .ok (.invokevirtual 224, 3) := sorry
theorem dX6_entry_18 : decode cX6_entry 18 = .ok (.ifCond .eq 21, 3) := sorry
theorem dX6_entry_21 : decode cX6_entry 21 = .ok (.aload_n 0, 1) := sorry
theorem dX6_entry_22 : decode cX6_entry 22 = .ok (.getfield 25, 3) := sorry
theorem dX6_entry_25 : decode cX6_entry 25 = .ok (.bipush 18, 2) := sorry
theorem dX6_entry_27 : decode cX6_entry 27 = .ok (.bipush 6, 2) := sorry
theorem dX6_entry_29 : decode cX6_entry 29 = .ok (.iload_n 1, 1) := sorry
theorem dX6_entry_30 : decode cX6_entry 30 = .ok (.imul, 1) := sorry
theorem dX6_entry_31 : decode cX6_entry 31 = .ok (.iadd, 1) := sorry
theorem dX6_entry_32 : decode cX6_entry 32 = .ok (.iload_n 2, 1) := sorry
theorem dX6_entry_33 : decode cX6_entry 33 = .ok (.iadd, 1) := sorry
theorem dX6_entry_34 : decode cX6_entry 34 = .ok (.laload, 1) := sorry
theorem dX6_entry_35 : decode cX6_entry 35 = .ok (.l2i, 1) := sorry
theorem dX6_entry_36 : decode cX6_entry 36 = .ok (.goto 8, 3) := sorry
theorem dX6_entry_39 : decode cX6_entry 39 = .ok (.aload_n 0, 1) := sorry
theorem dX6_entry_40 : decode cX6_entry 40 = .ok (.iconst 1, 1) := sorry
theorem dX6_entry_41 : decode cX6_entry 41 = .ok (.invokevirtual 227, 3) := sorry
theorem dX6_entry_44 : decode cX6_entry 44 = .ok (.ireturn, 1) := sorry
abbrev cX6_isPlace : ByteArray := prog_17_method_43_code
def yX6_isPlace : MethodName := ⟨RX6, "isPlace", "(I)Z"⟩
def dkwX6_isPlace_0 : List UInt8 := [27, 133, 9, 42, 182, 0, 95, 133, 10, 101, 184, 0, 220, 172]
abbrev dktX6_isPlace_0 : List UInt8 := dkwX6_isPlace_0 ++ []
theorem dksX6_isPlace_0 : cX6_isPlace.data.toList.drop 0 = dktX6_isPlace_0 := sorry
theorem dX6_isPlace_0 : decode cX6_isPlace 0 = .ok (.iload_n 1, 1) := sorry
theorem dX6_isPlace_1 : decode cX6_isPlace 1 = .ok (.i2l, 1) := sorry
theorem dX6_isPlace_2 : decode cX6_isPlace 2 = .ok (.lconst 0, 1) := sorry
theorem dX6_isPlace_3 : decode cX6_isPlace 3 = .ok (.aload_n 0, 1) := sorry
theorem dX6_isPlace_4 : decode cX6_isPlace 4 = .ok (.invokevirtual 95, 3) := sorry
theorem dX6_isPlace_7 : decode cX6_isPlace 7 = .ok (.i2l, 1) := sorry
theorem dX6_isPlace_8 : decode cX6_isPlace 8 = .ok (.lconst 1, 1) := sorry
theorem dX6_isPlace_9 : decode cX6_isPlace 9 = .ok (.lsub, 1) := sorry
theorem dX6_isPlace_10 : decode cX6_isPlace 10 = .ok (.invokestatic 220, 3) := sorry
theorem dX6_isPlace_13 : decode cX6_isPlace 13 = .ok (.ireturn, 1) := sorry
abbrev cX6_inRange : ByteArray := prog_17_method_4_code
def yX6_inRange : MethodName := ⟨RX6, "inRange", "(JJJ)Z"⟩
def dkwX6_inRange_0 : List UInt8 := [30, 32, 148, 155, 0, 14, 30, 22, 4, 148, 157, 0, 7, 4, 167, 0, 4, 3, 172]
abbrev dktX6_inRange_0 : List UInt8 := dkwX6_inRange_0 ++ []
theorem dksX6_inRange_0 : cX6_inRange.data.toList.drop 0 = dktX6_inRange_0 := sorry
theorem dX6_inRange_0 : decode cX6_inRange 0 = .ok (.lload_n 0, 1) := sorry
theorem dX6_inRange_1 : decode cX6_inRange 1 = .ok (.lload_n 2, 1) := sorry
theorem dX6_inRange_2 : decode cX6_inRange 2 = .ok (.lcmp, 1) := sorry
theorem dX6_inRange_3 : decode cX6_inRange 3 = .ok (.ifCond .lt 14, 3) := sorry
theorem dX6_inRange_6 : decode cX6_inRange 6 = .ok (.lload_n 0, 1) := sorry
theorem dX6_inRange_7 : decode cX6_inRange 7 = .ok (.lload 4, 2) := sorry
theorem dX6_inRange_9 : decode cX6_inRange 9 = .ok (.lcmp, 1) := sorry
theorem dX6_inRange_10 : decode cX6_inRange 10 = .ok (.ifCond .gt 7, 3) := sorry
theorem dX6_inRange_13 : decode cX6_inRange 13 = .ok (.iconst 1, 1) := sorry
theorem dX6_inRange_14 : decode cX6_inRange 14 = .ok (.goto 4, 3) := sorry
theorem dX6_inRange_17 : decode cX6_inRange 17 = .ok (.iconst 0, 1) := sorry
theorem dX6_inRange_18 : decode cX6_inRange 18 = .ok (.ireturn, 1) := sorry
abbrev cX6_raise : ByteArray := prog_17_method_3_code
def yX6_raise : MethodName := ⟨RX6, "raise", "(I)I"⟩
def dkwX6_raise_0 : List UInt8 := [42, 27, 181, 0, 84, 3, 172]
abbrev dktX6_raise_0 : List UInt8 := dkwX6_raise_0 ++ []
theorem dksX6_raise_0 : cX6_raise.data.toList.drop 0 = dktX6_raise_0 := sorry
theorem dX6_raise_0 : decode cX6_raise 0 = .ok (.aload_n 0, 1) := sorry
theorem dX6_raise_1 : decode cX6_raise 1 = .ok (.iload_n 1, 1) := sorry
theorem dX6_raise_2 : decode cX6_raise 2 = .ok (.putfield 84, 3) := sorry
theorem dX6_raise_5 : decode cX6_raise 5 = .ok (.iconst 0, 1) := sorry
theorem dX6_raise_6 : decode cX6_raise 6 = .ok (.ireturn, 1) := sorry
abbrev cX6_setting : ByteArray := prog_17_method_45_code
def yX6_setting : MethodName := ⟨RX6, "setting", "(I)I"⟩
def dkwX6_setting_1 : List UInt8 := [47, 136, 167, 0, 8, 42, 4, 182, 0, 227, 172]
abbrev dktX6_setting_1 : List UInt8 := dkwX6_setting_1 ++ []
def dkwX6_setting_0 : List UInt8 := [42, 3, 181, 0, 84, 27, 133, 9, 20, 0, 105, 184, 0, 220, 153, 0, 15, 42, 180, 0, 9, 4, 27, 96]
abbrev dktX6_setting_0 : List UInt8 := dkwX6_setting_0 ++ dktX6_setting_1
theorem dksX6_setting_0 : cX6_setting.data.toList.drop 0 = dktX6_setting_0 := sorry
theorem dksX6_setting_1 : cX6_setting.data.toList.drop 24 = dktX6_setting_1 := sorry
theorem dX6_setting_0 : decode cX6_setting 0 = .ok (.aload_n 0, 1) := sorry
theorem dX6_setting_1 : decode cX6_setting 1 = .ok (.iconst 0, 1) := sorry
theorem dX6_setting_2 : decode cX6_setting 2 = .ok (.putfield 84, 3) := sorry
theorem dX6_setting_5 : decode cX6_setting 5 = .ok (.iload_n 1, 1) := sorry
theorem dX6_setting_6 : decode cX6_setting 6 = .ok (.i2l, 1) := sorry
theorem dX6_setting_7 : decode cX6_setting 7 = .ok (.lconst 0, 1) := sorry
theorem dX6_setting_8 : decode cX6_setting 8 = .ok (.ldc2_w 105, 3) := sorry
theorem dX6_setting_11 : decode cX6_setting 11 = .ok (.invokestatic 220, 3) := sorry
theorem dX6_setting_14 : decode cX6_setting 14 = .ok (.ifCond .eq 15, 3) := sorry
theorem dX6_setting_17 : decode cX6_setting 17 = .ok (.aload_n 0, 1) := sorry
theorem dX6_setting_18 : decode cX6_setting 18 = .ok (.getfield 9, 3) := sorry
theorem dX6_setting_21 : decode cX6_setting 21 = .ok (.iconst 1, 1) := sorry
theorem dX6_setting_22 : decode cX6_setting 22 = .ok (.iload_n 1, 1) := sorry
theorem dX6_setting_23 : decode cX6_setting 23 = .ok (.iadd, 1) := sorry
theorem dX6_setting_24 : decode cX6_setting 24 = .ok (.laload, 1) := sorry
theorem dX6_setting_25 : decode cX6_setting 25 = .ok (.l2i, 1) := sorry
theorem dX6_setting_26 : decode cX6_setting 26 = .ok (.goto 8, 3) := sorry
theorem dX6_setting_29 : decode cX6_setting 29 = .ok (.aload_n 0, 1) := sorry
theorem dX6_setting_30 : decode cX6_setting 30 = .ok (.iconst 1, 1) := sorry
theorem dX6_setting_31 : decode cX6_setting 31 = .ok (.invokevirtual 227, 3) := sorry
theorem dX6_setting_34 : decode cX6_setting 34 = .ok (.ireturn, 1) := sorry
abbrev cX6_steps : ByteArray := prog_17_method_46_code
def yX6_steps : MethodName := ⟨RX6, "steps", "()I"⟩
def dkwX6_steps_0 : List UInt8 := [42, 3, 181, 0, 84, 42, 182, 0, 91, 172]
abbrev dktX6_steps_0 : List UInt8 := dkwX6_steps_0 ++ []
theorem dksX6_steps_0 : cX6_steps.data.toList.drop 0 = dktX6_steps_0 := sorry
theorem dX6_steps_0 : decode cX6_steps 0 = .ok (.aload_n 0, 1) := sorry
theorem dX6_steps_1 : decode cX6_steps 1 = .ok (.iconst 0, 1) := sorry
theorem dX6_steps_2 : decode cX6_steps 2 = .ok (.putfield 84, 3) := sorry
theorem dX6_steps_5 : decode cX6_steps 5 = .ok (.aload_n 0, 1) := sorry
theorem dX6_steps_6 : decode cX6_steps 6 = .ok (.invokevirtual 91, 3) := sorry
theorem dX6_steps_9 : decode cX6_steps 9 = .ok (.ireturn, 1) := sorry
abbrev cX6_steps0 : ByteArray := prog_17_method_7_code
def yX6_steps0 : MethodName := ⟨RX6, "steps0", "()I"⟩
def dkwX6_steps0_0 : List UInt8 := [42, 180, 0, 25, 7, 47, 136, 172]
abbrev dktX6_steps0_0 : List UInt8 := dkwX6_steps0_0 ++ []
theorem dksX6_steps0_0 : cX6_steps0.data.toList.drop 0 = dktX6_steps0_0 := sorry
theorem dX6_steps0_0 : decode cX6_steps0 0 = .ok (.aload_n 0, 1) := sorry
theorem dX6_steps0_1 : decode cX6_steps0 1 = .ok (.getfield 25, 3) := sorry
theorem dX6_steps0_4 : decode cX6_steps0 4 = .ok (.iconst 4, 1) := sorry
theorem dX6_steps0_5 : decode cX6_steps0 5 = .ok (.laload, 1) := sorry
theorem dX6_steps0_6 : decode cX6_steps0 6 = .ok (.l2i, 1) := sorry
theorem dX6_steps0_7 : decode cX6_steps0 7 = .ok (.ireturn, 1) := sorry
abbrev cX6_isClosed : ByteArray := prog_17_method_47_code
def yX6_isClosed : MethodName := ⟨RX6, "isClosed", "()Z"⟩
def dkwX6_isClosed_0 : List UInt8 := [42, 3, 181, 0, 84, 42, 180, 0, 9, 8, 47, 10, 148, 154, 0, 7, 4, 167, 0, 4, 3, 172]
abbrev dktX6_isClosed_0 : List UInt8 := dkwX6_isClosed_0 ++ []
theorem dksX6_isClosed_0 : cX6_isClosed.data.toList.drop 0 = dktX6_isClosed_0 := sorry
theorem dX6_isClosed_0 : decode cX6_isClosed 0 = .ok (.aload_n 0, 1) := sorry
theorem dX6_isClosed_1 : decode cX6_isClosed 1 = .ok (.iconst 0, 1) := sorry
theorem dX6_isClosed_2 : decode cX6_isClosed 2 = .ok (.putfield 84, 3) := sorry
theorem dX6_isClosed_5 : decode cX6_isClosed 5 = .ok (.aload_n 0, 1) := sorry
theorem dX6_isClosed_6 : decode cX6_isClosed 6 = .ok (.getfield 9, 3) := sorry
theorem dX6_isClosed_9 : decode cX6_isClosed 9 = .ok (.iconst 5, 1) := sorry
theorem dX6_isClosed_10 : decode cX6_isClosed 10 = .ok (.laload, 1) := sorry
theorem dX6_isClosed_11 : decode cX6_isClosed 11 = .ok (.lconst 1, 1) := sorry
theorem dX6_isClosed_12 : decode cX6_isClosed 12 = .ok (.lcmp, 1) := sorry
theorem dX6_isClosed_13 : decode cX6_isClosed 13 = .ok (.ifCond .ne 7, 3) := sorry
theorem dX6_isClosed_16 : decode cX6_isClosed 16 = .ok (.iconst 1, 1) := sorry
theorem dX6_isClosed_17 : decode cX6_isClosed 17 = .ok (.goto 4, 3) := sorry
theorem dX6_isClosed_20 : decode cX6_isClosed 20 = .ok (.iconst 0, 1) := sorry
theorem dX6_isClosed_21 : decode cX6_isClosed 21 = .ok (.ireturn, 1) := sorry
abbrev cX6_basis : ByteArray := prog_17_method_49_code
def yX6_basis : MethodName := ⟨RX6, "basis", "(II)I"⟩
def dkwX6_basis_1 : List UInt8 := [180, 0, 9, 27, 184, 0, 169, 28, 96, 47, 136, 167, 0, 8, 42, 4, 182, 0, 227, 172]
abbrev dktX6_basis_1 : List UInt8 := dkwX6_basis_1 ++ []
def dkwX6_basis_0 : List UInt8 := [42, 3, 181, 0, 84, 42, 27, 182, 0, 233, 153, 0, 26, 42, 28, 182, 0, 224, 153, 0, 18, 42]
abbrev dktX6_basis_0 : List UInt8 := dkwX6_basis_0 ++ dktX6_basis_1
theorem dksX6_basis_0 : cX6_basis.data.toList.drop 0 = dktX6_basis_0 := sorry
theorem dksX6_basis_1 : cX6_basis.data.toList.drop 22 = dktX6_basis_1 := sorry
theorem dX6_basis_0 : decode cX6_basis 0 = .ok (.aload_n 0, 1) := sorry
theorem dX6_basis_1 : decode cX6_basis 1 = .ok (.iconst 0, 1) := sorry
theorem dX6_basis_2 : decode cX6_basis 2 = .ok (.putfield 84, 3) := sorry
theorem dX6_basis_5 : decode cX6_basis 5 = .ok (.aload_n 0, 1) := sorry
theorem dX6_basis_6 : decode cX6_basis 6 = .ok (.iload_n 1, 1) := sorry
theorem dX6_basis_7 : decode cX6_basis 7 = .ok (.invokevirtual 233, 3) := sorry
theorem dX6_basis_10 : decode cX6_basis 10 = .ok (.ifCond .eq 26, 3) := sorry
theorem dX6_basis_13 : decode cX6_basis 13 = .ok (.aload_n 0, 1) := sorry
theorem dX6_basis_14 : decode cX6_basis 14 = .ok (.iload_n 2, 1) := sorry
theorem dX6_basis_15 : decode cX6_basis 15 = .ok (.invokevirtual 224, 3) := sorry
theorem dX6_basis_18 : decode cX6_basis 18 = .ok (.ifCond .eq 18, 3) := sorry
theorem dX6_basis_21 : decode cX6_basis 21 = .ok (.aload_n 0, 1) := sorry
theorem dX6_basis_22 : decode cX6_basis 22 = .ok (.getfield 9, 3) := sorry
theorem dX6_basis_25 : decode cX6_basis 25 = .ok (.iload_n 1, 1) := sorry
theorem dX6_basis_26 : decode cX6_basis 26 = .ok (.invokestatic 169, 3) := sorry
theorem dX6_basis_29 : decode cX6_basis 29 = .ok (.iload_n 2, 1) := sorry
theorem dX6_basis_30 : decode cX6_basis 30 = .ok (.iadd, 1) := sorry
theorem dX6_basis_31 : decode cX6_basis 31 = .ok (.laload, 1) := sorry
theorem dX6_basis_32 : decode cX6_basis 32 = .ok (.l2i, 1) := sorry
theorem dX6_basis_33 : decode cX6_basis 33 = .ok (.goto 8, 3) := sorry
theorem dX6_basis_36 : decode cX6_basis 36 = .ok (.aload_n 0, 1) := sorry
theorem dX6_basis_37 : decode cX6_basis 37 = .ok (.iconst 1, 1) := sorry
theorem dX6_basis_38 : decode cX6_basis 38 = .ok (.invokevirtual 227, 3) := sorry
theorem dX6_basis_41 : decode cX6_basis 41 = .ok (.ireturn, 1) := sorry
abbrev cX6_isVector : ByteArray := prog_17_method_48_code
def yX6_isVector : MethodName := ⟨RX6, "isVector", "(I)Z"⟩
def dkwX6_isVector_0 : List UInt8 := [27, 133, 9, 42, 182, 0, 230, 133, 10, 101, 184, 0, 220, 172]
abbrev dktX6_isVector_0 : List UInt8 := dkwX6_isVector_0 ++ []
theorem dksX6_isVector_0 : cX6_isVector.data.toList.drop 0 = dktX6_isVector_0 := sorry
theorem dX6_isVector_0 : decode cX6_isVector 0 = .ok (.iload_n 1, 1) := sorry
theorem dX6_isVector_1 : decode cX6_isVector 1 = .ok (.i2l, 1) := sorry
theorem dX6_isVector_2 : decode cX6_isVector 2 = .ok (.lconst 0, 1) := sorry
theorem dX6_isVector_3 : decode cX6_isVector 3 = .ok (.aload_n 0, 1) := sorry
theorem dX6_isVector_4 : decode cX6_isVector 4 = .ok (.invokevirtual 230, 3) := sorry
theorem dX6_isVector_7 : decode cX6_isVector 7 = .ok (.i2l, 1) := sorry
theorem dX6_isVector_8 : decode cX6_isVector 8 = .ok (.lconst 1, 1) := sorry
theorem dX6_isVector_9 : decode cX6_isVector 9 = .ok (.lsub, 1) := sorry
theorem dX6_isVector_10 : decode cX6_isVector 10 = .ok (.invokestatic 220, 3) := sorry
theorem dX6_isVector_13 : decode cX6_isVector 13 = .ok (.ireturn, 1) := sorry
abbrev cX6_vectors : ByteArray := prog_17_method_9_code
def yX6_vectors : MethodName := ⟨RX6, "vectors", "()I"⟩
def dkwX6_vectors_0 : List UInt8 := [42, 182, 0, 91, 42, 180, 0, 25, 8, 47, 10, 148, 154, 0, 7, 3, 167, 0, 4, 4, 96, 172]
abbrev dktX6_vectors_0 : List UInt8 := dkwX6_vectors_0 ++ []
theorem dksX6_vectors_0 : cX6_vectors.data.toList.drop 0 = dktX6_vectors_0 := sorry
theorem dX6_vectors_0 : decode cX6_vectors 0 = .ok (.aload_n 0, 1) := sorry
theorem dX6_vectors_1 : decode cX6_vectors 1 = .ok (.invokevirtual 91, 3) := sorry
theorem dX6_vectors_4 : decode cX6_vectors 4 = .ok (.aload_n 0, 1) := sorry
theorem dX6_vectors_5 : decode cX6_vectors 5 = .ok (.getfield 25, 3) := sorry
theorem dX6_vectors_8 : decode cX6_vectors 8 = .ok (.iconst 5, 1) := sorry
theorem dX6_vectors_9 : decode cX6_vectors 9 = .ok (.laload, 1) := sorry
theorem dX6_vectors_10 : decode cX6_vectors 10 = .ok (.lconst 1, 1) := sorry
theorem dX6_vectors_11 : decode cX6_vectors 11 = .ok (.lcmp, 1) := sorry
theorem dX6_vectors_12 : decode cX6_vectors 12 = .ok (.ifCond .ne 7, 3) := sorry
theorem dX6_vectors_15 : decode cX6_vectors 15 = .ok (.iconst 0, 1) := sorry
theorem dX6_vectors_16 : decode cX6_vectors 16 = .ok (.goto 4, 3) := sorry
theorem dX6_vectors_19 : decode cX6_vectors 19 = .ok (.iconst 1, 1) := sorry
theorem dX6_vectors_20 : decode cX6_vectors 20 = .ok (.iadd, 1) := sorry
theorem dX6_vectors_21 : decode cX6_vectors 21 = .ok (.ireturn, 1) := sorry
abbrev cX6_basisAt : ByteArray := prog_17_method_18_code
def yX6_basisAt : MethodName := ⟨RX6, "basisAt", "(I)I"⟩
def dkwX6_basisAt_0 : List UInt8 := [16, 54, 16, 6, 26, 104, 96, 172]
abbrev dktX6_basisAt_0 : List UInt8 := dkwX6_basisAt_0 ++ []
theorem dksX6_basisAt_0 : cX6_basisAt.data.toList.drop 0 = dktX6_basisAt_0 := sorry
theorem dX6_basisAt_0 : decode cX6_basisAt 0 = .ok (.bipush 54, 2) := sorry
theorem dX6_basisAt_2 : decode cX6_basisAt 2 = .ok (.bipush 6, 2) := sorry
theorem dX6_basisAt_4 : decode cX6_basisAt 4 = .ok (.iload_n 0, 1) := sorry
theorem dX6_basisAt_5 : decode cX6_basisAt 5 = .ok (.imul, 1) := sorry
theorem dX6_basisAt_6 : decode cX6_basisAt 6 = .ok (.iadd, 1) := sorry
theorem dX6_basisAt_7 : decode cX6_basisAt 7 = .ok (.ireturn, 1) := sorry
abbrev cX6_alpha : ByteArray := prog_17_method_50_code
def yX6_alpha : MethodName := ⟨RX6, "alpha", "(I)I"⟩
def dkwX6_alpha_1 : List UInt8 := [167, 0, 8, 42, 4, 182, 0, 227, 172]
abbrev dktX6_alpha_1 : List UInt8 := dkwX6_alpha_1 ++ []
def dkwX6_alpha_0 : List UInt8 := [42, 3, 181, 0, 84, 42, 27, 182, 0, 236, 153, 0, 16, 42, 180, 0, 9, 16, 96, 27, 96, 47, 136]
abbrev dktX6_alpha_0 : List UInt8 := dkwX6_alpha_0 ++ dktX6_alpha_1
theorem dksX6_alpha_0 : cX6_alpha.data.toList.drop 0 = dktX6_alpha_0 := sorry
theorem dksX6_alpha_1 : cX6_alpha.data.toList.drop 23 = dktX6_alpha_1 := sorry
theorem dX6_alpha_0 : decode cX6_alpha 0 = .ok (.aload_n 0, 1) := sorry
theorem dX6_alpha_1 : decode cX6_alpha 1 = .ok (.iconst 0, 1) := sorry
theorem dX6_alpha_2 : decode cX6_alpha 2 = .ok (.putfield 84, 3) := sorry
theorem dX6_alpha_5 : decode cX6_alpha 5 = .ok (.aload_n 0, 1) := sorry
theorem dX6_alpha_6 : decode cX6_alpha 6 = .ok (.iload_n 1, 1) := sorry
theorem dX6_alpha_7 : decode cX6_alpha 7 = .ok (.invokevirtual 236, 3) := sorry
theorem dX6_alpha_10 : decode cX6_alpha 10 = .ok (.ifCond .eq 16, 3) := sorry
theorem dX6_alpha_13 : decode cX6_alpha 13 = .ok (.aload_n 0, 1) := sorry
theorem dX6_alpha_14 : decode cX6_alpha 14 = .ok (.getfield 9, 3) := sorry
theorem dX6_alpha_17 : decode cX6_alpha 17 = .ok (.bipush 96, 2) := sorry
theorem dX6_alpha_19 : decode cX6_alpha 19 = .ok (.iload_n 1, 1) := sorry
theorem dX6_alpha_20 : decode cX6_alpha 20 = .ok (.iadd, 1) := sorry
theorem dX6_alpha_21 : decode cX6_alpha 21 = .ok (.laload, 1) := sorry
theorem dX6_alpha_22 : decode cX6_alpha 22 = .ok (.l2i, 1) := sorry
theorem dX6_alpha_23 : decode cX6_alpha 23 = .ok (.goto 8, 3) := sorry
theorem dX6_alpha_26 : decode cX6_alpha 26 = .ok (.aload_n 0, 1) := sorry
theorem dX6_alpha_27 : decode cX6_alpha 27 = .ok (.iconst 1, 1) := sorry
theorem dX6_alpha_28 : decode cX6_alpha 28 = .ok (.invokevirtual 227, 3) := sorry
theorem dX6_alpha_31 : decode cX6_alpha 31 = .ok (.ireturn, 1) := sorry
abbrev cX6_isRitz : ByteArray := prog_17_method_41_code
def yX6_isRitz : MethodName := ⟨RX6, "isRitz", "(I)Z"⟩
def dkwX6_isRitz_0 : List UInt8 := [27, 133, 9, 42, 182, 0, 91, 133, 10, 101, 184, 0, 220, 172]
abbrev dktX6_isRitz_0 : List UInt8 := dkwX6_isRitz_0 ++ []
theorem dksX6_isRitz_0 : cX6_isRitz.data.toList.drop 0 = dktX6_isRitz_0 := sorry
theorem dX6_isRitz_0 : decode cX6_isRitz 0 = .ok (.iload_n 1, 1) := sorry
theorem dX6_isRitz_1 : decode cX6_isRitz 1 = .ok (.i2l, 1) := sorry
theorem dX6_isRitz_2 : decode cX6_isRitz 2 = .ok (.lconst 0, 1) := sorry
theorem dX6_isRitz_3 : decode cX6_isRitz 3 = .ok (.aload_n 0, 1) := sorry
theorem dX6_isRitz_4 : decode cX6_isRitz 4 = .ok (.invokevirtual 91, 3) := sorry
theorem dX6_isRitz_7 : decode cX6_isRitz 7 = .ok (.i2l, 1) := sorry
theorem dX6_isRitz_8 : decode cX6_isRitz 8 = .ok (.lconst 1, 1) := sorry
theorem dX6_isRitz_9 : decode cX6_isRitz 9 = .ok (.lsub, 1) := sorry
theorem dX6_isRitz_10 : decode cX6_isRitz 10 = .ok (.invokestatic 220, 3) := sorry
theorem dX6_isRitz_13 : decode cX6_isRitz 13 = .ok (.ireturn, 1) := sorry
abbrev cX6_beta : ByteArray := prog_17_method_51_code
def yX6_beta : MethodName := ⟨RX6, "beta", "(I)I"⟩
def dkwX6_beta_1 : List UInt8 := [167, 0, 8, 42, 4, 182, 0, 227, 172]
abbrev dktX6_beta_1 : List UInt8 := dkwX6_beta_1 ++ []
def dkwX6_beta_0 : List UInt8 := [42, 3, 181, 0, 84, 42, 27, 182, 0, 236, 153, 0, 16, 42, 180, 0, 9, 16, 102, 27, 96, 47, 136]
abbrev dktX6_beta_0 : List UInt8 := dkwX6_beta_0 ++ dktX6_beta_1
theorem dksX6_beta_0 : cX6_beta.data.toList.drop 0 = dktX6_beta_0 := sorry
theorem dksX6_beta_1 : cX6_beta.data.toList.drop 23 = dktX6_beta_1 := sorry
theorem dX6_beta_0 : decode cX6_beta 0 = .ok (.aload_n 0, 1) := sorry
theorem dX6_beta_1 : decode cX6_beta 1 = .ok (.iconst 0, 1) := sorry
theorem dX6_beta_2 : decode cX6_beta 2 = .ok (.putfield 84, 3) := sorry
theorem dX6_beta_5 : decode cX6_beta 5 = .ok (.aload_n 0, 1) := sorry
theorem dX6_beta_6 : decode cX6_beta 6 = .ok (.iload_n 1, 1) := sorry
theorem dX6_beta_7 : decode cX6_beta 7 = .ok (.invokevirtual 236, 3) := sorry
theorem dX6_beta_10 : decode cX6_beta 10 = .ok (.ifCond .eq 16, 3) := sorry
theorem dX6_beta_13 : decode cX6_beta 13 = .ok (.aload_n 0, 1) := sorry
theorem dX6_beta_14 : decode cX6_beta 14 = .ok (.getfield 9, 3) := sorry
theorem dX6_beta_17 : decode cX6_beta 17 = .ok (.bipush 102, 2) := sorry
theorem dX6_beta_19 : decode cX6_beta 19 = .ok (.iload_n 1, 1) := sorry
theorem dX6_beta_20 : decode cX6_beta 20 = .ok (.iadd, 1) := sorry
theorem dX6_beta_21 : decode cX6_beta 21 = .ok (.laload, 1) := sorry
theorem dX6_beta_22 : decode cX6_beta 22 = .ok (.l2i, 1) := sorry
theorem dX6_beta_23 : decode cX6_beta 23 = .ok (.goto 8, 3) := sorry
theorem dX6_beta_26 : decode cX6_beta 26 = .ok (.aload_n 0, 1) := sorry
theorem dX6_beta_27 : decode cX6_beta 27 = .ok (.iconst 1, 1) := sorry
theorem dX6_beta_28 : decode cX6_beta 28 = .ok (.invokevirtual 227, 3) := sorry
theorem dX6_beta_31 : decode cX6_beta 31 = .ok (.ireturn, 1) := sorry
abbrev cX6_estimate : ByteArray := prog_17_method_52_code
def yX6_estimate : MethodName := ⟨RX6, "estimate", "(II)I"⟩
def dkwX6_estimate_1 : List UInt8 := [42, 27, 28, 182, 0, 158, 136, 167, 0, 8, 42, 4, 182, 0, 227, 172]
abbrev dktX6_estimate_1 : List UInt8 := dkwX6_estimate_1 ++ []
def dkwX6_estimate_0 : List UInt8 := [42, 3, 181, 0, 84, 42, 27, 182, 0, 233, 153, 0, 24, 28, 133, 9, 27, 133, 184, 0, 220, 153, 0, 13]
abbrev dktX6_estimate_0 : List UInt8 := dkwX6_estimate_0 ++ dktX6_estimate_1
theorem dksX6_estimate_0 : cX6_estimate.data.toList.drop 0 = dktX6_estimate_0 := sorry
theorem dksX6_estimate_1 : cX6_estimate.data.toList.drop 24 = dktX6_estimate_1 := sorry
theorem dX6_estimate_0 : decode cX6_estimate 0 = .ok (.aload_n 0, 1) := sorry
theorem dX6_estimate_1 : decode cX6_estimate 1 = .ok (.iconst 0, 1) := sorry
theorem dX6_estimate_2 : decode cX6_estimate 2 = .ok (.putfield 84, 3) := sorry
theorem dX6_estimate_5 : decode cX6_estimate 5 = .ok (.aload_n 0, 1) := sorry
theorem dX6_estimate_6 : decode cX6_estimate 6 = .ok (.iload_n 1, 1) := sorry
theorem dX6_estimate_7 : decode cX6_estimate 7 = .ok (.invokevirtual 233, 3) := sorry
theorem dX6_estimate_10 : decode cX6_estimate 10 = .ok (.ifCond .eq 24, 3) := sorry
theorem dX6_estimate_13 : decode cX6_estimate 13 = .ok (.iload_n 2, 1) := sorry
theorem dX6_estimate_14 : decode cX6_estimate 14 = .ok (.i2l, 1) := sorry
theorem dX6_estimate_15 : decode cX6_estimate 15 = .ok (.lconst 0, 1) := sorry
theorem dX6_estimate_16 : decode cX6_estimate 16 = .ok (.iload_n 1, 1) := sorry
theorem dX6_estimate_17 : decode cX6_estimate 17 = .ok (.i2l, 1) := sorry
theorem dX6_estimate_18 : decode cX6_estimate 18 = .ok (.invokestatic 220, 3) := sorry
theorem dX6_estimate_21 : decode cX6_estimate 21 = .ok (.ifCond .eq 13, 3) := sorry
theorem dX6_estimate_24 : decode cX6_estimate 24 = .ok (.aload_n 0, 1) := sorry
theorem dX6_estimate_25 : decode cX6_estimate 25 = .ok (.iload_n 1, 1) := sorry
theorem dX6_estimate_26 : decode cX6_estimate 26 = .ok (.iload_n 2, 1) := sorry
theorem dX6_estimate_27 : decode cX6_estimate 27 = .ok (.invokevirtual 158, 3) := sorry
theorem dX6_estimate_30 : decode cX6_estimate 30 = .ok (.l2i, 1) := sorry
theorem dX6_estimate_31 : decode cX6_estimate 31 = .ok (.goto 8, 3) := sorry
theorem dX6_estimate_34 : decode cX6_estimate 34 = .ok (.aload_n 0, 1) := sorry
theorem dX6_estimate_35 : decode cX6_estimate 35 = .ok (.iconst 1, 1) := sorry
theorem dX6_estimate_36 : decode cX6_estimate 36 = .ok (.invokevirtual 227, 3) := sorry
theorem dX6_estimate_39 : decode cX6_estimate 39 = .ok (.ireturn, 1) := sorry
abbrev cX6_told : ByteArray := prog_17_method_26_code
def yX6_told : MethodName := ⟨RX6, "told", "(II)J"⟩
def dkwX6_told_1 : List UInt8 := [167, 0, 17, 42, 180, 0, 25, 16, 108, 16, 7, 27, 104, 96, 28, 96, 47, 173]
abbrev dktX6_told_1 : List UInt8 := dkwX6_told_1 ++ []
def dkwX6_told_0 : List UInt8 := [27, 155, 0, 12, 28, 155, 0, 8, 28, 27, 164, 0, 5, 9, 173, 27, 28, 160, 0, 9, 20, 0, 97]
abbrev dktX6_told_0 : List UInt8 := dkwX6_told_0 ++ dktX6_told_1
theorem dksX6_told_0 : cX6_told.data.toList.drop 0 = dktX6_told_0 := sorry
theorem dksX6_told_1 : cX6_told.data.toList.drop 23 = dktX6_told_1 := sorry
theorem dX6_told_0 : decode cX6_told 0 = .ok (.iload_n 1, 1) := sorry
theorem dX6_told_1 : decode cX6_told 1 = .ok (.ifCond .lt 12, 3) := sorry
theorem dX6_told_4 : decode cX6_told 4 = .ok (.iload_n 2, 1) := sorry
theorem dX6_told_5 : decode cX6_told 5 = .ok (.ifCond .lt 8, 3) := sorry
theorem dX6_told_8 : decode cX6_told 8 = .ok (.iload_n 2, 1) := sorry
theorem dX6_told_9 : decode cX6_told 9 = .ok (.iload_n 1, 1) := sorry
theorem dX6_told_10 : decode cX6_told 10 = .ok (.if_icmp .le 5, 3) := sorry
theorem dX6_told_13 : decode cX6_told 13 = .ok (.lconst 0, 1) := sorry
theorem dX6_told_14 : decode cX6_told 14 = .ok (.lreturn, 1) := sorry
theorem dX6_told_15 : decode cX6_told 15 = .ok (.iload_n 1, 1) := sorry
theorem dX6_told_16 : decode cX6_told 16 = .ok (.iload_n 2, 1) := sorry
theorem dX6_told_17 : decode cX6_told 17 = .ok (.if_icmp .ne 9, 3) := sorry
theorem dX6_told_20 : decode cX6_told 20 = .ok (.ldc2_w 97, 3) := sorry
theorem dX6_told_23 : decode cX6_told 23 = .ok (.goto 17, 3) := sorry
theorem dX6_told_26 : decode cX6_told 26 = .ok (.aload_n 0, 1) := sorry
theorem dX6_told_27 : decode cX6_told 27 = .ok (.getfield 25, 3) := sorry
theorem dX6_told_30 : decode cX6_told 30 = .ok (.bipush 108, 2) := sorry
theorem dX6_told_32 : decode cX6_told 32 = .ok (.bipush 7, 2) := sorry
theorem dX6_told_34 : decode cX6_told 34 = .ok (.iload_n 1, 1) := sorry
theorem dX6_told_35 : decode cX6_told 35 = .ok (.imul, 1) := sorry
theorem dX6_told_36 : decode cX6_told 36 = .ok (.iadd, 1) := sorry
theorem dX6_told_37 : decode cX6_told 37 = .ok (.iload_n 2, 1) := sorry
theorem dX6_told_38 : decode cX6_told 38 = .ok (.iadd, 1) := sorry
theorem dX6_told_39 : decode cX6_told 39 = .ok (.laload, 1) := sorry
theorem dX6_told_40 : decode cX6_told 40 = .ok (.lreturn, 1) := sorry
abbrev cX6_loss : ByteArray := prog_17_method_53_code
def yX6_loss : MethodName := ⟨RX6, "loss", "()I"⟩
def dkwX6_loss_3 : List UInt8 := [172]
abbrev dktX6_loss_3 : List UInt8 := dkwX6_loss_3 ++ []
def dkwX6_loss_2 : List UInt8 := [182, 0, 115, 184, 0, 147, 184, 0, 155, 64, 132, 4, 1, 167, 255, 218, 132, 3, 1, 167, 255, 201, 31, 136]
abbrev dktX6_loss_2 : List UInt8 := dkwX6_loss_2 ++ dktX6_loss_3
def dkwX6_loss_1 : List UInt8 := [162, 0, 38, 31, 42, 42, 180, 0, 9, 21, 4, 184, 0, 169, 42, 180, 0, 9, 29, 184, 0, 169]
abbrev dktX6_loss_1 : List UInt8 := dkwX6_loss_1 ++ dktX6_loss_2
def dkwX6_loss_0 : List UInt8 := [42, 3, 181, 0, 84, 9, 64, 3, 62, 29, 42, 182, 0, 230, 162, 0, 53, 3, 54, 4, 21, 4, 29]
abbrev dktX6_loss_0 : List UInt8 := dkwX6_loss_0 ++ dktX6_loss_1
theorem dksX6_loss_0 : cX6_loss.data.toList.drop 0 = dktX6_loss_0 := sorry
theorem dksX6_loss_1 : cX6_loss.data.toList.drop 23 = dktX6_loss_1 := sorry
theorem dksX6_loss_2 : cX6_loss.data.toList.drop 45 = dktX6_loss_2 := sorry
theorem dksX6_loss_3 : cX6_loss.data.toList.drop 69 = dktX6_loss_3 := sorry
theorem dX6_loss_0 : decode cX6_loss 0 = .ok (.aload_n 0, 1) := sorry
theorem dX6_loss_1 : decode cX6_loss 1 = .ok (.iconst 0, 1) := sorry
theorem dX6_loss_2 : decode cX6_loss 2 = .ok (.putfield 84, 3) := sorry
theorem dX6_loss_5 : decode cX6_loss 5 = .ok (.lconst 0, 1) := sorry
theorem dX6_loss_6 : decode cX6_loss 6 = .ok (.lstore_n 1, 1) := sorry
theorem dX6_loss_7 : decode cX6_loss 7 = .ok (.iconst 0, 1) := sorry
theorem dX6_loss_8 : decode cX6_loss 8 = .ok (.istore_n 3, 1) := sorry
theorem dX6_loss_9 : decode cX6_loss 9 = .ok (.iload_n 3, 1) := sorry
theorem dX6_loss_10 : decode cX6_loss 10 = .ok (.aload_n 0, 1) := sorry
theorem dX6_loss_11 : decode cX6_loss 11 = .ok (.invokevirtual 230, 3) := sorry
theorem dX6_loss_14 : decode cX6_loss 14 = .ok (.if_icmp .ge 53, 3) := sorry
theorem dX6_loss_17 : decode cX6_loss 17 = .ok (.iconst 0, 1) := sorry
theorem dX6_loss_18 : decode cX6_loss 18 = .ok (.istore 4, 2) := sorry
theorem dX6_loss_20 : decode cX6_loss 20 = .ok (.iload 4, 2) := sorry
theorem dX6_loss_22 : decode cX6_loss 22 = .ok (.iload_n 3, 1) := sorry
theorem dX6_loss_23 : decode cX6_loss 23 = .ok (.if_icmp .ge 38, 3) := sorry
theorem dX6_loss_26 : decode cX6_loss 26 = .ok (.lload_n 1, 1) := sorry
theorem dX6_loss_27 : decode cX6_loss 27 = .ok (.aload_n 0, 1) := sorry
theorem dX6_loss_28 : decode cX6_loss 28 = .ok (.aload_n 0, 1) := sorry
theorem dX6_loss_29 : decode cX6_loss 29 = .ok (.getfield 9, 3) := sorry
theorem dX6_loss_32 : decode cX6_loss 32 = .ok (.iload 4, 2) := sorry
theorem dX6_loss_34 : decode cX6_loss 34 = .ok (.invokestatic 169, 3) := sorry
theorem dX6_loss_37 : decode cX6_loss 37 = .ok (.aload_n 0, 1) := sorry
theorem dX6_loss_38 : decode cX6_loss 38 = .ok (.getfield 9, 3) := sorry
theorem dX6_loss_41 : decode cX6_loss 41 = .ok (.iload_n 3, 1) := sorry
theorem dX6_loss_42 : decode cX6_loss 42 = .ok (.invokestatic 169, 3) := sorry
theorem dX6_loss_45 : decode cX6_loss 45 = .ok (.invokevirtual 115, 3) := sorry
theorem dX6_loss_48 : decode cX6_loss 48 = .ok (.invokestatic 147, 3) := sorry
theorem dX6_loss_51 : decode cX6_loss 51 = .ok (.invokestatic 155, 3) := sorry
theorem dX6_loss_54 : decode cX6_loss 54 = .ok (.lstore_n 1, 1) := sorry
theorem dX6_loss_55 : decode cX6_loss 55 = .ok (.iinc 4 1, 3) := sorry
theorem dX6_loss_58 : decode cX6_loss 58 = .ok (.goto (-38), 3) := sorry
theorem dX6_loss_61 : decode cX6_loss 61 = .ok (.iinc 3 1, 3) := sorry
theorem dX6_loss_64 : decode cX6_loss 64 = .ok (.goto (-55), 3) := sorry
theorem dX6_loss_67 : decode cX6_loss 67 = .ok (.lload_n 1, 1) := sorry
theorem dX6_loss_68 : decode cX6_loss 68 = .ok (.l2i, 1) := sorry
theorem dX6_loss_69 : decode cX6_loss 69 = .ok (.ireturn, 1) := sorry
abbrev cX6_value : ByteArray := prog_17_method_54_code
def yX6_value : MethodName := ⟨RX6, "value", "(I)I"⟩
def dkwX6_value_1 : List UInt8 := [182, 0, 227, 172]
abbrev dktX6_value_1 : List UInt8 := dkwX6_value_1 ++ []
def dkwX6_value_0 : List UInt8 := [42, 3, 181, 0, 84, 42, 27, 182, 0, 236, 153, 0, 12, 42, 27, 182, 0, 209, 136, 167, 0, 8, 42, 4]
abbrev dktX6_value_0 : List UInt8 := dkwX6_value_0 ++ dktX6_value_1
theorem dksX6_value_0 : cX6_value.data.toList.drop 0 = dktX6_value_0 := sorry
theorem dksX6_value_1 : cX6_value.data.toList.drop 24 = dktX6_value_1 := sorry
theorem dX6_value_0 : decode cX6_value 0 = .ok (.aload_n 0, 1) := sorry
theorem dX6_value_1 : decode cX6_value 1 = .ok (.iconst 0, 1) := sorry
theorem dX6_value_2 : decode cX6_value 2 = .ok (.putfield 84, 3) := sorry
theorem dX6_value_5 : decode cX6_value 5 = .ok (.aload_n 0, 1) := sorry
theorem dX6_value_6 : decode cX6_value 6 = .ok (.iload_n 1, 1) := sorry
theorem dX6_value_7 : decode cX6_value 7 = .ok (.invokevirtual 236, 3) := sorry
theorem dX6_value_10 : decode cX6_value 10 = .ok (.ifCond .eq 12, 3) := sorry
theorem dX6_value_13 : decode cX6_value 13 = .ok (.aload_n 0, 1) := sorry
theorem dX6_value_14 : decode cX6_value 14 = .ok (.iload_n 1, 1) := sorry
theorem dX6_value_15 : decode cX6_value 15 = .ok (.invokevirtual 209, 3) := sorry
theorem dX6_value_18 : decode cX6_value 18 = .ok (.l2i, 1) := sorry
theorem dX6_value_19 : decode cX6_value 19 = .ok (.goto 8, 3) := sorry
theorem dX6_value_22 : decode cX6_value 22 = .ok (.aload_n 0, 1) := sorry
theorem dX6_value_23 : decode cX6_value 23 = .ok (.iconst 1, 1) := sorry
theorem dX6_value_24 : decode cX6_value 24 = .ok (.invokevirtual 227, 3) := sorry
theorem dX6_value_27 : decode cX6_value 27 = .ok (.ireturn, 1) := sorry
abbrev cX6_ritzValue : ByteArray := prog_17_method_35_code
def yX6_ritzValue : MethodName := ⟨RX6, "ritzValue", "(I)J"⟩
def dkwX6_ritzValue_2 : List UInt8 := [10, 97, 65, 167, 255, 215, 32, 173]
abbrev dktX6_ritzValue_2 : List UInt8 := dkwX6_ritzValue_2 ++ []
def dkwX6_ritzValue_1 : List UInt8 := [184, 0, 99, 55, 6, 42, 22, 6, 182, 0, 203, 27, 164, 0, 10, 22, 6, 55, 4, 167, 0, 8, 22, 6]
abbrev dktX6_ritzValue_1 : List UInt8 := dkwX6_ritzValue_1 ++ dktX6_ritzValue_2
def dkwX6_ritzValue_0 : List UInt8 := [20, 0, 199, 65, 20, 0, 201, 55, 4, 32, 22, 4, 148, 156, 0, 40, 32, 22, 4, 97, 20, 0, 105]
abbrev dktX6_ritzValue_0 : List UInt8 := dkwX6_ritzValue_0 ++ dktX6_ritzValue_1
theorem dksX6_ritzValue_0 : cX6_ritzValue.data.toList.drop 0 = dktX6_ritzValue_0 := sorry
theorem dksX6_ritzValue_1 : cX6_ritzValue.data.toList.drop 23 = dktX6_ritzValue_1 := sorry
theorem dksX6_ritzValue_2 : cX6_ritzValue.data.toList.drop 47 = dktX6_ritzValue_2 := sorry
theorem dX6_ritzValue_0 : decode cX6_ritzValue 0 = .ok (.ldc2_w 199, 3) := sorry
theorem dX6_ritzValue_3 : decode cX6_ritzValue 3 = .ok (.lstore_n 2, 1) := sorry
theorem dX6_ritzValue_4 : decode cX6_ritzValue 4 = .ok (.ldc2_w 201, 3) := sorry
theorem dX6_ritzValue_7 : decode cX6_ritzValue 7 = .ok (.lstore 4, 2) := sorry
theorem dX6_ritzValue_9 : decode cX6_ritzValue 9 = .ok (.lload_n 2, 1) := sorry
theorem dX6_ritzValue_10 : decode cX6_ritzValue 10 = .ok (.lload 4, 2) := sorry
theorem dX6_ritzValue_12 : decode cX6_ritzValue 12 = .ok (.lcmp, 1) := sorry
theorem dX6_ritzValue_13 : decode cX6_ritzValue 13 = .ok (.ifCond .ge 40, 3) := sorry
theorem dX6_ritzValue_16 : decode cX6_ritzValue 16 = .ok (.lload_n 2, 1) := sorry
theorem dX6_ritzValue_17 : decode cX6_ritzValue 17 = .ok (.lload 4, 2) := sorry
theorem dX6_ritzValue_19 : decode cX6_ritzValue 19 = .ok (.ladd, 1) := sorry
theorem dX6_ritzValue_20 : decode cX6_ritzValue 20 = .ok (.ldc2_w 105, 3) := sorry
theorem dX6_ritzValue_23 : decode cX6_ritzValue 23 = .ok (.invokestatic 99, 3) := sorry
theorem dX6_ritzValue_26 : decode cX6_ritzValue 26 = .ok (.lstore 6, 2) := sorry
theorem dX6_ritzValue_28 : decode cX6_ritzValue 28 = .ok (.aload_n 0, 1) := sorry
theorem dX6_ritzValue_29 : decode cX6_ritzValue 29 = .ok (.lload 6, 2) := sorry
theorem dX6_ritzValue_31 : decode cX6_ritzValue 31 = .ok (.invokevirtual 203, 3) := sorry
theorem dX6_ritzValue_34 : decode cX6_ritzValue 34 = .ok (.iload_n 1, 1) := sorry
theorem dX6_ritzValue_35 : decode cX6_ritzValue 35 = .ok (.if_icmp .le 10, 3) := sorry
theorem dX6_ritzValue_38 : decode cX6_ritzValue 38 = .ok (.lload 6, 2) := sorry
theorem dX6_ritzValue_40 : decode cX6_ritzValue 40 = .ok (.lstore 4, 2) := sorry
theorem dX6_ritzValue_42 : decode cX6_ritzValue 42 = .ok (.goto 8, 3) := sorry
theorem dX6_ritzValue_45 : decode cX6_ritzValue 45 = .ok (.lload 6, 2) := sorry
theorem dX6_ritzValue_47 : decode cX6_ritzValue 47 = .ok (.lconst 1, 1) := sorry
theorem dX6_ritzValue_48 : decode cX6_ritzValue 48 = .ok (.ladd, 1) := sorry
theorem dX6_ritzValue_49 : decode cX6_ritzValue 49 = .ok (.lstore_n 2, 1) := sorry
theorem dX6_ritzValue_50 : decode cX6_ritzValue 50 = .ok (.goto (-41), 3) := sorry
theorem dX6_ritzValue_53 : decode cX6_ritzValue 53 = .ok (.lload_n 2, 1) := sorry
theorem dX6_ritzValue_54 : decode cX6_ritzValue 54 = .ok (.lreturn, 1) := sorry
abbrev cX6_countUnder : ByteArray := prog_17_method_34_code
def yX6_countUnder : MethodName := ⟨RX6, "countUnder", "(J)I"⟩
def dkwX6_countUnder_4 : List UInt8 := [156, 0, 7, 4, 167, 0, 4, 3, 96, 62, 22, 7, 55, 4, 132, 6, 1, 167, 255, 154, 29, 172]
abbrev dktX6_countUnder_4 : List UInt8 := dkwX6_countUnder_4 ++ []
def dkwX6_countUnder_3 : List UInt8 := [22, 7, 9, 148, 154, 0, 9, 20, 0, 197, 167, 0, 5, 22, 7, 55, 7, 29, 22, 7, 9, 148]
abbrev dktX6_countUnder_3 : List UInt8 := dkwX6_countUnder_3 ++ dktX6_countUnder_4
def dkwX6_countUnder_2 : List UInt8 := [4, 100, 47, 42, 180, 0, 25, 16, 102, 21, 6, 96, 4, 100, 47, 105, 22, 4, 184, 0, 99, 101, 55, 7]
abbrev dktX6_countUnder_2 : List UInt8 := dkwX6_countUnder_2 ++ dktX6_countUnder_3
def dkwX6_countUnder_1 : List UInt8 := [21, 6, 96, 47, 31, 101, 55, 7, 21, 6, 158, 0, 38, 22, 7, 42, 180, 0, 25, 16, 102, 21, 6, 96]
abbrev dktX6_countUnder_1 : List UInt8 := dkwX6_countUnder_1 ++ dktX6_countUnder_2
def dkwX6_countUnder_0 : List UInt8 := [3, 62, 10, 55, 4, 3, 54, 6, 21, 6, 42, 182, 0, 91, 162, 0, 99, 42, 180, 0, 25, 16, 96]
abbrev dktX6_countUnder_0 : List UInt8 := dkwX6_countUnder_0 ++ dktX6_countUnder_1
theorem dksX6_countUnder_0 : cX6_countUnder.data.toList.drop 0 = dktX6_countUnder_0 := sorry
theorem dksX6_countUnder_1 : cX6_countUnder.data.toList.drop 23 = dktX6_countUnder_1 := sorry
theorem dksX6_countUnder_2 : cX6_countUnder.data.toList.drop 47 = dktX6_countUnder_2 := sorry
theorem dksX6_countUnder_3 : cX6_countUnder.data.toList.drop 71 = dktX6_countUnder_3 := sorry
theorem dksX6_countUnder_4 : cX6_countUnder.data.toList.drop 93 = dktX6_countUnder_4 := sorry
theorem dX6_countUnder_0 : decode cX6_countUnder 0 = .ok (.iconst 0, 1) := sorry
theorem dX6_countUnder_1 : decode cX6_countUnder 1 = .ok (.istore_n 3, 1) := sorry
theorem dX6_countUnder_2 : decode cX6_countUnder 2 = .ok (.lconst 1, 1) := sorry
theorem dX6_countUnder_3 : decode cX6_countUnder 3 = .ok (.lstore 4, 2) := sorry
theorem dX6_countUnder_5 : decode cX6_countUnder 5 = .ok (.iconst 0, 1) := sorry
theorem dX6_countUnder_6 : decode cX6_countUnder 6 = .ok (.istore 6, 2) := sorry
theorem dX6_countUnder_8 : decode cX6_countUnder 8 = .ok (.iload 6, 2) := sorry
theorem dX6_countUnder_10 : decode cX6_countUnder 10 = .ok (.aload_n 0, 1) := sorry
theorem dX6_countUnder_11 : decode cX6_countUnder 11 = .ok (.invokevirtual 91, 3) := sorry
theorem dX6_countUnder_14 : decode cX6_countUnder 14 = .ok (.if_icmp .ge 99, 3) := sorry
theorem dX6_countUnder_17 : decode cX6_countUnder 17 = .ok (.aload_n 0, 1) := sorry
theorem dX6_countUnder_18 : decode cX6_countUnder 18 = .ok (.getfield 25, 3) := sorry
theorem dX6_countUnder_21 : decode cX6_countUnder 21 = .ok (.bipush 96, 2) := sorry
theorem dX6_countUnder_23 : decode cX6_countUnder 23 = .ok (.iload 6, 2) := sorry
theorem dX6_countUnder_25 : decode cX6_countUnder 25 = .ok (.iadd, 1) := sorry
theorem dX6_countUnder_26 : decode cX6_countUnder 26 = .ok (.laload, 1) := sorry
theorem dX6_countUnder_27 : decode cX6_countUnder 27 = .ok (.lload_n 1, 1) := sorry
theorem dX6_countUnder_28 : decode cX6_countUnder 28 = .ok (.lsub, 1) := sorry
theorem dX6_countUnder_29 : decode cX6_countUnder 29 = .ok (.lstore 7, 2) := sorry
theorem dX6_countUnder_31 : decode cX6_countUnder 31 = .ok (.iload 6, 2) := sorry
theorem dX6_countUnder_33 : decode cX6_countUnder 33 = .ok (.ifCond .le 38, 3) := sorry
theorem dX6_countUnder_36 : decode cX6_countUnder 36 = .ok (.lload 7, 2) := sorry
theorem dX6_countUnder_38 : decode cX6_countUnder 38 = .ok (.aload_n 0, 1) := sorry
theorem dX6_countUnder_39 : decode cX6_countUnder 39 = .ok (.getfield 25, 3) := sorry
theorem dX6_countUnder_42 : decode cX6_countUnder 42 = .ok (.bipush 102, 2) := sorry
theorem dX6_countUnder_44 : decode cX6_countUnder 44 = .ok (.iload 6, 2) := sorry
theorem dX6_countUnder_46 : decode cX6_countUnder 46 = .ok (.iadd, 1) := sorry
theorem dX6_countUnder_47 : decode cX6_countUnder 47 = .ok (.iconst 1, 1) := sorry
theorem dX6_countUnder_48 : decode cX6_countUnder 48 = .ok (.isub, 1) := sorry
theorem dX6_countUnder_49 : decode cX6_countUnder 49 = .ok (.laload, 1) := sorry
theorem dX6_countUnder_50 : decode cX6_countUnder 50 = .ok (.aload_n 0, 1) := sorry
theorem dX6_countUnder_51 : decode cX6_countUnder 51 = .ok (.getfield 25, 3) := sorry
theorem dX6_countUnder_54 : decode cX6_countUnder 54 = .ok (.bipush 102, 2) := sorry
theorem dX6_countUnder_56 : decode cX6_countUnder 56 = .ok (.iload 6, 2) := sorry
theorem dX6_countUnder_58 : decode cX6_countUnder 58 = .ok (.iadd, 1) := sorry
theorem dX6_countUnder_59 : decode cX6_countUnder 59 = .ok (.iconst 1, 1) := sorry
theorem dX6_countUnder_60 : decode cX6_countUnder 60 = .ok (.isub, 1) := sorry
theorem dX6_countUnder_61 : decode cX6_countUnder 61 = .ok (.laload, 1) := sorry
theorem dX6_countUnder_62 : decode cX6_countUnder 62 = .ok (.lmul, 1) := sorry
theorem dX6_countUnder_63 : decode cX6_countUnder 63 = .ok (.lload 4, 2) := sorry
theorem dX6_countUnder_65 : decode cX6_countUnder 65 = .ok (.invokestatic 99, 3) := sorry
theorem dX6_countUnder_68 : decode cX6_countUnder 68 = .ok (.lsub, 1) := sorry
theorem dX6_countUnder_69 : decode cX6_countUnder 69 = .ok (.lstore 7, 2) := sorry
theorem dX6_countUnder_71 : decode cX6_countUnder 71 = .ok (.lload 7, 2) := sorry
theorem dX6_countUnder_73 : decode cX6_countUnder 73 = .ok (.lconst 0, 1) := sorry
theorem dX6_countUnder_74 : decode cX6_countUnder 74 = .ok (.lcmp, 1) := sorry
theorem dX6_countUnder_75 : decode cX6_countUnder 75 = .ok (.ifCond .ne 9, 3) := sorry
theorem dX6_countUnder_78 : decode cX6_countUnder 78 = .ok (.ldc2_w 197, 3) := sorry
theorem dX6_countUnder_81 : decode cX6_countUnder 81 = .ok (.goto 5, 3) := sorry
theorem dX6_countUnder_84 : decode cX6_countUnder 84 = .ok (.lload 7, 2) := sorry
theorem dX6_countUnder_86 : decode cX6_countUnder 86 = .ok (.lstore 7, 2) := sorry
theorem dX6_countUnder_88 : decode cX6_countUnder 88 = .ok (.iload_n 3, 1) := sorry
theorem dX6_countUnder_89 : decode cX6_countUnder 89 = .ok (.lload 7, 2) := sorry
theorem dX6_countUnder_91 : decode cX6_countUnder 91 = .ok (.lconst 0, 1) := sorry
theorem dX6_countUnder_92 : decode cX6_countUnder 92 = .ok (.lcmp, 1) := sorry
theorem dX6_countUnder_93 : decode cX6_countUnder 93 = .ok (.ifCond .ge 7, 3) := sorry
theorem dX6_countUnder_96 : decode cX6_countUnder 96 = .ok (.iconst 1, 1) := sorry
theorem dX6_countUnder_97 : decode cX6_countUnder 97 = .ok (.goto 4, 3) := sorry
theorem dX6_countUnder_100 : decode cX6_countUnder 100 = .ok (.iconst 0, 1) := sorry
theorem dX6_countUnder_101 : decode cX6_countUnder 101 = .ok (.iadd, 1) := sorry
theorem dX6_countUnder_102 : decode cX6_countUnder 102 = .ok (.istore_n 3, 1) := sorry
theorem dX6_countUnder_103 : decode cX6_countUnder 103 = .ok (.lload 7, 2) := sorry
theorem dX6_countUnder_105 : decode cX6_countUnder 105 = .ok (.lstore 4, 2) := sorry
theorem dX6_countUnder_107 : decode cX6_countUnder 107 = .ok (.iinc 6 1, 3) := sorry
theorem dX6_countUnder_110 : decode cX6_countUnder 110 = .ok (.goto (-102), 3) := sorry
theorem dX6_countUnder_113 : decode cX6_countUnder 113 = .ok (.iload_n 3, 1) := sorry
theorem dX6_countUnder_114 : decode cX6_countUnder 114 = .ok (.ireturn, 1) := sorry
abbrev cX6_bound : ByteArray := prog_17_method_55_code
def yX6_bound : MethodName := ⟨RX6, "bound", "(I)I"⟩
def dkwX6_bound_1 : List UInt8 := [182, 0, 227, 172]
abbrev dktX6_bound_1 : List UInt8 := dkwX6_bound_1 ++ []
def dkwX6_bound_0 : List UInt8 := [42, 3, 181, 0, 84, 42, 27, 182, 0, 236, 153, 0, 12, 42, 27, 182, 0, 239, 136, 167, 0, 8, 42, 4]
abbrev dktX6_bound_0 : List UInt8 := dkwX6_bound_0 ++ dktX6_bound_1
theorem dksX6_bound_0 : cX6_bound.data.toList.drop 0 = dktX6_bound_0 := sorry
theorem dksX6_bound_1 : cX6_bound.data.toList.drop 24 = dktX6_bound_1 := sorry
theorem dX6_bound_0 : decode cX6_bound 0 = .ok (.aload_n 0, 1) := sorry
theorem dX6_bound_1 : decode cX6_bound 1 = .ok (.iconst 0, 1) := sorry
theorem dX6_bound_2 : decode cX6_bound 2 = .ok (.putfield 84, 3) := sorry
theorem dX6_bound_5 : decode cX6_bound 5 = .ok (.aload_n 0, 1) := sorry
theorem dX6_bound_6 : decode cX6_bound 6 = .ok (.iload_n 1, 1) := sorry
theorem dX6_bound_7 : decode cX6_bound 7 = .ok (.invokevirtual 236, 3) := sorry
theorem dX6_bound_10 : decode cX6_bound 10 = .ok (.ifCond .eq 12, 3) := sorry
theorem dX6_bound_13 : decode cX6_bound 13 = .ok (.aload_n 0, 1) := sorry
theorem dX6_bound_14 : decode cX6_bound 14 = .ok (.iload_n 1, 1) := sorry
theorem dX6_bound_15 : decode cX6_bound 15 = .ok (.invokevirtual 239, 3) := sorry
theorem dX6_bound_18 : decode cX6_bound 18 = .ok (.l2i, 1) := sorry
theorem dX6_bound_19 : decode cX6_bound 19 = .ok (.goto 8, 3) := sorry
theorem dX6_bound_22 : decode cX6_bound 22 = .ok (.aload_n 0, 1) := sorry
theorem dX6_bound_23 : decode cX6_bound 23 = .ok (.iconst 1, 1) := sorry
theorem dX6_bound_24 : decode cX6_bound 24 = .ok (.invokevirtual 227, 3) := sorry
theorem dX6_bound_27 : decode cX6_bound 27 = .ok (.ireturn, 1) := sorry
abbrev cX6_ritzBound : ByteArray := prog_17_method_38_code
def yX6_ritzBound : MethodName := ⟨RX6, "ritzBound", "(I)J"⟩
def dkwX6_ritzBound_0 : List UInt8 := [42, 42, 27, 182, 0, 209, 182, 0, 212, 42, 182, 0, 216, 173]
abbrev dktX6_ritzBound_0 : List UInt8 := dkwX6_ritzBound_0 ++ []
theorem dksX6_ritzBound_0 : cX6_ritzBound.data.toList.drop 0 = dktX6_ritzBound_0 := sorry
theorem dX6_ritzBound_0 : decode cX6_ritzBound 0 = .ok (.aload_n 0, 1) := sorry
theorem dX6_ritzBound_1 : decode cX6_ritzBound 1 = .ok (.aload_n 0, 1) := sorry
theorem dX6_ritzBound_2 : decode cX6_ritzBound 2 = .ok (.iload_n 1, 1) := sorry
theorem dX6_ritzBound_3 : decode cX6_ritzBound 3 = .ok (.invokevirtual 209, 3) := sorry
theorem dX6_ritzBound_6 : decode cX6_ritzBound 6 = .ok (.invokevirtual 212, 3) := sorry
theorem dX6_ritzBound_9 : decode cX6_ritzBound 9 = .ok (.aload_n 0, 1) := sorry
theorem dX6_ritzBound_10 : decode cX6_ritzBound 10 = .ok (.invokevirtual 216, 3) := sorry
theorem dX6_ritzBound_13 : decode cX6_ritzBound 13 = .ok (.lreturn, 1) := sorry
abbrev cX6_layShares : ByteArray := prog_17_method_36_code
def yX6_layShares : MethodName := ⟨RX6, "layShares", "(J)V"⟩
def dkwX6_layShares_4 : List UInt8 := [80, 132, 3, 1, 167, 255, 168, 177]
abbrev dktX6_layShares_4 : List UInt8 := dkwX6_layShares_4 ++ []
def dkwX6_layShares_3 : List UInt8 := [180, 0, 37, 29, 4, 96, 22, 4, 42, 180, 0, 25, 16, 102, 29, 96, 47, 109, 20, 0, 207, 184, 0, 166]
abbrev dktX6_layShares_3 : List UInt8 := dkwX6_layShares_3 ++ dktX6_layShares_4
def dkwX6_layShares_2 : List UInt8 := [42, 180, 0, 25, 16, 102, 29, 96, 4, 100, 47, 42, 180, 0, 37, 29, 4, 100, 47, 105, 101, 55, 4, 42]
abbrev dktX6_layShares_2 : List UInt8 := dkwX6_layShares_2 ++ dktX6_layShares_3
def dkwX6_layShares_1 : List UInt8 := [180, 0, 25, 16, 96, 29, 96, 47, 101, 42, 180, 0, 37, 29, 47, 105, 55, 4, 29, 158, 0, 28, 22, 4]
abbrev dktX6_layShares_1 : List UInt8 := dkwX6_layShares_1 ++ dktX6_layShares_2
def dkwX6_layShares_0 : List UInt8 := [42, 180, 0, 37, 3, 20, 0, 97, 80, 3, 62, 29, 4, 96, 42, 182, 0, 91, 162, 0, 84, 31, 42]
abbrev dktX6_layShares_0 : List UInt8 := dkwX6_layShares_0 ++ dktX6_layShares_1
theorem dksX6_layShares_0 : cX6_layShares.data.toList.drop 0 = dktX6_layShares_0 := sorry
theorem dksX6_layShares_1 : cX6_layShares.data.toList.drop 23 = dktX6_layShares_1 := sorry
theorem dksX6_layShares_2 : cX6_layShares.data.toList.drop 47 = dktX6_layShares_2 := sorry
theorem dksX6_layShares_3 : cX6_layShares.data.toList.drop 71 = dktX6_layShares_3 := sorry
theorem dksX6_layShares_4 : cX6_layShares.data.toList.drop 95 = dktX6_layShares_4 := sorry
theorem dX6_layShares_0 : decode cX6_layShares 0 = .ok (.aload_n 0, 1) := sorry
theorem dX6_layShares_1 : decode cX6_layShares 1 = .ok (.getfield 37, 3) := sorry
theorem dX6_layShares_4 : decode cX6_layShares 4 = .ok (.iconst 0, 1) := sorry
theorem dX6_layShares_5 : decode cX6_layShares 5 = .ok (.ldc2_w 97, 3) := sorry
theorem dX6_layShares_8 : decode cX6_layShares 8 = .ok (.lastore, 1) := sorry
theorem dX6_layShares_9 : decode cX6_layShares 9 = .ok (.iconst 0, 1) := sorry
theorem dX6_layShares_10 : decode cX6_layShares 10 = .ok (.istore_n 3, 1) := sorry
theorem dX6_layShares_11 : decode cX6_layShares 11 = .ok (.iload_n 3, 1) := sorry
theorem dX6_layShares_12 : decode cX6_layShares 12 = .ok (.iconst 1, 1) := sorry
theorem dX6_layShares_13 : decode cX6_layShares 13 = .ok (.iadd, 1) := sorry
theorem dX6_layShares_14 : decode cX6_layShares 14 = .ok (.aload_n 0, 1) := sorry
theorem dX6_layShares_15 : decode cX6_layShares 15 = .ok (.invokevirtual 91, 3) := sorry
theorem dX6_layShares_18 : decode cX6_layShares 18 = .ok (.if_icmp .ge 84, 3) := sorry
theorem dX6_layShares_21 : decode cX6_layShares 21 = .ok (.lload_n 1, 1) := sorry
theorem dX6_layShares_22 : decode cX6_layShares 22 = .ok (.aload_n 0, 1) := sorry
theorem dX6_layShares_23 : decode cX6_layShares 23 = .ok (.getfield 25, 3) := sorry
theorem dX6_layShares_26 : decode cX6_layShares 26 = .ok (.bipush 96, 2) := sorry
theorem dX6_layShares_28 : decode cX6_layShares 28 = .ok (.iload_n 3, 1) := sorry
theorem dX6_layShares_29 : decode cX6_layShares 29 = .ok (.iadd, 1) := sorry
theorem dX6_layShares_30 : decode cX6_layShares 30 = .ok (.laload, 1) := sorry
theorem dX6_layShares_31 : decode cX6_layShares 31 = .ok (.lsub, 1) := sorry
theorem dX6_layShares_32 : decode cX6_layShares 32 = .ok (.aload_n 0, 1) := sorry
theorem dX6_layShares_33 : decode cX6_layShares 33 = .ok (.getfield 37, 3) := sorry
theorem dX6_layShares_36 : decode cX6_layShares 36 = .ok (.iload_n 3, 1) := sorry
theorem dX6_layShares_37 : decode cX6_layShares 37 = .ok (.laload, 1) := sorry
theorem dX6_layShares_38 : decode cX6_layShares 38 = .ok (.lmul, 1) := sorry
theorem dX6_layShares_39 : decode cX6_layShares 39 = .ok (.lstore 4, 2) := sorry
theorem dX6_layShares_41 : decode cX6_layShares 41 = .ok (.iload_n 3, 1) := sorry
theorem dX6_layShares_42 : decode cX6_layShares 42 = .ok (.ifCond .le 28, 3) := sorry
theorem dX6_layShares_45 : decode cX6_layShares 45 = .ok (.lload 4, 2) := sorry
theorem dX6_layShares_47 : decode cX6_layShares 47 = .ok (.aload_n 0, 1) := sorry
theorem dX6_layShares_48 : decode cX6_layShares 48 = .ok (.getfield 25, 3) := sorry
theorem dX6_layShares_51 : decode cX6_layShares 51 = .ok (.bipush 102, 2) := sorry
theorem dX6_layShares_53 : decode cX6_layShares 53 = .ok (.iload_n 3, 1) := sorry
theorem dX6_layShares_54 : decode cX6_layShares 54 = .ok (.iadd, 1) := sorry
theorem dX6_layShares_55 : decode cX6_layShares 55 = .ok (.iconst 1, 1) := sorry
theorem dX6_layShares_56 : decode cX6_layShares 56 = .ok (.isub, 1) := sorry
theorem dX6_layShares_57 : decode cX6_layShares 57 = .ok (.laload, 1) := sorry
theorem dX6_layShares_58 : decode cX6_layShares 58 = .ok (.aload_n 0, 1) := sorry
theorem dX6_layShares_59 : decode cX6_layShares 59 = .ok (.getfield 37, 3) := sorry
theorem dX6_layShares_62 : decode cX6_layShares 62 = .ok (.iload_n 3, 1) := sorry
theorem dX6_layShares_63 : decode cX6_layShares 63 = .ok (.iconst 1, 1) := sorry
theorem dX6_layShares_64 : decode cX6_layShares 64 = .ok (.isub, 1) := sorry
theorem dX6_layShares_65 : decode cX6_layShares 65 = .ok (.laload, 1) := sorry
theorem dX6_layShares_66 : decode cX6_layShares 66 = .ok (.lmul, 1) := sorry
theorem dX6_layShares_67 : decode cX6_layShares 67 = .ok (.lsub, 1) := sorry
theorem dX6_layShares_68 : decode cX6_layShares 68 = .ok (.lstore 4, 2) := sorry
theorem dX6_layShares_70 : decode cX6_layShares 70 = .ok (.aload_n 0, 1) := sorry
theorem dX6_layShares_71 : decode cX6_layShares 71 = .ok (.getfield 37, 3) := sorry
theorem dX6_layShares_74 : decode cX6_layShares 74 = .ok (.iload_n 3, 1) := sorry
theorem dX6_layShares_75 : decode cX6_layShares 75 = .ok (.iconst 1, 1) := sorry
theorem dX6_layShares_76 : decode cX6_layShares 76 = .ok (.iadd, 1) := sorry
theorem dX6_layShares_77 : decode cX6_layShares 77 = .ok (.lload 4, 2) := sorry
theorem dX6_layShares_79 : decode cX6_layShares 79 = .ok (.aload_n 0, 1) := sorry
theorem dX6_layShares_80 : decode cX6_layShares 80 = .ok (.getfield 25, 3) := sorry
theorem dX6_layShares_83 : decode cX6_layShares 83 = .ok (.bipush 102, 2) := sorry
theorem dX6_layShares_85 : decode cX6_layShares 85 = .ok (.iload_n 3, 1) := sorry
theorem dX6_layShares_86 : decode cX6_layShares 86 = .ok (.iadd, 1) := sorry
theorem dX6_layShares_87 : decode cX6_layShares 87 = .ok (.laload, 1) := sorry
theorem dX6_layShares_88 : decode cX6_layShares 88 = .ok (.ldiv, 1) := sorry
theorem dX6_layShares_89 : decode cX6_layShares 89 = .ok (.ldc2_w 207, 3) := sorry
theorem dX6_layShares_92 : decode cX6_layShares 92 = .ok (.invokestatic 166, 3) := sorry
theorem dX6_layShares_95 : decode cX6_layShares 95 = .ok (.lastore, 1) := sorry
theorem dX6_layShares_96 : decode cX6_layShares 96 = .ok (.iinc 3 1, 3) := sorry
theorem dX6_layShares_99 : decode cX6_layShares 99 = .ok (.goto (-88), 3) := sorry
theorem dX6_layShares_102 : decode cX6_layShares 102 = .ok (.return_, 1) := sorry
abbrev cX6_bounded : ByteArray := prog_17_method_28_code
def yX6_bounded : MethodName := ⟨RX6, "bounded", "(JJ)J"⟩
def dkwX6_bounded_0 : List UInt8 := [32, 117, 32, 30, 184, 0, 152, 184, 0, 155, 173]
abbrev dktX6_bounded_0 : List UInt8 := dkwX6_bounded_0 ++ []
theorem dksX6_bounded_0 : cX6_bounded.data.toList.drop 0 = dktX6_bounded_0 := sorry
theorem dX6_bounded_0 : decode cX6_bounded 0 = .ok (.lload_n 2, 1) := sorry
theorem dX6_bounded_1 : decode cX6_bounded 1 = .ok (.lneg, 1) := sorry
theorem dX6_bounded_2 : decode cX6_bounded 2 = .ok (.lload_n 2, 1) := sorry
theorem dX6_bounded_3 : decode cX6_bounded 3 = .ok (.lload_n 0, 1) := sorry
theorem dX6_bounded_4 : decode cX6_bounded 4 = .ok (.invokestatic 152, 3) := sorry
theorem dX6_bounded_7 : decode cX6_bounded 7 = .ok (.invokestatic 155, 3) := sorry
theorem dX6_bounded_10 : decode cX6_bounded 10 = .ok (.lreturn, 1) := sorry
abbrev cX6_boundNow : ByteArray := prog_17_method_37_code
def yX6_boundNow : MethodName := ⟨RX6, "boundNow", "()J"⟩
def dkwX6_boundNow_1 : List UInt8 := [184, 0, 147, 105, 42, 180, 0, 37, 42, 182, 0, 91, 184, 0, 111, 109, 173]
abbrev dktX6_boundNow_1 : List UInt8 := dkwX6_boundNow_1 ++ []
def dkwX6_boundNow_0 : List UInt8 := [42, 182, 0, 91, 4, 100, 60, 42, 180, 0, 25, 16, 102, 27, 96, 47, 42, 180, 0, 37, 27, 47]
abbrev dktX6_boundNow_0 : List UInt8 := dkwX6_boundNow_0 ++ dktX6_boundNow_1
theorem dksX6_boundNow_0 : cX6_boundNow.data.toList.drop 0 = dktX6_boundNow_0 := sorry
theorem dksX6_boundNow_1 : cX6_boundNow.data.toList.drop 22 = dktX6_boundNow_1 := sorry
theorem dX6_boundNow_0 : decode cX6_boundNow 0 = .ok (.aload_n 0, 1) := sorry
theorem dX6_boundNow_1 : decode cX6_boundNow 1 = .ok (.invokevirtual 91, 3) := sorry
theorem dX6_boundNow_4 : decode cX6_boundNow 4 = .ok (.iconst 1, 1) := sorry
theorem dX6_boundNow_5 : decode cX6_boundNow 5 = .ok (.isub, 1) := sorry
theorem dX6_boundNow_6 : decode cX6_boundNow 6 = .ok (.istore_n 1, 1) := sorry
theorem dX6_boundNow_7 : decode cX6_boundNow 7 = .ok (.aload_n 0, 1) := sorry
theorem dX6_boundNow_8 : decode cX6_boundNow 8 = .ok (.getfield 25, 3) := sorry
theorem dX6_boundNow_11 : decode cX6_boundNow 11 = .ok (.bipush 102, 2) := sorry
theorem dX6_boundNow_13 : decode cX6_boundNow 13 = .ok (.iload_n 1, 1) := sorry
theorem dX6_boundNow_14 : decode cX6_boundNow 14 = .ok (.iadd, 1) := sorry
theorem dX6_boundNow_15 : decode cX6_boundNow 15 = .ok (.laload, 1) := sorry
theorem dX6_boundNow_16 : decode cX6_boundNow 16 = .ok (.aload_n 0, 1) := sorry
theorem dX6_boundNow_17 : decode cX6_boundNow 17 = .ok (.getfield 37, 3) := sorry
theorem dX6_boundNow_20 : decode cX6_boundNow 20 = .ok (.iload_n 1, 1) := sorry
theorem dX6_boundNow_21 : decode cX6_boundNow 21 = .ok (.laload, 1) := sorry
theorem dX6_boundNow_22 : decode cX6_boundNow 22 = .ok (.invokestatic 147, 3) := sorry
theorem dX6_boundNow_25 : decode cX6_boundNow 25 = .ok (.lmul, 1) := sorry
theorem dX6_boundNow_26 : decode cX6_boundNow 26 = .ok (.aload_n 0, 1) := sorry
theorem dX6_boundNow_27 : decode cX6_boundNow 27 = .ok (.getfield 37, 3) := sorry
theorem dX6_boundNow_30 : decode cX6_boundNow 30 = .ok (.aload_n 0, 1) := sorry
theorem dX6_boundNow_31 : decode cX6_boundNow 31 = .ok (.invokevirtual 91, 3) := sorry
theorem dX6_boundNow_34 : decode cX6_boundNow 34 = .ok (.invokestatic 111, 3) := sorry
theorem dX6_boundNow_37 : decode cX6_boundNow 37 = .ok (.ldiv, 1) := sorry
theorem dX6_boundNow_38 : decode cX6_boundNow 38 = .ok (.lreturn, 1) := sorry
abbrev cX6_ritz : ByteArray := prog_17_method_56_code
def yX6_ritz : MethodName := ⟨RX6, "ritz", "(II)I"⟩
def dkwX6_ritz_1 : List UInt8 := [182, 0, 227, 172, 42, 27, 182, 0, 242, 42, 180, 0, 34, 28, 47, 136, 172]
abbrev dktX6_ritz_1 : List UInt8 := dkwX6_ritz_1 ++ []
def dkwX6_ritz_0 : List UInt8 := [42, 3, 181, 0, 84, 42, 27, 182, 0, 236, 153, 0, 11, 42, 28, 182, 0, 224, 154, 0, 9, 42, 4]
abbrev dktX6_ritz_0 : List UInt8 := dkwX6_ritz_0 ++ dktX6_ritz_1
theorem dksX6_ritz_0 : cX6_ritz.data.toList.drop 0 = dktX6_ritz_0 := sorry
theorem dksX6_ritz_1 : cX6_ritz.data.toList.drop 23 = dktX6_ritz_1 := sorry
theorem dX6_ritz_0 : decode cX6_ritz 0 = .ok (.aload_n 0, 1) := sorry
theorem dX6_ritz_1 : decode cX6_ritz 1 = .ok (.iconst 0, 1) := sorry
theorem dX6_ritz_2 : decode cX6_ritz 2 = .ok (.putfield 84, 3) := sorry
theorem dX6_ritz_5 : decode cX6_ritz 5 = .ok (.aload_n 0, 1) := sorry
theorem dX6_ritz_6 : decode cX6_ritz 6 = .ok (.iload_n 1, 1) := sorry
theorem dX6_ritz_7 : decode cX6_ritz 7 = .ok (.invokevirtual 236, 3) := sorry
theorem dX6_ritz_10 : decode cX6_ritz 10 = .ok (.ifCond .eq 11, 3) := sorry
theorem dX6_ritz_13 : decode cX6_ritz 13 = .ok (.aload_n 0, 1) := sorry
theorem dX6_ritz_14 : decode cX6_ritz 14 = .ok (.iload_n 2, 1) := sorry
theorem dX6_ritz_15 : decode cX6_ritz 15 = .ok (.invokevirtual 224, 3) := sorry
theorem dX6_ritz_18 : decode cX6_ritz 18 = .ok (.ifCond .ne 9, 3) := sorry
theorem dX6_ritz_21 : decode cX6_ritz 21 = .ok (.aload_n 0, 1) := sorry
theorem dX6_ritz_22 : decode cX6_ritz 22 = .ok (.iconst 1, 1) := sorry
theorem dX6_ritz_23 : decode cX6_ritz 23 = .ok (.invokevirtual 227, 3) := sorry
theorem dX6_ritz_26 : decode cX6_ritz 26 = .ok (.ireturn, 1) := sorry
theorem dX6_ritz_27 : decode cX6_ritz 27 = .ok (.aload_n 0, 1) := sorry
theorem dX6_ritz_28 : decode cX6_ritz 28 = .ok (.iload_n 1, 1) := sorry
theorem dX6_ritz_29 : decode cX6_ritz 29 = .ok (.invokevirtual 242, 3) := sorry
theorem dX6_ritz_32 : decode cX6_ritz 32 = .ok (.aload_n 0, 1) := sorry
theorem dX6_ritz_33 : decode cX6_ritz 33 = .ok (.getfield 34, 3) := sorry
theorem dX6_ritz_36 : decode cX6_ritz 36 = .ok (.iload_n 2, 1) := sorry
theorem dX6_ritz_37 : decode cX6_ritz 37 = .ok (.laload, 1) := sorry
theorem dX6_ritz_38 : decode cX6_ritz 38 = .ok (.l2i, 1) := sorry
theorem dX6_ritz_39 : decode cX6_ritz 39 = .ok (.ireturn, 1) := sorry
abbrev cX6_makeRitz : ByteArray := prog_17_method_39_code
def yX6_makeRitz : MethodName := ⟨RX6, "makeRitz", "(I)V"⟩
def dkwX6_makeRitz_3 : List UInt8 := [184, 0, 99, 80, 132, 2, 1, 167, 255, 189, 42, 180, 0, 34, 42, 182, 0, 95, 184, 0, 138, 177]
abbrev dktX6_makeRitz_3 : List UInt8 := dkwX6_makeRitz_3 ++ []
def dkwX6_makeRitz_2 : List UInt8 := [184, 0, 169, 28, 96, 47, 105, 97, 66, 132, 5, 1, 167, 255, 221, 42, 180, 0, 34, 28, 33, 20, 0, 97]
abbrev dktX6_makeRitz_2 : List UInt8 := dkwX6_makeRitz_2 ++ dktX6_makeRitz_3
def dkwX6_makeRitz_1 : List UInt8 := [21, 5, 42, 182, 0, 91, 162, 0, 32, 33, 42, 180, 0, 37, 21, 5, 47, 42, 180, 0, 25, 21, 5]
abbrev dktX6_makeRitz_1 : List UInt8 := dkwX6_makeRitz_1 ++ dktX6_makeRitz_2
def dkwX6_makeRitz_0 : List UInt8 := [42, 42, 27, 182, 0, 209, 182, 0, 212, 3, 61, 28, 42, 182, 0, 95, 162, 0, 65, 9, 66, 3, 54, 5]
abbrev dktX6_makeRitz_0 : List UInt8 := dkwX6_makeRitz_0 ++ dktX6_makeRitz_1
theorem dksX6_makeRitz_0 : cX6_makeRitz.data.toList.drop 0 = dktX6_makeRitz_0 := sorry
theorem dksX6_makeRitz_1 : cX6_makeRitz.data.toList.drop 24 = dktX6_makeRitz_1 := sorry
theorem dksX6_makeRitz_2 : cX6_makeRitz.data.toList.drop 47 = dktX6_makeRitz_2 := sorry
theorem dksX6_makeRitz_3 : cX6_makeRitz.data.toList.drop 71 = dktX6_makeRitz_3 := sorry
theorem dX6_makeRitz_0 : decode cX6_makeRitz 0 = .ok (.aload_n 0, 1) := sorry
theorem dX6_makeRitz_1 : decode cX6_makeRitz 1 = .ok (.aload_n 0, 1) := sorry
theorem dX6_makeRitz_2 : decode cX6_makeRitz 2 = .ok (.iload_n 1, 1) := sorry
theorem dX6_makeRitz_3 : decode cX6_makeRitz 3 = .ok (.invokevirtual 209, 3) := sorry
theorem dX6_makeRitz_6 : decode cX6_makeRitz 6 = .ok (.invokevirtual 212, 3) := sorry
theorem dX6_makeRitz_9 : decode cX6_makeRitz 9 = .ok (.iconst 0, 1) := sorry
theorem dX6_makeRitz_10 : decode cX6_makeRitz 10 = .ok (.istore_n 2, 1) := sorry
theorem dX6_makeRitz_11 : decode cX6_makeRitz 11 = .ok (.iload_n 2, 1) := sorry
theorem dX6_makeRitz_12 : decode cX6_makeRitz 12 = .ok (.aload_n 0, 1) := sorry
theorem dX6_makeRitz_13 : decode cX6_makeRitz 13 = .ok (.invokevirtual 95, 3) := sorry
theorem dX6_makeRitz_16 : decode cX6_makeRitz 16 = .ok (.if_icmp .ge 65, 3) := sorry
theorem dX6_makeRitz_19 : decode cX6_makeRitz 19 = .ok (.lconst 0, 1) := sorry
theorem dX6_makeRitz_20 : decode cX6_makeRitz 20 = .ok (.lstore_n 3, 1) := sorry
theorem dX6_makeRitz_21 : decode cX6_makeRitz 21 = .ok (.iconst 0, 1) := sorry
theorem dX6_makeRitz_22 : decode cX6_makeRitz 22 = .ok (.istore 5, 2) := sorry
theorem dX6_makeRitz_24 : decode cX6_makeRitz 24 = .ok (.iload 5, 2) := sorry
theorem dX6_makeRitz_26 : decode cX6_makeRitz 26 = .ok (.aload_n 0, 1) := sorry
theorem dX6_makeRitz_27 : decode cX6_makeRitz 27 = .ok (.invokevirtual 91, 3) := sorry
theorem dX6_makeRitz_30 : decode cX6_makeRitz 30 = .ok (.if_icmp .ge 32, 3) := sorry
theorem dX6_makeRitz_33 : decode cX6_makeRitz 33 = .ok (.lload_n 3, 1) := sorry
theorem dX6_makeRitz_34 : decode cX6_makeRitz 34 = .ok (.aload_n 0, 1) := sorry
theorem dX6_makeRitz_35 : decode cX6_makeRitz 35 = .ok (.getfield 37, 3) := sorry
theorem dX6_makeRitz_38 : decode cX6_makeRitz 38 = .ok (.iload 5, 2) := sorry
theorem dX6_makeRitz_40 : decode cX6_makeRitz 40 = .ok (.laload, 1) := sorry
theorem dX6_makeRitz_41 : decode cX6_makeRitz 41 = .ok (.aload_n 0, 1) := sorry
theorem dX6_makeRitz_42 : decode cX6_makeRitz 42 = .ok (.getfield 25, 3) := sorry
theorem dX6_makeRitz_45 : decode cX6_makeRitz 45 = .ok (.iload 5, 2) := sorry
theorem dX6_makeRitz_47 : decode cX6_makeRitz 47 = .ok (.invokestatic 169, 3) := sorry
theorem dX6_makeRitz_50 : decode cX6_makeRitz 50 = .ok (.iload_n 2, 1) := sorry
theorem dX6_makeRitz_51 : decode cX6_makeRitz 51 = .ok (.iadd, 1) := sorry
theorem dX6_makeRitz_52 : decode cX6_makeRitz 52 = .ok (.laload, 1) := sorry
theorem dX6_makeRitz_53 : decode cX6_makeRitz 53 = .ok (.lmul, 1) := sorry
theorem dX6_makeRitz_54 : decode cX6_makeRitz 54 = .ok (.ladd, 1) := sorry
theorem dX6_makeRitz_55 : decode cX6_makeRitz 55 = .ok (.lstore_n 3, 1) := sorry
theorem dX6_makeRitz_56 : decode cX6_makeRitz 56 = .ok (.iinc 5 1, 3) := sorry
theorem dX6_makeRitz_59 : decode cX6_makeRitz 59 = .ok (.goto (-35), 3) := sorry
theorem dX6_makeRitz_62 : decode cX6_makeRitz 62 = .ok (.aload_n 0, 1) := sorry
theorem dX6_makeRitz_63 : decode cX6_makeRitz 63 = .ok (.getfield 34, 3) := sorry
theorem dX6_makeRitz_66 : decode cX6_makeRitz 66 = .ok (.iload_n 2, 1) := sorry
theorem dX6_makeRitz_67 : decode cX6_makeRitz 67 = .ok (.lload_n 3, 1) := sorry
theorem dX6_makeRitz_68 : decode cX6_makeRitz 68 = .ok (.ldc2_w 97, 3) := sorry
theorem dX6_makeRitz_71 : decode cX6_makeRitz 71 = .ok (.invokestatic 99, 3) := sorry
theorem dX6_makeRitz_74 : decode cX6_makeRitz 74 = .ok (.lastore, 1) := sorry
theorem dX6_makeRitz_75 : decode cX6_makeRitz 75 = .ok (.iinc 2 1, 3) := sorry
theorem dX6_makeRitz_78 : decode cX6_makeRitz 78 = .ok (.goto (-67), 3) := sorry
theorem dX6_makeRitz_81 : decode cX6_makeRitz 81 = .ok (.aload_n 0, 1) := sorry
theorem dX6_makeRitz_82 : decode cX6_makeRitz 82 = .ok (.getfield 34, 3) := sorry
theorem dX6_makeRitz_85 : decode cX6_makeRitz 85 = .ok (.aload_n 0, 1) := sorry
theorem dX6_makeRitz_86 : decode cX6_makeRitz 86 = .ok (.invokevirtual 95, 3) := sorry
theorem dX6_makeRitz_89 : decode cX6_makeRitz 89 = .ok (.invokestatic 138, 3) := sorry
theorem dX6_makeRitz_92 : decode cX6_makeRitz 92 = .ok (.return_, 1) := sorry
abbrev cX6_residual : ByteArray := prog_17_method_57_code
def yX6_residual : MethodName := ⟨RX6, "residual", "(I)I"⟩
def dkwX6_residual_1 : List UInt8 := [42, 42, 27, 182, 0, 209, 42, 180, 0, 34, 3, 182, 0, 245, 136, 172]
abbrev dktX6_residual_1 : List UInt8 := dkwX6_residual_1 ++ []
def dkwX6_residual_0 : List UInt8 := [42, 3, 181, 0, 84, 42, 27, 182, 0, 236, 154, 0, 9, 42, 4, 182, 0, 227, 172, 42, 27, 182, 0, 242]
abbrev dktX6_residual_0 : List UInt8 := dkwX6_residual_0 ++ dktX6_residual_1
theorem dksX6_residual_0 : cX6_residual.data.toList.drop 0 = dktX6_residual_0 := sorry
theorem dksX6_residual_1 : cX6_residual.data.toList.drop 24 = dktX6_residual_1 := sorry
theorem dX6_residual_0 : decode cX6_residual 0 = .ok (.aload_n 0, 1) := sorry
theorem dX6_residual_1 : decode cX6_residual 1 = .ok (.iconst 0, 1) := sorry
theorem dX6_residual_2 : decode cX6_residual 2 = .ok (.putfield 84, 3) := sorry
theorem dX6_residual_5 : decode cX6_residual 5 = .ok (.aload_n 0, 1) := sorry
theorem dX6_residual_6 : decode cX6_residual 6 = .ok (.iload_n 1, 1) := sorry
theorem dX6_residual_7 : decode cX6_residual 7 = .ok (.invokevirtual 236, 3) := sorry
theorem dX6_residual_10 : decode cX6_residual 10 = .ok (.ifCond .ne 9, 3) := sorry
theorem dX6_residual_13 : decode cX6_residual 13 = .ok (.aload_n 0, 1) := sorry
theorem dX6_residual_14 : decode cX6_residual 14 = .ok (.iconst 1, 1) := sorry
theorem dX6_residual_15 : decode cX6_residual 15 = .ok (.invokevirtual 227, 3) := sorry
theorem dX6_residual_18 : decode cX6_residual 18 = .ok (.ireturn, 1) := sorry
theorem dX6_residual_19 : decode cX6_residual 19 = .ok (.aload_n 0, 1) := sorry
theorem dX6_residual_20 : decode cX6_residual 20 = .ok (.iload_n 1, 1) := sorry
theorem dX6_residual_21 : decode cX6_residual 21 = .ok (.invokevirtual 242, 3) := sorry
theorem dX6_residual_24 : decode cX6_residual 24 = .ok (.aload_n 0, 1) := sorry
theorem dX6_residual_25 : decode cX6_residual 25 = .ok (.aload_n 0, 1) := sorry
theorem dX6_residual_26 : decode cX6_residual 26 = .ok (.iload_n 1, 1) := sorry
theorem dX6_residual_27 : decode cX6_residual 27 = .ok (.invokevirtual 209, 3) := sorry
theorem dX6_residual_30 : decode cX6_residual 30 = .ok (.aload_n 0, 1) := sorry
theorem dX6_residual_31 : decode cX6_residual 31 = .ok (.getfield 34, 3) := sorry
theorem dX6_residual_34 : decode cX6_residual 34 = .ok (.iconst 0, 1) := sorry
theorem dX6_residual_35 : decode cX6_residual 35 = .ok (.invokevirtual 245, 3) := sorry
theorem dX6_residual_38 : decode cX6_residual 38 = .ok (.l2i, 1) := sorry
theorem dX6_residual_39 : decode cX6_residual 39 = .ok (.ireturn, 1) := sorry
abbrev cX6_residualOf : ByteArray := prog_17_method_40_code
def yX6_residualOf : MethodName := ⟨RX6, "residualOf", "(J[JI)J"⟩
def dkwX6_residualOf_1 : List UInt8 := [180, 0, 31, 42, 182, 0, 95, 184, 0, 111, 173]
abbrev dktX6_residualOf_1 : List UInt8 := dkwX6_residualOf_1 ++ []
def dkwX6_residualOf_0 : List UInt8 := [42, 45, 21, 4, 42, 180, 0, 31, 182, 0, 172, 42, 42, 180, 0, 31, 31, 45, 21, 4, 182, 0, 119, 42]
abbrev dktX6_residualOf_0 : List UInt8 := dkwX6_residualOf_0 ++ dktX6_residualOf_1
theorem dksX6_residualOf_0 : cX6_residualOf.data.toList.drop 0 = dktX6_residualOf_0 := sorry
theorem dksX6_residualOf_1 : cX6_residualOf.data.toList.drop 24 = dktX6_residualOf_1 := sorry
theorem dX6_residualOf_0 : decode cX6_residualOf 0 = .ok (.aload_n 0, 1) := sorry
theorem dX6_residualOf_1 : decode cX6_residualOf 1 = .ok (.aload_n 3, 1) := sorry
theorem dX6_residualOf_2 : decode cX6_residualOf 2 = .ok (.iload 4, 2) := sorry
theorem dX6_residualOf_4 : decode cX6_residualOf 4 = .ok (.aload_n 0, 1) := sorry
theorem dX6_residualOf_5 : decode cX6_residualOf 5 = .ok (.getfield 31, 3) := sorry
theorem dX6_residualOf_8 : decode cX6_residualOf 8 = .ok (.invokevirtual 172, 3) := sorry
theorem dX6_residualOf_11 : decode cX6_residualOf 11 = .ok (.aload_n 0, 1) := sorry
theorem dX6_residualOf_12 : decode cX6_residualOf 12 = .ok (.aload_n 0, 1) := sorry
theorem dX6_residualOf_13 : decode cX6_residualOf 13 = .ok (.getfield 31, 3) := sorry
theorem dX6_residualOf_16 : decode cX6_residualOf 16 = .ok (.lload_n 1, 1) := sorry
theorem dX6_residualOf_17 : decode cX6_residualOf 17 = .ok (.aload_n 3, 1) := sorry
theorem dX6_residualOf_18 : decode cX6_residualOf 18 = .ok (.iload 4, 2) := sorry
theorem dX6_residualOf_20 : decode cX6_residualOf 20 = .ok (.invokevirtual 119, 3) := sorry
theorem dX6_residualOf_23 : decode cX6_residualOf 23 = .ok (.aload_n 0, 1) := sorry
theorem dX6_residualOf_24 : decode cX6_residualOf 24 = .ok (.getfield 31, 3) := sorry
theorem dX6_residualOf_27 : decode cX6_residualOf 27 = .ok (.aload_n 0, 1) := sorry
theorem dX6_residualOf_28 : decode cX6_residualOf 28 = .ok (.invokevirtual 95, 3) := sorry
theorem dX6_residualOf_31 : decode cX6_residualOf 31 = .ok (.invokestatic 111, 3) := sorry
theorem dX6_residualOf_34 : decode cX6_residualOf 34 = .ok (.lreturn, 1) := sorry
abbrev cX6_multiply : ByteArray := prog_17_method_20_code
def yX6_multiply : MethodName := ⟨RX6, "multiply", "([JI[J)V"⟩
def dkwX6_multiply_3 : List UInt8 := [167, 255, 191, 177]
abbrev dktX6_multiply_3 : List UInt8 := dkwX6_multiply_3 ++ []
def dkwX6_multiply_2 : List UInt8 := [21, 5, 96, 47, 43, 28, 21, 5, 96, 47, 105, 97, 80, 132, 5, 1, 167, 255, 214, 132, 4, 1]
abbrev dktX6_multiply_2 : List UInt8 := dkwX6_multiply_2 ++ dktX6_multiply_3
def dkwX6_multiply_1 : List UInt8 := [182, 0, 95, 162, 0, 39, 45, 21, 4, 92, 47, 42, 180, 0, 25, 16, 18, 16, 6, 21, 4, 104, 96]
abbrev dktX6_multiply_1 : List UInt8 := dkwX6_multiply_1 ++ dktX6_multiply_2
def dkwX6_multiply_0 : List UInt8 := [3, 54, 4, 21, 4, 42, 182, 0, 95, 162, 0, 62, 45, 21, 4, 9, 80, 3, 54, 5, 21, 5, 42]
abbrev dktX6_multiply_0 : List UInt8 := dkwX6_multiply_0 ++ dktX6_multiply_1
theorem dksX6_multiply_0 : cX6_multiply.data.toList.drop 0 = dktX6_multiply_0 := sorry
theorem dksX6_multiply_1 : cX6_multiply.data.toList.drop 23 = dktX6_multiply_1 := sorry
theorem dksX6_multiply_2 : cX6_multiply.data.toList.drop 46 = dktX6_multiply_2 := sorry
theorem dksX6_multiply_3 : cX6_multiply.data.toList.drop 68 = dktX6_multiply_3 := sorry
theorem dX6_multiply_0 : decode cX6_multiply 0 = .ok (.iconst 0, 1) := sorry
theorem dX6_multiply_1 : decode cX6_multiply 1 = .ok (.istore 4, 2) := sorry
theorem dX6_multiply_3 : decode cX6_multiply 3 = .ok (.iload 4, 2) := sorry
theorem dX6_multiply_5 : decode cX6_multiply 5 = .ok (.aload_n 0, 1) := sorry
theorem dX6_multiply_6 : decode cX6_multiply 6 = .ok (.invokevirtual 95, 3) := sorry
theorem dX6_multiply_9 : decode cX6_multiply 9 = .ok (.if_icmp .ge 62, 3) := sorry
theorem dX6_multiply_12 : decode cX6_multiply 12 = .ok (.aload_n 3, 1) := sorry
theorem dX6_multiply_13 : decode cX6_multiply 13 = .ok (.iload 4, 2) := sorry
theorem dX6_multiply_15 : decode cX6_multiply 15 = .ok (.lconst 0, 1) := sorry
theorem dX6_multiply_16 : decode cX6_multiply 16 = .ok (.lastore, 1) := sorry
theorem dX6_multiply_17 : decode cX6_multiply 17 = .ok (.iconst 0, 1) := sorry
theorem dX6_multiply_18 : decode cX6_multiply 18 = .ok (.istore 5, 2) := sorry
theorem dX6_multiply_20 : decode cX6_multiply 20 = .ok (.iload 5, 2) := sorry
theorem dX6_multiply_22 : decode cX6_multiply 22 = .ok (.aload_n 0, 1) := sorry
theorem dX6_multiply_23 : decode cX6_multiply 23 = .ok (.invokevirtual 95, 3) := sorry
theorem dX6_multiply_26 : decode cX6_multiply 26 = .ok (.if_icmp .ge 39, 3) := sorry
theorem dX6_multiply_29 : decode cX6_multiply 29 = .ok (.aload_n 3, 1) := sorry
theorem dX6_multiply_30 : decode cX6_multiply 30 = .ok (.iload 4, 2) := sorry
theorem dX6_multiply_32 : decode cX6_multiply 32 = .ok (.dup2, 1) := sorry
theorem dX6_multiply_33 : decode cX6_multiply 33 = .ok (.laload, 1) := sorry
theorem dX6_multiply_34 : decode cX6_multiply 34 = .ok (.aload_n 0, 1) := sorry
theorem dX6_multiply_35 : decode cX6_multiply 35 = .ok (.getfield 25, 3) := sorry
theorem dX6_multiply_38 : decode cX6_multiply 38 = .ok (.bipush 18, 2) := sorry
theorem dX6_multiply_40 : decode cX6_multiply 40 = .ok (.bipush 6, 2) := sorry
theorem dX6_multiply_42 : decode cX6_multiply 42 = .ok (.iload 4, 2) := sorry
theorem dX6_multiply_44 : decode cX6_multiply 44 = .ok (.imul, 1) := sorry
theorem dX6_multiply_45 : decode cX6_multiply 45 = .ok (.iadd, 1) := sorry
theorem dX6_multiply_46 : decode cX6_multiply 46 = .ok (.iload 5, 2) := sorry
theorem dX6_multiply_48 : decode cX6_multiply 48 = .ok (.iadd, 1) := sorry
theorem dX6_multiply_49 : decode cX6_multiply 49 = .ok (.laload, 1) := sorry
theorem dX6_multiply_50 : decode cX6_multiply 50 = .ok (.aload_n 1, 1) := sorry
theorem dX6_multiply_51 : decode cX6_multiply 51 = .ok (.iload_n 2, 1) := sorry
theorem dX6_multiply_52 : decode cX6_multiply 52 = .ok (.iload 5, 2) := sorry
theorem dX6_multiply_54 : decode cX6_multiply 54 = .ok (.iadd, 1) := sorry
theorem dX6_multiply_55 : decode cX6_multiply 55 = .ok (.laload, 1) := sorry
theorem dX6_multiply_56 : decode cX6_multiply 56 = .ok (.lmul, 1) := sorry
theorem dX6_multiply_57 : decode cX6_multiply 57 = .ok (.ladd, 1) := sorry
theorem dX6_multiply_58 : decode cX6_multiply 58 = .ok (.lastore, 1) := sorry
theorem dX6_multiply_59 : decode cX6_multiply 59 = .ok (.iinc 5 1, 3) := sorry
theorem dX6_multiply_62 : decode cX6_multiply 62 = .ok (.goto (-42), 3) := sorry
theorem dX6_multiply_65 : decode cX6_multiply 65 = .ok (.iinc 4 1, 3) := sorry
theorem dX6_multiply_68 : decode cX6_multiply 68 = .ok (.goto (-65), 3) := sorry
theorem dX6_multiply_71 : decode cX6_multiply 71 = .ok (.return_, 1) := sorry
abbrev cX6_countBelow : ByteArray := prog_17_method_58_code
def yX6_countBelow : MethodName := ⟨RX6, "countBelow", "(I)I"⟩
def dkwX6_countBelow_0 : List UInt8 := [42, 3, 181, 0, 84, 42, 27, 133, 182, 0, 203, 172]
abbrev dktX6_countBelow_0 : List UInt8 := dkwX6_countBelow_0 ++ []
theorem dksX6_countBelow_0 : cX6_countBelow.data.toList.drop 0 = dktX6_countBelow_0 := sorry
theorem dX6_countBelow_0 : decode cX6_countBelow 0 = .ok (.aload_n 0, 1) := sorry
theorem dX6_countBelow_1 : decode cX6_countBelow 1 = .ok (.iconst 0, 1) := sorry
theorem dX6_countBelow_2 : decode cX6_countBelow 2 = .ok (.putfield 84, 3) := sorry
theorem dX6_countBelow_5 : decode cX6_countBelow 5 = .ok (.aload_n 0, 1) := sorry
theorem dX6_countBelow_6 : decode cX6_countBelow 6 = .ok (.iload_n 1, 1) := sorry
theorem dX6_countBelow_7 : decode cX6_countBelow 7 = .ok (.i2l, 1) := sorry
theorem dX6_countBelow_8 : decode cX6_countBelow 8 = .ok (.invokevirtual 203, 3) := sorry
theorem dX6_countBelow_11 : decode cX6_countBelow 11 = .ok (.ireturn, 1) := sorry
abbrev cX6_nearest : ByteArray := prog_17_method_59_code
def yX6_nearest : MethodName := ⟨RX6, "nearest", "(I)I"⟩
def dkwX6_nearest_2 : List UInt8 := [21, 5, 61, 22, 6, 66, 132, 5, 1, 167, 255, 212, 28, 172]
abbrev dktX6_nearest_2 : List UInt8 := dkwX6_nearest_2 ++ []
def dkwX6_nearest_1 : List UInt8 := [182, 0, 209, 27, 133, 101, 184, 0, 147, 55, 6, 28, 2, 159, 0, 10, 22, 6, 33, 148, 156, 0, 9]
abbrev dktX6_nearest_1 : List UInt8 := dkwX6_nearest_1 ++ dktX6_nearest_2
def dkwX6_nearest_0 : List UInt8 := [42, 3, 181, 0, 84, 2, 61, 9, 66, 3, 54, 5, 21, 5, 42, 182, 0, 91, 162, 0, 41, 42, 21, 5]
abbrev dktX6_nearest_0 : List UInt8 := dkwX6_nearest_0 ++ dktX6_nearest_1
theorem dksX6_nearest_0 : cX6_nearest.data.toList.drop 0 = dktX6_nearest_0 := sorry
theorem dksX6_nearest_1 : cX6_nearest.data.toList.drop 24 = dktX6_nearest_1 := sorry
theorem dksX6_nearest_2 : cX6_nearest.data.toList.drop 47 = dktX6_nearest_2 := sorry
theorem dX6_nearest_0 : decode cX6_nearest 0 = .ok (.aload_n 0, 1) := sorry
theorem dX6_nearest_1 : decode cX6_nearest 1 = .ok (.iconst 0, 1) := sorry
theorem dX6_nearest_2 : decode cX6_nearest 2 = .ok (.putfield 84, 3) := sorry
theorem dX6_nearest_5 : decode cX6_nearest 5 = .ok (.iconst (-1), 1) := sorry
theorem dX6_nearest_6 : decode cX6_nearest 6 = .ok (.istore_n 2, 1) := sorry
theorem dX6_nearest_7 : decode cX6_nearest 7 = .ok (.lconst 0, 1) := sorry
theorem dX6_nearest_8 : decode cX6_nearest 8 = .ok (.lstore_n 3, 1) := sorry
theorem dX6_nearest_9 : decode cX6_nearest 9 = .ok (.iconst 0, 1) := sorry
theorem dX6_nearest_10 : decode cX6_nearest 10 = .ok (.istore 5, 2) := sorry
theorem dX6_nearest_12 : decode cX6_nearest 12 = .ok (.iload 5, 2) := sorry
theorem dX6_nearest_14 : decode cX6_nearest 14 = .ok (.aload_n 0, 1) := sorry
theorem dX6_nearest_15 : decode cX6_nearest 15 = .ok (.invokevirtual 91, 3) := sorry
theorem dX6_nearest_18 : decode cX6_nearest 18 = .ok (.if_icmp .ge 41, 3) := sorry
theorem dX6_nearest_21 : decode cX6_nearest 21 = .ok (.aload_n 0, 1) := sorry
theorem dX6_nearest_22 : decode cX6_nearest 22 = .ok (.iload 5, 2) := sorry
theorem dX6_nearest_24 : decode cX6_nearest 24 = .ok (.invokevirtual 209, 3) := sorry
theorem dX6_nearest_27 : decode cX6_nearest 27 = .ok (.iload_n 1, 1) := sorry
theorem dX6_nearest_28 : decode cX6_nearest 28 = .ok (.i2l, 1) := sorry
theorem dX6_nearest_29 : decode cX6_nearest 29 = .ok (.lsub, 1) := sorry
theorem dX6_nearest_30 : decode cX6_nearest 30 = .ok (.invokestatic 147, 3) := sorry
theorem dX6_nearest_33 : decode cX6_nearest 33 = .ok (.lstore 6, 2) := sorry
theorem dX6_nearest_35 : decode cX6_nearest 35 = .ok (.iload_n 2, 1) := sorry
theorem dX6_nearest_36 : decode cX6_nearest 36 = .ok (.iconst (-1), 1) := sorry
theorem dX6_nearest_37 : decode cX6_nearest 37 = .ok (.if_icmp .eq 10, 3) := sorry
theorem dX6_nearest_40 : decode cX6_nearest 40 = .ok (.lload 6, 2) := sorry
theorem dX6_nearest_42 : decode cX6_nearest 42 = .ok (.lload_n 3, 1) := sorry
theorem dX6_nearest_43 : decode cX6_nearest 43 = .ok (.lcmp, 1) := sorry
theorem dX6_nearest_44 : decode cX6_nearest 44 = .ok (.ifCond .ge 9, 3) := sorry
theorem dX6_nearest_47 : decode cX6_nearest 47 = .ok (.iload 5, 2) := sorry
theorem dX6_nearest_49 : decode cX6_nearest 49 = .ok (.istore_n 2, 1) := sorry
theorem dX6_nearest_50 : decode cX6_nearest 50 = .ok (.lload 6, 2) := sorry
theorem dX6_nearest_52 : decode cX6_nearest 52 = .ok (.lstore_n 3, 1) := sorry
theorem dX6_nearest_53 : decode cX6_nearest 53 = .ok (.iinc 5 1, 3) := sorry
theorem dX6_nearest_56 : decode cX6_nearest 56 = .ok (.goto (-44), 3) := sorry
theorem dX6_nearest_59 : decode cX6_nearest 59 = .ok (.iload_n 2, 1) := sorry
theorem dX6_nearest_60 : decode cX6_nearest 60 = .ok (.ireturn, 1) := sorry
abbrev cX6_lockedCount : ByteArray := prog_17_method_63_code
def yX6_lockedCount : MethodName := ⟨RX6, "lockedCount", "()I"⟩
def dkwX6_lockedCount_0 : List UInt8 := [42, 3, 181, 0, 84, 42, 182, 0, 123, 172]
abbrev dktX6_lockedCount_0 : List UInt8 := dkwX6_lockedCount_0 ++ []
theorem dksX6_lockedCount_0 : cX6_lockedCount.data.toList.drop 0 = dktX6_lockedCount_0 := sorry
theorem dX6_lockedCount_0 : decode cX6_lockedCount 0 = .ok (.aload_n 0, 1) := sorry
theorem dX6_lockedCount_1 : decode cX6_lockedCount 1 = .ok (.iconst 0, 1) := sorry
theorem dX6_lockedCount_2 : decode cX6_lockedCount 2 = .ok (.putfield 84, 3) := sorry
theorem dX6_lockedCount_5 : decode cX6_lockedCount 5 = .ok (.aload_n 0, 1) := sorry
theorem dX6_lockedCount_6 : decode cX6_lockedCount 6 = .ok (.invokevirtual 123, 3) := sorry
theorem dX6_lockedCount_9 : decode cX6_lockedCount 9 = .ok (.ireturn, 1) := sorry
abbrev cX6_locked : ByteArray := prog_17_method_64_code
def yX6_locked : MethodName := ⟨RX6, "locked", "(II)I"⟩
def dkwX6_locked_2 : List UInt8 := [28, 182, 0, 249, 136, 172]
abbrev dktX6_locked_2 : List UInt8 := dkwX6_locked_2 ++ []
def dkwX6_locked_1 : List UInt8 := [154, 0, 9, 42, 4, 182, 0, 227, 172, 28, 5, 160, 0, 11, 42, 27, 182, 0, 255, 167, 0, 9, 42, 27]
abbrev dktX6_locked_1 : List UInt8 := dkwX6_locked_1 ++ dktX6_locked_2
def dkwX6_locked_0 : List UInt8 := [42, 3, 181, 0, 84, 42, 27, 182, 0, 252, 153, 0, 15, 28, 133, 9, 20, 0, 105, 184, 0, 220]
abbrev dktX6_locked_0 : List UInt8 := dkwX6_locked_0 ++ dktX6_locked_1
theorem dksX6_locked_0 : cX6_locked.data.toList.drop 0 = dktX6_locked_0 := sorry
theorem dksX6_locked_1 : cX6_locked.data.toList.drop 22 = dktX6_locked_1 := sorry
theorem dksX6_locked_2 : cX6_locked.data.toList.drop 46 = dktX6_locked_2 := sorry
theorem dX6_locked_0 : decode cX6_locked 0 = .ok (.aload_n 0, 1) := sorry
theorem dX6_locked_1 : decode cX6_locked 1 = .ok (.iconst 0, 1) := sorry
theorem dX6_locked_2 : decode cX6_locked 2 = .ok (.putfield 84, 3) := sorry
theorem dX6_locked_5 : decode cX6_locked 5 = .ok (.aload_n 0, 1) := sorry
theorem dX6_locked_6 : decode cX6_locked 6 = .ok (.iload_n 1, 1) := sorry
theorem dX6_locked_7 : decode cX6_locked 7 = .ok (.invokevirtual 252, 3) := sorry
theorem dX6_locked_10 : decode cX6_locked 10 = .ok (.ifCond .eq 15, 3) := sorry
theorem dX6_locked_13 : decode cX6_locked 13 = .ok (.iload_n 2, 1) := sorry
theorem dX6_locked_14 : decode cX6_locked 14 = .ok (.i2l, 1) := sorry
theorem dX6_locked_15 : decode cX6_locked 15 = .ok (.lconst 0, 1) := sorry
theorem dX6_locked_16 : decode cX6_locked 16 = .ok (.ldc2_w 105, 3) := sorry
theorem dX6_locked_19 : decode cX6_locked 19 = .ok (.invokestatic 220, 3) := sorry
theorem dX6_locked_22 : decode cX6_locked 22 = .ok (.ifCond .ne 9, 3) := sorry
theorem dX6_locked_25 : decode cX6_locked 25 = .ok (.aload_n 0, 1) := sorry
theorem dX6_locked_26 : decode cX6_locked 26 = .ok (.iconst 1, 1) := sorry
theorem dX6_locked_27 : decode cX6_locked 27 = .ok (.invokevirtual 227, 3) := sorry
theorem dX6_locked_30 : decode cX6_locked 30 = .ok (.ireturn, 1) := sorry
theorem dX6_locked_31 : decode cX6_locked 31 = .ok (.iload_n 2, 1) := sorry
theorem dX6_locked_32 : decode cX6_locked 32 = .ok (.iconst 2, 1) := sorry
theorem dX6_locked_33 : decode cX6_locked 33 = .ok (.if_icmp .ne 11, 3) := sorry
theorem dX6_locked_36 : decode cX6_locked 36 = .ok (.aload_n 0, 1) := sorry
theorem dX6_locked_37 : decode cX6_locked 37 = .ok (.iload_n 1, 1) := sorry
theorem dX6_locked_38 : decode cX6_locked 38 = .ok (.invokevirtual 255, 3) := sorry
theorem dX6_locked_41 : decode cX6_locked 41 = .ok (.goto 9, 3) := sorry
theorem dX6_locked_44 : decode cX6_locked 44 = .ok (.aload_n 0, 1) := sorry
theorem dX6_locked_45 : decode cX6_locked 45 = .ok (.iload_n 1, 1) := sorry
theorem dX6_locked_46 : decode cX6_locked 46 = .ok (.iload_n 2, 1) := sorry
theorem dX6_locked_47 : decode cX6_locked 47 = .ok (.invokevirtual 249, 3) := sorry
theorem dX6_locked_50 : decode cX6_locked 50 = .ok (.l2i, 1) := sorry
theorem dX6_locked_51 : decode cX6_locked 51 = .ok (.ireturn, 1) := sorry
abbrev cX6_isLocked : ByteArray := prog_17_method_60_code
def yX6_isLocked : MethodName := ⟨RX6, "isLocked", "(I)Z"⟩
def dkwX6_isLocked_0 : List UInt8 := [27, 133, 9, 42, 182, 0, 123, 133, 10, 101, 184, 0, 220, 172]
abbrev dktX6_isLocked_0 : List UInt8 := dkwX6_isLocked_0 ++ []
theorem dksX6_isLocked_0 : cX6_isLocked.data.toList.drop 0 = dktX6_isLocked_0 := sorry
theorem dX6_isLocked_0 : decode cX6_isLocked 0 = .ok (.iload_n 1, 1) := sorry
theorem dX6_isLocked_1 : decode cX6_isLocked 1 = .ok (.i2l, 1) := sorry
theorem dX6_isLocked_2 : decode cX6_isLocked 2 = .ok (.lconst 0, 1) := sorry
theorem dX6_isLocked_3 : decode cX6_isLocked 3 = .ok (.aload_n 0, 1) := sorry
theorem dX6_isLocked_4 : decode cX6_isLocked 4 = .ok (.invokevirtual 123, 3) := sorry
theorem dX6_isLocked_7 : decode cX6_isLocked 7 = .ok (.i2l, 1) := sorry
theorem dX6_isLocked_8 : decode cX6_isLocked 8 = .ok (.lconst 1, 1) := sorry
theorem dX6_isLocked_9 : decode cX6_isLocked 9 = .ok (.lsub, 1) := sorry
theorem dX6_isLocked_10 : decode cX6_isLocked 10 = .ok (.invokestatic 220, 3) := sorry
theorem dX6_isLocked_13 : decode cX6_isLocked 13 = .ok (.ireturn, 1) := sorry
abbrev cX6_lockedResidual : ByteArray := prog_17_method_62_code
def yX6_lockedResidual : MethodName := ⟨RX6, "lockedResidual", "(I)J"⟩
def dkwX6_lockedResidual_0 : List UInt8 := [42, 42, 27, 3, 182, 0, 249, 42, 180, 0, 25, 27, 184, 0, 126, 5, 96, 182, 0, 245, 173]
abbrev dktX6_lockedResidual_0 : List UInt8 := dkwX6_lockedResidual_0 ++ []
theorem dksX6_lockedResidual_0 : cX6_lockedResidual.data.toList.drop 0 = dktX6_lockedResidual_0 := sorry
theorem dX6_lockedResidual_0 : decode cX6_lockedResidual 0 = .ok (.aload_n 0, 1) := sorry
theorem dX6_lockedResidual_1 : decode cX6_lockedResidual 1 = .ok (.aload_n 0, 1) := sorry
theorem dX6_lockedResidual_2 : decode cX6_lockedResidual 2 = .ok (.iload_n 1, 1) := sorry
theorem dX6_lockedResidual_3 : decode cX6_lockedResidual 3 = .ok (.iconst 0, 1) := sorry
theorem dX6_lockedResidual_4 : decode cX6_lockedResidual 4 = .ok (.invokevirtual 249, 3) := sorry
theorem dX6_lockedResidual_7 : decode cX6_lockedResidual 7 = .ok (.aload_n 0, 1) := sorry
theorem dX6_lockedResidual_8 : decode cX6_lockedResidual 8 = .ok (.getfield 25, 3) := sorry
theorem dX6_lockedResidual_11 : decode cX6_lockedResidual 11 = .ok (.iload_n 1, 1) := sorry
theorem dX6_lockedResidual_12 : decode cX6_lockedResidual 12 = .ok (.invokestatic 126, 3) := sorry
theorem dX6_lockedResidual_15 : decode cX6_lockedResidual 15 = .ok (.iconst 2, 1) := sorry
theorem dX6_lockedResidual_16 : decode cX6_lockedResidual 16 = .ok (.iadd, 1) := sorry
theorem dX6_lockedResidual_17 : decode cX6_lockedResidual 17 = .ok (.invokevirtual 245, 3) := sorry
theorem dX6_lockedResidual_20 : decode cX6_lockedResidual 20 = .ok (.lreturn, 1) := sorry
abbrev cX6_ofLock : ByteArray := prog_17_method_61_code
def yX6_ofLock : MethodName := ⟨RX6, "ofLock", "(II)J"⟩
def dkwX6_ofLock_0 : List UInt8 := [42, 180, 0, 25, 27, 184, 0, 126, 28, 96, 47, 173]
abbrev dktX6_ofLock_0 : List UInt8 := dkwX6_ofLock_0 ++ []
theorem dksX6_ofLock_0 : cX6_ofLock.data.toList.drop 0 = dktX6_ofLock_0 := sorry
theorem dX6_ofLock_0 : decode cX6_ofLock 0 = .ok (.aload_n 0, 1) := sorry
theorem dX6_ofLock_1 : decode cX6_ofLock 1 = .ok (.getfield 25, 3) := sorry
theorem dX6_ofLock_4 : decode cX6_ofLock 4 = .ok (.iload_n 1, 1) := sorry
theorem dX6_ofLock_5 : decode cX6_ofLock 5 = .ok (.invokestatic 126, 3) := sorry
theorem dX6_ofLock_8 : decode cX6_ofLock 8 = .ok (.iload_n 2, 1) := sorry
theorem dX6_ofLock_9 : decode cX6_ofLock 9 = .ok (.iadd, 1) := sorry
theorem dX6_ofLock_10 : decode cX6_ofLock 10 = .ok (.laload, 1) := sorry
theorem dX6_ofLock_11 : decode cX6_ofLock 11 = .ok (.lreturn, 1) := sorry
abbrev cX6_lockedVector : ByteArray := prog_17_method_65_code
def yX6_lockedVector : MethodName := ⟨RX6, "lockedVector", "(II)I"⟩
def dkwX6_lockedVector_1 : List UInt8 := [28, 96, 182, 0, 249, 136, 167, 0, 8, 42, 4, 182, 0, 227, 172]
abbrev dktX6_lockedVector_1 : List UInt8 := dkwX6_lockedVector_1 ++ []
def dkwX6_lockedVector_0 : List UInt8 := [42, 3, 181, 0, 84, 42, 27, 182, 0, 252, 153, 0, 23, 42, 28, 182, 0, 224, 153, 0, 15, 42, 27, 5]
abbrev dktX6_lockedVector_0 : List UInt8 := dkwX6_lockedVector_0 ++ dktX6_lockedVector_1
theorem dksX6_lockedVector_0 : cX6_lockedVector.data.toList.drop 0 = dktX6_lockedVector_0 := sorry
theorem dksX6_lockedVector_1 : cX6_lockedVector.data.toList.drop 24 = dktX6_lockedVector_1 := sorry
theorem dX6_lockedVector_0 : decode cX6_lockedVector 0 = .ok (.aload_n 0, 1) := sorry
theorem dX6_lockedVector_1 : decode cX6_lockedVector 1 = .ok (.iconst 0, 1) := sorry
theorem dX6_lockedVector_2 : decode cX6_lockedVector 2 = .ok (.putfield 84, 3) := sorry
theorem dX6_lockedVector_5 : decode cX6_lockedVector 5 = .ok (.aload_n 0, 1) := sorry
theorem dX6_lockedVector_6 : decode cX6_lockedVector 6 = .ok (.iload_n 1, 1) := sorry
theorem dX6_lockedVector_7 : decode cX6_lockedVector 7 = .ok (.invokevirtual 252, 3) := sorry
theorem dX6_lockedVector_10 : decode cX6_lockedVector 10 = .ok (.ifCond .eq 23, 3) := sorry
theorem dX6_lockedVector_13 : decode cX6_lockedVector 13 = .ok (.aload_n 0, 1) := sorry
theorem dX6_lockedVector_14 : decode cX6_lockedVector 14 = .ok (.iload_n 2, 1) := sorry
theorem dX6_lockedVector_15 : decode cX6_lockedVector 15 = .ok (.invokevirtual 224, 3) := sorry
theorem dX6_lockedVector_18 : decode cX6_lockedVector 18 = .ok (.ifCond .eq 15, 3) := sorry
theorem dX6_lockedVector_21 : decode cX6_lockedVector 21 = .ok (.aload_n 0, 1) := sorry
theorem dX6_lockedVector_22 : decode cX6_lockedVector 22 = .ok (.iload_n 1, 1) := sorry
theorem dX6_lockedVector_23 : decode cX6_lockedVector 23 = .ok (.iconst 2, 1) := sorry
theorem dX6_lockedVector_24 : decode cX6_lockedVector 24 = .ok (.iload_n 2, 1) := sorry
theorem dX6_lockedVector_25 : decode cX6_lockedVector 25 = .ok (.iadd, 1) := sorry
theorem dX6_lockedVector_26 : decode cX6_lockedVector 26 = .ok (.invokevirtual 249, 3) := sorry
theorem dX6_lockedVector_29 : decode cX6_lockedVector 29 = .ok (.l2i, 1) := sorry
theorem dX6_lockedVector_30 : decode cX6_lockedVector 30 = .ok (.goto 8, 3) := sorry
theorem dX6_lockedVector_33 : decode cX6_lockedVector 33 = .ok (.aload_n 0, 1) := sorry
theorem dX6_lockedVector_34 : decode cX6_lockedVector 34 = .ok (.iconst 1, 1) := sorry
theorem dX6_lockedVector_35 : decode cX6_lockedVector 35 = .ok (.invokevirtual 227, 3) := sorry
theorem dX6_lockedVector_38 : decode cX6_lockedVector 38 = .ok (.ireturn, 1) := sorry
abbrev cX6_firstBroken : ByteArray := prog_17_method_67_code
def yX6_firstBroken : MethodName := ⟨RX6, "firstBroken", "(I)I"⟩
def dkwX6_firstBroken_1 : List UInt8 := [162, 0, 20, 42, 28, 27, 182, 1, 2, 153, 0, 5, 28, 172, 132, 2, 1, 167, 255, 234, 2, 172]
abbrev dktX6_firstBroken_1 : List UInt8 := dkwX6_firstBroken_1 ++ []
def dkwX6_firstBroken_0 : List UInt8 := [42, 3, 181, 0, 84, 27, 156, 0, 9, 42, 4, 182, 0, 227, 172, 3, 61, 28, 42, 182, 0, 123]
abbrev dktX6_firstBroken_0 : List UInt8 := dkwX6_firstBroken_0 ++ dktX6_firstBroken_1
theorem dksX6_firstBroken_0 : cX6_firstBroken.data.toList.drop 0 = dktX6_firstBroken_0 := sorry
theorem dksX6_firstBroken_1 : cX6_firstBroken.data.toList.drop 22 = dktX6_firstBroken_1 := sorry
theorem dX6_firstBroken_0 : decode cX6_firstBroken 0 = .ok (.aload_n 0, 1) := sorry
theorem dX6_firstBroken_1 : decode cX6_firstBroken 1 = .ok (.iconst 0, 1) := sorry
theorem dX6_firstBroken_2 : decode cX6_firstBroken 2 = .ok (.putfield 84, 3) := sorry
theorem dX6_firstBroken_5 : decode cX6_firstBroken 5 = .ok (.iload_n 1, 1) := sorry
theorem dX6_firstBroken_6 : decode cX6_firstBroken 6 = .ok (.ifCond .ge 9, 3) := sorry
theorem dX6_firstBroken_9 : decode cX6_firstBroken 9 = .ok (.aload_n 0, 1) := sorry
theorem dX6_firstBroken_10 : decode cX6_firstBroken 10 = .ok (.iconst 1, 1) := sorry
theorem dX6_firstBroken_11 : decode cX6_firstBroken 11 = .ok (.invokevirtual 227, 3) := sorry
theorem dX6_firstBroken_14 : decode cX6_firstBroken 14 = .ok (.ireturn, 1) := sorry
theorem dX6_firstBroken_15 : decode cX6_firstBroken 15 = .ok (.iconst 0, 1) := sorry
theorem dX6_firstBroken_16 : decode cX6_firstBroken 16 = .ok (.istore_n 2, 1) := sorry
theorem dX6_firstBroken_17 : decode cX6_firstBroken 17 = .ok (.iload_n 2, 1) := sorry
theorem dX6_firstBroken_18 : decode cX6_firstBroken 18 = .ok (.aload_n 0, 1) := sorry
theorem dX6_firstBroken_19 : decode cX6_firstBroken 19 = .ok (.invokevirtual 123, 3) := sorry
theorem dX6_firstBroken_22 : decode cX6_firstBroken 22 = .ok (.if_icmp .ge 20, 3) := sorry
theorem dX6_firstBroken_25 : decode cX6_firstBroken 25 = .ok (.aload_n 0, 1) := sorry
theorem dX6_firstBroken_26 : decode cX6_firstBroken 26 = .ok (.iload_n 2, 1) := sorry
theorem dX6_firstBroken_27 : decode cX6_firstBroken 27 = .ok (.iload_n 1, 1) := sorry
theorem dX6_firstBroken_28 : decode cX6_firstBroken 28 = .ok (.invokevirtual 258, 3) := sorry
theorem dX6_firstBroken_31 : decode cX6_firstBroken 31 = .ok (.ifCond .eq 5, 3) := sorry
theorem dX6_firstBroken_34 : decode cX6_firstBroken 34 = .ok (.iload_n 2, 1) := sorry
theorem dX6_firstBroken_35 : decode cX6_firstBroken 35 = .ok (.ireturn, 1) := sorry
theorem dX6_firstBroken_36 : decode cX6_firstBroken 36 = .ok (.iinc 2 1, 3) := sorry
theorem dX6_firstBroken_39 : decode cX6_firstBroken 39 = .ok (.goto (-22), 3) := sorry
theorem dX6_firstBroken_42 : decode cX6_firstBroken 42 = .ok (.iconst (-1), 1) := sorry
theorem dX6_firstBroken_43 : decode cX6_firstBroken 43 = .ok (.ireturn, 1) := sorry
abbrev cX6_isBroken : ByteArray := prog_17_method_66_code
def yX6_isBroken : MethodName := ⟨RX6, "isBroken", "(II)Z"⟩
def dkwX6_isBroken_0 : List UInt8 := [42, 27, 182, 0, 255, 42, 27, 4, 182, 0, 249, 28, 133, 97, 148, 158, 0, 7, 4, 167, 0, 4, 3, 172]
abbrev dktX6_isBroken_0 : List UInt8 := dkwX6_isBroken_0 ++ []
theorem dksX6_isBroken_0 : cX6_isBroken.data.toList.drop 0 = dktX6_isBroken_0 := sorry
theorem dX6_isBroken_0 : decode cX6_isBroken 0 = .ok (.aload_n 0, 1) := sorry
theorem dX6_isBroken_1 : decode cX6_isBroken 1 = .ok (.iload_n 1, 1) := sorry
theorem dX6_isBroken_2 : decode cX6_isBroken 2 = .ok (.invokevirtual 255, 3) := sorry
theorem dX6_isBroken_5 : decode cX6_isBroken 5 = .ok (.aload_n 0, 1) := sorry
theorem dX6_isBroken_6 : decode cX6_isBroken 6 = .ok (.iload_n 1, 1) := sorry
theorem dX6_isBroken_7 : decode cX6_isBroken 7 = .ok (.iconst 1, 1) := sorry
theorem dX6_isBroken_8 : decode cX6_isBroken 8 = .ok (.invokevirtual 249, 3) := sorry
theorem dX6_isBroken_11 : decode cX6_isBroken 11 = .ok (.iload_n 2, 1) := sorry
theorem dX6_isBroken_12 : decode cX6_isBroken 12 = .ok (.i2l, 1) := sorry
theorem dX6_isBroken_13 : decode cX6_isBroken 13 = .ok (.ladd, 1) := sorry
theorem dX6_isBroken_14 : decode cX6_isBroken 14 = .ok (.lcmp, 1) := sorry
theorem dX6_isBroken_15 : decode cX6_isBroken 15 = .ok (.ifCond .le 7, 3) := sorry
theorem dX6_isBroken_18 : decode cX6_isBroken 18 = .ok (.iconst 1, 1) := sorry
theorem dX6_isBroken_19 : decode cX6_isBroken 19 = .ok (.goto 4, 3) := sorry
theorem dX6_isBroken_22 : decode cX6_isBroken 22 = .ok (.iconst 0, 1) := sorry
theorem dX6_isBroken_23 : decode cX6_isBroken 23 = .ok (.ireturn, 1) := sorry
abbrev cX6_lock : ByteArray := prog_17_method_70_code
def yX6_lock : MethodName := ⟨RX6, "lock", "(I)I"⟩
def dkwX6_lock_1 : List UInt8 := [61, 28, 153, 0, 5, 28, 172, 42, 182, 1, 9, 42, 27, 182, 1, 12, 172]
abbrev dktX6_lock_1 : List UInt8 := dkwX6_lock_1 ++ []
def dkwX6_lock_0 : List UInt8 := [42, 3, 181, 0, 84, 42, 27, 182, 0, 236, 154, 0, 9, 42, 4, 182, 0, 227, 172, 42, 27, 182, 1, 6]
abbrev dktX6_lock_0 : List UInt8 := dkwX6_lock_0 ++ dktX6_lock_1
theorem dksX6_lock_0 : cX6_lock.data.toList.drop 0 = dktX6_lock_0 := sorry
theorem dksX6_lock_1 : cX6_lock.data.toList.drop 24 = dktX6_lock_1 := sorry
theorem dX6_lock_0 : decode cX6_lock 0 = .ok (.aload_n 0, 1) := sorry
theorem dX6_lock_1 : decode cX6_lock 1 = .ok (.iconst 0, 1) := sorry
theorem dX6_lock_2 : decode cX6_lock 2 = .ok (.putfield 84, 3) := sorry
theorem dX6_lock_5 : decode cX6_lock 5 = .ok (.aload_n 0, 1) := sorry
theorem dX6_lock_6 : decode cX6_lock 6 = .ok (.iload_n 1, 1) := sorry
theorem dX6_lock_7 : decode cX6_lock 7 = .ok (.invokevirtual 236, 3) := sorry
theorem dX6_lock_10 : decode cX6_lock 10 = .ok (.ifCond .ne 9, 3) := sorry
theorem dX6_lock_13 : decode cX6_lock 13 = .ok (.aload_n 0, 1) := sorry
theorem dX6_lock_14 : decode cX6_lock 14 = .ok (.iconst 1, 1) := sorry
theorem dX6_lock_15 : decode cX6_lock 15 = .ok (.invokevirtual 227, 3) := sorry
theorem dX6_lock_18 : decode cX6_lock 18 = .ok (.ireturn, 1) := sorry
theorem dX6_lock_19 : decode cX6_lock 19 = .ok (.aload_n 0, 1) := sorry
theorem dX6_lock_20 : decode cX6_lock 20 = .ok (.iload_n 1, 1) := sorry
theorem dX6_lock_21 : decode cX6_lock 21 = .ok (.invokevirtual 262, 3) := sorry
theorem dX6_lock_24 : decode cX6_lock 24 = .ok (.istore_n 2, 1) := sorry
theorem dX6_lock_25 : decode cX6_lock 25 = .ok (.iload_n 2, 1) := sorry
theorem dX6_lock_26 : decode cX6_lock 26 = .ok (.ifCond .eq 5, 3) := sorry
theorem dX6_lock_29 : decode cX6_lock 29 = .ok (.iload_n 2, 1) := sorry
theorem dX6_lock_30 : decode cX6_lock 30 = .ok (.ireturn, 1) := sorry
theorem dX6_lock_31 : decode cX6_lock 31 = .ok (.aload_n 0, 1) := sorry
theorem dX6_lock_32 : decode cX6_lock 32 = .ok (.invokevirtual 265, 3) := sorry
theorem dX6_lock_35 : decode cX6_lock 35 = .ok (.aload_n 0, 1) := sorry
theorem dX6_lock_36 : decode cX6_lock 36 = .ok (.iload_n 1, 1) := sorry
theorem dX6_lock_37 : decode cX6_lock 37 = .ok (.invokevirtual 268, 3) := sorry
theorem dX6_lock_40 : decode cX6_lock 40 = .ok (.ireturn, 1) := sorry
abbrev cX6_hindrance : ByteArray := prog_17_method_68_code
def yX6_hindrance : MethodName := ⟨RX6, "hindrance", "(I)I"⟩
def dkwX6_hindrance_2 : List UInt8 := [180, 0, 34, 42, 182, 0, 95, 184, 0, 111, 20, 0, 87, 148, 156, 0, 8, 16, 252, 167, 0, 4, 3, 172]
abbrev dktX6_hindrance_2 : List UInt8 := dkwX6_hindrance_2 ++ []
def dkwX6_hindrance_1 : List UInt8 := [182, 0, 95, 160, 0, 6, 16, 253, 172, 42, 27, 182, 0, 242, 42, 42, 180, 0, 34, 182, 0, 134, 42]
abbrev dktX6_hindrance_1 : List UInt8 := dkwX6_hindrance_1 ++ dktX6_hindrance_2
def dkwX6_hindrance_0 : List UInt8 := [42, 27, 182, 0, 239, 42, 180, 0, 25, 6, 47, 148, 158, 0, 6, 16, 254, 172, 42, 182, 0, 123, 42]
abbrev dktX6_hindrance_0 : List UInt8 := dkwX6_hindrance_0 ++ dktX6_hindrance_1
theorem dksX6_hindrance_0 : cX6_hindrance.data.toList.drop 0 = dktX6_hindrance_0 := sorry
theorem dksX6_hindrance_1 : cX6_hindrance.data.toList.drop 23 = dktX6_hindrance_1 := sorry
theorem dksX6_hindrance_2 : cX6_hindrance.data.toList.drop 46 = dktX6_hindrance_2 := sorry
theorem dX6_hindrance_0 : decode cX6_hindrance 0 = .ok (.aload_n 0, 1) := sorry
theorem dX6_hindrance_1 : decode cX6_hindrance 1 = .ok (.iload_n 1, 1) := sorry
theorem dX6_hindrance_2 : decode cX6_hindrance 2 = .ok (.invokevirtual 239, 3) := sorry
theorem dX6_hindrance_5 : decode cX6_hindrance 5 = .ok (.aload_n 0, 1) := sorry
theorem dX6_hindrance_6 : decode cX6_hindrance 6 = .ok (.getfield 25, 3) := sorry
theorem dX6_hindrance_9 : decode cX6_hindrance 9 = .ok (.iconst 3, 1) := sorry
theorem dX6_hindrance_10 : decode cX6_hindrance 10 = .ok (.laload, 1) := sorry
theorem dX6_hindrance_11 : decode cX6_hindrance 11 = .ok (.lcmp, 1) := sorry
theorem dX6_hindrance_12 : decode cX6_hindrance 12 = .ok (.ifCond .le 6, 3) := sorry
theorem dX6_hindrance_15 : decode cX6_hindrance 15 = .ok (.bipush (-2), 2) := sorry
theorem dX6_hindrance_17 : decode cX6_hindrance 17 = .ok (.ireturn, 1) := sorry
theorem dX6_hindrance_18 : decode cX6_hindrance 18 = .ok (.aload_n 0, 1) := sorry
theorem dX6_hindrance_19 : decode cX6_hindrance 19 = .ok (.invokevirtual 123, 3) := sorry
theorem dX6_hindrance_22 : decode cX6_hindrance 22 = .ok (.aload_n 0, 1) := sorry
theorem dX6_hindrance_23 : decode cX6_hindrance 23 = .ok (.invokevirtual 95, 3) := sorry
theorem dX6_hindrance_26 : decode cX6_hindrance 26 = .ok (.if_icmp .ne 6, 3) := sorry
theorem dX6_hindrance_29 : decode cX6_hindrance 29 = .ok (.bipush (-3), 2) := sorry
theorem dX6_hindrance_31 : decode cX6_hindrance 31 = .ok (.ireturn, 1) := sorry
theorem dX6_hindrance_32 : decode cX6_hindrance 32 = .ok (.aload_n 0, 1) := sorry
theorem dX6_hindrance_33 : decode cX6_hindrance 33 = .ok (.iload_n 1, 1) := sorry
theorem dX6_hindrance_34 : decode cX6_hindrance 34 = .ok (.invokevirtual 242, 3) := sorry
theorem dX6_hindrance_37 : decode cX6_hindrance 37 = .ok (.aload_n 0, 1) := sorry
theorem dX6_hindrance_38 : decode cX6_hindrance 38 = .ok (.aload_n 0, 1) := sorry
theorem dX6_hindrance_39 : decode cX6_hindrance 39 = .ok (.getfield 34, 3) := sorry
theorem dX6_hindrance_42 : decode cX6_hindrance 42 = .ok (.invokevirtual 134, 3) := sorry
theorem dX6_hindrance_45 : decode cX6_hindrance 45 = .ok (.aload_n 0, 1) := sorry
theorem dX6_hindrance_46 : decode cX6_hindrance 46 = .ok (.getfield 34, 3) := sorry
theorem dX6_hindrance_49 : decode cX6_hindrance 49 = .ok (.aload_n 0, 1) := sorry
theorem dX6_hindrance_50 : decode cX6_hindrance 50 = .ok (.invokevirtual 95, 3) := sorry
theorem dX6_hindrance_53 : decode cX6_hindrance 53 = .ok (.invokestatic 111, 3) := sorry
theorem dX6_hindrance_56 : decode cX6_hindrance 56 = .ok (.ldc2_w 87, 3) := sorry
theorem dX6_hindrance_59 : decode cX6_hindrance 59 = .ok (.lcmp, 1) := sorry
theorem dX6_hindrance_60 : decode cX6_hindrance 60 = .ok (.ifCond .ge 8, 3) := sorry
theorem dX6_hindrance_63 : decode cX6_hindrance 63 = .ok (.bipush (-4), 2) := sorry
theorem dX6_hindrance_65 : decode cX6_hindrance 65 = .ok (.goto 4, 3) := sorry
theorem dX6_hindrance_68 : decode cX6_hindrance 68 = .ok (.iconst 0, 1) := sorry
theorem dX6_hindrance_69 : decode cX6_hindrance 69 = .ok (.ireturn, 1) := sorry
abbrev cX6_record : ByteArray := prog_17_method_96_code
def yX6_record : MethodName := ⟨RX6, "record", "()V"⟩
def dkwX6_record_3 : List UInt8 := [4, 96, 181, 1, 71, 177]
abbrev dktX6_record_3 : List UInt8 := dkwX6_record_3 ++ []
def dkwX6_record_2 : List UInt8 := [181, 1, 71, 42, 180, 0, 9, 3, 42, 180, 0, 22, 42, 180, 1, 71, 184, 1, 20, 42, 89, 180, 1, 71]
abbrev dktX6_record_2 : List UInt8 := dkwX6_record_2 ++ dktX6_record_3
def dkwX6_record_1 : List UInt8 := [180, 0, 22, 27, 4, 100, 184, 1, 20, 132, 1, 1, 167, 255, 232, 42, 89, 180, 1, 71, 4, 100]
abbrev dktX6_record_1 : List UInt8 := dkwX6_record_1 ++ dktX6_record_2
def dkwX6_record_0 : List UInt8 := [42, 180, 1, 71, 16, 10, 160, 0, 42, 4, 60, 27, 16, 10, 162, 0, 24, 42, 180, 0, 22, 27, 42]
abbrev dktX6_record_0 : List UInt8 := dkwX6_record_0 ++ dktX6_record_1
theorem dksX6_record_0 : cX6_record.data.toList.drop 0 = dktX6_record_0 := sorry
theorem dksX6_record_1 : cX6_record.data.toList.drop 23 = dktX6_record_1 := sorry
theorem dksX6_record_2 : cX6_record.data.toList.drop 45 = dktX6_record_2 := sorry
theorem dksX6_record_3 : cX6_record.data.toList.drop 69 = dktX6_record_3 := sorry
theorem dX6_record_0 : decode cX6_record 0 = .ok (.aload_n 0, 1) := sorry
theorem dX6_record_1 : decode cX6_record 1 = .ok (.getfield 327, 3) := sorry
theorem dX6_record_4 : decode cX6_record 4 = .ok (.bipush 10, 2) := sorry
theorem dX6_record_6 : decode cX6_record 6 = .ok (.if_icmp .ne 42, 3) := sorry
theorem dX6_record_9 : decode cX6_record 9 = .ok (.iconst 1, 1) := sorry
theorem dX6_record_10 : decode cX6_record 10 = .ok (.istore_n 1, 1) := sorry
theorem dX6_record_11 : decode cX6_record 11 = .ok (.iload_n 1, 1) := sorry
theorem dX6_record_12 : decode cX6_record 12 = .ok (.bipush 10, 2) := sorry
theorem dX6_record_14 : decode cX6_record 14 = .ok (.if_icmp .ge 24, 3) := sorry
theorem dX6_record_17 : decode cX6_record 17 = .ok (.aload_n 0, 1) := sorry
theorem dX6_record_18 : decode cX6_record 18 = .ok (.getfield 22, 3) := sorry
theorem dX6_record_21 : decode cX6_record 21 = .ok (.iload_n 1, 1) := sorry
theorem dX6_record_22 : decode cX6_record 22 = .ok (.aload_n 0, 1) := sorry
theorem dX6_record_23 : decode cX6_record 23 = .ok (.getfield 22, 3) := sorry
theorem dX6_record_26 : decode cX6_record 26 = .ok (.iload_n 1, 1) := sorry
theorem dX6_record_27 : decode cX6_record 27 = .ok (.iconst 1, 1) := sorry
theorem dX6_record_28 : decode cX6_record 28 = .ok (.isub, 1) := sorry
theorem dX6_record_29 : decode cX6_record 29 = .ok (.invokestatic 276, 3) := sorry
theorem dX6_record_32 : decode cX6_record 32 = .ok (.iinc 1 1, 3) := sorry
theorem dX6_record_35 : decode cX6_record 35 = .ok (.goto (-24), 3) := sorry
theorem dX6_record_38 : decode cX6_record 38 = .ok (.aload_n 0, 1) := sorry
theorem dX6_record_39 : decode cX6_record 39 = .ok (.dup, 1) := sorry
theorem dX6_record_40 : decode cX6_record 40 = .ok (.getfield 327, 3) := sorry
theorem dX6_record_43 : decode cX6_record 43 = .ok (.iconst 1, 1) := sorry
theorem dX6_record_44 : decode cX6_record 44 = .ok (.isub, 1) := sorry
theorem dX6_record_45 : decode cX6_record 45 = .ok (.putfield 327, 3) := sorry
theorem dX6_record_48 : decode cX6_record 48 = .ok (.aload_n 0, 1) := sorry
theorem dX6_record_49 : decode cX6_record 49 = .ok (.getfield 9, 3) := sorry
theorem dX6_record_52 : decode cX6_record 52 = .ok (.iconst 0, 1) := sorry
theorem dX6_record_53 : decode cX6_record 53 = .ok (.aload_n 0, 1) := sorry
theorem dX6_record_54 : decode cX6_record 54 = .ok (.getfield 22, 3) := sorry
theorem dX6_record_57 : decode cX6_record 57 = .ok (.aload_n 0, 1) := sorry
theorem dX6_record_58 : decode cX6_record 58 = .ok (.getfield 327, 3) := sorry
theorem dX6_record_61 : decode cX6_record 61 = .ok (.invokestatic 276, 3) := sorry
theorem dX6_record_64 : decode cX6_record 64 = .ok (.aload_n 0, 1) := sorry
theorem dX6_record_65 : decode cX6_record 65 = .ok (.dup, 1) := sorry
theorem dX6_record_66 : decode cX6_record 66 = .ok (.getfield 327, 3) := sorry
theorem dX6_record_69 : decode cX6_record 69 = .ok (.iconst 1, 1) := sorry
theorem dX6_record_70 : decode cX6_record 70 = .ok (.iadd, 1) := sorry
theorem dX6_record_71 : decode cX6_record 71 = .ok (.putfield 327, 3) := sorry
theorem dX6_record_74 : decode cX6_record 74 = .ok (.return_, 1) := sorry
abbrev cX6_copy : ByteArray := prog_17_method_95_code
def yX6_copy : MethodName := ⟨RX6, "copy", "([JI[JI)V"⟩
def dkwX6_copy_1 : List UInt8 := [27, 104, 21, 4, 96, 47, 80, 132, 4, 1, 167, 255, 225, 177]
abbrev dktX6_copy_1 : List UInt8 := dkwX6_copy_1 ++ []
def dkwX6_copy_0 : List UInt8 := [3, 54, 4, 21, 4, 17, 0, 208, 162, 0, 29, 44, 17, 0, 208, 29, 104, 21, 4, 96, 42, 17, 0, 208]
abbrev dktX6_copy_0 : List UInt8 := dkwX6_copy_0 ++ dktX6_copy_1
theorem dksX6_copy_0 : cX6_copy.data.toList.drop 0 = dktX6_copy_0 := sorry
theorem dksX6_copy_1 : cX6_copy.data.toList.drop 24 = dktX6_copy_1 := sorry
theorem dX6_copy_0 : decode cX6_copy 0 = .ok (.iconst 0, 1) := sorry
theorem dX6_copy_1 : decode cX6_copy 1 = .ok (.istore 4, 2) := sorry
theorem dX6_copy_3 : decode cX6_copy 3 = .ok (.iload 4, 2) := sorry
theorem dX6_copy_5 : decode cX6_copy 5 = .ok (.sipush 208, 3) := sorry
theorem dX6_copy_8 : decode cX6_copy 8 = .ok (.if_icmp .ge 29, 3) := sorry
theorem dX6_copy_11 : decode cX6_copy 11 = .ok (.aload_n 2, 1) := sorry
theorem dX6_copy_12 : decode cX6_copy 12 = .ok (.sipush 208, 3) := sorry
theorem dX6_copy_15 : decode cX6_copy 15 = .ok (.iload_n 3, 1) := sorry
theorem dX6_copy_16 : decode cX6_copy 16 = .ok (.imul, 1) := sorry
theorem dX6_copy_17 : decode cX6_copy 17 = .ok (.iload 4, 2) := sorry
theorem dX6_copy_19 : decode cX6_copy 19 = .ok (.iadd, 1) := sorry
theorem dX6_copy_20 : decode cX6_copy 20 = .ok (.aload_n 0, 1) := sorry
theorem dX6_copy_21 : decode cX6_copy 21 = .ok (.sipush 208, 3) := sorry
theorem dX6_copy_24 : decode cX6_copy 24 = .ok (.iload_n 1, 1) := sorry
theorem dX6_copy_25 : decode cX6_copy 25 = .ok (.imul, 1) := sorry
theorem dX6_copy_26 : decode cX6_copy 26 = .ok (.iload 4, 2) := sorry
theorem dX6_copy_28 : decode cX6_copy 28 = .ok (.iadd, 1) := sorry
theorem dX6_copy_29 : decode cX6_copy 29 = .ok (.laload, 1) := sorry
theorem dX6_copy_30 : decode cX6_copy 30 = .ok (.lastore, 1) := sorry
theorem dX6_copy_31 : decode cX6_copy 31 = .ok (.iinc 4 1, 3) := sorry
theorem dX6_copy_34 : decode cX6_copy 34 = .ok (.goto (-31), 3) := sorry
theorem dX6_copy_37 : decode cX6_copy 37 = .ok (.return_, 1) := sorry
abbrev cX6_lockMade : ByteArray := prog_17_method_69_code
def yX6_lockMade : MethodName := ⟨RX6, "lockMade", "(I)I"⟩
def dkwX6_lockMade_3 : List UInt8 := [10, 97, 80, 28, 172]
abbrev dktX6_lockMade_3 : List UInt8 := dkwX6_lockMade_3 ++ []
def dkwX6_lockMade_2 : List UInt8 := [42, 180, 0, 25, 28, 184, 0, 126, 4, 96, 42, 27, 182, 0, 239, 80, 42, 180, 0, 25, 16, 6, 92, 47]
abbrev dktX6_lockMade_2 : List UInt8 := dkwX6_lockMade_2 ++ dktX6_lockMade_3
def dkwX6_lockMade_1 : List UInt8 := [184, 0, 126, 5, 96, 182, 0, 141, 42, 180, 0, 25, 28, 184, 0, 126, 3, 96, 42, 27, 182, 0, 209, 80]
abbrev dktX6_lockMade_1 : List UInt8 := dkwX6_lockMade_1 ++ dktX6_lockMade_2
def dkwX6_lockMade_0 : List UInt8 := [42, 180, 0, 34, 42, 182, 0, 95, 184, 0, 138, 42, 182, 0, 123, 61, 42, 42, 180, 0, 34, 28]
abbrev dktX6_lockMade_0 : List UInt8 := dkwX6_lockMade_0 ++ dktX6_lockMade_1
theorem dksX6_lockMade_0 : cX6_lockMade.data.toList.drop 0 = dktX6_lockMade_0 := sorry
theorem dksX6_lockMade_1 : cX6_lockMade.data.toList.drop 22 = dktX6_lockMade_1 := sorry
theorem dksX6_lockMade_2 : cX6_lockMade.data.toList.drop 46 = dktX6_lockMade_2 := sorry
theorem dksX6_lockMade_3 : cX6_lockMade.data.toList.drop 70 = dktX6_lockMade_3 := sorry
theorem dX6_lockMade_0 : decode cX6_lockMade 0 = .ok (.aload_n 0, 1) := sorry
theorem dX6_lockMade_1 : decode cX6_lockMade 1 = .ok (.getfield 34, 3) := sorry
theorem dX6_lockMade_4 : decode cX6_lockMade 4 = .ok (.aload_n 0, 1) := sorry
theorem dX6_lockMade_5 : decode cX6_lockMade 5 = .ok (.invokevirtual 95, 3) := sorry
theorem dX6_lockMade_8 : decode cX6_lockMade 8 = .ok (.invokestatic 138, 3) := sorry
theorem dX6_lockMade_11 : decode cX6_lockMade 11 = .ok (.aload_n 0, 1) := sorry
theorem dX6_lockMade_12 : decode cX6_lockMade 12 = .ok (.invokevirtual 123, 3) := sorry
theorem dX6_lockMade_15 : decode cX6_lockMade 15 = .ok (.istore_n 2, 1) := sorry
theorem dX6_lockMade_16 : decode cX6_lockMade 16 = .ok (.aload_n 0, 1) := sorry
theorem dX6_lockMade_17 : decode cX6_lockMade 17 = .ok (.aload_n 0, 1) := sorry
theorem dX6_lockMade_18 : decode cX6_lockMade 18 = .ok (.getfield 34, 3) := sorry
theorem dX6_lockMade_21 : decode cX6_lockMade 21 = .ok (.iload_n 2, 1) := sorry
theorem dX6_lockMade_22 : decode cX6_lockMade 22 = .ok (.invokestatic 126, 3) := sorry
theorem dX6_lockMade_25 : decode cX6_lockMade 25 = .ok (.iconst 2, 1) := sorry
theorem dX6_lockMade_26 : decode cX6_lockMade 26 = .ok (.iadd, 1) := sorry
theorem dX6_lockMade_27 : decode cX6_lockMade 27 = .ok (.invokevirtual 141, 3) := sorry
theorem dX6_lockMade_30 : decode cX6_lockMade 30 = .ok (.aload_n 0, 1) := sorry
theorem dX6_lockMade_31 : decode cX6_lockMade 31 = .ok (.getfield 25, 3) := sorry
theorem dX6_lockMade_34 : decode cX6_lockMade 34 = .ok (.iload_n 2, 1) := sorry
theorem dX6_lockMade_35 : decode cX6_lockMade 35 = .ok (.invokestatic 126, 3) := sorry
theorem dX6_lockMade_38 : decode cX6_lockMade 38 = .ok (.iconst 0, 1) := sorry
theorem dX6_lockMade_39 : decode cX6_lockMade 39 = .ok (.iadd, 1) := sorry
theorem dX6_lockMade_40 : decode cX6_lockMade 40 = .ok (.aload_n 0, 1) := sorry
theorem dX6_lockMade_41 : decode cX6_lockMade 41 = .ok (.iload_n 1, 1) := sorry
theorem dX6_lockMade_42 : decode cX6_lockMade 42 = .ok (.invokevirtual 209, 3) := sorry
theorem dX6_lockMade_45 : decode cX6_lockMade 45 = .ok (.lastore, 1) := sorry
theorem dX6_lockMade_46 : decode cX6_lockMade 46 = .ok (.aload_n 0, 1) := sorry
theorem dX6_lockMade_47 : decode cX6_lockMade 47 = .ok (.getfield 25, 3) := sorry
theorem dX6_lockMade_50 : decode cX6_lockMade 50 = .ok (.iload_n 2, 1) := sorry
theorem dX6_lockMade_51 : decode cX6_lockMade 51 = .ok (.invokestatic 126, 3) := sorry
theorem dX6_lockMade_54 : decode cX6_lockMade 54 = .ok (.iconst 1, 1) := sorry
theorem dX6_lockMade_55 : decode cX6_lockMade 55 = .ok (.iadd, 1) := sorry
theorem dX6_lockMade_56 : decode cX6_lockMade 56 = .ok (.aload_n 0, 1) := sorry
theorem dX6_lockMade_57 : decode cX6_lockMade 57 = .ok (.iload_n 1, 1) := sorry
theorem dX6_lockMade_58 : decode cX6_lockMade 58 = .ok (.invokevirtual 239, 3) := sorry
theorem dX6_lockMade_61 : decode cX6_lockMade 61 = .ok (.lastore, 1) := sorry
theorem dX6_lockMade_62 : decode cX6_lockMade 62 = .ok (.aload_n 0, 1) := sorry
theorem dX6_lockMade_63 : decode cX6_lockMade 63 = .ok (.getfield 25, 3) := sorry
theorem dX6_lockMade_66 : decode cX6_lockMade 66 = .ok (.bipush 6, 2) := sorry
theorem dX6_lockMade_68 : decode cX6_lockMade 68 = .ok (.dup2, 1) := sorry
theorem dX6_lockMade_69 : decode cX6_lockMade 69 = .ok (.laload, 1) := sorry
theorem dX6_lockMade_70 : decode cX6_lockMade 70 = .ok (.lconst 1, 1) := sorry
theorem dX6_lockMade_71 : decode cX6_lockMade 71 = .ok (.ladd, 1) := sorry
theorem dX6_lockMade_72 : decode cX6_lockMade 72 = .ok (.lastore, 1) := sorry
theorem dX6_lockMade_73 : decode cX6_lockMade 73 = .ok (.iload_n 2, 1) := sorry
theorem dX6_lockMade_74 : decode cX6_lockMade 74 = .ok (.ireturn, 1) := sorry
abbrev cX6_unlock : ByteArray := prog_17_method_72_code
def yX6_unlock : MethodName := ⟨RX6, "unlock", "(I)I"⟩
def dkwX6_unlock_1 : List UInt8 := [27, 182, 1, 15, 42, 182, 0, 123, 172]
abbrev dktX6_unlock_1 : List UInt8 := dkwX6_unlock_1 ++ []
def dkwX6_unlock_0 : List UInt8 := [42, 3, 181, 0, 84, 42, 27, 182, 0, 252, 154, 0, 9, 42, 4, 182, 0, 227, 172, 42, 182, 1, 9, 42]
abbrev dktX6_unlock_0 : List UInt8 := dkwX6_unlock_0 ++ dktX6_unlock_1
theorem dksX6_unlock_0 : cX6_unlock.data.toList.drop 0 = dktX6_unlock_0 := sorry
theorem dksX6_unlock_1 : cX6_unlock.data.toList.drop 24 = dktX6_unlock_1 := sorry
theorem dX6_unlock_0 : decode cX6_unlock 0 = .ok (.aload_n 0, 1) := sorry
theorem dX6_unlock_1 : decode cX6_unlock 1 = .ok (.iconst 0, 1) := sorry
theorem dX6_unlock_2 : decode cX6_unlock 2 = .ok (.putfield 84, 3) := sorry
theorem dX6_unlock_5 : decode cX6_unlock 5 = .ok (.aload_n 0, 1) := sorry
theorem dX6_unlock_6 : decode cX6_unlock 6 = .ok (.iload_n 1, 1) := sorry
theorem dX6_unlock_7 : decode cX6_unlock 7 = .ok (.invokevirtual 252, 3) := sorry
theorem dX6_unlock_10 : decode cX6_unlock 10 = .ok (.ifCond .ne 9, 3) := sorry
theorem dX6_unlock_13 : decode cX6_unlock 13 = .ok (.aload_n 0, 1) := sorry
theorem dX6_unlock_14 : decode cX6_unlock 14 = .ok (.iconst 1, 1) := sorry
theorem dX6_unlock_15 : decode cX6_unlock 15 = .ok (.invokevirtual 227, 3) := sorry
theorem dX6_unlock_18 : decode cX6_unlock 18 = .ok (.ireturn, 1) := sorry
theorem dX6_unlock_19 : decode cX6_unlock 19 = .ok (.aload_n 0, 1) := sorry
theorem dX6_unlock_20 : decode cX6_unlock 20 = .ok (.invokevirtual 265, 3) := sorry
theorem dX6_unlock_23 : decode cX6_unlock 23 = .ok (.aload_n 0, 1) := sorry
theorem dX6_unlock_24 : decode cX6_unlock 24 = .ok (.iload_n 1, 1) := sorry
theorem dX6_unlock_25 : decode cX6_unlock 25 = .ok (.invokevirtual 271, 3) := sorry
theorem dX6_unlock_28 : decode cX6_unlock 28 = .ok (.aload_n 0, 1) := sorry
theorem dX6_unlock_29 : decode cX6_unlock 29 = .ok (.invokevirtual 123, 3) := sorry
theorem dX6_unlock_32 : decode cX6_unlock 32 = .ok (.ireturn, 1) := sorry
abbrev cX6_dropLock : ByteArray := prog_17_method_71_code
def yX6_dropLock : MethodName := ⟨RX6, "dropLock", "(I)V"⟩
def dkwX6_dropLock_2 : List UInt8 := [177]
abbrev dktX6_dropLock_2 : List UInt8 := dkwX6_dropLock_2 ++ []
def dkwX6_dropLock_1 : List UInt8 := [162, 0, 24, 42, 180, 0, 25, 28, 42, 180, 0, 25, 28, 16, 8, 96, 47, 80, 132, 2, 1, 167, 255, 227]
abbrev dktX6_dropLock_1 : List UInt8 := dkwX6_dropLock_1 ++ dktX6_dropLock_2
def dkwX6_dropLock_0 : List UInt8 := [42, 180, 0, 25, 16, 6, 92, 47, 10, 101, 80, 27, 184, 0, 126, 61, 28, 42, 182, 0, 123, 184, 0, 126]
abbrev dktX6_dropLock_0 : List UInt8 := dkwX6_dropLock_0 ++ dktX6_dropLock_1
theorem dksX6_dropLock_0 : cX6_dropLock.data.toList.drop 0 = dktX6_dropLock_0 := sorry
theorem dksX6_dropLock_1 : cX6_dropLock.data.toList.drop 24 = dktX6_dropLock_1 := sorry
theorem dksX6_dropLock_2 : cX6_dropLock.data.toList.drop 48 = dktX6_dropLock_2 := sorry
theorem dX6_dropLock_0 : decode cX6_dropLock 0 = .ok (.aload_n 0, 1) := sorry
theorem dX6_dropLock_1 : decode cX6_dropLock 1 = .ok (.getfield 25, 3) := sorry
theorem dX6_dropLock_4 : decode cX6_dropLock 4 = .ok (.bipush 6, 2) := sorry
theorem dX6_dropLock_6 : decode cX6_dropLock 6 = .ok (.dup2, 1) := sorry
theorem dX6_dropLock_7 : decode cX6_dropLock 7 = .ok (.laload, 1) := sorry
theorem dX6_dropLock_8 : decode cX6_dropLock 8 = .ok (.lconst 1, 1) := sorry
theorem dX6_dropLock_9 : decode cX6_dropLock 9 = .ok (.lsub, 1) := sorry
theorem dX6_dropLock_10 : decode cX6_dropLock 10 = .ok (.lastore, 1) := sorry
theorem dX6_dropLock_11 : decode cX6_dropLock 11 = .ok (.iload_n 1, 1) := sorry
theorem dX6_dropLock_12 : decode cX6_dropLock 12 = .ok (.invokestatic 126, 3) := sorry
theorem dX6_dropLock_15 : decode cX6_dropLock 15 = .ok (.istore_n 2, 1) := sorry
theorem dX6_dropLock_16 : decode cX6_dropLock 16 = .ok (.iload_n 2, 1) := sorry
theorem dX6_dropLock_17 : decode cX6_dropLock 17 = .ok (.aload_n 0, 1) := sorry
theorem dX6_dropLock_18 : decode cX6_dropLock 18 = .ok (.invokevirtual 123, 3) := sorry
theorem dX6_dropLock_21 : decode cX6_dropLock 21 = .ok (.invokestatic 126, 3) := sorry
theorem dX6_dropLock_24 : decode cX6_dropLock 24 = .ok (.if_icmp .ge 24, 3) := sorry
theorem dX6_dropLock_27 : decode cX6_dropLock 27 = .ok (.aload_n 0, 1) := sorry
theorem dX6_dropLock_28 : decode cX6_dropLock 28 = .ok (.getfield 25, 3) := sorry
theorem dX6_dropLock_31 : decode cX6_dropLock 31 = .ok (.iload_n 2, 1) := sorry
theorem dX6_dropLock_32 : decode cX6_dropLock 32 = .ok (.aload_n 0, 1) := sorry
theorem dX6_dropLock_33 : decode cX6_dropLock 33 = .ok (.getfield 25, 3) := sorry
theorem dX6_dropLock_36 : decode cX6_dropLock 36 = .ok (.iload_n 2, 1) := sorry
theorem dX6_dropLock_37 : decode cX6_dropLock 37 = .ok (.bipush 8, 2) := sorry
theorem dX6_dropLock_39 : decode cX6_dropLock 39 = .ok (.iadd, 1) := sorry
theorem dX6_dropLock_40 : decode cX6_dropLock 40 = .ok (.laload, 1) := sorry
theorem dX6_dropLock_41 : decode cX6_dropLock 41 = .ok (.lastore, 1) := sorry
theorem dX6_dropLock_42 : decode cX6_dropLock 42 = .ok (.iinc 2 1, 3) := sorry
theorem dX6_dropLock_45 : decode cX6_dropLock 45 = .ok (.goto (-29), 3) := sorry
theorem dX6_dropLock_48 : decode cX6_dropLock 48 = .ok (.return_, 1) := sorry
abbrev cX6_drop : ByteArray := prog_17_method_73_code
def yX6_drop : MethodName := ⟨RX6, "drop", "(I)I"⟩
def dkwX6_drop_2 : List UInt8 := [132, 3, 255, 167, 255, 235, 28, 42, 182, 0, 123, 100, 172]
abbrev dktX6_drop_2 : List UInt8 := dkwX6_drop_2 ++ []
def dkwX6_drop_1 : List UInt8 := [28, 4, 100, 62, 29, 155, 0, 23, 42, 29, 27, 182, 1, 2, 153, 0, 8, 42, 29, 182, 1, 15]
abbrev dktX6_drop_1 : List UInt8 := dkwX6_drop_1 ++ dktX6_drop_2
def dkwX6_drop_0 : List UInt8 := [42, 3, 181, 0, 84, 27, 156, 0, 9, 42, 4, 182, 0, 227, 172, 42, 182, 1, 9, 42, 182, 0, 123, 61]
abbrev dktX6_drop_0 : List UInt8 := dkwX6_drop_0 ++ dktX6_drop_1
theorem dksX6_drop_0 : cX6_drop.data.toList.drop 0 = dktX6_drop_0 := sorry
theorem dksX6_drop_1 : cX6_drop.data.toList.drop 24 = dktX6_drop_1 := sorry
theorem dksX6_drop_2 : cX6_drop.data.toList.drop 46 = dktX6_drop_2 := sorry
theorem dX6_drop_0 : decode cX6_drop 0 = .ok (.aload_n 0, 1) := sorry
theorem dX6_drop_1 : decode cX6_drop 1 = .ok (.iconst 0, 1) := sorry
theorem dX6_drop_2 : decode cX6_drop 2 = .ok (.putfield 84, 3) := sorry
theorem dX6_drop_5 : decode cX6_drop 5 = .ok (.iload_n 1, 1) := sorry
theorem dX6_drop_6 : decode cX6_drop 6 = .ok (.ifCond .ge 9, 3) := sorry
theorem dX6_drop_9 : decode cX6_drop 9 = .ok (.aload_n 0, 1) := sorry
theorem dX6_drop_10 : decode cX6_drop 10 = .ok (.iconst 1, 1) := sorry
theorem dX6_drop_11 : decode cX6_drop 11 = .ok (.invokevirtual 227, 3) := sorry
theorem dX6_drop_14 : decode cX6_drop 14 = .ok (.ireturn, 1) := sorry
theorem dX6_drop_15 : decode cX6_drop 15 = .ok (.aload_n 0, 1) := sorry
theorem dX6_drop_16 : decode cX6_drop 16 = .ok (.invokevirtual 265, 3) := sorry
theorem dX6_drop_19 : decode cX6_drop 19 = .ok (.aload_n 0, 1) := sorry
theorem dX6_drop_20 : decode cX6_drop 20 = .ok (.invokevirtual 123, 3) := sorry
theorem dX6_drop_23 : decode cX6_drop 23 = .ok (.istore_n 2, 1) := sorry
theorem dX6_drop_24 : decode cX6_drop 24 = .ok (.iload_n 2, 1) := sorry
theorem dX6_drop_25 : decode cX6_drop 25 = .ok (.iconst 1, 1) := sorry
theorem dX6_drop_26 : decode cX6_drop 26 = .ok (.isub, 1) := sorry
theorem dX6_drop_27 : decode cX6_drop 27 = .ok (.istore_n 3, 1) := sorry
theorem dX6_drop_28 : decode cX6_drop 28 = .ok (.iload_n 3, 1) := sorry
theorem dX6_drop_29 : decode cX6_drop 29 = .ok (.ifCond .lt 23, 3) := sorry
theorem dX6_drop_32 : decode cX6_drop 32 = .ok (.aload_n 0, 1) := sorry
theorem dX6_drop_33 : decode cX6_drop 33 = .ok (.iload_n 3, 1) := sorry
theorem dX6_drop_34 : decode cX6_drop 34 = .ok (.iload_n 1, 1) := sorry
theorem dX6_drop_35 : decode cX6_drop 35 = .ok (.invokevirtual 258, 3) := sorry
theorem dX6_drop_38 : decode cX6_drop 38 = .ok (.ifCond .eq 8, 3) := sorry
theorem dX6_drop_41 : decode cX6_drop 41 = .ok (.aload_n 0, 1) := sorry
theorem dX6_drop_42 : decode cX6_drop 42 = .ok (.iload_n 3, 1) := sorry
theorem dX6_drop_43 : decode cX6_drop 43 = .ok (.invokevirtual 271, 3) := sorry
theorem dX6_drop_46 : decode cX6_drop 46 = .ok (.iinc 3 (-1), 3) := sorry
theorem dX6_drop_49 : decode cX6_drop 49 = .ok (.goto (-21), 3) := sorry
theorem dX6_drop_52 : decode cX6_drop 52 = .ok (.iload_n 2, 1) := sorry
theorem dX6_drop_53 : decode cX6_drop 53 = .ok (.aload_n 0, 1) := sorry
theorem dX6_drop_54 : decode cX6_drop 54 = .ok (.invokevirtual 123, 3) := sorry
theorem dX6_drop_57 : decode cX6_drop 57 = .ok (.isub, 1) := sorry
theorem dX6_drop_58 : decode cX6_drop 58 = .ok (.ireturn, 1) := sorry
abbrev cX6_total : ByteArray := prog_17_method_74_code
def yX6_total : MethodName := ⟨RX6, "total", "(I)I"⟩
def dkwX6_total_1 : List UInt8 := [96, 47, 136, 167, 0, 4, 2, 172]
abbrev dktX6_total_1 : List UInt8 := dkwX6_total_1 ++ []
def dkwX6_total_0 : List UInt8 := [42, 3, 181, 0, 84, 27, 133, 9, 20, 1, 18, 184, 0, 220, 153, 0, 16, 42, 180, 0, 9, 16, 7, 27]
abbrev dktX6_total_0 : List UInt8 := dkwX6_total_0 ++ dktX6_total_1
theorem dksX6_total_0 : cX6_total.data.toList.drop 0 = dktX6_total_0 := sorry
theorem dksX6_total_1 : cX6_total.data.toList.drop 24 = dktX6_total_1 := sorry
theorem dX6_total_0 : decode cX6_total 0 = .ok (.aload_n 0, 1) := sorry
theorem dX6_total_1 : decode cX6_total 1 = .ok (.iconst 0, 1) := sorry
theorem dX6_total_2 : decode cX6_total 2 = .ok (.putfield 84, 3) := sorry
theorem dX6_total_5 : decode cX6_total 5 = .ok (.iload_n 1, 1) := sorry
theorem dX6_total_6 : decode cX6_total 6 = .ok (.i2l, 1) := sorry
theorem dX6_total_7 : decode cX6_total 7 = .ok (.lconst 0, 1) := sorry
theorem dX6_total_8 : decode cX6_total 8 = .ok (.ldc2_w 274, 3) := sorry
theorem dX6_total_11 : decode cX6_total 11 = .ok (.invokestatic 220, 3) := sorry
theorem dX6_total_14 : decode cX6_total 14 = .ok (.ifCond .eq 16, 3) := sorry
theorem dX6_total_17 : decode cX6_total 17 = .ok (.aload_n 0, 1) := sorry
theorem dX6_total_18 : decode cX6_total 18 = .ok (.getfield 9, 3) := sorry
theorem dX6_total_21 : decode cX6_total 21 = .ok (.bipush 7, 2) := sorry
theorem dX6_total_23 : decode cX6_total 23 = .ok (.iload_n 1, 1) := sorry
theorem dX6_total_24 : decode cX6_total 24 = .ok (.iadd, 1) := sorry
theorem dX6_total_25 : decode cX6_total 25 = .ok (.laload, 1) := sorry
theorem dX6_total_26 : decode cX6_total 26 = .ok (.l2i, 1) := sorry
theorem dX6_total_27 : decode cX6_total 27 = .ok (.goto 4, 3) := sorry
theorem dX6_total_30 : decode cX6_total 30 = .ok (.iconst (-1), 1) := sorry
theorem dX6_total_31 : decode cX6_total 31 = .ok (.ireturn, 1) := sorry
abbrev cX6_convergesIn : ByteArray := prog_17_method_76_code
def yX6_convergesIn : MethodName := ⟨RX6, "convergesIn", "()I"⟩
def dkwX6_convergesIn_3 : List UInt8 := [167, 0, 4, 2, 172]
abbrev dktX6_convergesIn_3 : List UInt8 := dkwX6_convergesIn_3 ++ []
def dkwX6_convergesIn_2 : List UInt8 := [132, 1, 1, 167, 255, 235, 42, 182, 1, 24, 61, 42, 42, 180, 0, 9, 181, 0, 25, 28, 153, 0, 7, 27]
abbrev dktX6_convergesIn_2 : List UInt8 := dkwX6_convergesIn_2 ++ dktX6_convergesIn_3
def dkwX6_convergesIn_1 : List UInt8 := [181, 0, 25, 3, 60, 42, 182, 1, 24, 154, 0, 20, 42, 182, 0, 191, 153, 0, 13, 42, 182, 0, 194]
abbrev dktX6_convergesIn_1 : List UInt8 := dkwX6_convergesIn_1 ++ dktX6_convergesIn_2
def dkwX6_convergesIn_0 : List UInt8 := [42, 3, 181, 0, 84, 42, 180, 0, 9, 3, 42, 180, 0, 16, 3, 184, 1, 20, 42, 42, 180, 0, 16]
abbrev dktX6_convergesIn_0 : List UInt8 := dkwX6_convergesIn_0 ++ dktX6_convergesIn_1
theorem dksX6_convergesIn_0 : cX6_convergesIn.data.toList.drop 0 = dktX6_convergesIn_0 := sorry
theorem dksX6_convergesIn_1 : cX6_convergesIn.data.toList.drop 23 = dktX6_convergesIn_1 := sorry
theorem dksX6_convergesIn_2 : cX6_convergesIn.data.toList.drop 46 = dktX6_convergesIn_2 := sorry
theorem dksX6_convergesIn_3 : cX6_convergesIn.data.toList.drop 70 = dktX6_convergesIn_3 := sorry
theorem dX6_convergesIn_0 : decode cX6_convergesIn 0 = .ok (.aload_n 0, 1) := sorry
theorem dX6_convergesIn_1 : decode cX6_convergesIn 1 = .ok (.iconst 0, 1) := sorry
theorem dX6_convergesIn_2 : decode cX6_convergesIn 2 = .ok (.putfield 84, 3) := sorry
theorem dX6_convergesIn_5 : decode cX6_convergesIn 5 = .ok (.aload_n 0, 1) := sorry
theorem dX6_convergesIn_6 : decode cX6_convergesIn 6 = .ok (.getfield 9, 3) := sorry
theorem dX6_convergesIn_9 : decode cX6_convergesIn 9 = .ok (.iconst 0, 1) := sorry
theorem dX6_convergesIn_10 : decode cX6_convergesIn 10 = .ok (.aload_n 0, 1) := sorry
theorem dX6_convergesIn_11 : decode cX6_convergesIn 11 = .ok (.getfield 16, 3) := sorry
theorem dX6_convergesIn_14 : decode cX6_convergesIn 14 = .ok (.iconst 0, 1) := sorry
theorem dX6_convergesIn_15 : decode cX6_convergesIn 15 = .ok (.invokestatic 276, 3) := sorry
theorem dX6_convergesIn_18 : decode cX6_convergesIn 18 = .ok (.aload_n 0, 1) := sorry
theorem dX6_convergesIn_19 : decode cX6_convergesIn 19 = .ok (.aload_n 0, 1) := sorry
theorem dX6_convergesIn_20 : decode cX6_convergesIn 20 = .ok (.getfield 16, 3) := sorry
theorem dX6_convergesIn_23 : decode cX6_convergesIn 23 = .ok (.putfield 25, 3) := sorry
theorem dX6_convergesIn_26 : decode cX6_convergesIn 26 = .ok (.iconst 0, 1) := sorry
theorem dX6_convergesIn_27 : decode cX6_convergesIn 27 = .ok (.istore_n 1, 1) := sorry
theorem dX6_convergesIn_28 : decode cX6_convergesIn 28 = .ok (.aload_n 0, 1) := sorry
theorem dX6_convergesIn_29 : decode cX6_convergesIn 29 = .ok (.invokevirtual 280, 3) := sorry
theorem dX6_convergesIn_32 : decode cX6_convergesIn 32 = .ok (.ifCond .ne 20, 3) := sorry
theorem dX6_convergesIn_35 : decode cX6_convergesIn 35 = .ok (.aload_n 0, 1) := sorry
theorem dX6_convergesIn_36 : decode cX6_convergesIn 36 = .ok (.invokevirtual 191, 3) := sorry
theorem dX6_convergesIn_39 : decode cX6_convergesIn 39 = .ok (.ifCond .eq 13, 3) := sorry
theorem dX6_convergesIn_42 : decode cX6_convergesIn 42 = .ok (.aload_n 0, 1) := sorry
theorem dX6_convergesIn_43 : decode cX6_convergesIn 43 = .ok (.invokevirtual 194, 3) := sorry
theorem dX6_convergesIn_46 : decode cX6_convergesIn 46 = .ok (.iinc 1 1, 3) := sorry
theorem dX6_convergesIn_49 : decode cX6_convergesIn 49 = .ok (.goto (-21), 3) := sorry
theorem dX6_convergesIn_52 : decode cX6_convergesIn 52 = .ok (.aload_n 0, 1) := sorry
theorem dX6_convergesIn_53 : decode cX6_convergesIn 53 = .ok (.invokevirtual 280, 3) := sorry
theorem dX6_convergesIn_56 : decode cX6_convergesIn 56 = .ok (.istore_n 2, 1) := sorry
theorem dX6_convergesIn_57 : decode cX6_convergesIn 57 = .ok (.aload_n 0, 1) := sorry
theorem dX6_convergesIn_58 : decode cX6_convergesIn 58 = .ok (.aload_n 0, 1) := sorry
theorem dX6_convergesIn_59 : decode cX6_convergesIn 59 = .ok (.getfield 9, 3) := sorry
theorem dX6_convergesIn_62 : decode cX6_convergesIn 62 = .ok (.putfield 25, 3) := sorry
theorem dX6_convergesIn_65 : decode cX6_convergesIn 65 = .ok (.iload_n 2, 1) := sorry
theorem dX6_convergesIn_66 : decode cX6_convergesIn 66 = .ok (.ifCond .eq 7, 3) := sorry
theorem dX6_convergesIn_69 : decode cX6_convergesIn 69 = .ok (.iload_n 1, 1) := sorry
theorem dX6_convergesIn_70 : decode cX6_convergesIn 70 = .ok (.goto 4, 3) := sorry
theorem dX6_convergesIn_73 : decode cX6_convergesIn 73 = .ok (.iconst (-1), 1) := sorry
theorem dX6_convergesIn_74 : decode cX6_convergesIn 74 = .ok (.ireturn, 1) := sorry
abbrev cX6_hasConverged : ByteArray := prog_17_method_75_code
def yX6_hasConverged : MethodName := ⟨RX6, "hasConverged", "()Z"⟩
def dkwX6_hasConverged_1 : List UInt8 := [157, 0, 5, 4, 172, 132, 1, 1, 167, 255, 228, 3, 172]
abbrev dktX6_hasConverged_1 : List UInt8 := dkwX6_hasConverged_1 ++ []
def dkwX6_hasConverged_0 : List UInt8 := [3, 60, 27, 42, 182, 0, 91, 162, 0, 26, 42, 27, 182, 0, 239, 42, 180, 0, 25, 6, 47, 148]
abbrev dktX6_hasConverged_0 : List UInt8 := dkwX6_hasConverged_0 ++ dktX6_hasConverged_1
theorem dksX6_hasConverged_0 : cX6_hasConverged.data.toList.drop 0 = dktX6_hasConverged_0 := sorry
theorem dksX6_hasConverged_1 : cX6_hasConverged.data.toList.drop 22 = dktX6_hasConverged_1 := sorry
theorem dX6_hasConverged_0 : decode cX6_hasConverged 0 = .ok (.iconst 0, 1) := sorry
theorem dX6_hasConverged_1 : decode cX6_hasConverged 1 = .ok (.istore_n 1, 1) := sorry
theorem dX6_hasConverged_2 : decode cX6_hasConverged 2 = .ok (.iload_n 1, 1) := sorry
theorem dX6_hasConverged_3 : decode cX6_hasConverged 3 = .ok (.aload_n 0, 1) := sorry
theorem dX6_hasConverged_4 : decode cX6_hasConverged 4 = .ok (.invokevirtual 91, 3) := sorry
theorem dX6_hasConverged_7 : decode cX6_hasConverged 7 = .ok (.if_icmp .ge 26, 3) := sorry
theorem dX6_hasConverged_10 : decode cX6_hasConverged 10 = .ok (.aload_n 0, 1) := sorry
theorem dX6_hasConverged_11 : decode cX6_hasConverged 11 = .ok (.iload_n 1, 1) := sorry
theorem dX6_hasConverged_12 : decode cX6_hasConverged 12 = .ok (.invokevirtual 239, 3) := sorry
theorem dX6_hasConverged_15 : decode cX6_hasConverged 15 = .ok (.aload_n 0, 1) := sorry
theorem dX6_hasConverged_16 : decode cX6_hasConverged 16 = .ok (.getfield 25, 3) := sorry
theorem dX6_hasConverged_19 : decode cX6_hasConverged 19 = .ok (.iconst 3, 1) := sorry
theorem dX6_hasConverged_20 : decode cX6_hasConverged 20 = .ok (.laload, 1) := sorry
theorem dX6_hasConverged_21 : decode cX6_hasConverged 21 = .ok (.lcmp, 1) := sorry
theorem dX6_hasConverged_22 : decode cX6_hasConverged 22 = .ok (.ifCond .gt 5, 3) := sorry
theorem dX6_hasConverged_25 : decode cX6_hasConverged 25 = .ok (.iconst 1, 1) := sorry
theorem dX6_hasConverged_26 : decode cX6_hasConverged 26 = .ok (.ireturn, 1) := sorry
theorem dX6_hasConverged_27 : decode cX6_hasConverged 27 = .ok (.iinc 1 1, 3) := sorry
theorem dX6_hasConverged_30 : decode cX6_hasConverged 30 = .ok (.goto (-28), 3) := sorry
theorem dX6_hasConverged_33 : decode cX6_hasConverged 33 = .ok (.iconst 0, 1) := sorry
theorem dX6_hasConverged_34 : decode cX6_hasConverged 34 = .ok (.ireturn, 1) := sorry
abbrev cX6_canStep : ByteArray := prog_17_method_24_code
def yX6_canStep : MethodName := ⟨RX6, "canStep", "()Z"⟩
def dkwX6_canStep_1 : List UInt8 := [167, 0, 4, 3, 172]
abbrev dktX6_canStep_1 : List UInt8 := dkwX6_canStep_1 ++ []
def dkwX6_canStep_0 : List UInt8 := [42, 180, 0, 25, 8, 47, 9, 148, 154, 0, 18, 42, 182, 0, 91, 42, 182, 0, 95, 162, 0, 7, 4]
abbrev dktX6_canStep_0 : List UInt8 := dkwX6_canStep_0 ++ dktX6_canStep_1
theorem dksX6_canStep_0 : cX6_canStep.data.toList.drop 0 = dktX6_canStep_0 := sorry
theorem dksX6_canStep_1 : cX6_canStep.data.toList.drop 23 = dktX6_canStep_1 := sorry
theorem dX6_canStep_0 : decode cX6_canStep 0 = .ok (.aload_n 0, 1) := sorry
theorem dX6_canStep_1 : decode cX6_canStep 1 = .ok (.getfield 25, 3) := sorry
theorem dX6_canStep_4 : decode cX6_canStep 4 = .ok (.iconst 5, 1) := sorry
theorem dX6_canStep_5 : decode cX6_canStep 5 = .ok (.laload, 1) := sorry
theorem dX6_canStep_6 : decode cX6_canStep 6 = .ok (.lconst 0, 1) := sorry
theorem dX6_canStep_7 : decode cX6_canStep 7 = .ok (.lcmp, 1) := sorry
theorem dX6_canStep_8 : decode cX6_canStep 8 = .ok (.ifCond .ne 18, 3) := sorry
theorem dX6_canStep_11 : decode cX6_canStep 11 = .ok (.aload_n 0, 1) := sorry
theorem dX6_canStep_12 : decode cX6_canStep 12 = .ok (.invokevirtual 91, 3) := sorry
theorem dX6_canStep_15 : decode cX6_canStep 15 = .ok (.aload_n 0, 1) := sorry
theorem dX6_canStep_16 : decode cX6_canStep 16 = .ok (.invokevirtual 95, 3) := sorry
theorem dX6_canStep_19 : decode cX6_canStep 19 = .ok (.if_icmp .ge 7, 3) := sorry
theorem dX6_canStep_22 : decode cX6_canStep 22 = .ok (.iconst 1, 1) := sorry
theorem dX6_canStep_23 : decode cX6_canStep 23 = .ok (.goto 4, 3) := sorry
theorem dX6_canStep_26 : decode cX6_canStep 26 = .ok (.iconst 0, 1) := sorry
theorem dX6_canStep_27 : decode cX6_canStep 27 = .ok (.ireturn, 1) := sorry
abbrev cX6_makeStep : ByteArray := prog_17_method_32_code
def yX6_makeStep : MethodName := ⟨RX6, "makeStep", "()V"⟩
def dkwX6_makeStep_10 : List UInt8 := [182, 0, 141, 177]
abbrev dktX6_makeStep_10 : List UInt8 := dkwX6_makeStep_10 ++ []
def dkwX6_makeStep_9 : List UInt8 := [42, 180, 0, 28, 42, 182, 0, 95, 184, 0, 138, 42, 42, 180, 0, 28, 27, 4, 96, 184, 0, 169]
abbrev dktX6_makeStep_9 : List UInt8 := dkwX6_makeStep_9 ++ dktX6_makeStep_10
def dkwX6_makeStep_8 : List UInt8 := [32, 20, 0, 87, 148, 156, 0, 9, 42, 27, 182, 0, 179, 177, 42, 180, 0, 25, 16, 102, 27, 96, 32, 80]
abbrev dktX6_makeStep_8 : List UInt8 := dkwX6_makeStep_8 ++ dktX6_makeStep_9
def dkwX6_makeStep_7 : List UInt8 := [42, 27, 182, 0, 187, 153, 0, 17, 42, 180, 0, 28, 42, 182, 0, 95, 184, 0, 111, 167, 0, 4, 32, 65]
abbrev dktX6_makeStep_7 : List UInt8 := dkwX6_makeStep_7 ++ dktX6_makeStep_8
def dkwX6_makeStep_6 : List UInt8 := [184, 0, 111, 65, 32, 20, 0, 87, 148, 156, 0, 9, 42, 27, 182, 0, 179, 177, 42, 27, 32, 182, 0, 183]
abbrev dktX6_makeStep_6 : List UInt8 := dkwX6_makeStep_6 ++ dktX6_makeStep_7
def dkwX6_makeStep_5 : List UInt8 := [180, 0, 25, 27, 184, 0, 169, 182, 0, 119, 42, 182, 0, 176, 42, 180, 0, 28, 42, 182, 0, 95]
abbrev dktX6_makeStep_5 : List UInt8 := dkwX6_makeStep_5 ++ dktX6_makeStep_6
def dkwX6_makeStep_4 : List UInt8 := [184, 0, 169, 182, 0, 115, 80, 42, 42, 180, 0, 28, 42, 180, 0, 25, 16, 96, 27, 96, 47, 42]
abbrev dktX6_makeStep_4 : List UInt8 := dkwX6_makeStep_4 ++ dktX6_makeStep_5
def dkwX6_makeStep_3 : List UInt8 := [182, 0, 119, 42, 180, 0, 25, 16, 96, 27, 96, 42, 42, 180, 0, 28, 3, 42, 180, 0, 25, 27]
abbrev dktX6_makeStep_3 : List UInt8 := dkwX6_makeStep_3 ++ dktX6_makeStep_4
def dkwX6_makeStep_2 : List UInt8 := [180, 0, 28, 42, 180, 0, 25, 16, 102, 27, 96, 4, 100, 47, 42, 180, 0, 25, 27, 4, 100, 184, 0, 169]
abbrev dktX6_makeStep_2 : List UInt8 := dkwX6_makeStep_2 ++ dktX6_makeStep_3
def dkwX6_makeStep_1 : List UInt8 := [97, 80, 42, 42, 180, 0, 25, 27, 184, 0, 169, 42, 180, 0, 28, 182, 0, 172, 27, 158, 0, 32, 42, 42]
abbrev dktX6_makeStep_1 : List UInt8 := dkwX6_makeStep_1 ++ dktX6_makeStep_2
def dkwX6_makeStep_0 : List UInt8 := [42, 182, 0, 91, 60, 42, 180, 0, 25, 7, 92, 47, 10, 97, 80, 42, 180, 0, 25, 16, 7, 92, 47, 10]
abbrev dktX6_makeStep_0 : List UInt8 := dkwX6_makeStep_0 ++ dktX6_makeStep_1
theorem dksX6_makeStep_0 : cX6_makeStep.data.toList.drop 0 = dktX6_makeStep_0 := sorry
theorem dksX6_makeStep_1 : cX6_makeStep.data.toList.drop 24 = dktX6_makeStep_1 := sorry
theorem dksX6_makeStep_2 : cX6_makeStep.data.toList.drop 48 = dktX6_makeStep_2 := sorry
theorem dksX6_makeStep_3 : cX6_makeStep.data.toList.drop 72 = dktX6_makeStep_3 := sorry
theorem dksX6_makeStep_4 : cX6_makeStep.data.toList.drop 94 = dktX6_makeStep_4 := sorry
theorem dksX6_makeStep_5 : cX6_makeStep.data.toList.drop 116 = dktX6_makeStep_5 := sorry
theorem dksX6_makeStep_6 : cX6_makeStep.data.toList.drop 138 = dktX6_makeStep_6 := sorry
theorem dksX6_makeStep_7 : cX6_makeStep.data.toList.drop 162 = dktX6_makeStep_7 := sorry
theorem dksX6_makeStep_8 : cX6_makeStep.data.toList.drop 186 = dktX6_makeStep_8 := sorry
theorem dksX6_makeStep_9 : cX6_makeStep.data.toList.drop 210 = dktX6_makeStep_9 := sorry
theorem dksX6_makeStep_10 : cX6_makeStep.data.toList.drop 232 = dktX6_makeStep_10 := sorry
theorem dX6_makeStep_0 : decode cX6_makeStep 0 = .ok (.aload_n 0, 1) := sorry
theorem dX6_makeStep_1 : decode cX6_makeStep 1 = .ok (.invokevirtual 91, 3) := sorry
theorem dX6_makeStep_4 : decode cX6_makeStep 4 = .ok (.istore_n 1, 1) := sorry
theorem dX6_makeStep_5 : decode cX6_makeStep 5 = .ok (.aload_n 0, 1) := sorry
theorem dX6_makeStep_6 : decode cX6_makeStep 6 = .ok (.getfield 25, 3) := sorry
theorem dX6_makeStep_9 : decode cX6_makeStep 9 = .ok (.iconst 4, 1) := sorry
theorem dX6_makeStep_10 : decode cX6_makeStep 10 = .ok (.dup2, 1) := sorry
theorem dX6_makeStep_11 : decode cX6_makeStep 11 = .ok (.laload, 1) := sorry
theorem dX6_makeStep_12 : decode cX6_makeStep 12 = .ok (.lconst 1, 1) := sorry
theorem dX6_makeStep_13 : decode cX6_makeStep 13 = .ok (.ladd, 1) := sorry
theorem dX6_makeStep_14 : decode cX6_makeStep 14 = .ok (.lastore, 1) := sorry
theorem dX6_makeStep_15 : decode cX6_makeStep 15 = .ok (.aload_n 0, 1) := sorry
theorem dX6_makeStep_16 : decode cX6_makeStep 16 = .ok (.getfield 25, 3) := sorry
theorem dX6_makeStep_19 : decode cX6_makeStep 19 = .ok (.bipush 7, 2) := sorry
theorem dX6_makeStep_21 : decode cX6_makeStep 21 = .ok (.dup2, 1) := sorry
theorem dX6_makeStep_22 : decode cX6_makeStep 22 = .ok (.laload, 1) := sorry
theorem dX6_makeStep_23 : decode cX6_makeStep 23 = .ok (.lconst 1, 1) := sorry
theorem dX6_makeStep_24 : decode cX6_makeStep 24 = .ok (.ladd, 1) := sorry
theorem dX6_makeStep_25 : decode cX6_makeStep 25 = .ok (.lastore, 1) := sorry
theorem dX6_makeStep_26 : decode cX6_makeStep 26 = .ok (.aload_n 0, 1) := sorry
theorem dX6_makeStep_27 : decode cX6_makeStep 27 = .ok (.aload_n 0, 1) := sorry
theorem dX6_makeStep_28 : decode cX6_makeStep 28 = .ok (.getfield 25, 3) := sorry
theorem dX6_makeStep_31 : decode cX6_makeStep 31 = .ok (.iload_n 1, 1) := sorry
theorem dX6_makeStep_32 : decode cX6_makeStep 32 = .ok (.invokestatic 169, 3) := sorry
theorem dX6_makeStep_35 : decode cX6_makeStep 35 = .ok (.aload_n 0, 1) := sorry
theorem dX6_makeStep_36 : decode cX6_makeStep 36 = .ok (.getfield 28, 3) := sorry
theorem dX6_makeStep_39 : decode cX6_makeStep 39 = .ok (.invokevirtual 172, 3) := sorry
theorem dX6_makeStep_42 : decode cX6_makeStep 42 = .ok (.iload_n 1, 1) := sorry
theorem dX6_makeStep_43 : decode cX6_makeStep 43 = .ok (.ifCond .le 32, 3) := sorry
theorem dX6_makeStep_46 : decode cX6_makeStep 46 = .ok (.aload_n 0, 1) := sorry
theorem dX6_makeStep_47 : decode cX6_makeStep 47 = .ok (.aload_n 0, 1) := sorry
theorem dX6_makeStep_48 : decode cX6_makeStep 48 = .ok (.getfield 28, 3) := sorry
theorem dX6_makeStep_51 : decode cX6_makeStep 51 = .ok (.aload_n 0, 1) := sorry
theorem dX6_makeStep_52 : decode cX6_makeStep 52 = .ok (.getfield 25, 3) := sorry
theorem dX6_makeStep_55 : decode cX6_makeStep 55 = .ok (.bipush 102, 2) := sorry
theorem dX6_makeStep_57 : decode cX6_makeStep 57 = .ok (.iload_n 1, 1) := sorry
theorem dX6_makeStep_58 : decode cX6_makeStep 58 = .ok (.iadd, 1) := sorry
theorem dX6_makeStep_59 : decode cX6_makeStep 59 = .ok (.iconst 1, 1) := sorry
theorem dX6_makeStep_60 : decode cX6_makeStep 60 = .ok (.isub, 1) := sorry
theorem dX6_makeStep_61 : decode cX6_makeStep 61 = .ok (.laload, 1) := sorry
theorem dX6_makeStep_62 : decode cX6_makeStep 62 = .ok (.aload_n 0, 1) := sorry
theorem dX6_makeStep_63 : decode cX6_makeStep 63 = .ok (.getfield 25, 3) := sorry
theorem dX6_makeStep_66 : decode cX6_makeStep 66 = .ok (.iload_n 1, 1) := sorry
theorem dX6_makeStep_67 : decode cX6_makeStep 67 = .ok (.iconst 1, 1) := sorry
theorem dX6_makeStep_68 : decode cX6_makeStep 68 = .ok (.isub, 1) := sorry
theorem dX6_makeStep_69 : decode cX6_makeStep 69 = .ok (.invokestatic 169, 3) := sorry
theorem dX6_makeStep_72 : decode cX6_makeStep 72 = .ok (.invokevirtual 119, 3) := sorry
theorem dX6_makeStep_75 : decode cX6_makeStep 75 = .ok (.aload_n 0, 1) := sorry
theorem dX6_makeStep_76 : decode cX6_makeStep 76 = .ok (.getfield 25, 3) := sorry
theorem dX6_makeStep_79 : decode cX6_makeStep 79 = .ok (.bipush 96, 2) := sorry
theorem dX6_makeStep_81 : decode cX6_makeStep 81 = .ok (.iload_n 1, 1) := sorry
theorem dX6_makeStep_82 : decode cX6_makeStep 82 = .ok (.iadd, 1) := sorry
theorem dX6_makeStep_83 : decode cX6_makeStep 83 = .ok (.aload_n 0, 1) := sorry
theorem dX6_makeStep_84 : decode cX6_makeStep 84 = .ok (.aload_n 0, 1) := sorry
theorem dX6_makeStep_85 : decode cX6_makeStep 85 = .ok (.getfield 28, 3) := sorry
theorem dX6_makeStep_88 : decode cX6_makeStep 88 = .ok (.iconst 0, 1) := sorry
theorem dX6_makeStep_89 : decode cX6_makeStep 89 = .ok (.aload_n 0, 1) := sorry
theorem dX6_makeStep_90 : decode cX6_makeStep 90 = .ok (.getfield 25, 3) := sorry
theorem dX6_makeStep_93 : decode cX6_makeStep 93 = .ok (.iload_n 1, 1) := sorry
theorem dX6_makeStep_94 : decode cX6_makeStep 94 = .ok (.invokestatic 169, 3) := sorry
theorem dX6_makeStep_97 : decode cX6_makeStep 97 = .ok (.invokevirtual 115, 3) := sorry
theorem dX6_makeStep_100 : decode cX6_makeStep 100 = .ok (.lastore, 1) := sorry
theorem dX6_makeStep_101 : decode cX6_makeStep 101 = .ok (.aload_n 0, 1) := sorry
theorem dX6_makeStep_102 : decode cX6_makeStep 102 = .ok (.aload_n 0, 1) := sorry
theorem dX6_makeStep_103 : decode cX6_makeStep 103 = .ok (.getfield 28, 3) := sorry
theorem dX6_makeStep_106 : decode cX6_makeStep 106 = .ok (.aload_n 0, 1) := sorry
theorem dX6_makeStep_107 : decode cX6_makeStep 107 = .ok (.getfield 25, 3) := sorry
theorem dX6_makeStep_110 : decode cX6_makeStep 110 = .ok (.bipush 96, 2) := sorry
theorem dX6_makeStep_112 : decode cX6_makeStep 112 = .ok (.iload_n 1, 1) := sorry
theorem dX6_makeStep_113 : decode cX6_makeStep 113 = .ok (.iadd, 1) := sorry
theorem dX6_makeStep_114 : decode cX6_makeStep 114 = .ok (.laload, 1) := sorry
theorem dX6_makeStep_115 : decode cX6_makeStep 115 = .ok (.aload_n 0, 1) := sorry
theorem dX6_makeStep_116 : decode cX6_makeStep 116 = .ok (.getfield 25, 3) := sorry
theorem dX6_makeStep_119 : decode cX6_makeStep 119 = .ok (.iload_n 1, 1) := sorry
theorem dX6_makeStep_120 : decode cX6_makeStep 120 = .ok (.invokestatic 169, 3) := sorry
theorem dX6_makeStep_123 : decode cX6_makeStep 123 = .ok (.invokevirtual 119, 3) := sorry
theorem dX6_makeStep_126 : decode cX6_makeStep 126 = .ok (.aload_n 0, 1) := sorry
theorem dX6_makeStep_127 : decode cX6_makeStep 127 = .ok (.invokevirtual 176, 3) := sorry
theorem dX6_makeStep_130 : decode cX6_makeStep 130 = .ok (.aload_n 0, 1) := sorry
theorem dX6_makeStep_131 : decode cX6_makeStep 131 = .ok (.getfield 28, 3) := sorry
theorem dX6_makeStep_134 : decode cX6_makeStep 134 = .ok (.aload_n 0, 1) := sorry
theorem dX6_makeStep_135 : decode cX6_makeStep 135 = .ok (.invokevirtual 95, 3) := sorry
theorem dX6_makeStep_138 : decode cX6_makeStep 138 = .ok (.invokestatic 111, 3) := sorry
theorem dX6_makeStep_141 : decode cX6_makeStep 141 = .ok (.lstore_n 2, 1) := sorry
theorem dX6_makeStep_142 : decode cX6_makeStep 142 = .ok (.lload_n 2, 1) := sorry
theorem dX6_makeStep_143 : decode cX6_makeStep 143 = .ok (.ldc2_w 87, 3) := sorry
theorem dX6_makeStep_146 : decode cX6_makeStep 146 = .ok (.lcmp, 1) := sorry
theorem dX6_makeStep_147 : decode cX6_makeStep 147 = .ok (.ifCond .ge 9, 3) := sorry
theorem dX6_makeStep_150 : decode cX6_makeStep 150 = .ok (.aload_n 0, 1) := sorry
theorem dX6_makeStep_151 : decode cX6_makeStep 151 = .ok (.iload_n 1, 1) := sorry
theorem dX6_makeStep_152 : decode cX6_makeStep 152 = .ok (.invokevirtual 179, 3) := sorry
theorem dX6_makeStep_155 : decode cX6_makeStep 155 = .ok (.return_, 1) := sorry
theorem dX6_makeStep_156 : decode cX6_makeStep 156 = .ok (.aload_n 0, 1) := sorry
theorem dX6_makeStep_157 : decode cX6_makeStep 157 = .ok (.iload_n 1, 1) := sorry
theorem dX6_makeStep_158 : decode cX6_makeStep 158 = .ok (.lload_n 2, 1) := sorry
theorem dX6_makeStep_159 : decode cX6_makeStep 159 = .ok (.invokevirtual 183, 3) := sorry
theorem dX6_makeStep_162 : decode cX6_makeStep 162 = .ok (.aload_n 0, 1) := sorry
theorem dX6_makeStep_163 : decode cX6_makeStep 163 = .ok (.iload_n 1, 1) := sorry
theorem dX6_makeStep_164 : decode cX6_makeStep 164 = .ok (.invokevirtual 187, 3) := sorry
theorem dX6_makeStep_167 : decode cX6_makeStep 167 = .ok (.ifCond .eq 17, 3) := sorry
theorem dX6_makeStep_170 : decode cX6_makeStep 170 = .ok (.aload_n 0, 1) := sorry
theorem dX6_makeStep_171 : decode cX6_makeStep 171 = .ok (.getfield 28, 3) := sorry
theorem dX6_makeStep_174 : decode cX6_makeStep 174 = .ok (.aload_n 0, 1) := sorry
theorem dX6_makeStep_175 : decode cX6_makeStep 175 = .ok (.invokevirtual 95, 3) := sorry
theorem dX6_makeStep_178 : decode cX6_makeStep 178 = .ok (.invokestatic 111, 3) := sorry
theorem dX6_makeStep_181 : decode cX6_makeStep 181 = .ok (.goto 4, 3) := sorry
theorem dX6_makeStep_184 : decode cX6_makeStep 184 = .ok (.lload_n 2, 1) := sorry
theorem dX6_makeStep_185 : decode cX6_makeStep 185 = .ok (.lstore_n 2, 1) := sorry
theorem dX6_makeStep_186 : decode cX6_makeStep 186 = .ok (.lload_n 2, 1) := sorry
theorem dX6_makeStep_187 : decode cX6_makeStep 187 = .ok (.ldc2_w 87, 3) := sorry
theorem dX6_makeStep_190 : decode cX6_makeStep 190 = .ok (.lcmp, 1) := sorry
theorem dX6_makeStep_191 : decode cX6_makeStep 191 = .ok (.ifCond .ge 9, 3) := sorry
theorem dX6_makeStep_194 : decode cX6_makeStep 194 = .ok (.aload_n 0, 1) := sorry
theorem dX6_makeStep_195 : decode cX6_makeStep 195 = .ok (.iload_n 1, 1) := sorry
theorem dX6_makeStep_196 : decode cX6_makeStep 196 = .ok (.invokevirtual 179, 3) := sorry
theorem dX6_makeStep_199 : decode cX6_makeStep 199 = .ok (.return_, 1) := sorry
theorem dX6_makeStep_200 : decode cX6_makeStep 200 = .ok (.aload_n 0, 1) := sorry
theorem dX6_makeStep_201 : decode cX6_makeStep 201 = .ok (.getfield 25, 3) := sorry
theorem dX6_makeStep_204 : decode cX6_makeStep 204 = .ok (.bipush 102, 2) := sorry
theorem dX6_makeStep_206 : decode cX6_makeStep 206 = .ok (.iload_n 1, 1) := sorry
theorem dX6_makeStep_207 : decode cX6_makeStep 207 = .ok (.iadd, 1) := sorry
theorem dX6_makeStep_208 : decode cX6_makeStep 208 = .ok (.lload_n 2, 1) := sorry
theorem dX6_makeStep_209 : decode cX6_makeStep 209 = .ok (.lastore, 1) := sorry
theorem dX6_makeStep_210 : decode cX6_makeStep 210 = .ok (.aload_n 0, 1) := sorry
theorem dX6_makeStep_211 : decode cX6_makeStep 211 = .ok (.getfield 28, 3) := sorry
theorem dX6_makeStep_214 : decode cX6_makeStep 214 = .ok (.aload_n 0, 1) := sorry
theorem dX6_makeStep_215 : decode cX6_makeStep 215 = .ok (.invokevirtual 95, 3) := sorry
theorem dX6_makeStep_218 : decode cX6_makeStep 218 = .ok (.invokestatic 138, 3) := sorry
theorem dX6_makeStep_221 : decode cX6_makeStep 221 = .ok (.aload_n 0, 1) := sorry
theorem dX6_makeStep_222 : decode cX6_makeStep 222 = .ok (.aload_n 0, 1) := sorry
theorem dX6_makeStep_223 : decode cX6_makeStep 223 = .ok (.getfield 28, 3) := sorry
theorem dX6_makeStep_226 : decode cX6_makeStep 226 = .ok (.iload_n 1, 1) := sorry
theorem dX6_makeStep_227 : decode cX6_makeStep 227 = .ok (.iconst 1, 1) := sorry
theorem dX6_makeStep_228 : decode cX6_makeStep 228 = .ok (.iadd, 1) := sorry
theorem dX6_makeStep_229 : decode cX6_makeStep 229 = .ok (.invokestatic 169, 3) := sorry
theorem dX6_makeStep_232 : decode cX6_makeStep 232 = .ok (.invokevirtual 141, 3) := sorry
theorem dX6_makeStep_235 : decode cX6_makeStep 235 = .ok (.return_, 1) := sorry
abbrev cX6_purge : ByteArray := prog_17_method_25_code
def yX6_purge : MethodName := ⟨RX6, "purge", "()V"⟩
def dkwX6_purge_4 : List UInt8 := [132, 1, 1, 167, 255, 163, 177]
abbrev dktX6_purge_4 : List UInt8 := dkwX6_purge_4 ++ []
def dkwX6_purge_3 : List UInt8 := [180, 0, 28, 42, 180, 0, 25, 28, 182, 0, 130, 42, 180, 0, 25, 16, 8, 92, 47, 10, 97, 80]
abbrev dktX6_purge_3 : List UInt8 := dkwX6_purge_3 ++ dktX6_purge_4
def dkwX6_purge_2 : List UInt8 := [42, 180, 0, 25, 28, 182, 0, 115, 184, 0, 147, 42, 180, 0, 25, 5, 47, 148, 158, 0, 27, 42, 42]
abbrev dktX6_purge_2 : List UInt8 := dkwX6_purge_2 ++ dktX6_purge_3
def dkwX6_purge_1 : List UInt8 := [20, 0, 105, 148, 153, 0, 41, 42, 180, 0, 25, 4, 47, 10, 148, 154, 0, 54, 42, 42, 180, 0, 28, 3]
abbrev dktX6_purge_1 : List UInt8 := dkwX6_purge_1 ++ dktX6_purge_2
def dkwX6_purge_0 : List UInt8 := [3, 60, 27, 42, 182, 0, 123, 162, 0, 91, 27, 184, 0, 126, 5, 96, 61, 42, 180, 0, 25, 4, 47]
abbrev dktX6_purge_0 : List UInt8 := dkwX6_purge_0 ++ dktX6_purge_1
theorem dksX6_purge_0 : cX6_purge.data.toList.drop 0 = dktX6_purge_0 := sorry
theorem dksX6_purge_1 : cX6_purge.data.toList.drop 23 = dktX6_purge_1 := sorry
theorem dksX6_purge_2 : cX6_purge.data.toList.drop 47 = dktX6_purge_2 := sorry
theorem dksX6_purge_3 : cX6_purge.data.toList.drop 70 = dktX6_purge_3 := sorry
theorem dksX6_purge_4 : cX6_purge.data.toList.drop 92 = dktX6_purge_4 := sorry
theorem dX6_purge_0 : decode cX6_purge 0 = .ok (.iconst 0, 1) := sorry
theorem dX6_purge_1 : decode cX6_purge 1 = .ok (.istore_n 1, 1) := sorry
theorem dX6_purge_2 : decode cX6_purge 2 = .ok (.iload_n 1, 1) := sorry
theorem dX6_purge_3 : decode cX6_purge 3 = .ok (.aload_n 0, 1) := sorry
theorem dX6_purge_4 : decode cX6_purge 4 = .ok (.invokevirtual 123, 3) := sorry
theorem dX6_purge_7 : decode cX6_purge 7 = .ok (.if_icmp .ge 91, 3) := sorry
theorem dX6_purge_10 : decode cX6_purge 10 = .ok (.iload_n 1, 1) := sorry
theorem dX6_purge_11 : decode cX6_purge 11 = .ok (.invokestatic 126, 3) := sorry
theorem dX6_purge_14 : decode cX6_purge 14 = .ok (.iconst 2, 1) := sorry
theorem dX6_purge_15 : decode cX6_purge 15 = .ok (.iadd, 1) := sorry
theorem dX6_purge_16 : decode cX6_purge 16 = .ok (.istore_n 2, 1) := sorry
theorem dX6_purge_17 : decode cX6_purge 17 = .ok (.aload_n 0, 1) := sorry
theorem dX6_purge_18 : decode cX6_purge 18 = .ok (.getfield 25, 3) := sorry
theorem dX6_purge_21 : decode cX6_purge 21 = .ok (.iconst 1, 1) := sorry
theorem dX6_purge_22 : decode cX6_purge 22 = .ok (.laload, 1) := sorry
theorem dX6_purge_23 : decode cX6_purge 23 = .ok (.ldc2_w 105, 3) := sorry
theorem dX6_purge_26 : decode cX6_purge 26 = .ok (.lcmp, 1) := sorry
theorem dX6_purge_27 : decode cX6_purge 27 = .ok (.ifCond .eq 41, 3) := sorry
theorem dX6_purge_30 : decode cX6_purge 30 = .ok (.aload_n 0, 1) := sorry
theorem dX6_purge_31 : decode cX6_purge 31 = .ok (.getfield 25, 3) := sorry
theorem dX6_purge_34 : decode cX6_purge 34 = .ok (.iconst 1, 1) := sorry
theorem dX6_purge_35 : decode cX6_purge 35 = .ok (.laload, 1) := sorry
theorem dX6_purge_36 : decode cX6_purge 36 = .ok (.lconst 1, 1) := sorry
theorem dX6_purge_37 : decode cX6_purge 37 = .ok (.lcmp, 1) := sorry
theorem dX6_purge_38 : decode cX6_purge 38 = .ok (.ifCond .ne 54, 3) := sorry
theorem dX6_purge_41 : decode cX6_purge 41 = .ok (.aload_n 0, 1) := sorry
theorem dX6_purge_42 : decode cX6_purge 42 = .ok (.aload_n 0, 1) := sorry
theorem dX6_purge_43 : decode cX6_purge 43 = .ok (.getfield 28, 3) := sorry
theorem dX6_purge_46 : decode cX6_purge 46 = .ok (.iconst 0, 1) := sorry
theorem dX6_purge_47 : decode cX6_purge 47 = .ok (.aload_n 0, 1) := sorry
theorem dX6_purge_48 : decode cX6_purge 48 = .ok (.getfield 25, 3) := sorry
theorem dX6_purge_51 : decode cX6_purge 51 = .ok (.iload_n 2, 1) := sorry
theorem dX6_purge_52 : decode cX6_purge 52 = .ok (.invokevirtual 115, 3) := sorry
theorem dX6_purge_55 : decode cX6_purge 55 = .ok (.invokestatic 147, 3) := sorry
theorem dX6_purge_58 : decode cX6_purge 58 = .ok (.aload_n 0, 1) := sorry
theorem dX6_purge_59 : decode cX6_purge 59 = .ok (.getfield 25, 3) := sorry
theorem dX6_purge_62 : decode cX6_purge 62 = .ok (.iconst 2, 1) := sorry
theorem dX6_purge_63 : decode cX6_purge 63 = .ok (.laload, 1) := sorry
theorem dX6_purge_64 : decode cX6_purge 64 = .ok (.lcmp, 1) := sorry
theorem dX6_purge_65 : decode cX6_purge 65 = .ok (.ifCond .le 27, 3) := sorry
theorem dX6_purge_68 : decode cX6_purge 68 = .ok (.aload_n 0, 1) := sorry
theorem dX6_purge_69 : decode cX6_purge 69 = .ok (.aload_n 0, 1) := sorry
theorem dX6_purge_70 : decode cX6_purge 70 = .ok (.getfield 28, 3) := sorry
theorem dX6_purge_73 : decode cX6_purge 73 = .ok (.aload_n 0, 1) := sorry
theorem dX6_purge_74 : decode cX6_purge 74 = .ok (.getfield 25, 3) := sorry
theorem dX6_purge_77 : decode cX6_purge 77 = .ok (.iload_n 2, 1) := sorry
theorem dX6_purge_78 : decode cX6_purge 78 = .ok (.invokevirtual 130, 3) := sorry
theorem dX6_purge_81 : decode cX6_purge 81 = .ok (.aload_n 0, 1) := sorry
theorem dX6_purge_82 : decode cX6_purge 82 = .ok (.getfield 25, 3) := sorry
theorem dX6_purge_85 : decode cX6_purge 85 = .ok (.bipush 8, 2) := sorry
theorem dX6_purge_87 : decode cX6_purge 87 = .ok (.dup2, 1) := sorry
theorem dX6_purge_88 : decode cX6_purge 88 = .ok (.laload, 1) := sorry
theorem dX6_purge_89 : decode cX6_purge 89 = .ok (.lconst 1, 1) := sorry
theorem dX6_purge_90 : decode cX6_purge 90 = .ok (.ladd, 1) := sorry
theorem dX6_purge_91 : decode cX6_purge 91 = .ok (.lastore, 1) := sorry
theorem dX6_purge_92 : decode cX6_purge 92 = .ok (.iinc 1 1, 3) := sorry
theorem dX6_purge_95 : decode cX6_purge 95 = .ok (.goto (-93), 3) := sorry
theorem dX6_purge_98 : decode cX6_purge 98 = .ok (.return_, 1) := sorry
abbrev cX6_close : ByteArray := prog_17_method_31_code
def yX6_close : MethodName := ⟨RX6, "close", "(I)V"⟩
def dkwX6_close_0 : List UInt8 := [42, 180, 0, 25, 16, 102, 27, 96, 9, 80, 42, 180, 0, 25, 8, 10, 80, 177]
abbrev dktX6_close_0 : List UInt8 := dkwX6_close_0 ++ []
theorem dksX6_close_0 : cX6_close.data.toList.drop 0 = dktX6_close_0 := sorry
theorem dX6_close_0 : decode cX6_close 0 = .ok (.aload_n 0, 1) := sorry
theorem dX6_close_1 : decode cX6_close 1 = .ok (.getfield 25, 3) := sorry
theorem dX6_close_4 : decode cX6_close 4 = .ok (.bipush 102, 2) := sorry
theorem dX6_close_6 : decode cX6_close 6 = .ok (.iload_n 1, 1) := sorry
theorem dX6_close_7 : decode cX6_close 7 = .ok (.iadd, 1) := sorry
theorem dX6_close_8 : decode cX6_close 8 = .ok (.lconst 0, 1) := sorry
theorem dX6_close_9 : decode cX6_close 9 = .ok (.lastore, 1) := sorry
theorem dX6_close_10 : decode cX6_close 10 = .ok (.aload_n 0, 1) := sorry
theorem dX6_close_11 : decode cX6_close 11 = .ok (.getfield 25, 3) := sorry
theorem dX6_close_14 : decode cX6_close 14 = .ok (.iconst 5, 1) := sorry
theorem dX6_close_15 : decode cX6_close 15 = .ok (.lconst 1, 1) := sorry
theorem dX6_close_16 : decode cX6_close 16 = .ok (.lastore, 1) := sorry
theorem dX6_close_17 : decode cX6_close 17 = .ok (.return_, 1) := sorry
abbrev cX6_estimateAll : ByteArray := prog_17_method_29_code
def yX6_estimateAll : MethodName := ⟨RX6, "estimateAll", "(IJ)V"⟩
def dkwX6_estimateAll_7 : List UInt8 := [96, 104, 96, 27, 96, 20, 0, 105, 80, 177]
abbrev dktX6_estimateAll_7 : List UInt8 := dkwX6_estimateAll_7 ++ []
def dkwX6_estimateAll_6 : List UInt8 := [101, 20, 0, 97, 184, 0, 166, 80, 132, 4, 1, 167, 255, 104, 42, 180, 0, 25, 16, 108, 16, 7, 27, 4]
abbrev dktX6_estimateAll_6 : List UInt8 := dkwX6_estimateAll_6 ++ dktX6_estimateAll_7
def dkwX6_estimateAll_5 : List UInt8 := [21, 4, 96, 22, 5, 9, 148, 155, 0, 12, 22, 5, 20, 0, 105, 97, 167, 0, 9, 22, 5, 20, 0, 105]
abbrev dktX6_estimateAll_5 : List UInt8 := dkwX6_estimateAll_5 ++ dktX6_estimateAll_6
def dkwX6_estimateAll_4 : List UInt8 := [105, 101, 97, 55, 5, 22, 5, 32, 109, 55, 5, 42, 180, 0, 25, 16, 108, 16, 7, 27, 4, 96, 104, 96]
abbrev dktX6_estimateAll_4 : List UInt8 := dkwX6_estimateAll_4 ++ dktX6_estimateAll_5
def dkwX6_estimateAll_3 : List UInt8 := [21, 4, 4, 100, 182, 0, 158, 105, 42, 27, 4, 100, 182, 0, 162, 42, 27, 4, 100, 21, 4, 182, 0, 158]
abbrev dktX6_estimateAll_3 : List UInt8 := dkwX6_estimateAll_3 ++ dktX6_estimateAll_4
def dkwX6_estimateAll_2 : List UInt8 := [101, 42, 27, 21, 4, 182, 0, 158, 105, 97, 55, 5, 22, 5, 42, 21, 4, 4, 100, 182, 0, 162, 42, 27]
abbrev dktX6_estimateAll_2 : List UInt8 := dkwX6_estimateAll_2 ++ dktX6_estimateAll_3
def dkwX6_estimateAll_1 : List UInt8 := [96, 182, 0, 158, 105, 42, 180, 0, 25, 16, 96, 21, 4, 96, 47, 42, 180, 0, 25, 16, 96, 27, 96, 47]
abbrev dktX6_estimateAll_1 : List UInt8 := dkwX6_estimateAll_1 ++ dktX6_estimateAll_2
def dkwX6_estimateAll_0 : List UInt8 := [3, 54, 4, 21, 4, 27, 162, 0, 152, 42, 180, 0, 25, 16, 102, 21, 4, 96, 47, 42, 27, 21, 4, 4]
abbrev dktX6_estimateAll_0 : List UInt8 := dkwX6_estimateAll_0 ++ dktX6_estimateAll_1
theorem dksX6_estimateAll_0 : cX6_estimateAll.data.toList.drop 0 = dktX6_estimateAll_0 := sorry
theorem dksX6_estimateAll_1 : cX6_estimateAll.data.toList.drop 24 = dktX6_estimateAll_1 := sorry
theorem dksX6_estimateAll_2 : cX6_estimateAll.data.toList.drop 48 = dktX6_estimateAll_2 := sorry
theorem dksX6_estimateAll_3 : cX6_estimateAll.data.toList.drop 72 = dktX6_estimateAll_3 := sorry
theorem dksX6_estimateAll_4 : cX6_estimateAll.data.toList.drop 96 = dktX6_estimateAll_4 := sorry
theorem dksX6_estimateAll_5 : cX6_estimateAll.data.toList.drop 120 = dktX6_estimateAll_5 := sorry
theorem dksX6_estimateAll_6 : cX6_estimateAll.data.toList.drop 144 = dktX6_estimateAll_6 := sorry
theorem dksX6_estimateAll_7 : cX6_estimateAll.data.toList.drop 168 = dktX6_estimateAll_7 := sorry
theorem dX6_estimateAll_0 : decode cX6_estimateAll 0 = .ok (.iconst 0, 1) := sorry
theorem dX6_estimateAll_1 : decode cX6_estimateAll 1 = .ok (.istore 4, 2) := sorry
theorem dX6_estimateAll_3 : decode cX6_estimateAll 3 = .ok (.iload 4, 2) := sorry
theorem dX6_estimateAll_5 : decode cX6_estimateAll 5 = .ok (.iload_n 1, 1) := sorry
theorem dX6_estimateAll_6 : decode cX6_estimateAll 6 = .ok (.if_icmp .ge 152, 3) := sorry
theorem dX6_estimateAll_9 : decode cX6_estimateAll 9 = .ok (.aload_n 0, 1) := sorry
theorem dX6_estimateAll_10 : decode cX6_estimateAll 10 = .ok (.getfield 25, 3) := sorry
theorem dX6_estimateAll_13 : decode cX6_estimateAll 13 = .ok (.bipush 102, 2) := sorry
theorem dX6_estimateAll_15 : decode cX6_estimateAll 15 = .ok (.iload 4, 2) := sorry
theorem dX6_estimateAll_17 : decode cX6_estimateAll 17 = .ok (.iadd, 1) := sorry
theorem dX6_estimateAll_18 : decode cX6_estimateAll 18 = .ok (.laload, 1) := sorry
theorem dX6_estimateAll_19 : decode cX6_estimateAll 19 = .ok (.aload_n 0, 1) := sorry
theorem dX6_estimateAll_20 : decode cX6_estimateAll 20 = .ok (.iload_n 1, 1) := sorry
theorem dX6_estimateAll_21 : decode cX6_estimateAll 21 = .ok (.iload 4, 2) := sorry
theorem dX6_estimateAll_23 : decode cX6_estimateAll 23 = .ok (.iconst 1, 1) := sorry
theorem dX6_estimateAll_24 : decode cX6_estimateAll 24 = .ok (.iadd, 1) := sorry
theorem dX6_estimateAll_25 : decode cX6_estimateAll 25 = .ok (.invokevirtual 158, 3) := sorry
theorem dX6_estimateAll_28 : decode cX6_estimateAll 28 = .ok (.lmul, 1) := sorry
theorem dX6_estimateAll_29 : decode cX6_estimateAll 29 = .ok (.aload_n 0, 1) := sorry
theorem dX6_estimateAll_30 : decode cX6_estimateAll 30 = .ok (.getfield 25, 3) := sorry
theorem dX6_estimateAll_33 : decode cX6_estimateAll 33 = .ok (.bipush 96, 2) := sorry
theorem dX6_estimateAll_35 : decode cX6_estimateAll 35 = .ok (.iload 4, 2) := sorry
theorem dX6_estimateAll_37 : decode cX6_estimateAll 37 = .ok (.iadd, 1) := sorry
theorem dX6_estimateAll_38 : decode cX6_estimateAll 38 = .ok (.laload, 1) := sorry
theorem dX6_estimateAll_39 : decode cX6_estimateAll 39 = .ok (.aload_n 0, 1) := sorry
theorem dX6_estimateAll_40 : decode cX6_estimateAll 40 = .ok (.getfield 25, 3) := sorry
theorem dX6_estimateAll_43 : decode cX6_estimateAll 43 = .ok (.bipush 96, 2) := sorry
theorem dX6_estimateAll_45 : decode cX6_estimateAll 45 = .ok (.iload_n 1, 1) := sorry
theorem dX6_estimateAll_46 : decode cX6_estimateAll 46 = .ok (.iadd, 1) := sorry
theorem dX6_estimateAll_47 : decode cX6_estimateAll 47 = .ok (.laload, 1) := sorry
theorem dX6_estimateAll_48 : decode cX6_estimateAll 48 = .ok (.lsub, 1) := sorry
theorem dX6_estimateAll_49 : decode cX6_estimateAll 49 = .ok (.aload_n 0, 1) := sorry
theorem dX6_estimateAll_50 : decode cX6_estimateAll 50 = .ok (.iload_n 1, 1) := sorry
theorem dX6_estimateAll_51 : decode cX6_estimateAll 51 = .ok (.iload 4, 2) := sorry
theorem dX6_estimateAll_53 : decode cX6_estimateAll 53 = .ok (.invokevirtual 158, 3) := sorry
theorem dX6_estimateAll_56 : decode cX6_estimateAll 56 = .ok (.lmul, 1) := sorry
theorem dX6_estimateAll_57 : decode cX6_estimateAll 57 = .ok (.ladd, 1) := sorry
theorem dX6_estimateAll_58 : decode cX6_estimateAll 58 = .ok (.lstore 5, 2) := sorry
theorem dX6_estimateAll_60 : decode cX6_estimateAll 60 = .ok (.lload 5, 2) := sorry
theorem dX6_estimateAll_62 : decode cX6_estimateAll 62 = .ok (.aload_n 0, 1) := sorry
theorem dX6_estimateAll_63 : decode cX6_estimateAll 63 = .ok (.iload 4, 2) := sorry
theorem dX6_estimateAll_65 : decode cX6_estimateAll 65 = .ok (.iconst 1, 1) := sorry
theorem dX6_estimateAll_66 : decode cX6_estimateAll 66 = .ok (.isub, 1) := sorry
theorem dX6_estimateAll_67 : decode cX6_estimateAll 67 = .ok (.invokevirtual 162, 3) := sorry
theorem dX6_estimateAll_70 : decode cX6_estimateAll 70 = .ok (.aload_n 0, 1) := sorry
theorem dX6_estimateAll_71 : decode cX6_estimateAll 71 = .ok (.iload_n 1, 1) := sorry
theorem dX6_estimateAll_72 : decode cX6_estimateAll 72 = .ok (.iload 4, 2) := sorry
theorem dX6_estimateAll_74 : decode cX6_estimateAll 74 = .ok (.iconst 1, 1) := sorry
theorem dX6_estimateAll_75 : decode cX6_estimateAll 75 = .ok (.isub, 1) := sorry
theorem dX6_estimateAll_76 : decode cX6_estimateAll 76 = .ok (.invokevirtual 158, 3) := sorry
theorem dX6_estimateAll_79 : decode cX6_estimateAll 79 = .ok (.lmul, 1) := sorry
theorem dX6_estimateAll_80 : decode cX6_estimateAll 80 = .ok (.aload_n 0, 1) := sorry
theorem dX6_estimateAll_81 : decode cX6_estimateAll 81 = .ok (.iload_n 1, 1) := sorry
theorem dX6_estimateAll_82 : decode cX6_estimateAll 82 = .ok (.iconst 1, 1) := sorry
theorem dX6_estimateAll_83 : decode cX6_estimateAll 83 = .ok (.isub, 1) := sorry
theorem dX6_estimateAll_84 : decode cX6_estimateAll 84 = .ok (.invokevirtual 162, 3) := sorry
theorem dX6_estimateAll_87 : decode cX6_estimateAll 87 = .ok (.aload_n 0, 1) := sorry
theorem dX6_estimateAll_88 : decode cX6_estimateAll 88 = .ok (.iload_n 1, 1) := sorry
theorem dX6_estimateAll_89 : decode cX6_estimateAll 89 = .ok (.iconst 1, 1) := sorry
theorem dX6_estimateAll_90 : decode cX6_estimateAll 90 = .ok (.isub, 1) := sorry
theorem dX6_estimateAll_91 : decode cX6_estimateAll 91 = .ok (.iload 4, 2) := sorry
theorem dX6_estimateAll_93 : decode cX6_estimateAll 93 = .ok (.invokevirtual 158, 3) := sorry
theorem dX6_estimateAll_96 : decode cX6_estimateAll 96 = .ok (.lmul, 1) := sorry
theorem dX6_estimateAll_97 : decode cX6_estimateAll 97 = .ok (.lsub, 1) := sorry
theorem dX6_estimateAll_98 : decode cX6_estimateAll 98 = .ok (.ladd, 1) := sorry
theorem dX6_estimateAll_99 : decode cX6_estimateAll 99 = .ok (.lstore 5, 2) := sorry
theorem dX6_estimateAll_101 : decode cX6_estimateAll 101 = .ok (.lload 5, 2) := sorry
theorem dX6_estimateAll_103 : decode cX6_estimateAll 103 = .ok (.lload_n 2, 1) := sorry
theorem dX6_estimateAll_104 : decode cX6_estimateAll 104 = .ok (.ldiv, 1) := sorry
theorem dX6_estimateAll_105 : decode cX6_estimateAll 105 = .ok (.lstore 5, 2) := sorry
theorem dX6_estimateAll_107 : decode cX6_estimateAll 107 = .ok (.aload_n 0, 1) := sorry
theorem dX6_estimateAll_108 : decode cX6_estimateAll 108 = .ok (.getfield 25, 3) := sorry
theorem dX6_estimateAll_111 : decode cX6_estimateAll 111 = .ok (.bipush 108, 2) := sorry
theorem dX6_estimateAll_113 : decode cX6_estimateAll 113 = .ok (.bipush 7, 2) := sorry
theorem dX6_estimateAll_115 : decode cX6_estimateAll 115 = .ok (.iload_n 1, 1) := sorry
theorem dX6_estimateAll_116 : decode cX6_estimateAll 116 = .ok (.iconst 1, 1) := sorry
theorem dX6_estimateAll_117 : decode cX6_estimateAll 117 = .ok (.iadd, 1) := sorry
theorem dX6_estimateAll_118 : decode cX6_estimateAll 118 = .ok (.imul, 1) := sorry
theorem dX6_estimateAll_119 : decode cX6_estimateAll 119 = .ok (.iadd, 1) := sorry
theorem dX6_estimateAll_120 : decode cX6_estimateAll 120 = .ok (.iload 4, 2) := sorry
theorem dX6_estimateAll_122 : decode cX6_estimateAll 122 = .ok (.iadd, 1) := sorry
theorem dX6_estimateAll_123 : decode cX6_estimateAll 123 = .ok (.lload 5, 2) := sorry
theorem dX6_estimateAll_125 : decode cX6_estimateAll 125 = .ok (.lconst 0, 1) := sorry
theorem dX6_estimateAll_126 : decode cX6_estimateAll 126 = .ok (.lcmp, 1) := sorry
theorem dX6_estimateAll_127 : decode cX6_estimateAll 127 = .ok (.ifCond .lt 12, 3) := sorry
theorem dX6_estimateAll_130 : decode cX6_estimateAll 130 = .ok (.lload 5, 2) := sorry
theorem dX6_estimateAll_132 : decode cX6_estimateAll 132 = .ok (.ldc2_w 105, 3) := sorry
theorem dX6_estimateAll_135 : decode cX6_estimateAll 135 = .ok (.ladd, 1) := sorry
theorem dX6_estimateAll_136 : decode cX6_estimateAll 136 = .ok (.goto 9, 3) := sorry
theorem dX6_estimateAll_139 : decode cX6_estimateAll 139 = .ok (.lload 5, 2) := sorry
theorem dX6_estimateAll_141 : decode cX6_estimateAll 141 = .ok (.ldc2_w 105, 3) := sorry
theorem dX6_estimateAll_144 : decode cX6_estimateAll 144 = .ok (.lsub, 1) := sorry
theorem dX6_estimateAll_145 : decode cX6_estimateAll 145 = .ok (.ldc2_w 97, 3) := sorry
theorem dX6_estimateAll_148 : decode cX6_estimateAll 148 = .ok (.invokestatic 166, 3) := sorry
theorem dX6_estimateAll_151 : decode cX6_estimateAll 151 = .ok (.lastore, 1) := sorry
theorem dX6_estimateAll_152 : decode cX6_estimateAll 152 = .ok (.iinc 4 1, 3) := sorry
theorem dX6_estimateAll_155 : decode cX6_estimateAll 155 = .ok (.goto (-152), 3) := sorry
theorem dX6_estimateAll_158 : decode cX6_estimateAll 158 = .ok (.aload_n 0, 1) := sorry
theorem dX6_estimateAll_159 : decode cX6_estimateAll 159 = .ok (.getfield 25, 3) := sorry
theorem dX6_estimateAll_162 : decode cX6_estimateAll 162 = .ok (.bipush 108, 2) := sorry
theorem dX6_estimateAll_164 : decode cX6_estimateAll 164 = .ok (.bipush 7, 2) := sorry
theorem dX6_estimateAll_166 : decode cX6_estimateAll 166 = .ok (.iload_n 1, 1) := sorry
theorem dX6_estimateAll_167 : decode cX6_estimateAll 167 = .ok (.iconst 1, 1) := sorry
theorem dX6_estimateAll_168 : decode cX6_estimateAll 168 = .ok (.iadd, 1) := sorry
theorem dX6_estimateAll_169 : decode cX6_estimateAll 169 = .ok (.imul, 1) := sorry
theorem dX6_estimateAll_170 : decode cX6_estimateAll 170 = .ok (.iadd, 1) := sorry
theorem dX6_estimateAll_171 : decode cX6_estimateAll 171 = .ok (.iload_n 1, 1) := sorry
theorem dX6_estimateAll_172 : decode cX6_estimateAll 172 = .ok (.iadd, 1) := sorry
theorem dX6_estimateAll_173 : decode cX6_estimateAll 173 = .ok (.ldc2_w 105, 3) := sorry
theorem dX6_estimateAll_176 : decode cX6_estimateAll 176 = .ok (.lastore, 1) := sorry
theorem dX6_estimateAll_177 : decode cX6_estimateAll 177 = .ok (.return_, 1) := sorry
abbrev cX6_betaOr0 : ByteArray := prog_17_method_27_code
def yX6_betaOr0 : MethodName := ⟨RX6, "betaOr0", "(I)J"⟩
def dkwX6_betaOr0_0 : List UInt8 := [27, 156, 0, 7, 9, 167, 0, 12, 42, 180, 0, 25, 16, 102, 27, 96, 47, 173]
abbrev dktX6_betaOr0_0 : List UInt8 := dkwX6_betaOr0_0 ++ []
theorem dksX6_betaOr0_0 : cX6_betaOr0.data.toList.drop 0 = dktX6_betaOr0_0 := sorry
theorem dX6_betaOr0_0 : decode cX6_betaOr0 0 = .ok (.iload_n 1, 1) := sorry
theorem dX6_betaOr0_1 : decode cX6_betaOr0 1 = .ok (.ifCond .ge 7, 3) := sorry
theorem dX6_betaOr0_4 : decode cX6_betaOr0 4 = .ok (.lconst 0, 1) := sorry
theorem dX6_betaOr0_5 : decode cX6_betaOr0 5 = .ok (.goto 12, 3) := sorry
theorem dX6_betaOr0_8 : decode cX6_betaOr0 8 = .ok (.aload_n 0, 1) := sorry
theorem dX6_betaOr0_9 : decode cX6_betaOr0 9 = .ok (.getfield 25, 3) := sorry
theorem dX6_betaOr0_12 : decode cX6_betaOr0 12 = .ok (.bipush 102, 2) := sorry
theorem dX6_betaOr0_14 : decode cX6_betaOr0 14 = .ok (.iload_n 1, 1) := sorry
theorem dX6_betaOr0_15 : decode cX6_betaOr0 15 = .ok (.iadd, 1) := sorry
theorem dX6_betaOr0_16 : decode cX6_betaOr0 16 = .ok (.laload, 1) := sorry
theorem dX6_betaOr0_17 : decode cX6_betaOr0 17 = .ok (.lreturn, 1) := sorry
abbrev cX6_repair : ByteArray := prog_17_method_30_code
def yX6_repair : MethodName := ⟨RX6, "repair", "(I)Z"⟩
def dkwX6_repair_4 : List UInt8 := [180, 0, 25, 16, 9, 92, 47, 10, 97, 80, 4, 61, 132, 3, 1, 167, 255, 152, 28, 172]
abbrev dktX6_repair_4 : List UInt8 := dkwX6_repair_4 ++ []
def dkwX6_repair_3 : List UInt8 := [42, 180, 0, 25, 29, 184, 0, 169, 182, 0, 130, 42, 180, 0, 25, 21, 4, 20, 0, 105, 80, 42]
abbrev dktX6_repair_3 : List UInt8 := dkwX6_repair_3 ++ dktX6_repair_4
def dkwX6_repair_2 : List UInt8 := [180, 0, 25, 21, 4, 47, 184, 0, 147, 42, 180, 0, 25, 5, 47, 148, 158, 0, 42, 42, 42, 180, 0, 28]
abbrev dktX6_repair_2 : List UInt8 := dkwX6_repair_2 ++ dktX6_repair_3
def dkwX6_repair_1 : List UInt8 := [180, 0, 25, 4, 47, 20, 0, 105, 148, 153, 0, 34, 42, 180, 0, 25, 4, 47, 10, 148, 154, 0, 62, 42]
abbrev dktX6_repair_1 : List UInt8 := dkwX6_repair_1 ++ dktX6_repair_2
def dkwX6_repair_0 : List UInt8 := [3, 61, 3, 62, 29, 27, 163, 0, 105, 16, 108, 16, 7, 27, 4, 96, 104, 96, 29, 96, 54, 4, 42]
abbrev dktX6_repair_0 : List UInt8 := dkwX6_repair_0 ++ dktX6_repair_1
theorem dksX6_repair_0 : cX6_repair.data.toList.drop 0 = dktX6_repair_0 := sorry
theorem dksX6_repair_1 : cX6_repair.data.toList.drop 23 = dktX6_repair_1 := sorry
theorem dksX6_repair_2 : cX6_repair.data.toList.drop 47 = dktX6_repair_2 := sorry
theorem dksX6_repair_3 : cX6_repair.data.toList.drop 71 = dktX6_repair_3 := sorry
theorem dksX6_repair_4 : cX6_repair.data.toList.drop 93 = dktX6_repair_4 := sorry
theorem dX6_repair_0 : decode cX6_repair 0 = .ok (.iconst 0, 1) := sorry
theorem dX6_repair_1 : decode cX6_repair 1 = .ok (.istore_n 2, 1) := sorry
theorem dX6_repair_2 : decode cX6_repair 2 = .ok (.iconst 0, 1) := sorry
theorem dX6_repair_3 : decode cX6_repair 3 = .ok (.istore_n 3, 1) := sorry
theorem dX6_repair_4 : decode cX6_repair 4 = .ok (.iload_n 3, 1) := sorry
theorem dX6_repair_5 : decode cX6_repair 5 = .ok (.iload_n 1, 1) := sorry
theorem dX6_repair_6 : decode cX6_repair 6 = .ok (.if_icmp .gt 105, 3) := sorry
theorem dX6_repair_9 : decode cX6_repair 9 = .ok (.bipush 108, 2) := sorry
theorem dX6_repair_11 : decode cX6_repair 11 = .ok (.bipush 7, 2) := sorry
theorem dX6_repair_13 : decode cX6_repair 13 = .ok (.iload_n 1, 1) := sorry
theorem dX6_repair_14 : decode cX6_repair 14 = .ok (.iconst 1, 1) := sorry
theorem dX6_repair_15 : decode cX6_repair 15 = .ok (.iadd, 1) := sorry
theorem dX6_repair_16 : decode cX6_repair 16 = .ok (.imul, 1) := sorry
theorem dX6_repair_17 : decode cX6_repair 17 = .ok (.iadd, 1) := sorry
theorem dX6_repair_18 : decode cX6_repair 18 = .ok (.iload_n 3, 1) := sorry
theorem dX6_repair_19 : decode cX6_repair 19 = .ok (.iadd, 1) := sorry
theorem dX6_repair_20 : decode cX6_repair 20 = .ok (.istore 4, 2) := sorry
theorem dX6_repair_22 : decode cX6_repair 22 = .ok (.aload_n 0, 1) := sorry
theorem dX6_repair_23 : decode cX6_repair 23 = .ok (.getfield 25, 3) := sorry
theorem dX6_repair_26 : decode cX6_repair 26 = .ok (.iconst 1, 1) := sorry
theorem dX6_repair_27 : decode cX6_repair 27 = .ok (.laload, 1) := sorry
theorem dX6_repair_28 : decode cX6_repair 28 = .ok (.ldc2_w 105, 3) := sorry
theorem dX6_repair_31 : decode cX6_repair 31 = .ok (.lcmp, 1) := sorry
theorem dX6_repair_32 : decode cX6_repair 32 = .ok (.ifCond .eq 34, 3) := sorry
theorem dX6_repair_35 : decode cX6_repair 35 = .ok (.aload_n 0, 1) := sorry
theorem dX6_repair_36 : decode cX6_repair 36 = .ok (.getfield 25, 3) := sorry
theorem dX6_repair_39 : decode cX6_repair 39 = .ok (.iconst 1, 1) := sorry
theorem dX6_repair_40 : decode cX6_repair 40 = .ok (.laload, 1) := sorry
theorem dX6_repair_41 : decode cX6_repair 41 = .ok (.lconst 1, 1) := sorry
theorem dX6_repair_42 : decode cX6_repair 42 = .ok (.lcmp, 1) := sorry
theorem dX6_repair_43 : decode cX6_repair 43 = .ok (.ifCond .ne 62, 3) := sorry
theorem dX6_repair_46 : decode cX6_repair 46 = .ok (.aload_n 0, 1) := sorry
theorem dX6_repair_47 : decode cX6_repair 47 = .ok (.getfield 25, 3) := sorry
theorem dX6_repair_50 : decode cX6_repair 50 = .ok (.iload 4, 2) := sorry
theorem dX6_repair_52 : decode cX6_repair 52 = .ok (.laload, 1) := sorry
theorem dX6_repair_53 : decode cX6_repair 53 = .ok (.invokestatic 147, 3) := sorry
theorem dX6_repair_56 : decode cX6_repair 56 = .ok (.aload_n 0, 1) := sorry
theorem dX6_repair_57 : decode cX6_repair 57 = .ok (.getfield 25, 3) := sorry
theorem dX6_repair_60 : decode cX6_repair 60 = .ok (.iconst 2, 1) := sorry
theorem dX6_repair_61 : decode cX6_repair 61 = .ok (.laload, 1) := sorry
theorem dX6_repair_62 : decode cX6_repair 62 = .ok (.lcmp, 1) := sorry
theorem dX6_repair_63 : decode cX6_repair 63 = .ok (.ifCond .le 42, 3) := sorry
theorem dX6_repair_66 : decode cX6_repair 66 = .ok (.aload_n 0, 1) := sorry
theorem dX6_repair_67 : decode cX6_repair 67 = .ok (.aload_n 0, 1) := sorry
theorem dX6_repair_68 : decode cX6_repair 68 = .ok (.getfield 28, 3) := sorry
theorem dX6_repair_71 : decode cX6_repair 71 = .ok (.aload_n 0, 1) := sorry
theorem dX6_repair_72 : decode cX6_repair 72 = .ok (.getfield 25, 3) := sorry
theorem dX6_repair_75 : decode cX6_repair 75 = .ok (.iload_n 3, 1) := sorry
theorem dX6_repair_76 : decode cX6_repair 76 = .ok (.invokestatic 169, 3) := sorry
theorem dX6_repair_79 : decode cX6_repair 79 = .ok (.invokevirtual 130, 3) := sorry
theorem dX6_repair_82 : decode cX6_repair 82 = .ok (.aload_n 0, 1) := sorry
theorem dX6_repair_83 : decode cX6_repair 83 = .ok (.getfield 25, 3) := sorry
theorem dX6_repair_86 : decode cX6_repair 86 = .ok (.iload 4, 2) := sorry
theorem dX6_repair_88 : decode cX6_repair 88 = .ok (.ldc2_w 105, 3) := sorry
theorem dX6_repair_91 : decode cX6_repair 91 = .ok (.lastore, 1) := sorry
theorem dX6_repair_92 : decode cX6_repair 92 = .ok (.aload_n 0, 1) := sorry
theorem dX6_repair_93 : decode cX6_repair 93 = .ok (.getfield 25, 3) := sorry
theorem dX6_repair_96 : decode cX6_repair 96 = .ok (.bipush 9, 2) := sorry
theorem dX6_repair_98 : decode cX6_repair 98 = .ok (.dup2, 1) := sorry
theorem dX6_repair_99 : decode cX6_repair 99 = .ok (.laload, 1) := sorry
theorem dX6_repair_100 : decode cX6_repair 100 = .ok (.lconst 1, 1) := sorry
theorem dX6_repair_101 : decode cX6_repair 101 = .ok (.ladd, 1) := sorry
theorem dX6_repair_102 : decode cX6_repair 102 = .ok (.lastore, 1) := sorry
theorem dX6_repair_103 : decode cX6_repair 103 = .ok (.iconst 1, 1) := sorry
theorem dX6_repair_104 : decode cX6_repair 104 = .ok (.istore_n 2, 1) := sorry
theorem dX6_repair_105 : decode cX6_repair 105 = .ok (.iinc 3 1, 3) := sorry
theorem dX6_repair_108 : decode cX6_repair 108 = .ok (.goto (-104), 3) := sorry
theorem dX6_repair_111 : decode cX6_repair 111 = .ok (.iload_n 2, 1) := sorry
theorem dX6_repair_112 : decode cX6_repair 112 = .ok (.ireturn, 1) := sorry
abbrev cX6_traceGap : ByteArray := prog_17_method_77_code
def yX6_traceGap : MethodName := ⟨RX6, "traceGap", "()J"⟩
def dkwX6_traceGap_3 : List UInt8 := [180, 0, 9, 16, 18, 16, 7, 29, 104, 96, 47, 105, 101, 64, 132, 3, 1, 167, 255, 226, 31, 173]
abbrev dktX6_traceGap_3 : List UInt8 := dkwX6_traceGap_3 ++ []
def dkwX6_traceGap_2 : List UInt8 := [97, 64, 132, 3, 1, 167, 255, 237, 3, 62, 29, 42, 182, 0, 95, 162, 0, 28, 31, 20, 0, 97, 42]
abbrev dktX6_traceGap_2 : List UInt8 := dkwX6_traceGap_2 ++ dktX6_traceGap_3
def dkwX6_traceGap_1 : List UInt8 := [97, 64, 132, 3, 1, 167, 255, 236, 3, 62, 29, 42, 182, 0, 91, 162, 0, 17, 31, 42, 29, 182, 0, 209]
abbrev dktX6_traceGap_1 : List UInt8 := dkwX6_traceGap_1 ++ dktX6_traceGap_2
def dkwX6_traceGap_0 : List UInt8 := [42, 3, 181, 0, 84, 9, 64, 3, 62, 29, 42, 182, 0, 123, 162, 0, 18, 31, 42, 29, 3, 182, 0, 249]
abbrev dktX6_traceGap_0 : List UInt8 := dkwX6_traceGap_0 ++ dktX6_traceGap_1
theorem dksX6_traceGap_0 : cX6_traceGap.data.toList.drop 0 = dktX6_traceGap_0 := sorry
theorem dksX6_traceGap_1 : cX6_traceGap.data.toList.drop 24 = dktX6_traceGap_1 := sorry
theorem dksX6_traceGap_2 : cX6_traceGap.data.toList.drop 48 = dktX6_traceGap_2 := sorry
theorem dksX6_traceGap_3 : cX6_traceGap.data.toList.drop 71 = dktX6_traceGap_3 := sorry
theorem dX6_traceGap_0 : decode cX6_traceGap 0 = .ok (.aload_n 0, 1) := sorry
theorem dX6_traceGap_1 : decode cX6_traceGap 1 = .ok (.iconst 0, 1) := sorry
theorem dX6_traceGap_2 : decode cX6_traceGap 2 = .ok (.putfield 84, 3) := sorry
theorem dX6_traceGap_5 : decode cX6_traceGap 5 = .ok (.lconst 0, 1) := sorry
theorem dX6_traceGap_6 : decode cX6_traceGap 6 = .ok (.lstore_n 1, 1) := sorry
theorem dX6_traceGap_7 : decode cX6_traceGap 7 = .ok (.iconst 0, 1) := sorry
theorem dX6_traceGap_8 : decode cX6_traceGap 8 = .ok (.istore_n 3, 1) := sorry
theorem dX6_traceGap_9 : decode cX6_traceGap 9 = .ok (.iload_n 3, 1) := sorry
theorem dX6_traceGap_10 : decode cX6_traceGap 10 = .ok (.aload_n 0, 1) := sorry
theorem dX6_traceGap_11 : decode cX6_traceGap 11 = .ok (.invokevirtual 123, 3) := sorry
theorem dX6_traceGap_14 : decode cX6_traceGap 14 = .ok (.if_icmp .ge 18, 3) := sorry
theorem dX6_traceGap_17 : decode cX6_traceGap 17 = .ok (.lload_n 1, 1) := sorry
theorem dX6_traceGap_18 : decode cX6_traceGap 18 = .ok (.aload_n 0, 1) := sorry
theorem dX6_traceGap_19 : decode cX6_traceGap 19 = .ok (.iload_n 3, 1) := sorry
theorem dX6_traceGap_20 : decode cX6_traceGap 20 = .ok (.iconst 0, 1) := sorry
theorem dX6_traceGap_21 : decode cX6_traceGap 21 = .ok (.invokevirtual 249, 3) := sorry
theorem dX6_traceGap_24 : decode cX6_traceGap 24 = .ok (.ladd, 1) := sorry
theorem dX6_traceGap_25 : decode cX6_traceGap 25 = .ok (.lstore_n 1, 1) := sorry
theorem dX6_traceGap_26 : decode cX6_traceGap 26 = .ok (.iinc 3 1, 3) := sorry
theorem dX6_traceGap_29 : decode cX6_traceGap 29 = .ok (.goto (-20), 3) := sorry
theorem dX6_traceGap_32 : decode cX6_traceGap 32 = .ok (.iconst 0, 1) := sorry
theorem dX6_traceGap_33 : decode cX6_traceGap 33 = .ok (.istore_n 3, 1) := sorry
theorem dX6_traceGap_34 : decode cX6_traceGap 34 = .ok (.iload_n 3, 1) := sorry
theorem dX6_traceGap_35 : decode cX6_traceGap 35 = .ok (.aload_n 0, 1) := sorry
theorem dX6_traceGap_36 : decode cX6_traceGap 36 = .ok (.invokevirtual 91, 3) := sorry
theorem dX6_traceGap_39 : decode cX6_traceGap 39 = .ok (.if_icmp .ge 17, 3) := sorry
theorem dX6_traceGap_42 : decode cX6_traceGap 42 = .ok (.lload_n 1, 1) := sorry
theorem dX6_traceGap_43 : decode cX6_traceGap 43 = .ok (.aload_n 0, 1) := sorry
theorem dX6_traceGap_44 : decode cX6_traceGap 44 = .ok (.iload_n 3, 1) := sorry
theorem dX6_traceGap_45 : decode cX6_traceGap 45 = .ok (.invokevirtual 209, 3) := sorry
theorem dX6_traceGap_48 : decode cX6_traceGap 48 = .ok (.ladd, 1) := sorry
theorem dX6_traceGap_49 : decode cX6_traceGap 49 = .ok (.lstore_n 1, 1) := sorry
theorem dX6_traceGap_50 : decode cX6_traceGap 50 = .ok (.iinc 3 1, 3) := sorry
theorem dX6_traceGap_53 : decode cX6_traceGap 53 = .ok (.goto (-19), 3) := sorry
theorem dX6_traceGap_56 : decode cX6_traceGap 56 = .ok (.iconst 0, 1) := sorry
theorem dX6_traceGap_57 : decode cX6_traceGap 57 = .ok (.istore_n 3, 1) := sorry
theorem dX6_traceGap_58 : decode cX6_traceGap 58 = .ok (.iload_n 3, 1) := sorry
theorem dX6_traceGap_59 : decode cX6_traceGap 59 = .ok (.aload_n 0, 1) := sorry
theorem dX6_traceGap_60 : decode cX6_traceGap 60 = .ok (.invokevirtual 95, 3) := sorry
theorem dX6_traceGap_63 : decode cX6_traceGap 63 = .ok (.if_icmp .ge 28, 3) := sorry
theorem dX6_traceGap_66 : decode cX6_traceGap 66 = .ok (.lload_n 1, 1) := sorry
theorem dX6_traceGap_67 : decode cX6_traceGap 67 = .ok (.ldc2_w 97, 3) := sorry
theorem dX6_traceGap_70 : decode cX6_traceGap 70 = .ok (.aload_n 0, 1) := sorry
theorem dX6_traceGap_71 : decode cX6_traceGap 71 = .ok (.getfield 9, 3) := sorry
theorem dX6_traceGap_74 : decode cX6_traceGap 74 = .ok (.bipush 18, 2) := sorry
theorem dX6_traceGap_76 : decode cX6_traceGap 76 = .ok (.bipush 7, 2) := sorry
theorem dX6_traceGap_78 : decode cX6_traceGap 78 = .ok (.iload_n 3, 1) := sorry
theorem dX6_traceGap_79 : decode cX6_traceGap 79 = .ok (.imul, 1) := sorry
theorem dX6_traceGap_80 : decode cX6_traceGap 80 = .ok (.iadd, 1) := sorry
theorem dX6_traceGap_81 : decode cX6_traceGap 81 = .ok (.laload, 1) := sorry
theorem dX6_traceGap_82 : decode cX6_traceGap 82 = .ok (.lmul, 1) := sorry
theorem dX6_traceGap_83 : decode cX6_traceGap 83 = .ok (.lsub, 1) := sorry
theorem dX6_traceGap_84 : decode cX6_traceGap 84 = .ok (.lstore_n 1, 1) := sorry
theorem dX6_traceGap_85 : decode cX6_traceGap 85 = .ok (.iinc 3 1, 3) := sorry
theorem dX6_traceGap_88 : decode cX6_traceGap 88 = .ok (.goto (-30), 3) := sorry
theorem dX6_traceGap_91 : decode cX6_traceGap 91 = .ok (.lload_n 1, 1) := sorry
theorem dX6_traceGap_92 : decode cX6_traceGap 92 = .ok (.lreturn, 1) := sorry
abbrev cX6_meanBound : ByteArray := prog_17_method_78_code
def yX6_meanBound : MethodName := ⟨RX6, "meanBound", "()D"⟩
def dkwX6_meanBound_2 : List UInt8 := [135, 111, 175]
abbrev dktX6_meanBound_2 : List UInt8 := dkwX6_meanBound_2 ++ []
def dkwX6_meanBound_1 : List UInt8 := [64, 132, 3, 1, 167, 255, 237, 42, 182, 0, 91, 154, 0, 7, 14, 167, 0, 11, 31, 138, 42, 182, 0, 91]
abbrev dktX6_meanBound_1 : List UInt8 := dkwX6_meanBound_1 ++ dktX6_meanBound_2
def dkwX6_meanBound_0 : List UInt8 := [42, 3, 181, 0, 84, 9, 64, 3, 62, 29, 42, 182, 0, 91, 162, 0, 17, 31, 42, 29, 182, 0, 239, 97]
abbrev dktX6_meanBound_0 : List UInt8 := dkwX6_meanBound_0 ++ dktX6_meanBound_1
theorem dksX6_meanBound_0 : cX6_meanBound.data.toList.drop 0 = dktX6_meanBound_0 := sorry
theorem dksX6_meanBound_1 : cX6_meanBound.data.toList.drop 24 = dktX6_meanBound_1 := sorry
theorem dksX6_meanBound_2 : cX6_meanBound.data.toList.drop 48 = dktX6_meanBound_2 := sorry
theorem dX6_meanBound_0 : decode cX6_meanBound 0 = .ok (.aload_n 0, 1) := sorry
theorem dX6_meanBound_1 : decode cX6_meanBound 1 = .ok (.iconst 0, 1) := sorry
theorem dX6_meanBound_2 : decode cX6_meanBound 2 = .ok (.putfield 84, 3) := sorry
theorem dX6_meanBound_5 : decode cX6_meanBound 5 = .ok (.lconst 0, 1) := sorry
theorem dX6_meanBound_6 : decode cX6_meanBound 6 = .ok (.lstore_n 1, 1) := sorry
theorem dX6_meanBound_7 : decode cX6_meanBound 7 = .ok (.iconst 0, 1) := sorry
theorem dX6_meanBound_8 : decode cX6_meanBound 8 = .ok (.istore_n 3, 1) := sorry
theorem dX6_meanBound_9 : decode cX6_meanBound 9 = .ok (.iload_n 3, 1) := sorry
theorem dX6_meanBound_10 : decode cX6_meanBound 10 = .ok (.aload_n 0, 1) := sorry
theorem dX6_meanBound_11 : decode cX6_meanBound 11 = .ok (.invokevirtual 91, 3) := sorry
theorem dX6_meanBound_14 : decode cX6_meanBound 14 = .ok (.if_icmp .ge 17, 3) := sorry
theorem dX6_meanBound_17 : decode cX6_meanBound 17 = .ok (.lload_n 1, 1) := sorry
theorem dX6_meanBound_18 : decode cX6_meanBound 18 = .ok (.aload_n 0, 1) := sorry
theorem dX6_meanBound_19 : decode cX6_meanBound 19 = .ok (.iload_n 3, 1) := sorry
theorem dX6_meanBound_20 : decode cX6_meanBound 20 = .ok (.invokevirtual 239, 3) := sorry
theorem dX6_meanBound_23 : decode cX6_meanBound 23 = .ok (.ladd, 1) := sorry
theorem dX6_meanBound_24 : decode cX6_meanBound 24 = .ok (.lstore_n 1, 1) := sorry
theorem dX6_meanBound_25 : decode cX6_meanBound 25 = .ok (.iinc 3 1, 3) := sorry
theorem dX6_meanBound_28 : decode cX6_meanBound 28 = .ok (.goto (-19), 3) := sorry
theorem dX6_meanBound_31 : decode cX6_meanBound 31 = .ok (.aload_n 0, 1) := sorry
theorem dX6_meanBound_32 : decode cX6_meanBound 32 = .ok (.invokevirtual 91, 3) := sorry
theorem dX6_meanBound_35 : decode cX6_meanBound 35 = .ok (.ifCond .ne 7, 3) := sorry
theorem dX6_meanBound_38 : decode cX6_meanBound 38 = .ok (.dconst 0, 1) := sorry
theorem dX6_meanBound_39 : decode cX6_meanBound 39 = .ok (.goto 11, 3) := sorry
theorem dX6_meanBound_42 : decode cX6_meanBound 42 = .ok (.lload_n 1, 1) := sorry
theorem dX6_meanBound_43 : decode cX6_meanBound 43 = .ok (.l2d, 1) := sorry
theorem dX6_meanBound_44 : decode cX6_meanBound 44 = .ok (.aload_n 0, 1) := sorry
theorem dX6_meanBound_45 : decode cX6_meanBound 45 = .ok (.invokevirtual 91, 3) := sorry
theorem dX6_meanBound_48 : decode cX6_meanBound 48 = .ok (.i2d, 1) := sorry
theorem dX6_meanBound_49 : decode cX6_meanBound 49 = .ok (.ddiv, 1) := sorry
theorem dX6_meanBound_50 : decode cX6_meanBound 50 = .ok (.dreturn, 1) := sorry
abbrev cX6_step : ByteArray := prog_17_method_79_code
def yX6_step : MethodName := ⟨RX6, "step", "(I)I"⟩
def dkwX6_step_1 : List UInt8 := [182, 1, 9, 42, 27, 182, 1, 29, 172]
abbrev dktX6_step_1 : List UInt8 := dkwX6_step_1 ++ []
def dkwX6_step_0 : List UInt8 := [42, 3, 181, 0, 84, 27, 133, 9, 20, 1, 27, 184, 0, 220, 154, 0, 9, 42, 4, 182, 0, 227, 172, 42]
abbrev dktX6_step_0 : List UInt8 := dkwX6_step_0 ++ dktX6_step_1
theorem dksX6_step_0 : cX6_step.data.toList.drop 0 = dktX6_step_0 := sorry
theorem dksX6_step_1 : cX6_step.data.toList.drop 24 = dktX6_step_1 := sorry
theorem dX6_step_0 : decode cX6_step 0 = .ok (.aload_n 0, 1) := sorry
theorem dX6_step_1 : decode cX6_step 1 = .ok (.iconst 0, 1) := sorry
theorem dX6_step_2 : decode cX6_step 2 = .ok (.putfield 84, 3) := sorry
theorem dX6_step_5 : decode cX6_step 5 = .ok (.iload_n 1, 1) := sorry
theorem dX6_step_6 : decode cX6_step 6 = .ok (.i2l, 1) := sorry
theorem dX6_step_7 : decode cX6_step 7 = .ok (.lconst 0, 1) := sorry
theorem dX6_step_8 : decode cX6_step 8 = .ok (.ldc2_w 283, 3) := sorry
theorem dX6_step_11 : decode cX6_step 11 = .ok (.invokestatic 220, 3) := sorry
theorem dX6_step_14 : decode cX6_step 14 = .ok (.ifCond .ne 9, 3) := sorry
theorem dX6_step_17 : decode cX6_step 17 = .ok (.aload_n 0, 1) := sorry
theorem dX6_step_18 : decode cX6_step 18 = .ok (.iconst 1, 1) := sorry
theorem dX6_step_19 : decode cX6_step 19 = .ok (.invokevirtual 227, 3) := sorry
theorem dX6_step_22 : decode cX6_step 22 = .ok (.ireturn, 1) := sorry
theorem dX6_step_23 : decode cX6_step 23 = .ok (.aload_n 0, 1) := sorry
theorem dX6_step_24 : decode cX6_step 24 = .ok (.invokevirtual 265, 3) := sorry
theorem dX6_step_27 : decode cX6_step 27 = .ok (.aload_n 0, 1) := sorry
theorem dX6_step_28 : decode cX6_step 28 = .ok (.iload_n 1, 1) := sorry
theorem dX6_step_29 : decode cX6_step 29 = .ok (.invokevirtual 285, 3) := sorry
theorem dX6_step_32 : decode cX6_step 32 = .ok (.ireturn, 1) := sorry
abbrev cX6_makeSteps : ByteArray := prog_17_method_33_code
def yX6_makeSteps : MethodName := ⟨RX6, "makeSteps", "(I)I"⟩
def dkwX6_makeSteps_1 : List UInt8 := [28, 172]
abbrev dktX6_makeSteps_1 : List UInt8 := dkwX6_makeSteps_1 ++ []
def dkwX6_makeSteps_0 : List UInt8 := [3, 61, 28, 27, 162, 0, 20, 42, 182, 0, 191, 153, 0, 13, 42, 182, 0, 194, 132, 2, 1, 167, 255, 237]
abbrev dktX6_makeSteps_0 : List UInt8 := dkwX6_makeSteps_0 ++ dktX6_makeSteps_1
theorem dksX6_makeSteps_0 : cX6_makeSteps.data.toList.drop 0 = dktX6_makeSteps_0 := sorry
theorem dksX6_makeSteps_1 : cX6_makeSteps.data.toList.drop 24 = dktX6_makeSteps_1 := sorry
theorem dX6_makeSteps_0 : decode cX6_makeSteps 0 = .ok (.iconst 0, 1) := sorry
theorem dX6_makeSteps_1 : decode cX6_makeSteps 1 = .ok (.istore_n 2, 1) := sorry
theorem dX6_makeSteps_2 : decode cX6_makeSteps 2 = .ok (.iload_n 2, 1) := sorry
theorem dX6_makeSteps_3 : decode cX6_makeSteps 3 = .ok (.iload_n 1, 1) := sorry
theorem dX6_makeSteps_4 : decode cX6_makeSteps 4 = .ok (.if_icmp .ge 20, 3) := sorry
theorem dX6_makeSteps_7 : decode cX6_makeSteps 7 = .ok (.aload_n 0, 1) := sorry
theorem dX6_makeSteps_8 : decode cX6_makeSteps 8 = .ok (.invokevirtual 191, 3) := sorry
theorem dX6_makeSteps_11 : decode cX6_makeSteps 11 = .ok (.ifCond .eq 13, 3) := sorry
theorem dX6_makeSteps_14 : decode cX6_makeSteps 14 = .ok (.aload_n 0, 1) := sorry
theorem dX6_makeSteps_15 : decode cX6_makeSteps 15 = .ok (.invokevirtual 194, 3) := sorry
theorem dX6_makeSteps_18 : decode cX6_makeSteps 18 = .ok (.iinc 2 1, 3) := sorry
theorem dX6_makeSteps_21 : decode cX6_makeSteps 21 = .ok (.goto (-19), 3) := sorry
theorem dX6_makeSteps_24 : decode cX6_makeSteps 24 = .ok (.iload_n 2, 1) := sorry
theorem dX6_makeSteps_25 : decode cX6_makeSteps 25 = .ok (.ireturn, 1) := sorry
abbrev cX6_restart : ByteArray := prog_17_method_82_code
def yX6_restart : MethodName := ⟨RX6, "restart", "(I)I"⟩
def dkwX6_restart_3 : List UInt8 := [3, 42, 180, 0, 9, 3, 184, 1, 20, 28, 172]
abbrev dktX6_restart_3 : List UInt8 := dkwX6_restart_3 ++ []
def dkwX6_restart_2 : List UInt8 := [182, 1, 35, 61, 42, 42, 180, 0, 9, 181, 0, 25, 28, 155, 0, 20, 42, 182, 1, 9, 42, 180, 0, 16]
abbrev dktX6_restart_2 : List UInt8 := dkwX6_restart_2 ++ dktX6_restart_3
def dkwX6_restart_1 : List UInt8 := [180, 0, 9, 3, 42, 180, 0, 16, 3, 184, 1, 20, 42, 42, 180, 0, 16, 181, 0, 25, 42, 27]
abbrev dktX6_restart_1 : List UInt8 := dkwX6_restart_1 ++ dktX6_restart_2
def dkwX6_restart_0 : List UInt8 := [42, 3, 181, 0, 84, 27, 133, 9, 20, 0, 105, 184, 0, 220, 154, 0, 9, 42, 4, 182, 0, 227, 172, 42]
abbrev dktX6_restart_0 : List UInt8 := dkwX6_restart_0 ++ dktX6_restart_1
theorem dksX6_restart_0 : cX6_restart.data.toList.drop 0 = dktX6_restart_0 := sorry
theorem dksX6_restart_1 : cX6_restart.data.toList.drop 24 = dktX6_restart_1 := sorry
theorem dksX6_restart_2 : cX6_restart.data.toList.drop 46 = dktX6_restart_2 := sorry
theorem dksX6_restart_3 : cX6_restart.data.toList.drop 70 = dktX6_restart_3 := sorry
theorem dX6_restart_0 : decode cX6_restart 0 = .ok (.aload_n 0, 1) := sorry
theorem dX6_restart_1 : decode cX6_restart 1 = .ok (.iconst 0, 1) := sorry
theorem dX6_restart_2 : decode cX6_restart 2 = .ok (.putfield 84, 3) := sorry
theorem dX6_restart_5 : decode cX6_restart 5 = .ok (.iload_n 1, 1) := sorry
theorem dX6_restart_6 : decode cX6_restart 6 = .ok (.i2l, 1) := sorry
theorem dX6_restart_7 : decode cX6_restart 7 = .ok (.lconst 0, 1) := sorry
theorem dX6_restart_8 : decode cX6_restart 8 = .ok (.ldc2_w 105, 3) := sorry
theorem dX6_restart_11 : decode cX6_restart 11 = .ok (.invokestatic 220, 3) := sorry
theorem dX6_restart_14 : decode cX6_restart 14 = .ok (.ifCond .ne 9, 3) := sorry
theorem dX6_restart_17 : decode cX6_restart 17 = .ok (.aload_n 0, 1) := sorry
theorem dX6_restart_18 : decode cX6_restart 18 = .ok (.iconst 1, 1) := sorry
theorem dX6_restart_19 : decode cX6_restart 19 = .ok (.invokevirtual 227, 3) := sorry
theorem dX6_restart_22 : decode cX6_restart 22 = .ok (.ireturn, 1) := sorry
theorem dX6_restart_23 : decode cX6_restart 23 = .ok (.aload_n 0, 1) := sorry
theorem dX6_restart_24 : decode cX6_restart 24 = .ok (.getfield 9, 3) := sorry
theorem dX6_restart_27 : decode cX6_restart 27 = .ok (.iconst 0, 1) := sorry
theorem dX6_restart_28 : decode cX6_restart 28 = .ok (.aload_n 0, 1) := sorry
theorem dX6_restart_29 : decode cX6_restart 29 = .ok (.getfield 16, 3) := sorry
theorem dX6_restart_32 : decode cX6_restart 32 = .ok (.iconst 0, 1) := sorry
theorem dX6_restart_33 : decode cX6_restart 33 = .ok (.invokestatic 276, 3) := sorry
theorem dX6_restart_36 : decode cX6_restart 36 = .ok (.aload_n 0, 1) := sorry
theorem dX6_restart_37 : decode cX6_restart 37 = .ok (.aload_n 0, 1) := sorry
theorem dX6_restart_38 : decode cX6_restart 38 = .ok (.getfield 16, 3) := sorry
theorem dX6_restart_41 : decode cX6_restart 41 = .ok (.putfield 25, 3) := sorry
theorem dX6_restart_44 : decode cX6_restart 44 = .ok (.aload_n 0, 1) := sorry
theorem dX6_restart_45 : decode cX6_restart 45 = .ok (.iload_n 1, 1) := sorry
theorem dX6_restart_46 : decode cX6_restart 46 = .ok (.invokevirtual 291, 3) := sorry
theorem dX6_restart_49 : decode cX6_restart 49 = .ok (.istore_n 2, 1) := sorry
theorem dX6_restart_50 : decode cX6_restart 50 = .ok (.aload_n 0, 1) := sorry
theorem dX6_restart_51 : decode cX6_restart 51 = .ok (.aload_n 0, 1) := sorry
theorem dX6_restart_52 : decode cX6_restart 52 = .ok (.getfield 9, 3) := sorry
theorem dX6_restart_55 : decode cX6_restart 55 = .ok (.putfield 25, 3) := sorry
theorem dX6_restart_58 : decode cX6_restart 58 = .ok (.iload_n 2, 1) := sorry
theorem dX6_restart_59 : decode cX6_restart 59 = .ok (.ifCond .lt 20, 3) := sorry
theorem dX6_restart_62 : decode cX6_restart 62 = .ok (.aload_n 0, 1) := sorry
theorem dX6_restart_63 : decode cX6_restart 63 = .ok (.invokevirtual 265, 3) := sorry
theorem dX6_restart_66 : decode cX6_restart 66 = .ok (.aload_n 0, 1) := sorry
theorem dX6_restart_67 : decode cX6_restart 67 = .ok (.getfield 16, 3) := sorry
theorem dX6_restart_70 : decode cX6_restart 70 = .ok (.iconst 0, 1) := sorry
theorem dX6_restart_71 : decode cX6_restart 71 = .ok (.aload_n 0, 1) := sorry
theorem dX6_restart_72 : decode cX6_restart 72 = .ok (.getfield 9, 3) := sorry
theorem dX6_restart_75 : decode cX6_restart 75 = .ok (.iconst 0, 1) := sorry
theorem dX6_restart_76 : decode cX6_restart 76 = .ok (.invokestatic 276, 3) := sorry
theorem dX6_restart_79 : decode cX6_restart 79 = .ok (.iload_n 2, 1) := sorry
theorem dX6_restart_80 : decode cX6_restart 80 = .ok (.ireturn, 1) := sorry
abbrev cX6_restartNow : ByteArray := prog_17_method_81_code
def yX6_restartNow : MethodName := ⟨RX6, "restartNow", "(I)I"⟩
def dkwX6_restartNow_3 : List UInt8 := [16, 252, 172]
abbrev dktX6_restartNow_3 : List UInt8 := dkwX6_restartNow_3 ++ []
def dkwX6_restartNow_2 : List UInt8 := [180, 0, 40, 29, 47, 80, 132, 3, 1, 167, 255, 233, 42, 182, 0, 144, 153, 0, 7, 28, 167, 0, 5]
abbrev dktX6_restartNow_2 : List UInt8 := dkwX6_restartNow_2 ++ dktX6_restartNow_3
def dkwX6_restartNow_1 : List UInt8 := [28, 154, 0, 6, 16, 251, 172, 3, 62, 29, 42, 182, 0, 95, 162, 0, 21, 42, 180, 0, 28, 29, 42]
abbrev dktX6_restartNow_1 : List UInt8 := dkwX6_restartNow_1 ++ dktX6_restartNow_2
def dkwX6_restartNow_0 : List UInt8 := [27, 154, 0, 17, 42, 182, 0, 80, 153, 0, 7, 3, 167, 0, 5, 16, 252, 172, 42, 27, 182, 1, 32, 61]
abbrev dktX6_restartNow_0 : List UInt8 := dkwX6_restartNow_0 ++ dktX6_restartNow_1
theorem dksX6_restartNow_0 : cX6_restartNow.data.toList.drop 0 = dktX6_restartNow_0 := sorry
theorem dksX6_restartNow_1 : cX6_restartNow.data.toList.drop 24 = dktX6_restartNow_1 := sorry
theorem dksX6_restartNow_2 : cX6_restartNow.data.toList.drop 47 = dktX6_restartNow_2 := sorry
theorem dksX6_restartNow_3 : cX6_restartNow.data.toList.drop 70 = dktX6_restartNow_3 := sorry
theorem dX6_restartNow_0 : decode cX6_restartNow 0 = .ok (.iload_n 1, 1) := sorry
theorem dX6_restartNow_1 : decode cX6_restartNow 1 = .ok (.ifCond .ne 17, 3) := sorry
theorem dX6_restartNow_4 : decode cX6_restartNow 4 = .ok (.aload_n 0, 1) := sorry
theorem dX6_restartNow_5 : decode cX6_restartNow 5 = .ok (.invokevirtual 80, 3) := sorry
theorem dX6_restartNow_8 : decode cX6_restartNow 8 = .ok (.ifCond .eq 7, 3) := sorry
theorem dX6_restartNow_11 : decode cX6_restartNow 11 = .ok (.iconst 0, 1) := sorry
theorem dX6_restartNow_12 : decode cX6_restartNow 12 = .ok (.goto 5, 3) := sorry
theorem dX6_restartNow_15 : decode cX6_restartNow 15 = .ok (.bipush (-4), 2) := sorry
theorem dX6_restartNow_17 : decode cX6_restartNow 17 = .ok (.ireturn, 1) := sorry
theorem dX6_restartNow_18 : decode cX6_restartNow 18 = .ok (.aload_n 0, 1) := sorry
theorem dX6_restartNow_19 : decode cX6_restartNow 19 = .ok (.iload_n 1, 1) := sorry
theorem dX6_restartNow_20 : decode cX6_restartNow 20 = .ok (.invokevirtual 288, 3) := sorry
theorem dX6_restartNow_23 : decode cX6_restartNow 23 = .ok (.istore_n 2, 1) := sorry
theorem dX6_restartNow_24 : decode cX6_restartNow 24 = .ok (.iload_n 2, 1) := sorry
theorem dX6_restartNow_25 : decode cX6_restartNow 25 = .ok (.ifCond .ne 6, 3) := sorry
theorem dX6_restartNow_28 : decode cX6_restartNow 28 = .ok (.bipush (-5), 2) := sorry
theorem dX6_restartNow_30 : decode cX6_restartNow 30 = .ok (.ireturn, 1) := sorry
theorem dX6_restartNow_31 : decode cX6_restartNow 31 = .ok (.iconst 0, 1) := sorry
theorem dX6_restartNow_32 : decode cX6_restartNow 32 = .ok (.istore_n 3, 1) := sorry
theorem dX6_restartNow_33 : decode cX6_restartNow 33 = .ok (.iload_n 3, 1) := sorry
theorem dX6_restartNow_34 : decode cX6_restartNow 34 = .ok (.aload_n 0, 1) := sorry
theorem dX6_restartNow_35 : decode cX6_restartNow 35 = .ok (.invokevirtual 95, 3) := sorry
theorem dX6_restartNow_38 : decode cX6_restartNow 38 = .ok (.if_icmp .ge 21, 3) := sorry
theorem dX6_restartNow_41 : decode cX6_restartNow 41 = .ok (.aload_n 0, 1) := sorry
theorem dX6_restartNow_42 : decode cX6_restartNow 42 = .ok (.getfield 28, 3) := sorry
theorem dX6_restartNow_45 : decode cX6_restartNow 45 = .ok (.iload_n 3, 1) := sorry
theorem dX6_restartNow_46 : decode cX6_restartNow 46 = .ok (.aload_n 0, 1) := sorry
theorem dX6_restartNow_47 : decode cX6_restartNow 47 = .ok (.getfield 40, 3) := sorry
theorem dX6_restartNow_50 : decode cX6_restartNow 50 = .ok (.iload_n 3, 1) := sorry
theorem dX6_restartNow_51 : decode cX6_restartNow 51 = .ok (.laload, 1) := sorry
theorem dX6_restartNow_52 : decode cX6_restartNow 52 = .ok (.lastore, 1) := sorry
theorem dX6_restartNow_53 : decode cX6_restartNow 53 = .ok (.iinc 3 1, 3) := sorry
theorem dX6_restartNow_56 : decode cX6_restartNow 56 = .ok (.goto (-23), 3) := sorry
theorem dX6_restartNow_59 : decode cX6_restartNow 59 = .ok (.aload_n 0, 1) := sorry
theorem dX6_restartNow_60 : decode cX6_restartNow 60 = .ok (.invokevirtual 144, 3) := sorry
theorem dX6_restartNow_63 : decode cX6_restartNow 63 = .ok (.ifCond .eq 7, 3) := sorry
theorem dX6_restartNow_66 : decode cX6_restartNow 66 = .ok (.iload_n 2, 1) := sorry
theorem dX6_restartNow_67 : decode cX6_restartNow 67 = .ok (.goto 5, 3) := sorry
theorem dX6_restartNow_70 : decode cX6_restartNow 70 = .ok (.bipush (-4), 2) := sorry
theorem dX6_restartNow_72 : decode cX6_restartNow 72 = .ok (.ireturn, 1) := sorry
abbrev cX6_layRest : ByteArray := prog_17_method_80_code
def yX6_layRest : MethodName := ⟨RX6, "layRest", "(I)I"⟩
def dkwX6_layRest_7 : List UInt8 := [167, 255, 127, 28, 172]
abbrev dktX6_layRest_7 : List UInt8 := dkwX6_layRest_7 ++ []
def dkwX6_layRest_6 : List UInt8 := [167, 255, 207, 22, 6, 66, 27, 4, 160, 0, 7, 4, 167, 0, 6, 28, 4, 96, 61, 132, 5, 1]
abbrev dktX6_layRest_6 : List UInt8 := dkwX6_layRest_6 ++ dktX6_layRest_7
def dkwX6_layRest_5 : List UInt8 := [167, 0, 18, 42, 180, 0, 40, 21, 8, 47, 42, 180, 0, 34, 21, 8, 47, 97, 80, 132, 8, 1]
abbrev dktX6_layRest_5 : List UInt8 := dkwX6_layRest_5 ++ dktX6_layRest_6
def dkwX6_layRest_4 : List UInt8 := [182, 0, 95, 162, 0, 46, 42, 180, 0, 40, 21, 8, 27, 4, 160, 0, 13, 42, 180, 0, 34, 21, 8, 47]
abbrev dktX6_layRest_4 : List UInt8 := dkwX6_layRest_4 ++ dktX6_layRest_5
def dkwX6_layRest_3 : List UInt8 := [22, 6, 33, 148, 155, 0, 6, 167, 0, 80, 42, 21, 5, 182, 0, 242, 3, 54, 8, 21, 8, 42]
abbrev dktX6_layRest_3 : List UInt8 := dkwX6_layRest_3 ++ dktX6_layRest_4
def dkwX6_layRest_2 : List UInt8 := [55, 6, 22, 6, 42, 180, 0, 25, 6, 47, 148, 158, 0, 100, 27, 4, 160, 0, 18, 28, 4, 160, 0, 13]
abbrev dktX6_layRest_2 : List UInt8 := dkwX6_layRest_2 ++ dktX6_layRest_3
def dkwX6_layRest_1 : List UInt8 := [132, 5, 1, 167, 255, 236, 3, 54, 5, 21, 5, 42, 182, 0, 91, 162, 0, 126, 42, 21, 5, 182, 0, 239]
abbrev dktX6_layRest_1 : List UInt8 := dkwX6_layRest_1 ++ dktX6_layRest_2
def dkwX6_layRest_0 : List UInt8 := [3, 61, 9, 66, 3, 54, 5, 21, 5, 42, 182, 0, 95, 162, 0, 17, 42, 180, 0, 40, 21, 5, 9, 80]
abbrev dktX6_layRest_0 : List UInt8 := dkwX6_layRest_0 ++ dktX6_layRest_1
theorem dksX6_layRest_0 : cX6_layRest.data.toList.drop 0 = dktX6_layRest_0 := sorry
theorem dksX6_layRest_1 : cX6_layRest.data.toList.drop 24 = dktX6_layRest_1 := sorry
theorem dksX6_layRest_2 : cX6_layRest.data.toList.drop 48 = dktX6_layRest_2 := sorry
theorem dksX6_layRest_3 : cX6_layRest.data.toList.drop 72 = dktX6_layRest_3 := sorry
theorem dksX6_layRest_4 : cX6_layRest.data.toList.drop 94 = dktX6_layRest_4 := sorry
theorem dksX6_layRest_5 : cX6_layRest.data.toList.drop 118 = dktX6_layRest_5 := sorry
theorem dksX6_layRest_6 : cX6_layRest.data.toList.drop 140 = dktX6_layRest_6 := sorry
theorem dksX6_layRest_7 : cX6_layRest.data.toList.drop 162 = dktX6_layRest_7 := sorry
theorem dX6_layRest_0 : decode cX6_layRest 0 = .ok (.iconst 0, 1) := sorry
theorem dX6_layRest_1 : decode cX6_layRest 1 = .ok (.istore_n 2, 1) := sorry
theorem dX6_layRest_2 : decode cX6_layRest 2 = .ok (.lconst 0, 1) := sorry
theorem dX6_layRest_3 : decode cX6_layRest 3 = .ok (.lstore_n 3, 1) := sorry
theorem dX6_layRest_4 : decode cX6_layRest 4 = .ok (.iconst 0, 1) := sorry
theorem dX6_layRest_5 : decode cX6_layRest 5 = .ok (.istore 5, 2) := sorry
theorem dX6_layRest_7 : decode cX6_layRest 7 = .ok (.iload 5, 2) := sorry
theorem dX6_layRest_9 : decode cX6_layRest 9 = .ok (.aload_n 0, 1) := sorry
theorem dX6_layRest_10 : decode cX6_layRest 10 = .ok (.invokevirtual 95, 3) := sorry
theorem dX6_layRest_13 : decode cX6_layRest 13 = .ok (.if_icmp .ge 17, 3) := sorry
theorem dX6_layRest_16 : decode cX6_layRest 16 = .ok (.aload_n 0, 1) := sorry
theorem dX6_layRest_17 : decode cX6_layRest 17 = .ok (.getfield 40, 3) := sorry
theorem dX6_layRest_20 : decode cX6_layRest 20 = .ok (.iload 5, 2) := sorry
theorem dX6_layRest_22 : decode cX6_layRest 22 = .ok (.lconst 0, 1) := sorry
theorem dX6_layRest_23 : decode cX6_layRest 23 = .ok (.lastore, 1) := sorry
theorem dX6_layRest_24 : decode cX6_layRest 24 = .ok (.iinc 5 1, 3) := sorry
theorem dX6_layRest_27 : decode cX6_layRest 27 = .ok (.goto (-20), 3) := sorry
theorem dX6_layRest_30 : decode cX6_layRest 30 = .ok (.iconst 0, 1) := sorry
theorem dX6_layRest_31 : decode cX6_layRest 31 = .ok (.istore 5, 2) := sorry
theorem dX6_layRest_33 : decode cX6_layRest 33 = .ok (.iload 5, 2) := sorry
theorem dX6_layRest_35 : decode cX6_layRest 35 = .ok (.aload_n 0, 1) := sorry
theorem dX6_layRest_36 : decode cX6_layRest 36 = .ok (.invokevirtual 91, 3) := sorry
theorem dX6_layRest_39 : decode cX6_layRest 39 = .ok (.if_icmp .ge 126, 3) := sorry
theorem dX6_layRest_42 : decode cX6_layRest 42 = .ok (.aload_n 0, 1) := sorry
theorem dX6_layRest_43 : decode cX6_layRest 43 = .ok (.iload 5, 2) := sorry
theorem dX6_layRest_45 : decode cX6_layRest 45 = .ok (.invokevirtual 239, 3) := sorry
theorem dX6_layRest_48 : decode cX6_layRest 48 = .ok (.lstore 6, 2) := sorry
theorem dX6_layRest_50 : decode cX6_layRest 50 = .ok (.lload 6, 2) := sorry
theorem dX6_layRest_52 : decode cX6_layRest 52 = .ok (.aload_n 0, 1) := sorry
theorem dX6_layRest_53 : decode cX6_layRest 53 = .ok (.getfield 25, 3) := sorry
theorem dX6_layRest_56 : decode cX6_layRest 56 = .ok (.iconst 3, 1) := sorry
theorem dX6_layRest_57 : decode cX6_layRest 57 = .ok (.laload, 1) := sorry
theorem dX6_layRest_58 : decode cX6_layRest 58 = .ok (.lcmp, 1) := sorry
theorem dX6_layRest_59 : decode cX6_layRest 59 = .ok (.ifCond .le 100, 3) := sorry
theorem dX6_layRest_62 : decode cX6_layRest 62 = .ok (.iload_n 1, 1) := sorry
theorem dX6_layRest_63 : decode cX6_layRest 63 = .ok (.iconst 1, 1) := sorry
theorem dX6_layRest_64 : decode cX6_layRest 64 = .ok (.if_icmp .ne 18, 3) := sorry
theorem dX6_layRest_67 : decode cX6_layRest 67 = .ok (.iload_n 2, 1) := sorry
theorem dX6_layRest_68 : decode cX6_layRest 68 = .ok (.iconst 1, 1) := sorry
theorem dX6_layRest_69 : decode cX6_layRest 69 = .ok (.if_icmp .ne 13, 3) := sorry
theorem dX6_layRest_72 : decode cX6_layRest 72 = .ok (.lload 6, 2) := sorry
theorem dX6_layRest_74 : decode cX6_layRest 74 = .ok (.lload_n 3, 1) := sorry
theorem dX6_layRest_75 : decode cX6_layRest 75 = .ok (.lcmp, 1) := sorry
theorem dX6_layRest_76 : decode cX6_layRest 76 = .ok (.ifCond .lt 6, 3) := sorry
theorem dX6_layRest_79 : decode cX6_layRest 79 = .ok (.goto 80, 3) := sorry
theorem dX6_layRest_82 : decode cX6_layRest 82 = .ok (.aload_n 0, 1) := sorry
theorem dX6_layRest_83 : decode cX6_layRest 83 = .ok (.iload 5, 2) := sorry
theorem dX6_layRest_85 : decode cX6_layRest 85 = .ok (.invokevirtual 242, 3) := sorry
theorem dX6_layRest_88 : decode cX6_layRest 88 = .ok (.iconst 0, 1) := sorry
theorem dX6_layRest_89 : decode cX6_layRest 89 = .ok (.istore 8, 2) := sorry
theorem dX6_layRest_91 : decode cX6_layRest 91 = .ok (.iload 8, 2) := sorry
theorem dX6_layRest_93 : decode cX6_layRest 93 = .ok (.aload_n 0, 1) := sorry
theorem dX6_layRest_94 : decode cX6_layRest 94 = .ok (.invokevirtual 95, 3) := sorry
theorem dX6_layRest_97 : decode cX6_layRest 97 = .ok (.if_icmp .ge 46, 3) := sorry
theorem dX6_layRest_100 : decode cX6_layRest 100 = .ok (.aload_n 0, 1) := sorry
theorem dX6_layRest_101 : decode cX6_layRest 101 = .ok (.getfield 40, 3) := sorry
theorem dX6_layRest_104 : decode cX6_layRest 104 = .ok (.iload 8, 2) := sorry
theorem dX6_layRest_106 : decode cX6_layRest 106 = .ok (.iload_n 1, 1) := sorry
theorem dX6_layRest_107 : decode cX6_layRest 107 = .ok (.iconst 1, 1) := sorry
theorem dX6_layRest_108 : decode cX6_layRest 108 = .ok (.if_icmp .ne 13, 3) := sorry
theorem dX6_layRest_111 : decode cX6_layRest 111 = .ok (.aload_n 0, 1) := sorry
theorem dX6_layRest_112 : decode cX6_layRest 112 = .ok (.getfield 34, 3) := sorry
theorem dX6_layRest_115 : decode cX6_layRest 115 = .ok (.iload 8, 2) := sorry
theorem dX6_layRest_117 : decode cX6_layRest 117 = .ok (.laload, 1) := sorry
theorem dX6_layRest_118 : decode cX6_layRest 118 = .ok (.goto 18, 3) := sorry
theorem dX6_layRest_121 : decode cX6_layRest 121 = .ok (.aload_n 0, 1) := sorry
theorem dX6_layRest_122 : decode cX6_layRest 122 = .ok (.getfield 40, 3) := sorry
theorem dX6_layRest_125 : decode cX6_layRest 125 = .ok (.iload 8, 2) := sorry
theorem dX6_layRest_127 : decode cX6_layRest 127 = .ok (.laload, 1) := sorry
theorem dX6_layRest_128 : decode cX6_layRest 128 = .ok (.aload_n 0, 1) := sorry
theorem dX6_layRest_129 : decode cX6_layRest 129 = .ok (.getfield 34, 3) := sorry
theorem dX6_layRest_132 : decode cX6_layRest 132 = .ok (.iload 8, 2) := sorry
theorem dX6_layRest_134 : decode cX6_layRest 134 = .ok (.laload, 1) := sorry
theorem dX6_layRest_135 : decode cX6_layRest 135 = .ok (.ladd, 1) := sorry
theorem dX6_layRest_136 : decode cX6_layRest 136 = .ok (.lastore, 1) := sorry
theorem dX6_layRest_137 : decode cX6_layRest 137 = .ok (.iinc 8 1, 3) := sorry
theorem dX6_layRest_140 : decode cX6_layRest 140 = .ok (.goto (-49), 3) := sorry
theorem dX6_layRest_143 : decode cX6_layRest 143 = .ok (.lload 6, 2) := sorry
theorem dX6_layRest_145 : decode cX6_layRest 145 = .ok (.lstore_n 3, 1) := sorry
theorem dX6_layRest_146 : decode cX6_layRest 146 = .ok (.iload_n 1, 1) := sorry
theorem dX6_layRest_147 : decode cX6_layRest 147 = .ok (.iconst 1, 1) := sorry
theorem dX6_layRest_148 : decode cX6_layRest 148 = .ok (.if_icmp .ne 7, 3) := sorry
theorem dX6_layRest_151 : decode cX6_layRest 151 = .ok (.iconst 1, 1) := sorry
theorem dX6_layRest_152 : decode cX6_layRest 152 = .ok (.goto 6, 3) := sorry
theorem dX6_layRest_155 : decode cX6_layRest 155 = .ok (.iload_n 2, 1) := sorry
theorem dX6_layRest_156 : decode cX6_layRest 156 = .ok (.iconst 1, 1) := sorry
theorem dX6_layRest_157 : decode cX6_layRest 157 = .ok (.iadd, 1) := sorry
theorem dX6_layRest_158 : decode cX6_layRest 158 = .ok (.istore_n 2, 1) := sorry
theorem dX6_layRest_159 : decode cX6_layRest 159 = .ok (.iinc 5 1, 3) := sorry
theorem dX6_layRest_162 : decode cX6_layRest 162 = .ok (.goto (-129), 3) := sorry
theorem dX6_layRest_165 : decode cX6_layRest 165 = .ok (.iload_n 2, 1) := sorry
theorem dX6_layRest_166 : decode cX6_layRest 166 = .ok (.ireturn, 1) := sorry
abbrev cX6_sweep : ByteArray := prog_17_method_84_code
def yX6_sweep : MethodName := ⟨RX6, "sweep", "(I)I"⟩
def dkwX6_sweep_4 : List UInt8 := [167, 255, 197, 28, 172]
abbrev dktX6_sweep_4 : List UInt8 := dkwX6_sweep_4 ++ []
def dkwX6_sweep_3 : List UInt8 := [182, 1, 35, 156, 0, 11, 42, 3, 182, 1, 35, 155, 0, 7, 4, 167, 0, 4, 3, 62, 132, 4, 1]
abbrev dktX6_sweep_3 : List UInt8 := dkwX6_sweep_3 ++ dktX6_sweep_4
def dkwX6_sweep_2 : List UInt8 := [182, 1, 29, 54, 5, 28, 21, 5, 155, 0, 10, 42, 182, 1, 40, 167, 0, 4, 3, 96, 61, 42, 5]
abbrev dktX6_sweep_2 : List UInt8 := dkwX6_sweep_2 ++ dktX6_sweep_3
def dkwX6_sweep_1 : List UInt8 := [182, 1, 9, 3, 61, 4, 62, 3, 54, 4, 21, 4, 27, 162, 0, 59, 29, 153, 0, 55, 42, 16, 6]
abbrev dktX6_sweep_1 : List UInt8 := dkwX6_sweep_1 ++ dktX6_sweep_2
def dkwX6_sweep_0 : List UInt8 := [42, 3, 181, 0, 84, 27, 133, 10, 20, 1, 38, 184, 0, 220, 154, 0, 9, 42, 4, 182, 0, 227, 172, 42]
abbrev dktX6_sweep_0 : List UInt8 := dkwX6_sweep_0 ++ dktX6_sweep_1
theorem dksX6_sweep_0 : cX6_sweep.data.toList.drop 0 = dktX6_sweep_0 := sorry
theorem dksX6_sweep_1 : cX6_sweep.data.toList.drop 24 = dktX6_sweep_1 := sorry
theorem dksX6_sweep_2 : cX6_sweep.data.toList.drop 47 = dktX6_sweep_2 := sorry
theorem dksX6_sweep_3 : cX6_sweep.data.toList.drop 70 = dktX6_sweep_3 := sorry
theorem dksX6_sweep_4 : cX6_sweep.data.toList.drop 93 = dktX6_sweep_4 := sorry
theorem dX6_sweep_0 : decode cX6_sweep 0 = .ok (.aload_n 0, 1) := sorry
theorem dX6_sweep_1 : decode cX6_sweep 1 = .ok (.iconst 0, 1) := sorry
theorem dX6_sweep_2 : decode cX6_sweep 2 = .ok (.putfield 84, 3) := sorry
theorem dX6_sweep_5 : decode cX6_sweep 5 = .ok (.iload_n 1, 1) := sorry
theorem dX6_sweep_6 : decode cX6_sweep 6 = .ok (.i2l, 1) := sorry
theorem dX6_sweep_7 : decode cX6_sweep 7 = .ok (.lconst 1, 1) := sorry
theorem dX6_sweep_8 : decode cX6_sweep 8 = .ok (.ldc2_w 294, 3) := sorry
theorem dX6_sweep_11 : decode cX6_sweep 11 = .ok (.invokestatic 220, 3) := sorry
theorem dX6_sweep_14 : decode cX6_sweep 14 = .ok (.ifCond .ne 9, 3) := sorry
theorem dX6_sweep_17 : decode cX6_sweep 17 = .ok (.aload_n 0, 1) := sorry
theorem dX6_sweep_18 : decode cX6_sweep 18 = .ok (.iconst 1, 1) := sorry
theorem dX6_sweep_19 : decode cX6_sweep 19 = .ok (.invokevirtual 227, 3) := sorry
theorem dX6_sweep_22 : decode cX6_sweep 22 = .ok (.ireturn, 1) := sorry
theorem dX6_sweep_23 : decode cX6_sweep 23 = .ok (.aload_n 0, 1) := sorry
theorem dX6_sweep_24 : decode cX6_sweep 24 = .ok (.invokevirtual 265, 3) := sorry
theorem dX6_sweep_27 : decode cX6_sweep 27 = .ok (.iconst 0, 1) := sorry
theorem dX6_sweep_28 : decode cX6_sweep 28 = .ok (.istore_n 2, 1) := sorry
theorem dX6_sweep_29 : decode cX6_sweep 29 = .ok (.iconst 1, 1) := sorry
theorem dX6_sweep_30 : decode cX6_sweep 30 = .ok (.istore_n 3, 1) := sorry
theorem dX6_sweep_31 : decode cX6_sweep 31 = .ok (.iconst 0, 1) := sorry
theorem dX6_sweep_32 : decode cX6_sweep 32 = .ok (.istore 4, 2) := sorry
theorem dX6_sweep_34 : decode cX6_sweep 34 = .ok (.iload 4, 2) := sorry
theorem dX6_sweep_36 : decode cX6_sweep 36 = .ok (.iload_n 1, 1) := sorry
theorem dX6_sweep_37 : decode cX6_sweep 37 = .ok (.if_icmp .ge 59, 3) := sorry
theorem dX6_sweep_40 : decode cX6_sweep 40 = .ok (.iload_n 3, 1) := sorry
theorem dX6_sweep_41 : decode cX6_sweep 41 = .ok (.ifCond .eq 55, 3) := sorry
theorem dX6_sweep_44 : decode cX6_sweep 44 = .ok (.aload_n 0, 1) := sorry
theorem dX6_sweep_45 : decode cX6_sweep 45 = .ok (.bipush 6, 2) := sorry
theorem dX6_sweep_47 : decode cX6_sweep 47 = .ok (.invokevirtual 285, 3) := sorry
theorem dX6_sweep_50 : decode cX6_sweep 50 = .ok (.istore 5, 2) := sorry
theorem dX6_sweep_52 : decode cX6_sweep 52 = .ok (.iload_n 2, 1) := sorry
theorem dX6_sweep_53 : decode cX6_sweep 53 = .ok (.iload 5, 2) := sorry
theorem dX6_sweep_55 : decode cX6_sweep 55 = .ok (.ifCond .lt 10, 3) := sorry
theorem dX6_sweep_58 : decode cX6_sweep 58 = .ok (.aload_n 0, 1) := sorry
theorem dX6_sweep_59 : decode cX6_sweep 59 = .ok (.invokevirtual 296, 3) := sorry
theorem dX6_sweep_62 : decode cX6_sweep 62 = .ok (.goto 4, 3) := sorry
theorem dX6_sweep_65 : decode cX6_sweep 65 = .ok (.iconst 0, 1) := sorry
theorem dX6_sweep_66 : decode cX6_sweep 66 = .ok (.iadd, 1) := sorry
theorem dX6_sweep_67 : decode cX6_sweep 67 = .ok (.istore_n 2, 1) := sorry
theorem dX6_sweep_68 : decode cX6_sweep 68 = .ok (.aload_n 0, 1) := sorry
theorem dX6_sweep_69 : decode cX6_sweep 69 = .ok (.iconst 2, 1) := sorry
theorem dX6_sweep_70 : decode cX6_sweep 70 = .ok (.invokevirtual 291, 3) := sorry
theorem dX6_sweep_73 : decode cX6_sweep 73 = .ok (.ifCond .ge 11, 3) := sorry
theorem dX6_sweep_76 : decode cX6_sweep 76 = .ok (.aload_n 0, 1) := sorry
theorem dX6_sweep_77 : decode cX6_sweep 77 = .ok (.iconst 0, 1) := sorry
theorem dX6_sweep_78 : decode cX6_sweep 78 = .ok (.invokevirtual 291, 3) := sorry
theorem dX6_sweep_81 : decode cX6_sweep 81 = .ok (.ifCond .lt 7, 3) := sorry
theorem dX6_sweep_84 : decode cX6_sweep 84 = .ok (.iconst 1, 1) := sorry
theorem dX6_sweep_85 : decode cX6_sweep 85 = .ok (.goto 4, 3) := sorry
theorem dX6_sweep_88 : decode cX6_sweep 88 = .ok (.iconst 0, 1) := sorry
theorem dX6_sweep_89 : decode cX6_sweep 89 = .ok (.istore_n 3, 1) := sorry
theorem dX6_sweep_90 : decode cX6_sweep 90 = .ok (.iinc 4 1, 3) := sorry
theorem dX6_sweep_93 : decode cX6_sweep 93 = .ok (.goto (-59), 3) := sorry
theorem dX6_sweep_96 : decode cX6_sweep 96 = .ok (.iload_n 2, 1) := sorry
theorem dX6_sweep_97 : decode cX6_sweep 97 = .ok (.ireturn, 1) := sorry
abbrev cX6_lockAll : ByteArray := prog_17_method_83_code
def yX6_lockAll : MethodName := ⟨RX6, "lockAll", "()I"⟩
def dkwX6_lockAll_1 : List UInt8 := [182, 1, 12, 155, 0, 7, 4, 167, 0, 4, 3, 96, 60, 132, 2, 1, 167, 255, 221, 27, 172]
abbrev dktX6_lockAll_1 : List UInt8 := dkwX6_lockAll_1 ++ []
def dkwX6_lockAll_0 : List UInt8 := [3, 60, 3, 61, 28, 42, 182, 0, 91, 162, 0, 33, 42, 28, 182, 1, 6, 154, 0, 19, 27, 42, 28]
abbrev dktX6_lockAll_0 : List UInt8 := dkwX6_lockAll_0 ++ dktX6_lockAll_1
theorem dksX6_lockAll_0 : cX6_lockAll.data.toList.drop 0 = dktX6_lockAll_0 := sorry
theorem dksX6_lockAll_1 : cX6_lockAll.data.toList.drop 23 = dktX6_lockAll_1 := sorry
theorem dX6_lockAll_0 : decode cX6_lockAll 0 = .ok (.iconst 0, 1) := sorry
theorem dX6_lockAll_1 : decode cX6_lockAll 1 = .ok (.istore_n 1, 1) := sorry
theorem dX6_lockAll_2 : decode cX6_lockAll 2 = .ok (.iconst 0, 1) := sorry
theorem dX6_lockAll_3 : decode cX6_lockAll 3 = .ok (.istore_n 2, 1) := sorry
theorem dX6_lockAll_4 : decode cX6_lockAll 4 = .ok (.iload_n 2, 1) := sorry
theorem dX6_lockAll_5 : decode cX6_lockAll 5 = .ok (.aload_n 0, 1) := sorry
theorem dX6_lockAll_6 : decode cX6_lockAll 6 = .ok (.invokevirtual 91, 3) := sorry
theorem dX6_lockAll_9 : decode cX6_lockAll 9 = .ok (.if_icmp .ge 33, 3) := sorry
theorem dX6_lockAll_12 : decode cX6_lockAll 12 = .ok (.aload_n 0, 1) := sorry
theorem dX6_lockAll_13 : decode cX6_lockAll 13 = .ok (.iload_n 2, 1) := sorry
theorem dX6_lockAll_14 : decode cX6_lockAll 14 = .ok (.invokevirtual 262, 3) := sorry
theorem dX6_lockAll_17 : decode cX6_lockAll 17 = .ok (.ifCond .ne 19, 3) := sorry
theorem dX6_lockAll_20 : decode cX6_lockAll 20 = .ok (.iload_n 1, 1) := sorry
theorem dX6_lockAll_21 : decode cX6_lockAll 21 = .ok (.aload_n 0, 1) := sorry
theorem dX6_lockAll_22 : decode cX6_lockAll 22 = .ok (.iload_n 2, 1) := sorry
theorem dX6_lockAll_23 : decode cX6_lockAll 23 = .ok (.invokevirtual 268, 3) := sorry
theorem dX6_lockAll_26 : decode cX6_lockAll 26 = .ok (.ifCond .lt 7, 3) := sorry
theorem dX6_lockAll_29 : decode cX6_lockAll 29 = .ok (.iconst 1, 1) := sorry
theorem dX6_lockAll_30 : decode cX6_lockAll 30 = .ok (.goto 4, 3) := sorry
theorem dX6_lockAll_33 : decode cX6_lockAll 33 = .ok (.iconst 0, 1) := sorry
theorem dX6_lockAll_34 : decode cX6_lockAll 34 = .ok (.iadd, 1) := sorry
theorem dX6_lockAll_35 : decode cX6_lockAll 35 = .ok (.istore_n 1, 1) := sorry
theorem dX6_lockAll_36 : decode cX6_lockAll 36 = .ok (.iinc 2 1, 3) := sorry
theorem dX6_lockAll_39 : decode cX6_lockAll 39 = .ok (.goto (-35), 3) := sorry
theorem dX6_lockAll_42 : decode cX6_lockAll 42 = .ok (.iload_n 1, 1) := sorry
theorem dX6_lockAll_43 : decode cX6_lockAll 43 = .ok (.ireturn, 1) := sorry
abbrev cX6_setEntry : ByteArray := prog_17_method_86_code
def yX6_setEntry : MethodName := ⟨RX6, "setEntry", "(III)I"⟩
def dkwX6_setEntry_5 : List UInt8 := [17, 252, 24, 172, 42, 182, 1, 9, 42, 180, 0, 16, 3, 42, 180, 0, 9, 3, 184, 1, 20, 21, 4, 172]
abbrev dktX6_setEntry_5 : List UInt8 := dkwX6_setEntry_5 ++ []
def dkwX6_setEntry_4 : List UInt8 := [184, 1, 47, 42, 182, 0, 80, 54, 5, 42, 42, 180, 0, 9, 181, 0, 25, 21, 5, 154, 0, 7]
abbrev dktX6_setEntry_4 : List UInt8 := dkwX6_setEntry_4 ++ dktX6_setEntry_5
def dkwX6_setEntry_3 : List UInt8 := [180, 0, 16, 3, 184, 1, 20, 42, 42, 180, 0, 16, 181, 0, 25, 42, 180, 0, 25, 27, 28, 29, 133]
abbrev dktX6_setEntry_3 : List UInt8 := dkwX6_setEntry_3 ++ dktX6_setEntry_4
def dkwX6_setEntry_2 : List UInt8 := [42, 180, 0, 9, 16, 18, 16, 6, 27, 104, 96, 28, 96, 47, 136, 54, 4, 42, 180, 0, 9, 3, 42]
abbrev dktX6_setEntry_2 : List UInt8 := dkwX6_setEntry_2 ++ dktX6_setEntry_3
def dkwX6_setEntry_1 : List UInt8 := [182, 0, 227, 172, 29, 133, 20, 1, 43, 20, 1, 45, 184, 0, 220, 154, 0, 9, 42, 5, 182, 0, 227, 172]
abbrev dktX6_setEntry_1 : List UInt8 := dkwX6_setEntry_1 ++ dktX6_setEntry_2
def dkwX6_setEntry_0 : List UInt8 := [42, 3, 181, 0, 84, 42, 27, 182, 0, 224, 153, 0, 11, 42, 28, 182, 0, 224, 154, 0, 9, 42, 4]
abbrev dktX6_setEntry_0 : List UInt8 := dkwX6_setEntry_0 ++ dktX6_setEntry_1
theorem dksX6_setEntry_0 : cX6_setEntry.data.toList.drop 0 = dktX6_setEntry_0 := sorry
theorem dksX6_setEntry_1 : cX6_setEntry.data.toList.drop 23 = dktX6_setEntry_1 := sorry
theorem dksX6_setEntry_2 : cX6_setEntry.data.toList.drop 47 = dktX6_setEntry_2 := sorry
theorem dksX6_setEntry_3 : cX6_setEntry.data.toList.drop 70 = dktX6_setEntry_3 := sorry
theorem dksX6_setEntry_4 : cX6_setEntry.data.toList.drop 93 = dktX6_setEntry_4 := sorry
theorem dksX6_setEntry_5 : cX6_setEntry.data.toList.drop 115 = dktX6_setEntry_5 := sorry
theorem dX6_setEntry_0 : decode cX6_setEntry 0 = .ok (.aload_n 0, 1) := sorry
theorem dX6_setEntry_1 : decode cX6_setEntry 1 = .ok (.iconst 0, 1) := sorry
theorem dX6_setEntry_2 : decode cX6_setEntry 2 = .ok (.putfield 84, 3) := sorry
theorem dX6_setEntry_5 : decode cX6_setEntry 5 = .ok (.aload_n 0, 1) := sorry
theorem dX6_setEntry_6 : decode cX6_setEntry 6 = .ok (.iload_n 1, 1) := sorry
theorem dX6_setEntry_7 : decode cX6_setEntry 7 = .ok (.invokevirtual 224, 3) := sorry
theorem dX6_setEntry_10 : decode cX6_setEntry 10 = .ok (.ifCond .eq 11, 3) := sorry
theorem dX6_setEntry_13 : decode cX6_setEntry 13 = .ok (.aload_n 0, 1) := sorry
theorem dX6_setEntry_14 : decode cX6_setEntry 14 = .ok (.iload_n 2, 1) := sorry
theorem dX6_setEntry_15 : decode cX6_setEntry 15 = .ok (.invokevirtual 224, 3) := sorry
theorem dX6_setEntry_18 : decode cX6_setEntry 18 = .ok (.ifCond .ne 9, 3) := sorry
theorem dX6_setEntry_21 : decode cX6_setEntry 21 = .ok (.aload_n 0, 1) := sorry
theorem dX6_setEntry_22 : decode cX6_setEntry 22 = .ok (.iconst 1, 1) := sorry
theorem dX6_setEntry_23 : decode cX6_setEntry 23 = .ok (.invokevirtual 227, 3) := sorry
theorem dX6_setEntry_26 : decode cX6_setEntry 26 = .ok (.ireturn, 1) := sorry
theorem dX6_setEntry_27 : decode cX6_setEntry 27 = .ok (.iload_n 3, 1) := sorry
theorem dX6_setEntry_28 : decode cX6_setEntry 28 = .ok (.i2l, 1) := sorry
theorem dX6_setEntry_29 : decode cX6_setEntry 29 = .ok (.ldc2_w 299, 3) := sorry
theorem dX6_setEntry_32 : decode cX6_setEntry 32 = .ok (.ldc2_w 301, 3) := sorry
theorem dX6_setEntry_35 : decode cX6_setEntry 35 = .ok (.invokestatic 220, 3) := sorry
theorem dX6_setEntry_38 : decode cX6_setEntry 38 = .ok (.ifCond .ne 9, 3) := sorry
theorem dX6_setEntry_41 : decode cX6_setEntry 41 = .ok (.aload_n 0, 1) := sorry
theorem dX6_setEntry_42 : decode cX6_setEntry 42 = .ok (.iconst 2, 1) := sorry
theorem dX6_setEntry_43 : decode cX6_setEntry 43 = .ok (.invokevirtual 227, 3) := sorry
theorem dX6_setEntry_46 : decode cX6_setEntry 46 = .ok (.ireturn, 1) := sorry
theorem dX6_setEntry_47 : decode cX6_setEntry 47 = .ok (.aload_n 0, 1) := sorry
theorem dX6_setEntry_48 : decode cX6_setEntry 48 = .ok (.getfield 9, 3) := sorry
theorem dX6_setEntry_51 : decode cX6_setEntry 51 = .ok (.bipush 18, 2) := sorry
theorem dX6_setEntry_53 : decode cX6_setEntry 53 = .ok (.bipush 6, 2) := sorry
theorem dX6_setEntry_55 : decode cX6_setEntry 55 = .ok (.iload_n 1, 1) := sorry
theorem dX6_setEntry_56 : decode cX6_setEntry 56 = .ok (.imul, 1) := sorry
theorem dX6_setEntry_57 : decode cX6_setEntry 57 = .ok (.iadd, 1) := sorry
theorem dX6_setEntry_58 : decode cX6_setEntry 58 = .ok (.iload_n 2, 1) := sorry
theorem dX6_setEntry_59 : decode cX6_setEntry 59 = .ok (.iadd, 1) := sorry
theorem dX6_setEntry_60 : decode cX6_setEntry 60 = .ok (.laload, 1) := sorry
theorem dX6_setEntry_61 : decode cX6_setEntry 61 = .ok (.l2i, 1) := sorry
theorem dX6_setEntry_62 : decode cX6_setEntry 62 = .ok (.istore 4, 2) := sorry
theorem dX6_setEntry_64 : decode cX6_setEntry 64 = .ok (.aload_n 0, 1) := sorry
theorem dX6_setEntry_65 : decode cX6_setEntry 65 = .ok (.getfield 9, 3) := sorry
theorem dX6_setEntry_68 : decode cX6_setEntry 68 = .ok (.iconst 0, 1) := sorry
theorem dX6_setEntry_69 : decode cX6_setEntry 69 = .ok (.aload_n 0, 1) := sorry
theorem dX6_setEntry_70 : decode cX6_setEntry 70 = .ok (.getfield 16, 3) := sorry
theorem dX6_setEntry_73 : decode cX6_setEntry 73 = .ok (.iconst 0, 1) := sorry
theorem dX6_setEntry_74 : decode cX6_setEntry 74 = .ok (.invokestatic 276, 3) := sorry
theorem dX6_setEntry_77 : decode cX6_setEntry 77 = .ok (.aload_n 0, 1) := sorry
theorem dX6_setEntry_78 : decode cX6_setEntry 78 = .ok (.aload_n 0, 1) := sorry
theorem dX6_setEntry_79 : decode cX6_setEntry 79 = .ok (.getfield 16, 3) := sorry
theorem dX6_setEntry_82 : decode cX6_setEntry 82 = .ok (.putfield 25, 3) := sorry
theorem dX6_setEntry_85 : decode cX6_setEntry 85 = .ok (.aload_n 0, 1) := sorry
theorem dX6_setEntry_86 : decode cX6_setEntry 86 = .ok (.getfield 25, 3) := sorry
theorem dX6_setEntry_89 : decode cX6_setEntry 89 = .ok (.iload_n 1, 1) := sorry
theorem dX6_setEntry_90 : decode cX6_setEntry 90 = .ok (.iload_n 2, 1) := sorry
theorem dX6_setEntry_91 : decode cX6_setEntry 91 = .ok (.iload_n 3, 1) := sorry
theorem dX6_setEntry_92 : decode cX6_setEntry 92 = .ok (.i2l, 1) := sorry
theorem dX6_setEntry_93 : decode cX6_setEntry 93 = .ok (.invokestatic 303, 3) := sorry
theorem dX6_setEntry_96 : decode cX6_setEntry 96 = .ok (.aload_n 0, 1) := sorry
theorem dX6_setEntry_97 : decode cX6_setEntry 97 = .ok (.invokevirtual 80, 3) := sorry
theorem dX6_setEntry_100 : decode cX6_setEntry 100 = .ok (.istore 5, 2) := sorry
theorem dX6_setEntry_102 : decode cX6_setEntry 102 = .ok (.aload_n 0, 1) := sorry
theorem dX6_setEntry_103 : decode cX6_setEntry 103 = .ok (.aload_n 0, 1) := sorry
theorem dX6_setEntry_104 : decode cX6_setEntry 104 = .ok (.getfield 9, 3) := sorry
theorem dX6_setEntry_107 : decode cX6_setEntry 107 = .ok (.putfield 25, 3) := sorry
theorem dX6_setEntry_110 : decode cX6_setEntry 110 = .ok (.iload 5, 2) := sorry
theorem dX6_setEntry_112 : decode cX6_setEntry 112 = .ok (.ifCond .ne 7, 3) := sorry
theorem dX6_setEntry_115 : decode cX6_setEntry 115 = .ok (.sipush (-1000), 3) := sorry
theorem dX6_setEntry_118 : decode cX6_setEntry 118 = .ok (.ireturn, 1) := sorry
theorem dX6_setEntry_119 : decode cX6_setEntry 119 = .ok (.aload_n 0, 1) := sorry
theorem dX6_setEntry_120 : decode cX6_setEntry 120 = .ok (.invokevirtual 265, 3) := sorry
theorem dX6_setEntry_123 : decode cX6_setEntry 123 = .ok (.aload_n 0, 1) := sorry
theorem dX6_setEntry_124 : decode cX6_setEntry 124 = .ok (.getfield 16, 3) := sorry
theorem dX6_setEntry_127 : decode cX6_setEntry 127 = .ok (.iconst 0, 1) := sorry
theorem dX6_setEntry_128 : decode cX6_setEntry 128 = .ok (.aload_n 0, 1) := sorry
theorem dX6_setEntry_129 : decode cX6_setEntry 129 = .ok (.getfield 9, 3) := sorry
theorem dX6_setEntry_132 : decode cX6_setEntry 132 = .ok (.iconst 0, 1) := sorry
theorem dX6_setEntry_133 : decode cX6_setEntry 133 = .ok (.invokestatic 276, 3) := sorry
theorem dX6_setEntry_136 : decode cX6_setEntry 136 = .ok (.iload 4, 2) := sorry
theorem dX6_setEntry_138 : decode cX6_setEntry 138 = .ok (.ireturn, 1) := sorry
abbrev cX6_setBoth : ByteArray := prog_17_method_85_code
def yX6_setBoth : MethodName := ⟨RX6, "setBoth", "([JIIJ)V"⟩
def dkwX6_setBoth_1 : List UInt8 := [177]
abbrev dktX6_setBoth_1 : List UInt8 := dkwX6_setBoth_1 ++ []
def dkwX6_setBoth_0 : List UInt8 := [42, 16, 18, 16, 6, 27, 104, 96, 28, 96, 33, 80, 42, 16, 18, 16, 6, 28, 104, 96, 27, 96, 33, 80]
abbrev dktX6_setBoth_0 : List UInt8 := dkwX6_setBoth_0 ++ dktX6_setBoth_1
theorem dksX6_setBoth_0 : cX6_setBoth.data.toList.drop 0 = dktX6_setBoth_0 := sorry
theorem dksX6_setBoth_1 : cX6_setBoth.data.toList.drop 24 = dktX6_setBoth_1 := sorry
theorem dX6_setBoth_0 : decode cX6_setBoth 0 = .ok (.aload_n 0, 1) := sorry
theorem dX6_setBoth_1 : decode cX6_setBoth 1 = .ok (.bipush 18, 2) := sorry
theorem dX6_setBoth_3 : decode cX6_setBoth 3 = .ok (.bipush 6, 2) := sorry
theorem dX6_setBoth_5 : decode cX6_setBoth 5 = .ok (.iload_n 1, 1) := sorry
theorem dX6_setBoth_6 : decode cX6_setBoth 6 = .ok (.imul, 1) := sorry
theorem dX6_setBoth_7 : decode cX6_setBoth 7 = .ok (.iadd, 1) := sorry
theorem dX6_setBoth_8 : decode cX6_setBoth 8 = .ok (.iload_n 2, 1) := sorry
theorem dX6_setBoth_9 : decode cX6_setBoth 9 = .ok (.iadd, 1) := sorry
theorem dX6_setBoth_10 : decode cX6_setBoth 10 = .ok (.lload_n 3, 1) := sorry
theorem dX6_setBoth_11 : decode cX6_setBoth 11 = .ok (.lastore, 1) := sorry
theorem dX6_setBoth_12 : decode cX6_setBoth 12 = .ok (.aload_n 0, 1) := sorry
theorem dX6_setBoth_13 : decode cX6_setBoth 13 = .ok (.bipush 18, 2) := sorry
theorem dX6_setBoth_15 : decode cX6_setBoth 15 = .ok (.bipush 6, 2) := sorry
theorem dX6_setBoth_17 : decode cX6_setBoth 17 = .ok (.iload_n 2, 1) := sorry
theorem dX6_setBoth_18 : decode cX6_setBoth 18 = .ok (.imul, 1) := sorry
theorem dX6_setBoth_19 : decode cX6_setBoth 19 = .ok (.iadd, 1) := sorry
theorem dX6_setBoth_20 : decode cX6_setBoth 20 = .ok (.iload_n 1, 1) := sorry
theorem dX6_setBoth_21 : decode cX6_setBoth 21 = .ok (.iadd, 1) := sorry
theorem dX6_setBoth_22 : decode cX6_setBoth 22 = .ok (.lload_n 3, 1) := sorry
theorem dX6_setBoth_23 : decode cX6_setBoth 23 = .ok (.lastore, 1) := sorry
theorem dX6_setBoth_24 : decode cX6_setBoth 24 = .ok (.return_, 1) := sorry
abbrev cX6_setMode : ByteArray := prog_17_method_88_code
def yX6_setMode : MethodName := ⟨RX6, "setMode", "(I)I"⟩
def dkwX6_setMode_0 : List UInt8 := [42, 4, 27, 3, 5, 182, 1, 51, 172]
abbrev dktX6_setMode_0 : List UInt8 := dkwX6_setMode_0 ++ []
theorem dksX6_setMode_0 : cX6_setMode.data.toList.drop 0 = dktX6_setMode_0 := sorry
theorem dX6_setMode_0 : decode cX6_setMode 0 = .ok (.aload_n 0, 1) := sorry
theorem dX6_setMode_1 : decode cX6_setMode 1 = .ok (.iconst 1, 1) := sorry
theorem dX6_setMode_2 : decode cX6_setMode 2 = .ok (.iload_n 1, 1) := sorry
theorem dX6_setMode_3 : decode cX6_setMode 3 = .ok (.iconst 0, 1) := sorry
theorem dX6_setMode_4 : decode cX6_setMode 4 = .ok (.iconst 2, 1) := sorry
theorem dX6_setMode_5 : decode cX6_setMode 5 = .ok (.invokevirtual 307, 3) := sorry
theorem dX6_setMode_8 : decode cX6_setMode 8 = .ok (.ireturn, 1) := sorry
abbrev cX6_change : ByteArray := prog_17_method_87_code
def yX6_change : MethodName := ⟨RX6, "change", "(IIII)I"⟩
def dkwX6_change_1 : List UInt8 := [42, 182, 1, 9, 42, 180, 0, 9, 27, 47, 136, 54, 5, 42, 180, 0, 9, 27, 28, 133, 80, 21, 5, 172]
abbrev dktX6_change_1 : List UInt8 := dkwX6_change_1 ++ []
def dkwX6_change_0 : List UInt8 := [42, 3, 181, 0, 84, 28, 133, 29, 133, 21, 4, 133, 184, 0, 220, 154, 0, 9, 42, 4, 182, 0, 227, 172]
abbrev dktX6_change_0 : List UInt8 := dkwX6_change_0 ++ dktX6_change_1
theorem dksX6_change_0 : cX6_change.data.toList.drop 0 = dktX6_change_0 := sorry
theorem dksX6_change_1 : cX6_change.data.toList.drop 24 = dktX6_change_1 := sorry
theorem dX6_change_0 : decode cX6_change 0 = .ok (.aload_n 0, 1) := sorry
theorem dX6_change_1 : decode cX6_change 1 = .ok (.iconst 0, 1) := sorry
theorem dX6_change_2 : decode cX6_change 2 = .ok (.putfield 84, 3) := sorry
theorem dX6_change_5 : decode cX6_change 5 = .ok (.iload_n 2, 1) := sorry
theorem dX6_change_6 : decode cX6_change 6 = .ok (.i2l, 1) := sorry
theorem dX6_change_7 : decode cX6_change 7 = .ok (.iload_n 3, 1) := sorry
theorem dX6_change_8 : decode cX6_change 8 = .ok (.i2l, 1) := sorry
theorem dX6_change_9 : decode cX6_change 9 = .ok (.iload 4, 2) := sorry
theorem dX6_change_11 : decode cX6_change 11 = .ok (.i2l, 1) := sorry
theorem dX6_change_12 : decode cX6_change 12 = .ok (.invokestatic 220, 3) := sorry
theorem dX6_change_15 : decode cX6_change 15 = .ok (.ifCond .ne 9, 3) := sorry
theorem dX6_change_18 : decode cX6_change 18 = .ok (.aload_n 0, 1) := sorry
theorem dX6_change_19 : decode cX6_change 19 = .ok (.iconst 1, 1) := sorry
theorem dX6_change_20 : decode cX6_change 20 = .ok (.invokevirtual 227, 3) := sorry
theorem dX6_change_23 : decode cX6_change 23 = .ok (.ireturn, 1) := sorry
theorem dX6_change_24 : decode cX6_change 24 = .ok (.aload_n 0, 1) := sorry
theorem dX6_change_25 : decode cX6_change 25 = .ok (.invokevirtual 265, 3) := sorry
theorem dX6_change_28 : decode cX6_change 28 = .ok (.aload_n 0, 1) := sorry
theorem dX6_change_29 : decode cX6_change 29 = .ok (.getfield 9, 3) := sorry
theorem dX6_change_32 : decode cX6_change 32 = .ok (.iload_n 1, 1) := sorry
theorem dX6_change_33 : decode cX6_change 33 = .ok (.laload, 1) := sorry
theorem dX6_change_34 : decode cX6_change 34 = .ok (.l2i, 1) := sorry
theorem dX6_change_35 : decode cX6_change 35 = .ok (.istore 5, 2) := sorry
theorem dX6_change_37 : decode cX6_change 37 = .ok (.aload_n 0, 1) := sorry
theorem dX6_change_38 : decode cX6_change 38 = .ok (.getfield 9, 3) := sorry
theorem dX6_change_41 : decode cX6_change 41 = .ok (.iload_n 1, 1) := sorry
theorem dX6_change_42 : decode cX6_change 42 = .ok (.iload_n 2, 1) := sorry
theorem dX6_change_43 : decode cX6_change 43 = .ok (.i2l, 1) := sorry
theorem dX6_change_44 : decode cX6_change 44 = .ok (.lastore, 1) := sorry
theorem dX6_change_45 : decode cX6_change 45 = .ok (.iload 5, 2) := sorry
theorem dX6_change_47 : decode cX6_change 47 = .ok (.ireturn, 1) := sorry
abbrev cX6_setThreshold : ByteArray := prog_17_method_89_code
def yX6_setThreshold : MethodName := ⟨RX6, "setThreshold", "(I)I"⟩
def dkwX6_setThreshold_0 : List UInt8 := [42, 5, 27, 4, 19, 1, 55, 182, 1, 51, 172]
abbrev dktX6_setThreshold_0 : List UInt8 := dkwX6_setThreshold_0 ++ []
theorem dksX6_setThreshold_0 : cX6_setThreshold.data.toList.drop 0 = dktX6_setThreshold_0 := sorry
theorem dX6_setThreshold_0 : decode cX6_setThreshold 0 = .ok (.aload_n 0, 1) := sorry
theorem dX6_setThreshold_1 : decode cX6_setThreshold 1 = .ok (.iconst 2, 1) := sorry
theorem dX6_setThreshold_2 : decode cX6_setThreshold 2 = .ok (.iload_n 1, 1) := sorry
theorem dX6_setThreshold_3 : decode cX6_setThreshold 3 = .ok (.iconst 1, 1) := sorry
theorem dX6_setThreshold_4 : decode cX6_setThreshold 4 = .ok (.ldc_w 311, 3) := sorry
theorem dX6_setThreshold_7 : decode cX6_setThreshold 7 = .ok (.invokevirtual 307, 3) := sorry
theorem dX6_setThreshold_10 : decode cX6_setThreshold 10 = .ok (.ireturn, 1) := sorry
abbrev cX6_setTolerance : ByteArray := prog_17_method_90_code
def yX6_setTolerance : MethodName := ⟨RX6, "setTolerance", "(I)I"⟩
def dkwX6_setTolerance_0 : List UInt8 := [42, 6, 27, 4, 19, 1, 55, 182, 1, 51, 172]
abbrev dktX6_setTolerance_0 : List UInt8 := dkwX6_setTolerance_0 ++ []
theorem dksX6_setTolerance_0 : cX6_setTolerance.data.toList.drop 0 = dktX6_setTolerance_0 := sorry
theorem dX6_setTolerance_0 : decode cX6_setTolerance 0 = .ok (.aload_n 0, 1) := sorry
theorem dX6_setTolerance_1 : decode cX6_setTolerance 1 = .ok (.iconst 3, 1) := sorry
theorem dX6_setTolerance_2 : decode cX6_setTolerance 2 = .ok (.iload_n 1, 1) := sorry
theorem dX6_setTolerance_3 : decode cX6_setTolerance 3 = .ok (.iconst 1, 1) := sorry
theorem dX6_setTolerance_4 : decode cX6_setTolerance 4 = .ok (.ldc_w 311, 3) := sorry
theorem dX6_setTolerance_7 : decode cX6_setTolerance 7 = .ok (.invokevirtual 307, 3) := sorry
theorem dX6_setTolerance_10 : decode cX6_setTolerance 10 = .ok (.ireturn, 1) := sorry
abbrev cX6_format : ByteArray := prog_17_method_93_code
def yX6_format : MethodName := ⟨RX6, "format", "(I)I"⟩
def dkwX6_format_5 : List UInt8 := [182, 1, 66, 42, 42, 27, 182, 0, 239, 182, 1, 63, 42, 180, 1, 56, 172]
abbrev dktX6_format_5 : List UInt8 := dkwX6_format_5 ++ []
def dkwX6_format_4 : List UInt8 := [20, 1, 61, 109, 55, 6, 167, 255, 224, 42, 16, 32, 182, 1, 66, 42, 16, 43, 182, 1, 66, 42, 16, 45]
abbrev dktX6_format_4 : List UInt8 := dkwX6_format_4 ++ dktX6_format_5
def dkwX6_format_3 : List UInt8 := [148, 158, 0, 31, 42, 16, 48, 22, 4, 22, 6, 109, 20, 1, 61, 113, 136, 96, 182, 1, 66, 22, 6]
abbrev dktX6_format_3 : List UInt8 := dkwX6_format_3 ++ dktX6_format_4
def dkwX6_format_2 : List UInt8 := [42, 22, 4, 20, 0, 97, 109, 182, 1, 63, 42, 16, 46, 182, 1, 66, 20, 1, 69, 55, 6, 22, 6, 9]
abbrev dktX6_format_2 : List UInt8 := dkwX6_format_2 ++ dktX6_format_3
def dkwX6_format_1 : List UInt8 := [65, 32, 184, 0, 147, 55, 4, 42, 3, 181, 1, 56, 32, 9, 148, 156, 0, 9, 42, 16, 45, 182, 1, 66]
abbrev dktX6_format_1 : List UInt8 := dkwX6_format_1 ++ dktX6_format_2
def dkwX6_format_0 : List UInt8 := [42, 3, 181, 0, 84, 42, 27, 182, 0, 236, 154, 0, 9, 42, 4, 182, 0, 227, 172, 42, 27, 182, 0, 209]
abbrev dktX6_format_0 : List UInt8 := dkwX6_format_0 ++ dktX6_format_1
theorem dksX6_format_0 : cX6_format.data.toList.drop 0 = dktX6_format_0 := sorry
theorem dksX6_format_1 : cX6_format.data.toList.drop 24 = dktX6_format_1 := sorry
theorem dksX6_format_2 : cX6_format.data.toList.drop 48 = dktX6_format_2 := sorry
theorem dksX6_format_3 : cX6_format.data.toList.drop 72 = dktX6_format_3 := sorry
theorem dksX6_format_4 : cX6_format.data.toList.drop 95 = dktX6_format_4 := sorry
theorem dksX6_format_5 : cX6_format.data.toList.drop 119 = dktX6_format_5 := sorry
theorem dX6_format_0 : decode cX6_format 0 = .ok (.aload_n 0, 1) := sorry
theorem dX6_format_1 : decode cX6_format 1 = .ok (.iconst 0, 1) := sorry
theorem dX6_format_2 : decode cX6_format 2 = .ok (.putfield 84, 3) := sorry
theorem dX6_format_5 : decode cX6_format 5 = .ok (.aload_n 0, 1) := sorry
theorem dX6_format_6 : decode cX6_format 6 = .ok (.iload_n 1, 1) := sorry
theorem dX6_format_7 : decode cX6_format 7 = .ok (.invokevirtual 236, 3) := sorry
theorem dX6_format_10 : decode cX6_format 10 = .ok (.ifCond .ne 9, 3) := sorry
theorem dX6_format_13 : decode cX6_format 13 = .ok (.aload_n 0, 1) := sorry
theorem dX6_format_14 : decode cX6_format 14 = .ok (.iconst 1, 1) := sorry
theorem dX6_format_15 : decode cX6_format 15 = .ok (.invokevirtual 227, 3) := sorry
theorem dX6_format_18 : decode cX6_format 18 = .ok (.ireturn, 1) := sorry
theorem dX6_format_19 : decode cX6_format 19 = .ok (.aload_n 0, 1) := sorry
theorem dX6_format_20 : decode cX6_format 20 = .ok (.iload_n 1, 1) := sorry
theorem dX6_format_21 : decode cX6_format 21 = .ok (.invokevirtual 209, 3) := sorry
theorem dX6_format_24 : decode cX6_format 24 = .ok (.lstore_n 2, 1) := sorry
theorem dX6_format_25 : decode cX6_format 25 = .ok (.lload_n 2, 1) := sorry
theorem dX6_format_26 : decode cX6_format 26 = .ok (.invokestatic 147, 3) := sorry
theorem dX6_format_29 : decode cX6_format 29 = .ok (.lstore 4, 2) := sorry
theorem dX6_format_31 : decode cX6_format 31 = .ok (.aload_n 0, 1) := sorry
theorem dX6_format_32 : decode cX6_format 32 = .ok (.iconst 0, 1) := sorry
theorem dX6_format_33 : decode cX6_format 33 = .ok (.putfield 312, 3) := sorry
theorem dX6_format_36 : decode cX6_format 36 = .ok (.lload_n 2, 1) := sorry
theorem dX6_format_37 : decode cX6_format 37 = .ok (.lconst 0, 1) := sorry
theorem dX6_format_38 : decode cX6_format 38 = .ok (.lcmp, 1) := sorry
theorem dX6_format_39 : decode cX6_format 39 = .ok (.ifCond .ge 9, 3) := sorry
theorem dX6_format_42 : decode cX6_format 42 = .ok (.aload_n 0, 1) := sorry
theorem dX6_format_43 : decode cX6_format 43 = .ok (.bipush 45, 2) := sorry
theorem dX6_format_45 : decode cX6_format 45 = .ok (.invokevirtual 322, 3) := sorry
theorem dX6_format_48 : decode cX6_format 48 = .ok (.aload_n 0, 1) := sorry
theorem dX6_format_49 : decode cX6_format 49 = .ok (.lload 4, 2) := sorry
theorem dX6_format_51 : decode cX6_format 51 = .ok (.ldc2_w 97, 3) := sorry
theorem dX6_format_54 : decode cX6_format 54 = .ok (.ldiv, 1) := sorry
theorem dX6_format_55 : decode cX6_format 55 = .ok (.invokevirtual 319, 3) := sorry
theorem dX6_format_58 : decode cX6_format 58 = .ok (.aload_n 0, 1) := sorry
theorem dX6_format_59 : decode cX6_format 59 = .ok (.bipush 46, 2) := sorry
theorem dX6_format_61 : decode cX6_format 61 = .ok (.invokevirtual 322, 3) := sorry
theorem dX6_format_64 : decode cX6_format 64 = .ok (.ldc2_w 325, 3) := sorry
theorem dX6_format_67 : decode cX6_format 67 = .ok (.lstore 6, 2) := sorry
theorem dX6_format_69 : decode cX6_format 69 = .ok (.lload 6, 2) := sorry
theorem dX6_format_71 : decode cX6_format 71 = .ok (.lconst 0, 1) := sorry
theorem dX6_format_72 : decode cX6_format 72 = .ok (.lcmp, 1) := sorry
theorem dX6_format_73 : decode cX6_format 73 = .ok (.ifCond .le 31, 3) := sorry
theorem dX6_format_76 : decode cX6_format 76 = .ok (.aload_n 0, 1) := sorry
theorem dX6_format_77 : decode cX6_format 77 = .ok (.bipush 48, 2) := sorry
theorem dX6_format_79 : decode cX6_format 79 = .ok (.lload 4, 2) := sorry
theorem dX6_format_81 : decode cX6_format 81 = .ok (.lload 6, 2) := sorry
theorem dX6_format_83 : decode cX6_format 83 = .ok (.ldiv, 1) := sorry
theorem dX6_format_84 : decode cX6_format 84 = .ok (.ldc2_w 317, 3) := sorry
theorem dX6_format_87 : decode cX6_format 87 = .ok (.lrem, 1) := sorry
theorem dX6_format_88 : decode cX6_format 88 = .ok (.l2i, 1) := sorry
theorem dX6_format_89 : decode cX6_format 89 = .ok (.iadd, 1) := sorry
theorem dX6_format_90 : decode cX6_format 90 = .ok (.invokevirtual 322, 3) := sorry
theorem dX6_format_93 : decode cX6_format 93 = .ok (.lload 6, 2) := sorry
theorem dX6_format_95 : decode cX6_format 95 = .ok (.ldc2_w 317, 3) := sorry
theorem dX6_format_98 : decode cX6_format 98 = .ok (.ldiv, 1) := sorry
theorem dX6_format_99 : decode cX6_format 99 = .ok (.lstore 6, 2) := sorry
theorem dX6_format_101 : decode cX6_format 101 = .ok (.goto (-32), 3) := sorry
theorem dX6_format_104 : decode cX6_format 104 = .ok (.aload_n 0, 1) := sorry
theorem dX6_format_105 : decode cX6_format 105 = .ok (.bipush 32, 2) := sorry
theorem dX6_format_107 : decode cX6_format 107 = .ok (.invokevirtual 322, 3) := sorry
theorem dX6_format_110 : decode cX6_format 110 = .ok (.aload_n 0, 1) := sorry
theorem dX6_format_111 : decode cX6_format 111 = .ok (.bipush 43, 2) := sorry
theorem dX6_format_113 : decode cX6_format 113 = .ok (.invokevirtual 322, 3) := sorry
theorem dX6_format_116 : decode cX6_format 116 = .ok (.aload_n 0, 1) := sorry
theorem dX6_format_117 : decode cX6_format 117 = .ok (.bipush 45, 2) := sorry
theorem dX6_format_119 : decode cX6_format 119 = .ok (.invokevirtual 322, 3) := sorry
theorem dX6_format_122 : decode cX6_format 122 = .ok (.aload_n 0, 1) := sorry
theorem dX6_format_123 : decode cX6_format 123 = .ok (.aload_n 0, 1) := sorry
theorem dX6_format_124 : decode cX6_format 124 = .ok (.iload_n 1, 1) := sorry
theorem dX6_format_125 : decode cX6_format 125 = .ok (.invokevirtual 239, 3) := sorry
theorem dX6_format_128 : decode cX6_format 128 = .ok (.invokevirtual 319, 3) := sorry
theorem dX6_format_131 : decode cX6_format 131 = .ok (.aload_n 0, 1) := sorry
theorem dX6_format_132 : decode cX6_format 132 = .ok (.getfield 312, 3) := sorry
theorem dX6_format_135 : decode cX6_format 135 = .ok (.ireturn, 1) := sorry
abbrev cX6_write : ByteArray := prog_17_method_91_code
def yX6_write : MethodName := ⟨RX6, "write", "(I)V"⟩
def dkwX6_write_0 : List UInt8 := [42, 180, 0, 43, 42, 180, 1, 56, 27, 79, 42, 89, 180, 1, 56, 4, 96, 181, 1, 56, 177]
abbrev dktX6_write_0 : List UInt8 := dkwX6_write_0 ++ []
theorem dksX6_write_0 : cX6_write.data.toList.drop 0 = dktX6_write_0 := sorry
theorem dX6_write_0 : decode cX6_write 0 = .ok (.aload_n 0, 1) := sorry
theorem dX6_write_1 : decode cX6_write 1 = .ok (.getfield 43, 3) := sorry
theorem dX6_write_4 : decode cX6_write 4 = .ok (.aload_n 0, 1) := sorry
theorem dX6_write_5 : decode cX6_write 5 = .ok (.getfield 312, 3) := sorry
theorem dX6_write_8 : decode cX6_write 8 = .ok (.iload_n 1, 1) := sorry
theorem dX6_write_9 : decode cX6_write 9 = .ok (.iastore, 1) := sorry
theorem dX6_write_10 : decode cX6_write 10 = .ok (.aload_n 0, 1) := sorry
theorem dX6_write_11 : decode cX6_write 11 = .ok (.dup, 1) := sorry
theorem dX6_write_12 : decode cX6_write 12 = .ok (.getfield 312, 3) := sorry
theorem dX6_write_15 : decode cX6_write 15 = .ok (.iconst 1, 1) := sorry
theorem dX6_write_16 : decode cX6_write 16 = .ok (.iadd, 1) := sorry
theorem dX6_write_17 : decode cX6_write 17 = .ok (.putfield 312, 3) := sorry
theorem dX6_write_20 : decode cX6_write 20 = .ok (.return_, 1) := sorry
abbrev cX6_writeNumber : ByteArray := prog_17_method_92_code
def yX6_writeNumber : MethodName := ⟨RX6, "writeNumber", "(J)V"⟩
def dkwX6_writeNumber_1 : List UInt8 := [113, 136, 96, 182, 1, 66, 177]
abbrev dktX6_writeNumber_1 : List UInt8 := dkwX6_writeNumber_1 ++ []
def dkwX6_writeNumber_0 : List UInt8 := [31, 20, 1, 59, 148, 158, 0, 12, 42, 31, 20, 1, 61, 109, 182, 1, 63, 42, 16, 48, 31, 20, 1, 61]
abbrev dktX6_writeNumber_0 : List UInt8 := dkwX6_writeNumber_0 ++ dktX6_writeNumber_1
theorem dksX6_writeNumber_0 : cX6_writeNumber.data.toList.drop 0 = dktX6_writeNumber_0 := sorry
theorem dksX6_writeNumber_1 : cX6_writeNumber.data.toList.drop 24 = dktX6_writeNumber_1 := sorry
theorem dX6_writeNumber_0 : decode cX6_writeNumber 0 = .ok (.lload_n 1, 1) := sorry
theorem dX6_writeNumber_1 : decode cX6_writeNumber 1 = .ok (.ldc2_w 315, 3) := sorry
theorem dX6_writeNumber_4 : decode cX6_writeNumber 4 = .ok (.lcmp, 1) := sorry
theorem dX6_writeNumber_5 : decode cX6_writeNumber 5 = .ok (.ifCond .le 12, 3) := sorry
theorem dX6_writeNumber_8 : decode cX6_writeNumber 8 = .ok (.aload_n 0, 1) := sorry
theorem dX6_writeNumber_9 : decode cX6_writeNumber 9 = .ok (.lload_n 1, 1) := sorry
theorem dX6_writeNumber_10 : decode cX6_writeNumber 10 = .ok (.ldc2_w 317, 3) := sorry
theorem dX6_writeNumber_13 : decode cX6_writeNumber 13 = .ok (.ldiv, 1) := sorry
theorem dX6_writeNumber_14 : decode cX6_writeNumber 14 = .ok (.invokevirtual 319, 3) := sorry
theorem dX6_writeNumber_17 : decode cX6_writeNumber 17 = .ok (.aload_n 0, 1) := sorry
theorem dX6_writeNumber_18 : decode cX6_writeNumber 18 = .ok (.bipush 48, 2) := sorry
theorem dX6_writeNumber_20 : decode cX6_writeNumber 20 = .ok (.lload_n 1, 1) := sorry
theorem dX6_writeNumber_21 : decode cX6_writeNumber 21 = .ok (.ldc2_w 317, 3) := sorry
theorem dX6_writeNumber_24 : decode cX6_writeNumber 24 = .ok (.lrem, 1) := sorry
theorem dX6_writeNumber_25 : decode cX6_writeNumber 25 = .ok (.l2i, 1) := sorry
theorem dX6_writeNumber_26 : decode cX6_writeNumber 26 = .ok (.iadd, 1) := sorry
theorem dX6_writeNumber_27 : decode cX6_writeNumber 27 = .ok (.invokevirtual 322, 3) := sorry
theorem dX6_writeNumber_30 : decode cX6_writeNumber 30 = .ok (.return_, 1) := sorry
abbrev cX6_formattedByte : ByteArray := prog_17_method_94_code
def yX6_formattedByte : MethodName := ⟨RX6, "formattedByte", "(I)I"⟩
def dkwX6_formattedByte_1 : List UInt8 := [180, 0, 43, 27, 46, 167, 0, 4, 2, 172]
abbrev dktX6_formattedByte_1 : List UInt8 := dkwX6_formattedByte_1 ++ []
def dkwX6_formattedByte_0 : List UInt8 := [42, 3, 181, 0, 84, 27, 133, 9, 42, 180, 1, 56, 133, 10, 101, 184, 0, 220, 153, 0, 12, 42]
abbrev dktX6_formattedByte_0 : List UInt8 := dkwX6_formattedByte_0 ++ dktX6_formattedByte_1
theorem dksX6_formattedByte_0 : cX6_formattedByte.data.toList.drop 0 = dktX6_formattedByte_0 := sorry
theorem dksX6_formattedByte_1 : cX6_formattedByte.data.toList.drop 22 = dktX6_formattedByte_1 := sorry
theorem dX6_formattedByte_0 : decode cX6_formattedByte 0 = .ok (.aload_n 0, 1) := sorry
theorem dX6_formattedByte_1 : decode cX6_formattedByte 1 = .ok (.iconst 0, 1) := sorry
theorem dX6_formattedByte_2 : decode cX6_formattedByte 2 = .ok (.putfield 84, 3) := sorry
theorem dX6_formattedByte_5 : decode cX6_formattedByte 5 = .ok (.iload_n 1, 1) := sorry
theorem dX6_formattedByte_6 : decode cX6_formattedByte 6 = .ok (.i2l, 1) := sorry
theorem dX6_formattedByte_7 : decode cX6_formattedByte 7 = .ok (.lconst 0, 1) := sorry
theorem dX6_formattedByte_8 : decode cX6_formattedByte 8 = .ok (.aload_n 0, 1) := sorry
theorem dX6_formattedByte_9 : decode cX6_formattedByte 9 = .ok (.getfield 312, 3) := sorry
theorem dX6_formattedByte_12 : decode cX6_formattedByte 12 = .ok (.i2l, 1) := sorry
theorem dX6_formattedByte_13 : decode cX6_formattedByte 13 = .ok (.lconst 1, 1) := sorry
theorem dX6_formattedByte_14 : decode cX6_formattedByte 14 = .ok (.lsub, 1) := sorry
theorem dX6_formattedByte_15 : decode cX6_formattedByte 15 = .ok (.invokestatic 220, 3) := sorry
theorem dX6_formattedByte_18 : decode cX6_formattedByte 18 = .ok (.ifCond .eq 12, 3) := sorry
theorem dX6_formattedByte_21 : decode cX6_formattedByte 21 = .ok (.aload_n 0, 1) := sorry
theorem dX6_formattedByte_22 : decode cX6_formattedByte 22 = .ok (.getfield 43, 3) := sorry
theorem dX6_formattedByte_25 : decode cX6_formattedByte 25 = .ok (.iload_n 1, 1) := sorry
theorem dX6_formattedByte_26 : decode cX6_formattedByte 26 = .ok (.iaload, 1) := sorry
theorem dX6_formattedByte_27 : decode cX6_formattedByte 27 = .ok (.goto 4, 3) := sorry
theorem dX6_formattedByte_30 : decode cX6_formattedByte 30 = .ok (.iconst (-1), 1) := sorry
theorem dX6_formattedByte_31 : decode cX6_formattedByte 31 = .ok (.ireturn, 1) := sorry
abbrev cX6_undoCount : ByteArray := prog_17_method_97_code
def yX6_undoCount : MethodName := ⟨RX6, "undoCount", "()I"⟩
def dkwX6_undoCount_0 : List UInt8 := [42, 3, 181, 0, 84, 42, 180, 1, 71, 172]
abbrev dktX6_undoCount_0 : List UInt8 := dkwX6_undoCount_0 ++ []
theorem dksX6_undoCount_0 : cX6_undoCount.data.toList.drop 0 = dktX6_undoCount_0 := sorry
theorem dX6_undoCount_0 : decode cX6_undoCount 0 = .ok (.aload_n 0, 1) := sorry
theorem dX6_undoCount_1 : decode cX6_undoCount 1 = .ok (.iconst 0, 1) := sorry
theorem dX6_undoCount_2 : decode cX6_undoCount 2 = .ok (.putfield 84, 3) := sorry
theorem dX6_undoCount_5 : decode cX6_undoCount 5 = .ok (.aload_n 0, 1) := sorry
theorem dX6_undoCount_6 : decode cX6_undoCount 6 = .ok (.getfield 327, 3) := sorry
theorem dX6_undoCount_9 : decode cX6_undoCount 9 = .ok (.ireturn, 1) := sorry
abbrev cX6_undo : ByteArray := prog_17_method_98_code
def yX6_undo : MethodName := ⟨RX6, "undo", "()I"⟩
def dkwX6_undo_1 : List UInt8 := [42, 180, 0, 22, 42, 180, 1, 71, 42, 180, 0, 9, 3, 184, 1, 20, 42, 180, 1, 71, 172]
abbrev dktX6_undo_1 : List UInt8 := dkwX6_undo_1 ++ []
def dkwX6_undo_0 : List UInt8 := [42, 3, 181, 0, 84, 42, 180, 1, 71, 154, 0, 5, 2, 172, 42, 89, 180, 1, 71, 4, 100, 181, 1, 71]
abbrev dktX6_undo_0 : List UInt8 := dkwX6_undo_0 ++ dktX6_undo_1
theorem dksX6_undo_0 : cX6_undo.data.toList.drop 0 = dktX6_undo_0 := sorry
theorem dksX6_undo_1 : cX6_undo.data.toList.drop 24 = dktX6_undo_1 := sorry
theorem dX6_undo_0 : decode cX6_undo 0 = .ok (.aload_n 0, 1) := sorry
theorem dX6_undo_1 : decode cX6_undo 1 = .ok (.iconst 0, 1) := sorry
theorem dX6_undo_2 : decode cX6_undo 2 = .ok (.putfield 84, 3) := sorry
theorem dX6_undo_5 : decode cX6_undo 5 = .ok (.aload_n 0, 1) := sorry
theorem dX6_undo_6 : decode cX6_undo 6 = .ok (.getfield 327, 3) := sorry
theorem dX6_undo_9 : decode cX6_undo 9 = .ok (.ifCond .ne 5, 3) := sorry
theorem dX6_undo_12 : decode cX6_undo 12 = .ok (.iconst (-1), 1) := sorry
theorem dX6_undo_13 : decode cX6_undo 13 = .ok (.ireturn, 1) := sorry
theorem dX6_undo_14 : decode cX6_undo 14 = .ok (.aload_n 0, 1) := sorry
theorem dX6_undo_15 : decode cX6_undo 15 = .ok (.dup, 1) := sorry
theorem dX6_undo_16 : decode cX6_undo 16 = .ok (.getfield 327, 3) := sorry
theorem dX6_undo_19 : decode cX6_undo 19 = .ok (.iconst 1, 1) := sorry
theorem dX6_undo_20 : decode cX6_undo 20 = .ok (.isub, 1) := sorry
theorem dX6_undo_21 : decode cX6_undo 21 = .ok (.putfield 327, 3) := sorry
theorem dX6_undo_24 : decode cX6_undo 24 = .ok (.aload_n 0, 1) := sorry
theorem dX6_undo_25 : decode cX6_undo 25 = .ok (.getfield 22, 3) := sorry
theorem dX6_undo_28 : decode cX6_undo 28 = .ok (.aload_n 0, 1) := sorry
theorem dX6_undo_29 : decode cX6_undo 29 = .ok (.getfield 327, 3) := sorry
theorem dX6_undo_32 : decode cX6_undo 32 = .ok (.aload_n 0, 1) := sorry
theorem dX6_undo_33 : decode cX6_undo 33 = .ok (.getfield 9, 3) := sorry
theorem dX6_undo_36 : decode cX6_undo 36 = .ok (.iconst 0, 1) := sorry
theorem dX6_undo_37 : decode cX6_undo 37 = .ok (.invokestatic 276, 3) := sorry
theorem dX6_undo_40 : decode cX6_undo 40 = .ok (.aload_n 0, 1) := sorry
theorem dX6_undo_41 : decode cX6_undo 41 = .ok (.getfield 327, 3) := sorry
theorem dX6_undo_44 : decode cX6_undo 44 = .ok (.ireturn, 1) := sorry
abbrev cX6_saveSnapshot : ByteArray := prog_17_method_99_code
def yX6_saveSnapshot : MethodName := ⟨RX6, "saveSnapshot", "()V"⟩
def dkwX6_saveSnapshot_0 : List UInt8 := [42, 3, 181, 0, 84, 42, 180, 0, 9, 3, 42, 180, 0, 19, 3, 184, 1, 20, 42, 4, 181, 1, 74, 177]
abbrev dktX6_saveSnapshot_0 : List UInt8 := dkwX6_saveSnapshot_0 ++ []
theorem dksX6_saveSnapshot_0 : cX6_saveSnapshot.data.toList.drop 0 = dktX6_saveSnapshot_0 := sorry
theorem dX6_saveSnapshot_0 : decode cX6_saveSnapshot 0 = .ok (.aload_n 0, 1) := sorry
theorem dX6_saveSnapshot_1 : decode cX6_saveSnapshot 1 = .ok (.iconst 0, 1) := sorry
theorem dX6_saveSnapshot_2 : decode cX6_saveSnapshot 2 = .ok (.putfield 84, 3) := sorry
theorem dX6_saveSnapshot_5 : decode cX6_saveSnapshot 5 = .ok (.aload_n 0, 1) := sorry
theorem dX6_saveSnapshot_6 : decode cX6_saveSnapshot 6 = .ok (.getfield 9, 3) := sorry
theorem dX6_saveSnapshot_9 : decode cX6_saveSnapshot 9 = .ok (.iconst 0, 1) := sorry
theorem dX6_saveSnapshot_10 : decode cX6_saveSnapshot 10 = .ok (.aload_n 0, 1) := sorry
theorem dX6_saveSnapshot_11 : decode cX6_saveSnapshot 11 = .ok (.getfield 19, 3) := sorry
theorem dX6_saveSnapshot_14 : decode cX6_saveSnapshot 14 = .ok (.iconst 0, 1) := sorry
theorem dX6_saveSnapshot_15 : decode cX6_saveSnapshot 15 = .ok (.invokestatic 276, 3) := sorry
theorem dX6_saveSnapshot_18 : decode cX6_saveSnapshot 18 = .ok (.aload_n 0, 1) := sorry
theorem dX6_saveSnapshot_19 : decode cX6_saveSnapshot 19 = .ok (.iconst 1, 1) := sorry
theorem dX6_saveSnapshot_20 : decode cX6_saveSnapshot 20 = .ok (.putfield 330, 3) := sorry
theorem dX6_saveSnapshot_23 : decode cX6_saveSnapshot 23 = .ok (.return_, 1) := sorry
abbrev cX6_restoreSnapshot : ByteArray := prog_17_method_100_code
def yX6_restoreSnapshot : MethodName := ⟨RX6, "restoreSnapshot", "()Z"⟩
def dkwX6_restoreSnapshot_1 : List UInt8 := [184, 1, 20, 42, 3, 181, 1, 71, 4, 172]
abbrev dktX6_restoreSnapshot_1 : List UInt8 := dkwX6_restoreSnapshot_1 ++ []
def dkwX6_restoreSnapshot_0 : List UInt8 := [42, 3, 181, 0, 84, 42, 180, 1, 74, 154, 0, 5, 3, 172, 42, 180, 0, 19, 3, 42, 180, 0, 9, 3]
abbrev dktX6_restoreSnapshot_0 : List UInt8 := dkwX6_restoreSnapshot_0 ++ dktX6_restoreSnapshot_1
theorem dksX6_restoreSnapshot_0 : cX6_restoreSnapshot.data.toList.drop 0 = dktX6_restoreSnapshot_0 := sorry
theorem dksX6_restoreSnapshot_1 : cX6_restoreSnapshot.data.toList.drop 24 = dktX6_restoreSnapshot_1 := sorry
theorem dX6_restoreSnapshot_0 : decode cX6_restoreSnapshot 0 = .ok (.aload_n 0, 1) := sorry
theorem dX6_restoreSnapshot_1 : decode cX6_restoreSnapshot 1 = .ok (.iconst 0, 1) := sorry
theorem dX6_restoreSnapshot_2 : decode cX6_restoreSnapshot 2 = .ok (.putfield 84, 3) := sorry
theorem dX6_restoreSnapshot_5 : decode cX6_restoreSnapshot 5 = .ok (.aload_n 0, 1) := sorry
theorem dX6_restoreSnapshot_6 : decode cX6_restoreSnapshot 6 = .ok (.getfield 330, 3) := sorry
theorem dX6_restoreSnapshot_9 : decode cX6_restoreSnapshot 9 = .ok (.ifCond .ne 5, 3) := sorry
theorem dX6_restoreSnapshot_12 : decode cX6_restoreSnapshot 12 = .ok (.iconst 0, 1) := sorry
theorem dX6_restoreSnapshot_13 : decode cX6_restoreSnapshot 13 = .ok (.ireturn, 1) := sorry
theorem dX6_restoreSnapshot_14 : decode cX6_restoreSnapshot 14 = .ok (.aload_n 0, 1) := sorry
theorem dX6_restoreSnapshot_15 : decode cX6_restoreSnapshot 15 = .ok (.getfield 19, 3) := sorry
theorem dX6_restoreSnapshot_18 : decode cX6_restoreSnapshot 18 = .ok (.iconst 0, 1) := sorry
theorem dX6_restoreSnapshot_19 : decode cX6_restoreSnapshot 19 = .ok (.aload_n 0, 1) := sorry
theorem dX6_restoreSnapshot_20 : decode cX6_restoreSnapshot 20 = .ok (.getfield 9, 3) := sorry
theorem dX6_restoreSnapshot_23 : decode cX6_restoreSnapshot 23 = .ok (.iconst 0, 1) := sorry
theorem dX6_restoreSnapshot_24 : decode cX6_restoreSnapshot 24 = .ok (.invokestatic 276, 3) := sorry
theorem dX6_restoreSnapshot_27 : decode cX6_restoreSnapshot 27 = .ok (.aload_n 0, 1) := sorry
theorem dX6_restoreSnapshot_28 : decode cX6_restoreSnapshot 28 = .ok (.iconst 0, 1) := sorry
theorem dX6_restoreSnapshot_29 : decode cX6_restoreSnapshot 29 = .ok (.putfield 327, 3) := sorry
theorem dX6_restoreSnapshot_32 : decode cX6_restoreSnapshot 32 = .ok (.iconst 1, 1) := sorry
theorem dX6_restoreSnapshot_33 : decode cX6_restoreSnapshot 33 = .ok (.ireturn, 1) := sorry
abbrev cX6_feed : ByteArray := prog_17_method_101_code
def yX6_feed : MethodName := ⟨RX6, "feed", "(IIIII)I"⟩
def dkwX6_feed_5 : List UInt8 := [167, 255, 162, 42, 180, 1, 78, 172]
abbrev dktX6_feed_5 : List UInt8 := dkwX6_feed_5 ++ []
def dkwX6_feed_4 : List UInt8 := [112, 104, 100, 122, 17, 0, 255, 126, 79, 42, 89, 180, 1, 78, 4, 96, 181, 1, 78, 132, 6, 1]
abbrev dktX6_feed_4 : List UInt8 := dkwX6_feed_4 ++ dktX6_feed_5
def dkwX6_feed_3 : List UInt8 := [167, 0, 5, 21, 5, 54, 7, 42, 180, 0, 47, 42, 180, 1, 78, 21, 7, 16, 24, 16, 8, 21, 6, 7]
abbrev dktX6_feed_3 : List UInt8 := dkwX6_feed_3 ++ dktX6_feed_4
def dkwX6_feed_2 : List UInt8 := [28, 167, 0, 28, 21, 6, 16, 12, 162, 0, 7, 29, 167, 0, 17, 21, 6, 16, 16, 162, 0, 8, 21, 4]
abbrev dktX6_feed_2 : List UInt8 := dkwX6_feed_2 ++ dktX6_feed_3
def dkwX6_feed_1 : List UInt8 := [21, 6, 16, 20, 162, 0, 93, 21, 6, 7, 162, 0, 7, 27, 167, 0, 39, 21, 6, 16, 8, 162, 0, 7]
abbrev dktX6_feed_1 : List UInt8 := dkwX6_feed_1 ++ dktX6_feed_2
def dkwX6_feed_0 : List UInt8 := [42, 3, 181, 0, 84, 42, 180, 1, 78, 16, 20, 96, 17, 2, 88, 164, 0, 5, 2, 172, 3, 54, 6]
abbrev dktX6_feed_0 : List UInt8 := dkwX6_feed_0 ++ dktX6_feed_1
theorem dksX6_feed_0 : cX6_feed.data.toList.drop 0 = dktX6_feed_0 := sorry
theorem dksX6_feed_1 : cX6_feed.data.toList.drop 23 = dktX6_feed_1 := sorry
theorem dksX6_feed_2 : cX6_feed.data.toList.drop 47 = dktX6_feed_2 := sorry
theorem dksX6_feed_3 : cX6_feed.data.toList.drop 71 = dktX6_feed_3 := sorry
theorem dksX6_feed_4 : cX6_feed.data.toList.drop 95 = dktX6_feed_4 := sorry
theorem dksX6_feed_5 : cX6_feed.data.toList.drop 117 = dktX6_feed_5 := sorry
theorem dX6_feed_0 : decode cX6_feed 0 = .ok (.aload_n 0, 1) := sorry
theorem dX6_feed_1 : decode cX6_feed 1 = .ok (.iconst 0, 1) := sorry
theorem dX6_feed_2 : decode cX6_feed 2 = .ok (.putfield 84, 3) := sorry
theorem dX6_feed_5 : decode cX6_feed 5 = .ok (.aload_n 0, 1) := sorry
theorem dX6_feed_6 : decode cX6_feed 6 = .ok (.getfield 334, 3) := sorry
theorem dX6_feed_9 : decode cX6_feed 9 = .ok (.bipush 20, 2) := sorry
theorem dX6_feed_11 : decode cX6_feed 11 = .ok (.iadd, 1) := sorry
theorem dX6_feed_12 : decode cX6_feed 12 = .ok (.sipush 600, 3) := sorry
theorem dX6_feed_15 : decode cX6_feed 15 = .ok (.if_icmp .le 5, 3) := sorry
theorem dX6_feed_18 : decode cX6_feed 18 = .ok (.iconst (-1), 1) := sorry
theorem dX6_feed_19 : decode cX6_feed 19 = .ok (.ireturn, 1) := sorry
theorem dX6_feed_20 : decode cX6_feed 20 = .ok (.iconst 0, 1) := sorry
theorem dX6_feed_21 : decode cX6_feed 21 = .ok (.istore 6, 2) := sorry
theorem dX6_feed_23 : decode cX6_feed 23 = .ok (.iload 6, 2) := sorry
theorem dX6_feed_25 : decode cX6_feed 25 = .ok (.bipush 20, 2) := sorry
theorem dX6_feed_27 : decode cX6_feed 27 = .ok (.if_icmp .ge 93, 3) := sorry
theorem dX6_feed_30 : decode cX6_feed 30 = .ok (.iload 6, 2) := sorry
theorem dX6_feed_32 : decode cX6_feed 32 = .ok (.iconst 4, 1) := sorry
theorem dX6_feed_33 : decode cX6_feed 33 = .ok (.if_icmp .ge 7, 3) := sorry
theorem dX6_feed_36 : decode cX6_feed 36 = .ok (.iload_n 1, 1) := sorry
theorem dX6_feed_37 : decode cX6_feed 37 = .ok (.goto 39, 3) := sorry
theorem dX6_feed_40 : decode cX6_feed 40 = .ok (.iload 6, 2) := sorry
theorem dX6_feed_42 : decode cX6_feed 42 = .ok (.bipush 8, 2) := sorry
theorem dX6_feed_44 : decode cX6_feed 44 = .ok (.if_icmp .ge 7, 3) := sorry
theorem dX6_feed_47 : decode cX6_feed 47 = .ok (.iload_n 2, 1) := sorry
theorem dX6_feed_48 : decode cX6_feed 48 = .ok (.goto 28, 3) := sorry
theorem dX6_feed_51 : decode cX6_feed 51 = .ok (.iload 6, 2) := sorry
theorem dX6_feed_53 : decode cX6_feed 53 = .ok (.bipush 12, 2) := sorry
theorem dX6_feed_55 : decode cX6_feed 55 = .ok (.if_icmp .ge 7, 3) := sorry
theorem dX6_feed_58 : decode cX6_feed 58 = .ok (.iload_n 3, 1) := sorry
theorem dX6_feed_59 : decode cX6_feed 59 = .ok (.goto 17, 3) := sorry
theorem dX6_feed_62 : decode cX6_feed 62 = .ok (.iload 6, 2) := sorry
theorem dX6_feed_64 : decode cX6_feed 64 = .ok (.bipush 16, 2) := sorry
theorem dX6_feed_66 : decode cX6_feed 66 = .ok (.if_icmp .ge 8, 3) := sorry
theorem dX6_feed_69 : decode cX6_feed 69 = .ok (.iload 4, 2) := sorry
theorem dX6_feed_71 : decode cX6_feed 71 = .ok (.goto 5, 3) := sorry
theorem dX6_feed_74 : decode cX6_feed 74 = .ok (.iload 5, 2) := sorry
theorem dX6_feed_76 : decode cX6_feed 76 = .ok (.istore 7, 2) := sorry
theorem dX6_feed_78 : decode cX6_feed 78 = .ok (.aload_n 0, 1) := sorry
theorem dX6_feed_79 : decode cX6_feed 79 = .ok (.getfield 47, 3) := sorry
theorem dX6_feed_82 : decode cX6_feed 82 = .ok (.aload_n 0, 1) := sorry
theorem dX6_feed_83 : decode cX6_feed 83 = .ok (.getfield 334, 3) := sorry
theorem dX6_feed_86 : decode cX6_feed 86 = .ok (.iload 7, 2) := sorry
theorem dX6_feed_88 : decode cX6_feed 88 = .ok (.bipush 24, 2) := sorry
theorem dX6_feed_90 : decode cX6_feed 90 = .ok (.bipush 8, 2) := sorry
theorem dX6_feed_92 : decode cX6_feed 92 = .ok (.iload 6, 2) := sorry
theorem dX6_feed_94 : decode cX6_feed 94 = .ok (.iconst 4, 1) := sorry
theorem dX6_feed_95 : decode cX6_feed 95 = .ok (.irem, 1) := sorry
theorem dX6_feed_96 : decode cX6_feed 96 = .ok (.imul, 1) := sorry
theorem dX6_feed_97 : decode cX6_feed 97 = .ok (.isub, 1) := sorry
theorem dX6_feed_98 : decode cX6_feed 98 = .ok (.ishr, 1) := sorry
theorem dX6_feed_99 : decode cX6_feed 99 = .ok (.sipush 255, 3) := sorry
theorem dX6_feed_102 : decode cX6_feed 102 = .ok (.iand, 1) := sorry
theorem dX6_feed_103 : decode cX6_feed 103 = .ok (.iastore, 1) := sorry
theorem dX6_feed_104 : decode cX6_feed 104 = .ok (.aload_n 0, 1) := sorry
theorem dX6_feed_105 : decode cX6_feed 105 = .ok (.dup, 1) := sorry
theorem dX6_feed_106 : decode cX6_feed 106 = .ok (.getfield 334, 3) := sorry
theorem dX6_feed_109 : decode cX6_feed 109 = .ok (.iconst 1, 1) := sorry
theorem dX6_feed_110 : decode cX6_feed 110 = .ok (.iadd, 1) := sorry
theorem dX6_feed_111 : decode cX6_feed 111 = .ok (.putfield 334, 3) := sorry
theorem dX6_feed_114 : decode cX6_feed 114 = .ok (.iinc 6 1, 3) := sorry
theorem dX6_feed_117 : decode cX6_feed 117 = .ok (.goto (-94), 3) := sorry
theorem dX6_feed_120 : decode cX6_feed 120 = .ok (.aload_n 0, 1) := sorry
theorem dX6_feed_121 : decode cX6_feed 121 = .ok (.getfield 334, 3) := sorry
theorem dX6_feed_124 : decode cX6_feed 124 = .ok (.ireturn, 1) := sorry
abbrev cX6_errorPosition : ByteArray := prog_17_method_102_code
def yX6_errorPosition : MethodName := ⟨RX6, "errorPosition", "()I"⟩
def dkwX6_errorPosition_0 : List UInt8 := [42, 3, 181, 0, 84, 42, 180, 0, 50, 172]
abbrev dktX6_errorPosition_0 : List UInt8 := dkwX6_errorPosition_0 ++ []
theorem dksX6_errorPosition_0 : cX6_errorPosition.data.toList.drop 0 = dktX6_errorPosition_0 := sorry
theorem dX6_errorPosition_0 : decode cX6_errorPosition 0 = .ok (.aload_n 0, 1) := sorry
theorem dX6_errorPosition_1 : decode cX6_errorPosition 1 = .ok (.iconst 0, 1) := sorry
theorem dX6_errorPosition_2 : decode cX6_errorPosition 2 = .ok (.putfield 84, 3) := sorry
theorem dX6_errorPosition_5 : decode cX6_errorPosition 5 = .ok (.aload_n 0, 1) := sorry
theorem dX6_errorPosition_6 : decode cX6_errorPosition 6 = .ok (.getfield 50, 3) := sorry
theorem dX6_errorPosition_9 : decode cX6_errorPosition 9 = .ok (.ireturn, 1) := sorry
abbrev cX6_load : ByteArray := prog_17_method_126_code
def yX6_load : MethodName := ⟨RX6, "load", "(I)I"⟩
def dkwX6_load_3 : List UInt8 := [182, 0, 95, 172]
abbrev dktX6_load_3 : List UInt8 := dkwX6_load_3 ++ []
def dkwX6_load_2 : List UInt8 := [180, 0, 13, 3, 42, 180, 0, 9, 3, 184, 1, 20, 42, 3, 181, 1, 71, 42, 3, 181, 1, 74, 42]
abbrev dktX6_load_2 : List UInt8 := dkwX6_load_2 ++ dktX6_load_3
def dkwX6_load_1 : List UInt8 := [172, 42, 27, 182, 1, 197, 42, 182, 1, 200, 154, 0, 11, 16, 246, 42, 180, 1, 102, 100, 172, 42]
abbrev dktX6_load_1 : List UInt8 := dkwX6_load_1 ++ dktX6_load_2
def dkwX6_load_0 : List UInt8 := [42, 3, 181, 0, 84, 27, 133, 9, 42, 180, 1, 78, 133, 184, 0, 220, 154, 0, 9, 42, 4, 182, 0, 227]
abbrev dktX6_load_0 : List UInt8 := dkwX6_load_0 ++ dktX6_load_1
theorem dksX6_load_0 : cX6_load.data.toList.drop 0 = dktX6_load_0 := sorry
theorem dksX6_load_1 : cX6_load.data.toList.drop 24 = dktX6_load_1 := sorry
theorem dksX6_load_2 : cX6_load.data.toList.drop 46 = dktX6_load_2 := sorry
theorem dksX6_load_3 : cX6_load.data.toList.drop 69 = dktX6_load_3 := sorry
theorem dX6_load_0 : decode cX6_load 0 = .ok (.aload_n 0, 1) := sorry
theorem dX6_load_1 : decode cX6_load 1 = .ok (.iconst 0, 1) := sorry
theorem dX6_load_2 : decode cX6_load 2 = .ok (.putfield 84, 3) := sorry
theorem dX6_load_5 : decode cX6_load 5 = .ok (.iload_n 1, 1) := sorry
theorem dX6_load_6 : decode cX6_load 6 = .ok (.i2l, 1) := sorry
theorem dX6_load_7 : decode cX6_load 7 = .ok (.lconst 0, 1) := sorry
theorem dX6_load_8 : decode cX6_load 8 = .ok (.aload_n 0, 1) := sorry
theorem dX6_load_9 : decode cX6_load 9 = .ok (.getfield 334, 3) := sorry
theorem dX6_load_12 : decode cX6_load 12 = .ok (.i2l, 1) := sorry
theorem dX6_load_13 : decode cX6_load 13 = .ok (.invokestatic 220, 3) := sorry
theorem dX6_load_16 : decode cX6_load 16 = .ok (.ifCond .ne 9, 3) := sorry
theorem dX6_load_19 : decode cX6_load 19 = .ok (.aload_n 0, 1) := sorry
theorem dX6_load_20 : decode cX6_load 20 = .ok (.iconst 1, 1) := sorry
theorem dX6_load_21 : decode cX6_load 21 = .ok (.invokevirtual 227, 3) := sorry
theorem dX6_load_24 : decode cX6_load 24 = .ok (.ireturn, 1) := sorry
theorem dX6_load_25 : decode cX6_load 25 = .ok (.aload_n 0, 1) := sorry
theorem dX6_load_26 : decode cX6_load 26 = .ok (.iload_n 1, 1) := sorry
theorem dX6_load_27 : decode cX6_load 27 = .ok (.invokevirtual 453, 3) := sorry
theorem dX6_load_30 : decode cX6_load 30 = .ok (.aload_n 0, 1) := sorry
theorem dX6_load_31 : decode cX6_load 31 = .ok (.invokevirtual 456, 3) := sorry
theorem dX6_load_34 : decode cX6_load 34 = .ok (.ifCond .ne 11, 3) := sorry
theorem dX6_load_37 : decode cX6_load 37 = .ok (.bipush (-10), 2) := sorry
theorem dX6_load_39 : decode cX6_load 39 = .ok (.aload_n 0, 1) := sorry
theorem dX6_load_40 : decode cX6_load 40 = .ok (.getfield 358, 3) := sorry
theorem dX6_load_43 : decode cX6_load 43 = .ok (.isub, 1) := sorry
theorem dX6_load_44 : decode cX6_load 44 = .ok (.ireturn, 1) := sorry
theorem dX6_load_45 : decode cX6_load 45 = .ok (.aload_n 0, 1) := sorry
theorem dX6_load_46 : decode cX6_load 46 = .ok (.getfield 13, 3) := sorry
theorem dX6_load_49 : decode cX6_load 49 = .ok (.iconst 0, 1) := sorry
theorem dX6_load_50 : decode cX6_load 50 = .ok (.aload_n 0, 1) := sorry
theorem dX6_load_51 : decode cX6_load 51 = .ok (.getfield 9, 3) := sorry
theorem dX6_load_54 : decode cX6_load 54 = .ok (.iconst 0, 1) := sorry
theorem dX6_load_55 : decode cX6_load 55 = .ok (.invokestatic 276, 3) := sorry
theorem dX6_load_58 : decode cX6_load 58 = .ok (.aload_n 0, 1) := sorry
theorem dX6_load_59 : decode cX6_load 59 = .ok (.iconst 0, 1) := sorry
theorem dX6_load_60 : decode cX6_load 60 = .ok (.putfield 327, 3) := sorry
theorem dX6_load_63 : decode cX6_load 63 = .ok (.aload_n 0, 1) := sorry
theorem dX6_load_64 : decode cX6_load 64 = .ok (.iconst 0, 1) := sorry
theorem dX6_load_65 : decode cX6_load 65 = .ok (.putfield 330, 3) := sorry
theorem dX6_load_68 : decode cX6_load 68 = .ok (.aload_n 0, 1) := sorry
theorem dX6_load_69 : decode cX6_load 69 = .ok (.invokevirtual 95, 3) := sorry
theorem dX6_load_72 : decode cX6_load 72 = .ok (.ireturn, 1) := sorry
abbrev cX6_startText : ByteArray := prog_17_method_107_code
def yX6_startText : MethodName := ⟨RX6, "startText", "(I)V"⟩
def dkwX6_startText_1 : List UInt8 := [177]
abbrev dktX6_startText_1 : List UInt8 := dkwX6_startText_1 ++ []
def dkwX6_startText_0 : List UInt8 := [42, 27, 181, 1, 81, 42, 3, 181, 1, 87, 42, 3, 181, 1, 102, 42, 3, 181, 1, 105, 42, 182, 1, 108]
abbrev dktX6_startText_0 : List UInt8 := dkwX6_startText_0 ++ dktX6_startText_1
theorem dksX6_startText_0 : cX6_startText.data.toList.drop 0 = dktX6_startText_0 := sorry
theorem dksX6_startText_1 : cX6_startText.data.toList.drop 24 = dktX6_startText_1 := sorry
theorem dX6_startText_0 : decode cX6_startText 0 = .ok (.aload_n 0, 1) := sorry
theorem dX6_startText_1 : decode cX6_startText 1 = .ok (.iload_n 1, 1) := sorry
theorem dX6_startText_2 : decode cX6_startText 2 = .ok (.putfield 337, 3) := sorry
theorem dX6_startText_5 : decode cX6_startText 5 = .ok (.aload_n 0, 1) := sorry
theorem dX6_startText_6 : decode cX6_startText 6 = .ok (.iconst 0, 1) := sorry
theorem dX6_startText_7 : decode cX6_startText 7 = .ok (.putfield 343, 3) := sorry
theorem dX6_startText_10 : decode cX6_startText 10 = .ok (.aload_n 0, 1) := sorry
theorem dX6_startText_11 : decode cX6_startText 11 = .ok (.iconst 0, 1) := sorry
theorem dX6_startText_12 : decode cX6_startText 12 = .ok (.putfield 358, 3) := sorry
theorem dX6_startText_15 : decode cX6_startText 15 = .ok (.aload_n 0, 1) := sorry
theorem dX6_startText_16 : decode cX6_startText 16 = .ok (.iconst 0, 1) := sorry
theorem dX6_startText_17 : decode cX6_startText 17 = .ok (.putfield 361, 3) := sorry
theorem dX6_startText_20 : decode cX6_startText 20 = .ok (.aload_n 0, 1) := sorry
theorem dX6_startText_21 : decode cX6_startText 21 = .ok (.invokevirtual 364, 3) := sorry
theorem dX6_startText_24 : decode cX6_startText 24 = .ok (.return_, 1) := sorry
abbrev cX6_scan : ByteArray := prog_17_method_106_code
def yX6_scan : MethodName := ⟨RX6, "scan", "()V"⟩
def dkwX6_scan_7 : List UInt8 := [181, 1, 93, 177]
abbrev dktX6_scan_7 : List UInt8 := dkwX6_scan_7 ++ []
def dkwX6_scan_6 : List UInt8 := [167, 255, 235, 42, 5, 181, 1, 93, 167, 0, 18, 42, 89, 180, 1, 87, 4, 96, 181, 1, 87, 42, 6]
abbrev dktX6_scan_6 : List UInt8 := dkwX6_scan_6 ++ dktX6_scan_7
def dkwX6_scan_5 : List UInt8 := [153, 0, 35, 42, 42, 180, 1, 87, 182, 1, 99, 153, 0, 16, 42, 89, 180, 1, 87, 4, 96, 181, 1, 87]
abbrev dktX6_scan_5 : List UInt8 := dkwX6_scan_5 ++ dktX6_scan_6
def dkwX6_scan_4 : List UInt8 := [181, 1, 87, 167, 255, 235, 42, 4, 181, 1, 93, 167, 0, 61, 42, 42, 180, 1, 87, 182, 1, 99]
abbrev dktX6_scan_4 : List UInt8 := dkwX6_scan_4 ++ dktX6_scan_5
def dkwX6_scan_3 : List UInt8 := [182, 1, 96, 153, 0, 35, 42, 42, 180, 1, 87, 182, 1, 96, 153, 0, 16, 42, 89, 180, 1, 87, 4, 96]
abbrev dktX6_scan_3 : List UInt8 := dkwX6_scan_3 ++ dktX6_scan_4
def dkwX6_scan_2 : List UInt8 := [42, 180, 1, 87, 42, 180, 1, 81, 161, 0, 11, 42, 3, 181, 1, 93, 167, 0, 104, 42, 42, 180, 1, 87]
abbrev dktX6_scan_2 : List UInt8 := dkwX6_scan_2 ++ dktX6_scan_3
def dkwX6_scan_1 : List UInt8 := [160, 0, 16, 42, 89, 180, 1, 87, 4, 96, 181, 1, 87, 167, 255, 220, 42, 42, 180, 1, 87, 181, 1, 90]
abbrev dktX6_scan_1 : List UInt8 := dkwX6_scan_1 ++ dktX6_scan_2
def dkwX6_scan_0 : List UInt8 := [42, 42, 180, 1, 87, 182, 1, 84, 16, 32, 159, 0, 16, 42, 42, 180, 1, 87, 182, 1, 84, 16, 10]
abbrev dktX6_scan_0 : List UInt8 := dkwX6_scan_0 ++ dktX6_scan_1
theorem dksX6_scan_0 : cX6_scan.data.toList.drop 0 = dktX6_scan_0 := sorry
theorem dksX6_scan_1 : cX6_scan.data.toList.drop 23 = dktX6_scan_1 := sorry
theorem dksX6_scan_2 : cX6_scan.data.toList.drop 47 = dktX6_scan_2 := sorry
theorem dksX6_scan_3 : cX6_scan.data.toList.drop 71 = dktX6_scan_3 := sorry
theorem dksX6_scan_4 : cX6_scan.data.toList.drop 95 = dktX6_scan_4 := sorry
theorem dksX6_scan_5 : cX6_scan.data.toList.drop 117 = dktX6_scan_5 := sorry
theorem dksX6_scan_6 : cX6_scan.data.toList.drop 141 = dktX6_scan_6 := sorry
theorem dksX6_scan_7 : cX6_scan.data.toList.drop 164 = dktX6_scan_7 := sorry
theorem dX6_scan_0 : decode cX6_scan 0 = .ok (.aload_n 0, 1) := sorry
theorem dX6_scan_1 : decode cX6_scan 1 = .ok (.aload_n 0, 1) := sorry
theorem dX6_scan_2 : decode cX6_scan 2 = .ok (.getfield 343, 3) := sorry
theorem dX6_scan_5 : decode cX6_scan 5 = .ok (.invokevirtual 340, 3) := sorry
theorem dX6_scan_8 : decode cX6_scan 8 = .ok (.bipush 32, 2) := sorry
theorem dX6_scan_10 : decode cX6_scan 10 = .ok (.if_icmp .eq 16, 3) := sorry
theorem dX6_scan_13 : decode cX6_scan 13 = .ok (.aload_n 0, 1) := sorry
theorem dX6_scan_14 : decode cX6_scan 14 = .ok (.aload_n 0, 1) := sorry
theorem dX6_scan_15 : decode cX6_scan 15 = .ok (.getfield 343, 3) := sorry
theorem dX6_scan_18 : decode cX6_scan 18 = .ok (.invokevirtual 340, 3) := sorry
theorem dX6_scan_21 : decode cX6_scan 21 = .ok (.bipush 10, 2) := sorry
theorem dX6_scan_23 : decode cX6_scan 23 = .ok (.if_icmp .ne 16, 3) := sorry
theorem dX6_scan_26 : decode cX6_scan 26 = .ok (.aload_n 0, 1) := sorry
theorem dX6_scan_27 : decode cX6_scan 27 = .ok (.dup, 1) := sorry
theorem dX6_scan_28 : decode cX6_scan 28 = .ok (.getfield 343, 3) := sorry
theorem dX6_scan_31 : decode cX6_scan 31 = .ok (.iconst 1, 1) := sorry
theorem dX6_scan_32 : decode cX6_scan 32 = .ok (.iadd, 1) := sorry
theorem dX6_scan_33 : decode cX6_scan 33 = .ok (.putfield 343, 3) := sorry
theorem dX6_scan_36 : decode cX6_scan 36 = .ok (.goto (-36), 3) := sorry
theorem dX6_scan_39 : decode cX6_scan 39 = .ok (.aload_n 0, 1) := sorry
theorem dX6_scan_40 : decode cX6_scan 40 = .ok (.aload_n 0, 1) := sorry
theorem dX6_scan_41 : decode cX6_scan 41 = .ok (.getfield 343, 3) := sorry
theorem dX6_scan_44 : decode cX6_scan 44 = .ok (.putfield 346, 3) := sorry
theorem dX6_scan_47 : decode cX6_scan 47 = .ok (.aload_n 0, 1) := sorry
theorem dX6_scan_48 : decode cX6_scan 48 = .ok (.getfield 343, 3) := sorry
theorem dX6_scan_51 : decode cX6_scan 51 = .ok (.aload_n 0, 1) := sorry
theorem dX6_scan_52 : decode cX6_scan 52 = .ok (.getfield 337, 3) := sorry
theorem dX6_scan_55 : decode cX6_scan 55 = .ok (.if_icmp .lt 11, 3) := sorry
theorem dX6_scan_58 : decode cX6_scan 58 = .ok (.aload_n 0, 1) := sorry
theorem dX6_scan_59 : decode cX6_scan 59 = .ok (.iconst 0, 1) := sorry
theorem dX6_scan_60 : decode cX6_scan 60 = .ok (.putfield 349, 3) := sorry
theorem dX6_scan_63 : decode cX6_scan 63 = .ok (.goto 104, 3) := sorry
theorem dX6_scan_66 : decode cX6_scan 66 = .ok (.aload_n 0, 1) := sorry
theorem dX6_scan_67 : decode cX6_scan 67 = .ok (.aload_n 0, 1) := sorry
theorem dX6_scan_68 : decode cX6_scan 68 = .ok (.getfield 343, 3) := sorry
theorem dX6_scan_71 : decode cX6_scan 71 = .ok (.invokevirtual 352, 3) := sorry
theorem dX6_scan_74 : decode cX6_scan 74 = .ok (.ifCond .eq 35, 3) := sorry
theorem dX6_scan_77 : decode cX6_scan 77 = .ok (.aload_n 0, 1) := sorry
theorem dX6_scan_78 : decode cX6_scan 78 = .ok (.aload_n 0, 1) := sorry
theorem dX6_scan_79 : decode cX6_scan 79 = .ok (.getfield 343, 3) := sorry
theorem dX6_scan_82 : decode cX6_scan 82 = .ok (.invokevirtual 352, 3) := sorry
theorem dX6_scan_85 : decode cX6_scan 85 = .ok (.ifCond .eq 16, 3) := sorry
theorem dX6_scan_88 : decode cX6_scan 88 = .ok (.aload_n 0, 1) := sorry
theorem dX6_scan_89 : decode cX6_scan 89 = .ok (.dup, 1) := sorry
theorem dX6_scan_90 : decode cX6_scan 90 = .ok (.getfield 343, 3) := sorry
theorem dX6_scan_93 : decode cX6_scan 93 = .ok (.iconst 1, 1) := sorry
theorem dX6_scan_94 : decode cX6_scan 94 = .ok (.iadd, 1) := sorry
theorem dX6_scan_95 : decode cX6_scan 95 = .ok (.putfield 343, 3) := sorry
theorem dX6_scan_98 : decode cX6_scan 98 = .ok (.goto (-21), 3) := sorry
theorem dX6_scan_101 : decode cX6_scan 101 = .ok (.aload_n 0, 1) := sorry
theorem dX6_scan_102 : decode cX6_scan 102 = .ok (.iconst 1, 1) := sorry
theorem dX6_scan_103 : decode cX6_scan 103 = .ok (.putfield 349, 3) := sorry
theorem dX6_scan_106 : decode cX6_scan 106 = .ok (.goto 61, 3) := sorry
theorem dX6_scan_109 : decode cX6_scan 109 = .ok (.aload_n 0, 1) := sorry
theorem dX6_scan_110 : decode cX6_scan 110 = .ok (.aload_n 0, 1) := sorry
theorem dX6_scan_111 : decode cX6_scan 111 = .ok (.getfield 343, 3) := sorry
theorem dX6_scan_114 : decode cX6_scan 114 = .ok (.invokevirtual 355, 3) := sorry
theorem dX6_scan_117 : decode cX6_scan 117 = .ok (.ifCond .eq 35, 3) := sorry
theorem dX6_scan_120 : decode cX6_scan 120 = .ok (.aload_n 0, 1) := sorry
theorem dX6_scan_121 : decode cX6_scan 121 = .ok (.aload_n 0, 1) := sorry
theorem dX6_scan_122 : decode cX6_scan 122 = .ok (.getfield 343, 3) := sorry
theorem dX6_scan_125 : decode cX6_scan 125 = .ok (.invokevirtual 355, 3) := sorry
theorem dX6_scan_128 : decode cX6_scan 128 = .ok (.ifCond .eq 16, 3) := sorry
theorem dX6_scan_131 : decode cX6_scan 131 = .ok (.aload_n 0, 1) := sorry
theorem dX6_scan_132 : decode cX6_scan 132 = .ok (.dup, 1) := sorry
theorem dX6_scan_133 : decode cX6_scan 133 = .ok (.getfield 343, 3) := sorry
theorem dX6_scan_136 : decode cX6_scan 136 = .ok (.iconst 1, 1) := sorry
theorem dX6_scan_137 : decode cX6_scan 137 = .ok (.iadd, 1) := sorry
theorem dX6_scan_138 : decode cX6_scan 138 = .ok (.putfield 343, 3) := sorry
theorem dX6_scan_141 : decode cX6_scan 141 = .ok (.goto (-21), 3) := sorry
theorem dX6_scan_144 : decode cX6_scan 144 = .ok (.aload_n 0, 1) := sorry
theorem dX6_scan_145 : decode cX6_scan 145 = .ok (.iconst 2, 1) := sorry
theorem dX6_scan_146 : decode cX6_scan 146 = .ok (.putfield 349, 3) := sorry
theorem dX6_scan_149 : decode cX6_scan 149 = .ok (.goto 18, 3) := sorry
theorem dX6_scan_152 : decode cX6_scan 152 = .ok (.aload_n 0, 1) := sorry
theorem dX6_scan_153 : decode cX6_scan 153 = .ok (.dup, 1) := sorry
theorem dX6_scan_154 : decode cX6_scan 154 = .ok (.getfield 343, 3) := sorry
theorem dX6_scan_157 : decode cX6_scan 157 = .ok (.iconst 1, 1) := sorry
theorem dX6_scan_158 : decode cX6_scan 158 = .ok (.iadd, 1) := sorry
theorem dX6_scan_159 : decode cX6_scan 159 = .ok (.putfield 343, 3) := sorry
theorem dX6_scan_162 : decode cX6_scan 162 = .ok (.aload_n 0, 1) := sorry
theorem dX6_scan_163 : decode cX6_scan 163 = .ok (.iconst 3, 1) := sorry
theorem dX6_scan_164 : decode cX6_scan 164 = .ok (.putfield 349, 3) := sorry
theorem dX6_scan_167 : decode cX6_scan 167 = .ok (.return_, 1) := sorry
abbrev cX6_byteAt : ByteArray := prog_17_method_103_code
def yX6_byteAt : MethodName := ⟨RX6, "byteAt", "(I)I"⟩
def dkwX6_byteAt_0 : List UInt8 := [27, 42, 180, 1, 81, 162, 0, 12, 42, 180, 0, 47, 27, 46, 167, 0, 4, 2, 172]
abbrev dktX6_byteAt_0 : List UInt8 := dkwX6_byteAt_0 ++ []
theorem dksX6_byteAt_0 : cX6_byteAt.data.toList.drop 0 = dktX6_byteAt_0 := sorry
theorem dX6_byteAt_0 : decode cX6_byteAt 0 = .ok (.iload_n 1, 1) := sorry
theorem dX6_byteAt_1 : decode cX6_byteAt 1 = .ok (.aload_n 0, 1) := sorry
theorem dX6_byteAt_2 : decode cX6_byteAt 2 = .ok (.getfield 337, 3) := sorry
theorem dX6_byteAt_5 : decode cX6_byteAt 5 = .ok (.if_icmp .ge 12, 3) := sorry
theorem dX6_byteAt_8 : decode cX6_byteAt 8 = .ok (.aload_n 0, 1) := sorry
theorem dX6_byteAt_9 : decode cX6_byteAt 9 = .ok (.getfield 47, 3) := sorry
theorem dX6_byteAt_12 : decode cX6_byteAt 12 = .ok (.iload_n 1, 1) := sorry
theorem dX6_byteAt_13 : decode cX6_byteAt 13 = .ok (.iaload, 1) := sorry
theorem dX6_byteAt_14 : decode cX6_byteAt 14 = .ok (.goto 4, 3) := sorry
theorem dX6_byteAt_17 : decode cX6_byteAt 17 = .ok (.iconst (-1), 1) := sorry
theorem dX6_byteAt_18 : decode cX6_byteAt 18 = .ok (.ireturn, 1) := sorry
abbrev cX6_isLetter : ByteArray := prog_17_method_104_code
def yX6_isLetter : MethodName := ⟨RX6, "isLetter", "(I)Z"⟩
def dkwX6_isLetter_1 : List UInt8 := [3, 172]
abbrev dktX6_isLetter_1 : List UInt8 := dkwX6_isLetter_1 ++ []
def dkwX6_isLetter_0 : List UInt8 := [42, 27, 182, 1, 84, 16, 97, 161, 0, 17, 42, 27, 182, 1, 84, 16, 122, 163, 0, 7, 4, 167, 0, 4]
abbrev dktX6_isLetter_0 : List UInt8 := dkwX6_isLetter_0 ++ dktX6_isLetter_1
theorem dksX6_isLetter_0 : cX6_isLetter.data.toList.drop 0 = dktX6_isLetter_0 := sorry
theorem dksX6_isLetter_1 : cX6_isLetter.data.toList.drop 24 = dktX6_isLetter_1 := sorry
theorem dX6_isLetter_0 : decode cX6_isLetter 0 = .ok (.aload_n 0, 1) := sorry
theorem dX6_isLetter_1 : decode cX6_isLetter 1 = .ok (.iload_n 1, 1) := sorry
theorem dX6_isLetter_2 : decode cX6_isLetter 2 = .ok (.invokevirtual 340, 3) := sorry
theorem dX6_isLetter_5 : decode cX6_isLetter 5 = .ok (.bipush 97, 2) := sorry
theorem dX6_isLetter_7 : decode cX6_isLetter 7 = .ok (.if_icmp .lt 17, 3) := sorry
theorem dX6_isLetter_10 : decode cX6_isLetter 10 = .ok (.aload_n 0, 1) := sorry
theorem dX6_isLetter_11 : decode cX6_isLetter 11 = .ok (.iload_n 1, 1) := sorry
theorem dX6_isLetter_12 : decode cX6_isLetter 12 = .ok (.invokevirtual 340, 3) := sorry
theorem dX6_isLetter_15 : decode cX6_isLetter 15 = .ok (.bipush 122, 2) := sorry
theorem dX6_isLetter_17 : decode cX6_isLetter 17 = .ok (.if_icmp .gt 7, 3) := sorry
theorem dX6_isLetter_20 : decode cX6_isLetter 20 = .ok (.iconst 1, 1) := sorry
theorem dX6_isLetter_21 : decode cX6_isLetter 21 = .ok (.goto 4, 3) := sorry
theorem dX6_isLetter_24 : decode cX6_isLetter 24 = .ok (.iconst 0, 1) := sorry
theorem dX6_isLetter_25 : decode cX6_isLetter 25 = .ok (.ireturn, 1) := sorry
abbrev cX6_isDigit : ByteArray := prog_17_method_105_code
def yX6_isDigit : MethodName := ⟨RX6, "isDigit", "(I)Z"⟩
def dkwX6_isDigit_1 : List UInt8 := [3, 172]
abbrev dktX6_isDigit_1 : List UInt8 := dkwX6_isDigit_1 ++ []
def dkwX6_isDigit_0 : List UInt8 := [42, 27, 182, 1, 84, 16, 48, 161, 0, 17, 42, 27, 182, 1, 84, 16, 57, 163, 0, 7, 4, 167, 0, 4]
abbrev dktX6_isDigit_0 : List UInt8 := dkwX6_isDigit_0 ++ dktX6_isDigit_1
theorem dksX6_isDigit_0 : cX6_isDigit.data.toList.drop 0 = dktX6_isDigit_0 := sorry
theorem dksX6_isDigit_1 : cX6_isDigit.data.toList.drop 24 = dktX6_isDigit_1 := sorry
theorem dX6_isDigit_0 : decode cX6_isDigit 0 = .ok (.aload_n 0, 1) := sorry
theorem dX6_isDigit_1 : decode cX6_isDigit 1 = .ok (.iload_n 1, 1) := sorry
theorem dX6_isDigit_2 : decode cX6_isDigit 2 = .ok (.invokevirtual 340, 3) := sorry
theorem dX6_isDigit_5 : decode cX6_isDigit 5 = .ok (.bipush 48, 2) := sorry
theorem dX6_isDigit_7 : decode cX6_isDigit 7 = .ok (.if_icmp .lt 17, 3) := sorry
theorem dX6_isDigit_10 : decode cX6_isDigit 10 = .ok (.aload_n 0, 1) := sorry
theorem dX6_isDigit_11 : decode cX6_isDigit 11 = .ok (.iload_n 1, 1) := sorry
theorem dX6_isDigit_12 : decode cX6_isDigit 12 = .ok (.invokevirtual 340, 3) := sorry
theorem dX6_isDigit_15 : decode cX6_isDigit 15 = .ok (.bipush 57, 2) := sorry
theorem dX6_isDigit_17 : decode cX6_isDigit 17 = .ok (.if_icmp .gt 7, 3) := sorry
theorem dX6_isDigit_20 : decode cX6_isDigit 20 = .ok (.iconst 1, 1) := sorry
theorem dX6_isDigit_21 : decode cX6_isDigit 21 = .ok (.goto 4, 3) := sorry
theorem dX6_isDigit_24 : decode cX6_isDigit 24 = .ok (.iconst 0, 1) := sorry
theorem dX6_isDigit_25 : decode cX6_isDigit 25 = .ok (.ireturn, 1) := sorry
abbrev cX6_readText : ByteArray := prog_17_method_125_code
def yX6_readText : MethodName := ⟨RX6, "readText", "()Z"⟩
def dkwX6_readText_3 : List UInt8 := [153, 0, 7, 4, 167, 0, 4, 3, 172]
abbrev dktX6_readText_3 : List UInt8 := dkwX6_readText_3 ++ []
def dkwX6_readText_2 : List UInt8 := [4, 167, 0, 4, 3, 60, 42, 42, 180, 0, 9, 181, 0, 25, 42, 182, 1, 194, 154, 0, 11, 27]
abbrev dktX6_readText_2 : List UInt8 := dkwX6_readText_2 ++ dktX6_readText_3
def dkwX6_readText_1 : List UInt8 := [153, 0, 10, 42, 182, 1, 191, 167, 255, 238, 42, 180, 1, 102, 154, 0, 14, 42, 182, 0, 80, 153, 0, 7]
abbrev dktX6_readText_1 : List UInt8 := dkwX6_readText_1 ++ dktX6_readText_2
def dkwX6_readText_0 : List UInt8 := [42, 42, 180, 0, 13, 181, 0, 25, 42, 182, 1, 188, 42, 180, 1, 102, 154, 0, 17, 42, 180, 1, 93]
abbrev dktX6_readText_0 : List UInt8 := dkwX6_readText_0 ++ dktX6_readText_1
theorem dksX6_readText_0 : cX6_readText.data.toList.drop 0 = dktX6_readText_0 := sorry
theorem dksX6_readText_1 : cX6_readText.data.toList.drop 23 = dktX6_readText_1 := sorry
theorem dksX6_readText_2 : cX6_readText.data.toList.drop 47 = dktX6_readText_2 := sorry
theorem dksX6_readText_3 : cX6_readText.data.toList.drop 69 = dktX6_readText_3 := sorry
theorem dX6_readText_0 : decode cX6_readText 0 = .ok (.aload_n 0, 1) := sorry
theorem dX6_readText_1 : decode cX6_readText 1 = .ok (.aload_n 0, 1) := sorry
theorem dX6_readText_2 : decode cX6_readText 2 = .ok (.getfield 13, 3) := sorry
theorem dX6_readText_5 : decode cX6_readText 5 = .ok (.putfield 25, 3) := sorry
theorem dX6_readText_8 : decode cX6_readText 8 = .ok (.aload_n 0, 1) := sorry
theorem dX6_readText_9 : decode cX6_readText 9 = .ok (.invokevirtual 444, 3) := sorry
theorem dX6_readText_12 : decode cX6_readText 12 = .ok (.aload_n 0, 1) := sorry
theorem dX6_readText_13 : decode cX6_readText 13 = .ok (.getfield 358, 3) := sorry
theorem dX6_readText_16 : decode cX6_readText 16 = .ok (.ifCond .ne 17, 3) := sorry
theorem dX6_readText_19 : decode cX6_readText 19 = .ok (.aload_n 0, 1) := sorry
theorem dX6_readText_20 : decode cX6_readText 20 = .ok (.getfield 349, 3) := sorry
theorem dX6_readText_23 : decode cX6_readText 23 = .ok (.ifCond .eq 10, 3) := sorry
theorem dX6_readText_26 : decode cX6_readText 26 = .ok (.aload_n 0, 1) := sorry
theorem dX6_readText_27 : decode cX6_readText 27 = .ok (.invokevirtual 447, 3) := sorry
theorem dX6_readText_30 : decode cX6_readText 30 = .ok (.goto (-18), 3) := sorry
theorem dX6_readText_33 : decode cX6_readText 33 = .ok (.aload_n 0, 1) := sorry
theorem dX6_readText_34 : decode cX6_readText 34 = .ok (.getfield 358, 3) := sorry
theorem dX6_readText_37 : decode cX6_readText 37 = .ok (.ifCond .ne 14, 3) := sorry
theorem dX6_readText_40 : decode cX6_readText 40 = .ok (.aload_n 0, 1) := sorry
theorem dX6_readText_41 : decode cX6_readText 41 = .ok (.invokevirtual 80, 3) := sorry
theorem dX6_readText_44 : decode cX6_readText 44 = .ok (.ifCond .eq 7, 3) := sorry
theorem dX6_readText_47 : decode cX6_readText 47 = .ok (.iconst 1, 1) := sorry
theorem dX6_readText_48 : decode cX6_readText 48 = .ok (.goto 4, 3) := sorry
theorem dX6_readText_51 : decode cX6_readText 51 = .ok (.iconst 0, 1) := sorry
theorem dX6_readText_52 : decode cX6_readText 52 = .ok (.istore_n 1, 1) := sorry
theorem dX6_readText_53 : decode cX6_readText 53 = .ok (.aload_n 0, 1) := sorry
theorem dX6_readText_54 : decode cX6_readText 54 = .ok (.aload_n 0, 1) := sorry
theorem dX6_readText_55 : decode cX6_readText 55 = .ok (.getfield 9, 3) := sorry
theorem dX6_readText_58 : decode cX6_readText 58 = .ok (.putfield 25, 3) := sorry
theorem dX6_readText_61 : decode cX6_readText 61 = .ok (.aload_n 0, 1) := sorry
theorem dX6_readText_62 : decode cX6_readText 62 = .ok (.invokevirtual 450, 3) := sorry
theorem dX6_readText_65 : decode cX6_readText 65 = .ok (.ifCond .ne 11, 3) := sorry
theorem dX6_readText_68 : decode cX6_readText 68 = .ok (.iload_n 1, 1) := sorry
theorem dX6_readText_69 : decode cX6_readText 69 = .ok (.ifCond .eq 7, 3) := sorry
theorem dX6_readText_72 : decode cX6_readText 72 = .ok (.iconst 1, 1) := sorry
theorem dX6_readText_73 : decode cX6_readText 73 = .ok (.goto 4, 3) := sorry
theorem dX6_readText_76 : decode cX6_readText 76 = .ok (.iconst 0, 1) := sorry
theorem dX6_readText_77 : decode cX6_readText 77 = .ok (.ireturn, 1) := sorry
abbrev cX6_readOrder : ByteArray := prog_17_method_124_code
def yX6_readOrder : MethodName := ⟨RX6, "readOrder", "()V"⟩
def dkwX6_readOrder_1 : List UInt8 := [154, 0, 7, 27, 167, 0, 4, 5, 184, 0, 76, 42, 16, 59, 182, 1, 183, 177]
abbrev dktX6_readOrder_1 : List UInt8 := dkwX6_readOrder_1 ++ []
def dkwX6_readOrder_0 : List UInt8 := [42, 19, 1, 186, 182, 1, 160, 42, 5, 16, 6, 182, 1, 145, 60, 42, 180, 0, 13, 42, 180, 1, 102]
abbrev dktX6_readOrder_0 : List UInt8 := dkwX6_readOrder_0 ++ dktX6_readOrder_1
theorem dksX6_readOrder_0 : cX6_readOrder.data.toList.drop 0 = dktX6_readOrder_0 := sorry
theorem dksX6_readOrder_1 : cX6_readOrder.data.toList.drop 23 = dktX6_readOrder_1 := sorry
theorem dX6_readOrder_0 : decode cX6_readOrder 0 = .ok (.aload_n 0, 1) := sorry
theorem dX6_readOrder_1 : decode cX6_readOrder 1 = .ok (.ldc_w 442, 3) := sorry
theorem dX6_readOrder_4 : decode cX6_readOrder 4 = .ok (.invokevirtual 416, 3) := sorry
theorem dX6_readOrder_7 : decode cX6_readOrder 7 = .ok (.aload_n 0, 1) := sorry
theorem dX6_readOrder_8 : decode cX6_readOrder 8 = .ok (.iconst 2, 1) := sorry
theorem dX6_readOrder_9 : decode cX6_readOrder 9 = .ok (.bipush 6, 2) := sorry
theorem dX6_readOrder_11 : decode cX6_readOrder 11 = .ok (.invokevirtual 401, 3) := sorry
theorem dX6_readOrder_14 : decode cX6_readOrder 14 = .ok (.istore_n 1, 1) := sorry
theorem dX6_readOrder_15 : decode cX6_readOrder 15 = .ok (.aload_n 0, 1) := sorry
theorem dX6_readOrder_16 : decode cX6_readOrder 16 = .ok (.getfield 13, 3) := sorry
theorem dX6_readOrder_19 : decode cX6_readOrder 19 = .ok (.aload_n 0, 1) := sorry
theorem dX6_readOrder_20 : decode cX6_readOrder 20 = .ok (.getfield 358, 3) := sorry
theorem dX6_readOrder_23 : decode cX6_readOrder 23 = .ok (.ifCond .ne 7, 3) := sorry
theorem dX6_readOrder_26 : decode cX6_readOrder 26 = .ok (.iload_n 1, 1) := sorry
theorem dX6_readOrder_27 : decode cX6_readOrder 27 = .ok (.goto 4, 3) := sorry
theorem dX6_readOrder_30 : decode cX6_readOrder 30 = .ok (.iconst 2, 1) := sorry
theorem dX6_readOrder_31 : decode cX6_readOrder 31 = .ok (.invokestatic 76, 3) := sorry
theorem dX6_readOrder_34 : decode cX6_readOrder 34 = .ok (.aload_n 0, 1) := sorry
theorem dX6_readOrder_35 : decode cX6_readOrder 35 = .ok (.bipush 59, 2) := sorry
theorem dX6_readOrder_37 : decode cX6_readOrder 37 = .ok (.invokevirtual 439, 3) := sorry
theorem dX6_readOrder_40 : decode cX6_readOrder 40 = .ok (.return_, 1) := sorry
abbrev cX6_expectWord : ByteArray := prog_17_method_115_code
def yX6_expectWord : MethodName := ⟨RX6, "expectWord", "(Ljava/lang/String;)V"⟩
def dkwX6_expectWord_0 : List UInt8 := [42, 42, 43, 182, 1, 124, 4, 182, 1, 128, 42, 182, 1, 132, 177]
abbrev dktX6_expectWord_0 : List UInt8 := dkwX6_expectWord_0 ++ []
theorem dksX6_expectWord_0 : cX6_expectWord.data.toList.drop 0 = dktX6_expectWord_0 := sorry
theorem dX6_expectWord_0 : decode cX6_expectWord 0 = .ok (.aload_n 0, 1) := sorry
theorem dX6_expectWord_1 : decode cX6_expectWord 1 = .ok (.aload_n 0, 1) := sorry
theorem dX6_expectWord_2 : decode cX6_expectWord 2 = .ok (.aload_n 1, 1) := sorry
theorem dX6_expectWord_3 : decode cX6_expectWord 3 = .ok (.invokevirtual 380, 3) := sorry
theorem dX6_expectWord_6 : decode cX6_expectWord 6 = .ok (.iconst 1, 1) := sorry
theorem dX6_expectWord_7 : decode cX6_expectWord 7 = .ok (.invokevirtual 384, 3) := sorry
theorem dX6_expectWord_10 : decode cX6_expectWord 10 = .ok (.aload_n 0, 1) := sorry
theorem dX6_expectWord_11 : decode cX6_expectWord 11 = .ok (.invokevirtual 388, 3) := sorry
theorem dX6_expectWord_14 : decode cX6_expectWord 14 = .ok (.return_, 1) := sorry
abbrev cX6_isWord : ByteArray := prog_17_method_113_code
def yX6_isWord : MethodName := ⟨RX6, "isWord", "(Ljava/lang/String;)Z"⟩
def dkwX6_isWord_3 : List UInt8 := [167, 0, 4, 3, 61, 132, 3, 1, 167, 255, 216, 28, 172]
abbrev dktX6_isWord_3 : List UInt8 := dkwX6_isWord_3 ++ []
def dkwX6_isWord_2 : List UInt8 := [162, 0, 34, 43, 29, 182, 1, 120, 42, 180, 0, 47, 42, 180, 1, 90, 29, 96, 46, 160, 0, 7, 4]
abbrev dktX6_isWord_2 : List UInt8 := dkwX6_isWord_2 ++ dktX6_isWord_3
def dkwX6_isWord_1 : List UInt8 := [180, 1, 90, 100, 160, 0, 7, 4, 167, 0, 4, 3, 61, 3, 62, 28, 153, 0, 42, 29, 43, 182, 1, 117]
abbrev dktX6_isWord_1 : List UInt8 := dkwX6_isWord_1 ++ dktX6_isWord_2
def dkwX6_isWord_0 : List UInt8 := [42, 180, 1, 102, 154, 0, 31, 42, 180, 1, 93, 4, 160, 0, 23, 43, 182, 1, 117, 42, 180, 1, 87, 42]
abbrev dktX6_isWord_0 : List UInt8 := dkwX6_isWord_0 ++ dktX6_isWord_1
theorem dksX6_isWord_0 : cX6_isWord.data.toList.drop 0 = dktX6_isWord_0 := sorry
theorem dksX6_isWord_1 : cX6_isWord.data.toList.drop 24 = dktX6_isWord_1 := sorry
theorem dksX6_isWord_2 : cX6_isWord.data.toList.drop 48 = dktX6_isWord_2 := sorry
theorem dksX6_isWord_3 : cX6_isWord.data.toList.drop 71 = dktX6_isWord_3 := sorry
theorem dX6_isWord_0 : decode cX6_isWord 0 = .ok (.aload_n 0, 1) := sorry
theorem dX6_isWord_1 : decode cX6_isWord 1 = .ok (.getfield 358, 3) := sorry
theorem dX6_isWord_4 : decode cX6_isWord 4 = .ok (.ifCond .ne 31, 3) := sorry
theorem dX6_isWord_7 : decode cX6_isWord 7 = .ok (.aload_n 0, 1) := sorry
theorem dX6_isWord_8 : decode cX6_isWord 8 = .ok (.getfield 349, 3) := sorry
theorem dX6_isWord_11 : decode cX6_isWord 11 = .ok (.iconst 1, 1) := sorry
theorem dX6_isWord_12 : decode cX6_isWord 12 = .ok (.if_icmp .ne 23, 3) := sorry
theorem dX6_isWord_15 : decode cX6_isWord 15 = .ok (.aload_n 1, 1) := sorry
theorem dX6_isWord_16 : decode cX6_isWord 16 = .ok (.invokevirtual 373, 3) := sorry
theorem dX6_isWord_19 : decode cX6_isWord 19 = .ok (.aload_n 0, 1) := sorry
theorem dX6_isWord_20 : decode cX6_isWord 20 = .ok (.getfield 343, 3) := sorry
theorem dX6_isWord_23 : decode cX6_isWord 23 = .ok (.aload_n 0, 1) := sorry
theorem dX6_isWord_24 : decode cX6_isWord 24 = .ok (.getfield 346, 3) := sorry
theorem dX6_isWord_27 : decode cX6_isWord 27 = .ok (.isub, 1) := sorry
theorem dX6_isWord_28 : decode cX6_isWord 28 = .ok (.if_icmp .ne 7, 3) := sorry
theorem dX6_isWord_31 : decode cX6_isWord 31 = .ok (.iconst 1, 1) := sorry
theorem dX6_isWord_32 : decode cX6_isWord 32 = .ok (.goto 4, 3) := sorry
theorem dX6_isWord_35 : decode cX6_isWord 35 = .ok (.iconst 0, 1) := sorry
theorem dX6_isWord_36 : decode cX6_isWord 36 = .ok (.istore_n 2, 1) := sorry
theorem dX6_isWord_37 : decode cX6_isWord 37 = .ok (.iconst 0, 1) := sorry
theorem dX6_isWord_38 : decode cX6_isWord 38 = .ok (.istore_n 3, 1) := sorry
theorem dX6_isWord_39 : decode cX6_isWord 39 = .ok (.iload_n 2, 1) := sorry
theorem dX6_isWord_40 : decode cX6_isWord 40 = .ok (.ifCond .eq 42, 3) := sorry
theorem dX6_isWord_43 : decode cX6_isWord 43 = .ok (.iload_n 3, 1) := sorry
theorem dX6_isWord_44 : decode cX6_isWord 44 = .ok (.aload_n 1, 1) := sorry
theorem dX6_isWord_45 : decode cX6_isWord 45 = .ok (.invokevirtual 373, 3) := sorry
theorem dX6_isWord_48 : decode cX6_isWord 48 = .ok (.if_icmp .ge 34, 3) := sorry
theorem dX6_isWord_51 : decode cX6_isWord 51 = .ok (.aload_n 1, 1) := sorry
theorem dX6_isWord_52 : decode cX6_isWord 52 = .ok (.iload_n 3, 1) := sorry
theorem dX6_isWord_53 : decode cX6_isWord 53 = .ok (.invokevirtual 376, 3) := sorry
theorem dX6_isWord_56 : decode cX6_isWord 56 = .ok (.aload_n 0, 1) := sorry
theorem dX6_isWord_57 : decode cX6_isWord 57 = .ok (.getfield 47, 3) := sorry
theorem dX6_isWord_60 : decode cX6_isWord 60 = .ok (.aload_n 0, 1) := sorry
theorem dX6_isWord_61 : decode cX6_isWord 61 = .ok (.getfield 346, 3) := sorry
theorem dX6_isWord_64 : decode cX6_isWord 64 = .ok (.iload_n 3, 1) := sorry
theorem dX6_isWord_65 : decode cX6_isWord 65 = .ok (.iadd, 1) := sorry
theorem dX6_isWord_66 : decode cX6_isWord 66 = .ok (.iaload, 1) := sorry
theorem dX6_isWord_67 : decode cX6_isWord 67 = .ok (.if_icmp .ne 7, 3) := sorry
theorem dX6_isWord_70 : decode cX6_isWord 70 = .ok (.iconst 1, 1) := sorry
theorem dX6_isWord_71 : decode cX6_isWord 71 = .ok (.goto 4, 3) := sorry
theorem dX6_isWord_74 : decode cX6_isWord 74 = .ok (.iconst 0, 1) := sorry
theorem dX6_isWord_75 : decode cX6_isWord 75 = .ok (.istore_n 2, 1) := sorry
theorem dX6_isWord_76 : decode cX6_isWord 76 = .ok (.iinc 3 1, 3) := sorry
theorem dX6_isWord_79 : decode cX6_isWord 79 = .ok (.goto (-40), 3) := sorry
theorem dX6_isWord_82 : decode cX6_isWord 82 = .ok (.iload_n 2, 1) := sorry
theorem dX6_isWord_83 : decode cX6_isWord 83 = .ok (.ireturn, 1) := sorry
abbrev cX6_check : ByteArray := prog_17_method_110_code
def yX6_check : MethodName := ⟨RX6, "check", "(ZI)V"⟩
def dkwX6_check_0 : List UInt8 := [27, 154, 0, 8, 42, 28, 182, 1, 114, 177]
abbrev dktX6_check_0 : List UInt8 := dkwX6_check_0 ++ []
theorem dksX6_check_0 : cX6_check.data.toList.drop 0 = dktX6_check_0 := sorry
theorem dX6_check_0 : decode cX6_check 0 = .ok (.iload_n 1, 1) := sorry
theorem dX6_check_1 : decode cX6_check 1 = .ok (.ifCond .ne 8, 3) := sorry
theorem dX6_check_4 : decode cX6_check 4 = .ok (.aload_n 0, 1) := sorry
theorem dX6_check_5 : decode cX6_check 5 = .ok (.iload_n 2, 1) := sorry
theorem dX6_check_6 : decode cX6_check 6 = .ok (.invokevirtual 370, 3) := sorry
theorem dX6_check_9 : decode cX6_check 9 = .ok (.return_, 1) := sorry
abbrev cX6_flaw : ByteArray := prog_17_method_109_code
def yX6_flaw : MethodName := ⟨RX6, "flaw", "(I)V"⟩
def dkwX6_flaw_0 : List UInt8 := [42, 180, 1, 102, 154, 0, 16, 42, 27, 181, 1, 102, 42, 42, 180, 1, 90, 181, 1, 111, 177]
abbrev dktX6_flaw_0 : List UInt8 := dkwX6_flaw_0 ++ []
theorem dksX6_flaw_0 : cX6_flaw.data.toList.drop 0 = dktX6_flaw_0 := sorry
theorem dX6_flaw_0 : decode cX6_flaw 0 = .ok (.aload_n 0, 1) := sorry
theorem dX6_flaw_1 : decode cX6_flaw 1 = .ok (.getfield 358, 3) := sorry
theorem dX6_flaw_4 : decode cX6_flaw 4 = .ok (.ifCond .ne 16, 3) := sorry
theorem dX6_flaw_7 : decode cX6_flaw 7 = .ok (.aload_n 0, 1) := sorry
theorem dX6_flaw_8 : decode cX6_flaw 8 = .ok (.iload_n 1, 1) := sorry
theorem dX6_flaw_9 : decode cX6_flaw 9 = .ok (.putfield 358, 3) := sorry
theorem dX6_flaw_12 : decode cX6_flaw 12 = .ok (.aload_n 0, 1) := sorry
theorem dX6_flaw_13 : decode cX6_flaw 13 = .ok (.aload_n 0, 1) := sorry
theorem dX6_flaw_14 : decode cX6_flaw 14 = .ok (.getfield 346, 3) := sorry
theorem dX6_flaw_17 : decode cX6_flaw 17 = .ok (.putfield 367, 3) := sorry
theorem dX6_flaw_20 : decode cX6_flaw 20 = .ok (.return_, 1) := sorry
abbrev cX6_advance : ByteArray := prog_17_method_111_code
def yX6_advance : MethodName := ⟨RX6, "advance", "()V"⟩
def dkwX6_advance_0 : List UInt8 := [42, 180, 1, 102, 154, 0, 7, 42, 182, 1, 108, 177]
abbrev dktX6_advance_0 : List UInt8 := dkwX6_advance_0 ++ []
theorem dksX6_advance_0 : cX6_advance.data.toList.drop 0 = dktX6_advance_0 := sorry
theorem dX6_advance_0 : decode cX6_advance 0 = .ok (.aload_n 0, 1) := sorry
theorem dX6_advance_1 : decode cX6_advance 1 = .ok (.getfield 358, 3) := sorry
theorem dX6_advance_4 : decode cX6_advance 4 = .ok (.ifCond .ne 7, 3) := sorry
theorem dX6_advance_7 : decode cX6_advance 7 = .ok (.aload_n 0, 1) := sorry
theorem dX6_advance_8 : decode cX6_advance 8 = .ok (.invokevirtual 364, 3) := sorry
theorem dX6_advance_11 : decode cX6_advance 11 = .ok (.return_, 1) := sorry
abbrev cX6_number : ByteArray := prog_17_method_118_code
def yX6_number : MethodName := ⟨RX6, "number", "(II)I"⟩
def dkwX6_number_3 : List UInt8 := [154, 0, 7, 29, 167, 0, 4, 27, 172]
abbrev dktX6_number_3 : List UInt8 := dkwX6_number_3 ++ []
def dkwX6_number_2 : List UInt8 := [184, 0, 220, 153, 0, 7, 4, 167, 0, 4, 3, 5, 182, 1, 128, 42, 182, 1, 132, 42, 180, 1, 102]
abbrev dktX6_number_2 : List UInt8 := dkwX6_number_2 ++ dktX6_number_3
def dkwX6_number_1 : List UInt8 := [182, 1, 128, 42, 182, 1, 142, 62, 42, 42, 180, 1, 102, 154, 0, 15, 29, 133, 27, 133, 28, 133]
abbrev dktX6_number_1 : List UInt8 := dkwX6_number_1 ++ dktX6_number_2
def dkwX6_number_0 : List UInt8 := [42, 42, 180, 1, 102, 154, 0, 11, 42, 180, 1, 93, 5, 160, 0, 7, 4, 167, 0, 4, 3, 4]
abbrev dktX6_number_0 : List UInt8 := dkwX6_number_0 ++ dktX6_number_1
theorem dksX6_number_0 : cX6_number.data.toList.drop 0 = dktX6_number_0 := sorry
theorem dksX6_number_1 : cX6_number.data.toList.drop 22 = dktX6_number_1 := sorry
theorem dksX6_number_2 : cX6_number.data.toList.drop 44 = dktX6_number_2 := sorry
theorem dksX6_number_3 : cX6_number.data.toList.drop 67 = dktX6_number_3 := sorry
theorem dX6_number_0 : decode cX6_number 0 = .ok (.aload_n 0, 1) := sorry
theorem dX6_number_1 : decode cX6_number 1 = .ok (.aload_n 0, 1) := sorry
theorem dX6_number_2 : decode cX6_number 2 = .ok (.getfield 358, 3) := sorry
theorem dX6_number_5 : decode cX6_number 5 = .ok (.ifCond .ne 11, 3) := sorry
theorem dX6_number_8 : decode cX6_number 8 = .ok (.aload_n 0, 1) := sorry
theorem dX6_number_9 : decode cX6_number 9 = .ok (.getfield 349, 3) := sorry
theorem dX6_number_12 : decode cX6_number 12 = .ok (.iconst 2, 1) := sorry
theorem dX6_number_13 : decode cX6_number 13 = .ok (.if_icmp .ne 7, 3) := sorry
theorem dX6_number_16 : decode cX6_number 16 = .ok (.iconst 1, 1) := sorry
theorem dX6_number_17 : decode cX6_number 17 = .ok (.goto 4, 3) := sorry
theorem dX6_number_20 : decode cX6_number 20 = .ok (.iconst 0, 1) := sorry
theorem dX6_number_21 : decode cX6_number 21 = .ok (.iconst 1, 1) := sorry
theorem dX6_number_22 : decode cX6_number 22 = .ok (.invokevirtual 384, 3) := sorry
theorem dX6_number_25 : decode cX6_number 25 = .ok (.aload_n 0, 1) := sorry
theorem dX6_number_26 : decode cX6_number 26 = .ok (.invokevirtual 398, 3) := sorry
theorem dX6_number_29 : decode cX6_number 29 = .ok (.istore_n 3, 1) := sorry
theorem dX6_number_30 : decode cX6_number 30 = .ok (.aload_n 0, 1) := sorry
theorem dX6_number_31 : decode cX6_number 31 = .ok (.aload_n 0, 1) := sorry
theorem dX6_number_32 : decode cX6_number 32 = .ok (.getfield 358, 3) := sorry
theorem dX6_number_35 : decode cX6_number 35 = .ok (.ifCond .ne 15, 3) := sorry
theorem dX6_number_38 : decode cX6_number 38 = .ok (.iload_n 3, 1) := sorry
theorem dX6_number_39 : decode cX6_number 39 = .ok (.i2l, 1) := sorry
theorem dX6_number_40 : decode cX6_number 40 = .ok (.iload_n 1, 1) := sorry
theorem dX6_number_41 : decode cX6_number 41 = .ok (.i2l, 1) := sorry
theorem dX6_number_42 : decode cX6_number 42 = .ok (.iload_n 2, 1) := sorry
theorem dX6_number_43 : decode cX6_number 43 = .ok (.i2l, 1) := sorry
theorem dX6_number_44 : decode cX6_number 44 = .ok (.invokestatic 220, 3) := sorry
theorem dX6_number_47 : decode cX6_number 47 = .ok (.ifCond .eq 7, 3) := sorry
theorem dX6_number_50 : decode cX6_number 50 = .ok (.iconst 1, 1) := sorry
theorem dX6_number_51 : decode cX6_number 51 = .ok (.goto 4, 3) := sorry
theorem dX6_number_54 : decode cX6_number 54 = .ok (.iconst 0, 1) := sorry
theorem dX6_number_55 : decode cX6_number 55 = .ok (.iconst 2, 1) := sorry
theorem dX6_number_56 : decode cX6_number 56 = .ok (.invokevirtual 384, 3) := sorry
theorem dX6_number_59 : decode cX6_number 59 = .ok (.aload_n 0, 1) := sorry
theorem dX6_number_60 : decode cX6_number 60 = .ok (.invokevirtual 388, 3) := sorry
theorem dX6_number_63 : decode cX6_number 63 = .ok (.aload_n 0, 1) := sorry
theorem dX6_number_64 : decode cX6_number 64 = .ok (.getfield 358, 3) := sorry
theorem dX6_number_67 : decode cX6_number 67 = .ok (.ifCond .ne 7, 3) := sorry
theorem dX6_number_70 : decode cX6_number 70 = .ok (.iload_n 3, 1) := sorry
theorem dX6_number_71 : decode cX6_number 71 = .ok (.goto 4, 3) := sorry
theorem dX6_number_74 : decode cX6_number 74 = .ok (.iload_n 1, 1) := sorry
theorem dX6_number_75 : decode cX6_number 75 = .ok (.ireturn, 1) := sorry
abbrev cX6_value_2 : ByteArray := prog_17_method_117_code
def yX6_value_2 : MethodName := ⟨RX6, "value", "()I"⟩
def dkwX6_value_2_2 : List UInt8 := [136, 60, 132, 2, 1, 167, 255, 211, 27, 172]
abbrev dktX6_value_2_2 : List UInt8 := dkwX6_value_2_2 ++ []
def dkwX6_value_2_1 : List UInt8 := [20, 1, 138, 20, 1, 61, 27, 133, 105, 42, 180, 0, 47, 28, 46, 133, 97, 20, 1, 140, 101, 184, 0, 152]
abbrev dktX6_value_2_1 : List UInt8 := dkwX6_value_2_1 ++ dktX6_value_2_2
def dkwX6_value_2_0 : List UInt8 := [3, 60, 42, 180, 1, 90, 61, 28, 42, 180, 1, 87, 162, 0, 43, 42, 180, 1, 93, 5, 160, 0, 35]
abbrev dktX6_value_2_0 : List UInt8 := dkwX6_value_2_0 ++ dktX6_value_2_1
theorem dksX6_value_2_0 : cX6_value_2.data.toList.drop 0 = dktX6_value_2_0 := sorry
theorem dksX6_value_2_1 : cX6_value_2.data.toList.drop 23 = dktX6_value_2_1 := sorry
theorem dksX6_value_2_2 : cX6_value_2.data.toList.drop 47 = dktX6_value_2_2 := sorry
theorem dX6_value_2_0 : decode cX6_value_2 0 = .ok (.iconst 0, 1) := sorry
theorem dX6_value_2_1 : decode cX6_value_2 1 = .ok (.istore_n 1, 1) := sorry
theorem dX6_value_2_2 : decode cX6_value_2 2 = .ok (.aload_n 0, 1) := sorry
theorem dX6_value_2_3 : decode cX6_value_2 3 = .ok (.getfield 346, 3) := sorry
theorem dX6_value_2_6 : decode cX6_value_2 6 = .ok (.istore_n 2, 1) := sorry
theorem dX6_value_2_7 : decode cX6_value_2 7 = .ok (.iload_n 2, 1) := sorry
theorem dX6_value_2_8 : decode cX6_value_2 8 = .ok (.aload_n 0, 1) := sorry
theorem dX6_value_2_9 : decode cX6_value_2 9 = .ok (.getfield 343, 3) := sorry
theorem dX6_value_2_12 : decode cX6_value_2 12 = .ok (.if_icmp .ge 43, 3) := sorry
theorem dX6_value_2_15 : decode cX6_value_2 15 = .ok (.aload_n 0, 1) := sorry
theorem dX6_value_2_16 : decode cX6_value_2 16 = .ok (.getfield 349, 3) := sorry
theorem dX6_value_2_19 : decode cX6_value_2 19 = .ok (.iconst 2, 1) := sorry
theorem dX6_value_2_20 : decode cX6_value_2 20 = .ok (.if_icmp .ne 35, 3) := sorry
theorem dX6_value_2_23 : decode cX6_value_2 23 = .ok (.ldc2_w 394, 3) := sorry
theorem dX6_value_2_26 : decode cX6_value_2 26 = .ok (.ldc2_w 317, 3) := sorry
theorem dX6_value_2_29 : decode cX6_value_2 29 = .ok (.iload_n 1, 1) := sorry
theorem dX6_value_2_30 : decode cX6_value_2 30 = .ok (.i2l, 1) := sorry
theorem dX6_value_2_31 : decode cX6_value_2 31 = .ok (.lmul, 1) := sorry
theorem dX6_value_2_32 : decode cX6_value_2 32 = .ok (.aload_n 0, 1) := sorry
theorem dX6_value_2_33 : decode cX6_value_2 33 = .ok (.getfield 47, 3) := sorry
theorem dX6_value_2_36 : decode cX6_value_2 36 = .ok (.iload_n 2, 1) := sorry
theorem dX6_value_2_37 : decode cX6_value_2 37 = .ok (.iaload, 1) := sorry
theorem dX6_value_2_38 : decode cX6_value_2 38 = .ok (.i2l, 1) := sorry
theorem dX6_value_2_39 : decode cX6_value_2 39 = .ok (.ladd, 1) := sorry
theorem dX6_value_2_40 : decode cX6_value_2 40 = .ok (.ldc2_w 396, 3) := sorry
theorem dX6_value_2_43 : decode cX6_value_2 43 = .ok (.lsub, 1) := sorry
theorem dX6_value_2_44 : decode cX6_value_2 44 = .ok (.invokestatic 152, 3) := sorry
theorem dX6_value_2_47 : decode cX6_value_2 47 = .ok (.l2i, 1) := sorry
theorem dX6_value_2_48 : decode cX6_value_2 48 = .ok (.istore_n 1, 1) := sorry
theorem dX6_value_2_49 : decode cX6_value_2 49 = .ok (.iinc 2 1, 3) := sorry
theorem dX6_value_2_52 : decode cX6_value_2 52 = .ok (.goto (-45), 3) := sorry
theorem dX6_value_2_55 : decode cX6_value_2 55 = .ok (.iload_n 1, 1) := sorry
theorem dX6_value_2_56 : decode cX6_value_2 56 = .ok (.ireturn, 1) := sorry
abbrev cX6_expect : ByteArray := prog_17_method_116_code
def yX6_expect : MethodName := ⟨RX6, "expect", "(I)V"⟩
def dkwX6_expect_0 : List UInt8 := [42, 42, 27, 182, 1, 135, 4, 182, 1, 128, 42, 182, 1, 132, 177]
abbrev dktX6_expect_0 : List UInt8 := dkwX6_expect_0 ++ []
theorem dksX6_expect_0 : cX6_expect.data.toList.drop 0 = dktX6_expect_0 := sorry
theorem dX6_expect_0 : decode cX6_expect 0 = .ok (.aload_n 0, 1) := sorry
theorem dX6_expect_1 : decode cX6_expect 1 = .ok (.aload_n 0, 1) := sorry
theorem dX6_expect_2 : decode cX6_expect 2 = .ok (.iload_n 1, 1) := sorry
theorem dX6_expect_3 : decode cX6_expect 3 = .ok (.invokevirtual 391, 3) := sorry
theorem dX6_expect_6 : decode cX6_expect 6 = .ok (.iconst 1, 1) := sorry
theorem dX6_expect_7 : decode cX6_expect 7 = .ok (.invokevirtual 384, 3) := sorry
theorem dX6_expect_10 : decode cX6_expect 10 = .ok (.aload_n 0, 1) := sorry
theorem dX6_expect_11 : decode cX6_expect 11 = .ok (.invokevirtual 388, 3) := sorry
theorem dX6_expect_14 : decode cX6_expect 14 = .ok (.return_, 1) := sorry
abbrev cX6_isSymbol : ByteArray := prog_17_method_112_code
def yX6_isSymbol : MethodName := ⟨RX6, "isSymbol", "(I)Z"⟩
def dkwX6_isSymbol_1 : List UInt8 := [27, 160, 0, 7, 4, 167, 0, 4, 3, 172]
abbrev dktX6_isSymbol_1 : List UInt8 := dkwX6_isSymbol_1 ++ []
def dkwX6_isSymbol_0 : List UInt8 := [42, 180, 1, 102, 154, 0, 28, 42, 180, 1, 93, 6, 160, 0, 20, 42, 180, 0, 47, 42, 180, 1, 90, 46]
abbrev dktX6_isSymbol_0 : List UInt8 := dkwX6_isSymbol_0 ++ dktX6_isSymbol_1
theorem dksX6_isSymbol_0 : cX6_isSymbol.data.toList.drop 0 = dktX6_isSymbol_0 := sorry
theorem dksX6_isSymbol_1 : cX6_isSymbol.data.toList.drop 24 = dktX6_isSymbol_1 := sorry
theorem dX6_isSymbol_0 : decode cX6_isSymbol 0 = .ok (.aload_n 0, 1) := sorry
theorem dX6_isSymbol_1 : decode cX6_isSymbol 1 = .ok (.getfield 358, 3) := sorry
theorem dX6_isSymbol_4 : decode cX6_isSymbol 4 = .ok (.ifCond .ne 28, 3) := sorry
theorem dX6_isSymbol_7 : decode cX6_isSymbol 7 = .ok (.aload_n 0, 1) := sorry
theorem dX6_isSymbol_8 : decode cX6_isSymbol 8 = .ok (.getfield 349, 3) := sorry
theorem dX6_isSymbol_11 : decode cX6_isSymbol 11 = .ok (.iconst 3, 1) := sorry
theorem dX6_isSymbol_12 : decode cX6_isSymbol 12 = .ok (.if_icmp .ne 20, 3) := sorry
theorem dX6_isSymbol_15 : decode cX6_isSymbol 15 = .ok (.aload_n 0, 1) := sorry
theorem dX6_isSymbol_16 : decode cX6_isSymbol 16 = .ok (.getfield 47, 3) := sorry
theorem dX6_isSymbol_19 : decode cX6_isSymbol 19 = .ok (.aload_n 0, 1) := sorry
theorem dX6_isSymbol_20 : decode cX6_isSymbol 20 = .ok (.getfield 346, 3) := sorry
theorem dX6_isSymbol_23 : decode cX6_isSymbol 23 = .ok (.iaload, 1) := sorry
theorem dX6_isSymbol_24 : decode cX6_isSymbol 24 = .ok (.iload_n 1, 1) := sorry
theorem dX6_isSymbol_25 : decode cX6_isSymbol 25 = .ok (.if_icmp .ne 7, 3) := sorry
theorem dX6_isSymbol_28 : decode cX6_isSymbol 28 = .ok (.iconst 1, 1) := sorry
theorem dX6_isSymbol_29 : decode cX6_isSymbol 29 = .ok (.goto 4, 3) := sorry
theorem dX6_isSymbol_32 : decode cX6_isSymbol 32 = .ok (.iconst 0, 1) := sorry
theorem dX6_isSymbol_33 : decode cX6_isSymbol 33 = .ok (.ireturn, 1) := sorry
abbrev cX6_readClause : ByteArray := prog_17_method_123_code
def yX6_readClause : MethodName := ⟨RX6, "readClause", "()V"⟩
def dkwX6_readClause_4 : List UInt8 := [19, 1, 55, 182, 1, 145, 133, 80, 42, 16, 59, 182, 1, 183, 177]
abbrev dktX6_readClause_4 : List UInt8 := dkwX6_readClause_4 ++ []
def dkwX6_readClause_3 : List UInt8 := [182, 1, 145, 133, 80, 167, 0, 25, 42, 19, 1, 181, 182, 1, 160, 42, 180, 0, 25, 6, 42, 4]
abbrev dktX6_readClause_3 : List UInt8 := dkwX6_readClause_3 ++ dktX6_readClause_4
def dkwX6_readClause_2 : List UInt8 := [167, 0, 53, 42, 19, 1, 179, 182, 1, 153, 153, 0, 21, 42, 180, 0, 25, 5, 42, 4, 19, 1, 55]
abbrev dktX6_readClause_2 : List UInt8 := dkwX6_readClause_2 ++ dktX6_readClause_3
def dkwX6_readClause_1 : List UInt8 := [153, 0, 10, 42, 182, 1, 171, 167, 0, 70, 42, 19, 1, 174, 182, 1, 153, 153, 0, 10, 42, 182, 1, 176]
abbrev dktX6_readClause_1 : List UInt8 := dkwX6_readClause_1 ++ dktX6_readClause_2
def dkwX6_readClause_0 : List UInt8 := [42, 19, 1, 164, 182, 1, 153, 153, 0, 10, 42, 182, 1, 166, 167, 0, 87, 42, 19, 1, 169, 182, 1, 153]
abbrev dktX6_readClause_0 : List UInt8 := dkwX6_readClause_0 ++ dktX6_readClause_1
theorem dksX6_readClause_0 : cX6_readClause.data.toList.drop 0 = dktX6_readClause_0 := sorry
theorem dksX6_readClause_1 : cX6_readClause.data.toList.drop 24 = dktX6_readClause_1 := sorry
theorem dksX6_readClause_2 : cX6_readClause.data.toList.drop 48 = dktX6_readClause_2 := sorry
theorem dksX6_readClause_3 : cX6_readClause.data.toList.drop 71 = dktX6_readClause_3 := sorry
theorem dksX6_readClause_4 : cX6_readClause.data.toList.drop 93 = dktX6_readClause_4 := sorry
theorem dX6_readClause_0 : decode cX6_readClause 0 = .ok (.aload_n 0, 1) := sorry
theorem dX6_readClause_1 : decode cX6_readClause 1 = .ok (.ldc_w 420, 3) := sorry
theorem dX6_readClause_4 : decode cX6_readClause 4 = .ok (.invokevirtual 409, 3) := sorry
theorem dX6_readClause_7 : decode cX6_readClause 7 = .ok (.ifCond .eq 10, 3) := sorry
theorem dX6_readClause_10 : decode cX6_readClause 10 = .ok (.aload_n 0, 1) := sorry
theorem dX6_readClause_11 : decode cX6_readClause 11 = .ok (.invokevirtual 422, 3) := sorry
theorem dX6_readClause_14 : decode cX6_readClause 14 = .ok (.goto 87, 3) := sorry
theorem dX6_readClause_17 : decode cX6_readClause 17 = .ok (.aload_n 0, 1) := sorry
theorem dX6_readClause_18 : decode cX6_readClause 18 = .ok (.ldc_w 425, 3) := sorry
theorem dX6_readClause_21 : decode cX6_readClause 21 = .ok (.invokevirtual 409, 3) := sorry
theorem dX6_readClause_24 : decode cX6_readClause 24 = .ok (.ifCond .eq 10, 3) := sorry
theorem dX6_readClause_27 : decode cX6_readClause 27 = .ok (.aload_n 0, 1) := sorry
theorem dX6_readClause_28 : decode cX6_readClause 28 = .ok (.invokevirtual 427, 3) := sorry
theorem dX6_readClause_31 : decode cX6_readClause 31 = .ok (.goto 70, 3) := sorry
theorem dX6_readClause_34 : decode cX6_readClause 34 = .ok (.aload_n 0, 1) := sorry
theorem dX6_readClause_35 : decode cX6_readClause 35 = .ok (.ldc_w 430, 3) := sorry
theorem dX6_readClause_38 : decode cX6_readClause 38 = .ok (.invokevirtual 409, 3) := sorry
theorem dX6_readClause_41 : decode cX6_readClause 41 = .ok (.ifCond .eq 10, 3) := sorry
theorem dX6_readClause_44 : decode cX6_readClause 44 = .ok (.aload_n 0, 1) := sorry
theorem dX6_readClause_45 : decode cX6_readClause 45 = .ok (.invokevirtual 432, 3) := sorry
theorem dX6_readClause_48 : decode cX6_readClause 48 = .ok (.goto 53, 3) := sorry
theorem dX6_readClause_51 : decode cX6_readClause 51 = .ok (.aload_n 0, 1) := sorry
theorem dX6_readClause_52 : decode cX6_readClause 52 = .ok (.ldc_w 435, 3) := sorry
theorem dX6_readClause_55 : decode cX6_readClause 55 = .ok (.invokevirtual 409, 3) := sorry
theorem dX6_readClause_58 : decode cX6_readClause 58 = .ok (.ifCond .eq 21, 3) := sorry
theorem dX6_readClause_61 : decode cX6_readClause 61 = .ok (.aload_n 0, 1) := sorry
theorem dX6_readClause_62 : decode cX6_readClause 62 = .ok (.getfield 25, 3) := sorry
theorem dX6_readClause_65 : decode cX6_readClause 65 = .ok (.iconst 2, 1) := sorry
theorem dX6_readClause_66 : decode cX6_readClause 66 = .ok (.aload_n 0, 1) := sorry
theorem dX6_readClause_67 : decode cX6_readClause 67 = .ok (.iconst 1, 1) := sorry
theorem dX6_readClause_68 : decode cX6_readClause 68 = .ok (.ldc_w 311, 3) := sorry
theorem dX6_readClause_71 : decode cX6_readClause 71 = .ok (.invokevirtual 401, 3) := sorry
theorem dX6_readClause_74 : decode cX6_readClause 74 = .ok (.i2l, 1) := sorry
theorem dX6_readClause_75 : decode cX6_readClause 75 = .ok (.lastore, 1) := sorry
theorem dX6_readClause_76 : decode cX6_readClause 76 = .ok (.goto 25, 3) := sorry
theorem dX6_readClause_79 : decode cX6_readClause 79 = .ok (.aload_n 0, 1) := sorry
theorem dX6_readClause_80 : decode cX6_readClause 80 = .ok (.ldc_w 437, 3) := sorry
theorem dX6_readClause_83 : decode cX6_readClause 83 = .ok (.invokevirtual 416, 3) := sorry
theorem dX6_readClause_86 : decode cX6_readClause 86 = .ok (.aload_n 0, 1) := sorry
theorem dX6_readClause_87 : decode cX6_readClause 87 = .ok (.getfield 25, 3) := sorry
theorem dX6_readClause_90 : decode cX6_readClause 90 = .ok (.iconst 3, 1) := sorry
theorem dX6_readClause_91 : decode cX6_readClause 91 = .ok (.aload_n 0, 1) := sorry
theorem dX6_readClause_92 : decode cX6_readClause 92 = .ok (.iconst 1, 1) := sorry
theorem dX6_readClause_93 : decode cX6_readClause 93 = .ok (.ldc_w 311, 3) := sorry
theorem dX6_readClause_96 : decode cX6_readClause 96 = .ok (.invokevirtual 401, 3) := sorry
theorem dX6_readClause_99 : decode cX6_readClause 99 = .ok (.i2l, 1) := sorry
theorem dX6_readClause_100 : decode cX6_readClause 100 = .ok (.lastore, 1) := sorry
theorem dX6_readClause_101 : decode cX6_readClause 101 = .ok (.aload_n 0, 1) := sorry
theorem dX6_readClause_102 : decode cX6_readClause 102 = .ok (.bipush 59, 2) := sorry
theorem dX6_readClause_104 : decode cX6_readClause 104 = .ok (.invokevirtual 439, 3) := sorry
theorem dX6_readClause_107 : decode cX6_readClause 107 = .ok (.return_, 1) := sorry
abbrev cX6_accept : ByteArray := prog_17_method_114_code
def yX6_accept : MethodName := ⟨RX6, "accept", "(Ljava/lang/String;)Z"⟩
def dkwX6_accept_0 : List UInt8 := [42, 43, 182, 1, 124, 61, 28, 153, 0, 7, 42, 182, 1, 108, 28, 172]
abbrev dktX6_accept_0 : List UInt8 := dkwX6_accept_0 ++ []
theorem dksX6_accept_0 : cX6_accept.data.toList.drop 0 = dktX6_accept_0 := sorry
theorem dX6_accept_0 : decode cX6_accept 0 = .ok (.aload_n 0, 1) := sorry
theorem dX6_accept_1 : decode cX6_accept 1 = .ok (.aload_n 1, 1) := sorry
theorem dX6_accept_2 : decode cX6_accept 2 = .ok (.invokevirtual 380, 3) := sorry
theorem dX6_accept_5 : decode cX6_accept 5 = .ok (.istore_n 2, 1) := sorry
theorem dX6_accept_6 : decode cX6_accept 6 = .ok (.iload_n 2, 1) := sorry
theorem dX6_accept_7 : decode cX6_accept 7 = .ok (.ifCond .eq 7, 3) := sorry
theorem dX6_accept_10 : decode cX6_accept 10 = .ok (.aload_n 0, 1) := sorry
theorem dX6_accept_11 : decode cX6_accept 11 = .ok (.invokevirtual 364, 3) := sorry
theorem dX6_accept_14 : decode cX6_accept 14 = .ok (.iload_n 2, 1) := sorry
theorem dX6_accept_15 : decode cX6_accept 15 = .ok (.ireturn, 1) := sorry
abbrev cX6_readEntry : ByteArray := prog_17_method_120_code
def yX6_readEntry : MethodName := ⟨RX6, "readEntry", "()V"⟩
def dkwX6_readEntry_1 : List UInt8 := [42, 182, 1, 148, 62, 42, 180, 1, 102, 154, 0, 14, 42, 180, 0, 25, 27, 28, 29, 133, 184, 1, 47, 177]
abbrev dktX6_readEntry_1 : List UInt8 := dkwX6_readEntry_1 ++ []
def dkwX6_readEntry_0 : List UInt8 := [42, 3, 42, 182, 0, 95, 4, 100, 182, 1, 145, 60, 42, 3, 42, 182, 0, 95, 4, 100, 182, 1, 145, 61]
abbrev dktX6_readEntry_0 : List UInt8 := dkwX6_readEntry_0 ++ dktX6_readEntry_1
theorem dksX6_readEntry_0 : cX6_readEntry.data.toList.drop 0 = dktX6_readEntry_0 := sorry
theorem dksX6_readEntry_1 : cX6_readEntry.data.toList.drop 24 = dktX6_readEntry_1 := sorry
theorem dX6_readEntry_0 : decode cX6_readEntry 0 = .ok (.aload_n 0, 1) := sorry
theorem dX6_readEntry_1 : decode cX6_readEntry 1 = .ok (.iconst 0, 1) := sorry
theorem dX6_readEntry_2 : decode cX6_readEntry 2 = .ok (.aload_n 0, 1) := sorry
theorem dX6_readEntry_3 : decode cX6_readEntry 3 = .ok (.invokevirtual 95, 3) := sorry
theorem dX6_readEntry_6 : decode cX6_readEntry 6 = .ok (.iconst 1, 1) := sorry
theorem dX6_readEntry_7 : decode cX6_readEntry 7 = .ok (.isub, 1) := sorry
theorem dX6_readEntry_8 : decode cX6_readEntry 8 = .ok (.invokevirtual 401, 3) := sorry
theorem dX6_readEntry_11 : decode cX6_readEntry 11 = .ok (.istore_n 1, 1) := sorry
theorem dX6_readEntry_12 : decode cX6_readEntry 12 = .ok (.aload_n 0, 1) := sorry
theorem dX6_readEntry_13 : decode cX6_readEntry 13 = .ok (.iconst 0, 1) := sorry
theorem dX6_readEntry_14 : decode cX6_readEntry 14 = .ok (.aload_n 0, 1) := sorry
theorem dX6_readEntry_15 : decode cX6_readEntry 15 = .ok (.invokevirtual 95, 3) := sorry
theorem dX6_readEntry_18 : decode cX6_readEntry 18 = .ok (.iconst 1, 1) := sorry
theorem dX6_readEntry_19 : decode cX6_readEntry 19 = .ok (.isub, 1) := sorry
theorem dX6_readEntry_20 : decode cX6_readEntry 20 = .ok (.invokevirtual 401, 3) := sorry
theorem dX6_readEntry_23 : decode cX6_readEntry 23 = .ok (.istore_n 2, 1) := sorry
theorem dX6_readEntry_24 : decode cX6_readEntry 24 = .ok (.aload_n 0, 1) := sorry
theorem dX6_readEntry_25 : decode cX6_readEntry 25 = .ok (.invokevirtual 404, 3) := sorry
theorem dX6_readEntry_28 : decode cX6_readEntry 28 = .ok (.istore_n 3, 1) := sorry
theorem dX6_readEntry_29 : decode cX6_readEntry 29 = .ok (.aload_n 0, 1) := sorry
theorem dX6_readEntry_30 : decode cX6_readEntry 30 = .ok (.getfield 358, 3) := sorry
theorem dX6_readEntry_33 : decode cX6_readEntry 33 = .ok (.ifCond .ne 14, 3) := sorry
theorem dX6_readEntry_36 : decode cX6_readEntry 36 = .ok (.aload_n 0, 1) := sorry
theorem dX6_readEntry_37 : decode cX6_readEntry 37 = .ok (.getfield 25, 3) := sorry
theorem dX6_readEntry_40 : decode cX6_readEntry 40 = .ok (.iload_n 1, 1) := sorry
theorem dX6_readEntry_41 : decode cX6_readEntry 41 = .ok (.iload_n 2, 1) := sorry
theorem dX6_readEntry_42 : decode cX6_readEntry 42 = .ok (.iload_n 3, 1) := sorry
theorem dX6_readEntry_43 : decode cX6_readEntry 43 = .ok (.i2l, 1) := sorry
theorem dX6_readEntry_44 : decode cX6_readEntry 44 = .ok (.invokestatic 303, 3) := sorry
theorem dX6_readEntry_47 : decode cX6_readEntry 47 = .ok (.return_, 1) := sorry
abbrev cX6_integer : ByteArray := prog_17_method_119_code
def yX6_integer : MethodName := ⟨RX6, "integer", "()I"⟩
def dkwX6_integer_1 : List UInt8 := [153, 0, 8, 28, 116, 167, 0, 4, 28, 172]
abbrev dktX6_integer_1 : List UInt8 := dkwX6_integer_1 ++ []
def dkwX6_integer_0 : List UInt8 := [42, 16, 45, 182, 1, 135, 60, 27, 153, 0, 7, 42, 182, 1, 132, 42, 3, 16, 99, 182, 1, 145, 61, 27]
abbrev dktX6_integer_0 : List UInt8 := dkwX6_integer_0 ++ dktX6_integer_1
theorem dksX6_integer_0 : cX6_integer.data.toList.drop 0 = dktX6_integer_0 := sorry
theorem dksX6_integer_1 : cX6_integer.data.toList.drop 24 = dktX6_integer_1 := sorry
theorem dX6_integer_0 : decode cX6_integer 0 = .ok (.aload_n 0, 1) := sorry
theorem dX6_integer_1 : decode cX6_integer 1 = .ok (.bipush 45, 2) := sorry
theorem dX6_integer_3 : decode cX6_integer 3 = .ok (.invokevirtual 391, 3) := sorry
theorem dX6_integer_6 : decode cX6_integer 6 = .ok (.istore_n 1, 1) := sorry
theorem dX6_integer_7 : decode cX6_integer 7 = .ok (.iload_n 1, 1) := sorry
theorem dX6_integer_8 : decode cX6_integer 8 = .ok (.ifCond .eq 7, 3) := sorry
theorem dX6_integer_11 : decode cX6_integer 11 = .ok (.aload_n 0, 1) := sorry
theorem dX6_integer_12 : decode cX6_integer 12 = .ok (.invokevirtual 388, 3) := sorry
theorem dX6_integer_15 : decode cX6_integer 15 = .ok (.aload_n 0, 1) := sorry
theorem dX6_integer_16 : decode cX6_integer 16 = .ok (.iconst 0, 1) := sorry
theorem dX6_integer_17 : decode cX6_integer 17 = .ok (.bipush 99, 2) := sorry
theorem dX6_integer_19 : decode cX6_integer 19 = .ok (.invokevirtual 401, 3) := sorry
theorem dX6_integer_22 : decode cX6_integer 22 = .ok (.istore_n 2, 1) := sorry
theorem dX6_integer_23 : decode cX6_integer 23 = .ok (.iload_n 1, 1) := sorry
theorem dX6_integer_24 : decode cX6_integer 24 = .ok (.ifCond .eq 8, 3) := sorry
theorem dX6_integer_27 : decode cX6_integer 27 = .ok (.iload_n 2, 1) := sorry
theorem dX6_integer_28 : decode cX6_integer 28 = .ok (.ineg, 1) := sorry
theorem dX6_integer_29 : decode cX6_integer 29 = .ok (.goto 4, 3) := sorry
theorem dX6_integer_32 : decode cX6_integer 32 = .ok (.iload_n 2, 1) := sorry
theorem dX6_integer_33 : decode cX6_integer 33 = .ok (.ireturn, 1) := sorry
abbrev cX6_readStart : ByteArray := prog_17_method_121_code
def yX6_readStart : MethodName := ⟨RX6, "readStart", "()V"⟩
def dkwX6_readStart_4 : List UInt8 := [4, 167, 0, 4, 3, 6, 182, 1, 128, 177]
abbrev dktX6_readStart_4 : List UInt8 := dkwX6_readStart_4 ++ []
def dkwX6_readStart_3 : List UInt8 := [153, 0, 7, 4, 167, 0, 4, 3, 4, 182, 1, 128, 42, 42, 180, 1, 102, 154, 0, 7, 27, 154, 0, 7]
abbrev dktX6_readStart_3 : List UInt8 := dkwX6_readStart_3 ++ dktX6_readStart_4
def dkwX6_readStart_2 : List UInt8 := [3, 60, 132, 2, 1, 167, 255, 207, 42, 42, 180, 1, 102, 154, 0, 12, 42, 16, 59, 182, 1, 135]
abbrev dktX6_readStart_2 : List UInt8 := dkwX6_readStart_2 ++ dktX6_readStart_3
def dkwX6_readStart_1 : List UInt8 := [133, 80, 27, 153, 0, 21, 42, 180, 0, 25, 16, 12, 28, 96, 47, 9, 148, 154, 0, 7, 4, 167, 0, 4]
abbrev dktX6_readStart_1 : List UInt8 := dkwX6_readStart_1 ++ dktX6_readStart_2
def dkwX6_readStart_0 : List UInt8 := [4, 60, 3, 61, 28, 42, 182, 0, 95, 162, 0, 47, 42, 180, 0, 25, 16, 12, 28, 96, 42, 182, 1, 148]
abbrev dktX6_readStart_0 : List UInt8 := dkwX6_readStart_0 ++ dktX6_readStart_1
theorem dksX6_readStart_0 : cX6_readStart.data.toList.drop 0 = dktX6_readStart_0 := sorry
theorem dksX6_readStart_1 : cX6_readStart.data.toList.drop 24 = dktX6_readStart_1 := sorry
theorem dksX6_readStart_2 : cX6_readStart.data.toList.drop 48 = dktX6_readStart_2 := sorry
theorem dksX6_readStart_3 : cX6_readStart.data.toList.drop 70 = dktX6_readStart_3 := sorry
theorem dksX6_readStart_4 : cX6_readStart.data.toList.drop 94 = dktX6_readStart_4 := sorry
theorem dX6_readStart_0 : decode cX6_readStart 0 = .ok (.iconst 1, 1) := sorry
theorem dX6_readStart_1 : decode cX6_readStart 1 = .ok (.istore_n 1, 1) := sorry
theorem dX6_readStart_2 : decode cX6_readStart 2 = .ok (.iconst 0, 1) := sorry
theorem dX6_readStart_3 : decode cX6_readStart 3 = .ok (.istore_n 2, 1) := sorry
theorem dX6_readStart_4 : decode cX6_readStart 4 = .ok (.iload_n 2, 1) := sorry
theorem dX6_readStart_5 : decode cX6_readStart 5 = .ok (.aload_n 0, 1) := sorry
theorem dX6_readStart_6 : decode cX6_readStart 6 = .ok (.invokevirtual 95, 3) := sorry
theorem dX6_readStart_9 : decode cX6_readStart 9 = .ok (.if_icmp .ge 47, 3) := sorry
theorem dX6_readStart_12 : decode cX6_readStart 12 = .ok (.aload_n 0, 1) := sorry
theorem dX6_readStart_13 : decode cX6_readStart 13 = .ok (.getfield 25, 3) := sorry
theorem dX6_readStart_16 : decode cX6_readStart 16 = .ok (.bipush 12, 2) := sorry
theorem dX6_readStart_18 : decode cX6_readStart 18 = .ok (.iload_n 2, 1) := sorry
theorem dX6_readStart_19 : decode cX6_readStart 19 = .ok (.iadd, 1) := sorry
theorem dX6_readStart_20 : decode cX6_readStart 20 = .ok (.aload_n 0, 1) := sorry
theorem dX6_readStart_21 : decode cX6_readStart 21 = .ok (.invokevirtual 404, 3) := sorry
theorem dX6_readStart_24 : decode cX6_readStart 24 = .ok (.i2l, 1) := sorry
theorem dX6_readStart_25 : decode cX6_readStart 25 = .ok (.lastore, 1) := sorry
theorem dX6_readStart_26 : decode cX6_readStart 26 = .ok (.iload_n 1, 1) := sorry
theorem dX6_readStart_27 : decode cX6_readStart 27 = .ok (.ifCond .eq 21, 3) := sorry
theorem dX6_readStart_30 : decode cX6_readStart 30 = .ok (.aload_n 0, 1) := sorry
theorem dX6_readStart_31 : decode cX6_readStart 31 = .ok (.getfield 25, 3) := sorry
theorem dX6_readStart_34 : decode cX6_readStart 34 = .ok (.bipush 12, 2) := sorry
theorem dX6_readStart_36 : decode cX6_readStart 36 = .ok (.iload_n 2, 1) := sorry
theorem dX6_readStart_37 : decode cX6_readStart 37 = .ok (.iadd, 1) := sorry
theorem dX6_readStart_38 : decode cX6_readStart 38 = .ok (.laload, 1) := sorry
theorem dX6_readStart_39 : decode cX6_readStart 39 = .ok (.lconst 0, 1) := sorry
theorem dX6_readStart_40 : decode cX6_readStart 40 = .ok (.lcmp, 1) := sorry
theorem dX6_readStart_41 : decode cX6_readStart 41 = .ok (.ifCond .ne 7, 3) := sorry
theorem dX6_readStart_44 : decode cX6_readStart 44 = .ok (.iconst 1, 1) := sorry
theorem dX6_readStart_45 : decode cX6_readStart 45 = .ok (.goto 4, 3) := sorry
theorem dX6_readStart_48 : decode cX6_readStart 48 = .ok (.iconst 0, 1) := sorry
theorem dX6_readStart_49 : decode cX6_readStart 49 = .ok (.istore_n 1, 1) := sorry
theorem dX6_readStart_50 : decode cX6_readStart 50 = .ok (.iinc 2 1, 3) := sorry
theorem dX6_readStart_53 : decode cX6_readStart 53 = .ok (.goto (-49), 3) := sorry
theorem dX6_readStart_56 : decode cX6_readStart 56 = .ok (.aload_n 0, 1) := sorry
theorem dX6_readStart_57 : decode cX6_readStart 57 = .ok (.aload_n 0, 1) := sorry
theorem dX6_readStart_58 : decode cX6_readStart 58 = .ok (.getfield 358, 3) := sorry
theorem dX6_readStart_61 : decode cX6_readStart 61 = .ok (.ifCond .ne 12, 3) := sorry
theorem dX6_readStart_64 : decode cX6_readStart 64 = .ok (.aload_n 0, 1) := sorry
theorem dX6_readStart_65 : decode cX6_readStart 65 = .ok (.bipush 59, 2) := sorry
theorem dX6_readStart_67 : decode cX6_readStart 67 = .ok (.invokevirtual 391, 3) := sorry
theorem dX6_readStart_70 : decode cX6_readStart 70 = .ok (.ifCond .eq 7, 3) := sorry
theorem dX6_readStart_73 : decode cX6_readStart 73 = .ok (.iconst 1, 1) := sorry
theorem dX6_readStart_74 : decode cX6_readStart 74 = .ok (.goto 4, 3) := sorry
theorem dX6_readStart_77 : decode cX6_readStart 77 = .ok (.iconst 0, 1) := sorry
theorem dX6_readStart_78 : decode cX6_readStart 78 = .ok (.iconst 1, 1) := sorry
theorem dX6_readStart_79 : decode cX6_readStart 79 = .ok (.invokevirtual 384, 3) := sorry
theorem dX6_readStart_82 : decode cX6_readStart 82 = .ok (.aload_n 0, 1) := sorry
theorem dX6_readStart_83 : decode cX6_readStart 83 = .ok (.aload_n 0, 1) := sorry
theorem dX6_readStart_84 : decode cX6_readStart 84 = .ok (.getfield 358, 3) := sorry
theorem dX6_readStart_87 : decode cX6_readStart 87 = .ok (.ifCond .ne 7, 3) := sorry
theorem dX6_readStart_90 : decode cX6_readStart 90 = .ok (.iload_n 1, 1) := sorry
theorem dX6_readStart_91 : decode cX6_readStart 91 = .ok (.ifCond .ne 7, 3) := sorry
theorem dX6_readStart_94 : decode cX6_readStart 94 = .ok (.iconst 1, 1) := sorry
theorem dX6_readStart_95 : decode cX6_readStart 95 = .ok (.goto 4, 3) := sorry
theorem dX6_readStart_98 : decode cX6_readStart 98 = .ok (.iconst 0, 1) := sorry
theorem dX6_readStart_99 : decode cX6_readStart 99 = .ok (.iconst 3, 1) := sorry
theorem dX6_readStart_100 : decode cX6_readStart 100 = .ok (.invokevirtual 384, 3) := sorry
theorem dX6_readStart_103 : decode cX6_readStart 103 = .ok (.return_, 1) := sorry
abbrev cX6_readMode : ByteArray := prog_17_method_122_code
def yX6_readMode : MethodName := ⟨RX6, "readMode", "()V"⟩
def dkwX6_readMode_2 : List UInt8 := [180, 0, 25, 4, 20, 0, 105, 80, 177]
abbrev dktX6_readMode_2 : List UInt8 := dkwX6_readMode_2 ++ []
def dkwX6_readMode_1 : List UInt8 := [182, 1, 153, 153, 0, 13, 42, 180, 0, 25, 4, 10, 80, 167, 0, 19, 42, 19, 1, 158, 182, 1, 160, 42]
abbrev dktX6_readMode_1 : List UInt8 := dkwX6_readMode_1 ++ dktX6_readMode_2
def dkwX6_readMode_0 : List UInt8 := [42, 19, 1, 151, 182, 1, 153, 153, 0, 13, 42, 180, 0, 25, 4, 9, 80, 167, 0, 39, 42, 19, 1, 156]
abbrev dktX6_readMode_0 : List UInt8 := dkwX6_readMode_0 ++ dktX6_readMode_1
theorem dksX6_readMode_0 : cX6_readMode.data.toList.drop 0 = dktX6_readMode_0 := sorry
theorem dksX6_readMode_1 : cX6_readMode.data.toList.drop 24 = dktX6_readMode_1 := sorry
theorem dksX6_readMode_2 : cX6_readMode.data.toList.drop 48 = dktX6_readMode_2 := sorry
theorem dX6_readMode_0 : decode cX6_readMode 0 = .ok (.aload_n 0, 1) := sorry
theorem dX6_readMode_1 : decode cX6_readMode 1 = .ok (.ldc_w 407, 3) := sorry
theorem dX6_readMode_4 : decode cX6_readMode 4 = .ok (.invokevirtual 409, 3) := sorry
theorem dX6_readMode_7 : decode cX6_readMode 7 = .ok (.ifCond .eq 13, 3) := sorry
theorem dX6_readMode_10 : decode cX6_readMode 10 = .ok (.aload_n 0, 1) := sorry
theorem dX6_readMode_11 : decode cX6_readMode 11 = .ok (.getfield 25, 3) := sorry
theorem dX6_readMode_14 : decode cX6_readMode 14 = .ok (.iconst 1, 1) := sorry
theorem dX6_readMode_15 : decode cX6_readMode 15 = .ok (.lconst 0, 1) := sorry
theorem dX6_readMode_16 : decode cX6_readMode 16 = .ok (.lastore, 1) := sorry
theorem dX6_readMode_17 : decode cX6_readMode 17 = .ok (.goto 39, 3) := sorry
theorem dX6_readMode_20 : decode cX6_readMode 20 = .ok (.aload_n 0, 1) := sorry
theorem dX6_readMode_21 : decode cX6_readMode 21 = .ok (.ldc_w 412, 3) := sorry
theorem dX6_readMode_24 : decode cX6_readMode 24 = .ok (.invokevirtual 409, 3) := sorry
theorem dX6_readMode_27 : decode cX6_readMode 27 = .ok (.ifCond .eq 13, 3) := sorry
theorem dX6_readMode_30 : decode cX6_readMode 30 = .ok (.aload_n 0, 1) := sorry
theorem dX6_readMode_31 : decode cX6_readMode 31 = .ok (.getfield 25, 3) := sorry
theorem dX6_readMode_34 : decode cX6_readMode 34 = .ok (.iconst 1, 1) := sorry
theorem dX6_readMode_35 : decode cX6_readMode 35 = .ok (.lconst 1, 1) := sorry
theorem dX6_readMode_36 : decode cX6_readMode 36 = .ok (.lastore, 1) := sorry
theorem dX6_readMode_37 : decode cX6_readMode 37 = .ok (.goto 19, 3) := sorry
theorem dX6_readMode_40 : decode cX6_readMode 40 = .ok (.aload_n 0, 1) := sorry
theorem dX6_readMode_41 : decode cX6_readMode 41 = .ok (.ldc_w 414, 3) := sorry
theorem dX6_readMode_44 : decode cX6_readMode 44 = .ok (.invokevirtual 416, 3) := sorry
theorem dX6_readMode_47 : decode cX6_readMode 47 = .ok (.aload_n 0, 1) := sorry
theorem dX6_readMode_48 : decode cX6_readMode 48 = .ok (.getfield 25, 3) := sorry
theorem dX6_readMode_51 : decode cX6_readMode 51 = .ok (.iconst 1, 1) := sorry
theorem dX6_readMode_52 : decode cX6_readMode 52 = .ok (.ldc2_w 105, 3) := sorry
theorem dX6_readMode_55 : decode cX6_readMode 55 = .ok (.lastore, 1) := sorry
theorem dX6_readMode_56 : decode cX6_readMode 56 = .ok (.return_, 1) := sorry
abbrev cX6_finish : ByteArray := prog_17_method_108_code
def yX6_finish : MethodName := ⟨RX6, "finish", "()I"⟩
def dkwX6_finish_1 : List UInt8 := [42, 180, 1, 102, 172]
abbrev dktX6_finish_1 : List UInt8 := dkwX6_finish_1 ++ []
def dkwX6_finish_0 : List UInt8 := [42, 3, 181, 1, 78, 42, 42, 180, 1, 102, 154, 0, 7, 2, 167, 0, 7, 42, 180, 1, 111, 181, 0, 50]
abbrev dktX6_finish_0 : List UInt8 := dkwX6_finish_0 ++ dktX6_finish_1
theorem dksX6_finish_0 : cX6_finish.data.toList.drop 0 = dktX6_finish_0 := sorry
theorem dksX6_finish_1 : cX6_finish.data.toList.drop 24 = dktX6_finish_1 := sorry
theorem dX6_finish_0 : decode cX6_finish 0 = .ok (.aload_n 0, 1) := sorry
theorem dX6_finish_1 : decode cX6_finish 1 = .ok (.iconst 0, 1) := sorry
theorem dX6_finish_2 : decode cX6_finish 2 = .ok (.putfield 334, 3) := sorry
theorem dX6_finish_5 : decode cX6_finish 5 = .ok (.aload_n 0, 1) := sorry
theorem dX6_finish_6 : decode cX6_finish 6 = .ok (.aload_n 0, 1) := sorry
theorem dX6_finish_7 : decode cX6_finish 7 = .ok (.getfield 358, 3) := sorry
theorem dX6_finish_10 : decode cX6_finish 10 = .ok (.ifCond .ne 7, 3) := sorry
theorem dX6_finish_13 : decode cX6_finish 13 = .ok (.iconst (-1), 1) := sorry
theorem dX6_finish_14 : decode cX6_finish 14 = .ok (.goto 7, 3) := sorry
theorem dX6_finish_17 : decode cX6_finish 17 = .ok (.aload_n 0, 1) := sorry
theorem dX6_finish_18 : decode cX6_finish 18 = .ok (.getfield 367, 3) := sorry
theorem dX6_finish_21 : decode cX6_finish 21 = .ok (.putfield 50, 3) := sorry
theorem dX6_finish_24 : decode cX6_finish 24 = .ok (.aload_n 0, 1) := sorry
theorem dX6_finish_25 : decode cX6_finish 25 = .ok (.getfield 358, 3) := sorry
theorem dX6_finish_28 : decode cX6_finish 28 = .ok (.ireturn, 1) := sorry
abbrev cX6_query : ByteArray := prog_17_method_137_code
def yX6_query : MethodName := ⟨RX6, "query", "(I)I"⟩
def dkwX6_query_7 : List UInt8 := [167, 255, 222, 28, 153, 0, 7, 2, 167, 0, 4, 29, 172]
abbrev dktX6_query_7 : List UInt8 := dkwX6_query_7 ++ []
def dkwX6_query_6 : List UInt8 := [182, 1, 249, 154, 0, 6, 167, 0, 13, 28, 153, 0, 6, 21, 4, 172, 132, 3, 1, 132, 4, 1]
abbrev dktX6_query_6 : List UInt8 := dkwX6_query_6 ++ dktX6_query_7
def dkwX6_query_5 : List UInt8 := [180, 1, 102, 100, 172, 3, 62, 3, 54, 4, 21, 4, 42, 182, 0, 91, 162, 0, 31, 42, 21, 4]
abbrev dktX6_query_5 : List UInt8 := dkwX6_query_5 ++ dktX6_query_6
def dkwX6_query_4 : List UInt8 := [154, 0, 7, 4, 167, 0, 4, 3, 4, 182, 1, 128, 42, 182, 1, 194, 153, 0, 12, 19, 1, 248, 42]
abbrev dktX6_query_4 : List UInt8 := dkwX6_query_4 ++ dktX6_query_5
def dkwX6_query_3 : List UInt8 := [4, 182, 1, 128, 42, 182, 1, 132, 42, 182, 1, 218, 42, 42, 180, 1, 102, 154, 0, 10, 42, 180, 1, 93]
abbrev dktX6_query_3 : List UInt8 := dkwX6_query_3 ++ dktX6_query_4
def dkwX6_query_2 : List UInt8 := [182, 1, 124, 61, 42, 28, 154, 0, 13, 42, 19, 1, 246, 182, 1, 124, 153, 0, 7, 4, 167, 0, 4, 3]
abbrev dktX6_query_2 : List UInt8 := dkwX6_query_2 ++ dktX6_query_3
def dkwX6_query_1 : List UInt8 := [154, 0, 9, 42, 4, 182, 0, 227, 172, 42, 3, 181, 1, 203, 42, 27, 182, 1, 197, 42, 19, 1, 244]
abbrev dktX6_query_1 : List UInt8 := dkwX6_query_1 ++ dktX6_query_2
def dkwX6_query_0 : List UInt8 := [42, 3, 181, 0, 84, 27, 133, 9, 42, 180, 1, 78, 17, 0, 200, 184, 1, 242, 133, 184, 0, 220]
abbrev dktX6_query_0 : List UInt8 := dkwX6_query_0 ++ dktX6_query_1
theorem dksX6_query_0 : cX6_query.data.toList.drop 0 = dktX6_query_0 := sorry
theorem dksX6_query_1 : cX6_query.data.toList.drop 22 = dktX6_query_1 := sorry
theorem dksX6_query_2 : cX6_query.data.toList.drop 45 = dktX6_query_2 := sorry
theorem dksX6_query_3 : cX6_query.data.toList.drop 69 = dktX6_query_3 := sorry
theorem dksX6_query_4 : cX6_query.data.toList.drop 93 = dktX6_query_4 := sorry
theorem dksX6_query_5 : cX6_query.data.toList.drop 116 = dktX6_query_5 := sorry
theorem dksX6_query_6 : cX6_query.data.toList.drop 138 = dktX6_query_6 := sorry
theorem dksX6_query_7 : cX6_query.data.toList.drop 160 = dktX6_query_7 := sorry
theorem dX6_query_0 : decode cX6_query 0 = .ok (.aload_n 0, 1) := sorry
theorem dX6_query_1 : decode cX6_query 1 = .ok (.iconst 0, 1) := sorry
theorem dX6_query_2 : decode cX6_query 2 = .ok (.putfield 84, 3) := sorry
theorem dX6_query_5 : decode cX6_query 5 = .ok (.iload_n 1, 1) := sorry
theorem dX6_query_6 : decode cX6_query 6 = .ok (.i2l, 1) := sorry
theorem dX6_query_7 : decode cX6_query 7 = .ok (.lconst 0, 1) := sorry
theorem dX6_query_8 : decode cX6_query 8 = .ok (.aload_n 0, 1) := sorry
theorem dX6_query_9 : decode cX6_query 9 = .ok (.getfield 334, 3) := sorry
theorem dX6_query_12 : decode cX6_query 12 = .ok (.sipush 200, 3) := sorry
theorem dX6_query_15 : decode cX6_query 15 = .ok (.invokestatic 498, 3) := sorry
theorem dX6_query_18 : decode cX6_query 18 = .ok (.i2l, 1) := sorry
theorem dX6_query_19 : decode cX6_query 19 = .ok (.invokestatic 220, 3) := sorry
theorem dX6_query_22 : decode cX6_query 22 = .ok (.ifCond .ne 9, 3) := sorry
theorem dX6_query_25 : decode cX6_query 25 = .ok (.aload_n 0, 1) := sorry
theorem dX6_query_26 : decode cX6_query 26 = .ok (.iconst 1, 1) := sorry
theorem dX6_query_27 : decode cX6_query 27 = .ok (.invokevirtual 227, 3) := sorry
theorem dX6_query_30 : decode cX6_query 30 = .ok (.ireturn, 1) := sorry
theorem dX6_query_31 : decode cX6_query 31 = .ok (.aload_n 0, 1) := sorry
theorem dX6_query_32 : decode cX6_query 32 = .ok (.iconst 0, 1) := sorry
theorem dX6_query_33 : decode cX6_query 33 = .ok (.putfield 459, 3) := sorry
theorem dX6_query_36 : decode cX6_query 36 = .ok (.aload_n 0, 1) := sorry
theorem dX6_query_37 : decode cX6_query 37 = .ok (.iload_n 1, 1) := sorry
theorem dX6_query_38 : decode cX6_query 38 = .ok (.invokevirtual 453, 3) := sorry
theorem dX6_query_41 : decode cX6_query 41 = .ok (.aload_n 0, 1) := sorry
theorem dX6_query_42 : decode cX6_query 42 = .ok (.ldc_w 500, 3) := sorry
theorem dX6_query_45 : decode cX6_query 45 = .ok (.invokevirtual 380, 3) := sorry
theorem dX6_query_48 : decode cX6_query 48 = .ok (.istore_n 2, 1) := sorry
theorem dX6_query_49 : decode cX6_query 49 = .ok (.aload_n 0, 1) := sorry
theorem dX6_query_50 : decode cX6_query 50 = .ok (.iload_n 2, 1) := sorry
theorem dX6_query_51 : decode cX6_query 51 = .ok (.ifCond .ne 13, 3) := sorry
theorem dX6_query_54 : decode cX6_query 54 = .ok (.aload_n 0, 1) := sorry
theorem dX6_query_55 : decode cX6_query 55 = .ok (.ldc_w 502, 3) := sorry
theorem dX6_query_58 : decode cX6_query 58 = .ok (.invokevirtual 380, 3) := sorry
theorem dX6_query_61 : decode cX6_query 61 = .ok (.ifCond .eq 7, 3) := sorry
theorem dX6_query_64 : decode cX6_query 64 = .ok (.iconst 1, 1) := sorry
theorem dX6_query_65 : decode cX6_query 65 = .ok (.goto 4, 3) := sorry
theorem dX6_query_68 : decode cX6_query 68 = .ok (.iconst 0, 1) := sorry
theorem dX6_query_69 : decode cX6_query 69 = .ok (.iconst 1, 1) := sorry
theorem dX6_query_70 : decode cX6_query 70 = .ok (.invokevirtual 384, 3) := sorry
theorem dX6_query_73 : decode cX6_query 73 = .ok (.aload_n 0, 1) := sorry
theorem dX6_query_74 : decode cX6_query 74 = .ok (.invokevirtual 388, 3) := sorry
theorem dX6_query_77 : decode cX6_query 77 = .ok (.aload_n 0, 1) := sorry
theorem dX6_query_78 : decode cX6_query 78 = .ok (.invokevirtual 474, 3) := sorry
theorem dX6_query_81 : decode cX6_query 81 = .ok (.aload_n 0, 1) := sorry
theorem dX6_query_82 : decode cX6_query 82 = .ok (.aload_n 0, 1) := sorry
theorem dX6_query_83 : decode cX6_query 83 = .ok (.getfield 358, 3) := sorry
theorem dX6_query_86 : decode cX6_query 86 = .ok (.ifCond .ne 10, 3) := sorry
theorem dX6_query_89 : decode cX6_query 89 = .ok (.aload_n 0, 1) := sorry
theorem dX6_query_90 : decode cX6_query 90 = .ok (.getfield 349, 3) := sorry
theorem dX6_query_93 : decode cX6_query 93 = .ok (.ifCond .ne 7, 3) := sorry
theorem dX6_query_96 : decode cX6_query 96 = .ok (.iconst 1, 1) := sorry
theorem dX6_query_97 : decode cX6_query 97 = .ok (.goto 4, 3) := sorry
theorem dX6_query_100 : decode cX6_query 100 = .ok (.iconst 0, 1) := sorry
theorem dX6_query_101 : decode cX6_query 101 = .ok (.iconst 1, 1) := sorry
theorem dX6_query_102 : decode cX6_query 102 = .ok (.invokevirtual 384, 3) := sorry
theorem dX6_query_105 : decode cX6_query 105 = .ok (.aload_n 0, 1) := sorry
theorem dX6_query_106 : decode cX6_query 106 = .ok (.invokevirtual 450, 3) := sorry
theorem dX6_query_109 : decode cX6_query 109 = .ok (.ifCond .eq 12, 3) := sorry
theorem dX6_query_112 : decode cX6_query 112 = .ok (.ldc_w 504, 3) := sorry
theorem dX6_query_115 : decode cX6_query 115 = .ok (.aload_n 0, 1) := sorry
theorem dX6_query_116 : decode cX6_query 116 = .ok (.getfield 358, 3) := sorry
theorem dX6_query_119 : decode cX6_query 119 = .ok (.isub, 1) := sorry
theorem dX6_query_120 : decode cX6_query 120 = .ok (.ireturn, 1) := sorry
theorem dX6_query_121 : decode cX6_query 121 = .ok (.iconst 0, 1) := sorry
theorem dX6_query_122 : decode cX6_query 122 = .ok (.istore_n 3, 1) := sorry
theorem dX6_query_123 : decode cX6_query 123 = .ok (.iconst 0, 1) := sorry
theorem dX6_query_124 : decode cX6_query 124 = .ok (.istore 4, 2) := sorry
theorem dX6_query_126 : decode cX6_query 126 = .ok (.iload 4, 2) := sorry
theorem dX6_query_128 : decode cX6_query 128 = .ok (.aload_n 0, 1) := sorry
theorem dX6_query_129 : decode cX6_query 129 = .ok (.invokevirtual 91, 3) := sorry
theorem dX6_query_132 : decode cX6_query 132 = .ok (.if_icmp .ge 31, 3) := sorry
theorem dX6_query_135 : decode cX6_query 135 = .ok (.aload_n 0, 1) := sorry
theorem dX6_query_136 : decode cX6_query 136 = .ok (.iload 4, 2) := sorry
theorem dX6_query_138 : decode cX6_query 138 = .ok (.invokevirtual 505, 3) := sorry
theorem dX6_query_141 : decode cX6_query 141 = .ok (.ifCond .ne 6, 3) := sorry
theorem dX6_query_144 : decode cX6_query 144 = .ok (.goto 13, 3) := sorry
theorem dX6_query_147 : decode cX6_query 147 = .ok (.iload_n 2, 1) := sorry
theorem dX6_query_148 : decode cX6_query 148 = .ok (.ifCond .eq 6, 3) := sorry
theorem dX6_query_151 : decode cX6_query 151 = .ok (.iload 4, 2) := sorry
theorem dX6_query_153 : decode cX6_query 153 = .ok (.ireturn, 1) := sorry
theorem dX6_query_154 : decode cX6_query 154 = .ok (.iinc 3 1, 3) := sorry
theorem dX6_query_157 : decode cX6_query 157 = .ok (.iinc 4 1, 3) := sorry
theorem dX6_query_160 : decode cX6_query 160 = .ok (.goto (-34), 3) := sorry
theorem dX6_query_163 : decode cX6_query 163 = .ok (.iload_n 2, 1) := sorry
theorem dX6_query_164 : decode cX6_query 164 = .ok (.ifCond .eq 7, 3) := sorry
theorem dX6_query_167 : decode cX6_query 167 = .ok (.iconst (-1), 1) := sorry
theorem dX6_query_168 : decode cX6_query 168 = .ok (.goto 4, 3) := sorry
theorem dX6_query_171 : decode cX6_query 171 = .ok (.iload_n 3, 1) := sorry
theorem dX6_query_172 : decode cX6_query 172 = .ok (.ireturn, 1) := sorry
abbrev cX6_compileTest : ByteArray := prog_17_method_132_code
def yX6_compileTest : MethodName := ⟨RX6, "compileTest", "()V"⟩
def dkwX6_compileTest_1 : List UInt8 := [167, 255, 236, 177]
abbrev dktX6_compileTest_1 : List UInt8 := dkwX6_compileTest_1 ++ []
def dkwX6_compileTest_0 : List UInt8 := [42, 182, 1, 226, 42, 19, 1, 229, 182, 1, 153, 153, 0, 16, 42, 182, 1, 226, 42, 16, 231, 182, 1, 207]
abbrev dktX6_compileTest_0 : List UInt8 := dkwX6_compileTest_0 ++ dktX6_compileTest_1
theorem dksX6_compileTest_0 : cX6_compileTest.data.toList.drop 0 = dktX6_compileTest_0 := sorry
theorem dksX6_compileTest_1 : cX6_compileTest.data.toList.drop 24 = dktX6_compileTest_1 := sorry
theorem dX6_compileTest_0 : decode cX6_compileTest 0 = .ok (.aload_n 0, 1) := sorry
theorem dX6_compileTest_1 : decode cX6_compileTest 1 = .ok (.invokevirtual 482, 3) := sorry
theorem dX6_compileTest_4 : decode cX6_compileTest 4 = .ok (.aload_n 0, 1) := sorry
theorem dX6_compileTest_5 : decode cX6_compileTest 5 = .ok (.ldc_w 485, 3) := sorry
theorem dX6_compileTest_8 : decode cX6_compileTest 8 = .ok (.invokevirtual 409, 3) := sorry
theorem dX6_compileTest_11 : decode cX6_compileTest 11 = .ok (.ifCond .eq 16, 3) := sorry
theorem dX6_compileTest_14 : decode cX6_compileTest 14 = .ok (.aload_n 0, 1) := sorry
theorem dX6_compileTest_15 : decode cX6_compileTest 15 = .ok (.invokevirtual 482, 3) := sorry
theorem dX6_compileTest_18 : decode cX6_compileTest 18 = .ok (.aload_n 0, 1) := sorry
theorem dX6_compileTest_19 : decode cX6_compileTest 19 = .ok (.bipush (-25), 2) := sorry
theorem dX6_compileTest_21 : decode cX6_compileTest 21 = .ok (.invokevirtual 463, 3) := sorry
theorem dX6_compileTest_24 : decode cX6_compileTest 24 = .ok (.goto (-20), 3) := sorry
theorem dX6_compileTest_27 : decode cX6_compileTest 27 = .ok (.return_, 1) := sorry
abbrev cX6_compileConjunction : ByteArray := prog_17_method_131_code
def yX6_compileConjunction : MethodName := ⟨RX6, "compileConjunction", "()V"⟩
def dkwX6_compileConjunction_1 : List UInt8 := [167, 255, 236, 177]
abbrev dktX6_compileConjunction_1 : List UInt8 := dkwX6_compileConjunction_1 ++ []
def dkwX6_compileConjunction_0 : List UInt8 := [42, 182, 1, 215, 42, 19, 1, 224, 182, 1, 153, 153, 0, 16, 42, 182, 1, 215, 42, 16, 232, 182, 1, 207]
abbrev dktX6_compileConjunction_0 : List UInt8 := dkwX6_compileConjunction_0 ++ dktX6_compileConjunction_1
theorem dksX6_compileConjunction_0 : cX6_compileConjunction.data.toList.drop 0 = dktX6_compileConjunction_0 := sorry
theorem dksX6_compileConjunction_1 : cX6_compileConjunction.data.toList.drop 24 = dktX6_compileConjunction_1 := sorry
theorem dX6_compileConjunction_0 : decode cX6_compileConjunction 0 = .ok (.aload_n 0, 1) := sorry
theorem dX6_compileConjunction_1 : decode cX6_compileConjunction 1 = .ok (.invokevirtual 471, 3) := sorry
theorem dX6_compileConjunction_4 : decode cX6_compileConjunction 4 = .ok (.aload_n 0, 1) := sorry
theorem dX6_compileConjunction_5 : decode cX6_compileConjunction 5 = .ok (.ldc_w 480, 3) := sorry
theorem dX6_compileConjunction_8 : decode cX6_compileConjunction 8 = .ok (.invokevirtual 409, 3) := sorry
theorem dX6_compileConjunction_11 : decode cX6_compileConjunction 11 = .ok (.ifCond .eq 16, 3) := sorry
theorem dX6_compileConjunction_14 : decode cX6_compileConjunction 14 = .ok (.aload_n 0, 1) := sorry
theorem dX6_compileConjunction_15 : decode cX6_compileConjunction 15 = .ok (.invokevirtual 471, 3) := sorry
theorem dX6_compileConjunction_18 : decode cX6_compileConjunction 18 = .ok (.aload_n 0, 1) := sorry
theorem dX6_compileConjunction_19 : decode cX6_compileConjunction 19 = .ok (.bipush (-24), 2) := sorry
theorem dX6_compileConjunction_21 : decode cX6_compileConjunction 21 = .ok (.invokevirtual 463, 3) := sorry
theorem dX6_compileConjunction_24 : decode cX6_compileConjunction 24 = .ok (.goto (-20), 3) := sorry
theorem dX6_compileConjunction_27 : decode cX6_compileConjunction 27 = .ok (.return_, 1) := sorry
abbrev cX6_compileFactor : ByteArray := prog_17_method_130_code
def yX6_compileFactor : MethodName := ⟨RX6, "compileFactor", "()V"⟩
def dkwX6_compileFactor_6 : List UInt8 := [167, 0, 4, 3, 4, 182, 1, 128, 42, 182, 1, 132, 42, 182, 1, 221, 42, 27, 182, 1, 207, 177]
abbrev dktX6_compileFactor_6 : List UInt8 := dkwX6_compileFactor_6 ++ []
def dkwX6_compileFactor_5 : List UInt8 := [167, 0, 5, 16, 234, 60, 42, 27, 16, 234, 160, 0, 12, 42, 16, 62, 182, 1, 135, 153, 0, 7, 4]
abbrev dktX6_compileFactor_5 : List UInt8 := dkwX6_compileFactor_5 ++ dktX6_compileFactor_6
def dkwX6_compileFactor_4 : List UInt8 := [16, 60, 182, 1, 135, 153, 0, 8, 16, 236, 167, 0, 19, 42, 16, 61, 182, 1, 135, 153, 0, 8, 16, 235]
abbrev dktX6_compileFactor_4 : List UInt8 := dkwX6_compileFactor_4 ++ dktX6_compileFactor_5
def dkwX6_compileFactor_3 : List UInt8 := [16, 41, 182, 1, 183, 42, 89, 180, 1, 105, 4, 100, 181, 1, 105, 167, 0, 76, 42, 182, 1, 221, 42]
abbrev dktX6_compileFactor_3 : List UInt8 := dkwX6_compileFactor_3 ++ dktX6_compileFactor_4
def dkwX6_compileFactor_2 : List UInt8 := [16, 40, 182, 1, 135, 153, 0, 37, 42, 182, 1, 212, 42, 180, 1, 102, 154, 0, 7, 42, 182, 1, 218, 42]
abbrev dktX6_compileFactor_2 : List UInt8 := dkwX6_compileFactor_2 ++ dktX6_compileFactor_3
def dkwX6_compileFactor_1 : List UInt8 := [182, 1, 215, 42, 16, 233, 182, 1, 207, 42, 89, 180, 1, 105, 4, 100, 181, 1, 105, 167, 0, 119, 42]
abbrev dktX6_compileFactor_1 : List UInt8 := dkwX6_compileFactor_1 ++ dktX6_compileFactor_2
def dkwX6_compileFactor_0 : List UInt8 := [42, 19, 1, 210, 182, 1, 124, 153, 0, 37, 42, 182, 1, 212, 42, 180, 1, 102, 154, 0, 7, 42]
abbrev dktX6_compileFactor_0 : List UInt8 := dkwX6_compileFactor_0 ++ dktX6_compileFactor_1
theorem dksX6_compileFactor_0 : cX6_compileFactor.data.toList.drop 0 = dktX6_compileFactor_0 := sorry
theorem dksX6_compileFactor_1 : cX6_compileFactor.data.toList.drop 22 = dktX6_compileFactor_1 := sorry
theorem dksX6_compileFactor_2 : cX6_compileFactor.data.toList.drop 45 = dktX6_compileFactor_2 := sorry
theorem dksX6_compileFactor_3 : cX6_compileFactor.data.toList.drop 69 = dktX6_compileFactor_3 := sorry
theorem dksX6_compileFactor_4 : cX6_compileFactor.data.toList.drop 92 = dktX6_compileFactor_4 := sorry
theorem dksX6_compileFactor_5 : cX6_compileFactor.data.toList.drop 116 = dktX6_compileFactor_5 := sorry
theorem dksX6_compileFactor_6 : cX6_compileFactor.data.toList.drop 139 = dktX6_compileFactor_6 := sorry
theorem dX6_compileFactor_0 : decode cX6_compileFactor 0 = .ok (.aload_n 0, 1) := sorry
theorem dX6_compileFactor_1 : decode cX6_compileFactor 1 = .ok (.ldc_w 466, 3) := sorry
theorem dX6_compileFactor_4 : decode cX6_compileFactor 4 = .ok (.invokevirtual 380, 3) := sorry
theorem dX6_compileFactor_7 : decode cX6_compileFactor 7 = .ok (.ifCond .eq 37, 3) := sorry
theorem dX6_compileFactor_10 : decode cX6_compileFactor 10 = .ok (.aload_n 0, 1) := sorry
theorem dX6_compileFactor_11 : decode cX6_compileFactor 11 = .ok (.invokevirtual 468, 3) := sorry
theorem dX6_compileFactor_14 : decode cX6_compileFactor 14 = .ok (.aload_n 0, 1) := sorry
theorem dX6_compileFactor_15 : decode cX6_compileFactor 15 = .ok (.getfield 358, 3) := sorry
theorem dX6_compileFactor_18 : decode cX6_compileFactor 18 = .ok (.ifCond .ne 7, 3) := sorry
theorem dX6_compileFactor_21 : decode cX6_compileFactor 21 = .ok (.aload_n 0, 1) := sorry
theorem dX6_compileFactor_22 : decode cX6_compileFactor 22 = .ok (.invokevirtual 471, 3) := sorry
theorem dX6_compileFactor_25 : decode cX6_compileFactor 25 = .ok (.aload_n 0, 1) := sorry
theorem dX6_compileFactor_26 : decode cX6_compileFactor 26 = .ok (.bipush (-23), 2) := sorry
theorem dX6_compileFactor_28 : decode cX6_compileFactor 28 = .ok (.invokevirtual 463, 3) := sorry
theorem dX6_compileFactor_31 : decode cX6_compileFactor 31 = .ok (.aload_n 0, 1) := sorry
theorem dX6_compileFactor_32 : decode cX6_compileFactor 32 = .ok (.dup, 1) := sorry
theorem dX6_compileFactor_33 : decode cX6_compileFactor 33 = .ok (.getfield 361, 3) := sorry
theorem dX6_compileFactor_36 : decode cX6_compileFactor 36 = .ok (.iconst 1, 1) := sorry
theorem dX6_compileFactor_37 : decode cX6_compileFactor 37 = .ok (.isub, 1) := sorry
theorem dX6_compileFactor_38 : decode cX6_compileFactor 38 = .ok (.putfield 361, 3) := sorry
theorem dX6_compileFactor_41 : decode cX6_compileFactor 41 = .ok (.goto 119, 3) := sorry
theorem dX6_compileFactor_44 : decode cX6_compileFactor 44 = .ok (.aload_n 0, 1) := sorry
theorem dX6_compileFactor_45 : decode cX6_compileFactor 45 = .ok (.bipush 40, 2) := sorry
theorem dX6_compileFactor_47 : decode cX6_compileFactor 47 = .ok (.invokevirtual 391, 3) := sorry
theorem dX6_compileFactor_50 : decode cX6_compileFactor 50 = .ok (.ifCond .eq 37, 3) := sorry
theorem dX6_compileFactor_53 : decode cX6_compileFactor 53 = .ok (.aload_n 0, 1) := sorry
theorem dX6_compileFactor_54 : decode cX6_compileFactor 54 = .ok (.invokevirtual 468, 3) := sorry
theorem dX6_compileFactor_57 : decode cX6_compileFactor 57 = .ok (.aload_n 0, 1) := sorry
theorem dX6_compileFactor_58 : decode cX6_compileFactor 58 = .ok (.getfield 358, 3) := sorry
theorem dX6_compileFactor_61 : decode cX6_compileFactor 61 = .ok (.ifCond .ne 7, 3) := sorry
theorem dX6_compileFactor_64 : decode cX6_compileFactor 64 = .ok (.aload_n 0, 1) := sorry
theorem dX6_compileFactor_65 : decode cX6_compileFactor 65 = .ok (.invokevirtual 474, 3) := sorry
theorem dX6_compileFactor_68 : decode cX6_compileFactor 68 = .ok (.aload_n 0, 1) := sorry
theorem dX6_compileFactor_69 : decode cX6_compileFactor 69 = .ok (.bipush 41, 2) := sorry
theorem dX6_compileFactor_71 : decode cX6_compileFactor 71 = .ok (.invokevirtual 439, 3) := sorry
theorem dX6_compileFactor_74 : decode cX6_compileFactor 74 = .ok (.aload_n 0, 1) := sorry
theorem dX6_compileFactor_75 : decode cX6_compileFactor 75 = .ok (.dup, 1) := sorry
theorem dX6_compileFactor_76 : decode cX6_compileFactor 76 = .ok (.getfield 361, 3) := sorry
theorem dX6_compileFactor_79 : decode cX6_compileFactor 79 = .ok (.iconst 1, 1) := sorry
theorem dX6_compileFactor_80 : decode cX6_compileFactor 80 = .ok (.isub, 1) := sorry
theorem dX6_compileFactor_81 : decode cX6_compileFactor 81 = .ok (.putfield 361, 3) := sorry
theorem dX6_compileFactor_84 : decode cX6_compileFactor 84 = .ok (.goto 76, 3) := sorry
theorem dX6_compileFactor_87 : decode cX6_compileFactor 87 = .ok (.aload_n 0, 1) := sorry
theorem dX6_compileFactor_88 : decode cX6_compileFactor 88 = .ok (.invokevirtual 477, 3) := sorry
theorem dX6_compileFactor_91 : decode cX6_compileFactor 91 = .ok (.aload_n 0, 1) := sorry
theorem dX6_compileFactor_92 : decode cX6_compileFactor 92 = .ok (.bipush 60, 2) := sorry
theorem dX6_compileFactor_94 : decode cX6_compileFactor 94 = .ok (.invokevirtual 391, 3) := sorry
theorem dX6_compileFactor_97 : decode cX6_compileFactor 97 = .ok (.ifCond .eq 8, 3) := sorry
theorem dX6_compileFactor_100 : decode cX6_compileFactor 100 = .ok (.bipush (-20), 2) := sorry
theorem dX6_compileFactor_102 : decode cX6_compileFactor 102 = .ok (.goto 19, 3) := sorry
theorem dX6_compileFactor_105 : decode cX6_compileFactor 105 = .ok (.aload_n 0, 1) := sorry
theorem dX6_compileFactor_106 : decode cX6_compileFactor 106 = .ok (.bipush 61, 2) := sorry
theorem dX6_compileFactor_108 : decode cX6_compileFactor 108 = .ok (.invokevirtual 391, 3) := sorry
theorem dX6_compileFactor_111 : decode cX6_compileFactor 111 = .ok (.ifCond .eq 8, 3) := sorry
theorem dX6_compileFactor_114 : decode cX6_compileFactor 114 = .ok (.bipush (-21), 2) := sorry
theorem dX6_compileFactor_116 : decode cX6_compileFactor 116 = .ok (.goto 5, 3) := sorry
theorem dX6_compileFactor_119 : decode cX6_compileFactor 119 = .ok (.bipush (-22), 2) := sorry
theorem dX6_compileFactor_121 : decode cX6_compileFactor 121 = .ok (.istore_n 1, 1) := sorry
theorem dX6_compileFactor_122 : decode cX6_compileFactor 122 = .ok (.aload_n 0, 1) := sorry
theorem dX6_compileFactor_123 : decode cX6_compileFactor 123 = .ok (.iload_n 1, 1) := sorry
theorem dX6_compileFactor_124 : decode cX6_compileFactor 124 = .ok (.bipush (-22), 2) := sorry
theorem dX6_compileFactor_126 : decode cX6_compileFactor 126 = .ok (.if_icmp .ne 12, 3) := sorry
theorem dX6_compileFactor_129 : decode cX6_compileFactor 129 = .ok (.aload_n 0, 1) := sorry
theorem dX6_compileFactor_130 : decode cX6_compileFactor 130 = .ok (.bipush 62, 2) := sorry
theorem dX6_compileFactor_132 : decode cX6_compileFactor 132 = .ok (.invokevirtual 391, 3) := sorry
theorem dX6_compileFactor_135 : decode cX6_compileFactor 135 = .ok (.ifCond .eq 7, 3) := sorry
theorem dX6_compileFactor_138 : decode cX6_compileFactor 138 = .ok (.iconst 1, 1) := sorry
theorem dX6_compileFactor_139 : decode cX6_compileFactor 139 = .ok (.goto 4, 3) := sorry
theorem dX6_compileFactor_142 : decode cX6_compileFactor 142 = .ok (.iconst 0, 1) := sorry
theorem dX6_compileFactor_143 : decode cX6_compileFactor 143 = .ok (.iconst 1, 1) := sorry
theorem dX6_compileFactor_144 : decode cX6_compileFactor 144 = .ok (.invokevirtual 384, 3) := sorry
theorem dX6_compileFactor_147 : decode cX6_compileFactor 147 = .ok (.aload_n 0, 1) := sorry
theorem dX6_compileFactor_148 : decode cX6_compileFactor 148 = .ok (.invokevirtual 388, 3) := sorry
theorem dX6_compileFactor_151 : decode cX6_compileFactor 151 = .ok (.aload_n 0, 1) := sorry
theorem dX6_compileFactor_152 : decode cX6_compileFactor 152 = .ok (.invokevirtual 477, 3) := sorry
theorem dX6_compileFactor_155 : decode cX6_compileFactor 155 = .ok (.aload_n 0, 1) := sorry
theorem dX6_compileFactor_156 : decode cX6_compileFactor 156 = .ok (.iload_n 1, 1) := sorry
theorem dX6_compileFactor_157 : decode cX6_compileFactor 157 = .ok (.invokevirtual 463, 3) := sorry
theorem dX6_compileFactor_160 : decode cX6_compileFactor 160 = .ok (.return_, 1) := sorry
abbrev cX6_enter : ByteArray := prog_17_method_128_code
def yX6_enter : MethodName := ⟨RX6, "enter", "()V"⟩
def dkwX6_enter_1 : List UInt8 := [4, 96, 181, 1, 105, 42, 182, 1, 132, 177]
abbrev dktX6_enter_1 : List UInt8 := dkwX6_enter_1 ++ []
def dkwX6_enter_0 : List UInt8 := [42, 42, 180, 1, 105, 16, 6, 162, 0, 7, 4, 167, 0, 4, 3, 6, 182, 1, 128, 42, 89, 180, 1, 105]
abbrev dktX6_enter_0 : List UInt8 := dkwX6_enter_0 ++ dktX6_enter_1
theorem dksX6_enter_0 : cX6_enter.data.toList.drop 0 = dktX6_enter_0 := sorry
theorem dksX6_enter_1 : cX6_enter.data.toList.drop 24 = dktX6_enter_1 := sorry
theorem dX6_enter_0 : decode cX6_enter 0 = .ok (.aload_n 0, 1) := sorry
theorem dX6_enter_1 : decode cX6_enter 1 = .ok (.aload_n 0, 1) := sorry
theorem dX6_enter_2 : decode cX6_enter 2 = .ok (.getfield 361, 3) := sorry
theorem dX6_enter_5 : decode cX6_enter 5 = .ok (.bipush 6, 2) := sorry
theorem dX6_enter_7 : decode cX6_enter 7 = .ok (.if_icmp .ge 7, 3) := sorry
theorem dX6_enter_10 : decode cX6_enter 10 = .ok (.iconst 1, 1) := sorry
theorem dX6_enter_11 : decode cX6_enter 11 = .ok (.goto 4, 3) := sorry
theorem dX6_enter_14 : decode cX6_enter 14 = .ok (.iconst 0, 1) := sorry
theorem dX6_enter_15 : decode cX6_enter 15 = .ok (.iconst 3, 1) := sorry
theorem dX6_enter_16 : decode cX6_enter 16 = .ok (.invokevirtual 384, 3) := sorry
theorem dX6_enter_19 : decode cX6_enter 19 = .ok (.aload_n 0, 1) := sorry
theorem dX6_enter_20 : decode cX6_enter 20 = .ok (.dup, 1) := sorry
theorem dX6_enter_21 : decode cX6_enter 21 = .ok (.getfield 361, 3) := sorry
theorem dX6_enter_24 : decode cX6_enter 24 = .ok (.iconst 1, 1) := sorry
theorem dX6_enter_25 : decode cX6_enter 25 = .ok (.iadd, 1) := sorry
theorem dX6_enter_26 : decode cX6_enter 26 = .ok (.putfield 361, 3) := sorry
theorem dX6_enter_29 : decode cX6_enter 29 = .ok (.aload_n 0, 1) := sorry
theorem dX6_enter_30 : decode cX6_enter 30 = .ok (.invokevirtual 388, 3) := sorry
theorem dX6_enter_33 : decode cX6_enter 33 = .ok (.return_, 1) := sorry
abbrev cX6_emit : ByteArray := prog_17_method_127_code
def yX6_emit : MethodName := ⟨RX6, "emit", "(I)V"⟩
def dkwX6_emit_1 : List UInt8 := [181, 1, 203, 177]
abbrev dktX6_emit_1 : List UInt8 := dkwX6_emit_1 ++ []
def dkwX6_emit_0 : List UInt8 := [42, 180, 1, 102, 154, 0, 23, 42, 180, 0, 70, 42, 180, 1, 203, 27, 79, 42, 89, 180, 1, 203, 4, 96]
abbrev dktX6_emit_0 : List UInt8 := dkwX6_emit_0 ++ dktX6_emit_1
theorem dksX6_emit_0 : cX6_emit.data.toList.drop 0 = dktX6_emit_0 := sorry
theorem dksX6_emit_1 : cX6_emit.data.toList.drop 24 = dktX6_emit_1 := sorry
theorem dX6_emit_0 : decode cX6_emit 0 = .ok (.aload_n 0, 1) := sorry
theorem dX6_emit_1 : decode cX6_emit 1 = .ok (.getfield 358, 3) := sorry
theorem dX6_emit_4 : decode cX6_emit 4 = .ok (.ifCond .ne 23, 3) := sorry
theorem dX6_emit_7 : decode cX6_emit 7 = .ok (.aload_n 0, 1) := sorry
theorem dX6_emit_8 : decode cX6_emit 8 = .ok (.getfield 70, 3) := sorry
theorem dX6_emit_11 : decode cX6_emit 11 = .ok (.aload_n 0, 1) := sorry
theorem dX6_emit_12 : decode cX6_emit 12 = .ok (.getfield 459, 3) := sorry
theorem dX6_emit_15 : decode cX6_emit 15 = .ok (.iload_n 1, 1) := sorry
theorem dX6_emit_16 : decode cX6_emit 16 = .ok (.iastore, 1) := sorry
theorem dX6_emit_17 : decode cX6_emit 17 = .ok (.aload_n 0, 1) := sorry
theorem dX6_emit_18 : decode cX6_emit 18 = .ok (.dup, 1) := sorry
theorem dX6_emit_19 : decode cX6_emit 19 = .ok (.getfield 459, 3) := sorry
theorem dX6_emit_22 : decode cX6_emit 22 = .ok (.iconst 1, 1) := sorry
theorem dX6_emit_23 : decode cX6_emit 23 = .ok (.iadd, 1) := sorry
theorem dX6_emit_24 : decode cX6_emit 24 = .ok (.putfield 459, 3) := sorry
theorem dX6_emit_27 : decode cX6_emit 27 = .ok (.return_, 1) := sorry
abbrev cX6_compileValue : ByteArray := prog_17_method_129_code
def yX6_compileValue : MethodName := ⟨RX6, "compileValue", "()V"⟩
def dkwX6_compileValue_3 : List UInt8 := [167, 0, 4, 3, 4, 182, 1, 128, 42, 2, 27, 100, 182, 1, 207, 42, 182, 1, 132, 177]
abbrev dktX6_compileValue_3 : List UInt8 := dkwX6_compileValue_3 ++ []
def dkwX6_compileValue_2 : List UInt8 := [182, 1, 124, 154, 0, 9, 132, 1, 1, 167, 255, 231, 42, 27, 42, 180, 0, 66, 190, 162, 0, 7, 4]
abbrev dktX6_compileValue_2 : List UInt8 := dkwX6_compileValue_2 ++ dktX6_compileValue_3
def dkwX6_compileValue_1 : List UInt8 := [182, 1, 207, 177, 3, 60, 27, 42, 180, 0, 66, 190, 162, 0, 22, 42, 42, 180, 0, 66, 27, 50]
abbrev dktX6_compileValue_1 : List UInt8 := dkwX6_compileValue_1 ++ dktX6_compileValue_2
def dkwX6_compileValue_0 : List UInt8 := [42, 180, 1, 102, 154, 0, 11, 42, 180, 1, 93, 5, 160, 0, 16, 42, 42, 3, 19, 1, 206, 182, 1, 145]
abbrev dktX6_compileValue_0 : List UInt8 := dkwX6_compileValue_0 ++ dktX6_compileValue_1
theorem dksX6_compileValue_0 : cX6_compileValue.data.toList.drop 0 = dktX6_compileValue_0 := sorry
theorem dksX6_compileValue_1 : cX6_compileValue.data.toList.drop 24 = dktX6_compileValue_1 := sorry
theorem dksX6_compileValue_2 : cX6_compileValue.data.toList.drop 46 = dktX6_compileValue_2 := sorry
theorem dksX6_compileValue_3 : cX6_compileValue.data.toList.drop 69 = dktX6_compileValue_3 := sorry
theorem dX6_compileValue_0 : decode cX6_compileValue 0 = .ok (.aload_n 0, 1) := sorry
theorem dX6_compileValue_1 : decode cX6_compileValue 1 = .ok (.getfield 358, 3) := sorry
theorem dX6_compileValue_4 : decode cX6_compileValue 4 = .ok (.ifCond .ne 11, 3) := sorry
theorem dX6_compileValue_7 : decode cX6_compileValue 7 = .ok (.aload_n 0, 1) := sorry
theorem dX6_compileValue_8 : decode cX6_compileValue 8 = .ok (.getfield 349, 3) := sorry
theorem dX6_compileValue_11 : decode cX6_compileValue 11 = .ok (.iconst 2, 1) := sorry
theorem dX6_compileValue_12 : decode cX6_compileValue 12 = .ok (.if_icmp .ne 16, 3) := sorry
theorem dX6_compileValue_15 : decode cX6_compileValue 15 = .ok (.aload_n 0, 1) := sorry
theorem dX6_compileValue_16 : decode cX6_compileValue 16 = .ok (.aload_n 0, 1) := sorry
theorem dX6_compileValue_17 : decode cX6_compileValue 17 = .ok (.iconst 0, 1) := sorry
theorem dX6_compileValue_18 : decode cX6_compileValue 18 = .ok (.ldc_w 462, 3) := sorry
theorem dX6_compileValue_21 : decode cX6_compileValue 21 = .ok (.invokevirtual 401, 3) := sorry
theorem dX6_compileValue_24 : decode cX6_compileValue 24 = .ok (.invokevirtual 463, 3) := sorry
theorem dX6_compileValue_27 : decode cX6_compileValue 27 = .ok (.return_, 1) := sorry
theorem dX6_compileValue_28 : decode cX6_compileValue 28 = .ok (.iconst 0, 1) := sorry
theorem dX6_compileValue_29 : decode cX6_compileValue 29 = .ok (.istore_n 1, 1) := sorry
theorem dX6_compileValue_30 : decode cX6_compileValue 30 = .ok (.iload_n 1, 1) := sorry
theorem dX6_compileValue_31 : decode cX6_compileValue 31 = .ok (.aload_n 0, 1) := sorry
theorem dX6_compileValue_32 : decode cX6_compileValue 32 = .ok (.getfield 66, 3) := sorry
theorem dX6_compileValue_35 : decode cX6_compileValue 35 = .ok (.arraylength, 1) := sorry
theorem dX6_compileValue_36 : decode cX6_compileValue 36 = .ok (.if_icmp .ge 22, 3) := sorry
theorem dX6_compileValue_39 : decode cX6_compileValue 39 = .ok (.aload_n 0, 1) := sorry
theorem dX6_compileValue_40 : decode cX6_compileValue 40 = .ok (.aload_n 0, 1) := sorry
theorem dX6_compileValue_41 : decode cX6_compileValue 41 = .ok (.getfield 66, 3) := sorry
theorem dX6_compileValue_44 : decode cX6_compileValue 44 = .ok (.iload_n 1, 1) := sorry
theorem dX6_compileValue_45 : decode cX6_compileValue 45 = .ok (.aaload, 1) := sorry
theorem dX6_compileValue_46 : decode cX6_compileValue 46 = .ok (.invokevirtual 380, 3) := sorry
theorem dX6_compileValue_49 : decode cX6_compileValue 49 = .ok (.ifCond .ne 9, 3) := sorry
theorem dX6_compileValue_52 : decode cX6_compileValue 52 = .ok (.iinc 1 1, 3) := sorry
theorem dX6_compileValue_55 : decode cX6_compileValue 55 = .ok (.goto (-25), 3) := sorry
theorem dX6_compileValue_58 : decode cX6_compileValue 58 = .ok (.aload_n 0, 1) := sorry
theorem dX6_compileValue_59 : decode cX6_compileValue 59 = .ok (.iload_n 1, 1) := sorry
theorem dX6_compileValue_60 : decode cX6_compileValue 60 = .ok (.aload_n 0, 1) := sorry
theorem dX6_compileValue_61 : decode cX6_compileValue 61 = .ok (.getfield 66, 3) := sorry
theorem dX6_compileValue_64 : decode cX6_compileValue 64 = .ok (.arraylength, 1) := sorry
theorem dX6_compileValue_65 : decode cX6_compileValue 65 = .ok (.if_icmp .ge 7, 3) := sorry
theorem dX6_compileValue_68 : decode cX6_compileValue 68 = .ok (.iconst 1, 1) := sorry
theorem dX6_compileValue_69 : decode cX6_compileValue 69 = .ok (.goto 4, 3) := sorry
theorem dX6_compileValue_72 : decode cX6_compileValue 72 = .ok (.iconst 0, 1) := sorry
theorem dX6_compileValue_73 : decode cX6_compileValue 73 = .ok (.iconst 1, 1) := sorry
theorem dX6_compileValue_74 : decode cX6_compileValue 74 = .ok (.invokevirtual 384, 3) := sorry
theorem dX6_compileValue_77 : decode cX6_compileValue 77 = .ok (.aload_n 0, 1) := sorry
theorem dX6_compileValue_78 : decode cX6_compileValue 78 = .ok (.iconst (-1), 1) := sorry
theorem dX6_compileValue_79 : decode cX6_compileValue 79 = .ok (.iload_n 1, 1) := sorry
theorem dX6_compileValue_80 : decode cX6_compileValue 80 = .ok (.isub, 1) := sorry
theorem dX6_compileValue_81 : decode cX6_compileValue 81 = .ok (.invokevirtual 463, 3) := sorry
theorem dX6_compileValue_84 : decode cX6_compileValue 84 = .ok (.aload_n 0, 1) := sorry
theorem dX6_compileValue_85 : decode cX6_compileValue 85 = .ok (.invokevirtual 388, 3) := sorry
theorem dX6_compileValue_88 : decode cX6_compileValue 88 = .ok (.return_, 1) := sorry
abbrev cX6_holdsFor : ByteArray := prog_17_method_136_code
def yX6_holdsFor : MethodName := ⟨RX6, "holdsFor", "(I)Z"⟩
def dkwX6_holdsFor_5 : List UInt8 := [167, 255, 140, 42, 180, 0, 73, 3, 47, 10, 148, 154, 0, 7, 4, 167, 0, 4, 3, 172]
abbrev dktX6_holdsFor_5 : List UInt8 := dkwX6_holdsFor_5 ++ []
def dkwX6_holdsFor_4 : List UInt8 := [100, 21, 4, 42, 180, 0, 73, 28, 4, 100, 47, 42, 180, 0, 73, 28, 47, 184, 1, 238, 80, 132, 3, 1]
abbrev dktX6_holdsFor_4 : List UInt8 := dkwX6_holdsFor_4 ++ dktX6_holdsFor_5
def dkwX6_holdsFor_3 : List UInt8 := [27, 2, 21, 4, 100, 182, 1, 235, 80, 132, 2, 1, 167, 0, 33, 132, 2, 255, 42, 180, 0, 73, 28, 4]
abbrev dktX6_holdsFor_3 : List UInt8 := dkwX6_holdsFor_3 ++ dktX6_holdsFor_4
def dkwX6_holdsFor_2 : List UInt8 := [21, 4, 16, 236, 164, 0, 35, 42, 180, 0, 73, 28, 21, 4, 155, 0, 9, 21, 4, 133, 167, 0, 12, 42]
abbrev dktX6_holdsFor_2 : List UInt8 := dkwX6_holdsFor_2 ++ dktX6_holdsFor_3
def dkwX6_holdsFor_1 : List UInt8 := [160, 0, 24, 42, 180, 0, 73, 28, 4, 100, 10, 42, 180, 0, 73, 28, 4, 100, 47, 101, 80, 167, 0, 72]
abbrev dktX6_holdsFor_1 : List UInt8 := dkwX6_holdsFor_1 ++ dktX6_holdsFor_2
def dkwX6_holdsFor_0 : List UInt8 := [3, 61, 3, 62, 29, 42, 180, 1, 203, 162, 0, 114, 42, 180, 0, 70, 29, 46, 54, 4, 21, 4, 16, 233]
abbrev dktX6_holdsFor_0 : List UInt8 := dkwX6_holdsFor_0 ++ dktX6_holdsFor_1
theorem dksX6_holdsFor_0 : cX6_holdsFor.data.toList.drop 0 = dktX6_holdsFor_0 := sorry
theorem dksX6_holdsFor_1 : cX6_holdsFor.data.toList.drop 24 = dktX6_holdsFor_1 := sorry
theorem dksX6_holdsFor_2 : cX6_holdsFor.data.toList.drop 48 = dktX6_holdsFor_2 := sorry
theorem dksX6_holdsFor_3 : cX6_holdsFor.data.toList.drop 72 = dktX6_holdsFor_3 := sorry
theorem dksX6_holdsFor_4 : cX6_holdsFor.data.toList.drop 96 = dktX6_holdsFor_4 := sorry
theorem dksX6_holdsFor_5 : cX6_holdsFor.data.toList.drop 120 = dktX6_holdsFor_5 := sorry
theorem dX6_holdsFor_0 : decode cX6_holdsFor 0 = .ok (.iconst 0, 1) := sorry
theorem dX6_holdsFor_1 : decode cX6_holdsFor 1 = .ok (.istore_n 2, 1) := sorry
theorem dX6_holdsFor_2 : decode cX6_holdsFor 2 = .ok (.iconst 0, 1) := sorry
theorem dX6_holdsFor_3 : decode cX6_holdsFor 3 = .ok (.istore_n 3, 1) := sorry
theorem dX6_holdsFor_4 : decode cX6_holdsFor 4 = .ok (.iload_n 3, 1) := sorry
theorem dX6_holdsFor_5 : decode cX6_holdsFor 5 = .ok (.aload_n 0, 1) := sorry
theorem dX6_holdsFor_6 : decode cX6_holdsFor 6 = .ok (.getfield 459, 3) := sorry
theorem dX6_holdsFor_9 : decode cX6_holdsFor 9 = .ok (.if_icmp .ge 114, 3) := sorry
theorem dX6_holdsFor_12 : decode cX6_holdsFor 12 = .ok (.aload_n 0, 1) := sorry
theorem dX6_holdsFor_13 : decode cX6_holdsFor 13 = .ok (.getfield 70, 3) := sorry
theorem dX6_holdsFor_16 : decode cX6_holdsFor 16 = .ok (.iload_n 3, 1) := sorry
theorem dX6_holdsFor_17 : decode cX6_holdsFor 17 = .ok (.iaload, 1) := sorry
theorem dX6_holdsFor_18 : decode cX6_holdsFor 18 = .ok (.istore 4, 2) := sorry
theorem dX6_holdsFor_20 : decode cX6_holdsFor 20 = .ok (.iload 4, 2) := sorry
theorem dX6_holdsFor_22 : decode cX6_holdsFor 22 = .ok (.bipush (-23), 2) := sorry
theorem dX6_holdsFor_24 : decode cX6_holdsFor 24 = .ok (.if_icmp .ne 24, 3) := sorry
theorem dX6_holdsFor_27 : decode cX6_holdsFor 27 = .ok (.aload_n 0, 1) := sorry
theorem dX6_holdsFor_28 : decode cX6_holdsFor 28 = .ok (.getfield 73, 3) := sorry
theorem dX6_holdsFor_31 : decode cX6_holdsFor 31 = .ok (.iload_n 2, 1) := sorry
theorem dX6_holdsFor_32 : decode cX6_holdsFor 32 = .ok (.iconst 1, 1) := sorry
theorem dX6_holdsFor_33 : decode cX6_holdsFor 33 = .ok (.isub, 1) := sorry
theorem dX6_holdsFor_34 : decode cX6_holdsFor 34 = .ok (.lconst 1, 1) := sorry
theorem dX6_holdsFor_35 : decode cX6_holdsFor 35 = .ok (.aload_n 0, 1) := sorry
theorem dX6_holdsFor_36 : decode cX6_holdsFor 36 = .ok (.getfield 73, 3) := sorry
theorem dX6_holdsFor_39 : decode cX6_holdsFor 39 = .ok (.iload_n 2, 1) := sorry
theorem dX6_holdsFor_40 : decode cX6_holdsFor 40 = .ok (.iconst 1, 1) := sorry
theorem dX6_holdsFor_41 : decode cX6_holdsFor 41 = .ok (.isub, 1) := sorry
theorem dX6_holdsFor_42 : decode cX6_holdsFor 42 = .ok (.laload, 1) := sorry
theorem dX6_holdsFor_43 : decode cX6_holdsFor 43 = .ok (.lsub, 1) := sorry
theorem dX6_holdsFor_44 : decode cX6_holdsFor 44 = .ok (.lastore, 1) := sorry
theorem dX6_holdsFor_45 : decode cX6_holdsFor 45 = .ok (.goto 72, 3) := sorry
theorem dX6_holdsFor_48 : decode cX6_holdsFor 48 = .ok (.iload 4, 2) := sorry
theorem dX6_holdsFor_50 : decode cX6_holdsFor 50 = .ok (.bipush (-20), 2) := sorry
theorem dX6_holdsFor_52 : decode cX6_holdsFor 52 = .ok (.if_icmp .le 35, 3) := sorry
theorem dX6_holdsFor_55 : decode cX6_holdsFor 55 = .ok (.aload_n 0, 1) := sorry
theorem dX6_holdsFor_56 : decode cX6_holdsFor 56 = .ok (.getfield 73, 3) := sorry
theorem dX6_holdsFor_59 : decode cX6_holdsFor 59 = .ok (.iload_n 2, 1) := sorry
theorem dX6_holdsFor_60 : decode cX6_holdsFor 60 = .ok (.iload 4, 2) := sorry
theorem dX6_holdsFor_62 : decode cX6_holdsFor 62 = .ok (.ifCond .lt 9, 3) := sorry
theorem dX6_holdsFor_65 : decode cX6_holdsFor 65 = .ok (.iload 4, 2) := sorry
theorem dX6_holdsFor_67 : decode cX6_holdsFor 67 = .ok (.i2l, 1) := sorry
theorem dX6_holdsFor_68 : decode cX6_holdsFor 68 = .ok (.goto 12, 3) := sorry
theorem dX6_holdsFor_71 : decode cX6_holdsFor 71 = .ok (.aload_n 0, 1) := sorry
theorem dX6_holdsFor_72 : decode cX6_holdsFor 72 = .ok (.iload_n 1, 1) := sorry
theorem dX6_holdsFor_73 : decode cX6_holdsFor 73 = .ok (.iconst (-1), 1) := sorry
theorem dX6_holdsFor_74 : decode cX6_holdsFor 74 = .ok (.iload 4, 2) := sorry
theorem dX6_holdsFor_76 : decode cX6_holdsFor 76 = .ok (.isub, 1) := sorry
theorem dX6_holdsFor_77 : decode cX6_holdsFor 77 = .ok (.invokevirtual 491, 3) := sorry
theorem dX6_holdsFor_80 : decode cX6_holdsFor 80 = .ok (.lastore, 1) := sorry
theorem dX6_holdsFor_81 : decode cX6_holdsFor 81 = .ok (.iinc 2 1, 3) := sorry
theorem dX6_holdsFor_84 : decode cX6_holdsFor 84 = .ok (.goto 33, 3) := sorry
theorem dX6_holdsFor_87 : decode cX6_holdsFor 87 = .ok (.iinc 2 (-1), 3) := sorry
theorem dX6_holdsFor_90 : decode cX6_holdsFor 90 = .ok (.aload_n 0, 1) := sorry
theorem dX6_holdsFor_91 : decode cX6_holdsFor 91 = .ok (.getfield 73, 3) := sorry
theorem dX6_holdsFor_94 : decode cX6_holdsFor 94 = .ok (.iload_n 2, 1) := sorry
theorem dX6_holdsFor_95 : decode cX6_holdsFor 95 = .ok (.iconst 1, 1) := sorry
theorem dX6_holdsFor_96 : decode cX6_holdsFor 96 = .ok (.isub, 1) := sorry
theorem dX6_holdsFor_97 : decode cX6_holdsFor 97 = .ok (.iload 4, 2) := sorry
theorem dX6_holdsFor_99 : decode cX6_holdsFor 99 = .ok (.aload_n 0, 1) := sorry
theorem dX6_holdsFor_100 : decode cX6_holdsFor 100 = .ok (.getfield 73, 3) := sorry
theorem dX6_holdsFor_103 : decode cX6_holdsFor 103 = .ok (.iload_n 2, 1) := sorry
theorem dX6_holdsFor_104 : decode cX6_holdsFor 104 = .ok (.iconst 1, 1) := sorry
theorem dX6_holdsFor_105 : decode cX6_holdsFor 105 = .ok (.isub, 1) := sorry
theorem dX6_holdsFor_106 : decode cX6_holdsFor 106 = .ok (.laload, 1) := sorry
theorem dX6_holdsFor_107 : decode cX6_holdsFor 107 = .ok (.aload_n 0, 1) := sorry
theorem dX6_holdsFor_108 : decode cX6_holdsFor 108 = .ok (.getfield 73, 3) := sorry
theorem dX6_holdsFor_111 : decode cX6_holdsFor 111 = .ok (.iload_n 2, 1) := sorry
theorem dX6_holdsFor_112 : decode cX6_holdsFor 112 = .ok (.laload, 1) := sorry
theorem dX6_holdsFor_113 : decode cX6_holdsFor 113 = .ok (.invokestatic 494, 3) := sorry
theorem dX6_holdsFor_116 : decode cX6_holdsFor 116 = .ok (.lastore, 1) := sorry
theorem dX6_holdsFor_117 : decode cX6_holdsFor 117 = .ok (.iinc 3 1, 3) := sorry
theorem dX6_holdsFor_120 : decode cX6_holdsFor 120 = .ok (.goto (-116), 3) := sorry
theorem dX6_holdsFor_123 : decode cX6_holdsFor 123 = .ok (.aload_n 0, 1) := sorry
theorem dX6_holdsFor_124 : decode cX6_holdsFor 124 = .ok (.getfield 73, 3) := sorry
theorem dX6_holdsFor_127 : decode cX6_holdsFor 127 = .ok (.iconst 0, 1) := sorry
theorem dX6_holdsFor_128 : decode cX6_holdsFor 128 = .ok (.laload, 1) := sorry
theorem dX6_holdsFor_129 : decode cX6_holdsFor 129 = .ok (.lconst 1, 1) := sorry
theorem dX6_holdsFor_130 : decode cX6_holdsFor 130 = .ok (.lcmp, 1) := sorry
theorem dX6_holdsFor_131 : decode cX6_holdsFor 131 = .ok (.ifCond .ne 7, 3) := sorry
theorem dX6_holdsFor_134 : decode cX6_holdsFor 134 = .ok (.iconst 1, 1) := sorry
theorem dX6_holdsFor_135 : decode cX6_holdsFor 135 = .ok (.goto 4, 3) := sorry
theorem dX6_holdsFor_138 : decode cX6_holdsFor 138 = .ok (.iconst 0, 1) := sorry
theorem dX6_holdsFor_139 : decode cX6_holdsFor 139 = .ok (.ireturn, 1) := sorry
abbrev cX6_property : ByteArray := prog_17_method_135_code
def yX6_property : MethodName := ⟨RX6, "property", "(II)J"⟩
def dkwX6_property_4 : List UInt8 := [167, 0, 4, 9, 173]
abbrev dktX6_property_4 : List UInt8 := dkwX6_property_4 ++ []
def dkwX6_property_3 : List UInt8 := [167, 0, 4, 9, 173, 42, 27, 182, 0, 239, 173, 42, 42, 27, 182, 0, 209, 182, 1, 231, 153, 0, 7, 10]
abbrev dktX6_property_3 : List UInt8 := dkwX6_property_3 ++ dktX6_property_4
def dkwX6_property_2 : List UInt8 := [27, 133, 173, 42, 27, 182, 0, 209, 184, 0, 147, 173, 42, 27, 182, 0, 209, 9, 148, 158, 0, 7, 10]
abbrev dktX6_property_2 : List UInt8 := dkwX6_property_2 ++ dktX6_property_3
def dkwX6_property_1 : List UInt8 := [170, 0, 0, 0, 0, 0, 65, 0, 0, 0, 0, 0, 0, 0, 3, 0, 0, 0, 31, 0, 0, 0, 34, 0, 0, 0, 43, 0, 0, 0, 59]
abbrev dktX6_property_1 : List UInt8 := dkwX6_property_1 ++ dktX6_property_2
def dkwX6_property_0 : List UInt8 := [28]
abbrev dktX6_property_0 : List UInt8 := dkwX6_property_0 ++ dktX6_property_1
theorem dksX6_property_0 : cX6_property.data.toList.drop 0 = dktX6_property_0 := sorry
theorem dksX6_property_1 : cX6_property.data.toList.drop 1 = dktX6_property_1 := sorry
theorem dksX6_property_2 : cX6_property.data.toList.drop 32 = dktX6_property_2 := sorry
theorem dksX6_property_3 : cX6_property.data.toList.drop 55 = dktX6_property_3 := sorry
theorem dksX6_property_4 : cX6_property.data.toList.drop 79 = dktX6_property_4 := sorry
theorem dX6_property_0 : decode cX6_property 0 = .ok (.iload_n 2, 1) := sorry
theorem dX6_property_1 : decode cX6_property 1 = .ok (.tableswitch 65 0 3 #[31, 34, 43, 59], 31) := sorry
theorem dX6_property_32 : decode cX6_property 32 = .ok (.iload_n 1, 1) := sorry
theorem dX6_property_33 : decode cX6_property 33 = .ok (.i2l, 1) := sorry
theorem dX6_property_34 : decode cX6_property 34 = .ok (.lreturn, 1) := sorry
theorem dX6_property_35 : decode cX6_property 35 = .ok (.aload_n 0, 1) := sorry
theorem dX6_property_36 : decode cX6_property 36 = .ok (.iload_n 1, 1) := sorry
theorem dX6_property_37 : decode cX6_property 37 = .ok (.invokevirtual 209, 3) := sorry
theorem dX6_property_40 : decode cX6_property 40 = .ok (.invokestatic 147, 3) := sorry
theorem dX6_property_43 : decode cX6_property 43 = .ok (.lreturn, 1) := sorry
theorem dX6_property_44 : decode cX6_property 44 = .ok (.aload_n 0, 1) := sorry
theorem dX6_property_45 : decode cX6_property 45 = .ok (.iload_n 1, 1) := sorry
theorem dX6_property_46 : decode cX6_property 46 = .ok (.invokevirtual 209, 3) := sorry
theorem dX6_property_49 : decode cX6_property 49 = .ok (.lconst 0, 1) := sorry
theorem dX6_property_50 : decode cX6_property 50 = .ok (.lcmp, 1) := sorry
theorem dX6_property_51 : decode cX6_property 51 = .ok (.ifCond .le 7, 3) := sorry
theorem dX6_property_54 : decode cX6_property 54 = .ok (.lconst 1, 1) := sorry
theorem dX6_property_55 : decode cX6_property 55 = .ok (.goto 4, 3) := sorry
theorem dX6_property_58 : decode cX6_property 58 = .ok (.lconst 0, 1) := sorry
theorem dX6_property_59 : decode cX6_property 59 = .ok (.lreturn, 1) := sorry
theorem dX6_property_60 : decode cX6_property 60 = .ok (.aload_n 0, 1) := sorry
theorem dX6_property_61 : decode cX6_property 61 = .ok (.iload_n 1, 1) := sorry
theorem dX6_property_62 : decode cX6_property 62 = .ok (.invokevirtual 239, 3) := sorry
theorem dX6_property_65 : decode cX6_property 65 = .ok (.lreturn, 1) := sorry
theorem dX6_property_66 : decode cX6_property 66 = .ok (.aload_n 0, 1) := sorry
theorem dX6_property_67 : decode cX6_property 67 = .ok (.aload_n 0, 1) := sorry
theorem dX6_property_68 : decode cX6_property 68 = .ok (.iload_n 1, 1) := sorry
theorem dX6_property_69 : decode cX6_property 69 = .ok (.invokevirtual 209, 3) := sorry
theorem dX6_property_72 : decode cX6_property 72 = .ok (.invokevirtual 487, 3) := sorry
theorem dX6_property_75 : decode cX6_property 75 = .ok (.ifCond .eq 7, 3) := sorry
theorem dX6_property_78 : decode cX6_property 78 = .ok (.lconst 1, 1) := sorry
theorem dX6_property_79 : decode cX6_property 79 = .ok (.goto 4, 3) := sorry
theorem dX6_property_82 : decode cX6_property 82 = .ok (.lconst 0, 1) := sorry
theorem dX6_property_83 : decode cX6_property 83 = .ok (.lreturn, 1) := sorry
abbrev cX6_isLockedValue : ByteArray := prog_17_method_134_code
def yX6_isLockedValue : MethodName := ⟨RX6, "isLockedValue", "(J)Z"⟩
def dkwX6_isLockedValue_1 : List UInt8 := [180, 0, 25, 6, 47, 148, 157, 0, 5, 4, 172, 132, 3, 1, 167, 255, 222, 3, 172]
abbrev dktX6_isLockedValue_1 : List UInt8 := dkwX6_isLockedValue_1 ++ []
def dkwX6_isLockedValue_0 : List UInt8 := [3, 62, 29, 42, 182, 0, 123, 162, 0, 32, 42, 29, 3, 182, 0, 249, 31, 101, 184, 0, 147, 42]
abbrev dktX6_isLockedValue_0 : List UInt8 := dkwX6_isLockedValue_0 ++ dktX6_isLockedValue_1
theorem dksX6_isLockedValue_0 : cX6_isLockedValue.data.toList.drop 0 = dktX6_isLockedValue_0 := sorry
theorem dksX6_isLockedValue_1 : cX6_isLockedValue.data.toList.drop 22 = dktX6_isLockedValue_1 := sorry
theorem dX6_isLockedValue_0 : decode cX6_isLockedValue 0 = .ok (.iconst 0, 1) := sorry
theorem dX6_isLockedValue_1 : decode cX6_isLockedValue 1 = .ok (.istore_n 3, 1) := sorry
theorem dX6_isLockedValue_2 : decode cX6_isLockedValue 2 = .ok (.iload_n 3, 1) := sorry
theorem dX6_isLockedValue_3 : decode cX6_isLockedValue 3 = .ok (.aload_n 0, 1) := sorry
theorem dX6_isLockedValue_4 : decode cX6_isLockedValue 4 = .ok (.invokevirtual 123, 3) := sorry
theorem dX6_isLockedValue_7 : decode cX6_isLockedValue 7 = .ok (.if_icmp .ge 32, 3) := sorry
theorem dX6_isLockedValue_10 : decode cX6_isLockedValue 10 = .ok (.aload_n 0, 1) := sorry
theorem dX6_isLockedValue_11 : decode cX6_isLockedValue 11 = .ok (.iload_n 3, 1) := sorry
theorem dX6_isLockedValue_12 : decode cX6_isLockedValue 12 = .ok (.iconst 0, 1) := sorry
theorem dX6_isLockedValue_13 : decode cX6_isLockedValue 13 = .ok (.invokevirtual 249, 3) := sorry
theorem dX6_isLockedValue_16 : decode cX6_isLockedValue 16 = .ok (.lload_n 1, 1) := sorry
theorem dX6_isLockedValue_17 : decode cX6_isLockedValue 17 = .ok (.lsub, 1) := sorry
theorem dX6_isLockedValue_18 : decode cX6_isLockedValue 18 = .ok (.invokestatic 147, 3) := sorry
theorem dX6_isLockedValue_21 : decode cX6_isLockedValue 21 = .ok (.aload_n 0, 1) := sorry
theorem dX6_isLockedValue_22 : decode cX6_isLockedValue 22 = .ok (.getfield 25, 3) := sorry
theorem dX6_isLockedValue_25 : decode cX6_isLockedValue 25 = .ok (.iconst 3, 1) := sorry
theorem dX6_isLockedValue_26 : decode cX6_isLockedValue 26 = .ok (.laload, 1) := sorry
theorem dX6_isLockedValue_27 : decode cX6_isLockedValue 27 = .ok (.lcmp, 1) := sorry
theorem dX6_isLockedValue_28 : decode cX6_isLockedValue 28 = .ok (.ifCond .gt 5, 3) := sorry
theorem dX6_isLockedValue_31 : decode cX6_isLockedValue 31 = .ok (.iconst 1, 1) := sorry
theorem dX6_isLockedValue_32 : decode cX6_isLockedValue 32 = .ok (.ireturn, 1) := sorry
theorem dX6_isLockedValue_33 : decode cX6_isLockedValue 33 = .ok (.iinc 3 1, 3) := sorry
theorem dX6_isLockedValue_36 : decode cX6_isLockedValue 36 = .ok (.goto (-34), 3) := sorry
theorem dX6_isLockedValue_39 : decode cX6_isLockedValue 39 = .ok (.iconst 0, 1) := sorry
theorem dX6_isLockedValue_40 : decode cX6_isLockedValue 40 = .ok (.ireturn, 1) := sorry
abbrev cX6_operate : ByteArray := prog_17_method_133_code
def yX6_operate : MethodName := ⟨RX6, "operate", "(IJJ)J"⟩
def dkwX6_operate_3 : List UInt8 := [31, 33, 148, 158, 0, 7, 10, 167, 0, 4, 9, 173, 31, 33, 127, 173, 31, 33, 129, 173]
abbrev dktX6_operate_3 : List UInt8 := dkwX6_operate_3 ++ []
def dkwX6_operate_2 : List UInt8 := [31, 33, 148, 156, 0, 7, 10, 167, 0, 4, 9, 173, 31, 33, 148, 154, 0, 7, 10, 167, 0, 4, 9, 173]
abbrev dktX6_operate_2 : List UInt8 := dkwX6_operate_2 ++ dktX6_operate_3
def dkwX6_operate_1 : List UInt8 := [170, 0, 0, 0, 0, 0, 75, 255, 255, 255, 232, 255, 255, 255, 236, 0, 0, 0, 71, 0, 0, 0, 75, 0, 0, 0, 59, 0, 0, 0, 47, 0, 0, 0, 35]
abbrev dktX6_operate_1 : List UInt8 := dkwX6_operate_1 ++ dktX6_operate_2
def dkwX6_operate_0 : List UInt8 := [26]
abbrev dktX6_operate_0 : List UInt8 := dkwX6_operate_0 ++ dktX6_operate_1
theorem dksX6_operate_0 : cX6_operate.data.toList.drop 0 = dktX6_operate_0 := sorry
theorem dksX6_operate_1 : cX6_operate.data.toList.drop 1 = dktX6_operate_1 := sorry
theorem dksX6_operate_2 : cX6_operate.data.toList.drop 36 = dktX6_operate_2 := sorry
theorem dksX6_operate_3 : cX6_operate.data.toList.drop 60 = dktX6_operate_3 := sorry
theorem dX6_operate_0 : decode cX6_operate 0 = .ok (.iload_n 0, 1) := sorry
theorem dX6_operate_1 : decode cX6_operate 1 = .ok (.tableswitch 75 (-24) (-20) #[71, 75, 59, 47, 35], 35) := sorry
theorem dX6_operate_36 : decode cX6_operate 36 = .ok (.lload_n 1, 1) := sorry
theorem dX6_operate_37 : decode cX6_operate 37 = .ok (.lload_n 3, 1) := sorry
theorem dX6_operate_38 : decode cX6_operate 38 = .ok (.lcmp, 1) := sorry
theorem dX6_operate_39 : decode cX6_operate 39 = .ok (.ifCond .ge 7, 3) := sorry
theorem dX6_operate_42 : decode cX6_operate 42 = .ok (.lconst 1, 1) := sorry
theorem dX6_operate_43 : decode cX6_operate 43 = .ok (.goto 4, 3) := sorry
theorem dX6_operate_46 : decode cX6_operate 46 = .ok (.lconst 0, 1) := sorry
theorem dX6_operate_47 : decode cX6_operate 47 = .ok (.lreturn, 1) := sorry
theorem dX6_operate_48 : decode cX6_operate 48 = .ok (.lload_n 1, 1) := sorry
theorem dX6_operate_49 : decode cX6_operate 49 = .ok (.lload_n 3, 1) := sorry
theorem dX6_operate_50 : decode cX6_operate 50 = .ok (.lcmp, 1) := sorry
theorem dX6_operate_51 : decode cX6_operate 51 = .ok (.ifCond .ne 7, 3) := sorry
theorem dX6_operate_54 : decode cX6_operate 54 = .ok (.lconst 1, 1) := sorry
theorem dX6_operate_55 : decode cX6_operate 55 = .ok (.goto 4, 3) := sorry
theorem dX6_operate_58 : decode cX6_operate 58 = .ok (.lconst 0, 1) := sorry
theorem dX6_operate_59 : decode cX6_operate 59 = .ok (.lreturn, 1) := sorry
theorem dX6_operate_60 : decode cX6_operate 60 = .ok (.lload_n 1, 1) := sorry
theorem dX6_operate_61 : decode cX6_operate 61 = .ok (.lload_n 3, 1) := sorry
theorem dX6_operate_62 : decode cX6_operate 62 = .ok (.lcmp, 1) := sorry
theorem dX6_operate_63 : decode cX6_operate 63 = .ok (.ifCond .le 7, 3) := sorry
theorem dX6_operate_66 : decode cX6_operate 66 = .ok (.lconst 1, 1) := sorry
theorem dX6_operate_67 : decode cX6_operate 67 = .ok (.goto 4, 3) := sorry
theorem dX6_operate_70 : decode cX6_operate 70 = .ok (.lconst 0, 1) := sorry
theorem dX6_operate_71 : decode cX6_operate 71 = .ok (.lreturn, 1) := sorry
theorem dX6_operate_72 : decode cX6_operate 72 = .ok (.lload_n 1, 1) := sorry
theorem dX6_operate_73 : decode cX6_operate 73 = .ok (.lload_n 3, 1) := sorry
theorem dX6_operate_74 : decode cX6_operate 74 = .ok (.land, 1) := sorry
theorem dX6_operate_75 : decode cX6_operate 75 = .ok (.lreturn, 1) := sorry
theorem dX6_operate_76 : decode cX6_operate 76 = .ok (.lload_n 1, 1) := sorry
theorem dX6_operate_77 : decode cX6_operate 77 = .ok (.lload_n 3, 1) := sorry
theorem dX6_operate_78 : decode cX6_operate 78 = .ok (.lor, 1) := sorry
theorem dX6_operate_79 : decode cX6_operate 79 = .ok (.lreturn, 1) := sorry
theorem q170 : (Jvm.Cond.initialized "KrylovLaboratoryModel") ∈ lw_all := sorry
theorem q569 : (Jvm.Cond.selects "KrylovLaboratoryModel" ({ cls := "java/lang/Object", name := "getClass", desc := "()Ljava/lang/Class;" } : Jvm.MethodName) ({ cls := "java/lang/Object", name := "getClass", desc := "()Ljava/lang/Class;" } : Jvm.MethodName)) ∈ lw_all := sorry
theorem q2426 : (Jvm.Cond.selects "KrylovLaboratoryModel" ({ cls := "java/lang/Object", name := "equals", desc := "(Ljava/lang/Object;)Z" } : Jvm.MethodName) ({ cls := "java/lang/Object", name := "equals", desc := "(Ljava/lang/Object;)Z" } : Jvm.MethodName)) ∈ lw_all := sorry
theorem q2526 : (Jvm.Cond.instantiable "KrylovLaboratoryModel" (30 : Nat)) ∈ lw_all := sorry
theorem q2528 : (Jvm.Cond.instanceMethod ({ cls := "KrylovLaboratoryModel", name := "<init>", desc := "()V" } : Jvm.MethodName)) ∈ lw_all := sorry
theorem q2529 : (Jvm.Cond.code ({ cls := "KrylovLaboratoryModel", name := "<init>", desc := "()V" } : Jvm.MethodName) prog_17_method_1_code (2 : Nat) (Option.none : Option Jvm.ClassFile.FieldType)) ∈ lw_all := sorry
theorem q2530 : (Jvm.Cond.methodLink "KrylovLaboratoryModel" (3 : Nat) ({ cls := "java/lang/Object", name := "<init>", desc := "()V" } : Jvm.MethodName)) ∈ lw_all := sorry
theorem q2531 : (Jvm.Cond.classLink "KrylovLaboratoryModel" (54 : Nat) "java/lang/String") ∈ lw_all := sorry
theorem q2533 : (Jvm.Cond.stringRef "KrylovLaboratoryModel" (56 : Nat) "number") ∈ lw_tbl := sorry
theorem q2534 : (Jvm.Cond.stringRef "KrylovLaboratoryModel" (58 : Nat) "size") ∈ lw_tbl := sorry
theorem q2535 : (Jvm.Cond.stringRef "KrylovLaboratoryModel" (60 : Nat) "positive") ∈ lw_tbl := sorry
theorem q2536 : (Jvm.Cond.stringRef "KrylovLaboratoryModel" (62 : Nat) "bound") ∈ lw_tbl := sorry
theorem q2537 : (Jvm.Cond.stringRef "KrylovLaboratoryModel" (64 : Nat) "locked") ∈ lw_tbl := sorry
theorem q2538 : (Jvm.Cond.methodLink "KrylovLaboratoryModel" (76 : Nat) ({ cls := "KrylovLaboratoryModel", name := "clear", desc := "([JI)V" } : Jvm.MethodName)) ∈ lw_all := lw_g (lw_at lw_m11 9 rfl) rfl
theorem q2539 : (Jvm.Cond.static ({ cls := "KrylovLaboratoryModel", name := "clear", desc := "([JI)V" } : Jvm.MethodName)) ∈ lw_all := lw_g (lw_at lw_m11 10 rfl) rfl
theorem q2540 : (Jvm.Cond.code ({ cls := "KrylovLaboratoryModel", name := "clear", desc := "([JI)V" } : Jvm.MethodName) prog_17_method_5_code (3 : Nat) (Option.none : Option Jvm.ClassFile.FieldType)) ∈ lw_all := lw_g (lw_at lw_m11 11 rfl) rfl
theorem q2541 : (Jvm.Cond.constantLong "KrylovLaboratoryModel" (87 : Nat) (1000 : Int64)) ∈ lw_all := sorry
theorem q2542 : (Jvm.Cond.constantLong "KrylovLaboratoryModel" (89 : Nat) (100 : Int64)) ∈ lw_all := sorry
theorem q2543 : (Jvm.Cond.methodLink "KrylovLaboratoryModel" (80 : Nat) ({ cls := "KrylovLaboratoryModel", name := "beginWithStart", desc := "()Z" } : Jvm.MethodName)) ∈ lw_all := sorry
theorem q2544 : (Jvm.Cond.privateMethod ({ cls := "KrylovLaboratoryModel", name := "beginWithStart", desc := "()Z" } : Jvm.MethodName)) ∈ lw_tbl := sorry
theorem q2545 : (Jvm.Cond.instanceMethod ({ cls := "KrylovLaboratoryModel", name := "beginWithStart", desc := "()Z" } : Jvm.MethodName)) ∈ lw_all := sorry
theorem q2546 : (Jvm.Cond.code ({ cls := "KrylovLaboratoryModel", name := "beginWithStart", desc := "()Z" } : Jvm.MethodName) prog_17_method_23_code (2 : Nat) (Option.some Jvm.ClassFile.FieldType.boolean)) ∈ lw_all := sorry
theorem q2547 : (Jvm.Cond.methodLink "KrylovLaboratoryModel" (95 : Nat) ({ cls := "KrylovLaboratoryModel", name := "size", desc := "()I" } : Jvm.MethodName)) ∈ lw_all := sorry
theorem q2548 : (Jvm.Cond.privateMethod ({ cls := "KrylovLaboratoryModel", name := "size", desc := "()I" } : Jvm.MethodName)) ∈ lw_tbl := sorry
theorem q2549 : (Jvm.Cond.instanceMethod ({ cls := "KrylovLaboratoryModel", name := "size", desc := "()I" } : Jvm.MethodName)) ∈ lw_all := sorry
theorem q2550 : (Jvm.Cond.code ({ cls := "KrylovLaboratoryModel", name := "size", desc := "()I" } : Jvm.MethodName) prog_17_method_6_code (1 : Nat) (Option.some Jvm.ClassFile.FieldType.int)) ∈ lw_all := sorry
theorem q2551 : (Jvm.Cond.constantLong "KrylovLaboratoryModel" (97 : Nat) (1000000 : Int64)) ∈ lw_all := sorry
theorem q2552 : (Jvm.Cond.methodLink "KrylovLaboratoryModel" (144 : Nat) ({ cls := "KrylovLaboratoryModel", name := "beginWithWork", desc := "()Z" } : Jvm.MethodName)) ∈ lw_all := sorry
theorem q2553 : (Jvm.Cond.privateMethod ({ cls := "KrylovLaboratoryModel", name := "beginWithWork", desc := "()Z" } : Jvm.MethodName)) ∈ lw_tbl := sorry
theorem q2554 : (Jvm.Cond.instanceMethod ({ cls := "KrylovLaboratoryModel", name := "beginWithWork", desc := "()Z" } : Jvm.MethodName)) ∈ lw_all := sorry
theorem q2555 : (Jvm.Cond.code ({ cls := "KrylovLaboratoryModel", name := "beginWithWork", desc := "()Z" } : Jvm.MethodName) prog_17_method_22_code (1 : Nat) (Option.some Jvm.ClassFile.FieldType.boolean)) ∈ lw_all := sorry
theorem q2556 : (Jvm.Cond.methodLink "KrylovLaboratoryModel" (134 : Nat) ({ cls := "KrylovLaboratoryModel", name := "removeLocked", desc := "([J)V" } : Jvm.MethodName)) ∈ lw_all := lw_g (lw_at lw_m11 27 rfl) rfl
theorem q2557 : (Jvm.Cond.privateMethod ({ cls := "KrylovLaboratoryModel", name := "removeLocked", desc := "([J)V" } : Jvm.MethodName)) ∈ lw_tbl := lw_at lw_m11 28 rfl
theorem q2558 : (Jvm.Cond.instanceMethod ({ cls := "KrylovLaboratoryModel", name := "removeLocked", desc := "([J)V" } : Jvm.MethodName)) ∈ lw_all := lw_g (lw_at lw_m11 29 rfl) rfl
theorem q2559 : (Jvm.Cond.code ({ cls := "KrylovLaboratoryModel", name := "removeLocked", desc := "([J)V" } : Jvm.MethodName) prog_17_method_19_code (3 : Nat) (Option.none : Option Jvm.ClassFile.FieldType)) ∈ lw_all := lw_g (lw_at lw_m11 30 rfl) rfl
theorem q2560 : (Jvm.Cond.methodLink "KrylovLaboratoryModel" (123 : Nat) ({ cls := "KrylovLaboratoryModel", name := "lockedNow", desc := "()I" } : Jvm.MethodName)) ∈ lw_all := sorry
theorem q2561 : (Jvm.Cond.privateMethod ({ cls := "KrylovLaboratoryModel", name := "lockedNow", desc := "()I" } : Jvm.MethodName)) ∈ lw_tbl := sorry
theorem q2562 : (Jvm.Cond.instanceMethod ({ cls := "KrylovLaboratoryModel", name := "lockedNow", desc := "()I" } : Jvm.MethodName)) ∈ lw_all := sorry
theorem q2563 : (Jvm.Cond.code ({ cls := "KrylovLaboratoryModel", name := "lockedNow", desc := "()I" } : Jvm.MethodName) prog_17_method_8_code (1 : Nat) (Option.some Jvm.ClassFile.FieldType.int)) ∈ lw_all := sorry
theorem q2564 : (Jvm.Cond.methodLink "KrylovLaboratoryModel" (126 : Nat) ({ cls := "KrylovLaboratoryModel", name := "lockAt", desc := "(I)I" } : Jvm.MethodName)) ∈ lw_all := sorry
theorem q2565 : (Jvm.Cond.static ({ cls := "KrylovLaboratoryModel", name := "lockAt", desc := "(I)I" } : Jvm.MethodName)) ∈ lw_all := sorry
theorem q2566 : (Jvm.Cond.code ({ cls := "KrylovLaboratoryModel", name := "lockAt", desc := "(I)I" } : Jvm.MethodName) prog_17_method_17_code (1 : Nat) (Option.some Jvm.ClassFile.FieldType.int)) ∈ lw_all := sorry
theorem q2567 : (Jvm.Cond.methodLink "KrylovLaboratoryModel" (130 : Nat) ({ cls := "KrylovLaboratoryModel", name := "remove", desc := "([J[JI)V" } : Jvm.MethodName)) ∈ lw_all := lw_g (lw_at lw_m11 38 rfl) rfl
theorem q2568 : (Jvm.Cond.privateMethod ({ cls := "KrylovLaboratoryModel", name := "remove", desc := "([J[JI)V" } : Jvm.MethodName)) ∈ lw_tbl := lw_at lw_m11 39 rfl
theorem q2569 : (Jvm.Cond.instanceMethod ({ cls := "KrylovLaboratoryModel", name := "remove", desc := "([J[JI)V" } : Jvm.MethodName)) ∈ lw_all := lw_g (lw_at lw_m11 40 rfl) rfl
theorem q2570 : (Jvm.Cond.code ({ cls := "KrylovLaboratoryModel", name := "remove", desc := "([J[JI)V" } : Jvm.MethodName) prog_17_method_16_code (4 : Nat) (Option.none : Option Jvm.ClassFile.FieldType)) ∈ lw_all := lw_g (lw_at lw_m11 41 rfl) rfl
theorem q2571 : (Jvm.Cond.methodLink "KrylovLaboratoryModel" (115 : Nat) ({ cls := "KrylovLaboratoryModel", name := "dot", desc := "([JI[JI)J" } : Jvm.MethodName)) ∈ lw_all := lw_g (lw_at lw_m11 42 rfl) rfl
theorem q2572 : (Jvm.Cond.privateMethod ({ cls := "KrylovLaboratoryModel", name := "dot", desc := "([JI[JI)J" } : Jvm.MethodName)) ∈ lw_tbl := lw_at lw_m11 43 rfl
theorem q2573 : (Jvm.Cond.instanceMethod ({ cls := "KrylovLaboratoryModel", name := "dot", desc := "([JI[JI)J" } : Jvm.MethodName)) ∈ lw_all := lw_g (lw_at lw_m11 44 rfl) rfl
theorem q2574 : (Jvm.Cond.code ({ cls := "KrylovLaboratoryModel", name := "dot", desc := "([JI[JI)J" } : Jvm.MethodName) prog_17_method_11_code (8 : Nat) (Option.some Jvm.ClassFile.FieldType.long)) ∈ lw_all := lw_g (lw_at lw_m11 45 rfl) rfl
theorem q2575 : (Jvm.Cond.methodLink "KrylovLaboratoryModel" (99 : Nat) ({ cls := "KrylovLaboratoryModel", name := "floor", desc := "(JJ)J" } : Jvm.MethodName)) ∈ lw_all := sorry
theorem q2576 : (Jvm.Cond.static ({ cls := "KrylovLaboratoryModel", name := "floor", desc := "(JJ)J" } : Jvm.MethodName)) ∈ lw_all := sorry
theorem q2577 : (Jvm.Cond.code ({ cls := "KrylovLaboratoryModel", name := "floor", desc := "(JJ)J" } : Jvm.MethodName) prog_17_method_10_code (6 : Nat) (Option.some Jvm.ClassFile.FieldType.long)) ∈ lw_all := sorry
theorem q2578 : (Jvm.Cond.methodLink "KrylovLaboratoryModel" (119 : Nat) ({ cls := "KrylovLaboratoryModel", name := "takeOff", desc := "([JJ[JI)V" } : Jvm.MethodName)) ∈ lw_all := lw_g (lw_at lw_m11 49 rfl) rfl
theorem q2579 : (Jvm.Cond.privateMethod ({ cls := "KrylovLaboratoryModel", name := "takeOff", desc := "([JJ[JI)V" } : Jvm.MethodName)) ∈ lw_tbl := lw_at lw_m11 50 rfl
theorem q2580 : (Jvm.Cond.instanceMethod ({ cls := "KrylovLaboratoryModel", name := "takeOff", desc := "([JJ[JI)V" } : Jvm.MethodName)) ∈ lw_all := lw_g (lw_at lw_m11 51 rfl) rfl
theorem q2581 : (Jvm.Cond.code ({ cls := "KrylovLaboratoryModel", name := "takeOff", desc := "([JJ[JI)V" } : Jvm.MethodName) prog_17_method_15_code (7 : Nat) (Option.none : Option Jvm.ClassFile.FieldType)) ∈ lw_all := lw_g (lw_at lw_m11 52 rfl) rfl
theorem q2582 : (Jvm.Cond.methodLink "KrylovLaboratoryModel" (111 : Nat) ({ cls := "KrylovLaboratoryModel", name := "norm", desc := "([JI)J" } : Jvm.MethodName)) ∈ lw_all := lw_g (lw_at lw_m11 53 rfl) rfl
theorem q2583 : (Jvm.Cond.static ({ cls := "KrylovLaboratoryModel", name := "norm", desc := "([JI)J" } : Jvm.MethodName)) ∈ lw_all := lw_g (lw_at lw_m11 54 rfl) rfl
theorem q2584 : (Jvm.Cond.code ({ cls := "KrylovLaboratoryModel", name := "norm", desc := "([JI)J" } : Jvm.MethodName) prog_17_method_13_code (5 : Nat) (Option.some Jvm.ClassFile.FieldType.long)) ∈ lw_all := lw_g (lw_at lw_m11 55 rfl) rfl
theorem q2585 : (Jvm.Cond.methodLink "KrylovLaboratoryModel" (107 : Nat) ({ cls := "KrylovLaboratoryModel", name := "root", desc := "(J)J" } : Jvm.MethodName)) ∈ lw_all := sorry
theorem q2586 : (Jvm.Cond.static ({ cls := "KrylovLaboratoryModel", name := "root", desc := "(J)J" } : Jvm.MethodName)) ∈ lw_all := sorry
theorem q2587 : (Jvm.Cond.code ({ cls := "KrylovLaboratoryModel", name := "root", desc := "(J)J" } : Jvm.MethodName) prog_17_method_12_code (8 : Nat) (Option.some Jvm.ClassFile.FieldType.long)) ∈ lw_all := sorry
theorem q2588 : (Jvm.Cond.constantLong "KrylovLaboratoryModel" (103 : Nat) (3000000000 : Int64)) ∈ lw_all := sorry
theorem q2589 : (Jvm.Cond.constantLong "KrylovLaboratoryModel" (105 : Nat) (2 : Int64)) ∈ lw_all := sorry
theorem q2590 : (Jvm.Cond.methodLink "KrylovLaboratoryModel" (138 : Nat) ({ cls := "KrylovLaboratoryModel", name := "makeUnit", desc := "([JI)V" } : Jvm.MethodName)) ∈ lw_all := lw_g (lw_at lw_m11 61 rfl) rfl
theorem q2591 : (Jvm.Cond.static ({ cls := "KrylovLaboratoryModel", name := "makeUnit", desc := "([JI)V" } : Jvm.MethodName)) ∈ lw_all := lw_g (lw_at lw_m11 62 rfl) rfl
theorem q2592 : (Jvm.Cond.code ({ cls := "KrylovLaboratoryModel", name := "makeUnit", desc := "([JI)V" } : Jvm.MethodName) prog_17_method_14_code (5 : Nat) (Option.none : Option Jvm.ClassFile.FieldType)) ∈ lw_all := lw_g (lw_at lw_m11 63 rfl) rfl
theorem q2593 : (Jvm.Cond.methodLink "KrylovLaboratoryModel" (141 : Nat) ({ cls := "KrylovLaboratoryModel", name := "put", desc := "([JI)V" } : Jvm.MethodName)) ∈ lw_all := lw_g (lw_at lw_m11 64 rfl) rfl
theorem q2594 : (Jvm.Cond.privateMethod ({ cls := "KrylovLaboratoryModel", name := "put", desc := "([JI)V" } : Jvm.MethodName)) ∈ lw_tbl := lw_at lw_m11 65 rfl
theorem q2595 : (Jvm.Cond.instanceMethod ({ cls := "KrylovLaboratoryModel", name := "put", desc := "([JI)V" } : Jvm.MethodName)) ∈ lw_all := lw_g (lw_at lw_m11 66 rfl) rfl
theorem q2596 : (Jvm.Cond.code ({ cls := "KrylovLaboratoryModel", name := "put", desc := "([JI)V" } : Jvm.MethodName) prog_17_method_21_code (4 : Nat) (Option.none : Option Jvm.ClassFile.FieldType)) ∈ lw_all := lw_g (lw_at lw_m11 67 rfl) rfl
theorem q2597 : (Jvm.Cond.fieldLink "KrylovLaboratoryModel" (9 : Nat) "KrylovLaboratoryModel" "now" "[J") ∈ lw_all := lw_g (lw_at lw_m11 68 rfl) rfl
theorem q2598 : (Jvm.Cond.fieldLink "KrylovLaboratoryModel" (13 : Nat) "KrylovLaboratoryModel" "draft" "[J") ∈ lw_all := lw_g (lw_at lw_m11 69 rfl) rfl
theorem q2599 : (Jvm.Cond.fieldLink "KrylovLaboratoryModel" (16 : Nat) "KrylovLaboratoryModel" "aside" "[J") ∈ lw_all := lw_g (lw_at lw_m11 70 rfl) rfl
theorem q2600 : (Jvm.Cond.fieldLink "KrylovLaboratoryModel" (19 : Nat) "KrylovLaboratoryModel" "snapshot" "[J") ∈ lw_all := lw_g (lw_at lw_m11 71 rfl) rfl
theorem q2601 : (Jvm.Cond.fieldLink "KrylovLaboratoryModel" (22 : Nat) "KrylovLaboratoryModel" "history" "[J") ∈ lw_all := lw_g (lw_at lw_m11 72 rfl) rfl
theorem q2602 : (Jvm.Cond.fieldLink "KrylovLaboratoryModel" (327 : Nat) "KrylovLaboratoryModel" "undoCount" "I") ∈ lw_all := sorry
theorem q2603 : (Jvm.Cond.fieldLink "KrylovLaboratoryModel" (84 : Nat) "KrylovLaboratoryModel" "thrown" "I") ∈ lw_all := sorry
theorem q2604 : (Jvm.Cond.fieldLink "KrylovLaboratoryModel" (330 : Nat) "KrylovLaboratoryModel" "hasSnapshot" "Z") ∈ lw_all := sorry
theorem q2605 : (Jvm.Cond.fieldLink "KrylovLaboratoryModel" (25 : Nat) "KrylovLaboratoryModel" "lab" "[J") ∈ lw_all := lw_g (lw_at lw_m11 76 rfl) rfl
theorem q2606 : (Jvm.Cond.fieldLink "KrylovLaboratoryModel" (28 : Nat) "KrylovLaboratoryModel" "work" "[J") ∈ lw_all := lw_g (lw_at lw_m11 77 rfl) rfl
theorem q2607 : (Jvm.Cond.fieldLink "KrylovLaboratoryModel" (31 : Nat) "KrylovLaboratoryModel" "product" "[J") ∈ lw_all := lw_g (lw_at lw_m11 78 rfl) rfl
theorem q2608 : (Jvm.Cond.fieldLink "KrylovLaboratoryModel" (34 : Nat) "KrylovLaboratoryModel" "made" "[J") ∈ lw_all := lw_g (lw_at lw_m11 79 rfl) rfl
theorem q2609 : (Jvm.Cond.fieldLink "KrylovLaboratoryModel" (37 : Nat) "KrylovLaboratoryModel" "shares" "[J") ∈ lw_all := lw_g (lw_at lw_m11 80 rfl) rfl
theorem q2610 : (Jvm.Cond.fieldLink "KrylovLaboratoryModel" (40 : Nat) "KrylovLaboratoryModel" "sum" "[J") ∈ lw_all := lw_g (lw_at lw_m11 81 rfl) rfl
theorem q2611 : (Jvm.Cond.fieldLink "KrylovLaboratoryModel" (43 : Nat) "KrylovLaboratoryModel" "formatted" "[I") ∈ lw_all := lw_g (lw_at lw_m11 82 rfl) rfl
theorem q2612 : (Jvm.Cond.fieldLink "KrylovLaboratoryModel" (312 : Nat) "KrylovLaboratoryModel" "formattedLength" "I") ∈ lw_all := sorry
theorem q2613 : (Jvm.Cond.fieldLink "KrylovLaboratoryModel" (47 : Nat) "KrylovLaboratoryModel" "buffer" "[I") ∈ lw_all := lw_g (lw_at lw_m11 84 rfl) rfl
theorem q2614 : (Jvm.Cond.fieldLink "KrylovLaboratoryModel" (334 : Nat) "KrylovLaboratoryModel" "bufferLength" "I") ∈ lw_all := sorry
theorem q2615 : (Jvm.Cond.fieldLink "KrylovLaboratoryModel" (337 : Nat) "KrylovLaboratoryModel" "limit" "I") ∈ lw_all := sorry
theorem q2616 : (Jvm.Cond.fieldLink "KrylovLaboratoryModel" (343 : Nat) "KrylovLaboratoryModel" "next" "I") ∈ lw_all := sorry
theorem q2617 : (Jvm.Cond.fieldLink "KrylovLaboratoryModel" (346 : Nat) "KrylovLaboratoryModel" "beginsAt" "I") ∈ lw_all := sorry
theorem q2618 : (Jvm.Cond.fieldLink "KrylovLaboratoryModel" (349 : Nat) "KrylovLaboratoryModel" "token" "I") ∈ lw_all := sorry
theorem q2619 : (Jvm.Cond.fieldLink "KrylovLaboratoryModel" (358 : Nat) "KrylovLaboratoryModel" "error" "I") ∈ lw_all := sorry
theorem q2620 : (Jvm.Cond.fieldLink "KrylovLaboratoryModel" (367 : Nat) "KrylovLaboratoryModel" "errorAt" "I") ∈ lw_all := sorry
theorem q2621 : (Jvm.Cond.fieldLink "KrylovLaboratoryModel" (50 : Nat) "KrylovLaboratoryModel" "errorPosition" "I") ∈ lw_all := sorry
theorem q2622 : (Jvm.Cond.fieldLink "KrylovLaboratoryModel" (361 : Nat) "KrylovLaboratoryModel" "nested" "I") ∈ lw_all := sorry
theorem q2623 : (Jvm.Cond.fieldLink "KrylovLaboratoryModel" (66 : Nat) "KrylovLaboratoryModel" "names" "[Ljava/lang/String;") ∈ lw_all := lw_g (lw_at lw_m11 94 rfl) rfl
theorem q2624 : (Jvm.Cond.fieldLink "KrylovLaboratoryModel" (70 : Nat) "KrylovLaboratoryModel" "codes" "[I") ∈ lw_all := lw_g (lw_at lw_m11 95 rfl) rfl
theorem q2625 : (Jvm.Cond.fieldLink "KrylovLaboratoryModel" (73 : Nat) "KrylovLaboratoryModel" "stack" "[J") ∈ lw_all := lw_g (lw_at lw_m11 96 rfl) rfl
theorem q2626 : (Jvm.Cond.fieldLink "KrylovLaboratoryModel" (459 : Nat) "KrylovLaboratoryModel" "codeCount" "I") ∈ lw_all := sorry
theorem q2627 : (Jvm.Cond.laysFinal "KrylovLaboratoryModel" "KrylovLaboratoryModel" "now" "[J") ∈ lw_all := lw_g (lw_at lw_m11 98 rfl) rfl
theorem q2628 : (Jvm.Cond.soleField "KrylovLaboratoryModel" "now") ∈ lw_all := sorry
theorem q2629 : (Jvm.Cond.laysFinal "KrylovLaboratoryModel" "KrylovLaboratoryModel" "draft" "[J") ∈ lw_all := lw_g (lw_at lw_m11 100 rfl) rfl
theorem q2630 : (Jvm.Cond.soleField "KrylovLaboratoryModel" "draft") ∈ lw_all := sorry
theorem q2631 : (Jvm.Cond.laysFinal "KrylovLaboratoryModel" "KrylovLaboratoryModel" "aside" "[J") ∈ lw_all := lw_g (lw_at lw_m11 102 rfl) rfl
theorem q2632 : (Jvm.Cond.soleField "KrylovLaboratoryModel" "aside") ∈ lw_all := sorry
theorem q2633 : (Jvm.Cond.laysFinal "KrylovLaboratoryModel" "KrylovLaboratoryModel" "snapshot" "[J") ∈ lw_all := lw_g (lw_at lw_m11 104 rfl) rfl
theorem q2634 : (Jvm.Cond.soleField "KrylovLaboratoryModel" "snapshot") ∈ lw_all := sorry
theorem q2635 : (Jvm.Cond.laysFinal "KrylovLaboratoryModel" "KrylovLaboratoryModel" "history" "[J") ∈ lw_all := lw_g (lw_at lw_m11 106 rfl) rfl
theorem q2636 : (Jvm.Cond.soleField "KrylovLaboratoryModel" "history") ∈ lw_all := sorry
theorem q2637 : (Jvm.Cond.lays "KrylovLaboratoryModel" "KrylovLaboratoryModel" "undoCount" "I") ∈ lw_all := sorry
theorem q2638 : (Jvm.Cond.soleField "KrylovLaboratoryModel" "undoCount") ∈ lw_all := sorry
theorem q2639 : (Jvm.Cond.lays "KrylovLaboratoryModel" "KrylovLaboratoryModel" "thrown" "I") ∈ lw_all := sorry
theorem q2640 : (Jvm.Cond.soleField "KrylovLaboratoryModel" "thrown") ∈ lw_all := sorry
theorem q2641 : (Jvm.Cond.lays "KrylovLaboratoryModel" "KrylovLaboratoryModel" "hasSnapshot" "Z") ∈ lw_all := sorry
theorem q2642 : (Jvm.Cond.soleField "KrylovLaboratoryModel" "hasSnapshot") ∈ lw_all := sorry
theorem q2643 : (Jvm.Cond.lays "KrylovLaboratoryModel" "KrylovLaboratoryModel" "lab" "[J") ∈ lw_all := lw_g (lw_at lw_m11 114 rfl) rfl
theorem q2644 : (Jvm.Cond.soleField "KrylovLaboratoryModel" "lab") ∈ lw_all := sorry
theorem q2645 : (Jvm.Cond.laysFinal "KrylovLaboratoryModel" "KrylovLaboratoryModel" "work" "[J") ∈ lw_all := lw_g (lw_at lw_m11 116 rfl) rfl
theorem q2646 : (Jvm.Cond.soleField "KrylovLaboratoryModel" "work") ∈ lw_all := sorry
theorem q2647 : (Jvm.Cond.laysFinal "KrylovLaboratoryModel" "KrylovLaboratoryModel" "product" "[J") ∈ lw_all := lw_g (lw_at lw_m11 118 rfl) rfl
theorem q2648 : (Jvm.Cond.soleField "KrylovLaboratoryModel" "product") ∈ lw_all := sorry
theorem q2649 : (Jvm.Cond.laysFinal "KrylovLaboratoryModel" "KrylovLaboratoryModel" "made" "[J") ∈ lw_all := lw_g (lw_at lw_m11 120 rfl) rfl
theorem q2650 : (Jvm.Cond.soleField "KrylovLaboratoryModel" "made") ∈ lw_all := sorry
theorem q2651 : (Jvm.Cond.laysFinal "KrylovLaboratoryModel" "KrylovLaboratoryModel" "shares" "[J") ∈ lw_all := lw_g (lw_at lw_m11 122 rfl) rfl
theorem q2652 : (Jvm.Cond.soleField "KrylovLaboratoryModel" "shares") ∈ lw_all := sorry
theorem q2653 : (Jvm.Cond.laysFinal "KrylovLaboratoryModel" "KrylovLaboratoryModel" "sum" "[J") ∈ lw_all := lw_g (lw_at lw_m11 124 rfl) rfl
theorem q2654 : (Jvm.Cond.soleField "KrylovLaboratoryModel" "sum") ∈ lw_all := sorry
theorem q2655 : (Jvm.Cond.laysFinal "KrylovLaboratoryModel" "KrylovLaboratoryModel" "formatted" "[I") ∈ lw_all := lw_g (lw_at lw_m11 126 rfl) rfl
theorem q2656 : (Jvm.Cond.soleField "KrylovLaboratoryModel" "formatted") ∈ lw_all := sorry
theorem q2657 : (Jvm.Cond.lays "KrylovLaboratoryModel" "KrylovLaboratoryModel" "formattedLength" "I") ∈ lw_all := sorry
theorem q2658 : (Jvm.Cond.soleField "KrylovLaboratoryModel" "formattedLength") ∈ lw_all := sorry
theorem q2659 : (Jvm.Cond.laysFinal "KrylovLaboratoryModel" "KrylovLaboratoryModel" "buffer" "[I") ∈ lw_all := lw_g (lw_at lw_m11 130 rfl) rfl
theorem q2660 : (Jvm.Cond.soleField "KrylovLaboratoryModel" "buffer") ∈ lw_all := sorry
theorem q2661 : (Jvm.Cond.lays "KrylovLaboratoryModel" "KrylovLaboratoryModel" "bufferLength" "I") ∈ lw_all := sorry
theorem q2662 : (Jvm.Cond.soleField "KrylovLaboratoryModel" "bufferLength") ∈ lw_all := sorry
theorem q2663 : (Jvm.Cond.lays "KrylovLaboratoryModel" "KrylovLaboratoryModel" "limit" "I") ∈ lw_all := sorry
theorem q2664 : (Jvm.Cond.soleField "KrylovLaboratoryModel" "limit") ∈ lw_all := sorry
theorem q2665 : (Jvm.Cond.lays "KrylovLaboratoryModel" "KrylovLaboratoryModel" "next" "I") ∈ lw_all := sorry
theorem q2666 : (Jvm.Cond.soleField "KrylovLaboratoryModel" "next") ∈ lw_all := sorry
theorem q2667 : (Jvm.Cond.lays "KrylovLaboratoryModel" "KrylovLaboratoryModel" "beginsAt" "I") ∈ lw_all := sorry
theorem q2668 : (Jvm.Cond.soleField "KrylovLaboratoryModel" "beginsAt") ∈ lw_all := sorry
theorem q2669 : (Jvm.Cond.lays "KrylovLaboratoryModel" "KrylovLaboratoryModel" "token" "I") ∈ lw_all := sorry
theorem q2670 : (Jvm.Cond.soleField "KrylovLaboratoryModel" "token") ∈ lw_all := sorry
theorem q2671 : (Jvm.Cond.lays "KrylovLaboratoryModel" "KrylovLaboratoryModel" "error" "I") ∈ lw_all := sorry
theorem q2672 : (Jvm.Cond.soleField "KrylovLaboratoryModel" "error") ∈ lw_all := sorry
theorem q2673 : (Jvm.Cond.lays "KrylovLaboratoryModel" "KrylovLaboratoryModel" "errorAt" "I") ∈ lw_all := sorry
theorem q2674 : (Jvm.Cond.soleField "KrylovLaboratoryModel" "errorAt") ∈ lw_all := sorry
theorem q2675 : (Jvm.Cond.lays "KrylovLaboratoryModel" "KrylovLaboratoryModel" "errorPosition" "I") ∈ lw_all := sorry
theorem q2676 : (Jvm.Cond.soleField "KrylovLaboratoryModel" "errorPosition") ∈ lw_all := sorry
theorem q2677 : (Jvm.Cond.lays "KrylovLaboratoryModel" "KrylovLaboratoryModel" "nested" "I") ∈ lw_all := sorry
theorem q2678 : (Jvm.Cond.soleField "KrylovLaboratoryModel" "nested") ∈ lw_all := sorry
theorem q2679 : (Jvm.Cond.laysFinal "KrylovLaboratoryModel" "KrylovLaboratoryModel" "names" "[Ljava/lang/String;") ∈ lw_all := lw_g (lw_at lw_m11 150 rfl) rfl
theorem q2680 : (Jvm.Cond.soleField "KrylovLaboratoryModel" "names") ∈ lw_all := sorry
theorem q2681 : (Jvm.Cond.laysFinal "KrylovLaboratoryModel" "KrylovLaboratoryModel" "codes" "[I") ∈ lw_all := lw_g (lw_at lw_m11 152 rfl) rfl
theorem q2682 : (Jvm.Cond.soleField "KrylovLaboratoryModel" "codes") ∈ lw_all := sorry
theorem q2683 : (Jvm.Cond.laysFinal "KrylovLaboratoryModel" "KrylovLaboratoryModel" "stack" "[J") ∈ lw_all := lw_g (lw_at lw_m11 154 rfl) rfl
theorem q2684 : (Jvm.Cond.soleField "KrylovLaboratoryModel" "stack") ∈ lw_all := sorry
theorem q2685 : (Jvm.Cond.lays "KrylovLaboratoryModel" "KrylovLaboratoryModel" "codeCount" "I") ∈ lw_all := sorry
theorem q2686 : (Jvm.Cond.soleField "KrylovLaboratoryModel" "codeCount") ∈ lw_all := sorry
theorem q2687 : (Jvm.Cond.superclass "KrylovLaboratoryModel" "java/lang/Object") ∈ lw_all := sorry
theorem q2689 : (Jvm.Cond.instanceMethod ({ cls := "KrylovLaboratoryModel", name := "thrown", desc := "()I" } : Jvm.MethodName)) ∈ lw_all := sorry
theorem q2690 : (Jvm.Cond.selects "KrylovLaboratoryModel" ({ cls := "KrylovLaboratoryModel", name := "thrown", desc := "()I" } : Jvm.MethodName) ({ cls := "KrylovLaboratoryModel", name := "thrown", desc := "()I" } : Jvm.MethodName)) ∈ lw_all := sorry
theorem q2691 : (Jvm.Cond.code ({ cls := "KrylovLaboratoryModel", name := "thrown", desc := "()I" } : Jvm.MethodName) prog_17_method_2_code (1 : Nat) (Option.some Jvm.ClassFile.FieldType.int)) ∈ lw_all := sorry
theorem q2693 : (Jvm.Cond.instanceMethod ({ cls := "KrylovLaboratoryModel", name := "order", desc := "()I" } : Jvm.MethodName)) ∈ lw_all := sorry
theorem q2694 : (Jvm.Cond.selects "KrylovLaboratoryModel" ({ cls := "KrylovLaboratoryModel", name := "order", desc := "()I" } : Jvm.MethodName) ({ cls := "KrylovLaboratoryModel", name := "order", desc := "()I" } : Jvm.MethodName)) ∈ lw_all := sorry
theorem q2695 : (Jvm.Cond.code ({ cls := "KrylovLaboratoryModel", name := "order", desc := "()I" } : Jvm.MethodName) prog_17_method_42_code (1 : Nat) (Option.some Jvm.ClassFile.FieldType.int)) ∈ lw_all := sorry
theorem q2697 : (Jvm.Cond.instanceMethod ({ cls := "KrylovLaboratoryModel", name := "entry", desc := "(II)I" } : Jvm.MethodName)) ∈ lw_all := sorry
theorem q2698 : (Jvm.Cond.selects "KrylovLaboratoryModel" ({ cls := "KrylovLaboratoryModel", name := "entry", desc := "(II)I" } : Jvm.MethodName) ({ cls := "KrylovLaboratoryModel", name := "entry", desc := "(II)I" } : Jvm.MethodName)) ∈ lw_all := sorry
theorem q2699 : (Jvm.Cond.code ({ cls := "KrylovLaboratoryModel", name := "entry", desc := "(II)I" } : Jvm.MethodName) prog_17_method_44_code (3 : Nat) (Option.some Jvm.ClassFile.FieldType.int)) ∈ lw_all := sorry
theorem q2700 : (Jvm.Cond.methodLink "KrylovLaboratoryModel" (224 : Nat) ({ cls := "KrylovLaboratoryModel", name := "isPlace", desc := "(I)Z" } : Jvm.MethodName)) ∈ lw_all := sorry
theorem q2701 : (Jvm.Cond.privateMethod ({ cls := "KrylovLaboratoryModel", name := "isPlace", desc := "(I)Z" } : Jvm.MethodName)) ∈ lw_tbl := sorry
theorem q2702 : (Jvm.Cond.instanceMethod ({ cls := "KrylovLaboratoryModel", name := "isPlace", desc := "(I)Z" } : Jvm.MethodName)) ∈ lw_all := sorry
theorem q2703 : (Jvm.Cond.code ({ cls := "KrylovLaboratoryModel", name := "isPlace", desc := "(I)Z" } : Jvm.MethodName) prog_17_method_43_code (2 : Nat) (Option.some Jvm.ClassFile.FieldType.boolean)) ∈ lw_all := sorry
theorem q2704 : (Jvm.Cond.methodLink "KrylovLaboratoryModel" (220 : Nat) ({ cls := "KrylovLaboratoryModel", name := "inRange", desc := "(JJJ)Z" } : Jvm.MethodName)) ∈ lw_all := sorry
theorem q2705 : (Jvm.Cond.static ({ cls := "KrylovLaboratoryModel", name := "inRange", desc := "(JJJ)Z" } : Jvm.MethodName)) ∈ lw_all := sorry
theorem q2706 : (Jvm.Cond.code ({ cls := "KrylovLaboratoryModel", name := "inRange", desc := "(JJJ)Z" } : Jvm.MethodName) prog_17_method_4_code (6 : Nat) (Option.some Jvm.ClassFile.FieldType.boolean)) ∈ lw_all := sorry
theorem q2707 : (Jvm.Cond.methodLink "KrylovLaboratoryModel" (227 : Nat) ({ cls := "KrylovLaboratoryModel", name := "raise", desc := "(I)I" } : Jvm.MethodName)) ∈ lw_all := sorry
theorem q2708 : (Jvm.Cond.privateMethod ({ cls := "KrylovLaboratoryModel", name := "raise", desc := "(I)I" } : Jvm.MethodName)) ∈ lw_tbl := sorry
theorem q2709 : (Jvm.Cond.instanceMethod ({ cls := "KrylovLaboratoryModel", name := "raise", desc := "(I)I" } : Jvm.MethodName)) ∈ lw_all := sorry
theorem q2710 : (Jvm.Cond.code ({ cls := "KrylovLaboratoryModel", name := "raise", desc := "(I)I" } : Jvm.MethodName) prog_17_method_3_code (2 : Nat) (Option.some Jvm.ClassFile.FieldType.int)) ∈ lw_all := sorry
theorem q2712 : (Jvm.Cond.instanceMethod ({ cls := "KrylovLaboratoryModel", name := "setting", desc := "(I)I" } : Jvm.MethodName)) ∈ lw_all := sorry
theorem q2713 : (Jvm.Cond.selects "KrylovLaboratoryModel" ({ cls := "KrylovLaboratoryModel", name := "setting", desc := "(I)I" } : Jvm.MethodName) ({ cls := "KrylovLaboratoryModel", name := "setting", desc := "(I)I" } : Jvm.MethodName)) ∈ lw_all := sorry
theorem q2714 : (Jvm.Cond.code ({ cls := "KrylovLaboratoryModel", name := "setting", desc := "(I)I" } : Jvm.MethodName) prog_17_method_45_code (2 : Nat) (Option.some Jvm.ClassFile.FieldType.int)) ∈ lw_all := sorry
theorem q2716 : (Jvm.Cond.instanceMethod ({ cls := "KrylovLaboratoryModel", name := "steps", desc := "()I" } : Jvm.MethodName)) ∈ lw_all := sorry
theorem q2717 : (Jvm.Cond.selects "KrylovLaboratoryModel" ({ cls := "KrylovLaboratoryModel", name := "steps", desc := "()I" } : Jvm.MethodName) ({ cls := "KrylovLaboratoryModel", name := "steps", desc := "()I" } : Jvm.MethodName)) ∈ lw_all := sorry
theorem q2718 : (Jvm.Cond.code ({ cls := "KrylovLaboratoryModel", name := "steps", desc := "()I" } : Jvm.MethodName) prog_17_method_46_code (1 : Nat) (Option.some Jvm.ClassFile.FieldType.int)) ∈ lw_all := sorry
theorem q2719 : (Jvm.Cond.methodLink "KrylovLaboratoryModel" (91 : Nat) ({ cls := "KrylovLaboratoryModel", name := "steps0", desc := "()I" } : Jvm.MethodName)) ∈ lw_all := sorry
theorem q2720 : (Jvm.Cond.privateMethod ({ cls := "KrylovLaboratoryModel", name := "steps0", desc := "()I" } : Jvm.MethodName)) ∈ lw_tbl := sorry
theorem q2721 : (Jvm.Cond.instanceMethod ({ cls := "KrylovLaboratoryModel", name := "steps0", desc := "()I" } : Jvm.MethodName)) ∈ lw_all := sorry
theorem q2722 : (Jvm.Cond.code ({ cls := "KrylovLaboratoryModel", name := "steps0", desc := "()I" } : Jvm.MethodName) prog_17_method_7_code (1 : Nat) (Option.some Jvm.ClassFile.FieldType.int)) ∈ lw_all := sorry
theorem q2724 : (Jvm.Cond.instanceMethod ({ cls := "KrylovLaboratoryModel", name := "isClosed", desc := "()Z" } : Jvm.MethodName)) ∈ lw_all := sorry
theorem q2725 : (Jvm.Cond.selects "KrylovLaboratoryModel" ({ cls := "KrylovLaboratoryModel", name := "isClosed", desc := "()Z" } : Jvm.MethodName) ({ cls := "KrylovLaboratoryModel", name := "isClosed", desc := "()Z" } : Jvm.MethodName)) ∈ lw_all := sorry
theorem q2726 : (Jvm.Cond.code ({ cls := "KrylovLaboratoryModel", name := "isClosed", desc := "()Z" } : Jvm.MethodName) prog_17_method_47_code (1 : Nat) (Option.some Jvm.ClassFile.FieldType.boolean)) ∈ lw_all := sorry
theorem q2728 : (Jvm.Cond.instanceMethod ({ cls := "KrylovLaboratoryModel", name := "basis", desc := "(II)I" } : Jvm.MethodName)) ∈ lw_all := sorry
theorem q2729 : (Jvm.Cond.selects "KrylovLaboratoryModel" ({ cls := "KrylovLaboratoryModel", name := "basis", desc := "(II)I" } : Jvm.MethodName) ({ cls := "KrylovLaboratoryModel", name := "basis", desc := "(II)I" } : Jvm.MethodName)) ∈ lw_all := sorry
theorem q2730 : (Jvm.Cond.code ({ cls := "KrylovLaboratoryModel", name := "basis", desc := "(II)I" } : Jvm.MethodName) prog_17_method_49_code (3 : Nat) (Option.some Jvm.ClassFile.FieldType.int)) ∈ lw_all := sorry
theorem q2731 : (Jvm.Cond.methodLink "KrylovLaboratoryModel" (233 : Nat) ({ cls := "KrylovLaboratoryModel", name := "isVector", desc := "(I)Z" } : Jvm.MethodName)) ∈ lw_all := sorry
theorem q2732 : (Jvm.Cond.privateMethod ({ cls := "KrylovLaboratoryModel", name := "isVector", desc := "(I)Z" } : Jvm.MethodName)) ∈ lw_tbl := sorry
theorem q2733 : (Jvm.Cond.instanceMethod ({ cls := "KrylovLaboratoryModel", name := "isVector", desc := "(I)Z" } : Jvm.MethodName)) ∈ lw_all := sorry
theorem q2734 : (Jvm.Cond.code ({ cls := "KrylovLaboratoryModel", name := "isVector", desc := "(I)Z" } : Jvm.MethodName) prog_17_method_48_code (2 : Nat) (Option.some Jvm.ClassFile.FieldType.boolean)) ∈ lw_all := sorry
theorem q2735 : (Jvm.Cond.methodLink "KrylovLaboratoryModel" (230 : Nat) ({ cls := "KrylovLaboratoryModel", name := "vectors", desc := "()I" } : Jvm.MethodName)) ∈ lw_all := sorry
theorem q2736 : (Jvm.Cond.privateMethod ({ cls := "KrylovLaboratoryModel", name := "vectors", desc := "()I" } : Jvm.MethodName)) ∈ lw_tbl := sorry
theorem q2737 : (Jvm.Cond.instanceMethod ({ cls := "KrylovLaboratoryModel", name := "vectors", desc := "()I" } : Jvm.MethodName)) ∈ lw_all := sorry
theorem q2738 : (Jvm.Cond.code ({ cls := "KrylovLaboratoryModel", name := "vectors", desc := "()I" } : Jvm.MethodName) prog_17_method_9_code (1 : Nat) (Option.some Jvm.ClassFile.FieldType.int)) ∈ lw_all := sorry
theorem q2739 : (Jvm.Cond.methodLink "KrylovLaboratoryModel" (169 : Nat) ({ cls := "KrylovLaboratoryModel", name := "basisAt", desc := "(I)I" } : Jvm.MethodName)) ∈ lw_all := sorry
theorem q2740 : (Jvm.Cond.static ({ cls := "KrylovLaboratoryModel", name := "basisAt", desc := "(I)I" } : Jvm.MethodName)) ∈ lw_all := sorry
theorem q2741 : (Jvm.Cond.code ({ cls := "KrylovLaboratoryModel", name := "basisAt", desc := "(I)I" } : Jvm.MethodName) prog_17_method_18_code (1 : Nat) (Option.some Jvm.ClassFile.FieldType.int)) ∈ lw_all := sorry
theorem q2743 : (Jvm.Cond.instanceMethod ({ cls := "KrylovLaboratoryModel", name := "alpha", desc := "(I)I" } : Jvm.MethodName)) ∈ lw_all := sorry
theorem q2744 : (Jvm.Cond.selects "KrylovLaboratoryModel" ({ cls := "KrylovLaboratoryModel", name := "alpha", desc := "(I)I" } : Jvm.MethodName) ({ cls := "KrylovLaboratoryModel", name := "alpha", desc := "(I)I" } : Jvm.MethodName)) ∈ lw_all := sorry
theorem q2745 : (Jvm.Cond.code ({ cls := "KrylovLaboratoryModel", name := "alpha", desc := "(I)I" } : Jvm.MethodName) prog_17_method_50_code (2 : Nat) (Option.some Jvm.ClassFile.FieldType.int)) ∈ lw_all := sorry
theorem q2746 : (Jvm.Cond.methodLink "KrylovLaboratoryModel" (236 : Nat) ({ cls := "KrylovLaboratoryModel", name := "isRitz", desc := "(I)Z" } : Jvm.MethodName)) ∈ lw_all := sorry
theorem q2747 : (Jvm.Cond.privateMethod ({ cls := "KrylovLaboratoryModel", name := "isRitz", desc := "(I)Z" } : Jvm.MethodName)) ∈ lw_tbl := sorry
theorem q2748 : (Jvm.Cond.instanceMethod ({ cls := "KrylovLaboratoryModel", name := "isRitz", desc := "(I)Z" } : Jvm.MethodName)) ∈ lw_all := sorry
theorem q2749 : (Jvm.Cond.code ({ cls := "KrylovLaboratoryModel", name := "isRitz", desc := "(I)Z" } : Jvm.MethodName) prog_17_method_41_code (2 : Nat) (Option.some Jvm.ClassFile.FieldType.boolean)) ∈ lw_all := sorry
theorem q2751 : (Jvm.Cond.instanceMethod ({ cls := "KrylovLaboratoryModel", name := "beta", desc := "(I)I" } : Jvm.MethodName)) ∈ lw_all := sorry
theorem q2752 : (Jvm.Cond.selects "KrylovLaboratoryModel" ({ cls := "KrylovLaboratoryModel", name := "beta", desc := "(I)I" } : Jvm.MethodName) ({ cls := "KrylovLaboratoryModel", name := "beta", desc := "(I)I" } : Jvm.MethodName)) ∈ lw_all := sorry
theorem q2753 : (Jvm.Cond.code ({ cls := "KrylovLaboratoryModel", name := "beta", desc := "(I)I" } : Jvm.MethodName) prog_17_method_51_code (2 : Nat) (Option.some Jvm.ClassFile.FieldType.int)) ∈ lw_all := sorry
theorem q2755 : (Jvm.Cond.instanceMethod ({ cls := "KrylovLaboratoryModel", name := "estimate", desc := "(II)I" } : Jvm.MethodName)) ∈ lw_all := sorry
theorem q2756 : (Jvm.Cond.selects "KrylovLaboratoryModel" ({ cls := "KrylovLaboratoryModel", name := "estimate", desc := "(II)I" } : Jvm.MethodName) ({ cls := "KrylovLaboratoryModel", name := "estimate", desc := "(II)I" } : Jvm.MethodName)) ∈ lw_all := sorry
theorem q2757 : (Jvm.Cond.code ({ cls := "KrylovLaboratoryModel", name := "estimate", desc := "(II)I" } : Jvm.MethodName) prog_17_method_52_code (3 : Nat) (Option.some Jvm.ClassFile.FieldType.int)) ∈ lw_all := sorry
theorem q2758 : (Jvm.Cond.methodLink "KrylovLaboratoryModel" (158 : Nat) ({ cls := "KrylovLaboratoryModel", name := "told", desc := "(II)J" } : Jvm.MethodName)) ∈ lw_all := sorry
theorem q2759 : (Jvm.Cond.privateMethod ({ cls := "KrylovLaboratoryModel", name := "told", desc := "(II)J" } : Jvm.MethodName)) ∈ lw_tbl := sorry
theorem q2760 : (Jvm.Cond.instanceMethod ({ cls := "KrylovLaboratoryModel", name := "told", desc := "(II)J" } : Jvm.MethodName)) ∈ lw_all := sorry
theorem q2761 : (Jvm.Cond.code ({ cls := "KrylovLaboratoryModel", name := "told", desc := "(II)J" } : Jvm.MethodName) prog_17_method_26_code (3 : Nat) (Option.some Jvm.ClassFile.FieldType.long)) ∈ lw_all := sorry
theorem q2763 : (Jvm.Cond.instanceMethod ({ cls := "KrylovLaboratoryModel", name := "loss", desc := "()I" } : Jvm.MethodName)) ∈ lw_all := sorry
theorem q2764 : (Jvm.Cond.selects "KrylovLaboratoryModel" ({ cls := "KrylovLaboratoryModel", name := "loss", desc := "()I" } : Jvm.MethodName) ({ cls := "KrylovLaboratoryModel", name := "loss", desc := "()I" } : Jvm.MethodName)) ∈ lw_all := sorry
theorem q2765 : (Jvm.Cond.code ({ cls := "KrylovLaboratoryModel", name := "loss", desc := "()I" } : Jvm.MethodName) prog_17_method_53_code (5 : Nat) (Option.some Jvm.ClassFile.FieldType.int)) ∈ lw_all := sorry
theorem q2766 : (Jvm.Cond.methodLink "KrylovLaboratoryModel" (147 : Nat) ({ cls := "java/lang/Math", name := "abs", desc := "(J)J" } : Jvm.MethodName)) ∈ lw_all := sorry
theorem q2767 : (Jvm.Cond.methodLink "KrylovLaboratoryModel" (155 : Nat) ({ cls := "java/lang/Math", name := "max", desc := "(JJ)J" } : Jvm.MethodName)) ∈ lw_all := sorry
theorem q2769 : (Jvm.Cond.instanceMethod ({ cls := "KrylovLaboratoryModel", name := "value", desc := "(I)I" } : Jvm.MethodName)) ∈ lw_all := sorry
theorem q2770 : (Jvm.Cond.selects "KrylovLaboratoryModel" ({ cls := "KrylovLaboratoryModel", name := "value", desc := "(I)I" } : Jvm.MethodName) ({ cls := "KrylovLaboratoryModel", name := "value", desc := "(I)I" } : Jvm.MethodName)) ∈ lw_all := sorry
theorem q2771 : (Jvm.Cond.code ({ cls := "KrylovLaboratoryModel", name := "value", desc := "(I)I" } : Jvm.MethodName) prog_17_method_54_code (2 : Nat) (Option.some Jvm.ClassFile.FieldType.int)) ∈ lw_all := sorry
theorem q2772 : (Jvm.Cond.methodLink "KrylovLaboratoryModel" (209 : Nat) ({ cls := "KrylovLaboratoryModel", name := "ritzValue", desc := "(I)J" } : Jvm.MethodName)) ∈ lw_all := sorry
theorem q2773 : (Jvm.Cond.privateMethod ({ cls := "KrylovLaboratoryModel", name := "ritzValue", desc := "(I)J" } : Jvm.MethodName)) ∈ lw_tbl := sorry
theorem q2774 : (Jvm.Cond.instanceMethod ({ cls := "KrylovLaboratoryModel", name := "ritzValue", desc := "(I)J" } : Jvm.MethodName)) ∈ lw_all := sorry
theorem q2775 : (Jvm.Cond.code ({ cls := "KrylovLaboratoryModel", name := "ritzValue", desc := "(I)J" } : Jvm.MethodName) prog_17_method_35_code (8 : Nat) (Option.some Jvm.ClassFile.FieldType.long)) ∈ lw_all := sorry
theorem q2776 : (Jvm.Cond.constantLong "KrylovLaboratoryModel" (199 : Nat) (-700000000 : Int64)) ∈ lw_all := sorry
theorem q2777 : (Jvm.Cond.constantLong "KrylovLaboratoryModel" (201 : Nat) (700000000 : Int64)) ∈ lw_all := sorry
theorem q2778 : (Jvm.Cond.methodLink "KrylovLaboratoryModel" (203 : Nat) ({ cls := "KrylovLaboratoryModel", name := "countUnder", desc := "(J)I" } : Jvm.MethodName)) ∈ lw_all := sorry
theorem q2779 : (Jvm.Cond.privateMethod ({ cls := "KrylovLaboratoryModel", name := "countUnder", desc := "(J)I" } : Jvm.MethodName)) ∈ lw_tbl := sorry
theorem q2780 : (Jvm.Cond.instanceMethod ({ cls := "KrylovLaboratoryModel", name := "countUnder", desc := "(J)I" } : Jvm.MethodName)) ∈ lw_all := sorry
theorem q2781 : (Jvm.Cond.code ({ cls := "KrylovLaboratoryModel", name := "countUnder", desc := "(J)I" } : Jvm.MethodName) prog_17_method_34_code (9 : Nat) (Option.some Jvm.ClassFile.FieldType.int)) ∈ lw_all := sorry
theorem q2782 : (Jvm.Cond.constantLong "KrylovLaboratoryModel" (197 : Nat) (-1 : Int64)) ∈ lw_all := sorry
theorem q2784 : (Jvm.Cond.instanceMethod ({ cls := "KrylovLaboratoryModel", name := "bound", desc := "(I)I" } : Jvm.MethodName)) ∈ lw_all := sorry
theorem q2785 : (Jvm.Cond.selects "KrylovLaboratoryModel" ({ cls := "KrylovLaboratoryModel", name := "bound", desc := "(I)I" } : Jvm.MethodName) ({ cls := "KrylovLaboratoryModel", name := "bound", desc := "(I)I" } : Jvm.MethodName)) ∈ lw_all := sorry
theorem q2786 : (Jvm.Cond.code ({ cls := "KrylovLaboratoryModel", name := "bound", desc := "(I)I" } : Jvm.MethodName) prog_17_method_55_code (2 : Nat) (Option.some Jvm.ClassFile.FieldType.int)) ∈ lw_all := sorry
theorem q2787 : (Jvm.Cond.methodLink "KrylovLaboratoryModel" (239 : Nat) ({ cls := "KrylovLaboratoryModel", name := "ritzBound", desc := "(I)J" } : Jvm.MethodName)) ∈ lw_all := sorry
theorem q2788 : (Jvm.Cond.privateMethod ({ cls := "KrylovLaboratoryModel", name := "ritzBound", desc := "(I)J" } : Jvm.MethodName)) ∈ lw_tbl := sorry
theorem q2789 : (Jvm.Cond.instanceMethod ({ cls := "KrylovLaboratoryModel", name := "ritzBound", desc := "(I)J" } : Jvm.MethodName)) ∈ lw_all := sorry
theorem q2790 : (Jvm.Cond.code ({ cls := "KrylovLaboratoryModel", name := "ritzBound", desc := "(I)J" } : Jvm.MethodName) prog_17_method_38_code (2 : Nat) (Option.some Jvm.ClassFile.FieldType.long)) ∈ lw_all := sorry
theorem q2791 : (Jvm.Cond.methodLink "KrylovLaboratoryModel" (212 : Nat) ({ cls := "KrylovLaboratoryModel", name := "layShares", desc := "(J)V" } : Jvm.MethodName)) ∈ lw_all := sorry
theorem q2792 : (Jvm.Cond.privateMethod ({ cls := "KrylovLaboratoryModel", name := "layShares", desc := "(J)V" } : Jvm.MethodName)) ∈ lw_tbl := sorry
theorem q2793 : (Jvm.Cond.instanceMethod ({ cls := "KrylovLaboratoryModel", name := "layShares", desc := "(J)V" } : Jvm.MethodName)) ∈ lw_all := sorry
theorem q2794 : (Jvm.Cond.code ({ cls := "KrylovLaboratoryModel", name := "layShares", desc := "(J)V" } : Jvm.MethodName) prog_17_method_36_code (6 : Nat) (Option.none : Option Jvm.ClassFile.FieldType)) ∈ lw_all := sorry
theorem q2795 : (Jvm.Cond.constantLong "KrylovLaboratoryModel" (207 : Nat) (100000000 : Int64)) ∈ lw_all := sorry
theorem q2796 : (Jvm.Cond.methodLink "KrylovLaboratoryModel" (166 : Nat) ({ cls := "KrylovLaboratoryModel", name := "bounded", desc := "(JJ)J" } : Jvm.MethodName)) ∈ lw_all := sorry
theorem q2797 : (Jvm.Cond.static ({ cls := "KrylovLaboratoryModel", name := "bounded", desc := "(JJ)J" } : Jvm.MethodName)) ∈ lw_all := sorry
theorem q2798 : (Jvm.Cond.code ({ cls := "KrylovLaboratoryModel", name := "bounded", desc := "(JJ)J" } : Jvm.MethodName) prog_17_method_28_code (4 : Nat) (Option.some Jvm.ClassFile.FieldType.long)) ∈ lw_all := sorry
theorem q2799 : (Jvm.Cond.methodLink "KrylovLaboratoryModel" (152 : Nat) ({ cls := "java/lang/Math", name := "min", desc := "(JJ)J" } : Jvm.MethodName)) ∈ lw_all := sorry
theorem q2800 : (Jvm.Cond.methodLink "KrylovLaboratoryModel" (216 : Nat) ({ cls := "KrylovLaboratoryModel", name := "boundNow", desc := "()J" } : Jvm.MethodName)) ∈ lw_all := sorry
theorem q2801 : (Jvm.Cond.privateMethod ({ cls := "KrylovLaboratoryModel", name := "boundNow", desc := "()J" } : Jvm.MethodName)) ∈ lw_tbl := sorry
theorem q2802 : (Jvm.Cond.instanceMethod ({ cls := "KrylovLaboratoryModel", name := "boundNow", desc := "()J" } : Jvm.MethodName)) ∈ lw_all := sorry
theorem q2803 : (Jvm.Cond.code ({ cls := "KrylovLaboratoryModel", name := "boundNow", desc := "()J" } : Jvm.MethodName) prog_17_method_37_code (2 : Nat) (Option.some Jvm.ClassFile.FieldType.long)) ∈ lw_all := sorry
theorem q2805 : (Jvm.Cond.instanceMethod ({ cls := "KrylovLaboratoryModel", name := "ritz", desc := "(II)I" } : Jvm.MethodName)) ∈ lw_all := sorry
theorem q2806 : (Jvm.Cond.selects "KrylovLaboratoryModel" ({ cls := "KrylovLaboratoryModel", name := "ritz", desc := "(II)I" } : Jvm.MethodName) ({ cls := "KrylovLaboratoryModel", name := "ritz", desc := "(II)I" } : Jvm.MethodName)) ∈ lw_all := sorry
theorem q2807 : (Jvm.Cond.code ({ cls := "KrylovLaboratoryModel", name := "ritz", desc := "(II)I" } : Jvm.MethodName) prog_17_method_56_code (3 : Nat) (Option.some Jvm.ClassFile.FieldType.int)) ∈ lw_all := sorry
theorem q2808 : (Jvm.Cond.methodLink "KrylovLaboratoryModel" (242 : Nat) ({ cls := "KrylovLaboratoryModel", name := "makeRitz", desc := "(I)V" } : Jvm.MethodName)) ∈ lw_all := sorry
theorem q2809 : (Jvm.Cond.privateMethod ({ cls := "KrylovLaboratoryModel", name := "makeRitz", desc := "(I)V" } : Jvm.MethodName)) ∈ lw_tbl := sorry
theorem q2810 : (Jvm.Cond.instanceMethod ({ cls := "KrylovLaboratoryModel", name := "makeRitz", desc := "(I)V" } : Jvm.MethodName)) ∈ lw_all := sorry
theorem q2811 : (Jvm.Cond.code ({ cls := "KrylovLaboratoryModel", name := "makeRitz", desc := "(I)V" } : Jvm.MethodName) prog_17_method_39_code (6 : Nat) (Option.none : Option Jvm.ClassFile.FieldType)) ∈ lw_all := sorry
theorem q2813 : (Jvm.Cond.instanceMethod ({ cls := "KrylovLaboratoryModel", name := "residual", desc := "(I)I" } : Jvm.MethodName)) ∈ lw_all := sorry
theorem q2814 : (Jvm.Cond.selects "KrylovLaboratoryModel" ({ cls := "KrylovLaboratoryModel", name := "residual", desc := "(I)I" } : Jvm.MethodName) ({ cls := "KrylovLaboratoryModel", name := "residual", desc := "(I)I" } : Jvm.MethodName)) ∈ lw_all := sorry
theorem q2815 : (Jvm.Cond.code ({ cls := "KrylovLaboratoryModel", name := "residual", desc := "(I)I" } : Jvm.MethodName) prog_17_method_57_code (2 : Nat) (Option.some Jvm.ClassFile.FieldType.int)) ∈ lw_all := sorry
theorem q2816 : (Jvm.Cond.methodLink "KrylovLaboratoryModel" (245 : Nat) ({ cls := "KrylovLaboratoryModel", name := "residualOf", desc := "(J[JI)J" } : Jvm.MethodName)) ∈ lw_all := lw_g (lw_at lw_m12 47 rfl) rfl
theorem q2817 : (Jvm.Cond.privateMethod ({ cls := "KrylovLaboratoryModel", name := "residualOf", desc := "(J[JI)J" } : Jvm.MethodName)) ∈ lw_tbl := lw_at lw_m12 48 rfl
theorem q2818 : (Jvm.Cond.instanceMethod ({ cls := "KrylovLaboratoryModel", name := "residualOf", desc := "(J[JI)J" } : Jvm.MethodName)) ∈ lw_all := lw_g (lw_at lw_m12 49 rfl) rfl
theorem q2819 : (Jvm.Cond.code ({ cls := "KrylovLaboratoryModel", name := "residualOf", desc := "(J[JI)J" } : Jvm.MethodName) prog_17_method_40_code (5 : Nat) (Option.some Jvm.ClassFile.FieldType.long)) ∈ lw_all := lw_g (lw_at lw_m12 50 rfl) rfl
theorem q2820 : (Jvm.Cond.methodLink "KrylovLaboratoryModel" (172 : Nat) ({ cls := "KrylovLaboratoryModel", name := "multiply", desc := "([JI[J)V" } : Jvm.MethodName)) ∈ lw_all := lw_g (lw_at lw_m12 51 rfl) rfl
theorem q2821 : (Jvm.Cond.privateMethod ({ cls := "KrylovLaboratoryModel", name := "multiply", desc := "([JI[J)V" } : Jvm.MethodName)) ∈ lw_tbl := lw_at lw_m12 52 rfl
theorem q2822 : (Jvm.Cond.instanceMethod ({ cls := "KrylovLaboratoryModel", name := "multiply", desc := "([JI[J)V" } : Jvm.MethodName)) ∈ lw_all := lw_g (lw_at lw_m12 53 rfl) rfl
theorem q2823 : (Jvm.Cond.code ({ cls := "KrylovLaboratoryModel", name := "multiply", desc := "([JI[J)V" } : Jvm.MethodName) prog_17_method_20_code (6 : Nat) (Option.none : Option Jvm.ClassFile.FieldType)) ∈ lw_all := lw_g (lw_at lw_m12 54 rfl) rfl
theorem q2825 : (Jvm.Cond.instanceMethod ({ cls := "KrylovLaboratoryModel", name := "countBelow", desc := "(I)I" } : Jvm.MethodName)) ∈ lw_all := sorry
theorem q2826 : (Jvm.Cond.selects "KrylovLaboratoryModel" ({ cls := "KrylovLaboratoryModel", name := "countBelow", desc := "(I)I" } : Jvm.MethodName) ({ cls := "KrylovLaboratoryModel", name := "countBelow", desc := "(I)I" } : Jvm.MethodName)) ∈ lw_all := sorry
theorem q2827 : (Jvm.Cond.code ({ cls := "KrylovLaboratoryModel", name := "countBelow", desc := "(I)I" } : Jvm.MethodName) prog_17_method_58_code (2 : Nat) (Option.some Jvm.ClassFile.FieldType.int)) ∈ lw_all := sorry
theorem q2829 : (Jvm.Cond.instanceMethod ({ cls := "KrylovLaboratoryModel", name := "nearest", desc := "(I)I" } : Jvm.MethodName)) ∈ lw_all := sorry
theorem q2830 : (Jvm.Cond.selects "KrylovLaboratoryModel" ({ cls := "KrylovLaboratoryModel", name := "nearest", desc := "(I)I" } : Jvm.MethodName) ({ cls := "KrylovLaboratoryModel", name := "nearest", desc := "(I)I" } : Jvm.MethodName)) ∈ lw_all := sorry
theorem q2831 : (Jvm.Cond.code ({ cls := "KrylovLaboratoryModel", name := "nearest", desc := "(I)I" } : Jvm.MethodName) prog_17_method_59_code (8 : Nat) (Option.some Jvm.ClassFile.FieldType.int)) ∈ lw_all := sorry
theorem q2833 : (Jvm.Cond.instanceMethod ({ cls := "KrylovLaboratoryModel", name := "lockedCount", desc := "()I" } : Jvm.MethodName)) ∈ lw_all := sorry
theorem q2834 : (Jvm.Cond.selects "KrylovLaboratoryModel" ({ cls := "KrylovLaboratoryModel", name := "lockedCount", desc := "()I" } : Jvm.MethodName) ({ cls := "KrylovLaboratoryModel", name := "lockedCount", desc := "()I" } : Jvm.MethodName)) ∈ lw_all := sorry
theorem q2835 : (Jvm.Cond.code ({ cls := "KrylovLaboratoryModel", name := "lockedCount", desc := "()I" } : Jvm.MethodName) prog_17_method_63_code (1 : Nat) (Option.some Jvm.ClassFile.FieldType.int)) ∈ lw_all := sorry
theorem q2837 : (Jvm.Cond.instanceMethod ({ cls := "KrylovLaboratoryModel", name := "locked", desc := "(II)I" } : Jvm.MethodName)) ∈ lw_all := sorry
theorem q2838 : (Jvm.Cond.selects "KrylovLaboratoryModel" ({ cls := "KrylovLaboratoryModel", name := "locked", desc := "(II)I" } : Jvm.MethodName) ({ cls := "KrylovLaboratoryModel", name := "locked", desc := "(II)I" } : Jvm.MethodName)) ∈ lw_all := sorry
theorem q2839 : (Jvm.Cond.code ({ cls := "KrylovLaboratoryModel", name := "locked", desc := "(II)I" } : Jvm.MethodName) prog_17_method_64_code (3 : Nat) (Option.some Jvm.ClassFile.FieldType.int)) ∈ lw_all := sorry
theorem q2840 : (Jvm.Cond.methodLink "KrylovLaboratoryModel" (252 : Nat) ({ cls := "KrylovLaboratoryModel", name := "isLocked", desc := "(I)Z" } : Jvm.MethodName)) ∈ lw_all := sorry
theorem q2841 : (Jvm.Cond.privateMethod ({ cls := "KrylovLaboratoryModel", name := "isLocked", desc := "(I)Z" } : Jvm.MethodName)) ∈ lw_tbl := sorry
theorem q2842 : (Jvm.Cond.instanceMethod ({ cls := "KrylovLaboratoryModel", name := "isLocked", desc := "(I)Z" } : Jvm.MethodName)) ∈ lw_all := sorry
theorem q2843 : (Jvm.Cond.code ({ cls := "KrylovLaboratoryModel", name := "isLocked", desc := "(I)Z" } : Jvm.MethodName) prog_17_method_60_code (2 : Nat) (Option.some Jvm.ClassFile.FieldType.boolean)) ∈ lw_all := sorry
theorem q2844 : (Jvm.Cond.methodLink "KrylovLaboratoryModel" (255 : Nat) ({ cls := "KrylovLaboratoryModel", name := "lockedResidual", desc := "(I)J" } : Jvm.MethodName)) ∈ lw_all := sorry
theorem q2845 : (Jvm.Cond.privateMethod ({ cls := "KrylovLaboratoryModel", name := "lockedResidual", desc := "(I)J" } : Jvm.MethodName)) ∈ lw_tbl := sorry
theorem q2846 : (Jvm.Cond.instanceMethod ({ cls := "KrylovLaboratoryModel", name := "lockedResidual", desc := "(I)J" } : Jvm.MethodName)) ∈ lw_all := sorry
theorem q2847 : (Jvm.Cond.code ({ cls := "KrylovLaboratoryModel", name := "lockedResidual", desc := "(I)J" } : Jvm.MethodName) prog_17_method_62_code (2 : Nat) (Option.some Jvm.ClassFile.FieldType.long)) ∈ lw_all := sorry
theorem q2848 : (Jvm.Cond.methodLink "KrylovLaboratoryModel" (249 : Nat) ({ cls := "KrylovLaboratoryModel", name := "ofLock", desc := "(II)J" } : Jvm.MethodName)) ∈ lw_all := sorry
theorem q2849 : (Jvm.Cond.privateMethod ({ cls := "KrylovLaboratoryModel", name := "ofLock", desc := "(II)J" } : Jvm.MethodName)) ∈ lw_tbl := sorry
theorem q2850 : (Jvm.Cond.instanceMethod ({ cls := "KrylovLaboratoryModel", name := "ofLock", desc := "(II)J" } : Jvm.MethodName)) ∈ lw_all := sorry
theorem q2851 : (Jvm.Cond.code ({ cls := "KrylovLaboratoryModel", name := "ofLock", desc := "(II)J" } : Jvm.MethodName) prog_17_method_61_code (3 : Nat) (Option.some Jvm.ClassFile.FieldType.long)) ∈ lw_all := sorry
theorem q2853 : (Jvm.Cond.instanceMethod ({ cls := "KrylovLaboratoryModel", name := "lockedVector", desc := "(II)I" } : Jvm.MethodName)) ∈ lw_all := sorry
theorem q2854 : (Jvm.Cond.selects "KrylovLaboratoryModel" ({ cls := "KrylovLaboratoryModel", name := "lockedVector", desc := "(II)I" } : Jvm.MethodName) ({ cls := "KrylovLaboratoryModel", name := "lockedVector", desc := "(II)I" } : Jvm.MethodName)) ∈ lw_all := sorry
theorem q2855 : (Jvm.Cond.code ({ cls := "KrylovLaboratoryModel", name := "lockedVector", desc := "(II)I" } : Jvm.MethodName) prog_17_method_65_code (3 : Nat) (Option.some Jvm.ClassFile.FieldType.int)) ∈ lw_all := sorry
theorem q2857 : (Jvm.Cond.instanceMethod ({ cls := "KrylovLaboratoryModel", name := "firstBroken", desc := "(I)I" } : Jvm.MethodName)) ∈ lw_all := sorry
theorem q2858 : (Jvm.Cond.selects "KrylovLaboratoryModel" ({ cls := "KrylovLaboratoryModel", name := "firstBroken", desc := "(I)I" } : Jvm.MethodName) ({ cls := "KrylovLaboratoryModel", name := "firstBroken", desc := "(I)I" } : Jvm.MethodName)) ∈ lw_all := sorry
theorem q2859 : (Jvm.Cond.code ({ cls := "KrylovLaboratoryModel", name := "firstBroken", desc := "(I)I" } : Jvm.MethodName) prog_17_method_67_code (3 : Nat) (Option.some Jvm.ClassFile.FieldType.int)) ∈ lw_all := sorry
theorem q2860 : (Jvm.Cond.methodLink "KrylovLaboratoryModel" (258 : Nat) ({ cls := "KrylovLaboratoryModel", name := "isBroken", desc := "(II)Z" } : Jvm.MethodName)) ∈ lw_all := sorry
theorem q2861 : (Jvm.Cond.privateMethod ({ cls := "KrylovLaboratoryModel", name := "isBroken", desc := "(II)Z" } : Jvm.MethodName)) ∈ lw_tbl := sorry
theorem q2862 : (Jvm.Cond.instanceMethod ({ cls := "KrylovLaboratoryModel", name := "isBroken", desc := "(II)Z" } : Jvm.MethodName)) ∈ lw_all := sorry
theorem q2863 : (Jvm.Cond.code ({ cls := "KrylovLaboratoryModel", name := "isBroken", desc := "(II)Z" } : Jvm.MethodName) prog_17_method_66_code (3 : Nat) (Option.some Jvm.ClassFile.FieldType.boolean)) ∈ lw_all := sorry
theorem q2865 : (Jvm.Cond.instanceMethod ({ cls := "KrylovLaboratoryModel", name := "lock", desc := "(I)I" } : Jvm.MethodName)) ∈ lw_all := sorry
theorem q2866 : (Jvm.Cond.selects "KrylovLaboratoryModel" ({ cls := "KrylovLaboratoryModel", name := "lock", desc := "(I)I" } : Jvm.MethodName) ({ cls := "KrylovLaboratoryModel", name := "lock", desc := "(I)I" } : Jvm.MethodName)) ∈ lw_all := sorry
theorem q2867 : (Jvm.Cond.code ({ cls := "KrylovLaboratoryModel", name := "lock", desc := "(I)I" } : Jvm.MethodName) prog_17_method_70_code (3 : Nat) (Option.some Jvm.ClassFile.FieldType.int)) ∈ lw_all := sorry
theorem q2868 : (Jvm.Cond.methodLink "KrylovLaboratoryModel" (262 : Nat) ({ cls := "KrylovLaboratoryModel", name := "hindrance", desc := "(I)I" } : Jvm.MethodName)) ∈ lw_all := sorry
theorem q2869 : (Jvm.Cond.privateMethod ({ cls := "KrylovLaboratoryModel", name := "hindrance", desc := "(I)I" } : Jvm.MethodName)) ∈ lw_tbl := sorry
theorem q2870 : (Jvm.Cond.instanceMethod ({ cls := "KrylovLaboratoryModel", name := "hindrance", desc := "(I)I" } : Jvm.MethodName)) ∈ lw_all := sorry
theorem q2871 : (Jvm.Cond.code ({ cls := "KrylovLaboratoryModel", name := "hindrance", desc := "(I)I" } : Jvm.MethodName) prog_17_method_68_code (2 : Nat) (Option.some Jvm.ClassFile.FieldType.int)) ∈ lw_all := sorry
theorem q2872 : (Jvm.Cond.methodLink "KrylovLaboratoryModel" (265 : Nat) ({ cls := "KrylovLaboratoryModel", name := "record", desc := "()V" } : Jvm.MethodName)) ∈ lw_all := sorry
theorem q2873 : (Jvm.Cond.privateMethod ({ cls := "KrylovLaboratoryModel", name := "record", desc := "()V" } : Jvm.MethodName)) ∈ lw_tbl := sorry
theorem q2874 : (Jvm.Cond.instanceMethod ({ cls := "KrylovLaboratoryModel", name := "record", desc := "()V" } : Jvm.MethodName)) ∈ lw_all := sorry
theorem q2875 : (Jvm.Cond.code ({ cls := "KrylovLaboratoryModel", name := "record", desc := "()V" } : Jvm.MethodName) prog_17_method_96_code (2 : Nat) (Option.none : Option Jvm.ClassFile.FieldType)) ∈ lw_all := sorry
theorem q2876 : (Jvm.Cond.methodLink "KrylovLaboratoryModel" (276 : Nat) ({ cls := "KrylovLaboratoryModel", name := "copy", desc := "([JI[JI)V" } : Jvm.MethodName)) ∈ lw_all := lw_g (lw_at lw_m12 107 rfl) rfl
theorem q2877 : (Jvm.Cond.static ({ cls := "KrylovLaboratoryModel", name := "copy", desc := "([JI[JI)V" } : Jvm.MethodName)) ∈ lw_all := lw_g (lw_at lw_m12 108 rfl) rfl
theorem q2878 : (Jvm.Cond.code ({ cls := "KrylovLaboratoryModel", name := "copy", desc := "([JI[JI)V" } : Jvm.MethodName) prog_17_method_95_code (5 : Nat) (Option.none : Option Jvm.ClassFile.FieldType)) ∈ lw_all := lw_g (lw_at lw_m12 109 rfl) rfl
theorem q2879 : (Jvm.Cond.methodLink "KrylovLaboratoryModel" (268 : Nat) ({ cls := "KrylovLaboratoryModel", name := "lockMade", desc := "(I)I" } : Jvm.MethodName)) ∈ lw_all := sorry
theorem q2880 : (Jvm.Cond.privateMethod ({ cls := "KrylovLaboratoryModel", name := "lockMade", desc := "(I)I" } : Jvm.MethodName)) ∈ lw_tbl := sorry
theorem q2881 : (Jvm.Cond.instanceMethod ({ cls := "KrylovLaboratoryModel", name := "lockMade", desc := "(I)I" } : Jvm.MethodName)) ∈ lw_all := sorry
theorem q2882 : (Jvm.Cond.code ({ cls := "KrylovLaboratoryModel", name := "lockMade", desc := "(I)I" } : Jvm.MethodName) prog_17_method_69_code (3 : Nat) (Option.some Jvm.ClassFile.FieldType.int)) ∈ lw_all := sorry
theorem q2884 : (Jvm.Cond.instanceMethod ({ cls := "KrylovLaboratoryModel", name := "unlock", desc := "(I)I" } : Jvm.MethodName)) ∈ lw_all := sorry
theorem q2885 : (Jvm.Cond.selects "KrylovLaboratoryModel" ({ cls := "KrylovLaboratoryModel", name := "unlock", desc := "(I)I" } : Jvm.MethodName) ({ cls := "KrylovLaboratoryModel", name := "unlock", desc := "(I)I" } : Jvm.MethodName)) ∈ lw_all := sorry
theorem q2886 : (Jvm.Cond.code ({ cls := "KrylovLaboratoryModel", name := "unlock", desc := "(I)I" } : Jvm.MethodName) prog_17_method_72_code (2 : Nat) (Option.some Jvm.ClassFile.FieldType.int)) ∈ lw_all := sorry
theorem q2887 : (Jvm.Cond.methodLink "KrylovLaboratoryModel" (271 : Nat) ({ cls := "KrylovLaboratoryModel", name := "dropLock", desc := "(I)V" } : Jvm.MethodName)) ∈ lw_all := sorry
theorem q2888 : (Jvm.Cond.privateMethod ({ cls := "KrylovLaboratoryModel", name := "dropLock", desc := "(I)V" } : Jvm.MethodName)) ∈ lw_tbl := sorry
theorem q2889 : (Jvm.Cond.instanceMethod ({ cls := "KrylovLaboratoryModel", name := "dropLock", desc := "(I)V" } : Jvm.MethodName)) ∈ lw_all := sorry
theorem q2890 : (Jvm.Cond.code ({ cls := "KrylovLaboratoryModel", name := "dropLock", desc := "(I)V" } : Jvm.MethodName) prog_17_method_71_code (3 : Nat) (Option.none : Option Jvm.ClassFile.FieldType)) ∈ lw_all := sorry
theorem q2892 : (Jvm.Cond.instanceMethod ({ cls := "KrylovLaboratoryModel", name := "drop", desc := "(I)I" } : Jvm.MethodName)) ∈ lw_all := sorry
theorem q2893 : (Jvm.Cond.selects "KrylovLaboratoryModel" ({ cls := "KrylovLaboratoryModel", name := "drop", desc := "(I)I" } : Jvm.MethodName) ({ cls := "KrylovLaboratoryModel", name := "drop", desc := "(I)I" } : Jvm.MethodName)) ∈ lw_all := sorry
theorem q2894 : (Jvm.Cond.code ({ cls := "KrylovLaboratoryModel", name := "drop", desc := "(I)I" } : Jvm.MethodName) prog_17_method_73_code (4 : Nat) (Option.some Jvm.ClassFile.FieldType.int)) ∈ lw_all := sorry
theorem q2896 : (Jvm.Cond.instanceMethod ({ cls := "KrylovLaboratoryModel", name := "total", desc := "(I)I" } : Jvm.MethodName)) ∈ lw_all := sorry
theorem q2897 : (Jvm.Cond.selects "KrylovLaboratoryModel" ({ cls := "KrylovLaboratoryModel", name := "total", desc := "(I)I" } : Jvm.MethodName) ({ cls := "KrylovLaboratoryModel", name := "total", desc := "(I)I" } : Jvm.MethodName)) ∈ lw_all := sorry
theorem q2898 : (Jvm.Cond.code ({ cls := "KrylovLaboratoryModel", name := "total", desc := "(I)I" } : Jvm.MethodName) prog_17_method_74_code (2 : Nat) (Option.some Jvm.ClassFile.FieldType.int)) ∈ lw_all := sorry
theorem q2899 : (Jvm.Cond.constantLong "KrylovLaboratoryModel" (274 : Nat) (3 : Int64)) ∈ lw_all := sorry
theorem q2901 : (Jvm.Cond.instanceMethod ({ cls := "KrylovLaboratoryModel", name := "convergesIn", desc := "()I" } : Jvm.MethodName)) ∈ lw_all := sorry
theorem q2902 : (Jvm.Cond.selects "KrylovLaboratoryModel" ({ cls := "KrylovLaboratoryModel", name := "convergesIn", desc := "()I" } : Jvm.MethodName) ({ cls := "KrylovLaboratoryModel", name := "convergesIn", desc := "()I" } : Jvm.MethodName)) ∈ lw_all := sorry
theorem q2903 : (Jvm.Cond.code ({ cls := "KrylovLaboratoryModel", name := "convergesIn", desc := "()I" } : Jvm.MethodName) prog_17_method_76_code (3 : Nat) (Option.some Jvm.ClassFile.FieldType.int)) ∈ lw_all := sorry
theorem q2904 : (Jvm.Cond.methodLink "KrylovLaboratoryModel" (280 : Nat) ({ cls := "KrylovLaboratoryModel", name := "hasConverged", desc := "()Z" } : Jvm.MethodName)) ∈ lw_all := sorry
theorem q2905 : (Jvm.Cond.privateMethod ({ cls := "KrylovLaboratoryModel", name := "hasConverged", desc := "()Z" } : Jvm.MethodName)) ∈ lw_tbl := sorry
theorem q2906 : (Jvm.Cond.instanceMethod ({ cls := "KrylovLaboratoryModel", name := "hasConverged", desc := "()Z" } : Jvm.MethodName)) ∈ lw_all := sorry
theorem q2907 : (Jvm.Cond.code ({ cls := "KrylovLaboratoryModel", name := "hasConverged", desc := "()Z" } : Jvm.MethodName) prog_17_method_75_code (2 : Nat) (Option.some Jvm.ClassFile.FieldType.boolean)) ∈ lw_all := sorry
theorem q2908 : (Jvm.Cond.methodLink "KrylovLaboratoryModel" (191 : Nat) ({ cls := "KrylovLaboratoryModel", name := "canStep", desc := "()Z" } : Jvm.MethodName)) ∈ lw_all := sorry
theorem q2909 : (Jvm.Cond.privateMethod ({ cls := "KrylovLaboratoryModel", name := "canStep", desc := "()Z" } : Jvm.MethodName)) ∈ lw_tbl := sorry
theorem q2910 : (Jvm.Cond.instanceMethod ({ cls := "KrylovLaboratoryModel", name := "canStep", desc := "()Z" } : Jvm.MethodName)) ∈ lw_all := sorry
theorem q2911 : (Jvm.Cond.code ({ cls := "KrylovLaboratoryModel", name := "canStep", desc := "()Z" } : Jvm.MethodName) prog_17_method_24_code (1 : Nat) (Option.some Jvm.ClassFile.FieldType.boolean)) ∈ lw_all := sorry
theorem q2912 : (Jvm.Cond.methodLink "KrylovLaboratoryModel" (194 : Nat) ({ cls := "KrylovLaboratoryModel", name := "makeStep", desc := "()V" } : Jvm.MethodName)) ∈ lw_all := sorry
theorem q2913 : (Jvm.Cond.privateMethod ({ cls := "KrylovLaboratoryModel", name := "makeStep", desc := "()V" } : Jvm.MethodName)) ∈ lw_tbl := sorry
theorem q2914 : (Jvm.Cond.instanceMethod ({ cls := "KrylovLaboratoryModel", name := "makeStep", desc := "()V" } : Jvm.MethodName)) ∈ lw_all := sorry
theorem q2915 : (Jvm.Cond.code ({ cls := "KrylovLaboratoryModel", name := "makeStep", desc := "()V" } : Jvm.MethodName) prog_17_method_32_code (4 : Nat) (Option.none : Option Jvm.ClassFile.FieldType)) ∈ lw_all := sorry
theorem q2916 : (Jvm.Cond.methodLink "KrylovLaboratoryModel" (176 : Nat) ({ cls := "KrylovLaboratoryModel", name := "purge", desc := "()V" } : Jvm.MethodName)) ∈ lw_all := sorry
theorem q2917 : (Jvm.Cond.privateMethod ({ cls := "KrylovLaboratoryModel", name := "purge", desc := "()V" } : Jvm.MethodName)) ∈ lw_tbl := sorry
theorem q2918 : (Jvm.Cond.instanceMethod ({ cls := "KrylovLaboratoryModel", name := "purge", desc := "()V" } : Jvm.MethodName)) ∈ lw_all := sorry
theorem q2919 : (Jvm.Cond.code ({ cls := "KrylovLaboratoryModel", name := "purge", desc := "()V" } : Jvm.MethodName) prog_17_method_25_code (3 : Nat) (Option.none : Option Jvm.ClassFile.FieldType)) ∈ lw_all := sorry
theorem q2920 : (Jvm.Cond.methodLink "KrylovLaboratoryModel" (179 : Nat) ({ cls := "KrylovLaboratoryModel", name := "close", desc := "(I)V" } : Jvm.MethodName)) ∈ lw_all := sorry
theorem q2921 : (Jvm.Cond.privateMethod ({ cls := "KrylovLaboratoryModel", name := "close", desc := "(I)V" } : Jvm.MethodName)) ∈ lw_tbl := sorry
theorem q2922 : (Jvm.Cond.instanceMethod ({ cls := "KrylovLaboratoryModel", name := "close", desc := "(I)V" } : Jvm.MethodName)) ∈ lw_all := sorry
theorem q2923 : (Jvm.Cond.code ({ cls := "KrylovLaboratoryModel", name := "close", desc := "(I)V" } : Jvm.MethodName) prog_17_method_31_code (2 : Nat) (Option.none : Option Jvm.ClassFile.FieldType)) ∈ lw_all := sorry
theorem q2924 : (Jvm.Cond.methodLink "KrylovLaboratoryModel" (183 : Nat) ({ cls := "KrylovLaboratoryModel", name := "estimateAll", desc := "(IJ)V" } : Jvm.MethodName)) ∈ lw_all := sorry
theorem q2925 : (Jvm.Cond.privateMethod ({ cls := "KrylovLaboratoryModel", name := "estimateAll", desc := "(IJ)V" } : Jvm.MethodName)) ∈ lw_tbl := sorry
theorem q2926 : (Jvm.Cond.instanceMethod ({ cls := "KrylovLaboratoryModel", name := "estimateAll", desc := "(IJ)V" } : Jvm.MethodName)) ∈ lw_all := sorry
theorem q2927 : (Jvm.Cond.code ({ cls := "KrylovLaboratoryModel", name := "estimateAll", desc := "(IJ)V" } : Jvm.MethodName) prog_17_method_29_code (7 : Nat) (Option.none : Option Jvm.ClassFile.FieldType)) ∈ lw_all := sorry
theorem q2928 : (Jvm.Cond.methodLink "KrylovLaboratoryModel" (162 : Nat) ({ cls := "KrylovLaboratoryModel", name := "betaOr0", desc := "(I)J" } : Jvm.MethodName)) ∈ lw_all := sorry
theorem q2929 : (Jvm.Cond.privateMethod ({ cls := "KrylovLaboratoryModel", name := "betaOr0", desc := "(I)J" } : Jvm.MethodName)) ∈ lw_tbl := sorry
theorem q2930 : (Jvm.Cond.instanceMethod ({ cls := "KrylovLaboratoryModel", name := "betaOr0", desc := "(I)J" } : Jvm.MethodName)) ∈ lw_all := sorry
theorem q2931 : (Jvm.Cond.code ({ cls := "KrylovLaboratoryModel", name := "betaOr0", desc := "(I)J" } : Jvm.MethodName) prog_17_method_27_code (2 : Nat) (Option.some Jvm.ClassFile.FieldType.long)) ∈ lw_all := sorry
theorem q2932 : (Jvm.Cond.methodLink "KrylovLaboratoryModel" (187 : Nat) ({ cls := "KrylovLaboratoryModel", name := "repair", desc := "(I)Z" } : Jvm.MethodName)) ∈ lw_all := sorry
theorem q2933 : (Jvm.Cond.privateMethod ({ cls := "KrylovLaboratoryModel", name := "repair", desc := "(I)Z" } : Jvm.MethodName)) ∈ lw_tbl := sorry
theorem q2934 : (Jvm.Cond.instanceMethod ({ cls := "KrylovLaboratoryModel", name := "repair", desc := "(I)Z" } : Jvm.MethodName)) ∈ lw_all := sorry
theorem q2935 : (Jvm.Cond.code ({ cls := "KrylovLaboratoryModel", name := "repair", desc := "(I)Z" } : Jvm.MethodName) prog_17_method_30_code (5 : Nat) (Option.some Jvm.ClassFile.FieldType.boolean)) ∈ lw_all := sorry
theorem q2937 : (Jvm.Cond.instanceMethod ({ cls := "KrylovLaboratoryModel", name := "traceGap", desc := "()J" } : Jvm.MethodName)) ∈ lw_all := sorry
theorem q2938 : (Jvm.Cond.selects "KrylovLaboratoryModel" ({ cls := "KrylovLaboratoryModel", name := "traceGap", desc := "()J" } : Jvm.MethodName) ({ cls := "KrylovLaboratoryModel", name := "traceGap", desc := "()J" } : Jvm.MethodName)) ∈ lw_all := sorry
theorem q2939 : (Jvm.Cond.code ({ cls := "KrylovLaboratoryModel", name := "traceGap", desc := "()J" } : Jvm.MethodName) prog_17_method_77_code (4 : Nat) (Option.some Jvm.ClassFile.FieldType.long)) ∈ lw_all := sorry
theorem q2941 : (Jvm.Cond.instanceMethod ({ cls := "KrylovLaboratoryModel", name := "meanBound", desc := "()D" } : Jvm.MethodName)) ∈ lw_all := sorry
theorem q2942 : (Jvm.Cond.selects "KrylovLaboratoryModel" ({ cls := "KrylovLaboratoryModel", name := "meanBound", desc := "()D" } : Jvm.MethodName) ({ cls := "KrylovLaboratoryModel", name := "meanBound", desc := "()D" } : Jvm.MethodName)) ∈ lw_all := sorry
theorem q2943 : (Jvm.Cond.code ({ cls := "KrylovLaboratoryModel", name := "meanBound", desc := "()D" } : Jvm.MethodName) prog_17_method_78_code (4 : Nat) (Option.some Jvm.ClassFile.FieldType.double)) ∈ lw_all := sorry
theorem q2945 : (Jvm.Cond.instanceMethod ({ cls := "KrylovLaboratoryModel", name := "step", desc := "(I)I" } : Jvm.MethodName)) ∈ lw_all := sorry
theorem q2946 : (Jvm.Cond.selects "KrylovLaboratoryModel" ({ cls := "KrylovLaboratoryModel", name := "step", desc := "(I)I" } : Jvm.MethodName) ({ cls := "KrylovLaboratoryModel", name := "step", desc := "(I)I" } : Jvm.MethodName)) ∈ lw_all := sorry
theorem q2947 : (Jvm.Cond.code ({ cls := "KrylovLaboratoryModel", name := "step", desc := "(I)I" } : Jvm.MethodName) prog_17_method_79_code (2 : Nat) (Option.some Jvm.ClassFile.FieldType.int)) ∈ lw_all := sorry
theorem q2948 : (Jvm.Cond.constantLong "KrylovLaboratoryModel" (283 : Nat) (6 : Int64)) ∈ lw_all := sorry
theorem q2949 : (Jvm.Cond.methodLink "KrylovLaboratoryModel" (285 : Nat) ({ cls := "KrylovLaboratoryModel", name := "makeSteps", desc := "(I)I" } : Jvm.MethodName)) ∈ lw_all := sorry
theorem q2950 : (Jvm.Cond.privateMethod ({ cls := "KrylovLaboratoryModel", name := "makeSteps", desc := "(I)I" } : Jvm.MethodName)) ∈ lw_tbl := sorry
theorem q2951 : (Jvm.Cond.instanceMethod ({ cls := "KrylovLaboratoryModel", name := "makeSteps", desc := "(I)I" } : Jvm.MethodName)) ∈ lw_all := sorry
theorem q2952 : (Jvm.Cond.code ({ cls := "KrylovLaboratoryModel", name := "makeSteps", desc := "(I)I" } : Jvm.MethodName) prog_17_method_33_code (3 : Nat) (Option.some Jvm.ClassFile.FieldType.int)) ∈ lw_all := sorry
theorem q2954 : (Jvm.Cond.instanceMethod ({ cls := "KrylovLaboratoryModel", name := "restart", desc := "(I)I" } : Jvm.MethodName)) ∈ lw_all := sorry
theorem q2955 : (Jvm.Cond.selects "KrylovLaboratoryModel" ({ cls := "KrylovLaboratoryModel", name := "restart", desc := "(I)I" } : Jvm.MethodName) ({ cls := "KrylovLaboratoryModel", name := "restart", desc := "(I)I" } : Jvm.MethodName)) ∈ lw_all := sorry
theorem q2956 : (Jvm.Cond.code ({ cls := "KrylovLaboratoryModel", name := "restart", desc := "(I)I" } : Jvm.MethodName) prog_17_method_82_code (3 : Nat) (Option.some Jvm.ClassFile.FieldType.int)) ∈ lw_all := sorry
theorem q2957 : (Jvm.Cond.methodLink "KrylovLaboratoryModel" (291 : Nat) ({ cls := "KrylovLaboratoryModel", name := "restartNow", desc := "(I)I" } : Jvm.MethodName)) ∈ lw_all := sorry
theorem q2958 : (Jvm.Cond.privateMethod ({ cls := "KrylovLaboratoryModel", name := "restartNow", desc := "(I)I" } : Jvm.MethodName)) ∈ lw_tbl := sorry
theorem q2959 : (Jvm.Cond.instanceMethod ({ cls := "KrylovLaboratoryModel", name := "restartNow", desc := "(I)I" } : Jvm.MethodName)) ∈ lw_all := sorry
theorem q2960 : (Jvm.Cond.code ({ cls := "KrylovLaboratoryModel", name := "restartNow", desc := "(I)I" } : Jvm.MethodName) prog_17_method_81_code (4 : Nat) (Option.some Jvm.ClassFile.FieldType.int)) ∈ lw_all := sorry
theorem q2961 : (Jvm.Cond.methodLink "KrylovLaboratoryModel" (288 : Nat) ({ cls := "KrylovLaboratoryModel", name := "layRest", desc := "(I)I" } : Jvm.MethodName)) ∈ lw_all := sorry
theorem q2962 : (Jvm.Cond.privateMethod ({ cls := "KrylovLaboratoryModel", name := "layRest", desc := "(I)I" } : Jvm.MethodName)) ∈ lw_tbl := sorry
theorem q2963 : (Jvm.Cond.instanceMethod ({ cls := "KrylovLaboratoryModel", name := "layRest", desc := "(I)I" } : Jvm.MethodName)) ∈ lw_all := sorry
theorem q2964 : (Jvm.Cond.code ({ cls := "KrylovLaboratoryModel", name := "layRest", desc := "(I)I" } : Jvm.MethodName) prog_17_method_80_code (9 : Nat) (Option.some Jvm.ClassFile.FieldType.int)) ∈ lw_all := sorry
theorem q2966 : (Jvm.Cond.instanceMethod ({ cls := "KrylovLaboratoryModel", name := "sweep", desc := "(I)I" } : Jvm.MethodName)) ∈ lw_all := sorry
theorem q2967 : (Jvm.Cond.selects "KrylovLaboratoryModel" ({ cls := "KrylovLaboratoryModel", name := "sweep", desc := "(I)I" } : Jvm.MethodName) ({ cls := "KrylovLaboratoryModel", name := "sweep", desc := "(I)I" } : Jvm.MethodName)) ∈ lw_all := sorry
theorem q2968 : (Jvm.Cond.code ({ cls := "KrylovLaboratoryModel", name := "sweep", desc := "(I)I" } : Jvm.MethodName) prog_17_method_84_code (6 : Nat) (Option.some Jvm.ClassFile.FieldType.int)) ∈ lw_all := sorry
theorem q2969 : (Jvm.Cond.constantLong "KrylovLaboratoryModel" (294 : Nat) (5 : Int64)) ∈ lw_all := sorry
theorem q2970 : (Jvm.Cond.methodLink "KrylovLaboratoryModel" (296 : Nat) ({ cls := "KrylovLaboratoryModel", name := "lockAll", desc := "()I" } : Jvm.MethodName)) ∈ lw_all := sorry
theorem q2971 : (Jvm.Cond.privateMethod ({ cls := "KrylovLaboratoryModel", name := "lockAll", desc := "()I" } : Jvm.MethodName)) ∈ lw_tbl := sorry
theorem q2972 : (Jvm.Cond.instanceMethod ({ cls := "KrylovLaboratoryModel", name := "lockAll", desc := "()I" } : Jvm.MethodName)) ∈ lw_all := sorry
theorem q2973 : (Jvm.Cond.code ({ cls := "KrylovLaboratoryModel", name := "lockAll", desc := "()I" } : Jvm.MethodName) prog_17_method_83_code (3 : Nat) (Option.some Jvm.ClassFile.FieldType.int)) ∈ lw_all := sorry
theorem q2975 : (Jvm.Cond.instanceMethod ({ cls := "KrylovLaboratoryModel", name := "setEntry", desc := "(III)I" } : Jvm.MethodName)) ∈ lw_all := sorry
theorem q2976 : (Jvm.Cond.selects "KrylovLaboratoryModel" ({ cls := "KrylovLaboratoryModel", name := "setEntry", desc := "(III)I" } : Jvm.MethodName) ({ cls := "KrylovLaboratoryModel", name := "setEntry", desc := "(III)I" } : Jvm.MethodName)) ∈ lw_all := sorry
theorem q2977 : (Jvm.Cond.code ({ cls := "KrylovLaboratoryModel", name := "setEntry", desc := "(III)I" } : Jvm.MethodName) prog_17_method_86_code (6 : Nat) (Option.some Jvm.ClassFile.FieldType.int)) ∈ lw_all := sorry
theorem q2978 : (Jvm.Cond.constantLong "KrylovLaboratoryModel" (299 : Nat) (-99 : Int64)) ∈ lw_all := sorry
theorem q2979 : (Jvm.Cond.constantLong "KrylovLaboratoryModel" (301 : Nat) (99 : Int64)) ∈ lw_all := sorry
theorem q2980 : (Jvm.Cond.methodLink "KrylovLaboratoryModel" (303 : Nat) ({ cls := "KrylovLaboratoryModel", name := "setBoth", desc := "([JIIJ)V" } : Jvm.MethodName)) ∈ lw_all := lw_g (lw_at lw_m12 211 rfl) rfl
theorem q2981 : (Jvm.Cond.static ({ cls := "KrylovLaboratoryModel", name := "setBoth", desc := "([JIIJ)V" } : Jvm.MethodName)) ∈ lw_all := lw_g (lw_at lw_m12 212 rfl) rfl
theorem q2982 : (Jvm.Cond.code ({ cls := "KrylovLaboratoryModel", name := "setBoth", desc := "([JIIJ)V" } : Jvm.MethodName) prog_17_method_85_code (5 : Nat) (Option.none : Option Jvm.ClassFile.FieldType)) ∈ lw_all := lw_g (lw_at lw_m12 213 rfl) rfl
theorem q2984 : (Jvm.Cond.instanceMethod ({ cls := "KrylovLaboratoryModel", name := "setMode", desc := "(I)I" } : Jvm.MethodName)) ∈ lw_all := sorry
theorem q2985 : (Jvm.Cond.selects "KrylovLaboratoryModel" ({ cls := "KrylovLaboratoryModel", name := "setMode", desc := "(I)I" } : Jvm.MethodName) ({ cls := "KrylovLaboratoryModel", name := "setMode", desc := "(I)I" } : Jvm.MethodName)) ∈ lw_all := sorry
theorem q2986 : (Jvm.Cond.code ({ cls := "KrylovLaboratoryModel", name := "setMode", desc := "(I)I" } : Jvm.MethodName) prog_17_method_88_code (2 : Nat) (Option.some Jvm.ClassFile.FieldType.int)) ∈ lw_all := sorry
theorem q2987 : (Jvm.Cond.methodLink "KrylovLaboratoryModel" (307 : Nat) ({ cls := "KrylovLaboratoryModel", name := "change", desc := "(IIII)I" } : Jvm.MethodName)) ∈ lw_all := sorry
theorem q2988 : (Jvm.Cond.privateMethod ({ cls := "KrylovLaboratoryModel", name := "change", desc := "(IIII)I" } : Jvm.MethodName)) ∈ lw_tbl := sorry
theorem q2989 : (Jvm.Cond.instanceMethod ({ cls := "KrylovLaboratoryModel", name := "change", desc := "(IIII)I" } : Jvm.MethodName)) ∈ lw_all := sorry
theorem q2990 : (Jvm.Cond.code ({ cls := "KrylovLaboratoryModel", name := "change", desc := "(IIII)I" } : Jvm.MethodName) prog_17_method_87_code (6 : Nat) (Option.some Jvm.ClassFile.FieldType.int)) ∈ lw_all := sorry
theorem q2992 : (Jvm.Cond.instanceMethod ({ cls := "KrylovLaboratoryModel", name := "setThreshold", desc := "(I)I" } : Jvm.MethodName)) ∈ lw_all := sorry
theorem q2993 : (Jvm.Cond.selects "KrylovLaboratoryModel" ({ cls := "KrylovLaboratoryModel", name := "setThreshold", desc := "(I)I" } : Jvm.MethodName) ({ cls := "KrylovLaboratoryModel", name := "setThreshold", desc := "(I)I" } : Jvm.MethodName)) ∈ lw_all := sorry
theorem q2994 : (Jvm.Cond.code ({ cls := "KrylovLaboratoryModel", name := "setThreshold", desc := "(I)I" } : Jvm.MethodName) prog_17_method_89_code (2 : Nat) (Option.some Jvm.ClassFile.FieldType.int)) ∈ lw_all := sorry
theorem q2995 : (Jvm.Cond.constant "KrylovLaboratoryModel" (311 : Nat) (1000000 : Int32)) ∈ lw_all := sorry
theorem q2997 : (Jvm.Cond.instanceMethod ({ cls := "KrylovLaboratoryModel", name := "setTolerance", desc := "(I)I" } : Jvm.MethodName)) ∈ lw_all := sorry
theorem q2998 : (Jvm.Cond.selects "KrylovLaboratoryModel" ({ cls := "KrylovLaboratoryModel", name := "setTolerance", desc := "(I)I" } : Jvm.MethodName) ({ cls := "KrylovLaboratoryModel", name := "setTolerance", desc := "(I)I" } : Jvm.MethodName)) ∈ lw_all := sorry
theorem q2999 : (Jvm.Cond.code ({ cls := "KrylovLaboratoryModel", name := "setTolerance", desc := "(I)I" } : Jvm.MethodName) prog_17_method_90_code (2 : Nat) (Option.some Jvm.ClassFile.FieldType.int)) ∈ lw_all := sorry
theorem q3001 : (Jvm.Cond.instanceMethod ({ cls := "KrylovLaboratoryModel", name := "format", desc := "(I)I" } : Jvm.MethodName)) ∈ lw_all := sorry
theorem q3002 : (Jvm.Cond.selects "KrylovLaboratoryModel" ({ cls := "KrylovLaboratoryModel", name := "format", desc := "(I)I" } : Jvm.MethodName) ({ cls := "KrylovLaboratoryModel", name := "format", desc := "(I)I" } : Jvm.MethodName)) ∈ lw_all := sorry
theorem q3003 : (Jvm.Cond.code ({ cls := "KrylovLaboratoryModel", name := "format", desc := "(I)I" } : Jvm.MethodName) prog_17_method_93_code (8 : Nat) (Option.some Jvm.ClassFile.FieldType.int)) ∈ lw_all := sorry
theorem q3004 : (Jvm.Cond.methodLink "KrylovLaboratoryModel" (322 : Nat) ({ cls := "KrylovLaboratoryModel", name := "write", desc := "(I)V" } : Jvm.MethodName)) ∈ lw_all := sorry
theorem q3005 : (Jvm.Cond.privateMethod ({ cls := "KrylovLaboratoryModel", name := "write", desc := "(I)V" } : Jvm.MethodName)) ∈ lw_tbl := sorry
theorem q3006 : (Jvm.Cond.instanceMethod ({ cls := "KrylovLaboratoryModel", name := "write", desc := "(I)V" } : Jvm.MethodName)) ∈ lw_all := sorry
theorem q3007 : (Jvm.Cond.code ({ cls := "KrylovLaboratoryModel", name := "write", desc := "(I)V" } : Jvm.MethodName) prog_17_method_91_code (2 : Nat) (Option.none : Option Jvm.ClassFile.FieldType)) ∈ lw_all := sorry
theorem q3008 : (Jvm.Cond.methodLink "KrylovLaboratoryModel" (319 : Nat) ({ cls := "KrylovLaboratoryModel", name := "writeNumber", desc := "(J)V" } : Jvm.MethodName)) ∈ lw_all := sorry
theorem q3009 : (Jvm.Cond.privateMethod ({ cls := "KrylovLaboratoryModel", name := "writeNumber", desc := "(J)V" } : Jvm.MethodName)) ∈ lw_tbl := sorry
theorem q3010 : (Jvm.Cond.instanceMethod ({ cls := "KrylovLaboratoryModel", name := "writeNumber", desc := "(J)V" } : Jvm.MethodName)) ∈ lw_all := sorry
theorem q3011 : (Jvm.Cond.code ({ cls := "KrylovLaboratoryModel", name := "writeNumber", desc := "(J)V" } : Jvm.MethodName) prog_17_method_92_code (3 : Nat) (Option.none : Option Jvm.ClassFile.FieldType)) ∈ lw_all := sorry
theorem q3012 : (Jvm.Cond.constantLong "KrylovLaboratoryModel" (315 : Nat) (9 : Int64)) ∈ lw_all := sorry
theorem q3013 : (Jvm.Cond.constantLong "KrylovLaboratoryModel" (317 : Nat) (10 : Int64)) ∈ lw_all := sorry
theorem q3014 : (Jvm.Cond.constantLong "KrylovLaboratoryModel" (325 : Nat) (100000 : Int64)) ∈ lw_all := sorry
theorem q3016 : (Jvm.Cond.instanceMethod ({ cls := "KrylovLaboratoryModel", name := "formattedByte", desc := "(I)I" } : Jvm.MethodName)) ∈ lw_all := sorry
theorem q3017 : (Jvm.Cond.selects "KrylovLaboratoryModel" ({ cls := "KrylovLaboratoryModel", name := "formattedByte", desc := "(I)I" } : Jvm.MethodName) ({ cls := "KrylovLaboratoryModel", name := "formattedByte", desc := "(I)I" } : Jvm.MethodName)) ∈ lw_all := sorry
theorem q3018 : (Jvm.Cond.code ({ cls := "KrylovLaboratoryModel", name := "formattedByte", desc := "(I)I" } : Jvm.MethodName) prog_17_method_94_code (2 : Nat) (Option.some Jvm.ClassFile.FieldType.int)) ∈ lw_all := sorry
theorem q3020 : (Jvm.Cond.instanceMethod ({ cls := "KrylovLaboratoryModel", name := "undoCount", desc := "()I" } : Jvm.MethodName)) ∈ lw_all := sorry
theorem q3021 : (Jvm.Cond.selects "KrylovLaboratoryModel" ({ cls := "KrylovLaboratoryModel", name := "undoCount", desc := "()I" } : Jvm.MethodName) ({ cls := "KrylovLaboratoryModel", name := "undoCount", desc := "()I" } : Jvm.MethodName)) ∈ lw_all := sorry
theorem q3022 : (Jvm.Cond.code ({ cls := "KrylovLaboratoryModel", name := "undoCount", desc := "()I" } : Jvm.MethodName) prog_17_method_97_code (1 : Nat) (Option.some Jvm.ClassFile.FieldType.int)) ∈ lw_all := sorry
theorem q3024 : (Jvm.Cond.instanceMethod ({ cls := "KrylovLaboratoryModel", name := "undo", desc := "()I" } : Jvm.MethodName)) ∈ lw_all := sorry
theorem q3025 : (Jvm.Cond.selects "KrylovLaboratoryModel" ({ cls := "KrylovLaboratoryModel", name := "undo", desc := "()I" } : Jvm.MethodName) ({ cls := "KrylovLaboratoryModel", name := "undo", desc := "()I" } : Jvm.MethodName)) ∈ lw_all := sorry
theorem q3026 : (Jvm.Cond.code ({ cls := "KrylovLaboratoryModel", name := "undo", desc := "()I" } : Jvm.MethodName) prog_17_method_98_code (1 : Nat) (Option.some Jvm.ClassFile.FieldType.int)) ∈ lw_all := sorry
theorem q3028 : (Jvm.Cond.instanceMethod ({ cls := "KrylovLaboratoryModel", name := "saveSnapshot", desc := "()V" } : Jvm.MethodName)) ∈ lw_all := sorry
theorem q3029 : (Jvm.Cond.selects "KrylovLaboratoryModel" ({ cls := "KrylovLaboratoryModel", name := "saveSnapshot", desc := "()V" } : Jvm.MethodName) ({ cls := "KrylovLaboratoryModel", name := "saveSnapshot", desc := "()V" } : Jvm.MethodName)) ∈ lw_all := sorry
theorem q3030 : (Jvm.Cond.code ({ cls := "KrylovLaboratoryModel", name := "saveSnapshot", desc := "()V" } : Jvm.MethodName) prog_17_method_99_code (1 : Nat) (Option.none : Option Jvm.ClassFile.FieldType)) ∈ lw_all := sorry
theorem q3032 : (Jvm.Cond.instanceMethod ({ cls := "KrylovLaboratoryModel", name := "restoreSnapshot", desc := "()Z" } : Jvm.MethodName)) ∈ lw_all := sorry
theorem q3033 : (Jvm.Cond.selects "KrylovLaboratoryModel" ({ cls := "KrylovLaboratoryModel", name := "restoreSnapshot", desc := "()Z" } : Jvm.MethodName) ({ cls := "KrylovLaboratoryModel", name := "restoreSnapshot", desc := "()Z" } : Jvm.MethodName)) ∈ lw_all := sorry
theorem q3034 : (Jvm.Cond.code ({ cls := "KrylovLaboratoryModel", name := "restoreSnapshot", desc := "()Z" } : Jvm.MethodName) prog_17_method_100_code (1 : Nat) (Option.some Jvm.ClassFile.FieldType.boolean)) ∈ lw_all := sorry
theorem q3036 : (Jvm.Cond.instanceMethod ({ cls := "KrylovLaboratoryModel", name := "feed", desc := "(IIIII)I" } : Jvm.MethodName)) ∈ lw_all := sorry
theorem q3037 : (Jvm.Cond.selects "KrylovLaboratoryModel" ({ cls := "KrylovLaboratoryModel", name := "feed", desc := "(IIIII)I" } : Jvm.MethodName) ({ cls := "KrylovLaboratoryModel", name := "feed", desc := "(IIIII)I" } : Jvm.MethodName)) ∈ lw_all := sorry
theorem q3038 : (Jvm.Cond.code ({ cls := "KrylovLaboratoryModel", name := "feed", desc := "(IIIII)I" } : Jvm.MethodName) prog_17_method_101_code (8 : Nat) (Option.some Jvm.ClassFile.FieldType.int)) ∈ lw_all := sorry
theorem q3040 : (Jvm.Cond.instanceMethod ({ cls := "KrylovLaboratoryModel", name := "errorPosition", desc := "()I" } : Jvm.MethodName)) ∈ lw_all := sorry
theorem q3041 : (Jvm.Cond.selects "KrylovLaboratoryModel" ({ cls := "KrylovLaboratoryModel", name := "errorPosition", desc := "()I" } : Jvm.MethodName) ({ cls := "KrylovLaboratoryModel", name := "errorPosition", desc := "()I" } : Jvm.MethodName)) ∈ lw_all := sorry
theorem q3042 : (Jvm.Cond.code ({ cls := "KrylovLaboratoryModel", name := "errorPosition", desc := "()I" } : Jvm.MethodName) prog_17_method_102_code (1 : Nat) (Option.some Jvm.ClassFile.FieldType.int)) ∈ lw_all := sorry
theorem q3044 : (Jvm.Cond.instanceMethod ({ cls := "KrylovLaboratoryModel", name := "load", desc := "(I)I" } : Jvm.MethodName)) ∈ lw_all := sorry
theorem q3045 : (Jvm.Cond.selects "KrylovLaboratoryModel" ({ cls := "KrylovLaboratoryModel", name := "load", desc := "(I)I" } : Jvm.MethodName) ({ cls := "KrylovLaboratoryModel", name := "load", desc := "(I)I" } : Jvm.MethodName)) ∈ lw_all := sorry
theorem q3046 : (Jvm.Cond.code ({ cls := "KrylovLaboratoryModel", name := "load", desc := "(I)I" } : Jvm.MethodName) prog_17_method_126_code (2 : Nat) (Option.some Jvm.ClassFile.FieldType.int)) ∈ lw_all := sorry
theorem q3047 : (Jvm.Cond.methodLink "KrylovLaboratoryModel" (453 : Nat) ({ cls := "KrylovLaboratoryModel", name := "startText", desc := "(I)V" } : Jvm.MethodName)) ∈ lw_all := sorry
theorem q3048 : (Jvm.Cond.privateMethod ({ cls := "KrylovLaboratoryModel", name := "startText", desc := "(I)V" } : Jvm.MethodName)) ∈ lw_tbl := sorry
theorem q3049 : (Jvm.Cond.instanceMethod ({ cls := "KrylovLaboratoryModel", name := "startText", desc := "(I)V" } : Jvm.MethodName)) ∈ lw_all := sorry
theorem q3050 : (Jvm.Cond.code ({ cls := "KrylovLaboratoryModel", name := "startText", desc := "(I)V" } : Jvm.MethodName) prog_17_method_107_code (2 : Nat) (Option.none : Option Jvm.ClassFile.FieldType)) ∈ lw_all := sorry
theorem q3051 : (Jvm.Cond.methodLink "KrylovLaboratoryModel" (364 : Nat) ({ cls := "KrylovLaboratoryModel", name := "scan", desc := "()V" } : Jvm.MethodName)) ∈ lw_all := sorry
theorem q3052 : (Jvm.Cond.privateMethod ({ cls := "KrylovLaboratoryModel", name := "scan", desc := "()V" } : Jvm.MethodName)) ∈ lw_tbl := sorry
theorem q3053 : (Jvm.Cond.instanceMethod ({ cls := "KrylovLaboratoryModel", name := "scan", desc := "()V" } : Jvm.MethodName)) ∈ lw_all := sorry
theorem q3054 : (Jvm.Cond.code ({ cls := "KrylovLaboratoryModel", name := "scan", desc := "()V" } : Jvm.MethodName) prog_17_method_106_code (1 : Nat) (Option.none : Option Jvm.ClassFile.FieldType)) ∈ lw_all := sorry
theorem q3055 : (Jvm.Cond.methodLink "KrylovLaboratoryModel" (340 : Nat) ({ cls := "KrylovLaboratoryModel", name := "byteAt", desc := "(I)I" } : Jvm.MethodName)) ∈ lw_all := sorry
theorem q3056 : (Jvm.Cond.privateMethod ({ cls := "KrylovLaboratoryModel", name := "byteAt", desc := "(I)I" } : Jvm.MethodName)) ∈ lw_tbl := sorry
theorem q3057 : (Jvm.Cond.instanceMethod ({ cls := "KrylovLaboratoryModel", name := "byteAt", desc := "(I)I" } : Jvm.MethodName)) ∈ lw_all := sorry
theorem q3058 : (Jvm.Cond.code ({ cls := "KrylovLaboratoryModel", name := "byteAt", desc := "(I)I" } : Jvm.MethodName) prog_17_method_103_code (2 : Nat) (Option.some Jvm.ClassFile.FieldType.int)) ∈ lw_all := sorry
theorem q3059 : (Jvm.Cond.methodLink "KrylovLaboratoryModel" (352 : Nat) ({ cls := "KrylovLaboratoryModel", name := "isLetter", desc := "(I)Z" } : Jvm.MethodName)) ∈ lw_all := sorry
theorem q3060 : (Jvm.Cond.privateMethod ({ cls := "KrylovLaboratoryModel", name := "isLetter", desc := "(I)Z" } : Jvm.MethodName)) ∈ lw_tbl := sorry
theorem q3061 : (Jvm.Cond.instanceMethod ({ cls := "KrylovLaboratoryModel", name := "isLetter", desc := "(I)Z" } : Jvm.MethodName)) ∈ lw_all := sorry
theorem q3062 : (Jvm.Cond.code ({ cls := "KrylovLaboratoryModel", name := "isLetter", desc := "(I)Z" } : Jvm.MethodName) prog_17_method_104_code (2 : Nat) (Option.some Jvm.ClassFile.FieldType.boolean)) ∈ lw_all := sorry
theorem q3063 : (Jvm.Cond.methodLink "KrylovLaboratoryModel" (355 : Nat) ({ cls := "KrylovLaboratoryModel", name := "isDigit", desc := "(I)Z" } : Jvm.MethodName)) ∈ lw_all := sorry
theorem q3064 : (Jvm.Cond.privateMethod ({ cls := "KrylovLaboratoryModel", name := "isDigit", desc := "(I)Z" } : Jvm.MethodName)) ∈ lw_tbl := sorry
theorem q3065 : (Jvm.Cond.instanceMethod ({ cls := "KrylovLaboratoryModel", name := "isDigit", desc := "(I)Z" } : Jvm.MethodName)) ∈ lw_all := sorry
theorem q3066 : (Jvm.Cond.code ({ cls := "KrylovLaboratoryModel", name := "isDigit", desc := "(I)Z" } : Jvm.MethodName) prog_17_method_105_code (2 : Nat) (Option.some Jvm.ClassFile.FieldType.boolean)) ∈ lw_all := sorry
theorem q3067 : (Jvm.Cond.methodLink "KrylovLaboratoryModel" (456 : Nat) ({ cls := "KrylovLaboratoryModel", name := "readText", desc := "()Z" } : Jvm.MethodName)) ∈ lw_all := sorry
theorem q3068 : (Jvm.Cond.privateMethod ({ cls := "KrylovLaboratoryModel", name := "readText", desc := "()Z" } : Jvm.MethodName)) ∈ lw_tbl := sorry
theorem q3069 : (Jvm.Cond.instanceMethod ({ cls := "KrylovLaboratoryModel", name := "readText", desc := "()Z" } : Jvm.MethodName)) ∈ lw_all := sorry
theorem q3070 : (Jvm.Cond.code ({ cls := "KrylovLaboratoryModel", name := "readText", desc := "()Z" } : Jvm.MethodName) prog_17_method_125_code (2 : Nat) (Option.some Jvm.ClassFile.FieldType.boolean)) ∈ lw_all := sorry
theorem q3071 : (Jvm.Cond.methodLink "KrylovLaboratoryModel" (444 : Nat) ({ cls := "KrylovLaboratoryModel", name := "readOrder", desc := "()V" } : Jvm.MethodName)) ∈ lw_all := sorry
theorem q3072 : (Jvm.Cond.privateMethod ({ cls := "KrylovLaboratoryModel", name := "readOrder", desc := "()V" } : Jvm.MethodName)) ∈ lw_tbl := sorry
theorem q3073 : (Jvm.Cond.instanceMethod ({ cls := "KrylovLaboratoryModel", name := "readOrder", desc := "()V" } : Jvm.MethodName)) ∈ lw_all := sorry
theorem q3074 : (Jvm.Cond.code ({ cls := "KrylovLaboratoryModel", name := "readOrder", desc := "()V" } : Jvm.MethodName) prog_17_method_124_code (2 : Nat) (Option.none : Option Jvm.ClassFile.FieldType)) ∈ lw_all := sorry
theorem q3075 : (Jvm.Cond.stringRef "KrylovLaboratoryModel" (442 : Nat) "order") ∈ lw_tbl := sorry
theorem q3076 : (Jvm.Cond.methodLink "KrylovLaboratoryModel" (416 : Nat) ({ cls := "KrylovLaboratoryModel", name := "expectWord", desc := "(Ljava/lang/String;)V" } : Jvm.MethodName)) ∈ lw_all := sorry
theorem q3077 : (Jvm.Cond.privateMethod ({ cls := "KrylovLaboratoryModel", name := "expectWord", desc := "(Ljava/lang/String;)V" } : Jvm.MethodName)) ∈ lw_tbl := sorry
theorem q3078 : (Jvm.Cond.instanceMethod ({ cls := "KrylovLaboratoryModel", name := "expectWord", desc := "(Ljava/lang/String;)V" } : Jvm.MethodName)) ∈ lw_all := sorry
theorem q3079 : (Jvm.Cond.code ({ cls := "KrylovLaboratoryModel", name := "expectWord", desc := "(Ljava/lang/String;)V" } : Jvm.MethodName) prog_17_method_115_code (2 : Nat) (Option.none : Option Jvm.ClassFile.FieldType)) ∈ lw_all := sorry
theorem q3080 : (Jvm.Cond.methodLink "KrylovLaboratoryModel" (380 : Nat) ({ cls := "KrylovLaboratoryModel", name := "isWord", desc := "(Ljava/lang/String;)Z" } : Jvm.MethodName)) ∈ lw_all := sorry
theorem q3081 : (Jvm.Cond.privateMethod ({ cls := "KrylovLaboratoryModel", name := "isWord", desc := "(Ljava/lang/String;)Z" } : Jvm.MethodName)) ∈ lw_tbl := sorry
theorem q3082 : (Jvm.Cond.instanceMethod ({ cls := "KrylovLaboratoryModel", name := "isWord", desc := "(Ljava/lang/String;)Z" } : Jvm.MethodName)) ∈ lw_all := sorry
theorem q3083 : (Jvm.Cond.code ({ cls := "KrylovLaboratoryModel", name := "isWord", desc := "(Ljava/lang/String;)Z" } : Jvm.MethodName) prog_17_method_113_code (4 : Nat) (Option.some Jvm.ClassFile.FieldType.boolean)) ∈ lw_all := sorry
theorem q3084 : (Jvm.Cond.methodLink "KrylovLaboratoryModel" (373 : Nat) ({ cls := "java/lang/String", name := "length", desc := "()I" } : Jvm.MethodName)) ∈ lw_all := sorry
theorem q3085 : (Jvm.Cond.methodLink "KrylovLaboratoryModel" (376 : Nat) ({ cls := "java/lang/String", name := "charAt", desc := "(I)C" } : Jvm.MethodName)) ∈ lw_all := sorry
theorem q3086 : (Jvm.Cond.methodLink "KrylovLaboratoryModel" (384 : Nat) ({ cls := "KrylovLaboratoryModel", name := "check", desc := "(ZI)V" } : Jvm.MethodName)) ∈ lw_all := sorry
theorem q3087 : (Jvm.Cond.privateMethod ({ cls := "KrylovLaboratoryModel", name := "check", desc := "(ZI)V" } : Jvm.MethodName)) ∈ lw_tbl := sorry
theorem q3088 : (Jvm.Cond.instanceMethod ({ cls := "KrylovLaboratoryModel", name := "check", desc := "(ZI)V" } : Jvm.MethodName)) ∈ lw_all := sorry
theorem q3089 : (Jvm.Cond.code ({ cls := "KrylovLaboratoryModel", name := "check", desc := "(ZI)V" } : Jvm.MethodName) prog_17_method_110_code (3 : Nat) (Option.none : Option Jvm.ClassFile.FieldType)) ∈ lw_all := sorry
theorem q3090 : (Jvm.Cond.methodLink "KrylovLaboratoryModel" (370 : Nat) ({ cls := "KrylovLaboratoryModel", name := "flaw", desc := "(I)V" } : Jvm.MethodName)) ∈ lw_all := sorry
theorem q3091 : (Jvm.Cond.privateMethod ({ cls := "KrylovLaboratoryModel", name := "flaw", desc := "(I)V" } : Jvm.MethodName)) ∈ lw_tbl := sorry
theorem q3092 : (Jvm.Cond.instanceMethod ({ cls := "KrylovLaboratoryModel", name := "flaw", desc := "(I)V" } : Jvm.MethodName)) ∈ lw_all := sorry
theorem q3093 : (Jvm.Cond.code ({ cls := "KrylovLaboratoryModel", name := "flaw", desc := "(I)V" } : Jvm.MethodName) prog_17_method_109_code (2 : Nat) (Option.none : Option Jvm.ClassFile.FieldType)) ∈ lw_all := sorry
theorem q3094 : (Jvm.Cond.methodLink "KrylovLaboratoryModel" (388 : Nat) ({ cls := "KrylovLaboratoryModel", name := "advance", desc := "()V" } : Jvm.MethodName)) ∈ lw_all := sorry
theorem q3095 : (Jvm.Cond.privateMethod ({ cls := "KrylovLaboratoryModel", name := "advance", desc := "()V" } : Jvm.MethodName)) ∈ lw_tbl := sorry
theorem q3096 : (Jvm.Cond.instanceMethod ({ cls := "KrylovLaboratoryModel", name := "advance", desc := "()V" } : Jvm.MethodName)) ∈ lw_all := sorry
theorem q3097 : (Jvm.Cond.code ({ cls := "KrylovLaboratoryModel", name := "advance", desc := "()V" } : Jvm.MethodName) prog_17_method_111_code (1 : Nat) (Option.none : Option Jvm.ClassFile.FieldType)) ∈ lw_all := sorry
theorem q3098 : (Jvm.Cond.methodLink "KrylovLaboratoryModel" (401 : Nat) ({ cls := "KrylovLaboratoryModel", name := "number", desc := "(II)I" } : Jvm.MethodName)) ∈ lw_all := sorry
theorem q3099 : (Jvm.Cond.privateMethod ({ cls := "KrylovLaboratoryModel", name := "number", desc := "(II)I" } : Jvm.MethodName)) ∈ lw_tbl := sorry
theorem q3100 : (Jvm.Cond.instanceMethod ({ cls := "KrylovLaboratoryModel", name := "number", desc := "(II)I" } : Jvm.MethodName)) ∈ lw_all := sorry
theorem q3101 : (Jvm.Cond.code ({ cls := "KrylovLaboratoryModel", name := "number", desc := "(II)I" } : Jvm.MethodName) prog_17_method_118_code (4 : Nat) (Option.some Jvm.ClassFile.FieldType.int)) ∈ lw_all := sorry
theorem q3102 : (Jvm.Cond.methodLink "KrylovLaboratoryModel" (398 : Nat) ({ cls := "KrylovLaboratoryModel", name := "value", desc := "()I" } : Jvm.MethodName)) ∈ lw_all := sorry
theorem q3103 : (Jvm.Cond.privateMethod ({ cls := "KrylovLaboratoryModel", name := "value", desc := "()I" } : Jvm.MethodName)) ∈ lw_tbl := sorry
theorem q3104 : (Jvm.Cond.instanceMethod ({ cls := "KrylovLaboratoryModel", name := "value", desc := "()I" } : Jvm.MethodName)) ∈ lw_all := sorry
theorem q3105 : (Jvm.Cond.code ({ cls := "KrylovLaboratoryModel", name := "value", desc := "()I" } : Jvm.MethodName) prog_17_method_117_code (3 : Nat) (Option.some Jvm.ClassFile.FieldType.int)) ∈ lw_all := sorry
theorem q3106 : (Jvm.Cond.constantLong "KrylovLaboratoryModel" (394 : Nat) (2000000000 : Int64)) ∈ lw_all := sorry
theorem q3107 : (Jvm.Cond.constantLong "KrylovLaboratoryModel" (396 : Nat) (48 : Int64)) ∈ lw_all := sorry
theorem q3108 : (Jvm.Cond.methodLink "KrylovLaboratoryModel" (439 : Nat) ({ cls := "KrylovLaboratoryModel", name := "expect", desc := "(I)V" } : Jvm.MethodName)) ∈ lw_all := sorry
theorem q3109 : (Jvm.Cond.privateMethod ({ cls := "KrylovLaboratoryModel", name := "expect", desc := "(I)V" } : Jvm.MethodName)) ∈ lw_tbl := sorry
theorem q3110 : (Jvm.Cond.instanceMethod ({ cls := "KrylovLaboratoryModel", name := "expect", desc := "(I)V" } : Jvm.MethodName)) ∈ lw_all := sorry
theorem q3111 : (Jvm.Cond.code ({ cls := "KrylovLaboratoryModel", name := "expect", desc := "(I)V" } : Jvm.MethodName) prog_17_method_116_code (2 : Nat) (Option.none : Option Jvm.ClassFile.FieldType)) ∈ lw_all := sorry
theorem q3112 : (Jvm.Cond.methodLink "KrylovLaboratoryModel" (391 : Nat) ({ cls := "KrylovLaboratoryModel", name := "isSymbol", desc := "(I)Z" } : Jvm.MethodName)) ∈ lw_all := sorry
theorem q3113 : (Jvm.Cond.privateMethod ({ cls := "KrylovLaboratoryModel", name := "isSymbol", desc := "(I)Z" } : Jvm.MethodName)) ∈ lw_tbl := sorry
theorem q3114 : (Jvm.Cond.instanceMethod ({ cls := "KrylovLaboratoryModel", name := "isSymbol", desc := "(I)Z" } : Jvm.MethodName)) ∈ lw_all := sorry
theorem q3115 : (Jvm.Cond.code ({ cls := "KrylovLaboratoryModel", name := "isSymbol", desc := "(I)Z" } : Jvm.MethodName) prog_17_method_112_code (2 : Nat) (Option.some Jvm.ClassFile.FieldType.boolean)) ∈ lw_all := sorry
theorem q3116 : (Jvm.Cond.methodLink "KrylovLaboratoryModel" (447 : Nat) ({ cls := "KrylovLaboratoryModel", name := "readClause", desc := "()V" } : Jvm.MethodName)) ∈ lw_all := sorry
theorem q3117 : (Jvm.Cond.privateMethod ({ cls := "KrylovLaboratoryModel", name := "readClause", desc := "()V" } : Jvm.MethodName)) ∈ lw_tbl := sorry
theorem q3118 : (Jvm.Cond.instanceMethod ({ cls := "KrylovLaboratoryModel", name := "readClause", desc := "()V" } : Jvm.MethodName)) ∈ lw_all := sorry
theorem q3119 : (Jvm.Cond.code ({ cls := "KrylovLaboratoryModel", name := "readClause", desc := "()V" } : Jvm.MethodName) prog_17_method_123_code (1 : Nat) (Option.none : Option Jvm.ClassFile.FieldType)) ∈ lw_all := sorry
theorem q3120 : (Jvm.Cond.stringRef "KrylovLaboratoryModel" (420 : Nat) "entry") ∈ lw_tbl := sorry
theorem q3121 : (Jvm.Cond.methodLink "KrylovLaboratoryModel" (409 : Nat) ({ cls := "KrylovLaboratoryModel", name := "accept", desc := "(Ljava/lang/String;)Z" } : Jvm.MethodName)) ∈ lw_all := sorry
theorem q3122 : (Jvm.Cond.privateMethod ({ cls := "KrylovLaboratoryModel", name := "accept", desc := "(Ljava/lang/String;)Z" } : Jvm.MethodName)) ∈ lw_tbl := sorry
theorem q3123 : (Jvm.Cond.instanceMethod ({ cls := "KrylovLaboratoryModel", name := "accept", desc := "(Ljava/lang/String;)Z" } : Jvm.MethodName)) ∈ lw_all := sorry
theorem q3124 : (Jvm.Cond.code ({ cls := "KrylovLaboratoryModel", name := "accept", desc := "(Ljava/lang/String;)Z" } : Jvm.MethodName) prog_17_method_114_code (3 : Nat) (Option.some Jvm.ClassFile.FieldType.boolean)) ∈ lw_all := sorry
theorem q3125 : (Jvm.Cond.methodLink "KrylovLaboratoryModel" (422 : Nat) ({ cls := "KrylovLaboratoryModel", name := "readEntry", desc := "()V" } : Jvm.MethodName)) ∈ lw_all := sorry
theorem q3126 : (Jvm.Cond.privateMethod ({ cls := "KrylovLaboratoryModel", name := "readEntry", desc := "()V" } : Jvm.MethodName)) ∈ lw_tbl := sorry
theorem q3127 : (Jvm.Cond.instanceMethod ({ cls := "KrylovLaboratoryModel", name := "readEntry", desc := "()V" } : Jvm.MethodName)) ∈ lw_all := sorry
theorem q3128 : (Jvm.Cond.code ({ cls := "KrylovLaboratoryModel", name := "readEntry", desc := "()V" } : Jvm.MethodName) prog_17_method_120_code (4 : Nat) (Option.none : Option Jvm.ClassFile.FieldType)) ∈ lw_all := sorry
theorem q3129 : (Jvm.Cond.methodLink "KrylovLaboratoryModel" (404 : Nat) ({ cls := "KrylovLaboratoryModel", name := "integer", desc := "()I" } : Jvm.MethodName)) ∈ lw_all := sorry
theorem q3130 : (Jvm.Cond.privateMethod ({ cls := "KrylovLaboratoryModel", name := "integer", desc := "()I" } : Jvm.MethodName)) ∈ lw_tbl := sorry
theorem q3131 : (Jvm.Cond.instanceMethod ({ cls := "KrylovLaboratoryModel", name := "integer", desc := "()I" } : Jvm.MethodName)) ∈ lw_all := sorry
theorem q3132 : (Jvm.Cond.code ({ cls := "KrylovLaboratoryModel", name := "integer", desc := "()I" } : Jvm.MethodName) prog_17_method_119_code (3 : Nat) (Option.some Jvm.ClassFile.FieldType.int)) ∈ lw_all := sorry
theorem q3133 : (Jvm.Cond.stringRef "KrylovLaboratoryModel" (425 : Nat) "start") ∈ lw_tbl := sorry
theorem q3134 : (Jvm.Cond.methodLink "KrylovLaboratoryModel" (427 : Nat) ({ cls := "KrylovLaboratoryModel", name := "readStart", desc := "()V" } : Jvm.MethodName)) ∈ lw_all := sorry
theorem q3135 : (Jvm.Cond.privateMethod ({ cls := "KrylovLaboratoryModel", name := "readStart", desc := "()V" } : Jvm.MethodName)) ∈ lw_tbl := sorry
theorem q3136 : (Jvm.Cond.instanceMethod ({ cls := "KrylovLaboratoryModel", name := "readStart", desc := "()V" } : Jvm.MethodName)) ∈ lw_all := sorry
theorem q3137 : (Jvm.Cond.code ({ cls := "KrylovLaboratoryModel", name := "readStart", desc := "()V" } : Jvm.MethodName) prog_17_method_121_code (3 : Nat) (Option.none : Option Jvm.ClassFile.FieldType)) ∈ lw_all := sorry
theorem q3138 : (Jvm.Cond.stringRef "KrylovLaboratoryModel" (430 : Nat) "mode") ∈ lw_tbl := sorry
theorem q3139 : (Jvm.Cond.methodLink "KrylovLaboratoryModel" (432 : Nat) ({ cls := "KrylovLaboratoryModel", name := "readMode", desc := "()V" } : Jvm.MethodName)) ∈ lw_all := sorry
theorem q3140 : (Jvm.Cond.privateMethod ({ cls := "KrylovLaboratoryModel", name := "readMode", desc := "()V" } : Jvm.MethodName)) ∈ lw_tbl := sorry
theorem q3141 : (Jvm.Cond.instanceMethod ({ cls := "KrylovLaboratoryModel", name := "readMode", desc := "()V" } : Jvm.MethodName)) ∈ lw_all := sorry
theorem q3142 : (Jvm.Cond.code ({ cls := "KrylovLaboratoryModel", name := "readMode", desc := "()V" } : Jvm.MethodName) prog_17_method_122_code (1 : Nat) (Option.none : Option Jvm.ClassFile.FieldType)) ∈ lw_all := sorry
theorem q3143 : (Jvm.Cond.stringRef "KrylovLaboratoryModel" (407 : Nat) "none") ∈ lw_tbl := sorry
theorem q3144 : (Jvm.Cond.stringRef "KrylovLaboratoryModel" (412 : Nat) "selective") ∈ lw_tbl := sorry
theorem q3145 : (Jvm.Cond.stringRef "KrylovLaboratoryModel" (414 : Nat) "full") ∈ lw_tbl := sorry
theorem q3146 : (Jvm.Cond.stringRef "KrylovLaboratoryModel" (435 : Nat) "threshold") ∈ lw_tbl := sorry
theorem q3147 : (Jvm.Cond.stringRef "KrylovLaboratoryModel" (437 : Nat) "tolerance") ∈ lw_tbl := sorry
theorem q3148 : (Jvm.Cond.methodLink "KrylovLaboratoryModel" (450 : Nat) ({ cls := "KrylovLaboratoryModel", name := "finish", desc := "()I" } : Jvm.MethodName)) ∈ lw_all := sorry
theorem q3149 : (Jvm.Cond.privateMethod ({ cls := "KrylovLaboratoryModel", name := "finish", desc := "()I" } : Jvm.MethodName)) ∈ lw_tbl := sorry
theorem q3150 : (Jvm.Cond.instanceMethod ({ cls := "KrylovLaboratoryModel", name := "finish", desc := "()I" } : Jvm.MethodName)) ∈ lw_all := sorry
theorem q3151 : (Jvm.Cond.code ({ cls := "KrylovLaboratoryModel", name := "finish", desc := "()I" } : Jvm.MethodName) prog_17_method_108_code (1 : Nat) (Option.some Jvm.ClassFile.FieldType.int)) ∈ lw_all := sorry
theorem q3153 : (Jvm.Cond.instanceMethod ({ cls := "KrylovLaboratoryModel", name := "query", desc := "(I)I" } : Jvm.MethodName)) ∈ lw_all := sorry
theorem q3154 : (Jvm.Cond.selects "KrylovLaboratoryModel" ({ cls := "KrylovLaboratoryModel", name := "query", desc := "(I)I" } : Jvm.MethodName) ({ cls := "KrylovLaboratoryModel", name := "query", desc := "(I)I" } : Jvm.MethodName)) ∈ lw_all := sorry
theorem q3155 : (Jvm.Cond.code ({ cls := "KrylovLaboratoryModel", name := "query", desc := "(I)I" } : Jvm.MethodName) prog_17_method_137_code (5 : Nat) (Option.some Jvm.ClassFile.FieldType.int)) ∈ lw_all := sorry
theorem q3156 : (Jvm.Cond.methodLink "KrylovLaboratoryModel" (498 : Nat) ({ cls := "java/lang/Math", name := "min", desc := "(II)I" } : Jvm.MethodName)) ∈ lw_all := sorry
theorem q3157 : (Jvm.Cond.stringRef "KrylovLaboratoryModel" (500 : Nat) "first") ∈ lw_tbl := sorry
theorem q3158 : (Jvm.Cond.stringRef "KrylovLaboratoryModel" (502 : Nat) "many") ∈ lw_tbl := sorry
theorem q3159 : (Jvm.Cond.methodLink "KrylovLaboratoryModel" (474 : Nat) ({ cls := "KrylovLaboratoryModel", name := "compileTest", desc := "()V" } : Jvm.MethodName)) ∈ lw_all := sorry
theorem q3160 : (Jvm.Cond.privateMethod ({ cls := "KrylovLaboratoryModel", name := "compileTest", desc := "()V" } : Jvm.MethodName)) ∈ lw_tbl := sorry
theorem q3161 : (Jvm.Cond.instanceMethod ({ cls := "KrylovLaboratoryModel", name := "compileTest", desc := "()V" } : Jvm.MethodName)) ∈ lw_all := sorry
theorem q3162 : (Jvm.Cond.code ({ cls := "KrylovLaboratoryModel", name := "compileTest", desc := "()V" } : Jvm.MethodName) prog_17_method_132_code (1 : Nat) (Option.none : Option Jvm.ClassFile.FieldType)) ∈ lw_all := sorry
theorem q3163 : (Jvm.Cond.methodLink "KrylovLaboratoryModel" (482 : Nat) ({ cls := "KrylovLaboratoryModel", name := "compileConjunction", desc := "()V" } : Jvm.MethodName)) ∈ lw_all := sorry
theorem q3164 : (Jvm.Cond.privateMethod ({ cls := "KrylovLaboratoryModel", name := "compileConjunction", desc := "()V" } : Jvm.MethodName)) ∈ lw_tbl := sorry
theorem q3165 : (Jvm.Cond.instanceMethod ({ cls := "KrylovLaboratoryModel", name := "compileConjunction", desc := "()V" } : Jvm.MethodName)) ∈ lw_all := sorry
theorem q3166 : (Jvm.Cond.code ({ cls := "KrylovLaboratoryModel", name := "compileConjunction", desc := "()V" } : Jvm.MethodName) prog_17_method_131_code (1 : Nat) (Option.none : Option Jvm.ClassFile.FieldType)) ∈ lw_all := sorry
theorem q3167 : (Jvm.Cond.methodLink "KrylovLaboratoryModel" (471 : Nat) ({ cls := "KrylovLaboratoryModel", name := "compileFactor", desc := "()V" } : Jvm.MethodName)) ∈ lw_all := sorry
theorem q3168 : (Jvm.Cond.privateMethod ({ cls := "KrylovLaboratoryModel", name := "compileFactor", desc := "()V" } : Jvm.MethodName)) ∈ lw_tbl := sorry
theorem q3169 : (Jvm.Cond.instanceMethod ({ cls := "KrylovLaboratoryModel", name := "compileFactor", desc := "()V" } : Jvm.MethodName)) ∈ lw_all := sorry
theorem q3170 : (Jvm.Cond.code ({ cls := "KrylovLaboratoryModel", name := "compileFactor", desc := "()V" } : Jvm.MethodName) prog_17_method_130_code (2 : Nat) (Option.none : Option Jvm.ClassFile.FieldType)) ∈ lw_all := sorry
theorem q3171 : (Jvm.Cond.stringRef "KrylovLaboratoryModel" (466 : Nat) "not") ∈ lw_tbl := sorry
theorem q3172 : (Jvm.Cond.methodLink "KrylovLaboratoryModel" (468 : Nat) ({ cls := "KrylovLaboratoryModel", name := "enter", desc := "()V" } : Jvm.MethodName)) ∈ lw_all := sorry
theorem q3173 : (Jvm.Cond.privateMethod ({ cls := "KrylovLaboratoryModel", name := "enter", desc := "()V" } : Jvm.MethodName)) ∈ lw_tbl := sorry
theorem q3174 : (Jvm.Cond.instanceMethod ({ cls := "KrylovLaboratoryModel", name := "enter", desc := "()V" } : Jvm.MethodName)) ∈ lw_all := sorry
theorem q3175 : (Jvm.Cond.code ({ cls := "KrylovLaboratoryModel", name := "enter", desc := "()V" } : Jvm.MethodName) prog_17_method_128_code (1 : Nat) (Option.none : Option Jvm.ClassFile.FieldType)) ∈ lw_all := sorry
theorem q3176 : (Jvm.Cond.methodLink "KrylovLaboratoryModel" (463 : Nat) ({ cls := "KrylovLaboratoryModel", name := "emit", desc := "(I)V" } : Jvm.MethodName)) ∈ lw_all := sorry
theorem q3177 : (Jvm.Cond.privateMethod ({ cls := "KrylovLaboratoryModel", name := "emit", desc := "(I)V" } : Jvm.MethodName)) ∈ lw_tbl := sorry
theorem q3178 : (Jvm.Cond.instanceMethod ({ cls := "KrylovLaboratoryModel", name := "emit", desc := "(I)V" } : Jvm.MethodName)) ∈ lw_all := sorry
theorem q3179 : (Jvm.Cond.code ({ cls := "KrylovLaboratoryModel", name := "emit", desc := "(I)V" } : Jvm.MethodName) prog_17_method_127_code (2 : Nat) (Option.none : Option Jvm.ClassFile.FieldType)) ∈ lw_all := sorry
theorem q3180 : (Jvm.Cond.methodLink "KrylovLaboratoryModel" (477 : Nat) ({ cls := "KrylovLaboratoryModel", name := "compileValue", desc := "()V" } : Jvm.MethodName)) ∈ lw_all := sorry
theorem q3181 : (Jvm.Cond.privateMethod ({ cls := "KrylovLaboratoryModel", name := "compileValue", desc := "()V" } : Jvm.MethodName)) ∈ lw_tbl := sorry
theorem q3182 : (Jvm.Cond.instanceMethod ({ cls := "KrylovLaboratoryModel", name := "compileValue", desc := "()V" } : Jvm.MethodName)) ∈ lw_all := sorry
theorem q3183 : (Jvm.Cond.code ({ cls := "KrylovLaboratoryModel", name := "compileValue", desc := "()V" } : Jvm.MethodName) prog_17_method_129_code (2 : Nat) (Option.none : Option Jvm.ClassFile.FieldType)) ∈ lw_all := sorry
theorem q3184 : (Jvm.Cond.constant "KrylovLaboratoryModel" (462 : Nat) (999999999 : Int32)) ∈ lw_all := sorry
theorem q3185 : (Jvm.Cond.stringRef "KrylovLaboratoryModel" (480 : Nat) "and") ∈ lw_tbl := sorry
theorem q3186 : (Jvm.Cond.stringRef "KrylovLaboratoryModel" (485 : Nat) "or") ∈ lw_tbl := sorry
theorem q3187 : (Jvm.Cond.constant "KrylovLaboratoryModel" (504 : Nat) (-1000000000 : Int32)) ∈ lw_all := sorry
theorem q3188 : (Jvm.Cond.methodLink "KrylovLaboratoryModel" (505 : Nat) ({ cls := "KrylovLaboratoryModel", name := "holdsFor", desc := "(I)Z" } : Jvm.MethodName)) ∈ lw_all := sorry
theorem q3189 : (Jvm.Cond.privateMethod ({ cls := "KrylovLaboratoryModel", name := "holdsFor", desc := "(I)Z" } : Jvm.MethodName)) ∈ lw_tbl := sorry
theorem q3190 : (Jvm.Cond.instanceMethod ({ cls := "KrylovLaboratoryModel", name := "holdsFor", desc := "(I)Z" } : Jvm.MethodName)) ∈ lw_all := sorry
theorem q3191 : (Jvm.Cond.code ({ cls := "KrylovLaboratoryModel", name := "holdsFor", desc := "(I)Z" } : Jvm.MethodName) prog_17_method_136_code (5 : Nat) (Option.some Jvm.ClassFile.FieldType.boolean)) ∈ lw_all := sorry
theorem q3192 : (Jvm.Cond.methodLink "KrylovLaboratoryModel" (491 : Nat) ({ cls := "KrylovLaboratoryModel", name := "property", desc := "(II)J" } : Jvm.MethodName)) ∈ lw_all := sorry
theorem q3193 : (Jvm.Cond.privateMethod ({ cls := "KrylovLaboratoryModel", name := "property", desc := "(II)J" } : Jvm.MethodName)) ∈ lw_tbl := sorry
theorem q3194 : (Jvm.Cond.instanceMethod ({ cls := "KrylovLaboratoryModel", name := "property", desc := "(II)J" } : Jvm.MethodName)) ∈ lw_all := sorry
theorem q3195 : (Jvm.Cond.code ({ cls := "KrylovLaboratoryModel", name := "property", desc := "(II)J" } : Jvm.MethodName) prog_17_method_135_code (3 : Nat) (Option.some Jvm.ClassFile.FieldType.long)) ∈ lw_all := sorry
theorem q3196 : (Jvm.Cond.methodLink "KrylovLaboratoryModel" (487 : Nat) ({ cls := "KrylovLaboratoryModel", name := "isLockedValue", desc := "(J)Z" } : Jvm.MethodName)) ∈ lw_all := sorry
theorem q3197 : (Jvm.Cond.privateMethod ({ cls := "KrylovLaboratoryModel", name := "isLockedValue", desc := "(J)Z" } : Jvm.MethodName)) ∈ lw_tbl := sorry
theorem q3198 : (Jvm.Cond.instanceMethod ({ cls := "KrylovLaboratoryModel", name := "isLockedValue", desc := "(J)Z" } : Jvm.MethodName)) ∈ lw_all := sorry
theorem q3199 : (Jvm.Cond.code ({ cls := "KrylovLaboratoryModel", name := "isLockedValue", desc := "(J)Z" } : Jvm.MethodName) prog_17_method_134_code (4 : Nat) (Option.some Jvm.ClassFile.FieldType.boolean)) ∈ lw_all := sorry
theorem q3200 : (Jvm.Cond.methodLink "KrylovLaboratoryModel" (494 : Nat) ({ cls := "KrylovLaboratoryModel", name := "operate", desc := "(IJJ)J" } : Jvm.MethodName)) ∈ lw_all := sorry
theorem q3201 : (Jvm.Cond.static ({ cls := "KrylovLaboratoryModel", name := "operate", desc := "(IJJ)J" } : Jvm.MethodName)) ∈ lw_all := sorry
theorem q3202 : (Jvm.Cond.code ({ cls := "KrylovLaboratoryModel", name := "operate", desc := "(IJJ)J" } : Jvm.MethodName) prog_17_method_133_code (5 : Nat) (Option.some Jvm.ClassFile.FieldType.long)) ∈ lw_all := sorry
theorem q3246 : (Jvm.Cond.castable "KrylovLaboratoryModel" "java/lang/Object") ∈ lw_tbl := sorry
theorem in_X6 : ∀ w ∈ wsX60, w ∈ lw_all := sorry
