/-! java/lang/IllegalArgumentException -/
set_option maxRecDepth 100000
def RJ22 : String := "java/lang/IllegalArgumentException"
def TJ22 : u_T := fun k => match k with
  | 0 => ("java/lang/Throwable", "cause", "Ljava/lang/Throwable;", false)
  | 1 => ("java/lang/Throwable", "stackTrace", "[Ljava/lang/StackTraceElement;", false)
  | 2 => ("java/lang/Throwable", "suppressedExceptions", "Ljava/util/List;", false)
  | 3 => ("java/lang/Throwable", "detailMessage", "Ljava/lang/String;", false)
  | 4 => ("java/lang/Throwable", "backtrace", "Ljava/lang/Object;", false)
  | _ => ("java/lang/Throwable", "depth", "I", false)
def tyJ22 : Nat → FieldType := fun k => match k with
  | 0 => .object "java/lang/Throwable"
  | 1 => .array (.object "java/lang/StackTraceElement")
  | 2 => .object "java/util/List"
  | 3 => .object "java/lang/String"
  | 4 => .object "java/lang/Object"
  | _ => .int
abbrev wsJ220 : List Cond := u_ws RJ22 TJ22 6
theorem nmJ22 : ∀ a, a < 6 → ∀ b, b < 6 → a ≠ b → (TJ22 a).2.1 ≠ (TJ22 b).2.1 := sorry
theorem tyJ22_ok : ∀ k, k < 6 → parseFieldDescriptor (TJ22 k).2.2.1 = some (tyJ22 k) := sorry
abbrev cJ22_init : ByteArray := prog_26_method_2_code
def yJ22_init : MethodName := ⟨RJ22, "<init>", "(Ljava/lang/String;)V"⟩
def dkwJ22_init_0 : List UInt8 := [42, 43, 183, 0, 7, 177]
abbrev dktJ22_init_0 : List UInt8 := dkwJ22_init_0 ++ []
theorem dksJ22_init_0 : cJ22_init.data.toList.drop 0 = dktJ22_init_0 := sorry
theorem dJ22_init_0 : decode cJ22_init 0 = .ok (.aload_n 0, 1) := sorry
theorem dJ22_init_1 : decode cJ22_init 1 = .ok (.aload_n 1, 1) := sorry
theorem dJ22_init_2 : decode cJ22_init 2 = .ok (.invokespecial 7, 3) := sorry
theorem dJ22_init_5 : decode cJ22_init 5 = .ok (.return_, 1) := sorry
abbrev cJ22_init_2 : ByteArray := prog_26_method_1_code
def yJ22_init_2 : MethodName := ⟨RJ22, "<init>", "()V"⟩
theorem dJ22_init_2_0 : decode cJ22_init_2 0 = .ok (.aload_n 0, 1) := sorry
theorem dJ22_init_2_1 : decode cJ22_init_2 1 = .ok (.invokespecial 1, 3) := sorry
theorem dJ22_init_2_4 : decode cJ22_init_2 4 = .ok (.return_, 1) := sorry
theorem q158 : (Jvm.Cond.initialized "java/lang/IllegalArgumentException") ∈ lw_all := sorry
theorem q523 : (Jvm.Cond.selects "java/lang/IllegalArgumentException" ({ cls := "java/lang/Throwable", name := "fillInStackTrace", desc := "()Ljava/lang/Throwable;" } : Jvm.MethodName) ({ cls := "java/lang/Throwable", name := "fillInStackTrace", desc := "()Ljava/lang/Throwable;" } : Jvm.MethodName)) ∈ lw_all := sorry
theorem q548 : (Jvm.Cond.selects "java/lang/IllegalArgumentException" ({ cls := "java/lang/Throwable", name := "toString", desc := "()Ljava/lang/String;" } : Jvm.MethodName) ({ cls := "java/lang/Throwable", name := "toString", desc := "()Ljava/lang/String;" } : Jvm.MethodName)) ∈ lw_all := sorry
theorem q570 : (Jvm.Cond.selects "java/lang/IllegalArgumentException" ({ cls := "java/lang/Object", name := "getClass", desc := "()Ljava/lang/Class;" } : Jvm.MethodName) ({ cls := "java/lang/Object", name := "getClass", desc := "()Ljava/lang/Class;" } : Jvm.MethodName)) ∈ lw_all := sorry
theorem q592 : (Jvm.Cond.selects "java/lang/IllegalArgumentException" ({ cls := "java/lang/Throwable", name := "getLocalizedMessage", desc := "()Ljava/lang/String;" } : Jvm.MethodName) ({ cls := "java/lang/Throwable", name := "getLocalizedMessage", desc := "()Ljava/lang/String;" } : Jvm.MethodName)) ∈ lw_all := sorry
theorem q601 : (Jvm.Cond.selects "java/lang/IllegalArgumentException" ({ cls := "java/lang/Throwable", name := "getMessage", desc := "()Ljava/lang/String;" } : Jvm.MethodName) ({ cls := "java/lang/Throwable", name := "getMessage", desc := "()Ljava/lang/String;" } : Jvm.MethodName)) ∈ lw_all := sorry
theorem q797 : (Jvm.Cond.instantiable "java/lang/IllegalArgumentException" (6 : Nat)) ∈ lw_all := sorry
theorem q798 : (Jvm.Cond.castable "java/lang/IllegalArgumentException" "java/lang/IllegalArgumentException") ∈ lw_tbl := sorry
theorem q799 : (Jvm.Cond.selects "java/lang/IllegalArgumentException" ({ cls := "java/lang/Throwable", name := "fillInStackTrace", desc := "(I)Ljava/lang/Throwable;" } : Jvm.MethodName) ({ cls := "java/lang/Throwable", name := "fillInStackTrace", desc := "(I)Ljava/lang/Throwable;" } : Jvm.MethodName)) ∈ lw_all := sorry
theorem q800 : (Jvm.Cond.lays "java/lang/IllegalArgumentException" "java/lang/Throwable" "cause" "Ljava/lang/Throwable;") ∈ lw_all := sorry
theorem q801 : (Jvm.Cond.lays "java/lang/IllegalArgumentException" "java/lang/Throwable" "stackTrace" "[Ljava/lang/StackTraceElement;") ∈ lw_all := lw_g (lw_at lw_m3 192 rfl) rfl
theorem q802 : (Jvm.Cond.lays "java/lang/IllegalArgumentException" "java/lang/Throwable" "suppressedExceptions" "Ljava/util/List;") ∈ lw_all := sorry
theorem q803 : (Jvm.Cond.lays "java/lang/IllegalArgumentException" "java/lang/Throwable" "detailMessage" "Ljava/lang/String;") ∈ lw_all := sorry
theorem q804 : (Jvm.Cond.lays "java/lang/IllegalArgumentException" "java/lang/Throwable" "backtrace" "Ljava/lang/Object;") ∈ lw_all := sorry
theorem q836 : (Jvm.Cond.instanceMethod ({ cls := "java/lang/IllegalArgumentException", name := "<init>", desc := "(Ljava/lang/String;)V" } : Jvm.MethodName)) ∈ lw_all := sorry
theorem q837 : (Jvm.Cond.code ({ cls := "java/lang/IllegalArgumentException", name := "<init>", desc := "(Ljava/lang/String;)V" } : Jvm.MethodName) prog_26_method_2_code (2 : Nat) (Option.none : Option Jvm.ClassFile.FieldType)) ∈ lw_all := sorry
theorem q838 : (Jvm.Cond.methodLink "java/lang/IllegalArgumentException" (7 : Nat) ({ cls := "java/lang/RuntimeException", name := "<init>", desc := "(Ljava/lang/String;)V" } : Jvm.MethodName)) ∈ lw_all := sorry
theorem q856 : (Jvm.Cond.lays "java/lang/IllegalArgumentException" "java/lang/Throwable" "depth" "I") ∈ lw_all := sorry
theorem q859 : (Jvm.Cond.superclass "java/lang/IllegalArgumentException" "java/lang/RuntimeException") ∈ lw_all := sorry
theorem q1544 : (Jvm.Cond.instanceMethod ({ cls := "java/lang/IllegalArgumentException", name := "<init>", desc := "()V" } : Jvm.MethodName)) ∈ lw_all := sorry
theorem q1545 : (Jvm.Cond.code ({ cls := "java/lang/IllegalArgumentException", name := "<init>", desc := "()V" } : Jvm.MethodName) prog_26_method_1_code (1 : Nat) (Option.none : Option Jvm.ClassFile.FieldType)) ∈ lw_all := sorry
theorem q1546 : (Jvm.Cond.methodLink "java/lang/IllegalArgumentException" (1 : Nat) ({ cls := "java/lang/RuntimeException", name := "<init>", desc := "()V" } : Jvm.MethodName)) ∈ lw_all := sorry
theorem q2427 : (Jvm.Cond.selects "java/lang/IllegalArgumentException" ({ cls := "java/lang/Object", name := "equals", desc := "(Ljava/lang/Object;)Z" } : Jvm.MethodName) ({ cls := "java/lang/Object", name := "equals", desc := "(Ljava/lang/Object;)Z" } : Jvm.MethodName)) ∈ lw_all := sorry
theorem q3240 : (Jvm.Cond.castable "java/lang/IllegalArgumentException" "java/lang/Object") ∈ lw_tbl := sorry
theorem in_J22 : ∀ w ∈ wsJ220, w ∈ lw_all := sorry
/-! java/lang/Integer -/
set_option maxRecDepth 100000
def RJ23 : String := "java/lang/Integer"
abbrev cJ23_stringSize : ByteArray := prog_28_method_13_code
def yJ23_stringSize : MethodName := ⟨RJ23, "stringSize", "(I)I"⟩
def dkwJ23_stringSize_1 : List UInt8 := [164, 0, 7, 29, 27, 96, 172, 16, 10, 28, 104, 61, 132, 3, 1, 167, 255, 233, 16, 10, 27, 96, 172]
abbrev dktJ23_stringSize_1 : List UInt8 := dkwJ23_stringSize_1 ++ []
def dkwJ23_stringSize_0 : List UInt8 := [4, 60, 26, 155, 0, 8, 3, 60, 26, 116, 59, 16, 246, 61, 4, 62, 29, 16, 10, 162, 0, 23, 26, 28]
abbrev dktJ23_stringSize_0 : List UInt8 := dkwJ23_stringSize_0 ++ dktJ23_stringSize_1
theorem dksJ23_stringSize_0 : cJ23_stringSize.data.toList.drop 0 = dktJ23_stringSize_0 := sorry
theorem dksJ23_stringSize_1 : cJ23_stringSize.data.toList.drop 24 = dktJ23_stringSize_1 := sorry
theorem dJ23_stringSize_0 : decode cJ23_stringSize 0 = .ok (.iconst 1, 1) := sorry
theorem dJ23_stringSize_1 : decode cJ23_stringSize 1 = .ok (.istore_n 1, 1) := sorry
theorem dJ23_stringSize_2 : decode cJ23_stringSize 2 = .ok (.iload_n 0, 1) := sorry
theorem dJ23_stringSize_3 : decode cJ23_stringSize 3 = .ok (.ifCond .lt 8, 3) := sorry
theorem dJ23_stringSize_6 : decode cJ23_stringSize 6 = .ok (.iconst 0, 1) := sorry
theorem dJ23_stringSize_7 : decode cJ23_stringSize 7 = .ok (.istore_n 1, 1) := sorry
theorem dJ23_stringSize_8 : decode cJ23_stringSize 8 = .ok (.iload_n 0, 1) := sorry
theorem dJ23_stringSize_9 : decode cJ23_stringSize 9 = .ok (.ineg, 1) := sorry
theorem dJ23_stringSize_10 : decode cJ23_stringSize 10 = .ok (.istore_n 0, 1) := sorry
theorem dJ23_stringSize_11 : decode cJ23_stringSize 11 = .ok (.bipush (-10), 2) := sorry
theorem dJ23_stringSize_13 : decode cJ23_stringSize 13 = .ok (.istore_n 2, 1) := sorry
theorem dJ23_stringSize_14 : decode cJ23_stringSize 14 = .ok (.iconst 1, 1) := sorry
theorem dJ23_stringSize_15 : decode cJ23_stringSize 15 = .ok (.istore_n 3, 1) := sorry
theorem dJ23_stringSize_16 : decode cJ23_stringSize 16 = .ok (.iload_n 3, 1) := sorry
theorem dJ23_stringSize_17 : decode cJ23_stringSize 17 = .ok (.bipush 10, 2) := sorry
theorem dJ23_stringSize_19 : decode cJ23_stringSize 19 = .ok (.if_icmp .ge 23, 3) := sorry
theorem dJ23_stringSize_22 : decode cJ23_stringSize 22 = .ok (.iload_n 0, 1) := sorry
theorem dJ23_stringSize_23 : decode cJ23_stringSize 23 = .ok (.iload_n 2, 1) := sorry
theorem dJ23_stringSize_24 : decode cJ23_stringSize 24 = .ok (.if_icmp .le 7, 3) := sorry
theorem dJ23_stringSize_27 : decode cJ23_stringSize 27 = .ok (.iload_n 3, 1) := sorry
theorem dJ23_stringSize_28 : decode cJ23_stringSize 28 = .ok (.iload_n 1, 1) := sorry
theorem dJ23_stringSize_29 : decode cJ23_stringSize 29 = .ok (.iadd, 1) := sorry
theorem dJ23_stringSize_30 : decode cJ23_stringSize 30 = .ok (.ireturn, 1) := sorry
theorem dJ23_stringSize_31 : decode cJ23_stringSize 31 = .ok (.bipush 10, 2) := sorry
theorem dJ23_stringSize_33 : decode cJ23_stringSize 33 = .ok (.iload_n 2, 1) := sorry
theorem dJ23_stringSize_34 : decode cJ23_stringSize 34 = .ok (.imul, 1) := sorry
theorem dJ23_stringSize_35 : decode cJ23_stringSize 35 = .ok (.istore_n 2, 1) := sorry
theorem dJ23_stringSize_36 : decode cJ23_stringSize 36 = .ok (.iinc 3 1, 3) := sorry
theorem dJ23_stringSize_39 : decode cJ23_stringSize 39 = .ok (.goto (-23), 3) := sorry
theorem dJ23_stringSize_42 : decode cJ23_stringSize 42 = .ok (.bipush 10, 2) := sorry
theorem dJ23_stringSize_44 : decode cJ23_stringSize 44 = .ok (.iload_n 1, 1) := sorry
theorem dJ23_stringSize_45 : decode cJ23_stringSize 45 = .ok (.iadd, 1) := sorry
theorem dJ23_stringSize_46 : decode cJ23_stringSize 46 = .ok (.ireturn, 1) := sorry
abbrev cJ23_getChars : ByteArray := prog_28_method_12_code
def yJ23_getChars : MethodName := ⟨RJ23, "getChars", "(II[B)I"⟩
def dkwJ23_getChars_5 : List UInt8 := [16, 45, 84, 21, 5, 172]
abbrev dktJ23_getChars_5 : List UInt8 := dkwJ23_getChars_5 ++ []
def dkwJ23_getChars_4 : List UInt8 := [132, 5, 255, 21, 5, 178, 0, 87, 26, 116, 51, 84, 21, 6, 153, 0, 12, 44, 132, 5, 255, 21, 5]
abbrev dktJ23_getChars_4 : List UInt8 := dkwJ23_getChars_4 ++ dktJ23_getChars_5
def dkwJ23_getChars_3 : List UInt8 := [167, 255, 209, 44, 132, 5, 255, 21, 5, 178, 0, 83, 26, 116, 51, 84, 26, 16, 247, 162, 0, 16, 44]
abbrev dktJ23_getChars_3 : List UInt8 := dkwJ23_getChars_3 ++ dktJ23_getChars_4
def dkwJ23_getChars_2 : List UInt8 := [21, 5, 178, 0, 83, 21, 4, 51, 84, 44, 132, 5, 255, 21, 5, 178, 0, 87, 21, 4, 51, 84]
abbrev dktJ23_getChars_2 : List UInt8 := dkwJ23_getChars_2 ++ dktJ23_getChars_3
def dkwJ23_getChars_1 : List UInt8 := [16, 156, 163, 0, 47, 26, 16, 100, 108, 62, 29, 16, 100, 104, 26, 100, 54, 4, 29, 59, 44, 132, 5, 255]
abbrev dktJ23_getChars_1 : List UInt8 := dkwJ23_getChars_1 ++ dktJ23_getChars_2
def dkwJ23_getChars_0 : List UInt8 := [27, 54, 5, 26, 156, 0, 7, 4, 167, 0, 4, 3, 54, 6, 21, 6, 154, 0, 6, 26, 116, 59, 26]
abbrev dktJ23_getChars_0 : List UInt8 := dkwJ23_getChars_0 ++ dktJ23_getChars_1
theorem dksJ23_getChars_0 : cJ23_getChars.data.toList.drop 0 = dktJ23_getChars_0 := sorry
theorem dksJ23_getChars_1 : cJ23_getChars.data.toList.drop 23 = dktJ23_getChars_1 := sorry
theorem dksJ23_getChars_2 : cJ23_getChars.data.toList.drop 47 = dktJ23_getChars_2 := sorry
theorem dksJ23_getChars_3 : cJ23_getChars.data.toList.drop 69 = dktJ23_getChars_3 := sorry
theorem dksJ23_getChars_4 : cJ23_getChars.data.toList.drop 92 = dktJ23_getChars_4 := sorry
theorem dksJ23_getChars_5 : cJ23_getChars.data.toList.drop 115 = dktJ23_getChars_5 := sorry
theorem dJ23_getChars_0 : decode cJ23_getChars 0 = .ok (.iload_n 1, 1) := sorry
theorem dJ23_getChars_1 : decode cJ23_getChars 1 = .ok (.istore 5, 2) := sorry
theorem dJ23_getChars_3 : decode cJ23_getChars 3 = .ok (.iload_n 0, 1) := sorry
theorem dJ23_getChars_4 : decode cJ23_getChars 4 = .ok (.ifCond .ge 7, 3) := sorry
theorem dJ23_getChars_7 : decode cJ23_getChars 7 = .ok (.iconst 1, 1) := sorry
theorem dJ23_getChars_8 : decode cJ23_getChars 8 = .ok (.goto 4, 3) := sorry
theorem dJ23_getChars_11 : decode cJ23_getChars 11 = .ok (.iconst 0, 1) := sorry
theorem dJ23_getChars_12 : decode cJ23_getChars 12 = .ok (.istore 6, 2) := sorry
theorem dJ23_getChars_14 : decode cJ23_getChars 14 = .ok (.iload 6, 2) := sorry
theorem dJ23_getChars_16 : decode cJ23_getChars 16 = .ok (.ifCond .ne 6, 3) := sorry
theorem dJ23_getChars_19 : decode cJ23_getChars 19 = .ok (.iload_n 0, 1) := sorry
theorem dJ23_getChars_20 : decode cJ23_getChars 20 = .ok (.ineg, 1) := sorry
theorem dJ23_getChars_21 : decode cJ23_getChars 21 = .ok (.istore_n 0, 1) := sorry
theorem dJ23_getChars_22 : decode cJ23_getChars 22 = .ok (.iload_n 0, 1) := sorry
theorem dJ23_getChars_23 : decode cJ23_getChars 23 = .ok (.bipush (-100), 2) := sorry
theorem dJ23_getChars_25 : decode cJ23_getChars 25 = .ok (.if_icmp .gt 47, 3) := sorry
theorem dJ23_getChars_28 : decode cJ23_getChars 28 = .ok (.iload_n 0, 1) := sorry
theorem dJ23_getChars_29 : decode cJ23_getChars 29 = .ok (.bipush 100, 2) := sorry
theorem dJ23_getChars_31 : decode cJ23_getChars 31 = .ok (.idiv, 1) := sorry
theorem dJ23_getChars_32 : decode cJ23_getChars 32 = .ok (.istore_n 3, 1) := sorry
theorem dJ23_getChars_33 : decode cJ23_getChars 33 = .ok (.iload_n 3, 1) := sorry
theorem dJ23_getChars_34 : decode cJ23_getChars 34 = .ok (.bipush 100, 2) := sorry
theorem dJ23_getChars_36 : decode cJ23_getChars 36 = .ok (.imul, 1) := sorry
theorem dJ23_getChars_37 : decode cJ23_getChars 37 = .ok (.iload_n 0, 1) := sorry
theorem dJ23_getChars_38 : decode cJ23_getChars 38 = .ok (.isub, 1) := sorry
theorem dJ23_getChars_39 : decode cJ23_getChars 39 = .ok (.istore 4, 2) := sorry
theorem dJ23_getChars_41 : decode cJ23_getChars 41 = .ok (.iload_n 3, 1) := sorry
theorem dJ23_getChars_42 : decode cJ23_getChars 42 = .ok (.istore_n 0, 1) := sorry
theorem dJ23_getChars_43 : decode cJ23_getChars 43 = .ok (.aload_n 2, 1) := sorry
theorem dJ23_getChars_44 : decode cJ23_getChars 44 = .ok (.iinc 5 (-1), 3) := sorry
theorem dJ23_getChars_47 : decode cJ23_getChars 47 = .ok (.iload 5, 2) := sorry
theorem dJ23_getChars_49 : decode cJ23_getChars 49 = .ok (.getstatic 83, 3) := sorry
theorem dJ23_getChars_52 : decode cJ23_getChars 52 = .ok (.iload 4, 2) := sorry
theorem dJ23_getChars_54 : decode cJ23_getChars 54 = .ok (.baload, 1) := sorry
theorem dJ23_getChars_55 : decode cJ23_getChars 55 = .ok (.bastore, 1) := sorry
theorem dJ23_getChars_56 : decode cJ23_getChars 56 = .ok (.aload_n 2, 1) := sorry
theorem dJ23_getChars_57 : decode cJ23_getChars 57 = .ok (.iinc 5 (-1), 3) := sorry
theorem dJ23_getChars_60 : decode cJ23_getChars 60 = .ok (.iload 5, 2) := sorry
theorem dJ23_getChars_62 : decode cJ23_getChars 62 = .ok (.getstatic 87, 3) := sorry
theorem dJ23_getChars_65 : decode cJ23_getChars 65 = .ok (.iload 4, 2) := sorry
theorem dJ23_getChars_67 : decode cJ23_getChars 67 = .ok (.baload, 1) := sorry
theorem dJ23_getChars_68 : decode cJ23_getChars 68 = .ok (.bastore, 1) := sorry
theorem dJ23_getChars_69 : decode cJ23_getChars 69 = .ok (.goto (-47), 3) := sorry
theorem dJ23_getChars_72 : decode cJ23_getChars 72 = .ok (.aload_n 2, 1) := sorry
theorem dJ23_getChars_73 : decode cJ23_getChars 73 = .ok (.iinc 5 (-1), 3) := sorry
theorem dJ23_getChars_76 : decode cJ23_getChars 76 = .ok (.iload 5, 2) := sorry
theorem dJ23_getChars_78 : decode cJ23_getChars 78 = .ok (.getstatic 83, 3) := sorry
theorem dJ23_getChars_81 : decode cJ23_getChars 81 = .ok (.iload_n 0, 1) := sorry
theorem dJ23_getChars_82 : decode cJ23_getChars 82 = .ok (.ineg, 1) := sorry
theorem dJ23_getChars_83 : decode cJ23_getChars 83 = .ok (.baload, 1) := sorry
theorem dJ23_getChars_84 : decode cJ23_getChars 84 = .ok (.bastore, 1) := sorry
theorem dJ23_getChars_85 : decode cJ23_getChars 85 = .ok (.iload_n 0, 1) := sorry
theorem dJ23_getChars_86 : decode cJ23_getChars 86 = .ok (.bipush (-9), 2) := sorry
theorem dJ23_getChars_88 : decode cJ23_getChars 88 = .ok (.if_icmp .ge 16, 3) := sorry
theorem dJ23_getChars_91 : decode cJ23_getChars 91 = .ok (.aload_n 2, 1) := sorry
theorem dJ23_getChars_92 : decode cJ23_getChars 92 = .ok (.iinc 5 (-1), 3) := sorry
theorem dJ23_getChars_95 : decode cJ23_getChars 95 = .ok (.iload 5, 2) := sorry
theorem dJ23_getChars_97 : decode cJ23_getChars 97 = .ok (.getstatic 87, 3) := sorry
theorem dJ23_getChars_100 : decode cJ23_getChars 100 = .ok (.iload_n 0, 1) := sorry
theorem dJ23_getChars_101 : decode cJ23_getChars 101 = .ok (.ineg, 1) := sorry
theorem dJ23_getChars_102 : decode cJ23_getChars 102 = .ok (.baload, 1) := sorry
theorem dJ23_getChars_103 : decode cJ23_getChars 103 = .ok (.bastore, 1) := sorry
theorem dJ23_getChars_104 : decode cJ23_getChars 104 = .ok (.iload 6, 2) := sorry
theorem dJ23_getChars_106 : decode cJ23_getChars 106 = .ok (.ifCond .eq 12, 3) := sorry
theorem dJ23_getChars_109 : decode cJ23_getChars 109 = .ok (.aload_n 2, 1) := sorry
theorem dJ23_getChars_110 : decode cJ23_getChars 110 = .ok (.iinc 5 (-1), 3) := sorry
theorem dJ23_getChars_113 : decode cJ23_getChars 113 = .ok (.iload 5, 2) := sorry
theorem dJ23_getChars_115 : decode cJ23_getChars 115 = .ok (.bipush 45, 2) := sorry
theorem dJ23_getChars_117 : decode cJ23_getChars 117 = .ok (.bastore, 1) := sorry
theorem dJ23_getChars_118 : decode cJ23_getChars 118 = .ok (.iload 5, 2) := sorry
theorem dJ23_getChars_120 : decode cJ23_getChars 120 = .ok (.ireturn, 1) := sorry
abbrev cJ23_numberOfTrailingZeros : ByteArray := prog_28_method_48_code
def yJ23_numberOfTrailingZeros : MethodName := ⟨RJ23, "numberOfTrailingZeros", "(I)I"⟩
def dkwJ23_numberOfTrailingZeros_3 : List UInt8 := [5, 124, 59, 27, 26, 4, 124, 96, 172]
abbrev dktJ23_numberOfTrailingZeros_3 : List UInt8 := dkwJ23_numberOfTrailingZeros_3 ++ []
def dkwJ23_numberOfTrailingZeros_2 : List UInt8 := [124, 59, 26, 16, 16, 164, 0, 10, 132, 1, 4, 26, 7, 124, 59, 26, 7, 164, 0, 10, 132, 1, 2, 26]
abbrev dktJ23_numberOfTrailingZeros_2 : List UInt8 := dkwJ23_numberOfTrailingZeros_2 ++ dktJ23_numberOfTrailingZeros_3
def dkwJ23_numberOfTrailingZeros_1 : List UInt8 := [164, 0, 11, 132, 1, 16, 26, 16, 16, 124, 59, 26, 17, 1, 0, 164, 0, 11, 132, 1, 8, 26, 16, 8]
abbrev dktJ23_numberOfTrailingZeros_1 : List UInt8 := dkwJ23_numberOfTrailingZeros_1 ++ dktJ23_numberOfTrailingZeros_2
def dkwJ23_numberOfTrailingZeros_0 : List UInt8 := [26, 2, 130, 26, 4, 100, 126, 59, 26, 157, 0, 8, 26, 16, 32, 126, 172, 4, 60, 26, 19, 1, 8]
abbrev dktJ23_numberOfTrailingZeros_0 : List UInt8 := dkwJ23_numberOfTrailingZeros_0 ++ dktJ23_numberOfTrailingZeros_1
theorem dksJ23_numberOfTrailingZeros_0 : cJ23_numberOfTrailingZeros.data.toList.drop 0 = dktJ23_numberOfTrailingZeros_0 := sorry
theorem dksJ23_numberOfTrailingZeros_1 : cJ23_numberOfTrailingZeros.data.toList.drop 23 = dktJ23_numberOfTrailingZeros_1 := sorry
theorem dksJ23_numberOfTrailingZeros_2 : cJ23_numberOfTrailingZeros.data.toList.drop 47 = dktJ23_numberOfTrailingZeros_2 := sorry
theorem dksJ23_numberOfTrailingZeros_3 : cJ23_numberOfTrailingZeros.data.toList.drop 71 = dktJ23_numberOfTrailingZeros_3 := sorry
theorem dJ23_numberOfTrailingZeros_0 : decode cJ23_numberOfTrailingZeros 0 = .ok (.iload_n 0, 1) := sorry
theorem dJ23_numberOfTrailingZeros_1 : decode cJ23_numberOfTrailingZeros 1 = .ok (.iconst (-1), 1) := sorry
theorem dJ23_numberOfTrailingZeros_2 : decode cJ23_numberOfTrailingZeros 2 = .ok (.ixor, 1) := sorry
theorem dJ23_numberOfTrailingZeros_3 : decode cJ23_numberOfTrailingZeros 3 = .ok (.iload_n 0, 1) := sorry
theorem dJ23_numberOfTrailingZeros_4 : decode cJ23_numberOfTrailingZeros 4 = .ok (.iconst 1, 1) := sorry
theorem dJ23_numberOfTrailingZeros_5 : decode cJ23_numberOfTrailingZeros 5 = .ok (.isub, 1) := sorry
theorem dJ23_numberOfTrailingZeros_6 : decode cJ23_numberOfTrailingZeros 6 = .ok (.iand, 1) := sorry
theorem dJ23_numberOfTrailingZeros_7 : decode cJ23_numberOfTrailingZeros 7 = .ok (.istore_n 0, 1) := sorry
theorem dJ23_numberOfTrailingZeros_8 : decode cJ23_numberOfTrailingZeros 8 = .ok (.iload_n 0, 1) := sorry
theorem dJ23_numberOfTrailingZeros_9 : decode cJ23_numberOfTrailingZeros 9 = .ok (.ifCond .gt 8, 3) := sorry
theorem dJ23_numberOfTrailingZeros_12 : decode cJ23_numberOfTrailingZeros 12 = .ok (.iload_n 0, 1) := sorry
theorem dJ23_numberOfTrailingZeros_13 : decode cJ23_numberOfTrailingZeros 13 = .ok (.bipush 32, 2) := sorry
theorem dJ23_numberOfTrailingZeros_15 : decode cJ23_numberOfTrailingZeros 15 = .ok (.iand, 1) := sorry
theorem dJ23_numberOfTrailingZeros_16 : decode cJ23_numberOfTrailingZeros 16 = .ok (.ireturn, 1) := sorry
theorem dJ23_numberOfTrailingZeros_17 : decode cJ23_numberOfTrailingZeros 17 = .ok (.iconst 1, 1) := sorry
theorem dJ23_numberOfTrailingZeros_18 : decode cJ23_numberOfTrailingZeros 18 = .ok (.istore_n 1, 1) := sorry
theorem dJ23_numberOfTrailingZeros_19 : decode cJ23_numberOfTrailingZeros 19 = .ok (.iload_n 0, 1) := sorry
theorem dJ23_numberOfTrailingZeros_20 : decode cJ23_numberOfTrailingZeros 20 = .ok (.ldc_w 264, 3) := sorry
theorem dJ23_numberOfTrailingZeros_23 : decode cJ23_numberOfTrailingZeros 23 = .ok (.if_icmp .le 11, 3) := sorry
theorem dJ23_numberOfTrailingZeros_26 : decode cJ23_numberOfTrailingZeros 26 = .ok (.iinc 1 16, 3) := sorry
theorem dJ23_numberOfTrailingZeros_29 : decode cJ23_numberOfTrailingZeros 29 = .ok (.iload_n 0, 1) := sorry
theorem dJ23_numberOfTrailingZeros_30 : decode cJ23_numberOfTrailingZeros 30 = .ok (.bipush 16, 2) := sorry
theorem dJ23_numberOfTrailingZeros_32 : decode cJ23_numberOfTrailingZeros 32 = .ok (.iushr, 1) := sorry
theorem dJ23_numberOfTrailingZeros_33 : decode cJ23_numberOfTrailingZeros 33 = .ok (.istore_n 0, 1) := sorry
theorem dJ23_numberOfTrailingZeros_34 : decode cJ23_numberOfTrailingZeros 34 = .ok (.iload_n 0, 1) := sorry
theorem dJ23_numberOfTrailingZeros_35 : decode cJ23_numberOfTrailingZeros 35 = .ok (.sipush 256, 3) := sorry
theorem dJ23_numberOfTrailingZeros_38 : decode cJ23_numberOfTrailingZeros 38 = .ok (.if_icmp .le 11, 3) := sorry
theorem dJ23_numberOfTrailingZeros_41 : decode cJ23_numberOfTrailingZeros 41 = .ok (.iinc 1 8, 3) := sorry
theorem dJ23_numberOfTrailingZeros_44 : decode cJ23_numberOfTrailingZeros 44 = .ok (.iload_n 0, 1) := sorry
theorem dJ23_numberOfTrailingZeros_45 : decode cJ23_numberOfTrailingZeros 45 = .ok (.bipush 8, 2) := sorry
theorem dJ23_numberOfTrailingZeros_47 : decode cJ23_numberOfTrailingZeros 47 = .ok (.iushr, 1) := sorry
theorem dJ23_numberOfTrailingZeros_48 : decode cJ23_numberOfTrailingZeros 48 = .ok (.istore_n 0, 1) := sorry
theorem dJ23_numberOfTrailingZeros_49 : decode cJ23_numberOfTrailingZeros 49 = .ok (.iload_n 0, 1) := sorry
theorem dJ23_numberOfTrailingZeros_50 : decode cJ23_numberOfTrailingZeros 50 = .ok (.bipush 16, 2) := sorry
theorem dJ23_numberOfTrailingZeros_52 : decode cJ23_numberOfTrailingZeros 52 = .ok (.if_icmp .le 10, 3) := sorry
theorem dJ23_numberOfTrailingZeros_55 : decode cJ23_numberOfTrailingZeros 55 = .ok (.iinc 1 4, 3) := sorry
theorem dJ23_numberOfTrailingZeros_58 : decode cJ23_numberOfTrailingZeros 58 = .ok (.iload_n 0, 1) := sorry
theorem dJ23_numberOfTrailingZeros_59 : decode cJ23_numberOfTrailingZeros 59 = .ok (.iconst 4, 1) := sorry
theorem dJ23_numberOfTrailingZeros_60 : decode cJ23_numberOfTrailingZeros 60 = .ok (.iushr, 1) := sorry
theorem dJ23_numberOfTrailingZeros_61 : decode cJ23_numberOfTrailingZeros 61 = .ok (.istore_n 0, 1) := sorry
theorem dJ23_numberOfTrailingZeros_62 : decode cJ23_numberOfTrailingZeros 62 = .ok (.iload_n 0, 1) := sorry
theorem dJ23_numberOfTrailingZeros_63 : decode cJ23_numberOfTrailingZeros 63 = .ok (.iconst 4, 1) := sorry
theorem dJ23_numberOfTrailingZeros_64 : decode cJ23_numberOfTrailingZeros 64 = .ok (.if_icmp .le 10, 3) := sorry
theorem dJ23_numberOfTrailingZeros_67 : decode cJ23_numberOfTrailingZeros 67 = .ok (.iinc 1 2, 3) := sorry
theorem dJ23_numberOfTrailingZeros_70 : decode cJ23_numberOfTrailingZeros 70 = .ok (.iload_n 0, 1) := sorry
theorem dJ23_numberOfTrailingZeros_71 : decode cJ23_numberOfTrailingZeros 71 = .ok (.iconst 2, 1) := sorry
theorem dJ23_numberOfTrailingZeros_72 : decode cJ23_numberOfTrailingZeros 72 = .ok (.iushr, 1) := sorry
theorem dJ23_numberOfTrailingZeros_73 : decode cJ23_numberOfTrailingZeros 73 = .ok (.istore_n 0, 1) := sorry
theorem dJ23_numberOfTrailingZeros_74 : decode cJ23_numberOfTrailingZeros 74 = .ok (.iload_n 1, 1) := sorry
theorem dJ23_numberOfTrailingZeros_75 : decode cJ23_numberOfTrailingZeros 75 = .ok (.iload_n 0, 1) := sorry
theorem dJ23_numberOfTrailingZeros_76 : decode cJ23_numberOfTrailingZeros 76 = .ok (.iconst 1, 1) := sorry
theorem dJ23_numberOfTrailingZeros_77 : decode cJ23_numberOfTrailingZeros 77 = .ok (.iushr, 1) := sorry
theorem dJ23_numberOfTrailingZeros_78 : decode cJ23_numberOfTrailingZeros 78 = .ok (.iadd, 1) := sorry
theorem dJ23_numberOfTrailingZeros_79 : decode cJ23_numberOfTrailingZeros 79 = .ok (.ireturn, 1) := sorry
theorem q160 : (Jvm.Cond.initialized "java/lang/Integer") ∈ lw_all := sorry
theorem q815 : (Jvm.Cond.static ({ cls := "java/lang/Integer", name := "stringSize", desc := "(I)I" } : Jvm.MethodName)) ∈ lw_all := sorry
theorem q816 : (Jvm.Cond.code ({ cls := "java/lang/Integer", name := "stringSize", desc := "(I)I" } : Jvm.MethodName) prog_28_method_13_code (4 : Nat) (Option.some Jvm.ClassFile.FieldType.int)) ∈ lw_all := sorry
theorem q818 : (Jvm.Cond.static ({ cls := "java/lang/Integer", name := "getChars", desc := "(II[B)I" } : Jvm.MethodName)) ∈ lw_all := lw_g (lw_at lw_m3 209 rfl) rfl
theorem q819 : (Jvm.Cond.code ({ cls := "java/lang/Integer", name := "getChars", desc := "(II[B)I" } : Jvm.MethodName) prog_28_method_12_code (7 : Nat) (Option.some Jvm.ClassFile.FieldType.int)) ∈ lw_all := lw_g (lw_at lw_m3 210 rfl) rfl
theorem q820 : (Jvm.Cond.fieldLink "java/lang/Integer" (83 : Nat) "java/lang/Integer" "DigitOnes" "[B") ∈ lw_all := lw_g (lw_at lw_m3 211 rfl) rfl
theorem q821 : (Jvm.Cond.laysStatic "java/lang/Integer" "DigitOnes" "[B") ∈ lw_tbl := lw_at lw_m3 212 rfl
theorem q822 : (Jvm.Cond.fieldLink "java/lang/Integer" (87 : Nat) "java/lang/Integer" "DigitTens" "[B") ∈ lw_all := lw_g (lw_at lw_m3 213 rfl) rfl
theorem q823 : (Jvm.Cond.laysStatic "java/lang/Integer" "DigitTens" "[B") ∈ lw_tbl := lw_at lw_m3 214 rfl
theorem q1421 : (Jvm.Cond.static ({ cls := "java/lang/Integer", name := "numberOfTrailingZeros", desc := "(I)I" } : Jvm.MethodName)) ∈ lw_all := sorry
theorem q1422 : (Jvm.Cond.code ({ cls := "java/lang/Integer", name := "numberOfTrailingZeros", desc := "(I)I" } : Jvm.MethodName) prog_28_method_48_code (2 : Nat) (Option.some Jvm.ClassFile.FieldType.int)) ∈ lw_all := sorry
theorem q1423 : (Jvm.Cond.constant "java/lang/Integer" (264 : Nat) (65536 : Int32)) ∈ lw_all := sorry
/-! java/util/ArrayList -/
set_option maxRecDepth 100000
def RJ24 : String := "java/util/ArrayList"
def TJ24 : u_T := fun k => match k with
  | 0 => ("java/util/AbstractList", "modCount", "I", false)
  | 1 => ("java/util/ArrayList", "elementData", "[Ljava/lang/Object;", false)
  | _ => ("java/util/ArrayList", "size", "I", false)
def tyJ24 : Nat → FieldType := fun k => match k with
  | 0 => .int
  | 1 => .array (.object "java/lang/Object")
  | _ => .int
abbrev wsJ240 : List Cond := u_ws RJ24 TJ24 3
theorem nmJ24 : ∀ a, a < 3 → ∀ b, b < 3 → a ≠ b → (TJ24 a).2.1 ≠ (TJ24 b).2.1 := sorry
theorem tyJ24_ok : ∀ k, k < 3 → parseFieldDescriptor (TJ24 k).2.2.1 = some (tyJ24 k) := sorry
abbrev cJ24_listIterator : ByteArray := prog_49_method_53_code
def yJ24_listIterator : MethodName := ⟨RJ24, "listIterator", "(I)Ljava/util/ListIterator;"⟩
def dkwJ24_listIterator_0 : List UInt8 := [42, 27, 182, 0, 135, 187, 1, 6, 89, 42, 27, 183, 1, 8, 176]
abbrev dktJ24_listIterator_0 : List UInt8 := dkwJ24_listIterator_0 ++ []
theorem dksJ24_listIterator_0 : cJ24_listIterator.data.toList.drop 0 = dktJ24_listIterator_0 := sorry
theorem dJ24_listIterator_0 : decode cJ24_listIterator 0 = .ok (.aload_n 0, 1) := sorry
theorem dJ24_listIterator_1 : decode cJ24_listIterator 1 = .ok (.iload_n 1, 1) := sorry
theorem dJ24_listIterator_2 : decode cJ24_listIterator 2 = .ok (.invokevirtual 135, 3) := sorry
theorem dJ24_listIterator_5 : decode cJ24_listIterator 5 = .ok (.new 262, 3) := sorry
theorem dJ24_listIterator_8 : decode cJ24_listIterator 8 = .ok (.dup, 1) := sorry
theorem dJ24_listIterator_9 : decode cJ24_listIterator 9 = .ok (.aload_n 0, 1) := sorry
theorem dJ24_listIterator_10 : decode cJ24_listIterator 10 = .ok (.iload_n 1, 1) := sorry
theorem dJ24_listIterator_11 : decode cJ24_listIterator 11 = .ok (.invokespecial 264, 3) := sorry
theorem dJ24_listIterator_14 : decode cJ24_listIterator 14 = .ok (.areturn, 1) := sorry
abbrev cJ24_rangeCheckForAdd : ByteArray := prog_49_method_45_code
def yJ24_rangeCheckForAdd : MethodName := ⟨RJ24, "rangeCheckForAdd", "(I)V"⟩
def dkwJ24_rangeCheckForAdd_1 : List UInt8 := [191, 177]
abbrev dktJ24_rangeCheckForAdd_1 : List UInt8 := dkwJ24_rangeCheckForAdd_1 ++ []
def dkwJ24_rangeCheckForAdd_0 : List UInt8 := [27, 42, 180, 0, 48, 163, 0, 7, 27, 156, 0, 16, 187, 0, 187, 89, 42, 27, 182, 0, 198, 183, 0, 193]
abbrev dktJ24_rangeCheckForAdd_0 : List UInt8 := dkwJ24_rangeCheckForAdd_0 ++ dktJ24_rangeCheckForAdd_1
theorem dksJ24_rangeCheckForAdd_0 : cJ24_rangeCheckForAdd.data.toList.drop 0 = dktJ24_rangeCheckForAdd_0 := sorry
theorem dksJ24_rangeCheckForAdd_1 : cJ24_rangeCheckForAdd.data.toList.drop 24 = dktJ24_rangeCheckForAdd_1 := sorry
theorem dJ24_rangeCheckForAdd_0 : decode cJ24_rangeCheckForAdd 0 = .ok (.iload_n 1, 1) := sorry
theorem dJ24_rangeCheckForAdd_1 : decode cJ24_rangeCheckForAdd 1 = .ok (.aload_n 0, 1) := sorry
theorem dJ24_rangeCheckForAdd_2 : decode cJ24_rangeCheckForAdd 2 = .ok (.getfield 48, 3) := sorry
theorem dJ24_rangeCheckForAdd_5 : decode cJ24_rangeCheckForAdd 5 = .ok (.if_icmp .gt 7, 3) := sorry
theorem dJ24_rangeCheckForAdd_8 : decode cJ24_rangeCheckForAdd 8 = .ok (.iload_n 1, 1) := sorry
theorem dJ24_rangeCheckForAdd_9 : decode cJ24_rangeCheckForAdd 9 = .ok (.ifCond .ge 16, 3) := sorry
theorem dJ24_rangeCheckForAdd_12 : decode cJ24_rangeCheckForAdd 12 = .ok (.new 187, 3) := sorry
theorem dJ24_rangeCheckForAdd_15 : decode cJ24_rangeCheckForAdd 15 = .ok (.dup, 1) := sorry
theorem dJ24_rangeCheckForAdd_16 : decode cJ24_rangeCheckForAdd 16 = .ok (.aload_n 0, 1) := sorry
theorem dJ24_rangeCheckForAdd_17 : decode cJ24_rangeCheckForAdd 17 = .ok (.iload_n 1, 1) := sorry
theorem dJ24_rangeCheckForAdd_18 : decode cJ24_rangeCheckForAdd 18 = .ok (.invokevirtual 198, 3) := sorry
theorem dJ24_rangeCheckForAdd_21 : decode cJ24_rangeCheckForAdd 21 = .ok (.invokespecial 193, 3) := sorry
theorem dJ24_rangeCheckForAdd_24 : decode cJ24_rangeCheckForAdd 24 = .ok (.athrow, 1) := sorry
theorem dJ24_rangeCheckForAdd_25 : decode cJ24_rangeCheckForAdd 25 = .ok (.return_, 1) := sorry
abbrev cJ24_size : ByteArray := prog_49_method_8_code
def yJ24_size : MethodName := ⟨RJ24, "size", "()I"⟩
theorem dJ24_size_0 : decode cJ24_size 0 = .ok (.aload_n 0, 1) := sorry
theorem dJ24_size_1 : decode cJ24_size 1 = .ok (.getfield 48, 3) := sorry
theorem dJ24_size_4 : decode cJ24_size 4 = .ok (.ireturn, 1) := sorry
abbrev cJ24_get : ByteArray := prog_49_method_20_code
def yJ24_get : MethodName := ⟨RJ24, "get", "(I)Ljava/lang/Object;"⟩
def dkwJ24_get_0 : List UInt8 := [27, 42, 180, 0, 48, 184, 0, 118, 87, 42, 27, 182, 0, 123, 176]
abbrev dktJ24_get_0 : List UInt8 := dkwJ24_get_0 ++ []
theorem dksJ24_get_0 : cJ24_get.data.toList.drop 0 = dktJ24_get_0 := sorry
theorem dJ24_get_0 : decode cJ24_get 0 = .ok (.iload_n 1, 1) := sorry
theorem dJ24_get_1 : decode cJ24_get 1 = .ok (.aload_n 0, 1) := sorry
theorem dJ24_get_2 : decode cJ24_get 2 = .ok (.getfield 48, 3) := sorry
theorem dJ24_get_5 : decode cJ24_get 5 = .ok (.invokestatic 118, 3) := sorry
theorem dJ24_get_8 : decode cJ24_get 8 = .ok (.pop, 1) := sorry
theorem dJ24_get_9 : decode cJ24_get 9 = .ok (.aload_n 0, 1) := sorry
theorem dJ24_get_10 : decode cJ24_get 10 = .ok (.iload_n 1, 1) := sorry
theorem dJ24_get_11 : decode cJ24_get 11 = .ok (.invokevirtual 123, 3) := sorry
theorem dJ24_get_14 : decode cJ24_get 14 = .ok (.areturn, 1) := sorry
abbrev cJ24_elementData : ByteArray := prog_49_method_18_code
def yJ24_elementData : MethodName := ⟨RJ24, "elementData", "(I)Ljava/lang/Object;"⟩
def dkwJ24_elementData_0 : List UInt8 := [42, 180, 0, 9, 27, 50, 176]
abbrev dktJ24_elementData_0 : List UInt8 := dkwJ24_elementData_0 ++ []
theorem dksJ24_elementData_0 : cJ24_elementData.data.toList.drop 0 = dktJ24_elementData_0 := sorry
theorem dJ24_elementData_0 : decode cJ24_elementData 0 = .ok (.aload_n 0, 1) := sorry
theorem dJ24_elementData_1 : decode cJ24_elementData 1 = .ok (.getfield 9, 3) := sorry
theorem dJ24_elementData_4 : decode cJ24_elementData 4 = .ok (.iload_n 1, 1) := sorry
theorem dJ24_elementData_5 : decode cJ24_elementData 5 = .ok (.aaload, 1) := sorry
theorem dJ24_elementData_6 : decode cJ24_elementData 6 = .ok (.areturn, 1) := sorry
abbrev cJ24_init : ByteArray := prog_49_method_2_code
def yJ24_init : MethodName := ⟨RJ24, "<init>", "()V"⟩
def dkwJ24_init_0 : List UInt8 := [42, 183, 0, 1, 42, 178, 0, 39, 181, 0, 9, 177]
abbrev dktJ24_init_0 : List UInt8 := dkwJ24_init_0 ++ []
theorem dksJ24_init_0 : cJ24_init.data.toList.drop 0 = dktJ24_init_0 := sorry
theorem dJ24_init_0 : decode cJ24_init 0 = .ok (.aload_n 0, 1) := sorry
theorem dJ24_init_1 : decode cJ24_init 1 = .ok (.invokespecial 1, 3) := sorry
theorem dJ24_init_4 : decode cJ24_init 4 = .ok (.aload_n 0, 1) := sorry
theorem dJ24_init_5 : decode cJ24_init 5 = .ok (.getstatic 39, 3) := sorry
theorem dJ24_init_8 : decode cJ24_init 8 = .ok (.putfield 9, 3) := sorry
theorem dJ24_init_11 : decode cJ24_init 11 = .ok (.return_, 1) := sorry
abbrev cJ24_add : ByteArray := prog_49_method_25_code
def yJ24_add : MethodName := ⟨RJ24, "add", "(Ljava/lang/Object;)Z"⟩
def dkwJ24_add_1 : List UInt8 := [172]
abbrev dktJ24_add_1 : List UInt8 := dkwJ24_add_1 ++ []
def dkwJ24_add_0 : List UInt8 := [42, 89, 180, 0, 63, 4, 96, 181, 0, 63, 42, 43, 42, 180, 0, 9, 42, 180, 0, 48, 182, 0, 131, 4]
abbrev dktJ24_add_0 : List UInt8 := dkwJ24_add_0 ++ dktJ24_add_1
theorem dksJ24_add_0 : cJ24_add.data.toList.drop 0 = dktJ24_add_0 := sorry
theorem dksJ24_add_1 : cJ24_add.data.toList.drop 24 = dktJ24_add_1 := sorry
theorem dJ24_add_0 : decode cJ24_add 0 = .ok (.aload_n 0, 1) := sorry
theorem dJ24_add_1 : decode cJ24_add 1 = .ok (.dup, 1) := sorry
theorem dJ24_add_2 : decode cJ24_add 2 = .ok (.getfield 63, 3) := sorry
theorem dJ24_add_5 : decode cJ24_add 5 = .ok (.iconst 1, 1) := sorry
theorem dJ24_add_6 : decode cJ24_add 6 = .ok (.iadd, 1) := sorry
theorem dJ24_add_7 : decode cJ24_add 7 = .ok (.putfield 63, 3) := sorry
theorem dJ24_add_10 : decode cJ24_add 10 = .ok (.aload_n 0, 1) := sorry
theorem dJ24_add_11 : decode cJ24_add 11 = .ok (.aload_n 1, 1) := sorry
theorem dJ24_add_12 : decode cJ24_add 12 = .ok (.aload_n 0, 1) := sorry
theorem dJ24_add_13 : decode cJ24_add 13 = .ok (.getfield 9, 3) := sorry
theorem dJ24_add_16 : decode cJ24_add 16 = .ok (.aload_n 0, 1) := sorry
theorem dJ24_add_17 : decode cJ24_add 17 = .ok (.getfield 48, 3) := sorry
theorem dJ24_add_20 : decode cJ24_add 20 = .ok (.invokevirtual 131, 3) := sorry
theorem dJ24_add_23 : decode cJ24_add 23 = .ok (.iconst 1, 1) := sorry
theorem dJ24_add_24 : decode cJ24_add 24 = .ok (.ireturn, 1) := sorry
abbrev cJ24_add_2 : ByteArray := prog_49_method_24_code
def yJ24_add_2 : MethodName := ⟨RJ24, "add", "(Ljava/lang/Object;[Ljava/lang/Object;I)V"⟩
def dkwJ24_add_2_0 : List UInt8 := [29, 44, 190, 160, 0, 8, 42, 182, 0, 129, 77, 44, 29, 43, 83, 42, 29, 4, 96, 181, 0, 48, 177]
abbrev dktJ24_add_2_0 : List UInt8 := dkwJ24_add_2_0 ++ []
theorem dksJ24_add_2_0 : cJ24_add_2.data.toList.drop 0 = dktJ24_add_2_0 := sorry
theorem dJ24_add_2_0 : decode cJ24_add_2 0 = .ok (.iload_n 3, 1) := sorry
theorem dJ24_add_2_1 : decode cJ24_add_2 1 = .ok (.aload_n 2, 1) := sorry
theorem dJ24_add_2_2 : decode cJ24_add_2 2 = .ok (.arraylength, 1) := sorry
theorem dJ24_add_2_3 : decode cJ24_add_2 3 = .ok (.if_icmp .ne 8, 3) := sorry
theorem dJ24_add_2_6 : decode cJ24_add_2 6 = .ok (.aload_n 0, 1) := sorry
theorem dJ24_add_2_7 : decode cJ24_add_2 7 = .ok (.invokevirtual 129, 3) := sorry
theorem dJ24_add_2_10 : decode cJ24_add_2 10 = .ok (.astore_n 2, 1) := sorry
theorem dJ24_add_2_11 : decode cJ24_add_2 11 = .ok (.aload_n 2, 1) := sorry
theorem dJ24_add_2_12 : decode cJ24_add_2 12 = .ok (.iload_n 3, 1) := sorry
theorem dJ24_add_2_13 : decode cJ24_add_2 13 = .ok (.aload_n 1, 1) := sorry
theorem dJ24_add_2_14 : decode cJ24_add_2 14 = .ok (.aastore, 1) := sorry
theorem dJ24_add_2_15 : decode cJ24_add_2 15 = .ok (.aload_n 0, 1) := sorry
theorem dJ24_add_2_16 : decode cJ24_add_2 16 = .ok (.iload_n 3, 1) := sorry
theorem dJ24_add_2_17 : decode cJ24_add_2 17 = .ok (.iconst 1, 1) := sorry
theorem dJ24_add_2_18 : decode cJ24_add_2 18 = .ok (.iadd, 1) := sorry
theorem dJ24_add_2_19 : decode cJ24_add_2 19 = .ok (.putfield 48, 3) := sorry
theorem dJ24_add_2_22 : decode cJ24_add_2 22 = .ok (.return_, 1) := sorry
abbrev cJ24_grow : ByteArray := prog_49_method_7_code
def yJ24_grow : MethodName := ⟨RJ24, "grow", "()[Ljava/lang/Object;"⟩
def dkwJ24_grow_0 : List UInt8 := [42, 42, 180, 0, 48, 4, 96, 182, 0, 69, 176]
abbrev dktJ24_grow_0 : List UInt8 := dkwJ24_grow_0 ++ []
theorem dksJ24_grow_0 : cJ24_grow.data.toList.drop 0 = dktJ24_grow_0 := sorry
theorem dJ24_grow_0 : decode cJ24_grow 0 = .ok (.aload_n 0, 1) := sorry
theorem dJ24_grow_1 : decode cJ24_grow 1 = .ok (.aload_n 0, 1) := sorry
theorem dJ24_grow_2 : decode cJ24_grow 2 = .ok (.getfield 48, 3) := sorry
theorem dJ24_grow_5 : decode cJ24_grow 5 = .ok (.iconst 1, 1) := sorry
theorem dJ24_grow_6 : decode cJ24_grow 6 = .ok (.iadd, 1) := sorry
theorem dJ24_grow_7 : decode cJ24_grow 7 = .ok (.invokevirtual 69, 3) := sorry
theorem dJ24_grow_10 : decode cJ24_grow 10 = .ok (.areturn, 1) := sorry
abbrev cJ24_grow_2 : ByteArray := prog_49_method_6_code
def yJ24_grow_2 : MethodName := ⟨RJ24, "grow", "(I)[Ljava/lang/Object;"⟩
def dkwJ24_grow_2_2 : List UInt8 := [27, 184, 0, 79, 189, 0, 7, 90, 181, 0, 9, 176]
abbrev dktJ24_grow_2_2 : List UInt8 := dkwJ24_grow_2_2 ++ []
def dkwJ24_grow_2_1 : List UInt8 := [28, 4, 122, 184, 0, 73, 62, 42, 42, 180, 0, 9, 29, 184, 0, 66, 90, 181, 0, 9, 176, 42, 16, 10]
abbrev dktJ24_grow_2_1 : List UInt8 := dkwJ24_grow_2_1 ++ dktJ24_grow_2_2
def dkwJ24_grow_2_0 : List UInt8 := [42, 180, 0, 9, 190, 61, 28, 157, 0, 13, 42, 180, 0, 9, 178, 0, 39, 165, 0, 28, 28, 27, 28, 100]
abbrev dktJ24_grow_2_0 : List UInt8 := dkwJ24_grow_2_0 ++ dktJ24_grow_2_1
theorem dksJ24_grow_2_0 : cJ24_grow_2.data.toList.drop 0 = dktJ24_grow_2_0 := sorry
theorem dksJ24_grow_2_1 : cJ24_grow_2.data.toList.drop 24 = dktJ24_grow_2_1 := sorry
theorem dksJ24_grow_2_2 : cJ24_grow_2.data.toList.drop 48 = dktJ24_grow_2_2 := sorry
theorem dJ24_grow_2_0 : decode cJ24_grow_2 0 = .ok (.aload_n 0, 1) := sorry
theorem dJ24_grow_2_1 : decode cJ24_grow_2 1 = .ok (.getfield 9, 3) := sorry
theorem dJ24_grow_2_4 : decode cJ24_grow_2 4 = .ok (.arraylength, 1) := sorry
theorem dJ24_grow_2_5 : decode cJ24_grow_2 5 = .ok (.istore_n 2, 1) := sorry
theorem dJ24_grow_2_6 : decode cJ24_grow_2 6 = .ok (.iload_n 2, 1) := sorry
theorem dJ24_grow_2_7 : decode cJ24_grow_2 7 = .ok (.ifCond .gt 13, 3) := sorry
theorem dJ24_grow_2_10 : decode cJ24_grow_2 10 = .ok (.aload_n 0, 1) := sorry
theorem dJ24_grow_2_11 : decode cJ24_grow_2 11 = .ok (.getfield 9, 3) := sorry
theorem dJ24_grow_2_14 : decode cJ24_grow_2 14 = .ok (.getstatic 39, 3) := sorry
theorem dJ24_grow_2_17 : decode cJ24_grow_2 17 = .ok (.if_acmp .eq 28, 3) := sorry
theorem dJ24_grow_2_20 : decode cJ24_grow_2 20 = .ok (.iload_n 2, 1) := sorry
theorem dJ24_grow_2_21 : decode cJ24_grow_2 21 = .ok (.iload_n 1, 1) := sorry
theorem dJ24_grow_2_22 : decode cJ24_grow_2 22 = .ok (.iload_n 2, 1) := sorry
theorem dJ24_grow_2_23 : decode cJ24_grow_2 23 = .ok (.isub, 1) := sorry
theorem dJ24_grow_2_24 : decode cJ24_grow_2 24 = .ok (.iload_n 2, 1) := sorry
theorem dJ24_grow_2_25 : decode cJ24_grow_2 25 = .ok (.iconst 1, 1) := sorry
theorem dJ24_grow_2_26 : decode cJ24_grow_2 26 = .ok (.ishr, 1) := sorry
theorem dJ24_grow_2_27 : decode cJ24_grow_2 27 = .ok (.invokestatic 73, 3) := sorry
theorem dJ24_grow_2_30 : decode cJ24_grow_2 30 = .ok (.istore_n 3, 1) := sorry
theorem dJ24_grow_2_31 : decode cJ24_grow_2 31 = .ok (.aload_n 0, 1) := sorry
theorem dJ24_grow_2_32 : decode cJ24_grow_2 32 = .ok (.aload_n 0, 1) := sorry
theorem dJ24_grow_2_33 : decode cJ24_grow_2 33 = .ok (.getfield 9, 3) := sorry
theorem dJ24_grow_2_36 : decode cJ24_grow_2 36 = .ok (.iload_n 3, 1) := sorry
theorem dJ24_grow_2_37 : decode cJ24_grow_2 37 = .ok (.invokestatic 66, 3) := sorry
theorem dJ24_grow_2_40 : decode cJ24_grow_2 40 = .ok (.dup_x1, 1) := sorry
theorem dJ24_grow_2_41 : decode cJ24_grow_2 41 = .ok (.putfield 9, 3) := sorry
theorem dJ24_grow_2_44 : decode cJ24_grow_2 44 = .ok (.areturn, 1) := sorry
theorem dJ24_grow_2_45 : decode cJ24_grow_2 45 = .ok (.aload_n 0, 1) := sorry
theorem dJ24_grow_2_46 : decode cJ24_grow_2 46 = .ok (.bipush 10, 2) := sorry
theorem dJ24_grow_2_48 : decode cJ24_grow_2 48 = .ok (.iload_n 1, 1) := sorry
theorem dJ24_grow_2_49 : decode cJ24_grow_2 49 = .ok (.invokestatic 79, 3) := sorry
theorem dJ24_grow_2_52 : decode cJ24_grow_2 52 = .ok (.anewarray 7, 3) := sorry
theorem dJ24_grow_2_55 : decode cJ24_grow_2 55 = .ok (.dup_x1, 1) := sorry
theorem dJ24_grow_2_56 : decode cJ24_grow_2 56 = .ok (.putfield 9, 3) := sorry
theorem dJ24_grow_2_59 : decode cJ24_grow_2 59 = .ok (.areturn, 1) := sorry
abbrev cJ24_remove : ByteArray := prog_49_method_29_code
def yJ24_remove : MethodName := ⟨RJ24, "remove", "(I)Ljava/lang/Object;"⟩
def dkwJ24_remove_1 : List UInt8 := [45, 176]
abbrev dktJ24_remove_1 : List UInt8 := dkwJ24_remove_1 ++ []
def dkwJ24_remove_0 : List UInt8 := [27, 42, 180, 0, 48, 184, 0, 118, 87, 42, 180, 0, 9, 77, 44, 27, 50, 78, 42, 44, 27, 182, 0, 144]
abbrev dktJ24_remove_0 : List UInt8 := dkwJ24_remove_0 ++ dktJ24_remove_1
theorem dksJ24_remove_0 : cJ24_remove.data.toList.drop 0 = dktJ24_remove_0 := sorry
theorem dksJ24_remove_1 : cJ24_remove.data.toList.drop 24 = dktJ24_remove_1 := sorry
theorem dJ24_remove_0 : decode cJ24_remove 0 = .ok (.iload_n 1, 1) := sorry
theorem dJ24_remove_1 : decode cJ24_remove 1 = .ok (.aload_n 0, 1) := sorry
theorem dJ24_remove_2 : decode cJ24_remove 2 = .ok (.getfield 48, 3) := sorry
theorem dJ24_remove_5 : decode cJ24_remove 5 = .ok (.invokestatic 118, 3) := sorry
theorem dJ24_remove_8 : decode cJ24_remove 8 = .ok (.pop, 1) := sorry
theorem dJ24_remove_9 : decode cJ24_remove 9 = .ok (.aload_n 0, 1) := sorry
theorem dJ24_remove_10 : decode cJ24_remove 10 = .ok (.getfield 9, 3) := sorry
theorem dJ24_remove_13 : decode cJ24_remove 13 = .ok (.astore_n 2, 1) := sorry
theorem dJ24_remove_14 : decode cJ24_remove 14 = .ok (.aload_n 2, 1) := sorry
theorem dJ24_remove_15 : decode cJ24_remove 15 = .ok (.iload_n 1, 1) := sorry
theorem dJ24_remove_16 : decode cJ24_remove 16 = .ok (.aaload, 1) := sorry
theorem dJ24_remove_17 : decode cJ24_remove 17 = .ok (.astore_n 3, 1) := sorry
theorem dJ24_remove_18 : decode cJ24_remove 18 = .ok (.aload_n 0, 1) := sorry
theorem dJ24_remove_19 : decode cJ24_remove 19 = .ok (.aload_n 2, 1) := sorry
theorem dJ24_remove_20 : decode cJ24_remove 20 = .ok (.iload_n 1, 1) := sorry
theorem dJ24_remove_21 : decode cJ24_remove 21 = .ok (.invokevirtual 144, 3) := sorry
theorem dJ24_remove_24 : decode cJ24_remove 24 = .ok (.aload_n 3, 1) := sorry
theorem dJ24_remove_25 : decode cJ24_remove 25 = .ok (.areturn, 1) := sorry
abbrev cJ24_fastRemove : ByteArray := prog_49_method_39_code
def yJ24_fastRemove : MethodName := ⟨RJ24, "fastRemove", "([Ljava/lang/Object;I)V"⟩
def dkwJ24_fastRemove_1 : List UInt8 := [4, 96, 43, 28, 29, 28, 100, 184, 0, 112, 43, 42, 29, 90, 181, 0, 48, 1, 83, 177]
abbrev dktJ24_fastRemove_1 : List UInt8 := dkwJ24_fastRemove_1 ++ []
def dkwJ24_fastRemove_0 : List UInt8 := [42, 89, 180, 0, 63, 4, 96, 181, 0, 63, 42, 180, 0, 48, 4, 100, 89, 62, 28, 164, 0, 15, 43, 28]
abbrev dktJ24_fastRemove_0 : List UInt8 := dkwJ24_fastRemove_0 ++ dktJ24_fastRemove_1
theorem dksJ24_fastRemove_0 : cJ24_fastRemove.data.toList.drop 0 = dktJ24_fastRemove_0 := sorry
theorem dksJ24_fastRemove_1 : cJ24_fastRemove.data.toList.drop 24 = dktJ24_fastRemove_1 := sorry
theorem dJ24_fastRemove_0 : decode cJ24_fastRemove 0 = .ok (.aload_n 0, 1) := sorry
theorem dJ24_fastRemove_1 : decode cJ24_fastRemove 1 = .ok (.dup, 1) := sorry
theorem dJ24_fastRemove_2 : decode cJ24_fastRemove 2 = .ok (.getfield 63, 3) := sorry
theorem dJ24_fastRemove_5 : decode cJ24_fastRemove 5 = .ok (.iconst 1, 1) := sorry
theorem dJ24_fastRemove_6 : decode cJ24_fastRemove 6 = .ok (.iadd, 1) := sorry
theorem dJ24_fastRemove_7 : decode cJ24_fastRemove 7 = .ok (.putfield 63, 3) := sorry
theorem dJ24_fastRemove_10 : decode cJ24_fastRemove 10 = .ok (.aload_n 0, 1) := sorry
theorem dJ24_fastRemove_11 : decode cJ24_fastRemove 11 = .ok (.getfield 48, 3) := sorry
theorem dJ24_fastRemove_14 : decode cJ24_fastRemove 14 = .ok (.iconst 1, 1) := sorry
theorem dJ24_fastRemove_15 : decode cJ24_fastRemove 15 = .ok (.isub, 1) := sorry
theorem dJ24_fastRemove_16 : decode cJ24_fastRemove 16 = .ok (.dup, 1) := sorry
theorem dJ24_fastRemove_17 : decode cJ24_fastRemove 17 = .ok (.istore_n 3, 1) := sorry
theorem dJ24_fastRemove_18 : decode cJ24_fastRemove 18 = .ok (.iload_n 2, 1) := sorry
theorem dJ24_fastRemove_19 : decode cJ24_fastRemove 19 = .ok (.if_icmp .le 15, 3) := sorry
theorem dJ24_fastRemove_22 : decode cJ24_fastRemove 22 = .ok (.aload_n 1, 1) := sorry
theorem dJ24_fastRemove_23 : decode cJ24_fastRemove 23 = .ok (.iload_n 2, 1) := sorry
theorem dJ24_fastRemove_24 : decode cJ24_fastRemove 24 = .ok (.iconst 1, 1) := sorry
theorem dJ24_fastRemove_25 : decode cJ24_fastRemove 25 = .ok (.iadd, 1) := sorry
theorem dJ24_fastRemove_26 : decode cJ24_fastRemove 26 = .ok (.aload_n 1, 1) := sorry
theorem dJ24_fastRemove_27 : decode cJ24_fastRemove 27 = .ok (.iload_n 2, 1) := sorry
theorem dJ24_fastRemove_28 : decode cJ24_fastRemove 28 = .ok (.iload_n 3, 1) := sorry
theorem dJ24_fastRemove_29 : decode cJ24_fastRemove 29 = .ok (.iload_n 2, 1) := sorry
theorem dJ24_fastRemove_30 : decode cJ24_fastRemove 30 = .ok (.isub, 1) := sorry
theorem dJ24_fastRemove_31 : decode cJ24_fastRemove 31 = .ok (.invokestatic 112, 3) := sorry
theorem dJ24_fastRemove_34 : decode cJ24_fastRemove 34 = .ok (.aload_n 1, 1) := sorry
theorem dJ24_fastRemove_35 : decode cJ24_fastRemove 35 = .ok (.aload_n 0, 1) := sorry
theorem dJ24_fastRemove_36 : decode cJ24_fastRemove 36 = .ok (.iload_n 3, 1) := sorry
theorem dJ24_fastRemove_37 : decode cJ24_fastRemove 37 = .ok (.dup_x1, 1) := sorry
theorem dJ24_fastRemove_38 : decode cJ24_fastRemove 38 = .ok (.putfield 48, 3) := sorry
theorem dJ24_fastRemove_41 : decode cJ24_fastRemove 41 = .ok (.aconst_null, 1) := sorry
theorem dJ24_fastRemove_42 : decode cJ24_fastRemove 42 = .ok (.aastore, 1) := sorry
theorem dJ24_fastRemove_43 : decode cJ24_fastRemove 43 = .ok (.return_, 1) := sorry
abbrev cJ24_indexOf : ByteArray := prog_49_method_11_code
def yJ24_indexOf : MethodName := ⟨RJ24, "indexOf", "(Ljava/lang/Object;)I"⟩
def dkwJ24_indexOf_0 : List UInt8 := [42, 43, 3, 42, 180, 0, 48, 182, 0, 89, 172]
abbrev dktJ24_indexOf_0 : List UInt8 := dkwJ24_indexOf_0 ++ []
theorem dksJ24_indexOf_0 : cJ24_indexOf.data.toList.drop 0 = dktJ24_indexOf_0 := sorry
theorem dJ24_indexOf_0 : decode cJ24_indexOf 0 = .ok (.aload_n 0, 1) := sorry
theorem dJ24_indexOf_1 : decode cJ24_indexOf 1 = .ok (.aload_n 1, 1) := sorry
theorem dJ24_indexOf_2 : decode cJ24_indexOf 2 = .ok (.iconst 0, 1) := sorry
theorem dJ24_indexOf_3 : decode cJ24_indexOf 3 = .ok (.aload_n 0, 1) := sorry
theorem dJ24_indexOf_4 : decode cJ24_indexOf 4 = .ok (.getfield 48, 3) := sorry
theorem dJ24_indexOf_7 : decode cJ24_indexOf 7 = .ok (.invokevirtual 89, 3) := sorry
theorem dJ24_indexOf_10 : decode cJ24_indexOf 10 = .ok (.ireturn, 1) := sorry
abbrev cJ24_indexOfRange : ByteArray := prog_49_method_12_code
def yJ24_indexOfRange : MethodName := ⟨RJ24, "indexOfRange", "(Ljava/lang/Object;II)I"⟩
def dkwJ24_indexOfRange_2 : List UInt8 := [43, 25, 4, 21, 5, 50, 182, 0, 93, 153, 0, 6, 21, 5, 172, 132, 5, 1, 167, 255, 232, 2, 172]
abbrev dktJ24_indexOfRange_2 : List UInt8 := dkwJ24_indexOfRange_2 ++ []
def dkwJ24_indexOfRange_1 : List UInt8 := [199, 0, 6, 21, 5, 172, 132, 5, 1, 167, 255, 236, 167, 0, 33, 28, 54, 5, 21, 5, 29, 162, 0, 24]
abbrev dktJ24_indexOfRange_1 : List UInt8 := dkwJ24_indexOfRange_1 ++ dktJ24_indexOfRange_2
def dkwJ24_indexOfRange_0 : List UInt8 := [42, 180, 0, 9, 58, 4, 43, 199, 0, 32, 28, 54, 5, 21, 5, 29, 162, 0, 20, 25, 4, 21, 5, 50]
abbrev dktJ24_indexOfRange_0 : List UInt8 := dkwJ24_indexOfRange_0 ++ dktJ24_indexOfRange_1
theorem dksJ24_indexOfRange_0 : cJ24_indexOfRange.data.toList.drop 0 = dktJ24_indexOfRange_0 := sorry
theorem dksJ24_indexOfRange_1 : cJ24_indexOfRange.data.toList.drop 24 = dktJ24_indexOfRange_1 := sorry
theorem dksJ24_indexOfRange_2 : cJ24_indexOfRange.data.toList.drop 48 = dktJ24_indexOfRange_2 := sorry
theorem dJ24_indexOfRange_0 : decode cJ24_indexOfRange 0 = .ok (.aload_n 0, 1) := sorry
theorem dJ24_indexOfRange_1 : decode cJ24_indexOfRange 1 = .ok (.getfield 9, 3) := sorry
theorem dJ24_indexOfRange_4 : decode cJ24_indexOfRange 4 = .ok (.astore 4, 2) := sorry
theorem dJ24_indexOfRange_6 : decode cJ24_indexOfRange 6 = .ok (.aload_n 1, 1) := sorry
theorem dJ24_indexOfRange_7 : decode cJ24_indexOfRange 7 = .ok (.ifnonnull 32, 3) := sorry
theorem dJ24_indexOfRange_10 : decode cJ24_indexOfRange 10 = .ok (.iload_n 2, 1) := sorry
theorem dJ24_indexOfRange_11 : decode cJ24_indexOfRange 11 = .ok (.istore 5, 2) := sorry
theorem dJ24_indexOfRange_13 : decode cJ24_indexOfRange 13 = .ok (.iload 5, 2) := sorry
theorem dJ24_indexOfRange_15 : decode cJ24_indexOfRange 15 = .ok (.iload_n 3, 1) := sorry
theorem dJ24_indexOfRange_16 : decode cJ24_indexOfRange 16 = .ok (.if_icmp .ge 20, 3) := sorry
theorem dJ24_indexOfRange_19 : decode cJ24_indexOfRange 19 = .ok (.aload 4, 2) := sorry
theorem dJ24_indexOfRange_21 : decode cJ24_indexOfRange 21 = .ok (.iload 5, 2) := sorry
theorem dJ24_indexOfRange_23 : decode cJ24_indexOfRange 23 = .ok (.aaload, 1) := sorry
theorem dJ24_indexOfRange_24 : decode cJ24_indexOfRange 24 = .ok (.ifnonnull 6, 3) := sorry
theorem dJ24_indexOfRange_27 : decode cJ24_indexOfRange 27 = .ok (.iload 5, 2) := sorry
theorem dJ24_indexOfRange_29 : decode cJ24_indexOfRange 29 = .ok (.ireturn, 1) := sorry
theorem dJ24_indexOfRange_30 : decode cJ24_indexOfRange 30 = .ok (.iinc 5 1, 3) := sorry
theorem dJ24_indexOfRange_33 : decode cJ24_indexOfRange 33 = .ok (.goto (-20), 3) := sorry
theorem dJ24_indexOfRange_36 : decode cJ24_indexOfRange 36 = .ok (.goto 33, 3) := sorry
theorem dJ24_indexOfRange_39 : decode cJ24_indexOfRange 39 = .ok (.iload_n 2, 1) := sorry
theorem dJ24_indexOfRange_40 : decode cJ24_indexOfRange 40 = .ok (.istore 5, 2) := sorry
theorem dJ24_indexOfRange_42 : decode cJ24_indexOfRange 42 = .ok (.iload 5, 2) := sorry
theorem dJ24_indexOfRange_44 : decode cJ24_indexOfRange 44 = .ok (.iload_n 3, 1) := sorry
theorem dJ24_indexOfRange_45 : decode cJ24_indexOfRange 45 = .ok (.if_icmp .ge 24, 3) := sorry
theorem dJ24_indexOfRange_48 : decode cJ24_indexOfRange 48 = .ok (.aload_n 1, 1) := sorry
theorem dJ24_indexOfRange_49 : decode cJ24_indexOfRange 49 = .ok (.aload 4, 2) := sorry
theorem dJ24_indexOfRange_51 : decode cJ24_indexOfRange 51 = .ok (.iload 5, 2) := sorry
theorem dJ24_indexOfRange_53 : decode cJ24_indexOfRange 53 = .ok (.aaload, 1) := sorry
theorem dJ24_indexOfRange_54 : decode cJ24_indexOfRange 54 = .ok (.invokevirtual 93, 3) := sorry
theorem dJ24_indexOfRange_57 : decode cJ24_indexOfRange 57 = .ok (.ifCond .eq 6, 3) := sorry
theorem dJ24_indexOfRange_60 : decode cJ24_indexOfRange 60 = .ok (.iload 5, 2) := sorry
theorem dJ24_indexOfRange_62 : decode cJ24_indexOfRange 62 = .ok (.ireturn, 1) := sorry
theorem dJ24_indexOfRange_63 : decode cJ24_indexOfRange 63 = .ok (.iinc 5 1, 3) := sorry
theorem dJ24_indexOfRange_66 : decode cJ24_indexOfRange 66 = .ok (.goto (-24), 3) := sorry
theorem dJ24_indexOfRange_69 : decode cJ24_indexOfRange 69 = .ok (.iconst (-1), 1) := sorry
theorem dJ24_indexOfRange_70 : decode cJ24_indexOfRange 70 = .ok (.ireturn, 1) := sorry
theorem q162 : (Jvm.Cond.initialized "java/util/ArrayList") ∈ lw_all := sorry
theorem q224 : (Jvm.Cond.sameField "java/util/ArrayList" "java/util/AbstractList" "modCount" "I") ∈ lw_all := sorry
theorem q227 : (Jvm.Cond.fieldLink "java/util/ArrayList" (63 : Nat) "java/util/ArrayList" "modCount" "I") ∈ lw_all := sorry
theorem q343 : (Jvm.Cond.selects "java/util/ArrayList" ({ cls := "java/util/AbstractList", name := "listIterator", desc := "(I)Ljava/util/ListIterator;" } : Jvm.MethodName) ({ cls := "java/util/ArrayList", name := "listIterator", desc := "(I)Ljava/util/ListIterator;" } : Jvm.MethodName)) ∈ lw_all := sorry
theorem q344 : (Jvm.Cond.instanceMethod ({ cls := "java/util/ArrayList", name := "listIterator", desc := "(I)Ljava/util/ListIterator;" } : Jvm.MethodName)) ∈ lw_all := sorry
theorem q345 : (Jvm.Cond.code ({ cls := "java/util/ArrayList", name := "listIterator", desc := "(I)Ljava/util/ListIterator;" } : Jvm.MethodName) prog_49_method_53_code (2 : Nat) (Option.some (Jvm.ClassFile.FieldType.object "java/util/ListIterator"))) ∈ lw_all := sorry
theorem q346 : (Jvm.Cond.methodLink "java/util/ArrayList" (135 : Nat) ({ cls := "java/util/ArrayList", name := "rangeCheckForAdd", desc := "(I)V" } : Jvm.MethodName)) ∈ lw_all := sorry
theorem q347 : (Jvm.Cond.privateMethod ({ cls := "java/util/ArrayList", name := "rangeCheckForAdd", desc := "(I)V" } : Jvm.MethodName)) ∈ lw_tbl := sorry
theorem q348 : (Jvm.Cond.instanceMethod ({ cls := "java/util/ArrayList", name := "rangeCheckForAdd", desc := "(I)V" } : Jvm.MethodName)) ∈ lw_all := sorry
theorem q349 : (Jvm.Cond.instantiable "java/util/ArrayList" (3 : Nat)) ∈ lw_all := sorry
theorem q350 : (Jvm.Cond.code ({ cls := "java/util/ArrayList", name := "rangeCheckForAdd", desc := "(I)V" } : Jvm.MethodName) prog_49_method_45_code (2 : Nat) (Option.none : Option Jvm.ClassFile.FieldType)) ∈ lw_all := sorry
theorem q351 : (Jvm.Cond.classLink "java/util/ArrayList" (262 : Nat) "java/util/ArrayList$ListItr") ∈ lw_all := sorry
theorem q353 : (Jvm.Cond.methodLink "java/util/ArrayList" (264 : Nat) ({ cls := "java/util/ArrayList$ListItr", name := "<init>", desc := "(Ljava/util/ArrayList;I)V" } : Jvm.MethodName)) ∈ lw_all := sorry
theorem q429 : (Jvm.Cond.selects "java/util/ArrayList" ({ cls := "java/util/AbstractList", name := "size", desc := "()I" } : Jvm.MethodName) ({ cls := "java/util/ArrayList", name := "size", desc := "()I" } : Jvm.MethodName)) ∈ lw_all := sorry
theorem q430 : (Jvm.Cond.instanceMethod ({ cls := "java/util/ArrayList", name := "size", desc := "()I" } : Jvm.MethodName)) ∈ lw_all := sorry
theorem q431 : (Jvm.Cond.code ({ cls := "java/util/ArrayList", name := "size", desc := "()I" } : Jvm.MethodName) prog_49_method_8_code (1 : Nat) (Option.some Jvm.ClassFile.FieldType.int)) ∈ lw_all := sorry
theorem q464 : (Jvm.Cond.selects "java/util/ArrayList" ({ cls := "java/util/AbstractList", name := "get", desc := "(I)Ljava/lang/Object;" } : Jvm.MethodName) ({ cls := "java/util/ArrayList", name := "get", desc := "(I)Ljava/lang/Object;" } : Jvm.MethodName)) ∈ lw_all := sorry
theorem q465 : (Jvm.Cond.instanceMethod ({ cls := "java/util/ArrayList", name := "get", desc := "(I)Ljava/lang/Object;" } : Jvm.MethodName)) ∈ lw_all := sorry
theorem q466 : (Jvm.Cond.code ({ cls := "java/util/ArrayList", name := "get", desc := "(I)Ljava/lang/Object;" } : Jvm.MethodName) prog_49_method_20_code (2 : Nat) (Option.some (Jvm.ClassFile.FieldType.object "java/lang/Object"))) ∈ lw_all := sorry
theorem q467 : (Jvm.Cond.methodLink "java/util/ArrayList" (118 : Nat) ({ cls := "java/util/Objects", name := "checkIndex", desc := "(II)I" } : Jvm.MethodName)) ∈ lw_all := sorry
theorem q473 : (Jvm.Cond.methodLink "java/util/ArrayList" (123 : Nat) ({ cls := "java/util/ArrayList", name := "elementData", desc := "(I)Ljava/lang/Object;" } : Jvm.MethodName)) ∈ lw_all := sorry
theorem q474 : (Jvm.Cond.instanceMethod ({ cls := "java/util/ArrayList", name := "elementData", desc := "(I)Ljava/lang/Object;" } : Jvm.MethodName)) ∈ lw_all := sorry
theorem q475 : (Jvm.Cond.selects "java/util/ArrayList" ({ cls := "java/util/ArrayList", name := "elementData", desc := "(I)Ljava/lang/Object;" } : Jvm.MethodName) ({ cls := "java/util/ArrayList", name := "elementData", desc := "(I)Ljava/lang/Object;" } : Jvm.MethodName)) ∈ lw_all := sorry
theorem q476 : (Jvm.Cond.code ({ cls := "java/util/ArrayList", name := "elementData", desc := "(I)Ljava/lang/Object;" } : Jvm.MethodName) prog_49_method_18_code (2 : Nat) (Option.some (Jvm.ClassFile.FieldType.object "java/lang/Object"))) ∈ lw_all := sorry
theorem q577 : (Jvm.Cond.selects "java/util/ArrayList" ({ cls := "java/lang/Object", name := "getClass", desc := "()Ljava/lang/Class;" } : Jvm.MethodName) ({ cls := "java/lang/Object", name := "getClass", desc := "()Ljava/lang/Class;" } : Jvm.MethodName)) ∈ lw_all := sorry
theorem q963 : (Jvm.Cond.instanceMethod ({ cls := "java/util/ArrayList", name := "<init>", desc := "()V" } : Jvm.MethodName)) ∈ lw_all := sorry
theorem q964 : (Jvm.Cond.code ({ cls := "java/util/ArrayList", name := "<init>", desc := "()V" } : Jvm.MethodName) prog_49_method_2_code (1 : Nat) (Option.none : Option Jvm.ClassFile.FieldType)) ∈ lw_all := sorry
theorem q965 : (Jvm.Cond.methodLink "java/util/ArrayList" (1 : Nat) ({ cls := "java/util/AbstractList", name := "<init>", desc := "()V" } : Jvm.MethodName)) ∈ lw_all := sorry
theorem q966 : (Jvm.Cond.fieldLink "java/util/ArrayList" (39 : Nat) "java/util/ArrayList" "DEFAULTCAPACITY_EMPTY_ELEMENTDATA" "[Ljava/lang/Object;") ∈ lw_all := lw_g (lw_at lw_m4 117 rfl) rfl
theorem q967 : (Jvm.Cond.laysStatic "java/util/ArrayList" "DEFAULTCAPACITY_EMPTY_ELEMENTDATA" "[Ljava/lang/Object;") ∈ lw_tbl := lw_at lw_m4 118 rfl
theorem q968 : (Jvm.Cond.fieldLink "java/util/ArrayList" (9 : Nat) "java/util/ArrayList" "elementData" "[Ljava/lang/Object;") ∈ lw_all := lw_g (lw_at lw_m4 119 rfl) rfl
theorem q971 : (Jvm.Cond.fieldLink "java/util/ArrayList" (48 : Nat) "java/util/ArrayList" "size" "I") ∈ lw_all := sorry
theorem q972 : (Jvm.Cond.lays "java/util/ArrayList" "java/util/ArrayList" "elementData" "[Ljava/lang/Object;") ∈ lw_all := lw_g (lw_at lw_m4 123 rfl) rfl
theorem q973 : (Jvm.Cond.soleField "java/util/ArrayList" "elementData") ∈ lw_all := sorry
theorem q974 : (Jvm.Cond.lays "java/util/ArrayList" "java/util/ArrayList" "size" "I") ∈ lw_all := sorry
theorem q975 : (Jvm.Cond.soleField "java/util/ArrayList" "size") ∈ lw_all := sorry
theorem q976 : (Jvm.Cond.lays "java/util/ArrayList" "java/util/AbstractList" "modCount" "I") ∈ lw_all := sorry
theorem q977 : (Jvm.Cond.superclass "java/util/ArrayList" "java/util/AbstractList") ∈ lw_all := sorry
theorem q981 : (Jvm.Cond.instanceMethod ({ cls := "java/util/ArrayList", name := "add", desc := "(Ljava/lang/Object;)Z" } : Jvm.MethodName)) ∈ lw_all := sorry
theorem q982 : (Jvm.Cond.selects "java/util/ArrayList" ({ cls := "java/util/ArrayList", name := "add", desc := "(Ljava/lang/Object;)Z" } : Jvm.MethodName) ({ cls := "java/util/ArrayList", name := "add", desc := "(Ljava/lang/Object;)Z" } : Jvm.MethodName)) ∈ lw_all := sorry
theorem q983 : (Jvm.Cond.code ({ cls := "java/util/ArrayList", name := "add", desc := "(Ljava/lang/Object;)Z" } : Jvm.MethodName) prog_49_method_25_code (2 : Nat) (Option.some Jvm.ClassFile.FieldType.boolean)) ∈ lw_all := sorry
theorem q984 : (Jvm.Cond.methodLink "java/util/ArrayList" (131 : Nat) ({ cls := "java/util/ArrayList", name := "add", desc := "(Ljava/lang/Object;[Ljava/lang/Object;I)V" } : Jvm.MethodName)) ∈ lw_all := lw_g (lw_at lw_m4 135 rfl) rfl
theorem q985 : (Jvm.Cond.privateMethod ({ cls := "java/util/ArrayList", name := "add", desc := "(Ljava/lang/Object;[Ljava/lang/Object;I)V" } : Jvm.MethodName)) ∈ lw_tbl := lw_at lw_m4 136 rfl
theorem q986 : (Jvm.Cond.instanceMethod ({ cls := "java/util/ArrayList", name := "add", desc := "(Ljava/lang/Object;[Ljava/lang/Object;I)V" } : Jvm.MethodName)) ∈ lw_all := lw_g (lw_at lw_m4 137 rfl) rfl
theorem q987 : (Jvm.Cond.code ({ cls := "java/util/ArrayList", name := "add", desc := "(Ljava/lang/Object;[Ljava/lang/Object;I)V" } : Jvm.MethodName) prog_49_method_24_code (4 : Nat) (Option.none : Option Jvm.ClassFile.FieldType)) ∈ lw_all := lw_g (lw_at lw_m4 138 rfl) rfl
theorem q988 : (Jvm.Cond.methodLink "java/util/ArrayList" (129 : Nat) ({ cls := "java/util/ArrayList", name := "grow", desc := "()[Ljava/lang/Object;" } : Jvm.MethodName)) ∈ lw_all := lw_g (lw_at lw_m4 139 rfl) rfl
theorem q989 : (Jvm.Cond.privateMethod ({ cls := "java/util/ArrayList", name := "grow", desc := "()[Ljava/lang/Object;" } : Jvm.MethodName)) ∈ lw_tbl := lw_at lw_m4 140 rfl
theorem q990 : (Jvm.Cond.instanceMethod ({ cls := "java/util/ArrayList", name := "grow", desc := "()[Ljava/lang/Object;" } : Jvm.MethodName)) ∈ lw_all := lw_g (lw_at lw_m4 141 rfl) rfl
theorem q991 : (Jvm.Cond.code ({ cls := "java/util/ArrayList", name := "grow", desc := "()[Ljava/lang/Object;" } : Jvm.MethodName) prog_49_method_7_code (1 : Nat) (Option.some (Jvm.ClassFile.FieldType.array (Jvm.ClassFile.FieldType.object "java/lang/Object")))) ∈ lw_all := lw_g (lw_at lw_m4 142 rfl) rfl
theorem q992 : (Jvm.Cond.methodLink "java/util/ArrayList" (69 : Nat) ({ cls := "java/util/ArrayList", name := "grow", desc := "(I)[Ljava/lang/Object;" } : Jvm.MethodName)) ∈ lw_all := lw_g (lw_at lw_m4 143 rfl) rfl
theorem q993 : (Jvm.Cond.privateMethod ({ cls := "java/util/ArrayList", name := "grow", desc := "(I)[Ljava/lang/Object;" } : Jvm.MethodName)) ∈ lw_tbl := lw_at lw_m4 144 rfl
theorem q994 : (Jvm.Cond.instanceMethod ({ cls := "java/util/ArrayList", name := "grow", desc := "(I)[Ljava/lang/Object;" } : Jvm.MethodName)) ∈ lw_all := lw_g (lw_at lw_m4 145 rfl) rfl
theorem q995 : (Jvm.Cond.code ({ cls := "java/util/ArrayList", name := "grow", desc := "(I)[Ljava/lang/Object;" } : Jvm.MethodName) prog_49_method_6_code (4 : Nat) (Option.some (Jvm.ClassFile.FieldType.array (Jvm.ClassFile.FieldType.object "java/lang/Object")))) ∈ lw_all := lw_g (lw_at lw_m4 146 rfl) rfl
theorem q996 : (Jvm.Cond.methodLink "java/util/ArrayList" (73 : Nat) ({ cls := "jdk/internal/util/ArraysSupport", name := "newLength", desc := "(III)I" } : Jvm.MethodName)) ∈ lw_all := sorry
theorem q997 : (Jvm.Cond.methodLink "java/util/ArrayList" (66 : Nat) ({ cls := "java/util/Arrays", name := "copyOf", desc := "([Ljava/lang/Object;I)[Ljava/lang/Object;" } : Jvm.MethodName)) ∈ lw_all := lw_g (lw_at lw_m4 148 rfl) rfl
theorem q1007 : (Jvm.Cond.methodLink "java/util/ArrayList" (79 : Nat) ({ cls := "java/lang/Math", name := "max", desc := "(II)I" } : Jvm.MethodName)) ∈ lw_all := sorry
theorem q1008 : (Jvm.Cond.classLink "java/util/ArrayList" (7 : Nat) "java/lang/Object") ∈ lw_all := sorry
theorem q2126 : (Jvm.Cond.selects "java/util/ArrayList" ({ cls := "java/util/AbstractList", name := "remove", desc := "(I)Ljava/lang/Object;" } : Jvm.MethodName) ({ cls := "java/util/ArrayList", name := "remove", desc := "(I)Ljava/lang/Object;" } : Jvm.MethodName)) ∈ lw_all := sorry
theorem q2127 : (Jvm.Cond.instanceMethod ({ cls := "java/util/ArrayList", name := "remove", desc := "(I)Ljava/lang/Object;" } : Jvm.MethodName)) ∈ lw_all := sorry
theorem q2128 : (Jvm.Cond.code ({ cls := "java/util/ArrayList", name := "remove", desc := "(I)Ljava/lang/Object;" } : Jvm.MethodName) prog_49_method_29_code (4 : Nat) (Option.some (Jvm.ClassFile.FieldType.object "java/lang/Object"))) ∈ lw_all := sorry
theorem q2129 : (Jvm.Cond.methodLink "java/util/ArrayList" (144 : Nat) ({ cls := "java/util/ArrayList", name := "fastRemove", desc := "([Ljava/lang/Object;I)V" } : Jvm.MethodName)) ∈ lw_all := lw_g (lw_at lw_m9 80 rfl) rfl
theorem q2130 : (Jvm.Cond.privateMethod ({ cls := "java/util/ArrayList", name := "fastRemove", desc := "([Ljava/lang/Object;I)V" } : Jvm.MethodName)) ∈ lw_tbl := lw_at lw_m9 81 rfl
theorem q2131 : (Jvm.Cond.instanceMethod ({ cls := "java/util/ArrayList", name := "fastRemove", desc := "([Ljava/lang/Object;I)V" } : Jvm.MethodName)) ∈ lw_all := lw_g (lw_at lw_m9 82 rfl) rfl
theorem q2132 : (Jvm.Cond.code ({ cls := "java/util/ArrayList", name := "fastRemove", desc := "([Ljava/lang/Object;I)V" } : Jvm.MethodName) prog_49_method_39_code (4 : Nat) (Option.none : Option Jvm.ClassFile.FieldType)) ∈ lw_all := lw_g (lw_at lw_m9 83 rfl) rfl
theorem q2133 : (Jvm.Cond.methodLink "java/util/ArrayList" (112 : Nat) ({ cls := "java/lang/System", name := "arraycopy", desc := "(Ljava/lang/Object;ILjava/lang/Object;II)V" } : Jvm.MethodName)) ∈ lw_all := sorry
theorem q2397 : (Jvm.Cond.castable "java/util/ArrayList" "java/util/List") ∈ lw_tbl := sorry
theorem q2398 : (Jvm.Cond.selects "java/util/ArrayList" ({ cls := "java/util/List", name := "indexOf", desc := "(Ljava/lang/Object;)I" } : Jvm.MethodName) ({ cls := "java/util/ArrayList", name := "indexOf", desc := "(Ljava/lang/Object;)I" } : Jvm.MethodName)) ∈ lw_all := sorry
theorem q2399 : (Jvm.Cond.unhidden "java/util/ArrayList" "indexOf" "(Ljava/lang/Object;)I") ∈ lw_tbl := sorry
theorem q2400 : (Jvm.Cond.instanceMethod ({ cls := "java/util/ArrayList", name := "indexOf", desc := "(Ljava/lang/Object;)I" } : Jvm.MethodName)) ∈ lw_all := sorry
theorem q2401 : (Jvm.Cond.publicMethod ({ cls := "java/util/ArrayList", name := "indexOf", desc := "(Ljava/lang/Object;)I" } : Jvm.MethodName)) ∈ lw_tbl := sorry
theorem q2402 : (Jvm.Cond.code ({ cls := "java/util/ArrayList", name := "indexOf", desc := "(Ljava/lang/Object;)I" } : Jvm.MethodName) prog_49_method_11_code (2 : Nat) (Option.some Jvm.ClassFile.FieldType.int)) ∈ lw_all := sorry
theorem q2403 : (Jvm.Cond.methodLink "java/util/ArrayList" (89 : Nat) ({ cls := "java/util/ArrayList", name := "indexOfRange", desc := "(Ljava/lang/Object;II)I" } : Jvm.MethodName)) ∈ lw_all := sorry
theorem q2404 : (Jvm.Cond.instanceMethod ({ cls := "java/util/ArrayList", name := "indexOfRange", desc := "(Ljava/lang/Object;II)I" } : Jvm.MethodName)) ∈ lw_all := sorry
theorem q2405 : (Jvm.Cond.selects "java/util/ArrayList" ({ cls := "java/util/ArrayList", name := "indexOfRange", desc := "(Ljava/lang/Object;II)I" } : Jvm.MethodName) ({ cls := "java/util/ArrayList", name := "indexOfRange", desc := "(Ljava/lang/Object;II)I" } : Jvm.MethodName)) ∈ lw_all := sorry
theorem q2406 : (Jvm.Cond.code ({ cls := "java/util/ArrayList", name := "indexOfRange", desc := "(Ljava/lang/Object;II)I" } : Jvm.MethodName) prog_49_method_12_code (6 : Nat) (Option.some Jvm.ClassFile.FieldType.int)) ∈ lw_all := sorry
theorem q2408 : (Jvm.Cond.methodLink "java/util/ArrayList" (93 : Nat) ({ cls := "java/lang/Object", name := "equals", desc := "(Ljava/lang/Object;)Z" } : Jvm.MethodName)) ∈ lw_all := sorry
theorem q3213 : (Jvm.Cond.selects "java/util/ArrayList" ({ cls := "java/util/ArrayList", name := "size", desc := "()I" } : Jvm.MethodName) ({ cls := "java/util/ArrayList", name := "size", desc := "()I" } : Jvm.MethodName)) ∈ lw_all := sorry
theorem q3214 : (Jvm.Cond.selects "java/util/ArrayList" ({ cls := "java/util/ArrayList", name := "get", desc := "(I)Ljava/lang/Object;" } : Jvm.MethodName) ({ cls := "java/util/ArrayList", name := "get", desc := "(I)Ljava/lang/Object;" } : Jvm.MethodName)) ∈ lw_all := sorry
theorem q3223 : (Jvm.Cond.selects "java/util/ArrayList" ({ cls := "java/util/ArrayList", name := "remove", desc := "(I)Ljava/lang/Object;" } : Jvm.MethodName) ({ cls := "java/util/ArrayList", name := "remove", desc := "(I)Ljava/lang/Object;" } : Jvm.MethodName)) ∈ lw_all := sorry
theorem q3242 : (Jvm.Cond.castable "java/util/ArrayList" "java/lang/Object") ∈ lw_tbl := sorry
theorem in_J24 : ∀ w ∈ wsJ240, w ∈ lw_all := sorry
/-! java/util/ArrayDeque -/
set_option maxRecDepth 100000
def RJ25 : String := "java/util/ArrayDeque"
def TJ25 : u_T := fun k => match k with
  | 0 => ("java/util/ArrayDeque", "elements", "[Ljava/lang/Object;", false)
  | 1 => ("java/util/ArrayDeque", "head", "I", false)
  | _ => ("java/util/ArrayDeque", "tail", "I", false)
def tyJ25 : Nat → FieldType := fun k => match k with
  | 0 => .array (.object "java/lang/Object")
  | 1 => .int
  | _ => .int
abbrev wsJ250 : List Cond := u_ws RJ25 TJ25 3
theorem nmJ25 : ∀ a, a < 3 → ∀ b, b < 3 → a ≠ b → (TJ25 a).2.1 ≠ (TJ25 b).2.1 := sorry
theorem tyJ25_ok : ∀ k, k < 3 → parseFieldDescriptor (TJ25 k).2.2.1 = some (tyJ25 k) := sorry
abbrev cJ25_init : ByteArray := prog_48_method_3_code
def yJ25_init : MethodName := ⟨RJ25, "<init>", "()V"⟩
def dkwJ25_init_0 : List UInt8 := [42, 183, 0, 42, 42, 16, 17, 189, 0, 47, 181, 0, 3, 177]
abbrev dktJ25_init_0 : List UInt8 := dkwJ25_init_0 ++ []
theorem dksJ25_init_0 : cJ25_init.data.toList.drop 0 = dktJ25_init_0 := sorry
theorem dJ25_init_0 : decode cJ25_init 0 = .ok (.aload_n 0, 1) := sorry
theorem dJ25_init_1 : decode cJ25_init 1 = .ok (.invokespecial 42, 3) := sorry
theorem dJ25_init_4 : decode cJ25_init 4 = .ok (.aload_n 0, 1) := sorry
theorem dJ25_init_5 : decode cJ25_init 5 = .ok (.bipush 17, 2) := sorry
theorem dJ25_init_7 : decode cJ25_init 7 = .ok (.anewarray 47, 3) := sorry
theorem dJ25_init_10 : decode cJ25_init 10 = .ok (.putfield 3, 3) := sorry
theorem dJ25_init_13 : decode cJ25_init 13 = .ok (.return_, 1) := sorry
abbrev cJ25_size : ByteArray := prog_48_method_37_code
def yJ25_size : MethodName := ⟨RJ25, "size", "()I"⟩
def dkwJ25_size_0 : List UInt8 := [42, 180, 0, 20, 42, 180, 0, 24, 42, 180, 0, 3, 190, 184, 0, 127, 172]
abbrev dktJ25_size_0 : List UInt8 := dkwJ25_size_0 ++ []
theorem dksJ25_size_0 : cJ25_size.data.toList.drop 0 = dktJ25_size_0 := sorry
theorem dJ25_size_0 : decode cJ25_size 0 = .ok (.aload_n 0, 1) := sorry
theorem dJ25_size_1 : decode cJ25_size 1 = .ok (.getfield 20, 3) := sorry
theorem dJ25_size_4 : decode cJ25_size 4 = .ok (.aload_n 0, 1) := sorry
theorem dJ25_size_5 : decode cJ25_size 5 = .ok (.getfield 24, 3) := sorry
theorem dJ25_size_8 : decode cJ25_size 8 = .ok (.aload_n 0, 1) := sorry
theorem dJ25_size_9 : decode cJ25_size 9 = .ok (.getfield 3, 3) := sorry
theorem dJ25_size_12 : decode cJ25_size 12 = .ok (.arraylength, 1) := sorry
theorem dJ25_size_13 : decode cJ25_size 13 = .ok (.invokestatic 127, 3) := sorry
theorem dJ25_size_16 : decode cJ25_size 16 = .ok (.ireturn, 1) := sorry
abbrev cJ25_sub : ByteArray := prog_48_method_9_code
def yJ25_sub : MethodName := ⟨RJ25, "sub", "(III)I"⟩
def dkwJ25_sub_0 : List UInt8 := [26, 27, 100, 89, 59, 156, 0, 7, 26, 28, 96, 59, 26, 172]
abbrev dktJ25_sub_0 : List UInt8 := dkwJ25_sub_0 ++ []
theorem dksJ25_sub_0 : cJ25_sub.data.toList.drop 0 = dktJ25_sub_0 := sorry
theorem dJ25_sub_0 : decode cJ25_sub 0 = .ok (.iload_n 0, 1) := sorry
theorem dJ25_sub_1 : decode cJ25_sub 1 = .ok (.iload_n 1, 1) := sorry
theorem dJ25_sub_2 : decode cJ25_sub 2 = .ok (.isub, 1) := sorry
theorem dJ25_sub_3 : decode cJ25_sub 3 = .ok (.dup, 1) := sorry
theorem dJ25_sub_4 : decode cJ25_sub 4 = .ok (.istore_n 0, 1) := sorry
theorem dJ25_sub_5 : decode cJ25_sub 5 = .ok (.ifCond .ge 7, 3) := sorry
theorem dJ25_sub_8 : decode cJ25_sub 8 = .ok (.iload_n 0, 1) := sorry
theorem dJ25_sub_9 : decode cJ25_sub 9 = .ok (.iload_n 2, 1) := sorry
theorem dJ25_sub_10 : decode cJ25_sub 10 = .ok (.iadd, 1) := sorry
theorem dJ25_sub_11 : decode cJ25_sub 11 = .ok (.istore_n 0, 1) := sorry
theorem dJ25_sub_12 : decode cJ25_sub 12 = .ok (.iload_n 0, 1) := sorry
theorem dJ25_sub_13 : decode cJ25_sub 13 = .ok (.ireturn, 1) := sorry
abbrev cJ25_isEmpty : ByteArray := prog_48_method_38_code
def yJ25_isEmpty : MethodName := ⟨RJ25, "isEmpty", "()Z"⟩
def dkwJ25_isEmpty_0 : List UInt8 := [42, 180, 0, 24, 42, 180, 0, 20, 160, 0, 7, 4, 167, 0, 4, 3, 172]
abbrev dktJ25_isEmpty_0 : List UInt8 := dkwJ25_isEmpty_0 ++ []
theorem dksJ25_isEmpty_0 : cJ25_isEmpty.data.toList.drop 0 = dktJ25_isEmpty_0 := sorry
theorem dJ25_isEmpty_0 : decode cJ25_isEmpty 0 = .ok (.aload_n 0, 1) := sorry
theorem dJ25_isEmpty_1 : decode cJ25_isEmpty 1 = .ok (.getfield 24, 3) := sorry
theorem dJ25_isEmpty_4 : decode cJ25_isEmpty 4 = .ok (.aload_n 0, 1) := sorry
theorem dJ25_isEmpty_5 : decode cJ25_isEmpty 5 = .ok (.getfield 20, 3) := sorry
theorem dJ25_isEmpty_8 : decode cJ25_isEmpty 8 = .ok (.if_icmp .ne 7, 3) := sorry
theorem dJ25_isEmpty_11 : decode cJ25_isEmpty 11 = .ok (.iconst 1, 1) := sorry
theorem dJ25_isEmpty_12 : decode cJ25_isEmpty 12 = .ok (.goto 4, 3) := sorry
theorem dJ25_isEmpty_15 : decode cJ25_isEmpty 15 = .ok (.iconst 0, 1) := sorry
theorem dJ25_isEmpty_16 : decode cJ25_isEmpty 16 = .ok (.ireturn, 1) := sorry
abbrev cJ25_removeLast : ByteArray := prog_48_method_19_code
def yJ25_removeLast : MethodName := ⟨RJ25, "removeLast", "()Ljava/lang/Object;"⟩
def dkwJ25_removeLast_0 : List UInt8 := [42, 182, 0, 100, 76, 43, 199, 0, 11, 187, 0, 97, 89, 183, 0, 99, 191, 43, 176]
abbrev dktJ25_removeLast_0 : List UInt8 := dkwJ25_removeLast_0 ++ []
theorem dksJ25_removeLast_0 : cJ25_removeLast.data.toList.drop 0 = dktJ25_removeLast_0 := sorry
theorem dJ25_removeLast_0 : decode cJ25_removeLast 0 = .ok (.aload_n 0, 1) := sorry
theorem dJ25_removeLast_1 : decode cJ25_removeLast 1 = .ok (.invokevirtual 100, 3) := sorry
theorem dJ25_removeLast_4 : decode cJ25_removeLast 4 = .ok (.astore_n 1, 1) := sorry
theorem dJ25_removeLast_5 : decode cJ25_removeLast 5 = .ok (.aload_n 1, 1) := sorry
theorem dJ25_removeLast_6 : decode cJ25_removeLast 6 = .ok (.ifnonnull 11, 3) := sorry
theorem dJ25_removeLast_9 : decode cJ25_removeLast 9 = .ok (.new 97, 3) := sorry
theorem dJ25_removeLast_12 : decode cJ25_removeLast 12 = .ok (.dup, 1) := sorry
theorem dJ25_removeLast_13 : decode cJ25_removeLast 13 = .ok (.invokespecial 99, 3) := sorry
theorem dJ25_removeLast_16 : decode cJ25_removeLast 16 = .ok (.athrow, 1) := sorry
theorem dJ25_removeLast_17 : decode cJ25_removeLast 17 = .ok (.aload_n 1, 1) := sorry
theorem dJ25_removeLast_18 : decode cJ25_removeLast 18 = .ok (.areturn, 1) := sorry
abbrev cJ25_pollLast : ByteArray := prog_48_method_21_code
def yJ25_pollLast : MethodName := ⟨RJ25, "pollLast", "()Ljava/lang/Object;"⟩
def dkwJ25_pollLast_1 : List UInt8 := [198, 0, 12, 43, 42, 28, 90, 181, 0, 20, 1, 83, 45, 176]
abbrev dktJ25_pollLast_1 : List UInt8 := dkwJ25_pollLast_1 ++ []
def dkwJ25_pollLast_0 : List UInt8 := [42, 180, 0, 3, 89, 76, 42, 180, 0, 20, 43, 190, 184, 0, 68, 89, 61, 184, 0, 103, 78, 45]
abbrev dktJ25_pollLast_0 : List UInt8 := dkwJ25_pollLast_0 ++ dktJ25_pollLast_1
theorem dksJ25_pollLast_0 : cJ25_pollLast.data.toList.drop 0 = dktJ25_pollLast_0 := sorry
theorem dksJ25_pollLast_1 : cJ25_pollLast.data.toList.drop 22 = dktJ25_pollLast_1 := sorry
theorem dJ25_pollLast_0 : decode cJ25_pollLast 0 = .ok (.aload_n 0, 1) := sorry
theorem dJ25_pollLast_1 : decode cJ25_pollLast 1 = .ok (.getfield 3, 3) := sorry
theorem dJ25_pollLast_4 : decode cJ25_pollLast 4 = .ok (.dup, 1) := sorry
theorem dJ25_pollLast_5 : decode cJ25_pollLast 5 = .ok (.astore_n 1, 1) := sorry
theorem dJ25_pollLast_6 : decode cJ25_pollLast 6 = .ok (.aload_n 0, 1) := sorry
theorem dJ25_pollLast_7 : decode cJ25_pollLast 7 = .ok (.getfield 20, 3) := sorry
theorem dJ25_pollLast_10 : decode cJ25_pollLast 10 = .ok (.aload_n 1, 1) := sorry
theorem dJ25_pollLast_11 : decode cJ25_pollLast 11 = .ok (.arraylength, 1) := sorry
theorem dJ25_pollLast_12 : decode cJ25_pollLast 12 = .ok (.invokestatic 68, 3) := sorry
theorem dJ25_pollLast_15 : decode cJ25_pollLast 15 = .ok (.dup, 1) := sorry
theorem dJ25_pollLast_16 : decode cJ25_pollLast 16 = .ok (.istore_n 2, 1) := sorry
theorem dJ25_pollLast_17 : decode cJ25_pollLast 17 = .ok (.invokestatic 103, 3) := sorry
theorem dJ25_pollLast_20 : decode cJ25_pollLast 20 = .ok (.astore_n 3, 1) := sorry
theorem dJ25_pollLast_21 : decode cJ25_pollLast 21 = .ok (.aload_n 3, 1) := sorry
theorem dJ25_pollLast_22 : decode cJ25_pollLast 22 = .ok (.ifnull 12, 3) := sorry
theorem dJ25_pollLast_25 : decode cJ25_pollLast 25 = .ok (.aload_n 1, 1) := sorry
theorem dJ25_pollLast_26 : decode cJ25_pollLast 26 = .ok (.aload_n 0, 1) := sorry
theorem dJ25_pollLast_27 : decode cJ25_pollLast 27 = .ok (.iload_n 2, 1) := sorry
theorem dJ25_pollLast_28 : decode cJ25_pollLast 28 = .ok (.dup_x1, 1) := sorry
theorem dJ25_pollLast_29 : decode cJ25_pollLast 29 = .ok (.putfield 20, 3) := sorry
theorem dJ25_pollLast_32 : decode cJ25_pollLast 32 = .ok (.aconst_null, 1) := sorry
theorem dJ25_pollLast_33 : decode cJ25_pollLast 33 = .ok (.aastore, 1) := sorry
theorem dJ25_pollLast_34 : decode cJ25_pollLast 34 = .ok (.aload_n 3, 1) := sorry
theorem dJ25_pollLast_35 : decode cJ25_pollLast 35 = .ok (.areturn, 1) := sorry
abbrev cJ25_dec : ByteArray := prog_48_method_7_code
def yJ25_dec : MethodName := ⟨RJ25, "dec", "(II)I"⟩
def dkwJ25_dec_0 : List UInt8 := [132, 0, 255, 26, 156, 0, 7, 27, 4, 100, 59, 26, 172]
abbrev dktJ25_dec_0 : List UInt8 := dkwJ25_dec_0 ++ []
theorem dksJ25_dec_0 : cJ25_dec.data.toList.drop 0 = dktJ25_dec_0 := sorry
theorem dJ25_dec_0 : decode cJ25_dec 0 = .ok (.iinc 0 (-1), 3) := sorry
theorem dJ25_dec_3 : decode cJ25_dec 3 = .ok (.iload_n 0, 1) := sorry
theorem dJ25_dec_4 : decode cJ25_dec 4 = .ok (.ifCond .ge 7, 3) := sorry
theorem dJ25_dec_7 : decode cJ25_dec 7 = .ok (.iload_n 1, 1) := sorry
theorem dJ25_dec_8 : decode cJ25_dec 8 = .ok (.iconst 1, 1) := sorry
theorem dJ25_dec_9 : decode cJ25_dec 9 = .ok (.isub, 1) := sorry
theorem dJ25_dec_10 : decode cJ25_dec 10 = .ok (.istore_n 0, 1) := sorry
theorem dJ25_dec_11 : decode cJ25_dec 11 = .ok (.iload_n 0, 1) := sorry
theorem dJ25_dec_12 : decode cJ25_dec 12 = .ok (.ireturn, 1) := sorry
abbrev cJ25_elementAt : ByteArray := prog_48_method_10_code
def yJ25_elementAt : MethodName := ⟨RJ25, "elementAt", "([Ljava/lang/Object;I)Ljava/lang/Object;"⟩
def dkwJ25_elementAt_0 : List UInt8 := [42, 27, 50, 176]
abbrev dktJ25_elementAt_0 : List UInt8 := dkwJ25_elementAt_0 ++ []
theorem dksJ25_elementAt_0 : cJ25_elementAt.data.toList.drop 0 = dktJ25_elementAt_0 := sorry
theorem dJ25_elementAt_0 : decode cJ25_elementAt 0 = .ok (.aload_n 0, 1) := sorry
theorem dJ25_elementAt_1 : decode cJ25_elementAt 1 = .ok (.iload_n 1, 1) := sorry
theorem dJ25_elementAt_2 : decode cJ25_elementAt 2 = .ok (.aaload, 1) := sorry
theorem dJ25_elementAt_3 : decode cJ25_elementAt 3 = .ok (.areturn, 1) := sorry
abbrev cJ25_clear : ByteArray := prog_48_method_53_code
def yJ25_clear : MethodName := ⟨RJ25, "clear", "()V"⟩
def dkwJ25_clear_1 : List UInt8 := [181, 0, 24, 177]
abbrev dktJ25_clear_1 : List UInt8 := dkwJ25_clear_1 ++ []
def dkwJ25_clear_0 : List UInt8 := [42, 180, 0, 3, 42, 180, 0, 24, 42, 180, 0, 20, 184, 0, 181, 42, 42, 3, 90, 181, 0, 20]
abbrev dktJ25_clear_0 : List UInt8 := dkwJ25_clear_0 ++ dktJ25_clear_1
theorem dksJ25_clear_0 : cJ25_clear.data.toList.drop 0 = dktJ25_clear_0 := sorry
theorem dksJ25_clear_1 : cJ25_clear.data.toList.drop 22 = dktJ25_clear_1 := sorry
theorem dJ25_clear_0 : decode cJ25_clear 0 = .ok (.aload_n 0, 1) := sorry
theorem dJ25_clear_1 : decode cJ25_clear 1 = .ok (.getfield 3, 3) := sorry
theorem dJ25_clear_4 : decode cJ25_clear 4 = .ok (.aload_n 0, 1) := sorry
theorem dJ25_clear_5 : decode cJ25_clear 5 = .ok (.getfield 24, 3) := sorry
theorem dJ25_clear_8 : decode cJ25_clear 8 = .ok (.aload_n 0, 1) := sorry
theorem dJ25_clear_9 : decode cJ25_clear 9 = .ok (.getfield 20, 3) := sorry
theorem dJ25_clear_12 : decode cJ25_clear 12 = .ok (.invokestatic 181, 3) := sorry
theorem dJ25_clear_15 : decode cJ25_clear 15 = .ok (.aload_n 0, 1) := sorry
theorem dJ25_clear_16 : decode cJ25_clear 16 = .ok (.aload_n 0, 1) := sorry
theorem dJ25_clear_17 : decode cJ25_clear 17 = .ok (.iconst 0, 1) := sorry
theorem dJ25_clear_18 : decode cJ25_clear 18 = .ok (.dup_x1, 1) := sorry
theorem dJ25_clear_19 : decode cJ25_clear 19 = .ok (.putfield 20, 3) := sorry
theorem dJ25_clear_22 : decode cJ25_clear 22 = .ok (.putfield 24, 3) := sorry
theorem dJ25_clear_25 : decode cJ25_clear 25 = .ok (.return_, 1) := sorry
abbrev cJ25_circularClear : ByteArray := prog_48_method_54_code
def yJ25_circularClear : MethodName := ⟨RJ25, "circularClear", "([Ljava/lang/Object;II)V"⟩
def dkwJ25_circularClear_1 : List UInt8 := [167, 255, 244, 29, 28, 160, 0, 6, 167, 0, 10, 3, 60, 28, 62, 167, 255, 229, 177]
abbrev dktJ25_circularClear_1 : List UInt8 := dkwJ25_circularClear_1 ++ []
def dkwJ25_circularClear_0 : List UInt8 := [27, 28, 163, 0, 7, 28, 167, 0, 5, 42, 190, 62, 27, 29, 162, 0, 13, 42, 27, 1, 83, 132, 1, 1]
abbrev dktJ25_circularClear_0 : List UInt8 := dkwJ25_circularClear_0 ++ dktJ25_circularClear_1
theorem dksJ25_circularClear_0 : cJ25_circularClear.data.toList.drop 0 = dktJ25_circularClear_0 := sorry
theorem dksJ25_circularClear_1 : cJ25_circularClear.data.toList.drop 24 = dktJ25_circularClear_1 := sorry
theorem dJ25_circularClear_0 : decode cJ25_circularClear 0 = .ok (.iload_n 1, 1) := sorry
theorem dJ25_circularClear_1 : decode cJ25_circularClear 1 = .ok (.iload_n 2, 1) := sorry
theorem dJ25_circularClear_2 : decode cJ25_circularClear 2 = .ok (.if_icmp .gt 7, 3) := sorry
theorem dJ25_circularClear_5 : decode cJ25_circularClear 5 = .ok (.iload_n 2, 1) := sorry
theorem dJ25_circularClear_6 : decode cJ25_circularClear 6 = .ok (.goto 5, 3) := sorry
theorem dJ25_circularClear_9 : decode cJ25_circularClear 9 = .ok (.aload_n 0, 1) := sorry
theorem dJ25_circularClear_10 : decode cJ25_circularClear 10 = .ok (.arraylength, 1) := sorry
theorem dJ25_circularClear_11 : decode cJ25_circularClear 11 = .ok (.istore_n 3, 1) := sorry
theorem dJ25_circularClear_12 : decode cJ25_circularClear 12 = .ok (.iload_n 1, 1) := sorry
theorem dJ25_circularClear_13 : decode cJ25_circularClear 13 = .ok (.iload_n 3, 1) := sorry
theorem dJ25_circularClear_14 : decode cJ25_circularClear 14 = .ok (.if_icmp .ge 13, 3) := sorry
theorem dJ25_circularClear_17 : decode cJ25_circularClear 17 = .ok (.aload_n 0, 1) := sorry
theorem dJ25_circularClear_18 : decode cJ25_circularClear 18 = .ok (.iload_n 1, 1) := sorry
theorem dJ25_circularClear_19 : decode cJ25_circularClear 19 = .ok (.aconst_null, 1) := sorry
theorem dJ25_circularClear_20 : decode cJ25_circularClear 20 = .ok (.aastore, 1) := sorry
theorem dJ25_circularClear_21 : decode cJ25_circularClear 21 = .ok (.iinc 1 1, 3) := sorry
theorem dJ25_circularClear_24 : decode cJ25_circularClear 24 = .ok (.goto (-12), 3) := sorry
theorem dJ25_circularClear_27 : decode cJ25_circularClear 27 = .ok (.iload_n 3, 1) := sorry
theorem dJ25_circularClear_28 : decode cJ25_circularClear 28 = .ok (.iload_n 2, 1) := sorry
theorem dJ25_circularClear_29 : decode cJ25_circularClear 29 = .ok (.if_icmp .ne 6, 3) := sorry
theorem dJ25_circularClear_32 : decode cJ25_circularClear 32 = .ok (.goto 10, 3) := sorry
theorem dJ25_circularClear_35 : decode cJ25_circularClear 35 = .ok (.iconst 0, 1) := sorry
theorem dJ25_circularClear_36 : decode cJ25_circularClear 36 = .ok (.istore_n 1, 1) := sorry
theorem dJ25_circularClear_37 : decode cJ25_circularClear 37 = .ok (.iload_n 2, 1) := sorry
theorem dJ25_circularClear_38 : decode cJ25_circularClear 38 = .ok (.istore_n 3, 1) := sorry
theorem dJ25_circularClear_39 : decode cJ25_circularClear 39 = .ok (.goto (-27), 3) := sorry
theorem dJ25_circularClear_42 : decode cJ25_circularClear 42 = .ok (.return_, 1) := sorry
abbrev cJ25_removeFirst : ByteArray := prog_48_method_18_code
def yJ25_removeFirst : MethodName := ⟨RJ25, "removeFirst", "()Ljava/lang/Object;"⟩
def dkwJ25_removeFirst_0 : List UInt8 := [42, 182, 0, 93, 76, 43, 199, 0, 11, 187, 0, 97, 89, 183, 0, 99, 191, 43, 176]
abbrev dktJ25_removeFirst_0 : List UInt8 := dkwJ25_removeFirst_0 ++ []
theorem dksJ25_removeFirst_0 : cJ25_removeFirst.data.toList.drop 0 = dktJ25_removeFirst_0 := sorry
theorem dJ25_removeFirst_0 : decode cJ25_removeFirst 0 = .ok (.aload_n 0, 1) := sorry
theorem dJ25_removeFirst_1 : decode cJ25_removeFirst 1 = .ok (.invokevirtual 93, 3) := sorry
theorem dJ25_removeFirst_4 : decode cJ25_removeFirst 4 = .ok (.astore_n 1, 1) := sorry
theorem dJ25_removeFirst_5 : decode cJ25_removeFirst 5 = .ok (.aload_n 1, 1) := sorry
theorem dJ25_removeFirst_6 : decode cJ25_removeFirst 6 = .ok (.ifnonnull 11, 3) := sorry
theorem dJ25_removeFirst_9 : decode cJ25_removeFirst 9 = .ok (.new 97, 3) := sorry
theorem dJ25_removeFirst_12 : decode cJ25_removeFirst 12 = .ok (.dup, 1) := sorry
theorem dJ25_removeFirst_13 : decode cJ25_removeFirst 13 = .ok (.invokespecial 99, 3) := sorry
theorem dJ25_removeFirst_16 : decode cJ25_removeFirst 16 = .ok (.athrow, 1) := sorry
theorem dJ25_removeFirst_17 : decode cJ25_removeFirst 17 = .ok (.aload_n 1, 1) := sorry
theorem dJ25_removeFirst_18 : decode cJ25_removeFirst 18 = .ok (.areturn, 1) := sorry
abbrev cJ25_pollFirst : ByteArray := prog_48_method_20_code
def yJ25_pollFirst : MethodName := ⟨RJ25, "pollFirst", "()Ljava/lang/Object;"⟩
def dkwJ25_pollFirst_1 : List UInt8 := [42, 28, 43, 190, 184, 0, 74, 181, 0, 24, 45, 176]
abbrev dktJ25_pollFirst_1 : List UInt8 := dkwJ25_pollFirst_1 ++ []
def dkwJ25_pollFirst_0 : List UInt8 := [42, 180, 0, 3, 89, 76, 42, 180, 0, 24, 89, 61, 184, 0, 103, 78, 45, 198, 0, 17, 43, 28, 1, 83]
abbrev dktJ25_pollFirst_0 : List UInt8 := dkwJ25_pollFirst_0 ++ dktJ25_pollFirst_1
theorem dksJ25_pollFirst_0 : cJ25_pollFirst.data.toList.drop 0 = dktJ25_pollFirst_0 := sorry
theorem dksJ25_pollFirst_1 : cJ25_pollFirst.data.toList.drop 24 = dktJ25_pollFirst_1 := sorry
theorem dJ25_pollFirst_0 : decode cJ25_pollFirst 0 = .ok (.aload_n 0, 1) := sorry
theorem dJ25_pollFirst_1 : decode cJ25_pollFirst 1 = .ok (.getfield 3, 3) := sorry
theorem dJ25_pollFirst_4 : decode cJ25_pollFirst 4 = .ok (.dup, 1) := sorry
theorem dJ25_pollFirst_5 : decode cJ25_pollFirst 5 = .ok (.astore_n 1, 1) := sorry
theorem dJ25_pollFirst_6 : decode cJ25_pollFirst 6 = .ok (.aload_n 0, 1) := sorry
theorem dJ25_pollFirst_7 : decode cJ25_pollFirst 7 = .ok (.getfield 24, 3) := sorry
theorem dJ25_pollFirst_10 : decode cJ25_pollFirst 10 = .ok (.dup, 1) := sorry
theorem dJ25_pollFirst_11 : decode cJ25_pollFirst 11 = .ok (.istore_n 2, 1) := sorry
theorem dJ25_pollFirst_12 : decode cJ25_pollFirst 12 = .ok (.invokestatic 103, 3) := sorry
theorem dJ25_pollFirst_15 : decode cJ25_pollFirst 15 = .ok (.astore_n 3, 1) := sorry
theorem dJ25_pollFirst_16 : decode cJ25_pollFirst 16 = .ok (.aload_n 3, 1) := sorry
theorem dJ25_pollFirst_17 : decode cJ25_pollFirst 17 = .ok (.ifnull 17, 3) := sorry
theorem dJ25_pollFirst_20 : decode cJ25_pollFirst 20 = .ok (.aload_n 1, 1) := sorry
theorem dJ25_pollFirst_21 : decode cJ25_pollFirst 21 = .ok (.iload_n 2, 1) := sorry
theorem dJ25_pollFirst_22 : decode cJ25_pollFirst 22 = .ok (.aconst_null, 1) := sorry
theorem dJ25_pollFirst_23 : decode cJ25_pollFirst 23 = .ok (.aastore, 1) := sorry
theorem dJ25_pollFirst_24 : decode cJ25_pollFirst 24 = .ok (.aload_n 0, 1) := sorry
theorem dJ25_pollFirst_25 : decode cJ25_pollFirst 25 = .ok (.iload_n 2, 1) := sorry
theorem dJ25_pollFirst_26 : decode cJ25_pollFirst 26 = .ok (.aload_n 1, 1) := sorry
theorem dJ25_pollFirst_27 : decode cJ25_pollFirst 27 = .ok (.arraylength, 1) := sorry
theorem dJ25_pollFirst_28 : decode cJ25_pollFirst 28 = .ok (.invokestatic 74, 3) := sorry
theorem dJ25_pollFirst_31 : decode cJ25_pollFirst 31 = .ok (.putfield 24, 3) := sorry
theorem dJ25_pollFirst_34 : decode cJ25_pollFirst 34 = .ok (.aload_n 3, 1) := sorry
theorem dJ25_pollFirst_35 : decode cJ25_pollFirst 35 = .ok (.areturn, 1) := sorry
abbrev cJ25_inc : ByteArray := prog_48_method_6_code
def yJ25_inc : MethodName := ⟨RJ25, "inc", "(II)I"⟩
def dkwJ25_inc_0 : List UInt8 := [132, 0, 1, 26, 27, 161, 0, 5, 3, 59, 26, 172]
abbrev dktJ25_inc_0 : List UInt8 := dkwJ25_inc_0 ++ []
theorem dksJ25_inc_0 : cJ25_inc.data.toList.drop 0 = dktJ25_inc_0 := sorry
theorem dJ25_inc_0 : decode cJ25_inc 0 = .ok (.iinc 0 1, 3) := sorry
theorem dJ25_inc_3 : decode cJ25_inc 3 = .ok (.iload_n 0, 1) := sorry
theorem dJ25_inc_4 : decode cJ25_inc 4 = .ok (.iload_n 1, 1) := sorry
theorem dJ25_inc_5 : decode cJ25_inc 5 = .ok (.if_icmp .lt 5, 3) := sorry
theorem dJ25_inc_8 : decode cJ25_inc 8 = .ok (.iconst 0, 1) := sorry
theorem dJ25_inc_9 : decode cJ25_inc 9 = .ok (.istore_n 0, 1) := sorry
theorem dJ25_inc_10 : decode cJ25_inc 10 = .ok (.iload_n 0, 1) := sorry
theorem dJ25_inc_11 : decode cJ25_inc 11 = .ok (.ireturn, 1) := sorry
abbrev cJ25_addLast : ByteArray := prog_48_method_13_code
def yJ25_addLast : MethodName := ⟨RJ25, "addLast", "(Ljava/lang/Object;)V"⟩
def dkwJ25_addLast_2 : List UInt8 := [182, 0, 71, 177]
abbrev dktJ25_addLast_2 : List UInt8 := dkwJ25_addLast_2 ++ []
def dkwJ25_addLast_1 : List UInt8 := [42, 180, 0, 24, 42, 42, 180, 0, 20, 44, 190, 184, 0, 74, 90, 181, 0, 20, 160, 0, 8, 42, 4]
abbrev dktJ25_addLast_1 : List UInt8 := dkwJ25_addLast_1 ++ dktJ25_addLast_2
def dkwJ25_addLast_0 : List UInt8 := [43, 199, 0, 11, 187, 0, 65, 89, 183, 0, 67, 191, 42, 180, 0, 3, 77, 44, 42, 180, 0, 20, 43, 83]
abbrev dktJ25_addLast_0 : List UInt8 := dkwJ25_addLast_0 ++ dktJ25_addLast_1
theorem dksJ25_addLast_0 : cJ25_addLast.data.toList.drop 0 = dktJ25_addLast_0 := sorry
theorem dksJ25_addLast_1 : cJ25_addLast.data.toList.drop 24 = dktJ25_addLast_1 := sorry
theorem dksJ25_addLast_2 : cJ25_addLast.data.toList.drop 47 = dktJ25_addLast_2 := sorry
theorem dJ25_addLast_0 : decode cJ25_addLast 0 = .ok (.aload_n 1, 1) := sorry
theorem dJ25_addLast_1 : decode cJ25_addLast 1 = .ok (.ifnonnull 11, 3) := sorry
theorem dJ25_addLast_4 : decode cJ25_addLast 4 = .ok (.new 65, 3) := sorry
theorem dJ25_addLast_7 : decode cJ25_addLast 7 = .ok (.dup, 1) := sorry
theorem dJ25_addLast_8 : decode cJ25_addLast 8 = .ok (.invokespecial 67, 3) := sorry
theorem dJ25_addLast_11 : decode cJ25_addLast 11 = .ok (.athrow, 1) := sorry
theorem dJ25_addLast_12 : decode cJ25_addLast 12 = .ok (.aload_n 0, 1) := sorry
theorem dJ25_addLast_13 : decode cJ25_addLast 13 = .ok (.getfield 3, 3) := sorry
theorem dJ25_addLast_16 : decode cJ25_addLast 16 = .ok (.astore_n 2, 1) := sorry
theorem dJ25_addLast_17 : decode cJ25_addLast 17 = .ok (.aload_n 2, 1) := sorry
theorem dJ25_addLast_18 : decode cJ25_addLast 18 = .ok (.aload_n 0, 1) := sorry
theorem dJ25_addLast_19 : decode cJ25_addLast 19 = .ok (.getfield 20, 3) := sorry
theorem dJ25_addLast_22 : decode cJ25_addLast 22 = .ok (.aload_n 1, 1) := sorry
theorem dJ25_addLast_23 : decode cJ25_addLast 23 = .ok (.aastore, 1) := sorry
theorem dJ25_addLast_24 : decode cJ25_addLast 24 = .ok (.aload_n 0, 1) := sorry
theorem dJ25_addLast_25 : decode cJ25_addLast 25 = .ok (.getfield 24, 3) := sorry
theorem dJ25_addLast_28 : decode cJ25_addLast 28 = .ok (.aload_n 0, 1) := sorry
theorem dJ25_addLast_29 : decode cJ25_addLast 29 = .ok (.aload_n 0, 1) := sorry
theorem dJ25_addLast_30 : decode cJ25_addLast 30 = .ok (.getfield 20, 3) := sorry
theorem dJ25_addLast_33 : decode cJ25_addLast 33 = .ok (.aload_n 2, 1) := sorry
theorem dJ25_addLast_34 : decode cJ25_addLast 34 = .ok (.arraylength, 1) := sorry
theorem dJ25_addLast_35 : decode cJ25_addLast 35 = .ok (.invokestatic 74, 3) := sorry
theorem dJ25_addLast_38 : decode cJ25_addLast 38 = .ok (.dup_x1, 1) := sorry
theorem dJ25_addLast_39 : decode cJ25_addLast 39 = .ok (.putfield 20, 3) := sorry
theorem dJ25_addLast_42 : decode cJ25_addLast 42 = .ok (.if_icmp .ne 8, 3) := sorry
theorem dJ25_addLast_45 : decode cJ25_addLast 45 = .ok (.aload_n 0, 1) := sorry
theorem dJ25_addLast_46 : decode cJ25_addLast 46 = .ok (.iconst 1, 1) := sorry
theorem dJ25_addLast_47 : decode cJ25_addLast 47 = .ok (.invokevirtual 71, 3) := sorry
theorem dJ25_addLast_50 : decode cJ25_addLast 50 = .ok (.return_, 1) := sorry
abbrev cJ25_grow : ByteArray := prog_48_method_1_code
def yJ25_grow : MethodName := ⟨RJ25, "grow", "(I)V"⟩
def dkwJ25_grow_7 : List UInt8 := [177]
abbrev dktJ25_grow_7 : List UInt8 := dkwJ25_grow_7 ++ []
def dkwJ25_grow_6 : List UInt8 := [181, 0, 24, 54, 8, 21, 7, 21, 8, 162, 0, 15, 25, 5, 21, 7, 1, 83, 132, 7, 1, 167, 255, 240]
abbrev dktJ25_grow_6 : List UInt8 := dkwJ25_grow_6 ++ dktJ25_grow_7
def dkwJ25_grow_5 : List UInt8 := [42, 180, 0, 24, 100, 184, 0, 27, 42, 180, 0, 24, 54, 7, 42, 89, 180, 0, 24, 21, 6, 96, 90]
abbrev dktJ25_grow_5 : List UInt8 := dkwJ25_grow_5 ++ dktJ25_grow_6
def dkwJ25_grow_4 : List UInt8 := [198, 0, 71, 29, 28, 100, 54, 6, 25, 5, 42, 180, 0, 24, 25, 5, 42, 180, 0, 24, 21, 6, 96, 28]
abbrev dktJ25_grow_4 : List UInt8 := dkwJ25_grow_4 ++ dktJ25_grow_5
def dkwJ25_grow_3 : List UInt8 := [180, 0, 24, 161, 0, 24, 42, 180, 0, 20, 42, 180, 0, 24, 160, 0, 81, 25, 5, 42, 180, 0, 24, 50]
abbrev dktJ25_grow_3 : List UInt8 := dkwJ25_grow_3 ++ dktJ25_grow_4
def dkwJ25_grow_2 : List UInt8 := [182, 0, 10, 62, 42, 42, 180, 0, 3, 29, 184, 0, 14, 90, 181, 0, 3, 58, 5, 42, 180, 0, 20, 42]
abbrev dktJ25_grow_2 : List UInt8 := dkwJ25_grow_2 ++ dktJ25_grow_3
def dkwJ25_grow_1 : List UInt8 := [21, 4, 27, 161, 0, 15, 28, 21, 4, 96, 89, 62, 18, 9, 100, 158, 0, 11, 42, 27, 21, 4]
abbrev dktJ25_grow_1 : List UInt8 := dkwJ25_grow_1 ++ dktJ25_grow_2
def dkwJ25_grow_0 : List UInt8 := [42, 180, 0, 3, 190, 61, 28, 16, 64, 162, 0, 9, 28, 5, 96, 167, 0, 6, 28, 4, 122, 54, 4]
abbrev dktJ25_grow_0 : List UInt8 := dkwJ25_grow_0 ++ dktJ25_grow_1
theorem dksJ25_grow_0 : cJ25_grow.data.toList.drop 0 = dktJ25_grow_0 := sorry
theorem dksJ25_grow_1 : cJ25_grow.data.toList.drop 23 = dktJ25_grow_1 := sorry
theorem dksJ25_grow_2 : cJ25_grow.data.toList.drop 45 = dktJ25_grow_2 := sorry
theorem dksJ25_grow_3 : cJ25_grow.data.toList.drop 69 = dktJ25_grow_3 := sorry
theorem dksJ25_grow_4 : cJ25_grow.data.toList.drop 93 = dktJ25_grow_4 := sorry
theorem dksJ25_grow_5 : cJ25_grow.data.toList.drop 117 = dktJ25_grow_5 := sorry
theorem dksJ25_grow_6 : cJ25_grow.data.toList.drop 140 = dktJ25_grow_6 := sorry
theorem dksJ25_grow_7 : cJ25_grow.data.toList.drop 164 = dktJ25_grow_7 := sorry
theorem dJ25_grow_0 : decode cJ25_grow 0 = .ok (.aload_n 0, 1) := sorry
theorem dJ25_grow_1 : decode cJ25_grow 1 = .ok (.getfield 3, 3) := sorry
theorem dJ25_grow_4 : decode cJ25_grow 4 = .ok (.arraylength, 1) := sorry
theorem dJ25_grow_5 : decode cJ25_grow 5 = .ok (.istore_n 2, 1) := sorry
theorem dJ25_grow_6 : decode cJ25_grow 6 = .ok (.iload_n 2, 1) := sorry
theorem dJ25_grow_7 : decode cJ25_grow 7 = .ok (.bipush 64, 2) := sorry
theorem dJ25_grow_9 : decode cJ25_grow 9 = .ok (.if_icmp .ge 9, 3) := sorry
theorem dJ25_grow_12 : decode cJ25_grow 12 = .ok (.iload_n 2, 1) := sorry
theorem dJ25_grow_13 : decode cJ25_grow 13 = .ok (.iconst 2, 1) := sorry
theorem dJ25_grow_14 : decode cJ25_grow 14 = .ok (.iadd, 1) := sorry
theorem dJ25_grow_15 : decode cJ25_grow 15 = .ok (.goto 6, 3) := sorry
theorem dJ25_grow_18 : decode cJ25_grow 18 = .ok (.iload_n 2, 1) := sorry
theorem dJ25_grow_19 : decode cJ25_grow 19 = .ok (.iconst 1, 1) := sorry
theorem dJ25_grow_20 : decode cJ25_grow 20 = .ok (.ishr, 1) := sorry
theorem dJ25_grow_21 : decode cJ25_grow 21 = .ok (.istore 4, 2) := sorry
theorem dJ25_grow_23 : decode cJ25_grow 23 = .ok (.iload 4, 2) := sorry
theorem dJ25_grow_25 : decode cJ25_grow 25 = .ok (.iload_n 1, 1) := sorry
theorem dJ25_grow_26 : decode cJ25_grow 26 = .ok (.if_icmp .lt 15, 3) := sorry
theorem dJ25_grow_29 : decode cJ25_grow 29 = .ok (.iload_n 2, 1) := sorry
theorem dJ25_grow_30 : decode cJ25_grow 30 = .ok (.iload 4, 2) := sorry
theorem dJ25_grow_32 : decode cJ25_grow 32 = .ok (.iadd, 1) := sorry
theorem dJ25_grow_33 : decode cJ25_grow 33 = .ok (.dup, 1) := sorry
theorem dJ25_grow_34 : decode cJ25_grow 34 = .ok (.istore_n 3, 1) := sorry
theorem dJ25_grow_35 : decode cJ25_grow 35 = .ok (.ldc 9, 2) := sorry
theorem dJ25_grow_37 : decode cJ25_grow 37 = .ok (.isub, 1) := sorry
theorem dJ25_grow_38 : decode cJ25_grow 38 = .ok (.ifCond .le 11, 3) := sorry
theorem dJ25_grow_41 : decode cJ25_grow 41 = .ok (.aload_n 0, 1) := sorry
theorem dJ25_grow_42 : decode cJ25_grow 42 = .ok (.iload_n 1, 1) := sorry
theorem dJ25_grow_43 : decode cJ25_grow 43 = .ok (.iload 4, 2) := sorry
theorem dJ25_grow_45 : decode cJ25_grow 45 = .ok (.invokevirtual 10, 3) := sorry
theorem dJ25_grow_48 : decode cJ25_grow 48 = .ok (.istore_n 3, 1) := sorry
theorem dJ25_grow_49 : decode cJ25_grow 49 = .ok (.aload_n 0, 1) := sorry
theorem dJ25_grow_50 : decode cJ25_grow 50 = .ok (.aload_n 0, 1) := sorry
theorem dJ25_grow_51 : decode cJ25_grow 51 = .ok (.getfield 3, 3) := sorry
theorem dJ25_grow_54 : decode cJ25_grow 54 = .ok (.iload_n 3, 1) := sorry
theorem dJ25_grow_55 : decode cJ25_grow 55 = .ok (.invokestatic 14, 3) := sorry
theorem dJ25_grow_58 : decode cJ25_grow 58 = .ok (.dup_x1, 1) := sorry
theorem dJ25_grow_59 : decode cJ25_grow 59 = .ok (.putfield 3, 3) := sorry
theorem dJ25_grow_62 : decode cJ25_grow 62 = .ok (.astore 5, 2) := sorry
theorem dJ25_grow_64 : decode cJ25_grow 64 = .ok (.aload_n 0, 1) := sorry
theorem dJ25_grow_65 : decode cJ25_grow 65 = .ok (.getfield 20, 3) := sorry
theorem dJ25_grow_68 : decode cJ25_grow 68 = .ok (.aload_n 0, 1) := sorry
theorem dJ25_grow_69 : decode cJ25_grow 69 = .ok (.getfield 24, 3) := sorry
theorem dJ25_grow_72 : decode cJ25_grow 72 = .ok (.if_icmp .lt 24, 3) := sorry
theorem dJ25_grow_75 : decode cJ25_grow 75 = .ok (.aload_n 0, 1) := sorry
theorem dJ25_grow_76 : decode cJ25_grow 76 = .ok (.getfield 20, 3) := sorry
theorem dJ25_grow_79 : decode cJ25_grow 79 = .ok (.aload_n 0, 1) := sorry
theorem dJ25_grow_80 : decode cJ25_grow 80 = .ok (.getfield 24, 3) := sorry
theorem dJ25_grow_83 : decode cJ25_grow 83 = .ok (.if_icmp .ne 81, 3) := sorry
theorem dJ25_grow_86 : decode cJ25_grow 86 = .ok (.aload 5, 2) := sorry
theorem dJ25_grow_88 : decode cJ25_grow 88 = .ok (.aload_n 0, 1) := sorry
theorem dJ25_grow_89 : decode cJ25_grow 89 = .ok (.getfield 24, 3) := sorry
theorem dJ25_grow_92 : decode cJ25_grow 92 = .ok (.aaload, 1) := sorry
theorem dJ25_grow_93 : decode cJ25_grow 93 = .ok (.ifnull 71, 3) := sorry
theorem dJ25_grow_96 : decode cJ25_grow 96 = .ok (.iload_n 3, 1) := sorry
theorem dJ25_grow_97 : decode cJ25_grow 97 = .ok (.iload_n 2, 1) := sorry
theorem dJ25_grow_98 : decode cJ25_grow 98 = .ok (.isub, 1) := sorry
theorem dJ25_grow_99 : decode cJ25_grow 99 = .ok (.istore 6, 2) := sorry
theorem dJ25_grow_101 : decode cJ25_grow 101 = .ok (.aload 5, 2) := sorry
theorem dJ25_grow_103 : decode cJ25_grow 103 = .ok (.aload_n 0, 1) := sorry
theorem dJ25_grow_104 : decode cJ25_grow 104 = .ok (.getfield 24, 3) := sorry
theorem dJ25_grow_107 : decode cJ25_grow 107 = .ok (.aload 5, 2) := sorry
theorem dJ25_grow_109 : decode cJ25_grow 109 = .ok (.aload_n 0, 1) := sorry
theorem dJ25_grow_110 : decode cJ25_grow 110 = .ok (.getfield 24, 3) := sorry
theorem dJ25_grow_113 : decode cJ25_grow 113 = .ok (.iload 6, 2) := sorry
theorem dJ25_grow_115 : decode cJ25_grow 115 = .ok (.iadd, 1) := sorry
theorem dJ25_grow_116 : decode cJ25_grow 116 = .ok (.iload_n 2, 1) := sorry
theorem dJ25_grow_117 : decode cJ25_grow 117 = .ok (.aload_n 0, 1) := sorry
theorem dJ25_grow_118 : decode cJ25_grow 118 = .ok (.getfield 24, 3) := sorry
theorem dJ25_grow_121 : decode cJ25_grow 121 = .ok (.isub, 1) := sorry
theorem dJ25_grow_122 : decode cJ25_grow 122 = .ok (.invokestatic 27, 3) := sorry
theorem dJ25_grow_125 : decode cJ25_grow 125 = .ok (.aload_n 0, 1) := sorry
theorem dJ25_grow_126 : decode cJ25_grow 126 = .ok (.getfield 24, 3) := sorry
theorem dJ25_grow_129 : decode cJ25_grow 129 = .ok (.istore 7, 2) := sorry
theorem dJ25_grow_131 : decode cJ25_grow 131 = .ok (.aload_n 0, 1) := sorry
theorem dJ25_grow_132 : decode cJ25_grow 132 = .ok (.dup, 1) := sorry
theorem dJ25_grow_133 : decode cJ25_grow 133 = .ok (.getfield 24, 3) := sorry
theorem dJ25_grow_136 : decode cJ25_grow 136 = .ok (.iload 6, 2) := sorry
theorem dJ25_grow_138 : decode cJ25_grow 138 = .ok (.iadd, 1) := sorry
theorem dJ25_grow_139 : decode cJ25_grow 139 = .ok (.dup_x1, 1) := sorry
theorem dJ25_grow_140 : decode cJ25_grow 140 = .ok (.putfield 24, 3) := sorry
theorem dJ25_grow_143 : decode cJ25_grow 143 = .ok (.istore 8, 2) := sorry
theorem dJ25_grow_145 : decode cJ25_grow 145 = .ok (.iload 7, 2) := sorry
theorem dJ25_grow_147 : decode cJ25_grow 147 = .ok (.iload 8, 2) := sorry
theorem dJ25_grow_149 : decode cJ25_grow 149 = .ok (.if_icmp .ge 15, 3) := sorry
theorem dJ25_grow_152 : decode cJ25_grow 152 = .ok (.aload 5, 2) := sorry
theorem dJ25_grow_154 : decode cJ25_grow 154 = .ok (.iload 7, 2) := sorry
theorem dJ25_grow_156 : decode cJ25_grow 156 = .ok (.aconst_null, 1) := sorry
theorem dJ25_grow_157 : decode cJ25_grow 157 = .ok (.aastore, 1) := sorry
theorem dJ25_grow_158 : decode cJ25_grow 158 = .ok (.iinc 7 1, 3) := sorry
theorem dJ25_grow_161 : decode cJ25_grow 161 = .ok (.goto (-16), 3) := sorry
theorem dJ25_grow_164 : decode cJ25_grow 164 = .ok (.return_, 1) := sorry
abbrev cJ25_newCapacity : ByteArray := prog_48_method_2_code
def yJ25_newCapacity : MethodName := ⟨RJ25, "newCapacity", "(II)I"⟩
def dkwJ25_newCapacity_2 : List UInt8 := [18, 9, 100, 156, 0, 9, 29, 28, 96, 167, 0, 5, 18, 9, 172]
abbrev dktJ25_newCapacity_2 : List UInt8 := dkwJ25_newCapacity_2 ++ []
def dkwJ25_newCapacity_1 : List UInt8 := [187, 0, 33, 89, 18, 35, 183, 0, 37, 191, 18, 41, 172, 27, 28, 164, 0, 6, 21, 4, 172, 29, 28, 96]
abbrev dktJ25_newCapacity_1 : List UInt8 := dkwJ25_newCapacity_1 ++ dktJ25_newCapacity_2
def dkwJ25_newCapacity_0 : List UInt8 := [42, 180, 0, 3, 190, 62, 29, 27, 96, 89, 54, 4, 18, 9, 100, 158, 0, 21, 21, 4, 156, 0, 13]
abbrev dktJ25_newCapacity_0 : List UInt8 := dkwJ25_newCapacity_0 ++ dktJ25_newCapacity_1
theorem dksJ25_newCapacity_0 : cJ25_newCapacity.data.toList.drop 0 = dktJ25_newCapacity_0 := sorry
theorem dksJ25_newCapacity_1 : cJ25_newCapacity.data.toList.drop 23 = dktJ25_newCapacity_1 := sorry
theorem dksJ25_newCapacity_2 : cJ25_newCapacity.data.toList.drop 47 = dktJ25_newCapacity_2 := sorry
theorem dJ25_newCapacity_0 : decode cJ25_newCapacity 0 = .ok (.aload_n 0, 1) := sorry
theorem dJ25_newCapacity_1 : decode cJ25_newCapacity 1 = .ok (.getfield 3, 3) := sorry
theorem dJ25_newCapacity_4 : decode cJ25_newCapacity 4 = .ok (.arraylength, 1) := sorry
theorem dJ25_newCapacity_5 : decode cJ25_newCapacity 5 = .ok (.istore_n 3, 1) := sorry
theorem dJ25_newCapacity_6 : decode cJ25_newCapacity 6 = .ok (.iload_n 3, 1) := sorry
theorem dJ25_newCapacity_7 : decode cJ25_newCapacity 7 = .ok (.iload_n 1, 1) := sorry
theorem dJ25_newCapacity_8 : decode cJ25_newCapacity 8 = .ok (.iadd, 1) := sorry
theorem dJ25_newCapacity_9 : decode cJ25_newCapacity 9 = .ok (.dup, 1) := sorry
theorem dJ25_newCapacity_10 : decode cJ25_newCapacity 10 = .ok (.istore 4, 2) := sorry
theorem dJ25_newCapacity_12 : decode cJ25_newCapacity 12 = .ok (.ldc 9, 2) := sorry
theorem dJ25_newCapacity_14 : decode cJ25_newCapacity 14 = .ok (.isub, 1) := sorry
theorem dJ25_newCapacity_15 : decode cJ25_newCapacity 15 = .ok (.ifCond .le 21, 3) := sorry
theorem dJ25_newCapacity_18 : decode cJ25_newCapacity 18 = .ok (.iload 4, 2) := sorry
theorem dJ25_newCapacity_20 : decode cJ25_newCapacity 20 = .ok (.ifCond .ge 13, 3) := sorry
theorem dJ25_newCapacity_23 : decode cJ25_newCapacity 23 = .ok (.new 33, 3) := sorry
theorem dJ25_newCapacity_26 : decode cJ25_newCapacity 26 = .ok (.dup, 1) := sorry
theorem dJ25_newCapacity_27 : decode cJ25_newCapacity 27 = .ok (.ldc 35, 2) := sorry
theorem dJ25_newCapacity_29 : decode cJ25_newCapacity 29 = .ok (.invokespecial 37, 3) := sorry
theorem dJ25_newCapacity_32 : decode cJ25_newCapacity 32 = .ok (.athrow, 1) := sorry
theorem dJ25_newCapacity_33 : decode cJ25_newCapacity 33 = .ok (.ldc 41, 2) := sorry
theorem dJ25_newCapacity_35 : decode cJ25_newCapacity 35 = .ok (.ireturn, 1) := sorry
theorem dJ25_newCapacity_36 : decode cJ25_newCapacity 36 = .ok (.iload_n 1, 1) := sorry
theorem dJ25_newCapacity_37 : decode cJ25_newCapacity 37 = .ok (.iload_n 2, 1) := sorry
theorem dJ25_newCapacity_38 : decode cJ25_newCapacity 38 = .ok (.if_icmp .le 6, 3) := sorry
theorem dJ25_newCapacity_41 : decode cJ25_newCapacity 41 = .ok (.iload 4, 2) := sorry
theorem dJ25_newCapacity_43 : decode cJ25_newCapacity 43 = .ok (.ireturn, 1) := sorry
theorem dJ25_newCapacity_44 : decode cJ25_newCapacity 44 = .ok (.iload_n 3, 1) := sorry
theorem dJ25_newCapacity_45 : decode cJ25_newCapacity 45 = .ok (.iload_n 2, 1) := sorry
theorem dJ25_newCapacity_46 : decode cJ25_newCapacity 46 = .ok (.iadd, 1) := sorry
theorem dJ25_newCapacity_47 : decode cJ25_newCapacity 47 = .ok (.ldc 9, 2) := sorry
theorem dJ25_newCapacity_49 : decode cJ25_newCapacity 49 = .ok (.isub, 1) := sorry
theorem dJ25_newCapacity_50 : decode cJ25_newCapacity 50 = .ok (.ifCond .ge 9, 3) := sorry
theorem dJ25_newCapacity_53 : decode cJ25_newCapacity 53 = .ok (.iload_n 3, 1) := sorry
theorem dJ25_newCapacity_54 : decode cJ25_newCapacity 54 = .ok (.iload_n 2, 1) := sorry
theorem dJ25_newCapacity_55 : decode cJ25_newCapacity 55 = .ok (.iadd, 1) := sorry
theorem dJ25_newCapacity_56 : decode cJ25_newCapacity 56 = .ok (.goto 5, 3) := sorry
theorem dJ25_newCapacity_59 : decode cJ25_newCapacity 59 = .ok (.ldc 9, 2) := sorry
theorem dJ25_newCapacity_61 : decode cJ25_newCapacity 61 = .ok (.ireturn, 1) := sorry
theorem q163 : (Jvm.Cond.initialized "java/util/ArrayDeque") ∈ lw_all := sorry
theorem q576 : (Jvm.Cond.selects "java/util/ArrayDeque" ({ cls := "java/lang/Object", name := "getClass", desc := "()Ljava/lang/Class;" } : Jvm.MethodName) ({ cls := "java/lang/Object", name := "getClass", desc := "()Ljava/lang/Class;" } : Jvm.MethodName)) ∈ lw_all := sorry
theorem q1042 : (Jvm.Cond.instantiable "java/util/ArrayDeque" (3 : Nat)) ∈ lw_all := sorry
theorem q1044 : (Jvm.Cond.instanceMethod ({ cls := "java/util/ArrayDeque", name := "<init>", desc := "()V" } : Jvm.MethodName)) ∈ lw_all := sorry
theorem q1045 : (Jvm.Cond.code ({ cls := "java/util/ArrayDeque", name := "<init>", desc := "()V" } : Jvm.MethodName) prog_48_method_3_code (1 : Nat) (Option.none : Option Jvm.ClassFile.FieldType)) ∈ lw_all := sorry
theorem q1046 : (Jvm.Cond.methodLink "java/util/ArrayDeque" (42 : Nat) ({ cls := "java/util/AbstractCollection", name := "<init>", desc := "()V" } : Jvm.MethodName)) ∈ lw_all := sorry
theorem q1047 : (Jvm.Cond.classLink "java/util/ArrayDeque" (47 : Nat) "java/lang/Object") ∈ lw_all := sorry
theorem q1048 : (Jvm.Cond.fieldLink "java/util/ArrayDeque" (3 : Nat) "java/util/ArrayDeque" "elements" "[Ljava/lang/Object;") ∈ lw_all := lw_g (lw_at lw_m4 199 rfl) rfl
theorem q1049 : (Jvm.Cond.fieldLink "java/util/ArrayDeque" (24 : Nat) "java/util/ArrayDeque" "head" "I") ∈ lw_all := sorry
theorem q1050 : (Jvm.Cond.fieldLink "java/util/ArrayDeque" (20 : Nat) "java/util/ArrayDeque" "tail" "I") ∈ lw_all := sorry
theorem q1051 : (Jvm.Cond.lays "java/util/ArrayDeque" "java/util/ArrayDeque" "elements" "[Ljava/lang/Object;") ∈ lw_all := lw_g (lw_at lw_m4 202 rfl) rfl
theorem q1052 : (Jvm.Cond.soleField "java/util/ArrayDeque" "elements") ∈ lw_all := sorry
theorem q1053 : (Jvm.Cond.lays "java/util/ArrayDeque" "java/util/ArrayDeque" "head" "I") ∈ lw_all := sorry
theorem q1054 : (Jvm.Cond.soleField "java/util/ArrayDeque" "head") ∈ lw_all := sorry
theorem q1055 : (Jvm.Cond.lays "java/util/ArrayDeque" "java/util/ArrayDeque" "tail" "I") ∈ lw_all := sorry
theorem q1056 : (Jvm.Cond.soleField "java/util/ArrayDeque" "tail") ∈ lw_all := sorry
theorem q1057 : (Jvm.Cond.superclass "java/util/ArrayDeque" "java/util/AbstractCollection") ∈ lw_all := sorry
theorem q1453 : (Jvm.Cond.instanceMethod ({ cls := "java/util/ArrayDeque", name := "size", desc := "()I" } : Jvm.MethodName)) ∈ lw_all := sorry
theorem q1454 : (Jvm.Cond.selects "java/util/ArrayDeque" ({ cls := "java/util/ArrayDeque", name := "size", desc := "()I" } : Jvm.MethodName) ({ cls := "java/util/ArrayDeque", name := "size", desc := "()I" } : Jvm.MethodName)) ∈ lw_all := sorry
theorem q1455 : (Jvm.Cond.code ({ cls := "java/util/ArrayDeque", name := "size", desc := "()I" } : Jvm.MethodName) prog_48_method_37_code (1 : Nat) (Option.some Jvm.ClassFile.FieldType.int)) ∈ lw_all := sorry
theorem q1456 : (Jvm.Cond.methodLink "java/util/ArrayDeque" (127 : Nat) ({ cls := "java/util/ArrayDeque", name := "sub", desc := "(III)I" } : Jvm.MethodName)) ∈ lw_all := sorry
theorem q1457 : (Jvm.Cond.static ({ cls := "java/util/ArrayDeque", name := "sub", desc := "(III)I" } : Jvm.MethodName)) ∈ lw_all := sorry
theorem q1458 : (Jvm.Cond.code ({ cls := "java/util/ArrayDeque", name := "sub", desc := "(III)I" } : Jvm.MethodName) prog_48_method_9_code (3 : Nat) (Option.some Jvm.ClassFile.FieldType.int)) ∈ lw_all := sorry
theorem q1464 : (Jvm.Cond.instanceMethod ({ cls := "java/util/ArrayDeque", name := "isEmpty", desc := "()Z" } : Jvm.MethodName)) ∈ lw_all := sorry
theorem q1465 : (Jvm.Cond.selects "java/util/ArrayDeque" ({ cls := "java/util/ArrayDeque", name := "isEmpty", desc := "()Z" } : Jvm.MethodName) ({ cls := "java/util/ArrayDeque", name := "isEmpty", desc := "()Z" } : Jvm.MethodName)) ∈ lw_all := sorry
theorem q1466 : (Jvm.Cond.code ({ cls := "java/util/ArrayDeque", name := "isEmpty", desc := "()Z" } : Jvm.MethodName) prog_48_method_38_code (1 : Nat) (Option.some Jvm.ClassFile.FieldType.boolean)) ∈ lw_all := sorry
theorem q1468 : (Jvm.Cond.instanceMethod ({ cls := "java/util/ArrayDeque", name := "removeLast", desc := "()Ljava/lang/Object;" } : Jvm.MethodName)) ∈ lw_all := sorry
theorem q1469 : (Jvm.Cond.selects "java/util/ArrayDeque" ({ cls := "java/util/ArrayDeque", name := "removeLast", desc := "()Ljava/lang/Object;" } : Jvm.MethodName) ({ cls := "java/util/ArrayDeque", name := "removeLast", desc := "()Ljava/lang/Object;" } : Jvm.MethodName)) ∈ lw_all := sorry
theorem q1470 : (Jvm.Cond.code ({ cls := "java/util/ArrayDeque", name := "removeLast", desc := "()Ljava/lang/Object;" } : Jvm.MethodName) prog_48_method_19_code (2 : Nat) (Option.some (Jvm.ClassFile.FieldType.object "java/lang/Object"))) ∈ lw_all := sorry
theorem q1471 : (Jvm.Cond.methodLink "java/util/ArrayDeque" (100 : Nat) ({ cls := "java/util/ArrayDeque", name := "pollLast", desc := "()Ljava/lang/Object;" } : Jvm.MethodName)) ∈ lw_all := sorry
theorem q1472 : (Jvm.Cond.instanceMethod ({ cls := "java/util/ArrayDeque", name := "pollLast", desc := "()Ljava/lang/Object;" } : Jvm.MethodName)) ∈ lw_all := sorry
theorem q1473 : (Jvm.Cond.selects "java/util/ArrayDeque" ({ cls := "java/util/ArrayDeque", name := "pollLast", desc := "()Ljava/lang/Object;" } : Jvm.MethodName) ({ cls := "java/util/ArrayDeque", name := "pollLast", desc := "()Ljava/lang/Object;" } : Jvm.MethodName)) ∈ lw_all := sorry
theorem q1474 : (Jvm.Cond.code ({ cls := "java/util/ArrayDeque", name := "pollLast", desc := "()Ljava/lang/Object;" } : Jvm.MethodName) prog_48_method_21_code (4 : Nat) (Option.some (Jvm.ClassFile.FieldType.object "java/lang/Object"))) ∈ lw_all := sorry
theorem q1475 : (Jvm.Cond.methodLink "java/util/ArrayDeque" (68 : Nat) ({ cls := "java/util/ArrayDeque", name := "dec", desc := "(II)I" } : Jvm.MethodName)) ∈ lw_all := sorry
theorem q1476 : (Jvm.Cond.static ({ cls := "java/util/ArrayDeque", name := "dec", desc := "(II)I" } : Jvm.MethodName)) ∈ lw_all := sorry
theorem q1477 : (Jvm.Cond.code ({ cls := "java/util/ArrayDeque", name := "dec", desc := "(II)I" } : Jvm.MethodName) prog_48_method_7_code (2 : Nat) (Option.some Jvm.ClassFile.FieldType.int)) ∈ lw_all := sorry
theorem q1478 : (Jvm.Cond.methodLink "java/util/ArrayDeque" (103 : Nat) ({ cls := "java/util/ArrayDeque", name := "elementAt", desc := "([Ljava/lang/Object;I)Ljava/lang/Object;" } : Jvm.MethodName)) ∈ lw_all := lw_g (lw_at lw_m6 149 rfl) rfl
theorem q1479 : (Jvm.Cond.static ({ cls := "java/util/ArrayDeque", name := "elementAt", desc := "([Ljava/lang/Object;I)Ljava/lang/Object;" } : Jvm.MethodName)) ∈ lw_all := lw_g (lw_at lw_m6 150 rfl) rfl
theorem q1480 : (Jvm.Cond.code ({ cls := "java/util/ArrayDeque", name := "elementAt", desc := "([Ljava/lang/Object;I)Ljava/lang/Object;" } : Jvm.MethodName) prog_48_method_10_code (2 : Nat) (Option.some (Jvm.ClassFile.FieldType.object "java/lang/Object"))) ∈ lw_all := lw_g (lw_at lw_m6 151 rfl) rfl
theorem q1481 : (Jvm.Cond.classLink "java/util/ArrayDeque" (97 : Nat) "java/util/NoSuchElementException") ∈ lw_all := sorry
theorem q1482 : (Jvm.Cond.methodLink "java/util/ArrayDeque" (99 : Nat) ({ cls := "java/util/NoSuchElementException", name := "<init>", desc := "()V" } : Jvm.MethodName)) ∈ lw_all := sorry
theorem q1492 : (Jvm.Cond.instanceMethod ({ cls := "java/util/ArrayDeque", name := "clear", desc := "()V" } : Jvm.MethodName)) ∈ lw_all := sorry
theorem q1493 : (Jvm.Cond.selects "java/util/ArrayDeque" ({ cls := "java/util/ArrayDeque", name := "clear", desc := "()V" } : Jvm.MethodName) ({ cls := "java/util/ArrayDeque", name := "clear", desc := "()V" } : Jvm.MethodName)) ∈ lw_all := sorry
theorem q1494 : (Jvm.Cond.code ({ cls := "java/util/ArrayDeque", name := "clear", desc := "()V" } : Jvm.MethodName) prog_48_method_53_code (1 : Nat) (Option.none : Option Jvm.ClassFile.FieldType)) ∈ lw_all := sorry
theorem q1495 : (Jvm.Cond.methodLink "java/util/ArrayDeque" (181 : Nat) ({ cls := "java/util/ArrayDeque", name := "circularClear", desc := "([Ljava/lang/Object;II)V" } : Jvm.MethodName)) ∈ lw_all := lw_g (lw_at lw_m6 166 rfl) rfl
theorem q1496 : (Jvm.Cond.static ({ cls := "java/util/ArrayDeque", name := "circularClear", desc := "([Ljava/lang/Object;II)V" } : Jvm.MethodName)) ∈ lw_all := lw_g (lw_at lw_m6 167 rfl) rfl
theorem q1497 : (Jvm.Cond.code ({ cls := "java/util/ArrayDeque", name := "circularClear", desc := "([Ljava/lang/Object;II)V" } : Jvm.MethodName) prog_48_method_54_code (4 : Nat) (Option.none : Option Jvm.ClassFile.FieldType)) ∈ lw_all := lw_g (lw_at lw_m6 168 rfl) rfl
theorem q2004 : (Jvm.Cond.instanceMethod ({ cls := "java/util/ArrayDeque", name := "removeFirst", desc := "()Ljava/lang/Object;" } : Jvm.MethodName)) ∈ lw_all := sorry
theorem q2005 : (Jvm.Cond.selects "java/util/ArrayDeque" ({ cls := "java/util/ArrayDeque", name := "removeFirst", desc := "()Ljava/lang/Object;" } : Jvm.MethodName) ({ cls := "java/util/ArrayDeque", name := "removeFirst", desc := "()Ljava/lang/Object;" } : Jvm.MethodName)) ∈ lw_all := sorry
theorem q2006 : (Jvm.Cond.code ({ cls := "java/util/ArrayDeque", name := "removeFirst", desc := "()Ljava/lang/Object;" } : Jvm.MethodName) prog_48_method_18_code (2 : Nat) (Option.some (Jvm.ClassFile.FieldType.object "java/lang/Object"))) ∈ lw_all := sorry
theorem q2007 : (Jvm.Cond.methodLink "java/util/ArrayDeque" (93 : Nat) ({ cls := "java/util/ArrayDeque", name := "pollFirst", desc := "()Ljava/lang/Object;" } : Jvm.MethodName)) ∈ lw_all := sorry
theorem q2008 : (Jvm.Cond.instanceMethod ({ cls := "java/util/ArrayDeque", name := "pollFirst", desc := "()Ljava/lang/Object;" } : Jvm.MethodName)) ∈ lw_all := sorry
theorem q2009 : (Jvm.Cond.selects "java/util/ArrayDeque" ({ cls := "java/util/ArrayDeque", name := "pollFirst", desc := "()Ljava/lang/Object;" } : Jvm.MethodName) ({ cls := "java/util/ArrayDeque", name := "pollFirst", desc := "()Ljava/lang/Object;" } : Jvm.MethodName)) ∈ lw_all := sorry
theorem q2010 : (Jvm.Cond.code ({ cls := "java/util/ArrayDeque", name := "pollFirst", desc := "()Ljava/lang/Object;" } : Jvm.MethodName) prog_48_method_20_code (4 : Nat) (Option.some (Jvm.ClassFile.FieldType.object "java/lang/Object"))) ∈ lw_all := sorry
theorem q2011 : (Jvm.Cond.methodLink "java/util/ArrayDeque" (74 : Nat) ({ cls := "java/util/ArrayDeque", name := "inc", desc := "(II)I" } : Jvm.MethodName)) ∈ lw_all := sorry
theorem q2012 : (Jvm.Cond.static ({ cls := "java/util/ArrayDeque", name := "inc", desc := "(II)I" } : Jvm.MethodName)) ∈ lw_all := sorry
theorem q2013 : (Jvm.Cond.code ({ cls := "java/util/ArrayDeque", name := "inc", desc := "(II)I" } : Jvm.MethodName) prog_48_method_6_code (2 : Nat) (Option.some Jvm.ClassFile.FieldType.int)) ∈ lw_all := sorry
theorem q2015 : (Jvm.Cond.instanceMethod ({ cls := "java/util/ArrayDeque", name := "addLast", desc := "(Ljava/lang/Object;)V" } : Jvm.MethodName)) ∈ lw_all := sorry
theorem q2016 : (Jvm.Cond.selects "java/util/ArrayDeque" ({ cls := "java/util/ArrayDeque", name := "addLast", desc := "(Ljava/lang/Object;)V" } : Jvm.MethodName) ({ cls := "java/util/ArrayDeque", name := "addLast", desc := "(Ljava/lang/Object;)V" } : Jvm.MethodName)) ∈ lw_all := sorry
theorem q2017 : (Jvm.Cond.code ({ cls := "java/util/ArrayDeque", name := "addLast", desc := "(Ljava/lang/Object;)V" } : Jvm.MethodName) prog_48_method_13_code (3 : Nat) (Option.none : Option Jvm.ClassFile.FieldType)) ∈ lw_all := sorry
theorem q2018 : (Jvm.Cond.methodLink "java/util/ArrayDeque" (71 : Nat) ({ cls := "java/util/ArrayDeque", name := "grow", desc := "(I)V" } : Jvm.MethodName)) ∈ lw_all := sorry
theorem q2019 : (Jvm.Cond.privateMethod ({ cls := "java/util/ArrayDeque", name := "grow", desc := "(I)V" } : Jvm.MethodName)) ∈ lw_tbl := sorry
theorem q2020 : (Jvm.Cond.instanceMethod ({ cls := "java/util/ArrayDeque", name := "grow", desc := "(I)V" } : Jvm.MethodName)) ∈ lw_all := sorry
theorem q2021 : (Jvm.Cond.code ({ cls := "java/util/ArrayDeque", name := "grow", desc := "(I)V" } : Jvm.MethodName) prog_48_method_1_code (9 : Nat) (Option.none : Option Jvm.ClassFile.FieldType)) ∈ lw_all := sorry
theorem q2022 : (Jvm.Cond.constant "java/util/ArrayDeque" (9 : Nat) (2147483639 : Int32)) ∈ lw_all := sorry
theorem q2023 : (Jvm.Cond.methodLink "java/util/ArrayDeque" (10 : Nat) ({ cls := "java/util/ArrayDeque", name := "newCapacity", desc := "(II)I" } : Jvm.MethodName)) ∈ lw_all := sorry
theorem q2024 : (Jvm.Cond.privateMethod ({ cls := "java/util/ArrayDeque", name := "newCapacity", desc := "(II)I" } : Jvm.MethodName)) ∈ lw_tbl := sorry
theorem q2025 : (Jvm.Cond.instanceMethod ({ cls := "java/util/ArrayDeque", name := "newCapacity", desc := "(II)I" } : Jvm.MethodName)) ∈ lw_all := sorry
theorem q2026 : (Jvm.Cond.code ({ cls := "java/util/ArrayDeque", name := "newCapacity", desc := "(II)I" } : Jvm.MethodName) prog_48_method_2_code (5 : Nat) (Option.some Jvm.ClassFile.FieldType.int)) ∈ lw_all := sorry
theorem q2027 : (Jvm.Cond.constant "java/util/ArrayDeque" (41 : Nat) (2147483647 : Int32)) ∈ lw_all := sorry
theorem q2028 : (Jvm.Cond.methodLink "java/util/ArrayDeque" (14 : Nat) ({ cls := "java/util/Arrays", name := "copyOf", desc := "([Ljava/lang/Object;I)[Ljava/lang/Object;" } : Jvm.MethodName)) ∈ lw_all := lw_g (lw_at lw_m8 219 rfl) rfl
theorem q2029 : (Jvm.Cond.methodLink "java/util/ArrayDeque" (27 : Nat) ({ cls := "java/lang/System", name := "arraycopy", desc := "(Ljava/lang/Object;ILjava/lang/Object;II)V" } : Jvm.MethodName)) ∈ lw_all := sorry
theorem q3243 : (Jvm.Cond.castable "java/util/ArrayDeque" "java/lang/Object") ∈ lw_tbl := sorry
theorem in_J25 : ∀ w ∈ wsJ250, w ∈ lw_all := sorry
/-! java/util/List -/
set_option maxRecDepth 100000
def RJ26 : String := "java/util/List"
abbrev cJ26_of : ByteArray := prog_67_method_41_code
def yJ26_of : MethodName := ⟨RJ26, "of", "(Ljava/lang/Object;Ljava/lang/Object;Ljava/lang/Object;Ljava/lang/Object;Ljava/lang/Object;)Ljava/util/List;"⟩
def dkwJ26_of_1 : List UInt8 := [83, 184, 0, 105, 176]
abbrev dktJ26_of_1 : List UInt8 := dkwJ26_of_1 ++ []
def dkwJ26_of_0 : List UInt8 := [8, 189, 0, 103, 89, 3, 42, 83, 89, 4, 43, 83, 89, 5, 44, 83, 89, 6, 45, 83, 89, 7, 25, 4]
abbrev dktJ26_of_0 : List UInt8 := dkwJ26_of_0 ++ dktJ26_of_1
theorem dksJ26_of_0 : cJ26_of.data.toList.drop 0 = dktJ26_of_0 := sorry
theorem dksJ26_of_1 : cJ26_of.data.toList.drop 24 = dktJ26_of_1 := sorry
theorem dJ26_of_0 : decode cJ26_of 0 = .ok (.iconst 5, 1) := sorry
theorem dJ26_of_1 : decode cJ26_of 1 = .ok (.anewarray 103, 3) := sorry
theorem dJ26_of_4 : decode cJ26_of 4 = .ok (.dup, 1) := sorry
theorem dJ26_of_5 : decode cJ26_of 5 = .ok (.iconst 0, 1) := sorry
theorem dJ26_of_6 : decode cJ26_of 6 = .ok (.aload_n 0, 1) := sorry
theorem dJ26_of_7 : decode cJ26_of 7 = .ok (.aastore, 1) := sorry
theorem dJ26_of_8 : decode cJ26_of 8 = .ok (.dup, 1) := sorry
theorem dJ26_of_9 : decode cJ26_of 9 = .ok (.iconst 1, 1) := sorry
theorem dJ26_of_10 : decode cJ26_of 10 = .ok (.aload_n 1, 1) := sorry
theorem dJ26_of_11 : decode cJ26_of 11 = .ok (.aastore, 1) := sorry
theorem dJ26_of_12 : decode cJ26_of 12 = .ok (.dup, 1) := sorry
theorem dJ26_of_13 : decode cJ26_of 13 = .ok (.iconst 2, 1) := sorry
theorem dJ26_of_14 : decode cJ26_of 14 = .ok (.aload_n 2, 1) := sorry
theorem dJ26_of_15 : decode cJ26_of 15 = .ok (.aastore, 1) := sorry
theorem dJ26_of_16 : decode cJ26_of 16 = .ok (.dup, 1) := sorry
theorem dJ26_of_17 : decode cJ26_of 17 = .ok (.iconst 3, 1) := sorry
theorem dJ26_of_18 : decode cJ26_of 18 = .ok (.aload_n 3, 1) := sorry
theorem dJ26_of_19 : decode cJ26_of 19 = .ok (.aastore, 1) := sorry
theorem dJ26_of_20 : decode cJ26_of 20 = .ok (.dup, 1) := sorry
theorem dJ26_of_21 : decode cJ26_of 21 = .ok (.iconst 4, 1) := sorry
theorem dJ26_of_22 : decode cJ26_of 22 = .ok (.aload 4, 2) := sorry
theorem dJ26_of_24 : decode cJ26_of 24 = .ok (.aastore, 1) := sorry
theorem dJ26_of_25 : decode cJ26_of 25 = .ok (.invokestatic 105, 3) := sorry
theorem dJ26_of_28 : decode cJ26_of 28 = .ok (.areturn, 1) := sorry
theorem q164 : (Jvm.Cond.initialized "java/util/List") ∈ lw_all := sorry
theorem q1064 : (Jvm.Cond.static ({ cls := "java/util/List", name := "of", desc := "(Ljava/lang/Object;Ljava/lang/Object;Ljava/lang/Object;Ljava/lang/Object;Ljava/lang/Object;)Ljava/util/List;" } : Jvm.MethodName)) ∈ lw_all := sorry
theorem q1065 : (Jvm.Cond.code ({ cls := "java/util/List", name := "of", desc := "(Ljava/lang/Object;Ljava/lang/Object;Ljava/lang/Object;Ljava/lang/Object;Ljava/lang/Object;)Ljava/util/List;" } : Jvm.MethodName) prog_67_method_41_code (5 : Nat) (Option.some (Jvm.ClassFile.FieldType.object "java/util/List"))) ∈ lw_all := sorry
theorem q1066 : (Jvm.Cond.classLink "java/util/List" (103 : Nat) "java/lang/Object") ∈ lw_all := sorry
theorem q1067 : (Jvm.Cond.methodLink "java/util/List" (105 : Nat) ({ cls := "java/util/ImmutableCollections", name := "listFromTrustedArray", desc := "([Ljava/lang/Object;)Ljava/util/List;" } : Jvm.MethodName)) ∈ lw_all := lw_g (lw_at lw_m4 218 rfl) rfl
theorem q2395 : (Jvm.Cond.interfaceMethod "java/util/List" "java/util/List" "indexOf" "(Ljava/lang/Object;)I") ∈ lw_tbl := sorry
theorem q2396 : (Jvm.Cond.declares ({ cls := "java/util/List", name := "indexOf", desc := "(Ljava/lang/Object;)I" } : Jvm.MethodName)) ∈ lw_tbl := sorry
/-! java/util/ImmutableCollections -/
set_option maxRecDepth 100000
def RJ27 : String := "java/util/ImmutableCollections"
abbrev cJ27_listFromTrustedArray : ByteArray := prog_57_method_5_code
def yJ27_listFromTrustedArray : MethodName := ⟨RJ27, "listFromTrustedArray", "([Ljava/lang/Object;)Ljava/util/List;"⟩
def dkwJ27_listFromTrustedArray_5 : List UInt8 := [3, 50, 42, 4, 50, 183, 0, 67, 167, 0, 12, 187, 0, 12, 89, 42, 3, 183, 0, 43, 176]
abbrev dktJ27_listFromTrustedArray_5 : List UInt8 := dkwJ27_listFromTrustedArray_5 ++ []
def dkwJ27_listFromTrustedArray_4 : List UInt8 := [178, 0, 60, 167, 0, 41, 187, 0, 10, 89, 42, 3, 50, 183, 0, 64, 167, 0, 28, 187, 0, 10, 89, 42]
abbrev dktJ27_listFromTrustedArray_4 : List UInt8 := dkwJ27_listFromTrustedArray_4 ++ dktJ27_listFromTrustedArray_5
def dkwJ27_listFromTrustedArray_3 : List UInt8 := [170, 0, 0, 0, 0, 61, 0, 0, 0, 0, 0, 0, 0, 2, 0, 0, 0, 26, 0, 0, 0, 32, 0, 0, 0, 45]
abbrev dktJ27_listFromTrustedArray_3 : List UInt8 := dkwJ27_listFromTrustedArray_3 ++ dktJ27_listFromTrustedArray_4
def dkwJ27_listFromTrustedArray_2 : List UInt8 := [132, 3, 1, 167, 255, 237, 42, 190]
abbrev dktJ27_listFromTrustedArray_2 : List UInt8 := dkwJ27_listFromTrustedArray_2 ++ dktJ27_listFromTrustedArray_3
def dkwJ27_listFromTrustedArray_1 : List UInt8 := [76, 43, 190, 61, 3, 62, 29, 28, 162, 0, 20, 43, 29, 50, 58, 4, 25, 4, 184, 0, 37, 87]
abbrev dktJ27_listFromTrustedArray_1 : List UInt8 := dkwJ27_listFromTrustedArray_1 ++ dktJ27_listFromTrustedArray_2
def dkwJ27_listFromTrustedArray_0 : List UInt8 := [178, 0, 46, 154, 0, 20, 42, 182, 0, 51, 18, 55, 165, 0, 11, 187, 0, 57, 89, 183, 0, 59, 191, 42]
abbrev dktJ27_listFromTrustedArray_0 : List UInt8 := dkwJ27_listFromTrustedArray_0 ++ dktJ27_listFromTrustedArray_1
theorem dksJ27_listFromTrustedArray_0 : cJ27_listFromTrustedArray.data.toList.drop 0 = dktJ27_listFromTrustedArray_0 := sorry
theorem dksJ27_listFromTrustedArray_1 : cJ27_listFromTrustedArray.data.toList.drop 24 = dktJ27_listFromTrustedArray_1 := sorry
theorem dksJ27_listFromTrustedArray_2 : cJ27_listFromTrustedArray.data.toList.drop 46 = dktJ27_listFromTrustedArray_2 := sorry
theorem dksJ27_listFromTrustedArray_3 : cJ27_listFromTrustedArray.data.toList.drop 54 = dktJ27_listFromTrustedArray_3 := sorry
theorem dksJ27_listFromTrustedArray_4 : cJ27_listFromTrustedArray.data.toList.drop 80 = dktJ27_listFromTrustedArray_4 := sorry
theorem dksJ27_listFromTrustedArray_5 : cJ27_listFromTrustedArray.data.toList.drop 104 = dktJ27_listFromTrustedArray_5 := sorry
theorem dJ27_listFromTrustedArray_0 : decode cJ27_listFromTrustedArray 0 = .ok (.getstatic 46, 3) := sorry
theorem dJ27_listFromTrustedArray_3 : decode cJ27_listFromTrustedArray 3 = .ok (.ifCond .ne 20, 3) := sorry
theorem dJ27_listFromTrustedArray_6 : decode cJ27_listFromTrustedArray 6 = .ok (.aload_n 0, 1) := sorry
theorem dJ27_listFromTrustedArray_7 : decode cJ27_listFromTrustedArray 7 = .ok (.invokevirtual 51, 3) := sorry
theorem dJ27_listFromTrustedArray_10 : decode cJ27_listFromTrustedArray 10 = .ok (.ldc 55, 2) := sorry
theorem dJ27_listFromTrustedArray_12 : decode cJ27_listFromTrustedArray 12 = .ok (.if_acmp .eq 11, 3) := sorry
theorem dJ27_listFromTrustedArray_15 : decode cJ27_listFromTrustedArray 15 = .ok (.new 57, 3) := sorry
theorem dJ27_listFromTrustedArray_18 : decode cJ27_listFromTrustedArray 18 = .ok (.dup, 1) := sorry
theorem dJ27_listFromTrustedArray_19 : decode cJ27_listFromTrustedArray 19 = .ok (.invokespecial 59, 3) := sorry
theorem dJ27_listFromTrustedArray_22 : decode cJ27_listFromTrustedArray 22 = .ok (.athrow, 1) := sorry
theorem dJ27_listFromTrustedArray_23 : decode cJ27_listFromTrustedArray 23 = .ok (.aload_n 0, 1) := sorry
theorem dJ27_listFromTrustedArray_24 : decode cJ27_listFromTrustedArray 24 = .ok (.astore_n 1, 1) := sorry
theorem dJ27_listFromTrustedArray_25 : decode cJ27_listFromTrustedArray 25 = .ok (.aload_n 1, 1) := sorry
theorem dJ27_listFromTrustedArray_26 : decode cJ27_listFromTrustedArray 26 = .ok (.arraylength, 1) := sorry
theorem dJ27_listFromTrustedArray_27 : decode cJ27_listFromTrustedArray 27 = .ok (.istore_n 2, 1) := sorry
theorem dJ27_listFromTrustedArray_28 : decode cJ27_listFromTrustedArray 28 = .ok (.iconst 0, 1) := sorry
theorem dJ27_listFromTrustedArray_29 : decode cJ27_listFromTrustedArray 29 = .ok (.istore_n 3, 1) := sorry
theorem dJ27_listFromTrustedArray_30 : decode cJ27_listFromTrustedArray 30 = .ok (.iload_n 3, 1) := sorry
theorem dJ27_listFromTrustedArray_31 : decode cJ27_listFromTrustedArray 31 = .ok (.iload_n 2, 1) := sorry
theorem dJ27_listFromTrustedArray_32 : decode cJ27_listFromTrustedArray 32 = .ok (.if_icmp .ge 20, 3) := sorry
theorem dJ27_listFromTrustedArray_35 : decode cJ27_listFromTrustedArray 35 = .ok (.aload_n 1, 1) := sorry
theorem dJ27_listFromTrustedArray_36 : decode cJ27_listFromTrustedArray 36 = .ok (.iload_n 3, 1) := sorry
theorem dJ27_listFromTrustedArray_37 : decode cJ27_listFromTrustedArray 37 = .ok (.aaload, 1) := sorry
theorem dJ27_listFromTrustedArray_38 : decode cJ27_listFromTrustedArray 38 = .ok (.astore 4, 2) := sorry
theorem dJ27_listFromTrustedArray_40 : decode cJ27_listFromTrustedArray 40 = .ok (.aload 4, 2) := sorry
theorem dJ27_listFromTrustedArray_42 : decode cJ27_listFromTrustedArray 42 = .ok (.invokestatic 37, 3) := sorry
theorem dJ27_listFromTrustedArray_45 : decode cJ27_listFromTrustedArray 45 = .ok (.pop, 1) := sorry
theorem dJ27_listFromTrustedArray_46 : decode cJ27_listFromTrustedArray 46 = .ok (.iinc 3 1, 3) := sorry
theorem dJ27_listFromTrustedArray_49 : decode cJ27_listFromTrustedArray 49 = .ok (.goto (-19), 3) := sorry
theorem dJ27_listFromTrustedArray_52 : decode cJ27_listFromTrustedArray 52 = .ok (.aload_n 0, 1) := sorry
theorem dJ27_listFromTrustedArray_53 : decode cJ27_listFromTrustedArray 53 = .ok (.arraylength, 1) := sorry
theorem dJ27_listFromTrustedArray_54 : decode cJ27_listFromTrustedArray 54 = .ok (.tableswitch 61 0 2 #[26, 32, 45], 26) := sorry
theorem dJ27_listFromTrustedArray_80 : decode cJ27_listFromTrustedArray 80 = .ok (.getstatic 60, 3) := sorry
theorem dJ27_listFromTrustedArray_83 : decode cJ27_listFromTrustedArray 83 = .ok (.goto 41, 3) := sorry
theorem dJ27_listFromTrustedArray_86 : decode cJ27_listFromTrustedArray 86 = .ok (.new 10, 3) := sorry
theorem dJ27_listFromTrustedArray_89 : decode cJ27_listFromTrustedArray 89 = .ok (.dup, 1) := sorry
theorem dJ27_listFromTrustedArray_90 : decode cJ27_listFromTrustedArray 90 = .ok (.aload_n 0, 1) := sorry
theorem dJ27_listFromTrustedArray_91 : decode cJ27_listFromTrustedArray 91 = .ok (.iconst 0, 1) := sorry
theorem dJ27_listFromTrustedArray_92 : decode cJ27_listFromTrustedArray 92 = .ok (.aaload, 1) := sorry
theorem dJ27_listFromTrustedArray_93 : decode cJ27_listFromTrustedArray 93 = .ok (.invokespecial 64, 3) := sorry
theorem dJ27_listFromTrustedArray_96 : decode cJ27_listFromTrustedArray 96 = .ok (.goto 28, 3) := sorry
theorem dJ27_listFromTrustedArray_99 : decode cJ27_listFromTrustedArray 99 = .ok (.new 10, 3) := sorry
theorem dJ27_listFromTrustedArray_102 : decode cJ27_listFromTrustedArray 102 = .ok (.dup, 1) := sorry
theorem dJ27_listFromTrustedArray_103 : decode cJ27_listFromTrustedArray 103 = .ok (.aload_n 0, 1) := sorry
theorem dJ27_listFromTrustedArray_104 : decode cJ27_listFromTrustedArray 104 = .ok (.iconst 0, 1) := sorry
theorem dJ27_listFromTrustedArray_105 : decode cJ27_listFromTrustedArray 105 = .ok (.aaload, 1) := sorry
theorem dJ27_listFromTrustedArray_106 : decode cJ27_listFromTrustedArray 106 = .ok (.aload_n 0, 1) := sorry
theorem dJ27_listFromTrustedArray_107 : decode cJ27_listFromTrustedArray 107 = .ok (.iconst 1, 1) := sorry
theorem dJ27_listFromTrustedArray_108 : decode cJ27_listFromTrustedArray 108 = .ok (.aaload, 1) := sorry
theorem dJ27_listFromTrustedArray_109 : decode cJ27_listFromTrustedArray 109 = .ok (.invokespecial 67, 3) := sorry
theorem dJ27_listFromTrustedArray_112 : decode cJ27_listFromTrustedArray 112 = .ok (.goto 12, 3) := sorry
theorem dJ27_listFromTrustedArray_115 : decode cJ27_listFromTrustedArray 115 = .ok (.new 12, 3) := sorry
theorem dJ27_listFromTrustedArray_118 : decode cJ27_listFromTrustedArray 118 = .ok (.dup, 1) := sorry
theorem dJ27_listFromTrustedArray_119 : decode cJ27_listFromTrustedArray 119 = .ok (.aload_n 0, 1) := sorry
theorem dJ27_listFromTrustedArray_120 : decode cJ27_listFromTrustedArray 120 = .ok (.iconst 0, 1) := sorry
theorem dJ27_listFromTrustedArray_121 : decode cJ27_listFromTrustedArray 121 = .ok (.invokespecial 43, 3) := sorry
theorem dJ27_listFromTrustedArray_124 : decode cJ27_listFromTrustedArray 124 = .ok (.areturn, 1) := sorry
theorem q165 : (Jvm.Cond.initialized "java/util/ImmutableCollections") ∈ lw_all := sorry
theorem q1068 : (Jvm.Cond.static ({ cls := "java/util/ImmutableCollections", name := "listFromTrustedArray", desc := "([Ljava/lang/Object;)Ljava/util/List;" } : Jvm.MethodName)) ∈ lw_all := lw_g (lw_at lw_m4 219 rfl) rfl
theorem q1069 : (Jvm.Cond.code ({ cls := "java/util/ImmutableCollections", name := "listFromTrustedArray", desc := "([Ljava/lang/Object;)Ljava/util/List;" } : Jvm.MethodName) prog_57_method_5_code (5 : Nat) (Option.some (Jvm.ClassFile.FieldType.object "java/util/List"))) ∈ lw_all := lw_g (lw_at lw_m4 220 rfl) rfl
theorem q1070 : (Jvm.Cond.fieldLink "java/util/ImmutableCollections" (46 : Nat) "java/util/ImmutableCollections" "$assertionsDisabled" "Z") ∈ lw_all := sorry
theorem q1071 : (Jvm.Cond.laysStatic "java/util/ImmutableCollections" "$assertionsDisabled" "Z") ∈ lw_tbl := sorry
theorem q1072 : (Jvm.Cond.methodLink "java/util/ImmutableCollections" (51 : Nat) ({ cls := "java/lang/Object", name := "getClass", desc := "()Ljava/lang/Class;" } : Jvm.MethodName)) ∈ lw_all := sorry
theorem q1073 : (Jvm.Cond.classLink "java/util/ImmutableCollections" (55 : Nat) "[Ljava/lang/Object;") ∈ lw_all := lw_g (lw_at lw_m4 224 rfl) rfl
theorem q1074 : (Jvm.Cond.methodLink "java/util/ImmutableCollections" (37 : Nat) ({ cls := "java/util/Objects", name := "requireNonNull", desc := "(Ljava/lang/Object;)Ljava/lang/Object;" } : Jvm.MethodName)) ∈ lw_all := sorry
theorem q1077 : (Jvm.Cond.fieldLink "java/util/ImmutableCollections" (60 : Nat) "java/util/ImmutableCollections" "EMPTY_LIST" "Ljava/util/ImmutableCollections$ListN;") ∈ lw_all := sorry
theorem q1078 : (Jvm.Cond.laysStatic "java/util/ImmutableCollections" "EMPTY_LIST" "Ljava/util/ImmutableCollections$ListN;") ∈ lw_tbl := sorry
theorem q1079 : (Jvm.Cond.classLink "java/util/ImmutableCollections" (10 : Nat) "java/util/ImmutableCollections$List12") ∈ lw_all := sorry
theorem q1081 : (Jvm.Cond.methodLink "java/util/ImmutableCollections" (64 : Nat) ({ cls := "java/util/ImmutableCollections$List12", name := "<init>", desc := "(Ljava/lang/Object;)V" } : Jvm.MethodName)) ∈ lw_all := sorry
theorem q1093 : (Jvm.Cond.laysStatic "java/util/ImmutableCollections" "EMPTY" "Ljava/lang/Object;") ∈ lw_tbl := sorry
theorem q1101 : (Jvm.Cond.methodLink "java/util/ImmutableCollections" (67 : Nat) ({ cls := "java/util/ImmutableCollections$List12", name := "<init>", desc := "(Ljava/lang/Object;Ljava/lang/Object;)V" } : Jvm.MethodName)) ∈ lw_all := sorry
theorem q1104 : (Jvm.Cond.classLink "java/util/ImmutableCollections" (12 : Nat) "java/util/ImmutableCollections$ListN") ∈ lw_all := sorry
theorem q1106 : (Jvm.Cond.methodLinkNest "java/util/ImmutableCollections" (43 : Nat) ({ cls := "java/util/ImmutableCollections$ListN", name := "<init>", desc := "([Ljava/lang/Object;Z)V" } : Jvm.MethodName) "java/util/ImmutableCollections") ∈ lw_tbl := lw_at lw_m5 17 rfl
/-! java/util/ImmutableCollections$AbstractImmutableCollection -/
set_option maxRecDepth 100000
def RJ28 : String := "java/util/ImmutableCollections$AbstractImmutableCollection"
abbrev cJ28_init : ByteArray := prog_58_method_1_code
def yJ28_init : MethodName := ⟨RJ28, "<init>", "()V"⟩
theorem dJ28_init_0 : decode cJ28_init 0 = .ok (.aload_n 0, 1) := sorry
theorem dJ28_init_1 : decode cJ28_init 1 = .ok (.invokespecial 1, 3) := sorry
theorem dJ28_init_4 : decode cJ28_init 4 = .ok (.return_, 1) := sorry
theorem q166 : (Jvm.Cond.initialized "java/util/ImmutableCollections$AbstractImmutableCollection") ∈ lw_all := sorry
theorem q1088 : (Jvm.Cond.instanceMethod ({ cls := "java/util/ImmutableCollections$AbstractImmutableCollection", name := "<init>", desc := "()V" } : Jvm.MethodName)) ∈ lw_all := sorry
theorem q1089 : (Jvm.Cond.code ({ cls := "java/util/ImmutableCollections$AbstractImmutableCollection", name := "<init>", desc := "()V" } : Jvm.MethodName) prog_58_method_1_code (1 : Nat) (Option.none : Option Jvm.ClassFile.FieldType)) ∈ lw_all := sorry
theorem q1090 : (Jvm.Cond.methodLink "java/util/ImmutableCollections$AbstractImmutableCollection" (1 : Nat) ({ cls := "java/util/AbstractCollection", name := "<init>", desc := "()V" } : Jvm.MethodName)) ∈ lw_all := sorry
/-! java/util/ImmutableCollections$AbstractImmutableList -/
set_option maxRecDepth 100000
def RJ29 : String := "java/util/ImmutableCollections$AbstractImmutableList"
abbrev cJ29_init : ByteArray := prog_59_method_1_code
def yJ29_init : MethodName := ⟨RJ29, "<init>", "()V"⟩
theorem dJ29_init_0 : decode cJ29_init 0 = .ok (.aload_n 0, 1) := sorry
theorem dJ29_init_1 : decode cJ29_init 1 = .ok (.invokespecial 1, 3) := sorry
theorem dJ29_init_4 : decode cJ29_init 4 = .ok (.return_, 1) := sorry
theorem q167 : (Jvm.Cond.initialized "java/util/ImmutableCollections$AbstractImmutableList") ∈ lw_all := sorry
theorem q1085 : (Jvm.Cond.instanceMethod ({ cls := "java/util/ImmutableCollections$AbstractImmutableList", name := "<init>", desc := "()V" } : Jvm.MethodName)) ∈ lw_all := sorry
theorem q1086 : (Jvm.Cond.code ({ cls := "java/util/ImmutableCollections$AbstractImmutableList", name := "<init>", desc := "()V" } : Jvm.MethodName) prog_59_method_1_code (1 : Nat) (Option.none : Option Jvm.ClassFile.FieldType)) ∈ lw_all := sorry
theorem q1087 : (Jvm.Cond.methodLink "java/util/ImmutableCollections$AbstractImmutableList" (1 : Nat) ({ cls := "java/util/ImmutableCollections$AbstractImmutableCollection", name := "<init>", desc := "()V" } : Jvm.MethodName)) ∈ lw_all := sorry
/-! java/util/ImmutableCollections$List12 -/
set_option maxRecDepth 100000
def RJ30 : String := "java/util/ImmutableCollections$List12"
def TJ30 : u_T := fun k => match k with
  | 0 => ("java/util/ImmutableCollections$List12", "e0", "Ljava/lang/Object;", true)
  | _ => ("java/util/ImmutableCollections$List12", "e1", "Ljava/lang/Object;", true)
def tyJ30 : Nat → FieldType := fun k => match k with
  | 0 => .object "java/lang/Object"
  | _ => .object "java/lang/Object"
abbrev wsJ300 : List Cond := u_ws RJ30 TJ30 2
theorem nmJ30 : ∀ a, a < 2 → ∀ b, b < 2 → a ≠ b → (TJ30 a).2.1 ≠ (TJ30 b).2.1 := sorry
theorem tyJ30_ok : ∀ k, k < 2 → parseFieldDescriptor (TJ30 k).2.2.1 = some (tyJ30 k) := sorry
abbrev cJ30_init : ByteArray := prog_60_method_1_code
def yJ30_init : MethodName := ⟨RJ30, "<init>", "(Ljava/lang/Object;)V"⟩
def dkwJ30_init_0 : List UInt8 := [42, 183, 0, 1, 42, 43, 184, 0, 7, 181, 0, 13, 42, 178, 0, 19, 181, 0, 24, 177]
abbrev dktJ30_init_0 : List UInt8 := dkwJ30_init_0 ++ []
theorem dksJ30_init_0 : cJ30_init.data.toList.drop 0 = dktJ30_init_0 := sorry
theorem dJ30_init_0 : decode cJ30_init 0 = .ok (.aload_n 0, 1) := sorry
theorem dJ30_init_1 : decode cJ30_init 1 = .ok (.invokespecial 1, 3) := sorry
theorem dJ30_init_4 : decode cJ30_init 4 = .ok (.aload_n 0, 1) := sorry
theorem dJ30_init_5 : decode cJ30_init 5 = .ok (.aload_n 1, 1) := sorry
theorem dJ30_init_6 : decode cJ30_init 6 = .ok (.invokestatic 7, 3) := sorry
theorem dJ30_init_9 : decode cJ30_init 9 = .ok (.putfield 13, 3) := sorry
theorem dJ30_init_12 : decode cJ30_init 12 = .ok (.aload_n 0, 1) := sorry
theorem dJ30_init_13 : decode cJ30_init 13 = .ok (.getstatic 19, 3) := sorry
theorem dJ30_init_16 : decode cJ30_init 16 = .ok (.putfield 24, 3) := sorry
theorem dJ30_init_19 : decode cJ30_init 19 = .ok (.return_, 1) := sorry
abbrev cJ30_init_2 : ByteArray := prog_60_method_2_code
def yJ30_init_2 : MethodName := ⟨RJ30, "<init>", "(Ljava/lang/Object;Ljava/lang/Object;)V"⟩
def dkwJ30_init_2_0 : List UInt8 := [42, 183, 0, 1, 42, 43, 184, 0, 7, 181, 0, 13, 42, 44, 184, 0, 7, 181, 0, 24, 177]
abbrev dktJ30_init_2_0 : List UInt8 := dkwJ30_init_2_0 ++ []
theorem dksJ30_init_2_0 : cJ30_init_2.data.toList.drop 0 = dktJ30_init_2_0 := sorry
theorem dJ30_init_2_0 : decode cJ30_init_2 0 = .ok (.aload_n 0, 1) := sorry
theorem dJ30_init_2_1 : decode cJ30_init_2 1 = .ok (.invokespecial 1, 3) := sorry
theorem dJ30_init_2_4 : decode cJ30_init_2 4 = .ok (.aload_n 0, 1) := sorry
theorem dJ30_init_2_5 : decode cJ30_init_2 5 = .ok (.aload_n 1, 1) := sorry
theorem dJ30_init_2_6 : decode cJ30_init_2 6 = .ok (.invokestatic 7, 3) := sorry
theorem dJ30_init_2_9 : decode cJ30_init_2 9 = .ok (.putfield 13, 3) := sorry
theorem dJ30_init_2_12 : decode cJ30_init_2 12 = .ok (.aload_n 0, 1) := sorry
theorem dJ30_init_2_13 : decode cJ30_init_2 13 = .ok (.aload_n 2, 1) := sorry
theorem dJ30_init_2_14 : decode cJ30_init_2 14 = .ok (.invokestatic 7, 3) := sorry
theorem dJ30_init_2_17 : decode cJ30_init_2 17 = .ok (.putfield 24, 3) := sorry
theorem dJ30_init_2_20 : decode cJ30_init_2 20 = .ok (.return_, 1) := sorry
abbrev cJ30_indexOf : ByteArray := prog_60_method_6_code
def yJ30_indexOf : MethodName := ⟨RJ30, "indexOf", "(Ljava/lang/Object;)I"⟩
def dkwJ30_indexOf_1 : List UInt8 := [178, 0, 19, 165, 0, 16, 43, 42, 180, 0, 24, 182, 0, 31, 153, 0, 5, 4, 172, 2, 172]
abbrev dktJ30_indexOf_1 : List UInt8 := dkwJ30_indexOf_1 ++ []
def dkwJ30_indexOf_0 : List UInt8 := [43, 184, 0, 7, 87, 43, 42, 180, 0, 13, 182, 0, 31, 153, 0, 5, 3, 172, 42, 180, 0, 24]
abbrev dktJ30_indexOf_0 : List UInt8 := dkwJ30_indexOf_0 ++ dktJ30_indexOf_1
theorem dksJ30_indexOf_0 : cJ30_indexOf.data.toList.drop 0 = dktJ30_indexOf_0 := sorry
theorem dksJ30_indexOf_1 : cJ30_indexOf.data.toList.drop 22 = dktJ30_indexOf_1 := sorry
theorem dJ30_indexOf_0 : decode cJ30_indexOf 0 = .ok (.aload_n 1, 1) := sorry
theorem dJ30_indexOf_1 : decode cJ30_indexOf 1 = .ok (.invokestatic 7, 3) := sorry
theorem dJ30_indexOf_4 : decode cJ30_indexOf 4 = .ok (.pop, 1) := sorry
theorem dJ30_indexOf_5 : decode cJ30_indexOf 5 = .ok (.aload_n 1, 1) := sorry
theorem dJ30_indexOf_6 : decode cJ30_indexOf 6 = .ok (.aload_n 0, 1) := sorry
theorem dJ30_indexOf_7 : decode cJ30_indexOf 7 = .ok (.getfield 13, 3) := sorry
theorem dJ30_indexOf_10 : decode cJ30_indexOf 10 = .ok (.invokevirtual 31, 3) := sorry
theorem dJ30_indexOf_13 : decode cJ30_indexOf 13 = .ok (.ifCond .eq 5, 3) := sorry
theorem dJ30_indexOf_16 : decode cJ30_indexOf 16 = .ok (.iconst 0, 1) := sorry
theorem dJ30_indexOf_17 : decode cJ30_indexOf 17 = .ok (.ireturn, 1) := sorry
theorem dJ30_indexOf_18 : decode cJ30_indexOf 18 = .ok (.aload_n 0, 1) := sorry
theorem dJ30_indexOf_19 : decode cJ30_indexOf 19 = .ok (.getfield 24, 3) := sorry
theorem dJ30_indexOf_22 : decode cJ30_indexOf 22 = .ok (.getstatic 19, 3) := sorry
theorem dJ30_indexOf_25 : decode cJ30_indexOf 25 = .ok (.if_acmp .eq 16, 3) := sorry
theorem dJ30_indexOf_28 : decode cJ30_indexOf 28 = .ok (.aload_n 1, 1) := sorry
theorem dJ30_indexOf_29 : decode cJ30_indexOf 29 = .ok (.aload_n 0, 1) := sorry
theorem dJ30_indexOf_30 : decode cJ30_indexOf 30 = .ok (.getfield 24, 3) := sorry
theorem dJ30_indexOf_33 : decode cJ30_indexOf 33 = .ok (.invokevirtual 31, 3) := sorry
theorem dJ30_indexOf_36 : decode cJ30_indexOf 36 = .ok (.ifCond .eq 5, 3) := sorry
theorem dJ30_indexOf_39 : decode cJ30_indexOf 39 = .ok (.iconst 1, 1) := sorry
theorem dJ30_indexOf_40 : decode cJ30_indexOf 40 = .ok (.ireturn, 1) := sorry
theorem dJ30_indexOf_41 : decode cJ30_indexOf 41 = .ok (.iconst (-1), 1) := sorry
theorem dJ30_indexOf_42 : decode cJ30_indexOf 42 = .ok (.ireturn, 1) := sorry
theorem q168 : (Jvm.Cond.initialized "java/util/ImmutableCollections$List12") ∈ lw_all := sorry
theorem q581 : (Jvm.Cond.selects "java/util/ImmutableCollections$List12" ({ cls := "java/lang/Object", name := "getClass", desc := "()Ljava/lang/Class;" } : Jvm.MethodName) ({ cls := "java/lang/Object", name := "getClass", desc := "()Ljava/lang/Class;" } : Jvm.MethodName)) ∈ lw_all := sorry
theorem q1080 : (Jvm.Cond.instantiable "java/util/ImmutableCollections$List12" (2 : Nat)) ∈ lw_all := sorry
theorem q1082 : (Jvm.Cond.instanceMethod ({ cls := "java/util/ImmutableCollections$List12", name := "<init>", desc := "(Ljava/lang/Object;)V" } : Jvm.MethodName)) ∈ lw_all := sorry
theorem q1083 : (Jvm.Cond.code ({ cls := "java/util/ImmutableCollections$List12", name := "<init>", desc := "(Ljava/lang/Object;)V" } : Jvm.MethodName) prog_60_method_1_code (2 : Nat) (Option.none : Option Jvm.ClassFile.FieldType)) ∈ lw_all := sorry
theorem q1084 : (Jvm.Cond.methodLink "java/util/ImmutableCollections$List12" (1 : Nat) ({ cls := "java/util/ImmutableCollections$AbstractImmutableList", name := "<init>", desc := "()V" } : Jvm.MethodName)) ∈ lw_all := sorry
theorem q1091 : (Jvm.Cond.methodLink "java/util/ImmutableCollections$List12" (7 : Nat) ({ cls := "java/util/Objects", name := "requireNonNull", desc := "(Ljava/lang/Object;)Ljava/lang/Object;" } : Jvm.MethodName)) ∈ lw_all := sorry
theorem q1092 : (Jvm.Cond.fieldLinkNest "java/util/ImmutableCollections$List12" (19 : Nat) "java/util/ImmutableCollections" "EMPTY" "Ljava/lang/Object;" "java/util/ImmutableCollections") ∈ lw_tbl := sorry
theorem q1094 : (Jvm.Cond.fieldLink "java/util/ImmutableCollections$List12" (13 : Nat) "java/util/ImmutableCollections$List12" "e0" "Ljava/lang/Object;") ∈ lw_all := sorry
theorem q1095 : (Jvm.Cond.fieldLink "java/util/ImmutableCollections$List12" (24 : Nat) "java/util/ImmutableCollections$List12" "e1" "Ljava/lang/Object;") ∈ lw_all := sorry
theorem q1096 : (Jvm.Cond.laysFinal "java/util/ImmutableCollections$List12" "java/util/ImmutableCollections$List12" "e0" "Ljava/lang/Object;") ∈ lw_all := sorry
theorem q1097 : (Jvm.Cond.soleField "java/util/ImmutableCollections$List12" "e0") ∈ lw_all := sorry
theorem q1098 : (Jvm.Cond.laysFinal "java/util/ImmutableCollections$List12" "java/util/ImmutableCollections$List12" "e1" "Ljava/lang/Object;") ∈ lw_all := sorry
theorem q1099 : (Jvm.Cond.soleField "java/util/ImmutableCollections$List12" "e1") ∈ lw_all := sorry
theorem q1100 : (Jvm.Cond.superclass "java/util/ImmutableCollections$List12" "java/util/ImmutableCollections$AbstractImmutableList") ∈ lw_all := sorry
theorem q1102 : (Jvm.Cond.instanceMethod ({ cls := "java/util/ImmutableCollections$List12", name := "<init>", desc := "(Ljava/lang/Object;Ljava/lang/Object;)V" } : Jvm.MethodName)) ∈ lw_all := sorry
theorem q1103 : (Jvm.Cond.code ({ cls := "java/util/ImmutableCollections$List12", name := "<init>", desc := "(Ljava/lang/Object;Ljava/lang/Object;)V" } : Jvm.MethodName) prog_60_method_2_code (3 : Nat) (Option.none : Option Jvm.ClassFile.FieldType)) ∈ lw_all := sorry
theorem q2433 : (Jvm.Cond.castable "java/util/ImmutableCollections$List12" "java/util/List") ∈ lw_tbl := sorry
theorem q2434 : (Jvm.Cond.selects "java/util/ImmutableCollections$List12" ({ cls := "java/util/List", name := "indexOf", desc := "(Ljava/lang/Object;)I" } : Jvm.MethodName) ({ cls := "java/util/ImmutableCollections$List12", name := "indexOf", desc := "(Ljava/lang/Object;)I" } : Jvm.MethodName)) ∈ lw_all := sorry
theorem q2435 : (Jvm.Cond.unhidden "java/util/ImmutableCollections$List12" "indexOf" "(Ljava/lang/Object;)I") ∈ lw_tbl := sorry
theorem q2436 : (Jvm.Cond.instanceMethod ({ cls := "java/util/ImmutableCollections$List12", name := "indexOf", desc := "(Ljava/lang/Object;)I" } : Jvm.MethodName)) ∈ lw_all := sorry
theorem q2437 : (Jvm.Cond.publicMethod ({ cls := "java/util/ImmutableCollections$List12", name := "indexOf", desc := "(Ljava/lang/Object;)I" } : Jvm.MethodName)) ∈ lw_tbl := sorry
theorem q2438 : (Jvm.Cond.code ({ cls := "java/util/ImmutableCollections$List12", name := "indexOf", desc := "(Ljava/lang/Object;)I" } : Jvm.MethodName) prog_60_method_6_code (2 : Nat) (Option.some Jvm.ClassFile.FieldType.int)) ∈ lw_all := sorry
theorem q2439 : (Jvm.Cond.methodLink "java/util/ImmutableCollections$List12" (31 : Nat) ({ cls := "java/lang/Object", name := "equals", desc := "(Ljava/lang/Object;)Z" } : Jvm.MethodName)) ∈ lw_all := sorry
theorem q3245 : (Jvm.Cond.castable "java/util/ImmutableCollections$List12" "java/lang/Object") ∈ lw_tbl := sorry
theorem in_J30 : ∀ w ∈ wsJ300, w ∈ lw_all := sorry
/-! java/util/ImmutableCollections$ListN -/
set_option maxRecDepth 100000
def RJ31 : String := "java/util/ImmutableCollections$ListN"
def TJ31 : u_T := fun k => match k with
  | 0 => ("java/util/ImmutableCollections$ListN", "elements", "[Ljava/lang/Object;", true)
  | _ => ("java/util/ImmutableCollections$ListN", "allowNulls", "Z", true)
def tyJ31 : Nat → FieldType := fun k => match k with
  | 0 => .array (.object "java/lang/Object")
  | _ => .boolean
abbrev wsJ310 : List Cond := u_ws RJ31 TJ31 2
theorem nmJ31 : ∀ a, a < 2 → ∀ b, b < 2 → a ≠ b → (TJ31 a).2.1 ≠ (TJ31 b).2.1 := sorry
theorem tyJ31_ok : ∀ k, k < 2 → parseFieldDescriptor (TJ31 k).2.2.1 = some (tyJ31 k) := sorry
abbrev cJ31_init : ByteArray := prog_62_method_1_code
def yJ31_init : MethodName := ⟨RJ31, "<init>", "([Ljava/lang/Object;Z)V"⟩
def dkwJ31_init_0 : List UInt8 := [42, 183, 0, 1, 42, 43, 181, 0, 7, 42, 28, 181, 0, 13, 177]
abbrev dktJ31_init_0 : List UInt8 := dkwJ31_init_0 ++ []
theorem dksJ31_init_0 : cJ31_init.data.toList.drop 0 = dktJ31_init_0 := sorry
theorem dJ31_init_0 : decode cJ31_init 0 = .ok (.aload_n 0, 1) := sorry
theorem dJ31_init_1 : decode cJ31_init 1 = .ok (.invokespecial 1, 3) := sorry
theorem dJ31_init_4 : decode cJ31_init 4 = .ok (.aload_n 0, 1) := sorry
theorem dJ31_init_5 : decode cJ31_init 5 = .ok (.aload_n 1, 1) := sorry
theorem dJ31_init_6 : decode cJ31_init 6 = .ok (.putfield 7, 3) := sorry
theorem dJ31_init_9 : decode cJ31_init 9 = .ok (.aload_n 0, 1) := sorry
theorem dJ31_init_10 : decode cJ31_init 10 = .ok (.iload_n 2, 1) := sorry
theorem dJ31_init_11 : decode cJ31_init 11 = .ok (.putfield 13, 3) := sorry
theorem dJ31_init_14 : decode cJ31_init 14 = .ok (.return_, 1) := sorry
abbrev cJ31_indexOf : ByteArray := prog_62_method_9_code
def yJ31_indexOf : MethodName := ⟨RJ31, "indexOf", "(Ljava/lang/Object;)I"⟩
def dkwJ31_indexOf_2 : List UInt8 := [167, 255, 235, 2, 172]
abbrev dktJ31_indexOf_2 : List UInt8 := dkwJ31_indexOf_2 ++ []
def dkwJ31_indexOf_1 : List UInt8 := [3, 62, 29, 44, 190, 162, 0, 21, 43, 44, 29, 50, 184, 0, 53, 153, 0, 5, 29, 172, 132, 3, 1]
abbrev dktJ31_indexOf_1 : List UInt8 := dkwJ31_indexOf_1 ++ dktJ31_indexOf_2
def dkwJ31_indexOf_0 : List UInt8 := [42, 180, 0, 13, 154, 0, 15, 43, 199, 0, 11, 187, 0, 50, 89, 183, 0, 52, 191, 42, 180, 0, 7, 77]
abbrev dktJ31_indexOf_0 : List UInt8 := dkwJ31_indexOf_0 ++ dktJ31_indexOf_1
theorem dksJ31_indexOf_0 : cJ31_indexOf.data.toList.drop 0 = dktJ31_indexOf_0 := sorry
theorem dksJ31_indexOf_1 : cJ31_indexOf.data.toList.drop 24 = dktJ31_indexOf_1 := sorry
theorem dksJ31_indexOf_2 : cJ31_indexOf.data.toList.drop 47 = dktJ31_indexOf_2 := sorry
theorem dJ31_indexOf_0 : decode cJ31_indexOf 0 = .ok (.aload_n 0, 1) := sorry
theorem dJ31_indexOf_1 : decode cJ31_indexOf 1 = .ok (.getfield 13, 3) := sorry
theorem dJ31_indexOf_4 : decode cJ31_indexOf 4 = .ok (.ifCond .ne 15, 3) := sorry
theorem dJ31_indexOf_7 : decode cJ31_indexOf 7 = .ok (.aload_n 1, 1) := sorry
theorem dJ31_indexOf_8 : decode cJ31_indexOf 8 = .ok (.ifnonnull 11, 3) := sorry
theorem dJ31_indexOf_11 : decode cJ31_indexOf 11 = .ok (.new 50, 3) := sorry
theorem dJ31_indexOf_14 : decode cJ31_indexOf 14 = .ok (.dup, 1) := sorry
theorem dJ31_indexOf_15 : decode cJ31_indexOf 15 = .ok (.invokespecial 52, 3) := sorry
theorem dJ31_indexOf_18 : decode cJ31_indexOf 18 = .ok (.athrow, 1) := sorry
theorem dJ31_indexOf_19 : decode cJ31_indexOf 19 = .ok (.aload_n 0, 1) := sorry
theorem dJ31_indexOf_20 : decode cJ31_indexOf 20 = .ok (.getfield 7, 3) := sorry
theorem dJ31_indexOf_23 : decode cJ31_indexOf 23 = .ok (.astore_n 2, 1) := sorry
theorem dJ31_indexOf_24 : decode cJ31_indexOf 24 = .ok (.iconst 0, 1) := sorry
theorem dJ31_indexOf_25 : decode cJ31_indexOf 25 = .ok (.istore_n 3, 1) := sorry
theorem dJ31_indexOf_26 : decode cJ31_indexOf 26 = .ok (.iload_n 3, 1) := sorry
theorem dJ31_indexOf_27 : decode cJ31_indexOf 27 = .ok (.aload_n 2, 1) := sorry
theorem dJ31_indexOf_28 : decode cJ31_indexOf 28 = .ok (.arraylength, 1) := sorry
theorem dJ31_indexOf_29 : decode cJ31_indexOf 29 = .ok (.if_icmp .ge 21, 3) := sorry
theorem dJ31_indexOf_32 : decode cJ31_indexOf 32 = .ok (.aload_n 1, 1) := sorry
theorem dJ31_indexOf_33 : decode cJ31_indexOf 33 = .ok (.aload_n 2, 1) := sorry
theorem dJ31_indexOf_34 : decode cJ31_indexOf 34 = .ok (.iload_n 3, 1) := sorry
theorem dJ31_indexOf_35 : decode cJ31_indexOf 35 = .ok (.aaload, 1) := sorry
theorem dJ31_indexOf_36 : decode cJ31_indexOf 36 = .ok (.invokestatic 53, 3) := sorry
theorem dJ31_indexOf_39 : decode cJ31_indexOf 39 = .ok (.ifCond .eq 5, 3) := sorry
theorem dJ31_indexOf_42 : decode cJ31_indexOf 42 = .ok (.iload_n 3, 1) := sorry
theorem dJ31_indexOf_43 : decode cJ31_indexOf 43 = .ok (.ireturn, 1) := sorry
theorem dJ31_indexOf_44 : decode cJ31_indexOf 44 = .ok (.iinc 3 1, 3) := sorry
theorem dJ31_indexOf_47 : decode cJ31_indexOf 47 = .ok (.goto (-21), 3) := sorry
theorem dJ31_indexOf_50 : decode cJ31_indexOf 50 = .ok (.iconst (-1), 1) := sorry
theorem dJ31_indexOf_51 : decode cJ31_indexOf 51 = .ok (.ireturn, 1) := sorry
theorem q169 : (Jvm.Cond.initialized "java/util/ImmutableCollections$ListN") ∈ lw_all := sorry
theorem q582 : (Jvm.Cond.selects "java/util/ImmutableCollections$ListN" ({ cls := "java/lang/Object", name := "getClass", desc := "()Ljava/lang/Class;" } : Jvm.MethodName) ({ cls := "java/lang/Object", name := "getClass", desc := "()Ljava/lang/Class;" } : Jvm.MethodName)) ∈ lw_all := sorry
theorem q1105 : (Jvm.Cond.instantiable "java/util/ImmutableCollections$ListN" (2 : Nat)) ∈ lw_all := sorry
theorem q1107 : (Jvm.Cond.instanceMethod ({ cls := "java/util/ImmutableCollections$ListN", name := "<init>", desc := "([Ljava/lang/Object;Z)V" } : Jvm.MethodName)) ∈ lw_all := lw_g (lw_at lw_m5 18 rfl) rfl
theorem q1108 : (Jvm.Cond.code ({ cls := "java/util/ImmutableCollections$ListN", name := "<init>", desc := "([Ljava/lang/Object;Z)V" } : Jvm.MethodName) prog_62_method_1_code (3 : Nat) (Option.none : Option Jvm.ClassFile.FieldType)) ∈ lw_all := lw_g (lw_at lw_m5 19 rfl) rfl
theorem q1109 : (Jvm.Cond.methodLink "java/util/ImmutableCollections$ListN" (1 : Nat) ({ cls := "java/util/ImmutableCollections$AbstractImmutableList", name := "<init>", desc := "()V" } : Jvm.MethodName)) ∈ lw_all := sorry
theorem q1110 : (Jvm.Cond.fieldLink "java/util/ImmutableCollections$ListN" (7 : Nat) "java/util/ImmutableCollections$ListN" "elements" "[Ljava/lang/Object;") ∈ lw_all := lw_g (lw_at lw_m5 21 rfl) rfl
theorem q1111 : (Jvm.Cond.fieldLink "java/util/ImmutableCollections$ListN" (13 : Nat) "java/util/ImmutableCollections$ListN" "allowNulls" "Z") ∈ lw_all := sorry
theorem q1112 : (Jvm.Cond.laysFinal "java/util/ImmutableCollections$ListN" "java/util/ImmutableCollections$ListN" "elements" "[Ljava/lang/Object;") ∈ lw_all := lw_g (lw_at lw_m5 23 rfl) rfl
theorem q1113 : (Jvm.Cond.soleField "java/util/ImmutableCollections$ListN" "elements") ∈ lw_all := sorry
theorem q1114 : (Jvm.Cond.laysFinal "java/util/ImmutableCollections$ListN" "java/util/ImmutableCollections$ListN" "allowNulls" "Z") ∈ lw_all := sorry
theorem q1115 : (Jvm.Cond.soleField "java/util/ImmutableCollections$ListN" "allowNulls") ∈ lw_all := sorry
theorem q1116 : (Jvm.Cond.superclass "java/util/ImmutableCollections$ListN" "java/util/ImmutableCollections$AbstractImmutableList") ∈ lw_all := sorry
theorem q2440 : (Jvm.Cond.castable "java/util/ImmutableCollections$ListN" "java/util/List") ∈ lw_tbl := sorry
theorem q2441 : (Jvm.Cond.selects "java/util/ImmutableCollections$ListN" ({ cls := "java/util/List", name := "indexOf", desc := "(Ljava/lang/Object;)I" } : Jvm.MethodName) ({ cls := "java/util/ImmutableCollections$ListN", name := "indexOf", desc := "(Ljava/lang/Object;)I" } : Jvm.MethodName)) ∈ lw_all := sorry
theorem q2442 : (Jvm.Cond.unhidden "java/util/ImmutableCollections$ListN" "indexOf" "(Ljava/lang/Object;)I") ∈ lw_tbl := sorry
theorem q2443 : (Jvm.Cond.instanceMethod ({ cls := "java/util/ImmutableCollections$ListN", name := "indexOf", desc := "(Ljava/lang/Object;)I" } : Jvm.MethodName)) ∈ lw_all := sorry
theorem q2444 : (Jvm.Cond.publicMethod ({ cls := "java/util/ImmutableCollections$ListN", name := "indexOf", desc := "(Ljava/lang/Object;)I" } : Jvm.MethodName)) ∈ lw_tbl := sorry
theorem q2445 : (Jvm.Cond.code ({ cls := "java/util/ImmutableCollections$ListN", name := "indexOf", desc := "(Ljava/lang/Object;)I" } : Jvm.MethodName) prog_62_method_9_code (4 : Nat) (Option.some Jvm.ClassFile.FieldType.int)) ∈ lw_all := sorry
theorem q2446 : (Jvm.Cond.methodLink "java/util/ImmutableCollections$ListN" (53 : Nat) ({ cls := "java/util/Objects", name := "equals", desc := "(Ljava/lang/Object;Ljava/lang/Object;)Z" } : Jvm.MethodName)) ∈ lw_all := sorry
theorem q3244 : (Jvm.Cond.castable "java/util/ImmutableCollections$ListN" "java/lang/Object") ∈ lw_tbl := sorry
theorem in_J31 : ∀ w ∈ wsJ310, w ∈ lw_all := sorry
/-! java/lang/Enum -/
set_option maxRecDepth 100000
def RJ32 : String := "java/lang/Enum"
abbrev cJ32_equals : ByteArray := prog_24_method_5_code
def yJ32_equals : MethodName := ⟨RJ32, "equals", "(Ljava/lang/Object;)Z"⟩
def dkwJ32_equals_0 : List UInt8 := [42, 43, 166, 0, 7, 4, 167, 0, 4, 3, 172]
abbrev dktJ32_equals_0 : List UInt8 := dkwJ32_equals_0 ++ []
theorem dksJ32_equals_0 : cJ32_equals.data.toList.drop 0 = dktJ32_equals_0 := sorry
theorem dJ32_equals_0 : decode cJ32_equals 0 = .ok (.aload_n 0, 1) := sorry
theorem dJ32_equals_1 : decode cJ32_equals 1 = .ok (.aload_n 1, 1) := sorry
theorem dJ32_equals_2 : decode cJ32_equals 2 = .ok (.if_acmp .ne 7, 3) := sorry
theorem dJ32_equals_5 : decode cJ32_equals 5 = .ok (.iconst 1, 1) := sorry
theorem dJ32_equals_6 : decode cJ32_equals 6 = .ok (.goto 4, 3) := sorry
theorem dJ32_equals_9 : decode cJ32_equals 9 = .ok (.iconst 0, 1) := sorry
theorem dJ32_equals_10 : decode cJ32_equals 10 = .ok (.ireturn, 1) := sorry
theorem q173 : (Jvm.Cond.initialized "java/lang/Enum") ∈ lw_all := sorry
theorem q2423 : (Jvm.Cond.instanceMethod ({ cls := "java/lang/Enum", name := "equals", desc := "(Ljava/lang/Object;)Z" } : Jvm.MethodName)) ∈ lw_all := sorry
theorem q2424 : (Jvm.Cond.code ({ cls := "java/lang/Enum", name := "equals", desc := "(Ljava/lang/Object;)Z" } : Jvm.MethodName) prog_24_method_5_code (2 : Nat) (Option.some Jvm.ClassFile.FieldType.boolean)) ∈ lw_all := sorry
/-! java/util/LinkedList$Node -/
set_option maxRecDepth 100000
def RJ33 : String := "java/util/LinkedList$Node"
def TJ33 : u_T := fun k => match k with
  | 0 => ("java/util/LinkedList$Node", "item", "Ljava/lang/Object;", false)
  | 1 => ("java/util/LinkedList$Node", "next", "Ljava/util/LinkedList$Node;", false)
  | _ => ("java/util/LinkedList$Node", "prev", "Ljava/util/LinkedList$Node;", false)
def tyJ33 : Nat → FieldType := fun k => match k with
  | 0 => .object "java/lang/Object"
  | 1 => .object "java/util/LinkedList$Node"
  | _ => .object "java/util/LinkedList$Node"
abbrev wsJ330 : List Cond := u_ws RJ33 TJ33 3
theorem nmJ33 : ∀ a, a < 3 → ∀ b, b < 3 → a ≠ b → (TJ33 a).2.1 ≠ (TJ33 b).2.1 := sorry
theorem tyJ33_ok : ∀ k, k < 3 → parseFieldDescriptor (TJ33 k).2.2.1 = some (tyJ33 k) := sorry
abbrev cJ33_init : ByteArray := prog_66_method_1_code
def yJ33_init : MethodName := ⟨RJ33, "<init>", "(Ljava/util/LinkedList$Node;Ljava/lang/Object;Ljava/util/LinkedList$Node;)V"⟩
def dkwJ33_init_0 : List UInt8 := [42, 183, 0, 1, 42, 44, 181, 0, 7, 42, 45, 181, 0, 13, 42, 43, 181, 0, 17, 177]
abbrev dktJ33_init_0 : List UInt8 := dkwJ33_init_0 ++ []
theorem dksJ33_init_0 : cJ33_init.data.toList.drop 0 = dktJ33_init_0 := sorry
theorem dJ33_init_0 : decode cJ33_init 0 = .ok (.aload_n 0, 1) := sorry
theorem dJ33_init_1 : decode cJ33_init 1 = .ok (.invokespecial 1, 3) := sorry
theorem dJ33_init_4 : decode cJ33_init 4 = .ok (.aload_n 0, 1) := sorry
theorem dJ33_init_5 : decode cJ33_init 5 = .ok (.aload_n 2, 1) := sorry
theorem dJ33_init_6 : decode cJ33_init 6 = .ok (.putfield 7, 3) := sorry
theorem dJ33_init_9 : decode cJ33_init 9 = .ok (.aload_n 0, 1) := sorry
theorem dJ33_init_10 : decode cJ33_init 10 = .ok (.aload_n 3, 1) := sorry
theorem dJ33_init_11 : decode cJ33_init 11 = .ok (.putfield 13, 3) := sorry
theorem dJ33_init_14 : decode cJ33_init 14 = .ok (.aload_n 0, 1) := sorry
theorem dJ33_init_15 : decode cJ33_init 15 = .ok (.aload_n 1, 1) := sorry
theorem dJ33_init_16 : decode cJ33_init 16 = .ok (.putfield 17, 3) := sorry
theorem dJ33_init_19 : decode cJ33_init 19 = .ok (.return_, 1) := sorry
theorem q176 : (Jvm.Cond.initialized "java/util/LinkedList$Node") ∈ lw_all := sorry
theorem q585 : (Jvm.Cond.selects "java/util/LinkedList$Node" ({ cls := "java/lang/Object", name := "getClass", desc := "()Ljava/lang/Class;" } : Jvm.MethodName) ({ cls := "java/lang/Object", name := "getClass", desc := "()Ljava/lang/Class;" } : Jvm.MethodName)) ∈ lw_all := sorry
theorem q1252 : (Jvm.Cond.instantiable "java/util/LinkedList$Node" (3 : Nat)) ∈ lw_all := sorry
theorem q1254 : (Jvm.Cond.instanceMethod ({ cls := "java/util/LinkedList$Node", name := "<init>", desc := "(Ljava/util/LinkedList$Node;Ljava/lang/Object;Ljava/util/LinkedList$Node;)V" } : Jvm.MethodName)) ∈ lw_all := sorry
theorem q1255 : (Jvm.Cond.code ({ cls := "java/util/LinkedList$Node", name := "<init>", desc := "(Ljava/util/LinkedList$Node;Ljava/lang/Object;Ljava/util/LinkedList$Node;)V" } : Jvm.MethodName) prog_66_method_1_code (4 : Nat) (Option.none : Option Jvm.ClassFile.FieldType)) ∈ lw_all := sorry
theorem q1256 : (Jvm.Cond.methodLink "java/util/LinkedList$Node" (1 : Nat) ({ cls := "java/lang/Object", name := "<init>", desc := "()V" } : Jvm.MethodName)) ∈ lw_all := sorry
theorem q1257 : (Jvm.Cond.fieldLink "java/util/LinkedList$Node" (7 : Nat) "java/util/LinkedList$Node" "item" "Ljava/lang/Object;") ∈ lw_all := sorry
theorem q1260 : (Jvm.Cond.fieldLink "java/util/LinkedList$Node" (13 : Nat) "java/util/LinkedList$Node" "next" "Ljava/util/LinkedList$Node;") ∈ lw_all := sorry
theorem q1263 : (Jvm.Cond.fieldLink "java/util/LinkedList$Node" (17 : Nat) "java/util/LinkedList$Node" "prev" "Ljava/util/LinkedList$Node;") ∈ lw_all := sorry
theorem q1265 : (Jvm.Cond.lays "java/util/LinkedList$Node" "java/util/LinkedList$Node" "item" "Ljava/lang/Object;") ∈ lw_all := sorry
theorem q1266 : (Jvm.Cond.soleField "java/util/LinkedList$Node" "item") ∈ lw_all := sorry
theorem q1267 : (Jvm.Cond.lays "java/util/LinkedList$Node" "java/util/LinkedList$Node" "next" "Ljava/util/LinkedList$Node;") ∈ lw_all := sorry
theorem q1268 : (Jvm.Cond.soleField "java/util/LinkedList$Node" "next") ∈ lw_all := sorry
theorem q1269 : (Jvm.Cond.lays "java/util/LinkedList$Node" "java/util/LinkedList$Node" "prev" "Ljava/util/LinkedList$Node;") ∈ lw_all := sorry
theorem q1270 : (Jvm.Cond.soleField "java/util/LinkedList$Node" "prev") ∈ lw_all := sorry
theorem q1271 : (Jvm.Cond.superclass "java/util/LinkedList$Node" "java/lang/Object") ∈ lw_all := sorry
theorem q3252 : (Jvm.Cond.castable "java/util/LinkedList$Node" "java/lang/Object") ∈ lw_tbl := sorry
theorem in_J33 : ∀ w ∈ wsJ330, w ∈ lw_all := sorry
/-! java/util/BitSet -/
set_option maxRecDepth 100000
def RJ34 : String := "java/util/BitSet"
def TJ34 : u_T := fun k => match k with
  | 0 => ("java/util/BitSet", "words", "[J", false)
  | 1 => ("java/util/BitSet", "wordsInUse", "I", false)
  | _ => ("java/util/BitSet", "sizeIsSticky", "Z", false)
def tyJ34 : Nat → FieldType := fun k => match k with
  | 0 => .array .long
  | 1 => .int
  | _ => .boolean
abbrev wsJ340 : List Cond := u_ws RJ34 TJ34 3
theorem nmJ34 : ∀ a, a < 3 → ∀ b, b < 3 → a ≠ b → (TJ34 a).2.1 ≠ (TJ34 b).2.1 := sorry
theorem tyJ34_ok : ∀ k, k < 3 → parseFieldDescriptor (TJ34 k).2.2.1 = some (tyJ34 k) := sorry
abbrev cJ34_init : ByteArray := prog_53_method_5_code
def yJ34_init : MethodName := ⟨RJ34, "<init>", "(I)V"⟩
def dkwJ34_init_2 : List UInt8 := [27, 182, 0, 27, 42, 4, 181, 0, 24, 177]
abbrev dktJ34_init_2 : List UInt8 := dkwJ34_init_2 ++ []
def dkwJ34_init_1 : List UInt8 := [187, 0, 33, 89, 183, 0, 35, 18, 36, 182, 0, 38, 27, 182, 0, 42, 182, 0, 45, 183, 0, 49, 191, 42]
abbrev dktJ34_init_1 : List UInt8 := dkwJ34_init_1 ++ dktJ34_init_2
def dkwJ34_init_0 : List UInt8 := [42, 183, 0, 21, 42, 3, 181, 0, 7, 42, 3, 181, 0, 24, 27, 156, 0, 30, 187, 0, 31, 89]
abbrev dktJ34_init_0 : List UInt8 := dkwJ34_init_0 ++ dktJ34_init_1
theorem dksJ34_init_0 : cJ34_init.data.toList.drop 0 = dktJ34_init_0 := sorry
theorem dksJ34_init_1 : cJ34_init.data.toList.drop 22 = dktJ34_init_1 := sorry
theorem dksJ34_init_2 : cJ34_init.data.toList.drop 46 = dktJ34_init_2 := sorry
theorem dJ34_init_0 : decode cJ34_init 0 = .ok (.aload_n 0, 1) := sorry
theorem dJ34_init_1 : decode cJ34_init 1 = .ok (.invokespecial 21, 3) := sorry
theorem dJ34_init_4 : decode cJ34_init 4 = .ok (.aload_n 0, 1) := sorry
theorem dJ34_init_5 : decode cJ34_init 5 = .ok (.iconst 0, 1) := sorry
theorem dJ34_init_6 : decode cJ34_init 6 = .ok (.putfield 7, 3) := sorry
theorem dJ34_init_9 : decode cJ34_init 9 = .ok (.aload_n 0, 1) := sorry
theorem dJ34_init_10 : decode cJ34_init 10 = .ok (.iconst 0, 1) := sorry
theorem dJ34_init_11 : decode cJ34_init 11 = .ok (.putfield 24, 3) := sorry
theorem dJ34_init_14 : decode cJ34_init 14 = .ok (.iload_n 1, 1) := sorry
theorem dJ34_init_15 : decode cJ34_init 15 = .ok (.ifCond .ge 30, 3) := sorry
theorem dJ34_init_18 : decode cJ34_init 18 = .ok (.new 31, 3) := sorry
theorem dJ34_init_21 : decode cJ34_init 21 = .ok (.dup, 1) := sorry
theorem dJ34_init_22 : decode cJ34_init 22 = .ok (.new 33, 3) := sorry
theorem dJ34_init_25 : decode cJ34_init 25 = .ok (.dup, 1) := sorry
theorem dJ34_init_26 : decode cJ34_init 26 = .ok (.invokespecial 35, 3) := sorry
theorem dJ34_init_29 : decode cJ34_init 29 = .ok (.ldc 36, 2) := sorry
theorem dJ34_init_31 : decode cJ34_init 31 = .ok (.invokevirtual 38, 3) := sorry
theorem dJ34_init_34 : decode cJ34_init 34 = .ok (.iload_n 1, 1) := sorry
theorem dJ34_init_35 : decode cJ34_init 35 = .ok (.invokevirtual 42, 3) := sorry
theorem dJ34_init_38 : decode cJ34_init 38 = .ok (.invokevirtual 45, 3) := sorry
theorem dJ34_init_41 : decode cJ34_init 41 = .ok (.invokespecial 49, 3) := sorry
theorem dJ34_init_44 : decode cJ34_init 44 = .ok (.athrow, 1) := sorry
theorem dJ34_init_45 : decode cJ34_init 45 = .ok (.aload_n 0, 1) := sorry
theorem dJ34_init_46 : decode cJ34_init 46 = .ok (.iload_n 1, 1) := sorry
theorem dJ34_init_47 : decode cJ34_init 47 = .ok (.invokevirtual 27, 3) := sorry
theorem dJ34_init_50 : decode cJ34_init 50 = .ok (.aload_n 0, 1) := sorry
theorem dJ34_init_51 : decode cJ34_init 51 = .ok (.iconst 1, 1) := sorry
theorem dJ34_init_52 : decode cJ34_init 52 = .ok (.putfield 24, 3) := sorry
theorem dJ34_init_55 : decode cJ34_init 55 = .ok (.return_, 1) := sorry
abbrev cJ34_initWords : ByteArray := prog_53_method_6_code
def yJ34_initWords : MethodName := ⟨RJ34, "initWords", "(I)V"⟩
def dkwJ34_initWords_0 : List UInt8 := [42, 27, 4, 100, 184, 0, 52, 4, 96, 188, 11, 181, 0, 11, 177]
abbrev dktJ34_initWords_0 : List UInt8 := dkwJ34_initWords_0 ++ []
theorem dksJ34_initWords_0 : cJ34_initWords.data.toList.drop 0 = dktJ34_initWords_0 := sorry
theorem dJ34_initWords_0 : decode cJ34_initWords 0 = .ok (.aload_n 0, 1) := sorry
theorem dJ34_initWords_1 : decode cJ34_initWords 1 = .ok (.iload_n 1, 1) := sorry
theorem dJ34_initWords_2 : decode cJ34_initWords 2 = .ok (.iconst 1, 1) := sorry
theorem dJ34_initWords_3 : decode cJ34_initWords 3 = .ok (.isub, 1) := sorry
theorem dJ34_initWords_4 : decode cJ34_initWords 4 = .ok (.invokestatic 52, 3) := sorry
theorem dJ34_initWords_7 : decode cJ34_initWords 7 = .ok (.iconst 1, 1) := sorry
theorem dJ34_initWords_8 : decode cJ34_initWords 8 = .ok (.iadd, 1) := sorry
theorem dJ34_initWords_9 : decode cJ34_initWords 9 = .ok (.newarray .long, 2) := sorry
theorem dJ34_initWords_11 : decode cJ34_initWords 11 = .ok (.putfield 11, 3) := sorry
theorem dJ34_initWords_14 : decode cJ34_initWords 14 = .ok (.return_, 1) := sorry
abbrev cJ34_wordIndex : ByteArray := prog_53_method_1_code
def yJ34_wordIndex : MethodName := ⟨RJ34, "wordIndex", "(I)I"⟩
def dkwJ34_wordIndex_0 : List UInt8 := [26, 16, 6, 122, 172]
abbrev dktJ34_wordIndex_0 : List UInt8 := dkwJ34_wordIndex_0 ++ []
theorem dksJ34_wordIndex_0 : cJ34_wordIndex.data.toList.drop 0 = dktJ34_wordIndex_0 := sorry
theorem dJ34_wordIndex_0 : decode cJ34_wordIndex 0 = .ok (.iload_n 0, 1) := sorry
theorem dJ34_wordIndex_1 : decode cJ34_wordIndex 1 = .ok (.bipush 6, 2) := sorry
theorem dJ34_wordIndex_3 : decode cJ34_wordIndex 3 = .ok (.ishr, 1) := sorry
theorem dJ34_wordIndex_4 : decode cJ34_wordIndex 4 = .ok (.ireturn, 1) := sorry
abbrev cJ34_set : ByteArray := prog_53_method_20_code
def yJ34_set : MethodName := ⟨RJ34, "set", "(IZ)V"⟩
def dkwJ34_set_0 : List UInt8 := [28, 153, 0, 11, 42, 27, 182, 0, 167, 167, 0, 8, 42, 27, 182, 0, 170, 177]
abbrev dktJ34_set_0 : List UInt8 := dkwJ34_set_0 ++ []
theorem dksJ34_set_0 : cJ34_set.data.toList.drop 0 = dktJ34_set_0 := sorry
theorem dJ34_set_0 : decode cJ34_set 0 = .ok (.iload_n 2, 1) := sorry
theorem dJ34_set_1 : decode cJ34_set 1 = .ok (.ifCond .eq 11, 3) := sorry
theorem dJ34_set_4 : decode cJ34_set 4 = .ok (.aload_n 0, 1) := sorry
theorem dJ34_set_5 : decode cJ34_set 5 = .ok (.iload_n 1, 1) := sorry
theorem dJ34_set_6 : decode cJ34_set 6 = .ok (.invokevirtual 167, 3) := sorry
theorem dJ34_set_9 : decode cJ34_set 9 = .ok (.goto 8, 3) := sorry
theorem dJ34_set_12 : decode cJ34_set 12 = .ok (.aload_n 0, 1) := sorry
theorem dJ34_set_13 : decode cJ34_set 13 = .ok (.iload_n 1, 1) := sorry
theorem dJ34_set_14 : decode cJ34_set 14 = .ok (.invokevirtual 170, 3) := sorry
theorem dJ34_set_17 : decode cJ34_set 17 = .ok (.return_, 1) := sorry
abbrev cJ34_set_2 : ByteArray := prog_53_method_19_code
def yJ34_set_2 : MethodName := ⟨RJ34, "set", "(I)V"⟩
def dkwJ34_set_2_2 : List UInt8 := [10, 27, 121, 129, 80, 42, 182, 0, 56, 177]
abbrev dktJ34_set_2_2 : List UInt8 := dkwJ34_set_2_2 ++ []
def dkwJ34_set_2_1 : List UInt8 := [182, 0, 45, 183, 0, 146, 191, 27, 184, 0, 52, 61, 42, 28, 182, 0, 155, 42, 180, 0, 11, 28, 92, 47]
abbrev dktJ34_set_2_1 : List UInt8 := dkwJ34_set_2_1 ++ dktJ34_set_2_2
def dkwJ34_set_2_0 : List UInt8 := [27, 156, 0, 30, 187, 0, 142, 89, 187, 0, 33, 89, 183, 0, 35, 18, 153, 182, 0, 38, 27, 182, 0, 42]
abbrev dktJ34_set_2_0 : List UInt8 := dkwJ34_set_2_0 ++ dktJ34_set_2_1
theorem dksJ34_set_2_0 : cJ34_set_2.data.toList.drop 0 = dktJ34_set_2_0 := sorry
theorem dksJ34_set_2_1 : cJ34_set_2.data.toList.drop 24 = dktJ34_set_2_1 := sorry
theorem dksJ34_set_2_2 : cJ34_set_2.data.toList.drop 48 = dktJ34_set_2_2 := sorry
theorem dJ34_set_2_0 : decode cJ34_set_2 0 = .ok (.iload_n 1, 1) := sorry
theorem dJ34_set_2_1 : decode cJ34_set_2 1 = .ok (.ifCond .ge 30, 3) := sorry
theorem dJ34_set_2_4 : decode cJ34_set_2 4 = .ok (.new 142, 3) := sorry
theorem dJ34_set_2_7 : decode cJ34_set_2 7 = .ok (.dup, 1) := sorry
theorem dJ34_set_2_8 : decode cJ34_set_2 8 = .ok (.new 33, 3) := sorry
theorem dJ34_set_2_11 : decode cJ34_set_2 11 = .ok (.dup, 1) := sorry
theorem dJ34_set_2_12 : decode cJ34_set_2 12 = .ok (.invokespecial 35, 3) := sorry
theorem dJ34_set_2_15 : decode cJ34_set_2 15 = .ok (.ldc 153, 2) := sorry
theorem dJ34_set_2_17 : decode cJ34_set_2 17 = .ok (.invokevirtual 38, 3) := sorry
theorem dJ34_set_2_20 : decode cJ34_set_2 20 = .ok (.iload_n 1, 1) := sorry
theorem dJ34_set_2_21 : decode cJ34_set_2 21 = .ok (.invokevirtual 42, 3) := sorry
theorem dJ34_set_2_24 : decode cJ34_set_2 24 = .ok (.invokevirtual 45, 3) := sorry
theorem dJ34_set_2_27 : decode cJ34_set_2 27 = .ok (.invokespecial 146, 3) := sorry
theorem dJ34_set_2_30 : decode cJ34_set_2 30 = .ok (.athrow, 1) := sorry
theorem dJ34_set_2_31 : decode cJ34_set_2 31 = .ok (.iload_n 1, 1) := sorry
theorem dJ34_set_2_32 : decode cJ34_set_2 32 = .ok (.invokestatic 52, 3) := sorry
theorem dJ34_set_2_35 : decode cJ34_set_2 35 = .ok (.istore_n 2, 1) := sorry
theorem dJ34_set_2_36 : decode cJ34_set_2 36 = .ok (.aload_n 0, 1) := sorry
theorem dJ34_set_2_37 : decode cJ34_set_2 37 = .ok (.iload_n 2, 1) := sorry
theorem dJ34_set_2_38 : decode cJ34_set_2 38 = .ok (.invokevirtual 155, 3) := sorry
theorem dJ34_set_2_41 : decode cJ34_set_2 41 = .ok (.aload_n 0, 1) := sorry
theorem dJ34_set_2_42 : decode cJ34_set_2 42 = .ok (.getfield 11, 3) := sorry
theorem dJ34_set_2_45 : decode cJ34_set_2 45 = .ok (.iload_n 2, 1) := sorry
theorem dJ34_set_2_46 : decode cJ34_set_2 46 = .ok (.dup2, 1) := sorry
theorem dJ34_set_2_47 : decode cJ34_set_2 47 = .ok (.laload, 1) := sorry
theorem dJ34_set_2_48 : decode cJ34_set_2 48 = .ok (.lconst 1, 1) := sorry
theorem dJ34_set_2_49 : decode cJ34_set_2 49 = .ok (.iload_n 1, 1) := sorry
theorem dJ34_set_2_50 : decode cJ34_set_2 50 = .ok (.lshl, 1) := sorry
theorem dJ34_set_2_51 : decode cJ34_set_2 51 = .ok (.lor, 1) := sorry
theorem dJ34_set_2_52 : decode cJ34_set_2 52 = .ok (.lastore, 1) := sorry
theorem dJ34_set_2_53 : decode cJ34_set_2 53 = .ok (.aload_n 0, 1) := sorry
theorem dJ34_set_2_54 : decode cJ34_set_2 54 = .ok (.invokevirtual 56, 3) := sorry
theorem dJ34_set_2_57 : decode cJ34_set_2 57 = .ok (.return_, 1) := sorry
abbrev cJ34_expandTo : ByteArray := prog_53_method_15_code
def yJ34_expandTo : MethodName := ⟨RJ34, "expandTo", "(I)V"⟩
def dkwJ34_expandTo_0 : List UInt8 := [27, 4, 96, 61, 42, 180, 0, 7, 28, 162, 0, 13, 42, 28, 182, 0, 139, 42, 28, 181, 0, 7, 177]
abbrev dktJ34_expandTo_0 : List UInt8 := dkwJ34_expandTo_0 ++ []
theorem dksJ34_expandTo_0 : cJ34_expandTo.data.toList.drop 0 = dktJ34_expandTo_0 := sorry
theorem dJ34_expandTo_0 : decode cJ34_expandTo 0 = .ok (.iload_n 1, 1) := sorry
theorem dJ34_expandTo_1 : decode cJ34_expandTo 1 = .ok (.iconst 1, 1) := sorry
theorem dJ34_expandTo_2 : decode cJ34_expandTo 2 = .ok (.iadd, 1) := sorry
theorem dJ34_expandTo_3 : decode cJ34_expandTo 3 = .ok (.istore_n 2, 1) := sorry
theorem dJ34_expandTo_4 : decode cJ34_expandTo 4 = .ok (.aload_n 0, 1) := sorry
theorem dJ34_expandTo_5 : decode cJ34_expandTo 5 = .ok (.getfield 7, 3) := sorry
theorem dJ34_expandTo_8 : decode cJ34_expandTo 8 = .ok (.iload_n 2, 1) := sorry
theorem dJ34_expandTo_9 : decode cJ34_expandTo 9 = .ok (.if_icmp .ge 13, 3) := sorry
theorem dJ34_expandTo_12 : decode cJ34_expandTo 12 = .ok (.aload_n 0, 1) := sorry
theorem dJ34_expandTo_13 : decode cJ34_expandTo 13 = .ok (.iload_n 2, 1) := sorry
theorem dJ34_expandTo_14 : decode cJ34_expandTo 14 = .ok (.invokevirtual 139, 3) := sorry
theorem dJ34_expandTo_17 : decode cJ34_expandTo 17 = .ok (.aload_n 0, 1) := sorry
theorem dJ34_expandTo_18 : decode cJ34_expandTo 18 = .ok (.iload_n 2, 1) := sorry
theorem dJ34_expandTo_19 : decode cJ34_expandTo 19 = .ok (.putfield 7, 3) := sorry
theorem dJ34_expandTo_22 : decode cJ34_expandTo 22 = .ok (.return_, 1) := sorry
abbrev cJ34_ensureCapacity : ByteArray := prog_53_method_14_code
def yJ34_ensureCapacity : MethodName := ⟨RJ34, "ensureCapacity", "(I)V"⟩
def dkwJ34_ensureCapacity_1 : List UInt8 := [180, 0, 11, 28, 184, 0, 59, 181, 0, 11, 42, 3, 181, 0, 24, 177]
abbrev dktJ34_ensureCapacity_1 : List UInt8 := dkwJ34_ensureCapacity_1 ++ []
def dkwJ34_ensureCapacity_0 : List UInt8 := [42, 180, 0, 11, 190, 27, 162, 0, 32, 5, 42, 180, 0, 11, 190, 104, 27, 184, 0, 133, 61, 42, 42]
abbrev dktJ34_ensureCapacity_0 : List UInt8 := dkwJ34_ensureCapacity_0 ++ dktJ34_ensureCapacity_1
theorem dksJ34_ensureCapacity_0 : cJ34_ensureCapacity.data.toList.drop 0 = dktJ34_ensureCapacity_0 := sorry
theorem dksJ34_ensureCapacity_1 : cJ34_ensureCapacity.data.toList.drop 23 = dktJ34_ensureCapacity_1 := sorry
theorem dJ34_ensureCapacity_0 : decode cJ34_ensureCapacity 0 = .ok (.aload_n 0, 1) := sorry
theorem dJ34_ensureCapacity_1 : decode cJ34_ensureCapacity 1 = .ok (.getfield 11, 3) := sorry
theorem dJ34_ensureCapacity_4 : decode cJ34_ensureCapacity 4 = .ok (.arraylength, 1) := sorry
theorem dJ34_ensureCapacity_5 : decode cJ34_ensureCapacity 5 = .ok (.iload_n 1, 1) := sorry
theorem dJ34_ensureCapacity_6 : decode cJ34_ensureCapacity 6 = .ok (.if_icmp .ge 32, 3) := sorry
theorem dJ34_ensureCapacity_9 : decode cJ34_ensureCapacity 9 = .ok (.iconst 2, 1) := sorry
theorem dJ34_ensureCapacity_10 : decode cJ34_ensureCapacity 10 = .ok (.aload_n 0, 1) := sorry
theorem dJ34_ensureCapacity_11 : decode cJ34_ensureCapacity 11 = .ok (.getfield 11, 3) := sorry
theorem dJ34_ensureCapacity_14 : decode cJ34_ensureCapacity 14 = .ok (.arraylength, 1) := sorry
theorem dJ34_ensureCapacity_15 : decode cJ34_ensureCapacity 15 = .ok (.imul, 1) := sorry
theorem dJ34_ensureCapacity_16 : decode cJ34_ensureCapacity 16 = .ok (.iload_n 1, 1) := sorry
theorem dJ34_ensureCapacity_17 : decode cJ34_ensureCapacity 17 = .ok (.invokestatic 133, 3) := sorry
theorem dJ34_ensureCapacity_20 : decode cJ34_ensureCapacity 20 = .ok (.istore_n 2, 1) := sorry
theorem dJ34_ensureCapacity_21 : decode cJ34_ensureCapacity 21 = .ok (.aload_n 0, 1) := sorry
theorem dJ34_ensureCapacity_22 : decode cJ34_ensureCapacity 22 = .ok (.aload_n 0, 1) := sorry
theorem dJ34_ensureCapacity_23 : decode cJ34_ensureCapacity 23 = .ok (.getfield 11, 3) := sorry
theorem dJ34_ensureCapacity_26 : decode cJ34_ensureCapacity 26 = .ok (.iload_n 2, 1) := sorry
theorem dJ34_ensureCapacity_27 : decode cJ34_ensureCapacity 27 = .ok (.invokestatic 59, 3) := sorry
theorem dJ34_ensureCapacity_30 : decode cJ34_ensureCapacity 30 = .ok (.putfield 11, 3) := sorry
theorem dJ34_ensureCapacity_33 : decode cJ34_ensureCapacity 33 = .ok (.aload_n 0, 1) := sorry
theorem dJ34_ensureCapacity_34 : decode cJ34_ensureCapacity 34 = .ok (.iconst 0, 1) := sorry
theorem dJ34_ensureCapacity_35 : decode cJ34_ensureCapacity 35 = .ok (.putfield 24, 3) := sorry
theorem dJ34_ensureCapacity_38 : decode cJ34_ensureCapacity 38 = .ok (.return_, 1) := sorry
abbrev cJ34_checkInvariants : ByteArray := prog_53_method_2_code
def yJ34_checkInvariants : MethodName := ⟨RJ34, "checkInvariants", "()V"⟩
def dkwJ34_checkInvariants_4 : List UInt8 := [180, 0, 7, 47, 9, 148, 153, 0, 11, 187, 0, 15, 89, 183, 0, 17, 191, 177]
abbrev dktJ34_checkInvariants_4 : List UInt8 := dkwJ34_checkInvariants_4 ++ []
def dkwJ34_checkInvariants_3 : List UInt8 := [178, 0, 3, 154, 0, 37, 42, 180, 0, 7, 42, 180, 0, 11, 190, 159, 0, 25, 42, 180, 0, 11, 42]
abbrev dktJ34_checkInvariants_3 : List UInt8 := dkwJ34_checkInvariants_3 ++ dktJ34_checkInvariants_4
def dkwJ34_checkInvariants_2 : List UInt8 := [155, 0, 15, 42, 180, 0, 7, 42, 180, 0, 11, 190, 164, 0, 11, 187, 0, 15, 89, 183, 0, 17, 191]
abbrev dktJ34_checkInvariants_2 : List UInt8 := dkwJ34_checkInvariants_2 ++ dktJ34_checkInvariants_3
def dkwJ34_checkInvariants_1 : List UInt8 := [9, 148, 154, 0, 11, 187, 0, 15, 89, 183, 0, 17, 191, 178, 0, 3, 154, 0, 30, 42, 180, 0, 7]
abbrev dktJ34_checkInvariants_1 : List UInt8 := dkwJ34_checkInvariants_1 ++ dktJ34_checkInvariants_2
def dkwJ34_checkInvariants_0 : List UInt8 := [178, 0, 3, 154, 0, 34, 42, 180, 0, 7, 153, 0, 27, 42, 180, 0, 11, 42, 180, 0, 7, 4, 100, 47]
abbrev dktJ34_checkInvariants_0 : List UInt8 := dkwJ34_checkInvariants_0 ++ dktJ34_checkInvariants_1
theorem dksJ34_checkInvariants_0 : cJ34_checkInvariants.data.toList.drop 0 = dktJ34_checkInvariants_0 := sorry
theorem dksJ34_checkInvariants_1 : cJ34_checkInvariants.data.toList.drop 24 = dktJ34_checkInvariants_1 := sorry
theorem dksJ34_checkInvariants_2 : cJ34_checkInvariants.data.toList.drop 47 = dktJ34_checkInvariants_2 := sorry
theorem dksJ34_checkInvariants_3 : cJ34_checkInvariants.data.toList.drop 70 = dktJ34_checkInvariants_3 := sorry
theorem dksJ34_checkInvariants_4 : cJ34_checkInvariants.data.toList.drop 93 = dktJ34_checkInvariants_4 := sorry
theorem dJ34_checkInvariants_0 : decode cJ34_checkInvariants 0 = .ok (.getstatic 3, 3) := sorry
theorem dJ34_checkInvariants_3 : decode cJ34_checkInvariants 3 = .ok (.ifCond .ne 34, 3) := sorry
theorem dJ34_checkInvariants_6 : decode cJ34_checkInvariants 6 = .ok (.aload_n 0, 1) := sorry
theorem dJ34_checkInvariants_7 : decode cJ34_checkInvariants 7 = .ok (.getfield 7, 3) := sorry
theorem dJ34_checkInvariants_10 : decode cJ34_checkInvariants 10 = .ok (.ifCond .eq 27, 3) := sorry
theorem dJ34_checkInvariants_13 : decode cJ34_checkInvariants 13 = .ok (.aload_n 0, 1) := sorry
theorem dJ34_checkInvariants_14 : decode cJ34_checkInvariants 14 = .ok (.getfield 11, 3) := sorry
theorem dJ34_checkInvariants_17 : decode cJ34_checkInvariants 17 = .ok (.aload_n 0, 1) := sorry
theorem dJ34_checkInvariants_18 : decode cJ34_checkInvariants 18 = .ok (.getfield 7, 3) := sorry
theorem dJ34_checkInvariants_21 : decode cJ34_checkInvariants 21 = .ok (.iconst 1, 1) := sorry
theorem dJ34_checkInvariants_22 : decode cJ34_checkInvariants 22 = .ok (.isub, 1) := sorry
theorem dJ34_checkInvariants_23 : decode cJ34_checkInvariants 23 = .ok (.laload, 1) := sorry
theorem dJ34_checkInvariants_24 : decode cJ34_checkInvariants 24 = .ok (.lconst 0, 1) := sorry
theorem dJ34_checkInvariants_25 : decode cJ34_checkInvariants 25 = .ok (.lcmp, 1) := sorry
theorem dJ34_checkInvariants_26 : decode cJ34_checkInvariants 26 = .ok (.ifCond .ne 11, 3) := sorry
theorem dJ34_checkInvariants_29 : decode cJ34_checkInvariants 29 = .ok (.new 15, 3) := sorry
theorem dJ34_checkInvariants_32 : decode cJ34_checkInvariants 32 = .ok (.dup, 1) := sorry
theorem dJ34_checkInvariants_33 : decode cJ34_checkInvariants 33 = .ok (.invokespecial 17, 3) := sorry
theorem dJ34_checkInvariants_36 : decode cJ34_checkInvariants 36 = .ok (.athrow, 1) := sorry
theorem dJ34_checkInvariants_37 : decode cJ34_checkInvariants 37 = .ok (.getstatic 3, 3) := sorry
theorem dJ34_checkInvariants_40 : decode cJ34_checkInvariants 40 = .ok (.ifCond .ne 30, 3) := sorry
theorem dJ34_checkInvariants_43 : decode cJ34_checkInvariants 43 = .ok (.aload_n 0, 1) := sorry
theorem dJ34_checkInvariants_44 : decode cJ34_checkInvariants 44 = .ok (.getfield 7, 3) := sorry
theorem dJ34_checkInvariants_47 : decode cJ34_checkInvariants 47 = .ok (.ifCond .lt 15, 3) := sorry
theorem dJ34_checkInvariants_50 : decode cJ34_checkInvariants 50 = .ok (.aload_n 0, 1) := sorry
theorem dJ34_checkInvariants_51 : decode cJ34_checkInvariants 51 = .ok (.getfield 7, 3) := sorry
theorem dJ34_checkInvariants_54 : decode cJ34_checkInvariants 54 = .ok (.aload_n 0, 1) := sorry
theorem dJ34_checkInvariants_55 : decode cJ34_checkInvariants 55 = .ok (.getfield 11, 3) := sorry
theorem dJ34_checkInvariants_58 : decode cJ34_checkInvariants 58 = .ok (.arraylength, 1) := sorry
theorem dJ34_checkInvariants_59 : decode cJ34_checkInvariants 59 = .ok (.if_icmp .le 11, 3) := sorry
theorem dJ34_checkInvariants_62 : decode cJ34_checkInvariants 62 = .ok (.new 15, 3) := sorry
theorem dJ34_checkInvariants_65 : decode cJ34_checkInvariants 65 = .ok (.dup, 1) := sorry
theorem dJ34_checkInvariants_66 : decode cJ34_checkInvariants 66 = .ok (.invokespecial 17, 3) := sorry
theorem dJ34_checkInvariants_69 : decode cJ34_checkInvariants 69 = .ok (.athrow, 1) := sorry
theorem dJ34_checkInvariants_70 : decode cJ34_checkInvariants 70 = .ok (.getstatic 3, 3) := sorry
theorem dJ34_checkInvariants_73 : decode cJ34_checkInvariants 73 = .ok (.ifCond .ne 37, 3) := sorry
theorem dJ34_checkInvariants_76 : decode cJ34_checkInvariants 76 = .ok (.aload_n 0, 1) := sorry
theorem dJ34_checkInvariants_77 : decode cJ34_checkInvariants 77 = .ok (.getfield 7, 3) := sorry
theorem dJ34_checkInvariants_80 : decode cJ34_checkInvariants 80 = .ok (.aload_n 0, 1) := sorry
theorem dJ34_checkInvariants_81 : decode cJ34_checkInvariants 81 = .ok (.getfield 11, 3) := sorry
theorem dJ34_checkInvariants_84 : decode cJ34_checkInvariants 84 = .ok (.arraylength, 1) := sorry
theorem dJ34_checkInvariants_85 : decode cJ34_checkInvariants 85 = .ok (.if_icmp .eq 25, 3) := sorry
theorem dJ34_checkInvariants_88 : decode cJ34_checkInvariants 88 = .ok (.aload_n 0, 1) := sorry
theorem dJ34_checkInvariants_89 : decode cJ34_checkInvariants 89 = .ok (.getfield 11, 3) := sorry
theorem dJ34_checkInvariants_92 : decode cJ34_checkInvariants 92 = .ok (.aload_n 0, 1) := sorry
theorem dJ34_checkInvariants_93 : decode cJ34_checkInvariants 93 = .ok (.getfield 7, 3) := sorry
theorem dJ34_checkInvariants_96 : decode cJ34_checkInvariants 96 = .ok (.laload, 1) := sorry
theorem dJ34_checkInvariants_97 : decode cJ34_checkInvariants 97 = .ok (.lconst 0, 1) := sorry
theorem dJ34_checkInvariants_98 : decode cJ34_checkInvariants 98 = .ok (.lcmp, 1) := sorry
theorem dJ34_checkInvariants_99 : decode cJ34_checkInvariants 99 = .ok (.ifCond .eq 11, 3) := sorry
theorem dJ34_checkInvariants_102 : decode cJ34_checkInvariants 102 = .ok (.new 15, 3) := sorry
theorem dJ34_checkInvariants_105 : decode cJ34_checkInvariants 105 = .ok (.dup, 1) := sorry
theorem dJ34_checkInvariants_106 : decode cJ34_checkInvariants 106 = .ok (.invokespecial 17, 3) := sorry
theorem dJ34_checkInvariants_109 : decode cJ34_checkInvariants 109 = .ok (.athrow, 1) := sorry
theorem dJ34_checkInvariants_110 : decode cJ34_checkInvariants 110 = .ok (.return_, 1) := sorry
abbrev cJ34_clear : ByteArray := prog_53_method_23_code
def yJ34_clear : MethodName := ⟨RJ34, "clear", "(I)V"⟩
def dkwJ34_clear_2 : List UInt8 := [180, 0, 11, 28, 92, 47, 10, 27, 121, 20, 0, 165, 131, 127, 80, 42, 182, 0, 158, 42, 182, 0, 56, 177]
abbrev dktJ34_clear_2 : List UInt8 := dkwJ34_clear_2 ++ []
def dkwJ34_clear_1 : List UInt8 := [182, 0, 45, 183, 0, 146, 191, 27, 184, 0, 52, 61, 28, 42, 180, 0, 7, 161, 0, 4, 177, 42]
abbrev dktJ34_clear_1 : List UInt8 := dkwJ34_clear_1 ++ dktJ34_clear_2
def dkwJ34_clear_0 : List UInt8 := [27, 156, 0, 30, 187, 0, 142, 89, 187, 0, 33, 89, 183, 0, 35, 18, 153, 182, 0, 38, 27, 182, 0, 42]
abbrev dktJ34_clear_0 : List UInt8 := dkwJ34_clear_0 ++ dktJ34_clear_1
theorem dksJ34_clear_0 : cJ34_clear.data.toList.drop 0 = dktJ34_clear_0 := sorry
theorem dksJ34_clear_1 : cJ34_clear.data.toList.drop 24 = dktJ34_clear_1 := sorry
theorem dksJ34_clear_2 : cJ34_clear.data.toList.drop 46 = dktJ34_clear_2 := sorry
theorem dJ34_clear_0 : decode cJ34_clear 0 = .ok (.iload_n 1, 1) := sorry
theorem dJ34_clear_1 : decode cJ34_clear 1 = .ok (.ifCond .ge 30, 3) := sorry
theorem dJ34_clear_4 : decode cJ34_clear 4 = .ok (.new 142, 3) := sorry
theorem dJ34_clear_7 : decode cJ34_clear 7 = .ok (.dup, 1) := sorry
theorem dJ34_clear_8 : decode cJ34_clear 8 = .ok (.new 33, 3) := sorry
theorem dJ34_clear_11 : decode cJ34_clear 11 = .ok (.dup, 1) := sorry
theorem dJ34_clear_12 : decode cJ34_clear 12 = .ok (.invokespecial 35, 3) := sorry
theorem dJ34_clear_15 : decode cJ34_clear 15 = .ok (.ldc 153, 2) := sorry
theorem dJ34_clear_17 : decode cJ34_clear 17 = .ok (.invokevirtual 38, 3) := sorry
theorem dJ34_clear_20 : decode cJ34_clear 20 = .ok (.iload_n 1, 1) := sorry
theorem dJ34_clear_21 : decode cJ34_clear 21 = .ok (.invokevirtual 42, 3) := sorry
theorem dJ34_clear_24 : decode cJ34_clear 24 = .ok (.invokevirtual 45, 3) := sorry
theorem dJ34_clear_27 : decode cJ34_clear 27 = .ok (.invokespecial 146, 3) := sorry
theorem dJ34_clear_30 : decode cJ34_clear 30 = .ok (.athrow, 1) := sorry
theorem dJ34_clear_31 : decode cJ34_clear 31 = .ok (.iload_n 1, 1) := sorry
theorem dJ34_clear_32 : decode cJ34_clear 32 = .ok (.invokestatic 52, 3) := sorry
theorem dJ34_clear_35 : decode cJ34_clear 35 = .ok (.istore_n 2, 1) := sorry
theorem dJ34_clear_36 : decode cJ34_clear 36 = .ok (.iload_n 2, 1) := sorry
theorem dJ34_clear_37 : decode cJ34_clear 37 = .ok (.aload_n 0, 1) := sorry
theorem dJ34_clear_38 : decode cJ34_clear 38 = .ok (.getfield 7, 3) := sorry
theorem dJ34_clear_41 : decode cJ34_clear 41 = .ok (.if_icmp .lt 4, 3) := sorry
theorem dJ34_clear_44 : decode cJ34_clear 44 = .ok (.return_, 1) := sorry
theorem dJ34_clear_45 : decode cJ34_clear 45 = .ok (.aload_n 0, 1) := sorry
theorem dJ34_clear_46 : decode cJ34_clear 46 = .ok (.getfield 11, 3) := sorry
theorem dJ34_clear_49 : decode cJ34_clear 49 = .ok (.iload_n 2, 1) := sorry
theorem dJ34_clear_50 : decode cJ34_clear 50 = .ok (.dup2, 1) := sorry
theorem dJ34_clear_51 : decode cJ34_clear 51 = .ok (.laload, 1) := sorry
theorem dJ34_clear_52 : decode cJ34_clear 52 = .ok (.lconst 1, 1) := sorry
theorem dJ34_clear_53 : decode cJ34_clear 53 = .ok (.iload_n 1, 1) := sorry
theorem dJ34_clear_54 : decode cJ34_clear 54 = .ok (.lshl, 1) := sorry
theorem dJ34_clear_55 : decode cJ34_clear 55 = .ok (.ldc2_w 165, 3) := sorry
theorem dJ34_clear_58 : decode cJ34_clear 58 = .ok (.lxor, 1) := sorry
theorem dJ34_clear_59 : decode cJ34_clear 59 = .ok (.land, 1) := sorry
theorem dJ34_clear_60 : decode cJ34_clear 60 = .ok (.lastore, 1) := sorry
theorem dJ34_clear_61 : decode cJ34_clear 61 = .ok (.aload_n 0, 1) := sorry
theorem dJ34_clear_62 : decode cJ34_clear 62 = .ok (.invokevirtual 158, 3) := sorry
theorem dJ34_clear_65 : decode cJ34_clear 65 = .ok (.aload_n 0, 1) := sorry
theorem dJ34_clear_66 : decode cJ34_clear 66 = .ok (.invokevirtual 56, 3) := sorry
theorem dJ34_clear_69 : decode cJ34_clear 69 = .ok (.return_, 1) := sorry
abbrev cJ34_recalculateWordsInUse : ByteArray := prog_53_method_3_code
def yJ34_recalculateWordsInUse : MethodName := ⟨RJ34, "recalculateWordsInUse", "()V"⟩
def dkwJ34_recalculateWordsInUse_1 : List UInt8 := [167, 0, 9, 132, 1, 255, 167, 255, 235, 42, 27, 4, 96, 181, 0, 7, 177]
abbrev dktJ34_recalculateWordsInUse_1 : List UInt8 := dkwJ34_recalculateWordsInUse_1 ++ []
def dkwJ34_recalculateWordsInUse_0 : List UInt8 := [42, 180, 0, 7, 4, 100, 60, 27, 155, 0, 23, 42, 180, 0, 11, 27, 47, 9, 148, 153, 0, 6]
abbrev dktJ34_recalculateWordsInUse_0 : List UInt8 := dkwJ34_recalculateWordsInUse_0 ++ dktJ34_recalculateWordsInUse_1
theorem dksJ34_recalculateWordsInUse_0 : cJ34_recalculateWordsInUse.data.toList.drop 0 = dktJ34_recalculateWordsInUse_0 := sorry
theorem dksJ34_recalculateWordsInUse_1 : cJ34_recalculateWordsInUse.data.toList.drop 22 = dktJ34_recalculateWordsInUse_1 := sorry
theorem dJ34_recalculateWordsInUse_0 : decode cJ34_recalculateWordsInUse 0 = .ok (.aload_n 0, 1) := sorry
theorem dJ34_recalculateWordsInUse_1 : decode cJ34_recalculateWordsInUse 1 = .ok (.getfield 7, 3) := sorry
theorem dJ34_recalculateWordsInUse_4 : decode cJ34_recalculateWordsInUse 4 = .ok (.iconst 1, 1) := sorry
theorem dJ34_recalculateWordsInUse_5 : decode cJ34_recalculateWordsInUse 5 = .ok (.isub, 1) := sorry
theorem dJ34_recalculateWordsInUse_6 : decode cJ34_recalculateWordsInUse 6 = .ok (.istore_n 1, 1) := sorry
theorem dJ34_recalculateWordsInUse_7 : decode cJ34_recalculateWordsInUse 7 = .ok (.iload_n 1, 1) := sorry
theorem dJ34_recalculateWordsInUse_8 : decode cJ34_recalculateWordsInUse 8 = .ok (.ifCond .lt 23, 3) := sorry
theorem dJ34_recalculateWordsInUse_11 : decode cJ34_recalculateWordsInUse 11 = .ok (.aload_n 0, 1) := sorry
theorem dJ34_recalculateWordsInUse_12 : decode cJ34_recalculateWordsInUse 12 = .ok (.getfield 11, 3) := sorry
theorem dJ34_recalculateWordsInUse_15 : decode cJ34_recalculateWordsInUse 15 = .ok (.iload_n 1, 1) := sorry
theorem dJ34_recalculateWordsInUse_16 : decode cJ34_recalculateWordsInUse 16 = .ok (.laload, 1) := sorry
theorem dJ34_recalculateWordsInUse_17 : decode cJ34_recalculateWordsInUse 17 = .ok (.lconst 0, 1) := sorry
theorem dJ34_recalculateWordsInUse_18 : decode cJ34_recalculateWordsInUse 18 = .ok (.lcmp, 1) := sorry
theorem dJ34_recalculateWordsInUse_19 : decode cJ34_recalculateWordsInUse 19 = .ok (.ifCond .eq 6, 3) := sorry
theorem dJ34_recalculateWordsInUse_22 : decode cJ34_recalculateWordsInUse 22 = .ok (.goto 9, 3) := sorry
theorem dJ34_recalculateWordsInUse_25 : decode cJ34_recalculateWordsInUse 25 = .ok (.iinc 1 (-1), 3) := sorry
theorem dJ34_recalculateWordsInUse_28 : decode cJ34_recalculateWordsInUse 28 = .ok (.goto (-21), 3) := sorry
theorem dJ34_recalculateWordsInUse_31 : decode cJ34_recalculateWordsInUse 31 = .ok (.aload_n 0, 1) := sorry
theorem dJ34_recalculateWordsInUse_32 : decode cJ34_recalculateWordsInUse 32 = .ok (.iload_n 1, 1) := sorry
theorem dJ34_recalculateWordsInUse_33 : decode cJ34_recalculateWordsInUse 33 = .ok (.iconst 1, 1) := sorry
theorem dJ34_recalculateWordsInUse_34 : decode cJ34_recalculateWordsInUse 34 = .ok (.iadd, 1) := sorry
theorem dJ34_recalculateWordsInUse_35 : decode cJ34_recalculateWordsInUse 35 = .ok (.putfield 7, 3) := sorry
theorem dJ34_recalculateWordsInUse_38 : decode cJ34_recalculateWordsInUse 38 = .ok (.return_, 1) := sorry
abbrev cJ34_nextSetBit : ByteArray := prog_53_method_28_code
def yJ34_nextSetBit : MethodName := ⟨RJ34, "nextSetBit", "(I)I"⟩
def dkwJ34_nextSetBit_4 : List UInt8 := [28, 47, 66, 167, 255, 220]
abbrev dktJ34_nextSetBit_4 : List UInt8 := dkwJ34_nextSetBit_4 ++ []
def dkwJ34_nextSetBit_3 : List UInt8 := [104, 33, 184, 0, 182, 96, 172, 132, 2, 1, 28, 42, 180, 0, 7, 160, 0, 5, 2, 172, 42, 180, 0, 11]
abbrev dktJ34_nextSetBit_3 : List UInt8 := dkwJ34_nextSetBit_3 ++ dktJ34_nextSetBit_4
def dkwJ34_nextSetBit_2 : List UInt8 := [2, 172, 42, 180, 0, 11, 28, 47, 20, 0, 165, 27, 121, 127, 66, 33, 9, 148, 153, 0, 13, 28, 16, 64]
abbrev dktJ34_nextSetBit_2 : List UInt8 := dkwJ34_nextSetBit_2 ++ dktJ34_nextSetBit_3
def dkwJ34_nextSetBit_1 : List UInt8 := [182, 0, 45, 183, 0, 146, 191, 42, 182, 0, 56, 27, 184, 0, 52, 61, 28, 42, 180, 0, 7, 161, 0, 5]
abbrev dktJ34_nextSetBit_1 : List UInt8 := dkwJ34_nextSetBit_1 ++ dktJ34_nextSetBit_2
def dkwJ34_nextSetBit_0 : List UInt8 := [27, 156, 0, 30, 187, 0, 142, 89, 187, 0, 33, 89, 183, 0, 35, 18, 144, 182, 0, 38, 27, 182, 0, 42]
abbrev dktJ34_nextSetBit_0 : List UInt8 := dkwJ34_nextSetBit_0 ++ dktJ34_nextSetBit_1
theorem dksJ34_nextSetBit_0 : cJ34_nextSetBit.data.toList.drop 0 = dktJ34_nextSetBit_0 := sorry
theorem dksJ34_nextSetBit_1 : cJ34_nextSetBit.data.toList.drop 24 = dktJ34_nextSetBit_1 := sorry
theorem dksJ34_nextSetBit_2 : cJ34_nextSetBit.data.toList.drop 48 = dktJ34_nextSetBit_2 := sorry
theorem dksJ34_nextSetBit_3 : cJ34_nextSetBit.data.toList.drop 72 = dktJ34_nextSetBit_3 := sorry
theorem dksJ34_nextSetBit_4 : cJ34_nextSetBit.data.toList.drop 96 = dktJ34_nextSetBit_4 := sorry
theorem dJ34_nextSetBit_0 : decode cJ34_nextSetBit 0 = .ok (.iload_n 1, 1) := sorry
theorem dJ34_nextSetBit_1 : decode cJ34_nextSetBit 1 = .ok (.ifCond .ge 30, 3) := sorry
theorem dJ34_nextSetBit_4 : decode cJ34_nextSetBit 4 = .ok (.new 142, 3) := sorry
theorem dJ34_nextSetBit_7 : decode cJ34_nextSetBit 7 = .ok (.dup, 1) := sorry
theorem dJ34_nextSetBit_8 : decode cJ34_nextSetBit 8 = .ok (.new 33, 3) := sorry
theorem dJ34_nextSetBit_11 : decode cJ34_nextSetBit 11 = .ok (.dup, 1) := sorry
theorem dJ34_nextSetBit_12 : decode cJ34_nextSetBit 12 = .ok (.invokespecial 35, 3) := sorry
theorem dJ34_nextSetBit_15 : decode cJ34_nextSetBit 15 = .ok (.ldc 144, 2) := sorry
theorem dJ34_nextSetBit_17 : decode cJ34_nextSetBit 17 = .ok (.invokevirtual 38, 3) := sorry
theorem dJ34_nextSetBit_20 : decode cJ34_nextSetBit 20 = .ok (.iload_n 1, 1) := sorry
theorem dJ34_nextSetBit_21 : decode cJ34_nextSetBit 21 = .ok (.invokevirtual 42, 3) := sorry
theorem dJ34_nextSetBit_24 : decode cJ34_nextSetBit 24 = .ok (.invokevirtual 45, 3) := sorry
theorem dJ34_nextSetBit_27 : decode cJ34_nextSetBit 27 = .ok (.invokespecial 146, 3) := sorry
theorem dJ34_nextSetBit_30 : decode cJ34_nextSetBit 30 = .ok (.athrow, 1) := sorry
theorem dJ34_nextSetBit_31 : decode cJ34_nextSetBit 31 = .ok (.aload_n 0, 1) := sorry
theorem dJ34_nextSetBit_32 : decode cJ34_nextSetBit 32 = .ok (.invokevirtual 56, 3) := sorry
theorem dJ34_nextSetBit_35 : decode cJ34_nextSetBit 35 = .ok (.iload_n 1, 1) := sorry
theorem dJ34_nextSetBit_36 : decode cJ34_nextSetBit 36 = .ok (.invokestatic 52, 3) := sorry
theorem dJ34_nextSetBit_39 : decode cJ34_nextSetBit 39 = .ok (.istore_n 2, 1) := sorry
theorem dJ34_nextSetBit_40 : decode cJ34_nextSetBit 40 = .ok (.iload_n 2, 1) := sorry
theorem dJ34_nextSetBit_41 : decode cJ34_nextSetBit 41 = .ok (.aload_n 0, 1) := sorry
theorem dJ34_nextSetBit_42 : decode cJ34_nextSetBit 42 = .ok (.getfield 7, 3) := sorry
theorem dJ34_nextSetBit_45 : decode cJ34_nextSetBit 45 = .ok (.if_icmp .lt 5, 3) := sorry
theorem dJ34_nextSetBit_48 : decode cJ34_nextSetBit 48 = .ok (.iconst (-1), 1) := sorry
theorem dJ34_nextSetBit_49 : decode cJ34_nextSetBit 49 = .ok (.ireturn, 1) := sorry
theorem dJ34_nextSetBit_50 : decode cJ34_nextSetBit 50 = .ok (.aload_n 0, 1) := sorry
theorem dJ34_nextSetBit_51 : decode cJ34_nextSetBit 51 = .ok (.getfield 11, 3) := sorry
theorem dJ34_nextSetBit_54 : decode cJ34_nextSetBit 54 = .ok (.iload_n 2, 1) := sorry
theorem dJ34_nextSetBit_55 : decode cJ34_nextSetBit 55 = .ok (.laload, 1) := sorry
theorem dJ34_nextSetBit_56 : decode cJ34_nextSetBit 56 = .ok (.ldc2_w 165, 3) := sorry
theorem dJ34_nextSetBit_59 : decode cJ34_nextSetBit 59 = .ok (.iload_n 1, 1) := sorry
theorem dJ34_nextSetBit_60 : decode cJ34_nextSetBit 60 = .ok (.lshl, 1) := sorry
theorem dJ34_nextSetBit_61 : decode cJ34_nextSetBit 61 = .ok (.land, 1) := sorry
theorem dJ34_nextSetBit_62 : decode cJ34_nextSetBit 62 = .ok (.lstore_n 3, 1) := sorry
theorem dJ34_nextSetBit_63 : decode cJ34_nextSetBit 63 = .ok (.lload_n 3, 1) := sorry
theorem dJ34_nextSetBit_64 : decode cJ34_nextSetBit 64 = .ok (.lconst 0, 1) := sorry
theorem dJ34_nextSetBit_65 : decode cJ34_nextSetBit 65 = .ok (.lcmp, 1) := sorry
theorem dJ34_nextSetBit_66 : decode cJ34_nextSetBit 66 = .ok (.ifCond .eq 13, 3) := sorry
theorem dJ34_nextSetBit_69 : decode cJ34_nextSetBit 69 = .ok (.iload_n 2, 1) := sorry
theorem dJ34_nextSetBit_70 : decode cJ34_nextSetBit 70 = .ok (.bipush 64, 2) := sorry
theorem dJ34_nextSetBit_72 : decode cJ34_nextSetBit 72 = .ok (.imul, 1) := sorry
theorem dJ34_nextSetBit_73 : decode cJ34_nextSetBit 73 = .ok (.lload_n 3, 1) := sorry
theorem dJ34_nextSetBit_74 : decode cJ34_nextSetBit 74 = .ok (.invokestatic 182, 3) := sorry
theorem dJ34_nextSetBit_77 : decode cJ34_nextSetBit 77 = .ok (.iadd, 1) := sorry
theorem dJ34_nextSetBit_78 : decode cJ34_nextSetBit 78 = .ok (.ireturn, 1) := sorry
theorem dJ34_nextSetBit_79 : decode cJ34_nextSetBit 79 = .ok (.iinc 2 1, 3) := sorry
theorem dJ34_nextSetBit_82 : decode cJ34_nextSetBit 82 = .ok (.iload_n 2, 1) := sorry
theorem dJ34_nextSetBit_83 : decode cJ34_nextSetBit 83 = .ok (.aload_n 0, 1) := sorry
theorem dJ34_nextSetBit_84 : decode cJ34_nextSetBit 84 = .ok (.getfield 7, 3) := sorry
theorem dJ34_nextSetBit_87 : decode cJ34_nextSetBit 87 = .ok (.if_icmp .ne 5, 3) := sorry
theorem dJ34_nextSetBit_90 : decode cJ34_nextSetBit 90 = .ok (.iconst (-1), 1) := sorry
theorem dJ34_nextSetBit_91 : decode cJ34_nextSetBit 91 = .ok (.ireturn, 1) := sorry
theorem dJ34_nextSetBit_92 : decode cJ34_nextSetBit 92 = .ok (.aload_n 0, 1) := sorry
theorem dJ34_nextSetBit_93 : decode cJ34_nextSetBit 93 = .ok (.getfield 11, 3) := sorry
theorem dJ34_nextSetBit_96 : decode cJ34_nextSetBit 96 = .ok (.iload_n 2, 1) := sorry
theorem dJ34_nextSetBit_97 : decode cJ34_nextSetBit 97 = .ok (.laload, 1) := sorry
theorem dJ34_nextSetBit_98 : decode cJ34_nextSetBit 98 = .ok (.lstore_n 3, 1) := sorry
theorem dJ34_nextSetBit_99 : decode cJ34_nextSetBit 99 = .ok (.goto (-36), 3) := sorry
abbrev cJ34_isEmpty : ByteArray := prog_53_method_33_code
def yJ34_isEmpty : MethodName := ⟨RJ34, "isEmpty", "()Z"⟩
def dkwJ34_isEmpty_0 : List UInt8 := [42, 180, 0, 7, 154, 0, 7, 4, 167, 0, 4, 3, 172]
abbrev dktJ34_isEmpty_0 : List UInt8 := dkwJ34_isEmpty_0 ++ []
theorem dksJ34_isEmpty_0 : cJ34_isEmpty.data.toList.drop 0 = dktJ34_isEmpty_0 := sorry
theorem dJ34_isEmpty_0 : decode cJ34_isEmpty 0 = .ok (.aload_n 0, 1) := sorry
theorem dJ34_isEmpty_1 : decode cJ34_isEmpty 1 = .ok (.getfield 7, 3) := sorry
theorem dJ34_isEmpty_4 : decode cJ34_isEmpty 4 = .ok (.ifCond .ne 7, 3) := sorry
theorem dJ34_isEmpty_7 : decode cJ34_isEmpty 7 = .ok (.iconst 1, 1) := sorry
theorem dJ34_isEmpty_8 : decode cJ34_isEmpty 8 = .ok (.goto 4, 3) := sorry
theorem dJ34_isEmpty_11 : decode cJ34_isEmpty 11 = .ok (.iconst 0, 1) := sorry
theorem dJ34_isEmpty_12 : decode cJ34_isEmpty 12 = .ok (.ireturn, 1) := sorry
theorem q177 : (Jvm.Cond.initialized "java/util/BitSet") ∈ lw_all := sorry
theorem q579 : (Jvm.Cond.selects "java/util/BitSet" ({ cls := "java/lang/Object", name := "getClass", desc := "()Ljava/lang/Class;" } : Jvm.MethodName) ({ cls := "java/lang/Object", name := "getClass", desc := "()Ljava/lang/Class;" } : Jvm.MethodName)) ∈ lw_all := sorry
theorem q1351 : (Jvm.Cond.instantiable "java/util/BitSet" (3 : Nat)) ∈ lw_all := sorry
theorem q1353 : (Jvm.Cond.instanceMethod ({ cls := "java/util/BitSet", name := "<init>", desc := "(I)V" } : Jvm.MethodName)) ∈ lw_all := sorry
theorem q1354 : (Jvm.Cond.code ({ cls := "java/util/BitSet", name := "<init>", desc := "(I)V" } : Jvm.MethodName) prog_53_method_5_code (2 : Nat) (Option.none : Option Jvm.ClassFile.FieldType)) ∈ lw_all := sorry
theorem q1355 : (Jvm.Cond.methodLink "java/util/BitSet" (21 : Nat) ({ cls := "java/lang/Object", name := "<init>", desc := "()V" } : Jvm.MethodName)) ∈ lw_all := sorry
theorem q1356 : (Jvm.Cond.methodLink "java/util/BitSet" (27 : Nat) ({ cls := "java/util/BitSet", name := "initWords", desc := "(I)V" } : Jvm.MethodName)) ∈ lw_all := sorry
theorem q1357 : (Jvm.Cond.privateMethod ({ cls := "java/util/BitSet", name := "initWords", desc := "(I)V" } : Jvm.MethodName)) ∈ lw_tbl := sorry
theorem q1358 : (Jvm.Cond.instanceMethod ({ cls := "java/util/BitSet", name := "initWords", desc := "(I)V" } : Jvm.MethodName)) ∈ lw_all := sorry
theorem q1359 : (Jvm.Cond.code ({ cls := "java/util/BitSet", name := "initWords", desc := "(I)V" } : Jvm.MethodName) prog_53_method_6_code (2 : Nat) (Option.none : Option Jvm.ClassFile.FieldType)) ∈ lw_all := sorry
theorem q1360 : (Jvm.Cond.methodLink "java/util/BitSet" (52 : Nat) ({ cls := "java/util/BitSet", name := "wordIndex", desc := "(I)I" } : Jvm.MethodName)) ∈ lw_all := sorry
theorem q1361 : (Jvm.Cond.static ({ cls := "java/util/BitSet", name := "wordIndex", desc := "(I)I" } : Jvm.MethodName)) ∈ lw_all := sorry
theorem q1362 : (Jvm.Cond.code ({ cls := "java/util/BitSet", name := "wordIndex", desc := "(I)I" } : Jvm.MethodName) prog_53_method_1_code (1 : Nat) (Option.some Jvm.ClassFile.FieldType.int)) ∈ lw_all := sorry
theorem q1363 : (Jvm.Cond.fieldLink "java/util/BitSet" (11 : Nat) "java/util/BitSet" "words" "[J") ∈ lw_all := lw_g (lw_at lw_m6 34 rfl) rfl
theorem q1364 : (Jvm.Cond.fieldLink "java/util/BitSet" (7 : Nat) "java/util/BitSet" "wordsInUse" "I") ∈ lw_all := sorry
theorem q1365 : (Jvm.Cond.fieldLink "java/util/BitSet" (24 : Nat) "java/util/BitSet" "sizeIsSticky" "Z") ∈ lw_all := sorry
theorem q1366 : (Jvm.Cond.lays "java/util/BitSet" "java/util/BitSet" "words" "[J") ∈ lw_all := lw_g (lw_at lw_m6 37 rfl) rfl
theorem q1367 : (Jvm.Cond.soleField "java/util/BitSet" "words") ∈ lw_all := sorry
theorem q1368 : (Jvm.Cond.lays "java/util/BitSet" "java/util/BitSet" "wordsInUse" "I") ∈ lw_all := sorry
theorem q1369 : (Jvm.Cond.soleField "java/util/BitSet" "wordsInUse") ∈ lw_all := sorry
theorem q1370 : (Jvm.Cond.lays "java/util/BitSet" "java/util/BitSet" "sizeIsSticky" "Z") ∈ lw_all := sorry
theorem q1371 : (Jvm.Cond.soleField "java/util/BitSet" "sizeIsSticky") ∈ lw_all := sorry
theorem q1372 : (Jvm.Cond.superclass "java/util/BitSet" "java/lang/Object") ∈ lw_all := sorry
theorem q1374 : (Jvm.Cond.instanceMethod ({ cls := "java/util/BitSet", name := "set", desc := "(IZ)V" } : Jvm.MethodName)) ∈ lw_all := sorry
theorem q1375 : (Jvm.Cond.selects "java/util/BitSet" ({ cls := "java/util/BitSet", name := "set", desc := "(IZ)V" } : Jvm.MethodName) ({ cls := "java/util/BitSet", name := "set", desc := "(IZ)V" } : Jvm.MethodName)) ∈ lw_all := sorry
theorem q1376 : (Jvm.Cond.code ({ cls := "java/util/BitSet", name := "set", desc := "(IZ)V" } : Jvm.MethodName) prog_53_method_20_code (3 : Nat) (Option.none : Option Jvm.ClassFile.FieldType)) ∈ lw_all := sorry
theorem q1377 : (Jvm.Cond.methodLink "java/util/BitSet" (167 : Nat) ({ cls := "java/util/BitSet", name := "set", desc := "(I)V" } : Jvm.MethodName)) ∈ lw_all := sorry
theorem q1378 : (Jvm.Cond.instanceMethod ({ cls := "java/util/BitSet", name := "set", desc := "(I)V" } : Jvm.MethodName)) ∈ lw_all := sorry
theorem q1379 : (Jvm.Cond.selects "java/util/BitSet" ({ cls := "java/util/BitSet", name := "set", desc := "(I)V" } : Jvm.MethodName) ({ cls := "java/util/BitSet", name := "set", desc := "(I)V" } : Jvm.MethodName)) ∈ lw_all := sorry
theorem q1380 : (Jvm.Cond.code ({ cls := "java/util/BitSet", name := "set", desc := "(I)V" } : Jvm.MethodName) prog_53_method_19_code (3 : Nat) (Option.none : Option Jvm.ClassFile.FieldType)) ∈ lw_all := sorry
theorem q1381 : (Jvm.Cond.methodLink "java/util/BitSet" (155 : Nat) ({ cls := "java/util/BitSet", name := "expandTo", desc := "(I)V" } : Jvm.MethodName)) ∈ lw_all := sorry
theorem q1382 : (Jvm.Cond.privateMethod ({ cls := "java/util/BitSet", name := "expandTo", desc := "(I)V" } : Jvm.MethodName)) ∈ lw_tbl := sorry
theorem q1383 : (Jvm.Cond.instanceMethod ({ cls := "java/util/BitSet", name := "expandTo", desc := "(I)V" } : Jvm.MethodName)) ∈ lw_all := sorry
theorem q1384 : (Jvm.Cond.code ({ cls := "java/util/BitSet", name := "expandTo", desc := "(I)V" } : Jvm.MethodName) prog_53_method_15_code (3 : Nat) (Option.none : Option Jvm.ClassFile.FieldType)) ∈ lw_all := sorry
theorem q1385 : (Jvm.Cond.methodLink "java/util/BitSet" (139 : Nat) ({ cls := "java/util/BitSet", name := "ensureCapacity", desc := "(I)V" } : Jvm.MethodName)) ∈ lw_all := sorry
theorem q1386 : (Jvm.Cond.privateMethod ({ cls := "java/util/BitSet", name := "ensureCapacity", desc := "(I)V" } : Jvm.MethodName)) ∈ lw_tbl := sorry
theorem q1387 : (Jvm.Cond.instanceMethod ({ cls := "java/util/BitSet", name := "ensureCapacity", desc := "(I)V" } : Jvm.MethodName)) ∈ lw_all := sorry
theorem q1388 : (Jvm.Cond.code ({ cls := "java/util/BitSet", name := "ensureCapacity", desc := "(I)V" } : Jvm.MethodName) prog_53_method_14_code (3 : Nat) (Option.none : Option Jvm.ClassFile.FieldType)) ∈ lw_all := sorry
theorem q1389 : (Jvm.Cond.methodLink "java/util/BitSet" (133 : Nat) ({ cls := "java/lang/Math", name := "max", desc := "(II)I" } : Jvm.MethodName)) ∈ lw_all := sorry
theorem q1390 : (Jvm.Cond.methodLink "java/util/BitSet" (59 : Nat) ({ cls := "java/util/Arrays", name := "copyOf", desc := "([JI)[J" } : Jvm.MethodName)) ∈ lw_all := lw_g (lw_at lw_m6 61 rfl) rfl
theorem q1398 : (Jvm.Cond.methodLink "java/util/BitSet" (56 : Nat) ({ cls := "java/util/BitSet", name := "checkInvariants", desc := "()V" } : Jvm.MethodName)) ∈ lw_all := sorry
theorem q1399 : (Jvm.Cond.privateMethod ({ cls := "java/util/BitSet", name := "checkInvariants", desc := "()V" } : Jvm.MethodName)) ∈ lw_tbl := sorry
theorem q1400 : (Jvm.Cond.instanceMethod ({ cls := "java/util/BitSet", name := "checkInvariants", desc := "()V" } : Jvm.MethodName)) ∈ lw_all := sorry
theorem q1401 : (Jvm.Cond.code ({ cls := "java/util/BitSet", name := "checkInvariants", desc := "()V" } : Jvm.MethodName) prog_53_method_2_code (1 : Nat) (Option.none : Option Jvm.ClassFile.FieldType)) ∈ lw_all := sorry
theorem q1402 : (Jvm.Cond.fieldLink "java/util/BitSet" (3 : Nat) "java/util/BitSet" "$assertionsDisabled" "Z") ∈ lw_all := sorry
theorem q1403 : (Jvm.Cond.laysStatic "java/util/BitSet" "$assertionsDisabled" "Z") ∈ lw_tbl := sorry
theorem q1404 : (Jvm.Cond.methodLink "java/util/BitSet" (170 : Nat) ({ cls := "java/util/BitSet", name := "clear", desc := "(I)V" } : Jvm.MethodName)) ∈ lw_all := sorry
theorem q1405 : (Jvm.Cond.instanceMethod ({ cls := "java/util/BitSet", name := "clear", desc := "(I)V" } : Jvm.MethodName)) ∈ lw_all := sorry
theorem q1406 : (Jvm.Cond.selects "java/util/BitSet" ({ cls := "java/util/BitSet", name := "clear", desc := "(I)V" } : Jvm.MethodName) ({ cls := "java/util/BitSet", name := "clear", desc := "(I)V" } : Jvm.MethodName)) ∈ lw_all := sorry
theorem q1407 : (Jvm.Cond.code ({ cls := "java/util/BitSet", name := "clear", desc := "(I)V" } : Jvm.MethodName) prog_53_method_23_code (3 : Nat) (Option.none : Option Jvm.ClassFile.FieldType)) ∈ lw_all := sorry
theorem q1408 : (Jvm.Cond.constantLong "java/util/BitSet" (165 : Nat) (-1 : Int64)) ∈ lw_all := sorry
theorem q1409 : (Jvm.Cond.methodLink "java/util/BitSet" (158 : Nat) ({ cls := "java/util/BitSet", name := "recalculateWordsInUse", desc := "()V" } : Jvm.MethodName)) ∈ lw_all := sorry
theorem q1410 : (Jvm.Cond.privateMethod ({ cls := "java/util/BitSet", name := "recalculateWordsInUse", desc := "()V" } : Jvm.MethodName)) ∈ lw_tbl := sorry
theorem q1411 : (Jvm.Cond.instanceMethod ({ cls := "java/util/BitSet", name := "recalculateWordsInUse", desc := "()V" } : Jvm.MethodName)) ∈ lw_all := sorry
theorem q1412 : (Jvm.Cond.code ({ cls := "java/util/BitSet", name := "recalculateWordsInUse", desc := "()V" } : Jvm.MethodName) prog_53_method_3_code (2 : Nat) (Option.none : Option Jvm.ClassFile.FieldType)) ∈ lw_all := sorry
theorem q1414 : (Jvm.Cond.instanceMethod ({ cls := "java/util/BitSet", name := "nextSetBit", desc := "(I)I" } : Jvm.MethodName)) ∈ lw_all := sorry
theorem q1415 : (Jvm.Cond.selects "java/util/BitSet" ({ cls := "java/util/BitSet", name := "nextSetBit", desc := "(I)I" } : Jvm.MethodName) ({ cls := "java/util/BitSet", name := "nextSetBit", desc := "(I)I" } : Jvm.MethodName)) ∈ lw_all := sorry
theorem q1416 : (Jvm.Cond.code ({ cls := "java/util/BitSet", name := "nextSetBit", desc := "(I)I" } : Jvm.MethodName) prog_53_method_28_code (5 : Nat) (Option.some Jvm.ClassFile.FieldType.int)) ∈ lw_all := sorry
theorem q1417 : (Jvm.Cond.methodLink "java/util/BitSet" (182 : Nat) ({ cls := "java/lang/Long", name := "numberOfTrailingZeros", desc := "(J)I" } : Jvm.MethodName)) ∈ lw_all := sorry
theorem q1426 : (Jvm.Cond.instanceMethod ({ cls := "java/util/BitSet", name := "isEmpty", desc := "()Z" } : Jvm.MethodName)) ∈ lw_all := sorry
theorem q1427 : (Jvm.Cond.selects "java/util/BitSet" ({ cls := "java/util/BitSet", name := "isEmpty", desc := "()Z" } : Jvm.MethodName) ({ cls := "java/util/BitSet", name := "isEmpty", desc := "()Z" } : Jvm.MethodName)) ∈ lw_all := sorry
theorem q1428 : (Jvm.Cond.code ({ cls := "java/util/BitSet", name := "isEmpty", desc := "()Z" } : Jvm.MethodName) prog_53_method_33_code (1 : Nat) (Option.some Jvm.ClassFile.FieldType.boolean)) ∈ lw_all := sorry
theorem q3253 : (Jvm.Cond.castable "java/util/BitSet" "java/lang/Object") ∈ lw_tbl := sorry
theorem in_J34 : ∀ w ∈ wsJ340, w ∈ lw_all := sorry
/-! java/lang/Long -/
set_option maxRecDepth 100000
def RJ35 : String := "java/lang/Long"
abbrev cJ35_numberOfTrailingZeros : ByteArray := prog_30_method_49_code
def yJ35_numberOfTrailingZeros : MethodName := ⟨RJ35, "numberOfTrailingZeros", "(J)I"⟩
def dkwJ35_numberOfTrailingZeros_1 : List UInt8 := [184, 1, 55, 172]
abbrev dktJ35_numberOfTrailingZeros_1 : List UInt8 := dkwJ35_numberOfTrailingZeros_1 ++ []
def dkwJ35_numberOfTrailingZeros_0 : List UInt8 := [30, 136, 61, 28, 154, 0, 17, 16, 32, 30, 16, 32, 125, 136, 184, 1, 55, 96, 167, 0, 7, 28]
abbrev dktJ35_numberOfTrailingZeros_0 : List UInt8 := dkwJ35_numberOfTrailingZeros_0 ++ dktJ35_numberOfTrailingZeros_1
theorem dksJ35_numberOfTrailingZeros_0 : cJ35_numberOfTrailingZeros.data.toList.drop 0 = dktJ35_numberOfTrailingZeros_0 := sorry
theorem dksJ35_numberOfTrailingZeros_1 : cJ35_numberOfTrailingZeros.data.toList.drop 22 = dktJ35_numberOfTrailingZeros_1 := sorry
theorem dJ35_numberOfTrailingZeros_0 : decode cJ35_numberOfTrailingZeros 0 = .ok (.lload_n 0, 1) := sorry
theorem dJ35_numberOfTrailingZeros_1 : decode cJ35_numberOfTrailingZeros 1 = .ok (.l2i, 1) := sorry
theorem dJ35_numberOfTrailingZeros_2 : decode cJ35_numberOfTrailingZeros 2 = .ok (.istore_n 2, 1) := sorry
theorem dJ35_numberOfTrailingZeros_3 : decode cJ35_numberOfTrailingZeros 3 = .ok (.iload_n 2, 1) := sorry
theorem dJ35_numberOfTrailingZeros_4 : decode cJ35_numberOfTrailingZeros 4 = .ok (.ifCond .ne 17, 3) := sorry
theorem dJ35_numberOfTrailingZeros_7 : decode cJ35_numberOfTrailingZeros 7 = .ok (.bipush 32, 2) := sorry
theorem dJ35_numberOfTrailingZeros_9 : decode cJ35_numberOfTrailingZeros 9 = .ok (.lload_n 0, 1) := sorry
theorem dJ35_numberOfTrailingZeros_10 : decode cJ35_numberOfTrailingZeros 10 = .ok (.bipush 32, 2) := sorry
theorem dJ35_numberOfTrailingZeros_12 : decode cJ35_numberOfTrailingZeros 12 = .ok (.lushr, 1) := sorry
theorem dJ35_numberOfTrailingZeros_13 : decode cJ35_numberOfTrailingZeros 13 = .ok (.l2i, 1) := sorry
theorem dJ35_numberOfTrailingZeros_14 : decode cJ35_numberOfTrailingZeros 14 = .ok (.invokestatic 311, 3) := sorry
theorem dJ35_numberOfTrailingZeros_17 : decode cJ35_numberOfTrailingZeros 17 = .ok (.iadd, 1) := sorry
theorem dJ35_numberOfTrailingZeros_18 : decode cJ35_numberOfTrailingZeros 18 = .ok (.goto 7, 3) := sorry
theorem dJ35_numberOfTrailingZeros_21 : decode cJ35_numberOfTrailingZeros 21 = .ok (.iload_n 2, 1) := sorry
theorem dJ35_numberOfTrailingZeros_22 : decode cJ35_numberOfTrailingZeros 22 = .ok (.invokestatic 311, 3) := sorry
theorem dJ35_numberOfTrailingZeros_25 : decode cJ35_numberOfTrailingZeros 25 = .ok (.ireturn, 1) := sorry
abbrev cJ35_stringSize : ByteArray := prog_30_method_15_code
def yJ35_stringSize : MethodName := ⟨RJ35, "stringSize", "(J)I"⟩
def dkwJ35_stringSize_2 : List UInt8 := [167, 255, 229, 16, 19, 28, 96, 172]
abbrev dktJ35_stringSize_2 : List UInt8 := dkwJ35_stringSize_2 ++ []
def dkwJ35_stringSize_1 : List UInt8 := [162, 0, 26, 30, 33, 148, 158, 0, 8, 21, 5, 28, 96, 172, 20, 0, 53, 33, 105, 66, 132, 5, 1]
abbrev dktJ35_stringSize_1 : List UInt8 := dkwJ35_stringSize_1 ++ dktJ35_stringSize_2
def dkwJ35_stringSize_0 : List UInt8 := [4, 61, 30, 9, 148, 155, 0, 8, 3, 61, 30, 117, 63, 20, 0, 140, 66, 4, 54, 5, 21, 5, 16, 19]
abbrev dktJ35_stringSize_0 : List UInt8 := dkwJ35_stringSize_0 ++ dktJ35_stringSize_1
theorem dksJ35_stringSize_0 : cJ35_stringSize.data.toList.drop 0 = dktJ35_stringSize_0 := sorry
theorem dksJ35_stringSize_1 : cJ35_stringSize.data.toList.drop 24 = dktJ35_stringSize_1 := sorry
theorem dksJ35_stringSize_2 : cJ35_stringSize.data.toList.drop 47 = dktJ35_stringSize_2 := sorry
theorem dJ35_stringSize_0 : decode cJ35_stringSize 0 = .ok (.iconst 1, 1) := sorry
theorem dJ35_stringSize_1 : decode cJ35_stringSize 1 = .ok (.istore_n 2, 1) := sorry
theorem dJ35_stringSize_2 : decode cJ35_stringSize 2 = .ok (.lload_n 0, 1) := sorry
theorem dJ35_stringSize_3 : decode cJ35_stringSize 3 = .ok (.lconst 0, 1) := sorry
theorem dJ35_stringSize_4 : decode cJ35_stringSize 4 = .ok (.lcmp, 1) := sorry
theorem dJ35_stringSize_5 : decode cJ35_stringSize 5 = .ok (.ifCond .lt 8, 3) := sorry
theorem dJ35_stringSize_8 : decode cJ35_stringSize 8 = .ok (.iconst 0, 1) := sorry
theorem dJ35_stringSize_9 : decode cJ35_stringSize 9 = .ok (.istore_n 2, 1) := sorry
theorem dJ35_stringSize_10 : decode cJ35_stringSize 10 = .ok (.lload_n 0, 1) := sorry
theorem dJ35_stringSize_11 : decode cJ35_stringSize 11 = .ok (.lneg, 1) := sorry
theorem dJ35_stringSize_12 : decode cJ35_stringSize 12 = .ok (.lstore_n 0, 1) := sorry
theorem dJ35_stringSize_13 : decode cJ35_stringSize 13 = .ok (.ldc2_w 140, 3) := sorry
theorem dJ35_stringSize_16 : decode cJ35_stringSize 16 = .ok (.lstore_n 3, 1) := sorry
theorem dJ35_stringSize_17 : decode cJ35_stringSize 17 = .ok (.iconst 1, 1) := sorry
theorem dJ35_stringSize_18 : decode cJ35_stringSize 18 = .ok (.istore 5, 2) := sorry
theorem dJ35_stringSize_20 : decode cJ35_stringSize 20 = .ok (.iload 5, 2) := sorry
theorem dJ35_stringSize_22 : decode cJ35_stringSize 22 = .ok (.bipush 19, 2) := sorry
theorem dJ35_stringSize_24 : decode cJ35_stringSize 24 = .ok (.if_icmp .ge 26, 3) := sorry
theorem dJ35_stringSize_27 : decode cJ35_stringSize 27 = .ok (.lload_n 0, 1) := sorry
theorem dJ35_stringSize_28 : decode cJ35_stringSize 28 = .ok (.lload_n 3, 1) := sorry
theorem dJ35_stringSize_29 : decode cJ35_stringSize 29 = .ok (.lcmp, 1) := sorry
theorem dJ35_stringSize_30 : decode cJ35_stringSize 30 = .ok (.ifCond .le 8, 3) := sorry
theorem dJ35_stringSize_33 : decode cJ35_stringSize 33 = .ok (.iload 5, 2) := sorry
theorem dJ35_stringSize_35 : decode cJ35_stringSize 35 = .ok (.iload_n 2, 1) := sorry
theorem dJ35_stringSize_36 : decode cJ35_stringSize 36 = .ok (.iadd, 1) := sorry
theorem dJ35_stringSize_37 : decode cJ35_stringSize 37 = .ok (.ireturn, 1) := sorry
theorem dJ35_stringSize_38 : decode cJ35_stringSize 38 = .ok (.ldc2_w 53, 3) := sorry
theorem dJ35_stringSize_41 : decode cJ35_stringSize 41 = .ok (.lload_n 3, 1) := sorry
theorem dJ35_stringSize_42 : decode cJ35_stringSize 42 = .ok (.lmul, 1) := sorry
theorem dJ35_stringSize_43 : decode cJ35_stringSize 43 = .ok (.lstore_n 3, 1) := sorry
theorem dJ35_stringSize_44 : decode cJ35_stringSize 44 = .ok (.iinc 5 1, 3) := sorry
theorem dJ35_stringSize_47 : decode cJ35_stringSize 47 = .ok (.goto (-27), 3) := sorry
theorem dJ35_stringSize_50 : decode cJ35_stringSize 50 = .ok (.bipush 19, 2) := sorry
theorem dJ35_stringSize_52 : decode cJ35_stringSize 52 = .ok (.iload_n 2, 1) := sorry
theorem dJ35_stringSize_53 : decode cJ35_stringSize 53 = .ok (.iadd, 1) := sorry
theorem dJ35_stringSize_54 : decode cJ35_stringSize 54 = .ok (.ireturn, 1) := sorry
abbrev cJ35_getChars : ByteArray := prog_30_method_14_code
def yJ35_getChars : MethodName := ⟨RJ35, "getChars", "(JI[B)I"⟩
def dkwJ35_getChars_8 : List UInt8 := [21, 7, 16, 45, 84, 21, 7, 172]
abbrev dktJ35_getChars_8 : List UInt8 := dkwJ35_getChars_8 ++ []
def dkwJ35_getChars_7 : List UInt8 := [45, 132, 7, 255, 21, 7, 178, 0, 137, 21, 10, 116, 51, 84, 21, 8, 153, 0, 12, 45, 132, 7, 255]
abbrev dktJ35_getChars_7 : List UInt8 := dkwJ35_getChars_7 ++ dktJ35_getChars_8
def dkwJ35_getChars_6 : List UInt8 := [167, 255, 202, 45, 132, 7, 255, 21, 7, 178, 0, 133, 21, 10, 116, 51, 84, 21, 10, 16, 247, 162, 0, 17]
abbrev dktJ35_getChars_6 : List UInt8 := dkwJ35_getChars_6 ++ dktJ35_getChars_7
def dkwJ35_getChars_5 : List UInt8 := [21, 7, 178, 0, 133, 21, 6, 51, 84, 45, 132, 7, 255, 21, 7, 178, 0, 137, 21, 6, 51, 84]
abbrev dktJ35_getChars_5 : List UInt8 := dkwJ35_getChars_5 ++ dktJ35_getChars_6
def dkwJ35_getChars_4 : List UInt8 := [16, 100, 108, 54, 9, 21, 9, 16, 100, 104, 21, 10, 100, 54, 6, 21, 9, 54, 10, 45, 132, 7, 255]
abbrev dktJ35_getChars_4 : List UInt8 := dkwJ35_getChars_4 ++ dktJ35_getChars_5
def dkwJ35_getChars_3 : List UInt8 := [178, 0, 137, 21, 6, 51, 84, 167, 255, 201, 30, 136, 54, 10, 21, 10, 16, 156, 163, 0, 53, 21, 10]
abbrev dktJ35_getChars_3 : List UInt8 := dkwJ35_getChars_3 ++ dktJ35_getChars_4
def dkwJ35_getChars_2 : List UInt8 := [54, 6, 22, 4, 63, 45, 132, 7, 255, 21, 7, 178, 0, 133, 21, 6, 51, 84, 45, 132, 7, 255, 21, 7]
abbrev dktJ35_getChars_2 : List UInt8 := dkwJ35_getChars_2 ++ dktJ35_getChars_3
def dkwJ35_getChars_1 : List UInt8 := [30, 20, 0, 129, 148, 157, 0, 53, 30, 20, 0, 131, 109, 55, 4, 22, 4, 20, 0, 131, 105, 30, 101, 136]
abbrev dktJ35_getChars_1 : List UInt8 := dkwJ35_getChars_1 ++ dktJ35_getChars_2
def dkwJ35_getChars_0 : List UInt8 := [28, 54, 7, 30, 9, 148, 156, 0, 7, 4, 167, 0, 4, 3, 54, 8, 21, 8, 154, 0, 6, 30, 117, 63]
abbrev dktJ35_getChars_0 : List UInt8 := dkwJ35_getChars_0 ++ dktJ35_getChars_1
theorem dksJ35_getChars_0 : cJ35_getChars.data.toList.drop 0 = dktJ35_getChars_0 := sorry
theorem dksJ35_getChars_1 : cJ35_getChars.data.toList.drop 24 = dktJ35_getChars_1 := sorry
theorem dksJ35_getChars_2 : cJ35_getChars.data.toList.drop 48 = dktJ35_getChars_2 := sorry
theorem dksJ35_getChars_3 : cJ35_getChars.data.toList.drop 72 = dktJ35_getChars_3 := sorry
theorem dksJ35_getChars_4 : cJ35_getChars.data.toList.drop 95 = dktJ35_getChars_4 := sorry
theorem dksJ35_getChars_5 : cJ35_getChars.data.toList.drop 118 = dktJ35_getChars_5 := sorry
theorem dksJ35_getChars_6 : cJ35_getChars.data.toList.drop 140 = dktJ35_getChars_6 := sorry
theorem dksJ35_getChars_7 : cJ35_getChars.data.toList.drop 164 = dktJ35_getChars_7 := sorry
theorem dksJ35_getChars_8 : cJ35_getChars.data.toList.drop 187 = dktJ35_getChars_8 := sorry
theorem dJ35_getChars_0 : decode cJ35_getChars 0 = .ok (.iload_n 2, 1) := sorry
theorem dJ35_getChars_1 : decode cJ35_getChars 1 = .ok (.istore 7, 2) := sorry
theorem dJ35_getChars_3 : decode cJ35_getChars 3 = .ok (.lload_n 0, 1) := sorry
theorem dJ35_getChars_4 : decode cJ35_getChars 4 = .ok (.lconst 0, 1) := sorry
theorem dJ35_getChars_5 : decode cJ35_getChars 5 = .ok (.lcmp, 1) := sorry
theorem dJ35_getChars_6 : decode cJ35_getChars 6 = .ok (.ifCond .ge 7, 3) := sorry
theorem dJ35_getChars_9 : decode cJ35_getChars 9 = .ok (.iconst 1, 1) := sorry
theorem dJ35_getChars_10 : decode cJ35_getChars 10 = .ok (.goto 4, 3) := sorry
theorem dJ35_getChars_13 : decode cJ35_getChars 13 = .ok (.iconst 0, 1) := sorry
theorem dJ35_getChars_14 : decode cJ35_getChars 14 = .ok (.istore 8, 2) := sorry
theorem dJ35_getChars_16 : decode cJ35_getChars 16 = .ok (.iload 8, 2) := sorry
theorem dJ35_getChars_18 : decode cJ35_getChars 18 = .ok (.ifCond .ne 6, 3) := sorry
theorem dJ35_getChars_21 : decode cJ35_getChars 21 = .ok (.lload_n 0, 1) := sorry
theorem dJ35_getChars_22 : decode cJ35_getChars 22 = .ok (.lneg, 1) := sorry
theorem dJ35_getChars_23 : decode cJ35_getChars 23 = .ok (.lstore_n 0, 1) := sorry
theorem dJ35_getChars_24 : decode cJ35_getChars 24 = .ok (.lload_n 0, 1) := sorry
theorem dJ35_getChars_25 : decode cJ35_getChars 25 = .ok (.ldc2_w 129, 3) := sorry
theorem dJ35_getChars_28 : decode cJ35_getChars 28 = .ok (.lcmp, 1) := sorry
theorem dJ35_getChars_29 : decode cJ35_getChars 29 = .ok (.ifCond .gt 53, 3) := sorry
theorem dJ35_getChars_32 : decode cJ35_getChars 32 = .ok (.lload_n 0, 1) := sorry
theorem dJ35_getChars_33 : decode cJ35_getChars 33 = .ok (.ldc2_w 131, 3) := sorry
theorem dJ35_getChars_36 : decode cJ35_getChars 36 = .ok (.ldiv, 1) := sorry
theorem dJ35_getChars_37 : decode cJ35_getChars 37 = .ok (.lstore 4, 2) := sorry
theorem dJ35_getChars_39 : decode cJ35_getChars 39 = .ok (.lload 4, 2) := sorry
theorem dJ35_getChars_41 : decode cJ35_getChars 41 = .ok (.ldc2_w 131, 3) := sorry
theorem dJ35_getChars_44 : decode cJ35_getChars 44 = .ok (.lmul, 1) := sorry
theorem dJ35_getChars_45 : decode cJ35_getChars 45 = .ok (.lload_n 0, 1) := sorry
theorem dJ35_getChars_46 : decode cJ35_getChars 46 = .ok (.lsub, 1) := sorry
theorem dJ35_getChars_47 : decode cJ35_getChars 47 = .ok (.l2i, 1) := sorry
theorem dJ35_getChars_48 : decode cJ35_getChars 48 = .ok (.istore 6, 2) := sorry
theorem dJ35_getChars_50 : decode cJ35_getChars 50 = .ok (.lload 4, 2) := sorry
theorem dJ35_getChars_52 : decode cJ35_getChars 52 = .ok (.lstore_n 0, 1) := sorry
theorem dJ35_getChars_53 : decode cJ35_getChars 53 = .ok (.aload_n 3, 1) := sorry
theorem dJ35_getChars_54 : decode cJ35_getChars 54 = .ok (.iinc 7 (-1), 3) := sorry
theorem dJ35_getChars_57 : decode cJ35_getChars 57 = .ok (.iload 7, 2) := sorry
theorem dJ35_getChars_59 : decode cJ35_getChars 59 = .ok (.getstatic 133, 3) := sorry
theorem dJ35_getChars_62 : decode cJ35_getChars 62 = .ok (.iload 6, 2) := sorry
theorem dJ35_getChars_64 : decode cJ35_getChars 64 = .ok (.baload, 1) := sorry
theorem dJ35_getChars_65 : decode cJ35_getChars 65 = .ok (.bastore, 1) := sorry
theorem dJ35_getChars_66 : decode cJ35_getChars 66 = .ok (.aload_n 3, 1) := sorry
theorem dJ35_getChars_67 : decode cJ35_getChars 67 = .ok (.iinc 7 (-1), 3) := sorry
theorem dJ35_getChars_70 : decode cJ35_getChars 70 = .ok (.iload 7, 2) := sorry
theorem dJ35_getChars_72 : decode cJ35_getChars 72 = .ok (.getstatic 137, 3) := sorry
theorem dJ35_getChars_75 : decode cJ35_getChars 75 = .ok (.iload 6, 2) := sorry
theorem dJ35_getChars_77 : decode cJ35_getChars 77 = .ok (.baload, 1) := sorry
theorem dJ35_getChars_78 : decode cJ35_getChars 78 = .ok (.bastore, 1) := sorry
theorem dJ35_getChars_79 : decode cJ35_getChars 79 = .ok (.goto (-55), 3) := sorry
theorem dJ35_getChars_82 : decode cJ35_getChars 82 = .ok (.lload_n 0, 1) := sorry
theorem dJ35_getChars_83 : decode cJ35_getChars 83 = .ok (.l2i, 1) := sorry
theorem dJ35_getChars_84 : decode cJ35_getChars 84 = .ok (.istore 10, 2) := sorry
theorem dJ35_getChars_86 : decode cJ35_getChars 86 = .ok (.iload 10, 2) := sorry
theorem dJ35_getChars_88 : decode cJ35_getChars 88 = .ok (.bipush (-100), 2) := sorry
theorem dJ35_getChars_90 : decode cJ35_getChars 90 = .ok (.if_icmp .gt 53, 3) := sorry
theorem dJ35_getChars_93 : decode cJ35_getChars 93 = .ok (.iload 10, 2) := sorry
theorem dJ35_getChars_95 : decode cJ35_getChars 95 = .ok (.bipush 100, 2) := sorry
theorem dJ35_getChars_97 : decode cJ35_getChars 97 = .ok (.idiv, 1) := sorry
theorem dJ35_getChars_98 : decode cJ35_getChars 98 = .ok (.istore 9, 2) := sorry
theorem dJ35_getChars_100 : decode cJ35_getChars 100 = .ok (.iload 9, 2) := sorry
theorem dJ35_getChars_102 : decode cJ35_getChars 102 = .ok (.bipush 100, 2) := sorry
theorem dJ35_getChars_104 : decode cJ35_getChars 104 = .ok (.imul, 1) := sorry
theorem dJ35_getChars_105 : decode cJ35_getChars 105 = .ok (.iload 10, 2) := sorry
theorem dJ35_getChars_107 : decode cJ35_getChars 107 = .ok (.isub, 1) := sorry
theorem dJ35_getChars_108 : decode cJ35_getChars 108 = .ok (.istore 6, 2) := sorry
theorem dJ35_getChars_110 : decode cJ35_getChars 110 = .ok (.iload 9, 2) := sorry
theorem dJ35_getChars_112 : decode cJ35_getChars 112 = .ok (.istore 10, 2) := sorry
theorem dJ35_getChars_114 : decode cJ35_getChars 114 = .ok (.aload_n 3, 1) := sorry
theorem dJ35_getChars_115 : decode cJ35_getChars 115 = .ok (.iinc 7 (-1), 3) := sorry
theorem dJ35_getChars_118 : decode cJ35_getChars 118 = .ok (.iload 7, 2) := sorry
theorem dJ35_getChars_120 : decode cJ35_getChars 120 = .ok (.getstatic 133, 3) := sorry
theorem dJ35_getChars_123 : decode cJ35_getChars 123 = .ok (.iload 6, 2) := sorry
theorem dJ35_getChars_125 : decode cJ35_getChars 125 = .ok (.baload, 1) := sorry
theorem dJ35_getChars_126 : decode cJ35_getChars 126 = .ok (.bastore, 1) := sorry
theorem dJ35_getChars_127 : decode cJ35_getChars 127 = .ok (.aload_n 3, 1) := sorry
theorem dJ35_getChars_128 : decode cJ35_getChars 128 = .ok (.iinc 7 (-1), 3) := sorry
theorem dJ35_getChars_131 : decode cJ35_getChars 131 = .ok (.iload 7, 2) := sorry
theorem dJ35_getChars_133 : decode cJ35_getChars 133 = .ok (.getstatic 137, 3) := sorry
theorem dJ35_getChars_136 : decode cJ35_getChars 136 = .ok (.iload 6, 2) := sorry
theorem dJ35_getChars_138 : decode cJ35_getChars 138 = .ok (.baload, 1) := sorry
theorem dJ35_getChars_139 : decode cJ35_getChars 139 = .ok (.bastore, 1) := sorry
theorem dJ35_getChars_140 : decode cJ35_getChars 140 = .ok (.goto (-54), 3) := sorry
theorem dJ35_getChars_143 : decode cJ35_getChars 143 = .ok (.aload_n 3, 1) := sorry
theorem dJ35_getChars_144 : decode cJ35_getChars 144 = .ok (.iinc 7 (-1), 3) := sorry
theorem dJ35_getChars_147 : decode cJ35_getChars 147 = .ok (.iload 7, 2) := sorry
theorem dJ35_getChars_149 : decode cJ35_getChars 149 = .ok (.getstatic 133, 3) := sorry
theorem dJ35_getChars_152 : decode cJ35_getChars 152 = .ok (.iload 10, 2) := sorry
theorem dJ35_getChars_154 : decode cJ35_getChars 154 = .ok (.ineg, 1) := sorry
theorem dJ35_getChars_155 : decode cJ35_getChars 155 = .ok (.baload, 1) := sorry
theorem dJ35_getChars_156 : decode cJ35_getChars 156 = .ok (.bastore, 1) := sorry
theorem dJ35_getChars_157 : decode cJ35_getChars 157 = .ok (.iload 10, 2) := sorry
theorem dJ35_getChars_159 : decode cJ35_getChars 159 = .ok (.bipush (-9), 2) := sorry
theorem dJ35_getChars_161 : decode cJ35_getChars 161 = .ok (.if_icmp .ge 17, 3) := sorry
theorem dJ35_getChars_164 : decode cJ35_getChars 164 = .ok (.aload_n 3, 1) := sorry
theorem dJ35_getChars_165 : decode cJ35_getChars 165 = .ok (.iinc 7 (-1), 3) := sorry
theorem dJ35_getChars_168 : decode cJ35_getChars 168 = .ok (.iload 7, 2) := sorry
theorem dJ35_getChars_170 : decode cJ35_getChars 170 = .ok (.getstatic 137, 3) := sorry
theorem dJ35_getChars_173 : decode cJ35_getChars 173 = .ok (.iload 10, 2) := sorry
theorem dJ35_getChars_175 : decode cJ35_getChars 175 = .ok (.ineg, 1) := sorry
theorem dJ35_getChars_176 : decode cJ35_getChars 176 = .ok (.baload, 1) := sorry
theorem dJ35_getChars_177 : decode cJ35_getChars 177 = .ok (.bastore, 1) := sorry
theorem dJ35_getChars_178 : decode cJ35_getChars 178 = .ok (.iload 8, 2) := sorry
theorem dJ35_getChars_180 : decode cJ35_getChars 180 = .ok (.ifCond .eq 12, 3) := sorry
theorem dJ35_getChars_183 : decode cJ35_getChars 183 = .ok (.aload_n 3, 1) := sorry
theorem dJ35_getChars_184 : decode cJ35_getChars 184 = .ok (.iinc 7 (-1), 3) := sorry
theorem dJ35_getChars_187 : decode cJ35_getChars 187 = .ok (.iload 7, 2) := sorry
theorem dJ35_getChars_189 : decode cJ35_getChars 189 = .ok (.bipush 45, 2) := sorry
theorem dJ35_getChars_191 : decode cJ35_getChars 191 = .ok (.bastore, 1) := sorry
theorem dJ35_getChars_192 : decode cJ35_getChars 192 = .ok (.iload 7, 2) := sorry
theorem dJ35_getChars_194 : decode cJ35_getChars 194 = .ok (.ireturn, 1) := sorry
theorem q178 : (Jvm.Cond.initialized "java/lang/Long") ∈ lw_all := sorry
theorem q1418 : (Jvm.Cond.static ({ cls := "java/lang/Long", name := "numberOfTrailingZeros", desc := "(J)I" } : Jvm.MethodName)) ∈ lw_all := sorry
theorem q1419 : (Jvm.Cond.code ({ cls := "java/lang/Long", name := "numberOfTrailingZeros", desc := "(J)I" } : Jvm.MethodName) prog_30_method_49_code (3 : Nat) (Option.some Jvm.ClassFile.FieldType.int)) ∈ lw_all := sorry
theorem q1420 : (Jvm.Cond.methodLink "java/lang/Long" (311 : Nat) ({ cls := "java/lang/Integer", name := "numberOfTrailingZeros", desc := "(I)I" } : Jvm.MethodName)) ∈ lw_all := sorry
theorem q2266 : (Jvm.Cond.static ({ cls := "java/lang/Long", name := "stringSize", desc := "(J)I" } : Jvm.MethodName)) ∈ lw_all := sorry
theorem q2267 : (Jvm.Cond.code ({ cls := "java/lang/Long", name := "stringSize", desc := "(J)I" } : Jvm.MethodName) prog_30_method_15_code (6 : Nat) (Option.some Jvm.ClassFile.FieldType.int)) ∈ lw_all := sorry
theorem q2268 : (Jvm.Cond.constantLong "java/lang/Long" (140 : Nat) (-10 : Int64)) ∈ lw_all := sorry
theorem q2269 : (Jvm.Cond.constantLong "java/lang/Long" (53 : Nat) (10 : Int64)) ∈ lw_all := sorry
theorem q2271 : (Jvm.Cond.static ({ cls := "java/lang/Long", name := "getChars", desc := "(JI[B)I" } : Jvm.MethodName)) ∈ lw_all := lw_g (lw_at lw_m9 222 rfl) rfl
theorem q2272 : (Jvm.Cond.code ({ cls := "java/lang/Long", name := "getChars", desc := "(JI[B)I" } : Jvm.MethodName) prog_30_method_14_code (11 : Nat) (Option.some Jvm.ClassFile.FieldType.int)) ∈ lw_all := lw_g (lw_at lw_m9 223 rfl) rfl
theorem q2273 : (Jvm.Cond.constantLong "java/lang/Long" (129 : Nat) (-2147483648 : Int64)) ∈ lw_all := sorry
theorem q2274 : (Jvm.Cond.constantLong "java/lang/Long" (131 : Nat) (100 : Int64)) ∈ lw_all := sorry
theorem q2275 : (Jvm.Cond.fieldLink "java/lang/Long" (133 : Nat) "java/lang/Integer" "DigitOnes" "[B") ∈ lw_all := lw_g (lw_at lw_m9 226 rfl) rfl
theorem q2276 : (Jvm.Cond.fieldLink "java/lang/Long" (137 : Nat) "java/lang/Integer" "DigitTens" "[B") ∈ lw_all := lw_g (lw_at lw_m9 227 rfl) rfl
/-! java/lang/IllegalStateException -/
set_option maxRecDepth 100000
def RJ36 : String := "java/lang/IllegalStateException"
def TJ36 : u_T := fun k => match k with
  | 0 => ("java/lang/Throwable", "cause", "Ljava/lang/Throwable;", false)
  | 1 => ("java/lang/Throwable", "stackTrace", "[Ljava/lang/StackTraceElement;", false)
  | 2 => ("java/lang/Throwable", "suppressedExceptions", "Ljava/util/List;", false)
  | 3 => ("java/lang/Throwable", "detailMessage", "Ljava/lang/String;", false)
  | 4 => ("java/lang/Throwable", "backtrace", "Ljava/lang/Object;", false)
  | _ => ("java/lang/Throwable", "depth", "I", false)
def tyJ36 : Nat → FieldType := fun k => match k with
  | 0 => .object "java/lang/Throwable"
  | 1 => .array (.object "java/lang/StackTraceElement")
  | 2 => .object "java/util/List"
  | 3 => .object "java/lang/String"
  | 4 => .object "java/lang/Object"
  | _ => .int
abbrev wsJ360 : List Cond := u_ws RJ36 TJ36 6
theorem nmJ36 : ∀ a, a < 6 → ∀ b, b < 6 → a ≠ b → (TJ36 a).2.1 ≠ (TJ36 b).2.1 := sorry
theorem tyJ36_ok : ∀ k, k < 6 → parseFieldDescriptor (TJ36 k).2.2.1 = some (tyJ36 k) := sorry
abbrev cJ36_init : ByteArray := prog_27_method_1_code
def yJ36_init : MethodName := ⟨RJ36, "<init>", "()V"⟩
theorem dJ36_init_0 : decode cJ36_init 0 = .ok (.aload_n 0, 1) := sorry
theorem dJ36_init_1 : decode cJ36_init 1 = .ok (.invokespecial 1, 3) := sorry
theorem dJ36_init_4 : decode cJ36_init 4 = .ok (.return_, 1) := sorry
theorem q180 : (Jvm.Cond.initialized "java/lang/IllegalStateException") ∈ lw_all := sorry
theorem q524 : (Jvm.Cond.selects "java/lang/IllegalStateException" ({ cls := "java/lang/Throwable", name := "fillInStackTrace", desc := "()Ljava/lang/Throwable;" } : Jvm.MethodName) ({ cls := "java/lang/Throwable", name := "fillInStackTrace", desc := "()Ljava/lang/Throwable;" } : Jvm.MethodName)) ∈ lw_all := sorry
theorem q549 : (Jvm.Cond.selects "java/lang/IllegalStateException" ({ cls := "java/lang/Throwable", name := "toString", desc := "()Ljava/lang/String;" } : Jvm.MethodName) ({ cls := "java/lang/Throwable", name := "toString", desc := "()Ljava/lang/String;" } : Jvm.MethodName)) ∈ lw_all := sorry
theorem q571 : (Jvm.Cond.selects "java/lang/IllegalStateException" ({ cls := "java/lang/Object", name := "getClass", desc := "()Ljava/lang/Class;" } : Jvm.MethodName) ({ cls := "java/lang/Object", name := "getClass", desc := "()Ljava/lang/Class;" } : Jvm.MethodName)) ∈ lw_all := sorry
theorem q593 : (Jvm.Cond.selects "java/lang/IllegalStateException" ({ cls := "java/lang/Throwable", name := "getLocalizedMessage", desc := "()Ljava/lang/String;" } : Jvm.MethodName) ({ cls := "java/lang/Throwable", name := "getLocalizedMessage", desc := "()Ljava/lang/String;" } : Jvm.MethodName)) ∈ lw_all := sorry
theorem q602 : (Jvm.Cond.selects "java/lang/IllegalStateException" ({ cls := "java/lang/Throwable", name := "getMessage", desc := "()Ljava/lang/String;" } : Jvm.MethodName) ({ cls := "java/lang/Throwable", name := "getMessage", desc := "()Ljava/lang/String;" } : Jvm.MethodName)) ∈ lw_all := sorry
theorem q2109 : (Jvm.Cond.instantiable "java/lang/IllegalStateException" (6 : Nat)) ∈ lw_all := sorry
theorem q2110 : (Jvm.Cond.castable "java/lang/IllegalStateException" "java/lang/IllegalStateException") ∈ lw_tbl := sorry
theorem q2111 : (Jvm.Cond.selects "java/lang/IllegalStateException" ({ cls := "java/lang/Throwable", name := "fillInStackTrace", desc := "(I)Ljava/lang/Throwable;" } : Jvm.MethodName) ({ cls := "java/lang/Throwable", name := "fillInStackTrace", desc := "(I)Ljava/lang/Throwable;" } : Jvm.MethodName)) ∈ lw_all := sorry
theorem q2112 : (Jvm.Cond.lays "java/lang/IllegalStateException" "java/lang/Throwable" "cause" "Ljava/lang/Throwable;") ∈ lw_all := sorry
theorem q2113 : (Jvm.Cond.lays "java/lang/IllegalStateException" "java/lang/Throwable" "stackTrace" "[Ljava/lang/StackTraceElement;") ∈ lw_all := lw_g (lw_at lw_m9 64 rfl) rfl
theorem q2114 : (Jvm.Cond.lays "java/lang/IllegalStateException" "java/lang/Throwable" "suppressedExceptions" "Ljava/util/List;") ∈ lw_all := sorry
theorem q2115 : (Jvm.Cond.lays "java/lang/IllegalStateException" "java/lang/Throwable" "detailMessage" "Ljava/lang/String;") ∈ lw_all := sorry
theorem q2116 : (Jvm.Cond.lays "java/lang/IllegalStateException" "java/lang/Throwable" "backtrace" "Ljava/lang/Object;") ∈ lw_all := sorry
theorem q2118 : (Jvm.Cond.instanceMethod ({ cls := "java/lang/IllegalStateException", name := "<init>", desc := "()V" } : Jvm.MethodName)) ∈ lw_all := sorry
theorem q2119 : (Jvm.Cond.code ({ cls := "java/lang/IllegalStateException", name := "<init>", desc := "()V" } : Jvm.MethodName) prog_27_method_1_code (1 : Nat) (Option.none : Option Jvm.ClassFile.FieldType)) ∈ lw_all := sorry
theorem q2120 : (Jvm.Cond.methodLink "java/lang/IllegalStateException" (1 : Nat) ({ cls := "java/lang/RuntimeException", name := "<init>", desc := "()V" } : Jvm.MethodName)) ∈ lw_all := sorry
theorem q2121 : (Jvm.Cond.lays "java/lang/IllegalStateException" "java/lang/Throwable" "depth" "I") ∈ lw_all := sorry
theorem q2122 : (Jvm.Cond.superclass "java/lang/IllegalStateException" "java/lang/RuntimeException") ∈ lw_all := sorry
theorem q2428 : (Jvm.Cond.selects "java/lang/IllegalStateException" ({ cls := "java/lang/Object", name := "equals", desc := "(Ljava/lang/Object;)Z" } : Jvm.MethodName) ({ cls := "java/lang/Object", name := "equals", desc := "(Ljava/lang/Object;)Z" } : Jvm.MethodName)) ∈ lw_all := sorry
theorem q3255 : (Jvm.Cond.castable "java/lang/IllegalStateException" "java/lang/Object") ∈ lw_tbl := sorry
theorem in_J36 : ∀ w ∈ wsJ360, w ∈ lw_all := sorry
/-! java/util/ConcurrentModificationException -/
set_option maxRecDepth 100000
def RJ37 : String := "java/util/ConcurrentModificationException"
def TJ37 : u_T := fun k => match k with
  | 0 => ("java/lang/Throwable", "cause", "Ljava/lang/Throwable;", false)
  | 1 => ("java/lang/Throwable", "stackTrace", "[Ljava/lang/StackTraceElement;", false)
  | 2 => ("java/lang/Throwable", "suppressedExceptions", "Ljava/util/List;", false)
  | 3 => ("java/lang/Throwable", "detailMessage", "Ljava/lang/String;", false)
  | 4 => ("java/lang/Throwable", "backtrace", "Ljava/lang/Object;", false)
  | _ => ("java/lang/Throwable", "depth", "I", false)
def tyJ37 : Nat → FieldType := fun k => match k with
  | 0 => .object "java/lang/Throwable"
  | 1 => .array (.object "java/lang/StackTraceElement")
  | 2 => .object "java/util/List"
  | 3 => .object "java/lang/String"
  | 4 => .object "java/lang/Object"
  | _ => .int
abbrev wsJ370 : List Cond := u_ws RJ37 TJ37 6
theorem nmJ37 : ∀ a, a < 6 → ∀ b, b < 6 → a ≠ b → (TJ37 a).2.1 ≠ (TJ37 b).2.1 := sorry
theorem tyJ37_ok : ∀ k, k < 6 → parseFieldDescriptor (TJ37 k).2.2.1 = some (tyJ37 k) := sorry
abbrev cJ37_init : ByteArray := prog_55_method_1_code
def yJ37_init : MethodName := ⟨RJ37, "<init>", "()V"⟩
theorem dJ37_init_0 : decode cJ37_init 0 = .ok (.aload_n 0, 1) := sorry
theorem dJ37_init_1 : decode cJ37_init 1 = .ok (.invokespecial 1, 3) := sorry
theorem dJ37_init_4 : decode cJ37_init 4 = .ok (.return_, 1) := sorry
theorem q181 : (Jvm.Cond.initialized "java/util/ConcurrentModificationException") ∈ lw_all := sorry
theorem q525 : (Jvm.Cond.selects "java/util/ConcurrentModificationException" ({ cls := "java/lang/Throwable", name := "fillInStackTrace", desc := "()Ljava/lang/Throwable;" } : Jvm.MethodName) ({ cls := "java/lang/Throwable", name := "fillInStackTrace", desc := "()Ljava/lang/Throwable;" } : Jvm.MethodName)) ∈ lw_all := sorry
theorem q550 : (Jvm.Cond.selects "java/util/ConcurrentModificationException" ({ cls := "java/lang/Throwable", name := "toString", desc := "()Ljava/lang/String;" } : Jvm.MethodName) ({ cls := "java/lang/Throwable", name := "toString", desc := "()Ljava/lang/String;" } : Jvm.MethodName)) ∈ lw_all := sorry
theorem q580 : (Jvm.Cond.selects "java/util/ConcurrentModificationException" ({ cls := "java/lang/Object", name := "getClass", desc := "()Ljava/lang/Class;" } : Jvm.MethodName) ({ cls := "java/lang/Object", name := "getClass", desc := "()Ljava/lang/Class;" } : Jvm.MethodName)) ∈ lw_all := sorry
theorem q594 : (Jvm.Cond.selects "java/util/ConcurrentModificationException" ({ cls := "java/lang/Throwable", name := "getLocalizedMessage", desc := "()Ljava/lang/String;" } : Jvm.MethodName) ({ cls := "java/lang/Throwable", name := "getLocalizedMessage", desc := "()Ljava/lang/String;" } : Jvm.MethodName)) ∈ lw_all := sorry
theorem q603 : (Jvm.Cond.selects "java/util/ConcurrentModificationException" ({ cls := "java/lang/Throwable", name := "getMessage", desc := "()Ljava/lang/String;" } : Jvm.MethodName) ({ cls := "java/lang/Throwable", name := "getMessage", desc := "()Ljava/lang/String;" } : Jvm.MethodName)) ∈ lw_all := sorry
theorem q2137 : (Jvm.Cond.instantiable "java/util/ConcurrentModificationException" (6 : Nat)) ∈ lw_all := sorry
theorem q2138 : (Jvm.Cond.castable "java/util/ConcurrentModificationException" "java/util/ConcurrentModificationException") ∈ lw_tbl := sorry
theorem q2139 : (Jvm.Cond.selects "java/util/ConcurrentModificationException" ({ cls := "java/lang/Throwable", name := "fillInStackTrace", desc := "(I)Ljava/lang/Throwable;" } : Jvm.MethodName) ({ cls := "java/lang/Throwable", name := "fillInStackTrace", desc := "(I)Ljava/lang/Throwable;" } : Jvm.MethodName)) ∈ lw_all := sorry
theorem q2140 : (Jvm.Cond.lays "java/util/ConcurrentModificationException" "java/lang/Throwable" "cause" "Ljava/lang/Throwable;") ∈ lw_all := sorry
theorem q2141 : (Jvm.Cond.lays "java/util/ConcurrentModificationException" "java/lang/Throwable" "stackTrace" "[Ljava/lang/StackTraceElement;") ∈ lw_all := lw_g (lw_at lw_m9 92 rfl) rfl
theorem q2142 : (Jvm.Cond.lays "java/util/ConcurrentModificationException" "java/lang/Throwable" "suppressedExceptions" "Ljava/util/List;") ∈ lw_all := sorry
theorem q2143 : (Jvm.Cond.lays "java/util/ConcurrentModificationException" "java/lang/Throwable" "detailMessage" "Ljava/lang/String;") ∈ lw_all := sorry
theorem q2144 : (Jvm.Cond.lays "java/util/ConcurrentModificationException" "java/lang/Throwable" "backtrace" "Ljava/lang/Object;") ∈ lw_all := sorry
theorem q2146 : (Jvm.Cond.instanceMethod ({ cls := "java/util/ConcurrentModificationException", name := "<init>", desc := "()V" } : Jvm.MethodName)) ∈ lw_all := sorry
theorem q2147 : (Jvm.Cond.code ({ cls := "java/util/ConcurrentModificationException", name := "<init>", desc := "()V" } : Jvm.MethodName) prog_55_method_1_code (1 : Nat) (Option.none : Option Jvm.ClassFile.FieldType)) ∈ lw_all := sorry
theorem q2148 : (Jvm.Cond.methodLink "java/util/ConcurrentModificationException" (1 : Nat) ({ cls := "java/lang/RuntimeException", name := "<init>", desc := "()V" } : Jvm.MethodName)) ∈ lw_all := sorry
theorem q2149 : (Jvm.Cond.lays "java/util/ConcurrentModificationException" "java/lang/Throwable" "depth" "I") ∈ lw_all := sorry
theorem q2150 : (Jvm.Cond.superclass "java/util/ConcurrentModificationException" "java/lang/RuntimeException") ∈ lw_all := sorry
theorem q3256 : (Jvm.Cond.castable "java/util/ConcurrentModificationException" "java/lang/Object") ∈ lw_tbl := sorry
theorem in_J37 : ∀ w ∈ wsJ370, w ∈ lw_all := sorry
/-! java/lang/Object -/
set_option maxRecDepth 100000
def RJ38 : String := "java/lang/Object"
abbrev cJ38_init : ByteArray := object_method_1_code
def yJ38_init : MethodName := ⟨RJ38, "<init>", "()V"⟩
theorem dJ38_init_0 : decode cJ38_init 0 = .ok (.return_, 1) := sorry
abbrev cJ38_equals : ByteArray := object_method_4_code
def yJ38_equals : MethodName := ⟨RJ38, "equals", "(Ljava/lang/Object;)Z"⟩
def dkwJ38_equals_0 : List UInt8 := [42, 43, 166, 0, 7, 4, 167, 0, 4, 3, 172]
abbrev dktJ38_equals_0 : List UInt8 := dkwJ38_equals_0 ++ []
theorem dksJ38_equals_0 : cJ38_equals.data.toList.drop 0 = dktJ38_equals_0 := sorry
theorem dJ38_equals_0 : decode cJ38_equals 0 = .ok (.aload_n 0, 1) := sorry
theorem dJ38_equals_1 : decode cJ38_equals 1 = .ok (.aload_n 1, 1) := sorry
theorem dJ38_equals_2 : decode cJ38_equals 2 = .ok (.if_acmp .ne 7, 3) := sorry
theorem dJ38_equals_5 : decode cJ38_equals 5 = .ok (.iconst 1, 1) := sorry
theorem dJ38_equals_6 : decode cJ38_equals 6 = .ok (.goto 4, 3) := sorry
theorem dJ38_equals_9 : decode cJ38_equals 9 = .ok (.iconst 0, 1) := sorry
theorem dJ38_equals_10 : decode cJ38_equals 10 = .ok (.ireturn, 1) := sorry
theorem q193 : (Jvm.Cond.instanceMethod ({ cls := "java/lang/Object", name := "<init>", desc := "()V" } : Jvm.MethodName)) ∈ lw_all := sorry
theorem q194 : (Jvm.Cond.code ({ cls := "java/lang/Object", name := "<init>", desc := "()V" } : Jvm.MethodName) object_method_1_code (1 : Nat) (Option.none : Option Jvm.ClassFile.FieldType)) ∈ lw_all := sorry
theorem q554 : (Jvm.Cond.instanceMethod ({ cls := "java/lang/Object", name := "getClass", desc := "()Ljava/lang/Class;" } : Jvm.MethodName)) ∈ lw_all := sorry
theorem q555 : (Jvm.Cond.sameMethod "java/lang/Object" "java/lang/Object" "getClass" "()Ljava/lang/Class;") ∈ lw_all := sorry
theorem q587 : (Jvm.Cond.native ({ cls := "java/lang/Object", name := "getClass", desc := "()Ljava/lang/Class;" } : Jvm.MethodName)) ∈ lw_all := sorry
theorem q674 : (Jvm.Cond.native ({ cls := "java/lang/Object", name := "clone", desc := "()Ljava/lang/Object;" } : Jvm.MethodName)) ∈ lw_all := sorry
theorem q675 : (Jvm.Cond.instanceMethod ({ cls := "java/lang/Object", name := "clone", desc := "()Ljava/lang/Object;" } : Jvm.MethodName)) ∈ lw_all := sorry
theorem q2407 : (Jvm.Cond.declares ({ cls := "java/lang/Object", name := "equals", desc := "(Ljava/lang/Object;)Z" } : Jvm.MethodName)) ∈ lw_tbl := sorry
theorem q2409 : (Jvm.Cond.instanceMethod ({ cls := "java/lang/Object", name := "equals", desc := "(Ljava/lang/Object;)Z" } : Jvm.MethodName)) ∈ lw_all := sorry
theorem q2410 : (Jvm.Cond.sameMethod "java/lang/Object" "java/lang/Object" "equals" "(Ljava/lang/Object;)Z") ∈ lw_all := sorry
theorem q2432 : (Jvm.Cond.code ({ cls := "java/lang/Object", name := "equals", desc := "(Ljava/lang/Object;)Z" } : Jvm.MethodName) object_method_4_code (2 : Nat) (Option.some Jvm.ClassFile.FieldType.boolean)) ∈ lw_all := sorry
theorem q3225 : (Jvm.Cond.initialized "java/lang/Object") ∈ lw_all := sorry
theorem q3229 : (Jvm.Cond.selects "java/lang/Object" ({ cls := "java/lang/Object", name := "equals", desc := "(Ljava/lang/Object;)Z" } : Jvm.MethodName) ({ cls := "java/lang/Object", name := "equals", desc := "(Ljava/lang/Object;)Z" } : Jvm.MethodName)) ∈ lw_all := sorry
theorem q3264 : (Jvm.Cond.declares ({ cls := "java/lang/Object", name := "getClass", desc := "()Ljava/lang/Class;" } : Jvm.MethodName)) ∈ lw_tbl := sorry
/-! java/lang/System$2 -/
set_option maxRecDepth 100000
def RJ39 : String := "java/lang/System$2"
abbrev cJ39_getUTF16Char : ByteArray := prog_39_method_45_code
def yJ39_getUTF16Char : MethodName := ⟨RJ39, "getUTF16Char", "([BI)C"⟩
def dkwJ39_getUTF16Char_0 : List UInt8 := [43, 28, 184, 0, 185, 172]
abbrev dktJ39_getUTF16Char_0 : List UInt8 := dkwJ39_getUTF16Char_0 ++ []
theorem dksJ39_getUTF16Char_0 : cJ39_getUTF16Char.data.toList.drop 0 = dktJ39_getUTF16Char_0 := sorry
theorem dJ39_getUTF16Char_0 : decode cJ39_getUTF16Char 0 = .ok (.aload_n 1, 1) := sorry
theorem dJ39_getUTF16Char_1 : decode cJ39_getUTF16Char 1 = .ok (.iload_n 2, 1) := sorry
theorem dJ39_getUTF16Char_2 : decode cJ39_getUTF16Char 2 = .ok (.invokestatic 185, 3) := sorry
theorem dJ39_getUTF16Char_5 : decode cJ39_getUTF16Char 5 = .ok (.ireturn, 1) := sorry
theorem q574 : (Jvm.Cond.selects "java/lang/System$2" ({ cls := "java/lang/Object", name := "getClass", desc := "()Ljava/lang/Class;" } : Jvm.MethodName) ({ cls := "java/lang/Object", name := "getClass", desc := "()Ljava/lang/Class;" } : Jvm.MethodName)) ∈ lw_all := sorry
theorem q1769 : (Jvm.Cond.castable "java/lang/System$2" "jdk/internal/access/JavaLangAccess") ∈ lw_tbl := sorry
theorem q1770 : (Jvm.Cond.selects "java/lang/System$2" ({ cls := "jdk/internal/access/JavaLangAccess", name := "getUTF16Char", desc := "([BI)C" } : Jvm.MethodName) ({ cls := "java/lang/System$2", name := "getUTF16Char", desc := "([BI)C" } : Jvm.MethodName)) ∈ lw_all := lw_g (lw_at lw_m7 201 rfl) rfl
theorem q1771 : (Jvm.Cond.unhidden "java/lang/System$2" "getUTF16Char" "([BI)C") ∈ lw_tbl := lw_at lw_m7 202 rfl
theorem q1772 : (Jvm.Cond.instanceMethod ({ cls := "java/lang/System$2", name := "getUTF16Char", desc := "([BI)C" } : Jvm.MethodName)) ∈ lw_all := lw_g (lw_at lw_m7 203 rfl) rfl
theorem q1773 : (Jvm.Cond.publicMethod ({ cls := "java/lang/System$2", name := "getUTF16Char", desc := "([BI)C" } : Jvm.MethodName)) ∈ lw_tbl := lw_at lw_m7 204 rfl
theorem q1774 : (Jvm.Cond.code ({ cls := "java/lang/System$2", name := "getUTF16Char", desc := "([BI)C" } : Jvm.MethodName) prog_39_method_45_code (3 : Nat) (Option.some Jvm.ClassFile.FieldType.char)) ∈ lw_all := lw_g (lw_at lw_m7 205 rfl) rfl
theorem q1775 : (Jvm.Cond.methodLink "java/lang/System$2" (185 : Nat) ({ cls := "java/lang/StringUTF16", name := "getChar", desc := "([BI)C" } : Jvm.MethodName)) ∈ lw_all := lw_g (lw_at lw_m7 206 rfl) rfl
theorem q2431 : (Jvm.Cond.selects "java/lang/System$2" ({ cls := "java/lang/Object", name := "equals", desc := "(Ljava/lang/Object;)Z" } : Jvm.MethodName) ({ cls := "java/lang/Object", name := "equals", desc := "(Ljava/lang/Object;)Z" } : Jvm.MethodName)) ∈ lw_all := sorry
theorem q3250 : (Jvm.Cond.castable "java/lang/System$2" "java/lang/Object") ∈ lw_tbl := sorry
