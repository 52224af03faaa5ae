/-! java/util/NoSuchElementException -/
set_option maxRecDepth 100000
def RJ13 : String := "java/util/NoSuchElementException"
def TJ13 : u_T := fun k => match k with
  | 0 => ("java/lang/Throwable", "cause", "Ljava/lang/Throwable;", false)
  | 1 => ("java/lang/Throwable", "stackTrace", "[Ljava/lang/StackTraceElement;", false)
  | 2 => ("java/lang/Throwable", "suppressedExceptions", "Ljava/util/List;", false)
  | 3 => ("java/lang/Throwable", "detailMessage", "Ljava/lang/String;", false)
  | 4 => ("java/lang/Throwable", "backtrace", "Ljava/lang/Object;", false)
  | _ => ("java/lang/Throwable", "depth", "I", false)
def tyJ13 : Nat → FieldType := fun k => match k with
  | 0 => .object "java/lang/Throwable"
  | 1 => .array (.object "java/lang/StackTraceElement")
  | 2 => .object "java/util/List"
  | 3 => .object "java/lang/String"
  | 4 => .object "java/lang/Object"
  | _ => .int
abbrev wsJ130 : List Cond := u_ws RJ13 TJ13 6
theorem nmJ13 : ∀ a, a < 6 → ∀ b, b < 6 → a ≠ b → (TJ13 a).2.1 ≠ (TJ13 b).2.1 := sorry
theorem tyJ13_ok : ∀ k, k < 6 → parseFieldDescriptor (TJ13 k).2.2.1 = some (tyJ13 k) := sorry
abbrev cJ13_init : ByteArray := prog_69_method_3_code
def yJ13_init : MethodName := ⟨RJ13, "<init>", "(Ljava/lang/Throwable;)V"⟩
def dkwJ13_init_0 : List UInt8 := [42, 43, 183, 0, 10, 177]
abbrev dktJ13_init_0 : List UInt8 := dkwJ13_init_0 ++ []
theorem dksJ13_init_0 : cJ13_init.data.toList.drop 0 = dktJ13_init_0 := sorry
theorem dJ13_init_0 : decode cJ13_init 0 = .ok (.aload_n 0, 1) := sorry
theorem dJ13_init_1 : decode cJ13_init 1 = .ok (.aload_n 1, 1) := sorry
theorem dJ13_init_2 : decode cJ13_init 2 = .ok (.invokespecial 10, 3) := sorry
theorem dJ13_init_5 : decode cJ13_init 5 = .ok (.return_, 1) := sorry
abbrev cJ13_init_2 : ByteArray := prog_69_method_1_code
def yJ13_init_2 : MethodName := ⟨RJ13, "<init>", "()V"⟩
theorem dJ13_init_2_0 : decode cJ13_init_2 0 = .ok (.aload_n 0, 1) := sorry
theorem dJ13_init_2_1 : decode cJ13_init_2 1 = .ok (.invokespecial 1, 3) := sorry
theorem dJ13_init_2_4 : decode cJ13_init_2 4 = .ok (.return_, 1) := sorry
theorem q148 : (Jvm.Cond.initialized "java/util/NoSuchElementException") ∈ lw_all := sorry
theorem q490 : (Jvm.Cond.instantiable "java/util/NoSuchElementException" (6 : Nat)) ∈ lw_all := sorry
theorem q491 : (Jvm.Cond.castable "java/util/NoSuchElementException" "java/util/NoSuchElementException") ∈ lw_tbl := sorry
theorem q498 : (Jvm.Cond.selects "java/util/NoSuchElementException" ({ cls := "java/lang/Throwable", name := "fillInStackTrace", desc := "(I)Ljava/lang/Throwable;" } : Jvm.MethodName) ({ cls := "java/lang/Throwable", name := "fillInStackTrace", desc := "(I)Ljava/lang/Throwable;" } : Jvm.MethodName)) ∈ lw_all := sorry
theorem q499 : (Jvm.Cond.selects "java/util/NoSuchElementException" ({ cls := "java/lang/Throwable", name := "fillInStackTrace", desc := "()Ljava/lang/Throwable;" } : Jvm.MethodName) ({ cls := "java/lang/Throwable", name := "fillInStackTrace", desc := "()Ljava/lang/Throwable;" } : Jvm.MethodName)) ∈ lw_all := sorry
theorem q500 : (Jvm.Cond.lays "java/util/NoSuchElementException" "java/lang/Throwable" "cause" "Ljava/lang/Throwable;") ∈ lw_all := sorry
theorem q502 : (Jvm.Cond.lays "java/util/NoSuchElementException" "java/lang/Throwable" "stackTrace" "[Ljava/lang/StackTraceElement;") ∈ lw_all := lw_g (lw_at lw_m2 133 rfl) rfl
theorem q504 : (Jvm.Cond.lays "java/util/NoSuchElementException" "java/lang/Throwable" "suppressedExceptions" "Ljava/util/List;") ∈ lw_all := sorry
theorem q506 : (Jvm.Cond.lays "java/util/NoSuchElementException" "java/lang/Throwable" "detailMessage" "Ljava/lang/String;") ∈ lw_all := sorry
theorem q508 : (Jvm.Cond.lays "java/util/NoSuchElementException" "java/lang/Throwable" "backtrace" "Ljava/lang/Object;") ∈ lw_all := sorry
theorem q533 : (Jvm.Cond.instanceMethod ({ cls := "java/util/NoSuchElementException", name := "<init>", desc := "(Ljava/lang/Throwable;)V" } : Jvm.MethodName)) ∈ lw_all := sorry
theorem q534 : (Jvm.Cond.code ({ cls := "java/util/NoSuchElementException", name := "<init>", desc := "(Ljava/lang/Throwable;)V" } : Jvm.MethodName) prog_69_method_3_code (2 : Nat) (Option.none : Option Jvm.ClassFile.FieldType)) ∈ lw_all := sorry
theorem q535 : (Jvm.Cond.methodLink "java/util/NoSuchElementException" (10 : Nat) ({ cls := "java/lang/RuntimeException", name := "<init>", desc := "(Ljava/lang/Throwable;)V" } : Jvm.MethodName)) ∈ lw_all := sorry
theorem q551 : (Jvm.Cond.selects "java/util/NoSuchElementException" ({ cls := "java/lang/Throwable", name := "toString", desc := "()Ljava/lang/String;" } : Jvm.MethodName) ({ cls := "java/lang/Throwable", name := "toString", desc := "()Ljava/lang/String;" } : Jvm.MethodName)) ∈ lw_all := sorry
theorem q586 : (Jvm.Cond.selects "java/util/NoSuchElementException" ({ cls := "java/lang/Object", name := "getClass", desc := "()Ljava/lang/Class;" } : Jvm.MethodName) ({ cls := "java/lang/Object", name := "getClass", desc := "()Ljava/lang/Class;" } : Jvm.MethodName)) ∈ lw_all := sorry
theorem q595 : (Jvm.Cond.selects "java/util/NoSuchElementException" ({ cls := "java/lang/Throwable", name := "getLocalizedMessage", desc := "()Ljava/lang/String;" } : Jvm.MethodName) ({ cls := "java/lang/Throwable", name := "getLocalizedMessage", desc := "()Ljava/lang/String;" } : Jvm.MethodName)) ∈ lw_all := sorry
theorem q604 : (Jvm.Cond.selects "java/util/NoSuchElementException" ({ cls := "java/lang/Throwable", name := "getMessage", desc := "()Ljava/lang/String;" } : Jvm.MethodName) ({ cls := "java/lang/Throwable", name := "getMessage", desc := "()Ljava/lang/String;" } : Jvm.MethodName)) ∈ lw_all := sorry
theorem q886 : (Jvm.Cond.lays "java/util/NoSuchElementException" "java/lang/Throwable" "depth" "I") ∈ lw_all := sorry
theorem q887 : (Jvm.Cond.superclass "java/util/NoSuchElementException" "java/lang/RuntimeException") ∈ lw_all := sorry
theorem q900 : (Jvm.Cond.instanceMethod ({ cls := "java/util/NoSuchElementException", name := "<init>", desc := "()V" } : Jvm.MethodName)) ∈ lw_all := sorry
theorem q901 : (Jvm.Cond.code ({ cls := "java/util/NoSuchElementException", name := "<init>", desc := "()V" } : Jvm.MethodName) prog_69_method_1_code (1 : Nat) (Option.none : Option Jvm.ClassFile.FieldType)) ∈ lw_all := sorry
theorem q902 : (Jvm.Cond.methodLink "java/util/NoSuchElementException" (1 : Nat) ({ cls := "java/lang/RuntimeException", name := "<init>", desc := "()V" } : Jvm.MethodName)) ∈ lw_all := sorry
theorem q3238 : (Jvm.Cond.castable "java/util/NoSuchElementException" "java/lang/Object") ∈ lw_tbl := sorry
theorem in_J13 : ∀ w ∈ wsJ130, w ∈ lw_all := sorry
/-! java/lang/AbstractStringBuilder -/
set_option maxRecDepth 100000
def RJ14 : String := "java/lang/AbstractStringBuilder"
abbrev cJ14_init : ByteArray := prog_19_method_2_code
def yJ14_init : MethodName := ⟨RJ14, "<init>", "(I)V"⟩
def dkwJ14_init_1 : List UInt8 := [167, 0, 16, 42, 27, 184, 0, 26, 181, 0, 15, 42, 4, 181, 0, 22, 177]
abbrev dktJ14_init_1 : List UInt8 := dkwJ14_init_1 ++ []
def dkwJ14_init_0 : List UInt8 := [42, 183, 0, 3, 178, 0, 18, 153, 0, 18, 42, 27, 188, 8, 181, 0, 15, 42, 3, 181, 0, 22]
abbrev dktJ14_init_0 : List UInt8 := dkwJ14_init_0 ++ dktJ14_init_1
theorem dksJ14_init_0 : cJ14_init.data.toList.drop 0 = dktJ14_init_0 := sorry
theorem dksJ14_init_1 : cJ14_init.data.toList.drop 22 = dktJ14_init_1 := sorry
theorem dJ14_init_0 : decode cJ14_init 0 = .ok (.aload_n 0, 1) := sorry
theorem dJ14_init_1 : decode cJ14_init 1 = .ok (.invokespecial 3, 3) := sorry
theorem dJ14_init_4 : decode cJ14_init 4 = .ok (.getstatic 18, 3) := sorry
theorem dJ14_init_7 : decode cJ14_init 7 = .ok (.ifCond .eq 18, 3) := sorry
theorem dJ14_init_10 : decode cJ14_init 10 = .ok (.aload_n 0, 1) := sorry
theorem dJ14_init_11 : decode cJ14_init 11 = .ok (.iload_n 1, 1) := sorry
theorem dJ14_init_12 : decode cJ14_init 12 = .ok (.newarray .byte, 2) := sorry
theorem dJ14_init_14 : decode cJ14_init 14 = .ok (.putfield 15, 3) := sorry
theorem dJ14_init_17 : decode cJ14_init 17 = .ok (.aload_n 0, 1) := sorry
theorem dJ14_init_18 : decode cJ14_init 18 = .ok (.iconst 0, 1) := sorry
theorem dJ14_init_19 : decode cJ14_init 19 = .ok (.putfield 22, 3) := sorry
theorem dJ14_init_22 : decode cJ14_init 22 = .ok (.goto 16, 3) := sorry
theorem dJ14_init_25 : decode cJ14_init 25 = .ok (.aload_n 0, 1) := sorry
theorem dJ14_init_26 : decode cJ14_init 26 = .ok (.iload_n 1, 1) := sorry
theorem dJ14_init_27 : decode cJ14_init 27 = .ok (.invokestatic 26, 3) := sorry
theorem dJ14_init_30 : decode cJ14_init 30 = .ok (.putfield 15, 3) := sorry
theorem dJ14_init_33 : decode cJ14_init 33 = .ok (.aload_n 0, 1) := sorry
theorem dJ14_init_34 : decode cJ14_init 34 = .ok (.iconst 1, 1) := sorry
theorem dJ14_init_35 : decode cJ14_init 35 = .ok (.putfield 22, 3) := sorry
theorem dJ14_init_38 : decode cJ14_init 38 = .ok (.return_, 1) := sorry
abbrev cJ14_append : ByteArray := prog_19_method_22_code
def yJ14_append : MethodName := ⟨RJ14, "append", "(Ljava/lang/String;)Ljava/lang/AbstractStringBuilder;"⟩
def dkwJ14_append_1 : List UInt8 := [42, 42, 180, 0, 79, 43, 182, 0, 208, 42, 89, 180, 0, 79, 28, 96, 181, 0, 79, 42, 176]
abbrev dktJ14_append_1 : List UInt8 := dkwJ14_append_1 ++ []
def dkwJ14_append_0 : List UInt8 := [43, 199, 0, 8, 42, 182, 0, 204, 176, 43, 182, 0, 32, 61, 42, 42, 180, 0, 79, 28, 96, 182, 0, 100]
abbrev dktJ14_append_0 : List UInt8 := dkwJ14_append_0 ++ dktJ14_append_1
theorem dksJ14_append_0 : cJ14_append.data.toList.drop 0 = dktJ14_append_0 := sorry
theorem dksJ14_append_1 : cJ14_append.data.toList.drop 24 = dktJ14_append_1 := sorry
theorem dJ14_append_0 : decode cJ14_append 0 = .ok (.aload_n 1, 1) := sorry
theorem dJ14_append_1 : decode cJ14_append 1 = .ok (.ifnonnull 8, 3) := sorry
theorem dJ14_append_4 : decode cJ14_append 4 = .ok (.aload_n 0, 1) := sorry
theorem dJ14_append_5 : decode cJ14_append 5 = .ok (.invokevirtual 204, 3) := sorry
theorem dJ14_append_8 : decode cJ14_append 8 = .ok (.areturn, 1) := sorry
theorem dJ14_append_9 : decode cJ14_append 9 = .ok (.aload_n 1, 1) := sorry
theorem dJ14_append_10 : decode cJ14_append 10 = .ok (.invokevirtual 32, 3) := sorry
theorem dJ14_append_13 : decode cJ14_append 13 = .ok (.istore_n 2, 1) := sorry
theorem dJ14_append_14 : decode cJ14_append 14 = .ok (.aload_n 0, 1) := sorry
theorem dJ14_append_15 : decode cJ14_append 15 = .ok (.aload_n 0, 1) := sorry
theorem dJ14_append_16 : decode cJ14_append 16 = .ok (.getfield 79, 3) := sorry
theorem dJ14_append_19 : decode cJ14_append 19 = .ok (.iload_n 2, 1) := sorry
theorem dJ14_append_20 : decode cJ14_append 20 = .ok (.iadd, 1) := sorry
theorem dJ14_append_21 : decode cJ14_append 21 = .ok (.invokevirtual 100, 3) := sorry
theorem dJ14_append_24 : decode cJ14_append 24 = .ok (.aload_n 0, 1) := sorry
theorem dJ14_append_25 : decode cJ14_append 25 = .ok (.aload_n 0, 1) := sorry
theorem dJ14_append_26 : decode cJ14_append 26 = .ok (.getfield 79, 3) := sorry
theorem dJ14_append_29 : decode cJ14_append 29 = .ok (.aload_n 1, 1) := sorry
theorem dJ14_append_30 : decode cJ14_append 30 = .ok (.invokevirtual 208, 3) := sorry
theorem dJ14_append_33 : decode cJ14_append 33 = .ok (.aload_n 0, 1) := sorry
theorem dJ14_append_34 : decode cJ14_append 34 = .ok (.dup, 1) := sorry
theorem dJ14_append_35 : decode cJ14_append 35 = .ok (.getfield 79, 3) := sorry
theorem dJ14_append_38 : decode cJ14_append 38 = .ok (.iload_n 2, 1) := sorry
theorem dJ14_append_39 : decode cJ14_append 39 = .ok (.iadd, 1) := sorry
theorem dJ14_append_40 : decode cJ14_append 40 = .ok (.putfield 79, 3) := sorry
theorem dJ14_append_43 : decode cJ14_append 43 = .ok (.aload_n 0, 1) := sorry
theorem dJ14_append_44 : decode cJ14_append 44 = .ok (.areturn, 1) := sorry
abbrev cJ14_appendNull : ByteArray := prog_19_method_26_code
def yJ14_appendNull : MethodName := ⟨RJ14, "appendNull", "()Ljava/lang/AbstractStringBuilder;"⟩
def dkwJ14_appendNull_3 : List UInt8 := [184, 0, 226, 60, 42, 27, 181, 0, 79, 42, 176]
abbrev dktJ14_appendNull_3 : List UInt8 := dkwJ14_appendNull_3 ++ []
def dkwJ14_appendNull_2 : List UInt8 := [16, 108, 84, 44, 27, 132, 1, 1, 16, 108, 84, 167, 0, 17, 44, 27, 16, 110, 16, 117, 16, 108, 16, 108]
abbrev dktJ14_appendNull_2 : List UInt8 := dkwJ14_appendNull_2 ++ dktJ14_appendNull_3
def dkwJ14_appendNull_1 : List UInt8 := [153, 0, 38, 44, 27, 132, 1, 1, 16, 110, 84, 44, 27, 132, 1, 1, 16, 117, 84, 44, 27, 132, 1, 1]
abbrev dktJ14_appendNull_1 : List UInt8 := dkwJ14_appendNull_1 ++ dktJ14_appendNull_2
def dkwJ14_appendNull_0 : List UInt8 := [42, 42, 180, 0, 79, 7, 96, 182, 0, 100, 42, 180, 0, 79, 60, 42, 180, 0, 15, 77, 42, 182, 0, 83]
abbrev dktJ14_appendNull_0 : List UInt8 := dkwJ14_appendNull_0 ++ dktJ14_appendNull_1
theorem dksJ14_appendNull_0 : cJ14_appendNull.data.toList.drop 0 = dktJ14_appendNull_0 := sorry
theorem dksJ14_appendNull_1 : cJ14_appendNull.data.toList.drop 24 = dktJ14_appendNull_1 := sorry
theorem dksJ14_appendNull_2 : cJ14_appendNull.data.toList.drop 48 = dktJ14_appendNull_2 := sorry
theorem dksJ14_appendNull_3 : cJ14_appendNull.data.toList.drop 72 = dktJ14_appendNull_3 := sorry
theorem dJ14_appendNull_0 : decode cJ14_appendNull 0 = .ok (.aload_n 0, 1) := sorry
theorem dJ14_appendNull_1 : decode cJ14_appendNull 1 = .ok (.aload_n 0, 1) := sorry
theorem dJ14_appendNull_2 : decode cJ14_appendNull 2 = .ok (.getfield 79, 3) := sorry
theorem dJ14_appendNull_5 : decode cJ14_appendNull 5 = .ok (.iconst 4, 1) := sorry
theorem dJ14_appendNull_6 : decode cJ14_appendNull 6 = .ok (.iadd, 1) := sorry
theorem dJ14_appendNull_7 : decode cJ14_appendNull 7 = .ok (.invokevirtual 100, 3) := sorry
theorem dJ14_appendNull_10 : decode cJ14_appendNull 10 = .ok (.aload_n 0, 1) := sorry
theorem dJ14_appendNull_11 : decode cJ14_appendNull 11 = .ok (.getfield 79, 3) := sorry
theorem dJ14_appendNull_14 : decode cJ14_appendNull 14 = .ok (.istore_n 1, 1) := sorry
theorem dJ14_appendNull_15 : decode cJ14_appendNull 15 = .ok (.aload_n 0, 1) := sorry
theorem dJ14_appendNull_16 : decode cJ14_appendNull 16 = .ok (.getfield 15, 3) := sorry
theorem dJ14_appendNull_19 : decode cJ14_appendNull 19 = .ok (.astore_n 2, 1) := sorry
theorem dJ14_appendNull_20 : decode cJ14_appendNull 20 = .ok (.aload_n 0, 1) := sorry
theorem dJ14_appendNull_21 : decode cJ14_appendNull 21 = .ok (.invokevirtual 83, 3) := sorry
theorem dJ14_appendNull_24 : decode cJ14_appendNull 24 = .ok (.ifCond .eq 38, 3) := sorry
theorem dJ14_appendNull_27 : decode cJ14_appendNull 27 = .ok (.aload_n 2, 1) := sorry
theorem dJ14_appendNull_28 : decode cJ14_appendNull 28 = .ok (.iload_n 1, 1) := sorry
theorem dJ14_appendNull_29 : decode cJ14_appendNull 29 = .ok (.iinc 1 1, 3) := sorry
theorem dJ14_appendNull_32 : decode cJ14_appendNull 32 = .ok (.bipush 110, 2) := sorry
theorem dJ14_appendNull_34 : decode cJ14_appendNull 34 = .ok (.bastore, 1) := sorry
theorem dJ14_appendNull_35 : decode cJ14_appendNull 35 = .ok (.aload_n 2, 1) := sorry
theorem dJ14_appendNull_36 : decode cJ14_appendNull 36 = .ok (.iload_n 1, 1) := sorry
theorem dJ14_appendNull_37 : decode cJ14_appendNull 37 = .ok (.iinc 1 1, 3) := sorry
theorem dJ14_appendNull_40 : decode cJ14_appendNull 40 = .ok (.bipush 117, 2) := sorry
theorem dJ14_appendNull_42 : decode cJ14_appendNull 42 = .ok (.bastore, 1) := sorry
theorem dJ14_appendNull_43 : decode cJ14_appendNull 43 = .ok (.aload_n 2, 1) := sorry
theorem dJ14_appendNull_44 : decode cJ14_appendNull 44 = .ok (.iload_n 1, 1) := sorry
theorem dJ14_appendNull_45 : decode cJ14_appendNull 45 = .ok (.iinc 1 1, 3) := sorry
theorem dJ14_appendNull_48 : decode cJ14_appendNull 48 = .ok (.bipush 108, 2) := sorry
theorem dJ14_appendNull_50 : decode cJ14_appendNull 50 = .ok (.bastore, 1) := sorry
theorem dJ14_appendNull_51 : decode cJ14_appendNull 51 = .ok (.aload_n 2, 1) := sorry
theorem dJ14_appendNull_52 : decode cJ14_appendNull 52 = .ok (.iload_n 1, 1) := sorry
theorem dJ14_appendNull_53 : decode cJ14_appendNull 53 = .ok (.iinc 1 1, 3) := sorry
theorem dJ14_appendNull_56 : decode cJ14_appendNull 56 = .ok (.bipush 108, 2) := sorry
theorem dJ14_appendNull_58 : decode cJ14_appendNull 58 = .ok (.bastore, 1) := sorry
theorem dJ14_appendNull_59 : decode cJ14_appendNull 59 = .ok (.goto 17, 3) := sorry
theorem dJ14_appendNull_62 : decode cJ14_appendNull 62 = .ok (.aload_n 2, 1) := sorry
theorem dJ14_appendNull_63 : decode cJ14_appendNull 63 = .ok (.iload_n 1, 1) := sorry
theorem dJ14_appendNull_64 : decode cJ14_appendNull 64 = .ok (.bipush 110, 2) := sorry
theorem dJ14_appendNull_66 : decode cJ14_appendNull 66 = .ok (.bipush 117, 2) := sorry
theorem dJ14_appendNull_68 : decode cJ14_appendNull 68 = .ok (.bipush 108, 2) := sorry
theorem dJ14_appendNull_70 : decode cJ14_appendNull 70 = .ok (.bipush 108, 2) := sorry
theorem dJ14_appendNull_72 : decode cJ14_appendNull 72 = .ok (.invokestatic 226, 3) := sorry
theorem dJ14_appendNull_75 : decode cJ14_appendNull 75 = .ok (.istore_n 1, 1) := sorry
theorem dJ14_appendNull_76 : decode cJ14_appendNull 76 = .ok (.aload_n 0, 1) := sorry
theorem dJ14_appendNull_77 : decode cJ14_appendNull 77 = .ok (.iload_n 1, 1) := sorry
theorem dJ14_appendNull_78 : decode cJ14_appendNull 78 = .ok (.putfield 79, 3) := sorry
theorem dJ14_appendNull_81 : decode cJ14_appendNull 81 = .ok (.aload_n 0, 1) := sorry
theorem dJ14_appendNull_82 : decode cJ14_appendNull 82 = .ok (.areturn, 1) := sorry
abbrev cJ14_ensureCapacityInternal : ByteArray := prog_19_method_9_code
def yJ14_ensureCapacityInternal : MethodName := ⟨RJ14, "ensureCapacityInternal", "(I)V"⟩
def dkwJ14_ensureCapacityInternal_1 : List UInt8 := [182, 0, 104, 42, 180, 0, 22, 120, 184, 0, 108, 181, 0, 15, 177]
abbrev dktJ14_ensureCapacityInternal_1 : List UInt8 := dkwJ14_ensureCapacityInternal_1 ++ []
def dkwJ14_ensureCapacityInternal_0 : List UInt8 := [42, 180, 0, 15, 190, 42, 180, 0, 22, 122, 61, 27, 28, 100, 158, 0, 24, 42, 42, 180, 0, 15, 42, 27]
abbrev dktJ14_ensureCapacityInternal_0 : List UInt8 := dkwJ14_ensureCapacityInternal_0 ++ dktJ14_ensureCapacityInternal_1
theorem dksJ14_ensureCapacityInternal_0 : cJ14_ensureCapacityInternal.data.toList.drop 0 = dktJ14_ensureCapacityInternal_0 := sorry
theorem dksJ14_ensureCapacityInternal_1 : cJ14_ensureCapacityInternal.data.toList.drop 24 = dktJ14_ensureCapacityInternal_1 := sorry
theorem dJ14_ensureCapacityInternal_0 : decode cJ14_ensureCapacityInternal 0 = .ok (.aload_n 0, 1) := sorry
theorem dJ14_ensureCapacityInternal_1 : decode cJ14_ensureCapacityInternal 1 = .ok (.getfield 15, 3) := sorry
theorem dJ14_ensureCapacityInternal_4 : decode cJ14_ensureCapacityInternal 4 = .ok (.arraylength, 1) := sorry
theorem dJ14_ensureCapacityInternal_5 : decode cJ14_ensureCapacityInternal 5 = .ok (.aload_n 0, 1) := sorry
theorem dJ14_ensureCapacityInternal_6 : decode cJ14_ensureCapacityInternal 6 = .ok (.getfield 22, 3) := sorry
theorem dJ14_ensureCapacityInternal_9 : decode cJ14_ensureCapacityInternal 9 = .ok (.ishr, 1) := sorry
theorem dJ14_ensureCapacityInternal_10 : decode cJ14_ensureCapacityInternal 10 = .ok (.istore_n 2, 1) := sorry
theorem dJ14_ensureCapacityInternal_11 : decode cJ14_ensureCapacityInternal 11 = .ok (.iload_n 1, 1) := sorry
theorem dJ14_ensureCapacityInternal_12 : decode cJ14_ensureCapacityInternal 12 = .ok (.iload_n 2, 1) := sorry
theorem dJ14_ensureCapacityInternal_13 : decode cJ14_ensureCapacityInternal 13 = .ok (.isub, 1) := sorry
theorem dJ14_ensureCapacityInternal_14 : decode cJ14_ensureCapacityInternal 14 = .ok (.ifCond .le 24, 3) := sorry
theorem dJ14_ensureCapacityInternal_17 : decode cJ14_ensureCapacityInternal 17 = .ok (.aload_n 0, 1) := sorry
theorem dJ14_ensureCapacityInternal_18 : decode cJ14_ensureCapacityInternal 18 = .ok (.aload_n 0, 1) := sorry
theorem dJ14_ensureCapacityInternal_19 : decode cJ14_ensureCapacityInternal 19 = .ok (.getfield 15, 3) := sorry
theorem dJ14_ensureCapacityInternal_22 : decode cJ14_ensureCapacityInternal 22 = .ok (.aload_n 0, 1) := sorry
theorem dJ14_ensureCapacityInternal_23 : decode cJ14_ensureCapacityInternal 23 = .ok (.iload_n 1, 1) := sorry
theorem dJ14_ensureCapacityInternal_24 : decode cJ14_ensureCapacityInternal 24 = .ok (.invokevirtual 104, 3) := sorry
theorem dJ14_ensureCapacityInternal_27 : decode cJ14_ensureCapacityInternal 27 = .ok (.aload_n 0, 1) := sorry
theorem dJ14_ensureCapacityInternal_28 : decode cJ14_ensureCapacityInternal 28 = .ok (.getfield 22, 3) := sorry
theorem dJ14_ensureCapacityInternal_31 : decode cJ14_ensureCapacityInternal 31 = .ok (.ishl, 1) := sorry
theorem dJ14_ensureCapacityInternal_32 : decode cJ14_ensureCapacityInternal 32 = .ok (.invokestatic 108, 3) := sorry
theorem dJ14_ensureCapacityInternal_35 : decode cJ14_ensureCapacityInternal 35 = .ok (.putfield 15, 3) := sorry
theorem dJ14_ensureCapacityInternal_38 : decode cJ14_ensureCapacityInternal 38 = .ok (.return_, 1) := sorry
abbrev cJ14_newCapacity : ByteArray := prog_19_method_10_code
def yJ14_newCapacity : MethodName := ⟨RJ14, "newCapacity", "(I)I"⟩
def dkwJ14_newCapacity_2 : List UInt8 := [183, 0, 124, 191, 21, 5, 42, 180, 0, 22, 122, 172]
abbrev dktJ14_newCapacity_2 : List UInt8 := dkwJ14_newCapacity_2 ++ []
def dkwJ14_newCapacity_1 : List UInt8 := [180, 0, 22, 120, 96, 184, 0, 114, 54, 5, 21, 5, 18, 39, 160, 0, 13, 187, 0, 120, 89, 18, 122]
abbrev dktJ14_newCapacity_1 : List UInt8 := dkwJ14_newCapacity_1 ++ dktJ14_newCapacity_2
def dkwJ14_newCapacity_0 : List UInt8 := [42, 180, 0, 15, 190, 61, 27, 42, 180, 0, 22, 120, 62, 29, 28, 100, 54, 4, 28, 21, 4, 28, 5, 42]
abbrev dktJ14_newCapacity_0 : List UInt8 := dkwJ14_newCapacity_0 ++ dktJ14_newCapacity_1
theorem dksJ14_newCapacity_0 : cJ14_newCapacity.data.toList.drop 0 = dktJ14_newCapacity_0 := sorry
theorem dksJ14_newCapacity_1 : cJ14_newCapacity.data.toList.drop 24 = dktJ14_newCapacity_1 := sorry
theorem dksJ14_newCapacity_2 : cJ14_newCapacity.data.toList.drop 47 = dktJ14_newCapacity_2 := sorry
theorem dJ14_newCapacity_0 : decode cJ14_newCapacity 0 = .ok (.aload_n 0, 1) := sorry
theorem dJ14_newCapacity_1 : decode cJ14_newCapacity 1 = .ok (.getfield 15, 3) := sorry
theorem dJ14_newCapacity_4 : decode cJ14_newCapacity 4 = .ok (.arraylength, 1) := sorry
theorem dJ14_newCapacity_5 : decode cJ14_newCapacity 5 = .ok (.istore_n 2, 1) := sorry
theorem dJ14_newCapacity_6 : decode cJ14_newCapacity 6 = .ok (.iload_n 1, 1) := sorry
theorem dJ14_newCapacity_7 : decode cJ14_newCapacity 7 = .ok (.aload_n 0, 1) := sorry
theorem dJ14_newCapacity_8 : decode cJ14_newCapacity 8 = .ok (.getfield 22, 3) := sorry
theorem dJ14_newCapacity_11 : decode cJ14_newCapacity 11 = .ok (.ishl, 1) := sorry
theorem dJ14_newCapacity_12 : decode cJ14_newCapacity 12 = .ok (.istore_n 3, 1) := sorry
theorem dJ14_newCapacity_13 : decode cJ14_newCapacity 13 = .ok (.iload_n 3, 1) := sorry
theorem dJ14_newCapacity_14 : decode cJ14_newCapacity 14 = .ok (.iload_n 2, 1) := sorry
theorem dJ14_newCapacity_15 : decode cJ14_newCapacity 15 = .ok (.isub, 1) := sorry
theorem dJ14_newCapacity_16 : decode cJ14_newCapacity 16 = .ok (.istore 4, 2) := sorry
theorem dJ14_newCapacity_18 : decode cJ14_newCapacity 18 = .ok (.iload_n 2, 1) := sorry
theorem dJ14_newCapacity_19 : decode cJ14_newCapacity 19 = .ok (.iload 4, 2) := sorry
theorem dJ14_newCapacity_21 : decode cJ14_newCapacity 21 = .ok (.iload_n 2, 1) := sorry
theorem dJ14_newCapacity_22 : decode cJ14_newCapacity 22 = .ok (.iconst 2, 1) := sorry
theorem dJ14_newCapacity_23 : decode cJ14_newCapacity 23 = .ok (.aload_n 0, 1) := sorry
theorem dJ14_newCapacity_24 : decode cJ14_newCapacity 24 = .ok (.getfield 22, 3) := sorry
theorem dJ14_newCapacity_27 : decode cJ14_newCapacity 27 = .ok (.ishl, 1) := sorry
theorem dJ14_newCapacity_28 : decode cJ14_newCapacity 28 = .ok (.iadd, 1) := sorry
theorem dJ14_newCapacity_29 : decode cJ14_newCapacity 29 = .ok (.invokestatic 114, 3) := sorry
theorem dJ14_newCapacity_32 : decode cJ14_newCapacity 32 = .ok (.istore 5, 2) := sorry
theorem dJ14_newCapacity_34 : decode cJ14_newCapacity 34 = .ok (.iload 5, 2) := sorry
theorem dJ14_newCapacity_36 : decode cJ14_newCapacity 36 = .ok (.ldc 39, 2) := sorry
theorem dJ14_newCapacity_38 : decode cJ14_newCapacity 38 = .ok (.if_icmp .ne 13, 3) := sorry
theorem dJ14_newCapacity_41 : decode cJ14_newCapacity 41 = .ok (.new 120, 3) := sorry
theorem dJ14_newCapacity_44 : decode cJ14_newCapacity 44 = .ok (.dup, 1) := sorry
theorem dJ14_newCapacity_45 : decode cJ14_newCapacity 45 = .ok (.ldc 122, 2) := sorry
theorem dJ14_newCapacity_47 : decode cJ14_newCapacity 47 = .ok (.invokespecial 124, 3) := sorry
theorem dJ14_newCapacity_50 : decode cJ14_newCapacity 50 = .ok (.athrow, 1) := sorry
theorem dJ14_newCapacity_51 : decode cJ14_newCapacity 51 = .ok (.iload 5, 2) := sorry
theorem dJ14_newCapacity_53 : decode cJ14_newCapacity 53 = .ok (.aload_n 0, 1) := sorry
theorem dJ14_newCapacity_54 : decode cJ14_newCapacity 54 = .ok (.getfield 22, 3) := sorry
theorem dJ14_newCapacity_57 : decode cJ14_newCapacity 57 = .ok (.ishr, 1) := sorry
theorem dJ14_newCapacity_58 : decode cJ14_newCapacity 58 = .ok (.ireturn, 1) := sorry
abbrev cJ14_isLatin1 : ByteArray := prog_19_method_68_code
def yJ14_isLatin1 : MethodName := ⟨RJ14, "isLatin1", "()Z"⟩
def dkwJ14_isLatin1_0 : List UInt8 := [178, 0, 18, 153, 0, 14, 42, 180, 0, 22, 154, 0, 7, 4, 167, 0, 4, 3, 172]
abbrev dktJ14_isLatin1_0 : List UInt8 := dkwJ14_isLatin1_0 ++ []
theorem dksJ14_isLatin1_0 : cJ14_isLatin1.data.toList.drop 0 = dktJ14_isLatin1_0 := sorry
theorem dJ14_isLatin1_0 : decode cJ14_isLatin1 0 = .ok (.getstatic 18, 3) := sorry
theorem dJ14_isLatin1_3 : decode cJ14_isLatin1 3 = .ok (.ifCond .eq 14, 3) := sorry
theorem dJ14_isLatin1_6 : decode cJ14_isLatin1 6 = .ok (.aload_n 0, 1) := sorry
theorem dJ14_isLatin1_7 : decode cJ14_isLatin1 7 = .ok (.getfield 22, 3) := sorry
theorem dJ14_isLatin1_10 : decode cJ14_isLatin1 10 = .ok (.ifCond .ne 7, 3) := sorry
theorem dJ14_isLatin1_13 : decode cJ14_isLatin1 13 = .ok (.iconst 1, 1) := sorry
theorem dJ14_isLatin1_14 : decode cJ14_isLatin1 14 = .ok (.goto 4, 3) := sorry
theorem dJ14_isLatin1_17 : decode cJ14_isLatin1 17 = .ok (.iconst 0, 1) := sorry
theorem dJ14_isLatin1_18 : decode cJ14_isLatin1 18 = .ok (.ireturn, 1) := sorry
abbrev cJ14_putStringAt : ByteArray := prog_19_method_73_code
def yJ14_putStringAt : MethodName := ⟨RJ14, "putStringAt", "(ILjava/lang/String;)V"⟩
def dkwJ14_putStringAt_0 : List UInt8 := [42, 44, 182, 1, 141, 44, 42, 180, 0, 15, 27, 42, 180, 0, 22, 182, 1, 143, 177]
abbrev dktJ14_putStringAt_0 : List UInt8 := dkwJ14_putStringAt_0 ++ []
theorem dksJ14_putStringAt_0 : cJ14_putStringAt.data.toList.drop 0 = dktJ14_putStringAt_0 := sorry
theorem dJ14_putStringAt_0 : decode cJ14_putStringAt 0 = .ok (.aload_n 0, 1) := sorry
theorem dJ14_putStringAt_1 : decode cJ14_putStringAt 1 = .ok (.aload_n 2, 1) := sorry
theorem dJ14_putStringAt_2 : decode cJ14_putStringAt 2 = .ok (.invokevirtual 397, 3) := sorry
theorem dJ14_putStringAt_5 : decode cJ14_putStringAt 5 = .ok (.aload_n 2, 1) := sorry
theorem dJ14_putStringAt_6 : decode cJ14_putStringAt 6 = .ok (.aload_n 0, 1) := sorry
theorem dJ14_putStringAt_7 : decode cJ14_putStringAt 7 = .ok (.getfield 15, 3) := sorry
theorem dJ14_putStringAt_10 : decode cJ14_putStringAt 10 = .ok (.iload_n 1, 1) := sorry
theorem dJ14_putStringAt_11 : decode cJ14_putStringAt 11 = .ok (.aload_n 0, 1) := sorry
theorem dJ14_putStringAt_12 : decode cJ14_putStringAt 12 = .ok (.getfield 22, 3) := sorry
theorem dJ14_putStringAt_15 : decode cJ14_putStringAt 15 = .ok (.invokevirtual 399, 3) := sorry
theorem dJ14_putStringAt_18 : decode cJ14_putStringAt 18 = .ok (.return_, 1) := sorry
abbrev cJ14_inflateIfNeededFor : ByteArray := prog_19_method_71_code
def yJ14_inflateIfNeededFor : MethodName := ⟨RJ14, "inflateIfNeededFor", "(Ljava/lang/String;)V"⟩
def dkwJ14_inflateIfNeededFor_0 : List UInt8 := [178, 0, 18, 153, 0, 18, 42, 180, 0, 22, 43, 182, 0, 40, 159, 0, 7, 42, 182, 0, 195, 177]
abbrev dktJ14_inflateIfNeededFor_0 : List UInt8 := dkwJ14_inflateIfNeededFor_0 ++ []
theorem dksJ14_inflateIfNeededFor_0 : cJ14_inflateIfNeededFor.data.toList.drop 0 = dktJ14_inflateIfNeededFor_0 := sorry
theorem dJ14_inflateIfNeededFor_0 : decode cJ14_inflateIfNeededFor 0 = .ok (.getstatic 18, 3) := sorry
theorem dJ14_inflateIfNeededFor_3 : decode cJ14_inflateIfNeededFor 3 = .ok (.ifCond .eq 18, 3) := sorry
theorem dJ14_inflateIfNeededFor_6 : decode cJ14_inflateIfNeededFor 6 = .ok (.aload_n 0, 1) := sorry
theorem dJ14_inflateIfNeededFor_7 : decode cJ14_inflateIfNeededFor 7 = .ok (.getfield 22, 3) := sorry
theorem dJ14_inflateIfNeededFor_10 : decode cJ14_inflateIfNeededFor 10 = .ok (.aload_n 1, 1) := sorry
theorem dJ14_inflateIfNeededFor_11 : decode cJ14_inflateIfNeededFor 11 = .ok (.invokevirtual 40, 3) := sorry
theorem dJ14_inflateIfNeededFor_14 : decode cJ14_inflateIfNeededFor 14 = .ok (.if_icmp .eq 7, 3) := sorry
theorem dJ14_inflateIfNeededFor_17 : decode cJ14_inflateIfNeededFor 17 = .ok (.aload_n 0, 1) := sorry
theorem dJ14_inflateIfNeededFor_18 : decode cJ14_inflateIfNeededFor 18 = .ok (.invokevirtual 195, 3) := sorry
theorem dJ14_inflateIfNeededFor_21 : decode cJ14_inflateIfNeededFor 21 = .ok (.return_, 1) := sorry
abbrev cJ14_inflate : ByteArray := prog_19_method_11_code
def yJ14_inflate : MethodName := ⟨RJ14, "inflate", "()V"⟩
def dkwJ14_inflate_1 : List UInt8 := [42, 180, 0, 79, 184, 0, 125, 42, 43, 181, 0, 15, 42, 4, 181, 0, 22, 177]
abbrev dktJ14_inflate_1 : List UInt8 := dkwJ14_inflate_1 ++ []
def dkwJ14_inflate_0 : List UInt8 := [42, 182, 0, 83, 154, 0, 4, 177, 42, 180, 0, 15, 190, 184, 0, 26, 76, 42, 180, 0, 15, 3, 43, 3]
abbrev dktJ14_inflate_0 : List UInt8 := dkwJ14_inflate_0 ++ dktJ14_inflate_1
theorem dksJ14_inflate_0 : cJ14_inflate.data.toList.drop 0 = dktJ14_inflate_0 := sorry
theorem dksJ14_inflate_1 : cJ14_inflate.data.toList.drop 24 = dktJ14_inflate_1 := sorry
theorem dJ14_inflate_0 : decode cJ14_inflate 0 = .ok (.aload_n 0, 1) := sorry
theorem dJ14_inflate_1 : decode cJ14_inflate 1 = .ok (.invokevirtual 83, 3) := sorry
theorem dJ14_inflate_4 : decode cJ14_inflate 4 = .ok (.ifCond .ne 4, 3) := sorry
theorem dJ14_inflate_7 : decode cJ14_inflate 7 = .ok (.return_, 1) := sorry
theorem dJ14_inflate_8 : decode cJ14_inflate 8 = .ok (.aload_n 0, 1) := sorry
theorem dJ14_inflate_9 : decode cJ14_inflate 9 = .ok (.getfield 15, 3) := sorry
theorem dJ14_inflate_12 : decode cJ14_inflate 12 = .ok (.arraylength, 1) := sorry
theorem dJ14_inflate_13 : decode cJ14_inflate 13 = .ok (.invokestatic 26, 3) := sorry
theorem dJ14_inflate_16 : decode cJ14_inflate 16 = .ok (.astore_n 1, 1) := sorry
theorem dJ14_inflate_17 : decode cJ14_inflate 17 = .ok (.aload_n 0, 1) := sorry
theorem dJ14_inflate_18 : decode cJ14_inflate 18 = .ok (.getfield 15, 3) := sorry
theorem dJ14_inflate_21 : decode cJ14_inflate 21 = .ok (.iconst 0, 1) := sorry
theorem dJ14_inflate_22 : decode cJ14_inflate 22 = .ok (.aload_n 1, 1) := sorry
theorem dJ14_inflate_23 : decode cJ14_inflate 23 = .ok (.iconst 0, 1) := sorry
theorem dJ14_inflate_24 : decode cJ14_inflate 24 = .ok (.aload_n 0, 1) := sorry
theorem dJ14_inflate_25 : decode cJ14_inflate 25 = .ok (.getfield 79, 3) := sorry
theorem dJ14_inflate_28 : decode cJ14_inflate 28 = .ok (.invokestatic 125, 3) := sorry
theorem dJ14_inflate_31 : decode cJ14_inflate 31 = .ok (.aload_n 0, 1) := sorry
theorem dJ14_inflate_32 : decode cJ14_inflate 32 = .ok (.aload_n 1, 1) := sorry
theorem dJ14_inflate_33 : decode cJ14_inflate 33 = .ok (.putfield 15, 3) := sorry
theorem dJ14_inflate_36 : decode cJ14_inflate 36 = .ok (.aload_n 0, 1) := sorry
theorem dJ14_inflate_37 : decode cJ14_inflate 37 = .ok (.iconst 1, 1) := sorry
theorem dJ14_inflate_38 : decode cJ14_inflate 38 = .ok (.putfield 22, 3) := sorry
theorem dJ14_inflate_41 : decode cJ14_inflate 41 = .ok (.return_, 1) := sorry
abbrev cJ14_getValue : ByteArray := prog_19_method_64_code
def yJ14_getValue : MethodName := ⟨RJ14, "getValue", "()[B"⟩
theorem dJ14_getValue_0 : decode cJ14_getValue 0 = .ok (.aload_n 0, 1) := sorry
theorem dJ14_getValue_1 : decode cJ14_getValue 1 = .ok (.getfield 15, 3) := sorry
theorem dJ14_getValue_4 : decode cJ14_getValue 4 = .ok (.areturn, 1) := sorry
abbrev cJ14_length : ByteArray := prog_19_method_6_code
def yJ14_length : MethodName := ⟨RJ14, "length", "()I"⟩
theorem dJ14_length_0 : decode cJ14_length 0 = .ok (.aload_n 0, 1) := sorry
theorem dJ14_length_1 : decode cJ14_length 1 = .ok (.getfield 79, 3) := sorry
theorem dJ14_length_4 : decode cJ14_length 4 = .ok (.ireturn, 1) := sorry
abbrev cJ14_append_2 : ByteArray := prog_19_method_32_code
def yJ14_append_2 : MethodName := ⟨RJ14, "append", "(I)Ljava/lang/AbstractStringBuilder;"⟩
def dkwJ14_append_2_2 : List UInt8 := [42, 29, 181, 0, 79, 42, 176]
abbrev dktJ14_append_2_2 : List UInt8 := dkwJ14_append_2_2 ++ []
def dkwJ14_append_2_1 : List UInt8 := [27, 29, 42, 180, 0, 15, 184, 0, 248, 87, 167, 0, 14, 27, 28, 29, 42, 180, 0, 15, 184, 0, 251, 87]
abbrev dktJ14_append_2_1 : List UInt8 := dkwJ14_append_2_1 ++ dktJ14_append_2_2
def dkwJ14_append_2_0 : List UInt8 := [42, 180, 0, 79, 61, 28, 27, 184, 0, 245, 96, 62, 42, 29, 182, 0, 100, 42, 182, 0, 83, 153, 0, 16]
abbrev dktJ14_append_2_0 : List UInt8 := dkwJ14_append_2_0 ++ dktJ14_append_2_1
theorem dksJ14_append_2_0 : cJ14_append_2.data.toList.drop 0 = dktJ14_append_2_0 := sorry
theorem dksJ14_append_2_1 : cJ14_append_2.data.toList.drop 24 = dktJ14_append_2_1 := sorry
theorem dksJ14_append_2_2 : cJ14_append_2.data.toList.drop 48 = dktJ14_append_2_2 := sorry
theorem dJ14_append_2_0 : decode cJ14_append_2 0 = .ok (.aload_n 0, 1) := sorry
theorem dJ14_append_2_1 : decode cJ14_append_2 1 = .ok (.getfield 79, 3) := sorry
theorem dJ14_append_2_4 : decode cJ14_append_2 4 = .ok (.istore_n 2, 1) := sorry
theorem dJ14_append_2_5 : decode cJ14_append_2 5 = .ok (.iload_n 2, 1) := sorry
theorem dJ14_append_2_6 : decode cJ14_append_2 6 = .ok (.iload_n 1, 1) := sorry
theorem dJ14_append_2_7 : decode cJ14_append_2 7 = .ok (.invokestatic 245, 3) := sorry
theorem dJ14_append_2_10 : decode cJ14_append_2 10 = .ok (.iadd, 1) := sorry
theorem dJ14_append_2_11 : decode cJ14_append_2 11 = .ok (.istore_n 3, 1) := sorry
theorem dJ14_append_2_12 : decode cJ14_append_2 12 = .ok (.aload_n 0, 1) := sorry
theorem dJ14_append_2_13 : decode cJ14_append_2 13 = .ok (.iload_n 3, 1) := sorry
theorem dJ14_append_2_14 : decode cJ14_append_2 14 = .ok (.invokevirtual 100, 3) := sorry
theorem dJ14_append_2_17 : decode cJ14_append_2 17 = .ok (.aload_n 0, 1) := sorry
theorem dJ14_append_2_18 : decode cJ14_append_2 18 = .ok (.invokevirtual 83, 3) := sorry
theorem dJ14_append_2_21 : decode cJ14_append_2 21 = .ok (.ifCond .eq 16, 3) := sorry
theorem dJ14_append_2_24 : decode cJ14_append_2 24 = .ok (.iload_n 1, 1) := sorry
theorem dJ14_append_2_25 : decode cJ14_append_2 25 = .ok (.iload_n 3, 1) := sorry
theorem dJ14_append_2_26 : decode cJ14_append_2 26 = .ok (.aload_n 0, 1) := sorry
theorem dJ14_append_2_27 : decode cJ14_append_2 27 = .ok (.getfield 15, 3) := sorry
theorem dJ14_append_2_30 : decode cJ14_append_2 30 = .ok (.invokestatic 248, 3) := sorry
theorem dJ14_append_2_33 : decode cJ14_append_2 33 = .ok (.pop, 1) := sorry
theorem dJ14_append_2_34 : decode cJ14_append_2 34 = .ok (.goto 14, 3) := sorry
theorem dJ14_append_2_37 : decode cJ14_append_2 37 = .ok (.iload_n 1, 1) := sorry
theorem dJ14_append_2_38 : decode cJ14_append_2 38 = .ok (.iload_n 2, 1) := sorry
theorem dJ14_append_2_39 : decode cJ14_append_2 39 = .ok (.iload_n 3, 1) := sorry
theorem dJ14_append_2_40 : decode cJ14_append_2 40 = .ok (.aload_n 0, 1) := sorry
theorem dJ14_append_2_41 : decode cJ14_append_2 41 = .ok (.getfield 15, 3) := sorry
theorem dJ14_append_2_44 : decode cJ14_append_2 44 = .ok (.invokestatic 251, 3) := sorry
theorem dJ14_append_2_47 : decode cJ14_append_2 47 = .ok (.pop, 1) := sorry
theorem dJ14_append_2_48 : decode cJ14_append_2 48 = .ok (.aload_n 0, 1) := sorry
theorem dJ14_append_2_49 : decode cJ14_append_2 49 = .ok (.iload_n 3, 1) := sorry
theorem dJ14_append_2_50 : decode cJ14_append_2 50 = .ok (.putfield 79, 3) := sorry
theorem dJ14_append_2_53 : decode cJ14_append_2 53 = .ok (.aload_n 0, 1) := sorry
theorem dJ14_append_2_54 : decode cJ14_append_2 54 = .ok (.areturn, 1) := sorry
abbrev cJ14_setLength : ByteArray := prog_19_method_13_code
def yJ14_setLength : MethodName := ⟨RJ14, "setLength", "(I)V"⟩
def dkwJ14_setLength_3 : List UInt8 := [164, 0, 8, 42, 4, 181, 0, 73, 42, 27, 181, 0, 79, 177]
abbrev dktJ14_setLength_3 : List UInt8 := dkwJ14_setLength_3 ++ []
def dkwJ14_setLength_2 : List UInt8 := [167, 0, 31, 42, 180, 0, 15, 42, 180, 0, 79, 27, 184, 0, 137, 167, 0, 16, 42, 180, 0, 79, 27]
abbrev dktJ14_setLength_2 : List UInt8 := dkwJ14_setLength_2 ++ dktJ14_setLength_3
def dkwJ14_setLength_1 : List UInt8 := [162, 0, 40, 42, 182, 0, 83, 153, 0, 18, 42, 180, 0, 15, 42, 180, 0, 79, 27, 184, 0, 133]
abbrev dktJ14_setLength_1 : List UInt8 := dkwJ14_setLength_1 ++ dktJ14_setLength_2
def dkwJ14_setLength_0 : List UInt8 := [27, 156, 0, 12, 187, 0, 129, 89, 27, 183, 0, 131, 191, 42, 27, 182, 0, 100, 42, 180, 0, 79, 27]
abbrev dktJ14_setLength_0 : List UInt8 := dkwJ14_setLength_0 ++ dktJ14_setLength_1
theorem dksJ14_setLength_0 : cJ14_setLength.data.toList.drop 0 = dktJ14_setLength_0 := sorry
theorem dksJ14_setLength_1 : cJ14_setLength.data.toList.drop 23 = dktJ14_setLength_1 := sorry
theorem dksJ14_setLength_2 : cJ14_setLength.data.toList.drop 45 = dktJ14_setLength_2 := sorry
theorem dksJ14_setLength_3 : cJ14_setLength.data.toList.drop 68 = dktJ14_setLength_3 := sorry
theorem dJ14_setLength_0 : decode cJ14_setLength 0 = .ok (.iload_n 1, 1) := sorry
theorem dJ14_setLength_1 : decode cJ14_setLength 1 = .ok (.ifCond .ge 12, 3) := sorry
theorem dJ14_setLength_4 : decode cJ14_setLength 4 = .ok (.new 129, 3) := sorry
theorem dJ14_setLength_7 : decode cJ14_setLength 7 = .ok (.dup, 1) := sorry
theorem dJ14_setLength_8 : decode cJ14_setLength 8 = .ok (.iload_n 1, 1) := sorry
theorem dJ14_setLength_9 : decode cJ14_setLength 9 = .ok (.invokespecial 131, 3) := sorry
theorem dJ14_setLength_12 : decode cJ14_setLength 12 = .ok (.athrow, 1) := sorry
theorem dJ14_setLength_13 : decode cJ14_setLength 13 = .ok (.aload_n 0, 1) := sorry
theorem dJ14_setLength_14 : decode cJ14_setLength 14 = .ok (.iload_n 1, 1) := sorry
theorem dJ14_setLength_15 : decode cJ14_setLength 15 = .ok (.invokevirtual 100, 3) := sorry
theorem dJ14_setLength_18 : decode cJ14_setLength 18 = .ok (.aload_n 0, 1) := sorry
theorem dJ14_setLength_19 : decode cJ14_setLength 19 = .ok (.getfield 79, 3) := sorry
theorem dJ14_setLength_22 : decode cJ14_setLength 22 = .ok (.iload_n 1, 1) := sorry
theorem dJ14_setLength_23 : decode cJ14_setLength 23 = .ok (.if_icmp .ge 40, 3) := sorry
theorem dJ14_setLength_26 : decode cJ14_setLength 26 = .ok (.aload_n 0, 1) := sorry
theorem dJ14_setLength_27 : decode cJ14_setLength 27 = .ok (.invokevirtual 83, 3) := sorry
theorem dJ14_setLength_30 : decode cJ14_setLength 30 = .ok (.ifCond .eq 18, 3) := sorry
theorem dJ14_setLength_33 : decode cJ14_setLength 33 = .ok (.aload_n 0, 1) := sorry
theorem dJ14_setLength_34 : decode cJ14_setLength 34 = .ok (.getfield 15, 3) := sorry
theorem dJ14_setLength_37 : decode cJ14_setLength 37 = .ok (.aload_n 0, 1) := sorry
theorem dJ14_setLength_38 : decode cJ14_setLength 38 = .ok (.getfield 79, 3) := sorry
theorem dJ14_setLength_41 : decode cJ14_setLength 41 = .ok (.iload_n 1, 1) := sorry
theorem dJ14_setLength_42 : decode cJ14_setLength 42 = .ok (.invokestatic 133, 3) := sorry
theorem dJ14_setLength_45 : decode cJ14_setLength 45 = .ok (.goto 31, 3) := sorry
theorem dJ14_setLength_48 : decode cJ14_setLength 48 = .ok (.aload_n 0, 1) := sorry
theorem dJ14_setLength_49 : decode cJ14_setLength 49 = .ok (.getfield 15, 3) := sorry
theorem dJ14_setLength_52 : decode cJ14_setLength 52 = .ok (.aload_n 0, 1) := sorry
theorem dJ14_setLength_53 : decode cJ14_setLength 53 = .ok (.getfield 79, 3) := sorry
theorem dJ14_setLength_56 : decode cJ14_setLength 56 = .ok (.iload_n 1, 1) := sorry
theorem dJ14_setLength_57 : decode cJ14_setLength 57 = .ok (.invokestatic 137, 3) := sorry
theorem dJ14_setLength_60 : decode cJ14_setLength 60 = .ok (.goto 16, 3) := sorry
theorem dJ14_setLength_63 : decode cJ14_setLength 63 = .ok (.aload_n 0, 1) := sorry
theorem dJ14_setLength_64 : decode cJ14_setLength 64 = .ok (.getfield 79, 3) := sorry
theorem dJ14_setLength_67 : decode cJ14_setLength 67 = .ok (.iload_n 1, 1) := sorry
theorem dJ14_setLength_68 : decode cJ14_setLength 68 = .ok (.if_icmp .le 8, 3) := sorry
theorem dJ14_setLength_71 : decode cJ14_setLength 71 = .ok (.aload_n 0, 1) := sorry
theorem dJ14_setLength_72 : decode cJ14_setLength 72 = .ok (.iconst 1, 1) := sorry
theorem dJ14_setLength_73 : decode cJ14_setLength 73 = .ok (.putfield 73, 3) := sorry
theorem dJ14_setLength_76 : decode cJ14_setLength 76 = .ok (.aload_n 0, 1) := sorry
theorem dJ14_setLength_77 : decode cJ14_setLength 77 = .ok (.iload_n 1, 1) := sorry
theorem dJ14_setLength_78 : decode cJ14_setLength 78 = .ok (.putfield 79, 3) := sorry
theorem dJ14_setLength_81 : decode cJ14_setLength 81 = .ok (.return_, 1) := sorry
abbrev cJ14_append_3 : ByteArray := prog_19_method_31_code
def yJ14_append_3 : MethodName := ⟨RJ14, "append", "(C)Ljava/lang/AbstractStringBuilder;"⟩
def dkwJ14_append_3_3 : List UInt8 := [181, 0, 79, 27, 184, 0, 197, 42, 176]
abbrev dktJ14_append_3_3 : List UInt8 := dkwJ14_append_3_3 ++ []
def dkwJ14_append_3_2 : List UInt8 := [182, 0, 83, 153, 0, 7, 42, 182, 0, 195, 42, 180, 0, 15, 42, 89, 180, 0, 79, 90, 4, 96]
abbrev dktJ14_append_3_2 : List UInt8 := dkwJ14_append_3_2 ++ dktJ14_append_3_3
def dkwJ14_append_3_1 : List UInt8 := [42, 180, 0, 15, 42, 89, 180, 0, 79, 90, 4, 96, 181, 0, 79, 27, 145, 84, 167, 0, 33, 42]
abbrev dktJ14_append_3_1 : List UInt8 := dkwJ14_append_3_1 ++ dktJ14_append_3_2
def dkwJ14_append_3_0 : List UInt8 := [42, 42, 180, 0, 79, 4, 96, 182, 0, 100, 42, 182, 0, 83, 153, 0, 31, 27, 184, 0, 191, 153, 0, 24]
abbrev dktJ14_append_3_0 : List UInt8 := dkwJ14_append_3_0 ++ dktJ14_append_3_1
theorem dksJ14_append_3_0 : cJ14_append_3.data.toList.drop 0 = dktJ14_append_3_0 := sorry
theorem dksJ14_append_3_1 : cJ14_append_3.data.toList.drop 24 = dktJ14_append_3_1 := sorry
theorem dksJ14_append_3_2 : cJ14_append_3.data.toList.drop 46 = dktJ14_append_3_2 := sorry
theorem dksJ14_append_3_3 : cJ14_append_3.data.toList.drop 68 = dktJ14_append_3_3 := sorry
theorem dJ14_append_3_0 : decode cJ14_append_3 0 = .ok (.aload_n 0, 1) := sorry
theorem dJ14_append_3_1 : decode cJ14_append_3 1 = .ok (.aload_n 0, 1) := sorry
theorem dJ14_append_3_2 : decode cJ14_append_3 2 = .ok (.getfield 79, 3) := sorry
theorem dJ14_append_3_5 : decode cJ14_append_3 5 = .ok (.iconst 1, 1) := sorry
theorem dJ14_append_3_6 : decode cJ14_append_3 6 = .ok (.iadd, 1) := sorry
theorem dJ14_append_3_7 : decode cJ14_append_3 7 = .ok (.invokevirtual 100, 3) := sorry
theorem dJ14_append_3_10 : decode cJ14_append_3 10 = .ok (.aload_n 0, 1) := sorry
theorem dJ14_append_3_11 : decode cJ14_append_3 11 = .ok (.invokevirtual 83, 3) := sorry
theorem dJ14_append_3_14 : decode cJ14_append_3 14 = .ok (.ifCond .eq 31, 3) := sorry
theorem dJ14_append_3_17 : decode cJ14_append_3 17 = .ok (.iload_n 1, 1) := sorry
theorem dJ14_append_3_18 : decode cJ14_append_3 18 = .ok (.invokestatic 191, 3) := sorry
theorem dJ14_append_3_21 : decode cJ14_append_3 21 = .ok (.ifCond .eq 24, 3) := sorry
theorem dJ14_append_3_24 : decode cJ14_append_3 24 = .ok (.aload_n 0, 1) := sorry
theorem dJ14_append_3_25 : decode cJ14_append_3 25 = .ok (.getfield 15, 3) := sorry
theorem dJ14_append_3_28 : decode cJ14_append_3 28 = .ok (.aload_n 0, 1) := sorry
theorem dJ14_append_3_29 : decode cJ14_append_3 29 = .ok (.dup, 1) := sorry
theorem dJ14_append_3_30 : decode cJ14_append_3 30 = .ok (.getfield 79, 3) := sorry
theorem dJ14_append_3_33 : decode cJ14_append_3 33 = .ok (.dup_x1, 1) := sorry
theorem dJ14_append_3_34 : decode cJ14_append_3 34 = .ok (.iconst 1, 1) := sorry
theorem dJ14_append_3_35 : decode cJ14_append_3 35 = .ok (.iadd, 1) := sorry
theorem dJ14_append_3_36 : decode cJ14_append_3 36 = .ok (.putfield 79, 3) := sorry
theorem dJ14_append_3_39 : decode cJ14_append_3 39 = .ok (.iload_n 1, 1) := sorry
theorem dJ14_append_3_40 : decode cJ14_append_3 40 = .ok (.i2b, 1) := sorry
theorem dJ14_append_3_41 : decode cJ14_append_3 41 = .ok (.bastore, 1) := sorry
theorem dJ14_append_3_42 : decode cJ14_append_3 42 = .ok (.goto 33, 3) := sorry
theorem dJ14_append_3_45 : decode cJ14_append_3 45 = .ok (.aload_n 0, 1) := sorry
theorem dJ14_append_3_46 : decode cJ14_append_3 46 = .ok (.invokevirtual 83, 3) := sorry
theorem dJ14_append_3_49 : decode cJ14_append_3 49 = .ok (.ifCond .eq 7, 3) := sorry
theorem dJ14_append_3_52 : decode cJ14_append_3 52 = .ok (.aload_n 0, 1) := sorry
theorem dJ14_append_3_53 : decode cJ14_append_3 53 = .ok (.invokevirtual 195, 3) := sorry
theorem dJ14_append_3_56 : decode cJ14_append_3 56 = .ok (.aload_n 0, 1) := sorry
theorem dJ14_append_3_57 : decode cJ14_append_3 57 = .ok (.getfield 15, 3) := sorry
theorem dJ14_append_3_60 : decode cJ14_append_3 60 = .ok (.aload_n 0, 1) := sorry
theorem dJ14_append_3_61 : decode cJ14_append_3 61 = .ok (.dup, 1) := sorry
theorem dJ14_append_3_62 : decode cJ14_append_3 62 = .ok (.getfield 79, 3) := sorry
theorem dJ14_append_3_65 : decode cJ14_append_3 65 = .ok (.dup_x1, 1) := sorry
theorem dJ14_append_3_66 : decode cJ14_append_3 66 = .ok (.iconst 1, 1) := sorry
theorem dJ14_append_3_67 : decode cJ14_append_3 67 = .ok (.iadd, 1) := sorry
theorem dJ14_append_3_68 : decode cJ14_append_3 68 = .ok (.putfield 79, 3) := sorry
theorem dJ14_append_3_71 : decode cJ14_append_3 71 = .ok (.iload_n 1, 1) := sorry
theorem dJ14_append_3_72 : decode cJ14_append_3 72 = .ok (.invokestatic 197, 3) := sorry
theorem dJ14_append_3_75 : decode cJ14_append_3 75 = .ok (.aload_n 0, 1) := sorry
theorem dJ14_append_3_76 : decode cJ14_append_3 76 = .ok (.areturn, 1) := sorry
abbrev cJ14_append_4 : ByteArray := prog_19_method_33_code
def yJ14_append_4 : MethodName := ⟨RJ14, "append", "(J)Ljava/lang/AbstractStringBuilder;"⟩
def dkwJ14_append_4_2 : List UInt8 := [180, 0, 15, 184, 1, 6, 87, 42, 21, 4, 181, 0, 79, 42, 176]
abbrev dktJ14_append_4_2 : List UInt8 := dkwJ14_append_4_2 ++ []
def dkwJ14_append_4_1 : List UInt8 := [153, 0, 17, 31, 21, 4, 42, 180, 0, 15, 184, 1, 3, 87, 167, 0, 15, 31, 29, 21, 4, 42]
abbrev dktJ14_append_4_1 : List UInt8 := dkwJ14_append_4_1 ++ dktJ14_append_4_2
def dkwJ14_append_4_0 : List UInt8 := [42, 180, 0, 79, 62, 29, 31, 184, 0, 254, 96, 54, 4, 42, 21, 4, 182, 0, 100, 42, 182, 0, 83]
abbrev dktJ14_append_4_0 : List UInt8 := dkwJ14_append_4_0 ++ dktJ14_append_4_1
theorem dksJ14_append_4_0 : cJ14_append_4.data.toList.drop 0 = dktJ14_append_4_0 := sorry
theorem dksJ14_append_4_1 : cJ14_append_4.data.toList.drop 23 = dktJ14_append_4_1 := sorry
theorem dksJ14_append_4_2 : cJ14_append_4.data.toList.drop 45 = dktJ14_append_4_2 := sorry
theorem dJ14_append_4_0 : decode cJ14_append_4 0 = .ok (.aload_n 0, 1) := sorry
theorem dJ14_append_4_1 : decode cJ14_append_4 1 = .ok (.getfield 79, 3) := sorry
theorem dJ14_append_4_4 : decode cJ14_append_4 4 = .ok (.istore_n 3, 1) := sorry
theorem dJ14_append_4_5 : decode cJ14_append_4 5 = .ok (.iload_n 3, 1) := sorry
theorem dJ14_append_4_6 : decode cJ14_append_4 6 = .ok (.lload_n 1, 1) := sorry
theorem dJ14_append_4_7 : decode cJ14_append_4 7 = .ok (.invokestatic 254, 3) := sorry
theorem dJ14_append_4_10 : decode cJ14_append_4 10 = .ok (.iadd, 1) := sorry
theorem dJ14_append_4_11 : decode cJ14_append_4 11 = .ok (.istore 4, 2) := sorry
theorem dJ14_append_4_13 : decode cJ14_append_4 13 = .ok (.aload_n 0, 1) := sorry
theorem dJ14_append_4_14 : decode cJ14_append_4 14 = .ok (.iload 4, 2) := sorry
theorem dJ14_append_4_16 : decode cJ14_append_4 16 = .ok (.invokevirtual 100, 3) := sorry
theorem dJ14_append_4_19 : decode cJ14_append_4 19 = .ok (.aload_n 0, 1) := sorry
theorem dJ14_append_4_20 : decode cJ14_append_4 20 = .ok (.invokevirtual 83, 3) := sorry
theorem dJ14_append_4_23 : decode cJ14_append_4 23 = .ok (.ifCond .eq 17, 3) := sorry
theorem dJ14_append_4_26 : decode cJ14_append_4 26 = .ok (.lload_n 1, 1) := sorry
theorem dJ14_append_4_27 : decode cJ14_append_4 27 = .ok (.iload 4, 2) := sorry
theorem dJ14_append_4_29 : decode cJ14_append_4 29 = .ok (.aload_n 0, 1) := sorry
theorem dJ14_append_4_30 : decode cJ14_append_4 30 = .ok (.getfield 15, 3) := sorry
theorem dJ14_append_4_33 : decode cJ14_append_4 33 = .ok (.invokestatic 259, 3) := sorry
theorem dJ14_append_4_36 : decode cJ14_append_4 36 = .ok (.pop, 1) := sorry
theorem dJ14_append_4_37 : decode cJ14_append_4 37 = .ok (.goto 15, 3) := sorry
theorem dJ14_append_4_40 : decode cJ14_append_4 40 = .ok (.lload_n 1, 1) := sorry
theorem dJ14_append_4_41 : decode cJ14_append_4 41 = .ok (.iload_n 3, 1) := sorry
theorem dJ14_append_4_42 : decode cJ14_append_4 42 = .ok (.iload 4, 2) := sorry
theorem dJ14_append_4_44 : decode cJ14_append_4 44 = .ok (.aload_n 0, 1) := sorry
theorem dJ14_append_4_45 : decode cJ14_append_4 45 = .ok (.getfield 15, 3) := sorry
theorem dJ14_append_4_48 : decode cJ14_append_4 48 = .ok (.invokestatic 262, 3) := sorry
theorem dJ14_append_4_51 : decode cJ14_append_4 51 = .ok (.pop, 1) := sorry
theorem dJ14_append_4_52 : decode cJ14_append_4 52 = .ok (.aload_n 0, 1) := sorry
theorem dJ14_append_4_53 : decode cJ14_append_4 53 = .ok (.iload 4, 2) := sorry
theorem dJ14_append_4_55 : decode cJ14_append_4 55 = .ok (.putfield 79, 3) := sorry
theorem dJ14_append_4_58 : decode cJ14_append_4 58 = .ok (.aload_n 0, 1) := sorry
theorem dJ14_append_4_59 : decode cJ14_append_4 59 = .ok (.areturn, 1) := sorry
theorem q149 : (Jvm.Cond.initialized "java/lang/AbstractStringBuilder") ∈ lw_all := sorry
theorem q612 : (Jvm.Cond.instanceMethod ({ cls := "java/lang/AbstractStringBuilder", name := "<init>", desc := "(I)V" } : Jvm.MethodName)) ∈ lw_all := sorry
theorem q613 : (Jvm.Cond.code ({ cls := "java/lang/AbstractStringBuilder", name := "<init>", desc := "(I)V" } : Jvm.MethodName) prog_19_method_2_code (2 : Nat) (Option.none : Option Jvm.ClassFile.FieldType)) ∈ lw_all := sorry
theorem q614 : (Jvm.Cond.methodLink "java/lang/AbstractStringBuilder" (3 : Nat) ({ cls := "java/lang/Object", name := "<init>", desc := "()V" } : Jvm.MethodName)) ∈ lw_all := sorry
theorem q615 : (Jvm.Cond.fieldLink "java/lang/AbstractStringBuilder" (18 : Nat) "java/lang/String" "COMPACT_STRINGS" "Z") ∈ lw_all := sorry
theorem q617 : (Jvm.Cond.methodLink "java/lang/AbstractStringBuilder" (26 : Nat) ({ cls := "java/lang/StringUTF16", name := "newBytesFor", desc := "(I)[B" } : Jvm.MethodName)) ∈ lw_all := lw_g (lw_at lw_m3 8 rfl) rfl
theorem q624 : (Jvm.Cond.fieldLink "java/lang/AbstractStringBuilder" (15 : Nat) "java/lang/AbstractStringBuilder" "value" "[B") ∈ lw_all := lw_g (lw_at lw_m3 15 rfl) rfl
theorem q625 : (Jvm.Cond.fieldLink "java/lang/AbstractStringBuilder" (22 : Nat) "java/lang/AbstractStringBuilder" "coder" "B") ∈ lw_all := sorry
theorem q626 : (Jvm.Cond.fieldLink "java/lang/AbstractStringBuilder" (73 : Nat) "java/lang/AbstractStringBuilder" "maybeLatin1" "Z") ∈ lw_all := sorry
theorem q628 : (Jvm.Cond.fieldLink "java/lang/AbstractStringBuilder" (79 : Nat) "java/lang/AbstractStringBuilder" "count" "I") ∈ lw_all := sorry
theorem q630 : (Jvm.Cond.soleField "java/lang/AbstractStringBuilder" "value") ∈ lw_all := sorry
theorem q632 : (Jvm.Cond.soleField "java/lang/AbstractStringBuilder" "coder") ∈ lw_all := sorry
theorem q634 : (Jvm.Cond.soleField "java/lang/AbstractStringBuilder" "maybeLatin1") ∈ lw_all := sorry
theorem q636 : (Jvm.Cond.soleField "java/lang/AbstractStringBuilder" "count") ∈ lw_all := sorry
theorem q644 : (Jvm.Cond.instanceMethod ({ cls := "java/lang/AbstractStringBuilder", name := "append", desc := "(Ljava/lang/String;)Ljava/lang/AbstractStringBuilder;" } : Jvm.MethodName)) ∈ lw_all := sorry
theorem q645 : (Jvm.Cond.code ({ cls := "java/lang/AbstractStringBuilder", name := "append", desc := "(Ljava/lang/String;)Ljava/lang/AbstractStringBuilder;" } : Jvm.MethodName) prog_19_method_22_code (3 : Nat) (Option.some (Jvm.ClassFile.FieldType.object "java/lang/AbstractStringBuilder"))) ∈ lw_all := sorry
theorem q646 : (Jvm.Cond.methodLink "java/lang/AbstractStringBuilder" (204 : Nat) ({ cls := "java/lang/AbstractStringBuilder", name := "appendNull", desc := "()Ljava/lang/AbstractStringBuilder;" } : Jvm.MethodName)) ∈ lw_all := sorry
theorem q647 : (Jvm.Cond.privateMethod ({ cls := "java/lang/AbstractStringBuilder", name := "appendNull", desc := "()Ljava/lang/AbstractStringBuilder;" } : Jvm.MethodName)) ∈ lw_tbl := sorry
theorem q648 : (Jvm.Cond.instanceMethod ({ cls := "java/lang/AbstractStringBuilder", name := "appendNull", desc := "()Ljava/lang/AbstractStringBuilder;" } : Jvm.MethodName)) ∈ lw_all := sorry
theorem q649 : (Jvm.Cond.code ({ cls := "java/lang/AbstractStringBuilder", name := "appendNull", desc := "()Ljava/lang/AbstractStringBuilder;" } : Jvm.MethodName) prog_19_method_26_code (3 : Nat) (Option.some (Jvm.ClassFile.FieldType.object "java/lang/AbstractStringBuilder"))) ∈ lw_all := sorry
theorem q650 : (Jvm.Cond.methodLink "java/lang/AbstractStringBuilder" (100 : Nat) ({ cls := "java/lang/AbstractStringBuilder", name := "ensureCapacityInternal", desc := "(I)V" } : Jvm.MethodName)) ∈ lw_all := sorry
theorem q651 : (Jvm.Cond.privateMethod ({ cls := "java/lang/AbstractStringBuilder", name := "ensureCapacityInternal", desc := "(I)V" } : Jvm.MethodName)) ∈ lw_tbl := sorry
theorem q652 : (Jvm.Cond.instanceMethod ({ cls := "java/lang/AbstractStringBuilder", name := "ensureCapacityInternal", desc := "(I)V" } : Jvm.MethodName)) ∈ lw_all := sorry
theorem q653 : (Jvm.Cond.code ({ cls := "java/lang/AbstractStringBuilder", name := "ensureCapacityInternal", desc := "(I)V" } : Jvm.MethodName) prog_19_method_9_code (3 : Nat) (Option.none : Option Jvm.ClassFile.FieldType)) ∈ lw_all := sorry
theorem q654 : (Jvm.Cond.methodLink "java/lang/AbstractStringBuilder" (104 : Nat) ({ cls := "java/lang/AbstractStringBuilder", name := "newCapacity", desc := "(I)I" } : Jvm.MethodName)) ∈ lw_all := sorry
theorem q655 : (Jvm.Cond.privateMethod ({ cls := "java/lang/AbstractStringBuilder", name := "newCapacity", desc := "(I)I" } : Jvm.MethodName)) ∈ lw_tbl := sorry
theorem q656 : (Jvm.Cond.instanceMethod ({ cls := "java/lang/AbstractStringBuilder", name := "newCapacity", desc := "(I)I" } : Jvm.MethodName)) ∈ lw_all := sorry
theorem q657 : (Jvm.Cond.code ({ cls := "java/lang/AbstractStringBuilder", name := "newCapacity", desc := "(I)I" } : Jvm.MethodName) prog_19_method_10_code (6 : Nat) (Option.some Jvm.ClassFile.FieldType.int)) ∈ lw_all := sorry
theorem q658 : (Jvm.Cond.methodLink "java/lang/AbstractStringBuilder" (114 : Nat) ({ cls := "jdk/internal/util/ArraysSupport", name := "newLength", desc := "(III)I" } : Jvm.MethodName)) ∈ lw_all := sorry
theorem q668 : (Jvm.Cond.constant "java/lang/AbstractStringBuilder" (39 : Nat) (2147483647 : Int32)) ∈ lw_all := sorry
theorem q669 : (Jvm.Cond.methodLink "java/lang/AbstractStringBuilder" (108 : Nat) ({ cls := "java/util/Arrays", name := "copyOf", desc := "([BI)[B" } : Jvm.MethodName)) ∈ lw_all := lw_g (lw_at lw_m3 60 rfl) rfl
theorem q685 : (Jvm.Cond.methodLink "java/lang/AbstractStringBuilder" (83 : Nat) ({ cls := "java/lang/AbstractStringBuilder", name := "isLatin1", desc := "()Z" } : Jvm.MethodName)) ∈ lw_all := sorry
theorem q686 : (Jvm.Cond.instanceMethod ({ cls := "java/lang/AbstractStringBuilder", name := "isLatin1", desc := "()Z" } : Jvm.MethodName)) ∈ lw_all := sorry
theorem q687 : (Jvm.Cond.sameMethod "java/lang/AbstractStringBuilder" "java/lang/AbstractStringBuilder" "isLatin1" "()Z") ∈ lw_all := sorry
theorem q689 : (Jvm.Cond.code ({ cls := "java/lang/AbstractStringBuilder", name := "isLatin1", desc := "()Z" } : Jvm.MethodName) prog_19_method_68_code (1 : Nat) (Option.some Jvm.ClassFile.FieldType.boolean)) ∈ lw_all := sorry
theorem q690 : (Jvm.Cond.methodLink "java/lang/AbstractStringBuilder" (226 : Nat) ({ cls := "java/lang/StringUTF16", name := "putCharsAt", desc := "([BICCCC)I" } : Jvm.MethodName)) ∈ lw_all := lw_g (lw_at lw_m3 81 rfl) rfl
theorem q716 : (Jvm.Cond.methodLink "java/lang/AbstractStringBuilder" (32 : Nat) ({ cls := "java/lang/String", name := "length", desc := "()I" } : Jvm.MethodName)) ∈ lw_all := sorry
theorem q725 : (Jvm.Cond.methodLink "java/lang/AbstractStringBuilder" (208 : Nat) ({ cls := "java/lang/AbstractStringBuilder", name := "putStringAt", desc := "(ILjava/lang/String;)V" } : Jvm.MethodName)) ∈ lw_all := sorry
theorem q726 : (Jvm.Cond.privateMethod ({ cls := "java/lang/AbstractStringBuilder", name := "putStringAt", desc := "(ILjava/lang/String;)V" } : Jvm.MethodName)) ∈ lw_tbl := sorry
theorem q727 : (Jvm.Cond.instanceMethod ({ cls := "java/lang/AbstractStringBuilder", name := "putStringAt", desc := "(ILjava/lang/String;)V" } : Jvm.MethodName)) ∈ lw_all := sorry
theorem q728 : (Jvm.Cond.code ({ cls := "java/lang/AbstractStringBuilder", name := "putStringAt", desc := "(ILjava/lang/String;)V" } : Jvm.MethodName) prog_19_method_73_code (3 : Nat) (Option.none : Option Jvm.ClassFile.FieldType)) ∈ lw_all := sorry
theorem q729 : (Jvm.Cond.methodLink "java/lang/AbstractStringBuilder" (397 : Nat) ({ cls := "java/lang/AbstractStringBuilder", name := "inflateIfNeededFor", desc := "(Ljava/lang/String;)V" } : Jvm.MethodName)) ∈ lw_all := sorry
theorem q730 : (Jvm.Cond.privateMethod ({ cls := "java/lang/AbstractStringBuilder", name := "inflateIfNeededFor", desc := "(Ljava/lang/String;)V" } : Jvm.MethodName)) ∈ lw_tbl := sorry
theorem q731 : (Jvm.Cond.instanceMethod ({ cls := "java/lang/AbstractStringBuilder", name := "inflateIfNeededFor", desc := "(Ljava/lang/String;)V" } : Jvm.MethodName)) ∈ lw_all := sorry
theorem q732 : (Jvm.Cond.code ({ cls := "java/lang/AbstractStringBuilder", name := "inflateIfNeededFor", desc := "(Ljava/lang/String;)V" } : Jvm.MethodName) prog_19_method_71_code (2 : Nat) (Option.none : Option Jvm.ClassFile.FieldType)) ∈ lw_all := sorry
theorem q733 : (Jvm.Cond.methodLink "java/lang/AbstractStringBuilder" (40 : Nat) ({ cls := "java/lang/String", name := "coder", desc := "()B" } : Jvm.MethodName)) ∈ lw_all := sorry
theorem q734 : (Jvm.Cond.methodLink "java/lang/AbstractStringBuilder" (195 : Nat) ({ cls := "java/lang/AbstractStringBuilder", name := "inflate", desc := "()V" } : Jvm.MethodName)) ∈ lw_all := sorry
theorem q735 : (Jvm.Cond.privateMethod ({ cls := "java/lang/AbstractStringBuilder", name := "inflate", desc := "()V" } : Jvm.MethodName)) ∈ lw_tbl := sorry
theorem q736 : (Jvm.Cond.instanceMethod ({ cls := "java/lang/AbstractStringBuilder", name := "inflate", desc := "()V" } : Jvm.MethodName)) ∈ lw_all := sorry
theorem q737 : (Jvm.Cond.code ({ cls := "java/lang/AbstractStringBuilder", name := "inflate", desc := "()V" } : Jvm.MethodName) prog_19_method_11_code (2 : Nat) (Option.none : Option Jvm.ClassFile.FieldType)) ∈ lw_all := sorry
theorem q738 : (Jvm.Cond.methodLink "java/lang/AbstractStringBuilder" (125 : Nat) ({ cls := "java/lang/StringLatin1", name := "inflate", desc := "([BI[BII)V" } : Jvm.MethodName)) ∈ lw_all := lw_g (lw_at lw_m3 129 rfl) rfl
theorem q753 : (Jvm.Cond.methodLink "java/lang/AbstractStringBuilder" (399 : Nat) ({ cls := "java/lang/String", name := "getBytes", desc := "([BIB)V" } : Jvm.MethodName)) ∈ lw_all := lw_g (lw_at lw_m3 144 rfl) rfl
theorem q774 : (Jvm.Cond.instanceMethod ({ cls := "java/lang/AbstractStringBuilder", name := "getValue", desc := "()[B" } : Jvm.MethodName)) ∈ lw_all := lw_g (lw_at lw_m3 165 rfl) rfl
theorem q775 : (Jvm.Cond.sameMethod "java/lang/AbstractStringBuilder" "java/lang/AbstractStringBuilder" "getValue" "()[B") ∈ lw_all := lw_g (lw_at lw_m3 166 rfl) rfl
theorem q777 : (Jvm.Cond.code ({ cls := "java/lang/AbstractStringBuilder", name := "getValue", desc := "()[B" } : Jvm.MethodName) prog_19_method_64_code (1 : Nat) (Option.some (Jvm.ClassFile.FieldType.array Jvm.ClassFile.FieldType.byte))) ∈ lw_all := lw_g (lw_at lw_m3 168 rfl) rfl
theorem q779 : (Jvm.Cond.instanceMethod ({ cls := "java/lang/AbstractStringBuilder", name := "length", desc := "()I" } : Jvm.MethodName)) ∈ lw_all := sorry
theorem q780 : (Jvm.Cond.sameMethod "java/lang/AbstractStringBuilder" "java/lang/AbstractStringBuilder" "length" "()I") ∈ lw_all := sorry
theorem q785 : (Jvm.Cond.code ({ cls := "java/lang/AbstractStringBuilder", name := "length", desc := "()I" } : Jvm.MethodName) prog_19_method_6_code (1 : Nat) (Option.some Jvm.ClassFile.FieldType.int)) ∈ lw_all := sorry
theorem q812 : (Jvm.Cond.instanceMethod ({ cls := "java/lang/AbstractStringBuilder", name := "append", desc := "(I)Ljava/lang/AbstractStringBuilder;" } : Jvm.MethodName)) ∈ lw_all := sorry
theorem q813 : (Jvm.Cond.code ({ cls := "java/lang/AbstractStringBuilder", name := "append", desc := "(I)Ljava/lang/AbstractStringBuilder;" } : Jvm.MethodName) prog_19_method_32_code (4 : Nat) (Option.some (Jvm.ClassFile.FieldType.object "java/lang/AbstractStringBuilder"))) ∈ lw_all := sorry
theorem q814 : (Jvm.Cond.methodLink "java/lang/AbstractStringBuilder" (245 : Nat) ({ cls := "java/lang/Integer", name := "stringSize", desc := "(I)I" } : Jvm.MethodName)) ∈ lw_all := sorry
theorem q817 : (Jvm.Cond.methodLink "java/lang/AbstractStringBuilder" (248 : Nat) ({ cls := "java/lang/Integer", name := "getChars", desc := "(II[B)I" } : Jvm.MethodName)) ∈ lw_all := lw_g (lw_at lw_m3 208 rfl) rfl
theorem q824 : (Jvm.Cond.methodLink "java/lang/AbstractStringBuilder" (251 : Nat) ({ cls := "java/lang/StringUTF16", name := "getChars", desc := "(III[B)I" } : Jvm.MethodName)) ∈ lw_all := lw_g (lw_at lw_m3 215 rfl) rfl
theorem q1573 : (Jvm.Cond.instanceMethod ({ cls := "java/lang/AbstractStringBuilder", name := "setLength", desc := "(I)V" } : Jvm.MethodName)) ∈ lw_all := sorry
theorem q1574 : (Jvm.Cond.code ({ cls := "java/lang/AbstractStringBuilder", name := "setLength", desc := "(I)V" } : Jvm.MethodName) prog_19_method_13_code (2 : Nat) (Option.none : Option Jvm.ClassFile.FieldType)) ∈ lw_all := sorry
theorem q1575 : (Jvm.Cond.methodLink "java/lang/AbstractStringBuilder" (133 : Nat) ({ cls := "java/lang/StringLatin1", name := "fillNull", desc := "([BII)V" } : Jvm.MethodName)) ∈ lw_all := lw_g (lw_at lw_m7 6 rfl) rfl
theorem q1587 : (Jvm.Cond.methodLink "java/lang/AbstractStringBuilder" (137 : Nat) ({ cls := "java/lang/StringUTF16", name := "fillNull", desc := "([BII)V" } : Jvm.MethodName)) ∈ lw_all := lw_g (lw_at lw_m7 18 rfl) rfl
theorem q1601 : (Jvm.Cond.instanceMethod ({ cls := "java/lang/AbstractStringBuilder", name := "append", desc := "(C)Ljava/lang/AbstractStringBuilder;" } : Jvm.MethodName)) ∈ lw_all := sorry
theorem q1602 : (Jvm.Cond.code ({ cls := "java/lang/AbstractStringBuilder", name := "append", desc := "(C)Ljava/lang/AbstractStringBuilder;" } : Jvm.MethodName) prog_19_method_31_code (2 : Nat) (Option.some (Jvm.ClassFile.FieldType.object "java/lang/AbstractStringBuilder"))) ∈ lw_all := sorry
theorem q1603 : (Jvm.Cond.methodLink "java/lang/AbstractStringBuilder" (191 : Nat) ({ cls := "java/lang/StringLatin1", name := "canEncode", desc := "(C)Z" } : Jvm.MethodName)) ∈ lw_all := sorry
theorem q1606 : (Jvm.Cond.methodLink "java/lang/AbstractStringBuilder" (197 : Nat) ({ cls := "java/lang/StringUTF16", name := "putCharSB", desc := "([BII)V" } : Jvm.MethodName)) ∈ lw_all := lw_g (lw_at lw_m7 37 rfl) rfl
theorem q2263 : (Jvm.Cond.instanceMethod ({ cls := "java/lang/AbstractStringBuilder", name := "append", desc := "(J)Ljava/lang/AbstractStringBuilder;" } : Jvm.MethodName)) ∈ lw_all := sorry
theorem q2264 : (Jvm.Cond.code ({ cls := "java/lang/AbstractStringBuilder", name := "append", desc := "(J)Ljava/lang/AbstractStringBuilder;" } : Jvm.MethodName) prog_19_method_33_code (5 : Nat) (Option.some (Jvm.ClassFile.FieldType.object "java/lang/AbstractStringBuilder"))) ∈ lw_all := sorry
theorem q2265 : (Jvm.Cond.methodLink "java/lang/AbstractStringBuilder" (254 : Nat) ({ cls := "java/lang/Long", name := "stringSize", desc := "(J)I" } : Jvm.MethodName)) ∈ lw_all := sorry
theorem q2270 : (Jvm.Cond.methodLink "java/lang/AbstractStringBuilder" (259 : Nat) ({ cls := "java/lang/Long", name := "getChars", desc := "(JI[B)I" } : Jvm.MethodName)) ∈ lw_all := lw_g (lw_at lw_m9 221 rfl) rfl
theorem q2277 : (Jvm.Cond.methodLink "java/lang/AbstractStringBuilder" (262 : Nat) ({ cls := "java/lang/StringUTF16", name := "getChars", desc := "(JII[B)I" } : Jvm.MethodName)) ∈ lw_all := lw_g (lw_at lw_m9 228 rfl) rfl
theorem q3204 : (Jvm.Cond.sameMethod "java/lang/AbstractStringBuilder" "java/lang/AbstractStringBuilder" "append" "(Ljava/lang/String;)Ljava/lang/AbstractStringBuilder;") ∈ lw_all := sorry
theorem q3205 : (Jvm.Cond.sameMethod "java/lang/AbstractStringBuilder" "java/lang/AbstractStringBuilder" "appendNull" "()Ljava/lang/AbstractStringBuilder;") ∈ lw_all := sorry
theorem q3206 : (Jvm.Cond.sameMethod "java/lang/AbstractStringBuilder" "java/lang/AbstractStringBuilder" "ensureCapacityInternal" "(I)V") ∈ lw_all := sorry
theorem q3207 : (Jvm.Cond.sameMethod "java/lang/AbstractStringBuilder" "java/lang/AbstractStringBuilder" "newCapacity" "(I)I") ∈ lw_all := sorry
theorem q3208 : (Jvm.Cond.sameMethod "java/lang/AbstractStringBuilder" "java/lang/AbstractStringBuilder" "putStringAt" "(ILjava/lang/String;)V") ∈ lw_all := sorry
theorem q3209 : (Jvm.Cond.sameMethod "java/lang/AbstractStringBuilder" "java/lang/AbstractStringBuilder" "inflateIfNeededFor" "(Ljava/lang/String;)V") ∈ lw_all := sorry
theorem q3210 : (Jvm.Cond.sameMethod "java/lang/AbstractStringBuilder" "java/lang/AbstractStringBuilder" "inflate" "()V") ∈ lw_all := sorry
theorem q3211 : (Jvm.Cond.sameMethod "java/lang/AbstractStringBuilder" "java/lang/AbstractStringBuilder" "append" "(I)Ljava/lang/AbstractStringBuilder;") ∈ lw_all := sorry
theorem q3217 : (Jvm.Cond.sameMethod "java/lang/AbstractStringBuilder" "java/lang/AbstractStringBuilder" "setLength" "(I)V") ∈ lw_all := sorry
theorem q3218 : (Jvm.Cond.sameMethod "java/lang/AbstractStringBuilder" "java/lang/AbstractStringBuilder" "append" "(C)Ljava/lang/AbstractStringBuilder;") ∈ lw_all := sorry
theorem q3224 : (Jvm.Cond.sameMethod "java/lang/AbstractStringBuilder" "java/lang/AbstractStringBuilder" "append" "(J)Ljava/lang/AbstractStringBuilder;") ∈ lw_all := sorry
/-! java/lang/StringBuilder -/
set_option maxRecDepth 100000
def RJ15 : String := "java/lang/StringBuilder"
def TJ15 : u_T := fun k => match k with
  | 0 => ("java/lang/AbstractStringBuilder", "value", "[B", false)
  | 1 => ("java/lang/AbstractStringBuilder", "coder", "B", false)
  | 2 => ("java/lang/AbstractStringBuilder", "maybeLatin1", "Z", false)
  | _ => ("java/lang/AbstractStringBuilder", "count", "I", false)
def tyJ15 : Nat → FieldType := fun k => match k with
  | 0 => .array .byte
  | 1 => .byte
  | 2 => .boolean
  | _ => .int
abbrev wsJ150 : List Cond := u_ws RJ15 TJ15 4
theorem nmJ15 : ∀ a, a < 4 → ∀ b, b < 4 → a ≠ b → (TJ15 a).2.1 ≠ (TJ15 b).2.1 := sorry
theorem tyJ15_ok : ∀ k, k < 4 → parseFieldDescriptor (TJ15 k).2.2.1 = some (tyJ15 k) := sorry
abbrev cJ15_init : ByteArray := prog_35_method_1_code
def yJ15_init : MethodName := ⟨RJ15, "<init>", "()V"⟩
def dkwJ15_init_0 : List UInt8 := [42, 16, 16, 183, 0, 1, 177]
abbrev dktJ15_init_0 : List UInt8 := dkwJ15_init_0 ++ []
theorem dksJ15_init_0 : cJ15_init.data.toList.drop 0 = dktJ15_init_0 := sorry
theorem dJ15_init_0 : decode cJ15_init 0 = .ok (.aload_n 0, 1) := sorry
theorem dJ15_init_1 : decode cJ15_init 1 = .ok (.bipush 16, 2) := sorry
theorem dJ15_init_3 : decode cJ15_init 3 = .ok (.invokespecial 1, 3) := sorry
theorem dJ15_init_6 : decode cJ15_init 6 = .ok (.return_, 1) := sorry
abbrev cJ15_append : ByteArray := prog_35_method_7_code
def yJ15_append : MethodName := ⟨RJ15, "append", "(Ljava/lang/String;)Ljava/lang/StringBuilder;"⟩
def dkwJ15_append_0 : List UInt8 := [42, 43, 183, 0, 29, 87, 42, 176]
abbrev dktJ15_append_0 : List UInt8 := dkwJ15_append_0 ++ []
theorem dksJ15_append_0 : cJ15_append.data.toList.drop 0 = dktJ15_append_0 := sorry
theorem dJ15_append_0 : decode cJ15_append 0 = .ok (.aload_n 0, 1) := sorry
theorem dJ15_append_1 : decode cJ15_append 1 = .ok (.aload_n 1, 1) := sorry
theorem dJ15_append_2 : decode cJ15_append 2 = .ok (.invokespecial 29, 3) := sorry
theorem dJ15_append_5 : decode cJ15_append 5 = .ok (.pop, 1) := sorry
theorem dJ15_append_6 : decode cJ15_append 6 = .ok (.aload_n 0, 1) := sorry
theorem dJ15_append_7 : decode cJ15_append 7 = .ok (.areturn, 1) := sorry
abbrev cJ15_toString : ByteArray := prog_35_method_42_code
def yJ15_toString : MethodName := ⟨RJ15, "toString", "()Ljava/lang/String;"⟩
def dkwJ15_toString_0 : List UInt8 := [187, 0, 18, 89, 42, 183, 0, 137, 176]
abbrev dktJ15_toString_0 : List UInt8 := dkwJ15_toString_0 ++ []
theorem dksJ15_toString_0 : cJ15_toString.data.toList.drop 0 = dktJ15_toString_0 := sorry
theorem dJ15_toString_0 : decode cJ15_toString 0 = .ok (.new 18, 3) := sorry
theorem dJ15_toString_3 : decode cJ15_toString 3 = .ok (.dup, 1) := sorry
theorem dJ15_toString_4 : decode cJ15_toString 4 = .ok (.aload_n 0, 1) := sorry
theorem dJ15_toString_5 : decode cJ15_toString 5 = .ok (.invokespecial 137, 3) := sorry
theorem dJ15_toString_8 : decode cJ15_toString 8 = .ok (.areturn, 1) := sorry
abbrev cJ15_length : ByteArray := prog_35_method_93_code
def yJ15_length : MethodName := ⟨RJ15, "length", "()I"⟩
theorem dJ15_length_0 : decode cJ15_length 0 = .ok (.aload_n 0, 1) := sorry
theorem dJ15_length_1 : decode cJ15_length 1 = .ok (.invokespecial 343, 3) := sorry
theorem dJ15_length_4 : decode cJ15_length 4 = .ok (.ireturn, 1) := sorry
abbrev cJ15_append_2 : ByteArray := prog_35_method_15_code
def yJ15_append_2 : MethodName := ⟨RJ15, "append", "(I)Ljava/lang/StringBuilder;"⟩
def dkwJ15_append_2_0 : List UInt8 := [42, 27, 183, 0, 53, 87, 42, 176]
abbrev dktJ15_append_2_0 : List UInt8 := dkwJ15_append_2_0 ++ []
theorem dksJ15_append_2_0 : cJ15_append_2.data.toList.drop 0 = dktJ15_append_2_0 := sorry
theorem dJ15_append_2_0 : decode cJ15_append_2 0 = .ok (.aload_n 0, 1) := sorry
theorem dJ15_append_2_1 : decode cJ15_append_2 1 = .ok (.iload_n 1, 1) := sorry
theorem dJ15_append_2_2 : decode cJ15_append_2 2 = .ok (.invokespecial 53, 3) := sorry
theorem dJ15_append_2_5 : decode cJ15_append_2 5 = .ok (.pop, 1) := sorry
theorem dJ15_append_2_6 : decode cJ15_append_2 6 = .ok (.aload_n 0, 1) := sorry
theorem dJ15_append_2_7 : decode cJ15_append_2 7 = .ok (.areturn, 1) := sorry
abbrev cJ15_setLength : ByteArray := prog_35_method_89_code
def yJ15_setLength : MethodName := ⟨RJ15, "setLength", "(I)V"⟩
def dkwJ15_setLength_0 : List UInt8 := [42, 27, 183, 1, 77, 177]
abbrev dktJ15_setLength_0 : List UInt8 := dkwJ15_setLength_0 ++ []
theorem dksJ15_setLength_0 : cJ15_setLength.data.toList.drop 0 = dktJ15_setLength_0 := sorry
theorem dJ15_setLength_0 : decode cJ15_setLength 0 = .ok (.aload_n 0, 1) := sorry
theorem dJ15_setLength_1 : decode cJ15_setLength 1 = .ok (.iload_n 1, 1) := sorry
theorem dJ15_setLength_2 : decode cJ15_setLength 2 = .ok (.invokespecial 333, 3) := sorry
theorem dJ15_setLength_5 : decode cJ15_setLength 5 = .ok (.return_, 1) := sorry
abbrev cJ15_append_3 : ByteArray := prog_35_method_14_code
def yJ15_append_3 : MethodName := ⟨RJ15, "append", "(C)Ljava/lang/StringBuilder;"⟩
def dkwJ15_append_3_0 : List UInt8 := [42, 27, 183, 0, 50, 87, 42, 176]
abbrev dktJ15_append_3_0 : List UInt8 := dkwJ15_append_3_0 ++ []
theorem dksJ15_append_3_0 : cJ15_append_3.data.toList.drop 0 = dktJ15_append_3_0 := sorry
theorem dJ15_append_3_0 : decode cJ15_append_3 0 = .ok (.aload_n 0, 1) := sorry
theorem dJ15_append_3_1 : decode cJ15_append_3 1 = .ok (.iload_n 1, 1) := sorry
theorem dJ15_append_3_2 : decode cJ15_append_3 2 = .ok (.invokespecial 50, 3) := sorry
theorem dJ15_append_3_5 : decode cJ15_append_3 5 = .ok (.pop, 1) := sorry
theorem dJ15_append_3_6 : decode cJ15_append_3 6 = .ok (.aload_n 0, 1) := sorry
theorem dJ15_append_3_7 : decode cJ15_append_3 7 = .ok (.areturn, 1) := sorry
abbrev cJ15_append_4 : ByteArray := prog_35_method_16_code
def yJ15_append_4 : MethodName := ⟨RJ15, "append", "(J)Ljava/lang/StringBuilder;"⟩
def dkwJ15_append_4_0 : List UInt8 := [42, 31, 183, 0, 56, 87, 42, 176]
abbrev dktJ15_append_4_0 : List UInt8 := dkwJ15_append_4_0 ++ []
theorem dksJ15_append_4_0 : cJ15_append_4.data.toList.drop 0 = dktJ15_append_4_0 := sorry
theorem dJ15_append_4_0 : decode cJ15_append_4 0 = .ok (.aload_n 0, 1) := sorry
theorem dJ15_append_4_1 : decode cJ15_append_4 1 = .ok (.lload_n 1, 1) := sorry
theorem dJ15_append_4_2 : decode cJ15_append_4 2 = .ok (.invokespecial 56, 3) := sorry
theorem dJ15_append_4_5 : decode cJ15_append_4 5 = .ok (.pop, 1) := sorry
theorem dJ15_append_4_6 : decode cJ15_append_4 6 = .ok (.aload_n 0, 1) := sorry
theorem dJ15_append_4_7 : decode cJ15_append_4 7 = .ok (.areturn, 1) := sorry
theorem q150 : (Jvm.Cond.initialized "java/lang/StringBuilder") ∈ lw_all := sorry
theorem q573 : (Jvm.Cond.selects "java/lang/StringBuilder" ({ cls := "java/lang/Object", name := "getClass", desc := "()Ljava/lang/Class;" } : Jvm.MethodName) ({ cls := "java/lang/Object", name := "getClass", desc := "()Ljava/lang/Class;" } : Jvm.MethodName)) ∈ lw_all := sorry
theorem q607 : (Jvm.Cond.instantiable "java/lang/StringBuilder" (4 : Nat)) ∈ lw_all := sorry
theorem q609 : (Jvm.Cond.instanceMethod ({ cls := "java/lang/StringBuilder", name := "<init>", desc := "()V" } : Jvm.MethodName)) ∈ lw_all := sorry
theorem q610 : (Jvm.Cond.code ({ cls := "java/lang/StringBuilder", name := "<init>", desc := "()V" } : Jvm.MethodName) prog_35_method_1_code (1 : Nat) (Option.none : Option Jvm.ClassFile.FieldType)) ∈ lw_all := sorry
theorem q611 : (Jvm.Cond.methodLink "java/lang/StringBuilder" (1 : Nat) ({ cls := "java/lang/AbstractStringBuilder", name := "<init>", desc := "(I)V" } : Jvm.MethodName)) ∈ lw_all := sorry
theorem q629 : (Jvm.Cond.lays "java/lang/StringBuilder" "java/lang/AbstractStringBuilder" "value" "[B") ∈ lw_all := lw_g (lw_at lw_m3 20 rfl) rfl
theorem q631 : (Jvm.Cond.lays "java/lang/StringBuilder" "java/lang/AbstractStringBuilder" "coder" "B") ∈ lw_all := sorry
theorem q633 : (Jvm.Cond.lays "java/lang/StringBuilder" "java/lang/AbstractStringBuilder" "maybeLatin1" "Z") ∈ lw_all := sorry
theorem q635 : (Jvm.Cond.lays "java/lang/StringBuilder" "java/lang/AbstractStringBuilder" "count" "I") ∈ lw_all := sorry
theorem q637 : (Jvm.Cond.superclass "java/lang/StringBuilder" "java/lang/AbstractStringBuilder") ∈ lw_all := sorry
theorem q640 : (Jvm.Cond.instanceMethod ({ cls := "java/lang/StringBuilder", name := "append", desc := "(Ljava/lang/String;)Ljava/lang/StringBuilder;" } : Jvm.MethodName)) ∈ lw_all := sorry
theorem q641 : (Jvm.Cond.selects "java/lang/StringBuilder" ({ cls := "java/lang/StringBuilder", name := "append", desc := "(Ljava/lang/String;)Ljava/lang/StringBuilder;" } : Jvm.MethodName) ({ cls := "java/lang/StringBuilder", name := "append", desc := "(Ljava/lang/String;)Ljava/lang/StringBuilder;" } : Jvm.MethodName)) ∈ lw_all := sorry
theorem q642 : (Jvm.Cond.code ({ cls := "java/lang/StringBuilder", name := "append", desc := "(Ljava/lang/String;)Ljava/lang/StringBuilder;" } : Jvm.MethodName) prog_35_method_7_code (2 : Nat) (Option.some (Jvm.ClassFile.FieldType.object "java/lang/StringBuilder"))) ∈ lw_all := sorry
theorem q643 : (Jvm.Cond.methodLink "java/lang/StringBuilder" (29 : Nat) ({ cls := "java/lang/AbstractStringBuilder", name := "append", desc := "(Ljava/lang/String;)Ljava/lang/AbstractStringBuilder;" } : Jvm.MethodName)) ∈ lw_all := sorry
theorem q688 : (Jvm.Cond.selects "java/lang/StringBuilder" ({ cls := "java/lang/AbstractStringBuilder", name := "isLatin1", desc := "()Z" } : Jvm.MethodName) ({ cls := "java/lang/AbstractStringBuilder", name := "isLatin1", desc := "()Z" } : Jvm.MethodName)) ∈ lw_all := sorry
theorem q761 : (Jvm.Cond.instanceMethod ({ cls := "java/lang/StringBuilder", name := "toString", desc := "()Ljava/lang/String;" } : Jvm.MethodName)) ∈ lw_all := sorry
theorem q762 : (Jvm.Cond.selects "java/lang/StringBuilder" ({ cls := "java/lang/StringBuilder", name := "toString", desc := "()Ljava/lang/String;" } : Jvm.MethodName) ({ cls := "java/lang/StringBuilder", name := "toString", desc := "()Ljava/lang/String;" } : Jvm.MethodName)) ∈ lw_all := sorry
theorem q763 : (Jvm.Cond.code ({ cls := "java/lang/StringBuilder", name := "toString", desc := "()Ljava/lang/String;" } : Jvm.MethodName) prog_35_method_42_code (1 : Nat) (Option.some (Jvm.ClassFile.FieldType.object "java/lang/String"))) ∈ lw_all := sorry
theorem q764 : (Jvm.Cond.classLink "java/lang/StringBuilder" (18 : Nat) "java/lang/String") ∈ lw_all := sorry
theorem q766 : (Jvm.Cond.methodLink "java/lang/StringBuilder" (137 : Nat) ({ cls := "java/lang/String", name := "<init>", desc := "(Ljava/lang/StringBuilder;)V" } : Jvm.MethodName)) ∈ lw_all := sorry
theorem q776 : (Jvm.Cond.selects "java/lang/StringBuilder" ({ cls := "java/lang/AbstractStringBuilder", name := "getValue", desc := "()[B" } : Jvm.MethodName) ({ cls := "java/lang/AbstractStringBuilder", name := "getValue", desc := "()[B" } : Jvm.MethodName)) ∈ lw_all := lw_g (lw_at lw_m3 167 rfl) rfl
theorem q781 : (Jvm.Cond.selects "java/lang/StringBuilder" ({ cls := "java/lang/AbstractStringBuilder", name := "length", desc := "()I" } : Jvm.MethodName) ({ cls := "java/lang/StringBuilder", name := "length", desc := "()I" } : Jvm.MethodName)) ∈ lw_all := sorry
theorem q782 : (Jvm.Cond.instanceMethod ({ cls := "java/lang/StringBuilder", name := "length", desc := "()I" } : Jvm.MethodName)) ∈ lw_all := sorry
theorem q783 : (Jvm.Cond.code ({ cls := "java/lang/StringBuilder", name := "length", desc := "()I" } : Jvm.MethodName) prog_35_method_93_code (1 : Nat) (Option.some Jvm.ClassFile.FieldType.int)) ∈ lw_all := sorry
theorem q784 : (Jvm.Cond.methodLink "java/lang/StringBuilder" (343 : Nat) ({ cls := "java/lang/AbstractStringBuilder", name := "length", desc := "()I" } : Jvm.MethodName)) ∈ lw_all := sorry
theorem q808 : (Jvm.Cond.instanceMethod ({ cls := "java/lang/StringBuilder", name := "append", desc := "(I)Ljava/lang/StringBuilder;" } : Jvm.MethodName)) ∈ lw_all := sorry
theorem q809 : (Jvm.Cond.selects "java/lang/StringBuilder" ({ cls := "java/lang/StringBuilder", name := "append", desc := "(I)Ljava/lang/StringBuilder;" } : Jvm.MethodName) ({ cls := "java/lang/StringBuilder", name := "append", desc := "(I)Ljava/lang/StringBuilder;" } : Jvm.MethodName)) ∈ lw_all := sorry
theorem q810 : (Jvm.Cond.code ({ cls := "java/lang/StringBuilder", name := "append", desc := "(I)Ljava/lang/StringBuilder;" } : Jvm.MethodName) prog_35_method_15_code (2 : Nat) (Option.some (Jvm.ClassFile.FieldType.object "java/lang/StringBuilder"))) ∈ lw_all := sorry
theorem q811 : (Jvm.Cond.methodLink "java/lang/StringBuilder" (53 : Nat) ({ cls := "java/lang/AbstractStringBuilder", name := "append", desc := "(I)Ljava/lang/AbstractStringBuilder;" } : Jvm.MethodName)) ∈ lw_all := sorry
theorem q1569 : (Jvm.Cond.instanceMethod ({ cls := "java/lang/StringBuilder", name := "setLength", desc := "(I)V" } : Jvm.MethodName)) ∈ lw_all := sorry
theorem q1570 : (Jvm.Cond.selects "java/lang/StringBuilder" ({ cls := "java/lang/StringBuilder", name := "setLength", desc := "(I)V" } : Jvm.MethodName) ({ cls := "java/lang/StringBuilder", name := "setLength", desc := "(I)V" } : Jvm.MethodName)) ∈ lw_all := sorry
theorem q1571 : (Jvm.Cond.code ({ cls := "java/lang/StringBuilder", name := "setLength", desc := "(I)V" } : Jvm.MethodName) prog_35_method_89_code (2 : Nat) (Option.none : Option Jvm.ClassFile.FieldType)) ∈ lw_all := sorry
theorem q1572 : (Jvm.Cond.methodLink "java/lang/StringBuilder" (333 : Nat) ({ cls := "java/lang/AbstractStringBuilder", name := "setLength", desc := "(I)V" } : Jvm.MethodName)) ∈ lw_all := sorry
theorem q1597 : (Jvm.Cond.instanceMethod ({ cls := "java/lang/StringBuilder", name := "append", desc := "(C)Ljava/lang/StringBuilder;" } : Jvm.MethodName)) ∈ lw_all := sorry
theorem q1598 : (Jvm.Cond.selects "java/lang/StringBuilder" ({ cls := "java/lang/StringBuilder", name := "append", desc := "(C)Ljava/lang/StringBuilder;" } : Jvm.MethodName) ({ cls := "java/lang/StringBuilder", name := "append", desc := "(C)Ljava/lang/StringBuilder;" } : Jvm.MethodName)) ∈ lw_all := sorry
theorem q1599 : (Jvm.Cond.code ({ cls := "java/lang/StringBuilder", name := "append", desc := "(C)Ljava/lang/StringBuilder;" } : Jvm.MethodName) prog_35_method_14_code (2 : Nat) (Option.some (Jvm.ClassFile.FieldType.object "java/lang/StringBuilder"))) ∈ lw_all := sorry
theorem q1600 : (Jvm.Cond.methodLink "java/lang/StringBuilder" (50 : Nat) ({ cls := "java/lang/AbstractStringBuilder", name := "append", desc := "(C)Ljava/lang/AbstractStringBuilder;" } : Jvm.MethodName)) ∈ lw_all := sorry
theorem q2259 : (Jvm.Cond.instanceMethod ({ cls := "java/lang/StringBuilder", name := "append", desc := "(J)Ljava/lang/StringBuilder;" } : Jvm.MethodName)) ∈ lw_all := sorry
theorem q2260 : (Jvm.Cond.selects "java/lang/StringBuilder" ({ cls := "java/lang/StringBuilder", name := "append", desc := "(J)Ljava/lang/StringBuilder;" } : Jvm.MethodName) ({ cls := "java/lang/StringBuilder", name := "append", desc := "(J)Ljava/lang/StringBuilder;" } : Jvm.MethodName)) ∈ lw_all := sorry
theorem q2261 : (Jvm.Cond.code ({ cls := "java/lang/StringBuilder", name := "append", desc := "(J)Ljava/lang/StringBuilder;" } : Jvm.MethodName) prog_35_method_16_code (3 : Nat) (Option.some (Jvm.ClassFile.FieldType.object "java/lang/StringBuilder"))) ∈ lw_all := sorry
theorem q2262 : (Jvm.Cond.methodLink "java/lang/StringBuilder" (56 : Nat) ({ cls := "java/lang/AbstractStringBuilder", name := "append", desc := "(J)Ljava/lang/AbstractStringBuilder;" } : Jvm.MethodName)) ∈ lw_all := sorry
theorem q2430 : (Jvm.Cond.selects "java/lang/StringBuilder" ({ cls := "java/lang/Object", name := "equals", desc := "(Ljava/lang/Object;)Z" } : Jvm.MethodName) ({ cls := "java/lang/Object", name := "equals", desc := "(Ljava/lang/Object;)Z" } : Jvm.MethodName)) ∈ lw_all := sorry
theorem q3239 : (Jvm.Cond.castable "java/lang/StringBuilder" "java/lang/Object") ∈ lw_tbl := sorry
theorem in_J15 : ∀ w ∈ wsJ150, w ∈ lw_all := sorry
/-! java/lang/String -/
set_option maxRecDepth 100000
def RJ16 : String := "java/lang/String"
def TJ16 : u_T := fun k => match k with
  | 0 => ("java/lang/String", "value", "[B", true)
  | 1 => ("java/lang/String", "coder", "B", true)
  | 2 => ("java/lang/String", "hash", "I", false)
  | _ => ("java/lang/String", "hashIsZero", "Z", false)
def tyJ16 : Nat → FieldType := fun k => match k with
  | 0 => .array .byte
  | 1 => .byte
  | 2 => .int
  | _ => .boolean
abbrev wsJ160 : List Cond := u_ws RJ16 TJ16 4
theorem nmJ16 : ∀ a, a < 4 → ∀ b, b < 4 → a ≠ b → (TJ16 a).2.1 ≠ (TJ16 b).2.1 := sorry
theorem tyJ16_ok : ∀ k, k < 4 → parseFieldDescriptor (TJ16 k).2.2.1 = some (tyJ16 k) := sorry
abbrev cJ16_checkBoundsBeginEnd : ByteArray := prog_34_method_158_code
def yJ16_checkBoundsBeginEnd : MethodName := ⟨RJ16, "checkBoundsBeginEnd", "(III)V"⟩
def dkwJ16_checkBoundsBeginEnd_0 : List UInt8 := [26, 27, 28, 178, 4, 29, 184, 4, 38, 87, 177]
abbrev dktJ16_checkBoundsBeginEnd_0 : List UInt8 := dkwJ16_checkBoundsBeginEnd_0 ++ []
theorem dksJ16_checkBoundsBeginEnd_0 : cJ16_checkBoundsBeginEnd.data.toList.drop 0 = dktJ16_checkBoundsBeginEnd_0 := sorry
theorem dJ16_checkBoundsBeginEnd_0 : decode cJ16_checkBoundsBeginEnd 0 = .ok (.iload_n 0, 1) := sorry
theorem dJ16_checkBoundsBeginEnd_1 : decode cJ16_checkBoundsBeginEnd 1 = .ok (.iload_n 1, 1) := sorry
theorem dJ16_checkBoundsBeginEnd_2 : decode cJ16_checkBoundsBeginEnd 2 = .ok (.iload_n 2, 1) := sorry
theorem dJ16_checkBoundsBeginEnd_3 : decode cJ16_checkBoundsBeginEnd 3 = .ok (.getstatic 1053, 3) := sorry
theorem dJ16_checkBoundsBeginEnd_6 : decode cJ16_checkBoundsBeginEnd 6 = .ok (.invokestatic 1062, 3) := sorry
theorem dJ16_checkBoundsBeginEnd_9 : decode cJ16_checkBoundsBeginEnd 9 = .ok (.pop, 1) := sorry
theorem dJ16_checkBoundsBeginEnd_10 : decode cJ16_checkBoundsBeginEnd 10 = .ok (.return_, 1) := sorry
abbrev cJ16_length : ByteArray := prog_34_method_54_code
def yJ16_length : MethodName := ⟨RJ16, "length", "()I"⟩
def dkwJ16_length_0 : List UInt8 := [42, 180, 0, 9, 190, 42, 182, 1, 79, 122, 172]
abbrev dktJ16_length_0 : List UInt8 := dkwJ16_length_0 ++ []
theorem dksJ16_length_0 : cJ16_length.data.toList.drop 0 = dktJ16_length_0 := sorry
theorem dJ16_length_0 : decode cJ16_length 0 = .ok (.aload_n 0, 1) := sorry
theorem dJ16_length_1 : decode cJ16_length 1 = .ok (.getfield 9, 3) := sorry
theorem dJ16_length_4 : decode cJ16_length 4 = .ok (.arraylength, 1) := sorry
theorem dJ16_length_5 : decode cJ16_length 5 = .ok (.aload_n 0, 1) := sorry
theorem dJ16_length_6 : decode cJ16_length 6 = .ok (.invokevirtual 335, 3) := sorry
theorem dJ16_length_9 : decode cJ16_length 9 = .ok (.ishr, 1) := sorry
theorem dJ16_length_10 : decode cJ16_length 10 = .ok (.ireturn, 1) := sorry
abbrev cJ16_coder : ByteArray := prog_34_method_152_code
def yJ16_coder : MethodName := ⟨RJ16, "coder", "()B"⟩
def dkwJ16_coder_0 : List UInt8 := [178, 0, 38, 153, 0, 10, 42, 180, 0, 15, 167, 0, 4, 4, 172]
abbrev dktJ16_coder_0 : List UInt8 := dkwJ16_coder_0 ++ []
theorem dksJ16_coder_0 : cJ16_coder.data.toList.drop 0 = dktJ16_coder_0 := sorry
theorem dJ16_coder_0 : decode cJ16_coder 0 = .ok (.getstatic 38, 3) := sorry
theorem dJ16_coder_3 : decode cJ16_coder 3 = .ok (.ifCond .eq 10, 3) := sorry
theorem dJ16_coder_6 : decode cJ16_coder 6 = .ok (.aload_n 0, 1) := sorry
theorem dJ16_coder_7 : decode cJ16_coder 7 = .ok (.getfield 15, 3) := sorry
theorem dJ16_coder_10 : decode cJ16_coder 10 = .ok (.goto 4, 3) := sorry
theorem dJ16_coder_13 : decode cJ16_coder 13 = .ok (.iconst 1, 1) := sorry
theorem dJ16_coder_14 : decode cJ16_coder 14 = .ok (.ireturn, 1) := sorry
abbrev cJ16_checkBoundsOffCount : ByteArray := prog_34_method_157_code
def yJ16_checkBoundsOffCount : MethodName := ⟨RJ16, "checkBoundsOffCount", "(III)I"⟩
def dkwJ16_checkBoundsOffCount_0 : List UInt8 := [26, 27, 28, 178, 4, 29, 184, 4, 41, 172]
abbrev dktJ16_checkBoundsOffCount_0 : List UInt8 := dkwJ16_checkBoundsOffCount_0 ++ []
theorem dksJ16_checkBoundsOffCount_0 : cJ16_checkBoundsOffCount.data.toList.drop 0 = dktJ16_checkBoundsOffCount_0 := sorry
theorem dJ16_checkBoundsOffCount_0 : decode cJ16_checkBoundsOffCount 0 = .ok (.iload_n 0, 1) := sorry
theorem dJ16_checkBoundsOffCount_1 : decode cJ16_checkBoundsOffCount 1 = .ok (.iload_n 1, 1) := sorry
theorem dJ16_checkBoundsOffCount_2 : decode cJ16_checkBoundsOffCount 2 = .ok (.iload_n 2, 1) := sorry
theorem dJ16_checkBoundsOffCount_3 : decode cJ16_checkBoundsOffCount 3 = .ok (.getstatic 1053, 3) := sorry
theorem dJ16_checkBoundsOffCount_6 : decode cJ16_checkBoundsOffCount 6 = .ok (.invokestatic 1065, 3) := sorry
theorem dJ16_checkBoundsOffCount_9 : decode cJ16_checkBoundsOffCount 9 = .ok (.ireturn, 1) := sorry
abbrev cJ16_getBytes : ByteArray := prog_34_method_147_code
def yJ16_getBytes : MethodName := ⟨RJ16, "getBytes", "([BIB)V"⟩
def dkwJ16_getBytes_1 : List UInt8 := [184, 0, 212, 167, 0, 18, 42, 180, 0, 9, 3, 43, 28, 42, 180, 0, 9, 190, 184, 0, 106, 177]
abbrev dktJ16_getBytes_1 : List UInt8 := dkwJ16_getBytes_1 ++ []
def dkwJ16_getBytes_0 : List UInt8 := [42, 182, 1, 79, 29, 160, 0, 23, 42, 180, 0, 9, 3, 43, 28, 29, 120, 42, 180, 0, 9, 190]
abbrev dktJ16_getBytes_0 : List UInt8 := dkwJ16_getBytes_0 ++ dktJ16_getBytes_1
theorem dksJ16_getBytes_0 : cJ16_getBytes.data.toList.drop 0 = dktJ16_getBytes_0 := sorry
theorem dksJ16_getBytes_1 : cJ16_getBytes.data.toList.drop 22 = dktJ16_getBytes_1 := sorry
theorem dJ16_getBytes_0 : decode cJ16_getBytes 0 = .ok (.aload_n 0, 1) := sorry
theorem dJ16_getBytes_1 : decode cJ16_getBytes 1 = .ok (.invokevirtual 335, 3) := sorry
theorem dJ16_getBytes_4 : decode cJ16_getBytes 4 = .ok (.iload_n 3, 1) := sorry
theorem dJ16_getBytes_5 : decode cJ16_getBytes 5 = .ok (.if_icmp .ne 23, 3) := sorry
theorem dJ16_getBytes_8 : decode cJ16_getBytes 8 = .ok (.aload_n 0, 1) := sorry
theorem dJ16_getBytes_9 : decode cJ16_getBytes 9 = .ok (.getfield 9, 3) := sorry
theorem dJ16_getBytes_12 : decode cJ16_getBytes 12 = .ok (.iconst 0, 1) := sorry
theorem dJ16_getBytes_13 : decode cJ16_getBytes 13 = .ok (.aload_n 1, 1) := sorry
theorem dJ16_getBytes_14 : decode cJ16_getBytes 14 = .ok (.iload_n 2, 1) := sorry
theorem dJ16_getBytes_15 : decode cJ16_getBytes 15 = .ok (.iload_n 3, 1) := sorry
theorem dJ16_getBytes_16 : decode cJ16_getBytes 16 = .ok (.ishl, 1) := sorry
theorem dJ16_getBytes_17 : decode cJ16_getBytes 17 = .ok (.aload_n 0, 1) := sorry
theorem dJ16_getBytes_18 : decode cJ16_getBytes 18 = .ok (.getfield 9, 3) := sorry
theorem dJ16_getBytes_21 : decode cJ16_getBytes 21 = .ok (.arraylength, 1) := sorry
theorem dJ16_getBytes_22 : decode cJ16_getBytes 22 = .ok (.invokestatic 212, 3) := sorry
theorem dJ16_getBytes_25 : decode cJ16_getBytes 25 = .ok (.goto 18, 3) := sorry
theorem dJ16_getBytes_28 : decode cJ16_getBytes 28 = .ok (.aload_n 0, 1) := sorry
theorem dJ16_getBytes_29 : decode cJ16_getBytes 29 = .ok (.getfield 9, 3) := sorry
theorem dJ16_getBytes_32 : decode cJ16_getBytes 32 = .ok (.iconst 0, 1) := sorry
theorem dJ16_getBytes_33 : decode cJ16_getBytes 33 = .ok (.aload_n 1, 1) := sorry
theorem dJ16_getBytes_34 : decode cJ16_getBytes 34 = .ok (.iload_n 2, 1) := sorry
theorem dJ16_getBytes_35 : decode cJ16_getBytes 35 = .ok (.aload_n 0, 1) := sorry
theorem dJ16_getBytes_36 : decode cJ16_getBytes 36 = .ok (.getfield 9, 3) := sorry
theorem dJ16_getBytes_39 : decode cJ16_getBytes 39 = .ok (.arraylength, 1) := sorry
theorem dJ16_getBytes_40 : decode cJ16_getBytes 40 = .ok (.invokestatic 106, 3) := sorry
theorem dJ16_getBytes_43 : decode cJ16_getBytes 43 = .ok (.return_, 1) := sorry
abbrev cJ16_init : ByteArray := prog_34_method_53_code
def yJ16_init : MethodName := ⟨RJ16, "<init>", "(Ljava/lang/StringBuilder;)V"⟩
def dkwJ16_init_0 : List UInt8 := [42, 43, 1, 183, 1, 233, 177]
abbrev dktJ16_init_0 : List UInt8 := dkwJ16_init_0 ++ []
theorem dksJ16_init_0 : cJ16_init.data.toList.drop 0 = dktJ16_init_0 := sorry
theorem dJ16_init_0 : decode cJ16_init 0 = .ok (.aload_n 0, 1) := sorry
theorem dJ16_init_1 : decode cJ16_init 1 = .ok (.aload_n 1, 1) := sorry
theorem dJ16_init_2 : decode cJ16_init 2 = .ok (.aconst_null, 1) := sorry
theorem dJ16_init_3 : decode cJ16_init 3 = .ok (.invokespecial 489, 3) := sorry
theorem dJ16_init_6 : decode cJ16_init 6 = .ok (.return_, 1) := sorry
abbrev cJ16_init_2 : ByteArray := prog_34_method_150_code
def yJ16_init_2 : MethodName := ⟨RJ16, "<init>", "(Ljava/lang/AbstractStringBuilder;Ljava/lang/Void;)V"⟩
def dkwJ16_init_2_4 : List UInt8 := [181, 0, 9, 177]
abbrev dktJ16_init_2_4 : List UInt8 := dkwJ16_init_2_4 ++ []
def dkwJ16_init_2_3 : List UInt8 := [184, 0, 47, 181, 0, 15, 177, 42, 4, 181, 0, 15, 42, 45, 3, 21, 4, 4, 120, 184, 0, 54]
abbrev dktJ16_init_2_3 : List UInt8 := dkwJ16_init_2_3 ++ dktJ16_init_2_4
def dkwJ16_init_2_2 : List UInt8 := [180, 4, 24, 153, 0, 28, 42, 45, 3, 21, 4, 184, 4, 27, 181, 0, 9, 42, 42, 180, 0, 9, 21, 4]
abbrev dktJ16_init_2_2 : List UInt8 := dkwJ16_init_2_2 ++ dktJ16_init_2_3
def dkwJ16_init_2_1 : List UInt8 := [181, 0, 15, 42, 45, 3, 21, 4, 184, 0, 54, 181, 0, 9, 167, 0, 59, 178, 0, 38, 153, 0, 35, 43]
abbrev dktJ16_init_2_1 : List UInt8 := dkwJ16_init_2_1 ++ dktJ16_init_2_2
def dkwJ16_init_2_0 : List UInt8 := [42, 183, 0, 1, 43, 182, 2, 40, 78, 43, 182, 2, 37, 54, 4, 43, 182, 4, 23, 153, 0, 22, 42, 3]
abbrev dktJ16_init_2_0 : List UInt8 := dkwJ16_init_2_0 ++ dktJ16_init_2_1
theorem dksJ16_init_2_0 : cJ16_init_2.data.toList.drop 0 = dktJ16_init_2_0 := sorry
theorem dksJ16_init_2_1 : cJ16_init_2.data.toList.drop 24 = dktJ16_init_2_1 := sorry
theorem dksJ16_init_2_2 : cJ16_init_2.data.toList.drop 48 = dktJ16_init_2_2 := sorry
theorem dksJ16_init_2_3 : cJ16_init_2.data.toList.drop 72 = dktJ16_init_2_3 := sorry
theorem dksJ16_init_2_4 : cJ16_init_2.data.toList.drop 94 = dktJ16_init_2_4 := sorry
theorem dJ16_init_2_0 : decode cJ16_init_2 0 = .ok (.aload_n 0, 1) := sorry
theorem dJ16_init_2_1 : decode cJ16_init_2 1 = .ok (.invokespecial 1, 3) := sorry
theorem dJ16_init_2_4 : decode cJ16_init_2 4 = .ok (.aload_n 1, 1) := sorry
theorem dJ16_init_2_5 : decode cJ16_init_2 5 = .ok (.invokevirtual 552, 3) := sorry
theorem dJ16_init_2_8 : decode cJ16_init_2 8 = .ok (.astore_n 3, 1) := sorry
theorem dJ16_init_2_9 : decode cJ16_init_2 9 = .ok (.aload_n 1, 1) := sorry
theorem dJ16_init_2_10 : decode cJ16_init_2 10 = .ok (.invokevirtual 549, 3) := sorry
theorem dJ16_init_2_13 : decode cJ16_init_2 13 = .ok (.istore 4, 2) := sorry
theorem dJ16_init_2_15 : decode cJ16_init_2 15 = .ok (.aload_n 1, 1) := sorry
theorem dJ16_init_2_16 : decode cJ16_init_2 16 = .ok (.invokevirtual 1047, 3) := sorry
theorem dJ16_init_2_19 : decode cJ16_init_2 19 = .ok (.ifCond .eq 22, 3) := sorry
theorem dJ16_init_2_22 : decode cJ16_init_2 22 = .ok (.aload_n 0, 1) := sorry
theorem dJ16_init_2_23 : decode cJ16_init_2 23 = .ok (.iconst 0, 1) := sorry
theorem dJ16_init_2_24 : decode cJ16_init_2 24 = .ok (.putfield 15, 3) := sorry
theorem dJ16_init_2_27 : decode cJ16_init_2 27 = .ok (.aload_n 0, 1) := sorry
theorem dJ16_init_2_28 : decode cJ16_init_2 28 = .ok (.aload_n 3, 1) := sorry
theorem dJ16_init_2_29 : decode cJ16_init_2 29 = .ok (.iconst 0, 1) := sorry
theorem dJ16_init_2_30 : decode cJ16_init_2 30 = .ok (.iload 4, 2) := sorry
theorem dJ16_init_2_32 : decode cJ16_init_2 32 = .ok (.invokestatic 54, 3) := sorry
theorem dJ16_init_2_35 : decode cJ16_init_2 35 = .ok (.putfield 9, 3) := sorry
theorem dJ16_init_2_38 : decode cJ16_init_2 38 = .ok (.goto 59, 3) := sorry
theorem dJ16_init_2_41 : decode cJ16_init_2 41 = .ok (.getstatic 38, 3) := sorry
theorem dJ16_init_2_44 : decode cJ16_init_2 44 = .ok (.ifCond .eq 35, 3) := sorry
theorem dJ16_init_2_47 : decode cJ16_init_2 47 = .ok (.aload_n 1, 1) := sorry
theorem dJ16_init_2_48 : decode cJ16_init_2 48 = .ok (.getfield 1048, 3) := sorry
theorem dJ16_init_2_51 : decode cJ16_init_2 51 = .ok (.ifCond .eq 28, 3) := sorry
theorem dJ16_init_2_54 : decode cJ16_init_2 54 = .ok (.aload_n 0, 1) := sorry
theorem dJ16_init_2_55 : decode cJ16_init_2 55 = .ok (.aload_n 3, 1) := sorry
theorem dJ16_init_2_56 : decode cJ16_init_2 56 = .ok (.iconst 0, 1) := sorry
theorem dJ16_init_2_57 : decode cJ16_init_2 57 = .ok (.iload 4, 2) := sorry
theorem dJ16_init_2_59 : decode cJ16_init_2 59 = .ok (.invokestatic 1051, 3) := sorry
theorem dJ16_init_2_62 : decode cJ16_init_2 62 = .ok (.putfield 9, 3) := sorry
theorem dJ16_init_2_65 : decode cJ16_init_2 65 = .ok (.aload_n 0, 1) := sorry
theorem dJ16_init_2_66 : decode cJ16_init_2 66 = .ok (.aload_n 0, 1) := sorry
theorem dJ16_init_2_67 : decode cJ16_init_2 67 = .ok (.getfield 9, 3) := sorry
theorem dJ16_init_2_70 : decode cJ16_init_2 70 = .ok (.iload 4, 2) := sorry
theorem dJ16_init_2_72 : decode cJ16_init_2 72 = .ok (.invokestatic 47, 3) := sorry
theorem dJ16_init_2_75 : decode cJ16_init_2 75 = .ok (.putfield 15, 3) := sorry
theorem dJ16_init_2_78 : decode cJ16_init_2 78 = .ok (.return_, 1) := sorry
theorem dJ16_init_2_79 : decode cJ16_init_2 79 = .ok (.aload_n 0, 1) := sorry
theorem dJ16_init_2_80 : decode cJ16_init_2 80 = .ok (.iconst 1, 1) := sorry
theorem dJ16_init_2_81 : decode cJ16_init_2 81 = .ok (.putfield 15, 3) := sorry
theorem dJ16_init_2_84 : decode cJ16_init_2 84 = .ok (.aload_n 0, 1) := sorry
theorem dJ16_init_2_85 : decode cJ16_init_2 85 = .ok (.aload_n 3, 1) := sorry
theorem dJ16_init_2_86 : decode cJ16_init_2 86 = .ok (.iconst 0, 1) := sorry
theorem dJ16_init_2_87 : decode cJ16_init_2 87 = .ok (.iload 4, 2) := sorry
theorem dJ16_init_2_89 : decode cJ16_init_2 89 = .ok (.iconst 1, 1) := sorry
theorem dJ16_init_2_90 : decode cJ16_init_2 90 = .ok (.ishl, 1) := sorry
theorem dJ16_init_2_91 : decode cJ16_init_2 91 = .ok (.invokestatic 54, 3) := sorry
theorem dJ16_init_2_94 : decode cJ16_init_2 94 = .ok (.putfield 9, 3) := sorry
theorem dJ16_init_2_97 : decode cJ16_init_2 97 = .ok (.return_, 1) := sorry
abbrev cJ16_charAt : ByteArray := prog_34_method_56_code
def yJ16_charAt : MethodName := ⟨RJ16, "charAt", "(I)C"⟩
def dkwJ16_charAt_1 : List UInt8 := [172]
abbrev dktJ16_charAt_1 : List UInt8 := dkwJ16_charAt_1 ++ []
def dkwJ16_charAt_0 : List UInt8 := [42, 182, 1, 236, 153, 0, 12, 42, 180, 0, 9, 27, 184, 1, 239, 172, 42, 180, 0, 9, 27, 184, 1, 242]
abbrev dktJ16_charAt_0 : List UInt8 := dkwJ16_charAt_0 ++ dktJ16_charAt_1
theorem dksJ16_charAt_0 : cJ16_charAt.data.toList.drop 0 = dktJ16_charAt_0 := sorry
theorem dksJ16_charAt_1 : cJ16_charAt.data.toList.drop 24 = dktJ16_charAt_1 := sorry
theorem dJ16_charAt_0 : decode cJ16_charAt 0 = .ok (.aload_n 0, 1) := sorry
theorem dJ16_charAt_1 : decode cJ16_charAt 1 = .ok (.invokevirtual 492, 3) := sorry
theorem dJ16_charAt_4 : decode cJ16_charAt 4 = .ok (.ifCond .eq 12, 3) := sorry
theorem dJ16_charAt_7 : decode cJ16_charAt 7 = .ok (.aload_n 0, 1) := sorry
theorem dJ16_charAt_8 : decode cJ16_charAt 8 = .ok (.getfield 9, 3) := sorry
theorem dJ16_charAt_11 : decode cJ16_charAt 11 = .ok (.iload_n 1, 1) := sorry
theorem dJ16_charAt_12 : decode cJ16_charAt 12 = .ok (.invokestatic 495, 3) := sorry
theorem dJ16_charAt_15 : decode cJ16_charAt 15 = .ok (.ireturn, 1) := sorry
theorem dJ16_charAt_16 : decode cJ16_charAt 16 = .ok (.aload_n 0, 1) := sorry
theorem dJ16_charAt_17 : decode cJ16_charAt 17 = .ok (.getfield 9, 3) := sorry
theorem dJ16_charAt_20 : decode cJ16_charAt 20 = .ok (.iload_n 1, 1) := sorry
theorem dJ16_charAt_21 : decode cJ16_charAt 21 = .ok (.invokestatic 498, 3) := sorry
theorem dJ16_charAt_24 : decode cJ16_charAt 24 = .ok (.ireturn, 1) := sorry
abbrev cJ16_isLatin1 : ByteArray := prog_34_method_154_code
def yJ16_isLatin1 : MethodName := ⟨RJ16, "isLatin1", "()Z"⟩
def dkwJ16_isLatin1_0 : List UInt8 := [178, 0, 38, 153, 0, 14, 42, 180, 0, 15, 154, 0, 7, 4, 167, 0, 4, 3, 172]
abbrev dktJ16_isLatin1_0 : List UInt8 := dkwJ16_isLatin1_0 ++ []
theorem dksJ16_isLatin1_0 : cJ16_isLatin1.data.toList.drop 0 = dktJ16_isLatin1_0 := sorry
theorem dJ16_isLatin1_0 : decode cJ16_isLatin1 0 = .ok (.getstatic 38, 3) := sorry
theorem dJ16_isLatin1_3 : decode cJ16_isLatin1 3 = .ok (.ifCond .eq 14, 3) := sorry
theorem dJ16_isLatin1_6 : decode cJ16_isLatin1 6 = .ok (.aload_n 0, 1) := sorry
theorem dJ16_isLatin1_7 : decode cJ16_isLatin1 7 = .ok (.getfield 15, 3) := sorry
theorem dJ16_isLatin1_10 : decode cJ16_isLatin1 10 = .ok (.ifCond .ne 7, 3) := sorry
theorem dJ16_isLatin1_13 : decode cJ16_isLatin1 13 = .ok (.iconst 1, 1) := sorry
theorem dJ16_isLatin1_14 : decode cJ16_isLatin1 14 = .ok (.goto 4, 3) := sorry
theorem dJ16_isLatin1_17 : decode cJ16_isLatin1 17 = .ok (.iconst 0, 1) := sorry
theorem dJ16_isLatin1_18 : decode cJ16_isLatin1 18 = .ok (.ireturn, 1) := sorry
abbrev cJ16_checkIndex : ByteArray := prog_34_method_155_code
def yJ16_checkIndex : MethodName := ⟨RJ16, "checkIndex", "(II)V"⟩
def dkwJ16_checkIndex_0 : List UInt8 := [26, 27, 178, 4, 29, 184, 4, 35, 87, 177]
abbrev dktJ16_checkIndex_0 : List UInt8 := dkwJ16_checkIndex_0 ++ []
theorem dksJ16_checkIndex_0 : cJ16_checkIndex.data.toList.drop 0 = dktJ16_checkIndex_0 := sorry
theorem dJ16_checkIndex_0 : decode cJ16_checkIndex 0 = .ok (.iload_n 0, 1) := sorry
theorem dJ16_checkIndex_1 : decode cJ16_checkIndex 1 = .ok (.iload_n 1, 1) := sorry
theorem dJ16_checkIndex_2 : decode cJ16_checkIndex 2 = .ok (.getstatic 1053, 3) := sorry
theorem dJ16_checkIndex_5 : decode cJ16_checkIndex 5 = .ok (.invokestatic 1059, 3) := sorry
theorem dJ16_checkIndex_8 : decode cJ16_checkIndex 8 = .ok (.pop, 1) := sorry
theorem dJ16_checkIndex_9 : decode cJ16_checkIndex 9 = .ok (.return_, 1) := sorry
abbrev cJ16_equals : ByteArray := prog_34_method_66_code
def yJ16_equals : MethodName := ⟨RJ16, "equals", "(Ljava/lang/Object;)Z"⟩
def dkwJ16_equals_2 : List UInt8 := [184, 2, 29, 153, 0, 7, 4, 167, 0, 4, 3, 172]
abbrev dktJ16_equals_2 : List UInt8 := dkwJ16_equals_2 ++ []
def dkwJ16_equals_1 : List UInt8 := [153, 0, 14, 42, 180, 0, 15, 44, 180, 0, 15, 160, 0, 21, 42, 180, 0, 9, 44, 180, 0, 9]
abbrev dktJ16_equals_1 : List UInt8 := dkwJ16_equals_1 ++ dktJ16_equals_2
def dkwJ16_equals_0 : List UInt8 := [42, 43, 166, 0, 5, 4, 172, 43, 193, 0, 10, 153, 0, 43, 43, 192, 0, 10, 77, 178, 0, 38]
abbrev dktJ16_equals_0 : List UInt8 := dkwJ16_equals_0 ++ dktJ16_equals_1
theorem dksJ16_equals_0 : cJ16_equals.data.toList.drop 0 = dktJ16_equals_0 := sorry
theorem dksJ16_equals_1 : cJ16_equals.data.toList.drop 22 = dktJ16_equals_1 := sorry
theorem dksJ16_equals_2 : cJ16_equals.data.toList.drop 44 = dktJ16_equals_2 := sorry
theorem dJ16_equals_0 : decode cJ16_equals 0 = .ok (.aload_n 0, 1) := sorry
theorem dJ16_equals_1 : decode cJ16_equals 1 = .ok (.aload_n 1, 1) := sorry
theorem dJ16_equals_2 : decode cJ16_equals 2 = .ok (.if_acmp .ne 5, 3) := sorry
theorem dJ16_equals_5 : decode cJ16_equals 5 = .ok (.iconst 1, 1) := sorry
theorem dJ16_equals_6 : decode cJ16_equals 6 = .ok (.ireturn, 1) := sorry
theorem dJ16_equals_7 : decode cJ16_equals 7 = .ok (.aload_n 1, 1) := sorry
theorem dJ16_equals_8 : decode cJ16_equals 8 = .ok (.instanceof 10, 3) := sorry
theorem dJ16_equals_11 : decode cJ16_equals 11 = .ok (.ifCond .eq 43, 3) := sorry
theorem dJ16_equals_14 : decode cJ16_equals 14 = .ok (.aload_n 1, 1) := sorry
theorem dJ16_equals_15 : decode cJ16_equals 15 = .ok (.checkcast 10, 3) := sorry
theorem dJ16_equals_18 : decode cJ16_equals 18 = .ok (.astore_n 2, 1) := sorry
theorem dJ16_equals_19 : decode cJ16_equals 19 = .ok (.getstatic 38, 3) := sorry
theorem dJ16_equals_22 : decode cJ16_equals 22 = .ok (.ifCond .eq 14, 3) := sorry
theorem dJ16_equals_25 : decode cJ16_equals 25 = .ok (.aload_n 0, 1) := sorry
theorem dJ16_equals_26 : decode cJ16_equals 26 = .ok (.getfield 15, 3) := sorry
theorem dJ16_equals_29 : decode cJ16_equals 29 = .ok (.aload_n 2, 1) := sorry
theorem dJ16_equals_30 : decode cJ16_equals 30 = .ok (.getfield 15, 3) := sorry
theorem dJ16_equals_33 : decode cJ16_equals 33 = .ok (.if_icmp .ne 21, 3) := sorry
theorem dJ16_equals_36 : decode cJ16_equals 36 = .ok (.aload_n 0, 1) := sorry
theorem dJ16_equals_37 : decode cJ16_equals 37 = .ok (.getfield 9, 3) := sorry
theorem dJ16_equals_40 : decode cJ16_equals 40 = .ok (.aload_n 2, 1) := sorry
theorem dJ16_equals_41 : decode cJ16_equals 41 = .ok (.getfield 9, 3) := sorry
theorem dJ16_equals_44 : decode cJ16_equals 44 = .ok (.invokestatic 541, 3) := sorry
theorem dJ16_equals_47 : decode cJ16_equals 47 = .ok (.ifCond .eq 7, 3) := sorry
theorem dJ16_equals_50 : decode cJ16_equals 50 = .ok (.iconst 1, 1) := sorry
theorem dJ16_equals_51 : decode cJ16_equals 51 = .ok (.goto 4, 3) := sorry
theorem dJ16_equals_54 : decode cJ16_equals 54 = .ok (.iconst 0, 1) := sorry
theorem dJ16_equals_55 : decode cJ16_equals 55 = .ok (.ireturn, 1) := sorry
abbrev cJ16_hashCode : ByteArray := prog_34_method_78_code
def yJ16_hashCode : MethodName := ⟨RJ16, "hashCode", "()I"⟩
def dkwJ16_hashCode_2 : List UInt8 := [181, 0, 23, 167, 0, 8, 42, 27, 181, 0, 19, 27, 172]
abbrev dktJ16_hashCode_2 : List UInt8 := dkwJ16_hashCode_2 ++ []
def dkwJ16_hashCode_1 : List UInt8 := [180, 0, 9, 184, 2, 116, 167, 0, 10, 42, 180, 0, 9, 184, 2, 120, 60, 27, 154, 0, 11, 42, 4]
abbrev dktJ16_hashCode_1 : List UInt8 := dkwJ16_hashCode_1 ++ dktJ16_hashCode_2
def dkwJ16_hashCode_0 : List UInt8 := [42, 180, 0, 19, 60, 27, 154, 0, 52, 42, 180, 0, 23, 154, 0, 45, 42, 182, 1, 236, 153, 0, 13, 42]
abbrev dktJ16_hashCode_0 : List UInt8 := dkwJ16_hashCode_0 ++ dktJ16_hashCode_1
theorem dksJ16_hashCode_0 : cJ16_hashCode.data.toList.drop 0 = dktJ16_hashCode_0 := sorry
theorem dksJ16_hashCode_1 : cJ16_hashCode.data.toList.drop 24 = dktJ16_hashCode_1 := sorry
theorem dksJ16_hashCode_2 : cJ16_hashCode.data.toList.drop 47 = dktJ16_hashCode_2 := sorry
theorem dJ16_hashCode_0 : decode cJ16_hashCode 0 = .ok (.aload_n 0, 1) := sorry
theorem dJ16_hashCode_1 : decode cJ16_hashCode 1 = .ok (.getfield 19, 3) := sorry
theorem dJ16_hashCode_4 : decode cJ16_hashCode 4 = .ok (.istore_n 1, 1) := sorry
theorem dJ16_hashCode_5 : decode cJ16_hashCode 5 = .ok (.iload_n 1, 1) := sorry
theorem dJ16_hashCode_6 : decode cJ16_hashCode 6 = .ok (.ifCond .ne 52, 3) := sorry
theorem dJ16_hashCode_9 : decode cJ16_hashCode 9 = .ok (.aload_n 0, 1) := sorry
theorem dJ16_hashCode_10 : decode cJ16_hashCode 10 = .ok (.getfield 23, 3) := sorry
theorem dJ16_hashCode_13 : decode cJ16_hashCode 13 = .ok (.ifCond .ne 45, 3) := sorry
theorem dJ16_hashCode_16 : decode cJ16_hashCode 16 = .ok (.aload_n 0, 1) := sorry
theorem dJ16_hashCode_17 : decode cJ16_hashCode 17 = .ok (.invokevirtual 492, 3) := sorry
theorem dJ16_hashCode_20 : decode cJ16_hashCode 20 = .ok (.ifCond .eq 13, 3) := sorry
theorem dJ16_hashCode_23 : decode cJ16_hashCode 23 = .ok (.aload_n 0, 1) := sorry
theorem dJ16_hashCode_24 : decode cJ16_hashCode 24 = .ok (.getfield 9, 3) := sorry
theorem dJ16_hashCode_27 : decode cJ16_hashCode 27 = .ok (.invokestatic 628, 3) := sorry
theorem dJ16_hashCode_30 : decode cJ16_hashCode 30 = .ok (.goto 10, 3) := sorry
theorem dJ16_hashCode_33 : decode cJ16_hashCode 33 = .ok (.aload_n 0, 1) := sorry
theorem dJ16_hashCode_34 : decode cJ16_hashCode 34 = .ok (.getfield 9, 3) := sorry
theorem dJ16_hashCode_37 : decode cJ16_hashCode 37 = .ok (.invokestatic 632, 3) := sorry
theorem dJ16_hashCode_40 : decode cJ16_hashCode 40 = .ok (.istore_n 1, 1) := sorry
theorem dJ16_hashCode_41 : decode cJ16_hashCode 41 = .ok (.iload_n 1, 1) := sorry
theorem dJ16_hashCode_42 : decode cJ16_hashCode 42 = .ok (.ifCond .ne 11, 3) := sorry
theorem dJ16_hashCode_45 : decode cJ16_hashCode 45 = .ok (.aload_n 0, 1) := sorry
theorem dJ16_hashCode_46 : decode cJ16_hashCode 46 = .ok (.iconst 1, 1) := sorry
theorem dJ16_hashCode_47 : decode cJ16_hashCode 47 = .ok (.putfield 23, 3) := sorry
theorem dJ16_hashCode_50 : decode cJ16_hashCode 50 = .ok (.goto 8, 3) := sorry
theorem dJ16_hashCode_53 : decode cJ16_hashCode 53 = .ok (.aload_n 0, 1) := sorry
theorem dJ16_hashCode_54 : decode cJ16_hashCode 54 = .ok (.iload_n 1, 1) := sorry
theorem dJ16_hashCode_55 : decode cJ16_hashCode 55 = .ok (.putfield 19, 3) := sorry
theorem dJ16_hashCode_58 : decode cJ16_hashCode 58 = .ok (.iload_n 1, 1) := sorry
theorem dJ16_hashCode_59 : decode cJ16_hashCode 59 = .ok (.ireturn, 1) := sorry
theorem q151 : (Jvm.Cond.initialized "java/lang/String") ∈ lw_all := sorry
theorem q572 : (Jvm.Cond.selects "java/lang/String" ({ cls := "java/lang/Object", name := "getClass", desc := "()Ljava/lang/Class;" } : Jvm.MethodName) ({ cls := "java/lang/Object", name := "getClass", desc := "()Ljava/lang/Class;" } : Jvm.MethodName)) ∈ lw_all := sorry
theorem q616 : (Jvm.Cond.laysStatic "java/lang/String" "COMPACT_STRINGS" "Z") ∈ lw_tbl := sorry
theorem q627 : (Jvm.Cond.fieldLink "java/lang/String" (1048 : Nat) "java/lang/AbstractStringBuilder" "maybeLatin1" "Z") ∈ lw_all := sorry
theorem q700 : (Jvm.Cond.static ({ cls := "java/lang/String", name := "checkBoundsBeginEnd", desc := "(III)V" } : Jvm.MethodName)) ∈ lw_all := sorry
theorem q701 : (Jvm.Cond.code ({ cls := "java/lang/String", name := "checkBoundsBeginEnd", desc := "(III)V" } : Jvm.MethodName) prog_34_method_158_code (3 : Nat) (Option.none : Option Jvm.ClassFile.FieldType)) ∈ lw_all := sorry
theorem q702 : (Jvm.Cond.fieldLink "java/lang/String" (1053 : Nat) "jdk/internal/util/Preconditions" "SIOOBE_FORMATTER" "Ljava/util/function/BiFunction;") ∈ lw_all := sorry
theorem q704 : (Jvm.Cond.methodLink "java/lang/String" (1062 : Nat) ({ cls := "jdk/internal/util/Preconditions", name := "checkFromToIndex", desc := "(IIILjava/util/function/BiFunction;)I" } : Jvm.MethodName)) ∈ lw_all := sorry
theorem q717 : (Jvm.Cond.instanceMethod ({ cls := "java/lang/String", name := "length", desc := "()I" } : Jvm.MethodName)) ∈ lw_all := sorry
theorem q718 : (Jvm.Cond.selects "java/lang/String" ({ cls := "java/lang/String", name := "length", desc := "()I" } : Jvm.MethodName) ({ cls := "java/lang/String", name := "length", desc := "()I" } : Jvm.MethodName)) ∈ lw_all := sorry
theorem q719 : (Jvm.Cond.code ({ cls := "java/lang/String", name := "length", desc := "()I" } : Jvm.MethodName) prog_34_method_54_code (1 : Nat) (Option.some Jvm.ClassFile.FieldType.int)) ∈ lw_all := sorry
theorem q720 : (Jvm.Cond.methodLink "java/lang/String" (335 : Nat) ({ cls := "java/lang/String", name := "coder", desc := "()B" } : Jvm.MethodName)) ∈ lw_all := sorry
theorem q721 : (Jvm.Cond.instanceMethod ({ cls := "java/lang/String", name := "coder", desc := "()B" } : Jvm.MethodName)) ∈ lw_all := sorry
theorem q722 : (Jvm.Cond.selects "java/lang/String" ({ cls := "java/lang/String", name := "coder", desc := "()B" } : Jvm.MethodName) ({ cls := "java/lang/String", name := "coder", desc := "()B" } : Jvm.MethodName)) ∈ lw_all := sorry
theorem q723 : (Jvm.Cond.code ({ cls := "java/lang/String", name := "coder", desc := "()B" } : Jvm.MethodName) prog_34_method_152_code (1 : Nat) (Option.some Jvm.ClassFile.FieldType.byte)) ∈ lw_all := sorry
theorem q724 : (Jvm.Cond.fieldLink "java/lang/String" (38 : Nat) "java/lang/String" "COMPACT_STRINGS" "Z") ∈ lw_all := sorry
theorem q748 : (Jvm.Cond.static ({ cls := "java/lang/String", name := "checkBoundsOffCount", desc := "(III)I" } : Jvm.MethodName)) ∈ lw_all := sorry
theorem q749 : (Jvm.Cond.code ({ cls := "java/lang/String", name := "checkBoundsOffCount", desc := "(III)I" } : Jvm.MethodName) prog_34_method_157_code (3 : Nat) (Option.some Jvm.ClassFile.FieldType.int)) ∈ lw_all := sorry
theorem q750 : (Jvm.Cond.methodLink "java/lang/String" (1065 : Nat) ({ cls := "jdk/internal/util/Preconditions", name := "checkFromIndexSize", desc := "(IIILjava/util/function/BiFunction;)I" } : Jvm.MethodName)) ∈ lw_all := sorry
theorem q754 : (Jvm.Cond.instanceMethod ({ cls := "java/lang/String", name := "getBytes", desc := "([BIB)V" } : Jvm.MethodName)) ∈ lw_all := lw_g (lw_at lw_m3 145 rfl) rfl
theorem q755 : (Jvm.Cond.selects "java/lang/String" ({ cls := "java/lang/String", name := "getBytes", desc := "([BIB)V" } : Jvm.MethodName) ({ cls := "java/lang/String", name := "getBytes", desc := "([BIB)V" } : Jvm.MethodName)) ∈ lw_all := lw_g (lw_at lw_m3 146 rfl) rfl
theorem q756 : (Jvm.Cond.code ({ cls := "java/lang/String", name := "getBytes", desc := "([BIB)V" } : Jvm.MethodName) prog_34_method_147_code (4 : Nat) (Option.none : Option Jvm.ClassFile.FieldType)) ∈ lw_all := lw_g (lw_at lw_m3 147 rfl) rfl
theorem q757 : (Jvm.Cond.methodLink "java/lang/String" (212 : Nat) ({ cls := "java/lang/System", name := "arraycopy", desc := "(Ljava/lang/Object;ILjava/lang/Object;II)V" } : Jvm.MethodName)) ∈ lw_all := sorry
theorem q758 : (Jvm.Cond.methodLink "java/lang/String" (106 : Nat) ({ cls := "java/lang/StringLatin1", name := "inflate", desc := "([BI[BII)V" } : Jvm.MethodName)) ∈ lw_all := lw_g (lw_at lw_m3 149 rfl) rfl
theorem q765 : (Jvm.Cond.instantiable "java/lang/String" (4 : Nat)) ∈ lw_all := sorry
theorem q767 : (Jvm.Cond.instanceMethod ({ cls := "java/lang/String", name := "<init>", desc := "(Ljava/lang/StringBuilder;)V" } : Jvm.MethodName)) ∈ lw_all := sorry
theorem q768 : (Jvm.Cond.code ({ cls := "java/lang/String", name := "<init>", desc := "(Ljava/lang/StringBuilder;)V" } : Jvm.MethodName) prog_34_method_53_code (2 : Nat) (Option.none : Option Jvm.ClassFile.FieldType)) ∈ lw_all := sorry
theorem q769 : (Jvm.Cond.methodLink "java/lang/String" (489 : Nat) ({ cls := "java/lang/String", name := "<init>", desc := "(Ljava/lang/AbstractStringBuilder;Ljava/lang/Void;)V" } : Jvm.MethodName)) ∈ lw_all := sorry
theorem q770 : (Jvm.Cond.instanceMethod ({ cls := "java/lang/String", name := "<init>", desc := "(Ljava/lang/AbstractStringBuilder;Ljava/lang/Void;)V" } : Jvm.MethodName)) ∈ lw_all := sorry
theorem q771 : (Jvm.Cond.code ({ cls := "java/lang/String", name := "<init>", desc := "(Ljava/lang/AbstractStringBuilder;Ljava/lang/Void;)V" } : Jvm.MethodName) prog_34_method_150_code (5 : Nat) (Option.none : Option Jvm.ClassFile.FieldType)) ∈ lw_all := sorry
theorem q772 : (Jvm.Cond.methodLink "java/lang/String" (1 : Nat) ({ cls := "java/lang/Object", name := "<init>", desc := "()V" } : Jvm.MethodName)) ∈ lw_all := sorry
theorem q773 : (Jvm.Cond.methodLink "java/lang/String" (552 : Nat) ({ cls := "java/lang/AbstractStringBuilder", name := "getValue", desc := "()[B" } : Jvm.MethodName)) ∈ lw_all := lw_g (lw_at lw_m3 164 rfl) rfl
theorem q778 : (Jvm.Cond.methodLink "java/lang/String" (549 : Nat) ({ cls := "java/lang/AbstractStringBuilder", name := "length", desc := "()I" } : Jvm.MethodName)) ∈ lw_all := sorry
theorem q786 : (Jvm.Cond.methodLink "java/lang/String" (1047 : Nat) ({ cls := "java/lang/AbstractStringBuilder", name := "isLatin1", desc := "()Z" } : Jvm.MethodName)) ∈ lw_all := sorry
theorem q787 : (Jvm.Cond.methodLink "java/lang/String" (54 : Nat) ({ cls := "java/util/Arrays", name := "copyOfRange", desc := "([BII)[B" } : Jvm.MethodName)) ∈ lw_all := lw_g (lw_at lw_m3 178 rfl) rfl
theorem q860 : (Jvm.Cond.methodLink "java/lang/String" (1051 : Nat) ({ cls := "java/lang/StringUTF16", name := "compress", desc := "([BII)[B" } : Jvm.MethodName)) ∈ lw_all := lw_g (lw_at lw_m4 11 rfl) rfl
theorem q870 : (Jvm.Cond.methodLink "java/lang/String" (47 : Nat) ({ cls := "java/lang/StringUTF16", name := "coderFromArrayLen", desc := "([BI)B" } : Jvm.MethodName)) ∈ lw_all := lw_g (lw_at lw_m4 21 rfl) rfl
theorem q873 : (Jvm.Cond.fieldLink "java/lang/String" (9 : Nat) "java/lang/String" "value" "[B") ∈ lw_all := lw_g (lw_at lw_m4 24 rfl) rfl
theorem q874 : (Jvm.Cond.fieldLink "java/lang/String" (15 : Nat) "java/lang/String" "coder" "B") ∈ lw_all := sorry
theorem q875 : (Jvm.Cond.fieldLink "java/lang/String" (19 : Nat) "java/lang/String" "hash" "I") ∈ lw_all := sorry
theorem q876 : (Jvm.Cond.fieldLink "java/lang/String" (23 : Nat) "java/lang/String" "hashIsZero" "Z") ∈ lw_all := sorry
theorem q877 : (Jvm.Cond.laysFinal "java/lang/String" "java/lang/String" "value" "[B") ∈ lw_all := lw_g (lw_at lw_m4 28 rfl) rfl
theorem q878 : (Jvm.Cond.soleField "java/lang/String" "value") ∈ lw_all := sorry
theorem q879 : (Jvm.Cond.laysFinal "java/lang/String" "java/lang/String" "coder" "B") ∈ lw_all := sorry
theorem q880 : (Jvm.Cond.soleField "java/lang/String" "coder") ∈ lw_all := sorry
theorem q881 : (Jvm.Cond.lays "java/lang/String" "java/lang/String" "hash" "I") ∈ lw_all := sorry
theorem q882 : (Jvm.Cond.soleField "java/lang/String" "hash") ∈ lw_all := sorry
theorem q883 : (Jvm.Cond.lays "java/lang/String" "java/lang/String" "hashIsZero" "Z") ∈ lw_all := sorry
theorem q884 : (Jvm.Cond.soleField "java/lang/String" "hashIsZero") ∈ lw_all := sorry
theorem q885 : (Jvm.Cond.superclass "java/lang/String" "java/lang/Object") ∈ lw_all := sorry
theorem q1504 : (Jvm.Cond.instanceMethod ({ cls := "java/lang/String", name := "charAt", desc := "(I)C" } : Jvm.MethodName)) ∈ lw_all := sorry
theorem q1505 : (Jvm.Cond.selects "java/lang/String" ({ cls := "java/lang/String", name := "charAt", desc := "(I)C" } : Jvm.MethodName) ({ cls := "java/lang/String", name := "charAt", desc := "(I)C" } : Jvm.MethodName)) ∈ lw_all := sorry
theorem q1506 : (Jvm.Cond.code ({ cls := "java/lang/String", name := "charAt", desc := "(I)C" } : Jvm.MethodName) prog_34_method_56_code (2 : Nat) (Option.some Jvm.ClassFile.FieldType.char)) ∈ lw_all := sorry
theorem q1507 : (Jvm.Cond.methodLink "java/lang/String" (492 : Nat) ({ cls := "java/lang/String", name := "isLatin1", desc := "()Z" } : Jvm.MethodName)) ∈ lw_all := sorry
theorem q1508 : (Jvm.Cond.instanceMethod ({ cls := "java/lang/String", name := "isLatin1", desc := "()Z" } : Jvm.MethodName)) ∈ lw_all := sorry
theorem q1509 : (Jvm.Cond.selects "java/lang/String" ({ cls := "java/lang/String", name := "isLatin1", desc := "()Z" } : Jvm.MethodName) ({ cls := "java/lang/String", name := "isLatin1", desc := "()Z" } : Jvm.MethodName)) ∈ lw_all := sorry
theorem q1510 : (Jvm.Cond.code ({ cls := "java/lang/String", name := "isLatin1", desc := "()Z" } : Jvm.MethodName) prog_34_method_154_code (1 : Nat) (Option.some Jvm.ClassFile.FieldType.boolean)) ∈ lw_all := sorry
theorem q1511 : (Jvm.Cond.methodLink "java/lang/String" (495 : Nat) ({ cls := "java/lang/StringLatin1", name := "charAt", desc := "([BI)C" } : Jvm.MethodName)) ∈ lw_all := lw_g (lw_at lw_m6 182 rfl) rfl
theorem q1515 : (Jvm.Cond.static ({ cls := "java/lang/String", name := "checkIndex", desc := "(II)V" } : Jvm.MethodName)) ∈ lw_all := sorry
theorem q1516 : (Jvm.Cond.code ({ cls := "java/lang/String", name := "checkIndex", desc := "(II)V" } : Jvm.MethodName) prog_34_method_155_code (2 : Nat) (Option.none : Option Jvm.ClassFile.FieldType)) ∈ lw_all := sorry
theorem q1517 : (Jvm.Cond.methodLink "java/lang/String" (1059 : Nat) ({ cls := "jdk/internal/util/Preconditions", name := "checkIndex", desc := "(IILjava/util/function/BiFunction;)I" } : Jvm.MethodName)) ∈ lw_all := sorry
theorem q1518 : (Jvm.Cond.methodLink "java/lang/String" (498 : Nat) ({ cls := "java/lang/StringUTF16", name := "charAt", desc := "([BI)C" } : Jvm.MethodName)) ∈ lw_all := lw_g (lw_at lw_m6 189 rfl) rfl
theorem q1675 : (Jvm.Cond.instanceMethod ({ cls := "java/lang/String", name := "equals", desc := "(Ljava/lang/Object;)Z" } : Jvm.MethodName)) ∈ lw_all := sorry
theorem q1676 : (Jvm.Cond.selects "java/lang/String" ({ cls := "java/lang/String", name := "equals", desc := "(Ljava/lang/Object;)Z" } : Jvm.MethodName) ({ cls := "java/lang/String", name := "equals", desc := "(Ljava/lang/Object;)Z" } : Jvm.MethodName)) ∈ lw_all := sorry
theorem q1677 : (Jvm.Cond.code ({ cls := "java/lang/String", name := "equals", desc := "(Ljava/lang/Object;)Z" } : Jvm.MethodName) prog_34_method_66_code (3 : Nat) (Option.some Jvm.ClassFile.FieldType.boolean)) ∈ lw_all := sorry
theorem q1678 : (Jvm.Cond.classLink "java/lang/String" (10 : Nat) "java/lang/String") ∈ lw_all := sorry
theorem q1679 : (Jvm.Cond.methodLink "java/lang/String" (541 : Nat) ({ cls := "java/lang/StringLatin1", name := "equals", desc := "([B[B)Z" } : Jvm.MethodName)) ∈ lw_all := lw_g (lw_at lw_m7 110 rfl) rfl
theorem q1747 : (Jvm.Cond.instanceMethod ({ cls := "java/lang/String", name := "hashCode", desc := "()I" } : Jvm.MethodName)) ∈ lw_all := sorry
theorem q1748 : (Jvm.Cond.selects "java/lang/String" ({ cls := "java/lang/String", name := "hashCode", desc := "()I" } : Jvm.MethodName) ({ cls := "java/lang/String", name := "hashCode", desc := "()I" } : Jvm.MethodName)) ∈ lw_all := sorry
theorem q1749 : (Jvm.Cond.code ({ cls := "java/lang/String", name := "hashCode", desc := "()I" } : Jvm.MethodName) prog_34_method_78_code (2 : Nat) (Option.some Jvm.ClassFile.FieldType.int)) ∈ lw_all := sorry
theorem q1750 : (Jvm.Cond.methodLink "java/lang/String" (628 : Nat) ({ cls := "java/lang/StringLatin1", name := "hashCode", desc := "([B)I" } : Jvm.MethodName)) ∈ lw_all := lw_g (lw_at lw_m7 181 rfl) rfl
theorem q1799 : (Jvm.Cond.methodLink "java/lang/String" (632 : Nat) ({ cls := "java/lang/StringUTF16", name := "hashCode", desc := "([B)I" } : Jvm.MethodName)) ∈ lw_all := lw_g (lw_at lw_m7 230 rfl) rfl
theorem q2429 : (Jvm.Cond.selects "java/lang/String" ({ cls := "java/lang/Object", name := "equals", desc := "(Ljava/lang/Object;)Z" } : Jvm.MethodName) ({ cls := "java/lang/String", name := "equals", desc := "(Ljava/lang/Object;)Z" } : Jvm.MethodName)) ∈ lw_all := sorry
theorem q3230 : (Jvm.Cond.castable "java/lang/String" "java/lang/Object") ∈ lw_tbl := sorry
theorem in_J16 : ∀ w ∈ wsJ160, w ∈ lw_all := sorry
/-! java/lang/StringUTF16 -/
set_option maxRecDepth 100000
def RJ17 : String := "java/lang/StringUTF16"
abbrev cJ17_newBytesFor : ByteArray := prog_37_method_2_code
def yJ17_newBytesFor : MethodName := ⟨RJ17, "newBytesFor", "(I)[B"⟩
def dkwJ17_newBytesFor_0 : List UInt8 := [26, 184, 0, 11, 188, 8, 176]
abbrev dktJ17_newBytesFor_0 : List UInt8 := dkwJ17_newBytesFor_0 ++ []
theorem dksJ17_newBytesFor_0 : cJ17_newBytesFor.data.toList.drop 0 = dktJ17_newBytesFor_0 := sorry
theorem dJ17_newBytesFor_0 : decode cJ17_newBytesFor 0 = .ok (.iload_n 0, 1) := sorry
theorem dJ17_newBytesFor_1 : decode cJ17_newBytesFor 1 = .ok (.invokestatic 11, 3) := sorry
theorem dJ17_newBytesFor_4 : decode cJ17_newBytesFor 4 = .ok (.newarray .byte, 2) := sorry
theorem dJ17_newBytesFor_6 : decode cJ17_newBytesFor 6 = .ok (.areturn, 1) := sorry
abbrev cJ17_newBytesLength : ByteArray := prog_37_method_3_code
def yJ17_newBytesLength : MethodName := ⟨RJ17, "newBytesLength", "(I)I"⟩
def dkwJ17_newBytesLength_2 : List UInt8 := [182, 0, 32, 182, 0, 37, 183, 0, 41, 191, 26, 4, 120, 172]
abbrev dktJ17_newBytesLength_2 : List UInt8 := dkwJ17_newBytesLength_2 ++ []
def dkwJ17_newBytesLength_1 : List UInt8 := [187, 0, 23, 89, 183, 0, 25, 18, 26, 182, 0, 28, 26, 182, 0, 32, 18, 35, 182, 0, 28, 18, 20]
abbrev dktJ17_newBytesLength_1 : List UInt8 := dkwJ17_newBytesLength_1 ++ dktJ17_newBytesLength_2
def dkwJ17_newBytesLength_0 : List UInt8 := [26, 156, 0, 11, 187, 0, 17, 89, 183, 0, 19, 191, 26, 18, 20, 161, 0, 40, 187, 0, 21, 89]
abbrev dktJ17_newBytesLength_0 : List UInt8 := dkwJ17_newBytesLength_0 ++ dktJ17_newBytesLength_1
theorem dksJ17_newBytesLength_0 : cJ17_newBytesLength.data.toList.drop 0 = dktJ17_newBytesLength_0 := sorry
theorem dksJ17_newBytesLength_1 : cJ17_newBytesLength.data.toList.drop 22 = dktJ17_newBytesLength_1 := sorry
theorem dksJ17_newBytesLength_2 : cJ17_newBytesLength.data.toList.drop 45 = dktJ17_newBytesLength_2 := sorry
theorem dJ17_newBytesLength_0 : decode cJ17_newBytesLength 0 = .ok (.iload_n 0, 1) := sorry
theorem dJ17_newBytesLength_1 : decode cJ17_newBytesLength 1 = .ok (.ifCond .ge 11, 3) := sorry
theorem dJ17_newBytesLength_4 : decode cJ17_newBytesLength 4 = .ok (.new 17, 3) := sorry
theorem dJ17_newBytesLength_7 : decode cJ17_newBytesLength 7 = .ok (.dup, 1) := sorry
theorem dJ17_newBytesLength_8 : decode cJ17_newBytesLength 8 = .ok (.invokespecial 19, 3) := sorry
theorem dJ17_newBytesLength_11 : decode cJ17_newBytesLength 11 = .ok (.athrow, 1) := sorry
theorem dJ17_newBytesLength_12 : decode cJ17_newBytesLength 12 = .ok (.iload_n 0, 1) := sorry
theorem dJ17_newBytesLength_13 : decode cJ17_newBytesLength 13 = .ok (.ldc 20, 2) := sorry
theorem dJ17_newBytesLength_15 : decode cJ17_newBytesLength 15 = .ok (.if_icmp .lt 40, 3) := sorry
theorem dJ17_newBytesLength_18 : decode cJ17_newBytesLength 18 = .ok (.new 21, 3) := sorry
theorem dJ17_newBytesLength_21 : decode cJ17_newBytesLength 21 = .ok (.dup, 1) := sorry
theorem dJ17_newBytesLength_22 : decode cJ17_newBytesLength 22 = .ok (.new 23, 3) := sorry
theorem dJ17_newBytesLength_25 : decode cJ17_newBytesLength 25 = .ok (.dup, 1) := sorry
theorem dJ17_newBytesLength_26 : decode cJ17_newBytesLength 26 = .ok (.invokespecial 25, 3) := sorry
theorem dJ17_newBytesLength_29 : decode cJ17_newBytesLength 29 = .ok (.ldc 26, 2) := sorry
theorem dJ17_newBytesLength_31 : decode cJ17_newBytesLength 31 = .ok (.invokevirtual 28, 3) := sorry
theorem dJ17_newBytesLength_34 : decode cJ17_newBytesLength 34 = .ok (.iload_n 0, 1) := sorry
theorem dJ17_newBytesLength_35 : decode cJ17_newBytesLength 35 = .ok (.invokevirtual 32, 3) := sorry
theorem dJ17_newBytesLength_38 : decode cJ17_newBytesLength 38 = .ok (.ldc 35, 2) := sorry
theorem dJ17_newBytesLength_40 : decode cJ17_newBytesLength 40 = .ok (.invokevirtual 28, 3) := sorry
theorem dJ17_newBytesLength_43 : decode cJ17_newBytesLength 43 = .ok (.ldc 20, 2) := sorry
theorem dJ17_newBytesLength_45 : decode cJ17_newBytesLength 45 = .ok (.invokevirtual 32, 3) := sorry
theorem dJ17_newBytesLength_48 : decode cJ17_newBytesLength 48 = .ok (.invokevirtual 37, 3) := sorry
theorem dJ17_newBytesLength_51 : decode cJ17_newBytesLength 51 = .ok (.invokespecial 41, 3) := sorry
theorem dJ17_newBytesLength_54 : decode cJ17_newBytesLength 54 = .ok (.athrow, 1) := sorry
theorem dJ17_newBytesLength_55 : decode cJ17_newBytesLength 55 = .ok (.iload_n 0, 1) := sorry
theorem dJ17_newBytesLength_56 : decode cJ17_newBytesLength 56 = .ok (.iconst 1, 1) := sorry
theorem dJ17_newBytesLength_57 : decode cJ17_newBytesLength 57 = .ok (.ishl, 1) := sorry
theorem dJ17_newBytesLength_58 : decode cJ17_newBytesLength 58 = .ok (.ireturn, 1) := sorry
abbrev cJ17_putCharsAt : ByteArray := prog_37_method_81_code
def yJ17_putCharsAt : MethodName := ⟨RJ17, "putCharsAt", "([BICCCC)I"⟩
def dkwJ17_putCharsAt_3 : List UInt8 := [21, 6, 172]
abbrev dktJ17_putCharsAt_3 : List UInt8 := dkwJ17_putCharsAt_3 ++ []
def dkwJ17_putCharsAt_2 : List UInt8 := [184, 0, 111, 178, 0, 44, 154, 0, 17, 27, 21, 6, 159, 0, 11, 187, 0, 52, 89, 183, 0, 66, 191]
abbrev dktJ17_putCharsAt_2 : List UInt8 := dkwJ17_putCharsAt_2 ++ dktJ17_putCharsAt_3
def dkwJ17_putCharsAt_1 : List UInt8 := [132, 1, 1, 29, 184, 0, 111, 42, 27, 132, 1, 1, 21, 4, 184, 0, 111, 42, 27, 132, 1, 1, 21, 5]
abbrev dktJ17_putCharsAt_1 : List UInt8 := dkwJ17_putCharsAt_1 ++ dktJ17_putCharsAt_2
def dkwJ17_putCharsAt_0 : List UInt8 := [27, 7, 96, 54, 6, 27, 21, 6, 42, 184, 0, 96, 42, 27, 132, 1, 1, 28, 184, 0, 111, 42, 27]
abbrev dktJ17_putCharsAt_0 : List UInt8 := dkwJ17_putCharsAt_0 ++ dktJ17_putCharsAt_1
theorem dksJ17_putCharsAt_0 : cJ17_putCharsAt.data.toList.drop 0 = dktJ17_putCharsAt_0 := sorry
theorem dksJ17_putCharsAt_1 : cJ17_putCharsAt.data.toList.drop 23 = dktJ17_putCharsAt_1 := sorry
theorem dksJ17_putCharsAt_2 : cJ17_putCharsAt.data.toList.drop 47 = dktJ17_putCharsAt_2 := sorry
theorem dksJ17_putCharsAt_3 : cJ17_putCharsAt.data.toList.drop 70 = dktJ17_putCharsAt_3 := sorry
theorem dJ17_putCharsAt_0 : decode cJ17_putCharsAt 0 = .ok (.iload_n 1, 1) := sorry
theorem dJ17_putCharsAt_1 : decode cJ17_putCharsAt 1 = .ok (.iconst 4, 1) := sorry
theorem dJ17_putCharsAt_2 : decode cJ17_putCharsAt 2 = .ok (.iadd, 1) := sorry
theorem dJ17_putCharsAt_3 : decode cJ17_putCharsAt 3 = .ok (.istore 6, 2) := sorry
theorem dJ17_putCharsAt_5 : decode cJ17_putCharsAt 5 = .ok (.iload_n 1, 1) := sorry
theorem dJ17_putCharsAt_6 : decode cJ17_putCharsAt 6 = .ok (.iload 6, 2) := sorry
theorem dJ17_putCharsAt_8 : decode cJ17_putCharsAt 8 = .ok (.aload_n 0, 1) := sorry
theorem dJ17_putCharsAt_9 : decode cJ17_putCharsAt 9 = .ok (.invokestatic 96, 3) := sorry
theorem dJ17_putCharsAt_12 : decode cJ17_putCharsAt 12 = .ok (.aload_n 0, 1) := sorry
theorem dJ17_putCharsAt_13 : decode cJ17_putCharsAt 13 = .ok (.iload_n 1, 1) := sorry
theorem dJ17_putCharsAt_14 : decode cJ17_putCharsAt 14 = .ok (.iinc 1 1, 3) := sorry
theorem dJ17_putCharsAt_17 : decode cJ17_putCharsAt 17 = .ok (.iload_n 2, 1) := sorry
theorem dJ17_putCharsAt_18 : decode cJ17_putCharsAt 18 = .ok (.invokestatic 111, 3) := sorry
theorem dJ17_putCharsAt_21 : decode cJ17_putCharsAt 21 = .ok (.aload_n 0, 1) := sorry
theorem dJ17_putCharsAt_22 : decode cJ17_putCharsAt 22 = .ok (.iload_n 1, 1) := sorry
theorem dJ17_putCharsAt_23 : decode cJ17_putCharsAt 23 = .ok (.iinc 1 1, 3) := sorry
theorem dJ17_putCharsAt_26 : decode cJ17_putCharsAt 26 = .ok (.iload_n 3, 1) := sorry
theorem dJ17_putCharsAt_27 : decode cJ17_putCharsAt 27 = .ok (.invokestatic 111, 3) := sorry
theorem dJ17_putCharsAt_30 : decode cJ17_putCharsAt 30 = .ok (.aload_n 0, 1) := sorry
theorem dJ17_putCharsAt_31 : decode cJ17_putCharsAt 31 = .ok (.iload_n 1, 1) := sorry
theorem dJ17_putCharsAt_32 : decode cJ17_putCharsAt 32 = .ok (.iinc 1 1, 3) := sorry
theorem dJ17_putCharsAt_35 : decode cJ17_putCharsAt 35 = .ok (.iload 4, 2) := sorry
theorem dJ17_putCharsAt_37 : decode cJ17_putCharsAt 37 = .ok (.invokestatic 111, 3) := sorry
theorem dJ17_putCharsAt_40 : decode cJ17_putCharsAt 40 = .ok (.aload_n 0, 1) := sorry
theorem dJ17_putCharsAt_41 : decode cJ17_putCharsAt 41 = .ok (.iload_n 1, 1) := sorry
theorem dJ17_putCharsAt_42 : decode cJ17_putCharsAt 42 = .ok (.iinc 1 1, 3) := sorry
theorem dJ17_putCharsAt_45 : decode cJ17_putCharsAt 45 = .ok (.iload 5, 2) := sorry
theorem dJ17_putCharsAt_47 : decode cJ17_putCharsAt 47 = .ok (.invokestatic 111, 3) := sorry
theorem dJ17_putCharsAt_50 : decode cJ17_putCharsAt 50 = .ok (.getstatic 44, 3) := sorry
theorem dJ17_putCharsAt_53 : decode cJ17_putCharsAt 53 = .ok (.ifCond .ne 17, 3) := sorry
theorem dJ17_putCharsAt_56 : decode cJ17_putCharsAt 56 = .ok (.iload_n 1, 1) := sorry
theorem dJ17_putCharsAt_57 : decode cJ17_putCharsAt 57 = .ok (.iload 6, 2) := sorry
theorem dJ17_putCharsAt_59 : decode cJ17_putCharsAt 59 = .ok (.if_icmp .eq 11, 3) := sorry
theorem dJ17_putCharsAt_62 : decode cJ17_putCharsAt 62 = .ok (.new 52, 3) := sorry
theorem dJ17_putCharsAt_65 : decode cJ17_putCharsAt 65 = .ok (.dup, 1) := sorry
theorem dJ17_putCharsAt_66 : decode cJ17_putCharsAt 66 = .ok (.invokespecial 66, 3) := sorry
theorem dJ17_putCharsAt_69 : decode cJ17_putCharsAt 69 = .ok (.athrow, 1) := sorry
theorem dJ17_putCharsAt_70 : decode cJ17_putCharsAt 70 = .ok (.iload 6, 2) := sorry
theorem dJ17_putCharsAt_72 : decode cJ17_putCharsAt 72 = .ok (.ireturn, 1) := sorry
abbrev cJ17_checkBoundsBeginEnd : ByteArray := prog_37_method_93_code
def yJ17_checkBoundsBeginEnd : MethodName := ⟨RJ17, "checkBoundsBeginEnd", "(II[B)V"⟩
def dkwJ17_checkBoundsBeginEnd_0 : List UInt8 := [26, 27, 44, 184, 0, 48, 184, 0, 241, 177]
abbrev dktJ17_checkBoundsBeginEnd_0 : List UInt8 := dkwJ17_checkBoundsBeginEnd_0 ++ []
theorem dksJ17_checkBoundsBeginEnd_0 : cJ17_checkBoundsBeginEnd.data.toList.drop 0 = dktJ17_checkBoundsBeginEnd_0 := sorry
theorem dJ17_checkBoundsBeginEnd_0 : decode cJ17_checkBoundsBeginEnd 0 = .ok (.iload_n 0, 1) := sorry
theorem dJ17_checkBoundsBeginEnd_1 : decode cJ17_checkBoundsBeginEnd 1 = .ok (.iload_n 1, 1) := sorry
theorem dJ17_checkBoundsBeginEnd_2 : decode cJ17_checkBoundsBeginEnd 2 = .ok (.aload_n 2, 1) := sorry
theorem dJ17_checkBoundsBeginEnd_3 : decode cJ17_checkBoundsBeginEnd 3 = .ok (.invokestatic 48, 3) := sorry
theorem dJ17_checkBoundsBeginEnd_6 : decode cJ17_checkBoundsBeginEnd 6 = .ok (.invokestatic 241, 3) := sorry
theorem dJ17_checkBoundsBeginEnd_9 : decode cJ17_checkBoundsBeginEnd 9 = .ok (.return_, 1) := sorry
abbrev cJ17_length : ByteArray := prog_37_method_6_code
def yJ17_length : MethodName := ⟨RJ17, "length", "([B)I"⟩
def dkwJ17_length_0 : List UInt8 := [42, 190, 4, 122, 172]
abbrev dktJ17_length_0 : List UInt8 := dkwJ17_length_0 ++ []
theorem dksJ17_length_0 : cJ17_length.data.toList.drop 0 = dktJ17_length_0 := sorry
theorem dJ17_length_0 : decode cJ17_length 0 = .ok (.aload_n 0, 1) := sorry
theorem dJ17_length_1 : decode cJ17_length 1 = .ok (.arraylength, 1) := sorry
theorem dJ17_length_2 : decode cJ17_length 2 = .ok (.iconst 1, 1) := sorry
theorem dJ17_length_3 : decode cJ17_length 3 = .ok (.ishr, 1) := sorry
theorem dJ17_length_4 : decode cJ17_length 4 = .ok (.ireturn, 1) := sorry
abbrev cJ17_putChar : ByteArray := prog_37_method_4_code
def yJ17_putChar : MethodName := ⟨RJ17, "putChar", "([BII)V"⟩
def dkwJ17_putChar_2 : List UInt8 := [178, 0, 63, 122, 145, 84, 177]
abbrev dktJ17_putChar_2 : List UInt8 := dkwJ17_putChar_2 ++ []
def dkwJ17_putChar_1 : List UInt8 := [183, 0, 56, 191, 27, 4, 120, 60, 42, 27, 132, 1, 1, 28, 178, 0, 59, 122, 145, 84, 42, 27, 28]
abbrev dktJ17_putChar_1 : List UInt8 := dkwJ17_putChar_1 ++ dktJ17_putChar_2
def dkwJ17_putChar_0 : List UInt8 := [178, 0, 44, 154, 0, 25, 27, 155, 0, 11, 27, 42, 184, 0, 48, 161, 0, 13, 187, 0, 52, 89, 18, 54]
abbrev dktJ17_putChar_0 : List UInt8 := dkwJ17_putChar_0 ++ dktJ17_putChar_1
theorem dksJ17_putChar_0 : cJ17_putChar.data.toList.drop 0 = dktJ17_putChar_0 := sorry
theorem dksJ17_putChar_1 : cJ17_putChar.data.toList.drop 24 = dktJ17_putChar_1 := sorry
theorem dksJ17_putChar_2 : cJ17_putChar.data.toList.drop 47 = dktJ17_putChar_2 := sorry
theorem dJ17_putChar_0 : decode cJ17_putChar 0 = .ok (.getstatic 44, 3) := sorry
theorem dJ17_putChar_3 : decode cJ17_putChar 3 = .ok (.ifCond .ne 25, 3) := sorry
theorem dJ17_putChar_6 : decode cJ17_putChar 6 = .ok (.iload_n 1, 1) := sorry
theorem dJ17_putChar_7 : decode cJ17_putChar 7 = .ok (.ifCond .lt 11, 3) := sorry
theorem dJ17_putChar_10 : decode cJ17_putChar 10 = .ok (.iload_n 1, 1) := sorry
theorem dJ17_putChar_11 : decode cJ17_putChar 11 = .ok (.aload_n 0, 1) := sorry
theorem dJ17_putChar_12 : decode cJ17_putChar 12 = .ok (.invokestatic 48, 3) := sorry
theorem dJ17_putChar_15 : decode cJ17_putChar 15 = .ok (.if_icmp .lt 13, 3) := sorry
theorem dJ17_putChar_18 : decode cJ17_putChar 18 = .ok (.new 52, 3) := sorry
theorem dJ17_putChar_21 : decode cJ17_putChar 21 = .ok (.dup, 1) := sorry
theorem dJ17_putChar_22 : decode cJ17_putChar 22 = .ok (.ldc 54, 2) := sorry
theorem dJ17_putChar_24 : decode cJ17_putChar 24 = .ok (.invokespecial 56, 3) := sorry
theorem dJ17_putChar_27 : decode cJ17_putChar 27 = .ok (.athrow, 1) := sorry
theorem dJ17_putChar_28 : decode cJ17_putChar 28 = .ok (.iload_n 1, 1) := sorry
theorem dJ17_putChar_29 : decode cJ17_putChar 29 = .ok (.iconst 1, 1) := sorry
theorem dJ17_putChar_30 : decode cJ17_putChar 30 = .ok (.ishl, 1) := sorry
theorem dJ17_putChar_31 : decode cJ17_putChar 31 = .ok (.istore_n 1, 1) := sorry
theorem dJ17_putChar_32 : decode cJ17_putChar 32 = .ok (.aload_n 0, 1) := sorry
theorem dJ17_putChar_33 : decode cJ17_putChar 33 = .ok (.iload_n 1, 1) := sorry
theorem dJ17_putChar_34 : decode cJ17_putChar 34 = .ok (.iinc 1 1, 3) := sorry
theorem dJ17_putChar_37 : decode cJ17_putChar 37 = .ok (.iload_n 2, 1) := sorry
theorem dJ17_putChar_38 : decode cJ17_putChar 38 = .ok (.getstatic 59, 3) := sorry
theorem dJ17_putChar_41 : decode cJ17_putChar 41 = .ok (.ishr, 1) := sorry
theorem dJ17_putChar_42 : decode cJ17_putChar 42 = .ok (.i2b, 1) := sorry
theorem dJ17_putChar_43 : decode cJ17_putChar 43 = .ok (.bastore, 1) := sorry
theorem dJ17_putChar_44 : decode cJ17_putChar 44 = .ok (.aload_n 0, 1) := sorry
theorem dJ17_putChar_45 : decode cJ17_putChar 45 = .ok (.iload_n 1, 1) := sorry
theorem dJ17_putChar_46 : decode cJ17_putChar 46 = .ok (.iload_n 2, 1) := sorry
theorem dJ17_putChar_47 : decode cJ17_putChar 47 = .ok (.getstatic 63, 3) := sorry
theorem dJ17_putChar_50 : decode cJ17_putChar 50 = .ok (.ishr, 1) := sorry
theorem dJ17_putChar_51 : decode cJ17_putChar 51 = .ok (.i2b, 1) := sorry
theorem dJ17_putChar_52 : decode cJ17_putChar 52 = .ok (.bastore, 1) := sorry
theorem dJ17_putChar_53 : decode cJ17_putChar 53 = .ok (.return_, 1) := sorry
abbrev cJ17_inflate : ByteArray := prog_37_method_86_code
def yJ17_inflate : MethodName := ⟨RJ17, "inflate", "([BI[BII)V"⟩
def dkwJ17_inflate_1 : List UInt8 := [132, 1, 1, 51, 17, 0, 255, 126, 184, 0, 111, 132, 5, 1, 167, 255, 228, 177]
abbrev dktJ17_inflate_1 : List UInt8 := dkwJ17_inflate_1 ++ []
def dkwJ17_inflate_0 : List UInt8 := [29, 21, 4, 44, 184, 0, 173, 3, 54, 5, 21, 5, 21, 4, 162, 0, 27, 44, 29, 132, 3, 1, 42, 27]
abbrev dktJ17_inflate_0 : List UInt8 := dkwJ17_inflate_0 ++ dktJ17_inflate_1
theorem dksJ17_inflate_0 : cJ17_inflate.data.toList.drop 0 = dktJ17_inflate_0 := sorry
theorem dksJ17_inflate_1 : cJ17_inflate.data.toList.drop 24 = dktJ17_inflate_1 := sorry
theorem dJ17_inflate_0 : decode cJ17_inflate 0 = .ok (.iload_n 3, 1) := sorry
theorem dJ17_inflate_1 : decode cJ17_inflate 1 = .ok (.iload 4, 2) := sorry
theorem dJ17_inflate_3 : decode cJ17_inflate 3 = .ok (.aload_n 2, 1) := sorry
theorem dJ17_inflate_4 : decode cJ17_inflate 4 = .ok (.invokestatic 173, 3) := sorry
theorem dJ17_inflate_7 : decode cJ17_inflate 7 = .ok (.iconst 0, 1) := sorry
theorem dJ17_inflate_8 : decode cJ17_inflate 8 = .ok (.istore 5, 2) := sorry
theorem dJ17_inflate_10 : decode cJ17_inflate 10 = .ok (.iload 5, 2) := sorry
theorem dJ17_inflate_12 : decode cJ17_inflate 12 = .ok (.iload 4, 2) := sorry
theorem dJ17_inflate_14 : decode cJ17_inflate 14 = .ok (.if_icmp .ge 27, 3) := sorry
theorem dJ17_inflate_17 : decode cJ17_inflate 17 = .ok (.aload_n 2, 1) := sorry
theorem dJ17_inflate_18 : decode cJ17_inflate 18 = .ok (.iload_n 3, 1) := sorry
theorem dJ17_inflate_19 : decode cJ17_inflate 19 = .ok (.iinc 3 1, 3) := sorry
theorem dJ17_inflate_22 : decode cJ17_inflate 22 = .ok (.aload_n 0, 1) := sorry
theorem dJ17_inflate_23 : decode cJ17_inflate 23 = .ok (.iload_n 1, 1) := sorry
theorem dJ17_inflate_24 : decode cJ17_inflate 24 = .ok (.iinc 1 1, 3) := sorry
theorem dJ17_inflate_27 : decode cJ17_inflate 27 = .ok (.baload, 1) := sorry
theorem dJ17_inflate_28 : decode cJ17_inflate 28 = .ok (.sipush 255, 3) := sorry
theorem dJ17_inflate_31 : decode cJ17_inflate 31 = .ok (.iand, 1) := sorry
theorem dJ17_inflate_32 : decode cJ17_inflate 32 = .ok (.invokestatic 111, 3) := sorry
theorem dJ17_inflate_35 : decode cJ17_inflate 35 = .ok (.iinc 5 1, 3) := sorry
theorem dJ17_inflate_38 : decode cJ17_inflate 38 = .ok (.goto (-28), 3) := sorry
theorem dJ17_inflate_41 : decode cJ17_inflate 41 = .ok (.return_, 1) := sorry
abbrev cJ17_checkBoundsOffCount : ByteArray := prog_37_method_94_code
def yJ17_checkBoundsOffCount : MethodName := ⟨RJ17, "checkBoundsOffCount", "(II[B)V"⟩
def dkwJ17_checkBoundsOffCount_0 : List UInt8 := [26, 27, 44, 184, 0, 48, 184, 1, 163, 87, 177]
abbrev dktJ17_checkBoundsOffCount_0 : List UInt8 := dkwJ17_checkBoundsOffCount_0 ++ []
theorem dksJ17_checkBoundsOffCount_0 : cJ17_checkBoundsOffCount.data.toList.drop 0 = dktJ17_checkBoundsOffCount_0 := sorry
theorem dJ17_checkBoundsOffCount_0 : decode cJ17_checkBoundsOffCount 0 = .ok (.iload_n 0, 1) := sorry
theorem dJ17_checkBoundsOffCount_1 : decode cJ17_checkBoundsOffCount 1 = .ok (.iload_n 1, 1) := sorry
theorem dJ17_checkBoundsOffCount_2 : decode cJ17_checkBoundsOffCount 2 = .ok (.aload_n 2, 1) := sorry
theorem dJ17_checkBoundsOffCount_3 : decode cJ17_checkBoundsOffCount 3 = .ok (.invokestatic 48, 3) := sorry
theorem dJ17_checkBoundsOffCount_6 : decode cJ17_checkBoundsOffCount 6 = .ok (.invokestatic 419, 3) := sorry
theorem dJ17_checkBoundsOffCount_9 : decode cJ17_checkBoundsOffCount 9 = .ok (.pop, 1) := sorry
theorem dJ17_checkBoundsOffCount_10 : decode cJ17_checkBoundsOffCount 10 = .ok (.return_, 1) := sorry
abbrev cJ17_getChars : ByteArray := prog_37_method_77_code
def yJ17_getChars : MethodName := ⟨RJ17, "getChars", "(III[B)I"⟩
def dkwJ17_getChars_1 : List UInt8 := [159, 0, 11, 187, 0, 52, 89, 183, 0, 66, 191, 21, 4, 172]
abbrev dktJ17_getChars_1 : List UInt8 := dkwJ17_getChars_1 ++ []
def dkwJ17_getChars_0 : List UInt8 := [27, 28, 45, 184, 0, 96, 26, 28, 45, 184, 1, 137, 54, 4, 178, 0, 44, 154, 0, 17, 27, 21, 4]
abbrev dktJ17_getChars_0 : List UInt8 := dkwJ17_getChars_0 ++ dktJ17_getChars_1
theorem dksJ17_getChars_0 : cJ17_getChars.data.toList.drop 0 = dktJ17_getChars_0 := sorry
theorem dksJ17_getChars_1 : cJ17_getChars.data.toList.drop 23 = dktJ17_getChars_1 := sorry
theorem dJ17_getChars_0 : decode cJ17_getChars 0 = .ok (.iload_n 1, 1) := sorry
theorem dJ17_getChars_1 : decode cJ17_getChars 1 = .ok (.iload_n 2, 1) := sorry
theorem dJ17_getChars_2 : decode cJ17_getChars 2 = .ok (.aload_n 3, 1) := sorry
theorem dJ17_getChars_3 : decode cJ17_getChars 3 = .ok (.invokestatic 96, 3) := sorry
theorem dJ17_getChars_6 : decode cJ17_getChars 6 = .ok (.iload_n 0, 1) := sorry
theorem dJ17_getChars_7 : decode cJ17_getChars 7 = .ok (.iload_n 2, 1) := sorry
theorem dJ17_getChars_8 : decode cJ17_getChars 8 = .ok (.aload_n 3, 1) := sorry
theorem dJ17_getChars_9 : decode cJ17_getChars 9 = .ok (.invokestatic 393, 3) := sorry
theorem dJ17_getChars_12 : decode cJ17_getChars 12 = .ok (.istore 4, 2) := sorry
theorem dJ17_getChars_14 : decode cJ17_getChars 14 = .ok (.getstatic 44, 3) := sorry
theorem dJ17_getChars_17 : decode cJ17_getChars 17 = .ok (.ifCond .ne 17, 3) := sorry
theorem dJ17_getChars_20 : decode cJ17_getChars 20 = .ok (.iload_n 1, 1) := sorry
theorem dJ17_getChars_21 : decode cJ17_getChars 21 = .ok (.iload 4, 2) := sorry
theorem dJ17_getChars_23 : decode cJ17_getChars 23 = .ok (.if_icmp .eq 11, 3) := sorry
theorem dJ17_getChars_26 : decode cJ17_getChars 26 = .ok (.new 52, 3) := sorry
theorem dJ17_getChars_29 : decode cJ17_getChars 29 = .ok (.dup, 1) := sorry
theorem dJ17_getChars_30 : decode cJ17_getChars 30 = .ok (.invokespecial 66, 3) := sorry
theorem dJ17_getChars_33 : decode cJ17_getChars 33 = .ok (.athrow, 1) := sorry
theorem dJ17_getChars_34 : decode cJ17_getChars 34 = .ok (.iload 4, 2) := sorry
theorem dJ17_getChars_36 : decode cJ17_getChars 36 = .ok (.ireturn, 1) := sorry
abbrev cJ17_getChars_2 : ByteArray := prog_37_method_89_code
def yJ17_getChars_2 : MethodName := ⟨RJ17, "getChars", "(II[B)I"⟩
def dkwJ17_getChars_2_5 : List UInt8 := [132, 5, 255, 21, 5, 16, 45, 184, 0, 111, 21, 5, 172]
abbrev dktJ17_getChars_2_5 : List UInt8 := dkwJ17_getChars_2_5 ++ []
def dkwJ17_getChars_2_4 : List UInt8 := [162, 0, 18, 44, 132, 5, 255, 21, 5, 178, 1, 151, 26, 116, 51, 184, 0, 111, 21, 6, 153, 0, 14, 44]
abbrev dktJ17_getChars_2_4 : List UInt8 := dkwJ17_getChars_2_4 ++ dktJ17_getChars_2_5
def dkwJ17_getChars_2_3 : List UInt8 := [184, 0, 111, 167, 255, 205, 44, 132, 5, 255, 21, 5, 178, 1, 147, 26, 116, 51, 184, 0, 111, 26, 16, 247]
abbrev dktJ17_getChars_2_3 : List UInt8 := dkwJ17_getChars_2_3 ++ dktJ17_getChars_2_4
def dkwJ17_getChars_2_2 : List UInt8 := [21, 5, 178, 1, 147, 21, 4, 51, 184, 0, 111, 44, 132, 5, 255, 21, 5, 178, 1, 151, 21, 4, 51]
abbrev dktJ17_getChars_2_2 : List UInt8 := dkwJ17_getChars_2_2 ++ dktJ17_getChars_2_3
def dkwJ17_getChars_2_1 : List UInt8 := [16, 156, 163, 0, 51, 26, 16, 100, 108, 62, 29, 16, 100, 104, 26, 100, 54, 4, 29, 59, 44, 132, 5, 255]
abbrev dktJ17_getChars_2_1 : List UInt8 := dkwJ17_getChars_2_1 ++ dktJ17_getChars_2_2
def dkwJ17_getChars_2_0 : List UInt8 := [27, 54, 5, 26, 156, 0, 7, 4, 167, 0, 4, 3, 54, 6, 21, 6, 154, 0, 6, 26, 116, 59, 26]
abbrev dktJ17_getChars_2_0 : List UInt8 := dkwJ17_getChars_2_0 ++ dktJ17_getChars_2_1
theorem dksJ17_getChars_2_0 : cJ17_getChars_2.data.toList.drop 0 = dktJ17_getChars_2_0 := sorry
theorem dksJ17_getChars_2_1 : cJ17_getChars_2.data.toList.drop 23 = dktJ17_getChars_2_1 := sorry
theorem dksJ17_getChars_2_2 : cJ17_getChars_2.data.toList.drop 47 = dktJ17_getChars_2_2 := sorry
theorem dksJ17_getChars_2_3 : cJ17_getChars_2.data.toList.drop 70 = dktJ17_getChars_2_3 := sorry
theorem dksJ17_getChars_2_4 : cJ17_getChars_2.data.toList.drop 94 = dktJ17_getChars_2_4 := sorry
theorem dksJ17_getChars_2_5 : cJ17_getChars_2.data.toList.drop 118 = dktJ17_getChars_2_5 := sorry
theorem dJ17_getChars_2_0 : decode cJ17_getChars_2 0 = .ok (.iload_n 1, 1) := sorry
theorem dJ17_getChars_2_1 : decode cJ17_getChars_2 1 = .ok (.istore 5, 2) := sorry
theorem dJ17_getChars_2_3 : decode cJ17_getChars_2 3 = .ok (.iload_n 0, 1) := sorry
theorem dJ17_getChars_2_4 : decode cJ17_getChars_2 4 = .ok (.ifCond .ge 7, 3) := sorry
theorem dJ17_getChars_2_7 : decode cJ17_getChars_2 7 = .ok (.iconst 1, 1) := sorry
theorem dJ17_getChars_2_8 : decode cJ17_getChars_2 8 = .ok (.goto 4, 3) := sorry
theorem dJ17_getChars_2_11 : decode cJ17_getChars_2 11 = .ok (.iconst 0, 1) := sorry
theorem dJ17_getChars_2_12 : decode cJ17_getChars_2 12 = .ok (.istore 6, 2) := sorry
theorem dJ17_getChars_2_14 : decode cJ17_getChars_2 14 = .ok (.iload 6, 2) := sorry
theorem dJ17_getChars_2_16 : decode cJ17_getChars_2 16 = .ok (.ifCond .ne 6, 3) := sorry
theorem dJ17_getChars_2_19 : decode cJ17_getChars_2 19 = .ok (.iload_n 0, 1) := sorry
theorem dJ17_getChars_2_20 : decode cJ17_getChars_2 20 = .ok (.ineg, 1) := sorry
theorem dJ17_getChars_2_21 : decode cJ17_getChars_2 21 = .ok (.istore_n 0, 1) := sorry
theorem dJ17_getChars_2_22 : decode cJ17_getChars_2 22 = .ok (.iload_n 0, 1) := sorry
theorem dJ17_getChars_2_23 : decode cJ17_getChars_2 23 = .ok (.bipush (-100), 2) := sorry
theorem dJ17_getChars_2_25 : decode cJ17_getChars_2 25 = .ok (.if_icmp .gt 51, 3) := sorry
theorem dJ17_getChars_2_28 : decode cJ17_getChars_2 28 = .ok (.iload_n 0, 1) := sorry
theorem dJ17_getChars_2_29 : decode cJ17_getChars_2 29 = .ok (.bipush 100, 2) := sorry
theorem dJ17_getChars_2_31 : decode cJ17_getChars_2 31 = .ok (.idiv, 1) := sorry
theorem dJ17_getChars_2_32 : decode cJ17_getChars_2 32 = .ok (.istore_n 3, 1) := sorry
theorem dJ17_getChars_2_33 : decode cJ17_getChars_2 33 = .ok (.iload_n 3, 1) := sorry
theorem dJ17_getChars_2_34 : decode cJ17_getChars_2 34 = .ok (.bipush 100, 2) := sorry
theorem dJ17_getChars_2_36 : decode cJ17_getChars_2 36 = .ok (.imul, 1) := sorry
theorem dJ17_getChars_2_37 : decode cJ17_getChars_2 37 = .ok (.iload_n 0, 1) := sorry
theorem dJ17_getChars_2_38 : decode cJ17_getChars_2 38 = .ok (.isub, 1) := sorry
theorem dJ17_getChars_2_39 : decode cJ17_getChars_2 39 = .ok (.istore 4, 2) := sorry
theorem dJ17_getChars_2_41 : decode cJ17_getChars_2 41 = .ok (.iload_n 3, 1) := sorry
theorem dJ17_getChars_2_42 : decode cJ17_getChars_2 42 = .ok (.istore_n 0, 1) := sorry
theorem dJ17_getChars_2_43 : decode cJ17_getChars_2 43 = .ok (.aload_n 2, 1) := sorry
theorem dJ17_getChars_2_44 : decode cJ17_getChars_2 44 = .ok (.iinc 5 (-1), 3) := sorry
theorem dJ17_getChars_2_47 : decode cJ17_getChars_2 47 = .ok (.iload 5, 2) := sorry
theorem dJ17_getChars_2_49 : decode cJ17_getChars_2 49 = .ok (.getstatic 403, 3) := sorry
theorem dJ17_getChars_2_52 : decode cJ17_getChars_2 52 = .ok (.iload 4, 2) := sorry
theorem dJ17_getChars_2_54 : decode cJ17_getChars_2 54 = .ok (.baload, 1) := sorry
theorem dJ17_getChars_2_55 : decode cJ17_getChars_2 55 = .ok (.invokestatic 111, 3) := sorry
theorem dJ17_getChars_2_58 : decode cJ17_getChars_2 58 = .ok (.aload_n 2, 1) := sorry
theorem dJ17_getChars_2_59 : decode cJ17_getChars_2 59 = .ok (.iinc 5 (-1), 3) := sorry
theorem dJ17_getChars_2_62 : decode cJ17_getChars_2 62 = .ok (.iload 5, 2) := sorry
theorem dJ17_getChars_2_64 : decode cJ17_getChars_2 64 = .ok (.getstatic 407, 3) := sorry
theorem dJ17_getChars_2_67 : decode cJ17_getChars_2 67 = .ok (.iload 4, 2) := sorry
theorem dJ17_getChars_2_69 : decode cJ17_getChars_2 69 = .ok (.baload, 1) := sorry
theorem dJ17_getChars_2_70 : decode cJ17_getChars_2 70 = .ok (.invokestatic 111, 3) := sorry
theorem dJ17_getChars_2_73 : decode cJ17_getChars_2 73 = .ok (.goto (-51), 3) := sorry
theorem dJ17_getChars_2_76 : decode cJ17_getChars_2 76 = .ok (.aload_n 2, 1) := sorry
theorem dJ17_getChars_2_77 : decode cJ17_getChars_2 77 = .ok (.iinc 5 (-1), 3) := sorry
theorem dJ17_getChars_2_80 : decode cJ17_getChars_2 80 = .ok (.iload 5, 2) := sorry
theorem dJ17_getChars_2_82 : decode cJ17_getChars_2 82 = .ok (.getstatic 403, 3) := sorry
theorem dJ17_getChars_2_85 : decode cJ17_getChars_2 85 = .ok (.iload_n 0, 1) := sorry
theorem dJ17_getChars_2_86 : decode cJ17_getChars_2 86 = .ok (.ineg, 1) := sorry
theorem dJ17_getChars_2_87 : decode cJ17_getChars_2 87 = .ok (.baload, 1) := sorry
theorem dJ17_getChars_2_88 : decode cJ17_getChars_2 88 = .ok (.invokestatic 111, 3) := sorry
theorem dJ17_getChars_2_91 : decode cJ17_getChars_2 91 = .ok (.iload_n 0, 1) := sorry
theorem dJ17_getChars_2_92 : decode cJ17_getChars_2 92 = .ok (.bipush (-9), 2) := sorry
theorem dJ17_getChars_2_94 : decode cJ17_getChars_2 94 = .ok (.if_icmp .ge 18, 3) := sorry
theorem dJ17_getChars_2_97 : decode cJ17_getChars_2 97 = .ok (.aload_n 2, 1) := sorry
theorem dJ17_getChars_2_98 : decode cJ17_getChars_2 98 = .ok (.iinc 5 (-1), 3) := sorry
theorem dJ17_getChars_2_101 : decode cJ17_getChars_2 101 = .ok (.iload 5, 2) := sorry
theorem dJ17_getChars_2_103 : decode cJ17_getChars_2 103 = .ok (.getstatic 407, 3) := sorry
theorem dJ17_getChars_2_106 : decode cJ17_getChars_2 106 = .ok (.iload_n 0, 1) := sorry
theorem dJ17_getChars_2_107 : decode cJ17_getChars_2 107 = .ok (.ineg, 1) := sorry
theorem dJ17_getChars_2_108 : decode cJ17_getChars_2 108 = .ok (.baload, 1) := sorry
theorem dJ17_getChars_2_109 : decode cJ17_getChars_2 109 = .ok (.invokestatic 111, 3) := sorry
theorem dJ17_getChars_2_112 : decode cJ17_getChars_2 112 = .ok (.iload 6, 2) := sorry
theorem dJ17_getChars_2_114 : decode cJ17_getChars_2 114 = .ok (.ifCond .eq 14, 3) := sorry
theorem dJ17_getChars_2_117 : decode cJ17_getChars_2 117 = .ok (.aload_n 2, 1) := sorry
theorem dJ17_getChars_2_118 : decode cJ17_getChars_2 118 = .ok (.iinc 5 (-1), 3) := sorry
theorem dJ17_getChars_2_121 : decode cJ17_getChars_2 121 = .ok (.iload 5, 2) := sorry
theorem dJ17_getChars_2_123 : decode cJ17_getChars_2 123 = .ok (.bipush 45, 2) := sorry
theorem dJ17_getChars_2_125 : decode cJ17_getChars_2 125 = .ok (.invokestatic 111, 3) := sorry
theorem dJ17_getChars_2_128 : decode cJ17_getChars_2 128 = .ok (.iload 5, 2) := sorry
theorem dJ17_getChars_2_130 : decode cJ17_getChars_2 130 = .ok (.ireturn, 1) := sorry
abbrev cJ17_compress : ByteArray := prog_37_method_17_code
def yJ17_compress : MethodName := ⟨RJ17, "compress", "([BII)[B"⟩
def dkwJ17_compress_2 : List UInt8 := [25, 5, 3, 45, 3, 28, 184, 0, 123, 28, 159, 0, 6, 25, 5, 176, 45, 176]
abbrev dktJ17_compress_2 : List UInt8 := dkwJ17_compress_2 ++ []
def dkwJ17_compress_1 : List UInt8 := [27, 28, 96, 184, 0, 11, 184, 0, 126, 58, 5, 25, 5, 21, 4, 184, 0, 71, 17, 0, 255, 163, 0, 16]
abbrev dktJ17_compress_1 : List UInt8 := dkwJ17_compress_1 ++ dktJ17_compress_2
def dkwJ17_compress_0 : List UInt8 := [28, 188, 8, 78, 42, 27, 45, 3, 28, 184, 0, 123, 54, 4, 21, 4, 28, 159, 0, 47, 42, 27, 4, 120]
abbrev dktJ17_compress_0 : List UInt8 := dkwJ17_compress_0 ++ dktJ17_compress_1
theorem dksJ17_compress_0 : cJ17_compress.data.toList.drop 0 = dktJ17_compress_0 := sorry
theorem dksJ17_compress_1 : cJ17_compress.data.toList.drop 24 = dktJ17_compress_1 := sorry
theorem dksJ17_compress_2 : cJ17_compress.data.toList.drop 48 = dktJ17_compress_2 := sorry
theorem dJ17_compress_0 : decode cJ17_compress 0 = .ok (.iload_n 2, 1) := sorry
theorem dJ17_compress_1 : decode cJ17_compress 1 = .ok (.newarray .byte, 2) := sorry
theorem dJ17_compress_3 : decode cJ17_compress 3 = .ok (.astore_n 3, 1) := sorry
theorem dJ17_compress_4 : decode cJ17_compress 4 = .ok (.aload_n 0, 1) := sorry
theorem dJ17_compress_5 : decode cJ17_compress 5 = .ok (.iload_n 1, 1) := sorry
theorem dJ17_compress_6 : decode cJ17_compress 6 = .ok (.aload_n 3, 1) := sorry
theorem dJ17_compress_7 : decode cJ17_compress 7 = .ok (.iconst 0, 1) := sorry
theorem dJ17_compress_8 : decode cJ17_compress 8 = .ok (.iload_n 2, 1) := sorry
theorem dJ17_compress_9 : decode cJ17_compress 9 = .ok (.invokestatic 123, 3) := sorry
theorem dJ17_compress_12 : decode cJ17_compress 12 = .ok (.istore 4, 2) := sorry
theorem dJ17_compress_14 : decode cJ17_compress 14 = .ok (.iload 4, 2) := sorry
theorem dJ17_compress_16 : decode cJ17_compress 16 = .ok (.iload_n 2, 1) := sorry
theorem dJ17_compress_17 : decode cJ17_compress 17 = .ok (.if_icmp .eq 47, 3) := sorry
theorem dJ17_compress_20 : decode cJ17_compress 20 = .ok (.aload_n 0, 1) := sorry
theorem dJ17_compress_21 : decode cJ17_compress 21 = .ok (.iload_n 1, 1) := sorry
theorem dJ17_compress_22 : decode cJ17_compress 22 = .ok (.iconst 1, 1) := sorry
theorem dJ17_compress_23 : decode cJ17_compress 23 = .ok (.ishl, 1) := sorry
theorem dJ17_compress_24 : decode cJ17_compress 24 = .ok (.iload_n 1, 1) := sorry
theorem dJ17_compress_25 : decode cJ17_compress 25 = .ok (.iload_n 2, 1) := sorry
theorem dJ17_compress_26 : decode cJ17_compress 26 = .ok (.iadd, 1) := sorry
theorem dJ17_compress_27 : decode cJ17_compress 27 = .ok (.invokestatic 11, 3) := sorry
theorem dJ17_compress_30 : decode cJ17_compress 30 = .ok (.invokestatic 126, 3) := sorry
theorem dJ17_compress_33 : decode cJ17_compress 33 = .ok (.astore 5, 2) := sorry
theorem dJ17_compress_35 : decode cJ17_compress 35 = .ok (.aload 5, 2) := sorry
theorem dJ17_compress_37 : decode cJ17_compress 37 = .ok (.iload 4, 2) := sorry
theorem dJ17_compress_39 : decode cJ17_compress 39 = .ok (.invokestatic 71, 3) := sorry
theorem dJ17_compress_42 : decode cJ17_compress 42 = .ok (.sipush 255, 3) := sorry
theorem dJ17_compress_45 : decode cJ17_compress 45 = .ok (.if_icmp .gt 16, 3) := sorry
theorem dJ17_compress_48 : decode cJ17_compress 48 = .ok (.aload 5, 2) := sorry
theorem dJ17_compress_50 : decode cJ17_compress 50 = .ok (.iconst 0, 1) := sorry
theorem dJ17_compress_51 : decode cJ17_compress 51 = .ok (.aload_n 3, 1) := sorry
theorem dJ17_compress_52 : decode cJ17_compress 52 = .ok (.iconst 0, 1) := sorry
theorem dJ17_compress_53 : decode cJ17_compress 53 = .ok (.iload_n 2, 1) := sorry
theorem dJ17_compress_54 : decode cJ17_compress 54 = .ok (.invokestatic 123, 3) := sorry
theorem dJ17_compress_57 : decode cJ17_compress 57 = .ok (.iload_n 2, 1) := sorry
theorem dJ17_compress_58 : decode cJ17_compress 58 = .ok (.if_icmp .eq 6, 3) := sorry
theorem dJ17_compress_61 : decode cJ17_compress 61 = .ok (.aload 5, 2) := sorry
theorem dJ17_compress_63 : decode cJ17_compress 63 = .ok (.areturn, 1) := sorry
theorem dJ17_compress_64 : decode cJ17_compress 64 = .ok (.aload_n 3, 1) := sorry
theorem dJ17_compress_65 : decode cJ17_compress 65 = .ok (.areturn, 1) := sorry
abbrev cJ17_compress_2 : ByteArray := prog_37_method_22_code
def yJ17_compress_2 : MethodName := ⟨RJ17, "compress", "([BI[BII)I"⟩
def dkwJ17_compress_2_2 : List UInt8 := [132, 5, 1, 167, 255, 216, 21, 4, 172]
abbrev dktJ17_compress_2_2 : List UInt8 := dkwJ17_compress_2_2 ++ []
def dkwJ17_compress_2_1 : List UInt8 := [21, 6, 17, 0, 255, 164, 0, 6, 21, 5, 172, 44, 29, 21, 6, 145, 84, 132, 1, 1, 132, 3, 1]
abbrev dktJ17_compress_2_1 : List UInt8 := dkwJ17_compress_2_1 ++ dktJ17_compress_2_2
def dkwJ17_compress_2_0 : List UInt8 := [27, 21, 4, 42, 184, 0, 173, 3, 54, 5, 21, 5, 21, 4, 162, 0, 39, 42, 27, 184, 0, 71, 54, 6]
abbrev dktJ17_compress_2_0 : List UInt8 := dkwJ17_compress_2_0 ++ dktJ17_compress_2_1
theorem dksJ17_compress_2_0 : cJ17_compress_2.data.toList.drop 0 = dktJ17_compress_2_0 := sorry
theorem dksJ17_compress_2_1 : cJ17_compress_2.data.toList.drop 24 = dktJ17_compress_2_1 := sorry
theorem dksJ17_compress_2_2 : cJ17_compress_2.data.toList.drop 47 = dktJ17_compress_2_2 := sorry
theorem dJ17_compress_2_0 : decode cJ17_compress_2 0 = .ok (.iload_n 1, 1) := sorry
theorem dJ17_compress_2_1 : decode cJ17_compress_2 1 = .ok (.iload 4, 2) := sorry
theorem dJ17_compress_2_3 : decode cJ17_compress_2 3 = .ok (.aload_n 0, 1) := sorry
theorem dJ17_compress_2_4 : decode cJ17_compress_2 4 = .ok (.invokestatic 173, 3) := sorry
theorem dJ17_compress_2_7 : decode cJ17_compress_2 7 = .ok (.iconst 0, 1) := sorry
theorem dJ17_compress_2_8 : decode cJ17_compress_2 8 = .ok (.istore 5, 2) := sorry
theorem dJ17_compress_2_10 : decode cJ17_compress_2 10 = .ok (.iload 5, 2) := sorry
theorem dJ17_compress_2_12 : decode cJ17_compress_2 12 = .ok (.iload 4, 2) := sorry
theorem dJ17_compress_2_14 : decode cJ17_compress_2 14 = .ok (.if_icmp .ge 39, 3) := sorry
theorem dJ17_compress_2_17 : decode cJ17_compress_2 17 = .ok (.aload_n 0, 1) := sorry
theorem dJ17_compress_2_18 : decode cJ17_compress_2 18 = .ok (.iload_n 1, 1) := sorry
theorem dJ17_compress_2_19 : decode cJ17_compress_2 19 = .ok (.invokestatic 71, 3) := sorry
theorem dJ17_compress_2_22 : decode cJ17_compress_2 22 = .ok (.istore 6, 2) := sorry
theorem dJ17_compress_2_24 : decode cJ17_compress_2 24 = .ok (.iload 6, 2) := sorry
theorem dJ17_compress_2_26 : decode cJ17_compress_2 26 = .ok (.sipush 255, 3) := sorry
theorem dJ17_compress_2_29 : decode cJ17_compress_2 29 = .ok (.if_icmp .le 6, 3) := sorry
theorem dJ17_compress_2_32 : decode cJ17_compress_2 32 = .ok (.iload 5, 2) := sorry
theorem dJ17_compress_2_34 : decode cJ17_compress_2 34 = .ok (.ireturn, 1) := sorry
theorem dJ17_compress_2_35 : decode cJ17_compress_2 35 = .ok (.aload_n 2, 1) := sorry
theorem dJ17_compress_2_36 : decode cJ17_compress_2 36 = .ok (.iload_n 3, 1) := sorry
theorem dJ17_compress_2_37 : decode cJ17_compress_2 37 = .ok (.iload 6, 2) := sorry
theorem dJ17_compress_2_39 : decode cJ17_compress_2 39 = .ok (.i2b, 1) := sorry
theorem dJ17_compress_2_40 : decode cJ17_compress_2 40 = .ok (.bastore, 1) := sorry
theorem dJ17_compress_2_41 : decode cJ17_compress_2 41 = .ok (.iinc 1 1, 3) := sorry
theorem dJ17_compress_2_44 : decode cJ17_compress_2 44 = .ok (.iinc 3 1, 3) := sorry
theorem dJ17_compress_2_47 : decode cJ17_compress_2 47 = .ok (.iinc 5 1, 3) := sorry
theorem dJ17_compress_2_50 : decode cJ17_compress_2 50 = .ok (.goto (-40), 3) := sorry
theorem dJ17_compress_2_53 : decode cJ17_compress_2 53 = .ok (.iload 4, 2) := sorry
theorem dJ17_compress_2_55 : decode cJ17_compress_2 55 = .ok (.ireturn, 1) := sorry
abbrev cJ17_getChar : ByteArray := prog_37_method_5_code
def yJ17_getChar : MethodName := ⟨RJ17, "getChar", "([BI)C"⟩
def dkwJ17_getChar_2 : List UInt8 := [51, 17, 0, 255, 126, 178, 0, 63, 120, 128, 146, 172]
abbrev dktJ17_getChar_2 : List UInt8 := dkwJ17_getChar_2 ++ []
def dkwJ17_getChar_1 : List UInt8 := [183, 0, 56, 191, 27, 4, 120, 60, 42, 27, 132, 1, 1, 51, 17, 0, 255, 126, 178, 0, 59, 120, 42, 27]
abbrev dktJ17_getChar_1 : List UInt8 := dkwJ17_getChar_1 ++ dktJ17_getChar_2
def dkwJ17_getChar_0 : List UInt8 := [178, 0, 44, 154, 0, 25, 27, 155, 0, 11, 27, 42, 184, 0, 48, 161, 0, 13, 187, 0, 52, 89, 18, 54]
abbrev dktJ17_getChar_0 : List UInt8 := dkwJ17_getChar_0 ++ dktJ17_getChar_1
theorem dksJ17_getChar_0 : cJ17_getChar.data.toList.drop 0 = dktJ17_getChar_0 := sorry
theorem dksJ17_getChar_1 : cJ17_getChar.data.toList.drop 24 = dktJ17_getChar_1 := sorry
theorem dksJ17_getChar_2 : cJ17_getChar.data.toList.drop 48 = dktJ17_getChar_2 := sorry
theorem dJ17_getChar_0 : decode cJ17_getChar 0 = .ok (.getstatic 44, 3) := sorry
theorem dJ17_getChar_3 : decode cJ17_getChar 3 = .ok (.ifCond .ne 25, 3) := sorry
theorem dJ17_getChar_6 : decode cJ17_getChar 6 = .ok (.iload_n 1, 1) := sorry
theorem dJ17_getChar_7 : decode cJ17_getChar 7 = .ok (.ifCond .lt 11, 3) := sorry
theorem dJ17_getChar_10 : decode cJ17_getChar 10 = .ok (.iload_n 1, 1) := sorry
theorem dJ17_getChar_11 : decode cJ17_getChar 11 = .ok (.aload_n 0, 1) := sorry
theorem dJ17_getChar_12 : decode cJ17_getChar 12 = .ok (.invokestatic 48, 3) := sorry
theorem dJ17_getChar_15 : decode cJ17_getChar 15 = .ok (.if_icmp .lt 13, 3) := sorry
theorem dJ17_getChar_18 : decode cJ17_getChar 18 = .ok (.new 52, 3) := sorry
theorem dJ17_getChar_21 : decode cJ17_getChar 21 = .ok (.dup, 1) := sorry
theorem dJ17_getChar_22 : decode cJ17_getChar 22 = .ok (.ldc 54, 2) := sorry
theorem dJ17_getChar_24 : decode cJ17_getChar 24 = .ok (.invokespecial 56, 3) := sorry
theorem dJ17_getChar_27 : decode cJ17_getChar 27 = .ok (.athrow, 1) := sorry
theorem dJ17_getChar_28 : decode cJ17_getChar 28 = .ok (.iload_n 1, 1) := sorry
theorem dJ17_getChar_29 : decode cJ17_getChar 29 = .ok (.iconst 1, 1) := sorry
theorem dJ17_getChar_30 : decode cJ17_getChar 30 = .ok (.ishl, 1) := sorry
theorem dJ17_getChar_31 : decode cJ17_getChar 31 = .ok (.istore_n 1, 1) := sorry
theorem dJ17_getChar_32 : decode cJ17_getChar 32 = .ok (.aload_n 0, 1) := sorry
theorem dJ17_getChar_33 : decode cJ17_getChar 33 = .ok (.iload_n 1, 1) := sorry
theorem dJ17_getChar_34 : decode cJ17_getChar 34 = .ok (.iinc 1 1, 3) := sorry
theorem dJ17_getChar_37 : decode cJ17_getChar 37 = .ok (.baload, 1) := sorry
theorem dJ17_getChar_38 : decode cJ17_getChar 38 = .ok (.sipush 255, 3) := sorry
theorem dJ17_getChar_41 : decode cJ17_getChar 41 = .ok (.iand, 1) := sorry
theorem dJ17_getChar_42 : decode cJ17_getChar 42 = .ok (.getstatic 59, 3) := sorry
theorem dJ17_getChar_45 : decode cJ17_getChar 45 = .ok (.ishl, 1) := sorry
theorem dJ17_getChar_46 : decode cJ17_getChar 46 = .ok (.aload_n 0, 1) := sorry
theorem dJ17_getChar_47 : decode cJ17_getChar 47 = .ok (.iload_n 1, 1) := sorry
theorem dJ17_getChar_48 : decode cJ17_getChar 48 = .ok (.baload, 1) := sorry
theorem dJ17_getChar_49 : decode cJ17_getChar 49 = .ok (.sipush 255, 3) := sorry
theorem dJ17_getChar_52 : decode cJ17_getChar 52 = .ok (.iand, 1) := sorry
theorem dJ17_getChar_53 : decode cJ17_getChar 53 = .ok (.getstatic 63, 3) := sorry
theorem dJ17_getChar_56 : decode cJ17_getChar 56 = .ok (.ishl, 1) := sorry
theorem dJ17_getChar_57 : decode cJ17_getChar 57 = .ok (.ior, 1) := sorry
theorem dJ17_getChar_58 : decode cJ17_getChar 58 = .ok (.i2c, 1) := sorry
theorem dJ17_getChar_59 : decode cJ17_getChar 59 = .ok (.ireturn, 1) := sorry
abbrev cJ17_coderFromArrayLen : ByteArray := prog_37_method_15_code
def yJ17_coderFromArrayLen : MethodName := ⟨RJ17, "coderFromArrayLen", "([BI)B"⟩
def dkwJ17_coderFromArrayLen_0 : List UInt8 := [27, 42, 190, 100, 16, 31, 124, 145, 172]
abbrev dktJ17_coderFromArrayLen_0 : List UInt8 := dkwJ17_coderFromArrayLen_0 ++ []
theorem dksJ17_coderFromArrayLen_0 : cJ17_coderFromArrayLen.data.toList.drop 0 = dktJ17_coderFromArrayLen_0 := sorry
theorem dJ17_coderFromArrayLen_0 : decode cJ17_coderFromArrayLen 0 = .ok (.iload_n 1, 1) := sorry
theorem dJ17_coderFromArrayLen_1 : decode cJ17_coderFromArrayLen 1 = .ok (.aload_n 0, 1) := sorry
theorem dJ17_coderFromArrayLen_2 : decode cJ17_coderFromArrayLen 2 = .ok (.arraylength, 1) := sorry
theorem dJ17_coderFromArrayLen_3 : decode cJ17_coderFromArrayLen 3 = .ok (.isub, 1) := sorry
theorem dJ17_coderFromArrayLen_4 : decode cJ17_coderFromArrayLen 4 = .ok (.bipush 31, 2) := sorry
theorem dJ17_coderFromArrayLen_6 : decode cJ17_coderFromArrayLen 6 = .ok (.iushr, 1) := sorry
theorem dJ17_coderFromArrayLen_7 : decode cJ17_coderFromArrayLen 7 = .ok (.i2b, 1) := sorry
theorem dJ17_coderFromArrayLen_8 : decode cJ17_coderFromArrayLen 8 = .ok (.ireturn, 1) := sorry
abbrev cJ17_charAt : ByteArray := prog_37_method_83_code
def yJ17_charAt : MethodName := ⟨RJ17, "charAt", "([BI)C"⟩
def dkwJ17_charAt_0 : List UInt8 := [27, 42, 184, 0, 67, 42, 27, 184, 0, 71, 172]
abbrev dktJ17_charAt_0 : List UInt8 := dkwJ17_charAt_0 ++ []
theorem dksJ17_charAt_0 : cJ17_charAt.data.toList.drop 0 = dktJ17_charAt_0 := sorry
theorem dJ17_charAt_0 : decode cJ17_charAt 0 = .ok (.iload_n 1, 1) := sorry
theorem dJ17_charAt_1 : decode cJ17_charAt 1 = .ok (.aload_n 0, 1) := sorry
theorem dJ17_charAt_2 : decode cJ17_charAt 2 = .ok (.invokestatic 67, 3) := sorry
theorem dJ17_charAt_5 : decode cJ17_charAt 5 = .ok (.aload_n 0, 1) := sorry
theorem dJ17_charAt_6 : decode cJ17_charAt 6 = .ok (.iload_n 1, 1) := sorry
theorem dJ17_charAt_7 : decode cJ17_charAt 7 = .ok (.invokestatic 71, 3) := sorry
theorem dJ17_charAt_10 : decode cJ17_charAt 10 = .ok (.ireturn, 1) := sorry
abbrev cJ17_checkIndex : ByteArray := prog_37_method_91_code
def yJ17_checkIndex : MethodName := ⟨RJ17, "checkIndex", "(I[B)V"⟩
def dkwJ17_checkIndex_0 : List UInt8 := [26, 43, 184, 0, 48, 184, 1, 158, 177]
abbrev dktJ17_checkIndex_0 : List UInt8 := dkwJ17_checkIndex_0 ++ []
theorem dksJ17_checkIndex_0 : cJ17_checkIndex.data.toList.drop 0 = dktJ17_checkIndex_0 := sorry
theorem dJ17_checkIndex_0 : decode cJ17_checkIndex 0 = .ok (.iload_n 0, 1) := sorry
theorem dJ17_checkIndex_1 : decode cJ17_checkIndex 1 = .ok (.aload_n 1, 1) := sorry
theorem dJ17_checkIndex_2 : decode cJ17_checkIndex 2 = .ok (.invokestatic 48, 3) := sorry
theorem dJ17_checkIndex_5 : decode cJ17_checkIndex 5 = .ok (.invokestatic 414, 3) := sorry
theorem dJ17_checkIndex_8 : decode cJ17_checkIndex 8 = .ok (.return_, 1) := sorry
abbrev cJ17_fillNull : ByteArray := prog_37_method_70_code
def yJ17_fillNull : MethodName := ⟨RJ17, "fillNull", "([BII)V"⟩
def dkwJ17_fillNull_0 : List UInt8 := [42, 27, 4, 120, 28, 4, 120, 3, 184, 1, 124, 177]
abbrev dktJ17_fillNull_0 : List UInt8 := dkwJ17_fillNull_0 ++ []
theorem dksJ17_fillNull_0 : cJ17_fillNull.data.toList.drop 0 = dktJ17_fillNull_0 := sorry
theorem dJ17_fillNull_0 : decode cJ17_fillNull 0 = .ok (.aload_n 0, 1) := sorry
theorem dJ17_fillNull_1 : decode cJ17_fillNull 1 = .ok (.iload_n 1, 1) := sorry
theorem dJ17_fillNull_2 : decode cJ17_fillNull 2 = .ok (.iconst 1, 1) := sorry
theorem dJ17_fillNull_3 : decode cJ17_fillNull 3 = .ok (.ishl, 1) := sorry
theorem dJ17_fillNull_4 : decode cJ17_fillNull 4 = .ok (.iload_n 2, 1) := sorry
theorem dJ17_fillNull_5 : decode cJ17_fillNull 5 = .ok (.iconst 1, 1) := sorry
theorem dJ17_fillNull_6 : decode cJ17_fillNull 6 = .ok (.ishl, 1) := sorry
theorem dJ17_fillNull_7 : decode cJ17_fillNull 7 = .ok (.iconst 0, 1) := sorry
theorem dJ17_fillNull_8 : decode cJ17_fillNull 8 = .ok (.invokestatic 380, 3) := sorry
theorem dJ17_fillNull_11 : decode cJ17_fillNull 11 = .ok (.return_, 1) := sorry
abbrev cJ17_putCharSB : ByteArray := prog_37_method_71_code
def yJ17_putCharSB : MethodName := ⟨RJ17, "putCharSB", "([BII)V"⟩
def dkwJ17_putCharSB_0 : List UInt8 := [27, 42, 184, 0, 67, 42, 27, 28, 184, 0, 111, 177]
abbrev dktJ17_putCharSB_0 : List UInt8 := dkwJ17_putCharSB_0 ++ []
theorem dksJ17_putCharSB_0 : cJ17_putCharSB.data.toList.drop 0 = dktJ17_putCharSB_0 := sorry
theorem dJ17_putCharSB_0 : decode cJ17_putCharSB 0 = .ok (.iload_n 1, 1) := sorry
theorem dJ17_putCharSB_1 : decode cJ17_putCharSB 1 = .ok (.aload_n 0, 1) := sorry
theorem dJ17_putCharSB_2 : decode cJ17_putCharSB 2 = .ok (.invokestatic 67, 3) := sorry
theorem dJ17_putCharSB_5 : decode cJ17_putCharSB 5 = .ok (.aload_n 0, 1) := sorry
theorem dJ17_putCharSB_6 : decode cJ17_putCharSB 6 = .ok (.iload_n 1, 1) := sorry
theorem dJ17_putCharSB_7 : decode cJ17_putCharSB 7 = .ok (.iload_n 2, 1) := sorry
theorem dJ17_putCharSB_8 : decode cJ17_putCharSB 8 = .ok (.invokestatic 111, 3) := sorry
theorem dJ17_putCharSB_11 : decode cJ17_putCharSB 11 = .ok (.return_, 1) := sorry
abbrev cJ17_hashCode : ByteArray := prog_37_method_39_code
def yJ17_hashCode : MethodName := ⟨RJ17, "hashCode", "([B)I"⟩
def dkwJ17_hashCode_2 : List UInt8 := [3, 167, 0, 22, 42, 3, 184, 0, 71, 167, 0, 14, 42, 3, 42, 190, 4, 122, 3, 8, 184, 0, 220, 172]
abbrev dktJ17_hashCode_2 : List UInt8 := dkwJ17_hashCode_2 ++ []
def dkwJ17_hashCode_1 : List UInt8 := [171, 0, 0, 0, 0, 38, 0, 0, 0, 2, 0, 0, 0, 0, 0, 0, 0, 26, 0, 0, 0, 2, 0, 0, 0, 30]
abbrev dktJ17_hashCode_1 : List UInt8 := dkwJ17_hashCode_1 ++ dktJ17_hashCode_2
def dkwJ17_hashCode_0 : List UInt8 := [42, 190]
abbrev dktJ17_hashCode_0 : List UInt8 := dkwJ17_hashCode_0 ++ dktJ17_hashCode_1
theorem dksJ17_hashCode_0 : cJ17_hashCode.data.toList.drop 0 = dktJ17_hashCode_0 := sorry
theorem dksJ17_hashCode_1 : cJ17_hashCode.data.toList.drop 2 = dktJ17_hashCode_1 := sorry
theorem dksJ17_hashCode_2 : cJ17_hashCode.data.toList.drop 28 = dktJ17_hashCode_2 := sorry
theorem dJ17_hashCode_0 : decode cJ17_hashCode 0 = .ok (.aload_n 0, 1) := sorry
theorem dJ17_hashCode_1 : decode cJ17_hashCode 1 = .ok (.arraylength, 1) := sorry
theorem dJ17_hashCode_2 : decode cJ17_hashCode 2 = .ok (.lookupswitch 38 #[(0, 26), (2, 30)], 26) := sorry
theorem dJ17_hashCode_28 : decode cJ17_hashCode 28 = .ok (.iconst 0, 1) := sorry
theorem dJ17_hashCode_29 : decode cJ17_hashCode 29 = .ok (.goto 22, 3) := sorry
theorem dJ17_hashCode_32 : decode cJ17_hashCode 32 = .ok (.aload_n 0, 1) := sorry
theorem dJ17_hashCode_33 : decode cJ17_hashCode 33 = .ok (.iconst 0, 1) := sorry
theorem dJ17_hashCode_34 : decode cJ17_hashCode 34 = .ok (.invokestatic 71, 3) := sorry
theorem dJ17_hashCode_37 : decode cJ17_hashCode 37 = .ok (.goto 14, 3) := sorry
theorem dJ17_hashCode_40 : decode cJ17_hashCode 40 = .ok (.aload_n 0, 1) := sorry
theorem dJ17_hashCode_41 : decode cJ17_hashCode 41 = .ok (.iconst 0, 1) := sorry
theorem dJ17_hashCode_42 : decode cJ17_hashCode 42 = .ok (.aload_n 0, 1) := sorry
theorem dJ17_hashCode_43 : decode cJ17_hashCode 43 = .ok (.arraylength, 1) := sorry
theorem dJ17_hashCode_44 : decode cJ17_hashCode 44 = .ok (.iconst 1, 1) := sorry
theorem dJ17_hashCode_45 : decode cJ17_hashCode 45 = .ok (.ishr, 1) := sorry
theorem dJ17_hashCode_46 : decode cJ17_hashCode 46 = .ok (.iconst 0, 1) := sorry
theorem dJ17_hashCode_47 : decode cJ17_hashCode 47 = .ok (.iconst 5, 1) := sorry
theorem dJ17_hashCode_48 : decode cJ17_hashCode 48 = .ok (.invokestatic 220, 3) := sorry
theorem dJ17_hashCode_51 : decode cJ17_hashCode 51 = .ok (.ireturn, 1) := sorry
abbrev cJ17_getChars_3 : ByteArray := prog_37_method_78_code
def yJ17_getChars_3 : MethodName := ⟨RJ17, "getChars", "(JII[B)I"⟩
def dkwJ17_getChars_3_1 : List UInt8 := [21, 5, 159, 0, 11, 187, 0, 52, 89, 183, 0, 66, 191, 21, 5, 172]
abbrev dktJ17_getChars_3_1 : List UInt8 := dkwJ17_getChars_3_1 ++ []
def dkwJ17_getChars_3_0 : List UInt8 := [28, 29, 25, 4, 184, 0, 96, 30, 29, 25, 4, 184, 1, 140, 54, 5, 178, 0, 44, 154, 0, 17, 28]
abbrev dktJ17_getChars_3_0 : List UInt8 := dkwJ17_getChars_3_0 ++ dktJ17_getChars_3_1
theorem dksJ17_getChars_3_0 : cJ17_getChars_3.data.toList.drop 0 = dktJ17_getChars_3_0 := sorry
theorem dksJ17_getChars_3_1 : cJ17_getChars_3.data.toList.drop 23 = dktJ17_getChars_3_1 := sorry
theorem dJ17_getChars_3_0 : decode cJ17_getChars_3 0 = .ok (.iload_n 2, 1) := sorry
theorem dJ17_getChars_3_1 : decode cJ17_getChars_3 1 = .ok (.iload_n 3, 1) := sorry
theorem dJ17_getChars_3_2 : decode cJ17_getChars_3 2 = .ok (.aload 4, 2) := sorry
theorem dJ17_getChars_3_4 : decode cJ17_getChars_3 4 = .ok (.invokestatic 96, 3) := sorry
theorem dJ17_getChars_3_7 : decode cJ17_getChars_3 7 = .ok (.lload_n 0, 1) := sorry
theorem dJ17_getChars_3_8 : decode cJ17_getChars_3 8 = .ok (.iload_n 3, 1) := sorry
theorem dJ17_getChars_3_9 : decode cJ17_getChars_3 9 = .ok (.aload 4, 2) := sorry
theorem dJ17_getChars_3_11 : decode cJ17_getChars_3 11 = .ok (.invokestatic 396, 3) := sorry
theorem dJ17_getChars_3_14 : decode cJ17_getChars_3 14 = .ok (.istore 5, 2) := sorry
theorem dJ17_getChars_3_16 : decode cJ17_getChars_3 16 = .ok (.getstatic 44, 3) := sorry
theorem dJ17_getChars_3_19 : decode cJ17_getChars_3 19 = .ok (.ifCond .ne 17, 3) := sorry
theorem dJ17_getChars_3_22 : decode cJ17_getChars_3 22 = .ok (.iload_n 2, 1) := sorry
theorem dJ17_getChars_3_23 : decode cJ17_getChars_3 23 = .ok (.iload 5, 2) := sorry
theorem dJ17_getChars_3_25 : decode cJ17_getChars_3 25 = .ok (.if_icmp .eq 11, 3) := sorry
theorem dJ17_getChars_3_28 : decode cJ17_getChars_3 28 = .ok (.new 52, 3) := sorry
theorem dJ17_getChars_3_31 : decode cJ17_getChars_3 31 = .ok (.dup, 1) := sorry
theorem dJ17_getChars_3_32 : decode cJ17_getChars_3 32 = .ok (.invokespecial 66, 3) := sorry
theorem dJ17_getChars_3_35 : decode cJ17_getChars_3 35 = .ok (.athrow, 1) := sorry
theorem dJ17_getChars_3_36 : decode cJ17_getChars_3 36 = .ok (.iload 5, 2) := sorry
theorem dJ17_getChars_3_38 : decode cJ17_getChars_3 38 = .ok (.ireturn, 1) := sorry
abbrev cJ17_getChars_4 : ByteArray := prog_37_method_90_code
def yJ17_getChars_4 : MethodName := ⟨RJ17, "getChars", "(JI[B)I"⟩
def dkwJ17_getChars_4_8 : List UInt8 := [184, 0, 111, 21, 8, 153, 0, 14, 45, 132, 7, 255, 21, 7, 16, 45, 184, 0, 111, 21, 7, 172]
abbrev dktJ17_getChars_4_8 : List UInt8 := dkwJ17_getChars_4_8 ++ []
def dkwJ17_getChars_4_7 : List UInt8 := [184, 0, 111, 21, 10, 16, 247, 162, 0, 19, 45, 132, 7, 255, 21, 7, 178, 1, 151, 21, 10, 116, 51]
abbrev dktJ17_getChars_4_7 : List UInt8 := dkwJ17_getChars_4_7 ++ dktJ17_getChars_4_8
def dkwJ17_getChars_4_6 : List UInt8 := [21, 6, 51, 184, 0, 111, 167, 255, 198, 45, 132, 7, 255, 21, 7, 178, 1, 147, 21, 10, 116, 51]
abbrev dktJ17_getChars_4_6 : List UInt8 := dkwJ17_getChars_4_6 ++ dktJ17_getChars_4_7
def dkwJ17_getChars_4_5 : List UInt8 := [45, 132, 7, 255, 21, 7, 178, 1, 147, 21, 6, 51, 184, 0, 111, 45, 132, 7, 255, 21, 7, 178, 1, 151]
abbrev dktJ17_getChars_4_5 : List UInt8 := dkwJ17_getChars_4_5 ++ dktJ17_getChars_4_6
def dkwJ17_getChars_4_4 : List UInt8 := [163, 0, 57, 21, 10, 16, 100, 108, 54, 9, 21, 9, 16, 100, 104, 21, 10, 100, 54, 6, 21, 9, 54, 10]
abbrev dktJ17_getChars_4_4 : List UInt8 := dkwJ17_getChars_4_4 ++ dktJ17_getChars_4_5
def dkwJ17_getChars_4_3 : List UInt8 := [21, 7, 178, 1, 151, 21, 6, 51, 184, 0, 111, 167, 255, 197, 30, 136, 54, 10, 21, 10, 16, 156]
abbrev dktJ17_getChars_4_3 : List UInt8 := dkwJ17_getChars_4_3 ++ dktJ17_getChars_4_4
def dkwJ17_getChars_4_2 : List UInt8 := [54, 6, 22, 4, 63, 45, 132, 7, 255, 21, 7, 178, 1, 147, 21, 6, 51, 184, 0, 111, 45, 132, 7, 255]
abbrev dktJ17_getChars_4_2 : List UInt8 := dkwJ17_getChars_4_2 ++ dktJ17_getChars_4_3
def dkwJ17_getChars_4_1 : List UInt8 := [30, 20, 1, 154, 148, 157, 0, 57, 30, 20, 1, 156, 109, 55, 4, 22, 4, 20, 1, 156, 105, 30, 101, 136]
abbrev dktJ17_getChars_4_1 : List UInt8 := dkwJ17_getChars_4_1 ++ dktJ17_getChars_4_2
def dkwJ17_getChars_4_0 : List UInt8 := [28, 54, 7, 30, 9, 148, 156, 0, 7, 4, 167, 0, 4, 3, 54, 8, 21, 8, 154, 0, 6, 30, 117, 63]
abbrev dktJ17_getChars_4_0 : List UInt8 := dkwJ17_getChars_4_0 ++ dktJ17_getChars_4_1
theorem dksJ17_getChars_4_0 : cJ17_getChars_4.data.toList.drop 0 = dktJ17_getChars_4_0 := sorry
theorem dksJ17_getChars_4_1 : cJ17_getChars_4.data.toList.drop 24 = dktJ17_getChars_4_1 := sorry
theorem dksJ17_getChars_4_2 : cJ17_getChars_4.data.toList.drop 48 = dktJ17_getChars_4_2 := sorry
theorem dksJ17_getChars_4_3 : cJ17_getChars_4.data.toList.drop 72 = dktJ17_getChars_4_3 := sorry
theorem dksJ17_getChars_4_4 : cJ17_getChars_4.data.toList.drop 94 = dktJ17_getChars_4_4 := sorry
theorem dksJ17_getChars_4_5 : cJ17_getChars_4.data.toList.drop 118 = dktJ17_getChars_4_5 := sorry
theorem dksJ17_getChars_4_6 : cJ17_getChars_4.data.toList.drop 142 = dktJ17_getChars_4_6 := sorry
theorem dksJ17_getChars_4_7 : cJ17_getChars_4.data.toList.drop 164 = dktJ17_getChars_4_7 := sorry
theorem dksJ17_getChars_4_8 : cJ17_getChars_4.data.toList.drop 187 = dktJ17_getChars_4_8 := sorry
theorem dJ17_getChars_4_0 : decode cJ17_getChars_4 0 = .ok (.iload_n 2, 1) := sorry
theorem dJ17_getChars_4_1 : decode cJ17_getChars_4 1 = .ok (.istore 7, 2) := sorry
theorem dJ17_getChars_4_3 : decode cJ17_getChars_4 3 = .ok (.lload_n 0, 1) := sorry
theorem dJ17_getChars_4_4 : decode cJ17_getChars_4 4 = .ok (.lconst 0, 1) := sorry
theorem dJ17_getChars_4_5 : decode cJ17_getChars_4 5 = .ok (.lcmp, 1) := sorry
theorem dJ17_getChars_4_6 : decode cJ17_getChars_4 6 = .ok (.ifCond .ge 7, 3) := sorry
theorem dJ17_getChars_4_9 : decode cJ17_getChars_4 9 = .ok (.iconst 1, 1) := sorry
theorem dJ17_getChars_4_10 : decode cJ17_getChars_4 10 = .ok (.goto 4, 3) := sorry
theorem dJ17_getChars_4_13 : decode cJ17_getChars_4 13 = .ok (.iconst 0, 1) := sorry
theorem dJ17_getChars_4_14 : decode cJ17_getChars_4 14 = .ok (.istore 8, 2) := sorry
theorem dJ17_getChars_4_16 : decode cJ17_getChars_4 16 = .ok (.iload 8, 2) := sorry
theorem dJ17_getChars_4_18 : decode cJ17_getChars_4 18 = .ok (.ifCond .ne 6, 3) := sorry
theorem dJ17_getChars_4_21 : decode cJ17_getChars_4 21 = .ok (.lload_n 0, 1) := sorry
theorem dJ17_getChars_4_22 : decode cJ17_getChars_4 22 = .ok (.lneg, 1) := sorry
theorem dJ17_getChars_4_23 : decode cJ17_getChars_4 23 = .ok (.lstore_n 0, 1) := sorry
theorem dJ17_getChars_4_24 : decode cJ17_getChars_4 24 = .ok (.lload_n 0, 1) := sorry
theorem dJ17_getChars_4_25 : decode cJ17_getChars_4 25 = .ok (.ldc2_w 410, 3) := sorry
theorem dJ17_getChars_4_28 : decode cJ17_getChars_4 28 = .ok (.lcmp, 1) := sorry
theorem dJ17_getChars_4_29 : decode cJ17_getChars_4 29 = .ok (.ifCond .gt 57, 3) := sorry
theorem dJ17_getChars_4_32 : decode cJ17_getChars_4 32 = .ok (.lload_n 0, 1) := sorry
theorem dJ17_getChars_4_33 : decode cJ17_getChars_4 33 = .ok (.ldc2_w 412, 3) := sorry
theorem dJ17_getChars_4_36 : decode cJ17_getChars_4 36 = .ok (.ldiv, 1) := sorry
theorem dJ17_getChars_4_37 : decode cJ17_getChars_4 37 = .ok (.lstore 4, 2) := sorry
theorem dJ17_getChars_4_39 : decode cJ17_getChars_4 39 = .ok (.lload 4, 2) := sorry
theorem dJ17_getChars_4_41 : decode cJ17_getChars_4 41 = .ok (.ldc2_w 412, 3) := sorry
theorem dJ17_getChars_4_44 : decode cJ17_getChars_4 44 = .ok (.lmul, 1) := sorry
theorem dJ17_getChars_4_45 : decode cJ17_getChars_4 45 = .ok (.lload_n 0, 1) := sorry
theorem dJ17_getChars_4_46 : decode cJ17_getChars_4 46 = .ok (.lsub, 1) := sorry
theorem dJ17_getChars_4_47 : decode cJ17_getChars_4 47 = .ok (.l2i, 1) := sorry
theorem dJ17_getChars_4_48 : decode cJ17_getChars_4 48 = .ok (.istore 6, 2) := sorry
theorem dJ17_getChars_4_50 : decode cJ17_getChars_4 50 = .ok (.lload 4, 2) := sorry
theorem dJ17_getChars_4_52 : decode cJ17_getChars_4 52 = .ok (.lstore_n 0, 1) := sorry
theorem dJ17_getChars_4_53 : decode cJ17_getChars_4 53 = .ok (.aload_n 3, 1) := sorry
theorem dJ17_getChars_4_54 : decode cJ17_getChars_4 54 = .ok (.iinc 7 (-1), 3) := sorry
theorem dJ17_getChars_4_57 : decode cJ17_getChars_4 57 = .ok (.iload 7, 2) := sorry
theorem dJ17_getChars_4_59 : decode cJ17_getChars_4 59 = .ok (.getstatic 403, 3) := sorry
theorem dJ17_getChars_4_62 : decode cJ17_getChars_4 62 = .ok (.iload 6, 2) := sorry
theorem dJ17_getChars_4_64 : decode cJ17_getChars_4 64 = .ok (.baload, 1) := sorry
theorem dJ17_getChars_4_65 : decode cJ17_getChars_4 65 = .ok (.invokestatic 111, 3) := sorry
theorem dJ17_getChars_4_68 : decode cJ17_getChars_4 68 = .ok (.aload_n 3, 1) := sorry
theorem dJ17_getChars_4_69 : decode cJ17_getChars_4 69 = .ok (.iinc 7 (-1), 3) := sorry
theorem dJ17_getChars_4_72 : decode cJ17_getChars_4 72 = .ok (.iload 7, 2) := sorry
theorem dJ17_getChars_4_74 : decode cJ17_getChars_4 74 = .ok (.getstatic 407, 3) := sorry
theorem dJ17_getChars_4_77 : decode cJ17_getChars_4 77 = .ok (.iload 6, 2) := sorry
theorem dJ17_getChars_4_79 : decode cJ17_getChars_4 79 = .ok (.baload, 1) := sorry
theorem dJ17_getChars_4_80 : decode cJ17_getChars_4 80 = .ok (.invokestatic 111, 3) := sorry
theorem dJ17_getChars_4_83 : decode cJ17_getChars_4 83 = .ok (.goto (-59), 3) := sorry
theorem dJ17_getChars_4_86 : decode cJ17_getChars_4 86 = .ok (.lload_n 0, 1) := sorry
theorem dJ17_getChars_4_87 : decode cJ17_getChars_4 87 = .ok (.l2i, 1) := sorry
theorem dJ17_getChars_4_88 : decode cJ17_getChars_4 88 = .ok (.istore 10, 2) := sorry
theorem dJ17_getChars_4_90 : decode cJ17_getChars_4 90 = .ok (.iload 10, 2) := sorry
theorem dJ17_getChars_4_92 : decode cJ17_getChars_4 92 = .ok (.bipush (-100), 2) := sorry
theorem dJ17_getChars_4_94 : decode cJ17_getChars_4 94 = .ok (.if_icmp .gt 57, 3) := sorry
theorem dJ17_getChars_4_97 : decode cJ17_getChars_4 97 = .ok (.iload 10, 2) := sorry
theorem dJ17_getChars_4_99 : decode cJ17_getChars_4 99 = .ok (.bipush 100, 2) := sorry
theorem dJ17_getChars_4_101 : decode cJ17_getChars_4 101 = .ok (.idiv, 1) := sorry
theorem dJ17_getChars_4_102 : decode cJ17_getChars_4 102 = .ok (.istore 9, 2) := sorry
theorem dJ17_getChars_4_104 : decode cJ17_getChars_4 104 = .ok (.iload 9, 2) := sorry
theorem dJ17_getChars_4_106 : decode cJ17_getChars_4 106 = .ok (.bipush 100, 2) := sorry
theorem dJ17_getChars_4_108 : decode cJ17_getChars_4 108 = .ok (.imul, 1) := sorry
theorem dJ17_getChars_4_109 : decode cJ17_getChars_4 109 = .ok (.iload 10, 2) := sorry
theorem dJ17_getChars_4_111 : decode cJ17_getChars_4 111 = .ok (.isub, 1) := sorry
theorem dJ17_getChars_4_112 : decode cJ17_getChars_4 112 = .ok (.istore 6, 2) := sorry
theorem dJ17_getChars_4_114 : decode cJ17_getChars_4 114 = .ok (.iload 9, 2) := sorry
theorem dJ17_getChars_4_116 : decode cJ17_getChars_4 116 = .ok (.istore 10, 2) := sorry
theorem dJ17_getChars_4_118 : decode cJ17_getChars_4 118 = .ok (.aload_n 3, 1) := sorry
theorem dJ17_getChars_4_119 : decode cJ17_getChars_4 119 = .ok (.iinc 7 (-1), 3) := sorry
theorem dJ17_getChars_4_122 : decode cJ17_getChars_4 122 = .ok (.iload 7, 2) := sorry
theorem dJ17_getChars_4_124 : decode cJ17_getChars_4 124 = .ok (.getstatic 403, 3) := sorry
theorem dJ17_getChars_4_127 : decode cJ17_getChars_4 127 = .ok (.iload 6, 2) := sorry
theorem dJ17_getChars_4_129 : decode cJ17_getChars_4 129 = .ok (.baload, 1) := sorry
theorem dJ17_getChars_4_130 : decode cJ17_getChars_4 130 = .ok (.invokestatic 111, 3) := sorry
theorem dJ17_getChars_4_133 : decode cJ17_getChars_4 133 = .ok (.aload_n 3, 1) := sorry
theorem dJ17_getChars_4_134 : decode cJ17_getChars_4 134 = .ok (.iinc 7 (-1), 3) := sorry
theorem dJ17_getChars_4_137 : decode cJ17_getChars_4 137 = .ok (.iload 7, 2) := sorry
theorem dJ17_getChars_4_139 : decode cJ17_getChars_4 139 = .ok (.getstatic 407, 3) := sorry
theorem dJ17_getChars_4_142 : decode cJ17_getChars_4 142 = .ok (.iload 6, 2) := sorry
theorem dJ17_getChars_4_144 : decode cJ17_getChars_4 144 = .ok (.baload, 1) := sorry
theorem dJ17_getChars_4_145 : decode cJ17_getChars_4 145 = .ok (.invokestatic 111, 3) := sorry
theorem dJ17_getChars_4_148 : decode cJ17_getChars_4 148 = .ok (.goto (-58), 3) := sorry
theorem dJ17_getChars_4_151 : decode cJ17_getChars_4 151 = .ok (.aload_n 3, 1) := sorry
theorem dJ17_getChars_4_152 : decode cJ17_getChars_4 152 = .ok (.iinc 7 (-1), 3) := sorry
theorem dJ17_getChars_4_155 : decode cJ17_getChars_4 155 = .ok (.iload 7, 2) := sorry
theorem dJ17_getChars_4_157 : decode cJ17_getChars_4 157 = .ok (.getstatic 403, 3) := sorry
theorem dJ17_getChars_4_160 : decode cJ17_getChars_4 160 = .ok (.iload 10, 2) := sorry
theorem dJ17_getChars_4_162 : decode cJ17_getChars_4 162 = .ok (.ineg, 1) := sorry
theorem dJ17_getChars_4_163 : decode cJ17_getChars_4 163 = .ok (.baload, 1) := sorry
theorem dJ17_getChars_4_164 : decode cJ17_getChars_4 164 = .ok (.invokestatic 111, 3) := sorry
theorem dJ17_getChars_4_167 : decode cJ17_getChars_4 167 = .ok (.iload 10, 2) := sorry
theorem dJ17_getChars_4_169 : decode cJ17_getChars_4 169 = .ok (.bipush (-9), 2) := sorry
theorem dJ17_getChars_4_171 : decode cJ17_getChars_4 171 = .ok (.if_icmp .ge 19, 3) := sorry
theorem dJ17_getChars_4_174 : decode cJ17_getChars_4 174 = .ok (.aload_n 3, 1) := sorry
theorem dJ17_getChars_4_175 : decode cJ17_getChars_4 175 = .ok (.iinc 7 (-1), 3) := sorry
theorem dJ17_getChars_4_178 : decode cJ17_getChars_4 178 = .ok (.iload 7, 2) := sorry
theorem dJ17_getChars_4_180 : decode cJ17_getChars_4 180 = .ok (.getstatic 407, 3) := sorry
theorem dJ17_getChars_4_183 : decode cJ17_getChars_4 183 = .ok (.iload 10, 2) := sorry
theorem dJ17_getChars_4_185 : decode cJ17_getChars_4 185 = .ok (.ineg, 1) := sorry
theorem dJ17_getChars_4_186 : decode cJ17_getChars_4 186 = .ok (.baload, 1) := sorry
theorem dJ17_getChars_4_187 : decode cJ17_getChars_4 187 = .ok (.invokestatic 111, 3) := sorry
theorem dJ17_getChars_4_190 : decode cJ17_getChars_4 190 = .ok (.iload 8, 2) := sorry
theorem dJ17_getChars_4_192 : decode cJ17_getChars_4 192 = .ok (.ifCond .eq 14, 3) := sorry
theorem dJ17_getChars_4_195 : decode cJ17_getChars_4 195 = .ok (.aload_n 3, 1) := sorry
theorem dJ17_getChars_4_196 : decode cJ17_getChars_4 196 = .ok (.iinc 7 (-1), 3) := sorry
theorem dJ17_getChars_4_199 : decode cJ17_getChars_4 199 = .ok (.iload 7, 2) := sorry
theorem dJ17_getChars_4_201 : decode cJ17_getChars_4 201 = .ok (.bipush 45, 2) := sorry
theorem dJ17_getChars_4_203 : decode cJ17_getChars_4 203 = .ok (.invokestatic 111, 3) := sorry
theorem dJ17_getChars_4_206 : decode cJ17_getChars_4 206 = .ok (.iload 7, 2) := sorry
theorem dJ17_getChars_4_208 : decode cJ17_getChars_4 208 = .ok (.ireturn, 1) := sorry
theorem q152 : (Jvm.Cond.initialized "java/lang/StringUTF16") ∈ lw_all := sorry
theorem q618 : (Jvm.Cond.static ({ cls := "java/lang/StringUTF16", name := "newBytesFor", desc := "(I)[B" } : Jvm.MethodName)) ∈ lw_all := lw_g (lw_at lw_m3 9 rfl) rfl
theorem q619 : (Jvm.Cond.code ({ cls := "java/lang/StringUTF16", name := "newBytesFor", desc := "(I)[B" } : Jvm.MethodName) prog_37_method_2_code (1 : Nat) (Option.some (Jvm.ClassFile.FieldType.array Jvm.ClassFile.FieldType.byte))) ∈ lw_all := lw_g (lw_at lw_m3 10 rfl) rfl
theorem q620 : (Jvm.Cond.methodLink "java/lang/StringUTF16" (11 : Nat) ({ cls := "java/lang/StringUTF16", name := "newBytesLength", desc := "(I)I" } : Jvm.MethodName)) ∈ lw_all := sorry
theorem q621 : (Jvm.Cond.static ({ cls := "java/lang/StringUTF16", name := "newBytesLength", desc := "(I)I" } : Jvm.MethodName)) ∈ lw_all := sorry
theorem q622 : (Jvm.Cond.code ({ cls := "java/lang/StringUTF16", name := "newBytesLength", desc := "(I)I" } : Jvm.MethodName) prog_37_method_3_code (1 : Nat) (Option.some Jvm.ClassFile.FieldType.int)) ∈ lw_all := sorry
theorem q623 : (Jvm.Cond.constant "java/lang/StringUTF16" (20 : Nat) (1073741823 : Int32)) ∈ lw_all := sorry
theorem q691 : (Jvm.Cond.static ({ cls := "java/lang/StringUTF16", name := "putCharsAt", desc := "([BICCCC)I" } : Jvm.MethodName)) ∈ lw_all := lw_g (lw_at lw_m3 82 rfl) rfl
theorem q692 : (Jvm.Cond.code ({ cls := "java/lang/StringUTF16", name := "putCharsAt", desc := "([BICCCC)I" } : Jvm.MethodName) prog_37_method_81_code (7 : Nat) (Option.some Jvm.ClassFile.FieldType.int)) ∈ lw_all := lw_g (lw_at lw_m3 83 rfl) rfl
theorem q693 : (Jvm.Cond.methodLink "java/lang/StringUTF16" (96 : Nat) ({ cls := "java/lang/StringUTF16", name := "checkBoundsBeginEnd", desc := "(II[B)V" } : Jvm.MethodName)) ∈ lw_all := lw_g (lw_at lw_m3 84 rfl) rfl
theorem q694 : (Jvm.Cond.static ({ cls := "java/lang/StringUTF16", name := "checkBoundsBeginEnd", desc := "(II[B)V" } : Jvm.MethodName)) ∈ lw_all := lw_g (lw_at lw_m3 85 rfl) rfl
theorem q695 : (Jvm.Cond.code ({ cls := "java/lang/StringUTF16", name := "checkBoundsBeginEnd", desc := "(II[B)V" } : Jvm.MethodName) prog_37_method_93_code (3 : Nat) (Option.none : Option Jvm.ClassFile.FieldType)) ∈ lw_all := lw_g (lw_at lw_m3 86 rfl) rfl
theorem q696 : (Jvm.Cond.methodLink "java/lang/StringUTF16" (48 : Nat) ({ cls := "java/lang/StringUTF16", name := "length", desc := "([B)I" } : Jvm.MethodName)) ∈ lw_all := lw_g (lw_at lw_m3 87 rfl) rfl
theorem q697 : (Jvm.Cond.static ({ cls := "java/lang/StringUTF16", name := "length", desc := "([B)I" } : Jvm.MethodName)) ∈ lw_all := lw_g (lw_at lw_m3 88 rfl) rfl
theorem q698 : (Jvm.Cond.code ({ cls := "java/lang/StringUTF16", name := "length", desc := "([B)I" } : Jvm.MethodName) prog_37_method_6_code (1 : Nat) (Option.some Jvm.ClassFile.FieldType.int)) ∈ lw_all := lw_g (lw_at lw_m3 89 rfl) rfl
theorem q699 : (Jvm.Cond.methodLink "java/lang/StringUTF16" (241 : Nat) ({ cls := "java/lang/String", name := "checkBoundsBeginEnd", desc := "(III)V" } : Jvm.MethodName)) ∈ lw_all := sorry
theorem q707 : (Jvm.Cond.methodLink "java/lang/StringUTF16" (111 : Nat) ({ cls := "java/lang/StringUTF16", name := "putChar", desc := "([BII)V" } : Jvm.MethodName)) ∈ lw_all := lw_g (lw_at lw_m3 98 rfl) rfl
theorem q708 : (Jvm.Cond.static ({ cls := "java/lang/StringUTF16", name := "putChar", desc := "([BII)V" } : Jvm.MethodName)) ∈ lw_all := lw_g (lw_at lw_m3 99 rfl) rfl
theorem q709 : (Jvm.Cond.code ({ cls := "java/lang/StringUTF16", name := "putChar", desc := "([BII)V" } : Jvm.MethodName) prog_37_method_4_code (3 : Nat) (Option.none : Option Jvm.ClassFile.FieldType)) ∈ lw_all := lw_g (lw_at lw_m3 100 rfl) rfl
theorem q710 : (Jvm.Cond.fieldLink "java/lang/StringUTF16" (44 : Nat) "java/lang/StringUTF16" "$assertionsDisabled" "Z") ∈ lw_all := sorry
theorem q711 : (Jvm.Cond.laysStatic "java/lang/StringUTF16" "$assertionsDisabled" "Z") ∈ lw_tbl := sorry
theorem q712 : (Jvm.Cond.fieldLink "java/lang/StringUTF16" (59 : Nat) "java/lang/StringUTF16" "HI_BYTE_SHIFT" "I") ∈ lw_all := sorry
theorem q713 : (Jvm.Cond.laysStatic "java/lang/StringUTF16" "HI_BYTE_SHIFT" "I") ∈ lw_tbl := sorry
theorem q714 : (Jvm.Cond.fieldLink "java/lang/StringUTF16" (63 : Nat) "java/lang/StringUTF16" "LO_BYTE_SHIFT" "I") ∈ lw_all := sorry
theorem q715 : (Jvm.Cond.laysStatic "java/lang/StringUTF16" "LO_BYTE_SHIFT" "I") ∈ lw_tbl := sorry
theorem q742 : (Jvm.Cond.static ({ cls := "java/lang/StringUTF16", name := "inflate", desc := "([BI[BII)V" } : Jvm.MethodName)) ∈ lw_all := lw_g (lw_at lw_m3 133 rfl) rfl
theorem q743 : (Jvm.Cond.code ({ cls := "java/lang/StringUTF16", name := "inflate", desc := "([BI[BII)V" } : Jvm.MethodName) prog_37_method_86_code (6 : Nat) (Option.none : Option Jvm.ClassFile.FieldType)) ∈ lw_all := lw_g (lw_at lw_m3 134 rfl) rfl
theorem q744 : (Jvm.Cond.methodLink "java/lang/StringUTF16" (173 : Nat) ({ cls := "java/lang/StringUTF16", name := "checkBoundsOffCount", desc := "(II[B)V" } : Jvm.MethodName)) ∈ lw_all := lw_g (lw_at lw_m3 135 rfl) rfl
theorem q745 : (Jvm.Cond.static ({ cls := "java/lang/StringUTF16", name := "checkBoundsOffCount", desc := "(II[B)V" } : Jvm.MethodName)) ∈ lw_all := lw_g (lw_at lw_m3 136 rfl) rfl
theorem q746 : (Jvm.Cond.code ({ cls := "java/lang/StringUTF16", name := "checkBoundsOffCount", desc := "(II[B)V" } : Jvm.MethodName) prog_37_method_94_code (3 : Nat) (Option.none : Option Jvm.ClassFile.FieldType)) ∈ lw_all := lw_g (lw_at lw_m3 137 rfl) rfl
theorem q747 : (Jvm.Cond.methodLink "java/lang/StringUTF16" (419 : Nat) ({ cls := "java/lang/String", name := "checkBoundsOffCount", desc := "(III)I" } : Jvm.MethodName)) ∈ lw_all := sorry
theorem q825 : (Jvm.Cond.static ({ cls := "java/lang/StringUTF16", name := "getChars", desc := "(III[B)I" } : Jvm.MethodName)) ∈ lw_all := lw_g (lw_at lw_m3 216 rfl) rfl
theorem q826 : (Jvm.Cond.code ({ cls := "java/lang/StringUTF16", name := "getChars", desc := "(III[B)I" } : Jvm.MethodName) prog_37_method_77_code (5 : Nat) (Option.some Jvm.ClassFile.FieldType.int)) ∈ lw_all := lw_g (lw_at lw_m3 217 rfl) rfl
theorem q827 : (Jvm.Cond.methodLink "java/lang/StringUTF16" (393 : Nat) ({ cls := "java/lang/StringUTF16", name := "getChars", desc := "(II[B)I" } : Jvm.MethodName)) ∈ lw_all := lw_g (lw_at lw_m3 218 rfl) rfl
theorem q828 : (Jvm.Cond.static ({ cls := "java/lang/StringUTF16", name := "getChars", desc := "(II[B)I" } : Jvm.MethodName)) ∈ lw_all := lw_g (lw_at lw_m3 219 rfl) rfl
theorem q829 : (Jvm.Cond.code ({ cls := "java/lang/StringUTF16", name := "getChars", desc := "(II[B)I" } : Jvm.MethodName) prog_37_method_89_code (7 : Nat) (Option.some Jvm.ClassFile.FieldType.int)) ∈ lw_all := lw_g (lw_at lw_m3 220 rfl) rfl
theorem q830 : (Jvm.Cond.fieldLink "java/lang/StringUTF16" (403 : Nat) "java/lang/Integer" "DigitOnes" "[B") ∈ lw_all := lw_g (lw_at lw_m3 221 rfl) rfl
theorem q831 : (Jvm.Cond.fieldLink "java/lang/StringUTF16" (407 : Nat) "java/lang/Integer" "DigitTens" "[B") ∈ lw_all := lw_g (lw_at lw_m3 222 rfl) rfl
theorem q861 : (Jvm.Cond.static ({ cls := "java/lang/StringUTF16", name := "compress", desc := "([BII)[B" } : Jvm.MethodName)) ∈ lw_all := lw_g (lw_at lw_m4 12 rfl) rfl
theorem q862 : (Jvm.Cond.code ({ cls := "java/lang/StringUTF16", name := "compress", desc := "([BII)[B" } : Jvm.MethodName) prog_37_method_17_code (6 : Nat) (Option.some (Jvm.ClassFile.FieldType.array Jvm.ClassFile.FieldType.byte))) ∈ lw_all := lw_g (lw_at lw_m4 13 rfl) rfl
theorem q863 : (Jvm.Cond.methodLink "java/lang/StringUTF16" (123 : Nat) ({ cls := "java/lang/StringUTF16", name := "compress", desc := "([BI[BII)I" } : Jvm.MethodName)) ∈ lw_all := lw_g (lw_at lw_m4 14 rfl) rfl
theorem q864 : (Jvm.Cond.static ({ cls := "java/lang/StringUTF16", name := "compress", desc := "([BI[BII)I" } : Jvm.MethodName)) ∈ lw_all := lw_g (lw_at lw_m4 15 rfl) rfl
theorem q865 : (Jvm.Cond.code ({ cls := "java/lang/StringUTF16", name := "compress", desc := "([BI[BII)I" } : Jvm.MethodName) prog_37_method_22_code (7 : Nat) (Option.some Jvm.ClassFile.FieldType.int)) ∈ lw_all := lw_g (lw_at lw_m4 16 rfl) rfl
theorem q866 : (Jvm.Cond.methodLink "java/lang/StringUTF16" (71 : Nat) ({ cls := "java/lang/StringUTF16", name := "getChar", desc := "([BI)C" } : Jvm.MethodName)) ∈ lw_all := lw_g (lw_at lw_m4 17 rfl) rfl
theorem q867 : (Jvm.Cond.static ({ cls := "java/lang/StringUTF16", name := "getChar", desc := "([BI)C" } : Jvm.MethodName)) ∈ lw_all := lw_g (lw_at lw_m4 18 rfl) rfl
theorem q868 : (Jvm.Cond.code ({ cls := "java/lang/StringUTF16", name := "getChar", desc := "([BI)C" } : Jvm.MethodName) prog_37_method_5_code (2 : Nat) (Option.some Jvm.ClassFile.FieldType.char)) ∈ lw_all := lw_g (lw_at lw_m4 19 rfl) rfl
theorem q869 : (Jvm.Cond.methodLink "java/lang/StringUTF16" (126 : Nat) ({ cls := "java/util/Arrays", name := "copyOfRange", desc := "([BII)[B" } : Jvm.MethodName)) ∈ lw_all := lw_g (lw_at lw_m4 20 rfl) rfl
theorem q871 : (Jvm.Cond.static ({ cls := "java/lang/StringUTF16", name := "coderFromArrayLen", desc := "([BI)B" } : Jvm.MethodName)) ∈ lw_all := lw_g (lw_at lw_m4 22 rfl) rfl
theorem q872 : (Jvm.Cond.code ({ cls := "java/lang/StringUTF16", name := "coderFromArrayLen", desc := "([BI)B" } : Jvm.MethodName) prog_37_method_15_code (2 : Nat) (Option.some Jvm.ClassFile.FieldType.byte)) ∈ lw_all := lw_g (lw_at lw_m4 23 rfl) rfl
theorem q1519 : (Jvm.Cond.static ({ cls := "java/lang/StringUTF16", name := "charAt", desc := "([BI)C" } : Jvm.MethodName)) ∈ lw_all := lw_g (lw_at lw_m6 190 rfl) rfl
theorem q1520 : (Jvm.Cond.code ({ cls := "java/lang/StringUTF16", name := "charAt", desc := "([BI)C" } : Jvm.MethodName) prog_37_method_83_code (2 : Nat) (Option.some Jvm.ClassFile.FieldType.char)) ∈ lw_all := lw_g (lw_at lw_m6 191 rfl) rfl
theorem q1521 : (Jvm.Cond.methodLink "java/lang/StringUTF16" (67 : Nat) ({ cls := "java/lang/StringUTF16", name := "checkIndex", desc := "(I[B)V" } : Jvm.MethodName)) ∈ lw_all := lw_g (lw_at lw_m6 192 rfl) rfl
theorem q1522 : (Jvm.Cond.static ({ cls := "java/lang/StringUTF16", name := "checkIndex", desc := "(I[B)V" } : Jvm.MethodName)) ∈ lw_all := lw_g (lw_at lw_m6 193 rfl) rfl
theorem q1523 : (Jvm.Cond.code ({ cls := "java/lang/StringUTF16", name := "checkIndex", desc := "(I[B)V" } : Jvm.MethodName) prog_37_method_91_code (2 : Nat) (Option.none : Option Jvm.ClassFile.FieldType)) ∈ lw_all := lw_g (lw_at lw_m6 194 rfl) rfl
theorem q1524 : (Jvm.Cond.methodLink "java/lang/StringUTF16" (414 : Nat) ({ cls := "java/lang/String", name := "checkIndex", desc := "(II)V" } : Jvm.MethodName)) ∈ lw_all := sorry
theorem q1588 : (Jvm.Cond.static ({ cls := "java/lang/StringUTF16", name := "fillNull", desc := "([BII)V" } : Jvm.MethodName)) ∈ lw_all := lw_g (lw_at lw_m7 19 rfl) rfl
theorem q1589 : (Jvm.Cond.code ({ cls := "java/lang/StringUTF16", name := "fillNull", desc := "([BII)V" } : Jvm.MethodName) prog_37_method_70_code (3 : Nat) (Option.none : Option Jvm.ClassFile.FieldType)) ∈ lw_all := lw_g (lw_at lw_m7 20 rfl) rfl
theorem q1590 : (Jvm.Cond.methodLink "java/lang/StringUTF16" (380 : Nat) ({ cls := "java/util/Arrays", name := "fill", desc := "([BIIB)V" } : Jvm.MethodName)) ∈ lw_all := lw_g (lw_at lw_m7 21 rfl) rfl
theorem q1607 : (Jvm.Cond.static ({ cls := "java/lang/StringUTF16", name := "putCharSB", desc := "([BII)V" } : Jvm.MethodName)) ∈ lw_all := lw_g (lw_at lw_m7 38 rfl) rfl
theorem q1608 : (Jvm.Cond.code ({ cls := "java/lang/StringUTF16", name := "putCharSB", desc := "([BII)V" } : Jvm.MethodName) prog_37_method_71_code (3 : Nat) (Option.none : Option Jvm.ClassFile.FieldType)) ∈ lw_all := lw_g (lw_at lw_m7 39 rfl) rfl
theorem q1800 : (Jvm.Cond.static ({ cls := "java/lang/StringUTF16", name := "hashCode", desc := "([B)I" } : Jvm.MethodName)) ∈ lw_all := lw_g (lw_at lw_m7 231 rfl) rfl
theorem q1801 : (Jvm.Cond.code ({ cls := "java/lang/StringUTF16", name := "hashCode", desc := "([B)I" } : Jvm.MethodName) prog_37_method_39_code (1 : Nat) (Option.some Jvm.ClassFile.FieldType.int)) ∈ lw_all := lw_g (lw_at lw_m7 232 rfl) rfl
theorem q1802 : (Jvm.Cond.methodLink "java/lang/StringUTF16" (220 : Nat) ({ cls := "jdk/internal/util/ArraysSupport", name := "vectorizedHashCode", desc := "(Ljava/lang/Object;IIII)I" } : Jvm.MethodName)) ∈ lw_all := sorry
theorem q2278 : (Jvm.Cond.static ({ cls := "java/lang/StringUTF16", name := "getChars", desc := "(JII[B)I" } : Jvm.MethodName)) ∈ lw_all := lw_g (lw_at lw_m9 229 rfl) rfl
theorem q2279 : (Jvm.Cond.code ({ cls := "java/lang/StringUTF16", name := "getChars", desc := "(JII[B)I" } : Jvm.MethodName) prog_37_method_78_code (6 : Nat) (Option.some Jvm.ClassFile.FieldType.int)) ∈ lw_all := lw_g (lw_at lw_m9 230 rfl) rfl
theorem q2280 : (Jvm.Cond.methodLink "java/lang/StringUTF16" (396 : Nat) ({ cls := "java/lang/StringUTF16", name := "getChars", desc := "(JI[B)I" } : Jvm.MethodName)) ∈ lw_all := lw_g (lw_at lw_m9 231 rfl) rfl
theorem q2281 : (Jvm.Cond.static ({ cls := "java/lang/StringUTF16", name := "getChars", desc := "(JI[B)I" } : Jvm.MethodName)) ∈ lw_all := lw_g (lw_at lw_m9 232 rfl) rfl
theorem q2282 : (Jvm.Cond.code ({ cls := "java/lang/StringUTF16", name := "getChars", desc := "(JI[B)I" } : Jvm.MethodName) prog_37_method_90_code (11 : Nat) (Option.some Jvm.ClassFile.FieldType.int)) ∈ lw_all := lw_g (lw_at lw_m9 233 rfl) rfl
theorem q2283 : (Jvm.Cond.constantLong "java/lang/StringUTF16" (410 : Nat) (-2147483648 : Int64)) ∈ lw_all := sorry
theorem q2284 : (Jvm.Cond.constantLong "java/lang/StringUTF16" (412 : Nat) (100 : Int64)) ∈ lw_all := sorry
/-! jdk/internal/util/ArraysSupport -/
set_option maxRecDepth 100000
def RJ18 : String := "jdk/internal/util/ArraysSupport"
abbrev cJ18_newLength : ByteArray := prog_75_method_27_code
def yJ18_newLength : MethodName := ⟨RJ18, "newLength", "(III)I"⟩
def dkwJ18_newLength_1 : List UInt8 := [184, 0, 201, 172]
abbrev dktJ18_newLength_1 : List UInt8 := dkwJ18_newLength_1 ++ []
def dkwJ18_newLength_0 : List UInt8 := [26, 27, 28, 184, 0, 194, 96, 62, 3, 29, 162, 0, 11, 29, 18, 200, 163, 0, 5, 29, 172, 26, 27]
abbrev dktJ18_newLength_0 : List UInt8 := dkwJ18_newLength_0 ++ dktJ18_newLength_1
theorem dksJ18_newLength_0 : cJ18_newLength.data.toList.drop 0 = dktJ18_newLength_0 := sorry
theorem dksJ18_newLength_1 : cJ18_newLength.data.toList.drop 23 = dktJ18_newLength_1 := sorry
theorem dJ18_newLength_0 : decode cJ18_newLength 0 = .ok (.iload_n 0, 1) := sorry
theorem dJ18_newLength_1 : decode cJ18_newLength 1 = .ok (.iload_n 1, 1) := sorry
theorem dJ18_newLength_2 : decode cJ18_newLength 2 = .ok (.iload_n 2, 1) := sorry
theorem dJ18_newLength_3 : decode cJ18_newLength 3 = .ok (.invokestatic 194, 3) := sorry
theorem dJ18_newLength_6 : decode cJ18_newLength 6 = .ok (.iadd, 1) := sorry
theorem dJ18_newLength_7 : decode cJ18_newLength 7 = .ok (.istore_n 3, 1) := sorry
theorem dJ18_newLength_8 : decode cJ18_newLength 8 = .ok (.iconst 0, 1) := sorry
theorem dJ18_newLength_9 : decode cJ18_newLength 9 = .ok (.iload_n 3, 1) := sorry
theorem dJ18_newLength_10 : decode cJ18_newLength 10 = .ok (.if_icmp .ge 11, 3) := sorry
theorem dJ18_newLength_13 : decode cJ18_newLength 13 = .ok (.iload_n 3, 1) := sorry
theorem dJ18_newLength_14 : decode cJ18_newLength 14 = .ok (.ldc 200, 2) := sorry
theorem dJ18_newLength_16 : decode cJ18_newLength 16 = .ok (.if_icmp .gt 5, 3) := sorry
theorem dJ18_newLength_19 : decode cJ18_newLength 19 = .ok (.iload_n 3, 1) := sorry
theorem dJ18_newLength_20 : decode cJ18_newLength 20 = .ok (.ireturn, 1) := sorry
theorem dJ18_newLength_21 : decode cJ18_newLength 21 = .ok (.iload_n 0, 1) := sorry
theorem dJ18_newLength_22 : decode cJ18_newLength 22 = .ok (.iload_n 1, 1) := sorry
theorem dJ18_newLength_23 : decode cJ18_newLength 23 = .ok (.invokestatic 201, 3) := sorry
theorem dJ18_newLength_26 : decode cJ18_newLength 26 = .ok (.ireturn, 1) := sorry
abbrev cJ18_hugeLength : ByteArray := prog_75_method_28_code
def yJ18_hugeLength : MethodName := ⟨RJ18, "hugeLength", "(II)I"⟩
def dkwJ18_hugeLength_2 : List UInt8 := [191, 28, 18, 200, 163, 0, 6, 18, 200, 172, 28, 172]
abbrev dktJ18_hugeLength_2 : List UInt8 := dkwJ18_hugeLength_2 ++ []
def dkwJ18_hugeLength_1 : List UInt8 := [26, 182, 0, 98, 18, 208, 182, 0, 94, 27, 182, 0, 98, 18, 210, 182, 0, 94, 182, 0, 101, 183, 0, 212]
abbrev dktJ18_hugeLength_1 : List UInt8 := dkwJ18_hugeLength_1 ++ dktJ18_hugeLength_2
def dkwJ18_hugeLength_0 : List UInt8 := [26, 27, 96, 61, 28, 156, 0, 44, 187, 0, 204, 89, 187, 0, 89, 89, 183, 0, 91, 18, 206, 182, 0, 94]
abbrev dktJ18_hugeLength_0 : List UInt8 := dkwJ18_hugeLength_0 ++ dktJ18_hugeLength_1
theorem dksJ18_hugeLength_0 : cJ18_hugeLength.data.toList.drop 0 = dktJ18_hugeLength_0 := sorry
theorem dksJ18_hugeLength_1 : cJ18_hugeLength.data.toList.drop 24 = dktJ18_hugeLength_1 := sorry
theorem dksJ18_hugeLength_2 : cJ18_hugeLength.data.toList.drop 48 = dktJ18_hugeLength_2 := sorry
theorem dJ18_hugeLength_0 : decode cJ18_hugeLength 0 = .ok (.iload_n 0, 1) := sorry
theorem dJ18_hugeLength_1 : decode cJ18_hugeLength 1 = .ok (.iload_n 1, 1) := sorry
theorem dJ18_hugeLength_2 : decode cJ18_hugeLength 2 = .ok (.iadd, 1) := sorry
theorem dJ18_hugeLength_3 : decode cJ18_hugeLength 3 = .ok (.istore_n 2, 1) := sorry
theorem dJ18_hugeLength_4 : decode cJ18_hugeLength 4 = .ok (.iload_n 2, 1) := sorry
theorem dJ18_hugeLength_5 : decode cJ18_hugeLength 5 = .ok (.ifCond .ge 44, 3) := sorry
theorem dJ18_hugeLength_8 : decode cJ18_hugeLength 8 = .ok (.new 204, 3) := sorry
theorem dJ18_hugeLength_11 : decode cJ18_hugeLength 11 = .ok (.dup, 1) := sorry
theorem dJ18_hugeLength_12 : decode cJ18_hugeLength 12 = .ok (.new 89, 3) := sorry
theorem dJ18_hugeLength_15 : decode cJ18_hugeLength 15 = .ok (.dup, 1) := sorry
theorem dJ18_hugeLength_16 : decode cJ18_hugeLength 16 = .ok (.invokespecial 91, 3) := sorry
theorem dJ18_hugeLength_19 : decode cJ18_hugeLength 19 = .ok (.ldc 206, 2) := sorry
theorem dJ18_hugeLength_21 : decode cJ18_hugeLength 21 = .ok (.invokevirtual 94, 3) := sorry
theorem dJ18_hugeLength_24 : decode cJ18_hugeLength 24 = .ok (.iload_n 0, 1) := sorry
theorem dJ18_hugeLength_25 : decode cJ18_hugeLength 25 = .ok (.invokevirtual 98, 3) := sorry
theorem dJ18_hugeLength_28 : decode cJ18_hugeLength 28 = .ok (.ldc 208, 2) := sorry
theorem dJ18_hugeLength_30 : decode cJ18_hugeLength 30 = .ok (.invokevirtual 94, 3) := sorry
theorem dJ18_hugeLength_33 : decode cJ18_hugeLength 33 = .ok (.iload_n 1, 1) := sorry
theorem dJ18_hugeLength_34 : decode cJ18_hugeLength 34 = .ok (.invokevirtual 98, 3) := sorry
theorem dJ18_hugeLength_37 : decode cJ18_hugeLength 37 = .ok (.ldc 210, 2) := sorry
theorem dJ18_hugeLength_39 : decode cJ18_hugeLength 39 = .ok (.invokevirtual 94, 3) := sorry
theorem dJ18_hugeLength_42 : decode cJ18_hugeLength 42 = .ok (.invokevirtual 101, 3) := sorry
theorem dJ18_hugeLength_45 : decode cJ18_hugeLength 45 = .ok (.invokespecial 212, 3) := sorry
theorem dJ18_hugeLength_48 : decode cJ18_hugeLength 48 = .ok (.athrow, 1) := sorry
theorem dJ18_hugeLength_49 : decode cJ18_hugeLength 49 = .ok (.iload_n 2, 1) := sorry
theorem dJ18_hugeLength_50 : decode cJ18_hugeLength 50 = .ok (.ldc 200, 2) := sorry
theorem dJ18_hugeLength_52 : decode cJ18_hugeLength 52 = .ok (.if_icmp .gt 6, 3) := sorry
theorem dJ18_hugeLength_55 : decode cJ18_hugeLength 55 = .ok (.ldc 200, 2) := sorry
theorem dJ18_hugeLength_57 : decode cJ18_hugeLength 57 = .ok (.ireturn, 1) := sorry
theorem dJ18_hugeLength_58 : decode cJ18_hugeLength 58 = .ok (.iload_n 2, 1) := sorry
theorem dJ18_hugeLength_59 : decode cJ18_hugeLength 59 = .ok (.ireturn, 1) := sorry
abbrev cJ18_vectorizedHashCode : ByteArray := prog_75_method_4_code
def yJ18_vectorizedHashCode : MethodName := ⟨RJ18, "vectorizedHashCode", "(Ljava/lang/Object;IIII)I"⟩
def dkwJ18_vectorizedHashCode_6 : List UInt8 := [183, 0, 91, 18, 92, 182, 0, 94, 21, 4, 182, 0, 98, 182, 0, 101, 183, 0, 105, 191, 172]
abbrev dktJ18_vectorizedHashCode_6 : List UInt8 := dkwJ18_vectorizedHashCode_6 ++ []
def dkwJ18_vectorizedHashCode_5 : List UInt8 := [167, 0, 44, 29, 42, 192, 0, 82, 27, 28, 184, 0, 84, 167, 0, 31, 187, 0, 87, 89, 187, 0, 89, 89]
abbrev dktJ18_vectorizedHashCode_5 : List UInt8 := dkwJ18_vectorizedHashCode_5 ++ dktJ18_vectorizedHashCode_6
def dkwJ18_vectorizedHashCode_4 : List UInt8 := [29, 42, 192, 0, 60, 27, 28, 184, 0, 75, 167, 0, 57, 29, 42, 192, 0, 77, 27, 28, 184, 0, 79]
abbrev dktJ18_vectorizedHashCode_4 : List UInt8 := dkwJ18_vectorizedHashCode_4 ++ dktJ18_vectorizedHashCode_5
def dkwJ18_vectorizedHashCode_3 : List UInt8 := [192, 0, 60, 27, 28, 184, 0, 66, 167, 0, 83, 29, 42, 192, 0, 69, 27, 28, 184, 0, 71, 167, 0, 70]
abbrev dktJ18_vectorizedHashCode_3 : List UInt8 := dkwJ18_vectorizedHashCode_3 ++ dktJ18_vectorizedHashCode_4
def dkwJ18_vectorizedHashCode_2 : List UInt8 := [29, 42, 192, 0, 60, 27, 28, 184, 0, 62, 167, 0, 103, 42, 193, 0, 60, 153, 0, 16, 29, 42]
abbrev dktJ18_vectorizedHashCode_2 : List UInt8 := dkwJ18_vectorizedHashCode_2 ++ dktJ18_vectorizedHashCode_3
def dkwJ18_vectorizedHashCode_1 : List UInt8 := [170, 0, 0, 0, 0, 127, 0, 0, 0, 4, 0, 0, 0, 10, 0, 0, 0, 42, 0, 0, 0, 55, 0, 0, 0, 127, 0, 0, 0, 127, 0, 0, 0, 88, 0, 0, 0, 101, 0, 0, 0, 114]
abbrev dktJ18_vectorizedHashCode_1 : List UInt8 := dkwJ18_vectorizedHashCode_1 ++ dktJ18_vectorizedHashCode_2
def dkwJ18_vectorizedHashCode_0 : List UInt8 := [21, 4]
abbrev dktJ18_vectorizedHashCode_0 : List UInt8 := dkwJ18_vectorizedHashCode_0 ++ dktJ18_vectorizedHashCode_1
theorem dksJ18_vectorizedHashCode_0 : cJ18_vectorizedHashCode.data.toList.drop 0 = dktJ18_vectorizedHashCode_0 := sorry
theorem dksJ18_vectorizedHashCode_1 : cJ18_vectorizedHashCode.data.toList.drop 2 = dktJ18_vectorizedHashCode_1 := sorry
theorem dksJ18_vectorizedHashCode_2 : cJ18_vectorizedHashCode.data.toList.drop 44 = dktJ18_vectorizedHashCode_2 := sorry
theorem dksJ18_vectorizedHashCode_3 : cJ18_vectorizedHashCode.data.toList.drop 66 = dktJ18_vectorizedHashCode_3 := sorry
theorem dksJ18_vectorizedHashCode_4 : cJ18_vectorizedHashCode.data.toList.drop 90 = dktJ18_vectorizedHashCode_4 := sorry
theorem dksJ18_vectorizedHashCode_5 : cJ18_vectorizedHashCode.data.toList.drop 113 = dktJ18_vectorizedHashCode_5 := sorry
theorem dksJ18_vectorizedHashCode_6 : cJ18_vectorizedHashCode.data.toList.drop 137 = dktJ18_vectorizedHashCode_6 := sorry
theorem dJ18_vectorizedHashCode_0 : decode cJ18_vectorizedHashCode 0 = .ok (.iload 4, 2) := sorry
theorem dJ18_vectorizedHashCode_2 : decode cJ18_vectorizedHashCode 2 = .ok (.tableswitch 127 4 10 #[42, 55, 127, 127, 88, 101, 114], 42) := sorry
theorem dJ18_vectorizedHashCode_44 : decode cJ18_vectorizedHashCode 44 = .ok (.iload_n 3, 1) := sorry
theorem dJ18_vectorizedHashCode_45 : decode cJ18_vectorizedHashCode 45 = .ok (.aload_n 0, 1) := sorry
theorem dJ18_vectorizedHashCode_46 : decode cJ18_vectorizedHashCode 46 = .ok (.checkcast 60, 3) := sorry
theorem dJ18_vectorizedHashCode_49 : decode cJ18_vectorizedHashCode 49 = .ok (.iload_n 1, 1) := sorry
theorem dJ18_vectorizedHashCode_50 : decode cJ18_vectorizedHashCode 50 = .ok (.iload_n 2, 1) := sorry
theorem dJ18_vectorizedHashCode_51 : decode cJ18_vectorizedHashCode 51 = .ok (.invokestatic 62, 3) := sorry
theorem dJ18_vectorizedHashCode_54 : decode cJ18_vectorizedHashCode 54 = .ok (.goto 103, 3) := sorry
theorem dJ18_vectorizedHashCode_57 : decode cJ18_vectorizedHashCode 57 = .ok (.aload_n 0, 1) := sorry
theorem dJ18_vectorizedHashCode_58 : decode cJ18_vectorizedHashCode 58 = .ok (.instanceof 60, 3) := sorry
theorem dJ18_vectorizedHashCode_61 : decode cJ18_vectorizedHashCode 61 = .ok (.ifCond .eq 16, 3) := sorry
theorem dJ18_vectorizedHashCode_64 : decode cJ18_vectorizedHashCode 64 = .ok (.iload_n 3, 1) := sorry
theorem dJ18_vectorizedHashCode_65 : decode cJ18_vectorizedHashCode 65 = .ok (.aload_n 0, 1) := sorry
theorem dJ18_vectorizedHashCode_66 : decode cJ18_vectorizedHashCode 66 = .ok (.checkcast 60, 3) := sorry
theorem dJ18_vectorizedHashCode_69 : decode cJ18_vectorizedHashCode 69 = .ok (.iload_n 1, 1) := sorry
theorem dJ18_vectorizedHashCode_70 : decode cJ18_vectorizedHashCode 70 = .ok (.iload_n 2, 1) := sorry
theorem dJ18_vectorizedHashCode_71 : decode cJ18_vectorizedHashCode 71 = .ok (.invokestatic 66, 3) := sorry
theorem dJ18_vectorizedHashCode_74 : decode cJ18_vectorizedHashCode 74 = .ok (.goto 83, 3) := sorry
theorem dJ18_vectorizedHashCode_77 : decode cJ18_vectorizedHashCode 77 = .ok (.iload_n 3, 1) := sorry
theorem dJ18_vectorizedHashCode_78 : decode cJ18_vectorizedHashCode 78 = .ok (.aload_n 0, 1) := sorry
theorem dJ18_vectorizedHashCode_79 : decode cJ18_vectorizedHashCode 79 = .ok (.checkcast 69, 3) := sorry
theorem dJ18_vectorizedHashCode_82 : decode cJ18_vectorizedHashCode 82 = .ok (.iload_n 1, 1) := sorry
theorem dJ18_vectorizedHashCode_83 : decode cJ18_vectorizedHashCode 83 = .ok (.iload_n 2, 1) := sorry
theorem dJ18_vectorizedHashCode_84 : decode cJ18_vectorizedHashCode 84 = .ok (.invokestatic 71, 3) := sorry
theorem dJ18_vectorizedHashCode_87 : decode cJ18_vectorizedHashCode 87 = .ok (.goto 70, 3) := sorry
theorem dJ18_vectorizedHashCode_90 : decode cJ18_vectorizedHashCode 90 = .ok (.iload_n 3, 1) := sorry
theorem dJ18_vectorizedHashCode_91 : decode cJ18_vectorizedHashCode 91 = .ok (.aload_n 0, 1) := sorry
theorem dJ18_vectorizedHashCode_92 : decode cJ18_vectorizedHashCode 92 = .ok (.checkcast 60, 3) := sorry
theorem dJ18_vectorizedHashCode_95 : decode cJ18_vectorizedHashCode 95 = .ok (.iload_n 1, 1) := sorry
theorem dJ18_vectorizedHashCode_96 : decode cJ18_vectorizedHashCode 96 = .ok (.iload_n 2, 1) := sorry
theorem dJ18_vectorizedHashCode_97 : decode cJ18_vectorizedHashCode 97 = .ok (.invokestatic 75, 3) := sorry
theorem dJ18_vectorizedHashCode_100 : decode cJ18_vectorizedHashCode 100 = .ok (.goto 57, 3) := sorry
theorem dJ18_vectorizedHashCode_103 : decode cJ18_vectorizedHashCode 103 = .ok (.iload_n 3, 1) := sorry
theorem dJ18_vectorizedHashCode_104 : decode cJ18_vectorizedHashCode 104 = .ok (.aload_n 0, 1) := sorry
theorem dJ18_vectorizedHashCode_105 : decode cJ18_vectorizedHashCode 105 = .ok (.checkcast 77, 3) := sorry
theorem dJ18_vectorizedHashCode_108 : decode cJ18_vectorizedHashCode 108 = .ok (.iload_n 1, 1) := sorry
theorem dJ18_vectorizedHashCode_109 : decode cJ18_vectorizedHashCode 109 = .ok (.iload_n 2, 1) := sorry
theorem dJ18_vectorizedHashCode_110 : decode cJ18_vectorizedHashCode 110 = .ok (.invokestatic 79, 3) := sorry
theorem dJ18_vectorizedHashCode_113 : decode cJ18_vectorizedHashCode 113 = .ok (.goto 44, 3) := sorry
theorem dJ18_vectorizedHashCode_116 : decode cJ18_vectorizedHashCode 116 = .ok (.iload_n 3, 1) := sorry
theorem dJ18_vectorizedHashCode_117 : decode cJ18_vectorizedHashCode 117 = .ok (.aload_n 0, 1) := sorry
theorem dJ18_vectorizedHashCode_118 : decode cJ18_vectorizedHashCode 118 = .ok (.checkcast 82, 3) := sorry
theorem dJ18_vectorizedHashCode_121 : decode cJ18_vectorizedHashCode 121 = .ok (.iload_n 1, 1) := sorry
theorem dJ18_vectorizedHashCode_122 : decode cJ18_vectorizedHashCode 122 = .ok (.iload_n 2, 1) := sorry
theorem dJ18_vectorizedHashCode_123 : decode cJ18_vectorizedHashCode 123 = .ok (.invokestatic 84, 3) := sorry
theorem dJ18_vectorizedHashCode_126 : decode cJ18_vectorizedHashCode 126 = .ok (.goto 31, 3) := sorry
theorem dJ18_vectorizedHashCode_129 : decode cJ18_vectorizedHashCode 129 = .ok (.new 87, 3) := sorry
theorem dJ18_vectorizedHashCode_132 : decode cJ18_vectorizedHashCode 132 = .ok (.dup, 1) := sorry
theorem dJ18_vectorizedHashCode_133 : decode cJ18_vectorizedHashCode 133 = .ok (.new 89, 3) := sorry
theorem dJ18_vectorizedHashCode_136 : decode cJ18_vectorizedHashCode 136 = .ok (.dup, 1) := sorry
theorem dJ18_vectorizedHashCode_137 : decode cJ18_vectorizedHashCode 137 = .ok (.invokespecial 91, 3) := sorry
theorem dJ18_vectorizedHashCode_140 : decode cJ18_vectorizedHashCode 140 = .ok (.ldc 92, 2) := sorry
theorem dJ18_vectorizedHashCode_142 : decode cJ18_vectorizedHashCode 142 = .ok (.invokevirtual 94, 3) := sorry
theorem dJ18_vectorizedHashCode_145 : decode cJ18_vectorizedHashCode 145 = .ok (.iload 4, 2) := sorry
theorem dJ18_vectorizedHashCode_147 : decode cJ18_vectorizedHashCode 147 = .ok (.invokevirtual 98, 3) := sorry
theorem dJ18_vectorizedHashCode_150 : decode cJ18_vectorizedHashCode 150 = .ok (.invokevirtual 101, 3) := sorry
theorem dJ18_vectorizedHashCode_153 : decode cJ18_vectorizedHashCode 153 = .ok (.invokespecial 105, 3) := sorry
theorem dJ18_vectorizedHashCode_156 : decode cJ18_vectorizedHashCode 156 = .ok (.athrow, 1) := sorry
theorem dJ18_vectorizedHashCode_157 : decode cJ18_vectorizedHashCode 157 = .ok (.ireturn, 1) := sorry
abbrev cJ18_signedHashCode : ByteArray := prog_75_method_5_code
def yJ18_signedHashCode : MethodName := ⟨RJ18, "signedHashCode", "(I[BII)I"⟩
def dkwJ18_signedHashCode_1 : List UInt8 := [17, 0, 255, 126, 96, 59, 132, 5, 1, 167, 255, 232, 26, 172]
abbrev dktJ18_signedHashCode_1 : List UInt8 := dkwJ18_signedHashCode_1 ++ []
def dkwJ18_signedHashCode_0 : List UInt8 := [28, 29, 96, 54, 4, 28, 54, 5, 21, 5, 21, 4, 162, 0, 23, 16, 31, 26, 104, 43, 21, 5, 51]
abbrev dktJ18_signedHashCode_0 : List UInt8 := dkwJ18_signedHashCode_0 ++ dktJ18_signedHashCode_1
theorem dksJ18_signedHashCode_0 : cJ18_signedHashCode.data.toList.drop 0 = dktJ18_signedHashCode_0 := sorry
theorem dksJ18_signedHashCode_1 : cJ18_signedHashCode.data.toList.drop 23 = dktJ18_signedHashCode_1 := sorry
theorem dJ18_signedHashCode_0 : decode cJ18_signedHashCode 0 = .ok (.iload_n 2, 1) := sorry
theorem dJ18_signedHashCode_1 : decode cJ18_signedHashCode 1 = .ok (.iload_n 3, 1) := sorry
theorem dJ18_signedHashCode_2 : decode cJ18_signedHashCode 2 = .ok (.iadd, 1) := sorry
theorem dJ18_signedHashCode_3 : decode cJ18_signedHashCode 3 = .ok (.istore 4, 2) := sorry
theorem dJ18_signedHashCode_5 : decode cJ18_signedHashCode 5 = .ok (.iload_n 2, 1) := sorry
theorem dJ18_signedHashCode_6 : decode cJ18_signedHashCode 6 = .ok (.istore 5, 2) := sorry
theorem dJ18_signedHashCode_8 : decode cJ18_signedHashCode 8 = .ok (.iload 5, 2) := sorry
theorem dJ18_signedHashCode_10 : decode cJ18_signedHashCode 10 = .ok (.iload 4, 2) := sorry
theorem dJ18_signedHashCode_12 : decode cJ18_signedHashCode 12 = .ok (.if_icmp .ge 23, 3) := sorry
theorem dJ18_signedHashCode_15 : decode cJ18_signedHashCode 15 = .ok (.bipush 31, 2) := sorry
theorem dJ18_signedHashCode_17 : decode cJ18_signedHashCode 17 = .ok (.iload_n 0, 1) := sorry
theorem dJ18_signedHashCode_18 : decode cJ18_signedHashCode 18 = .ok (.imul, 1) := sorry
theorem dJ18_signedHashCode_19 : decode cJ18_signedHashCode 19 = .ok (.aload_n 1, 1) := sorry
theorem dJ18_signedHashCode_20 : decode cJ18_signedHashCode 20 = .ok (.iload 5, 2) := sorry
theorem dJ18_signedHashCode_22 : decode cJ18_signedHashCode 22 = .ok (.baload, 1) := sorry
theorem dJ18_signedHashCode_23 : decode cJ18_signedHashCode 23 = .ok (.sipush 255, 3) := sorry
theorem dJ18_signedHashCode_26 : decode cJ18_signedHashCode 26 = .ok (.iand, 1) := sorry
theorem dJ18_signedHashCode_27 : decode cJ18_signedHashCode 27 = .ok (.iadd, 1) := sorry
theorem dJ18_signedHashCode_28 : decode cJ18_signedHashCode 28 = .ok (.istore_n 0, 1) := sorry
theorem dJ18_signedHashCode_29 : decode cJ18_signedHashCode 29 = .ok (.iinc 5 1, 3) := sorry
theorem dJ18_signedHashCode_32 : decode cJ18_signedHashCode 32 = .ok (.goto (-24), 3) := sorry
theorem dJ18_signedHashCode_35 : decode cJ18_signedHashCode 35 = .ok (.iload_n 0, 1) := sorry
theorem dJ18_signedHashCode_36 : decode cJ18_signedHashCode 36 = .ok (.ireturn, 1) := sorry
abbrev cJ18_utf16hashCode : ByteArray := prog_75_method_10_code
def yJ18_utf16hashCode : MethodName := ⟨RJ18, "utf16hashCode", "(I[BII)I"⟩
def dkwJ18_utf16hashCode_1 : List UInt8 := [21, 5, 185, 0, 110, 3, 0, 96, 59, 132, 5, 1, 167, 255, 229, 26, 172]
abbrev dktJ18_utf16hashCode_1 : List UInt8 := dkwJ18_utf16hashCode_1 ++ []
def dkwJ18_utf16hashCode_0 : List UInt8 := [28, 29, 96, 54, 4, 28, 54, 5, 21, 5, 21, 4, 162, 0, 26, 16, 31, 26, 104, 178, 0, 106, 43]
abbrev dktJ18_utf16hashCode_0 : List UInt8 := dkwJ18_utf16hashCode_0 ++ dktJ18_utf16hashCode_1
theorem dksJ18_utf16hashCode_0 : cJ18_utf16hashCode.data.toList.drop 0 = dktJ18_utf16hashCode_0 := sorry
theorem dksJ18_utf16hashCode_1 : cJ18_utf16hashCode.data.toList.drop 23 = dktJ18_utf16hashCode_1 := sorry
theorem dJ18_utf16hashCode_0 : decode cJ18_utf16hashCode 0 = .ok (.iload_n 2, 1) := sorry
theorem dJ18_utf16hashCode_1 : decode cJ18_utf16hashCode 1 = .ok (.iload_n 3, 1) := sorry
theorem dJ18_utf16hashCode_2 : decode cJ18_utf16hashCode 2 = .ok (.iadd, 1) := sorry
theorem dJ18_utf16hashCode_3 : decode cJ18_utf16hashCode 3 = .ok (.istore 4, 2) := sorry
theorem dJ18_utf16hashCode_5 : decode cJ18_utf16hashCode 5 = .ok (.iload_n 2, 1) := sorry
theorem dJ18_utf16hashCode_6 : decode cJ18_utf16hashCode 6 = .ok (.istore 5, 2) := sorry
theorem dJ18_utf16hashCode_8 : decode cJ18_utf16hashCode 8 = .ok (.iload 5, 2) := sorry
theorem dJ18_utf16hashCode_10 : decode cJ18_utf16hashCode 10 = .ok (.iload 4, 2) := sorry
theorem dJ18_utf16hashCode_12 : decode cJ18_utf16hashCode 12 = .ok (.if_icmp .ge 26, 3) := sorry
theorem dJ18_utf16hashCode_15 : decode cJ18_utf16hashCode 15 = .ok (.bipush 31, 2) := sorry
theorem dJ18_utf16hashCode_17 : decode cJ18_utf16hashCode 17 = .ok (.iload_n 0, 1) := sorry
theorem dJ18_utf16hashCode_18 : decode cJ18_utf16hashCode 18 = .ok (.imul, 1) := sorry
theorem dJ18_utf16hashCode_19 : decode cJ18_utf16hashCode 19 = .ok (.getstatic 106, 3) := sorry
theorem dJ18_utf16hashCode_22 : decode cJ18_utf16hashCode 22 = .ok (.aload_n 1, 1) := sorry
theorem dJ18_utf16hashCode_23 : decode cJ18_utf16hashCode 23 = .ok (.iload 5, 2) := sorry
theorem dJ18_utf16hashCode_25 : decode cJ18_utf16hashCode 25 = .ok (.invokeinterface 110 3, 5) := sorry
theorem dJ18_utf16hashCode_30 : decode cJ18_utf16hashCode 30 = .ok (.iadd, 1) := sorry
theorem dJ18_utf16hashCode_31 : decode cJ18_utf16hashCode 31 = .ok (.istore_n 0, 1) := sorry
theorem dJ18_utf16hashCode_32 : decode cJ18_utf16hashCode 32 = .ok (.iinc 5 1, 3) := sorry
theorem dJ18_utf16hashCode_35 : decode cJ18_utf16hashCode 35 = .ok (.goto (-27), 3) := sorry
theorem dJ18_utf16hashCode_38 : decode cJ18_utf16hashCode 38 = .ok (.iload_n 0, 1) := sorry
theorem dJ18_utf16hashCode_39 : decode cJ18_utf16hashCode 39 = .ok (.ireturn, 1) := sorry
abbrev cJ18_hashCode : ByteArray := prog_75_method_7_code
def yJ18_hashCode : MethodName := ⟨RJ18, "hashCode", "(I[CII)I"⟩
def dkwJ18_hashCode_1 : List UInt8 := [59, 132, 5, 1, 167, 255, 236, 26, 172]
abbrev dktJ18_hashCode_1 : List UInt8 := dkwJ18_hashCode_1 ++ []
def dkwJ18_hashCode_0 : List UInt8 := [28, 29, 96, 54, 4, 28, 54, 5, 21, 5, 21, 4, 162, 0, 19, 16, 31, 26, 104, 43, 21, 5, 52, 96]
abbrev dktJ18_hashCode_0 : List UInt8 := dkwJ18_hashCode_0 ++ dktJ18_hashCode_1
theorem dksJ18_hashCode_0 : cJ18_hashCode.data.toList.drop 0 = dktJ18_hashCode_0 := sorry
theorem dksJ18_hashCode_1 : cJ18_hashCode.data.toList.drop 24 = dktJ18_hashCode_1 := sorry
theorem dJ18_hashCode_0 : decode cJ18_hashCode 0 = .ok (.iload_n 2, 1) := sorry
theorem dJ18_hashCode_1 : decode cJ18_hashCode 1 = .ok (.iload_n 3, 1) := sorry
theorem dJ18_hashCode_2 : decode cJ18_hashCode 2 = .ok (.iadd, 1) := sorry
theorem dJ18_hashCode_3 : decode cJ18_hashCode 3 = .ok (.istore 4, 2) := sorry
theorem dJ18_hashCode_5 : decode cJ18_hashCode 5 = .ok (.iload_n 2, 1) := sorry
theorem dJ18_hashCode_6 : decode cJ18_hashCode 6 = .ok (.istore 5, 2) := sorry
theorem dJ18_hashCode_8 : decode cJ18_hashCode 8 = .ok (.iload 5, 2) := sorry
theorem dJ18_hashCode_10 : decode cJ18_hashCode 10 = .ok (.iload 4, 2) := sorry
theorem dJ18_hashCode_12 : decode cJ18_hashCode 12 = .ok (.if_icmp .ge 19, 3) := sorry
theorem dJ18_hashCode_15 : decode cJ18_hashCode 15 = .ok (.bipush 31, 2) := sorry
theorem dJ18_hashCode_17 : decode cJ18_hashCode 17 = .ok (.iload_n 0, 1) := sorry
theorem dJ18_hashCode_18 : decode cJ18_hashCode 18 = .ok (.imul, 1) := sorry
theorem dJ18_hashCode_19 : decode cJ18_hashCode 19 = .ok (.aload_n 1, 1) := sorry
theorem dJ18_hashCode_20 : decode cJ18_hashCode 20 = .ok (.iload 5, 2) := sorry
theorem dJ18_hashCode_22 : decode cJ18_hashCode 22 = .ok (.caload, 1) := sorry
theorem dJ18_hashCode_23 : decode cJ18_hashCode 23 = .ok (.iadd, 1) := sorry
theorem dJ18_hashCode_24 : decode cJ18_hashCode 24 = .ok (.istore_n 0, 1) := sorry
theorem dJ18_hashCode_25 : decode cJ18_hashCode 25 = .ok (.iinc 5 1, 3) := sorry
theorem dJ18_hashCode_28 : decode cJ18_hashCode 28 = .ok (.goto (-20), 3) := sorry
theorem dJ18_hashCode_31 : decode cJ18_hashCode 31 = .ok (.iload_n 0, 1) := sorry
theorem dJ18_hashCode_32 : decode cJ18_hashCode 32 = .ok (.ireturn, 1) := sorry
abbrev cJ18_hashCode_2 : ByteArray := prog_75_method_6_code
def yJ18_hashCode_2 : MethodName := ⟨RJ18, "hashCode", "(I[BII)I"⟩
def dkwJ18_hashCode_2_1 : List UInt8 := [59, 132, 5, 1, 167, 255, 236, 26, 172]
abbrev dktJ18_hashCode_2_1 : List UInt8 := dkwJ18_hashCode_2_1 ++ []
def dkwJ18_hashCode_2_0 : List UInt8 := [28, 29, 96, 54, 4, 28, 54, 5, 21, 5, 21, 4, 162, 0, 19, 16, 31, 26, 104, 43, 21, 5, 51, 96]
abbrev dktJ18_hashCode_2_0 : List UInt8 := dkwJ18_hashCode_2_0 ++ dktJ18_hashCode_2_1
theorem dksJ18_hashCode_2_0 : cJ18_hashCode_2.data.toList.drop 0 = dktJ18_hashCode_2_0 := sorry
theorem dksJ18_hashCode_2_1 : cJ18_hashCode_2.data.toList.drop 24 = dktJ18_hashCode_2_1 := sorry
theorem dJ18_hashCode_2_0 : decode cJ18_hashCode_2 0 = .ok (.iload_n 2, 1) := sorry
theorem dJ18_hashCode_2_1 : decode cJ18_hashCode_2 1 = .ok (.iload_n 3, 1) := sorry
theorem dJ18_hashCode_2_2 : decode cJ18_hashCode_2 2 = .ok (.iadd, 1) := sorry
theorem dJ18_hashCode_2_3 : decode cJ18_hashCode_2 3 = .ok (.istore 4, 2) := sorry
theorem dJ18_hashCode_2_5 : decode cJ18_hashCode_2 5 = .ok (.iload_n 2, 1) := sorry
theorem dJ18_hashCode_2_6 : decode cJ18_hashCode_2 6 = .ok (.istore 5, 2) := sorry
theorem dJ18_hashCode_2_8 : decode cJ18_hashCode_2 8 = .ok (.iload 5, 2) := sorry
theorem dJ18_hashCode_2_10 : decode cJ18_hashCode_2 10 = .ok (.iload 4, 2) := sorry
theorem dJ18_hashCode_2_12 : decode cJ18_hashCode_2 12 = .ok (.if_icmp .ge 19, 3) := sorry
theorem dJ18_hashCode_2_15 : decode cJ18_hashCode_2 15 = .ok (.bipush 31, 2) := sorry
theorem dJ18_hashCode_2_17 : decode cJ18_hashCode_2 17 = .ok (.iload_n 0, 1) := sorry
theorem dJ18_hashCode_2_18 : decode cJ18_hashCode_2 18 = .ok (.imul, 1) := sorry
theorem dJ18_hashCode_2_19 : decode cJ18_hashCode_2 19 = .ok (.aload_n 1, 1) := sorry
theorem dJ18_hashCode_2_20 : decode cJ18_hashCode_2 20 = .ok (.iload 5, 2) := sorry
theorem dJ18_hashCode_2_22 : decode cJ18_hashCode_2 22 = .ok (.baload, 1) := sorry
theorem dJ18_hashCode_2_23 : decode cJ18_hashCode_2 23 = .ok (.iadd, 1) := sorry
theorem dJ18_hashCode_2_24 : decode cJ18_hashCode_2 24 = .ok (.istore_n 0, 1) := sorry
theorem dJ18_hashCode_2_25 : decode cJ18_hashCode_2 25 = .ok (.iinc 5 1, 3) := sorry
theorem dJ18_hashCode_2_28 : decode cJ18_hashCode_2 28 = .ok (.goto (-20), 3) := sorry
theorem dJ18_hashCode_2_31 : decode cJ18_hashCode_2 31 = .ok (.iload_n 0, 1) := sorry
theorem dJ18_hashCode_2_32 : decode cJ18_hashCode_2 32 = .ok (.ireturn, 1) := sorry
abbrev cJ18_hashCode_3 : ByteArray := prog_75_method_8_code
def yJ18_hashCode_3 : MethodName := ⟨RJ18, "hashCode", "(I[SII)I"⟩
def dkwJ18_hashCode_3_1 : List UInt8 := [59, 132, 5, 1, 167, 255, 236, 26, 172]
abbrev dktJ18_hashCode_3_1 : List UInt8 := dkwJ18_hashCode_3_1 ++ []
def dkwJ18_hashCode_3_0 : List UInt8 := [28, 29, 96, 54, 4, 28, 54, 5, 21, 5, 21, 4, 162, 0, 19, 16, 31, 26, 104, 43, 21, 5, 53, 96]
abbrev dktJ18_hashCode_3_0 : List UInt8 := dkwJ18_hashCode_3_0 ++ dktJ18_hashCode_3_1
theorem dksJ18_hashCode_3_0 : cJ18_hashCode_3.data.toList.drop 0 = dktJ18_hashCode_3_0 := sorry
theorem dksJ18_hashCode_3_1 : cJ18_hashCode_3.data.toList.drop 24 = dktJ18_hashCode_3_1 := sorry
theorem dJ18_hashCode_3_0 : decode cJ18_hashCode_3 0 = .ok (.iload_n 2, 1) := sorry
theorem dJ18_hashCode_3_1 : decode cJ18_hashCode_3 1 = .ok (.iload_n 3, 1) := sorry
theorem dJ18_hashCode_3_2 : decode cJ18_hashCode_3 2 = .ok (.iadd, 1) := sorry
theorem dJ18_hashCode_3_3 : decode cJ18_hashCode_3 3 = .ok (.istore 4, 2) := sorry
theorem dJ18_hashCode_3_5 : decode cJ18_hashCode_3 5 = .ok (.iload_n 2, 1) := sorry
theorem dJ18_hashCode_3_6 : decode cJ18_hashCode_3 6 = .ok (.istore 5, 2) := sorry
theorem dJ18_hashCode_3_8 : decode cJ18_hashCode_3 8 = .ok (.iload 5, 2) := sorry
theorem dJ18_hashCode_3_10 : decode cJ18_hashCode_3 10 = .ok (.iload 4, 2) := sorry
theorem dJ18_hashCode_3_12 : decode cJ18_hashCode_3 12 = .ok (.if_icmp .ge 19, 3) := sorry
theorem dJ18_hashCode_3_15 : decode cJ18_hashCode_3 15 = .ok (.bipush 31, 2) := sorry
theorem dJ18_hashCode_3_17 : decode cJ18_hashCode_3 17 = .ok (.iload_n 0, 1) := sorry
theorem dJ18_hashCode_3_18 : decode cJ18_hashCode_3 18 = .ok (.imul, 1) := sorry
theorem dJ18_hashCode_3_19 : decode cJ18_hashCode_3 19 = .ok (.aload_n 1, 1) := sorry
theorem dJ18_hashCode_3_20 : decode cJ18_hashCode_3 20 = .ok (.iload 5, 2) := sorry
theorem dJ18_hashCode_3_22 : decode cJ18_hashCode_3 22 = .ok (.saload, 1) := sorry
theorem dJ18_hashCode_3_23 : decode cJ18_hashCode_3 23 = .ok (.iadd, 1) := sorry
theorem dJ18_hashCode_3_24 : decode cJ18_hashCode_3 24 = .ok (.istore_n 0, 1) := sorry
theorem dJ18_hashCode_3_25 : decode cJ18_hashCode_3 25 = .ok (.iinc 5 1, 3) := sorry
theorem dJ18_hashCode_3_28 : decode cJ18_hashCode_3 28 = .ok (.goto (-20), 3) := sorry
theorem dJ18_hashCode_3_31 : decode cJ18_hashCode_3 31 = .ok (.iload_n 0, 1) := sorry
theorem dJ18_hashCode_3_32 : decode cJ18_hashCode_3 32 = .ok (.ireturn, 1) := sorry
abbrev cJ18_hashCode_4 : ByteArray := prog_75_method_9_code
def yJ18_hashCode_4 : MethodName := ⟨RJ18, "hashCode", "(I[III)I"⟩
def dkwJ18_hashCode_4_1 : List UInt8 := [59, 132, 5, 1, 167, 255, 236, 26, 172]
abbrev dktJ18_hashCode_4_1 : List UInt8 := dkwJ18_hashCode_4_1 ++ []
def dkwJ18_hashCode_4_0 : List UInt8 := [28, 29, 96, 54, 4, 28, 54, 5, 21, 5, 21, 4, 162, 0, 19, 16, 31, 26, 104, 43, 21, 5, 46, 96]
abbrev dktJ18_hashCode_4_0 : List UInt8 := dkwJ18_hashCode_4_0 ++ dktJ18_hashCode_4_1
theorem dksJ18_hashCode_4_0 : cJ18_hashCode_4.data.toList.drop 0 = dktJ18_hashCode_4_0 := sorry
theorem dksJ18_hashCode_4_1 : cJ18_hashCode_4.data.toList.drop 24 = dktJ18_hashCode_4_1 := sorry
theorem dJ18_hashCode_4_0 : decode cJ18_hashCode_4 0 = .ok (.iload_n 2, 1) := sorry
theorem dJ18_hashCode_4_1 : decode cJ18_hashCode_4 1 = .ok (.iload_n 3, 1) := sorry
theorem dJ18_hashCode_4_2 : decode cJ18_hashCode_4 2 = .ok (.iadd, 1) := sorry
theorem dJ18_hashCode_4_3 : decode cJ18_hashCode_4 3 = .ok (.istore 4, 2) := sorry
theorem dJ18_hashCode_4_5 : decode cJ18_hashCode_4 5 = .ok (.iload_n 2, 1) := sorry
theorem dJ18_hashCode_4_6 : decode cJ18_hashCode_4 6 = .ok (.istore 5, 2) := sorry
theorem dJ18_hashCode_4_8 : decode cJ18_hashCode_4 8 = .ok (.iload 5, 2) := sorry
theorem dJ18_hashCode_4_10 : decode cJ18_hashCode_4 10 = .ok (.iload 4, 2) := sorry
theorem dJ18_hashCode_4_12 : decode cJ18_hashCode_4 12 = .ok (.if_icmp .ge 19, 3) := sorry
theorem dJ18_hashCode_4_15 : decode cJ18_hashCode_4 15 = .ok (.bipush 31, 2) := sorry
theorem dJ18_hashCode_4_17 : decode cJ18_hashCode_4 17 = .ok (.iload_n 0, 1) := sorry
theorem dJ18_hashCode_4_18 : decode cJ18_hashCode_4 18 = .ok (.imul, 1) := sorry
theorem dJ18_hashCode_4_19 : decode cJ18_hashCode_4 19 = .ok (.aload_n 1, 1) := sorry
theorem dJ18_hashCode_4_20 : decode cJ18_hashCode_4 20 = .ok (.iload 5, 2) := sorry
theorem dJ18_hashCode_4_22 : decode cJ18_hashCode_4 22 = .ok (.iaload, 1) := sorry
theorem dJ18_hashCode_4_23 : decode cJ18_hashCode_4 23 = .ok (.iadd, 1) := sorry
theorem dJ18_hashCode_4_24 : decode cJ18_hashCode_4 24 = .ok (.istore_n 0, 1) := sorry
theorem dJ18_hashCode_4_25 : decode cJ18_hashCode_4 25 = .ok (.iinc 5 1, 3) := sorry
theorem dJ18_hashCode_4_28 : decode cJ18_hashCode_4 28 = .ok (.goto (-20), 3) := sorry
theorem dJ18_hashCode_4_31 : decode cJ18_hashCode_4 31 = .ok (.iload_n 0, 1) := sorry
theorem dJ18_hashCode_4_32 : decode cJ18_hashCode_4 32 = .ok (.ireturn, 1) := sorry
theorem q153 : (Jvm.Cond.initialized "jdk/internal/util/ArraysSupport") ∈ lw_all := sorry
theorem q659 : (Jvm.Cond.static ({ cls := "jdk/internal/util/ArraysSupport", name := "newLength", desc := "(III)I" } : Jvm.MethodName)) ∈ lw_all := sorry
theorem q660 : (Jvm.Cond.code ({ cls := "jdk/internal/util/ArraysSupport", name := "newLength", desc := "(III)I" } : Jvm.MethodName) prog_75_method_27_code (4 : Nat) (Option.some Jvm.ClassFile.FieldType.int)) ∈ lw_all := sorry
theorem q661 : (Jvm.Cond.methodLink "jdk/internal/util/ArraysSupport" (194 : Nat) ({ cls := "java/lang/Math", name := "max", desc := "(II)I" } : Jvm.MethodName)) ∈ lw_all := sorry
theorem q664 : (Jvm.Cond.constant "jdk/internal/util/ArraysSupport" (200 : Nat) (2147483639 : Int32)) ∈ lw_all := sorry
theorem q665 : (Jvm.Cond.methodLink "jdk/internal/util/ArraysSupport" (201 : Nat) ({ cls := "jdk/internal/util/ArraysSupport", name := "hugeLength", desc := "(II)I" } : Jvm.MethodName)) ∈ lw_all := sorry
theorem q666 : (Jvm.Cond.static ({ cls := "jdk/internal/util/ArraysSupport", name := "hugeLength", desc := "(II)I" } : Jvm.MethodName)) ∈ lw_all := sorry
theorem q667 : (Jvm.Cond.code ({ cls := "jdk/internal/util/ArraysSupport", name := "hugeLength", desc := "(II)I" } : Jvm.MethodName) prog_75_method_28_code (3 : Nat) (Option.some Jvm.ClassFile.FieldType.int)) ∈ lw_all := sorry
theorem q1754 : (Jvm.Cond.static ({ cls := "jdk/internal/util/ArraysSupport", name := "vectorizedHashCode", desc := "(Ljava/lang/Object;IIII)I" } : Jvm.MethodName)) ∈ lw_all := sorry
theorem q1755 : (Jvm.Cond.code ({ cls := "jdk/internal/util/ArraysSupport", name := "vectorizedHashCode", desc := "(Ljava/lang/Object;IIII)I" } : Jvm.MethodName) prog_75_method_4_code (5 : Nat) (Option.some Jvm.ClassFile.FieldType.int)) ∈ lw_all := sorry
theorem q1756 : (Jvm.Cond.classLink "jdk/internal/util/ArraysSupport" (60 : Nat) "[B") ∈ lw_all := lw_g (lw_at lw_m7 187 rfl) rfl
theorem q1757 : (Jvm.Cond.methodLink "jdk/internal/util/ArraysSupport" (62 : Nat) ({ cls := "jdk/internal/util/ArraysSupport", name := "signedHashCode", desc := "(I[BII)I" } : Jvm.MethodName)) ∈ lw_all := lw_g (lw_at lw_m7 188 rfl) rfl
theorem q1758 : (Jvm.Cond.static ({ cls := "jdk/internal/util/ArraysSupport", name := "signedHashCode", desc := "(I[BII)I" } : Jvm.MethodName)) ∈ lw_all := lw_g (lw_at lw_m7 189 rfl) rfl
theorem q1759 : (Jvm.Cond.code ({ cls := "jdk/internal/util/ArraysSupport", name := "signedHashCode", desc := "(I[BII)I" } : Jvm.MethodName) prog_75_method_5_code (6 : Nat) (Option.some Jvm.ClassFile.FieldType.int)) ∈ lw_all := lw_g (lw_at lw_m7 190 rfl) rfl
theorem q1760 : (Jvm.Cond.methodLink "jdk/internal/util/ArraysSupport" (66 : Nat) ({ cls := "jdk/internal/util/ArraysSupport", name := "utf16hashCode", desc := "(I[BII)I" } : Jvm.MethodName)) ∈ lw_all := lw_g (lw_at lw_m7 191 rfl) rfl
theorem q1761 : (Jvm.Cond.static ({ cls := "jdk/internal/util/ArraysSupport", name := "utf16hashCode", desc := "(I[BII)I" } : Jvm.MethodName)) ∈ lw_all := lw_g (lw_at lw_m7 192 rfl) rfl
theorem q1762 : (Jvm.Cond.code ({ cls := "jdk/internal/util/ArraysSupport", name := "utf16hashCode", desc := "(I[BII)I" } : Jvm.MethodName) prog_75_method_10_code (6 : Nat) (Option.some Jvm.ClassFile.FieldType.int)) ∈ lw_all := lw_g (lw_at lw_m7 193 rfl) rfl
theorem q1763 : (Jvm.Cond.fieldLink "jdk/internal/util/ArraysSupport" (106 : Nat) "jdk/internal/util/ArraysSupport" "JLA" "Ljdk/internal/access/JavaLangAccess;") ∈ lw_all := sorry
theorem q1764 : (Jvm.Cond.laysStatic "jdk/internal/util/ArraysSupport" "JLA" "Ljdk/internal/access/JavaLangAccess;") ∈ lw_tbl := sorry
theorem q1765 : (Jvm.Cond.interfaceEntry "jdk/internal/util/ArraysSupport" (110 : Nat)) ∈ lw_tbl := sorry
theorem q1766 : (Jvm.Cond.methodLink "jdk/internal/util/ArraysSupport" (110 : Nat) ({ cls := "jdk/internal/access/JavaLangAccess", name := "getUTF16Char", desc := "([BI)C" } : Jvm.MethodName)) ∈ lw_all := lw_g (lw_at lw_m7 197 rfl) rfl
theorem q1776 : (Jvm.Cond.classLink "jdk/internal/util/ArraysSupport" (69 : Nat) "[C") ∈ lw_all := lw_g (lw_at lw_m7 207 rfl) rfl
theorem q1777 : (Jvm.Cond.methodLink "jdk/internal/util/ArraysSupport" (71 : Nat) ({ cls := "jdk/internal/util/ArraysSupport", name := "hashCode", desc := "(I[CII)I" } : Jvm.MethodName)) ∈ lw_all := lw_g (lw_at lw_m7 208 rfl) rfl
theorem q1778 : (Jvm.Cond.static ({ cls := "jdk/internal/util/ArraysSupport", name := "hashCode", desc := "(I[CII)I" } : Jvm.MethodName)) ∈ lw_all := lw_g (lw_at lw_m7 209 rfl) rfl
theorem q1779 : (Jvm.Cond.code ({ cls := "jdk/internal/util/ArraysSupport", name := "hashCode", desc := "(I[CII)I" } : Jvm.MethodName) prog_75_method_7_code (6 : Nat) (Option.some Jvm.ClassFile.FieldType.int)) ∈ lw_all := lw_g (lw_at lw_m7 210 rfl) rfl
theorem q1780 : (Jvm.Cond.methodLink "jdk/internal/util/ArraysSupport" (75 : Nat) ({ cls := "jdk/internal/util/ArraysSupport", name := "hashCode", desc := "(I[BII)I" } : Jvm.MethodName)) ∈ lw_all := lw_g (lw_at lw_m7 211 rfl) rfl
theorem q1781 : (Jvm.Cond.static ({ cls := "jdk/internal/util/ArraysSupport", name := "hashCode", desc := "(I[BII)I" } : Jvm.MethodName)) ∈ lw_all := lw_g (lw_at lw_m7 212 rfl) rfl
theorem q1782 : (Jvm.Cond.code ({ cls := "jdk/internal/util/ArraysSupport", name := "hashCode", desc := "(I[BII)I" } : Jvm.MethodName) prog_75_method_6_code (6 : Nat) (Option.some Jvm.ClassFile.FieldType.int)) ∈ lw_all := lw_g (lw_at lw_m7 213 rfl) rfl
theorem q1783 : (Jvm.Cond.classLink "jdk/internal/util/ArraysSupport" (77 : Nat) "[S") ∈ lw_all := lw_g (lw_at lw_m7 214 rfl) rfl
theorem q1784 : (Jvm.Cond.methodLink "jdk/internal/util/ArraysSupport" (79 : Nat) ({ cls := "jdk/internal/util/ArraysSupport", name := "hashCode", desc := "(I[SII)I" } : Jvm.MethodName)) ∈ lw_all := lw_g (lw_at lw_m7 215 rfl) rfl
theorem q1785 : (Jvm.Cond.static ({ cls := "jdk/internal/util/ArraysSupport", name := "hashCode", desc := "(I[SII)I" } : Jvm.MethodName)) ∈ lw_all := lw_g (lw_at lw_m7 216 rfl) rfl
theorem q1786 : (Jvm.Cond.code ({ cls := "jdk/internal/util/ArraysSupport", name := "hashCode", desc := "(I[SII)I" } : Jvm.MethodName) prog_75_method_8_code (6 : Nat) (Option.some Jvm.ClassFile.FieldType.int)) ∈ lw_all := lw_g (lw_at lw_m7 217 rfl) rfl
theorem q1787 : (Jvm.Cond.classLink "jdk/internal/util/ArraysSupport" (82 : Nat) "[I") ∈ lw_all := lw_g (lw_at lw_m7 218 rfl) rfl
theorem q1788 : (Jvm.Cond.methodLink "jdk/internal/util/ArraysSupport" (84 : Nat) ({ cls := "jdk/internal/util/ArraysSupport", name := "hashCode", desc := "(I[III)I" } : Jvm.MethodName)) ∈ lw_all := lw_g (lw_at lw_m7 219 rfl) rfl
theorem q1789 : (Jvm.Cond.static ({ cls := "jdk/internal/util/ArraysSupport", name := "hashCode", desc := "(I[III)I" } : Jvm.MethodName)) ∈ lw_all := lw_g (lw_at lw_m7 220 rfl) rfl
theorem q1790 : (Jvm.Cond.code ({ cls := "jdk/internal/util/ArraysSupport", name := "hashCode", desc := "(I[III)I" } : Jvm.MethodName) prog_75_method_9_code (6 : Nat) (Option.some Jvm.ClassFile.FieldType.int)) ∈ lw_all := lw_g (lw_at lw_m7 221 rfl) rfl
theorem q1791 : (Jvm.Cond.classLink "jdk/internal/util/ArraysSupport" (87 : Nat) "java/lang/IllegalArgumentException") ∈ lw_all := sorry
theorem q1792 : (Jvm.Cond.classLink "jdk/internal/util/ArraysSupport" (89 : Nat) "java/lang/StringBuilder") ∈ lw_all := sorry
theorem q1793 : (Jvm.Cond.methodLink "jdk/internal/util/ArraysSupport" (91 : Nat) ({ cls := "java/lang/StringBuilder", name := "<init>", desc := "()V" } : Jvm.MethodName)) ∈ lw_all := sorry
theorem q1794 : (Jvm.Cond.stringRef "jdk/internal/util/ArraysSupport" (92 : Nat) "unrecognized basic type: ") ∈ lw_tbl := sorry
theorem q1795 : (Jvm.Cond.methodLink "jdk/internal/util/ArraysSupport" (94 : Nat) ({ cls := "java/lang/StringBuilder", name := "append", desc := "(Ljava/lang/String;)Ljava/lang/StringBuilder;" } : Jvm.MethodName)) ∈ lw_all := sorry
theorem q1796 : (Jvm.Cond.methodLink "jdk/internal/util/ArraysSupport" (98 : Nat) ({ cls := "java/lang/StringBuilder", name := "append", desc := "(I)Ljava/lang/StringBuilder;" } : Jvm.MethodName)) ∈ lw_all := sorry
theorem q1797 : (Jvm.Cond.methodLink "jdk/internal/util/ArraysSupport" (101 : Nat) ({ cls := "java/lang/StringBuilder", name := "toString", desc := "()Ljava/lang/String;" } : Jvm.MethodName)) ∈ lw_all := sorry
theorem q1798 : (Jvm.Cond.methodLink "jdk/internal/util/ArraysSupport" (105 : Nat) ({ cls := "java/lang/IllegalArgumentException", name := "<init>", desc := "(Ljava/lang/String;)V" } : Jvm.MethodName)) ∈ lw_all := sorry
/-! java/lang/Math -/
set_option maxRecDepth 100000
def RJ19 : String := "java/lang/Math"
abbrev cJ19_max : ByteArray := prog_31_method_65_code
def yJ19_max : MethodName := ⟨RJ19, "max", "(II)I"⟩
def dkwJ19_max_0 : List UInt8 := [26, 27, 161, 0, 7, 26, 167, 0, 4, 27, 172]
abbrev dktJ19_max_0 : List UInt8 := dkwJ19_max_0 ++ []
theorem dksJ19_max_0 : cJ19_max.data.toList.drop 0 = dktJ19_max_0 := sorry
theorem dJ19_max_0 : decode cJ19_max 0 = .ok (.iload_n 0, 1) := sorry
theorem dJ19_max_1 : decode cJ19_max 1 = .ok (.iload_n 1, 1) := sorry
theorem dJ19_max_2 : decode cJ19_max 2 = .ok (.if_icmp .lt 7, 3) := sorry
theorem dJ19_max_5 : decode cJ19_max 5 = .ok (.iload_n 0, 1) := sorry
theorem dJ19_max_6 : decode cJ19_max 6 = .ok (.goto 4, 3) := sorry
theorem dJ19_max_9 : decode cJ19_max 9 = .ok (.iload_n 1, 1) := sorry
theorem dJ19_max_10 : decode cJ19_max 10 = .ok (.ireturn, 1) := sorry
abbrev cJ19_min : ByteArray := prog_31_method_69_code
def yJ19_min : MethodName := ⟨RJ19, "min", "(II)I"⟩
def dkwJ19_min_0 : List UInt8 := [26, 27, 163, 0, 7, 26, 167, 0, 4, 27, 172]
abbrev dktJ19_min_0 : List UInt8 := dkwJ19_min_0 ++ []
theorem dksJ19_min_0 : cJ19_min.data.toList.drop 0 = dktJ19_min_0 := sorry
theorem dJ19_min_0 : decode cJ19_min 0 = .ok (.iload_n 0, 1) := sorry
theorem dJ19_min_1 : decode cJ19_min 1 = .ok (.iload_n 1, 1) := sorry
theorem dJ19_min_2 : decode cJ19_min 2 = .ok (.if_icmp .gt 7, 3) := sorry
theorem dJ19_min_5 : decode cJ19_min 5 = .ok (.iload_n 0, 1) := sorry
theorem dJ19_min_6 : decode cJ19_min 6 = .ok (.goto 4, 3) := sorry
theorem dJ19_min_9 : decode cJ19_min 9 = .ok (.iload_n 1, 1) := sorry
theorem dJ19_min_10 : decode cJ19_min 10 = .ok (.ireturn, 1) := sorry
abbrev cJ19_floorDiv : ByteArray := prog_31_method_49_code
def yJ19_floorDiv : MethodName := ⟨RJ19, "floorDiv", "(JJ)J"⟩
def dkwJ19_floorDiv_1 : List UInt8 := [10, 101, 173, 22, 4, 173]
abbrev dktJ19_floorDiv_1 : List UInt8 := dkwJ19_floorDiv_1 ++ []
def dkwJ19_floorDiv_0 : List UInt8 := [30, 32, 109, 55, 4, 30, 32, 131, 9, 148, 156, 0, 17, 22, 4, 32, 105, 30, 148, 153, 0, 8, 22, 4]
abbrev dktJ19_floorDiv_0 : List UInt8 := dkwJ19_floorDiv_0 ++ dktJ19_floorDiv_1
theorem dksJ19_floorDiv_0 : cJ19_floorDiv.data.toList.drop 0 = dktJ19_floorDiv_0 := sorry
theorem dksJ19_floorDiv_1 : cJ19_floorDiv.data.toList.drop 24 = dktJ19_floorDiv_1 := sorry
theorem dJ19_floorDiv_0 : decode cJ19_floorDiv 0 = .ok (.lload_n 0, 1) := sorry
theorem dJ19_floorDiv_1 : decode cJ19_floorDiv 1 = .ok (.lload_n 2, 1) := sorry
theorem dJ19_floorDiv_2 : decode cJ19_floorDiv 2 = .ok (.ldiv, 1) := sorry
theorem dJ19_floorDiv_3 : decode cJ19_floorDiv 3 = .ok (.lstore 4, 2) := sorry
theorem dJ19_floorDiv_5 : decode cJ19_floorDiv 5 = .ok (.lload_n 0, 1) := sorry
theorem dJ19_floorDiv_6 : decode cJ19_floorDiv 6 = .ok (.lload_n 2, 1) := sorry
theorem dJ19_floorDiv_7 : decode cJ19_floorDiv 7 = .ok (.lxor, 1) := sorry
theorem dJ19_floorDiv_8 : decode cJ19_floorDiv 8 = .ok (.lconst 0, 1) := sorry
theorem dJ19_floorDiv_9 : decode cJ19_floorDiv 9 = .ok (.lcmp, 1) := sorry
theorem dJ19_floorDiv_10 : decode cJ19_floorDiv 10 = .ok (.ifCond .ge 17, 3) := sorry
theorem dJ19_floorDiv_13 : decode cJ19_floorDiv 13 = .ok (.lload 4, 2) := sorry
theorem dJ19_floorDiv_15 : decode cJ19_floorDiv 15 = .ok (.lload_n 2, 1) := sorry
theorem dJ19_floorDiv_16 : decode cJ19_floorDiv 16 = .ok (.lmul, 1) := sorry
theorem dJ19_floorDiv_17 : decode cJ19_floorDiv 17 = .ok (.lload_n 0, 1) := sorry
theorem dJ19_floorDiv_18 : decode cJ19_floorDiv 18 = .ok (.lcmp, 1) := sorry
theorem dJ19_floorDiv_19 : decode cJ19_floorDiv 19 = .ok (.ifCond .eq 8, 3) := sorry
theorem dJ19_floorDiv_22 : decode cJ19_floorDiv 22 = .ok (.lload 4, 2) := sorry
theorem dJ19_floorDiv_24 : decode cJ19_floorDiv 24 = .ok (.lconst 1, 1) := sorry
theorem dJ19_floorDiv_25 : decode cJ19_floorDiv 25 = .ok (.lsub, 1) := sorry
theorem dJ19_floorDiv_26 : decode cJ19_floorDiv 26 = .ok (.lreturn, 1) := sorry
theorem dJ19_floorDiv_27 : decode cJ19_floorDiv 27 = .ok (.lload 4, 2) := sorry
theorem dJ19_floorDiv_29 : decode cJ19_floorDiv 29 = .ok (.lreturn, 1) := sorry
abbrev cJ19_abs : ByteArray := prog_31_method_61_code
def yJ19_abs : MethodName := ⟨RJ19, "abs", "(J)J"⟩
def dkwJ19_abs_0 : List UInt8 := [30, 9, 148, 156, 0, 8, 30, 117, 167, 0, 4, 30, 173]
abbrev dktJ19_abs_0 : List UInt8 := dkwJ19_abs_0 ++ []
theorem dksJ19_abs_0 : cJ19_abs.data.toList.drop 0 = dktJ19_abs_0 := sorry
theorem dJ19_abs_0 : decode cJ19_abs 0 = .ok (.lload_n 0, 1) := sorry
theorem dJ19_abs_1 : decode cJ19_abs 1 = .ok (.lconst 0, 1) := sorry
theorem dJ19_abs_2 : decode cJ19_abs 2 = .ok (.lcmp, 1) := sorry
theorem dJ19_abs_3 : decode cJ19_abs 3 = .ok (.ifCond .ge 8, 3) := sorry
theorem dJ19_abs_6 : decode cJ19_abs 6 = .ok (.lload_n 0, 1) := sorry
theorem dJ19_abs_7 : decode cJ19_abs 7 = .ok (.lneg, 1) := sorry
theorem dJ19_abs_8 : decode cJ19_abs 8 = .ok (.goto 4, 3) := sorry
theorem dJ19_abs_11 : decode cJ19_abs 11 = .ok (.lload_n 0, 1) := sorry
theorem dJ19_abs_12 : decode cJ19_abs 12 = .ok (.lreturn, 1) := sorry
abbrev cJ19_max_2 : ByteArray := prog_31_method_66_code
def yJ19_max_2 : MethodName := ⟨RJ19, "max", "(JJ)J"⟩
def dkwJ19_max_2_0 : List UInt8 := [30, 32, 148, 155, 0, 7, 30, 167, 0, 4, 32, 173]
abbrev dktJ19_max_2_0 : List UInt8 := dkwJ19_max_2_0 ++ []
theorem dksJ19_max_2_0 : cJ19_max_2.data.toList.drop 0 = dktJ19_max_2_0 := sorry
theorem dJ19_max_2_0 : decode cJ19_max_2 0 = .ok (.lload_n 0, 1) := sorry
theorem dJ19_max_2_1 : decode cJ19_max_2 1 = .ok (.lload_n 2, 1) := sorry
theorem dJ19_max_2_2 : decode cJ19_max_2 2 = .ok (.lcmp, 1) := sorry
theorem dJ19_max_2_3 : decode cJ19_max_2 3 = .ok (.ifCond .lt 7, 3) := sorry
theorem dJ19_max_2_6 : decode cJ19_max_2 6 = .ok (.lload_n 0, 1) := sorry
theorem dJ19_max_2_7 : decode cJ19_max_2 7 = .ok (.goto 4, 3) := sorry
theorem dJ19_max_2_10 : decode cJ19_max_2 10 = .ok (.lload_n 2, 1) := sorry
theorem dJ19_max_2_11 : decode cJ19_max_2 11 = .ok (.lreturn, 1) := sorry
abbrev cJ19_min_2 : ByteArray := prog_31_method_70_code
def yJ19_min_2 : MethodName := ⟨RJ19, "min", "(JJ)J"⟩
def dkwJ19_min_2_0 : List UInt8 := [30, 32, 148, 157, 0, 7, 30, 167, 0, 4, 32, 173]
abbrev dktJ19_min_2_0 : List UInt8 := dkwJ19_min_2_0 ++ []
theorem dksJ19_min_2_0 : cJ19_min_2.data.toList.drop 0 = dktJ19_min_2_0 := sorry
theorem dJ19_min_2_0 : decode cJ19_min_2 0 = .ok (.lload_n 0, 1) := sorry
theorem dJ19_min_2_1 : decode cJ19_min_2 1 = .ok (.lload_n 2, 1) := sorry
theorem dJ19_min_2_2 : decode cJ19_min_2 2 = .ok (.lcmp, 1) := sorry
theorem dJ19_min_2_3 : decode cJ19_min_2 3 = .ok (.ifCond .gt 7, 3) := sorry
theorem dJ19_min_2_6 : decode cJ19_min_2 6 = .ok (.lload_n 0, 1) := sorry
theorem dJ19_min_2_7 : decode cJ19_min_2 7 = .ok (.goto 4, 3) := sorry
theorem dJ19_min_2_10 : decode cJ19_min_2 10 = .ok (.lload_n 2, 1) := sorry
theorem dJ19_min_2_11 : decode cJ19_min_2 11 = .ok (.lreturn, 1) := sorry
theorem q154 : (Jvm.Cond.initialized "java/lang/Math") ∈ lw_all := sorry
theorem q662 : (Jvm.Cond.static ({ cls := "java/lang/Math", name := "max", desc := "(II)I" } : Jvm.MethodName)) ∈ lw_all := sorry
theorem q663 : (Jvm.Cond.code ({ cls := "java/lang/Math", name := "max", desc := "(II)I" } : Jvm.MethodName) prog_31_method_65_code (2 : Nat) (Option.some Jvm.ClassFile.FieldType.int)) ∈ lw_all := sorry
theorem q680 : (Jvm.Cond.static ({ cls := "java/lang/Math", name := "min", desc := "(II)I" } : Jvm.MethodName)) ∈ lw_all := sorry
theorem q681 : (Jvm.Cond.code ({ cls := "java/lang/Math", name := "min", desc := "(II)I" } : Jvm.MethodName) prog_31_method_69_code (2 : Nat) (Option.some Jvm.ClassFile.FieldType.int)) ∈ lw_all := sorry
theorem q932 : (Jvm.Cond.static ({ cls := "java/lang/Math", name := "floorDiv", desc := "(JJ)J" } : Jvm.MethodName)) ∈ lw_all := sorry
theorem q933 : (Jvm.Cond.code ({ cls := "java/lang/Math", name := "floorDiv", desc := "(JJ)J" } : Jvm.MethodName) prog_31_method_49_code (6 : Nat) (Option.some Jvm.ClassFile.FieldType.long)) ∈ lw_all := sorry
theorem q1182 : (Jvm.Cond.static ({ cls := "java/lang/Math", name := "abs", desc := "(J)J" } : Jvm.MethodName)) ∈ lw_all := sorry
theorem q1183 : (Jvm.Cond.code ({ cls := "java/lang/Math", name := "abs", desc := "(J)J" } : Jvm.MethodName) prog_31_method_61_code (2 : Nat) (Option.some Jvm.ClassFile.FieldType.long)) ∈ lw_all := sorry
theorem q1185 : (Jvm.Cond.static ({ cls := "java/lang/Math", name := "max", desc := "(JJ)J" } : Jvm.MethodName)) ∈ lw_all := sorry
theorem q1186 : (Jvm.Cond.code ({ cls := "java/lang/Math", name := "max", desc := "(JJ)J" } : Jvm.MethodName) prog_31_method_66_code (4 : Nat) (Option.some Jvm.ClassFile.FieldType.long)) ∈ lw_all := sorry
theorem q1293 : (Jvm.Cond.static ({ cls := "java/lang/Math", name := "min", desc := "(JJ)J" } : Jvm.MethodName)) ∈ lw_all := sorry
theorem q1294 : (Jvm.Cond.code ({ cls := "java/lang/Math", name := "min", desc := "(JJ)J" } : Jvm.MethodName) prog_31_method_70_code (4 : Nat) (Option.some Jvm.ClassFile.FieldType.long)) ∈ lw_all := sorry
/-! java/util/Arrays -/
set_option maxRecDepth 100000
def RJ20 : String := "java/util/Arrays"
abbrev cJ20_copyOf : ByteArray := prog_52_method_121_code
def yJ20_copyOf : MethodName := ⟨RJ20, "copyOf", "([BI)[B"⟩
def dkwJ20_copyOf_1 : List UInt8 := [27, 184, 1, 48, 184, 0, 150, 44, 176]
abbrev dktJ20_copyOf_1 : List UInt8 := dkwJ20_copyOf_1 ++ []
def dkwJ20_copyOf_0 : List UInt8 := [27, 42, 190, 160, 0, 11, 42, 182, 1, 54, 192, 1, 55, 176, 27, 188, 8, 77, 42, 3, 44, 3, 42, 190]
abbrev dktJ20_copyOf_0 : List UInt8 := dkwJ20_copyOf_0 ++ dktJ20_copyOf_1
theorem dksJ20_copyOf_0 : cJ20_copyOf.data.toList.drop 0 = dktJ20_copyOf_0 := sorry
theorem dksJ20_copyOf_1 : cJ20_copyOf.data.toList.drop 24 = dktJ20_copyOf_1 := sorry
theorem dJ20_copyOf_0 : decode cJ20_copyOf 0 = .ok (.iload_n 1, 1) := sorry
theorem dJ20_copyOf_1 : decode cJ20_copyOf 1 = .ok (.aload_n 0, 1) := sorry
theorem dJ20_copyOf_2 : decode cJ20_copyOf 2 = .ok (.arraylength, 1) := sorry
theorem dJ20_copyOf_3 : decode cJ20_copyOf 3 = .ok (.if_icmp .ne 11, 3) := sorry
theorem dJ20_copyOf_6 : decode cJ20_copyOf 6 = .ok (.aload_n 0, 1) := sorry
theorem dJ20_copyOf_7 : decode cJ20_copyOf 7 = .ok (.invokevirtual 310, 3) := sorry
theorem dJ20_copyOf_10 : decode cJ20_copyOf 10 = .ok (.checkcast 311, 3) := sorry
theorem dJ20_copyOf_13 : decode cJ20_copyOf 13 = .ok (.areturn, 1) := sorry
theorem dJ20_copyOf_14 : decode cJ20_copyOf 14 = .ok (.iload_n 1, 1) := sorry
theorem dJ20_copyOf_15 : decode cJ20_copyOf 15 = .ok (.newarray .byte, 2) := sorry
theorem dJ20_copyOf_17 : decode cJ20_copyOf 17 = .ok (.astore_n 2, 1) := sorry
theorem dJ20_copyOf_18 : decode cJ20_copyOf 18 = .ok (.aload_n 0, 1) := sorry
theorem dJ20_copyOf_19 : decode cJ20_copyOf 19 = .ok (.iconst 0, 1) := sorry
theorem dJ20_copyOf_20 : decode cJ20_copyOf 20 = .ok (.aload_n 2, 1) := sorry
theorem dJ20_copyOf_21 : decode cJ20_copyOf 21 = .ok (.iconst 0, 1) := sorry
theorem dJ20_copyOf_22 : decode cJ20_copyOf 22 = .ok (.aload_n 0, 1) := sorry
theorem dJ20_copyOf_23 : decode cJ20_copyOf 23 = .ok (.arraylength, 1) := sorry
theorem dJ20_copyOf_24 : decode cJ20_copyOf 24 = .ok (.iload_n 1, 1) := sorry
theorem dJ20_copyOf_25 : decode cJ20_copyOf 25 = .ok (.invokestatic 304, 3) := sorry
theorem dJ20_copyOf_28 : decode cJ20_copyOf 28 = .ok (.invokestatic 150, 3) := sorry
theorem dJ20_copyOf_31 : decode cJ20_copyOf 31 = .ok (.aload_n 2, 1) := sorry
theorem dJ20_copyOf_32 : decode cJ20_copyOf 32 = .ok (.areturn, 1) := sorry
abbrev cJ20_copyOfRange : ByteArray := prog_52_method_132_code
def yJ20_copyOfRange : MethodName := ⟨RJ20, "copyOfRange", "([BII)[B"⟩
def dkwJ20_copyOfRange_1 : List UInt8 := [176]
abbrev dktJ20_copyOfRange_1 : List UInt8 := dkwJ20_copyOfRange_1 ++ []
def dkwJ20_copyOfRange_0 : List UInt8 := [27, 154, 0, 9, 28, 42, 190, 159, 0, 10, 42, 27, 28, 184, 1, 83, 176, 42, 182, 1, 54, 192, 1, 55]
abbrev dktJ20_copyOfRange_0 : List UInt8 := dkwJ20_copyOfRange_0 ++ dktJ20_copyOfRange_1
theorem dksJ20_copyOfRange_0 : cJ20_copyOfRange.data.toList.drop 0 = dktJ20_copyOfRange_0 := sorry
theorem dksJ20_copyOfRange_1 : cJ20_copyOfRange.data.toList.drop 24 = dktJ20_copyOfRange_1 := sorry
theorem dJ20_copyOfRange_0 : decode cJ20_copyOfRange 0 = .ok (.iload_n 1, 1) := sorry
theorem dJ20_copyOfRange_1 : decode cJ20_copyOfRange 1 = .ok (.ifCond .ne 9, 3) := sorry
theorem dJ20_copyOfRange_4 : decode cJ20_copyOfRange 4 = .ok (.iload_n 2, 1) := sorry
theorem dJ20_copyOfRange_5 : decode cJ20_copyOfRange 5 = .ok (.aload_n 0, 1) := sorry
theorem dJ20_copyOfRange_6 : decode cJ20_copyOfRange 6 = .ok (.arraylength, 1) := sorry
theorem dJ20_copyOfRange_7 : decode cJ20_copyOfRange 7 = .ok (.if_icmp .eq 10, 3) := sorry
theorem dJ20_copyOfRange_10 : decode cJ20_copyOfRange 10 = .ok (.aload_n 0, 1) := sorry
theorem dJ20_copyOfRange_11 : decode cJ20_copyOfRange 11 = .ok (.iload_n 1, 1) := sorry
theorem dJ20_copyOfRange_12 : decode cJ20_copyOfRange 12 = .ok (.iload_n 2, 1) := sorry
theorem dJ20_copyOfRange_13 : decode cJ20_copyOfRange 13 = .ok (.invokestatic 339, 3) := sorry
theorem dJ20_copyOfRange_16 : decode cJ20_copyOfRange 16 = .ok (.areturn, 1) := sorry
theorem dJ20_copyOfRange_17 : decode cJ20_copyOfRange 17 = .ok (.aload_n 0, 1) := sorry
theorem dJ20_copyOfRange_18 : decode cJ20_copyOfRange 18 = .ok (.invokevirtual 310, 3) := sorry
theorem dJ20_copyOfRange_21 : decode cJ20_copyOfRange 21 = .ok (.checkcast 311, 3) := sorry
theorem dJ20_copyOfRange_24 : decode cJ20_copyOfRange 24 = .ok (.areturn, 1) := sorry
abbrev cJ20_copyOfRangeByte : ByteArray := prog_52_method_133_code
def yJ20_copyOfRangeByte : MethodName := ⟨RJ20, "copyOfRangeByte", "([BII)[B"⟩
def dkwJ20_copyOfRangeByte_1 : List UInt8 := [184, 1, 48, 184, 0, 150, 25, 4, 176]
abbrev dktJ20_copyOfRangeByte_1 : List UInt8 := dkwJ20_copyOfRangeByte_1 ++ []
def dkwJ20_copyOfRangeByte_0 : List UInt8 := [27, 28, 184, 1, 87, 28, 27, 100, 62, 29, 188, 8, 58, 4, 42, 27, 25, 4, 3, 42, 190, 27, 100, 29]
abbrev dktJ20_copyOfRangeByte_0 : List UInt8 := dkwJ20_copyOfRangeByte_0 ++ dktJ20_copyOfRangeByte_1
theorem dksJ20_copyOfRangeByte_0 : cJ20_copyOfRangeByte.data.toList.drop 0 = dktJ20_copyOfRangeByte_0 := sorry
theorem dksJ20_copyOfRangeByte_1 : cJ20_copyOfRangeByte.data.toList.drop 24 = dktJ20_copyOfRangeByte_1 := sorry
theorem dJ20_copyOfRangeByte_0 : decode cJ20_copyOfRangeByte 0 = .ok (.iload_n 1, 1) := sorry
theorem dJ20_copyOfRangeByte_1 : decode cJ20_copyOfRangeByte 1 = .ok (.iload_n 2, 1) := sorry
theorem dJ20_copyOfRangeByte_2 : decode cJ20_copyOfRangeByte 2 = .ok (.invokestatic 343, 3) := sorry
theorem dJ20_copyOfRangeByte_5 : decode cJ20_copyOfRangeByte 5 = .ok (.iload_n 2, 1) := sorry
theorem dJ20_copyOfRangeByte_6 : decode cJ20_copyOfRangeByte 6 = .ok (.iload_n 1, 1) := sorry
theorem dJ20_copyOfRangeByte_7 : decode cJ20_copyOfRangeByte 7 = .ok (.isub, 1) := sorry
theorem dJ20_copyOfRangeByte_8 : decode cJ20_copyOfRangeByte 8 = .ok (.istore_n 3, 1) := sorry
theorem dJ20_copyOfRangeByte_9 : decode cJ20_copyOfRangeByte 9 = .ok (.iload_n 3, 1) := sorry
theorem dJ20_copyOfRangeByte_10 : decode cJ20_copyOfRangeByte 10 = .ok (.newarray .byte, 2) := sorry
theorem dJ20_copyOfRangeByte_12 : decode cJ20_copyOfRangeByte 12 = .ok (.astore 4, 2) := sorry
theorem dJ20_copyOfRangeByte_14 : decode cJ20_copyOfRangeByte 14 = .ok (.aload_n 0, 1) := sorry
theorem dJ20_copyOfRangeByte_15 : decode cJ20_copyOfRangeByte 15 = .ok (.iload_n 1, 1) := sorry
theorem dJ20_copyOfRangeByte_16 : decode cJ20_copyOfRangeByte 16 = .ok (.aload 4, 2) := sorry
theorem dJ20_copyOfRangeByte_18 : decode cJ20_copyOfRangeByte 18 = .ok (.iconst 0, 1) := sorry
theorem dJ20_copyOfRangeByte_19 : decode cJ20_copyOfRangeByte 19 = .ok (.aload_n 0, 1) := sorry
theorem dJ20_copyOfRangeByte_20 : decode cJ20_copyOfRangeByte 20 = .ok (.arraylength, 1) := sorry
theorem dJ20_copyOfRangeByte_21 : decode cJ20_copyOfRangeByte 21 = .ok (.iload_n 1, 1) := sorry
theorem dJ20_copyOfRangeByte_22 : decode cJ20_copyOfRangeByte 22 = .ok (.isub, 1) := sorry
theorem dJ20_copyOfRangeByte_23 : decode cJ20_copyOfRangeByte 23 = .ok (.iload_n 3, 1) := sorry
theorem dJ20_copyOfRangeByte_24 : decode cJ20_copyOfRangeByte 24 = .ok (.invokestatic 304, 3) := sorry
theorem dJ20_copyOfRangeByte_27 : decode cJ20_copyOfRangeByte 27 = .ok (.invokestatic 150, 3) := sorry
theorem dJ20_copyOfRangeByte_30 : decode cJ20_copyOfRangeByte 30 = .ok (.aload 4, 2) := sorry
theorem dJ20_copyOfRangeByte_32 : decode cJ20_copyOfRangeByte 32 = .ok (.areturn, 1) := sorry
abbrev cJ20_checkLength : ByteArray := prog_52_method_131_code
def yJ20_checkLength : MethodName := ⟨RJ20, "checkLength", "(II)V"⟩
def dkwJ20_checkLength_1 : List UInt8 := [182, 0, 50, 27, 182, 0, 54, 182, 0, 61, 183, 0, 65, 191, 177]
abbrev dktJ20_checkLength_1 : List UInt8 := dkwJ20_checkLength_1 ++ []
def dkwJ20_checkLength_0 : List UInt8 := [27, 26, 162, 0, 35, 187, 0, 43, 89, 187, 0, 45, 89, 183, 0, 47, 26, 182, 0, 54, 19, 1, 81]
abbrev dktJ20_checkLength_0 : List UInt8 := dkwJ20_checkLength_0 ++ dktJ20_checkLength_1
theorem dksJ20_checkLength_0 : cJ20_checkLength.data.toList.drop 0 = dktJ20_checkLength_0 := sorry
theorem dksJ20_checkLength_1 : cJ20_checkLength.data.toList.drop 23 = dktJ20_checkLength_1 := sorry
theorem dJ20_checkLength_0 : decode cJ20_checkLength 0 = .ok (.iload_n 1, 1) := sorry
theorem dJ20_checkLength_1 : decode cJ20_checkLength 1 = .ok (.iload_n 0, 1) := sorry
theorem dJ20_checkLength_2 : decode cJ20_checkLength 2 = .ok (.if_icmp .ge 35, 3) := sorry
theorem dJ20_checkLength_5 : decode cJ20_checkLength 5 = .ok (.new 43, 3) := sorry
theorem dJ20_checkLength_8 : decode cJ20_checkLength 8 = .ok (.dup, 1) := sorry
theorem dJ20_checkLength_9 : decode cJ20_checkLength 9 = .ok (.new 45, 3) := sorry
theorem dJ20_checkLength_12 : decode cJ20_checkLength 12 = .ok (.dup, 1) := sorry
theorem dJ20_checkLength_13 : decode cJ20_checkLength 13 = .ok (.invokespecial 47, 3) := sorry
theorem dJ20_checkLength_16 : decode cJ20_checkLength 16 = .ok (.iload_n 0, 1) := sorry
theorem dJ20_checkLength_17 : decode cJ20_checkLength 17 = .ok (.invokevirtual 54, 3) := sorry
theorem dJ20_checkLength_20 : decode cJ20_checkLength 20 = .ok (.ldc_w 337, 3) := sorry
theorem dJ20_checkLength_23 : decode cJ20_checkLength 23 = .ok (.invokevirtual 50, 3) := sorry
theorem dJ20_checkLength_26 : decode cJ20_checkLength 26 = .ok (.iload_n 1, 1) := sorry
theorem dJ20_checkLength_27 : decode cJ20_checkLength 27 = .ok (.invokevirtual 54, 3) := sorry
theorem dJ20_checkLength_30 : decode cJ20_checkLength 30 = .ok (.invokevirtual 61, 3) := sorry
theorem dJ20_checkLength_33 : decode cJ20_checkLength 33 = .ok (.invokespecial 65, 3) := sorry
theorem dJ20_checkLength_36 : decode cJ20_checkLength 36 = .ok (.athrow, 1) := sorry
theorem dJ20_checkLength_37 : decode cJ20_checkLength 37 = .ok (.return_, 1) := sorry
abbrev cJ20_copyOf_2 : ByteArray := prog_52_method_119_code
def yJ20_copyOf_2 : MethodName := ⟨RJ20, "copyOf", "([Ljava/lang/Object;I)[Ljava/lang/Object;"⟩
def dkwJ20_copyOf_2_0 : List UInt8 := [42, 27, 42, 182, 0, 86, 184, 1, 44, 176]
abbrev dktJ20_copyOf_2_0 : List UInt8 := dkwJ20_copyOf_2_0 ++ []
theorem dksJ20_copyOf_2_0 : cJ20_copyOf_2.data.toList.drop 0 = dktJ20_copyOf_2_0 := sorry
theorem dJ20_copyOf_2_0 : decode cJ20_copyOf_2 0 = .ok (.aload_n 0, 1) := sorry
theorem dJ20_copyOf_2_1 : decode cJ20_copyOf_2 1 = .ok (.iload_n 1, 1) := sorry
theorem dJ20_copyOf_2_2 : decode cJ20_copyOf_2 2 = .ok (.aload_n 0, 1) := sorry
theorem dJ20_copyOf_2_3 : decode cJ20_copyOf_2 3 = .ok (.invokevirtual 86, 3) := sorry
theorem dJ20_copyOf_2_6 : decode cJ20_copyOf_2 6 = .ok (.invokestatic 300, 3) := sorry
theorem dJ20_copyOf_2_9 : decode cJ20_copyOf_2 9 = .ok (.areturn, 1) := sorry
abbrev cJ20_copyOf_3 : ByteArray := prog_52_method_120_code
def yJ20_copyOf_3 : MethodName := ⟨RJ20, "copyOf", "([Ljava/lang/Object;ILjava/lang/Class;)[Ljava/lang/Object;"⟩
def dkwJ20_copyOf_3_1 : List UInt8 := [78, 42, 3, 45, 3, 42, 190, 27, 184, 1, 48, 184, 0, 150, 45, 176]
abbrev dktJ20_copyOf_3_1 : List UInt8 := dkwJ20_copyOf_3_1 ++ []
def dkwJ20_copyOf_3_0 : List UInt8 := [44, 18, 110, 166, 0, 10, 27, 189, 0, 2, 167, 0, 14, 44, 182, 0, 90, 27, 184, 0, 95, 192, 0, 110]
abbrev dktJ20_copyOf_3_0 : List UInt8 := dkwJ20_copyOf_3_0 ++ dktJ20_copyOf_3_1
theorem dksJ20_copyOf_3_0 : cJ20_copyOf_3.data.toList.drop 0 = dktJ20_copyOf_3_0 := sorry
theorem dksJ20_copyOf_3_1 : cJ20_copyOf_3.data.toList.drop 24 = dktJ20_copyOf_3_1 := sorry
theorem dJ20_copyOf_3_0 : decode cJ20_copyOf_3 0 = .ok (.aload_n 2, 1) := sorry
theorem dJ20_copyOf_3_1 : decode cJ20_copyOf_3 1 = .ok (.ldc 110, 2) := sorry
theorem dJ20_copyOf_3_3 : decode cJ20_copyOf_3 3 = .ok (.if_acmp .ne 10, 3) := sorry
theorem dJ20_copyOf_3_6 : decode cJ20_copyOf_3 6 = .ok (.iload_n 1, 1) := sorry
theorem dJ20_copyOf_3_7 : decode cJ20_copyOf_3 7 = .ok (.anewarray 2, 3) := sorry
theorem dJ20_copyOf_3_10 : decode cJ20_copyOf_3 10 = .ok (.goto 14, 3) := sorry
theorem dJ20_copyOf_3_13 : decode cJ20_copyOf_3 13 = .ok (.aload_n 2, 1) := sorry
theorem dJ20_copyOf_3_14 : decode cJ20_copyOf_3 14 = .ok (.invokevirtual 90, 3) := sorry
theorem dJ20_copyOf_3_17 : decode cJ20_copyOf_3 17 = .ok (.iload_n 1, 1) := sorry
theorem dJ20_copyOf_3_18 : decode cJ20_copyOf_3 18 = .ok (.invokestatic 95, 3) := sorry
theorem dJ20_copyOf_3_21 : decode cJ20_copyOf_3 21 = .ok (.checkcast 110, 3) := sorry
theorem dJ20_copyOf_3_24 : decode cJ20_copyOf_3 24 = .ok (.astore_n 3, 1) := sorry
theorem dJ20_copyOf_3_25 : decode cJ20_copyOf_3 25 = .ok (.aload_n 0, 1) := sorry
theorem dJ20_copyOf_3_26 : decode cJ20_copyOf_3 26 = .ok (.iconst 0, 1) := sorry
theorem dJ20_copyOf_3_27 : decode cJ20_copyOf_3 27 = .ok (.aload_n 3, 1) := sorry
theorem dJ20_copyOf_3_28 : decode cJ20_copyOf_3 28 = .ok (.iconst 0, 1) := sorry
theorem dJ20_copyOf_3_29 : decode cJ20_copyOf_3 29 = .ok (.aload_n 0, 1) := sorry
theorem dJ20_copyOf_3_30 : decode cJ20_copyOf_3 30 = .ok (.arraylength, 1) := sorry
theorem dJ20_copyOf_3_31 : decode cJ20_copyOf_3 31 = .ok (.iload_n 1, 1) := sorry
theorem dJ20_copyOf_3_32 : decode cJ20_copyOf_3 32 = .ok (.invokestatic 304, 3) := sorry
theorem dJ20_copyOf_3_35 : decode cJ20_copyOf_3 35 = .ok (.invokestatic 150, 3) := sorry
theorem dJ20_copyOf_3_38 : decode cJ20_copyOf_3 38 = .ok (.aload_n 3, 1) := sorry
theorem dJ20_copyOf_3_39 : decode cJ20_copyOf_3 39 = .ok (.areturn, 1) := sorry
abbrev cJ20_copyOf_4 : ByteArray := prog_52_method_124_code
def yJ20_copyOf_4 : MethodName := ⟨RJ20, "copyOf", "([JI)[J"⟩
def dkwJ20_copyOf_4_1 : List UInt8 := [27, 184, 1, 48, 184, 0, 150, 44, 176]
abbrev dktJ20_copyOf_4_1 : List UInt8 := dkwJ20_copyOf_4_1 ++ []
def dkwJ20_copyOf_4_0 : List UInt8 := [27, 42, 190, 160, 0, 11, 42, 182, 1, 63, 192, 1, 64, 176, 27, 188, 11, 77, 42, 3, 44, 3, 42, 190]
abbrev dktJ20_copyOf_4_0 : List UInt8 := dkwJ20_copyOf_4_0 ++ dktJ20_copyOf_4_1
theorem dksJ20_copyOf_4_0 : cJ20_copyOf_4.data.toList.drop 0 = dktJ20_copyOf_4_0 := sorry
theorem dksJ20_copyOf_4_1 : cJ20_copyOf_4.data.toList.drop 24 = dktJ20_copyOf_4_1 := sorry
theorem dJ20_copyOf_4_0 : decode cJ20_copyOf_4 0 = .ok (.iload_n 1, 1) := sorry
theorem dJ20_copyOf_4_1 : decode cJ20_copyOf_4 1 = .ok (.aload_n 0, 1) := sorry
theorem dJ20_copyOf_4_2 : decode cJ20_copyOf_4 2 = .ok (.arraylength, 1) := sorry
theorem dJ20_copyOf_4_3 : decode cJ20_copyOf_4 3 = .ok (.if_icmp .ne 11, 3) := sorry
theorem dJ20_copyOf_4_6 : decode cJ20_copyOf_4 6 = .ok (.aload_n 0, 1) := sorry
theorem dJ20_copyOf_4_7 : decode cJ20_copyOf_4 7 = .ok (.invokevirtual 319, 3) := sorry
theorem dJ20_copyOf_4_10 : decode cJ20_copyOf_4 10 = .ok (.checkcast 320, 3) := sorry
theorem dJ20_copyOf_4_13 : decode cJ20_copyOf_4 13 = .ok (.areturn, 1) := sorry
theorem dJ20_copyOf_4_14 : decode cJ20_copyOf_4 14 = .ok (.iload_n 1, 1) := sorry
theorem dJ20_copyOf_4_15 : decode cJ20_copyOf_4 15 = .ok (.newarray .long, 2) := sorry
theorem dJ20_copyOf_4_17 : decode cJ20_copyOf_4 17 = .ok (.astore_n 2, 1) := sorry
theorem dJ20_copyOf_4_18 : decode cJ20_copyOf_4 18 = .ok (.aload_n 0, 1) := sorry
theorem dJ20_copyOf_4_19 : decode cJ20_copyOf_4 19 = .ok (.iconst 0, 1) := sorry
theorem dJ20_copyOf_4_20 : decode cJ20_copyOf_4 20 = .ok (.aload_n 2, 1) := sorry
theorem dJ20_copyOf_4_21 : decode cJ20_copyOf_4 21 = .ok (.iconst 0, 1) := sorry
theorem dJ20_copyOf_4_22 : decode cJ20_copyOf_4 22 = .ok (.aload_n 0, 1) := sorry
theorem dJ20_copyOf_4_23 : decode cJ20_copyOf_4 23 = .ok (.arraylength, 1) := sorry
theorem dJ20_copyOf_4_24 : decode cJ20_copyOf_4 24 = .ok (.iload_n 1, 1) := sorry
theorem dJ20_copyOf_4_25 : decode cJ20_copyOf_4 25 = .ok (.invokestatic 304, 3) := sorry
theorem dJ20_copyOf_4_28 : decode cJ20_copyOf_4 28 = .ok (.invokestatic 150, 3) := sorry
theorem dJ20_copyOf_4_31 : decode cJ20_copyOf_4 31 = .ok (.aload_n 2, 1) := sorry
theorem dJ20_copyOf_4_32 : decode cJ20_copyOf_4 32 = .ok (.areturn, 1) := sorry
abbrev cJ20_fill : ByteArray := prog_52_method_110_code
def yJ20_fill : MethodName := ⟨RJ20, "fill", "([BIIB)V"⟩
def dkwJ20_fill_1 : List UInt8 := [167, 255, 242, 177]
abbrev dktJ20_fill_1 : List UInt8 := dkwJ20_fill_1 ++ []
def dkwJ20_fill_0 : List UInt8 := [42, 190, 27, 28, 184, 0, 13, 27, 54, 4, 21, 4, 28, 162, 0, 14, 42, 21, 4, 29, 84, 132, 4, 1]
abbrev dktJ20_fill_0 : List UInt8 := dkwJ20_fill_0 ++ dktJ20_fill_1
theorem dksJ20_fill_0 : cJ20_fill.data.toList.drop 0 = dktJ20_fill_0 := sorry
theorem dksJ20_fill_1 : cJ20_fill.data.toList.drop 24 = dktJ20_fill_1 := sorry
theorem dJ20_fill_0 : decode cJ20_fill 0 = .ok (.aload_n 0, 1) := sorry
theorem dJ20_fill_1 : decode cJ20_fill 1 = .ok (.arraylength, 1) := sorry
theorem dJ20_fill_2 : decode cJ20_fill 2 = .ok (.iload_n 1, 1) := sorry
theorem dJ20_fill_3 : decode cJ20_fill 3 = .ok (.iload_n 2, 1) := sorry
theorem dJ20_fill_4 : decode cJ20_fill 4 = .ok (.invokestatic 13, 3) := sorry
theorem dJ20_fill_7 : decode cJ20_fill 7 = .ok (.iload_n 1, 1) := sorry
theorem dJ20_fill_8 : decode cJ20_fill 8 = .ok (.istore 4, 2) := sorry
theorem dJ20_fill_10 : decode cJ20_fill 10 = .ok (.iload 4, 2) := sorry
theorem dJ20_fill_12 : decode cJ20_fill 12 = .ok (.iload_n 2, 1) := sorry
theorem dJ20_fill_13 : decode cJ20_fill 13 = .ok (.if_icmp .ge 14, 3) := sorry
theorem dJ20_fill_16 : decode cJ20_fill 16 = .ok (.aload_n 0, 1) := sorry
theorem dJ20_fill_17 : decode cJ20_fill 17 = .ok (.iload 4, 2) := sorry
theorem dJ20_fill_19 : decode cJ20_fill 19 = .ok (.iload_n 3, 1) := sorry
theorem dJ20_fill_20 : decode cJ20_fill 20 = .ok (.bastore, 1) := sorry
theorem dJ20_fill_21 : decode cJ20_fill 21 = .ok (.iinc 4 1, 3) := sorry
theorem dJ20_fill_24 : decode cJ20_fill 24 = .ok (.goto (-14), 3) := sorry
theorem dJ20_fill_27 : decode cJ20_fill 27 = .ok (.return_, 1) := sorry
abbrev cJ20_rangeCheck : ByteArray := prog_52_method_30_code
def yJ20_rangeCheck : MethodName := ⟨RJ20, "rangeCheck", "(III)V"⟩
def dkwJ20_rangeCheck_3 : List UInt8 := [183, 0, 70, 191, 177]
abbrev dktJ20_rangeCheck_3 : List UInt8 := dkwJ20_rangeCheck_3 ++ []
def dkwJ20_rangeCheck_2 : List UInt8 := [27, 156, 0, 12, 187, 0, 68, 89, 27, 183, 0, 70, 191, 28, 26, 164, 0, 12, 187, 0, 68, 89, 28]
abbrev dktJ20_rangeCheck_2 : List UInt8 := dkwJ20_rangeCheck_2 ++ dktJ20_rangeCheck_3
def dkwJ20_rangeCheck_1 : List UInt8 := [182, 0, 54, 18, 57, 182, 0, 50, 28, 182, 0, 54, 18, 59, 182, 0, 50, 182, 0, 61, 183, 0, 65, 191]
abbrev dktJ20_rangeCheck_1 : List UInt8 := dkwJ20_rangeCheck_1 ++ dktJ20_rangeCheck_2
def dkwJ20_rangeCheck_0 : List UInt8 := [27, 28, 164, 0, 44, 187, 0, 43, 89, 187, 0, 45, 89, 183, 0, 47, 18, 48, 182, 0, 50, 27]
abbrev dktJ20_rangeCheck_0 : List UInt8 := dkwJ20_rangeCheck_0 ++ dktJ20_rangeCheck_1
theorem dksJ20_rangeCheck_0 : cJ20_rangeCheck.data.toList.drop 0 = dktJ20_rangeCheck_0 := sorry
theorem dksJ20_rangeCheck_1 : cJ20_rangeCheck.data.toList.drop 22 = dktJ20_rangeCheck_1 := sorry
theorem dksJ20_rangeCheck_2 : cJ20_rangeCheck.data.toList.drop 46 = dktJ20_rangeCheck_2 := sorry
theorem dksJ20_rangeCheck_3 : cJ20_rangeCheck.data.toList.drop 69 = dktJ20_rangeCheck_3 := sorry
theorem dJ20_rangeCheck_0 : decode cJ20_rangeCheck 0 = .ok (.iload_n 1, 1) := sorry
theorem dJ20_rangeCheck_1 : decode cJ20_rangeCheck 1 = .ok (.iload_n 2, 1) := sorry
theorem dJ20_rangeCheck_2 : decode cJ20_rangeCheck 2 = .ok (.if_icmp .le 44, 3) := sorry
theorem dJ20_rangeCheck_5 : decode cJ20_rangeCheck 5 = .ok (.new 43, 3) := sorry
theorem dJ20_rangeCheck_8 : decode cJ20_rangeCheck 8 = .ok (.dup, 1) := sorry
theorem dJ20_rangeCheck_9 : decode cJ20_rangeCheck 9 = .ok (.new 45, 3) := sorry
theorem dJ20_rangeCheck_12 : decode cJ20_rangeCheck 12 = .ok (.dup, 1) := sorry
theorem dJ20_rangeCheck_13 : decode cJ20_rangeCheck 13 = .ok (.invokespecial 47, 3) := sorry
theorem dJ20_rangeCheck_16 : decode cJ20_rangeCheck 16 = .ok (.ldc 48, 2) := sorry
theorem dJ20_rangeCheck_18 : decode cJ20_rangeCheck 18 = .ok (.invokevirtual 50, 3) := sorry
theorem dJ20_rangeCheck_21 : decode cJ20_rangeCheck 21 = .ok (.iload_n 1, 1) := sorry
theorem dJ20_rangeCheck_22 : decode cJ20_rangeCheck 22 = .ok (.invokevirtual 54, 3) := sorry
theorem dJ20_rangeCheck_25 : decode cJ20_rangeCheck 25 = .ok (.ldc 57, 2) := sorry
theorem dJ20_rangeCheck_27 : decode cJ20_rangeCheck 27 = .ok (.invokevirtual 50, 3) := sorry
theorem dJ20_rangeCheck_30 : decode cJ20_rangeCheck 30 = .ok (.iload_n 2, 1) := sorry
theorem dJ20_rangeCheck_31 : decode cJ20_rangeCheck 31 = .ok (.invokevirtual 54, 3) := sorry
theorem dJ20_rangeCheck_34 : decode cJ20_rangeCheck 34 = .ok (.ldc 59, 2) := sorry
theorem dJ20_rangeCheck_36 : decode cJ20_rangeCheck 36 = .ok (.invokevirtual 50, 3) := sorry
theorem dJ20_rangeCheck_39 : decode cJ20_rangeCheck 39 = .ok (.invokevirtual 61, 3) := sorry
theorem dJ20_rangeCheck_42 : decode cJ20_rangeCheck 42 = .ok (.invokespecial 65, 3) := sorry
theorem dJ20_rangeCheck_45 : decode cJ20_rangeCheck 45 = .ok (.athrow, 1) := sorry
theorem dJ20_rangeCheck_46 : decode cJ20_rangeCheck 46 = .ok (.iload_n 1, 1) := sorry
theorem dJ20_rangeCheck_47 : decode cJ20_rangeCheck 47 = .ok (.ifCond .ge 12, 3) := sorry
theorem dJ20_rangeCheck_50 : decode cJ20_rangeCheck 50 = .ok (.new 68, 3) := sorry
theorem dJ20_rangeCheck_53 : decode cJ20_rangeCheck 53 = .ok (.dup, 1) := sorry
theorem dJ20_rangeCheck_54 : decode cJ20_rangeCheck 54 = .ok (.iload_n 1, 1) := sorry
theorem dJ20_rangeCheck_55 : decode cJ20_rangeCheck 55 = .ok (.invokespecial 70, 3) := sorry
theorem dJ20_rangeCheck_58 : decode cJ20_rangeCheck 58 = .ok (.athrow, 1) := sorry
theorem dJ20_rangeCheck_59 : decode cJ20_rangeCheck 59 = .ok (.iload_n 2, 1) := sorry
theorem dJ20_rangeCheck_60 : decode cJ20_rangeCheck 60 = .ok (.iload_n 0, 1) := sorry
theorem dJ20_rangeCheck_61 : decode cJ20_rangeCheck 61 = .ok (.if_icmp .le 12, 3) := sorry
theorem dJ20_rangeCheck_64 : decode cJ20_rangeCheck 64 = .ok (.new 68, 3) := sorry
theorem dJ20_rangeCheck_67 : decode cJ20_rangeCheck 67 = .ok (.dup, 1) := sorry
theorem dJ20_rangeCheck_68 : decode cJ20_rangeCheck 68 = .ok (.iload_n 2, 1) := sorry
theorem dJ20_rangeCheck_69 : decode cJ20_rangeCheck 69 = .ok (.invokespecial 70, 3) := sorry
theorem dJ20_rangeCheck_72 : decode cJ20_rangeCheck 72 = .ok (.athrow, 1) := sorry
theorem dJ20_rangeCheck_73 : decode cJ20_rangeCheck 73 = .ok (.return_, 1) := sorry
theorem q155 : (Jvm.Cond.initialized "java/util/Arrays") ∈ lw_all := sorry
theorem q670 : (Jvm.Cond.static ({ cls := "java/util/Arrays", name := "copyOf", desc := "([BI)[B" } : Jvm.MethodName)) ∈ lw_all := lw_g (lw_at lw_m3 61 rfl) rfl
theorem q671 : (Jvm.Cond.code ({ cls := "java/util/Arrays", name := "copyOf", desc := "([BI)[B" } : Jvm.MethodName) prog_52_method_121_code (3 : Nat) (Option.some (Jvm.ClassFile.FieldType.array Jvm.ClassFile.FieldType.byte))) ∈ lw_all := lw_g (lw_at lw_m3 62 rfl) rfl
theorem q672 : (Jvm.Cond.methodLink "java/util/Arrays" (310 : Nat) ({ cls := "[B", name := "clone", desc := "()Ljava/lang/Object;" } : Jvm.MethodName)) ∈ lw_all := lw_g (lw_at lw_m3 63 rfl) rfl
theorem q678 : (Jvm.Cond.classLink "java/util/Arrays" (311 : Nat) "[B") ∈ lw_all := lw_g (lw_at lw_m3 69 rfl) rfl
theorem q679 : (Jvm.Cond.methodLink "java/util/Arrays" (304 : Nat) ({ cls := "java/lang/Math", name := "min", desc := "(II)I" } : Jvm.MethodName)) ∈ lw_all := sorry
theorem q682 : (Jvm.Cond.methodLink "java/util/Arrays" (150 : Nat) ({ cls := "java/lang/System", name := "arraycopy", desc := "(Ljava/lang/Object;ILjava/lang/Object;II)V" } : Jvm.MethodName)) ∈ lw_all := sorry
theorem q788 : (Jvm.Cond.static ({ cls := "java/util/Arrays", name := "copyOfRange", desc := "([BII)[B" } : Jvm.MethodName)) ∈ lw_all := lw_g (lw_at lw_m3 179 rfl) rfl
theorem q789 : (Jvm.Cond.code ({ cls := "java/util/Arrays", name := "copyOfRange", desc := "([BII)[B" } : Jvm.MethodName) prog_52_method_132_code (3 : Nat) (Option.some (Jvm.ClassFile.FieldType.array Jvm.ClassFile.FieldType.byte))) ∈ lw_all := lw_g (lw_at lw_m3 180 rfl) rfl
theorem q790 : (Jvm.Cond.methodLink "java/util/Arrays" (339 : Nat) ({ cls := "java/util/Arrays", name := "copyOfRangeByte", desc := "([BII)[B" } : Jvm.MethodName)) ∈ lw_all := lw_g (lw_at lw_m3 181 rfl) rfl
theorem q791 : (Jvm.Cond.static ({ cls := "java/util/Arrays", name := "copyOfRangeByte", desc := "([BII)[B" } : Jvm.MethodName)) ∈ lw_all := lw_g (lw_at lw_m3 182 rfl) rfl
theorem q792 : (Jvm.Cond.code ({ cls := "java/util/Arrays", name := "copyOfRangeByte", desc := "([BII)[B" } : Jvm.MethodName) prog_52_method_133_code (5 : Nat) (Option.some (Jvm.ClassFile.FieldType.array Jvm.ClassFile.FieldType.byte))) ∈ lw_all := lw_g (lw_at lw_m3 183 rfl) rfl
theorem q793 : (Jvm.Cond.methodLink "java/util/Arrays" (343 : Nat) ({ cls := "java/util/Arrays", name := "checkLength", desc := "(II)V" } : Jvm.MethodName)) ∈ lw_all := sorry
theorem q794 : (Jvm.Cond.static ({ cls := "java/util/Arrays", name := "checkLength", desc := "(II)V" } : Jvm.MethodName)) ∈ lw_all := sorry
theorem q795 : (Jvm.Cond.code ({ cls := "java/util/Arrays", name := "checkLength", desc := "(II)V" } : Jvm.MethodName) prog_52_method_131_code (2 : Nat) (Option.none : Option Jvm.ClassFile.FieldType)) ∈ lw_all := sorry
theorem q796 : (Jvm.Cond.classLink "java/util/Arrays" (43 : Nat) "java/lang/IllegalArgumentException") ∈ lw_all := sorry
theorem q805 : (Jvm.Cond.classLink "java/util/Arrays" (45 : Nat) "java/lang/StringBuilder") ∈ lw_all := sorry
theorem q806 : (Jvm.Cond.methodLink "java/util/Arrays" (47 : Nat) ({ cls := "java/lang/StringBuilder", name := "<init>", desc := "()V" } : Jvm.MethodName)) ∈ lw_all := sorry
theorem q807 : (Jvm.Cond.methodLink "java/util/Arrays" (54 : Nat) ({ cls := "java/lang/StringBuilder", name := "append", desc := "(I)Ljava/lang/StringBuilder;" } : Jvm.MethodName)) ∈ lw_all := sorry
theorem q832 : (Jvm.Cond.stringRef "java/util/Arrays" (337 : Nat) " > ") ∈ lw_tbl := sorry
theorem q833 : (Jvm.Cond.methodLink "java/util/Arrays" (50 : Nat) ({ cls := "java/lang/StringBuilder", name := "append", desc := "(Ljava/lang/String;)Ljava/lang/StringBuilder;" } : Jvm.MethodName)) ∈ lw_all := sorry
theorem q834 : (Jvm.Cond.methodLink "java/util/Arrays" (61 : Nat) ({ cls := "java/lang/StringBuilder", name := "toString", desc := "()Ljava/lang/String;" } : Jvm.MethodName)) ∈ lw_all := sorry
theorem q835 : (Jvm.Cond.methodLink "java/util/Arrays" (65 : Nat) ({ cls := "java/lang/IllegalArgumentException", name := "<init>", desc := "(Ljava/lang/String;)V" } : Jvm.MethodName)) ∈ lw_all := sorry
theorem q998 : (Jvm.Cond.static ({ cls := "java/util/Arrays", name := "copyOf", desc := "([Ljava/lang/Object;I)[Ljava/lang/Object;" } : Jvm.MethodName)) ∈ lw_all := lw_g (lw_at lw_m4 149 rfl) rfl
theorem q999 : (Jvm.Cond.code ({ cls := "java/util/Arrays", name := "copyOf", desc := "([Ljava/lang/Object;I)[Ljava/lang/Object;" } : Jvm.MethodName) prog_52_method_119_code (2 : Nat) (Option.some (Jvm.ClassFile.FieldType.array (Jvm.ClassFile.FieldType.object "java/lang/Object")))) ∈ lw_all := lw_g (lw_at lw_m4 150 rfl) rfl
theorem q1000 : (Jvm.Cond.methodLink "java/util/Arrays" (86 : Nat) ({ cls := "java/lang/Object", name := "getClass", desc := "()Ljava/lang/Class;" } : Jvm.MethodName)) ∈ lw_all := sorry
theorem q1001 : (Jvm.Cond.methodLink "java/util/Arrays" (300 : Nat) ({ cls := "java/util/Arrays", name := "copyOf", desc := "([Ljava/lang/Object;ILjava/lang/Class;)[Ljava/lang/Object;" } : Jvm.MethodName)) ∈ lw_all := lw_g (lw_at lw_m4 152 rfl) rfl
theorem q1002 : (Jvm.Cond.static ({ cls := "java/util/Arrays", name := "copyOf", desc := "([Ljava/lang/Object;ILjava/lang/Class;)[Ljava/lang/Object;" } : Jvm.MethodName)) ∈ lw_all := lw_g (lw_at lw_m4 153 rfl) rfl
theorem q1003 : (Jvm.Cond.code ({ cls := "java/util/Arrays", name := "copyOf", desc := "([Ljava/lang/Object;ILjava/lang/Class;)[Ljava/lang/Object;" } : Jvm.MethodName) prog_52_method_120_code (4 : Nat) (Option.some (Jvm.ClassFile.FieldType.array (Jvm.ClassFile.FieldType.object "java/lang/Object")))) ∈ lw_all := lw_g (lw_at lw_m4 154 rfl) rfl
theorem q1004 : (Jvm.Cond.classLink "java/util/Arrays" (110 : Nat) "[Ljava/lang/Object;") ∈ lw_all := lw_g (lw_at lw_m4 155 rfl) rfl
theorem q1006 : (Jvm.Cond.classLink "java/util/Arrays" (2 : Nat) "java/lang/Object") ∈ lw_all := sorry
theorem q1391 : (Jvm.Cond.static ({ cls := "java/util/Arrays", name := "copyOf", desc := "([JI)[J" } : Jvm.MethodName)) ∈ lw_all := lw_g (lw_at lw_m6 62 rfl) rfl
theorem q1392 : (Jvm.Cond.code ({ cls := "java/util/Arrays", name := "copyOf", desc := "([JI)[J" } : Jvm.MethodName) prog_52_method_124_code (3 : Nat) (Option.some (Jvm.ClassFile.FieldType.array Jvm.ClassFile.FieldType.long))) ∈ lw_all := lw_g (lw_at lw_m6 63 rfl) rfl
theorem q1393 : (Jvm.Cond.methodLink "java/util/Arrays" (319 : Nat) ({ cls := "[J", name := "clone", desc := "()Ljava/lang/Object;" } : Jvm.MethodName)) ∈ lw_all := lw_g (lw_at lw_m6 64 rfl) rfl
theorem q1397 : (Jvm.Cond.classLink "java/util/Arrays" (320 : Nat) "[J") ∈ lw_all := lw_g (lw_at lw_m6 68 rfl) rfl
theorem q1579 : (Jvm.Cond.static ({ cls := "java/util/Arrays", name := "fill", desc := "([BIIB)V" } : Jvm.MethodName)) ∈ lw_all := lw_g (lw_at lw_m7 10 rfl) rfl
theorem q1580 : (Jvm.Cond.code ({ cls := "java/util/Arrays", name := "fill", desc := "([BIIB)V" } : Jvm.MethodName) prog_52_method_110_code (5 : Nat) (Option.none : Option Jvm.ClassFile.FieldType)) ∈ lw_all := lw_g (lw_at lw_m7 11 rfl) rfl
theorem q1581 : (Jvm.Cond.methodLink "java/util/Arrays" (13 : Nat) ({ cls := "java/util/Arrays", name := "rangeCheck", desc := "(III)V" } : Jvm.MethodName)) ∈ lw_all := sorry
theorem q1582 : (Jvm.Cond.static ({ cls := "java/util/Arrays", name := "rangeCheck", desc := "(III)V" } : Jvm.MethodName)) ∈ lw_all := sorry
theorem q1583 : (Jvm.Cond.code ({ cls := "java/util/Arrays", name := "rangeCheck", desc := "(III)V" } : Jvm.MethodName) prog_52_method_30_code (3 : Nat) (Option.none : Option Jvm.ClassFile.FieldType)) ∈ lw_all := sorry
theorem q1584 : (Jvm.Cond.stringRef "java/util/Arrays" (48 : Nat) "fromIndex(") ∈ lw_tbl := lw_at lw_m7 15 rfl
theorem q1585 : (Jvm.Cond.stringRef "java/util/Arrays" (57 : Nat) ") > toIndex(") ∈ lw_tbl := sorry
theorem q1586 : (Jvm.Cond.stringRef "java/util/Arrays" (59 : Nat) ")") ∈ lw_tbl := lw_at lw_m7 17 rfl
/-! java/lang/StringLatin1 -/
set_option maxRecDepth 100000
def RJ21 : String := "java/lang/StringLatin1"
abbrev cJ21_inflate : ByteArray := prog_36_method_50_code
def yJ21_inflate : MethodName := ⟨RJ21, "inflate", "([BI[BII)V"⟩
def dkwJ21_inflate_0 : List UInt8 := [42, 27, 44, 29, 21, 4, 184, 0, 240, 177]
abbrev dktJ21_inflate_0 : List UInt8 := dkwJ21_inflate_0 ++ []
theorem dksJ21_inflate_0 : cJ21_inflate.data.toList.drop 0 = dktJ21_inflate_0 := sorry
theorem dJ21_inflate_0 : decode cJ21_inflate 0 = .ok (.aload_n 0, 1) := sorry
theorem dJ21_inflate_1 : decode cJ21_inflate 1 = .ok (.iload_n 1, 1) := sorry
theorem dJ21_inflate_2 : decode cJ21_inflate 2 = .ok (.aload_n 2, 1) := sorry
theorem dJ21_inflate_3 : decode cJ21_inflate 3 = .ok (.iload_n 3, 1) := sorry
theorem dJ21_inflate_4 : decode cJ21_inflate 4 = .ok (.iload 4, 2) := sorry
theorem dJ21_inflate_6 : decode cJ21_inflate 6 = .ok (.invokestatic 240, 3) := sorry
theorem dJ21_inflate_9 : decode cJ21_inflate 9 = .ok (.return_, 1) := sorry
abbrev cJ21_charAt : ByteArray := prog_36_method_2_code
def yJ21_charAt : MethodName := ⟨RJ21, "charAt", "([BI)C"⟩
def dkwJ21_charAt_0 : List UInt8 := [27, 42, 190, 184, 0, 9, 42, 27, 51, 17, 0, 255, 126, 146, 172]
abbrev dktJ21_charAt_0 : List UInt8 := dkwJ21_charAt_0 ++ []
theorem dksJ21_charAt_0 : cJ21_charAt.data.toList.drop 0 = dktJ21_charAt_0 := sorry
theorem dJ21_charAt_0 : decode cJ21_charAt 0 = .ok (.iload_n 1, 1) := sorry
theorem dJ21_charAt_1 : decode cJ21_charAt 1 = .ok (.aload_n 0, 1) := sorry
theorem dJ21_charAt_2 : decode cJ21_charAt 2 = .ok (.arraylength, 1) := sorry
theorem dJ21_charAt_3 : decode cJ21_charAt 3 = .ok (.invokestatic 9, 3) := sorry
theorem dJ21_charAt_6 : decode cJ21_charAt 6 = .ok (.aload_n 0, 1) := sorry
theorem dJ21_charAt_7 : decode cJ21_charAt 7 = .ok (.iload_n 1, 1) := sorry
theorem dJ21_charAt_8 : decode cJ21_charAt 8 = .ok (.baload, 1) := sorry
theorem dJ21_charAt_9 : decode cJ21_charAt 9 = .ok (.sipush 255, 3) := sorry
theorem dJ21_charAt_12 : decode cJ21_charAt 12 = .ok (.iand, 1) := sorry
theorem dJ21_charAt_13 : decode cJ21_charAt 13 = .ok (.i2c, 1) := sorry
theorem dJ21_charAt_14 : decode cJ21_charAt 14 = .ok (.ireturn, 1) := sorry
abbrev cJ21_fillNull : ByteArray := prog_36_method_48_code
def yJ21_fillNull : MethodName := ⟨RJ21, "fillNull", "([BII)V"⟩
def dkwJ21_fillNull_0 : List UInt8 := [42, 27, 28, 3, 184, 0, 236, 177]
abbrev dktJ21_fillNull_0 : List UInt8 := dkwJ21_fillNull_0 ++ []
theorem dksJ21_fillNull_0 : cJ21_fillNull.data.toList.drop 0 = dktJ21_fillNull_0 := sorry
theorem dJ21_fillNull_0 : decode cJ21_fillNull 0 = .ok (.aload_n 0, 1) := sorry
theorem dJ21_fillNull_1 : decode cJ21_fillNull 1 = .ok (.iload_n 1, 1) := sorry
theorem dJ21_fillNull_2 : decode cJ21_fillNull 2 = .ok (.iload_n 2, 1) := sorry
theorem dJ21_fillNull_3 : decode cJ21_fillNull 3 = .ok (.iconst 0, 1) := sorry
theorem dJ21_fillNull_4 : decode cJ21_fillNull 4 = .ok (.invokestatic 236, 3) := sorry
theorem dJ21_fillNull_7 : decode cJ21_fillNull 7 = .ok (.return_, 1) := sorry
abbrev cJ21_canEncode : ByteArray := prog_36_method_3_code
def yJ21_canEncode : MethodName := ⟨RJ21, "canEncode", "(C)Z"⟩
def dkwJ21_canEncode_0 : List UInt8 := [26, 17, 0, 255, 163, 0, 7, 4, 167, 0, 4, 3, 172]
abbrev dktJ21_canEncode_0 : List UInt8 := dkwJ21_canEncode_0 ++ []
theorem dksJ21_canEncode_0 : cJ21_canEncode.data.toList.drop 0 = dktJ21_canEncode_0 := sorry
theorem dJ21_canEncode_0 : decode cJ21_canEncode 0 = .ok (.iload_n 0, 1) := sorry
theorem dJ21_canEncode_1 : decode cJ21_canEncode 1 = .ok (.sipush 255, 3) := sorry
theorem dJ21_canEncode_4 : decode cJ21_canEncode 4 = .ok (.if_icmp .gt 7, 3) := sorry
theorem dJ21_canEncode_7 : decode cJ21_canEncode 7 = .ok (.iconst 1, 1) := sorry
theorem dJ21_canEncode_8 : decode cJ21_canEncode 8 = .ok (.goto 4, 3) := sorry
theorem dJ21_canEncode_11 : decode cJ21_canEncode 11 = .ok (.iconst 0, 1) := sorry
theorem dJ21_canEncode_12 : decode cJ21_canEncode 12 = .ok (.ireturn, 1) := sorry
abbrev cJ21_equals : ByteArray := prog_36_method_13_code
def yJ21_equals : MethodName := ⟨RJ21, "equals", "([B[B)Z"⟩
def dkwJ21_equals_1 : List UInt8 := [3, 172, 132, 2, 1, 167, 255, 236, 4, 172, 3, 172]
abbrev dktJ21_equals_1 : List UInt8 := dkwJ21_equals_1 ++ []
def dkwJ21_equals_0 : List UInt8 := [42, 190, 43, 190, 160, 0, 30, 3, 61, 28, 42, 190, 162, 0, 20, 42, 28, 51, 43, 28, 51, 159, 0, 5]
abbrev dktJ21_equals_0 : List UInt8 := dkwJ21_equals_0 ++ dktJ21_equals_1
theorem dksJ21_equals_0 : cJ21_equals.data.toList.drop 0 = dktJ21_equals_0 := sorry
theorem dksJ21_equals_1 : cJ21_equals.data.toList.drop 24 = dktJ21_equals_1 := sorry
theorem dJ21_equals_0 : decode cJ21_equals 0 = .ok (.aload_n 0, 1) := sorry
theorem dJ21_equals_1 : decode cJ21_equals 1 = .ok (.arraylength, 1) := sorry
theorem dJ21_equals_2 : decode cJ21_equals 2 = .ok (.aload_n 1, 1) := sorry
theorem dJ21_equals_3 : decode cJ21_equals 3 = .ok (.arraylength, 1) := sorry
theorem dJ21_equals_4 : decode cJ21_equals 4 = .ok (.if_icmp .ne 30, 3) := sorry
theorem dJ21_equals_7 : decode cJ21_equals 7 = .ok (.iconst 0, 1) := sorry
theorem dJ21_equals_8 : decode cJ21_equals 8 = .ok (.istore_n 2, 1) := sorry
theorem dJ21_equals_9 : decode cJ21_equals 9 = .ok (.iload_n 2, 1) := sorry
theorem dJ21_equals_10 : decode cJ21_equals 10 = .ok (.aload_n 0, 1) := sorry
theorem dJ21_equals_11 : decode cJ21_equals 11 = .ok (.arraylength, 1) := sorry
theorem dJ21_equals_12 : decode cJ21_equals 12 = .ok (.if_icmp .ge 20, 3) := sorry
theorem dJ21_equals_15 : decode cJ21_equals 15 = .ok (.aload_n 0, 1) := sorry
theorem dJ21_equals_16 : decode cJ21_equals 16 = .ok (.iload_n 2, 1) := sorry
theorem dJ21_equals_17 : decode cJ21_equals 17 = .ok (.baload, 1) := sorry
theorem dJ21_equals_18 : decode cJ21_equals 18 = .ok (.aload_n 1, 1) := sorry
theorem dJ21_equals_19 : decode cJ21_equals 19 = .ok (.iload_n 2, 1) := sorry
theorem dJ21_equals_20 : decode cJ21_equals 20 = .ok (.baload, 1) := sorry
theorem dJ21_equals_21 : decode cJ21_equals 21 = .ok (.if_icmp .eq 5, 3) := sorry
theorem dJ21_equals_24 : decode cJ21_equals 24 = .ok (.iconst 0, 1) := sorry
theorem dJ21_equals_25 : decode cJ21_equals 25 = .ok (.ireturn, 1) := sorry
theorem dJ21_equals_26 : decode cJ21_equals 26 = .ok (.iinc 2 1, 3) := sorry
theorem dJ21_equals_29 : decode cJ21_equals 29 = .ok (.goto (-20), 3) := sorry
theorem dJ21_equals_32 : decode cJ21_equals 32 = .ok (.iconst 1, 1) := sorry
theorem dJ21_equals_33 : decode cJ21_equals 33 = .ok (.ireturn, 1) := sorry
theorem dJ21_equals_34 : decode cJ21_equals 34 = .ok (.iconst 0, 1) := sorry
theorem dJ21_equals_35 : decode cJ21_equals 35 = .ok (.ireturn, 1) := sorry
abbrev cJ21_hashCode : ByteArray := prog_36_method_21_code
def yJ21_hashCode : MethodName := ⟨RJ21, "hashCode", "([B)I"⟩
def dkwJ21_hashCode_2 : List UInt8 := [3, 167, 0, 22, 42, 3, 51, 17, 0, 255, 126, 167, 0, 12, 42, 3, 42, 190, 3, 7, 184, 0, 84, 172]
abbrev dktJ21_hashCode_2 : List UInt8 := dkwJ21_hashCode_2 ++ []
def dkwJ21_hashCode_1 : List UInt8 := [171, 0, 0, 0, 0, 40, 0, 0, 0, 2, 0, 0, 0, 0, 0, 0, 0, 26, 0, 0, 0, 1, 0, 0, 0, 30]
abbrev dktJ21_hashCode_1 : List UInt8 := dkwJ21_hashCode_1 ++ dktJ21_hashCode_2
def dkwJ21_hashCode_0 : List UInt8 := [42, 190]
abbrev dktJ21_hashCode_0 : List UInt8 := dkwJ21_hashCode_0 ++ dktJ21_hashCode_1
theorem dksJ21_hashCode_0 : cJ21_hashCode.data.toList.drop 0 = dktJ21_hashCode_0 := sorry
theorem dksJ21_hashCode_1 : cJ21_hashCode.data.toList.drop 2 = dktJ21_hashCode_1 := sorry
theorem dksJ21_hashCode_2 : cJ21_hashCode.data.toList.drop 28 = dktJ21_hashCode_2 := sorry
theorem dJ21_hashCode_0 : decode cJ21_hashCode 0 = .ok (.aload_n 0, 1) := sorry
theorem dJ21_hashCode_1 : decode cJ21_hashCode 1 = .ok (.arraylength, 1) := sorry
theorem dJ21_hashCode_2 : decode cJ21_hashCode 2 = .ok (.lookupswitch 40 #[(0, 26), (1, 30)], 26) := sorry
theorem dJ21_hashCode_28 : decode cJ21_hashCode 28 = .ok (.iconst 0, 1) := sorry
theorem dJ21_hashCode_29 : decode cJ21_hashCode 29 = .ok (.goto 22, 3) := sorry
theorem dJ21_hashCode_32 : decode cJ21_hashCode 32 = .ok (.aload_n 0, 1) := sorry
theorem dJ21_hashCode_33 : decode cJ21_hashCode 33 = .ok (.iconst 0, 1) := sorry
theorem dJ21_hashCode_34 : decode cJ21_hashCode 34 = .ok (.baload, 1) := sorry
theorem dJ21_hashCode_35 : decode cJ21_hashCode 35 = .ok (.sipush 255, 3) := sorry
theorem dJ21_hashCode_38 : decode cJ21_hashCode 38 = .ok (.iand, 1) := sorry
theorem dJ21_hashCode_39 : decode cJ21_hashCode 39 = .ok (.goto 12, 3) := sorry
theorem dJ21_hashCode_42 : decode cJ21_hashCode 42 = .ok (.aload_n 0, 1) := sorry
theorem dJ21_hashCode_43 : decode cJ21_hashCode 43 = .ok (.iconst 0, 1) := sorry
theorem dJ21_hashCode_44 : decode cJ21_hashCode 44 = .ok (.aload_n 0, 1) := sorry
theorem dJ21_hashCode_45 : decode cJ21_hashCode 45 = .ok (.arraylength, 1) := sorry
theorem dJ21_hashCode_46 : decode cJ21_hashCode 46 = .ok (.iconst 0, 1) := sorry
theorem dJ21_hashCode_47 : decode cJ21_hashCode 47 = .ok (.iconst 4, 1) := sorry
theorem dJ21_hashCode_48 : decode cJ21_hashCode 48 = .ok (.invokestatic 84, 3) := sorry
theorem dJ21_hashCode_51 : decode cJ21_hashCode 51 = .ok (.ireturn, 1) := sorry
theorem q157 : (Jvm.Cond.initialized "java/lang/StringLatin1") ∈ lw_all := sorry
theorem q739 : (Jvm.Cond.static ({ cls := "java/lang/StringLatin1", name := "inflate", desc := "([BI[BII)V" } : Jvm.MethodName)) ∈ lw_all := lw_g (lw_at lw_m3 130 rfl) rfl
theorem q740 : (Jvm.Cond.code ({ cls := "java/lang/StringLatin1", name := "inflate", desc := "([BI[BII)V" } : Jvm.MethodName) prog_36_method_50_code (5 : Nat) (Option.none : Option Jvm.ClassFile.FieldType)) ∈ lw_all := lw_g (lw_at lw_m3 131 rfl) rfl
theorem q741 : (Jvm.Cond.methodLink "java/lang/StringLatin1" (240 : Nat) ({ cls := "java/lang/StringUTF16", name := "inflate", desc := "([BI[BII)V" } : Jvm.MethodName)) ∈ lw_all := lw_g (lw_at lw_m3 132 rfl) rfl
theorem q1512 : (Jvm.Cond.static ({ cls := "java/lang/StringLatin1", name := "charAt", desc := "([BI)C" } : Jvm.MethodName)) ∈ lw_all := lw_g (lw_at lw_m6 183 rfl) rfl
theorem q1513 : (Jvm.Cond.code ({ cls := "java/lang/StringLatin1", name := "charAt", desc := "([BI)C" } : Jvm.MethodName) prog_36_method_2_code (2 : Nat) (Option.some Jvm.ClassFile.FieldType.char)) ∈ lw_all := lw_g (lw_at lw_m6 184 rfl) rfl
theorem q1514 : (Jvm.Cond.methodLink "java/lang/StringLatin1" (9 : Nat) ({ cls := "java/lang/String", name := "checkIndex", desc := "(II)V" } : Jvm.MethodName)) ∈ lw_all := sorry
theorem q1576 : (Jvm.Cond.static ({ cls := "java/lang/StringLatin1", name := "fillNull", desc := "([BII)V" } : Jvm.MethodName)) ∈ lw_all := lw_g (lw_at lw_m7 7 rfl) rfl
theorem q1577 : (Jvm.Cond.code ({ cls := "java/lang/StringLatin1", name := "fillNull", desc := "([BII)V" } : Jvm.MethodName) prog_36_method_48_code (3 : Nat) (Option.none : Option Jvm.ClassFile.FieldType)) ∈ lw_all := lw_g (lw_at lw_m7 8 rfl) rfl
theorem q1578 : (Jvm.Cond.methodLink "java/lang/StringLatin1" (236 : Nat) ({ cls := "java/util/Arrays", name := "fill", desc := "([BIIB)V" } : Jvm.MethodName)) ∈ lw_all := lw_g (lw_at lw_m7 9 rfl) rfl
theorem q1604 : (Jvm.Cond.static ({ cls := "java/lang/StringLatin1", name := "canEncode", desc := "(C)Z" } : Jvm.MethodName)) ∈ lw_all := sorry
theorem q1605 : (Jvm.Cond.code ({ cls := "java/lang/StringLatin1", name := "canEncode", desc := "(C)Z" } : Jvm.MethodName) prog_36_method_3_code (1 : Nat) (Option.some Jvm.ClassFile.FieldType.boolean)) ∈ lw_all := sorry
theorem q1680 : (Jvm.Cond.static ({ cls := "java/lang/StringLatin1", name := "equals", desc := "([B[B)Z" } : Jvm.MethodName)) ∈ lw_all := lw_g (lw_at lw_m7 111 rfl) rfl
theorem q1681 : (Jvm.Cond.code ({ cls := "java/lang/StringLatin1", name := "equals", desc := "([B[B)Z" } : Jvm.MethodName) prog_36_method_13_code (3 : Nat) (Option.some Jvm.ClassFile.FieldType.boolean)) ∈ lw_all := lw_g (lw_at lw_m7 112 rfl) rfl
theorem q1751 : (Jvm.Cond.static ({ cls := "java/lang/StringLatin1", name := "hashCode", desc := "([B)I" } : Jvm.MethodName)) ∈ lw_all := lw_g (lw_at lw_m7 182 rfl) rfl
theorem q1752 : (Jvm.Cond.code ({ cls := "java/lang/StringLatin1", name := "hashCode", desc := "([B)I" } : Jvm.MethodName) prog_36_method_21_code (1 : Nat) (Option.some Jvm.ClassFile.FieldType.int)) ∈ lw_all := lw_g (lw_at lw_m7 183 rfl) rfl
theorem q1753 : (Jvm.Cond.methodLink "java/lang/StringLatin1" (84 : Nat) ({ cls := "jdk/internal/util/ArraysSupport", name := "vectorizedHashCode", desc := "(Ljava/lang/Object;IIII)I" } : Jvm.MethodName)) ∈ lw_all := sorry
