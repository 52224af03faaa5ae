/-! java/util/AbstractCollection -/
set_option maxRecDepth 100000
def RJ0 : String := "java/util/AbstractCollection"
abbrev cJ0_init : ByteArray := prog_43_method_1_code
def yJ0_init : MethodName := ⟨RJ0, "<init>", "()V"⟩
theorem dJ0_init_0 : decode cJ0_init 0 = .ok (.aload_n 0, 1) := sorry
theorem dJ0_init_1 : decode cJ0_init 1 = .ok (.invokespecial 1, 3) := sorry
theorem dJ0_init_4 : decode cJ0_init 4 = .ok (.return_, 1) := sorry
theorem q132 : (Jvm.Cond.initialized "java/util/AbstractCollection") ∈ lw_all := sorry
theorem q213 : (Jvm.Cond.instanceMethod ({ cls := "java/util/AbstractCollection", name := "<init>", desc := "()V" } : Jvm.MethodName)) ∈ lw_all := sorry
theorem q214 : (Jvm.Cond.code ({ cls := "java/util/AbstractCollection", name := "<init>", desc := "()V" } : Jvm.MethodName) prog_43_method_1_code (1 : Nat) (Option.none : Option Jvm.ClassFile.FieldType)) ∈ lw_all := sorry
theorem q215 : (Jvm.Cond.methodLink "java/util/AbstractCollection" (1 : Nat) ({ cls := "java/lang/Object", name := "<init>", desc := "()V" } : Jvm.MethodName)) ∈ lw_all := sorry
theorem q428 : (Jvm.Cond.declares ({ cls := "java/util/AbstractCollection", name := "size", desc := "()I" } : Jvm.MethodName)) ∈ lw_tbl := sorry
/-! java/util/AbstractList -/
set_option maxRecDepth 100000
def RJ1 : String := "java/util/AbstractList"
abbrev cJ1_init : ByteArray := prog_44_method_1_code
def yJ1_init : MethodName := ⟨RJ1, "<init>", "()V"⟩
def dkwJ1_init_0 : List UInt8 := [42, 183, 0, 1, 42, 3, 181, 0, 7, 177]
abbrev dktJ1_init_0 : List UInt8 := dkwJ1_init_0 ++ []
theorem dksJ1_init_0 : cJ1_init.data.toList.drop 0 = dktJ1_init_0 := sorry
theorem dJ1_init_0 : decode cJ1_init 0 = .ok (.aload_n 0, 1) := sorry
theorem dJ1_init_1 : decode cJ1_init 1 = .ok (.invokespecial 1, 3) := sorry
theorem dJ1_init_4 : decode cJ1_init 4 = .ok (.aload_n 0, 1) := sorry
theorem dJ1_init_5 : decode cJ1_init 5 = .ok (.iconst 0, 1) := sorry
theorem dJ1_init_6 : decode cJ1_init 6 = .ok (.putfield 7, 3) := sorry
theorem dJ1_init_9 : decode cJ1_init 9 = .ok (.return_, 1) := sorry
abbrev cJ1_listIterator : ByteArray := prog_44_method_12_code
def yJ1_listIterator : MethodName := ⟨RJ1, "listIterator", "()Ljava/util/ListIterator;"⟩
def dkwJ1_listIterator_0 : List UInt8 := [42, 3, 182, 0, 47, 176]
abbrev dktJ1_listIterator_0 : List UInt8 := dkwJ1_listIterator_0 ++ []
theorem dksJ1_listIterator_0 : cJ1_listIterator.data.toList.drop 0 = dktJ1_listIterator_0 := sorry
theorem dJ1_listIterator_0 : decode cJ1_listIterator 0 = .ok (.aload_n 0, 1) := sorry
theorem dJ1_listIterator_1 : decode cJ1_listIterator 1 = .ok (.iconst 0, 1) := sorry
theorem dJ1_listIterator_2 : decode cJ1_listIterator 2 = .ok (.invokevirtual 47, 3) := sorry
theorem dJ1_listIterator_5 : decode cJ1_listIterator 5 = .ok (.areturn, 1) := sorry
theorem q133 : (Jvm.Cond.initialized "java/util/AbstractList") ∈ lw_all := sorry
theorem q210 : (Jvm.Cond.instanceMethod ({ cls := "java/util/AbstractList", name := "<init>", desc := "()V" } : Jvm.MethodName)) ∈ lw_all := sorry
theorem q211 : (Jvm.Cond.code ({ cls := "java/util/AbstractList", name := "<init>", desc := "()V" } : Jvm.MethodName) prog_44_method_1_code (1 : Nat) (Option.none : Option Jvm.ClassFile.FieldType)) ∈ lw_all := sorry
theorem q212 : (Jvm.Cond.methodLink "java/util/AbstractList" (1 : Nat) ({ cls := "java/util/AbstractCollection", name := "<init>", desc := "()V" } : Jvm.MethodName)) ∈ lw_all := sorry
theorem q220 : (Jvm.Cond.fieldLink "java/util/AbstractList" (7 : Nat) "java/util/AbstractList" "modCount" "I") ∈ lw_all := sorry
theorem q235 : (Jvm.Cond.soleField "java/util/AbstractList" "modCount") ∈ lw_all := sorry
theorem q336 : (Jvm.Cond.declares ({ cls := "java/util/AbstractList", name := "listIterator", desc := "()Ljava/util/ListIterator;" } : Jvm.MethodName)) ∈ lw_tbl := sorry
theorem q338 : (Jvm.Cond.instanceMethod ({ cls := "java/util/AbstractList", name := "listIterator", desc := "()Ljava/util/ListIterator;" } : Jvm.MethodName)) ∈ lw_all := sorry
theorem q339 : (Jvm.Cond.code ({ cls := "java/util/AbstractList", name := "listIterator", desc := "()Ljava/util/ListIterator;" } : Jvm.MethodName) prog_44_method_12_code (1 : Nat) (Option.some (Jvm.ClassFile.FieldType.object "java/util/ListIterator"))) ∈ lw_all := sorry
theorem q340 : (Jvm.Cond.methodLink "java/util/AbstractList" (47 : Nat) ({ cls := "java/util/AbstractList", name := "listIterator", desc := "(I)Ljava/util/ListIterator;" } : Jvm.MethodName)) ∈ lw_all := sorry
theorem q341 : (Jvm.Cond.instanceMethod ({ cls := "java/util/AbstractList", name := "listIterator", desc := "(I)Ljava/util/ListIterator;" } : Jvm.MethodName)) ∈ lw_all := sorry
theorem q342 : (Jvm.Cond.sameMethod "java/util/AbstractList" "java/util/AbstractList" "listIterator" "(I)Ljava/util/ListIterator;") ∈ lw_all := sorry
theorem q415 : (Jvm.Cond.declares ({ cls := "java/util/AbstractList", name := "listIterator", desc := "(I)Ljava/util/ListIterator;" } : Jvm.MethodName)) ∈ lw_tbl := sorry
theorem q427 : (Jvm.Cond.sameMethod "java/util/AbstractList" "java/util/AbstractCollection" "size" "()I") ∈ lw_all := sorry
theorem q462 : (Jvm.Cond.declares ({ cls := "java/util/AbstractList", name := "get", desc := "(I)Ljava/lang/Object;" } : Jvm.MethodName)) ∈ lw_tbl := sorry
theorem q463 : (Jvm.Cond.sameMethod "java/util/AbstractList" "java/util/AbstractList" "get" "(I)Ljava/lang/Object;") ∈ lw_all := sorry
theorem q2124 : (Jvm.Cond.instanceMethod ({ cls := "java/util/AbstractList", name := "remove", desc := "(I)Ljava/lang/Object;" } : Jvm.MethodName)) ∈ lw_all := sorry
theorem q2125 : (Jvm.Cond.sameMethod "java/util/AbstractList" "java/util/AbstractList" "remove" "(I)Ljava/lang/Object;") ∈ lw_all := sorry
theorem q2135 : (Jvm.Cond.declares ({ cls := "java/util/AbstractList", name := "remove", desc := "(I)Ljava/lang/Object;" } : Jvm.MethodName)) ∈ lw_tbl := sorry
/-! java/lang/Throwable -/
set_option maxRecDepth 100000
def RJ10 : String := "java/lang/Throwable"
def TJ10 : u_T := fun k => match k with
  | 0 => ("java/lang/Throwable", "cause", "Ljava/lang/Throwable;", false)
  | 1 => ("java/lang/Throwable", "stackTrace", "[Ljava/lang/StackTraceElement;", false)
  | 2 => ("java/lang/Throwable", "suppressedExceptions", "Ljava/util/List;", false)
  | 3 => ("java/lang/Throwable", "detailMessage", "Ljava/lang/String;", false)
  | _ => ("java/lang/Throwable", "backtrace", "Ljava/lang/Object;", false)
def tyJ10 : Nat → FieldType := fun k => match k with
  | 0 => .object "java/lang/Throwable"
  | 1 => .array (.object "java/lang/StackTraceElement")
  | 2 => .object "java/util/List"
  | 3 => .object "java/lang/String"
  | _ => .object "java/lang/Object"
abbrev wsJ100 : List Cond := u_ws RJ10 TJ10 5
theorem nmJ10 : ∀ a, a < 5 → ∀ b, b < 5 → a ≠ b → (TJ10 a).2.1 ≠ (TJ10 b).2.1 := sorry
theorem tyJ10_ok : ∀ k, k < 5 → parseFieldDescriptor (TJ10 k).2.2.1 = some (tyJ10 k) := sorry
abbrev cJ10_init : ByteArray := prog_40_method_1_code
def yJ10_init : MethodName := ⟨RJ10, "<init>", "()V"⟩
def dkwJ10_init_1 : List UInt8 := [182, 0, 27, 87, 177]
abbrev dktJ10_init_1 : List UInt8 := dkwJ10_init_1 ++ []
def dkwJ10_init_0 : List UInt8 := [42, 183, 0, 1, 42, 42, 181, 0, 7, 42, 178, 0, 13, 181, 0, 17, 42, 178, 0, 20, 181, 0, 24, 42]
abbrev dktJ10_init_0 : List UInt8 := dkwJ10_init_0 ++ dktJ10_init_1
theorem dksJ10_init_0 : cJ10_init.data.toList.drop 0 = dktJ10_init_0 := sorry
theorem dksJ10_init_1 : cJ10_init.data.toList.drop 24 = dktJ10_init_1 := sorry
theorem dJ10_init_0 : decode cJ10_init 0 = .ok (.aload_n 0, 1) := sorry
theorem dJ10_init_1 : decode cJ10_init 1 = .ok (.invokespecial 1, 3) := sorry
theorem dJ10_init_4 : decode cJ10_init 4 = .ok (.aload_n 0, 1) := sorry
theorem dJ10_init_5 : decode cJ10_init 5 = .ok (.aload_n 0, 1) := sorry
theorem dJ10_init_6 : decode cJ10_init 6 = .ok (.putfield 7, 3) := sorry
theorem dJ10_init_9 : decode cJ10_init 9 = .ok (.aload_n 0, 1) := sorry
theorem dJ10_init_10 : decode cJ10_init 10 = .ok (.getstatic 13, 3) := sorry
theorem dJ10_init_13 : decode cJ10_init 13 = .ok (.putfield 17, 3) := sorry
theorem dJ10_init_16 : decode cJ10_init 16 = .ok (.aload_n 0, 1) := sorry
theorem dJ10_init_17 : decode cJ10_init 17 = .ok (.getstatic 20, 3) := sorry
theorem dJ10_init_20 : decode cJ10_init 20 = .ok (.putfield 24, 3) := sorry
theorem dJ10_init_23 : decode cJ10_init 23 = .ok (.aload_n 0, 1) := sorry
theorem dJ10_init_24 : decode cJ10_init 24 = .ok (.invokevirtual 27, 3) := sorry
theorem dJ10_init_27 : decode cJ10_init 27 = .ok (.pop, 1) := sorry
theorem dJ10_init_28 : decode cJ10_init 28 = .ok (.return_, 1) := sorry
abbrev cJ10_init_2 : ByteArray := prog_40_method_4_code
def yJ10_init_2 : MethodName := ⟨RJ10, "<init>", "(Ljava/lang/Throwable;)V"⟩
def dkwJ10_init_2_2 : List UInt8 := [181, 0, 7, 177]
abbrev dktJ10_init_2_2 : List UInt8 := dkwJ10_init_2_2 ++ []
def dkwJ10_init_2_1 : List UInt8 := [182, 0, 27, 87, 42, 43, 199, 0, 7, 1, 167, 0, 7, 43, 182, 0, 35, 181, 0, 31, 42, 43]
abbrev dktJ10_init_2_1 : List UInt8 := dkwJ10_init_2_1 ++ dktJ10_init_2_2
def dkwJ10_init_2_0 : List UInt8 := [42, 183, 0, 1, 42, 42, 181, 0, 7, 42, 178, 0, 13, 181, 0, 17, 42, 178, 0, 20, 181, 0, 24, 42]
abbrev dktJ10_init_2_0 : List UInt8 := dkwJ10_init_2_0 ++ dktJ10_init_2_1
theorem dksJ10_init_2_0 : cJ10_init_2.data.toList.drop 0 = dktJ10_init_2_0 := sorry
theorem dksJ10_init_2_1 : cJ10_init_2.data.toList.drop 24 = dktJ10_init_2_1 := sorry
theorem dksJ10_init_2_2 : cJ10_init_2.data.toList.drop 46 = dktJ10_init_2_2 := sorry
theorem dJ10_init_2_0 : decode cJ10_init_2 0 = .ok (.aload_n 0, 1) := sorry
theorem dJ10_init_2_1 : decode cJ10_init_2 1 = .ok (.invokespecial 1, 3) := sorry
theorem dJ10_init_2_4 : decode cJ10_init_2 4 = .ok (.aload_n 0, 1) := sorry
theorem dJ10_init_2_5 : decode cJ10_init_2 5 = .ok (.aload_n 0, 1) := sorry
theorem dJ10_init_2_6 : decode cJ10_init_2 6 = .ok (.putfield 7, 3) := sorry
theorem dJ10_init_2_9 : decode cJ10_init_2 9 = .ok (.aload_n 0, 1) := sorry
theorem dJ10_init_2_10 : decode cJ10_init_2 10 = .ok (.getstatic 13, 3) := sorry
theorem dJ10_init_2_13 : decode cJ10_init_2 13 = .ok (.putfield 17, 3) := sorry
theorem dJ10_init_2_16 : decode cJ10_init_2 16 = .ok (.aload_n 0, 1) := sorry
theorem dJ10_init_2_17 : decode cJ10_init_2 17 = .ok (.getstatic 20, 3) := sorry
theorem dJ10_init_2_20 : decode cJ10_init_2 20 = .ok (.putfield 24, 3) := sorry
theorem dJ10_init_2_23 : decode cJ10_init_2 23 = .ok (.aload_n 0, 1) := sorry
theorem dJ10_init_2_24 : decode cJ10_init_2 24 = .ok (.invokevirtual 27, 3) := sorry
theorem dJ10_init_2_27 : decode cJ10_init_2 27 = .ok (.pop, 1) := sorry
theorem dJ10_init_2_28 : decode cJ10_init_2 28 = .ok (.aload_n 0, 1) := sorry
theorem dJ10_init_2_29 : decode cJ10_init_2 29 = .ok (.aload_n 1, 1) := sorry
theorem dJ10_init_2_30 : decode cJ10_init_2 30 = .ok (.ifnonnull 7, 3) := sorry
theorem dJ10_init_2_33 : decode cJ10_init_2 33 = .ok (.aconst_null, 1) := sorry
theorem dJ10_init_2_34 : decode cJ10_init_2 34 = .ok (.goto 7, 3) := sorry
theorem dJ10_init_2_37 : decode cJ10_init_2 37 = .ok (.aload_n 1, 1) := sorry
theorem dJ10_init_2_38 : decode cJ10_init_2 38 = .ok (.invokevirtual 35, 3) := sorry
theorem dJ10_init_2_41 : decode cJ10_init_2 41 = .ok (.putfield 31, 3) := sorry
theorem dJ10_init_2_44 : decode cJ10_init_2 44 = .ok (.aload_n 0, 1) := sorry
theorem dJ10_init_2_45 : decode cJ10_init_2 45 = .ok (.aload_n 1, 1) := sorry
theorem dJ10_init_2_46 : decode cJ10_init_2 46 = .ok (.putfield 7, 3) := sorry
theorem dJ10_init_2_49 : decode cJ10_init_2 49 = .ok (.return_, 1) := sorry
abbrev cJ10_toString : ByteArray := prog_40_method_11_code
def yJ10_toString : MethodName := ⟨RJ10, "toString", "()Ljava/lang/String;"⟩
def dkwJ10_toString_1 : List UInt8 := [43, 182, 0, 49, 18, 81, 182, 0, 49, 44, 182, 0, 49, 182, 0, 60, 167, 0, 4, 43, 176]
abbrev dktJ10_toString_1 : List UInt8 := dkwJ10_toString_1 ++ []
def dkwJ10_toString_0 : List UInt8 := [42, 182, 0, 69, 182, 0, 73, 76, 42, 182, 0, 78, 77, 44, 198, 0, 29, 187, 0, 44, 89, 183, 0, 46]
abbrev dktJ10_toString_0 : List UInt8 := dkwJ10_toString_0 ++ dktJ10_toString_1
theorem dksJ10_toString_0 : cJ10_toString.data.toList.drop 0 = dktJ10_toString_0 := sorry
theorem dksJ10_toString_1 : cJ10_toString.data.toList.drop 24 = dktJ10_toString_1 := sorry
theorem dJ10_toString_0 : decode cJ10_toString 0 = .ok (.aload_n 0, 1) := sorry
theorem dJ10_toString_1 : decode cJ10_toString 1 = .ok (.invokevirtual 69, 3) := sorry
theorem dJ10_toString_4 : decode cJ10_toString 4 = .ok (.invokevirtual 73, 3) := sorry
theorem dJ10_toString_7 : decode cJ10_toString 7 = .ok (.astore_n 1, 1) := sorry
theorem dJ10_toString_8 : decode cJ10_toString 8 = .ok (.aload_n 0, 1) := sorry
theorem dJ10_toString_9 : decode cJ10_toString 9 = .ok (.invokevirtual 78, 3) := sorry
theorem dJ10_toString_12 : decode cJ10_toString 12 = .ok (.astore_n 2, 1) := sorry
theorem dJ10_toString_13 : decode cJ10_toString 13 = .ok (.aload_n 2, 1) := sorry
theorem dJ10_toString_14 : decode cJ10_toString 14 = .ok (.ifnull 29, 3) := sorry
theorem dJ10_toString_17 : decode cJ10_toString 17 = .ok (.new 44, 3) := sorry
theorem dJ10_toString_20 : decode cJ10_toString 20 = .ok (.dup, 1) := sorry
theorem dJ10_toString_21 : decode cJ10_toString 21 = .ok (.invokespecial 46, 3) := sorry
theorem dJ10_toString_24 : decode cJ10_toString 24 = .ok (.aload_n 1, 1) := sorry
theorem dJ10_toString_25 : decode cJ10_toString 25 = .ok (.invokevirtual 49, 3) := sorry
theorem dJ10_toString_28 : decode cJ10_toString 28 = .ok (.ldc 81, 2) := sorry
theorem dJ10_toString_30 : decode cJ10_toString 30 = .ok (.invokevirtual 49, 3) := sorry
theorem dJ10_toString_33 : decode cJ10_toString 33 = .ok (.aload_n 2, 1) := sorry
theorem dJ10_toString_34 : decode cJ10_toString 34 = .ok (.invokevirtual 49, 3) := sorry
theorem dJ10_toString_37 : decode cJ10_toString 37 = .ok (.invokevirtual 60, 3) := sorry
theorem dJ10_toString_40 : decode cJ10_toString 40 = .ok (.goto 4, 3) := sorry
theorem dJ10_toString_43 : decode cJ10_toString 43 = .ok (.aload_n 1, 1) := sorry
theorem dJ10_toString_44 : decode cJ10_toString 44 = .ok (.areturn, 1) := sorry
abbrev cJ10_getLocalizedMessage : ByteArray := prog_40_method_7_code
def yJ10_getLocalizedMessage : MethodName := ⟨RJ10, "getLocalizedMessage", "()Ljava/lang/String;"⟩
theorem dJ10_getLocalizedMessage_0 : decode cJ10_getLocalizedMessage 0 = .ok (.aload_n 0, 1) := sorry
theorem dJ10_getLocalizedMessage_1 : decode cJ10_getLocalizedMessage 1 = .ok (.invokevirtual 39, 3) := sorry
theorem dJ10_getLocalizedMessage_4 : decode cJ10_getLocalizedMessage 4 = .ok (.areturn, 1) := sorry
abbrev cJ10_getMessage : ByteArray := prog_40_method_6_code
def yJ10_getMessage : MethodName := ⟨RJ10, "getMessage", "()Ljava/lang/String;"⟩
theorem dJ10_getMessage_0 : decode cJ10_getMessage 0 = .ok (.aload_n 0, 1) := sorry
theorem dJ10_getMessage_1 : decode cJ10_getMessage 1 = .ok (.getfield 31, 3) := sorry
theorem dJ10_getMessage_4 : decode cJ10_getMessage 4 = .ok (.areturn, 1) := sorry
abbrev cJ10_init_3 : ByteArray := prog_40_method_2_code
def yJ10_init_3 : MethodName := ⟨RJ10, "<init>", "(Ljava/lang/String;)V"⟩
def dkwJ10_init_3_1 : List UInt8 := [182, 0, 27, 87, 42, 43, 181, 0, 31, 177]
abbrev dktJ10_init_3_1 : List UInt8 := dkwJ10_init_3_1 ++ []
def dkwJ10_init_3_0 : List UInt8 := [42, 183, 0, 1, 42, 42, 181, 0, 7, 42, 178, 0, 13, 181, 0, 17, 42, 178, 0, 20, 181, 0, 24, 42]
abbrev dktJ10_init_3_0 : List UInt8 := dkwJ10_init_3_0 ++ dktJ10_init_3_1
theorem dksJ10_init_3_0 : cJ10_init_3.data.toList.drop 0 = dktJ10_init_3_0 := sorry
theorem dksJ10_init_3_1 : cJ10_init_3.data.toList.drop 24 = dktJ10_init_3_1 := sorry
theorem dJ10_init_3_0 : decode cJ10_init_3 0 = .ok (.aload_n 0, 1) := sorry
theorem dJ10_init_3_1 : decode cJ10_init_3 1 = .ok (.invokespecial 1, 3) := sorry
theorem dJ10_init_3_4 : decode cJ10_init_3 4 = .ok (.aload_n 0, 1) := sorry
theorem dJ10_init_3_5 : decode cJ10_init_3 5 = .ok (.aload_n 0, 1) := sorry
theorem dJ10_init_3_6 : decode cJ10_init_3 6 = .ok (.putfield 7, 3) := sorry
theorem dJ10_init_3_9 : decode cJ10_init_3 9 = .ok (.aload_n 0, 1) := sorry
theorem dJ10_init_3_10 : decode cJ10_init_3 10 = .ok (.getstatic 13, 3) := sorry
theorem dJ10_init_3_13 : decode cJ10_init_3 13 = .ok (.putfield 17, 3) := sorry
theorem dJ10_init_3_16 : decode cJ10_init_3 16 = .ok (.aload_n 0, 1) := sorry
theorem dJ10_init_3_17 : decode cJ10_init_3 17 = .ok (.getstatic 20, 3) := sorry
theorem dJ10_init_3_20 : decode cJ10_init_3 20 = .ok (.putfield 24, 3) := sorry
theorem dJ10_init_3_23 : decode cJ10_init_3 23 = .ok (.aload_n 0, 1) := sorry
theorem dJ10_init_3_24 : decode cJ10_init_3 24 = .ok (.invokevirtual 27, 3) := sorry
theorem dJ10_init_3_27 : decode cJ10_init_3 27 = .ok (.pop, 1) := sorry
theorem dJ10_init_3_28 : decode cJ10_init_3 28 = .ok (.aload_n 0, 1) := sorry
theorem dJ10_init_3_29 : decode cJ10_init_3 29 = .ok (.aload_n 1, 1) := sorry
theorem dJ10_init_3_30 : decode cJ10_init_3 30 = .ok (.putfield 31, 3) := sorry
theorem dJ10_init_3_33 : decode cJ10_init_3 33 = .ok (.return_, 1) := sorry
abbrev cJ10_init_4 : ByteArray := prog_40_method_5_code
def yJ10_init_4 : MethodName := ⟨RJ10, "<init>", "(Ljava/lang/String;Ljava/lang/Throwable;ZZ)V"⟩
def dkwJ10_init_4_2 : List UInt8 := [44, 181, 0, 7, 29, 154, 0, 8, 42, 1, 181, 0, 24, 177]
abbrev dktJ10_init_4_2 : List UInt8 := dkwJ10_init_4_2 ++ []
def dkwJ10_init_4_1 : List UInt8 := [21, 4, 153, 0, 11, 42, 182, 0, 27, 87, 167, 0, 8, 42, 1, 181, 0, 17, 42, 43, 181, 0, 31, 42]
abbrev dktJ10_init_4_1 : List UInt8 := dkwJ10_init_4_1 ++ dktJ10_init_4_2
def dkwJ10_init_4_0 : List UInt8 := [42, 183, 0, 1, 42, 42, 181, 0, 7, 42, 178, 0, 13, 181, 0, 17, 42, 178, 0, 20, 181, 0, 24]
abbrev dktJ10_init_4_0 : List UInt8 := dkwJ10_init_4_0 ++ dktJ10_init_4_1
theorem dksJ10_init_4_0 : cJ10_init_4.data.toList.drop 0 = dktJ10_init_4_0 := sorry
theorem dksJ10_init_4_1 : cJ10_init_4.data.toList.drop 23 = dktJ10_init_4_1 := sorry
theorem dksJ10_init_4_2 : cJ10_init_4.data.toList.drop 47 = dktJ10_init_4_2 := sorry
theorem dJ10_init_4_0 : decode cJ10_init_4 0 = .ok (.aload_n 0, 1) := sorry
theorem dJ10_init_4_1 : decode cJ10_init_4 1 = .ok (.invokespecial 1, 3) := sorry
theorem dJ10_init_4_4 : decode cJ10_init_4 4 = .ok (.aload_n 0, 1) := sorry
theorem dJ10_init_4_5 : decode cJ10_init_4 5 = .ok (.aload_n 0, 1) := sorry
theorem dJ10_init_4_6 : decode cJ10_init_4 6 = .ok (.putfield 7, 3) := sorry
theorem dJ10_init_4_9 : decode cJ10_init_4 9 = .ok (.aload_n 0, 1) := sorry
theorem dJ10_init_4_10 : decode cJ10_init_4 10 = .ok (.getstatic 13, 3) := sorry
theorem dJ10_init_4_13 : decode cJ10_init_4 13 = .ok (.putfield 17, 3) := sorry
theorem dJ10_init_4_16 : decode cJ10_init_4 16 = .ok (.aload_n 0, 1) := sorry
theorem dJ10_init_4_17 : decode cJ10_init_4 17 = .ok (.getstatic 20, 3) := sorry
theorem dJ10_init_4_20 : decode cJ10_init_4 20 = .ok (.putfield 24, 3) := sorry
theorem dJ10_init_4_23 : decode cJ10_init_4 23 = .ok (.iload 4, 2) := sorry
theorem dJ10_init_4_25 : decode cJ10_init_4 25 = .ok (.ifCond .eq 11, 3) := sorry
theorem dJ10_init_4_28 : decode cJ10_init_4 28 = .ok (.aload_n 0, 1) := sorry
theorem dJ10_init_4_29 : decode cJ10_init_4 29 = .ok (.invokevirtual 27, 3) := sorry
theorem dJ10_init_4_32 : decode cJ10_init_4 32 = .ok (.pop, 1) := sorry
theorem dJ10_init_4_33 : decode cJ10_init_4 33 = .ok (.goto 8, 3) := sorry
theorem dJ10_init_4_36 : decode cJ10_init_4 36 = .ok (.aload_n 0, 1) := sorry
theorem dJ10_init_4_37 : decode cJ10_init_4 37 = .ok (.aconst_null, 1) := sorry
theorem dJ10_init_4_38 : decode cJ10_init_4 38 = .ok (.putfield 17, 3) := sorry
theorem dJ10_init_4_41 : decode cJ10_init_4 41 = .ok (.aload_n 0, 1) := sorry
theorem dJ10_init_4_42 : decode cJ10_init_4 42 = .ok (.aload_n 1, 1) := sorry
theorem dJ10_init_4_43 : decode cJ10_init_4 43 = .ok (.putfield 31, 3) := sorry
theorem dJ10_init_4_46 : decode cJ10_init_4 46 = .ok (.aload_n 0, 1) := sorry
theorem dJ10_init_4_47 : decode cJ10_init_4 47 = .ok (.aload_n 2, 1) := sorry
theorem dJ10_init_4_48 : decode cJ10_init_4 48 = .ok (.putfield 7, 3) := sorry
theorem dJ10_init_4_51 : decode cJ10_init_4 51 = .ok (.iload_n 3, 1) := sorry
theorem dJ10_init_4_52 : decode cJ10_init_4 52 = .ok (.ifCond .ne 8, 3) := sorry
theorem dJ10_init_4_55 : decode cJ10_init_4 55 = .ok (.aload_n 0, 1) := sorry
theorem dJ10_init_4_56 : decode cJ10_init_4 56 = .ok (.aconst_null, 1) := sorry
theorem dJ10_init_4_57 : decode cJ10_init_4 57 = .ok (.putfield 24, 3) := sorry
theorem dJ10_init_4_60 : decode cJ10_init_4 60 = .ok (.return_, 1) := sorry
theorem q145 : (Jvm.Cond.initialized "java/lang/Throwable") ∈ lw_all := sorry
theorem q496 : (Jvm.Cond.declares ({ cls := "java/lang/Throwable", name := "<init>", desc := "()V" } : Jvm.MethodName)) ∈ lw_tbl := sorry
theorem q497 : (Jvm.Cond.declares ({ cls := "java/lang/Throwable", name := "<init>", desc := "(Ljava/lang/String;)V" } : Jvm.MethodName)) ∈ lw_tbl := sorry
theorem q501 : (Jvm.Cond.lays "java/lang/Throwable" "java/lang/Throwable" "cause" "Ljava/lang/Throwable;") ∈ lw_all := sorry
theorem q503 : (Jvm.Cond.lays "java/lang/Throwable" "java/lang/Throwable" "stackTrace" "[Ljava/lang/StackTraceElement;") ∈ lw_all := lw_g (lw_at lw_m2 134 rfl) rfl
theorem q505 : (Jvm.Cond.lays "java/lang/Throwable" "java/lang/Throwable" "suppressedExceptions" "Ljava/util/List;") ∈ lw_all := sorry
theorem q507 : (Jvm.Cond.lays "java/lang/Throwable" "java/lang/Throwable" "detailMessage" "Ljava/lang/String;") ∈ lw_all := sorry
theorem q509 : (Jvm.Cond.lays "java/lang/Throwable" "java/lang/Throwable" "backtrace" "Ljava/lang/Object;") ∈ lw_all := sorry
theorem q510 : (Jvm.Cond.fieldLink "java/lang/Throwable" (198 : Nat) "java/lang/Throwable" "backtrace" "Ljava/lang/Object;") ∈ lw_all := sorry
theorem q511 : (Jvm.Cond.superclass "java/lang/Throwable" "java/lang/Object") ∈ lw_all := sorry
theorem q512 : (Jvm.Cond.instanceMethod ({ cls := "java/lang/Throwable", name := "<init>", desc := "()V" } : Jvm.MethodName)) ∈ lw_all := sorry
theorem q513 : (Jvm.Cond.code ({ cls := "java/lang/Throwable", name := "<init>", desc := "()V" } : Jvm.MethodName) prog_40_method_1_code (1 : Nat) (Option.none : Option Jvm.ClassFile.FieldType)) ∈ lw_all := sorry
theorem q514 : (Jvm.Cond.methodLink "java/lang/Throwable" (1 : Nat) ({ cls := "java/lang/Object", name := "<init>", desc := "()V" } : Jvm.MethodName)) ∈ lw_all := sorry
theorem q515 : (Jvm.Cond.fieldLink "java/lang/Throwable" (13 : Nat) "java/lang/Throwable" "UNASSIGNED_STACK" "[Ljava/lang/StackTraceElement;") ∈ lw_all := lw_g (lw_at lw_m2 146 rfl) rfl
theorem q516 : (Jvm.Cond.laysStatic "java/lang/Throwable" "UNASSIGNED_STACK" "[Ljava/lang/StackTraceElement;") ∈ lw_tbl := lw_at lw_m2 147 rfl
theorem q517 : (Jvm.Cond.fieldLink "java/lang/Throwable" (20 : Nat) "java/lang/Throwable" "SUPPRESSED_SENTINEL" "Ljava/util/List;") ∈ lw_all := sorry
theorem q518 : (Jvm.Cond.laysStatic "java/lang/Throwable" "SUPPRESSED_SENTINEL" "Ljava/util/List;") ∈ lw_tbl := sorry
theorem q519 : (Jvm.Cond.methodLink "java/lang/Throwable" (27 : Nat) ({ cls := "java/lang/Throwable", name := "fillInStackTrace", desc := "()Ljava/lang/Throwable;" } : Jvm.MethodName)) ∈ lw_all := sorry
theorem q520 : (Jvm.Cond.instanceMethod ({ cls := "java/lang/Throwable", name := "fillInStackTrace", desc := "()Ljava/lang/Throwable;" } : Jvm.MethodName)) ∈ lw_all := sorry
theorem q521 : (Jvm.Cond.sameMethod "java/lang/Throwable" "java/lang/Throwable" "fillInStackTrace" "()Ljava/lang/Throwable;") ∈ lw_all := sorry
theorem q526 : (Jvm.Cond.codeSync ({ cls := "java/lang/Throwable", name := "fillInStackTrace", desc := "()Ljava/lang/Throwable;" } : Jvm.MethodName) prog_40_method_18_code (1 : Nat) (Option.some (Jvm.ClassFile.FieldType.object "java/lang/Throwable"))) ∈ lw_all := sorry
theorem q527 : (Jvm.Cond.methodLink "java/lang/Throwable" (202 : Nat) ({ cls := "java/lang/Throwable", name := "fillInStackTrace", desc := "(I)Ljava/lang/Throwable;" } : Jvm.MethodName)) ∈ lw_all := sorry
theorem q528 : (Jvm.Cond.privateMethod ({ cls := "java/lang/Throwable", name := "fillInStackTrace", desc := "(I)Ljava/lang/Throwable;" } : Jvm.MethodName)) ∈ lw_tbl := sorry
theorem q529 : (Jvm.Cond.instanceMethod ({ cls := "java/lang/Throwable", name := "fillInStackTrace", desc := "(I)Ljava/lang/Throwable;" } : Jvm.MethodName)) ∈ lw_all := sorry
theorem q530 : (Jvm.Cond.instantiable "java/lang/Throwable" (6 : Nat)) ∈ lw_all := sorry
theorem q531 : (Jvm.Cond.native ({ cls := "java/lang/Throwable", name := "fillInStackTrace", desc := "(I)Ljava/lang/Throwable;" } : Jvm.MethodName)) ∈ lw_all := sorry
theorem q542 : (Jvm.Cond.instanceMethod ({ cls := "java/lang/Throwable", name := "<init>", desc := "(Ljava/lang/Throwable;)V" } : Jvm.MethodName)) ∈ lw_all := sorry
theorem q543 : (Jvm.Cond.code ({ cls := "java/lang/Throwable", name := "<init>", desc := "(Ljava/lang/Throwable;)V" } : Jvm.MethodName) prog_40_method_4_code (2 : Nat) (Option.none : Option Jvm.ClassFile.FieldType)) ∈ lw_all := sorry
theorem q544 : (Jvm.Cond.methodLink "java/lang/Throwable" (35 : Nat) ({ cls := "java/lang/Throwable", name := "toString", desc := "()Ljava/lang/String;" } : Jvm.MethodName)) ∈ lw_all := sorry
theorem q545 : (Jvm.Cond.instanceMethod ({ cls := "java/lang/Throwable", name := "toString", desc := "()Ljava/lang/String;" } : Jvm.MethodName)) ∈ lw_all := sorry
theorem q546 : (Jvm.Cond.sameMethod "java/lang/Throwable" "java/lang/Throwable" "toString" "()Ljava/lang/String;") ∈ lw_all := sorry
theorem q552 : (Jvm.Cond.code ({ cls := "java/lang/Throwable", name := "toString", desc := "()Ljava/lang/String;" } : Jvm.MethodName) prog_40_method_11_code (3 : Nat) (Option.some (Jvm.ClassFile.FieldType.object "java/lang/String"))) ∈ lw_all := sorry
theorem q553 : (Jvm.Cond.methodLink "java/lang/Throwable" (69 : Nat) ({ cls := "java/lang/Object", name := "getClass", desc := "()Ljava/lang/Class;" } : Jvm.MethodName)) ∈ lw_all := sorry
theorem q588 : (Jvm.Cond.methodLink "java/lang/Throwable" (78 : Nat) ({ cls := "java/lang/Throwable", name := "getLocalizedMessage", desc := "()Ljava/lang/String;" } : Jvm.MethodName)) ∈ lw_all := sorry
theorem q589 : (Jvm.Cond.instanceMethod ({ cls := "java/lang/Throwable", name := "getLocalizedMessage", desc := "()Ljava/lang/String;" } : Jvm.MethodName)) ∈ lw_all := sorry
theorem q590 : (Jvm.Cond.sameMethod "java/lang/Throwable" "java/lang/Throwable" "getLocalizedMessage" "()Ljava/lang/String;") ∈ lw_all := sorry
theorem q596 : (Jvm.Cond.code ({ cls := "java/lang/Throwable", name := "getLocalizedMessage", desc := "()Ljava/lang/String;" } : Jvm.MethodName) prog_40_method_7_code (1 : Nat) (Option.some (Jvm.ClassFile.FieldType.object "java/lang/String"))) ∈ lw_all := sorry
theorem q597 : (Jvm.Cond.methodLink "java/lang/Throwable" (39 : Nat) ({ cls := "java/lang/Throwable", name := "getMessage", desc := "()Ljava/lang/String;" } : Jvm.MethodName)) ∈ lw_all := sorry
theorem q598 : (Jvm.Cond.instanceMethod ({ cls := "java/lang/Throwable", name := "getMessage", desc := "()Ljava/lang/String;" } : Jvm.MethodName)) ∈ lw_all := sorry
theorem q599 : (Jvm.Cond.sameMethod "java/lang/Throwable" "java/lang/Throwable" "getMessage" "()Ljava/lang/String;") ∈ lw_all := sorry
theorem q605 : (Jvm.Cond.code ({ cls := "java/lang/Throwable", name := "getMessage", desc := "()Ljava/lang/String;" } : Jvm.MethodName) prog_40_method_6_code (1 : Nat) (Option.some (Jvm.ClassFile.FieldType.object "java/lang/String"))) ∈ lw_all := sorry
theorem q606 : (Jvm.Cond.classLink "java/lang/Throwable" (44 : Nat) "java/lang/StringBuilder") ∈ lw_all := sorry
theorem q608 : (Jvm.Cond.methodLink "java/lang/Throwable" (46 : Nat) ({ cls := "java/lang/StringBuilder", name := "<init>", desc := "()V" } : Jvm.MethodName)) ∈ lw_all := sorry
theorem q639 : (Jvm.Cond.methodLink "java/lang/Throwable" (49 : Nat) ({ cls := "java/lang/StringBuilder", name := "append", desc := "(Ljava/lang/String;)Ljava/lang/StringBuilder;" } : Jvm.MethodName)) ∈ lw_all := sorry
theorem q759 : (Jvm.Cond.stringRef "java/lang/Throwable" (81 : Nat) ": ") ∈ lw_tbl := sorry
theorem q760 : (Jvm.Cond.methodLink "java/lang/Throwable" (60 : Nat) ({ cls := "java/lang/StringBuilder", name := "toString", desc := "()Ljava/lang/String;" } : Jvm.MethodName)) ∈ lw_all := sorry
theorem q845 : (Jvm.Cond.instanceMethod ({ cls := "java/lang/Throwable", name := "<init>", desc := "(Ljava/lang/String;)V" } : Jvm.MethodName)) ∈ lw_all := sorry
theorem q846 : (Jvm.Cond.code ({ cls := "java/lang/Throwable", name := "<init>", desc := "(Ljava/lang/String;)V" } : Jvm.MethodName) prog_40_method_2_code (2 : Nat) (Option.none : Option Jvm.ClassFile.FieldType)) ∈ lw_all := sorry
theorem q847 : (Jvm.Cond.fieldLink "java/lang/Throwable" (198 : Nat) "java/lang/Throwable" "backtrace" "Ljava/lang/Object;") ∈ lw_all := sorry
theorem q848 : (Jvm.Cond.fieldLink "java/lang/Throwable" (31 : Nat) "java/lang/Throwable" "detailMessage" "Ljava/lang/String;") ∈ lw_all := sorry
theorem q849 : (Jvm.Cond.fieldLink "java/lang/Throwable" (7 : Nat) "java/lang/Throwable" "cause" "Ljava/lang/Throwable;") ∈ lw_all := sorry
theorem q850 : (Jvm.Cond.fieldLink "java/lang/Throwable" (17 : Nat) "java/lang/Throwable" "stackTrace" "[Ljava/lang/StackTraceElement;") ∈ lw_all := lw_g (lw_at lw_m4 1 rfl) rfl
theorem q851 : (Jvm.Cond.fieldLink "java/lang/Throwable" (24 : Nat) "java/lang/Throwable" "suppressedExceptions" "Ljava/util/List;") ∈ lw_all := sorry
theorem q852 : (Jvm.Cond.soleField "java/lang/Throwable" "backtrace") ∈ lw_all := sorry
theorem q853 : (Jvm.Cond.soleField "java/lang/Throwable" "detailMessage") ∈ lw_all := sorry
theorem q854 : (Jvm.Cond.soleField "java/lang/Throwable" "cause") ∈ lw_all := sorry
theorem q855 : (Jvm.Cond.soleField "java/lang/Throwable" "stackTrace") ∈ lw_all := sorry
theorem q857 : (Jvm.Cond.soleField "java/lang/Throwable" "depth") ∈ lw_all := sorry
theorem q858 : (Jvm.Cond.soleField "java/lang/Throwable" "suppressedExceptions") ∈ lw_all := sorry
theorem q1704 : (Jvm.Cond.instanceMethod ({ cls := "java/lang/Throwable", name := "<init>", desc := "(Ljava/lang/String;Ljava/lang/Throwable;ZZ)V" } : Jvm.MethodName)) ∈ lw_all := sorry
theorem q1705 : (Jvm.Cond.code ({ cls := "java/lang/Throwable", name := "<init>", desc := "(Ljava/lang/String;Ljava/lang/Throwable;ZZ)V" } : Jvm.MethodName) prog_40_method_5_code (5 : Nat) (Option.none : Option Jvm.ClassFile.FieldType)) ∈ lw_all := sorry
theorem q3203 : (Jvm.Cond.sameMethod "java/lang/Throwable" "java/lang/Throwable" "fillInStackTrace" "(I)Ljava/lang/Throwable;") ∈ lw_all := sorry
theorem q3261 : (Jvm.Cond.castable "java/lang/Throwable" "java/lang/Object") ∈ lw_tbl := sorry
theorem in_J10 : ∀ w ∈ wsJ100, w ∈ lw_all := sorry
/-! java/lang/Exception -/
set_option maxRecDepth 100000
def RJ11 : String := "java/lang/Exception"
abbrev cJ11_init : ByteArray := prog_25_method_4_code
def yJ11_init : MethodName := ⟨RJ11, "<init>", "(Ljava/lang/Throwable;)V"⟩
def dkwJ11_init_0 : List UInt8 := [42, 43, 183, 0, 13, 177]
abbrev dktJ11_init_0 : List UInt8 := dkwJ11_init_0 ++ []
theorem dksJ11_init_0 : cJ11_init.data.toList.drop 0 = dktJ11_init_0 := sorry
theorem dJ11_init_0 : decode cJ11_init 0 = .ok (.aload_n 0, 1) := sorry
theorem dJ11_init_1 : decode cJ11_init 1 = .ok (.aload_n 1, 1) := sorry
theorem dJ11_init_2 : decode cJ11_init 2 = .ok (.invokespecial 13, 3) := sorry
theorem dJ11_init_5 : decode cJ11_init 5 = .ok (.return_, 1) := sorry
abbrev cJ11_init_2 : ByteArray := prog_25_method_2_code
def yJ11_init_2 : MethodName := ⟨RJ11, "<init>", "(Ljava/lang/String;)V"⟩
def dkwJ11_init_2_0 : List UInt8 := [42, 43, 183, 0, 7, 177]
abbrev dktJ11_init_2_0 : List UInt8 := dkwJ11_init_2_0 ++ []
theorem dksJ11_init_2_0 : cJ11_init_2.data.toList.drop 0 = dktJ11_init_2_0 := sorry
theorem dJ11_init_2_0 : decode cJ11_init_2 0 = .ok (.aload_n 0, 1) := sorry
theorem dJ11_init_2_1 : decode cJ11_init_2 1 = .ok (.aload_n 1, 1) := sorry
theorem dJ11_init_2_2 : decode cJ11_init_2 2 = .ok (.invokespecial 7, 3) := sorry
theorem dJ11_init_2_5 : decode cJ11_init_2 5 = .ok (.return_, 1) := sorry
abbrev cJ11_init_3 : ByteArray := prog_25_method_1_code
def yJ11_init_3 : MethodName := ⟨RJ11, "<init>", "()V"⟩
theorem dJ11_init_3_0 : decode cJ11_init_3 0 = .ok (.aload_n 0, 1) := sorry
theorem dJ11_init_3_1 : decode cJ11_init_3 1 = .ok (.invokespecial 1, 3) := sorry
theorem dJ11_init_3_4 : decode cJ11_init_3 4 = .ok (.return_, 1) := sorry
abbrev cJ11_init_4 : ByteArray := prog_25_method_5_code
def yJ11_init_4 : MethodName := ⟨RJ11, "<init>", "(Ljava/lang/String;Ljava/lang/Throwable;ZZ)V"⟩
def dkwJ11_init_4_0 : List UInt8 := [42, 43, 44, 29, 21, 4, 183, 0, 16, 177]
abbrev dktJ11_init_4_0 : List UInt8 := dkwJ11_init_4_0 ++ []
theorem dksJ11_init_4_0 : cJ11_init_4.data.toList.drop 0 = dktJ11_init_4_0 := sorry
theorem dJ11_init_4_0 : decode cJ11_init_4 0 = .ok (.aload_n 0, 1) := sorry
theorem dJ11_init_4_1 : decode cJ11_init_4 1 = .ok (.aload_n 1, 1) := sorry
theorem dJ11_init_4_2 : decode cJ11_init_4 2 = .ok (.aload_n 2, 1) := sorry
theorem dJ11_init_4_3 : decode cJ11_init_4 3 = .ok (.iload_n 3, 1) := sorry
theorem dJ11_init_4_4 : decode cJ11_init_4 4 = .ok (.iload 4, 2) := sorry
theorem dJ11_init_4_6 : decode cJ11_init_4 6 = .ok (.invokespecial 16, 3) := sorry
theorem dJ11_init_4_9 : decode cJ11_init_4 9 = .ok (.return_, 1) := sorry
theorem q146 : (Jvm.Cond.initialized "java/lang/Exception") ∈ lw_all := sorry
theorem q494 : (Jvm.Cond.declares ({ cls := "java/lang/Exception", name := "<init>", desc := "()V" } : Jvm.MethodName)) ∈ lw_tbl := sorry
theorem q495 : (Jvm.Cond.declares ({ cls := "java/lang/Exception", name := "<init>", desc := "(Ljava/lang/String;)V" } : Jvm.MethodName)) ∈ lw_tbl := sorry
theorem q539 : (Jvm.Cond.instanceMethod ({ cls := "java/lang/Exception", name := "<init>", desc := "(Ljava/lang/Throwable;)V" } : Jvm.MethodName)) ∈ lw_all := sorry
theorem q540 : (Jvm.Cond.code ({ cls := "java/lang/Exception", name := "<init>", desc := "(Ljava/lang/Throwable;)V" } : Jvm.MethodName) prog_25_method_4_code (2 : Nat) (Option.none : Option Jvm.ClassFile.FieldType)) ∈ lw_all := sorry
theorem q541 : (Jvm.Cond.methodLink "java/lang/Exception" (13 : Nat) ({ cls := "java/lang/Throwable", name := "<init>", desc := "(Ljava/lang/Throwable;)V" } : Jvm.MethodName)) ∈ lw_all := sorry
theorem q842 : (Jvm.Cond.instanceMethod ({ cls := "java/lang/Exception", name := "<init>", desc := "(Ljava/lang/String;)V" } : Jvm.MethodName)) ∈ lw_all := sorry
theorem q843 : (Jvm.Cond.code ({ cls := "java/lang/Exception", name := "<init>", desc := "(Ljava/lang/String;)V" } : Jvm.MethodName) prog_25_method_2_code (2 : Nat) (Option.none : Option Jvm.ClassFile.FieldType)) ∈ lw_all := sorry
theorem q844 : (Jvm.Cond.methodLink "java/lang/Exception" (7 : Nat) ({ cls := "java/lang/Throwable", name := "<init>", desc := "(Ljava/lang/String;)V" } : Jvm.MethodName)) ∈ lw_all := sorry
theorem q906 : (Jvm.Cond.instanceMethod ({ cls := "java/lang/Exception", name := "<init>", desc := "()V" } : Jvm.MethodName)) ∈ lw_all := sorry
theorem q907 : (Jvm.Cond.code ({ cls := "java/lang/Exception", name := "<init>", desc := "()V" } : Jvm.MethodName) prog_25_method_1_code (1 : Nat) (Option.none : Option Jvm.ClassFile.FieldType)) ∈ lw_all := sorry
theorem q908 : (Jvm.Cond.methodLink "java/lang/Exception" (1 : Nat) ({ cls := "java/lang/Throwable", name := "<init>", desc := "()V" } : Jvm.MethodName)) ∈ lw_all := sorry
theorem q1701 : (Jvm.Cond.instanceMethod ({ cls := "java/lang/Exception", name := "<init>", desc := "(Ljava/lang/String;Ljava/lang/Throwable;ZZ)V" } : Jvm.MethodName)) ∈ lw_all := sorry
theorem q1702 : (Jvm.Cond.code ({ cls := "java/lang/Exception", name := "<init>", desc := "(Ljava/lang/String;Ljava/lang/Throwable;ZZ)V" } : Jvm.MethodName) prog_25_method_5_code (5 : Nat) (Option.none : Option Jvm.ClassFile.FieldType)) ∈ lw_all := sorry
theorem q1703 : (Jvm.Cond.methodLink "java/lang/Exception" (16 : Nat) ({ cls := "java/lang/Throwable", name := "<init>", desc := "(Ljava/lang/String;Ljava/lang/Throwable;ZZ)V" } : Jvm.MethodName)) ∈ lw_all := sorry
/-! java/lang/RuntimeException -/
set_option maxRecDepth 100000
def RJ12 : String := "java/lang/RuntimeException"
abbrev cJ12_init : ByteArray := prog_33_method_4_code
def yJ12_init : MethodName := ⟨RJ12, "<init>", "(Ljava/lang/Throwable;)V"⟩
def dkwJ12_init_0 : List UInt8 := [42, 43, 183, 0, 13, 177]
abbrev dktJ12_init_0 : List UInt8 := dkwJ12_init_0 ++ []
theorem dksJ12_init_0 : cJ12_init.data.toList.drop 0 = dktJ12_init_0 := sorry
theorem dJ12_init_0 : decode cJ12_init 0 = .ok (.aload_n 0, 1) := sorry
theorem dJ12_init_1 : decode cJ12_init 1 = .ok (.aload_n 1, 1) := sorry
theorem dJ12_init_2 : decode cJ12_init 2 = .ok (.invokespecial 13, 3) := sorry
theorem dJ12_init_5 : decode cJ12_init 5 = .ok (.return_, 1) := sorry
abbrev cJ12_init_2 : ByteArray := prog_33_method_2_code
def yJ12_init_2 : MethodName := ⟨RJ12, "<init>", "(Ljava/lang/String;)V"⟩
def dkwJ12_init_2_0 : List UInt8 := [42, 43, 183, 0, 7, 177]
abbrev dktJ12_init_2_0 : List UInt8 := dkwJ12_init_2_0 ++ []
theorem dksJ12_init_2_0 : cJ12_init_2.data.toList.drop 0 = dktJ12_init_2_0 := sorry
theorem dJ12_init_2_0 : decode cJ12_init_2 0 = .ok (.aload_n 0, 1) := sorry
theorem dJ12_init_2_1 : decode cJ12_init_2 1 = .ok (.aload_n 1, 1) := sorry
theorem dJ12_init_2_2 : decode cJ12_init_2 2 = .ok (.invokespecial 7, 3) := sorry
theorem dJ12_init_2_5 : decode cJ12_init_2 5 = .ok (.return_, 1) := sorry
abbrev cJ12_init_3 : ByteArray := prog_33_method_1_code
def yJ12_init_3 : MethodName := ⟨RJ12, "<init>", "()V"⟩
theorem dJ12_init_3_0 : decode cJ12_init_3 0 = .ok (.aload_n 0, 1) := sorry
theorem dJ12_init_3_1 : decode cJ12_init_3 1 = .ok (.invokespecial 1, 3) := sorry
theorem dJ12_init_3_4 : decode cJ12_init_3 4 = .ok (.return_, 1) := sorry
theorem q147 : (Jvm.Cond.initialized "java/lang/RuntimeException") ∈ lw_all := sorry
theorem q492 : (Jvm.Cond.declares ({ cls := "java/lang/RuntimeException", name := "<init>", desc := "()V" } : Jvm.MethodName)) ∈ lw_tbl := sorry
theorem q493 : (Jvm.Cond.declares ({ cls := "java/lang/RuntimeException", name := "<init>", desc := "(Ljava/lang/String;)V" } : Jvm.MethodName)) ∈ lw_tbl := sorry
theorem q536 : (Jvm.Cond.instanceMethod ({ cls := "java/lang/RuntimeException", name := "<init>", desc := "(Ljava/lang/Throwable;)V" } : Jvm.MethodName)) ∈ lw_all := sorry
theorem q537 : (Jvm.Cond.code ({ cls := "java/lang/RuntimeException", name := "<init>", desc := "(Ljava/lang/Throwable;)V" } : Jvm.MethodName) prog_33_method_4_code (2 : Nat) (Option.none : Option Jvm.ClassFile.FieldType)) ∈ lw_all := sorry
theorem q538 : (Jvm.Cond.methodLink "java/lang/RuntimeException" (13 : Nat) ({ cls := "java/lang/Exception", name := "<init>", desc := "(Ljava/lang/Throwable;)V" } : Jvm.MethodName)) ∈ lw_all := sorry
theorem q839 : (Jvm.Cond.instanceMethod ({ cls := "java/lang/RuntimeException", name := "<init>", desc := "(Ljava/lang/String;)V" } : Jvm.MethodName)) ∈ lw_all := sorry
theorem q840 : (Jvm.Cond.code ({ cls := "java/lang/RuntimeException", name := "<init>", desc := "(Ljava/lang/String;)V" } : Jvm.MethodName) prog_33_method_2_code (2 : Nat) (Option.none : Option Jvm.ClassFile.FieldType)) ∈ lw_all := sorry
theorem q841 : (Jvm.Cond.methodLink "java/lang/RuntimeException" (7 : Nat) ({ cls := "java/lang/Exception", name := "<init>", desc := "(Ljava/lang/String;)V" } : Jvm.MethodName)) ∈ lw_all := sorry
theorem q903 : (Jvm.Cond.instanceMethod ({ cls := "java/lang/RuntimeException", name := "<init>", desc := "()V" } : Jvm.MethodName)) ∈ lw_all := sorry
theorem q904 : (Jvm.Cond.code ({ cls := "java/lang/RuntimeException", name := "<init>", desc := "()V" } : Jvm.MethodName) prog_33_method_1_code (1 : Nat) (Option.none : Option Jvm.ClassFile.FieldType)) ∈ lw_all := sorry
theorem q905 : (Jvm.Cond.methodLink "java/lang/RuntimeException" (1 : Nat) ({ cls := "java/lang/Exception", name := "<init>", desc := "()V" } : Jvm.MethodName)) ∈ lw_all := sorry
/-! java/util/AbstractSequentialList -/
set_option maxRecDepth 100000
def RJ2 : String := "java/util/AbstractSequentialList"
abbrev cJ2_init : ByteArray := prog_47_method_1_code
def yJ2_init : MethodName := ⟨RJ2, "<init>", "()V"⟩
theorem dJ2_init_0 : decode cJ2_init 0 = .ok (.aload_n 0, 1) := sorry
theorem dJ2_init_1 : decode cJ2_init 1 = .ok (.invokespecial 1, 3) := sorry
theorem dJ2_init_4 : decode cJ2_init 4 = .ok (.return_, 1) := sorry
abbrev cJ2_iterator : ByteArray := prog_47_method_7_code
def yJ2_iterator : MethodName := ⟨RJ2, "iterator", "()Ljava/util/Iterator;"⟩
theorem dJ2_iterator_0 : decode cJ2_iterator 0 = .ok (.aload_n 0, 1) := sorry
theorem dJ2_iterator_1 : decode cJ2_iterator 1 = .ok (.invokevirtual 65, 3) := sorry
theorem dJ2_iterator_4 : decode cJ2_iterator 4 = .ok (.areturn, 1) := sorry
theorem q134 : (Jvm.Cond.initialized "java/util/AbstractSequentialList") ∈ lw_all := sorry
theorem q207 : (Jvm.Cond.instanceMethod ({ cls := "java/util/AbstractSequentialList", name := "<init>", desc := "()V" } : Jvm.MethodName)) ∈ lw_all := sorry
theorem q208 : (Jvm.Cond.code ({ cls := "java/util/AbstractSequentialList", name := "<init>", desc := "()V" } : Jvm.MethodName) prog_47_method_1_code (1 : Nat) (Option.none : Option Jvm.ClassFile.FieldType)) ∈ lw_all := sorry
theorem q209 : (Jvm.Cond.methodLink "java/util/AbstractSequentialList" (1 : Nat) ({ cls := "java/util/AbstractList", name := "<init>", desc := "()V" } : Jvm.MethodName)) ∈ lw_all := sorry
theorem q330 : (Jvm.Cond.declares ({ cls := "java/util/AbstractSequentialList", name := "iterator", desc := "()Ljava/util/Iterator;" } : Jvm.MethodName)) ∈ lw_tbl := sorry
theorem q332 : (Jvm.Cond.instanceMethod ({ cls := "java/util/AbstractSequentialList", name := "iterator", desc := "()Ljava/util/Iterator;" } : Jvm.MethodName)) ∈ lw_all := sorry
theorem q333 : (Jvm.Cond.code ({ cls := "java/util/AbstractSequentialList", name := "iterator", desc := "()Ljava/util/Iterator;" } : Jvm.MethodName) prog_47_method_7_code (1 : Nat) (Option.some (Jvm.ClassFile.FieldType.object "java/util/Iterator"))) ∈ lw_all := sorry
theorem q334 : (Jvm.Cond.methodLink "java/util/AbstractSequentialList" (65 : Nat) ({ cls := "java/util/AbstractSequentialList", name := "listIterator", desc := "()Ljava/util/ListIterator;" } : Jvm.MethodName)) ∈ lw_all := sorry
theorem q335 : (Jvm.Cond.sameMethod "java/util/AbstractSequentialList" "java/util/AbstractList" "listIterator" "()Ljava/util/ListIterator;") ∈ lw_all := sorry
/-! java/util/LinkedList -/
set_option maxRecDepth 100000
def RJ3 : String := "java/util/LinkedList"
def TJ3 : u_T := fun k => match k with
  | 0 => ("java/util/AbstractList", "modCount", "I", false)
  | 1 => ("java/util/LinkedList", "size", "I", false)
  | 2 => ("java/util/LinkedList", "first", "Ljava/util/LinkedList$Node;", false)
  | _ => ("java/util/LinkedList", "last", "Ljava/util/LinkedList$Node;", false)
def tyJ3 : Nat → FieldType := fun k => match k with
  | 0 => .int
  | 1 => .int
  | 2 => .object "java/util/LinkedList$Node"
  | _ => .object "java/util/LinkedList$Node"
abbrev wsJ30 : List Cond := u_ws RJ3 TJ3 4
theorem nmJ3 : ∀ a, a < 4 → ∀ b, b < 4 → a ≠ b → (TJ3 a).2.1 ≠ (TJ3 b).2.1 := sorry
theorem tyJ3_ok : ∀ k, k < 4 → parseFieldDescriptor (TJ3 k).2.2.1 = some (tyJ3 k) := sorry
abbrev cJ3_init : ByteArray := prog_64_method_1_code
def yJ3_init : MethodName := ⟨RJ3, "<init>", "()V"⟩
def dkwJ3_init_0 : List UInt8 := [42, 183, 0, 1, 42, 3, 181, 0, 7, 177]
abbrev dktJ3_init_0 : List UInt8 := dkwJ3_init_0 ++ []
theorem dksJ3_init_0 : cJ3_init.data.toList.drop 0 = dktJ3_init_0 := sorry
theorem dJ3_init_0 : decode cJ3_init 0 = .ok (.aload_n 0, 1) := sorry
theorem dJ3_init_1 : decode cJ3_init 1 = .ok (.invokespecial 1, 3) := sorry
theorem dJ3_init_4 : decode cJ3_init 4 = .ok (.aload_n 0, 1) := sorry
theorem dJ3_init_5 : decode cJ3_init 5 = .ok (.iconst 0, 1) := sorry
theorem dJ3_init_6 : decode cJ3_init 6 = .ok (.putfield 7, 3) := sorry
theorem dJ3_init_9 : decode cJ3_init 9 = .ok (.return_, 1) := sorry
abbrev cJ3_listIterator : ByteArray := prog_64_method_49_code
def yJ3_listIterator : MethodName := ⟨RJ3, "listIterator", "(I)Ljava/util/ListIterator;"⟩
def dkwJ3_listIterator_0 : List UInt8 := [42, 27, 182, 0, 76, 187, 0, 150, 89, 42, 27, 183, 0, 152, 176]
abbrev dktJ3_listIterator_0 : List UInt8 := dkwJ3_listIterator_0 ++ []
theorem dksJ3_listIterator_0 : cJ3_listIterator.data.toList.drop 0 = dktJ3_listIterator_0 := sorry
theorem dJ3_listIterator_0 : decode cJ3_listIterator 0 = .ok (.aload_n 0, 1) := sorry
theorem dJ3_listIterator_1 : decode cJ3_listIterator 1 = .ok (.iload_n 1, 1) := sorry
theorem dJ3_listIterator_2 : decode cJ3_listIterator 2 = .ok (.invokevirtual 76, 3) := sorry
theorem dJ3_listIterator_5 : decode cJ3_listIterator 5 = .ok (.new 150, 3) := sorry
theorem dJ3_listIterator_8 : decode cJ3_listIterator 8 = .ok (.dup, 1) := sorry
theorem dJ3_listIterator_9 : decode cJ3_listIterator 9 = .ok (.aload_n 0, 1) := sorry
theorem dJ3_listIterator_10 : decode cJ3_listIterator 10 = .ok (.iload_n 1, 1) := sorry
theorem dJ3_listIterator_11 : decode cJ3_listIterator 11 = .ok (.invokespecial 152, 3) := sorry
theorem dJ3_listIterator_14 : decode cJ3_listIterator 14 = .ok (.areturn, 1) := sorry
abbrev cJ3_checkPositionIndex : ByteArray := prog_64_method_30_code
def yJ3_checkPositionIndex : MethodName := ⟨RJ3, "checkPositionIndex", "(I)V"⟩
def dkwJ3_checkPositionIndex_0 : List UInt8 := [42, 27, 182, 0, 128, 154, 0, 16, 187, 0, 119, 89, 42, 27, 182, 0, 121, 183, 0, 125, 191, 177]
abbrev dktJ3_checkPositionIndex_0 : List UInt8 := dkwJ3_checkPositionIndex_0 ++ []
theorem dksJ3_checkPositionIndex_0 : cJ3_checkPositionIndex.data.toList.drop 0 = dktJ3_checkPositionIndex_0 := sorry
theorem dJ3_checkPositionIndex_0 : decode cJ3_checkPositionIndex 0 = .ok (.aload_n 0, 1) := sorry
theorem dJ3_checkPositionIndex_1 : decode cJ3_checkPositionIndex 1 = .ok (.iload_n 1, 1) := sorry
theorem dJ3_checkPositionIndex_2 : decode cJ3_checkPositionIndex 2 = .ok (.invokevirtual 128, 3) := sorry
theorem dJ3_checkPositionIndex_5 : decode cJ3_checkPositionIndex 5 = .ok (.ifCond .ne 16, 3) := sorry
theorem dJ3_checkPositionIndex_8 : decode cJ3_checkPositionIndex 8 = .ok (.new 119, 3) := sorry
theorem dJ3_checkPositionIndex_11 : decode cJ3_checkPositionIndex 11 = .ok (.dup, 1) := sorry
theorem dJ3_checkPositionIndex_12 : decode cJ3_checkPositionIndex 12 = .ok (.aload_n 0, 1) := sorry
theorem dJ3_checkPositionIndex_13 : decode cJ3_checkPositionIndex 13 = .ok (.iload_n 1, 1) := sorry
theorem dJ3_checkPositionIndex_14 : decode cJ3_checkPositionIndex 14 = .ok (.invokevirtual 121, 3) := sorry
theorem dJ3_checkPositionIndex_17 : decode cJ3_checkPositionIndex 17 = .ok (.invokespecial 125, 3) := sorry
theorem dJ3_checkPositionIndex_20 : decode cJ3_checkPositionIndex 20 = .ok (.athrow, 1) := sorry
theorem dJ3_checkPositionIndex_21 : decode cJ3_checkPositionIndex 21 = .ok (.return_, 1) := sorry
abbrev cJ3_isPositionIndex : ByteArray := prog_64_method_27_code
def yJ3_isPositionIndex : MethodName := ⟨RJ3, "isPositionIndex", "(I)Z"⟩
def dkwJ3_isPositionIndex_0 : List UInt8 := [27, 155, 0, 15, 27, 42, 180, 0, 7, 163, 0, 7, 4, 167, 0, 4, 3, 172]
abbrev dktJ3_isPositionIndex_0 : List UInt8 := dkwJ3_isPositionIndex_0 ++ []
theorem dksJ3_isPositionIndex_0 : cJ3_isPositionIndex.data.toList.drop 0 = dktJ3_isPositionIndex_0 := sorry
theorem dJ3_isPositionIndex_0 : decode cJ3_isPositionIndex 0 = .ok (.iload_n 1, 1) := sorry
theorem dJ3_isPositionIndex_1 : decode cJ3_isPositionIndex 1 = .ok (.ifCond .lt 15, 3) := sorry
theorem dJ3_isPositionIndex_4 : decode cJ3_isPositionIndex 4 = .ok (.iload_n 1, 1) := sorry
theorem dJ3_isPositionIndex_5 : decode cJ3_isPositionIndex 5 = .ok (.aload_n 0, 1) := sorry
theorem dJ3_isPositionIndex_6 : decode cJ3_isPositionIndex 6 = .ok (.getfield 7, 3) := sorry
theorem dJ3_isPositionIndex_9 : decode cJ3_isPositionIndex 9 = .ok (.if_icmp .gt 7, 3) := sorry
theorem dJ3_isPositionIndex_12 : decode cJ3_isPositionIndex 12 = .ok (.iconst 1, 1) := sorry
theorem dJ3_isPositionIndex_13 : decode cJ3_isPositionIndex 13 = .ok (.goto 4, 3) := sorry
theorem dJ3_isPositionIndex_16 : decode cJ3_isPositionIndex 16 = .ok (.iconst 0, 1) := sorry
theorem dJ3_isPositionIndex_17 : decode cJ3_isPositionIndex 17 = .ok (.ireturn, 1) := sorry
abbrev cJ3_node : ByteArray := prog_64_method_31_code
def yJ3_node : MethodName := ⟨RJ3, "node", "(I)Ljava/util/LinkedList$Node;"⟩
def dkwJ3_node_2 : List UInt8 := [29, 27, 164, 0, 14, 44, 180, 0, 30, 77, 132, 3, 255, 167, 255, 243, 44, 176]
abbrev dktJ3_node_2 : List UInt8 := dkwJ3_node_2 ++ []
def dkwJ3_node_1 : List UInt8 := [180, 0, 36, 77, 132, 3, 1, 167, 255, 243, 44, 176, 42, 180, 0, 27, 77, 42, 180, 0, 7, 4, 100, 62]
abbrev dktJ3_node_1 : List UInt8 := dkwJ3_node_1 ++ dktJ3_node_2
def dkwJ3_node_0 : List UInt8 := [27, 42, 180, 0, 7, 4, 122, 162, 0, 28, 42, 180, 0, 18, 77, 3, 62, 29, 27, 162, 0, 14, 44]
abbrev dktJ3_node_0 : List UInt8 := dkwJ3_node_0 ++ dktJ3_node_1
theorem dksJ3_node_0 : cJ3_node.data.toList.drop 0 = dktJ3_node_0 := sorry
theorem dksJ3_node_1 : cJ3_node.data.toList.drop 23 = dktJ3_node_1 := sorry
theorem dksJ3_node_2 : cJ3_node.data.toList.drop 47 = dktJ3_node_2 := sorry
theorem dJ3_node_0 : decode cJ3_node 0 = .ok (.iload_n 1, 1) := sorry
theorem dJ3_node_1 : decode cJ3_node 1 = .ok (.aload_n 0, 1) := sorry
theorem dJ3_node_2 : decode cJ3_node 2 = .ok (.getfield 7, 3) := sorry
theorem dJ3_node_5 : decode cJ3_node 5 = .ok (.iconst 1, 1) := sorry
theorem dJ3_node_6 : decode cJ3_node 6 = .ok (.ishr, 1) := sorry
theorem dJ3_node_7 : decode cJ3_node 7 = .ok (.if_icmp .ge 28, 3) := sorry
theorem dJ3_node_10 : decode cJ3_node 10 = .ok (.aload_n 0, 1) := sorry
theorem dJ3_node_11 : decode cJ3_node 11 = .ok (.getfield 18, 3) := sorry
theorem dJ3_node_14 : decode cJ3_node 14 = .ok (.astore_n 2, 1) := sorry
theorem dJ3_node_15 : decode cJ3_node 15 = .ok (.iconst 0, 1) := sorry
theorem dJ3_node_16 : decode cJ3_node 16 = .ok (.istore_n 3, 1) := sorry
theorem dJ3_node_17 : decode cJ3_node 17 = .ok (.iload_n 3, 1) := sorry
theorem dJ3_node_18 : decode cJ3_node 18 = .ok (.iload_n 1, 1) := sorry
theorem dJ3_node_19 : decode cJ3_node 19 = .ok (.if_icmp .ge 14, 3) := sorry
theorem dJ3_node_22 : decode cJ3_node 22 = .ok (.aload_n 2, 1) := sorry
theorem dJ3_node_23 : decode cJ3_node 23 = .ok (.getfield 36, 3) := sorry
theorem dJ3_node_26 : decode cJ3_node 26 = .ok (.astore_n 2, 1) := sorry
theorem dJ3_node_27 : decode cJ3_node 27 = .ok (.iinc 3 1, 3) := sorry
theorem dJ3_node_30 : decode cJ3_node 30 = .ok (.goto (-13), 3) := sorry
theorem dJ3_node_33 : decode cJ3_node 33 = .ok (.aload_n 2, 1) := sorry
theorem dJ3_node_34 : decode cJ3_node 34 = .ok (.areturn, 1) := sorry
theorem dJ3_node_35 : decode cJ3_node 35 = .ok (.aload_n 0, 1) := sorry
theorem dJ3_node_36 : decode cJ3_node 36 = .ok (.getfield 27, 3) := sorry
theorem dJ3_node_39 : decode cJ3_node 39 = .ok (.astore_n 2, 1) := sorry
theorem dJ3_node_40 : decode cJ3_node 40 = .ok (.aload_n 0, 1) := sorry
theorem dJ3_node_41 : decode cJ3_node 41 = .ok (.getfield 7, 3) := sorry
theorem dJ3_node_44 : decode cJ3_node 44 = .ok (.iconst 1, 1) := sorry
theorem dJ3_node_45 : decode cJ3_node 45 = .ok (.isub, 1) := sorry
theorem dJ3_node_46 : decode cJ3_node 46 = .ok (.istore_n 3, 1) := sorry
theorem dJ3_node_47 : decode cJ3_node 47 = .ok (.iload_n 3, 1) := sorry
theorem dJ3_node_48 : decode cJ3_node 48 = .ok (.iload_n 1, 1) := sorry
theorem dJ3_node_49 : decode cJ3_node 49 = .ok (.if_icmp .le 14, 3) := sorry
theorem dJ3_node_52 : decode cJ3_node 52 = .ok (.aload_n 2, 1) := sorry
theorem dJ3_node_53 : decode cJ3_node 53 = .ok (.getfield 30, 3) := sorry
theorem dJ3_node_56 : decode cJ3_node 56 = .ok (.astore_n 2, 1) := sorry
theorem dJ3_node_57 : decode cJ3_node 57 = .ok (.iinc 3 (-1), 3) := sorry
theorem dJ3_node_60 : decode cJ3_node 60 = .ok (.goto (-13), 3) := sorry
theorem dJ3_node_63 : decode cJ3_node 63 = .ok (.aload_n 2, 1) := sorry
theorem dJ3_node_64 : decode cJ3_node 64 = .ok (.areturn, 1) := sorry
abbrev cJ3_size : ByteArray := prog_64_method_16_code
def yJ3_size : MethodName := ⟨RJ3, "size", "()I"⟩
theorem dJ3_size_0 : decode cJ3_size 0 = .ok (.aload_n 0, 1) := sorry
theorem dJ3_size_1 : decode cJ3_size 1 = .ok (.getfield 7, 3) := sorry
theorem dJ3_size_4 : decode cJ3_size 4 = .ok (.ireturn, 1) := sorry
abbrev cJ3_get : ByteArray := prog_64_method_22_code
def yJ3_get : MethodName := ⟨RJ3, "get", "(I)Ljava/lang/Object;"⟩
def dkwJ3_get_0 : List UInt8 := [42, 27, 182, 0, 90, 42, 27, 182, 0, 86, 180, 0, 39, 176]
abbrev dktJ3_get_0 : List UInt8 := dkwJ3_get_0 ++ []
theorem dksJ3_get_0 : cJ3_get.data.toList.drop 0 = dktJ3_get_0 := sorry
theorem dJ3_get_0 : decode cJ3_get 0 = .ok (.aload_n 0, 1) := sorry
theorem dJ3_get_1 : decode cJ3_get 1 = .ok (.iload_n 1, 1) := sorry
theorem dJ3_get_2 : decode cJ3_get 2 = .ok (.invokevirtual 90, 3) := sorry
theorem dJ3_get_5 : decode cJ3_get 5 = .ok (.aload_n 0, 1) := sorry
theorem dJ3_get_6 : decode cJ3_get 6 = .ok (.iload_n 1, 1) := sorry
theorem dJ3_get_7 : decode cJ3_get 7 = .ok (.invokevirtual 86, 3) := sorry
theorem dJ3_get_10 : decode cJ3_get 10 = .ok (.getfield 39, 3) := sorry
theorem dJ3_get_13 : decode cJ3_get 13 = .ok (.areturn, 1) := sorry
abbrev cJ3_checkElementIndex : ByteArray := prog_64_method_29_code
def yJ3_checkElementIndex : MethodName := ⟨RJ3, "checkElementIndex", "(I)V"⟩
def dkwJ3_checkElementIndex_0 : List UInt8 := [42, 27, 182, 0, 115, 154, 0, 16, 187, 0, 119, 89, 42, 27, 182, 0, 121, 183, 0, 125, 191, 177]
abbrev dktJ3_checkElementIndex_0 : List UInt8 := dkwJ3_checkElementIndex_0 ++ []
theorem dksJ3_checkElementIndex_0 : cJ3_checkElementIndex.data.toList.drop 0 = dktJ3_checkElementIndex_0 := sorry
theorem dJ3_checkElementIndex_0 : decode cJ3_checkElementIndex 0 = .ok (.aload_n 0, 1) := sorry
theorem dJ3_checkElementIndex_1 : decode cJ3_checkElementIndex 1 = .ok (.iload_n 1, 1) := sorry
theorem dJ3_checkElementIndex_2 : decode cJ3_checkElementIndex 2 = .ok (.invokevirtual 115, 3) := sorry
theorem dJ3_checkElementIndex_5 : decode cJ3_checkElementIndex 5 = .ok (.ifCond .ne 16, 3) := sorry
theorem dJ3_checkElementIndex_8 : decode cJ3_checkElementIndex 8 = .ok (.new 119, 3) := sorry
theorem dJ3_checkElementIndex_11 : decode cJ3_checkElementIndex 11 = .ok (.dup, 1) := sorry
theorem dJ3_checkElementIndex_12 : decode cJ3_checkElementIndex 12 = .ok (.aload_n 0, 1) := sorry
theorem dJ3_checkElementIndex_13 : decode cJ3_checkElementIndex 13 = .ok (.iload_n 1, 1) := sorry
theorem dJ3_checkElementIndex_14 : decode cJ3_checkElementIndex 14 = .ok (.invokevirtual 121, 3) := sorry
theorem dJ3_checkElementIndex_17 : decode cJ3_checkElementIndex 17 = .ok (.invokespecial 125, 3) := sorry
theorem dJ3_checkElementIndex_20 : decode cJ3_checkElementIndex 20 = .ok (.athrow, 1) := sorry
theorem dJ3_checkElementIndex_21 : decode cJ3_checkElementIndex 21 = .ok (.return_, 1) := sorry
abbrev cJ3_isElementIndex : ByteArray := prog_64_method_26_code
def yJ3_isElementIndex : MethodName := ⟨RJ3, "isElementIndex", "(I)Z"⟩
def dkwJ3_isElementIndex_0 : List UInt8 := [27, 155, 0, 15, 27, 42, 180, 0, 7, 162, 0, 7, 4, 167, 0, 4, 3, 172]
abbrev dktJ3_isElementIndex_0 : List UInt8 := dkwJ3_isElementIndex_0 ++ []
theorem dksJ3_isElementIndex_0 : cJ3_isElementIndex.data.toList.drop 0 = dktJ3_isElementIndex_0 := sorry
theorem dJ3_isElementIndex_0 : decode cJ3_isElementIndex 0 = .ok (.iload_n 1, 1) := sorry
theorem dJ3_isElementIndex_1 : decode cJ3_isElementIndex 1 = .ok (.ifCond .lt 15, 3) := sorry
theorem dJ3_isElementIndex_4 : decode cJ3_isElementIndex 4 = .ok (.iload_n 1, 1) := sorry
theorem dJ3_isElementIndex_5 : decode cJ3_isElementIndex 5 = .ok (.aload_n 0, 1) := sorry
theorem dJ3_isElementIndex_6 : decode cJ3_isElementIndex 6 = .ok (.getfield 7, 3) := sorry
theorem dJ3_isElementIndex_9 : decode cJ3_isElementIndex 9 = .ok (.if_icmp .ge 7, 3) := sorry
theorem dJ3_isElementIndex_12 : decode cJ3_isElementIndex 12 = .ok (.iconst 1, 1) := sorry
theorem dJ3_isElementIndex_13 : decode cJ3_isElementIndex 13 = .ok (.goto 4, 3) := sorry
theorem dJ3_isElementIndex_16 : decode cJ3_isElementIndex 16 = .ok (.iconst 0, 1) := sorry
theorem dJ3_isElementIndex_17 : decode cJ3_isElementIndex 17 = .ok (.ireturn, 1) := sorry
abbrev cJ3_addLast : ByteArray := prog_64_method_14_code
def yJ3_addLast : MethodName := ⟨RJ3, "addLast", "(Ljava/lang/Object;)V"⟩
def dkwJ3_addLast_0 : List UInt8 := [42, 43, 182, 0, 57, 177]
abbrev dktJ3_addLast_0 : List UInt8 := dkwJ3_addLast_0 ++ []
theorem dksJ3_addLast_0 : cJ3_addLast.data.toList.drop 0 = dktJ3_addLast_0 := sorry
theorem dJ3_addLast_0 : decode cJ3_addLast 0 = .ok (.aload_n 0, 1) := sorry
theorem dJ3_addLast_1 : decode cJ3_addLast 1 = .ok (.aload_n 1, 1) := sorry
theorem dJ3_addLast_2 : decode cJ3_addLast 2 = .ok (.invokevirtual 57, 3) := sorry
theorem dJ3_addLast_5 : decode cJ3_addLast 5 = .ok (.return_, 1) := sorry
abbrev cJ3_linkLast : ByteArray := prog_64_method_4_code
def yJ3_linkLast : MethodName := ⟨RJ3, "linkLast", "(Ljava/lang/Object;)V"⟩
def dkwJ3_linkLast_2 : List UInt8 := [181, 0, 7, 42, 89, 180, 0, 33, 4, 96, 181, 0, 33, 177]
abbrev dktJ3_linkLast_2 : List UInt8 := dkwJ3_linkLast_2 ++ []
def dkwJ3_linkLast_1 : List UInt8 := [199, 0, 11, 42, 45, 181, 0, 18, 167, 0, 8, 44, 45, 181, 0, 36, 42, 89, 180, 0, 7, 4, 96]
abbrev dktJ3_linkLast_1 : List UInt8 := dkwJ3_linkLast_1 ++ dktJ3_linkLast_2
def dkwJ3_linkLast_0 : List UInt8 := [42, 180, 0, 27, 77, 187, 0, 22, 89, 44, 43, 1, 183, 0, 24, 78, 42, 45, 181, 0, 27, 44]
abbrev dktJ3_linkLast_0 : List UInt8 := dkwJ3_linkLast_0 ++ dktJ3_linkLast_1
theorem dksJ3_linkLast_0 : cJ3_linkLast.data.toList.drop 0 = dktJ3_linkLast_0 := sorry
theorem dksJ3_linkLast_1 : cJ3_linkLast.data.toList.drop 22 = dktJ3_linkLast_1 := sorry
theorem dksJ3_linkLast_2 : cJ3_linkLast.data.toList.drop 45 = dktJ3_linkLast_2 := sorry
theorem dJ3_linkLast_0 : decode cJ3_linkLast 0 = .ok (.aload_n 0, 1) := sorry
theorem dJ3_linkLast_1 : decode cJ3_linkLast 1 = .ok (.getfield 27, 3) := sorry
theorem dJ3_linkLast_4 : decode cJ3_linkLast 4 = .ok (.astore_n 2, 1) := sorry
theorem dJ3_linkLast_5 : decode cJ3_linkLast 5 = .ok (.new 22, 3) := sorry
theorem dJ3_linkLast_8 : decode cJ3_linkLast 8 = .ok (.dup, 1) := sorry
theorem dJ3_linkLast_9 : decode cJ3_linkLast 9 = .ok (.aload_n 2, 1) := sorry
theorem dJ3_linkLast_10 : decode cJ3_linkLast 10 = .ok (.aload_n 1, 1) := sorry
theorem dJ3_linkLast_11 : decode cJ3_linkLast 11 = .ok (.aconst_null, 1) := sorry
theorem dJ3_linkLast_12 : decode cJ3_linkLast 12 = .ok (.invokespecial 24, 3) := sorry
theorem dJ3_linkLast_15 : decode cJ3_linkLast 15 = .ok (.astore_n 3, 1) := sorry
theorem dJ3_linkLast_16 : decode cJ3_linkLast 16 = .ok (.aload_n 0, 1) := sorry
theorem dJ3_linkLast_17 : decode cJ3_linkLast 17 = .ok (.aload_n 3, 1) := sorry
theorem dJ3_linkLast_18 : decode cJ3_linkLast 18 = .ok (.putfield 27, 3) := sorry
theorem dJ3_linkLast_21 : decode cJ3_linkLast 21 = .ok (.aload_n 2, 1) := sorry
theorem dJ3_linkLast_22 : decode cJ3_linkLast 22 = .ok (.ifnonnull 11, 3) := sorry
theorem dJ3_linkLast_25 : decode cJ3_linkLast 25 = .ok (.aload_n 0, 1) := sorry
theorem dJ3_linkLast_26 : decode cJ3_linkLast 26 = .ok (.aload_n 3, 1) := sorry
theorem dJ3_linkLast_27 : decode cJ3_linkLast 27 = .ok (.putfield 18, 3) := sorry
theorem dJ3_linkLast_30 : decode cJ3_linkLast 30 = .ok (.goto 8, 3) := sorry
theorem dJ3_linkLast_33 : decode cJ3_linkLast 33 = .ok (.aload_n 2, 1) := sorry
theorem dJ3_linkLast_34 : decode cJ3_linkLast 34 = .ok (.aload_n 3, 1) := sorry
theorem dJ3_linkLast_35 : decode cJ3_linkLast 35 = .ok (.putfield 36, 3) := sorry
theorem dJ3_linkLast_38 : decode cJ3_linkLast 38 = .ok (.aload_n 0, 1) := sorry
theorem dJ3_linkLast_39 : decode cJ3_linkLast 39 = .ok (.dup, 1) := sorry
theorem dJ3_linkLast_40 : decode cJ3_linkLast 40 = .ok (.getfield 7, 3) := sorry
theorem dJ3_linkLast_43 : decode cJ3_linkLast 43 = .ok (.iconst 1, 1) := sorry
theorem dJ3_linkLast_44 : decode cJ3_linkLast 44 = .ok (.iadd, 1) := sorry
theorem dJ3_linkLast_45 : decode cJ3_linkLast 45 = .ok (.putfield 7, 3) := sorry
theorem dJ3_linkLast_48 : decode cJ3_linkLast 48 = .ok (.aload_n 0, 1) := sorry
theorem dJ3_linkLast_49 : decode cJ3_linkLast 49 = .ok (.dup, 1) := sorry
theorem dJ3_linkLast_50 : decode cJ3_linkLast 50 = .ok (.getfield 33, 3) := sorry
theorem dJ3_linkLast_53 : decode cJ3_linkLast 53 = .ok (.iconst 1, 1) := sorry
theorem dJ3_linkLast_54 : decode cJ3_linkLast 54 = .ok (.iadd, 1) := sorry
theorem dJ3_linkLast_55 : decode cJ3_linkLast 55 = .ok (.putfield 33, 3) := sorry
theorem dJ3_linkLast_58 : decode cJ3_linkLast 58 = .ok (.return_, 1) := sorry
abbrev cJ3_remove : ByteArray := prog_64_method_25_code
def yJ3_remove : MethodName := ⟨RJ3, "remove", "(I)Ljava/lang/Object;"⟩
def dkwJ3_remove_0 : List UInt8 := [42, 27, 182, 0, 90, 42, 42, 27, 182, 0, 86, 182, 0, 64, 176]
abbrev dktJ3_remove_0 : List UInt8 := dkwJ3_remove_0 ++ []
theorem dksJ3_remove_0 : cJ3_remove.data.toList.drop 0 = dktJ3_remove_0 := sorry
theorem dJ3_remove_0 : decode cJ3_remove 0 = .ok (.aload_n 0, 1) := sorry
theorem dJ3_remove_1 : decode cJ3_remove 1 = .ok (.iload_n 1, 1) := sorry
theorem dJ3_remove_2 : decode cJ3_remove 2 = .ok (.invokevirtual 90, 3) := sorry
theorem dJ3_remove_5 : decode cJ3_remove 5 = .ok (.aload_n 0, 1) := sorry
theorem dJ3_remove_6 : decode cJ3_remove 6 = .ok (.aload_n 0, 1) := sorry
theorem dJ3_remove_7 : decode cJ3_remove 7 = .ok (.iload_n 1, 1) := sorry
theorem dJ3_remove_8 : decode cJ3_remove 8 = .ok (.invokevirtual 86, 3) := sorry
theorem dJ3_remove_11 : decode cJ3_remove 11 = .ok (.invokevirtual 64, 3) := sorry
theorem dJ3_remove_14 : decode cJ3_remove 14 = .ok (.areturn, 1) := sorry
abbrev cJ3_unlink : ByteArray := prog_64_method_8_code
def yJ3_unlink : MethodName := ⟨RJ3, "unlink", "(Ljava/util/LinkedList$Node;)Ljava/lang/Object;"⟩
def dkwJ3_unlink_3 : List UInt8 := [180, 0, 7, 4, 100, 181, 0, 7, 42, 89, 180, 0, 33, 4, 96, 181, 0, 33, 44, 176]
abbrev dktJ3_unlink_3 : List UInt8 := dkwJ3_unlink_3 ++ []
def dkwJ3_unlink_2 : List UInt8 := [181, 0, 27, 167, 0, 14, 45, 25, 4, 181, 0, 30, 43, 1, 181, 0, 36, 43, 1, 181, 0, 39, 42, 89]
abbrev dktJ3_unlink_2 : List UInt8 := dkwJ3_unlink_2 ++ dktJ3_unlink_3
def dkwJ3_unlink_1 : List UInt8 := [181, 0, 18, 167, 0, 14, 25, 4, 45, 181, 0, 36, 43, 1, 181, 0, 30, 45, 199, 0, 12, 42, 25, 4]
abbrev dktJ3_unlink_1 : List UInt8 := dkwJ3_unlink_1 ++ dktJ3_unlink_2
def dkwJ3_unlink_0 : List UInt8 := [43, 180, 0, 39, 77, 43, 180, 0, 36, 78, 43, 180, 0, 30, 58, 4, 25, 4, 199, 0, 11, 42, 45]
abbrev dktJ3_unlink_0 : List UInt8 := dkwJ3_unlink_0 ++ dktJ3_unlink_1
theorem dksJ3_unlink_0 : cJ3_unlink.data.toList.drop 0 = dktJ3_unlink_0 := sorry
theorem dksJ3_unlink_1 : cJ3_unlink.data.toList.drop 23 = dktJ3_unlink_1 := sorry
theorem dksJ3_unlink_2 : cJ3_unlink.data.toList.drop 47 = dktJ3_unlink_2 := sorry
theorem dksJ3_unlink_3 : cJ3_unlink.data.toList.drop 71 = dktJ3_unlink_3 := sorry
theorem dJ3_unlink_0 : decode cJ3_unlink 0 = .ok (.aload_n 1, 1) := sorry
theorem dJ3_unlink_1 : decode cJ3_unlink 1 = .ok (.getfield 39, 3) := sorry
theorem dJ3_unlink_4 : decode cJ3_unlink 4 = .ok (.astore_n 2, 1) := sorry
theorem dJ3_unlink_5 : decode cJ3_unlink 5 = .ok (.aload_n 1, 1) := sorry
theorem dJ3_unlink_6 : decode cJ3_unlink 6 = .ok (.getfield 36, 3) := sorry
theorem dJ3_unlink_9 : decode cJ3_unlink 9 = .ok (.astore_n 3, 1) := sorry
theorem dJ3_unlink_10 : decode cJ3_unlink 10 = .ok (.aload_n 1, 1) := sorry
theorem dJ3_unlink_11 : decode cJ3_unlink 11 = .ok (.getfield 30, 3) := sorry
theorem dJ3_unlink_14 : decode cJ3_unlink 14 = .ok (.astore 4, 2) := sorry
theorem dJ3_unlink_16 : decode cJ3_unlink 16 = .ok (.aload 4, 2) := sorry
theorem dJ3_unlink_18 : decode cJ3_unlink 18 = .ok (.ifnonnull 11, 3) := sorry
theorem dJ3_unlink_21 : decode cJ3_unlink 21 = .ok (.aload_n 0, 1) := sorry
theorem dJ3_unlink_22 : decode cJ3_unlink 22 = .ok (.aload_n 3, 1) := sorry
theorem dJ3_unlink_23 : decode cJ3_unlink 23 = .ok (.putfield 18, 3) := sorry
theorem dJ3_unlink_26 : decode cJ3_unlink 26 = .ok (.goto 14, 3) := sorry
theorem dJ3_unlink_29 : decode cJ3_unlink 29 = .ok (.aload 4, 2) := sorry
theorem dJ3_unlink_31 : decode cJ3_unlink 31 = .ok (.aload_n 3, 1) := sorry
theorem dJ3_unlink_32 : decode cJ3_unlink 32 = .ok (.putfield 36, 3) := sorry
theorem dJ3_unlink_35 : decode cJ3_unlink 35 = .ok (.aload_n 1, 1) := sorry
theorem dJ3_unlink_36 : decode cJ3_unlink 36 = .ok (.aconst_null, 1) := sorry
theorem dJ3_unlink_37 : decode cJ3_unlink 37 = .ok (.putfield 30, 3) := sorry
theorem dJ3_unlink_40 : decode cJ3_unlink 40 = .ok (.aload_n 3, 1) := sorry
theorem dJ3_unlink_41 : decode cJ3_unlink 41 = .ok (.ifnonnull 12, 3) := sorry
theorem dJ3_unlink_44 : decode cJ3_unlink 44 = .ok (.aload_n 0, 1) := sorry
theorem dJ3_unlink_45 : decode cJ3_unlink 45 = .ok (.aload 4, 2) := sorry
theorem dJ3_unlink_47 : decode cJ3_unlink 47 = .ok (.putfield 27, 3) := sorry
theorem dJ3_unlink_50 : decode cJ3_unlink 50 = .ok (.goto 14, 3) := sorry
theorem dJ3_unlink_53 : decode cJ3_unlink 53 = .ok (.aload_n 3, 1) := sorry
theorem dJ3_unlink_54 : decode cJ3_unlink 54 = .ok (.aload 4, 2) := sorry
theorem dJ3_unlink_56 : decode cJ3_unlink 56 = .ok (.putfield 30, 3) := sorry
theorem dJ3_unlink_59 : decode cJ3_unlink 59 = .ok (.aload_n 1, 1) := sorry
theorem dJ3_unlink_60 : decode cJ3_unlink 60 = .ok (.aconst_null, 1) := sorry
theorem dJ3_unlink_61 : decode cJ3_unlink 61 = .ok (.putfield 36, 3) := sorry
theorem dJ3_unlink_64 : decode cJ3_unlink 64 = .ok (.aload_n 1, 1) := sorry
theorem dJ3_unlink_65 : decode cJ3_unlink 65 = .ok (.aconst_null, 1) := sorry
theorem dJ3_unlink_66 : decode cJ3_unlink 66 = .ok (.putfield 39, 3) := sorry
theorem dJ3_unlink_69 : decode cJ3_unlink 69 = .ok (.aload_n 0, 1) := sorry
theorem dJ3_unlink_70 : decode cJ3_unlink 70 = .ok (.dup, 1) := sorry
theorem dJ3_unlink_71 : decode cJ3_unlink 71 = .ok (.getfield 7, 3) := sorry
theorem dJ3_unlink_74 : decode cJ3_unlink 74 = .ok (.iconst 1, 1) := sorry
theorem dJ3_unlink_75 : decode cJ3_unlink 75 = .ok (.isub, 1) := sorry
theorem dJ3_unlink_76 : decode cJ3_unlink 76 = .ok (.putfield 7, 3) := sorry
theorem dJ3_unlink_79 : decode cJ3_unlink 79 = .ok (.aload_n 0, 1) := sorry
theorem dJ3_unlink_80 : decode cJ3_unlink 80 = .ok (.dup, 1) := sorry
theorem dJ3_unlink_81 : decode cJ3_unlink 81 = .ok (.getfield 33, 3) := sorry
theorem dJ3_unlink_84 : decode cJ3_unlink 84 = .ok (.iconst 1, 1) := sorry
theorem dJ3_unlink_85 : decode cJ3_unlink 85 = .ok (.iadd, 1) := sorry
theorem dJ3_unlink_86 : decode cJ3_unlink 86 = .ok (.putfield 33, 3) := sorry
theorem dJ3_unlink_89 : decode cJ3_unlink 89 = .ok (.aload_n 2, 1) := sorry
theorem dJ3_unlink_90 : decode cJ3_unlink 90 = .ok (.areturn, 1) := sorry
abbrev cJ3_indexOf : ByteArray := prog_64_method_32_code
def yJ3_indexOf : MethodName := ⟨RJ3, "indexOf", "(Ljava/lang/Object;)I"⟩
def dkwJ3_indexOf_3 : List UInt8 := [172]
abbrev dktJ3_indexOf_3 : List UInt8 := dkwJ3_indexOf_3 ++ []
def dkwJ3_indexOf_2 : List UInt8 := [45, 180, 0, 39, 182, 0, 67, 153, 0, 5, 28, 172, 132, 2, 1, 45, 180, 0, 36, 78, 167, 255, 231, 2]
abbrev dktJ3_indexOf_2 : List UInt8 := dkwJ3_indexOf_2 ++ dktJ3_indexOf_3
def dkwJ3_indexOf_1 : List UInt8 := [132, 2, 1, 45, 180, 0, 36, 78, 167, 255, 235, 167, 0, 36, 42, 180, 0, 18, 78, 45, 198, 0, 27, 43]
abbrev dktJ3_indexOf_1 : List UInt8 := dkwJ3_indexOf_1 ++ dktJ3_indexOf_2
def dkwJ3_indexOf_0 : List UInt8 := [3, 61, 43, 199, 0, 35, 42, 180, 0, 18, 78, 45, 198, 0, 23, 45, 180, 0, 39, 199, 0, 5, 28, 172]
abbrev dktJ3_indexOf_0 : List UInt8 := dkwJ3_indexOf_0 ++ dktJ3_indexOf_1
theorem dksJ3_indexOf_0 : cJ3_indexOf.data.toList.drop 0 = dktJ3_indexOf_0 := sorry
theorem dksJ3_indexOf_1 : cJ3_indexOf.data.toList.drop 24 = dktJ3_indexOf_1 := sorry
theorem dksJ3_indexOf_2 : cJ3_indexOf.data.toList.drop 48 = dktJ3_indexOf_2 := sorry
theorem dksJ3_indexOf_3 : cJ3_indexOf.data.toList.drop 72 = dktJ3_indexOf_3 := sorry
theorem dJ3_indexOf_0 : decode cJ3_indexOf 0 = .ok (.iconst 0, 1) := sorry
theorem dJ3_indexOf_1 : decode cJ3_indexOf 1 = .ok (.istore_n 2, 1) := sorry
theorem dJ3_indexOf_2 : decode cJ3_indexOf 2 = .ok (.aload_n 1, 1) := sorry
theorem dJ3_indexOf_3 : decode cJ3_indexOf 3 = .ok (.ifnonnull 35, 3) := sorry
theorem dJ3_indexOf_6 : decode cJ3_indexOf 6 = .ok (.aload_n 0, 1) := sorry
theorem dJ3_indexOf_7 : decode cJ3_indexOf 7 = .ok (.getfield 18, 3) := sorry
theorem dJ3_indexOf_10 : decode cJ3_indexOf 10 = .ok (.astore_n 3, 1) := sorry
theorem dJ3_indexOf_11 : decode cJ3_indexOf 11 = .ok (.aload_n 3, 1) := sorry
theorem dJ3_indexOf_12 : decode cJ3_indexOf 12 = .ok (.ifnull 23, 3) := sorry
theorem dJ3_indexOf_15 : decode cJ3_indexOf 15 = .ok (.aload_n 3, 1) := sorry
theorem dJ3_indexOf_16 : decode cJ3_indexOf 16 = .ok (.getfield 39, 3) := sorry
theorem dJ3_indexOf_19 : decode cJ3_indexOf 19 = .ok (.ifnonnull 5, 3) := sorry
theorem dJ3_indexOf_22 : decode cJ3_indexOf 22 = .ok (.iload_n 2, 1) := sorry
theorem dJ3_indexOf_23 : decode cJ3_indexOf 23 = .ok (.ireturn, 1) := sorry
theorem dJ3_indexOf_24 : decode cJ3_indexOf 24 = .ok (.iinc 2 1, 3) := sorry
theorem dJ3_indexOf_27 : decode cJ3_indexOf 27 = .ok (.aload_n 3, 1) := sorry
theorem dJ3_indexOf_28 : decode cJ3_indexOf 28 = .ok (.getfield 36, 3) := sorry
theorem dJ3_indexOf_31 : decode cJ3_indexOf 31 = .ok (.astore_n 3, 1) := sorry
theorem dJ3_indexOf_32 : decode cJ3_indexOf 32 = .ok (.goto (-21), 3) := sorry
theorem dJ3_indexOf_35 : decode cJ3_indexOf 35 = .ok (.goto 36, 3) := sorry
theorem dJ3_indexOf_38 : decode cJ3_indexOf 38 = .ok (.aload_n 0, 1) := sorry
theorem dJ3_indexOf_39 : decode cJ3_indexOf 39 = .ok (.getfield 18, 3) := sorry
theorem dJ3_indexOf_42 : decode cJ3_indexOf 42 = .ok (.astore_n 3, 1) := sorry
theorem dJ3_indexOf_43 : decode cJ3_indexOf 43 = .ok (.aload_n 3, 1) := sorry
theorem dJ3_indexOf_44 : decode cJ3_indexOf 44 = .ok (.ifnull 27, 3) := sorry
theorem dJ3_indexOf_47 : decode cJ3_indexOf 47 = .ok (.aload_n 1, 1) := sorry
theorem dJ3_indexOf_48 : decode cJ3_indexOf 48 = .ok (.aload_n 3, 1) := sorry
theorem dJ3_indexOf_49 : decode cJ3_indexOf 49 = .ok (.getfield 39, 3) := sorry
theorem dJ3_indexOf_52 : decode cJ3_indexOf 52 = .ok (.invokevirtual 67, 3) := sorry
theorem dJ3_indexOf_55 : decode cJ3_indexOf 55 = .ok (.ifCond .eq 5, 3) := sorry
theorem dJ3_indexOf_58 : decode cJ3_indexOf 58 = .ok (.iload_n 2, 1) := sorry
theorem dJ3_indexOf_59 : decode cJ3_indexOf 59 = .ok (.ireturn, 1) := sorry
theorem dJ3_indexOf_60 : decode cJ3_indexOf 60 = .ok (.iinc 2 1, 3) := sorry
theorem dJ3_indexOf_63 : decode cJ3_indexOf 63 = .ok (.aload_n 3, 1) := sorry
theorem dJ3_indexOf_64 : decode cJ3_indexOf 64 = .ok (.getfield 36, 3) := sorry
theorem dJ3_indexOf_67 : decode cJ3_indexOf 67 = .ok (.astore_n 3, 1) := sorry
theorem dJ3_indexOf_68 : decode cJ3_indexOf 68 = .ok (.goto (-25), 3) := sorry
theorem dJ3_indexOf_71 : decode cJ3_indexOf 71 = .ok (.iconst (-1), 1) := sorry
theorem dJ3_indexOf_72 : decode cJ3_indexOf 72 = .ok (.ireturn, 1) := sorry
theorem q135 : (Jvm.Cond.initialized "java/util/LinkedList") ∈ lw_all := sorry
theorem q202 : (Jvm.Cond.instantiable "java/util/LinkedList" (4 : Nat)) ∈ lw_all := sorry
theorem q204 : (Jvm.Cond.instanceMethod ({ cls := "java/util/LinkedList", name := "<init>", desc := "()V" } : Jvm.MethodName)) ∈ lw_all := sorry
theorem q205 : (Jvm.Cond.code ({ cls := "java/util/LinkedList", name := "<init>", desc := "()V" } : Jvm.MethodName) prog_64_method_1_code (1 : Nat) (Option.none : Option Jvm.ClassFile.FieldType)) ∈ lw_all := sorry
theorem q206 : (Jvm.Cond.methodLink "java/util/LinkedList" (1 : Nat) ({ cls := "java/util/AbstractSequentialList", name := "<init>", desc := "()V" } : Jvm.MethodName)) ∈ lw_all := sorry
theorem q216 : (Jvm.Cond.fieldLink "java/util/LinkedList" (7 : Nat) "java/util/LinkedList" "size" "I") ∈ lw_all := sorry
theorem q218 : (Jvm.Cond.fieldLink "java/util/LinkedList" (18 : Nat) "java/util/LinkedList" "first" "Ljava/util/LinkedList$Node;") ∈ lw_all := sorry
theorem q219 : (Jvm.Cond.fieldLink "java/util/LinkedList" (27 : Nat) "java/util/LinkedList" "last" "Ljava/util/LinkedList$Node;") ∈ lw_all := sorry
theorem q222 : (Jvm.Cond.sameField "java/util/LinkedList" "java/util/AbstractList" "modCount" "I") ∈ lw_all := sorry
theorem q226 : (Jvm.Cond.fieldLink "java/util/LinkedList" (33 : Nat) "java/util/LinkedList" "modCount" "I") ∈ lw_all := sorry
theorem q228 : (Jvm.Cond.lays "java/util/LinkedList" "java/util/LinkedList" "size" "I") ∈ lw_all := sorry
theorem q229 : (Jvm.Cond.soleField "java/util/LinkedList" "size") ∈ lw_all := sorry
theorem q230 : (Jvm.Cond.lays "java/util/LinkedList" "java/util/LinkedList" "first" "Ljava/util/LinkedList$Node;") ∈ lw_all := sorry
theorem q231 : (Jvm.Cond.soleField "java/util/LinkedList" "first") ∈ lw_all := sorry
theorem q232 : (Jvm.Cond.lays "java/util/LinkedList" "java/util/LinkedList" "last" "Ljava/util/LinkedList$Node;") ∈ lw_all := sorry
theorem q233 : (Jvm.Cond.soleField "java/util/LinkedList" "last") ∈ lw_all := sorry
theorem q234 : (Jvm.Cond.lays "java/util/LinkedList" "java/util/AbstractList" "modCount" "I") ∈ lw_all := sorry
theorem q236 : (Jvm.Cond.superclass "java/util/LinkedList" "java/util/AbstractSequentialList") ∈ lw_all := sorry
theorem q329 : (Jvm.Cond.sameMethod "java/util/LinkedList" "java/util/AbstractSequentialList" "iterator" "()Ljava/util/Iterator;") ∈ lw_all := sorry
theorem q331 : (Jvm.Cond.selects "java/util/LinkedList" ({ cls := "java/util/LinkedList", name := "iterator", desc := "()Ljava/util/Iterator;" } : Jvm.MethodName) ({ cls := "java/util/AbstractSequentialList", name := "iterator", desc := "()Ljava/util/Iterator;" } : Jvm.MethodName)) ∈ lw_all := sorry
theorem q337 : (Jvm.Cond.selects "java/util/LinkedList" ({ cls := "java/util/AbstractSequentialList", name := "listIterator", desc := "()Ljava/util/ListIterator;" } : Jvm.MethodName) ({ cls := "java/util/AbstractList", name := "listIterator", desc := "()Ljava/util/ListIterator;" } : Jvm.MethodName)) ∈ lw_all := sorry
theorem q378 : (Jvm.Cond.selects "java/util/LinkedList" ({ cls := "java/util/AbstractList", name := "listIterator", desc := "(I)Ljava/util/ListIterator;" } : Jvm.MethodName) ({ cls := "java/util/LinkedList", name := "listIterator", desc := "(I)Ljava/util/ListIterator;" } : Jvm.MethodName)) ∈ lw_all := sorry
theorem q379 : (Jvm.Cond.instanceMethod ({ cls := "java/util/LinkedList", name := "listIterator", desc := "(I)Ljava/util/ListIterator;" } : Jvm.MethodName)) ∈ lw_all := sorry
theorem q380 : (Jvm.Cond.code ({ cls := "java/util/LinkedList", name := "listIterator", desc := "(I)Ljava/util/ListIterator;" } : Jvm.MethodName) prog_64_method_49_code (2 : Nat) (Option.some (Jvm.ClassFile.FieldType.object "java/util/ListIterator"))) ∈ lw_all := sorry
theorem q381 : (Jvm.Cond.methodLink "java/util/LinkedList" (76 : Nat) ({ cls := "java/util/LinkedList", name := "checkPositionIndex", desc := "(I)V" } : Jvm.MethodName)) ∈ lw_all := sorry
theorem q382 : (Jvm.Cond.privateMethod ({ cls := "java/util/LinkedList", name := "checkPositionIndex", desc := "(I)V" } : Jvm.MethodName)) ∈ lw_tbl := sorry
theorem q383 : (Jvm.Cond.instanceMethod ({ cls := "java/util/LinkedList", name := "checkPositionIndex", desc := "(I)V" } : Jvm.MethodName)) ∈ lw_all := sorry
theorem q384 : (Jvm.Cond.code ({ cls := "java/util/LinkedList", name := "checkPositionIndex", desc := "(I)V" } : Jvm.MethodName) prog_64_method_30_code (2 : Nat) (Option.none : Option Jvm.ClassFile.FieldType)) ∈ lw_all := sorry
theorem q385 : (Jvm.Cond.methodLink "java/util/LinkedList" (128 : Nat) ({ cls := "java/util/LinkedList", name := "isPositionIndex", desc := "(I)Z" } : Jvm.MethodName)) ∈ lw_all := sorry
theorem q386 : (Jvm.Cond.privateMethod ({ cls := "java/util/LinkedList", name := "isPositionIndex", desc := "(I)Z" } : Jvm.MethodName)) ∈ lw_tbl := sorry
theorem q387 : (Jvm.Cond.instanceMethod ({ cls := "java/util/LinkedList", name := "isPositionIndex", desc := "(I)Z" } : Jvm.MethodName)) ∈ lw_all := sorry
theorem q388 : (Jvm.Cond.code ({ cls := "java/util/LinkedList", name := "isPositionIndex", desc := "(I)Z" } : Jvm.MethodName) prog_64_method_27_code (2 : Nat) (Option.some Jvm.ClassFile.FieldType.boolean)) ∈ lw_all := sorry
theorem q389 : (Jvm.Cond.classLink "java/util/LinkedList" (150 : Nat) "java/util/LinkedList$ListItr") ∈ lw_all := sorry
theorem q391 : (Jvm.Cond.methodLink "java/util/LinkedList" (152 : Nat) ({ cls := "java/util/LinkedList$ListItr", name := "<init>", desc := "(Ljava/util/LinkedList;I)V" } : Jvm.MethodName)) ∈ lw_all := sorry
theorem q396 : (Jvm.Cond.instanceMethod ({ cls := "java/util/LinkedList", name := "node", desc := "(I)Ljava/util/LinkedList$Node;" } : Jvm.MethodName)) ∈ lw_all := sorry
theorem q397 : (Jvm.Cond.selects "java/util/LinkedList" ({ cls := "java/util/LinkedList", name := "node", desc := "(I)Ljava/util/LinkedList$Node;" } : Jvm.MethodName) ({ cls := "java/util/LinkedList", name := "node", desc := "(I)Ljava/util/LinkedList$Node;" } : Jvm.MethodName)) ∈ lw_all := sorry
theorem q398 : (Jvm.Cond.code ({ cls := "java/util/LinkedList", name := "node", desc := "(I)Ljava/util/LinkedList$Node;" } : Jvm.MethodName) prog_64_method_31_code (4 : Nat) (Option.some (Jvm.ClassFile.FieldType.object "java/util/LinkedList$Node"))) ∈ lw_all := sorry
theorem q432 : (Jvm.Cond.selects "java/util/LinkedList" ({ cls := "java/util/AbstractList", name := "size", desc := "()I" } : Jvm.MethodName) ({ cls := "java/util/LinkedList", name := "size", desc := "()I" } : Jvm.MethodName)) ∈ lw_all := sorry
theorem q433 : (Jvm.Cond.instanceMethod ({ cls := "java/util/LinkedList", name := "size", desc := "()I" } : Jvm.MethodName)) ∈ lw_all := sorry
theorem q434 : (Jvm.Cond.code ({ cls := "java/util/LinkedList", name := "size", desc := "()I" } : Jvm.MethodName) prog_64_method_16_code (1 : Nat) (Option.some Jvm.ClassFile.FieldType.int)) ∈ lw_all := sorry
theorem q477 : (Jvm.Cond.selects "java/util/LinkedList" ({ cls := "java/util/AbstractList", name := "get", desc := "(I)Ljava/lang/Object;" } : Jvm.MethodName) ({ cls := "java/util/LinkedList", name := "get", desc := "(I)Ljava/lang/Object;" } : Jvm.MethodName)) ∈ lw_all := sorry
theorem q478 : (Jvm.Cond.instanceMethod ({ cls := "java/util/LinkedList", name := "get", desc := "(I)Ljava/lang/Object;" } : Jvm.MethodName)) ∈ lw_all := sorry
theorem q479 : (Jvm.Cond.code ({ cls := "java/util/LinkedList", name := "get", desc := "(I)Ljava/lang/Object;" } : Jvm.MethodName) prog_64_method_22_code (2 : Nat) (Option.some (Jvm.ClassFile.FieldType.object "java/lang/Object"))) ∈ lw_all := sorry
theorem q480 : (Jvm.Cond.methodLink "java/util/LinkedList" (90 : Nat) ({ cls := "java/util/LinkedList", name := "checkElementIndex", desc := "(I)V" } : Jvm.MethodName)) ∈ lw_all := sorry
theorem q481 : (Jvm.Cond.privateMethod ({ cls := "java/util/LinkedList", name := "checkElementIndex", desc := "(I)V" } : Jvm.MethodName)) ∈ lw_tbl := sorry
theorem q482 : (Jvm.Cond.instanceMethod ({ cls := "java/util/LinkedList", name := "checkElementIndex", desc := "(I)V" } : Jvm.MethodName)) ∈ lw_all := sorry
theorem q483 : (Jvm.Cond.code ({ cls := "java/util/LinkedList", name := "checkElementIndex", desc := "(I)V" } : Jvm.MethodName) prog_64_method_29_code (2 : Nat) (Option.none : Option Jvm.ClassFile.FieldType)) ∈ lw_all := sorry
theorem q484 : (Jvm.Cond.methodLink "java/util/LinkedList" (115 : Nat) ({ cls := "java/util/LinkedList", name := "isElementIndex", desc := "(I)Z" } : Jvm.MethodName)) ∈ lw_all := sorry
theorem q485 : (Jvm.Cond.privateMethod ({ cls := "java/util/LinkedList", name := "isElementIndex", desc := "(I)Z" } : Jvm.MethodName)) ∈ lw_tbl := sorry
theorem q486 : (Jvm.Cond.instanceMethod ({ cls := "java/util/LinkedList", name := "isElementIndex", desc := "(I)Z" } : Jvm.MethodName)) ∈ lw_all := sorry
theorem q487 : (Jvm.Cond.code ({ cls := "java/util/LinkedList", name := "isElementIndex", desc := "(I)Z" } : Jvm.MethodName) prog_64_method_26_code (2 : Nat) (Option.some Jvm.ClassFile.FieldType.boolean)) ∈ lw_all := sorry
theorem q488 : (Jvm.Cond.methodLink "java/util/LinkedList" (86 : Nat) ({ cls := "java/util/LinkedList", name := "node", desc := "(I)Ljava/util/LinkedList$Node;" } : Jvm.MethodName)) ∈ lw_all := sorry
theorem q583 : (Jvm.Cond.selects "java/util/LinkedList" ({ cls := "java/lang/Object", name := "getClass", desc := "()Ljava/lang/Class;" } : Jvm.MethodName) ({ cls := "java/lang/Object", name := "getClass", desc := "()Ljava/lang/Class;" } : Jvm.MethodName)) ∈ lw_all := sorry
theorem q1244 : (Jvm.Cond.instanceMethod ({ cls := "java/util/LinkedList", name := "addLast", desc := "(Ljava/lang/Object;)V" } : Jvm.MethodName)) ∈ lw_all := sorry
theorem q1245 : (Jvm.Cond.selects "java/util/LinkedList" ({ cls := "java/util/LinkedList", name := "addLast", desc := "(Ljava/lang/Object;)V" } : Jvm.MethodName) ({ cls := "java/util/LinkedList", name := "addLast", desc := "(Ljava/lang/Object;)V" } : Jvm.MethodName)) ∈ lw_all := sorry
theorem q1246 : (Jvm.Cond.code ({ cls := "java/util/LinkedList", name := "addLast", desc := "(Ljava/lang/Object;)V" } : Jvm.MethodName) prog_64_method_14_code (2 : Nat) (Option.none : Option Jvm.ClassFile.FieldType)) ∈ lw_all := sorry
theorem q1247 : (Jvm.Cond.methodLink "java/util/LinkedList" (57 : Nat) ({ cls := "java/util/LinkedList", name := "linkLast", desc := "(Ljava/lang/Object;)V" } : Jvm.MethodName)) ∈ lw_all := sorry
theorem q1248 : (Jvm.Cond.instanceMethod ({ cls := "java/util/LinkedList", name := "linkLast", desc := "(Ljava/lang/Object;)V" } : Jvm.MethodName)) ∈ lw_all := sorry
theorem q1249 : (Jvm.Cond.selects "java/util/LinkedList" ({ cls := "java/util/LinkedList", name := "linkLast", desc := "(Ljava/lang/Object;)V" } : Jvm.MethodName) ({ cls := "java/util/LinkedList", name := "linkLast", desc := "(Ljava/lang/Object;)V" } : Jvm.MethodName)) ∈ lw_all := sorry
theorem q1250 : (Jvm.Cond.code ({ cls := "java/util/LinkedList", name := "linkLast", desc := "(Ljava/lang/Object;)V" } : Jvm.MethodName) prog_64_method_4_code (4 : Nat) (Option.none : Option Jvm.ClassFile.FieldType)) ∈ lw_all := sorry
theorem q1251 : (Jvm.Cond.classLink "java/util/LinkedList" (22 : Nat) "java/util/LinkedList$Node") ∈ lw_all := sorry
theorem q1253 : (Jvm.Cond.methodLink "java/util/LinkedList" (24 : Nat) ({ cls := "java/util/LinkedList$Node", name := "<init>", desc := "(Ljava/util/LinkedList$Node;Ljava/lang/Object;Ljava/util/LinkedList$Node;)V" } : Jvm.MethodName)) ∈ lw_all := sorry
theorem q1259 : (Jvm.Cond.fieldLink "java/util/LinkedList" (39 : Nat) "java/util/LinkedList$Node" "item" "Ljava/lang/Object;") ∈ lw_all := sorry
theorem q1262 : (Jvm.Cond.fieldLink "java/util/LinkedList" (36 : Nat) "java/util/LinkedList$Node" "next" "Ljava/util/LinkedList$Node;") ∈ lw_all := sorry
theorem q1264 : (Jvm.Cond.fieldLink "java/util/LinkedList" (30 : Nat) "java/util/LinkedList$Node" "prev" "Ljava/util/LinkedList$Node;") ∈ lw_all := sorry
theorem q2080 : (Jvm.Cond.instanceMethod ({ cls := "java/util/LinkedList", name := "remove", desc := "(I)Ljava/lang/Object;" } : Jvm.MethodName)) ∈ lw_all := sorry
theorem q2081 : (Jvm.Cond.selects "java/util/LinkedList" ({ cls := "java/util/LinkedList", name := "remove", desc := "(I)Ljava/lang/Object;" } : Jvm.MethodName) ({ cls := "java/util/LinkedList", name := "remove", desc := "(I)Ljava/lang/Object;" } : Jvm.MethodName)) ∈ lw_all := sorry
theorem q2082 : (Jvm.Cond.code ({ cls := "java/util/LinkedList", name := "remove", desc := "(I)Ljava/lang/Object;" } : Jvm.MethodName) prog_64_method_25_code (2 : Nat) (Option.some (Jvm.ClassFile.FieldType.object "java/lang/Object"))) ∈ lw_all := sorry
theorem q2083 : (Jvm.Cond.methodLink "java/util/LinkedList" (64 : Nat) ({ cls := "java/util/LinkedList", name := "unlink", desc := "(Ljava/util/LinkedList$Node;)Ljava/lang/Object;" } : Jvm.MethodName)) ∈ lw_all := sorry
theorem q2084 : (Jvm.Cond.instanceMethod ({ cls := "java/util/LinkedList", name := "unlink", desc := "(Ljava/util/LinkedList$Node;)Ljava/lang/Object;" } : Jvm.MethodName)) ∈ lw_all := sorry
theorem q2085 : (Jvm.Cond.selects "java/util/LinkedList" ({ cls := "java/util/LinkedList", name := "unlink", desc := "(Ljava/util/LinkedList$Node;)Ljava/lang/Object;" } : Jvm.MethodName) ({ cls := "java/util/LinkedList", name := "unlink", desc := "(Ljava/util/LinkedList$Node;)Ljava/lang/Object;" } : Jvm.MethodName)) ∈ lw_all := sorry
theorem q2086 : (Jvm.Cond.code ({ cls := "java/util/LinkedList", name := "unlink", desc := "(Ljava/util/LinkedList$Node;)Ljava/lang/Object;" } : Jvm.MethodName) prog_64_method_8_code (5 : Nat) (Option.some (Jvm.ClassFile.FieldType.object "java/lang/Object"))) ∈ lw_all := sorry
theorem q2134 : (Jvm.Cond.selects "java/util/LinkedList" ({ cls := "java/util/AbstractList", name := "remove", desc := "(I)Ljava/lang/Object;" } : Jvm.MethodName) ({ cls := "java/util/LinkedList", name := "remove", desc := "(I)Ljava/lang/Object;" } : Jvm.MethodName)) ∈ lw_all := sorry
theorem q2450 : (Jvm.Cond.castable "java/util/LinkedList" "java/util/List") ∈ lw_tbl := sorry
theorem q2451 : (Jvm.Cond.selects "java/util/LinkedList" ({ cls := "java/util/List", name := "indexOf", desc := "(Ljava/lang/Object;)I" } : Jvm.MethodName) ({ cls := "java/util/LinkedList", name := "indexOf", desc := "(Ljava/lang/Object;)I" } : Jvm.MethodName)) ∈ lw_all := sorry
theorem q2452 : (Jvm.Cond.unhidden "java/util/LinkedList" "indexOf" "(Ljava/lang/Object;)I") ∈ lw_tbl := sorry
theorem q2453 : (Jvm.Cond.instanceMethod ({ cls := "java/util/LinkedList", name := "indexOf", desc := "(Ljava/lang/Object;)I" } : Jvm.MethodName)) ∈ lw_all := sorry
theorem q2454 : (Jvm.Cond.publicMethod ({ cls := "java/util/LinkedList", name := "indexOf", desc := "(Ljava/lang/Object;)I" } : Jvm.MethodName)) ∈ lw_tbl := sorry
theorem q2455 : (Jvm.Cond.code ({ cls := "java/util/LinkedList", name := "indexOf", desc := "(Ljava/lang/Object;)I" } : Jvm.MethodName) prog_64_method_32_code (4 : Nat) (Option.some Jvm.ClassFile.FieldType.int)) ∈ lw_all := sorry
theorem q2456 : (Jvm.Cond.methodLink "java/util/LinkedList" (67 : Nat) ({ cls := "java/lang/Object", name := "equals", desc := "(Ljava/lang/Object;)Z" } : Jvm.MethodName)) ∈ lw_all := sorry
theorem q3215 : (Jvm.Cond.selects "java/util/LinkedList" ({ cls := "java/util/LinkedList", name := "size", desc := "()I" } : Jvm.MethodName) ({ cls := "java/util/LinkedList", name := "size", desc := "()I" } : Jvm.MethodName)) ∈ lw_all := sorry
theorem q3222 : (Jvm.Cond.selects "java/util/LinkedList" ({ cls := "java/util/LinkedList", name := "get", desc := "(I)Ljava/lang/Object;" } : Jvm.MethodName) ({ cls := "java/util/LinkedList", name := "get", desc := "(I)Ljava/lang/Object;" } : Jvm.MethodName)) ∈ lw_all := sorry
theorem q3233 : (Jvm.Cond.castable "java/util/LinkedList" "java/lang/Object") ∈ lw_tbl := sorry
theorem in_J3 : ∀ w ∈ wsJ30, w ∈ lw_all := sorry
/-! java/util/AbstractList$Itr -/
set_option maxRecDepth 100000
def RJ4 : String := "java/util/AbstractList$Itr"
abbrev cJ4_hasNext : ByteArray := prog_45_method_2_code
def yJ4_hasNext : MethodName := ⟨RJ4, "hasNext", "()Z"⟩
def dkwJ4_hasNext_0 : List UInt8 := [42, 180, 0, 13, 42, 180, 0, 1, 182, 0, 28, 159, 0, 7, 4, 167, 0, 4, 3, 172]
abbrev dktJ4_hasNext_0 : List UInt8 := dkwJ4_hasNext_0 ++ []
theorem dksJ4_hasNext_0 : cJ4_hasNext.data.toList.drop 0 = dktJ4_hasNext_0 := sorry
theorem dJ4_hasNext_0 : decode cJ4_hasNext 0 = .ok (.aload_n 0, 1) := sorry
theorem dJ4_hasNext_1 : decode cJ4_hasNext 1 = .ok (.getfield 13, 3) := sorry
theorem dJ4_hasNext_4 : decode cJ4_hasNext 4 = .ok (.aload_n 0, 1) := sorry
theorem dJ4_hasNext_5 : decode cJ4_hasNext 5 = .ok (.getfield 1, 3) := sorry
theorem dJ4_hasNext_8 : decode cJ4_hasNext 8 = .ok (.invokevirtual 28, 3) := sorry
theorem dJ4_hasNext_11 : decode cJ4_hasNext 11 = .ok (.if_icmp .eq 7, 3) := sorry
theorem dJ4_hasNext_14 : decode cJ4_hasNext 14 = .ok (.iconst 1, 1) := sorry
theorem dJ4_hasNext_15 : decode cJ4_hasNext 15 = .ok (.goto 4, 3) := sorry
theorem dJ4_hasNext_18 : decode cJ4_hasNext 18 = .ok (.iconst 0, 1) := sorry
theorem dJ4_hasNext_19 : decode cJ4_hasNext 19 = .ok (.ireturn, 1) := sorry
abbrev cJ4_next : ByteArray := prog_45_method_3_code
def yJ4_next : MethodName := ⟨RJ4, "next", "()Ljava/lang/Object;"⟩
def dkwJ4_next_1 : List UInt8 := [27, 4, 96, 181, 0, 13, 44, 176, 76, 42, 182, 0, 32, 187, 0, 41, 89, 43, 183, 0, 43, 191]
abbrev dktJ4_next_1 : List UInt8 := dkwJ4_next_1 ++ []
def dkwJ4_next_0 : List UInt8 := [42, 182, 0, 32, 42, 180, 0, 13, 60, 42, 180, 0, 1, 27, 182, 0, 35, 77, 42, 27, 181, 0, 17, 42]
abbrev dktJ4_next_0 : List UInt8 := dkwJ4_next_0 ++ dktJ4_next_1
theorem dksJ4_next_0 : cJ4_next.data.toList.drop 0 = dktJ4_next_0 := sorry
theorem dksJ4_next_1 : cJ4_next.data.toList.drop 24 = dktJ4_next_1 := sorry
theorem dJ4_next_0 : decode cJ4_next 0 = .ok (.aload_n 0, 1) := sorry
theorem dJ4_next_1 : decode cJ4_next 1 = .ok (.invokevirtual 32, 3) := sorry
theorem dJ4_next_4 : decode cJ4_next 4 = .ok (.aload_n 0, 1) := sorry
theorem dJ4_next_5 : decode cJ4_next 5 = .ok (.getfield 13, 3) := sorry
theorem dJ4_next_8 : decode cJ4_next 8 = .ok (.istore_n 1, 1) := sorry
theorem dJ4_next_9 : decode cJ4_next 9 = .ok (.aload_n 0, 1) := sorry
theorem dJ4_next_10 : decode cJ4_next 10 = .ok (.getfield 1, 3) := sorry
theorem dJ4_next_13 : decode cJ4_next 13 = .ok (.iload_n 1, 1) := sorry
theorem dJ4_next_14 : decode cJ4_next 14 = .ok (.invokevirtual 35, 3) := sorry
theorem dJ4_next_17 : decode cJ4_next 17 = .ok (.astore_n 2, 1) := sorry
theorem dJ4_next_18 : decode cJ4_next 18 = .ok (.aload_n 0, 1) := sorry
theorem dJ4_next_19 : decode cJ4_next 19 = .ok (.iload_n 1, 1) := sorry
theorem dJ4_next_20 : decode cJ4_next 20 = .ok (.putfield 17, 3) := sorry
theorem dJ4_next_23 : decode cJ4_next 23 = .ok (.aload_n 0, 1) := sorry
theorem dJ4_next_24 : decode cJ4_next 24 = .ok (.iload_n 1, 1) := sorry
theorem dJ4_next_25 : decode cJ4_next 25 = .ok (.iconst 1, 1) := sorry
theorem dJ4_next_26 : decode cJ4_next 26 = .ok (.iadd, 1) := sorry
theorem dJ4_next_27 : decode cJ4_next 27 = .ok (.putfield 13, 3) := sorry
theorem dJ4_next_30 : decode cJ4_next 30 = .ok (.aload_n 2, 1) := sorry
theorem dJ4_next_31 : decode cJ4_next 31 = .ok (.areturn, 1) := sorry
theorem dJ4_next_32 : decode cJ4_next 32 = .ok (.astore_n 1, 1) := sorry
theorem dJ4_next_33 : decode cJ4_next 33 = .ok (.aload_n 0, 1) := sorry
theorem dJ4_next_34 : decode cJ4_next 34 = .ok (.invokevirtual 32, 3) := sorry
theorem dJ4_next_37 : decode cJ4_next 37 = .ok (.new 41, 3) := sorry
theorem dJ4_next_40 : decode cJ4_next 40 = .ok (.dup, 1) := sorry
theorem dJ4_next_41 : decode cJ4_next 41 = .ok (.aload_n 1, 1) := sorry
theorem dJ4_next_42 : decode cJ4_next 42 = .ok (.invokespecial 43, 3) := sorry
theorem dJ4_next_45 : decode cJ4_next 45 = .ok (.athrow, 1) := sorry
abbrev cJ4_checkForComodification : ByteArray := prog_45_method_5_code
def yJ4_checkForComodification : MethodName := ⟨RJ4, "checkForComodification", "()V"⟩
def dkwJ4_checkForComodification_0 : List UInt8 := [42, 180, 0, 1, 180, 0, 20, 42, 180, 0, 25, 159, 0, 11, 187, 0, 52, 89, 183, 0, 54, 191, 177]
abbrev dktJ4_checkForComodification_0 : List UInt8 := dkwJ4_checkForComodification_0 ++ []
theorem dksJ4_checkForComodification_0 : cJ4_checkForComodification.data.toList.drop 0 = dktJ4_checkForComodification_0 := sorry
theorem dJ4_checkForComodification_0 : decode cJ4_checkForComodification 0 = .ok (.aload_n 0, 1) := sorry
theorem dJ4_checkForComodification_1 : decode cJ4_checkForComodification 1 = .ok (.getfield 1, 3) := sorry
theorem dJ4_checkForComodification_4 : decode cJ4_checkForComodification 4 = .ok (.getfield 20, 3) := sorry
theorem dJ4_checkForComodification_7 : decode cJ4_checkForComodification 7 = .ok (.aload_n 0, 1) := sorry
theorem dJ4_checkForComodification_8 : decode cJ4_checkForComodification 8 = .ok (.getfield 25, 3) := sorry
theorem dJ4_checkForComodification_11 : decode cJ4_checkForComodification 11 = .ok (.if_icmp .eq 11, 3) := sorry
theorem dJ4_checkForComodification_14 : decode cJ4_checkForComodification 14 = .ok (.new 52, 3) := sorry
theorem dJ4_checkForComodification_17 : decode cJ4_checkForComodification 17 = .ok (.dup, 1) := sorry
theorem dJ4_checkForComodification_18 : decode cJ4_checkForComodification 18 = .ok (.invokespecial 54, 3) := sorry
theorem dJ4_checkForComodification_21 : decode cJ4_checkForComodification 21 = .ok (.athrow, 1) := sorry
theorem dJ4_checkForComodification_22 : decode cJ4_checkForComodification 22 = .ok (.return_, 1) := sorry
abbrev cJ4_remove : ByteArray := prog_45_method_4_code
def yJ4_remove : MethodName := ⟨RJ4, "remove", "()V"⟩
def dkwJ4_remove_3 : List UInt8 := [187, 0, 52, 89, 183, 0, 54, 191, 177]
abbrev dktJ4_remove_3 : List UInt8 := dkwJ4_remove_3 ++ []
def dkwJ4_remove_2 : List UInt8 := [100, 181, 0, 13, 42, 2, 181, 0, 17, 42, 42, 180, 0, 1, 180, 0, 20, 181, 0, 25, 167, 0, 12, 76]
abbrev dktJ4_remove_2 : List UInt8 := dkwJ4_remove_2 ++ dktJ4_remove_3
def dkwJ4_remove_1 : List UInt8 := [180, 0, 17, 182, 0, 49, 87, 42, 180, 0, 17, 42, 180, 0, 13, 162, 0, 13, 42, 89, 180, 0, 13, 4]
abbrev dktJ4_remove_1 : List UInt8 := dkwJ4_remove_1 ++ dktJ4_remove_2
def dkwJ4_remove_0 : List UInt8 := [42, 180, 0, 17, 156, 0, 11, 187, 0, 46, 89, 183, 0, 48, 191, 42, 182, 0, 32, 42, 180, 0, 1, 42]
abbrev dktJ4_remove_0 : List UInt8 := dkwJ4_remove_0 ++ dktJ4_remove_1
theorem dksJ4_remove_0 : cJ4_remove.data.toList.drop 0 = dktJ4_remove_0 := sorry
theorem dksJ4_remove_1 : cJ4_remove.data.toList.drop 24 = dktJ4_remove_1 := sorry
theorem dksJ4_remove_2 : cJ4_remove.data.toList.drop 48 = dktJ4_remove_2 := sorry
theorem dksJ4_remove_3 : cJ4_remove.data.toList.drop 72 = dktJ4_remove_3 := sorry
theorem dJ4_remove_0 : decode cJ4_remove 0 = .ok (.aload_n 0, 1) := sorry
theorem dJ4_remove_1 : decode cJ4_remove 1 = .ok (.getfield 17, 3) := sorry
theorem dJ4_remove_4 : decode cJ4_remove 4 = .ok (.ifCond .ge 11, 3) := sorry
theorem dJ4_remove_7 : decode cJ4_remove 7 = .ok (.new 46, 3) := sorry
theorem dJ4_remove_10 : decode cJ4_remove 10 = .ok (.dup, 1) := sorry
theorem dJ4_remove_11 : decode cJ4_remove 11 = .ok (.invokespecial 48, 3) := sorry
theorem dJ4_remove_14 : decode cJ4_remove 14 = .ok (.athrow, 1) := sorry
theorem dJ4_remove_15 : decode cJ4_remove 15 = .ok (.aload_n 0, 1) := sorry
theorem dJ4_remove_16 : decode cJ4_remove 16 = .ok (.invokevirtual 32, 3) := sorry
theorem dJ4_remove_19 : decode cJ4_remove 19 = .ok (.aload_n 0, 1) := sorry
theorem dJ4_remove_20 : decode cJ4_remove 20 = .ok (.getfield 1, 3) := sorry
theorem dJ4_remove_23 : decode cJ4_remove 23 = .ok (.aload_n 0, 1) := sorry
theorem dJ4_remove_24 : decode cJ4_remove 24 = .ok (.getfield 17, 3) := sorry
theorem dJ4_remove_27 : decode cJ4_remove 27 = .ok (.invokevirtual 49, 3) := sorry
theorem dJ4_remove_30 : decode cJ4_remove 30 = .ok (.pop, 1) := sorry
theorem dJ4_remove_31 : decode cJ4_remove 31 = .ok (.aload_n 0, 1) := sorry
theorem dJ4_remove_32 : decode cJ4_remove 32 = .ok (.getfield 17, 3) := sorry
theorem dJ4_remove_35 : decode cJ4_remove 35 = .ok (.aload_n 0, 1) := sorry
theorem dJ4_remove_36 : decode cJ4_remove 36 = .ok (.getfield 13, 3) := sorry
theorem dJ4_remove_39 : decode cJ4_remove 39 = .ok (.if_icmp .ge 13, 3) := sorry
theorem dJ4_remove_42 : decode cJ4_remove 42 = .ok (.aload_n 0, 1) := sorry
theorem dJ4_remove_43 : decode cJ4_remove 43 = .ok (.dup, 1) := sorry
theorem dJ4_remove_44 : decode cJ4_remove 44 = .ok (.getfield 13, 3) := sorry
theorem dJ4_remove_47 : decode cJ4_remove 47 = .ok (.iconst 1, 1) := sorry
theorem dJ4_remove_48 : decode cJ4_remove 48 = .ok (.isub, 1) := sorry
theorem dJ4_remove_49 : decode cJ4_remove 49 = .ok (.putfield 13, 3) := sorry
theorem dJ4_remove_52 : decode cJ4_remove 52 = .ok (.aload_n 0, 1) := sorry
theorem dJ4_remove_53 : decode cJ4_remove 53 = .ok (.iconst (-1), 1) := sorry
theorem dJ4_remove_54 : decode cJ4_remove 54 = .ok (.putfield 17, 3) := sorry
theorem dJ4_remove_57 : decode cJ4_remove 57 = .ok (.aload_n 0, 1) := sorry
theorem dJ4_remove_58 : decode cJ4_remove 58 = .ok (.aload_n 0, 1) := sorry
theorem dJ4_remove_59 : decode cJ4_remove 59 = .ok (.getfield 1, 3) := sorry
theorem dJ4_remove_62 : decode cJ4_remove 62 = .ok (.getfield 20, 3) := sorry
theorem dJ4_remove_65 : decode cJ4_remove 65 = .ok (.putfield 25, 3) := sorry
theorem dJ4_remove_68 : decode cJ4_remove 68 = .ok (.goto 12, 3) := sorry
theorem dJ4_remove_71 : decode cJ4_remove 71 = .ok (.astore_n 1, 1) := sorry
theorem dJ4_remove_72 : decode cJ4_remove 72 = .ok (.new 52, 3) := sorry
theorem dJ4_remove_75 : decode cJ4_remove 75 = .ok (.dup, 1) := sorry
theorem dJ4_remove_76 : decode cJ4_remove 76 = .ok (.invokespecial 54, 3) := sorry
theorem dJ4_remove_79 : decode cJ4_remove 79 = .ok (.athrow, 1) := sorry
theorem dJ4_remove_80 : decode cJ4_remove 80 = .ok (.return_, 1) := sorry
theorem q138 : (Jvm.Cond.initialized "java/util/AbstractList$Itr") ∈ lw_all := sorry
theorem q225 : (Jvm.Cond.fieldLink "java/util/AbstractList$Itr" (20 : Nat) "java/util/AbstractList" "modCount" "I") ∈ lw_all := sorry
theorem q423 : (Jvm.Cond.instanceMethod ({ cls := "java/util/AbstractList$Itr", name := "hasNext", desc := "()Z" } : Jvm.MethodName)) ∈ lw_all := sorry
theorem q424 : (Jvm.Cond.publicMethod ({ cls := "java/util/AbstractList$Itr", name := "hasNext", desc := "()Z" } : Jvm.MethodName)) ∈ lw_tbl := sorry
theorem q425 : (Jvm.Cond.code ({ cls := "java/util/AbstractList$Itr", name := "hasNext", desc := "()Z" } : Jvm.MethodName) prog_45_method_2_code (1 : Nat) (Option.some Jvm.ClassFile.FieldType.boolean)) ∈ lw_all := sorry
theorem q426 : (Jvm.Cond.methodLink "java/util/AbstractList$Itr" (28 : Nat) ({ cls := "java/util/AbstractList", name := "size", desc := "()I" } : Jvm.MethodName)) ∈ lw_all := sorry
theorem q453 : (Jvm.Cond.instanceMethod ({ cls := "java/util/AbstractList$Itr", name := "next", desc := "()Ljava/lang/Object;" } : Jvm.MethodName)) ∈ lw_all := sorry
theorem q454 : (Jvm.Cond.publicMethod ({ cls := "java/util/AbstractList$Itr", name := "next", desc := "()Ljava/lang/Object;" } : Jvm.MethodName)) ∈ lw_tbl := sorry
theorem q455 : (Jvm.Cond.codeWith ({ cls := "java/util/AbstractList$Itr", name := "next", desc := "()Ljava/lang/Object;" } : Jvm.MethodName) prog_45_method_3_code (3 : Nat) (Option.some (Jvm.ClassFile.FieldType.object "java/lang/Object")) [((4 : Nat), (31 : Nat), (32 : Nat), (39 : Nat))]) ∈ lw_all := sorry
theorem q456 : (Jvm.Cond.methodLink "java/util/AbstractList$Itr" (32 : Nat) ({ cls := "java/util/AbstractList$Itr", name := "checkForComodification", desc := "()V" } : Jvm.MethodName)) ∈ lw_all := sorry
theorem q457 : (Jvm.Cond.instanceMethod ({ cls := "java/util/AbstractList$Itr", name := "checkForComodification", desc := "()V" } : Jvm.MethodName)) ∈ lw_all := sorry
theorem q458 : (Jvm.Cond.sameMethod "java/util/AbstractList$Itr" "java/util/AbstractList$Itr" "checkForComodification" "()V") ∈ lw_all := sorry
theorem q460 : (Jvm.Cond.code ({ cls := "java/util/AbstractList$Itr", name := "checkForComodification", desc := "()V" } : Jvm.MethodName) prog_45_method_5_code (1 : Nat) (Option.none : Option Jvm.ClassFile.FieldType)) ∈ lw_all := sorry
theorem q461 : (Jvm.Cond.methodLink "java/util/AbstractList$Itr" (35 : Nat) ({ cls := "java/util/AbstractList", name := "get", desc := "(I)Ljava/lang/Object;" } : Jvm.MethodName)) ∈ lw_all := sorry
theorem q489 : (Jvm.Cond.classLink "java/util/AbstractList$Itr" (41 : Nat) "java/util/NoSuchElementException") ∈ lw_all := sorry
theorem q532 : (Jvm.Cond.methodLink "java/util/AbstractList$Itr" (43 : Nat) ({ cls := "java/util/NoSuchElementException", name := "<init>", desc := "(Ljava/lang/Throwable;)V" } : Jvm.MethodName)) ∈ lw_all := sorry
theorem q2105 : (Jvm.Cond.instanceMethod ({ cls := "java/util/AbstractList$Itr", name := "remove", desc := "()V" } : Jvm.MethodName)) ∈ lw_all := sorry
theorem q2106 : (Jvm.Cond.publicMethod ({ cls := "java/util/AbstractList$Itr", name := "remove", desc := "()V" } : Jvm.MethodName)) ∈ lw_tbl := sorry
theorem q2107 : (Jvm.Cond.codeWith ({ cls := "java/util/AbstractList$Itr", name := "remove", desc := "()V" } : Jvm.MethodName) prog_45_method_4_code (2 : Nat) (Option.none : Option Jvm.ClassFile.FieldType) [((19 : Nat), (68 : Nat), (71 : Nat), (39 : Nat))]) ∈ lw_all := sorry
theorem q2108 : (Jvm.Cond.classLink "java/util/AbstractList$Itr" (46 : Nat) "java/lang/IllegalStateException") ∈ lw_all := sorry
theorem q2117 : (Jvm.Cond.methodLink "java/util/AbstractList$Itr" (48 : Nat) ({ cls := "java/lang/IllegalStateException", name := "<init>", desc := "()V" } : Jvm.MethodName)) ∈ lw_all := sorry
theorem q2123 : (Jvm.Cond.methodLink "java/util/AbstractList$Itr" (49 : Nat) ({ cls := "java/util/AbstractList", name := "remove", desc := "(I)Ljava/lang/Object;" } : Jvm.MethodName)) ∈ lw_all := sorry
theorem q2136 : (Jvm.Cond.classLink "java/util/AbstractList$Itr" (52 : Nat) "java/util/ConcurrentModificationException") ∈ lw_all := sorry
theorem q2145 : (Jvm.Cond.methodLink "java/util/AbstractList$Itr" (54 : Nat) ({ cls := "java/util/ConcurrentModificationException", name := "<init>", desc := "()V" } : Jvm.MethodName)) ∈ lw_all := sorry
theorem q3274 : (Jvm.Cond.fieldLink "java/util/AbstractList$Itr" (1 : Nat) "java/util/AbstractList$Itr" "this$0" "Ljava/util/AbstractList;") ∈ lw_all := sorry
theorem q3275 : (Jvm.Cond.fieldLink "java/util/AbstractList$Itr" (13 : Nat) "java/util/AbstractList$Itr" "cursor" "I") ∈ lw_all := sorry
theorem q3276 : (Jvm.Cond.fieldLink "java/util/AbstractList$Itr" (17 : Nat) "java/util/AbstractList$Itr" "lastRet" "I") ∈ lw_all := sorry
theorem q3277 : (Jvm.Cond.fieldLink "java/util/AbstractList$Itr" (25 : Nat) "java/util/AbstractList$Itr" "expectedModCount" "I") ∈ lw_all := sorry
/-! java/util/ArrayList$Itr -/
set_option maxRecDepth 100000
def RJ5 : String := "java/util/ArrayList$Itr"
abbrev cJ5_init : ByteArray := prog_50_method_1_code
def yJ5_init : MethodName := ⟨RJ5, "<init>", "(Ljava/util/ArrayList;)V"⟩
def dkwJ5_init_1 : List UInt8 := [181, 0, 22, 177]
abbrev dktJ5_init_1 : List UInt8 := dkwJ5_init_1 ++ []
def dkwJ5_init_0 : List UInt8 := [42, 43, 181, 0, 1, 42, 183, 0, 7, 42, 2, 181, 0, 13, 42, 42, 180, 0, 1, 180, 0, 17]
abbrev dktJ5_init_0 : List UInt8 := dkwJ5_init_0 ++ dktJ5_init_1
theorem dksJ5_init_0 : cJ5_init.data.toList.drop 0 = dktJ5_init_0 := sorry
theorem dksJ5_init_1 : cJ5_init.data.toList.drop 22 = dktJ5_init_1 := sorry
theorem dJ5_init_0 : decode cJ5_init 0 = .ok (.aload_n 0, 1) := sorry
theorem dJ5_init_1 : decode cJ5_init 1 = .ok (.aload_n 1, 1) := sorry
theorem dJ5_init_2 : decode cJ5_init 2 = .ok (.putfield 1, 3) := sorry
theorem dJ5_init_5 : decode cJ5_init 5 = .ok (.aload_n 0, 1) := sorry
theorem dJ5_init_6 : decode cJ5_init 6 = .ok (.invokespecial 7, 3) := sorry
theorem dJ5_init_9 : decode cJ5_init 9 = .ok (.aload_n 0, 1) := sorry
theorem dJ5_init_10 : decode cJ5_init 10 = .ok (.iconst (-1), 1) := sorry
theorem dJ5_init_11 : decode cJ5_init 11 = .ok (.putfield 13, 3) := sorry
theorem dJ5_init_14 : decode cJ5_init 14 = .ok (.aload_n 0, 1) := sorry
theorem dJ5_init_15 : decode cJ5_init 15 = .ok (.aload_n 0, 1) := sorry
theorem dJ5_init_16 : decode cJ5_init 16 = .ok (.getfield 1, 3) := sorry
theorem dJ5_init_19 : decode cJ5_init 19 = .ok (.getfield 17, 3) := sorry
theorem dJ5_init_22 : decode cJ5_init 22 = .ok (.putfield 22, 3) := sorry
theorem dJ5_init_25 : decode cJ5_init 25 = .ok (.return_, 1) := sorry
abbrev cJ5_hasNext : ByteArray := prog_50_method_2_code
def yJ5_hasNext : MethodName := ⟨RJ5, "hasNext", "()Z"⟩
def dkwJ5_hasNext_0 : List UInt8 := [42, 180, 0, 25, 42, 180, 0, 1, 180, 0, 28, 159, 0, 7, 4, 167, 0, 4, 3, 172]
abbrev dktJ5_hasNext_0 : List UInt8 := dkwJ5_hasNext_0 ++ []
theorem dksJ5_hasNext_0 : cJ5_hasNext.data.toList.drop 0 = dktJ5_hasNext_0 := sorry
theorem dJ5_hasNext_0 : decode cJ5_hasNext 0 = .ok (.aload_n 0, 1) := sorry
theorem dJ5_hasNext_1 : decode cJ5_hasNext 1 = .ok (.getfield 25, 3) := sorry
theorem dJ5_hasNext_4 : decode cJ5_hasNext 4 = .ok (.aload_n 0, 1) := sorry
theorem dJ5_hasNext_5 : decode cJ5_hasNext 5 = .ok (.getfield 1, 3) := sorry
theorem dJ5_hasNext_8 : decode cJ5_hasNext 8 = .ok (.getfield 28, 3) := sorry
theorem dJ5_hasNext_11 : decode cJ5_hasNext 11 = .ok (.if_icmp .eq 7, 3) := sorry
theorem dJ5_hasNext_14 : decode cJ5_hasNext 14 = .ok (.iconst 1, 1) := sorry
theorem dJ5_hasNext_15 : decode cJ5_hasNext 15 = .ok (.goto 4, 3) := sorry
theorem dJ5_hasNext_18 : decode cJ5_hasNext 18 = .ok (.iconst 0, 1) := sorry
theorem dJ5_hasNext_19 : decode cJ5_hasNext 19 = .ok (.ireturn, 1) := sorry
abbrev cJ5_next : ByteArray := prog_50_method_3_code
def yJ5_next : MethodName := ⟨RJ5, "next", "()Ljava/lang/Object;"⟩
def dkwJ5_next_2 : List UInt8 := [183, 0, 43, 191, 42, 27, 4, 96, 181, 0, 25, 44, 42, 27, 90, 181, 0, 13, 50, 176]
abbrev dktJ5_next_2 : List UInt8 := dkwJ5_next_2 ++ []
def dkwJ5_next_1 : List UInt8 := [183, 0, 36, 191, 42, 180, 0, 1, 180, 0, 37, 77, 27, 44, 190, 161, 0, 11, 187, 0, 41, 89]
abbrev dktJ5_next_1 : List UInt8 := dkwJ5_next_1 ++ dktJ5_next_2
def dkwJ5_next_0 : List UInt8 := [42, 182, 0, 31, 42, 180, 0, 25, 60, 27, 42, 180, 0, 1, 180, 0, 28, 161, 0, 11, 187, 0, 34, 89]
abbrev dktJ5_next_0 : List UInt8 := dkwJ5_next_0 ++ dktJ5_next_1
theorem dksJ5_next_0 : cJ5_next.data.toList.drop 0 = dktJ5_next_0 := sorry
theorem dksJ5_next_1 : cJ5_next.data.toList.drop 24 = dktJ5_next_1 := sorry
theorem dksJ5_next_2 : cJ5_next.data.toList.drop 46 = dktJ5_next_2 := sorry
theorem dJ5_next_0 : decode cJ5_next 0 = .ok (.aload_n 0, 1) := sorry
theorem dJ5_next_1 : decode cJ5_next 1 = .ok (.invokevirtual 31, 3) := sorry
theorem dJ5_next_4 : decode cJ5_next 4 = .ok (.aload_n 0, 1) := sorry
theorem dJ5_next_5 : decode cJ5_next 5 = .ok (.getfield 25, 3) := sorry
theorem dJ5_next_8 : decode cJ5_next 8 = .ok (.istore_n 1, 1) := sorry
theorem dJ5_next_9 : decode cJ5_next 9 = .ok (.iload_n 1, 1) := sorry
theorem dJ5_next_10 : decode cJ5_next 10 = .ok (.aload_n 0, 1) := sorry
theorem dJ5_next_11 : decode cJ5_next 11 = .ok (.getfield 1, 3) := sorry
theorem dJ5_next_14 : decode cJ5_next 14 = .ok (.getfield 28, 3) := sorry
theorem dJ5_next_17 : decode cJ5_next 17 = .ok (.if_icmp .lt 11, 3) := sorry
theorem dJ5_next_20 : decode cJ5_next 20 = .ok (.new 34, 3) := sorry
theorem dJ5_next_23 : decode cJ5_next 23 = .ok (.dup, 1) := sorry
theorem dJ5_next_24 : decode cJ5_next 24 = .ok (.invokespecial 36, 3) := sorry
theorem dJ5_next_27 : decode cJ5_next 27 = .ok (.athrow, 1) := sorry
theorem dJ5_next_28 : decode cJ5_next 28 = .ok (.aload_n 0, 1) := sorry
theorem dJ5_next_29 : decode cJ5_next 29 = .ok (.getfield 1, 3) := sorry
theorem dJ5_next_32 : decode cJ5_next 32 = .ok (.getfield 37, 3) := sorry
theorem dJ5_next_35 : decode cJ5_next 35 = .ok (.astore_n 2, 1) := sorry
theorem dJ5_next_36 : decode cJ5_next 36 = .ok (.iload_n 1, 1) := sorry
theorem dJ5_next_37 : decode cJ5_next 37 = .ok (.aload_n 2, 1) := sorry
theorem dJ5_next_38 : decode cJ5_next 38 = .ok (.arraylength, 1) := sorry
theorem dJ5_next_39 : decode cJ5_next 39 = .ok (.if_icmp .lt 11, 3) := sorry
theorem dJ5_next_42 : decode cJ5_next 42 = .ok (.new 41, 3) := sorry
theorem dJ5_next_45 : decode cJ5_next 45 = .ok (.dup, 1) := sorry
theorem dJ5_next_46 : decode cJ5_next 46 = .ok (.invokespecial 43, 3) := sorry
theorem dJ5_next_49 : decode cJ5_next 49 = .ok (.athrow, 1) := sorry
theorem dJ5_next_50 : decode cJ5_next 50 = .ok (.aload_n 0, 1) := sorry
theorem dJ5_next_51 : decode cJ5_next 51 = .ok (.iload_n 1, 1) := sorry
theorem dJ5_next_52 : decode cJ5_next 52 = .ok (.iconst 1, 1) := sorry
theorem dJ5_next_53 : decode cJ5_next 53 = .ok (.iadd, 1) := sorry
theorem dJ5_next_54 : decode cJ5_next 54 = .ok (.putfield 25, 3) := sorry
theorem dJ5_next_57 : decode cJ5_next 57 = .ok (.aload_n 2, 1) := sorry
theorem dJ5_next_58 : decode cJ5_next 58 = .ok (.aload_n 0, 1) := sorry
theorem dJ5_next_59 : decode cJ5_next 59 = .ok (.iload_n 1, 1) := sorry
theorem dJ5_next_60 : decode cJ5_next 60 = .ok (.dup_x1, 1) := sorry
theorem dJ5_next_61 : decode cJ5_next 61 = .ok (.putfield 13, 3) := sorry
theorem dJ5_next_64 : decode cJ5_next 64 = .ok (.aaload, 1) := sorry
theorem dJ5_next_65 : decode cJ5_next 65 = .ok (.areturn, 1) := sorry
abbrev cJ5_checkForComodification : ByteArray := prog_50_method_6_code
def yJ5_checkForComodification : MethodName := ⟨RJ5, "checkForComodification", "()V"⟩
def dkwJ5_checkForComodification_0 : List UInt8 := [42, 180, 0, 1, 180, 0, 17, 42, 180, 0, 22, 159, 0, 11, 187, 0, 41, 89, 183, 0, 43, 191, 177]
abbrev dktJ5_checkForComodification_0 : List UInt8 := dkwJ5_checkForComodification_0 ++ []
theorem dksJ5_checkForComodification_0 : cJ5_checkForComodification.data.toList.drop 0 = dktJ5_checkForComodification_0 := sorry
theorem dJ5_checkForComodification_0 : decode cJ5_checkForComodification 0 = .ok (.aload_n 0, 1) := sorry
theorem dJ5_checkForComodification_1 : decode cJ5_checkForComodification 1 = .ok (.getfield 1, 3) := sorry
theorem dJ5_checkForComodification_4 : decode cJ5_checkForComodification 4 = .ok (.getfield 17, 3) := sorry
theorem dJ5_checkForComodification_7 : decode cJ5_checkForComodification 7 = .ok (.aload_n 0, 1) := sorry
theorem dJ5_checkForComodification_8 : decode cJ5_checkForComodification 8 = .ok (.getfield 22, 3) := sorry
theorem dJ5_checkForComodification_11 : decode cJ5_checkForComodification 11 = .ok (.if_icmp .eq 11, 3) := sorry
theorem dJ5_checkForComodification_14 : decode cJ5_checkForComodification 14 = .ok (.new 41, 3) := sorry
theorem dJ5_checkForComodification_17 : decode cJ5_checkForComodification 17 = .ok (.dup, 1) := sorry
theorem dJ5_checkForComodification_18 : decode cJ5_checkForComodification 18 = .ok (.invokespecial 43, 3) := sorry
theorem dJ5_checkForComodification_21 : decode cJ5_checkForComodification 21 = .ok (.athrow, 1) := sorry
theorem dJ5_checkForComodification_22 : decode cJ5_checkForComodification 22 = .ok (.return_, 1) := sorry
abbrev cJ5_remove : ByteArray := prog_50_method_4_code
def yJ5_remove : MethodName := ⟨RJ5, "remove", "()V"⟩
def dkwJ5_remove_2 : List UInt8 := [180, 0, 1, 180, 0, 17, 181, 0, 22, 167, 0, 12, 76, 187, 0, 41, 89, 183, 0, 43, 191, 177]
abbrev dktJ5_remove_2 : List UInt8 := dkwJ5_remove_2 ++ []
def dkwJ5_remove_1 : List UInt8 := [180, 0, 13, 182, 0, 47, 87, 42, 42, 180, 0, 13, 181, 0, 25, 42, 2, 181, 0, 13, 42, 42]
abbrev dktJ5_remove_1 : List UInt8 := dkwJ5_remove_1 ++ dktJ5_remove_2
def dkwJ5_remove_0 : List UInt8 := [42, 180, 0, 13, 156, 0, 11, 187, 0, 44, 89, 183, 0, 46, 191, 42, 182, 0, 31, 42, 180, 0, 1, 42]
abbrev dktJ5_remove_0 : List UInt8 := dkwJ5_remove_0 ++ dktJ5_remove_1
theorem dksJ5_remove_0 : cJ5_remove.data.toList.drop 0 = dktJ5_remove_0 := sorry
theorem dksJ5_remove_1 : cJ5_remove.data.toList.drop 24 = dktJ5_remove_1 := sorry
theorem dksJ5_remove_2 : cJ5_remove.data.toList.drop 46 = dktJ5_remove_2 := sorry
theorem dJ5_remove_0 : decode cJ5_remove 0 = .ok (.aload_n 0, 1) := sorry
theorem dJ5_remove_1 : decode cJ5_remove 1 = .ok (.getfield 13, 3) := sorry
theorem dJ5_remove_4 : decode cJ5_remove 4 = .ok (.ifCond .ge 11, 3) := sorry
theorem dJ5_remove_7 : decode cJ5_remove 7 = .ok (.new 44, 3) := sorry
theorem dJ5_remove_10 : decode cJ5_remove 10 = .ok (.dup, 1) := sorry
theorem dJ5_remove_11 : decode cJ5_remove 11 = .ok (.invokespecial 46, 3) := sorry
theorem dJ5_remove_14 : decode cJ5_remove 14 = .ok (.athrow, 1) := sorry
theorem dJ5_remove_15 : decode cJ5_remove 15 = .ok (.aload_n 0, 1) := sorry
theorem dJ5_remove_16 : decode cJ5_remove 16 = .ok (.invokevirtual 31, 3) := sorry
theorem dJ5_remove_19 : decode cJ5_remove 19 = .ok (.aload_n 0, 1) := sorry
theorem dJ5_remove_20 : decode cJ5_remove 20 = .ok (.getfield 1, 3) := sorry
theorem dJ5_remove_23 : decode cJ5_remove 23 = .ok (.aload_n 0, 1) := sorry
theorem dJ5_remove_24 : decode cJ5_remove 24 = .ok (.getfield 13, 3) := sorry
theorem dJ5_remove_27 : decode cJ5_remove 27 = .ok (.invokevirtual 47, 3) := sorry
theorem dJ5_remove_30 : decode cJ5_remove 30 = .ok (.pop, 1) := sorry
theorem dJ5_remove_31 : decode cJ5_remove 31 = .ok (.aload_n 0, 1) := sorry
theorem dJ5_remove_32 : decode cJ5_remove 32 = .ok (.aload_n 0, 1) := sorry
theorem dJ5_remove_33 : decode cJ5_remove 33 = .ok (.getfield 13, 3) := sorry
theorem dJ5_remove_36 : decode cJ5_remove 36 = .ok (.putfield 25, 3) := sorry
theorem dJ5_remove_39 : decode cJ5_remove 39 = .ok (.aload_n 0, 1) := sorry
theorem dJ5_remove_40 : decode cJ5_remove 40 = .ok (.iconst (-1), 1) := sorry
theorem dJ5_remove_41 : decode cJ5_remove 41 = .ok (.putfield 13, 3) := sorry
theorem dJ5_remove_44 : decode cJ5_remove 44 = .ok (.aload_n 0, 1) := sorry
theorem dJ5_remove_45 : decode cJ5_remove 45 = .ok (.aload_n 0, 1) := sorry
theorem dJ5_remove_46 : decode cJ5_remove 46 = .ok (.getfield 1, 3) := sorry
theorem dJ5_remove_49 : decode cJ5_remove 49 = .ok (.getfield 17, 3) := sorry
theorem dJ5_remove_52 : decode cJ5_remove 52 = .ok (.putfield 22, 3) := sorry
theorem dJ5_remove_55 : decode cJ5_remove 55 = .ok (.goto 12, 3) := sorry
theorem dJ5_remove_58 : decode cJ5_remove 58 = .ok (.astore_n 1, 1) := sorry
theorem dJ5_remove_59 : decode cJ5_remove 59 = .ok (.new 41, 3) := sorry
theorem dJ5_remove_62 : decode cJ5_remove 62 = .ok (.dup, 1) := sorry
theorem dJ5_remove_63 : decode cJ5_remove 63 = .ok (.invokespecial 43, 3) := sorry
theorem dJ5_remove_66 : decode cJ5_remove 66 = .ok (.athrow, 1) := sorry
theorem dJ5_remove_67 : decode cJ5_remove 67 = .ok (.return_, 1) := sorry
theorem q140 : (Jvm.Cond.initialized "java/util/ArrayList$Itr") ∈ lw_all := sorry
theorem q223 : (Jvm.Cond.fieldLink "java/util/ArrayList$Itr" (17 : Nat) "java/util/ArrayList" "modCount" "I") ∈ lw_all := sorry
theorem q357 : (Jvm.Cond.instanceMethod ({ cls := "java/util/ArrayList$Itr", name := "<init>", desc := "(Ljava/util/ArrayList;)V" } : Jvm.MethodName)) ∈ lw_all := sorry
theorem q358 : (Jvm.Cond.code ({ cls := "java/util/ArrayList$Itr", name := "<init>", desc := "(Ljava/util/ArrayList;)V" } : Jvm.MethodName) prog_50_method_1_code (2 : Nat) (Option.none : Option Jvm.ClassFile.FieldType)) ∈ lw_all := sorry
theorem q359 : (Jvm.Cond.methodLink "java/util/ArrayList$Itr" (7 : Nat) ({ cls := "java/lang/Object", name := "<init>", desc := "()V" } : Jvm.MethodName)) ∈ lw_all := sorry
theorem q363 : (Jvm.Cond.fieldLink "java/util/ArrayList$Itr" (25 : Nat) "java/util/ArrayList$Itr" "cursor" "I") ∈ lw_all := sorry
theorem q364 : (Jvm.Cond.fieldLink "java/util/ArrayList$Itr" (13 : Nat) "java/util/ArrayList$Itr" "lastRet" "I") ∈ lw_all := sorry
theorem q365 : (Jvm.Cond.fieldLink "java/util/ArrayList$Itr" (22 : Nat) "java/util/ArrayList$Itr" "expectedModCount" "I") ∈ lw_all := sorry
theorem q366 : (Jvm.Cond.fieldLink "java/util/ArrayList$Itr" (1 : Nat) "java/util/ArrayList$Itr" "this$0" "Ljava/util/ArrayList;") ∈ lw_all := sorry
theorem q370 : (Jvm.Cond.soleField "java/util/ArrayList$Itr" "cursor") ∈ lw_all := sorry
theorem q372 : (Jvm.Cond.soleField "java/util/ArrayList$Itr" "lastRet") ∈ lw_all := sorry
theorem q374 : (Jvm.Cond.soleField "java/util/ArrayList$Itr" "expectedModCount") ∈ lw_all := sorry
theorem q376 : (Jvm.Cond.soleField "java/util/ArrayList$Itr" "this$0") ∈ lw_all := sorry
theorem q438 : (Jvm.Cond.instanceMethod ({ cls := "java/util/ArrayList$Itr", name := "hasNext", desc := "()Z" } : Jvm.MethodName)) ∈ lw_all := sorry
theorem q439 : (Jvm.Cond.publicMethod ({ cls := "java/util/ArrayList$Itr", name := "hasNext", desc := "()Z" } : Jvm.MethodName)) ∈ lw_tbl := sorry
theorem q440 : (Jvm.Cond.code ({ cls := "java/util/ArrayList$Itr", name := "hasNext", desc := "()Z" } : Jvm.MethodName) prog_50_method_2_code (1 : Nat) (Option.some Jvm.ClassFile.FieldType.boolean)) ∈ lw_all := sorry
theorem q890 : (Jvm.Cond.instanceMethod ({ cls := "java/util/ArrayList$Itr", name := "next", desc := "()Ljava/lang/Object;" } : Jvm.MethodName)) ∈ lw_all := sorry
theorem q891 : (Jvm.Cond.publicMethod ({ cls := "java/util/ArrayList$Itr", name := "next", desc := "()Ljava/lang/Object;" } : Jvm.MethodName)) ∈ lw_tbl := sorry
theorem q892 : (Jvm.Cond.code ({ cls := "java/util/ArrayList$Itr", name := "next", desc := "()Ljava/lang/Object;" } : Jvm.MethodName) prog_50_method_3_code (3 : Nat) (Option.some (Jvm.ClassFile.FieldType.object "java/lang/Object"))) ∈ lw_all := sorry
theorem q893 : (Jvm.Cond.methodLink "java/util/ArrayList$Itr" (31 : Nat) ({ cls := "java/util/ArrayList$Itr", name := "checkForComodification", desc := "()V" } : Jvm.MethodName)) ∈ lw_all := sorry
theorem q894 : (Jvm.Cond.instanceMethod ({ cls := "java/util/ArrayList$Itr", name := "checkForComodification", desc := "()V" } : Jvm.MethodName)) ∈ lw_all := sorry
theorem q895 : (Jvm.Cond.sameMethod "java/util/ArrayList$Itr" "java/util/ArrayList$Itr" "checkForComodification" "()V") ∈ lw_all := sorry
theorem q897 : (Jvm.Cond.code ({ cls := "java/util/ArrayList$Itr", name := "checkForComodification", desc := "()V" } : Jvm.MethodName) prog_50_method_6_code (1 : Nat) (Option.none : Option Jvm.ClassFile.FieldType)) ∈ lw_all := sorry
theorem q898 : (Jvm.Cond.classLink "java/util/ArrayList$Itr" (34 : Nat) "java/util/NoSuchElementException") ∈ lw_all := sorry
theorem q899 : (Jvm.Cond.methodLink "java/util/ArrayList$Itr" (36 : Nat) ({ cls := "java/util/NoSuchElementException", name := "<init>", desc := "()V" } : Jvm.MethodName)) ∈ lw_all := sorry
theorem q969 : (Jvm.Cond.fieldLink "java/util/ArrayList$Itr" (37 : Nat) "java/util/ArrayList" "elementData" "[Ljava/lang/Object;") ∈ lw_all := lw_g (lw_at lw_m4 120 rfl) rfl
theorem q970 : (Jvm.Cond.fieldLinkNest "java/util/ArrayList$Itr" (28 : Nat) "java/util/ArrayList" "size" "I" "java/util/ArrayList") ∈ lw_tbl := sorry
theorem q2153 : (Jvm.Cond.instanceMethod ({ cls := "java/util/ArrayList$Itr", name := "remove", desc := "()V" } : Jvm.MethodName)) ∈ lw_all := sorry
theorem q2154 : (Jvm.Cond.publicMethod ({ cls := "java/util/ArrayList$Itr", name := "remove", desc := "()V" } : Jvm.MethodName)) ∈ lw_tbl := sorry
theorem q2155 : (Jvm.Cond.codeWith ({ cls := "java/util/ArrayList$Itr", name := "remove", desc := "()V" } : Jvm.MethodName) prog_50_method_4_code (2 : Nat) (Option.none : Option Jvm.ClassFile.FieldType) [((19 : Nat), (55 : Nat), (58 : Nat), (51 : Nat))]) ∈ lw_all := sorry
theorem q2156 : (Jvm.Cond.classLink "java/util/ArrayList$Itr" (44 : Nat) "java/lang/IllegalStateException") ∈ lw_all := sorry
theorem q2157 : (Jvm.Cond.methodLink "java/util/ArrayList$Itr" (46 : Nat) ({ cls := "java/lang/IllegalStateException", name := "<init>", desc := "()V" } : Jvm.MethodName)) ∈ lw_all := sorry
theorem q2158 : (Jvm.Cond.methodLink "java/util/ArrayList$Itr" (47 : Nat) ({ cls := "java/util/ArrayList", name := "remove", desc := "(I)Ljava/lang/Object;" } : Jvm.MethodName)) ∈ lw_all := sorry
theorem q2159 : (Jvm.Cond.classLink "java/util/ArrayList$Itr" (41 : Nat) "java/util/ConcurrentModificationException") ∈ lw_all := sorry
theorem q2160 : (Jvm.Cond.methodLink "java/util/ArrayList$Itr" (43 : Nat) ({ cls := "java/util/ConcurrentModificationException", name := "<init>", desc := "()V" } : Jvm.MethodName)) ∈ lw_all := sorry
/-! java/util/ArrayList$ListItr -/
set_option maxRecDepth 100000
def RJ6 : String := "java/util/ArrayList$ListItr"
def TJ6 : u_T := fun k => match k with
  | 0 => ("java/util/ArrayList$Itr", "cursor", "I", false)
  | 1 => ("java/util/ArrayList$Itr", "lastRet", "I", false)
  | 2 => ("java/util/ArrayList$Itr", "expectedModCount", "I", false)
  | 3 => ("java/util/ArrayList$Itr", "this$0", "Ljava/util/ArrayList;", true)
  | _ => ("java/util/ArrayList$ListItr", "this$0", "Ljava/util/ArrayList;", true)
def tyJ6 : Nat → FieldType := fun k => match k with
  | 0 => .int
  | 1 => .int
  | 2 => .int
  | 3 => .object "java/util/ArrayList"
  | _ => .object "java/util/ArrayList"
abbrev wsJ60 : List Cond := u_ws RJ6 TJ6 5
-- two fields of one name: no nmJ6
theorem tyJ6_ok : ∀ k, k < 5 → parseFieldDescriptor (TJ6 k).2.2.1 = some (tyJ6 k) := sorry
abbrev cJ6_init : ByteArray := prog_51_method_1_code
def yJ6_init : MethodName := ⟨RJ6, "<init>", "(Ljava/util/ArrayList;I)V"⟩
def dkwJ6_init_0 : List UInt8 := [42, 43, 181, 0, 1, 42, 43, 183, 0, 7, 42, 28, 181, 0, 13, 177]
abbrev dktJ6_init_0 : List UInt8 := dkwJ6_init_0 ++ []
theorem dksJ6_init_0 : cJ6_init.data.toList.drop 0 = dktJ6_init_0 := sorry
theorem dJ6_init_0 : decode cJ6_init 0 = .ok (.aload_n 0, 1) := sorry
theorem dJ6_init_1 : decode cJ6_init 1 = .ok (.aload_n 1, 1) := sorry
theorem dJ6_init_2 : decode cJ6_init 2 = .ok (.putfield 1, 3) := sorry
theorem dJ6_init_5 : decode cJ6_init 5 = .ok (.aload_n 0, 1) := sorry
theorem dJ6_init_6 : decode cJ6_init 6 = .ok (.aload_n 1, 1) := sorry
theorem dJ6_init_7 : decode cJ6_init 7 = .ok (.invokespecial 7, 3) := sorry
theorem dJ6_init_10 : decode cJ6_init 10 = .ok (.aload_n 0, 1) := sorry
theorem dJ6_init_11 : decode cJ6_init 11 = .ok (.iload_n 2, 1) := sorry
theorem dJ6_init_12 : decode cJ6_init 12 = .ok (.putfield 13, 3) := sorry
theorem dJ6_init_15 : decode cJ6_init 15 = .ok (.return_, 1) := sorry
theorem q141 : (Jvm.Cond.initialized "java/util/ArrayList$ListItr") ∈ lw_all := sorry
theorem q352 : (Jvm.Cond.instantiable "java/util/ArrayList$ListItr" (5 : Nat)) ∈ lw_all := sorry
theorem q354 : (Jvm.Cond.instanceMethod ({ cls := "java/util/ArrayList$ListItr", name := "<init>", desc := "(Ljava/util/ArrayList;I)V" } : Jvm.MethodName)) ∈ lw_all := sorry
theorem q355 : (Jvm.Cond.code ({ cls := "java/util/ArrayList$ListItr", name := "<init>", desc := "(Ljava/util/ArrayList;I)V" } : Jvm.MethodName) prog_51_method_1_code (3 : Nat) (Option.none : Option Jvm.ClassFile.FieldType)) ∈ lw_all := sorry
theorem q356 : (Jvm.Cond.methodLink "java/util/ArrayList$ListItr" (7 : Nat) ({ cls := "java/util/ArrayList$Itr", name := "<init>", desc := "(Ljava/util/ArrayList;)V" } : Jvm.MethodName)) ∈ lw_all := sorry
theorem q360 : (Jvm.Cond.fieldLink "java/util/ArrayList$ListItr" (1 : Nat) "java/util/ArrayList$ListItr" "this$0" "Ljava/util/ArrayList;") ∈ lw_all := sorry
theorem q361 : (Jvm.Cond.fieldLink "java/util/ArrayList$ListItr" (13 : Nat) "java/util/ArrayList$ListItr" "cursor" "I") ∈ lw_all := sorry
theorem q362 : (Jvm.Cond.sameField "java/util/ArrayList$ListItr" "java/util/ArrayList$Itr" "cursor" "I") ∈ lw_all := sorry
theorem q367 : (Jvm.Cond.laysFinal "java/util/ArrayList$ListItr" "java/util/ArrayList$ListItr" "this$0" "Ljava/util/ArrayList;") ∈ lw_all := sorry
theorem q368 : (Jvm.Cond.soleField "java/util/ArrayList$ListItr" "this$0") ∈ lw_all := sorry
theorem q369 : (Jvm.Cond.lays "java/util/ArrayList$ListItr" "java/util/ArrayList$Itr" "cursor" "I") ∈ lw_all := sorry
theorem q371 : (Jvm.Cond.lays "java/util/ArrayList$ListItr" "java/util/ArrayList$Itr" "lastRet" "I") ∈ lw_all := sorry
theorem q373 : (Jvm.Cond.lays "java/util/ArrayList$ListItr" "java/util/ArrayList$Itr" "expectedModCount" "I") ∈ lw_all := sorry
theorem q375 : (Jvm.Cond.laysFinal "java/util/ArrayList$ListItr" "java/util/ArrayList$Itr" "this$0" "Ljava/util/ArrayList;") ∈ lw_all := sorry
theorem q377 : (Jvm.Cond.superclass "java/util/ArrayList$ListItr" "java/util/ArrayList$Itr") ∈ lw_all := sorry
theorem q435 : (Jvm.Cond.castable "java/util/ArrayList$ListItr" "java/util/Iterator") ∈ lw_tbl := sorry
theorem q436 : (Jvm.Cond.selects "java/util/ArrayList$ListItr" ({ cls := "java/util/Iterator", name := "hasNext", desc := "()Z" } : Jvm.MethodName) ({ cls := "java/util/ArrayList$Itr", name := "hasNext", desc := "()Z" } : Jvm.MethodName)) ∈ lw_all := sorry
theorem q437 : (Jvm.Cond.unhidden "java/util/ArrayList$ListItr" "hasNext" "()Z") ∈ lw_tbl := sorry
theorem q578 : (Jvm.Cond.selects "java/util/ArrayList$ListItr" ({ cls := "java/lang/Object", name := "getClass", desc := "()Ljava/lang/Class;" } : Jvm.MethodName) ({ cls := "java/lang/Object", name := "getClass", desc := "()Ljava/lang/Class;" } : Jvm.MethodName)) ∈ lw_all := sorry
theorem q888 : (Jvm.Cond.selects "java/util/ArrayList$ListItr" ({ cls := "java/util/Iterator", name := "next", desc := "()Ljava/lang/Object;" } : Jvm.MethodName) ({ cls := "java/util/ArrayList$Itr", name := "next", desc := "()Ljava/lang/Object;" } : Jvm.MethodName)) ∈ lw_all := sorry
theorem q889 : (Jvm.Cond.unhidden "java/util/ArrayList$ListItr" "next" "()Ljava/lang/Object;") ∈ lw_tbl := sorry
theorem q896 : (Jvm.Cond.selects "java/util/ArrayList$ListItr" ({ cls := "java/util/ArrayList$Itr", name := "checkForComodification", desc := "()V" } : Jvm.MethodName) ({ cls := "java/util/ArrayList$Itr", name := "checkForComodification", desc := "()V" } : Jvm.MethodName)) ∈ lw_all := sorry
theorem q2151 : (Jvm.Cond.selects "java/util/ArrayList$ListItr" ({ cls := "java/util/Iterator", name := "remove", desc := "()V" } : Jvm.MethodName) ({ cls := "java/util/ArrayList$Itr", name := "remove", desc := "()V" } : Jvm.MethodName)) ∈ lw_all := sorry
theorem q2152 : (Jvm.Cond.unhidden "java/util/ArrayList$ListItr" "remove" "()V") ∈ lw_tbl := sorry
theorem q3251 : (Jvm.Cond.castable "java/util/ArrayList$ListItr" "java/lang/Object") ∈ lw_tbl := sorry
theorem in_J6 : ∀ w ∈ wsJ60, w ∈ lw_all := sorry
/-! java/util/LinkedList$ListItr -/
set_option maxRecDepth 100000
def RJ7 : String := "java/util/LinkedList$ListItr"
def TJ7 : u_T := fun k => match k with
  | 0 => ("java/util/LinkedList$ListItr", "lastReturned", "Ljava/util/LinkedList$Node;", false)
  | 1 => ("java/util/LinkedList$ListItr", "next", "Ljava/util/LinkedList$Node;", false)
  | 2 => ("java/util/LinkedList$ListItr", "nextIndex", "I", false)
  | 3 => ("java/util/LinkedList$ListItr", "expectedModCount", "I", false)
  | _ => ("java/util/LinkedList$ListItr", "this$0", "Ljava/util/LinkedList;", true)
def tyJ7 : Nat → FieldType := fun k => match k with
  | 0 => .object "java/util/LinkedList$Node"
  | 1 => .object "java/util/LinkedList$Node"
  | 2 => .int
  | 3 => .int
  | _ => .object "java/util/LinkedList"
abbrev wsJ70 : List Cond := u_ws RJ7 TJ7 5
theorem nmJ7 : ∀ a, a < 5 → ∀ b, b < 5 → a ≠ b → (TJ7 a).2.1 ≠ (TJ7 b).2.1 := sorry
theorem tyJ7_ok : ∀ k, k < 5 → parseFieldDescriptor (TJ7 k).2.2.1 = some (tyJ7 k) := sorry
abbrev cJ7_init : ByteArray := prog_65_method_1_code
def yJ7_init : MethodName := ⟨RJ7, "<init>", "(Ljava/util/LinkedList;I)V"⟩
def dkwJ7_init_1 : List UInt8 := [180, 0, 22, 160, 0, 7, 1, 167, 0, 8, 43, 28, 182, 0, 25, 181, 0, 29, 42, 28, 181, 0, 33, 177]
abbrev dktJ7_init_1 : List UInt8 := dkwJ7_init_1 ++ []
def dkwJ7_init_0 : List UInt8 := [42, 43, 181, 0, 1, 42, 183, 0, 7, 42, 42, 180, 0, 1, 180, 0, 13, 181, 0, 19, 42, 28, 43]
abbrev dktJ7_init_0 : List UInt8 := dkwJ7_init_0 ++ dktJ7_init_1
theorem dksJ7_init_0 : cJ7_init.data.toList.drop 0 = dktJ7_init_0 := sorry
theorem dksJ7_init_1 : cJ7_init.data.toList.drop 23 = dktJ7_init_1 := sorry
theorem dJ7_init_0 : decode cJ7_init 0 = .ok (.aload_n 0, 1) := sorry
theorem dJ7_init_1 : decode cJ7_init 1 = .ok (.aload_n 1, 1) := sorry
theorem dJ7_init_2 : decode cJ7_init 2 = .ok (.putfield 1, 3) := sorry
theorem dJ7_init_5 : decode cJ7_init 5 = .ok (.aload_n 0, 1) := sorry
theorem dJ7_init_6 : decode cJ7_init 6 = .ok (.invokespecial 7, 3) := sorry
theorem dJ7_init_9 : decode cJ7_init 9 = .ok (.aload_n 0, 1) := sorry
theorem dJ7_init_10 : decode cJ7_init 10 = .ok (.aload_n 0, 1) := sorry
theorem dJ7_init_11 : decode cJ7_init 11 = .ok (.getfield 1, 3) := sorry
theorem dJ7_init_14 : decode cJ7_init 14 = .ok (.getfield 13, 3) := sorry
theorem dJ7_init_17 : decode cJ7_init 17 = .ok (.putfield 19, 3) := sorry
theorem dJ7_init_20 : decode cJ7_init 20 = .ok (.aload_n 0, 1) := sorry
theorem dJ7_init_21 : decode cJ7_init 21 = .ok (.iload_n 2, 1) := sorry
theorem dJ7_init_22 : decode cJ7_init 22 = .ok (.aload_n 1, 1) := sorry
theorem dJ7_init_23 : decode cJ7_init 23 = .ok (.getfield 22, 3) := sorry
theorem dJ7_init_26 : decode cJ7_init 26 = .ok (.if_icmp .ne 7, 3) := sorry
theorem dJ7_init_29 : decode cJ7_init 29 = .ok (.aconst_null, 1) := sorry
theorem dJ7_init_30 : decode cJ7_init 30 = .ok (.goto 8, 3) := sorry
theorem dJ7_init_33 : decode cJ7_init 33 = .ok (.aload_n 1, 1) := sorry
theorem dJ7_init_34 : decode cJ7_init 34 = .ok (.iload_n 2, 1) := sorry
theorem dJ7_init_35 : decode cJ7_init 35 = .ok (.invokevirtual 25, 3) := sorry
theorem dJ7_init_38 : decode cJ7_init 38 = .ok (.putfield 29, 3) := sorry
theorem dJ7_init_41 : decode cJ7_init 41 = .ok (.aload_n 0, 1) := sorry
theorem dJ7_init_42 : decode cJ7_init 42 = .ok (.iload_n 2, 1) := sorry
theorem dJ7_init_43 : decode cJ7_init 43 = .ok (.putfield 33, 3) := sorry
theorem dJ7_init_46 : decode cJ7_init 46 = .ok (.return_, 1) := sorry
abbrev cJ7_hasNext : ByteArray := prog_65_method_2_code
def yJ7_hasNext : MethodName := ⟨RJ7, "hasNext", "()Z"⟩
def dkwJ7_hasNext_0 : List UInt8 := [42, 180, 0, 33, 42, 180, 0, 1, 180, 0, 22, 162, 0, 7, 4, 167, 0, 4, 3, 172]
abbrev dktJ7_hasNext_0 : List UInt8 := dkwJ7_hasNext_0 ++ []
theorem dksJ7_hasNext_0 : cJ7_hasNext.data.toList.drop 0 = dktJ7_hasNext_0 := sorry
theorem dJ7_hasNext_0 : decode cJ7_hasNext 0 = .ok (.aload_n 0, 1) := sorry
theorem dJ7_hasNext_1 : decode cJ7_hasNext 1 = .ok (.getfield 33, 3) := sorry
theorem dJ7_hasNext_4 : decode cJ7_hasNext 4 = .ok (.aload_n 0, 1) := sorry
theorem dJ7_hasNext_5 : decode cJ7_hasNext 5 = .ok (.getfield 1, 3) := sorry
theorem dJ7_hasNext_8 : decode cJ7_hasNext 8 = .ok (.getfield 22, 3) := sorry
theorem dJ7_hasNext_11 : decode cJ7_hasNext 11 = .ok (.if_icmp .ge 7, 3) := sorry
theorem dJ7_hasNext_14 : decode cJ7_hasNext 14 = .ok (.iconst 1, 1) := sorry
theorem dJ7_hasNext_15 : decode cJ7_hasNext 15 = .ok (.goto 4, 3) := sorry
theorem dJ7_hasNext_18 : decode cJ7_hasNext 18 = .ok (.iconst 0, 1) := sorry
theorem dJ7_hasNext_19 : decode cJ7_hasNext 19 = .ok (.ireturn, 1) := sorry
abbrev cJ7_next : ByteArray := prog_65_method_3_code
def yJ7_next : MethodName := ⟨RJ7, "next", "()Ljava/lang/Object;"⟩
def dkwJ7_next_2 : List UInt8 := [42, 180, 0, 46, 180, 0, 52, 176]
abbrev dktJ7_next_2 : List UInt8 := dkwJ7_next_2 ++ []
def dkwJ7_next_1 : List UInt8 := [181, 0, 46, 42, 42, 180, 0, 29, 180, 0, 49, 181, 0, 29, 42, 89, 180, 0, 33, 4, 96, 181, 0, 33]
abbrev dktJ7_next_1 : List UInt8 := dkwJ7_next_1 ++ dktJ7_next_2
def dkwJ7_next_0 : List UInt8 := [42, 182, 0, 36, 42, 182, 0, 39, 154, 0, 11, 187, 0, 43, 89, 183, 0, 45, 191, 42, 42, 180, 0, 29]
abbrev dktJ7_next_0 : List UInt8 := dkwJ7_next_0 ++ dktJ7_next_1
theorem dksJ7_next_0 : cJ7_next.data.toList.drop 0 = dktJ7_next_0 := sorry
theorem dksJ7_next_1 : cJ7_next.data.toList.drop 24 = dktJ7_next_1 := sorry
theorem dksJ7_next_2 : cJ7_next.data.toList.drop 48 = dktJ7_next_2 := sorry
theorem dJ7_next_0 : decode cJ7_next 0 = .ok (.aload_n 0, 1) := sorry
theorem dJ7_next_1 : decode cJ7_next 1 = .ok (.invokevirtual 36, 3) := sorry
theorem dJ7_next_4 : decode cJ7_next 4 = .ok (.aload_n 0, 1) := sorry
theorem dJ7_next_5 : decode cJ7_next 5 = .ok (.invokevirtual 39, 3) := sorry
theorem dJ7_next_8 : decode cJ7_next 8 = .ok (.ifCond .ne 11, 3) := sorry
theorem dJ7_next_11 : decode cJ7_next 11 = .ok (.new 43, 3) := sorry
theorem dJ7_next_14 : decode cJ7_next 14 = .ok (.dup, 1) := sorry
theorem dJ7_next_15 : decode cJ7_next 15 = .ok (.invokespecial 45, 3) := sorry
theorem dJ7_next_18 : decode cJ7_next 18 = .ok (.athrow, 1) := sorry
theorem dJ7_next_19 : decode cJ7_next 19 = .ok (.aload_n 0, 1) := sorry
theorem dJ7_next_20 : decode cJ7_next 20 = .ok (.aload_n 0, 1) := sorry
theorem dJ7_next_21 : decode cJ7_next 21 = .ok (.getfield 29, 3) := sorry
theorem dJ7_next_24 : decode cJ7_next 24 = .ok (.putfield 46, 3) := sorry
theorem dJ7_next_27 : decode cJ7_next 27 = .ok (.aload_n 0, 1) := sorry
theorem dJ7_next_28 : decode cJ7_next 28 = .ok (.aload_n 0, 1) := sorry
theorem dJ7_next_29 : decode cJ7_next 29 = .ok (.getfield 29, 3) := sorry
theorem dJ7_next_32 : decode cJ7_next 32 = .ok (.getfield 49, 3) := sorry
theorem dJ7_next_35 : decode cJ7_next 35 = .ok (.putfield 29, 3) := sorry
theorem dJ7_next_38 : decode cJ7_next 38 = .ok (.aload_n 0, 1) := sorry
theorem dJ7_next_39 : decode cJ7_next 39 = .ok (.dup, 1) := sorry
theorem dJ7_next_40 : decode cJ7_next 40 = .ok (.getfield 33, 3) := sorry
theorem dJ7_next_43 : decode cJ7_next 43 = .ok (.iconst 1, 1) := sorry
theorem dJ7_next_44 : decode cJ7_next 44 = .ok (.iadd, 1) := sorry
theorem dJ7_next_45 : decode cJ7_next 45 = .ok (.putfield 33, 3) := sorry
theorem dJ7_next_48 : decode cJ7_next 48 = .ok (.aload_n 0, 1) := sorry
theorem dJ7_next_49 : decode cJ7_next 49 = .ok (.getfield 46, 3) := sorry
theorem dJ7_next_52 : decode cJ7_next 52 = .ok (.getfield 52, 3) := sorry
theorem dJ7_next_55 : decode cJ7_next 55 = .ok (.areturn, 1) := sorry
abbrev cJ7_checkForComodification : ByteArray := prog_65_method_12_code
def yJ7_checkForComodification : MethodName := ⟨RJ7, "checkForComodification", "()V"⟩
def dkwJ7_checkForComodification_0 : List UInt8 := [42, 180, 0, 1, 180, 0, 13, 42, 180, 0, 19, 159, 0, 11, 187, 0, 91, 89, 183, 0, 93, 191, 177]
abbrev dktJ7_checkForComodification_0 : List UInt8 := dkwJ7_checkForComodification_0 ++ []
theorem dksJ7_checkForComodification_0 : cJ7_checkForComodification.data.toList.drop 0 = dktJ7_checkForComodification_0 := sorry
theorem dJ7_checkForComodification_0 : decode cJ7_checkForComodification 0 = .ok (.aload_n 0, 1) := sorry
theorem dJ7_checkForComodification_1 : decode cJ7_checkForComodification 1 = .ok (.getfield 1, 3) := sorry
theorem dJ7_checkForComodification_4 : decode cJ7_checkForComodification 4 = .ok (.getfield 13, 3) := sorry
theorem dJ7_checkForComodification_7 : decode cJ7_checkForComodification 7 = .ok (.aload_n 0, 1) := sorry
theorem dJ7_checkForComodification_8 : decode cJ7_checkForComodification 8 = .ok (.getfield 19, 3) := sorry
theorem dJ7_checkForComodification_11 : decode cJ7_checkForComodification 11 = .ok (.if_icmp .eq 11, 3) := sorry
theorem dJ7_checkForComodification_14 : decode cJ7_checkForComodification 14 = .ok (.new 91, 3) := sorry
theorem dJ7_checkForComodification_17 : decode cJ7_checkForComodification 17 = .ok (.dup, 1) := sorry
theorem dJ7_checkForComodification_18 : decode cJ7_checkForComodification 18 = .ok (.invokespecial 93, 3) := sorry
theorem dJ7_checkForComodification_21 : decode cJ7_checkForComodification 21 = .ok (.athrow, 1) := sorry
theorem dJ7_checkForComodification_22 : decode cJ7_checkForComodification 22 = .ok (.return_, 1) := sorry
abbrev cJ7_remove : ByteArray := prog_65_method_8_code
def yJ7_remove : MethodName := ⟨RJ7, "remove", "()V"⟩
def dkwJ7_remove_3 : List UInt8 := [181, 0, 46, 42, 89, 180, 0, 19, 4, 96, 181, 0, 19, 177]
abbrev dktJ7_remove_3 : List UInt8 := dkwJ7_remove_3 ++ []
def dkwJ7_remove_2 : List UInt8 := [166, 0, 11, 42, 43, 181, 0, 29, 167, 0, 13, 42, 89, 180, 0, 33, 4, 100, 181, 0, 33, 42, 1]
abbrev dktJ7_remove_2 : List UInt8 := dkwJ7_remove_2 ++ dktJ7_remove_3
def dkwJ7_remove_1 : List UInt8 := [180, 0, 49, 76, 42, 180, 0, 1, 42, 180, 0, 46, 182, 0, 68, 87, 42, 180, 0, 29, 42, 180, 0, 46]
abbrev dktJ7_remove_1 : List UInt8 := dkwJ7_remove_1 ++ dktJ7_remove_2
def dkwJ7_remove_0 : List UInt8 := [42, 182, 0, 36, 42, 180, 0, 46, 199, 0, 11, 187, 0, 65, 89, 183, 0, 67, 191, 42, 180, 0, 46]
abbrev dktJ7_remove_0 : List UInt8 := dkwJ7_remove_0 ++ dktJ7_remove_1
theorem dksJ7_remove_0 : cJ7_remove.data.toList.drop 0 = dktJ7_remove_0 := sorry
theorem dksJ7_remove_1 : cJ7_remove.data.toList.drop 23 = dktJ7_remove_1 := sorry
theorem dksJ7_remove_2 : cJ7_remove.data.toList.drop 47 = dktJ7_remove_2 := sorry
theorem dksJ7_remove_3 : cJ7_remove.data.toList.drop 70 = dktJ7_remove_3 := sorry
theorem dJ7_remove_0 : decode cJ7_remove 0 = .ok (.aload_n 0, 1) := sorry
theorem dJ7_remove_1 : decode cJ7_remove 1 = .ok (.invokevirtual 36, 3) := sorry
theorem dJ7_remove_4 : decode cJ7_remove 4 = .ok (.aload_n 0, 1) := sorry
theorem dJ7_remove_5 : decode cJ7_remove 5 = .ok (.getfield 46, 3) := sorry
theorem dJ7_remove_8 : decode cJ7_remove 8 = .ok (.ifnonnull 11, 3) := sorry
theorem dJ7_remove_11 : decode cJ7_remove 11 = .ok (.new 65, 3) := sorry
theorem dJ7_remove_14 : decode cJ7_remove 14 = .ok (.dup, 1) := sorry
theorem dJ7_remove_15 : decode cJ7_remove 15 = .ok (.invokespecial 67, 3) := sorry
theorem dJ7_remove_18 : decode cJ7_remove 18 = .ok (.athrow, 1) := sorry
theorem dJ7_remove_19 : decode cJ7_remove 19 = .ok (.aload_n 0, 1) := sorry
theorem dJ7_remove_20 : decode cJ7_remove 20 = .ok (.getfield 46, 3) := sorry
theorem dJ7_remove_23 : decode cJ7_remove 23 = .ok (.getfield 49, 3) := sorry
theorem dJ7_remove_26 : decode cJ7_remove 26 = .ok (.astore_n 1, 1) := sorry
theorem dJ7_remove_27 : decode cJ7_remove 27 = .ok (.aload_n 0, 1) := sorry
theorem dJ7_remove_28 : decode cJ7_remove 28 = .ok (.getfield 1, 3) := sorry
theorem dJ7_remove_31 : decode cJ7_remove 31 = .ok (.aload_n 0, 1) := sorry
theorem dJ7_remove_32 : decode cJ7_remove 32 = .ok (.getfield 46, 3) := sorry
theorem dJ7_remove_35 : decode cJ7_remove 35 = .ok (.invokevirtual 68, 3) := sorry
theorem dJ7_remove_38 : decode cJ7_remove 38 = .ok (.pop, 1) := sorry
theorem dJ7_remove_39 : decode cJ7_remove 39 = .ok (.aload_n 0, 1) := sorry
theorem dJ7_remove_40 : decode cJ7_remove 40 = .ok (.getfield 29, 3) := sorry
theorem dJ7_remove_43 : decode cJ7_remove 43 = .ok (.aload_n 0, 1) := sorry
theorem dJ7_remove_44 : decode cJ7_remove 44 = .ok (.getfield 46, 3) := sorry
theorem dJ7_remove_47 : decode cJ7_remove 47 = .ok (.if_acmp .ne 11, 3) := sorry
theorem dJ7_remove_50 : decode cJ7_remove 50 = .ok (.aload_n 0, 1) := sorry
theorem dJ7_remove_51 : decode cJ7_remove 51 = .ok (.aload_n 1, 1) := sorry
theorem dJ7_remove_52 : decode cJ7_remove 52 = .ok (.putfield 29, 3) := sorry
theorem dJ7_remove_55 : decode cJ7_remove 55 = .ok (.goto 13, 3) := sorry
theorem dJ7_remove_58 : decode cJ7_remove 58 = .ok (.aload_n 0, 1) := sorry
theorem dJ7_remove_59 : decode cJ7_remove 59 = .ok (.dup, 1) := sorry
theorem dJ7_remove_60 : decode cJ7_remove 60 = .ok (.getfield 33, 3) := sorry
theorem dJ7_remove_63 : decode cJ7_remove 63 = .ok (.iconst 1, 1) := sorry
theorem dJ7_remove_64 : decode cJ7_remove 64 = .ok (.isub, 1) := sorry
theorem dJ7_remove_65 : decode cJ7_remove 65 = .ok (.putfield 33, 3) := sorry
theorem dJ7_remove_68 : decode cJ7_remove 68 = .ok (.aload_n 0, 1) := sorry
theorem dJ7_remove_69 : decode cJ7_remove 69 = .ok (.aconst_null, 1) := sorry
theorem dJ7_remove_70 : decode cJ7_remove 70 = .ok (.putfield 46, 3) := sorry
theorem dJ7_remove_73 : decode cJ7_remove 73 = .ok (.aload_n 0, 1) := sorry
theorem dJ7_remove_74 : decode cJ7_remove 74 = .ok (.dup, 1) := sorry
theorem dJ7_remove_75 : decode cJ7_remove 75 = .ok (.getfield 19, 3) := sorry
theorem dJ7_remove_78 : decode cJ7_remove 78 = .ok (.iconst 1, 1) := sorry
theorem dJ7_remove_79 : decode cJ7_remove 79 = .ok (.iadd, 1) := sorry
theorem dJ7_remove_80 : decode cJ7_remove 80 = .ok (.putfield 19, 3) := sorry
theorem dJ7_remove_83 : decode cJ7_remove 83 = .ok (.return_, 1) := sorry
theorem q142 : (Jvm.Cond.initialized "java/util/LinkedList$ListItr") ∈ lw_all := sorry
theorem q217 : (Jvm.Cond.fieldLink "java/util/LinkedList$ListItr" (22 : Nat) "java/util/LinkedList" "size" "I") ∈ lw_all := sorry
theorem q221 : (Jvm.Cond.fieldLink "java/util/LinkedList$ListItr" (13 : Nat) "java/util/LinkedList" "modCount" "I") ∈ lw_all := sorry
theorem q390 : (Jvm.Cond.instantiable "java/util/LinkedList$ListItr" (5 : Nat)) ∈ lw_all := sorry
theorem q392 : (Jvm.Cond.instanceMethod ({ cls := "java/util/LinkedList$ListItr", name := "<init>", desc := "(Ljava/util/LinkedList;I)V" } : Jvm.MethodName)) ∈ lw_all := sorry
theorem q393 : (Jvm.Cond.code ({ cls := "java/util/LinkedList$ListItr", name := "<init>", desc := "(Ljava/util/LinkedList;I)V" } : Jvm.MethodName) prog_65_method_1_code (3 : Nat) (Option.none : Option Jvm.ClassFile.FieldType)) ∈ lw_all := sorry
theorem q394 : (Jvm.Cond.methodLink "java/util/LinkedList$ListItr" (7 : Nat) ({ cls := "java/lang/Object", name := "<init>", desc := "()V" } : Jvm.MethodName)) ∈ lw_all := sorry
theorem q395 : (Jvm.Cond.methodLink "java/util/LinkedList$ListItr" (25 : Nat) ({ cls := "java/util/LinkedList", name := "node", desc := "(I)Ljava/util/LinkedList$Node;" } : Jvm.MethodName)) ∈ lw_all := sorry
theorem q399 : (Jvm.Cond.fieldLink "java/util/LinkedList$ListItr" (46 : Nat) "java/util/LinkedList$ListItr" "lastReturned" "Ljava/util/LinkedList$Node;") ∈ lw_all := sorry
theorem q400 : (Jvm.Cond.fieldLink "java/util/LinkedList$ListItr" (29 : Nat) "java/util/LinkedList$ListItr" "next" "Ljava/util/LinkedList$Node;") ∈ lw_all := sorry
theorem q401 : (Jvm.Cond.fieldLink "java/util/LinkedList$ListItr" (33 : Nat) "java/util/LinkedList$ListItr" "nextIndex" "I") ∈ lw_all := sorry
theorem q402 : (Jvm.Cond.fieldLink "java/util/LinkedList$ListItr" (19 : Nat) "java/util/LinkedList$ListItr" "expectedModCount" "I") ∈ lw_all := sorry
theorem q403 : (Jvm.Cond.fieldLink "java/util/LinkedList$ListItr" (1 : Nat) "java/util/LinkedList$ListItr" "this$0" "Ljava/util/LinkedList;") ∈ lw_all := sorry
theorem q404 : (Jvm.Cond.lays "java/util/LinkedList$ListItr" "java/util/LinkedList$ListItr" "lastReturned" "Ljava/util/LinkedList$Node;") ∈ lw_all := sorry
theorem q405 : (Jvm.Cond.soleField "java/util/LinkedList$ListItr" "lastReturned") ∈ lw_all := sorry
theorem q406 : (Jvm.Cond.lays "java/util/LinkedList$ListItr" "java/util/LinkedList$ListItr" "next" "Ljava/util/LinkedList$Node;") ∈ lw_all := sorry
theorem q407 : (Jvm.Cond.soleField "java/util/LinkedList$ListItr" "next") ∈ lw_all := sorry
theorem q408 : (Jvm.Cond.lays "java/util/LinkedList$ListItr" "java/util/LinkedList$ListItr" "nextIndex" "I") ∈ lw_all := sorry
theorem q409 : (Jvm.Cond.soleField "java/util/LinkedList$ListItr" "nextIndex") ∈ lw_all := sorry
theorem q410 : (Jvm.Cond.lays "java/util/LinkedList$ListItr" "java/util/LinkedList$ListItr" "expectedModCount" "I") ∈ lw_all := sorry
theorem q411 : (Jvm.Cond.soleField "java/util/LinkedList$ListItr" "expectedModCount") ∈ lw_all := sorry
theorem q412 : (Jvm.Cond.laysFinal "java/util/LinkedList$ListItr" "java/util/LinkedList$ListItr" "this$0" "Ljava/util/LinkedList;") ∈ lw_all := sorry
theorem q413 : (Jvm.Cond.soleField "java/util/LinkedList$ListItr" "this$0") ∈ lw_all := sorry
theorem q414 : (Jvm.Cond.superclass "java/util/LinkedList$ListItr" "java/lang/Object") ∈ lw_all := sorry
theorem q441 : (Jvm.Cond.castable "java/util/LinkedList$ListItr" "java/util/Iterator") ∈ lw_tbl := sorry
theorem q442 : (Jvm.Cond.selects "java/util/LinkedList$ListItr" ({ cls := "java/util/Iterator", name := "hasNext", desc := "()Z" } : Jvm.MethodName) ({ cls := "java/util/LinkedList$ListItr", name := "hasNext", desc := "()Z" } : Jvm.MethodName)) ∈ lw_all := sorry
theorem q443 : (Jvm.Cond.unhidden "java/util/LinkedList$ListItr" "hasNext" "()Z") ∈ lw_tbl := sorry
theorem q444 : (Jvm.Cond.instanceMethod ({ cls := "java/util/LinkedList$ListItr", name := "hasNext", desc := "()Z" } : Jvm.MethodName)) ∈ lw_all := sorry
theorem q445 : (Jvm.Cond.publicMethod ({ cls := "java/util/LinkedList$ListItr", name := "hasNext", desc := "()Z" } : Jvm.MethodName)) ∈ lw_tbl := sorry
theorem q446 : (Jvm.Cond.code ({ cls := "java/util/LinkedList$ListItr", name := "hasNext", desc := "()Z" } : Jvm.MethodName) prog_65_method_2_code (1 : Nat) (Option.some Jvm.ClassFile.FieldType.boolean)) ∈ lw_all := sorry
theorem q584 : (Jvm.Cond.selects "java/util/LinkedList$ListItr" ({ cls := "java/lang/Object", name := "getClass", desc := "()Ljava/lang/Class;" } : Jvm.MethodName) ({ cls := "java/lang/Object", name := "getClass", desc := "()Ljava/lang/Class;" } : Jvm.MethodName)) ∈ lw_all := sorry
theorem q909 : (Jvm.Cond.selects "java/util/LinkedList$ListItr" ({ cls := "java/util/Iterator", name := "next", desc := "()Ljava/lang/Object;" } : Jvm.MethodName) ({ cls := "java/util/LinkedList$ListItr", name := "next", desc := "()Ljava/lang/Object;" } : Jvm.MethodName)) ∈ lw_all := sorry
theorem q910 : (Jvm.Cond.unhidden "java/util/LinkedList$ListItr" "next" "()Ljava/lang/Object;") ∈ lw_tbl := sorry
theorem q911 : (Jvm.Cond.instanceMethod ({ cls := "java/util/LinkedList$ListItr", name := "next", desc := "()Ljava/lang/Object;" } : Jvm.MethodName)) ∈ lw_all := sorry
theorem q912 : (Jvm.Cond.publicMethod ({ cls := "java/util/LinkedList$ListItr", name := "next", desc := "()Ljava/lang/Object;" } : Jvm.MethodName)) ∈ lw_tbl := sorry
theorem q913 : (Jvm.Cond.code ({ cls := "java/util/LinkedList$ListItr", name := "next", desc := "()Ljava/lang/Object;" } : Jvm.MethodName) prog_65_method_3_code (1 : Nat) (Option.some (Jvm.ClassFile.FieldType.object "java/lang/Object"))) ∈ lw_all := sorry
theorem q914 : (Jvm.Cond.methodLink "java/util/LinkedList$ListItr" (36 : Nat) ({ cls := "java/util/LinkedList$ListItr", name := "checkForComodification", desc := "()V" } : Jvm.MethodName)) ∈ lw_all := sorry
theorem q915 : (Jvm.Cond.instanceMethod ({ cls := "java/util/LinkedList$ListItr", name := "checkForComodification", desc := "()V" } : Jvm.MethodName)) ∈ lw_all := sorry
theorem q916 : (Jvm.Cond.selects "java/util/LinkedList$ListItr" ({ cls := "java/util/LinkedList$ListItr", name := "checkForComodification", desc := "()V" } : Jvm.MethodName) ({ cls := "java/util/LinkedList$ListItr", name := "checkForComodification", desc := "()V" } : Jvm.MethodName)) ∈ lw_all := sorry
theorem q917 : (Jvm.Cond.code ({ cls := "java/util/LinkedList$ListItr", name := "checkForComodification", desc := "()V" } : Jvm.MethodName) prog_65_method_12_code (1 : Nat) (Option.none : Option Jvm.ClassFile.FieldType)) ∈ lw_all := sorry
theorem q918 : (Jvm.Cond.methodLink "java/util/LinkedList$ListItr" (39 : Nat) ({ cls := "java/util/LinkedList$ListItr", name := "hasNext", desc := "()Z" } : Jvm.MethodName)) ∈ lw_all := sorry
theorem q919 : (Jvm.Cond.classLink "java/util/LinkedList$ListItr" (43 : Nat) "java/util/NoSuchElementException") ∈ lw_all := sorry
theorem q920 : (Jvm.Cond.methodLink "java/util/LinkedList$ListItr" (45 : Nat) ({ cls := "java/util/NoSuchElementException", name := "<init>", desc := "()V" } : Jvm.MethodName)) ∈ lw_all := sorry
theorem q1258 : (Jvm.Cond.fieldLink "java/util/LinkedList$ListItr" (52 : Nat) "java/util/LinkedList$Node" "item" "Ljava/lang/Object;") ∈ lw_all := sorry
theorem q1261 : (Jvm.Cond.fieldLink "java/util/LinkedList$ListItr" (49 : Nat) "java/util/LinkedList$Node" "next" "Ljava/util/LinkedList$Node;") ∈ lw_all := sorry
theorem q2161 : (Jvm.Cond.selects "java/util/LinkedList$ListItr" ({ cls := "java/util/Iterator", name := "remove", desc := "()V" } : Jvm.MethodName) ({ cls := "java/util/LinkedList$ListItr", name := "remove", desc := "()V" } : Jvm.MethodName)) ∈ lw_all := sorry
theorem q2162 : (Jvm.Cond.unhidden "java/util/LinkedList$ListItr" "remove" "()V") ∈ lw_tbl := sorry
theorem q2163 : (Jvm.Cond.instanceMethod ({ cls := "java/util/LinkedList$ListItr", name := "remove", desc := "()V" } : Jvm.MethodName)) ∈ lw_all := sorry
theorem q2164 : (Jvm.Cond.publicMethod ({ cls := "java/util/LinkedList$ListItr", name := "remove", desc := "()V" } : Jvm.MethodName)) ∈ lw_tbl := sorry
theorem q2165 : (Jvm.Cond.code ({ cls := "java/util/LinkedList$ListItr", name := "remove", desc := "()V" } : Jvm.MethodName) prog_65_method_8_code (2 : Nat) (Option.none : Option Jvm.ClassFile.FieldType)) ∈ lw_all := sorry
theorem q2166 : (Jvm.Cond.methodLink "java/util/LinkedList$ListItr" (68 : Nat) ({ cls := "java/util/LinkedList", name := "unlink", desc := "(Ljava/util/LinkedList$Node;)Ljava/lang/Object;" } : Jvm.MethodName)) ∈ lw_all := sorry
theorem q3212 : (Jvm.Cond.selects "java/util/LinkedList$ListItr" ({ cls := "java/util/LinkedList$ListItr", name := "hasNext", desc := "()Z" } : Jvm.MethodName) ({ cls := "java/util/LinkedList$ListItr", name := "hasNext", desc := "()Z" } : Jvm.MethodName)) ∈ lw_all := sorry
theorem q3237 : (Jvm.Cond.castable "java/util/LinkedList$ListItr" "java/lang/Object") ∈ lw_tbl := sorry
theorem in_J7 : ∀ w ∈ wsJ70, w ∈ lw_all := sorry
/-! java/util/Objects -/
set_option maxRecDepth 100000
def RJ8 : String := "java/util/Objects"
abbrev cJ8_checkIndex : ByteArray := prog_70_method_17_code
def yJ8_checkIndex : MethodName := ⟨RJ8, "checkIndex", "(II)I"⟩
def dkwJ8_checkIndex_0 : List UInt8 := [26, 27, 1, 184, 0, 105, 172]
abbrev dktJ8_checkIndex_0 : List UInt8 := dkwJ8_checkIndex_0 ++ []
theorem dksJ8_checkIndex_0 : cJ8_checkIndex.data.toList.drop 0 = dktJ8_checkIndex_0 := sorry
theorem dJ8_checkIndex_0 : decode cJ8_checkIndex 0 = .ok (.iload_n 0, 1) := sorry
theorem dJ8_checkIndex_1 : decode cJ8_checkIndex 1 = .ok (.iload_n 1, 1) := sorry
theorem dJ8_checkIndex_2 : decode cJ8_checkIndex 2 = .ok (.aconst_null, 1) := sorry
theorem dJ8_checkIndex_3 : decode cJ8_checkIndex 3 = .ok (.invokestatic 105, 3) := sorry
theorem dJ8_checkIndex_6 : decode cJ8_checkIndex 6 = .ok (.ireturn, 1) := sorry
abbrev cJ8_requireNonNull : ByteArray := prog_70_method_10_code
def yJ8_requireNonNull : MethodName := ⟨RJ8, "requireNonNull", "(Ljava/lang/Object;)Ljava/lang/Object;"⟩
def dkwJ8_requireNonNull_0 : List UInt8 := [42, 199, 0, 11, 187, 0, 84, 89, 183, 0, 86, 191, 42, 176]
abbrev dktJ8_requireNonNull_0 : List UInt8 := dkwJ8_requireNonNull_0 ++ []
theorem dksJ8_requireNonNull_0 : cJ8_requireNonNull.data.toList.drop 0 = dktJ8_requireNonNull_0 := sorry
theorem dJ8_requireNonNull_0 : decode cJ8_requireNonNull 0 = .ok (.aload_n 0, 1) := sorry
theorem dJ8_requireNonNull_1 : decode cJ8_requireNonNull 1 = .ok (.ifnonnull 11, 3) := sorry
theorem dJ8_requireNonNull_4 : decode cJ8_requireNonNull 4 = .ok (.new 84, 3) := sorry
theorem dJ8_requireNonNull_7 : decode cJ8_requireNonNull 7 = .ok (.dup, 1) := sorry
theorem dJ8_requireNonNull_8 : decode cJ8_requireNonNull 8 = .ok (.invokespecial 86, 3) := sorry
theorem dJ8_requireNonNull_11 : decode cJ8_requireNonNull 11 = .ok (.athrow, 1) := sorry
theorem dJ8_requireNonNull_12 : decode cJ8_requireNonNull 12 = .ok (.aload_n 0, 1) := sorry
theorem dJ8_requireNonNull_13 : decode cJ8_requireNonNull 13 = .ok (.areturn, 1) := sorry
abbrev cJ8_equals : ByteArray := prog_70_method_2_code
def yJ8_equals : MethodName := ⟨RJ8, "equals", "(Ljava/lang/Object;Ljava/lang/Object;)Z"⟩
def dkwJ8_equals_0 : List UInt8 := [42, 43, 165, 0, 15, 42, 198, 0, 15, 42, 43, 182, 0, 14, 153, 0, 7, 4, 167, 0, 4, 3, 172]
abbrev dktJ8_equals_0 : List UInt8 := dkwJ8_equals_0 ++ []
theorem dksJ8_equals_0 : cJ8_equals.data.toList.drop 0 = dktJ8_equals_0 := sorry
theorem dJ8_equals_0 : decode cJ8_equals 0 = .ok (.aload_n 0, 1) := sorry
theorem dJ8_equals_1 : decode cJ8_equals 1 = .ok (.aload_n 1, 1) := sorry
theorem dJ8_equals_2 : decode cJ8_equals 2 = .ok (.if_acmp .eq 15, 3) := sorry
theorem dJ8_equals_5 : decode cJ8_equals 5 = .ok (.aload_n 0, 1) := sorry
theorem dJ8_equals_6 : decode cJ8_equals 6 = .ok (.ifnull 15, 3) := sorry
theorem dJ8_equals_9 : decode cJ8_equals 9 = .ok (.aload_n 0, 1) := sorry
theorem dJ8_equals_10 : decode cJ8_equals 10 = .ok (.aload_n 1, 1) := sorry
theorem dJ8_equals_11 : decode cJ8_equals 11 = .ok (.invokevirtual 14, 3) := sorry
theorem dJ8_equals_14 : decode cJ8_equals 14 = .ok (.ifCond .eq 7, 3) := sorry
theorem dJ8_equals_17 : decode cJ8_equals 17 = .ok (.iconst 1, 1) := sorry
theorem dJ8_equals_18 : decode cJ8_equals 18 = .ok (.goto 4, 3) := sorry
theorem dJ8_equals_21 : decode cJ8_equals 21 = .ok (.iconst 0, 1) := sorry
theorem dJ8_equals_22 : decode cJ8_equals 22 = .ok (.ireturn, 1) := sorry
theorem q143 : (Jvm.Cond.initialized "java/util/Objects") ∈ lw_all := sorry
theorem q468 : (Jvm.Cond.static ({ cls := "java/util/Objects", name := "checkIndex", desc := "(II)I" } : Jvm.MethodName)) ∈ lw_all := sorry
theorem q469 : (Jvm.Cond.code ({ cls := "java/util/Objects", name := "checkIndex", desc := "(II)I" } : Jvm.MethodName) prog_70_method_17_code (2 : Nat) (Option.some Jvm.ClassFile.FieldType.int)) ∈ lw_all := sorry
theorem q470 : (Jvm.Cond.methodLink "java/util/Objects" (105 : Nat) ({ cls := "jdk/internal/util/Preconditions", name := "checkIndex", desc := "(IILjava/util/function/BiFunction;)I" } : Jvm.MethodName)) ∈ lw_all := sorry
theorem q1075 : (Jvm.Cond.static ({ cls := "java/util/Objects", name := "requireNonNull", desc := "(Ljava/lang/Object;)Ljava/lang/Object;" } : Jvm.MethodName)) ∈ lw_all := sorry
theorem q1076 : (Jvm.Cond.code ({ cls := "java/util/Objects", name := "requireNonNull", desc := "(Ljava/lang/Object;)Ljava/lang/Object;" } : Jvm.MethodName) prog_70_method_10_code (1 : Nat) (Option.some (Jvm.ClassFile.FieldType.object "java/lang/Object"))) ∈ lw_all := sorry
theorem q2447 : (Jvm.Cond.static ({ cls := "java/util/Objects", name := "equals", desc := "(Ljava/lang/Object;Ljava/lang/Object;)Z" } : Jvm.MethodName)) ∈ lw_all := sorry
theorem q2448 : (Jvm.Cond.code ({ cls := "java/util/Objects", name := "equals", desc := "(Ljava/lang/Object;Ljava/lang/Object;)Z" } : Jvm.MethodName) prog_70_method_2_code (2 : Nat) (Option.some Jvm.ClassFile.FieldType.boolean)) ∈ lw_all := sorry
theorem q2449 : (Jvm.Cond.methodLink "java/util/Objects" (14 : Nat) ({ cls := "java/lang/Object", name := "equals", desc := "(Ljava/lang/Object;)Z" } : Jvm.MethodName)) ∈ lw_all := sorry
/-! jdk/internal/util/Preconditions -/
set_option maxRecDepth 100000
def RJ9 : String := "jdk/internal/util/Preconditions"
abbrev cJ9_checkIndex : ByteArray := prog_76_method_11_code
def yJ9_checkIndex : MethodName := ⟨RJ9, "checkIndex", "(IILjava/util/function/BiFunction;)I"⟩
def dkwJ9_checkIndex_0 : List UInt8 := [26, 155, 0, 8, 26, 27, 161, 0, 10, 44, 26, 27, 184, 0, 95, 191, 26, 172]
abbrev dktJ9_checkIndex_0 : List UInt8 := dkwJ9_checkIndex_0 ++ []
theorem dksJ9_checkIndex_0 : cJ9_checkIndex.data.toList.drop 0 = dktJ9_checkIndex_0 := sorry
theorem dJ9_checkIndex_0 : decode cJ9_checkIndex 0 = .ok (.iload_n 0, 1) := sorry
theorem dJ9_checkIndex_1 : decode cJ9_checkIndex 1 = .ok (.ifCond .lt 8, 3) := sorry
theorem dJ9_checkIndex_4 : decode cJ9_checkIndex 4 = .ok (.iload_n 0, 1) := sorry
theorem dJ9_checkIndex_5 : decode cJ9_checkIndex 5 = .ok (.iload_n 1, 1) := sorry
theorem dJ9_checkIndex_6 : decode cJ9_checkIndex 6 = .ok (.if_icmp .lt 10, 3) := sorry
theorem dJ9_checkIndex_9 : decode cJ9_checkIndex 9 = .ok (.aload_n 2, 1) := sorry
theorem dJ9_checkIndex_10 : decode cJ9_checkIndex 10 = .ok (.iload_n 0, 1) := sorry
theorem dJ9_checkIndex_11 : decode cJ9_checkIndex 11 = .ok (.iload_n 1, 1) := sorry
theorem dJ9_checkIndex_12 : decode cJ9_checkIndex 12 = .ok (.invokestatic 95, 3) := sorry
theorem dJ9_checkIndex_15 : decode cJ9_checkIndex 15 = .ok (.athrow, 1) := sorry
theorem dJ9_checkIndex_16 : decode cJ9_checkIndex 16 = .ok (.iload_n 0, 1) := sorry
theorem dJ9_checkIndex_17 : decode cJ9_checkIndex 17 = .ok (.ireturn, 1) := sorry
abbrev cJ9_checkFromToIndex : ByteArray := prog_76_method_12_code
def yJ9_checkFromToIndex : MethodName := ⟨RJ9, "checkFromToIndex", "(IIILjava/util/function/BiFunction;)I"⟩
def dkwJ9_checkFromToIndex_0 : List UInt8 := [26, 155, 0, 13, 26, 27, 163, 0, 8, 27, 28, 164, 0, 11, 45, 26, 27, 28, 184, 0, 99, 191, 26, 172]
abbrev dktJ9_checkFromToIndex_0 : List UInt8 := dkwJ9_checkFromToIndex_0 ++ []
theorem dksJ9_checkFromToIndex_0 : cJ9_checkFromToIndex.data.toList.drop 0 = dktJ9_checkFromToIndex_0 := sorry
theorem dJ9_checkFromToIndex_0 : decode cJ9_checkFromToIndex 0 = .ok (.iload_n 0, 1) := sorry
theorem dJ9_checkFromToIndex_1 : decode cJ9_checkFromToIndex 1 = .ok (.ifCond .lt 13, 3) := sorry
theorem dJ9_checkFromToIndex_4 : decode cJ9_checkFromToIndex 4 = .ok (.iload_n 0, 1) := sorry
theorem dJ9_checkFromToIndex_5 : decode cJ9_checkFromToIndex 5 = .ok (.iload_n 1, 1) := sorry
theorem dJ9_checkFromToIndex_6 : decode cJ9_checkFromToIndex 6 = .ok (.if_icmp .gt 8, 3) := sorry
theorem dJ9_checkFromToIndex_9 : decode cJ9_checkFromToIndex 9 = .ok (.iload_n 1, 1) := sorry
theorem dJ9_checkFromToIndex_10 : decode cJ9_checkFromToIndex 10 = .ok (.iload_n 2, 1) := sorry
theorem dJ9_checkFromToIndex_11 : decode cJ9_checkFromToIndex 11 = .ok (.if_icmp .le 11, 3) := sorry
theorem dJ9_checkFromToIndex_14 : decode cJ9_checkFromToIndex 14 = .ok (.aload_n 3, 1) := sorry
theorem dJ9_checkFromToIndex_15 : decode cJ9_checkFromToIndex 15 = .ok (.iload_n 0, 1) := sorry
theorem dJ9_checkFromToIndex_16 : decode cJ9_checkFromToIndex 16 = .ok (.iload_n 1, 1) := sorry
theorem dJ9_checkFromToIndex_17 : decode cJ9_checkFromToIndex 17 = .ok (.iload_n 2, 1) := sorry
theorem dJ9_checkFromToIndex_18 : decode cJ9_checkFromToIndex 18 = .ok (.invokestatic 99, 3) := sorry
theorem dJ9_checkFromToIndex_21 : decode cJ9_checkFromToIndex 21 = .ok (.athrow, 1) := sorry
theorem dJ9_checkFromToIndex_22 : decode cJ9_checkFromToIndex 22 = .ok (.iload_n 0, 1) := sorry
theorem dJ9_checkFromToIndex_23 : decode cJ9_checkFromToIndex 23 = .ok (.ireturn, 1) := sorry
abbrev cJ9_checkFromIndexSize : ByteArray := prog_76_method_13_code
def yJ9_checkFromIndexSize : MethodName := ⟨RJ9, "checkFromIndexSize", "(IIILjava/util/function/BiFunction;)I"⟩
def dkwJ9_checkFromIndexSize_1 : List UInt8 := [172]
abbrev dktJ9_checkFromIndexSize_1 : List UInt8 := dkwJ9_checkFromIndexSize_1 ++ []
def dkwJ9_checkFromIndexSize_0 : List UInt8 := [28, 26, 128, 27, 128, 155, 0, 10, 27, 28, 26, 100, 164, 0, 11, 45, 26, 27, 28, 184, 0, 103, 191, 26]
abbrev dktJ9_checkFromIndexSize_0 : List UInt8 := dkwJ9_checkFromIndexSize_0 ++ dktJ9_checkFromIndexSize_1
theorem dksJ9_checkFromIndexSize_0 : cJ9_checkFromIndexSize.data.toList.drop 0 = dktJ9_checkFromIndexSize_0 := sorry
theorem dksJ9_checkFromIndexSize_1 : cJ9_checkFromIndexSize.data.toList.drop 24 = dktJ9_checkFromIndexSize_1 := sorry
theorem dJ9_checkFromIndexSize_0 : decode cJ9_checkFromIndexSize 0 = .ok (.iload_n 2, 1) := sorry
theorem dJ9_checkFromIndexSize_1 : decode cJ9_checkFromIndexSize 1 = .ok (.iload_n 0, 1) := sorry
theorem dJ9_checkFromIndexSize_2 : decode cJ9_checkFromIndexSize 2 = .ok (.ior, 1) := sorry
theorem dJ9_checkFromIndexSize_3 : decode cJ9_checkFromIndexSize 3 = .ok (.iload_n 1, 1) := sorry
theorem dJ9_checkFromIndexSize_4 : decode cJ9_checkFromIndexSize 4 = .ok (.ior, 1) := sorry
theorem dJ9_checkFromIndexSize_5 : decode cJ9_checkFromIndexSize 5 = .ok (.ifCond .lt 10, 3) := sorry
theorem dJ9_checkFromIndexSize_8 : decode cJ9_checkFromIndexSize 8 = .ok (.iload_n 1, 1) := sorry
theorem dJ9_checkFromIndexSize_9 : decode cJ9_checkFromIndexSize 9 = .ok (.iload_n 2, 1) := sorry
theorem dJ9_checkFromIndexSize_10 : decode cJ9_checkFromIndexSize 10 = .ok (.iload_n 0, 1) := sorry
theorem dJ9_checkFromIndexSize_11 : decode cJ9_checkFromIndexSize 11 = .ok (.isub, 1) := sorry
theorem dJ9_checkFromIndexSize_12 : decode cJ9_checkFromIndexSize 12 = .ok (.if_icmp .le 11, 3) := sorry
theorem dJ9_checkFromIndexSize_15 : decode cJ9_checkFromIndexSize 15 = .ok (.aload_n 3, 1) := sorry
theorem dJ9_checkFromIndexSize_16 : decode cJ9_checkFromIndexSize 16 = .ok (.iload_n 0, 1) := sorry
theorem dJ9_checkFromIndexSize_17 : decode cJ9_checkFromIndexSize 17 = .ok (.iload_n 1, 1) := sorry
theorem dJ9_checkFromIndexSize_18 : decode cJ9_checkFromIndexSize 18 = .ok (.iload_n 2, 1) := sorry
theorem dJ9_checkFromIndexSize_19 : decode cJ9_checkFromIndexSize 19 = .ok (.invokestatic 103, 3) := sorry
theorem dJ9_checkFromIndexSize_22 : decode cJ9_checkFromIndexSize 22 = .ok (.athrow, 1) := sorry
theorem dJ9_checkFromIndexSize_23 : decode cJ9_checkFromIndexSize 23 = .ok (.iload_n 0, 1) := sorry
theorem dJ9_checkFromIndexSize_24 : decode cJ9_checkFromIndexSize 24 = .ok (.ireturn, 1) := sorry
theorem q144 : (Jvm.Cond.initialized "jdk/internal/util/Preconditions") ∈ lw_all := sorry
theorem q471 : (Jvm.Cond.static ({ cls := "jdk/internal/util/Preconditions", name := "checkIndex", desc := "(IILjava/util/function/BiFunction;)I" } : Jvm.MethodName)) ∈ lw_all := sorry
theorem q472 : (Jvm.Cond.code ({ cls := "jdk/internal/util/Preconditions", name := "checkIndex", desc := "(IILjava/util/function/BiFunction;)I" } : Jvm.MethodName) prog_76_method_11_code (3 : Nat) (Option.some Jvm.ClassFile.FieldType.int)) ∈ lw_all := sorry
theorem q703 : (Jvm.Cond.laysStatic "jdk/internal/util/Preconditions" "SIOOBE_FORMATTER" "Ljava/util/function/BiFunction;") ∈ lw_tbl := sorry
theorem q705 : (Jvm.Cond.static ({ cls := "jdk/internal/util/Preconditions", name := "checkFromToIndex", desc := "(IIILjava/util/function/BiFunction;)I" } : Jvm.MethodName)) ∈ lw_all := sorry
theorem q706 : (Jvm.Cond.code ({ cls := "jdk/internal/util/Preconditions", name := "checkFromToIndex", desc := "(IIILjava/util/function/BiFunction;)I" } : Jvm.MethodName) prog_76_method_12_code (4 : Nat) (Option.some Jvm.ClassFile.FieldType.int)) ∈ lw_all := sorry
theorem q751 : (Jvm.Cond.static ({ cls := "jdk/internal/util/Preconditions", name := "checkFromIndexSize", desc := "(IIILjava/util/function/BiFunction;)I" } : Jvm.MethodName)) ∈ lw_all := sorry
theorem q752 : (Jvm.Cond.code ({ cls := "jdk/internal/util/Preconditions", name := "checkFromIndexSize", desc := "(IIILjava/util/function/BiFunction;)I" } : Jvm.MethodName) prog_76_method_13_code (4 : Nat) (Option.some Jvm.ClassFile.FieldType.int)) ∈ lw_all := sorry
