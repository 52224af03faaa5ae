/-! KrylovLaboratory$Locked -/
set_option maxRecDepth 100000
def RX10 : String := "KrylovLaboratory$Locked"
def TX10 : u_T := fun k => match k with
  | 0 => ("KrylovLaboratory$Locked", "value", "J", true)
  | 1 => ("KrylovLaboratory$Locked", "bound", "J", true)
  | _ => ("KrylovLaboratory$Locked", "vector", "LKrylovLaboratory$Vector;", true)
def tyX10 : Nat → FieldType := fun k => match k with
  | 0 => .long
  | 1 => .long
  | _ => .object "KrylovLaboratory$Vector"
abbrev wsX100 : List Cond := u_ws RX10 TX10 3
theorem nmX10 : ∀ a, a < 3 → ∀ b, b < 3 → a ≠ b → (TX10 a).2.1 ≠ (TX10 b).2.1 := sorry
theorem tyX10_ok : ∀ k, k < 3 → parseFieldDescriptor (TX10 k).2.2.1 = some (tyX10 k) := sorry
abbrev cX10_init : ByteArray := prog_5_method_1_code
def yX10_init : MethodName := ⟨RX10, "<init>", "(JLKrylovLaboratory$Vector;J)V"⟩
def dkwX10_init_0 : List UInt8 := [42, 183, 0, 1, 42, 31, 181, 0, 7, 42, 45, 181, 0, 13, 42, 22, 4, 181, 0, 17, 177]
abbrev dktX10_init_0 : List UInt8 := dkwX10_init_0 ++ []
theorem dksX10_init_0 : cX10_init.data.toList.drop 0 = dktX10_init_0 := sorry
theorem dX10_init_0 : decode cX10_init 0 = .ok (.aload_n 0, 1) := sorry
theorem dX10_init_1 : decode cX10_init 1 = .ok (.invokespecial 1, 3) := sorry
theorem dX10_init_4 : decode cX10_init 4 = .ok (.aload_n 0, 1) := sorry
theorem dX10_init_5 : decode cX10_init 5 = .ok (.lload_n 1, 1) := sorry
theorem dX10_init_6 : decode cX10_init 6 = .ok (.putfield 7, 3) := sorry
theorem dX10_init_9 : decode cX10_init 9 = .ok (.aload_n 0, 1) := sorry
theorem dX10_init_10 : decode cX10_init 10 = .ok (.aload_n 3, 1) := sorry
theorem dX10_init_11 : decode cX10_init 11 = .ok (.putfield 13, 3) := sorry
theorem dX10_init_14 : decode cX10_init 14 = .ok (.aload_n 0, 1) := sorry
theorem dX10_init_15 : decode cX10_init 15 = .ok (.lload 4, 2) := sorry
theorem dX10_init_17 : decode cX10_init 17 = .ok (.putfield 17, 3) := sorry
theorem dX10_init_20 : decode cX10_init 20 = .ok (.return_, 1) := sorry
theorem q179 : (Jvm.Cond.initialized "KrylovLaboratory$Locked") ∈ lw_all := sorry
theorem q560 : (Jvm.Cond.selects "KrylovLaboratory$Locked" ({ cls := "java/lang/Object", name := "getClass", desc := "()Ljava/lang/Class;" } : Jvm.MethodName) ({ cls := "java/lang/Object", name := "getClass", desc := "()Ljava/lang/Class;" } : Jvm.MethodName)) ∈ lw_all := sorry
theorem q2050 : (Jvm.Cond.instantiable "KrylovLaboratory$Locked" (3 : Nat)) ∈ lw_all := sorry
theorem q2053 : (Jvm.Cond.instanceMethod ({ cls := "KrylovLaboratory$Locked", name := "<init>", desc := "(JLKrylovLaboratory$Vector;J)V" } : Jvm.MethodName)) ∈ lw_all := sorry
theorem q2054 : (Jvm.Cond.code ({ cls := "KrylovLaboratory$Locked", name := "<init>", desc := "(JLKrylovLaboratory$Vector;J)V" } : Jvm.MethodName) prog_5_method_1_code (6 : Nat) (Option.none : Option Jvm.ClassFile.FieldType)) ∈ lw_all := sorry
theorem q2055 : (Jvm.Cond.methodLink "KrylovLaboratory$Locked" (1 : Nat) ({ cls := "java/lang/Object", name := "<init>", desc := "()V" } : Jvm.MethodName)) ∈ lw_all := sorry
theorem q2056 : (Jvm.Cond.fieldLink "KrylovLaboratory$Locked" (7 : Nat) "KrylovLaboratory$Locked" "value" "J") ∈ lw_all := sorry
theorem q2059 : (Jvm.Cond.fieldLink "KrylovLaboratory$Locked" (17 : Nat) "KrylovLaboratory$Locked" "bound" "J") ∈ lw_all := sorry
theorem q2062 : (Jvm.Cond.fieldLink "KrylovLaboratory$Locked" (13 : Nat) "KrylovLaboratory$Locked" "vector" "LKrylovLaboratory$Vector;") ∈ lw_all := sorry
theorem q2065 : (Jvm.Cond.laysFinal "KrylovLaboratory$Locked" "KrylovLaboratory$Locked" "value" "J") ∈ lw_all := sorry
theorem q2066 : (Jvm.Cond.soleField "KrylovLaboratory$Locked" "value") ∈ lw_all := sorry
theorem q2067 : (Jvm.Cond.laysFinal "KrylovLaboratory$Locked" "KrylovLaboratory$Locked" "bound" "J") ∈ lw_all := sorry
theorem q2068 : (Jvm.Cond.soleField "KrylovLaboratory$Locked" "bound") ∈ lw_all := sorry
theorem q2069 : (Jvm.Cond.laysFinal "KrylovLaboratory$Locked" "KrylovLaboratory$Locked" "vector" "LKrylovLaboratory$Vector;") ∈ lw_all := sorry
theorem q2070 : (Jvm.Cond.soleField "KrylovLaboratory$Locked" "vector") ∈ lw_all := sorry
theorem q2071 : (Jvm.Cond.superclass "KrylovLaboratory$Locked" "java/lang/Object") ∈ lw_all := sorry
theorem q2415 : (Jvm.Cond.selects "KrylovLaboratory$Locked" ({ cls := "java/lang/Object", name := "equals", desc := "(Ljava/lang/Object;)Z" } : Jvm.MethodName) ({ cls := "java/lang/Object", name := "equals", desc := "(Ljava/lang/Object;)Z" } : Jvm.MethodName)) ∈ lw_all := sorry
theorem q3254 : (Jvm.Cond.castable "KrylovLaboratory$Locked" "java/lang/Object") ∈ lw_tbl := sorry
theorem in_X10 : ∀ w ∈ wsX100, w ∈ lw_all := sorry
/-! KrylovLaboratory$QueryParser -/
set_option maxRecDepth 100000
def RX11 : String := "KrylovLaboratory$QueryParser"
def TX11 : u_T := fun k => match k with
  | 0 => ("KrylovLaboratory$Scanner", "word", "Ljava/lang/StringBuilder;", true)
  | 1 => ("KrylovLaboratory$Scanner", "end", "I", true)
  | 2 => ("KrylovLaboratory$Scanner", "at", "I", false)
  | 3 => ("KrylovLaboratory$Scanner", "begin", "I", false)
  | 4 => ("KrylovLaboratory$Scanner", "value", "I", false)
  | 5 => ("KrylovLaboratory$Scanner", "sign", "I", false)
  | 6 => ("KrylovLaboratory$Scanner", "token", "LKrylovLaboratory$Token;", false)
  | 7 => ("KrylovLaboratory$Scanner", "this$0", "LKrylovLaboratory;", true)
  | 8 => ("KrylovLaboratory$QueryParser", "isFirst", "Z", false)
  | 9 => ("KrylovLaboratory$QueryParser", "open", "I", false)
  | _ => ("KrylovLaboratory$QueryParser", "this$0", "LKrylovLaboratory;", true)
def tyX11 : Nat → FieldType := fun k => match k with
  | 0 => .object "java/lang/StringBuilder"
  | 1 => .int
  | 2 => .int
  | 3 => .int
  | 4 => .int
  | 5 => .int
  | 6 => .object "KrylovLaboratory$Token"
  | 7 => .object "KrylovLaboratory"
  | 8 => .boolean
  | 9 => .int
  | _ => .object "KrylovLaboratory"
abbrev wsX110 : List Cond := u_ws RX11 TX11 11
-- two fields of one name: no nmX11
theorem tyX11_ok : ∀ k, k < 11 → parseFieldDescriptor (TX11 k).2.2.1 = some (tyX11 k) := sorry
abbrev cX11_init : ByteArray := prog_8_method_1_code
def yX11_init : MethodName := ⟨RX11, "<init>", "(LKrylovLaboratory;I)V"⟩
def dkwX11_init_0 : List UInt8 := [42, 43, 181, 0, 3, 42, 43, 28, 183, 0, 9, 177]
abbrev dktX11_init_0 : List UInt8 := dkwX11_init_0 ++ []
theorem dksX11_init_0 : cX11_init.data.toList.drop 0 = dktX11_init_0 := sorry
theorem dX11_init_0 : decode cX11_init 0 = .ok (.aload_n 0, 1) := sorry
theorem dX11_init_1 : decode cX11_init 1 = .ok (.aload_n 1, 1) := sorry
theorem dX11_init_2 : decode cX11_init 2 = .ok (.putfield 3, 3) := sorry
theorem dX11_init_5 : decode cX11_init 5 = .ok (.aload_n 0, 1) := sorry
theorem dX11_init_6 : decode cX11_init 6 = .ok (.aload_n 1, 1) := sorry
theorem dX11_init_7 : decode cX11_init 7 = .ok (.iload_n 2, 1) := sorry
theorem dX11_init_8 : decode cX11_init 8 = .ok (.invokespecial 9, 3) := sorry
theorem dX11_init_11 : decode cX11_init 11 = .ok (.return_, 1) := sorry
abbrev cX11_parse : ByteArray := prog_8_method_2_code
def yX11_parse : MethodName := ⟨RX11, "parse", "()LKrylovLaboratory$Test;"⟩
def dkwX11_parse_2 : List UInt8 := [178, 0, 39, 166, 0, 7, 4, 167, 0, 4, 3, 4, 182, 0, 27, 43, 176]
abbrev dktX11_parse_2 : List UInt8 := dkwX11_parse_2 ++ []
def dkwX11_parse_1 : List UInt8 := [153, 0, 7, 4, 167, 0, 4, 3, 4, 182, 0, 27, 42, 182, 0, 31, 76, 42, 42, 180, 0, 35]
abbrev dktX11_parse_1 : List UInt8 := dkwX11_parse_1 ++ dktX11_parse_2
def dkwX11_parse_0 : List UInt8 := [42, 42, 18, 15, 182, 0, 17, 181, 0, 21, 42, 42, 180, 0, 21, 154, 0, 12, 42, 18, 25, 182, 0, 17]
abbrev dktX11_parse_0 : List UInt8 := dkwX11_parse_0 ++ dktX11_parse_1
theorem dksX11_parse_0 : cX11_parse.data.toList.drop 0 = dktX11_parse_0 := sorry
theorem dksX11_parse_1 : cX11_parse.data.toList.drop 24 = dktX11_parse_1 := sorry
theorem dksX11_parse_2 : cX11_parse.data.toList.drop 46 = dktX11_parse_2 := sorry
theorem dX11_parse_0 : decode cX11_parse 0 = .ok (.aload_n 0, 1) := sorry
theorem dX11_parse_1 : decode cX11_parse 1 = .ok (.aload_n 0, 1) := sorry
theorem dX11_parse_2 : decode cX11_parse 2 = .ok (.ldc 15, 2) := sorry
theorem dX11_parse_4 : decode cX11_parse 4 = .ok (.invokevirtual 17, 3) := sorry
theorem dX11_parse_7 : decode cX11_parse 7 = .ok (.putfield 21, 3) := sorry
theorem dX11_parse_10 : decode cX11_parse 10 = .ok (.aload_n 0, 1) := sorry
theorem dX11_parse_11 : decode cX11_parse 11 = .ok (.aload_n 0, 1) := sorry
theorem dX11_parse_12 : decode cX11_parse 12 = .ok (.getfield 21, 3) := sorry
theorem dX11_parse_15 : decode cX11_parse 15 = .ok (.ifCond .ne 12, 3) := sorry
theorem dX11_parse_18 : decode cX11_parse 18 = .ok (.aload_n 0, 1) := sorry
theorem dX11_parse_19 : decode cX11_parse 19 = .ok (.ldc 25, 2) := sorry
theorem dX11_parse_21 : decode cX11_parse 21 = .ok (.invokevirtual 17, 3) := sorry
theorem dX11_parse_24 : decode cX11_parse 24 = .ok (.ifCond .eq 7, 3) := sorry
theorem dX11_parse_27 : decode cX11_parse 27 = .ok (.iconst 1, 1) := sorry
theorem dX11_parse_28 : decode cX11_parse 28 = .ok (.goto 4, 3) := sorry
theorem dX11_parse_31 : decode cX11_parse 31 = .ok (.iconst 0, 1) := sorry
theorem dX11_parse_32 : decode cX11_parse 32 = .ok (.iconst 1, 1) := sorry
theorem dX11_parse_33 : decode cX11_parse 33 = .ok (.invokevirtual 27, 3) := sorry
theorem dX11_parse_36 : decode cX11_parse 36 = .ok (.aload_n 0, 1) := sorry
theorem dX11_parse_37 : decode cX11_parse 37 = .ok (.invokevirtual 31, 3) := sorry
theorem dX11_parse_40 : decode cX11_parse 40 = .ok (.astore_n 1, 1) := sorry
theorem dX11_parse_41 : decode cX11_parse 41 = .ok (.aload_n 0, 1) := sorry
theorem dX11_parse_42 : decode cX11_parse 42 = .ok (.aload_n 0, 1) := sorry
theorem dX11_parse_43 : decode cX11_parse 43 = .ok (.getfield 35, 3) := sorry
theorem dX11_parse_46 : decode cX11_parse 46 = .ok (.getstatic 39, 3) := sorry
theorem dX11_parse_49 : decode cX11_parse 49 = .ok (.if_acmp .ne 7, 3) := sorry
theorem dX11_parse_52 : decode cX11_parse 52 = .ok (.iconst 1, 1) := sorry
theorem dX11_parse_53 : decode cX11_parse 53 = .ok (.goto 4, 3) := sorry
theorem dX11_parse_56 : decode cX11_parse 56 = .ok (.iconst 0, 1) := sorry
theorem dX11_parse_57 : decode cX11_parse 57 = .ok (.iconst 1, 1) := sorry
theorem dX11_parse_58 : decode cX11_parse 58 = .ok (.invokevirtual 27, 3) := sorry
theorem dX11_parse_61 : decode cX11_parse 61 = .ok (.aload_n 1, 1) := sorry
theorem dX11_parse_62 : decode cX11_parse 62 = .ok (.areturn, 1) := sorry
abbrev cX11_test : ByteArray := prog_8_method_3_code
def yX11_test : MethodName := ⟨RX11, "test", "()LKrylovLaboratory$Test;"⟩
def dkwX11_test_1 : List UInt8 := [154, 255, 241, 187, 0, 58, 89, 43, 4, 183, 0, 60, 176]
abbrev dktX11_test_1 : List UInt8 := dkwX11_test_1 ++ []
def dkwX11_test_0 : List UInt8 := [187, 0, 44, 89, 183, 0, 46, 76, 43, 42, 182, 0, 49, 182, 0, 52, 87, 42, 18, 56, 182, 0, 17]
abbrev dktX11_test_0 : List UInt8 := dkwX11_test_0 ++ dktX11_test_1
theorem dksX11_test_0 : cX11_test.data.toList.drop 0 = dktX11_test_0 := sorry
theorem dksX11_test_1 : cX11_test.data.toList.drop 23 = dktX11_test_1 := sorry
theorem dX11_test_0 : decode cX11_test 0 = .ok (.new 44, 3) := sorry
theorem dX11_test_3 : decode cX11_test 3 = .ok (.dup, 1) := sorry
theorem dX11_test_4 : decode cX11_test 4 = .ok (.invokespecial 46, 3) := sorry
theorem dX11_test_7 : decode cX11_test 7 = .ok (.astore_n 1, 1) := sorry
theorem dX11_test_8 : decode cX11_test 8 = .ok (.aload_n 1, 1) := sorry
theorem dX11_test_9 : decode cX11_test 9 = .ok (.aload_n 0, 1) := sorry
theorem dX11_test_10 : decode cX11_test 10 = .ok (.invokevirtual 49, 3) := sorry
theorem dX11_test_13 : decode cX11_test 13 = .ok (.invokevirtual 52, 3) := sorry
theorem dX11_test_16 : decode cX11_test 16 = .ok (.pop, 1) := sorry
theorem dX11_test_17 : decode cX11_test 17 = .ok (.aload_n 0, 1) := sorry
theorem dX11_test_18 : decode cX11_test 18 = .ok (.ldc 56, 2) := sorry
theorem dX11_test_20 : decode cX11_test 20 = .ok (.invokevirtual 17, 3) := sorry
theorem dX11_test_23 : decode cX11_test 23 = .ok (.ifCond .ne (-15), 3) := sorry
theorem dX11_test_26 : decode cX11_test 26 = .ok (.new 58, 3) := sorry
theorem dX11_test_29 : decode cX11_test 29 = .ok (.dup, 1) := sorry
theorem dX11_test_30 : decode cX11_test 30 = .ok (.aload_n 1, 1) := sorry
theorem dX11_test_31 : decode cX11_test 31 = .ok (.iconst 1, 1) := sorry
theorem dX11_test_32 : decode cX11_test 32 = .ok (.invokespecial 60, 3) := sorry
theorem dX11_test_35 : decode cX11_test 35 = .ok (.areturn, 1) := sorry
abbrev cX11_conjunction : ByteArray := prog_8_method_4_code
def yX11_conjunction : MethodName := ⟨RX11, "conjunction", "()LKrylovLaboratory$Test;"⟩
def dkwX11_conjunction_1 : List UInt8 := [154, 255, 241, 187, 0, 58, 89, 43, 3, 183, 0, 60, 176]
abbrev dktX11_conjunction_1 : List UInt8 := dkwX11_conjunction_1 ++ []
def dkwX11_conjunction_0 : List UInt8 := [187, 0, 44, 89, 183, 0, 46, 76, 43, 42, 182, 0, 63, 182, 0, 52, 87, 42, 18, 66, 182, 0, 17]
abbrev dktX11_conjunction_0 : List UInt8 := dkwX11_conjunction_0 ++ dktX11_conjunction_1
theorem dksX11_conjunction_0 : cX11_conjunction.data.toList.drop 0 = dktX11_conjunction_0 := sorry
theorem dksX11_conjunction_1 : cX11_conjunction.data.toList.drop 23 = dktX11_conjunction_1 := sorry
theorem dX11_conjunction_0 : decode cX11_conjunction 0 = .ok (.new 44, 3) := sorry
theorem dX11_conjunction_3 : decode cX11_conjunction 3 = .ok (.dup, 1) := sorry
theorem dX11_conjunction_4 : decode cX11_conjunction 4 = .ok (.invokespecial 46, 3) := sorry
theorem dX11_conjunction_7 : decode cX11_conjunction 7 = .ok (.astore_n 1, 1) := sorry
theorem dX11_conjunction_8 : decode cX11_conjunction 8 = .ok (.aload_n 1, 1) := sorry
theorem dX11_conjunction_9 : decode cX11_conjunction 9 = .ok (.aload_n 0, 1) := sorry
theorem dX11_conjunction_10 : decode cX11_conjunction 10 = .ok (.invokevirtual 63, 3) := sorry
theorem dX11_conjunction_13 : decode cX11_conjunction 13 = .ok (.invokevirtual 52, 3) := sorry
theorem dX11_conjunction_16 : decode cX11_conjunction 16 = .ok (.pop, 1) := sorry
theorem dX11_conjunction_17 : decode cX11_conjunction 17 = .ok (.aload_n 0, 1) := sorry
theorem dX11_conjunction_18 : decode cX11_conjunction 18 = .ok (.ldc 66, 2) := sorry
theorem dX11_conjunction_20 : decode cX11_conjunction 20 = .ok (.invokevirtual 17, 3) := sorry
theorem dX11_conjunction_23 : decode cX11_conjunction 23 = .ok (.ifCond .ne (-15), 3) := sorry
theorem dX11_conjunction_26 : decode cX11_conjunction 26 = .ok (.new 58, 3) := sorry
theorem dX11_conjunction_29 : decode cX11_conjunction 29 = .ok (.dup, 1) := sorry
theorem dX11_conjunction_30 : decode cX11_conjunction 30 = .ok (.aload_n 1, 1) := sorry
theorem dX11_conjunction_31 : decode cX11_conjunction 31 = .ok (.iconst 0, 1) := sorry
theorem dX11_conjunction_32 : decode cX11_conjunction 32 = .ok (.invokespecial 60, 3) := sorry
theorem dX11_conjunction_35 : decode cX11_conjunction 35 = .ok (.areturn, 1) := sorry
abbrev cX11_factor : ByteArray := prog_8_method_6_code
def yX11_factor : MethodName := ⟨RX11, "factor", "()LKrylovLaboratory$Test;"⟩
def dkwX11_factor_4 : List UInt8 := [182, 0, 102, 183, 0, 111, 176]
abbrev dktX11_factor_4 : List UInt8 := dkwX11_factor_4 ++ []
def dkwX11_factor_3 : List UInt8 := [100, 181, 0, 68, 43, 176, 42, 182, 0, 102, 60, 42, 182, 0, 106, 61, 187, 0, 109, 89, 27, 28, 42]
abbrev dktX11_factor_3 : List UInt8 := dkwX11_factor_3 ++ dktX11_factor_4
def dkwX11_factor_2 : List UInt8 := [153, 0, 30, 42, 182, 0, 86, 42, 182, 0, 31, 76, 42, 16, 41, 182, 0, 98, 42, 89, 180, 0, 68, 4]
abbrev dktX11_factor_2 : List UInt8 := dkwX11_factor_2 ++ dktX11_factor_3
def dkwX11_factor_1 : List UInt8 := [183, 0, 91, 76, 42, 89, 180, 0, 68, 4, 100, 181, 0, 68, 43, 176, 42, 16, 40, 182, 0, 94]
abbrev dktX11_factor_1 : List UInt8 := dkwX11_factor_1 ++ dktX11_factor_2
def dkwX11_factor_0 : List UInt8 := [42, 182, 0, 75, 18, 79, 182, 0, 81, 153, 0, 31, 42, 182, 0, 86, 187, 0, 89, 89, 42, 182, 0, 63]
abbrev dktX11_factor_0 : List UInt8 := dkwX11_factor_0 ++ dktX11_factor_1
theorem dksX11_factor_0 : cX11_factor.data.toList.drop 0 = dktX11_factor_0 := sorry
theorem dksX11_factor_1 : cX11_factor.data.toList.drop 24 = dktX11_factor_1 := sorry
theorem dksX11_factor_2 : cX11_factor.data.toList.drop 46 = dktX11_factor_2 := sorry
theorem dksX11_factor_3 : cX11_factor.data.toList.drop 70 = dktX11_factor_3 := sorry
theorem dksX11_factor_4 : cX11_factor.data.toList.drop 93 = dktX11_factor_4 := sorry
theorem dX11_factor_0 : decode cX11_factor 0 = .ok (.aload_n 0, 1) := sorry
theorem dX11_factor_1 : decode cX11_factor 1 = .ok (.invokevirtual 75, 3) := sorry
theorem dX11_factor_4 : decode cX11_factor 4 = .ok (.ldc 79, 2) := sorry
theorem dX11_factor_6 : decode cX11_factor 6 = .ok (.invokevirtual 81, 3) := sorry
theorem dX11_factor_9 : decode cX11_factor 9 = .ok (.ifCond .eq 31, 3) := sorry
theorem dX11_factor_12 : decode cX11_factor 12 = .ok (.aload_n 0, 1) := sorry
theorem dX11_factor_13 : decode cX11_factor 13 = .ok (.invokevirtual 86, 3) := sorry
theorem dX11_factor_16 : decode cX11_factor 16 = .ok (.new 89, 3) := sorry
theorem dX11_factor_19 : decode cX11_factor 19 = .ok (.dup, 1) := sorry
theorem dX11_factor_20 : decode cX11_factor 20 = .ok (.aload_n 0, 1) := sorry
theorem dX11_factor_21 : decode cX11_factor 21 = .ok (.invokevirtual 63, 3) := sorry
theorem dX11_factor_24 : decode cX11_factor 24 = .ok (.invokespecial 91, 3) := sorry
theorem dX11_factor_27 : decode cX11_factor 27 = .ok (.astore_n 1, 1) := sorry
theorem dX11_factor_28 : decode cX11_factor 28 = .ok (.aload_n 0, 1) := sorry
theorem dX11_factor_29 : decode cX11_factor 29 = .ok (.dup, 1) := sorry
theorem dX11_factor_30 : decode cX11_factor 30 = .ok (.getfield 68, 3) := sorry
theorem dX11_factor_33 : decode cX11_factor 33 = .ok (.iconst 1, 1) := sorry
theorem dX11_factor_34 : decode cX11_factor 34 = .ok (.isub, 1) := sorry
theorem dX11_factor_35 : decode cX11_factor 35 = .ok (.putfield 68, 3) := sorry
theorem dX11_factor_38 : decode cX11_factor 38 = .ok (.aload_n 1, 1) := sorry
theorem dX11_factor_39 : decode cX11_factor 39 = .ok (.areturn, 1) := sorry
theorem dX11_factor_40 : decode cX11_factor 40 = .ok (.aload_n 0, 1) := sorry
theorem dX11_factor_41 : decode cX11_factor 41 = .ok (.bipush 40, 2) := sorry
theorem dX11_factor_43 : decode cX11_factor 43 = .ok (.invokevirtual 94, 3) := sorry
theorem dX11_factor_46 : decode cX11_factor 46 = .ok (.ifCond .eq 30, 3) := sorry
theorem dX11_factor_49 : decode cX11_factor 49 = .ok (.aload_n 0, 1) := sorry
theorem dX11_factor_50 : decode cX11_factor 50 = .ok (.invokevirtual 86, 3) := sorry
theorem dX11_factor_53 : decode cX11_factor 53 = .ok (.aload_n 0, 1) := sorry
theorem dX11_factor_54 : decode cX11_factor 54 = .ok (.invokevirtual 31, 3) := sorry
theorem dX11_factor_57 : decode cX11_factor 57 = .ok (.astore_n 1, 1) := sorry
theorem dX11_factor_58 : decode cX11_factor 58 = .ok (.aload_n 0, 1) := sorry
theorem dX11_factor_59 : decode cX11_factor 59 = .ok (.bipush 41, 2) := sorry
theorem dX11_factor_61 : decode cX11_factor 61 = .ok (.invokevirtual 98, 3) := sorry
theorem dX11_factor_64 : decode cX11_factor 64 = .ok (.aload_n 0, 1) := sorry
theorem dX11_factor_65 : decode cX11_factor 65 = .ok (.dup, 1) := sorry
theorem dX11_factor_66 : decode cX11_factor 66 = .ok (.getfield 68, 3) := sorry
theorem dX11_factor_69 : decode cX11_factor 69 = .ok (.iconst 1, 1) := sorry
theorem dX11_factor_70 : decode cX11_factor 70 = .ok (.isub, 1) := sorry
theorem dX11_factor_71 : decode cX11_factor 71 = .ok (.putfield 68, 3) := sorry
theorem dX11_factor_74 : decode cX11_factor 74 = .ok (.aload_n 1, 1) := sorry
theorem dX11_factor_75 : decode cX11_factor 75 = .ok (.areturn, 1) := sorry
theorem dX11_factor_76 : decode cX11_factor 76 = .ok (.aload_n 0, 1) := sorry
theorem dX11_factor_77 : decode cX11_factor 77 = .ok (.invokevirtual 102, 3) := sorry
theorem dX11_factor_80 : decode cX11_factor 80 = .ok (.istore_n 1, 1) := sorry
theorem dX11_factor_81 : decode cX11_factor 81 = .ok (.aload_n 0, 1) := sorry
theorem dX11_factor_82 : decode cX11_factor 82 = .ok (.invokevirtual 106, 3) := sorry
theorem dX11_factor_85 : decode cX11_factor 85 = .ok (.istore_n 2, 1) := sorry
theorem dX11_factor_86 : decode cX11_factor 86 = .ok (.new 109, 3) := sorry
theorem dX11_factor_89 : decode cX11_factor 89 = .ok (.dup, 1) := sorry
theorem dX11_factor_90 : decode cX11_factor 90 = .ok (.iload_n 1, 1) := sorry
theorem dX11_factor_91 : decode cX11_factor 91 = .ok (.iload_n 2, 1) := sorry
theorem dX11_factor_92 : decode cX11_factor 92 = .ok (.aload_n 0, 1) := sorry
theorem dX11_factor_93 : decode cX11_factor 93 = .ok (.invokevirtual 102, 3) := sorry
theorem dX11_factor_96 : decode cX11_factor 96 = .ok (.invokespecial 111, 3) := sorry
theorem dX11_factor_99 : decode cX11_factor 99 = .ok (.areturn, 1) := sorry
abbrev cX11_enter : ByteArray := prog_8_method_5_code
def yX11_enter : MethodName := ⟨RX11, "enter", "()V"⟩
def dkwX11_enter_1 : List UInt8 := [4, 96, 181, 0, 68, 42, 182, 0, 72, 177]
abbrev dktX11_enter_1 : List UInt8 := dkwX11_enter_1 ++ []
def dkwX11_enter_0 : List UInt8 := [42, 42, 180, 0, 68, 16, 6, 162, 0, 7, 4, 167, 0, 4, 3, 6, 182, 0, 27, 42, 89, 180, 0, 68]
abbrev dktX11_enter_0 : List UInt8 := dkwX11_enter_0 ++ dktX11_enter_1
theorem dksX11_enter_0 : cX11_enter.data.toList.drop 0 = dktX11_enter_0 := sorry
theorem dksX11_enter_1 : cX11_enter.data.toList.drop 24 = dktX11_enter_1 := sorry
theorem dX11_enter_0 : decode cX11_enter 0 = .ok (.aload_n 0, 1) := sorry
theorem dX11_enter_1 : decode cX11_enter 1 = .ok (.aload_n 0, 1) := sorry
theorem dX11_enter_2 : decode cX11_enter 2 = .ok (.getfield 68, 3) := sorry
theorem dX11_enter_5 : decode cX11_enter 5 = .ok (.bipush 6, 2) := sorry
theorem dX11_enter_7 : decode cX11_enter 7 = .ok (.if_icmp .ge 7, 3) := sorry
theorem dX11_enter_10 : decode cX11_enter 10 = .ok (.iconst 1, 1) := sorry
theorem dX11_enter_11 : decode cX11_enter 11 = .ok (.goto 4, 3) := sorry
theorem dX11_enter_14 : decode cX11_enter 14 = .ok (.iconst 0, 1) := sorry
theorem dX11_enter_15 : decode cX11_enter 15 = .ok (.iconst 3, 1) := sorry
theorem dX11_enter_16 : decode cX11_enter 16 = .ok (.invokevirtual 27, 3) := sorry
theorem dX11_enter_19 : decode cX11_enter 19 = .ok (.aload_n 0, 1) := sorry
theorem dX11_enter_20 : decode cX11_enter 20 = .ok (.dup, 1) := sorry
theorem dX11_enter_21 : decode cX11_enter 21 = .ok (.getfield 68, 3) := sorry
theorem dX11_enter_24 : decode cX11_enter 24 = .ok (.iconst 1, 1) := sorry
theorem dX11_enter_25 : decode cX11_enter 25 = .ok (.iadd, 1) := sorry
theorem dX11_enter_26 : decode cX11_enter 26 = .ok (.putfield 68, 3) := sorry
theorem dX11_enter_29 : decode cX11_enter 29 = .ok (.aload_n 0, 1) := sorry
theorem dX11_enter_30 : decode cX11_enter 30 = .ok (.invokevirtual 72, 3) := sorry
theorem dX11_enter_33 : decode cX11_enter 33 = .ok (.return_, 1) := sorry
abbrev cX11_operand : ByteArray := prog_8_method_7_code
def yX11_operand : MethodName := ⟨RX11, "operand", "()I"⟩
def dkwX11_operand_2 : List UInt8 := [182, 0, 72, 27, 172]
abbrev dktX11_operand_2 : List UInt8 := dkwX11_operand_2 ++ []
def dkwX11_operand_1 : List UInt8 := [42, 182, 0, 75, 182, 0, 122, 60, 42, 27, 2, 159, 0, 7, 4, 167, 0, 4, 3, 4, 182, 0, 27, 42]
abbrev dktX11_operand_1 : List UInt8 := dkwX11_operand_1 ++ dktX11_operand_2
def dkwX11_operand_0 : List UInt8 := [42, 180, 0, 35, 178, 0, 114, 166, 0, 13, 2, 42, 3, 18, 117, 182, 0, 118, 100, 172, 42, 180, 0, 3]
abbrev dktX11_operand_0 : List UInt8 := dkwX11_operand_0 ++ dktX11_operand_1
theorem dksX11_operand_0 : cX11_operand.data.toList.drop 0 = dktX11_operand_0 := sorry
theorem dksX11_operand_1 : cX11_operand.data.toList.drop 24 = dktX11_operand_1 := sorry
theorem dksX11_operand_2 : cX11_operand.data.toList.drop 48 = dktX11_operand_2 := sorry
theorem dX11_operand_0 : decode cX11_operand 0 = .ok (.aload_n 0, 1) := sorry
theorem dX11_operand_1 : decode cX11_operand 1 = .ok (.getfield 35, 3) := sorry
theorem dX11_operand_4 : decode cX11_operand 4 = .ok (.getstatic 114, 3) := sorry
theorem dX11_operand_7 : decode cX11_operand 7 = .ok (.if_acmp .ne 13, 3) := sorry
theorem dX11_operand_10 : decode cX11_operand 10 = .ok (.iconst (-1), 1) := sorry
theorem dX11_operand_11 : decode cX11_operand 11 = .ok (.aload_n 0, 1) := sorry
theorem dX11_operand_12 : decode cX11_operand 12 = .ok (.iconst 0, 1) := sorry
theorem dX11_operand_13 : decode cX11_operand 13 = .ok (.ldc 117, 2) := sorry
theorem dX11_operand_15 : decode cX11_operand 15 = .ok (.invokevirtual 118, 3) := sorry
theorem dX11_operand_18 : decode cX11_operand 18 = .ok (.isub, 1) := sorry
theorem dX11_operand_19 : decode cX11_operand 19 = .ok (.ireturn, 1) := sorry
theorem dX11_operand_20 : decode cX11_operand 20 = .ok (.aload_n 0, 1) := sorry
theorem dX11_operand_21 : decode cX11_operand 21 = .ok (.getfield 3, 3) := sorry
theorem dX11_operand_24 : decode cX11_operand 24 = .ok (.aload_n 0, 1) := sorry
theorem dX11_operand_25 : decode cX11_operand 25 = .ok (.invokevirtual 75, 3) := sorry
theorem dX11_operand_28 : decode cX11_operand 28 = .ok (.invokevirtual 122, 3) := sorry
theorem dX11_operand_31 : decode cX11_operand 31 = .ok (.istore_n 1, 1) := sorry
theorem dX11_operand_32 : decode cX11_operand 32 = .ok (.aload_n 0, 1) := sorry
theorem dX11_operand_33 : decode cX11_operand 33 = .ok (.iload_n 1, 1) := sorry
theorem dX11_operand_34 : decode cX11_operand 34 = .ok (.iconst (-1), 1) := sorry
theorem dX11_operand_35 : decode cX11_operand 35 = .ok (.if_icmp .eq 7, 3) := sorry
theorem dX11_operand_38 : decode cX11_operand 38 = .ok (.iconst 1, 1) := sorry
theorem dX11_operand_39 : decode cX11_operand 39 = .ok (.goto 4, 3) := sorry
theorem dX11_operand_42 : decode cX11_operand 42 = .ok (.iconst 0, 1) := sorry
theorem dX11_operand_43 : decode cX11_operand 43 = .ok (.iconst 1, 1) := sorry
theorem dX11_operand_44 : decode cX11_operand 44 = .ok (.invokevirtual 27, 3) := sorry
theorem dX11_operand_47 : decode cX11_operand 47 = .ok (.aload_n 0, 1) := sorry
theorem dX11_operand_48 : decode cX11_operand 48 = .ok (.invokevirtual 72, 3) := sorry
theorem dX11_operand_51 : decode cX11_operand 51 = .ok (.iload_n 1, 1) := sorry
theorem dX11_operand_52 : decode cX11_operand 52 = .ok (.ireturn, 1) := sorry
theorem q182 : (Jvm.Cond.initialized "KrylovLaboratory$QueryParser") ∈ lw_all := sorry
theorem q563 : (Jvm.Cond.selects "KrylovLaboratory$QueryParser" ({ cls := "java/lang/Object", name := "getClass", desc := "()Ljava/lang/Class;" } : Jvm.MethodName) ({ cls := "java/lang/Object", name := "getClass", desc := "()Ljava/lang/Class;" } : Jvm.MethodName)) ∈ lw_all := sorry
theorem q1562 : (Jvm.Cond.selects "KrylovLaboratory$QueryParser" ({ cls := "KrylovLaboratory$Scanner", name := "next", desc := "()V" } : Jvm.MethodName) ({ cls := "KrylovLaboratory$Scanner", name := "next", desc := "()V" } : Jvm.MethodName)) ∈ lw_all := sorry
theorem q1630 : (Jvm.Cond.fieldLink "KrylovLaboratory$QueryParser" (35 : Nat) "KrylovLaboratory$QueryParser" "token" "LKrylovLaboratory$Token;") ∈ lw_all := sorry
theorem q1631 : (Jvm.Cond.sameField "KrylovLaboratory$QueryParser" "KrylovLaboratory$Scanner" "token" "LKrylovLaboratory$Token;") ∈ lw_all := sorry
theorem q1670 : (Jvm.Cond.selects "KrylovLaboratory$QueryParser" ({ cls := "KrylovLaboratory$Scanner", name := "keyword", desc := "()Ljava/lang/String;" } : Jvm.MethodName) ({ cls := "KrylovLaboratory$Scanner", name := "keyword", desc := "()Ljava/lang/String;" } : Jvm.MethodName)) ∈ lw_all := sorry
theorem q1735 : (Jvm.Cond.selects "KrylovLaboratory$QueryParser" ({ cls := "KrylovLaboratory$Scanner", name := "isSign", desc := "(I)Z" } : Jvm.MethodName) ({ cls := "KrylovLaboratory$Scanner", name := "isSign", desc := "(I)Z" } : Jvm.MethodName)) ∈ lw_all := sorry
theorem q2299 : (Jvm.Cond.instantiable "KrylovLaboratory$QueryParser" (11 : Nat)) ∈ lw_all := sorry
theorem q2301 : (Jvm.Cond.instanceMethod ({ cls := "KrylovLaboratory$QueryParser", name := "<init>", desc := "(LKrylovLaboratory;I)V" } : Jvm.MethodName)) ∈ lw_all := sorry
theorem q2302 : (Jvm.Cond.code ({ cls := "KrylovLaboratory$QueryParser", name := "<init>", desc := "(LKrylovLaboratory;I)V" } : Jvm.MethodName) prog_8_method_1_code (3 : Nat) (Option.none : Option Jvm.ClassFile.FieldType)) ∈ lw_all := sorry
theorem q2303 : (Jvm.Cond.methodLink "KrylovLaboratory$QueryParser" (9 : Nat) ({ cls := "KrylovLaboratory$Scanner", name := "<init>", desc := "(LKrylovLaboratory;I)V" } : Jvm.MethodName)) ∈ lw_all := sorry
theorem q2304 : (Jvm.Cond.fieldLink "KrylovLaboratory$QueryParser" (21 : Nat) "KrylovLaboratory$QueryParser" "isFirst" "Z") ∈ lw_all := sorry
theorem q2306 : (Jvm.Cond.fieldLink "KrylovLaboratory$QueryParser" (68 : Nat) "KrylovLaboratory$QueryParser" "open" "I") ∈ lw_all := sorry
theorem q2307 : (Jvm.Cond.fieldLink "KrylovLaboratory$QueryParser" (3 : Nat) "KrylovLaboratory$QueryParser" "this$0" "LKrylovLaboratory;") ∈ lw_all := sorry
theorem q2308 : (Jvm.Cond.lays "KrylovLaboratory$QueryParser" "KrylovLaboratory$QueryParser" "isFirst" "Z") ∈ lw_all := sorry
theorem q2309 : (Jvm.Cond.soleField "KrylovLaboratory$QueryParser" "isFirst") ∈ lw_all := sorry
theorem q2310 : (Jvm.Cond.lays "KrylovLaboratory$QueryParser" "KrylovLaboratory$QueryParser" "open" "I") ∈ lw_all := sorry
theorem q2311 : (Jvm.Cond.soleField "KrylovLaboratory$QueryParser" "open") ∈ lw_all := sorry
theorem q2312 : (Jvm.Cond.laysFinal "KrylovLaboratory$QueryParser" "KrylovLaboratory$QueryParser" "this$0" "LKrylovLaboratory;") ∈ lw_all := sorry
theorem q2313 : (Jvm.Cond.soleField "KrylovLaboratory$QueryParser" "this$0") ∈ lw_all := sorry
theorem q2314 : (Jvm.Cond.laysFinal "KrylovLaboratory$QueryParser" "KrylovLaboratory$Scanner" "word" "Ljava/lang/StringBuilder;") ∈ lw_all := sorry
theorem q2315 : (Jvm.Cond.laysFinal "KrylovLaboratory$QueryParser" "KrylovLaboratory$Scanner" "end" "I") ∈ lw_all := sorry
theorem q2316 : (Jvm.Cond.lays "KrylovLaboratory$QueryParser" "KrylovLaboratory$Scanner" "at" "I") ∈ lw_all := sorry
theorem q2317 : (Jvm.Cond.lays "KrylovLaboratory$QueryParser" "KrylovLaboratory$Scanner" "begin" "I") ∈ lw_all := sorry
theorem q2318 : (Jvm.Cond.lays "KrylovLaboratory$QueryParser" "KrylovLaboratory$Scanner" "value" "I") ∈ lw_all := sorry
theorem q2319 : (Jvm.Cond.lays "KrylovLaboratory$QueryParser" "KrylovLaboratory$Scanner" "sign" "I") ∈ lw_all := sorry
theorem q2320 : (Jvm.Cond.lays "KrylovLaboratory$QueryParser" "KrylovLaboratory$Scanner" "token" "LKrylovLaboratory$Token;") ∈ lw_all := sorry
theorem q2321 : (Jvm.Cond.laysFinal "KrylovLaboratory$QueryParser" "KrylovLaboratory$Scanner" "this$0" "LKrylovLaboratory;") ∈ lw_all := sorry
theorem q2322 : (Jvm.Cond.superclass "KrylovLaboratory$QueryParser" "KrylovLaboratory$Scanner") ∈ lw_all := sorry
theorem q2324 : (Jvm.Cond.instanceMethod ({ cls := "KrylovLaboratory$QueryParser", name := "parse", desc := "()LKrylovLaboratory$Test;" } : Jvm.MethodName)) ∈ lw_all := sorry
theorem q2325 : (Jvm.Cond.selects "KrylovLaboratory$QueryParser" ({ cls := "KrylovLaboratory$QueryParser", name := "parse", desc := "()LKrylovLaboratory$Test;" } : Jvm.MethodName) ({ cls := "KrylovLaboratory$QueryParser", name := "parse", desc := "()LKrylovLaboratory$Test;" } : Jvm.MethodName)) ∈ lw_all := sorry
theorem q2326 : (Jvm.Cond.code ({ cls := "KrylovLaboratory$QueryParser", name := "parse", desc := "()LKrylovLaboratory$Test;" } : Jvm.MethodName) prog_8_method_2_code (2 : Nat) (Option.some (Jvm.ClassFile.FieldType.object "KrylovLaboratory$Test"))) ∈ lw_all := sorry
theorem q2327 : (Jvm.Cond.stringRef "KrylovLaboratory$QueryParser" (15 : Nat) "first") ∈ lw_tbl := sorry
theorem q2328 : (Jvm.Cond.methodLink "KrylovLaboratory$QueryParser" (17 : Nat) ({ cls := "KrylovLaboratory$QueryParser", name := "accept", desc := "(Ljava/lang/String;)Z" } : Jvm.MethodName)) ∈ lw_all := sorry
theorem q2329 : (Jvm.Cond.sameMethod "KrylovLaboratory$QueryParser" "KrylovLaboratory$Scanner" "accept" "(Ljava/lang/String;)Z") ∈ lw_all := sorry
theorem q2330 : (Jvm.Cond.selects "KrylovLaboratory$QueryParser" ({ cls := "KrylovLaboratory$QueryParser", name := "accept", desc := "(Ljava/lang/String;)Z" } : Jvm.MethodName) ({ cls := "KrylovLaboratory$Scanner", name := "accept", desc := "(Ljava/lang/String;)Z" } : Jvm.MethodName)) ∈ lw_all := sorry
theorem q2331 : (Jvm.Cond.stringRef "KrylovLaboratory$QueryParser" (25 : Nat) "many") ∈ lw_tbl := sorry
theorem q2332 : (Jvm.Cond.methodLink "KrylovLaboratory$QueryParser" (27 : Nat) ({ cls := "KrylovLaboratory$QueryParser", name := "check", desc := "(ZI)V" } : Jvm.MethodName)) ∈ lw_all := sorry
theorem q2333 : (Jvm.Cond.sameMethod "KrylovLaboratory$QueryParser" "KrylovLaboratory$Scanner" "check" "(ZI)V") ∈ lw_all := sorry
theorem q2334 : (Jvm.Cond.selects "KrylovLaboratory$QueryParser" ({ cls := "KrylovLaboratory$QueryParser", name := "check", desc := "(ZI)V" } : Jvm.MethodName) ({ cls := "KrylovLaboratory$Scanner", name := "check", desc := "(ZI)V" } : Jvm.MethodName)) ∈ lw_all := sorry
theorem q2335 : (Jvm.Cond.methodLink "KrylovLaboratory$QueryParser" (31 : Nat) ({ cls := "KrylovLaboratory$QueryParser", name := "test", desc := "()LKrylovLaboratory$Test;" } : Jvm.MethodName)) ∈ lw_all := sorry
theorem q2336 : (Jvm.Cond.privateMethod ({ cls := "KrylovLaboratory$QueryParser", name := "test", desc := "()LKrylovLaboratory$Test;" } : Jvm.MethodName)) ∈ lw_tbl := sorry
theorem q2337 : (Jvm.Cond.instanceMethod ({ cls := "KrylovLaboratory$QueryParser", name := "test", desc := "()LKrylovLaboratory$Test;" } : Jvm.MethodName)) ∈ lw_all := sorry
theorem q2338 : (Jvm.Cond.code ({ cls := "KrylovLaboratory$QueryParser", name := "test", desc := "()LKrylovLaboratory$Test;" } : Jvm.MethodName) prog_8_method_3_code (2 : Nat) (Option.some (Jvm.ClassFile.FieldType.object "KrylovLaboratory$Test"))) ∈ lw_all := sorry
theorem q2339 : (Jvm.Cond.classLink "KrylovLaboratory$QueryParser" (44 : Nat) "java/util/ArrayList") ∈ lw_all := sorry
theorem q2340 : (Jvm.Cond.methodLink "KrylovLaboratory$QueryParser" (46 : Nat) ({ cls := "java/util/ArrayList", name := "<init>", desc := "()V" } : Jvm.MethodName)) ∈ lw_all := sorry
theorem q2341 : (Jvm.Cond.methodLink "KrylovLaboratory$QueryParser" (49 : Nat) ({ cls := "KrylovLaboratory$QueryParser", name := "conjunction", desc := "()LKrylovLaboratory$Test;" } : Jvm.MethodName)) ∈ lw_all := sorry
theorem q2342 : (Jvm.Cond.privateMethod ({ cls := "KrylovLaboratory$QueryParser", name := "conjunction", desc := "()LKrylovLaboratory$Test;" } : Jvm.MethodName)) ∈ lw_tbl := sorry
theorem q2343 : (Jvm.Cond.instanceMethod ({ cls := "KrylovLaboratory$QueryParser", name := "conjunction", desc := "()LKrylovLaboratory$Test;" } : Jvm.MethodName)) ∈ lw_all := sorry
theorem q2344 : (Jvm.Cond.code ({ cls := "KrylovLaboratory$QueryParser", name := "conjunction", desc := "()LKrylovLaboratory$Test;" } : Jvm.MethodName) prog_8_method_4_code (2 : Nat) (Option.some (Jvm.ClassFile.FieldType.object "KrylovLaboratory$Test"))) ∈ lw_all := sorry
theorem q2345 : (Jvm.Cond.methodLink "KrylovLaboratory$QueryParser" (63 : Nat) ({ cls := "KrylovLaboratory$QueryParser", name := "factor", desc := "()LKrylovLaboratory$Test;" } : Jvm.MethodName)) ∈ lw_all := sorry
theorem q2346 : (Jvm.Cond.privateMethod ({ cls := "KrylovLaboratory$QueryParser", name := "factor", desc := "()LKrylovLaboratory$Test;" } : Jvm.MethodName)) ∈ lw_tbl := sorry
theorem q2347 : (Jvm.Cond.instanceMethod ({ cls := "KrylovLaboratory$QueryParser", name := "factor", desc := "()LKrylovLaboratory$Test;" } : Jvm.MethodName)) ∈ lw_all := sorry
theorem q2348 : (Jvm.Cond.code ({ cls := "KrylovLaboratory$QueryParser", name := "factor", desc := "()LKrylovLaboratory$Test;" } : Jvm.MethodName) prog_8_method_6_code (3 : Nat) (Option.some (Jvm.ClassFile.FieldType.object "KrylovLaboratory$Test"))) ∈ lw_all := sorry
theorem q2349 : (Jvm.Cond.methodLink "KrylovLaboratory$QueryParser" (75 : Nat) ({ cls := "KrylovLaboratory$QueryParser", name := "keyword", desc := "()Ljava/lang/String;" } : Jvm.MethodName)) ∈ lw_all := sorry
theorem q2350 : (Jvm.Cond.sameMethod "KrylovLaboratory$QueryParser" "KrylovLaboratory$Scanner" "keyword" "()Ljava/lang/String;") ∈ lw_all := sorry
theorem q2351 : (Jvm.Cond.selects "KrylovLaboratory$QueryParser" ({ cls := "KrylovLaboratory$QueryParser", name := "keyword", desc := "()Ljava/lang/String;" } : Jvm.MethodName) ({ cls := "KrylovLaboratory$Scanner", name := "keyword", desc := "()Ljava/lang/String;" } : Jvm.MethodName)) ∈ lw_all := sorry
theorem q2352 : (Jvm.Cond.stringRef "KrylovLaboratory$QueryParser" (79 : Nat) "not") ∈ lw_tbl := sorry
theorem q2353 : (Jvm.Cond.methodLink "KrylovLaboratory$QueryParser" (81 : Nat) ({ cls := "java/lang/String", name := "equals", desc := "(Ljava/lang/Object;)Z" } : Jvm.MethodName)) ∈ lw_all := sorry
theorem q2354 : (Jvm.Cond.methodLink "KrylovLaboratory$QueryParser" (86 : Nat) ({ cls := "KrylovLaboratory$QueryParser", name := "enter", desc := "()V" } : Jvm.MethodName)) ∈ lw_all := sorry
theorem q2355 : (Jvm.Cond.privateMethod ({ cls := "KrylovLaboratory$QueryParser", name := "enter", desc := "()V" } : Jvm.MethodName)) ∈ lw_tbl := sorry
theorem q2356 : (Jvm.Cond.instanceMethod ({ cls := "KrylovLaboratory$QueryParser", name := "enter", desc := "()V" } : Jvm.MethodName)) ∈ lw_all := sorry
theorem q2357 : (Jvm.Cond.code ({ cls := "KrylovLaboratory$QueryParser", name := "enter", desc := "()V" } : Jvm.MethodName) prog_8_method_5_code (1 : Nat) (Option.none : Option Jvm.ClassFile.FieldType)) ∈ lw_all := sorry
theorem q2358 : (Jvm.Cond.methodLink "KrylovLaboratory$QueryParser" (72 : Nat) ({ cls := "KrylovLaboratory$QueryParser", name := "next", desc := "()V" } : Jvm.MethodName)) ∈ lw_all := sorry
theorem q2359 : (Jvm.Cond.sameMethod "KrylovLaboratory$QueryParser" "KrylovLaboratory$Scanner" "next" "()V") ∈ lw_all := sorry
theorem q2360 : (Jvm.Cond.selects "KrylovLaboratory$QueryParser" ({ cls := "KrylovLaboratory$QueryParser", name := "next", desc := "()V" } : Jvm.MethodName) ({ cls := "KrylovLaboratory$Scanner", name := "next", desc := "()V" } : Jvm.MethodName)) ∈ lw_all := sorry
theorem q2361 : (Jvm.Cond.classLink "KrylovLaboratory$QueryParser" (89 : Nat) "KrylovLaboratory$Not") ∈ lw_all := sorry
theorem q2363 : (Jvm.Cond.methodLink "KrylovLaboratory$QueryParser" (91 : Nat) ({ cls := "KrylovLaboratory$Not", name := "<init>", desc := "(LKrylovLaboratory$Test;)V" } : Jvm.MethodName)) ∈ lw_all := sorry
theorem q2374 : (Jvm.Cond.methodLink "KrylovLaboratory$QueryParser" (94 : Nat) ({ cls := "KrylovLaboratory$QueryParser", name := "isSign", desc := "(I)Z" } : Jvm.MethodName)) ∈ lw_all := sorry
theorem q2375 : (Jvm.Cond.sameMethod "KrylovLaboratory$QueryParser" "KrylovLaboratory$Scanner" "isSign" "(I)Z") ∈ lw_all := sorry
theorem q2376 : (Jvm.Cond.selects "KrylovLaboratory$QueryParser" ({ cls := "KrylovLaboratory$QueryParser", name := "isSign", desc := "(I)Z" } : Jvm.MethodName) ({ cls := "KrylovLaboratory$Scanner", name := "isSign", desc := "(I)Z" } : Jvm.MethodName)) ∈ lw_all := sorry
theorem q2377 : (Jvm.Cond.methodLink "KrylovLaboratory$QueryParser" (98 : Nat) ({ cls := "KrylovLaboratory$QueryParser", name := "expectSign", desc := "(I)V" } : Jvm.MethodName)) ∈ lw_all := sorry
theorem q2378 : (Jvm.Cond.sameMethod "KrylovLaboratory$QueryParser" "KrylovLaboratory$Scanner" "expectSign" "(I)V") ∈ lw_all := sorry
theorem q2379 : (Jvm.Cond.selects "KrylovLaboratory$QueryParser" ({ cls := "KrylovLaboratory$QueryParser", name := "expectSign", desc := "(I)V" } : Jvm.MethodName) ({ cls := "KrylovLaboratory$Scanner", name := "expectSign", desc := "(I)V" } : Jvm.MethodName)) ∈ lw_all := sorry
theorem q2380 : (Jvm.Cond.methodLink "KrylovLaboratory$QueryParser" (102 : Nat) ({ cls := "KrylovLaboratory$QueryParser", name := "operand", desc := "()I" } : Jvm.MethodName)) ∈ lw_all := sorry
theorem q2381 : (Jvm.Cond.privateMethod ({ cls := "KrylovLaboratory$QueryParser", name := "operand", desc := "()I" } : Jvm.MethodName)) ∈ lw_tbl := sorry
theorem q2382 : (Jvm.Cond.instanceMethod ({ cls := "KrylovLaboratory$QueryParser", name := "operand", desc := "()I" } : Jvm.MethodName)) ∈ lw_all := sorry
theorem q2383 : (Jvm.Cond.code ({ cls := "KrylovLaboratory$QueryParser", name := "operand", desc := "()I" } : Jvm.MethodName) prog_8_method_7_code (2 : Nat) (Option.some Jvm.ClassFile.FieldType.int)) ∈ lw_all := sorry
theorem q2384 : (Jvm.Cond.fieldLink "KrylovLaboratory$QueryParser" (114 : Nat) "KrylovLaboratory$Token" "NUMBER" "LKrylovLaboratory$Token;") ∈ lw_all := sorry
theorem q2385 : (Jvm.Cond.constant "KrylovLaboratory$QueryParser" (117 : Nat) (999999999 : Int32)) ∈ lw_all := sorry
theorem q2386 : (Jvm.Cond.methodLink "KrylovLaboratory$QueryParser" (118 : Nat) ({ cls := "KrylovLaboratory$QueryParser", name := "number", desc := "(II)I" } : Jvm.MethodName)) ∈ lw_all := sorry
theorem q2387 : (Jvm.Cond.sameMethod "KrylovLaboratory$QueryParser" "KrylovLaboratory$Scanner" "number" "(II)I") ∈ lw_all := sorry
theorem q2388 : (Jvm.Cond.selects "KrylovLaboratory$QueryParser" ({ cls := "KrylovLaboratory$QueryParser", name := "number", desc := "(II)I" } : Jvm.MethodName) ({ cls := "KrylovLaboratory$Scanner", name := "number", desc := "(II)I" } : Jvm.MethodName)) ∈ lw_all := sorry
theorem q2389 : (Jvm.Cond.methodLinkNest "KrylovLaboratory$QueryParser" (122 : Nat) ({ cls := "KrylovLaboratory", name := "propertyCode", desc := "(Ljava/lang/String;)I" } : Jvm.MethodName) "KrylovLaboratory") ∈ lw_tbl := sorry
theorem q2418 : (Jvm.Cond.selects "KrylovLaboratory$QueryParser" ({ cls := "java/lang/Object", name := "equals", desc := "(Ljava/lang/Object;)Z" } : Jvm.MethodName) ({ cls := "java/lang/Object", name := "equals", desc := "(Ljava/lang/Object;)Z" } : Jvm.MethodName)) ∈ lw_all := sorry
theorem q2457 : (Jvm.Cond.methodLink "KrylovLaboratory$QueryParser" (106 : Nat) ({ cls := "KrylovLaboratory$QueryParser", name := "relationSign", desc := "()I" } : Jvm.MethodName)) ∈ lw_all := sorry
theorem q2458 : (Jvm.Cond.sameMethod "KrylovLaboratory$QueryParser" "KrylovLaboratory$Scanner" "relationSign" "()I") ∈ lw_all := sorry
theorem q2460 : (Jvm.Cond.selects "KrylovLaboratory$QueryParser" ({ cls := "KrylovLaboratory$QueryParser", name := "relationSign", desc := "()I" } : Jvm.MethodName) ({ cls := "KrylovLaboratory$Scanner", name := "relationSign", desc := "()I" } : Jvm.MethodName)) ∈ lw_all := sorry
theorem q2463 : (Jvm.Cond.classLink "KrylovLaboratory$QueryParser" (109 : Nat) "KrylovLaboratory$Comparison") ∈ lw_all := sorry
theorem q2465 : (Jvm.Cond.methodLink "KrylovLaboratory$QueryParser" (111 : Nat) ({ cls := "KrylovLaboratory$Comparison", name := "<init>", desc := "(III)V" } : Jvm.MethodName)) ∈ lw_all := sorry
theorem q2479 : (Jvm.Cond.methodLink "KrylovLaboratory$QueryParser" (52 : Nat) ({ cls := "java/util/ArrayList", name := "add", desc := "(Ljava/lang/Object;)Z" } : Jvm.MethodName)) ∈ lw_all := sorry
theorem q2480 : (Jvm.Cond.stringRef "KrylovLaboratory$QueryParser" (66 : Nat) "and") ∈ lw_tbl := sorry
theorem q2481 : (Jvm.Cond.classLink "KrylovLaboratory$QueryParser" (58 : Nat) "KrylovLaboratory$Joined") ∈ lw_all := sorry
theorem q2483 : (Jvm.Cond.methodLink "KrylovLaboratory$QueryParser" (60 : Nat) ({ cls := "KrylovLaboratory$Joined", name := "<init>", desc := "(Ljava/util/ArrayList;Z)V" } : Jvm.MethodName)) ∈ lw_all := sorry
theorem q2494 : (Jvm.Cond.stringRef "KrylovLaboratory$QueryParser" (56 : Nat) "or") ∈ lw_tbl := sorry
theorem q2495 : (Jvm.Cond.fieldLink "KrylovLaboratory$QueryParser" (39 : Nat) "KrylovLaboratory$Token" "END" "LKrylovLaboratory$Token;") ∈ lw_all := sorry
theorem q3221 : (Jvm.Cond.selects "KrylovLaboratory$QueryParser" ({ cls := "KrylovLaboratory$Scanner", name := "check", desc := "(ZI)V" } : Jvm.MethodName) ({ cls := "KrylovLaboratory$Scanner", name := "check", desc := "(ZI)V" } : Jvm.MethodName)) ∈ lw_all := sorry
theorem q3257 : (Jvm.Cond.castable "KrylovLaboratory$QueryParser" "java/lang/Object") ∈ lw_tbl := sorry
theorem in_X11 : ∀ w ∈ wsX110, w ∈ lw_all := sorry
/-! KrylovLaboratory$Test -/
set_option maxRecDepth 100000
def RX12 : String := "KrylovLaboratory$Test"
abbrev cX12_init : ByteArray := prog_12_method_1_code
def yX12_init : MethodName := ⟨RX12, "<init>", "()V"⟩
theorem dX12_init_0 : decode cX12_init 0 = .ok (.aload_n 0, 1) := sorry
theorem dX12_init_1 : decode cX12_init 1 = .ok (.invokespecial 1, 3) := sorry
theorem dX12_init_4 : decode cX12_init 4 = .ok (.return_, 1) := sorry
theorem q183 : (Jvm.Cond.initialized "KrylovLaboratory$Test") ∈ lw_all := sorry
theorem q2367 : (Jvm.Cond.instanceMethod ({ cls := "KrylovLaboratory$Test", name := "<init>", desc := "()V" } : Jvm.MethodName)) ∈ lw_all := sorry
theorem q2368 : (Jvm.Cond.code ({ cls := "KrylovLaboratory$Test", name := "<init>", desc := "()V" } : Jvm.MethodName) prog_12_method_1_code (1 : Nat) (Option.none : Option Jvm.ClassFile.FieldType)) ∈ lw_all := sorry
theorem q2369 : (Jvm.Cond.methodLink "KrylovLaboratory$Test" (1 : Nat) ({ cls := "java/lang/Object", name := "<init>", desc := "()V" } : Jvm.MethodName)) ∈ lw_all := sorry
theorem q2498 : (Jvm.Cond.declares ({ cls := "KrylovLaboratory$Test", name := "holds", desc := "(LKrylovLaboratory$State;I)Z" } : Jvm.MethodName)) ∈ lw_tbl := sorry
theorem q2499 : (Jvm.Cond.sameMethod "KrylovLaboratory$Test" "KrylovLaboratory$Test" "holds" "(LKrylovLaboratory$State;I)Z") ∈ lw_all := sorry
/-! KrylovLaboratory$Not -/
set_option maxRecDepth 100000
def RX13 : String := "KrylovLaboratory$Not"
def TX13 : u_T := fun k => match k with
  | _ => ("KrylovLaboratory$Not", "operand", "LKrylovLaboratory$Test;", true)
def tyX13 : Nat → FieldType := fun k => match k with
  | _ => .object "KrylovLaboratory$Test"
abbrev wsX130 : List Cond := u_ws RX13 TX13 1
theorem nmX13 : ∀ a, a < 1 → ∀ b, b < 1 → a ≠ b → (TX13 a).2.1 ≠ (TX13 b).2.1 := sorry
theorem tyX13_ok : ∀ k, k < 1 → parseFieldDescriptor (TX13 k).2.2.1 = some (tyX13 k) := sorry
abbrev cX13_init : ByteArray := prog_7_method_1_code
def yX13_init : MethodName := ⟨RX13, "<init>", "(LKrylovLaboratory$Test;)V"⟩
def dkwX13_init_0 : List UInt8 := [42, 183, 0, 1, 42, 43, 181, 0, 7, 177]
abbrev dktX13_init_0 : List UInt8 := dkwX13_init_0 ++ []
theorem dksX13_init_0 : cX13_init.data.toList.drop 0 = dktX13_init_0 := sorry
theorem dX13_init_0 : decode cX13_init 0 = .ok (.aload_n 0, 1) := sorry
theorem dX13_init_1 : decode cX13_init 1 = .ok (.invokespecial 1, 3) := sorry
theorem dX13_init_4 : decode cX13_init 4 = .ok (.aload_n 0, 1) := sorry
theorem dX13_init_5 : decode cX13_init 5 = .ok (.aload_n 1, 1) := sorry
theorem dX13_init_6 : decode cX13_init 6 = .ok (.putfield 7, 3) := sorry
theorem dX13_init_9 : decode cX13_init 9 = .ok (.return_, 1) := sorry
abbrev cX13_holds : ByteArray := prog_7_method_2_code
def yX13_holds : MethodName := ⟨RX13, "holds", "(LKrylovLaboratory$State;I)Z"⟩
def dkwX13_holds_0 : List UInt8 := [42, 180, 0, 7, 43, 28, 182, 0, 13, 154, 0, 7, 4, 167, 0, 4, 3, 172]
abbrev dktX13_holds_0 : List UInt8 := dkwX13_holds_0 ++ []
theorem dksX13_holds_0 : cX13_holds.data.toList.drop 0 = dktX13_holds_0 := sorry
theorem dX13_holds_0 : decode cX13_holds 0 = .ok (.aload_n 0, 1) := sorry
theorem dX13_holds_1 : decode cX13_holds 1 = .ok (.getfield 7, 3) := sorry
theorem dX13_holds_4 : decode cX13_holds 4 = .ok (.aload_n 1, 1) := sorry
theorem dX13_holds_5 : decode cX13_holds 5 = .ok (.iload_n 2, 1) := sorry
theorem dX13_holds_6 : decode cX13_holds 6 = .ok (.invokevirtual 13, 3) := sorry
theorem dX13_holds_9 : decode cX13_holds 9 = .ok (.ifCond .ne 7, 3) := sorry
theorem dX13_holds_12 : decode cX13_holds 12 = .ok (.iconst 1, 1) := sorry
theorem dX13_holds_13 : decode cX13_holds 13 = .ok (.goto 4, 3) := sorry
theorem dX13_holds_16 : decode cX13_holds 16 = .ok (.iconst 0, 1) := sorry
theorem dX13_holds_17 : decode cX13_holds 17 = .ok (.ireturn, 1) := sorry
theorem q184 : (Jvm.Cond.initialized "KrylovLaboratory$Not") ∈ lw_all := sorry
theorem q562 : (Jvm.Cond.selects "KrylovLaboratory$Not" ({ cls := "java/lang/Object", name := "getClass", desc := "()Ljava/lang/Class;" } : Jvm.MethodName) ({ cls := "java/lang/Object", name := "getClass", desc := "()Ljava/lang/Class;" } : Jvm.MethodName)) ∈ lw_all := sorry
theorem q2362 : (Jvm.Cond.instantiable "KrylovLaboratory$Not" (1 : Nat)) ∈ lw_all := sorry
theorem q2364 : (Jvm.Cond.instanceMethod ({ cls := "KrylovLaboratory$Not", name := "<init>", desc := "(LKrylovLaboratory$Test;)V" } : Jvm.MethodName)) ∈ lw_all := sorry
theorem q2365 : (Jvm.Cond.code ({ cls := "KrylovLaboratory$Not", name := "<init>", desc := "(LKrylovLaboratory$Test;)V" } : Jvm.MethodName) prog_7_method_1_code (2 : Nat) (Option.none : Option Jvm.ClassFile.FieldType)) ∈ lw_all := sorry
theorem q2366 : (Jvm.Cond.methodLinkNest "KrylovLaboratory$Not" (1 : Nat) ({ cls := "KrylovLaboratory$Test", name := "<init>", desc := "()V" } : Jvm.MethodName) "KrylovLaboratory") ∈ lw_tbl := sorry
theorem q2370 : (Jvm.Cond.fieldLink "KrylovLaboratory$Not" (7 : Nat) "KrylovLaboratory$Not" "operand" "LKrylovLaboratory$Test;") ∈ lw_all := sorry
theorem q2371 : (Jvm.Cond.laysFinal "KrylovLaboratory$Not" "KrylovLaboratory$Not" "operand" "LKrylovLaboratory$Test;") ∈ lw_all := sorry
theorem q2372 : (Jvm.Cond.soleField "KrylovLaboratory$Not" "operand") ∈ lw_all := sorry
theorem q2373 : (Jvm.Cond.superclass "KrylovLaboratory$Not" "KrylovLaboratory$Test") ∈ lw_all := sorry
theorem q2417 : (Jvm.Cond.selects "KrylovLaboratory$Not" ({ cls := "java/lang/Object", name := "equals", desc := "(Ljava/lang/Object;)Z" } : Jvm.MethodName) ({ cls := "java/lang/Object", name := "equals", desc := "(Ljava/lang/Object;)Z" } : Jvm.MethodName)) ∈ lw_all := sorry
theorem q2521 : (Jvm.Cond.instanceMethod ({ cls := "KrylovLaboratory$Not", name := "holds", desc := "(LKrylovLaboratory$State;I)Z" } : Jvm.MethodName)) ∈ lw_all := sorry
theorem q2522 : (Jvm.Cond.code ({ cls := "KrylovLaboratory$Not", name := "holds", desc := "(LKrylovLaboratory$State;I)Z" } : Jvm.MethodName) prog_7_method_2_code (3 : Nat) (Option.some Jvm.ClassFile.FieldType.boolean)) ∈ lw_all := sorry
theorem q2523 : (Jvm.Cond.methodLink "KrylovLaboratory$Not" (13 : Nat) ({ cls := "KrylovLaboratory$Test", name := "holds", desc := "(LKrylovLaboratory$State;I)Z" } : Jvm.MethodName)) ∈ lw_all := sorry
theorem q2524 : (Jvm.Cond.selects "KrylovLaboratory$Not" ({ cls := "KrylovLaboratory$Test", name := "holds", desc := "(LKrylovLaboratory$State;I)Z" } : Jvm.MethodName) ({ cls := "KrylovLaboratory$Not", name := "holds", desc := "(LKrylovLaboratory$State;I)Z" } : Jvm.MethodName)) ∈ lw_all := sorry
theorem q3228 : (Jvm.Cond.castable "KrylovLaboratory$Not" "KrylovLaboratory$Test") ∈ lw_tbl := sorry
theorem q3258 : (Jvm.Cond.castable "KrylovLaboratory$Not" "java/lang/Object") ∈ lw_tbl := sorry
theorem in_X13 : ∀ w ∈ wsX130, w ∈ lw_all := sorry
/-! KrylovLaboratory$Comparison -/
set_option maxRecDepth 100000
def RX14 : String := "KrylovLaboratory$Comparison"
def TX14 : u_T := fun k => match k with
  | 0 => ("KrylovLaboratory$Comparison", "left", "I", true)
  | 1 => ("KrylovLaboratory$Comparison", "sign", "I", true)
  | _ => ("KrylovLaboratory$Comparison", "right", "I", true)
def tyX14 : Nat → FieldType := fun k => match k with
  | 0 => .int
  | 1 => .int
  | _ => .int
abbrev wsX140 : List Cond := u_ws RX14 TX14 3
theorem nmX14 : ∀ a, a < 3 → ∀ b, b < 3 → a ≠ b → (TX14 a).2.1 ≠ (TX14 b).2.1 := sorry
theorem tyX14_ok : ∀ k, k < 3 → parseFieldDescriptor (TX14 k).2.2.1 = some (tyX14 k) := sorry
abbrev cX14_init : ByteArray := prog_2_method_1_code
def yX14_init : MethodName := ⟨RX14, "<init>", "(III)V"⟩
def dkwX14_init_0 : List UInt8 := [42, 183, 0, 1, 42, 27, 181, 0, 7, 42, 28, 181, 0, 13, 42, 29, 181, 0, 16, 177]
abbrev dktX14_init_0 : List UInt8 := dkwX14_init_0 ++ []
theorem dksX14_init_0 : cX14_init.data.toList.drop 0 = dktX14_init_0 := sorry
theorem dX14_init_0 : decode cX14_init 0 = .ok (.aload_n 0, 1) := sorry
theorem dX14_init_1 : decode cX14_init 1 = .ok (.invokespecial 1, 3) := sorry
theorem dX14_init_4 : decode cX14_init 4 = .ok (.aload_n 0, 1) := sorry
theorem dX14_init_5 : decode cX14_init 5 = .ok (.iload_n 1, 1) := sorry
theorem dX14_init_6 : decode cX14_init 6 = .ok (.putfield 7, 3) := sorry
theorem dX14_init_9 : decode cX14_init 9 = .ok (.aload_n 0, 1) := sorry
theorem dX14_init_10 : decode cX14_init 10 = .ok (.iload_n 2, 1) := sorry
theorem dX14_init_11 : decode cX14_init 11 = .ok (.putfield 13, 3) := sorry
theorem dX14_init_14 : decode cX14_init 14 = .ok (.aload_n 0, 1) := sorry
theorem dX14_init_15 : decode cX14_init 15 = .ok (.iload_n 3, 1) := sorry
theorem dX14_init_16 : decode cX14_init 16 = .ok (.putfield 16, 3) := sorry
theorem dX14_init_19 : decode cX14_init 19 = .ok (.return_, 1) := sorry
abbrev cX14_holds : ByteArray := prog_2_method_2_code
def yX14_holds : MethodName := ⟨RX14, "holds", "(LKrylovLaboratory$State;I)Z"⟩
def dkwX14_holds_3 : List UInt8 := [21, 4, 160, 0, 7, 4, 167, 0, 4, 3, 172]
abbrev dktX14_holds_3 : List UInt8 := dkwX14_holds_3 ++ []
def dkwX14_holds_2 : List UInt8 := [180, 0, 13, 16, 62, 160, 0, 17, 29, 21, 4, 164, 0, 7, 4, 167, 0, 18, 3, 167, 0, 14, 29]
abbrev dktX14_holds_2 : List UInt8 := dkwX14_holds_2 ++ dktX14_holds_3
def dkwX14_holds_1 : List UInt8 := [180, 0, 13, 16, 60, 160, 0, 17, 29, 21, 4, 162, 0, 7, 4, 167, 0, 41, 3, 167, 0, 37, 42]
abbrev dktX14_holds_1 : List UInt8 := dkwX14_holds_1 ++ dktX14_holds_2
def dkwX14_holds_0 : List UInt8 := [42, 180, 0, 7, 43, 28, 184, 0, 19, 62, 42, 180, 0, 16, 43, 28, 184, 0, 19, 54, 4, 42]
abbrev dktX14_holds_0 : List UInt8 := dkwX14_holds_0 ++ dktX14_holds_1
theorem dksX14_holds_0 : cX14_holds.data.toList.drop 0 = dktX14_holds_0 := sorry
theorem dksX14_holds_1 : cX14_holds.data.toList.drop 22 = dktX14_holds_1 := sorry
theorem dksX14_holds_2 : cX14_holds.data.toList.drop 45 = dktX14_holds_2 := sorry
theorem dksX14_holds_3 : cX14_holds.data.toList.drop 68 = dktX14_holds_3 := sorry
theorem dX14_holds_0 : decode cX14_holds 0 = .ok (.aload_n 0, 1) := sorry
theorem dX14_holds_1 : decode cX14_holds 1 = .ok (.getfield 7, 3) := sorry
theorem dX14_holds_4 : decode cX14_holds 4 = .ok (.aload_n 1, 1) := sorry
theorem dX14_holds_5 : decode cX14_holds 5 = .ok (.iload_n 2, 1) := sorry
theorem dX14_holds_6 : decode cX14_holds 6 = .ok (.invokestatic 19, 3) := sorry
theorem dX14_holds_9 : decode cX14_holds 9 = .ok (.istore_n 3, 1) := sorry
theorem dX14_holds_10 : decode cX14_holds 10 = .ok (.aload_n 0, 1) := sorry
theorem dX14_holds_11 : decode cX14_holds 11 = .ok (.getfield 16, 3) := sorry
theorem dX14_holds_14 : decode cX14_holds 14 = .ok (.aload_n 1, 1) := sorry
theorem dX14_holds_15 : decode cX14_holds 15 = .ok (.iload_n 2, 1) := sorry
theorem dX14_holds_16 : decode cX14_holds 16 = .ok (.invokestatic 19, 3) := sorry
theorem dX14_holds_19 : decode cX14_holds 19 = .ok (.istore 4, 2) := sorry
theorem dX14_holds_21 : decode cX14_holds 21 = .ok (.aload_n 0, 1) := sorry
theorem dX14_holds_22 : decode cX14_holds 22 = .ok (.getfield 13, 3) := sorry
theorem dX14_holds_25 : decode cX14_holds 25 = .ok (.bipush 60, 2) := sorry
theorem dX14_holds_27 : decode cX14_holds 27 = .ok (.if_icmp .ne 17, 3) := sorry
theorem dX14_holds_30 : decode cX14_holds 30 = .ok (.iload_n 3, 1) := sorry
theorem dX14_holds_31 : decode cX14_holds 31 = .ok (.iload 4, 2) := sorry
theorem dX14_holds_33 : decode cX14_holds 33 = .ok (.if_icmp .ge 7, 3) := sorry
theorem dX14_holds_36 : decode cX14_holds 36 = .ok (.iconst 1, 1) := sorry
theorem dX14_holds_37 : decode cX14_holds 37 = .ok (.goto 41, 3) := sorry
theorem dX14_holds_40 : decode cX14_holds 40 = .ok (.iconst 0, 1) := sorry
theorem dX14_holds_41 : decode cX14_holds 41 = .ok (.goto 37, 3) := sorry
theorem dX14_holds_44 : decode cX14_holds 44 = .ok (.aload_n 0, 1) := sorry
theorem dX14_holds_45 : decode cX14_holds 45 = .ok (.getfield 13, 3) := sorry
theorem dX14_holds_48 : decode cX14_holds 48 = .ok (.bipush 62, 2) := sorry
theorem dX14_holds_50 : decode cX14_holds 50 = .ok (.if_icmp .ne 17, 3) := sorry
theorem dX14_holds_53 : decode cX14_holds 53 = .ok (.iload_n 3, 1) := sorry
theorem dX14_holds_54 : decode cX14_holds 54 = .ok (.iload 4, 2) := sorry
theorem dX14_holds_56 : decode cX14_holds 56 = .ok (.if_icmp .le 7, 3) := sorry
theorem dX14_holds_59 : decode cX14_holds 59 = .ok (.iconst 1, 1) := sorry
theorem dX14_holds_60 : decode cX14_holds 60 = .ok (.goto 18, 3) := sorry
theorem dX14_holds_63 : decode cX14_holds 63 = .ok (.iconst 0, 1) := sorry
theorem dX14_holds_64 : decode cX14_holds 64 = .ok (.goto 14, 3) := sorry
theorem dX14_holds_67 : decode cX14_holds 67 = .ok (.iload_n 3, 1) := sorry
theorem dX14_holds_68 : decode cX14_holds 68 = .ok (.iload 4, 2) := sorry
theorem dX14_holds_70 : decode cX14_holds 70 = .ok (.if_icmp .ne 7, 3) := sorry
theorem dX14_holds_73 : decode cX14_holds 73 = .ok (.iconst 1, 1) := sorry
theorem dX14_holds_74 : decode cX14_holds 74 = .ok (.goto 4, 3) := sorry
theorem dX14_holds_77 : decode cX14_holds 77 = .ok (.iconst 0, 1) := sorry
theorem dX14_holds_78 : decode cX14_holds 78 = .ok (.ireturn, 1) := sorry
abbrev cX14_value : ByteArray := prog_2_method_3_code
def yX14_value : MethodName := ⟨RX14, "value", "(ILKrylovLaboratory$State;I)I"⟩
def dkwX14_value_4 : List UInt8 := [182, 0, 46, 136, 167, 0, 11, 43, 28, 182, 0, 49, 184, 0, 40, 172]
abbrev dktX14_value_4 : List UInt8 := dkwX14_value_4 ++ []
def dkwX14_value_3 : List UInt8 := [182, 0, 29, 9, 148, 158, 0, 7, 4, 167, 0, 4, 3, 184, 0, 40, 167, 0, 23, 43, 180, 0, 23, 28]
abbrev dktX14_value_3 : List UInt8 := dkwX14_value_3 ++ dktX14_value_4
def dkwX14_value_2 : List UInt8 := [28, 167, 0, 62, 43, 180, 0, 23, 28, 182, 0, 29, 184, 0, 34, 136, 167, 0, 47, 43, 180, 0, 23, 28]
abbrev dktX14_value_2 : List UInt8 := dkwX14_value_2 ++ dktX14_value_3
def dkwX14_value_1 : List UInt8 := [170, 0, 0, 0, 0, 0, 86, 0, 0, 0, 0, 0, 0, 0, 3, 0, 0, 0, 31, 0, 0, 0, 35, 0, 0, 0, 50, 0, 0, 0, 74]
abbrev dktX14_value_1 : List UInt8 := dkwX14_value_1 ++ dktX14_value_2
def dkwX14_value_0 : List UInt8 := [26, 156, 0, 7, 2, 26, 100, 172, 26]
abbrev dktX14_value_0 : List UInt8 := dkwX14_value_0 ++ dktX14_value_1
theorem dksX14_value_0 : cX14_value.data.toList.drop 0 = dktX14_value_0 := sorry
theorem dksX14_value_1 : cX14_value.data.toList.drop 9 = dktX14_value_1 := sorry
theorem dksX14_value_2 : cX14_value.data.toList.drop 40 = dktX14_value_2 := sorry
theorem dksX14_value_3 : cX14_value.data.toList.drop 64 = dktX14_value_3 := sorry
theorem dksX14_value_4 : cX14_value.data.toList.drop 88 = dktX14_value_4 := sorry
theorem dX14_value_0 : decode cX14_value 0 = .ok (.iload_n 0, 1) := sorry
theorem dX14_value_1 : decode cX14_value 1 = .ok (.ifCond .ge 7, 3) := sorry
theorem dX14_value_4 : decode cX14_value 4 = .ok (.iconst (-1), 1) := sorry
theorem dX14_value_5 : decode cX14_value 5 = .ok (.iload_n 0, 1) := sorry
theorem dX14_value_6 : decode cX14_value 6 = .ok (.isub, 1) := sorry
theorem dX14_value_7 : decode cX14_value 7 = .ok (.ireturn, 1) := sorry
theorem dX14_value_8 : decode cX14_value 8 = .ok (.iload_n 0, 1) := sorry
theorem dX14_value_9 : decode cX14_value 9 = .ok (.tableswitch 86 0 3 #[31, 35, 50, 74], 31) := sorry
theorem dX14_value_40 : decode cX14_value 40 = .ok (.iload_n 2, 1) := sorry
theorem dX14_value_41 : decode cX14_value 41 = .ok (.goto 62, 3) := sorry
theorem dX14_value_44 : decode cX14_value 44 = .ok (.aload_n 1, 1) := sorry
theorem dX14_value_45 : decode cX14_value 45 = .ok (.getfield 23, 3) := sorry
theorem dX14_value_48 : decode cX14_value 48 = .ok (.iload_n 2, 1) := sorry
theorem dX14_value_49 : decode cX14_value 49 = .ok (.invokevirtual 29, 3) := sorry
theorem dX14_value_52 : decode cX14_value 52 = .ok (.invokestatic 34, 3) := sorry
theorem dX14_value_55 : decode cX14_value 55 = .ok (.l2i, 1) := sorry
theorem dX14_value_56 : decode cX14_value 56 = .ok (.goto 47, 3) := sorry
theorem dX14_value_59 : decode cX14_value 59 = .ok (.aload_n 1, 1) := sorry
theorem dX14_value_60 : decode cX14_value 60 = .ok (.getfield 23, 3) := sorry
theorem dX14_value_63 : decode cX14_value 63 = .ok (.iload_n 2, 1) := sorry
theorem dX14_value_64 : decode cX14_value 64 = .ok (.invokevirtual 29, 3) := sorry
theorem dX14_value_67 : decode cX14_value 67 = .ok (.lconst 0, 1) := sorry
theorem dX14_value_68 : decode cX14_value 68 = .ok (.lcmp, 1) := sorry
theorem dX14_value_69 : decode cX14_value 69 = .ok (.ifCond .le 7, 3) := sorry
theorem dX14_value_72 : decode cX14_value 72 = .ok (.iconst 1, 1) := sorry
theorem dX14_value_73 : decode cX14_value 73 = .ok (.goto 4, 3) := sorry
theorem dX14_value_76 : decode cX14_value 76 = .ok (.iconst 0, 1) := sorry
theorem dX14_value_77 : decode cX14_value 77 = .ok (.invokestatic 40, 3) := sorry
theorem dX14_value_80 : decode cX14_value 80 = .ok (.goto 23, 3) := sorry
theorem dX14_value_83 : decode cX14_value 83 = .ok (.aload_n 1, 1) := sorry
theorem dX14_value_84 : decode cX14_value 84 = .ok (.getfield 23, 3) := sorry
theorem dX14_value_87 : decode cX14_value 87 = .ok (.iload_n 2, 1) := sorry
theorem dX14_value_88 : decode cX14_value 88 = .ok (.invokevirtual 46, 3) := sorry
theorem dX14_value_91 : decode cX14_value 91 = .ok (.l2i, 1) := sorry
theorem dX14_value_92 : decode cX14_value 92 = .ok (.goto 11, 3) := sorry
theorem dX14_value_95 : decode cX14_value 95 = .ok (.aload_n 1, 1) := sorry
theorem dX14_value_96 : decode cX14_value 96 = .ok (.iload_n 2, 1) := sorry
theorem dX14_value_97 : decode cX14_value 97 = .ok (.invokevirtual 49, 3) := sorry
theorem dX14_value_100 : decode cX14_value 100 = .ok (.invokestatic 40, 3) := sorry
theorem dX14_value_103 : decode cX14_value 103 = .ok (.ireturn, 1) := sorry
theorem q185 : (Jvm.Cond.initialized "KrylovLaboratory$Comparison") ∈ lw_all := sorry
theorem q271 : (Jvm.Cond.fieldLinkNest "KrylovLaboratory$Comparison" (23 : Nat) "KrylovLaboratory$State" "space" "LKrylovLaboratory$Space;" "KrylovLaboratory") ∈ lw_tbl := sorry
theorem q557 : (Jvm.Cond.selects "KrylovLaboratory$Comparison" ({ cls := "java/lang/Object", name := "getClass", desc := "()Ljava/lang/Class;" } : Jvm.MethodName) ({ cls := "java/lang/Object", name := "getClass", desc := "()Ljava/lang/Class;" } : Jvm.MethodName)) ∈ lw_all := sorry
theorem q2412 : (Jvm.Cond.selects "KrylovLaboratory$Comparison" ({ cls := "java/lang/Object", name := "equals", desc := "(Ljava/lang/Object;)Z" } : Jvm.MethodName) ({ cls := "java/lang/Object", name := "equals", desc := "(Ljava/lang/Object;)Z" } : Jvm.MethodName)) ∈ lw_all := sorry
theorem q2464 : (Jvm.Cond.instantiable "KrylovLaboratory$Comparison" (3 : Nat)) ∈ lw_all := sorry
theorem q2466 : (Jvm.Cond.instanceMethod ({ cls := "KrylovLaboratory$Comparison", name := "<init>", desc := "(III)V" } : Jvm.MethodName)) ∈ lw_all := sorry
theorem q2467 : (Jvm.Cond.code ({ cls := "KrylovLaboratory$Comparison", name := "<init>", desc := "(III)V" } : Jvm.MethodName) prog_2_method_1_code (4 : Nat) (Option.none : Option Jvm.ClassFile.FieldType)) ∈ lw_all := sorry
theorem q2468 : (Jvm.Cond.methodLinkNest "KrylovLaboratory$Comparison" (1 : Nat) ({ cls := "KrylovLaboratory$Test", name := "<init>", desc := "()V" } : Jvm.MethodName) "KrylovLaboratory") ∈ lw_tbl := sorry
theorem q2469 : (Jvm.Cond.fieldLink "KrylovLaboratory$Comparison" (7 : Nat) "KrylovLaboratory$Comparison" "left" "I") ∈ lw_all := sorry
theorem q2470 : (Jvm.Cond.fieldLink "KrylovLaboratory$Comparison" (13 : Nat) "KrylovLaboratory$Comparison" "sign" "I") ∈ lw_all := sorry
theorem q2471 : (Jvm.Cond.fieldLink "KrylovLaboratory$Comparison" (16 : Nat) "KrylovLaboratory$Comparison" "right" "I") ∈ lw_all := sorry
theorem q2472 : (Jvm.Cond.laysFinal "KrylovLaboratory$Comparison" "KrylovLaboratory$Comparison" "left" "I") ∈ lw_all := sorry
theorem q2473 : (Jvm.Cond.soleField "KrylovLaboratory$Comparison" "left") ∈ lw_all := sorry
theorem q2474 : (Jvm.Cond.laysFinal "KrylovLaboratory$Comparison" "KrylovLaboratory$Comparison" "sign" "I") ∈ lw_all := sorry
theorem q2475 : (Jvm.Cond.soleField "KrylovLaboratory$Comparison" "sign") ∈ lw_all := sorry
theorem q2476 : (Jvm.Cond.laysFinal "KrylovLaboratory$Comparison" "KrylovLaboratory$Comparison" "right" "I") ∈ lw_all := sorry
theorem q2477 : (Jvm.Cond.soleField "KrylovLaboratory$Comparison" "right") ∈ lw_all := sorry
theorem q2478 : (Jvm.Cond.superclass "KrylovLaboratory$Comparison" "KrylovLaboratory$Test") ∈ lw_all := sorry
theorem q2500 : (Jvm.Cond.selects "KrylovLaboratory$Comparison" ({ cls := "KrylovLaboratory$Test", name := "holds", desc := "(LKrylovLaboratory$State;I)Z" } : Jvm.MethodName) ({ cls := "KrylovLaboratory$Comparison", name := "holds", desc := "(LKrylovLaboratory$State;I)Z" } : Jvm.MethodName)) ∈ lw_all := sorry
theorem q2501 : (Jvm.Cond.instanceMethod ({ cls := "KrylovLaboratory$Comparison", name := "holds", desc := "(LKrylovLaboratory$State;I)Z" } : Jvm.MethodName)) ∈ lw_all := sorry
theorem q2502 : (Jvm.Cond.code ({ cls := "KrylovLaboratory$Comparison", name := "holds", desc := "(LKrylovLaboratory$State;I)Z" } : Jvm.MethodName) prog_2_method_2_code (5 : Nat) (Option.some Jvm.ClassFile.FieldType.boolean)) ∈ lw_all := sorry
theorem q2503 : (Jvm.Cond.methodLink "KrylovLaboratory$Comparison" (19 : Nat) ({ cls := "KrylovLaboratory$Comparison", name := "value", desc := "(ILKrylovLaboratory$State;I)I" } : Jvm.MethodName)) ∈ lw_all := sorry
theorem q2504 : (Jvm.Cond.static ({ cls := "KrylovLaboratory$Comparison", name := "value", desc := "(ILKrylovLaboratory$State;I)I" } : Jvm.MethodName)) ∈ lw_all := sorry
theorem q2505 : (Jvm.Cond.code ({ cls := "KrylovLaboratory$Comparison", name := "value", desc := "(ILKrylovLaboratory$State;I)I" } : Jvm.MethodName) prog_2_method_3_code (3 : Nat) (Option.some Jvm.ClassFile.FieldType.int)) ∈ lw_all := sorry
theorem q2506 : (Jvm.Cond.methodLink "KrylovLaboratory$Comparison" (29 : Nat) ({ cls := "KrylovLaboratory$Space", name := "value", desc := "(I)J" } : Jvm.MethodName)) ∈ lw_all := sorry
theorem q2507 : (Jvm.Cond.methodLink "KrylovLaboratory$Comparison" (34 : Nat) ({ cls := "java/lang/Math", name := "abs", desc := "(J)J" } : Jvm.MethodName)) ∈ lw_all := sorry
theorem q2508 : (Jvm.Cond.methodLinkNest "KrylovLaboratory$Comparison" (40 : Nat) ({ cls := "KrylovLaboratory", name := "asInt", desc := "(Z)I" } : Jvm.MethodName) "KrylovLaboratory") ∈ lw_tbl := sorry
theorem q2509 : (Jvm.Cond.methodLink "KrylovLaboratory$Comparison" (46 : Nat) ({ cls := "KrylovLaboratory$Space", name := "bound", desc := "(I)J" } : Jvm.MethodName)) ∈ lw_all := sorry
theorem q2510 : (Jvm.Cond.methodLink "KrylovLaboratory$Comparison" (49 : Nat) ({ cls := "KrylovLaboratory$State", name := "isLocked", desc := "(I)Z" } : Jvm.MethodName)) ∈ lw_all := sorry
theorem q3226 : (Jvm.Cond.castable "KrylovLaboratory$Comparison" "KrylovLaboratory$Test") ∈ lw_tbl := sorry
theorem q3259 : (Jvm.Cond.castable "KrylovLaboratory$Comparison" "java/lang/Object") ∈ lw_tbl := sorry
theorem in_X14 : ∀ w ∈ wsX140, w ∈ lw_all := sorry
/-! KrylovLaboratory$Joined -/
set_option maxRecDepth 100000
def RX15 : String := "KrylovLaboratory$Joined"
def TX15 : u_T := fun k => match k with
  | 0 => ("KrylovLaboratory$Joined", "operands", "Ljava/util/ArrayList;", true)
  | _ => ("KrylovLaboratory$Joined", "isAny", "Z", true)
def tyX15 : Nat → FieldType := fun k => match k with
  | 0 => .object "java/util/ArrayList"
  | _ => .boolean
abbrev wsX150 : List Cond := u_ws RX15 TX15 2
theorem nmX15 : ∀ a, a < 2 → ∀ b, b < 2 → a ≠ b → (TX15 a).2.1 ≠ (TX15 b).2.1 := sorry
theorem tyX15_ok : ∀ k, k < 2 → parseFieldDescriptor (TX15 k).2.2.1 = some (tyX15 k) := sorry
abbrev cX15_init : ByteArray := prog_3_method_1_code
def yX15_init : MethodName := ⟨RX15, "<init>", "(Ljava/util/ArrayList;Z)V"⟩
def dkwX15_init_0 : List UInt8 := [42, 183, 0, 1, 42, 43, 181, 0, 7, 42, 28, 181, 0, 13, 177]
abbrev dktX15_init_0 : List UInt8 := dkwX15_init_0 ++ []
theorem dksX15_init_0 : cX15_init.data.toList.drop 0 = dktX15_init_0 := sorry
theorem dX15_init_0 : decode cX15_init 0 = .ok (.aload_n 0, 1) := sorry
theorem dX15_init_1 : decode cX15_init 1 = .ok (.invokespecial 1, 3) := sorry
theorem dX15_init_4 : decode cX15_init 4 = .ok (.aload_n 0, 1) := sorry
theorem dX15_init_5 : decode cX15_init 5 = .ok (.aload_n 1, 1) := sorry
theorem dX15_init_6 : decode cX15_init 6 = .ok (.putfield 7, 3) := sorry
theorem dX15_init_9 : decode cX15_init 9 = .ok (.aload_n 0, 1) := sorry
theorem dX15_init_10 : decode cX15_init 10 = .ok (.iload_n 2, 1) := sorry
theorem dX15_init_11 : decode cX15_init 11 = .ok (.putfield 13, 3) := sorry
theorem dX15_init_14 : decode cX15_init 14 = .ok (.return_, 1) := sorry
abbrev cX15_holds : ByteArray := prog_3_method_2_code
def yX15_holds : MethodName := ⟨RX15, "holds", "(LKrylovLaboratory$State;I)Z"⟩
def dkwX15_holds_2 : List UInt8 := [180, 0, 13, 154, 0, 7, 4, 167, 0, 4, 3, 172]
abbrev dktX15_holds_2 : List UInt8 := dkwX15_holds_2 ++ []
def dkwX15_holds_1 : List UInt8 := [43, 28, 182, 0, 27, 42, 180, 0, 13, 160, 0, 8, 42, 180, 0, 13, 172, 132, 3, 1, 167, 255, 214, 42]
abbrev dktX15_holds_1 : List UInt8 := dkwX15_holds_1 ++ dktX15_holds_2
def dkwX15_holds_0 : List UInt8 := [3, 62, 29, 42, 180, 0, 7, 182, 0, 17, 162, 0, 37, 42, 180, 0, 7, 29, 182, 0, 23, 192, 0, 2]
abbrev dktX15_holds_0 : List UInt8 := dkwX15_holds_0 ++ dktX15_holds_1
theorem dksX15_holds_0 : cX15_holds.data.toList.drop 0 = dktX15_holds_0 := sorry
theorem dksX15_holds_1 : cX15_holds.data.toList.drop 24 = dktX15_holds_1 := sorry
theorem dksX15_holds_2 : cX15_holds.data.toList.drop 48 = dktX15_holds_2 := sorry
theorem dX15_holds_0 : decode cX15_holds 0 = .ok (.iconst 0, 1) := sorry
theorem dX15_holds_1 : decode cX15_holds 1 = .ok (.istore_n 3, 1) := sorry
theorem dX15_holds_2 : decode cX15_holds 2 = .ok (.iload_n 3, 1) := sorry
theorem dX15_holds_3 : decode cX15_holds 3 = .ok (.aload_n 0, 1) := sorry
theorem dX15_holds_4 : decode cX15_holds 4 = .ok (.getfield 7, 3) := sorry
theorem dX15_holds_7 : decode cX15_holds 7 = .ok (.invokevirtual 17, 3) := sorry
theorem dX15_holds_10 : decode cX15_holds 10 = .ok (.if_icmp .ge 37, 3) := sorry
theorem dX15_holds_13 : decode cX15_holds 13 = .ok (.aload_n 0, 1) := sorry
theorem dX15_holds_14 : decode cX15_holds 14 = .ok (.getfield 7, 3) := sorry
theorem dX15_holds_17 : decode cX15_holds 17 = .ok (.iload_n 3, 1) := sorry
theorem dX15_holds_18 : decode cX15_holds 18 = .ok (.invokevirtual 23, 3) := sorry
theorem dX15_holds_21 : decode cX15_holds 21 = .ok (.checkcast 2, 3) := sorry
theorem dX15_holds_24 : decode cX15_holds 24 = .ok (.aload_n 1, 1) := sorry
theorem dX15_holds_25 : decode cX15_holds 25 = .ok (.iload_n 2, 1) := sorry
theorem dX15_holds_26 : decode cX15_holds 26 = .ok (.invokevirtual 27, 3) := sorry
theorem dX15_holds_29 : decode cX15_holds 29 = .ok (.aload_n 0, 1) := sorry
theorem dX15_holds_30 : decode cX15_holds 30 = .ok (.getfield 13, 3) := sorry
theorem dX15_holds_33 : decode cX15_holds 33 = .ok (.if_icmp .ne 8, 3) := sorry
theorem dX15_holds_36 : decode cX15_holds 36 = .ok (.aload_n 0, 1) := sorry
theorem dX15_holds_37 : decode cX15_holds 37 = .ok (.getfield 13, 3) := sorry
theorem dX15_holds_40 : decode cX15_holds 40 = .ok (.ireturn, 1) := sorry
theorem dX15_holds_41 : decode cX15_holds 41 = .ok (.iinc 3 1, 3) := sorry
theorem dX15_holds_44 : decode cX15_holds 44 = .ok (.goto (-42), 3) := sorry
theorem dX15_holds_47 : decode cX15_holds 47 = .ok (.aload_n 0, 1) := sorry
theorem dX15_holds_48 : decode cX15_holds 48 = .ok (.getfield 13, 3) := sorry
theorem dX15_holds_51 : decode cX15_holds 51 = .ok (.ifCond .ne 7, 3) := sorry
theorem dX15_holds_54 : decode cX15_holds 54 = .ok (.iconst 1, 1) := sorry
theorem dX15_holds_55 : decode cX15_holds 55 = .ok (.goto 4, 3) := sorry
theorem dX15_holds_58 : decode cX15_holds 58 = .ok (.iconst 0, 1) := sorry
theorem dX15_holds_59 : decode cX15_holds 59 = .ok (.ireturn, 1) := sorry
theorem q186 : (Jvm.Cond.initialized "KrylovLaboratory$Joined") ∈ lw_all := sorry
theorem q558 : (Jvm.Cond.selects "KrylovLaboratory$Joined" ({ cls := "java/lang/Object", name := "getClass", desc := "()Ljava/lang/Class;" } : Jvm.MethodName) ({ cls := "java/lang/Object", name := "getClass", desc := "()Ljava/lang/Class;" } : Jvm.MethodName)) ∈ lw_all := sorry
theorem q2413 : (Jvm.Cond.selects "KrylovLaboratory$Joined" ({ cls := "java/lang/Object", name := "equals", desc := "(Ljava/lang/Object;)Z" } : Jvm.MethodName) ({ cls := "java/lang/Object", name := "equals", desc := "(Ljava/lang/Object;)Z" } : Jvm.MethodName)) ∈ lw_all := sorry
theorem q2482 : (Jvm.Cond.instantiable "KrylovLaboratory$Joined" (2 : Nat)) ∈ lw_all := sorry
theorem q2484 : (Jvm.Cond.instanceMethod ({ cls := "KrylovLaboratory$Joined", name := "<init>", desc := "(Ljava/util/ArrayList;Z)V" } : Jvm.MethodName)) ∈ lw_all := sorry
theorem q2485 : (Jvm.Cond.code ({ cls := "KrylovLaboratory$Joined", name := "<init>", desc := "(Ljava/util/ArrayList;Z)V" } : Jvm.MethodName) prog_3_method_1_code (3 : Nat) (Option.none : Option Jvm.ClassFile.FieldType)) ∈ lw_all := sorry
theorem q2486 : (Jvm.Cond.methodLinkNest "KrylovLaboratory$Joined" (1 : Nat) ({ cls := "KrylovLaboratory$Test", name := "<init>", desc := "()V" } : Jvm.MethodName) "KrylovLaboratory") ∈ lw_tbl := sorry
theorem q2487 : (Jvm.Cond.fieldLink "KrylovLaboratory$Joined" (7 : Nat) "KrylovLaboratory$Joined" "operands" "Ljava/util/ArrayList;") ∈ lw_all := sorry
theorem q2488 : (Jvm.Cond.fieldLink "KrylovLaboratory$Joined" (13 : Nat) "KrylovLaboratory$Joined" "isAny" "Z") ∈ lw_all := sorry
theorem q2489 : (Jvm.Cond.laysFinal "KrylovLaboratory$Joined" "KrylovLaboratory$Joined" "operands" "Ljava/util/ArrayList;") ∈ lw_all := sorry
theorem q2490 : (Jvm.Cond.soleField "KrylovLaboratory$Joined" "operands") ∈ lw_all := sorry
theorem q2491 : (Jvm.Cond.laysFinal "KrylovLaboratory$Joined" "KrylovLaboratory$Joined" "isAny" "Z") ∈ lw_all := sorry
theorem q2492 : (Jvm.Cond.soleField "KrylovLaboratory$Joined" "isAny") ∈ lw_all := sorry
theorem q2493 : (Jvm.Cond.superclass "KrylovLaboratory$Joined" "KrylovLaboratory$Test") ∈ lw_all := sorry
theorem q2514 : (Jvm.Cond.selects "KrylovLaboratory$Joined" ({ cls := "KrylovLaboratory$Test", name := "holds", desc := "(LKrylovLaboratory$State;I)Z" } : Jvm.MethodName) ({ cls := "KrylovLaboratory$Joined", name := "holds", desc := "(LKrylovLaboratory$State;I)Z" } : Jvm.MethodName)) ∈ lw_all := sorry
theorem q2515 : (Jvm.Cond.instanceMethod ({ cls := "KrylovLaboratory$Joined", name := "holds", desc := "(LKrylovLaboratory$State;I)Z" } : Jvm.MethodName)) ∈ lw_all := sorry
theorem q2516 : (Jvm.Cond.code ({ cls := "KrylovLaboratory$Joined", name := "holds", desc := "(LKrylovLaboratory$State;I)Z" } : Jvm.MethodName) prog_3_method_2_code (4 : Nat) (Option.some Jvm.ClassFile.FieldType.boolean)) ∈ lw_all := sorry
theorem q2517 : (Jvm.Cond.methodLink "KrylovLaboratory$Joined" (17 : Nat) ({ cls := "java/util/ArrayList", name := "size", desc := "()I" } : Jvm.MethodName)) ∈ lw_all := sorry
theorem q2518 : (Jvm.Cond.methodLink "KrylovLaboratory$Joined" (23 : Nat) ({ cls := "java/util/ArrayList", name := "get", desc := "(I)Ljava/lang/Object;" } : Jvm.MethodName)) ∈ lw_all := sorry
theorem q2519 : (Jvm.Cond.classLink "KrylovLaboratory$Joined" (2 : Nat) "KrylovLaboratory$Test") ∈ lw_all := sorry
theorem q2520 : (Jvm.Cond.methodLink "KrylovLaboratory$Joined" (27 : Nat) ({ cls := "KrylovLaboratory$Test", name := "holds", desc := "(LKrylovLaboratory$State;I)Z" } : Jvm.MethodName)) ∈ lw_all := sorry
theorem q3227 : (Jvm.Cond.castable "KrylovLaboratory$Joined" "KrylovLaboratory$Test") ∈ lw_tbl := sorry
theorem q3260 : (Jvm.Cond.castable "KrylovLaboratory$Joined" "java/lang/Object") ∈ lw_tbl := sorry
theorem in_X15 : ∀ w ∈ wsX150, w ∈ lw_all := sorry
/-! KrylovLaboratory$Scanner -/
set_option maxRecDepth 100000
def RX7 : String := "KrylovLaboratory$Scanner"
abbrev cX7_init : ByteArray := prog_9_method_1_code
def yX7_init : MethodName := ⟨RX7, "<init>", "(LKrylovLaboratory;I)V"⟩
def dkwX7_init_1 : List UInt8 := [181, 0, 22, 42, 182, 0, 26, 177]
abbrev dktX7_init_1 : List UInt8 := dkwX7_init_1 ++ []
def dkwX7_init_0 : List UInt8 := [42, 43, 181, 0, 3, 42, 183, 0, 9, 42, 187, 0, 15, 89, 183, 0, 17, 181, 0, 18, 42, 28]
abbrev dktX7_init_0 : List UInt8 := dkwX7_init_0 ++ dktX7_init_1
theorem dksX7_init_0 : cX7_init.data.toList.drop 0 = dktX7_init_0 := sorry
theorem dksX7_init_1 : cX7_init.data.toList.drop 22 = dktX7_init_1 := sorry
theorem dX7_init_0 : decode cX7_init 0 = .ok (.aload_n 0, 1) := sorry
theorem dX7_init_1 : decode cX7_init 1 = .ok (.aload_n 1, 1) := sorry
theorem dX7_init_2 : decode cX7_init 2 = .ok (.putfield 3, 3) := sorry
theorem dX7_init_5 : decode cX7_init 5 = .ok (.aload_n 0, 1) := sorry
theorem dX7_init_6 : decode cX7_init 6 = .ok (.invokespecial 9, 3) := sorry
theorem dX7_init_9 : decode cX7_init 9 = .ok (.aload_n 0, 1) := sorry
theorem dX7_init_10 : decode cX7_init 10 = .ok (.new 15, 3) := sorry
theorem dX7_init_13 : decode cX7_init 13 = .ok (.dup, 1) := sorry
theorem dX7_init_14 : decode cX7_init 14 = .ok (.invokespecial 17, 3) := sorry
theorem dX7_init_17 : decode cX7_init 17 = .ok (.putfield 18, 3) := sorry
theorem dX7_init_20 : decode cX7_init 20 = .ok (.aload_n 0, 1) := sorry
theorem dX7_init_21 : decode cX7_init 21 = .ok (.iload_n 2, 1) := sorry
theorem dX7_init_22 : decode cX7_init 22 = .ok (.putfield 22, 3) := sorry
theorem dX7_init_25 : decode cX7_init 25 = .ok (.aload_n 0, 1) := sorry
theorem dX7_init_26 : decode cX7_init 26 = .ok (.invokevirtual 26, 3) := sorry
theorem dX7_init_29 : decode cX7_init 29 = .ok (.return_, 1) := sorry
abbrev cX7_next : ByteArray := prog_9_method_5_code
def yX7_next : MethodName := ⟨RX7, "next", "()V"⟩
def dkwX7_next_11 : List UInt8 := [180, 0, 33, 4, 96, 181, 0, 33, 177]
abbrev dktX7_next_11 : List UInt8 := dkwX7_next_11 ++ []
def dkwX7_next_10 : List UInt8 := [178, 0, 75, 181, 0, 53, 167, 0, 25, 42, 27, 181, 0, 78, 42, 178, 0, 81, 181, 0, 53, 42, 89]
abbrev dktX7_next_10 : List UInt8 := dkwX7_next_10 ++ dktX7_next_11
def dkwX7_next_9 : List UInt8 := [182, 0, 36, 96, 16, 48, 100, 181, 0, 70, 42, 89, 180, 0, 33, 4, 96, 181, 0, 33, 167, 255, 195, 42]
abbrev dktX7_next_9 : List UInt8 := dkwX7_next_9 ++ dktX7_next_10
def dkwX7_next_8 : List UInt8 := [18, 73, 164, 0, 8, 18, 74, 167, 0, 22, 16, 10, 42, 180, 0, 70, 104, 42, 42, 180, 0, 33]
abbrev dktX7_next_8 : List UInt8 := dkwX7_next_8 ++ dktX7_next_9
def dkwX7_next_7 : List UInt8 := [3, 181, 0, 70, 42, 42, 180, 0, 33, 182, 0, 36, 184, 0, 67, 153, 0, 53, 42, 42, 180, 0, 70]
abbrev dktX7_next_7 : List UInt8 := dkwX7_next_7 ++ dktX7_next_8
def dkwX7_next_6 : List UInt8 := [181, 0, 33, 167, 255, 215, 42, 178, 0, 64, 181, 0, 53, 167, 0, 111, 27, 184, 0, 67, 153, 0, 82, 42]
abbrev dktX7_next_6 : List UInt8 := dkwX7_next_6 ++ dktX7_next_7
def dkwX7_next_5 : List UInt8 := [42, 180, 0, 18, 42, 42, 180, 0, 33, 182, 0, 36, 146, 182, 0, 60, 87, 42, 89, 180, 0, 33, 4, 96]
abbrev dktX7_next_5 : List UInt8 := dkwX7_next_5 ++ dktX7_next_6
def dkwX7_next_4 : List UInt8 := [167, 0, 172, 27, 184, 0, 56, 153, 0, 57, 42, 42, 180, 0, 33, 182, 0, 36, 184, 0, 56, 153, 0, 33]
abbrev dktX7_next_4 : List UInt8 := dkwX7_next_4 ++ dktX7_next_5
def dkwX7_next_3 : List UInt8 := [182, 0, 36, 60, 42, 180, 0, 33, 42, 180, 0, 22, 161, 0, 13, 42, 178, 0, 47, 181, 0, 53]
abbrev dktX7_next_3 : List UInt8 := dkwX7_next_3 ++ dktX7_next_4
def dkwX7_next_2 : List UInt8 := [167, 255, 209, 42, 42, 180, 0, 33, 181, 0, 40, 42, 180, 0, 18, 3, 182, 0, 43, 42, 42, 180, 0, 33]
abbrev dktX7_next_2 : List UInt8 := dkwX7_next_2 ++ dktX7_next_3
def dkwX7_next_1 : List UInt8 := [42, 42, 180, 0, 33, 182, 0, 36, 16, 10, 160, 0, 16, 42, 89, 180, 0, 33, 4, 96, 181, 0, 33]
abbrev dktX7_next_1 : List UInt8 := dkwX7_next_1 ++ dktX7_next_2
def dkwX7_next_0 : List UInt8 := [42, 180, 0, 33, 42, 180, 0, 22, 162, 0, 42, 42, 42, 180, 0, 33, 182, 0, 36, 16, 32, 159, 0, 16]
abbrev dktX7_next_0 : List UInt8 := dkwX7_next_0 ++ dktX7_next_1
theorem dksX7_next_0 : cX7_next.data.toList.drop 0 = dktX7_next_0 := sorry
theorem dksX7_next_1 : cX7_next.data.toList.drop 24 = dktX7_next_1 := sorry
theorem dksX7_next_2 : cX7_next.data.toList.drop 47 = dktX7_next_2 := sorry
theorem dksX7_next_3 : cX7_next.data.toList.drop 71 = dktX7_next_3 := sorry
theorem dksX7_next_4 : cX7_next.data.toList.drop 93 = dktX7_next_4 := sorry
theorem dksX7_next_5 : cX7_next.data.toList.drop 117 = dktX7_next_5 := sorry
theorem dksX7_next_6 : cX7_next.data.toList.drop 141 = dktX7_next_6 := sorry
theorem dksX7_next_7 : cX7_next.data.toList.drop 165 = dktX7_next_7 := sorry
theorem dksX7_next_8 : cX7_next.data.toList.drop 188 = dktX7_next_8 := sorry
theorem dksX7_next_9 : cX7_next.data.toList.drop 210 = dktX7_next_9 := sorry
theorem dksX7_next_10 : cX7_next.data.toList.drop 234 = dktX7_next_10 := sorry
theorem dksX7_next_11 : cX7_next.data.toList.drop 257 = dktX7_next_11 := sorry
theorem dX7_next_0 : decode cX7_next 0 = .ok (.aload_n 0, 1) := sorry
theorem dX7_next_1 : decode cX7_next 1 = .ok (.getfield 33, 3) := sorry
theorem dX7_next_4 : decode cX7_next 4 = .ok (.aload_n 0, 1) := sorry
theorem dX7_next_5 : decode cX7_next 5 = .ok (.getfield 22, 3) := sorry
theorem dX7_next_8 : decode cX7_next 8 = .ok (.if_icmp .ge 42, 3) := sorry
theorem dX7_next_11 : decode cX7_next 11 = .ok (.aload_n 0, 1) := sorry
theorem dX7_next_12 : decode cX7_next 12 = .ok (.aload_n 0, 1) := sorry
theorem dX7_next_13 : decode cX7_next 13 = .ok (.getfield 33, 3) := sorry
theorem dX7_next_16 : decode cX7_next 16 = .ok (.invokevirtual 36, 3) := sorry
theorem dX7_next_19 : decode cX7_next 19 = .ok (.bipush 32, 2) := sorry
theorem dX7_next_21 : decode cX7_next 21 = .ok (.if_icmp .eq 16, 3) := sorry
theorem dX7_next_24 : decode cX7_next 24 = .ok (.aload_n 0, 1) := sorry
theorem dX7_next_25 : decode cX7_next 25 = .ok (.aload_n 0, 1) := sorry
theorem dX7_next_26 : decode cX7_next 26 = .ok (.getfield 33, 3) := sorry
theorem dX7_next_29 : decode cX7_next 29 = .ok (.invokevirtual 36, 3) := sorry
theorem dX7_next_32 : decode cX7_next 32 = .ok (.bipush 10, 2) := sorry
theorem dX7_next_34 : decode cX7_next 34 = .ok (.if_icmp .ne 16, 3) := sorry
theorem dX7_next_37 : decode cX7_next 37 = .ok (.aload_n 0, 1) := sorry
theorem dX7_next_38 : decode cX7_next 38 = .ok (.dup, 1) := sorry
theorem dX7_next_39 : decode cX7_next 39 = .ok (.getfield 33, 3) := sorry
theorem dX7_next_42 : decode cX7_next 42 = .ok (.iconst 1, 1) := sorry
theorem dX7_next_43 : decode cX7_next 43 = .ok (.iadd, 1) := sorry
theorem dX7_next_44 : decode cX7_next 44 = .ok (.putfield 33, 3) := sorry
theorem dX7_next_47 : decode cX7_next 47 = .ok (.goto (-47), 3) := sorry
theorem dX7_next_50 : decode cX7_next 50 = .ok (.aload_n 0, 1) := sorry
theorem dX7_next_51 : decode cX7_next 51 = .ok (.aload_n 0, 1) := sorry
theorem dX7_next_52 : decode cX7_next 52 = .ok (.getfield 33, 3) := sorry
theorem dX7_next_55 : decode cX7_next 55 = .ok (.putfield 40, 3) := sorry
theorem dX7_next_58 : decode cX7_next 58 = .ok (.aload_n 0, 1) := sorry
theorem dX7_next_59 : decode cX7_next 59 = .ok (.getfield 18, 3) := sorry
theorem dX7_next_62 : decode cX7_next 62 = .ok (.iconst 0, 1) := sorry
theorem dX7_next_63 : decode cX7_next 63 = .ok (.invokevirtual 43, 3) := sorry
theorem dX7_next_66 : decode cX7_next 66 = .ok (.aload_n 0, 1) := sorry
theorem dX7_next_67 : decode cX7_next 67 = .ok (.aload_n 0, 1) := sorry
theorem dX7_next_68 : decode cX7_next 68 = .ok (.getfield 33, 3) := sorry
theorem dX7_next_71 : decode cX7_next 71 = .ok (.invokevirtual 36, 3) := sorry
theorem dX7_next_74 : decode cX7_next 74 = .ok (.istore_n 1, 1) := sorry
theorem dX7_next_75 : decode cX7_next 75 = .ok (.aload_n 0, 1) := sorry
theorem dX7_next_76 : decode cX7_next 76 = .ok (.getfield 33, 3) := sorry
theorem dX7_next_79 : decode cX7_next 79 = .ok (.aload_n 0, 1) := sorry
theorem dX7_next_80 : decode cX7_next 80 = .ok (.getfield 22, 3) := sorry
theorem dX7_next_83 : decode cX7_next 83 = .ok (.if_icmp .lt 13, 3) := sorry
theorem dX7_next_86 : decode cX7_next 86 = .ok (.aload_n 0, 1) := sorry
theorem dX7_next_87 : decode cX7_next 87 = .ok (.getstatic 47, 3) := sorry
theorem dX7_next_90 : decode cX7_next 90 = .ok (.putfield 53, 3) := sorry
theorem dX7_next_93 : decode cX7_next 93 = .ok (.goto 172, 3) := sorry
theorem dX7_next_96 : decode cX7_next 96 = .ok (.iload_n 1, 1) := sorry
theorem dX7_next_97 : decode cX7_next 97 = .ok (.invokestatic 56, 3) := sorry
theorem dX7_next_100 : decode cX7_next 100 = .ok (.ifCond .eq 57, 3) := sorry
theorem dX7_next_103 : decode cX7_next 103 = .ok (.aload_n 0, 1) := sorry
theorem dX7_next_104 : decode cX7_next 104 = .ok (.aload_n 0, 1) := sorry
theorem dX7_next_105 : decode cX7_next 105 = .ok (.getfield 33, 3) := sorry
theorem dX7_next_108 : decode cX7_next 108 = .ok (.invokevirtual 36, 3) := sorry
theorem dX7_next_111 : decode cX7_next 111 = .ok (.invokestatic 56, 3) := sorry
theorem dX7_next_114 : decode cX7_next 114 = .ok (.ifCond .eq 33, 3) := sorry
theorem dX7_next_117 : decode cX7_next 117 = .ok (.aload_n 0, 1) := sorry
theorem dX7_next_118 : decode cX7_next 118 = .ok (.getfield 18, 3) := sorry
theorem dX7_next_121 : decode cX7_next 121 = .ok (.aload_n 0, 1) := sorry
theorem dX7_next_122 : decode cX7_next 122 = .ok (.aload_n 0, 1) := sorry
theorem dX7_next_123 : decode cX7_next 123 = .ok (.getfield 33, 3) := sorry
theorem dX7_next_126 : decode cX7_next 126 = .ok (.invokevirtual 36, 3) := sorry
theorem dX7_next_129 : decode cX7_next 129 = .ok (.i2c, 1) := sorry
theorem dX7_next_130 : decode cX7_next 130 = .ok (.invokevirtual 60, 3) := sorry
theorem dX7_next_133 : decode cX7_next 133 = .ok (.pop, 1) := sorry
theorem dX7_next_134 : decode cX7_next 134 = .ok (.aload_n 0, 1) := sorry
theorem dX7_next_135 : decode cX7_next 135 = .ok (.dup, 1) := sorry
theorem dX7_next_136 : decode cX7_next 136 = .ok (.getfield 33, 3) := sorry
theorem dX7_next_139 : decode cX7_next 139 = .ok (.iconst 1, 1) := sorry
theorem dX7_next_140 : decode cX7_next 140 = .ok (.iadd, 1) := sorry
theorem dX7_next_141 : decode cX7_next 141 = .ok (.putfield 33, 3) := sorry
theorem dX7_next_144 : decode cX7_next 144 = .ok (.goto (-41), 3) := sorry
theorem dX7_next_147 : decode cX7_next 147 = .ok (.aload_n 0, 1) := sorry
theorem dX7_next_148 : decode cX7_next 148 = .ok (.getstatic 64, 3) := sorry
theorem dX7_next_151 : decode cX7_next 151 = .ok (.putfield 53, 3) := sorry
theorem dX7_next_154 : decode cX7_next 154 = .ok (.goto 111, 3) := sorry
theorem dX7_next_157 : decode cX7_next 157 = .ok (.iload_n 1, 1) := sorry
theorem dX7_next_158 : decode cX7_next 158 = .ok (.invokestatic 67, 3) := sorry
theorem dX7_next_161 : decode cX7_next 161 = .ok (.ifCond .eq 82, 3) := sorry
theorem dX7_next_164 : decode cX7_next 164 = .ok (.aload_n 0, 1) := sorry
theorem dX7_next_165 : decode cX7_next 165 = .ok (.iconst 0, 1) := sorry
theorem dX7_next_166 : decode cX7_next 166 = .ok (.putfield 70, 3) := sorry
theorem dX7_next_169 : decode cX7_next 169 = .ok (.aload_n 0, 1) := sorry
theorem dX7_next_170 : decode cX7_next 170 = .ok (.aload_n 0, 1) := sorry
theorem dX7_next_171 : decode cX7_next 171 = .ok (.getfield 33, 3) := sorry
theorem dX7_next_174 : decode cX7_next 174 = .ok (.invokevirtual 36, 3) := sorry
theorem dX7_next_177 : decode cX7_next 177 = .ok (.invokestatic 67, 3) := sorry
theorem dX7_next_180 : decode cX7_next 180 = .ok (.ifCond .eq 53, 3) := sorry
theorem dX7_next_183 : decode cX7_next 183 = .ok (.aload_n 0, 1) := sorry
theorem dX7_next_184 : decode cX7_next 184 = .ok (.aload_n 0, 1) := sorry
theorem dX7_next_185 : decode cX7_next 185 = .ok (.getfield 70, 3) := sorry
theorem dX7_next_188 : decode cX7_next 188 = .ok (.ldc 73, 2) := sorry
theorem dX7_next_190 : decode cX7_next 190 = .ok (.if_icmp .le 8, 3) := sorry
theorem dX7_next_193 : decode cX7_next 193 = .ok (.ldc 74, 2) := sorry
theorem dX7_next_195 : decode cX7_next 195 = .ok (.goto 22, 3) := sorry
theorem dX7_next_198 : decode cX7_next 198 = .ok (.bipush 10, 2) := sorry
theorem dX7_next_200 : decode cX7_next 200 = .ok (.aload_n 0, 1) := sorry
theorem dX7_next_201 : decode cX7_next 201 = .ok (.getfield 70, 3) := sorry
theorem dX7_next_204 : decode cX7_next 204 = .ok (.imul, 1) := sorry
theorem dX7_next_205 : decode cX7_next 205 = .ok (.aload_n 0, 1) := sorry
theorem dX7_next_206 : decode cX7_next 206 = .ok (.aload_n 0, 1) := sorry
theorem dX7_next_207 : decode cX7_next 207 = .ok (.getfield 33, 3) := sorry
theorem dX7_next_210 : decode cX7_next 210 = .ok (.invokevirtual 36, 3) := sorry
theorem dX7_next_213 : decode cX7_next 213 = .ok (.iadd, 1) := sorry
theorem dX7_next_214 : decode cX7_next 214 = .ok (.bipush 48, 2) := sorry
theorem dX7_next_216 : decode cX7_next 216 = .ok (.isub, 1) := sorry
theorem dX7_next_217 : decode cX7_next 217 = .ok (.putfield 70, 3) := sorry
theorem dX7_next_220 : decode cX7_next 220 = .ok (.aload_n 0, 1) := sorry
theorem dX7_next_221 : decode cX7_next 221 = .ok (.dup, 1) := sorry
theorem dX7_next_222 : decode cX7_next 222 = .ok (.getfield 33, 3) := sorry
theorem dX7_next_225 : decode cX7_next 225 = .ok (.iconst 1, 1) := sorry
theorem dX7_next_226 : decode cX7_next 226 = .ok (.iadd, 1) := sorry
theorem dX7_next_227 : decode cX7_next 227 = .ok (.putfield 33, 3) := sorry
theorem dX7_next_230 : decode cX7_next 230 = .ok (.goto (-61), 3) := sorry
theorem dX7_next_233 : decode cX7_next 233 = .ok (.aload_n 0, 1) := sorry
theorem dX7_next_234 : decode cX7_next 234 = .ok (.getstatic 75, 3) := sorry
theorem dX7_next_237 : decode cX7_next 237 = .ok (.putfield 53, 3) := sorry
theorem dX7_next_240 : decode cX7_next 240 = .ok (.goto 25, 3) := sorry
theorem dX7_next_243 : decode cX7_next 243 = .ok (.aload_n 0, 1) := sorry
theorem dX7_next_244 : decode cX7_next 244 = .ok (.iload_n 1, 1) := sorry
theorem dX7_next_245 : decode cX7_next 245 = .ok (.putfield 78, 3) := sorry
theorem dX7_next_248 : decode cX7_next 248 = .ok (.aload_n 0, 1) := sorry
theorem dX7_next_249 : decode cX7_next 249 = .ok (.getstatic 81, 3) := sorry
theorem dX7_next_252 : decode cX7_next 252 = .ok (.putfield 53, 3) := sorry
theorem dX7_next_255 : decode cX7_next 255 = .ok (.aload_n 0, 1) := sorry
theorem dX7_next_256 : decode cX7_next 256 = .ok (.dup, 1) := sorry
theorem dX7_next_257 : decode cX7_next 257 = .ok (.getfield 33, 3) := sorry
theorem dX7_next_260 : decode cX7_next 260 = .ok (.iconst 1, 1) := sorry
theorem dX7_next_261 : decode cX7_next 261 = .ok (.iadd, 1) := sorry
theorem dX7_next_262 : decode cX7_next 262 = .ok (.putfield 33, 3) := sorry
theorem dX7_next_265 : decode cX7_next 265 = .ok (.return_, 1) := sorry
abbrev cX7_byteAt : ByteArray := prog_9_method_2_code
def yX7_byteAt : MethodName := ⟨RX7, "byteAt", "(I)I"⟩
def dkwX7_byteAt_1 : List UInt8 := [3, 172]
abbrev dktX7_byteAt_1 : List UInt8 := dkwX7_byteAt_1 ++ []
def dkwX7_byteAt_0 : List UInt8 := [27, 42, 180, 0, 22, 162, 0, 19, 42, 180, 0, 3, 180, 0, 29, 27, 51, 17, 0, 255, 126, 167, 0, 4]
abbrev dktX7_byteAt_0 : List UInt8 := dkwX7_byteAt_0 ++ dktX7_byteAt_1
theorem dksX7_byteAt_0 : cX7_byteAt.data.toList.drop 0 = dktX7_byteAt_0 := sorry
theorem dksX7_byteAt_1 : cX7_byteAt.data.toList.drop 24 = dktX7_byteAt_1 := sorry
theorem dX7_byteAt_0 : decode cX7_byteAt 0 = .ok (.iload_n 1, 1) := sorry
theorem dX7_byteAt_1 : decode cX7_byteAt 1 = .ok (.aload_n 0, 1) := sorry
theorem dX7_byteAt_2 : decode cX7_byteAt 2 = .ok (.getfield 22, 3) := sorry
theorem dX7_byteAt_5 : decode cX7_byteAt 5 = .ok (.if_icmp .ge 19, 3) := sorry
theorem dX7_byteAt_8 : decode cX7_byteAt 8 = .ok (.aload_n 0, 1) := sorry
theorem dX7_byteAt_9 : decode cX7_byteAt 9 = .ok (.getfield 3, 3) := sorry
theorem dX7_byteAt_12 : decode cX7_byteAt 12 = .ok (.getfield 29, 3) := sorry
theorem dX7_byteAt_15 : decode cX7_byteAt 15 = .ok (.iload_n 1, 1) := sorry
theorem dX7_byteAt_16 : decode cX7_byteAt 16 = .ok (.baload, 1) := sorry
theorem dX7_byteAt_17 : decode cX7_byteAt 17 = .ok (.sipush 255, 3) := sorry
theorem dX7_byteAt_20 : decode cX7_byteAt 20 = .ok (.iand, 1) := sorry
theorem dX7_byteAt_21 : decode cX7_byteAt 21 = .ok (.goto 4, 3) := sorry
theorem dX7_byteAt_24 : decode cX7_byteAt 24 = .ok (.iconst 0, 1) := sorry
theorem dX7_byteAt_25 : decode cX7_byteAt 25 = .ok (.ireturn, 1) := sorry
abbrev cX7_isLetter : ByteArray := prog_9_method_3_code
def yX7_isLetter : MethodName := ⟨RX7, "isLetter", "(I)Z"⟩
def dkwX7_isLetter_0 : List UInt8 := [26, 16, 97, 161, 0, 13, 26, 16, 122, 163, 0, 7, 4, 167, 0, 4, 3, 172]
abbrev dktX7_isLetter_0 : List UInt8 := dkwX7_isLetter_0 ++ []
theorem dksX7_isLetter_0 : cX7_isLetter.data.toList.drop 0 = dktX7_isLetter_0 := sorry
theorem dX7_isLetter_0 : decode cX7_isLetter 0 = .ok (.iload_n 0, 1) := sorry
theorem dX7_isLetter_1 : decode cX7_isLetter 1 = .ok (.bipush 97, 2) := sorry
theorem dX7_isLetter_3 : decode cX7_isLetter 3 = .ok (.if_icmp .lt 13, 3) := sorry
theorem dX7_isLetter_6 : decode cX7_isLetter 6 = .ok (.iload_n 0, 1) := sorry
theorem dX7_isLetter_7 : decode cX7_isLetter 7 = .ok (.bipush 122, 2) := sorry
theorem dX7_isLetter_9 : decode cX7_isLetter 9 = .ok (.if_icmp .gt 7, 3) := sorry
theorem dX7_isLetter_12 : decode cX7_isLetter 12 = .ok (.iconst 1, 1) := sorry
theorem dX7_isLetter_13 : decode cX7_isLetter 13 = .ok (.goto 4, 3) := sorry
theorem dX7_isLetter_16 : decode cX7_isLetter 16 = .ok (.iconst 0, 1) := sorry
theorem dX7_isLetter_17 : decode cX7_isLetter 17 = .ok (.ireturn, 1) := sorry
abbrev cX7_isDigit : ByteArray := prog_9_method_4_code
def yX7_isDigit : MethodName := ⟨RX7, "isDigit", "(I)Z"⟩
def dkwX7_isDigit_0 : List UInt8 := [26, 16, 48, 161, 0, 13, 26, 16, 57, 163, 0, 7, 4, 167, 0, 4, 3, 172]
abbrev dktX7_isDigit_0 : List UInt8 := dkwX7_isDigit_0 ++ []
theorem dksX7_isDigit_0 : cX7_isDigit.data.toList.drop 0 = dktX7_isDigit_0 := sorry
theorem dX7_isDigit_0 : decode cX7_isDigit 0 = .ok (.iload_n 0, 1) := sorry
theorem dX7_isDigit_1 : decode cX7_isDigit 1 = .ok (.bipush 48, 2) := sorry
theorem dX7_isDigit_3 : decode cX7_isDigit 3 = .ok (.if_icmp .lt 13, 3) := sorry
theorem dX7_isDigit_6 : decode cX7_isDigit 6 = .ok (.iload_n 0, 1) := sorry
theorem dX7_isDigit_7 : decode cX7_isDigit 7 = .ok (.bipush 57, 2) := sorry
theorem dX7_isDigit_9 : decode cX7_isDigit 9 = .ok (.if_icmp .gt 7, 3) := sorry
theorem dX7_isDigit_12 : decode cX7_isDigit 12 = .ok (.iconst 1, 1) := sorry
theorem dX7_isDigit_13 : decode cX7_isDigit 13 = .ok (.goto 4, 3) := sorry
theorem dX7_isDigit_16 : decode cX7_isDigit 16 = .ok (.iconst 0, 1) := sorry
theorem dX7_isDigit_17 : decode cX7_isDigit 17 = .ok (.ireturn, 1) := sorry
abbrev cX7_accept : ByteArray := prog_9_method_9_code
def yX7_accept : MethodName := ⟨RX7, "accept", "(Ljava/lang/String;)Z"⟩
def dkwX7_accept_0 : List UInt8 := [42, 182, 0, 95, 43, 182, 0, 98, 61, 28, 153, 0, 7, 42, 182, 0, 26, 28, 172]
abbrev dktX7_accept_0 : List UInt8 := dkwX7_accept_0 ++ []
theorem dksX7_accept_0 : cX7_accept.data.toList.drop 0 = dktX7_accept_0 := sorry
theorem dX7_accept_0 : decode cX7_accept 0 = .ok (.aload_n 0, 1) := sorry
theorem dX7_accept_1 : decode cX7_accept 1 = .ok (.invokevirtual 95, 3) := sorry
theorem dX7_accept_4 : decode cX7_accept 4 = .ok (.aload_n 1, 1) := sorry
theorem dX7_accept_5 : decode cX7_accept 5 = .ok (.invokevirtual 98, 3) := sorry
theorem dX7_accept_8 : decode cX7_accept 8 = .ok (.istore_n 2, 1) := sorry
theorem dX7_accept_9 : decode cX7_accept 9 = .ok (.iload_n 2, 1) := sorry
theorem dX7_accept_10 : decode cX7_accept 10 = .ok (.ifCond .eq 7, 3) := sorry
theorem dX7_accept_13 : decode cX7_accept 13 = .ok (.aload_n 0, 1) := sorry
theorem dX7_accept_14 : decode cX7_accept 14 = .ok (.invokevirtual 26, 3) := sorry
theorem dX7_accept_17 : decode cX7_accept 17 = .ok (.iload_n 2, 1) := sorry
theorem dX7_accept_18 : decode cX7_accept 18 = .ok (.ireturn, 1) := sorry
abbrev cX7_keyword : ByteArray := prog_9_method_8_code
def yX7_keyword : MethodName := ⟨RX7, "keyword", "()Ljava/lang/String;"⟩
def dkwX7_keyword_0 : List UInt8 := [42, 180, 0, 53, 178, 0, 64, 166, 0, 13, 42, 180, 0, 18, 182, 0, 89, 167, 0, 5, 18, 93, 176]
abbrev dktX7_keyword_0 : List UInt8 := dkwX7_keyword_0 ++ []
theorem dksX7_keyword_0 : cX7_keyword.data.toList.drop 0 = dktX7_keyword_0 := sorry
theorem dX7_keyword_0 : decode cX7_keyword 0 = .ok (.aload_n 0, 1) := sorry
theorem dX7_keyword_1 : decode cX7_keyword 1 = .ok (.getfield 53, 3) := sorry
theorem dX7_keyword_4 : decode cX7_keyword 4 = .ok (.getstatic 64, 3) := sorry
theorem dX7_keyword_7 : decode cX7_keyword 7 = .ok (.if_acmp .ne 13, 3) := sorry
theorem dX7_keyword_10 : decode cX7_keyword 10 = .ok (.aload_n 0, 1) := sorry
theorem dX7_keyword_11 : decode cX7_keyword 11 = .ok (.getfield 18, 3) := sorry
theorem dX7_keyword_14 : decode cX7_keyword 14 = .ok (.invokevirtual 89, 3) := sorry
theorem dX7_keyword_17 : decode cX7_keyword 17 = .ok (.goto 5, 3) := sorry
theorem dX7_keyword_20 : decode cX7_keyword 20 = .ok (.ldc 93, 2) := sorry
theorem dX7_keyword_22 : decode cX7_keyword 22 = .ok (.areturn, 1) := sorry
abbrev cX7_check : ByteArray := prog_9_method_6_code
def yX7_check : MethodName := ⟨RX7, "check", "(ZI)V"⟩
def dkwX7_check_0 : List UInt8 := [27, 154, 0, 16, 187, 0, 84, 89, 28, 42, 180, 0, 40, 183, 0, 86, 191, 177]
abbrev dktX7_check_0 : List UInt8 := dkwX7_check_0 ++ []
theorem dksX7_check_0 : cX7_check.data.toList.drop 0 = dktX7_check_0 := sorry
theorem dX7_check_0 : decode cX7_check 0 = .ok (.iload_n 1, 1) := sorry
theorem dX7_check_1 : decode cX7_check 1 = .ok (.ifCond .ne 16, 3) := sorry
theorem dX7_check_4 : decode cX7_check 4 = .ok (.new 84, 3) := sorry
theorem dX7_check_7 : decode cX7_check 7 = .ok (.dup, 1) := sorry
theorem dX7_check_8 : decode cX7_check 8 = .ok (.iload_n 2, 1) := sorry
theorem dX7_check_9 : decode cX7_check 9 = .ok (.aload_n 0, 1) := sorry
theorem dX7_check_10 : decode cX7_check 10 = .ok (.getfield 40, 3) := sorry
theorem dX7_check_13 : decode cX7_check 13 = .ok (.invokespecial 86, 3) := sorry
theorem dX7_check_16 : decode cX7_check 16 = .ok (.athrow, 1) := sorry
theorem dX7_check_17 : decode cX7_check 17 = .ok (.return_, 1) := sorry
abbrev cX7_number : ByteArray := prog_9_method_12_code
def yX7_number : MethodName := ⟨RX7, "number", "(II)I"⟩
def dkwX7_number_2 : List UInt8 := [42, 180, 0, 70, 62, 42, 182, 0, 26, 29, 172]
abbrev dktX7_number_2 : List UInt8 := dkwX7_number_2 ++ []
def dkwX7_number_1 : List UInt8 := [180, 0, 70, 27, 161, 0, 15, 42, 180, 0, 70, 28, 163, 0, 7, 4, 167, 0, 4, 3, 5, 182, 0, 107]
abbrev dktX7_number_1 : List UInt8 := dkwX7_number_1 ++ dktX7_number_2
def dkwX7_number_0 : List UInt8 := [42, 42, 180, 0, 53, 178, 0, 75, 166, 0, 7, 4, 167, 0, 4, 3, 4, 182, 0, 107, 42, 42]
abbrev dktX7_number_0 : List UInt8 := dkwX7_number_0 ++ dktX7_number_1
theorem dksX7_number_0 : cX7_number.data.toList.drop 0 = dktX7_number_0 := sorry
theorem dksX7_number_1 : cX7_number.data.toList.drop 22 = dktX7_number_1 := sorry
theorem dksX7_number_2 : cX7_number.data.toList.drop 46 = dktX7_number_2 := sorry
theorem dX7_number_0 : decode cX7_number 0 = .ok (.aload_n 0, 1) := sorry
theorem dX7_number_1 : decode cX7_number 1 = .ok (.aload_n 0, 1) := sorry
theorem dX7_number_2 : decode cX7_number 2 = .ok (.getfield 53, 3) := sorry
theorem dX7_number_5 : decode cX7_number 5 = .ok (.getstatic 75, 3) := sorry
theorem dX7_number_8 : decode cX7_number 8 = .ok (.if_acmp .ne 7, 3) := sorry
theorem dX7_number_11 : decode cX7_number 11 = .ok (.iconst 1, 1) := sorry
theorem dX7_number_12 : decode cX7_number 12 = .ok (.goto 4, 3) := sorry
theorem dX7_number_15 : decode cX7_number 15 = .ok (.iconst 0, 1) := sorry
theorem dX7_number_16 : decode cX7_number 16 = .ok (.iconst 1, 1) := sorry
theorem dX7_number_17 : decode cX7_number 17 = .ok (.invokevirtual 107, 3) := sorry
theorem dX7_number_20 : decode cX7_number 20 = .ok (.aload_n 0, 1) := sorry
theorem dX7_number_21 : decode cX7_number 21 = .ok (.aload_n 0, 1) := sorry
theorem dX7_number_22 : decode cX7_number 22 = .ok (.getfield 70, 3) := sorry
theorem dX7_number_25 : decode cX7_number 25 = .ok (.iload_n 1, 1) := sorry
theorem dX7_number_26 : decode cX7_number 26 = .ok (.if_icmp .lt 15, 3) := sorry
theorem dX7_number_29 : decode cX7_number 29 = .ok (.aload_n 0, 1) := sorry
theorem dX7_number_30 : decode cX7_number 30 = .ok (.getfield 70, 3) := sorry
theorem dX7_number_33 : decode cX7_number 33 = .ok (.iload_n 2, 1) := sorry
theorem dX7_number_34 : decode cX7_number 34 = .ok (.if_icmp .gt 7, 3) := sorry
theorem dX7_number_37 : decode cX7_number 37 = .ok (.iconst 1, 1) := sorry
theorem dX7_number_38 : decode cX7_number 38 = .ok (.goto 4, 3) := sorry
theorem dX7_number_41 : decode cX7_number 41 = .ok (.iconst 0, 1) := sorry
theorem dX7_number_42 : decode cX7_number 42 = .ok (.iconst 2, 1) := sorry
theorem dX7_number_43 : decode cX7_number 43 = .ok (.invokevirtual 107, 3) := sorry
theorem dX7_number_46 : decode cX7_number 46 = .ok (.aload_n 0, 1) := sorry
theorem dX7_number_47 : decode cX7_number 47 = .ok (.getfield 70, 3) := sorry
theorem dX7_number_50 : decode cX7_number 50 = .ok (.istore_n 3, 1) := sorry
theorem dX7_number_51 : decode cX7_number 51 = .ok (.aload_n 0, 1) := sorry
theorem dX7_number_52 : decode cX7_number 52 = .ok (.invokevirtual 26, 3) := sorry
theorem dX7_number_55 : decode cX7_number 55 = .ok (.iload_n 3, 1) := sorry
theorem dX7_number_56 : decode cX7_number 56 = .ok (.ireturn, 1) := sorry
abbrev cX7_expectSign : ByteArray := prog_9_method_10_code
def yX7_expectSign : MethodName := ⟨RX7, "expectSign", "(I)V"⟩
def dkwX7_expectSign_0 : List UInt8 := [42, 42, 27, 182, 0, 104, 4, 182, 0, 107, 42, 182, 0, 26, 177]
abbrev dktX7_expectSign_0 : List UInt8 := dkwX7_expectSign_0 ++ []
theorem dksX7_expectSign_0 : cX7_expectSign.data.toList.drop 0 = dktX7_expectSign_0 := sorry
theorem dX7_expectSign_0 : decode cX7_expectSign 0 = .ok (.aload_n 0, 1) := sorry
theorem dX7_expectSign_1 : decode cX7_expectSign 1 = .ok (.aload_n 0, 1) := sorry
theorem dX7_expectSign_2 : decode cX7_expectSign 2 = .ok (.iload_n 1, 1) := sorry
theorem dX7_expectSign_3 : decode cX7_expectSign 3 = .ok (.invokevirtual 104, 3) := sorry
theorem dX7_expectSign_6 : decode cX7_expectSign 6 = .ok (.iconst 1, 1) := sorry
theorem dX7_expectSign_7 : decode cX7_expectSign 7 = .ok (.invokevirtual 107, 3) := sorry
theorem dX7_expectSign_10 : decode cX7_expectSign 10 = .ok (.aload_n 0, 1) := sorry
theorem dX7_expectSign_11 : decode cX7_expectSign 11 = .ok (.invokevirtual 26, 3) := sorry
theorem dX7_expectSign_14 : decode cX7_expectSign 14 = .ok (.return_, 1) := sorry
abbrev cX7_isSign : ByteArray := prog_9_method_7_code
def yX7_isSign : MethodName := ⟨RX7, "isSign", "(I)Z"⟩
def dkwX7_isSign_0 : List UInt8 := [42, 180, 0, 53, 178, 0, 81, 166, 0, 15, 42, 180, 0, 78, 27, 160, 0, 7, 4, 167, 0, 4, 3, 172]
abbrev dktX7_isSign_0 : List UInt8 := dkwX7_isSign_0 ++ []
theorem dksX7_isSign_0 : cX7_isSign.data.toList.drop 0 = dktX7_isSign_0 := sorry
theorem dX7_isSign_0 : decode cX7_isSign 0 = .ok (.aload_n 0, 1) := sorry
theorem dX7_isSign_1 : decode cX7_isSign 1 = .ok (.getfield 53, 3) := sorry
theorem dX7_isSign_4 : decode cX7_isSign 4 = .ok (.getstatic 81, 3) := sorry
theorem dX7_isSign_7 : decode cX7_isSign 7 = .ok (.if_acmp .ne 15, 3) := sorry
theorem dX7_isSign_10 : decode cX7_isSign 10 = .ok (.aload_n 0, 1) := sorry
theorem dX7_isSign_11 : decode cX7_isSign 11 = .ok (.getfield 78, 3) := sorry
theorem dX7_isSign_14 : decode cX7_isSign 14 = .ok (.iload_n 1, 1) := sorry
theorem dX7_isSign_15 : decode cX7_isSign 15 = .ok (.if_icmp .ne 7, 3) := sorry
theorem dX7_isSign_18 : decode cX7_isSign 18 = .ok (.iconst 1, 1) := sorry
theorem dX7_isSign_19 : decode cX7_isSign 19 = .ok (.goto 4, 3) := sorry
theorem dX7_isSign_22 : decode cX7_isSign 22 = .ok (.iconst 0, 1) := sorry
theorem dX7_isSign_23 : decode cX7_isSign 23 = .ok (.ireturn, 1) := sorry
abbrev cX7_relationSign : ByteArray := prog_9_method_11_code
def yX7_relationSign : MethodName := ⟨RX7, "relationSign", "()I"⟩
def dkwX7_relationSign_2 : List UInt8 := [27, 172]
abbrev dktX7_relationSign_2 : List UInt8 := dkwX7_relationSign_2 ++ []
def dkwX7_relationSign_1 : List UInt8 := [182, 0, 104, 153, 0, 7, 4, 167, 0, 4, 3, 4, 182, 0, 107, 42, 180, 0, 78, 60, 42, 182, 0, 26]
abbrev dktX7_relationSign_1 : List UInt8 := dkwX7_relationSign_1 ++ dktX7_relationSign_2
def dkwX7_relationSign_0 : List UInt8 := [42, 42, 16, 60, 182, 0, 104, 154, 0, 21, 42, 16, 61, 182, 0, 104, 154, 0, 12, 42, 16, 62]
abbrev dktX7_relationSign_0 : List UInt8 := dkwX7_relationSign_0 ++ dktX7_relationSign_1
theorem dksX7_relationSign_0 : cX7_relationSign.data.toList.drop 0 = dktX7_relationSign_0 := sorry
theorem dksX7_relationSign_1 : cX7_relationSign.data.toList.drop 22 = dktX7_relationSign_1 := sorry
theorem dksX7_relationSign_2 : cX7_relationSign.data.toList.drop 46 = dktX7_relationSign_2 := sorry
theorem dX7_relationSign_0 : decode cX7_relationSign 0 = .ok (.aload_n 0, 1) := sorry
theorem dX7_relationSign_1 : decode cX7_relationSign 1 = .ok (.aload_n 0, 1) := sorry
theorem dX7_relationSign_2 : decode cX7_relationSign 2 = .ok (.bipush 60, 2) := sorry
theorem dX7_relationSign_4 : decode cX7_relationSign 4 = .ok (.invokevirtual 104, 3) := sorry
theorem dX7_relationSign_7 : decode cX7_relationSign 7 = .ok (.ifCond .ne 21, 3) := sorry
theorem dX7_relationSign_10 : decode cX7_relationSign 10 = .ok (.aload_n 0, 1) := sorry
theorem dX7_relationSign_11 : decode cX7_relationSign 11 = .ok (.bipush 61, 2) := sorry
theorem dX7_relationSign_13 : decode cX7_relationSign 13 = .ok (.invokevirtual 104, 3) := sorry
theorem dX7_relationSign_16 : decode cX7_relationSign 16 = .ok (.ifCond .ne 12, 3) := sorry
theorem dX7_relationSign_19 : decode cX7_relationSign 19 = .ok (.aload_n 0, 1) := sorry
theorem dX7_relationSign_20 : decode cX7_relationSign 20 = .ok (.bipush 62, 2) := sorry
theorem dX7_relationSign_22 : decode cX7_relationSign 22 = .ok (.invokevirtual 104, 3) := sorry
theorem dX7_relationSign_25 : decode cX7_relationSign 25 = .ok (.ifCond .eq 7, 3) := sorry
theorem dX7_relationSign_28 : decode cX7_relationSign 28 = .ok (.iconst 1, 1) := sorry
theorem dX7_relationSign_29 : decode cX7_relationSign 29 = .ok (.goto 4, 3) := sorry
theorem dX7_relationSign_32 : decode cX7_relationSign 32 = .ok (.iconst 0, 1) := sorry
theorem dX7_relationSign_33 : decode cX7_relationSign 33 = .ok (.iconst 1, 1) := sorry
theorem dX7_relationSign_34 : decode cX7_relationSign 34 = .ok (.invokevirtual 107, 3) := sorry
theorem dX7_relationSign_37 : decode cX7_relationSign 37 = .ok (.aload_n 0, 1) := sorry
theorem dX7_relationSign_38 : decode cX7_relationSign 38 = .ok (.getfield 78, 3) := sorry
theorem dX7_relationSign_41 : decode cX7_relationSign 41 = .ok (.istore_n 1, 1) := sorry
theorem dX7_relationSign_42 : decode cX7_relationSign 42 = .ok (.aload_n 0, 1) := sorry
theorem dX7_relationSign_43 : decode cX7_relationSign 43 = .ok (.invokevirtual 26, 3) := sorry
theorem dX7_relationSign_46 : decode cX7_relationSign 46 = .ok (.iload_n 1, 1) := sorry
theorem dX7_relationSign_47 : decode cX7_relationSign 47 = .ok (.ireturn, 1) := sorry
theorem q171 : (Jvm.Cond.initialized "KrylovLaboratory$Scanner") ∈ lw_all := sorry
theorem q1122 : (Jvm.Cond.fieldLinkNest "KrylovLaboratory$Scanner" (29 : Nat) "KrylovLaboratory" "buffer" "[B" "KrylovLaboratory") ∈ lw_tbl := lw_at lw_m5 33 rfl
theorem q1553 : (Jvm.Cond.instanceMethod ({ cls := "KrylovLaboratory$Scanner", name := "<init>", desc := "(LKrylovLaboratory;I)V" } : Jvm.MethodName)) ∈ lw_all := sorry
theorem q1554 : (Jvm.Cond.code ({ cls := "KrylovLaboratory$Scanner", name := "<init>", desc := "(LKrylovLaboratory;I)V" } : Jvm.MethodName) prog_9_method_1_code (3 : Nat) (Option.none : Option Jvm.ClassFile.FieldType)) ∈ lw_all := sorry
theorem q1555 : (Jvm.Cond.methodLink "KrylovLaboratory$Scanner" (9 : Nat) ({ cls := "java/lang/Object", name := "<init>", desc := "()V" } : Jvm.MethodName)) ∈ lw_all := sorry
theorem q1556 : (Jvm.Cond.classLink "KrylovLaboratory$Scanner" (15 : Nat) "java/lang/StringBuilder") ∈ lw_all := sorry
theorem q1557 : (Jvm.Cond.methodLink "KrylovLaboratory$Scanner" (17 : Nat) ({ cls := "java/lang/StringBuilder", name := "<init>", desc := "()V" } : Jvm.MethodName)) ∈ lw_all := sorry
theorem q1558 : (Jvm.Cond.methodLink "KrylovLaboratory$Scanner" (26 : Nat) ({ cls := "KrylovLaboratory$Scanner", name := "next", desc := "()V" } : Jvm.MethodName)) ∈ lw_all := sorry
theorem q1559 : (Jvm.Cond.instanceMethod ({ cls := "KrylovLaboratory$Scanner", name := "next", desc := "()V" } : Jvm.MethodName)) ∈ lw_all := sorry
theorem q1560 : (Jvm.Cond.sameMethod "KrylovLaboratory$Scanner" "KrylovLaboratory$Scanner" "next" "()V") ∈ lw_all := sorry
theorem q1563 : (Jvm.Cond.code ({ cls := "KrylovLaboratory$Scanner", name := "next", desc := "()V" } : Jvm.MethodName) prog_9_method_5_code (2 : Nat) (Option.none : Option Jvm.ClassFile.FieldType)) ∈ lw_all := sorry
theorem q1564 : (Jvm.Cond.methodLink "KrylovLaboratory$Scanner" (36 : Nat) ({ cls := "KrylovLaboratory$Scanner", name := "byteAt", desc := "(I)I" } : Jvm.MethodName)) ∈ lw_all := sorry
theorem q1565 : (Jvm.Cond.privateMethod ({ cls := "KrylovLaboratory$Scanner", name := "byteAt", desc := "(I)I" } : Jvm.MethodName)) ∈ lw_tbl := sorry
theorem q1566 : (Jvm.Cond.instanceMethod ({ cls := "KrylovLaboratory$Scanner", name := "byteAt", desc := "(I)I" } : Jvm.MethodName)) ∈ lw_all := sorry
theorem q1567 : (Jvm.Cond.code ({ cls := "KrylovLaboratory$Scanner", name := "byteAt", desc := "(I)I" } : Jvm.MethodName) prog_9_method_2_code (2 : Nat) (Option.some Jvm.ClassFile.FieldType.int)) ∈ lw_all := sorry
theorem q1568 : (Jvm.Cond.methodLink "KrylovLaboratory$Scanner" (43 : Nat) ({ cls := "java/lang/StringBuilder", name := "setLength", desc := "(I)V" } : Jvm.MethodName)) ∈ lw_all := sorry
theorem q1591 : (Jvm.Cond.fieldLink "KrylovLaboratory$Scanner" (47 : Nat) "KrylovLaboratory$Token" "END" "LKrylovLaboratory$Token;") ∈ lw_all := sorry
theorem q1593 : (Jvm.Cond.methodLink "KrylovLaboratory$Scanner" (56 : Nat) ({ cls := "KrylovLaboratory$Scanner", name := "isLetter", desc := "(I)Z" } : Jvm.MethodName)) ∈ lw_all := sorry
theorem q1594 : (Jvm.Cond.static ({ cls := "KrylovLaboratory$Scanner", name := "isLetter", desc := "(I)Z" } : Jvm.MethodName)) ∈ lw_all := sorry
theorem q1595 : (Jvm.Cond.code ({ cls := "KrylovLaboratory$Scanner", name := "isLetter", desc := "(I)Z" } : Jvm.MethodName) prog_9_method_3_code (1 : Nat) (Option.some Jvm.ClassFile.FieldType.boolean)) ∈ lw_all := sorry
theorem q1596 : (Jvm.Cond.methodLink "KrylovLaboratory$Scanner" (60 : Nat) ({ cls := "java/lang/StringBuilder", name := "append", desc := "(C)Ljava/lang/StringBuilder;" } : Jvm.MethodName)) ∈ lw_all := sorry
theorem q1609 : (Jvm.Cond.fieldLink "KrylovLaboratory$Scanner" (64 : Nat) "KrylovLaboratory$Token" "WORD" "LKrylovLaboratory$Token;") ∈ lw_all := sorry
theorem q1611 : (Jvm.Cond.methodLink "KrylovLaboratory$Scanner" (67 : Nat) ({ cls := "KrylovLaboratory$Scanner", name := "isDigit", desc := "(I)Z" } : Jvm.MethodName)) ∈ lw_all := sorry
theorem q1612 : (Jvm.Cond.static ({ cls := "KrylovLaboratory$Scanner", name := "isDigit", desc := "(I)Z" } : Jvm.MethodName)) ∈ lw_all := sorry
theorem q1613 : (Jvm.Cond.code ({ cls := "KrylovLaboratory$Scanner", name := "isDigit", desc := "(I)Z" } : Jvm.MethodName) prog_9_method_4_code (1 : Nat) (Option.some Jvm.ClassFile.FieldType.boolean)) ∈ lw_all := sorry
theorem q1614 : (Jvm.Cond.constant "KrylovLaboratory$Scanner" (73 : Nat) (99999999 : Int32)) ∈ lw_all := sorry
theorem q1615 : (Jvm.Cond.constant "KrylovLaboratory$Scanner" (74 : Nat) (1000000000 : Int32)) ∈ lw_all := sorry
theorem q1616 : (Jvm.Cond.fieldLink "KrylovLaboratory$Scanner" (75 : Nat) "KrylovLaboratory$Token" "NUMBER" "LKrylovLaboratory$Token;") ∈ lw_all := sorry
theorem q1618 : (Jvm.Cond.fieldLink "KrylovLaboratory$Scanner" (81 : Nat) "KrylovLaboratory$Token" "SIGN" "LKrylovLaboratory$Token;") ∈ lw_all := sorry
theorem q1622 : (Jvm.Cond.fieldLink "KrylovLaboratory$Scanner" (18 : Nat) "KrylovLaboratory$Scanner" "word" "Ljava/lang/StringBuilder;") ∈ lw_all := sorry
theorem q1623 : (Jvm.Cond.fieldLink "KrylovLaboratory$Scanner" (22 : Nat) "KrylovLaboratory$Scanner" "end" "I") ∈ lw_all := sorry
theorem q1624 : (Jvm.Cond.fieldLink "KrylovLaboratory$Scanner" (33 : Nat) "KrylovLaboratory$Scanner" "at" "I") ∈ lw_all := sorry
theorem q1625 : (Jvm.Cond.fieldLink "KrylovLaboratory$Scanner" (40 : Nat) "KrylovLaboratory$Scanner" "begin" "I") ∈ lw_all := sorry
theorem q1626 : (Jvm.Cond.fieldLink "KrylovLaboratory$Scanner" (70 : Nat) "KrylovLaboratory$Scanner" "value" "I") ∈ lw_all := sorry
theorem q1627 : (Jvm.Cond.fieldLink "KrylovLaboratory$Scanner" (78 : Nat) "KrylovLaboratory$Scanner" "sign" "I") ∈ lw_all := sorry
theorem q1632 : (Jvm.Cond.fieldLink "KrylovLaboratory$Scanner" (53 : Nat) "KrylovLaboratory$Scanner" "token" "LKrylovLaboratory$Token;") ∈ lw_all := sorry
theorem q1633 : (Jvm.Cond.fieldLink "KrylovLaboratory$Scanner" (3 : Nat) "KrylovLaboratory$Scanner" "this$0" "LKrylovLaboratory;") ∈ lw_all := sorry
theorem q1639 : (Jvm.Cond.soleField "KrylovLaboratory$Scanner" "word") ∈ lw_all := sorry
theorem q1641 : (Jvm.Cond.soleField "KrylovLaboratory$Scanner" "end") ∈ lw_all := sorry
theorem q1643 : (Jvm.Cond.soleField "KrylovLaboratory$Scanner" "at") ∈ lw_all := sorry
theorem q1645 : (Jvm.Cond.soleField "KrylovLaboratory$Scanner" "begin") ∈ lw_all := sorry
theorem q1647 : (Jvm.Cond.soleField "KrylovLaboratory$Scanner" "value") ∈ lw_all := sorry
theorem q1649 : (Jvm.Cond.soleField "KrylovLaboratory$Scanner" "sign") ∈ lw_all := sorry
theorem q1651 : (Jvm.Cond.soleField "KrylovLaboratory$Scanner" "token") ∈ lw_all := sorry
theorem q1653 : (Jvm.Cond.soleField "KrylovLaboratory$Scanner" "this$0") ∈ lw_all := sorry
theorem q1662 : (Jvm.Cond.declares ({ cls := "KrylovLaboratory$Scanner", name := "accept", desc := "(Ljava/lang/String;)Z" } : Jvm.MethodName)) ∈ lw_tbl := sorry
theorem q1664 : (Jvm.Cond.instanceMethod ({ cls := "KrylovLaboratory$Scanner", name := "accept", desc := "(Ljava/lang/String;)Z" } : Jvm.MethodName)) ∈ lw_all := sorry
theorem q1665 : (Jvm.Cond.code ({ cls := "KrylovLaboratory$Scanner", name := "accept", desc := "(Ljava/lang/String;)Z" } : Jvm.MethodName) prog_9_method_9_code (3 : Nat) (Option.some Jvm.ClassFile.FieldType.boolean)) ∈ lw_all := sorry
theorem q1666 : (Jvm.Cond.methodLink "KrylovLaboratory$Scanner" (95 : Nat) ({ cls := "KrylovLaboratory$Scanner", name := "keyword", desc := "()Ljava/lang/String;" } : Jvm.MethodName)) ∈ lw_all := sorry
theorem q1667 : (Jvm.Cond.instanceMethod ({ cls := "KrylovLaboratory$Scanner", name := "keyword", desc := "()Ljava/lang/String;" } : Jvm.MethodName)) ∈ lw_all := sorry
theorem q1668 : (Jvm.Cond.sameMethod "KrylovLaboratory$Scanner" "KrylovLaboratory$Scanner" "keyword" "()Ljava/lang/String;") ∈ lw_all := sorry
theorem q1671 : (Jvm.Cond.code ({ cls := "KrylovLaboratory$Scanner", name := "keyword", desc := "()Ljava/lang/String;" } : Jvm.MethodName) prog_9_method_8_code (1 : Nat) (Option.some (Jvm.ClassFile.FieldType.object "java/lang/String"))) ∈ lw_all := sorry
theorem q1672 : (Jvm.Cond.methodLink "KrylovLaboratory$Scanner" (89 : Nat) ({ cls := "java/lang/StringBuilder", name := "toString", desc := "()Ljava/lang/String;" } : Jvm.MethodName)) ∈ lw_all := sorry
theorem q1673 : (Jvm.Cond.stringRef "KrylovLaboratory$Scanner" (93 : Nat) "") ∈ lw_tbl := sorry
theorem q1674 : (Jvm.Cond.methodLink "KrylovLaboratory$Scanner" (98 : Nat) ({ cls := "java/lang/String", name := "equals", desc := "(Ljava/lang/Object;)Z" } : Jvm.MethodName)) ∈ lw_all := sorry
theorem q1684 : (Jvm.Cond.declares ({ cls := "KrylovLaboratory$Scanner", name := "check", desc := "(ZI)V" } : Jvm.MethodName)) ∈ lw_tbl := sorry
theorem q1686 : (Jvm.Cond.instanceMethod ({ cls := "KrylovLaboratory$Scanner", name := "check", desc := "(ZI)V" } : Jvm.MethodName)) ∈ lw_all := sorry
theorem q1687 : (Jvm.Cond.code ({ cls := "KrylovLaboratory$Scanner", name := "check", desc := "(ZI)V" } : Jvm.MethodName) prog_9_method_6_code (3 : Nat) (Option.none : Option Jvm.ClassFile.FieldType)) ∈ lw_all := sorry
theorem q1688 : (Jvm.Cond.classLink "KrylovLaboratory$Scanner" (84 : Nat) "KrylovLaboratory$TextError") ∈ lw_all := sorry
theorem q1697 : (Jvm.Cond.methodLink "KrylovLaboratory$Scanner" (86 : Nat) ({ cls := "KrylovLaboratory$TextError", name := "<init>", desc := "(II)V" } : Jvm.MethodName)) ∈ lw_all := sorry
theorem q1719 : (Jvm.Cond.declares ({ cls := "KrylovLaboratory$Scanner", name := "number", desc := "(II)I" } : Jvm.MethodName)) ∈ lw_tbl := sorry
theorem q1721 : (Jvm.Cond.instanceMethod ({ cls := "KrylovLaboratory$Scanner", name := "number", desc := "(II)I" } : Jvm.MethodName)) ∈ lw_all := sorry
theorem q1722 : (Jvm.Cond.code ({ cls := "KrylovLaboratory$Scanner", name := "number", desc := "(II)I" } : Jvm.MethodName) prog_9_method_12_code (4 : Nat) (Option.some Jvm.ClassFile.FieldType.int)) ∈ lw_all := sorry
theorem q1723 : (Jvm.Cond.methodLink "KrylovLaboratory$Scanner" (107 : Nat) ({ cls := "KrylovLaboratory$Scanner", name := "check", desc := "(ZI)V" } : Jvm.MethodName)) ∈ lw_all := sorry
theorem q1727 : (Jvm.Cond.declares ({ cls := "KrylovLaboratory$Scanner", name := "expectSign", desc := "(I)V" } : Jvm.MethodName)) ∈ lw_tbl := sorry
theorem q1729 : (Jvm.Cond.instanceMethod ({ cls := "KrylovLaboratory$Scanner", name := "expectSign", desc := "(I)V" } : Jvm.MethodName)) ∈ lw_all := sorry
theorem q1730 : (Jvm.Cond.code ({ cls := "KrylovLaboratory$Scanner", name := "expectSign", desc := "(I)V" } : Jvm.MethodName) prog_9_method_10_code (2 : Nat) (Option.none : Option Jvm.ClassFile.FieldType)) ∈ lw_all := sorry
theorem q1731 : (Jvm.Cond.methodLink "KrylovLaboratory$Scanner" (104 : Nat) ({ cls := "KrylovLaboratory$Scanner", name := "isSign", desc := "(I)Z" } : Jvm.MethodName)) ∈ lw_all := sorry
theorem q1732 : (Jvm.Cond.instanceMethod ({ cls := "KrylovLaboratory$Scanner", name := "isSign", desc := "(I)Z" } : Jvm.MethodName)) ∈ lw_all := sorry
theorem q1733 : (Jvm.Cond.sameMethod "KrylovLaboratory$Scanner" "KrylovLaboratory$Scanner" "isSign" "(I)Z") ∈ lw_all := sorry
theorem q1736 : (Jvm.Cond.code ({ cls := "KrylovLaboratory$Scanner", name := "isSign", desc := "(I)Z" } : Jvm.MethodName) prog_9_method_7_code (2 : Nat) (Option.some Jvm.ClassFile.FieldType.boolean)) ∈ lw_all := sorry
theorem q1740 : (Jvm.Cond.declares ({ cls := "KrylovLaboratory$Scanner", name := "keyword", desc := "()Ljava/lang/String;" } : Jvm.MethodName)) ∈ lw_tbl := sorry
theorem q1816 : (Jvm.Cond.declares ({ cls := "KrylovLaboratory$Scanner", name := "next", desc := "()V" } : Jvm.MethodName)) ∈ lw_tbl := sorry
theorem q1824 : (Jvm.Cond.declares ({ cls := "KrylovLaboratory$Scanner", name := "isSign", desc := "(I)Z" } : Jvm.MethodName)) ∈ lw_tbl := sorry
theorem q2459 : (Jvm.Cond.declares ({ cls := "KrylovLaboratory$Scanner", name := "relationSign", desc := "()I" } : Jvm.MethodName)) ∈ lw_tbl := sorry
theorem q2461 : (Jvm.Cond.instanceMethod ({ cls := "KrylovLaboratory$Scanner", name := "relationSign", desc := "()I" } : Jvm.MethodName)) ∈ lw_all := sorry
theorem q2462 : (Jvm.Cond.code ({ cls := "KrylovLaboratory$Scanner", name := "relationSign", desc := "()I" } : Jvm.MethodName) prog_9_method_11_code (2 : Nat) (Option.some Jvm.ClassFile.FieldType.int)) ∈ lw_all := sorry
theorem q3216 : (Jvm.Cond.sameMethod "KrylovLaboratory$Scanner" "KrylovLaboratory$Scanner" "byteAt" "(I)I") ∈ lw_all := sorry
theorem q3219 : (Jvm.Cond.sameMethod "KrylovLaboratory$Scanner" "KrylovLaboratory$Scanner" "check" "(ZI)V") ∈ lw_all := sorry
/-! KrylovLaboratory$LaboratoryParser -/
set_option maxRecDepth 100000
def RX8 : String := "KrylovLaboratory$LaboratoryParser"
def TX8 : u_T := fun k => match k with
  | 0 => ("KrylovLaboratory$Scanner", "word", "Ljava/lang/StringBuilder;", true)
  | 1 => ("KrylovLaboratory$Scanner", "end", "I", true)
  | 2 => ("KrylovLaboratory$Scanner", "at", "I", false)
  | 3 => ("KrylovLaboratory$Scanner", "begin", "I", false)
  | 4 => ("KrylovLaboratory$Scanner", "value", "I", false)
  | 5 => ("KrylovLaboratory$Scanner", "sign", "I", false)
  | 6 => ("KrylovLaboratory$Scanner", "token", "LKrylovLaboratory$Token;", false)
  | 7 => ("KrylovLaboratory$Scanner", "this$0", "LKrylovLaboratory;", true)
  | 8 => ("KrylovLaboratory$LaboratoryParser", "made", "LKrylovLaboratory$State;", false)
  | _ => ("KrylovLaboratory$LaboratoryParser", "this$0", "LKrylovLaboratory;", true)
def tyX8 : Nat → FieldType := fun k => match k with
  | 0 => .object "java/lang/StringBuilder"
  | 1 => .int
  | 2 => .int
  | 3 => .int
  | 4 => .int
  | 5 => .int
  | 6 => .object "KrylovLaboratory$Token"
  | 7 => .object "KrylovLaboratory"
  | 8 => .object "KrylovLaboratory$State"
  | _ => .object "KrylovLaboratory"
abbrev wsX80 : List Cond := u_ws RX8 TX8 10
-- two fields of one name: no nmX8
theorem tyX8_ok : ∀ k, k < 10 → parseFieldDescriptor (TX8 k).2.2.1 = some (tyX8 k) := sorry
abbrev cX8_init : ByteArray := prog_4_method_1_code
def yX8_init : MethodName := ⟨RX8, "<init>", "(LKrylovLaboratory;I)V"⟩
def dkwX8_init_0 : List UInt8 := [42, 43, 181, 0, 3, 42, 43, 28, 183, 0, 9, 177]
abbrev dktX8_init_0 : List UInt8 := dkwX8_init_0 ++ []
theorem dksX8_init_0 : cX8_init.data.toList.drop 0 = dktX8_init_0 := sorry
theorem dX8_init_0 : decode cX8_init 0 = .ok (.aload_n 0, 1) := sorry
theorem dX8_init_1 : decode cX8_init 1 = .ok (.aload_n 1, 1) := sorry
theorem dX8_init_2 : decode cX8_init 2 = .ok (.putfield 3, 3) := sorry
theorem dX8_init_5 : decode cX8_init 5 = .ok (.aload_n 0, 1) := sorry
theorem dX8_init_6 : decode cX8_init 6 = .ok (.aload_n 1, 1) := sorry
theorem dX8_init_7 : decode cX8_init 7 = .ok (.iload_n 2, 1) := sorry
theorem dX8_init_8 : decode cX8_init 8 = .ok (.invokespecial 9, 3) := sorry
theorem dX8_init_11 : decode cX8_init 11 = .ok (.return_, 1) := sorry
abbrev cX8_parse : ByteArray := prog_4_method_2_code
def yX8_parse : MethodName := ⟨RX8, "parse", "()LKrylovLaboratory$State;"⟩
def dkwX8_parse_2 : List UInt8 := [182, 0, 50, 182, 0, 54, 42, 16, 59, 182, 0, 38, 167, 255, 232, 42, 180, 0, 34, 184, 0, 58, 176]
abbrev dktX8_parse_2 : List UInt8 := dkwX8_parse_2 ++ []
def dkwX8_parse_1 : List UInt8 := [183, 0, 31, 181, 0, 34, 42, 16, 59, 182, 0, 38, 42, 180, 0, 41, 178, 0, 45, 165, 0, 20, 42, 42]
abbrev dktX8_parse_1 : List UInt8 := dkwX8_parse_1 ++ dktX8_parse_2
def dkwX8_parse_0 : List UInt8 := [42, 42, 18, 15, 182, 0, 17, 4, 182, 0, 21, 42, 187, 0, 25, 89, 42, 5, 16, 6, 182, 0, 27]
abbrev dktX8_parse_0 : List UInt8 := dkwX8_parse_0 ++ dktX8_parse_1
theorem dksX8_parse_0 : cX8_parse.data.toList.drop 0 = dktX8_parse_0 := sorry
theorem dksX8_parse_1 : cX8_parse.data.toList.drop 23 = dktX8_parse_1 := sorry
theorem dksX8_parse_2 : cX8_parse.data.toList.drop 47 = dktX8_parse_2 := sorry
theorem dX8_parse_0 : decode cX8_parse 0 = .ok (.aload_n 0, 1) := sorry
theorem dX8_parse_1 : decode cX8_parse 1 = .ok (.aload_n 0, 1) := sorry
theorem dX8_parse_2 : decode cX8_parse 2 = .ok (.ldc 15, 2) := sorry
theorem dX8_parse_4 : decode cX8_parse 4 = .ok (.invokevirtual 17, 3) := sorry
theorem dX8_parse_7 : decode cX8_parse 7 = .ok (.iconst 1, 1) := sorry
theorem dX8_parse_8 : decode cX8_parse 8 = .ok (.invokevirtual 21, 3) := sorry
theorem dX8_parse_11 : decode cX8_parse 11 = .ok (.aload_n 0, 1) := sorry
theorem dX8_parse_12 : decode cX8_parse 12 = .ok (.new 25, 3) := sorry
theorem dX8_parse_15 : decode cX8_parse 15 = .ok (.dup, 1) := sorry
theorem dX8_parse_16 : decode cX8_parse 16 = .ok (.aload_n 0, 1) := sorry
theorem dX8_parse_17 : decode cX8_parse 17 = .ok (.iconst 2, 1) := sorry
theorem dX8_parse_18 : decode cX8_parse 18 = .ok (.bipush 6, 2) := sorry
theorem dX8_parse_20 : decode cX8_parse 20 = .ok (.invokevirtual 27, 3) := sorry
theorem dX8_parse_23 : decode cX8_parse 23 = .ok (.invokespecial 31, 3) := sorry
theorem dX8_parse_26 : decode cX8_parse 26 = .ok (.putfield 34, 3) := sorry
theorem dX8_parse_29 : decode cX8_parse 29 = .ok (.aload_n 0, 1) := sorry
theorem dX8_parse_30 : decode cX8_parse 30 = .ok (.bipush 59, 2) := sorry
theorem dX8_parse_32 : decode cX8_parse 32 = .ok (.invokevirtual 38, 3) := sorry
theorem dX8_parse_35 : decode cX8_parse 35 = .ok (.aload_n 0, 1) := sorry
theorem dX8_parse_36 : decode cX8_parse 36 = .ok (.getfield 41, 3) := sorry
theorem dX8_parse_39 : decode cX8_parse 39 = .ok (.getstatic 45, 3) := sorry
theorem dX8_parse_42 : decode cX8_parse 42 = .ok (.if_acmp .eq 20, 3) := sorry
theorem dX8_parse_45 : decode cX8_parse 45 = .ok (.aload_n 0, 1) := sorry
theorem dX8_parse_46 : decode cX8_parse 46 = .ok (.aload_n 0, 1) := sorry
theorem dX8_parse_47 : decode cX8_parse 47 = .ok (.invokevirtual 50, 3) := sorry
theorem dX8_parse_50 : decode cX8_parse 50 = .ok (.invokevirtual 54, 3) := sorry
theorem dX8_parse_53 : decode cX8_parse 53 = .ok (.aload_n 0, 1) := sorry
theorem dX8_parse_54 : decode cX8_parse 54 = .ok (.bipush 59, 2) := sorry
theorem dX8_parse_56 : decode cX8_parse 56 = .ok (.invokevirtual 38, 3) := sorry
theorem dX8_parse_59 : decode cX8_parse 59 = .ok (.goto (-24), 3) := sorry
theorem dX8_parse_62 : decode cX8_parse 62 = .ok (.aload_n 0, 1) := sorry
theorem dX8_parse_63 : decode cX8_parse 63 = .ok (.getfield 34, 3) := sorry
theorem dX8_parse_66 : decode cX8_parse 66 = .ok (.invokestatic 58, 3) := sorry
theorem dX8_parse_69 : decode cX8_parse 69 = .ok (.areturn, 1) := sorry
abbrev cX8_clause : ByteArray := prog_4_method_5_code
def yX8_clause : MethodName := ⟨RX8, "clause", "(Ljava/lang/String;)V"⟩
def dkwX8_clause_15 : List UInt8 := [42, 180, 0, 34, 42, 4, 18, 117, 182, 0, 92, 181, 0, 120, 167, 0, 9, 42, 3, 4, 182, 0, 21, 177]
abbrev dktX8_clause_15 : List UInt8 := dkwX8_clause_15 ++ []
def dkwX8_clause_14 : List UInt8 := [42, 182, 0, 62, 167, 0, 43, 42, 180, 0, 34, 42, 4, 18, 117, 182, 0, 92, 181, 0, 118, 167, 0, 26]
abbrev dktX8_clause_14 : List UInt8 := dkwX8_clause_14 ++ dktX8_clause_15
def dkwX8_clause_13 : List UInt8 := [181, 0, 114, 42, 42, 180, 0, 34, 180, 0, 114, 2, 159, 0, 7, 4, 167, 0, 4, 3, 4, 182, 0, 21]
abbrev dktX8_clause_13 : List UInt8 := dkwX8_clause_13 ++ dktX8_clause_14
def dkwX8_clause_12 : List UInt8 := [167, 0, 4, 3, 6, 182, 0, 21, 167, 0, 86, 42, 182, 0, 62, 42, 180, 0, 34, 42, 182, 0, 111]
abbrev dktX8_clause_12 : List UInt8 := dkwX8_clause_12 ++ dktX8_clause_13
def dkwX8_clause_11 : List UInt8 := [132, 7, 1, 167, 255, 204, 42, 21, 6, 154, 0, 12, 42, 16, 59, 182, 0, 66, 154, 0, 7, 4]
abbrev dktX8_clause_11 : List UInt8 := dkwX8_clause_11 ++ dktX8_clause_12
def dkwX8_clause_10 : List UInt8 := [21, 6, 42, 180, 0, 34, 180, 0, 108, 21, 7, 46, 153, 0, 7, 4, 167, 0, 4, 3, 128, 54, 6]
abbrev dktX8_clause_10 : List UInt8 := dkwX8_clause_10 ++ dktX8_clause_11
def dkwX8_clause_9 : List UInt8 := [180, 0, 34, 182, 0, 90, 162, 0, 46, 42, 180, 0, 34, 180, 0, 108, 21, 7, 42, 182, 0, 99, 79]
abbrev dktX8_clause_9 : List UInt8 := dkwX8_clause_9 ++ dktX8_clause_10
def dkwX8_clause_8 : List UInt8 := [182, 0, 99, 182, 0, 102, 167, 0, 178, 42, 182, 0, 62, 3, 54, 6, 3, 54, 7, 21, 7, 42]
abbrev dktX8_clause_8 : List UInt8 := dkwX8_clause_8 ++ dktX8_clause_9
def dkwX8_clause_7 : List UInt8 := [182, 0, 90, 4, 100, 182, 0, 27, 54, 5, 42, 180, 0, 34, 180, 0, 95, 21, 4, 21, 5, 42]
abbrev dktX8_clause_7 : List UInt8 := dkwX8_clause_7 ++ dktX8_clause_8
def dkwX8_clause_6 : List UInt8 := [42, 3, 42, 180, 0, 34, 182, 0, 90, 4, 100, 182, 0, 92, 54, 4, 42, 3, 42, 180, 0, 34]
abbrev dktX8_clause_6 : List UInt8 := dkwX8_clause_6 ++ dktX8_clause_7
def dkwX8_clause_5 : List UInt8 := [170, 0, 0, 0, 0, 0, 1, 2, 0, 0, 0, 0, 0, 0, 0, 4, 0, 0, 0, 36, 0, 0, 0, 89, 0, 0, 0, 181, 0, 0, 0, 224, 0, 0, 0, 241]
abbrev dktX8_clause_5 : List UInt8 := dkwX8_clause_5 ++ dktX8_clause_6
def dkwX8_clause_4 : List UInt8 := [153, 0, 19, 6, 62, 167, 0, 14, 44, 18, 88, 182, 0, 78, 153, 0, 5, 7, 62, 29]
abbrev dktX8_clause_4 : List UInt8 := dkwX8_clause_4 ++ dktX8_clause_5
def dkwX8_clause_3 : List UInt8 := [62, 167, 0, 42, 44, 18, 84, 182, 0, 78, 153, 0, 33, 5, 62, 167, 0, 28, 44, 18, 86, 182, 0, 78]
abbrev dktX8_clause_3 : List UInt8 := dkwX8_clause_3 ++ dktX8_clause_4
def dkwX8_clause_2 : List UInt8 := [44, 18, 76, 182, 0, 78, 153, 0, 61, 3, 62, 167, 0, 56, 44, 18, 82, 182, 0, 78, 153, 0, 47, 4]
abbrev dktX8_clause_2 : List UInt8 := dkwX8_clause_2 ++ dktX8_clause_3
def dkwX8_clause_1 : List UInt8 := [171, 0, 0, 0, 0, 0, 0, 119, 0, 0, 0, 5, 163, 225, 228, 107, 0, 0, 0, 94, 0, 51, 57, 163, 0, 0, 0, 80, 5, 195, 8, 114, 0, 0, 0, 52, 6, 138, 196, 98, 0, 0, 0, 66, 61, 147, 112, 13, 0, 0, 0, 108]
abbrev dktX8_clause_1 : List UInt8 := dkwX8_clause_1 ++ dktX8_clause_2
def dkwX8_clause_0 : List UInt8 := [43, 77, 2, 62, 44, 182, 0, 70]
abbrev dktX8_clause_0 : List UInt8 := dkwX8_clause_0 ++ dktX8_clause_1
theorem dksX8_clause_0 : cX8_clause.data.toList.drop 0 = dktX8_clause_0 := sorry
theorem dksX8_clause_1 : cX8_clause.data.toList.drop 8 = dktX8_clause_1 := sorry
theorem dksX8_clause_2 : cX8_clause.data.toList.drop 60 = dktX8_clause_2 := sorry
theorem dksX8_clause_3 : cX8_clause.data.toList.drop 84 = dktX8_clause_3 := sorry
theorem dksX8_clause_4 : cX8_clause.data.toList.drop 108 = dktX8_clause_4 := sorry
theorem dksX8_clause_5 : cX8_clause.data.toList.drop 128 = dktX8_clause_5 := sorry
theorem dksX8_clause_6 : cX8_clause.data.toList.drop 164 = dktX8_clause_6 := sorry
theorem dksX8_clause_7 : cX8_clause.data.toList.drop 186 = dktX8_clause_7 := sorry
theorem dksX8_clause_8 : cX8_clause.data.toList.drop 208 = dktX8_clause_8 := sorry
theorem dksX8_clause_9 : cX8_clause.data.toList.drop 230 = dktX8_clause_9 := sorry
theorem dksX8_clause_10 : cX8_clause.data.toList.drop 253 = dktX8_clause_10 := sorry
theorem dksX8_clause_11 : cX8_clause.data.toList.drop 276 = dktX8_clause_11 := sorry
theorem dksX8_clause_12 : cX8_clause.data.toList.drop 298 = dktX8_clause_12 := sorry
theorem dksX8_clause_13 : cX8_clause.data.toList.drop 321 = dktX8_clause_13 := sorry
theorem dksX8_clause_14 : cX8_clause.data.toList.drop 345 = dktX8_clause_14 := sorry
theorem dksX8_clause_15 : cX8_clause.data.toList.drop 369 = dktX8_clause_15 := sorry
theorem dX8_clause_0 : decode cX8_clause 0 = .ok (.aload_n 1, 1) := sorry
theorem dX8_clause_1 : decode cX8_clause 1 = .ok (.astore_n 2, 1) := sorry
theorem dX8_clause_2 : decode cX8_clause 2 = .ok (.iconst (-1), 1) := sorry
theorem dX8_clause_3 : decode cX8_clause 3 = .ok (.istore_n 3, 1) := sorry
theorem dX8_clause_4 : decode cX8_clause 4 = .ok (.aload_n 2, 1) := sorry
theorem dX8_clause_5 : decode cX8_clause 5 = .ok (.invokevirtual 70, 3) := sorry
theorem dX8_clause_8 : decode cX8_clause 8 = .ok (.lookupswitch 119 #[(-1545477013, 94), (3357091, 80), (96667762, 52), (109757538, 66), (1033072653, 108)], 52) := sorry
theorem dX8_clause_60 : decode cX8_clause 60 = .ok (.aload_n 2, 1) := sorry
theorem dX8_clause_61 : decode cX8_clause 61 = .ok (.ldc 76, 2) := sorry
theorem dX8_clause_63 : decode cX8_clause 63 = .ok (.invokevirtual 78, 3) := sorry
theorem dX8_clause_66 : decode cX8_clause 66 = .ok (.ifCond .eq 61, 3) := sorry
theorem dX8_clause_69 : decode cX8_clause 69 = .ok (.iconst 0, 1) := sorry
theorem dX8_clause_70 : decode cX8_clause 70 = .ok (.istore_n 3, 1) := sorry
theorem dX8_clause_71 : decode cX8_clause 71 = .ok (.goto 56, 3) := sorry
theorem dX8_clause_74 : decode cX8_clause 74 = .ok (.aload_n 2, 1) := sorry
theorem dX8_clause_75 : decode cX8_clause 75 = .ok (.ldc 82, 2) := sorry
theorem dX8_clause_77 : decode cX8_clause 77 = .ok (.invokevirtual 78, 3) := sorry
theorem dX8_clause_80 : decode cX8_clause 80 = .ok (.ifCond .eq 47, 3) := sorry
theorem dX8_clause_83 : decode cX8_clause 83 = .ok (.iconst 1, 1) := sorry
theorem dX8_clause_84 : decode cX8_clause 84 = .ok (.istore_n 3, 1) := sorry
theorem dX8_clause_85 : decode cX8_clause 85 = .ok (.goto 42, 3) := sorry
theorem dX8_clause_88 : decode cX8_clause 88 = .ok (.aload_n 2, 1) := sorry
theorem dX8_clause_89 : decode cX8_clause 89 = .ok (.ldc 84, 2) := sorry
theorem dX8_clause_91 : decode cX8_clause 91 = .ok (.invokevirtual 78, 3) := sorry
theorem dX8_clause_94 : decode cX8_clause 94 = .ok (.ifCond .eq 33, 3) := sorry
theorem dX8_clause_97 : decode cX8_clause 97 = .ok (.iconst 2, 1) := sorry
theorem dX8_clause_98 : decode cX8_clause 98 = .ok (.istore_n 3, 1) := sorry
theorem dX8_clause_99 : decode cX8_clause 99 = .ok (.goto 28, 3) := sorry
theorem dX8_clause_102 : decode cX8_clause 102 = .ok (.aload_n 2, 1) := sorry
theorem dX8_clause_103 : decode cX8_clause 103 = .ok (.ldc 86, 2) := sorry
theorem dX8_clause_105 : decode cX8_clause 105 = .ok (.invokevirtual 78, 3) := sorry
theorem dX8_clause_108 : decode cX8_clause 108 = .ok (.ifCond .eq 19, 3) := sorry
theorem dX8_clause_111 : decode cX8_clause 111 = .ok (.iconst 3, 1) := sorry
theorem dX8_clause_112 : decode cX8_clause 112 = .ok (.istore_n 3, 1) := sorry
theorem dX8_clause_113 : decode cX8_clause 113 = .ok (.goto 14, 3) := sorry
theorem dX8_clause_116 : decode cX8_clause 116 = .ok (.aload_n 2, 1) := sorry
theorem dX8_clause_117 : decode cX8_clause 117 = .ok (.ldc 88, 2) := sorry
theorem dX8_clause_119 : decode cX8_clause 119 = .ok (.invokevirtual 78, 3) := sorry
theorem dX8_clause_122 : decode cX8_clause 122 = .ok (.ifCond .eq 5, 3) := sorry
theorem dX8_clause_125 : decode cX8_clause 125 = .ok (.iconst 4, 1) := sorry
theorem dX8_clause_126 : decode cX8_clause 126 = .ok (.istore_n 3, 1) := sorry
theorem dX8_clause_127 : decode cX8_clause 127 = .ok (.iload_n 3, 1) := sorry
theorem dX8_clause_128 : decode cX8_clause 128 = .ok (.tableswitch 258 0 4 #[36, 89, 181, 224, 241], 36) := sorry
theorem dX8_clause_164 : decode cX8_clause 164 = .ok (.aload_n 0, 1) := sorry
theorem dX8_clause_165 : decode cX8_clause 165 = .ok (.iconst 0, 1) := sorry
theorem dX8_clause_166 : decode cX8_clause 166 = .ok (.aload_n 0, 1) := sorry
theorem dX8_clause_167 : decode cX8_clause 167 = .ok (.getfield 34, 3) := sorry
theorem dX8_clause_170 : decode cX8_clause 170 = .ok (.invokevirtual 90, 3) := sorry
theorem dX8_clause_173 : decode cX8_clause 173 = .ok (.iconst 1, 1) := sorry
theorem dX8_clause_174 : decode cX8_clause 174 = .ok (.isub, 1) := sorry
theorem dX8_clause_175 : decode cX8_clause 175 = .ok (.invokevirtual 92, 3) := sorry
theorem dX8_clause_178 : decode cX8_clause 178 = .ok (.istore 4, 2) := sorry
theorem dX8_clause_180 : decode cX8_clause 180 = .ok (.aload_n 0, 1) := sorry
theorem dX8_clause_181 : decode cX8_clause 181 = .ok (.iconst 0, 1) := sorry
theorem dX8_clause_182 : decode cX8_clause 182 = .ok (.aload_n 0, 1) := sorry
theorem dX8_clause_183 : decode cX8_clause 183 = .ok (.getfield 34, 3) := sorry
theorem dX8_clause_186 : decode cX8_clause 186 = .ok (.invokevirtual 90, 3) := sorry
theorem dX8_clause_189 : decode cX8_clause 189 = .ok (.iconst 1, 1) := sorry
theorem dX8_clause_190 : decode cX8_clause 190 = .ok (.isub, 1) := sorry
theorem dX8_clause_191 : decode cX8_clause 191 = .ok (.invokevirtual 27, 3) := sorry
theorem dX8_clause_194 : decode cX8_clause 194 = .ok (.istore 5, 2) := sorry
theorem dX8_clause_196 : decode cX8_clause 196 = .ok (.aload_n 0, 1) := sorry
theorem dX8_clause_197 : decode cX8_clause 197 = .ok (.getfield 34, 3) := sorry
theorem dX8_clause_200 : decode cX8_clause 200 = .ok (.getfield 95, 3) := sorry
theorem dX8_clause_203 : decode cX8_clause 203 = .ok (.iload 4, 2) := sorry
theorem dX8_clause_205 : decode cX8_clause 205 = .ok (.iload 5, 2) := sorry
theorem dX8_clause_207 : decode cX8_clause 207 = .ok (.aload_n 0, 1) := sorry
theorem dX8_clause_208 : decode cX8_clause 208 = .ok (.invokevirtual 99, 3) := sorry
theorem dX8_clause_211 : decode cX8_clause 211 = .ok (.invokevirtual 102, 3) := sorry
theorem dX8_clause_214 : decode cX8_clause 214 = .ok (.goto 178, 3) := sorry
theorem dX8_clause_217 : decode cX8_clause 217 = .ok (.aload_n 0, 1) := sorry
theorem dX8_clause_218 : decode cX8_clause 218 = .ok (.invokevirtual 62, 3) := sorry
theorem dX8_clause_221 : decode cX8_clause 221 = .ok (.iconst 0, 1) := sorry
theorem dX8_clause_222 : decode cX8_clause 222 = .ok (.istore 6, 2) := sorry
theorem dX8_clause_224 : decode cX8_clause 224 = .ok (.iconst 0, 1) := sorry
theorem dX8_clause_225 : decode cX8_clause 225 = .ok (.istore 7, 2) := sorry
theorem dX8_clause_227 : decode cX8_clause 227 = .ok (.iload 7, 2) := sorry
theorem dX8_clause_229 : decode cX8_clause 229 = .ok (.aload_n 0, 1) := sorry
theorem dX8_clause_230 : decode cX8_clause 230 = .ok (.getfield 34, 3) := sorry
theorem dX8_clause_233 : decode cX8_clause 233 = .ok (.invokevirtual 90, 3) := sorry
theorem dX8_clause_236 : decode cX8_clause 236 = .ok (.if_icmp .ge 46, 3) := sorry
theorem dX8_clause_239 : decode cX8_clause 239 = .ok (.aload_n 0, 1) := sorry
theorem dX8_clause_240 : decode cX8_clause 240 = .ok (.getfield 34, 3) := sorry
theorem dX8_clause_243 : decode cX8_clause 243 = .ok (.getfield 108, 3) := sorry
theorem dX8_clause_246 : decode cX8_clause 246 = .ok (.iload 7, 2) := sorry
theorem dX8_clause_248 : decode cX8_clause 248 = .ok (.aload_n 0, 1) := sorry
theorem dX8_clause_249 : decode cX8_clause 249 = .ok (.invokevirtual 99, 3) := sorry
theorem dX8_clause_252 : decode cX8_clause 252 = .ok (.iastore, 1) := sorry
theorem dX8_clause_253 : decode cX8_clause 253 = .ok (.iload 6, 2) := sorry
theorem dX8_clause_255 : decode cX8_clause 255 = .ok (.aload_n 0, 1) := sorry
theorem dX8_clause_256 : decode cX8_clause 256 = .ok (.getfield 34, 3) := sorry
theorem dX8_clause_259 : decode cX8_clause 259 = .ok (.getfield 108, 3) := sorry
theorem dX8_clause_262 : decode cX8_clause 262 = .ok (.iload 7, 2) := sorry
theorem dX8_clause_264 : decode cX8_clause 264 = .ok (.iaload, 1) := sorry
theorem dX8_clause_265 : decode cX8_clause 265 = .ok (.ifCond .eq 7, 3) := sorry
theorem dX8_clause_268 : decode cX8_clause 268 = .ok (.iconst 1, 1) := sorry
theorem dX8_clause_269 : decode cX8_clause 269 = .ok (.goto 4, 3) := sorry
theorem dX8_clause_272 : decode cX8_clause 272 = .ok (.iconst 0, 1) := sorry
theorem dX8_clause_273 : decode cX8_clause 273 = .ok (.ior, 1) := sorry
theorem dX8_clause_274 : decode cX8_clause 274 = .ok (.istore 6, 2) := sorry
theorem dX8_clause_276 : decode cX8_clause 276 = .ok (.iinc 7 1, 3) := sorry
theorem dX8_clause_279 : decode cX8_clause 279 = .ok (.goto (-52), 3) := sorry
theorem dX8_clause_282 : decode cX8_clause 282 = .ok (.aload_n 0, 1) := sorry
theorem dX8_clause_283 : decode cX8_clause 283 = .ok (.iload 6, 2) := sorry
theorem dX8_clause_285 : decode cX8_clause 285 = .ok (.ifCond .ne 12, 3) := sorry
theorem dX8_clause_288 : decode cX8_clause 288 = .ok (.aload_n 0, 1) := sorry
theorem dX8_clause_289 : decode cX8_clause 289 = .ok (.bipush 59, 2) := sorry
theorem dX8_clause_291 : decode cX8_clause 291 = .ok (.invokevirtual 66, 3) := sorry
theorem dX8_clause_294 : decode cX8_clause 294 = .ok (.ifCond .ne 7, 3) := sorry
theorem dX8_clause_297 : decode cX8_clause 297 = .ok (.iconst 1, 1) := sorry
theorem dX8_clause_298 : decode cX8_clause 298 = .ok (.goto 4, 3) := sorry
theorem dX8_clause_301 : decode cX8_clause 301 = .ok (.iconst 0, 1) := sorry
theorem dX8_clause_302 : decode cX8_clause 302 = .ok (.iconst 3, 1) := sorry
theorem dX8_clause_303 : decode cX8_clause 303 = .ok (.invokevirtual 21, 3) := sorry
theorem dX8_clause_306 : decode cX8_clause 306 = .ok (.goto 86, 3) := sorry
theorem dX8_clause_309 : decode cX8_clause 309 = .ok (.aload_n 0, 1) := sorry
theorem dX8_clause_310 : decode cX8_clause 310 = .ok (.invokevirtual 62, 3) := sorry
theorem dX8_clause_313 : decode cX8_clause 313 = .ok (.aload_n 0, 1) := sorry
theorem dX8_clause_314 : decode cX8_clause 314 = .ok (.getfield 34, 3) := sorry
theorem dX8_clause_317 : decode cX8_clause 317 = .ok (.aload_n 0, 1) := sorry
theorem dX8_clause_318 : decode cX8_clause 318 = .ok (.invokevirtual 111, 3) := sorry
theorem dX8_clause_321 : decode cX8_clause 321 = .ok (.putfield 114, 3) := sorry
theorem dX8_clause_324 : decode cX8_clause 324 = .ok (.aload_n 0, 1) := sorry
theorem dX8_clause_325 : decode cX8_clause 325 = .ok (.aload_n 0, 1) := sorry
theorem dX8_clause_326 : decode cX8_clause 326 = .ok (.getfield 34, 3) := sorry
theorem dX8_clause_329 : decode cX8_clause 329 = .ok (.getfield 114, 3) := sorry
theorem dX8_clause_332 : decode cX8_clause 332 = .ok (.iconst (-1), 1) := sorry
theorem dX8_clause_333 : decode cX8_clause 333 = .ok (.if_icmp .eq 7, 3) := sorry
theorem dX8_clause_336 : decode cX8_clause 336 = .ok (.iconst 1, 1) := sorry
theorem dX8_clause_337 : decode cX8_clause 337 = .ok (.goto 4, 3) := sorry
theorem dX8_clause_340 : decode cX8_clause 340 = .ok (.iconst 0, 1) := sorry
theorem dX8_clause_341 : decode cX8_clause 341 = .ok (.iconst 1, 1) := sorry
theorem dX8_clause_342 : decode cX8_clause 342 = .ok (.invokevirtual 21, 3) := sorry
theorem dX8_clause_345 : decode cX8_clause 345 = .ok (.aload_n 0, 1) := sorry
theorem dX8_clause_346 : decode cX8_clause 346 = .ok (.invokevirtual 62, 3) := sorry
theorem dX8_clause_349 : decode cX8_clause 349 = .ok (.goto 43, 3) := sorry
theorem dX8_clause_352 : decode cX8_clause 352 = .ok (.aload_n 0, 1) := sorry
theorem dX8_clause_353 : decode cX8_clause 353 = .ok (.getfield 34, 3) := sorry
theorem dX8_clause_356 : decode cX8_clause 356 = .ok (.aload_n 0, 1) := sorry
theorem dX8_clause_357 : decode cX8_clause 357 = .ok (.iconst 1, 1) := sorry
theorem dX8_clause_358 : decode cX8_clause 358 = .ok (.ldc 117, 2) := sorry
theorem dX8_clause_360 : decode cX8_clause 360 = .ok (.invokevirtual 92, 3) := sorry
theorem dX8_clause_363 : decode cX8_clause 363 = .ok (.putfield 118, 3) := sorry
theorem dX8_clause_366 : decode cX8_clause 366 = .ok (.goto 26, 3) := sorry
theorem dX8_clause_369 : decode cX8_clause 369 = .ok (.aload_n 0, 1) := sorry
theorem dX8_clause_370 : decode cX8_clause 370 = .ok (.getfield 34, 3) := sorry
theorem dX8_clause_373 : decode cX8_clause 373 = .ok (.aload_n 0, 1) := sorry
theorem dX8_clause_374 : decode cX8_clause 374 = .ok (.iconst 1, 1) := sorry
theorem dX8_clause_375 : decode cX8_clause 375 = .ok (.ldc 117, 2) := sorry
theorem dX8_clause_377 : decode cX8_clause 377 = .ok (.invokevirtual 92, 3) := sorry
theorem dX8_clause_380 : decode cX8_clause 380 = .ok (.putfield 120, 3) := sorry
theorem dX8_clause_383 : decode cX8_clause 383 = .ok (.goto 9, 3) := sorry
theorem dX8_clause_386 : decode cX8_clause 386 = .ok (.aload_n 0, 1) := sorry
theorem dX8_clause_387 : decode cX8_clause 387 = .ok (.iconst 0, 1) := sorry
theorem dX8_clause_388 : decode cX8_clause 388 = .ok (.iconst 1, 1) := sorry
theorem dX8_clause_389 : decode cX8_clause 389 = .ok (.invokevirtual 21, 3) := sorry
theorem dX8_clause_392 : decode cX8_clause 392 = .ok (.return_, 1) := sorry
abbrev cX8_only : ByteArray := prog_4_method_3_code
def yX8_only : MethodName := ⟨RX8, "only", "(II)I"⟩
def dkwX8_only_0 : List UInt8 := [42, 182, 0, 62, 42, 27, 28, 182, 0, 27, 172]
abbrev dktX8_only_0 : List UInt8 := dkwX8_only_0 ++ []
theorem dksX8_only_0 : cX8_only.data.toList.drop 0 = dktX8_only_0 := sorry
theorem dX8_only_0 : decode cX8_only 0 = .ok (.aload_n 0, 1) := sorry
theorem dX8_only_1 : decode cX8_only 1 = .ok (.invokevirtual 62, 3) := sorry
theorem dX8_only_4 : decode cX8_only 4 = .ok (.aload_n 0, 1) := sorry
theorem dX8_only_5 : decode cX8_only 5 = .ok (.iload_n 1, 1) := sorry
theorem dX8_only_6 : decode cX8_only 6 = .ok (.iload_n 2, 1) := sorry
theorem dX8_only_7 : decode cX8_only 7 = .ok (.invokevirtual 27, 3) := sorry
theorem dX8_only_10 : decode cX8_only 10 = .ok (.ireturn, 1) := sorry
abbrev cX8_integer : ByteArray := prog_4_method_4_code
def yX8_integer : MethodName := ⟨RX8, "integer", "()I"⟩
def dkwX8_integer_1 : List UInt8 := [153, 0, 8, 28, 116, 167, 0, 4, 28, 172]
abbrev dktX8_integer_1 : List UInt8 := dkwX8_integer_1 ++ []
def dkwX8_integer_0 : List UInt8 := [42, 16, 45, 182, 0, 66, 60, 27, 153, 0, 7, 42, 182, 0, 62, 42, 3, 16, 99, 182, 0, 27, 61, 27]
abbrev dktX8_integer_0 : List UInt8 := dkwX8_integer_0 ++ dktX8_integer_1
theorem dksX8_integer_0 : cX8_integer.data.toList.drop 0 = dktX8_integer_0 := sorry
theorem dksX8_integer_1 : cX8_integer.data.toList.drop 24 = dktX8_integer_1 := sorry
theorem dX8_integer_0 : decode cX8_integer 0 = .ok (.aload_n 0, 1) := sorry
theorem dX8_integer_1 : decode cX8_integer 1 = .ok (.bipush 45, 2) := sorry
theorem dX8_integer_3 : decode cX8_integer 3 = .ok (.invokevirtual 66, 3) := sorry
theorem dX8_integer_6 : decode cX8_integer 6 = .ok (.istore_n 1, 1) := sorry
theorem dX8_integer_7 : decode cX8_integer 7 = .ok (.iload_n 1, 1) := sorry
theorem dX8_integer_8 : decode cX8_integer 8 = .ok (.ifCond .eq 7, 3) := sorry
theorem dX8_integer_11 : decode cX8_integer 11 = .ok (.aload_n 0, 1) := sorry
theorem dX8_integer_12 : decode cX8_integer 12 = .ok (.invokevirtual 62, 3) := sorry
theorem dX8_integer_15 : decode cX8_integer 15 = .ok (.aload_n 0, 1) := sorry
theorem dX8_integer_16 : decode cX8_integer 16 = .ok (.iconst 0, 1) := sorry
theorem dX8_integer_17 : decode cX8_integer 17 = .ok (.bipush 99, 2) := sorry
theorem dX8_integer_19 : decode cX8_integer 19 = .ok (.invokevirtual 27, 3) := sorry
theorem dX8_integer_22 : decode cX8_integer 22 = .ok (.istore_n 2, 1) := sorry
theorem dX8_integer_23 : decode cX8_integer 23 = .ok (.iload_n 1, 1) := sorry
theorem dX8_integer_24 : decode cX8_integer 24 = .ok (.ifCond .eq 8, 3) := sorry
theorem dX8_integer_27 : decode cX8_integer 27 = .ok (.iload_n 2, 1) := sorry
theorem dX8_integer_28 : decode cX8_integer 28 = .ok (.ineg, 1) := sorry
theorem dX8_integer_29 : decode cX8_integer 29 = .ok (.goto 4, 3) := sorry
theorem dX8_integer_32 : decode cX8_integer 32 = .ok (.iload_n 2, 1) := sorry
theorem dX8_integer_33 : decode cX8_integer 33 = .ok (.ireturn, 1) := sorry
abbrev cX8_modeHere : ByteArray := prog_4_method_6_code
def yX8_modeHere : MethodName := ⟨RX8, "modeHere", "()I"⟩
def dkwX8_modeHere_5 : List UInt8 := [3, 167, 0, 12, 4, 167, 0, 8, 5, 167, 0, 4, 2, 172]
abbrev dktX8_modeHere_5 : List UInt8 := dkwX8_modeHere_5 ++ []
def dkwX8_modeHere_4 : List UInt8 := [170, 0, 0, 0, 0, 0, 0, 40, 0, 0, 0, 0, 0, 0, 0, 2, 0, 0, 0, 28, 0, 0, 0, 32, 0, 0, 0, 36]
abbrev dktX8_modeHere_4 : List UInt8 := dkwX8_modeHere_4 ++ dktX8_modeHere_5
def dkwX8_modeHere_3 : List UInt8 := [61, 167, 0, 14, 43, 18, 126, 182, 0, 78, 153, 0, 5, 5, 61, 28]
abbrev dktX8_modeHere_3 : List UInt8 := dkwX8_modeHere_3 ++ dktX8_modeHere_4
def dkwX8_modeHere_2 : List UInt8 := [43, 18, 122, 182, 0, 78, 153, 0, 33, 3, 61, 167, 0, 28, 43, 18, 124, 182, 0, 78, 153, 0, 19, 4]
abbrev dktX8_modeHere_2 : List UInt8 := dkwX8_modeHere_2 ++ dktX8_modeHere_3
def dkwX8_modeHere_1 : List UInt8 := [171, 0, 0, 0, 72, 0, 0, 0, 3, 153, 184, 114, 92, 0, 0, 0, 47, 0, 48, 34, 143, 0, 0, 0, 61, 0, 51, 175, 56, 0, 0, 0, 33]
abbrev dktX8_modeHere_1 : List UInt8 := dkwX8_modeHere_1 ++ dktX8_modeHere_2
def dkwX8_modeHere_0 : List UInt8 := [42, 182, 0, 50, 76, 2, 61, 43, 182, 0, 70]
abbrev dktX8_modeHere_0 : List UInt8 := dkwX8_modeHere_0 ++ dktX8_modeHere_1
theorem dksX8_modeHere_0 : cX8_modeHere.data.toList.drop 0 = dktX8_modeHere_0 := sorry
theorem dksX8_modeHere_1 : cX8_modeHere.data.toList.drop 11 = dktX8_modeHere_1 := sorry
theorem dksX8_modeHere_2 : cX8_modeHere.data.toList.drop 44 = dktX8_modeHere_2 := sorry
theorem dksX8_modeHere_3 : cX8_modeHere.data.toList.drop 68 = dktX8_modeHere_3 := sorry
theorem dksX8_modeHere_4 : cX8_modeHere.data.toList.drop 84 = dktX8_modeHere_4 := sorry
theorem dksX8_modeHere_5 : cX8_modeHere.data.toList.drop 112 = dktX8_modeHere_5 := sorry
theorem dX8_modeHere_0 : decode cX8_modeHere 0 = .ok (.aload_n 0, 1) := sorry
theorem dX8_modeHere_1 : decode cX8_modeHere 1 = .ok (.invokevirtual 50, 3) := sorry
theorem dX8_modeHere_4 : decode cX8_modeHere 4 = .ok (.astore_n 1, 1) := sorry
theorem dX8_modeHere_5 : decode cX8_modeHere 5 = .ok (.iconst (-1), 1) := sorry
theorem dX8_modeHere_6 : decode cX8_modeHere 6 = .ok (.istore_n 2, 1) := sorry
theorem dX8_modeHere_7 : decode cX8_modeHere 7 = .ok (.aload_n 1, 1) := sorry
theorem dX8_modeHere_8 : decode cX8_modeHere 8 = .ok (.invokevirtual 70, 3) := sorry
theorem dX8_modeHere_11 : decode cX8_modeHere 11 = .ok (.lookupswitch 72 #[(-1715965348, 47), (3154575, 61), (3387192, 33)], 33) := sorry
theorem dX8_modeHere_44 : decode cX8_modeHere 44 = .ok (.aload_n 1, 1) := sorry
theorem dX8_modeHere_45 : decode cX8_modeHere 45 = .ok (.ldc 122, 2) := sorry
theorem dX8_modeHere_47 : decode cX8_modeHere 47 = .ok (.invokevirtual 78, 3) := sorry
theorem dX8_modeHere_50 : decode cX8_modeHere 50 = .ok (.ifCond .eq 33, 3) := sorry
theorem dX8_modeHere_53 : decode cX8_modeHere 53 = .ok (.iconst 0, 1) := sorry
theorem dX8_modeHere_54 : decode cX8_modeHere 54 = .ok (.istore_n 2, 1) := sorry
theorem dX8_modeHere_55 : decode cX8_modeHere 55 = .ok (.goto 28, 3) := sorry
theorem dX8_modeHere_58 : decode cX8_modeHere 58 = .ok (.aload_n 1, 1) := sorry
theorem dX8_modeHere_59 : decode cX8_modeHere 59 = .ok (.ldc 124, 2) := sorry
theorem dX8_modeHere_61 : decode cX8_modeHere 61 = .ok (.invokevirtual 78, 3) := sorry
theorem dX8_modeHere_64 : decode cX8_modeHere 64 = .ok (.ifCond .eq 19, 3) := sorry
theorem dX8_modeHere_67 : decode cX8_modeHere 67 = .ok (.iconst 1, 1) := sorry
theorem dX8_modeHere_68 : decode cX8_modeHere 68 = .ok (.istore_n 2, 1) := sorry
theorem dX8_modeHere_69 : decode cX8_modeHere 69 = .ok (.goto 14, 3) := sorry
theorem dX8_modeHere_72 : decode cX8_modeHere 72 = .ok (.aload_n 1, 1) := sorry
theorem dX8_modeHere_73 : decode cX8_modeHere 73 = .ok (.ldc 126, 2) := sorry
theorem dX8_modeHere_75 : decode cX8_modeHere 75 = .ok (.invokevirtual 78, 3) := sorry
theorem dX8_modeHere_78 : decode cX8_modeHere 78 = .ok (.ifCond .eq 5, 3) := sorry
theorem dX8_modeHere_81 : decode cX8_modeHere 81 = .ok (.iconst 2, 1) := sorry
theorem dX8_modeHere_82 : decode cX8_modeHere 82 = .ok (.istore_n 2, 1) := sorry
theorem dX8_modeHere_83 : decode cX8_modeHere 83 = .ok (.iload_n 2, 1) := sorry
theorem dX8_modeHere_84 : decode cX8_modeHere 84 = .ok (.tableswitch 40 0 2 #[28, 32, 36], 28) := sorry
theorem dX8_modeHere_112 : decode cX8_modeHere 112 = .ok (.iconst 0, 1) := sorry
theorem dX8_modeHere_113 : decode cX8_modeHere 113 = .ok (.goto 12, 3) := sorry
theorem dX8_modeHere_116 : decode cX8_modeHere 116 = .ok (.iconst 1, 1) := sorry
theorem dX8_modeHere_117 : decode cX8_modeHere 117 = .ok (.goto 8, 3) := sorry
theorem dX8_modeHere_120 : decode cX8_modeHere 120 = .ok (.iconst 2, 1) := sorry
theorem dX8_modeHere_121 : decode cX8_modeHere 121 = .ok (.goto 4, 3) := sorry
theorem dX8_modeHere_124 : decode cX8_modeHere 124 = .ok (.iconst (-1), 1) := sorry
theorem dX8_modeHere_125 : decode cX8_modeHere 125 = .ok (.ireturn, 1) := sorry
theorem q172 : (Jvm.Cond.initialized "KrylovLaboratory$LaboratoryParser") ∈ lw_all := sorry
theorem q253 : (Jvm.Cond.fieldLinkNest "KrylovLaboratory$LaboratoryParser" (95 : Nat) "KrylovLaboratory$State" "matrix" "LKrylovLaboratory$Matrix;" "KrylovLaboratory") ∈ lw_tbl := sorry
theorem q256 : (Jvm.Cond.fieldLinkNest "KrylovLaboratory$LaboratoryParser" (108 : Nat) "KrylovLaboratory$State" "start" "[I" "KrylovLaboratory") ∈ lw_tbl := lw_at lw_m1 127 rfl
theorem q262 : (Jvm.Cond.fieldLinkNest "KrylovLaboratory$LaboratoryParser" (114 : Nat) "KrylovLaboratory$State" "mode" "I" "KrylovLaboratory") ∈ lw_tbl := sorry
theorem q265 : (Jvm.Cond.fieldLinkNest "KrylovLaboratory$LaboratoryParser" (118 : Nat) "KrylovLaboratory$State" "threshold" "I" "KrylovLaboratory") ∈ lw_tbl := sorry
theorem q268 : (Jvm.Cond.fieldLinkNest "KrylovLaboratory$LaboratoryParser" (120 : Nat) "KrylovLaboratory$State" "tolerance" "I" "KrylovLaboratory") ∈ lw_tbl := sorry
theorem q559 : (Jvm.Cond.selects "KrylovLaboratory$LaboratoryParser" ({ cls := "java/lang/Object", name := "getClass", desc := "()Ljava/lang/Class;" } : Jvm.MethodName) ({ cls := "java/lang/Object", name := "getClass", desc := "()Ljava/lang/Class;" } : Jvm.MethodName)) ∈ lw_all := sorry
theorem q1548 : (Jvm.Cond.instantiable "KrylovLaboratory$LaboratoryParser" (10 : Nat)) ∈ lw_all := sorry
theorem q1550 : (Jvm.Cond.instanceMethod ({ cls := "KrylovLaboratory$LaboratoryParser", name := "<init>", desc := "(LKrylovLaboratory;I)V" } : Jvm.MethodName)) ∈ lw_all := sorry
theorem q1551 : (Jvm.Cond.code ({ cls := "KrylovLaboratory$LaboratoryParser", name := "<init>", desc := "(LKrylovLaboratory;I)V" } : Jvm.MethodName) prog_4_method_1_code (3 : Nat) (Option.none : Option Jvm.ClassFile.FieldType)) ∈ lw_all := sorry
theorem q1552 : (Jvm.Cond.methodLink "KrylovLaboratory$LaboratoryParser" (9 : Nat) ({ cls := "KrylovLaboratory$Scanner", name := "<init>", desc := "(LKrylovLaboratory;I)V" } : Jvm.MethodName)) ∈ lw_all := sorry
theorem q1561 : (Jvm.Cond.selects "KrylovLaboratory$LaboratoryParser" ({ cls := "KrylovLaboratory$Scanner", name := "next", desc := "()V" } : Jvm.MethodName) ({ cls := "KrylovLaboratory$Scanner", name := "next", desc := "()V" } : Jvm.MethodName)) ∈ lw_all := sorry
theorem q1620 : (Jvm.Cond.fieldLink "KrylovLaboratory$LaboratoryParser" (34 : Nat) "KrylovLaboratory$LaboratoryParser" "made" "LKrylovLaboratory$State;") ∈ lw_all := sorry
theorem q1621 : (Jvm.Cond.fieldLink "KrylovLaboratory$LaboratoryParser" (3 : Nat) "KrylovLaboratory$LaboratoryParser" "this$0" "LKrylovLaboratory;") ∈ lw_all := sorry
theorem q1628 : (Jvm.Cond.fieldLink "KrylovLaboratory$LaboratoryParser" (41 : Nat) "KrylovLaboratory$LaboratoryParser" "token" "LKrylovLaboratory$Token;") ∈ lw_all := sorry
theorem q1629 : (Jvm.Cond.sameField "KrylovLaboratory$LaboratoryParser" "KrylovLaboratory$Scanner" "token" "LKrylovLaboratory$Token;") ∈ lw_all := sorry
theorem q1634 : (Jvm.Cond.lays "KrylovLaboratory$LaboratoryParser" "KrylovLaboratory$LaboratoryParser" "made" "LKrylovLaboratory$State;") ∈ lw_all := sorry
theorem q1635 : (Jvm.Cond.soleField "KrylovLaboratory$LaboratoryParser" "made") ∈ lw_all := sorry
theorem q1636 : (Jvm.Cond.laysFinal "KrylovLaboratory$LaboratoryParser" "KrylovLaboratory$LaboratoryParser" "this$0" "LKrylovLaboratory;") ∈ lw_all := sorry
theorem q1637 : (Jvm.Cond.soleField "KrylovLaboratory$LaboratoryParser" "this$0") ∈ lw_all := sorry
theorem q1638 : (Jvm.Cond.laysFinal "KrylovLaboratory$LaboratoryParser" "KrylovLaboratory$Scanner" "word" "Ljava/lang/StringBuilder;") ∈ lw_all := sorry
theorem q1640 : (Jvm.Cond.laysFinal "KrylovLaboratory$LaboratoryParser" "KrylovLaboratory$Scanner" "end" "I") ∈ lw_all := sorry
theorem q1642 : (Jvm.Cond.lays "KrylovLaboratory$LaboratoryParser" "KrylovLaboratory$Scanner" "at" "I") ∈ lw_all := sorry
theorem q1644 : (Jvm.Cond.lays "KrylovLaboratory$LaboratoryParser" "KrylovLaboratory$Scanner" "begin" "I") ∈ lw_all := sorry
theorem q1646 : (Jvm.Cond.lays "KrylovLaboratory$LaboratoryParser" "KrylovLaboratory$Scanner" "value" "I") ∈ lw_all := sorry
theorem q1648 : (Jvm.Cond.lays "KrylovLaboratory$LaboratoryParser" "KrylovLaboratory$Scanner" "sign" "I") ∈ lw_all := sorry
theorem q1650 : (Jvm.Cond.lays "KrylovLaboratory$LaboratoryParser" "KrylovLaboratory$Scanner" "token" "LKrylovLaboratory$Token;") ∈ lw_all := sorry
theorem q1652 : (Jvm.Cond.laysFinal "KrylovLaboratory$LaboratoryParser" "KrylovLaboratory$Scanner" "this$0" "LKrylovLaboratory;") ∈ lw_all := sorry
theorem q1654 : (Jvm.Cond.superclass "KrylovLaboratory$LaboratoryParser" "KrylovLaboratory$Scanner") ∈ lw_all := sorry
theorem q1656 : (Jvm.Cond.instanceMethod ({ cls := "KrylovLaboratory$LaboratoryParser", name := "parse", desc := "()LKrylovLaboratory$State;" } : Jvm.MethodName)) ∈ lw_all := sorry
theorem q1657 : (Jvm.Cond.selects "KrylovLaboratory$LaboratoryParser" ({ cls := "KrylovLaboratory$LaboratoryParser", name := "parse", desc := "()LKrylovLaboratory$State;" } : Jvm.MethodName) ({ cls := "KrylovLaboratory$LaboratoryParser", name := "parse", desc := "()LKrylovLaboratory$State;" } : Jvm.MethodName)) ∈ lw_all := sorry
theorem q1658 : (Jvm.Cond.code ({ cls := "KrylovLaboratory$LaboratoryParser", name := "parse", desc := "()LKrylovLaboratory$State;" } : Jvm.MethodName) prog_4_method_2_code (1 : Nat) (Option.some (Jvm.ClassFile.FieldType.object "KrylovLaboratory$State"))) ∈ lw_all := sorry
theorem q1659 : (Jvm.Cond.stringRef "KrylovLaboratory$LaboratoryParser" (15 : Nat) "order") ∈ lw_tbl := sorry
theorem q1660 : (Jvm.Cond.methodLink "KrylovLaboratory$LaboratoryParser" (17 : Nat) ({ cls := "KrylovLaboratory$LaboratoryParser", name := "accept", desc := "(Ljava/lang/String;)Z" } : Jvm.MethodName)) ∈ lw_all := sorry
theorem q1661 : (Jvm.Cond.sameMethod "KrylovLaboratory$LaboratoryParser" "KrylovLaboratory$Scanner" "accept" "(Ljava/lang/String;)Z") ∈ lw_all := sorry
theorem q1663 : (Jvm.Cond.selects "KrylovLaboratory$LaboratoryParser" ({ cls := "KrylovLaboratory$LaboratoryParser", name := "accept", desc := "(Ljava/lang/String;)Z" } : Jvm.MethodName) ({ cls := "KrylovLaboratory$Scanner", name := "accept", desc := "(Ljava/lang/String;)Z" } : Jvm.MethodName)) ∈ lw_all := sorry
theorem q1669 : (Jvm.Cond.selects "KrylovLaboratory$LaboratoryParser" ({ cls := "KrylovLaboratory$Scanner", name := "keyword", desc := "()Ljava/lang/String;" } : Jvm.MethodName) ({ cls := "KrylovLaboratory$Scanner", name := "keyword", desc := "()Ljava/lang/String;" } : Jvm.MethodName)) ∈ lw_all := sorry
theorem q1682 : (Jvm.Cond.methodLink "KrylovLaboratory$LaboratoryParser" (21 : Nat) ({ cls := "KrylovLaboratory$LaboratoryParser", name := "check", desc := "(ZI)V" } : Jvm.MethodName)) ∈ lw_all := sorry
theorem q1683 : (Jvm.Cond.sameMethod "KrylovLaboratory$LaboratoryParser" "KrylovLaboratory$Scanner" "check" "(ZI)V") ∈ lw_all := sorry
theorem q1685 : (Jvm.Cond.selects "KrylovLaboratory$LaboratoryParser" ({ cls := "KrylovLaboratory$LaboratoryParser", name := "check", desc := "(ZI)V" } : Jvm.MethodName) ({ cls := "KrylovLaboratory$Scanner", name := "check", desc := "(ZI)V" } : Jvm.MethodName)) ∈ lw_all := sorry
theorem q1716 : (Jvm.Cond.classLink "KrylovLaboratory$LaboratoryParser" (25 : Nat) "KrylovLaboratory$State") ∈ lw_all := sorry
theorem q1717 : (Jvm.Cond.methodLink "KrylovLaboratory$LaboratoryParser" (27 : Nat) ({ cls := "KrylovLaboratory$LaboratoryParser", name := "number", desc := "(II)I" } : Jvm.MethodName)) ∈ lw_all := sorry
theorem q1718 : (Jvm.Cond.sameMethod "KrylovLaboratory$LaboratoryParser" "KrylovLaboratory$Scanner" "number" "(II)I") ∈ lw_all := sorry
theorem q1720 : (Jvm.Cond.selects "KrylovLaboratory$LaboratoryParser" ({ cls := "KrylovLaboratory$LaboratoryParser", name := "number", desc := "(II)I" } : Jvm.MethodName) ({ cls := "KrylovLaboratory$Scanner", name := "number", desc := "(II)I" } : Jvm.MethodName)) ∈ lw_all := sorry
theorem q1724 : (Jvm.Cond.methodLink "KrylovLaboratory$LaboratoryParser" (31 : Nat) ({ cls := "KrylovLaboratory$State", name := "<init>", desc := "(I)V" } : Jvm.MethodName)) ∈ lw_all := sorry
theorem q1725 : (Jvm.Cond.methodLink "KrylovLaboratory$LaboratoryParser" (38 : Nat) ({ cls := "KrylovLaboratory$LaboratoryParser", name := "expectSign", desc := "(I)V" } : Jvm.MethodName)) ∈ lw_all := sorry
theorem q1726 : (Jvm.Cond.sameMethod "KrylovLaboratory$LaboratoryParser" "KrylovLaboratory$Scanner" "expectSign" "(I)V") ∈ lw_all := sorry
theorem q1728 : (Jvm.Cond.selects "KrylovLaboratory$LaboratoryParser" ({ cls := "KrylovLaboratory$LaboratoryParser", name := "expectSign", desc := "(I)V" } : Jvm.MethodName) ({ cls := "KrylovLaboratory$Scanner", name := "expectSign", desc := "(I)V" } : Jvm.MethodName)) ∈ lw_all := sorry
theorem q1734 : (Jvm.Cond.selects "KrylovLaboratory$LaboratoryParser" ({ cls := "KrylovLaboratory$Scanner", name := "isSign", desc := "(I)Z" } : Jvm.MethodName) ({ cls := "KrylovLaboratory$Scanner", name := "isSign", desc := "(I)Z" } : Jvm.MethodName)) ∈ lw_all := sorry
theorem q1737 : (Jvm.Cond.fieldLink "KrylovLaboratory$LaboratoryParser" (45 : Nat) "KrylovLaboratory$Token" "END" "LKrylovLaboratory$Token;") ∈ lw_all := sorry
theorem q1738 : (Jvm.Cond.methodLink "KrylovLaboratory$LaboratoryParser" (50 : Nat) ({ cls := "KrylovLaboratory$LaboratoryParser", name := "keyword", desc := "()Ljava/lang/String;" } : Jvm.MethodName)) ∈ lw_all := sorry
theorem q1739 : (Jvm.Cond.sameMethod "KrylovLaboratory$LaboratoryParser" "KrylovLaboratory$Scanner" "keyword" "()Ljava/lang/String;") ∈ lw_all := sorry
theorem q1741 : (Jvm.Cond.selects "KrylovLaboratory$LaboratoryParser" ({ cls := "KrylovLaboratory$LaboratoryParser", name := "keyword", desc := "()Ljava/lang/String;" } : Jvm.MethodName) ({ cls := "KrylovLaboratory$Scanner", name := "keyword", desc := "()Ljava/lang/String;" } : Jvm.MethodName)) ∈ lw_all := sorry
theorem q1742 : (Jvm.Cond.methodLink "KrylovLaboratory$LaboratoryParser" (54 : Nat) ({ cls := "KrylovLaboratory$LaboratoryParser", name := "clause", desc := "(Ljava/lang/String;)V" } : Jvm.MethodName)) ∈ lw_all := sorry
theorem q1743 : (Jvm.Cond.privateMethod ({ cls := "KrylovLaboratory$LaboratoryParser", name := "clause", desc := "(Ljava/lang/String;)V" } : Jvm.MethodName)) ∈ lw_tbl := sorry
theorem q1744 : (Jvm.Cond.instanceMethod ({ cls := "KrylovLaboratory$LaboratoryParser", name := "clause", desc := "(Ljava/lang/String;)V" } : Jvm.MethodName)) ∈ lw_all := sorry
theorem q1745 : (Jvm.Cond.code ({ cls := "KrylovLaboratory$LaboratoryParser", name := "clause", desc := "(Ljava/lang/String;)V" } : Jvm.MethodName) prog_4_method_5_code (8 : Nat) (Option.none : Option Jvm.ClassFile.FieldType)) ∈ lw_all := sorry
theorem q1746 : (Jvm.Cond.methodLink "KrylovLaboratory$LaboratoryParser" (70 : Nat) ({ cls := "java/lang/String", name := "hashCode", desc := "()I" } : Jvm.MethodName)) ∈ lw_all := sorry
theorem q1803 : (Jvm.Cond.stringRef "KrylovLaboratory$LaboratoryParser" (76 : Nat) "entry") ∈ lw_tbl := sorry
theorem q1804 : (Jvm.Cond.methodLink "KrylovLaboratory$LaboratoryParser" (78 : Nat) ({ cls := "java/lang/String", name := "equals", desc := "(Ljava/lang/Object;)Z" } : Jvm.MethodName)) ∈ lw_all := sorry
theorem q1805 : (Jvm.Cond.stringRef "KrylovLaboratory$LaboratoryParser" (82 : Nat) "start") ∈ lw_tbl := sorry
theorem q1806 : (Jvm.Cond.stringRef "KrylovLaboratory$LaboratoryParser" (84 : Nat) "mode") ∈ lw_tbl := sorry
theorem q1807 : (Jvm.Cond.stringRef "KrylovLaboratory$LaboratoryParser" (86 : Nat) "threshold") ∈ lw_tbl := sorry
theorem q1808 : (Jvm.Cond.stringRef "KrylovLaboratory$LaboratoryParser" (88 : Nat) "tolerance") ∈ lw_tbl := sorry
theorem q1809 : (Jvm.Cond.methodLink "KrylovLaboratory$LaboratoryParser" (90 : Nat) ({ cls := "KrylovLaboratory$State", name := "order", desc := "()I" } : Jvm.MethodName)) ∈ lw_all := sorry
theorem q1810 : (Jvm.Cond.methodLink "KrylovLaboratory$LaboratoryParser" (92 : Nat) ({ cls := "KrylovLaboratory$LaboratoryParser", name := "only", desc := "(II)I" } : Jvm.MethodName)) ∈ lw_all := sorry
theorem q1811 : (Jvm.Cond.privateMethod ({ cls := "KrylovLaboratory$LaboratoryParser", name := "only", desc := "(II)I" } : Jvm.MethodName)) ∈ lw_tbl := sorry
theorem q1812 : (Jvm.Cond.instanceMethod ({ cls := "KrylovLaboratory$LaboratoryParser", name := "only", desc := "(II)I" } : Jvm.MethodName)) ∈ lw_all := sorry
theorem q1813 : (Jvm.Cond.code ({ cls := "KrylovLaboratory$LaboratoryParser", name := "only", desc := "(II)I" } : Jvm.MethodName) prog_4_method_3_code (3 : Nat) (Option.some Jvm.ClassFile.FieldType.int)) ∈ lw_all := sorry
theorem q1814 : (Jvm.Cond.methodLink "KrylovLaboratory$LaboratoryParser" (62 : Nat) ({ cls := "KrylovLaboratory$LaboratoryParser", name := "next", desc := "()V" } : Jvm.MethodName)) ∈ lw_all := sorry
theorem q1815 : (Jvm.Cond.sameMethod "KrylovLaboratory$LaboratoryParser" "KrylovLaboratory$Scanner" "next" "()V") ∈ lw_all := sorry
theorem q1817 : (Jvm.Cond.selects "KrylovLaboratory$LaboratoryParser" ({ cls := "KrylovLaboratory$LaboratoryParser", name := "next", desc := "()V" } : Jvm.MethodName) ({ cls := "KrylovLaboratory$Scanner", name := "next", desc := "()V" } : Jvm.MethodName)) ∈ lw_all := sorry
theorem q1818 : (Jvm.Cond.methodLink "KrylovLaboratory$LaboratoryParser" (99 : Nat) ({ cls := "KrylovLaboratory$LaboratoryParser", name := "integer", desc := "()I" } : Jvm.MethodName)) ∈ lw_all := sorry
theorem q1819 : (Jvm.Cond.privateMethod ({ cls := "KrylovLaboratory$LaboratoryParser", name := "integer", desc := "()I" } : Jvm.MethodName)) ∈ lw_tbl := sorry
theorem q1820 : (Jvm.Cond.instanceMethod ({ cls := "KrylovLaboratory$LaboratoryParser", name := "integer", desc := "()I" } : Jvm.MethodName)) ∈ lw_all := sorry
theorem q1821 : (Jvm.Cond.code ({ cls := "KrylovLaboratory$LaboratoryParser", name := "integer", desc := "()I" } : Jvm.MethodName) prog_4_method_4_code (3 : Nat) (Option.some Jvm.ClassFile.FieldType.int)) ∈ lw_all := sorry
theorem q1822 : (Jvm.Cond.methodLink "KrylovLaboratory$LaboratoryParser" (66 : Nat) ({ cls := "KrylovLaboratory$LaboratoryParser", name := "isSign", desc := "(I)Z" } : Jvm.MethodName)) ∈ lw_all := sorry
theorem q1823 : (Jvm.Cond.sameMethod "KrylovLaboratory$LaboratoryParser" "KrylovLaboratory$Scanner" "isSign" "(I)Z") ∈ lw_all := sorry
theorem q1825 : (Jvm.Cond.selects "KrylovLaboratory$LaboratoryParser" ({ cls := "KrylovLaboratory$LaboratoryParser", name := "isSign", desc := "(I)Z" } : Jvm.MethodName) ({ cls := "KrylovLaboratory$Scanner", name := "isSign", desc := "(I)Z" } : Jvm.MethodName)) ∈ lw_all := sorry
theorem q1826 : (Jvm.Cond.methodLink "KrylovLaboratory$LaboratoryParser" (102 : Nat) ({ cls := "KrylovLaboratory$Matrix", name := "sets", desc := "(III)V" } : Jvm.MethodName)) ∈ lw_all := sorry
theorem q1830 : (Jvm.Cond.methodLink "KrylovLaboratory$LaboratoryParser" (111 : Nat) ({ cls := "KrylovLaboratory$LaboratoryParser", name := "modeHere", desc := "()I" } : Jvm.MethodName)) ∈ lw_all := sorry
theorem q1831 : (Jvm.Cond.privateMethod ({ cls := "KrylovLaboratory$LaboratoryParser", name := "modeHere", desc := "()I" } : Jvm.MethodName)) ∈ lw_tbl := sorry
theorem q1832 : (Jvm.Cond.instanceMethod ({ cls := "KrylovLaboratory$LaboratoryParser", name := "modeHere", desc := "()I" } : Jvm.MethodName)) ∈ lw_all := sorry
theorem q1833 : (Jvm.Cond.code ({ cls := "KrylovLaboratory$LaboratoryParser", name := "modeHere", desc := "()I" } : Jvm.MethodName) prog_4_method_6_code (3 : Nat) (Option.some Jvm.ClassFile.FieldType.int)) ∈ lw_all := sorry
theorem q1834 : (Jvm.Cond.stringRef "KrylovLaboratory$LaboratoryParser" (122 : Nat) "none") ∈ lw_tbl := sorry
theorem q1835 : (Jvm.Cond.stringRef "KrylovLaboratory$LaboratoryParser" (124 : Nat) "selective") ∈ lw_tbl := sorry
theorem q1836 : (Jvm.Cond.stringRef "KrylovLaboratory$LaboratoryParser" (126 : Nat) "full") ∈ lw_tbl := sorry
theorem q1837 : (Jvm.Cond.constant "KrylovLaboratory$LaboratoryParser" (117 : Nat) (1000000 : Int32)) ∈ lw_all := sorry
theorem q1838 : (Jvm.Cond.methodLinkNest "KrylovLaboratory$LaboratoryParser" (58 : Nat) ({ cls := "KrylovLaboratory", name := "begun", desc := "(LKrylovLaboratory$State;)LKrylovLaboratory$State;" } : Jvm.MethodName) "KrylovLaboratory") ∈ lw_tbl := sorry
theorem q2414 : (Jvm.Cond.selects "KrylovLaboratory$LaboratoryParser" ({ cls := "java/lang/Object", name := "equals", desc := "(Ljava/lang/Object;)Z" } : Jvm.MethodName) ({ cls := "java/lang/Object", name := "equals", desc := "(Ljava/lang/Object;)Z" } : Jvm.MethodName)) ∈ lw_all := sorry
theorem q3220 : (Jvm.Cond.selects "KrylovLaboratory$LaboratoryParser" ({ cls := "KrylovLaboratory$Scanner", name := "check", desc := "(ZI)V" } : Jvm.MethodName) ({ cls := "KrylovLaboratory$Scanner", name := "check", desc := "(ZI)V" } : Jvm.MethodName)) ∈ lw_all := sorry
theorem q3247 : (Jvm.Cond.castable "KrylovLaboratory$LaboratoryParser" "java/lang/Object") ∈ lw_tbl := sorry
theorem in_X8 : ∀ w ∈ wsX80, w ∈ lw_all := sorry
/-! KrylovLaboratory$TextError -/
set_option maxRecDepth 100000
def RX9 : String := "KrylovLaboratory$TextError"
def TX9 : u_T := fun k => match k with
  | 0 => ("java/lang/Throwable", "cause", "Ljava/lang/Throwable;", false)
  | 1 => ("java/lang/Throwable", "stackTrace", "[Ljava/lang/StackTraceElement;", false)
  | 2 => ("java/lang/Throwable", "suppressedExceptions", "Ljava/util/List;", false)
  | 3 => ("java/lang/Throwable", "detailMessage", "Ljava/lang/String;", false)
  | 4 => ("java/lang/Throwable", "backtrace", "Ljava/lang/Object;", false)
  | 5 => ("java/lang/Throwable", "depth", "I", false)
  | 6 => ("KrylovLaboratory$TextError", "code", "I", true)
  | _ => ("KrylovLaboratory$TextError", "position", "I", true)
def tyX9 : Nat → FieldType := fun k => match k with
  | 0 => .object "java/lang/Throwable"
  | 1 => .array (.object "java/lang/StackTraceElement")
  | 2 => .object "java/util/List"
  | 3 => .object "java/lang/String"
  | 4 => .object "java/lang/Object"
  | 5 => .int
  | 6 => .int
  | _ => .int
abbrev wsX90 : List Cond := u_ws RX9 TX9 8
theorem nmX9 : ∀ a, a < 8 → ∀ b, b < 8 → a ≠ b → (TX9 a).2.1 ≠ (TX9 b).2.1 := sorry
theorem tyX9_ok : ∀ k, k < 8 → parseFieldDescriptor (TX9 k).2.2.1 = some (tyX9 k) := sorry
abbrev cX9_init : ByteArray := prog_13_method_1_code
def yX9_init : MethodName := ⟨RX9, "<init>", "(II)V"⟩
def dkwX9_init_0 : List UInt8 := [42, 1, 1, 3, 3, 183, 0, 1, 42, 27, 181, 0, 7, 42, 28, 181, 0, 13, 177]
abbrev dktX9_init_0 : List UInt8 := dkwX9_init_0 ++ []
theorem dksX9_init_0 : cX9_init.data.toList.drop 0 = dktX9_init_0 := sorry
theorem dX9_init_0 : decode cX9_init 0 = .ok (.aload_n 0, 1) := sorry
theorem dX9_init_1 : decode cX9_init 1 = .ok (.aconst_null, 1) := sorry
theorem dX9_init_2 : decode cX9_init 2 = .ok (.aconst_null, 1) := sorry
theorem dX9_init_3 : decode cX9_init 3 = .ok (.iconst 0, 1) := sorry
theorem dX9_init_4 : decode cX9_init 4 = .ok (.iconst 0, 1) := sorry
theorem dX9_init_5 : decode cX9_init 5 = .ok (.invokespecial 1, 3) := sorry
theorem dX9_init_8 : decode cX9_init 8 = .ok (.aload_n 0, 1) := sorry
theorem dX9_init_9 : decode cX9_init 9 = .ok (.iload_n 1, 1) := sorry
theorem dX9_init_10 : decode cX9_init 10 = .ok (.putfield 7, 3) := sorry
theorem dX9_init_13 : decode cX9_init 13 = .ok (.aload_n 0, 1) := sorry
theorem dX9_init_14 : decode cX9_init 14 = .ok (.iload_n 2, 1) := sorry
theorem dX9_init_15 : decode cX9_init 15 = .ok (.putfield 13, 3) := sorry
theorem dX9_init_18 : decode cX9_init 18 = .ok (.return_, 1) := sorry
theorem q175 : (Jvm.Cond.initialized "KrylovLaboratory$TextError") ∈ lw_all := sorry
theorem q522 : (Jvm.Cond.selects "KrylovLaboratory$TextError" ({ cls := "java/lang/Throwable", name := "fillInStackTrace", desc := "()Ljava/lang/Throwable;" } : Jvm.MethodName) ({ cls := "java/lang/Throwable", name := "fillInStackTrace", desc := "()Ljava/lang/Throwable;" } : Jvm.MethodName)) ∈ lw_all := sorry
theorem q547 : (Jvm.Cond.selects "KrylovLaboratory$TextError" ({ cls := "java/lang/Throwable", name := "toString", desc := "()Ljava/lang/String;" } : Jvm.MethodName) ({ cls := "java/lang/Throwable", name := "toString", desc := "()Ljava/lang/String;" } : Jvm.MethodName)) ∈ lw_all := sorry
theorem q566 : (Jvm.Cond.selects "KrylovLaboratory$TextError" ({ cls := "java/lang/Object", name := "getClass", desc := "()Ljava/lang/Class;" } : Jvm.MethodName) ({ cls := "java/lang/Object", name := "getClass", desc := "()Ljava/lang/Class;" } : Jvm.MethodName)) ∈ lw_all := sorry
theorem q591 : (Jvm.Cond.selects "KrylovLaboratory$TextError" ({ cls := "java/lang/Throwable", name := "getLocalizedMessage", desc := "()Ljava/lang/String;" } : Jvm.MethodName) ({ cls := "java/lang/Throwable", name := "getLocalizedMessage", desc := "()Ljava/lang/String;" } : Jvm.MethodName)) ∈ lw_all := sorry
theorem q600 : (Jvm.Cond.selects "KrylovLaboratory$TextError" ({ cls := "java/lang/Throwable", name := "getMessage", desc := "()Ljava/lang/String;" } : Jvm.MethodName) ({ cls := "java/lang/Throwable", name := "getMessage", desc := "()Ljava/lang/String;" } : Jvm.MethodName)) ∈ lw_all := sorry
theorem q1689 : (Jvm.Cond.instantiable "KrylovLaboratory$TextError" (8 : Nat)) ∈ lw_all := sorry
theorem q1690 : (Jvm.Cond.castable "KrylovLaboratory$TextError" "KrylovLaboratory$TextError") ∈ lw_tbl := sorry
theorem q1691 : (Jvm.Cond.selects "KrylovLaboratory$TextError" ({ cls := "java/lang/Throwable", name := "fillInStackTrace", desc := "(I)Ljava/lang/Throwable;" } : Jvm.MethodName) ({ cls := "java/lang/Throwable", name := "fillInStackTrace", desc := "(I)Ljava/lang/Throwable;" } : Jvm.MethodName)) ∈ lw_all := sorry
theorem q1692 : (Jvm.Cond.lays "KrylovLaboratory$TextError" "java/lang/Throwable" "cause" "Ljava/lang/Throwable;") ∈ lw_all := sorry
theorem q1693 : (Jvm.Cond.lays "KrylovLaboratory$TextError" "java/lang/Throwable" "stackTrace" "[Ljava/lang/StackTraceElement;") ∈ lw_all := lw_g (lw_at lw_m7 124 rfl) rfl
theorem q1694 : (Jvm.Cond.lays "KrylovLaboratory$TextError" "java/lang/Throwable" "suppressedExceptions" "Ljava/util/List;") ∈ lw_all := sorry
theorem q1695 : (Jvm.Cond.lays "KrylovLaboratory$TextError" "java/lang/Throwable" "detailMessage" "Ljava/lang/String;") ∈ lw_all := sorry
theorem q1696 : (Jvm.Cond.lays "KrylovLaboratory$TextError" "java/lang/Throwable" "backtrace" "Ljava/lang/Object;") ∈ lw_all := sorry
theorem q1698 : (Jvm.Cond.instanceMethod ({ cls := "KrylovLaboratory$TextError", name := "<init>", desc := "(II)V" } : Jvm.MethodName)) ∈ lw_all := sorry
theorem q1699 : (Jvm.Cond.code ({ cls := "KrylovLaboratory$TextError", name := "<init>", desc := "(II)V" } : Jvm.MethodName) prog_13_method_1_code (3 : Nat) (Option.none : Option Jvm.ClassFile.FieldType)) ∈ lw_all := sorry
theorem q1700 : (Jvm.Cond.methodLink "KrylovLaboratory$TextError" (1 : Nat) ({ cls := "java/lang/Exception", name := "<init>", desc := "(Ljava/lang/String;Ljava/lang/Throwable;ZZ)V" } : Jvm.MethodName)) ∈ lw_all := sorry
theorem q1706 : (Jvm.Cond.fieldLink "KrylovLaboratory$TextError" (7 : Nat) "KrylovLaboratory$TextError" "code" "I") ∈ lw_all := sorry
theorem q1708 : (Jvm.Cond.fieldLink "KrylovLaboratory$TextError" (13 : Nat) "KrylovLaboratory$TextError" "position" "I") ∈ lw_all := sorry
theorem q1710 : (Jvm.Cond.laysFinal "KrylovLaboratory$TextError" "KrylovLaboratory$TextError" "code" "I") ∈ lw_all := sorry
theorem q1711 : (Jvm.Cond.soleField "KrylovLaboratory$TextError" "code") ∈ lw_all := sorry
theorem q1712 : (Jvm.Cond.laysFinal "KrylovLaboratory$TextError" "KrylovLaboratory$TextError" "position" "I") ∈ lw_all := sorry
theorem q1713 : (Jvm.Cond.soleField "KrylovLaboratory$TextError" "position") ∈ lw_all := sorry
theorem q1714 : (Jvm.Cond.lays "KrylovLaboratory$TextError" "java/lang/Throwable" "depth" "I") ∈ lw_all := sorry
theorem q1715 : (Jvm.Cond.superclass "KrylovLaboratory$TextError" "java/lang/Exception") ∈ lw_all := sorry
theorem q2421 : (Jvm.Cond.selects "KrylovLaboratory$TextError" ({ cls := "java/lang/Object", name := "equals", desc := "(Ljava/lang/Object;)Z" } : Jvm.MethodName) ({ cls := "java/lang/Object", name := "equals", desc := "(Ljava/lang/Object;)Z" } : Jvm.MethodName)) ∈ lw_all := sorry
theorem q3249 : (Jvm.Cond.castable "KrylovLaboratory$TextError" "java/lang/Object") ∈ lw_tbl := sorry
theorem in_X9 : ∀ w ∈ wsX90, w ∈ lw_all := sorry
