/-! KrylovLaboratory$State -/
set_option maxRecDepth 100000
def RX2 : String := "KrylovLaboratory$State"
def TX2 : u_T := fun k => match k with
  | 0 => ("KrylovLaboratory$State", "matrix", "LKrylovLaboratory$Matrix;", false)
  | 1 => ("KrylovLaboratory$State", "start", "[I", true)
  | 2 => ("KrylovLaboratory$State", "locked", "Ljava/util/LinkedList;", true)
  | 3 => ("KrylovLaboratory$State", "totals", "[I", true)
  | 4 => ("KrylovLaboratory$State", "mode", "I", false)
  | 5 => ("KrylovLaboratory$State", "threshold", "I", false)
  | 6 => ("KrylovLaboratory$State", "tolerance", "I", false)
  | _ => ("KrylovLaboratory$State", "space", "LKrylovLaboratory$Space;", false)
def tyX2 : Nat → FieldType := fun k => match k with
  | 0 => .object "KrylovLaboratory$Matrix"
  | 1 => .array .int
  | 2 => .object "java/util/LinkedList"
  | 3 => .array .int
  | 4 => .int
  | 5 => .int
  | 6 => .int
  | _ => .object "KrylovLaboratory$Space"
abbrev wsX20 : List Cond := u_ws RX2 TX2 8
theorem nmX2 : ∀ a, a < 8 → ∀ b, b < 8 → a ≠ b → (TX2 a).2.1 ≠ (TX2 b).2.1 := sorry
theorem tyX2_ok : ∀ k, k < 8 → parseFieldDescriptor (TX2 k).2.2.1 = some (tyX2 k) := sorry
abbrev cX2_init : ByteArray := prog_11_method_1_code
def yX2_init : MethodName := ⟨RX2, "<init>", "(I)V"⟩
def dkwX2_init_3 : List UInt8 := [132, 2, 1, 167, 255, 240, 177]
abbrev dktX2_init_3 : List UInt8 := dkwX2_init_3 ++ []
def dkwX2_init_2 : List UInt8 := [27, 183, 0, 34, 181, 0, 37, 3, 61, 28, 16, 6, 162, 0, 16, 42, 180, 0, 9, 28, 4, 79]
abbrev dktX2_init_2 : List UInt8 := dkwX2_init_2 ++ dktX2_init_3
def dkwX2_init_1 : List UInt8 := [7, 188, 10, 181, 0, 22, 42, 17, 3, 232, 181, 0, 25, 42, 16, 100, 181, 0, 29, 42, 187, 0, 32, 89]
abbrev dktX2_init_1 : List UInt8 := dkwX2_init_1 ++ dktX2_init_2
def dkwX2_init_0 : List UInt8 := [42, 183, 0, 3, 42, 16, 6, 188, 10, 181, 0, 9, 42, 187, 0, 15, 89, 183, 0, 17, 181, 0, 18, 42]
abbrev dktX2_init_0 : List UInt8 := dkwX2_init_0 ++ dktX2_init_1
theorem dksX2_init_0 : cX2_init.data.toList.drop 0 = dktX2_init_0 := sorry
theorem dksX2_init_1 : cX2_init.data.toList.drop 24 = dktX2_init_1 := sorry
theorem dksX2_init_2 : cX2_init.data.toList.drop 48 = dktX2_init_2 := sorry
theorem dksX2_init_3 : cX2_init.data.toList.drop 70 = dktX2_init_3 := sorry
theorem dX2_init_0 : decode cX2_init 0 = .ok (.aload_n 0, 1) := sorry
theorem dX2_init_1 : decode cX2_init 1 = .ok (.invokespecial 3, 3) := sorry
theorem dX2_init_4 : decode cX2_init 4 = .ok (.aload_n 0, 1) := sorry
theorem dX2_init_5 : decode cX2_init 5 = .ok (.bipush 6, 2) := sorry
theorem dX2_init_7 : decode cX2_init 7 = .ok (.newarray .int, 2) := sorry
theorem dX2_init_9 : decode cX2_init 9 = .ok (.putfield 9, 3) := sorry
theorem dX2_init_12 : decode cX2_init 12 = .ok (.aload_n 0, 1) := sorry
theorem dX2_init_13 : decode cX2_init 13 = .ok (.new 15, 3) := sorry
theorem dX2_init_16 : decode cX2_init 16 = .ok (.dup, 1) := sorry
theorem dX2_init_17 : decode cX2_init 17 = .ok (.invokespecial 17, 3) := sorry
theorem dX2_init_20 : decode cX2_init 20 = .ok (.putfield 18, 3) := sorry
theorem dX2_init_23 : decode cX2_init 23 = .ok (.aload_n 0, 1) := sorry
theorem dX2_init_24 : decode cX2_init 24 = .ok (.iconst 4, 1) := sorry
theorem dX2_init_25 : decode cX2_init 25 = .ok (.newarray .int, 2) := sorry
theorem dX2_init_27 : decode cX2_init 27 = .ok (.putfield 22, 3) := sorry
theorem dX2_init_30 : decode cX2_init 30 = .ok (.aload_n 0, 1) := sorry
theorem dX2_init_31 : decode cX2_init 31 = .ok (.sipush 1000, 3) := sorry
theorem dX2_init_34 : decode cX2_init 34 = .ok (.putfield 25, 3) := sorry
theorem dX2_init_37 : decode cX2_init 37 = .ok (.aload_n 0, 1) := sorry
theorem dX2_init_38 : decode cX2_init 38 = .ok (.bipush 100, 2) := sorry
theorem dX2_init_40 : decode cX2_init 40 = .ok (.putfield 29, 3) := sorry
theorem dX2_init_43 : decode cX2_init 43 = .ok (.aload_n 0, 1) := sorry
theorem dX2_init_44 : decode cX2_init 44 = .ok (.new 32, 3) := sorry
theorem dX2_init_47 : decode cX2_init 47 = .ok (.dup, 1) := sorry
theorem dX2_init_48 : decode cX2_init 48 = .ok (.iload_n 1, 1) := sorry
theorem dX2_init_49 : decode cX2_init 49 = .ok (.invokespecial 34, 3) := sorry
theorem dX2_init_52 : decode cX2_init 52 = .ok (.putfield 37, 3) := sorry
theorem dX2_init_55 : decode cX2_init 55 = .ok (.iconst 0, 1) := sorry
theorem dX2_init_56 : decode cX2_init 56 = .ok (.istore_n 2, 1) := sorry
theorem dX2_init_57 : decode cX2_init 57 = .ok (.iload_n 2, 1) := sorry
theorem dX2_init_58 : decode cX2_init 58 = .ok (.bipush 6, 2) := sorry
theorem dX2_init_60 : decode cX2_init 60 = .ok (.if_icmp .ge 16, 3) := sorry
theorem dX2_init_63 : decode cX2_init 63 = .ok (.aload_n 0, 1) := sorry
theorem dX2_init_64 : decode cX2_init 64 = .ok (.getfield 9, 3) := sorry
theorem dX2_init_67 : decode cX2_init 67 = .ok (.iload_n 2, 1) := sorry
theorem dX2_init_68 : decode cX2_init 68 = .ok (.iconst 1, 1) := sorry
theorem dX2_init_69 : decode cX2_init 69 = .ok (.iastore, 1) := sorry
theorem dX2_init_70 : decode cX2_init 70 = .ok (.iinc 2 1, 3) := sorry
theorem dX2_init_73 : decode cX2_init 73 = .ok (.goto (-16), 3) := sorry
theorem dX2_init_76 : decode cX2_init 76 = .ok (.return_, 1) := sorry
abbrev cX2_begins : ByteArray := prog_11_method_7_code
def yX2_begins : MethodName := ⟨RX2, "begins", "()Z"⟩
def dkwX2_begins_0 : List UInt8 := [42, 42, 182, 0, 119, 182, 0, 122, 172]
abbrev dktX2_begins_0 : List UInt8 := dkwX2_begins_0 ++ []
theorem dksX2_begins_0 : cX2_begins.data.toList.drop 0 = dktX2_begins_0 := sorry
theorem dX2_begins_0 : decode cX2_begins 0 = .ok (.aload_n 0, 1) := sorry
theorem dX2_begins_1 : decode cX2_begins 1 = .ok (.aload_n 0, 1) := sorry
theorem dX2_begins_2 : decode cX2_begins 2 = .ok (.invokevirtual 119, 3) := sorry
theorem dX2_begins_5 : decode cX2_begins 5 = .ok (.invokevirtual 122, 3) := sorry
theorem dX2_begins_8 : decode cX2_begins 8 = .ok (.ireturn, 1) := sorry
abbrev cX2_startVector : ByteArray := prog_11_method_4_code
def yX2_startVector : MethodName := ⟨RX2, "startVector", "()LKrylovLaboratory$Vector;"⟩
def dkwX2_startVector_1 : List UInt8 := [28, 46, 133, 105, 80, 132, 2, 1, 167, 255, 233, 187, 0, 90, 89, 43, 183, 0, 92, 176]
abbrev dktX2_startVector_1 : List UInt8 := dkwX2_startVector_1 ++ []
def dkwX2_startVector_0 : List UInt8 := [42, 182, 0, 85, 188, 11, 76, 3, 61, 28, 43, 190, 162, 0, 23, 43, 28, 20, 0, 88, 42, 180, 0, 9]
abbrev dktX2_startVector_0 : List UInt8 := dkwX2_startVector_0 ++ dktX2_startVector_1
theorem dksX2_startVector_0 : cX2_startVector.data.toList.drop 0 = dktX2_startVector_0 := sorry
theorem dksX2_startVector_1 : cX2_startVector.data.toList.drop 24 = dktX2_startVector_1 := sorry
theorem dX2_startVector_0 : decode cX2_startVector 0 = .ok (.aload_n 0, 1) := sorry
theorem dX2_startVector_1 : decode cX2_startVector 1 = .ok (.invokevirtual 85, 3) := sorry
theorem dX2_startVector_4 : decode cX2_startVector 4 = .ok (.newarray .long, 2) := sorry
theorem dX2_startVector_6 : decode cX2_startVector 6 = .ok (.astore_n 1, 1) := sorry
theorem dX2_startVector_7 : decode cX2_startVector 7 = .ok (.iconst 0, 1) := sorry
theorem dX2_startVector_8 : decode cX2_startVector 8 = .ok (.istore_n 2, 1) := sorry
theorem dX2_startVector_9 : decode cX2_startVector 9 = .ok (.iload_n 2, 1) := sorry
theorem dX2_startVector_10 : decode cX2_startVector 10 = .ok (.aload_n 1, 1) := sorry
theorem dX2_startVector_11 : decode cX2_startVector 11 = .ok (.arraylength, 1) := sorry
theorem dX2_startVector_12 : decode cX2_startVector 12 = .ok (.if_icmp .ge 23, 3) := sorry
theorem dX2_startVector_15 : decode cX2_startVector 15 = .ok (.aload_n 1, 1) := sorry
theorem dX2_startVector_16 : decode cX2_startVector 16 = .ok (.iload_n 2, 1) := sorry
theorem dX2_startVector_17 : decode cX2_startVector 17 = .ok (.ldc2_w 88, 3) := sorry
theorem dX2_startVector_20 : decode cX2_startVector 20 = .ok (.aload_n 0, 1) := sorry
theorem dX2_startVector_21 : decode cX2_startVector 21 = .ok (.getfield 9, 3) := sorry
theorem dX2_startVector_24 : decode cX2_startVector 24 = .ok (.iload_n 2, 1) := sorry
theorem dX2_startVector_25 : decode cX2_startVector 25 = .ok (.iaload, 1) := sorry
theorem dX2_startVector_26 : decode cX2_startVector 26 = .ok (.i2l, 1) := sorry
theorem dX2_startVector_27 : decode cX2_startVector 27 = .ok (.lmul, 1) := sorry
theorem dX2_startVector_28 : decode cX2_startVector 28 = .ok (.lastore, 1) := sorry
theorem dX2_startVector_29 : decode cX2_startVector 29 = .ok (.iinc 2 1, 3) := sorry
theorem dX2_startVector_32 : decode cX2_startVector 32 = .ok (.goto (-23), 3) := sorry
theorem dX2_startVector_35 : decode cX2_startVector 35 = .ok (.new 90, 3) := sorry
theorem dX2_startVector_38 : decode cX2_startVector 38 = .ok (.dup, 1) := sorry
theorem dX2_startVector_39 : decode cX2_startVector 39 = .ok (.aload_n 1, 1) := sorry
theorem dX2_startVector_40 : decode cX2_startVector 40 = .ok (.invokespecial 92, 3) := sorry
theorem dX2_startVector_43 : decode cX2_startVector 43 = .ok (.areturn, 1) := sorry
abbrev cX2_order : ByteArray := prog_11_method_3_code
def yX2_order : MethodName := ⟨RX2, "order", "()I"⟩
def dkwX2_order_0 : List UInt8 := [42, 180, 0, 37, 180, 0, 82, 172]
abbrev dktX2_order_0 : List UInt8 := dkwX2_order_0 ++ []
theorem dksX2_order_0 : cX2_order.data.toList.drop 0 = dktX2_order_0 := sorry
theorem dX2_order_0 : decode cX2_order 0 = .ok (.aload_n 0, 1) := sorry
theorem dX2_order_1 : decode cX2_order 1 = .ok (.getfield 37, 3) := sorry
theorem dX2_order_4 : decode cX2_order 4 = .ok (.getfield 82, 3) := sorry
theorem dX2_order_7 : decode cX2_order 7 = .ok (.ireturn, 1) := sorry
abbrev cX2_begins_2 : ByteArray := prog_11_method_6_code
def yX2_begins_2 : MethodName := ⟨RX2, "begins", "(LKrylovLaboratory$Vector;)Z"⟩
def dkwX2_begins_2_1 : List UInt8 := [44, 182, 0, 112, 183, 0, 116, 181, 0, 73, 42, 180, 0, 22, 6, 92, 46, 4, 96, 79, 4, 172]
abbrev dktX2_begins_2_1 : List UInt8 := dkwX2_begins_2_1 ++ []
def dkwX2_begins_2_0 : List UInt8 := [42, 43, 182, 0, 103, 77, 44, 182, 0, 106, 20, 0, 110, 148, 156, 0, 5, 3, 172, 42, 187, 0, 77, 89]
abbrev dktX2_begins_2_0 : List UInt8 := dkwX2_begins_2_0 ++ dktX2_begins_2_1
theorem dksX2_begins_2_0 : cX2_begins_2.data.toList.drop 0 = dktX2_begins_2_0 := sorry
theorem dksX2_begins_2_1 : cX2_begins_2.data.toList.drop 24 = dktX2_begins_2_1 := sorry
theorem dX2_begins_2_0 : decode cX2_begins_2 0 = .ok (.aload_n 0, 1) := sorry
theorem dX2_begins_2_1 : decode cX2_begins_2 1 = .ok (.aload_n 1, 1) := sorry
theorem dX2_begins_2_2 : decode cX2_begins_2 2 = .ok (.invokevirtual 103, 3) := sorry
theorem dX2_begins_2_5 : decode cX2_begins_2 5 = .ok (.astore_n 2, 1) := sorry
theorem dX2_begins_2_6 : decode cX2_begins_2 6 = .ok (.aload_n 2, 1) := sorry
theorem dX2_begins_2_7 : decode cX2_begins_2 7 = .ok (.invokevirtual 106, 3) := sorry
theorem dX2_begins_2_10 : decode cX2_begins_2 10 = .ok (.ldc2_w 110, 3) := sorry
theorem dX2_begins_2_13 : decode cX2_begins_2 13 = .ok (.lcmp, 1) := sorry
theorem dX2_begins_2_14 : decode cX2_begins_2 14 = .ok (.ifCond .ge 5, 3) := sorry
theorem dX2_begins_2_17 : decode cX2_begins_2 17 = .ok (.iconst 0, 1) := sorry
theorem dX2_begins_2_18 : decode cX2_begins_2 18 = .ok (.ireturn, 1) := sorry
theorem dX2_begins_2_19 : decode cX2_begins_2 19 = .ok (.aload_n 0, 1) := sorry
theorem dX2_begins_2_20 : decode cX2_begins_2 20 = .ok (.new 77, 3) := sorry
theorem dX2_begins_2_23 : decode cX2_begins_2 23 = .ok (.dup, 1) := sorry
theorem dX2_begins_2_24 : decode cX2_begins_2 24 = .ok (.aload_n 2, 1) := sorry
theorem dX2_begins_2_25 : decode cX2_begins_2 25 = .ok (.invokevirtual 112, 3) := sorry
theorem dX2_begins_2_28 : decode cX2_begins_2 28 = .ok (.invokespecial 116, 3) := sorry
theorem dX2_begins_2_31 : decode cX2_begins_2 31 = .ok (.putfield 73, 3) := sorry
theorem dX2_begins_2_34 : decode cX2_begins_2 34 = .ok (.aload_n 0, 1) := sorry
theorem dX2_begins_2_35 : decode cX2_begins_2 35 = .ok (.getfield 22, 3) := sorry
theorem dX2_begins_2_38 : decode cX2_begins_2 38 = .ok (.iconst 3, 1) := sorry
theorem dX2_begins_2_39 : decode cX2_begins_2 39 = .ok (.dup2, 1) := sorry
theorem dX2_begins_2_40 : decode cX2_begins_2 40 = .ok (.iaload, 1) := sorry
theorem dX2_begins_2_41 : decode cX2_begins_2 41 = .ok (.iconst 1, 1) := sorry
theorem dX2_begins_2_42 : decode cX2_begins_2 42 = .ok (.iadd, 1) := sorry
theorem dX2_begins_2_43 : decode cX2_begins_2 43 = .ok (.iastore, 1) := sorry
theorem dX2_begins_2_44 : decode cX2_begins_2 44 = .ok (.iconst 1, 1) := sorry
theorem dX2_begins_2_45 : decode cX2_begins_2 45 = .ok (.ireturn, 1) := sorry
abbrev cX2_purged : ByteArray := prog_11_method_5_code
def yX2_purged : MethodName := ⟨RX2, "purged", "(LKrylovLaboratory$Vector;)LKrylovLaboratory$Vector;"⟩
def dkwX2_purged_2 : List UInt8 := [176]
abbrev dktX2_purged_2 : List UInt8 := dkwX2_purged_2 ++ []
def dkwX2_purged_1 : List UInt8 := [185, 0, 60, 1, 0, 192, 0, 64, 58, 4, 44, 25, 4, 180, 0, 95, 182, 0, 99, 77, 167, 255, 226, 44]
abbrev dktX2_purged_1 : List UInt8 := dkwX2_purged_1 ++ dktX2_purged_2
def dkwX2_purged_0 : List UInt8 := [43, 77, 42, 180, 0, 18, 182, 0, 50, 78, 45, 185, 0, 54, 1, 0, 153, 0, 27, 45]
abbrev dktX2_purged_0 : List UInt8 := dkwX2_purged_0 ++ dktX2_purged_1
theorem dksX2_purged_0 : cX2_purged.data.toList.drop 0 = dktX2_purged_0 := sorry
theorem dksX2_purged_1 : cX2_purged.data.toList.drop 20 = dktX2_purged_1 := sorry
theorem dksX2_purged_2 : cX2_purged.data.toList.drop 44 = dktX2_purged_2 := sorry
theorem dX2_purged_0 : decode cX2_purged 0 = .ok (.aload_n 1, 1) := sorry
theorem dX2_purged_1 : decode cX2_purged 1 = .ok (.astore_n 2, 1) := sorry
theorem dX2_purged_2 : decode cX2_purged 2 = .ok (.aload_n 0, 1) := sorry
theorem dX2_purged_3 : decode cX2_purged 3 = .ok (.getfield 18, 3) := sorry
theorem dX2_purged_6 : decode cX2_purged 6 = .ok (.invokevirtual 50, 3) := sorry
theorem dX2_purged_9 : decode cX2_purged 9 = .ok (.astore_n 3, 1) := sorry
theorem dX2_purged_10 : decode cX2_purged 10 = .ok (.aload_n 3, 1) := sorry
theorem dX2_purged_11 : decode cX2_purged 11 = .ok (.invokeinterface 54 1, 5) := sorry
theorem dX2_purged_16 : decode cX2_purged 16 = .ok (.ifCond .eq 27, 3) := sorry
theorem dX2_purged_19 : decode cX2_purged 19 = .ok (.aload_n 3, 1) := sorry
theorem dX2_purged_20 : decode cX2_purged 20 = .ok (.invokeinterface 60 1, 5) := sorry
theorem dX2_purged_25 : decode cX2_purged 25 = .ok (.checkcast 64, 3) := sorry
theorem dX2_purged_28 : decode cX2_purged 28 = .ok (.astore 4, 2) := sorry
theorem dX2_purged_30 : decode cX2_purged 30 = .ok (.aload_n 2, 1) := sorry
theorem dX2_purged_31 : decode cX2_purged 31 = .ok (.aload 4, 2) := sorry
theorem dX2_purged_33 : decode cX2_purged 33 = .ok (.getfield 95, 3) := sorry
theorem dX2_purged_36 : decode cX2_purged 36 = .ok (.invokevirtual 99, 3) := sorry
theorem dX2_purged_39 : decode cX2_purged 39 = .ok (.astore_n 2, 1) := sorry
theorem dX2_purged_40 : decode cX2_purged 40 = .ok (.goto (-30), 3) := sorry
theorem dX2_purged_43 : decode cX2_purged 43 = .ok (.aload_n 2, 1) := sorry
theorem dX2_purged_44 : decode cX2_purged 44 = .ok (.areturn, 1) := sorry
abbrev cX2_init_2 : ByteArray := prog_11_method_2_code
def yX2_init_2 : MethodName := ⟨RX2, "<init>", "(LKrylovLaboratory$State;)V"⟩
def dkwX2_init_2_7 : List UInt8 := [187, 0, 77, 89, 43, 180, 0, 73, 183, 0, 79, 181, 0, 73, 177]
abbrev dktX2_init_2_7 : List UInt8 := dkwX2_init_2_7 ++ []
def dkwX2_init_2_6 : List UInt8 := [181, 0, 25, 42, 43, 180, 0, 29, 181, 0, 29, 42, 43, 180, 0, 73, 199, 0, 7, 1, 167, 0, 14]
abbrev dktX2_init_2_6 : List UInt8 := dkwX2_init_2_6 ++ dktX2_init_2_7
def dkwX2_init_2_5 : List UInt8 := [3, 42, 180, 0, 22, 3, 7, 184, 0, 44, 42, 43, 180, 0, 70, 181, 0, 70, 42, 43, 180, 0, 25]
abbrev dktX2_init_2_5 : List UInt8 := dkwX2_init_2_5 ++ dktX2_init_2_6
def dkwX2_init_2_4 : List UInt8 := [185, 0, 60, 1, 0, 192, 0, 64, 78, 42, 180, 0, 18, 45, 182, 0, 66, 167, 255, 229, 43, 180, 0, 22]
abbrev dktX2_init_2_4 : List UInt8 := dkwX2_init_2_4 ++ dktX2_init_2_5
def dkwX2_init_2_3 : List UInt8 := [184, 0, 44, 43, 180, 0, 18, 182, 0, 50, 77, 44, 185, 0, 54, 1, 0, 153, 0, 24, 44]
abbrev dktX2_init_2_3 : List UInt8 := dkwX2_init_2_3 ++ dktX2_init_2_4
def dkwX2_init_2_2 : List UInt8 := [43, 180, 0, 37, 183, 0, 41, 181, 0, 37, 43, 180, 0, 9, 3, 42, 180, 0, 9, 3, 16, 6]
abbrev dktX2_init_2_2 : List UInt8 := dkwX2_init_2_2 ++ dktX2_init_2_3
def dkwX2_init_2_1 : List UInt8 := [7, 188, 10, 181, 0, 22, 42, 17, 3, 232, 181, 0, 25, 42, 16, 100, 181, 0, 29, 42, 187, 0, 32, 89]
abbrev dktX2_init_2_1 : List UInt8 := dkwX2_init_2_1 ++ dktX2_init_2_2
def dkwX2_init_2_0 : List UInt8 := [42, 183, 0, 3, 42, 16, 6, 188, 10, 181, 0, 9, 42, 187, 0, 15, 89, 183, 0, 17, 181, 0, 18, 42]
abbrev dktX2_init_2_0 : List UInt8 := dkwX2_init_2_0 ++ dktX2_init_2_1
theorem dksX2_init_2_0 : cX2_init_2.data.toList.drop 0 = dktX2_init_2_0 := sorry
theorem dksX2_init_2_1 : cX2_init_2.data.toList.drop 24 = dktX2_init_2_1 := sorry
theorem dksX2_init_2_2 : cX2_init_2.data.toList.drop 48 = dktX2_init_2_2 := sorry
theorem dksX2_init_2_3 : cX2_init_2.data.toList.drop 70 = dktX2_init_2_3 := sorry
theorem dksX2_init_2_4 : cX2_init_2.data.toList.drop 91 = dktX2_init_2_4 := sorry
theorem dksX2_init_2_5 : cX2_init_2.data.toList.drop 115 = dktX2_init_2_5 := sorry
theorem dksX2_init_2_6 : cX2_init_2.data.toList.drop 138 = dktX2_init_2_6 := sorry
theorem dksX2_init_2_7 : cX2_init_2.data.toList.drop 161 = dktX2_init_2_7 := sorry
theorem dX2_init_2_0 : decode cX2_init_2 0 = .ok (.aload_n 0, 1) := sorry
theorem dX2_init_2_1 : decode cX2_init_2 1 = .ok (.invokespecial 3, 3) := sorry
theorem dX2_init_2_4 : decode cX2_init_2 4 = .ok (.aload_n 0, 1) := sorry
theorem dX2_init_2_5 : decode cX2_init_2 5 = .ok (.bipush 6, 2) := sorry
theorem dX2_init_2_7 : decode cX2_init_2 7 = .ok (.newarray .int, 2) := sorry
theorem dX2_init_2_9 : decode cX2_init_2 9 = .ok (.putfield 9, 3) := sorry
theorem dX2_init_2_12 : decode cX2_init_2 12 = .ok (.aload_n 0, 1) := sorry
theorem dX2_init_2_13 : decode cX2_init_2 13 = .ok (.new 15, 3) := sorry
theorem dX2_init_2_16 : decode cX2_init_2 16 = .ok (.dup, 1) := sorry
theorem dX2_init_2_17 : decode cX2_init_2 17 = .ok (.invokespecial 17, 3) := sorry
theorem dX2_init_2_20 : decode cX2_init_2 20 = .ok (.putfield 18, 3) := sorry
theorem dX2_init_2_23 : decode cX2_init_2 23 = .ok (.aload_n 0, 1) := sorry
theorem dX2_init_2_24 : decode cX2_init_2 24 = .ok (.iconst 4, 1) := sorry
theorem dX2_init_2_25 : decode cX2_init_2 25 = .ok (.newarray .int, 2) := sorry
theorem dX2_init_2_27 : decode cX2_init_2 27 = .ok (.putfield 22, 3) := sorry
theorem dX2_init_2_30 : decode cX2_init_2 30 = .ok (.aload_n 0, 1) := sorry
theorem dX2_init_2_31 : decode cX2_init_2 31 = .ok (.sipush 1000, 3) := sorry
theorem dX2_init_2_34 : decode cX2_init_2 34 = .ok (.putfield 25, 3) := sorry
theorem dX2_init_2_37 : decode cX2_init_2 37 = .ok (.aload_n 0, 1) := sorry
theorem dX2_init_2_38 : decode cX2_init_2 38 = .ok (.bipush 100, 2) := sorry
theorem dX2_init_2_40 : decode cX2_init_2 40 = .ok (.putfield 29, 3) := sorry
theorem dX2_init_2_43 : decode cX2_init_2 43 = .ok (.aload_n 0, 1) := sorry
theorem dX2_init_2_44 : decode cX2_init_2 44 = .ok (.new 32, 3) := sorry
theorem dX2_init_2_47 : decode cX2_init_2 47 = .ok (.dup, 1) := sorry
theorem dX2_init_2_48 : decode cX2_init_2 48 = .ok (.aload_n 1, 1) := sorry
theorem dX2_init_2_49 : decode cX2_init_2 49 = .ok (.getfield 37, 3) := sorry
theorem dX2_init_2_52 : decode cX2_init_2 52 = .ok (.invokespecial 41, 3) := sorry
theorem dX2_init_2_55 : decode cX2_init_2 55 = .ok (.putfield 37, 3) := sorry
theorem dX2_init_2_58 : decode cX2_init_2 58 = .ok (.aload_n 1, 1) := sorry
theorem dX2_init_2_59 : decode cX2_init_2 59 = .ok (.getfield 9, 3) := sorry
theorem dX2_init_2_62 : decode cX2_init_2 62 = .ok (.iconst 0, 1) := sorry
theorem dX2_init_2_63 : decode cX2_init_2 63 = .ok (.aload_n 0, 1) := sorry
theorem dX2_init_2_64 : decode cX2_init_2 64 = .ok (.getfield 9, 3) := sorry
theorem dX2_init_2_67 : decode cX2_init_2 67 = .ok (.iconst 0, 1) := sorry
theorem dX2_init_2_68 : decode cX2_init_2 68 = .ok (.bipush 6, 2) := sorry
theorem dX2_init_2_70 : decode cX2_init_2 70 = .ok (.invokestatic 44, 3) := sorry
theorem dX2_init_2_73 : decode cX2_init_2 73 = .ok (.aload_n 1, 1) := sorry
theorem dX2_init_2_74 : decode cX2_init_2 74 = .ok (.getfield 18, 3) := sorry
theorem dX2_init_2_77 : decode cX2_init_2 77 = .ok (.invokevirtual 50, 3) := sorry
theorem dX2_init_2_80 : decode cX2_init_2 80 = .ok (.astore_n 2, 1) := sorry
theorem dX2_init_2_81 : decode cX2_init_2 81 = .ok (.aload_n 2, 1) := sorry
theorem dX2_init_2_82 : decode cX2_init_2 82 = .ok (.invokeinterface 54 1, 5) := sorry
theorem dX2_init_2_87 : decode cX2_init_2 87 = .ok (.ifCond .eq 24, 3) := sorry
theorem dX2_init_2_90 : decode cX2_init_2 90 = .ok (.aload_n 2, 1) := sorry
theorem dX2_init_2_91 : decode cX2_init_2 91 = .ok (.invokeinterface 60 1, 5) := sorry
theorem dX2_init_2_96 : decode cX2_init_2 96 = .ok (.checkcast 64, 3) := sorry
theorem dX2_init_2_99 : decode cX2_init_2 99 = .ok (.astore_n 3, 1) := sorry
theorem dX2_init_2_100 : decode cX2_init_2 100 = .ok (.aload_n 0, 1) := sorry
theorem dX2_init_2_101 : decode cX2_init_2 101 = .ok (.getfield 18, 3) := sorry
theorem dX2_init_2_104 : decode cX2_init_2 104 = .ok (.aload_n 3, 1) := sorry
theorem dX2_init_2_105 : decode cX2_init_2 105 = .ok (.invokevirtual 66, 3) := sorry
theorem dX2_init_2_108 : decode cX2_init_2 108 = .ok (.goto (-27), 3) := sorry
theorem dX2_init_2_111 : decode cX2_init_2 111 = .ok (.aload_n 1, 1) := sorry
theorem dX2_init_2_112 : decode cX2_init_2 112 = .ok (.getfield 22, 3) := sorry
theorem dX2_init_2_115 : decode cX2_init_2 115 = .ok (.iconst 0, 1) := sorry
theorem dX2_init_2_116 : decode cX2_init_2 116 = .ok (.aload_n 0, 1) := sorry
theorem dX2_init_2_117 : decode cX2_init_2 117 = .ok (.getfield 22, 3) := sorry
theorem dX2_init_2_120 : decode cX2_init_2 120 = .ok (.iconst 0, 1) := sorry
theorem dX2_init_2_121 : decode cX2_init_2 121 = .ok (.iconst 4, 1) := sorry
theorem dX2_init_2_122 : decode cX2_init_2 122 = .ok (.invokestatic 44, 3) := sorry
theorem dX2_init_2_125 : decode cX2_init_2 125 = .ok (.aload_n 0, 1) := sorry
theorem dX2_init_2_126 : decode cX2_init_2 126 = .ok (.aload_n 1, 1) := sorry
theorem dX2_init_2_127 : decode cX2_init_2 127 = .ok (.getfield 70, 3) := sorry
theorem dX2_init_2_130 : decode cX2_init_2 130 = .ok (.putfield 70, 3) := sorry
theorem dX2_init_2_133 : decode cX2_init_2 133 = .ok (.aload_n 0, 1) := sorry
theorem dX2_init_2_134 : decode cX2_init_2 134 = .ok (.aload_n 1, 1) := sorry
theorem dX2_init_2_135 : decode cX2_init_2 135 = .ok (.getfield 25, 3) := sorry
theorem dX2_init_2_138 : decode cX2_init_2 138 = .ok (.putfield 25, 3) := sorry
theorem dX2_init_2_141 : decode cX2_init_2 141 = .ok (.aload_n 0, 1) := sorry
theorem dX2_init_2_142 : decode cX2_init_2 142 = .ok (.aload_n 1, 1) := sorry
theorem dX2_init_2_143 : decode cX2_init_2 143 = .ok (.getfield 29, 3) := sorry
theorem dX2_init_2_146 : decode cX2_init_2 146 = .ok (.putfield 29, 3) := sorry
theorem dX2_init_2_149 : decode cX2_init_2 149 = .ok (.aload_n 0, 1) := sorry
theorem dX2_init_2_150 : decode cX2_init_2 150 = .ok (.aload_n 1, 1) := sorry
theorem dX2_init_2_151 : decode cX2_init_2 151 = .ok (.getfield 73, 3) := sorry
theorem dX2_init_2_154 : decode cX2_init_2 154 = .ok (.ifnonnull 7, 3) := sorry
theorem dX2_init_2_157 : decode cX2_init_2 157 = .ok (.aconst_null, 1) := sorry
theorem dX2_init_2_158 : decode cX2_init_2 158 = .ok (.goto 14, 3) := sorry
theorem dX2_init_2_161 : decode cX2_init_2 161 = .ok (.new 77, 3) := sorry
theorem dX2_init_2_164 : decode cX2_init_2 164 = .ok (.dup, 1) := sorry
theorem dX2_init_2_165 : decode cX2_init_2 165 = .ok (.aload_n 1, 1) := sorry
theorem dX2_init_2_166 : decode cX2_init_2 166 = .ok (.getfield 73, 3) := sorry
theorem dX2_init_2_169 : decode cX2_init_2 169 = .ok (.invokespecial 79, 3) := sorry
theorem dX2_init_2_172 : decode cX2_init_2 172 = .ok (.putfield 73, 3) := sorry
theorem dX2_init_2_175 : decode cX2_init_2 175 = .ok (.return_, 1) := sorry
abbrev cX2_canStep : ByteArray := prog_11_method_8_code
def yX2_canStep : MethodName := ⟨RX2, "canStep", "()Z"⟩
def dkwX2_canStep_1 : List UInt8 := [4, 167, 0, 4, 3, 172]
abbrev dktX2_canStep_1 : List UInt8 := dkwX2_canStep_1 ++ []
def dkwX2_canStep_0 : List UInt8 := [42, 180, 0, 73, 180, 0, 126, 154, 0, 21, 42, 180, 0, 73, 180, 0, 130, 42, 182, 0, 85, 162, 0, 7]
abbrev dktX2_canStep_0 : List UInt8 := dkwX2_canStep_0 ++ dktX2_canStep_1
theorem dksX2_canStep_0 : cX2_canStep.data.toList.drop 0 = dktX2_canStep_0 := sorry
theorem dksX2_canStep_1 : cX2_canStep.data.toList.drop 24 = dktX2_canStep_1 := sorry
theorem dX2_canStep_0 : decode cX2_canStep 0 = .ok (.aload_n 0, 1) := sorry
theorem dX2_canStep_1 : decode cX2_canStep 1 = .ok (.getfield 73, 3) := sorry
theorem dX2_canStep_4 : decode cX2_canStep 4 = .ok (.getfield 126, 3) := sorry
theorem dX2_canStep_7 : decode cX2_canStep 7 = .ok (.ifCond .ne 21, 3) := sorry
theorem dX2_canStep_10 : decode cX2_canStep 10 = .ok (.aload_n 0, 1) := sorry
theorem dX2_canStep_11 : decode cX2_canStep 11 = .ok (.getfield 73, 3) := sorry
theorem dX2_canStep_14 : decode cX2_canStep 14 = .ok (.getfield 130, 3) := sorry
theorem dX2_canStep_17 : decode cX2_canStep 17 = .ok (.aload_n 0, 1) := sorry
theorem dX2_canStep_18 : decode cX2_canStep 18 = .ok (.invokevirtual 85, 3) := sorry
theorem dX2_canStep_21 : decode cX2_canStep 21 = .ok (.if_icmp .ge 7, 3) := sorry
theorem dX2_canStep_24 : decode cX2_canStep 24 = .ok (.iconst 1, 1) := sorry
theorem dX2_canStep_25 : decode cX2_canStep 25 = .ok (.goto 4, 3) := sorry
theorem dX2_canStep_28 : decode cX2_canStep 28 = .ok (.iconst 0, 1) := sorry
theorem dX2_canStep_29 : decode cX2_canStep 29 = .ok (.ireturn, 1) := sorry
abbrev cX2_step : ByteArray := prog_11_method_13_code
def yX2_step : MethodName := ⟨RX2, "step", "()V"⟩
def dkwX2_step_6 : List UInt8 := [25, 4, 182, 0, 205, 153, 0, 7, 32, 167, 0, 7, 43, 182, 0, 106, 182, 0, 188, 177]
abbrev dktX2_step_6 : List UInt8 := dkwX2_step_6 ++ []
def dkwX2_step_5 : List UInt8 := [92, 46, 4, 96, 79, 25, 4, 21, 5, 4, 96, 182, 0, 199, 54, 5, 167, 255, 187, 42, 180, 0, 73, 43]
abbrev dktX2_step_5 : List UInt8 := dkwX2_step_5 ++ dktX2_step_6
def dkwX2_step_4 : List UInt8 := [180, 0, 174, 42, 180, 0, 73, 180, 0, 130, 4, 96, 50, 21, 5, 20, 0, 203, 80, 42, 180, 0, 22, 5]
abbrev dktX2_step_4 : List UInt8 := dkwX2_step_4 ++ dktX2_step_5
def dkwX2_step_3 : List UInt8 := [180, 0, 73, 180, 0, 139, 21, 5, 182, 0, 143, 192, 0, 90, 182, 0, 99, 76, 42, 180, 0, 73]
abbrev dktX2_step_3 : List UInt8 := dkwX2_step_3 ++ dktX2_step_4
def dkwX2_step_2 : List UInt8 := [182, 0, 192, 42, 182, 0, 195, 58, 4, 25, 4, 3, 182, 0, 199, 54, 5, 21, 5, 155, 0, 70, 43, 42]
abbrev dktX2_step_2 : List UInt8 := dkwX2_step_2 ++ dktX2_step_3
def dkwX2_step_1 : List UInt8 := [32, 20, 0, 110, 148, 156, 0, 13, 42, 180, 0, 73, 43, 32, 182, 0, 188, 177, 42, 180, 0, 73, 32]
abbrev dktX2_step_1 : List UInt8 := dkwX2_step_1 ++ dktX2_step_2
def dkwX2_step_0 : List UInt8 := [42, 180, 0, 22, 3, 92, 46, 4, 96, 79, 42, 42, 182, 0, 182, 182, 0, 185, 76, 43, 182, 0, 106, 65]
abbrev dktX2_step_0 : List UInt8 := dkwX2_step_0 ++ dktX2_step_1
theorem dksX2_step_0 : cX2_step.data.toList.drop 0 = dktX2_step_0 := sorry
theorem dksX2_step_1 : cX2_step.data.toList.drop 24 = dktX2_step_1 := sorry
theorem dksX2_step_2 : cX2_step.data.toList.drop 47 = dktX2_step_2 := sorry
theorem dksX2_step_3 : cX2_step.data.toList.drop 71 = dktX2_step_3 := sorry
theorem dksX2_step_4 : cX2_step.data.toList.drop 93 = dktX2_step_4 := sorry
theorem dksX2_step_5 : cX2_step.data.toList.drop 117 = dktX2_step_5 := sorry
theorem dksX2_step_6 : cX2_step.data.toList.drop 141 = dktX2_step_6 := sorry
theorem dX2_step_0 : decode cX2_step 0 = .ok (.aload_n 0, 1) := sorry
theorem dX2_step_1 : decode cX2_step 1 = .ok (.getfield 22, 3) := sorry
theorem dX2_step_4 : decode cX2_step 4 = .ok (.iconst 0, 1) := sorry
theorem dX2_step_5 : decode cX2_step 5 = .ok (.dup2, 1) := sorry
theorem dX2_step_6 : decode cX2_step 6 = .ok (.iaload, 1) := sorry
theorem dX2_step_7 : decode cX2_step 7 = .ok (.iconst 1, 1) := sorry
theorem dX2_step_8 : decode cX2_step 8 = .ok (.iadd, 1) := sorry
theorem dX2_step_9 : decode cX2_step 9 = .ok (.iastore, 1) := sorry
theorem dX2_step_10 : decode cX2_step 10 = .ok (.aload_n 0, 1) := sorry
theorem dX2_step_11 : decode cX2_step 11 = .ok (.aload_n 0, 1) := sorry
theorem dX2_step_12 : decode cX2_step 12 = .ok (.invokevirtual 182, 3) := sorry
theorem dX2_step_15 : decode cX2_step 15 = .ok (.invokevirtual 185, 3) := sorry
theorem dX2_step_18 : decode cX2_step 18 = .ok (.astore_n 1, 1) := sorry
theorem dX2_step_19 : decode cX2_step 19 = .ok (.aload_n 1, 1) := sorry
theorem dX2_step_20 : decode cX2_step 20 = .ok (.invokevirtual 106, 3) := sorry
theorem dX2_step_23 : decode cX2_step 23 = .ok (.lstore_n 2, 1) := sorry
theorem dX2_step_24 : decode cX2_step 24 = .ok (.lload_n 2, 1) := sorry
theorem dX2_step_25 : decode cX2_step 25 = .ok (.ldc2_w 110, 3) := sorry
theorem dX2_step_28 : decode cX2_step 28 = .ok (.lcmp, 1) := sorry
theorem dX2_step_29 : decode cX2_step 29 = .ok (.ifCond .ge 13, 3) := sorry
theorem dX2_step_32 : decode cX2_step 32 = .ok (.aload_n 0, 1) := sorry
theorem dX2_step_33 : decode cX2_step 33 = .ok (.getfield 73, 3) := sorry
theorem dX2_step_36 : decode cX2_step 36 = .ok (.aload_n 1, 1) := sorry
theorem dX2_step_37 : decode cX2_step 37 = .ok (.lload_n 2, 1) := sorry
theorem dX2_step_38 : decode cX2_step 38 = .ok (.invokevirtual 188, 3) := sorry
theorem dX2_step_41 : decode cX2_step 41 = .ok (.return_, 1) := sorry
theorem dX2_step_42 : decode cX2_step 42 = .ok (.aload_n 0, 1) := sorry
theorem dX2_step_43 : decode cX2_step 43 = .ok (.getfield 73, 3) := sorry
theorem dX2_step_46 : decode cX2_step 46 = .ok (.lload_n 2, 1) := sorry
theorem dX2_step_47 : decode cX2_step 47 = .ok (.invokevirtual 192, 3) := sorry
theorem dX2_step_50 : decode cX2_step 50 = .ok (.aload_n 0, 1) := sorry
theorem dX2_step_51 : decode cX2_step 51 = .ok (.invokevirtual 195, 3) := sorry
theorem dX2_step_54 : decode cX2_step 54 = .ok (.astore 4, 2) := sorry
theorem dX2_step_56 : decode cX2_step 56 = .ok (.aload 4, 2) := sorry
theorem dX2_step_58 : decode cX2_step 58 = .ok (.iconst 0, 1) := sorry
theorem dX2_step_59 : decode cX2_step 59 = .ok (.invokevirtual 199, 3) := sorry
theorem dX2_step_62 : decode cX2_step 62 = .ok (.istore 5, 2) := sorry
theorem dX2_step_64 : decode cX2_step 64 = .ok (.iload 5, 2) := sorry
theorem dX2_step_66 : decode cX2_step 66 = .ok (.ifCond .lt 70, 3) := sorry
theorem dX2_step_69 : decode cX2_step 69 = .ok (.aload_n 1, 1) := sorry
theorem dX2_step_70 : decode cX2_step 70 = .ok (.aload_n 0, 1) := sorry
theorem dX2_step_71 : decode cX2_step 71 = .ok (.getfield 73, 3) := sorry
theorem dX2_step_74 : decode cX2_step 74 = .ok (.getfield 139, 3) := sorry
theorem dX2_step_77 : decode cX2_step 77 = .ok (.iload 5, 2) := sorry
theorem dX2_step_79 : decode cX2_step 79 = .ok (.invokevirtual 143, 3) := sorry
theorem dX2_step_82 : decode cX2_step 82 = .ok (.checkcast 90, 3) := sorry
theorem dX2_step_85 : decode cX2_step 85 = .ok (.invokevirtual 99, 3) := sorry
theorem dX2_step_88 : decode cX2_step 88 = .ok (.astore_n 1, 1) := sorry
theorem dX2_step_89 : decode cX2_step 89 = .ok (.aload_n 0, 1) := sorry
theorem dX2_step_90 : decode cX2_step 90 = .ok (.getfield 73, 3) := sorry
theorem dX2_step_93 : decode cX2_step 93 = .ok (.getfield 174, 3) := sorry
theorem dX2_step_96 : decode cX2_step 96 = .ok (.aload_n 0, 1) := sorry
theorem dX2_step_97 : decode cX2_step 97 = .ok (.getfield 73, 3) := sorry
theorem dX2_step_100 : decode cX2_step 100 = .ok (.getfield 130, 3) := sorry
theorem dX2_step_103 : decode cX2_step 103 = .ok (.iconst 1, 1) := sorry
theorem dX2_step_104 : decode cX2_step 104 = .ok (.iadd, 1) := sorry
theorem dX2_step_105 : decode cX2_step 105 = .ok (.aaload, 1) := sorry
theorem dX2_step_106 : decode cX2_step 106 = .ok (.iload 5, 2) := sorry
theorem dX2_step_108 : decode cX2_step 108 = .ok (.ldc2_w 203, 3) := sorry
theorem dX2_step_111 : decode cX2_step 111 = .ok (.lastore, 1) := sorry
theorem dX2_step_112 : decode cX2_step 112 = .ok (.aload_n 0, 1) := sorry
theorem dX2_step_113 : decode cX2_step 113 = .ok (.getfield 22, 3) := sorry
theorem dX2_step_116 : decode cX2_step 116 = .ok (.iconst 2, 1) := sorry
theorem dX2_step_117 : decode cX2_step 117 = .ok (.dup2, 1) := sorry
theorem dX2_step_118 : decode cX2_step 118 = .ok (.iaload, 1) := sorry
theorem dX2_step_119 : decode cX2_step 119 = .ok (.iconst 1, 1) := sorry
theorem dX2_step_120 : decode cX2_step 120 = .ok (.iadd, 1) := sorry
theorem dX2_step_121 : decode cX2_step 121 = .ok (.iastore, 1) := sorry
theorem dX2_step_122 : decode cX2_step 122 = .ok (.aload 4, 2) := sorry
theorem dX2_step_124 : decode cX2_step 124 = .ok (.iload 5, 2) := sorry
theorem dX2_step_126 : decode cX2_step 126 = .ok (.iconst 1, 1) := sorry
theorem dX2_step_127 : decode cX2_step 127 = .ok (.iadd, 1) := sorry
theorem dX2_step_128 : decode cX2_step 128 = .ok (.invokevirtual 199, 3) := sorry
theorem dX2_step_131 : decode cX2_step 131 = .ok (.istore 5, 2) := sorry
theorem dX2_step_133 : decode cX2_step 133 = .ok (.goto (-69), 3) := sorry
theorem dX2_step_136 : decode cX2_step 136 = .ok (.aload_n 0, 1) := sorry
theorem dX2_step_137 : decode cX2_step 137 = .ok (.getfield 73, 3) := sorry
theorem dX2_step_140 : decode cX2_step 140 = .ok (.aload_n 1, 1) := sorry
theorem dX2_step_141 : decode cX2_step 141 = .ok (.aload 4, 2) := sorry
theorem dX2_step_143 : decode cX2_step 143 = .ok (.invokevirtual 205, 3) := sorry
theorem dX2_step_146 : decode cX2_step 146 = .ok (.ifCond .eq 7, 3) := sorry
theorem dX2_step_149 : decode cX2_step 149 = .ok (.lload_n 2, 1) := sorry
theorem dX2_step_150 : decode cX2_step 150 = .ok (.goto 7, 3) := sorry
theorem dX2_step_153 : decode cX2_step 153 = .ok (.aload_n 1, 1) := sorry
theorem dX2_step_154 : decode cX2_step 154 = .ok (.invokevirtual 106, 3) := sorry
theorem dX2_step_157 : decode cX2_step 157 = .ok (.invokevirtual 188, 3) := sorry
theorem dX2_step_160 : decode cX2_step 160 = .ok (.return_, 1) := sorry
abbrev cX2_recurred : ByteArray := prog_11_method_10_code
def yX2_recurred : MethodName := ⟨RX2, "recurred", "()LKrylovLaboratory$Vector;"⟩
def dkwX2_recurred_4 : List UInt8 := [176]
abbrev dktX2_recurred_4 : List UInt8 := dkwX2_recurred_4 ++ []
def dkwX2_recurred_3 : List UInt8 := [180, 0, 160, 27, 45, 44, 182, 0, 163, 80, 45, 42, 180, 0, 73, 180, 0, 160, 27, 47, 44, 182, 0, 156]
abbrev dktX2_recurred_3 : List UInt8 := dkwX2_recurred_3 ++ dktX2_recurred_4
def dkwX2_recurred_2 : List UInt8 := [42, 180, 0, 73, 180, 0, 139, 27, 4, 100, 182, 0, 143, 192, 0, 90, 182, 0, 156, 78, 42, 180, 0, 73]
abbrev dktX2_recurred_2 : List UInt8 := dkwX2_recurred_2 ++ dktX2_recurred_3
def dkwX2_recurred_1 : List UInt8 := [180, 0, 37, 44, 182, 0, 149, 78, 27, 158, 0, 35, 45, 42, 180, 0, 73, 180, 0, 152, 27, 4, 100, 47]
abbrev dktX2_recurred_1 : List UInt8 := dkwX2_recurred_1 ++ dktX2_recurred_2
def dkwX2_recurred_0 : List UInt8 := [42, 180, 0, 73, 180, 0, 130, 60, 42, 180, 0, 73, 180, 0, 139, 27, 182, 0, 143, 192, 0, 90, 77, 42]
abbrev dktX2_recurred_0 : List UInt8 := dkwX2_recurred_0 ++ dktX2_recurred_1
theorem dksX2_recurred_0 : cX2_recurred.data.toList.drop 0 = dktX2_recurred_0 := sorry
theorem dksX2_recurred_1 : cX2_recurred.data.toList.drop 24 = dktX2_recurred_1 := sorry
theorem dksX2_recurred_2 : cX2_recurred.data.toList.drop 48 = dktX2_recurred_2 := sorry
theorem dksX2_recurred_3 : cX2_recurred.data.toList.drop 72 = dktX2_recurred_3 := sorry
theorem dksX2_recurred_4 : cX2_recurred.data.toList.drop 96 = dktX2_recurred_4 := sorry
theorem dX2_recurred_0 : decode cX2_recurred 0 = .ok (.aload_n 0, 1) := sorry
theorem dX2_recurred_1 : decode cX2_recurred 1 = .ok (.getfield 73, 3) := sorry
theorem dX2_recurred_4 : decode cX2_recurred 4 = .ok (.getfield 130, 3) := sorry
theorem dX2_recurred_7 : decode cX2_recurred 7 = .ok (.istore_n 1, 1) := sorry
theorem dX2_recurred_8 : decode cX2_recurred 8 = .ok (.aload_n 0, 1) := sorry
theorem dX2_recurred_9 : decode cX2_recurred 9 = .ok (.getfield 73, 3) := sorry
theorem dX2_recurred_12 : decode cX2_recurred 12 = .ok (.getfield 139, 3) := sorry
theorem dX2_recurred_15 : decode cX2_recurred 15 = .ok (.iload_n 1, 1) := sorry
theorem dX2_recurred_16 : decode cX2_recurred 16 = .ok (.invokevirtual 143, 3) := sorry
theorem dX2_recurred_19 : decode cX2_recurred 19 = .ok (.checkcast 90, 3) := sorry
theorem dX2_recurred_22 : decode cX2_recurred 22 = .ok (.astore_n 2, 1) := sorry
theorem dX2_recurred_23 : decode cX2_recurred 23 = .ok (.aload_n 0, 1) := sorry
theorem dX2_recurred_24 : decode cX2_recurred 24 = .ok (.getfield 37, 3) := sorry
theorem dX2_recurred_27 : decode cX2_recurred 27 = .ok (.aload_n 2, 1) := sorry
theorem dX2_recurred_28 : decode cX2_recurred 28 = .ok (.invokevirtual 149, 3) := sorry
theorem dX2_recurred_31 : decode cX2_recurred 31 = .ok (.astore_n 3, 1) := sorry
theorem dX2_recurred_32 : decode cX2_recurred 32 = .ok (.iload_n 1, 1) := sorry
theorem dX2_recurred_33 : decode cX2_recurred 33 = .ok (.ifCond .le 35, 3) := sorry
theorem dX2_recurred_36 : decode cX2_recurred 36 = .ok (.aload_n 3, 1) := sorry
theorem dX2_recurred_37 : decode cX2_recurred 37 = .ok (.aload_n 0, 1) := sorry
theorem dX2_recurred_38 : decode cX2_recurred 38 = .ok (.getfield 73, 3) := sorry
theorem dX2_recurred_41 : decode cX2_recurred 41 = .ok (.getfield 152, 3) := sorry
theorem dX2_recurred_44 : decode cX2_recurred 44 = .ok (.iload_n 1, 1) := sorry
theorem dX2_recurred_45 : decode cX2_recurred 45 = .ok (.iconst 1, 1) := sorry
theorem dX2_recurred_46 : decode cX2_recurred 46 = .ok (.isub, 1) := sorry
theorem dX2_recurred_47 : decode cX2_recurred 47 = .ok (.laload, 1) := sorry
theorem dX2_recurred_48 : decode cX2_recurred 48 = .ok (.aload_n 0, 1) := sorry
theorem dX2_recurred_49 : decode cX2_recurred 49 = .ok (.getfield 73, 3) := sorry
theorem dX2_recurred_52 : decode cX2_recurred 52 = .ok (.getfield 139, 3) := sorry
theorem dX2_recurred_55 : decode cX2_recurred 55 = .ok (.iload_n 1, 1) := sorry
theorem dX2_recurred_56 : decode cX2_recurred 56 = .ok (.iconst 1, 1) := sorry
theorem dX2_recurred_57 : decode cX2_recurred 57 = .ok (.isub, 1) := sorry
theorem dX2_recurred_58 : decode cX2_recurred 58 = .ok (.invokevirtual 143, 3) := sorry
theorem dX2_recurred_61 : decode cX2_recurred 61 = .ok (.checkcast 90, 3) := sorry
theorem dX2_recurred_64 : decode cX2_recurred 64 = .ok (.invokevirtual 156, 3) := sorry
theorem dX2_recurred_67 : decode cX2_recurred 67 = .ok (.astore_n 3, 1) := sorry
theorem dX2_recurred_68 : decode cX2_recurred 68 = .ok (.aload_n 0, 1) := sorry
theorem dX2_recurred_69 : decode cX2_recurred 69 = .ok (.getfield 73, 3) := sorry
theorem dX2_recurred_72 : decode cX2_recurred 72 = .ok (.getfield 160, 3) := sorry
theorem dX2_recurred_75 : decode cX2_recurred 75 = .ok (.iload_n 1, 1) := sorry
theorem dX2_recurred_76 : decode cX2_recurred 76 = .ok (.aload_n 3, 1) := sorry
theorem dX2_recurred_77 : decode cX2_recurred 77 = .ok (.aload_n 2, 1) := sorry
theorem dX2_recurred_78 : decode cX2_recurred 78 = .ok (.invokevirtual 163, 3) := sorry
theorem dX2_recurred_81 : decode cX2_recurred 81 = .ok (.lastore, 1) := sorry
theorem dX2_recurred_82 : decode cX2_recurred 82 = .ok (.aload_n 3, 1) := sorry
theorem dX2_recurred_83 : decode cX2_recurred 83 = .ok (.aload_n 0, 1) := sorry
theorem dX2_recurred_84 : decode cX2_recurred 84 = .ok (.getfield 73, 3) := sorry
theorem dX2_recurred_87 : decode cX2_recurred 87 = .ok (.getfield 160, 3) := sorry
theorem dX2_recurred_90 : decode cX2_recurred 90 = .ok (.iload_n 1, 1) := sorry
theorem dX2_recurred_91 : decode cX2_recurred 91 = .ok (.laload, 1) := sorry
theorem dX2_recurred_92 : decode cX2_recurred 92 = .ok (.aload_n 2, 1) := sorry
theorem dX2_recurred_93 : decode cX2_recurred 93 = .ok (.invokevirtual 156, 3) := sorry
theorem dX2_recurred_96 : decode cX2_recurred 96 = .ok (.areturn, 1) := sorry
abbrev cX2_purgedMuch : ByteArray := prog_11_method_11_code
def yX2_purgedMuch : MethodName := ⟨RX2, "purgedMuch", "(LKrylovLaboratory$Vector;)LKrylovLaboratory$Vector;"⟩
def dkwX2_purgedMuch_3 : List UInt8 := [96, 79, 167, 255, 197, 44, 176]
abbrev dktX2_purgedMuch_3 : List UInt8 := dkwX2_purgedMuch_3 ++ []
def dkwX2_purgedMuch_2 : List UInt8 := [154, 0, 6, 167, 255, 220, 44, 25, 4, 180, 0, 95, 182, 0, 99, 77, 42, 180, 0, 22, 4, 92, 46, 4]
abbrev dktX2_purgedMuch_2 : List UInt8 := dkwX2_purgedMuch_2 ++ dktX2_purgedMuch_3
def dkwX2_purgedMuch_1 : List UInt8 := [185, 0, 60, 1, 0, 192, 0, 64, 58, 4, 42, 44, 25, 4, 180, 0, 95, 182, 0, 163, 182, 0, 167]
abbrev dktX2_purgedMuch_1 : List UInt8 := dkwX2_purgedMuch_1 ++ dktX2_purgedMuch_2
def dkwX2_purgedMuch_0 : List UInt8 := [43, 77, 42, 180, 0, 18, 182, 0, 50, 78, 45, 185, 0, 54, 1, 0, 153, 0, 56, 45]
abbrev dktX2_purgedMuch_0 : List UInt8 := dkwX2_purgedMuch_0 ++ dktX2_purgedMuch_1
theorem dksX2_purgedMuch_0 : cX2_purgedMuch.data.toList.drop 0 = dktX2_purgedMuch_0 := sorry
theorem dksX2_purgedMuch_1 : cX2_purgedMuch.data.toList.drop 20 = dktX2_purgedMuch_1 := sorry
theorem dksX2_purgedMuch_2 : cX2_purgedMuch.data.toList.drop 43 = dktX2_purgedMuch_2 := sorry
theorem dksX2_purgedMuch_3 : cX2_purgedMuch.data.toList.drop 67 = dktX2_purgedMuch_3 := sorry
theorem dX2_purgedMuch_0 : decode cX2_purgedMuch 0 = .ok (.aload_n 1, 1) := sorry
theorem dX2_purgedMuch_1 : decode cX2_purgedMuch 1 = .ok (.astore_n 2, 1) := sorry
theorem dX2_purgedMuch_2 : decode cX2_purgedMuch 2 = .ok (.aload_n 0, 1) := sorry
theorem dX2_purgedMuch_3 : decode cX2_purgedMuch 3 = .ok (.getfield 18, 3) := sorry
theorem dX2_purgedMuch_6 : decode cX2_purgedMuch 6 = .ok (.invokevirtual 50, 3) := sorry
theorem dX2_purgedMuch_9 : decode cX2_purgedMuch 9 = .ok (.astore_n 3, 1) := sorry
theorem dX2_purgedMuch_10 : decode cX2_purgedMuch 10 = .ok (.aload_n 3, 1) := sorry
theorem dX2_purgedMuch_11 : decode cX2_purgedMuch 11 = .ok (.invokeinterface 54 1, 5) := sorry
theorem dX2_purgedMuch_16 : decode cX2_purgedMuch 16 = .ok (.ifCond .eq 56, 3) := sorry
theorem dX2_purgedMuch_19 : decode cX2_purgedMuch 19 = .ok (.aload_n 3, 1) := sorry
theorem dX2_purgedMuch_20 : decode cX2_purgedMuch 20 = .ok (.invokeinterface 60 1, 5) := sorry
theorem dX2_purgedMuch_25 : decode cX2_purgedMuch 25 = .ok (.checkcast 64, 3) := sorry
theorem dX2_purgedMuch_28 : decode cX2_purgedMuch 28 = .ok (.astore 4, 2) := sorry
theorem dX2_purgedMuch_30 : decode cX2_purgedMuch 30 = .ok (.aload_n 0, 1) := sorry
theorem dX2_purgedMuch_31 : decode cX2_purgedMuch 31 = .ok (.aload_n 2, 1) := sorry
theorem dX2_purgedMuch_32 : decode cX2_purgedMuch 32 = .ok (.aload 4, 2) := sorry
theorem dX2_purgedMuch_34 : decode cX2_purgedMuch 34 = .ok (.getfield 95, 3) := sorry
theorem dX2_purgedMuch_37 : decode cX2_purgedMuch 37 = .ok (.invokevirtual 163, 3) := sorry
theorem dX2_purgedMuch_40 : decode cX2_purgedMuch 40 = .ok (.invokevirtual 167, 3) := sorry
theorem dX2_purgedMuch_43 : decode cX2_purgedMuch 43 = .ok (.ifCond .ne 6, 3) := sorry
theorem dX2_purgedMuch_46 : decode cX2_purgedMuch 46 = .ok (.goto (-36), 3) := sorry
theorem dX2_purgedMuch_49 : decode cX2_purgedMuch 49 = .ok (.aload_n 2, 1) := sorry
theorem dX2_purgedMuch_50 : decode cX2_purgedMuch 50 = .ok (.aload 4, 2) := sorry
theorem dX2_purgedMuch_52 : decode cX2_purgedMuch 52 = .ok (.getfield 95, 3) := sorry
theorem dX2_purgedMuch_55 : decode cX2_purgedMuch 55 = .ok (.invokevirtual 99, 3) := sorry
theorem dX2_purgedMuch_58 : decode cX2_purgedMuch 58 = .ok (.astore_n 2, 1) := sorry
theorem dX2_purgedMuch_59 : decode cX2_purgedMuch 59 = .ok (.aload_n 0, 1) := sorry
theorem dX2_purgedMuch_60 : decode cX2_purgedMuch 60 = .ok (.getfield 22, 3) := sorry
theorem dX2_purgedMuch_63 : decode cX2_purgedMuch 63 = .ok (.iconst 1, 1) := sorry
theorem dX2_purgedMuch_64 : decode cX2_purgedMuch 64 = .ok (.dup2, 1) := sorry
theorem dX2_purgedMuch_65 : decode cX2_purgedMuch 65 = .ok (.iaload, 1) := sorry
theorem dX2_purgedMuch_66 : decode cX2_purgedMuch 66 = .ok (.iconst 1, 1) := sorry
theorem dX2_purgedMuch_67 : decode cX2_purgedMuch 67 = .ok (.iadd, 1) := sorry
theorem dX2_purgedMuch_68 : decode cX2_purgedMuch 68 = .ok (.iastore, 1) := sorry
theorem dX2_purgedMuch_69 : decode cX2_purgedMuch 69 = .ok (.goto (-59), 3) := sorry
theorem dX2_purgedMuch_72 : decode cX2_purgedMuch 72 = .ok (.aload_n 2, 1) := sorry
theorem dX2_purgedMuch_73 : decode cX2_purgedMuch 73 = .ok (.areturn, 1) := sorry
abbrev cX2_isMuch : ByteArray := prog_11_method_9_code
def yX2_isMuch : MethodName := ⟨RX2, "isMuch", "(J)Z"⟩
def dkwX2_isMuch_1 : List UInt8 := [133, 148, 158, 0, 7, 4, 167, 0, 4, 3, 172]
abbrev dktX2_isMuch_1 : List UInt8 := dkwX2_isMuch_1 ++ []
def dkwX2_isMuch_0 : List UInt8 := [42, 180, 0, 70, 4, 163, 0, 24, 42, 180, 0, 70, 4, 160, 0, 20, 31, 184, 0, 133, 42, 180, 0, 25]
abbrev dktX2_isMuch_0 : List UInt8 := dkwX2_isMuch_0 ++ dktX2_isMuch_1
theorem dksX2_isMuch_0 : cX2_isMuch.data.toList.drop 0 = dktX2_isMuch_0 := sorry
theorem dksX2_isMuch_1 : cX2_isMuch.data.toList.drop 24 = dktX2_isMuch_1 := sorry
theorem dX2_isMuch_0 : decode cX2_isMuch 0 = .ok (.aload_n 0, 1) := sorry
theorem dX2_isMuch_1 : decode cX2_isMuch 1 = .ok (.getfield 70, 3) := sorry
theorem dX2_isMuch_4 : decode cX2_isMuch 4 = .ok (.iconst 1, 1) := sorry
theorem dX2_isMuch_5 : decode cX2_isMuch 5 = .ok (.if_icmp .gt 24, 3) := sorry
theorem dX2_isMuch_8 : decode cX2_isMuch 8 = .ok (.aload_n 0, 1) := sorry
theorem dX2_isMuch_9 : decode cX2_isMuch 9 = .ok (.getfield 70, 3) := sorry
theorem dX2_isMuch_12 : decode cX2_isMuch 12 = .ok (.iconst 1, 1) := sorry
theorem dX2_isMuch_13 : decode cX2_isMuch 13 = .ok (.if_icmp .ne 20, 3) := sorry
theorem dX2_isMuch_16 : decode cX2_isMuch 16 = .ok (.lload_n 1, 1) := sorry
theorem dX2_isMuch_17 : decode cX2_isMuch 17 = .ok (.invokestatic 133, 3) := sorry
theorem dX2_isMuch_20 : decode cX2_isMuch 20 = .ok (.aload_n 0, 1) := sorry
theorem dX2_isMuch_21 : decode cX2_isMuch 21 = .ok (.getfield 25, 3) := sorry
theorem dX2_isMuch_24 : decode cX2_isMuch 24 = .ok (.i2l, 1) := sorry
theorem dX2_isMuch_25 : decode cX2_isMuch 25 = .ok (.lcmp, 1) := sorry
theorem dX2_isMuch_26 : decode cX2_isMuch 26 = .ok (.ifCond .le 7, 3) := sorry
theorem dX2_isMuch_29 : decode cX2_isMuch 29 = .ok (.iconst 1, 1) := sorry
theorem dX2_isMuch_30 : decode cX2_isMuch 30 = .ok (.goto 4, 3) := sorry
theorem dX2_isMuch_33 : decode cX2_isMuch 33 = .ok (.iconst 0, 1) := sorry
theorem dX2_isMuch_34 : decode cX2_isMuch 34 = .ok (.ireturn, 1) := sorry
abbrev cX2_toRepair : ByteArray := prog_11_method_12_code
def yX2_toRepair : MethodName := ⟨RX2, "toRepair", "()Ljava/util/BitSet;"⟩
def dkwX2_toRepair_2 : List UInt8 := [182, 0, 178, 132, 2, 1, 167, 255, 214, 43, 176]
abbrev dktX2_toRepair_2 : List UInt8 := dkwX2_toRepair_2 ++ []
def dkwX2_toRepair_1 : List UInt8 := [28, 42, 42, 180, 0, 73, 180, 0, 174, 42, 180, 0, 73, 180, 0, 130, 4, 96, 50, 28, 47, 182, 0, 167]
abbrev dktX2_toRepair_1 : List UInt8 := dkwX2_toRepair_1 ++ dktX2_toRepair_2
def dkwX2_toRepair_0 : List UInt8 := [187, 0, 171, 89, 16, 6, 183, 0, 173, 76, 3, 61, 28, 42, 180, 0, 73, 180, 0, 130, 163, 0, 37, 43]
abbrev dktX2_toRepair_0 : List UInt8 := dkwX2_toRepair_0 ++ dktX2_toRepair_1
theorem dksX2_toRepair_0 : cX2_toRepair.data.toList.drop 0 = dktX2_toRepair_0 := sorry
theorem dksX2_toRepair_1 : cX2_toRepair.data.toList.drop 24 = dktX2_toRepair_1 := sorry
theorem dksX2_toRepair_2 : cX2_toRepair.data.toList.drop 48 = dktX2_toRepair_2 := sorry
theorem dX2_toRepair_0 : decode cX2_toRepair 0 = .ok (.new 171, 3) := sorry
theorem dX2_toRepair_3 : decode cX2_toRepair 3 = .ok (.dup, 1) := sorry
theorem dX2_toRepair_4 : decode cX2_toRepair 4 = .ok (.bipush 6, 2) := sorry
theorem dX2_toRepair_6 : decode cX2_toRepair 6 = .ok (.invokespecial 173, 3) := sorry
theorem dX2_toRepair_9 : decode cX2_toRepair 9 = .ok (.astore_n 1, 1) := sorry
theorem dX2_toRepair_10 : decode cX2_toRepair 10 = .ok (.iconst 0, 1) := sorry
theorem dX2_toRepair_11 : decode cX2_toRepair 11 = .ok (.istore_n 2, 1) := sorry
theorem dX2_toRepair_12 : decode cX2_toRepair 12 = .ok (.iload_n 2, 1) := sorry
theorem dX2_toRepair_13 : decode cX2_toRepair 13 = .ok (.aload_n 0, 1) := sorry
theorem dX2_toRepair_14 : decode cX2_toRepair 14 = .ok (.getfield 73, 3) := sorry
theorem dX2_toRepair_17 : decode cX2_toRepair 17 = .ok (.getfield 130, 3) := sorry
theorem dX2_toRepair_20 : decode cX2_toRepair 20 = .ok (.if_icmp .gt 37, 3) := sorry
theorem dX2_toRepair_23 : decode cX2_toRepair 23 = .ok (.aload_n 1, 1) := sorry
theorem dX2_toRepair_24 : decode cX2_toRepair 24 = .ok (.iload_n 2, 1) := sorry
theorem dX2_toRepair_25 : decode cX2_toRepair 25 = .ok (.aload_n 0, 1) := sorry
theorem dX2_toRepair_26 : decode cX2_toRepair 26 = .ok (.aload_n 0, 1) := sorry
theorem dX2_toRepair_27 : decode cX2_toRepair 27 = .ok (.getfield 73, 3) := sorry
theorem dX2_toRepair_30 : decode cX2_toRepair 30 = .ok (.getfield 174, 3) := sorry
theorem dX2_toRepair_33 : decode cX2_toRepair 33 = .ok (.aload_n 0, 1) := sorry
theorem dX2_toRepair_34 : decode cX2_toRepair 34 = .ok (.getfield 73, 3) := sorry
theorem dX2_toRepair_37 : decode cX2_toRepair 37 = .ok (.getfield 130, 3) := sorry
theorem dX2_toRepair_40 : decode cX2_toRepair 40 = .ok (.iconst 1, 1) := sorry
theorem dX2_toRepair_41 : decode cX2_toRepair 41 = .ok (.iadd, 1) := sorry
theorem dX2_toRepair_42 : decode cX2_toRepair 42 = .ok (.aaload, 1) := sorry
theorem dX2_toRepair_43 : decode cX2_toRepair 43 = .ok (.iload_n 2, 1) := sorry
theorem dX2_toRepair_44 : decode cX2_toRepair 44 = .ok (.laload, 1) := sorry
theorem dX2_toRepair_45 : decode cX2_toRepair 45 = .ok (.invokevirtual 167, 3) := sorry
theorem dX2_toRepair_48 : decode cX2_toRepair 48 = .ok (.invokevirtual 178, 3) := sorry
theorem dX2_toRepair_51 : decode cX2_toRepair 51 = .ok (.iinc 2 1, 3) := sorry
theorem dX2_toRepair_54 : decode cX2_toRepair 54 = .ok (.goto (-42), 3) := sorry
theorem dX2_toRepair_57 : decode cX2_toRepair 57 = .ok (.aload_n 1, 1) := sorry
theorem dX2_toRepair_58 : decode cX2_toRepair 58 = .ok (.areturn, 1) := sorry
abbrev cX2_residual : ByteArray := prog_11_method_16_code
def yX2_residual : MethodName := ⟨RX2, "residual", "(LKrylovLaboratory$Locked;)J"⟩
def dkwX2_residual_0 : List UInt8 := [42, 180, 0, 37, 43, 180, 0, 231, 43, 180, 0, 95, 182, 0, 234, 173]
abbrev dktX2_residual_0 : List UInt8 := dkwX2_residual_0 ++ []
theorem dksX2_residual_0 : cX2_residual.data.toList.drop 0 = dktX2_residual_0 := sorry
theorem dX2_residual_0 : decode cX2_residual 0 = .ok (.aload_n 0, 1) := sorry
theorem dX2_residual_1 : decode cX2_residual 1 = .ok (.getfield 37, 3) := sorry
theorem dX2_residual_4 : decode cX2_residual 4 = .ok (.aload_n 1, 1) := sorry
theorem dX2_residual_5 : decode cX2_residual 5 = .ok (.getfield 231, 3) := sorry
theorem dX2_residual_8 : decode cX2_residual 8 = .ok (.aload_n 1, 1) := sorry
theorem dX2_residual_9 : decode cX2_residual 9 = .ok (.getfield 95, 3) := sorry
theorem dX2_residual_12 : decode cX2_residual 12 = .ok (.invokevirtual 234, 3) := sorry
theorem dX2_residual_15 : decode cX2_residual 15 = .ok (.lreturn, 1) := sorry
abbrev cX2_isBroken : ByteArray := prog_11_method_17_code
def yX2_isBroken : MethodName := ⟨RX2, "isBroken", "(LKrylovLaboratory$Locked;I)Z"⟩
def dkwX2_isBroken_0 : List UInt8 := [42, 43, 182, 0, 238, 43, 180, 0, 241, 28, 133, 97, 148, 158, 0, 7, 4, 167, 0, 4, 3, 172]
abbrev dktX2_isBroken_0 : List UInt8 := dkwX2_isBroken_0 ++ []
theorem dksX2_isBroken_0 : cX2_isBroken.data.toList.drop 0 = dktX2_isBroken_0 := sorry
theorem dX2_isBroken_0 : decode cX2_isBroken 0 = .ok (.aload_n 0, 1) := sorry
theorem dX2_isBroken_1 : decode cX2_isBroken 1 = .ok (.aload_n 1, 1) := sorry
theorem dX2_isBroken_2 : decode cX2_isBroken 2 = .ok (.invokevirtual 238, 3) := sorry
theorem dX2_isBroken_5 : decode cX2_isBroken 5 = .ok (.aload_n 1, 1) := sorry
theorem dX2_isBroken_6 : decode cX2_isBroken 6 = .ok (.getfield 241, 3) := sorry
theorem dX2_isBroken_9 : decode cX2_isBroken 9 = .ok (.iload_n 2, 1) := sorry
theorem dX2_isBroken_10 : decode cX2_isBroken 10 = .ok (.i2l, 1) := sorry
theorem dX2_isBroken_11 : decode cX2_isBroken 11 = .ok (.ladd, 1) := sorry
theorem dX2_isBroken_12 : decode cX2_isBroken 12 = .ok (.lcmp, 1) := sorry
theorem dX2_isBroken_13 : decode cX2_isBroken 13 = .ok (.ifCond .le 7, 3) := sorry
theorem dX2_isBroken_16 : decode cX2_isBroken 16 = .ok (.iconst 1, 1) := sorry
theorem dX2_isBroken_17 : decode cX2_isBroken 17 = .ok (.goto 4, 3) := sorry
theorem dX2_isBroken_20 : decode cX2_isBroken 20 = .ok (.iconst 0, 1) := sorry
theorem dX2_isBroken_21 : decode cX2_isBroken 21 = .ok (.ireturn, 1) := sorry
abbrev cX2_steps : ByteArray := prog_11_method_14_code
def yX2_steps : MethodName := ⟨RX2, "steps", "(I)I"⟩
def dkwX2_steps_1 : List UInt8 := [28, 172]
abbrev dktX2_steps_1 : List UInt8 := dkwX2_steps_1 ++ []
def dkwX2_steps_0 : List UInt8 := [3, 61, 28, 27, 162, 0, 20, 42, 182, 0, 208, 153, 0, 13, 42, 182, 0, 211, 132, 2, 1, 167, 255, 237]
abbrev dktX2_steps_0 : List UInt8 := dkwX2_steps_0 ++ dktX2_steps_1
theorem dksX2_steps_0 : cX2_steps.data.toList.drop 0 = dktX2_steps_0 := sorry
theorem dksX2_steps_1 : cX2_steps.data.toList.drop 24 = dktX2_steps_1 := sorry
theorem dX2_steps_0 : decode cX2_steps 0 = .ok (.iconst 0, 1) := sorry
theorem dX2_steps_1 : decode cX2_steps 1 = .ok (.istore_n 2, 1) := sorry
theorem dX2_steps_2 : decode cX2_steps 2 = .ok (.iload_n 2, 1) := sorry
theorem dX2_steps_3 : decode cX2_steps 3 = .ok (.iload_n 1, 1) := sorry
theorem dX2_steps_4 : decode cX2_steps 4 = .ok (.if_icmp .ge 20, 3) := sorry
theorem dX2_steps_7 : decode cX2_steps 7 = .ok (.aload_n 0, 1) := sorry
theorem dX2_steps_8 : decode cX2_steps 8 = .ok (.invokevirtual 208, 3) := sorry
theorem dX2_steps_11 : decode cX2_steps 11 = .ok (.ifCond .eq 13, 3) := sorry
theorem dX2_steps_14 : decode cX2_steps 14 = .ok (.aload_n 0, 1) := sorry
theorem dX2_steps_15 : decode cX2_steps 15 = .ok (.invokevirtual 211, 3) := sorry
theorem dX2_steps_18 : decode cX2_steps 18 = .ok (.iinc 2 1, 3) := sorry
theorem dX2_steps_21 : decode cX2_steps 21 = .ok (.goto (-19), 3) := sorry
theorem dX2_steps_24 : decode cX2_steps 24 = .ok (.iload_n 2, 1) := sorry
theorem dX2_steps_25 : decode cX2_steps 25 = .ok (.ireturn, 1) := sorry
abbrev cX2_lock : ByteArray := prog_11_method_15_code
def yX2_lock : MethodName := ⟨RX2, "lock", "(I)I"⟩
def dkwX2_lock_4 : List UInt8 := [182, 0, 66, 42, 180, 0, 18, 182, 0, 218, 4, 100, 172]
abbrev dktX2_lock_4 : List UInt8 := dkwX2_lock_4 ++ []
def dkwX2_lock_3 : List UInt8 := [180, 0, 18, 187, 0, 64, 89, 42, 180, 0, 73, 27, 182, 0, 225, 25, 4, 182, 0, 112, 32, 183, 0, 228]
abbrev dktX2_lock_3 : List UInt8 := dkwX2_lock_3 ++ dktX2_lock_4
def dkwX2_lock_2 : List UInt8 := [182, 0, 221, 182, 0, 103, 58, 4, 25, 4, 182, 0, 106, 20, 0, 110, 148, 156, 0, 6, 16, 252, 172, 42]
abbrev dktX2_lock_2 : List UInt8 := dkwX2_lock_2 ++ dktX2_lock_3
def dkwX2_lock_1 : List UInt8 := [180, 0, 18, 182, 0, 218, 42, 182, 0, 85, 160, 0, 6, 16, 253, 172, 42, 42, 180, 0, 73, 27]
abbrev dktX2_lock_1 : List UInt8 := dkwX2_lock_1 ++ dktX2_lock_2
def dkwX2_lock_0 : List UInt8 := [42, 180, 0, 73, 27, 182, 0, 214, 65, 32, 42, 180, 0, 29, 133, 148, 158, 0, 6, 16, 254, 172, 42]
abbrev dktX2_lock_0 : List UInt8 := dkwX2_lock_0 ++ dktX2_lock_1
theorem dksX2_lock_0 : cX2_lock.data.toList.drop 0 = dktX2_lock_0 := sorry
theorem dksX2_lock_1 : cX2_lock.data.toList.drop 23 = dktX2_lock_1 := sorry
theorem dksX2_lock_2 : cX2_lock.data.toList.drop 45 = dktX2_lock_2 := sorry
theorem dksX2_lock_3 : cX2_lock.data.toList.drop 69 = dktX2_lock_3 := sorry
theorem dksX2_lock_4 : cX2_lock.data.toList.drop 93 = dktX2_lock_4 := sorry
theorem dX2_lock_0 : decode cX2_lock 0 = .ok (.aload_n 0, 1) := sorry
theorem dX2_lock_1 : decode cX2_lock 1 = .ok (.getfield 73, 3) := sorry
theorem dX2_lock_4 : decode cX2_lock 4 = .ok (.iload_n 1, 1) := sorry
theorem dX2_lock_5 : decode cX2_lock 5 = .ok (.invokevirtual 214, 3) := sorry
theorem dX2_lock_8 : decode cX2_lock 8 = .ok (.lstore_n 2, 1) := sorry
theorem dX2_lock_9 : decode cX2_lock 9 = .ok (.lload_n 2, 1) := sorry
theorem dX2_lock_10 : decode cX2_lock 10 = .ok (.aload_n 0, 1) := sorry
theorem dX2_lock_11 : decode cX2_lock 11 = .ok (.getfield 29, 3) := sorry
theorem dX2_lock_14 : decode cX2_lock 14 = .ok (.i2l, 1) := sorry
theorem dX2_lock_15 : decode cX2_lock 15 = .ok (.lcmp, 1) := sorry
theorem dX2_lock_16 : decode cX2_lock 16 = .ok (.ifCond .le 6, 3) := sorry
theorem dX2_lock_19 : decode cX2_lock 19 = .ok (.bipush (-2), 2) := sorry
theorem dX2_lock_21 : decode cX2_lock 21 = .ok (.ireturn, 1) := sorry
theorem dX2_lock_22 : decode cX2_lock 22 = .ok (.aload_n 0, 1) := sorry
theorem dX2_lock_23 : decode cX2_lock 23 = .ok (.getfield 18, 3) := sorry
theorem dX2_lock_26 : decode cX2_lock 26 = .ok (.invokevirtual 218, 3) := sorry
theorem dX2_lock_29 : decode cX2_lock 29 = .ok (.aload_n 0, 1) := sorry
theorem dX2_lock_30 : decode cX2_lock 30 = .ok (.invokevirtual 85, 3) := sorry
theorem dX2_lock_33 : decode cX2_lock 33 = .ok (.if_icmp .ne 6, 3) := sorry
theorem dX2_lock_36 : decode cX2_lock 36 = .ok (.bipush (-3), 2) := sorry
theorem dX2_lock_38 : decode cX2_lock 38 = .ok (.ireturn, 1) := sorry
theorem dX2_lock_39 : decode cX2_lock 39 = .ok (.aload_n 0, 1) := sorry
theorem dX2_lock_40 : decode cX2_lock 40 = .ok (.aload_n 0, 1) := sorry
theorem dX2_lock_41 : decode cX2_lock 41 = .ok (.getfield 73, 3) := sorry
theorem dX2_lock_44 : decode cX2_lock 44 = .ok (.iload_n 1, 1) := sorry
theorem dX2_lock_45 : decode cX2_lock 45 = .ok (.invokevirtual 221, 3) := sorry
theorem dX2_lock_48 : decode cX2_lock 48 = .ok (.invokevirtual 103, 3) := sorry
theorem dX2_lock_51 : decode cX2_lock 51 = .ok (.astore 4, 2) := sorry
theorem dX2_lock_53 : decode cX2_lock 53 = .ok (.aload 4, 2) := sorry
theorem dX2_lock_55 : decode cX2_lock 55 = .ok (.invokevirtual 106, 3) := sorry
theorem dX2_lock_58 : decode cX2_lock 58 = .ok (.ldc2_w 110, 3) := sorry
theorem dX2_lock_61 : decode cX2_lock 61 = .ok (.lcmp, 1) := sorry
theorem dX2_lock_62 : decode cX2_lock 62 = .ok (.ifCond .ge 6, 3) := sorry
theorem dX2_lock_65 : decode cX2_lock 65 = .ok (.bipush (-4), 2) := sorry
theorem dX2_lock_67 : decode cX2_lock 67 = .ok (.ireturn, 1) := sorry
theorem dX2_lock_68 : decode cX2_lock 68 = .ok (.aload_n 0, 1) := sorry
theorem dX2_lock_69 : decode cX2_lock 69 = .ok (.getfield 18, 3) := sorry
theorem dX2_lock_72 : decode cX2_lock 72 = .ok (.new 64, 3) := sorry
theorem dX2_lock_75 : decode cX2_lock 75 = .ok (.dup, 1) := sorry
theorem dX2_lock_76 : decode cX2_lock 76 = .ok (.aload_n 0, 1) := sorry
theorem dX2_lock_77 : decode cX2_lock 77 = .ok (.getfield 73, 3) := sorry
theorem dX2_lock_80 : decode cX2_lock 80 = .ok (.iload_n 1, 1) := sorry
theorem dX2_lock_81 : decode cX2_lock 81 = .ok (.invokevirtual 225, 3) := sorry
theorem dX2_lock_84 : decode cX2_lock 84 = .ok (.aload 4, 2) := sorry
theorem dX2_lock_86 : decode cX2_lock 86 = .ok (.invokevirtual 112, 3) := sorry
theorem dX2_lock_89 : decode cX2_lock 89 = .ok (.lload_n 2, 1) := sorry
theorem dX2_lock_90 : decode cX2_lock 90 = .ok (.invokespecial 228, 3) := sorry
theorem dX2_lock_93 : decode cX2_lock 93 = .ok (.invokevirtual 66, 3) := sorry
theorem dX2_lock_96 : decode cX2_lock 96 = .ok (.aload_n 0, 1) := sorry
theorem dX2_lock_97 : decode cX2_lock 97 = .ok (.getfield 18, 3) := sorry
theorem dX2_lock_100 : decode cX2_lock 100 = .ok (.invokevirtual 218, 3) := sorry
theorem dX2_lock_103 : decode cX2_lock 103 = .ok (.iconst 1, 1) := sorry
theorem dX2_lock_104 : decode cX2_lock 104 = .ok (.isub, 1) := sorry
theorem dX2_lock_105 : decode cX2_lock 105 = .ok (.ireturn, 1) := sorry
abbrev cX2_drop : ByteArray := prog_11_method_18_code
def yX2_drop : MethodName := ⟨RX2, "drop", "(I)I"⟩
def dkwX2_drop_2 : List UInt8 := [132, 2, 1, 167, 255, 218, 28, 172]
abbrev dktX2_drop_2 : List UInt8 := dkwX2_drop_2 ++ []
def dkwX2_drop_1 : List UInt8 := [185, 0, 60, 1, 0, 192, 0, 64, 27, 182, 0, 243, 154, 0, 6, 167, 255, 230, 45, 185, 0, 247, 1, 0]
abbrev dktX2_drop_1 : List UInt8 := dkwX2_drop_1 ++ dktX2_drop_2
def dkwX2_drop_0 : List UInt8 := [3, 61, 42, 180, 0, 18, 182, 0, 50, 78, 45, 185, 0, 54, 1, 0, 153, 0, 35, 42, 45]
abbrev dktX2_drop_0 : List UInt8 := dkwX2_drop_0 ++ dktX2_drop_1
theorem dksX2_drop_0 : cX2_drop.data.toList.drop 0 = dktX2_drop_0 := sorry
theorem dksX2_drop_1 : cX2_drop.data.toList.drop 21 = dktX2_drop_1 := sorry
theorem dksX2_drop_2 : cX2_drop.data.toList.drop 45 = dktX2_drop_2 := sorry
theorem dX2_drop_0 : decode cX2_drop 0 = .ok (.iconst 0, 1) := sorry
theorem dX2_drop_1 : decode cX2_drop 1 = .ok (.istore_n 2, 1) := sorry
theorem dX2_drop_2 : decode cX2_drop 2 = .ok (.aload_n 0, 1) := sorry
theorem dX2_drop_3 : decode cX2_drop 3 = .ok (.getfield 18, 3) := sorry
theorem dX2_drop_6 : decode cX2_drop 6 = .ok (.invokevirtual 50, 3) := sorry
theorem dX2_drop_9 : decode cX2_drop 9 = .ok (.astore_n 3, 1) := sorry
theorem dX2_drop_10 : decode cX2_drop 10 = .ok (.aload_n 3, 1) := sorry
theorem dX2_drop_11 : decode cX2_drop 11 = .ok (.invokeinterface 54 1, 5) := sorry
theorem dX2_drop_16 : decode cX2_drop 16 = .ok (.ifCond .eq 35, 3) := sorry
theorem dX2_drop_19 : decode cX2_drop 19 = .ok (.aload_n 0, 1) := sorry
theorem dX2_drop_20 : decode cX2_drop 20 = .ok (.aload_n 3, 1) := sorry
theorem dX2_drop_21 : decode cX2_drop 21 = .ok (.invokeinterface 60 1, 5) := sorry
theorem dX2_drop_26 : decode cX2_drop 26 = .ok (.checkcast 64, 3) := sorry
theorem dX2_drop_29 : decode cX2_drop 29 = .ok (.iload_n 1, 1) := sorry
theorem dX2_drop_30 : decode cX2_drop 30 = .ok (.invokevirtual 243, 3) := sorry
theorem dX2_drop_33 : decode cX2_drop 33 = .ok (.ifCond .ne 6, 3) := sorry
theorem dX2_drop_36 : decode cX2_drop 36 = .ok (.goto (-26), 3) := sorry
theorem dX2_drop_39 : decode cX2_drop 39 = .ok (.aload_n 3, 1) := sorry
theorem dX2_drop_40 : decode cX2_drop 40 = .ok (.invokeinterface 247 1, 5) := sorry
theorem dX2_drop_45 : decode cX2_drop 45 = .ok (.iinc 2 1, 3) := sorry
theorem dX2_drop_48 : decode cX2_drop 48 = .ok (.goto (-38), 3) := sorry
theorem dX2_drop_51 : decode cX2_drop 51 = .ok (.iload_n 2, 1) := sorry
theorem dX2_drop_52 : decode cX2_drop 52 = .ok (.ireturn, 1) := sorry
abbrev cX2_restart : ByteArray := prog_11_method_23_code
def yX2_restart : MethodName := ⟨RX2, "restart", "(I)I"⟩
def dkwX2_restart_1 : List UInt8 := [182, 1, 2, 167, 0, 7, 42, 182, 1, 5, 172]
abbrev dktX2_restart_1 : List UInt8 := dkwX2_restart_1 ++ []
def dkwX2_restart_0 : List UInt8 := [27, 154, 0, 17, 42, 182, 1, 0, 153, 0, 7, 3, 167, 0, 5, 16, 252, 172, 27, 4, 160, 0, 10, 42]
abbrev dktX2_restart_0 : List UInt8 := dkwX2_restart_0 ++ dktX2_restart_1
theorem dksX2_restart_0 : cX2_restart.data.toList.drop 0 = dktX2_restart_0 := sorry
theorem dksX2_restart_1 : cX2_restart.data.toList.drop 24 = dktX2_restart_1 := sorry
theorem dX2_restart_0 : decode cX2_restart 0 = .ok (.iload_n 1, 1) := sorry
theorem dX2_restart_1 : decode cX2_restart 1 = .ok (.ifCond .ne 17, 3) := sorry
theorem dX2_restart_4 : decode cX2_restart 4 = .ok (.aload_n 0, 1) := sorry
theorem dX2_restart_5 : decode cX2_restart 5 = .ok (.invokevirtual 256, 3) := sorry
theorem dX2_restart_8 : decode cX2_restart 8 = .ok (.ifCond .eq 7, 3) := sorry
theorem dX2_restart_11 : decode cX2_restart 11 = .ok (.iconst 0, 1) := sorry
theorem dX2_restart_12 : decode cX2_restart 12 = .ok (.goto 5, 3) := sorry
theorem dX2_restart_15 : decode cX2_restart 15 = .ok (.bipush (-4), 2) := sorry
theorem dX2_restart_17 : decode cX2_restart 17 = .ok (.ireturn, 1) := sorry
theorem dX2_restart_18 : decode cX2_restart 18 = .ok (.iload_n 1, 1) := sorry
theorem dX2_restart_19 : decode cX2_restart 19 = .ok (.iconst 1, 1) := sorry
theorem dX2_restart_20 : decode cX2_restart 20 = .ok (.if_icmp .ne 10, 3) := sorry
theorem dX2_restart_23 : decode cX2_restart 23 = .ok (.aload_n 0, 1) := sorry
theorem dX2_restart_24 : decode cX2_restart 24 = .ok (.invokevirtual 258, 3) := sorry
theorem dX2_restart_27 : decode cX2_restart 27 = .ok (.goto 7, 3) := sorry
theorem dX2_restart_30 : decode cX2_restart 30 = .ok (.aload_n 0, 1) := sorry
theorem dX2_restart_31 : decode cX2_restart 31 = .ok (.invokevirtual 261, 3) := sorry
theorem dX2_restart_34 : decode cX2_restart 34 = .ok (.ireturn, 1) := sorry
abbrev cX2_restartsByOne : ByteArray := prog_11_method_21_code
def yX2_restartsByOne : MethodName := ⟨RX2, "restartsByOne", "()I"⟩
def dkwX2_restartsByOne_1 : List UInt8 := [182, 0, 122, 153, 0, 7, 4, 167, 0, 5, 16, 252, 172]
abbrev dktX2_restartsByOne_1 : List UInt8 := dkwX2_restartsByOne_1 ++ []
def dkwX2_restartsByOne_0 : List UInt8 := [42, 182, 0, 250, 60, 27, 2, 160, 0, 6, 16, 251, 172, 42, 42, 180, 0, 73, 27, 182, 0, 221]
abbrev dktX2_restartsByOne_0 : List UInt8 := dkwX2_restartsByOne_0 ++ dktX2_restartsByOne_1
theorem dksX2_restartsByOne_0 : cX2_restartsByOne.data.toList.drop 0 = dktX2_restartsByOne_0 := sorry
theorem dksX2_restartsByOne_1 : cX2_restartsByOne.data.toList.drop 22 = dktX2_restartsByOne_1 := sorry
theorem dX2_restartsByOne_0 : decode cX2_restartsByOne 0 = .ok (.aload_n 0, 1) := sorry
theorem dX2_restartsByOne_1 : decode cX2_restartsByOne 1 = .ok (.invokevirtual 250, 3) := sorry
theorem dX2_restartsByOne_4 : decode cX2_restartsByOne 4 = .ok (.istore_n 1, 1) := sorry
theorem dX2_restartsByOne_5 : decode cX2_restartsByOne 5 = .ok (.iload_n 1, 1) := sorry
theorem dX2_restartsByOne_6 : decode cX2_restartsByOne 6 = .ok (.iconst (-1), 1) := sorry
theorem dX2_restartsByOne_7 : decode cX2_restartsByOne 7 = .ok (.if_icmp .ne 6, 3) := sorry
theorem dX2_restartsByOne_10 : decode cX2_restartsByOne 10 = .ok (.bipush (-5), 2) := sorry
theorem dX2_restartsByOne_12 : decode cX2_restartsByOne 12 = .ok (.ireturn, 1) := sorry
theorem dX2_restartsByOne_13 : decode cX2_restartsByOne 13 = .ok (.aload_n 0, 1) := sorry
theorem dX2_restartsByOne_14 : decode cX2_restartsByOne 14 = .ok (.aload_n 0, 1) := sorry
theorem dX2_restartsByOne_15 : decode cX2_restartsByOne 15 = .ok (.getfield 73, 3) := sorry
theorem dX2_restartsByOne_18 : decode cX2_restartsByOne 18 = .ok (.iload_n 1, 1) := sorry
theorem dX2_restartsByOne_19 : decode cX2_restartsByOne 19 = .ok (.invokevirtual 221, 3) := sorry
theorem dX2_restartsByOne_22 : decode cX2_restartsByOne 22 = .ok (.invokevirtual 122, 3) := sorry
theorem dX2_restartsByOne_25 : decode cX2_restartsByOne 25 = .ok (.ifCond .eq 7, 3) := sorry
theorem dX2_restartsByOne_28 : decode cX2_restartsByOne 28 = .ok (.iconst 1, 1) := sorry
theorem dX2_restartsByOne_29 : decode cX2_restartsByOne 29 = .ok (.goto 5, 3) := sorry
theorem dX2_restartsByOne_32 : decode cX2_restartsByOne 32 = .ok (.bipush (-4), 2) := sorry
theorem dX2_restartsByOne_34 : decode cX2_restartsByOne 34 = .ok (.ireturn, 1) := sorry
abbrev cX2_wideWithLeast : ByteArray := prog_11_method_20_code
def yX2_wideWithLeast : MethodName := ⟨RX2, "wideWithLeast", "()I"⟩
def dkwX2_wideWithLeast_2 : List UInt8 := [180, 0, 73, 27, 182, 0, 214, 148, 156, 0, 5, 28, 60, 132, 2, 1, 167, 255, 198, 27, 172]
abbrev dktX2_wideWithLeast_2 : List UInt8 := dkwX2_wideWithLeast_2 ++ []
def dkwX2_wideWithLeast_1 : List UInt8 := [180, 0, 29, 133, 148, 158, 0, 30, 27, 2, 159, 0, 23, 42, 180, 0, 73, 28, 182, 0, 214, 42]
abbrev dktX2_wideWithLeast_1 : List UInt8 := dkwX2_wideWithLeast_1 ++ dktX2_wideWithLeast_2
def dkwX2_wideWithLeast_0 : List UInt8 := [2, 60, 3, 61, 28, 42, 180, 0, 73, 180, 0, 130, 162, 0, 53, 42, 180, 0, 73, 28, 182, 0, 214, 42]
abbrev dktX2_wideWithLeast_0 : List UInt8 := dkwX2_wideWithLeast_0 ++ dktX2_wideWithLeast_1
theorem dksX2_wideWithLeast_0 : cX2_wideWithLeast.data.toList.drop 0 = dktX2_wideWithLeast_0 := sorry
theorem dksX2_wideWithLeast_1 : cX2_wideWithLeast.data.toList.drop 24 = dktX2_wideWithLeast_1 := sorry
theorem dksX2_wideWithLeast_2 : cX2_wideWithLeast.data.toList.drop 46 = dktX2_wideWithLeast_2 := sorry
theorem dX2_wideWithLeast_0 : decode cX2_wideWithLeast 0 = .ok (.iconst (-1), 1) := sorry
theorem dX2_wideWithLeast_1 : decode cX2_wideWithLeast 1 = .ok (.istore_n 1, 1) := sorry
theorem dX2_wideWithLeast_2 : decode cX2_wideWithLeast 2 = .ok (.iconst 0, 1) := sorry
theorem dX2_wideWithLeast_3 : decode cX2_wideWithLeast 3 = .ok (.istore_n 2, 1) := sorry
theorem dX2_wideWithLeast_4 : decode cX2_wideWithLeast 4 = .ok (.iload_n 2, 1) := sorry
theorem dX2_wideWithLeast_5 : decode cX2_wideWithLeast 5 = .ok (.aload_n 0, 1) := sorry
theorem dX2_wideWithLeast_6 : decode cX2_wideWithLeast 6 = .ok (.getfield 73, 3) := sorry
theorem dX2_wideWithLeast_9 : decode cX2_wideWithLeast 9 = .ok (.getfield 130, 3) := sorry
theorem dX2_wideWithLeast_12 : decode cX2_wideWithLeast 12 = .ok (.if_icmp .ge 53, 3) := sorry
theorem dX2_wideWithLeast_15 : decode cX2_wideWithLeast 15 = .ok (.aload_n 0, 1) := sorry
theorem dX2_wideWithLeast_16 : decode cX2_wideWithLeast 16 = .ok (.getfield 73, 3) := sorry
theorem dX2_wideWithLeast_19 : decode cX2_wideWithLeast 19 = .ok (.iload_n 2, 1) := sorry
theorem dX2_wideWithLeast_20 : decode cX2_wideWithLeast 20 = .ok (.invokevirtual 214, 3) := sorry
theorem dX2_wideWithLeast_23 : decode cX2_wideWithLeast 23 = .ok (.aload_n 0, 1) := sorry
theorem dX2_wideWithLeast_24 : decode cX2_wideWithLeast 24 = .ok (.getfield 29, 3) := sorry
theorem dX2_wideWithLeast_27 : decode cX2_wideWithLeast 27 = .ok (.i2l, 1) := sorry
theorem dX2_wideWithLeast_28 : decode cX2_wideWithLeast 28 = .ok (.lcmp, 1) := sorry
theorem dX2_wideWithLeast_29 : decode cX2_wideWithLeast 29 = .ok (.ifCond .le 30, 3) := sorry
theorem dX2_wideWithLeast_32 : decode cX2_wideWithLeast 32 = .ok (.iload_n 1, 1) := sorry
theorem dX2_wideWithLeast_33 : decode cX2_wideWithLeast 33 = .ok (.iconst (-1), 1) := sorry
theorem dX2_wideWithLeast_34 : decode cX2_wideWithLeast 34 = .ok (.if_icmp .eq 23, 3) := sorry
theorem dX2_wideWithLeast_37 : decode cX2_wideWithLeast 37 = .ok (.aload_n 0, 1) := sorry
theorem dX2_wideWithLeast_38 : decode cX2_wideWithLeast 38 = .ok (.getfield 73, 3) := sorry
theorem dX2_wideWithLeast_41 : decode cX2_wideWithLeast 41 = .ok (.iload_n 2, 1) := sorry
theorem dX2_wideWithLeast_42 : decode cX2_wideWithLeast 42 = .ok (.invokevirtual 214, 3) := sorry
theorem dX2_wideWithLeast_45 : decode cX2_wideWithLeast 45 = .ok (.aload_n 0, 1) := sorry
theorem dX2_wideWithLeast_46 : decode cX2_wideWithLeast 46 = .ok (.getfield 73, 3) := sorry
theorem dX2_wideWithLeast_49 : decode cX2_wideWithLeast 49 = .ok (.iload_n 1, 1) := sorry
theorem dX2_wideWithLeast_50 : decode cX2_wideWithLeast 50 = .ok (.invokevirtual 214, 3) := sorry
theorem dX2_wideWithLeast_53 : decode cX2_wideWithLeast 53 = .ok (.lcmp, 1) := sorry
theorem dX2_wideWithLeast_54 : decode cX2_wideWithLeast 54 = .ok (.ifCond .ge 5, 3) := sorry
theorem dX2_wideWithLeast_57 : decode cX2_wideWithLeast 57 = .ok (.iload_n 2, 1) := sorry
theorem dX2_wideWithLeast_58 : decode cX2_wideWithLeast 58 = .ok (.istore_n 1, 1) := sorry
theorem dX2_wideWithLeast_59 : decode cX2_wideWithLeast 59 = .ok (.iinc 2 1, 3) := sorry
theorem dX2_wideWithLeast_62 : decode cX2_wideWithLeast 62 = .ok (.goto (-58), 3) := sorry
theorem dX2_wideWithLeast_65 : decode cX2_wideWithLeast 65 = .ok (.iload_n 1, 1) := sorry
theorem dX2_wideWithLeast_66 : decode cX2_wideWithLeast 66 = .ok (.ireturn, 1) := sorry
abbrev cX2_restartsBySum : ByteArray := prog_11_method_22_code
def yX2_restartsBySum : MethodName := ⟨RX2, "restartsBySum", "()I"⟩
def dkwX2_restartsBySum_4 : List UInt8 := [167, 0, 5, 16, 252, 172]
abbrev dktX2_restartsBySum_4 : List UInt8 := dkwX2_restartsBySum_4 ++ []
def dkwX2_restartsBySum_3 : List UInt8 := [132, 3, 1, 167, 255, 191, 28, 154, 0, 6, 16, 251, 172, 42, 43, 182, 0, 122, 153, 0, 7, 28]
abbrev dktX2_restartsBySum_3 : List UInt8 := dkwX2_restartsBySum_3 ++ dktX2_restartsBySum_4
def dkwX2_restartsBySum_2 : List UInt8 := [182, 0, 221, 167, 0, 15, 43, 42, 180, 0, 73, 29, 182, 0, 221, 182, 0, 253, 76, 132, 2, 1]
abbrev dktX2_restartsBySum_2 : List UInt8 := dkwX2_restartsBySum_2 ++ dktX2_restartsBySum_3
def dkwX2_restartsBySum_1 : List UInt8 := [182, 0, 214, 42, 180, 0, 29, 133, 148, 157, 0, 6, 167, 0, 34, 43, 199, 0, 14, 42, 180, 0, 73, 29]
abbrev dktX2_restartsBySum_1 : List UInt8 := dkwX2_restartsBySum_1 ++ dktX2_restartsBySum_2
def dkwX2_restartsBySum_0 : List UInt8 := [1, 76, 3, 61, 3, 62, 29, 42, 180, 0, 73, 180, 0, 130, 162, 0, 60, 42, 180, 0, 73, 29]
abbrev dktX2_restartsBySum_0 : List UInt8 := dkwX2_restartsBySum_0 ++ dktX2_restartsBySum_1
theorem dksX2_restartsBySum_0 : cX2_restartsBySum.data.toList.drop 0 = dktX2_restartsBySum_0 := sorry
theorem dksX2_restartsBySum_1 : cX2_restartsBySum.data.toList.drop 22 = dktX2_restartsBySum_1 := sorry
theorem dksX2_restartsBySum_2 : cX2_restartsBySum.data.toList.drop 46 = dktX2_restartsBySum_2 := sorry
theorem dksX2_restartsBySum_3 : cX2_restartsBySum.data.toList.drop 68 = dktX2_restartsBySum_3 := sorry
theorem dksX2_restartsBySum_4 : cX2_restartsBySum.data.toList.drop 90 = dktX2_restartsBySum_4 := sorry
theorem dX2_restartsBySum_0 : decode cX2_restartsBySum 0 = .ok (.aconst_null, 1) := sorry
theorem dX2_restartsBySum_1 : decode cX2_restartsBySum 1 = .ok (.astore_n 1, 1) := sorry
theorem dX2_restartsBySum_2 : decode cX2_restartsBySum 2 = .ok (.iconst 0, 1) := sorry
theorem dX2_restartsBySum_3 : decode cX2_restartsBySum 3 = .ok (.istore_n 2, 1) := sorry
theorem dX2_restartsBySum_4 : decode cX2_restartsBySum 4 = .ok (.iconst 0, 1) := sorry
theorem dX2_restartsBySum_5 : decode cX2_restartsBySum 5 = .ok (.istore_n 3, 1) := sorry
theorem dX2_restartsBySum_6 : decode cX2_restartsBySum 6 = .ok (.iload_n 3, 1) := sorry
theorem dX2_restartsBySum_7 : decode cX2_restartsBySum 7 = .ok (.aload_n 0, 1) := sorry
theorem dX2_restartsBySum_8 : decode cX2_restartsBySum 8 = .ok (.getfield 73, 3) := sorry
theorem dX2_restartsBySum_11 : decode cX2_restartsBySum 11 = .ok (.getfield 130, 3) := sorry
theorem dX2_restartsBySum_14 : decode cX2_restartsBySum 14 = .ok (.if_icmp .ge 60, 3) := sorry
theorem dX2_restartsBySum_17 : decode cX2_restartsBySum 17 = .ok (.aload_n 0, 1) := sorry
theorem dX2_restartsBySum_18 : decode cX2_restartsBySum 18 = .ok (.getfield 73, 3) := sorry
theorem dX2_restartsBySum_21 : decode cX2_restartsBySum 21 = .ok (.iload_n 3, 1) := sorry
theorem dX2_restartsBySum_22 : decode cX2_restartsBySum 22 = .ok (.invokevirtual 214, 3) := sorry
theorem dX2_restartsBySum_25 : decode cX2_restartsBySum 25 = .ok (.aload_n 0, 1) := sorry
theorem dX2_restartsBySum_26 : decode cX2_restartsBySum 26 = .ok (.getfield 29, 3) := sorry
theorem dX2_restartsBySum_29 : decode cX2_restartsBySum 29 = .ok (.i2l, 1) := sorry
theorem dX2_restartsBySum_30 : decode cX2_restartsBySum 30 = .ok (.lcmp, 1) := sorry
theorem dX2_restartsBySum_31 : decode cX2_restartsBySum 31 = .ok (.ifCond .gt 6, 3) := sorry
theorem dX2_restartsBySum_34 : decode cX2_restartsBySum 34 = .ok (.goto 34, 3) := sorry
theorem dX2_restartsBySum_37 : decode cX2_restartsBySum 37 = .ok (.aload_n 1, 1) := sorry
theorem dX2_restartsBySum_38 : decode cX2_restartsBySum 38 = .ok (.ifnonnull 14, 3) := sorry
theorem dX2_restartsBySum_41 : decode cX2_restartsBySum 41 = .ok (.aload_n 0, 1) := sorry
theorem dX2_restartsBySum_42 : decode cX2_restartsBySum 42 = .ok (.getfield 73, 3) := sorry
theorem dX2_restartsBySum_45 : decode cX2_restartsBySum 45 = .ok (.iload_n 3, 1) := sorry
theorem dX2_restartsBySum_46 : decode cX2_restartsBySum 46 = .ok (.invokevirtual 221, 3) := sorry
theorem dX2_restartsBySum_49 : decode cX2_restartsBySum 49 = .ok (.goto 15, 3) := sorry
theorem dX2_restartsBySum_52 : decode cX2_restartsBySum 52 = .ok (.aload_n 1, 1) := sorry
theorem dX2_restartsBySum_53 : decode cX2_restartsBySum 53 = .ok (.aload_n 0, 1) := sorry
theorem dX2_restartsBySum_54 : decode cX2_restartsBySum 54 = .ok (.getfield 73, 3) := sorry
theorem dX2_restartsBySum_57 : decode cX2_restartsBySum 57 = .ok (.iload_n 3, 1) := sorry
theorem dX2_restartsBySum_58 : decode cX2_restartsBySum 58 = .ok (.invokevirtual 221, 3) := sorry
theorem dX2_restartsBySum_61 : decode cX2_restartsBySum 61 = .ok (.invokevirtual 253, 3) := sorry
theorem dX2_restartsBySum_64 : decode cX2_restartsBySum 64 = .ok (.astore_n 1, 1) := sorry
theorem dX2_restartsBySum_65 : decode cX2_restartsBySum 65 = .ok (.iinc 2 1, 3) := sorry
theorem dX2_restartsBySum_68 : decode cX2_restartsBySum 68 = .ok (.iinc 3 1, 3) := sorry
theorem dX2_restartsBySum_71 : decode cX2_restartsBySum 71 = .ok (.goto (-65), 3) := sorry
theorem dX2_restartsBySum_74 : decode cX2_restartsBySum 74 = .ok (.iload_n 2, 1) := sorry
theorem dX2_restartsBySum_75 : decode cX2_restartsBySum 75 = .ok (.ifCond .ne 6, 3) := sorry
theorem dX2_restartsBySum_78 : decode cX2_restartsBySum 78 = .ok (.bipush (-5), 2) := sorry
theorem dX2_restartsBySum_80 : decode cX2_restartsBySum 80 = .ok (.ireturn, 1) := sorry
theorem dX2_restartsBySum_81 : decode cX2_restartsBySum 81 = .ok (.aload_n 0, 1) := sorry
theorem dX2_restartsBySum_82 : decode cX2_restartsBySum 82 = .ok (.aload_n 1, 1) := sorry
theorem dX2_restartsBySum_83 : decode cX2_restartsBySum 83 = .ok (.invokevirtual 122, 3) := sorry
theorem dX2_restartsBySum_86 : decode cX2_restartsBySum 86 = .ok (.ifCond .eq 7, 3) := sorry
theorem dX2_restartsBySum_89 : decode cX2_restartsBySum 89 = .ok (.iload_n 2, 1) := sorry
theorem dX2_restartsBySum_90 : decode cX2_restartsBySum 90 = .ok (.goto 5, 3) := sorry
theorem dX2_restartsBySum_93 : decode cX2_restartsBySum 93 = .ok (.bipush (-4), 2) := sorry
theorem dX2_restartsBySum_95 : decode cX2_restartsBySum 95 = .ok (.ireturn, 1) := sorry
abbrev cX2_sweep : ByteArray := prog_11_method_25_code
def yX2_sweep : MethodName := ⟨RX2, "sweep", "(I)I"⟩
def dkwX2_sweep_2 : List UInt8 := [155, 0, 7, 4, 167, 0, 4, 3, 62, 132, 4, 1, 167, 255, 206, 28, 172]
abbrev dktX2_sweep_2 : List UInt8 := dkwX2_sweep_2 ++ []
def dkwX2_sweep_1 : List UInt8 := [54, 5, 28, 42, 182, 1, 17, 96, 61, 42, 5, 182, 1, 20, 156, 0, 11, 42, 3, 182, 1, 20]
abbrev dktX2_sweep_1 : List UInt8 := dkwX2_sweep_1 ++ dktX2_sweep_2
def dkwX2_sweep_0 : List UInt8 := [3, 61, 4, 62, 3, 54, 4, 21, 4, 27, 162, 0, 50, 29, 153, 0, 46, 42, 16, 6, 182, 1, 15]
abbrev dktX2_sweep_0 : List UInt8 := dkwX2_sweep_0 ++ dktX2_sweep_1
theorem dksX2_sweep_0 : cX2_sweep.data.toList.drop 0 = dktX2_sweep_0 := sorry
theorem dksX2_sweep_1 : cX2_sweep.data.toList.drop 23 = dktX2_sweep_1 := sorry
theorem dksX2_sweep_2 : cX2_sweep.data.toList.drop 45 = dktX2_sweep_2 := sorry
theorem dX2_sweep_0 : decode cX2_sweep 0 = .ok (.iconst 0, 1) := sorry
theorem dX2_sweep_1 : decode cX2_sweep 1 = .ok (.istore_n 2, 1) := sorry
theorem dX2_sweep_2 : decode cX2_sweep 2 = .ok (.iconst 1, 1) := sorry
theorem dX2_sweep_3 : decode cX2_sweep 3 = .ok (.istore_n 3, 1) := sorry
theorem dX2_sweep_4 : decode cX2_sweep 4 = .ok (.iconst 0, 1) := sorry
theorem dX2_sweep_5 : decode cX2_sweep 5 = .ok (.istore 4, 2) := sorry
theorem dX2_sweep_7 : decode cX2_sweep 7 = .ok (.iload 4, 2) := sorry
theorem dX2_sweep_9 : decode cX2_sweep 9 = .ok (.iload_n 1, 1) := sorry
theorem dX2_sweep_10 : decode cX2_sweep 10 = .ok (.if_icmp .ge 50, 3) := sorry
theorem dX2_sweep_13 : decode cX2_sweep 13 = .ok (.iload_n 3, 1) := sorry
theorem dX2_sweep_14 : decode cX2_sweep 14 = .ok (.ifCond .eq 46, 3) := sorry
theorem dX2_sweep_17 : decode cX2_sweep 17 = .ok (.aload_n 0, 1) := sorry
theorem dX2_sweep_18 : decode cX2_sweep 18 = .ok (.bipush 6, 2) := sorry
theorem dX2_sweep_20 : decode cX2_sweep 20 = .ok (.invokevirtual 271, 3) := sorry
theorem dX2_sweep_23 : decode cX2_sweep 23 = .ok (.istore 5, 2) := sorry
theorem dX2_sweep_25 : decode cX2_sweep 25 = .ok (.iload_n 2, 1) := sorry
theorem dX2_sweep_26 : decode cX2_sweep 26 = .ok (.aload_n 0, 1) := sorry
theorem dX2_sweep_27 : decode cX2_sweep 27 = .ok (.invokevirtual 273, 3) := sorry
theorem dX2_sweep_30 : decode cX2_sweep 30 = .ok (.iadd, 1) := sorry
theorem dX2_sweep_31 : decode cX2_sweep 31 = .ok (.istore_n 2, 1) := sorry
theorem dX2_sweep_32 : decode cX2_sweep 32 = .ok (.aload_n 0, 1) := sorry
theorem dX2_sweep_33 : decode cX2_sweep 33 = .ok (.iconst 2, 1) := sorry
theorem dX2_sweep_34 : decode cX2_sweep 34 = .ok (.invokevirtual 276, 3) := sorry
theorem dX2_sweep_37 : decode cX2_sweep 37 = .ok (.ifCond .ge 11, 3) := sorry
theorem dX2_sweep_40 : decode cX2_sweep 40 = .ok (.aload_n 0, 1) := sorry
theorem dX2_sweep_41 : decode cX2_sweep 41 = .ok (.iconst 0, 1) := sorry
theorem dX2_sweep_42 : decode cX2_sweep 42 = .ok (.invokevirtual 276, 3) := sorry
theorem dX2_sweep_45 : decode cX2_sweep 45 = .ok (.ifCond .lt 7, 3) := sorry
theorem dX2_sweep_48 : decode cX2_sweep 48 = .ok (.iconst 1, 1) := sorry
theorem dX2_sweep_49 : decode cX2_sweep 49 = .ok (.goto 4, 3) := sorry
theorem dX2_sweep_52 : decode cX2_sweep 52 = .ok (.iconst 0, 1) := sorry
theorem dX2_sweep_53 : decode cX2_sweep 53 = .ok (.istore_n 3, 1) := sorry
theorem dX2_sweep_54 : decode cX2_sweep 54 = .ok (.iinc 4 1, 3) := sorry
theorem dX2_sweep_57 : decode cX2_sweep 57 = .ok (.goto (-50), 3) := sorry
theorem dX2_sweep_60 : decode cX2_sweep 60 = .ok (.iload_n 2, 1) := sorry
theorem dX2_sweep_61 : decode cX2_sweep 61 = .ok (.ireturn, 1) := sorry
abbrev cX2_locks : ByteArray := prog_11_method_24_code
def yX2_locks : MethodName := ⟨RX2, "locks", "()I"⟩
def dkwX2_locks_1 : List UInt8 := [4, 167, 0, 4, 3, 184, 1, 11, 96, 60, 132, 2, 1, 167, 255, 223, 27, 172]
abbrev dktX2_locks_1 : List UInt8 := dkwX2_locks_1 ++ []
def dkwX2_locks_0 : List UInt8 := [3, 60, 3, 61, 28, 42, 180, 0, 73, 180, 0, 130, 162, 0, 28, 27, 42, 28, 182, 1, 8, 155, 0, 7]
abbrev dktX2_locks_0 : List UInt8 := dkwX2_locks_0 ++ dktX2_locks_1
theorem dksX2_locks_0 : cX2_locks.data.toList.drop 0 = dktX2_locks_0 := sorry
theorem dksX2_locks_1 : cX2_locks.data.toList.drop 24 = dktX2_locks_1 := sorry
theorem dX2_locks_0 : decode cX2_locks 0 = .ok (.iconst 0, 1) := sorry
theorem dX2_locks_1 : decode cX2_locks 1 = .ok (.istore_n 1, 1) := sorry
theorem dX2_locks_2 : decode cX2_locks 2 = .ok (.iconst 0, 1) := sorry
theorem dX2_locks_3 : decode cX2_locks 3 = .ok (.istore_n 2, 1) := sorry
theorem dX2_locks_4 : decode cX2_locks 4 = .ok (.iload_n 2, 1) := sorry
theorem dX2_locks_5 : decode cX2_locks 5 = .ok (.aload_n 0, 1) := sorry
theorem dX2_locks_6 : decode cX2_locks 6 = .ok (.getfield 73, 3) := sorry
theorem dX2_locks_9 : decode cX2_locks 9 = .ok (.getfield 130, 3) := sorry
theorem dX2_locks_12 : decode cX2_locks 12 = .ok (.if_icmp .ge 28, 3) := sorry
theorem dX2_locks_15 : decode cX2_locks 15 = .ok (.iload_n 1, 1) := sorry
theorem dX2_locks_16 : decode cX2_locks 16 = .ok (.aload_n 0, 1) := sorry
theorem dX2_locks_17 : decode cX2_locks 17 = .ok (.iload_n 2, 1) := sorry
theorem dX2_locks_18 : decode cX2_locks 18 = .ok (.invokevirtual 264, 3) := sorry
theorem dX2_locks_21 : decode cX2_locks 21 = .ok (.ifCond .lt 7, 3) := sorry
theorem dX2_locks_24 : decode cX2_locks 24 = .ok (.iconst 1, 1) := sorry
theorem dX2_locks_25 : decode cX2_locks 25 = .ok (.goto 4, 3) := sorry
theorem dX2_locks_28 : decode cX2_locks 28 = .ok (.iconst 0, 1) := sorry
theorem dX2_locks_29 : decode cX2_locks 29 = .ok (.invokestatic 267, 3) := sorry
theorem dX2_locks_32 : decode cX2_locks 32 = .ok (.iadd, 1) := sorry
theorem dX2_locks_33 : decode cX2_locks 33 = .ok (.istore_n 1, 1) := sorry
theorem dX2_locks_34 : decode cX2_locks 34 = .ok (.iinc 2 1, 3) := sorry
theorem dX2_locks_37 : decode cX2_locks 37 = .ok (.goto (-33), 3) := sorry
theorem dX2_locks_40 : decode cX2_locks 40 = .ok (.iload_n 1, 1) := sorry
theorem dX2_locks_41 : decode cX2_locks 41 = .ok (.ireturn, 1) := sorry
abbrev cX2_isLocked : ByteArray := prog_11_method_19_code
def yX2_isLocked : MethodName := ⟨RX2, "isLocked", "(I)Z"⟩
def dkwX2_isLocked_2 : List UInt8 := [180, 0, 231, 32, 101, 184, 0, 133, 42, 180, 0, 29, 133, 148, 157, 0, 5, 4, 172, 167, 255, 213, 3, 172]
abbrev dktX2_isLocked_2 : List UInt8 := dkwX2_isLocked_2 ++ []
def dkwX2_isLocked_1 : List UInt8 := [185, 0, 54, 1, 0, 153, 0, 39, 25, 4, 185, 0, 60, 1, 0, 192, 0, 64, 58, 5, 25, 5]
abbrev dktX2_isLocked_1 : List UInt8 := dkwX2_isLocked_1 ++ dktX2_isLocked_2
def dkwX2_isLocked_0 : List UInt8 := [42, 180, 0, 73, 27, 182, 0, 225, 65, 42, 180, 0, 18, 182, 0, 50, 58, 4, 25, 4]
abbrev dktX2_isLocked_0 : List UInt8 := dkwX2_isLocked_0 ++ dktX2_isLocked_1
theorem dksX2_isLocked_0 : cX2_isLocked.data.toList.drop 0 = dktX2_isLocked_0 := sorry
theorem dksX2_isLocked_1 : cX2_isLocked.data.toList.drop 20 = dktX2_isLocked_1 := sorry
theorem dksX2_isLocked_2 : cX2_isLocked.data.toList.drop 42 = dktX2_isLocked_2 := sorry
theorem dX2_isLocked_0 : decode cX2_isLocked 0 = .ok (.aload_n 0, 1) := sorry
theorem dX2_isLocked_1 : decode cX2_isLocked 1 = .ok (.getfield 73, 3) := sorry
theorem dX2_isLocked_4 : decode cX2_isLocked 4 = .ok (.iload_n 1, 1) := sorry
theorem dX2_isLocked_5 : decode cX2_isLocked 5 = .ok (.invokevirtual 225, 3) := sorry
theorem dX2_isLocked_8 : decode cX2_isLocked 8 = .ok (.lstore_n 2, 1) := sorry
theorem dX2_isLocked_9 : decode cX2_isLocked 9 = .ok (.aload_n 0, 1) := sorry
theorem dX2_isLocked_10 : decode cX2_isLocked 10 = .ok (.getfield 18, 3) := sorry
theorem dX2_isLocked_13 : decode cX2_isLocked 13 = .ok (.invokevirtual 50, 3) := sorry
theorem dX2_isLocked_16 : decode cX2_isLocked 16 = .ok (.astore 4, 2) := sorry
theorem dX2_isLocked_18 : decode cX2_isLocked 18 = .ok (.aload 4, 2) := sorry
theorem dX2_isLocked_20 : decode cX2_isLocked 20 = .ok (.invokeinterface 54 1, 5) := sorry
theorem dX2_isLocked_25 : decode cX2_isLocked 25 = .ok (.ifCond .eq 39, 3) := sorry
theorem dX2_isLocked_28 : decode cX2_isLocked 28 = .ok (.aload 4, 2) := sorry
theorem dX2_isLocked_30 : decode cX2_isLocked 30 = .ok (.invokeinterface 60 1, 5) := sorry
theorem dX2_isLocked_35 : decode cX2_isLocked 35 = .ok (.checkcast 64, 3) := sorry
theorem dX2_isLocked_38 : decode cX2_isLocked 38 = .ok (.astore 5, 2) := sorry
theorem dX2_isLocked_40 : decode cX2_isLocked 40 = .ok (.aload 5, 2) := sorry
theorem dX2_isLocked_42 : decode cX2_isLocked 42 = .ok (.getfield 231, 3) := sorry
theorem dX2_isLocked_45 : decode cX2_isLocked 45 = .ok (.lload_n 2, 1) := sorry
theorem dX2_isLocked_46 : decode cX2_isLocked 46 = .ok (.lsub, 1) := sorry
theorem dX2_isLocked_47 : decode cX2_isLocked 47 = .ok (.invokestatic 133, 3) := sorry
theorem dX2_isLocked_50 : decode cX2_isLocked 50 = .ok (.aload_n 0, 1) := sorry
theorem dX2_isLocked_51 : decode cX2_isLocked 51 = .ok (.getfield 29, 3) := sorry
theorem dX2_isLocked_54 : decode cX2_isLocked 54 = .ok (.i2l, 1) := sorry
theorem dX2_isLocked_55 : decode cX2_isLocked 55 = .ok (.lcmp, 1) := sorry
theorem dX2_isLocked_56 : decode cX2_isLocked 56 = .ok (.ifCond .gt 5, 3) := sorry
theorem dX2_isLocked_59 : decode cX2_isLocked 59 = .ok (.iconst 1, 1) := sorry
theorem dX2_isLocked_60 : decode cX2_isLocked 60 = .ok (.ireturn, 1) := sorry
theorem dX2_isLocked_61 : decode cX2_isLocked 61 = .ok (.goto (-43), 3) := sorry
theorem dX2_isLocked_64 : decode cX2_isLocked 64 = .ok (.iconst 0, 1) := sorry
theorem dX2_isLocked_65 : decode cX2_isLocked 65 = .ok (.ireturn, 1) := sorry
theorem q131 : (Jvm.Cond.initialized "KrylovLaboratory$State") ∈ lw_all := sorry
theorem q196 : (Jvm.Cond.instantiable "KrylovLaboratory$State" (8 : Nat)) ∈ lw_all := sorry
theorem q198 : (Jvm.Cond.instanceMethod ({ cls := "KrylovLaboratory$State", name := "<init>", desc := "(I)V" } : Jvm.MethodName)) ∈ lw_all := sorry
theorem q199 : (Jvm.Cond.code ({ cls := "KrylovLaboratory$State", name := "<init>", desc := "(I)V" } : Jvm.MethodName) prog_11_method_1_code (3 : Nat) (Option.none : Option Jvm.ClassFile.FieldType)) ∈ lw_all := sorry
theorem q200 : (Jvm.Cond.methodLink "KrylovLaboratory$State" (3 : Nat) ({ cls := "java/lang/Object", name := "<init>", desc := "()V" } : Jvm.MethodName)) ∈ lw_all := sorry
theorem q201 : (Jvm.Cond.classLink "KrylovLaboratory$State" (15 : Nat) "java/util/LinkedList") ∈ lw_all := sorry
theorem q203 : (Jvm.Cond.methodLink "KrylovLaboratory$State" (17 : Nat) ({ cls := "java/util/LinkedList", name := "<init>", desc := "()V" } : Jvm.MethodName)) ∈ lw_all := sorry
theorem q238 : (Jvm.Cond.classLink "KrylovLaboratory$State" (32 : Nat) "KrylovLaboratory$Matrix") ∈ lw_all := sorry
theorem q240 : (Jvm.Cond.methodLink "KrylovLaboratory$State" (34 : Nat) ({ cls := "KrylovLaboratory$Matrix", name := "<init>", desc := "(I)V" } : Jvm.MethodName)) ∈ lw_all := sorry
theorem q245 : (Jvm.Cond.fieldLinkNest "KrylovLaboratory$State" (82 : Nat) "KrylovLaboratory$Matrix" "order" "I" "KrylovLaboratory") ∈ lw_tbl := sorry
theorem q252 : (Jvm.Cond.fieldLink "KrylovLaboratory$State" (37 : Nat) "KrylovLaboratory$State" "matrix" "LKrylovLaboratory$Matrix;") ∈ lw_all := sorry
theorem q255 : (Jvm.Cond.fieldLink "KrylovLaboratory$State" (9 : Nat) "KrylovLaboratory$State" "start" "[I") ∈ lw_all := lw_g (lw_at lw_m1 126 rfl) rfl
theorem q257 : (Jvm.Cond.fieldLink "KrylovLaboratory$State" (18 : Nat) "KrylovLaboratory$State" "locked" "Ljava/util/LinkedList;") ∈ lw_all := sorry
theorem q259 : (Jvm.Cond.fieldLink "KrylovLaboratory$State" (22 : Nat) "KrylovLaboratory$State" "totals" "[I") ∈ lw_all := lw_g (lw_at lw_m1 130 rfl) rfl
theorem q261 : (Jvm.Cond.fieldLink "KrylovLaboratory$State" (70 : Nat) "KrylovLaboratory$State" "mode" "I") ∈ lw_all := sorry
theorem q264 : (Jvm.Cond.fieldLink "KrylovLaboratory$State" (25 : Nat) "KrylovLaboratory$State" "threshold" "I") ∈ lw_all := sorry
theorem q267 : (Jvm.Cond.fieldLink "KrylovLaboratory$State" (29 : Nat) "KrylovLaboratory$State" "tolerance" "I") ∈ lw_all := sorry
theorem q270 : (Jvm.Cond.fieldLink "KrylovLaboratory$State" (73 : Nat) "KrylovLaboratory$State" "space" "LKrylovLaboratory$Space;") ∈ lw_all := sorry
theorem q273 : (Jvm.Cond.lays "KrylovLaboratory$State" "KrylovLaboratory$State" "matrix" "LKrylovLaboratory$Matrix;") ∈ lw_all := sorry
theorem q274 : (Jvm.Cond.soleField "KrylovLaboratory$State" "matrix") ∈ lw_all := sorry
theorem q275 : (Jvm.Cond.laysFinal "KrylovLaboratory$State" "KrylovLaboratory$State" "start" "[I") ∈ lw_all := lw_g (lw_at lw_m1 146 rfl) rfl
theorem q276 : (Jvm.Cond.soleField "KrylovLaboratory$State" "start") ∈ lw_all := sorry
theorem q277 : (Jvm.Cond.laysFinal "KrylovLaboratory$State" "KrylovLaboratory$State" "locked" "Ljava/util/LinkedList;") ∈ lw_all := sorry
theorem q278 : (Jvm.Cond.soleField "KrylovLaboratory$State" "locked") ∈ lw_all := sorry
theorem q279 : (Jvm.Cond.laysFinal "KrylovLaboratory$State" "KrylovLaboratory$State" "totals" "[I") ∈ lw_all := lw_g (lw_at lw_m1 150 rfl) rfl
theorem q280 : (Jvm.Cond.soleField "KrylovLaboratory$State" "totals") ∈ lw_all := sorry
theorem q281 : (Jvm.Cond.lays "KrylovLaboratory$State" "KrylovLaboratory$State" "mode" "I") ∈ lw_all := sorry
theorem q282 : (Jvm.Cond.soleField "KrylovLaboratory$State" "mode") ∈ lw_all := sorry
theorem q283 : (Jvm.Cond.lays "KrylovLaboratory$State" "KrylovLaboratory$State" "threshold" "I") ∈ lw_all := sorry
theorem q284 : (Jvm.Cond.soleField "KrylovLaboratory$State" "threshold") ∈ lw_all := sorry
theorem q285 : (Jvm.Cond.lays "KrylovLaboratory$State" "KrylovLaboratory$State" "tolerance" "I") ∈ lw_all := sorry
theorem q286 : (Jvm.Cond.soleField "KrylovLaboratory$State" "tolerance") ∈ lw_all := sorry
theorem q287 : (Jvm.Cond.lays "KrylovLaboratory$State" "KrylovLaboratory$State" "space" "LKrylovLaboratory$Space;") ∈ lw_all := sorry
theorem q288 : (Jvm.Cond.soleField "KrylovLaboratory$State" "space") ∈ lw_all := sorry
theorem q289 : (Jvm.Cond.superclass "KrylovLaboratory$State" "java/lang/Object") ∈ lw_all := sorry
theorem q294 : (Jvm.Cond.instanceMethod ({ cls := "KrylovLaboratory$State", name := "begins", desc := "()Z" } : Jvm.MethodName)) ∈ lw_all := sorry
theorem q295 : (Jvm.Cond.selects "KrylovLaboratory$State" ({ cls := "KrylovLaboratory$State", name := "begins", desc := "()Z" } : Jvm.MethodName) ({ cls := "KrylovLaboratory$State", name := "begins", desc := "()Z" } : Jvm.MethodName)) ∈ lw_all := sorry
theorem q296 : (Jvm.Cond.code ({ cls := "KrylovLaboratory$State", name := "begins", desc := "()Z" } : Jvm.MethodName) prog_11_method_7_code (1 : Nat) (Option.some Jvm.ClassFile.FieldType.boolean)) ∈ lw_all := sorry
theorem q297 : (Jvm.Cond.methodLink "KrylovLaboratory$State" (119 : Nat) ({ cls := "KrylovLaboratory$State", name := "startVector", desc := "()LKrylovLaboratory$Vector;" } : Jvm.MethodName)) ∈ lw_all := sorry
theorem q298 : (Jvm.Cond.privateMethod ({ cls := "KrylovLaboratory$State", name := "startVector", desc := "()LKrylovLaboratory$Vector;" } : Jvm.MethodName)) ∈ lw_tbl := sorry
theorem q299 : (Jvm.Cond.instanceMethod ({ cls := "KrylovLaboratory$State", name := "startVector", desc := "()LKrylovLaboratory$Vector;" } : Jvm.MethodName)) ∈ lw_all := sorry
theorem q300 : (Jvm.Cond.code ({ cls := "KrylovLaboratory$State", name := "startVector", desc := "()LKrylovLaboratory$Vector;" } : Jvm.MethodName) prog_11_method_4_code (3 : Nat) (Option.some (Jvm.ClassFile.FieldType.object "KrylovLaboratory$Vector"))) ∈ lw_all := sorry
theorem q301 : (Jvm.Cond.methodLink "KrylovLaboratory$State" (85 : Nat) ({ cls := "KrylovLaboratory$State", name := "order", desc := "()I" } : Jvm.MethodName)) ∈ lw_all := sorry
theorem q302 : (Jvm.Cond.instanceMethod ({ cls := "KrylovLaboratory$State", name := "order", desc := "()I" } : Jvm.MethodName)) ∈ lw_all := sorry
theorem q303 : (Jvm.Cond.selects "KrylovLaboratory$State" ({ cls := "KrylovLaboratory$State", name := "order", desc := "()I" } : Jvm.MethodName) ({ cls := "KrylovLaboratory$State", name := "order", desc := "()I" } : Jvm.MethodName)) ∈ lw_all := sorry
theorem q304 : (Jvm.Cond.code ({ cls := "KrylovLaboratory$State", name := "order", desc := "()I" } : Jvm.MethodName) prog_11_method_3_code (1 : Nat) (Option.some Jvm.ClassFile.FieldType.int)) ∈ lw_all := sorry
theorem q305 : (Jvm.Cond.constantLong "KrylovLaboratory$State" (88 : Nat) (1000000 : Int64)) ∈ lw_all := sorry
theorem q306 : (Jvm.Cond.classLink "KrylovLaboratory$State" (90 : Nat) "KrylovLaboratory$Vector") ∈ lw_all := sorry
theorem q308 : (Jvm.Cond.methodLink "KrylovLaboratory$State" (92 : Nat) ({ cls := "KrylovLaboratory$Vector", name := "<init>", desc := "([J)V" } : Jvm.MethodName)) ∈ lw_all := lw_g (lw_at lw_m1 179 rfl) rfl
theorem q320 : (Jvm.Cond.methodLink "KrylovLaboratory$State" (122 : Nat) ({ cls := "KrylovLaboratory$State", name := "begins", desc := "(LKrylovLaboratory$Vector;)Z" } : Jvm.MethodName)) ∈ lw_all := sorry
theorem q321 : (Jvm.Cond.privateMethod ({ cls := "KrylovLaboratory$State", name := "begins", desc := "(LKrylovLaboratory$Vector;)Z" } : Jvm.MethodName)) ∈ lw_tbl := sorry
theorem q322 : (Jvm.Cond.instanceMethod ({ cls := "KrylovLaboratory$State", name := "begins", desc := "(LKrylovLaboratory$Vector;)Z" } : Jvm.MethodName)) ∈ lw_all := sorry
theorem q323 : (Jvm.Cond.code ({ cls := "KrylovLaboratory$State", name := "begins", desc := "(LKrylovLaboratory$Vector;)Z" } : Jvm.MethodName) prog_11_method_6_code (3 : Nat) (Option.some Jvm.ClassFile.FieldType.boolean)) ∈ lw_all := sorry
theorem q324 : (Jvm.Cond.methodLink "KrylovLaboratory$State" (103 : Nat) ({ cls := "KrylovLaboratory$State", name := "purged", desc := "(LKrylovLaboratory$Vector;)LKrylovLaboratory$Vector;" } : Jvm.MethodName)) ∈ lw_all := sorry
theorem q325 : (Jvm.Cond.privateMethod ({ cls := "KrylovLaboratory$State", name := "purged", desc := "(LKrylovLaboratory$Vector;)LKrylovLaboratory$Vector;" } : Jvm.MethodName)) ∈ lw_tbl := sorry
theorem q326 : (Jvm.Cond.instanceMethod ({ cls := "KrylovLaboratory$State", name := "purged", desc := "(LKrylovLaboratory$Vector;)LKrylovLaboratory$Vector;" } : Jvm.MethodName)) ∈ lw_all := sorry
theorem q327 : (Jvm.Cond.code ({ cls := "KrylovLaboratory$State", name := "purged", desc := "(LKrylovLaboratory$Vector;)LKrylovLaboratory$Vector;" } : Jvm.MethodName) prog_11_method_5_code (5 : Nat) (Option.some (Jvm.ClassFile.FieldType.object "KrylovLaboratory$Vector"))) ∈ lw_all := sorry
theorem q328 : (Jvm.Cond.methodLink "KrylovLaboratory$State" (50 : Nat) ({ cls := "java/util/LinkedList", name := "iterator", desc := "()Ljava/util/Iterator;" } : Jvm.MethodName)) ∈ lw_all := sorry
theorem q416 : (Jvm.Cond.interfaceEntry "KrylovLaboratory$State" (54 : Nat)) ∈ lw_tbl := sorry
theorem q417 : (Jvm.Cond.methodLink "KrylovLaboratory$State" (54 : Nat) ({ cls := "java/util/Iterator", name := "hasNext", desc := "()Z" } : Jvm.MethodName)) ∈ lw_all := sorry
theorem q447 : (Jvm.Cond.interfaceEntry "KrylovLaboratory$State" (60 : Nat)) ∈ lw_tbl := sorry
theorem q448 : (Jvm.Cond.methodLink "KrylovLaboratory$State" (60 : Nat) ({ cls := "java/util/Iterator", name := "next", desc := "()Ljava/lang/Object;" } : Jvm.MethodName)) ∈ lw_all := sorry
theorem q565 : (Jvm.Cond.selects "KrylovLaboratory$State" ({ cls := "java/lang/Object", name := "getClass", desc := "()Ljava/lang/Class;" } : Jvm.MethodName) ({ cls := "java/lang/Object", name := "getClass", desc := "()Ljava/lang/Class;" } : Jvm.MethodName)) ∈ lw_all := sorry
theorem q921 : (Jvm.Cond.classLink "KrylovLaboratory$State" (64 : Nat) "KrylovLaboratory$Locked") ∈ lw_all := sorry
theorem q922 : (Jvm.Cond.methodLink "KrylovLaboratory$State" (99 : Nat) ({ cls := "KrylovLaboratory$Vector", name := "without", desc := "(LKrylovLaboratory$Vector;)LKrylovLaboratory$Vector;" } : Jvm.MethodName)) ∈ lw_all := sorry
theorem q940 : (Jvm.Cond.methodLink "KrylovLaboratory$State" (106 : Nat) ({ cls := "KrylovLaboratory$Vector", name := "norm", desc := "()J" } : Jvm.MethodName)) ∈ lw_all := sorry
theorem q949 : (Jvm.Cond.constantLong "KrylovLaboratory$State" (110 : Nat) (1000 : Int64)) ∈ lw_all := sorry
theorem q950 : (Jvm.Cond.classLink "KrylovLaboratory$State" (77 : Nat) "KrylovLaboratory$Space") ∈ lw_all := sorry
theorem q952 : (Jvm.Cond.methodLink "KrylovLaboratory$State" (112 : Nat) ({ cls := "KrylovLaboratory$Vector", name := "unit", desc := "()LKrylovLaboratory$Vector;" } : Jvm.MethodName)) ∈ lw_all := sorry
theorem q957 : (Jvm.Cond.methodLink "KrylovLaboratory$State" (116 : Nat) ({ cls := "KrylovLaboratory$Space", name := "<init>", desc := "(LKrylovLaboratory$Vector;)V" } : Jvm.MethodName)) ∈ lw_all := sorry
theorem q1011 : (Jvm.Cond.fieldLinkNest "KrylovLaboratory$State" (139 : Nat) "KrylovLaboratory$Space" "basis" "Ljava/util/ArrayList;" "KrylovLaboratory") ∈ lw_tbl := sorry
theorem q1014 : (Jvm.Cond.fieldLinkNest "KrylovLaboratory$State" (160 : Nat) "KrylovLaboratory$Space" "alpha" "[J" "KrylovLaboratory") ∈ lw_tbl := lw_at lw_m4 165 rfl
theorem q1017 : (Jvm.Cond.fieldLinkNest "KrylovLaboratory$State" (152 : Nat) "KrylovLaboratory$Space" "beta" "[J" "KrylovLaboratory") ∈ lw_tbl := lw_at lw_m4 168 rfl
theorem q1020 : (Jvm.Cond.fieldLinkNest "KrylovLaboratory$State" (174 : Nat) "KrylovLaboratory$Space" "estimates" "[[J" "KrylovLaboratory") ∈ lw_tbl := lw_at lw_m4 171 rfl
theorem q1023 : (Jvm.Cond.fieldLinkNest "KrylovLaboratory$State" (130 : Nat) "KrylovLaboratory$Space" "steps" "I" "KrylovLaboratory") ∈ lw_tbl := sorry
theorem q1026 : (Jvm.Cond.fieldLinkNest "KrylovLaboratory$State" (126 : Nat) "KrylovLaboratory$Space" "isClosed" "Z" "KrylovLaboratory") ∈ lw_tbl := sorry
theorem q1232 : (Jvm.Cond.instanceMethod ({ cls := "KrylovLaboratory$State", name := "<init>", desc := "(LKrylovLaboratory$State;)V" } : Jvm.MethodName)) ∈ lw_all := sorry
theorem q1233 : (Jvm.Cond.code ({ cls := "KrylovLaboratory$State", name := "<init>", desc := "(LKrylovLaboratory$State;)V" } : Jvm.MethodName) prog_11_method_2_code (4 : Nat) (Option.none : Option Jvm.ClassFile.FieldType)) ∈ lw_all := sorry
theorem q1234 : (Jvm.Cond.methodLink "KrylovLaboratory$State" (41 : Nat) ({ cls := "KrylovLaboratory$Matrix", name := "<init>", desc := "(LKrylovLaboratory$Matrix;)V" } : Jvm.MethodName)) ∈ lw_all := sorry
theorem q1242 : (Jvm.Cond.methodLink "KrylovLaboratory$State" (44 : Nat) ({ cls := "java/lang/System", name := "arraycopy", desc := "(Ljava/lang/Object;ILjava/lang/Object;II)V" } : Jvm.MethodName)) ∈ lw_all := sorry
theorem q1243 : (Jvm.Cond.methodLink "KrylovLaboratory$State" (66 : Nat) ({ cls := "java/util/LinkedList", name := "addLast", desc := "(Ljava/lang/Object;)V" } : Jvm.MethodName)) ∈ lw_all := sorry
theorem q1272 : (Jvm.Cond.methodLink "KrylovLaboratory$State" (79 : Nat) ({ cls := "KrylovLaboratory$Space", name := "<init>", desc := "(LKrylovLaboratory$Space;)V" } : Jvm.MethodName)) ∈ lw_all := sorry
theorem q1299 : (Jvm.Cond.instanceMethod ({ cls := "KrylovLaboratory$State", name := "canStep", desc := "()Z" } : Jvm.MethodName)) ∈ lw_all := sorry
theorem q1300 : (Jvm.Cond.selects "KrylovLaboratory$State" ({ cls := "KrylovLaboratory$State", name := "canStep", desc := "()Z" } : Jvm.MethodName) ({ cls := "KrylovLaboratory$State", name := "canStep", desc := "()Z" } : Jvm.MethodName)) ∈ lw_all := sorry
theorem q1301 : (Jvm.Cond.code ({ cls := "KrylovLaboratory$State", name := "canStep", desc := "()Z" } : Jvm.MethodName) prog_11_method_8_code (1 : Nat) (Option.some Jvm.ClassFile.FieldType.boolean)) ∈ lw_all := sorry
theorem q1303 : (Jvm.Cond.instanceMethod ({ cls := "KrylovLaboratory$State", name := "step", desc := "()V" } : Jvm.MethodName)) ∈ lw_all := sorry
theorem q1304 : (Jvm.Cond.selects "KrylovLaboratory$State" ({ cls := "KrylovLaboratory$State", name := "step", desc := "()V" } : Jvm.MethodName) ({ cls := "KrylovLaboratory$State", name := "step", desc := "()V" } : Jvm.MethodName)) ∈ lw_all := sorry
theorem q1305 : (Jvm.Cond.code ({ cls := "KrylovLaboratory$State", name := "step", desc := "()V" } : Jvm.MethodName) prog_11_method_13_code (6 : Nat) (Option.none : Option Jvm.ClassFile.FieldType)) ∈ lw_all := sorry
theorem q1306 : (Jvm.Cond.methodLink "KrylovLaboratory$State" (182 : Nat) ({ cls := "KrylovLaboratory$State", name := "recurred", desc := "()LKrylovLaboratory$Vector;" } : Jvm.MethodName)) ∈ lw_all := sorry
theorem q1307 : (Jvm.Cond.privateMethod ({ cls := "KrylovLaboratory$State", name := "recurred", desc := "()LKrylovLaboratory$Vector;" } : Jvm.MethodName)) ∈ lw_tbl := sorry
theorem q1308 : (Jvm.Cond.instanceMethod ({ cls := "KrylovLaboratory$State", name := "recurred", desc := "()LKrylovLaboratory$Vector;" } : Jvm.MethodName)) ∈ lw_all := sorry
theorem q1309 : (Jvm.Cond.code ({ cls := "KrylovLaboratory$State", name := "recurred", desc := "()LKrylovLaboratory$Vector;" } : Jvm.MethodName) prog_11_method_10_code (4 : Nat) (Option.some (Jvm.ClassFile.FieldType.object "KrylovLaboratory$Vector"))) ∈ lw_all := sorry
theorem q1310 : (Jvm.Cond.methodLink "KrylovLaboratory$State" (143 : Nat) ({ cls := "java/util/ArrayList", name := "get", desc := "(I)Ljava/lang/Object;" } : Jvm.MethodName)) ∈ lw_all := sorry
theorem q1311 : (Jvm.Cond.methodLink "KrylovLaboratory$State" (149 : Nat) ({ cls := "KrylovLaboratory$Matrix", name := "times", desc := "(LKrylovLaboratory$Vector;)LKrylovLaboratory$Vector;" } : Jvm.MethodName)) ∈ lw_all := sorry
theorem q1321 : (Jvm.Cond.methodLink "KrylovLaboratory$State" (156 : Nat) ({ cls := "KrylovLaboratory$Vector", name := "less", desc := "(JLKrylovLaboratory$Vector;)LKrylovLaboratory$Vector;" } : Jvm.MethodName)) ∈ lw_all := sorry
theorem q1322 : (Jvm.Cond.methodLink "KrylovLaboratory$State" (163 : Nat) ({ cls := "KrylovLaboratory$Vector", name := "dot", desc := "(LKrylovLaboratory$Vector;)J" } : Jvm.MethodName)) ∈ lw_all := sorry
theorem q1323 : (Jvm.Cond.methodLink "KrylovLaboratory$State" (185 : Nat) ({ cls := "KrylovLaboratory$State", name := "purgedMuch", desc := "(LKrylovLaboratory$Vector;)LKrylovLaboratory$Vector;" } : Jvm.MethodName)) ∈ lw_all := sorry
theorem q1324 : (Jvm.Cond.privateMethod ({ cls := "KrylovLaboratory$State", name := "purgedMuch", desc := "(LKrylovLaboratory$Vector;)LKrylovLaboratory$Vector;" } : Jvm.MethodName)) ∈ lw_tbl := sorry
theorem q1325 : (Jvm.Cond.instanceMethod ({ cls := "KrylovLaboratory$State", name := "purgedMuch", desc := "(LKrylovLaboratory$Vector;)LKrylovLaboratory$Vector;" } : Jvm.MethodName)) ∈ lw_all := sorry
theorem q1326 : (Jvm.Cond.code ({ cls := "KrylovLaboratory$State", name := "purgedMuch", desc := "(LKrylovLaboratory$Vector;)LKrylovLaboratory$Vector;" } : Jvm.MethodName) prog_11_method_11_code (5 : Nat) (Option.some (Jvm.ClassFile.FieldType.object "KrylovLaboratory$Vector"))) ∈ lw_all := sorry
theorem q1327 : (Jvm.Cond.methodLink "KrylovLaboratory$State" (167 : Nat) ({ cls := "KrylovLaboratory$State", name := "isMuch", desc := "(J)Z" } : Jvm.MethodName)) ∈ lw_all := sorry
theorem q1328 : (Jvm.Cond.privateMethod ({ cls := "KrylovLaboratory$State", name := "isMuch", desc := "(J)Z" } : Jvm.MethodName)) ∈ lw_tbl := sorry
theorem q1329 : (Jvm.Cond.instanceMethod ({ cls := "KrylovLaboratory$State", name := "isMuch", desc := "(J)Z" } : Jvm.MethodName)) ∈ lw_all := sorry
theorem q1330 : (Jvm.Cond.code ({ cls := "KrylovLaboratory$State", name := "isMuch", desc := "(J)Z" } : Jvm.MethodName) prog_11_method_9_code (3 : Nat) (Option.some Jvm.ClassFile.FieldType.boolean)) ∈ lw_all := sorry
theorem q1331 : (Jvm.Cond.methodLink "KrylovLaboratory$State" (133 : Nat) ({ cls := "java/lang/Math", name := "abs", desc := "(J)J" } : Jvm.MethodName)) ∈ lw_all := sorry
theorem q1332 : (Jvm.Cond.methodLinkNest "KrylovLaboratory$State" (188 : Nat) ({ cls := "KrylovLaboratory$Space", name := "ends", desc := "(LKrylovLaboratory$Vector;J)V" } : Jvm.MethodName) "KrylovLaboratory") ∈ lw_tbl := sorry
theorem q1338 : (Jvm.Cond.methodLinkNest "KrylovLaboratory$State" (192 : Nat) ({ cls := "KrylovLaboratory$Space", name := "estimates", desc := "(J)V" } : Jvm.MethodName) "KrylovLaboratory") ∈ lw_tbl := sorry
theorem q1346 : (Jvm.Cond.methodLink "KrylovLaboratory$State" (195 : Nat) ({ cls := "KrylovLaboratory$State", name := "toRepair", desc := "()Ljava/util/BitSet;" } : Jvm.MethodName)) ∈ lw_all := sorry
theorem q1347 : (Jvm.Cond.privateMethod ({ cls := "KrylovLaboratory$State", name := "toRepair", desc := "()Ljava/util/BitSet;" } : Jvm.MethodName)) ∈ lw_tbl := sorry
theorem q1348 : (Jvm.Cond.instanceMethod ({ cls := "KrylovLaboratory$State", name := "toRepair", desc := "()Ljava/util/BitSet;" } : Jvm.MethodName)) ∈ lw_all := sorry
theorem q1349 : (Jvm.Cond.code ({ cls := "KrylovLaboratory$State", name := "toRepair", desc := "()Ljava/util/BitSet;" } : Jvm.MethodName) prog_11_method_12_code (3 : Nat) (Option.some (Jvm.ClassFile.FieldType.object "java/util/BitSet"))) ∈ lw_all := sorry
theorem q1350 : (Jvm.Cond.classLink "KrylovLaboratory$State" (171 : Nat) "java/util/BitSet") ∈ lw_all := sorry
theorem q1352 : (Jvm.Cond.methodLink "KrylovLaboratory$State" (173 : Nat) ({ cls := "java/util/BitSet", name := "<init>", desc := "(I)V" } : Jvm.MethodName)) ∈ lw_all := sorry
theorem q1373 : (Jvm.Cond.methodLink "KrylovLaboratory$State" (178 : Nat) ({ cls := "java/util/BitSet", name := "set", desc := "(IZ)V" } : Jvm.MethodName)) ∈ lw_all := sorry
theorem q1413 : (Jvm.Cond.methodLink "KrylovLaboratory$State" (199 : Nat) ({ cls := "java/util/BitSet", name := "nextSetBit", desc := "(I)I" } : Jvm.MethodName)) ∈ lw_all := sorry
theorem q1424 : (Jvm.Cond.constantLong "KrylovLaboratory$State" (203 : Nat) (2 : Int64)) ∈ lw_all := sorry
theorem q1425 : (Jvm.Cond.methodLink "KrylovLaboratory$State" (205 : Nat) ({ cls := "java/util/BitSet", name := "isEmpty", desc := "()Z" } : Jvm.MethodName)) ∈ lw_all := sorry
theorem q1968 : (Jvm.Cond.instanceMethod ({ cls := "KrylovLaboratory$State", name := "residual", desc := "(LKrylovLaboratory$Locked;)J" } : Jvm.MethodName)) ∈ lw_all := sorry
theorem q1969 : (Jvm.Cond.selects "KrylovLaboratory$State" ({ cls := "KrylovLaboratory$State", name := "residual", desc := "(LKrylovLaboratory$Locked;)J" } : Jvm.MethodName) ({ cls := "KrylovLaboratory$State", name := "residual", desc := "(LKrylovLaboratory$Locked;)J" } : Jvm.MethodName)) ∈ lw_all := sorry
theorem q1970 : (Jvm.Cond.code ({ cls := "KrylovLaboratory$State", name := "residual", desc := "(LKrylovLaboratory$Locked;)J" } : Jvm.MethodName) prog_11_method_16_code (2 : Nat) (Option.some Jvm.ClassFile.FieldType.long)) ∈ lw_all := sorry
theorem q1971 : (Jvm.Cond.methodLink "KrylovLaboratory$State" (234 : Nat) ({ cls := "KrylovLaboratory$Matrix", name := "residual", desc := "(JLKrylovLaboratory$Vector;)J" } : Jvm.MethodName)) ∈ lw_all := sorry
theorem q1987 : (Jvm.Cond.instanceMethod ({ cls := "KrylovLaboratory$State", name := "isBroken", desc := "(LKrylovLaboratory$Locked;I)Z" } : Jvm.MethodName)) ∈ lw_all := sorry
theorem q1988 : (Jvm.Cond.selects "KrylovLaboratory$State" ({ cls := "KrylovLaboratory$State", name := "isBroken", desc := "(LKrylovLaboratory$Locked;I)Z" } : Jvm.MethodName) ({ cls := "KrylovLaboratory$State", name := "isBroken", desc := "(LKrylovLaboratory$Locked;I)Z" } : Jvm.MethodName)) ∈ lw_all := sorry
theorem q1989 : (Jvm.Cond.code ({ cls := "KrylovLaboratory$State", name := "isBroken", desc := "(LKrylovLaboratory$Locked;I)Z" } : Jvm.MethodName) prog_11_method_17_code (3 : Nat) (Option.some Jvm.ClassFile.FieldType.boolean)) ∈ lw_all := sorry
theorem q1990 : (Jvm.Cond.methodLink "KrylovLaboratory$State" (238 : Nat) ({ cls := "KrylovLaboratory$State", name := "residual", desc := "(LKrylovLaboratory$Locked;)J" } : Jvm.MethodName)) ∈ lw_all := sorry
theorem q2031 : (Jvm.Cond.instanceMethod ({ cls := "KrylovLaboratory$State", name := "steps", desc := "(I)I" } : Jvm.MethodName)) ∈ lw_all := sorry
theorem q2032 : (Jvm.Cond.selects "KrylovLaboratory$State" ({ cls := "KrylovLaboratory$State", name := "steps", desc := "(I)I" } : Jvm.MethodName) ({ cls := "KrylovLaboratory$State", name := "steps", desc := "(I)I" } : Jvm.MethodName)) ∈ lw_all := sorry
theorem q2033 : (Jvm.Cond.code ({ cls := "KrylovLaboratory$State", name := "steps", desc := "(I)I" } : Jvm.MethodName) prog_11_method_14_code (3 : Nat) (Option.some Jvm.ClassFile.FieldType.int)) ∈ lw_all := sorry
theorem q2034 : (Jvm.Cond.methodLink "KrylovLaboratory$State" (208 : Nat) ({ cls := "KrylovLaboratory$State", name := "canStep", desc := "()Z" } : Jvm.MethodName)) ∈ lw_all := sorry
theorem q2035 : (Jvm.Cond.methodLink "KrylovLaboratory$State" (211 : Nat) ({ cls := "KrylovLaboratory$State", name := "step", desc := "()V" } : Jvm.MethodName)) ∈ lw_all := sorry
theorem q2044 : (Jvm.Cond.instanceMethod ({ cls := "KrylovLaboratory$State", name := "lock", desc := "(I)I" } : Jvm.MethodName)) ∈ lw_all := sorry
theorem q2045 : (Jvm.Cond.selects "KrylovLaboratory$State" ({ cls := "KrylovLaboratory$State", name := "lock", desc := "(I)I" } : Jvm.MethodName) ({ cls := "KrylovLaboratory$State", name := "lock", desc := "(I)I" } : Jvm.MethodName)) ∈ lw_all := sorry
theorem q2046 : (Jvm.Cond.code ({ cls := "KrylovLaboratory$State", name := "lock", desc := "(I)I" } : Jvm.MethodName) prog_11_method_15_code (5 : Nat) (Option.some Jvm.ClassFile.FieldType.int)) ∈ lw_all := sorry
theorem q2047 : (Jvm.Cond.methodLink "KrylovLaboratory$State" (214 : Nat) ({ cls := "KrylovLaboratory$Space", name := "bound", desc := "(I)J" } : Jvm.MethodName)) ∈ lw_all := sorry
theorem q2048 : (Jvm.Cond.methodLink "KrylovLaboratory$State" (218 : Nat) ({ cls := "java/util/LinkedList", name := "size", desc := "()I" } : Jvm.MethodName)) ∈ lw_all := sorry
theorem q2049 : (Jvm.Cond.methodLink "KrylovLaboratory$State" (221 : Nat) ({ cls := "KrylovLaboratory$Space", name := "ritz", desc := "(I)LKrylovLaboratory$Vector;" } : Jvm.MethodName)) ∈ lw_all := sorry
theorem q2051 : (Jvm.Cond.methodLink "KrylovLaboratory$State" (225 : Nat) ({ cls := "KrylovLaboratory$Space", name := "value", desc := "(I)J" } : Jvm.MethodName)) ∈ lw_all := sorry
theorem q2052 : (Jvm.Cond.methodLink "KrylovLaboratory$State" (228 : Nat) ({ cls := "KrylovLaboratory$Locked", name := "<init>", desc := "(JLKrylovLaboratory$Vector;J)V" } : Jvm.MethodName)) ∈ lw_all := sorry
theorem q2057 : (Jvm.Cond.fieldLinkNest "KrylovLaboratory$State" (231 : Nat) "KrylovLaboratory$Locked" "value" "J" "KrylovLaboratory") ∈ lw_tbl := sorry
theorem q2060 : (Jvm.Cond.fieldLinkNest "KrylovLaboratory$State" (241 : Nat) "KrylovLaboratory$Locked" "bound" "J" "KrylovLaboratory") ∈ lw_tbl := sorry
theorem q2063 : (Jvm.Cond.fieldLinkNest "KrylovLaboratory$State" (95 : Nat) "KrylovLaboratory$Locked" "vector" "LKrylovLaboratory$Vector;" "KrylovLaboratory") ∈ lw_tbl := sorry
theorem q2095 : (Jvm.Cond.instanceMethod ({ cls := "KrylovLaboratory$State", name := "drop", desc := "(I)I" } : Jvm.MethodName)) ∈ lw_all := sorry
theorem q2096 : (Jvm.Cond.selects "KrylovLaboratory$State" ({ cls := "KrylovLaboratory$State", name := "drop", desc := "(I)I" } : Jvm.MethodName) ({ cls := "KrylovLaboratory$State", name := "drop", desc := "(I)I" } : Jvm.MethodName)) ∈ lw_all := sorry
theorem q2097 : (Jvm.Cond.code ({ cls := "KrylovLaboratory$State", name := "drop", desc := "(I)I" } : Jvm.MethodName) prog_11_method_18_code (4 : Nat) (Option.some Jvm.ClassFile.FieldType.int)) ∈ lw_all := sorry
theorem q2098 : (Jvm.Cond.methodLink "KrylovLaboratory$State" (243 : Nat) ({ cls := "KrylovLaboratory$State", name := "isBroken", desc := "(LKrylovLaboratory$Locked;I)Z" } : Jvm.MethodName)) ∈ lw_all := sorry
theorem q2099 : (Jvm.Cond.interfaceEntry "KrylovLaboratory$State" (247 : Nat)) ∈ lw_tbl := sorry
theorem q2100 : (Jvm.Cond.methodLink "KrylovLaboratory$State" (247 : Nat) ({ cls := "java/util/Iterator", name := "remove", desc := "()V" } : Jvm.MethodName)) ∈ lw_all := sorry
theorem q2175 : (Jvm.Cond.instanceMethod ({ cls := "KrylovLaboratory$State", name := "restart", desc := "(I)I" } : Jvm.MethodName)) ∈ lw_all := sorry
theorem q2176 : (Jvm.Cond.selects "KrylovLaboratory$State" ({ cls := "KrylovLaboratory$State", name := "restart", desc := "(I)I" } : Jvm.MethodName) ({ cls := "KrylovLaboratory$State", name := "restart", desc := "(I)I" } : Jvm.MethodName)) ∈ lw_all := sorry
theorem q2177 : (Jvm.Cond.code ({ cls := "KrylovLaboratory$State", name := "restart", desc := "(I)I" } : Jvm.MethodName) prog_11_method_23_code (2 : Nat) (Option.some Jvm.ClassFile.FieldType.int)) ∈ lw_all := sorry
theorem q2178 : (Jvm.Cond.methodLink "KrylovLaboratory$State" (256 : Nat) ({ cls := "KrylovLaboratory$State", name := "begins", desc := "()Z" } : Jvm.MethodName)) ∈ lw_all := sorry
theorem q2179 : (Jvm.Cond.methodLink "KrylovLaboratory$State" (258 : Nat) ({ cls := "KrylovLaboratory$State", name := "restartsByOne", desc := "()I" } : Jvm.MethodName)) ∈ lw_all := sorry
theorem q2180 : (Jvm.Cond.privateMethod ({ cls := "KrylovLaboratory$State", name := "restartsByOne", desc := "()I" } : Jvm.MethodName)) ∈ lw_tbl := sorry
theorem q2181 : (Jvm.Cond.instanceMethod ({ cls := "KrylovLaboratory$State", name := "restartsByOne", desc := "()I" } : Jvm.MethodName)) ∈ lw_all := sorry
theorem q2182 : (Jvm.Cond.code ({ cls := "KrylovLaboratory$State", name := "restartsByOne", desc := "()I" } : Jvm.MethodName) prog_11_method_21_code (2 : Nat) (Option.some Jvm.ClassFile.FieldType.int)) ∈ lw_all := sorry
theorem q2183 : (Jvm.Cond.methodLink "KrylovLaboratory$State" (250 : Nat) ({ cls := "KrylovLaboratory$State", name := "wideWithLeast", desc := "()I" } : Jvm.MethodName)) ∈ lw_all := sorry
theorem q2184 : (Jvm.Cond.privateMethod ({ cls := "KrylovLaboratory$State", name := "wideWithLeast", desc := "()I" } : Jvm.MethodName)) ∈ lw_tbl := sorry
theorem q2185 : (Jvm.Cond.instanceMethod ({ cls := "KrylovLaboratory$State", name := "wideWithLeast", desc := "()I" } : Jvm.MethodName)) ∈ lw_all := sorry
theorem q2186 : (Jvm.Cond.code ({ cls := "KrylovLaboratory$State", name := "wideWithLeast", desc := "()I" } : Jvm.MethodName) prog_11_method_20_code (3 : Nat) (Option.some Jvm.ClassFile.FieldType.int)) ∈ lw_all := sorry
theorem q2187 : (Jvm.Cond.methodLink "KrylovLaboratory$State" (261 : Nat) ({ cls := "KrylovLaboratory$State", name := "restartsBySum", desc := "()I" } : Jvm.MethodName)) ∈ lw_all := sorry
theorem q2188 : (Jvm.Cond.privateMethod ({ cls := "KrylovLaboratory$State", name := "restartsBySum", desc := "()I" } : Jvm.MethodName)) ∈ lw_tbl := sorry
theorem q2189 : (Jvm.Cond.instanceMethod ({ cls := "KrylovLaboratory$State", name := "restartsBySum", desc := "()I" } : Jvm.MethodName)) ∈ lw_all := sorry
theorem q2190 : (Jvm.Cond.code ({ cls := "KrylovLaboratory$State", name := "restartsBySum", desc := "()I" } : Jvm.MethodName) prog_11_method_22_code (4 : Nat) (Option.some Jvm.ClassFile.FieldType.int)) ∈ lw_all := sorry
theorem q2191 : (Jvm.Cond.methodLink "KrylovLaboratory$State" (253 : Nat) ({ cls := "KrylovLaboratory$Vector", name := "plus", desc := "(LKrylovLaboratory$Vector;)LKrylovLaboratory$Vector;" } : Jvm.MethodName)) ∈ lw_all := sorry
theorem q2204 : (Jvm.Cond.instanceMethod ({ cls := "KrylovLaboratory$State", name := "sweep", desc := "(I)I" } : Jvm.MethodName)) ∈ lw_all := sorry
theorem q2205 : (Jvm.Cond.selects "KrylovLaboratory$State" ({ cls := "KrylovLaboratory$State", name := "sweep", desc := "(I)I" } : Jvm.MethodName) ({ cls := "KrylovLaboratory$State", name := "sweep", desc := "(I)I" } : Jvm.MethodName)) ∈ lw_all := sorry
theorem q2206 : (Jvm.Cond.code ({ cls := "KrylovLaboratory$State", name := "sweep", desc := "(I)I" } : Jvm.MethodName) prog_11_method_25_code (6 : Nat) (Option.some Jvm.ClassFile.FieldType.int)) ∈ lw_all := sorry
theorem q2207 : (Jvm.Cond.methodLink "KrylovLaboratory$State" (271 : Nat) ({ cls := "KrylovLaboratory$State", name := "steps", desc := "(I)I" } : Jvm.MethodName)) ∈ lw_all := sorry
theorem q2208 : (Jvm.Cond.methodLink "KrylovLaboratory$State" (273 : Nat) ({ cls := "KrylovLaboratory$State", name := "locks", desc := "()I" } : Jvm.MethodName)) ∈ lw_all := sorry
theorem q2209 : (Jvm.Cond.privateMethod ({ cls := "KrylovLaboratory$State", name := "locks", desc := "()I" } : Jvm.MethodName)) ∈ lw_tbl := sorry
theorem q2210 : (Jvm.Cond.instanceMethod ({ cls := "KrylovLaboratory$State", name := "locks", desc := "()I" } : Jvm.MethodName)) ∈ lw_all := sorry
theorem q2211 : (Jvm.Cond.code ({ cls := "KrylovLaboratory$State", name := "locks", desc := "()I" } : Jvm.MethodName) prog_11_method_24_code (3 : Nat) (Option.some Jvm.ClassFile.FieldType.int)) ∈ lw_all := sorry
theorem q2212 : (Jvm.Cond.methodLink "KrylovLaboratory$State" (264 : Nat) ({ cls := "KrylovLaboratory$State", name := "lock", desc := "(I)I" } : Jvm.MethodName)) ∈ lw_all := sorry
theorem q2213 : (Jvm.Cond.methodLinkNest "KrylovLaboratory$State" (267 : Nat) ({ cls := "KrylovLaboratory", name := "asInt", desc := "(Z)I" } : Jvm.MethodName) "KrylovLaboratory") ∈ lw_tbl := sorry
theorem q2214 : (Jvm.Cond.methodLink "KrylovLaboratory$State" (276 : Nat) ({ cls := "KrylovLaboratory$State", name := "restart", desc := "(I)I" } : Jvm.MethodName)) ∈ lw_all := sorry
theorem q2420 : (Jvm.Cond.selects "KrylovLaboratory$State" ({ cls := "java/lang/Object", name := "equals", desc := "(Ljava/lang/Object;)Z" } : Jvm.MethodName) ({ cls := "java/lang/Object", name := "equals", desc := "(Ljava/lang/Object;)Z" } : Jvm.MethodName)) ∈ lw_all := sorry
theorem q2511 : (Jvm.Cond.instanceMethod ({ cls := "KrylovLaboratory$State", name := "isLocked", desc := "(I)Z" } : Jvm.MethodName)) ∈ lw_all := sorry
theorem q2512 : (Jvm.Cond.selects "KrylovLaboratory$State" ({ cls := "KrylovLaboratory$State", name := "isLocked", desc := "(I)Z" } : Jvm.MethodName) ({ cls := "KrylovLaboratory$State", name := "isLocked", desc := "(I)Z" } : Jvm.MethodName)) ∈ lw_all := sorry
theorem q2513 : (Jvm.Cond.code ({ cls := "KrylovLaboratory$State", name := "isLocked", desc := "(I)Z" } : Jvm.MethodName) prog_11_method_19_code (6 : Nat) (Option.some Jvm.ClassFile.FieldType.boolean)) ∈ lw_all := sorry
theorem q3232 : (Jvm.Cond.castable "KrylovLaboratory$State" "java/lang/Object") ∈ lw_tbl := sorry
theorem in_X2 : ∀ w ∈ wsX20, w ∈ lw_all := sorry
/-! KrylovLaboratory$Matrix -/
set_option maxRecDepth 100000
def RX3 : String := "KrylovLaboratory$Matrix"
def TX3 : u_T := fun k => match k with
  | 0 => ("KrylovLaboratory$Matrix", "order", "I", true)
  | _ => ("KrylovLaboratory$Matrix", "entries", "[I", true)
def tyX3 : Nat → FieldType := fun k => match k with
  | 0 => .int
  | _ => .array .int
abbrev wsX30 : List Cond := u_ws RX3 TX3 2
theorem nmX3 : ∀ a, a < 2 → ∀ b, b < 2 → a ≠ b → (TX3 a).2.1 ≠ (TX3 b).2.1 := sorry
theorem tyX3_ok : ∀ k, k < 2 → parseFieldDescriptor (TX3 k).2.2.1 = some (tyX3 k) := sorry
abbrev cX3_init : ByteArray := prog_6_method_1_code
def yX3_init : MethodName := ⟨RX3, "<init>", "(I)V"⟩
def dkwX3_init_0 : List UInt8 := [42, 183, 0, 1, 42, 27, 181, 0, 7, 42, 27, 27, 104, 188, 10, 181, 0, 13, 177]
abbrev dktX3_init_0 : List UInt8 := dkwX3_init_0 ++ []
theorem dksX3_init_0 : cX3_init.data.toList.drop 0 = dktX3_init_0 := sorry
theorem dX3_init_0 : decode cX3_init 0 = .ok (.aload_n 0, 1) := sorry
theorem dX3_init_1 : decode cX3_init 1 = .ok (.invokespecial 1, 3) := sorry
theorem dX3_init_4 : decode cX3_init 4 = .ok (.aload_n 0, 1) := sorry
theorem dX3_init_5 : decode cX3_init 5 = .ok (.iload_n 1, 1) := sorry
theorem dX3_init_6 : decode cX3_init 6 = .ok (.putfield 7, 3) := sorry
theorem dX3_init_9 : decode cX3_init 9 = .ok (.aload_n 0, 1) := sorry
theorem dX3_init_10 : decode cX3_init 10 = .ok (.iload_n 1, 1) := sorry
theorem dX3_init_11 : decode cX3_init 11 = .ok (.iload_n 1, 1) := sorry
theorem dX3_init_12 : decode cX3_init 12 = .ok (.imul, 1) := sorry
theorem dX3_init_13 : decode cX3_init 13 = .ok (.newarray .int, 2) := sorry
theorem dX3_init_15 : decode cX3_init 15 = .ok (.putfield 13, 3) := sorry
theorem dX3_init_18 : decode cX3_init 18 = .ok (.return_, 1) := sorry
abbrev cX3_init_2 : ByteArray := prog_6_method_2_code
def yX3_init_2 : MethodName := ⟨RX3, "<init>", "(LKrylovLaboratory$Matrix;)V"⟩
def dkwX3_init_2_1 : List UInt8 := [181, 0, 13, 177]
abbrev dktX3_init_2_1 : List UInt8 := dkwX3_init_2_1 ++ []
def dkwX3_init_2_0 : List UInt8 := [42, 183, 0, 1, 42, 43, 180, 0, 7, 181, 0, 7, 42, 43, 180, 0, 13, 182, 0, 17, 192, 0, 18]
abbrev dktX3_init_2_0 : List UInt8 := dkwX3_init_2_0 ++ dktX3_init_2_1
theorem dksX3_init_2_0 : cX3_init_2.data.toList.drop 0 = dktX3_init_2_0 := sorry
theorem dksX3_init_2_1 : cX3_init_2.data.toList.drop 23 = dktX3_init_2_1 := sorry
theorem dX3_init_2_0 : decode cX3_init_2 0 = .ok (.aload_n 0, 1) := sorry
theorem dX3_init_2_1 : decode cX3_init_2 1 = .ok (.invokespecial 1, 3) := sorry
theorem dX3_init_2_4 : decode cX3_init_2 4 = .ok (.aload_n 0, 1) := sorry
theorem dX3_init_2_5 : decode cX3_init_2 5 = .ok (.aload_n 1, 1) := sorry
theorem dX3_init_2_6 : decode cX3_init_2 6 = .ok (.getfield 7, 3) := sorry
theorem dX3_init_2_9 : decode cX3_init_2 9 = .ok (.putfield 7, 3) := sorry
theorem dX3_init_2_12 : decode cX3_init_2 12 = .ok (.aload_n 0, 1) := sorry
theorem dX3_init_2_13 : decode cX3_init_2 13 = .ok (.aload_n 1, 1) := sorry
theorem dX3_init_2_14 : decode cX3_init_2 14 = .ok (.getfield 13, 3) := sorry
theorem dX3_init_2_17 : decode cX3_init_2 17 = .ok (.invokevirtual 17, 3) := sorry
theorem dX3_init_2_20 : decode cX3_init_2 20 = .ok (.checkcast 18, 3) := sorry
theorem dX3_init_2_23 : decode cX3_init_2 23 = .ok (.putfield 13, 3) := sorry
theorem dX3_init_2_26 : decode cX3_init_2 26 = .ok (.return_, 1) := sorry
abbrev cX3_times : ByteArray := prog_6_method_5_code
def yX3_times : MethodName := ⟨RX3, "times", "(LKrylovLaboratory$Vector;)LKrylovLaboratory$Vector;"⟩
def dkwX3_times_3 : List UInt8 := [176]
abbrev dktX3_times_3 : List UInt8 := dkwX3_times_3 ++ []
def dkwX3_times_2 : List UInt8 := [47, 105, 97, 80, 132, 4, 1, 167, 255, 222, 132, 3, 1, 167, 255, 205, 187, 0, 27, 89, 44, 183, 0, 32]
abbrev dktX3_times_2 : List UInt8 := dkwX3_times_2 ++ dktX3_times_3
def dkwX3_times_1 : List UInt8 := [180, 0, 7, 162, 0, 31, 44, 29, 92, 47, 42, 29, 21, 4, 182, 0, 22, 133, 43, 180, 0, 26, 21, 4]
abbrev dktX3_times_1 : List UInt8 := dkwX3_times_1 ++ dktX3_times_2
def dkwX3_times_0 : List UInt8 := [42, 180, 0, 7, 188, 11, 77, 3, 62, 29, 42, 180, 0, 7, 162, 0, 49, 3, 54, 4, 21, 4, 42]
abbrev dktX3_times_0 : List UInt8 := dkwX3_times_0 ++ dktX3_times_1
theorem dksX3_times_0 : cX3_times.data.toList.drop 0 = dktX3_times_0 := sorry
theorem dksX3_times_1 : cX3_times.data.toList.drop 23 = dktX3_times_1 := sorry
theorem dksX3_times_2 : cX3_times.data.toList.drop 47 = dktX3_times_2 := sorry
theorem dksX3_times_3 : cX3_times.data.toList.drop 71 = dktX3_times_3 := sorry
theorem dX3_times_0 : decode cX3_times 0 = .ok (.aload_n 0, 1) := sorry
theorem dX3_times_1 : decode cX3_times 1 = .ok (.getfield 7, 3) := sorry
theorem dX3_times_4 : decode cX3_times 4 = .ok (.newarray .long, 2) := sorry
theorem dX3_times_6 : decode cX3_times 6 = .ok (.astore_n 2, 1) := sorry
theorem dX3_times_7 : decode cX3_times 7 = .ok (.iconst 0, 1) := sorry
theorem dX3_times_8 : decode cX3_times 8 = .ok (.istore_n 3, 1) := sorry
theorem dX3_times_9 : decode cX3_times 9 = .ok (.iload_n 3, 1) := sorry
theorem dX3_times_10 : decode cX3_times 10 = .ok (.aload_n 0, 1) := sorry
theorem dX3_times_11 : decode cX3_times 11 = .ok (.getfield 7, 3) := sorry
theorem dX3_times_14 : decode cX3_times 14 = .ok (.if_icmp .ge 49, 3) := sorry
theorem dX3_times_17 : decode cX3_times 17 = .ok (.iconst 0, 1) := sorry
theorem dX3_times_18 : decode cX3_times 18 = .ok (.istore 4, 2) := sorry
theorem dX3_times_20 : decode cX3_times 20 = .ok (.iload 4, 2) := sorry
theorem dX3_times_22 : decode cX3_times 22 = .ok (.aload_n 0, 1) := sorry
theorem dX3_times_23 : decode cX3_times 23 = .ok (.getfield 7, 3) := sorry
theorem dX3_times_26 : decode cX3_times 26 = .ok (.if_icmp .ge 31, 3) := sorry
theorem dX3_times_29 : decode cX3_times 29 = .ok (.aload_n 2, 1) := sorry
theorem dX3_times_30 : decode cX3_times 30 = .ok (.iload_n 3, 1) := sorry
theorem dX3_times_31 : decode cX3_times 31 = .ok (.dup2, 1) := sorry
theorem dX3_times_32 : decode cX3_times 32 = .ok (.laload, 1) := sorry
theorem dX3_times_33 : decode cX3_times 33 = .ok (.aload_n 0, 1) := sorry
theorem dX3_times_34 : decode cX3_times 34 = .ok (.iload_n 3, 1) := sorry
theorem dX3_times_35 : decode cX3_times 35 = .ok (.iload 4, 2) := sorry
theorem dX3_times_37 : decode cX3_times 37 = .ok (.invokevirtual 22, 3) := sorry
theorem dX3_times_40 : decode cX3_times 40 = .ok (.i2l, 1) := sorry
theorem dX3_times_41 : decode cX3_times 41 = .ok (.aload_n 1, 1) := sorry
theorem dX3_times_42 : decode cX3_times 42 = .ok (.getfield 26, 3) := sorry
theorem dX3_times_45 : decode cX3_times 45 = .ok (.iload 4, 2) := sorry
theorem dX3_times_47 : decode cX3_times 47 = .ok (.laload, 1) := sorry
theorem dX3_times_48 : decode cX3_times 48 = .ok (.lmul, 1) := sorry
theorem dX3_times_49 : decode cX3_times 49 = .ok (.ladd, 1) := sorry
theorem dX3_times_50 : decode cX3_times 50 = .ok (.lastore, 1) := sorry
theorem dX3_times_51 : decode cX3_times 51 = .ok (.iinc 4 1, 3) := sorry
theorem dX3_times_54 : decode cX3_times 54 = .ok (.goto (-34), 3) := sorry
theorem dX3_times_57 : decode cX3_times 57 = .ok (.iinc 3 1, 3) := sorry
theorem dX3_times_60 : decode cX3_times 60 = .ok (.goto (-51), 3) := sorry
theorem dX3_times_63 : decode cX3_times 63 = .ok (.new 27, 3) := sorry
theorem dX3_times_66 : decode cX3_times 66 = .ok (.dup, 1) := sorry
theorem dX3_times_67 : decode cX3_times 67 = .ok (.aload_n 2, 1) := sorry
theorem dX3_times_68 : decode cX3_times 68 = .ok (.invokespecial 32, 3) := sorry
theorem dX3_times_71 : decode cX3_times 71 = .ok (.areturn, 1) := sorry
abbrev cX3_at : ByteArray := prog_6_method_3_code
def yX3_at : MethodName := ⟨RX3, "at", "(II)I"⟩
def dkwX3_at_0 : List UInt8 := [42, 180, 0, 13, 42, 180, 0, 7, 27, 104, 28, 96, 46, 172]
abbrev dktX3_at_0 : List UInt8 := dkwX3_at_0 ++ []
theorem dksX3_at_0 : cX3_at.data.toList.drop 0 = dktX3_at_0 := sorry
theorem dX3_at_0 : decode cX3_at 0 = .ok (.aload_n 0, 1) := sorry
theorem dX3_at_1 : decode cX3_at 1 = .ok (.getfield 13, 3) := sorry
theorem dX3_at_4 : decode cX3_at 4 = .ok (.aload_n 0, 1) := sorry
theorem dX3_at_5 : decode cX3_at 5 = .ok (.getfield 7, 3) := sorry
theorem dX3_at_8 : decode cX3_at 8 = .ok (.iload_n 1, 1) := sorry
theorem dX3_at_9 : decode cX3_at 9 = .ok (.imul, 1) := sorry
theorem dX3_at_10 : decode cX3_at 10 = .ok (.iload_n 2, 1) := sorry
theorem dX3_at_11 : decode cX3_at 11 = .ok (.iadd, 1) := sorry
theorem dX3_at_12 : decode cX3_at 12 = .ok (.iaload, 1) := sorry
theorem dX3_at_13 : decode cX3_at 13 = .ok (.ireturn, 1) := sorry
abbrev cX3_trace : ByteArray := prog_6_method_7_code
def yX3_trace : MethodName := ⟨RX3, "trace", "()J"⟩
def dkwX3_trace_1 : List UInt8 := [132, 3, 1, 167, 255, 235, 31, 173]
abbrev dktX3_trace_1 : List UInt8 := dkwX3_trace_1 ++ []
def dkwX3_trace_0 : List UInt8 := [9, 64, 3, 62, 29, 42, 180, 0, 7, 162, 0, 19, 31, 42, 29, 29, 182, 0, 22, 133, 97, 64]
abbrev dktX3_trace_0 : List UInt8 := dkwX3_trace_0 ++ dktX3_trace_1
theorem dksX3_trace_0 : cX3_trace.data.toList.drop 0 = dktX3_trace_0 := sorry
theorem dksX3_trace_1 : cX3_trace.data.toList.drop 22 = dktX3_trace_1 := sorry
theorem dX3_trace_0 : decode cX3_trace 0 = .ok (.lconst 0, 1) := sorry
theorem dX3_trace_1 : decode cX3_trace 1 = .ok (.lstore_n 1, 1) := sorry
theorem dX3_trace_2 : decode cX3_trace 2 = .ok (.iconst 0, 1) := sorry
theorem dX3_trace_3 : decode cX3_trace 3 = .ok (.istore_n 3, 1) := sorry
theorem dX3_trace_4 : decode cX3_trace 4 = .ok (.iload_n 3, 1) := sorry
theorem dX3_trace_5 : decode cX3_trace 5 = .ok (.aload_n 0, 1) := sorry
theorem dX3_trace_6 : decode cX3_trace 6 = .ok (.getfield 7, 3) := sorry
theorem dX3_trace_9 : decode cX3_trace 9 = .ok (.if_icmp .ge 19, 3) := sorry
theorem dX3_trace_12 : decode cX3_trace 12 = .ok (.lload_n 1, 1) := sorry
theorem dX3_trace_13 : decode cX3_trace 13 = .ok (.aload_n 0, 1) := sorry
theorem dX3_trace_14 : decode cX3_trace 14 = .ok (.iload_n 3, 1) := sorry
theorem dX3_trace_15 : decode cX3_trace 15 = .ok (.iload_n 3, 1) := sorry
theorem dX3_trace_16 : decode cX3_trace 16 = .ok (.invokevirtual 22, 3) := sorry
theorem dX3_trace_19 : decode cX3_trace 19 = .ok (.i2l, 1) := sorry
theorem dX3_trace_20 : decode cX3_trace 20 = .ok (.ladd, 1) := sorry
theorem dX3_trace_21 : decode cX3_trace 21 = .ok (.lstore_n 1, 1) := sorry
theorem dX3_trace_22 : decode cX3_trace 22 = .ok (.iinc 3 1, 3) := sorry
theorem dX3_trace_25 : decode cX3_trace 25 = .ok (.goto (-21), 3) := sorry
theorem dX3_trace_28 : decode cX3_trace 28 = .ok (.lload_n 1, 1) := sorry
theorem dX3_trace_29 : decode cX3_trace 29 = .ok (.lreturn, 1) := sorry
abbrev cX3_sets : ByteArray := prog_6_method_4_code
def yX3_sets : MethodName := ⟨RX3, "sets", "(III)V"⟩
def dkwX3_sets_1 : List UInt8 := [27, 96, 29, 79, 177]
abbrev dktX3_sets_1 : List UInt8 := dkwX3_sets_1 ++ []
def dkwX3_sets_0 : List UInt8 := [42, 180, 0, 13, 42, 180, 0, 7, 27, 104, 28, 96, 29, 79, 42, 180, 0, 13, 42, 180, 0, 7, 28, 104]
abbrev dktX3_sets_0 : List UInt8 := dkwX3_sets_0 ++ dktX3_sets_1
theorem dksX3_sets_0 : cX3_sets.data.toList.drop 0 = dktX3_sets_0 := sorry
theorem dksX3_sets_1 : cX3_sets.data.toList.drop 24 = dktX3_sets_1 := sorry
theorem dX3_sets_0 : decode cX3_sets 0 = .ok (.aload_n 0, 1) := sorry
theorem dX3_sets_1 : decode cX3_sets 1 = .ok (.getfield 13, 3) := sorry
theorem dX3_sets_4 : decode cX3_sets 4 = .ok (.aload_n 0, 1) := sorry
theorem dX3_sets_5 : decode cX3_sets 5 = .ok (.getfield 7, 3) := sorry
theorem dX3_sets_8 : decode cX3_sets 8 = .ok (.iload_n 1, 1) := sorry
theorem dX3_sets_9 : decode cX3_sets 9 = .ok (.imul, 1) := sorry
theorem dX3_sets_10 : decode cX3_sets 10 = .ok (.iload_n 2, 1) := sorry
theorem dX3_sets_11 : decode cX3_sets 11 = .ok (.iadd, 1) := sorry
theorem dX3_sets_12 : decode cX3_sets 12 = .ok (.iload_n 3, 1) := sorry
theorem dX3_sets_13 : decode cX3_sets 13 = .ok (.iastore, 1) := sorry
theorem dX3_sets_14 : decode cX3_sets 14 = .ok (.aload_n 0, 1) := sorry
theorem dX3_sets_15 : decode cX3_sets 15 = .ok (.getfield 13, 3) := sorry
theorem dX3_sets_18 : decode cX3_sets 18 = .ok (.aload_n 0, 1) := sorry
theorem dX3_sets_19 : decode cX3_sets 19 = .ok (.getfield 7, 3) := sorry
theorem dX3_sets_22 : decode cX3_sets 22 = .ok (.iload_n 2, 1) := sorry
theorem dX3_sets_23 : decode cX3_sets 23 = .ok (.imul, 1) := sorry
theorem dX3_sets_24 : decode cX3_sets 24 = .ok (.iload_n 1, 1) := sorry
theorem dX3_sets_25 : decode cX3_sets 25 = .ok (.iadd, 1) := sorry
theorem dX3_sets_26 : decode cX3_sets 26 = .ok (.iload_n 3, 1) := sorry
theorem dX3_sets_27 : decode cX3_sets 27 = .ok (.iastore, 1) := sorry
theorem dX3_sets_28 : decode cX3_sets 28 = .ok (.return_, 1) := sorry
abbrev cX3_residual : ByteArray := prog_6_method_6_code
def yX3_residual : MethodName := ⟨RX3, "residual", "(JLKrylovLaboratory$Vector;)J"⟩
def dkwX3_residual_0 : List UInt8 := [42, 45, 182, 0, 35, 31, 45, 182, 0, 39, 182, 0, 43, 173]
abbrev dktX3_residual_0 : List UInt8 := dkwX3_residual_0 ++ []
theorem dksX3_residual_0 : cX3_residual.data.toList.drop 0 = dktX3_residual_0 := sorry
theorem dX3_residual_0 : decode cX3_residual 0 = .ok (.aload_n 0, 1) := sorry
theorem dX3_residual_1 : decode cX3_residual 1 = .ok (.aload_n 3, 1) := sorry
theorem dX3_residual_2 : decode cX3_residual 2 = .ok (.invokevirtual 35, 3) := sorry
theorem dX3_residual_5 : decode cX3_residual 5 = .ok (.lload_n 1, 1) := sorry
theorem dX3_residual_6 : decode cX3_residual 6 = .ok (.aload_n 3, 1) := sorry
theorem dX3_residual_7 : decode cX3_residual 7 = .ok (.invokevirtual 39, 3) := sorry
theorem dX3_residual_10 : decode cX3_residual 10 = .ok (.invokevirtual 43, 3) := sorry
theorem dX3_residual_13 : decode cX3_residual 13 = .ok (.lreturn, 1) := sorry
theorem q136 : (Jvm.Cond.initialized "KrylovLaboratory$Matrix") ∈ lw_all := sorry
theorem q239 : (Jvm.Cond.instantiable "KrylovLaboratory$Matrix" (2 : Nat)) ∈ lw_all := sorry
theorem q241 : (Jvm.Cond.instanceMethod ({ cls := "KrylovLaboratory$Matrix", name := "<init>", desc := "(I)V" } : Jvm.MethodName)) ∈ lw_all := sorry
theorem q242 : (Jvm.Cond.code ({ cls := "KrylovLaboratory$Matrix", name := "<init>", desc := "(I)V" } : Jvm.MethodName) prog_6_method_1_code (2 : Nat) (Option.none : Option Jvm.ClassFile.FieldType)) ∈ lw_all := sorry
theorem q243 : (Jvm.Cond.methodLink "KrylovLaboratory$Matrix" (1 : Nat) ({ cls := "java/lang/Object", name := "<init>", desc := "()V" } : Jvm.MethodName)) ∈ lw_all := sorry
theorem q244 : (Jvm.Cond.fieldLink "KrylovLaboratory$Matrix" (7 : Nat) "KrylovLaboratory$Matrix" "order" "I") ∈ lw_all := sorry
theorem q246 : (Jvm.Cond.fieldLink "KrylovLaboratory$Matrix" (13 : Nat) "KrylovLaboratory$Matrix" "entries" "[I") ∈ lw_all := lw_g (lw_at lw_m1 117 rfl) rfl
theorem q247 : (Jvm.Cond.laysFinal "KrylovLaboratory$Matrix" "KrylovLaboratory$Matrix" "order" "I") ∈ lw_all := sorry
theorem q248 : (Jvm.Cond.soleField "KrylovLaboratory$Matrix" "order") ∈ lw_all := sorry
theorem q249 : (Jvm.Cond.laysFinal "KrylovLaboratory$Matrix" "KrylovLaboratory$Matrix" "entries" "[I") ∈ lw_all := lw_g (lw_at lw_m1 120 rfl) rfl
theorem q250 : (Jvm.Cond.soleField "KrylovLaboratory$Matrix" "entries") ∈ lw_all := sorry
theorem q251 : (Jvm.Cond.superclass "KrylovLaboratory$Matrix" "java/lang/Object") ∈ lw_all := sorry
theorem q313 : (Jvm.Cond.fieldLinkNest "KrylovLaboratory$Matrix" (26 : Nat) "KrylovLaboratory$Vector" "row" "[J" "KrylovLaboratory") ∈ lw_tbl := lw_at lw_m1 184 rfl
theorem q561 : (Jvm.Cond.selects "KrylovLaboratory$Matrix" ({ cls := "java/lang/Object", name := "getClass", desc := "()Ljava/lang/Class;" } : Jvm.MethodName) ({ cls := "java/lang/Object", name := "getClass", desc := "()Ljava/lang/Class;" } : Jvm.MethodName)) ∈ lw_all := sorry
theorem q1235 : (Jvm.Cond.instanceMethod ({ cls := "KrylovLaboratory$Matrix", name := "<init>", desc := "(LKrylovLaboratory$Matrix;)V" } : Jvm.MethodName)) ∈ lw_all := sorry
theorem q1236 : (Jvm.Cond.code ({ cls := "KrylovLaboratory$Matrix", name := "<init>", desc := "(LKrylovLaboratory$Matrix;)V" } : Jvm.MethodName) prog_6_method_2_code (2 : Nat) (Option.none : Option Jvm.ClassFile.FieldType)) ∈ lw_all := sorry
theorem q1237 : (Jvm.Cond.methodLink "KrylovLaboratory$Matrix" (17 : Nat) ({ cls := "[I", name := "clone", desc := "()Ljava/lang/Object;" } : Jvm.MethodName)) ∈ lw_all := lw_g (lw_at lw_m5 148 rfl) rfl
theorem q1241 : (Jvm.Cond.classLink "KrylovLaboratory$Matrix" (18 : Nat) "[I") ∈ lw_all := lw_g (lw_at lw_m5 152 rfl) rfl
theorem q1312 : (Jvm.Cond.instanceMethod ({ cls := "KrylovLaboratory$Matrix", name := "times", desc := "(LKrylovLaboratory$Vector;)LKrylovLaboratory$Vector;" } : Jvm.MethodName)) ∈ lw_all := sorry
theorem q1313 : (Jvm.Cond.selects "KrylovLaboratory$Matrix" ({ cls := "KrylovLaboratory$Matrix", name := "times", desc := "(LKrylovLaboratory$Vector;)LKrylovLaboratory$Vector;" } : Jvm.MethodName) ({ cls := "KrylovLaboratory$Matrix", name := "times", desc := "(LKrylovLaboratory$Vector;)LKrylovLaboratory$Vector;" } : Jvm.MethodName)) ∈ lw_all := sorry
theorem q1314 : (Jvm.Cond.code ({ cls := "KrylovLaboratory$Matrix", name := "times", desc := "(LKrylovLaboratory$Vector;)LKrylovLaboratory$Vector;" } : Jvm.MethodName) prog_6_method_5_code (5 : Nat) (Option.some (Jvm.ClassFile.FieldType.object "KrylovLaboratory$Vector"))) ∈ lw_all := sorry
theorem q1315 : (Jvm.Cond.methodLink "KrylovLaboratory$Matrix" (22 : Nat) ({ cls := "KrylovLaboratory$Matrix", name := "at", desc := "(II)I" } : Jvm.MethodName)) ∈ lw_all := sorry
theorem q1316 : (Jvm.Cond.instanceMethod ({ cls := "KrylovLaboratory$Matrix", name := "at", desc := "(II)I" } : Jvm.MethodName)) ∈ lw_all := sorry
theorem q1317 : (Jvm.Cond.selects "KrylovLaboratory$Matrix" ({ cls := "KrylovLaboratory$Matrix", name := "at", desc := "(II)I" } : Jvm.MethodName) ({ cls := "KrylovLaboratory$Matrix", name := "at", desc := "(II)I" } : Jvm.MethodName)) ∈ lw_all := sorry
theorem q1318 : (Jvm.Cond.code ({ cls := "KrylovLaboratory$Matrix", name := "at", desc := "(II)I" } : Jvm.MethodName) prog_6_method_3_code (3 : Nat) (Option.some Jvm.ClassFile.FieldType.int)) ∈ lw_all := sorry
theorem q1319 : (Jvm.Cond.classLink "KrylovLaboratory$Matrix" (27 : Nat) "KrylovLaboratory$Vector") ∈ lw_all := sorry
theorem q1320 : (Jvm.Cond.methodLink "KrylovLaboratory$Matrix" (32 : Nat) ({ cls := "KrylovLaboratory$Vector", name := "<init>", desc := "([J)V" } : Jvm.MethodName)) ∈ lw_all := lw_g (lw_at lw_m5 231 rfl) rfl
theorem q1435 : (Jvm.Cond.instanceMethod ({ cls := "KrylovLaboratory$Matrix", name := "trace", desc := "()J" } : Jvm.MethodName)) ∈ lw_all := sorry
theorem q1436 : (Jvm.Cond.selects "KrylovLaboratory$Matrix" ({ cls := "KrylovLaboratory$Matrix", name := "trace", desc := "()J" } : Jvm.MethodName) ({ cls := "KrylovLaboratory$Matrix", name := "trace", desc := "()J" } : Jvm.MethodName)) ∈ lw_all := sorry
theorem q1437 : (Jvm.Cond.code ({ cls := "KrylovLaboratory$Matrix", name := "trace", desc := "()J" } : Jvm.MethodName) prog_6_method_7_code (4 : Nat) (Option.some Jvm.ClassFile.FieldType.long)) ∈ lw_all := sorry
theorem q1827 : (Jvm.Cond.instanceMethod ({ cls := "KrylovLaboratory$Matrix", name := "sets", desc := "(III)V" } : Jvm.MethodName)) ∈ lw_all := sorry
theorem q1828 : (Jvm.Cond.selects "KrylovLaboratory$Matrix" ({ cls := "KrylovLaboratory$Matrix", name := "sets", desc := "(III)V" } : Jvm.MethodName) ({ cls := "KrylovLaboratory$Matrix", name := "sets", desc := "(III)V" } : Jvm.MethodName)) ∈ lw_all := sorry
theorem q1829 : (Jvm.Cond.code ({ cls := "KrylovLaboratory$Matrix", name := "sets", desc := "(III)V" } : Jvm.MethodName) prog_6_method_4_code (4 : Nat) (Option.none : Option Jvm.ClassFile.FieldType)) ∈ lw_all := sorry
theorem q1948 : (Jvm.Cond.instanceMethod ({ cls := "KrylovLaboratory$Matrix", name := "residual", desc := "(JLKrylovLaboratory$Vector;)J" } : Jvm.MethodName)) ∈ lw_all := sorry
theorem q1949 : (Jvm.Cond.selects "KrylovLaboratory$Matrix" ({ cls := "KrylovLaboratory$Matrix", name := "residual", desc := "(JLKrylovLaboratory$Vector;)J" } : Jvm.MethodName) ({ cls := "KrylovLaboratory$Matrix", name := "residual", desc := "(JLKrylovLaboratory$Vector;)J" } : Jvm.MethodName)) ∈ lw_all := sorry
theorem q1950 : (Jvm.Cond.code ({ cls := "KrylovLaboratory$Matrix", name := "residual", desc := "(JLKrylovLaboratory$Vector;)J" } : Jvm.MethodName) prog_6_method_6_code (4 : Nat) (Option.some Jvm.ClassFile.FieldType.long)) ∈ lw_all := sorry
theorem q1951 : (Jvm.Cond.methodLink "KrylovLaboratory$Matrix" (35 : Nat) ({ cls := "KrylovLaboratory$Matrix", name := "times", desc := "(LKrylovLaboratory$Vector;)LKrylovLaboratory$Vector;" } : Jvm.MethodName)) ∈ lw_all := sorry
theorem q1952 : (Jvm.Cond.methodLink "KrylovLaboratory$Matrix" (39 : Nat) ({ cls := "KrylovLaboratory$Vector", name := "less", desc := "(JLKrylovLaboratory$Vector;)LKrylovLaboratory$Vector;" } : Jvm.MethodName)) ∈ lw_all := sorry
theorem q1953 : (Jvm.Cond.methodLink "KrylovLaboratory$Matrix" (43 : Nat) ({ cls := "KrylovLaboratory$Vector", name := "norm", desc := "()J" } : Jvm.MethodName)) ∈ lw_all := sorry
theorem q2416 : (Jvm.Cond.selects "KrylovLaboratory$Matrix" ({ cls := "java/lang/Object", name := "equals", desc := "(Ljava/lang/Object;)Z" } : Jvm.MethodName) ({ cls := "java/lang/Object", name := "equals", desc := "(Ljava/lang/Object;)Z" } : Jvm.MethodName)) ∈ lw_all := sorry
theorem q3234 : (Jvm.Cond.castable "KrylovLaboratory$Matrix" "java/lang/Object") ∈ lw_tbl := sorry
theorem in_X3 : ∀ w ∈ wsX30, w ∈ lw_all := sorry
/-! KrylovLaboratory$Vector -/
set_option maxRecDepth 100000
def RX4 : String := "KrylovLaboratory$Vector"
def TX4 : u_T := fun k => match k with
  | _ => ("KrylovLaboratory$Vector", "row", "[J", true)
def tyX4 : Nat → FieldType := fun k => match k with
  | _ => .array .long
abbrev wsX40 : List Cond := u_ws RX4 TX4 1
theorem nmX4 : ∀ a, a < 1 → ∀ b, b < 1 → a ≠ b → (TX4 a).2.1 ≠ (TX4 b).2.1 := sorry
theorem tyX4_ok : ∀ k, k < 1 → parseFieldDescriptor (TX4 k).2.2.1 = some (tyX4 k) := sorry
abbrev cX4_init : ByteArray := prog_15_method_1_code
def yX4_init : MethodName := ⟨RX4, "<init>", "([J)V"⟩
def dkwX4_init_0 : List UInt8 := [42, 183, 0, 3, 42, 43, 181, 0, 9, 177]
abbrev dktX4_init_0 : List UInt8 := dkwX4_init_0 ++ []
theorem dksX4_init_0 : cX4_init.data.toList.drop 0 = dktX4_init_0 := sorry
theorem dX4_init_0 : decode cX4_init 0 = .ok (.aload_n 0, 1) := sorry
theorem dX4_init_1 : decode cX4_init 1 = .ok (.invokespecial 3, 3) := sorry
theorem dX4_init_4 : decode cX4_init 4 = .ok (.aload_n 0, 1) := sorry
theorem dX4_init_5 : decode cX4_init 5 = .ok (.aload_n 1, 1) := sorry
theorem dX4_init_6 : decode cX4_init 6 = .ok (.putfield 9, 3) := sorry
theorem dX4_init_9 : decode cX4_init 9 = .ok (.return_, 1) := sorry
abbrev cX4_without : ByteArray := prog_15_method_6_code
def yX4_without : MethodName := ⟨RX4, "without", "(LKrylovLaboratory$Vector;)LKrylovLaboratory$Vector;"⟩
def dkwX4_without_0 : List UInt8 := [42, 42, 43, 182, 0, 30, 43, 182, 0, 34, 176]
abbrev dktX4_without_0 : List UInt8 := dkwX4_without_0 ++ []
theorem dksX4_without_0 : cX4_without.data.toList.drop 0 = dktX4_without_0 := sorry
theorem dX4_without_0 : decode cX4_without 0 = .ok (.aload_n 0, 1) := sorry
theorem dX4_without_1 : decode cX4_without 1 = .ok (.aload_n 0, 1) := sorry
theorem dX4_without_2 : decode cX4_without 2 = .ok (.aload_n 1, 1) := sorry
theorem dX4_without_3 : decode cX4_without 3 = .ok (.invokevirtual 30, 3) := sorry
theorem dX4_without_6 : decode cX4_without 6 = .ok (.aload_n 1, 1) := sorry
theorem dX4_without_7 : decode cX4_without 7 = .ok (.invokevirtual 34, 3) := sorry
theorem dX4_without_10 : decode cX4_without 10 = .ok (.areturn, 1) := sorry
abbrev cX4_dot : ByteArray := prog_15_method_3_code
def yX4_dot : MethodName := ⟨RX4, "dot", "(LKrylovLaboratory$Vector;)J"⟩
def dkwX4_dot_1 : List UInt8 := [180, 0, 9, 21, 4, 47, 105, 97, 65, 132, 4, 1, 167, 255, 225, 32, 20, 0, 15, 184, 0, 17, 173]
abbrev dktX4_dot_1 : List UInt8 := dkwX4_dot_1 ++ []
def dkwX4_dot_0 : List UInt8 := [9, 65, 3, 54, 4, 21, 4, 42, 180, 0, 9, 190, 162, 0, 27, 32, 42, 180, 0, 9, 21, 4, 47, 43]
abbrev dktX4_dot_0 : List UInt8 := dkwX4_dot_0 ++ dktX4_dot_1
theorem dksX4_dot_0 : cX4_dot.data.toList.drop 0 = dktX4_dot_0 := sorry
theorem dksX4_dot_1 : cX4_dot.data.toList.drop 24 = dktX4_dot_1 := sorry
theorem dX4_dot_0 : decode cX4_dot 0 = .ok (.lconst 0, 1) := sorry
theorem dX4_dot_1 : decode cX4_dot 1 = .ok (.lstore_n 2, 1) := sorry
theorem dX4_dot_2 : decode cX4_dot 2 = .ok (.iconst 0, 1) := sorry
theorem dX4_dot_3 : decode cX4_dot 3 = .ok (.istore 4, 2) := sorry
theorem dX4_dot_5 : decode cX4_dot 5 = .ok (.iload 4, 2) := sorry
theorem dX4_dot_7 : decode cX4_dot 7 = .ok (.aload_n 0, 1) := sorry
theorem dX4_dot_8 : decode cX4_dot 8 = .ok (.getfield 9, 3) := sorry
theorem dX4_dot_11 : decode cX4_dot 11 = .ok (.arraylength, 1) := sorry
theorem dX4_dot_12 : decode cX4_dot 12 = .ok (.if_icmp .ge 27, 3) := sorry
theorem dX4_dot_15 : decode cX4_dot 15 = .ok (.lload_n 2, 1) := sorry
theorem dX4_dot_16 : decode cX4_dot 16 = .ok (.aload_n 0, 1) := sorry
theorem dX4_dot_17 : decode cX4_dot 17 = .ok (.getfield 9, 3) := sorry
theorem dX4_dot_20 : decode cX4_dot 20 = .ok (.iload 4, 2) := sorry
theorem dX4_dot_22 : decode cX4_dot 22 = .ok (.laload, 1) := sorry
theorem dX4_dot_23 : decode cX4_dot 23 = .ok (.aload_n 1, 1) := sorry
theorem dX4_dot_24 : decode cX4_dot 24 = .ok (.getfield 9, 3) := sorry
theorem dX4_dot_27 : decode cX4_dot 27 = .ok (.iload 4, 2) := sorry
theorem dX4_dot_29 : decode cX4_dot 29 = .ok (.laload, 1) := sorry
theorem dX4_dot_30 : decode cX4_dot 30 = .ok (.lmul, 1) := sorry
theorem dX4_dot_31 : decode cX4_dot 31 = .ok (.ladd, 1) := sorry
theorem dX4_dot_32 : decode cX4_dot 32 = .ok (.lstore_n 2, 1) := sorry
theorem dX4_dot_33 : decode cX4_dot 33 = .ok (.iinc 4 1, 3) := sorry
theorem dX4_dot_36 : decode cX4_dot 36 = .ok (.goto (-31), 3) := sorry
theorem dX4_dot_39 : decode cX4_dot 39 = .ok (.lload_n 2, 1) := sorry
theorem dX4_dot_40 : decode cX4_dot 40 = .ok (.ldc2_w 15, 3) := sorry
theorem dX4_dot_43 : decode cX4_dot 43 = .ok (.invokestatic 17, 3) := sorry
theorem dX4_dot_46 : decode cX4_dot 46 = .ok (.lreturn, 1) := sorry
abbrev cX4_less : ByteArray := prog_15_method_5_code
def yX4_less : MethodName := ⟨RX4, "less", "(JLKrylovLaboratory$Vector;)LKrylovLaboratory$Vector;"⟩
def dkwX4_less_2 : List UInt8 := [101, 80, 132, 5, 1, 167, 255, 215, 187, 0, 10, 89, 25, 4, 183, 0, 27, 176]
abbrev dktX4_less_2 : List UInt8 := dkwX4_less_2 ++ []
def dkwX4_less_1 : List UInt8 := [21, 5, 42, 180, 0, 9, 21, 5, 47, 31, 45, 180, 0, 9, 21, 5, 47, 105, 20, 0, 15, 184, 0, 17]
abbrev dktX4_less_1 : List UInt8 := dkwX4_less_1 ++ dktX4_less_2
def dkwX4_less_0 : List UInt8 := [42, 180, 0, 9, 190, 188, 11, 58, 4, 3, 54, 5, 21, 5, 42, 180, 0, 9, 190, 162, 0, 37, 25, 4]
abbrev dktX4_less_0 : List UInt8 := dkwX4_less_0 ++ dktX4_less_1
theorem dksX4_less_0 : cX4_less.data.toList.drop 0 = dktX4_less_0 := sorry
theorem dksX4_less_1 : cX4_less.data.toList.drop 24 = dktX4_less_1 := sorry
theorem dksX4_less_2 : cX4_less.data.toList.drop 48 = dktX4_less_2 := sorry
theorem dX4_less_0 : decode cX4_less 0 = .ok (.aload_n 0, 1) := sorry
theorem dX4_less_1 : decode cX4_less 1 = .ok (.getfield 9, 3) := sorry
theorem dX4_less_4 : decode cX4_less 4 = .ok (.arraylength, 1) := sorry
theorem dX4_less_5 : decode cX4_less 5 = .ok (.newarray .long, 2) := sorry
theorem dX4_less_7 : decode cX4_less 7 = .ok (.astore 4, 2) := sorry
theorem dX4_less_9 : decode cX4_less 9 = .ok (.iconst 0, 1) := sorry
theorem dX4_less_10 : decode cX4_less 10 = .ok (.istore 5, 2) := sorry
theorem dX4_less_12 : decode cX4_less 12 = .ok (.iload 5, 2) := sorry
theorem dX4_less_14 : decode cX4_less 14 = .ok (.aload_n 0, 1) := sorry
theorem dX4_less_15 : decode cX4_less 15 = .ok (.getfield 9, 3) := sorry
theorem dX4_less_18 : decode cX4_less 18 = .ok (.arraylength, 1) := sorry
theorem dX4_less_19 : decode cX4_less 19 = .ok (.if_icmp .ge 37, 3) := sorry
theorem dX4_less_22 : decode cX4_less 22 = .ok (.aload 4, 2) := sorry
theorem dX4_less_24 : decode cX4_less 24 = .ok (.iload 5, 2) := sorry
theorem dX4_less_26 : decode cX4_less 26 = .ok (.aload_n 0, 1) := sorry
theorem dX4_less_27 : decode cX4_less 27 = .ok (.getfield 9, 3) := sorry
theorem dX4_less_30 : decode cX4_less 30 = .ok (.iload 5, 2) := sorry
theorem dX4_less_32 : decode cX4_less 32 = .ok (.laload, 1) := sorry
theorem dX4_less_33 : decode cX4_less 33 = .ok (.lload_n 1, 1) := sorry
theorem dX4_less_34 : decode cX4_less 34 = .ok (.aload_n 3, 1) := sorry
theorem dX4_less_35 : decode cX4_less 35 = .ok (.getfield 9, 3) := sorry
theorem dX4_less_38 : decode cX4_less 38 = .ok (.iload 5, 2) := sorry
theorem dX4_less_40 : decode cX4_less 40 = .ok (.laload, 1) := sorry
theorem dX4_less_41 : decode cX4_less 41 = .ok (.lmul, 1) := sorry
theorem dX4_less_42 : decode cX4_less 42 = .ok (.ldc2_w 15, 3) := sorry
theorem dX4_less_45 : decode cX4_less 45 = .ok (.invokestatic 17, 3) := sorry
theorem dX4_less_48 : decode cX4_less 48 = .ok (.lsub, 1) := sorry
theorem dX4_less_49 : decode cX4_less 49 = .ok (.lastore, 1) := sorry
theorem dX4_less_50 : decode cX4_less 50 = .ok (.iinc 5 1, 3) := sorry
theorem dX4_less_53 : decode cX4_less 53 = .ok (.goto (-41), 3) := sorry
theorem dX4_less_56 : decode cX4_less 56 = .ok (.new 10, 3) := sorry
theorem dX4_less_59 : decode cX4_less 59 = .ok (.dup, 1) := sorry
theorem dX4_less_60 : decode cX4_less 60 = .ok (.aload 4, 2) := sorry
theorem dX4_less_62 : decode cX4_less 62 = .ok (.invokespecial 27, 3) := sorry
theorem dX4_less_65 : decode cX4_less 65 = .ok (.areturn, 1) := sorry
abbrev cX4_norm : ByteArray := prog_15_method_4_code
def yX4_norm : MethodName := ⟨RX4, "norm", "()J"⟩
def dkwX4_norm_1 : List UInt8 := [29, 47, 105, 97, 64, 132, 3, 1, 167, 255, 228, 31, 184, 0, 23, 173]
abbrev dktX4_norm_1 : List UInt8 := dkwX4_norm_1 ++ []
def dkwX4_norm_0 : List UInt8 := [9, 64, 3, 62, 29, 42, 180, 0, 9, 190, 162, 0, 25, 31, 42, 180, 0, 9, 29, 47, 42, 180, 0, 9]
abbrev dktX4_norm_0 : List UInt8 := dkwX4_norm_0 ++ dktX4_norm_1
theorem dksX4_norm_0 : cX4_norm.data.toList.drop 0 = dktX4_norm_0 := sorry
theorem dksX4_norm_1 : cX4_norm.data.toList.drop 24 = dktX4_norm_1 := sorry
theorem dX4_norm_0 : decode cX4_norm 0 = .ok (.lconst 0, 1) := sorry
theorem dX4_norm_1 : decode cX4_norm 1 = .ok (.lstore_n 1, 1) := sorry
theorem dX4_norm_2 : decode cX4_norm 2 = .ok (.iconst 0, 1) := sorry
theorem dX4_norm_3 : decode cX4_norm 3 = .ok (.istore_n 3, 1) := sorry
theorem dX4_norm_4 : decode cX4_norm 4 = .ok (.iload_n 3, 1) := sorry
theorem dX4_norm_5 : decode cX4_norm 5 = .ok (.aload_n 0, 1) := sorry
theorem dX4_norm_6 : decode cX4_norm 6 = .ok (.getfield 9, 3) := sorry
theorem dX4_norm_9 : decode cX4_norm 9 = .ok (.arraylength, 1) := sorry
theorem dX4_norm_10 : decode cX4_norm 10 = .ok (.if_icmp .ge 25, 3) := sorry
theorem dX4_norm_13 : decode cX4_norm 13 = .ok (.lload_n 1, 1) := sorry
theorem dX4_norm_14 : decode cX4_norm 14 = .ok (.aload_n 0, 1) := sorry
theorem dX4_norm_15 : decode cX4_norm 15 = .ok (.getfield 9, 3) := sorry
theorem dX4_norm_18 : decode cX4_norm 18 = .ok (.iload_n 3, 1) := sorry
theorem dX4_norm_19 : decode cX4_norm 19 = .ok (.laload, 1) := sorry
theorem dX4_norm_20 : decode cX4_norm 20 = .ok (.aload_n 0, 1) := sorry
theorem dX4_norm_21 : decode cX4_norm 21 = .ok (.getfield 9, 3) := sorry
theorem dX4_norm_24 : decode cX4_norm 24 = .ok (.iload_n 3, 1) := sorry
theorem dX4_norm_25 : decode cX4_norm 25 = .ok (.laload, 1) := sorry
theorem dX4_norm_26 : decode cX4_norm 26 = .ok (.lmul, 1) := sorry
theorem dX4_norm_27 : decode cX4_norm 27 = .ok (.ladd, 1) := sorry
theorem dX4_norm_28 : decode cX4_norm 28 = .ok (.lstore_n 1, 1) := sorry
theorem dX4_norm_29 : decode cX4_norm 29 = .ok (.iinc 3 1, 3) := sorry
theorem dX4_norm_32 : decode cX4_norm 32 = .ok (.goto (-28), 3) := sorry
theorem dX4_norm_35 : decode cX4_norm 35 = .ok (.lload_n 1, 1) := sorry
theorem dX4_norm_36 : decode cX4_norm 36 = .ok (.invokestatic 23, 3) := sorry
theorem dX4_norm_39 : decode cX4_norm 39 = .ok (.lreturn, 1) := sorry
abbrev cX4_unit : ByteArray := prog_15_method_8_code
def yX4_unit : MethodName := ⟨RX4, "unit", "()LKrylovLaboratory$Vector;"⟩
def dkwX4_unit_2 : List UInt8 := [31, 184, 0, 17, 80, 132, 4, 1, 167, 255, 224, 187, 0, 10, 89, 45, 183, 0, 27, 176]
abbrev dktX4_unit_2 : List UInt8 := dkwX4_unit_2 ++ []
def dkwX4_unit_1 : List UInt8 := [21, 4, 42, 180, 0, 9, 190, 162, 0, 28, 45, 21, 4, 42, 180, 0, 9, 21, 4, 47, 20, 0, 15, 105]
abbrev dktX4_unit_1 : List UInt8 := dkwX4_unit_1 ++ dktX4_unit_2
def dkwX4_unit_0 : List UInt8 := [42, 182, 0, 38, 64, 31, 9, 148, 154, 0, 5, 42, 176, 42, 180, 0, 9, 190, 188, 11, 78, 3, 54, 4]
abbrev dktX4_unit_0 : List UInt8 := dkwX4_unit_0 ++ dktX4_unit_1
theorem dksX4_unit_0 : cX4_unit.data.toList.drop 0 = dktX4_unit_0 := sorry
theorem dksX4_unit_1 : cX4_unit.data.toList.drop 24 = dktX4_unit_1 := sorry
theorem dksX4_unit_2 : cX4_unit.data.toList.drop 48 = dktX4_unit_2 := sorry
theorem dX4_unit_0 : decode cX4_unit 0 = .ok (.aload_n 0, 1) := sorry
theorem dX4_unit_1 : decode cX4_unit 1 = .ok (.invokevirtual 38, 3) := sorry
theorem dX4_unit_4 : decode cX4_unit 4 = .ok (.lstore_n 1, 1) := sorry
theorem dX4_unit_5 : decode cX4_unit 5 = .ok (.lload_n 1, 1) := sorry
theorem dX4_unit_6 : decode cX4_unit 6 = .ok (.lconst 0, 1) := sorry
theorem dX4_unit_7 : decode cX4_unit 7 = .ok (.lcmp, 1) := sorry
theorem dX4_unit_8 : decode cX4_unit 8 = .ok (.ifCond .ne 5, 3) := sorry
theorem dX4_unit_11 : decode cX4_unit 11 = .ok (.aload_n 0, 1) := sorry
theorem dX4_unit_12 : decode cX4_unit 12 = .ok (.areturn, 1) := sorry
theorem dX4_unit_13 : decode cX4_unit 13 = .ok (.aload_n 0, 1) := sorry
theorem dX4_unit_14 : decode cX4_unit 14 = .ok (.getfield 9, 3) := sorry
theorem dX4_unit_17 : decode cX4_unit 17 = .ok (.arraylength, 1) := sorry
theorem dX4_unit_18 : decode cX4_unit 18 = .ok (.newarray .long, 2) := sorry
theorem dX4_unit_20 : decode cX4_unit 20 = .ok (.astore_n 3, 1) := sorry
theorem dX4_unit_21 : decode cX4_unit 21 = .ok (.iconst 0, 1) := sorry
theorem dX4_unit_22 : decode cX4_unit 22 = .ok (.istore 4, 2) := sorry
theorem dX4_unit_24 : decode cX4_unit 24 = .ok (.iload 4, 2) := sorry
theorem dX4_unit_26 : decode cX4_unit 26 = .ok (.aload_n 0, 1) := sorry
theorem dX4_unit_27 : decode cX4_unit 27 = .ok (.getfield 9, 3) := sorry
theorem dX4_unit_30 : decode cX4_unit 30 = .ok (.arraylength, 1) := sorry
theorem dX4_unit_31 : decode cX4_unit 31 = .ok (.if_icmp .ge 28, 3) := sorry
theorem dX4_unit_34 : decode cX4_unit 34 = .ok (.aload_n 3, 1) := sorry
theorem dX4_unit_35 : decode cX4_unit 35 = .ok (.iload 4, 2) := sorry
theorem dX4_unit_37 : decode cX4_unit 37 = .ok (.aload_n 0, 1) := sorry
theorem dX4_unit_38 : decode cX4_unit 38 = .ok (.getfield 9, 3) := sorry
theorem dX4_unit_41 : decode cX4_unit 41 = .ok (.iload 4, 2) := sorry
theorem dX4_unit_43 : decode cX4_unit 43 = .ok (.laload, 1) := sorry
theorem dX4_unit_44 : decode cX4_unit 44 = .ok (.ldc2_w 15, 3) := sorry
theorem dX4_unit_47 : decode cX4_unit 47 = .ok (.lmul, 1) := sorry
theorem dX4_unit_48 : decode cX4_unit 48 = .ok (.lload_n 1, 1) := sorry
theorem dX4_unit_49 : decode cX4_unit 49 = .ok (.invokestatic 17, 3) := sorry
theorem dX4_unit_52 : decode cX4_unit 52 = .ok (.lastore, 1) := sorry
theorem dX4_unit_53 : decode cX4_unit 53 = .ok (.iinc 4 1, 3) := sorry
theorem dX4_unit_56 : decode cX4_unit 56 = .ok (.goto (-32), 3) := sorry
theorem dX4_unit_59 : decode cX4_unit 59 = .ok (.new 10, 3) := sorry
theorem dX4_unit_62 : decode cX4_unit 62 = .ok (.dup, 1) := sorry
theorem dX4_unit_63 : decode cX4_unit 63 = .ok (.aload_n 3, 1) := sorry
theorem dX4_unit_64 : decode cX4_unit 64 = .ok (.invokespecial 27, 3) := sorry
theorem dX4_unit_67 : decode cX4_unit 67 = .ok (.areturn, 1) := sorry
abbrev cX4_size : ByteArray := prog_15_method_2_code
def yX4_size : MethodName := ⟨RX4, "size", "()I"⟩
def dkwX4_size_0 : List UInt8 := [42, 180, 0, 9, 190, 172]
abbrev dktX4_size_0 : List UInt8 := dkwX4_size_0 ++ []
theorem dksX4_size_0 : cX4_size.data.toList.drop 0 = dktX4_size_0 := sorry
theorem dX4_size_0 : decode cX4_size 0 = .ok (.aload_n 0, 1) := sorry
theorem dX4_size_1 : decode cX4_size 1 = .ok (.getfield 9, 3) := sorry
theorem dX4_size_4 : decode cX4_size 4 = .ok (.arraylength, 1) := sorry
theorem dX4_size_5 : decode cX4_size 5 = .ok (.ireturn, 1) := sorry
abbrev cX4_plus : ByteArray := prog_15_method_7_code
def yX4_plus : MethodName := ⟨RX4, "plus", "(LKrylovLaboratory$Vector;)LKrylovLaboratory$Vector;"⟩
def dkwX4_plus_2 : List UInt8 := [183, 0, 27, 176]
abbrev dktX4_plus_2 : List UInt8 := dkwX4_plus_2 ++ []
def dkwX4_plus_1 : List UInt8 := [180, 0, 9, 29, 47, 43, 180, 0, 9, 29, 47, 97, 80, 132, 3, 1, 167, 255, 228, 187, 0, 10, 89, 44]
abbrev dktX4_plus_1 : List UInt8 := dkwX4_plus_1 ++ dktX4_plus_2
def dkwX4_plus_0 : List UInt8 := [42, 180, 0, 9, 190, 188, 11, 77, 3, 62, 29, 42, 180, 0, 9, 190, 162, 0, 25, 44, 29, 42]
abbrev dktX4_plus_0 : List UInt8 := dkwX4_plus_0 ++ dktX4_plus_1
theorem dksX4_plus_0 : cX4_plus.data.toList.drop 0 = dktX4_plus_0 := sorry
theorem dksX4_plus_1 : cX4_plus.data.toList.drop 22 = dktX4_plus_1 := sorry
theorem dksX4_plus_2 : cX4_plus.data.toList.drop 46 = dktX4_plus_2 := sorry
theorem dX4_plus_0 : decode cX4_plus 0 = .ok (.aload_n 0, 1) := sorry
theorem dX4_plus_1 : decode cX4_plus 1 = .ok (.getfield 9, 3) := sorry
theorem dX4_plus_4 : decode cX4_plus 4 = .ok (.arraylength, 1) := sorry
theorem dX4_plus_5 : decode cX4_plus 5 = .ok (.newarray .long, 2) := sorry
theorem dX4_plus_7 : decode cX4_plus 7 = .ok (.astore_n 2, 1) := sorry
theorem dX4_plus_8 : decode cX4_plus 8 = .ok (.iconst 0, 1) := sorry
theorem dX4_plus_9 : decode cX4_plus 9 = .ok (.istore_n 3, 1) := sorry
theorem dX4_plus_10 : decode cX4_plus 10 = .ok (.iload_n 3, 1) := sorry
theorem dX4_plus_11 : decode cX4_plus 11 = .ok (.aload_n 0, 1) := sorry
theorem dX4_plus_12 : decode cX4_plus 12 = .ok (.getfield 9, 3) := sorry
theorem dX4_plus_15 : decode cX4_plus 15 = .ok (.arraylength, 1) := sorry
theorem dX4_plus_16 : decode cX4_plus 16 = .ok (.if_icmp .ge 25, 3) := sorry
theorem dX4_plus_19 : decode cX4_plus 19 = .ok (.aload_n 2, 1) := sorry
theorem dX4_plus_20 : decode cX4_plus 20 = .ok (.iload_n 3, 1) := sorry
theorem dX4_plus_21 : decode cX4_plus 21 = .ok (.aload_n 0, 1) := sorry
theorem dX4_plus_22 : decode cX4_plus 22 = .ok (.getfield 9, 3) := sorry
theorem dX4_plus_25 : decode cX4_plus 25 = .ok (.iload_n 3, 1) := sorry
theorem dX4_plus_26 : decode cX4_plus 26 = .ok (.laload, 1) := sorry
theorem dX4_plus_27 : decode cX4_plus 27 = .ok (.aload_n 1, 1) := sorry
theorem dX4_plus_28 : decode cX4_plus 28 = .ok (.getfield 9, 3) := sorry
theorem dX4_plus_31 : decode cX4_plus 31 = .ok (.iload_n 3, 1) := sorry
theorem dX4_plus_32 : decode cX4_plus 32 = .ok (.laload, 1) := sorry
theorem dX4_plus_33 : decode cX4_plus 33 = .ok (.ladd, 1) := sorry
theorem dX4_plus_34 : decode cX4_plus 34 = .ok (.lastore, 1) := sorry
theorem dX4_plus_35 : decode cX4_plus 35 = .ok (.iinc 3 1, 3) := sorry
theorem dX4_plus_38 : decode cX4_plus 38 = .ok (.goto (-28), 3) := sorry
theorem dX4_plus_41 : decode cX4_plus 41 = .ok (.new 10, 3) := sorry
theorem dX4_plus_44 : decode cX4_plus 44 = .ok (.dup, 1) := sorry
theorem dX4_plus_45 : decode cX4_plus 45 = .ok (.aload_n 2, 1) := sorry
theorem dX4_plus_46 : decode cX4_plus 46 = .ok (.invokespecial 27, 3) := sorry
theorem dX4_plus_49 : decode cX4_plus 49 = .ok (.areturn, 1) := sorry
theorem q137 : (Jvm.Cond.initialized "KrylovLaboratory$Vector") ∈ lw_all := sorry
theorem q307 : (Jvm.Cond.instantiable "KrylovLaboratory$Vector" (1 : Nat)) ∈ lw_all := sorry
theorem q309 : (Jvm.Cond.instanceMethod ({ cls := "KrylovLaboratory$Vector", name := "<init>", desc := "([J)V" } : Jvm.MethodName)) ∈ lw_all := lw_g (lw_at lw_m1 180 rfl) rfl
theorem q310 : (Jvm.Cond.code ({ cls := "KrylovLaboratory$Vector", name := "<init>", desc := "([J)V" } : Jvm.MethodName) prog_15_method_1_code (2 : Nat) (Option.none : Option Jvm.ClassFile.FieldType)) ∈ lw_all := lw_g (lw_at lw_m1 181 rfl) rfl
theorem q311 : (Jvm.Cond.methodLink "KrylovLaboratory$Vector" (3 : Nat) ({ cls := "java/lang/Object", name := "<init>", desc := "()V" } : Jvm.MethodName)) ∈ lw_all := sorry
theorem q312 : (Jvm.Cond.fieldLink "KrylovLaboratory$Vector" (9 : Nat) "KrylovLaboratory$Vector" "row" "[J") ∈ lw_all := lw_g (lw_at lw_m1 183 rfl) rfl
theorem q316 : (Jvm.Cond.laysFinal "KrylovLaboratory$Vector" "KrylovLaboratory$Vector" "row" "[J") ∈ lw_all := lw_g (lw_at lw_m1 187 rfl) rfl
theorem q317 : (Jvm.Cond.soleField "KrylovLaboratory$Vector" "row") ∈ lw_all := sorry
theorem q318 : (Jvm.Cond.superclass "KrylovLaboratory$Vector" "java/lang/Object") ∈ lw_all := sorry
theorem q568 : (Jvm.Cond.selects "KrylovLaboratory$Vector" ({ cls := "java/lang/Object", name := "getClass", desc := "()Ljava/lang/Class;" } : Jvm.MethodName) ({ cls := "java/lang/Object", name := "getClass", desc := "()Ljava/lang/Class;" } : Jvm.MethodName)) ∈ lw_all := sorry
theorem q923 : (Jvm.Cond.instanceMethod ({ cls := "KrylovLaboratory$Vector", name := "without", desc := "(LKrylovLaboratory$Vector;)LKrylovLaboratory$Vector;" } : Jvm.MethodName)) ∈ lw_all := sorry
theorem q924 : (Jvm.Cond.selects "KrylovLaboratory$Vector" ({ cls := "KrylovLaboratory$Vector", name := "without", desc := "(LKrylovLaboratory$Vector;)LKrylovLaboratory$Vector;" } : Jvm.MethodName) ({ cls := "KrylovLaboratory$Vector", name := "without", desc := "(LKrylovLaboratory$Vector;)LKrylovLaboratory$Vector;" } : Jvm.MethodName)) ∈ lw_all := sorry
theorem q925 : (Jvm.Cond.code ({ cls := "KrylovLaboratory$Vector", name := "without", desc := "(LKrylovLaboratory$Vector;)LKrylovLaboratory$Vector;" } : Jvm.MethodName) prog_15_method_6_code (2 : Nat) (Option.some (Jvm.ClassFile.FieldType.object "KrylovLaboratory$Vector"))) ∈ lw_all := sorry
theorem q926 : (Jvm.Cond.methodLink "KrylovLaboratory$Vector" (30 : Nat) ({ cls := "KrylovLaboratory$Vector", name := "dot", desc := "(LKrylovLaboratory$Vector;)J" } : Jvm.MethodName)) ∈ lw_all := sorry
theorem q927 : (Jvm.Cond.instanceMethod ({ cls := "KrylovLaboratory$Vector", name := "dot", desc := "(LKrylovLaboratory$Vector;)J" } : Jvm.MethodName)) ∈ lw_all := sorry
theorem q928 : (Jvm.Cond.selects "KrylovLaboratory$Vector" ({ cls := "KrylovLaboratory$Vector", name := "dot", desc := "(LKrylovLaboratory$Vector;)J" } : Jvm.MethodName) ({ cls := "KrylovLaboratory$Vector", name := "dot", desc := "(LKrylovLaboratory$Vector;)J" } : Jvm.MethodName)) ∈ lw_all := sorry
theorem q929 : (Jvm.Cond.code ({ cls := "KrylovLaboratory$Vector", name := "dot", desc := "(LKrylovLaboratory$Vector;)J" } : Jvm.MethodName) prog_15_method_3_code (5 : Nat) (Option.some Jvm.ClassFile.FieldType.long)) ∈ lw_all := sorry
theorem q930 : (Jvm.Cond.constantLong "KrylovLaboratory$Vector" (15 : Nat) (1000000 : Int64)) ∈ lw_all := sorry
theorem q931 : (Jvm.Cond.methodLink "KrylovLaboratory$Vector" (17 : Nat) ({ cls := "java/lang/Math", name := "floorDiv", desc := "(JJ)J" } : Jvm.MethodName)) ∈ lw_all := sorry
theorem q934 : (Jvm.Cond.methodLink "KrylovLaboratory$Vector" (34 : Nat) ({ cls := "KrylovLaboratory$Vector", name := "less", desc := "(JLKrylovLaboratory$Vector;)LKrylovLaboratory$Vector;" } : Jvm.MethodName)) ∈ lw_all := sorry
theorem q935 : (Jvm.Cond.instanceMethod ({ cls := "KrylovLaboratory$Vector", name := "less", desc := "(JLKrylovLaboratory$Vector;)LKrylovLaboratory$Vector;" } : Jvm.MethodName)) ∈ lw_all := sorry
theorem q936 : (Jvm.Cond.selects "KrylovLaboratory$Vector" ({ cls := "KrylovLaboratory$Vector", name := "less", desc := "(JLKrylovLaboratory$Vector;)LKrylovLaboratory$Vector;" } : Jvm.MethodName) ({ cls := "KrylovLaboratory$Vector", name := "less", desc := "(JLKrylovLaboratory$Vector;)LKrylovLaboratory$Vector;" } : Jvm.MethodName)) ∈ lw_all := sorry
theorem q937 : (Jvm.Cond.code ({ cls := "KrylovLaboratory$Vector", name := "less", desc := "(JLKrylovLaboratory$Vector;)LKrylovLaboratory$Vector;" } : Jvm.MethodName) prog_15_method_5_code (6 : Nat) (Option.some (Jvm.ClassFile.FieldType.object "KrylovLaboratory$Vector"))) ∈ lw_all := sorry
theorem q938 : (Jvm.Cond.classLink "KrylovLaboratory$Vector" (10 : Nat) "KrylovLaboratory$Vector") ∈ lw_all := sorry
theorem q939 : (Jvm.Cond.methodLink "KrylovLaboratory$Vector" (27 : Nat) ({ cls := "KrylovLaboratory$Vector", name := "<init>", desc := "([J)V" } : Jvm.MethodName)) ∈ lw_all := lw_g (lw_at lw_m4 90 rfl) rfl
theorem q941 : (Jvm.Cond.instanceMethod ({ cls := "KrylovLaboratory$Vector", name := "norm", desc := "()J" } : Jvm.MethodName)) ∈ lw_all := sorry
theorem q942 : (Jvm.Cond.selects "KrylovLaboratory$Vector" ({ cls := "KrylovLaboratory$Vector", name := "norm", desc := "()J" } : Jvm.MethodName) ({ cls := "KrylovLaboratory$Vector", name := "norm", desc := "()J" } : Jvm.MethodName)) ∈ lw_all := sorry
theorem q943 : (Jvm.Cond.code ({ cls := "KrylovLaboratory$Vector", name := "norm", desc := "()J" } : Jvm.MethodName) prog_15_method_4_code (4 : Nat) (Option.some Jvm.ClassFile.FieldType.long)) ∈ lw_all := sorry
theorem q944 : (Jvm.Cond.methodLinkNest "KrylovLaboratory$Vector" (23 : Nat) ({ cls := "KrylovLaboratory", name := "root", desc := "(J)J" } : Jvm.MethodName) "KrylovLaboratory") ∈ lw_tbl := sorry
theorem q953 : (Jvm.Cond.instanceMethod ({ cls := "KrylovLaboratory$Vector", name := "unit", desc := "()LKrylovLaboratory$Vector;" } : Jvm.MethodName)) ∈ lw_all := sorry
theorem q954 : (Jvm.Cond.selects "KrylovLaboratory$Vector" ({ cls := "KrylovLaboratory$Vector", name := "unit", desc := "()LKrylovLaboratory$Vector;" } : Jvm.MethodName) ({ cls := "KrylovLaboratory$Vector", name := "unit", desc := "()LKrylovLaboratory$Vector;" } : Jvm.MethodName)) ∈ lw_all := sorry
theorem q955 : (Jvm.Cond.code ({ cls := "KrylovLaboratory$Vector", name := "unit", desc := "()LKrylovLaboratory$Vector;" } : Jvm.MethodName) prog_15_method_8_code (5 : Nat) (Option.some (Jvm.ClassFile.FieldType.object "KrylovLaboratory$Vector"))) ∈ lw_all := sorry
theorem q956 : (Jvm.Cond.methodLink "KrylovLaboratory$Vector" (38 : Nat) ({ cls := "KrylovLaboratory$Vector", name := "norm", desc := "()J" } : Jvm.MethodName)) ∈ lw_all := sorry
theorem q1937 : (Jvm.Cond.instanceMethod ({ cls := "KrylovLaboratory$Vector", name := "size", desc := "()I" } : Jvm.MethodName)) ∈ lw_all := sorry
theorem q1938 : (Jvm.Cond.selects "KrylovLaboratory$Vector" ({ cls := "KrylovLaboratory$Vector", name := "size", desc := "()I" } : Jvm.MethodName) ({ cls := "KrylovLaboratory$Vector", name := "size", desc := "()I" } : Jvm.MethodName)) ∈ lw_all := sorry
theorem q1939 : (Jvm.Cond.code ({ cls := "KrylovLaboratory$Vector", name := "size", desc := "()I" } : Jvm.MethodName) prog_15_method_2_code (1 : Nat) (Option.some Jvm.ClassFile.FieldType.int)) ∈ lw_all := sorry
theorem q2192 : (Jvm.Cond.instanceMethod ({ cls := "KrylovLaboratory$Vector", name := "plus", desc := "(LKrylovLaboratory$Vector;)LKrylovLaboratory$Vector;" } : Jvm.MethodName)) ∈ lw_all := sorry
theorem q2193 : (Jvm.Cond.selects "KrylovLaboratory$Vector" ({ cls := "KrylovLaboratory$Vector", name := "plus", desc := "(LKrylovLaboratory$Vector;)LKrylovLaboratory$Vector;" } : Jvm.MethodName) ({ cls := "KrylovLaboratory$Vector", name := "plus", desc := "(LKrylovLaboratory$Vector;)LKrylovLaboratory$Vector;" } : Jvm.MethodName)) ∈ lw_all := sorry
theorem q2194 : (Jvm.Cond.code ({ cls := "KrylovLaboratory$Vector", name := "plus", desc := "(LKrylovLaboratory$Vector;)LKrylovLaboratory$Vector;" } : Jvm.MethodName) prog_15_method_7_code (4 : Nat) (Option.some (Jvm.ClassFile.FieldType.object "KrylovLaboratory$Vector"))) ∈ lw_all := sorry
theorem q2425 : (Jvm.Cond.selects "KrylovLaboratory$Vector" ({ cls := "java/lang/Object", name := "equals", desc := "(Ljava/lang/Object;)Z" } : Jvm.MethodName) ({ cls := "java/lang/Object", name := "equals", desc := "(Ljava/lang/Object;)Z" } : Jvm.MethodName)) ∈ lw_all := sorry
theorem q3235 : (Jvm.Cond.castable "KrylovLaboratory$Vector" "java/lang/Object") ∈ lw_tbl := sorry
theorem in_X4 : ∀ w ∈ wsX40, w ∈ lw_all := sorry
/-! KrylovLaboratory$Space -/
set_option maxRecDepth 100000
def RX5 : String := "KrylovLaboratory$Space"
def TX5 : u_T := fun k => match k with
  | 0 => ("KrylovLaboratory$Space", "basis", "Ljava/util/ArrayList;", true)
  | 1 => ("KrylovLaboratory$Space", "alpha", "[J", true)
  | 2 => ("KrylovLaboratory$Space", "beta", "[J", true)
  | 3 => ("KrylovLaboratory$Space", "estimates", "[[J", true)
  | 4 => ("KrylovLaboratory$Space", "steps", "I", false)
  | _ => ("KrylovLaboratory$Space", "isClosed", "Z", false)
def tyX5 : Nat → FieldType := fun k => match k with
  | 0 => .object "java/util/ArrayList"
  | 1 => .array .long
  | 2 => .array .long
  | 3 => .array (.array .long)
  | 4 => .int
  | _ => .boolean
abbrev wsX50 : List Cond := u_ws RX5 TX5 6
theorem nmX5 : ∀ a, a < 6 → ∀ b, b < 6 → a ≠ b → (TX5 a).2.1 ≠ (TX5 b).2.1 := sorry
theorem tyX5_ok : ∀ k, k < 6 → parseFieldDescriptor (TX5 k).2.2.1 = some (tyX5 k) := sorry
abbrev cX5_init : ByteArray := prog_10_method_1_code
def yX5_init : MethodName := ⟨RX5, "<init>", "(LKrylovLaboratory$Vector;)V"⟩
def dkwX5_init_3 : List UInt8 := [132, 2, 1, 167, 255, 236, 177]
abbrev dktX5_init_3 : List UInt8 := dkwX5_init_3 ++ []
def dkwX5_init_2 : List UInt8 := [182, 0, 30, 87, 3, 61, 28, 16, 6, 163, 0, 20, 42, 180, 0, 27, 28, 50, 28, 20, 0, 34, 80]
abbrev dktX5_init_2 : List UInt8 := dkwX5_init_2 ++ dktX5_init_3
def dkwX5_init_1 : List UInt8 := [16, 6, 188, 11, 181, 0, 22, 42, 16, 7, 16, 7, 197, 0, 25, 2, 181, 0, 27, 42, 180, 0, 12, 43]
abbrev dktX5_init_1 : List UInt8 := dkwX5_init_1 ++ dktX5_init_2
def dkwX5_init_0 : List UInt8 := [42, 183, 0, 3, 42, 187, 0, 9, 89, 183, 0, 11, 181, 0, 12, 42, 16, 6, 188, 11, 181, 0, 18, 42]
abbrev dktX5_init_0 : List UInt8 := dkwX5_init_0 ++ dktX5_init_1
theorem dksX5_init_0 : cX5_init.data.toList.drop 0 = dktX5_init_0 := sorry
theorem dksX5_init_1 : cX5_init.data.toList.drop 24 = dktX5_init_1 := sorry
theorem dksX5_init_2 : cX5_init.data.toList.drop 48 = dktX5_init_2 := sorry
theorem dksX5_init_3 : cX5_init.data.toList.drop 71 = dktX5_init_3 := sorry
theorem dX5_init_0 : decode cX5_init 0 = .ok (.aload_n 0, 1) := sorry
theorem dX5_init_1 : decode cX5_init 1 = .ok (.invokespecial 3, 3) := sorry
theorem dX5_init_4 : decode cX5_init 4 = .ok (.aload_n 0, 1) := sorry
theorem dX5_init_5 : decode cX5_init 5 = .ok (.new 9, 3) := sorry
theorem dX5_init_8 : decode cX5_init 8 = .ok (.dup, 1) := sorry
theorem dX5_init_9 : decode cX5_init 9 = .ok (.invokespecial 11, 3) := sorry
theorem dX5_init_12 : decode cX5_init 12 = .ok (.putfield 12, 3) := sorry
theorem dX5_init_15 : decode cX5_init 15 = .ok (.aload_n 0, 1) := sorry
theorem dX5_init_16 : decode cX5_init 16 = .ok (.bipush 6, 2) := sorry
theorem dX5_init_18 : decode cX5_init 18 = .ok (.newarray .long, 2) := sorry
theorem dX5_init_20 : decode cX5_init 20 = .ok (.putfield 18, 3) := sorry
theorem dX5_init_23 : decode cX5_init 23 = .ok (.aload_n 0, 1) := sorry
theorem dX5_init_24 : decode cX5_init 24 = .ok (.bipush 6, 2) := sorry
theorem dX5_init_26 : decode cX5_init 26 = .ok (.newarray .long, 2) := sorry
theorem dX5_init_28 : decode cX5_init 28 = .ok (.putfield 22, 3) := sorry
theorem dX5_init_31 : decode cX5_init 31 = .ok (.aload_n 0, 1) := sorry
theorem dX5_init_32 : decode cX5_init 32 = .ok (.bipush 7, 2) := sorry
theorem dX5_init_34 : decode cX5_init 34 = .ok (.bipush 7, 2) := sorry
theorem dX5_init_36 : decode cX5_init 36 = .ok (.multianewarray 25 2, 4) := sorry
theorem dX5_init_40 : decode cX5_init 40 = .ok (.putfield 27, 3) := sorry
theorem dX5_init_43 : decode cX5_init 43 = .ok (.aload_n 0, 1) := sorry
theorem dX5_init_44 : decode cX5_init 44 = .ok (.getfield 12, 3) := sorry
theorem dX5_init_47 : decode cX5_init 47 = .ok (.aload_n 1, 1) := sorry
theorem dX5_init_48 : decode cX5_init 48 = .ok (.invokevirtual 30, 3) := sorry
theorem dX5_init_51 : decode cX5_init 51 = .ok (.pop, 1) := sorry
theorem dX5_init_52 : decode cX5_init 52 = .ok (.iconst 0, 1) := sorry
theorem dX5_init_53 : decode cX5_init 53 = .ok (.istore_n 2, 1) := sorry
theorem dX5_init_54 : decode cX5_init 54 = .ok (.iload_n 2, 1) := sorry
theorem dX5_init_55 : decode cX5_init 55 = .ok (.bipush 6, 2) := sorry
theorem dX5_init_57 : decode cX5_init 57 = .ok (.if_icmp .gt 20, 3) := sorry
theorem dX5_init_60 : decode cX5_init 60 = .ok (.aload_n 0, 1) := sorry
theorem dX5_init_61 : decode cX5_init 61 = .ok (.getfield 27, 3) := sorry
theorem dX5_init_64 : decode cX5_init 64 = .ok (.iload_n 2, 1) := sorry
theorem dX5_init_65 : decode cX5_init 65 = .ok (.aaload, 1) := sorry
theorem dX5_init_66 : decode cX5_init 66 = .ok (.iload_n 2, 1) := sorry
theorem dX5_init_67 : decode cX5_init 67 = .ok (.ldc2_w 34, 3) := sorry
theorem dX5_init_70 : decode cX5_init 70 = .ok (.lastore, 1) := sorry
theorem dX5_init_71 : decode cX5_init 71 = .ok (.iinc 2 1, 3) := sorry
theorem dX5_init_74 : decode cX5_init 74 = .ok (.goto (-20), 3) := sorry
theorem dX5_init_77 : decode cX5_init 77 = .ok (.return_, 1) := sorry
abbrev cX5_loss : ByteArray := prog_10_method_6_code
def yX5_loss : MethodName := ⟨RX5, "loss", "()J"⟩
def dkwX5_loss_2 : List UInt8 := [182, 0, 76, 184, 0, 80, 184, 0, 86, 64, 132, 4, 1, 167, 255, 213, 132, 3, 1, 167, 255, 193, 31, 173]
abbrev dktX5_loss_2 : List UInt8 := dkwX5_loss_2 ++ []
def dkwX5_loss_1 : List UInt8 := [31, 42, 180, 0, 12, 29, 182, 0, 40, 192, 0, 44, 42, 180, 0, 12, 21, 4, 182, 0, 40, 192, 0, 44]
abbrev dktX5_loss_1 : List UInt8 := dkwX5_loss_1 ++ dktX5_loss_2
def dkwX5_loss_0 : List UInt8 := [9, 64, 3, 62, 29, 42, 180, 0, 12, 182, 0, 36, 162, 0, 58, 3, 54, 4, 21, 4, 29, 162, 0, 43]
abbrev dktX5_loss_0 : List UInt8 := dkwX5_loss_0 ++ dktX5_loss_1
theorem dksX5_loss_0 : cX5_loss.data.toList.drop 0 = dktX5_loss_0 := sorry
theorem dksX5_loss_1 : cX5_loss.data.toList.drop 24 = dktX5_loss_1 := sorry
theorem dksX5_loss_2 : cX5_loss.data.toList.drop 48 = dktX5_loss_2 := sorry
theorem dX5_loss_0 : decode cX5_loss 0 = .ok (.lconst 0, 1) := sorry
theorem dX5_loss_1 : decode cX5_loss 1 = .ok (.lstore_n 1, 1) := sorry
theorem dX5_loss_2 : decode cX5_loss 2 = .ok (.iconst 0, 1) := sorry
theorem dX5_loss_3 : decode cX5_loss 3 = .ok (.istore_n 3, 1) := sorry
theorem dX5_loss_4 : decode cX5_loss 4 = .ok (.iload_n 3, 1) := sorry
theorem dX5_loss_5 : decode cX5_loss 5 = .ok (.aload_n 0, 1) := sorry
theorem dX5_loss_6 : decode cX5_loss 6 = .ok (.getfield 12, 3) := sorry
theorem dX5_loss_9 : decode cX5_loss 9 = .ok (.invokevirtual 36, 3) := sorry
theorem dX5_loss_12 : decode cX5_loss 12 = .ok (.if_icmp .ge 58, 3) := sorry
theorem dX5_loss_15 : decode cX5_loss 15 = .ok (.iconst 0, 1) := sorry
theorem dX5_loss_16 : decode cX5_loss 16 = .ok (.istore 4, 2) := sorry
theorem dX5_loss_18 : decode cX5_loss 18 = .ok (.iload 4, 2) := sorry
theorem dX5_loss_20 : decode cX5_loss 20 = .ok (.iload_n 3, 1) := sorry
theorem dX5_loss_21 : decode cX5_loss 21 = .ok (.if_icmp .ge 43, 3) := sorry
theorem dX5_loss_24 : decode cX5_loss 24 = .ok (.lload_n 1, 1) := sorry
theorem dX5_loss_25 : decode cX5_loss 25 = .ok (.aload_n 0, 1) := sorry
theorem dX5_loss_26 : decode cX5_loss 26 = .ok (.getfield 12, 3) := sorry
theorem dX5_loss_29 : decode cX5_loss 29 = .ok (.iload_n 3, 1) := sorry
theorem dX5_loss_30 : decode cX5_loss 30 = .ok (.invokevirtual 40, 3) := sorry
theorem dX5_loss_33 : decode cX5_loss 33 = .ok (.checkcast 44, 3) := sorry
theorem dX5_loss_36 : decode cX5_loss 36 = .ok (.aload_n 0, 1) := sorry
theorem dX5_loss_37 : decode cX5_loss 37 = .ok (.getfield 12, 3) := sorry
theorem dX5_loss_40 : decode cX5_loss 40 = .ok (.iload 4, 2) := sorry
theorem dX5_loss_42 : decode cX5_loss 42 = .ok (.invokevirtual 40, 3) := sorry
theorem dX5_loss_45 : decode cX5_loss 45 = .ok (.checkcast 44, 3) := sorry
theorem dX5_loss_48 : decode cX5_loss 48 = .ok (.invokevirtual 76, 3) := sorry
theorem dX5_loss_51 : decode cX5_loss 51 = .ok (.invokestatic 80, 3) := sorry
theorem dX5_loss_54 : decode cX5_loss 54 = .ok (.invokestatic 86, 3) := sorry
theorem dX5_loss_57 : decode cX5_loss 57 = .ok (.lstore_n 1, 1) := sorry
theorem dX5_loss_58 : decode cX5_loss 58 = .ok (.iinc 4 1, 3) := sorry
theorem dX5_loss_61 : decode cX5_loss 61 = .ok (.goto (-43), 3) := sorry
theorem dX5_loss_64 : decode cX5_loss 64 = .ok (.iinc 3 1, 3) := sorry
theorem dX5_loss_67 : decode cX5_loss 67 = .ok (.goto (-63), 3) := sorry
theorem dX5_loss_70 : decode cX5_loss 70 = .ok (.lload_n 1, 1) := sorry
theorem dX5_loss_71 : decode cX5_loss 71 = .ok (.lreturn, 1) := sorry
abbrev cX5_countBelow : ByteArray := prog_10_method_7_code
def yX5_countBelow : MethodName := ⟨RX5, "countBelow", "(J)I"⟩
def dkwX5_countBelow_4 : List UInt8 := [167, 255, 169, 29, 172]
abbrev dktX5_countBelow_4 : List UInt8 := dkwX5_countBelow_4 ++ []
def dkwX5_countBelow_3 : List UInt8 := [55, 4, 29, 22, 4, 9, 148, 156, 0, 7, 4, 167, 0, 4, 3, 184, 0, 94, 96, 62, 132, 6, 1]
abbrev dktX5_countBelow_3 : List UInt8 := dkwX5_countBelow_3 ++ dktX5_countBelow_4
def dkwX5_countBelow_2 : List UInt8 := [21, 6, 4, 100, 47, 105, 22, 4, 184, 0, 89, 101, 55, 4, 22, 4, 9, 148, 154, 0, 8, 20, 0, 92]
abbrev dktX5_countBelow_2 : List UInt8 := dkwX5_countBelow_2 ++ dktX5_countBelow_3
def dkwX5_countBelow_1 : List UInt8 := [31, 101, 21, 6, 154, 0, 7, 9, 167, 0, 27, 42, 180, 0, 22, 21, 6, 4, 100, 47, 42, 180, 0, 22]
abbrev dktX5_countBelow_1 : List UInt8 := dkwX5_countBelow_1 ++ dktX5_countBelow_2
def dkwX5_countBelow_0 : List UInt8 := [3, 62, 10, 55, 4, 3, 54, 6, 21, 6, 42, 180, 0, 52, 162, 0, 84, 42, 180, 0, 18, 21, 6, 47]
abbrev dktX5_countBelow_0 : List UInt8 := dkwX5_countBelow_0 ++ dktX5_countBelow_1
theorem dksX5_countBelow_0 : cX5_countBelow.data.toList.drop 0 = dktX5_countBelow_0 := sorry
theorem dksX5_countBelow_1 : cX5_countBelow.data.toList.drop 24 = dktX5_countBelow_1 := sorry
theorem dksX5_countBelow_2 : cX5_countBelow.data.toList.drop 48 = dktX5_countBelow_2 := sorry
theorem dksX5_countBelow_3 : cX5_countBelow.data.toList.drop 72 = dktX5_countBelow_3 := sorry
theorem dksX5_countBelow_4 : cX5_countBelow.data.toList.drop 95 = dktX5_countBelow_4 := sorry
theorem dX5_countBelow_0 : decode cX5_countBelow 0 = .ok (.iconst 0, 1) := sorry
theorem dX5_countBelow_1 : decode cX5_countBelow 1 = .ok (.istore_n 3, 1) := sorry
theorem dX5_countBelow_2 : decode cX5_countBelow 2 = .ok (.lconst 1, 1) := sorry
theorem dX5_countBelow_3 : decode cX5_countBelow 3 = .ok (.lstore 4, 2) := sorry
theorem dX5_countBelow_5 : decode cX5_countBelow 5 = .ok (.iconst 0, 1) := sorry
theorem dX5_countBelow_6 : decode cX5_countBelow 6 = .ok (.istore 6, 2) := sorry
theorem dX5_countBelow_8 : decode cX5_countBelow 8 = .ok (.iload 6, 2) := sorry
theorem dX5_countBelow_10 : decode cX5_countBelow 10 = .ok (.aload_n 0, 1) := sorry
theorem dX5_countBelow_11 : decode cX5_countBelow 11 = .ok (.getfield 52, 3) := sorry
theorem dX5_countBelow_14 : decode cX5_countBelow 14 = .ok (.if_icmp .ge 84, 3) := sorry
theorem dX5_countBelow_17 : decode cX5_countBelow 17 = .ok (.aload_n 0, 1) := sorry
theorem dX5_countBelow_18 : decode cX5_countBelow 18 = .ok (.getfield 18, 3) := sorry
theorem dX5_countBelow_21 : decode cX5_countBelow 21 = .ok (.iload 6, 2) := sorry
theorem dX5_countBelow_23 : decode cX5_countBelow 23 = .ok (.laload, 1) := sorry
theorem dX5_countBelow_24 : decode cX5_countBelow 24 = .ok (.lload_n 1, 1) := sorry
theorem dX5_countBelow_25 : decode cX5_countBelow 25 = .ok (.lsub, 1) := sorry
theorem dX5_countBelow_26 : decode cX5_countBelow 26 = .ok (.iload 6, 2) := sorry
theorem dX5_countBelow_28 : decode cX5_countBelow 28 = .ok (.ifCond .ne 7, 3) := sorry
theorem dX5_countBelow_31 : decode cX5_countBelow 31 = .ok (.lconst 0, 1) := sorry
theorem dX5_countBelow_32 : decode cX5_countBelow 32 = .ok (.goto 27, 3) := sorry
theorem dX5_countBelow_35 : decode cX5_countBelow 35 = .ok (.aload_n 0, 1) := sorry
theorem dX5_countBelow_36 : decode cX5_countBelow 36 = .ok (.getfield 22, 3) := sorry
theorem dX5_countBelow_39 : decode cX5_countBelow 39 = .ok (.iload 6, 2) := sorry
theorem dX5_countBelow_41 : decode cX5_countBelow 41 = .ok (.iconst 1, 1) := sorry
theorem dX5_countBelow_42 : decode cX5_countBelow 42 = .ok (.isub, 1) := sorry
theorem dX5_countBelow_43 : decode cX5_countBelow 43 = .ok (.laload, 1) := sorry
theorem dX5_countBelow_44 : decode cX5_countBelow 44 = .ok (.aload_n 0, 1) := sorry
theorem dX5_countBelow_45 : decode cX5_countBelow 45 = .ok (.getfield 22, 3) := sorry
theorem dX5_countBelow_48 : decode cX5_countBelow 48 = .ok (.iload 6, 2) := sorry
theorem dX5_countBelow_50 : decode cX5_countBelow 50 = .ok (.iconst 1, 1) := sorry
theorem dX5_countBelow_51 : decode cX5_countBelow 51 = .ok (.isub, 1) := sorry
theorem dX5_countBelow_52 : decode cX5_countBelow 52 = .ok (.laload, 1) := sorry
theorem dX5_countBelow_53 : decode cX5_countBelow 53 = .ok (.lmul, 1) := sorry
theorem dX5_countBelow_54 : decode cX5_countBelow 54 = .ok (.lload 4, 2) := sorry
theorem dX5_countBelow_56 : decode cX5_countBelow 56 = .ok (.invokestatic 89, 3) := sorry
theorem dX5_countBelow_59 : decode cX5_countBelow 59 = .ok (.lsub, 1) := sorry
theorem dX5_countBelow_60 : decode cX5_countBelow 60 = .ok (.lstore 4, 2) := sorry
theorem dX5_countBelow_62 : decode cX5_countBelow 62 = .ok (.lload 4, 2) := sorry
theorem dX5_countBelow_64 : decode cX5_countBelow 64 = .ok (.lconst 0, 1) := sorry
theorem dX5_countBelow_65 : decode cX5_countBelow 65 = .ok (.lcmp, 1) := sorry
theorem dX5_countBelow_66 : decode cX5_countBelow 66 = .ok (.ifCond .ne 8, 3) := sorry
theorem dX5_countBelow_69 : decode cX5_countBelow 69 = .ok (.ldc2_w 92, 3) := sorry
theorem dX5_countBelow_72 : decode cX5_countBelow 72 = .ok (.lstore 4, 2) := sorry
theorem dX5_countBelow_74 : decode cX5_countBelow 74 = .ok (.iload_n 3, 1) := sorry
theorem dX5_countBelow_75 : decode cX5_countBelow 75 = .ok (.lload 4, 2) := sorry
theorem dX5_countBelow_77 : decode cX5_countBelow 77 = .ok (.lconst 0, 1) := sorry
theorem dX5_countBelow_78 : decode cX5_countBelow 78 = .ok (.lcmp, 1) := sorry
theorem dX5_countBelow_79 : decode cX5_countBelow 79 = .ok (.ifCond .ge 7, 3) := sorry
theorem dX5_countBelow_82 : decode cX5_countBelow 82 = .ok (.iconst 1, 1) := sorry
theorem dX5_countBelow_83 : decode cX5_countBelow 83 = .ok (.goto 4, 3) := sorry
theorem dX5_countBelow_86 : decode cX5_countBelow 86 = .ok (.iconst 0, 1) := sorry
theorem dX5_countBelow_87 : decode cX5_countBelow 87 = .ok (.invokestatic 94, 3) := sorry
theorem dX5_countBelow_90 : decode cX5_countBelow 90 = .ok (.iadd, 1) := sorry
theorem dX5_countBelow_91 : decode cX5_countBelow 91 = .ok (.istore_n 3, 1) := sorry
theorem dX5_countBelow_92 : decode cX5_countBelow 92 = .ok (.iinc 6 1, 3) := sorry
theorem dX5_countBelow_95 : decode cX5_countBelow 95 = .ok (.goto (-87), 3) := sorry
theorem dX5_countBelow_98 : decode cX5_countBelow 98 = .ok (.iload_n 3, 1) := sorry
theorem dX5_countBelow_99 : decode cX5_countBelow 99 = .ok (.ireturn, 1) := sorry
abbrev cX5_value : ByteArray := prog_10_method_8_code
def yX5_value : MethodName := ⟨RX5, "value", "(I)J"⟩
def dkwX5_value_2 : List UInt8 := [10, 97, 65, 167, 255, 215, 32, 173]
abbrev dktX5_value_2 : List UInt8 := dkwX5_value_2 ++ []
def dkwX5_value_1 : List UInt8 := [184, 0, 89, 55, 6, 42, 22, 6, 182, 0, 102, 27, 164, 0, 10, 22, 6, 55, 4, 167, 0, 8, 22, 6]
abbrev dktX5_value_1 : List UInt8 := dkwX5_value_1 ++ dktX5_value_2
def dkwX5_value_0 : List UInt8 := [20, 0, 98, 65, 20, 0, 100, 55, 4, 32, 22, 4, 148, 156, 0, 40, 32, 22, 4, 97, 20, 0, 60]
abbrev dktX5_value_0 : List UInt8 := dkwX5_value_0 ++ dktX5_value_1
theorem dksX5_value_0 : cX5_value.data.toList.drop 0 = dktX5_value_0 := sorry
theorem dksX5_value_1 : cX5_value.data.toList.drop 23 = dktX5_value_1 := sorry
theorem dksX5_value_2 : cX5_value.data.toList.drop 47 = dktX5_value_2 := sorry
theorem dX5_value_0 : decode cX5_value 0 = .ok (.ldc2_w 98, 3) := sorry
theorem dX5_value_3 : decode cX5_value 3 = .ok (.lstore_n 2, 1) := sorry
theorem dX5_value_4 : decode cX5_value 4 = .ok (.ldc2_w 100, 3) := sorry
theorem dX5_value_7 : decode cX5_value 7 = .ok (.lstore 4, 2) := sorry
theorem dX5_value_9 : decode cX5_value 9 = .ok (.lload_n 2, 1) := sorry
theorem dX5_value_10 : decode cX5_value 10 = .ok (.lload 4, 2) := sorry
theorem dX5_value_12 : decode cX5_value 12 = .ok (.lcmp, 1) := sorry
theorem dX5_value_13 : decode cX5_value 13 = .ok (.ifCond .ge 40, 3) := sorry
theorem dX5_value_16 : decode cX5_value 16 = .ok (.lload_n 2, 1) := sorry
theorem dX5_value_17 : decode cX5_value 17 = .ok (.lload 4, 2) := sorry
theorem dX5_value_19 : decode cX5_value 19 = .ok (.ladd, 1) := sorry
theorem dX5_value_20 : decode cX5_value 20 = .ok (.ldc2_w 60, 3) := sorry
theorem dX5_value_23 : decode cX5_value 23 = .ok (.invokestatic 89, 3) := sorry
theorem dX5_value_26 : decode cX5_value 26 = .ok (.lstore 6, 2) := sorry
theorem dX5_value_28 : decode cX5_value 28 = .ok (.aload_n 0, 1) := sorry
theorem dX5_value_29 : decode cX5_value 29 = .ok (.lload 6, 2) := sorry
theorem dX5_value_31 : decode cX5_value 31 = .ok (.invokevirtual 102, 3) := sorry
theorem dX5_value_34 : decode cX5_value 34 = .ok (.iload_n 1, 1) := sorry
theorem dX5_value_35 : decode cX5_value 35 = .ok (.if_icmp .le 10, 3) := sorry
theorem dX5_value_38 : decode cX5_value 38 = .ok (.lload 6, 2) := sorry
theorem dX5_value_40 : decode cX5_value 40 = .ok (.lstore 4, 2) := sorry
theorem dX5_value_42 : decode cX5_value 42 = .ok (.goto 8, 3) := sorry
theorem dX5_value_45 : decode cX5_value 45 = .ok (.lload 6, 2) := sorry
theorem dX5_value_47 : decode cX5_value 47 = .ok (.lconst 1, 1) := sorry
theorem dX5_value_48 : decode cX5_value 48 = .ok (.ladd, 1) := sorry
theorem dX5_value_49 : decode cX5_value 49 = .ok (.lstore_n 2, 1) := sorry
theorem dX5_value_50 : decode cX5_value 50 = .ok (.goto (-41), 3) := sorry
theorem dX5_value_53 : decode cX5_value 53 = .ok (.lload_n 2, 1) := sorry
theorem dX5_value_54 : decode cX5_value 54 = .ok (.lreturn, 1) := sorry
abbrev cX5_init_2 : ByteArray := prog_10_method_2_code
def yX5_init_2 : MethodName := ⟨RX5, "<init>", "(LKrylovLaboratory$Space;)V"⟩
def dkwX5_init_2_6 : List UInt8 := [132, 2, 1, 167, 255, 228, 42, 43, 180, 0, 52, 181, 0, 52, 42, 43, 180, 0, 56, 181, 0, 56, 177]
abbrev dktX5_init_2_6 : List UInt8 := dkwX5_init_2_6 ++ []
def dkwX5_init_2_5 : List UInt8 := [163, 0, 28, 43, 180, 0, 27, 28, 50, 3, 42, 180, 0, 27, 28, 50, 3, 16, 7, 184, 0, 46]
abbrev dktX5_init_2_5 : List UInt8 := dkwX5_init_2_5 ++ dktX5_init_2_6
def dkwX5_init_2_4 : List UInt8 := [184, 0, 46, 43, 180, 0, 22, 3, 42, 180, 0, 22, 3, 16, 6, 184, 0, 46, 3, 61, 28, 16, 6]
abbrev dktX5_init_2_4 : List UInt8 := dkwX5_init_2_4 ++ dktX5_init_2_5
def dkwX5_init_2_3 : List UInt8 := [182, 0, 30, 87, 132, 2, 1, 167, 255, 223, 43, 180, 0, 18, 3, 42, 180, 0, 18, 3, 16, 6]
abbrev dktX5_init_2_3 : List UInt8 := dkwX5_init_2_3 ++ dktX5_init_2_4
def dkwX5_init_2_2 : List UInt8 := [180, 0, 12, 182, 0, 36, 162, 0, 28, 42, 180, 0, 12, 43, 180, 0, 12, 28, 182, 0, 40, 192, 0, 44]
abbrev dktX5_init_2_2 : List UInt8 := dkwX5_init_2_2 ++ dktX5_init_2_3
def dkwX5_init_2_1 : List UInt8 := [16, 6, 188, 11, 181, 0, 22, 42, 16, 7, 16, 7, 197, 0, 25, 2, 181, 0, 27, 3, 61, 28, 43]
abbrev dktX5_init_2_1 : List UInt8 := dkwX5_init_2_1 ++ dktX5_init_2_2
def dkwX5_init_2_0 : List UInt8 := [42, 183, 0, 3, 42, 187, 0, 9, 89, 183, 0, 11, 181, 0, 12, 42, 16, 6, 188, 11, 181, 0, 18, 42]
abbrev dktX5_init_2_0 : List UInt8 := dkwX5_init_2_0 ++ dktX5_init_2_1
theorem dksX5_init_2_0 : cX5_init_2.data.toList.drop 0 = dktX5_init_2_0 := sorry
theorem dksX5_init_2_1 : cX5_init_2.data.toList.drop 24 = dktX5_init_2_1 := sorry
theorem dksX5_init_2_2 : cX5_init_2.data.toList.drop 47 = dktX5_init_2_2 := sorry
theorem dksX5_init_2_3 : cX5_init_2.data.toList.drop 71 = dktX5_init_2_3 := sorry
theorem dksX5_init_2_4 : cX5_init_2.data.toList.drop 93 = dktX5_init_2_4 := sorry
theorem dksX5_init_2_5 : cX5_init_2.data.toList.drop 116 = dktX5_init_2_5 := sorry
theorem dksX5_init_2_6 : cX5_init_2.data.toList.drop 138 = dktX5_init_2_6 := sorry
theorem dX5_init_2_0 : decode cX5_init_2 0 = .ok (.aload_n 0, 1) := sorry
theorem dX5_init_2_1 : decode cX5_init_2 1 = .ok (.invokespecial 3, 3) := sorry
theorem dX5_init_2_4 : decode cX5_init_2 4 = .ok (.aload_n 0, 1) := sorry
theorem dX5_init_2_5 : decode cX5_init_2 5 = .ok (.new 9, 3) := sorry
theorem dX5_init_2_8 : decode cX5_init_2 8 = .ok (.dup, 1) := sorry
theorem dX5_init_2_9 : decode cX5_init_2 9 = .ok (.invokespecial 11, 3) := sorry
theorem dX5_init_2_12 : decode cX5_init_2 12 = .ok (.putfield 12, 3) := sorry
theorem dX5_init_2_15 : decode cX5_init_2 15 = .ok (.aload_n 0, 1) := sorry
theorem dX5_init_2_16 : decode cX5_init_2 16 = .ok (.bipush 6, 2) := sorry
theorem dX5_init_2_18 : decode cX5_init_2 18 = .ok (.newarray .long, 2) := sorry
theorem dX5_init_2_20 : decode cX5_init_2 20 = .ok (.putfield 18, 3) := sorry
theorem dX5_init_2_23 : decode cX5_init_2 23 = .ok (.aload_n 0, 1) := sorry
theorem dX5_init_2_24 : decode cX5_init_2 24 = .ok (.bipush 6, 2) := sorry
theorem dX5_init_2_26 : decode cX5_init_2 26 = .ok (.newarray .long, 2) := sorry
theorem dX5_init_2_28 : decode cX5_init_2 28 = .ok (.putfield 22, 3) := sorry
theorem dX5_init_2_31 : decode cX5_init_2 31 = .ok (.aload_n 0, 1) := sorry
theorem dX5_init_2_32 : decode cX5_init_2 32 = .ok (.bipush 7, 2) := sorry
theorem dX5_init_2_34 : decode cX5_init_2 34 = .ok (.bipush 7, 2) := sorry
theorem dX5_init_2_36 : decode cX5_init_2 36 = .ok (.multianewarray 25 2, 4) := sorry
theorem dX5_init_2_40 : decode cX5_init_2 40 = .ok (.putfield 27, 3) := sorry
theorem dX5_init_2_43 : decode cX5_init_2 43 = .ok (.iconst 0, 1) := sorry
theorem dX5_init_2_44 : decode cX5_init_2 44 = .ok (.istore_n 2, 1) := sorry
theorem dX5_init_2_45 : decode cX5_init_2 45 = .ok (.iload_n 2, 1) := sorry
theorem dX5_init_2_46 : decode cX5_init_2 46 = .ok (.aload_n 1, 1) := sorry
theorem dX5_init_2_47 : decode cX5_init_2 47 = .ok (.getfield 12, 3) := sorry
theorem dX5_init_2_50 : decode cX5_init_2 50 = .ok (.invokevirtual 36, 3) := sorry
theorem dX5_init_2_53 : decode cX5_init_2 53 = .ok (.if_icmp .ge 28, 3) := sorry
theorem dX5_init_2_56 : decode cX5_init_2 56 = .ok (.aload_n 0, 1) := sorry
theorem dX5_init_2_57 : decode cX5_init_2 57 = .ok (.getfield 12, 3) := sorry
theorem dX5_init_2_60 : decode cX5_init_2 60 = .ok (.aload_n 1, 1) := sorry
theorem dX5_init_2_61 : decode cX5_init_2 61 = .ok (.getfield 12, 3) := sorry
theorem dX5_init_2_64 : decode cX5_init_2 64 = .ok (.iload_n 2, 1) := sorry
theorem dX5_init_2_65 : decode cX5_init_2 65 = .ok (.invokevirtual 40, 3) := sorry
theorem dX5_init_2_68 : decode cX5_init_2 68 = .ok (.checkcast 44, 3) := sorry
theorem dX5_init_2_71 : decode cX5_init_2 71 = .ok (.invokevirtual 30, 3) := sorry
theorem dX5_init_2_74 : decode cX5_init_2 74 = .ok (.pop, 1) := sorry
theorem dX5_init_2_75 : decode cX5_init_2 75 = .ok (.iinc 2 1, 3) := sorry
theorem dX5_init_2_78 : decode cX5_init_2 78 = .ok (.goto (-33), 3) := sorry
theorem dX5_init_2_81 : decode cX5_init_2 81 = .ok (.aload_n 1, 1) := sorry
theorem dX5_init_2_82 : decode cX5_init_2 82 = .ok (.getfield 18, 3) := sorry
theorem dX5_init_2_85 : decode cX5_init_2 85 = .ok (.iconst 0, 1) := sorry
theorem dX5_init_2_86 : decode cX5_init_2 86 = .ok (.aload_n 0, 1) := sorry
theorem dX5_init_2_87 : decode cX5_init_2 87 = .ok (.getfield 18, 3) := sorry
theorem dX5_init_2_90 : decode cX5_init_2 90 = .ok (.iconst 0, 1) := sorry
theorem dX5_init_2_91 : decode cX5_init_2 91 = .ok (.bipush 6, 2) := sorry
theorem dX5_init_2_93 : decode cX5_init_2 93 = .ok (.invokestatic 46, 3) := sorry
theorem dX5_init_2_96 : decode cX5_init_2 96 = .ok (.aload_n 1, 1) := sorry
theorem dX5_init_2_97 : decode cX5_init_2 97 = .ok (.getfield 22, 3) := sorry
theorem dX5_init_2_100 : decode cX5_init_2 100 = .ok (.iconst 0, 1) := sorry
theorem dX5_init_2_101 : decode cX5_init_2 101 = .ok (.aload_n 0, 1) := sorry
theorem dX5_init_2_102 : decode cX5_init_2 102 = .ok (.getfield 22, 3) := sorry
theorem dX5_init_2_105 : decode cX5_init_2 105 = .ok (.iconst 0, 1) := sorry
theorem dX5_init_2_106 : decode cX5_init_2 106 = .ok (.bipush 6, 2) := sorry
theorem dX5_init_2_108 : decode cX5_init_2 108 = .ok (.invokestatic 46, 3) := sorry
theorem dX5_init_2_111 : decode cX5_init_2 111 = .ok (.iconst 0, 1) := sorry
theorem dX5_init_2_112 : decode cX5_init_2 112 = .ok (.istore_n 2, 1) := sorry
theorem dX5_init_2_113 : decode cX5_init_2 113 = .ok (.iload_n 2, 1) := sorry
theorem dX5_init_2_114 : decode cX5_init_2 114 = .ok (.bipush 6, 2) := sorry
theorem dX5_init_2_116 : decode cX5_init_2 116 = .ok (.if_icmp .gt 28, 3) := sorry
theorem dX5_init_2_119 : decode cX5_init_2 119 = .ok (.aload_n 1, 1) := sorry
theorem dX5_init_2_120 : decode cX5_init_2 120 = .ok (.getfield 27, 3) := sorry
theorem dX5_init_2_123 : decode cX5_init_2 123 = .ok (.iload_n 2, 1) := sorry
theorem dX5_init_2_124 : decode cX5_init_2 124 = .ok (.aaload, 1) := sorry
theorem dX5_init_2_125 : decode cX5_init_2 125 = .ok (.iconst 0, 1) := sorry
theorem dX5_init_2_126 : decode cX5_init_2 126 = .ok (.aload_n 0, 1) := sorry
theorem dX5_init_2_127 : decode cX5_init_2 127 = .ok (.getfield 27, 3) := sorry
theorem dX5_init_2_130 : decode cX5_init_2 130 = .ok (.iload_n 2, 1) := sorry
theorem dX5_init_2_131 : decode cX5_init_2 131 = .ok (.aaload, 1) := sorry
theorem dX5_init_2_132 : decode cX5_init_2 132 = .ok (.iconst 0, 1) := sorry
theorem dX5_init_2_133 : decode cX5_init_2 133 = .ok (.bipush 7, 2) := sorry
theorem dX5_init_2_135 : decode cX5_init_2 135 = .ok (.invokestatic 46, 3) := sorry
theorem dX5_init_2_138 : decode cX5_init_2 138 = .ok (.iinc 2 1, 3) := sorry
theorem dX5_init_2_141 : decode cX5_init_2 141 = .ok (.goto (-28), 3) := sorry
theorem dX5_init_2_144 : decode cX5_init_2 144 = .ok (.aload_n 0, 1) := sorry
theorem dX5_init_2_145 : decode cX5_init_2 145 = .ok (.aload_n 1, 1) := sorry
theorem dX5_init_2_146 : decode cX5_init_2 146 = .ok (.getfield 52, 3) := sorry
theorem dX5_init_2_149 : decode cX5_init_2 149 = .ok (.putfield 52, 3) := sorry
theorem dX5_init_2_152 : decode cX5_init_2 152 = .ok (.aload_n 0, 1) := sorry
theorem dX5_init_2_153 : decode cX5_init_2 153 = .ok (.aload_n 1, 1) := sorry
theorem dX5_init_2_154 : decode cX5_init_2 154 = .ok (.getfield 56, 3) := sorry
theorem dX5_init_2_157 : decode cX5_init_2 157 = .ok (.putfield 56, 3) := sorry
theorem dX5_init_2_160 : decode cX5_init_2 160 = .ok (.return_, 1) := sorry
abbrev cX5_bound : ByteArray := prog_10_method_11_code
def yX5_bound : MethodName := ⟨RX5, "bound", "(I)J"⟩
def dkwX5_bound_1 : List UInt8 := [180, 0, 120, 42, 180, 0, 52, 4, 100, 47, 184, 0, 80, 105, 44, 182, 0, 123, 109, 173]
abbrev dktX5_bound_1 : List UInt8 := dkwX5_bound_1 ++ []
def dkwX5_bound_0 : List UInt8 := [42, 42, 27, 182, 0, 111, 182, 0, 115, 77, 42, 180, 0, 22, 42, 180, 0, 52, 4, 100, 47, 44]
abbrev dktX5_bound_0 : List UInt8 := dkwX5_bound_0 ++ dktX5_bound_1
theorem dksX5_bound_0 : cX5_bound.data.toList.drop 0 = dktX5_bound_0 := sorry
theorem dksX5_bound_1 : cX5_bound.data.toList.drop 22 = dktX5_bound_1 := sorry
theorem dX5_bound_0 : decode cX5_bound 0 = .ok (.aload_n 0, 1) := sorry
theorem dX5_bound_1 : decode cX5_bound 1 = .ok (.aload_n 0, 1) := sorry
theorem dX5_bound_2 : decode cX5_bound 2 = .ok (.iload_n 1, 1) := sorry
theorem dX5_bound_3 : decode cX5_bound 3 = .ok (.invokevirtual 111, 3) := sorry
theorem dX5_bound_6 : decode cX5_bound 6 = .ok (.invokevirtual 115, 3) := sorry
theorem dX5_bound_9 : decode cX5_bound 9 = .ok (.astore_n 2, 1) := sorry
theorem dX5_bound_10 : decode cX5_bound 10 = .ok (.aload_n 0, 1) := sorry
theorem dX5_bound_11 : decode cX5_bound 11 = .ok (.getfield 22, 3) := sorry
theorem dX5_bound_14 : decode cX5_bound 14 = .ok (.aload_n 0, 1) := sorry
theorem dX5_bound_15 : decode cX5_bound 15 = .ok (.getfield 52, 3) := sorry
theorem dX5_bound_18 : decode cX5_bound 18 = .ok (.iconst 1, 1) := sorry
theorem dX5_bound_19 : decode cX5_bound 19 = .ok (.isub, 1) := sorry
theorem dX5_bound_20 : decode cX5_bound 20 = .ok (.laload, 1) := sorry
theorem dX5_bound_21 : decode cX5_bound 21 = .ok (.aload_n 2, 1) := sorry
theorem dX5_bound_22 : decode cX5_bound 22 = .ok (.getfield 120, 3) := sorry
theorem dX5_bound_25 : decode cX5_bound 25 = .ok (.aload_n 0, 1) := sorry
theorem dX5_bound_26 : decode cX5_bound 26 = .ok (.getfield 52, 3) := sorry
theorem dX5_bound_29 : decode cX5_bound 29 = .ok (.iconst 1, 1) := sorry
theorem dX5_bound_30 : decode cX5_bound 30 = .ok (.isub, 1) := sorry
theorem dX5_bound_31 : decode cX5_bound 31 = .ok (.laload, 1) := sorry
theorem dX5_bound_32 : decode cX5_bound 32 = .ok (.invokestatic 80, 3) := sorry
theorem dX5_bound_35 : decode cX5_bound 35 = .ok (.lmul, 1) := sorry
theorem dX5_bound_36 : decode cX5_bound 36 = .ok (.aload_n 2, 1) := sorry
theorem dX5_bound_37 : decode cX5_bound 37 = .ok (.invokevirtual 123, 3) := sorry
theorem dX5_bound_40 : decode cX5_bound 40 = .ok (.ldiv, 1) := sorry
theorem dX5_bound_41 : decode cX5_bound 41 = .ok (.lreturn, 1) := sorry
abbrev cX5_shares : ByteArray := prog_10_method_9_code
def yX5_shares : MethodName := ⟨RX5, "shares", "(J)LKrylovLaboratory$Vector;"⟩
def dkwX5_shares_4 : List UInt8 := [167, 255, 178, 187, 0, 44, 89, 45, 183, 0, 108, 176]
abbrev dktX5_shares_4 : List UInt8 := dkwX5_shares_4 ++ []
def dkwX5_shares_3 : List UInt8 := [4, 96, 22, 5, 42, 180, 0, 22, 21, 4, 47, 109, 20, 0, 106, 184, 0, 62, 80, 132, 4, 1]
abbrev dktX5_shares_3 : List UInt8 := dkwX5_shares_3 ++ dktX5_shares_4
def dkwX5_shares_2 : List UInt8 := [22, 5, 42, 180, 0, 22, 21, 4, 4, 100, 47, 45, 21, 4, 4, 100, 47, 105, 101, 55, 5, 45, 21, 4]
abbrev dktX5_shares_2 : List UInt8 := dkwX5_shares_2 ++ dktX5_shares_3
def dkwX5_shares_1 : List UInt8 := [162, 0, 73, 31, 42, 180, 0, 18, 21, 4, 47, 101, 45, 21, 4, 47, 105, 55, 5, 21, 4, 158, 0, 24]
abbrev dktX5_shares_1 : List UInt8 := dkwX5_shares_1 ++ dktX5_shares_2
def dkwX5_shares_0 : List UInt8 := [42, 180, 0, 52, 188, 11, 78, 45, 3, 20, 0, 34, 80, 3, 54, 4, 21, 4, 4, 96, 42, 180, 0, 52]
abbrev dktX5_shares_0 : List UInt8 := dkwX5_shares_0 ++ dktX5_shares_1
theorem dksX5_shares_0 : cX5_shares.data.toList.drop 0 = dktX5_shares_0 := sorry
theorem dksX5_shares_1 : cX5_shares.data.toList.drop 24 = dktX5_shares_1 := sorry
theorem dksX5_shares_2 : cX5_shares.data.toList.drop 48 = dktX5_shares_2 := sorry
theorem dksX5_shares_3 : cX5_shares.data.toList.drop 72 = dktX5_shares_3 := sorry
theorem dksX5_shares_4 : cX5_shares.data.toList.drop 94 = dktX5_shares_4 := sorry
theorem dX5_shares_0 : decode cX5_shares 0 = .ok (.aload_n 0, 1) := sorry
theorem dX5_shares_1 : decode cX5_shares 1 = .ok (.getfield 52, 3) := sorry
theorem dX5_shares_4 : decode cX5_shares 4 = .ok (.newarray .long, 2) := sorry
theorem dX5_shares_6 : decode cX5_shares 6 = .ok (.astore_n 3, 1) := sorry
theorem dX5_shares_7 : decode cX5_shares 7 = .ok (.aload_n 3, 1) := sorry
theorem dX5_shares_8 : decode cX5_shares 8 = .ok (.iconst 0, 1) := sorry
theorem dX5_shares_9 : decode cX5_shares 9 = .ok (.ldc2_w 34, 3) := sorry
theorem dX5_shares_12 : decode cX5_shares 12 = .ok (.lastore, 1) := sorry
theorem dX5_shares_13 : decode cX5_shares 13 = .ok (.iconst 0, 1) := sorry
theorem dX5_shares_14 : decode cX5_shares 14 = .ok (.istore 4, 2) := sorry
theorem dX5_shares_16 : decode cX5_shares 16 = .ok (.iload 4, 2) := sorry
theorem dX5_shares_18 : decode cX5_shares 18 = .ok (.iconst 1, 1) := sorry
theorem dX5_shares_19 : decode cX5_shares 19 = .ok (.iadd, 1) := sorry
theorem dX5_shares_20 : decode cX5_shares 20 = .ok (.aload_n 0, 1) := sorry
theorem dX5_shares_21 : decode cX5_shares 21 = .ok (.getfield 52, 3) := sorry
theorem dX5_shares_24 : decode cX5_shares 24 = .ok (.if_icmp .ge 73, 3) := sorry
theorem dX5_shares_27 : decode cX5_shares 27 = .ok (.lload_n 1, 1) := sorry
theorem dX5_shares_28 : decode cX5_shares 28 = .ok (.aload_n 0, 1) := sorry
theorem dX5_shares_29 : decode cX5_shares 29 = .ok (.getfield 18, 3) := sorry
theorem dX5_shares_32 : decode cX5_shares 32 = .ok (.iload 4, 2) := sorry
theorem dX5_shares_34 : decode cX5_shares 34 = .ok (.laload, 1) := sorry
theorem dX5_shares_35 : decode cX5_shares 35 = .ok (.lsub, 1) := sorry
theorem dX5_shares_36 : decode cX5_shares 36 = .ok (.aload_n 3, 1) := sorry
theorem dX5_shares_37 : decode cX5_shares 37 = .ok (.iload 4, 2) := sorry
theorem dX5_shares_39 : decode cX5_shares 39 = .ok (.laload, 1) := sorry
theorem dX5_shares_40 : decode cX5_shares 40 = .ok (.lmul, 1) := sorry
theorem dX5_shares_41 : decode cX5_shares 41 = .ok (.lstore 5, 2) := sorry
theorem dX5_shares_43 : decode cX5_shares 43 = .ok (.iload 4, 2) := sorry
theorem dX5_shares_45 : decode cX5_shares 45 = .ok (.ifCond .le 24, 3) := sorry
theorem dX5_shares_48 : decode cX5_shares 48 = .ok (.lload 5, 2) := sorry
theorem dX5_shares_50 : decode cX5_shares 50 = .ok (.aload_n 0, 1) := sorry
theorem dX5_shares_51 : decode cX5_shares 51 = .ok (.getfield 22, 3) := sorry
theorem dX5_shares_54 : decode cX5_shares 54 = .ok (.iload 4, 2) := sorry
theorem dX5_shares_56 : decode cX5_shares 56 = .ok (.iconst 1, 1) := sorry
theorem dX5_shares_57 : decode cX5_shares 57 = .ok (.isub, 1) := sorry
theorem dX5_shares_58 : decode cX5_shares 58 = .ok (.laload, 1) := sorry
theorem dX5_shares_59 : decode cX5_shares 59 = .ok (.aload_n 3, 1) := sorry
theorem dX5_shares_60 : decode cX5_shares 60 = .ok (.iload 4, 2) := sorry
theorem dX5_shares_62 : decode cX5_shares 62 = .ok (.iconst 1, 1) := sorry
theorem dX5_shares_63 : decode cX5_shares 63 = .ok (.isub, 1) := sorry
theorem dX5_shares_64 : decode cX5_shares 64 = .ok (.laload, 1) := sorry
theorem dX5_shares_65 : decode cX5_shares 65 = .ok (.lmul, 1) := sorry
theorem dX5_shares_66 : decode cX5_shares 66 = .ok (.lsub, 1) := sorry
theorem dX5_shares_67 : decode cX5_shares 67 = .ok (.lstore 5, 2) := sorry
theorem dX5_shares_69 : decode cX5_shares 69 = .ok (.aload_n 3, 1) := sorry
theorem dX5_shares_70 : decode cX5_shares 70 = .ok (.iload 4, 2) := sorry
theorem dX5_shares_72 : decode cX5_shares 72 = .ok (.iconst 1, 1) := sorry
theorem dX5_shares_73 : decode cX5_shares 73 = .ok (.iadd, 1) := sorry
theorem dX5_shares_74 : decode cX5_shares 74 = .ok (.lload 5, 2) := sorry
theorem dX5_shares_76 : decode cX5_shares 76 = .ok (.aload_n 0, 1) := sorry
theorem dX5_shares_77 : decode cX5_shares 77 = .ok (.getfield 22, 3) := sorry
theorem dX5_shares_80 : decode cX5_shares 80 = .ok (.iload 4, 2) := sorry
theorem dX5_shares_82 : decode cX5_shares 82 = .ok (.laload, 1) := sorry
theorem dX5_shares_83 : decode cX5_shares 83 = .ok (.ldiv, 1) := sorry
theorem dX5_shares_84 : decode cX5_shares 84 = .ok (.ldc2_w 106, 3) := sorry
theorem dX5_shares_87 : decode cX5_shares 87 = .ok (.invokestatic 62, 3) := sorry
theorem dX5_shares_90 : decode cX5_shares 90 = .ok (.lastore, 1) := sorry
theorem dX5_shares_91 : decode cX5_shares 91 = .ok (.iinc 4 1, 3) := sorry
theorem dX5_shares_94 : decode cX5_shares 94 = .ok (.goto (-78), 3) := sorry
theorem dX5_shares_97 : decode cX5_shares 97 = .ok (.new 44, 3) := sorry
theorem dX5_shares_100 : decode cX5_shares 100 = .ok (.dup, 1) := sorry
theorem dX5_shares_101 : decode cX5_shares 101 = .ok (.aload_n 3, 1) := sorry
theorem dX5_shares_102 : decode cX5_shares 102 = .ok (.invokespecial 108, 3) := sorry
theorem dX5_shares_105 : decode cX5_shares 105 = .ok (.areturn, 1) := sorry
abbrev cX5_ends : ByteArray := prog_10_method_5_code
def yX5_ends : MethodName := ⟨RX5, "ends", "(LKrylovLaboratory$Vector;J)V"⟩
def dkwX5_ends_2 : List UInt8 := [182, 0, 30, 87, 42, 89, 180, 0, 52, 4, 96, 181, 0, 52, 177]
abbrev dktX5_ends_2 : List UInt8 := dkwX5_ends_2 ++ []
def dkwX5_ends_1 : List UInt8 := [20, 0, 70, 148, 156, 0, 11, 42, 4, 181, 0, 56, 167, 0, 15, 42, 180, 0, 12, 43, 182, 0, 72]
abbrev dktX5_ends_1 : List UInt8 := dkwX5_ends_1 ++ dktX5_ends_2
def dkwX5_ends_0 : List UInt8 := [42, 180, 0, 22, 42, 180, 0, 52, 32, 20, 0, 70, 148, 156, 0, 7, 9, 167, 0, 4, 32, 80, 32]
abbrev dktX5_ends_0 : List UInt8 := dkwX5_ends_0 ++ dktX5_ends_1
theorem dksX5_ends_0 : cX5_ends.data.toList.drop 0 = dktX5_ends_0 := sorry
theorem dksX5_ends_1 : cX5_ends.data.toList.drop 23 = dktX5_ends_1 := sorry
theorem dksX5_ends_2 : cX5_ends.data.toList.drop 46 = dktX5_ends_2 := sorry
theorem dX5_ends_0 : decode cX5_ends 0 = .ok (.aload_n 0, 1) := sorry
theorem dX5_ends_1 : decode cX5_ends 1 = .ok (.getfield 22, 3) := sorry
theorem dX5_ends_4 : decode cX5_ends 4 = .ok (.aload_n 0, 1) := sorry
theorem dX5_ends_5 : decode cX5_ends 5 = .ok (.getfield 52, 3) := sorry
theorem dX5_ends_8 : decode cX5_ends 8 = .ok (.lload_n 2, 1) := sorry
theorem dX5_ends_9 : decode cX5_ends 9 = .ok (.ldc2_w 70, 3) := sorry
theorem dX5_ends_12 : decode cX5_ends 12 = .ok (.lcmp, 1) := sorry
theorem dX5_ends_13 : decode cX5_ends 13 = .ok (.ifCond .ge 7, 3) := sorry
theorem dX5_ends_16 : decode cX5_ends 16 = .ok (.lconst 0, 1) := sorry
theorem dX5_ends_17 : decode cX5_ends 17 = .ok (.goto 4, 3) := sorry
theorem dX5_ends_20 : decode cX5_ends 20 = .ok (.lload_n 2, 1) := sorry
theorem dX5_ends_21 : decode cX5_ends 21 = .ok (.lastore, 1) := sorry
theorem dX5_ends_22 : decode cX5_ends 22 = .ok (.lload_n 2, 1) := sorry
theorem dX5_ends_23 : decode cX5_ends 23 = .ok (.ldc2_w 70, 3) := sorry
theorem dX5_ends_26 : decode cX5_ends 26 = .ok (.lcmp, 1) := sorry
theorem dX5_ends_27 : decode cX5_ends 27 = .ok (.ifCond .ge 11, 3) := sorry
theorem dX5_ends_30 : decode cX5_ends 30 = .ok (.aload_n 0, 1) := sorry
theorem dX5_ends_31 : decode cX5_ends 31 = .ok (.iconst 1, 1) := sorry
theorem dX5_ends_32 : decode cX5_ends 32 = .ok (.putfield 56, 3) := sorry
theorem dX5_ends_35 : decode cX5_ends 35 = .ok (.goto 15, 3) := sorry
theorem dX5_ends_38 : decode cX5_ends 38 = .ok (.aload_n 0, 1) := sorry
theorem dX5_ends_39 : decode cX5_ends 39 = .ok (.getfield 12, 3) := sorry
theorem dX5_ends_42 : decode cX5_ends 42 = .ok (.aload_n 1, 1) := sorry
theorem dX5_ends_43 : decode cX5_ends 43 = .ok (.invokevirtual 72, 3) := sorry
theorem dX5_ends_46 : decode cX5_ends 46 = .ok (.invokevirtual 30, 3) := sorry
theorem dX5_ends_49 : decode cX5_ends 49 = .ok (.pop, 1) := sorry
theorem dX5_ends_50 : decode cX5_ends 50 = .ok (.aload_n 0, 1) := sorry
theorem dX5_ends_51 : decode cX5_ends 51 = .ok (.dup, 1) := sorry
theorem dX5_ends_52 : decode cX5_ends 52 = .ok (.getfield 52, 3) := sorry
theorem dX5_ends_55 : decode cX5_ends 55 = .ok (.iconst 1, 1) := sorry
theorem dX5_ends_56 : decode cX5_ends 56 = .ok (.iadd, 1) := sorry
theorem dX5_ends_57 : decode cX5_ends 57 = .ok (.putfield 52, 3) := sorry
theorem dX5_ends_60 : decode cX5_ends 60 = .ok (.return_, 1) := sorry
abbrev cX5_estimates : ByteArray := prog_10_method_4_code
def yX5_estimates : MethodName := ⟨RX5, "estimates", "(J)V"⟩
def dkwX5_estimates_2 : List UInt8 := [180, 0, 52, 20, 0, 60, 80, 177]
abbrev dktX5_estimates_2 : List UInt8 := dkwX5_estimates_2 ++ []
def dkwX5_estimates_1 : List UInt8 := [31, 182, 0, 66, 80, 132, 3, 1, 167, 255, 226, 42, 180, 0, 27, 42, 180, 0, 52, 4, 96, 50, 42]
abbrev dktX5_estimates_1 : List UInt8 := dkwX5_estimates_1 ++ dktX5_estimates_2
def dkwX5_estimates_0 : List UInt8 := [3, 62, 29, 42, 180, 0, 52, 162, 0, 28, 42, 180, 0, 27, 42, 180, 0, 52, 4, 96, 50, 29, 42, 29]
abbrev dktX5_estimates_0 : List UInt8 := dkwX5_estimates_0 ++ dktX5_estimates_1
theorem dksX5_estimates_0 : cX5_estimates.data.toList.drop 0 = dktX5_estimates_0 := sorry
theorem dksX5_estimates_1 : cX5_estimates.data.toList.drop 24 = dktX5_estimates_1 := sorry
theorem dksX5_estimates_2 : cX5_estimates.data.toList.drop 47 = dktX5_estimates_2 := sorry
theorem dX5_estimates_0 : decode cX5_estimates 0 = .ok (.iconst 0, 1) := sorry
theorem dX5_estimates_1 : decode cX5_estimates 1 = .ok (.istore_n 3, 1) := sorry
theorem dX5_estimates_2 : decode cX5_estimates 2 = .ok (.iload_n 3, 1) := sorry
theorem dX5_estimates_3 : decode cX5_estimates 3 = .ok (.aload_n 0, 1) := sorry
theorem dX5_estimates_4 : decode cX5_estimates 4 = .ok (.getfield 52, 3) := sorry
theorem dX5_estimates_7 : decode cX5_estimates 7 = .ok (.if_icmp .ge 28, 3) := sorry
theorem dX5_estimates_10 : decode cX5_estimates 10 = .ok (.aload_n 0, 1) := sorry
theorem dX5_estimates_11 : decode cX5_estimates 11 = .ok (.getfield 27, 3) := sorry
theorem dX5_estimates_14 : decode cX5_estimates 14 = .ok (.aload_n 0, 1) := sorry
theorem dX5_estimates_15 : decode cX5_estimates 15 = .ok (.getfield 52, 3) := sorry
theorem dX5_estimates_18 : decode cX5_estimates 18 = .ok (.iconst 1, 1) := sorry
theorem dX5_estimates_19 : decode cX5_estimates 19 = .ok (.iadd, 1) := sorry
theorem dX5_estimates_20 : decode cX5_estimates 20 = .ok (.aaload, 1) := sorry
theorem dX5_estimates_21 : decode cX5_estimates 21 = .ok (.iload_n 3, 1) := sorry
theorem dX5_estimates_22 : decode cX5_estimates 22 = .ok (.aload_n 0, 1) := sorry
theorem dX5_estimates_23 : decode cX5_estimates 23 = .ok (.iload_n 3, 1) := sorry
theorem dX5_estimates_24 : decode cX5_estimates 24 = .ok (.lload_n 1, 1) := sorry
theorem dX5_estimates_25 : decode cX5_estimates 25 = .ok (.invokevirtual 66, 3) := sorry
theorem dX5_estimates_28 : decode cX5_estimates 28 = .ok (.lastore, 1) := sorry
theorem dX5_estimates_29 : decode cX5_estimates 29 = .ok (.iinc 3 1, 3) := sorry
theorem dX5_estimates_32 : decode cX5_estimates 32 = .ok (.goto (-30), 3) := sorry
theorem dX5_estimates_35 : decode cX5_estimates 35 = .ok (.aload_n 0, 1) := sorry
theorem dX5_estimates_36 : decode cX5_estimates 36 = .ok (.getfield 27, 3) := sorry
theorem dX5_estimates_39 : decode cX5_estimates 39 = .ok (.aload_n 0, 1) := sorry
theorem dX5_estimates_40 : decode cX5_estimates 40 = .ok (.getfield 52, 3) := sorry
theorem dX5_estimates_43 : decode cX5_estimates 43 = .ok (.iconst 1, 1) := sorry
theorem dX5_estimates_44 : decode cX5_estimates 44 = .ok (.iadd, 1) := sorry
theorem dX5_estimates_45 : decode cX5_estimates 45 = .ok (.aaload, 1) := sorry
theorem dX5_estimates_46 : decode cX5_estimates 46 = .ok (.aload_n 0, 1) := sorry
theorem dX5_estimates_47 : decode cX5_estimates 47 = .ok (.getfield 52, 3) := sorry
theorem dX5_estimates_50 : decode cX5_estimates 50 = .ok (.ldc2_w 60, 3) := sorry
theorem dX5_estimates_53 : decode cX5_estimates 53 = .ok (.lastore, 1) := sorry
theorem dX5_estimates_54 : decode cX5_estimates 54 = .ok (.return_, 1) := sorry
abbrev cX5_estimate : ByteArray := prog_10_method_3_code
def yX5_estimate : MethodName := ⟨RX5, "estimate", "(IJ)J"⟩
def dkwX5_estimate_6 : List UInt8 := [184, 0, 62, 173]
abbrev dktX5_estimate_6 : List UInt8 := dkwX5_estimate_6 ++ []
def dkwX5_estimate_5 : List UInt8 := [148, 155, 0, 12, 22, 5, 20, 0, 60, 97, 167, 0, 9, 22, 5, 20, 0, 60, 101, 20, 0, 34]
abbrev dktX5_estimate_5 : List UInt8 := dkwX5_estimate_5 ++ dktX5_estimate_6
def dkwX5_estimate_4 : List UInt8 := [42, 180, 0, 27, 21, 4, 4, 100, 50, 27, 47, 105, 101, 55, 5, 22, 5, 32, 109, 55, 5, 22, 5, 9]
abbrev dktX5_estimate_4 : List UInt8 := dkwX5_estimate_4 ++ dktX5_estimate_5
def dkwX5_estimate_3 : List UInt8 := [27, 4, 100, 47, 105, 97, 55, 5, 21, 4, 158, 0, 29, 22, 5, 42, 180, 0, 22, 21, 4, 4, 100, 47]
abbrev dktX5_estimate_3 : List UInt8 := dkwX5_estimate_3 ++ dktX5_estimate_4
def dkwX5_estimate_2 : List UInt8 := [97, 55, 5, 27, 158, 0, 28, 22, 5, 42, 180, 0, 22, 27, 4, 100, 47, 42, 180, 0, 27, 21, 4, 50]
abbrev dktX5_estimate_2 : List UInt8 := dkwX5_estimate_2 ++ dktX5_estimate_3
def dkwX5_estimate_1 : List UInt8 := [42, 180, 0, 18, 27, 47, 42, 180, 0, 18, 21, 4, 47, 101, 42, 180, 0, 27, 21, 4, 50, 27, 47, 105]
abbrev dktX5_estimate_1 : List UInt8 := dkwX5_estimate_1 ++ dktX5_estimate_2
def dkwX5_estimate_0 : List UInt8 := [42, 180, 0, 52, 54, 4, 42, 180, 0, 22, 27, 47, 42, 180, 0, 27, 21, 4, 50, 27, 4, 96, 47, 105]
abbrev dktX5_estimate_0 : List UInt8 := dkwX5_estimate_0 ++ dktX5_estimate_1
theorem dksX5_estimate_0 : cX5_estimate.data.toList.drop 0 = dktX5_estimate_0 := sorry
theorem dksX5_estimate_1 : cX5_estimate.data.toList.drop 24 = dktX5_estimate_1 := sorry
theorem dksX5_estimate_2 : cX5_estimate.data.toList.drop 48 = dktX5_estimate_2 := sorry
theorem dksX5_estimate_3 : cX5_estimate.data.toList.drop 72 = dktX5_estimate_3 := sorry
theorem dksX5_estimate_4 : cX5_estimate.data.toList.drop 96 = dktX5_estimate_4 := sorry
theorem dksX5_estimate_5 : cX5_estimate.data.toList.drop 120 = dktX5_estimate_5 := sorry
theorem dksX5_estimate_6 : cX5_estimate.data.toList.drop 142 = dktX5_estimate_6 := sorry
theorem dX5_estimate_0 : decode cX5_estimate 0 = .ok (.aload_n 0, 1) := sorry
theorem dX5_estimate_1 : decode cX5_estimate 1 = .ok (.getfield 52, 3) := sorry
theorem dX5_estimate_4 : decode cX5_estimate 4 = .ok (.istore 4, 2) := sorry
theorem dX5_estimate_6 : decode cX5_estimate 6 = .ok (.aload_n 0, 1) := sorry
theorem dX5_estimate_7 : decode cX5_estimate 7 = .ok (.getfield 22, 3) := sorry
theorem dX5_estimate_10 : decode cX5_estimate 10 = .ok (.iload_n 1, 1) := sorry
theorem dX5_estimate_11 : decode cX5_estimate 11 = .ok (.laload, 1) := sorry
theorem dX5_estimate_12 : decode cX5_estimate 12 = .ok (.aload_n 0, 1) := sorry
theorem dX5_estimate_13 : decode cX5_estimate 13 = .ok (.getfield 27, 3) := sorry
theorem dX5_estimate_16 : decode cX5_estimate 16 = .ok (.iload 4, 2) := sorry
theorem dX5_estimate_18 : decode cX5_estimate 18 = .ok (.aaload, 1) := sorry
theorem dX5_estimate_19 : decode cX5_estimate 19 = .ok (.iload_n 1, 1) := sorry
theorem dX5_estimate_20 : decode cX5_estimate 20 = .ok (.iconst 1, 1) := sorry
theorem dX5_estimate_21 : decode cX5_estimate 21 = .ok (.iadd, 1) := sorry
theorem dX5_estimate_22 : decode cX5_estimate 22 = .ok (.laload, 1) := sorry
theorem dX5_estimate_23 : decode cX5_estimate 23 = .ok (.lmul, 1) := sorry
theorem dX5_estimate_24 : decode cX5_estimate 24 = .ok (.aload_n 0, 1) := sorry
theorem dX5_estimate_25 : decode cX5_estimate 25 = .ok (.getfield 18, 3) := sorry
theorem dX5_estimate_28 : decode cX5_estimate 28 = .ok (.iload_n 1, 1) := sorry
theorem dX5_estimate_29 : decode cX5_estimate 29 = .ok (.laload, 1) := sorry
theorem dX5_estimate_30 : decode cX5_estimate 30 = .ok (.aload_n 0, 1) := sorry
theorem dX5_estimate_31 : decode cX5_estimate 31 = .ok (.getfield 18, 3) := sorry
theorem dX5_estimate_34 : decode cX5_estimate 34 = .ok (.iload 4, 2) := sorry
theorem dX5_estimate_36 : decode cX5_estimate 36 = .ok (.laload, 1) := sorry
theorem dX5_estimate_37 : decode cX5_estimate 37 = .ok (.lsub, 1) := sorry
theorem dX5_estimate_38 : decode cX5_estimate 38 = .ok (.aload_n 0, 1) := sorry
theorem dX5_estimate_39 : decode cX5_estimate 39 = .ok (.getfield 27, 3) := sorry
theorem dX5_estimate_42 : decode cX5_estimate 42 = .ok (.iload 4, 2) := sorry
theorem dX5_estimate_44 : decode cX5_estimate 44 = .ok (.aaload, 1) := sorry
theorem dX5_estimate_45 : decode cX5_estimate 45 = .ok (.iload_n 1, 1) := sorry
theorem dX5_estimate_46 : decode cX5_estimate 46 = .ok (.laload, 1) := sorry
theorem dX5_estimate_47 : decode cX5_estimate 47 = .ok (.lmul, 1) := sorry
theorem dX5_estimate_48 : decode cX5_estimate 48 = .ok (.ladd, 1) := sorry
theorem dX5_estimate_49 : decode cX5_estimate 49 = .ok (.lstore 5, 2) := sorry
theorem dX5_estimate_51 : decode cX5_estimate 51 = .ok (.iload_n 1, 1) := sorry
theorem dX5_estimate_52 : decode cX5_estimate 52 = .ok (.ifCond .le 28, 3) := sorry
theorem dX5_estimate_55 : decode cX5_estimate 55 = .ok (.lload 5, 2) := sorry
theorem dX5_estimate_57 : decode cX5_estimate 57 = .ok (.aload_n 0, 1) := sorry
theorem dX5_estimate_58 : decode cX5_estimate 58 = .ok (.getfield 22, 3) := sorry
theorem dX5_estimate_61 : decode cX5_estimate 61 = .ok (.iload_n 1, 1) := sorry
theorem dX5_estimate_62 : decode cX5_estimate 62 = .ok (.iconst 1, 1) := sorry
theorem dX5_estimate_63 : decode cX5_estimate 63 = .ok (.isub, 1) := sorry
theorem dX5_estimate_64 : decode cX5_estimate 64 = .ok (.laload, 1) := sorry
theorem dX5_estimate_65 : decode cX5_estimate 65 = .ok (.aload_n 0, 1) := sorry
theorem dX5_estimate_66 : decode cX5_estimate 66 = .ok (.getfield 27, 3) := sorry
theorem dX5_estimate_69 : decode cX5_estimate 69 = .ok (.iload 4, 2) := sorry
theorem dX5_estimate_71 : decode cX5_estimate 71 = .ok (.aaload, 1) := sorry
theorem dX5_estimate_72 : decode cX5_estimate 72 = .ok (.iload_n 1, 1) := sorry
theorem dX5_estimate_73 : decode cX5_estimate 73 = .ok (.iconst 1, 1) := sorry
theorem dX5_estimate_74 : decode cX5_estimate 74 = .ok (.isub, 1) := sorry
theorem dX5_estimate_75 : decode cX5_estimate 75 = .ok (.laload, 1) := sorry
theorem dX5_estimate_76 : decode cX5_estimate 76 = .ok (.lmul, 1) := sorry
theorem dX5_estimate_77 : decode cX5_estimate 77 = .ok (.ladd, 1) := sorry
theorem dX5_estimate_78 : decode cX5_estimate 78 = .ok (.lstore 5, 2) := sorry
theorem dX5_estimate_80 : decode cX5_estimate 80 = .ok (.iload 4, 2) := sorry
theorem dX5_estimate_82 : decode cX5_estimate 82 = .ok (.ifCond .le 29, 3) := sorry
theorem dX5_estimate_85 : decode cX5_estimate 85 = .ok (.lload 5, 2) := sorry
theorem dX5_estimate_87 : decode cX5_estimate 87 = .ok (.aload_n 0, 1) := sorry
theorem dX5_estimate_88 : decode cX5_estimate 88 = .ok (.getfield 22, 3) := sorry
theorem dX5_estimate_91 : decode cX5_estimate 91 = .ok (.iload 4, 2) := sorry
theorem dX5_estimate_93 : decode cX5_estimate 93 = .ok (.iconst 1, 1) := sorry
theorem dX5_estimate_94 : decode cX5_estimate 94 = .ok (.isub, 1) := sorry
theorem dX5_estimate_95 : decode cX5_estimate 95 = .ok (.laload, 1) := sorry
theorem dX5_estimate_96 : decode cX5_estimate 96 = .ok (.aload_n 0, 1) := sorry
theorem dX5_estimate_97 : decode cX5_estimate 97 = .ok (.getfield 27, 3) := sorry
theorem dX5_estimate_100 : decode cX5_estimate 100 = .ok (.iload 4, 2) := sorry
theorem dX5_estimate_102 : decode cX5_estimate 102 = .ok (.iconst 1, 1) := sorry
theorem dX5_estimate_103 : decode cX5_estimate 103 = .ok (.isub, 1) := sorry
theorem dX5_estimate_104 : decode cX5_estimate 104 = .ok (.aaload, 1) := sorry
theorem dX5_estimate_105 : decode cX5_estimate 105 = .ok (.iload_n 1, 1) := sorry
theorem dX5_estimate_106 : decode cX5_estimate 106 = .ok (.laload, 1) := sorry
theorem dX5_estimate_107 : decode cX5_estimate 107 = .ok (.lmul, 1) := sorry
theorem dX5_estimate_108 : decode cX5_estimate 108 = .ok (.lsub, 1) := sorry
theorem dX5_estimate_109 : decode cX5_estimate 109 = .ok (.lstore 5, 2) := sorry
theorem dX5_estimate_111 : decode cX5_estimate 111 = .ok (.lload 5, 2) := sorry
theorem dX5_estimate_113 : decode cX5_estimate 113 = .ok (.lload_n 2, 1) := sorry
theorem dX5_estimate_114 : decode cX5_estimate 114 = .ok (.ldiv, 1) := sorry
theorem dX5_estimate_115 : decode cX5_estimate 115 = .ok (.lstore 5, 2) := sorry
theorem dX5_estimate_117 : decode cX5_estimate 117 = .ok (.lload 5, 2) := sorry
theorem dX5_estimate_119 : decode cX5_estimate 119 = .ok (.lconst 0, 1) := sorry
theorem dX5_estimate_120 : decode cX5_estimate 120 = .ok (.lcmp, 1) := sorry
theorem dX5_estimate_121 : decode cX5_estimate 121 = .ok (.ifCond .lt 12, 3) := sorry
theorem dX5_estimate_124 : decode cX5_estimate 124 = .ok (.lload 5, 2) := sorry
theorem dX5_estimate_126 : decode cX5_estimate 126 = .ok (.ldc2_w 60, 3) := sorry
theorem dX5_estimate_129 : decode cX5_estimate 129 = .ok (.ladd, 1) := sorry
theorem dX5_estimate_130 : decode cX5_estimate 130 = .ok (.goto 9, 3) := sorry
theorem dX5_estimate_133 : decode cX5_estimate 133 = .ok (.lload 5, 2) := sorry
theorem dX5_estimate_135 : decode cX5_estimate 135 = .ok (.ldc2_w 60, 3) := sorry
theorem dX5_estimate_138 : decode cX5_estimate 138 = .ok (.lsub, 1) := sorry
theorem dX5_estimate_139 : decode cX5_estimate 139 = .ok (.ldc2_w 34, 3) := sorry
theorem dX5_estimate_142 : decode cX5_estimate 142 = .ok (.invokestatic 62, 3) := sorry
theorem dX5_estimate_145 : decode cX5_estimate 145 = .ok (.lreturn, 1) := sorry
abbrev cX5_ritz : ByteArray := prog_10_method_10_code
def yX5_ritz : MethodName := ⟨RX5, "ritz", "(I)LKrylovLaboratory$Vector;"⟩
def dkwX5_ritz_5 : List UInt8 := [176]
abbrev dktX5_ritz_5 : List UInt8 := dkwX5_ritz_5 ++ []
def dkwX5_ritz_4 : List UInt8 := [20, 0, 34, 184, 0, 89, 80, 132, 4, 1, 167, 255, 182, 187, 0, 44, 89, 45, 183, 0, 108, 182, 0, 72]
abbrev dktX5_ritz_4 : List UInt8 := dkwX5_ritz_4 ++ dktX5_ritz_5
def dkwX5_ritz_3 : List UInt8 := [192, 0, 44, 180, 0, 120, 21, 4, 47, 105, 97, 55, 5, 132, 7, 1, 167, 255, 213, 45, 21, 4, 22, 5]
abbrev dktX5_ritz_3 : List UInt8 := dkwX5_ritz_3 ++ dktX5_ritz_4
def dkwX5_ritz_2 : List UInt8 := [180, 0, 52, 162, 0, 40, 22, 5, 44, 180, 0, 120, 21, 7, 47, 42, 180, 0, 12, 21, 7, 182, 0, 40]
abbrev dktX5_ritz_2 : List UInt8 := dkwX5_ritz_2 ++ dktX5_ritz_3
def dkwX5_ritz_1 : List UInt8 := [188, 11, 78, 3, 54, 4, 21, 4, 45, 190, 162, 0, 73, 9, 55, 5, 3, 54, 7, 21, 7, 42]
abbrev dktX5_ritz_1 : List UInt8 := dkwX5_ritz_1 ++ dktX5_ritz_2
def dkwX5_ritz_0 : List UInt8 := [42, 42, 27, 182, 0, 111, 182, 0, 115, 77, 42, 180, 0, 12, 3, 182, 0, 40, 192, 0, 44, 182, 0, 119]
abbrev dktX5_ritz_0 : List UInt8 := dkwX5_ritz_0 ++ dktX5_ritz_1
theorem dksX5_ritz_0 : cX5_ritz.data.toList.drop 0 = dktX5_ritz_0 := sorry
theorem dksX5_ritz_1 : cX5_ritz.data.toList.drop 24 = dktX5_ritz_1 := sorry
theorem dksX5_ritz_2 : cX5_ritz.data.toList.drop 46 = dktX5_ritz_2 := sorry
theorem dksX5_ritz_3 : cX5_ritz.data.toList.drop 70 = dktX5_ritz_3 := sorry
theorem dksX5_ritz_4 : cX5_ritz.data.toList.drop 94 = dktX5_ritz_4 := sorry
theorem dksX5_ritz_5 : cX5_ritz.data.toList.drop 118 = dktX5_ritz_5 := sorry
theorem dX5_ritz_0 : decode cX5_ritz 0 = .ok (.aload_n 0, 1) := sorry
theorem dX5_ritz_1 : decode cX5_ritz 1 = .ok (.aload_n 0, 1) := sorry
theorem dX5_ritz_2 : decode cX5_ritz 2 = .ok (.iload_n 1, 1) := sorry
theorem dX5_ritz_3 : decode cX5_ritz 3 = .ok (.invokevirtual 111, 3) := sorry
theorem dX5_ritz_6 : decode cX5_ritz 6 = .ok (.invokevirtual 115, 3) := sorry
theorem dX5_ritz_9 : decode cX5_ritz 9 = .ok (.astore_n 2, 1) := sorry
theorem dX5_ritz_10 : decode cX5_ritz 10 = .ok (.aload_n 0, 1) := sorry
theorem dX5_ritz_11 : decode cX5_ritz 11 = .ok (.getfield 12, 3) := sorry
theorem dX5_ritz_14 : decode cX5_ritz 14 = .ok (.iconst 0, 1) := sorry
theorem dX5_ritz_15 : decode cX5_ritz 15 = .ok (.invokevirtual 40, 3) := sorry
theorem dX5_ritz_18 : decode cX5_ritz 18 = .ok (.checkcast 44, 3) := sorry
theorem dX5_ritz_21 : decode cX5_ritz 21 = .ok (.invokevirtual 119, 3) := sorry
theorem dX5_ritz_24 : decode cX5_ritz 24 = .ok (.newarray .long, 2) := sorry
theorem dX5_ritz_26 : decode cX5_ritz 26 = .ok (.astore_n 3, 1) := sorry
theorem dX5_ritz_27 : decode cX5_ritz 27 = .ok (.iconst 0, 1) := sorry
theorem dX5_ritz_28 : decode cX5_ritz 28 = .ok (.istore 4, 2) := sorry
theorem dX5_ritz_30 : decode cX5_ritz 30 = .ok (.iload 4, 2) := sorry
theorem dX5_ritz_32 : decode cX5_ritz 32 = .ok (.aload_n 3, 1) := sorry
theorem dX5_ritz_33 : decode cX5_ritz 33 = .ok (.arraylength, 1) := sorry
theorem dX5_ritz_34 : decode cX5_ritz 34 = .ok (.if_icmp .ge 73, 3) := sorry
theorem dX5_ritz_37 : decode cX5_ritz 37 = .ok (.lconst 0, 1) := sorry
theorem dX5_ritz_38 : decode cX5_ritz 38 = .ok (.lstore 5, 2) := sorry
theorem dX5_ritz_40 : decode cX5_ritz 40 = .ok (.iconst 0, 1) := sorry
theorem dX5_ritz_41 : decode cX5_ritz 41 = .ok (.istore 7, 2) := sorry
theorem dX5_ritz_43 : decode cX5_ritz 43 = .ok (.iload 7, 2) := sorry
theorem dX5_ritz_45 : decode cX5_ritz 45 = .ok (.aload_n 0, 1) := sorry
theorem dX5_ritz_46 : decode cX5_ritz 46 = .ok (.getfield 52, 3) := sorry
theorem dX5_ritz_49 : decode cX5_ritz 49 = .ok (.if_icmp .ge 40, 3) := sorry
theorem dX5_ritz_52 : decode cX5_ritz 52 = .ok (.lload 5, 2) := sorry
theorem dX5_ritz_54 : decode cX5_ritz 54 = .ok (.aload_n 2, 1) := sorry
theorem dX5_ritz_55 : decode cX5_ritz 55 = .ok (.getfield 120, 3) := sorry
theorem dX5_ritz_58 : decode cX5_ritz 58 = .ok (.iload 7, 2) := sorry
theorem dX5_ritz_60 : decode cX5_ritz 60 = .ok (.laload, 1) := sorry
theorem dX5_ritz_61 : decode cX5_ritz 61 = .ok (.aload_n 0, 1) := sorry
theorem dX5_ritz_62 : decode cX5_ritz 62 = .ok (.getfield 12, 3) := sorry
theorem dX5_ritz_65 : decode cX5_ritz 65 = .ok (.iload 7, 2) := sorry
theorem dX5_ritz_67 : decode cX5_ritz 67 = .ok (.invokevirtual 40, 3) := sorry
theorem dX5_ritz_70 : decode cX5_ritz 70 = .ok (.checkcast 44, 3) := sorry
theorem dX5_ritz_73 : decode cX5_ritz 73 = .ok (.getfield 120, 3) := sorry
theorem dX5_ritz_76 : decode cX5_ritz 76 = .ok (.iload 4, 2) := sorry
theorem dX5_ritz_78 : decode cX5_ritz 78 = .ok (.laload, 1) := sorry
theorem dX5_ritz_79 : decode cX5_ritz 79 = .ok (.lmul, 1) := sorry
theorem dX5_ritz_80 : decode cX5_ritz 80 = .ok (.ladd, 1) := sorry
theorem dX5_ritz_81 : decode cX5_ritz 81 = .ok (.lstore 5, 2) := sorry
theorem dX5_ritz_83 : decode cX5_ritz 83 = .ok (.iinc 7 1, 3) := sorry
theorem dX5_ritz_86 : decode cX5_ritz 86 = .ok (.goto (-43), 3) := sorry
theorem dX5_ritz_89 : decode cX5_ritz 89 = .ok (.aload_n 3, 1) := sorry
theorem dX5_ritz_90 : decode cX5_ritz 90 = .ok (.iload 4, 2) := sorry
theorem dX5_ritz_92 : decode cX5_ritz 92 = .ok (.lload 5, 2) := sorry
theorem dX5_ritz_94 : decode cX5_ritz 94 = .ok (.ldc2_w 34, 3) := sorry
theorem dX5_ritz_97 : decode cX5_ritz 97 = .ok (.invokestatic 89, 3) := sorry
theorem dX5_ritz_100 : decode cX5_ritz 100 = .ok (.lastore, 1) := sorry
theorem dX5_ritz_101 : decode cX5_ritz 101 = .ok (.iinc 4 1, 3) := sorry
theorem dX5_ritz_104 : decode cX5_ritz 104 = .ok (.goto (-74), 3) := sorry
theorem dX5_ritz_107 : decode cX5_ritz 107 = .ok (.new 44, 3) := sorry
theorem dX5_ritz_110 : decode cX5_ritz 110 = .ok (.dup, 1) := sorry
theorem dX5_ritz_111 : decode cX5_ritz 111 = .ok (.aload_n 3, 1) := sorry
theorem dX5_ritz_112 : decode cX5_ritz 112 = .ok (.invokespecial 108, 3) := sorry
theorem dX5_ritz_115 : decode cX5_ritz 115 = .ok (.invokevirtual 72, 3) := sorry
theorem dX5_ritz_118 : decode cX5_ritz 118 = .ok (.areturn, 1) := sorry
theorem q161 : (Jvm.Cond.initialized "KrylovLaboratory$Space") ∈ lw_all := sorry
theorem q314 : (Jvm.Cond.fieldLinkNest "KrylovLaboratory$Space" (120 : Nat) "KrylovLaboratory$Vector" "row" "[J" "KrylovLaboratory") ∈ lw_tbl := lw_at lw_m1 185 rfl
theorem q564 : (Jvm.Cond.selects "KrylovLaboratory$Space" ({ cls := "java/lang/Object", name := "getClass", desc := "()Ljava/lang/Class;" } : Jvm.MethodName) ({ cls := "java/lang/Object", name := "getClass", desc := "()Ljava/lang/Class;" } : Jvm.MethodName)) ∈ lw_all := sorry
theorem q951 : (Jvm.Cond.instantiable "KrylovLaboratory$Space" (6 : Nat)) ∈ lw_all := sorry
theorem q958 : (Jvm.Cond.instanceMethod ({ cls := "KrylovLaboratory$Space", name := "<init>", desc := "(LKrylovLaboratory$Vector;)V" } : Jvm.MethodName)) ∈ lw_all := sorry
theorem q959 : (Jvm.Cond.code ({ cls := "KrylovLaboratory$Space", name := "<init>", desc := "(LKrylovLaboratory$Vector;)V" } : Jvm.MethodName) prog_10_method_1_code (3 : Nat) (Option.none : Option Jvm.ClassFile.FieldType)) ∈ lw_all := sorry
theorem q960 : (Jvm.Cond.methodLink "KrylovLaboratory$Space" (3 : Nat) ({ cls := "java/lang/Object", name := "<init>", desc := "()V" } : Jvm.MethodName)) ∈ lw_all := sorry
theorem q961 : (Jvm.Cond.classLink "KrylovLaboratory$Space" (9 : Nat) "java/util/ArrayList") ∈ lw_all := sorry
theorem q962 : (Jvm.Cond.methodLink "KrylovLaboratory$Space" (11 : Nat) ({ cls := "java/util/ArrayList", name := "<init>", desc := "()V" } : Jvm.MethodName)) ∈ lw_all := sorry
theorem q978 : (Jvm.Cond.classLink "KrylovLaboratory$Space" (25 : Nat) "[[J") ∈ lw_all := lw_g (lw_at lw_m4 129 rfl) rfl
theorem q980 : (Jvm.Cond.methodLink "KrylovLaboratory$Space" (30 : Nat) ({ cls := "java/util/ArrayList", name := "add", desc := "(Ljava/lang/Object;)Z" } : Jvm.MethodName)) ∈ lw_all := sorry
theorem q1009 : (Jvm.Cond.constantLong "KrylovLaboratory$Space" (34 : Nat) (1000000 : Int64)) ∈ lw_all := sorry
theorem q1010 : (Jvm.Cond.fieldLink "KrylovLaboratory$Space" (12 : Nat) "KrylovLaboratory$Space" "basis" "Ljava/util/ArrayList;") ∈ lw_all := sorry
theorem q1013 : (Jvm.Cond.fieldLink "KrylovLaboratory$Space" (18 : Nat) "KrylovLaboratory$Space" "alpha" "[J") ∈ lw_all := lw_g (lw_at lw_m4 164 rfl) rfl
theorem q1016 : (Jvm.Cond.fieldLink "KrylovLaboratory$Space" (22 : Nat) "KrylovLaboratory$Space" "beta" "[J") ∈ lw_all := lw_g (lw_at lw_m4 167 rfl) rfl
theorem q1019 : (Jvm.Cond.fieldLink "KrylovLaboratory$Space" (27 : Nat) "KrylovLaboratory$Space" "estimates" "[[J") ∈ lw_all := lw_g (lw_at lw_m4 170 rfl) rfl
theorem q1022 : (Jvm.Cond.fieldLink "KrylovLaboratory$Space" (52 : Nat) "KrylovLaboratory$Space" "steps" "I") ∈ lw_all := sorry
theorem q1025 : (Jvm.Cond.fieldLink "KrylovLaboratory$Space" (56 : Nat) "KrylovLaboratory$Space" "isClosed" "Z") ∈ lw_all := sorry
theorem q1028 : (Jvm.Cond.laysFinal "KrylovLaboratory$Space" "KrylovLaboratory$Space" "basis" "Ljava/util/ArrayList;") ∈ lw_all := sorry
theorem q1029 : (Jvm.Cond.soleField "KrylovLaboratory$Space" "basis") ∈ lw_all := sorry
theorem q1030 : (Jvm.Cond.laysFinal "KrylovLaboratory$Space" "KrylovLaboratory$Space" "alpha" "[J") ∈ lw_all := lw_g (lw_at lw_m4 181 rfl) rfl
theorem q1031 : (Jvm.Cond.soleField "KrylovLaboratory$Space" "alpha") ∈ lw_all := sorry
theorem q1032 : (Jvm.Cond.laysFinal "KrylovLaboratory$Space" "KrylovLaboratory$Space" "beta" "[J") ∈ lw_all := lw_g (lw_at lw_m4 183 rfl) rfl
theorem q1033 : (Jvm.Cond.soleField "KrylovLaboratory$Space" "beta") ∈ lw_all := sorry
theorem q1034 : (Jvm.Cond.laysFinal "KrylovLaboratory$Space" "KrylovLaboratory$Space" "estimates" "[[J") ∈ lw_all := lw_g (lw_at lw_m4 185 rfl) rfl
theorem q1035 : (Jvm.Cond.soleField "KrylovLaboratory$Space" "estimates") ∈ lw_all := sorry
theorem q1036 : (Jvm.Cond.lays "KrylovLaboratory$Space" "KrylovLaboratory$Space" "steps" "I") ∈ lw_all := sorry
theorem q1037 : (Jvm.Cond.soleField "KrylovLaboratory$Space" "steps") ∈ lw_all := sorry
theorem q1038 : (Jvm.Cond.lays "KrylovLaboratory$Space" "KrylovLaboratory$Space" "isClosed" "Z") ∈ lw_all := sorry
theorem q1039 : (Jvm.Cond.soleField "KrylovLaboratory$Space" "isClosed") ∈ lw_all := sorry
theorem q1040 : (Jvm.Cond.superclass "KrylovLaboratory$Space" "java/lang/Object") ∈ lw_all := sorry
theorem q1174 : (Jvm.Cond.instanceMethod ({ cls := "KrylovLaboratory$Space", name := "loss", desc := "()J" } : Jvm.MethodName)) ∈ lw_all := sorry
theorem q1175 : (Jvm.Cond.selects "KrylovLaboratory$Space" ({ cls := "KrylovLaboratory$Space", name := "loss", desc := "()J" } : Jvm.MethodName) ({ cls := "KrylovLaboratory$Space", name := "loss", desc := "()J" } : Jvm.MethodName)) ∈ lw_all := sorry
theorem q1176 : (Jvm.Cond.code ({ cls := "KrylovLaboratory$Space", name := "loss", desc := "()J" } : Jvm.MethodName) prog_10_method_6_code (5 : Nat) (Option.some Jvm.ClassFile.FieldType.long)) ∈ lw_all := sorry
theorem q1177 : (Jvm.Cond.methodLink "KrylovLaboratory$Space" (36 : Nat) ({ cls := "java/util/ArrayList", name := "size", desc := "()I" } : Jvm.MethodName)) ∈ lw_all := sorry
theorem q1178 : (Jvm.Cond.methodLink "KrylovLaboratory$Space" (40 : Nat) ({ cls := "java/util/ArrayList", name := "get", desc := "(I)Ljava/lang/Object;" } : Jvm.MethodName)) ∈ lw_all := sorry
theorem q1179 : (Jvm.Cond.classLink "KrylovLaboratory$Space" (44 : Nat) "KrylovLaboratory$Vector") ∈ lw_all := sorry
theorem q1180 : (Jvm.Cond.methodLink "KrylovLaboratory$Space" (76 : Nat) ({ cls := "KrylovLaboratory$Vector", name := "dot", desc := "(LKrylovLaboratory$Vector;)J" } : Jvm.MethodName)) ∈ lw_all := sorry
theorem q1181 : (Jvm.Cond.methodLink "KrylovLaboratory$Space" (80 : Nat) ({ cls := "java/lang/Math", name := "abs", desc := "(J)J" } : Jvm.MethodName)) ∈ lw_all := sorry
theorem q1184 : (Jvm.Cond.methodLink "KrylovLaboratory$Space" (86 : Nat) ({ cls := "java/lang/Math", name := "max", desc := "(JJ)J" } : Jvm.MethodName)) ∈ lw_all := sorry
theorem q1192 : (Jvm.Cond.instanceMethod ({ cls := "KrylovLaboratory$Space", name := "countBelow", desc := "(J)I" } : Jvm.MethodName)) ∈ lw_all := sorry
theorem q1193 : (Jvm.Cond.selects "KrylovLaboratory$Space" ({ cls := "KrylovLaboratory$Space", name := "countBelow", desc := "(J)I" } : Jvm.MethodName) ({ cls := "KrylovLaboratory$Space", name := "countBelow", desc := "(J)I" } : Jvm.MethodName)) ∈ lw_all := sorry
theorem q1194 : (Jvm.Cond.code ({ cls := "KrylovLaboratory$Space", name := "countBelow", desc := "(J)I" } : Jvm.MethodName) prog_10_method_7_code (7 : Nat) (Option.some Jvm.ClassFile.FieldType.int)) ∈ lw_all := sorry
theorem q1195 : (Jvm.Cond.methodLink "KrylovLaboratory$Space" (89 : Nat) ({ cls := "java/lang/Math", name := "floorDiv", desc := "(JJ)J" } : Jvm.MethodName)) ∈ lw_all := sorry
theorem q1196 : (Jvm.Cond.constantLong "KrylovLaboratory$Space" (92 : Nat) (-1 : Int64)) ∈ lw_all := sorry
theorem q1197 : (Jvm.Cond.methodLinkNest "KrylovLaboratory$Space" (94 : Nat) ({ cls := "KrylovLaboratory", name := "asInt", desc := "(Z)I" } : Jvm.MethodName) "KrylovLaboratory") ∈ lw_tbl := sorry
theorem q1206 : (Jvm.Cond.instanceMethod ({ cls := "KrylovLaboratory$Space", name := "value", desc := "(I)J" } : Jvm.MethodName)) ∈ lw_all := sorry
theorem q1207 : (Jvm.Cond.selects "KrylovLaboratory$Space" ({ cls := "KrylovLaboratory$Space", name := "value", desc := "(I)J" } : Jvm.MethodName) ({ cls := "KrylovLaboratory$Space", name := "value", desc := "(I)J" } : Jvm.MethodName)) ∈ lw_all := sorry
theorem q1208 : (Jvm.Cond.code ({ cls := "KrylovLaboratory$Space", name := "value", desc := "(I)J" } : Jvm.MethodName) prog_10_method_8_code (8 : Nat) (Option.some Jvm.ClassFile.FieldType.long)) ∈ lw_all := sorry
theorem q1209 : (Jvm.Cond.constantLong "KrylovLaboratory$Space" (98 : Nat) (-700000000 : Int64)) ∈ lw_all := sorry
theorem q1210 : (Jvm.Cond.constantLong "KrylovLaboratory$Space" (100 : Nat) (700000000 : Int64)) ∈ lw_all := sorry
theorem q1211 : (Jvm.Cond.constantLong "KrylovLaboratory$Space" (60 : Nat) (2 : Int64)) ∈ lw_all := sorry
theorem q1212 : (Jvm.Cond.methodLink "KrylovLaboratory$Space" (102 : Nat) ({ cls := "KrylovLaboratory$Space", name := "countBelow", desc := "(J)I" } : Jvm.MethodName)) ∈ lw_all := sorry
theorem q1273 : (Jvm.Cond.instanceMethod ({ cls := "KrylovLaboratory$Space", name := "<init>", desc := "(LKrylovLaboratory$Space;)V" } : Jvm.MethodName)) ∈ lw_all := sorry
theorem q1274 : (Jvm.Cond.code ({ cls := "KrylovLaboratory$Space", name := "<init>", desc := "(LKrylovLaboratory$Space;)V" } : Jvm.MethodName) prog_10_method_2_code (3 : Nat) (Option.none : Option Jvm.ClassFile.FieldType)) ∈ lw_all := sorry
theorem q1275 : (Jvm.Cond.methodLink "KrylovLaboratory$Space" (46 : Nat) ({ cls := "java/lang/System", name := "arraycopy", desc := "(Ljava/lang/Object;ILjava/lang/Object;II)V" } : Jvm.MethodName)) ∈ lw_all := sorry
theorem q1280 : (Jvm.Cond.instanceMethod ({ cls := "KrylovLaboratory$Space", name := "bound", desc := "(I)J" } : Jvm.MethodName)) ∈ lw_all := sorry
theorem q1281 : (Jvm.Cond.selects "KrylovLaboratory$Space" ({ cls := "KrylovLaboratory$Space", name := "bound", desc := "(I)J" } : Jvm.MethodName) ({ cls := "KrylovLaboratory$Space", name := "bound", desc := "(I)J" } : Jvm.MethodName)) ∈ lw_all := sorry
theorem q1282 : (Jvm.Cond.code ({ cls := "KrylovLaboratory$Space", name := "bound", desc := "(I)J" } : Jvm.MethodName) prog_10_method_11_code (3 : Nat) (Option.some Jvm.ClassFile.FieldType.long)) ∈ lw_all := sorry
theorem q1283 : (Jvm.Cond.methodLink "KrylovLaboratory$Space" (111 : Nat) ({ cls := "KrylovLaboratory$Space", name := "value", desc := "(I)J" } : Jvm.MethodName)) ∈ lw_all := sorry
theorem q1284 : (Jvm.Cond.methodLink "KrylovLaboratory$Space" (115 : Nat) ({ cls := "KrylovLaboratory$Space", name := "shares", desc := "(J)LKrylovLaboratory$Vector;" } : Jvm.MethodName)) ∈ lw_all := sorry
theorem q1285 : (Jvm.Cond.instanceMethod ({ cls := "KrylovLaboratory$Space", name := "shares", desc := "(J)LKrylovLaboratory$Vector;" } : Jvm.MethodName)) ∈ lw_all := sorry
theorem q1286 : (Jvm.Cond.selects "KrylovLaboratory$Space" ({ cls := "KrylovLaboratory$Space", name := "shares", desc := "(J)LKrylovLaboratory$Vector;" } : Jvm.MethodName) ({ cls := "KrylovLaboratory$Space", name := "shares", desc := "(J)LKrylovLaboratory$Vector;" } : Jvm.MethodName)) ∈ lw_all := sorry
theorem q1287 : (Jvm.Cond.code ({ cls := "KrylovLaboratory$Space", name := "shares", desc := "(J)LKrylovLaboratory$Vector;" } : Jvm.MethodName) prog_10_method_9_code (7 : Nat) (Option.some (Jvm.ClassFile.FieldType.object "KrylovLaboratory$Vector"))) ∈ lw_all := sorry
theorem q1288 : (Jvm.Cond.constantLong "KrylovLaboratory$Space" (106 : Nat) (100000000 : Int64)) ∈ lw_all := sorry
theorem q1289 : (Jvm.Cond.methodLinkNest "KrylovLaboratory$Space" (62 : Nat) ({ cls := "KrylovLaboratory", name := "bounded", desc := "(JJ)J" } : Jvm.MethodName) "KrylovLaboratory") ∈ lw_tbl := sorry
theorem q1296 : (Jvm.Cond.methodLink "KrylovLaboratory$Space" (108 : Nat) ({ cls := "KrylovLaboratory$Vector", name := "<init>", desc := "([J)V" } : Jvm.MethodName)) ∈ lw_all := lw_g (lw_at lw_m5 207 rfl) rfl
theorem q1297 : (Jvm.Cond.methodLink "KrylovLaboratory$Space" (123 : Nat) ({ cls := "KrylovLaboratory$Vector", name := "norm", desc := "()J" } : Jvm.MethodName)) ∈ lw_all := sorry
theorem q1333 : (Jvm.Cond.privateMethod ({ cls := "KrylovLaboratory$Space", name := "ends", desc := "(LKrylovLaboratory$Vector;J)V" } : Jvm.MethodName)) ∈ lw_tbl := sorry
theorem q1334 : (Jvm.Cond.instanceMethod ({ cls := "KrylovLaboratory$Space", name := "ends", desc := "(LKrylovLaboratory$Vector;J)V" } : Jvm.MethodName)) ∈ lw_all := sorry
theorem q1335 : (Jvm.Cond.code ({ cls := "KrylovLaboratory$Space", name := "ends", desc := "(LKrylovLaboratory$Vector;J)V" } : Jvm.MethodName) prog_10_method_5_code (4 : Nat) (Option.none : Option Jvm.ClassFile.FieldType)) ∈ lw_all := sorry
theorem q1336 : (Jvm.Cond.constantLong "KrylovLaboratory$Space" (70 : Nat) (1000 : Int64)) ∈ lw_all := sorry
theorem q1337 : (Jvm.Cond.methodLink "KrylovLaboratory$Space" (72 : Nat) ({ cls := "KrylovLaboratory$Vector", name := "unit", desc := "()LKrylovLaboratory$Vector;" } : Jvm.MethodName)) ∈ lw_all := sorry
theorem q1339 : (Jvm.Cond.privateMethod ({ cls := "KrylovLaboratory$Space", name := "estimates", desc := "(J)V" } : Jvm.MethodName)) ∈ lw_tbl := sorry
theorem q1340 : (Jvm.Cond.instanceMethod ({ cls := "KrylovLaboratory$Space", name := "estimates", desc := "(J)V" } : Jvm.MethodName)) ∈ lw_all := sorry
theorem q1341 : (Jvm.Cond.code ({ cls := "KrylovLaboratory$Space", name := "estimates", desc := "(J)V" } : Jvm.MethodName) prog_10_method_4_code (4 : Nat) (Option.none : Option Jvm.ClassFile.FieldType)) ∈ lw_all := sorry
theorem q1342 : (Jvm.Cond.methodLink "KrylovLaboratory$Space" (66 : Nat) ({ cls := "KrylovLaboratory$Space", name := "estimate", desc := "(IJ)J" } : Jvm.MethodName)) ∈ lw_all := sorry
theorem q1343 : (Jvm.Cond.privateMethod ({ cls := "KrylovLaboratory$Space", name := "estimate", desc := "(IJ)J" } : Jvm.MethodName)) ∈ lw_tbl := sorry
theorem q1344 : (Jvm.Cond.instanceMethod ({ cls := "KrylovLaboratory$Space", name := "estimate", desc := "(IJ)J" } : Jvm.MethodName)) ∈ lw_all := sorry
theorem q1345 : (Jvm.Cond.code ({ cls := "KrylovLaboratory$Space", name := "estimate", desc := "(IJ)J" } : Jvm.MethodName) prog_10_method_3_code (7 : Nat) (Option.some Jvm.ClassFile.FieldType.long)) ∈ lw_all := sorry
theorem q1933 : (Jvm.Cond.instanceMethod ({ cls := "KrylovLaboratory$Space", name := "ritz", desc := "(I)LKrylovLaboratory$Vector;" } : Jvm.MethodName)) ∈ lw_all := sorry
theorem q1934 : (Jvm.Cond.selects "KrylovLaboratory$Space" ({ cls := "KrylovLaboratory$Space", name := "ritz", desc := "(I)LKrylovLaboratory$Vector;" } : Jvm.MethodName) ({ cls := "KrylovLaboratory$Space", name := "ritz", desc := "(I)LKrylovLaboratory$Vector;" } : Jvm.MethodName)) ∈ lw_all := sorry
theorem q1935 : (Jvm.Cond.code ({ cls := "KrylovLaboratory$Space", name := "ritz", desc := "(I)LKrylovLaboratory$Vector;" } : Jvm.MethodName) prog_10_method_10_code (8 : Nat) (Option.some (Jvm.ClassFile.FieldType.object "KrylovLaboratory$Vector"))) ∈ lw_all := sorry
theorem q1936 : (Jvm.Cond.methodLink "KrylovLaboratory$Space" (119 : Nat) ({ cls := "KrylovLaboratory$Vector", name := "size", desc := "()I" } : Jvm.MethodName)) ∈ lw_all := sorry
theorem q2419 : (Jvm.Cond.selects "KrylovLaboratory$Space" ({ cls := "java/lang/Object", name := "equals", desc := "(Ljava/lang/Object;)Z" } : Jvm.MethodName) ({ cls := "java/lang/Object", name := "equals", desc := "(Ljava/lang/Object;)Z" } : Jvm.MethodName)) ∈ lw_all := sorry
theorem q3241 : (Jvm.Cond.castable "KrylovLaboratory$Space" "java/lang/Object") ∈ lw_tbl := sorry
theorem in_X5 : ∀ w ∈ wsX50, w ∈ lw_all := sorry
